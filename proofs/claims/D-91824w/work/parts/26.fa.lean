/-! LAYER 2: facts of fields and calls. Printed by gen/jmain.py -/
set_option maxRecDepth 100000
theorem sc_X0_70 : ga_SC RX0 70 (ga_mt 0) 3 := ga_SC_S (y := ga_mt 0) 3 q323 q324 q91 q325 (by decide +kernel)
theorem fl_X0_19_0 : ga_FLs RX0 19 0 [0] := ⟨⟨RX0, TX0, 17, "LoanNames", rfl, by decide, in_X0, Or.inl q266, Or.inl rfl⟩, trivial⟩
theorem fl_X0_74_0 : ga_FLs RX0 74 9 [0] := ⟨⟨RX0, TX0, 17, "LoanNames", rfl, by decide, in_X0, Or.inl q276, Or.inl rfl⟩, trivial⟩
theorem fl_X0_44_0 : ga_FLs RX0 44 5 [0] := ⟨⟨RX0, TX0, 17, "LoanNames", rfl, by decide, in_X0, Or.inl q272, Or.inl rfl⟩, trivial⟩
theorem fw_X0_74_0 : ga_FWs RX0 74 9 .int false [0] := ⟨⟨RX0, TX0, 17, "LoanNames", tyX0, rfl, by decide, in_X0, tyX0_ok, nmX0, q276, Or.inl rfl, rfl, rfl, fun h => by cases h⟩, trivial⟩
theorem fl_X0_77_0 : ga_FLs RX0 77 10 [0] := ⟨⟨RX0, TX0, 17, "LoanNames", rfl, by decide, in_X0, Or.inl q277, Or.inl rfl⟩, trivial⟩
theorem nw_X0_80 : ga_NW RX0 80 7 tyX7 := ⟨RX7, TX7, 11, rfl, in_X7, tyX7_ok, q334, q335, q98⟩
theorem ic_X0_82_7 : ga_ICs RX0 82 2 (ga_mt 130) [7] := ⟨ga_IC_I 2 q336 q337 q98 q338 rfl (by decide +kernel), trivial⟩
theorem vc_X0_85_7 : ga_VCs RX0 85 0 ga_mt [(7, 124)] := ⟨⟨ga_VC_V (y := ga_mt 124) 0 q407 q408 q409 q98 q410 (by decide +kernel), by decide⟩, trivial⟩
theorem vc_X0_89_7 : ga_VCs RX0 89 0 ga_mt [(7, 122)] := ⟨⟨ga_VC_U (y := ga_mt 122) (owner := "LoanNames$Reader") (x := ⟨"LoanNames$DealReader", "place", "()I"⟩) 0 q687 q688 q690 q691 q97 q692 rfl (by decide +kernel), by decide⟩, trivial⟩
theorem fw_X0_63_0 : ga_FWs RX0 63 15 .int false [0] := ⟨⟨RX0, TX0, 17, "LoanNames", tyX0, rfl, by decide, in_X0, tyX0_ok, nmX0, q282, Or.inl rfl, rfl, rfl, fun h => by cases h⟩, trivial⟩
theorem nw_X0_23 : ga_NW RX0 23 19 tyX19 := ⟨RX19, TX19, 6, rfl, in_X19, tyX19_ok, q125, q693, q111⟩
theorem ic_X0_98_19 : ga_ICs RX0 98 5 (ga_mt 112) [19] := ⟨ga_IC_I 5 q694 q695 q111 q696 rfl (by decide +kernel), trivial⟩
theorem fl_X0_92_7 : ga_FLs RX0 92 8 [7] := ⟨⟨RX7, TX7, 11, "LoanNames$DealReader", rfl, by decide, in_X7, Or.inl q361, Or.inl rfl⟩, trivial⟩
theorem fl_X0_95_7 : ga_FLs RX0 95 9 [7] := ⟨⟨RX7, TX7, 11, "LoanNames$DealReader", rfl, by decide, in_X7, Or.inl q363, Or.inl rfl⟩, trivial⟩
theorem fl_X0_25_0 : ga_FLs RX0 25 1 [0] := ⟨⟨RX0, TX0, 17, "LoanNames", rfl, by decide, in_X0, Or.inl q268, Or.inl rfl⟩, trivial⟩
theorem as_Deal_19 : ga_Ass "LoanNames$Deal" [19] := ⟨⟨_, rfl, Or.inl rfl⟩, trivial⟩
theorem fw_X0_77_0 : ga_FWs RX0 77 10 .int false [0] := ⟨⟨RX0, TX0, 17, "LoanNames", tyX0, rfl, by decide, in_X0, tyX0_ok, nmX0, q277, Or.inl rfl, rfl, rfl, fun h => by cases h⟩, trivial⟩
theorem nw_X0_101 : ga_NW RX0 101 20 tyX20 := ⟨RX20, TX20, 8, rfl, in_X20, tyX20_ok, q766, q767, q112⟩
theorem ic_X0_103_20 : ga_ICs RX0 103 2 (ga_mt 138) [20] := ⟨ga_IC_I 2 q768 q769 q112 q770 rfl (by decide +kernel), trivial⟩
theorem vc_X0_104_20 : ga_VCs RX0 104 2 ga_mt [(20, 136)] := ⟨⟨ga_VC_V (y := ga_mt 136) 2 q786 q787 q788 q112 q789 (by decide +kernel), by decide⟩, trivial⟩
theorem vc_X0_107_20 : ga_VCs RX0 107 0 ga_mt [(20, 122)] := ⟨⟨ga_VC_U (y := ga_mt 122) (owner := "LoanNames$Reader") (x := ⟨"LoanNames$LawReader", "place", "()I"⟩) 0 q861 q862 q863 q691 q97 q692 rfl (by decide +kernel), by decide⟩, trivial⟩
theorem fl_X0_108_20 : ga_FLs RX0 108 7 [20] := ⟨⟨RX20, TX20, 8, "LoanNames$LawReader", rfl, by decide, in_X20, Or.inl q775, Or.inl rfl⟩, trivial⟩
theorem fl_X0_109_0 : ga_FLs RX0 109 11 [0] := ⟨⟨RX0, TX0, 17, "LoanNames", rfl, by decide, in_X0, Or.inl q278, Or.inl rfl⟩, trivial⟩
theorem vc_X0_112_0 : ga_VCs RX0 112 3 ga_mt [(0, 6)] := ⟨⟨ga_VC_V (y := ga_mt 6) 3 q762 q764 qs8 q91 q765 (by decide +kernel), by decide⟩, trivial⟩
theorem fw_X0_49_0 : ga_FWs RX0 49 6 (.object "LoanNames$Law") false [0] := ⟨⟨RX0, TX0, 17, "LoanNames", tyX0, rfl, by decide, in_X0, tyX0_ok, nmX0, q273, Or.inl rfl, rfl, rfl, fun h => by cases h⟩, trivial⟩
theorem fw_X0_109_0 : ga_FWs RX0 109 11 .int false [0] := ⟨⟨RX0, TX0, 17, "LoanNames", tyX0, rfl, by decide, in_X0, tyX0_ok, nmX0, q278, Or.inl rfl, rfl, rfl, fun h => by cases h⟩, trivial⟩
theorem fl_X0_115_0 : ga_FLs RX0 115 12 [0] := ⟨⟨RX0, TX0, 17, "LoanNames", rfl, by decide, in_X0, Or.inl q279, Or.inl rfl⟩, trivial⟩
theorem fl_X0_31_0 : ga_FLs RX0 31 2 [0] := ⟨⟨RX0, TX0, 17, "LoanNames", rfl, by decide, in_X0, Or.inl q269, Or.inl rfl⟩, trivial⟩
theorem as_Law_1 : ga_Ass "LoanNames$Law" [1] := ⟨⟨_, rfl, Or.inl rfl⟩, trivial⟩
theorem fw_X0_115_0 : ga_FWs RX0 115 12 .int false [0] := ⟨⟨RX0, TX0, 17, "LoanNames", tyX0, rfl, by decide, in_X0, tyX0_ok, nmX0, q279, Or.inl rfl, rfl, rfl, fun h => by cases h⟩, trivial⟩
theorem fl_X0_63_0 : ga_FLs RX0 63 15 [0] := ⟨⟨RX0, TX0, 17, "LoanNames", rfl, by decide, in_X0, Or.inl q282, Or.inl rfl⟩, trivial⟩
theorem fl_X0_118_19 : ga_FLs RX0 118 5 [19] := ⟨⟨RX19, TX19, 6, "LoanNames$Deal", rfl, by decide, in_X19, Or.inl q744, Or.inl rfl⟩, trivial⟩
theorem fl_X0_122_3 : ga_FLs RX0 122 2 [3] := ⟨⟨RX3, TX3, 3, "LoanNames$LeafRow", rfl, by decide, in_X3, Or.inl q177, Or.inl rfl⟩, trivial⟩
theorem fl_X0_127_3 : ga_FLs RX0 127 0 [3] := ⟨⟨RX3, TX3, 3, "LoanNames$LeafRow", rfl, by decide, in_X3, Or.inl q170, Or.inl rfl⟩, trivial⟩
theorem fl_X0_131_11_12_13 : ga_FLs RX0 131 0 [11, 12, 13] := ⟨⟨RX11, TX11, 7, "LoanNames$Leaf", rfl, by decide, in_X11, Or.inl q522, Or.inl rfl⟩, ⟨RX12, TX12, 7, "LoanNames$Leaf", rfl, by decide, in_X12, Or.inl q522, Or.inl rfl⟩, ⟨RX13, TX13, 6, "LoanNames$Leaf", rfl, by decide, in_X13, Or.inl q522, Or.inl rfl⟩, trivial⟩
theorem fl_X0_136_11_12_13 : ga_FLs RX0 136 1 [11, 12, 13] := ⟨⟨RX11, TX11, 7, "LoanNames$Leaf", rfl, by decide, in_X11, Or.inl q529, Or.inl rfl⟩, ⟨RX12, TX12, 7, "LoanNames$Leaf", rfl, by decide, in_X12, Or.inl q529, Or.inl rfl⟩, ⟨RX13, TX13, 6, "LoanNames$Leaf", rfl, by decide, in_X13, Or.inl q529, Or.inl rfl⟩, trivial⟩
theorem vc_X0_139_0 : ga_VCs RX0 139 1 ga_mt [(0, 10)] := ⟨⟨ga_VC_V (y := ga_mt 10) 1 q876 q878 qs10 q91 q879 (by decide +kernel), by decide⟩, trivial⟩
theorem fl_X0_143_19 : ga_FLs RX0 143 2 [19] := ⟨⟨RX19, TX19, 6, "LoanNames$Deal", rfl, by decide, in_X19, Or.inl q735, Or.inl rfl⟩, trivial⟩
theorem fl_X0_144_19 : ga_FLs RX0 144 3 [19] := ⟨⟨RX19, TX19, 6, "LoanNames$Deal", rfl, by decide, in_X19, Or.inl q738, Or.inl rfl⟩, trivial⟩
theorem fl_X0_145_19 : ga_FLs RX0 145 1 [19] := ⟨⟨RX19, TX19, 6, "LoanNames$Deal", rfl, by decide, in_X19, Or.inl q732, Or.inl rfl⟩, trivial⟩
theorem vc_X0_148_0 : ga_VCs RX0 148 1 ga_mt [(0, 11)] := ⟨⟨ga_VC_V (y := ga_mt 11) 1 q880 q882 qs11 q91 q883 (by decide +kernel), by decide⟩, trivial⟩
theorem vc_X0_152_19 : ga_VCs RX0 152 0 ga_mt [(19, 111)] := ⟨⟨ga_VC_V (y := ga_mt 111) 0 q884 q885 q886 q111 q887 (by decide +kernel), by decide⟩, trivial⟩
theorem vc_X0_155_11_12_13 : ga_VCs RX0 155 0 ga_mt [(11, 76), (12, 81), (13, 74)] := ⟨⟨ga_VC_A (y := ga_mt 76) (owner := "LoanNames$Leaf") (x := ⟨"LoanNames$Leaf", "form", "()I"⟩) 0 q892 q894 q901 q902 q102 q903 (List.mem_filter.mpr ⟨q893, rfl⟩) (by decide +kernel), by decide⟩, ⟨ga_VC_A (y := ga_mt 81) (owner := "LoanNames$Leaf") (x := ⟨"LoanNames$Leaf", "form", "()I"⟩) 0 q892 q894 q895 q896 q103 q897 (List.mem_filter.mpr ⟨q893, rfl⟩) (by decide +kernel), by decide⟩, ⟨ga_VC_A (y := ga_mt 74) (owner := "LoanNames$Leaf") (x := ⟨"LoanNames$Leaf", "form", "()I"⟩) 0 q892 q894 q898 q899 q104 q900 (List.mem_filter.mpr ⟨q893, rfl⟩) (by decide +kernel), by decide⟩, trivial⟩
theorem fl_X0_158_11_12_13 : ga_FLs RX0 158 2 [11, 12, 13] := ⟨⟨RX11, TX11, 7, "LoanNames$Leaf", rfl, by decide, in_X11, Or.inl q535, Or.inl rfl⟩, ⟨RX12, TX12, 7, "LoanNames$Leaf", rfl, by decide, in_X12, Or.inl q535, Or.inl rfl⟩, ⟨RX13, TX13, 6, "LoanNames$Leaf", rfl, by decide, in_X13, Or.inl q535, Or.inl rfl⟩, trivial⟩
theorem fl_X0_161_11_12_13 : ga_FLs RX0 161 3 [11, 12, 13] := ⟨⟨RX11, TX11, 7, "LoanNames$Leaf", rfl, by decide, in_X11, Or.inl q539, Or.inl rfl⟩, ⟨RX12, TX12, 7, "LoanNames$Leaf", rfl, by decide, in_X12, Or.inl q539, Or.inl rfl⟩, ⟨RX13, TX13, 6, "LoanNames$Leaf", rfl, by decide, in_X13, Or.inl q539, Or.inl rfl⟩, trivial⟩
theorem vc_X0_164_11_12_13 : ga_VCs RX0 164 0 ga_mt [(11, 77), (12, 77), (13, 66)] := ⟨⟨ga_VC_O (y := ga_mt 77) (owner := "LoanNames$Leaf") (x := ⟨"LoanNames$Leaf", "forCoin", "()I"⟩) 0 q904 q906 q905 q911 q908 q102 q909 q912 (by decide +kernel), by decide⟩, ⟨ga_VC_O (y := ga_mt 77) (owner := "LoanNames$Leaf") (x := ⟨"LoanNames$Leaf", "forCoin", "()I"⟩) 0 q904 q906 q905 q907 q908 q102 q909 q912 (by decide +kernel), by decide⟩, ⟨ga_VC_U (y := ga_mt 66) (owner := "LoanNames$Leaf") (x := ⟨"LoanNames$Leaf", "forCoin", "()I"⟩) 0 q904 q906 q910 q905 q101 q912 rfl (by decide +kernel), by decide⟩, trivial⟩
theorem vc_X0_167_3 : ga_VCs RX0 167 1 ga_mt [(3, 62)] := ⟨⟨ga_VC_V (y := ga_mt 62) 1 q913 q914 q915 q94 q916 (by decide +kernel), by decide⟩, trivial⟩
theorem vc_X0_171_11_12_13 : ga_VCs RX0 171 0 ga_mt [(11, 78), (12, 78), (13, 67)] := ⟨⟨ga_VC_O (y := ga_mt 78) (owner := "LoanNames$Leaf") (x := ⟨"LoanNames$Leaf", "until", "()I"⟩) 0 q917 q919 q918 q924 q921 q102 q922 q925 (by decide +kernel), by decide⟩, ⟨ga_VC_O (y := ga_mt 78) (owner := "LoanNames$Leaf") (x := ⟨"LoanNames$Leaf", "until", "()I"⟩) 0 q917 q919 q918 q920 q921 q102 q922 q925 (by decide +kernel), by decide⟩, ⟨ga_VC_U (y := ga_mt 67) (owner := "LoanNames$Leaf") (x := ⟨"LoanNames$Leaf", "until", "()I"⟩) 0 q917 q919 q923 q918 q101 q925 rfl (by decide +kernel), by decide⟩, trivial⟩
theorem fl_X0_174_3 : ga_FLs RX0 174 1 [3] := ⟨⟨RX3, TX3, 3, "LoanNames$LeafRow", rfl, by decide, in_X3, Or.inl q173, Or.inl rfl⟩, trivial⟩
theorem nw_X0_177 : ga_NW RX0 177 22 tyX22 := ⟨RX22, TX22, 1, rfl, in_X22, tyX22_ok, q930, q931, q114⟩
theorem ic_X0_179_22 : ga_ICs RX0 179 0 (ga_mt 60) [22] := ⟨ga_IC_N 0 (List.mem_filter.mpr ⟨q932, rfl⟩) q933 q114 q934 rfl (by decide +kernel), trivial⟩
theorem vc_X0_184_8 : ga_VCs RX0 184 1 ga_mt [(8, 58)] := ⟨⟨ga_VC_V (y := ga_mt 58) 1 q943 q944 q945 q99 q946 (by decide +kernel), by decide⟩, trivial⟩
theorem fl_X0_180_19 : ga_FLs RX0 180 4 [19] := ⟨⟨RX19, TX19, 6, "LoanNames$Deal", rfl, by decide, in_X19, Or.inl q741, Or.inl rfl⟩, trivial⟩
theorem nw_X0_123 : ga_NW RX0 123 3 tyX3 := ⟨RX3, TX3, 3, rfl, in_X3, tyX3_ok, q1079, q159, q94⟩
theorem ic_X0_190_3 : ga_ICs RX0 190 0 (ga_mt 63) [3] := ⟨ga_IC_N 0 (List.mem_filter.mpr ⟨q1080, rfl⟩) q161 q94 q162 rfl (by decide +kernel), trivial⟩
theorem vc_X0_191_8 : ga_VCs RX0 191 2 ga_mt [(8, 55)] := ⟨⟨ga_VC_V (y := ga_mt 55) 2 q1081 q701 q702 q99 q703 (by decide +kernel), by decide⟩, trivial⟩
theorem fl_X0_194_22 : ga_FLs RX0 194 0 [22] := ⟨⟨RX22, TX22, 1, "LoanNames$Plain", rfl, by decide, in_X22, Or.inl q939, Or.inl rfl⟩, trivial⟩
theorem fl_X0_197_4 : ga_FLs RX0 197 5 [4] := ⟨⟨RX4, TX4, 6, "LoanNames$Sink", rfl, by decide, in_X4, Or.inl q208, Or.inl rfl⟩, trivial⟩
theorem sc_X0_200 : ga_SC RX0 200 (ga_mt 16) 4 := ga_SC_S (y := ga_mt 16) 4 q1143 q1144 q91 q1145 (by decide +kernel)
theorem fl_X0_204_4 : ga_FLs RX0 204 4 [4] := ⟨⟨RX4, TX4, 6, "LoanNames$Sink", rfl, by decide, in_X4, Or.inl q205, Or.inl rfl⟩, trivial⟩
theorem fl_X0_207_4 : ga_FLs RX0 207 0 [4] := ⟨⟨RX4, TX4, 6, "LoanNames$Sink", rfl, by decide, in_X4, Or.inl q193, Or.inl rfl⟩, trivial⟩
theorem fl_X0_210_4 : ga_FLs RX0 210 1 [4] := ⟨⟨RX4, TX4, 6, "LoanNames$Sink", rfl, by decide, in_X4, Or.inl q196, Or.inl rfl⟩, trivial⟩
theorem fl_X0_213_4 : ga_FLs RX0 213 2 [4] := ⟨⟨RX4, TX4, 6, "LoanNames$Sink", rfl, by decide, in_X4, Or.inl q199, Or.inl rfl⟩, trivial⟩
theorem fl_X0_216_4 : ga_FLs RX0 216 3 [4] := ⟨⟨RX4, TX4, 6, "LoanNames$Sink", rfl, by decide, in_X4, Or.inl q202, Or.inl rfl⟩, trivial⟩
theorem nw_X0_198 : ga_NW RX0 198 4 tyX4 := ⟨RX4, TX4, 6, rfl, in_X4, tyX4_ok, q1086, q186, q95⟩
theorem ic_X0_218_4 : ga_ICs RX0 218 0 (ga_mt 51) [4] := ⟨ga_IC_N 0 (List.mem_filter.mpr ⟨q1087, rfl⟩) q188 q95 q189 rfl (by decide +kernel), trivial⟩
theorem sc_X0_219 : ga_SC RX0 219 (ga_mt 270) 2 := ga_SC_S (y := ga_mt 270) 2 q1088 q1089 q115 q1090 (by decide +kernel)
theorem fw_X0_197_4 : ga_FWs RX0 197 5 .int false [4] := ⟨⟨RX4, TX4, 6, "LoanNames$Sink", tyX4, rfl, by decide, in_X4, tyX4_ok, nmX4, q208, Or.inl rfl, rfl, rfl, fun h => by cases h⟩, trivial⟩
theorem vc_X0_225_8 : ga_VCs RX0 225 4 ga_mt [(8, 54)] := ⟨⟨ga_VC_V (y := ga_mt 54) 4 q1091 q1092 q1093 q99 q1094 (by decide +kernel), by decide⟩, trivial⟩
theorem sc_X0_229 : ga_SC RX0 229 (ga_mt 15) 2 := ga_SC_S (y := ga_mt 15) 2 q1140 q1141 q91 q1142 (by decide +kernel)
theorem fl_X0_56_0 : ga_FLs RX0 56 7 [0] := ⟨⟨RX0, TX0, 17, "LoanNames", rfl, by decide, in_X0, Or.inl q274, Or.inl rfl⟩, trivial⟩
theorem fl_X0_233_2 : ga_FLs RX0 233 7 [2] := ⟨⟨RX2, TX2, 12, "LoanNames$Bundle", rfl, by decide, in_X2, Or.inl q234, Or.inl rfl⟩, trivial⟩
theorem vc_X0_234_2 : ga_VCs RX0 234 1 ga_mt [(2, 139)] := ⟨⟨ga_VC_V (y := ga_mt 139) 1 q1150 q1151 q1152 q93 q1153 (by decide +kernel), by decide⟩, trivial⟩
theorem vc_X0_238_2 : ga_VCs RX0 238 1 ga_mt [(2, 140)] := ⟨⟨ga_VC_V (y := ga_mt 140) 1 q1154 q1155 q1156 q93 q1157 (by decide +kernel), by decide⟩, trivial⟩
theorem vc_X0_242_2 : ga_VCs RX0 242 0 ga_mt [(2, 141)] := ⟨⟨ga_VC_V (y := ga_mt 141) 0 q1163 q1164 q1165 q93 q1166 (by decide +kernel), by decide⟩, trivial⟩
theorem vc_X0_245_2 : ga_VCs RX0 245 1 ga_mt [(2, 144)] := ⟨⟨ga_VC_V (y := ga_mt 144) 1 q1171 q1172 q1173 q93 q1174 (by decide +kernel), by decide⟩, trivial⟩
theorem vc_X0_251_2 : ga_VCs RX0 251 1 ga_mt [(2, 147)] := ⟨⟨ga_VC_V (y := ga_mt 147) 1 q1176 q1177 q1178 q93 q1179 (by decide +kernel), by decide⟩, trivial⟩
theorem sc_X0_254 : ga_SC RX0 254 (ga_mt 21) 1 := ga_SC_S (y := ga_mt 21) 1 q1185 q1186 q91 q1187 (by decide +kernel)
theorem vc_X0_257_2 : ga_VCs RX0 257 4 ga_mt [(2, 148)] := ⟨⟨ga_VC_V (y := ga_mt 148) 4 q1188 q1189 q1190 q93 q1191 (by decide +kernel), by decide⟩, trivial⟩
theorem vc_X0_263_2 : ga_VCs RX0 263 0 ga_mt [(2, 143)] := ⟨⟨ga_VC_V (y := ga_mt 143) 0 q1198 q1199 q1200 q93 q1201 (by decide +kernel), by decide⟩, trivial⟩
theorem vc_X0_267_2 : ga_VCs RX0 267 0 ga_mt [(2, 146)] := ⟨⟨ga_VC_V (y := ga_mt 146) 0 q1208 q1209 q1210 q93 q1211 (by decide +kernel), by decide⟩, trivial⟩
theorem vc_X0_270_0 : ga_VCs RX0 270 2 ga_mt [(0, 24)] := ⟨⟨ga_VC_V (y := ga_mt 24) 2 q1216 q1218 qs12 q91 q1219 (by decide +kernel), by decide⟩, trivial⟩
theorem vc_X0_273_2 : ga_VCs RX0 273 2 ga_mt [(2, 157)] := ⟨⟨ga_VC_V (y := ga_mt 157) 2 q1220 q1221 q1222 q93 q1223 (by decide +kernel), by decide⟩, trivial⟩
theorem fl_X0_276_2 : ga_FLs RX0 276 8 [2] := ⟨⟨RX2, TX2, 12, "LoanNames$Bundle", rfl, by decide, in_X2, Or.inl q236, Or.inl rfl⟩, trivial⟩
theorem vc_X0_277_2 : ga_VCs RX0 277 1 ga_mt [(2, 145)] := ⟨⟨ga_VC_V (y := ga_mt 145) 1 q1260 q1225 q1226 q93 q1227 (by decide +kernel), by decide⟩, trivial⟩
theorem vc_X0_280_2 : ga_VCs RX0 280 1 ga_mt [(2, 150)] := ⟨⟨ga_VC_V (y := ga_mt 150) 1 q1261 q1229 q1230 q93 q1231 (by decide +kernel), by decide⟩, trivial⟩
theorem vc_X0_284_2 : ga_VCs RX0 284 2 ga_mt [(2, 155)] := ⟨⟨ga_VC_V (y := ga_mt 155) 2 q1262 q1241 q1242 q93 q1243 (by decide +kernel), by decide⟩, trivial⟩
theorem vc_X0_287_2 : ga_VCs RX0 287 2 ga_mt [(2, 152)] := ⟨⟨ga_VC_V (y := ga_mt 152) 2 q1263 q1249 q1250 q93 q1251 (by decide +kernel), by decide⟩, trivial⟩
theorem vc_X0_291_2 : ga_VCs RX0 291 1 ga_mt [(2, 156)] := ⟨⟨ga_VC_V (y := ga_mt 156) 1 q1264 q1265 q1266 q93 q1267 (by decide +kernel), by decide⟩, trivial⟩
theorem sc_X0_295 : ga_SC RX0 295 (ga_mt 26) 4 := ga_SC_S (y := ga_mt 26) 4 q1268 q1269 q91 q1270 (by decide +kernel)
theorem sc_X0_299 : ga_SC RX0 299 (ga_mt 27) 2 := ga_SC_S (y := ga_mt 27) 2 q1271 q1272 q91 q1273 (by decide +kernel)
theorem vc_X0_303_2 : ga_VCs RX0 303 0 ga_mt [(2, 158)] := ⟨⟨ga_VC_V (y := ga_mt 158) 0 q1278 q1279 q1280 q93 q1281 (by decide +kernel), by decide⟩, trivial⟩
theorem fl_X0_49_0 : ga_FLs RX0 49 6 [0] := ⟨⟨RX0, TX0, 17, "LoanNames", rfl, by decide, in_X0, Or.inl q273, Or.inl rfl⟩, trivial⟩
theorem fl_X0_306_1 : ga_FLs RX0 306 1 [1] := ⟨⟨RX1, TX1, 2, "LoanNames$Law", rfl, by decide, in_X1, Or.inl q144, Or.inl rfl⟩, trivial⟩
theorem fl_X0_307_1 : ga_FLs RX0 307 0 [1] := ⟨⟨RX1, TX1, 2, "LoanNames$Law", rfl, by decide, in_X1, Or.inl q141, Or.inl rfl⟩, trivial⟩
theorem vc_X0_311_2 : ga_VCs RX0 311 1 ga_mt [(2, 159)] := ⟨⟨ga_VC_V (y := ga_mt 159) 1 q1299 q1300 q1301 q93 q1302 (by decide +kernel), by decide⟩, trivial⟩
theorem fl_X0_315_21 : ga_FLs RX0 315 2 [21] := ⟨⟨RX21, TX21, 8, "LoanNames$Rule", rfl, by decide, in_X21, Or.inl q838, Or.inl rfl⟩, trivial⟩
theorem vc_X0_320_2 : ga_VCs RX0 320 1 ga_mt [(2, 160)] := ⟨⟨ga_VC_V (y := ga_mt 160) 1 q1325 q1304 q1305 q93 q1306 (by decide +kernel), by decide⟩, trivial⟩
theorem vc_X0_324_2 : ga_VCs RX0 324 2 ga_mt [(2, 161)] := ⟨⟨ga_VC_V (y := ga_mt 161) 2 q1326 q1316 q1317 q93 q1318 (by decide +kernel), by decide⟩, trivial⟩
theorem vc_X0_328_2 : ga_VCs RX0 328 1 ga_mt [(2, 162)] := ⟨⟨ga_VC_V (y := ga_mt 162) 1 q1331 q1332 q1333 q93 q1334 (by decide +kernel), by decide⟩, trivial⟩
theorem fl_X0_331_0 : ga_FLs RX0 331 14 [0] := ⟨⟨RX0, TX0, 17, "LoanNames", rfl, by decide, in_X0, Or.inl q281, Or.inl rfl⟩, trivial⟩
theorem fl_X0_41_0 : ga_FLs RX0 41 4 [0] := ⟨⟨RX0, TX0, 17, "LoanNames", rfl, by decide, in_X0, Or.inl q271, Or.inl rfl⟩, trivial⟩
theorem fw_X0_331_0 : ga_FWs RX0 331 14 .int false [0] := ⟨⟨RX0, TX0, 17, "LoanNames", tyX0, rfl, by decide, in_X0, tyX0_ok, nmX0, q281, Or.inl rfl, rfl, rfl, fun h => by cases h⟩, trivial⟩
theorem fl_X0_60_0 : ga_FLs RX0 60 8 [0] := ⟨⟨RX0, TX0, 17, "LoanNames", rfl, by decide, in_X0, Or.inl q275, Or.inl rfl⟩, trivial⟩
theorem sc_X0_334 : ga_SC RX0 334 (ga_mt 1) 2 := ga_SC_S (y := ga_mt 1) 2 q1349 q1112 q91 q1113 (by decide +kernel)
theorem sc_X0_337 : ga_SC RX0 337 (ga_mt 272) 1 := ga_SC_S (y := ga_mt 272) 1 q1344 q1203 q116 q1204 (by decide +kernel)
theorem vc_X0_342_0 : ga_VCs RX0 342 1 ga_mt [(0, 36)] := ⟨⟨ga_VC_V (y := ga_mt 36) 1 q1345 q1347 qs17 q91 q1348 (by decide +kernel), by decide⟩, trivial⟩
theorem fl_X0_345_0 : ga_FLs RX0 345 13 [0] := ⟨⟨RX0, TX0, 17, "LoanNames", rfl, by decide, in_X0, Or.inl q280, Or.inl rfl⟩, trivial⟩
theorem nw_X0_35 : ga_NW RX0 35 2 tyX2 := ⟨RX2, TX2, 12, rfl, in_X2, tyX2_ok, q129, q152, q93⟩
theorem ic_X0_53_2 : ga_ICs RX0 53 1 (ga_mt 163) [2] := ⟨ga_IC_N 1 (List.mem_filter.mpr ⟨q153, rfl⟩) q154 q93 q155 rfl (by decide +kernel), trivial⟩
theorem fl_X0_37_0 : ga_FLs RX0 37 3 [0] := ⟨⟨RX0, TX0, 17, "LoanNames", rfl, by decide, in_X0, Or.inl q270, Or.inl rfl⟩, trivial⟩
theorem as_Bundle_2 : ga_Ass "LoanNames$Bundle" [2] := ⟨⟨_, rfl, Or.inl rfl⟩, trivial⟩
theorem vc_X0_348_2 : ga_VCs RX0 348 1 ga_mt [(2, 142)] := ⟨⟨ga_VC_V (y := ga_mt 142) 1 q1354 q1355 q1356 q93 q1357 (by decide +kernel), by decide⟩, trivial⟩
theorem fw_X0_345_0 : ga_FWs RX0 345 13 .int false [0] := ⟨⟨RX0, TX0, 17, "LoanNames", tyX0, rfl, by decide, in_X0, tyX0_ok, nmX0, q280, Or.inl rfl, rfl, rfl, fun h => by cases h⟩, trivial⟩
theorem fl_X0_352_2 : ga_FLs RX0 352 0 [2] := ⟨⟨RX2, TX2, 12, "LoanNames$Bundle", rfl, by decide, in_X2, Or.inl q224, Or.inl rfl⟩, trivial⟩
theorem fl_X0_353_19 : ga_FLs RX0 353 0 [19] := ⟨⟨RX19, TX19, 6, "LoanNames$Deal", rfl, by decide, in_X19, Or.inl q730, Or.inl rfl⟩, trivial⟩
theorem fl_X0_356_2 : ga_FLs RX0 356 5 [2] := ⟨⟨RX2, TX2, 12, "LoanNames$Bundle", rfl, by decide, in_X2, Or.inr ⟨_, (List.mem_filter.mpr ⟨q231, rfl⟩)⟩, Or.inl rfl⟩, trivial⟩
theorem vc_X0_359_0 : ga_VCs RX0 359 3 ga_mt [(0, 40)] := ⟨⟨ga_VC_V (y := ga_mt 40) 3 q1368 q1370 qs18 q91 q1371 (by decide +kernel), by decide⟩, trivial⟩
theorem vc_X0_363_0 : ga_VCs RX0 363 1 ga_mt [(0, 42)] := ⟨⟨ga_VC_V (y := ga_mt 42) 1 q1376 q1378 qs19 q91 q1379 (by decide +kernel), by decide⟩, trivial⟩
theorem sc_X0_367 : ga_SC RX0 367 (ga_mt 271) 1 := ga_SC_S (y := ga_mt 271) 1 q1392 q1393 q115 q1394 (by decide +kernel)
theorem fl_X0_67_0 : ga_FLs RX0 67 16 [0] := ⟨⟨RX0, TX0, 17, "LoanNames", rfl, by decide, in_X0, Or.inl q283, Or.inl rfl⟩, trivial⟩
theorem vc_X0_370_0 : ga_VCs RX0 370 3 ga_mt [(0, 44)] := ⟨⟨ga_VC_V (y := ga_mt 44) 3 q1388 q1390 qs21 q91 q1391 (by decide +kernel), by decide⟩, trivial⟩
theorem vc_X0_374_0 : ga_VCs RX0 374 1 ga_mt [(0, 45)] := ⟨⟨ga_VC_V (y := ga_mt 45) 1 q1384 q1386 qs20 q91 q1387 (by decide +kernel), by decide⟩, trivial⟩
theorem fl_X0_377_2 : ga_FLs RX0 377 1 [2] := ⟨⟨RX2, TX2, 12, "LoanNames$Bundle", rfl, by decide, in_X2, Or.inl q226, Or.inl rfl⟩, trivial⟩
theorem fw_X0_19_0 : ga_FWs RX0 19 0 (.array .int) true [0] := ⟨⟨RX0, TX0, 17, "LoanNames", tyX0, rfl, by decide, in_X0, tyX0_ok, nmX0, q266, Or.inl rfl, rfl, rfl, fun _ => rfl⟩, trivial⟩
theorem fw_X0_25_0 : ga_FWs RX0 25 1 (.array (.object "LoanNames$Deal")) true [0] := ⟨⟨RX0, TX0, 17, "LoanNames", tyX0, rfl, by decide, in_X0, tyX0_ok, nmX0, q268, Or.inl rfl, rfl, rfl, fun _ => rfl⟩, trivial⟩
theorem fw_X0_31_0 : ga_FWs RX0 31 2 (.array (.object "LoanNames$Law")) true [0] := ⟨⟨RX0, TX0, 17, "LoanNames", tyX0, rfl, by decide, in_X0, tyX0_ok, nmX0, q269, Or.inl rfl, rfl, rfl, fun _ => rfl⟩, trivial⟩
theorem fw_X0_37_0 : ga_FWs RX0 37 3 (.array (.object "LoanNames$Bundle")) true [0] := ⟨⟨RX0, TX0, 17, "LoanNames", tyX0, rfl, by decide, in_X0, tyX0_ok, nmX0, q270, Or.inl rfl, rfl, rfl, fun _ => rfl⟩, trivial⟩
theorem fw_X0_41_0 : ga_FWs RX0 41 4 (.array (.object "LoanNames$Deal")) true [0] := ⟨⟨RX0, TX0, 17, "LoanNames", tyX0, rfl, by decide, in_X0, tyX0_ok, nmX0, q271, Or.inl rfl, rfl, rfl, fun _ => rfl⟩, trivial⟩
theorem fw_X0_44_0 : ga_FWs RX0 44 5 (.array .byte) true [0] := ⟨⟨RX0, TX0, 17, "LoanNames", tyX0, rfl, by decide, in_X0, tyX0_ok, nmX0, q272, Or.inl rfl, rfl, rfl, fun _ => rfl⟩, trivial⟩
theorem nw_X0_29 : ga_NW RX0 29 1 tyX1 := ⟨RX1, TX1, 2, rfl, in_X1, tyX1_ok, q127, q131, q92⟩
theorem ic_X0_48_1 : ga_ICs RX0 48 0 (ga_mt 135) [1] := ⟨ga_IC_N 0 (List.mem_filter.mpr ⟨q132, rfl⟩) q133 q92 q134 rfl (by decide +kernel), trivial⟩
theorem fw_X0_56_0 : ga_FWs RX0 56 7 (.object "LoanNames$Bundle") true [0] := ⟨⟨RX0, TX0, 17, "LoanNames", tyX0, rfl, by decide, in_X0, tyX0_ok, nmX0, q274, Or.inl rfl, rfl, rfl, fun _ => rfl⟩, trivial⟩
theorem fw_X0_60_0 : ga_FWs RX0 60 8 (.object "LoanNames$Bundle") true [0] := ⟨⟨RX0, TX0, 17, "LoanNames", tyX0, rfl, by decide, in_X0, tyX0_ok, nmX0, q275, Or.inl rfl, rfl, rfl, fun _ => rfl⟩, trivial⟩
theorem fw_X0_67_0 : ga_FWs RX0 67 16 (.array .int) true [0] := ⟨⟨RX0, TX0, 17, "LoanNames", tyX0, rfl, by decide, in_X0, tyX0_ok, nmX0, q283, Or.inl rfl, rfl, rfl, fun _ => rfl⟩, trivial⟩
theorem fl_X4_28_4 : ga_FLs RX4 28 5 [4] := ⟨⟨RX4, TX4, 6, "LoanNames$Sink", rfl, by decide, in_X4, Or.inl q206, Or.inl rfl⟩, trivial⟩
theorem fl_X4_9_4 : ga_FLs RX4 9 0 [4] := ⟨⟨RX4, TX4, 6, "LoanNames$Sink", rfl, by decide, in_X4, Or.inl q191, Or.inl rfl⟩, trivial⟩
theorem fl_X4_15_4 : ga_FLs RX4 15 1 [4] := ⟨⟨RX4, TX4, 6, "LoanNames$Sink", rfl, by decide, in_X4, Or.inl q194, Or.inl rfl⟩, trivial⟩
theorem fl_X4_18_4 : ga_FLs RX4 18 2 [4] := ⟨⟨RX4, TX4, 6, "LoanNames$Sink", rfl, by decide, in_X4, Or.inl q197, Or.inl rfl⟩, trivial⟩
theorem fl_X4_21_4 : ga_FLs RX4 21 3 [4] := ⟨⟨RX4, TX4, 6, "LoanNames$Sink", rfl, by decide, in_X4, Or.inl q200, Or.inl rfl⟩, trivial⟩
theorem fl_X4_24_4 : ga_FLs RX4 24 4 [4] := ⟨⟨RX4, TX4, 6, "LoanNames$Sink", rfl, by decide, in_X4, Or.inl q203, Or.inl rfl⟩, trivial⟩
theorem fw_X4_28_4 : ga_FWs RX4 28 5 .int false [4] := ⟨⟨RX4, TX4, 6, "LoanNames$Sink", tyX4, rfl, by decide, in_X4, tyX4_ok, nmX4, q206, Or.inl rfl, rfl, rfl, fun h => by cases h⟩, trivial⟩
theorem fw_X4_9_4 : ga_FWs RX4 9 0 (.array .int) true [4] := ⟨⟨RX4, TX4, 6, "LoanNames$Sink", tyX4, rfl, by decide, in_X4, tyX4_ok, nmX4, q191, Or.inl rfl, rfl, rfl, fun _ => rfl⟩, trivial⟩
theorem fw_X4_15_4 : ga_FWs RX4 15 1 (.array .int) true [4] := ⟨⟨RX4, TX4, 6, "LoanNames$Sink", tyX4, rfl, by decide, in_X4, tyX4_ok, nmX4, q194, Or.inl rfl, rfl, rfl, fun _ => rfl⟩, trivial⟩
theorem fw_X4_18_4 : ga_FWs RX4 18 2 (.array .int) true [4] := ⟨⟨RX4, TX4, 6, "LoanNames$Sink", tyX4, rfl, by decide, in_X4, tyX4_ok, nmX4, q197, Or.inl rfl, rfl, rfl, fun _ => rfl⟩, trivial⟩
theorem fw_X4_21_4 : ga_FWs RX4 21 3 (.array .int) true [4] := ⟨⟨RX4, TX4, 6, "LoanNames$Sink", tyX4, rfl, by decide, in_X4, tyX4_ok, nmX4, q200, Or.inl rfl, rfl, rfl, fun _ => rfl⟩, trivial⟩
theorem fw_X4_24_4 : ga_FWs RX4 24 4 (.array .long) true [4] := ⟨⟨RX4, TX4, 6, "LoanNames$Sink", tyX4, rfl, by decide, in_X4, tyX4_ok, nmX4, q203, Or.inl rfl, rfl, rfl, fun _ => rfl⟩, trivial⟩
theorem fl_X8_15_8 : ga_FLs RX8 15 1 [8] := ⟨⟨RX8, TX8, 2, "LoanNames$All", rfl, by decide, in_X8, Or.inl q425, Or.inl rfl⟩, trivial⟩
theorem fl_X8_9_8 : ga_FLs RX8 9 0 [8] := ⟨⟨RX8, TX8, 2, "LoanNames$All", rfl, by decide, in_X8, Or.inl q423, Or.inl rfl⟩, trivial⟩
theorem as_Part_11_12_13_14_15_17_18 : ga_Ass "LoanNames$Part" [11, 12, 13, 14, 15, 17, 18] := ⟨⟨_, rfl, Or.inr (List.mem_filter.mpr ⟨q2156, rfl⟩)⟩, ⟨_, rfl, Or.inr (List.mem_filter.mpr ⟨q2154, rfl⟩)⟩, ⟨_, rfl, Or.inr (List.mem_filter.mpr ⟨q2155, rfl⟩)⟩, ⟨_, rfl, Or.inr (List.mem_filter.mpr ⟨q2157, rfl⟩)⟩, ⟨_, rfl, Or.inr (List.mem_filter.mpr ⟨q2158, rfl⟩)⟩, ⟨_, rfl, Or.inr (List.mem_filter.mpr ⟨q2159, rfl⟩)⟩, ⟨_, rfl, Or.inr (List.mem_filter.mpr ⟨q2160, rfl⟩)⟩, trivial⟩
theorem fw_X8_9_8 : ga_FWs RX8 9 0 (.array (.object "LoanNames$Part")) false [8] := ⟨⟨RX8, TX8, 2, "LoanNames$All", tyX8, rfl, by decide, in_X8, tyX8_ok, nmX8, q423, Or.inl rfl, rfl, rfl, fun h => by cases h⟩, trivial⟩
theorem fw_X8_15_8 : ga_FWs RX8 15 1 .int false [8] := ⟨⟨RX8, TX8, 2, "LoanNames$All", tyX8, rfl, by decide, in_X8, tyX8_ok, nmX8, q425, Or.inl rfl, rfl, rfl, fun h => by cases h⟩, trivial⟩
theorem vc_X8_25_8 : ga_VCs RX8 25 1 ga_mt [(8, 52)] := ⟨⟨ga_VC_V (y := ga_mt 52) 1 q1078 q680 q681 q99 q682 (by decide +kernel), by decide⟩, trivial⟩
theorem vc_X8_29_11_12_13_14_15_17_18 : ga_VCs RX8 29 4 ga_mt [(11, 79), (12, 82), (13, 68), (14, 84), (15, 90), (17, 96), (18, 96)] := ⟨⟨ga_VC_A (y := ga_mt 79) (owner := "LoanNames$Part") (x := ⟨"LoanNames$Part", "passes", "(LLoanNames$Sink;IJI)V"⟩) 4 q1095 q1097 q1131 q1132 q102 q1133 (List.mem_filter.mpr ⟨q1096, rfl⟩) (by decide +kernel), by decide⟩, ⟨ga_VC_A (y := ga_mt 82) (owner := "LoanNames$Part") (x := ⟨"LoanNames$Part", "passes", "(LLoanNames$Sink;IJI)V"⟩) 4 q1095 q1097 q1119 q1120 q103 q1121 (List.mem_filter.mpr ⟨q1096, rfl⟩) (by decide +kernel), by decide⟩, ⟨ga_VC_A (y := ga_mt 68) (owner := "LoanNames$Part") (x := ⟨"LoanNames$Part", "passes", "(LLoanNames$Sink;IJI)V"⟩) 4 q1095 q1097 q1127 q1128 q101 q1129 (List.mem_filter.mpr ⟨q1096, rfl⟩) (by decide +kernel), by decide⟩, ⟨ga_VC_A (y := ga_mt 84) (owner := "LoanNames$Part") (x := ⟨"LoanNames$Part", "passes", "(LLoanNames$Sink;IJI)V"⟩) 4 q1095 q1097 q1098 q1099 q105 q1100 (List.mem_filter.mpr ⟨q1096, rfl⟩) (by decide +kernel), by decide⟩, ⟨ga_VC_A (y := ga_mt 90) (owner := "LoanNames$Part") (x := ⟨"LoanNames$Part", "passes", "(LLoanNames$Sink;IJI)V"⟩) 4 q1095 q1097 q1136 q1137 q106 q1138 (List.mem_filter.mpr ⟨q1096, rfl⟩) (by decide +kernel), by decide⟩, ⟨ga_VC_A (y := ga_mt 96) (owner := "LoanNames$Part") (x := ⟨"LoanNames$Part", "passes", "(LLoanNames$Sink;IJI)V"⟩) 4 q1095 q1097 q1126 q1103 q107 q1104 (List.mem_filter.mpr ⟨q1096, rfl⟩) (by decide +kernel), by decide⟩, ⟨ga_VC_A (y := ga_mt 96) (owner := "LoanNames$Part") (x := ⟨"LoanNames$Part", "passes", "(LLoanNames$Sink;IJI)V"⟩) 4 q1095 q1097 q1102 q1103 q107 q1104 (List.mem_filter.mpr ⟨q1096, rfl⟩) (by decide +kernel), by decide⟩, trivial⟩
theorem vc_X8_33_11_12_13_14_15_17_18 : ga_VCs RX8 33 2 ga_mt [(11, 69), (12, 69), (13, 69), (14, 85), (15, 91), (17, 97), (18, 97)] := ⟨⟨ga_VC_A (y := ga_mt 69) (owner := "LoanNames$Part") (x := ⟨"LoanNames$Part", "leaves", "(LLoanNames$LeafRow;I)V"⟩) 2 q704 q706 q724 q716 q101 q717 (List.mem_filter.mpr ⟨q705, rfl⟩) (by decide +kernel), by decide⟩, ⟨ga_VC_A (y := ga_mt 69) (owner := "LoanNames$Part") (x := ⟨"LoanNames$Part", "leaves", "(LLoanNames$LeafRow;I)V"⟩) 2 q704 q706 q715 q716 q101 q717 (List.mem_filter.mpr ⟨q705, rfl⟩) (by decide +kernel), by decide⟩, ⟨ga_VC_A (y := ga_mt 69) (owner := "LoanNames$Part") (x := ⟨"LoanNames$Part", "leaves", "(LLoanNames$LeafRow;I)V"⟩) 2 q704 q706 q723 q716 q101 q717 (List.mem_filter.mpr ⟨q705, rfl⟩) (by decide +kernel), by decide⟩, ⟨ga_VC_A (y := ga_mt 85) (owner := "LoanNames$Part") (x := ⟨"LoanNames$Part", "leaves", "(LLoanNames$LeafRow;I)V"⟩) 2 q704 q706 q707 q708 q105 q709 (List.mem_filter.mpr ⟨q705, rfl⟩) (by decide +kernel), by decide⟩, ⟨ga_VC_A (y := ga_mt 91) (owner := "LoanNames$Part") (x := ⟨"LoanNames$Part", "leaves", "(LLoanNames$LeafRow;I)V"⟩) 2 q704 q706 q725 q726 q106 q727 (List.mem_filter.mpr ⟨q705, rfl⟩) (by decide +kernel), by decide⟩, ⟨ga_VC_A (y := ga_mt 97) (owner := "LoanNames$Part") (x := ⟨"LoanNames$Part", "leaves", "(LLoanNames$LeafRow;I)V"⟩) 2 q704 q706 q722 q712 q107 q713 (List.mem_filter.mpr ⟨q705, rfl⟩) (by decide +kernel), by decide⟩, ⟨ga_VC_A (y := ga_mt 97) (owner := "LoanNames$Part") (x := ⟨"LoanNames$Part", "leaves", "(LLoanNames$LeafRow;I)V"⟩) 2 q704 q706 q711 q712 q107 q713 (List.mem_filter.mpr ⟨q705, rfl⟩) (by decide +kernel), by decide⟩, trivial⟩
theorem vc_X8_37_11_12_13_14_15_17_18 : ga_VCs RX8 37 0 ga_mt [(11, 70), (12, 70), (13, 70), (14, 86), (15, 92), (17, 98), (18, 109)] := ⟨⟨ga_VC_A (y := ga_mt 70) (owner := "LoanNames$Part") (x := ⟨"LoanNames$Part", "hasChoice", "()Z"⟩) 0 q1016 q1018 q1033 q1027 q101 q1028 (List.mem_filter.mpr ⟨q1017, rfl⟩) (by decide +kernel), by decide⟩, ⟨ga_VC_A (y := ga_mt 70) (owner := "LoanNames$Part") (x := ⟨"LoanNames$Part", "hasChoice", "()Z"⟩) 0 q1016 q1018 q1026 q1027 q101 q1028 (List.mem_filter.mpr ⟨q1017, rfl⟩) (by decide +kernel), by decide⟩, ⟨ga_VC_A (y := ga_mt 70) (owner := "LoanNames$Part") (x := ⟨"LoanNames$Part", "hasChoice", "()Z"⟩) 0 q1016 q1018 q1032 q1027 q101 q1028 (List.mem_filter.mpr ⟨q1017, rfl⟩) (by decide +kernel), by decide⟩, ⟨ga_VC_A (y := ga_mt 86) (owner := "LoanNames$Part") (x := ⟨"LoanNames$Part", "hasChoice", "()Z"⟩) 0 q1016 q1018 q1019 q1020 q105 q1021 (List.mem_filter.mpr ⟨q1017, rfl⟩) (by decide +kernel), by decide⟩, ⟨ga_VC_A (y := ga_mt 92) (owner := "LoanNames$Part") (x := ⟨"LoanNames$Part", "hasChoice", "()Z"⟩) 0 q1016 q1018 q1034 q1035 q106 q1036 (List.mem_filter.mpr ⟨q1017, rfl⟩) (by decide +kernel), by decide⟩, ⟨ga_VC_A (y := ga_mt 98) (owner := "LoanNames$Part") (x := ⟨"LoanNames$Part", "hasChoice", "()Z"⟩) 0 q1016 q1018 q1029 q1030 q107 q1031 (List.mem_filter.mpr ⟨q1017, rfl⟩) (by decide +kernel), by decide⟩, ⟨ga_VC_A (y := ga_mt 109) (owner := "LoanNames$Part") (x := ⟨"LoanNames$Part", "hasChoice", "()Z"⟩) 0 q1016 q1018 q1023 q1024 q109 q1025 (List.mem_filter.mpr ⟨q1017, rfl⟩) (by decide +kernel), by decide⟩, trivial⟩
theorem vc_X8_41_11_12_13_14_15_17_18 : ga_VCs RX8 41 1 ga_mt [(11, 71), (12, 71), (13, 71), (14, 87), (15, 93), (17, 99), (18, 99)] := ⟨⟨ga_VC_A (y := ga_mt 71) (owner := "LoanNames$Part") (x := ⟨"LoanNames$Part", "isLike", "(LLoanNames$Part;)Z"⟩) 1 q975 q977 q1006 q998 q101 q999 (List.mem_filter.mpr ⟨q976, rfl⟩) (by decide +kernel), by decide⟩, ⟨ga_VC_A (y := ga_mt 71) (owner := "LoanNames$Part") (x := ⟨"LoanNames$Part", "isLike", "(LLoanNames$Part;)Z"⟩) 1 q975 q977 q997 q998 q101 q999 (List.mem_filter.mpr ⟨q976, rfl⟩) (by decide +kernel), by decide⟩, ⟨ga_VC_A (y := ga_mt 71) (owner := "LoanNames$Part") (x := ⟨"LoanNames$Part", "isLike", "(LLoanNames$Part;)Z"⟩) 1 q975 q977 q1005 q998 q101 q999 (List.mem_filter.mpr ⟨q976, rfl⟩) (by decide +kernel), by decide⟩, ⟨ga_VC_A (y := ga_mt 87) (owner := "LoanNames$Part") (x := ⟨"LoanNames$Part", "isLike", "(LLoanNames$Part;)Z"⟩) 1 q975 q977 q978 q979 q105 q980 (List.mem_filter.mpr ⟨q976, rfl⟩) (by decide +kernel), by decide⟩, ⟨ga_VC_A (y := ga_mt 93) (owner := "LoanNames$Part") (x := ⟨"LoanNames$Part", "isLike", "(LLoanNames$Part;)Z"⟩) 1 q975 q977 q1007 q1008 q106 q1009 (List.mem_filter.mpr ⟨q976, rfl⟩) (by decide +kernel), by decide⟩, ⟨ga_VC_A (y := ga_mt 99) (owner := "LoanNames$Part") (x := ⟨"LoanNames$Part", "isLike", "(LLoanNames$Part;)Z"⟩) 1 q975 q977 q1004 q983 q107 q984 (List.mem_filter.mpr ⟨q976, rfl⟩) (by decide +kernel), by decide⟩, ⟨ga_VC_A (y := ga_mt 99) (owner := "LoanNames$Part") (x := ⟨"LoanNames$Part", "isLike", "(LLoanNames$Part;)Z"⟩) 1 q975 q977 q982 q983 q107 q984 (List.mem_filter.mpr ⟨q976, rfl⟩) (by decide +kernel), by decide⟩, trivial⟩
theorem nw_X8_10 : ga_NW RX8 10 8 tyX8 := ⟨RX8, TX8, 2, rfl, in_X8, tyX8_ok, q947, q416, q99⟩
theorem ic_X8_45_8 : ga_ICs RX8 45 0 (ga_mt 59) [8] := ⟨ga_IC_I 0 q948 q418 q99 q419 rfl (by decide +kernel), trivial⟩
theorem vc_X8_50_8 : ga_VCs RX8 50 1 ga_mt [(8, 53)] := ⟨⟨ga_VC_V (y := ga_mt 53) 1 q1074 q1075 q1076 q99 q1077 (by decide +kernel), by decide⟩, trivial⟩
theorem vc_X8_46_11_12_13_14_15_17_18 : ga_VCs RX8 46 1 ga_mt [(11, 72), (12, 72), (13, 72), (14, 88), (15, 94), (17, 100), (18, 100)] := ⟨⟨ga_VC_A (y := ga_mt 72) (owner := "LoanNames$Part") (x := ⟨"LoanNames$Part", "plain", "(LLoanNames$Plain;)LLoanNames$All;"⟩) 1 q949 q951 q1063 q1054 q101 q1055 (List.mem_filter.mpr ⟨q950, rfl⟩) (by decide +kernel), by decide⟩, ⟨ga_VC_A (y := ga_mt 72) (owner := "LoanNames$Part") (x := ⟨"LoanNames$Part", "plain", "(LLoanNames$Plain;)LLoanNames$All;"⟩) 1 q949 q951 q1053 q1054 q101 q1055 (List.mem_filter.mpr ⟨q950, rfl⟩) (by decide +kernel), by decide⟩, ⟨ga_VC_A (y := ga_mt 72) (owner := "LoanNames$Part") (x := ⟨"LoanNames$Part", "plain", "(LLoanNames$Plain;)LLoanNames$All;"⟩) 1 q949 q951 q1062 q1054 q101 q1055 (List.mem_filter.mpr ⟨q950, rfl⟩) (by decide +kernel), by decide⟩, ⟨ga_VC_A (y := ga_mt 88) (owner := "LoanNames$Part") (x := ⟨"LoanNames$Part", "plain", "(LLoanNames$Plain;)LLoanNames$All;"⟩) 1 q949 q951 q952 q953 q105 q954 (List.mem_filter.mpr ⟨q950, rfl⟩) (by decide +kernel), by decide⟩, ⟨ga_VC_A (y := ga_mt 94) (owner := "LoanNames$Part") (x := ⟨"LoanNames$Part", "plain", "(LLoanNames$Plain;)LLoanNames$All;"⟩) 1 q949 q951 q1064 q1065 q106 q1066 (List.mem_filter.mpr ⟨q950, rfl⟩) (by decide +kernel), by decide⟩, ⟨ga_VC_A (y := ga_mt 100) (owner := "LoanNames$Part") (x := ⟨"LoanNames$Part", "plain", "(LLoanNames$Plain;)LLoanNames$All;"⟩) 1 q949 q951 q1061 q968 q107 q969 (List.mem_filter.mpr ⟨q950, rfl⟩) (by decide +kernel), by decide⟩, ⟨ga_VC_A (y := ga_mt 100) (owner := "LoanNames$Part") (x := ⟨"LoanNames$Part", "plain", "(LLoanNames$Plain;)LLoanNames$All;"⟩) 1 q949 q951 q967 q968 q107 q969 (List.mem_filter.mpr ⟨q950, rfl⟩) (by decide +kernel), by decide⟩, trivial⟩
theorem fl_X3_21_3 : ga_FLs RX3 21 2 [3] := ⟨⟨RX3, TX3, 3, "LoanNames$LeafRow", rfl, by decide, in_X3, Or.inl q174, Or.inl rfl⟩, trivial⟩
theorem fl_X3_11_3 : ga_FLs RX3 11 0 [3] := ⟨⟨RX3, TX3, 3, "LoanNames$LeafRow", rfl, by decide, in_X3, Or.inl q166, Or.inl rfl⟩, trivial⟩
theorem as_Leaf_11_12_13 : ga_Ass "LoanNames$Leaf" [11, 12, 13] := ⟨⟨_, rfl, Or.inr (List.mem_filter.mpr ⟨q2153, rfl⟩)⟩, ⟨_, rfl, Or.inr (List.mem_filter.mpr ⟨q2151, rfl⟩)⟩, ⟨_, rfl, Or.inr (List.mem_filter.mpr ⟨q2152, rfl⟩)⟩, trivial⟩
theorem fl_X3_17_3 : ga_FLs RX3 17 1 [3] := ⟨⟨RX3, TX3, 3, "LoanNames$LeafRow", rfl, by decide, in_X3, Or.inl q171, Or.inl rfl⟩, trivial⟩
theorem fw_X3_21_3 : ga_FWs RX3 21 2 .int false [3] := ⟨⟨RX3, TX3, 3, "LoanNames$LeafRow", tyX3, rfl, by decide, in_X3, tyX3_ok, nmX3, q174, Or.inl rfl, rfl, rfl, fun h => by cases h⟩, trivial⟩
theorem fl_X3_25_11_12_13 : ga_FLs RX3 25 4 [11, 12, 13] := ⟨⟨RX11, TX11, 7, "LoanNames$Leaf", rfl, by decide, in_X11, Or.inl q543, Or.inl rfl⟩, ⟨RX12, TX12, 7, "LoanNames$Leaf", rfl, by decide, in_X12, Or.inl q543, Or.inl rfl⟩, ⟨RX13, TX13, 6, "LoanNames$Leaf", rfl, by decide, in_X13, Or.inl q543, Or.inl rfl⟩, trivial⟩
theorem fw_X3_11_3 : ga_FWs RX3 11 0 (.array (.object "LoanNames$Leaf")) true [3] := ⟨⟨RX3, TX3, 3, "LoanNames$LeafRow", tyX3, rfl, by decide, in_X3, tyX3_ok, nmX3, q166, Or.inl rfl, rfl, rfl, fun _ => rfl⟩, trivial⟩
theorem fw_X3_17_3 : ga_FWs RX3 17 1 (.array .int) true [3] := ⟨⟨RX3, TX3, 3, "LoanNames$LeafRow", tyX3, rfl, by decide, in_X3, tyX3_ok, nmX3, q171, Or.inl rfl, rfl, rfl, fun _ => rfl⟩, trivial⟩
theorem nw_X9_7 : ga_NW RX9 7 8 tyX8 := ⟨RX8, TX8, 2, rfl, in_X8, tyX8_ok, q964, q416, q99⟩
theorem ic_X9_9_8 : ga_ICs RX9 9 0 (ga_mt 59) [8] := ⟨ga_IC_N 0 (List.mem_filter.mpr ⟨q965, rfl⟩) q418 q99 q419 rfl (by decide +kernel), trivial⟩
theorem vc_X9_10_8 : ga_VCs RX9 10 1 ga_mt [(8, 52)] := ⟨⟨ga_VC_V (y := ga_mt 52) 1 q966 q680 q681 q99 q682 (by decide +kernel), by decide⟩, trivial⟩
theorem fl_X10_22_11_12_13 : ga_FLs RX10 22 4 [11, 12, 13] := ⟨⟨RX11, TX11, 7, "LoanNames$Leaf", rfl, by decide, in_X11, Or.inl q540, Or.inl rfl⟩, ⟨RX12, TX12, 7, "LoanNames$Leaf", rfl, by decide, in_X12, Or.inl q540, Or.inl rfl⟩, ⟨RX13, TX13, 6, "LoanNames$Leaf", rfl, by decide, in_X13, Or.inl q540, Or.inl rfl⟩, trivial⟩
theorem vc_X10_25_4 : ga_VCs RX10 25 5 ga_mt [(4, 50)] := ⟨⟨ga_VC_V (y := ga_mt 50) 5 q1130 q1123 q1124 q95 q1125 (by decide +kernel), by decide⟩, trivial⟩
theorem fl_X10_7_11_12_13 : ga_FLs RX10 7 0 [11, 12, 13] := ⟨⟨RX11, TX11, 7, "LoanNames$Leaf", rfl, by decide, in_X11, Or.inl q516, Or.inl rfl⟩, ⟨RX12, TX12, 7, "LoanNames$Leaf", rfl, by decide, in_X12, Or.inl q516, Or.inl rfl⟩, ⟨RX13, TX13, 6, "LoanNames$Leaf", rfl, by decide, in_X13, Or.inl q516, Or.inl rfl⟩, trivial⟩
theorem fl_X10_13_11_12_13 : ga_FLs RX10 13 1 [11, 12, 13] := ⟨⟨RX11, TX11, 7, "LoanNames$Leaf", rfl, by decide, in_X11, Or.inl q523, Or.inl rfl⟩, ⟨RX12, TX12, 7, "LoanNames$Leaf", rfl, by decide, in_X12, Or.inl q523, Or.inl rfl⟩, ⟨RX13, TX13, 6, "LoanNames$Leaf", rfl, by decide, in_X13, Or.inl q523, Or.inl rfl⟩, trivial⟩
theorem fl_X10_16_11_12_13 : ga_FLs RX10 16 2 [11, 12, 13] := ⟨⟨RX11, TX11, 7, "LoanNames$Leaf", rfl, by decide, in_X11, Or.inl q530, Or.inl rfl⟩, ⟨RX12, TX12, 7, "LoanNames$Leaf", rfl, by decide, in_X12, Or.inl q530, Or.inl rfl⟩, ⟨RX13, TX13, 6, "LoanNames$Leaf", rfl, by decide, in_X13, Or.inl q530, Or.inl rfl⟩, trivial⟩
theorem fl_X10_19_11_12_13 : ga_FLs RX10 19 3 [11, 12, 13] := ⟨⟨RX11, TX11, 7, "LoanNames$Leaf", rfl, by decide, in_X11, Or.inl q536, Or.inl rfl⟩, ⟨RX12, TX12, 7, "LoanNames$Leaf", rfl, by decide, in_X12, Or.inl q536, Or.inl rfl⟩, ⟨RX13, TX13, 6, "LoanNames$Leaf", rfl, by decide, in_X13, Or.inl q536, Or.inl rfl⟩, trivial⟩
theorem vc_X10_31_3 : ga_VCs RX10 31 2 ga_mt [(3, 61)] := ⟨⟨ga_VC_V (y := ga_mt 61) 2 q718 q719 q720 q94 q721 (by decide +kernel), by decide⟩, trivial⟩
theorem ns_Leaf_14_15_17_18 : ga_Nss "LoanNames$Leaf" [14, 15, 17, 18] := ⟨⟨_, rfl, by decide⟩, ⟨_, rfl, by decide⟩, ⟨_, rfl, by decide⟩, ⟨_, rfl, by decide⟩, trivial⟩
theorem vc_X10_36_11_12_13 : ga_VCs RX10 36 0 ga_mt [(11, 76), (12, 81), (13, 74)] := ⟨⟨ga_VC_A (y := ga_mt 76) (owner := "LoanNames$Leaf") (x := ⟨"LoanNames$Leaf", "form", "()I"⟩) 0 q1001 q894 q901 q902 q102 q903 (List.mem_filter.mpr ⟨q893, rfl⟩) (by decide +kernel), by decide⟩, ⟨ga_VC_A (y := ga_mt 81) (owner := "LoanNames$Leaf") (x := ⟨"LoanNames$Leaf", "form", "()I"⟩) 0 q1001 q894 q895 q896 q103 q897 (List.mem_filter.mpr ⟨q893, rfl⟩) (by decide +kernel), by decide⟩, ⟨ga_VC_A (y := ga_mt 74) (owner := "LoanNames$Leaf") (x := ⟨"LoanNames$Leaf", "form", "()I"⟩) 0 q1001 q894 q898 q899 q104 q900 (List.mem_filter.mpr ⟨q893, rfl⟩) (by decide +kernel), by decide⟩, trivial⟩
theorem vc_X10_40_11_12_13 : ga_VCs RX10 40 0 ga_mt [(11, 77), (12, 77), (13, 66)] := ⟨⟨ga_VC_O (y := ga_mt 77) (owner := "LoanNames$Leaf") (x := ⟨"LoanNames$Leaf", "forCoin", "()I"⟩) 0 q1002 q906 q905 q911 q908 q102 q909 q912 (by decide +kernel), by decide⟩, ⟨ga_VC_O (y := ga_mt 77) (owner := "LoanNames$Leaf") (x := ⟨"LoanNames$Leaf", "forCoin", "()I"⟩) 0 q1002 q906 q905 q907 q908 q102 q909 q912 (by decide +kernel), by decide⟩, ⟨ga_VC_U (y := ga_mt 66) (owner := "LoanNames$Leaf") (x := ⟨"LoanNames$Leaf", "forCoin", "()I"⟩) 0 q1002 q906 q910 q905 q101 q912 rfl (by decide +kernel), by decide⟩, trivial⟩
theorem vc_X10_43_11_12_13 : ga_VCs RX10 43 0 ga_mt [(11, 78), (12, 78), (13, 67)] := ⟨⟨ga_VC_O (y := ga_mt 78) (owner := "LoanNames$Leaf") (x := ⟨"LoanNames$Leaf", "until", "()I"⟩) 0 q1003 q919 q918 q924 q921 q102 q922 q925 (by decide +kernel), by decide⟩, ⟨ga_VC_O (y := ga_mt 78) (owner := "LoanNames$Leaf") (x := ⟨"LoanNames$Leaf", "until", "()I"⟩) 0 q1003 q919 q918 q920 q921 q102 q922 q925 (by decide +kernel), by decide⟩, ⟨ga_VC_U (y := ga_mt 67) (owner := "LoanNames$Leaf") (x := ⟨"LoanNames$Leaf", "until", "()I"⟩) 0 q1003 q919 q923 q918 q101 q925 rfl (by decide +kernel), by decide⟩, trivial⟩
theorem vc_X10_46_11_12_13 : ga_VCs RX10 46 0 ga_mt [(11, 64), (12, 64), (13, 64)] := ⟨⟨ga_VC_U (y := ga_mt 64) (owner := "LoanNames$Part") (x := ⟨"LoanNames$Leaf", "alone", "()LLoanNames$All;"⟩) 0 q1056 q1057 q1060 q962 q100 q963 rfl (by decide +kernel), by decide⟩, ⟨ga_VC_U (y := ga_mt 64) (owner := "LoanNames$Part") (x := ⟨"LoanNames$Leaf", "alone", "()LLoanNames$All;"⟩) 0 q1056 q1057 q1058 q962 q100 q963 rfl (by decide +kernel), by decide⟩, ⟨ga_VC_U (y := ga_mt 64) (owner := "LoanNames$Part") (x := ⟨"LoanNames$Leaf", "alone", "()LLoanNames$All;"⟩) 0 q1056 q1057 q1059 q962 q100 q963 rfl (by decide +kernel), by decide⟩, trivial⟩
theorem ic_X10_1_11_12_13 : ga_ICs RX10 1 0 (ga_mt 65) [11, 12, 13] := ⟨ga_IC_N 0 (List.mem_filter.mpr ⟨q506, rfl⟩) q507 q100 q508 rfl (by decide +kernel), ga_IC_N 0 (List.mem_filter.mpr ⟨q506, rfl⟩) q507 q100 q508 rfl (by decide +kernel), ga_IC_N 0 (List.mem_filter.mpr ⟨q506, rfl⟩) q507 q100 q508 rfl (by decide +kernel), trivial⟩
theorem fw_X10_7_11_12_13 : ga_FWs RX10 7 0 .int true [11, 12, 13] := ⟨⟨RX11, TX11, 7, "LoanNames$Leaf", tyX11, rfl, by decide, in_X11, tyX11_ok, nmX11, q516, Or.inl rfl, rfl, rfl, fun _ => rfl⟩, ⟨RX12, TX12, 7, "LoanNames$Leaf", tyX12, rfl, by decide, in_X12, tyX12_ok, nmX12, q516, Or.inl rfl, rfl, rfl, fun _ => rfl⟩, ⟨RX13, TX13, 6, "LoanNames$Leaf", tyX13, rfl, by decide, in_X13, tyX13_ok, nmX13, q516, Or.inl rfl, rfl, rfl, fun _ => rfl⟩, trivial⟩
theorem fw_X10_13_11_12_13 : ga_FWs RX10 13 1 .int true [11, 12, 13] := ⟨⟨RX11, TX11, 7, "LoanNames$Leaf", tyX11, rfl, by decide, in_X11, tyX11_ok, nmX11, q523, Or.inl rfl, rfl, rfl, fun _ => rfl⟩, ⟨RX12, TX12, 7, "LoanNames$Leaf", tyX12, rfl, by decide, in_X12, tyX12_ok, nmX12, q523, Or.inl rfl, rfl, rfl, fun _ => rfl⟩, ⟨RX13, TX13, 6, "LoanNames$Leaf", tyX13, rfl, by decide, in_X13, tyX13_ok, nmX13, q523, Or.inl rfl, rfl, rfl, fun _ => rfl⟩, trivial⟩
theorem fw_X10_16_11_12_13 : ga_FWs RX10 16 2 .int true [11, 12, 13] := ⟨⟨RX11, TX11, 7, "LoanNames$Leaf", tyX11, rfl, by decide, in_X11, tyX11_ok, nmX11, q530, Or.inl rfl, rfl, rfl, fun _ => rfl⟩, ⟨RX12, TX12, 7, "LoanNames$Leaf", tyX12, rfl, by decide, in_X12, tyX12_ok, nmX12, q530, Or.inl rfl, rfl, rfl, fun _ => rfl⟩, ⟨RX13, TX13, 6, "LoanNames$Leaf", tyX13, rfl, by decide, in_X13, tyX13_ok, nmX13, q530, Or.inl rfl, rfl, rfl, fun _ => rfl⟩, trivial⟩
theorem fw_X10_19_11_12_13 : ga_FWs RX10 19 3 .int true [11, 12, 13] := ⟨⟨RX11, TX11, 7, "LoanNames$Leaf", tyX11, rfl, by decide, in_X11, tyX11_ok, nmX11, q536, Or.inl rfl, rfl, rfl, fun _ => rfl⟩, ⟨RX12, TX12, 7, "LoanNames$Leaf", tyX12, rfl, by decide, in_X12, tyX12_ok, nmX12, q536, Or.inl rfl, rfl, rfl, fun _ => rfl⟩, ⟨RX13, TX13, 6, "LoanNames$Leaf", tyX13, rfl, by decide, in_X13, tyX13_ok, nmX13, q536, Or.inl rfl, rfl, rfl, fun _ => rfl⟩, trivial⟩
theorem fw_X10_22_11_12_13 : ga_FWs RX10 22 4 .int true [11, 12, 13] := ⟨⟨RX11, TX11, 7, "LoanNames$Leaf", tyX11, rfl, by decide, in_X11, tyX11_ok, nmX11, q540, Or.inl rfl, rfl, rfl, fun _ => rfl⟩, ⟨RX12, TX12, 7, "LoanNames$Leaf", tyX12, rfl, by decide, in_X12, tyX12_ok, nmX12, q540, Or.inl rfl, rfl, rfl, fun _ => rfl⟩, ⟨RX13, TX13, 6, "LoanNames$Leaf", tyX13, rfl, by decide, in_X13, tyX13_ok, nmX13, q540, Or.inl rfl, rfl, rfl, fun _ => rfl⟩, trivial⟩
theorem fl_X13_7_13 : ga_FLs RX13 7 5 [13] := ⟨⟨RX13, TX13, 6, "LoanNames$Pass", rfl, by decide, in_X13, Or.inl q565, Or.inl rfl⟩, trivial⟩
theorem ic_X13_1_13 : ga_ICs RX13 1 5 (ga_mt 73) [13] := ⟨ga_IC_I 5 q564 q504 q101 q505 rfl (by decide +kernel), trivial⟩
theorem fw_X13_7_13 : ga_FWs RX13 7 5 .int true [13] := ⟨⟨RX13, TX13, 6, "LoanNames$Pass", tyX13, rfl, by decide, in_X13, tyX13_ok, nmX13, q565, Or.inl rfl, rfl, rfl, fun _ => rfl⟩, trivial⟩
theorem fl_X11_9_11_12 : ga_FLs RX11 9 5 [11, 12] := ⟨⟨RX11, TX11, 7, "LoanNames$Sale", rfl, by decide, in_X11, Or.inl q510, Or.inl rfl⟩, ⟨RX12, TX12, 7, "LoanNames$Sale", rfl, by decide, in_X12, Or.inl q510, Or.inl rfl⟩, trivial⟩
theorem fl_X11_15_11_12 : ga_FLs RX11 15 6 [11, 12] := ⟨⟨RX11, TX11, 7, "LoanNames$Sale", rfl, by decide, in_X11, Or.inl q513, Or.inl rfl⟩, ⟨RX12, TX12, 7, "LoanNames$Sale", rfl, by decide, in_X12, Or.inl q513, Or.inl rfl⟩, trivial⟩
theorem ic_X11_18_11_12 : ga_ICs RX11 18 4 (ga_mt 68) [11, 12] := ⟨ga_IC_S (y := ga_mt 68) 4 q1134 q2148 q590 q1128 q101 q1129 (by decide +kernel), ga_IC_S (y := ga_mt 68) 4 q1134 q2148 q590 q1128 q101 q1129 (by decide +kernel), trivial⟩
theorem vc_X11_28_4 : ga_VCs RX11 28 5 ga_mt [(4, 50)] := ⟨⟨ga_VC_V (y := ga_mt 50) 5 q1135 q1123 q1124 q95 q1125 (by decide +kernel), by decide⟩, trivial⟩
theorem fl_X11_22_11_12 : ga_FLs RX11 22 1 [11, 12] := ⟨⟨RX11, TX11, 7, "LoanNames$Sale", rfl, by decide, in_X11, Or.inl q527, Or.inr q528⟩, ⟨RX12, TX12, 7, "LoanNames$Sale", rfl, by decide, in_X12, Or.inl q527, Or.inr q528⟩, trivial⟩
theorem fl_X11_25_11_12 : ga_FLs RX11 25 0 [11, 12] := ⟨⟨RX11, TX11, 7, "LoanNames$Sale", rfl, by decide, in_X11, Or.inl q520, Or.inr q521⟩, ⟨RX12, TX12, 7, "LoanNames$Sale", rfl, by decide, in_X12, Or.inl q520, Or.inr q521⟩, trivial⟩
theorem ic_X11_3_11_12 : ga_ICs RX11 3 5 (ga_mt 73) [11, 12] := ⟨ga_IC_I 5 q503 q504 q101 q505 rfl (by decide +kernel), ga_IC_I 5 q503 q504 q101 q505 rfl (by decide +kernel), trivial⟩
theorem fw_X11_9_11_12 : ga_FWs RX11 9 5 .int true [11, 12] := ⟨⟨RX11, TX11, 7, "LoanNames$Sale", tyX11, rfl, by decide, in_X11, tyX11_ok, nmX11, q510, Or.inl rfl, rfl, rfl, fun _ => rfl⟩, ⟨RX12, TX12, 7, "LoanNames$Sale", tyX12, rfl, by decide, in_X12, tyX12_ok, nmX12, q510, Or.inl rfl, rfl, rfl, fun _ => rfl⟩, trivial⟩
theorem fw_X11_15_11_12 : ga_FWs RX11 15 6 .int true [11, 12] := ⟨⟨RX11, TX11, 7, "LoanNames$Sale", tyX11, rfl, by decide, in_X11, tyX11_ok, nmX11, q513, Or.inl rfl, rfl, rfl, fun _ => rfl⟩, ⟨RX12, TX12, 7, "LoanNames$Sale", tyX12, rfl, by decide, in_X12, tyX12_ok, nmX12, q513, Or.inl rfl, rfl, rfl, fun _ => rfl⟩, trivial⟩
theorem vc_X12_27_4 : ga_VCs RX12 27 5 ga_mt [(4, 50)] := ⟨⟨ga_VC_V (y := ga_mt 50) 5 q1122 q1123 q1124 q95 q1125 (by decide +kernel), by decide⟩, trivial⟩
theorem fl_X12_9_12 : ga_FLs RX12 9 4 [12] := ⟨⟨RX12, TX12, 7, "LoanNames$Hire", rfl, by decide, in_X12, Or.inl q541, Or.inr q542⟩, trivial⟩
theorem fl_X12_15_12 : ga_FLs RX12 15 0 [12] := ⟨⟨RX12, TX12, 7, "LoanNames$Hire", rfl, by decide, in_X12, Or.inl q517, Or.inr q518⟩, trivial⟩
theorem fl_X12_18_12 : ga_FLs RX12 18 1 [12] := ⟨⟨RX12, TX12, 7, "LoanNames$Hire", rfl, by decide, in_X12, Or.inl q524, Or.inr q525⟩, trivial⟩
theorem fl_X12_21_12 : ga_FLs RX12 21 2 [12] := ⟨⟨RX12, TX12, 7, "LoanNames$Hire", rfl, by decide, in_X12, Or.inl q533, Or.inr q534⟩, trivial⟩
theorem fl_X12_24_12 : ga_FLs RX12 24 3 [12] := ⟨⟨RX12, TX12, 7, "LoanNames$Hire", rfl, by decide, in_X12, Or.inl q537, Or.inr q538⟩, trivial⟩
theorem fl_X12_33_12 : ga_FLs RX12 33 6 [12] := ⟨⟨RX12, TX12, 7, "LoanNames$Hire", rfl, by decide, in_X12, Or.inl q514, Or.inr q515⟩, trivial⟩
theorem fl_X12_36_12 : ga_FLs RX12 36 5 [12] := ⟨⟨RX12, TX12, 7, "LoanNames$Hire", rfl, by decide, in_X12, Or.inl q511, Or.inr q512⟩, trivial⟩
theorem ic_X12_3_12 : ga_ICs RX12 3 7 (ga_mt 80) [12] := ⟨ga_IC_I 7 q500 q501 q102 q502 rfl (by decide +kernel), trivial⟩
theorem vc_X14_17_8 : ga_VCs RX14 17 4 ga_mt [(8, 54)] := ⟨⟨ga_VC_V (y := ga_mt 54) 4 q1101 q1092 q1093 q99 q1094 (by decide +kernel), by decide⟩, trivial⟩
theorem fl_X14_13_14 : ga_FLs RX14 13 1 [14] := ⟨⟨RX14, TX14, 2, "LoanNames$After", rfl, by decide, in_X14, Or.inl q610, Or.inl rfl⟩, trivial⟩
theorem fl_X14_7_14 : ga_FLs RX14 7 0 [14] := ⟨⟨RX14, TX14, 2, "LoanNames$After", rfl, by decide, in_X14, Or.inl q609, Or.inl rfl⟩, trivial⟩
theorem vc_X14_23_8 : ga_VCs RX14 23 2 ga_mt [(8, 55)] := ⟨⟨ga_VC_V (y := ga_mt 55) 2 q710 q701 q702 q99 q703 (by decide +kernel), by decide⟩, trivial⟩
theorem vc_X14_27_8 : ga_VCs RX14 27 0 ga_mt [(8, 56)] := ⟨⟨ga_VC_V (y := ga_mt 56) 0 q1022 q1013 q1014 q99 q1015 (by decide +kernel), by decide⟩, trivial⟩
theorem ns_After_11_12_13_15_17_18 : ga_Nss "LoanNames$After" [11, 12, 13, 15, 17, 18] := ⟨⟨_, rfl, by decide⟩, ⟨_, rfl, by decide⟩, ⟨_, rfl, by decide⟩, ⟨_, rfl, by decide⟩, ⟨_, rfl, by decide⟩, ⟨_, rfl, by decide⟩, trivial⟩
theorem as_After_14 : ga_Ass "LoanNames$After" [14] := ⟨⟨_, rfl, Or.inl rfl⟩, trivial⟩
theorem vc_X14_31_8 : ga_VCs RX14 31 1 ga_mt [(8, 57)] := ⟨⟨ga_VC_V (y := ga_mt 57) 1 q981 q972 q973 q99 q974 (by decide +kernel), by decide⟩, trivial⟩
theorem vc_X14_35_8 : ga_VCs RX14 35 1 ga_mt [(8, 58)] := ⟨⟨ga_VC_V (y := ga_mt 58) 1 q955 q944 q945 q99 q946 (by decide +kernel), by decide⟩, trivial⟩
theorem fl_X14_39_8 : ga_FLs RX14 39 1 [8] := ⟨⟨RX8, TX8, 2, "LoanNames$All", rfl, by decide, in_X8, Or.inl q426, Or.inl rfl⟩, trivial⟩
theorem fl_X14_42_8 : ga_FLs RX14 42 0 [8] := ⟨⟨RX8, TX8, 2, "LoanNames$All", rfl, by decide, in_X8, Or.inl q424, Or.inl rfl⟩, trivial⟩
theorem fw_X14_46_22 : ga_FWs RX14 46 0 .int false [22] := ⟨⟨RX22, TX22, 1, "LoanNames$Plain", tyX22, rfl, by decide, in_X22, tyX22_ok, nmX22, q937, Or.inl rfl, rfl, rfl, fun h => by cases h⟩, trivial⟩
theorem fl_X14_46_22 : ga_FLs RX14 46 0 [22] := ⟨⟨RX22, TX22, 1, "LoanNames$Plain", rfl, by decide, in_X22, Or.inl q937, Or.inl rfl⟩, trivial⟩
theorem vc_X14_54_14 : ga_VCs RX14 54 0 ga_mt [(14, 64)] := ⟨⟨ga_VC_U (y := ga_mt 64) (owner := "LoanNames$Part") (x := ⟨"LoanNames$After", "alone", "()LLoanNames$All;"⟩) 0 q958 q959 q961 q962 q100 q963 rfl (by decide +kernel), by decide⟩, trivial⟩
theorem nw_X14_8 : ga_NW RX14 8 14 tyX14 := ⟨RX14, TX14, 2, rfl, in_X14, tyX14_ok, q956, q594, q105⟩
theorem ic_X14_51_14 : ga_ICs RX14 51 2 (ga_mt 89) [14] := ⟨ga_IC_I 2 q957 q606 q105 q607 rfl (by decide +kernel), trivial⟩
theorem ic_X14_1_14 : ga_ICs RX14 1 0 (ga_mt 65) [14] := ⟨ga_IC_N 0 (List.mem_filter.mpr ⟨q608, rfl⟩) q507 q100 q508 rfl (by decide +kernel), trivial⟩
theorem fw_X14_7_14 : ga_FWs RX14 7 0 .int true [14] := ⟨⟨RX14, TX14, 2, "LoanNames$After", tyX14, rfl, by decide, in_X14, tyX14_ok, nmX14, q609, Or.inl rfl, rfl, rfl, fun _ => rfl⟩, trivial⟩
theorem fw_X14_13_14 : ga_FWs RX14 13 1 (.object "LoanNames$All") true [14] := ⟨⟨RX14, TX14, 2, "LoanNames$After", tyX14, rfl, by decide, in_X14, tyX14_ok, nmX14, q610, Or.inl rfl, rfl, rfl, fun _ => rfl⟩, trivial⟩
theorem fl_X15_7_15 : ga_FLs RX15 7 0 [15] := ⟨⟨RX15, TX15, 2, "LoanNames$Times", rfl, by decide, in_X15, Or.inl q624, Or.inl rfl⟩, trivial⟩
theorem vc_X15_17_8 : ga_VCs RX15 17 4 ga_mt [(8, 54)] := ⟨⟨ga_VC_V (y := ga_mt 54) 4 q1139 q1092 q1093 q99 q1094 (by decide +kernel), by decide⟩, trivial⟩
theorem fl_X15_13_15 : ga_FLs RX15 13 1 [15] := ⟨⟨RX15, TX15, 2, "LoanNames$Times", rfl, by decide, in_X15, Or.inl q625, Or.inl rfl⟩, trivial⟩
theorem vc_X15_23_8 : ga_VCs RX15 23 2 ga_mt [(8, 55)] := ⟨⟨ga_VC_V (y := ga_mt 55) 2 q728 q701 q702 q99 q703 (by decide +kernel), by decide⟩, trivial⟩
theorem vc_X15_27_8 : ga_VCs RX15 27 0 ga_mt [(8, 56)] := ⟨⟨ga_VC_V (y := ga_mt 56) 0 q1037 q1013 q1014 q99 q1015 (by decide +kernel), by decide⟩, trivial⟩
theorem ns_Times_11_12_13_14_17_18 : ga_Nss "LoanNames$Times" [11, 12, 13, 14, 17, 18] := ⟨⟨_, rfl, by decide⟩, ⟨_, rfl, by decide⟩, ⟨_, rfl, by decide⟩, ⟨_, rfl, by decide⟩, ⟨_, rfl, by decide⟩, ⟨_, rfl, by decide⟩, trivial⟩
theorem as_Times_15 : ga_Ass "LoanNames$Times" [15] := ⟨⟨_, rfl, Or.inl rfl⟩, trivial⟩
theorem vc_X15_31_8 : ga_VCs RX15 31 1 ga_mt [(8, 57)] := ⟨⟨ga_VC_V (y := ga_mt 57) 1 q1011 q972 q973 q99 q974 (by decide +kernel), by decide⟩, trivial⟩
theorem vc_X15_35_8 : ga_VCs RX15 35 1 ga_mt [(8, 58)] := ⟨⟨ga_VC_V (y := ga_mt 58) 1 q1067 q944 q945 q99 q946 (by decide +kernel), by decide⟩, trivial⟩
theorem fl_X15_39_8 : ga_FLs RX15 39 1 [8] := ⟨⟨RX8, TX8, 2, "LoanNames$All", rfl, by decide, in_X8, Or.inl q427, Or.inl rfl⟩, trivial⟩
theorem vc_X15_45_15 : ga_VCs RX15 45 0 ga_mt [(15, 64)] := ⟨⟨ga_VC_U (y := ga_mt 64) (owner := "LoanNames$Part") (x := ⟨"LoanNames$Times", "alone", "()LLoanNames$All;"⟩) 0 q1069 q1070 q1071 q962 q100 q963 rfl (by decide +kernel), by decide⟩, trivial⟩
theorem nw_X15_8 : ga_NW RX15 8 15 tyX15 := ⟨RX15, TX15, 2, rfl, in_X15, tyX15_ok, q1010, q619, q106⟩
theorem ic_X15_42_15 : ga_ICs RX15 42 2 (ga_mt 95) [15] := ⟨ga_IC_I 2 q1068 q621 q106 q622 rfl (by decide +kernel), trivial⟩
theorem fw_X15_49_22 : ga_FWs RX15 49 0 .int false [22] := ⟨⟨RX22, TX22, 1, "LoanNames$Plain", tyX22, rfl, by decide, in_X22, tyX22_ok, nmX22, q936, Or.inl rfl, rfl, rfl, fun h => by cases h⟩, trivial⟩
theorem fl_X15_49_22 : ga_FLs RX15 49 0 [22] := ⟨⟨RX22, TX22, 1, "LoanNames$Plain", rfl, by decide, in_X22, Or.inl q936, Or.inl rfl⟩, trivial⟩
theorem nw_X15_18 : ga_NW RX15 18 8 tyX8 := ⟨RX8, TX8, 2, rfl, in_X8, tyX8_ok, q1072, q416, q99⟩
theorem ic_X15_54_8 : ga_ICs RX15 54 0 (ga_mt 59) [8] := ⟨ga_IC_N 0 (List.mem_filter.mpr ⟨q1073, rfl⟩) q418 q99 q419 rfl (by decide +kernel), trivial⟩
theorem ic_X15_1_15 : ga_ICs RX15 1 0 (ga_mt 65) [15] := ⟨ga_IC_N 0 (List.mem_filter.mpr ⟨q623, rfl⟩) q507 q100 q508 rfl (by decide +kernel), trivial⟩
theorem fw_X15_7_15 : ga_FWs RX15 7 0 .int true [15] := ⟨⟨RX15, TX15, 2, "LoanNames$Times", tyX15, rfl, by decide, in_X15, tyX15_ok, nmX15, q624, Or.inl rfl, rfl, rfl, fun _ => rfl⟩, trivial⟩
theorem fw_X15_13_15 : ga_FWs RX15 13 1 (.object "LoanNames$All") true [15] := ⟨⟨RX15, TX15, 2, "LoanNames$Times", tyX15, rfl, by decide, in_X15, tyX15_ok, nmX15, q625, Or.inl rfl, rfl, rfl, fun _ => rfl⟩, trivial⟩
theorem vc_X16_20_8 : ga_VCs RX16 20 4 ga_mt [(8, 54)] := ⟨⟨ga_VC_V (y := ga_mt 54) 4 q1118 q1092 q1093 q99 q1094 (by decide +kernel), by decide⟩, trivial⟩
theorem vc_X16_16_17_18 : ga_VCs RX16 16 1 ga_mt [(17, 102), (18, 106)] := ⟨⟨ga_VC_A (y := ga_mt 102) (owner := "LoanNames$Fork") (x := ⟨"LoanNames$Fork", "isFirst", "(I)Z"⟩) 1 q1105 q1107 q1114 q1115 q108 q1116 (List.mem_filter.mpr ⟨q1106, rfl⟩) (by decide +kernel), by decide⟩, ⟨ga_VC_A (y := ga_mt 106) (owner := "LoanNames$Fork") (x := ⟨"LoanNames$Fork", "isFirst", "(I)Z"⟩) 1 q1105 q1107 q1108 q1109 q109 q1110 (List.mem_filter.mpr ⟨q1106, rfl⟩) (by decide +kernel), by decide⟩, trivial⟩
theorem fl_X16_7_17_18 : ga_FLs RX16 7 0 [17, 18] := ⟨⟨RX17, TX17, 3, "LoanNames$Fork", rfl, by decide, in_X17, Or.inl q647, Or.inl rfl⟩, ⟨RX18, TX18, 4, "LoanNames$Fork", rfl, by decide, in_X18, Or.inl q647, Or.inl rfl⟩, trivial⟩
theorem fl_X16_13_17_18 : ga_FLs RX16 13 1 [17, 18] := ⟨⟨RX17, TX17, 3, "LoanNames$Fork", rfl, by decide, in_X17, Or.inl q648, Or.inl rfl⟩, ⟨RX18, TX18, 4, "LoanNames$Fork", rfl, by decide, in_X18, Or.inl q648, Or.inl rfl⟩, trivial⟩
theorem vc_X16_26_8 : ga_VCs RX16 26 2 ga_mt [(8, 55)] := ⟨⟨ga_VC_V (y := ga_mt 55) 2 q714 q701 q702 q99 q703 (by decide +kernel), by decide⟩, trivial⟩
theorem vc_X16_30_8 : ga_VCs RX16 30 0 ga_mt [(8, 56)] := ⟨⟨ga_VC_V (y := ga_mt 56) 0 q1012 q1013 q1014 q99 q1015 (by decide +kernel), by decide⟩, trivial⟩
theorem ns_Fork_11_12_13_14_15 : ga_Nss "LoanNames$Fork" [11, 12, 13, 14, 15] := ⟨⟨_, rfl, by decide⟩, ⟨_, rfl, by decide⟩, ⟨_, rfl, by decide⟩, ⟨_, rfl, by decide⟩, ⟨_, rfl, by decide⟩, trivial⟩
theorem as_Fork_17_18 : ga_Ass "LoanNames$Fork" [17, 18] := ⟨⟨_, rfl, Or.inr (List.mem_filter.mpr ⟨q2150, rfl⟩)⟩, ⟨_, rfl, Or.inr (List.mem_filter.mpr ⟨q2149, rfl⟩)⟩, trivial⟩
theorem vc_X16_34_17_18 : ga_VCs RX16 34 1 ga_mt [(17, 103), (18, 107)] := ⟨⟨ga_VC_A (y := ga_mt 103) (owner := "LoanNames$Fork") (x := ⟨"LoanNames$Fork", "isOfKind", "(LLoanNames$Fork;)Z"⟩) 1 q986 q988 q993 q994 q108 q995 (List.mem_filter.mpr ⟨q987, rfl⟩) (by decide +kernel), by decide⟩, ⟨ga_VC_A (y := ga_mt 107) (owner := "LoanNames$Fork") (x := ⟨"LoanNames$Fork", "isOfKind", "(LLoanNames$Fork;)Z"⟩) 1 q986 q988 q989 q990 q109 q991 (List.mem_filter.mpr ⟨q987, rfl⟩) (by decide +kernel), by decide⟩, trivial⟩
theorem vc_X16_38_8 : ga_VCs RX16 38 1 ga_mt [(8, 57)] := ⟨⟨ga_VC_V (y := ga_mt 57) 1 q971 q972 q973 q99 q974 (by decide +kernel), by decide⟩, trivial⟩
theorem vc_X16_42_8 : ga_VCs RX16 42 1 ga_mt [(8, 58)] := ⟨⟨ga_VC_V (y := ga_mt 58) 1 q970 q944 q945 q99 q946 (by decide +kernel), by decide⟩, trivial⟩
theorem fw_X16_46_22 : ga_FWs RX16 46 0 .int false [22] := ⟨⟨RX22, TX22, 1, "LoanNames$Plain", tyX22, rfl, by decide, in_X22, tyX22_ok, nmX22, q938, Or.inl rfl, rfl, rfl, fun h => by cases h⟩, trivial⟩
theorem fl_X16_46_22 : ga_FLs RX16 46 0 [22] := ⟨⟨RX22, TX22, 1, "LoanNames$Plain", rfl, by decide, in_X22, Or.inl q938, Or.inl rfl⟩, trivial⟩
theorem vc_X16_56_17_18 : ga_VCs RX16 56 0 ga_mt [(17, 64), (18, 64)] := ⟨⟨ga_VC_U (y := ga_mt 64) (owner := "LoanNames$Part") (x := ⟨"LoanNames$Fork", "alone", "()LLoanNames$All;"⟩) 0 q1049 q1050 q1052 q962 q100 q963 rfl (by decide +kernel), by decide⟩, ⟨ga_VC_U (y := ga_mt 64) (owner := "LoanNames$Part") (x := ⟨"LoanNames$Fork", "alone", "()LLoanNames$All;"⟩) 0 q1049 q1050 q1051 q962 q100 q963 rfl (by decide +kernel), by decide⟩, trivial⟩
theorem vc_X16_52_17_18 : ga_VCs RX16 52 2 ga_mt [(17, 104), (18, 108)] := ⟨⟨ga_VC_A (y := ga_mt 104) (owner := "LoanNames$Fork") (x := ⟨"LoanNames$Fork", "with", "(LLoanNames$All;LLoanNames$All;)LLoanNames$Fork;"⟩) 2 q1038 q1040 q1045 q1046 q108 q1047 (List.mem_filter.mpr ⟨q1039, rfl⟩) (by decide +kernel), by decide⟩, ⟨ga_VC_A (y := ga_mt 108) (owner := "LoanNames$Fork") (x := ⟨"LoanNames$Fork", "with", "(LLoanNames$All;LLoanNames$All;)LLoanNames$Fork;"⟩) 2 q1038 q1040 q1041 q1042 q109 q1043 (List.mem_filter.mpr ⟨q1039, rfl⟩) (by decide +kernel), by decide⟩, trivial⟩
theorem ic_X16_1_17_18 : ga_ICs RX16 1 0 (ga_mt 65) [17, 18] := ⟨ga_IC_N 0 (List.mem_filter.mpr ⟨q645, rfl⟩) q507 q100 q508 rfl (by decide +kernel), ga_IC_N 0 (List.mem_filter.mpr ⟨q645, rfl⟩) q507 q100 q508 rfl (by decide +kernel), trivial⟩
theorem fw_X16_7_17_18 : ga_FWs RX16 7 0 (.object "LoanNames$All") true [17, 18] := ⟨⟨RX17, TX17, 3, "LoanNames$Fork", tyX17, rfl, by decide, in_X17, tyX17_ok, nmX17, q647, Or.inl rfl, rfl, rfl, fun _ => rfl⟩, ⟨RX18, TX18, 4, "LoanNames$Fork", tyX18, rfl, by decide, in_X18, tyX18_ok, nmX18, q647, Or.inl rfl, rfl, rfl, fun _ => rfl⟩, trivial⟩
theorem fw_X16_13_17_18 : ga_FWs RX16 13 1 (.object "LoanNames$All") true [17, 18] := ⟨⟨RX17, TX17, 3, "LoanNames$Fork", tyX17, rfl, by decide, in_X17, tyX17_ok, nmX17, q648, Or.inl rfl, rfl, rfl, fun _ => rfl⟩, ⟨RX18, TX18, 4, "LoanNames$Fork", tyX18, rfl, by decide, in_X18, tyX18_ok, nmX18, q648, Or.inl rfl, rfl, rfl, fun _ => rfl⟩, trivial⟩
theorem sc_X17_13 : ga_SC RX17 13 (ga_mt 1) 2 := ga_SC_N (y := ga_mt 1) 2 (List.mem_filter.mpr ⟨q1117, rfl⟩) q1112 q91 q1113 (by decide +kernel)
theorem fl_X17_7_17 : ga_FLs RX17 7 2 [17] := ⟨⟨RX17, TX17, 3, "LoanNames$If", rfl, by decide, in_X17, Or.inl q646, Or.inl rfl⟩, trivial⟩
theorem ns_If_18 : ga_Nss "LoanNames$If" [18] := ⟨⟨_, rfl, by decide⟩, trivial⟩
theorem as_If_17 : ga_Ass "LoanNames$If" [17] := ⟨⟨_, rfl, Or.inl rfl⟩, trivial⟩
theorem nw_X17_8 : ga_NW RX17 8 17 tyX17 := ⟨RX17, TX17, 3, rfl, in_X17, tyX17_ok, q996, q636, q108⟩
theorem ic_X17_19_17 : ga_ICs RX17 19 3 (ga_mt 105) [17] := ⟨ga_IC_I 3 q1048 q640 q108 q641 rfl (by decide +kernel), trivial⟩
theorem ic_X17_1_17 : ga_ICs RX17 1 2 (ga_mt 101) [17] := ⟨ga_IC_I 2 q642 q643 q107 q644 rfl (by decide +kernel), trivial⟩
theorem fw_X17_7_17 : ga_FWs RX17 7 2 .int true [17] := ⟨⟨RX17, TX17, 3, "LoanNames$If", tyX17, rfl, by decide, in_X17, tyX17_ok, nmX17, q646, Or.inl rfl, rfl, rfl, fun _ => rfl⟩, trivial⟩
theorem sc_X18_18 : ga_SC RX18 18 (ga_mt 1) 2 := ga_SC_N (y := ga_mt 1) 2 (List.mem_filter.mpr ⟨q1111, rfl⟩) q1112 q91 q1113 (by decide +kernel)
theorem fl_X18_15_18 : ga_FLs RX18 15 3 [18] := ⟨⟨RX18, TX18, 4, "LoanNames$Choice", rfl, by decide, in_X18, Or.inl q671, Or.inl rfl⟩, trivial⟩
theorem ns_Choice_17 : ga_Nss "LoanNames$Choice" [17] := ⟨⟨_, rfl, by decide⟩, trivial⟩
theorem as_Choice_18 : ga_Ass "LoanNames$Choice" [18] := ⟨⟨_, rfl, Or.inl rfl⟩, trivial⟩
theorem fl_X18_9_18 : ga_FLs RX18 9 2 [18] := ⟨⟨RX18, TX18, 4, "LoanNames$Choice", rfl, by decide, in_X18, Or.inl q670, Or.inl rfl⟩, trivial⟩
theorem nw_X18_10 : ga_NW RX18 10 18 tyX18 := ⟨RX18, TX18, 4, rfl, in_X18, tyX18_ok, q992, q663, q109⟩
theorem ic_X18_22_18 : ga_ICs RX18 22 4 (ga_mt 110) [18] := ⟨ga_IC_I 4 q1044 q667 q109 q668 rfl (by decide +kernel), trivial⟩
theorem ic_X18_3_18 : ga_ICs RX18 3 2 (ga_mt 101) [18] := ⟨ga_IC_I 2 q669 q643 q107 q644 rfl (by decide +kernel), trivial⟩
theorem fw_X18_9_18 : ga_FWs RX18 9 2 .int true [18] := ⟨⟨RX18, TX18, 4, "LoanNames$Choice", tyX18, rfl, by decide, in_X18, tyX18_ok, nmX18, q670, Or.inl rfl, rfl, rfl, fun _ => rfl⟩, trivial⟩
theorem fw_X18_15_18 : ga_FWs RX18 15 3 .int true [18] := ⟨⟨RX18, TX18, 4, "LoanNames$Choice", tyX18, rfl, by decide, in_X18, tyX18_ok, nmX18, q671, Or.inl rfl, rfl, rfl, fun _ => rfl⟩, trivial⟩
theorem fl_X19_10_19 : ga_FLs RX19 10 5 [19] := ⟨⟨RX19, TX19, 6, "LoanNames$Deal", rfl, by decide, in_X19, Or.inl q742, Or.inl rfl⟩, trivial⟩
theorem fl_X19_39_3 : ga_FLs RX19 39 2 [3] := ⟨⟨RX3, TX3, 3, "LoanNames$LeafRow", rfl, by decide, in_X3, Or.inl q175, Or.inl rfl⟩, trivial⟩
theorem fl_X19_42_3 : ga_FLs RX19 42 0 [3] := ⟨⟨RX3, TX3, 3, "LoanNames$LeafRow", rfl, by decide, in_X3, Or.inl q167, Or.inl rfl⟩, trivial⟩
theorem fl_X19_45_11_12_13 : ga_FLs RX19 45 2 [11, 12, 13] := ⟨⟨RX11, TX11, 7, "LoanNames$Leaf", rfl, by decide, in_X11, Or.inl q532, Or.inl rfl⟩, ⟨RX12, TX12, 7, "LoanNames$Leaf", rfl, by decide, in_X12, Or.inl q532, Or.inl rfl⟩, ⟨RX13, TX13, 6, "LoanNames$Leaf", rfl, by decide, in_X13, Or.inl q532, Or.inl rfl⟩, trivial⟩
theorem nw_X19_7 : ga_NW RX19 7 3 tyX3 := ⟨RX3, TX3, 3, rfl, in_X3, tyX3_ok, q698, q159, q94⟩
theorem ic_X19_9_3 : ga_ICs RX19 9 0 (ga_mt 63) [3] := ⟨ga_IC_N 0 (List.mem_filter.mpr ⟨q699, rfl⟩) q161 q94 q162 rfl (by decide +kernel), trivial⟩
theorem fw_X19_10_19 : ga_FWs RX19 10 5 (.object "LoanNames$LeafRow") true [19] := ⟨⟨RX19, TX19, 6, "LoanNames$Deal", tyX19, rfl, by decide, in_X19, tyX19_ok, nmX19, q742, Or.inl rfl, rfl, rfl, fun _ => rfl⟩, trivial⟩
theorem fw_X19_16_19 : ga_FWs RX19 16 0 .int true [19] := ⟨⟨RX19, TX19, 6, "LoanNames$Deal", tyX19, rfl, by decide, in_X19, tyX19_ok, nmX19, q729, Or.inl rfl, rfl, rfl, fun _ => rfl⟩, trivial⟩
theorem fw_X19_20_19 : ga_FWs RX19 20 1 .int true [19] := ⟨⟨RX19, TX19, 6, "LoanNames$Deal", tyX19, rfl, by decide, in_X19, tyX19_ok, nmX19, q731, Or.inl rfl, rfl, rfl, fun _ => rfl⟩, trivial⟩
theorem fw_X19_23_19 : ga_FWs RX19 23 4 (.object "LoanNames$All") true [19] := ⟨⟨RX19, TX19, 6, "LoanNames$Deal", tyX19, rfl, by decide, in_X19, tyX19_ok, nmX19, q739, Or.inl rfl, rfl, rfl, fun _ => rfl⟩, trivial⟩
theorem fw_X19_27_19 : ga_FWs RX19 27 2 .int true [19] := ⟨⟨RX19, TX19, 6, "LoanNames$Deal", tyX19, rfl, by decide, in_X19, tyX19_ok, nmX19, q733, Or.inl rfl, rfl, rfl, fun _ => rfl⟩, trivial⟩
theorem fw_X19_30_19 : ga_FWs RX19 30 3 .int true [19] := ⟨⟨RX19, TX19, 6, "LoanNames$Deal", tyX19, rfl, by decide, in_X19, tyX19_ok, nmX19, q736, Or.inl rfl, rfl, rfl, fun _ => rfl⟩, trivial⟩
theorem vc_X19_33_8 : ga_VCs RX19 33 2 ga_mt [(8, 55)] := ⟨⟨ga_VC_V (y := ga_mt 55) 2 q700 q701 q702 q99 q703 (by decide +kernel), by decide⟩, trivial⟩
theorem fl_X6_15_7_20 : ga_FLs RX6 15 1 [7, 20] := ⟨⟨RX7, TX7, 11, "LoanNames$Reader", rfl, by decide, in_X7, Or.inl q366, Or.inl rfl⟩, ⟨RX20, TX20, 8, "LoanNames$Reader", rfl, by decide, in_X20, Or.inl q366, Or.inl rfl⟩, trivial⟩
theorem fl_X6_9_7_20 : ga_FLs RX6 9 0 [7, 20] := ⟨⟨RX7, TX7, 11, "LoanNames$Reader", rfl, by decide, in_X7, Or.inl q365, Or.inl rfl⟩, ⟨RX20, TX20, 8, "LoanNames$Reader", rfl, by decide, in_X20, Or.inl q365, Or.inl rfl⟩, trivial⟩
theorem fl_X6_22_7_20 : ga_FLs RX6 22 2 [7, 20] := ⟨⟨RX7, TX7, 11, "LoanNames$Reader", rfl, by decide, in_X7, Or.inl q367, Or.inl rfl⟩, ⟨RX20, TX20, 8, "LoanNames$Reader", rfl, by decide, in_X20, Or.inl q367, Or.inl rfl⟩, trivial⟩
theorem fw_X6_22_7_20 : ga_FWs RX6 22 2 .int false [7, 20] := ⟨⟨RX7, TX7, 11, "LoanNames$Reader", tyX7, rfl, by decide, in_X7, tyX7_ok, nmX7, q367, Or.inl rfl, rfl, rfl, fun h => by cases h⟩, ⟨RX20, TX20, 8, "LoanNames$Reader", tyX20, rfl, by decide, in_X20, tyX20_ok, nmX20, q367, Or.inl rfl, rfl, rfl, fun h => by cases h⟩, trivial⟩
theorem fw_X6_25_7_20 : ga_FWs RX6 25 3 .int false [7, 20] := ⟨⟨RX7, TX7, 11, "LoanNames$Reader", tyX7, rfl, by decide, in_X7, tyX7_ok, nmX7, q368, Or.inl rfl, rfl, rfl, fun h => by cases h⟩, ⟨RX20, TX20, 8, "LoanNames$Reader", tyX20, rfl, by decide, in_X20, tyX20_ok, nmX20, q368, Or.inl rfl, rfl, rfl, fun h => by cases h⟩, trivial⟩
theorem fw_X6_28_7_20 : ga_FWs RX6 28 5 .long false [7, 20] := ⟨⟨RX7, TX7, 11, "LoanNames$Reader", tyX7, rfl, by decide, in_X7, tyX7_ok, nmX7, q376, Or.inl rfl, rfl, rfl, fun h => by cases h⟩, ⟨RX20, TX20, 8, "LoanNames$Reader", tyX20, rfl, by decide, in_X20, tyX20_ok, nmX20, q376, Or.inl rfl, rfl, rfl, fun h => by cases h⟩, trivial⟩
theorem fw_X6_32_7_20 : ga_FWs RX6 32 4 .int false [7, 20] := ⟨⟨RX7, TX7, 11, "LoanNames$Reader", tyX7, rfl, by decide, in_X7, tyX7_ok, nmX7, q373, Or.inl rfl, rfl, rfl, fun h => by cases h⟩, ⟨RX20, TX20, 8, "LoanNames$Reader", tyX20, rfl, by decide, in_X20, tyX20_ok, nmX20, q373, Or.inl rfl, rfl, rfl, fun h => by cases h⟩, trivial⟩
theorem vc_X6_35_7_20 : ga_VCs RX6 35 1 ga_mt [(7, 113), (20, 113)] := ⟨⟨ga_VC_P (y := ga_mt 113) 1 q348 q350 (by decide +kernel) q97 q351 (by decide +kernel), by decide⟩, ⟨ga_VC_P (y := ga_mt 113) 1 q348 q350 (by decide +kernel) q97 q351 (by decide +kernel), by decide⟩, trivial⟩
theorem fl_X6_25_7_20 : ga_FLs RX6 25 3 [7, 20] := ⟨⟨RX7, TX7, 11, "LoanNames$Reader", rfl, by decide, in_X7, Or.inl q368, Or.inl rfl⟩, ⟨RX20, TX20, 8, "LoanNames$Reader", rfl, by decide, in_X20, Or.inl q368, Or.inl rfl⟩, trivial⟩
theorem fl_X6_28_7_20 : ga_FLs RX6 28 5 [7, 20] := ⟨⟨RX7, TX7, 11, "LoanNames$Reader", rfl, by decide, in_X7, Or.inl q376, Or.inl rfl⟩, ⟨RX20, TX20, 8, "LoanNames$Reader", rfl, by decide, in_X20, Or.inl q376, Or.inl rfl⟩, trivial⟩
theorem vc_X6_41_7_20 : ga_VCs RX6 41 1 ga_mt [(7, 114), (20, 114)] := ⟨⟨ga_VC_P (y := ga_mt 114) 1 q353 q355 (by decide +kernel) q97 q356 (by decide +kernel), by decide⟩, ⟨ga_VC_P (y := ga_mt 114) 1 q353 q355 (by decide +kernel) q97 q356 (by decide +kernel), by decide⟩, trivial⟩
theorem vc_X6_19_7_20 : ga_VCs RX6 19 0 ga_mt [(7, 115), (20, 115)] := ⟨⟨ga_VC_P (y := ga_mt 115) 0 q343 q345 (by decide +kernel) q97 q347 (by decide +kernel), by decide⟩, ⟨ga_VC_P (y := ga_mt 115) 0 q343 q345 (by decide +kernel) q97 q347 (by decide +kernel), by decide⟩, trivial⟩
theorem fl_X6_48_7_20 : ga_FLs RX6 48 6 [7, 20] := ⟨⟨RX7, TX7, 11, "LoanNames$Reader", rfl, by decide, in_X7, Or.inl q383, Or.inl rfl⟩, ⟨RX20, TX20, 8, "LoanNames$Reader", rfl, by decide, in_X20, Or.inl q383, Or.inl rfl⟩, trivial⟩
theorem fl_X6_32_7_20 : ga_FLs RX6 32 4 [7, 20] := ⟨⟨RX7, TX7, 11, "LoanNames$Reader", rfl, by decide, in_X7, Or.inl q373, Or.inl rfl⟩, ⟨RX20, TX20, 8, "LoanNames$Reader", rfl, by decide, in_X20, Or.inl q373, Or.inl rfl⟩, trivial⟩
theorem vc_X6_52_7_20 : ga_VCs RX6 52 2 ga_mt [(7, 117), (20, 117)] := ⟨⟨ga_VC_U (y := ga_mt 117) (owner := "LoanNames$Reader") (x := ⟨"LoanNames$Reader", "is", "(IJ)Z"⟩) 2 q485 q487 q488 q486 q97 q490 rfl (by decide +kernel), by decide⟩, ⟨ga_VC_U (y := ga_mt 117) (owner := "LoanNames$Reader") (x := ⟨"LoanNames$Reader", "is", "(IJ)Z"⟩) 2 q485 q487 q489 q486 q97 q490 rfl (by decide +kernel), by decide⟩, trivial⟩
theorem vc_X6_56_7_20 : ga_VCs RX6 56 0 ga_mt [(7, 116), (20, 116)] := ⟨⟨ga_VC_U (y := ga_mt 116) (owner := "LoanNames$Reader") (x := ⟨"LoanNames$Reader", "pass", "()V"⟩) 0 q461 q2145 q2146 q450 q97 q451 rfl (by decide +kernel), by decide⟩, ⟨ga_VC_U (y := ga_mt 116) (owner := "LoanNames$Reader") (x := ⟨"LoanNames$Reader", "pass", "()V"⟩) 0 q461 q2145 q2147 q450 q97 q451 rfl (by decide +kernel), by decide⟩, trivial⟩
theorem vc_X6_59_7_20 : ga_VCs RX6 59 2 ga_mt [(7, 118), (20, 118)] := ⟨⟨ga_VC_U (y := ga_mt 118) (owner := "LoanNames$Reader") (x := ⟨"LoanNames$Reader", "takes", "(IJ)Z"⟩) 2 q479 q481 q482 q480 q97 q484 rfl (by decide +kernel), by decide⟩, ⟨ga_VC_U (y := ga_mt 118) (owner := "LoanNames$Reader") (x := ⟨"LoanNames$Reader", "takes", "(IJ)Z"⟩) 2 q479 q481 q483 q480 q97 q484 rfl (by decide +kernel), by decide⟩, trivial⟩
theorem fw_X6_48_7_20 : ga_FWs RX6 48 6 .boolean false [7, 20] := ⟨⟨RX7, TX7, 11, "LoanNames$Reader", tyX7, rfl, by decide, in_X7, tyX7_ok, nmX7, q383, Or.inl rfl, rfl, rfl, fun h => by cases h⟩, ⟨RX20, TX20, 8, "LoanNames$Reader", tyX20, rfl, by decide, in_X20, tyX20_ok, nmX20, q383, Or.inl rfl, rfl, rfl, fun h => by cases h⟩, trivial⟩
theorem sc_X6_62 : ga_SC RX6 62 (ga_mt 0) 3 := ga_SC_N (y := ga_mt 0) 3 (List.mem_filter.mpr ⟨q470, rfl⟩) q324 q91 q325 (by decide +kernel)
theorem sc_X6_66 : ga_SC RX6 66 (ga_mt 2) 2 := ga_SC_N (y := ga_mt 2) 2 (List.mem_filter.mpr ⟨q460, rfl⟩) q440 q91 q441 (by decide +kernel)
theorem fw_X6_9_7_20 : ga_FWs RX6 9 0 (.array .byte) true [7, 20] := ⟨⟨RX7, TX7, 11, "LoanNames$Reader", tyX7, rfl, by decide, in_X7, tyX7_ok, nmX7, q365, Or.inl rfl, rfl, rfl, fun _ => rfl⟩, ⟨RX20, TX20, 8, "LoanNames$Reader", tyX20, rfl, by decide, in_X20, tyX20_ok, nmX20, q365, Or.inl rfl, rfl, rfl, fun _ => rfl⟩, trivial⟩
theorem fw_X6_15_7_20 : ga_FWs RX6 15 1 .int true [7, 20] := ⟨⟨RX7, TX7, 11, "LoanNames$Reader", tyX7, rfl, by decide, in_X7, tyX7_ok, nmX7, q366, Or.inl rfl, rfl, rfl, fun _ => rfl⟩, ⟨RX20, TX20, 8, "LoanNames$Reader", tyX20, rfl, by decide, in_X20, tyX20_ok, nmX20, q366, Or.inl rfl, rfl, rfl, fun _ => rfl⟩, trivial⟩
theorem vc_X7_9_7 : ga_VCs RX7 9 0 ga_mt [(7, 125)] := ⟨⟨ga_VC_V (y := ga_mt 125) 0 q411 q413 qs3 q98 q414 (by decide +kernel), by decide⟩, trivial⟩
theorem fl_X7_15_7 : ga_FLs RX7 15 6 [7] := ⟨⟨RX7, TX7, 11, "LoanNames$DealReader", rfl, by decide, in_X7, Or.inl q381, Or.inr q382⟩, trivial⟩
theorem fl_X7_19_7 : ga_FLs RX7 19 4 [7] := ⟨⟨RX7, TX7, 11, "LoanNames$DealReader", rfl, by decide, in_X7, Or.inl q371, Or.inr q372⟩, trivial⟩
theorem fw_X7_15_7 : ga_FWs RX7 15 6 .boolean false [7] := ⟨⟨RX7, TX7, 11, "LoanNames$DealReader", tyX7, rfl, by decide, in_X7, tyX7_ok, nmX7, q381, Or.inr q382, rfl, rfl, fun h => by cases h⟩, trivial⟩
theorem nw_X7_23 : ga_NW RX7 23 8 tyX8 := ⟨RX8, TX8, 2, rfl, in_X8, tyX8_ok, q415, q416, q99⟩
theorem ic_X7_25_8 : ga_ICs RX7 25 0 (ga_mt 59) [8] := ⟨ga_IC_N 0 (List.mem_filter.mpr ⟨q417, rfl⟩) q418 q99 q419 rfl (by decide +kernel), trivial⟩
theorem vc_X7_32_8 : ga_VCs RX7 32 1 ga_mt [(8, 52)] := ⟨⟨ga_VC_V (y := ga_mt 52) 1 q679 q680 q681 q99 q682 (by decide +kernel), by decide⟩, trivial⟩
theorem vc_X7_28_7 : ga_VCs RX7 28 0 ga_mt [(7, 127)] := ⟨⟨ga_VC_V (y := ga_mt 127) 0 q433 q435 qs4 q98 q436 (by decide +kernel), by decide⟩, trivial⟩
theorem vc_X7_38_7 : ga_VCs RX7 38 2 ga_mt [(7, 118)] := ⟨⟨ga_VC_U (y := ga_mt 118) (owner := "LoanNames$Reader") (x := ⟨"LoanNames$DealReader", "takes", "(IJ)Z"⟩) 2 q578 q579 q581 q480 q97 q484 rfl (by decide +kernel), by decide⟩, trivial⟩
theorem vc_X7_44_7 : ga_VCs RX7 44 2 ga_mt [(7, 117)] := ⟨⟨ga_VC_U (y := ga_mt 117) (owner := "LoanNames$Reader") (x := ⟨"LoanNames$DealReader", "is", "(IJ)Z"⟩) 2 q600 q601 q603 q486 q97 q490 rfl (by decide +kernel), by decide⟩, trivial⟩
theorem fl_X7_47_7 : ga_FLs RX7 47 10 [7] := ⟨⟨RX7, TX7, 11, "LoanNames$DealReader", rfl, by decide, in_X7, Or.inl q364, Or.inl rfl⟩, trivial⟩
theorem fw_X7_47_7 : ga_FWs RX7 47 10 .int false [7] := ⟨⟨RX7, TX7, 11, "LoanNames$DealReader", tyX7, rfl, by decide, in_X7, tyX7_ok, nmX7, q364, Or.inl rfl, rfl, rfl, fun h => by cases h⟩, trivial⟩
theorem vc_X7_50_7 : ga_VCs RX7 50 0 ga_mt [(7, 116)] := ⟨⟨ga_VC_U (y := ga_mt 116) (owner := "LoanNames$Reader") (x := ⟨"LoanNames$DealReader", "pass", "()V"⟩) 0 q446 q447 q449 q450 q97 q451 rfl (by decide +kernel), by decide⟩, trivial⟩
theorem vc_X7_55_7 : ga_VCs RX7 55 2 ga_mt [(7, 119)] := ⟨⟨ga_VC_U (y := ga_mt 119) (owner := "LoanNames$Reader") (x := ⟨"LoanNames$DealReader", "needs", "(IJ)V"⟩) 2 q473 q474 q476 q477 q97 q478 rfl (by decide +kernel), by decide⟩, trivial⟩
theorem sc_X7_67 : ga_SC RX7 67 (ga_mt 2) 2 := ga_SC_N (y := ga_mt 2) 2 (List.mem_filter.mpr ⟨q439, rfl⟩) q440 q91 q441 (by decide +kernel)
theorem sl_X7_59 : ga_SL RX7 59 "FORM_NAMES" "[J" := Or.inr ⟨"LoanNames", (List.mem_filter.mpr ⟨q437, rfl⟩)⟩
theorem fl_X7_63_7 : ga_FLs RX7 63 5 [7] := ⟨⟨RX7, TX7, 11, "LoanNames$DealReader", rfl, by decide, in_X7, Or.inl q377, Or.inr q378⟩, trivial⟩
theorem vc_X7_71_7 : ga_VCs RX7 71 1 ga_mt [(7, 129)] := ⟨⟨ga_VC_V (y := ga_mt 129) 1 q442 q444 qs5 q98 q445 (by decide +kernel), by decide⟩, trivial⟩
theorem sl_X7_75 : ga_SL RX7 75 "AFTER" "J" := Or.inr ⟨"LoanNames", (List.mem_filter.mpr ⟨q591, rfl⟩)⟩
theorem vc_X7_78_7 : ga_VCs RX7 78 2 ga_mt [(7, 120)] := ⟨⟨ga_VC_U (y := ga_mt 120) (owner := "LoanNames$Reader") (x := ⟨"LoanNames$DealReader", "number", "(II)I"⟩) 2 q464 q465 q467 q468 q97 q469 rfl (by decide +kernel), by decide⟩, trivial⟩
theorem nw_X7_82 : ga_NW RX7 82 14 tyX14 := ⟨RX14, TX14, 2, rfl, in_X14, tyX14_ok, q593, q594, q105⟩
theorem ic_X7_87_14 : ga_ICs RX7 87 2 (ga_mt 89) [14] := ⟨ga_IC_I 2 q605 q606 q105 q607 rfl (by decide +kernel), trivial⟩
theorem vc_X7_84_7 : ga_VCs RX7 84 0 ga_mt [(7, 126)] := ⟨⟨ga_VC_V (y := ga_mt 126) 0 q595 q597 qs6 q98 q598 (by decide +kernel), by decide⟩, trivial⟩
theorem sl_X7_90 : ga_SL RX7 90 "TIMES" "J" := Or.inr ⟨"LoanNames", (List.mem_filter.mpr ⟨q616, rfl⟩)⟩
theorem nw_X7_93 : ga_NW RX7 93 15 tyX15 := ⟨RX15, TX15, 2, rfl, in_X15, tyX15_ok, q618, q619, q106⟩
theorem ic_X7_95_15 : ga_ICs RX7 95 2 (ga_mt 95) [15] := ⟨ga_IC_I 2 q620 q621 q106 q622 rfl (by decide +kernel), trivial⟩
theorem sl_X7_96 : ga_SL RX7 96 "IF" "J" := Or.inr ⟨"LoanNames", (List.mem_filter.mpr ⟨q631, rfl⟩)⟩
theorem vc_X7_102_7 : ga_VCs RX7 102 2 ga_mt [(7, 121)] := ⟨⟨ga_VC_U (y := ga_mt 121) (owner := "LoanNames$Reader") (x := ⟨"LoanNames$DealReader", "name", "([JI)I"⟩) 2 q454 q455 q457 q458 q97 q459 rfl (by decide +kernel), by decide⟩, trivial⟩
theorem sl_X7_99 : ga_SL RX7 99 "EVENT_NAMES" "[J" := Or.inr ⟨"LoanNames", (List.mem_filter.mpr ⟨q633, rfl⟩)⟩
theorem fw_X7_106_7 : ga_FWs RX7 106 9 .int false [7] := ⟨⟨RX7, TX7, 11, "LoanNames$DealReader", tyX7, rfl, by decide, in_X7, tyX7_ok, nmX7, q362, Or.inl rfl, rfl, rfl, fun h => by cases h⟩, trivial⟩
theorem fl_X7_106_7 : ga_FLs RX7 106 9 [7] := ⟨⟨RX7, TX7, 11, "LoanNames$DealReader", rfl, by decide, in_X7, Or.inl q362, Or.inl rfl⟩, trivial⟩
theorem nw_X7_109 : ga_NW RX7 109 17 tyX17 := ⟨RX17, TX17, 3, rfl, in_X17, tyX17_ok, q635, q636, q108⟩
theorem ic_X7_114_17 : ga_ICs RX7 114 3 (ga_mt 105) [17] := ⟨ga_IC_I 3 q639 q640 q108 q641 rfl (by decide +kernel), trivial⟩
theorem sl_X7_111 : ga_SL RX7 111 "ELSE" "J" := Or.inr ⟨"LoanNames", (List.mem_filter.mpr ⟨q637, rfl⟩)⟩
theorem vc_X7_117_7 : ga_VCs RX7 117 0 ga_mt [(7, 128)] := ⟨⟨ga_VC_V (y := ga_mt 128) 0 q656 q658 qs7 q98 q659 (by decide +kernel), by decide⟩, trivial⟩
theorem sl_X7_120 : ga_SL RX7 120 "CHOICE" "J" := Or.inr ⟨"LoanNames", (List.mem_filter.mpr ⟨q660, rfl⟩)⟩
theorem fl_X7_123_7 : ga_FLs RX7 123 8 [7] := ⟨⟨RX7, TX7, 11, "LoanNames$DealReader", rfl, by decide, in_X7, Or.inl q360, Or.inl rfl⟩, trivial⟩
theorem fw_X7_123_7 : ga_FWs RX7 123 8 .int false [7] := ⟨⟨RX7, TX7, 11, "LoanNames$DealReader", tyX7, rfl, by decide, in_X7, tyX7_ok, nmX7, q360, Or.inl rfl, rfl, rfl, fun h => by cases h⟩, trivial⟩
theorem sl_X7_126 : ga_SL RX7 126 "HAND_NAMES" "[J" := Or.inr ⟨"LoanNames", (List.mem_filter.mpr ⟨q452, rfl⟩)⟩
theorem nw_X7_129 : ga_NW RX7 129 18 tyX18 := ⟨RX18, TX18, 4, rfl, in_X18, tyX18_ok, q662, q663, q109⟩
theorem ic_X7_134_18 : ga_ICs RX7 134 4 (ga_mt 110) [18] := ⟨ga_IC_I 4 q666 q667 q109 q668 rfl (by decide +kernel), trivial⟩
theorem sl_X7_131 : ga_SL RX7 131 "OR" "J" := Or.inr ⟨"LoanNames", (List.mem_filter.mpr ⟨q664, rfl⟩)⟩
theorem fl_X7_137_7 : ga_FLs RX7 137 7 [7] := ⟨⟨RX7, TX7, 11, "LoanNames$DealReader", rfl, by decide, in_X7, Or.inl q359, Or.inl rfl⟩, trivial⟩
theorem fw_X7_137_7 : ga_FWs RX7 137 7 .int false [7] := ⟨⟨RX7, TX7, 11, "LoanNames$DealReader", tyX7, rfl, by decide, in_X7, tyX7_ok, nmX7, q359, Or.inl rfl, rfl, rfl, fun h => by cases h⟩, trivial⟩
theorem sl_X7_140 : ga_SL RX7 140 "THING_NAMES" "[J" := Or.inr ⟨"LoanNames", (List.mem_filter.mpr ⟨q462, rfl⟩)⟩
theorem sl_X7_143 : ga_SL RX7 143 "FOR" "J" := Or.inr ⟨"LoanNames", (List.mem_filter.mpr ⟨q471, rfl⟩)⟩
theorem sl_X7_146 : ga_SL RX7 146 "AT" "J" := Or.inr ⟨"LoanNames", (List.mem_filter.mpr ⟨q491, rfl⟩)⟩
theorem sl_X7_149 : ga_SL RX7 149 "BACK" "J" := Or.inr ⟨"LoanNames", (List.mem_filter.mpr ⟨q493, rfl⟩)⟩
theorem nw_X7_152 : ga_NW RX7 152 12 tyX12 := ⟨RX12, TX12, 7, rfl, in_X12, tyX12_ok, q495, q496, q103⟩
theorem ic_X7_154_12 : ga_ICs RX7 154 7 (ga_mt 83) [12] := ⟨ga_IC_I 7 q497 q498 q103 q499 rfl (by decide +kernel), trivial⟩
theorem nw_X7_157 : ga_NW RX7 157 13 tyX13 := ⟨RX13, TX13, 6, rfl, in_X13, tyX13_ok, q559, q560, q104⟩
theorem ic_X7_159_13 : ga_ICs RX7 159 6 (ga_mt 75) [13] := ⟨ga_IC_I 6 q561 q562 q104 q563 rfl (by decide +kernel), trivial⟩
theorem nw_X7_162 : ga_NW RX7 162 11 tyX11 := ⟨RX11, TX11, 7, rfl, in_X11, tyX11_ok, q574, q575, q102⟩
theorem ic_X7_167_11 : ga_ICs RX7 167 7 (ga_mt 80) [11] := ⟨ga_IC_I 7 q582 q501 q102 q502 rfl (by decide +kernel), trivial⟩
theorem sl_X7_164 : ga_SL RX7 164 "PAID" "J" := Or.inr ⟨"LoanNames", (List.mem_filter.mpr ⟨q576, rfl⟩)⟩
theorem ic_X7_3_7 : ga_ICs RX7 3 2 (ga_mt 123) [7] := ⟨ga_IC_I 2 q339 q340 q97 q341 rfl (by decide +kernel), trivial⟩
theorem vc_X21_37_11_12_13 : ga_VCs RX21 37 0 ga_mt [(11, 76), (12, 81), (13, 74)] := ⟨⟨ga_VC_A (y := ga_mt 76) (owner := "LoanNames$Leaf") (x := ⟨"LoanNames$Leaf", "form", "()I"⟩) 0 q1314 q894 q901 q902 q102 q903 (List.mem_filter.mpr ⟨q893, rfl⟩) (by decide +kernel), by decide⟩, ⟨ga_VC_A (y := ga_mt 81) (owner := "LoanNames$Leaf") (x := ⟨"LoanNames$Leaf", "form", "()I"⟩) 0 q1314 q894 q895 q896 q103 q897 (List.mem_filter.mpr ⟨q893, rfl⟩) (by decide +kernel), by decide⟩, ⟨ga_VC_A (y := ga_mt 74) (owner := "LoanNames$Leaf") (x := ⟨"LoanNames$Leaf", "form", "()I"⟩) 0 q1314 q894 q898 q899 q104 q900 (List.mem_filter.mpr ⟨q893, rfl⟩) (by decide +kernel), by decide⟩, trivial⟩
theorem fl_X21_42_11_12_13 : ga_FLs RX21 42 2 [11, 12, 13] := ⟨⟨RX11, TX11, 7, "LoanNames$Leaf", rfl, by decide, in_X11, Or.inl q531, Or.inl rfl⟩, ⟨RX12, TX12, 7, "LoanNames$Leaf", rfl, by decide, in_X12, Or.inl q531, Or.inl rfl⟩, ⟨RX13, TX13, 6, "LoanNames$Leaf", rfl, by decide, in_X13, Or.inl q531, Or.inl rfl⟩, trivial⟩
theorem sc_X21_49 : ga_SC RX21 49 (ga_mt 131) 3 := ga_SC_S (y := ga_mt 131) 3 q1311 q1312 q113 q1313 (by decide +kernel)
theorem fl_X21_43_3 : ga_FLs RX21 43 0 [3] := ⟨⟨RX3, TX3, 3, "LoanNames$LeafRow", rfl, by decide, in_X3, Or.inl q168, Or.inl rfl⟩, trivial⟩
theorem fl_X21_9_21 : ga_FLs RX21 9 0 [21] := ⟨⟨RX21, TX21, 8, "LoanNames$Rule", rfl, by decide, in_X21, Or.inl q834, Or.inl rfl⟩, trivial⟩
theorem fl_X21_15_21 : ga_FLs RX21 15 1 [21] := ⟨⟨RX21, TX21, 8, "LoanNames$Rule", rfl, by decide, in_X21, Or.inl q835, Or.inl rfl⟩, trivial⟩
theorem fl_X21_18_21 : ga_FLs RX21 18 2 [21] := ⟨⟨RX21, TX21, 8, "LoanNames$Rule", rfl, by decide, in_X21, Or.inl q836, Or.inl rfl⟩, trivial⟩
theorem fl_X21_21_21 : ga_FLs RX21 21 3 [21] := ⟨⟨RX21, TX21, 8, "LoanNames$Rule", rfl, by decide, in_X21, Or.inl q839, Or.inl rfl⟩, trivial⟩
theorem vc_X21_53_3 : ga_VCs RX21 53 1 ga_mt [(3, 62)] := ⟨⟨ga_VC_V (y := ga_mt 62) 1 q1323 q914 q915 q94 q916 (by decide +kernel), by decide⟩, trivial⟩
theorem fl_X21_34_21 : ga_FLs RX21 34 4 [21] := ⟨⟨RX21, TX21, 8, "LoanNames$Rule", rfl, by decide, in_X21, Or.inl q840, Or.inl rfl⟩, trivial⟩
theorem fl_X21_24_21 : ga_FLs RX21 24 5 [21] := ⟨⟨RX21, TX21, 8, "LoanNames$Rule", rfl, by decide, in_X21, Or.inl q841, Or.inl rfl⟩, trivial⟩
theorem fl_X21_57_11_12_13 : ga_FLs RX21 57 1 [11, 12, 13] := ⟨⟨RX11, TX11, 7, "LoanNames$Leaf", rfl, by decide, in_X11, Or.inl q526, Or.inl rfl⟩, ⟨RX12, TX12, 7, "LoanNames$Leaf", rfl, by decide, in_X12, Or.inl q526, Or.inl rfl⟩, ⟨RX13, TX13, 6, "LoanNames$Leaf", rfl, by decide, in_X13, Or.inl q526, Or.inl rfl⟩, trivial⟩
theorem fl_X21_60_11_12_13 : ga_FLs RX21 60 0 [11, 12, 13] := ⟨⟨RX11, TX11, 7, "LoanNames$Leaf", rfl, by decide, in_X11, Or.inl q519, Or.inl rfl⟩, ⟨RX12, TX12, 7, "LoanNames$Leaf", rfl, by decide, in_X12, Or.inl q519, Or.inl rfl⟩, ⟨RX13, TX13, 6, "LoanNames$Leaf", rfl, by decide, in_X13, Or.inl q519, Or.inl rfl⟩, trivial⟩
theorem fl_X21_28_21 : ga_FLs RX21 28 6 [21] := ⟨⟨RX21, TX21, 8, "LoanNames$Rule", rfl, by decide, in_X21, Or.inl q842, Or.inl rfl⟩, trivial⟩
theorem fl_X21_31_21 : ga_FLs RX21 31 7 [21] := ⟨⟨RX21, TX21, 8, "LoanNames$Rule", rfl, by decide, in_X21, Or.inl q843, Or.inl rfl⟩, trivial⟩
theorem vc_X21_63_11_12_13 : ga_VCs RX21 63 0 ga_mt [(11, 77), (12, 77), (13, 66)] := ⟨⟨ga_VC_O (y := ga_mt 77) (owner := "LoanNames$Leaf") (x := ⟨"LoanNames$Leaf", "forCoin", "()I"⟩) 0 q1324 q906 q905 q911 q908 q102 q909 q912 (by decide +kernel), by decide⟩, ⟨ga_VC_O (y := ga_mt 77) (owner := "LoanNames$Leaf") (x := ⟨"LoanNames$Leaf", "forCoin", "()I"⟩) 0 q1324 q906 q905 q907 q908 q102 q909 q912 (by decide +kernel), by decide⟩, ⟨ga_VC_U (y := ga_mt 66) (owner := "LoanNames$Leaf") (x := ⟨"LoanNames$Leaf", "forCoin", "()I"⟩) 0 q1324 q906 q910 q905 q101 q912 rfl (by decide +kernel), by decide⟩, trivial⟩
theorem fw_X21_9_21 : ga_FWs RX21 9 0 .int true [21] := ⟨⟨RX21, TX21, 8, "LoanNames$Rule", tyX21, rfl, by decide, in_X21, tyX21_ok, nmX21, q834, Or.inl rfl, rfl, rfl, fun _ => rfl⟩, trivial⟩
theorem fw_X21_15_21 : ga_FWs RX21 15 1 .int true [21] := ⟨⟨RX21, TX21, 8, "LoanNames$Rule", tyX21, rfl, by decide, in_X21, tyX21_ok, nmX21, q835, Or.inl rfl, rfl, rfl, fun _ => rfl⟩, trivial⟩
theorem fw_X21_18_21 : ga_FWs RX21 18 2 .int true [21] := ⟨⟨RX21, TX21, 8, "LoanNames$Rule", tyX21, rfl, by decide, in_X21, tyX21_ok, nmX21, q836, Or.inl rfl, rfl, rfl, fun _ => rfl⟩, trivial⟩
theorem fw_X21_21_21 : ga_FWs RX21 21 3 .int true [21] := ⟨⟨RX21, TX21, 8, "LoanNames$Rule", tyX21, rfl, by decide, in_X21, tyX21_ok, nmX21, q839, Or.inl rfl, rfl, rfl, fun _ => rfl⟩, trivial⟩
theorem fw_X21_24_21 : ga_FWs RX21 24 5 .boolean true [21] := ⟨⟨RX21, TX21, 8, "LoanNames$Rule", tyX21, rfl, by decide, in_X21, tyX21_ok, nmX21, q841, Or.inl rfl, rfl, rfl, fun _ => rfl⟩, trivial⟩
theorem fw_X21_28_21 : ga_FWs RX21 28 6 .boolean true [21] := ⟨⟨RX21, TX21, 8, "LoanNames$Rule", tyX21, rfl, by decide, in_X21, tyX21_ok, nmX21, q842, Or.inl rfl, rfl, rfl, fun _ => rfl⟩, trivial⟩
theorem fw_X21_31_21 : ga_FWs RX21 31 7 .boolean true [21] := ⟨⟨RX21, TX21, 8, "LoanNames$Rule", tyX21, rfl, by decide, in_X21, tyX21_ok, nmX21, q843, Or.inl rfl, rfl, rfl, fun _ => rfl⟩, trivial⟩
theorem fw_X21_34_21 : ga_FWs RX21 34 4 .int true [21] := ⟨⟨RX21, TX21, 8, "LoanNames$Rule", tyX21, rfl, by decide, in_X21, tyX21_ok, nmX21, q840, Or.inl rfl, rfl, rfl, fun _ => rfl⟩, trivial⟩
theorem fw_X1_11_1 : ga_FWs RX1 11 0 (.array (.object "LoanNames$Rule")) true [1] := ⟨⟨RX1, TX1, 2, "LoanNames$Law", tyX1, rfl, by decide, in_X1, tyX1_ok, nmX1, q138, Or.inl rfl, rfl, rfl, fun _ => rfl⟩, trivial⟩
theorem fl_X20_20_20 : ga_FLs RX20 20 6 [20] := ⟨⟨RX20, TX20, 8, "LoanNames$LawReader", rfl, by decide, in_X20, Or.inl q379, Or.inr q380⟩, trivial⟩
theorem fl_X20_24_20 : ga_FLs RX20 24 4 [20] := ⟨⟨RX20, TX20, 8, "LoanNames$LawReader", rfl, by decide, in_X20, Or.inl q369, Or.inr q370⟩, trivial⟩
theorem fl_X20_14_20 : ga_FLs RX20 14 7 [20] := ⟨⟨RX20, TX20, 8, "LoanNames$LawReader", rfl, by decide, in_X20, Or.inl q774, Or.inl rfl⟩, trivial⟩
theorem fl_X20_28_1 : ga_FLs RX20 28 1 [1] := ⟨⟨RX1, TX1, 2, "LoanNames$Law", rfl, by decide, in_X1, Or.inl q142, Or.inl rfl⟩, trivial⟩
theorem fw_X20_20_20 : ga_FWs RX20 20 6 .boolean false [20] := ⟨⟨RX20, TX20, 8, "LoanNames$LawReader", tyX20, rfl, by decide, in_X20, tyX20_ok, nmX20, q379, Or.inr q380, rfl, rfl, fun h => by cases h⟩, trivial⟩
theorem vc_X20_35_20 : ga_VCs RX20 35 0 ga_mt [(20, 137)] := ⟨⟨ga_VC_V (y := ga_mt 137) 0 q790 q792 qs9 q112 q793 (by decide +kernel), by decide⟩, trivial⟩
theorem fl_X20_31_1 : ga_FLs RX20 31 0 [1] := ⟨⟨RX1, TX1, 2, "LoanNames$Law", rfl, by decide, in_X1, Or.inl q139, Or.inl rfl⟩, trivial⟩
theorem as_Rule_21 : ga_Ass "LoanNames$Rule" [21] := ⟨⟨_, rfl, Or.inl rfl⟩, trivial⟩
theorem fw_X20_28_1 : ga_FWs RX20 28 1 .int false [1] := ⟨⟨RX1, TX1, 2, "LoanNames$Law", tyX1, rfl, by decide, in_X1, tyX1_ok, nmX1, q142, Or.inl rfl, rfl, rfl, fun h => by cases h⟩, trivial⟩
theorem vc_X20_43_20 : ga_VCs RX20 43 2 ga_mt [(20, 119)] := ⟨⟨ga_VC_U (y := ga_mt 119) (owner := "LoanNames$Reader") (x := ⟨"LoanNames$LawReader", "needs", "(IJ)V"⟩) 2 q796 q797 q798 q477 q97 q478 rfl (by decide +kernel), by decide⟩, trivial⟩
theorem sl_X20_39 : ga_SL RX20 39 "BAR" "J" := Or.inr ⟨"LoanNames", (List.mem_filter.mpr ⟨q794, rfl⟩)⟩
theorem vc_X20_51_20 : ga_VCs RX20 51 2 ga_mt [(20, 121)] := ⟨⟨ga_VC_U (y := ga_mt 121) (owner := "LoanNames$Reader") (x := ⟨"LoanNames$LawReader", "name", "([JI)I"⟩) 2 q800 q801 q802 q458 q97 q459 rfl (by decide +kernel), by decide⟩, trivial⟩
theorem sl_X20_47 : ga_SL RX20 47 "FORM_NAMES" "[J" := Or.inr ⟨"LoanNames", (List.mem_filter.mpr ⟨q799, rfl⟩)⟩
theorem vc_X20_58_20 : ga_VCs RX20 58 2 ga_mt [(20, 118)] := ⟨⟨ga_VC_U (y := ga_mt 118) (owner := "LoanNames$Reader") (x := ⟨"LoanNames$LawReader", "takes", "(IJ)Z"⟩) 2 q805 q806 q807 q480 q97 q484 rfl (by decide +kernel), by decide⟩, trivial⟩
theorem sl_X20_55 : ga_SL RX20 55 "OF" "J" := Or.inr ⟨"LoanNames", (List.mem_filter.mpr ⟨q803, rfl⟩)⟩
theorem sl_X20_62 : ga_SL RX20 62 "THING_NAMES" "[J" := Or.inr ⟨"LoanNames", (List.mem_filter.mpr ⟨q808, rfl⟩)⟩
theorem sl_X20_65 : ga_SL RX20 65 "THEN" "J" := Or.inr ⟨"LoanNames", (List.mem_filter.mpr ⟨q809, rfl⟩)⟩
theorem vc_X20_71_20 : ga_VCs RX20 71 2 ga_mt [(20, 117)] := ⟨⟨ga_VC_U (y := ga_mt 117) (owner := "LoanNames$Reader") (x := ⟨"LoanNames$LawReader", "is", "(IJ)Z"⟩) 2 q812 q813 q814 q486 q97 q490 rfl (by decide +kernel), by decide⟩, trivial⟩
theorem sl_X20_68 : ga_SL RX20 68 "BACK" "J" := Or.inr ⟨"LoanNames", (List.mem_filter.mpr ⟨q811, rfl⟩)⟩
theorem sl_X20_74 : ga_SL RX20 74 "SAME" "J" := Or.inr ⟨"LoanNames", (List.mem_filter.mpr ⟨q815, rfl⟩)⟩
theorem sl_X20_77 : ga_SL RX20 77 "MORE" "J" := Or.inr ⟨"LoanNames", (List.mem_filter.mpr ⟨q817, rfl⟩)⟩
theorem fl_X20_80_20 : ga_FLs RX20 80 5 [20] := ⟨⟨RX20, TX20, 8, "LoanNames$LawReader", rfl, by decide, in_X20, Or.inl q374, Or.inr q375⟩, trivial⟩
theorem vc_X20_83_20 : ga_VCs RX20 83 0 ga_mt [(20, 116)] := ⟨⟨ga_VC_U (y := ga_mt 116) (owner := "LoanNames$Reader") (x := ⟨"LoanNames$LawReader", "pass", "()V"⟩) 0 q819 q820 q821 q450 q97 q451 rfl (by decide +kernel), by decide⟩, trivial⟩
theorem sl_X20_86 : ga_SL RX20 86 "WITHIN" "J" := Or.inr ⟨"LoanNames", (List.mem_filter.mpr ⟨q822, rfl⟩)⟩
theorem vc_X20_89_20 : ga_VCs RX20 89 2 ga_mt [(20, 120)] := ⟨⟨ga_VC_U (y := ga_mt 120) (owner := "LoanNames$Reader") (x := ⟨"LoanNames$LawReader", "number", "(II)I"⟩) 2 q824 q825 q826 q468 q97 q469 rfl (by decide +kernel), by decide⟩, trivial⟩
theorem nw_X20_95 : ga_NW RX20 95 21 tyX21 := ⟨RX21, TX21, 8, rfl, in_X21, tyX21_ok, q828, q829, q113⟩
theorem ic_X20_97_21 : ga_ICs RX20 97 8 (ga_mt 134) [21] := ⟨ga_IC_I 8 q830 q831 q113 q832 rfl (by decide +kernel), trivial⟩
theorem ic_X20_3_20 : ga_ICs RX20 3 2 (ga_mt 123) [20] := ⟨ga_IC_I 2 q771 q340 q97 q341 rfl (by decide +kernel), trivial⟩
theorem nw_X20_9 : ga_NW RX20 9 1 tyX1 := ⟨RX1, TX1, 2, rfl, in_X1, tyX1_ok, q772, q131, q92⟩
theorem ic_X20_11_1 : ga_ICs RX20 11 0 (ga_mt 135) [1] := ⟨ga_IC_N 0 (List.mem_filter.mpr ⟨q773, rfl⟩) q133 q92 q134 rfl (by decide +kernel), trivial⟩
theorem fw_X20_14_20 : ga_FWs RX20 14 7 (.object "LoanNames$Law") true [20] := ⟨⟨RX20, TX20, 8, "LoanNames$LawReader", tyX20, rfl, by decide, in_X20, tyX20_ok, nmX20, q774, Or.inl rfl, rfl, rfl, fun _ => rfl⟩, trivial⟩
theorem fl_X2_50_2 : ga_FLs RX2 50 7 [2] := ⟨⟨RX2, TX2, 12, "LoanNames$Bundle", rfl, by decide, in_X2, Or.inl q233, Or.inl rfl⟩, trivial⟩
theorem fl_X2_17_2 : ga_FLs RX2 17 0 [2] := ⟨⟨RX2, TX2, 12, "LoanNames$Bundle", rfl, by decide, in_X2, Or.inl q223, Or.inl rfl⟩, trivial⟩
theorem fw_X2_50_2 : ga_FWs RX2 50 7 .int false [2] := ⟨⟨RX2, TX2, 12, "LoanNames$Bundle", tyX2, rfl, by decide, in_X2, tyX2_ok, nmX2, q233, Or.inl rfl, rfl, rfl, fun h => by cases h⟩, trivial⟩
theorem fl_X2_57_19 : ga_FLs RX2 57 2 [19] := ⟨⟨RX19, TX19, 6, "LoanNames$Deal", rfl, by decide, in_X19, Or.inl q734, Or.inl rfl⟩, trivial⟩
theorem fw_X2_54_2 : ga_FWs RX2 54 8 .int false [2] := ⟨⟨RX2, TX2, 12, "LoanNames$Bundle", tyX2, rfl, by decide, in_X2, tyX2_ok, nmX2, q235, Or.inl rfl, rfl, rfl, fun h => by cases h⟩, trivial⟩
theorem fl_X2_54_2 : ga_FLs RX2 54 8 [2] := ⟨⟨RX2, TX2, 12, "LoanNames$Bundle", rfl, by decide, in_X2, Or.inl q235, Or.inl rfl⟩, trivial⟩
theorem fl_X2_61_19 : ga_FLs RX2 61 3 [19] := ⟨⟨RX19, TX19, 6, "LoanNames$Deal", rfl, by decide, in_X19, Or.inl q737, Or.inl rfl⟩, trivial⟩
theorem fw_X2_58_2 : ga_FWs RX2 58 9 .int false [2] := ⟨⟨RX2, TX2, 12, "LoanNames$Bundle", tyX2, rfl, by decide, in_X2, tyX2_ok, nmX2, q237, Or.inl rfl, rfl, rfl, fun h => by cases h⟩, trivial⟩
theorem fl_X2_58_2 : ga_FLs RX2 58 9 [2] := ⟨⟨RX2, TX2, 12, "LoanNames$Bundle", rfl, by decide, in_X2, Or.inl q237, Or.inl rfl⟩, trivial⟩
theorem fl_X2_62_19 : ga_FLs RX2 62 5 [19] := ⟨⟨RX19, TX19, 6, "LoanNames$Deal", rfl, by decide, in_X19, Or.inl q743, Or.inl rfl⟩, trivial⟩
theorem fl_X2_63_3 : ga_FLs RX2 63 2 [3] := ⟨⟨RX3, TX3, 3, "LoanNames$LeafRow", rfl, by decide, in_X3, Or.inl q176, Or.inl rfl⟩, trivial⟩
theorem vc_X2_71_3 : ga_VCs RX2 71 2 ga_mt [(3, 61)] := ⟨⟨ga_VC_V (y := ga_mt 61) 2 q1158 q719 q720 q94 q721 (by decide +kernel), by decide⟩, trivial⟩
theorem fl_X2_24_2 : ga_FLs RX2 24 1 [2] := ⟨⟨RX2, TX2, 12, "LoanNames$Bundle", rfl, by decide, in_X2, Or.inl q225, Or.inl rfl⟩, trivial⟩
theorem fl_X2_64_3 : ga_FLs RX2 64 0 [3] := ⟨⟨RX3, TX3, 3, "LoanNames$LeafRow", rfl, by decide, in_X3, Or.inl q169, Or.inl rfl⟩, trivial⟩
theorem fl_X2_68_3 : ga_FLs RX2 68 1 [3] := ⟨⟨RX3, TX3, 3, "LoanNames$LeafRow", rfl, by decide, in_X3, Or.inl q172, Or.inl rfl⟩, trivial⟩
theorem fw_X2_63_3 : ga_FWs RX2 63 2 .int false [3] := ⟨⟨RX3, TX3, 3, "LoanNames$LeafRow", tyX3, rfl, by decide, in_X3, tyX3_ok, nmX3, q176, Or.inl rfl, rfl, rfl, fun h => by cases h⟩, trivial⟩
theorem vc_X2_75_2 : ga_VCs RX2 75 0 ga_mt [(2, 141)] := ⟨⟨ga_VC_V (y := ga_mt 141) 0 q1358 q1164 q1165 q93 q1166 (by decide +kernel), by decide⟩, trivial⟩
theorem vc_X2_78_2 : ga_VCs RX2 78 1 ga_mt [(2, 140)] := ⟨⟨ga_VC_V (y := ga_mt 140) 1 q1359 q1155 q1156 q93 q1157 (by decide +kernel), by decide⟩, trivial⟩
theorem sc_X2_82 : ga_SC RX2 82 (ga_mt 272) 1 := ga_SC_S (y := ga_mt 272) 1 q1202 q1203 q116 q1204 (by decide +kernel)
theorem fl_X2_31_2 : ga_FLs RX2 31 2 [2] := ⟨⟨RX2, TX2, 12, "LoanNames$Bundle", rfl, by decide, in_X2, Or.inl q227, Or.inl rfl⟩, trivial⟩
theorem fw_X2_88_4 : ga_FWs RX2 88 5 .int false [4] := ⟨⟨RX4, TX4, 6, "LoanNames$Sink", tyX4, rfl, by decide, in_X4, tyX4_ok, nmX4, q207, Or.inl rfl, rfl, rfl, fun h => by cases h⟩, trivial⟩
theorem vc_X2_93_8 : ga_VCs RX2 93 4 ga_mt [(8, 54)] := ⟨⟨ga_VC_V (y := ga_mt 54) 4 q1180 q1092 q1093 q99 q1094 (by decide +kernel), by decide⟩, trivial⟩
theorem fl_X2_89_19 : ga_FLs RX2 89 4 [19] := ⟨⟨RX19, TX19, 6, "LoanNames$Deal", rfl, by decide, in_X19, Or.inl q740, Or.inl rfl⟩, trivial⟩
theorem vc_X2_99_2 : ga_VCs RX2 99 1 ga_mt [(2, 147)] := ⟨⟨ga_VC_V (y := ga_mt 147) 1 q1192 q1177 q1178 q93 q1179 (by decide +kernel), by decide⟩, trivial⟩
theorem fl_X2_88_4 : ga_FLs RX2 88 5 [4] := ⟨⟨RX4, TX4, 6, "LoanNames$Sink", rfl, by decide, in_X4, Or.inl q207, Or.inl rfl⟩, trivial⟩
theorem fl_X2_102_4 : ga_FLs RX2 102 3 [4] := ⟨⟨RX4, TX4, 6, "LoanNames$Sink", rfl, by decide, in_X4, Or.inl q201, Or.inl rfl⟩, trivial⟩
theorem fl_X2_105_4 : ga_FLs RX2 105 0 [4] := ⟨⟨RX4, TX4, 6, "LoanNames$Sink", rfl, by decide, in_X4, Or.inl q192, Or.inl rfl⟩, trivial⟩
theorem fl_X2_111_4 : ga_FLs RX2 111 2 [4] := ⟨⟨RX4, TX4, 6, "LoanNames$Sink", rfl, by decide, in_X4, Or.inl q198, Or.inl rfl⟩, trivial⟩
theorem fl_X2_3_2 : ga_FLs RX2 3 11 [2] := ⟨⟨RX2, TX2, 12, "LoanNames$Bundle", rfl, by decide, in_X2, Or.inl q239, Or.inl rfl⟩, trivial⟩
theorem fl_X2_108_0 : ga_FLs RX2 108 0 [0] := ⟨⟨RX0, TX0, 17, "LoanNames", rfl, by decide, in_X0, Or.inr ⟨_, (List.mem_filter.mpr ⟨q267, rfl⟩)⟩, Or.inl rfl⟩, trivial⟩
theorem fl_X2_114_4 : ga_FLs RX2 114 4 [4] := ⟨⟨RX4, TX4, 6, "LoanNames$Sink", rfl, by decide, in_X4, Or.inl q204, Or.inl rfl⟩, trivial⟩
theorem fl_X2_117_4 : ga_FLs RX2 117 1 [4] := ⟨⟨RX4, TX4, 6, "LoanNames$Sink", rfl, by decide, in_X4, Or.inl q195, Or.inl rfl⟩, trivial⟩
theorem fl_X2_120_2 : ga_FLs RX2 120 10 [2] := ⟨⟨RX2, TX2, 12, "LoanNames$Bundle", rfl, by decide, in_X2, Or.inl q238, Or.inl rfl⟩, trivial⟩
theorem fl_X2_35_2 : ga_FLs RX2 35 3 [2] := ⟨⟨RX2, TX2, 12, "LoanNames$Bundle", rfl, by decide, in_X2, Or.inl q228, Or.inl rfl⟩, trivial⟩
theorem fw_X2_120_2 : ga_FWs RX2 120 10 .int false [2] := ⟨⟨RX2, TX2, 12, "LoanNames$Bundle", tyX2, rfl, by decide, in_X2, tyX2_ok, nmX2, q238, Or.inl rfl, rfl, rfl, fun h => by cases h⟩, trivial⟩
theorem vc_X2_123_2 : ga_VCs RX2 123 1 ga_mt [(2, 149)] := ⟨⟨ga_VC_V (y := ga_mt 149) 1 q1232 q1234 qs13 q93 q1235 (by decide +kernel), by decide⟩, trivial⟩
theorem fl_X2_43_2 : ga_FLs RX2 43 5 [2] := ⟨⟨RX2, TX2, 12, "LoanNames$Bundle", rfl, by decide, in_X2, Or.inl q230, Or.inl rfl⟩, trivial⟩
theorem fl_X2_39_2 : ga_FLs RX2 39 4 [2] := ⟨⟨RX2, TX2, 12, "LoanNames$Bundle", rfl, by decide, in_X2, Or.inl q229, Or.inl rfl⟩, trivial⟩
theorem vc_X2_126_2 : ga_VCs RX2 126 3 ga_mt [(2, 151)] := ⟨⟨ga_VC_V (y := ga_mt 151) 3 q1236 q1238 qs14 q93 q1239 (by decide +kernel), by decide⟩, trivial⟩
theorem vc_X2_130_2 : ga_VCs RX2 130 2 ga_mt [(2, 152)] := ⟨⟨ga_VC_V (y := ga_mt 152) 2 q1248 q1249 q1250 q93 q1251 (by decide +kernel), by decide⟩, trivial⟩
theorem vc_X2_134_2 : ga_VCs RX2 134 1 ga_mt [(2, 153)] := ⟨⟨ga_VC_V (y := ga_mt 153) 1 q1244 q1246 qs15 q93 q1247 (by decide +kernel), by decide⟩, trivial⟩
theorem vc_X2_138_2 : ga_VCs RX2 138 1 ga_mt [(2, 154)] := ⟨⟨ga_VC_V (y := ga_mt 154) 1 q1252 q1254 qs16 q93 q1255 (by decide +kernel), by decide⟩, trivial⟩
theorem vc_X2_141_2 : ga_VCs RX2 141 1 ga_mt [(2, 145)] := ⟨⟨ga_VC_V (y := ga_mt 145) 1 q1224 q1225 q1226 q93 q1227 (by decide +kernel), by decide⟩, trivial⟩
theorem vc_X2_144_2 : ga_VCs RX2 144 1 ga_mt [(2, 150)] := ⟨⟨ga_VC_V (y := ga_mt 150) 1 q1228 q1229 q1230 q93 q1231 (by decide +kernel), by decide⟩, trivial⟩
theorem vc_X2_148_2 : ga_VCs RX2 148 2 ga_mt [(2, 155)] := ⟨⟨ga_VC_V (y := ga_mt 155) 2 q1240 q1241 q1242 q93 q1243 (by decide +kernel), by decide⟩, trivial⟩
theorem vc_X2_152_2 : ga_VCs RX2 152 0 ga_mt [(2, 143)] := ⟨⟨ga_VC_V (y := ga_mt 143) 0 q1282 q1199 q1200 q93 q1201 (by decide +kernel), by decide⟩, trivial⟩
theorem fl_X2_46_2 : ga_FLs RX2 46 6 [2] := ⟨⟨RX2, TX2, 12, "LoanNames$Bundle", rfl, by decide, in_X2, Or.inl q232, Or.inl rfl⟩, trivial⟩
theorem fl_X2_156_21 : ga_FLs RX2 156 2 [21] := ⟨⟨RX21, TX21, 8, "LoanNames$Rule", rfl, by decide, in_X21, Or.inl q837, Or.inl rfl⟩, trivial⟩
theorem vc_X2_161_2 : ga_VCs RX2 161 1 ga_mt [(2, 160)] := ⟨⟨ga_VC_V (y := ga_mt 160) 1 q1303 q1304 q1305 q93 q1306 (by decide +kernel), by decide⟩, trivial⟩
theorem vc_X2_165_2 : ga_VCs RX2 165 2 ga_mt [(2, 161)] := ⟨⟨ga_VC_V (y := ga_mt 161) 2 q1315 q1316 q1317 q93 q1318 (by decide +kernel), by decide⟩, trivial⟩
theorem vc_X2_169_21 : ga_VCs RX2 169 2 ga_mt [(21, 132)] := ⟨⟨ga_VC_V (y := ga_mt 132) 2 q1307 q1308 q1309 q113 q1310 (by decide +kernel), by decide⟩, trivial⟩
theorem vc_X2_173_21 : ga_VCs RX2 173 4 ga_mt [(21, 133)] := ⟨⟨ga_VC_V (y := ga_mt 133) 4 q1319 q1320 q1321 q113 q1322 (by decide +kernel), by decide⟩, trivial⟩
theorem fl_X2_176_1 : ga_FLs RX2 176 1 [1] := ⟨⟨RX1, TX1, 2, "LoanNames$Law", rfl, by decide, in_X1, Or.inl q143, Or.inl rfl⟩, trivial⟩
theorem vc_X2_183_2 : ga_VCs RX2 183 1 ga_mt [(2, 159)] := ⟨⟨ga_VC_V (y := ga_mt 159) 1 q1335 q1300 q1301 q93 q1302 (by decide +kernel), by decide⟩, trivial⟩
theorem fl_X2_179_1 : ga_FLs RX2 179 0 [1] := ⟨⟨RX1, TX1, 2, "LoanNames$Law", rfl, by decide, in_X1, Or.inl q140, Or.inl rfl⟩, trivial⟩
theorem fw_X2_3_2 : ga_FWs RX2 3 11 (.object "LoanNames") true [2] := ⟨⟨RX2, TX2, 12, "LoanNames$Bundle", tyX2, rfl, by decide, in_X2, tyX2_ok, nmX2, q239, Or.inl rfl, rfl, rfl, fun _ => rfl⟩, trivial⟩
theorem fw_X2_17_2 : ga_FWs RX2 17 0 (.array (.object "LoanNames$Deal")) true [2] := ⟨⟨RX2, TX2, 12, "LoanNames$Bundle", tyX2, rfl, by decide, in_X2, tyX2_ok, nmX2, q223, Or.inl rfl, rfl, rfl, fun _ => rfl⟩, trivial⟩
theorem nw_X2_21 : ga_NW RX2 21 3 tyX3 := ⟨RX3, TX3, 3, rfl, in_X3, tyX3_ok, q158, q159, q94⟩
theorem ic_X2_23_3 : ga_ICs RX2 23 0 (ga_mt 63) [3] := ⟨ga_IC_N 0 (List.mem_filter.mpr ⟨q160, rfl⟩) q161 q94 q162 rfl (by decide +kernel), trivial⟩
theorem fw_X2_24_2 : ga_FWs RX2 24 1 (.object "LoanNames$LeafRow") true [2] := ⟨⟨RX2, TX2, 12, "LoanNames$Bundle", tyX2, rfl, by decide, in_X2, tyX2_ok, nmX2, q225, Or.inl rfl, rfl, rfl, fun _ => rfl⟩, trivial⟩
theorem nw_X2_28 : ga_NW RX2 28 4 tyX4 := ⟨RX4, TX4, 6, rfl, in_X4, tyX4_ok, q185, q186, q95⟩
theorem ic_X2_30_4 : ga_ICs RX2 30 0 (ga_mt 51) [4] := ⟨ga_IC_N 0 (List.mem_filter.mpr ⟨q187, rfl⟩) q188 q95 q189 rfl (by decide +kernel), trivial⟩
theorem fw_X2_31_2 : ga_FWs RX2 31 2 (.object "LoanNames$Sink") true [2] := ⟨⟨RX2, TX2, 12, "LoanNames$Bundle", tyX2, rfl, by decide, in_X2, tyX2_ok, nmX2, q227, Or.inl rfl, rfl, rfl, fun _ => rfl⟩, trivial⟩
theorem fw_X2_35_2 : ga_FWs RX2 35 3 (.array .int) true [2] := ⟨⟨RX2, TX2, 12, "LoanNames$Bundle", tyX2, rfl, by decide, in_X2, tyX2_ok, nmX2, q228, Or.inl rfl, rfl, rfl, fun _ => rfl⟩, trivial⟩
theorem fw_X2_39_2 : ga_FWs RX2 39 4 (.array .long) true [2] := ⟨⟨RX2, TX2, 12, "LoanNames$Bundle", tyX2, rfl, by decide, in_X2, tyX2_ok, nmX2, q229, Or.inl rfl, rfl, rfl, fun _ => rfl⟩, trivial⟩
theorem fw_X2_43_2 : ga_FWs RX2 43 5 (.array .long) true [2] := ⟨⟨RX2, TX2, 12, "LoanNames$Bundle", tyX2, rfl, by decide, in_X2, tyX2_ok, nmX2, q230, Or.inl rfl, rfl, rfl, fun _ => rfl⟩, trivial⟩
theorem fw_X2_46_2 : ga_FWs RX2 46 6 (.array .boolean) true [2] := ⟨⟨RX2, TX2, 12, "LoanNames$Bundle", tyX2, rfl, by decide, in_X2, tyX2_ok, nmX2, q232, Or.inl rfl, rfl, rfl, fun _ => rfl⟩, trivial⟩
theorem sc_X5_185 : ga_SC RX5 185 (ga_mt 164) 3 := ga_SC_S (y := ga_mt 164) 3 q1693 q1694 q96 q1695 (by decide +kernel)
theorem fl_X5_7_5 : ga_FLs RX5 7 0 [5] := ⟨⟨RX5, TX5, 93, "LoanNamesModel", rfl, by decide, in_X5, Or.inl q1409, Or.inl rfl⟩, trivial⟩
theorem fl_X5_189_5 : ga_FLs RX5 189 21 [5] := ⟨⟨RX5, TX5, 93, "LoanNamesModel", rfl, by decide, in_X5, Or.inl q1430, Or.inl rfl⟩, trivial⟩
theorem fl_X5_67_5 : ga_FLs RX5 67 20 [5] := ⟨⟨RX5, TX5, 93, "LoanNamesModel", rfl, by decide, in_X5, Or.inl q1429, Or.inl rfl⟩, trivial⟩
theorem fw_X5_189_5 : ga_FWs RX5 189 21 .int false [5] := ⟨⟨RX5, TX5, 93, "LoanNamesModel", tyX5, rfl, by decide, in_X5, tyX5_ok, nmX5, q1430, Or.inl rfl, rfl, rfl, fun h => by cases h⟩, trivial⟩
theorem fl_X5_192_5 : ga_FLs RX5 192 24 [5] := ⟨⟨RX5, TX5, 93, "LoanNamesModel", rfl, by decide, in_X5, Or.inl q1433, Or.inl rfl⟩, trivial⟩
theorem fl_X5_195_5 : ga_FLs RX5 195 23 [5] := ⟨⟨RX5, TX5, 93, "LoanNamesModel", rfl, by decide, in_X5, Or.inl q1432, Or.inl rfl⟩, trivial⟩
theorem vc_X5_198_5 : ga_VCs RX5 198 0 ga_mt [(5, 167)] := ⟨⟨ga_VC_V (y := ga_mt 167) 0 q1712 q1714 qs24 q96 q1715 (by decide +kernel), by decide⟩, trivial⟩
theorem fw_X5_192_5 : ga_FWs RX5 192 24 .int false [5] := ⟨⟨RX5, TX5, 93, "LoanNamesModel", tyX5, rfl, by decide, in_X5, tyX5_ok, nmX5, q1433, Or.inl rfl, rfl, rfl, fun h => by cases h⟩, trivial⟩
theorem fw_X5_202_5 : ga_FWs RX5 202 25 .int false [5] := ⟨⟨RX5, TX5, 93, "LoanNamesModel", tyX5, rfl, by decide, in_X5, tyX5_ok, nmX5, q1434, Or.inl rfl, rfl, rfl, fun h => by cases h⟩, trivial⟩
theorem fw_X5_207_5 : ga_FWs RX5 207 28 .long false [5] := ⟨⟨RX5, TX5, 93, "LoanNamesModel", tyX5, rfl, by decide, in_X5, tyX5_ok, nmX5, q1437, Or.inl rfl, rfl, rfl, fun h => by cases h⟩, trivial⟩
theorem fw_X5_211_5 : ga_FWs RX5 211 27 .int false [5] := ⟨⟨RX5, TX5, 93, "LoanNamesModel", tyX5, rfl, by decide, in_X5, tyX5_ok, nmX5, q1436, Or.inl rfl, rfl, rfl, fun h => by cases h⟩, trivial⟩
theorem fw_X5_214_5 : ga_FWs RX5 214 26 .int false [5] := ⟨⟨RX5, TX5, 93, "LoanNamesModel", tyX5, rfl, by decide, in_X5, tyX5_ok, nmX5, q1435, Or.inl rfl, rfl, rfl, fun h => by cases h⟩, trivial⟩
theorem fl_X5_202_5 : ga_FLs RX5 202 25 [5] := ⟨⟨RX5, TX5, 93, "LoanNamesModel", rfl, by decide, in_X5, Or.inl q1434, Or.inl rfl⟩, trivial⟩
theorem fl_X5_207_5 : ga_FLs RX5 207 28 [5] := ⟨⟨RX5, TX5, 93, "LoanNamesModel", rfl, by decide, in_X5, Or.inl q1437, Or.inl rfl⟩, trivial⟩
theorem fl_X5_211_5 : ga_FLs RX5 211 27 [5] := ⟨⟨RX5, TX5, 93, "LoanNamesModel", rfl, by decide, in_X5, Or.inl q1436, Or.inl rfl⟩, trivial⟩
theorem fl_X5_220_5 : ga_FLs RX5 220 29 [5] := ⟨⟨RX5, TX5, 93, "LoanNamesModel", rfl, by decide, in_X5, Or.inl q1438, Or.inl rfl⟩, trivial⟩
theorem fw_X5_220_5 : ga_FWs RX5 220 29 .boolean false [5] := ⟨⟨RX5, TX5, 93, "LoanNamesModel", tyX5, rfl, by decide, in_X5, tyX5_ok, nmX5, q1438, Or.inl rfl, rfl, rfl, fun h => by cases h⟩, trivial⟩
theorem fw_X5_71_5 : ga_FWs RX5 71 22 .int false [5] := ⟨⟨RX5, TX5, 93, "LoanNamesModel", tyX5, rfl, by decide, in_X5, tyX5_ok, nmX5, q1431, Or.inl rfl, rfl, rfl, fun h => by cases h⟩, trivial⟩
theorem fl_X5_214_5 : ga_FLs RX5 214 26 [5] := ⟨⟨RX5, TX5, 93, "LoanNamesModel", rfl, by decide, in_X5, Or.inl q1435, Or.inl rfl⟩, trivial⟩
theorem vc_X5_224_5 : ga_VCs RX5 224 1 ga_mt [(5, 170)] := ⟨⟨ga_VC_V (y := ga_mt 170) 1 q1771 q1773 qs34 q96 q1774 (by decide +kernel), by decide⟩, trivial⟩
theorem vc_X5_228_5 : ga_VCs RX5 228 0 ga_mt [(5, 168)] := ⟨⟨ga_VC_V (y := ga_mt 168) 0 q1708 q1710 qs23 q96 q1711 (by decide +kernel), by decide⟩, trivial⟩
theorem vc_X5_231_5 : ga_VCs RX5 231 0 ga_mt [(5, 169)] := ⟨⟨ga_VC_V (y := ga_mt 169) 0 q1731 q1733 qs26 q96 q1734 (by decide +kernel), by decide⟩, trivial⟩
theorem vc_X5_274_5 : ga_VCs RX5 274 0 ga_mt [(5, 173)] := ⟨⟨ga_VC_V (y := ga_mt 173) 0 q1752 q1754 qs31 q96 q1755 (by decide +kernel), by decide⟩, trivial⟩
theorem fw_X5_195_5 : ga_FWs RX5 195 23 .int false [5] := ⟨⟨RX5, TX5, 93, "LoanNamesModel", tyX5, rfl, by decide, in_X5, tyX5_ok, nmX5, q1432, Or.inl rfl, rfl, rfl, fun h => by cases h⟩, trivial⟩
theorem fl_X5_277_5 : ga_FLs RX5 277 37 [5] := ⟨⟨RX5, TX5, 93, "LoanNamesModel", rfl, by decide, in_X5, Or.inl q1446, Or.inl rfl⟩, trivial⟩
theorem fl_X5_280_5 : ga_FLs RX5 280 33 [5] := ⟨⟨RX5, TX5, 93, "LoanNamesModel", rfl, by decide, in_X5, Or.inl q1442, Or.inl rfl⟩, trivial⟩
theorem fw_X5_280_5 : ga_FWs RX5 280 33 .int false [5] := ⟨⟨RX5, TX5, 93, "LoanNamesModel", tyX5, rfl, by decide, in_X5, tyX5_ok, nmX5, q1442, Or.inl rfl, rfl, rfl, fun h => by cases h⟩, trivial⟩
theorem fl_X5_28_5 : ga_FLs RX5 28 7 [5] := ⟨⟨RX5, TX5, 93, "LoanNamesModel", rfl, by decide, in_X5, Or.inl q1416, Or.inl rfl⟩, trivial⟩
theorem fl_X5_31_5 : ga_FLs RX5 31 8 [5] := ⟨⟨RX5, TX5, 93, "LoanNamesModel", rfl, by decide, in_X5, Or.inl q1417, Or.inl rfl⟩, trivial⟩
theorem fl_X5_283_5 : ga_FLs RX5 283 32 [5] := ⟨⟨RX5, TX5, 93, "LoanNamesModel", rfl, by decide, in_X5, Or.inl q1441, Or.inl rfl⟩, trivial⟩
theorem fl_X5_75_5 : ga_FLs RX5 75 30 [5] := ⟨⟨RX5, TX5, 93, "LoanNamesModel", rfl, by decide, in_X5, Or.inl q1439, Or.inl rfl⟩, trivial⟩
theorem fl_X5_34_5 : ga_FLs RX5 34 9 [5] := ⟨⟨RX5, TX5, 93, "LoanNamesModel", rfl, by decide, in_X5, Or.inl q1418, Or.inl rfl⟩, trivial⟩
theorem fl_X5_78_5 : ga_FLs RX5 78 31 [5] := ⟨⟨RX5, TX5, 93, "LoanNamesModel", rfl, by decide, in_X5, Or.inl q1440, Or.inl rfl⟩, trivial⟩
theorem fl_X5_37_5 : ga_FLs RX5 37 10 [5] := ⟨⟨RX5, TX5, 93, "LoanNamesModel", rfl, by decide, in_X5, Or.inl q1419, Or.inl rfl⟩, trivial⟩
theorem fl_X5_40_5 : ga_FLs RX5 40 11 [5] := ⟨⟨RX5, TX5, 93, "LoanNamesModel", rfl, by decide, in_X5, Or.inl q1420, Or.inl rfl⟩, trivial⟩
theorem fl_X5_43_5 : ga_FLs RX5 43 12 [5] := ⟨⟨RX5, TX5, 93, "LoanNamesModel", rfl, by decide, in_X5, Or.inl q1421, Or.inl rfl⟩, trivial⟩
theorem fl_X5_286_5 : ga_FLs RX5 286 34 [5] := ⟨⟨RX5, TX5, 93, "LoanNamesModel", rfl, by decide, in_X5, Or.inl q1443, Or.inl rfl⟩, trivial⟩
theorem vc_X5_289_5 : ga_VCs RX5 289 1 ga_mt [(5, 179)] := ⟨⟨ga_VC_V (y := ga_mt 179) 1 q1739 q1741 qs28 q96 q1742 (by decide +kernel), by decide⟩, trivial⟩
theorem fw_X5_286_5 : ga_FWs RX5 286 34 .int false [5] := ⟨⟨RX5, TX5, 93, "LoanNamesModel", tyX5, rfl, by decide, in_X5, tyX5_ok, nmX5, q1443, Or.inl rfl, rfl, rfl, fun h => by cases h⟩, trivial⟩
theorem vc_X5_293_5 : ga_VCs RX5 293 1 ga_mt [(5, 176)] := ⟨⟨ga_VC_V (y := ga_mt 176) 1 q1743 q1745 qs29 q96 q1746 (by decide +kernel), by decide⟩, trivial⟩
theorem fl_X5_46_5 : ga_FLs RX5 46 13 [5] := ⟨⟨RX5, TX5, 93, "LoanNamesModel", rfl, by decide, in_X5, Or.inl q1422, Or.inl rfl⟩, trivial⟩
theorem fl_X5_49_5 : ga_FLs RX5 49 14 [5] := ⟨⟨RX5, TX5, 93, "LoanNamesModel", rfl, by decide, in_X5, Or.inl q1423, Or.inl rfl⟩, trivial⟩
theorem vc_X5_296_5 : ga_VCs RX5 296 0 ga_mt [(5, 177)] := ⟨⟨ga_VC_V (y := ga_mt 177) 0 q1748 q1750 qs30 q96 q1751 (by decide +kernel), by decide⟩, trivial⟩
theorem fl_X5_52_5 : ga_FLs RX5 52 15 [5] := ⟨⟨RX5, TX5, 93, "LoanNamesModel", rfl, by decide, in_X5, Or.inl q1424, Or.inl rfl⟩, trivial⟩
theorem vc_X5_299_5 : ga_VCs RX5 299 2 ga_mt [(5, 172)] := ⟨⟨ga_VC_V (y := ga_mt 172) 2 q1762 q1764 qs32 q96 q1765 (by decide +kernel), by decide⟩, trivial⟩
theorem fl_X5_55_5 : ga_FLs RX5 55 16 [5] := ⟨⟨RX5, TX5, 93, "LoanNamesModel", rfl, by decide, in_X5, Or.inl q1425, Or.inl rfl⟩, trivial⟩
theorem fl_X5_58_5 : ga_FLs RX5 58 17 [5] := ⟨⟨RX5, TX5, 93, "LoanNamesModel", rfl, by decide, in_X5, Or.inl q1426, Or.inl rfl⟩, trivial⟩
theorem vc_X5_305_5 : ga_VCs RX5 305 1 ga_mt [(5, 171)] := ⟨⟨ga_VC_V (y := ga_mt 171) 1 q1767 q1769 qs33 q96 q1770 (by decide +kernel), by decide⟩, trivial⟩
theorem fl_X5_61_5 : ga_FLs RX5 61 18 [5] := ⟨⟨RX5, TX5, 93, "LoanNamesModel", rfl, by decide, in_X5, Or.inl q1427, Or.inl rfl⟩, trivial⟩
theorem fl_X5_64_5 : ga_FLs RX5 64 19 [5] := ⟨⟨RX5, TX5, 93, "LoanNamesModel", rfl, by decide, in_X5, Or.inl q1428, Or.inl rfl⟩, trivial⟩
theorem fw_X5_283_5 : ga_FWs RX5 283 32 .int false [5] := ⟨⟨RX5, TX5, 93, "LoanNamesModel", tyX5, rfl, by decide, in_X5, tyX5_ok, nmX5, q1441, Or.inl rfl, rfl, rfl, fun h => by cases h⟩, trivial⟩
theorem fl_X5_315_5 : ga_FLs RX5 315 35 [5] := ⟨⟨RX5, TX5, 93, "LoanNamesModel", rfl, by decide, in_X5, Or.inl q1444, Or.inl rfl⟩, trivial⟩
theorem vc_X5_318_5 : ga_VCs RX5 318 0 ga_mt [(5, 174)] := ⟨⟨ga_VC_V (y := ga_mt 174) 0 q1792 q1794 qs38 q96 q1795 (by decide +kernel), by decide⟩, trivial⟩
theorem fw_X5_321_5 : ga_FWs RX5 321 36 .int false [5] := ⟨⟨RX5, TX5, 93, "LoanNamesModel", tyX5, rfl, by decide, in_X5, tyX5_ok, nmX5, q1445, Or.inl rfl, rfl, rfl, fun h => by cases h⟩, trivial⟩
theorem fl_X5_321_5 : ga_FLs RX5 321 36 [5] := ⟨⟨RX5, TX5, 93, "LoanNamesModel", rfl, by decide, in_X5, Or.inl q1445, Or.inl rfl⟩, trivial⟩
theorem fw_X5_315_5 : ga_FWs RX5 315 35 .int false [5] := ⟨⟨RX5, TX5, 93, "LoanNamesModel", tyX5, rfl, by decide, in_X5, tyX5_ok, nmX5, q1444, Or.inl rfl, rfl, rfl, fun h => by cases h⟩, trivial⟩
theorem vc_X5_324_5 : ga_VCs RX5 324 2 ga_mt [(5, 181)] := ⟨⟨ga_VC_V (y := ga_mt 181) 2 q1784 q1786 qs36 q96 q1787 (by decide +kernel), by decide⟩, trivial⟩
theorem fl_X5_332_5 : ga_FLs RX5 332 1 [5] := ⟨⟨RX5, TX5, 93, "LoanNamesModel", rfl, by decide, in_X5, Or.inl q1410, Or.inl rfl⟩, trivial⟩
theorem vc_X5_335_5 : ga_VCs RX5 335 1 ga_mt [(5, 178)] := ⟨⟨ga_VC_V (y := ga_mt 178) 1 q1704 q1706 qs22 q96 q1707 (by decide +kernel), by decide⟩, trivial⟩
theorem fw_X5_277_5 : ga_FWs RX5 277 37 .int false [5] := ⟨⟨RX5, TX5, 93, "LoanNamesModel", tyX5, rfl, by decide, in_X5, tyX5_ok, nmX5, q1446, Or.inl rfl, rfl, rfl, fun h => by cases h⟩, trivial⟩
theorem vc_X5_339_5 : ga_VCs RX5 339 0 ga_mt [(5, 175)] := ⟨⟨ga_VC_V (y := ga_mt 175) 0 q1719 q1721 qs25 q96 q1722 (by decide +kernel), by decide⟩, trivial⟩
theorem vc_X5_342_5 : ga_VCs RX5 342 1 ga_mt [(5, 180)] := ⟨⟨ga_VC_V (y := ga_mt 180) 1 q1735 q1737 qs27 q96 q1738 (by decide +kernel), by decide⟩, trivial⟩
theorem vc_X5_345_5 : ga_VCs RX5 345 0 ga_mt [(5, 183)] := ⟨⟨ga_VC_V (y := ga_mt 183) 0 q1778 q1780 qs35 q96 q1781 (by decide +kernel), by decide⟩, trivial⟩
theorem vc_X5_349_5 : ga_VCs RX5 349 1 ga_mt [(5, 182)] := ⟨⟨ga_VC_V (y := ga_mt 182) 1 q1788 q1790 qs37 q96 q1791 (by decide +kernel), by decide⟩, trivial⟩
theorem fl_X5_13_5 : ga_FLs RX5 13 2 [5] := ⟨⟨RX5, TX5, 93, "LoanNamesModel", rfl, by decide, in_X5, Or.inl q1411, Or.inl rfl⟩, trivial⟩
theorem fl_X5_16_5 : ga_FLs RX5 16 3 [5] := ⟨⟨RX5, TX5, 93, "LoanNamesModel", rfl, by decide, in_X5, Or.inl q1412, Or.inl rfl⟩, trivial⟩
theorem fl_X5_19_5 : ga_FLs RX5 19 4 [5] := ⟨⟨RX5, TX5, 93, "LoanNamesModel", rfl, by decide, in_X5, Or.inl q1413, Or.inl rfl⟩, trivial⟩
theorem fl_X5_22_5 : ga_FLs RX5 22 5 [5] := ⟨⟨RX5, TX5, 93, "LoanNamesModel", rfl, by decide, in_X5, Or.inl q1414, Or.inl rfl⟩, trivial⟩
theorem fl_X5_25_5 : ga_FLs RX5 25 6 [5] := ⟨⟨RX5, TX5, 93, "LoanNamesModel", rfl, by decide, in_X5, Or.inl q1415, Or.inl rfl⟩, trivial⟩
theorem fw_X5_332_5 : ga_FWs RX5 332 1 .int false [5] := ⟨⟨RX5, TX5, 93, "LoanNamesModel", tyX5, rfl, by decide, in_X5, tyX5_ok, nmX5, q1410, Or.inl rfl, rfl, rfl, fun h => by cases h⟩, trivial⟩
theorem fl_X5_71_5 : ga_FLs RX5 71 22 [5] := ⟨⟨RX5, TX5, 93, "LoanNamesModel", rfl, by decide, in_X5, Or.inl q1431, Or.inl rfl⟩, trivial⟩
theorem vc_X5_352_5 : ga_VCs RX5 352 1 ga_mt [(5, 186)] := ⟨⟨ga_VC_V (y := ga_mt 186) 1 q1809 q1811 qs39 q96 q1812 (by decide +kernel), by decide⟩, trivial⟩
theorem vc_X5_356_5 : ga_VCs RX5 356 1 ga_mt [(5, 187)] := ⟨⟨ga_VC_V (y := ga_mt 187) 1 q1813 q1815 qs40 q96 q1816 (by decide +kernel), by decide⟩, trivial⟩
theorem vc_X5_359_5 : ga_VCs RX5 359 2 ga_mt [(5, 191)] := ⟨⟨ga_VC_V (y := ga_mt 191) 2 q1821 q1823 qs41 q96 q1824 (by decide +kernel), by decide⟩, trivial⟩
theorem vc_X5_362_5 : ga_VCs RX5 362 1 ga_mt [(5, 188)] := ⟨⟨ga_VC_V (y := ga_mt 188) 1 q1825 q1827 qs42 q96 q1828 (by decide +kernel), by decide⟩, trivial⟩
theorem fw_X5_365_5 : ga_FWs RX5 365 42 .int false [5] := ⟨⟨RX5, TX5, 93, "LoanNamesModel", tyX5, rfl, by decide, in_X5, tyX5_ok, nmX5, q1451, Or.inl rfl, rfl, rfl, fun h => by cases h⟩, trivial⟩
theorem fl_X5_81_5 : ga_FLs RX5 81 38 [5] := ⟨⟨RX5, TX5, 93, "LoanNamesModel", rfl, by decide, in_X5, Or.inl q1447, Or.inl rfl⟩, trivial⟩
theorem fl_X5_85_5 : ga_FLs RX5 85 39 [5] := ⟨⟨RX5, TX5, 93, "LoanNamesModel", rfl, by decide, in_X5, Or.inl q1448, Or.inl rfl⟩, trivial⟩
theorem fl_X5_365_5 : ga_FLs RX5 365 42 [5] := ⟨⟨RX5, TX5, 93, "LoanNamesModel", rfl, by decide, in_X5, Or.inl q1451, Or.inl rfl⟩, trivial⟩
theorem fw_X5_368_5 : ga_FWs RX5 368 43 .int false [5] := ⟨⟨RX5, TX5, 93, "LoanNamesModel", tyX5, rfl, by decide, in_X5, tyX5_ok, nmX5, q1452, Or.inl rfl, rfl, rfl, fun h => by cases h⟩, trivial⟩
theorem fl_X5_371_5 : ga_FLs RX5 371 45 [5] := ⟨⟨RX5, TX5, 93, "LoanNamesModel", rfl, by decide, in_X5, Or.inl q1454, Or.inl rfl⟩, trivial⟩
theorem fl_X5_91_5 : ga_FLs RX5 91 44 [5] := ⟨⟨RX5, TX5, 93, "LoanNamesModel", rfl, by decide, in_X5, Or.inl q1453, Or.inl rfl⟩, trivial⟩
theorem fw_X5_371_5 : ga_FWs RX5 371 45 .int false [5] := ⟨⟨RX5, TX5, 93, "LoanNamesModel", tyX5, rfl, by decide, in_X5, tyX5_ok, nmX5, q1454, Or.inl rfl, rfl, rfl, fun h => by cases h⟩, trivial⟩
theorem fl_X5_374_5 : ga_FLs RX5 374 47 [5] := ⟨⟨RX5, TX5, 93, "LoanNamesModel", rfl, by decide, in_X5, Or.inl q1456, Or.inl rfl⟩, trivial⟩
theorem fl_X5_94_5 : ga_FLs RX5 94 46 [5] := ⟨⟨RX5, TX5, 93, "LoanNamesModel", rfl, by decide, in_X5, Or.inl q1455, Or.inl rfl⟩, trivial⟩
theorem vc_X5_377_5 : ga_VCs RX5 377 2 ga_mt [(5, 195)] := ⟨⟨ga_VC_V (y := ga_mt 195) 2 q1853 q1855 qs48 q96 q1856 (by decide +kernel), by decide⟩, trivial⟩
theorem fw_X5_374_5 : ga_FWs RX5 374 47 .int false [5] := ⟨⟨RX5, TX5, 93, "LoanNamesModel", tyX5, rfl, by decide, in_X5, tyX5_ok, nmX5, q1456, Or.inl rfl, rfl, rfl, fun h => by cases h⟩, trivial⟩
theorem vc_X5_380_5 : ga_VCs RX5 380 2 ga_mt [(5, 197)] := ⟨⟨ga_VC_V (y := ga_mt 197) 2 q1849 q1851 qs47 q96 q1852 (by decide +kernel), by decide⟩, trivial⟩
theorem vc_X5_383_5 : ga_VCs RX5 383 3 ga_mt [(5, 196)] := ⟨⟨ga_VC_V (y := ga_mt 196) 3 q1857 q1859 qs49 q96 q1860 (by decide +kernel), by decide⟩, trivial⟩
theorem fl_X5_88_5 : ga_FLs RX5 88 40 [5] := ⟨⟨RX5, TX5, 93, "LoanNamesModel", rfl, by decide, in_X5, Or.inl q1449, Or.inl rfl⟩, trivial⟩
theorem vc_X5_387_5 : ga_VCs RX5 387 4 ga_mt [(5, 198)] := ⟨⟨ga_VC_V (y := ga_mt 198) 4 q1845 q1847 qs46 q96 q1848 (by decide +kernel), by decide⟩, trivial⟩
theorem vc_X5_391_5 : ga_VCs RX5 391 3 ga_mt [(5, 194)] := ⟨⟨ga_VC_V (y := ga_mt 194) 3 q1837 q1839 qs44 q96 q1840 (by decide +kernel), by decide⟩, trivial⟩
theorem fl_X5_368_5 : ga_FLs RX5 368 43 [5] := ⟨⟨RX5, TX5, 93, "LoanNamesModel", rfl, by decide, in_X5, Or.inl q1452, Or.inl rfl⟩, trivial⟩
theorem fw_X5_394_5 : ga_FWs RX5 394 41 .int false [5] := ⟨⟨RX5, TX5, 93, "LoanNamesModel", tyX5, rfl, by decide, in_X5, tyX5_ok, nmX5, q1450, Or.inl rfl, rfl, rfl, fun h => by cases h⟩, trivial⟩
theorem fl_X5_394_5 : ga_FLs RX5 394 41 [5] := ⟨⟨RX5, TX5, 93, "LoanNamesModel", rfl, by decide, in_X5, Or.inl q1450, Or.inl rfl⟩, trivial⟩
theorem vc_X5_397_5 : ga_VCs RX5 397 2 ga_mt [(5, 199)] := ⟨⟨ga_VC_V (y := ga_mt 199) 2 q1841 q1843 qs45 q96 q1844 (by decide +kernel), by decide⟩, trivial⟩
theorem vc_X5_401_5 : ga_VCs RX5 401 2 ga_mt [(5, 200)] := ⟨⟨ga_VC_V (y := ga_mt 200) 2 q1833 q1835 qs43 q96 q1836 (by decide +kernel), by decide⟩, trivial⟩
theorem fl_X5_404_5 : ga_FLs RX5 404 48 [5] := ⟨⟨RX5, TX5, 93, "LoanNamesModel", rfl, by decide, in_X5, Or.inl q1457, Or.inl rfl⟩, trivial⟩
theorem fl_X5_97_5 : ga_FLs RX5 97 49 [5] := ⟨⟨RX5, TX5, 93, "LoanNamesModel", rfl, by decide, in_X5, Or.inl q1458, Or.inl rfl⟩, trivial⟩
theorem fl_X5_100_5 : ga_FLs RX5 100 50 [5] := ⟨⟨RX5, TX5, 93, "LoanNamesModel", rfl, by decide, in_X5, Or.inl q1459, Or.inl rfl⟩, trivial⟩
theorem fl_X5_103_5 : ga_FLs RX5 103 51 [5] := ⟨⟨RX5, TX5, 93, "LoanNamesModel", rfl, by decide, in_X5, Or.inl q1460, Or.inl rfl⟩, trivial⟩
theorem fl_X5_106_5 : ga_FLs RX5 106 52 [5] := ⟨⟨RX5, TX5, 93, "LoanNamesModel", rfl, by decide, in_X5, Or.inl q1461, Or.inl rfl⟩, trivial⟩
theorem fl_X5_109_5 : ga_FLs RX5 109 53 [5] := ⟨⟨RX5, TX5, 93, "LoanNamesModel", rfl, by decide, in_X5, Or.inl q1462, Or.inl rfl⟩, trivial⟩
theorem fw_X5_404_5 : ga_FWs RX5 404 48 .int false [5] := ⟨⟨RX5, TX5, 93, "LoanNamesModel", tyX5, rfl, by decide, in_X5, tyX5_ok, nmX5, q1457, Or.inl rfl, rfl, rfl, fun h => by cases h⟩, trivial⟩
theorem vc_X5_407_5 : ga_VCs RX5 407 3 ga_mt [(5, 192)] := ⟨⟨ga_VC_V (y := ga_mt 192) 3 q1869 q1871 qs51 q96 q1872 (by decide +kernel), by decide⟩, trivial⟩
theorem vc_X5_411_5 : ga_VCs RX5 411 5 ga_mt [(5, 202)] := ⟨⟨ga_VC_V (y := ga_mt 202) 5 q1873 q1875 qs52 q96 q1876 (by decide +kernel), by decide⟩, trivial⟩
theorem vc_X5_415_5 : ga_VCs RX5 415 3 ga_mt [(5, 203)] := ⟨⟨ga_VC_V (y := ga_mt 203) 3 q1865 q1867 qs50 q96 q1868 (by decide +kernel), by decide⟩, trivial⟩
theorem vc_X5_419_5 : ga_VCs RX5 419 3 ga_mt [(5, 204)] := ⟨⟨ga_VC_V (y := ga_mt 204) 3 q1877 q1879 qs53 q96 q1880 (by decide +kernel), by decide⟩, trivial⟩
theorem fl_X5_422_5 : ga_FLs RX5 422 54 [5] := ⟨⟨RX5, TX5, 93, "LoanNamesModel", rfl, by decide, in_X5, Or.inl q1463, Or.inl rfl⟩, trivial⟩
theorem fl_X5_113_5 : ga_FLs RX5 113 56 [5] := ⟨⟨RX5, TX5, 93, "LoanNamesModel", rfl, by decide, in_X5, Or.inl q1465, Or.inl rfl⟩, trivial⟩
theorem fw_X5_422_5 : ga_FWs RX5 422 54 .int false [5] := ⟨⟨RX5, TX5, 93, "LoanNamesModel", tyX5, rfl, by decide, in_X5, tyX5_ok, nmX5, q1463, Or.inl rfl, rfl, rfl, fun h => by cases h⟩, trivial⟩
theorem fw_X5_425_5 : ga_FWs RX5 425 55 .int false [5] := ⟨⟨RX5, TX5, 93, "LoanNamesModel", tyX5, rfl, by decide, in_X5, tyX5_ok, nmX5, q1464, Or.inl rfl, rfl, rfl, fun h => by cases h⟩, trivial⟩
theorem fl_X5_116_5 : ga_FLs RX5 116 57 [5] := ⟨⟨RX5, TX5, 93, "LoanNamesModel", rfl, by decide, in_X5, Or.inl q1466, Or.inl rfl⟩, trivial⟩
theorem fl_X5_425_5 : ga_FLs RX5 425 55 [5] := ⟨⟨RX5, TX5, 93, "LoanNamesModel", rfl, by decide, in_X5, Or.inl q1464, Or.inl rfl⟩, trivial⟩
theorem sc_X5_431 : ga_SC RX5 431 (ga_mt 211) 1 := ga_SC_S (y := ga_mt 211) 1 q1946 q1947 q96 q1948 (by decide +kernel)
theorem vc_X5_428_5 : ga_VCs RX5 428 0 ga_mt [(5, 210)] := ⟨⟨ga_VC_V (y := ga_mt 210) 0 q1942 q1944 qs64 q96 q1945 (by decide +kernel), by decide⟩, trivial⟩
theorem vc_X5_434_5 : ga_VCs RX5 434 0 ga_mt [(5, 209)] := ⟨⟨ga_VC_V (y := ga_mt 209) 0 q1901 q1903 qs56 q96 q1904 (by decide +kernel), by decide⟩, trivial⟩
theorem vc_X5_437_5 : ga_VCs RX5 437 0 ga_mt [(5, 213)] := ⟨⟨ga_VC_V (y := ga_mt 213) 0 q1897 q1899 qs55 q96 q1900 (by decide +kernel), by decide⟩, trivial⟩
theorem vc_X5_440_5 : ga_VCs RX5 440 1 ga_mt [(5, 193)] := ⟨⟨ga_VC_V (y := ga_mt 193) 1 q1909 q1911 qs58 q96 q1912 (by decide +kernel), by decide⟩, trivial⟩
theorem fw_X5_443_5 : ga_FWs RX5 443 58 .int false [5] := ⟨⟨RX5, TX5, 93, "LoanNamesModel", tyX5, rfl, by decide, in_X5, tyX5_ok, nmX5, q1467, Or.inl rfl, rfl, rfl, fun h => by cases h⟩, trivial⟩
theorem fw_X5_446_5 : ga_FWs RX5 446 59 .int false [5] := ⟨⟨RX5, TX5, 93, "LoanNamesModel", tyX5, rfl, by decide, in_X5, tyX5_ok, nmX5, q1468, Or.inl rfl, rfl, rfl, fun h => by cases h⟩, trivial⟩
theorem fw_X5_449_5 : ga_FWs RX5 449 60 .long false [5] := ⟨⟨RX5, TX5, 93, "LoanNamesModel", tyX5, rfl, by decide, in_X5, tyX5_ok, nmX5, q1469, Or.inl rfl, rfl, rfl, fun h => by cases h⟩, trivial⟩
theorem fl_X5_443_5 : ga_FLs RX5 443 58 [5] := ⟨⟨RX5, TX5, 93, "LoanNamesModel", rfl, by decide, in_X5, Or.inl q1467, Or.inl rfl⟩, trivial⟩
theorem fl_X5_446_5 : ga_FLs RX5 446 59 [5] := ⟨⟨RX5, TX5, 93, "LoanNamesModel", rfl, by decide, in_X5, Or.inl q1468, Or.inl rfl⟩, trivial⟩
theorem fl_X5_449_5 : ga_FLs RX5 449 60 [5] := ⟨⟨RX5, TX5, 93, "LoanNamesModel", rfl, by decide, in_X5, Or.inl q1469, Or.inl rfl⟩, trivial⟩
theorem vc_X5_452_5 : ga_VCs RX5 452 0 ga_mt [(5, 208)] := ⟨⟨ga_VC_V (y := ga_mt 208) 0 q1893 q1895 qs54 q96 q1896 (by decide +kernel), by decide⟩, trivial⟩
theorem vc_X5_455_5 : ga_VCs RX5 455 3 ga_mt [(5, 219)] := ⟨⟨ga_VC_V (y := ga_mt 219) 3 q1905 q1907 qs57 q96 q1908 (by decide +kernel), by decide⟩, trivial⟩
theorem vc_X5_458_5 : ga_VCs RX5 458 4 ga_mt [(5, 217)] := ⟨⟨ga_VC_V (y := ga_mt 217) 4 q1913 q1915 qs59 q96 q1916 (by decide +kernel), by decide⟩, trivial⟩
theorem vc_X5_462_5 : ga_VCs RX5 462 1 ga_mt [(5, 218)] := ⟨⟨ga_VC_V (y := ga_mt 218) 1 q1917 q1919 qs60 q96 q1920 (by decide +kernel), by decide⟩, trivial⟩
theorem vc_X5_468_5 : ga_VCs RX5 468 1 ga_mt [(5, 215)] := ⟨⟨ga_VC_V (y := ga_mt 215) 1 q1926 q1928 qs61 q96 q1929 (by decide +kernel), by decide⟩, trivial⟩
theorem vc_X5_471_5 : ga_VCs RX5 471 3 ga_mt [(5, 216)] := ⟨⟨ga_VC_V (y := ga_mt 216) 3 q1930 q1932 qs62 q96 q1933 (by decide +kernel), by decide⟩, trivial⟩
theorem vc_X5_474_5 : ga_VCs RX5 474 0 ga_mt [(5, 212)] := ⟨⟨ga_VC_V (y := ga_mt 212) 0 q1938 q1940 qs63 q96 q1941 (by decide +kernel), by decide⟩, trivial⟩
theorem fw_X5_477_5 : ga_FWs RX5 477 61 .int false [5] := ⟨⟨RX5, TX5, 93, "LoanNamesModel", tyX5, rfl, by decide, in_X5, tyX5_ok, nmX5, q1470, Or.inl rfl, rfl, rfl, fun h => by cases h⟩, trivial⟩
theorem fl_X5_477_5 : ga_FLs RX5 477 61 [5] := ⟨⟨RX5, TX5, 93, "LoanNamesModel", rfl, by decide, in_X5, Or.inl q1470, Or.inl rfl⟩, trivial⟩
theorem fl_X5_119_5 : ga_FLs RX5 119 62 [5] := ⟨⟨RX5, TX5, 93, "LoanNamesModel", rfl, by decide, in_X5, Or.inl q1471, Or.inl rfl⟩, trivial⟩
theorem vc_X5_480_5 : ga_VCs RX5 480 0 ga_mt [(5, 223)] := ⟨⟨ga_VC_V (y := ga_mt 223) 0 q1964 q1966 qs67 q96 q1967 (by decide +kernel), by decide⟩, trivial⟩
theorem fl_X5_128_5 : ga_FLs RX5 128 65 [5] := ⟨⟨RX5, TX5, 93, "LoanNamesModel", rfl, by decide, in_X5, Or.inl q1474, Or.inl rfl⟩, trivial⟩
theorem fl_X5_122_5 : ga_FLs RX5 122 63 [5] := ⟨⟨RX5, TX5, 93, "LoanNamesModel", rfl, by decide, in_X5, Or.inl q1472, Or.inl rfl⟩, trivial⟩
theorem fl_X5_125_5 : ga_FLs RX5 125 64 [5] := ⟨⟨RX5, TX5, 93, "LoanNamesModel", rfl, by decide, in_X5, Or.inl q1473, Or.inl rfl⟩, trivial⟩
theorem vc_X5_483_5 : ga_VCs RX5 483 1 ga_mt [(5, 224)] := ⟨⟨ga_VC_V (y := ga_mt 224) 1 q1968 q1970 qs68 q96 q1971 (by decide +kernel), by decide⟩, trivial⟩
theorem sc_X5_486 : ga_SC RX5 486 (ga_mt 226) 2 := ga_SC_S (y := ga_mt 226) 2 q1953 q1954 q96 q1955 (by decide +kernel)
theorem vc_X5_489_5 : ga_VCs RX5 489 1 ga_mt [(5, 214)] := ⟨⟨ga_VC_V (y := ga_mt 214) 1 q1956 q1958 qs65 q96 q1959 (by decide +kernel), by decide⟩, trivial⟩
theorem vc_X5_492_5 : ga_VCs RX5 492 1 ga_mt [(5, 225)] := ⟨⟨ga_VC_V (y := ga_mt 225) 1 q1960 q1962 qs66 q96 q1963 (by decide +kernel), by decide⟩, trivial⟩
theorem vc_X5_495_5 : ga_VCs RX5 495 1 ga_mt [(5, 230)] := ⟨⟨ga_VC_V (y := ga_mt 230) 1 q1976 q1978 qs69 q96 q1979 (by decide +kernel), by decide⟩, trivial⟩
theorem sc_X5_498 : ga_SC RX5 498 (ga_mt 229) 4 := ga_SC_S (y := ga_mt 229) 4 q1980 q1981 q96 q1982 (by decide +kernel)
theorem sc_X5_502 : ga_SC RX5 502 (ga_mt 228) 2 := ga_SC_S (y := ga_mt 228) 2 q1983 q1984 q96 q1985 (by decide +kernel)
theorem fl_X5_131_5 : ga_FLs RX5 131 66 [5] := ⟨⟨RX5, TX5, 93, "LoanNamesModel", rfl, by decide, in_X5, Or.inl q1475, Or.inl rfl⟩, trivial⟩
theorem vc_X5_506_5 : ga_VCs RX5 506 0 ga_mt [(5, 232)] := ⟨⟨ga_VC_V (y := ga_mt 232) 0 q1990 q1992 qs70 q96 q1993 (by decide +kernel), by decide⟩, trivial⟩
theorem vc_X5_519_5 : ga_VCs RX5 519 0 ga_mt [(5, 237)] := ⟨⟨ga_VC_V (y := ga_mt 237) 0 q2019 q2021 qs73 q96 q2022 (by decide +kernel), by decide⟩, trivial⟩
theorem fl_X5_140_5 : ga_FLs RX5 140 71 [5] := ⟨⟨RX5, TX5, 93, "LoanNamesModel", rfl, by decide, in_X5, Or.inl q1480, Or.inl rfl⟩, trivial⟩
theorem vc_X5_522_5 : ga_VCs RX5 522 0 ga_mt [(5, 238)] := ⟨⟨ga_VC_V (y := ga_mt 238) 0 q2024 q2026 qs74 q96 q2027 (by decide +kernel), by decide⟩, trivial⟩
theorem fl_X5_143_5 : ga_FLs RX5 143 72 [5] := ⟨⟨RX5, TX5, 93, "LoanNamesModel", rfl, by decide, in_X5, Or.inl q1481, Or.inl rfl⟩, trivial⟩
theorem fl_X5_158_5 : ga_FLs RX5 158 77 [5] := ⟨⟨RX5, TX5, 93, "LoanNamesModel", rfl, by decide, in_X5, Or.inl q1486, Or.inl rfl⟩, trivial⟩
theorem fl_X5_152_5 : ga_FLs RX5 152 75 [5] := ⟨⟨RX5, TX5, 93, "LoanNamesModel", rfl, by decide, in_X5, Or.inl q1484, Or.inl rfl⟩, trivial⟩
theorem fl_X5_155_5 : ga_FLs RX5 155 76 [5] := ⟨⟨RX5, TX5, 93, "LoanNamesModel", rfl, by decide, in_X5, Or.inl q1485, Or.inl rfl⟩, trivial⟩
theorem fl_X5_146_5 : ga_FLs RX5 146 73 [5] := ⟨⟨RX5, TX5, 93, "LoanNamesModel", rfl, by decide, in_X5, Or.inl q1482, Or.inl rfl⟩, trivial⟩
theorem fl_X5_149_5 : ga_FLs RX5 149 74 [5] := ⟨⟨RX5, TX5, 93, "LoanNamesModel", rfl, by decide, in_X5, Or.inl q1483, Or.inl rfl⟩, trivial⟩
theorem vc_X5_527_5 : ga_VCs RX5 527 0 ga_mt [(5, 239)] := ⟨⟨ga_VC_V (y := ga_mt 239) 0 q2030 q2032 qs75 q96 q2033 (by decide +kernel), by decide⟩, trivial⟩
theorem vc_X5_532_5 : ga_VCs RX5 532 1 ga_mt [(5, 240)] := ⟨⟨ga_VC_V (y := ga_mt 240) 1 q2014 q2016 qs72 q96 q2017 (by decide +kernel), by decide⟩, trivial⟩
theorem fl_X5_535_5 : ga_FLs RX5 535 67 [5] := ⟨⟨RX5, TX5, 93, "LoanNamesModel", rfl, by decide, in_X5, Or.inl q1476, Or.inl rfl⟩, trivial⟩
theorem vc_X5_538_5 : ga_VCs RX5 538 2 ga_mt [(5, 241)] := ⟨⟨ga_VC_V (y := ga_mt 241) 2 q2010 q2012 qs71 q96 q2013 (by decide +kernel), by decide⟩, trivial⟩
theorem fl_X5_134_5 : ga_FLs RX5 134 69 [5] := ⟨⟨RX5, TX5, 93, "LoanNamesModel", rfl, by decide, in_X5, Or.inl q1478, Or.inl rfl⟩, trivial⟩
theorem fw_X5_535_5 : ga_FWs RX5 535 67 .int false [5] := ⟨⟨RX5, TX5, 93, "LoanNamesModel", tyX5, rfl, by decide, in_X5, tyX5_ok, nmX5, q1476, Or.inl rfl, rfl, rfl, fun h => by cases h⟩, trivial⟩
theorem fl_X5_541_5 : ga_FLs RX5 541 68 [5] := ⟨⟨RX5, TX5, 93, "LoanNamesModel", rfl, by decide, in_X5, Or.inl q1477, Or.inl rfl⟩, trivial⟩
theorem fl_X5_137_5 : ga_FLs RX5 137 70 [5] := ⟨⟨RX5, TX5, 93, "LoanNamesModel", rfl, by decide, in_X5, Or.inl q1479, Or.inl rfl⟩, trivial⟩
theorem fw_X5_541_5 : ga_FWs RX5 541 68 .int false [5] := ⟨⟨RX5, TX5, 93, "LoanNamesModel", tyX5, rfl, by decide, in_X5, tyX5_ok, nmX5, q1477, Or.inl rfl, rfl, rfl, fun h => by cases h⟩, trivial⟩
theorem fw_X5_544_5 : ga_FWs RX5 544 78 .int false [5] := ⟨⟨RX5, TX5, 93, "LoanNamesModel", tyX5, rfl, by decide, in_X5, tyX5_ok, nmX5, q1487, Or.inl rfl, rfl, rfl, fun h => by cases h⟩, trivial⟩
theorem fl_X5_544_5 : ga_FLs RX5 544 78 [5] := ⟨⟨RX5, TX5, 93, "LoanNamesModel", rfl, by decide, in_X5, Or.inl q1487, Or.inl rfl⟩, trivial⟩
theorem fl_X5_161_5 : ga_FLs RX5 161 81 [5] := ⟨⟨RX5, TX5, 93, "LoanNamesModel", rfl, by decide, in_X5, Or.inl q1490, Or.inl rfl⟩, trivial⟩
theorem fl_X5_164_5 : ga_FLs RX5 164 82 [5] := ⟨⟨RX5, TX5, 93, "LoanNamesModel", rfl, by decide, in_X5, Or.inl q1491, Or.inl rfl⟩, trivial⟩
theorem vc_X5_547_5 : ga_VCs RX5 547 3 ga_mt [(5, 245)] := ⟨⟨ga_VC_V (y := ga_mt 245) 3 q2057 q2059 qs79 q96 q2060 (by decide +kernel), by decide⟩, trivial⟩
theorem fw_X5_550_5 : ga_FWs RX5 550 79 .int false [5] := ⟨⟨RX5, TX5, 93, "LoanNamesModel", tyX5, rfl, by decide, in_X5, tyX5_ok, nmX5, q1488, Or.inl rfl, rfl, rfl, fun h => by cases h⟩, trivial⟩
theorem fw_X5_553_5 : ga_FWs RX5 553 80 .int false [5] := ⟨⟨RX5, TX5, 93, "LoanNamesModel", tyX5, rfl, by decide, in_X5, tyX5_ok, nmX5, q1489, Or.inl rfl, rfl, rfl, fun h => by cases h⟩, trivial⟩
theorem vc_X5_556_5 : ga_VCs RX5 556 3 ga_mt [(5, 246)] := ⟨⟨ga_VC_V (y := ga_mt 246) 3 q2061 q2063 qs80 q96 q2064 (by decide +kernel), by decide⟩, trivial⟩
theorem vc_X5_559_5 : ga_VCs RX5 559 0 ga_mt [(5, 244)] := ⟨⟨ga_VC_V (y := ga_mt 244) 0 q2049 q2051 qs77 q96 q2052 (by decide +kernel), by decide⟩, trivial⟩
theorem vc_X5_562_5 : ga_VCs RX5 562 1 ga_mt [(5, 247)] := ⟨⟨ga_VC_V (y := ga_mt 247) 1 q2053 q2055 qs78 q96 q2056 (by decide +kernel), by decide⟩, trivial⟩
theorem vc_X5_565_5 : ga_VCs RX5 565 0 ga_mt [(5, 248)] := ⟨⟨ga_VC_V (y := ga_mt 248) 0 q2045 q2047 qs76 q96 q2048 (by decide +kernel), by decide⟩, trivial⟩
theorem fl_X5_550_5 : ga_FLs RX5 550 79 [5] := ⟨⟨RX5, TX5, 93, "LoanNamesModel", rfl, by decide, in_X5, Or.inl q1488, Or.inl rfl⟩, trivial⟩
theorem fl_X5_553_5 : ga_FLs RX5 553 80 [5] := ⟨⟨RX5, TX5, 93, "LoanNamesModel", rfl, by decide, in_X5, Or.inl q1489, Or.inl rfl⟩, trivial⟩
theorem vc_X5_568_5 : ga_VCs RX5 568 1 ga_mt [(5, 250)] := ⟨⟨ga_VC_V (y := ga_mt 250) 1 q2069 q2071 qs81 q96 q2072 (by decide +kernel), by decide⟩, trivial⟩
theorem fl_X5_571_5 : ga_FLs RX5 571 83 [5] := ⟨⟨RX5, TX5, 93, "LoanNamesModel", rfl, by decide, in_X5, Or.inl q1492, Or.inl rfl⟩, trivial⟩
theorem fl_X5_167_5 : ga_FLs RX5 167 86 [5] := ⟨⟨RX5, TX5, 93, "LoanNamesModel", rfl, by decide, in_X5, Or.inl q1495, Or.inl rfl⟩, trivial⟩
theorem fw_X5_571_5 : ga_FWs RX5 571 83 .int false [5] := ⟨⟨RX5, TX5, 93, "LoanNamesModel", tyX5, rfl, by decide, in_X5, tyX5_ok, nmX5, q1492, Or.inl rfl, rfl, rfl, fun h => by cases h⟩, trivial⟩
theorem fw_X5_574_5 : ga_FWs RX5 574 84 .int false [5] := ⟨⟨RX5, TX5, 93, "LoanNamesModel", tyX5, rfl, by decide, in_X5, tyX5_ok, nmX5, q1493, Or.inl rfl, rfl, rfl, fun h => by cases h⟩, trivial⟩
theorem fw_X5_577_5 : ga_FWs RX5 577 85 .int false [5] := ⟨⟨RX5, TX5, 93, "LoanNamesModel", tyX5, rfl, by decide, in_X5, tyX5_ok, nmX5, q1494, Or.inl rfl, rfl, rfl, fun h => by cases h⟩, trivial⟩
theorem vc_X5_580_5 : ga_VCs RX5 580 0 ga_mt [(5, 254)] := ⟨⟨ga_VC_V (y := ga_mt 254) 0 q2085 q2087 qs83 q96 q2088 (by decide +kernel), by decide⟩, trivial⟩
theorem fl_X5_574_5 : ga_FLs RX5 574 84 [5] := ⟨⟨RX5, TX5, 93, "LoanNamesModel", rfl, by decide, in_X5, Or.inl q1493, Or.inl rfl⟩, trivial⟩
theorem fl_X5_170_5 : ga_FLs RX5 170 87 [5] := ⟨⟨RX5, TX5, 93, "LoanNamesModel", rfl, by decide, in_X5, Or.inl q1496, Or.inl rfl⟩, trivial⟩
theorem fl_X5_577_5 : ga_FLs RX5 577 85 [5] := ⟨⟨RX5, TX5, 93, "LoanNamesModel", rfl, by decide, in_X5, Or.inl q1494, Or.inl rfl⟩, trivial⟩
theorem vc_X5_583_5 : ga_VCs RX5 583 1 ga_mt [(5, 253)] := ⟨⟨ga_VC_V (y := ga_mt 253) 1 q2081 q2083 qs82 q96 q2084 (by decide +kernel), by decide⟩, trivial⟩
theorem fl_X5_586_5 : ga_FLs RX5 586 88 [5] := ⟨⟨RX5, TX5, 93, "LoanNamesModel", rfl, by decide, in_X5, Or.inl q1497, Or.inl rfl⟩, trivial⟩
theorem fl_X5_173_5 : ga_FLs RX5 173 89 [5] := ⟨⟨RX5, TX5, 93, "LoanNamesModel", rfl, by decide, in_X5, Or.inl q1498, Or.inl rfl⟩, trivial⟩
theorem fl_X5_176_5 : ga_FLs RX5 176 90 [5] := ⟨⟨RX5, TX5, 93, "LoanNamesModel", rfl, by decide, in_X5, Or.inl q1499, Or.inl rfl⟩, trivial⟩
theorem fw_X5_586_5 : ga_FWs RX5 586 88 .int false [5] := ⟨⟨RX5, TX5, 93, "LoanNamesModel", tyX5, rfl, by decide, in_X5, tyX5_ok, nmX5, q1497, Or.inl rfl, rfl, rfl, fun h => by cases h⟩, trivial⟩
theorem vc_X5_589_5 : ga_VCs RX5 589 1 ga_mt [(5, 257)] := ⟨⟨ga_VC_V (y := ga_mt 257) 1 q2097 q2099 qs84 q96 q2100 (by decide +kernel), by decide⟩, trivial⟩
theorem fl_X5_179_5 : ga_FLs RX5 179 91 [5] := ⟨⟨RX5, TX5, 93, "LoanNamesModel", rfl, by decide, in_X5, Or.inl q1500, Or.inl rfl⟩, trivial⟩
theorem vc_X5_592_5 : ga_VCs RX5 592 2 ga_mt [(5, 259)] := ⟨⟨ga_VC_V (y := ga_mt 259) 2 q2105 q2107 qs85 q96 q2108 (by decide +kernel), by decide⟩, trivial⟩
theorem vc_X5_595_5 : ga_VCs RX5 595 2 ga_mt [(5, 189)] := ⟨⟨ga_VC_V (y := ga_mt 189) 2 q2125 q1806 q1807 q96 q1808 (by decide +kernel), by decide⟩, trivial⟩
theorem fl_X5_182_5 : ga_FLs RX5 182 92 [5] := ⟨⟨RX5, TX5, 93, "LoanNamesModel", rfl, by decide, in_X5, Or.inl q1501, Or.inl rfl⟩, trivial⟩
theorem vc_X5_598_5 : ga_VCs RX5 598 3 ga_mt [(5, 262)] := ⟨⟨ga_VC_V (y := ga_mt 262) 3 q2121 q2123 qs87 q96 q2124 (by decide +kernel), by decide⟩, trivial⟩
theorem vc_X5_601_5 : ga_VCs RX5 601 1 ga_mt [(5, 263)] := ⟨⟨ga_VC_V (y := ga_mt 263) 1 q2117 q2119 qs86 q96 q2120 (by decide +kernel), by decide⟩, trivial⟩
theorem vc_X5_604_5 : ga_VCs RX5 604 0 ga_mt [(5, 267)] := ⟨⟨ga_VC_V (y := ga_mt 267) 0 q2134 q2136 qs88 q96 q2137 (by decide +kernel), by decide⟩, trivial⟩
theorem vc_X5_607_5 : ga_VCs RX5 607 0 ga_mt [(5, 268)] := ⟨⟨ga_VC_V (y := ga_mt 268) 0 q2138 q2140 qs89 q96 q2141 (by decide +kernel), by decide⟩, trivial⟩
theorem fw_X5_7_5 : ga_FWs RX5 7 0 (.array .int) true [5] := ⟨⟨RX5, TX5, 93, "LoanNamesModel", tyX5, rfl, by decide, in_X5, tyX5_ok, nmX5, q1409, Or.inl rfl, rfl, rfl, fun _ => rfl⟩, trivial⟩
theorem fw_X5_13_5 : ga_FWs RX5 13 2 (.array .int) true [5] := ⟨⟨RX5, TX5, 93, "LoanNamesModel", tyX5, rfl, by decide, in_X5, tyX5_ok, nmX5, q1411, Or.inl rfl, rfl, rfl, fun _ => rfl⟩, trivial⟩
theorem fw_X5_16_5 : ga_FWs RX5 16 3 (.array .int) true [5] := ⟨⟨RX5, TX5, 93, "LoanNamesModel", tyX5, rfl, by decide, in_X5, tyX5_ok, nmX5, q1412, Or.inl rfl, rfl, rfl, fun _ => rfl⟩, trivial⟩
theorem fw_X5_19_5 : ga_FWs RX5 19 4 (.array .int) true [5] := ⟨⟨RX5, TX5, 93, "LoanNamesModel", tyX5, rfl, by decide, in_X5, tyX5_ok, nmX5, q1413, Or.inl rfl, rfl, rfl, fun _ => rfl⟩, trivial⟩
theorem fw_X5_22_5 : ga_FWs RX5 22 5 (.array .int) true [5] := ⟨⟨RX5, TX5, 93, "LoanNamesModel", tyX5, rfl, by decide, in_X5, tyX5_ok, nmX5, q1414, Or.inl rfl, rfl, rfl, fun _ => rfl⟩, trivial⟩
theorem fw_X5_25_5 : ga_FWs RX5 25 6 (.array .int) true [5] := ⟨⟨RX5, TX5, 93, "LoanNamesModel", tyX5, rfl, by decide, in_X5, tyX5_ok, nmX5, q1415, Or.inl rfl, rfl, rfl, fun _ => rfl⟩, trivial⟩
theorem fw_X5_28_5 : ga_FWs RX5 28 7 (.array .int) true [5] := ⟨⟨RX5, TX5, 93, "LoanNamesModel", tyX5, rfl, by decide, in_X5, tyX5_ok, nmX5, q1416, Or.inl rfl, rfl, rfl, fun _ => rfl⟩, trivial⟩
theorem fw_X5_31_5 : ga_FWs RX5 31 8 (.array .int) true [5] := ⟨⟨RX5, TX5, 93, "LoanNamesModel", tyX5, rfl, by decide, in_X5, tyX5_ok, nmX5, q1417, Or.inl rfl, rfl, rfl, fun _ => rfl⟩, trivial⟩
theorem fw_X5_34_5 : ga_FWs RX5 34 9 (.array .int) true [5] := ⟨⟨RX5, TX5, 93, "LoanNamesModel", tyX5, rfl, by decide, in_X5, tyX5_ok, nmX5, q1418, Or.inl rfl, rfl, rfl, fun _ => rfl⟩, trivial⟩
theorem fw_X5_37_5 : ga_FWs RX5 37 10 (.array .int) true [5] := ⟨⟨RX5, TX5, 93, "LoanNamesModel", tyX5, rfl, by decide, in_X5, tyX5_ok, nmX5, q1419, Or.inl rfl, rfl, rfl, fun _ => rfl⟩, trivial⟩
theorem fw_X5_40_5 : ga_FWs RX5 40 11 (.array .int) true [5] := ⟨⟨RX5, TX5, 93, "LoanNamesModel", tyX5, rfl, by decide, in_X5, tyX5_ok, nmX5, q1420, Or.inl rfl, rfl, rfl, fun _ => rfl⟩, trivial⟩
theorem fw_X5_43_5 : ga_FWs RX5 43 12 (.array .int) true [5] := ⟨⟨RX5, TX5, 93, "LoanNamesModel", tyX5, rfl, by decide, in_X5, tyX5_ok, nmX5, q1421, Or.inl rfl, rfl, rfl, fun _ => rfl⟩, trivial⟩
theorem fw_X5_46_5 : ga_FWs RX5 46 13 (.array .int) true [5] := ⟨⟨RX5, TX5, 93, "LoanNamesModel", tyX5, rfl, by decide, in_X5, tyX5_ok, nmX5, q1422, Or.inl rfl, rfl, rfl, fun _ => rfl⟩, trivial⟩
theorem fw_X5_49_5 : ga_FWs RX5 49 14 (.array .int) true [5] := ⟨⟨RX5, TX5, 93, "LoanNamesModel", tyX5, rfl, by decide, in_X5, tyX5_ok, nmX5, q1423, Or.inl rfl, rfl, rfl, fun _ => rfl⟩, trivial⟩
theorem fw_X5_52_5 : ga_FWs RX5 52 15 (.array .int) true [5] := ⟨⟨RX5, TX5, 93, "LoanNamesModel", tyX5, rfl, by decide, in_X5, tyX5_ok, nmX5, q1424, Or.inl rfl, rfl, rfl, fun _ => rfl⟩, trivial⟩
theorem fw_X5_55_5 : ga_FWs RX5 55 16 (.array .int) true [5] := ⟨⟨RX5, TX5, 93, "LoanNamesModel", tyX5, rfl, by decide, in_X5, tyX5_ok, nmX5, q1425, Or.inl rfl, rfl, rfl, fun _ => rfl⟩, trivial⟩
theorem fw_X5_58_5 : ga_FWs RX5 58 17 (.array .int) true [5] := ⟨⟨RX5, TX5, 93, "LoanNamesModel", tyX5, rfl, by decide, in_X5, tyX5_ok, nmX5, q1426, Or.inl rfl, rfl, rfl, fun _ => rfl⟩, trivial⟩
theorem fw_X5_61_5 : ga_FWs RX5 61 18 (.array .int) true [5] := ⟨⟨RX5, TX5, 93, "LoanNamesModel", tyX5, rfl, by decide, in_X5, tyX5_ok, nmX5, q1427, Or.inl rfl, rfl, rfl, fun _ => rfl⟩, trivial⟩
theorem fw_X5_64_5 : ga_FWs RX5 64 19 (.array .int) true [5] := ⟨⟨RX5, TX5, 93, "LoanNamesModel", tyX5, rfl, by decide, in_X5, tyX5_ok, nmX5, q1428, Or.inl rfl, rfl, rfl, fun _ => rfl⟩, trivial⟩
theorem fw_X5_67_5 : ga_FWs RX5 67 20 (.array .byte) true [5] := ⟨⟨RX5, TX5, 93, "LoanNamesModel", tyX5, rfl, by decide, in_X5, tyX5_ok, nmX5, q1429, Or.inl rfl, rfl, rfl, fun _ => rfl⟩, trivial⟩
theorem fw_X5_75_5 : ga_FWs RX5 75 30 (.array .int) true [5] := ⟨⟨RX5, TX5, 93, "LoanNamesModel", tyX5, rfl, by decide, in_X5, tyX5_ok, nmX5, q1439, Or.inl rfl, rfl, rfl, fun _ => rfl⟩, trivial⟩
theorem fw_X5_78_5 : ga_FWs RX5 78 31 (.array .int) true [5] := ⟨⟨RX5, TX5, 93, "LoanNamesModel", tyX5, rfl, by decide, in_X5, tyX5_ok, nmX5, q1440, Or.inl rfl, rfl, rfl, fun _ => rfl⟩, trivial⟩
theorem fw_X5_81_5 : ga_FWs RX5 81 38 (.array .boolean) true [5] := ⟨⟨RX5, TX5, 93, "LoanNamesModel", tyX5, rfl, by decide, in_X5, tyX5_ok, nmX5, q1447, Or.inl rfl, rfl, rfl, fun _ => rfl⟩, trivial⟩
theorem fw_X5_85_5 : ga_FWs RX5 85 39 (.array .boolean) true [5] := ⟨⟨RX5, TX5, 93, "LoanNamesModel", tyX5, rfl, by decide, in_X5, tyX5_ok, nmX5, q1448, Or.inl rfl, rfl, rfl, fun _ => rfl⟩, trivial⟩
theorem fw_X5_88_5 : ga_FWs RX5 88 40 (.array .int) true [5] := ⟨⟨RX5, TX5, 93, "LoanNamesModel", tyX5, rfl, by decide, in_X5, tyX5_ok, nmX5, q1449, Or.inl rfl, rfl, rfl, fun _ => rfl⟩, trivial⟩
theorem fw_X5_91_5 : ga_FWs RX5 91 44 (.array .int) true [5] := ⟨⟨RX5, TX5, 93, "LoanNamesModel", tyX5, rfl, by decide, in_X5, tyX5_ok, nmX5, q1453, Or.inl rfl, rfl, rfl, fun _ => rfl⟩, trivial⟩
theorem fw_X5_94_5 : ga_FWs RX5 94 46 (.array .int) true [5] := ⟨⟨RX5, TX5, 93, "LoanNamesModel", tyX5, rfl, by decide, in_X5, tyX5_ok, nmX5, q1455, Or.inl rfl, rfl, rfl, fun _ => rfl⟩, trivial⟩
theorem fw_X5_97_5 : ga_FWs RX5 97 49 (.array .int) true [5] := ⟨⟨RX5, TX5, 93, "LoanNamesModel", tyX5, rfl, by decide, in_X5, tyX5_ok, nmX5, q1458, Or.inl rfl, rfl, rfl, fun _ => rfl⟩, trivial⟩
theorem fw_X5_100_5 : ga_FWs RX5 100 50 (.array .int) true [5] := ⟨⟨RX5, TX5, 93, "LoanNamesModel", tyX5, rfl, by decide, in_X5, tyX5_ok, nmX5, q1459, Or.inl rfl, rfl, rfl, fun _ => rfl⟩, trivial⟩
theorem fw_X5_103_5 : ga_FWs RX5 103 51 (.array .int) true [5] := ⟨⟨RX5, TX5, 93, "LoanNamesModel", tyX5, rfl, by decide, in_X5, tyX5_ok, nmX5, q1460, Or.inl rfl, rfl, rfl, fun _ => rfl⟩, trivial⟩
theorem fw_X5_106_5 : ga_FWs RX5 106 52 (.array .int) true [5] := ⟨⟨RX5, TX5, 93, "LoanNamesModel", tyX5, rfl, by decide, in_X5, tyX5_ok, nmX5, q1461, Or.inl rfl, rfl, rfl, fun _ => rfl⟩, trivial⟩
theorem fw_X5_109_5 : ga_FWs RX5 109 53 (.array .long) true [5] := ⟨⟨RX5, TX5, 93, "LoanNamesModel", tyX5, rfl, by decide, in_X5, tyX5_ok, nmX5, q1462, Or.inl rfl, rfl, rfl, fun _ => rfl⟩, trivial⟩
theorem fw_X5_113_5 : ga_FWs RX5 113 56 (.array .int) true [5] := ⟨⟨RX5, TX5, 93, "LoanNamesModel", tyX5, rfl, by decide, in_X5, tyX5_ok, nmX5, q1465, Or.inl rfl, rfl, rfl, fun _ => rfl⟩, trivial⟩
theorem fw_X5_116_5 : ga_FWs RX5 116 57 (.array .int) true [5] := ⟨⟨RX5, TX5, 93, "LoanNamesModel", tyX5, rfl, by decide, in_X5, tyX5_ok, nmX5, q1466, Or.inl rfl, rfl, rfl, fun _ => rfl⟩, trivial⟩
theorem fw_X5_119_5 : ga_FWs RX5 119 62 (.array .int) true [5] := ⟨⟨RX5, TX5, 93, "LoanNamesModel", tyX5, rfl, by decide, in_X5, tyX5_ok, nmX5, q1471, Or.inl rfl, rfl, rfl, fun _ => rfl⟩, trivial⟩
theorem fw_X5_122_5 : ga_FWs RX5 122 63 (.array .boolean) true [5] := ⟨⟨RX5, TX5, 93, "LoanNamesModel", tyX5, rfl, by decide, in_X5, tyX5_ok, nmX5, q1472, Or.inl rfl, rfl, rfl, fun _ => rfl⟩, trivial⟩
theorem fw_X5_125_5 : ga_FWs RX5 125 64 (.array .long) true [5] := ⟨⟨RX5, TX5, 93, "LoanNamesModel", tyX5, rfl, by decide, in_X5, tyX5_ok, nmX5, q1473, Or.inl rfl, rfl, rfl, fun _ => rfl⟩, trivial⟩
theorem fw_X5_128_5 : ga_FWs RX5 128 65 (.array .int) true [5] := ⟨⟨RX5, TX5, 93, "LoanNamesModel", tyX5, rfl, by decide, in_X5, tyX5_ok, nmX5, q1474, Or.inl rfl, rfl, rfl, fun _ => rfl⟩, trivial⟩
theorem fw_X5_131_5 : ga_FWs RX5 131 66 (.array .int) true [5] := ⟨⟨RX5, TX5, 93, "LoanNamesModel", tyX5, rfl, by decide, in_X5, tyX5_ok, nmX5, q1475, Or.inl rfl, rfl, rfl, fun _ => rfl⟩, trivial⟩
theorem fw_X5_134_5 : ga_FWs RX5 134 69 (.array .int) true [5] := ⟨⟨RX5, TX5, 93, "LoanNamesModel", tyX5, rfl, by decide, in_X5, tyX5_ok, nmX5, q1478, Or.inl rfl, rfl, rfl, fun _ => rfl⟩, trivial⟩
theorem fw_X5_137_5 : ga_FWs RX5 137 70 (.array .int) true [5] := ⟨⟨RX5, TX5, 93, "LoanNamesModel", tyX5, rfl, by decide, in_X5, tyX5_ok, nmX5, q1479, Or.inl rfl, rfl, rfl, fun _ => rfl⟩, trivial⟩
theorem fw_X5_140_5 : ga_FWs RX5 140 71 (.array .int) true [5] := ⟨⟨RX5, TX5, 93, "LoanNamesModel", tyX5, rfl, by decide, in_X5, tyX5_ok, nmX5, q1480, Or.inl rfl, rfl, rfl, fun _ => rfl⟩, trivial⟩
theorem fw_X5_143_5 : ga_FWs RX5 143 72 (.array .int) true [5] := ⟨⟨RX5, TX5, 93, "LoanNamesModel", tyX5, rfl, by decide, in_X5, tyX5_ok, nmX5, q1481, Or.inl rfl, rfl, rfl, fun _ => rfl⟩, trivial⟩
theorem fw_X5_146_5 : ga_FWs RX5 146 73 (.array .int) true [5] := ⟨⟨RX5, TX5, 93, "LoanNamesModel", tyX5, rfl, by decide, in_X5, tyX5_ok, nmX5, q1482, Or.inl rfl, rfl, rfl, fun _ => rfl⟩, trivial⟩
theorem fw_X5_149_5 : ga_FWs RX5 149 74 (.array .int) true [5] := ⟨⟨RX5, TX5, 93, "LoanNamesModel", tyX5, rfl, by decide, in_X5, tyX5_ok, nmX5, q1483, Or.inl rfl, rfl, rfl, fun _ => rfl⟩, trivial⟩
theorem fw_X5_152_5 : ga_FWs RX5 152 75 (.array .int) true [5] := ⟨⟨RX5, TX5, 93, "LoanNamesModel", tyX5, rfl, by decide, in_X5, tyX5_ok, nmX5, q1484, Or.inl rfl, rfl, rfl, fun _ => rfl⟩, trivial⟩
theorem fw_X5_155_5 : ga_FWs RX5 155 76 (.array .int) true [5] := ⟨⟨RX5, TX5, 93, "LoanNamesModel", tyX5, rfl, by decide, in_X5, tyX5_ok, nmX5, q1485, Or.inl rfl, rfl, rfl, fun _ => rfl⟩, trivial⟩
theorem fw_X5_158_5 : ga_FWs RX5 158 77 (.array .boolean) true [5] := ⟨⟨RX5, TX5, 93, "LoanNamesModel", tyX5, rfl, by decide, in_X5, tyX5_ok, nmX5, q1486, Or.inl rfl, rfl, rfl, fun _ => rfl⟩, trivial⟩
theorem fw_X5_161_5 : ga_FWs RX5 161 81 (.array .int) true [5] := ⟨⟨RX5, TX5, 93, "LoanNamesModel", tyX5, rfl, by decide, in_X5, tyX5_ok, nmX5, q1490, Or.inl rfl, rfl, rfl, fun _ => rfl⟩, trivial⟩
theorem fw_X5_164_5 : ga_FWs RX5 164 82 (.array .int) true [5] := ⟨⟨RX5, TX5, 93, "LoanNamesModel", tyX5, rfl, by decide, in_X5, tyX5_ok, nmX5, q1491, Or.inl rfl, rfl, rfl, fun _ => rfl⟩, trivial⟩
theorem fw_X5_167_5 : ga_FWs RX5 167 86 (.array .int) true [5] := ⟨⟨RX5, TX5, 93, "LoanNamesModel", tyX5, rfl, by decide, in_X5, tyX5_ok, nmX5, q1495, Or.inl rfl, rfl, rfl, fun _ => rfl⟩, trivial⟩
theorem fw_X5_170_5 : ga_FWs RX5 170 87 (.array .int) true [5] := ⟨⟨RX5, TX5, 93, "LoanNamesModel", tyX5, rfl, by decide, in_X5, tyX5_ok, nmX5, q1496, Or.inl rfl, rfl, rfl, fun _ => rfl⟩, trivial⟩
theorem fw_X5_173_5 : ga_FWs RX5 173 89 (.array .int) true [5] := ⟨⟨RX5, TX5, 93, "LoanNamesModel", tyX5, rfl, by decide, in_X5, tyX5_ok, nmX5, q1498, Or.inl rfl, rfl, rfl, fun _ => rfl⟩, trivial⟩
theorem fw_X5_176_5 : ga_FWs RX5 176 90 (.array .int) true [5] := ⟨⟨RX5, TX5, 93, "LoanNamesModel", tyX5, rfl, by decide, in_X5, tyX5_ok, nmX5, q1499, Or.inl rfl, rfl, rfl, fun _ => rfl⟩, trivial⟩
theorem fw_X5_179_5 : ga_FWs RX5 179 91 (.array .long) true [5] := ⟨⟨RX5, TX5, 93, "LoanNamesModel", tyX5, rfl, by decide, in_X5, tyX5_ok, nmX5, q1500, Or.inl rfl, rfl, rfl, fun _ => rfl⟩, trivial⟩
theorem fw_X5_182_5 : ga_FWs RX5 182 92 (.array .int) true [5] := ⟨⟨RX5, TX5, 93, "LoanNamesModel", tyX5, rfl, by decide, in_X5, tyX5_ok, nmX5, q1501, Or.inl rfl, rfl, rfl, fun _ => rfl⟩, trivial⟩
theorem nw_L_7 : ga_NW "LoanNamesLaw" 7 0 tyX0 := ⟨RX0, TX0, 17, rfl, in_X0, tyX0_ok, q117, q118, q91⟩
theorem ic_L_9_0 : ga_ICs "LoanNamesLaw" 9 0 (ga_mt 49) [0] := ⟨ga_IC_I 0 q119 q120 q91 q121 rfl (by decide +kernel), trivial⟩
theorem nw_L_10 : ga_NW "LoanNamesLaw" 10 5 tyX5 := ⟨RX5, TX5, 93, rfl, in_X5, tyX5_ok, q1403, q1404, q96⟩
theorem ic_L_12_5 : ga_ICs "LoanNamesLaw" 12 0 (ga_mt 269) [5] := ⟨ga_IC_I 0 q1405 q1406 q96 q1407 rfl (by decide +kernel), trivial⟩
theorem vc_L_13_0 : ga_VCs "LoanNamesLaw" 13 2 ga_mt [(0, 3)] := ⟨⟨ga_VC_V (y := ga_mt 3) 2 q319 q320 q321 q91 q322 (by decide +kernel), by decide⟩, trivial⟩
theorem vc_L_17_5 : ga_VCs "LoanNamesLaw" 17 2 ga_mt [(5, 165)] := ⟨⟨ga_VC_V (y := ga_mt 165) 2 q1689 q1690 q1691 q96 q1692 (by decide +kernel), by decide⟩, trivial⟩
theorem vc_L_18_0 : ga_VCs "LoanNamesLaw" 18 5 ga_mt [(0, 4)] := ⟨⟨ga_VC_V (y := ga_mt 4) 5 q326 q327 q328 q91 q329 (by decide +kernel), by decide⟩, trivial⟩
theorem vc_L_22_5 : ga_VCs "LoanNamesLaw" 22 5 ga_mt [(5, 166)] := ⟨⟨ga_VC_V (y := ga_mt 166) 5 q1696 q1697 q1698 q96 q1699 (by decide +kernel), by decide⟩, trivial⟩
theorem vc_L_23_0 : ga_VCs "LoanNamesLaw" 23 2 ga_mt [(0, 5)] := ⟨⟨ga_VC_V (y := ga_mt 5) 2 q330 q331 q332 q91 q333 (by decide +kernel), by decide⟩, trivial⟩
theorem vc_L_27_5 : ga_VCs "LoanNamesLaw" 27 2 ga_mt [(5, 184)] := ⟨⟨ga_VC_V (y := ga_mt 184) 2 q1700 q1701 q1702 q96 q1703 (by decide +kernel), by decide⟩, trivial⟩
theorem vc_L_28_0 : ga_VCs "LoanNamesLaw" 28 1 ga_mt [(0, 7)] := ⟨⟨ga_VC_V (y := ga_mt 7) 1 q758 q759 q760 q91 q761 (by decide +kernel), by decide⟩, trivial⟩
theorem vc_L_32_5 : ga_VCs "LoanNamesLaw" 32 1 ga_mt [(5, 242)] := ⟨⟨ga_VC_V (y := ga_mt 242) 1 q2006 q2007 q2008 q96 q2009 (by decide +kernel), by decide⟩, trivial⟩
theorem vc_L_33_0 : ga_VCs "LoanNamesLaw" 33 1 ga_mt [(0, 8)] := ⟨⟨ga_VC_V (y := ga_mt 8) 1 q864 q865 q866 q91 q867 (by decide +kernel), by decide⟩, trivial⟩
theorem vc_L_36_5 : ga_VCs "LoanNamesLaw" 36 1 ga_mt [(5, 243)] := ⟨⟨ga_VC_V (y := ga_mt 243) 1 q2037 q2038 q2039 q96 q2040 (by decide +kernel), by decide⟩, trivial⟩
theorem vc_L_37_0 : ga_VCs "LoanNamesLaw" 37 0 ga_mt [(0, 9)] := ⟨⟨ga_VC_V (y := ga_mt 9) 0 q868 q869 q870 q91 q871 (by decide +kernel), by decide⟩, trivial⟩
theorem vc_L_41_5 : ga_VCs "LoanNamesLaw" 41 0 ga_mt [(5, 185)] := ⟨⟨ga_VC_V (y := ga_mt 185) 0 q1801 q1802 q1803 q96 q1804 (by decide +kernel), by decide⟩, trivial⟩
theorem vc_L_42_0 : ga_VCs "LoanNamesLaw" 42 2 ga_mt [(0, 12)] := ⟨⟨ga_VC_V (y := ga_mt 12) 2 q872 q873 q874 q91 q875 (by decide +kernel), by decide⟩, trivial⟩
theorem vc_L_45_5 : ga_VCs "LoanNamesLaw" 45 2 ga_mt [(5, 189)] := ⟨⟨ga_VC_V (y := ga_mt 189) 2 q1805 q1806 q1807 q96 q1808 (by decide +kernel), by decide⟩, trivial⟩
theorem vc_L_46_0 : ga_VCs "LoanNamesLaw" 46 3 ga_mt [(0, 13)] := ⟨⟨ga_VC_V (y := ga_mt 13) 3 q888 q889 q890 q91 q891 (by decide +kernel), by decide⟩, trivial⟩
theorem vc_L_50_5 : ga_VCs "LoanNamesLaw" 50 3 ga_mt [(5, 190)] := ⟨⟨ga_VC_V (y := ga_mt 190) 3 q1817 q1818 q1819 q96 q1820 (by decide +kernel), by decide⟩, trivial⟩
theorem vc_L_51_0 : ga_VCs "LoanNamesLaw" 51 2 ga_mt [(0, 14)] := ⟨⟨ga_VC_V (y := ga_mt 14) 2 q926 q927 q928 q91 q929 (by decide +kernel), by decide⟩, trivial⟩
theorem vc_L_54_5 : ga_VCs "LoanNamesLaw" 54 2 ga_mt [(5, 201)] := ⟨⟨ga_VC_V (y := ga_mt 201) 2 q1829 q1830 q1831 q96 q1832 (by decide +kernel), by decide⟩, trivial⟩
theorem vc_L_55_0 : ga_VCs "LoanNamesLaw" 55 2 ga_mt [(0, 17)] := ⟨⟨ga_VC_V (y := ga_mt 17) 2 q1082 q1083 q1084 q91 q1085 (by decide +kernel), by decide⟩, trivial⟩
theorem vc_L_58_5 : ga_VCs "LoanNamesLaw" 58 2 ga_mt [(5, 205)] := ⟨⟨ga_VC_V (y := ga_mt 205) 2 q1861 q1862 q1863 q96 q1864 (by decide +kernel), by decide⟩, trivial⟩
theorem vc_L_59_0 : ga_VCs "LoanNamesLaw" 59 1 ga_mt [(0, 18)] := ⟨⟨ga_VC_V (y := ga_mt 18) 1 q1146 q1147 q1148 q91 q1149 (by decide +kernel), by decide⟩, trivial⟩
theorem vc_L_62_5 : ga_VCs "LoanNamesLaw" 62 1 ga_mt [(5, 206)] := ⟨⟨ga_VC_V (y := ga_mt 206) 1 q1881 q1882 q1883 q96 q1884 (by decide +kernel), by decide⟩, trivial⟩
theorem vc_L_63_0 : ga_VCs "LoanNamesLaw" 63 0 ga_mt [(0, 19)] := ⟨⟨ga_VC_V (y := ga_mt 19) 0 q1159 q1160 q1161 q91 q1162 (by decide +kernel), by decide⟩, trivial⟩
theorem vc_L_66_5 : ga_VCs "LoanNamesLaw" 66 0 ga_mt [(5, 207)] := ⟨⟨ga_VC_V (y := ga_mt 207) 0 q1885 q1886 q1887 q96 q1888 (by decide +kernel), by decide⟩, trivial⟩
theorem vc_L_67_0 : ga_VCs "LoanNamesLaw" 67 3 ga_mt [(0, 20)] := ⟨⟨ga_VC_V (y := ga_mt 20) 3 q1167 q1168 q1169 q91 q1170 (by decide +kernel), by decide⟩, trivial⟩
theorem vc_L_71_5 : ga_VCs "LoanNamesLaw" 71 3 ga_mt [(5, 220)] := ⟨⟨ga_VC_V (y := ga_mt 220) 3 q1889 q1890 q1891 q96 q1892 (by decide +kernel), by decide⟩, trivial⟩
theorem vc_L_72_0 : ga_VCs "LoanNamesLaw" 72 4 ga_mt [(0, 22)] := ⟨⟨ga_VC_V (y := ga_mt 22) 4 q1181 q1182 q1183 q91 q1184 (by decide +kernel), by decide⟩, trivial⟩
theorem vc_L_76_5 : ga_VCs "LoanNamesLaw" 76 4 ga_mt [(5, 221)] := ⟨⟨ga_VC_V (y := ga_mt 221) 4 q1921 q1922 q1923 q96 q1924 (by decide +kernel), by decide⟩, trivial⟩
theorem vc_L_77_0 : ga_VCs "LoanNamesLaw" 77 0 ga_mt [(0, 23)] := ⟨⟨ga_VC_V (y := ga_mt 23) 0 q1194 q1195 q1196 q91 q1197 (by decide +kernel), by decide⟩, trivial⟩
theorem vc_L_80_5 : ga_VCs "LoanNamesLaw" 80 0 ga_mt [(5, 222)] := ⟨⟨ga_VC_V (y := ga_mt 222) 0 q1934 q1935 q1936 q96 q1937 (by decide +kernel), by decide⟩, trivial⟩
theorem vc_L_81_0 : ga_VCs "LoanNamesLaw" 81 2 ga_mt [(0, 25)] := ⟨⟨ga_VC_V (y := ga_mt 25) 2 q1212 q1213 q1214 q91 q1215 (by decide +kernel), by decide⟩, trivial⟩
theorem vc_L_84_5 : ga_VCs "LoanNamesLaw" 84 2 ga_mt [(5, 227)] := ⟨⟨ga_VC_V (y := ga_mt 227) 2 q1949 q1950 q1951 q96 q1952 (by decide +kernel), by decide⟩, trivial⟩
theorem vc_L_85_0 : ga_VCs "LoanNamesLaw" 85 3 ga_mt [(0, 28)] := ⟨⟨ga_VC_V (y := ga_mt 28) 3 q1256 q1257 q1258 q91 q1259 (by decide +kernel), by decide⟩, trivial⟩
theorem vc_L_88_5 : ga_VCs "LoanNamesLaw" 88 3 ga_mt [(5, 231)] := ⟨⟨ga_VC_V (y := ga_mt 231) 3 q1972 q1973 q1974 q96 q1975 (by decide +kernel), by decide⟩, trivial⟩
theorem vc_L_89_0 : ga_VCs "LoanNamesLaw" 89 0 ga_mt [(0, 29)] := ⟨⟨ga_VC_V (y := ga_mt 29) 0 q1274 q1275 q1276 q91 q1277 (by decide +kernel), by decide⟩, trivial⟩
theorem vc_L_92_5 : ga_VCs "LoanNamesLaw" 92 0 ga_mt [(5, 233)] := ⟨⟨ga_VC_V (y := ga_mt 233) 0 q1986 q1987 q1988 q96 q1989 (by decide +kernel), by decide⟩, trivial⟩
theorem vc_L_93_0 : ga_VCs "LoanNamesLaw" 93 0 ga_mt [(0, 30)] := ⟨⟨ga_VC_V (y := ga_mt 30) 0 q1283 q1284 q1285 q91 q1286 (by decide +kernel), by decide⟩, trivial⟩
theorem vc_L_97_5 : ga_VCs "LoanNamesLaw" 97 0 ga_mt [(5, 234)] := ⟨⟨ga_VC_V (y := ga_mt 234) 0 q1994 q1995 q1996 q96 q1997 (by decide +kernel), by decide⟩, trivial⟩
theorem vc_L_98_0 : ga_VCs "LoanNamesLaw" 98 2 ga_mt [(0, 31)] := ⟨⟨ga_VC_V (y := ga_mt 31) 2 q1287 q1288 q1289 q91 q1290 (by decide +kernel), by decide⟩, trivial⟩
theorem vc_L_102_5 : ga_VCs "LoanNamesLaw" 102 2 ga_mt [(5, 235)] := ⟨⟨ga_VC_V (y := ga_mt 235) 2 q1998 q1999 q2000 q96 q2001 (by decide +kernel), by decide⟩, trivial⟩
theorem vc_L_103_0 : ga_VCs "LoanNamesLaw" 103 3 ga_mt [(0, 32)] := ⟨⟨ga_VC_V (y := ga_mt 32) 3 q1291 q1292 q1293 q91 q1294 (by decide +kernel), by decide⟩, trivial⟩
theorem vc_L_106_5 : ga_VCs "LoanNamesLaw" 106 3 ga_mt [(5, 236)] := ⟨⟨ga_VC_V (y := ga_mt 236) 3 q2002 q2003 q2004 q96 q2005 (by decide +kernel), by decide⟩, trivial⟩
theorem vc_L_107_0 : ga_VCs "LoanNamesLaw" 107 1 ga_mt [(0, 33)] := ⟨⟨ga_VC_V (y := ga_mt 33) 1 q1295 q1296 q1297 q91 q1298 (by decide +kernel), by decide⟩, trivial⟩
theorem vc_L_110_5 : ga_VCs "LoanNamesLaw" 110 1 ga_mt [(5, 249)] := ⟨⟨ga_VC_V (y := ga_mt 249) 1 q2041 q2042 q2043 q96 q2044 (by decide +kernel), by decide⟩, trivial⟩
theorem vc_L_111_0 : ga_VCs "LoanNamesLaw" 111 1 ga_mt [(0, 34)] := ⟨⟨ga_VC_V (y := ga_mt 34) 1 q1327 q1328 q1329 q91 q1330 (by decide +kernel), by decide⟩, trivial⟩
theorem vc_L_114_5 : ga_VCs "LoanNamesLaw" 114 1 ga_mt [(5, 251)] := ⟨⟨ga_VC_V (y := ga_mt 251) 1 q2065 q2066 q2067 q96 q2068 (by decide +kernel), by decide⟩, trivial⟩
theorem vc_L_115_0 : ga_VCs "LoanNamesLaw" 115 1 ga_mt [(0, 35)] := ⟨⟨ga_VC_V (y := ga_mt 35) 1 q1336 q1337 q1338 q91 q1339 (by decide +kernel), by decide⟩, trivial⟩
theorem vc_L_118_5 : ga_VCs "LoanNamesLaw" 118 1 ga_mt [(5, 252)] := ⟨⟨ga_VC_V (y := ga_mt 252) 1 q2073 q2074 q2075 q96 q2076 (by decide +kernel), by decide⟩, trivial⟩
theorem vc_L_119_0 : ga_VCs "LoanNamesLaw" 119 2 ga_mt [(0, 37)] := ⟨⟨ga_VC_V (y := ga_mt 37) 2 q1340 q1341 q1342 q91 q1343 (by decide +kernel), by decide⟩, trivial⟩
theorem vc_L_122_5 : ga_VCs "LoanNamesLaw" 122 2 ga_mt [(5, 255)] := ⟨⟨ga_VC_V (y := ga_mt 255) 2 q2077 q2078 q2079 q96 q2080 (by decide +kernel), by decide⟩, trivial⟩
theorem vc_L_123_0 : ga_VCs "LoanNamesLaw" 123 0 ga_mt [(0, 38)] := ⟨⟨ga_VC_V (y := ga_mt 38) 0 q1350 q1351 q1352 q91 q1353 (by decide +kernel), by decide⟩, trivial⟩
theorem vc_L_126_5 : ga_VCs "LoanNamesLaw" 126 0 ga_mt [(5, 256)] := ⟨⟨ga_VC_V (y := ga_mt 256) 0 q2089 q2090 q2091 q96 q2092 (by decide +kernel), by decide⟩, trivial⟩
theorem vc_L_127_0 : ga_VCs "LoanNamesLaw" 127 2 ga_mt [(0, 39)] := ⟨⟨ga_VC_V (y := ga_mt 39) 2 q1360 q1361 q1362 q91 q1363 (by decide +kernel), by decide⟩, trivial⟩
theorem vc_L_130_5 : ga_VCs "LoanNamesLaw" 130 2 ga_mt [(5, 258)] := ⟨⟨ga_VC_V (y := ga_mt 258) 2 q2093 q2094 q2095 q96 q2096 (by decide +kernel), by decide⟩, trivial⟩
theorem vc_L_131_0 : ga_VCs "LoanNamesLaw" 131 1 ga_mt [(0, 41)] := ⟨⟨ga_VC_V (y := ga_mt 41) 1 q1364 q1365 q1366 q91 q1367 (by decide +kernel), by decide⟩, trivial⟩
theorem vc_L_134_5 : ga_VCs "LoanNamesLaw" 134 1 ga_mt [(5, 260)] := ⟨⟨ga_VC_V (y := ga_mt 260) 1 q2101 q2102 q2103 q96 q2104 (by decide +kernel), by decide⟩, trivial⟩
theorem vc_L_135_0 : ga_VCs "LoanNamesLaw" 135 1 ga_mt [(0, 43)] := ⟨⟨ga_VC_V (y := ga_mt 43) 1 q1372 q1373 q1374 q91 q1375 (by decide +kernel), by decide⟩, trivial⟩
theorem vc_L_138_5 : ga_VCs "LoanNamesLaw" 138 1 ga_mt [(5, 261)] := ⟨⟨ga_VC_V (y := ga_mt 261) 1 q2109 q2110 q2111 q96 q2112 (by decide +kernel), by decide⟩, trivial⟩
theorem vc_L_139_0 : ga_VCs "LoanNamesLaw" 139 2 ga_mt [(0, 46)] := ⟨⟨ga_VC_V (y := ga_mt 46) 2 q1380 q1381 q1382 q91 q1383 (by decide +kernel), by decide⟩, trivial⟩
theorem vc_L_142_5 : ga_VCs "LoanNamesLaw" 142 2 ga_mt [(5, 264)] := ⟨⟨ga_VC_V (y := ga_mt 264) 2 q2113 q2114 q2115 q96 q2116 (by decide +kernel), by decide⟩, trivial⟩
theorem vc_L_143_0 : ga_VCs "LoanNamesLaw" 143 2 ga_mt [(0, 47)] := ⟨⟨ga_VC_V (y := ga_mt 47) 2 q1395 q1396 q1397 q91 q1398 (by decide +kernel), by decide⟩, trivial⟩
theorem vc_L_146_5 : ga_VCs "LoanNamesLaw" 146 2 ga_mt [(5, 265)] := ⟨⟨ga_VC_V (y := ga_mt 265) 2 q2126 q2127 q2128 q96 q2129 (by decide +kernel), by decide⟩, trivial⟩
theorem vc_L_147_0 : ga_VCs "LoanNamesLaw" 147 1 ga_mt [(0, 48)] := ⟨⟨ga_VC_V (y := ga_mt 48) 1 q1399 q1400 q1401 q91 q1402 (by decide +kernel), by decide⟩, trivial⟩
theorem vc_L_150_5 : ga_VCs "LoanNamesLaw" 150 1 ga_mt [(5, 266)] := ⟨⟨ga_VC_V (y := ga_mt 266) 1 q2130 q2131 q2132 q96 q2133 (by decide +kernel), by decide⟩, trivial⟩
