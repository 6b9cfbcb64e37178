/-! LAYER 4a: every body is by points. Printed by gen/jmain.py -/
set_option maxRecDepth 100000
theorem pt_bd_0 (b : Nat) (sa : Nat → Nat) (cr : ga_Cr gH) : ps (bd_0 b sa cr) := by
  unfold bd_0
  exact (ps_sRet (px_B (pc_and (pc_I (px_iV _) (px_iV _)) (pc_I (px_iV _) (px_iV _)))))
theorem pt_bd_1 (b : Nat) (sa : Nat → Nat) (cr : ga_Cr gH) : ps (bd_1 b sa cr) := by
  unfold bd_1
  exact (ps_sRet (px_B (pc_I (px_x2 (px_x2 (px_iV _) (px_iV _)) (px_C _)) (px_C _))))
theorem pt_bd_2_b1 (b : Nat) (sa : Nat → Nat) (cr : ga_Cr gH) : ps (bd_2_b1 b sa cr) := by
  unfold bd_2_b1
  exact (ps_sIf (pc_L (px_AL (px_rV _) (px_iV _)) (px_lV _)) (ps_sRet (px_iV _)) ps_skip)
theorem pt_bd_2_l2 (b : Nat) (sa : Nat → Nat) (cr : ga_Cr gH) : ps (bd_2_l2 b sa cr) := by
  unfold bd_2_l2
  exact (ps_for (pc_I (px_iV _) (px_Len (px_rV _))) ps_sInc (pt_bd_2_b1 b sa cr))
theorem pt_bd_2 (b : Nat) (sa : Nat → Nat) (cr : ga_Cr gH) : ps (bd_2 b sa cr) := by
  unfold bd_2
  exact (ps_seq (ps_seq (ps_sI (px_C _)) (pt_bd_2_l2 b sa cr)) (ps_sRet (px_C _)))
theorem pt_bd_3 (b : Nat) (sa : Nat → Nat) (cr : ga_Cr gH) : ps (bd_3 b sa cr) := by
  unfold bd_3
  exact (ps_seq (ps_sIf (pc_or (pc_not (pc_B (px_CS (px_P (px_P (px_iV _) (px_C _)) (px_C _))))) (pc_not (pc_B (px_CS (px_P (px_P (px_iV _) (px_C _)) (px_C _)))))) (ps_sRet (px_C _)) ps_skip) (ps_seq (ps_AI (px_FR (px_rV _)) (px_iV _) (px_iV _)) (ps_sRet (px_C _))))
theorem pt_bd_4_b1 (b : Nat) (sa : Nat → Nat) (cr : ga_Cr gH) : ps (bd_4_b1 b sa cr) := by
  unfold bd_4_b1
  exact (ps_AB (px_FR (px_rV _)) (px_x2 (px_FI (px_rV _)) (px_iV _)) (px_x1 (px_x2 (px_AI (px_rV _) (px_x2p (px_iV _) (px_C _))) (px_x2 (px_C _) (px_x2 (px_C _) (px_x2p (px_iV _) (px_C _)))))))
theorem pt_bd_4_l2 (b : Nat) (sa : Nat → Nat) (cr : ga_Cr gH) : ps (bd_4_l2 b sa cr) := by
  unfold bd_4_l2
  exact (ps_for (pc_I (px_iV _) (px_C _)) ps_sInc (pt_bd_4_b1 b sa cr))
theorem pt_bd_4 (b : Nat) (sa : Nat → Nat) (cr : ga_Cr gH) : ps (bd_4 b sa cr) := by
  unfold bd_4
  exact (ps_seq (ps_sIf (pc_I (px_x2 (px_FI (px_rV _)) (px_C _)) (px_C _)) (ps_sRet (px_C _)) ps_skip) (ps_seq (ps_sR (px_LI (List.forall_mem_cons.mpr ⟨(px_iV _), (List.forall_mem_cons.mpr ⟨(px_iV _), (List.forall_mem_cons.mpr ⟨(px_iV _), (List.forall_mem_cons.mpr ⟨(px_iV _), (List.forall_mem_cons.mpr ⟨(px_iV _), (fun q hq => by cases hq)⟩)⟩)⟩)⟩)⟩))) (ps_seq (ps_seq (ps_sI (px_C _)) (pt_bd_4_l2 b sa cr)) (ps_seq (ps_UI (px_rV _) (px_C _)) (ps_sRet (px_FI (px_rV _)))))))
theorem pt_bd_5 (b : Nat) (sa : Nat → Nat) (cr : ga_Cr gH) : ps (bd_5 b sa cr) := by
  unfold bd_5
  exact (ps_seq (ps_sIf (pc_or (pc_not (pc_B (px_CS (px_P (px_P (px_iV _) (px_C _)) (px_FI (px_rV _)))))) (pc_not (pc_B (px_CS (px_P (px_P (px_iV _) (px_C _)) (px_C _)))))) (ps_sRet (px_C _)) ps_skip) (ps_seq (ps_sIf (pc_I (px_FI (px_rV _)) (px_C _)) (ps_sRet (px_C _)) ps_skip) (ps_seq (ps_sR (px_New (px_P (px_FR (px_rV _)) (px_iV _)))) (ps_seq (ps_sR (px_CV (px_rV _))) (ps_seq (ps_PI (px_rV _) (px_C _)) (ps_seq (ps_PI (px_rV _) (px_If (pc_N (px_rV _)) (px_CV (px_rV _)) (px_C _))) (ps_seq (ps_sIf (pc_N (px_rV _)) (ps_sRet (px_C _)) ps_skip) (ps_seq (ps_AR (px_FR (px_rV _)) (px_FI (px_rV _)) (px_New (px_P (px_P (px_P (px_P (px_FI (px_rV _)) (px_iV _)) (px_rV _)) (px_FI (px_rV _))) (px_FI (px_rV _))))) (ps_seq (ps_UI (px_rV _) (px_C _)) (ps_sRet (px_x2 (px_FI (px_rV _)) (px_C _))))))))))))
theorem pt_bd_6 (b : Nat) (sa : Nat → Nat) (cr : ga_Cr gH) : ps (bd_6 b sa cr) := by
  unfold bd_6
  exact (ps_seq (ps_sR (px_New (px_P (px_FR (px_rV _)) (px_iV _)))) (ps_seq (ps_sI (px_CV (px_P (px_P (px_rV _) (px_iV _)) (px_iV _)))) (ps_seq (ps_PI (px_rV _) (px_C _)) (ps_seq (ps_PI (px_rV _) (px_If (pc_B (px_iV _)) (px_C _) (px_CV (px_rV _)))) (ps_sRet (px_If (pc_B (px_iV _)) (px_FR (px_rV _)) (px_C _)))))))
theorem pt_bd_7 (b : Nat) (sa : Nat → Nat) (cr : ga_Cr gH) : ps (bd_7 b sa cr) := by
  unfold bd_7
  exact (ps_seq (ps_sIf (pc_not (pc_B (px_CS (px_P (px_P (px_iV _) (px_C _)) (px_FI (px_rV _)))))) (ps_sRet (px_C _)) ps_skip) (ps_seq (ps_sIf (pc_I (px_FI (px_rV _)) (px_C _)) (ps_sRet (px_C _)) ps_skip) (ps_seq (ps_sR (px_CV (px_P (px_P (px_P (px_rV _) (px_iV _)) (px_C _)) (px_C _)))) (ps_seq (ps_sIf (pc_N (px_rV _)) (ps_sRet (px_C _)) ps_skip) (ps_seq (ps_PR (px_rV _) (px_rV _)) (ps_seq (ps_UI (px_rV _) (px_C _)) (ps_sRet (px_x2 (px_FI (px_rV _)) (px_C _)))))))))
theorem pt_bd_8 (b : Nat) (sa : Nat → Nat) (cr : ga_Cr gH) : ps (bd_8 b sa cr) := by
  unfold bd_8
  exact (ps_seq (ps_sIf (pc_not (pc_B (px_CS (px_P (px_P (px_iV _) (px_C _)) (px_FI (px_rV _)))))) (ps_sRet (px_C _)) ps_skip) (ps_seq (ps_sIf (pc_I (px_FI (px_rV _)) (px_C _)) (ps_sRet (px_C _)) ps_skip) (ps_seq (ps_sR (px_CV (px_P (px_P (px_P (px_rV _) (px_iV _)) (px_C _)) (px_C _)))) (ps_seq (ps_sIf (pc_N (px_rV _)) (ps_sRet (px_C _)) ps_skip) (ps_seq (ps_AR (px_FR (px_rV _)) (px_FI (px_rV _)) (px_rV _)) (ps_seq (ps_UI (px_rV _) (px_C _)) (ps_sRet (px_x2 (px_FI (px_rV _)) (px_C _)))))))))
theorem pt_bd_9 (b : Nat) (sa : Nat → Nat) (cr : ga_Cr gH) : ps (bd_9 b sa cr) := by
  unfold bd_9
  exact (ps_sRet (px_FI (px_rV _)))
theorem pt_bd_10 (b : Nat) (sa : Nat → Nat) (cr : ga_Cr gH) : ps (bd_10 b sa cr) := by
  unfold bd_10
  exact (ps_sRet (px_If (pc_B (px_CS (px_P (px_P (px_iV _) (px_C _)) (px_x2 (px_FI (px_rV _)) (px_C _))))) (px_AR (px_FR (px_rV _)) (px_iV _)) (px_C _)))
theorem pt_bd_11_b1 (b : Nat) (sa : Nat → Nat) (cr : ga_Cr gH) : ps (bd_11_b1 b sa cr) := by
  unfold bd_11_b1
  exact (ps_sI (px_x2 (px_iV _) (px_x2 (px_x2 (px_C _) (px_AI (px_FR (px_rV _)) (px_FI (px_AR (px_FR (px_FR (px_rV _))) (px_iV _))))) (px_x2 (px_C _) (px_AI (px_FR (px_rV _)) (px_FI (px_AR (px_FR (px_FR (px_rV _))) (px_iV _))))))))
theorem pt_bd_11_l2 (b : Nat) (sa : Nat → Nat) (cr : ga_Cr gH) : ps (bd_11_l2 b sa cr) := by
  unfold bd_11_l2
  exact (ps_for (pc_I (px_iV _) (px_FI (px_FR (px_rV _)))) ps_sInc (pt_bd_11_b1 b sa cr))
theorem pt_bd_11 (b : Nat) (sa : Nat → Nat) (cr : ga_Cr gH) : ps (bd_11 b sa cr) := by
  unfold bd_11
  exact (ps_seq (ps_sI (px_C _)) (ps_seq (ps_seq (ps_sI (px_C _)) (pt_bd_11_l2 b sa cr)) (ps_sRet (px_iV _))))
theorem pt_bd_12 (b : Nat) (sa : Nat → Nat) (cr : ga_Cr gH) : ps (bd_12 b sa cr) := by
  unfold bd_12
  exact (ps_seq (ps_sR (px_CV (px_P (px_rV _) (px_iV _)))) (ps_seq (ps_sIf (pc_N (px_rV _)) (ps_sRet (px_C _)) ps_skip) (ps_sw (px_iV _) (ps_cons (ps_sRet (px_FI (px_FR (px_rV _)))) (ps_cons (ps_sRet (px_FI (px_rV _))) (ps_cons (ps_sRet (px_FI (px_rV _))) (ps_cons (ps_sRet (px_FI (px_rV _))) (ps_cons (ps_sRet (px_CV (px_P (px_rV _) (px_rV _)))) (ps_cons (ps_sRet (px_CV (px_rV _))) ps_nil)))))) (ps_sRet (px_C _)))))
theorem pt_bd_13 (b : Nat) (sa : Nat → Nat) (cr : ga_Cr gH) : ps (bd_13 b sa cr) := by
  unfold bd_13
  exact (ps_seq (ps_sR (px_CV (px_P (px_rV _) (px_iV _)))) (ps_seq (ps_sIf (pc_or (pc_N (px_rV _)) (pc_not (pc_B (px_CS (px_P (px_P (px_iV _) (px_C _)) (px_x2 (px_FI (px_FR (px_rV _))) (px_C _))))))) (ps_sRet (px_C _)) ps_skip) (ps_seq (ps_sR (px_AR (px_FR (px_FR (px_rV _))) (px_iV _))) (ps_sw (px_iV _) (ps_cons (ps_sRet (px_CV (px_rV _))) (ps_cons (ps_sRet (px_FI (px_rV _))) (ps_cons (ps_sRet (px_FI (px_rV _))) (ps_cons (ps_sRet (px_FI (px_rV _))) (ps_cons (ps_sRet (px_FI (px_rV _))) (ps_cons (ps_sRet (px_CV (px_rV _))) (ps_cons (ps_sRet (px_CV (px_P (px_FR (px_rV _)) (px_iV _)))) (ps_cons (ps_sRet (px_x2 (px_CV (px_rV _)) (px_AI (px_FR (px_FR (px_rV _))) (px_iV _)))) ps_nil)))))))) (ps_sRet (px_C _))))))
theorem pt_bd_14 (b : Nat) (sa : Nat → Nat) (cr : ga_Cr gH) : ps (bd_14 b sa cr) := by
  unfold bd_14
  exact (ps_seq (ps_sR (px_CV (px_P (px_rV _) (px_iV _)))) (ps_seq (ps_sIf (pc_or (pc_N (px_rV _)) (pc_not (pc_B (px_CS (px_P (px_P (px_iV _) (px_C _)) (px_C _)))))) (ps_sRet (px_C _)) ps_skip) (ps_seq (ps_sR (px_New (px_C _))) (ps_seq (ps_sR (px_CV (px_P (px_FR (px_rV _)) (px_rV _)))) (ps_seq (ps_sR (px_New (px_C _))) (ps_seq (ps_sEx (px_CV (px_P (px_P (px_rV _) (px_rV _)) (px_C _)))) (ps_sRet (px_If (pc_I (px_iV _) (px_C _)) (px_FI (px_rV _)) (px_FI (px_rV _))))))))))
theorem pt_bd_15_b1 (b : Nat) (sa : Nat → Nat) (cr : ga_Cr gH) : ps (bd_15_b1 b sa cr) := by
  unfold bd_15_b1
  exact (ps_sIf (pc_B (px_CS (px_P (px_P (px_P (px_rV _) (px_iV _)) (px_rV _)) (px_iV _)))) (ps_sL (px_x2 (px_lV _) (px_AL (px_FR (px_rV _)) (px_iV _)))) ps_skip)
theorem pt_bd_15_l2 (b : Nat) (sa : Nat → Nat) (cr : ga_Cr gH) : ps (bd_15_l2 b sa cr) := by
  unfold bd_15_l2
  exact (ps_for (pc_I (px_iV _) (px_FI (px_rV _))) ps_sInc (pt_bd_15_b1 b sa cr))
theorem pt_bd_15_b3 (b : Nat) (sa : Nat → Nat) (cr : ga_Cr gH) : ps (bd_15_b3 b sa cr) := by
  unfold bd_15_b3
  exact (ps_sIf (pc_B (px_CS (px_P (px_P (px_P (px_rV _) (px_iV _)) (px_rV _)) (px_iV _)))) (ps_sL (px_x2 (px_lV _) (px_AL (px_FR (px_rV _)) (px_iV _)))) ps_skip)
theorem pt_bd_15_l4 (b : Nat) (sa : Nat → Nat) (cr : ga_Cr gH) : ps (bd_15_l4 b sa cr) := by
  unfold bd_15_l4
  exact (ps_for (pc_I (px_iV _) (px_FI (px_rV _))) ps_sInc (pt_bd_15_b3 b sa cr))
theorem pt_bd_15_b5 (b : Nat) (sa : Nat → Nat) (cr : ga_Cr gH) : ps (bd_15_b5 b sa cr) := by
  unfold bd_15_b5
  exact (ps_seq (ps_sL (px_C _)) (ps_seq (ps_seq (ps_sI (px_C _)) (pt_bd_15_l2 b sa cr)) (ps_seq (ps_seq (ps_sI (px_C _)) (pt_bd_15_l4 b sa cr)) (ps_sIf (pc_L (px_lV _) (px_C _)) (ps_sRet (px_C _)) ps_skip))))
theorem pt_bd_15_l6 (b : Nat) (sa : Nat → Nat) (cr : ga_Cr gH) : ps (bd_15_l6 b sa cr) := by
  unfold bd_15_l6
  exact (ps_for (pc_I (px_iV _) (px_FI (px_rV _))) ps_sInc (pt_bd_15_b5 b sa cr))
theorem pt_bd_15_b7 (b : Nat) (sa : Nat → Nat) (cr : ga_Cr gH) : ps (bd_15_b7 b sa cr) := by
  unfold bd_15_b7
  exact (ps_seq (ps_sR (px_If (pc_I (px_iV _) (px_C _)) (px_rV _) (px_rV _))) (ps_seq (ps_sI (px_C _)) (pt_bd_15_l6 b sa cr)))
theorem pt_bd_15_l8 (b : Nat) (sa : Nat → Nat) (cr : ga_Cr gH) : ps (bd_15_l8 b sa cr) := by
  unfold bd_15_l8
  exact (ps_for (pc_I (px_iV _) (px_C _)) ps_sInc (pt_bd_15_b7 b sa cr))
theorem pt_bd_15 (b : Nat) (sa : Nat → Nat) (cr : ga_Cr gH) : ps (bd_15 b sa cr) := by
  unfold bd_15
  exact (ps_seq (ps_seq (ps_sI (px_C _)) (pt_bd_15_l8 b sa cr)) (ps_sRet (px_C _)))
theorem pt_bd_16 (b : Nat) (sa : Nat → Nat) (cr : ga_Cr gH) : ps (bd_16 b sa cr) := by
  unfold bd_16
  exact (ps_sRet (px_B (pc_and (pc_and (pc_and (pc_I (px_AI (px_FR (px_rV _)) (px_iV _)) (px_AI (px_FR (px_rV _)) (px_iV _))) (pc_I (px_AI (px_FR (px_rV _)) (px_iV _)) (px_AI (px_FR (px_rV _)) (px_iV _)))) (pc_I (px_AI (px_FR (px_rV _)) (px_iV _)) (px_AI (px_FR (px_rV _)) (px_iV _)))) (pc_I (px_AI (px_FR (px_rV _)) (px_iV _)) (px_AI (px_FR (px_rV _)) (px_iV _))))))
theorem pt_bd_17_b1 (b : Nat) (sa : Nat → Nat) (cr : ga_Cr gH) : ps (bd_17_b1 b sa cr) := by
  unfold bd_17_b1
  exact (ps_seq (ps_PI (px_rV _) (px_C _)) (ps_seq (ps_PI (px_rV _) (px_C _)) (ps_seq (ps_sEx (px_CV (px_P (px_P (px_P (px_P (px_FR (px_rV _)) (px_rV _)) (px_C _)) (px_C _)) (px_iV _)))) (ps_seq (ps_sEx (px_CV (px_P (px_P (px_P (px_P (px_FR (px_rV _)) (px_rV _)) (px_C _)) (px_C _)) (px_iV _)))) (ps_sIf (pc_not (pc_B (px_CS (px_P (px_rV _) (px_rV _))))) (ps_sRet (px_iV _)) ps_skip)))))
theorem pt_bd_17_l2 (b : Nat) (sa : Nat → Nat) (cr : ga_Cr gH) : ps (bd_17_l2 b sa cr) := by
  unfold bd_17_l2
  exact (ps_for (pc_I (px_iV _) (px_x2 (px_C _) (px_CS (px_P (px_FI (px_rV _)) (px_FI (px_rV _)))))) ps_sInc (pt_bd_17_b1 b sa cr))
theorem pt_bd_17 (b : Nat) (sa : Nat → Nat) (cr : ga_Cr gH) : ps (bd_17 b sa cr) := by
  unfold bd_17
  exact (ps_seq (ps_sR (px_CV (px_P (px_rV _) (px_iV _)))) (ps_seq (ps_sR (px_CV (px_P (px_rV _) (px_iV _)))) (ps_seq (ps_sIf (pc_or (pc_N (px_rV _)) (pc_N (px_rV _))) (ps_sRet (px_C _)) ps_skip) (ps_seq (ps_sR (px_New (px_C _))) (ps_seq (ps_sR (px_New (px_C _))) (ps_seq (ps_seq (ps_sI (px_C _)) (pt_bd_17_l2 b sa cr)) (ps_sRet (px_C _))))))))
theorem pt_bd_18 (b : Nat) (sa : Nat → Nat) (cr : ga_Cr gH) : ps (bd_18 b sa cr) := by
  unfold bd_18
  exact (ps_seq (ps_sR (px_CV (px_P (px_rV _) (px_iV _)))) (ps_seq (ps_sIf (pc_or (pc_or (pc_N (px_rV _)) (pc_I (px_FI (px_FR (px_rV _))) (px_C _))) (pc_B (px_CV (px_P (px_FR (px_rV _)) (px_rV _))))) (ps_sRet (px_C _)) ps_skip) (ps_seq (ps_sEx (px_CV (px_P (px_FR (px_rV _)) (px_rV _)))) (ps_sRet (px_FI (px_FR (px_rV _)))))))
theorem pt_bd_19 (b : Nat) (sa : Nat → Nat) (cr : ga_Cr gH) : ps (bd_19 b sa cr) := by
  unfold bd_19
  exact (ps_seq (ps_sI (px_FI (px_FR (px_rV _)))) (ps_seq (ps_sEx (px_CV (px_FR (px_rV _)))) (ps_sRet (px_iV _))))
theorem pt_bd_20 (b : Nat) (sa : Nat → Nat) (cr : ga_Cr gH) : ps (bd_20 b sa cr) := by
  unfold bd_20
  exact (ps_seq (ps_sIf (pc_not (pc_B (px_CV (px_P (px_FR (px_rV _)) (px_iV _))))) (ps_sRet (px_C _)) ps_skip) (ps_seq (ps_sR (px_CV (px_P (px_FR (px_rV _)) (px_iV _)))) (ps_seq (ps_sIf (pc_I (px_iV _) (px_C _)) (ps_sRet (px_If (pc_I (px_iV _) (px_C _)) (px_x1 (px_FI (px_rV _))) (px_C _))) ps_skip) (ps_seq (ps_sIf (pc_not (pc_B (px_CS (px_P (px_P (px_iV _) (px_C _)) (px_x2 (px_FI (px_rV _)) (px_C _)))))) (ps_sRet (px_C _)) ps_skip) (ps_sw (px_iV _) (ps_cons (ps_sRet (px_x1 (px_AI (px_FR (px_rV _)) (px_iV _)))) (ps_cons (ps_sRet (px_x1 (px_AI (px_FR (px_rV _)) (px_iV _)))) (ps_cons (ps_sRet (px_x1 (px_AI (px_FR (px_rV _)) (px_iV _)))) (ps_cons (ps_sRet (px_x1 (px_AI (px_FR (px_rV _)) (px_iV _)))) (ps_cons (ps_sRet (px_AL (px_FR (px_rV _)) (px_iV _))) ps_nil))))) (ps_sRet (px_C _)))))))
theorem pt_bd_21 (b : Nat) (sa : Nat → Nat) (cr : ga_Cr gH) : ps (bd_21 b sa cr) := by
  unfold bd_21
  exact (ps_sRet (px_CS (px_P (px_P (px_iV _) (px_C _)) (px_C _))))
theorem pt_bd_22 (b : Nat) (sa : Nat → Nat) (cr : ga_Cr gH) : ps (bd_22 b sa cr) := by
  unfold bd_22
  exact (ps_sRet (px_If (pc_and (pc_and (pc_and (pc_B (px_CV (px_P (px_FR (px_rV _)) (px_iV _)))) (pc_B (px_CS (px_iV _)))) (pc_B (px_CS (px_P (px_P (px_iV _) (px_C _)) (px_C _))))) (pc_B (px_CS (px_P (px_P (px_iV _) (px_C _)) (px_C _))))) (px_CV (px_P (px_P (px_P (px_P (px_FR (px_rV _)) (px_iV _)) (px_iV _)) (px_iV _)) (px_iV _))) (px_C _)))
theorem pt_bd_23 (b : Nat) (sa : Nat → Nat) (cr : ga_Cr gH) : ps (bd_23 b sa cr) := by
  unfold bd_23
  exact (ps_sRet (px_If (pc_B (px_CV (px_FR (px_rV _)))) (px_CV (px_FR (px_rV _))) (px_C _)))
theorem pt_bd_24 (b : Nat) (sa : Nat → Nat) (cr : ga_Cr gH) : ps (bd_24 b sa cr) := by
  unfold bd_24
  exact (ps_sRet (px_B (pc_and (pc_and (pc_B (px_CS (px_iV _))) (pc_B (px_CS (px_iV _)))) (pc_I (px_iV _) (px_iV _)))))
theorem pt_bd_25 (b : Nat) (sa : Nat → Nat) (cr : ga_Cr gH) : ps (bd_25 b sa cr) := by
  unfold bd_25
  exact (ps_sRet (px_If (pc_and (pc_B (px_CV (px_FR (px_rV _)))) (pc_B (px_CV (px_P (px_P (px_rV _) (px_iV _)) (px_iV _))))) (px_CV (px_P (px_P (px_FR (px_rV _)) (px_iV _)) (px_iV _))) (px_C _)))
theorem pt_bd_26_b1 (b : Nat) (sa : Nat → Nat) (cr : ga_Cr gH) : ps (bd_26_b1 b sa cr) := by
  unfold bd_26_b1
  exact (ps_seq (ps_sL (px_x2p (px_lV _) (px_lV _))) (ps_seq (ps_sL (px_x2p (px_lV _) (px_lV _))) (ps_seq (ps_sIf (pc_L (px_lV _) (px_lV _)) (ps_sRet (px_If (pc_B (px_iV _)) (px_B (pc_L (px_lV _) (px_lV _))) (px_B (pc_L (px_lV _) (px_lV _))))) ps_skip) (ps_seq (ps_sL (px_x2 (px_lV _) (px_x2 (px_lV _) (px_lV _)))) (ps_seq (ps_sL (px_x2 (px_lV _) (px_x2 (px_lV _) (px_lV _)))) (ps_seq (ps_sIf (pc_or (pc_L (px_lV _) (px_C _)) (pc_L (px_lV _) (px_C _))) (ps_sRet (px_If (pc_B (px_iV _)) (px_B (pc_and (pc_L (px_lV _) (px_C _)) (pc_L (px_lV _) (px_C _)))) (px_B (pc_and (pc_L (px_lV _) (px_C _)) (pc_L (px_lV _) (px_C _)))))) ps_skip) (ps_seq (ps_sL (px_lV _)) (ps_seq (ps_sL (px_lV _)) (ps_seq (ps_sL (px_lV _)) (ps_seq (ps_sL (px_lV _)) (ps_seq (ps_sL (px_lV _)) (ps_seq (ps_sL (px_lV _)) (ps_sI (px_B (pc_not (pc_B (px_iV _)))))))))))))))))
theorem pt_bd_26_l2 (b : Nat) (sa : Nat → Nat) (cr : ga_Cr gH) : ps (bd_26_l2 b sa cr) := by
  unfold bd_26_l2
  exact (ps_for pc_T ps_skip (pt_bd_26_b1 b sa cr))
theorem pt_bd_26 (b : Nat) (sa : Nat → Nat) (cr : ga_Cr gH) : ps (bd_26 b sa cr) := by
  unfold bd_26
  exact (ps_seq (ps_sL (px_lV _)) (ps_seq (ps_sL (px_lV _)) (ps_seq (ps_sL (px_lV _)) (ps_seq (ps_sL (px_lV _)) (ps_seq (ps_sI (px_C _)) (pt_bd_26_l2 b sa cr))))))
theorem pt_bd_27_b1 (b : Nat) (sa : Nat → Nat) (cr : ga_Cr gH) : ps (bd_27_b1 b sa cr) := by
  unfold bd_27_b1
  exact (ps_seq (ps_sL (px_x2p (px_lV _) (px_lV _))) (ps_seq (ps_sL (px_lV _)) (ps_sL (px_lV _))))
theorem pt_bd_27_l2 (b : Nat) (sa : Nat → Nat) (cr : ga_Cr gH) : ps (bd_27_l2 b sa cr) := by
  unfold bd_27_l2
  exact (ps_for (pc_L (px_lV _) (px_C _)) ps_skip (pt_bd_27_b1 b sa cr))
theorem pt_bd_27 (b : Nat) (sa : Nat → Nat) (cr : ga_Cr gH) : ps (bd_27 b sa cr) := by
  unfold bd_27
  exact (ps_seq (ps_sL (px_lV _)) (ps_seq (ps_sL (px_lV _)) (ps_seq (pt_bd_27_l2 b sa cr) (ps_sRet (px_lV _)))))
theorem pt_bd_28_b1 (b : Nat) (sa : Nat → Nat) (cr : ga_Cr gH) : ps (bd_28_b1 b sa cr) := by
  unfold bd_28_b1
  exact (ps_seq (ps_sIf (pc_not (pc_B (px_CV (px_P (px_FR (px_rV _)) (px_iV _))))) ps_cont ps_skip) (ps_seq (ps_sEx (px_CV (px_P (px_FR (px_rV _)) (px_iV _)))) (ps_seq (ps_sIf (pc_not (pc_B (px_CV (px_P (px_P (px_FR (px_rV _)) (px_iV _)) (px_iV _))))) ps_cont ps_skip) (ps_seq (ps_sL (px_CV (px_P (px_P (px_FR (px_rV _)) (px_iV _)) (px_C _)))) (ps_seq (ps_sL (px_CV (px_P (px_FR (px_rV _)) (px_iV _)))) (ps_seq (ps_sIf (pc_or (pc_L (px_AL (px_rV _) (px_C _)) (px_C _)) (pc_B (px_CS (px_P (px_P (px_P (px_lV _) (px_lV _)) (px_AL (px_rV _) (px_C _))) (px_AL (px_rV _) (px_C _)))))) (ps_seq (ps_AL (px_rV _) (px_C _) (px_lV _)) (ps_AL (px_rV _) (px_C _) (px_lV _))) ps_skip) (ps_sIf (pc_or (pc_L (px_AL (px_rV _) (px_C _)) (px_C _)) (pc_B (px_CS (px_P (px_P (px_P (px_AL (px_rV _) (px_C _)) (px_AL (px_rV _) (px_C _))) (px_lV _)) (px_lV _))))) (ps_seq (ps_AL (px_rV _) (px_C _) (px_lV _)) (ps_AL (px_rV _) (px_C _) (px_lV _))) ps_skip)))))))
theorem pt_bd_28_l2 (b : Nat) (sa : Nat → Nat) (cr : ga_Cr gH) : ps (bd_28_l2 b sa cr) := by
  unfold bd_28_l2
  exact (ps_for (pc_I (px_iV _) (px_x2 (px_C _) (px_FI (px_FR (px_rV _))))) ps_sInc (pt_bd_28_b1 b sa cr))
theorem pt_bd_28 (b : Nat) (sa : Nat → Nat) (cr : ga_Cr gH) : ps (bd_28 b sa cr) := by
  unfold bd_28
  exact (ps_seq (ps_sIf (pc_or (pc_or (pc_not (pc_B (px_CV (px_FR (px_rV _))))) (pc_not (pc_B (px_CV (px_P (px_P (px_rV _) (px_iV _)) (px_iV _)))))) (pc_not (pc_B (px_CS (px_P (px_P (px_iV _) (px_C _)) (px_C _)))))) (ps_sRet (px_C _)) ps_skip) (ps_seq (ps_sR (px_LL (List.forall_mem_cons.mpr ⟨(px_C _), (List.forall_mem_cons.mpr ⟨(px_C _), (List.forall_mem_cons.mpr ⟨(px_C _), (List.forall_mem_cons.mpr ⟨(px_C _), (fun q hq => by cases hq)⟩)⟩)⟩)⟩))) (ps_seq (ps_seq (ps_sI (px_C _)) (pt_bd_28_l2 b sa cr)) (ps_seq (ps_sIf (pc_L (px_AL (px_rV _) (px_C _)) (px_C _)) (ps_sRet (px_C _)) ps_skip) (ps_seq (ps_sI (px_If (pc_I (px_iV _) (px_C _)) (px_C _) (px_C _))) (ps_sRet (px_x2p (px_AL (px_rV _) (px_iV _)) (px_CS (px_P (px_AL (px_rV _) (px_iV _)) (px_AL (px_rV _) (px_x2 (px_iV _) (px_C _))))))))))))
theorem pt_bd_29 (b : Nat) (sa : Nat → Nat) (cr : ga_Cr gH) : ps (bd_29 b sa cr) := by
  unfold bd_29
  exact (ps_sRet (px_CV (px_FR (px_rV _))))
theorem pt_bd_30_b1 (b : Nat) (sa : Nat → Nat) (cr : ga_Cr gH) : ps (bd_30_b1 b sa cr) := by
  unfold bd_30_b1
  exact (ps_seq (ps_sIf (pc_not (pc_B (px_CV (px_P (px_FR (px_rV _)) (px_iV _))))) ps_cont ps_skip) (ps_seq (ps_sEx (px_CV (px_P (px_FR (px_rV _)) (px_iV _)))) (ps_sIf (pc_or (pc_L (px_lV _) (px_C _)) (pc_L (px_CV (px_P (px_P (px_FR (px_rV _)) (px_x2p (px_iV _) (px_C _))) (px_C _))) (px_lV _))) (ps_sL (px_CV (px_P (px_P (px_FR (px_rV _)) (px_x2p (px_iV _) (px_C _))) (px_C _)))) ps_skip)))
theorem pt_bd_30_l2 (b : Nat) (sa : Nat → Nat) (cr : ga_Cr gH) : ps (bd_30_l2 b sa cr) := by
  unfold bd_30_l2
  exact (ps_for (pc_I (px_iV _) (px_x2 (px_C _) (px_FI (px_FR (px_rV _))))) ps_sInc (pt_bd_30_b1 b sa cr))
theorem pt_bd_30 (b : Nat) (sa : Nat → Nat) (cr : ga_Cr gH) : ps (bd_30 b sa cr) := by
  unfold bd_30
  exact (ps_seq (ps_sI (px_CV (px_FR (px_rV _)))) (ps_seq (ps_sIf (pc_I (px_iV _) (px_C _)) (ps_sRet (px_C _)) ps_skip) (ps_seq (ps_sL (px_C _)) (ps_seq (ps_seq (ps_sI (px_C _)) (pt_bd_30_l2 b sa cr)) (ps_sRet (px_lV _))))))
theorem pt_bd_31 (b : Nat) (sa : Nat → Nat) (cr : ga_Cr gH) : ps (bd_31 b sa cr) := by
  unfold bd_31
  exact (ps_sRet (px_If (pc_and (pc_B (px_CS (px_iV _))) (pc_B (px_CS (px_P (px_P (px_iV _) (px_C _)) (px_C _))))) (px_x2 (px_CV (px_P (px_P (px_P (px_P (px_FR (px_rV _)) (px_x2 (px_C _) (px_iV _))) (px_iV _)) (px_C _)) (px_C _))) (px_CV (px_P (px_P (px_P (px_P (px_FR (px_rV _)) (px_C _)) (px_iV _)) (px_C _)) (px_C _)))) (px_C _)))
theorem pt_bd_32_b1 (b : Nat) (sa : Nat → Nat) (cr : ga_Cr gH) : ps (bd_32_b1 b sa cr) := by
  unfold bd_32_b1
  exact (ps_seq (ps_sL (px_If (pc_or (pc_I (px_iV _) (px_iV _)) (pc_I (px_iV _) (px_iV _))) (px_C _) (px_CV (px_P (px_P (px_FR (px_rV _)) (px_iV _)) (px_C _))))) (ps_seq (ps_sIf (pc_L (px_lV _) (px_C _)) ps_cont ps_skip) (ps_seq (ps_sL (px_x2 (px_lV _) (px_lV _))) (ps_seq (ps_sIf (pc_L (px_lV _) (px_lV _)) ps_cont ps_skip) (ps_seq (ps_sL (px_lV _)) (ps_sI (px_iV _)))))))
theorem pt_bd_32_l2 (b : Nat) (sa : Nat → Nat) (cr : ga_Cr gH) : ps (bd_32_l2 b sa cr) := by
  unfold bd_32_l2
  exact (ps_for (pc_I (px_iV _) (px_C _)) ps_sInc (pt_bd_32_b1 b sa cr))
theorem pt_bd_32 (b : Nat) (sa : Nat → Nat) (cr : ga_Cr gH) : ps (bd_32 b sa cr) := by
  unfold bd_32
  exact (ps_seq (ps_sIf (pc_or (pc_not (pc_B (px_CV (px_P (px_P (px_rV _) (px_iV _)) (px_iV _))))) (pc_not (pc_B (px_CS (px_P (px_P (px_iV _) (px_C _)) (px_C _)))))) (ps_sRet (px_C _)) ps_skip) (ps_seq (ps_sEx (px_CV (px_P (px_FR (px_rV _)) (px_C _)))) (ps_seq (ps_sL (px_C _)) (ps_seq (ps_sL (px_C _)) (ps_seq (ps_sI (px_C _)) (ps_seq (ps_seq (ps_sI (px_C _)) (pt_bd_32_l2 b sa cr)) (ps_sRet (px_If (pc_I (px_iV _) (px_C _)) (px_lV _) (px_x1 (px_iV _))))))))))
theorem pt_bd_33_b1 (b : Nat) (sa : Nat → Nat) (cr : ga_Cr gH) : ps (bd_33_b1 b sa cr) := by
  unfold bd_33_b1
  exact ps_sInc
theorem pt_bd_33_l2 (b : Nat) (sa : Nat → Nat) (cr : ga_Cr gH) : ps (bd_33_l2 b sa cr) := by
  unfold bd_33_l2
  exact (ps_for (pc_I (px_CV (px_P (px_P (px_FR (px_rV _)) (px_rV _)) (px_iV _))) (px_C _)) ps_skip (pt_bd_33_b1 b sa cr))
theorem pt_bd_33_b3 (b : Nat) (sa : Nat → Nat) (cr : ga_Cr gH) : ps (bd_33_b3 b sa cr) := by
  unfold bd_33_b3
  exact (ps_seq (ps_sR (px_AR (px_FR (px_FR (px_rV _))) (px_iV _))) (ps_seq (ps_sIf (pc_not (pc_B (px_CV (px_P (px_FR (px_rV _)) (px_rV _))))) ps_cont ps_skip) (ps_seq (ps_sIf (pc_I (px_iV _) (px_C _)) (ps_sRet (px_iV _)) ps_skip) (ps_seq (ps_sIf (pc_I (px_FI (px_rV _)) (px_C _)) (ps_sRet (px_If (pc_I (px_iV _) (px_C _)) (px_CV (px_P (px_FR (px_rV _)) (px_rV _))) (px_C _))) ps_skip) (ps_seq (ps_sI (px_C _)) (ps_seq (pt_bd_33_l2 b sa cr) (ps_sRet (px_If (pc_I (px_iV _) (px_C _)) (px_iV _) (px_CV (px_P (px_P (px_FR (px_rV _)) (px_rV _)) (px_iV _)))))))))))
theorem pt_bd_33_l4 (b : Nat) (sa : Nat → Nat) (cr : ga_Cr gH) : ps (bd_33_l4 b sa cr) := by
  unfold bd_33_l4
  exact (ps_for (pc_I (px_iV _) (px_FI (px_FR (px_rV _)))) ps_sInc (pt_bd_33_b3 b sa cr))
theorem pt_bd_33 (b : Nat) (sa : Nat → Nat) (cr : ga_Cr gH) : ps (bd_33 b sa cr) := by
  unfold bd_33
  exact (ps_seq (ps_sIf (pc_not (pc_B (px_CS (px_P (px_P (px_iV _) (px_C _)) (px_C _))))) (ps_sRet (px_C _)) ps_skip) (ps_seq (ps_seq (ps_sI (px_C _)) (pt_bd_33_l4 b sa cr)) (ps_sRet (px_C _))))
theorem pt_bd_34 (b : Nat) (sa : Nat → Nat) (cr : ga_Cr gH) : ps (bd_34 b sa cr) := by
  unfold bd_34
  exact (ps_sRet (px_If (pc_not (pc_B (px_CS (px_P (px_P (px_iV _) (px_C _)) (px_x2 (px_FI (px_rV _)) (px_C _)))))) (px_C _) (px_If (pc_B (px_CV (px_P (px_FR (px_rV _)) (px_AR (px_FR (px_rV _)) (px_iV _))))) (px_C _) (px_C _))))
theorem pt_bd_35_b1 (b : Nat) (sa : Nat → Nat) (cr : ga_Cr gH) : ps (bd_35_b1 b sa cr) := by
  unfold bd_35_b1
  exact (ps_sIf (pc_R (px_AR (px_FR (px_rV _)) (px_iV _)) (px_rV _)) (ps_sRet (px_C _)) ps_skip)
theorem pt_bd_35_l2 (b : Nat) (sa : Nat → Nat) (cr : ga_Cr gH) : ps (bd_35_l2 b sa cr) := by
  unfold bd_35_l2
  exact (ps_for (pc_I (px_iV _) (px_FI (px_rV _))) ps_sInc (pt_bd_35_b1 b sa cr))
theorem pt_bd_35 (b : Nat) (sa : Nat → Nat) (cr : ga_Cr gH) : ps (bd_35 b sa cr) := by
  unfold bd_35
  exact (ps_seq (ps_sR (px_CV (px_P (px_rV _) (px_iV _)))) (ps_seq (ps_sIf (pc_or (pc_N (px_rV _)) (pc_I (px_FI (px_rV _)) (px_C _))) (ps_sRet (px_C _)) ps_skip) (ps_seq (ps_seq (ps_sI (px_C _)) (pt_bd_35_l2 b sa cr)) (ps_seq (ps_AR (px_FR (px_rV _)) (px_FI (px_rV _)) (px_rV _)) (ps_seq (ps_UI (px_rV _) (px_C _)) (ps_sRet (px_FI (px_rV _))))))))
theorem pt_bd_36_b1 (b : Nat) (sa : Nat → Nat) (cr : ga_Cr gH) : ps (bd_36_b1 b sa cr) := by
  unfold bd_36_b1
  exact (ps_sIf (pc_B (px_CS (px_P (px_iV _) (px_iV _)))) (ps_sEx (px_CV (px_P (px_FR (px_rV _)) (px_AR (px_FR (px_rV _)) (px_iV _))))) ps_skip)
theorem pt_bd_36_l2 (b : Nat) (sa : Nat → Nat) (cr : ga_Cr gH) : ps (bd_36_l2 b sa cr) := by
  unfold bd_36_l2
  exact (ps_for (pc_I (px_iV _) (px_FI (px_rV _))) ps_sInc (pt_bd_36_b1 b sa cr))
theorem pt_bd_36 (b : Nat) (sa : Nat → Nat) (cr : ga_Cr gH) : ps (bd_36 b sa cr) := by
  unfold bd_36
  exact (ps_seq (ps_sEx (px_CV (px_FR (px_rV _)))) (ps_seq (ps_seq (ps_sI (px_C _)) (pt_bd_36_l2 b sa cr)) (ps_sRet (px_B (pc_and (pc_and (pc_B (px_CV (px_FR (px_rV _)))) (pc_not (pc_B (px_CV (px_P (px_FR (px_rV _)) (px_FR (px_rV _))))))) (pc_I (px_CV (px_FR (px_rV _))) (px_C _)))))))
theorem pt_bd_37_b1 (b : Nat) (sa : Nat → Nat) (cr : ga_Cr gH) : ps (bd_37_b1 b sa cr) := by
  unfold bd_37_b1
  exact (ps_seq (ps_sIf (pc_or (pc_I (px_CS (px_iV _)) (px_iV _)) (pc_not (pc_B (px_CV (px_P (px_rV _) (px_iV _)))))) ps_cont ps_skip) (ps_seq ps_sInc (ps_sIf (pc_or (pc_I (px_iV _) (px_C _)) (pc_I (px_CS (px_iV _)) (px_CS (px_iV _)))) (ps_sI (px_iV _)) ps_skip)))
theorem pt_bd_37_l2 (b : Nat) (sa : Nat → Nat) (cr : ga_Cr gH) : ps (bd_37_l2 b sa cr) := by
  unfold bd_37_l2
  exact (ps_for (pc_I (px_iV _) (px_x2 (px_C _) (px_FI (px_rV _)))) ps_sInc (pt_bd_37_b1 b sa cr))
theorem pt_bd_37 (b : Nat) (sa : Nat → Nat) (cr : ga_Cr gH) : ps (bd_37 b sa cr) := by
  unfold bd_37
  exact (ps_seq (ps_sIf (pc_or (pc_not (pc_B (px_CS (px_P (px_P (px_iV _) (px_C _)) (px_C _))))) (pc_not (pc_B (px_CS (px_P (px_P (px_iV _) (px_C _)) (px_C _)))))) (ps_sRet (px_C _)) ps_skip) (ps_seq (ps_sI (px_C _)) (ps_seq (ps_sI (px_C _)) (ps_seq (ps_seq (ps_sI (px_C _)) (pt_bd_37_l2 b sa cr)) (ps_sRet (px_If (pc_I (px_iV _) (px_C _)) (px_iV _) (px_iV _)))))))
theorem pt_bd_38 (b : Nat) (sa : Nat → Nat) (cr : ga_Cr gH) : ps (bd_38 b sa cr) := by
  unfold bd_38
  exact (ps_seq (ps_sIf (pc_or (pc_I (px_FI (px_rV _)) (px_C _)) (pc_I (px_FI (px_FR (px_rV _))) (px_C _))) (ps_sRet (px_C _)) ps_skip) (ps_seq (ps_AR (px_FR (px_rV _)) (px_FI (px_rV _)) (px_New (px_rV _))) (ps_seq (ps_sEx (px_CV (px_P (px_AR (px_FR (px_rV _)) (px_FI (px_rV _))) (px_FR (px_rV _))))) (ps_seq (ps_UI (px_rV _) (px_C _)) (ps_sRet (px_x2 (px_FI (px_rV _)) (px_C _)))))))
theorem pt_bd_39 (b : Nat) (sa : Nat → Nat) (cr : ga_Cr gH) : ps (bd_39 b sa cr) := by
  unfold bd_39
  exact (ps_seq (ps_sIf (pc_not (pc_B (px_CS (px_P (px_P (px_iV _) (px_C _)) (px_x2 (px_FI (px_rV _)) (px_C _)))))) (ps_sRet (px_C _)) ps_skip) (ps_seq (ps_sR (px_AR (px_FR (px_rV _)) (px_iV _))) (ps_seq (ps_sIf (pc_I (px_iV _) (px_C _)) (ps_sRet (px_If (pc_B (px_CV (px_P (px_rV _) (px_FR (px_rV _))))) (px_C _) (px_C _))) ps_skip) (ps_seq (ps_sIf (pc_I (px_iV _) (px_C _)) (ps_sRet (px_CV (px_rV _))) ps_skip) (ps_sRet (px_If (pc_B (px_CS (px_P (px_P (px_iV _) (px_C _)) (px_x2 (px_C _) (px_FI (px_rV _)))))) (px_FI (px_AR (px_FR (px_rV _)) (px_x2 (px_iV _) (px_C _)))) (px_C _)))))))
theorem pt_bd_40_b1 (b : Nat) (sa : Nat → Nat) (cr : ga_Cr gH) : ps (bd_40_b1 b sa cr) := by
  unfold bd_40_b1
  exact (ps_sI (px_B (pc_and (pc_B (px_iV _)) (pc_L (px_AL (px_FR (px_rV _)) (px_iV _)) (px_AL (px_FR (px_rV _)) (px_iV _))))))
theorem pt_bd_40_l2 (b : Nat) (sa : Nat → Nat) (cr : ga_Cr gH) : ps (bd_40_l2 b sa cr) := by
  unfold bd_40_l2
  exact (ps_for (pc_I (px_iV _) (px_C _)) ps_sInc (pt_bd_40_b1 b sa cr))
theorem pt_bd_40 (b : Nat) (sa : Nat → Nat) (cr : ga_Cr gH) : ps (bd_40 b sa cr) := by
  unfold bd_40
  exact (ps_seq (ps_sEx (px_CV (px_P (px_rV _) (px_iV _)))) (ps_seq (ps_sEx (px_CV (px_P (px_rV _) (px_iV _)))) (ps_seq (ps_sI (px_C _)) (ps_seq (ps_seq (ps_sI (px_C _)) (pt_bd_40_l2 b sa cr)) (ps_sRet (px_iV _))))))
theorem pt_bd_41_b1 (b : Nat) (sa : Nat → Nat) (cr : ga_Cr gH) : ps (bd_41_b1 b sa cr) := by
  unfold bd_41_b1
  exact (ps_sIf (pc_not (pc_B (px_CV (px_P (px_P (px_P (px_rV _) (px_FR (px_rV _))) (px_AR (px_FR (px_rV _)) (px_iV _))) (px_x2 (px_C _) (px_iV _)))))) (ps_sRet (px_iV _)) ps_skip)
theorem pt_bd_41_l2 (b : Nat) (sa : Nat → Nat) (cr : ga_Cr gH) : ps (bd_41_l2 b sa cr) := by
  unfold bd_41_l2
  exact (ps_for (pc_I (px_iV _) (px_C _)) ps_sInc (pt_bd_41_b1 b sa cr))
theorem pt_bd_41 (b : Nat) (sa : Nat → Nat) (cr : ga_Cr gH) : ps (bd_41 b sa cr) := by
  unfold bd_41
  exact (ps_seq (ps_sIf (pc_or (pc_or (pc_not (pc_B (px_CS (px_P (px_P (px_iV _) (px_C _)) (px_x2 (px_FI (px_rV _)) (px_C _)))))) (pc_not (pc_B (px_CV (px_FR (px_rV _)))))) (pc_not (pc_B (px_CV (px_AR (px_FR (px_rV _)) (px_iV _)))))) (ps_sRet (px_C _)) ps_skip) (ps_seq (ps_sIf (pc_not (pc_B (px_CV (px_P (px_P (px_P (px_rV _) (px_FR (px_rV _))) (px_AR (px_FR (px_rV _)) (px_iV _))) (px_C _))))) (ps_sRet (px_C _)) ps_skip) (ps_seq (ps_seq (ps_sI (px_C _)) (pt_bd_41_l2 b sa cr)) (ps_sRet (px_C _)))))
theorem pt_bd_42_b1 (b : Nat) (sa : Nat → Nat) (cr : ga_Cr gH) : ps (bd_42_b1 b sa cr) := by
  unfold bd_42_b1
  exact (ps_sIf (pc_B (px_CV (px_P (px_rV _) (px_AR (px_FR (px_rV _)) (px_iV _))))) (ps_sI (px_x2 (px_iV _) (px_x2 (px_C _) (px_iV _)))) ps_skip)
theorem pt_bd_42_l2 (b : Nat) (sa : Nat → Nat) (cr : ga_Cr gH) : ps (bd_42_l2 b sa cr) := by
  unfold bd_42_l2
  exact (ps_for (pc_I (px_iV _) (px_FI (px_rV _))) ps_sInc (pt_bd_42_b1 b sa cr))
theorem pt_bd_42 (b : Nat) (sa : Nat → Nat) (cr : ga_Cr gH) : ps (bd_42 b sa cr) := by
  unfold bd_42
  exact (ps_seq (ps_sI (px_C _)) (ps_seq (ps_seq (ps_sI (px_C _)) (pt_bd_42_l2 b sa cr)) (ps_sRet (px_iV _))))
theorem pt_bd_43_b1 (b : Nat) (sa : Nat → Nat) (cr : ga_Cr gH) : ps (bd_43_b1 b sa cr) := by
  unfold bd_43_b1
  exact (ps_sI (px_x2 (px_iV _) (px_CV (px_P (px_rV _) (px_AR (px_FR (px_rV _)) (px_iV _))))))
theorem pt_bd_43_l2 (b : Nat) (sa : Nat → Nat) (cr : ga_Cr gH) : ps (bd_43_l2 b sa cr) := by
  unfold bd_43_l2
  exact (ps_for (pc_I (px_iV _) (px_FI (px_rV _))) ps_sInc (pt_bd_43_b1 b sa cr))
theorem pt_bd_43_b3 (b : Nat) (sa : Nat → Nat) (cr : ga_Cr gH) : ps (bd_43_b3 b sa cr) := by
  unfold bd_43_b3
  exact (ps_seq (ps_sIf (pc_or (pc_I (px_CS (px_iV _)) (px_iV _)) (pc_not (pc_B (px_CV (px_P (px_rV _) (px_iV _)))))) ps_cont ps_skip) (ps_seq (ps_AI (px_rV _) (px_iV _) (px_CV (px_P (px_rV _) (px_FR (px_rV _))))) ps_sInc))
theorem pt_bd_43_l4 (b : Nat) (sa : Nat → Nat) (cr : ga_Cr gH) : ps (bd_43_l4 b sa cr) := by
  unfold bd_43_l4
  exact (ps_for (pc_I (px_iV _) (px_x2 (px_C _) (px_FI (px_rV _)))) ps_sInc (pt_bd_43_b3 b sa cr))
theorem pt_bd_43_b5 (b : Nat) (sa : Nat → Nat) (cr : ga_Cr gH) : ps (bd_43_b5 b sa cr) := by
  unfold bd_43_b5
  exact (ps_sI (px_B (pc_I (px_x2 (px_AI (px_rV _) (px_iV _)) (px_iV _)) (px_C _))))
theorem pt_bd_43_l6 (b : Nat) (sa : Nat → Nat) (cr : ga_Cr gH) : ps (bd_43_l6 b sa cr) := by
  unfold bd_43_l6
  exact (ps_for (pc_and (pc_I (px_iV _) (px_iV _)) (pc_B (px_iV _))) ps_sInc (pt_bd_43_b5 b sa cr))
theorem pt_bd_43_b7 (b : Nat) (sa : Nat → Nat) (cr : ga_Cr gH) : ps (bd_43_b7 b sa cr) := by
  unfold bd_43_b7
  exact (ps_seq (ps_sI (px_B (pc_and (pc_I (px_x2 (px_iV _) (px_iV _)) (px_C _)) (pc_or (pc_I (px_iV _) (px_C _)) (pc_I (px_CS (px_iV _)) (px_CS (px_iV _))))))) (ps_seq (ps_seq (ps_sI (px_C _)) (pt_bd_43_l6 b sa cr)) (ps_sIf (pc_B (px_iV _)) (ps_sI (px_iV _)) ps_skip)))
theorem pt_bd_43_l8 (b : Nat) (sa : Nat → Nat) (cr : ga_Cr gH) : ps (bd_43_l8 b sa cr) := by
  unfold bd_43_l8
  exact (ps_for (pc_I (px_iV _) (px_x2 (px_C _) (px_FI (px_rV _)))) ps_sInc (pt_bd_43_b7 b sa cr))
theorem pt_bd_43 (b : Nat) (sa : Nat → Nat) (cr : ga_Cr gH) : ps (bd_43 b sa cr) := by
  unfold bd_43
  exact (ps_seq (ps_sIf (pc_not (pc_B (px_CS (px_P (px_P (px_iV _) (px_C _)) (px_C _))))) (ps_sRet (px_C _)) ps_skip) (ps_seq (ps_sI (px_C _)) (ps_seq (ps_seq (ps_sI (px_C _)) (pt_bd_43_l2 b sa cr)) (ps_seq (ps_sR (px_NA (px_x2 (px_C _) (px_FI (px_rV _))))) (ps_seq (ps_sI (px_C _)) (ps_seq (ps_seq (ps_sI (px_C _)) (pt_bd_43_l4 b sa cr)) (ps_seq (ps_sI (px_C _)) (ps_seq (ps_seq (ps_sI (px_C _)) (pt_bd_43_l8 b sa cr)) (ps_sRet (px_iV _))))))))))
theorem pt_bd_44 (b : Nat) (sa : Nat → Nat) (cr : ga_Cr gH) : ps (bd_44 b sa cr) := by
  unfold bd_44
  exact (ps_sRet (px_B (pc_and (pc_and (pc_I (px_CS (px_x2 (px_FI (px_rV _)) (px_FI (px_rV _)))) (px_iV _)) (pc_I (px_x2 (px_x2 (px_CV (px_rV _)) (px_CV (px_rV _))) (px_C _)) (px_C _))) (pc_I (px_x2 (px_CV (px_P (px_rV _) (px_rV _))) (px_CV (px_P (px_rV _) (px_rV _)))) (px_C _)))))
theorem pt_bd_45_b1 (b : Nat) (sa : Nat → Nat) (cr : ga_Cr gH) : ps (bd_45_b1 b sa cr) := by
  unfold bd_45_b1
  exact (ps_AI (px_FR (px_rV _)) (px_iV _) (px_iV _))
theorem pt_bd_45_l2 (b : Nat) (sa : Nat → Nat) (cr : ga_Cr gH) : ps (bd_45_l2 b sa cr) := by
  unfold bd_45_l2
  exact (ps_for (pc_I (px_iV _) (px_FI (px_rV _))) ps_sInc (pt_bd_45_b1 b sa cr))
theorem pt_bd_45_b3 (b : Nat) (sa : Nat → Nat) (cr : ga_Cr gH) : ps (bd_45_b3 b sa cr) := by
  unfold bd_45_b3
  exact (ps_seq (ps_sIf (pc_or (pc_I (px_AI (px_FR (px_rV _)) (px_iV _)) (px_AI (px_FR (px_rV _)) (px_iV _))) (pc_not (pc_B (px_CV (px_P (px_P (px_P (px_rV _) (px_AR (px_FR (px_rV _)) (px_iV _))) (px_AR (px_FR (px_rV _)) (px_iV _))) (px_iV _)))))) ps_cont ps_skip) (ps_seq (ps_AI (px_FR (px_rV _)) (px_iV _) (px_AI (px_FR (px_rV _)) (px_iV _))) (ps_sI (px_C _))))
theorem pt_bd_45_l4 (b : Nat) (sa : Nat → Nat) (cr : ga_Cr gH) : ps (bd_45_l4 b sa cr) := by
  unfold bd_45_l4
  exact (ps_for (pc_I (px_iV _) (px_FI (px_rV _))) ps_sInc (pt_bd_45_b3 b sa cr))
theorem pt_bd_45_b5 (b : Nat) (sa : Nat → Nat) (cr : ga_Cr gH) : ps (bd_45_b5 b sa cr) := by
  unfold bd_45_b5
  exact (ps_seq (ps_sI (px_C _)) (pt_bd_45_l4 b sa cr))
theorem pt_bd_45_l6 (b : Nat) (sa : Nat → Nat) (cr : ga_Cr gH) : ps (bd_45_l6 b sa cr) := by
  unfold bd_45_l6
  exact (ps_for (pc_I (px_iV _) (px_FI (px_rV _))) ps_sInc (pt_bd_45_b5 b sa cr))
theorem pt_bd_45_b7 (b : Nat) (sa : Nat → Nat) (cr : ga_Cr gH) : ps (bd_45_b7 b sa cr) := by
  unfold bd_45_b7
  exact (ps_seq (ps_sI (px_C _)) (ps_seq (ps_sI (px_C _)) (pt_bd_45_l6 b sa cr)))
theorem pt_bd_45_l8 (b : Nat) (sa : Nat → Nat) (cr : ga_Cr gH) : ps (bd_45_l8 b sa cr) := by
  unfold bd_45_l8
  exact (ps_for (pc_B (px_iV _)) ps_skip (pt_bd_45_b7 b sa cr))
theorem pt_bd_45 (b : Nat) (sa : Nat → Nat) (cr : ga_Cr gH) : ps (bd_45 b sa cr) := by
  unfold bd_45
  exact (ps_seq (ps_seq (ps_sI (px_C _)) (pt_bd_45_l2 b sa cr)) (ps_seq (ps_sI (px_C _)) (ps_seq (pt_bd_45_l8 b sa cr) ps_ret0)))
theorem pt_bd_46_b1 (b : Nat) (sa : Nat → Nat) (cr : ga_Cr gH) : ps (bd_46_b1 b sa cr) := by
  unfold bd_46_b1
  exact (ps_sIf (pc_I (px_AI (px_FR (px_rV _)) (px_iV _)) (px_iV _)) ps_sInc ps_skip)
theorem pt_bd_46_l2 (b : Nat) (sa : Nat → Nat) (cr : ga_Cr gH) : ps (bd_46_l2 b sa cr) := by
  unfold bd_46_l2
  exact (ps_for (pc_I (px_iV _) (px_FI (px_rV _))) ps_sInc (pt_bd_46_b1 b sa cr))
theorem pt_bd_46 (b : Nat) (sa : Nat → Nat) (cr : ga_Cr gH) : ps (bd_46 b sa cr) := by
  unfold bd_46
  exact (ps_seq (ps_sIf (pc_or (pc_I (px_iV _) (px_C _)) (pc_and (pc_I (px_iV _) (px_C _)) (pc_N (px_CV (px_P (px_rV _) (px_iV _)))))) (ps_sRet (px_C _)) ps_skip) (ps_seq (ps_sEx (px_CV (px_P (px_rV _) (px_iV _)))) (ps_seq (ps_sIf (pc_I (px_iV _) (px_C _)) (ps_sRet (px_AI (px_FR (px_rV _)) (px_iV _))) ps_skip) (ps_seq (ps_sI (px_C _)) (ps_seq (ps_seq (ps_sI (px_C _)) (pt_bd_46_l2 b sa cr)) (ps_sRet (px_iV _)))))))
theorem pt_bd_47_b1 (b : Nat) (sa : Nat → Nat) (cr : ga_Cr gH) : ps (bd_47_b1 b sa cr) := by
  unfold bd_47_b1
  exact (ps_sIf (pc_I (px_AI (px_FR (px_rV _)) (px_iV _)) (px_AI (px_FR (px_rV _)) (px_iV _))) ps_sInc ps_skip)
theorem pt_bd_47_l2 (b : Nat) (sa : Nat → Nat) (cr : ga_Cr gH) : ps (bd_47_l2 b sa cr) := by
  unfold bd_47_l2
  exact (ps_for (pc_I (px_iV _) (px_FI (px_rV _))) ps_sInc (pt_bd_47_b1 b sa cr))
theorem pt_bd_47_b3 (b : Nat) (sa : Nat → Nat) (cr : ga_Cr gH) : ps (bd_47_b3 b sa cr) := by
  unfold bd_47_b3
  exact (ps_sIf (pc_I (px_AI (px_FR (px_rV _)) (px_iV _)) (px_AI (px_FR (px_rV _)) (px_iV _))) (ps_sEx (px_CV (px_P (px_FR (px_rV _)) (px_AR (px_FR (px_rV _)) (px_iV _))))) ps_skip)
theorem pt_bd_47_l4 (b : Nat) (sa : Nat → Nat) (cr : ga_Cr gH) : ps (bd_47_l4 b sa cr) := by
  unfold bd_47_l4
  exact (ps_for (pc_I (px_iV _) (px_FI (px_rV _))) ps_sInc (pt_bd_47_b3 b sa cr))
theorem pt_bd_47 (b : Nat) (sa : Nat → Nat) (cr : ga_Cr gH) : ps (bd_47 b sa cr) := by
  unfold bd_47
  exact (ps_seq (ps_sIf (pc_or (pc_I (px_iV _) (px_C _)) (pc_N (px_CV (px_P (px_rV _) (px_iV _))))) (ps_sRet (px_C _)) ps_skip) (ps_seq (ps_sEx (px_CV (px_P (px_rV _) (px_iV _)))) (ps_seq (ps_sEx (px_CV (px_FR (px_rV _)))) (ps_seq (ps_sI (px_C _)) (ps_seq (ps_seq (ps_sI (px_C _)) (pt_bd_47_l2 b sa cr)) (ps_seq (ps_sIf (pc_I (px_iV _) (px_C _)) (ps_sRet (px_C _)) ps_skip) (ps_seq (ps_seq (ps_sI (px_C _)) (pt_bd_47_l4 b sa cr)) (ps_sRet (px_CV (px_FR (px_rV _)))))))))))
theorem pt_bd_48 (b : Nat) (sa : Nat → Nat) (cr : ga_Cr gH) : ps (bd_48 b sa cr) := by
  unfold bd_48
  exact (ps_sw (px_iV _) (ps_cons (ps_sRet (px_FI (px_rV _))) (ps_cons (ps_sRet (px_FI (px_rV _))) (ps_cons (ps_sRet (px_FI (px_FR (px_rV _)))) (ps_cons (ps_sRet (px_FI (px_rV _))) (ps_cons (ps_sRet (px_FI (px_FR (px_rV _)))) (ps_cons (ps_sRet (px_FI (px_rV _))) (ps_cons (ps_sRet (px_FI (px_rV _))) (ps_cons (ps_sRet (px_FI (px_FR (px_FR (px_rV _))))) (ps_cons (ps_sRet (px_FI (px_FR (px_rV _)))) (ps_cons (ps_sRet (px_FI (px_rV _))) ps_nil)))))))))) (ps_sRet (px_C _)))
theorem pt_bd_49 (b : Nat) (sa : Nat → Nat) (cr : ga_Cr gH) : ps (bd_49 b sa cr) := by
  unfold bd_49
  exact (ps_seq ps_Obj (ps_seq (ps_PR (px_rV _) (px_LI (List.forall_mem_cons.mpr ⟨(px_C _), (List.forall_mem_cons.mpr ⟨(px_C _), (List.forall_mem_cons.mpr ⟨(px_C _), (List.forall_mem_cons.mpr ⟨(px_C _), (List.forall_mem_cons.mpr ⟨(px_C _), (List.forall_mem_cons.mpr ⟨(px_C _), (List.forall_mem_cons.mpr ⟨(px_C _), (List.forall_mem_cons.mpr ⟨(px_C _), (fun q hq => by cases hq)⟩)⟩)⟩)⟩)⟩)⟩)⟩)⟩))) (ps_seq (ps_PR (px_rV _) (px_NA (px_C _))) (ps_seq (ps_PR (px_rV _) (px_NA (px_C _))) (ps_seq (ps_PR (px_rV _) (px_NA (px_C _))) (ps_seq (ps_PR (px_rV _) (px_NA (px_C _))) (ps_seq (ps_PR (px_rV _) (px_NA (px_C _))) (ps_seq (ps_PR (px_rV _) (px_New (px_C _))) (ps_seq (ps_PR (px_rV _) (px_New (px_rV _))) (ps_seq (ps_PR (px_rV _) (px_New (px_rV _))) (ps_seq (ps_PI (px_rV _) (px_C _)) (ps_seq (ps_PR (px_rV _) (px_NA (px_C _))) ps_ret0))))))))))))
theorem pt_bd_50 (b : Nat) (sa : Nat → Nat) (cr : ga_Cr gH) : ps (bd_50 b sa cr) := by
  unfold bd_50
  exact (ps_seq (ps_AI (px_FR (px_rV _)) (px_FI (px_rV _)) (px_iV _)) (ps_seq (ps_AI (px_FR (px_rV _)) (px_FI (px_rV _)) (px_iV _)) (ps_seq (ps_AI (px_FR (px_rV _)) (px_FI (px_rV _)) (px_iV _)) (ps_seq (ps_AI (px_FR (px_rV _)) (px_FI (px_rV _)) (px_iV _)) (ps_seq (ps_AL (px_FR (px_rV _)) (px_FI (px_rV _)) (px_lV _)) (ps_seq (ps_UI (px_rV _) (px_C _)) ps_ret0))))))
theorem pt_bd_51 (b : Nat) (sa : Nat → Nat) (cr : ga_Cr gH) : ps (bd_51 b sa cr) := by
  unfold bd_51
  exact (ps_seq ps_Obj (ps_seq (ps_PR (px_rV _) (px_NA (px_C _))) (ps_seq (ps_PR (px_rV _) (px_NA (px_C _))) (ps_seq (ps_PR (px_rV _) (px_NA (px_C _))) (ps_seq (ps_PR (px_rV _) (px_NA (px_C _))) (ps_seq (ps_PR (px_rV _) (px_NA (px_C _))) ps_ret0))))))
theorem pt_bd_52 (b : Nat) (sa : Nat → Nat) (cr : ga_Cr gH) : ps (bd_52 b sa cr) := by
  unfold bd_52
  exact (ps_seq (ps_sIf (pc_I (px_FI (px_rV _)) (px_Len (px_FR (px_rV _)))) (ps_seq (ps_sR (px_NA (px_x2 (px_C _) (px_FI (px_rV _))))) (ps_seq (ps_Copy (px_FR (px_rV _)) (px_rV _) (px_FI (px_rV _))) (ps_PR (px_rV _) (px_rV _)))) ps_skip) (ps_seq (ps_AR (px_FR (px_rV _)) (px_FI (px_rV _)) (px_rV _)) (ps_seq (ps_UI (px_rV _) (px_C _)) ps_ret0)))
theorem pt_bd_53_b1 (b : Nat) (sa : Nat → Nat) (cr : ga_Cr gH) : ps (bd_53_b1 b sa cr) := by
  unfold bd_53_b1
  exact (ps_sEx (px_CV (px_P (px_rV _) (px_AR (px_FR (px_rV _)) (px_iV _)))))
theorem pt_bd_53_l2 (b : Nat) (sa : Nat → Nat) (cr : ga_Cr gH) : ps (bd_53_l2 b sa cr) := by
  unfold bd_53_l2
  exact (ps_for (pc_I (px_iV _) (px_FI (px_rV _))) ps_sInc (pt_bd_53_b1 b sa cr))
theorem pt_bd_53 (b : Nat) (sa : Nat → Nat) (cr : ga_Cr gH) : ps (bd_53 b sa cr) := by
  unfold bd_53
  exact (ps_seq (ps_seq (ps_sI (px_C _)) (pt_bd_53_l2 b sa cr)) ps_ret0)
theorem pt_bd_54_b1 (b : Nat) (sa : Nat → Nat) (cr : ga_Cr gH) : ps (bd_54_b1 b sa cr) := by
  unfold bd_54_b1
  exact (ps_sEx (px_CV (px_P (px_P (px_P (px_P (px_AR (px_FR (px_rV _)) (px_iV _)) (px_rV _)) (px_iV _)) (px_lV _)) (px_iV _))))
theorem pt_bd_54_l2 (b : Nat) (sa : Nat → Nat) (cr : ga_Cr gH) : ps (bd_54_l2 b sa cr) := by
  unfold bd_54_l2
  exact (ps_for (pc_I (px_iV _) (px_FI (px_rV _))) ps_sInc (pt_bd_54_b1 b sa cr))
theorem pt_bd_54 (b : Nat) (sa : Nat → Nat) (cr : ga_Cr gH) : ps (bd_54 b sa cr) := by
  unfold bd_54
  exact (ps_seq (ps_seq (ps_sI (px_C _)) (pt_bd_54_l2 b sa cr)) ps_ret0)
theorem pt_bd_55_b1 (b : Nat) (sa : Nat → Nat) (cr : ga_Cr gH) : ps (bd_55_b1 b sa cr) := by
  unfold bd_55_b1
  exact (ps_sEx (px_CV (px_P (px_P (px_AR (px_FR (px_rV _)) (px_iV _)) (px_rV _)) (px_iV _))))
theorem pt_bd_55_l2 (b : Nat) (sa : Nat → Nat) (cr : ga_Cr gH) : ps (bd_55_l2 b sa cr) := by
  unfold bd_55_l2
  exact (ps_for (pc_I (px_iV _) (px_FI (px_rV _))) ps_sInc (pt_bd_55_b1 b sa cr))
theorem pt_bd_55 (b : Nat) (sa : Nat → Nat) (cr : ga_Cr gH) : ps (bd_55 b sa cr) := by
  unfold bd_55
  exact (ps_seq (ps_seq (ps_sI (px_C _)) (pt_bd_55_l2 b sa cr)) ps_ret0)
theorem pt_bd_56_b1 (b : Nat) (sa : Nat → Nat) (cr : ga_Cr gH) : ps (bd_56_b1 b sa cr) := by
  unfold bd_56_b1
  exact (ps_sI (px_B (pc_or (pc_B (px_iV _)) (pc_B (px_CV (px_AR (px_FR (px_rV _)) (px_iV _)))))))
theorem pt_bd_56_l2 (b : Nat) (sa : Nat → Nat) (cr : ga_Cr gH) : ps (bd_56_l2 b sa cr) := by
  unfold bd_56_l2
  exact (ps_for (pc_I (px_iV _) (px_FI (px_rV _))) ps_sInc (pt_bd_56_b1 b sa cr))
theorem pt_bd_56 (b : Nat) (sa : Nat → Nat) (cr : ga_Cr gH) : ps (bd_56 b sa cr) := by
  unfold bd_56
  exact (ps_seq (ps_sI (px_C _)) (ps_seq (ps_seq (ps_sI (px_C _)) (pt_bd_56_l2 b sa cr)) (ps_sRet (px_iV _))))
theorem pt_bd_57_b1 (b : Nat) (sa : Nat → Nat) (cr : ga_Cr gH) : ps (bd_57_b1 b sa cr) := by
  unfold bd_57_b1
  exact (ps_sIf (pc_not (pc_B (px_CV (px_P (px_AR (px_FR (px_rV _)) (px_iV _)) (px_AR (px_FR (px_rV _)) (px_iV _)))))) (ps_sRet (px_C _)) ps_skip)
theorem pt_bd_57_l2 (b : Nat) (sa : Nat → Nat) (cr : ga_Cr gH) : ps (bd_57_l2 b sa cr) := by
  unfold bd_57_l2
  exact (ps_for (pc_I (px_iV _) (px_FI (px_rV _))) ps_sInc (pt_bd_57_b1 b sa cr))
theorem pt_bd_57 (b : Nat) (sa : Nat → Nat) (cr : ga_Cr gH) : ps (bd_57 b sa cr) := by
  unfold bd_57
  exact (ps_seq (ps_sIf (pc_I (px_FI (px_rV _)) (px_FI (px_rV _))) (ps_sRet (px_C _)) ps_skip) (ps_seq (ps_seq (ps_sI (px_C _)) (pt_bd_57_l2 b sa cr)) (ps_sRet (px_C _))))
theorem pt_bd_58_b1 (b : Nat) (sa : Nat → Nat) (cr : ga_Cr gH) : ps (bd_58_b1 b sa cr) := by
  unfold bd_58_b1
  exact (ps_sEx (px_CV (px_P (px_rV _) (px_CV (px_P (px_AR (px_FR (px_rV _)) (px_iV _)) (px_rV _))))))
theorem pt_bd_58_l2 (b : Nat) (sa : Nat → Nat) (cr : ga_Cr gH) : ps (bd_58_l2 b sa cr) := by
  unfold bd_58_l2
  exact (ps_for (pc_I (px_iV _) (px_FI (px_rV _))) ps_sInc (pt_bd_58_b1 b sa cr))
theorem pt_bd_58 (b : Nat) (sa : Nat → Nat) (cr : ga_Cr gH) : ps (bd_58 b sa cr) := by
  unfold bd_58
  exact (ps_seq (ps_sR (px_New (px_C _))) (ps_seq (ps_seq (ps_sI (px_C _)) (pt_bd_58_l2 b sa cr)) (ps_sRet (px_rV _))))
theorem pt_bd_59 (b : Nat) (sa : Nat → Nat) (cr : ga_Cr gH) : ps (bd_59 b sa cr) := by
  unfold bd_59
  exact (ps_seq ps_Obj (ps_seq (ps_PR (px_rV _) (px_NA (px_C _))) ps_ret0))
theorem pt_bd_60 (b : Nat) (sa : Nat → Nat) (cr : ga_Cr gH) : ps (bd_60 b sa cr) := by
  unfold bd_60
  exact (ps_seq ps_Obj ps_ret0)
theorem pt_bd_61 (b : Nat) (sa : Nat → Nat) (cr : ga_Cr gH) : ps (bd_61 b sa cr) := by
  unfold bd_61
  exact (ps_seq (ps_AR (px_FR (px_rV _)) (px_FI (px_rV _)) (px_rV _)) (ps_seq (ps_AI (px_FR (px_rV _)) (px_FI (px_rV _)) (px_iV _)) (ps_seq (ps_UI (px_rV _) (px_C _)) ps_ret0)))
theorem pt_bd_62 (b : Nat) (sa : Nat → Nat) (cr : ga_Cr gH) : ps (bd_62 b sa cr) := by
  unfold bd_62
  exact (ps_sRet (px_x2 (px_FI (px_AR (px_FR (px_rV _)) (px_iV _))) (px_AI (px_FR (px_rV _)) (px_iV _))))
theorem pt_bd_63 (b : Nat) (sa : Nat → Nat) (cr : ga_Cr gH) : ps (bd_63 b sa cr) := by
  unfold bd_63
  exact (ps_seq ps_Obj (ps_seq (ps_PR (px_rV _) (px_NA (px_C _))) (ps_seq (ps_PR (px_rV _) (px_NA (px_C _))) ps_ret0)))
theorem pt_bd_64 (b : Nat) (sa : Nat → Nat) (cr : ga_Cr gH) : ps (bd_64 b sa cr) := by
  unfold bd_64
  exact (ps_seq (ps_sR (px_New (px_C _))) (ps_seq (ps_sEx (px_CV (px_P (px_rV _) (px_rV _)))) (ps_sRet (px_rV _))))
theorem pt_bd_65 (b : Nat) (sa : Nat → Nat) (cr : ga_Cr gH) : ps (bd_65 b sa cr) := by
  unfold bd_65
  exact (ps_seq ps_Obj ps_ret0)
theorem pt_bd_66 (b : Nat) (sa : Nat → Nat) (cr : ga_Cr gH) : ps (bd_66 b sa cr) := by
  unfold bd_66
  exact (ps_sRet (px_C _))
theorem pt_bd_67 (b : Nat) (sa : Nat → Nat) (cr : ga_Cr gH) : ps (bd_67 b sa cr) := by
  unfold bd_67
  exact (ps_sRet (px_FI (px_rV _)))
theorem pt_bd_68 (b : Nat) (sa : Nat → Nat) (cr : ga_Cr gH) : ps (bd_68 b sa cr) := by
  unfold bd_68
  exact (ps_seq (ps_sEx (px_CV (px_P (px_P (px_P (px_P (px_P (px_rV _) (px_x2 (px_FI (px_rV _)) (px_iV _))) (px_FI (px_rV _))) (px_FI (px_rV _))) (px_FI (px_rV _))) (px_x2 (px_x1 (px_FI (px_rV _))) (px_lV _))))) ps_ret0)
theorem pt_bd_69 (b : Nat) (sa : Nat → Nat) (cr : ga_Cr gH) : ps (bd_69 b sa cr) := by
  unfold bd_69
  exact (ps_seq (ps_sEx (px_CV (px_P (px_P (px_rV _) (px_rV _)) (px_iV _)))) ps_ret0)
theorem pt_bd_70 (b : Nat) (sa : Nat → Nat) (cr : ga_Cr gH) : ps (bd_70 b sa cr) := by
  unfold bd_70
  exact (ps_sRet (px_C _))
theorem pt_bd_71 (b : Nat) (sa : Nat → Nat) (cr : ga_Cr gH) : ps (bd_71 b sa cr) := by
  unfold bd_71
  exact (ps_seq (ps_sIf (pc_not (pc_B (px_Inst (px_rV _)))) (ps_sRet (px_C _)) ps_skip) (ps_seq (ps_sR (px_Cast (px_rV _))) (ps_sRet (px_B (pc_and (pc_and (pc_and (pc_and (pc_and (pc_and (pc_and (pc_I (px_CV (px_rV _)) (px_CV (px_rV _))) (pc_I (px_FI (px_rV _)) (px_FI (px_rV _)))) (pc_I (px_FI (px_rV _)) (px_FI (px_rV _)))) (pc_I (px_FI (px_rV _)) (px_FI (px_rV _)))) (pc_I (px_FI (px_rV _)) (px_FI (px_rV _)))) (pc_I (px_FI (px_rV _)) (px_FI (px_rV _)))) (pc_I (px_CV (px_rV _)) (px_CV (px_rV _)))) (pc_I (px_CV (px_rV _)) (px_CV (px_rV _))))))))
theorem pt_bd_72 (b : Nat) (sa : Nat → Nat) (cr : ga_Cr gH) : ps (bd_72 b sa cr) := by
  unfold bd_72
  exact (ps_sRet (px_CV (px_rV _)))
theorem pt_bd_73 (b : Nat) (sa : Nat → Nat) (cr : ga_Cr gH) : ps (bd_73 b sa cr) := by
  unfold bd_73
  exact (ps_seq (ps_sEx (px_Sp (px_rV _))) (ps_seq (ps_seq (ps_PI (px_rV _) (px_iV _)) (ps_seq (ps_PI (px_rV _) (px_iV _)) (ps_seq (ps_PI (px_rV _) (px_iV _)) (ps_seq (ps_PI (px_rV _) (px_iV _)) (ps_PI (px_rV _) (px_iV _)))))) ps_ret0))
theorem pt_bd_74 (b : Nat) (sa : Nat → Nat) (cr : ga_Cr gH) : ps (bd_74 b sa cr) := by
  unfold bd_74
  exact (ps_sRet (px_FI (px_rV _)))
theorem pt_bd_75 (b : Nat) (sa : Nat → Nat) (cr : ga_Cr gH) : ps (bd_75 b sa cr) := by
  unfold bd_75
  exact (ps_seq (ps_sEx (px_Sp (px_P (px_P (px_P (px_P (px_P (px_rV _) (px_iV _)) (px_iV _)) (px_iV _)) (px_iV _)) (px_iV _)))) (ps_seq (ps_PI (px_rV _) (px_iV _)) ps_ret0))
theorem pt_bd_76 (b : Nat) (sa : Nat → Nat) (cr : ga_Cr gH) : ps (bd_76 b sa cr) := by
  unfold bd_76
  exact (ps_sRet (px_C _))
theorem pt_bd_77 (b : Nat) (sa : Nat → Nat) (cr : ga_Cr gH) : ps (bd_77 b sa cr) := by
  unfold bd_77
  exact (ps_sRet (px_FI (px_rV _)))
theorem pt_bd_78 (b : Nat) (sa : Nat → Nat) (cr : ga_Cr gH) : ps (bd_78 b sa cr) := by
  unfold bd_78
  exact (ps_sRet (px_FI (px_rV _)))
theorem pt_bd_79 (b : Nat) (sa : Nat → Nat) (cr : ga_Cr gH) : ps (bd_79 b sa cr) := by
  unfold bd_79
  exact (ps_seq (ps_sEx (px_Sp (px_P (px_P (px_P (px_P (px_rV _) (px_rV _)) (px_iV _)) (px_lV _)) (px_iV _)))) (ps_seq (ps_sEx (px_CV (px_P (px_P (px_P (px_P (px_P (px_rV _) (px_x2 (px_FI (px_rV _)) (px_iV _))) (px_FI (px_rV _))) (px_FI (px_rV _))) (px_C _)) (px_x2 (px_x1 (px_FI (px_rV _))) (px_lV _))))) ps_ret0))
theorem pt_bd_80 (b : Nat) (sa : Nat → Nat) (cr : ga_Cr gH) : ps (bd_80 b sa cr) := by
  unfold bd_80
  exact (ps_seq (ps_sEx (px_Sp (px_P (px_P (px_P (px_P (px_P (px_rV _) (px_iV _)) (px_iV _)) (px_iV _)) (px_iV _)) (px_iV _)))) (ps_seq (ps_seq (ps_PI (px_rV _) (px_iV _)) (ps_PI (px_rV _) (px_iV _))) ps_ret0))
theorem pt_bd_81 (b : Nat) (sa : Nat → Nat) (cr : ga_Cr gH) : ps (bd_81 b sa cr) := by
  unfold bd_81
  exact (ps_sRet (px_C _))
theorem pt_bd_82 (b : Nat) (sa : Nat → Nat) (cr : ga_Cr gH) : ps (bd_82 b sa cr) := by
  unfold bd_82
  exact (ps_seq (ps_sEx (px_CV (px_P (px_P (px_P (px_P (px_P (px_rV _) (px_x2 (px_FI (px_rV _)) (px_iV _))) (px_FI (px_rV _))) (px_FI (px_rV _))) (px_FI (px_rV _))) (px_x2 (px_x1 (px_FI (px_rV _))) (px_lV _))))) (ps_seq (ps_sEx (px_CV (px_P (px_P (px_P (px_P (px_P (px_rV _) (px_x2 (px_FI (px_rV _)) (px_iV _))) (px_FI (px_rV _))) (px_FI (px_rV _))) (px_FI (px_rV _))) (px_x2 (px_x1 (px_FI (px_rV _))) (px_lV _))))) (ps_seq (ps_sEx (px_CV (px_P (px_P (px_P (px_P (px_P (px_rV _) (px_x2 (px_FI (px_rV _)) (px_iV _))) (px_FI (px_rV _))) (px_FI (px_rV _))) (px_C _)) (px_x2 (px_x1 (px_FI (px_rV _))) (px_lV _))))) ps_ret0)))
theorem pt_bd_83 (b : Nat) (sa : Nat → Nat) (cr : ga_Cr gH) : ps (bd_83 b sa cr) := by
  unfold bd_83
  exact (ps_seq (ps_sEx (px_Sp (px_P (px_P (px_P (px_P (px_P (px_P (px_P (px_rV _) (px_iV _)) (px_iV _)) (px_iV _)) (px_iV _)) (px_iV _)) (px_iV _)) (px_iV _)))) ps_ret0)
theorem pt_bd_84 (b : Nat) (sa : Nat → Nat) (cr : ga_Cr gH) : ps (bd_84 b sa cr) := by
  unfold bd_84
  exact (ps_seq (ps_sEx (px_CV (px_P (px_P (px_P (px_P (px_FR (px_rV _)) (px_rV _)) (px_x2 (px_iV _) (px_FI (px_rV _)))) (px_lV _)) (px_iV _)))) ps_ret0)
theorem pt_bd_85 (b : Nat) (sa : Nat → Nat) (cr : ga_Cr gH) : ps (bd_85 b sa cr) := by
  unfold bd_85
  exact (ps_seq (ps_sEx (px_CV (px_P (px_P (px_FR (px_rV _)) (px_rV _)) (px_x2 (px_iV _) (px_FI (px_rV _)))))) ps_ret0)
theorem pt_bd_86 (b : Nat) (sa : Nat → Nat) (cr : ga_Cr gH) : ps (bd_86 b sa cr) := by
  unfold bd_86
  exact (ps_sRet (px_CV (px_FR (px_rV _))))
theorem pt_bd_87 (b : Nat) (sa : Nat → Nat) (cr : ga_Cr gH) : ps (bd_87 b sa cr) := by
  unfold bd_87
  exact (ps_sRet (px_B (pc_and (pc_and (pc_B (px_Inst (px_rV _))) (pc_I (px_FI (px_Cast (px_rV _))) (px_FI (px_rV _)))) (pc_B (px_CV (px_P (px_FR (px_Cast (px_rV _))) (px_FR (px_rV _))))))))
theorem pt_bd_88 (b : Nat) (sa : Nat → Nat) (cr : ga_Cr gH) : ps (bd_88 b sa cr) := by
  unfold bd_88
  exact (ps_seq (ps_sR (px_CV (px_P (px_FR (px_rV _)) (px_rV _)))) (ps_seq (ps_sI (px_B (pc_and (pc_I (px_FI (px_rV _)) (px_C _)) (pc_B (px_Inst (px_AR (px_FR (px_rV _)) (px_C _))))))) (ps_seq (ps_sIf (pc_or (pc_or (pc_I (px_FI (px_rV _)) (px_C _)) (pc_I (px_FI (px_rV _)) (px_C _))) (pc_B (px_iV _))) (ps_UI (px_rV _) (px_C _)) ps_skip) (ps_seq (ps_sIf (pc_or (pc_I (px_FI (px_rV _)) (px_C _)) (pc_I (px_FI (px_rV _)) (px_C _))) (ps_sRet (px_rV _)) ps_skip) (ps_seq (ps_sIf (pc_not (pc_B (px_iV _))) (ps_sRet (px_CV (px_New (px_P (px_FI (px_rV _)) (px_rV _))))) ps_skip) (ps_seq (ps_sR (px_Cast (px_AR (px_FR (px_rV _)) (px_C _)))) (ps_sRet (px_CV (px_New (px_P (px_x2 (px_FI (px_rV _)) (px_FI (px_rV _))) (px_FR (px_rV _))))))))))))
theorem pt_bd_89 (b : Nat) (sa : Nat → Nat) (cr : ga_Cr gH) : ps (bd_89 b sa cr) := by
  unfold bd_89
  exact (ps_seq (ps_sEx (px_Sp (px_rV _))) (ps_seq (ps_seq (ps_PI (px_rV _) (px_iV _)) (ps_PR (px_rV _) (px_rV _))) ps_ret0))
theorem pt_bd_90 (b : Nat) (sa : Nat → Nat) (cr : ga_Cr gH) : ps (bd_90 b sa cr) := by
  unfold bd_90
  exact (ps_seq (ps_sIf (pc_I (px_FI (px_rV _)) (px_C _)) (ps_sEx (px_CV (px_P (px_P (px_P (px_P (px_FR (px_rV _)) (px_rV _)) (px_iV _)) (px_x2 (px_lV _) (px_x1 (px_FI (px_rV _))))) (px_iV _)))) ps_skip) ps_ret0)
theorem pt_bd_91 (b : Nat) (sa : Nat → Nat) (cr : ga_Cr gH) : ps (bd_91 b sa cr) := by
  unfold bd_91
  exact (ps_seq (ps_sEx (px_CV (px_P (px_P (px_FR (px_rV _)) (px_rV _)) (px_iV _)))) ps_ret0)
theorem pt_bd_92 (b : Nat) (sa : Nat → Nat) (cr : ga_Cr gH) : ps (bd_92 b sa cr) := by
  unfold bd_92
  exact (ps_sRet (px_CV (px_FR (px_rV _))))
theorem pt_bd_93 (b : Nat) (sa : Nat → Nat) (cr : ga_Cr gH) : ps (bd_93 b sa cr) := by
  unfold bd_93
  exact (ps_sRet (px_B (pc_and (pc_and (pc_B (px_Inst (px_rV _))) (pc_I (px_FI (px_Cast (px_rV _))) (px_FI (px_rV _)))) (pc_B (px_CV (px_P (px_FR (px_Cast (px_rV _))) (px_FR (px_rV _))))))))
theorem pt_bd_94 (b : Nat) (sa : Nat → Nat) (cr : ga_Cr gH) : ps (bd_94 b sa cr) := by
  unfold bd_94
  exact (ps_seq (ps_sR (px_CV (px_P (px_FR (px_rV _)) (px_rV _)))) (ps_seq (ps_sIf (pc_and (pc_I (px_FI (px_rV _)) (px_C _)) (pc_I (px_FI (px_rV _)) (px_C _))) (ps_sRet (px_CV (px_New (px_P (px_FI (px_rV _)) (px_rV _))))) ps_skip) (ps_seq (ps_UI (px_rV _) (px_C _)) (ps_sRet (px_If (pc_I (px_FI (px_rV _)) (px_C _)) (px_New (px_C _)) (px_rV _))))))
theorem pt_bd_95 (b : Nat) (sa : Nat → Nat) (cr : ga_Cr gH) : ps (bd_95 b sa cr) := by
  unfold bd_95
  exact (ps_seq (ps_sEx (px_Sp (px_rV _))) (ps_seq (ps_seq (ps_PI (px_rV _) (px_iV _)) (ps_PR (px_rV _) (px_rV _))) ps_ret0))
theorem pt_bd_96 (b : Nat) (sa : Nat → Nat) (cr : ga_Cr gH) : ps (bd_96 b sa cr) := by
  unfold bd_96
  exact (ps_seq (ps_sEx (px_CV (px_P (px_P (px_P (px_P (px_If (pc_B (px_CV (px_P (px_rV _) (px_iV _)))) (px_FR (px_rV _)) (px_FR (px_rV _))) (px_rV _)) (px_iV _)) (px_lV _)) (px_iV _)))) ps_ret0)
theorem pt_bd_97 (b : Nat) (sa : Nat → Nat) (cr : ga_Cr gH) : ps (bd_97 b sa cr) := by
  unfold bd_97
  exact (ps_seq (ps_sEx (px_CV (px_P (px_P (px_FR (px_rV _)) (px_rV _)) (px_iV _)))) (ps_seq (ps_sEx (px_CV (px_P (px_P (px_FR (px_rV _)) (px_rV _)) (px_iV _)))) ps_ret0))
theorem pt_bd_98 (b : Nat) (sa : Nat → Nat) (cr : ga_Cr gH) : ps (bd_98 b sa cr) := by
  unfold bd_98
  exact (ps_sRet (px_B (pc_or (pc_B (px_CV (px_FR (px_rV _)))) (pc_B (px_CV (px_FR (px_rV _)))))))
theorem pt_bd_99 (b : Nat) (sa : Nat → Nat) (cr : ga_Cr gH) : ps (bd_99 b sa cr) := by
  unfold bd_99
  exact (ps_sRet (px_B (pc_and (pc_and (pc_and (pc_B (px_Inst (px_rV _))) (pc_B (px_CV (px_P (px_rV _) (px_Cast (px_rV _)))))) (pc_B (px_CV (px_P (px_FR (px_Cast (px_rV _))) (px_FR (px_rV _)))))) (pc_B (px_CV (px_P (px_FR (px_Cast (px_rV _))) (px_FR (px_rV _))))))))
theorem pt_bd_100 (b : Nat) (sa : Nat → Nat) (cr : ga_Cr gH) : ps (bd_100 b sa cr) := by
  unfold bd_100
  exact (ps_seq (ps_sR (px_CV (px_P (px_FR (px_rV _)) (px_rV _)))) (ps_seq (ps_sR (px_CV (px_P (px_FR (px_rV _)) (px_rV _)))) (ps_seq (ps_sI (px_B (pc_and (pc_B (px_CV (px_P (px_rV _) (px_rV _)))) (pc_not (pc_B (px_CV (px_rV _))))))) (ps_seq (ps_sIf (pc_B (px_iV _)) (ps_UI (px_rV _) (px_C _)) ps_skip) (ps_sRet (px_If (pc_B (px_iV _)) (px_rV _) (px_CV (px_CV (px_P (px_P (px_rV _) (px_rV _)) (px_rV _))))))))))
theorem pt_bd_101 (b : Nat) (sa : Nat → Nat) (cr : ga_Cr gH) : ps (bd_101 b sa cr) := by
  unfold bd_101
  exact (ps_seq (ps_sEx (px_Sp (px_rV _))) (ps_seq (ps_seq (ps_PR (px_rV _) (px_rV _)) (ps_PR (px_rV _) (px_rV _))) ps_ret0))
theorem pt_bd_102 (b : Nat) (sa : Nat → Nat) (cr : ga_Cr gH) : ps (bd_102 b sa cr) := by
  unfold bd_102
  exact (ps_sRet (px_CS (px_P (px_iV _) (px_FI (px_rV _)))))
theorem pt_bd_103 (b : Nat) (sa : Nat → Nat) (cr : ga_Cr gH) : ps (bd_103 b sa cr) := by
  unfold bd_103
  exact (ps_sRet (px_B (pc_and (pc_B (px_Inst (px_rV _))) (pc_I (px_FI (px_Cast (px_rV _))) (px_FI (px_rV _))))))
theorem pt_bd_104 (b : Nat) (sa : Nat → Nat) (cr : ga_Cr gH) : ps (bd_104 b sa cr) := by
  unfold bd_104
  exact (ps_sRet (px_New (px_P (px_P (px_FI (px_rV _)) (px_rV _)) (px_rV _))))
theorem pt_bd_105 (b : Nat) (sa : Nat → Nat) (cr : ga_Cr gH) : ps (bd_105 b sa cr) := by
  unfold bd_105
  exact (ps_seq (ps_sEx (px_Sp (px_P (px_P (px_rV _) (px_rV _)) (px_rV _)))) (ps_seq (ps_PI (px_rV _) (px_iV _)) ps_ret0))
theorem pt_bd_106 (b : Nat) (sa : Nat → Nat) (cr : ga_Cr gH) : ps (bd_106 b sa cr) := by
  unfold bd_106
  exact (ps_sRet (px_B (pc_not (pc_B (px_CS (px_P (px_iV _) (px_x2 (px_C _) (px_FI (px_rV _)))))))))
theorem pt_bd_107 (b : Nat) (sa : Nat → Nat) (cr : ga_Cr gH) : ps (bd_107 b sa cr) := by
  unfold bd_107
  exact (ps_sRet (px_B (pc_and (pc_and (pc_B (px_Inst (px_rV _))) (pc_I (px_FI (px_Cast (px_rV _))) (px_FI (px_rV _)))) (pc_I (px_FI (px_Cast (px_rV _))) (px_FI (px_rV _))))))
theorem pt_bd_108 (b : Nat) (sa : Nat → Nat) (cr : ga_Cr gH) : ps (bd_108 b sa cr) := by
  unfold bd_108
  exact (ps_sRet (px_New (px_P (px_P (px_P (px_FI (px_rV _)) (px_FI (px_rV _))) (px_rV _)) (px_rV _))))
theorem pt_bd_109 (b : Nat) (sa : Nat → Nat) (cr : ga_Cr gH) : ps (bd_109 b sa cr) := by
  unfold bd_109
  exact (ps_sRet (px_C _))
theorem pt_bd_110 (b : Nat) (sa : Nat → Nat) (cr : ga_Cr gH) : ps (bd_110 b sa cr) := by
  unfold bd_110
  exact (ps_seq (ps_sEx (px_Sp (px_P (px_P (px_rV _) (px_rV _)) (px_rV _)))) (ps_seq (ps_seq (ps_PI (px_rV _) (px_iV _)) (ps_PI (px_rV _) (px_iV _))) ps_ret0))
theorem pt_bd_111_b1 (b : Nat) (sa : Nat → Nat) (cr : ga_Cr gH) : ps (bd_111_b1 b sa cr) := by
  unfold bd_111_b1
  exact (ps_sI (px_x2 (px_iV _) (px_x2 (px_C _) (px_FI (px_AR (px_FR (px_FR (px_rV _))) (px_iV _))))))
theorem pt_bd_111_l2 (b : Nat) (sa : Nat → Nat) (cr : ga_Cr gH) : ps (bd_111_l2 b sa cr) := by
  unfold bd_111_l2
  exact (ps_for (pc_I (px_iV _) (px_FI (px_FR (px_rV _)))) ps_sInc (pt_bd_111_b1 b sa cr))
theorem pt_bd_111 (b : Nat) (sa : Nat → Nat) (cr : ga_Cr gH) : ps (bd_111 b sa cr) := by
  unfold bd_111
  exact (ps_seq (ps_sI (px_C _)) (ps_seq (ps_seq (ps_sI (px_C _)) (pt_bd_111_l2 b sa cr)) (ps_sRet (px_iV _))))
theorem pt_bd_112 (b : Nat) (sa : Nat → Nat) (cr : ga_Cr gH) : ps (bd_112 b sa cr) := by
  unfold bd_112
  exact (ps_seq ps_Obj (ps_seq (ps_PR (px_rV _) (px_New (px_C _))) (ps_seq (ps_seq (ps_PI (px_rV _) (px_iV _)) (ps_seq (ps_PI (px_rV _) (px_iV _)) (ps_seq (ps_PR (px_rV _) (px_rV _)) (ps_seq (ps_PI (px_rV _) (px_iV _)) (ps_seq (ps_PI (px_rV _) (px_iV _)) (ps_sEx (px_CV (px_P (px_P (px_rV _) (px_FR (px_rV _))) (px_C _))))))))) ps_ret0)))
theorem pt_bd_113 (b : Nat) (sa : Nat → Nat) (cr : ga_Cr gH) : ps (bd_113 b sa cr) := by
  unfold bd_113
  exact (ps_sRet (px_B (pc_and (pc_and (pc_I (px_iV _) (px_FI (px_rV _))) (pc_I (px_AI (px_FR (px_rV _)) (px_iV _)) (px_C _))) (pc_I (px_AI (px_FR (px_rV _)) (px_iV _)) (px_C _)))))
theorem pt_bd_114 (b : Nat) (sa : Nat → Nat) (cr : ga_Cr gH) : ps (bd_114 b sa cr) := by
  unfold bd_114
  exact (ps_sRet (px_B (pc_and (pc_and (pc_I (px_iV _) (px_FI (px_rV _))) (pc_I (px_AI (px_FR (px_rV _)) (px_iV _)) (px_C _))) (pc_I (px_AI (px_FR (px_rV _)) (px_iV _)) (px_C _)))))
theorem pt_bd_115_b1 (b : Nat) (sa : Nat → Nat) (cr : ga_Cr gH) : ps (bd_115_b1 b sa cr) := by
  unfold bd_115_b1
  exact (ps_UI (px_rV _) (px_C _))
theorem pt_bd_115_l2 (b : Nat) (sa : Nat → Nat) (cr : ga_Cr gH) : ps (bd_115_l2 b sa cr) := by
  unfold bd_115_l2
  exact (ps_for (pc_and (pc_I (px_FI (px_rV _)) (px_FI (px_rV _))) (pc_or (pc_I (px_AI (px_FR (px_rV _)) (px_FI (px_rV _))) (px_C _)) (pc_I (px_AI (px_FR (px_rV _)) (px_FI (px_rV _))) (px_C _)))) ps_skip (pt_bd_115_b1 b sa cr))
theorem pt_bd_115_b3 (b : Nat) (sa : Nat → Nat) (cr : ga_Cr gH) : ps (bd_115_b3 b sa cr) := by
  unfold bd_115_b3
  exact (ps_PL (px_rV _) (px_If (pc_I (px_x2 (px_FI (px_rV _)) (px_FI (px_rV _))) (px_C _)) (px_x2 (px_x2 (px_FL (px_rV _)) (px_C _)) (px_x1 (px_AI (px_FR (px_rV _)) (px_FI (px_rV _))))) (px_C _)))
theorem pt_bd_115_l4 (b : Nat) (sa : Nat → Nat) (cr : ga_Cr gH) : ps (bd_115_l4 b sa cr) := by
  unfold bd_115_l4
  exact (ps_for (pc_B (px_CV (px_P (px_rV _) (px_FI (px_rV _))))) (ps_UI (px_rV _) (px_C _)) (pt_bd_115_b3 b sa cr))
theorem pt_bd_115_b5 (b : Nat) (sa : Nat → Nat) (cr : ga_Cr gH) : ps (bd_115_b5 b sa cr) := by
  unfold bd_115_b5
  exact (ps_sIf (pc_I (px_x2 (px_FI (px_rV _)) (px_FI (px_rV _))) (px_C _)) (ps_PL (px_rV _) (px_x2 (px_x2 (px_x2 (px_C _) (px_FL (px_rV _))) (px_x1 (px_AI (px_FR (px_rV _)) (px_FI (px_rV _))))) (px_C _))) ps_skip)
theorem pt_bd_115_l6 (b : Nat) (sa : Nat → Nat) (cr : ga_Cr gH) : ps (bd_115_l6 b sa cr) := by
  unfold bd_115_l6
  exact (ps_for (pc_B (px_CV (px_P (px_rV _) (px_FI (px_rV _))))) (ps_UI (px_rV _) (px_C _)) (pt_bd_115_b5 b sa cr))
theorem pt_bd_115 (b : Nat) (sa : Nat → Nat) (cr : ga_Cr gH) : ps (bd_115 b sa cr) := by
  unfold bd_115
  exact (ps_seq (pt_bd_115_l2 b sa cr) (ps_seq (ps_PI (px_rV _) (px_FI (px_rV _))) (ps_seq (ps_PL (px_rV _) (px_C _)) (ps_seq (ps_sIf (pc_I (px_FI (px_rV _)) (px_FI (px_rV _))) (ps_PI (px_rV _) (px_C _)) (ps_sIf (pc_B (px_CV (px_P (px_rV _) (px_FI (px_rV _))))) (ps_seq (ps_PI (px_rV _) (px_C _)) (ps_seq (pt_bd_115_l4 b sa cr) (ps_sIf (pc_I (px_x2 (px_FI (px_rV _)) (px_FI (px_rV _))) (px_C _)) (ps_PL (px_rV _) (px_C _)) ps_skip))) (ps_sIf (pc_B (px_CV (px_P (px_rV _) (px_FI (px_rV _))))) (ps_seq (ps_PI (px_rV _) (px_C _)) (ps_seq (pt_bd_115_l6 b sa cr) (ps_sIf (pc_I (px_x2 (px_FI (px_rV _)) (px_FI (px_rV _))) (px_C _)) (ps_PL (px_rV _) (px_C _)) ps_skip))) (ps_seq (ps_PI (px_rV _) (px_C _)) (ps_seq (ps_PL (px_rV _) (px_x1 (px_AI (px_FR (px_rV _)) (px_FI (px_rV _))))) (ps_UI (px_rV _) (px_C _))))))) ps_ret0))))
theorem pt_bd_116 (b : Nat) (sa : Nat → Nat) (cr : ga_Cr gH) : ps (bd_116 b sa cr) := by
  unfold bd_116
  exact (ps_seq (ps_PI (px_rV _) (px_FI (px_rV _))) (ps_seq (ps_sEx (px_CV (px_rV _))) ps_ret0))
theorem pt_bd_117 (b : Nat) (sa : Nat → Nat) (cr : ga_Cr gH) : ps (bd_117 b sa cr) := by
  unfold bd_117
  exact (ps_sRet (px_B (pc_and (pc_and (pc_not (pc_B (px_FI (px_rV _)))) (pc_I (px_FI (px_rV _)) (px_iV _))) (pc_L (px_FL (px_rV _)) (px_lV _)))))
theorem pt_bd_118 (b : Nat) (sa : Nat → Nat) (cr : ga_Cr gH) : ps (bd_118 b sa cr) := by
  unfold bd_118
  exact (ps_seq (ps_sIf (pc_not (pc_B (px_CV (px_P (px_P (px_rV _) (px_iV _)) (px_lV _))))) (ps_sRet (px_C _)) ps_skip) (ps_seq (ps_sEx (px_CV (px_rV _))) (ps_sRet (px_C _))))
theorem pt_bd_119 (b : Nat) (sa : Nat → Nat) (cr : ga_Cr gH) : ps (bd_119 b sa cr) := by
  unfold bd_119
  exact (ps_seq (ps_sIf (pc_not (pc_B (px_CV (px_P (px_P (px_rV _) (px_iV _)) (px_lV _))))) (ps_PZ (px_rV _) (px_C _)) ps_skip) ps_ret0)
theorem pt_bd_120 (b : Nat) (sa : Nat → Nat) (cr : ga_Cr gH) : ps (bd_120 b sa cr) := by
  unfold bd_120
  exact (ps_seq (ps_sIf (pc_or (pc_or (pc_B (px_FI (px_rV _))) (pc_I (px_FI (px_rV _)) (px_C _))) (pc_not (pc_B (px_CS (px_P (px_P (px_x1 (px_FL (px_rV _))) (px_iV _)) (px_iV _)))))) (ps_seq (ps_PZ (px_rV _) (px_C _)) (ps_sRet (px_iV _))) ps_skip) (ps_seq (ps_sI (px_x1 (px_FL (px_rV _)))) (ps_seq (ps_sEx (px_CV (px_rV _))) (ps_sRet (px_iV _)))))
theorem pt_bd_121 (b : Nat) (sa : Nat → Nat) (cr : ga_Cr gH) : ps (bd_121 b sa cr) := by
  unfold bd_121
  exact (ps_seq (ps_sI (px_If (pc_and (pc_not (pc_B (px_FI (px_rV _)))) (pc_I (px_FI (px_rV _)) (px_C _))) (px_CS (px_P (px_rV _) (px_FL (px_rV _)))) (px_C _))) (ps_seq (ps_sIf (pc_or (pc_I (px_iV _) (px_C _)) (pc_I (px_iV _) (px_iV _))) (ps_seq (ps_PZ (px_rV _) (px_C _)) (ps_sRet (px_C _))) ps_skip) (ps_seq (ps_sEx (px_CV (px_rV _))) (ps_sRet (px_iV _)))))
theorem pt_bd_122 (b : Nat) (sa : Nat → Nat) (cr : ga_Cr gH) : ps (bd_122 b sa cr) := by
  unfold bd_122
  exact (ps_sRet (px_FI (px_rV _)))
theorem pt_bd_123 (b : Nat) (sa : Nat → Nat) (cr : ga_Cr gH) : ps (bd_123 b sa cr) := by
  unfold bd_123
  exact (ps_seq ps_Obj (ps_seq (ps_seq (ps_PR (px_rV _) (px_rV _)) (ps_seq (ps_PI (px_rV _) (px_iV _)) (ps_sEx (px_CV (px_rV _))))) ps_ret0))
theorem pt_bd_124 (b : Nat) (sa : Nat → Nat) (cr : ga_Cr gH) : ps (bd_124 b sa cr) := by
  unfold bd_124
  exact (ps_seq (ps_sR (px_CV (px_rV _))) (ps_seq (ps_sIf (pc_and (pc_not (pc_B (px_FI (px_rV _)))) (pc_I (px_FI (px_rV _)) (px_C _))) (ps_PZ (px_rV _) (px_C _)) ps_skip) (ps_sRet (px_If (pc_B (px_FI (px_rV _))) (px_C _) (px_rV _)))))
theorem pt_bd_125_l1 (b : Nat) (sa : Nat → Nat) (cr : ga_Cr gH) : ps (bd_125_l1 b sa cr) := by
  unfold bd_125_l1
  exact (ps_do (pc_B (px_CV (px_P (px_P (px_rV _) (px_C _)) (px_C _)))) (ps_sEx (px_CV (px_P (px_rV _) (px_CV (px_rV _))))))
theorem pt_bd_125 (b : Nat) (sa : Nat → Nat) (cr : ga_Cr gH) : ps (bd_125 b sa cr) := by
  unfold bd_125
  exact (ps_seq (ps_sR (px_New (px_C _))) (ps_seq (pt_bd_125_l1 b sa cr) (ps_sRet (px_rV _))))
theorem pt_bd_126 (b : Nat) (sa : Nat → Nat) (cr : ga_Cr gH) : ps (bd_126 b sa cr) := by
  unfold bd_126
  exact (ps_seq (ps_sIf (pc_or (pc_not (pc_B (px_CV (px_P (px_P (px_rV _) (px_C _)) (px_C _))))) (pc_I (px_FI (px_rV _)) (px_C _))) (ps_seq (ps_PZ (px_rV _) (px_C _)) (ps_sRet (px_C _))) ps_skip) (ps_seq (ps_UI (px_rV _) (px_C _)) (ps_seq (ps_sEx (px_CV (px_rV _))) (ps_seq (ps_sR (px_CV (px_rV _))) (ps_seq (ps_sEx (px_CV (px_P (px_P (px_rV _) (px_C _)) (px_C _)))) (ps_seq (ps_UI (px_rV _) (px_C _)) (ps_sRet (px_rV _))))))))
theorem pt_bd_127 (b : Nat) (sa : Nat → Nat) (cr : ga_Cr gH) : ps (bd_127 b sa cr) := by
  unfold bd_127
  exact (ps_seq (ps_sIf (pc_B (px_FI (px_rV _))) (ps_sRet (px_C _)) ps_skip) (ps_seq (ps_sI (px_If (pc_I (px_FI (px_rV _)) (px_C _)) (px_CS (px_P (px_C _) (px_FL (px_rV _)))) (px_C _))) (ps_seq (ps_sIf (pc_and (pc_I (px_iV _) (px_C _)) (pc_I (px_iV _) (px_C _))) (ps_sRet (px_CV (px_P (px_rV _) (px_iV _)))) ps_skip) (ps_seq (ps_sIf (pc_B (px_CV (px_P (px_P (px_rV _) (px_C _)) (px_C _)))) (ps_seq (ps_sI (px_CV (px_P (px_P (px_rV _) (px_C _)) (px_C _)))) (ps_sRet (px_New (px_P (px_iV _) (px_CV (px_rV _)))))) ps_skip) (ps_seq (ps_sIf (pc_B (px_CV (px_P (px_P (px_rV _) (px_C _)) (px_C _)))) (ps_seq (ps_sI (px_CV (px_P (px_P (px_rV _) (px_C _)) (px_C _)))) (ps_sRet (px_New (px_P (px_iV _) (px_CV (px_rV _)))))) ps_skip) (ps_seq (ps_sIf (pc_B (px_CV (px_P (px_P (px_rV _) (px_C _)) (px_C _)))) (ps_seq (ps_sI (px_CV (px_P (px_P (px_rV _) (px_C _)) (px_C _)))) (ps_seq (ps_sIf (pc_not (pc_B (px_FI (px_rV _)))) (ps_UI (px_rV _) (px_x2 (px_C _) (px_iV _))) ps_skip) (ps_seq (ps_sR (px_CV (px_rV _))) (ps_sRet (px_New (px_P (px_P (px_iV _) (px_rV _)) (px_If (pc_B (px_CV (px_P (px_P (px_rV _) (px_C _)) (px_C _)))) (px_CV (px_rV _)) (px_New (px_C _))))))))) ps_skip) (ps_sRet (px_CV (px_rV _)))))))))
theorem pt_bd_128 (b : Nat) (sa : Nat → Nat) (cr : ga_Cr gH) : ps (bd_128 b sa cr) := by
  unfold bd_128
  exact (ps_seq (ps_sIf (pc_or (pc_not (pc_B (px_CV (px_P (px_P (px_rV _) (px_C _)) (px_C _))))) (pc_I (px_FI (px_rV _)) (px_C _))) (ps_seq (ps_PZ (px_rV _) (px_C _)) (ps_sRet (px_C _))) ps_skip) (ps_seq (ps_sEx (px_CV (px_rV _))) (ps_seq (ps_sI (px_FI (px_rV _))) (ps_seq (ps_UI (px_rV _) (px_C _)) (ps_seq (ps_sI (px_CV (px_P (px_P (px_rV _) (px_C _)) (px_C _)))) (ps_seq (ps_sR (px_CV (px_rV _))) (ps_sRet (px_New (px_P (px_P (px_P (px_iV _) (px_iV _)) (px_rV _)) (px_If (pc_B (px_CV (px_P (px_P (px_rV _) (px_C _)) (px_C _)))) (px_CV (px_rV _)) (px_New (px_C _))))))))))))
theorem pt_bd_129 (b : Nat) (sa : Nat → Nat) (cr : ga_Cr gH) : ps (bd_129 b sa cr) := by
  unfold bd_129
  exact (ps_seq (ps_sIf (pc_I (px_FI (px_rV _)) (px_C _)) (ps_seq (ps_PZ (px_rV _) (px_C _)) (ps_sRet (px_C _))) ps_skip) (ps_seq (ps_sEx (px_CV (px_rV _))) (ps_seq (ps_UI (px_rV _) (px_C _)) (ps_seq (ps_sI (px_CV (px_P (px_P (px_rV _) (px_C _)) (px_C _)))) (ps_seq (ps_sI (px_CV (px_P (px_P (px_rV _) (px_C _)) (px_iV _)))) (ps_seq (ps_sI (px_CV (px_P (px_P (px_rV _) (px_C _)) (px_C _)))) (ps_seq (ps_sI (px_CV (px_P (px_P (px_rV _) (px_C _)) (px_C _)))) (ps_seq (ps_sI (px_C _)) (ps_seq (ps_sIf (pc_or (pc_I (px_iV _) (px_C _)) (pc_I (px_iV _) (px_C _))) (ps_seq (ps_sEx (px_CV (px_P (px_P (px_rV _) (px_C _)) (px_C _)))) (ps_sI (px_CV (px_P (px_P (px_rV _) (px_C _)) (px_C _))))) ps_skip) (ps_seq (ps_sEx (px_CV (px_P (px_P (px_rV _) (px_C _)) (px_C _)))) (ps_seq (ps_sI (px_CV (px_P (px_P (px_rV _) (px_C _)) (px_C _)))) (ps_seq (ps_sIf (pc_I (px_iV _) (px_C _)) (ps_seq (ps_sEx (px_CV (px_P (px_P (px_rV _) (px_C _)) (px_C _)))) (ps_sRet (px_New (px_P (px_P (px_P (px_P (px_P (px_P (px_iV _) (px_iV _)) (px_iV _)) (px_iV _)) (px_iV _)) (px_iV _)) (px_CV (px_P (px_P (px_rV _) (px_iV _)) (px_C _))))))) ps_skip) (ps_seq (ps_sIf (pc_I (px_iV _) (px_C _)) (ps_sRet (px_New (px_P (px_P (px_P (px_P (px_P (px_iV _) (px_iV _)) (px_iV _)) (px_iV _)) (px_iV _)) (px_iV _)))) ps_skip) (ps_sRet (px_New (px_P (px_P (px_P (px_P (px_P (px_P (px_iV _) (px_iV _)) (px_iV _)) (px_iV _)) (px_iV _)) (px_iV _)) (px_If (pc_B (px_CV (px_P (px_P (px_rV _) (px_C _)) (px_C _)))) (px_CV (px_P (px_P (px_rV _) (px_iV _)) (px_C _))) (px_iV _))))))))))))))))))
theorem pt_bd_130 (b : Nat) (sa : Nat → Nat) (cr : ga_Cr gH) : ps (bd_130 b sa cr) := by
  unfold bd_130
  exact (ps_seq (ps_sEx (px_Sp (px_P (px_P (px_rV _) (px_rV _)) (px_iV _)))) ps_ret0)
theorem pt_bd_131 (b : Nat) (sa : Nat → Nat) (cr : ga_Cr gH) : ps (bd_131 b sa cr) := by
  unfold bd_131
  exact (ps_sRet (px_B (pc_and (pc_or (pc_I (px_iV _) (px_C _)) (pc_I (px_CV (px_rV _)) (px_iV _))) (pc_or (pc_I (px_iV _) (px_C _)) (pc_I (px_FI (px_rV _)) (px_iV _))))))
theorem pt_bd_132 (b : Nat) (sa : Nat → Nat) (cr : ga_Cr gH) : ps (bd_132 b sa cr) := by
  unfold bd_132
  exact (ps_sRet (px_CS (px_P (px_P (px_AR (px_FR (px_rV _)) (px_iV _)) (px_FI (px_rV _))) (px_FI (px_rV _)))))
theorem pt_bd_133 (b : Nat) (sa : Nat → Nat) (cr : ga_Cr gH) : ps (bd_133 b sa cr) := by
  unfold bd_133
  exact (ps_seq (ps_sR (px_AR (px_FR (px_rV _)) (px_iV _))) (ps_seq (ps_sR (px_AR (px_FR (px_rV _)) (px_iV _))) (ps_seq (ps_sIf (pc_or (pc_or (pc_I (px_iV _) (px_iV _)) (pc_not (pc_B (px_CS (px_P (px_P (px_rV _) (px_FI (px_rV _))) (px_FI (px_rV _))))))) (pc_not (pc_B (px_CS (px_P (px_P (px_rV _) (px_FI (px_rV _))) (px_FI (px_rV _))))))) (ps_sRet (px_C _)) ps_skip) (ps_seq (ps_sI (px_x2 (px_CV (px_P (px_rV _) (px_iV _))) (px_CV (px_P (px_rV _) (px_iV _))))) (ps_seq (ps_sIf (pc_or (pc_or (pc_I (px_iV _) (px_C _)) (pc_and (pc_I (px_iV _) (px_C _)) (pc_I (px_iV _) (px_iV _)))) (pc_and (pc_I (px_FI (px_rV _)) (px_C _)) (pc_I (px_iV _) (px_FI (px_rV _))))) (ps_sRet (px_C _)) ps_skip) (ps_seq (ps_sIf (pc_and (pc_B (px_FI (px_rV _))) (pc_or (pc_I (px_AI (px_rV _) (px_FI (px_rV _))) (px_AI (px_rV _) (px_FI (px_rV _)))) (pc_I (px_AI (px_rV _) (px_FI (px_rV _))) (px_AI (px_rV _) (px_FI (px_rV _)))))) (ps_sRet (px_C _)) ps_skip) (ps_sRet (px_B (pc_and (pc_or (pc_not (pc_B (px_FI (px_rV _)))) (pc_I (px_FI (px_rV _)) (px_FI (px_rV _)))) (pc_or (pc_not (pc_B (px_FI (px_rV _)))) (pc_I (px_CV (px_rV _)) (px_CV (px_rV _)))))))))))))
theorem pt_bd_134 (b : Nat) (sa : Nat → Nat) (cr : ga_Cr gH) : ps (bd_134 b sa cr) := by
  unfold bd_134
  exact (ps_seq ps_Obj (ps_seq (ps_seq (ps_PI (px_rV _) (px_iV _)) (ps_seq (ps_PI (px_rV _) (px_iV _)) (ps_seq (ps_PI (px_rV _) (px_iV _)) (ps_seq (ps_PI (px_rV _) (px_iV _)) (ps_seq (ps_PZ (px_rV _) (px_iV _)) (ps_seq (ps_PZ (px_rV _) (px_iV _)) (ps_seq (ps_PZ (px_rV _) (px_iV _)) (ps_PI (px_rV _) (px_iV _))))))))) ps_ret0))
theorem pt_bd_135 (b : Nat) (sa : Nat → Nat) (cr : ga_Cr gH) : ps (bd_135 b sa cr) := by
  unfold bd_135
  exact (ps_seq ps_Obj (ps_seq (ps_PR (px_rV _) (px_NA (px_C _))) ps_ret0))
theorem pt_bd_136_b1 (b : Nat) (sa : Nat → Nat) (cr : ga_Cr gH) : ps (bd_136_b1 b sa cr) := by
  unfold bd_136_b1
  exact (ps_sIf (pc_I (px_FI (px_FR (px_rV _))) (px_iV _)) (ps_PZ (px_rV _) (px_C _)) (ps_seq (ps_AR (px_FR (px_FR (px_rV _))) (px_FI (px_FR (px_rV _))) (px_CV (px_rV _))) (ps_UI (px_FR (px_rV _)) (px_C _))))
theorem pt_bd_136_l2 (b : Nat) (sa : Nat → Nat) (cr : ga_Cr gH) : ps (bd_136_l2 b sa cr) := by
  unfold bd_136_l2
  exact (ps_for (pc_and (pc_not (pc_B (px_FI (px_rV _)))) (pc_I (px_FI (px_rV _)) (px_C _))) ps_skip (pt_bd_136_b1 b sa cr))
theorem pt_bd_136 (b : Nat) (sa : Nat → Nat) (cr : ga_Cr gH) : ps (bd_136 b sa cr) := by
  unfold bd_136
  exact (ps_seq (pt_bd_136_l2 b sa cr) (ps_sRet (px_B (pc_and (pc_not (pc_B (px_FI (px_rV _)))) (pc_I (px_FI (px_FR (px_rV _))) (px_iV _))))))
theorem pt_bd_137_b1 (b : Nat) (sa : Nat → Nat) (cr : ga_Cr gH) : ps (bd_137_b1 b sa cr) := by
  unfold bd_137_b1
  exact (ps_seq (ps_sI (px_B (pc_or (pc_B (px_iV _)) (pc_L (px_FL (px_rV _)) (px_C _))))) (ps_seq (ps_sI (px_B (pc_or (pc_B (px_iV _)) (pc_L (px_FL (px_rV _)) (px_C _))))) (ps_seq (ps_sI (px_B (pc_or (pc_B (px_iV _)) (pc_L (px_FL (px_rV _)) (px_C _))))) (ps_sEx (px_CV (px_rV _))))))
theorem pt_bd_137_l2 (b : Nat) (sa : Nat → Nat) (cr : ga_Cr gH) : ps (bd_137_l2 b sa cr) := by
  unfold bd_137_l2
  exact (ps_for (pc_or (pc_or (pc_B (px_CV (px_P (px_P (px_rV _) (px_C _)) (px_C _)))) (pc_B (px_CV (px_P (px_P (px_rV _) (px_C _)) (px_C _))))) (pc_B (px_CV (px_P (px_P (px_rV _) (px_C _)) (px_C _))))) ps_skip (pt_bd_137_b1 b sa cr))
theorem pt_bd_137 (b : Nat) (sa : Nat → Nat) (cr : ga_Cr gH) : ps (bd_137 b sa cr) := by
  unfold bd_137
  exact (ps_seq (ps_sEx (px_CV (px_P (px_P (px_rV _) (px_C _)) (px_C _)))) (ps_seq (ps_sI (px_CV (px_P (px_P (px_rV _) (px_C _)) (px_C _)))) (ps_seq (ps_sI (px_If (pc_B (px_CV (px_P (px_P (px_rV _) (px_C _)) (px_C _)))) (px_CV (px_P (px_P (px_rV _) (px_C _)) (px_C _))) (px_C _))) (ps_seq (ps_sI (px_C _)) (ps_seq (ps_sI (px_C _)) (ps_seq (ps_sI (px_C _)) (ps_seq (ps_sI (px_C _)) (ps_seq (ps_sI (px_C _)) (ps_seq (ps_sI (px_C _)) (ps_seq (ps_sIf (pc_B (px_CV (px_P (px_P (px_rV _) (px_C _)) (px_C _)))) (ps_seq (ps_sI (px_CV (px_P (px_P (px_rV _) (px_C _)) (px_C _)))) (ps_seq (ps_sIf (pc_B (px_CV (px_P (px_P (px_rV _) (px_C _)) (px_C _)))) (ps_sI (px_CV (px_P (px_P (px_rV _) (px_C _)) (px_C _)))) ps_skip) (ps_seq (pt_bd_137_l2 b sa cr) (ps_sIf (pc_B (px_CV (px_P (px_P (px_rV _) (px_C _)) (px_C _)))) (ps_sI (px_CV (px_P (px_P (px_rV _) (px_C _)) (px_C _)))) ps_skip)))) ps_skip) (ps_seq (ps_sEx (px_CV (px_P (px_P (px_rV _) (px_C _)) (px_C _)))) (ps_sRet (px_New (px_P (px_P (px_P (px_P (px_P (px_P (px_P (px_iV _) (px_iV _)) (px_iV _)) (px_iV _)) (px_iV _)) (px_iV _)) (px_iV _)) (px_iV _)))))))))))))))
theorem pt_bd_138 (b : Nat) (sa : Nat → Nat) (cr : ga_Cr gH) : ps (bd_138 b sa cr) := by
  unfold bd_138
  exact (ps_seq (ps_sEx (px_Sp (px_P (px_P (px_rV _) (px_rV _)) (px_iV _)))) (ps_seq (ps_PR (px_rV _) (px_New (px_C _))) ps_ret0))
theorem pt_bd_139_b1 (b : Nat) (sa : Nat → Nat) (cr : ga_Cr gH) : ps (bd_139_b1 b sa cr) := by
  unfold bd_139_b1
  exact (ps_sI (px_B (pc_or (pc_B (px_iV _)) (pc_R (px_AR (px_FR (px_rV _)) (px_iV _)) (px_rV _)))))
theorem pt_bd_139_l2 (b : Nat) (sa : Nat → Nat) (cr : ga_Cr gH) : ps (bd_139_l2 b sa cr) := by
  unfold bd_139_l2
  exact (ps_for (pc_I (px_iV _) (px_FI (px_rV _))) ps_sInc (pt_bd_139_b1 b sa cr))
theorem pt_bd_139 (b : Nat) (sa : Nat → Nat) (cr : ga_Cr gH) : ps (bd_139 b sa cr) := by
  unfold bd_139
  exact (ps_seq (ps_sI (px_C _)) (ps_seq (ps_seq (ps_sI (px_C _)) (pt_bd_139_l2 b sa cr)) (ps_sRet (px_iV _))))
theorem pt_bd_140_b1 (b : Nat) (sa : Nat → Nat) (cr : ga_Cr gH) : ps (bd_140_b1 b sa cr) := by
  unfold bd_140_b1
  exact (ps_sEx (px_CV (px_P (px_P (px_FR (px_rV _)) (px_AR (px_FR (px_FR (px_rV _))) (px_iV _))) (px_AI (px_FR (px_FR (px_rV _))) (px_iV _)))))
theorem pt_bd_140_l2 (b : Nat) (sa : Nat → Nat) (cr : ga_Cr gH) : ps (bd_140_l2 b sa cr) := by
  unfold bd_140_l2
  exact (ps_for (pc_I (px_iV _) (px_FI (px_FR (px_rV _)))) ps_sInc (pt_bd_140_b1 b sa cr))
theorem pt_bd_140 (b : Nat) (sa : Nat → Nat) (cr : ga_Cr gH) : ps (bd_140 b sa cr) := by
  unfold bd_140
  exact (ps_seq (ps_AR (px_FR (px_rV _)) (px_FI (px_rV _)) (px_rV _)) (ps_seq (ps_UI (px_rV _) (px_C _)) (ps_seq (ps_UI (px_rV _) (px_FI (px_rV _))) (ps_seq (ps_UI (px_rV _) (px_FI (px_rV _))) (ps_seq (ps_seq (ps_sI (px_C _)) (pt_bd_140_l2 b sa cr)) ps_ret0)))))
theorem pt_bd_141 (b : Nat) (sa : Nat → Nat) (cr : ga_Cr gH) : ps (bd_141 b sa cr) := by
  unfold bd_141
  exact (ps_seq (ps_PI (px_rV _) (px_C _)) (ps_seq (ps_PI (px_rV _) (px_C _)) (ps_seq (ps_PI (px_rV _) (px_C _)) (ps_seq (ps_PI (px_FR (px_rV _)) (px_C _)) ps_ret0))))
theorem pt_bd_142_b1 (b : Nat) (sa : Nat → Nat) (cr : ga_Cr gH) : ps (bd_142_b1 b sa cr) := by
  unfold bd_142_b1
  exact (ps_sEx (px_CV (px_P (px_rV _) (px_AR (px_FR (px_rV _)) (px_iV _)))))
theorem pt_bd_142_l2 (b : Nat) (sa : Nat → Nat) (cr : ga_Cr gH) : ps (bd_142_l2 b sa cr) := by
  unfold bd_142_l2
  exact (ps_for (pc_I (px_iV _) (px_FI (px_rV _))) ps_sInc (pt_bd_142_b1 b sa cr))
theorem pt_bd_142 (b : Nat) (sa : Nat → Nat) (cr : ga_Cr gH) : ps (bd_142 b sa cr) := by
  unfold bd_142
  exact (ps_seq (ps_sEx (px_CV (px_rV _))) (ps_seq (ps_seq (ps_sI (px_C _)) (pt_bd_142_l2 b sa cr)) ps_ret0))
theorem pt_bd_143 (b : Nat) (sa : Nat → Nat) (cr : ga_Cr gH) : ps (bd_143 b sa cr) := by
  unfold bd_143
  exact (ps_sRet (px_B (pc_I (px_x2 (px_CS (px_FI (px_rV _))) (px_FI (px_rV _))) (px_C _))))
theorem pt_bd_144 (b : Nat) (sa : Nat → Nat) (cr : ga_Cr gH) : ps (bd_144 b sa cr) := by
  unfold bd_144
  exact (ps_sRet (px_B (pc_and (pc_I (px_iV _) (px_C _)) (pc_I (px_iV _) (px_x2 (px_C _) (px_FI (px_rV _)))))))
theorem pt_bd_145 (b : Nat) (sa : Nat → Nat) (cr : ga_Cr gH) : ps (bd_145 b sa cr) := by
  unfold bd_145
  exact (ps_sRet (px_B (pc_I (px_x2 (px_x2 (px_iV _) (px_C _)) (px_x2 (px_FI (px_rV _)) (px_C _))) (px_C _))))
theorem pt_bd_146 (b : Nat) (sa : Nat → Nat) (cr : ga_Cr gH) : ps (bd_146 b sa cr) := by
  unfold bd_146
  exact (ps_sRet (px_x2 (px_C _) (px_x2 (px_CS (px_FI (px_rV _))) (px_FI (px_rV _)))))
theorem pt_bd_147_b1 (b : Nat) (sa : Nat → Nat) (cr : ga_Cr gH) : ps (bd_147_b1 b sa cr) := by
  unfold bd_147_b1
  exact (ps_seq (ps_sEx (px_CV (px_P (px_P (px_P (px_P (px_FR (px_AR (px_FR (px_rV _)) (px_iV _))) (px_FR (px_rV _))) (px_C _)) (px_C _)) (px_x2 (px_x2 (px_iV _) (px_C _)) (px_x2 (px_x2 (px_iV _) (px_x2 (px_x2 (px_C _) (px_FI (px_AR (px_FR (px_rV _)) (px_iV _)))) (px_C _))) (px_C _)))))) (ps_sI (px_x2 (px_iV _) (px_FI (px_AR (px_FR (px_rV _)) (px_iV _))))))
theorem pt_bd_147_l2 (b : Nat) (sa : Nat → Nat) (cr : ga_Cr gH) : ps (bd_147_l2 b sa cr) := by
  unfold bd_147_l2
  exact (ps_for (pc_I (px_iV _) (px_FI (px_rV _))) ps_sInc (pt_bd_147_b1 b sa cr))
theorem pt_bd_147 (b : Nat) (sa : Nat → Nat) (cr : ga_Cr gH) : ps (bd_147 b sa cr) := by
  unfold bd_147
  exact (ps_seq (ps_PI (px_FR (px_rV _)) (px_C _)) (ps_seq (ps_sI (px_x2 (px_iV _) (px_C _))) (ps_seq (ps_seq (ps_sI (px_C _)) (pt_bd_147_l2 b sa cr)) (ps_sRet (px_FR (px_rV _))))))
theorem pt_bd_148_b1 (b : Nat) (sa : Nat → Nat) (cr : ga_Cr gH) : ps (bd_148_b1 b sa cr) := by
  unfold bd_148_b1
  exact (ps_seq (ps_sIf (pc_or (pc_I (px_AI (px_FR (px_FR (px_rV _))) (px_iV _)) (px_iV _)) (pc_and (pc_I (px_iV _) (px_C _)) (pc_I (px_AI (px_FR (px_FR (px_rV _))) (px_iV _)) (px_iV _)))) ps_cont ps_skip) (ps_seq (ps_sIf (pc_I (px_AI (px_FR (px_FR (px_rV _))) (px_AI (px_FR (px_FR (px_rV _))) (px_iV _))) (px_iV _)) (ps_sL (px_x2 (px_lV _) (px_AL (px_FR (px_FR (px_rV _))) (px_iV _)))) ps_skip) (ps_sIf (pc_I (px_AI (px_FR (px_FR (px_rV _))) (px_AI (px_FR (px_FR (px_rV _))) (px_iV _))) (px_iV _)) (ps_sL (px_x2 (px_lV _) (px_AL (px_FR (px_FR (px_rV _))) (px_iV _)))) ps_skip)))
theorem pt_bd_148_l2 (b : Nat) (sa : Nat → Nat) (cr : ga_Cr gH) : ps (bd_148_l2 b sa cr) := by
  unfold bd_148_l2
  exact (ps_for (pc_I (px_iV _) (px_FI (px_FR (px_rV _)))) ps_sInc (pt_bd_148_b1 b sa cr))
theorem pt_bd_148 (b : Nat) (sa : Nat → Nat) (cr : ga_Cr gH) : ps (bd_148 b sa cr) := by
  unfold bd_148
  exact (ps_seq (ps_sEx (px_CV (px_P (px_rV _) (px_iV _)))) (ps_seq (ps_sL (px_C _)) (ps_seq (ps_seq (ps_sI (px_C _)) (pt_bd_148_l2 b sa cr)) (ps_sRet (px_lV _)))))
theorem pt_bd_149_b1 (b : Nat) (sa : Nat → Nat) (cr : ga_Cr gH) : ps (bd_149_b1 b sa cr) := by
  unfold bd_149_b1
  exact ps_sInc
theorem pt_bd_149_l2 (b : Nat) (sa : Nat → Nat) (cr : ga_Cr gH) : ps (bd_149_l2 b sa cr) := by
  unfold bd_149_l2
  exact (ps_for (pc_and (pc_I (px_iV _) (px_FI (px_rV _))) (pc_I (px_AI (px_FR (px_rV _)) (px_iV _)) (px_iV _))) ps_skip (pt_bd_149_b1 b sa cr))
theorem pt_bd_149_b3 (b : Nat) (sa : Nat → Nat) (cr : ga_Cr gH) : ps (bd_149_b3 b sa cr) := by
  unfold bd_149_b3
  exact (ps_AI (px_FR (px_rV _)) (px_iV _) (px_AI (px_FR (px_rV _)) (px_x2 (px_iV _) (px_C _))))
theorem pt_bd_149_l4 (b : Nat) (sa : Nat → Nat) (cr : ga_Cr gH) : ps (bd_149_l4 b sa cr) := by
  unfold bd_149_l4
  exact (ps_for (pc_I (px_iV _) (px_iV _)) ps_sInc (pt_bd_149_b3 b sa cr))
theorem pt_bd_149 (b : Nat) (sa : Nat → Nat) (cr : ga_Cr gH) : ps (bd_149 b sa cr) := by
  unfold bd_149
  exact (ps_seq (ps_sI (px_C _)) (ps_seq (pt_bd_149_l2 b sa cr) (ps_seq (ps_sIf (pc_and (pc_I (px_iV _) (px_FI (px_rV _))) (pc_I (px_AI (px_FR (px_rV _)) (px_iV _)) (px_iV _))) (ps_sRet (px_iV _)) ps_skip) (ps_seq (ps_seq (ps_sI (px_FI (px_rV _))) (pt_bd_149_l4 b sa cr)) (ps_seq (ps_AI (px_FR (px_rV _)) (px_iV _) (px_iV _)) (ps_seq (ps_UI (px_rV _) (px_C _)) (ps_sRet (px_iV _))))))))
theorem pt_bd_150_b1 (b : Nat) (sa : Nat → Nat) (cr : ga_Cr gH) : ps (bd_150_b1 b sa cr) := by
  unfold bd_150_b1
  exact (ps_sEx (px_CV (px_P (px_rV _) (px_AI (px_FR (px_FR (px_rV _))) (px_iV _)))))
theorem pt_bd_150_l2 (b : Nat) (sa : Nat → Nat) (cr : ga_Cr gH) : ps (bd_150_l2 b sa cr) := by
  unfold bd_150_l2
  exact (ps_for (pc_I (px_iV _) (px_FI (px_FR (px_rV _)))) ps_sInc (pt_bd_150_b1 b sa cr))
theorem pt_bd_150_b3 (b : Nat) (sa : Nat → Nat) (cr : ga_Cr gH) : ps (bd_150_b3 b sa cr) := by
  unfold bd_150_b3
  exact (ps_AL (px_FR (px_rV _)) (px_iV _) (px_C _))
theorem pt_bd_150_l4 (b : Nat) (sa : Nat → Nat) (cr : ga_Cr gH) : ps (bd_150_l4 b sa cr) := by
  unfold bd_150_l4
  exact (ps_for (pc_I (px_iV _) (px_C _)) ps_sInc (pt_bd_150_b3 b sa cr))
theorem pt_bd_150_b5 (b : Nat) (sa : Nat → Nat) (cr : ga_Cr gH) : ps (bd_150_b5 b sa cr) := by
  unfold bd_150_b5
  exact (ps_AL (px_FR (px_rV _)) (px_iV _) (px_C _))
theorem pt_bd_150_l6 (b : Nat) (sa : Nat → Nat) (cr : ga_Cr gH) : ps (bd_150_l6 b sa cr) := by
  unfold bd_150_l6
  exact (ps_for (pc_I (px_iV _) (px_x2 (px_C _) (px_FI (px_rV _)))) ps_sInc (pt_bd_150_b5 b sa cr))
theorem pt_bd_150_b7 (b : Nat) (sa : Nat → Nat) (cr : ga_Cr gH) : ps (bd_150_b7 b sa cr) := by
  unfold bd_150_b7
  exact (ps_seq (ps_sEx (px_CV (px_P (px_P (px_P (px_rV _) (px_AI (px_FR (px_FR (px_rV _))) (px_AI (px_FR (px_FR (px_rV _))) (px_iV _)))) (px_iV _)) (px_AL (px_FR (px_FR (px_rV _))) (px_iV _))))) (ps_sEx (px_CV (px_P (px_P (px_P (px_rV _) (px_AI (px_FR (px_FR (px_rV _))) (px_AI (px_FR (px_FR (px_rV _))) (px_iV _)))) (px_iV _)) (px_x1 (px_AL (px_FR (px_FR (px_rV _))) (px_iV _)))))))
theorem pt_bd_150_l8 (b : Nat) (sa : Nat → Nat) (cr : ga_Cr gH) : ps (bd_150_l8 b sa cr) := by
  unfold bd_150_l8
  exact (ps_for (pc_I (px_iV _) (px_FI (px_FR (px_rV _)))) ps_sInc (pt_bd_150_b7 b sa cr))
theorem pt_bd_150 (b : Nat) (sa : Nat → Nat) (cr : ga_Cr gH) : ps (bd_150 b sa cr) := by
  unfold bd_150
  exact (ps_seq (ps_sEx (px_CV (px_P (px_rV _) (px_iV _)))) (ps_seq (ps_PI (px_rV _) (px_C _)) (ps_seq (ps_seq (ps_sI (px_C _)) (pt_bd_150_l2 b sa cr)) (ps_seq (ps_seq (ps_sI (px_C _)) (pt_bd_150_l4 b sa cr)) (ps_seq (ps_seq (ps_sI (px_C _)) (pt_bd_150_l6 b sa cr)) (ps_seq (ps_seq (ps_sI (px_C _)) (pt_bd_150_l8 b sa cr)) ps_ret0))))))
theorem pt_bd_151 (b : Nat) (sa : Nat → Nat) (cr : ga_Cr gH) : ps (bd_151 b sa cr) := by
  unfold bd_151
  exact (ps_seq (ps_VL (px_FR (px_rV _)) (px_x2 (px_x2 (px_C _) (px_iV _)) (px_AI (px_FR (px_FR (px_rV _))) (px_iV _))) (px_lV _)) (ps_seq (ps_sIf (pc_I (px_AI (px_FR (px_FR (px_rV _))) (px_iV _)) (px_C _)) (ps_VL (px_FR (px_rV _)) (px_x2 (px_x2 (px_C _) (px_CV (px_P (px_rV _) (px_AI (px_FR (px_FR (px_rV _))) (px_iV _))))) (px_iV _)) (px_lV _)) ps_skip) ps_ret0))
theorem pt_bd_152 (b : Nat) (sa : Nat → Nat) (cr : ga_Cr gH) : ps (bd_152 b sa cr) := by
  unfold bd_152
  exact (ps_sRet (px_AL (px_FR (px_rV _)) (px_x2 (px_x2 (px_C _) (px_iV _)) (px_iV _))))
theorem pt_bd_153_b1 (b : Nat) (sa : Nat → Nat) (cr : ga_Cr gH) : ps (bd_153_b1 b sa cr) := by
  unfold bd_153_b1
  exact (ps_sI (px_B (pc_and (pc_B (px_iV _)) (pc_L (px_CV (px_P (px_P (px_rV _) (px_iV _)) (px_iV _))) (px_C _)))))
theorem pt_bd_153_l2 (b : Nat) (sa : Nat → Nat) (cr : ga_Cr gH) : ps (bd_153_l2 b sa cr) := by
  unfold bd_153_l2
  exact (ps_for (pc_I (px_iV _) (px_C _)) ps_sInc (pt_bd_153_b1 b sa cr))
theorem pt_bd_153 (b : Nat) (sa : Nat → Nat) (cr : ga_Cr gH) : ps (bd_153 b sa cr) := by
  unfold bd_153
  exact (ps_seq (ps_sI (px_C _)) (ps_seq (ps_seq (ps_sI (px_C _)) (pt_bd_153_l2 b sa cr)) (ps_sRet (px_iV _))))
theorem pt_bd_154_b1 (b : Nat) (sa : Nat → Nat) (cr : ga_Cr gH) : ps (bd_154_b1 b sa cr) := by
  unfold bd_154_b1
  exact ps_sInc
theorem pt_bd_154_l2 (b : Nat) (sa : Nat → Nat) (cr : ga_Cr gH) : ps (bd_154_l2 b sa cr) := by
  unfold bd_154_l2
  exact (ps_for (pc_and (pc_I (px_iV _) (px_FI (px_rV _))) (pc_L (px_AL (px_FR (px_rV _)) (px_x2 (px_x2 (px_C _) (px_iV _)) (px_iV _))) (px_C _))) ps_skip (pt_bd_154_b1 b sa cr))
theorem pt_bd_154 (b : Nat) (sa : Nat → Nat) (cr : ga_Cr gH) : ps (bd_154 b sa cr) := by
  unfold bd_154
  exact (ps_seq (ps_sI (px_C _)) (ps_seq (pt_bd_154_l2 b sa cr) (ps_sRet (px_iV _))))
theorem pt_bd_155_b1 (b : Nat) (sa : Nat → Nat) (cr : ga_Cr gH) : ps (bd_155_b1 b sa cr) := by
  unfold bd_155_b1
  exact (ps_seq (ps_sL (px_AL (px_FR (px_rV _)) (px_x2 (px_x2 (px_C _) (px_iV _)) (px_iV _)))) (ps_seq (ps_sIf (pc_and (pc_L (px_lV _) (px_C _)) (pc_B (px_iV _))) (ps_sRet (px_C _)) ps_skip) (ps_sI (px_B (pc_or (pc_B (px_iV _)) (pc_L (px_lV _) (px_C _)))))))
theorem pt_bd_155_l2 (b : Nat) (sa : Nat → Nat) (cr : ga_Cr gH) : ps (bd_155_l2 b sa cr) := by
  unfold bd_155_l2
  exact (ps_for (pc_I (px_iV _) (px_FI (px_rV _))) ps_sInc (pt_bd_155_b1 b sa cr))
theorem pt_bd_155 (b : Nat) (sa : Nat → Nat) (cr : ga_Cr gH) : ps (bd_155 b sa cr) := by
  unfold bd_155
  exact (ps_seq (ps_sIf (pc_or (pc_or (pc_or (pc_not (pc_B (px_CV (px_P (px_rV _) (px_iV _))))) (pc_not (pc_B (px_CV (px_P (px_rV _) (px_iV _)))))) (pc_L (px_CV (px_P (px_P (px_rV _) (px_iV _)) (px_C _))) (px_C _))) (pc_L (px_CV (px_P (px_P (px_rV _) (px_iV _)) (px_C _))) (px_C _))) (ps_sRet (px_C _)) ps_skip) (ps_seq (ps_sI (px_CV (px_P (px_rV _) (px_iV _)))) (ps_seq (ps_sIf (pc_or (pc_or (pc_I (px_iV _) (px_FI (px_rV _))) (pc_L (px_AL (px_FR (px_rV _)) (px_x2 (px_x2 (px_C _) (px_iV _)) (px_iV _))) (px_C _))) (pc_L (px_AL (px_FR (px_rV _)) (px_x2 (px_x2 (px_C _) (px_iV _)) (px_iV _))) (px_C _))) (ps_sRet (px_C _)) ps_skip) (ps_seq (ps_sI (px_C _)) (ps_seq (ps_seq (ps_sI (px_iV _)) (pt_bd_155_l2 b sa cr)) (ps_sRet (px_C _)))))))
theorem pt_bd_156_b1 (b : Nat) (sa : Nat → Nat) (cr : ga_Cr gH) : ps (bd_156_b1 b sa cr) := by
  unfold bd_156_b1
  exact (ps_seq (ps_sL (px_x2 (px_lV _) (px_AL (px_FR (px_rV _)) (px_x2 (px_x2 (px_C _) (px_iV _)) (px_iV _))))) (ps_sIf (pc_L (px_lV _) (px_C _)) (ps_sL (px_x2 (px_lV _) (px_x2 (px_lV _) (px_x1 (px_x2 (px_AI (px_FR (px_rV _)) (px_x2 (px_iV _) (px_C _))) (px_AI (px_FR (px_rV _)) (px_iV _))))))) ps_skip))
theorem pt_bd_156_l2 (b : Nat) (sa : Nat → Nat) (cr : ga_Cr gH) : ps (bd_156_l2 b sa cr) := by
  unfold bd_156_l2
  exact (ps_for (pc_I (px_x2 (px_iV _) (px_C _)) (px_FI (px_rV _))) ps_sInc (pt_bd_156_b1 b sa cr))
theorem pt_bd_156 (b : Nat) (sa : Nat → Nat) (cr : ga_Cr gH) : ps (bd_156 b sa cr) := by
  unfold bd_156
  exact (ps_seq (ps_sL (px_C _)) (ps_seq (ps_sL (px_C _)) (ps_seq (ps_seq (ps_sI (px_CV (px_P (px_rV _) (px_iV _)))) (pt_bd_156_l2 b sa cr)) (ps_sRet (px_lV _)))))
theorem pt_bd_157_b1 (b : Nat) (sa : Nat → Nat) (cr : ga_Cr gH) : ps (bd_157_b1 b sa cr) := by
  unfold bd_157_b1
  exact (ps_seq (ps_sIf (pc_not (pc_B (px_CV (px_P (px_rV _) (px_iV _))))) ps_cont ps_skip) (ps_seq (ps_sEx (px_CV (px_P (px_rV _) (px_iV _)))) (ps_sIf (pc_B (px_CV (px_P (px_P (px_rV _) (px_iV _)) (px_iV _)))) ps_sInc ps_skip)))
theorem pt_bd_157_l2 (b : Nat) (sa : Nat → Nat) (cr : ga_Cr gH) : ps (bd_157_l2 b sa cr) := by
  unfold bd_157_l2
  exact (ps_for (pc_I (px_iV _) (px_x2 (px_C _) (px_FI (px_rV _)))) ps_sInc (pt_bd_157_b1 b sa cr))
theorem pt_bd_157 (b : Nat) (sa : Nat → Nat) (cr : ga_Cr gH) : ps (bd_157 b sa cr) := by
  unfold bd_157
  exact (ps_seq (ps_sI (px_C _)) (ps_seq (ps_seq (ps_sI (px_C _)) (pt_bd_157_l2 b sa cr)) (ps_sRet (px_iV _))))
theorem pt_bd_158_b1 (b : Nat) (sa : Nat → Nat) (cr : ga_Cr gH) : ps (bd_158_b1 b sa cr) := by
  unfold bd_158_b1
  exact (ps_AZ (px_FR (px_rV _)) (px_iV _) (px_B (pc_I (px_x2p (px_iV _) (px_C _)) (px_x2p (px_iV _) (px_C _)))))
theorem pt_bd_158_l2 (b : Nat) (sa : Nat → Nat) (cr : ga_Cr gH) : ps (bd_158_l2 b sa cr) := by
  unfold bd_158_l2
  exact (ps_for (pc_I (px_iV _) (px_C _)) ps_sInc (pt_bd_158_b1 b sa cr))
theorem pt_bd_158_b3 (b : Nat) (sa : Nat → Nat) (cr : ga_Cr gH) : ps (bd_158_b3 b sa cr) := by
  unfold bd_158_b3
  exact (ps_seq (ps_AZ (px_FR (px_rV _)) (px_iV _) (px_B (pc_and (pc_B (px_AI (px_FR (px_rV _)) (px_iV _))) (pc_B (px_CV (px_P (px_P (px_rV _) (px_x2p (px_iV _) (px_C _))) (px_x2p (px_iV _) (px_C _)))))))) (ps_sI (px_B (pc_or (pc_B (px_iV _)) (pc_B (px_AI (px_FR (px_rV _)) (px_iV _)))))))
theorem pt_bd_158_l4 (b : Nat) (sa : Nat → Nat) (cr : ga_Cr gH) : ps (bd_158_l4 b sa cr) := by
  unfold bd_158_l4
  exact (ps_for (pc_I (px_iV _) (px_C _)) ps_sInc (pt_bd_158_b3 b sa cr))
theorem pt_bd_158_b5 (b : Nat) (sa : Nat → Nat) (cr : ga_Cr gH) : ps (bd_158_b5 b sa cr) := by
  unfold bd_158_b5
  exact (ps_seq (ps_sIf (pc_not (pc_B (px_CV (px_P (px_rV _) (px_iV _))))) ps_cont ps_skip) (ps_seq (ps_sEx (px_CV (px_P (px_rV _) (px_iV _)))) (ps_seq (ps_sI (px_C _)) (ps_seq (ps_sI (px_C _)) (pt_bd_158_l4 b sa cr)))))
theorem pt_bd_158_l6 (b : Nat) (sa : Nat → Nat) (cr : ga_Cr gH) : ps (bd_158_l6 b sa cr) := by
  unfold bd_158_l6
  exact (ps_for (pc_and (pc_I (px_iV _) (px_x2 (px_C _) (px_FI (px_rV _)))) (pc_B (px_iV _))) ps_sInc (pt_bd_158_b5 b sa cr))
theorem pt_bd_158_b7 (b : Nat) (sa : Nat → Nat) (cr : ga_Cr gH) : ps (bd_158_b7 b sa cr) := by
  unfold bd_158_b7
  exact (ps_sIf (pc_B (px_AI (px_FR (px_rV _)) (px_iV _))) (ps_sRet (px_x2 (px_x2 (px_C _) (px_x2p (px_iV _) (px_C _))) (px_x2p (px_iV _) (px_C _)))) ps_skip)
theorem pt_bd_158_l8 (b : Nat) (sa : Nat → Nat) (cr : ga_Cr gH) : ps (bd_158_l8 b sa cr) := by
  unfold bd_158_l8
  exact (ps_for (pc_I (px_iV _) (px_C _)) ps_sInc (pt_bd_158_b7 b sa cr))
theorem pt_bd_158 (b : Nat) (sa : Nat → Nat) (cr : ga_Cr gH) : ps (bd_158 b sa cr) := by
  unfold bd_158
  exact (ps_seq (ps_sIf (pc_not (pc_B (px_CV (px_rV _)))) (ps_sRet (px_C _)) ps_skip) (ps_seq (ps_seq (ps_sI (px_C _)) (pt_bd_158_l2 b sa cr)) (ps_seq (ps_sI (px_C _)) (ps_seq (ps_seq (ps_sI (px_C _)) (pt_bd_158_l6 b sa cr)) (ps_seq (ps_seq (ps_sI (px_C _)) (pt_bd_158_l8 b sa cr)) (ps_sRet (px_C _)))))))
theorem pt_bd_159_b1 (b : Nat) (sa : Nat → Nat) (cr : ga_Cr gH) : ps (bd_159_b1 b sa cr) := by
  unfold bd_159_b1
  exact (ps_sIf (pc_I (px_CV (px_P (px_P (px_rV _) (px_rV _)) (px_iV _))) (px_C _)) (ps_sRet (px_C _)) ps_skip)
theorem pt_bd_159_l2 (b : Nat) (sa : Nat → Nat) (cr : ga_Cr gH) : ps (bd_159_l2 b sa cr) := by
  unfold bd_159_l2
  exact (ps_for (pc_I (px_iV _) (px_FI (px_FR (px_rV _)))) ps_sInc (pt_bd_159_b1 b sa cr))
theorem pt_bd_159 (b : Nat) (sa : Nat → Nat) (cr : ga_Cr gH) : ps (bd_159 b sa cr) := by
  unfold bd_159
  exact (ps_seq (ps_sIf (pc_I (px_FI (px_rV _)) (px_C _)) (ps_sRet (px_B (pc_I (px_CV (px_P (px_rV _) (px_rV _))) (px_C _)))) ps_skip) (ps_seq (ps_seq (ps_sI (px_C _)) (pt_bd_159_l2 b sa cr)) (ps_sRet (px_C _))))
theorem pt_bd_160_b1 (b : Nat) (sa : Nat → Nat) (cr : ga_Cr gH) : ps (bd_160_b1 b sa cr) := by
  unfold bd_160_b1
  exact (ps_sIf (pc_B (px_CV (px_P (px_P (px_rV _) (px_FR (px_rV _))) (px_iV _)))) (ps_sRet (px_iV _)) ps_skip)
theorem pt_bd_160_l2 (b : Nat) (sa : Nat → Nat) (cr : ga_Cr gH) : ps (bd_160_l2 b sa cr) := by
  unfold bd_160_l2
  exact (ps_for (pc_I (px_iV _) (px_FI (px_FR (px_rV _)))) ps_sInc (pt_bd_160_b1 b sa cr))
theorem pt_bd_160 (b : Nat) (sa : Nat → Nat) (cr : ga_Cr gH) : ps (bd_160 b sa cr) := by
  unfold bd_160
  exact (ps_seq (ps_seq (ps_sI (px_C _)) (pt_bd_160_l2 b sa cr)) (ps_sRet (px_C _)))
theorem pt_bd_161_b1 (b : Nat) (sa : Nat → Nat) (cr : ga_Cr gH) : ps (bd_161_b1 b sa cr) := by
  unfold bd_161_b1
  exact (ps_sIf (pc_B (px_CV (px_P (px_P (px_P (px_P (px_rV _) (px_FR (px_rV _))) (px_iV _)) (px_iV _)) (px_FR (px_FR (px_rV _)))))) (ps_sRet (px_iV _)) ps_skip)
theorem pt_bd_161_l2 (b : Nat) (sa : Nat → Nat) (cr : ga_Cr gH) : ps (bd_161_l2 b sa cr) := by
  unfold bd_161_l2
  exact (ps_for (pc_I (px_iV _) (px_FI (px_FR (px_rV _)))) ps_sInc (pt_bd_161_b1 b sa cr))
theorem pt_bd_161 (b : Nat) (sa : Nat → Nat) (cr : ga_Cr gH) : ps (bd_161 b sa cr) := by
  unfold bd_161
  exact (ps_seq (ps_seq (ps_sI (px_C _)) (pt_bd_161_l2 b sa cr)) (ps_sRet (px_C _)))
theorem pt_bd_162_b1 (b : Nat) (sa : Nat → Nat) (cr : ga_Cr gH) : ps (bd_162_b1 b sa cr) := by
  unfold bd_162_b1
  exact (ps_sI (px_B (pc_or (pc_B (px_iV _)) (pc_B (px_CV (px_P (px_rV _) (px_AR (px_FR (px_rV _)) (px_iV _))))))))
theorem pt_bd_162_l2 (b : Nat) (sa : Nat → Nat) (cr : ga_Cr gH) : ps (bd_162_l2 b sa cr) := by
  unfold bd_162_l2
  exact (ps_for (pc_I (px_iV _) (px_FI (px_rV _))) ps_sInc (pt_bd_162_b1 b sa cr))
theorem pt_bd_162 (b : Nat) (sa : Nat → Nat) (cr : ga_Cr gH) : ps (bd_162 b sa cr) := by
  unfold bd_162
  exact (ps_seq (ps_sI (px_C _)) (ps_seq (ps_seq (ps_sI (px_C _)) (pt_bd_162_l2 b sa cr)) (ps_sRet (px_iV _))))
theorem pt_bd_163 (b : Nat) (sa : Nat → Nat) (cr : ga_Cr gH) : ps (bd_163 b sa cr) := by
  unfold bd_163
  exact (ps_seq (ps_PR (px_rV _) (px_rV _)) (ps_seq ps_Obj (ps_seq (ps_PR (px_rV _) (px_NA (px_C _))) (ps_seq (ps_PR (px_rV _) (px_New (px_C _))) (ps_seq (ps_PR (px_rV _) (px_New (px_C _))) (ps_seq (ps_PR (px_rV _) (px_NA (px_C _))) (ps_seq (ps_PR (px_rV _) (px_NA (px_C _))) (ps_seq (ps_PR (px_rV _) (px_NA (px_C _))) (ps_seq (ps_PR (px_rV _) (px_NA (px_C _))) ps_ret0)))))))))
theorem pt_bm_164 (m : Nat) (crm : ga_Cr MS) : ps (bm_164 m crm) := by
  unfold bm_164
  exact (ps_sRet (px_B (pc_and (pc_I (px_iV _) (px_iV _)) (pc_I (px_iV _) (px_iV _)))))
theorem pt_bm_165 (m : Nat) (crm : ga_Cr MS) : ps (bm_165 m crm) := by
  unfold bm_165
  exact (ps_seq (ps_sIf (pc_or (pc_not (pc_B (px_CS (px_P (px_P (px_iV _) (px_C _)) (px_C _))))) (pc_not (pc_B (px_CS (px_P (px_P (px_iV _) (px_C _)) (px_C _)))))) (ps_sRet (px_C _)) ps_skip) (ps_seq (ps_tAI (px_iV _) (px_iV _)) (ps_sRet (px_C _))))
theorem pt_bm_166_b1 (m : Nat) (crm : ga_Cr MS) : ps (bm_166_b1 m crm) := by
  unfold bm_166_b1
  exact (ps_seq (ps_sI (px_If (pc_I (px_iV _) (px_C _)) (px_iV _) (px_If (pc_I (px_iV _) (px_C _)) (px_iV _) (px_If (pc_I (px_iV _) (px_C _)) (px_iV _) (px_If (pc_I (px_iV _) (px_C _)) (px_iV _) (px_iV _)))))) (ps_seq (ps_tAB px_mFI (px_x1 (px_x2 (px_iV _) (px_x2 (px_C _) (px_x2 (px_C _) (px_x2p (px_iV _) (px_C _))))))) (ps_tU (px_C _))))
theorem pt_bm_166_l2 (m : Nat) (crm : ga_Cr MS) : ps (bm_166_l2 m crm) := by
  unfold bm_166_l2
  exact (ps_for (pc_I (px_iV _) (px_C _)) ps_sInc (pt_bm_166_b1 m crm))
theorem pt_bm_166 (m : Nat) (crm : ga_Cr MS) : ps (bm_166 m crm) := by
  unfold bm_166
  exact (ps_seq (ps_sIf (pc_I (px_x2 px_mFI (px_C _)) (px_C _)) (ps_sRet (px_C _)) ps_skip) (ps_seq (ps_seq (ps_sI (px_C _)) (pt_bm_166_l2 m crm)) (ps_sRet px_mFI)))
theorem pt_bm_167 (m : Nat) (crm : ga_Cr MS) : ps (bm_167 m crm) := by
  unfold bm_167
  exact (ps_sRet (px_If (pc_I px_mFI px_mFI) (px_x2 (px_mAI px_mFI) (px_C _)) (px_C _)))
theorem pt_bm_168_b1 (m : Nat) (crm : ga_Cr MS) : ps (bm_168_b1 m crm) := by
  unfold bm_168_b1
  exact (ps_tU (px_C _))
theorem pt_bm_168_l2 (m : Nat) (crm : ga_Cr MS) : ps (bm_168_l2 m crm) := by
  unfold bm_168_l2
  exact (ps_for (pc_or (pc_I (px_mC (px_C _)) (px_C _)) (pc_I (px_mC (px_C _)) (px_C _))) ps_skip (pt_bm_168_b1 m crm))
theorem pt_bm_168_b3 (m : Nat) (crm : ga_Cr MS) : ps (bm_168_b3 m crm) := by
  unfold bm_168_b3
  exact (ps_seq (ps_tL (px_If (pc_I (px_x2 px_mFI px_mFI) (px_C _)) (px_x2 (px_x2 px_mFL (px_C _)) (px_x1 (px_x2 (px_mC (px_C _)) (px_C _)))) (px_C _))) (ps_tU (px_C _)))
theorem pt_bm_168_l4 (m : Nat) (crm : ga_Cr MS) : ps (bm_168_l4 m crm) := by
  unfold bm_168_l4
  exact (ps_for (pc_B (px_CS (px_P (px_P (px_mC (px_C _)) (px_C _)) (px_C _)))) ps_skip (pt_bm_168_b3 m crm))
theorem pt_bm_168_b5 (m : Nat) (crm : ga_Cr MS) : ps (bm_168_b5 m crm) := by
  unfold bm_168_b5
  exact (ps_seq (ps_sIf (pc_I px_mFI (px_C _)) (ps_tI (px_x2 (px_x2 (px_x2 (px_C _) px_mFI) (px_mC (px_C _))) (px_C _))) ps_skip) (ps_tU (px_C _)))
theorem pt_bm_168_l6 (m : Nat) (crm : ga_Cr MS) : ps (bm_168_l6 m crm) := by
  unfold bm_168_l6
  exact (ps_for (pc_B (px_CS (px_P (px_P (px_mC (px_C _)) (px_C _)) (px_C _)))) ps_skip (pt_bm_168_b5 m crm))
theorem pt_bm_168 (m : Nat) (crm : ga_Cr MS) : ps (bm_168 m crm) := by
  unfold bm_168
  exact (ps_seq (pt_bm_168_l2 m crm) (ps_seq (ps_tI px_mFI) (ps_seq (ps_sI (px_mC (px_C _))) (ps_seq (ps_tL (px_C _)) (ps_seq (ps_tI (px_C _)) (ps_seq (ps_sIf (pc_I (px_iV _) (px_C _)) (ps_tI (px_C _)) (ps_sIf (pc_B (px_CS (px_P (px_P (px_iV _) (px_C _)) (px_C _)))) (ps_seq (ps_tI (px_C _)) (ps_seq (ps_tL (px_C _)) (pt_bm_168_l4 m crm))) (ps_sIf (pc_B (px_CS (px_P (px_P (px_iV _) (px_C _)) (px_C _)))) (ps_seq (pt_bm_168_l6 m crm) (ps_tI (px_If (pc_I (px_x2 px_mFI px_mFI) (px_C _)) (px_C _) (px_C _)))) (ps_seq (ps_tI (px_If (pc_or (pc_or (pc_or (pc_I (px_iV _) (px_C _)) (pc_I (px_iV _) (px_C _))) (pc_I (px_iV _) (px_C _))) (pc_I (px_iV _) (px_C _))) (px_iV _) (px_C _))) (ps_tU (px_C _)))))) ps_ret0))))))
theorem pt_bm_169 (m : Nat) (crm : ga_Cr MS) : ps (bm_169 m crm) := by
  unfold bm_169
  exact (ps_seq (ps_sIf (pc_B px_mFI) ps_ret0 ps_skip) (ps_seq (ps_tZ (px_C _)) (ps_seq (ps_tI px_mFI) ps_ret0)))
theorem pt_bm_170 (m : Nat) (crm : ga_Cr MS) : ps (bm_170 m crm) := by
  unfold bm_170
  exact (ps_sRet (px_B (pc_and (pc_I px_mFI (px_C _)) (pc_L px_mFL (px_lV _)))))
theorem pt_bm_171 (m : Nat) (crm : ga_Cr MS) : ps (bm_171 m crm) := by
  unfold bm_171
  exact (ps_seq (ps_sIf (pc_B px_mFI) ps_ret0 ps_skip) (ps_seq (ps_sIf (pc_B (px_mC (px_lV _))) (ps_sEx (px_mC (px_C _))) (ps_sEx (px_mC (px_C _)))) ps_ret0))
theorem pt_bm_172 (m : Nat) (crm : ga_Cr MS) : ps (bm_172 m crm) := by
  unfold bm_172
  exact (ps_seq (ps_sI px_mFI) (ps_seq (ps_sIf (pc_B px_mFI) (ps_sRet (px_C _)) ps_skip) (ps_seq (ps_sIf (pc_or (pc_or (pc_I px_mFI (px_C _)) (pc_I (px_iV _) (px_iV _))) (pc_I (px_iV _) (px_iV _))) (ps_seq (ps_sEx (px_mC (px_C _))) (ps_sRet (px_C _))) ps_skip) (ps_seq (ps_sEx (px_mC (px_C _))) (ps_sRet (px_iV _))))))
theorem pt_bm_173 (m : Nat) (crm : ga_Cr MS) : ps (bm_173 m crm) := by
  unfold bm_173
  exact (ps_seq (ps_sIf (pc_I px_mFI (px_C _)) (ps_sRet (px_C _)) ps_skip) (ps_seq (ps_sIf (pc_L px_mFL (px_C _)) (ps_sRet (px_C _)) ps_skip) (ps_seq (ps_sIf (pc_L px_mFL (px_C _)) (ps_sRet (px_C _)) ps_skip) (ps_seq (ps_sIf (pc_L px_mFL (px_C _)) (ps_sRet (px_C _)) ps_skip) (ps_seq (ps_sIf (pc_L px_mFL (px_C _)) (ps_sRet (px_C _)) ps_skip) (ps_seq (ps_sIf (pc_L px_mFL (px_C _)) (ps_sRet (px_C _)) ps_skip) (ps_seq (ps_sIf (pc_L px_mFL (px_C _)) (ps_sRet (px_C _)) ps_skip) (ps_sRet (px_C _)))))))))
theorem pt_bm_174 (m : Nat) (crm : ga_Cr MS) : ps (bm_174 m crm) := by
  unfold bm_174
  exact (ps_seq (ps_sIf (pc_I px_mFI (px_C _)) (ps_sRet (px_C _)) ps_skip) (ps_seq (ps_sIf (pc_L px_mFL (px_C _)) (ps_sRet (px_C _)) ps_skip) (ps_seq (ps_sIf (pc_L px_mFL (px_C _)) (ps_sRet (px_C _)) ps_skip) (ps_seq (ps_sIf (pc_L px_mFL (px_C _)) (ps_sRet (px_C _)) ps_skip) (ps_seq (ps_sIf (pc_L px_mFL (px_C _)) (ps_sRet (px_C _)) ps_skip) (ps_seq (ps_sIf (pc_L px_mFL (px_C _)) (ps_sRet (px_C _)) ps_skip) (ps_sRet (px_C _))))))))
theorem pt_bm_175 (m : Nat) (crm : ga_Cr MS) : ps (bm_175 m crm) := by
  unfold bm_175
  exact (ps_seq (ps_sIf (pc_I px_mFI (px_C _)) (ps_sRet (px_C _)) ps_skip) (ps_seq (ps_sIf (pc_L px_mFL (px_C _)) (ps_sRet (px_C _)) ps_skip) (ps_seq (ps_sIf (pc_L px_mFL (px_C _)) (ps_sRet (px_C _)) ps_skip) (ps_seq (ps_sIf (pc_L px_mFL (px_C _)) (ps_sRet (px_C _)) ps_skip) (ps_seq (ps_sIf (pc_L px_mFL (px_C _)) (ps_sRet (px_C _)) ps_skip) (ps_seq (ps_sIf (pc_L px_mFL (px_C _)) (ps_sRet (px_C _)) ps_skip) (ps_seq (ps_sIf (pc_L px_mFL (px_C _)) (ps_sRet (px_C _)) ps_skip) (ps_seq (ps_sIf (pc_L px_mFL (px_C _)) (ps_sRet (px_C _)) ps_skip) (ps_seq (ps_sIf (pc_L px_mFL (px_C _)) (ps_sRet (px_C _)) ps_skip) (ps_sRet (px_C _)))))))))))
theorem pt_bm_176 (m : Nat) (crm : ga_Cr MS) : ps (bm_176 m crm) := by
  unfold bm_176
  exact (ps_seq (ps_sIf (pc_B px_mFI) (ps_sRet (px_C _)) ps_skip) (ps_seq (ps_sI (px_If (pc_and (pc_and (pc_I px_mFI (px_C _)) (pc_L px_mFL (px_C _))) (pc_L px_mFL (px_C _))) (px_x2 (px_x1 px_mFL) (px_C _)) (px_C _))) (ps_seq (ps_sIf (pc_or (pc_I (px_iV _) (px_C _)) (pc_I (px_iV _) (px_iV _))) (ps_seq (ps_sEx (px_mC (px_C _))) (ps_sRet (px_C _))) ps_skip) (ps_seq (ps_sEx (px_mC (px_C _))) (ps_sRet (px_iV _))))))
theorem pt_bm_177 (m : Nat) (crm : ga_Cr MS) : ps (bm_177 m crm) := by
  unfold bm_177
  exact (ps_seq (ps_sIf (pc_B px_mFI) (ps_sRet (px_C _)) ps_skip) (ps_seq (ps_sI (px_mC (px_C _))) (ps_seq (ps_sIf (pc_I (px_iV _) (px_C _)) (ps_sEx (px_mC (px_C _))) (ps_sEx (px_mC (px_C _)))) (ps_sRet (px_iV _)))))
theorem pt_bm_178 (m : Nat) (crm : ga_Cr MS) : ps (bm_178 m crm) := by
  unfold bm_178
  exact (ps_seq (ps_tI (px_iV _)) (ps_seq (ps_tI (px_C _)) (ps_seq (ps_tI (px_C _)) (ps_seq (ps_tI (px_C _)) (ps_seq (ps_tZ (px_C _)) (ps_seq (ps_sEx (px_mC (px_C _))) ps_ret0))))))
theorem pt_bm_179 (m : Nat) (crm : ga_Cr MS) : ps (bm_179 m crm) := by
  unfold bm_179
  exact (ps_seq (ps_sI (px_x2 px_mFI px_mFI)) (ps_seq (ps_tU (px_C _)) (ps_seq (ps_tAI (px_iV _) (px_iV _)) (ps_seq (ps_tAI (px_iV _) (px_C _)) (ps_seq (ps_tAI (px_iV _) (px_If (pc_I px_mFI (px_C _)) (px_mAI (px_x2 px_mFI (px_C _))) (px_C _))) (ps_seq (ps_tAI (px_iV _) (px_If (pc_I px_mFI (px_C _)) (px_mAI (px_x2 px_mFI (px_C _))) (px_C _))) (ps_seq (ps_tAI (px_iV _) (px_x2 (px_iV _) (px_C _))) (ps_seq (ps_tAI (px_iV _) (px_C _)) (ps_sRet (px_iV _))))))))))
theorem pt_bm_180 (m : Nat) (crm : ga_Cr MS) : ps (bm_180 m crm) := by
  unfold bm_180
  exact (ps_seq (ps_sIf (pc_I px_mFI (px_C _)) (ps_seq (ps_sEx (px_mC (px_C _))) ps_ret0) ps_skip) (ps_seq (ps_sI (px_mC (px_iV _))) (ps_seq (ps_tU (px_C _)) (ps_seq (ps_sEx (px_mC (px_C _))) (ps_seq (ps_tAI (px_iV _) (px_mC (px_C _))) (ps_seq (ps_tAI (px_iV _) (px_mC (px_mAI (px_iV _)))) (ps_seq (ps_tAI (px_iV _) (px_mC (px_C _))) (ps_seq (ps_tAI (px_iV _) (px_mC (px_P (px_C _) (px_C _)))) (ps_seq (ps_tAI (px_iV _) (px_C _)) (ps_seq (ps_sIf (pc_I (px_iV _) (px_C _)) (ps_seq (ps_sEx (px_mC (px_C _))) (ps_tAI (px_iV _) (px_mC (px_P (px_C _) (px_C _))))) ps_skip) (ps_seq (ps_sEx (px_mC (px_C _))) (ps_seq (ps_tAI (px_iV _) (px_mC (px_P (px_C _) (px_C _)))) (ps_seq (ps_tAI (px_iV _) (px_mAI (px_iV _))) (ps_seq (ps_sIf (pc_and (pc_and (pc_I (px_iV _) (px_C _)) (pc_not (pc_B px_mFI))) (pc_B (px_mC (px_C _)))) (ps_seq (ps_sEx (px_mC (px_C _))) (ps_tAI (px_iV _) (px_mC (px_P (px_mAI (px_iV _)) (px_C _))))) ps_skip) (ps_seq (ps_sIf (pc_I (px_iV _) (px_C _)) (ps_seq (ps_sEx (px_mC (px_C _))) (ps_tAI (px_iV _) (px_mC (px_P (px_mAI (px_iV _)) (px_C _))))) ps_skip) ps_ret0)))))))))))))))
theorem pt_bm_181 (m : Nat) (crm : ga_Cr MS) : ps (bm_181 m crm) := by
  unfold bm_181
  exact (ps_seq (ps_sIf (pc_B px_mFI) ps_ret0 ps_skip) (ps_seq (ps_sIf (pc_or (pc_I px_mFI (px_C _)) (pc_I px_mFI (px_C _))) (ps_seq (ps_sEx (px_mC (px_C _))) ps_ret0) ps_skip) (ps_seq (ps_tAI px_mFI (px_iV _)) (ps_seq (ps_tAI px_mFI (px_iV _)) (ps_seq (ps_tU (px_C _)) (ps_seq (ps_sEx (px_mC (px_C _))) ps_ret0))))))
theorem pt_bm_182 (m : Nat) (crm : ga_Cr MS) : ps (bm_182 m crm) := by
  unfold bm_182
  exact (ps_seq (ps_sIf (pc_and (pc_I (px_iV _) (px_C _)) (pc_I px_mFI (px_C _))) (ps_seq (ps_sEx (px_mC (px_C _))) ps_ret0) ps_skip) (ps_seq (ps_sI (px_mC (px_iV _))) (ps_seq (ps_sEx (px_mC (px_C _))) (ps_seq (ps_sIf (pc_I (px_iV _) (px_C _)) (ps_tAI (px_iV _) (px_mC (px_P (px_C _) (px_C _)))) ps_skip) (ps_seq (ps_sIf (pc_I (px_iV _) (px_C _)) (ps_tAI (px_iV _) (px_mC (px_P (px_C _) (px_C _)))) ps_skip) (ps_seq (ps_sIf (pc_I (px_iV _) (px_C _)) (ps_seq (ps_tAI (px_iV _) (px_mC (px_C _))) (ps_seq (ps_sIf (pc_I (px_mAI (px_iV _)) (px_C _)) (ps_seq (ps_sEx (px_mC (px_C _))) ps_ret0) ps_skip) (ps_seq (ps_tU (px_x2 (px_C _) (px_mAI (px_iV _)))) (ps_sEx (px_mC (px_C _)))))) ps_skip) (ps_seq (ps_sIf (pc_I (px_iV _) (px_C _)) (ps_seq (ps_tAI (px_iV _) (px_mC (px_C _))) (ps_seq (ps_tAI (px_iV _) px_mFI) (ps_tU (px_C _)))) ps_skip) (ps_seq (ps_sEx (px_mC (px_P (px_iV _) (px_C _)))) ps_ret0))))))))
theorem pt_bm_183_b1 (m : Nat) (crm : ga_Cr MS) : ps (bm_183_b1 m crm) := by
  unfold bm_183_b1
  exact (ps_seq (ps_sIf (pc_I px_mFI (px_C _)) (ps_seq (ps_sEx (px_mC (px_C _))) (ps_sRet (px_C _))) ps_skip) (ps_sIf (pc_and (pc_I px_mFI (px_C _)) (pc_I px_mFI (px_C _))) (ps_seq (ps_sEx (px_mC (px_C _))) (ps_seq (ps_tU (px_C _)) (ps_seq (ps_sI (px_mAI px_mFI)) (ps_seq (ps_sI (px_B (pc_and (pc_I (px_mAI px_mFI) (px_C _)) (pc_or (pc_and (pc_I (px_mAI (px_iV _)) (px_C _)) (pc_B (px_mC (px_C _)))) (pc_and (pc_I (px_mAI (px_iV _)) (px_C _)) (pc_B (px_mC (px_C _)))))))) (ps_seq (ps_tAI (px_iV _) (px_x2 px_mFI px_mFI)) (ps_sIf (pc_B (px_iV _)) (ps_seq (ps_sEx (px_mC (px_C _))) (ps_seq (ps_tAI (px_iV _) (px_x2 px_mFI px_mFI)) (ps_seq (ps_sEx (px_mC (px_P (px_iV _) (px_C _)))) (ps_sRet (px_C _))))) ps_skip)))))) (ps_seq (ps_sIf (pc_or (pc_I px_mFI (px_C _)) (pc_I px_mFI (px_C _))) (ps_sEx (px_mC (px_C _))) ps_skip) (ps_sRet (px_C _)))))
theorem pt_bm_183_l2 (m : Nat) (crm : ga_Cr MS) : ps (bm_183_l2 m crm) := by
  unfold bm_183_l2
  exact (ps_for (pc_not (pc_B px_mFI)) ps_skip (pt_bm_183_b1 m crm))
theorem pt_bm_183 (m : Nat) (crm : ga_Cr MS) : ps (bm_183 m crm) := by
  unfold bm_183
  exact (ps_seq (pt_bm_183_l2 m crm) (ps_sRet (px_C _)))
theorem pt_bm_184_b1 (m : Nat) (crm : ga_Cr MS) : ps (bm_184_b1 m crm) := by
  unfold bm_184_b1
  exact (ps_seq (ps_sI (px_mC (px_C _))) (ps_sIf (pc_I (px_iV _) (px_C _)) (ps_sEx (px_mC (px_C _))) (ps_sIf (pc_I (px_iV _) (px_C _)) (ps_seq (ps_sEx (px_mC (px_iV _))) (ps_sI (px_mC (px_C _)))) (ps_sEx (px_mC (px_iV _))))))
theorem pt_bm_184_l2 (m : Nat) (crm : ga_Cr MS) : ps (bm_184_l2 m crm) := by
  unfold bm_184_l2
  exact (ps_for (pc_and (pc_B (px_iV _)) (pc_not (pc_B px_mFI))) ps_skip (pt_bm_184_b1 m crm))
theorem pt_bm_184 (m : Nat) (crm : ga_Cr MS) : ps (bm_184 m crm) := by
  unfold bm_184
  exact (ps_seq (ps_sIf (pc_or (pc_or (pc_I (px_iV _) (px_C _)) (pc_I (px_iV _) px_mFI)) (pc_not (pc_B (px_CS (px_P (px_P (px_iV _) (px_C _)) (px_C _)))))) (ps_sRet (px_C _)) ps_skip) (ps_seq (ps_sIf (pc_I px_mFI (px_C _)) (ps_sRet (px_C _)) ps_skip) (ps_seq (ps_sEx (px_mC (px_iV _))) (ps_seq (ps_tI (px_x2 (px_C _) px_mFI)) (ps_seq (ps_tI (px_C _)) (ps_seq (ps_tI (px_C _)) (ps_seq (ps_tI (px_C _)) (ps_seq (ps_tI (px_C _)) (ps_seq (ps_tI (px_C _)) (ps_seq (ps_sI (px_C _)) (ps_seq (pt_bm_184_l2 m crm) (ps_seq (ps_sIf (pc_B px_mFI) (ps_sRet (px_C _)) ps_skip) (ps_seq (ps_tAI px_mFI px_mFI) (ps_seq (ps_tAI px_mFI (px_iV _)) (ps_seq (ps_tAI px_mFI px_mFI) (ps_seq (ps_tAI px_mFI px_mFI) (ps_seq (ps_tAI px_mFI px_mFI) (ps_seq (ps_tU (px_C _)) (ps_sRet (px_x2 px_mFI (px_C _)))))))))))))))))))))
theorem pt_bm_185 (m : Nat) (crm : ga_Cr MS) : ps (bm_185 m crm) := by
  unfold bm_185
  exact (ps_sRet px_mFI)
theorem pt_bm_186 (m : Nat) (crm : ga_Cr MS) : ps (bm_186 m crm) := by
  unfold bm_186
  exact (ps_sRet (px_B (pc_and (pc_I (px_iV _) (px_C _)) (pc_I (px_iV _) px_mFI))))
theorem pt_bm_187 (m : Nat) (crm : ga_Cr MS) : ps (bm_187 m crm) := by
  unfold bm_187
  exact (ps_sRet (px_B (pc_I (px_mAI (px_iV _)) (px_C _))))
theorem pt_bm_188_b1 (m : Nat) (crm : ga_Cr MS) : ps (bm_188_b1 m crm) := by
  unfold bm_188_b1
  exact (ps_sI (px_x2 (px_iV _) (px_If (pc_I (px_mAI (px_iV _)) (px_C _)) (px_mAI (px_iV _)) (px_C _))))
theorem pt_bm_188_l2 (m : Nat) (crm : ga_Cr MS) : ps (bm_188_l2 m crm) := by
  unfold bm_188_l2
  exact (ps_for (pc_I (px_iV _) (px_C _)) (ps_sI (px_mAI (px_iV _))) (pt_bm_188_b1 m crm))
theorem pt_bm_188 (m : Nat) (crm : ga_Cr MS) : ps (bm_188 m crm) := by
  unfold bm_188
  exact (ps_seq (ps_sI (px_C _)) (ps_seq (ps_seq (ps_sI (px_mAI (px_iV _))) (pt_bm_188_l2 m crm)) (ps_sRet (px_iV _))))
theorem pt_bm_189_b1 (m : Nat) (crm : ga_Cr MS) : ps (bm_189_b1 m crm) := by
  unfold bm_189_b1
  exact (ps_sIf (pc_B (px_mC (px_iV _))) (ps_sI (px_x2 (px_iV _) (px_If (pc_I (px_iV _) (px_C _)) (px_x2 (px_x2 (px_C _) (px_mAI (px_mAI (px_iV _)))) (px_x2 (px_C _) (px_mAI (px_mAI (px_iV _))))) (px_x2 (px_C _) (px_mAI (px_iV _)))))) ps_skip)
theorem pt_bm_189_l2 (m : Nat) (crm : ga_Cr MS) : ps (bm_189_l2 m crm) := by
  unfold bm_189_l2
  exact (ps_for (pc_I (px_iV _) (px_x2 (px_x2 (px_C _) (px_iV _)) (px_mAI (px_iV _)))) ps_sInc (pt_bm_189_b1 m crm))
theorem pt_bm_189 (m : Nat) (crm : ga_Cr MS) : ps (bm_189 m crm) := by
  unfold bm_189
  exact (ps_seq (ps_sIf (pc_or (pc_not (pc_B (px_mC (px_iV _)))) (pc_not (pc_B (px_CS (px_P (px_P (px_iV _) (px_C _)) (px_C _)))))) (ps_sRet (px_C _)) ps_skip) (ps_seq (ps_sIf (pc_I (px_iV _) (px_C _)) (ps_sRet (px_If (pc_I (px_iV _) (px_C _)) (px_mAI (px_iV _)) (px_If (pc_I (px_iV _) (px_C _)) (px_mAI (px_iV _)) (px_If (pc_I (px_iV _) (px_C _)) (px_mAI (px_iV _)) (px_mAI (px_iV _)))))) ps_skip) (ps_seq (ps_sI (px_C _)) (ps_seq (ps_seq (ps_sI (px_x2 (px_C _) (px_iV _))) (pt_bm_189_l2 m crm)) (ps_sRet (px_iV _))))))
theorem pt_bm_190_b1 (m : Nat) (crm : ga_Cr MS) : ps (bm_190_b1 m crm) := by
  unfold bm_190_b1
  exact (ps_seq (ps_sIf (pc_not (pc_B (px_mC (px_iV _)))) ps_cont ps_skip) (ps_seq (ps_sIf (pc_I (px_iV _) (px_C _)) (ps_sRet (px_mC (px_P (px_iV _) (px_iV _)))) ps_skip) ps_sInc))
theorem pt_bm_190_l2 (m : Nat) (crm : ga_Cr MS) : ps (bm_190_l2 m crm) := by
  unfold bm_190_l2
  exact (ps_for (pc_I (px_iV _) (px_x2 (px_x2 (px_C _) (px_iV _)) (px_mAI (px_iV _)))) ps_sInc (pt_bm_190_b1 m crm))
theorem pt_bm_190 (m : Nat) (crm : ga_Cr MS) : ps (bm_190 m crm) := by
  unfold bm_190
  exact (ps_seq (ps_sIf (pc_or (pc_or (pc_not (pc_B (px_mC (px_iV _)))) (pc_not (pc_B (px_CS (px_P (px_P (px_iV _) (px_C _)) (px_C _)))))) (pc_I (px_iV _) (px_C _))) (ps_sRet (px_C _)) ps_skip) (ps_seq (ps_sI (px_iV _)) (ps_seq (ps_seq (ps_sI (px_x2 (px_C _) (px_iV _))) (pt_bm_190_l2 m crm)) (ps_sRet (px_C _)))))
theorem pt_bm_191 (m : Nat) (crm : ga_Cr MS) : ps (bm_191 m crm) := by
  unfold bm_191
  exact (ps_sw (px_iV _) (ps_cons (ps_sRet (px_mAI (px_iV _))) (ps_cons (ps_sRet (px_mAI (px_iV _))) (ps_cons (ps_sRet (px_mAI (px_iV _))) (ps_cons (ps_sRet (px_mAI (px_iV _))) (ps_cons (ps_sRet (px_mAI (px_iV _))) (ps_cons (ps_sRet (px_mAI (px_iV _))) (ps_cons (ps_sRet (px_x2 (px_mAI (px_iV _)) (px_mC (px_iV _)))) ps_nil))))))) (ps_sRet (px_x2 (px_mAI (px_iV _)) (px_mC (px_iV _)))))
theorem pt_bm_192_b1 (m : Nat) (crm : ga_Cr MS) : ps (bm_192_b1 m crm) := by
  unfold bm_192_b1
  exact (ps_seq (ps_sI (px_mAI (px_iV _))) (ps_seq (ps_sIf (pc_I (px_mAI (px_iV _)) (px_C _)) (ps_sL (px_x2 (px_lV _) (px_x1 (px_mAI (px_iV _))))) ps_skip) (ps_seq (ps_sIf (pc_and (pc_I (px_mAI (px_iV _)) (px_C _)) (pc_I (px_x2 (px_x2 (px_iV _) (px_mAI (px_iV _))) (px_C _)) (px_x2 (px_C _) (px_mAI (px_iV _))))) (ps_sL (px_C _)) ps_skip) (ps_seq (ps_sIf (pc_and (pc_I (px_mAI (px_iV _)) (px_C _)) (pc_I (px_x2 (px_x2 (px_iV _) (px_x2 (px_iV _) (px_mAI (px_iV _)))) (px_C _)) (px_mAI (px_iV _)))) (ps_sL (px_C _)) ps_skip) (ps_sI (px_iV _))))))
theorem pt_bm_192_l2 (m : Nat) (crm : ga_Cr MS) : ps (bm_192_l2 m crm) := by
  unfold bm_192_l2
  exact (ps_for (pc_and (pc_L (px_lV _) (px_C _)) (pc_I (px_mAI (px_iV _)) (px_C _))) ps_skip (pt_bm_192_b1 m crm))
theorem pt_bm_192 (m : Nat) (crm : ga_Cr MS) : ps (bm_192 m crm) := by
  unfold bm_192
  exact (ps_seq (ps_sL (px_C _)) (ps_seq (ps_sI (px_iV _)) (ps_seq (pt_bm_192_l2 m crm) (ps_sRet (px_lV _)))))
theorem pt_bm_193 (m : Nat) (crm : ga_Cr MS) : ps (bm_193 m crm) := by
  unfold bm_193
  exact (ps_sRet (px_If (pc_I (px_mAI (px_iV _)) (px_C _)) (px_C _) (px_mAI (px_iV _))))
theorem pt_bm_194_b1 (m : Nat) (crm : ga_Cr MS) : ps (bm_194_b1 m crm) := by
  unfold bm_194_b1
  exact (ps_seq (ps_sI (px_x2 (px_iV _) (px_x2 (px_C _) (px_iV _)))) (ps_seq (ps_sIf (pc_and (pc_not (pc_B (px_mAI (px_iV _)))) (pc_not (pc_B (px_mAI (px_iV _))))) (ps_seq (ps_tU (px_C _)) (ps_tI (px_iV _))) ps_skip) (ps_sI (px_If (pc_or (pc_B (px_mAI (px_iV _))) (pc_not (pc_B (px_mAI (px_iV _))))) (px_mAI (px_iV _)) (px_x2 (px_iV _) (px_C _))))))
theorem pt_bm_194_l2 (m : Nat) (crm : ga_Cr MS) : ps (bm_194_l2 m crm) := by
  unfold bm_194_l2
  exact (ps_for (pc_I (px_iV _) (px_iV _)) ps_skip (pt_bm_194_b1 m crm))
theorem pt_bm_194 (m : Nat) (crm : ga_Cr MS) : ps (bm_194 m crm) := by
  unfold bm_194
  exact (ps_seq (ps_tI (px_C _)) (ps_seq (ps_sI (px_iV _)) (ps_seq (pt_bm_194_l2 m crm) (ps_sRet px_mFI))))
theorem pt_bm_195 (m : Nat) (crm : ga_Cr MS) : ps (bm_195 m crm) := by
  unfold bm_195
  exact (ps_seq (ps_tAI (px_x2 (px_iV _) px_mFI) (px_iV _)) (ps_seq (ps_tU (px_C _)) ps_ret0))
theorem pt_bm_196_b1 (m : Nat) (crm : ga_Cr MS) : ps (bm_196_b1 m crm) := by
  unfold bm_196_b1
  exact (ps_seq (ps_sI (px_iV _)) (ps_sI (px_mAI (px_iV _))))
theorem pt_bm_196_l2 (m : Nat) (crm : ga_Cr MS) : ps (bm_196_l2 m crm) := by
  unfold bm_196_l2
  exact (ps_for (pc_and (pc_I (px_iV _) (px_iV _)) (pc_B (px_mAI (px_x2 (px_iV _) (px_x2 (px_C _) (px_iV _)))))) ps_skip (pt_bm_196_b1 m crm))
theorem pt_bm_196 (m : Nat) (crm : ga_Cr MS) : ps (bm_196 m crm) := by
  unfold bm_196
  exact (ps_seq (ps_sI (px_iV _)) (ps_seq (ps_sI (px_mAI (px_iV _))) (ps_seq (pt_bm_196_l2 m crm) (ps_sRet (px_If (pc_and (pc_I (px_iV _) (px_iV _)) (pc_I (px_mAI (px_iV _)) (px_C _))) (px_mAI (px_iV _)) (px_C _))))))
theorem pt_bm_197_b1 (m : Nat) (crm : ga_Cr MS) : ps (bm_197_b1 m crm) := by
  unfold bm_197_b1
  exact (ps_seq (ps_sEx (px_mC (px_P (px_iV _) (px_C _)))) (ps_tU (px_C _)))
theorem pt_bm_197_l2 (m : Nat) (crm : ga_Cr MS) : ps (bm_197_l2 m crm) := by
  unfold bm_197_l2
  exact (ps_for (pc_and (pc_I px_mFI (px_C _)) (pc_or (pc_I (px_iV _) (px_C _)) (pc_I (px_mAI (px_mAI (px_x2 px_mFI (px_C _)))) (px_iV _)))) ps_skip (pt_bm_197_b1 m crm))
theorem pt_bm_197 (m : Nat) (crm : ga_Cr MS) : ps (bm_197 m crm) := by
  unfold bm_197
  exact (ps_seq (pt_bm_197_l2 m crm) ps_ret0)
theorem pt_bm_198_b1 (m : Nat) (crm : ga_Cr MS) : ps (bm_198_b1 m crm) := by
  unfold bm_198_b1
  exact (ps_seq (ps_sEx (px_mC (px_P (px_iV _) (px_iV _)))) (ps_seq (ps_sI (px_x2 (px_iV _) (px_x2 (px_C _) (px_iV _)))) (ps_seq (ps_sIf (pc_and (pc_not (pc_B (px_mAI (px_iV _)))) (pc_not (pc_B (px_mAI (px_iV _))))) (ps_seq (ps_sIf (pc_I (px_mAI (px_iV _)) (px_C _)) (ps_sRet (px_C _)) ps_skip) (ps_seq (ps_sEx (px_mC (px_P (px_iV _) (px_mC (px_P (px_P (px_iV _) (px_iV _)) (px_iV _)))))) (ps_seq (ps_sEx (px_mC (px_P (px_iV _) (px_mAI (px_iV _))))) (ps_seq (ps_sEx (px_mC (px_P (px_iV _) (px_If (pc_I (px_mAI (px_iV _)) (px_C _)) (px_mAI (px_iV _)) (px_mAI (px_iV _)))))) (ps_sIf (pc_B (px_mC (px_iV _))) (ps_seq (ps_sEx (px_mC (px_P (px_iV _) (px_mAI (px_iV _))))) (ps_seq (ps_sEx (px_mC (px_P (px_iV _) (px_mAI (px_iV _))))) (ps_seq (ps_sEx (px_mC (px_P (px_iV _) (px_mAI (px_iV _))))) (ps_seq (ps_sEx (px_mC (px_P (px_iV _) (px_mAI (px_iV _))))) (ps_seq (ps_sEx (px_mC (px_P (px_iV _) (px_mAI (px_iV _))))) (ps_seq (ps_sEx (px_mC (px_P (px_iV _) (px_mAI (px_iV _))))) (ps_sEx (px_mC (px_P (px_iV _) (px_mAI (px_iV _))))))))))) (ps_seq (ps_tAI px_mFI (px_iV _)) (ps_tU (px_C _)))))))) ps_skip) (ps_sI (px_If (pc_B (px_mAI (px_iV _))) (px_mAI (px_iV _)) (px_x2 (px_iV _) (px_C _)))))))
theorem pt_bm_198_l2 (m : Nat) (crm : ga_Cr MS) : ps (bm_198_l2 m crm) := by
  unfold bm_198_l2
  exact (ps_for (pc_I (px_iV _) (px_iV _)) ps_skip (pt_bm_198_b1 m crm))
theorem pt_bm_198 (m : Nat) (crm : ga_Cr MS) : ps (bm_198 m crm) := by
  unfold bm_198
  exact (ps_seq (ps_tI (px_C _)) (ps_seq (ps_tI (px_C _)) (ps_seq (ps_sI (px_iV _)) (ps_seq (pt_bm_198_l2 m crm) (ps_seq (ps_sEx (px_mC (px_P (px_iV _) (px_C _)))) (ps_sRet px_mFI))))))
theorem pt_bm_199_b1 (m : Nat) (crm : ga_Cr MS) : ps (bm_199_b1 m crm) := by
  unfold bm_199_b1
  exact (ps_sIf (pc_I (px_mAI (px_iV _)) (px_mAI (px_x2 (px_C _) (px_iV _)))) (ps_sRet (px_C _)) ps_skip)
theorem pt_bm_199_l2 (m : Nat) (crm : ga_Cr MS) : ps (bm_199_l2 m crm) := by
  unfold bm_199_l2
  exact (ps_for (pc_I (px_iV _) (px_iV _)) ps_sInc (pt_bm_199_b1 m crm))
theorem pt_bm_199 (m : Nat) (crm : ga_Cr MS) : ps (bm_199 m crm) := by
  unfold bm_199
  exact (ps_seq (ps_sIf (pc_I (px_mAI (px_iV _)) (px_C _)) (ps_sRet (px_C _)) ps_skip) (ps_seq (ps_sI (px_mC (px_P (px_P (px_P (px_iV _) (px_x2 (px_iV _) (px_C _))) (px_mAI (px_iV _))) (px_C _)))) (ps_seq (ps_sI (px_If (pc_I (px_iV _) (px_C _)) (px_C _) (px_mC (px_P (px_P (px_P (px_iV _) (px_mAI (px_iV _))) (px_mAI (px_iV _))) (px_C _))))) (ps_seq (ps_sIf (pc_or (pc_I (px_iV _) (px_iV _)) (pc_I (px_iV _) (px_C _))) (ps_sRet (px_C _)) ps_skip) (ps_seq (ps_seq (ps_sI (px_C _)) (pt_bm_199_l2 m crm)) (ps_sRet (px_C _)))))))
theorem pt_bm_200_b1 (m : Nat) (crm : ga_Cr MS) : ps (bm_200_b1 m crm) := by
  unfold bm_200_b1
  exact (ps_tAZ (px_x2 (px_iV _) (px_x2 (px_C _) (px_iV _))) (px_C _))
theorem pt_bm_200_l2 (m : Nat) (crm : ga_Cr MS) : ps (bm_200_l2 m crm) := by
  unfold bm_200_l2
  exact (ps_for (pc_I (px_iV _) (px_mAI (px_iV _))) ps_sInc (pt_bm_200_b1 m crm))
theorem pt_bm_200 (m : Nat) (crm : ga_Cr MS) : ps (bm_200 m crm) := by
  unfold bm_200
  exact (ps_seq (ps_sI (px_x2 (px_iV _) (px_x2 (px_C _) (px_iV _)))) (ps_seq (ps_tAI (px_iV _) (px_mAI (px_iV _))) (ps_seq (ps_sI (px_mC (px_P (px_P (px_iV _) (px_x2 (px_iV _) (px_C _))) (px_mAI (px_iV _))))) (ps_seq (ps_sI px_mFI) (ps_seq (ps_sIf (pc_or (pc_I (px_iV _) (px_C _)) (pc_and (pc_I (px_mAI (px_iV _)) (px_C _)) (pc_I (px_mAI (px_iV _)) (px_C _)))) (ps_seq (ps_tAZ (px_iV _) (px_C _)) (ps_tU (px_C _))) (ps_sIf (pc_or (pc_and (pc_I (px_mAI (px_iV _)) (px_C _)) (pc_I (px_mAI (px_iV _)) (px_C _))) (pc_and (pc_I (px_mAI (px_iV _)) (px_C _)) (pc_I (px_mAI (px_iV _)) (px_C _)))) (ps_seq (ps_tAZ (px_iV _) (px_C _)) (ps_tU (px_C _))) (ps_sIf (pc_and (pc_and (pc_I (px_mAI (px_iV _)) (px_C _)) (pc_I (px_iV _) (px_C _))) (pc_I (px_mAI (px_iV _)) (px_C _))) (ps_seq (ps_tV (px_iV _) (px_mAI (px_x2 (px_iV _) (px_x2 (px_C _) (px_iV _))))) (ps_seq (ps_tAZ (px_x2 (px_iV _) (px_x2 (px_C _) (px_iV _))) (px_C _)) (ps_tU (px_C _)))) (ps_sIf (pc_and (pc_I (px_mAI (px_iV _)) (px_C _)) (pc_B (px_mC (px_P (px_iV _) (px_iV _))))) (ps_seq (ps_tAZ (px_iV _) (px_C _)) (ps_seq (ps_seq (ps_sI (px_mAI (px_iV _))) (pt_bm_200_l2 m crm)) (ps_tU (px_C _)))) ps_skip)))) ps_ret0)))))
theorem pt_bm_201_b1 (m : Nat) (crm : ga_Cr MS) : ps (bm_201_b1 m crm) := by
  unfold bm_201_b1
  exact (ps_seq (ps_tAZ (px_iV _) (px_C _)) (ps_tAZ (px_iV _) (px_C _)))
theorem pt_bm_201_l2 (m : Nat) (crm : ga_Cr MS) : ps (bm_201_l2 m crm) := by
  unfold bm_201_l2
  exact (ps_for (pc_I (px_iV _) (px_C _)) ps_sInc (pt_bm_201_b1 m crm))
theorem pt_bm_201_b3 (m : Nat) (crm : ga_Cr MS) : ps (bm_201_b3 m crm) := by
  unfold bm_201_b3
  exact (ps_sIf (pc_not (pc_B (px_mC (px_iV _)))) (ps_sEx (px_mC (px_P (px_iV _) (px_iV _)))) ps_skip)
theorem pt_bm_201_l4 (m : Nat) (crm : ga_Cr MS) : ps (bm_201_l4 m crm) := by
  unfold bm_201_l4
  exact (ps_for (pc_I (px_iV _) (px_x2 (px_C _) (px_iV _))) ps_sInc (pt_bm_201_b3 m crm))
theorem pt_bm_201_b5 (m : Nat) (crm : ga_Cr MS) : ps (bm_201_b5 m crm) := by
  unfold bm_201_b5
  exact (ps_seq (ps_sI (px_mAI (px_x2 (px_iV _) (px_x2 (px_C _) (px_iV _))))) (ps_seq (ps_sI (px_x2 (px_iV _) (px_If (pc_and (pc_not (pc_B (px_iV _))) (pc_B (px_mC (px_iV _)))) (px_C _) (px_C _)))) (ps_sI (px_If (pc_B (px_iV _)) (px_mAI (px_iV _)) (px_x2 (px_iV _) (px_C _))))))
theorem pt_bm_201_l6 (m : Nat) (crm : ga_Cr MS) : ps (bm_201_l6 m crm) := by
  unfold bm_201_l6
  exact (ps_for (pc_I (px_iV _) (px_x2 (px_x2 (px_C _) (px_iV _)) (px_mAI (px_iV _)))) ps_skip (pt_bm_201_b5 m crm))
theorem pt_bm_201 (m : Nat) (crm : ga_Cr MS) : ps (bm_201 m crm) := by
  unfold bm_201
  exact (ps_seq (ps_sIf (pc_or (pc_not (pc_B (px_mC (px_iV _)))) (pc_not (pc_B (px_CS (px_P (px_P (px_iV _) (px_C _)) (px_C _)))))) (ps_sRet (px_C _)) ps_skip) (ps_seq (ps_tI (px_C _)) (ps_seq (ps_seq (ps_sI (px_C _)) (pt_bm_201_l2 m crm)) (ps_seq (ps_seq (ps_sI (px_x2 (px_x2 (px_x2 (px_C _) (px_iV _)) (px_mAI (px_iV _))) (px_C _))) (pt_bm_201_l4 m crm)) (ps_seq (ps_sI (px_C _)) (ps_seq (ps_sI (px_x2 (px_C _) (px_iV _))) (ps_seq (pt_bm_201_l6 m crm) (ps_sRet (px_If (pc_I (px_iV _) (px_C _)) px_mFI (px_iV _))))))))))
theorem pt_bm_202 (m : Nat) (crm : ga_Cr MS) : ps (bm_202 m crm) := by
  unfold bm_202
  exact (ps_seq (ps_sIf (pc_L (px_lV _) (px_C _)) ps_ret0 ps_skip) (ps_seq (ps_tAI px_mFI (px_iV _)) (ps_seq (ps_tAI px_mFI (px_iV _)) (ps_seq (ps_tAI px_mFI (px_iV _)) (ps_seq (ps_tAI px_mFI (px_iV _)) (ps_seq (ps_tAL px_mFI (px_lV _)) (ps_seq (ps_tU (px_C _)) ps_ret0)))))))
theorem pt_bm_203_b1 (m : Nat) (crm : ga_Cr MS) : ps (bm_203_b1 m crm) := by
  unfold bm_203_b1
  exact (ps_seq (ps_sIf (pc_not (pc_B (px_mC (px_iV _)))) ps_cont ps_skip) (ps_seq (ps_sL (px_mC (px_P (px_P (px_iV _) (px_iV _)) (px_iV _)))) (ps_seq (ps_sIf (pc_L (px_lV _) (px_C _)) ps_cont ps_skip) (ps_seq (ps_sI (px_mC (px_iV _))) (ps_seq (ps_sEx (px_mC (px_P (px_P (px_P (px_P (px_x2 (px_mAI (px_iV _)) (px_iV _)) (px_mAI (px_iV _))) (px_mAI (px_iV _))) (px_mAI (px_iV _))) (px_x2 (px_lV _) (px_x1 (px_mAI (px_iV _))))))) (ps_seq (ps_sIf (pc_I (px_mAI (px_iV _)) (px_C _)) (ps_sEx (px_mC (px_P (px_P (px_P (px_P (px_x2 (px_mAI (px_iV _)) (px_iV _)) (px_mAI (px_iV _))) (px_mAI (px_iV _))) (px_mAI (px_iV _))) (px_x2 (px_lV _) (px_x1 (px_mAI (px_iV _))))))) ps_skip) (ps_sIf (pc_I (px_mAI (px_iV _)) (px_C _)) (ps_sEx (px_mC (px_P (px_P (px_P (px_P (px_x2 (px_mAI (px_iV _)) (px_iV _)) (px_mAI (px_iV _))) (px_mAI (px_iV _))) (px_C _)) (px_x2 (px_lV _) (px_x1 (px_mAI (px_iV _))))))) ps_skip)))))))
theorem pt_bm_203_l2 (m : Nat) (crm : ga_Cr MS) : ps (bm_203_l2 m crm) := by
  unfold bm_203_l2
  exact (ps_for (pc_I (px_iV _) (px_x2 (px_x2 (px_C _) (px_iV _)) (px_mAI (px_iV _)))) ps_sInc (pt_bm_203_b1 m crm))
theorem pt_bm_203 (m : Nat) (crm : ga_Cr MS) : ps (bm_203 m crm) := by
  unfold bm_203
  exact (ps_seq (ps_seq (ps_sI (px_x2 (px_C _) (px_iV _))) (pt_bm_203_l2 m crm)) ps_ret0)
theorem pt_bm_204_b1 (m : Nat) (crm : ga_Cr MS) : ps (bm_204_b1 m crm) := by
  unfold bm_204_b1
  exact (ps_sIf (pc_and (pc_and (pc_and (pc_I (px_mAI (px_iV _)) (px_mAI (px_iV _))) (pc_I (px_mAI (px_iV _)) (px_mAI (px_iV _)))) (pc_I (px_mAI (px_iV _)) (px_mAI (px_iV _)))) (pc_I (px_mAI (px_iV _)) (px_mAI (px_iV _)))) (ps_sL (px_x2 (px_lV _) (px_mAL (px_iV _)))) ps_skip)
theorem pt_bm_204_l2 (m : Nat) (crm : ga_Cr MS) : ps (bm_204_l2 m crm) := by
  unfold bm_204_l2
  exact (ps_for (pc_I (px_iV _) (px_iV _)) ps_sInc (pt_bm_204_b1 m crm))
theorem pt_bm_204 (m : Nat) (crm : ga_Cr MS) : ps (bm_204 m crm) := by
  unfold bm_204
  exact (ps_seq (ps_sL (px_C _)) (ps_seq (ps_seq (ps_sI (px_iV _)) (pt_bm_204_l2 m crm)) (ps_sRet (px_lV _))))
theorem pt_bm_205_b1 (m : Nat) (crm : ga_Cr MS) : ps (bm_205_b1 m crm) := by
  unfold bm_205_b1
  exact (ps_sIf (pc_L (px_mC (px_P (px_P (px_C _) (px_iV _)) (px_iV _))) (px_mC (px_P (px_P (px_iV _) px_mFI) (px_iV _)))) (ps_sRet (px_iV _)) ps_skip)
theorem pt_bm_205_l2 (m : Nat) (crm : ga_Cr MS) : ps (bm_205_l2 m crm) := by
  unfold bm_205_l2
  exact (ps_for (pc_I (px_iV _) px_mFI) ps_sInc (pt_bm_205_b1 m crm))
theorem pt_bm_205_b3 (m : Nat) (crm : ga_Cr MS) : ps (bm_205_b3 m crm) := by
  unfold bm_205_b3
  exact (ps_seq (ps_tI (px_C _)) (ps_seq (ps_sEx (px_mC (px_P (px_P (px_iV _) (px_iV _)) (px_C _)))) (ps_seq (ps_sI px_mFI) (ps_seq (ps_sEx (px_mC (px_P (px_P (px_iV _) (px_iV _)) (px_C _)))) (ps_seq (ps_sI (px_C _)) (pt_bm_205_l2 m crm))))))
theorem pt_bm_205_l4 (m : Nat) (crm : ga_Cr MS) : ps (bm_205_l4 m crm) := by
  unfold bm_205_l4
  exact (ps_for (pc_I (px_iV _) (px_x2 (px_C _) (px_iV _))) ps_sInc (pt_bm_205_b3 m crm))
theorem pt_bm_205 (m : Nat) (crm : ga_Cr MS) : ps (bm_205 m crm) := by
  unfold bm_205
  exact (ps_seq (ps_sIf (pc_or (pc_not (pc_B (px_mC (px_iV _)))) (pc_not (pc_B (px_mC (px_iV _))))) (ps_sRet (px_C _)) ps_skip) (ps_seq (ps_sI (px_If (pc_I (px_mAI (px_iV _)) (px_mAI (px_iV _))) (px_mAI (px_iV _)) (px_mAI (px_iV _)))) (ps_seq (ps_seq (ps_sI (px_C _)) (pt_bm_205_l4 m crm)) (ps_sRet (px_C _)))))
theorem pt_bm_206_b1 (m : Nat) (crm : ga_Cr MS) : ps (bm_206_b1 m crm) := by
  unfold bm_206_b1
  exact (ps_sIf (pc_I (px_mAI (px_iV _)) (px_iV _)) (ps_sRet (px_C _)) ps_skip)
theorem pt_bm_206_l2 (m : Nat) (crm : ga_Cr MS) : ps (bm_206_l2 m crm) := by
  unfold bm_206_l2
  exact (ps_for (pc_I (px_iV _) px_mFI) ps_sInc (pt_bm_206_b1 m crm))
theorem pt_bm_206 (m : Nat) (crm : ga_Cr MS) : ps (bm_206 m crm) := by
  unfold bm_206
  exact (ps_seq (ps_sIf (pc_or (pc_not (pc_B (px_mC (px_iV _)))) (pc_I px_mFI (px_C _))) (ps_sRet (px_C _)) ps_skip) (ps_seq (ps_seq (ps_sI (px_C _)) (pt_bm_206_l2 m crm)) (ps_seq (ps_tAI px_mFI (px_iV _)) (ps_seq (ps_tU (px_C _)) (ps_sRet px_mFI)))))
theorem pt_bm_207 (m : Nat) (crm : ga_Cr MS) : ps (bm_207 m crm) := by
  unfold bm_207
  exact (ps_seq (ps_sI px_mFI) (ps_seq (ps_tI (px_C _)) (ps_sRet (px_iV _))))
theorem pt_bm_208_b1 (m : Nat) (crm : ga_Cr MS) : ps (bm_208_b1 m crm) := by
  unfold bm_208_b1
  exact (ps_tAI (px_iV _) (px_mAI (px_iV _)))
theorem pt_bm_208_l2 (m : Nat) (crm : ga_Cr MS) : ps (bm_208_l2 m crm) := by
  unfold bm_208_l2
  exact (ps_for (pc_I (px_iV _) px_mFI) ps_sInc (pt_bm_208_b1 m crm))
theorem pt_bm_208 (m : Nat) (crm : ga_Cr MS) : ps (bm_208 m crm) := by
  unfold bm_208
  exact (ps_seq (ps_tI px_mFI) (ps_seq (ps_seq (ps_sI (px_C _)) (pt_bm_208_l2 m crm)) ps_ret0))
theorem pt_bm_209_b1 (m : Nat) (crm : ga_Cr MS) : ps (bm_209_b1 m crm) := by
  unfold bm_209_b1
  exact (ps_sI (px_x2 (px_iV _) (px_mAI (px_mAI (px_iV _)))))
theorem pt_bm_209_l2 (m : Nat) (crm : ga_Cr MS) : ps (bm_209_l2 m crm) := by
  unfold bm_209_l2
  exact (ps_for (pc_I (px_iV _) px_mFI) ps_sInc (pt_bm_209_b1 m crm))
theorem pt_bm_209 (m : Nat) (crm : ga_Cr MS) : ps (bm_209 m crm) := by
  unfold bm_209
  exact (ps_seq (ps_sI (px_C _)) (ps_seq (ps_seq (ps_sI (px_C _)) (pt_bm_209_l2 m crm)) (ps_sRet (px_iV _))))
theorem pt_bm_210_b1 (m : Nat) (crm : ga_Cr MS) : ps (bm_210_b1 m crm) := by
  unfold bm_210_b1
  exact (ps_sI (px_x2 (px_iV _) (px_mAI (px_mAI (px_iV _)))))
theorem pt_bm_210_l2 (m : Nat) (crm : ga_Cr MS) : ps (bm_210_l2 m crm) := by
  unfold bm_210_l2
  exact (ps_for (pc_I (px_iV _) px_mFI) ps_sInc (pt_bm_210_b1 m crm))
theorem pt_bm_210 (m : Nat) (crm : ga_Cr MS) : ps (bm_210 m crm) := by
  unfold bm_210
  exact (ps_seq (ps_sI (px_C _)) (ps_seq (ps_seq (ps_sI (px_C _)) (pt_bm_210_l2 m crm)) (ps_sRet (px_iV _))))
theorem pt_bm_211_b1 (m : Nat) (crm : ga_Cr MS) : ps (bm_211_b1 m crm) := by
  unfold bm_211_b1
  exact (ps_sI (px_x2 (px_iV _) (px_x2 (px_x2 (px_iV _) (px_iV _)) (px_C _))))
theorem pt_bm_211_l2 (m : Nat) (crm : ga_Cr MS) : ps (bm_211_l2 m crm) := by
  unfold bm_211_l2
  exact (ps_for (pc_I (px_iV _) (px_C _)) ps_sInc (pt_bm_211_b1 m crm))
theorem pt_bm_211 (m : Nat) (crm : ga_Cr MS) : ps (bm_211 m crm) := by
  unfold bm_211
  exact (ps_seq (ps_sI (px_C _)) (ps_seq (ps_seq (ps_sI (px_C _)) (pt_bm_211_l2 m crm)) (ps_sRet (px_iV _))))
theorem pt_bm_212 (m : Nat) (crm : ga_Cr MS) : ps (bm_212 m crm) := by
  unfold bm_212
  exact (ps_sRet (px_B (pc_I (px_x2 (px_CS (px_mC (px_C _))) (px_mC (px_C _))) (px_C _))))
theorem pt_bm_213 (m : Nat) (crm : ga_Cr MS) : ps (bm_213 m crm) := by
  unfold bm_213
  exact (ps_sRet (px_x2 (px_C _) (px_mC (px_C _))))
theorem pt_bm_214_b1 (m : Nat) (crm : ga_Cr MS) : ps (bm_214_b1 m crm) := by
  unfold bm_214_b1
  exact ps_sInc
theorem pt_bm_214_l2 (m : Nat) (crm : ga_Cr MS) : ps (bm_214_l2 m crm) := by
  unfold bm_214_l2
  exact (ps_for (pc_and (pc_I (px_iV _) (px_mC (px_C _))) (pc_I (px_x2 (px_iV _) (px_iV _)) (px_C _))) ps_skip (pt_bm_214_b1 m crm))
theorem pt_bm_214 (m : Nat) (crm : ga_Cr MS) : ps (bm_214 m crm) := by
  unfold bm_214
  exact (ps_seq (ps_sI (px_x2 (px_C _) (px_mC (px_C _)))) (ps_seq (ps_sI (px_iV _)) (ps_seq (pt_bm_214_l2 m crm) (ps_sRet (px_If (pc_I (px_iV _) (px_mC (px_C _))) (px_iV _) (px_C _))))))
theorem pt_bm_215_b1 (m : Nat) (crm : ga_Cr MS) : ps (bm_215_b1 m crm) := by
  unfold bm_215_b1
  exact (ps_seq (ps_sEx (px_mC (px_P (px_P (px_mAI (px_iV _)) (px_iV _)) (px_iV _)))) (ps_sI (px_x2 (px_iV _) (px_mAI (px_mAI (px_iV _))))))
theorem pt_bm_215_l2 (m : Nat) (crm : ga_Cr MS) : ps (bm_215_l2 m crm) := by
  unfold bm_215_l2
  exact (ps_for (pc_I (px_iV _) px_mFI) ps_sInc (pt_bm_215_b1 m crm))
theorem pt_bm_215 (m : Nat) (crm : ga_Cr MS) : ps (bm_215 m crm) := by
  unfold bm_215
  exact (ps_seq (ps_tI (px_C _)) (ps_seq (ps_sI (px_C _)) (ps_seq (ps_seq (ps_sI (px_C _)) (pt_bm_215_l2 m crm)) ps_ret0)))
theorem pt_bm_216_b1 (m : Nat) (crm : ga_Cr MS) : ps (bm_216_b1 m crm) := by
  unfold bm_216_b1
  exact (ps_seq (ps_sIf (pc_or (pc_I (px_mAI (px_iV _)) (px_iV _)) (pc_and (pc_I (px_iV _) (px_C _)) (pc_I (px_mAI (px_iV _)) (px_iV _)))) ps_cont ps_skip) (ps_seq (ps_sIf (pc_I (px_mAI (px_mAI (px_iV _))) (px_iV _)) (ps_sL (px_x2 (px_lV _) (px_mAL (px_iV _)))) ps_skip) (ps_sIf (pc_I (px_mAI (px_mAI (px_iV _))) (px_iV _)) (ps_sL (px_x2 (px_lV _) (px_mAL (px_iV _)))) ps_skip)))
theorem pt_bm_216_l2 (m : Nat) (crm : ga_Cr MS) : ps (bm_216_l2 m crm) := by
  unfold bm_216_l2
  exact (ps_for (pc_I (px_iV _) px_mFI) ps_sInc (pt_bm_216_b1 m crm))
theorem pt_bm_216 (m : Nat) (crm : ga_Cr MS) : ps (bm_216 m crm) := by
  unfold bm_216
  exact (ps_seq (ps_sL (px_C _)) (ps_seq (ps_seq (ps_sI (px_C _)) (pt_bm_216_l2 m crm)) (ps_sRet (px_lV _))))
theorem pt_bm_217_b1 (m : Nat) (crm : ga_Cr MS) : ps (bm_217_b1 m crm) := by
  unfold bm_217_b1
  exact (ps_seq (ps_sL (px_If (pc_B (px_mC (px_iV _))) (px_mC (px_P (px_P (px_iV _) (px_iV _)) (px_iV _))) (px_C _))) (ps_seq (ps_sIf (pc_and (pc_L (px_lV _) (px_C _)) (pc_I (px_iV _) (px_mC (px_iV _)))) (ps_seq (ps_tI (px_iV _)) (ps_seq (ps_tI (px_iV _)) (ps_seq (ps_tL (px_lV _)) ps_ret0))) ps_skip) (ps_seq (ps_sI (px_x2 (px_iV _) (px_If (pc_L (px_lV _) (px_C _)) (px_mC (px_iV _)) (px_C _)))) ps_sInc)))
theorem pt_bm_217_l2 (m : Nat) (crm : ga_Cr MS) : ps (bm_217_l2 m crm) := by
  unfold bm_217_l2
  exact (ps_for pc_T ps_skip (pt_bm_217_b1 m crm))
theorem pt_bm_217 (m : Nat) (crm : ga_Cr MS) : ps (bm_217 m crm) := by
  unfold bm_217
  exact (ps_seq (ps_sI (px_iV _)) (ps_seq (ps_sI (px_x2 (px_C _) (px_iV _))) (pt_bm_217_l2 m crm)))
theorem pt_bm_218 (m : Nat) (crm : ga_Cr MS) : ps (bm_218 m crm) := by
  unfold bm_218
  exact (ps_seq (ps_sI px_mFI) (ps_seq (ps_sI (px_B (pc_I px_mFI (px_C _)))) (ps_seq (ps_sI (px_B (pc_or (pc_and (pc_I (px_mAI (px_iV _)) (px_C _)) (pc_I px_mFI (px_C _))) (pc_I px_mFI (px_C _))))) (ps_sw (px_iV _) (ps_cons (ps_sRet (px_x1 (px_x2 (px_mC (px_iV _)) (px_If (pc_B (px_iV _)) (px_mAI (px_iV _)) (px_mAI (px_iV _)))))) (ps_cons (ps_sRet (px_If (pc_B (px_iV _)) (px_x1 (px_mAI (px_iV _))) (px_x1 (px_mAI (px_iV _))))) (ps_cons (ps_sRet (px_If (pc_B (px_iV _)) (px_x1 (px_mAI (px_iV _))) (px_x1 (px_mAI (px_iV _))))) (ps_cons (ps_sRet (px_If (pc_B (px_iV _)) (px_C _) (px_x1 (px_mAI (px_iV _))))) ps_nil)))) (ps_sRet (px_x2 px_mFL (px_x1 (px_If (pc_B (px_iV _)) (px_mAI (px_iV _)) (px_mAI (px_iV _))))))))))
theorem pt_bm_219_b1 (m : Nat) (crm : ga_Cr MS) : ps (bm_219_b1 m crm) := by
  unfold bm_219_b1
  exact (ps_sIf (pc_and (pc_B (px_mC (px_iV _))) (pc_L (px_mC (px_P (px_P (px_iV _) (px_iV _)) (px_iV _))) (px_C _))) (ps_sI (px_x2 (px_iV _) (px_mC (px_iV _)))) ps_skip)
theorem pt_bm_219_l2 (m : Nat) (crm : ga_Cr MS) : ps (bm_219_l2 m crm) := by
  unfold bm_219_l2
  exact (ps_for (pc_I (px_iV _) (px_x2 (px_x2 (px_C _) (px_iV _)) (px_mAI (px_iV _)))) ps_sInc (pt_bm_219_b1 m crm))
theorem pt_bm_219 (m : Nat) (crm : ga_Cr MS) : ps (bm_219 m crm) := by
  unfold bm_219
  exact (ps_seq (ps_sI (px_C _)) (ps_seq (ps_seq (ps_sI (px_x2 (px_C _) (px_iV _))) (pt_bm_219_l2 m crm)) (ps_sRet (px_iV _))))
theorem pt_bm_220_b1 (m : Nat) (crm : ga_Cr MS) : ps (bm_220_b1 m crm) := by
  unfold bm_220_b1
  exact (ps_seq (ps_sI (px_mC (px_P (px_P (px_mAI (px_iV _)) (px_iV _)) (px_iV _)))) (ps_seq (ps_sIf (pc_and (pc_I (px_iV _) (px_C _)) (pc_I (px_iV _) (px_x2 (px_iV _) (px_iV _)))) (ps_seq (ps_sEx (px_mC (px_P (px_P (px_P (px_mAI (px_iV _)) (px_x2 (px_iV _) (px_iV _))) (px_iV _)) (px_iV _)))) (ps_sRet (px_mC (px_iV _)))) ps_skip) (ps_seq (ps_sI (px_x2 (px_iV _) (px_iV _))) (ps_sI (px_x2 (px_iV _) (px_mAI (px_mAI (px_iV _))))))))
theorem pt_bm_220_l2 (m : Nat) (crm : ga_Cr MS) : ps (bm_220_l2 m crm) := by
  unfold bm_220_l2
  exact (ps_for (pc_I (px_iV _) px_mFI) ps_sInc (pt_bm_220_b1 m crm))
theorem pt_bm_220 (m : Nat) (crm : ga_Cr MS) : ps (bm_220 m crm) := by
  unfold bm_220
  exact (ps_seq (ps_sEx (px_mC (px_C _))) (ps_seq (ps_sIf (pc_or (pc_or (pc_or (pc_I (px_iV _) (px_C _)) (pc_I (px_iV _) (px_mC (px_C _)))) (pc_I (px_iV _) (px_C _))) (pc_not (pc_B (px_CS (px_P (px_P (px_iV _) (px_C _)) (px_If (pc_I (px_iV _) (px_C _)) (px_C _) (px_C _))))))) (ps_sRet (px_C _)) ps_skip) (ps_seq (ps_sI (px_C _)) (ps_seq (ps_sI (px_C _)) (ps_seq (ps_seq (ps_sI (px_C _)) (pt_bm_220_l2 m crm)) (ps_sRet (px_If (pc_I (px_iV _) (px_C _)) (px_x1 (px_iV _)) (px_C _))))))))
theorem pt_bm_221 (m : Nat) (crm : ga_Cr MS) : ps (bm_221 m crm) := by
  unfold bm_221
  exact (ps_seq (ps_sEx (px_mC (px_C _))) (ps_seq (ps_sIf (pc_or (pc_or (pc_or (pc_or (pc_I (px_iV _) (px_C _)) (pc_I (px_iV _) (px_mC (px_C _)))) (pc_not (pc_B (px_CS (px_P (px_P (px_iV _) (px_C _)) (px_C _)))))) (pc_not (pc_B (px_CS (px_P (px_P (px_iV _) (px_C _)) (px_C _)))))) (pc_not (pc_B (px_CS (px_P (px_P (px_iV _) (px_C _)) (px_C _)))))) (ps_sRet (px_C _)) ps_skip) (ps_seq (ps_sEx (px_mC (px_iV _))) (ps_sRet (px_mC (px_P (px_P (px_iV _) (px_iV _)) (px_iV _)))))))
theorem pt_bm_222 (m : Nat) (crm : ga_Cr MS) : ps (bm_222 m crm) := by
  unfold bm_222
  exact (ps_seq (ps_sEx (px_mC (px_C _))) (ps_sRet (px_If (pc_B (px_mC (px_C _))) (px_x2 (px_C _) (px_x2 (px_CS (px_mC (px_C _))) (px_mC (px_C _)))) (px_C _))))
theorem pt_bm_223_b1 (m : Nat) (crm : ga_Cr MS) : ps (bm_223_b1 m crm) := by
  unfold bm_223_b1
  exact ps_sInc
theorem pt_bm_223_l2 (m : Nat) (crm : ga_Cr MS) : ps (bm_223_l2 m crm) := by
  unfold bm_223_l2
  exact (ps_for (pc_and (pc_I (px_iV _) px_mFI) (pc_I (px_mAI (px_iV _)) (px_mAI (px_iV _)))) ps_skip (pt_bm_223_b1 m crm))
theorem pt_bm_223_b3 (m : Nat) (crm : ga_Cr MS) : ps (bm_223_b3 m crm) := by
  unfold bm_223_b3
  exact (ps_tAI (px_iV _) (px_mAI (px_x2 (px_iV _) (px_C _))))
theorem pt_bm_223_l4 (m : Nat) (crm : ga_Cr MS) : ps (bm_223_l4 m crm) := by
  unfold bm_223_l4
  exact (ps_for (pc_I (px_iV _) (px_iV _)) ps_sInc (pt_bm_223_b3 m crm))
theorem pt_bm_223_b5 (m : Nat) (crm : ga_Cr MS) : ps (bm_223_b5 m crm) := by
  unfold bm_223_b5
  exact (ps_seq (ps_sIf (pc_I (px_mAI (px_iV _)) (px_C _)) ps_cont ps_skip) (ps_seq (ps_sI (px_C _)) (ps_seq (pt_bm_223_l2 m crm) (ps_seq (ps_sIf (pc_and (pc_I (px_iV _) px_mFI) (pc_I (px_mAI (px_iV _)) (px_mAI (px_iV _)))) ps_cont ps_skip) (ps_seq (ps_seq (ps_sI px_mFI) (pt_bm_223_l4 m crm)) (ps_seq (ps_tAI (px_iV _) (px_mAI (px_iV _))) (ps_tU (px_C _))))))))
theorem pt_bm_223_l6 (m : Nat) (crm : ga_Cr MS) : ps (bm_223_l6 m crm) := by
  unfold bm_223_l6
  exact (ps_for (pc_I (px_iV _) px_mFI) ps_sInc (pt_bm_223_b5 m crm))
theorem pt_bm_223 (m : Nat) (crm : ga_Cr MS) : ps (bm_223 m crm) := by
  unfold bm_223
  exact (ps_seq (ps_tI (px_C _)) (ps_seq (ps_seq (ps_sI (px_C _)) (pt_bm_223_l6 m crm)) ps_ret0))
theorem pt_bm_224_b1 (m : Nat) (crm : ga_Cr MS) : ps (bm_224_b1 m crm) := by
  unfold bm_224_b1
  exact (ps_seq (ps_sL (px_mC (px_P (px_P (px_iV _) (px_C _)) (px_mAI (px_iV _))))) (ps_seq (ps_sIf (pc_L (px_lV _) (px_C _)) ps_cont ps_skip) (ps_seq (ps_sIf (pc_or (pc_and (pc_I (px_iV _) (px_C _)) (pc_L (px_lV _) (px_C _))) (pc_and (pc_B (px_iV _)) (pc_L (px_lV _) (px_C _)))) (ps_sRet (px_C _)) ps_skip) (ps_seq (ps_sIf (pc_I (px_iV _) (px_C _)) (ps_sI (px_mAI (px_iV _))) ps_skip) (ps_sI (px_B (pc_or (pc_B (px_iV _)) (pc_L (px_lV _) (px_C _)))))))))
theorem pt_bm_224_l2 (m : Nat) (crm : ga_Cr MS) : ps (bm_224_l2 m crm) := by
  unfold bm_224_l2
  exact (ps_for (pc_I (px_iV _) px_mFI) ps_sInc (pt_bm_224_b1 m crm))
theorem pt_bm_224 (m : Nat) (crm : ga_Cr MS) : ps (bm_224 m crm) := by
  unfold bm_224
  exact (ps_seq (ps_sI (px_C _)) (ps_seq (ps_sI (px_C _)) (ps_seq (ps_seq (ps_sI (px_C _)) (pt_bm_224_l2 m crm)) (ps_sRet (px_iV _)))))
theorem pt_bm_225_b1 (m : Nat) (crm : ga_Cr MS) : ps (bm_225_b1 m crm) := by
  unfold bm_225_b1
  exact (ps_tAZ (px_iV _) (px_B (pc_and (pc_B (px_mAI (px_iV _))) (pc_L (px_mC (px_P (px_P (px_iV _) (px_iV _)) (px_C _))) (px_C _)))))
theorem pt_bm_225_l2 (m : Nat) (crm : ga_Cr MS) : ps (bm_225_l2 m crm) := by
  unfold bm_225_l2
  exact (ps_for (pc_I (px_iV _) (px_C _)) ps_sInc (pt_bm_225_b1 m crm))
theorem pt_bm_225_b3 (m : Nat) (crm : ga_Cr MS) : ps (bm_225_b3 m crm) := by
  unfold bm_225_b3
  exact (ps_seq (ps_tAI (px_iV _) (px_C _)) (ps_seq (ps_tAZ (px_iV _) (px_C _)) (ps_seq (ps_tAL (px_iV _) (px_mC (px_P (px_P (px_iV _) (px_C _)) (px_C _)))) (ps_seq (ps_sI (px_C _)) (pt_bm_225_l2 m crm)))))
theorem pt_bm_225_l4 (m : Nat) (crm : ga_Cr MS) : ps (bm_225_l4 m crm) := by
  unfold bm_225_l4
  exact (ps_for (pc_I (px_iV _) (px_C _)) ps_sInc (pt_bm_225_b3 m crm))
theorem pt_bm_225_b5 (m : Nat) (crm : ga_Cr MS) : ps (bm_225_b5 m crm) := by
  unfold bm_225_b5
  exact (ps_sIf (pc_and (pc_and (pc_and (pc_I (px_iV _) (px_iV _)) (pc_B (px_mAI (px_iV _)))) (pc_L (px_mAL (px_iV _)) (px_C _))) (pc_L (px_mC (px_P (px_P (px_iV _) (px_C _)) (px_iV _))) (px_C _))) (ps_tV (px_iV _) (px_x2 (px_C _) (px_iV _))) ps_skip)
theorem pt_bm_225_l6 (m : Nat) (crm : ga_Cr MS) : ps (bm_225_l6 m crm) := by
  unfold bm_225_l6
  exact (ps_for (pc_I (px_iV _) (px_C _)) ps_sInc (pt_bm_225_b5 m crm))
theorem pt_bm_225_b7 (m : Nat) (crm : ga_Cr MS) : ps (bm_225_b7 m crm) := by
  unfold bm_225_b7
  exact (ps_seq (ps_sI (px_If (pc_and (pc_B (px_mAI (px_iV _))) (pc_L (px_mAL (px_iV _)) (px_C _))) (px_mC (px_iV _)) (px_C _))) (ps_seq (ps_sIf (pc_I (px_iV _) (px_C _)) ps_cont ps_skip) (ps_seq (ps_sI (px_C _)) (pt_bm_225_l6 m crm))))
theorem pt_bm_225_l8 (m : Nat) (crm : ga_Cr MS) : ps (bm_225_l8 m crm) := by
  unfold bm_225_l8
  exact (ps_for (pc_I (px_iV _) (px_C _)) ps_sInc (pt_bm_225_b7 m crm))
theorem pt_bm_225 (m : Nat) (crm : ga_Cr MS) : ps (bm_225 m crm) := by
  unfold bm_225
  exact (ps_seq (ps_sEx (px_mC (px_iV _))) (ps_seq (ps_sEx (px_mC (px_C _))) (ps_seq (ps_seq (ps_sI (px_C _)) (pt_bm_225_l4 m crm)) (ps_seq (ps_seq (ps_sI (px_C _)) (pt_bm_225_l8 m crm)) ps_ret0))))
theorem pt_bm_226 (m : Nat) (crm : ga_Cr MS) : ps (bm_226 m crm) := by
  unfold bm_226
  exact (ps_sRet (px_B (pc_and (pc_and (pc_B (px_CS (px_P (px_P (px_iV _) (px_C _)) (px_C _)))) (pc_B (px_CS (px_P (px_P (px_iV _) (px_C _)) (px_C _))))) (pc_I (px_iV _) (px_iV _)))))
theorem pt_bm_227_b1 (m : Nat) (crm : ga_Cr MS) : ps (bm_227_b1 m crm) := by
  unfold bm_227_b1
  exact (ps_seq (ps_sEx (px_mC (px_iV _))) (ps_sI (px_x2 (px_iV _) (px_x2 (px_x2 (px_mAI (px_iV _)) (px_iV _)) (px_C _)))))
theorem pt_bm_227_l2 (m : Nat) (crm : ga_Cr MS) : ps (bm_227_l2 m crm) := by
  unfold bm_227_l2
  exact (ps_for (pc_I (px_iV _) (px_C _)) (ps_sI (px_mC (px_x2 (px_iV _) (px_C _)))) (pt_bm_227_b1 m crm))
theorem pt_bm_227 (m : Nat) (crm : ga_Cr MS) : ps (bm_227 m crm) := by
  unfold bm_227
  exact (ps_seq (ps_sEx (px_mC (px_C _))) (ps_seq (ps_sIf (pc_or (pc_not (pc_B (px_CS (px_P (px_iV _) (px_iV _))))) (pc_not (pc_B (px_mC (px_C _))))) (ps_sRet (px_C _)) ps_skip) (ps_seq (ps_sI (px_C _)) (ps_seq (ps_seq (ps_sI (px_mC (px_C _))) (pt_bm_227_l2 m crm)) (ps_sRet (px_iV _))))))
theorem pt_bm_228_b1 (m : Nat) (crm : ga_Cr MS) : ps (bm_228_b1 m crm) := by
  unfold bm_228_b1
  exact (ps_seq (ps_sL (px_x2p (px_lV _) (px_lV _))) (ps_seq (ps_sL (px_lV _)) (ps_sL (px_lV _))))
theorem pt_bm_228_l2 (m : Nat) (crm : ga_Cr MS) : ps (bm_228_l2 m crm) := by
  unfold bm_228_l2
  exact (ps_for (pc_L (px_lV _) (px_C _)) ps_skip (pt_bm_228_b1 m crm))
theorem pt_bm_228 (m : Nat) (crm : ga_Cr MS) : ps (bm_228 m crm) := by
  unfold bm_228
  exact (ps_seq (ps_sL (px_lV _)) (ps_seq (ps_sL (px_lV _)) (ps_seq (pt_bm_228_l2 m crm) (ps_sRet (px_lV _)))))
theorem pt_bm_229_b1 (m : Nat) (crm : ga_Cr MS) : ps (bm_229_b1 m crm) := by
  unfold bm_229_b1
  exact (ps_seq (ps_sL (px_x2p (px_lV _) (px_lV _))) (ps_seq (ps_sL (px_x2p (px_lV _) (px_lV _))) (ps_seq (ps_sIf (pc_L (px_lV _) (px_lV _)) (ps_sRet (px_If (pc_B (px_iV _)) (px_B (pc_L (px_lV _) (px_lV _))) (px_B (pc_L (px_lV _) (px_lV _))))) ps_skip) (ps_seq (ps_sL (px_x2p (px_lV _) (px_lV _))) (ps_seq (ps_sL (px_x2p (px_lV _) (px_lV _))) (ps_seq (ps_sIf (pc_or (pc_L (px_lV _) (px_C _)) (pc_L (px_lV _) (px_C _))) (ps_sRet (px_If (pc_B (px_iV _)) (px_B (pc_and (pc_L (px_lV _) (px_C _)) (pc_L (px_lV _) (px_C _)))) (px_B (pc_and (pc_L (px_lV _) (px_C _)) (pc_L (px_lV _) (px_C _)))))) ps_skip) (ps_seq (ps_sL (px_lV _)) (ps_seq (ps_sL (px_lV _)) (ps_seq (ps_sL (px_lV _)) (ps_seq (ps_sL (px_lV _)) (ps_sI (px_B (pc_not (pc_B (px_iV _)))))))))))))))
theorem pt_bm_229_l2 (m : Nat) (crm : ga_Cr MS) : ps (bm_229_l2 m crm) := by
  unfold bm_229_l2
  exact (ps_for pc_T ps_skip (pt_bm_229_b1 m crm))
theorem pt_bm_229 (m : Nat) (crm : ga_Cr MS) : ps (bm_229 m crm) := by
  unfold bm_229
  exact (ps_seq (ps_sL (px_lV _)) (ps_seq (ps_sL (px_lV _)) (ps_seq (ps_sL (px_lV _)) (ps_seq (ps_sL (px_lV _)) (ps_seq (ps_sI (px_C _)) (pt_bm_229_l2 m crm))))))
theorem pt_bm_230_b1 (m : Nat) (crm : ga_Cr MS) : ps (bm_230_b1 m crm) := by
  unfold bm_230_b1
  exact (ps_seq (ps_sL (px_x2 (px_lV _) (px_mC (px_P (px_P (px_iV _) (px_C _)) (px_mAI (px_iV _)))))) (ps_sIf (pc_and (pc_L (px_lV _) (px_C _)) (pc_I (px_x2 (px_iV _) (px_C _)) px_mFI)) (ps_sL (px_x2 (px_lV _) (px_x2 (px_lV _) (px_x1 (px_x2 (px_mAI (px_x2 (px_iV _) (px_C _))) (px_mAI (px_iV _))))))) ps_skip))
theorem pt_bm_230_l2 (m : Nat) (crm : ga_Cr MS) : ps (bm_230_l2 m crm) := by
  unfold bm_230_l2
  exact (ps_for (pc_I (px_iV _) px_mFI) ps_sInc (pt_bm_230_b1 m crm))
theorem pt_bm_230 (m : Nat) (crm : ga_Cr MS) : ps (bm_230 m crm) := by
  unfold bm_230
  exact (ps_seq (ps_sL (px_C _)) (ps_seq (ps_sL (px_C _)) (ps_seq (ps_seq (ps_sI (px_C _)) (pt_bm_230_l2 m crm)) (ps_sRet (px_lV _)))))
theorem pt_bm_231_b1 (m : Nat) (crm : ga_Cr MS) : ps (bm_231_b1 m crm) := by
  unfold bm_231_b1
  exact (ps_seq (ps_sEx (px_mC (px_iV _))) (ps_seq (ps_sIf (pc_I (px_x2 (px_x2 (px_mAI (px_iV _)) (px_iV _)) (px_C _)) (px_C _)) ps_cont ps_skip) (ps_seq (ps_sL (px_mAL (px_iV _))) (ps_seq (ps_sL (px_mC (px_iV _))) (ps_seq (ps_sI (px_B (pc_or (pc_L (px_lV _) (px_C _)) (pc_ite (pc_I (px_iV _) (px_C _)) (pc_B (px_CS (px_P (px_P (px_P (px_lV _) (px_lV _)) (px_lV _)) (px_lV _)))) (pc_B (px_CS (px_P (px_P (px_P (px_lV _) (px_lV _)) (px_lV _)) (px_lV _)))))))) (ps_seq (ps_sIf (pc_not (pc_B (px_iV _))) ps_cont ps_skip) (ps_seq (ps_sL (px_lV _)) (ps_sL (px_lV _)))))))))
theorem pt_bm_231_l2 (m : Nat) (crm : ga_Cr MS) : ps (bm_231_l2 m crm) := by
  unfold bm_231_l2
  exact (ps_for (pc_I (px_iV _) (px_C _)) (ps_sI (px_mC (px_x2 (px_iV _) (px_C _)))) (pt_bm_231_b1 m crm))
theorem pt_bm_231 (m : Nat) (crm : ga_Cr MS) : ps (bm_231 m crm) := by
  unfold bm_231
  exact (ps_seq (ps_sEx (px_mC (px_C _))) (ps_seq (ps_sIf (pc_or (pc_or (pc_not (pc_B (px_CS (px_P (px_iV _) (px_iV _))))) (pc_not (pc_B (px_CS (px_P (px_P (px_iV _) (px_C _)) (px_C _)))))) (pc_not (pc_B (px_mC (px_C _))))) (ps_sRet (px_C _)) ps_skip) (ps_seq (ps_sL (px_C _)) (ps_seq (ps_sL (px_C _)) (ps_seq (ps_seq (ps_sI (px_mC (px_C _))) (pt_bm_231_l2 m crm)) (ps_seq (ps_sIf (pc_L (px_lV _) (px_C _)) (ps_sRet (px_C _)) ps_skip) (ps_seq (ps_sL (px_CS (px_P (px_lV _) (px_lV _)))) (ps_sRet (px_If (pc_I (px_x2p (px_iV _) (px_C _)) (px_C _)) (px_x2p (px_lV _) (px_lV _)) (px_x2p (px_lV _) (px_lV _)))))))))))
theorem pt_bm_232_b1 (m : Nat) (crm : ga_Cr MS) : ps (bm_232_b1 m crm) := by
  unfold bm_232_b1
  exact (ps_tAI (px_iV _) (px_C _))
theorem pt_bm_232_l2 (m : Nat) (crm : ga_Cr MS) : ps (bm_232_l2 m crm) := by
  unfold bm_232_l2
  exact (ps_for (pc_I (px_iV _) (px_C _)) ps_sInc (pt_bm_232_b1 m crm))
theorem pt_bm_232_b3 (m : Nat) (crm : ga_Cr MS) : ps (bm_232_b3 m crm) := by
  unfold bm_232_b3
  exact (ps_seq (ps_tAI (px_iV _) (px_x2 (px_mAI (px_iV _)) (px_mAI (px_iV _)))) (ps_sI (px_B (pc_or (pc_B (px_iV _)) (pc_I (px_mAI (px_iV _)) (px_C _))))))
theorem pt_bm_232_l4 (m : Nat) (crm : ga_Cr MS) : ps (bm_232_l4 m crm) := by
  unfold bm_232_l4
  exact (ps_for (pc_I (px_iV _) (px_C _)) ps_sInc (pt_bm_232_b3 m crm))
theorem pt_bm_232_b5 (m : Nat) (crm : ga_Cr MS) : ps (bm_232_b5 m crm) := by
  unfold bm_232_b5
  exact (ps_seq (ps_sEx (px_mC (px_iV _))) (ps_seq (ps_sI (px_C _)) (ps_seq (ps_seq (ps_sI (px_C _)) (pt_bm_232_l4 m crm)) (ps_sIf (pc_not (pc_B (px_iV _))) (ps_sRet (px_C _)) ps_skip))))
theorem pt_bm_232_l6 (m : Nat) (crm : ga_Cr MS) : ps (bm_232_l6 m crm) := by
  unfold bm_232_l6
  exact (ps_for (pc_I (px_iV _) (px_C _)) (ps_sI (px_mC (px_x2 (px_iV _) (px_C _)))) (pt_bm_232_b5 m crm))
theorem pt_bm_232_b7 (m : Nat) (crm : ga_Cr MS) : ps (bm_232_b7 m crm) := by
  unfold bm_232_b7
  exact (ps_sIf (pc_I (px_x2 (px_x2 (px_mAI (px_iV _)) (px_iV _)) (px_C _)) (px_C _)) (ps_sRet (px_x2 (px_x2 (px_C _) (px_iV _)) (px_iV _))) ps_skip)
theorem pt_bm_232_l8 (m : Nat) (crm : ga_Cr MS) : ps (bm_232_l8 m crm) := by
  unfold bm_232_l8
  exact (ps_for (pc_I (px_iV _) (px_C _)) ps_sInc (pt_bm_232_b7 m crm))
theorem pt_bm_232_b9 (m : Nat) (crm : ga_Cr MS) : ps (bm_232_b9 m crm) := by
  unfold bm_232_b9
  exact (ps_seq (ps_sI (px_C _)) (pt_bm_232_l8 m crm))
theorem pt_bm_232_l10 (m : Nat) (crm : ga_Cr MS) : ps (bm_232_l10 m crm) := by
  unfold bm_232_l10
  exact (ps_for (pc_I (px_iV _) (px_C _)) ps_sInc (pt_bm_232_b9 m crm))
theorem pt_bm_232 (m : Nat) (crm : ga_Cr MS) : ps (bm_232 m crm) := by
  unfold bm_232
  exact (ps_seq (ps_sIf (pc_not (pc_B (px_mC (px_C _)))) (ps_sRet (px_C _)) ps_skip) (ps_seq (ps_seq (ps_sI (px_C _)) (pt_bm_232_l2 m crm)) (ps_seq (ps_seq (ps_sI (px_mC (px_C _))) (pt_bm_232_l6 m crm)) (ps_seq (ps_seq (ps_sI (px_C _)) (pt_bm_232_l10 m crm)) (ps_sRet (px_C _))))))
theorem pt_bm_233 (m : Nat) (crm : ga_Cr MS) : ps (bm_233 m crm) := by
  unfold bm_233
  exact (ps_seq (ps_sEx (px_mC (px_C _))) (ps_sRet (px_mC (px_C _))))
theorem pt_bm_234_b1 (m : Nat) (crm : ga_Cr MS) : ps (bm_234_b1 m crm) := by
  unfold bm_234_b1
  exact (ps_seq (ps_sEx (px_mC (px_iV _))) (ps_seq (ps_sL (px_mC (px_P (px_P (px_x2p (px_iV _) (px_C _)) (px_C _)) (px_C _)))) (ps_sIf (pc_or (pc_L (px_lV _) (px_C _)) (pc_L (px_lV _) (px_lV _))) (ps_sL (px_lV _)) ps_skip)))
theorem pt_bm_234_l2 (m : Nat) (crm : ga_Cr MS) : ps (bm_234_l2 m crm) := by
  unfold bm_234_l2
  exact (ps_for (pc_I (px_iV _) (px_C _)) (ps_sI (px_mC (px_x2 (px_iV _) (px_C _)))) (pt_bm_234_b1 m crm))
theorem pt_bm_234 (m : Nat) (crm : ga_Cr MS) : ps (bm_234 m crm) := by
  unfold bm_234
  exact (ps_seq (ps_sEx (px_mC (px_C _))) (ps_seq (ps_sI (px_mC (px_C _))) (ps_seq (ps_sIf (pc_I (px_iV _) (px_C _)) (ps_sRet (px_C _)) ps_skip) (ps_seq (ps_sL (px_C _)) (ps_seq (ps_seq (ps_sI (px_mC (px_C _))) (pt_bm_234_l2 m crm)) (ps_sRet (px_lV _)))))))
theorem pt_bm_235 (m : Nat) (crm : ga_Cr MS) : ps (bm_235 m crm) := by
  unfold bm_235
  exact (ps_seq (ps_sEx (px_mC (px_C _))) (ps_seq (ps_sIf (pc_or (pc_not (pc_B (px_CS (px_P (px_P (px_iV _) (px_C _)) (px_C _))))) (pc_not (pc_B (px_CS (px_P (px_P (px_iV _) (px_C _)) (px_C _)))))) (ps_sRet (px_C _)) ps_skip) (ps_seq (ps_sEx (px_mC (px_x2 (px_C _) (px_iV _)))) (ps_seq (ps_sL (px_mC (px_P (px_P (px_iV _) (px_C _)) (px_C _)))) (ps_seq (ps_sEx (px_mC (px_C _))) (ps_sRet (px_x2 (px_lV _) (px_mC (px_P (px_P (px_iV _) (px_C _)) (px_C _))))))))))
theorem pt_bm_236_b1 (m : Nat) (crm : ga_Cr MS) : ps (bm_236_b1 m crm) := by
  unfold bm_236_b1
  exact (ps_seq (ps_sL (px_If (pc_or (pc_I (px_iV _) (px_iV _)) (pc_I (px_iV _) (px_iV _))) (px_C _) (px_mC (px_P (px_P (px_iV _) (px_C _)) (px_C _))))) (ps_seq (ps_sIf (pc_L (px_lV _) (px_C _)) ps_cont ps_skip) (ps_seq (ps_sL (px_x2 (px_lV _) (px_lV _))) (ps_seq (ps_sIf (pc_L (px_lV _) (px_lV _)) ps_cont ps_skip) (ps_seq (ps_sL (px_lV _)) (ps_sI (px_iV _)))))))
theorem pt_bm_236_l2 (m : Nat) (crm : ga_Cr MS) : ps (bm_236_l2 m crm) := by
  unfold bm_236_l2
  exact (ps_for (pc_I (px_iV _) (px_C _)) ps_sInc (pt_bm_236_b1 m crm))
theorem pt_bm_236 (m : Nat) (crm : ga_Cr MS) : ps (bm_236 m crm) := by
  unfold bm_236
  exact (ps_seq (ps_sEx (px_mC (px_C _))) (ps_seq (ps_sIf (pc_or (pc_not (pc_B (px_CS (px_P (px_iV _) (px_iV _))))) (pc_not (pc_B (px_CS (px_P (px_P (px_iV _) (px_C _)) (px_C _)))))) (ps_sRet (px_C _)) ps_skip) (ps_seq (ps_sEx (px_mC (px_C _))) (ps_seq (ps_sL (px_C _)) (ps_seq (ps_sL (px_C _)) (ps_seq (ps_sI (px_C _)) (ps_seq (ps_seq (ps_sI (px_C _)) (pt_bm_236_l2 m crm)) (ps_sRet (px_If (pc_I (px_iV _) (px_C _)) (px_lV _) (px_x1 (px_iV _)))))))))))
theorem pt_bm_237 (m : Nat) (crm : ga_Cr MS) : ps (bm_237 m crm) := by
  unfold bm_237
  exact (ps_seq (ps_sI (px_mC (px_C _))) (ps_seq (ps_sI (px_If (pc_B (px_CS (px_P (px_P (px_iV _) (px_C _)) (px_C _)))) (px_iV _) (px_If (pc_B (px_mC (px_C _))) (px_C _) (px_C _)))) (ps_seq (ps_sIf (pc_B px_mFI) (ps_sRet (px_C _)) ps_skip) (ps_seq (ps_sIf (pc_I (px_iV _) (px_C _)) (ps_sEx (px_mC (px_C _))) (ps_sEx (px_mC (px_C _)))) (ps_sRet (px_iV _))))))
theorem pt_bm_238 (m : Nat) (crm : ga_Cr MS) : ps (bm_238 m crm) := by
  unfold bm_238
  exact (ps_seq (ps_sIf (pc_or (pc_B px_mFI) (pc_not (pc_B (px_mC (px_C _))))) (ps_sRet (px_C _)) ps_skip) (ps_seq (ps_sEx (px_mC (px_C _))) (ps_sRet (px_mC (px_C _)))))
theorem pt_bm_239 (m : Nat) (crm : ga_Cr MS) : ps (bm_239 m crm) := by
  unfold bm_239
  exact (ps_sRet (px_If (pc_B px_mFI) (px_C _) (px_If (pc_B (px_mC (px_C _))) (px_C _) (px_If (pc_B (px_mC (px_C _))) (px_C _) (px_If (pc_B (px_mC (px_C _))) (px_C _) (px_C _))))))
theorem pt_bm_240_b1 (m : Nat) (crm : ga_Cr MS) : ps (bm_240_b1 m crm) := by
  unfold bm_240_b1
  exact (ps_seq (ps_tV (px_iV _) (px_x2 (px_C _) (px_mC (px_C _)))) (ps_sEx (px_mC (px_C _))))
theorem pt_bm_240_l2 (m : Nat) (crm : ga_Cr MS) : ps (bm_240_l2 m crm) := by
  unfold bm_240_l2
  exact (ps_for (pc_I (px_mC (px_C _)) (px_C _)) ps_skip (pt_bm_240_b1 m crm))
theorem pt_bm_240 (m : Nat) (crm : ga_Cr MS) : ps (bm_240 m crm) := by
  unfold bm_240
  exact (ps_seq (ps_sEx (px_mC (px_C _))) (ps_seq (ps_tAI (px_iV _) (px_mC (px_C _))) (ps_seq (ps_tAI (px_iV _) (px_mC (px_C _))) (ps_seq (ps_tAZ (px_iV _) (px_B (pc_and (pc_not (pc_B px_mFI)) (pc_B (px_mC (px_C _)))))) (ps_seq (ps_tAI (px_iV _) (px_C _)) (ps_seq (ps_tAI (px_iV _) (px_C _)) (ps_seq (ps_sIf (pc_B (px_mAI (px_iV _))) (ps_seq (ps_sEx (px_mC (px_C _))) (ps_seq (ps_tAI (px_iV _) (px_mC (px_C _))) (ps_seq (ps_tAI (px_iV _) (px_mC (px_C _))) (ps_seq (pt_bm_240_l2 m crm) (ps_sIf (pc_and (pc_not (pc_B px_mFI)) (pc_B (px_mC (px_C _)))) (ps_seq (ps_sEx (px_mC (px_C _))) (ps_tAI (px_iV _) (px_mC (px_P (px_C _) (px_C _))))) ps_skip))))) ps_skip) (ps_seq (ps_sIf (pc_B px_mFI) ps_ret0 ps_skip) (ps_seq (ps_sIf (pc_I px_mFI (px_C _)) (ps_sEx (px_mC (px_C _))) (ps_sEx (px_mC (px_C _)))) ps_ret0)))))))))
theorem pt_bm_241_b1 (m : Nat) (crm : ga_Cr MS) : ps (bm_241_b1 m crm) := by
  unfold bm_241_b1
  exact (ps_seq (ps_sIf (pc_I (px_iV _) (px_iV _)) (ps_sEx (px_mC (px_C _))) (ps_sEx (px_mC (px_x2 (px_iV _) (px_iV _))))) ps_sInc)
theorem pt_bm_241_l2 (m : Nat) (crm : ga_Cr MS) : ps (bm_241_l2 m crm) := by
  unfold bm_241_l2
  exact (ps_for (pc_and (pc_I px_mFI (px_C _)) (pc_not (pc_B px_mFI))) ps_skip (pt_bm_241_b1 m crm))
theorem pt_bm_241 (m : Nat) (crm : ga_Cr MS) : ps (bm_241 m crm) := by
  unfold bm_241
  exact (ps_seq (ps_sI (px_C _)) (ps_seq (pt_bm_241_l2 m crm) (ps_sRet (px_If (pc_B px_mFI) (px_C _) (px_iV _)))))
theorem pt_bm_242 (m : Nat) (crm : ga_Cr MS) : ps (bm_242 m crm) := by
  unfold bm_242
  exact (ps_seq (ps_sIf (pc_or (pc_I (px_iV _) (px_C _)) (pc_I (px_iV _) px_mFI)) (ps_sRet (px_C _)) ps_skip) (ps_seq (ps_sIf (pc_I px_mFI (px_C _)) (ps_sRet (px_C _)) ps_skip) (ps_seq (ps_sEx (px_mC (px_iV _))) (ps_seq (ps_sI (px_mC (px_P (px_x2 (px_C _) px_mFI) (px_C _)))) (ps_seq (ps_sIf (pc_I (px_iV _) (px_C _)) (ps_sRet (px_C _)) ps_skip) (ps_seq (ps_tAI px_mFI (px_iV _)) (ps_seq (ps_tU (px_C _)) (ps_sRet (px_x2 px_mFI (px_C _))))))))))
theorem pt_bm_243 (m : Nat) (crm : ga_Cr MS) : ps (bm_243 m crm) := by
  unfold bm_243
  exact (ps_seq (ps_sIf (pc_or (pc_I (px_iV _) (px_C _)) (pc_I (px_iV _) px_mFI)) (ps_sRet (px_C _)) ps_skip) (ps_seq (ps_sIf (pc_I px_mFI (px_C _)) (ps_sRet (px_C _)) ps_skip) (ps_seq (ps_sEx (px_mC (px_iV _))) (ps_seq (ps_sIf (pc_I px_mFI (px_C _)) (ps_sEx (px_mC (px_C _))) ps_skip) (ps_seq (ps_sI (px_mC (px_P (px_x2 (px_C _) (px_x2 (px_C _) px_mFI)) (px_C _)))) (ps_seq (ps_sIf (pc_I (px_iV _) (px_C _)) (ps_sRet (px_C _)) ps_skip) (ps_seq (ps_tAI px_mFI (px_iV _)) (ps_seq (ps_tU (px_C _)) (ps_sRet (px_x2 px_mFI (px_C _)))))))))))
theorem pt_bm_244_b1 (m : Nat) (crm : ga_Cr MS) : ps (bm_244_b1 m crm) := by
  unfold bm_244_b1
  exact (ps_seq (ps_sIf (pc_not (pc_B (px_mC (px_iV _)))) ps_cont ps_skip) (ps_seq (ps_tAI px_mFI (px_iV _)) (ps_seq (ps_tAI px_mFI (px_x2 (px_mAI (px_iV _)) (px_mC (px_iV _)))) (ps_tU (px_C _)))))
theorem pt_bm_244_l2 (m : Nat) (crm : ga_Cr MS) : ps (bm_244_l2 m crm) := by
  unfold bm_244_l2
  exact (ps_for (pc_I (px_iV _) (px_x2 (px_x2 (px_C _) (px_mAI (px_iV _))) (px_mAI (px_mAI (px_iV _))))) ps_sInc (pt_bm_244_b1 m crm))
theorem pt_bm_244_b3 (m : Nat) (crm : ga_Cr MS) : ps (bm_244_b3 m crm) := by
  unfold bm_244_b3
  exact (ps_seq (ps_sI (px_x2 (px_C _) (px_mAI (px_iV _)))) (pt_bm_244_l2 m crm))
theorem pt_bm_244_l4 (m : Nat) (crm : ga_Cr MS) : ps (bm_244_l4 m crm) := by
  unfold bm_244_l4
  exact (ps_for (pc_I (px_iV _) px_mFI) ps_sInc (pt_bm_244_b3 m crm))
theorem pt_bm_244 (m : Nat) (crm : ga_Cr MS) : ps (bm_244 m crm) := by
  unfold bm_244
  exact (ps_seq (ps_tI (px_C _)) (ps_seq (ps_seq (ps_sI (px_C _)) (pt_bm_244_l4 m crm)) ps_ret0))
theorem pt_bm_245 (m : Nat) (crm : ga_Cr MS) : ps (bm_245 m crm) := by
  unfold bm_245
  exact (ps_seq (ps_sI (px_mAI (px_iV _))) (ps_sRet (px_B (pc_and (pc_or (pc_I (px_iV _) (px_C _)) (pc_I (px_mAI (px_iV _)) (px_iV _))) (pc_or (pc_I (px_iV _) (px_C _)) (pc_I (px_mAI (px_iV _)) (px_iV _)))))))
theorem pt_bm_246 (m : Nat) (crm : ga_Cr MS) : ps (bm_246 m crm) := by
  unfold bm_246
  exact (ps_seq (ps_sI (px_x2 (px_mAI (px_iV _)) (px_mAI (px_iV _)))) (ps_seq (ps_sIf (pc_or (pc_or (pc_or (pc_not (pc_B (px_mC (px_P (px_P (px_iV _) (px_mAI (px_iV _))) (px_mAI (px_iV _)))))) (pc_I (px_iV _) (px_C _))) (pc_and (pc_I (px_iV _) (px_C _)) (pc_I (px_iV _) (px_iV _)))) (pc_and (pc_I (px_mAI (px_iV _)) (px_C _)) (pc_I (px_iV _) (px_mAI (px_iV _))))) (ps_sRet (px_C _)) ps_skip) (ps_seq (ps_sI (px_mAI (px_iV _))) (ps_seq (ps_sI (px_mAI (px_iV _))) (ps_seq (ps_sIf (pc_and (pc_I (px_x2 (px_mAI (px_iV _)) (px_C _)) (px_C _)) (pc_or (pc_I (px_mAI (px_mAI (px_iV _))) (px_mAI (px_mAI (px_iV _)))) (pc_I (px_mAI (px_mAI (px_iV _))) (px_mAI (px_mAI (px_iV _)))))) (ps_sRet (px_C _)) ps_skip) (ps_sRet (px_B (pc_and (pc_or (pc_I (px_x2 (px_mAI (px_iV _)) (px_C _)) (px_C _)) (pc_I (px_mAI (px_iV _)) (px_mAI (px_iV _)))) (pc_or (pc_I (px_x2 (px_mAI (px_iV _)) (px_C _)) (px_C _)) (pc_I (px_mAI (px_iV _)) (px_mAI (px_iV _))))))))))))
theorem pt_bm_247_b1 (m : Nat) (crm : ga_Cr MS) : ps (bm_247_b1 m crm) := by
  unfold bm_247_b1
  exact (ps_seq (ps_sIf (pc_not (pc_B (px_mC (px_P (px_P (px_iV _) (px_iV _)) (px_iV _))))) ps_cont ps_skip) (ps_seq (ps_tI (px_iV _)) (ps_sRet (px_C _))))
theorem pt_bm_247_l2 (m : Nat) (crm : ga_Cr MS) : ps (bm_247_l2 m crm) := by
  unfold bm_247_l2
  exact (ps_for (pc_I (px_iV _) px_mFI) ps_sInc (pt_bm_247_b1 m crm))
theorem pt_bm_247_b3 (m : Nat) (crm : ga_Cr MS) : ps (bm_247_b3 m crm) := by
  unfold bm_247_b3
  exact (ps_seq (ps_sIf (pc_not (pc_B (px_mC (px_P (px_P (px_iV _) (px_mAI (px_iV _))) (px_mAI (px_iV _)))))) ps_cont ps_skip) (ps_seq (ps_tI (px_iV _)) (ps_seq (ps_tI (px_C _)) (ps_seq (ps_sIf (pc_not (pc_B (px_mAI (px_iV _)))) (ps_sRet (px_C _)) ps_skip) (ps_seq (ps_sI (px_C _)) (pt_bm_247_l2 m crm))))))
theorem pt_bm_247_l4 (m : Nat) (crm : ga_Cr MS) : ps (bm_247_l4 m crm) := by
  unfold bm_247_l4
  exact (ps_for (pc_I (px_iV _) px_mFI) ps_sInc (pt_bm_247_b3 m crm))
theorem pt_bm_247 (m : Nat) (crm : ga_Cr MS) : ps (bm_247 m crm) := by
  unfold bm_247
  exact (ps_seq (ps_seq (ps_sI (px_C _)) (pt_bm_247_l4 m crm)) (ps_sRet (px_C _)))
theorem pt_bm_248_b1 (m : Nat) (crm : ga_Cr MS) : ps (bm_248_b1 m crm) := by
  unfold bm_248_b1
  exact (ps_sIf (pc_B (px_mC (px_x2 (px_x2 (px_C _) (px_x2 px_mFI (px_C _))) (px_iV _)))) (ps_sRet (px_iV _)) ps_skip)
theorem pt_bm_248_l2 (m : Nat) (crm : ga_Cr MS) : ps (bm_248_l2 m crm) := by
  unfold bm_248_l2
  exact (ps_for (pc_I (px_iV _) (px_iV _)) ps_sInc (pt_bm_248_b1 m crm))
theorem pt_bm_248 (m : Nat) (crm : ga_Cr MS) : ps (bm_248 m crm) := by
  unfold bm_248
  exact (ps_seq (ps_sEx (px_mC (px_C _))) (ps_seq (ps_sI (px_If (pc_I px_mFI (px_C _)) (px_C _) (px_mAI (px_x2 px_mFI (px_C _))))) (ps_seq (ps_seq (ps_sI (px_C _)) (pt_bm_248_l2 m crm)) (ps_sRet (px_C _)))))
theorem pt_bm_249 (m : Nat) (crm : ga_Cr MS) : ps (bm_249 m crm) := by
  unfold bm_249
  exact (ps_seq (ps_sIf (pc_not (pc_B (px_CS (px_P (px_P (px_iV _) (px_C _)) (px_C _))))) (ps_sRet (px_C _)) ps_skip) (ps_seq (ps_sEx (px_mC (px_C _))) (ps_seq (ps_sI (px_mC (px_C _))) (ps_sRet (px_If (pc_I (px_iV _) (px_C _)) (px_C _) (px_If (pc_I (px_iV _) (px_C _)) (px_iV _) (px_If (pc_I (px_iV _) (px_C _)) px_mFI px_mFI)))))))
theorem pt_bm_250_b1 (m : Nat) (crm : ga_Cr MS) : ps (bm_250_b1 m crm) := by
  unfold bm_250_b1
  exact (ps_sIf (pc_B (px_mC (px_x2 (px_x2 (px_C _) (px_x2 (px_C _) (px_iV _))) (px_iV _)))) (ps_sRet (px_C _)) ps_skip)
theorem pt_bm_250_l2 (m : Nat) (crm : ga_Cr MS) : ps (bm_250_l2 m crm) := by
  unfold bm_250_l2
  exact (ps_for (pc_I (px_iV _) (px_mAI (px_iV _))) ps_sInc (pt_bm_250_b1 m crm))
theorem pt_bm_250 (m : Nat) (crm : ga_Cr MS) : ps (bm_250 m crm) := by
  unfold bm_250
  exact (ps_seq (ps_seq (ps_sI (px_C _)) (pt_bm_250_l2 m crm)) (ps_sRet (px_C _)))
theorem pt_bm_251 (m : Nat) (crm : ga_Cr MS) : ps (bm_251 m crm) := by
  unfold bm_251
  exact (ps_seq (ps_sIf (pc_not (pc_B (px_CS (px_P (px_P (px_iV _) (px_C _)) (px_x2 px_mFI (px_C _)))))) (ps_sRet (px_C _)) ps_skip) (ps_seq (ps_sEx (px_mC (px_C _))) (ps_seq (ps_sEx (px_mC (px_C _))) (ps_sRet (px_If (pc_B (px_mC (px_iV _))) (px_C _) (px_C _))))))
theorem pt_bm_252_b1 (m : Nat) (crm : ga_Cr MS) : ps (bm_252_b1 m crm) := by
  unfold bm_252_b1
  exact (ps_sIf (pc_I (px_mAI (px_iV _)) (px_iV _)) (ps_sRet (px_C _)) ps_skip)
theorem pt_bm_252_l2 (m : Nat) (crm : ga_Cr MS) : ps (bm_252_l2 m crm) := by
  unfold bm_252_l2
  exact (ps_for (pc_I (px_iV _) px_mFI) ps_sInc (pt_bm_252_b1 m crm))
theorem pt_bm_252 (m : Nat) (crm : ga_Cr MS) : ps (bm_252 m crm) := by
  unfold bm_252
  exact (ps_seq (ps_sIf (pc_or (pc_not (pc_B (px_mC (px_iV _)))) (pc_I px_mFI (px_C _))) (ps_sRet (px_C _)) ps_skip) (ps_seq (ps_seq (ps_sI (px_C _)) (pt_bm_252_l2 m crm)) (ps_seq (ps_tAI px_mFI (px_iV _)) (ps_seq (ps_tU (px_C _)) (ps_sRet px_mFI)))))
theorem pt_bm_253_b1 (m : Nat) (crm : ga_Cr MS) : ps (bm_253_b1 m crm) := by
  unfold bm_253_b1
  exact (ps_seq (ps_sIf (pc_I (px_x2 (px_x2 (px_iV _) (px_iV _)) (px_C _)) (px_C _)) ps_cont ps_skip) (ps_seq (ps_tAI px_mFI (px_mAI (px_iV _))) (ps_tU (px_C _))))
theorem pt_bm_253_l2 (m : Nat) (crm : ga_Cr MS) : ps (bm_253_l2 m crm) := by
  unfold bm_253_l2
  exact (ps_for (pc_I (px_iV _) px_mFI) ps_sInc (pt_bm_253_b1 m crm))
theorem pt_bm_253_b3 (m : Nat) (crm : ga_Cr MS) : ps (bm_253_b3 m crm) := by
  unfold bm_253_b3
  exact (ps_seq (ps_sIf (pc_I (px_CS (px_iV _)) (px_iV _)) ps_cont ps_skip) (ps_seq (ps_tI (px_C _)) (ps_seq (ps_seq (ps_sI (px_C _)) (pt_bm_253_l2 m crm)) (ps_seq (ps_sIf (pc_or (pc_I (px_mC (px_C _)) (px_C _)) (pc_I (px_mC (px_C _)) (px_C _))) ps_cont ps_skip) (ps_seq (ps_tAI px_mFI (px_mC (px_C _))) (ps_seq (ps_tU (px_C _)) (ps_sIf (pc_or (pc_I px_mFI (px_C _)) (pc_I (px_CS (px_iV _)) (px_CS px_mFI))) (ps_tI (px_iV _)) ps_skip)))))))
theorem pt_bm_253_l4 (m : Nat) (crm : ga_Cr MS) : ps (bm_253_l4 m crm) := by
  unfold bm_253_l4
  exact (ps_for (pc_I (px_iV _) (px_x2 (px_C _) px_mFI)) ps_sInc (pt_bm_253_b3 m crm))
theorem pt_bm_253 (m : Nat) (crm : ga_Cr MS) : ps (bm_253 m crm) := by
  unfold bm_253
  exact (ps_seq (ps_tI (px_C _)) (ps_seq (ps_tI (px_C _)) (ps_seq (ps_seq (ps_sI (px_C _)) (pt_bm_253_l4 m crm)) ps_ret0)))
theorem pt_bm_254_b1 (m : Nat) (crm : ga_Cr MS) : ps (bm_254_b1 m crm) := by
  unfold bm_254_b1
  exact (ps_sI (px_x2 (px_iV _) (px_If (pc_B (px_mC (px_iV _))) (px_x2 (px_C _) (px_iV _)) (px_C _))))
theorem pt_bm_254_l2 (m : Nat) (crm : ga_Cr MS) : ps (bm_254_l2 m crm) := by
  unfold bm_254_l2
  exact (ps_for (pc_I (px_iV _) px_mFI) ps_sInc (pt_bm_254_b1 m crm))
theorem pt_bm_254 (m : Nat) (crm : ga_Cr MS) : ps (bm_254 m crm) := by
  unfold bm_254
  exact (ps_seq (ps_sI (px_C _)) (ps_seq (ps_sEx (px_mC (px_C _))) (ps_seq (ps_seq (ps_sI (px_C _)) (pt_bm_254_l2 m crm)) (ps_sRet (px_iV _)))))
theorem pt_bm_255 (m : Nat) (crm : ga_Cr MS) : ps (bm_255 m crm) := by
  unfold bm_255
  exact (ps_seq (ps_sIf (pc_or (pc_not (pc_B (px_CS (px_P (px_P (px_iV _) (px_C _)) (px_C _))))) (pc_not (pc_B (px_CS (px_P (px_P (px_iV _) (px_C _)) (px_C _)))))) (ps_sRet (px_C _)) ps_skip) (ps_seq (ps_sEx (px_mC (px_iV _))) (ps_sRet (px_If (pc_I (px_iV _) (px_C _)) px_mFI px_mFI))))
theorem pt_bm_256_b1 (m : Nat) (crm : ga_Cr MS) : ps (bm_256_b1 m crm) := by
  unfold bm_256_b1
  exact (ps_tAI (px_x2 (px_x2 (px_C _) px_mFI) (px_iV _)) (px_mAI (px_iV _)))
theorem pt_bm_256_l2 (m : Nat) (crm : ga_Cr MS) : ps (bm_256_l2 m crm) := by
  unfold bm_256_l2
  exact (ps_for (pc_I (px_iV _) px_mFI) ps_sInc (pt_bm_256_b1 m crm))
theorem pt_bm_256 (m : Nat) (crm : ga_Cr MS) : ps (bm_256 m crm) := by
  unfold bm_256
  exact (ps_seq (ps_sIf (pc_or (pc_I px_mFI (px_C _)) (pc_I px_mFI (px_C _))) (ps_sRet (px_C _)) ps_skip) (ps_seq (ps_tAI px_mFI px_mFI) (ps_seq (ps_seq (ps_sI (px_C _)) (pt_bm_256_l2 m crm)) (ps_seq (ps_tU (px_C _)) (ps_sRet (px_x2 px_mFI (px_C _)))))))
theorem pt_bm_257_b1 (m : Nat) (crm : ga_Cr MS) : ps (bm_257_b1 m crm) := by
  unfold bm_257_b1
  exact (ps_tAI (px_iV _) (px_mAI (px_x2 (px_x2 (px_C _) (px_iV _)) (px_iV _))))
theorem pt_bm_257_l2 (m : Nat) (crm : ga_Cr MS) : ps (bm_257_l2 m crm) := by
  unfold bm_257_l2
  exact (ps_for (pc_I (px_iV _) px_mFI) ps_sInc (pt_bm_257_b1 m crm))
theorem pt_bm_257 (m : Nat) (crm : ga_Cr MS) : ps (bm_257 m crm) := by
  unfold bm_257
  exact (ps_seq (ps_tI (px_mAI (px_iV _))) (ps_seq (ps_seq (ps_sI (px_C _)) (pt_bm_257_l2 m crm)) ps_ret0))
theorem pt_bm_258 (m : Nat) (crm : ga_Cr MS) : ps (bm_258 m crm) := by
  unfold bm_258
  exact (ps_seq (ps_sIf (pc_not (pc_B (px_CS (px_P (px_P (px_iV _) (px_C _)) (px_x2 px_mFI (px_C _)))))) (ps_sRet (px_C _)) ps_skip) (ps_seq (ps_sEx (px_mC (px_iV _))) (ps_seq (ps_sIf (pc_I (px_iV _) (px_C _)) (ps_sRet (px_If (pc_I (px_mC (px_C _)) (px_C _)) (px_C _) (px_C _))) ps_skip) (ps_seq (ps_sIf (pc_I (px_iV _) (px_C _)) (ps_sRet (px_mC (px_C _))) ps_skip) (ps_sRet (px_If (pc_B (px_CS (px_P (px_P (px_iV _) (px_C _)) (px_x2 (px_C _) (px_mAI (px_iV _)))))) (px_mAI (px_x2 (px_x2 (px_x2 (px_C _) (px_iV _)) (px_iV _)) (px_C _))) (px_C _)))))))
theorem pt_bm_259_b1 (m : Nat) (crm : ga_Cr MS) : ps (bm_259_b1 m crm) := by
  unfold bm_259_b1
  exact (ps_tAL (px_iV _) (px_mC (px_P (px_P (px_x2p (px_iV _) (px_C _)) (px_x2p (px_iV _) (px_C _))) (px_C _))))
theorem pt_bm_259_l2 (m : Nat) (crm : ga_Cr MS) : ps (bm_259_l2 m crm) := by
  unfold bm_259_l2
  exact (ps_for (pc_I (px_iV _) (px_C _)) ps_sInc (pt_bm_259_b1 m crm))
theorem pt_bm_259_b3 (m : Nat) (crm : ga_Cr MS) : ps (bm_259_b3 m crm) := by
  unfold bm_259_b3
  exact (ps_sI (px_B (pc_or (pc_B (px_iV _)) (pc_L (px_mAL (px_iV _)) (px_mC (px_P (px_P (px_x2p (px_iV _) (px_C _)) (px_x2p (px_iV _) (px_C _))) (px_C _)))))))
theorem pt_bm_259_l4 (m : Nat) (crm : ga_Cr MS) : ps (bm_259_l4 m crm) := by
  unfold bm_259_l4
  exact (ps_for (pc_I (px_iV _) (px_C _)) ps_sInc (pt_bm_259_b3 m crm))
theorem pt_bm_259 (m : Nat) (crm : ga_Cr MS) : ps (bm_259 m crm) := by
  unfold bm_259
  exact (ps_seq (ps_sEx (px_mC (px_C _))) (ps_seq (ps_sEx (px_mC (px_iV _))) (ps_seq (ps_seq (ps_sI (px_C _)) (pt_bm_259_l2 m crm)) (ps_seq (ps_sEx (px_mC (px_iV _))) (ps_seq (ps_sEx (px_mC (px_iV _))) (ps_seq (ps_sI (px_C _)) (ps_seq (ps_seq (ps_sI (px_C _)) (pt_bm_259_l4 m crm)) (ps_sRet (px_iV _)))))))))
theorem pt_bm_260_b1 (m : Nat) (crm : ga_Cr MS) : ps (bm_260_b1 m crm) := by
  unfold bm_260_b1
  exact (ps_sIf (pc_B (px_mC (px_P (px_iV _) (px_x2 (px_C _) (px_iV _))))) (ps_sRet (px_iV _)) ps_skip)
theorem pt_bm_260_l2 (m : Nat) (crm : ga_Cr MS) : ps (bm_260_l2 m crm) := by
  unfold bm_260_l2
  exact (ps_for (pc_I (px_iV _) (px_C _)) ps_sInc (pt_bm_260_b1 m crm))
theorem pt_bm_260 (m : Nat) (crm : ga_Cr MS) : ps (bm_260 m crm) := by
  unfold bm_260
  exact (ps_seq (ps_sIf (pc_not (pc_B (px_CS (px_P (px_P (px_iV _) (px_C _)) (px_x2 px_mFI (px_C _)))))) (ps_sRet (px_C _)) ps_skip) (ps_seq (ps_sEx (px_mC (px_C _))) (ps_seq (ps_sI (px_mC (px_C _))) (ps_seq (ps_sEx (px_mC (px_iV _))) (ps_seq (ps_sIf (pc_or (pc_not (pc_B (px_iV _))) (pc_not (pc_B (px_mC (px_C _))))) (ps_sRet (px_C _)) ps_skip) (ps_seq (ps_sIf (pc_B (px_mC (px_P (px_iV _) (px_C _)))) (ps_sRet (px_C _)) ps_skip) (ps_seq (ps_seq (ps_sI (px_C _)) (pt_bm_260_l2 m crm)) (ps_sRet (px_C _)))))))))
theorem pt_bm_261_b1 (m : Nat) (crm : ga_Cr MS) : ps (bm_261_b1 m crm) := by
  unfold bm_261_b1
  exact (ps_seq (ps_sEx (px_mC (px_iV _))) (ps_sI (px_x2 (px_iV _) (px_mC (px_C _)))))
theorem pt_bm_261_l2 (m : Nat) (crm : ga_Cr MS) : ps (bm_261_l2 m crm) := by
  unfold bm_261_l2
  exact (ps_for (pc_I (px_iV _) px_mFI) ps_sInc (pt_bm_261_b1 m crm))
theorem pt_bm_261_b3 (m : Nat) (crm : ga_Cr MS) : ps (bm_261_b3 m crm) := by
  unfold bm_261_b3
  exact (ps_sI (px_B (pc_I (px_x2 (px_mAI (px_iV _)) (px_iV _)) (px_C _))))
theorem pt_bm_261_l4 (m : Nat) (crm : ga_Cr MS) : ps (bm_261_l4 m crm) := by
  unfold bm_261_l4
  exact (ps_for (pc_and (pc_I (px_iV _) px_mFI) (pc_B (px_iV _))) ps_sInc (pt_bm_261_b3 m crm))
theorem pt_bm_261_b5 (m : Nat) (crm : ga_Cr MS) : ps (bm_261_b5 m crm) := by
  unfold bm_261_b5
  exact (ps_seq (ps_sIf (pc_or (pc_I (px_x2 (px_iV _) (px_iV _)) (px_C _)) (pc_and (pc_I (px_iV _) (px_C _)) (pc_I (px_CS (px_iV _)) (px_CS (px_iV _))))) ps_cont ps_skip) (ps_seq (ps_sI (px_C _)) (ps_seq (ps_seq (ps_sI (px_C _)) (pt_bm_261_l4 m crm)) (ps_sIf (pc_B (px_iV _)) (ps_sI (px_iV _)) ps_skip))))
theorem pt_bm_261_l6 (m : Nat) (crm : ga_Cr MS) : ps (bm_261_l6 m crm) := by
  unfold bm_261_l6
  exact (ps_for (pc_I (px_iV _) (px_x2 (px_C _) px_mFI)) ps_sInc (pt_bm_261_b5 m crm))
theorem pt_bm_261 (m : Nat) (crm : ga_Cr MS) : ps (bm_261 m crm) := by
  unfold bm_261
  exact (ps_seq (ps_sIf (pc_not (pc_B (px_CS (px_P (px_P (px_iV _) (px_C _)) (px_C _))))) (ps_sRet (px_C _)) ps_skip) (ps_seq (ps_sI (px_C _)) (ps_seq (ps_seq (ps_sI (px_C _)) (pt_bm_261_l2 m crm)) (ps_seq (ps_sEx (px_mC (px_iV _))) (ps_seq (ps_sI (px_C _)) (ps_seq (ps_seq (ps_sI (px_C _)) (pt_bm_261_l6 m crm)) (ps_sRet (px_iV _))))))))
theorem pt_bm_262 (m : Nat) (crm : ga_Cr MS) : ps (bm_262 m crm) := by
  unfold bm_262
  exact (ps_seq (ps_sI (px_If (pc_I (px_mAI (px_iV _)) (px_mAI (px_iV _))) (px_x2 (px_mAI (px_iV _)) (px_mAI (px_iV _))) (px_x2 (px_mAI (px_iV _)) (px_mAI (px_iV _))))) (ps_sRet (px_B (pc_and (pc_and (pc_I (px_iV _) (px_iV _)) (pc_I (px_x2 (px_x2 (px_mC (px_P (px_iV _) (px_C _))) (px_mC (px_P (px_iV _) (px_C _)))) (px_C _)) (px_C _))) (pc_I (px_x2 (px_mC (px_P (px_iV _) (px_C _))) (px_mC (px_P (px_iV _) (px_C _)))) (px_C _))))))
theorem pt_bm_263_b1 (m : Nat) (crm : ga_Cr MS) : ps (bm_263_b1 m crm) := by
  unfold bm_263_b1
  exact (ps_tAI (px_iV _) (px_iV _))
theorem pt_bm_263_l2 (m : Nat) (crm : ga_Cr MS) : ps (bm_263_l2 m crm) := by
  unfold bm_263_l2
  exact (ps_for (pc_I (px_iV _) px_mFI) ps_sInc (pt_bm_263_b1 m crm))
theorem pt_bm_263_b3 (m : Nat) (crm : ga_Cr MS) : ps (bm_263_b3 m crm) := by
  unfold bm_263_b3
  exact (ps_seq (ps_sIf (pc_or (pc_I (px_mAI (px_iV _)) (px_mAI (px_iV _))) (pc_not (pc_B (px_mC (px_P (px_P (px_iV _) (px_iV _)) (px_iV _)))))) ps_cont ps_skip) (ps_seq (ps_tAI (px_iV _) (px_mAI (px_iV _))) (ps_sI (px_C _))))
theorem pt_bm_263_l4 (m : Nat) (crm : ga_Cr MS) : ps (bm_263_l4 m crm) := by
  unfold bm_263_l4
  exact (ps_for (pc_I (px_iV _) px_mFI) ps_sInc (pt_bm_263_b3 m crm))
theorem pt_bm_263_b5 (m : Nat) (crm : ga_Cr MS) : ps (bm_263_b5 m crm) := by
  unfold bm_263_b5
  exact (ps_seq (ps_sI (px_C _)) (pt_bm_263_l4 m crm))
theorem pt_bm_263_l6 (m : Nat) (crm : ga_Cr MS) : ps (bm_263_l6 m crm) := by
  unfold bm_263_l6
  exact (ps_for (pc_I (px_iV _) px_mFI) ps_sInc (pt_bm_263_b5 m crm))
theorem pt_bm_263_b7 (m : Nat) (crm : ga_Cr MS) : ps (bm_263_b7 m crm) := by
  unfold bm_263_b7
  exact (ps_seq (ps_sI (px_C _)) (ps_seq (ps_sI (px_C _)) (pt_bm_263_l6 m crm)))
theorem pt_bm_263_l8 (m : Nat) (crm : ga_Cr MS) : ps (bm_263_l8 m crm) := by
  unfold bm_263_l8
  exact (ps_for (pc_B (px_iV _)) ps_skip (pt_bm_263_b7 m crm))
theorem pt_bm_263 (m : Nat) (crm : ga_Cr MS) : ps (bm_263 m crm) := by
  unfold bm_263
  exact (ps_seq (ps_seq (ps_sI (px_C _)) (pt_bm_263_l2 m crm)) (ps_seq (ps_sI (px_C _)) (ps_seq (pt_bm_263_l8 m crm) ps_ret0)))
theorem pt_bm_264_b1 (m : Nat) (crm : ga_Cr MS) : ps (bm_264_b1 m crm) := by
  unfold bm_264_b1
  exact (ps_sI (px_x2 (px_iV _) (px_If (pc_I (px_mAI (px_iV _)) (px_iV _)) (px_C _) (px_C _))))
theorem pt_bm_264_l2 (m : Nat) (crm : ga_Cr MS) : ps (bm_264_l2 m crm) := by
  unfold bm_264_l2
  exact (ps_for (pc_I (px_iV _) px_mFI) ps_sInc (pt_bm_264_b1 m crm))
theorem pt_bm_264 (m : Nat) (crm : ga_Cr MS) : ps (bm_264 m crm) := by
  unfold bm_264
  exact (ps_seq (ps_sIf (pc_or (pc_I (px_iV _) (px_C _)) (pc_and (pc_I (px_iV _) (px_C _)) (pc_not (pc_B (px_mC (px_iV _)))))) (ps_sRet (px_C _)) ps_skip) (ps_seq (ps_sEx (px_mC (px_iV _))) (ps_seq (ps_sIf (pc_I (px_iV _) (px_C _)) (ps_sRet (px_mAI (px_iV _))) ps_skip) (ps_seq (ps_sI (px_C _)) (ps_seq (ps_seq (ps_sI (px_C _)) (pt_bm_264_l2 m crm)) (ps_sRet (px_iV _)))))))
theorem pt_bm_265_b1 (m : Nat) (crm : ga_Cr MS) : ps (bm_265_b1 m crm) := by
  unfold bm_265_b1
  exact (ps_seq (ps_sIf (pc_I (px_mAI (px_iV _)) (px_mAI (px_iV _))) ps_cont ps_skip) (ps_seq (ps_sIf (pc_I px_mFI (px_C _)) (ps_sRet (px_C _)) ps_skip) (ps_seq (ps_tAI px_mFI (px_iV _)) (ps_tU (px_C _)))))
theorem pt_bm_265_l2 (m : Nat) (crm : ga_Cr MS) : ps (bm_265_l2 m crm) := by
  unfold bm_265_l2
  exact (ps_for (pc_I (px_iV _) px_mFI) ps_sInc (pt_bm_265_b1 m crm))
theorem pt_bm_265 (m : Nat) (crm : ga_Cr MS) : ps (bm_265 m crm) := by
  unfold bm_265
  exact (ps_seq (ps_sIf (pc_or (pc_I (px_iV _) (px_C _)) (pc_not (pc_B (px_mC (px_iV _))))) (ps_sRet (px_C _)) ps_skip) (ps_seq (ps_sEx (px_mC (px_iV _))) (ps_seq (ps_tI (px_C _)) (ps_seq (ps_seq (ps_sI (px_C _)) (pt_bm_265_l2 m crm)) (ps_sRet (px_mC (px_C _)))))))
theorem pt_bm_266 (m : Nat) (crm : ga_Cr MS) : ps (bm_266 m crm) := by
  unfold bm_266
  exact (ps_sw (px_iV _) (ps_cons (ps_sRet px_mFI) (ps_cons (ps_sRet px_mFI) (ps_cons (ps_sRet (px_If (pc_I px_mFI (px_C _)) (px_C _) (px_mAI (px_x2 px_mFI (px_C _))))) (ps_cons (ps_sRet px_mFI) (ps_cons (ps_sRet px_mFI) (ps_cons (ps_sRet px_mFI) (ps_cons (ps_sRet px_mFI) (ps_cons (ps_sRet (px_mC (px_C _))) (ps_cons (ps_sRet (px_mC (px_C _))) (ps_cons (ps_sRet px_mFI) ps_nil)))))))))) (ps_sRet (px_C _)))
theorem pt_bm_267_b1 (m : Nat) (crm : ga_Cr MS) : ps (bm_267_b1 m crm) := by
  unfold bm_267_b1
  exact (ps_sI (px_x2 (px_iV _) (px_mAI (px_mAI (px_iV _)))))
theorem pt_bm_267_l2 (m : Nat) (crm : ga_Cr MS) : ps (bm_267_l2 m crm) := by
  unfold bm_267_l2
  exact (ps_for (pc_I (px_iV _) px_mFI) ps_sInc (pt_bm_267_b1 m crm))
theorem pt_bm_267 (m : Nat) (crm : ga_Cr MS) : ps (bm_267 m crm) := by
  unfold bm_267
  exact (ps_seq (ps_sI (px_C _)) (ps_seq (ps_seq (ps_sI (px_C _)) (pt_bm_267_l2 m crm)) (ps_sRet (px_iV _))))
theorem pt_bm_268_b1 (m : Nat) (crm : ga_Cr MS) : ps (bm_268_b1 m crm) := by
  unfold bm_268_b1
  exact (ps_sI (px_x2 (px_iV _) (px_mAI (px_mAI (px_iV _)))))
theorem pt_bm_268_l2 (m : Nat) (crm : ga_Cr MS) : ps (bm_268_l2 m crm) := by
  unfold bm_268_l2
  exact (ps_for (pc_I (px_iV _) px_mFI) ps_sInc (pt_bm_268_b1 m crm))
theorem pt_bm_268 (m : Nat) (crm : ga_Cr MS) : ps (bm_268 m crm) := by
  unfold bm_268
  exact (ps_seq (ps_sI (px_C _)) (ps_seq (ps_seq (ps_sI (px_C _)) (pt_bm_268_l2 m crm)) (ps_sRet (px_iV _))))
theorem pt_bd_269_b1 (b : Nat) (sa : Nat → Nat) (cr : ga_Cr gH) : ps (bd_269_b1 b sa cr) := by
  unfold bd_269_b1
  exact (ps_AI (px_FR (px_rV _)) (px_iV _) (px_iV _))
theorem pt_bd_269_l2 (b : Nat) (sa : Nat → Nat) (cr : ga_Cr gH) : ps (bd_269_l2 b sa cr) := by
  unfold bd_269_l2
  exact (ps_for (pc_I (px_iV _) (px_C _)) ps_sInc (pt_bd_269_b1 b sa cr))
theorem pt_bd_269 (b : Nat) (sa : Nat → Nat) (cr : ga_Cr gH) : ps (bd_269 b sa cr) := by
  unfold bd_269
  exact (ps_seq ps_Obj (ps_seq (ps_PR (px_rV _) (px_NA (px_C _))) (ps_seq (ps_PR (px_rV _) (px_NA (px_C _))) (ps_seq (ps_PR (px_rV _) (px_NA (px_C _))) (ps_seq (ps_PR (px_rV _) (px_NA (px_C _))) (ps_seq (ps_PR (px_rV _) (px_NA (px_C _))) (ps_seq (ps_PR (px_rV _) (px_NA (px_C _))) (ps_seq (ps_PR (px_rV _) (px_NA (px_C _))) (ps_seq (ps_PR (px_rV _) (px_NA (px_C _))) (ps_seq (ps_PR (px_rV _) (px_NA (px_C _))) (ps_seq (ps_PR (px_rV _) (px_NA (px_C _))) (ps_seq (ps_PR (px_rV _) (px_NA (px_C _))) (ps_seq (ps_PR (px_rV _) (px_NA (px_C _))) (ps_seq (ps_PR (px_rV _) (px_NA (px_C _))) (ps_seq (ps_PR (px_rV _) (px_NA (px_C _))) (ps_seq (ps_PR (px_rV _) (px_NA (px_C _))) (ps_seq (ps_PR (px_rV _) (px_NA (px_C _))) (ps_seq (ps_PR (px_rV _) (px_NA (px_C _))) (ps_seq (ps_PR (px_rV _) (px_NA (px_C _))) (ps_seq (ps_PR (px_rV _) (px_NA (px_C _))) (ps_seq (ps_PR (px_rV _) (px_NA (px_C _))) (ps_seq (ps_PI (px_rV _) (px_C _)) (ps_seq (ps_PR (px_rV _) (px_NA (px_C _))) (ps_seq (ps_PR (px_rV _) (px_NA (px_C _))) (ps_seq (ps_PR (px_rV _) (px_NA (px_C _))) (ps_seq (ps_PR (px_rV _) (px_NA (px_C _))) (ps_seq (ps_PR (px_rV _) (px_NA (px_C _))) (ps_seq (ps_PR (px_rV _) (px_NA (px_C _))) (ps_seq (ps_PR (px_rV _) (px_NA (px_C _))) (ps_seq (ps_PR (px_rV _) (px_NA (px_C _))) (ps_seq (ps_PR (px_rV _) (px_NA (px_C _))) (ps_seq (ps_PR (px_rV _) (px_NA (px_C _))) (ps_seq (ps_PR (px_rV _) (px_NA (px_C _))) (ps_seq (ps_PR (px_rV _) (px_NA (px_C _))) (ps_seq (ps_PR (px_rV _) (px_NA (px_C _))) (ps_seq (ps_PR (px_rV _) (px_NA (px_C _))) (ps_seq (ps_PR (px_rV _) (px_NA (px_C _))) (ps_seq (ps_PR (px_rV _) (px_NA (px_C _))) (ps_seq (ps_PR (px_rV _) (px_NA (px_C _))) (ps_seq (ps_PR (px_rV _) (px_NA (px_C _))) (ps_seq (ps_PR (px_rV _) (px_NA (px_C _))) (ps_seq (ps_PR (px_rV _) (px_NA (px_C _))) (ps_seq (ps_PR (px_rV _) (px_NA (px_C _))) (ps_seq (ps_PR (px_rV _) (px_NA (px_C _))) (ps_seq (ps_PR (px_rV _) (px_NA (px_C _))) (ps_seq (ps_PR (px_rV _) (px_NA (px_C _))) (ps_seq (ps_PR (px_rV _) (px_NA (px_C _))) (ps_seq (ps_PR (px_rV _) (px_NA (px_C _))) (ps_seq (ps_PR (px_rV _) (px_NA (px_C _))) (ps_seq (ps_PR (px_rV _) (px_NA (px_C _))) (ps_seq (ps_PR (px_rV _) (px_NA (px_C _))) (ps_seq (ps_PR (px_rV _) (px_NA (px_C _))) (ps_seq (ps_PR (px_rV _) (px_NA (px_C _))) (ps_seq (ps_PR (px_rV _) (px_NA (px_C _))) (ps_seq (ps_PR (px_rV _) (px_NA (px_C _))) (ps_seq (ps_PR (px_rV _) (px_NA (px_C _))) (ps_seq (ps_PR (px_rV _) (px_NA (px_C _))) (ps_seq (ps_PR (px_rV _) (px_NA (px_C _))) (ps_seq (ps_seq (ps_sI (px_C _)) (pt_bd_269_l2 b sa cr)) ps_ret0)))))))))))))))))))))))))))))))))))))))))))))))))))))))))))
theorem pt_bd_270 (b : Nat) (sa : Nat → Nat) (cr : ga_Cr gH) : ps (bd_270 b sa cr) := by
  unfold bd_270
  exact (ps_sRet (px_If (pc_I (px_iV _) (px_iV _)) (px_iV _) (px_iV _)))
theorem pt_bd_271 (b : Nat) (sa : Nat → Nat) (cr : ga_Cr gH) : ps (bd_271 b sa cr) := by
  unfold bd_271
  exact (ps_sRet (px_If (pc_I (px_iV _) (px_C _)) (px_x1 (px_iV _)) (px_iV _)))
theorem pt_bd_272 (b : Nat) (sa : Nat → Nat) (cr : ga_Cr gH) : ps (bd_272 b sa cr) := by
  unfold bd_272
  exact (ps_seq (ps_sI (px_x2 (px_iV _) (px_x2 (px_x2 (px_iV _) (px_C _)) (px_C _)))) (ps_seq (ps_sI (px_x2 (px_x2 (px_iV _) (px_C _)) (px_x2 (px_x2 (px_iV _) (px_C _)) (px_C _)))) (ps_seq (ps_sI (px_x2 (px_x2 (px_iV _) (px_x2 (px_iV _) (px_C _))) (px_C _))) (ps_seq (ps_sI (px_x2 (px_iV _) (px_x2 (px_iV _) (px_C _)))) (ps_seq (ps_sI (px_x2 (px_iV _) (px_x2 (px_iV _) (px_C _)))) (ps_sRet (px_x2 (px_iV _) (px_C _))))))))
theorem pt_bd_law_b1 (b : Nat) (sa : Nat → Nat) (cr : ga_Cr gH) : ps (bd_law_b1 b sa cr) := by
  unfold bd_law_b1
  exact (ps_sw (px_x2 (px_AI (px_rV _) (px_iV _)) (px_C _)) (ps_cons (ps_seq (ps_sIf (pc_I (px_CV (px_P (px_P (px_rV _) (px_AI (px_rV _) (px_x2 (px_iV _) (px_C _)))) (px_AI (px_rV _) (px_x2 (px_iV _) (px_C _))))) (px_CV (px_P (px_P (px_rV _) (px_AI (px_rV _) (px_x2 (px_iV _) (px_C _)))) (px_AI (px_rV _) (px_x2 (px_iV _) (px_C _)))))) (ps_sRet (px_C _)) ps_skip) ps_skip) (ps_cons (ps_seq (ps_sIf (pc_I (px_CV (px_P (px_P (px_P (px_P (px_P (px_rV _) (px_AI (px_rV _) (px_x2 (px_iV _) (px_C _)))) (px_AI (px_rV _) (px_x2 (px_iV _) (px_C _)))) (px_AI (px_rV _) (px_x2 (px_iV _) (px_C _)))) (px_AI (px_rV _) (px_x2 (px_iV _) (px_C _)))) (px_AI (px_rV _) (px_x2 (px_iV _) (px_C _))))) (px_CV (px_P (px_P (px_P (px_P (px_P (px_rV _) (px_AI (px_rV _) (px_x2 (px_iV _) (px_C _)))) (px_AI (px_rV _) (px_x2 (px_iV _) (px_C _)))) (px_AI (px_rV _) (px_x2 (px_iV _) (px_C _)))) (px_AI (px_rV _) (px_x2 (px_iV _) (px_C _)))) (px_AI (px_rV _) (px_x2 (px_iV _) (px_C _)))))) (ps_sRet (px_C _)) ps_skip) ps_skip) (ps_cons (ps_seq (ps_sIf (pc_I (px_CV (px_P (px_P (px_rV _) (px_AI (px_rV _) (px_x2 (px_iV _) (px_C _)))) (px_AI (px_rV _) (px_x2 (px_iV _) (px_C _))))) (px_CV (px_P (px_P (px_rV _) (px_AI (px_rV _) (px_x2 (px_iV _) (px_C _)))) (px_AI (px_rV _) (px_x2 (px_iV _) (px_C _)))))) (ps_sRet (px_C _)) ps_skip) ps_skip) (ps_cons (ps_seq (ps_sIf (pc_I (px_CV (px_P (px_rV _) (px_AI (px_rV _) (px_x2 (px_iV _) (px_C _))))) (px_CV (px_P (px_rV _) (px_AI (px_rV _) (px_x2 (px_iV _) (px_C _)))))) (ps_sRet (px_C _)) ps_skip) ps_skip) (ps_cons (ps_seq (ps_sIf (pc_I (px_CV (px_P (px_rV _) (px_AI (px_rV _) (px_x2 (px_iV _) (px_C _))))) (px_CV (px_P (px_rV _) (px_AI (px_rV _) (px_x2 (px_iV _) (px_C _)))))) (ps_sRet (px_C _)) ps_skip) ps_skip) (ps_cons (ps_seq (ps_sIf (pc_I (px_CV (px_rV _)) (px_CV (px_rV _))) (ps_sRet (px_C _)) ps_skip) ps_skip) (ps_cons (ps_seq (ps_sIf (pc_I (px_CV (px_P (px_P (px_rV _) (px_AI (px_rV _) (px_x2 (px_iV _) (px_C _)))) (px_AI (px_rV _) (px_x2 (px_iV _) (px_C _))))) (px_CV (px_P (px_P (px_rV _) (px_AI (px_rV _) (px_x2 (px_iV _) (px_C _)))) (px_AI (px_rV _) (px_x2 (px_iV _) (px_C _)))))) (ps_sRet (px_C _)) ps_skip) ps_skip) (ps_cons (ps_seq (ps_sIf (pc_I (px_CV (px_P (px_P (px_P (px_rV _) (px_AI (px_rV _) (px_x2 (px_iV _) (px_C _)))) (px_AI (px_rV _) (px_x2 (px_iV _) (px_C _)))) (px_AI (px_rV _) (px_x2 (px_iV _) (px_C _))))) (px_CV (px_P (px_P (px_P (px_rV _) (px_AI (px_rV _) (px_x2 (px_iV _) (px_C _)))) (px_AI (px_rV _) (px_x2 (px_iV _) (px_C _)))) (px_AI (px_rV _) (px_x2 (px_iV _) (px_C _)))))) (ps_sRet (px_C _)) ps_skip) ps_skip) (ps_cons (ps_seq (ps_sIf (pc_I (px_CV (px_P (px_P (px_rV _) (px_AI (px_rV _) (px_x2 (px_iV _) (px_C _)))) (px_AI (px_rV _) (px_x2 (px_iV _) (px_C _))))) (px_CV (px_P (px_P (px_rV _) (px_AI (px_rV _) (px_x2 (px_iV _) (px_C _)))) (px_AI (px_rV _) (px_x2 (px_iV _) (px_C _)))))) (ps_sRet (px_C _)) ps_skip) ps_skip) (ps_cons (ps_seq (ps_sIf (pc_I (px_CV (px_P (px_P (px_rV _) (px_AI (px_rV _) (px_x2 (px_iV _) (px_C _)))) (px_AI (px_rV _) (px_x2 (px_iV _) (px_C _))))) (px_CV (px_P (px_P (px_rV _) (px_AI (px_rV _) (px_x2 (px_iV _) (px_C _)))) (px_AI (px_rV _) (px_x2 (px_iV _) (px_C _)))))) (ps_sRet (px_C _)) ps_skip) ps_skip) (ps_cons (ps_seq (ps_sIf (pc_I (px_CV (px_P (px_rV _) (px_AI (px_rV _) (px_x2 (px_iV _) (px_C _))))) (px_CV (px_P (px_rV _) (px_AI (px_rV _) (px_x2 (px_iV _) (px_C _)))))) (ps_sRet (px_C _)) ps_skip) ps_skip) (ps_cons (ps_seq (ps_sIf (pc_I (px_CV (px_rV _)) (px_CV (px_rV _))) (ps_sRet (px_C _)) ps_skip) ps_skip) (ps_cons (ps_seq (ps_sIf (pc_L (px_CV (px_P (px_P (px_P (px_rV _) (px_AI (px_rV _) (px_x2 (px_iV _) (px_C _)))) (px_AI (px_rV _) (px_x2 (px_iV _) (px_C _)))) (px_AI (px_rV _) (px_x2 (px_iV _) (px_C _))))) (px_CV (px_P (px_P (px_P (px_rV _) (px_AI (px_rV _) (px_x2 (px_iV _) (px_C _)))) (px_AI (px_rV _) (px_x2 (px_iV _) (px_C _)))) (px_AI (px_rV _) (px_x2 (px_iV _) (px_C _)))))) (ps_sRet (px_C _)) ps_skip) ps_skip) (ps_cons (ps_seq (ps_sIf (pc_L (px_CV (px_P (px_P (px_P (px_P (px_rV _) (px_AI (px_rV _) (px_x2 (px_iV _) (px_C _)))) (px_AI (px_rV _) (px_x2 (px_iV _) (px_C _)))) (px_AI (px_rV _) (px_x2 (px_iV _) (px_C _)))) (px_AI (px_rV _) (px_x2 (px_iV _) (px_C _))))) (px_CV (px_P (px_P (px_P (px_P (px_rV _) (px_AI (px_rV _) (px_x2 (px_iV _) (px_C _)))) (px_AI (px_rV _) (px_x2 (px_iV _) (px_C _)))) (px_AI (px_rV _) (px_x2 (px_iV _) (px_C _)))) (px_AI (px_rV _) (px_x2 (px_iV _) (px_C _)))))) (ps_sRet (px_C _)) ps_skip) ps_skip) (ps_cons (ps_seq (ps_sIf (pc_I (px_CV (px_rV _)) (px_CV (px_rV _))) (ps_sRet (px_C _)) ps_skip) ps_skip) (ps_cons (ps_seq (ps_sIf (pc_I (px_CV (px_P (px_P (px_rV _) (px_AI (px_rV _) (px_x2 (px_iV _) (px_C _)))) (px_AI (px_rV _) (px_x2 (px_iV _) (px_C _))))) (px_CV (px_P (px_P (px_rV _) (px_AI (px_rV _) (px_x2 (px_iV _) (px_C _)))) (px_AI (px_rV _) (px_x2 (px_iV _) (px_C _)))))) (ps_sRet (px_C _)) ps_skip) ps_skip) (ps_cons (ps_seq (ps_sIf (pc_L (px_CV (px_P (px_P (px_P (px_rV _) (px_AI (px_rV _) (px_x2 (px_iV _) (px_C _)))) (px_AI (px_rV _) (px_x2 (px_iV _) (px_C _)))) (px_AI (px_rV _) (px_x2 (px_iV _) (px_C _))))) (px_CV (px_P (px_P (px_P (px_rV _) (px_AI (px_rV _) (px_x2 (px_iV _) (px_C _)))) (px_AI (px_rV _) (px_x2 (px_iV _) (px_C _)))) (px_AI (px_rV _) (px_x2 (px_iV _) (px_C _)))))) (ps_sRet (px_C _)) ps_skip) ps_skip) (ps_cons (ps_seq (ps_sIf (pc_I (px_CV (px_rV _)) (px_CV (px_rV _))) (ps_sRet (px_C _)) ps_skip) ps_skip) (ps_cons (ps_seq (ps_sIf (pc_L (px_CV (px_rV _)) (px_CV (px_rV _))) (ps_sRet (px_C _)) ps_skip) ps_skip) (ps_cons (ps_seq (ps_sIf (pc_L (px_CV (px_P (px_P (px_rV _) (px_AI (px_rV _) (px_x2 (px_iV _) (px_C _)))) (px_AI (px_rV _) (px_x2 (px_iV _) (px_C _))))) (px_CV (px_P (px_P (px_rV _) (px_AI (px_rV _) (px_x2 (px_iV _) (px_C _)))) (px_AI (px_rV _) (px_x2 (px_iV _) (px_C _)))))) (ps_sRet (px_C _)) ps_skip) ps_skip) (ps_cons (ps_seq (ps_sIf (pc_L (px_CV (px_P (px_P (px_P (px_rV _) (px_AI (px_rV _) (px_x2 (px_iV _) (px_C _)))) (px_AI (px_rV _) (px_x2 (px_iV _) (px_C _)))) (px_AI (px_rV _) (px_x2 (px_iV _) (px_C _))))) (px_CV (px_P (px_P (px_P (px_rV _) (px_AI (px_rV _) (px_x2 (px_iV _) (px_C _)))) (px_AI (px_rV _) (px_x2 (px_iV _) (px_C _)))) (px_AI (px_rV _) (px_x2 (px_iV _) (px_C _)))))) (ps_sRet (px_C _)) ps_skip) ps_skip) (ps_cons (ps_seq (ps_sIf (pc_I (px_CV (px_P (px_rV _) (px_AI (px_rV _) (px_x2 (px_iV _) (px_C _))))) (px_CV (px_P (px_rV _) (px_AI (px_rV _) (px_x2 (px_iV _) (px_C _)))))) (ps_sRet (px_C _)) ps_skip) ps_skip) (ps_cons (ps_seq (ps_sIf (pc_I (px_CV (px_P (px_rV _) (px_AI (px_rV _) (px_x2 (px_iV _) (px_C _))))) (px_CV (px_P (px_rV _) (px_AI (px_rV _) (px_x2 (px_iV _) (px_C _)))))) (ps_sRet (px_C _)) ps_skip) ps_skip) (ps_cons (ps_seq (ps_sIf (pc_I (px_CV (px_P (px_rV _) (px_AI (px_rV _) (px_x2 (px_iV _) (px_C _))))) (px_CV (px_P (px_rV _) (px_AI (px_rV _) (px_x2 (px_iV _) (px_C _)))))) (ps_sRet (px_C _)) ps_skip) ps_skip) (ps_cons (ps_seq (ps_sIf (pc_I (px_CV (px_P (px_P (px_rV _) (px_AI (px_rV _) (px_x2 (px_iV _) (px_C _)))) (px_AI (px_rV _) (px_x2 (px_iV _) (px_C _))))) (px_CV (px_P (px_P (px_rV _) (px_AI (px_rV _) (px_x2 (px_iV _) (px_C _)))) (px_AI (px_rV _) (px_x2 (px_iV _) (px_C _)))))) (ps_sRet (px_C _)) ps_skip) ps_skip) (ps_cons (ps_seq (ps_sIf (pc_I (px_CV (px_rV _)) (px_CV (px_rV _))) (ps_sRet (px_C _)) ps_skip) ps_skip) (ps_cons (ps_seq (ps_sIf (pc_I (px_CV (px_P (px_P (px_rV _) (px_AI (px_rV _) (px_x2 (px_iV _) (px_C _)))) (px_AI (px_rV _) (px_x2 (px_iV _) (px_C _))))) (px_CV (px_P (px_P (px_rV _) (px_AI (px_rV _) (px_x2 (px_iV _) (px_C _)))) (px_AI (px_rV _) (px_x2 (px_iV _) (px_C _)))))) (ps_sRet (px_C _)) ps_skip) ps_skip) (ps_cons (ps_seq (ps_sIf (pc_I (px_CV (px_P (px_rV _) (px_AI (px_rV _) (px_x2 (px_iV _) (px_C _))))) (px_CV (px_P (px_rV _) (px_AI (px_rV _) (px_x2 (px_iV _) (px_C _)))))) (ps_sRet (px_C _)) ps_skip) ps_skip) (ps_cons (ps_seq (ps_sIf (pc_I (px_CV (px_P (px_rV _) (px_AI (px_rV _) (px_x2 (px_iV _) (px_C _))))) (px_CV (px_P (px_rV _) (px_AI (px_rV _) (px_x2 (px_iV _) (px_C _)))))) (ps_sRet (px_C _)) ps_skip) ps_skip) (ps_cons (ps_seq (ps_sIf (pc_I (px_CV (px_P (px_P (px_rV _) (px_AI (px_rV _) (px_x2 (px_iV _) (px_C _)))) (px_AI (px_rV _) (px_x2 (px_iV _) (px_C _))))) (px_CV (px_P (px_P (px_rV _) (px_AI (px_rV _) (px_x2 (px_iV _) (px_C _)))) (px_AI (px_rV _) (px_x2 (px_iV _) (px_C _)))))) (ps_sRet (px_C _)) ps_skip) ps_skip) (ps_cons (ps_seq (ps_sIf (pc_I (px_CV (px_P (px_P (px_rV _) (px_AI (px_rV _) (px_x2 (px_iV _) (px_C _)))) (px_AI (px_rV _) (px_x2 (px_iV _) (px_C _))))) (px_CV (px_P (px_P (px_rV _) (px_AI (px_rV _) (px_x2 (px_iV _) (px_C _)))) (px_AI (px_rV _) (px_x2 (px_iV _) (px_C _)))))) (ps_sRet (px_C _)) ps_skip) ps_skip) (ps_cons (ps_seq (ps_sIf (pc_I (px_CV (px_P (px_rV _) (px_AI (px_rV _) (px_x2 (px_iV _) (px_C _))))) (px_CV (px_P (px_rV _) (px_AI (px_rV _) (px_x2 (px_iV _) (px_C _)))))) (ps_sRet (px_C _)) ps_skip) ps_skip) ps_nil)))))))))))))))))))))))))))))))) ps_skip)
theorem pt_bd_law_l2 (b : Nat) (sa : Nat → Nat) (cr : ga_Cr gH) : ps (bd_law_l2 b sa cr) := by
  unfold bd_law_l2
  exact (ps_for (pc_I (px_iV _) (px_x2 (px_Len (px_rV _)) (px_C _))) ps_sInc (pt_bd_law_b1 b sa cr))
theorem pt_bd_law (b : Nat) (sa : Nat → Nat) (cr : ga_Cr gH) : ps (bd_law b sa cr) := by
  unfold bd_law
  exact (ps_seq (ps_sR (px_New (px_C _))) (ps_seq (ps_sR (px_New (px_C _))) (ps_seq (ps_seq (ps_sI (px_C _)) (pt_bd_law_l2 b sa cr)) (ps_sRet (px_C _)))))
