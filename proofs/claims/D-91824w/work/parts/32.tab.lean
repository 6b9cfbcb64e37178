/-! LAYER 3: the tables. Printed by gen/jmain.py -/
def gaF : Nat → (Nat → Nat) → ga_Cr gH → ga_Sm gH := fun _ _ _ _ _ _ _ _ => False
def gaFM : Nat → ga_Cr MS → ga_Sm MS := fun _ _ _ _ _ _ _ => False
def ga_bl0 : List (Nat → (Nat → Nat) → ga_Cr gH → ga_Sm gH) := [bd_0, bd_1, bd_2, bd_3, bd_4, bd_5, bd_6, bd_7, bd_8, bd_9, bd_10, bd_11, bd_12, bd_13, bd_14, bd_15]
def ga_rl0 : List (Nat → ga_Cr MS → ga_Sm MS) := [gaFM, gaFM, gaFM, gaFM, gaFM, gaFM, gaFM, gaFM, gaFM, gaFM, gaFM, gaFM, gaFM, gaFM, gaFM, gaFM]
def ga_bl1 : List (Nat → (Nat → Nat) → ga_Cr gH → ga_Sm gH) := [bd_16, bd_17, bd_18, bd_19, bd_20, bd_21, bd_22, bd_23, bd_24, bd_25, bd_26, bd_27, bd_28, bd_29, bd_30, bd_31]
def ga_rl1 : List (Nat → ga_Cr MS → ga_Sm MS) := [gaFM, gaFM, gaFM, gaFM, gaFM, gaFM, gaFM, gaFM, gaFM, gaFM, gaFM, gaFM, gaFM, gaFM, gaFM, gaFM]
def ga_bl2 : List (Nat → (Nat → Nat) → ga_Cr gH → ga_Sm gH) := [bd_32, bd_33, bd_34, bd_35, bd_36, bd_37, bd_38, bd_39, bd_40, bd_41, bd_42, bd_43, bd_44, bd_45, bd_46, bd_47]
def ga_rl2 : List (Nat → ga_Cr MS → ga_Sm MS) := [gaFM, gaFM, gaFM, gaFM, gaFM, gaFM, gaFM, gaFM, gaFM, gaFM, gaFM, gaFM, gaFM, gaFM, gaFM, gaFM]
def ga_bl3 : List (Nat → (Nat → Nat) → ga_Cr gH → ga_Sm gH) := [bd_48, bd_49, bd_50, bd_51, bd_52, bd_53, bd_54, bd_55, bd_56, bd_57, bd_58, bd_59, bd_60, bd_61, bd_62, bd_63]
def ga_rl3 : List (Nat → ga_Cr MS → ga_Sm MS) := [gaFM, gaFM, gaFM, gaFM, gaFM, gaFM, gaFM, gaFM, gaFM, gaFM, gaFM, gaFM, gaFM, gaFM, gaFM, gaFM]
def ga_bl4 : List (Nat → (Nat → Nat) → ga_Cr gH → ga_Sm gH) := [bd_64, bd_65, bd_66, bd_67, bd_68, bd_69, bd_70, bd_71, bd_72, bd_73, bd_74, bd_75, bd_76, bd_77, bd_78, bd_79]
def ga_rl4 : List (Nat → ga_Cr MS → ga_Sm MS) := [gaFM, gaFM, gaFM, gaFM, gaFM, gaFM, gaFM, gaFM, gaFM, gaFM, gaFM, gaFM, gaFM, gaFM, gaFM, gaFM]
def ga_bl5 : List (Nat → (Nat → Nat) → ga_Cr gH → ga_Sm gH) := [bd_80, bd_81, bd_82, bd_83, bd_84, bd_85, bd_86, bd_87, bd_88, bd_89, bd_90, bd_91, bd_92, bd_93, bd_94, bd_95]
def ga_rl5 : List (Nat → ga_Cr MS → ga_Sm MS) := [gaFM, gaFM, gaFM, gaFM, gaFM, gaFM, gaFM, gaFM, gaFM, gaFM, gaFM, gaFM, gaFM, gaFM, gaFM, gaFM]
def ga_bl6 : List (Nat → (Nat → Nat) → ga_Cr gH → ga_Sm gH) := [bd_96, bd_97, bd_98, bd_99, bd_100, bd_101, bd_102, bd_103, bd_104, bd_105, bd_106, bd_107, bd_108, bd_109, bd_110, bd_111]
def ga_rl6 : List (Nat → ga_Cr MS → ga_Sm MS) := [gaFM, gaFM, gaFM, gaFM, gaFM, gaFM, gaFM, gaFM, gaFM, gaFM, gaFM, gaFM, gaFM, gaFM, gaFM, gaFM]
def ga_bl7 : List (Nat → (Nat → Nat) → ga_Cr gH → ga_Sm gH) := [bd_112, bd_113, bd_114, bd_115, bd_116, bd_117, bd_118, bd_119, bd_120, bd_121, bd_122, bd_123, bd_124, bd_125, bd_126, bd_127]
def ga_rl7 : List (Nat → ga_Cr MS → ga_Sm MS) := [gaFM, gaFM, gaFM, gaFM, gaFM, gaFM, gaFM, gaFM, gaFM, gaFM, gaFM, gaFM, gaFM, gaFM, gaFM, gaFM]
def ga_bl8 : List (Nat → (Nat → Nat) → ga_Cr gH → ga_Sm gH) := [bd_128, bd_129, bd_130, bd_131, bd_132, bd_133, bd_134, bd_135, bd_136, bd_137, bd_138, bd_139, bd_140, bd_141, bd_142, bd_143]
def ga_rl8 : List (Nat → ga_Cr MS → ga_Sm MS) := [gaFM, gaFM, gaFM, gaFM, gaFM, gaFM, gaFM, gaFM, gaFM, gaFM, gaFM, gaFM, gaFM, gaFM, gaFM, gaFM]
def ga_bl9 : List (Nat → (Nat → Nat) → ga_Cr gH → ga_Sm gH) := [bd_144, bd_145, bd_146, bd_147, bd_148, bd_149, bd_150, bd_151, bd_152, bd_153, bd_154, bd_155, bd_156, bd_157, bd_158, bd_159]
def ga_rl9 : List (Nat → ga_Cr MS → ga_Sm MS) := [gaFM, gaFM, gaFM, gaFM, gaFM, gaFM, gaFM, gaFM, gaFM, gaFM, gaFM, gaFM, gaFM, gaFM, gaFM, gaFM]
def ga_bl10 : List (Nat → (Nat → Nat) → ga_Cr gH → ga_Sm gH) := [bd_160, bd_161, bd_162, bd_163, gaF, gaF, gaF, gaF, gaF, gaF, gaF, gaF, gaF, gaF, gaF, gaF]
def ga_rl10 : List (Nat → ga_Cr MS → ga_Sm MS) := [gaFM, gaFM, gaFM, gaFM, bm_164, bm_165, bm_166, bm_167, bm_168, bm_169, bm_170, bm_171, bm_172, bm_173, bm_174, bm_175]
def ga_bl11 : List (Nat → (Nat → Nat) → ga_Cr gH → ga_Sm gH) := [gaF, gaF, gaF, gaF, gaF, gaF, gaF, gaF, gaF, gaF, gaF, gaF, gaF, gaF, gaF, gaF]
def ga_rl11 : List (Nat → ga_Cr MS → ga_Sm MS) := [bm_176, bm_177, bm_178, bm_179, bm_180, bm_181, bm_182, bm_183, bm_184, bm_185, bm_186, bm_187, bm_188, bm_189, bm_190, bm_191]
def ga_bl12 : List (Nat → (Nat → Nat) → ga_Cr gH → ga_Sm gH) := [gaF, gaF, gaF, gaF, gaF, gaF, gaF, gaF, gaF, gaF, gaF, gaF, gaF, gaF, gaF, gaF]
def ga_rl12 : List (Nat → ga_Cr MS → ga_Sm MS) := [bm_192, bm_193, bm_194, bm_195, bm_196, bm_197, bm_198, bm_199, bm_200, bm_201, bm_202, bm_203, bm_204, bm_205, bm_206, bm_207]
def ga_bl13 : List (Nat → (Nat → Nat) → ga_Cr gH → ga_Sm gH) := [gaF, gaF, gaF, gaF, gaF, gaF, gaF, gaF, gaF, gaF, gaF, gaF, gaF, gaF, gaF, gaF]
def ga_rl13 : List (Nat → ga_Cr MS → ga_Sm MS) := [bm_208, bm_209, bm_210, bm_211, bm_212, bm_213, bm_214, bm_215, bm_216, bm_217, bm_218, bm_219, bm_220, bm_221, bm_222, bm_223]
def ga_bl14 : List (Nat → (Nat → Nat) → ga_Cr gH → ga_Sm gH) := [gaF, gaF, gaF, gaF, gaF, gaF, gaF, gaF, gaF, gaF, gaF, gaF, gaF, gaF, gaF, gaF]
def ga_rl14 : List (Nat → ga_Cr MS → ga_Sm MS) := [bm_224, bm_225, bm_226, bm_227, bm_228, bm_229, bm_230, bm_231, bm_232, bm_233, bm_234, bm_235, bm_236, bm_237, bm_238, bm_239]
def ga_bl15 : List (Nat → (Nat → Nat) → ga_Cr gH → ga_Sm gH) := [gaF, gaF, gaF, gaF, gaF, gaF, gaF, gaF, gaF, gaF, gaF, gaF, gaF, gaF, gaF, gaF]
def ga_rl15 : List (Nat → ga_Cr MS → ga_Sm MS) := [bm_240, bm_241, bm_242, bm_243, bm_244, bm_245, bm_246, bm_247, bm_248, bm_249, bm_250, bm_251, bm_252, bm_253, bm_254, bm_255]
def ga_bl16 : List (Nat → (Nat → Nat) → ga_Cr gH → ga_Sm gH) := [gaF, gaF, gaF, gaF, gaF, gaF, gaF, gaF, gaF, gaF, gaF, gaF, gaF, bd_269, bd_270, bd_271]
def ga_rl16 : List (Nat → ga_Cr MS → ga_Sm MS) := [bm_256, bm_257, bm_258, bm_259, bm_260, bm_261, bm_262, bm_263, bm_264, bm_265, bm_266, bm_267, bm_268, gaFM, gaFM, gaFM]
def ga_bl17 : List (Nat → (Nat → Nat) → ga_Cr gH → ga_Sm gH) := [bd_272]
def ga_rl17 : List (Nat → ga_Cr MS → ga_Sm MS) := [gaFM]
def ga_bll : List (List (Nat → (Nat → Nat) → ga_Cr gH → ga_Sm gH)) := [ga_bl0, ga_bl1, ga_bl2, ga_bl3, ga_bl4, ga_bl5, ga_bl6, ga_bl7, ga_bl8, ga_bl9, ga_bl10, ga_bl11, ga_bl12, ga_bl13, ga_bl14, ga_bl15, ga_bl16, ga_bl17]
def ga_rll : List (List (Nat → ga_Cr MS → ga_Sm MS)) := [ga_rl0, ga_rl1, ga_rl2, ga_rl3, ga_rl4, ga_rl5, ga_rl6, ga_rl7, ga_rl8, ga_rl9, ga_rl10, ga_rl11, ga_rl12, ga_rl13, ga_rl14, ga_rl15, ga_rl16, ga_rl17]
def ga_bd (b : Nat) (sa : Nat → Nat) (cr : ga_Cr gH) (y : Nat) : ga_Sm gH := (((ga_bll[y / 16]?).getD [])[y % 16]?).getD gaF b sa cr
def ga_md (crm : ga_Cr MS) (m y : Nat) : ga_Sm MS := (((ga_rll[y / 16]?).getD [])[y % 16]?).getD gaFM m crm
def ga_im (y : Nat) : Bool := Nat.ble 164 y && Nat.ble y 268
def ga_inis : List Nat := [49, 51, 59, 60, 63, 65, 73, 75, 80, 83, 89, 95, 101, 105, 110, 112, 123, 130, 134, 135, 138, 163, 269]
def ga_ini (y : Nat) : Bool := ga_inis.contains y
def ga_Pb (y : Nat) : Prop := ∀ (Ω : ga_Om) (cr : ga_Cr gH) (ok : gH → Prop) (g : ga_Gt) (rt : Option ga_V → gH → Prop), ga_or ga_le ok → (∀ y vs h r h', cr y vs h r h' → ga_le h h') → ga_HM (ga_mt y).2.1 (ga_mt y).1.cls (ga_ini y) Ω ok ga_mt cr g → ga_RT (ga_mt y).2.1 g rt → gs ga_le ok g rt 0 0 0 (ga_bd Ω.2.2.1 Ω.2.2.2 cr y)
def ga_Pm (y : Nat) : Prop := ∀ (Ω : ga_Om) (cr : ga_Cr gH) (crm : ga_Cr MS) (ok : gH → Prop) (g : ga_Gt) (rt : Option ga_V → MS → Prop) (h0 : ga_H) (m : Nat), Ω.2.2.1 ≤ m → (∀ σ, ok (mput h0 m σ)) → (∀ y vs σ r τ, crm y vs σ r τ → cr y vs (mput h0 m σ) r (mput h0 m τ)) → ga_HM (ga_mt y).2.1 (ga_mt y).1.cls (ga_ini y) Ω ok ga_mt cr g → ga_RT (ga_mt y).2.1 (gM g h0 m) rt → gs mle mok (gM g h0 m) rt 0 0 0 (ga_md crm m y)
def ga_Pa (y : Nat) : Prop := (ga_im y = false → ga_Pb y) ∧ (ga_im y = true → ga_Pm y)
def ga_all (P : Nat → Prop) : Nat → Nat → Prop
  | 0, _ => True
  | n + 1, s => P s ∧ ga_all P n (s + 1)
theorem ga_all_at {P : Nat → Prop} : ∀ {n s : Nat}, ga_all P n s → ∀ y, s ≤ y → y < s + n → P y
  | 0, s, _, y, h1, h2 => absurd h2 (by omega)
  | n + 1, s, h, y, h1, h2 => by
    by_cases e : y = s
    · rw [e]; exact h.1
    · exact ga_all_at h.2 y (by omega) (by omega)
theorem ga_Pa_b {y : Nat} (h : ga_Pb y) (e : ga_im y = false) : ga_Pa y := ⟨fun _ => h, fun q => absurd (e.symm.trans q) (by decide)⟩
theorem ga_Pa_m {y : Nat} (h : ga_Pm y) (e : ga_im y = true) : ga_Pa y := ⟨fun q => absurd (e.symm.trans q) (by decide), fun _ => h⟩
theorem ga_pa_0 : ga_Pa 0 := ga_Pa_b (fun Ω cr ok g rt O hle H T => bd_0_d O hle H T) rfl
theorem ga_pa_1 : ga_Pa 1 := ga_Pa_b (fun Ω cr ok g rt O hle H T => bd_1_d O hle H T) rfl
theorem ga_pa_2 : ga_Pa 2 := ga_Pa_b (fun Ω cr ok g rt O hle H T => bd_2_d O hle H T) rfl
theorem ga_pa_3 : ga_Pa 3 := ga_Pa_b (fun Ω cr ok g rt O hle H T => bd_3_d O hle H T) rfl
theorem ga_pa_4 : ga_Pa 4 := ga_Pa_b (fun Ω cr ok g rt O hle H T => bd_4_d O hle H T) rfl
theorem ga_pa_5 : ga_Pa 5 := ga_Pa_b (fun Ω cr ok g rt O hle H T => bd_5_d O hle H T) rfl
theorem ga_pa_6 : ga_Pa 6 := ga_Pa_b (fun Ω cr ok g rt O hle H T => bd_6_d O hle H T) rfl
theorem ga_pa_7 : ga_Pa 7 := ga_Pa_b (fun Ω cr ok g rt O hle H T => bd_7_d O hle H T) rfl
theorem ga_pa_8 : ga_Pa 8 := ga_Pa_b (fun Ω cr ok g rt O hle H T => bd_8_d O hle H T) rfl
theorem ga_pa_9 : ga_Pa 9 := ga_Pa_b (fun Ω cr ok g rt O hle H T => bd_9_d O hle H T) rfl
theorem ga_pa_10 : ga_Pa 10 := ga_Pa_b (fun Ω cr ok g rt O hle H T => bd_10_d O hle H T) rfl
theorem ga_pa_11 : ga_Pa 11 := ga_Pa_b (fun Ω cr ok g rt O hle H T => bd_11_d O hle H T) rfl
theorem ga_pa_12 : ga_Pa 12 := ga_Pa_b (fun Ω cr ok g rt O hle H T => bd_12_d O hle H T) rfl
theorem ga_pa_13 : ga_Pa 13 := ga_Pa_b (fun Ω cr ok g rt O hle H T => bd_13_d O hle H T) rfl
theorem ga_pa_14 : ga_Pa 14 := ga_Pa_b (fun Ω cr ok g rt O hle H T => bd_14_d O hle H T) rfl
theorem ga_pa_15 : ga_Pa 15 := ga_Pa_b (fun Ω cr ok g rt O hle H T => bd_15_d O hle H T) rfl
theorem ga_pa_16 : ga_Pa 16 := ga_Pa_b (fun Ω cr ok g rt O hle H T => bd_16_d O hle H T) rfl
theorem ga_pa_17 : ga_Pa 17 := ga_Pa_b (fun Ω cr ok g rt O hle H T => bd_17_d O hle H T) rfl
theorem ga_pa_18 : ga_Pa 18 := ga_Pa_b (fun Ω cr ok g rt O hle H T => bd_18_d O hle H T) rfl
theorem ga_pa_19 : ga_Pa 19 := ga_Pa_b (fun Ω cr ok g rt O hle H T => bd_19_d O hle H T) rfl
theorem ga_pa_20 : ga_Pa 20 := ga_Pa_b (fun Ω cr ok g rt O hle H T => bd_20_d O hle H T) rfl
theorem ga_pa_21 : ga_Pa 21 := ga_Pa_b (fun Ω cr ok g rt O hle H T => bd_21_d O hle H T) rfl
theorem ga_pa_22 : ga_Pa 22 := ga_Pa_b (fun Ω cr ok g rt O hle H T => bd_22_d O hle H T) rfl
theorem ga_pa_23 : ga_Pa 23 := ga_Pa_b (fun Ω cr ok g rt O hle H T => bd_23_d O hle H T) rfl
theorem ga_pa_24 : ga_Pa 24 := ga_Pa_b (fun Ω cr ok g rt O hle H T => bd_24_d O hle H T) rfl
theorem ga_pa_25 : ga_Pa 25 := ga_Pa_b (fun Ω cr ok g rt O hle H T => bd_25_d O hle H T) rfl
theorem ga_pa_26 : ga_Pa 26 := ga_Pa_b (fun Ω cr ok g rt O hle H T => bd_26_d O hle H T) rfl
theorem ga_pa_27 : ga_Pa 27 := ga_Pa_b (fun Ω cr ok g rt O hle H T => bd_27_d O hle H T) rfl
theorem ga_pa_28 : ga_Pa 28 := ga_Pa_b (fun Ω cr ok g rt O hle H T => bd_28_d O hle H T) rfl
theorem ga_pa_29 : ga_Pa 29 := ga_Pa_b (fun Ω cr ok g rt O hle H T => bd_29_d O hle H T) rfl
theorem ga_pa_30 : ga_Pa 30 := ga_Pa_b (fun Ω cr ok g rt O hle H T => bd_30_d O hle H T) rfl
theorem ga_pa_31 : ga_Pa 31 := ga_Pa_b (fun Ω cr ok g rt O hle H T => bd_31_d O hle H T) rfl
theorem ga_pa_32 : ga_Pa 32 := ga_Pa_b (fun Ω cr ok g rt O hle H T => bd_32_d O hle H T) rfl
theorem ga_pa_33 : ga_Pa 33 := ga_Pa_b (fun Ω cr ok g rt O hle H T => bd_33_d O hle H T) rfl
theorem ga_pa_34 : ga_Pa 34 := ga_Pa_b (fun Ω cr ok g rt O hle H T => bd_34_d O hle H T) rfl
theorem ga_pa_35 : ga_Pa 35 := ga_Pa_b (fun Ω cr ok g rt O hle H T => bd_35_d O hle H T) rfl
theorem ga_pa_36 : ga_Pa 36 := ga_Pa_b (fun Ω cr ok g rt O hle H T => bd_36_d O hle H T) rfl
theorem ga_pa_37 : ga_Pa 37 := ga_Pa_b (fun Ω cr ok g rt O hle H T => bd_37_d O hle H T) rfl
theorem ga_pa_38 : ga_Pa 38 := ga_Pa_b (fun Ω cr ok g rt O hle H T => bd_38_d O hle H T) rfl
theorem ga_pa_39 : ga_Pa 39 := ga_Pa_b (fun Ω cr ok g rt O hle H T => bd_39_d O hle H T) rfl
theorem ga_pa_40 : ga_Pa 40 := ga_Pa_b (fun Ω cr ok g rt O hle H T => bd_40_d O hle H T) rfl
theorem ga_pa_41 : ga_Pa 41 := ga_Pa_b (fun Ω cr ok g rt O hle H T => bd_41_d O hle H T) rfl
theorem ga_pa_42 : ga_Pa 42 := ga_Pa_b (fun Ω cr ok g rt O hle H T => bd_42_d O hle H T) rfl
theorem ga_pa_43 : ga_Pa 43 := ga_Pa_b (fun Ω cr ok g rt O hle H T => bd_43_d O hle H T) rfl
theorem ga_pa_44 : ga_Pa 44 := ga_Pa_b (fun Ω cr ok g rt O hle H T => bd_44_d O hle H T) rfl
theorem ga_pa_45 : ga_Pa 45 := ga_Pa_b (fun Ω cr ok g rt O hle H T => bd_45_d O hle H T) rfl
theorem ga_pa_46 : ga_Pa 46 := ga_Pa_b (fun Ω cr ok g rt O hle H T => bd_46_d O hle H T) rfl
theorem ga_pa_47 : ga_Pa 47 := ga_Pa_b (fun Ω cr ok g rt O hle H T => bd_47_d O hle H T) rfl
theorem ga_pa_48 : ga_Pa 48 := ga_Pa_b (fun Ω cr ok g rt O hle H T => bd_48_d O hle H T) rfl
theorem ga_pa_49 : ga_Pa 49 := ga_Pa_b (fun Ω cr ok g rt O hle H T => bd_49_d O hle H T) rfl
theorem ga_pa_50 : ga_Pa 50 := ga_Pa_b (fun Ω cr ok g rt O hle H T => bd_50_d O hle H T) rfl
theorem ga_pa_51 : ga_Pa 51 := ga_Pa_b (fun Ω cr ok g rt O hle H T => bd_51_d O hle H T) rfl
theorem ga_pa_52 : ga_Pa 52 := ga_Pa_b (fun Ω cr ok g rt O hle H T => bd_52_d O hle H T) rfl
theorem ga_pa_53 : ga_Pa 53 := ga_Pa_b (fun Ω cr ok g rt O hle H T => bd_53_d O hle H T) rfl
theorem ga_pa_54 : ga_Pa 54 := ga_Pa_b (fun Ω cr ok g rt O hle H T => bd_54_d O hle H T) rfl
theorem ga_pa_55 : ga_Pa 55 := ga_Pa_b (fun Ω cr ok g rt O hle H T => bd_55_d O hle H T) rfl
theorem ga_pa_56 : ga_Pa 56 := ga_Pa_b (fun Ω cr ok g rt O hle H T => bd_56_d O hle H T) rfl
theorem ga_pa_57 : ga_Pa 57 := ga_Pa_b (fun Ω cr ok g rt O hle H T => bd_57_d O hle H T) rfl
theorem ga_pa_58 : ga_Pa 58 := ga_Pa_b (fun Ω cr ok g rt O hle H T => bd_58_d O hle H T) rfl
theorem ga_pa_59 : ga_Pa 59 := ga_Pa_b (fun Ω cr ok g rt O hle H T => bd_59_d O hle H T) rfl
theorem ga_pa_60 : ga_Pa 60 := ga_Pa_b (fun Ω cr ok g rt O hle H T => bd_60_d O hle H T) rfl
theorem ga_pa_61 : ga_Pa 61 := ga_Pa_b (fun Ω cr ok g rt O hle H T => bd_61_d O hle H T) rfl
theorem ga_pa_62 : ga_Pa 62 := ga_Pa_b (fun Ω cr ok g rt O hle H T => bd_62_d O hle H T) rfl
theorem ga_pa_63 : ga_Pa 63 := ga_Pa_b (fun Ω cr ok g rt O hle H T => bd_63_d O hle H T) rfl
theorem ga_pa_64 : ga_Pa 64 := ga_Pa_b (fun Ω cr ok g rt O hle H T => bd_64_d O hle H T) rfl
theorem ga_pa_65 : ga_Pa 65 := ga_Pa_b (fun Ω cr ok g rt O hle H T => bd_65_d O hle H T) rfl
theorem ga_pa_66 : ga_Pa 66 := ga_Pa_b (fun Ω cr ok g rt O hle H T => bd_66_d O hle H T) rfl
theorem ga_pa_67 : ga_Pa 67 := ga_Pa_b (fun Ω cr ok g rt O hle H T => bd_67_d O hle H T) rfl
theorem ga_pa_68 : ga_Pa 68 := ga_Pa_b (fun Ω cr ok g rt O hle H T => bd_68_d O hle H T) rfl
theorem ga_pa_69 : ga_Pa 69 := ga_Pa_b (fun Ω cr ok g rt O hle H T => bd_69_d O hle H T) rfl
theorem ga_pa_70 : ga_Pa 70 := ga_Pa_b (fun Ω cr ok g rt O hle H T => bd_70_d O hle H T) rfl
theorem ga_pa_71 : ga_Pa 71 := ga_Pa_b (fun Ω cr ok g rt O hle H T => bd_71_d O hle H T) rfl
theorem ga_pa_72 : ga_Pa 72 := ga_Pa_b (fun Ω cr ok g rt O hle H T => bd_72_d O hle H T) rfl
theorem ga_pa_73 : ga_Pa 73 := ga_Pa_b (fun Ω cr ok g rt O hle H T => bd_73_d O hle H T) rfl
theorem ga_pa_74 : ga_Pa 74 := ga_Pa_b (fun Ω cr ok g rt O hle H T => bd_74_d O hle H T) rfl
theorem ga_pa_75 : ga_Pa 75 := ga_Pa_b (fun Ω cr ok g rt O hle H T => bd_75_d O hle H T) rfl
theorem ga_pa_76 : ga_Pa 76 := ga_Pa_b (fun Ω cr ok g rt O hle H T => bd_76_d O hle H T) rfl
theorem ga_pa_77 : ga_Pa 77 := ga_Pa_b (fun Ω cr ok g rt O hle H T => bd_77_d O hle H T) rfl
theorem ga_pa_78 : ga_Pa 78 := ga_Pa_b (fun Ω cr ok g rt O hle H T => bd_78_d O hle H T) rfl
theorem ga_pa_79 : ga_Pa 79 := ga_Pa_b (fun Ω cr ok g rt O hle H T => bd_79_d O hle H T) rfl
theorem ga_pa_80 : ga_Pa 80 := ga_Pa_b (fun Ω cr ok g rt O hle H T => bd_80_d O hle H T) rfl
theorem ga_pa_81 : ga_Pa 81 := ga_Pa_b (fun Ω cr ok g rt O hle H T => bd_81_d O hle H T) rfl
theorem ga_pa_82 : ga_Pa 82 := ga_Pa_b (fun Ω cr ok g rt O hle H T => bd_82_d O hle H T) rfl
theorem ga_pa_83 : ga_Pa 83 := ga_Pa_b (fun Ω cr ok g rt O hle H T => bd_83_d O hle H T) rfl
theorem ga_pa_84 : ga_Pa 84 := ga_Pa_b (fun Ω cr ok g rt O hle H T => bd_84_d O hle H T) rfl
theorem ga_pa_85 : ga_Pa 85 := ga_Pa_b (fun Ω cr ok g rt O hle H T => bd_85_d O hle H T) rfl
theorem ga_pa_86 : ga_Pa 86 := ga_Pa_b (fun Ω cr ok g rt O hle H T => bd_86_d O hle H T) rfl
theorem ga_pa_87 : ga_Pa 87 := ga_Pa_b (fun Ω cr ok g rt O hle H T => bd_87_d O hle H T) rfl
theorem ga_pa_88 : ga_Pa 88 := ga_Pa_b (fun Ω cr ok g rt O hle H T => bd_88_d O hle H T) rfl
theorem ga_pa_89 : ga_Pa 89 := ga_Pa_b (fun Ω cr ok g rt O hle H T => bd_89_d O hle H T) rfl
theorem ga_pa_90 : ga_Pa 90 := ga_Pa_b (fun Ω cr ok g rt O hle H T => bd_90_d O hle H T) rfl
theorem ga_pa_91 : ga_Pa 91 := ga_Pa_b (fun Ω cr ok g rt O hle H T => bd_91_d O hle H T) rfl
theorem ga_pa_92 : ga_Pa 92 := ga_Pa_b (fun Ω cr ok g rt O hle H T => bd_92_d O hle H T) rfl
theorem ga_pa_93 : ga_Pa 93 := ga_Pa_b (fun Ω cr ok g rt O hle H T => bd_93_d O hle H T) rfl
theorem ga_pa_94 : ga_Pa 94 := ga_Pa_b (fun Ω cr ok g rt O hle H T => bd_94_d O hle H T) rfl
theorem ga_pa_95 : ga_Pa 95 := ga_Pa_b (fun Ω cr ok g rt O hle H T => bd_95_d O hle H T) rfl
theorem ga_pa_96 : ga_Pa 96 := ga_Pa_b (fun Ω cr ok g rt O hle H T => bd_96_d O hle H T) rfl
theorem ga_pa_97 : ga_Pa 97 := ga_Pa_b (fun Ω cr ok g rt O hle H T => bd_97_d O hle H T) rfl
theorem ga_pa_98 : ga_Pa 98 := ga_Pa_b (fun Ω cr ok g rt O hle H T => bd_98_d O hle H T) rfl
theorem ga_pa_99 : ga_Pa 99 := ga_Pa_b (fun Ω cr ok g rt O hle H T => bd_99_d O hle H T) rfl
theorem ga_pa_100 : ga_Pa 100 := ga_Pa_b (fun Ω cr ok g rt O hle H T => bd_100_d O hle H T) rfl
theorem ga_pa_101 : ga_Pa 101 := ga_Pa_b (fun Ω cr ok g rt O hle H T => bd_101_d O hle H T) rfl
theorem ga_pa_102 : ga_Pa 102 := ga_Pa_b (fun Ω cr ok g rt O hle H T => bd_102_d O hle H T) rfl
theorem ga_pa_103 : ga_Pa 103 := ga_Pa_b (fun Ω cr ok g rt O hle H T => bd_103_d O hle H T) rfl
theorem ga_pa_104 : ga_Pa 104 := ga_Pa_b (fun Ω cr ok g rt O hle H T => bd_104_d O hle H T) rfl
theorem ga_pa_105 : ga_Pa 105 := ga_Pa_b (fun Ω cr ok g rt O hle H T => bd_105_d O hle H T) rfl
theorem ga_pa_106 : ga_Pa 106 := ga_Pa_b (fun Ω cr ok g rt O hle H T => bd_106_d O hle H T) rfl
theorem ga_pa_107 : ga_Pa 107 := ga_Pa_b (fun Ω cr ok g rt O hle H T => bd_107_d O hle H T) rfl
theorem ga_pa_108 : ga_Pa 108 := ga_Pa_b (fun Ω cr ok g rt O hle H T => bd_108_d O hle H T) rfl
theorem ga_pa_109 : ga_Pa 109 := ga_Pa_b (fun Ω cr ok g rt O hle H T => bd_109_d O hle H T) rfl
theorem ga_pa_110 : ga_Pa 110 := ga_Pa_b (fun Ω cr ok g rt O hle H T => bd_110_d O hle H T) rfl
theorem ga_pa_111 : ga_Pa 111 := ga_Pa_b (fun Ω cr ok g rt O hle H T => bd_111_d O hle H T) rfl
theorem ga_pa_112 : ga_Pa 112 := ga_Pa_b (fun Ω cr ok g rt O hle H T => bd_112_d O hle H T) rfl
theorem ga_pa_113 : ga_Pa 113 := ga_Pa_b (fun Ω cr ok g rt O hle H T => bd_113_d O hle H T) rfl
theorem ga_pa_114 : ga_Pa 114 := ga_Pa_b (fun Ω cr ok g rt O hle H T => bd_114_d O hle H T) rfl
theorem ga_pa_115 : ga_Pa 115 := ga_Pa_b (fun Ω cr ok g rt O hle H T => bd_115_d O hle H T) rfl
theorem ga_pa_116 : ga_Pa 116 := ga_Pa_b (fun Ω cr ok g rt O hle H T => bd_116_d O hle H T) rfl
theorem ga_pa_117 : ga_Pa 117 := ga_Pa_b (fun Ω cr ok g rt O hle H T => bd_117_d O hle H T) rfl
theorem ga_pa_118 : ga_Pa 118 := ga_Pa_b (fun Ω cr ok g rt O hle H T => bd_118_d O hle H T) rfl
theorem ga_pa_119 : ga_Pa 119 := ga_Pa_b (fun Ω cr ok g rt O hle H T => bd_119_d O hle H T) rfl
theorem ga_pa_120 : ga_Pa 120 := ga_Pa_b (fun Ω cr ok g rt O hle H T => bd_120_d O hle H T) rfl
theorem ga_pa_121 : ga_Pa 121 := ga_Pa_b (fun Ω cr ok g rt O hle H T => bd_121_d O hle H T) rfl
theorem ga_pa_122 : ga_Pa 122 := ga_Pa_b (fun Ω cr ok g rt O hle H T => bd_122_d O hle H T) rfl
theorem ga_pa_123 : ga_Pa 123 := ga_Pa_b (fun Ω cr ok g rt O hle H T => bd_123_d O hle H T) rfl
theorem ga_pa_124 : ga_Pa 124 := ga_Pa_b (fun Ω cr ok g rt O hle H T => bd_124_d O hle H T) rfl
theorem ga_pa_125 : ga_Pa 125 := ga_Pa_b (fun Ω cr ok g rt O hle H T => bd_125_d O hle H T) rfl
theorem ga_pa_126 : ga_Pa 126 := ga_Pa_b (fun Ω cr ok g rt O hle H T => bd_126_d O hle H T) rfl
theorem ga_pa_127 : ga_Pa 127 := ga_Pa_b (fun Ω cr ok g rt O hle H T => bd_127_d O hle H T) rfl
theorem ga_pa_128 : ga_Pa 128 := ga_Pa_b (fun Ω cr ok g rt O hle H T => bd_128_d O hle H T) rfl
theorem ga_pa_129 : ga_Pa 129 := ga_Pa_b (fun Ω cr ok g rt O hle H T => bd_129_d O hle H T) rfl
theorem ga_pa_130 : ga_Pa 130 := ga_Pa_b (fun Ω cr ok g rt O hle H T => bd_130_d O hle H T) rfl
theorem ga_pa_131 : ga_Pa 131 := ga_Pa_b (fun Ω cr ok g rt O hle H T => bd_131_d O hle H T) rfl
theorem ga_pa_132 : ga_Pa 132 := ga_Pa_b (fun Ω cr ok g rt O hle H T => bd_132_d O hle H T) rfl
theorem ga_pa_133 : ga_Pa 133 := ga_Pa_b (fun Ω cr ok g rt O hle H T => bd_133_d O hle H T) rfl
theorem ga_pa_134 : ga_Pa 134 := ga_Pa_b (fun Ω cr ok g rt O hle H T => bd_134_d O hle H T) rfl
theorem ga_pa_135 : ga_Pa 135 := ga_Pa_b (fun Ω cr ok g rt O hle H T => bd_135_d O hle H T) rfl
theorem ga_pa_136 : ga_Pa 136 := ga_Pa_b (fun Ω cr ok g rt O hle H T => bd_136_d O hle H T) rfl
theorem ga_pa_137 : ga_Pa 137 := ga_Pa_b (fun Ω cr ok g rt O hle H T => bd_137_d O hle H T) rfl
theorem ga_pa_138 : ga_Pa 138 := ga_Pa_b (fun Ω cr ok g rt O hle H T => bd_138_d O hle H T) rfl
theorem ga_pa_139 : ga_Pa 139 := ga_Pa_b (fun Ω cr ok g rt O hle H T => bd_139_d O hle H T) rfl
theorem ga_pa_140 : ga_Pa 140 := ga_Pa_b (fun Ω cr ok g rt O hle H T => bd_140_d O hle H T) rfl
theorem ga_pa_141 : ga_Pa 141 := ga_Pa_b (fun Ω cr ok g rt O hle H T => bd_141_d O hle H T) rfl
theorem ga_pa_142 : ga_Pa 142 := ga_Pa_b (fun Ω cr ok g rt O hle H T => bd_142_d O hle H T) rfl
theorem ga_pa_143 : ga_Pa 143 := ga_Pa_b (fun Ω cr ok g rt O hle H T => bd_143_d O hle H T) rfl
theorem ga_pa_144 : ga_Pa 144 := ga_Pa_b (fun Ω cr ok g rt O hle H T => bd_144_d O hle H T) rfl
theorem ga_pa_145 : ga_Pa 145 := ga_Pa_b (fun Ω cr ok g rt O hle H T => bd_145_d O hle H T) rfl
theorem ga_pa_146 : ga_Pa 146 := ga_Pa_b (fun Ω cr ok g rt O hle H T => bd_146_d O hle H T) rfl
theorem ga_pa_147 : ga_Pa 147 := ga_Pa_b (fun Ω cr ok g rt O hle H T => bd_147_d O hle H T) rfl
theorem ga_pa_148 : ga_Pa 148 := ga_Pa_b (fun Ω cr ok g rt O hle H T => bd_148_d O hle H T) rfl
theorem ga_pa_149 : ga_Pa 149 := ga_Pa_b (fun Ω cr ok g rt O hle H T => bd_149_d O hle H T) rfl
theorem ga_pa_150 : ga_Pa 150 := ga_Pa_b (fun Ω cr ok g rt O hle H T => bd_150_d O hle H T) rfl
theorem ga_pa_151 : ga_Pa 151 := ga_Pa_b (fun Ω cr ok g rt O hle H T => bd_151_d O hle H T) rfl
theorem ga_pa_152 : ga_Pa 152 := ga_Pa_b (fun Ω cr ok g rt O hle H T => bd_152_d O hle H T) rfl
theorem ga_pa_153 : ga_Pa 153 := ga_Pa_b (fun Ω cr ok g rt O hle H T => bd_153_d O hle H T) rfl
theorem ga_pa_154 : ga_Pa 154 := ga_Pa_b (fun Ω cr ok g rt O hle H T => bd_154_d O hle H T) rfl
theorem ga_pa_155 : ga_Pa 155 := ga_Pa_b (fun Ω cr ok g rt O hle H T => bd_155_d O hle H T) rfl
theorem ga_pa_156 : ga_Pa 156 := ga_Pa_b (fun Ω cr ok g rt O hle H T => bd_156_d O hle H T) rfl
theorem ga_pa_157 : ga_Pa 157 := ga_Pa_b (fun Ω cr ok g rt O hle H T => bd_157_d O hle H T) rfl
theorem ga_pa_158 : ga_Pa 158 := ga_Pa_b (fun Ω cr ok g rt O hle H T => bd_158_d O hle H T) rfl
theorem ga_pa_159 : ga_Pa 159 := ga_Pa_b (fun Ω cr ok g rt O hle H T => bd_159_d O hle H T) rfl
theorem ga_pa_160 : ga_Pa 160 := ga_Pa_b (fun Ω cr ok g rt O hle H T => bd_160_d O hle H T) rfl
theorem ga_pa_161 : ga_Pa 161 := ga_Pa_b (fun Ω cr ok g rt O hle H T => bd_161_d O hle H T) rfl
theorem ga_pa_162 : ga_Pa 162 := ga_Pa_b (fun Ω cr ok g rt O hle H T => bd_162_d O hle H T) rfl
theorem ga_pa_163 : ga_Pa 163 := ga_Pa_b (fun Ω cr ok g rt O hle H T => bd_163_d O hle H T) rfl
theorem ga_pa_164 : ga_Pa 164 := ga_Pa_m (fun Ω cr crm ok g rt h0 m hb hok hcr H T => bm_164_d hb hok hcr H T) rfl
theorem ga_pa_165 : ga_Pa 165 := ga_Pa_m (fun Ω cr crm ok g rt h0 m hb hok hcr H T => bm_165_d hb hok hcr H T) rfl
theorem ga_pa_166 : ga_Pa 166 := ga_Pa_m (fun Ω cr crm ok g rt h0 m hb hok hcr H T => bm_166_d hb hok hcr H T) rfl
theorem ga_pa_167 : ga_Pa 167 := ga_Pa_m (fun Ω cr crm ok g rt h0 m hb hok hcr H T => bm_167_d hb hok hcr H T) rfl
theorem ga_pa_168 : ga_Pa 168 := ga_Pa_m (fun Ω cr crm ok g rt h0 m hb hok hcr H T => bm_168_d hb hok hcr H T) rfl
theorem ga_pa_169 : ga_Pa 169 := ga_Pa_m (fun Ω cr crm ok g rt h0 m hb hok hcr H T => bm_169_d hb hok hcr H T) rfl
theorem ga_pa_170 : ga_Pa 170 := ga_Pa_m (fun Ω cr crm ok g rt h0 m hb hok hcr H T => bm_170_d hb hok hcr H T) rfl
theorem ga_pa_171 : ga_Pa 171 := ga_Pa_m (fun Ω cr crm ok g rt h0 m hb hok hcr H T => bm_171_d hb hok hcr H T) rfl
theorem ga_pa_172 : ga_Pa 172 := ga_Pa_m (fun Ω cr crm ok g rt h0 m hb hok hcr H T => bm_172_d hb hok hcr H T) rfl
theorem ga_pa_173 : ga_Pa 173 := ga_Pa_m (fun Ω cr crm ok g rt h0 m hb hok hcr H T => bm_173_d hb hok hcr H T) rfl
theorem ga_pa_174 : ga_Pa 174 := ga_Pa_m (fun Ω cr crm ok g rt h0 m hb hok hcr H T => bm_174_d hb hok hcr H T) rfl
theorem ga_pa_175 : ga_Pa 175 := ga_Pa_m (fun Ω cr crm ok g rt h0 m hb hok hcr H T => bm_175_d hb hok hcr H T) rfl
theorem ga_pa_176 : ga_Pa 176 := ga_Pa_m (fun Ω cr crm ok g rt h0 m hb hok hcr H T => bm_176_d hb hok hcr H T) rfl
theorem ga_pa_177 : ga_Pa 177 := ga_Pa_m (fun Ω cr crm ok g rt h0 m hb hok hcr H T => bm_177_d hb hok hcr H T) rfl
theorem ga_pa_178 : ga_Pa 178 := ga_Pa_m (fun Ω cr crm ok g rt h0 m hb hok hcr H T => bm_178_d hb hok hcr H T) rfl
theorem ga_pa_179 : ga_Pa 179 := ga_Pa_m (fun Ω cr crm ok g rt h0 m hb hok hcr H T => bm_179_d hb hok hcr H T) rfl
theorem ga_pa_180 : ga_Pa 180 := ga_Pa_m (fun Ω cr crm ok g rt h0 m hb hok hcr H T => bm_180_d hb hok hcr H T) rfl
theorem ga_pa_181 : ga_Pa 181 := ga_Pa_m (fun Ω cr crm ok g rt h0 m hb hok hcr H T => bm_181_d hb hok hcr H T) rfl
theorem ga_pa_182 : ga_Pa 182 := ga_Pa_m (fun Ω cr crm ok g rt h0 m hb hok hcr H T => bm_182_d hb hok hcr H T) rfl
theorem ga_pa_183 : ga_Pa 183 := ga_Pa_m (fun Ω cr crm ok g rt h0 m hb hok hcr H T => bm_183_d hb hok hcr H T) rfl
theorem ga_pa_184 : ga_Pa 184 := ga_Pa_m (fun Ω cr crm ok g rt h0 m hb hok hcr H T => bm_184_d hb hok hcr H T) rfl
theorem ga_pa_185 : ga_Pa 185 := ga_Pa_m (fun Ω cr crm ok g rt h0 m hb hok hcr H T => bm_185_d hb hok hcr H T) rfl
theorem ga_pa_186 : ga_Pa 186 := ga_Pa_m (fun Ω cr crm ok g rt h0 m hb hok hcr H T => bm_186_d hb hok hcr H T) rfl
theorem ga_pa_187 : ga_Pa 187 := ga_Pa_m (fun Ω cr crm ok g rt h0 m hb hok hcr H T => bm_187_d hb hok hcr H T) rfl
theorem ga_pa_188 : ga_Pa 188 := ga_Pa_m (fun Ω cr crm ok g rt h0 m hb hok hcr H T => bm_188_d hb hok hcr H T) rfl
theorem ga_pa_189 : ga_Pa 189 := ga_Pa_m (fun Ω cr crm ok g rt h0 m hb hok hcr H T => bm_189_d hb hok hcr H T) rfl
theorem ga_pa_190 : ga_Pa 190 := ga_Pa_m (fun Ω cr crm ok g rt h0 m hb hok hcr H T => bm_190_d hb hok hcr H T) rfl
theorem ga_pa_191 : ga_Pa 191 := ga_Pa_m (fun Ω cr crm ok g rt h0 m hb hok hcr H T => bm_191_d hb hok hcr H T) rfl
theorem ga_pa_192 : ga_Pa 192 := ga_Pa_m (fun Ω cr crm ok g rt h0 m hb hok hcr H T => bm_192_d hb hok hcr H T) rfl
theorem ga_pa_193 : ga_Pa 193 := ga_Pa_m (fun Ω cr crm ok g rt h0 m hb hok hcr H T => bm_193_d hb hok hcr H T) rfl
theorem ga_pa_194 : ga_Pa 194 := ga_Pa_m (fun Ω cr crm ok g rt h0 m hb hok hcr H T => bm_194_d hb hok hcr H T) rfl
theorem ga_pa_195 : ga_Pa 195 := ga_Pa_m (fun Ω cr crm ok g rt h0 m hb hok hcr H T => bm_195_d hb hok hcr H T) rfl
theorem ga_pa_196 : ga_Pa 196 := ga_Pa_m (fun Ω cr crm ok g rt h0 m hb hok hcr H T => bm_196_d hb hok hcr H T) rfl
theorem ga_pa_197 : ga_Pa 197 := ga_Pa_m (fun Ω cr crm ok g rt h0 m hb hok hcr H T => bm_197_d hb hok hcr H T) rfl
theorem ga_pa_198 : ga_Pa 198 := ga_Pa_m (fun Ω cr crm ok g rt h0 m hb hok hcr H T => bm_198_d hb hok hcr H T) rfl
theorem ga_pa_199 : ga_Pa 199 := ga_Pa_m (fun Ω cr crm ok g rt h0 m hb hok hcr H T => bm_199_d hb hok hcr H T) rfl
theorem ga_pa_200 : ga_Pa 200 := ga_Pa_m (fun Ω cr crm ok g rt h0 m hb hok hcr H T => bm_200_d hb hok hcr H T) rfl
theorem ga_pa_201 : ga_Pa 201 := ga_Pa_m (fun Ω cr crm ok g rt h0 m hb hok hcr H T => bm_201_d hb hok hcr H T) rfl
theorem ga_pa_202 : ga_Pa 202 := ga_Pa_m (fun Ω cr crm ok g rt h0 m hb hok hcr H T => bm_202_d hb hok hcr H T) rfl
theorem ga_pa_203 : ga_Pa 203 := ga_Pa_m (fun Ω cr crm ok g rt h0 m hb hok hcr H T => bm_203_d hb hok hcr H T) rfl
theorem ga_pa_204 : ga_Pa 204 := ga_Pa_m (fun Ω cr crm ok g rt h0 m hb hok hcr H T => bm_204_d hb hok hcr H T) rfl
theorem ga_pa_205 : ga_Pa 205 := ga_Pa_m (fun Ω cr crm ok g rt h0 m hb hok hcr H T => bm_205_d hb hok hcr H T) rfl
theorem ga_pa_206 : ga_Pa 206 := ga_Pa_m (fun Ω cr crm ok g rt h0 m hb hok hcr H T => bm_206_d hb hok hcr H T) rfl
theorem ga_pa_207 : ga_Pa 207 := ga_Pa_m (fun Ω cr crm ok g rt h0 m hb hok hcr H T => bm_207_d hb hok hcr H T) rfl
theorem ga_pa_208 : ga_Pa 208 := ga_Pa_m (fun Ω cr crm ok g rt h0 m hb hok hcr H T => bm_208_d hb hok hcr H T) rfl
theorem ga_pa_209 : ga_Pa 209 := ga_Pa_m (fun Ω cr crm ok g rt h0 m hb hok hcr H T => bm_209_d hb hok hcr H T) rfl
theorem ga_pa_210 : ga_Pa 210 := ga_Pa_m (fun Ω cr crm ok g rt h0 m hb hok hcr H T => bm_210_d hb hok hcr H T) rfl
theorem ga_pa_211 : ga_Pa 211 := ga_Pa_m (fun Ω cr crm ok g rt h0 m hb hok hcr H T => bm_211_d hb hok hcr H T) rfl
theorem ga_pa_212 : ga_Pa 212 := ga_Pa_m (fun Ω cr crm ok g rt h0 m hb hok hcr H T => bm_212_d hb hok hcr H T) rfl
theorem ga_pa_213 : ga_Pa 213 := ga_Pa_m (fun Ω cr crm ok g rt h0 m hb hok hcr H T => bm_213_d hb hok hcr H T) rfl
theorem ga_pa_214 : ga_Pa 214 := ga_Pa_m (fun Ω cr crm ok g rt h0 m hb hok hcr H T => bm_214_d hb hok hcr H T) rfl
theorem ga_pa_215 : ga_Pa 215 := ga_Pa_m (fun Ω cr crm ok g rt h0 m hb hok hcr H T => bm_215_d hb hok hcr H T) rfl
theorem ga_pa_216 : ga_Pa 216 := ga_Pa_m (fun Ω cr crm ok g rt h0 m hb hok hcr H T => bm_216_d hb hok hcr H T) rfl
theorem ga_pa_217 : ga_Pa 217 := ga_Pa_m (fun Ω cr crm ok g rt h0 m hb hok hcr H T => bm_217_d hb hok hcr H T) rfl
theorem ga_pa_218 : ga_Pa 218 := ga_Pa_m (fun Ω cr crm ok g rt h0 m hb hok hcr H T => bm_218_d hb hok hcr H T) rfl
theorem ga_pa_219 : ga_Pa 219 := ga_Pa_m (fun Ω cr crm ok g rt h0 m hb hok hcr H T => bm_219_d hb hok hcr H T) rfl
theorem ga_pa_220 : ga_Pa 220 := ga_Pa_m (fun Ω cr crm ok g rt h0 m hb hok hcr H T => bm_220_d hb hok hcr H T) rfl
theorem ga_pa_221 : ga_Pa 221 := ga_Pa_m (fun Ω cr crm ok g rt h0 m hb hok hcr H T => bm_221_d hb hok hcr H T) rfl
theorem ga_pa_222 : ga_Pa 222 := ga_Pa_m (fun Ω cr crm ok g rt h0 m hb hok hcr H T => bm_222_d hb hok hcr H T) rfl
theorem ga_pa_223 : ga_Pa 223 := ga_Pa_m (fun Ω cr crm ok g rt h0 m hb hok hcr H T => bm_223_d hb hok hcr H T) rfl
theorem ga_pa_224 : ga_Pa 224 := ga_Pa_m (fun Ω cr crm ok g rt h0 m hb hok hcr H T => bm_224_d hb hok hcr H T) rfl
theorem ga_pa_225 : ga_Pa 225 := ga_Pa_m (fun Ω cr crm ok g rt h0 m hb hok hcr H T => bm_225_d hb hok hcr H T) rfl
theorem ga_pa_226 : ga_Pa 226 := ga_Pa_m (fun Ω cr crm ok g rt h0 m hb hok hcr H T => bm_226_d hb hok hcr H T) rfl
theorem ga_pa_227 : ga_Pa 227 := ga_Pa_m (fun Ω cr crm ok g rt h0 m hb hok hcr H T => bm_227_d hb hok hcr H T) rfl
theorem ga_pa_228 : ga_Pa 228 := ga_Pa_m (fun Ω cr crm ok g rt h0 m hb hok hcr H T => bm_228_d hb hok hcr H T) rfl
theorem ga_pa_229 : ga_Pa 229 := ga_Pa_m (fun Ω cr crm ok g rt h0 m hb hok hcr H T => bm_229_d hb hok hcr H T) rfl
theorem ga_pa_230 : ga_Pa 230 := ga_Pa_m (fun Ω cr crm ok g rt h0 m hb hok hcr H T => bm_230_d hb hok hcr H T) rfl
theorem ga_pa_231 : ga_Pa 231 := ga_Pa_m (fun Ω cr crm ok g rt h0 m hb hok hcr H T => bm_231_d hb hok hcr H T) rfl
theorem ga_pa_232 : ga_Pa 232 := ga_Pa_m (fun Ω cr crm ok g rt h0 m hb hok hcr H T => bm_232_d hb hok hcr H T) rfl
theorem ga_pa_233 : ga_Pa 233 := ga_Pa_m (fun Ω cr crm ok g rt h0 m hb hok hcr H T => bm_233_d hb hok hcr H T) rfl
theorem ga_pa_234 : ga_Pa 234 := ga_Pa_m (fun Ω cr crm ok g rt h0 m hb hok hcr H T => bm_234_d hb hok hcr H T) rfl
theorem ga_pa_235 : ga_Pa 235 := ga_Pa_m (fun Ω cr crm ok g rt h0 m hb hok hcr H T => bm_235_d hb hok hcr H T) rfl
theorem ga_pa_236 : ga_Pa 236 := ga_Pa_m (fun Ω cr crm ok g rt h0 m hb hok hcr H T => bm_236_d hb hok hcr H T) rfl
theorem ga_pa_237 : ga_Pa 237 := ga_Pa_m (fun Ω cr crm ok g rt h0 m hb hok hcr H T => bm_237_d hb hok hcr H T) rfl
theorem ga_pa_238 : ga_Pa 238 := ga_Pa_m (fun Ω cr crm ok g rt h0 m hb hok hcr H T => bm_238_d hb hok hcr H T) rfl
theorem ga_pa_239 : ga_Pa 239 := ga_Pa_m (fun Ω cr crm ok g rt h0 m hb hok hcr H T => bm_239_d hb hok hcr H T) rfl
theorem ga_pa_240 : ga_Pa 240 := ga_Pa_m (fun Ω cr crm ok g rt h0 m hb hok hcr H T => bm_240_d hb hok hcr H T) rfl
theorem ga_pa_241 : ga_Pa 241 := ga_Pa_m (fun Ω cr crm ok g rt h0 m hb hok hcr H T => bm_241_d hb hok hcr H T) rfl
theorem ga_pa_242 : ga_Pa 242 := ga_Pa_m (fun Ω cr crm ok g rt h0 m hb hok hcr H T => bm_242_d hb hok hcr H T) rfl
theorem ga_pa_243 : ga_Pa 243 := ga_Pa_m (fun Ω cr crm ok g rt h0 m hb hok hcr H T => bm_243_d hb hok hcr H T) rfl
theorem ga_pa_244 : ga_Pa 244 := ga_Pa_m (fun Ω cr crm ok g rt h0 m hb hok hcr H T => bm_244_d hb hok hcr H T) rfl
theorem ga_pa_245 : ga_Pa 245 := ga_Pa_m (fun Ω cr crm ok g rt h0 m hb hok hcr H T => bm_245_d hb hok hcr H T) rfl
theorem ga_pa_246 : ga_Pa 246 := ga_Pa_m (fun Ω cr crm ok g rt h0 m hb hok hcr H T => bm_246_d hb hok hcr H T) rfl
theorem ga_pa_247 : ga_Pa 247 := ga_Pa_m (fun Ω cr crm ok g rt h0 m hb hok hcr H T => bm_247_d hb hok hcr H T) rfl
theorem ga_pa_248 : ga_Pa 248 := ga_Pa_m (fun Ω cr crm ok g rt h0 m hb hok hcr H T => bm_248_d hb hok hcr H T) rfl
theorem ga_pa_249 : ga_Pa 249 := ga_Pa_m (fun Ω cr crm ok g rt h0 m hb hok hcr H T => bm_249_d hb hok hcr H T) rfl
theorem ga_pa_250 : ga_Pa 250 := ga_Pa_m (fun Ω cr crm ok g rt h0 m hb hok hcr H T => bm_250_d hb hok hcr H T) rfl
theorem ga_pa_251 : ga_Pa 251 := ga_Pa_m (fun Ω cr crm ok g rt h0 m hb hok hcr H T => bm_251_d hb hok hcr H T) rfl
theorem ga_pa_252 : ga_Pa 252 := ga_Pa_m (fun Ω cr crm ok g rt h0 m hb hok hcr H T => bm_252_d hb hok hcr H T) rfl
theorem ga_pa_253 : ga_Pa 253 := ga_Pa_m (fun Ω cr crm ok g rt h0 m hb hok hcr H T => bm_253_d hb hok hcr H T) rfl
theorem ga_pa_254 : ga_Pa 254 := ga_Pa_m (fun Ω cr crm ok g rt h0 m hb hok hcr H T => bm_254_d hb hok hcr H T) rfl
theorem ga_pa_255 : ga_Pa 255 := ga_Pa_m (fun Ω cr crm ok g rt h0 m hb hok hcr H T => bm_255_d hb hok hcr H T) rfl
theorem ga_pa_256 : ga_Pa 256 := ga_Pa_m (fun Ω cr crm ok g rt h0 m hb hok hcr H T => bm_256_d hb hok hcr H T) rfl
theorem ga_pa_257 : ga_Pa 257 := ga_Pa_m (fun Ω cr crm ok g rt h0 m hb hok hcr H T => bm_257_d hb hok hcr H T) rfl
theorem ga_pa_258 : ga_Pa 258 := ga_Pa_m (fun Ω cr crm ok g rt h0 m hb hok hcr H T => bm_258_d hb hok hcr H T) rfl
theorem ga_pa_259 : ga_Pa 259 := ga_Pa_m (fun Ω cr crm ok g rt h0 m hb hok hcr H T => bm_259_d hb hok hcr H T) rfl
theorem ga_pa_260 : ga_Pa 260 := ga_Pa_m (fun Ω cr crm ok g rt h0 m hb hok hcr H T => bm_260_d hb hok hcr H T) rfl
theorem ga_pa_261 : ga_Pa 261 := ga_Pa_m (fun Ω cr crm ok g rt h0 m hb hok hcr H T => bm_261_d hb hok hcr H T) rfl
theorem ga_pa_262 : ga_Pa 262 := ga_Pa_m (fun Ω cr crm ok g rt h0 m hb hok hcr H T => bm_262_d hb hok hcr H T) rfl
theorem ga_pa_263 : ga_Pa 263 := ga_Pa_m (fun Ω cr crm ok g rt h0 m hb hok hcr H T => bm_263_d hb hok hcr H T) rfl
theorem ga_pa_264 : ga_Pa 264 := ga_Pa_m (fun Ω cr crm ok g rt h0 m hb hok hcr H T => bm_264_d hb hok hcr H T) rfl
theorem ga_pa_265 : ga_Pa 265 := ga_Pa_m (fun Ω cr crm ok g rt h0 m hb hok hcr H T => bm_265_d hb hok hcr H T) rfl
theorem ga_pa_266 : ga_Pa 266 := ga_Pa_m (fun Ω cr crm ok g rt h0 m hb hok hcr H T => bm_266_d hb hok hcr H T) rfl
theorem ga_pa_267 : ga_Pa 267 := ga_Pa_m (fun Ω cr crm ok g rt h0 m hb hok hcr H T => bm_267_d hb hok hcr H T) rfl
theorem ga_pa_268 : ga_Pa 268 := ga_Pa_m (fun Ω cr crm ok g rt h0 m hb hok hcr H T => bm_268_d hb hok hcr H T) rfl
theorem ga_pa_269 : ga_Pa 269 := ga_Pa_b (fun Ω cr ok g rt O hle H T => bd_269_d O hle H T) rfl
theorem ga_pa_270 : ga_Pa 270 := ga_Pa_b (fun Ω cr ok g rt O hle H T => bd_270_d O hle H T) rfl
theorem ga_pa_271 : ga_Pa 271 := ga_Pa_b (fun Ω cr ok g rt O hle H T => bd_271_d O hle H T) rfl
theorem ga_pa_272 : ga_Pa 272 := ga_Pa_b (fun Ω cr ok g rt O hle H T => bd_272_d O hle H T) rfl
theorem ga_pl_0 : ga_all ga_Pa 16 0 := ⟨ga_pa_0, ga_pa_1, ga_pa_2, ga_pa_3, ga_pa_4, ga_pa_5, ga_pa_6, ga_pa_7, ga_pa_8, ga_pa_9, ga_pa_10, ga_pa_11, ga_pa_12, ga_pa_13, ga_pa_14, ga_pa_15, trivial⟩
theorem ga_pl_1 : ga_all ga_Pa 16 16 := ⟨ga_pa_16, ga_pa_17, ga_pa_18, ga_pa_19, ga_pa_20, ga_pa_21, ga_pa_22, ga_pa_23, ga_pa_24, ga_pa_25, ga_pa_26, ga_pa_27, ga_pa_28, ga_pa_29, ga_pa_30, ga_pa_31, trivial⟩
theorem ga_pl_2 : ga_all ga_Pa 16 32 := ⟨ga_pa_32, ga_pa_33, ga_pa_34, ga_pa_35, ga_pa_36, ga_pa_37, ga_pa_38, ga_pa_39, ga_pa_40, ga_pa_41, ga_pa_42, ga_pa_43, ga_pa_44, ga_pa_45, ga_pa_46, ga_pa_47, trivial⟩
theorem ga_pl_3 : ga_all ga_Pa 16 48 := ⟨ga_pa_48, ga_pa_49, ga_pa_50, ga_pa_51, ga_pa_52, ga_pa_53, ga_pa_54, ga_pa_55, ga_pa_56, ga_pa_57, ga_pa_58, ga_pa_59, ga_pa_60, ga_pa_61, ga_pa_62, ga_pa_63, trivial⟩
theorem ga_pl_4 : ga_all ga_Pa 16 64 := ⟨ga_pa_64, ga_pa_65, ga_pa_66, ga_pa_67, ga_pa_68, ga_pa_69, ga_pa_70, ga_pa_71, ga_pa_72, ga_pa_73, ga_pa_74, ga_pa_75, ga_pa_76, ga_pa_77, ga_pa_78, ga_pa_79, trivial⟩
theorem ga_pl_5 : ga_all ga_Pa 16 80 := ⟨ga_pa_80, ga_pa_81, ga_pa_82, ga_pa_83, ga_pa_84, ga_pa_85, ga_pa_86, ga_pa_87, ga_pa_88, ga_pa_89, ga_pa_90, ga_pa_91, ga_pa_92, ga_pa_93, ga_pa_94, ga_pa_95, trivial⟩
theorem ga_pl_6 : ga_all ga_Pa 16 96 := ⟨ga_pa_96, ga_pa_97, ga_pa_98, ga_pa_99, ga_pa_100, ga_pa_101, ga_pa_102, ga_pa_103, ga_pa_104, ga_pa_105, ga_pa_106, ga_pa_107, ga_pa_108, ga_pa_109, ga_pa_110, ga_pa_111, trivial⟩
theorem ga_pl_7 : ga_all ga_Pa 16 112 := ⟨ga_pa_112, ga_pa_113, ga_pa_114, ga_pa_115, ga_pa_116, ga_pa_117, ga_pa_118, ga_pa_119, ga_pa_120, ga_pa_121, ga_pa_122, ga_pa_123, ga_pa_124, ga_pa_125, ga_pa_126, ga_pa_127, trivial⟩
theorem ga_pl_8 : ga_all ga_Pa 16 128 := ⟨ga_pa_128, ga_pa_129, ga_pa_130, ga_pa_131, ga_pa_132, ga_pa_133, ga_pa_134, ga_pa_135, ga_pa_136, ga_pa_137, ga_pa_138, ga_pa_139, ga_pa_140, ga_pa_141, ga_pa_142, ga_pa_143, trivial⟩
theorem ga_pl_9 : ga_all ga_Pa 16 144 := ⟨ga_pa_144, ga_pa_145, ga_pa_146, ga_pa_147, ga_pa_148, ga_pa_149, ga_pa_150, ga_pa_151, ga_pa_152, ga_pa_153, ga_pa_154, ga_pa_155, ga_pa_156, ga_pa_157, ga_pa_158, ga_pa_159, trivial⟩
theorem ga_pl_10 : ga_all ga_Pa 16 160 := ⟨ga_pa_160, ga_pa_161, ga_pa_162, ga_pa_163, ga_pa_164, ga_pa_165, ga_pa_166, ga_pa_167, ga_pa_168, ga_pa_169, ga_pa_170, ga_pa_171, ga_pa_172, ga_pa_173, ga_pa_174, ga_pa_175, trivial⟩
theorem ga_pl_11 : ga_all ga_Pa 16 176 := ⟨ga_pa_176, ga_pa_177, ga_pa_178, ga_pa_179, ga_pa_180, ga_pa_181, ga_pa_182, ga_pa_183, ga_pa_184, ga_pa_185, ga_pa_186, ga_pa_187, ga_pa_188, ga_pa_189, ga_pa_190, ga_pa_191, trivial⟩
theorem ga_pl_12 : ga_all ga_Pa 16 192 := ⟨ga_pa_192, ga_pa_193, ga_pa_194, ga_pa_195, ga_pa_196, ga_pa_197, ga_pa_198, ga_pa_199, ga_pa_200, ga_pa_201, ga_pa_202, ga_pa_203, ga_pa_204, ga_pa_205, ga_pa_206, ga_pa_207, trivial⟩
theorem ga_pl_13 : ga_all ga_Pa 16 208 := ⟨ga_pa_208, ga_pa_209, ga_pa_210, ga_pa_211, ga_pa_212, ga_pa_213, ga_pa_214, ga_pa_215, ga_pa_216, ga_pa_217, ga_pa_218, ga_pa_219, ga_pa_220, ga_pa_221, ga_pa_222, ga_pa_223, trivial⟩
theorem ga_pl_14 : ga_all ga_Pa 16 224 := ⟨ga_pa_224, ga_pa_225, ga_pa_226, ga_pa_227, ga_pa_228, ga_pa_229, ga_pa_230, ga_pa_231, ga_pa_232, ga_pa_233, ga_pa_234, ga_pa_235, ga_pa_236, ga_pa_237, ga_pa_238, ga_pa_239, trivial⟩
theorem ga_pl_15 : ga_all ga_Pa 16 240 := ⟨ga_pa_240, ga_pa_241, ga_pa_242, ga_pa_243, ga_pa_244, ga_pa_245, ga_pa_246, ga_pa_247, ga_pa_248, ga_pa_249, ga_pa_250, ga_pa_251, ga_pa_252, ga_pa_253, ga_pa_254, ga_pa_255, trivial⟩
theorem ga_pl_16 : ga_all ga_Pa 16 256 := ⟨ga_pa_256, ga_pa_257, ga_pa_258, ga_pa_259, ga_pa_260, ga_pa_261, ga_pa_262, ga_pa_263, ga_pa_264, ga_pa_265, ga_pa_266, ga_pa_267, ga_pa_268, ga_pa_269, ga_pa_270, ga_pa_271, trivial⟩
theorem ga_pl_17 : ga_all ga_Pa 1 272 := ⟨ga_pa_272, trivial⟩
theorem ga_pa (y : Nat) (hy : y < 273) : ga_Pa y := by
  by_cases h0 : y < 16
  · exact ga_all_at ga_pl_0 y (by omega) (by omega)
  by_cases h1 : y < 32
  · exact ga_all_at ga_pl_1 y (by omega) (by omega)
  by_cases h2 : y < 48
  · exact ga_all_at ga_pl_2 y (by omega) (by omega)
  by_cases h3 : y < 64
  · exact ga_all_at ga_pl_3 y (by omega) (by omega)
  by_cases h4 : y < 80
  · exact ga_all_at ga_pl_4 y (by omega) (by omega)
  by_cases h5 : y < 96
  · exact ga_all_at ga_pl_5 y (by omega) (by omega)
  by_cases h6 : y < 112
  · exact ga_all_at ga_pl_6 y (by omega) (by omega)
  by_cases h7 : y < 128
  · exact ga_all_at ga_pl_7 y (by omega) (by omega)
  by_cases h8 : y < 144
  · exact ga_all_at ga_pl_8 y (by omega) (by omega)
  by_cases h9 : y < 160
  · exact ga_all_at ga_pl_9 y (by omega) (by omega)
  by_cases h10 : y < 176
  · exact ga_all_at ga_pl_10 y (by omega) (by omega)
  by_cases h11 : y < 192
  · exact ga_all_at ga_pl_11 y (by omega) (by omega)
  by_cases h12 : y < 208
  · exact ga_all_at ga_pl_12 y (by omega) (by omega)
  by_cases h13 : y < 224
  · exact ga_all_at ga_pl_13 y (by omega) (by omega)
  by_cases h14 : y < 240
  · exact ga_all_at ga_pl_14 y (by omega) (by omega)
  by_cases h15 : y < 256
  · exact ga_all_at ga_pl_15 y (by omega) (by omega)
  by_cases h16 : y < 272
  · exact ga_all_at ga_pl_16 y (by omega) (by omega)
  exact ga_all_at ga_pl_17 y (by omega) (by omega)
theorem ga_nm_ok : ∀ y, y < 273 → plainFor (ga_mt y).1 = true ∧ (ga_ini y = true → (ga_mt y).1.name = "<init>") := by decide +kernel
theorem ga_bd_far {b : Nat} {sa : Nat → Nat} {cr : ga_Cr gH} {y : Nat} (h : ¬ y < 273) : ga_bd b sa cr y = gaF b sa cr := by
  unfold ga_bd
  by_cases e : y / 16 < 18
  · have e1 : y / 16 = 17 := by omega
    rw [e1]
    show ((ga_bl17[y % 16]?).getD gaF) b sa cr = _
    rw [List.getElem?_eq_none (show ga_bl17.length ≤ y % 16 by show 1 ≤ _; omega)]
    rfl
  · rw [List.getElem?_eq_none (show ga_bll.length ≤ y / 16 by show 18 ≤ _; omega)]
    rfl
/-- every run is a contract -/
theorem ga_runs {l : Launch} {Ω : ga_Om} (q1 : Jvm.Cond.instanceMethod objectInit ∈ lw_all) (q2 : Jvm.Cond.code objectInit ⟨#[0xb1]⟩ 1 none ∈ lw_all) (q3 : Jvm.Cond.native arraycopyName ∈ lw_all) (q4 : Jvm.Cond.static arraycopyName ∈ lw_all) (q5 : Jvm.Cond.initialized "java/lang/System" ∈ lw_all) :
    ∀ d y vs h r h', ga_run ga_mt ga_im (ga_bd Ω.2.2.1 Ω.2.2.2) ga_md Ω.2.2.1 d y vs h r h' → ga_Met l Ω d (ga_mt y) vs h r h' := by
  have hin : ∀ y, ga_im y = true → y < 273 := fun y h => by
    have := (Bool.and_eq_true _ _).mp h
    have := Nat.le_of_ble_eq_true this.2
    omega
  refine ga_main (ini := ga_ini) (fun y N C R e h cr q => ?_) (fun y h => (ga_nm_ok y (hin y h)).1) q1 q2 q3 q4 q5 (fun y cr ok g rt him hd hle H T => ?_) (fun y cr crm ok g rt h0 m him hb hok hcr H T => ?_) (fun y him => ?_)
  · by_cases hy : y < 273
    · exact ga_nm_ok y hy
    · rw [ga_bd_far hy] at q; cases q
  · by_cases hy : y < 273
    · exact ⟨0, 0, (ga_pa y hy).1 him Ω cr ok g rt ⟨fun _ => ga_le_rfl, fun _ _ _ => ga_le_trans, hd⟩ hle H T⟩
    · rw [ga_bd_far hy]
      exact ⟨0, 0, ⟨fun N C R e h k => k.elim, fun e h N C R k => k.elim⟩⟩
  · exact ⟨0, 0, (ga_pa y (hin y him)).2 him Ω cr crm ok g rt h0 m hb hok hcr H T⟩
  · have h1 : ∀ y, y < 273 → ga_im y = true → ga_ini y = false := by decide +kernel
    exact h1 y (hin y him) him
