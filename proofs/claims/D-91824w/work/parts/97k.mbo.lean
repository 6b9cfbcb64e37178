/-! LAYER 4p3: the reference: bits counted -/
def cntB (x j : Nat) : Nat := ((List.range j).filter fun i => x.testBit i).length
theorem cntB_succ (x j : Nat) : cntB x (j + 1) = cntB x j + (x >>> j &&& 1) := by
  unfold cntB
  have e : x >>> j &&& 1 = (x.testBit j).toNat := by rw [Nat.toNat_testBit, Nat.and_one_is_mod, Nat.shiftRight_eq_div_pow]
  rw [e, List.range_succ, List.filter_append, List.length_append]
  cases q : x.testBit j <;> simp [q]
theorem cntB_same {x : Nat} (h : x < 65536) : ∀ k, cntB x (16 + k) = popc x := by
  intro k
  induction k with
  | zero => rfl
  | succ k ih =>
    have e : x >>> (16 + k) &&& 1 = 0 := by
      rw [Nat.and_one_is_mod, Nat.shiftRight_eq_div_pow, Nat.div_eq_of_lt]
      have := Nat.pow_le_pow_right (n := 2) (by decide) (Nat.le_add_right 16 k)
      omega
    rw [← Nat.add_assoc, cntB_succ, ih, e, Nat.add_zero]
theorem sm_211 {m d x : Nat} {σ : MS} (hd : 1 ≤ d) (hx : x < 65536) : RM m d 211 [.inl (Int32.ofNat (x))] σ (some (.inl (Int32.ofNat (popc x)))) σ := by
  obtain ⟨e, rfl⟩ : ∃ q : Nat, d = q + 1 := ⟨d - 1, by omega⟩
  refine ruI (go_211 _ ?_)
  simp (maxSteps := 1000000) (disch := omega) only [↓xC_ap, ↓iV_ap, ↓lV_ap, ↓rV_ap, ↓x1_ap, ↓x2_ap, ↓x2p_ap, ↓xIf_ap, ↓cI_ap, ↓cL_ap, ↓cR_ap, ↓cN_ap, ↓cB_ap, ↓cAnd_ap, ↓cOr_ap, ↓cNot_ap, ↓cT_ap, ↓aN_ap, ↓aC_ap, ↓sSkip_ap, ↓sSeq_ap, ↓sI_ap, ↓sL_ap, ↓sR_ap, ↓sInc_ap, ↓sIf_ap, ↓sRet0_ap, ↓sRet_ap, ↓sCont_ap, ↓sEx_ap, ↓sSw_ap, ↓xP_ap, ↓hFI_ap, ↓hFL_ap, ↓hFR_ap, ↓hAI_ap, ↓hAL_ap, ↓hAR_ap, ↓hLen_ap, ↓hCast_ap, ↓hInst_ap, ↓sPI_ap, ↓sPZ_ap, ↓sPL_ap, ↓sPR_ap, ↓sUI_ap, ↓sAI_ap, ↓sAB_ap, ↓sAZ_ap, ↓sAL_ap, ↓sAR_ap, ↓sVI_ap, ↓sVL_ap, ↓hCV_ap, ↓hCS_ap, ↓hNew_ap, ↓hNA_ap, ↓hSp_ap, ↓sObj_ap, ↓sCopy_ap, ↓mFI_ap, ↓mFL_ap, ↓mAI_ap, ↓mAL_ap, ↓tI_ap, ↓tZ_ap, ↓tL_ap, ↓tU_ap, ↓tAI_ap, ↓tAB_ap, ↓tAZ_ap, ↓tAL_ap, ↓tV_ap, ↓mC_ap, ↓hLI_ap, ↓hLL_ap, ↓xB_ap, ↓cIte_ap, ga_get, ga_st1, ga_st2, ga_kill, ga_put, ga_dim, vI, vL, vR, vA, List.head?_cons, List.head?_nil, rkI, rkL, rkR, rkU, ga_cc, ga_lc, decide_eq_true_eq, List.length_cons, List.length_nil, Nat.reduceAdd, Nat.reduceLT, ga_rI, ga_rL, ga_rR, ga_rU, true_and, and_true, ↓reduceIte, mT, ↓Lm1, L0, L1, L2, L3, L4, L5, L6, L7, L8, L9, L10, L12, L15, L16, L17, L18, L20, L24, L26, L31, L32, L36, L48, L62, L64, L72, L96, L97, L122, L200, L255, L256, L399, L400, L600, L800, L9999, L1000000, i32_add, i32_mul, i32_sub, i32_lt, i32_le, i32_eq, i32_clamp, i32_in, mone_lt, mone_nlt, mone_le, mone_nle, mone_ne, mone_ne', M0, M1, i64_add, i64_mul, i64_lt, i64_le, i64_eq, i32_64, Nat.zero_le, ↓reduceIte, bI_0, bI_1, false_and, and_false, not_false_eq_true, not_true_eq_false, mset_i, mset_l, mset_a, mset_b, msetL_i, msetL_l, msetL_a, msetL_b, mas_i, mas_l, mas_a, mas_b, masL_i, masL_l, masL_a, masL_b, up_at, Nat.reduceEqDiff, ↓reduceIte, bm_211]
  refine lr_bm_211_l2 (fun n env τ => ∃ j, n = 24 - j ∧ j ≤ 24 ∧ env = [some (.inl (Int32.ofNat (x))), some (.inl (Int32.ofNat (cntB x j))), some (.inl (Int32.ofNat (j)))] ∧ τ = σ) ?_ 24 _ _ ⟨0, rfl, Nat.zero_le _, rfl, rfl⟩
  rintro n env τ ⟨j, rfl, hj, rfl, rfl⟩
  simp (maxSteps := 1000000) (disch := omega) only [↓xC_ap, ↓iV_ap, ↓lV_ap, ↓rV_ap, ↓x1_ap, ↓x2_ap, ↓x2p_ap, ↓xIf_ap, ↓cI_ap, ↓cL_ap, ↓cR_ap, ↓cN_ap, ↓cB_ap, ↓cAnd_ap, ↓cOr_ap, ↓cNot_ap, ↓cT_ap, ↓aN_ap, ↓aC_ap, ↓sSkip_ap, ↓sSeq_ap, ↓sI_ap, ↓sL_ap, ↓sR_ap, ↓sInc_ap, ↓sIf_ap, ↓sRet0_ap, ↓sRet_ap, ↓sCont_ap, ↓sEx_ap, ↓sSw_ap, ↓xP_ap, ↓hFI_ap, ↓hFL_ap, ↓hFR_ap, ↓hAI_ap, ↓hAL_ap, ↓hAR_ap, ↓hLen_ap, ↓hCast_ap, ↓hInst_ap, ↓sPI_ap, ↓sPZ_ap, ↓sPL_ap, ↓sPR_ap, ↓sUI_ap, ↓sAI_ap, ↓sAB_ap, ↓sAZ_ap, ↓sAL_ap, ↓sAR_ap, ↓sVI_ap, ↓sVL_ap, ↓hCV_ap, ↓hCS_ap, ↓hNew_ap, ↓hNA_ap, ↓hSp_ap, ↓sObj_ap, ↓sCopy_ap, ↓mFI_ap, ↓mFL_ap, ↓mAI_ap, ↓mAL_ap, ↓tI_ap, ↓tZ_ap, ↓tL_ap, ↓tU_ap, ↓tAI_ap, ↓tAB_ap, ↓tAZ_ap, ↓tAL_ap, ↓tV_ap, ↓mC_ap, ↓hLI_ap, ↓hLL_ap, ↓xB_ap, ↓cIte_ap, ga_get, ga_st1, ga_st2, ga_kill, ga_put, ga_dim, vI, vL, vR, vA, List.head?_cons, List.head?_nil, rkI, rkL, rkR, rkU, ga_cc, ga_lc, decide_eq_true_eq, List.length_cons, List.length_nil, Nat.reduceAdd, Nat.reduceLT, ga_rI, ga_rL, ga_rR, ga_rU, true_and, and_true, ↓reduceIte, mT, ↓Lm1, L0, L1, L2, L3, L4, L5, L6, L7, L8, L9, L10, L12, L15, L16, L17, L18, L20, L24, L26, L31, L32, L36, L48, L62, L64, L72, L96, L97, L122, L200, L255, L256, L399, L400, L600, L800, L9999, L1000000, i32_add, i32_mul, i32_sub, i32_lt, i32_le, i32_eq, i32_clamp, i32_in, mone_lt, mone_nlt, mone_le, mone_nle, mone_ne, mone_ne', M0, M1, i64_add, i64_mul, i64_lt, i64_le, i64_eq, i32_64, Nat.zero_le, ↓reduceIte, bI_0, bI_1, false_and, and_false, not_false_eq_true, not_true_eq_false, mset_i, mset_l, mset_a, mset_b, msetL_i, msetL_l, msetL_a, msetL_b, mas_i, mas_l, mas_a, mas_b, masL_i, masL_l, masL_a, masL_b, up_at, Nat.reduceEqDiff, ↓reduceIte, L24]
  by_cases hjl : j < 24
  · rw [if_pos hjl]
    unfold bm_211_b1
    simp (maxSteps := 1000000) (disch := omega) only [↓xC_ap, ↓iV_ap, ↓lV_ap, ↓rV_ap, ↓x1_ap, ↓x2_ap, ↓x2p_ap, ↓xIf_ap, ↓cI_ap, ↓cL_ap, ↓cR_ap, ↓cN_ap, ↓cB_ap, ↓cAnd_ap, ↓cOr_ap, ↓cNot_ap, ↓cT_ap, ↓aN_ap, ↓aC_ap, ↓sSkip_ap, ↓sSeq_ap, ↓sI_ap, ↓sL_ap, ↓sR_ap, ↓sInc_ap, ↓sIf_ap, ↓sRet0_ap, ↓sRet_ap, ↓sCont_ap, ↓sEx_ap, ↓sSw_ap, ↓xP_ap, ↓hFI_ap, ↓hFL_ap, ↓hFR_ap, ↓hAI_ap, ↓hAL_ap, ↓hAR_ap, ↓hLen_ap, ↓hCast_ap, ↓hInst_ap, ↓sPI_ap, ↓sPZ_ap, ↓sPL_ap, ↓sPR_ap, ↓sUI_ap, ↓sAI_ap, ↓sAB_ap, ↓sAZ_ap, ↓sAL_ap, ↓sAR_ap, ↓sVI_ap, ↓sVL_ap, ↓hCV_ap, ↓hCS_ap, ↓hNew_ap, ↓hNA_ap, ↓hSp_ap, ↓sObj_ap, ↓sCopy_ap, ↓mFI_ap, ↓mFL_ap, ↓mAI_ap, ↓mAL_ap, ↓tI_ap, ↓tZ_ap, ↓tL_ap, ↓tU_ap, ↓tAI_ap, ↓tAB_ap, ↓tAZ_ap, ↓tAL_ap, ↓tV_ap, ↓mC_ap, ↓hLI_ap, ↓hLL_ap, ↓xB_ap, ↓cIte_ap, ga_get, ga_st1, ga_st2, ga_kill, ga_put, ga_dim, vI, vL, vR, vA, List.head?_cons, List.head?_nil, rkI, rkL, rkR, rkU, ga_cc, ga_lc, decide_eq_true_eq, List.length_cons, List.length_nil, Nat.reduceAdd, Nat.reduceLT, ga_rI, ga_rL, ga_rR, ga_rU, true_and, and_true, ↓reduceIte, mT, ↓Lm1, L0, L1, L2, L3, L4, L5, L6, L7, L8, L9, L10, L12, L15, L16, L17, L18, L20, L24, L26, L31, L32, L36, L48, L62, L64, L72, L96, L97, L122, L200, L255, L256, L399, L400, L600, L800, L9999, L1000000, i32_add, i32_mul, i32_sub, i32_lt, i32_le, i32_eq, i32_clamp, i32_in, mone_lt, mone_nlt, mone_le, mone_nle, mone_ne, mone_ne', M0, M1, i64_add, i64_mul, i64_lt, i64_le, i64_eq, i32_64, Nat.zero_le, ↓reduceIte, bI_0, bI_1, false_and, and_false, not_false_eq_true, not_true_eq_false, mset_i, mset_l, mset_a, mset_b, msetL_i, msetL_l, msetL_a, msetL_b, mas_i, mas_l, mas_a, mas_b, masL_i, masL_l, masL_a, masL_b, up_at, Nat.reduceEqDiff, ↓reduceIte, i32_shr2, i32_and, i32_succ]
    refine ⟨_, by omega, j + 1, rfl, by omega, ?_⟩
    rw [cntB_succ]
  · rw [if_neg hjl]
    have : j = 24 := by omega
    subst this
    rw [← cntB_same hx 8]
