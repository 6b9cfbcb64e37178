/-! LAYER 4p8: the reference: a deal added, nets, how many codes, the next code -/
/-- which deal an int tells -/
def dOf (n : Nat) (v : Int32) : Option Nat := if 0 ≤ v.toInt ∧ v.toInt < n then some v.toInt.toNat else none
theorem dOf_some {n k : Nat} {v : Int32} (h : dOf n v = some k) : k < n ∧ v = Int32.ofNat k := by
  unfold dOf at h
  split at h
  · rename_i q
    cases h
    refine ⟨by omega, Int32.toInt_inj.mp ?_⟩
    have := Int32.toInt_lt v
    rw [Int32.toInt_ofNat_small (by omega)]
    omega
  · cases h
theorem dOf_of {n k : Nat} (hn : k < 2 ^ 31) (h : k < n) : dOf n (Int32.ofNat k) = some k := by
  unfold dOf
  rw [Int32.toInt_ofNat_small hn, if_pos (by omega)]
  rfl
theorem dOf_iff {n : Nat} {v : Int32} (hn : n < 2 ^ 31) : (0 ≤ v ∧ v < Int32.ofNat n) ↔ (dOf n v).isSome = true := by
  rw [Int32.le_iff_toInt_le, Int32.lt_iff_toInt_lt, Int32.toInt_ofNat_small hn]
  unfold dOf
  have e : (0 : Int32).toInt = 0 := rfl
  rw [e]
  split <;> simp_all
theorem dec_dOf {n : Nat} {v : Int32} (hn : n < 2 ^ 31) : decide (0 ≤ v ∧ v < Int32.ofNat n) = (dOf n v).isSome := by
  rw [Bool.eq_iff_iff, decide_eq_true_iff, dOf_iff hn]
/-- an int in a range from 0 -/
theorem dec_in {v : Int32} {n : Nat} (hn : n < 2 ^ 31) : decide ((0 : Int32) ≤ v ∧ v ≤ Int32.ofNat n) = (dOf (n + 1) v).isSome := by
  rw [Bool.eq_iff_iff, decide_eq_true_iff, Int32.le_iff_toInt_le, Int32.le_iff_toInt_le, Int32.toInt_ofNat_small hn]
  unfold dOf
  have e : (0 : Int32).toInt = 0 := rfl
  rw [e]
  split
  · simp; omega
  · simp; omega
section L
variable {m d : Nat} {σ : MS} {dl : Nat → DD} {ks : List Nat}
theorem sm_186' {n : Nat} {v : Int32} (hd : 1 ≤ d) (h1 : σ.1 1 = Int32.ofNat n) (hn : n < 2 ^ 31) : RM m d 186 [.inr (.inr (some (m))), .inl v] σ (some (.inl (bI (dOf n v).isSome))) σ := by
  have := sm_186 (m := m) (σ := σ) (v := v) hd
  rwa [h1, dec_dOf hn] at this
theorem sm_164' {n : Nat} {v : Int32} (hd : 1 ≤ d) (hn : n < 2 ^ 31) : RM m d 164 [.inl v, .inl (Int32.ofNat 0), .inl (Int32.ofNat (n))] σ (some (.inl (bI (dOf (n + 1) v).isSome))) σ := by
  have := sm_164 (m := m) (σ := σ) (v := v) (lo := 0) (hi := Int32.ofNat n) hd
  rwa [dec_in hn] at this
/-- a deal into the bundle -/
def addF (n : Nat) (ks : List Nat) (v : Int32) : Int32 × List Nat := match dOf n v with
  | none => (mone, ks)
  | some k => if ks.length = 6 ∨ k ∈ ks then (mone, ks) else (Int32.ofNat (ks.length + 1), ks ++ [k])
theorem sm_206 {n : Nat} {v : Int32} (hd : 2 ≤ d) (h1 : σ.1 1 = Int32.ofNat n) (hn : n ≤ 24) (hB : isBl σ ks) (hk : ∀ k ∈ ks, k < n) : ∃ τ, RM m d 206 [.inr (.inr (some (m))), .inl v] σ (some (.inl (addF n ks v).1)) τ ∧ (isBl τ (addF n ks v).2 ∧ mFr [54, 56] σ τ) := by
  obtain ⟨e, rfl⟩ : ∃ q : Nat, d = q + 1 := ⟨d - 1, by omega⟩
  obtain ⟨b0, b1, b2⟩ := id hB
  suffices H : ∃ w τ, RM m (e + 1) 206 [.inr (.inr (some (m))), .inl v] σ (some (.inl w)) τ ∧ (w = (addF n ks v).1 ∧ isBl τ (addF n ks v).2 ∧ mFr [54, 56] σ τ) by
    obtain ⟨w, τ, p1, rfl, p2⟩ := H
    exact ⟨τ, p1, p2⟩
  have r1 := sm_186' (m := m) (d := e) (σ := σ) (v := v) (by omega) h1 (by omega)
  refine go_206 _ ?_
  simp (maxSteps := 1000000) (disch := omega) only [↓xC_ap, ↓iV_ap, ↓lV_ap, ↓rV_ap, ↓x1_ap, ↓x2_ap, ↓x2p_ap, ↓xIf_ap, ↓cI_ap, ↓cL_ap, ↓cR_ap, ↓cN_ap, ↓cB_ap, ↓cAnd_ap, ↓cOr_ap, ↓cNot_ap, ↓cT_ap, ↓aN_ap, ↓aC_ap, ↓sSkip_ap, ↓sSeq_ap, ↓sI_ap, ↓sL_ap, ↓sR_ap, ↓sInc_ap, ↓sIf_ap, ↓sRet0_ap, ↓sRet_ap, ↓sCont_ap, ↓sEx_ap, ↓sSw_ap, ↓xP_ap, ↓hFI_ap, ↓hFL_ap, ↓hFR_ap, ↓hAI_ap, ↓hAL_ap, ↓hAR_ap, ↓hLen_ap, ↓hCast_ap, ↓hInst_ap, ↓sPI_ap, ↓sPZ_ap, ↓sPL_ap, ↓sPR_ap, ↓sUI_ap, ↓sAI_ap, ↓sAB_ap, ↓sAZ_ap, ↓sAL_ap, ↓sAR_ap, ↓sVI_ap, ↓sVL_ap, ↓hCV_ap, ↓hCS_ap, ↓hNew_ap, ↓hNA_ap, ↓hSp_ap, ↓sObj_ap, ↓sCopy_ap, ↓mFI_ap, ↓mFL_ap, ↓mAI_ap, ↓mAL_ap, ↓tI_ap, ↓tZ_ap, ↓tL_ap, ↓tU_ap, ↓tAI_ap, ↓tAB_ap, ↓tAZ_ap, ↓tAL_ap, ↓tV_ap, ↓mC_ap, ↓hLI_ap, ↓hLL_ap, ↓xB_ap, ↓cIte_ap, ga_get, ga_st1, ga_st2, ga_kill, ga_put, ga_dim, vI, vL, vR, vA, List.head?_cons, List.head?_nil, rkI, rkL, rkR, rkU, ga_cc, ga_lc, decide_eq_true_eq, List.length_cons, List.length_nil, Nat.reduceAdd, Nat.reduceLT, ga_rI, ga_rL, ga_rR, ga_rU, true_and, and_true, ↓reduceIte, mT, ↓Lm1, L0, L1, L2, L3, L4, L5, L6, L7, L8, L9, L10, L12, L15, L16, L17, L18, L20, L24, L26, L31, L32, L36, L48, L62, L64, L72, L96, L97, L122, L200, L255, L256, L399, L400, L600, L800, L9999, L1000000, i32_add, i32_mul, i32_sub, i32_lt, i32_le, i32_eq, i32_clamp, i32_in, mone_lt, mone_nlt, mone_le, mone_nle, mone_ne, mone_ne', M0, M1, i64_add, i64_mul, i64_lt, i64_le, i64_eq, i32_64, Nat.zero_le, ↓reduceIte, bI_0, bI_1, false_and, and_false, not_false_eq_true, not_true_eq_false, mset_i, mset_l, mset_a, mset_b, msetL_i, msetL_l, msetL_a, msetL_b, mas_i, mas_l, mas_a, mas_b, masL_i, masL_l, masL_a, masL_b, up_at, Nat.reduceEqDiff, ↓reduceIte, bm_206]
  refine ⟨_, _, r1, ?_⟩
  cases hv : dOf n v with
  | none =>
    have ha : addF n ks v = (mone, ks) := by unfold addF; rw [hv]
    rw [ha]
    simp (maxSteps := 1000000) (disch := omega) only [↓xC_ap, ↓iV_ap, ↓lV_ap, ↓rV_ap, ↓x1_ap, ↓x2_ap, ↓x2p_ap, ↓xIf_ap, ↓cI_ap, ↓cL_ap, ↓cR_ap, ↓cN_ap, ↓cB_ap, ↓cAnd_ap, ↓cOr_ap, ↓cNot_ap, ↓cT_ap, ↓aN_ap, ↓aC_ap, ↓sSkip_ap, ↓sSeq_ap, ↓sI_ap, ↓sL_ap, ↓sR_ap, ↓sInc_ap, ↓sIf_ap, ↓sRet0_ap, ↓sRet_ap, ↓sCont_ap, ↓sEx_ap, ↓sSw_ap, ↓xP_ap, ↓hFI_ap, ↓hFL_ap, ↓hFR_ap, ↓hAI_ap, ↓hAL_ap, ↓hAR_ap, ↓hLen_ap, ↓hCast_ap, ↓hInst_ap, ↓sPI_ap, ↓sPZ_ap, ↓sPL_ap, ↓sPR_ap, ↓sUI_ap, ↓sAI_ap, ↓sAB_ap, ↓sAZ_ap, ↓sAL_ap, ↓sAR_ap, ↓sVI_ap, ↓sVL_ap, ↓hCV_ap, ↓hCS_ap, ↓hNew_ap, ↓hNA_ap, ↓hSp_ap, ↓sObj_ap, ↓sCopy_ap, ↓mFI_ap, ↓mFL_ap, ↓mAI_ap, ↓mAL_ap, ↓tI_ap, ↓tZ_ap, ↓tL_ap, ↓tU_ap, ↓tAI_ap, ↓tAB_ap, ↓tAZ_ap, ↓tAL_ap, ↓tV_ap, ↓mC_ap, ↓hLI_ap, ↓hLL_ap, ↓xB_ap, ↓cIte_ap, ga_get, ga_st1, ga_st2, ga_kill, ga_put, ga_dim, vI, vL, vR, vA, List.head?_cons, List.head?_nil, rkI, rkL, rkR, rkU, ga_cc, ga_lc, decide_eq_true_eq, List.length_cons, List.length_nil, Nat.reduceAdd, Nat.reduceLT, ga_rI, ga_rL, ga_rR, ga_rU, true_and, and_true, ↓reduceIte, mT, ↓Lm1, L0, L1, L2, L3, L4, L5, L6, L7, L8, L9, L10, L12, L15, L16, L17, L18, L20, L24, L26, L31, L32, L36, L48, L62, L64, L72, L96, L97, L122, L200, L255, L256, L399, L400, L600, L800, L9999, L1000000, i32_add, i32_mul, i32_sub, i32_lt, i32_le, i32_eq, i32_clamp, i32_in, mone_lt, mone_nlt, mone_le, mone_nle, mone_ne, mone_ne', M0, M1, i64_add, i64_mul, i64_lt, i64_le, i64_eq, i32_64, Nat.zero_le, ↓reduceIte, bI_0, bI_1, false_and, and_false, not_false_eq_true, not_true_eq_false, mset_i, mset_l, mset_a, mset_b, msetL_i, msetL_l, msetL_a, msetL_b, mas_i, mas_l, mas_a, mas_b, masL_i, masL_l, masL_a, masL_b, up_at, Nat.reduceEqDiff, ↓reduceIte, Option.isSome_none]
    exact ⟨hB, mFr_rfl _ _⟩
  | some k =>
    obtain ⟨hkn, rfl⟩ := dOf_some hv
    have ha : addF n ks (Int32.ofNat k) = if ks.length = 6 ∨ k ∈ ks then (mone, ks) else (Int32.ofNat (ks.length + 1), ks ++ [k]) := by unfold addF; rw [hv]
    rw [ha]
    by_cases h6 : ks.length = 6
    · rw [if_pos (Or.inl h6)]
      simp (maxSteps := 1000000) (disch := omega) only [↓xC_ap, ↓iV_ap, ↓lV_ap, ↓rV_ap, ↓x1_ap, ↓x2_ap, ↓x2p_ap, ↓xIf_ap, ↓cI_ap, ↓cL_ap, ↓cR_ap, ↓cN_ap, ↓cB_ap, ↓cAnd_ap, ↓cOr_ap, ↓cNot_ap, ↓cT_ap, ↓aN_ap, ↓aC_ap, ↓sSkip_ap, ↓sSeq_ap, ↓sI_ap, ↓sL_ap, ↓sR_ap, ↓sInc_ap, ↓sIf_ap, ↓sRet0_ap, ↓sRet_ap, ↓sCont_ap, ↓sEx_ap, ↓sSw_ap, ↓xP_ap, ↓hFI_ap, ↓hFL_ap, ↓hFR_ap, ↓hAI_ap, ↓hAL_ap, ↓hAR_ap, ↓hLen_ap, ↓hCast_ap, ↓hInst_ap, ↓sPI_ap, ↓sPZ_ap, ↓sPL_ap, ↓sPR_ap, ↓sUI_ap, ↓sAI_ap, ↓sAB_ap, ↓sAZ_ap, ↓sAL_ap, ↓sAR_ap, ↓sVI_ap, ↓sVL_ap, ↓hCV_ap, ↓hCS_ap, ↓hNew_ap, ↓hNA_ap, ↓hSp_ap, ↓sObj_ap, ↓sCopy_ap, ↓mFI_ap, ↓mFL_ap, ↓mAI_ap, ↓mAL_ap, ↓tI_ap, ↓tZ_ap, ↓tL_ap, ↓tU_ap, ↓tAI_ap, ↓tAB_ap, ↓tAZ_ap, ↓tAL_ap, ↓tV_ap, ↓mC_ap, ↓hLI_ap, ↓hLL_ap, ↓xB_ap, ↓cIte_ap, ga_get, ga_st1, ga_st2, ga_kill, ga_put, ga_dim, vI, vL, vR, vA, List.head?_cons, List.head?_nil, rkI, rkL, rkR, rkU, ga_cc, ga_lc, decide_eq_true_eq, List.length_cons, List.length_nil, Nat.reduceAdd, Nat.reduceLT, ga_rI, ga_rL, ga_rR, ga_rU, true_and, and_true, ↓reduceIte, mT, ↓Lm1, L0, L1, L2, L3, L4, L5, L6, L7, L8, L9, L10, L12, L15, L16, L17, L18, L20, L24, L26, L31, L32, L36, L48, L62, L64, L72, L96, L97, L122, L200, L255, L256, L399, L400, L600, L800, L9999, L1000000, i32_add, i32_mul, i32_sub, i32_lt, i32_le, i32_eq, i32_clamp, i32_in, mone_lt, mone_nlt, mone_le, mone_nle, mone_ne, mone_ne', M0, M1, i64_add, i64_mul, i64_lt, i64_le, i64_eq, i32_64, Nat.zero_le, ↓reduceIte, bI_0, bI_1, false_and, and_false, not_false_eq_true, not_true_eq_false, mset_i, mset_l, mset_a, mset_b, msetL_i, msetL_l, msetL_a, msetL_b, mas_i, mas_l, mas_a, mas_b, masL_i, masL_l, masL_a, masL_b, up_at, Nat.reduceEqDiff, ↓reduceIte, Option.isSome_some, b1, h6, Bool.true_eq_false]
      exact ⟨hB, mFr_rfl _ _⟩
    simp (maxSteps := 1000000) (disch := omega) only [↓xC_ap, ↓iV_ap, ↓lV_ap, ↓rV_ap, ↓x1_ap, ↓x2_ap, ↓x2p_ap, ↓xIf_ap, ↓cI_ap, ↓cL_ap, ↓cR_ap, ↓cN_ap, ↓cB_ap, ↓cAnd_ap, ↓cOr_ap, ↓cNot_ap, ↓cT_ap, ↓aN_ap, ↓aC_ap, ↓sSkip_ap, ↓sSeq_ap, ↓sI_ap, ↓sL_ap, ↓sR_ap, ↓sInc_ap, ↓sIf_ap, ↓sRet0_ap, ↓sRet_ap, ↓sCont_ap, ↓sEx_ap, ↓sSw_ap, ↓xP_ap, ↓hFI_ap, ↓hFL_ap, ↓hFR_ap, ↓hAI_ap, ↓hAL_ap, ↓hAR_ap, ↓hLen_ap, ↓hCast_ap, ↓hInst_ap, ↓sPI_ap, ↓sPZ_ap, ↓sPL_ap, ↓sPR_ap, ↓sUI_ap, ↓sAI_ap, ↓sAB_ap, ↓sAZ_ap, ↓sAL_ap, ↓sAR_ap, ↓sVI_ap, ↓sVL_ap, ↓hCV_ap, ↓hCS_ap, ↓hNew_ap, ↓hNA_ap, ↓hSp_ap, ↓sObj_ap, ↓sCopy_ap, ↓mFI_ap, ↓mFL_ap, ↓mAI_ap, ↓mAL_ap, ↓tI_ap, ↓tZ_ap, ↓tL_ap, ↓tU_ap, ↓tAI_ap, ↓tAB_ap, ↓tAZ_ap, ↓tAL_ap, ↓tV_ap, ↓mC_ap, ↓hLI_ap, ↓hLL_ap, ↓xB_ap, ↓cIte_ap, ga_get, ga_st1, ga_st2, ga_kill, ga_put, ga_dim, vI, vL, vR, vA, List.head?_cons, List.head?_nil, rkI, rkL, rkR, rkU, ga_cc, ga_lc, decide_eq_true_eq, List.length_cons, List.length_nil, Nat.reduceAdd, Nat.reduceLT, ga_rI, ga_rL, ga_rR, ga_rU, true_and, and_true, ↓reduceIte, mT, ↓Lm1, L0, L1, L2, L3, L4, L5, L6, L7, L8, L9, L10, L12, L15, L16, L17, L18, L20, L24, L26, L31, L32, L36, L48, L62, L64, L72, L96, L97, L122, L200, L255, L256, L399, L400, L600, L800, L9999, L1000000, i32_add, i32_mul, i32_sub, i32_lt, i32_le, i32_eq, i32_clamp, i32_in, mone_lt, mone_nlt, mone_le, mone_nle, mone_ne, mone_ne', M0, M1, i64_add, i64_mul, i64_lt, i64_le, i64_eq, i32_64, Nat.zero_le, ↓reduceIte, bI_0, bI_1, false_and, and_false, not_false_eq_true, not_true_eq_false, mset_i, mset_l, mset_a, mset_b, msetL_i, msetL_l, msetL_a, msetL_b, mas_i, mas_l, mas_a, mas_b, masL_i, masL_l, masL_a, masL_b, up_at, Nat.reduceEqDiff, ↓reduceIte, Option.isSome_some, b1, h6, Bool.true_eq_false]
    refine lr_bm_206_l2 (fun n' env τ => ∃ j, n' = ks.length - j ∧ j ≤ ks.length ∧ env = [some (.inr (.inr (some (m)))), some (.inl (Int32.ofNat (k))), some (.inl (Int32.ofNat (j)))] ∧ τ = σ ∧ ∀ i x, i < j → ks[i]? = some x → x ≠ k) ?_ ks.length _ _ ⟨0, rfl, Nat.zero_le _, rfl, rfl, fun i x hi => by omega⟩
    rintro n' env τ ⟨j, rfl, hj, rfl, rfl, hz⟩
    simp (maxSteps := 1000000) (disch := omega) only [↓xC_ap, ↓iV_ap, ↓lV_ap, ↓rV_ap, ↓x1_ap, ↓x2_ap, ↓x2p_ap, ↓xIf_ap, ↓cI_ap, ↓cL_ap, ↓cR_ap, ↓cN_ap, ↓cB_ap, ↓cAnd_ap, ↓cOr_ap, ↓cNot_ap, ↓cT_ap, ↓aN_ap, ↓aC_ap, ↓sSkip_ap, ↓sSeq_ap, ↓sI_ap, ↓sL_ap, ↓sR_ap, ↓sInc_ap, ↓sIf_ap, ↓sRet0_ap, ↓sRet_ap, ↓sCont_ap, ↓sEx_ap, ↓sSw_ap, ↓xP_ap, ↓hFI_ap, ↓hFL_ap, ↓hFR_ap, ↓hAI_ap, ↓hAL_ap, ↓hAR_ap, ↓hLen_ap, ↓hCast_ap, ↓hInst_ap, ↓sPI_ap, ↓sPZ_ap, ↓sPL_ap, ↓sPR_ap, ↓sUI_ap, ↓sAI_ap, ↓sAB_ap, ↓sAZ_ap, ↓sAL_ap, ↓sAR_ap, ↓sVI_ap, ↓sVL_ap, ↓hCV_ap, ↓hCS_ap, ↓hNew_ap, ↓hNA_ap, ↓hSp_ap, ↓sObj_ap, ↓sCopy_ap, ↓mFI_ap, ↓mFL_ap, ↓mAI_ap, ↓mAL_ap, ↓tI_ap, ↓tZ_ap, ↓tL_ap, ↓tU_ap, ↓tAI_ap, ↓tAB_ap, ↓tAZ_ap, ↓tAL_ap, ↓tV_ap, ↓mC_ap, ↓hLI_ap, ↓hLL_ap, ↓xB_ap, ↓cIte_ap, ga_get, ga_st1, ga_st2, ga_kill, ga_put, ga_dim, vI, vL, vR, vA, List.head?_cons, List.head?_nil, rkI, rkL, rkR, rkU, ga_cc, ga_lc, decide_eq_true_eq, List.length_cons, List.length_nil, Nat.reduceAdd, Nat.reduceLT, ga_rI, ga_rL, ga_rR, ga_rU, true_and, and_true, ↓reduceIte, mT, ↓Lm1, L0, L1, L2, L3, L4, L5, L6, L7, L8, L9, L10, L12, L15, L16, L17, L18, L20, L24, L26, L31, L32, L36, L48, L62, L64, L72, L96, L97, L122, L200, L255, L256, L399, L400, L600, L800, L9999, L1000000, i32_add, i32_mul, i32_sub, i32_lt, i32_le, i32_eq, i32_clamp, i32_in, mone_lt, mone_nlt, mone_le, mone_nle, mone_ne, mone_ne', M0, M1, i64_add, i64_mul, i64_lt, i64_le, i64_eq, i32_64, Nat.zero_le, ↓reduceIte, bI_0, bI_1, false_and, and_false, not_false_eq_true, not_true_eq_false, mset_i, mset_l, mset_a, mset_b, msetL_i, msetL_l, msetL_a, msetL_b, mas_i, mas_l, mas_a, mas_b, masL_i, masL_l, masL_a, masL_b, up_at, Nat.reduceEqDiff, ↓reduceIte, b1]
    by_cases hjl : j < ks.length
    · rw [if_pos hjl]
      have hx := List.getElem?_eq_getElem hjl
      have k1 := b2 j _ hx
      have hxn := hk _ (List.mem_of_getElem? hx)
      unfold bm_206_b1
      by_cases he : ks[j] = k
      · have hin : k ∈ ks := he ▸ List.mem_of_getElem? hx
        rw [if_pos (Or.inr hin)]
        simp (maxSteps := 1000000) (disch := omega) only [↓xC_ap, ↓iV_ap, ↓lV_ap, ↓rV_ap, ↓x1_ap, ↓x2_ap, ↓x2p_ap, ↓xIf_ap, ↓cI_ap, ↓cL_ap, ↓cR_ap, ↓cN_ap, ↓cB_ap, ↓cAnd_ap, ↓cOr_ap, ↓cNot_ap, ↓cT_ap, ↓aN_ap, ↓aC_ap, ↓sSkip_ap, ↓sSeq_ap, ↓sI_ap, ↓sL_ap, ↓sR_ap, ↓sInc_ap, ↓sIf_ap, ↓sRet0_ap, ↓sRet_ap, ↓sCont_ap, ↓sEx_ap, ↓sSw_ap, ↓xP_ap, ↓hFI_ap, ↓hFL_ap, ↓hFR_ap, ↓hAI_ap, ↓hAL_ap, ↓hAR_ap, ↓hLen_ap, ↓hCast_ap, ↓hInst_ap, ↓sPI_ap, ↓sPZ_ap, ↓sPL_ap, ↓sPR_ap, ↓sUI_ap, ↓sAI_ap, ↓sAB_ap, ↓sAZ_ap, ↓sAL_ap, ↓sAR_ap, ↓sVI_ap, ↓sVL_ap, ↓hCV_ap, ↓hCS_ap, ↓hNew_ap, ↓hNA_ap, ↓hSp_ap, ↓sObj_ap, ↓sCopy_ap, ↓mFI_ap, ↓mFL_ap, ↓mAI_ap, ↓mAL_ap, ↓tI_ap, ↓tZ_ap, ↓tL_ap, ↓tU_ap, ↓tAI_ap, ↓tAB_ap, ↓tAZ_ap, ↓tAL_ap, ↓tV_ap, ↓mC_ap, ↓hLI_ap, ↓hLL_ap, ↓xB_ap, ↓cIte_ap, ga_get, ga_st1, ga_st2, ga_kill, ga_put, ga_dim, vI, vL, vR, vA, List.head?_cons, List.head?_nil, rkI, rkL, rkR, rkU, ga_cc, ga_lc, decide_eq_true_eq, List.length_cons, List.length_nil, Nat.reduceAdd, Nat.reduceLT, ga_rI, ga_rL, ga_rR, ga_rU, true_and, and_true, ↓reduceIte, mT, ↓Lm1, L0, L1, L2, L3, L4, L5, L6, L7, L8, L9, L10, L12, L15, L16, L17, L18, L20, L24, L26, L31, L32, L36, L48, L62, L64, L72, L96, L97, L122, L200, L255, L256, L399, L400, L600, L800, L9999, L1000000, i32_add, i32_mul, i32_sub, i32_lt, i32_le, i32_eq, i32_clamp, i32_in, mone_lt, mone_nlt, mone_le, mone_nle, mone_ne, mone_ne', M0, M1, i64_add, i64_mul, i64_lt, i64_le, i64_eq, i32_64, Nat.zero_le, ↓reduceIte, bI_0, bI_1, false_and, and_false, not_false_eq_true, not_true_eq_false, mset_i, mset_l, mset_a, mset_b, msetL_i, msetL_l, msetL_a, msetL_b, mas_i, mas_l, mas_a, mas_b, masL_i, masL_l, masL_a, masL_b, up_at, Nat.reduceEqDiff, ↓reduceIte, mLen_0, mLen_2, mLen_3, mLen_4, mLen_5, mLen_6, mLen_7, mLen_8, mLen_9, mLen_10, mLen_11, mLen_12, mLen_13, mLen_14, mLen_15, mLen_16, mLen_17, mLen_18, mLen_19, mLen_20, mLen_30, mLen_31, mLen_38, mLen_39, mLen_40, mLen_44, mLen_46, mLen_49, mLen_50, mLen_51, mLen_52, mLen_53, mLen_56, mLen_57, mLen_62, mLen_63, mLen_64, mLen_65, mLen_66, mLen_69, mLen_70, mLen_71, mLen_72, mLen_73, mLen_74, mLen_75, mLen_76, mLen_77, mLen_81, mLen_82, mLen_86, mLen_87, mLen_89, mLen_90, mLen_91, mLen_92, k1, he]
        exact ⟨hB, mFr_rfl _ _⟩
      · simp (maxSteps := 1000000) (disch := omega) only [↓xC_ap, ↓iV_ap, ↓lV_ap, ↓rV_ap, ↓x1_ap, ↓x2_ap, ↓x2p_ap, ↓xIf_ap, ↓cI_ap, ↓cL_ap, ↓cR_ap, ↓cN_ap, ↓cB_ap, ↓cAnd_ap, ↓cOr_ap, ↓cNot_ap, ↓cT_ap, ↓aN_ap, ↓aC_ap, ↓sSkip_ap, ↓sSeq_ap, ↓sI_ap, ↓sL_ap, ↓sR_ap, ↓sInc_ap, ↓sIf_ap, ↓sRet0_ap, ↓sRet_ap, ↓sCont_ap, ↓sEx_ap, ↓sSw_ap, ↓xP_ap, ↓hFI_ap, ↓hFL_ap, ↓hFR_ap, ↓hAI_ap, ↓hAL_ap, ↓hAR_ap, ↓hLen_ap, ↓hCast_ap, ↓hInst_ap, ↓sPI_ap, ↓sPZ_ap, ↓sPL_ap, ↓sPR_ap, ↓sUI_ap, ↓sAI_ap, ↓sAB_ap, ↓sAZ_ap, ↓sAL_ap, ↓sAR_ap, ↓sVI_ap, ↓sVL_ap, ↓hCV_ap, ↓hCS_ap, ↓hNew_ap, ↓hNA_ap, ↓hSp_ap, ↓sObj_ap, ↓sCopy_ap, ↓mFI_ap, ↓mFL_ap, ↓mAI_ap, ↓mAL_ap, ↓tI_ap, ↓tZ_ap, ↓tL_ap, ↓tU_ap, ↓tAI_ap, ↓tAB_ap, ↓tAZ_ap, ↓tAL_ap, ↓tV_ap, ↓mC_ap, ↓hLI_ap, ↓hLL_ap, ↓xB_ap, ↓cIte_ap, ga_get, ga_st1, ga_st2, ga_kill, ga_put, ga_dim, vI, vL, vR, vA, List.head?_cons, List.head?_nil, rkI, rkL, rkR, rkU, ga_cc, ga_lc, decide_eq_true_eq, List.length_cons, List.length_nil, Nat.reduceAdd, Nat.reduceLT, ga_rI, ga_rL, ga_rR, ga_rU, true_and, and_true, ↓reduceIte, mT, ↓Lm1, L0, L1, L2, L3, L4, L5, L6, L7, L8, L9, L10, L12, L15, L16, L17, L18, L20, L24, L26, L31, L32, L36, L48, L62, L64, L72, L96, L97, L122, L200, L255, L256, L399, L400, L600, L800, L9999, L1000000, i32_add, i32_mul, i32_sub, i32_lt, i32_le, i32_eq, i32_clamp, i32_in, mone_lt, mone_nlt, mone_le, mone_nle, mone_ne, mone_ne', M0, M1, i64_add, i64_mul, i64_lt, i64_le, i64_eq, i32_64, Nat.zero_le, ↓reduceIte, bI_0, bI_1, false_and, and_false, not_false_eq_true, not_true_eq_false, mset_i, mset_l, mset_a, mset_b, msetL_i, msetL_l, msetL_a, msetL_b, mas_i, mas_l, mas_a, mas_b, masL_i, masL_l, masL_a, masL_b, up_at, Nat.reduceEqDiff, ↓reduceIte, mLen_0, mLen_2, mLen_3, mLen_4, mLen_5, mLen_6, mLen_7, mLen_8, mLen_9, mLen_10, mLen_11, mLen_12, mLen_13, mLen_14, mLen_15, mLen_16, mLen_17, mLen_18, mLen_19, mLen_20, mLen_30, mLen_31, mLen_38, mLen_39, mLen_40, mLen_44, mLen_46, mLen_49, mLen_50, mLen_51, mLen_52, mLen_53, mLen_56, mLen_57, mLen_62, mLen_63, mLen_64, mLen_65, mLen_66, mLen_69, mLen_70, mLen_71, mLen_72, mLen_73, mLen_74, mLen_75, mLen_76, mLen_77, mLen_81, mLen_82, mLen_86, mLen_87, mLen_89, mLen_90, mLen_91, mLen_92, k1, he, i32_succ]
        refine ⟨_, by omega, j + 1, rfl, by omega, rfl, fun i x hi hx2 => ?_⟩
        by_cases q : i = j
        · subst q
          rw [hx] at hx2
          cases hx2
          exact he
        · exact hz i x (by omega) hx2
    · rw [if_neg hjl]
      have : j = ks.length := by omega
      subst this
      have hni : ¬ (ks.length = 6 ∨ k ∈ ks) := by
        rintro (q | q)
        · exact h6 q
        · obtain ⟨i, hi⟩ := List.getElem?_of_mem q
          exact hz i k (List.getElem?_eq_some_iff.mp hi).1 hi rfl
      have hkn : ¬ (k ∈ ks) := fun q => hni (Or.inr q)
      simp only [false_or, hkn, if_false]
      simp (maxSteps := 1000000) (disch := omega) only [↓xC_ap, ↓iV_ap, ↓lV_ap, ↓rV_ap, ↓x1_ap, ↓x2_ap, ↓x2p_ap, ↓xIf_ap, ↓cI_ap, ↓cL_ap, ↓cR_ap, ↓cN_ap, ↓cB_ap, ↓cAnd_ap, ↓cOr_ap, ↓cNot_ap, ↓cT_ap, ↓aN_ap, ↓aC_ap, ↓sSkip_ap, ↓sSeq_ap, ↓sI_ap, ↓sL_ap, ↓sR_ap, ↓sInc_ap, ↓sIf_ap, ↓sRet0_ap, ↓sRet_ap, ↓sCont_ap, ↓sEx_ap, ↓sSw_ap, ↓xP_ap, ↓hFI_ap, ↓hFL_ap, ↓hFR_ap, ↓hAI_ap, ↓hAL_ap, ↓hAR_ap, ↓hLen_ap, ↓hCast_ap, ↓hInst_ap, ↓sPI_ap, ↓sPZ_ap, ↓sPL_ap, ↓sPR_ap, ↓sUI_ap, ↓sAI_ap, ↓sAB_ap, ↓sAZ_ap, ↓sAL_ap, ↓sAR_ap, ↓sVI_ap, ↓sVL_ap, ↓hCV_ap, ↓hCS_ap, ↓hNew_ap, ↓hNA_ap, ↓hSp_ap, ↓sObj_ap, ↓sCopy_ap, ↓mFI_ap, ↓mFL_ap, ↓mAI_ap, ↓mAL_ap, ↓tI_ap, ↓tZ_ap, ↓tL_ap, ↓tU_ap, ↓tAI_ap, ↓tAB_ap, ↓tAZ_ap, ↓tAL_ap, ↓tV_ap, ↓mC_ap, ↓hLI_ap, ↓hLL_ap, ↓xB_ap, ↓cIte_ap, ga_get, ga_st1, ga_st2, ga_kill, ga_put, ga_dim, vI, vL, vR, vA, List.head?_cons, List.head?_nil, rkI, rkL, rkR, rkU, ga_cc, ga_lc, decide_eq_true_eq, List.length_cons, List.length_nil, Nat.reduceAdd, Nat.reduceLT, ga_rI, ga_rL, ga_rR, ga_rU, true_and, and_true, ↓reduceIte, mT, ↓Lm1, L0, L1, L2, L3, L4, L5, L6, L7, L8, L9, L10, L12, L15, L16, L17, L18, L20, L24, L26, L31, L32, L36, L48, L62, L64, L72, L96, L97, L122, L200, L255, L256, L399, L400, L600, L800, L9999, L1000000, i32_add, i32_mul, i32_sub, i32_lt, i32_le, i32_eq, i32_clamp, i32_in, mone_lt, mone_nlt, mone_le, mone_nle, mone_ne, mone_ne', M0, M1, i64_add, i64_mul, i64_lt, i64_le, i64_eq, i32_64, Nat.zero_le, ↓reduceIte, bI_0, bI_1, false_and, and_false, not_false_eq_true, not_true_eq_false, mset_i, mset_l, mset_a, mset_b, msetL_i, msetL_l, msetL_a, msetL_b, mas_i, mas_l, mas_a, mas_b, masL_i, masL_l, masL_a, masL_b, up_at, Nat.reduceEqDiff, ↓reduceIte, mLen_0, mLen_2, mLen_3, mLen_4, mLen_5, mLen_6, mLen_7, mLen_8, mLen_9, mLen_10, mLen_11, mLen_12, mLen_13, mLen_14, mLen_15, mLen_16, mLen_17, mLen_18, mLen_19, mLen_20, mLen_30, mLen_31, mLen_38, mLen_39, mLen_40, mLen_44, mLen_46, mLen_49, mLen_50, mLen_51, mLen_52, mLen_53, mLen_56, mLen_57, mLen_62, mLen_63, mLen_64, mLen_65, mLen_66, mLen_69, mLen_70, mLen_71, mLen_72, mLen_73, mLen_74, mLen_75, mLen_76, mLen_77, mLen_81, mLen_82, mLen_86, mLen_87, mLen_89, mLen_90, mLen_91, mLen_92, b1, mset_i, mset_l, mset_a, mset_b, msetL_i, msetL_l, msetL_a, msetL_b, mas_i, mas_l, mas_a, mas_b, masL_i, masL_l, masL_a, masL_b, up_at, Nat.reduceEqDiff, ↓reduceIte]
      refine ⟨⟨by simp; omega, by simp [mset, va_up], fun i x hx2 => ?_⟩, by simp only [mFr_mset, mFr_msetL, mFr_mas, mFr_masL, mFr_rfl, List.mem_cons, List.not_mem_nil, or_false, Nat.reduceEqDiff, or_true, true_or]⟩
      rcases app_get hx2 with ⟨q1, q2⟩ | ⟨rfl, rfl⟩
      · have := b2 i x q2
        have hne : i ≠ ks.length := by omega
        simp [mset, mas, va_up, hne, this]
      · simp [mset, mas, va_up]
theorem isBl.fr {F : List Nat} {σ τ : MS} {ks : List Nat} (h : isBl σ ks) (f : mFr F σ τ) (h1 : 54 ∉ F) (h2 : 56 ∉ F) : isBl τ ks := by
  obtain ⟨a, b, c⟩ := h
  refine ⟨a, (f 54 h1).1.trans b, fun i k hk => ?_⟩
  rw [(f 56 h2).2.2.1]
  exact c i k hk
/-- codes of named events, below one -/
def cds (ev c : Nat) : List Nat := (List.range c).filter (nmd ev)
def nextC (ev N from' : Nat) : Option Nat := (List.range N).find? fun c => decide (from' ≤ c) && nmd ev c
theorem cds_succ (ev c : Nat) : cds ev (c + 1) = cds ev c ++ (if nmd ev c = true then [c] else []) := by
  unfold cds
  rw [List.range_succ, List.filter_append]
  congr 1
  cases h : nmd ev c <;> simp [h]
theorem cds_gap {ev a : Nat} : ∀ {b : Nat}, a ≤ b → (∀ i, a ≤ i → i < b → nmd ev i = false) → cds ev b = cds ev a := by
  intro b
  induction b with
  | zero => intro h _; rw [show a = 0 by omega]
  | succ b ih =>
    intro h q
    rcases Nat.lt_or_ge b a with p | p
    · rw [show a = b + 1 by omega]
    · rw [cds_succ, ih p (fun i h1 h2 => q i h1 (by omega)), q b p (by omega)]
      simp
theorem nextC_some {ev N a c : Nat} (h : nextC ev N a = some c) : a ≤ c ∧ c < N ∧ nmd ev c = true ∧ cds ev c = cds ev a ∧ cds ev (c + 1) = cds ev a ++ [c] := by
  unfold nextC at h
  rw [List.find?_range_eq_some] at h
  obtain ⟨h1, h2, h3⟩ := h
  simp only [Bool.and_eq_true, decide_eq_true_eq] at h1
  have e : cds ev c = cds ev a := cds_gap h1.1 fun i q1 q2 => by
    have := h3 i q2
    simpa [q1] using this
  refine ⟨h1.1, by simpa using h2, h1.2, e, ?_⟩
  rw [cds_succ, e, if_pos h1.2]
theorem nextC_none {ev N a : Nat} (ha : a ≤ N) (h : nextC ev N a = none) : cds ev N = cds ev a := by
  unfold nextC at h
  rw [List.find?_eq_none] at h
  refine cds_gap ha fun i q1 q2 => ?_
  have := h i (by simpa using q2)
  simpa [q1] using this
theorem nextC_at {ev N a c : Nat} (hac : a ≤ c) (hc : c < N) (hz : ∀ i, a ≤ i → i < c → nmd ev i = false) (hn : nmd ev c = true) : nextC ev N a = some c := by
  unfold nextC
  rw [List.find?_range_eq_some]
  refine ⟨by simp [hac, hn], by simpa using hc, fun j hj => ?_⟩
  by_cases q : a ≤ j
  · simp [hz j q hj]
  · simp [q]
theorem nextC_no {ev N a : Nat} (hz : ∀ i, a ≤ i → i < N → nmd ev i = false) : nextC ev N a = none := by
  unfold nextC
  rw [List.find?_eq_none]
  intro i hi
  have hi : i < N := by simpa using hi
  by_cases q : a ≤ i
  · simp [hz i q hi]
  · simp [q]
theorem sm_214 {a : Nat} (hd : 3 ≤ d) (hH : isHd σ dl ks) (ha : a ≤ 32 * 2 ^ chS dl ks) : RM m d 214 [.inr (.inr (some (m))), .inl (Int32.ofNat (a))] σ (some (.inl (oN (nextC (evS dl ks) (32 * 2 ^ chS dl ks) a)))) σ := by
  obtain ⟨e, rfl⟩ : ∃ q : Nat, d = q + 1 := ⟨d - 1, by omega⟩
  obtain ⟨c1, c2, c3⟩ := hH.ch
  have hpw := pow_ch c1
  have r1 := sm_210 (m := m) (d := e) (by omega) hH
  have r2 := sm_213 (m := m) (d := e) (by omega) hH c1
  refine ruI (go_214 _ ?_)
  simp (maxSteps := 1000000) (disch := omega) only [↓xC_ap, ↓iV_ap, ↓lV_ap, ↓rV_ap, ↓x1_ap, ↓x2_ap, ↓x2p_ap, ↓xIf_ap, ↓cI_ap, ↓cL_ap, ↓cR_ap, ↓cN_ap, ↓cB_ap, ↓cAnd_ap, ↓cOr_ap, ↓cNot_ap, ↓cT_ap, ↓aN_ap, ↓aC_ap, ↓sSkip_ap, ↓sSeq_ap, ↓sI_ap, ↓sL_ap, ↓sR_ap, ↓sInc_ap, ↓sIf_ap, ↓sRet0_ap, ↓sRet_ap, ↓sCont_ap, ↓sEx_ap, ↓sSw_ap, ↓xP_ap, ↓hFI_ap, ↓hFL_ap, ↓hFR_ap, ↓hAI_ap, ↓hAL_ap, ↓hAR_ap, ↓hLen_ap, ↓hCast_ap, ↓hInst_ap, ↓sPI_ap, ↓sPZ_ap, ↓sPL_ap, ↓sPR_ap, ↓sUI_ap, ↓sAI_ap, ↓sAB_ap, ↓sAZ_ap, ↓sAL_ap, ↓sAR_ap, ↓sVI_ap, ↓sVL_ap, ↓hCV_ap, ↓hCS_ap, ↓hNew_ap, ↓hNA_ap, ↓hSp_ap, ↓sObj_ap, ↓sCopy_ap, ↓mFI_ap, ↓mFL_ap, ↓mAI_ap, ↓mAL_ap, ↓tI_ap, ↓tZ_ap, ↓tL_ap, ↓tU_ap, ↓tAI_ap, ↓tAB_ap, ↓tAZ_ap, ↓tAL_ap, ↓tV_ap, ↓mC_ap, ↓hLI_ap, ↓hLL_ap, ↓xB_ap, ↓cIte_ap, ga_get, ga_st1, ga_st2, ga_kill, ga_put, ga_dim, vI, vL, vR, vA, List.head?_cons, List.head?_nil, rkI, rkL, rkR, rkU, ga_cc, ga_lc, decide_eq_true_eq, List.length_cons, List.length_nil, Nat.reduceAdd, Nat.reduceLT, ga_rI, ga_rL, ga_rR, ga_rU, true_and, and_true, ↓reduceIte, mT, ↓Lm1, L0, L1, L2, L3, L4, L5, L6, L7, L8, L9, L10, L12, L15, L16, L17, L18, L20, L24, L26, L31, L32, L36, L48, L62, L64, L72, L96, L97, L122, L200, L255, L256, L399, L400, L600, L800, L9999, L1000000, i32_add, i32_mul, i32_sub, i32_lt, i32_le, i32_eq, i32_clamp, i32_in, mone_lt, mone_nlt, mone_le, mone_nle, mone_ne, mone_ne', M0, M1, i64_add, i64_mul, i64_lt, i64_le, i64_eq, i32_64, Nat.zero_le, ↓reduceIte, bI_0, bI_1, false_and, and_false, not_false_eq_true, not_true_eq_false, mset_i, mset_l, mset_a, mset_b, msetL_i, msetL_l, msetL_a, msetL_b, mas_i, mas_l, mas_a, mas_b, masL_i, masL_l, masL_a, masL_b, up_at, Nat.reduceEqDiff, ↓reduceIte, bm_214]
  refine ⟨_, _, r1, ?_⟩
  have hle : evS dl ks ≤ 31 := by omega
  generalize hN : 32 * 2 ^ chS dl ks = N at *
  generalize hE : evS dl ks = ev at *
  simp (maxSteps := 1000000) (disch := omega) only [↓xC_ap, ↓iV_ap, ↓lV_ap, ↓rV_ap, ↓x1_ap, ↓x2_ap, ↓x2p_ap, ↓xIf_ap, ↓cI_ap, ↓cL_ap, ↓cR_ap, ↓cN_ap, ↓cB_ap, ↓cAnd_ap, ↓cOr_ap, ↓cNot_ap, ↓cT_ap, ↓aN_ap, ↓aC_ap, ↓sSkip_ap, ↓sSeq_ap, ↓sI_ap, ↓sL_ap, ↓sR_ap, ↓sInc_ap, ↓sIf_ap, ↓sRet0_ap, ↓sRet_ap, ↓sCont_ap, ↓sEx_ap, ↓sSw_ap, ↓xP_ap, ↓hFI_ap, ↓hFL_ap, ↓hFR_ap, ↓hAI_ap, ↓hAL_ap, ↓hAR_ap, ↓hLen_ap, ↓hCast_ap, ↓hInst_ap, ↓sPI_ap, ↓sPZ_ap, ↓sPL_ap, ↓sPR_ap, ↓sUI_ap, ↓sAI_ap, ↓sAB_ap, ↓sAZ_ap, ↓sAL_ap, ↓sAR_ap, ↓sVI_ap, ↓sVL_ap, ↓hCV_ap, ↓hCS_ap, ↓hNew_ap, ↓hNA_ap, ↓hSp_ap, ↓sObj_ap, ↓sCopy_ap, ↓mFI_ap, ↓mFL_ap, ↓mAI_ap, ↓mAL_ap, ↓tI_ap, ↓tZ_ap, ↓tL_ap, ↓tU_ap, ↓tAI_ap, ↓tAB_ap, ↓tAZ_ap, ↓tAL_ap, ↓tV_ap, ↓mC_ap, ↓hLI_ap, ↓hLL_ap, ↓xB_ap, ↓cIte_ap, ga_get, ga_st1, ga_st2, ga_kill, ga_put, ga_dim, vI, vL, vR, vA, List.head?_cons, List.head?_nil, rkI, rkL, rkR, rkU, ga_cc, ga_lc, decide_eq_true_eq, List.length_cons, List.length_nil, Nat.reduceAdd, Nat.reduceLT, ga_rI, ga_rL, ga_rR, ga_rU, true_and, and_true, ↓reduceIte, mT, ↓Lm1, L0, L1, L2, L3, L4, L5, L6, L7, L8, L9, L10, L12, L15, L16, L17, L18, L20, L24, L26, L31, L32, L36, L48, L62, L64, L72, L96, L97, L122, L200, L255, L256, L399, L400, L600, L800, L9999, L1000000, i32_add, i32_mul, i32_sub, i32_lt, i32_le, i32_eq, i32_clamp, i32_in, mone_lt, mone_nlt, mone_le, mone_nle, mone_ne, mone_ne', M0, M1, i64_add, i64_mul, i64_lt, i64_le, i64_eq, i32_64, Nat.zero_le, ↓reduceIte, bI_0, bI_1, false_and, and_false, not_false_eq_true, not_true_eq_false, mset_i, mset_l, mset_a, mset_b, msetL_i, msetL_l, msetL_a, msetL_b, mas_i, mas_l, mas_a, mas_b, masL_i, masL_l, masL_a, masL_b, up_at, Nat.reduceEqDiff, ↓reduceIte, hle]
  refine lr_bm_214_l2 (fun n' env τ => ∃ c, n' = N - c ∧ a ≤ c ∧ c ≤ N ∧ env = [some (.inr (.inr (some (m)))), some (.inl (Int32.ofNat (a))), some (.inl (Int32.ofNat (31 - ev))), some (.inl (Int32.ofNat (c)))] ∧ τ = σ ∧ ∀ i, a ≤ i → i < c → nmd ev i = false) ?_ (N - a) _ _ ⟨a, rfl, Nat.le_refl _, ha, rfl, rfl, fun i q1 q2 => by omega⟩
  rintro n' env τ ⟨c, rfl, hac, hcN, rfl, rfl, hz⟩
  simp (maxSteps := 1000000) (disch := omega) only [↓xC_ap, ↓iV_ap, ↓lV_ap, ↓rV_ap, ↓x1_ap, ↓x2_ap, ↓x2p_ap, ↓xIf_ap, ↓cI_ap, ↓cL_ap, ↓cR_ap, ↓cN_ap, ↓cB_ap, ↓cAnd_ap, ↓cOr_ap, ↓cNot_ap, ↓cT_ap, ↓aN_ap, ↓aC_ap, ↓sSkip_ap, ↓sSeq_ap, ↓sI_ap, ↓sL_ap, ↓sR_ap, ↓sInc_ap, ↓sIf_ap, ↓sRet0_ap, ↓sRet_ap, ↓sCont_ap, ↓sEx_ap, ↓sSw_ap, ↓xP_ap, ↓hFI_ap, ↓hFL_ap, ↓hFR_ap, ↓hAI_ap, ↓hAL_ap, ↓hAR_ap, ↓hLen_ap, ↓hCast_ap, ↓hInst_ap, ↓sPI_ap, ↓sPZ_ap, ↓sPL_ap, ↓sPR_ap, ↓sUI_ap, ↓sAI_ap, ↓sAB_ap, ↓sAZ_ap, ↓sAL_ap, ↓sAR_ap, ↓sVI_ap, ↓sVL_ap, ↓hCV_ap, ↓hCS_ap, ↓hNew_ap, ↓hNA_ap, ↓hSp_ap, ↓sObj_ap, ↓sCopy_ap, ↓mFI_ap, ↓mFL_ap, ↓mAI_ap, ↓mAL_ap, ↓tI_ap, ↓tZ_ap, ↓tL_ap, ↓tU_ap, ↓tAI_ap, ↓tAB_ap, ↓tAZ_ap, ↓tAL_ap, ↓tV_ap, ↓mC_ap, ↓hLI_ap, ↓hLL_ap, ↓xB_ap, ↓cIte_ap, ga_get, ga_st1, ga_st2, ga_kill, ga_put, ga_dim, vI, vL, vR, vA, List.head?_cons, List.head?_nil, rkI, rkL, rkR, rkU, ga_cc, ga_lc, decide_eq_true_eq, List.length_cons, List.length_nil, Nat.reduceAdd, Nat.reduceLT, ga_rI, ga_rL, ga_rR, ga_rU, true_and, and_true, ↓reduceIte, mT, ↓Lm1, L0, L1, L2, L3, L4, L5, L6, L7, L8, L9, L10, L12, L15, L16, L17, L18, L20, L24, L26, L31, L32, L36, L48, L62, L64, L72, L96, L97, L122, L200, L255, L256, L399, L400, L600, L800, L9999, L1000000, i32_add, i32_mul, i32_sub, i32_lt, i32_le, i32_eq, i32_clamp, i32_in, mone_lt, mone_nlt, mone_le, mone_nle, mone_ne, mone_ne', M0, M1, i64_add, i64_mul, i64_lt, i64_le, i64_eq, i32_64, Nat.zero_le, ↓reduceIte, bI_0, bI_1, false_and, and_false, not_false_eq_true, not_true_eq_false, mset_i, mset_l, mset_a, mset_b, msetL_i, msetL_l, msetL_a, msetL_b, mas_i, mas_l, mas_a, mas_b, masL_i, masL_l, masL_a, masL_b, up_at, Nat.reduceEqDiff, ↓reduceIte, hle]
  refine ⟨_, _, r2, ?_⟩
  by_cases hl : c < N
  · have hlt : c &&& (31 - ev) < 2 ^ 31 := Nat.lt_of_le_of_lt Nat.and_le_left (by omega)
    by_cases hq : c &&& (31 - ev) = 0
    · simp (maxSteps := 1000000) (disch := omega) only [↓xC_ap, ↓iV_ap, ↓lV_ap, ↓rV_ap, ↓x1_ap, ↓x2_ap, ↓x2p_ap, ↓xIf_ap, ↓cI_ap, ↓cL_ap, ↓cR_ap, ↓cN_ap, ↓cB_ap, ↓cAnd_ap, ↓cOr_ap, ↓cNot_ap, ↓cT_ap, ↓aN_ap, ↓aC_ap, ↓sSkip_ap, ↓sSeq_ap, ↓sI_ap, ↓sL_ap, ↓sR_ap, ↓sInc_ap, ↓sIf_ap, ↓sRet0_ap, ↓sRet_ap, ↓sCont_ap, ↓sEx_ap, ↓sSw_ap, ↓xP_ap, ↓hFI_ap, ↓hFL_ap, ↓hFR_ap, ↓hAI_ap, ↓hAL_ap, ↓hAR_ap, ↓hLen_ap, ↓hCast_ap, ↓hInst_ap, ↓sPI_ap, ↓sPZ_ap, ↓sPL_ap, ↓sPR_ap, ↓sUI_ap, ↓sAI_ap, ↓sAB_ap, ↓sAZ_ap, ↓sAL_ap, ↓sAR_ap, ↓sVI_ap, ↓sVL_ap, ↓hCV_ap, ↓hCS_ap, ↓hNew_ap, ↓hNA_ap, ↓hSp_ap, ↓sObj_ap, ↓sCopy_ap, ↓mFI_ap, ↓mFL_ap, ↓mAI_ap, ↓mAL_ap, ↓tI_ap, ↓tZ_ap, ↓tL_ap, ↓tU_ap, ↓tAI_ap, ↓tAB_ap, ↓tAZ_ap, ↓tAL_ap, ↓tV_ap, ↓mC_ap, ↓hLI_ap, ↓hLL_ap, ↓xB_ap, ↓cIte_ap, ga_get, ga_st1, ga_st2, ga_kill, ga_put, ga_dim, vI, vL, vR, vA, List.head?_cons, List.head?_nil, rkI, rkL, rkR, rkU, ga_cc, ga_lc, decide_eq_true_eq, List.length_cons, List.length_nil, Nat.reduceAdd, Nat.reduceLT, ga_rI, ga_rL, ga_rR, ga_rU, true_and, and_true, ↓reduceIte, mT, ↓Lm1, L0, L1, L2, L3, L4, L5, L6, L7, L8, L9, L10, L12, L15, L16, L17, L18, L20, L24, L26, L31, L32, L36, L48, L62, L64, L72, L96, L97, L122, L200, L255, L256, L399, L400, L600, L800, L9999, L1000000, i32_add, i32_mul, i32_sub, i32_lt, i32_le, i32_eq, i32_clamp, i32_in, mone_lt, mone_nlt, mone_le, mone_nle, mone_ne, mone_ne', M0, M1, i64_add, i64_mul, i64_lt, i64_le, i64_eq, i32_64, Nat.zero_le, ↓reduceIte, bI_0, bI_1, false_and, and_false, not_false_eq_true, not_true_eq_false, mset_i, mset_l, mset_a, mset_b, msetL_i, msetL_l, msetL_a, msetL_b, mas_i, mas_l, mas_a, mas_b, masL_i, masL_l, masL_a, masL_b, up_at, Nat.reduceEqDiff, ↓reduceIte, hl, i32_and, hq]
      refine ⟨_, _, r2, ?_⟩
      simp (maxSteps := 1000000) (disch := omega) only [↓xC_ap, ↓iV_ap, ↓lV_ap, ↓rV_ap, ↓x1_ap, ↓x2_ap, ↓x2p_ap, ↓xIf_ap, ↓cI_ap, ↓cL_ap, ↓cR_ap, ↓cN_ap, ↓cB_ap, ↓cAnd_ap, ↓cOr_ap, ↓cNot_ap, ↓cT_ap, ↓aN_ap, ↓aC_ap, ↓sSkip_ap, ↓sSeq_ap, ↓sI_ap, ↓sL_ap, ↓sR_ap, ↓sInc_ap, ↓sIf_ap, ↓sRet0_ap, ↓sRet_ap, ↓sCont_ap, ↓sEx_ap, ↓sSw_ap, ↓xP_ap, ↓hFI_ap, ↓hFL_ap, ↓hFR_ap, ↓hAI_ap, ↓hAL_ap, ↓hAR_ap, ↓hLen_ap, ↓hCast_ap, ↓hInst_ap, ↓sPI_ap, ↓sPZ_ap, ↓sPL_ap, ↓sPR_ap, ↓sUI_ap, ↓sAI_ap, ↓sAB_ap, ↓sAZ_ap, ↓sAL_ap, ↓sAR_ap, ↓sVI_ap, ↓sVL_ap, ↓hCV_ap, ↓hCS_ap, ↓hNew_ap, ↓hNA_ap, ↓hSp_ap, ↓sObj_ap, ↓sCopy_ap, ↓mFI_ap, ↓mFL_ap, ↓mAI_ap, ↓mAL_ap, ↓tI_ap, ↓tZ_ap, ↓tL_ap, ↓tU_ap, ↓tAI_ap, ↓tAB_ap, ↓tAZ_ap, ↓tAL_ap, ↓tV_ap, ↓mC_ap, ↓hLI_ap, ↓hLL_ap, ↓xB_ap, ↓cIte_ap, ga_get, ga_st1, ga_st2, ga_kill, ga_put, ga_dim, vI, vL, vR, vA, List.head?_cons, List.head?_nil, rkI, rkL, rkR, rkU, ga_cc, ga_lc, decide_eq_true_eq, List.length_cons, List.length_nil, Nat.reduceAdd, Nat.reduceLT, ga_rI, ga_rL, ga_rR, ga_rU, true_and, and_true, ↓reduceIte, mT, ↓Lm1, L0, L1, L2, L3, L4, L5, L6, L7, L8, L9, L10, L12, L15, L16, L17, L18, L20, L24, L26, L31, L32, L36, L48, L62, L64, L72, L96, L97, L122, L200, L255, L256, L399, L400, L600, L800, L9999, L1000000, i32_add, i32_mul, i32_sub, i32_lt, i32_le, i32_eq, i32_clamp, i32_in, mone_lt, mone_nlt, mone_le, mone_nle, mone_ne, mone_ne', M0, M1, i64_add, i64_mul, i64_lt, i64_le, i64_eq, i32_64, Nat.zero_le, ↓reduceIte, bI_0, bI_1, false_and, and_false, not_false_eq_true, not_true_eq_false, mset_i, mset_l, mset_a, mset_b, msetL_i, msetL_l, msetL_a, msetL_b, mas_i, mas_l, mas_a, mas_b, masL_i, masL_l, masL_a, masL_b, up_at, Nat.reduceEqDiff, ↓reduceIte, hl]
      rw [nextC_at hac hl hz (by simp [nmd, hq])]
      rfl
    · simp (maxSteps := 1000000) (disch := omega) only [↓xC_ap, ↓iV_ap, ↓lV_ap, ↓rV_ap, ↓x1_ap, ↓x2_ap, ↓x2p_ap, ↓xIf_ap, ↓cI_ap, ↓cL_ap, ↓cR_ap, ↓cN_ap, ↓cB_ap, ↓cAnd_ap, ↓cOr_ap, ↓cNot_ap, ↓cT_ap, ↓aN_ap, ↓aC_ap, ↓sSkip_ap, ↓sSeq_ap, ↓sI_ap, ↓sL_ap, ↓sR_ap, ↓sInc_ap, ↓sIf_ap, ↓sRet0_ap, ↓sRet_ap, ↓sCont_ap, ↓sEx_ap, ↓sSw_ap, ↓xP_ap, ↓hFI_ap, ↓hFL_ap, ↓hFR_ap, ↓hAI_ap, ↓hAL_ap, ↓hAR_ap, ↓hLen_ap, ↓hCast_ap, ↓hInst_ap, ↓sPI_ap, ↓sPZ_ap, ↓sPL_ap, ↓sPR_ap, ↓sUI_ap, ↓sAI_ap, ↓sAB_ap, ↓sAZ_ap, ↓sAL_ap, ↓sAR_ap, ↓sVI_ap, ↓sVL_ap, ↓hCV_ap, ↓hCS_ap, ↓hNew_ap, ↓hNA_ap, ↓hSp_ap, ↓sObj_ap, ↓sCopy_ap, ↓mFI_ap, ↓mFL_ap, ↓mAI_ap, ↓mAL_ap, ↓tI_ap, ↓tZ_ap, ↓tL_ap, ↓tU_ap, ↓tAI_ap, ↓tAB_ap, ↓tAZ_ap, ↓tAL_ap, ↓tV_ap, ↓mC_ap, ↓hLI_ap, ↓hLL_ap, ↓xB_ap, ↓cIte_ap, ga_get, ga_st1, ga_st2, ga_kill, ga_put, ga_dim, vI, vL, vR, vA, List.head?_cons, List.head?_nil, rkI, rkL, rkR, rkU, ga_cc, ga_lc, decide_eq_true_eq, List.length_cons, List.length_nil, Nat.reduceAdd, Nat.reduceLT, ga_rI, ga_rL, ga_rR, ga_rU, true_and, and_true, ↓reduceIte, mT, ↓Lm1, L0, L1, L2, L3, L4, L5, L6, L7, L8, L9, L10, L12, L15, L16, L17, L18, L20, L24, L26, L31, L32, L36, L48, L62, L64, L72, L96, L97, L122, L200, L255, L256, L399, L400, L600, L800, L9999, L1000000, i32_add, i32_mul, i32_sub, i32_lt, i32_le, i32_eq, i32_clamp, i32_in, mone_lt, mone_nlt, mone_le, mone_nle, mone_ne, mone_ne', M0, M1, i64_add, i64_mul, i64_lt, i64_le, i64_eq, i32_64, Nat.zero_le, ↓reduceIte, bI_0, bI_1, false_and, and_false, not_false_eq_true, not_true_eq_false, mset_i, mset_l, mset_a, mset_b, msetL_i, msetL_l, msetL_a, msetL_b, mas_i, mas_l, mas_a, mas_b, masL_i, masL_l, masL_a, masL_b, up_at, Nat.reduceEqDiff, ↓reduceIte, hl, i32_and, hq]
      unfold bm_214_b1
      simp (maxSteps := 1000000) (disch := omega) only [↓xC_ap, ↓iV_ap, ↓lV_ap, ↓rV_ap, ↓x1_ap, ↓x2_ap, ↓x2p_ap, ↓xIf_ap, ↓cI_ap, ↓cL_ap, ↓cR_ap, ↓cN_ap, ↓cB_ap, ↓cAnd_ap, ↓cOr_ap, ↓cNot_ap, ↓cT_ap, ↓aN_ap, ↓aC_ap, ↓sSkip_ap, ↓sSeq_ap, ↓sI_ap, ↓sL_ap, ↓sR_ap, ↓sInc_ap, ↓sIf_ap, ↓sRet0_ap, ↓sRet_ap, ↓sCont_ap, ↓sEx_ap, ↓sSw_ap, ↓xP_ap, ↓hFI_ap, ↓hFL_ap, ↓hFR_ap, ↓hAI_ap, ↓hAL_ap, ↓hAR_ap, ↓hLen_ap, ↓hCast_ap, ↓hInst_ap, ↓sPI_ap, ↓sPZ_ap, ↓sPL_ap, ↓sPR_ap, ↓sUI_ap, ↓sAI_ap, ↓sAB_ap, ↓sAZ_ap, ↓sAL_ap, ↓sAR_ap, ↓sVI_ap, ↓sVL_ap, ↓hCV_ap, ↓hCS_ap, ↓hNew_ap, ↓hNA_ap, ↓hSp_ap, ↓sObj_ap, ↓sCopy_ap, ↓mFI_ap, ↓mFL_ap, ↓mAI_ap, ↓mAL_ap, ↓tI_ap, ↓tZ_ap, ↓tL_ap, ↓tU_ap, ↓tAI_ap, ↓tAB_ap, ↓tAZ_ap, ↓tAL_ap, ↓tV_ap, ↓mC_ap, ↓hLI_ap, ↓hLL_ap, ↓xB_ap, ↓cIte_ap, ga_get, ga_st1, ga_st2, ga_kill, ga_put, ga_dim, vI, vL, vR, vA, List.head?_cons, List.head?_nil, rkI, rkL, rkR, rkU, ga_cc, ga_lc, decide_eq_true_eq, List.length_cons, List.length_nil, Nat.reduceAdd, Nat.reduceLT, ga_rI, ga_rL, ga_rR, ga_rU, true_and, and_true, ↓reduceIte, mT, ↓Lm1, L0, L1, L2, L3, L4, L5, L6, L7, L8, L9, L10, L12, L15, L16, L17, L18, L20, L24, L26, L31, L32, L36, L48, L62, L64, L72, L96, L97, L122, L200, L255, L256, L399, L400, L600, L800, L9999, L1000000, i32_add, i32_mul, i32_sub, i32_lt, i32_le, i32_eq, i32_clamp, i32_in, mone_lt, mone_nlt, mone_le, mone_nle, mone_ne, mone_ne', M0, M1, i64_add, i64_mul, i64_lt, i64_le, i64_eq, i32_64, Nat.zero_le, ↓reduceIte, bI_0, bI_1, false_and, and_false, not_false_eq_true, not_true_eq_false, mset_i, mset_l, mset_a, mset_b, msetL_i, msetL_l, msetL_a, msetL_b, mas_i, mas_l, mas_a, mas_b, masL_i, masL_l, masL_a, masL_b, up_at, Nat.reduceEqDiff, ↓reduceIte, i32_succ]
      refine ⟨_, by omega, c + 1, rfl, by omega, by omega, rfl, fun i q1 q2 => ?_⟩
      by_cases qi : i = c
      · subst qi; simp [nmd, hq]
      · exact hz i q1 (by omega)
  · simp (maxSteps := 1000000) (disch := omega) only [↓xC_ap, ↓iV_ap, ↓lV_ap, ↓rV_ap, ↓x1_ap, ↓x2_ap, ↓x2p_ap, ↓xIf_ap, ↓cI_ap, ↓cL_ap, ↓cR_ap, ↓cN_ap, ↓cB_ap, ↓cAnd_ap, ↓cOr_ap, ↓cNot_ap, ↓cT_ap, ↓aN_ap, ↓aC_ap, ↓sSkip_ap, ↓sSeq_ap, ↓sI_ap, ↓sL_ap, ↓sR_ap, ↓sInc_ap, ↓sIf_ap, ↓sRet0_ap, ↓sRet_ap, ↓sCont_ap, ↓sEx_ap, ↓sSw_ap, ↓xP_ap, ↓hFI_ap, ↓hFL_ap, ↓hFR_ap, ↓hAI_ap, ↓hAL_ap, ↓hAR_ap, ↓hLen_ap, ↓hCast_ap, ↓hInst_ap, ↓sPI_ap, ↓sPZ_ap, ↓sPL_ap, ↓sPR_ap, ↓sUI_ap, ↓sAI_ap, ↓sAB_ap, ↓sAZ_ap, ↓sAL_ap, ↓sAR_ap, ↓sVI_ap, ↓sVL_ap, ↓hCV_ap, ↓hCS_ap, ↓hNew_ap, ↓hNA_ap, ↓hSp_ap, ↓sObj_ap, ↓sCopy_ap, ↓mFI_ap, ↓mFL_ap, ↓mAI_ap, ↓mAL_ap, ↓tI_ap, ↓tZ_ap, ↓tL_ap, ↓tU_ap, ↓tAI_ap, ↓tAB_ap, ↓tAZ_ap, ↓tAL_ap, ↓tV_ap, ↓mC_ap, ↓hLI_ap, ↓hLL_ap, ↓xB_ap, ↓cIte_ap, ga_get, ga_st1, ga_st2, ga_kill, ga_put, ga_dim, vI, vL, vR, vA, List.head?_cons, List.head?_nil, rkI, rkL, rkR, rkU, ga_cc, ga_lc, decide_eq_true_eq, List.length_cons, List.length_nil, Nat.reduceAdd, Nat.reduceLT, ga_rI, ga_rL, ga_rR, ga_rU, true_and, and_true, ↓reduceIte, mT, ↓Lm1, L0, L1, L2, L3, L4, L5, L6, L7, L8, L9, L10, L12, L15, L16, L17, L18, L20, L24, L26, L31, L32, L36, L48, L62, L64, L72, L96, L97, L122, L200, L255, L256, L399, L400, L600, L800, L9999, L1000000, i32_add, i32_mul, i32_sub, i32_lt, i32_le, i32_eq, i32_clamp, i32_in, mone_lt, mone_nlt, mone_le, mone_nle, mone_ne, mone_ne', M0, M1, i64_add, i64_mul, i64_lt, i64_le, i64_eq, i32_64, Nat.zero_le, ↓reduceIte, bI_0, bI_1, false_and, and_false, not_false_eq_true, not_true_eq_false, mset_i, mset_l, mset_a, mset_b, msetL_i, msetL_l, msetL_a, msetL_b, mas_i, mas_l, mas_a, mas_b, masL_i, masL_l, masL_a, masL_b, up_at, Nat.reduceEqDiff, ↓reduceIte, hl]
    refine ⟨_, _, r2, ?_⟩
    simp (maxSteps := 1000000) (disch := omega) only [↓xC_ap, ↓iV_ap, ↓lV_ap, ↓rV_ap, ↓x1_ap, ↓x2_ap, ↓x2p_ap, ↓xIf_ap, ↓cI_ap, ↓cL_ap, ↓cR_ap, ↓cN_ap, ↓cB_ap, ↓cAnd_ap, ↓cOr_ap, ↓cNot_ap, ↓cT_ap, ↓aN_ap, ↓aC_ap, ↓sSkip_ap, ↓sSeq_ap, ↓sI_ap, ↓sL_ap, ↓sR_ap, ↓sInc_ap, ↓sIf_ap, ↓sRet0_ap, ↓sRet_ap, ↓sCont_ap, ↓sEx_ap, ↓sSw_ap, ↓xP_ap, ↓hFI_ap, ↓hFL_ap, ↓hFR_ap, ↓hAI_ap, ↓hAL_ap, ↓hAR_ap, ↓hLen_ap, ↓hCast_ap, ↓hInst_ap, ↓sPI_ap, ↓sPZ_ap, ↓sPL_ap, ↓sPR_ap, ↓sUI_ap, ↓sAI_ap, ↓sAB_ap, ↓sAZ_ap, ↓sAL_ap, ↓sAR_ap, ↓sVI_ap, ↓sVL_ap, ↓hCV_ap, ↓hCS_ap, ↓hNew_ap, ↓hNA_ap, ↓hSp_ap, ↓sObj_ap, ↓sCopy_ap, ↓mFI_ap, ↓mFL_ap, ↓mAI_ap, ↓mAL_ap, ↓tI_ap, ↓tZ_ap, ↓tL_ap, ↓tU_ap, ↓tAI_ap, ↓tAB_ap, ↓tAZ_ap, ↓tAL_ap, ↓tV_ap, ↓mC_ap, ↓hLI_ap, ↓hLL_ap, ↓xB_ap, ↓cIte_ap, ga_get, ga_st1, ga_st2, ga_kill, ga_put, ga_dim, vI, vL, vR, vA, List.head?_cons, List.head?_nil, rkI, rkL, rkR, rkU, ga_cc, ga_lc, decide_eq_true_eq, List.length_cons, List.length_nil, Nat.reduceAdd, Nat.reduceLT, ga_rI, ga_rL, ga_rR, ga_rU, true_and, and_true, ↓reduceIte, mT, ↓Lm1, L0, L1, L2, L3, L4, L5, L6, L7, L8, L9, L10, L12, L15, L16, L17, L18, L20, L24, L26, L31, L32, L36, L48, L62, L64, L72, L96, L97, L122, L200, L255, L256, L399, L400, L600, L800, L9999, L1000000, i32_add, i32_mul, i32_sub, i32_lt, i32_le, i32_eq, i32_clamp, i32_in, mone_lt, mone_nlt, mone_le, mone_nle, mone_ne, mone_ne', M0, M1, i64_add, i64_mul, i64_lt, i64_le, i64_eq, i32_64, Nat.zero_le, ↓reduceIte, bI_0, bI_1, false_and, and_false, not_false_eq_true, not_true_eq_false, mset_i, mset_l, mset_a, mset_b, msetL_i, msetL_l, msetL_a, msetL_b, mas_i, mas_l, mas_a, mas_b, masL_i, masL_l, masL_a, masL_b, up_at, Nat.reduceEqDiff, ↓reduceIte, hl]
    rw [nextC_no fun i q1 q2 => hz i q1 (by omega)]
    rfl
end L
