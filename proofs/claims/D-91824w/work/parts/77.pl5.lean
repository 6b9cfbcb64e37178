/-! LAYER 4f12: the class: a forest made plain -/
theorem cC_add (D s r : Nat) : cC D (s + r) = cC D s + cC D r := by
  simp only [cC, Nat.mul_add]; omega
theorem cS_add (D s r : Nat) : cS D (s + r) = cS D s + cS D r := by
  simp only [cS, Nat.mul_add]; omega
theorem OWN.move {b base o w cc ss P z : Nat} {g g' : gG} {h h' : gH} {t u : Fo} (hO : OWN b g h base o w t) (hP : P < base) (r : RES g g' h h' (fun a => a = P) z u cc ss) : OWN b g' h' base o w t := by
  obtain ⟨q, f, b0, b1, b2, b3, b4, b5, b6, b7, e0, e1, b8, b9, b10, hq⟩ := hO
  obtain ⟨a1, a2, a3, a4, a5, a6, a7, a8⟩ := r
  have no : ∀ x, g x = none → x < h.2.1 → g' x = none := by
    intro x hx hlt
    cases e : g' x with
    | none => rfl
    | some c' =>
      rcases a5 x (by rw [e]; simp) with q | q
      · exact absurd hx q
      · omega
  refine ⟨q, f, b0, b1, b2, by omega, by omega, b5, no o b6 b3, no q b7 b4, ?_, ?_, b8, b9, b10, RSeq.mono a1 t hq⟩
  · rw [a4 o b3 (by omega)]; exact e0
  · rw [a4 q b4 (by omega)]; exact e1
theorem OWN.o8 {b base o w : Nat} {g : gG} {h : gH} {t : Fo} (hO : OWN b g h base o w t) : ∃ fs, h.1 o = some (.inr (8, fs)) := by
  obtain ⟨q, f, b0, b1, b2, b3, b4, b5, b6, b7, e0, -⟩ := hO
  exact ⟨_, e0⟩
theorem hPl_len (k : Nat) (x : Fo) : fLen (hPl k x).1 ≤ hSz x := by
  cases x with
  | leaf l => exact Nat.le_refl _
  | branch n a b =>
    have := plG_len k n (fPl a).1 (fPl b).1
    have := fPl_len a
    simp only [hPl, hSz]
    omega
theorem fSz_nil {t : Fo} (h : fLen t = 0) : fSz t = 0 ∧ (fPl t).1 = fNil ∧ (fPl t).2 = 0 := by
  cases t with
  | leaf x => exact ⟨rfl, rfl, rfl⟩
  | branch k x r => simp [fLen] at h
theorem plG_b (k n : Nat) (a b c : Fo) (hk : k = 4 ∨ k = 5) : plG k n a b = plG k n a c := by
  unfold plG
  rcases hk with rfl | rfl
  · rfl
  · rfl
/-- any head made plain -/
theorem sp_hplain {b d : Nat} {sa : Nat → Nat} {P D y k n0 : Nat} {h : gH} {g : gG} {x : Fo} (hd : 2 * D + 7 ≤ d) (hD : D ≤ 6) (ih : 0 < D → ∀ t, fOk (D - 1) t → fSz t ≤ 5000 → PL58 b (d - 1) sa P (D - 1) t) (hW : Wd g h) (hb : b ≤ h.2.1) (hP1 : h.1 P = some (.inr (22, [.inl (Int32.ofNat (n0))]))) (hP2 : P < h.2.1) (hP3 : g P = none) (hy : RPt g y k x) (hok : hFk D k x) (hsz : hSz x ≤ 5000) : ∃ sel z' h' g', (∀ vs, ga_ds h (.inr (.inr (some (y))) :: vs) plT = some sel) ∧ RN b sa d sel [.inr (.inr (some (y))), .inr (.inr (some (P)))] h (some (.inr (.inr (some (z'))))) h' ∧ ∃ hc hs, RES g g' h h' (fun a => a = P) z' (hPl k x).1 hc hs ∧ h'.1 P = some (.inr (22, [.inl (Int32.ofNat (n0 + (hPl k x).2))])) ∧ hc + hSz x ≤ cC D (hSz x) ∧ hs + 4 * hSz x ≤ cS D (hSz x) := by
  cases x with
  | leaf l =>
    obtain ⟨c, fs, c1, c2, -⟩ := RLf.cls hW.1 hy
    obtain ⟨e, rfl⟩ : ∃ q : Nat, d = q + 1 := ⟨d - 1, by omega⟩
    obtain ⟨z', h', q1, g', q2⟩ := sp_64 (b := b) (d := e) (sa := sa) (k := 0) (x := .leaf l) (by omega) hW hb hy
    have hds : ga_ds h [.inr (.inr (some (y)))] [(11, 64), (12, 64), (13, 64)] = some 64 := by
      rw [ds_at c1]
      rcases c2 with rfl | rfl | rfl <;> rfl
    refine ⟨72, z', h', g', fun vs => by rw [ds_at c1]; rcases c2 with rfl | rfl | rfl <;> rfl, rnR (go_72 _ ?_), 3, 6, q2.P _, ?_, ?_, ?_⟩
    · simp (maxSteps := 1000000) (disch := first | omega | (show List.contains _ _ = true; decide) | (simp only [new_21, set_21]; omega)) only [↓xC_ap, ↓iV_ap, ↓lV_ap, ↓rV_ap, ↓x1_ap, ↓x2_ap, ↓x2p_ap, ↓xIf_ap, ↓cI_ap, ↓cL_ap, ↓cR_ap, ↓cN_ap, ↓cB_ap, ↓cAnd_ap, ↓cOr_ap, ↓cNot_ap, ↓cT_ap, ↓aN_ap, ↓aC_ap, ↓sSkip_ap, ↓sSeq_ap, ↓sI_ap, ↓sL_ap, ↓sR_ap, ↓sInc_ap, ↓sIf_ap, ↓sRet0_ap, ↓sRet_ap, ↓sCont_ap, ↓sEx_ap, ↓sSw_ap, ↓xP_ap, ↓hFI_ap, ↓hFL_ap, ↓hFR_ap, ↓hAI_ap, ↓hAL_ap, ↓hAR_ap, ↓hLen_ap, ↓hCast_ap, ↓hInst_ap, ↓sPI_ap, ↓sPZ_ap, ↓sPL_ap, ↓sPR_ap, ↓sUI_ap, ↓sAI_ap, ↓sAB_ap, ↓sAZ_ap, ↓sAL_ap, ↓sAR_ap, ↓sVI_ap, ↓sVL_ap, ↓hCV_ap, ↓hCS_ap, ↓hNew_ap, ↓hNA_ap, ↓hSp_ap, ↓sObj_ap, ↓sCopy_ap, ↓mFI_ap, ↓mFL_ap, ↓mAI_ap, ↓mAL_ap, ↓tI_ap, ↓tZ_ap, ↓tL_ap, ↓tU_ap, ↓tAI_ap, ↓tAB_ap, ↓tAZ_ap, ↓tAL_ap, ↓tV_ap, ↓mC_ap, ↓hLI_ap, ↓hLL_ap, ↓xB_ap, ↓cIte_ap, ga_get, ga_st1, ga_st2, ga_kill, ga_put, ga_dim, vI, vL, vR, vA, List.head?_cons, List.head?_nil, rkI, rkL, rkR, rkU, ga_cc, ga_lc, decide_eq_true_eq, List.length_cons, List.length_nil, Nat.reduceAdd, Nat.reduceLT, ga_rI, ga_rL, ga_rR, ga_rU, true_and, and_true, ↓reduceIte, ↓Lm1, L0, L1, L2, L3, L4, L5, L6, L7, L8, L9, L10, L12, L15, L16, L17, L18, L20, L24, L26, L31, L32, L36, L48, L62, L64, L72, L96, L97, L122, L200, L255, L256, L399, L400, L600, L800, L9999, L1000000, i32_add, i32_mul, i32_sub, i32_lt, i32_le, i32_eq, i32_clamp, i32_in, mone_lt, mone_nlt, mone_le, mone_nle, mone_ne, mone_ne', M0, M1, i64_add, i64_mul, i64_lt, i64_le, i64_eq, i32_64, Nat.zero_le, ↓reduceIte, bI_0, bI_1, false_and, and_false, not_false_eq_true, not_true_eq_false, oF_set_eq, oF_set_ne, oO_set_eq, oO_set_ne, aR_set_eq, aR_set_ne, ds_set_eq, ds_set_ne, set_at, set_ne, set_2, lk_cons, List.set_cons_zero, List.set_cons_succ, List.getElem?_cons_zero, List.getElem?_cons_succ, Nat.reduceEqDiff, List.contains_cons, List.contains_nil, Nat.reduceBEq, beq_self_eq_true, Bool.true_or, Bool.false_or, Bool.or_false, Bool.or_true, ↓reduceIte, ne_eq, Nat.add_left_cancel_iff, oF_new_eq, oF_new_ne, oO_new_eq, oO_new_ne, aR_new_eq, aR_new_ne, ds_new_eq, ds_new_ne, new_at, new_ne, new_21, new_22, set_21, set_22, bd_72, hds]
      exact ⟨_, h', q1, rfl, rfl⟩
    · rw [q2.2.2.2.1 P hP2 (fun q => q), hP1]
      rfl
    · simp only [cC, hSz]; omega
    · simp only [cS, hSz]; omega
  | branch n a c =>
    obtain ⟨hD0, hk, oa, oc⟩ := hok
    obtain ⟨D', rfl⟩ : ∃ D', D = D' + 1 := ⟨D - 1, by omega⟩
    have ih := ih hD0
    rw [Nat.add_sub_cancel] at ih oa oc
    simp only [hSz] at hsz
    have ia := ih a oa (by omega)
    have ic := ih c oc (by omega)
    have pa : pOk 6 (fPl a).1 := by
      have : ∀ j, D' + j ≤ 6 → pOk (D' + j) (fPl a).1 := by
        intro j
        induction j with
        | zero => intro _; exact fPl_ok a D' (by omega) oa
        | succ j ihj => intro hj; exact pOk_succ (ihj (by omega))
      have := this (6 - D') (by omega)
      rwa [show D' + (6 - D') = 6 by omega] at this
    rcases hy with ⟨rfl, z, hz, gy⟩ | ⟨rfl, z, hz, gy⟩ | ⟨rfl, z, z2, hz, hz2, gy⟩ | ⟨rfl, z, z2, u, hz, hz2, gy⟩
    · obtain ⟨cs0, cs1, cs2⟩ := fSz_nil (t := c) (by omega)
      obtain ⟨z', h', g', q1, q2, q3⟩ := sp_88 (d := d) (n := n) (by omega) ia hW hb hP1 hP2 hP3 hz gy (by omega) pa (by omega)
      refine ⟨88, z', h', g', fun vs => by rw [ds_at (hW.1 _ _ gy)]; rfl, q1, 2 + cC D' (fSz a) + 4, 6 + cS D' (fSz a) + 8, ?_, ?_, ?_, ?_⟩
      · have e : (hPl 4 (.branch n a c)).1 = (plG 4 n (fPl a).1 fNil).1 := by
          show (plG 4 n (fPl a).1 (fPl c).1).1 = _
          rw [plG_b 4 n (fPl a).1 (fPl c).1 fNil (Or.inl rfl)]
        rw [e]
        exact q2
      · rw [q3]
        show _ = (some (.inr (22, [.inl (Int32.ofNat (n0 + ((fPl a).2 + 0 + (plG 4 n (fPl a).1 (fPl c).1).2)))])) : Option ga_Ce)
        rw [plG_b 4 n (fPl a).1 (fPl c).1 fNil (Or.inl rfl), Nat.add_zero, Nat.add_assoc]
      · simp only [cC, hSz, cs0, Nat.add_mul, Nat.mul_add, Nat.one_mul, Nat.mul_one, Nat.add_zero]; omega
      · simp only [cS, hSz, cs0, Nat.add_mul, Nat.mul_add, Nat.one_mul, Nat.mul_one, Nat.add_zero]; omega
    · obtain ⟨cs0, cs1, cs2⟩ := fSz_nil (t := c) (by omega)
      obtain ⟨z', h', g', q1, q2, q3⟩ := sp_94 (d := d) (n := n) (by omega) ia hW hb hP1 hP2 hP3 hz gy (by omega) (by omega)
      refine ⟨94, z', h', g', fun vs => by rw [ds_at (hW.1 _ _ gy)]; rfl, q1, 2 + cC D' (fSz a) + 4, 6 + cS D' (fSz a) + 8, ?_, ?_, ?_, ?_⟩
      · have e : (hPl 5 (.branch n a c)).1 = (plG 5 n (fPl a).1 fNil).1 := by
          show (plG 5 n (fPl a).1 (fPl c).1).1 = _
          rw [plG_b 5 n (fPl a).1 (fPl c).1 fNil (Or.inr rfl)]
        rw [e]
        exact q2
      · rw [q3]
        show _ = (some (.inr (22, [.inl (Int32.ofNat (n0 + ((fPl a).2 + 0 + (plG 5 n (fPl a).1 (fPl c).1).2)))])) : Option ga_Ce)
        rw [plG_b 5 n (fPl a).1 (fPl c).1 fNil (Or.inr rfl), Nat.add_zero, Nat.add_assoc]
      · simp only [cC, hSz, cs0, Nat.add_mul, Nat.mul_add, Nat.one_mul, Nat.mul_one, Nat.add_zero]; omega
      · simp only [cS, hSz, cs0, Nat.add_mul, Nat.mul_add, Nat.one_mul, Nat.mul_one, Nat.add_zero]; omega
    · obtain ⟨z', h', g', q1, q2, q3⟩ := sp_100 (d := d) (n := n) (by omega) ia ic hW hb hP1 hP2 hP3 hz hz2 (Or.inl ⟨rfl, gy⟩) (by omega) (fPl_ok a D' (by omega) oa) (fPl_ok c D' (by omega) oc)
      refine ⟨100, z', h', g', fun vs => by rw [ds_at (hW.1 _ _ gy)]; rfl, q1, _, _, q2, ?_, ?_, ?_⟩
      · rw [q3]
        show _ = (some (.inr (22, [.inl (Int32.ofNat (n0 + ((fPl a).2 + (fPl c).2 + (plG 6 n (fPl a).1 (fPl c).1).2)))])) : Option ga_Ce)
        rw [Nat.add_assoc, Nat.add_assoc, Nat.add_assoc]
      · simp only [cC, hSz, Nat.add_mul, Nat.mul_add, Nat.one_mul, Nat.mul_one]; omega
      · simp only [cS, hSz, Nat.add_mul, Nat.mul_add, Nat.one_mul, Nat.mul_one]; omega
    · obtain ⟨z', h', g', q1, q2, q3⟩ := sp_100 (d := d) (n := n) (by omega) ia ic hW hb hP1 hP2 hP3 hz hz2 (Or.inr ⟨rfl, u, gy⟩) (by omega) (fPl_ok a D' (by omega) oa) (fPl_ok c D' (by omega) oc)
      refine ⟨100, z', h', g', fun vs => by rw [ds_at (hW.1 _ _ gy)]; rfl, q1, _, _, q2, ?_, ?_, ?_⟩
      · rw [q3]
        show _ = (some (.inr (22, [.inl (Int32.ofNat (n0 + ((fPl a).2 + (fPl c).2 + (plG 7 n (fPl a).1 (fPl c).1).2)))])) : Option ga_Ce)
        rw [Nat.add_assoc, Nat.add_assoc, Nat.add_assoc]
      · simp only [cC, hSz, Nat.add_mul, Nat.mul_add, Nat.one_mul, Nat.mul_one]; omega
      · simp only [cS, hSz, Nat.add_mul, Nat.mul_add, Nat.one_mul, Nat.mul_one]; omega
theorem sp_58_step {b P D : Nat} {sa : Nat → Nat} (hD : D ≤ 6) (ih : ∀ d, 2 * D + 6 ≤ d → 0 < D → ∀ t, fOk (D - 1) t → fSz t ≤ 5000 → PL58 b d sa P (D - 1) t) :
    ∀ d, 2 * D + 8 ≤ d → ∀ t, fOk D t → fSz t ≤ 5000 → PL58 b d sa P D t := by
  intro d hd t hok hsz z h g n hW hz hb hP1 hP2 hP3
  obtain ⟨e, rfl⟩ : ∃ q : Nat, d = q + 1 := ⟨d - 1, by omega⟩
  obtain ⟨q, m, w0, f, z1, z2, z3, z4, z5⟩ := hz
  obtain ⟨h0, r1, r2, r3, r4, r5⟩ := new_All (b := b) (d := e) (sa := sa) (by omega) hW hb (Nat.le_refl _)
  have e1 : h0.2.1 = h.2.1 + 2 := by rw [r5]
  have e2 : h0.2.2 = h.2.2 + 6 := by rw [r5]
  suffices H : ∃ v h', RN b sa (e + 1) 58 [.inr (.inr (some (z))), .inr (.inr (some (P)))] h (some (.inr (.inr v))) h' ∧ ∃ z' g', v = some z' ∧ RES g g' h h' (fun a => a = P) z' (fPl t).1 (2 + cC D (fSz t)) (6 + cS D (fSz t)) ∧ h'.1 P = some (.inr (22, [.inl (Int32.ofNat (n + (fPl t).2))])) by
    obtain ⟨v, h', q1, z', g', rfl, q2, q3⟩ := H
    exact ⟨z', h', g', q1, q2, q3⟩
  refine go_58 _ ?_
  unfold bd_58
  refine cut1 [some (.inr (.inr (some (z)))), some (.inr (.inr (some (P)))), some (.inr (.inr (some (h.2.1)))), none] h0 (fun K hK => ?_) ?_
  · simp (maxSteps := 1000000) (disch := first | omega | (show List.contains _ _ = true; decide) | (simp only [new_21, set_21]; omega)) only [↓xC_ap, ↓iV_ap, ↓lV_ap, ↓rV_ap, ↓x1_ap, ↓x2_ap, ↓x2p_ap, ↓xIf_ap, ↓cI_ap, ↓cL_ap, ↓cR_ap, ↓cN_ap, ↓cB_ap, ↓cAnd_ap, ↓cOr_ap, ↓cNot_ap, ↓cT_ap, ↓aN_ap, ↓aC_ap, ↓sSkip_ap, ↓sSeq_ap, ↓sI_ap, ↓sL_ap, ↓sR_ap, ↓sInc_ap, ↓sIf_ap, ↓sRet0_ap, ↓sRet_ap, ↓sCont_ap, ↓sEx_ap, ↓sSw_ap, ↓xP_ap, ↓hFI_ap, ↓hFL_ap, ↓hFR_ap, ↓hAI_ap, ↓hAL_ap, ↓hAR_ap, ↓hLen_ap, ↓hCast_ap, ↓hInst_ap, ↓sPI_ap, ↓sPZ_ap, ↓sPL_ap, ↓sPR_ap, ↓sUI_ap, ↓sAI_ap, ↓sAB_ap, ↓sAZ_ap, ↓sAL_ap, ↓sAR_ap, ↓sVI_ap, ↓sVL_ap, ↓hCV_ap, ↓hCS_ap, ↓hNew_ap, ↓hNA_ap, ↓hSp_ap, ↓sObj_ap, ↓sCopy_ap, ↓mFI_ap, ↓mFL_ap, ↓mAI_ap, ↓mAL_ap, ↓tI_ap, ↓tZ_ap, ↓tL_ap, ↓tU_ap, ↓tAI_ap, ↓tAB_ap, ↓tAZ_ap, ↓tAL_ap, ↓tV_ap, ↓mC_ap, ↓hLI_ap, ↓hLL_ap, ↓xB_ap, ↓cIte_ap, ga_get, ga_st1, ga_st2, ga_kill, ga_put, ga_dim, vI, vL, vR, vA, List.head?_cons, List.head?_nil, rkI, rkL, rkR, rkU, ga_cc, ga_lc, decide_eq_true_eq, List.length_cons, List.length_nil, Nat.reduceAdd, Nat.reduceLT, ga_rI, ga_rL, ga_rR, ga_rU, true_and, and_true, ↓reduceIte, ↓Lm1, L0, L1, L2, L3, L4, L5, L6, L7, L8, L9, L10, L12, L15, L16, L17, L18, L20, L24, L26, L31, L32, L36, L48, L62, L64, L72, L96, L97, L122, L200, L255, L256, L399, L400, L600, L800, L9999, L1000000, i32_add, i32_mul, i32_sub, i32_lt, i32_le, i32_eq, i32_clamp, i32_in, mone_lt, mone_nlt, mone_le, mone_nle, mone_ne, mone_ne', M0, M1, i64_add, i64_mul, i64_lt, i64_le, i64_eq, i32_64, Nat.zero_le, ↓reduceIte, bI_0, bI_1, false_and, and_false, not_false_eq_true, not_true_eq_false, oF_set_eq, oF_set_ne, oO_set_eq, oO_set_ne, aR_set_eq, aR_set_ne, ds_set_eq, ds_set_ne, set_at, set_ne, set_2, lk_cons, List.set_cons_zero, List.set_cons_succ, List.getElem?_cons_zero, List.getElem?_cons_succ, Nat.reduceEqDiff, List.contains_cons, List.contains_nil, Nat.reduceBEq, beq_self_eq_true, Bool.true_or, Bool.false_or, Bool.or_false, Bool.or_true, ↓reduceIte, ne_eq, Nat.add_left_cancel_iff, oF_new_eq, oF_new_ne, oO_new_eq, oO_new_ne, aR_new_eq, aR_new_ne, ds_new_eq, ds_new_ne, new_at, new_ne, new_21, new_22, set_21, set_22, L0]
    exact ⟨⟨_, rfl⟩, h0, r1, hK⟩
  simp (maxSteps := 1000000) (disch := first | omega | (show List.contains _ _ = true; decide) | (simp only [new_21, set_21]; omega)) only [↓xC_ap, ↓iV_ap, ↓lV_ap, ↓rV_ap, ↓x1_ap, ↓x2_ap, ↓x2p_ap, ↓xIf_ap, ↓cI_ap, ↓cL_ap, ↓cR_ap, ↓cN_ap, ↓cB_ap, ↓cAnd_ap, ↓cOr_ap, ↓cNot_ap, ↓cT_ap, ↓aN_ap, ↓aC_ap, ↓sSkip_ap, ↓sSeq_ap, ↓sI_ap, ↓sL_ap, ↓sR_ap, ↓sInc_ap, ↓sIf_ap, ↓sRet0_ap, ↓sRet_ap, ↓sCont_ap, ↓sEx_ap, ↓sSw_ap, ↓xP_ap, ↓hFI_ap, ↓hFL_ap, ↓hFR_ap, ↓hAI_ap, ↓hAL_ap, ↓hAR_ap, ↓hLen_ap, ↓hCast_ap, ↓hInst_ap, ↓sPI_ap, ↓sPZ_ap, ↓sPL_ap, ↓sPR_ap, ↓sUI_ap, ↓sAI_ap, ↓sAB_ap, ↓sAZ_ap, ↓sAL_ap, ↓sAR_ap, ↓sVI_ap, ↓sVL_ap, ↓hCV_ap, ↓hCS_ap, ↓hNew_ap, ↓hNA_ap, ↓hSp_ap, ↓sObj_ap, ↓sCopy_ap, ↓mFI_ap, ↓mFL_ap, ↓mAI_ap, ↓mAL_ap, ↓tI_ap, ↓tZ_ap, ↓tL_ap, ↓tU_ap, ↓tAI_ap, ↓tAB_ap, ↓tAZ_ap, ↓tAL_ap, ↓tV_ap, ↓mC_ap, ↓hLI_ap, ↓hLL_ap, ↓xB_ap, ↓cIte_ap, ga_get, ga_st1, ga_st2, ga_kill, ga_put, ga_dim, vI, vL, vR, vA, List.head?_cons, List.head?_nil, rkI, rkL, rkR, rkU, ga_cc, ga_lc, decide_eq_true_eq, List.length_cons, List.length_nil, Nat.reduceAdd, Nat.reduceLT, ga_rI, ga_rL, ga_rR, ga_rU, true_and, and_true, ↓reduceIte, ↓Lm1, L0, L1, L2, L3, L4, L5, L6, L7, L8, L9, L10, L12, L15, L16, L17, L18, L20, L24, L26, L31, L32, L36, L48, L62, L64, L72, L96, L97, L122, L200, L255, L256, L399, L400, L600, L800, L9999, L1000000, i32_add, i32_mul, i32_sub, i32_lt, i32_le, i32_eq, i32_clamp, i32_in, mone_lt, mone_nlt, mone_le, mone_nle, mone_ne, mone_ne', M0, M1, i64_add, i64_mul, i64_lt, i64_le, i64_eq, i32_64, Nat.zero_le, ↓reduceIte, bI_0, bI_1, false_and, and_false, not_false_eq_true, not_true_eq_false, oF_set_eq, oF_set_ne, oO_set_eq, oO_set_ne, aR_set_eq, aR_set_ne, ds_set_eq, ds_set_ne, set_at, set_ne, set_2, lk_cons, List.set_cons_zero, List.set_cons_succ, List.getElem?_cons_zero, List.getElem?_cons_succ, Nat.reduceEqDiff, List.contains_cons, List.contains_nil, Nat.reduceBEq, beq_self_eq_true, Bool.true_or, Bool.false_or, Bool.or_false, Bool.or_true, ↓reduceIte, ne_eq, Nat.add_left_cancel_iff, oF_new_eq, oF_new_ne, oO_new_eq, oO_new_ne, aR_new_eq, aR_new_ne, ds_new_eq, ds_new_ne, new_at, new_ne, new_21, new_22, set_21, set_22, L0]
  refine lr_bd_58_l2 (fun n' env h1 => ∃ j t1 dn sd g1 w u, n' = m - j ∧ j ≤ m ∧ env = [some (.inr (.inr (some (z)))), some (.inr (.inr (some (P)))), some (.inr (.inr (some (h.2.1)))), some (.inl (Int32.ofNat (j)))] ∧ RSeq g t1 f j m ∧ fOk D t1 ∧ OWN b g1 h1 h.2.1 h.2.1 w dn ∧ Wd g1 h1 ∧ gLe g g1 ∧ (∀ a, a < h.2.1 → ¬ a = P → h1.1 a = h.1 a) ∧ h1.1 P = some (.inr (22, [.inl (Int32.ofNat (n + sd))])) ∧ (∀ a, g1 a ≠ none → g a ≠ none ∨ h.2.1 ≤ a) ∧ fApp dn (fPl t1).1 = (fPl t).1 ∧ sd + (fPl t1).2 = (fPl t).2 ∧ u + fSz t1 = fSz t ∧ fLen dn ≤ u ∧ h1.2.1 + cC D (fSz t1) ≤ h.2.1 + 2 + cC D (fSz t) ∧ h1.2.2 + cS D (fSz t1) + 4 * u + 8 ≤ h.2.2 + 6 + cS D (fSz t) + 2 * w) ?_ m _ _ ⟨0, t, fNil, 0, g, 4, 0, rfl, Nat.zero_le _, rfl, z5, hok, r2, r3, gLe_rfl, fun a ha _ => r4 a ha, by rw [r4 P hP2]; exact hP1, fun a ha => Or.inl ha, rfl, Nat.zero_add _, Nat.zero_add _, Nat.zero_le _, by omega, by omega⟩
  rintro n' env h1 ⟨j, t1, dn, sd, g1, w, u, rfl, hj, rfl, hq, hok1, hO, hW1, hle, hF, hPs, hdom, hfa, hst, hu, hdl, hc1, hc2⟩
  have y1 := hW1.1 _ _ (hle _ _ z1)
  have y2 := hW1.1 _ _ (hle _ _ z2)
  have hlo : h.2.1 ≤ h1.2.1 := by obtain ⟨q', f', -, -, -, b3, -⟩ := id hO; omega
  have hg1P : g1 P = none := by
    cases e : g1 P with
    | none => rfl
    | some c' =>
      rcases hdom P (by rw [e]; simp) with q | q
      · exact absurd hP3 q
      · omega
  simp (maxSteps := 1000000) (disch := first | omega | (show List.contains _ _ = true; decide) | (simp only [new_21, set_21]; omega)) only [↓xC_ap, ↓iV_ap, ↓lV_ap, ↓rV_ap, ↓x1_ap, ↓x2_ap, ↓x2p_ap, ↓xIf_ap, ↓cI_ap, ↓cL_ap, ↓cR_ap, ↓cN_ap, ↓cB_ap, ↓cAnd_ap, ↓cOr_ap, ↓cNot_ap, ↓cT_ap, ↓aN_ap, ↓aC_ap, ↓sSkip_ap, ↓sSeq_ap, ↓sI_ap, ↓sL_ap, ↓sR_ap, ↓sInc_ap, ↓sIf_ap, ↓sRet0_ap, ↓sRet_ap, ↓sCont_ap, ↓sEx_ap, ↓sSw_ap, ↓xP_ap, ↓hFI_ap, ↓hFL_ap, ↓hFR_ap, ↓hAI_ap, ↓hAL_ap, ↓hAR_ap, ↓hLen_ap, ↓hCast_ap, ↓hInst_ap, ↓sPI_ap, ↓sPZ_ap, ↓sPL_ap, ↓sPR_ap, ↓sUI_ap, ↓sAI_ap, ↓sAB_ap, ↓sAZ_ap, ↓sAL_ap, ↓sAR_ap, ↓sVI_ap, ↓sVL_ap, ↓hCV_ap, ↓hCS_ap, ↓hNew_ap, ↓hNA_ap, ↓hSp_ap, ↓sObj_ap, ↓sCopy_ap, ↓mFI_ap, ↓mFL_ap, ↓mAI_ap, ↓mAL_ap, ↓tI_ap, ↓tZ_ap, ↓tL_ap, ↓tU_ap, ↓tAI_ap, ↓tAB_ap, ↓tAZ_ap, ↓tAL_ap, ↓tV_ap, ↓mC_ap, ↓hLI_ap, ↓hLL_ap, ↓xB_ap, ↓cIte_ap, ga_get, ga_st1, ga_st2, ga_kill, ga_put, ga_dim, vI, vL, vR, vA, List.head?_cons, List.head?_nil, rkI, rkL, rkR, rkU, ga_cc, ga_lc, decide_eq_true_eq, List.length_cons, List.length_nil, Nat.reduceAdd, Nat.reduceLT, ga_rI, ga_rL, ga_rR, ga_rU, true_and, and_true, ↓reduceIte, ↓Lm1, L0, L1, L2, L3, L4, L5, L6, L7, L8, L9, L10, L12, L15, L16, L17, L18, L20, L24, L26, L31, L32, L36, L48, L62, L64, L72, L96, L97, L122, L200, L255, L256, L399, L400, L600, L800, L9999, L1000000, i32_add, i32_mul, i32_sub, i32_lt, i32_le, i32_eq, i32_clamp, i32_in, mone_lt, mone_nlt, mone_le, mone_nle, mone_ne, mone_ne', M0, M1, i64_add, i64_mul, i64_lt, i64_le, i64_eq, i32_64, Nat.zero_le, ↓reduceIte, bI_0, bI_1, false_and, and_false, not_false_eq_true, not_true_eq_false, oF_set_eq, oF_set_ne, oO_set_eq, oO_set_ne, aR_set_eq, aR_set_ne, ds_set_eq, ds_set_ne, set_at, set_ne, set_2, lk_cons, List.set_cons_zero, List.set_cons_succ, List.getElem?_cons_zero, List.getElem?_cons_succ, Nat.reduceEqDiff, List.contains_cons, List.contains_nil, Nat.reduceBEq, beq_self_eq_true, Bool.true_or, Bool.false_or, Bool.or_false, Bool.or_true, ↓reduceIte, ne_eq, Nat.add_left_cancel_iff, oF_new_eq, oF_new_ne, oO_new_eq, oO_new_ne, aR_new_eq, aR_new_ne, ds_new_eq, ds_new_ne, new_at, new_ne, new_21, new_22, set_21, set_22, oF_at y1]
  cases t1 with
  | leaf x =>
    have ej : j = m := hq
    subst ej
    rw [if_neg (Nat.lt_irrefl _)]
    have hO2 := hO.tail (0, 0, 0, 0, 0, 0, 0, 0)
    have e3 : fApp dn (.leaf (0, 0, 0, 0, 0, 0, 0, 0)) = (fPl t).1 := hfa
    rw [e3] at hO2
    have hw : w = 4 ∨ w ≤ 2 * fLen dn := by obtain ⟨q', f', -, -, -, -, -, -, -, -, -, -, -, -, hw, -⟩ := id hO; exact hw
    have e5 : fSz (.leaf x : Fo) = 0 := rfl
    have e6 : fLen (fPl t).1 < 10000 := by have := fPl_len t; omega
    rw [e5] at hu hc1 hc2
    have c0 : cC D 0 = 0 := by simp [cC]
    have s0 : cS D 0 = 0 := by simp [cS]
    rw [c0] at hc1
    rw [s0] at hc2
    obtain ⟨g', f1, f2, f3, f4⟩ := hO2.freeze hW1 e6
    refine ⟨h.2.1, g', rfl, ⟨gLe_trans hle f1, f2, f3, hF, fun a ha => ?_, hlo, by omega, by omega⟩, ?_⟩
    · rcases f4 a ha with q | q
      · exact hdom a q
      · exact Or.inr q
    · rw [hPs, ← hst]
      rfl
  | branch k x r =>
    obtain ⟨hjm, ⟨y, hfy, hy⟩, hqr⟩ := hq.hd
    rw [if_pos hjm]
    obtain ⟨hx, hr⟩ := hFk_hd.mp hok1
    rw [fSz_hd] at hu hc1 hc2
    rw [cC_add] at hc1
    rw [cS_add] at hc2
    obtain ⟨sel, z', h2, g2, p1, p2, hc, hs, p3, p4, p5, p6⟩ := sp_hplain (b := b) (d := e) (sa := sa) (by omega) hD (fun h0 t ht hs => ih (e - 1) (by omega) h0 t ht hs) hW1 (by omega) hPs (by omega) hg1P (hy.mono hle) hx (by omega)
    have hO2 := hO.move hP2 p3
    have hl := hPl_len k x
    obtain ⟨h3, s1, w', s2, s3, s4, s5, s6, s7⟩ := sp_53 (b := b) (d := e) (sa := sa) (by omega) p3.2.1 hO2 (by omega) p3.2.2.1
    obtain ⟨fs8, e8⟩ := hO2.o8
    obtain ⟨-, -, -, a4, a5, a6, a7, a8⟩ := id p3
    unfold bd_58_b1
    simp (maxSteps := 1000000) (disch := first | omega | (show List.contains _ _ = true; decide) | (simp only [new_21, set_21]; omega)) only [↓xC_ap, ↓iV_ap, ↓lV_ap, ↓rV_ap, ↓x1_ap, ↓x2_ap, ↓x2p_ap, ↓xIf_ap, ↓cI_ap, ↓cL_ap, ↓cR_ap, ↓cN_ap, ↓cB_ap, ↓cAnd_ap, ↓cOr_ap, ↓cNot_ap, ↓cT_ap, ↓aN_ap, ↓aC_ap, ↓sSkip_ap, ↓sSeq_ap, ↓sI_ap, ↓sL_ap, ↓sR_ap, ↓sInc_ap, ↓sIf_ap, ↓sRet0_ap, ↓sRet_ap, ↓sCont_ap, ↓sEx_ap, ↓sSw_ap, ↓xP_ap, ↓hFI_ap, ↓hFL_ap, ↓hFR_ap, ↓hAI_ap, ↓hAL_ap, ↓hAR_ap, ↓hLen_ap, ↓hCast_ap, ↓hInst_ap, ↓sPI_ap, ↓sPZ_ap, ↓sPL_ap, ↓sPR_ap, ↓sUI_ap, ↓sAI_ap, ↓sAB_ap, ↓sAZ_ap, ↓sAL_ap, ↓sAR_ap, ↓sVI_ap, ↓sVL_ap, ↓hCV_ap, ↓hCS_ap, ↓hNew_ap, ↓hNA_ap, ↓hSp_ap, ↓sObj_ap, ↓sCopy_ap, ↓mFI_ap, ↓mFL_ap, ↓mAI_ap, ↓mAL_ap, ↓tI_ap, ↓tZ_ap, ↓tL_ap, ↓tU_ap, ↓tAI_ap, ↓tAB_ap, ↓tAZ_ap, ↓tAL_ap, ↓tV_ap, ↓mC_ap, ↓hLI_ap, ↓hLL_ap, ↓xB_ap, ↓cIte_ap, ga_get, ga_st1, ga_st2, ga_kill, ga_put, ga_dim, vI, vL, vR, vA, List.head?_cons, List.head?_nil, rkI, rkL, rkR, rkU, ga_cc, ga_lc, decide_eq_true_eq, List.length_cons, List.length_nil, Nat.reduceAdd, Nat.reduceLT, ga_rI, ga_rL, ga_rR, ga_rU, true_and, and_true, ↓reduceIte, ↓Lm1, L0, L1, L2, L3, L4, L5, L6, L7, L8, L9, L10, L12, L15, L16, L17, L18, L20, L24, L26, L31, L32, L36, L48, L62, L64, L72, L96, L97, L122, L200, L255, L256, L399, L400, L600, L800, L9999, L1000000, i32_add, i32_mul, i32_sub, i32_lt, i32_le, i32_eq, i32_clamp, i32_in, mone_lt, mone_nlt, mone_le, mone_nle, mone_ne, mone_ne', M0, M1, i64_add, i64_mul, i64_lt, i64_le, i64_eq, i32_64, Nat.zero_le, ↓reduceIte, bI_0, bI_1, false_and, and_false, not_false_eq_true, not_true_eq_false, oF_set_eq, oF_set_ne, oO_set_eq, oO_set_ne, aR_set_eq, aR_set_ne, ds_set_eq, ds_set_ne, set_at, set_ne, set_2, lk_cons, List.set_cons_zero, List.set_cons_succ, List.getElem?_cons_zero, List.getElem?_cons_succ, Nat.reduceEqDiff, List.contains_cons, List.contains_nil, Nat.reduceBEq, beq_self_eq_true, Bool.true_or, Bool.false_or, Bool.or_false, Bool.or_true, ↓reduceIte, ne_eq, Nat.add_left_cancel_iff, oF_new_eq, oF_new_ne, oO_new_eq, oO_new_ne, aR_new_eq, aR_new_ne, ds_new_eq, ds_new_ne, new_at, new_ne, new_21, new_22, set_21, set_22, oF_at y1, aR_at y2, hfy, p1]
    refine ⟨_, h2, p2, ?_⟩
    simp (maxSteps := 1000000) (disch := first | omega | (show List.contains _ _ = true; decide) | (simp only [new_21, set_21]; omega)) only [↓xC_ap, ↓iV_ap, ↓lV_ap, ↓rV_ap, ↓x1_ap, ↓x2_ap, ↓x2p_ap, ↓xIf_ap, ↓cI_ap, ↓cL_ap, ↓cR_ap, ↓cN_ap, ↓cB_ap, ↓cAnd_ap, ↓cOr_ap, ↓cNot_ap, ↓cT_ap, ↓aN_ap, ↓aC_ap, ↓sSkip_ap, ↓sSeq_ap, ↓sI_ap, ↓sL_ap, ↓sR_ap, ↓sInc_ap, ↓sIf_ap, ↓sRet0_ap, ↓sRet_ap, ↓sCont_ap, ↓sEx_ap, ↓sSw_ap, ↓xP_ap, ↓hFI_ap, ↓hFL_ap, ↓hFR_ap, ↓hAI_ap, ↓hAL_ap, ↓hAR_ap, ↓hLen_ap, ↓hCast_ap, ↓hInst_ap, ↓sPI_ap, ↓sPZ_ap, ↓sPL_ap, ↓sPR_ap, ↓sUI_ap, ↓sAI_ap, ↓sAB_ap, ↓sAZ_ap, ↓sAL_ap, ↓sAR_ap, ↓sVI_ap, ↓sVL_ap, ↓hCV_ap, ↓hCS_ap, ↓hNew_ap, ↓hNA_ap, ↓hSp_ap, ↓sObj_ap, ↓sCopy_ap, ↓mFI_ap, ↓mFL_ap, ↓mAI_ap, ↓mAL_ap, ↓tI_ap, ↓tZ_ap, ↓tL_ap, ↓tU_ap, ↓tAI_ap, ↓tAB_ap, ↓tAZ_ap, ↓tAL_ap, ↓tV_ap, ↓mC_ap, ↓hLI_ap, ↓hLL_ap, ↓xB_ap, ↓cIte_ap, ga_get, ga_st1, ga_st2, ga_kill, ga_put, ga_dim, vI, vL, vR, vA, List.head?_cons, List.head?_nil, rkI, rkL, rkR, rkU, ga_cc, ga_lc, decide_eq_true_eq, List.length_cons, List.length_nil, Nat.reduceAdd, Nat.reduceLT, ga_rI, ga_rL, ga_rR, ga_rU, true_and, and_true, ↓reduceIte, ↓Lm1, L0, L1, L2, L3, L4, L5, L6, L7, L8, L9, L10, L12, L15, L16, L17, L18, L20, L24, L26, L31, L32, L36, L48, L62, L64, L72, L96, L97, L122, L200, L255, L256, L399, L400, L600, L800, L9999, L1000000, i32_add, i32_mul, i32_sub, i32_lt, i32_le, i32_eq, i32_clamp, i32_in, mone_lt, mone_nlt, mone_le, mone_nle, mone_ne, mone_ne', M0, M1, i64_add, i64_mul, i64_lt, i64_le, i64_eq, i32_64, Nat.zero_le, ↓reduceIte, bI_0, bI_1, false_and, and_false, not_false_eq_true, not_true_eq_false, oF_set_eq, oF_set_ne, oO_set_eq, oO_set_ne, aR_set_eq, aR_set_ne, ds_set_eq, ds_set_ne, set_at, set_ne, set_2, lk_cons, List.set_cons_zero, List.set_cons_succ, List.getElem?_cons_zero, List.getElem?_cons_succ, Nat.reduceEqDiff, List.contains_cons, List.contains_nil, Nat.reduceBEq, beq_self_eq_true, Bool.true_or, Bool.false_or, Bool.or_false, Bool.or_true, ↓reduceIte, ne_eq, Nat.add_left_cancel_iff, oF_new_eq, oF_new_ne, oO_new_eq, oO_new_ne, aR_new_eq, aR_new_ne, ds_new_eq, ds_new_ne, new_at, new_ne, new_21, new_22, set_21, set_22, ds_at e8]
    refine ⟨(), h3, s1, ?_⟩
    try simp (disch := omega) only [i32_succ]
    refine ⟨m - (j + 1), by omega, j + 1, r, _, sd + (hPl k x).2, g2, w', u + hSz x, rfl, by omega, rfl, hqr, hr, s2, s3, gLe_trans hle p3.1, fun a ha hn => ?_, ?_, fun a ha => ?_, ?_, ?_, by omega, ?_, by omega, by omega⟩
    · rw [s4 a ha, a4 a (by omega) hn]; exact hF a ha hn
    · rw [s4 P hP2, p4, Nat.add_assoc]
    · rcases a5 a ha with q | q
      · exact hdom a q
      · exact Or.inr (by omega)
    · rw [fApp_assoc, ← hfa, fPl_hd]
    · rw [← hst, fPl_hd, Nat.add_assoc]
    · rw [fLen_app]; omega
theorem sp_58 {b P : Nat} {sa : Nat → Nat} : ∀ D, D ≤ 6 → ∀ d, 2 * D + 8 ≤ d → ∀ t, fOk D t → fSz t ≤ 5000 → PL58 b d sa P D t := by
  intro D
  induction D with
  | zero => exact fun h => sp_58_step h (fun _ _ h => absurd h (Nat.not_lt_zero _))
  | succ D ih => exact fun h => sp_58_step h (fun d hd _ => ih (by omega) d (by omega))
