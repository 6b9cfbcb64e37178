/-! LAYER 4o22: the class: a new bundle -/
section L
variable {b d : Nat} {sa : Nat → Nat} {g : gG} {h : gH}
theorem new_bun {X : Nat} (hd : 4 ≤ d) (adr : Nat → Nat) (dl : Nat → DD) : ∃ h2, RN b sa d 163 [.inr (.inr (some (h.2.1))), .inr (.inr (some (X)))] (ga_new h (.inr (2, df_X2)) 12) none h2 ∧ (isBun g h2 X h.2.1 adr dl [] ∧ (∀ a, a < h.2.1 → h2.1 a = h.1 a) ∧ h2.2 = (h.2.1 + 15, h.2.2 + 3307)) := by
  obtain ⟨e, rfl⟩ : ∃ q : Nat, d = q + 1 := ⟨d - 1, by omega⟩
  refine go_163 _ ?_
  simp (maxSteps := 1000000) (disch := first | omega | (show List.contains _ _ = true; decide) | (simp only [new_21, set_21]; omega)) only [sSeq, sI, sL, sR, sIf, sInc, sSkip, sCont, sRet, sRet0, sEx, xC, iV, lV, rV, x1, x2, x2p, xP, xIf, xB, cI, cL, cN, cR, cB, cAnd, cOr, cNot, cT, aN, aC, ga_get, ga_st1, ga_st2, ga_kill, ga_put, ga_dim, vI, vL, vR, vA, List.head?_cons, List.head?_nil, rkI, rkL, rkR, rkU, ga_cc, ga_lc, decide_eq_true_eq, List.length_cons, List.length_nil, Nat.reduceAdd, Nat.reduceLT, ga_rI, ga_rL, ga_rR, ga_rU, true_and, and_true, ↓reduceIte, hFI, hFL, hFR, hAI, hAL, hAR, hLen, hCast, hInst, hCV, hCS, hNew, hSp, hNA, sPI, sPZ, sPL, sPR, sUI, sAI, sAB, sAZ, sAL, sAR, sVI, sVL, sObj, sSw, ↓Lm1, L0, L1, L2, L3, L4, L5, L6, L7, L8, L9, L10, L12, L15, L16, L17, L18, L20, L24, L26, L31, L32, L36, L48, L62, L64, L72, L96, L97, L122, L200, L255, L256, L399, L400, L600, L800, L9999, L1000000, i32_add, i32_mul, i32_sub, i32_lt, i32_le, i32_eq, i32_clamp, i32_in, mone_lt, mone_nlt, mone_le, mone_nle, mone_ne, mone_ne', M0, M1, i64_add, i64_mul, i64_lt, i64_le, i64_eq, i32_64, Nat.zero_le, ↓reduceIte, bI_0, bI_1, false_and, and_false, not_false_eq_true, not_true_eq_false, oF_set_eq, oF_set_ne, oO_set_eq, oO_set_ne, aR_set_eq, aR_set_ne, ds_set_eq, ds_set_ne, set_at, set_ne, set_2, lk_cons, List.set_cons_zero, List.set_cons_succ, List.getElem?_cons_zero, List.getElem?_cons_succ, Nat.reduceEqDiff, List.contains_cons, List.contains_nil, Nat.reduceBEq, beq_self_eq_true, Bool.true_or, Bool.false_or, Bool.or_false, Bool.or_true, ↓reduceIte, ne_eq, Nat.add_left_cancel_iff, oF_new_eq, oF_new_ne, oO_new_eq, oO_new_ne, aR_new_eq, aR_new_ne, ds_new_eq, ds_new_ne, new_at, new_ne, new_21, new_22, set_21, set_22, bd_163, df_X2]
  refine ⟨by decide, ⟨_, new_at _ _ _⟩, ?_⟩
  refine use_row (g := g) (by omega) rfl (fun h1 c1 c2 c3 => ?_)
  have z1 : h1.1 h.2.1 = some (.inr (2, [.inr (.inr (some (h.2.1 + 1))), .inr (.inr none), .inr (.inr none), .inr (.inr none), .inr (.inr none), .inr (.inr none), .inr (.inr none), .inl (Int32.ofNat (0)), .inl (Int32.ofNat (0)), .inl (Int32.ofNat (0)), .inl (Int32.ofNat (0)), .inr (.inr (some (X)))])) := by
    rw [c2 _ (by omega)]
    simp [ga_set, ga_new]
  have z2 : h1.1 (h.2.1 + 1) = some (.inl (6, 6, .inr (.inr fun _ => none))) := by
    rw [c2 _ (by omega)]
    simp [ga_set, ga_new]
    rfl
  have z3 : ∀ a, a < h.2.1 → h1.1 a = h.1 a := fun a ha => by
    rw [c2 _ (by omega)]
    have : a ≠ h.2.1 := by omega
    have : a ≠ h.2.1 + 1 := by omega
    simp [ga_set, ga_new, *]
  have e1 : h1.2.1 = h.2.1 + 1 + 1 + 3 := by rw [c3]
  simp (maxSteps := 1000000) (disch := first | omega | (show List.contains _ _ = true; decide) | (simp only [new_21, set_21]; omega)) only [sSeq, sI, sL, sR, sIf, sInc, sSkip, sCont, sRet, sRet0, sEx, xC, iV, lV, rV, x1, x2, x2p, xP, xIf, xB, cI, cL, cN, cR, cB, cAnd, cOr, cNot, cT, aN, aC, ga_get, ga_st1, ga_st2, ga_kill, ga_put, ga_dim, vI, vL, vR, vA, List.head?_cons, List.head?_nil, rkI, rkL, rkR, rkU, ga_cc, ga_lc, decide_eq_true_eq, List.length_cons, List.length_nil, Nat.reduceAdd, Nat.reduceLT, ga_rI, ga_rL, ga_rR, ga_rU, true_and, and_true, ↓reduceIte, hFI, hFL, hFR, hAI, hAL, hAR, hLen, hCast, hInst, hCV, hCS, hNew, hSp, hNA, sPI, sPZ, sPL, sPR, sUI, sAI, sAB, sAZ, sAL, sAR, sVI, sVL, sObj, sSw, ↓Lm1, L0, L1, L2, L3, L4, L5, L6, L7, L8, L9, L10, L12, L15, L16, L17, L18, L20, L24, L26, L31, L32, L36, L48, L62, L64, L72, L96, L97, L122, L200, L255, L256, L399, L400, L600, L800, L9999, L1000000, i32_add, i32_mul, i32_sub, i32_lt, i32_le, i32_eq, i32_clamp, i32_in, mone_lt, mone_nlt, mone_le, mone_nle, mone_ne, mone_ne', M0, M1, i64_add, i64_mul, i64_lt, i64_le, i64_eq, i32_64, Nat.zero_le, ↓reduceIte, bI_0, bI_1, false_and, and_false, not_false_eq_true, not_true_eq_false, oF_set_eq, oF_set_ne, oO_set_eq, oO_set_ne, aR_set_eq, aR_set_ne, ds_set_eq, ds_set_ne, set_at, set_ne, set_2, lk_cons, List.set_cons_zero, List.set_cons_succ, List.getElem?_cons_zero, List.getElem?_cons_succ, Nat.reduceEqDiff, List.contains_cons, List.contains_nil, Nat.reduceBEq, beq_self_eq_true, Bool.true_or, Bool.false_or, Bool.or_false, Bool.or_true, ↓reduceIte, ne_eq, Nat.add_left_cancel_iff, oF_new_eq, oF_new_ne, oO_new_eq, oO_new_ne, aR_new_eq, aR_new_ne, ds_new_eq, ds_new_ne, new_at, new_ne, new_21, new_22, set_21, set_22, oO_at z1, e1]
  refine ⟨⟨df_X4, by simp [ga_set, ga_new, e1]⟩, ?_⟩
  refine use_sink (by omega) e1 (fun h4 q1 q2 q3 => ?_)
  have y1 : h4.1 h.2.1 = some (.inr (2, [.inr (.inr (some (h.2.1 + 1))), .inr (.inr (some (h.2.1 + 1 + 1))), .inr (.inr none), .inr (.inr none), .inr (.inr none), .inr (.inr none), .inr (.inr none), .inl (Int32.ofNat (0)), .inl (Int32.ofNat (0)), .inl (Int32.ofNat (0)), .inl (Int32.ofNat (0)), .inr (.inr (some (X)))])) := by
    rw [q2 _ (by omega)]
    simp [ga_set]
  have y0 : ∀ x, x < h.2.1 + 1 + 1 + 3 → x ≠ h.2.1 → h4.1 x = h1.1 x := fun x hx hn => by
    rw [q2 _ hx]
    simp [ga_set, hn]
  have e4 : h4.2.1 = h.2.1 + 1 + 1 + 3 + 6 := by rw [q3]
  have key : ∀ H : gH, H.1 h.2.1 = some (.inr (2, [.inr (.inr (some (h.2.1 + 1))), .inr (.inr (some (h.2.1 + 2))), .inr (.inr (some (h.2.1 + 5))), .inr (.inr (some (h.2.1 + 11))), .inr (.inr (some (h.2.1 + 12))), .inr (.inr (some (h.2.1 + 13))), .inr (.inr (some (h.2.1 + 14))), .inl (Int32.ofNat (0)), .inl (Int32.ofNat (0)), .inl (Int32.ofNat (0)), .inl (Int32.ofNat (0)), .inr (.inr (some (X)))])) → H.1 (h.2.1 + 11) = some (.inl (0, 216, .inl fun _ => 0)) → H.1 (h.2.1 + 12) = some (.inl (1, 1728, .inr (.inl fun _ => 0))) → H.1 (h.2.1 + 13) = some (.inl (1, 48, .inr (.inl fun _ => 0))) → H.1 (h.2.1 + 14) = some (.inl (3, 64, .inl fun _ => 0)) → (∀ x, x < h.2.1 + 11 → x ≠ h.2.1 → H.1 x = h4.1 x) → H.2 = (h.2.1 + 15, h.2.2 + 3307) → isBun g H X h.2.1 adr dl [] ∧ (∀ a, a < h.2.1 → H.1 a = h.1 a) ∧ H.2 = (h.2.1 + 15, h.2.2 + 3307) := by
    intro H k0 k1 k2 k3 k4 k5 k6
    refine ⟨⟨fun _ => none, Int32.ofNat 0, [], fun _ => 0, fun _ => 0, fun _ => 0, fun _ => 0, k0, ?_, c1.mono gLe_rfl (fun x u1 u2 => ?_), q1.fr (P := fun x => x = h.2.1 ∨ h.2.1 + 11 ≤ x) (fun x hx => ?_) (fun x u1 u2 => by omega), k1, k2, k3, k4, Nat.zero_le _, fun i k hk => by cases hk⟩, fun a ha => ?_, k6⟩
    · rw [k5 _ (by omega) (by omega), y0 _ (by omega) (by omega)]; exact z2
    · rw [k5 _ (by omega) (by omega), y0 _ (by omega) (by omega)]
    · exact k5 x (by omega) (by omega)
    · rw [k5 _ (by omega) (by omega), y0 _ (by omega) (by omega)]; exact z3 a ha
  simp (maxSteps := 1000000) (disch := first | omega | (show List.contains _ _ = true; decide) | (simp only [new_21, set_21]; omega)) only [sSeq, sI, sL, sR, sIf, sInc, sSkip, sCont, sRet, sRet0, sEx, xC, iV, lV, rV, x1, x2, x2p, xP, xIf, xB, cI, cL, cN, cR, cB, cAnd, cOr, cNot, cT, aN, aC, ga_get, ga_st1, ga_st2, ga_kill, ga_put, ga_dim, vI, vL, vR, vA, List.head?_cons, List.head?_nil, rkI, rkL, rkR, rkU, ga_cc, ga_lc, decide_eq_true_eq, List.length_cons, List.length_nil, Nat.reduceAdd, Nat.reduceLT, ga_rI, ga_rL, ga_rR, ga_rU, true_and, and_true, ↓reduceIte, hFI, hFL, hFR, hAI, hAL, hAR, hLen, hCast, hInst, hCV, hCS, hNew, hSp, hNA, sPI, sPZ, sPL, sPR, sUI, sAI, sAB, sAZ, sAL, sAR, sVI, sVL, sObj, sSw, ↓Lm1, L0, L1, L2, L3, L4, L5, L6, L7, L8, L9, L10, L12, L15, L16, L17, L18, L20, L24, L26, L31, L32, L36, L48, L62, L64, L72, L96, L97, L122, L200, L255, L256, L399, L400, L600, L800, L9999, L1000000, i32_add, i32_mul, i32_sub, i32_lt, i32_le, i32_eq, i32_clamp, i32_in, mone_lt, mone_nlt, mone_le, mone_nle, mone_ne, mone_ne', M0, M1, i64_add, i64_mul, i64_lt, i64_le, i64_eq, i32_64, Nat.zero_le, ↓reduceIte, bI_0, bI_1, false_and, and_false, not_false_eq_true, not_true_eq_false, oF_set_eq, oF_set_ne, oO_set_eq, oO_set_ne, aR_set_eq, aR_set_ne, ds_set_eq, ds_set_ne, set_at, set_ne, set_2, lk_cons, List.set_cons_zero, List.set_cons_succ, List.getElem?_cons_zero, List.getElem?_cons_succ, Nat.reduceEqDiff, List.contains_cons, List.contains_nil, Nat.reduceBEq, beq_self_eq_true, Bool.true_or, Bool.false_or, Bool.or_false, Bool.or_true, ↓reduceIte, ne_eq, Nat.add_left_cancel_iff, oF_new_eq, oF_new_ne, oO_new_eq, oO_new_ne, aR_new_eq, aR_new_ne, ds_new_eq, ds_new_ne, new_at, new_ne, new_21, new_22, set_21, set_22, oO_at y1, e4]
  refine ⟨by decide, by decide, by decide, by decide, by decide, by decide, key _ ?_ ?_ ?_ ?_ ?_ (fun x hx hn => ?_) ?_⟩
  · simp [ga_set]
  · simp [ga_set, ga_new, e4]; rfl
  · simp [ga_set, ga_new, e4]; rfl
  · simp [ga_set, ga_new, e4]; rfl
  · simp [ga_set, ga_new, e4]; rfl
  · have n1 : x ≠ h.2.1 + 11 := by omega
    have n2 : x ≠ h.2.1 + 12 := by omega
    have n3 : x ≠ h.2.1 + 13 := by omega
    have n4 : x ≠ h.2.1 + 14 := by omega
    simp [ga_set, ga_new, e4, *]
  · refine Prod.ext ?_ ?_
    · simp [ga_set, ga_new, e4]
    · simp [ga_set, ga_new, q3, c3]
end L
