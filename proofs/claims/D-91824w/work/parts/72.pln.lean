/-! LAYER 4f8: the class: what is made plain -/
theorem OWN.freeze {b base o w : Nat} {g : gG} {h : gH} {t : Fo} (hO : OWN b g h base o w t) (hW : Wd g h) (hl : fLen t < 10000) : ∃ g', gLe g g' ∧ Wd g' h ∧ IsAll g' o t ∧ ∀ x, g' x ≠ none → g x ≠ none ∨ base ≤ x := by
  obtain ⟨q, f, b0, b1, b2, b3, b4, b5, b6, b7, e0, e1, b8, b9, b10, hq⟩ := hO
  have hle : gLe g (fun x => if x = o ∨ x = q then h.1 x else g x) := by
    intro x c hx
    dsimp only
    split
    · exact hW.1 x c hx
    · exact hx
  refine ⟨_, hle, ⟨?_, ?_⟩, ⟨q, fLen t, w, f, ?_, ?_, b8, by omega, RSeq.mono hle t hq⟩, ?_⟩
  · intro x c hx
    dsimp only at hx
    split at hx
    · exact hx
    · exact hW.1 x c hx
  · intro x hx
    by_cases e : x = o ∨ x = q
    · omega
    · have hx : (if x = o ∨ x = q then h.1 x else g x) ≠ none := hx
      rw [if_neg e] at hx
      exact hW.2 x hx
  · dsimp only; rw [if_pos (Or.inl rfl)]; exact e0
  · dsimp only; rw [if_pos (Or.inr rfl)]; exact e1
  · intro x hx
    by_cases e : x = o ∨ x = q
    · right; omega
    · have hx : (if x = o ∨ x = q then h.1 x else g x) ≠ none := hx
      rw [if_neg e] at hx
      exact Or.inl hx
def RES (g g' : gG) (h h' : gH) (P : Nat → Prop) (z : Nat) (t : Fo) (cc ss : Nat) : Prop := gLe g g' ∧ Wd g' h' ∧ IsAll g' z t ∧ (∀ a, a < h.2.1 → ¬ P a → h'.1 a = h.1 a) ∧ (∀ a, g' a ≠ none → g a ≠ none ∨ h.2.1 ≤ a) ∧ h.2.1 ≤ h'.2.1 ∧ h'.2.1 ≤ h.2.1 + cc ∧ h'.2.2 ≤ h.2.2 + ss
theorem RPt.mono {g g' : gG} (hg : gLe g g') {y k : Nat} {x : Fo} (h : RPt g y k x) : RPt g' y k x := by
  cases x with
  | leaf l => exact RLf.mono hg h
  | branch n a b =>
    rcases h with ⟨e, z, hz, gw⟩ | ⟨e, z, hz, gw⟩ | ⟨e, z, z2, hz, hz2, gw⟩ | ⟨e, z, z2, v, hz, hz2, gw⟩
    · exact Or.inl ⟨e, z, hz.mono hg, hg _ _ gw⟩
    · exact Or.inr (Or.inl ⟨e, z, hz.mono hg, hg _ _ gw⟩)
    · exact Or.inr (Or.inr (Or.inl ⟨e, z, z2, hz.mono hg, hz2.mono hg, hg _ _ gw⟩))
    · exact Or.inr (Or.inr (Or.inr ⟨e, z, z2, v, hz.mono hg, hz2.mono hg, hg _ _ gw⟩))
theorem OWN.w4 {b base o w : Nat} {g : gG} {h : gH} {t : Fo} (hO : OWN b g h base o w t) (hl : fLen t ≤ 2) : w = 4 := by
  obtain ⟨q, f, b0, b1, b2, b3, b4, b5, b6, b7, e0, e1, b8, b9, b10, hq⟩ := hO
  omega
theorem RSeq.tail {g : gG} (x : Lf) : ∀ (t : Fo) {f : Nat → Option Nat} {j k : Nat}, RSeq g t f j k → RSeq g (fApp t (.leaf x)) f j k := by
  intro t
  induction t with
  | leaf z => intro f j k h; exact h
  | branch c y r _ ih =>
    intro f j k h
    obtain ⟨h1, ⟨y', h2, h3⟩, h4⟩ := h.hd
    exact RSeq.mk h1 h2 h3 (ih h4)
theorem OWN.tail {b base o w : Nat} {g : gG} {h : gH} {t : Fo} (hO : OWN b g h base o w t) (x : Lf) : OWN b g h base o w (fApp t (.leaf x)) := by
  obtain ⟨q, f, b0, b1, b2, b3, b4, b5, b6, b7, e0, e1, b8, b9, b10, hq⟩ := hO
  have e : fLen (fApp t (.leaf x)) = fLen t := by rw [fLen_app]; rfl
  refine ⟨q, f, b0, b1, b2, b3, b4, b5, b6, b7, ?_, e1, ?_, b9, ?_, ?_⟩
  · rw [e]; exact e0
  · rw [e]; exact b8
  · rw [e]; exact b10
  · rw [e]; exact RSeq.tail x t hq
theorem sp_64 {b d : Nat} {sa : Nat → Nat} {g : gG} {h : gH} {y k : Nat} {x : Fo} (hd : 2 ≤ d) (hW : Wd g h) (hb : b ≤ h.2.1) (hx : RPt g y k x) : ∃ z h', RN b sa d 64 [.inr (.inr (some (y)))] h (some (.inr (.inr (some (z))))) h' ∧ ∃ g', RES g g' h h' (fun _ => False) z (.branch k x fNil) 3 6 := by
  obtain ⟨e, rfl⟩ : ∃ q : Nat, d = q + 1 := ⟨d - 1, by omega⟩
  obtain ⟨h2, p1, p2, p3, p4, p5⟩ := new_All (b := b) (d := e) (sa := sa) (by omega) hW hb (Nat.le_refl _)
  obtain ⟨h3, q1, w', q2, q3, q4, q5, q6, q7⟩ := sp_52 (d := e) (sa := sa) (by omega) p3 p2 (by decide) hx
  have hw := q2.w4 (show 1 ≤ 2 by decide)
  obtain ⟨g', f1, f2, f3, f4⟩ := q2.freeze q3 (show 1 < 10000 by decide)
  obtain ⟨z, h', r1, rfl, rfl⟩ := go_64 (b := b) (d := e) (sa := sa) (h := h) (x0 := some y) (fun v x => v = some h.2.1 ∧ x = h3) (by
    simp (maxSteps := 1000000) (disch := first | omega | (show List.contains _ _ = true; decide) | (simp only [new_21, set_21]; omega)) only [sSeq, sI, sL, sR, sIf, sInc, sSkip, sCont, sRet, sRet0, sEx, xC, iV, lV, rV, x1, x2, x2p, xP, xIf, xB, cI, cL, cN, cR, cB, cAnd, cOr, cNot, cT, aN, aC, ga_get, ga_st1, ga_st2, ga_kill, ga_put, ga_dim, vI, vL, vR, vA, List.head?_cons, List.head?_nil, rkI, rkL, rkR, rkU, ga_cc, ga_lc, decide_eq_true_eq, List.length_cons, List.length_nil, Nat.reduceAdd, Nat.reduceLT, ga_rI, ga_rL, ga_rR, ga_rU, true_and, and_true, ↓reduceIte, hFI, hFL, hFR, hAI, hAL, hAR, hLen, hCast, hInst, hCV, hCS, hNew, hSp, hNA, sPI, sPZ, sPL, sPR, sUI, sAI, sAB, sAZ, sAL, sAR, sVI, sVL, sObj, sSw, ↓Lm1, L0, L1, L2, L3, L4, L5, L6, L7, L8, L9, L10, L12, L15, L16, L17, L18, L20, L24, L26, L31, L32, L36, L48, L62, L64, L72, L96, L97, L122, L200, L255, L256, L399, L400, L600, L800, L9999, L1000000, i32_add, i32_mul, i32_sub, i32_lt, i32_le, i32_eq, i32_clamp, i32_in, mone_lt, mone_nlt, mone_le, mone_nle, mone_ne, mone_ne', M0, M1, i64_add, i64_mul, i64_lt, i64_le, i64_eq, i32_64, Nat.zero_le, ↓reduceIte, bI_0, bI_1, false_and, and_false, not_false_eq_true, not_true_eq_false, oF_set_eq, oF_set_ne, oO_set_eq, oO_set_ne, aR_set_eq, aR_set_ne, ds_set_eq, ds_set_ne, set_at, set_ne, set_2, lk_cons, List.set_cons_zero, List.set_cons_succ, List.getElem?_cons_zero, List.getElem?_cons_succ, Nat.reduceEqDiff, List.contains_cons, List.contains_nil, Nat.reduceBEq, beq_self_eq_true, Bool.true_or, Bool.false_or, Bool.or_false, Bool.or_true, ↓reduceIte, ne_eq, Nat.add_left_cancel_iff, oF_new_eq, oF_new_ne, oO_new_eq, oO_new_ne, aR_new_eq, aR_new_ne, ds_new_eq, ds_new_ne, new_at, new_ne, new_21, new_22, set_21, set_22, bd_64]
    refine ⟨⟨_, rfl⟩, h2, p1, ?_⟩
    obtain ⟨q, f, -, -, -, -, -, -, -, -, e0, -⟩ := p2
    simp (maxSteps := 1000000) (disch := first | omega | (show List.contains _ _ = true; decide) | (simp only [new_21, set_21]; omega)) only [sSeq, sI, sL, sR, sIf, sInc, sSkip, sCont, sRet, sRet0, sEx, xC, iV, lV, rV, x1, x2, x2p, xP, xIf, xB, cI, cL, cN, cR, cB, cAnd, cOr, cNot, cT, aN, aC, ga_get, ga_st1, ga_st2, ga_kill, ga_put, ga_dim, vI, vL, vR, vA, List.head?_cons, List.head?_nil, rkI, rkL, rkR, rkU, ga_cc, ga_lc, decide_eq_true_eq, List.length_cons, List.length_nil, Nat.reduceAdd, Nat.reduceLT, ga_rI, ga_rL, ga_rR, ga_rU, true_and, and_true, ↓reduceIte, hFI, hFL, hFR, hAI, hAL, hAR, hLen, hCast, hInst, hCV, hCS, hNew, hSp, hNA, sPI, sPZ, sPL, sPR, sUI, sAI, sAB, sAZ, sAL, sAR, sVI, sVL, sObj, sSw, ↓Lm1, L0, L1, L2, L3, L4, L5, L6, L7, L8, L9, L10, L12, L15, L16, L17, L18, L20, L24, L26, L31, L32, L36, L48, L62, L64, L72, L96, L97, L122, L200, L255, L256, L399, L400, L600, L800, L9999, L1000000, i32_add, i32_mul, i32_sub, i32_lt, i32_le, i32_eq, i32_clamp, i32_in, mone_lt, mone_nlt, mone_le, mone_nle, mone_ne, mone_ne', M0, M1, i64_add, i64_mul, i64_lt, i64_le, i64_eq, i32_64, Nat.zero_le, ↓reduceIte, bI_0, bI_1, false_and, and_false, not_false_eq_true, not_true_eq_false, oF_set_eq, oF_set_ne, oO_set_eq, oO_set_ne, aR_set_eq, aR_set_ne, ds_set_eq, ds_set_ne, set_at, set_ne, set_2, lk_cons, List.set_cons_zero, List.set_cons_succ, List.getElem?_cons_zero, List.getElem?_cons_succ, Nat.reduceEqDiff, List.contains_cons, List.contains_nil, Nat.reduceBEq, beq_self_eq_true, Bool.true_or, Bool.false_or, Bool.or_false, Bool.or_true, ↓reduceIte, ne_eq, Nat.add_left_cancel_iff, oF_new_eq, oF_new_ne, oO_new_eq, oO_new_ne, aR_new_eq, aR_new_ne, ds_new_eq, ds_new_ne, new_at, new_ne, new_21, new_22, set_21, set_22, ds_at e0]
    exact ⟨(), h3, q1, rfl⟩)
  have e21 : h2.2.1 = h.2.1 + 2 := by rw [p5]
  have e22 : h2.2.2 = h.2.2 + 6 := by rw [p5]
  exact ⟨_, _, r1, g', f1, f2, f3, fun a ha _ => (q4 a ha).trans (p4 a ha), f4, by omega, by omega, by omega⟩
theorem sp_53 {b d base o w z : Nat} {sa : Nat → Nat} {g : gG} {h : gH} {t u : Fo} (hd : 2 ≤ d) (hW : Wd g h) (hO : OWN b g h base o w t) (hl : fLen t + fLen u < 10000) (hz : IsAll g z u) : ∃ h', RN b sa d 53 [.inr (.inr (some (o))), .inr (.inr (some (z)))] h none h' ∧ ∃ w', OWN b g h' base o w' (fApp t u) ∧ Wd g h' ∧ (∀ a, a < base → h'.1 a = h.1 a) ∧ h.2.1 ≤ h'.2.1 ∧ h'.2.1 ≤ h.2.1 + fLen u ∧ h'.2.2 + 2 * w = h.2.2 + 2 * w' := by
  obtain ⟨e, rfl⟩ : ∃ q : Nat, d = q + 1 := ⟨d - 1, by omega⟩
  obtain ⟨q, m, w0, f, z1, z2, z3, z4, z5⟩ := hz
  have hm := RSeq.le u z5
  refine go_53 _ ?_
  simp (disch := omega) only [bd_53, sSeq, sI, sL, sR, sIf, sInc, sSkip, sCont, sRet, sRet0, sEx, xC, iV, lV, rV, x1, x2, x2p, xP, xIf, xB, cI, cL, cN, cR, cB, cAnd, cOr, cNot, cT, aN, aC, ga_get, ga_st1, ga_st2, ga_kill, ga_put, ga_dim, vI, vL, vR, vA, List.head?_cons, List.head?_nil, rkI, rkL, rkR, rkU, ga_cc, ga_lc, decide_eq_true_eq, List.length_cons, List.length_nil, Nat.reduceAdd, Nat.reduceLT, ga_rI, ga_rL, ga_rR, ga_rU, true_and, and_true, ↓reduceIte, hFI, hFL, hFR, hAI, hAL, hAR, hLen, hCast, hInst, hCV, hCS, hNew, hSp, hNA, sPI, sPZ, sPL, sPR, sUI, sAI, sAB, sAZ, sAL, sAR, sVI, sVL, sObj, sSw, ↓Lm1, L0, L1, L2, L3, L4, L5, L6, L7, L8, L9, L10, L12, L15, L16, L17, L18, L20, L24, L26, L31, L32, L36, L48, L62, L64, L72, L96, L97, L122, L200, L255, L256, L399, L400, L600, L800, L9999, L1000000, i32_add, i32_mul, i32_sub, i32_lt, i32_le, i32_eq, i32_clamp, i32_in, mone_lt, mone_nlt, mone_le, mone_nle, mone_ne, mone_ne', M0, M1, i64_add, i64_mul, i64_lt, i64_le, i64_eq, i32_64, Nat.zero_le, ↓reduceIte, bI_0, bI_1, false_and, and_false, not_false_eq_true, not_true_eq_false]
  refine lr_bd_53_l2 (fun n env h1 => ∃ j t1 u1 w1, n = m - j ∧ j ≤ m ∧ env = [some (.inr (.inr (some (o)))), some (.inr (.inr (some (z)))), some (.inl (Int32.ofNat (j)))] ∧ RSeq g u1 f j m ∧ fApp t1 u1 = fApp t u ∧ fLen t1 = fLen t + j ∧ OWN b g h1 base o w1 t1 ∧ Wd g h1 ∧ (∀ a, a < base → h1.1 a = h.1 a) ∧ h.2.1 ≤ h1.2.1 ∧ h1.2.1 ≤ h.2.1 + j ∧ h1.2.2 + 2 * w = h.2.2 + 2 * w1) ?_ m _ _ ⟨0, t, u, w, rfl, Nat.zero_le _, rfl, z5, rfl, rfl, hO, hW, fun _ _ => rfl, Nat.le_refl _, Nat.le_refl _, rfl⟩
  rintro n env h1 ⟨j, t1, u1, w1, rfl, hj, rfl, hq, he, hlen, hO1, hW1, hF, hc1, hc2, hc3⟩
  have y1 := hW1.1 _ _ z1
  have y2 := hW1.1 _ _ z2
  simp (maxSteps := 1000000) (disch := first | omega | (show List.contains _ _ = true; decide) | (simp only [new_21, set_21]; omega)) only [sSeq, sI, sL, sR, sIf, sInc, sSkip, sCont, sRet, sRet0, sEx, xC, iV, lV, rV, x1, x2, x2p, xP, xIf, xB, cI, cL, cN, cR, cB, cAnd, cOr, cNot, cT, aN, aC, ga_get, ga_st1, ga_st2, ga_kill, ga_put, ga_dim, vI, vL, vR, vA, List.head?_cons, List.head?_nil, rkI, rkL, rkR, rkU, ga_cc, ga_lc, decide_eq_true_eq, List.length_cons, List.length_nil, Nat.reduceAdd, Nat.reduceLT, ga_rI, ga_rL, ga_rR, ga_rU, true_and, and_true, ↓reduceIte, hFI, hFL, hFR, hAI, hAL, hAR, hLen, hCast, hInst, hCV, hCS, hNew, hSp, hNA, sPI, sPZ, sPL, sPR, sUI, sAI, sAB, sAZ, sAL, sAR, sVI, sVL, sObj, sSw, ↓Lm1, L0, L1, L2, L3, L4, L5, L6, L7, L8, L9, L10, L12, L15, L16, L17, L18, L20, L24, L26, L31, L32, L36, L48, L62, L64, L72, L96, L97, L122, L200, L255, L256, L399, L400, L600, L800, L9999, L1000000, i32_add, i32_mul, i32_sub, i32_lt, i32_le, i32_eq, i32_clamp, i32_in, mone_lt, mone_nlt, mone_le, mone_nle, mone_ne, mone_ne', M0, M1, i64_add, i64_mul, i64_lt, i64_le, i64_eq, i32_64, Nat.zero_le, ↓reduceIte, bI_0, bI_1, false_and, and_false, not_false_eq_true, not_true_eq_false, oF_set_eq, oF_set_ne, oO_set_eq, oO_set_ne, aR_set_eq, aR_set_ne, ds_set_eq, ds_set_ne, set_at, set_ne, set_2, lk_cons, List.set_cons_zero, List.set_cons_succ, List.getElem?_cons_zero, List.getElem?_cons_succ, Nat.reduceEqDiff, List.contains_cons, List.contains_nil, Nat.reduceBEq, beq_self_eq_true, Bool.true_or, Bool.false_or, Bool.or_false, Bool.or_true, ↓reduceIte, ne_eq, Nat.add_left_cancel_iff, oF_new_eq, oF_new_ne, oO_new_eq, oO_new_ne, aR_new_eq, aR_new_ne, ds_new_eq, ds_new_ne, new_at, new_ne, new_21, new_22, set_21, set_22, oF_at y1]
  cases u1 with
  | leaf x =>
    have e1 : j = m := hq
    subst e1
    rw [if_neg (Nat.lt_irrefl _)]
    exact ⟨w1, by rw [← he]; exact hO1.tail x, hW1, hF, hc1, by omega, hc3⟩
  | branch k x r =>
    obtain ⟨hjm, ⟨y, hfy, hy⟩, hqr⟩ := hq.hd
    rw [if_pos hjm]
    have hlr := RSeq.le r hqr
    obtain ⟨h3, q1, w', q2, q3, q4, q5, q6, q7⟩ := sp_52 (d := e) (sa := sa) (by omega) hW1 hO1 (by omega) hy
    obtain ⟨q', f', -, -, -, -, -, -, -, -, e0, -⟩ := id hO1
    simp (maxSteps := 1000000) (disch := first | omega | (show List.contains _ _ = true; decide) | (simp only [new_21, set_21]; omega)) only [sSeq, sI, sL, sR, sIf, sInc, sSkip, sCont, sRet, sRet0, sEx, xC, iV, lV, rV, x1, x2, x2p, xP, xIf, xB, cI, cL, cN, cR, cB, cAnd, cOr, cNot, cT, aN, aC, ga_get, ga_st1, ga_st2, ga_kill, ga_put, ga_dim, vI, vL, vR, vA, List.head?_cons, List.head?_nil, rkI, rkL, rkR, rkU, ga_cc, ga_lc, decide_eq_true_eq, List.length_cons, List.length_nil, Nat.reduceAdd, Nat.reduceLT, ga_rI, ga_rL, ga_rR, ga_rU, true_and, and_true, ↓reduceIte, hFI, hFL, hFR, hAI, hAL, hAR, hLen, hCast, hInst, hCV, hCS, hNew, hSp, hNA, sPI, sPZ, sPL, sPR, sUI, sAI, sAB, sAZ, sAL, sAR, sVI, sVL, sObj, sSw, ↓Lm1, L0, L1, L2, L3, L4, L5, L6, L7, L8, L9, L10, L12, L15, L16, L17, L18, L20, L24, L26, L31, L32, L36, L48, L62, L64, L72, L96, L97, L122, L200, L255, L256, L399, L400, L600, L800, L9999, L1000000, i32_add, i32_mul, i32_sub, i32_lt, i32_le, i32_eq, i32_clamp, i32_in, mone_lt, mone_nlt, mone_le, mone_nle, mone_ne, mone_ne', M0, M1, i64_add, i64_mul, i64_lt, i64_le, i64_eq, i32_64, Nat.zero_le, ↓reduceIte, bI_0, bI_1, false_and, and_false, not_false_eq_true, not_true_eq_false, oF_set_eq, oF_set_ne, oO_set_eq, oO_set_ne, aR_set_eq, aR_set_ne, ds_set_eq, ds_set_ne, set_at, set_ne, set_2, lk_cons, List.set_cons_zero, List.set_cons_succ, List.getElem?_cons_zero, List.getElem?_cons_succ, Nat.reduceEqDiff, List.contains_cons, List.contains_nil, Nat.reduceBEq, beq_self_eq_true, Bool.true_or, Bool.false_or, Bool.or_false, Bool.or_true, ↓reduceIte, ne_eq, Nat.add_left_cancel_iff, oF_new_eq, oF_new_ne, oO_new_eq, oO_new_ne, aR_new_eq, aR_new_ne, ds_new_eq, ds_new_ne, new_at, new_ne, new_21, new_22, set_21, set_22, bd_53_b1, oF_at y1, aR_at y2, hfy, ds_at e0]
    refine ⟨(), h3, q1, ?_⟩
    try simp (disch := omega) only [sSeq, sI, sL, sR, sIf, sInc, sSkip, sCont, sRet, sRet0, sEx, xC, iV, lV, rV, x1, x2, x2p, xP, xIf, xB, cI, cL, cN, cR, cB, cAnd, cOr, cNot, cT, aN, aC, ga_get, ga_st1, ga_st2, ga_kill, ga_put, ga_dim, vI, vL, vR, vA, List.head?_cons, List.head?_nil, rkI, rkL, rkR, rkU, ga_cc, ga_lc, decide_eq_true_eq, List.length_cons, List.length_nil, Nat.reduceAdd, Nat.reduceLT, ga_rI, ga_rL, ga_rR, ga_rU, true_and, and_true, ↓reduceIte, hFI, hFL, hFR, hAI, hAL, hAR, hLen, hCast, hInst, hCV, hCS, hNew, hSp, hNA, sPI, sPZ, sPL, sPR, sUI, sAI, sAB, sAZ, sAL, sAR, sVI, sVL, sObj, sSw, ↓Lm1, L0, L1, L2, L3, L4, L5, L6, L7, L8, L9, L10, L12, L15, L16, L17, L18, L20, L24, L26, L31, L32, L36, L48, L62, L64, L72, L96, L97, L122, L200, L255, L256, L399, L400, L600, L800, L9999, L1000000, i32_add, i32_mul, i32_sub, i32_lt, i32_le, i32_eq, i32_clamp, i32_in, mone_lt, mone_nlt, mone_le, mone_nle, mone_ne, mone_ne', M0, M1, i64_add, i64_mul, i64_lt, i64_le, i64_eq, i32_64, Nat.zero_le, ↓reduceIte, bI_0, bI_1, false_and, and_false, not_false_eq_true, not_true_eq_false, i32_succ]
    refine ⟨m - (j + 1), by omega, j + 1, _, r, w', rfl, by omega, rfl, hqr, ?_, ?_, q2, q3, fun a ha => (q4 a ha).trans (hF a ha), by omega, by omega, by omega⟩
    · rw [fApp_assoc, ← he]; rfl
    · rw [fLen_app, hlen]; rfl
/-- a head made plain -/
def hPl (k : Nat) : Fo → Fo × Nat
  | .leaf l => (fLf l fNil, 0)
  | .branch n a b => ((plG k n (fPl a).1 (fPl b).1).1, (fPl a).2 + (if k ≤ 5 then 0 else (fPl b).2) + (plG k n (fPl a).1 (fPl b).1).2)
theorem fPl_hd (k : Nat) (x r : Fo) : fPl (.branch k x r) = (fApp (hPl k x).1 (fPl r).1, (hPl k x).2 + (fPl r).2) := by
  cases x <;> simp [fPl, hPl, fApp, fLf, fNil]
def hSz : Fo → Nat
  | .leaf _ => 1
  | .branch _ a b => fSz a + fSz b + 1
theorem fSz_hd (k : Nat) (x r : Fo) : fSz (.branch k x r) = hSz x + fSz r := by
  cases x <;> simp [fSz, hSz] <;> omega
def cC (D s : Nat) : Nat := 16 * (D * s) + 16 * s
def cS (D s : Nat) : Nat := 32 * (D * s) + 32 * s
theorem RES.to {g g' : gG} {h h' : gH} {P : Nat → Prop} {z cc ss cc' ss' : Nat} {t : Fo} (r : RES g g' h h' P z t cc ss) (h1 : cc ≤ cc') (h2 : ss ≤ ss') : RES g g' h h' P z t cc' ss' := by
  obtain ⟨a1, a2, a3, a4, a5, a6, a7, a8⟩ := r
  exact ⟨a1, a2, a3, a4, a5, a6, by omega, by omega⟩
/-- one result behind another -/
theorem RES.seq {g g1 g2 : gG} {h h1 h2 : gH} {P : Nat → Prop} {z1 z2 c1 s1 c2 s2 : Nat} {t1 t2 : Fo} (r : RES g g1 h h1 P z1 t1 c1 s1) (q : RES g1 g2 h1 h2 P z2 t2 c2 s2) : RES g g2 h h2 P z2 t2 (c1 + c2) (s1 + s2) := by
  obtain ⟨a1, a2, a3, a4, a5, a6, a7, a8⟩ := r
  obtain ⟨b1, b2, b3, b4, b5, b6, b7, b8⟩ := q
  refine ⟨gLe_trans a1 b1, b2, b3, fun a ha hP => (b4 a (by omega) hP).trans (a4 a ha hP), fun a ha => ?_, by omega, by omega, by omega⟩
  rcases b5 a ha with q | q
  · exact a5 a q
  · exact Or.inr (by omega)
/-- a new frozen object -/
theorem NEW.res {b d c n y : Nat} {sa : Nat → Nat} {g : gG} {h : gH} {df args fs : List ga_V} (hN : NEW b d sa h c n y df args fs) (hW : Wd g h) : ∃ h2 g2, RN b sa d y (.inr (.inr (some (h.2.1))) :: args) (ga_new h (.inr (c, df)) n) none h2 ∧ gLe g g2 ∧ Wd g2 h2 ∧ g2 h.2.1 = some (.inr (c, fs)) ∧ (∀ a, a < h.2.1 → h2.1 a = h.1 a) ∧ (∀ a, g2 a ≠ none → g a ≠ none ∨ h.2.1 ≤ a) ∧ h2.2 = (h.2.1 + 1, h.2.2 + n) := by
  obtain ⟨h2, p1, p2, p3, p4⟩ := hN
  refine ⟨h2, fun x => if x = h.2.1 then some (.inr (c, fs)) else g x, p1, ?_, ⟨?_, ?_⟩, ?_, ?_, ?_, p4⟩
  · intro x q hx
    have : x ≠ h.2.1 := by rintro rfl; rw [hW.no (Nat.le_refl _)] at hx; cases hx
    dsimp only
    rw [if_neg this]
    exact hx
  · intro x q hx
    have hx : (if x = h.2.1 then some (.inr (c, fs)) else g x) = some q := hx
    by_cases e : x = h.2.1
    · rw [if_pos e] at hx
      rw [e, p2]
      exact hx
    · rw [if_neg e] at hx
      rw [p3 x e]
      exact hW.1 x q hx
  · intro x hx
    have hx : (if x = h.2.1 then some (.inr (c, fs)) else g x) ≠ none := hx
    rw [p4]
    by_cases e : x = h.2.1
    · show x < h.2.1 + 1; omega
    · rw [if_neg e] at hx
      have := hW.2 x hx
      show x < h.2.1 + 1; omega
  · exact if_pos rfl
  · exact fun a ha => p3 a (by omega)
  · intro a ha
    have ha : (if a = h.2.1 then some (.inr (c, fs)) else g a) ≠ none := ha
    by_cases e : a = h.2.1
    · right; omega
    · rw [if_neg e] at ha
      exact Or.inl ha
/-- a new part, alone -/
theorem NEW.alone {b d c n y k : Nat} {sa : Nat → Nat} {g : gG} {h : gH} {df args fs : List ga_V} {x : Fo} (hd : 2 ≤ d) (hN : NEW b d sa h c n y df args fs) (hW : Wd g h) (hb : b ≤ h.2.1) (hx : ∀ g2 : gG, gLe g g2 → g2 h.2.1 = some (.inr (c, fs)) → RPt g2 h.2.1 k x) : ∃ h2, RN b sa d y (.inr (.inr (some (h.2.1))) :: args) (ga_new h (.inr (c, df)) n) none h2 ∧ h2.1 h.2.1 = some (.inr (c, fs)) ∧ ∃ z h', RN b sa d 64 [.inr (.inr (some (h.2.1)))] h2 (some (.inr (.inr (some (z))))) h' ∧ ∃ g', RES g g' h h' (fun _ => False) z (.branch k x fNil) 4 (6 + n) := by
  obtain ⟨h2, g2, p1, p2, p3, p4, p5, p6, p7⟩ := hN.res hW
  have e1 : h2.2.1 = h.2.1 + 1 := by rw [p7]
  have e2 : h2.2.2 = h.2.2 + n := by rw [p7]
  obtain ⟨z, h', q1, g', r1, r2, r3, r4, r5, r6, r7, r8⟩ := sp_64 (b := b) (d := d) (sa := sa) hd p3 (by omega) (hx g2 p2 p4)
  refine ⟨h2, p1, p3.1 _ _ p4, z, h', q1, g', gLe_trans p2 r1, r2, r3, fun a ha _ => (r4 a (by omega) (fun q => q)).trans (p5 a ha), fun a ha => ?_, by omega, by omega, by omega⟩
  rcases r5 a ha with q | q
  · exact p6 a q
  · exact Or.inr (by omega)
theorem RES.P {g g' : gG} {h h' : gH} {z cc ss : Nat} {t : Fo} (r : RES g g' h h' (fun _ => False) z t cc ss) (P : Nat → Prop) : RES g g' h h' P z t cc ss := by
  obtain ⟨a1, a2, a3, a4, a5, a6, a7, a8⟩ := r
  exact ⟨a1, a2, a3, fun a ha _ => a4 a ha (fun q => q), a5, a6, a7, a8⟩
