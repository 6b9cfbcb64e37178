/-! LAYER 4f6: the class: parts put together -/
def Wd (g : gG) (h : gH) : Prop := Ext g h ∧ ∀ x, g x ≠ none → x < h.2.1
theorem Wd.no {g : gG} {h : gH} (k : Wd g h) {x : Nat} (q : h.2.1 ≤ x) : g x = none := by
  cases e : g x with
  | none => rfl
  | some c => exact absurd (k.2 x (by rw [e]; simp)) (by omega)
theorem RSeq.congr {g : gG} : ∀ (t : Fo) {f f' : Nat → Option Nat} {j k : Nat}, (∀ i, j ≤ i → i < k → f i = f' i) → RSeq g t f j k → RSeq g t f' j k := by
  intro t
  induction t with
  | leaf x => intro f f' j k _ h; exact h
  | branch c x r _ ih =>
    intro f f' j k e h
    obtain ⟨h1, ⟨y, h2, h3⟩, h4⟩ := h.hd
    exact RSeq.mk h1 (by rw [← e j (Nat.le_refl _) h1]; exact h2) h3 (ih (fun i hi hk => e i (by omega) hk) h4)
theorem RSeq.snoc {g : gG} {c y : Nat} {x : Fo} (hx : RPt g y c x) : ∀ (t : Fo) {f : Nat → Option Nat} {j k : Nat}, f k = some y → RSeq g t f j k → RSeq g (fApp t (.branch c x fNil)) f j (k + 1) := by
  intro t
  induction t with
  | leaf z =>
    intro f j k hf h
    have e : j = k := h
    subst e
    exact RSeq.mk (Nat.lt_succ_self _) hf hx (rfl : j + 1 = j + 1)
  | branch c' x' r _ ih =>
    intro f j k hf h
    obtain ⟨h1, ⟨y', h2, h3⟩, h4⟩ := h.hd
    exact RSeq.mk (by omega) h2 h3 (ih hf h4)
theorem RPt.cls {g : gG} {h : gH} {y k : Nat} {x : Fo} (hg : Ext g h) (hx : RPt g y k x) : ∃ c fs, h.1 y = some (.inr (c, fs)) ∧ [11, 12, 13, 14, 15, 17, 18].contains c = true := by
  cases x with
  | leaf l =>
    obtain ⟨c, fs, c1, c2, -⟩ := RLf.cls hg hx
    exact ⟨c, fs, c1, by rcases c2 with rfl | rfl | rfl <;> rfl⟩
  | branch n a b =>
    rcases hx with ⟨-, z, -, gw⟩ | ⟨-, z, -, gw⟩ | ⟨-, z, z2, -, -, gw⟩ | ⟨-, z, z2, v, -, -, gw⟩
    · exact ⟨14, _, hg _ _ gw, rfl⟩
    · exact ⟨15, _, hg _ _ gw, rfl⟩
    · exact ⟨17, _, hg _ _ gw, rfl⟩
    · exact ⟨18, _, hg _ _ gw, rfl⟩
theorem RSeq.part {g : gG} {h : gH} (hg : Ext g h) : ∀ (t : Fo) {f : Nat → Option Nat} {j k i : Nat}, RSeq g t f j k → j ≤ i → i < k → ∃ y, f i = some y ∧ ∃ z, ga_oO h (some y) [11, 12, 13, 14, 15, 17, 18] = some z := by
  intro t
  induction t with
  | leaf z =>
    intro f j k i h hj hk
    have e : j = k := h
    omega
  | branch c x r _ ih =>
    intro f j k i h hj hk
    obtain ⟨h1, ⟨y, h2, h3⟩, h4⟩ := h.hd
    rcases Nat.eq_or_lt_of_le hj with rfl | q
    · obtain ⟨c', fs, q1, q2⟩ := h3.cls hg
      exact ⟨y, h2, _, oO_at q1 q2⟩
    · exact ih h4 q hk
/-- an All that is being built, at o, with room for w parts -/
def OWN (b : Nat) (g : gG) (h : gH) (base o w : Nat) (t : Fo) : Prop := ∃ q f, b ≤ base ∧ base ≤ o ∧ base ≤ q ∧ o < h.2.1 ∧ q < h.2.1 ∧ o ≠ q ∧ g o = none ∧ g q = none ∧ h.1 o = some (.inr (8, [.inr (.inr (some (q))), .inl (Int32.ofNat (fLen t))])) ∧ h.1 q = some (.inl (4, w, .inr (.inr f))) ∧ fLen t ≤ w ∧ 4 ≤ w ∧ (w = 4 ∨ w ≤ 2 * fLen t) ∧ RSeq g t f 0 (fLen t)
theorem sp_52 {b d : Nat} {sa : Nat → Nat} {g : gG} {h : gH} {base o w y k : Nat} {t x : Fo} (hd : 1 ≤ d) (hW : Wd g h) (hO : OWN b g h base o w t) (hl : fLen t < 10000) (hx : RPt g y k x) : ∃ h', RN b sa d 52 [.inr (.inr (some (o))), .inr (.inr (some (y)))] h none h' ∧ ∃ w', OWN b g h' base o w' (fApp t (.branch k x fNil)) ∧ Wd g h' ∧ (∀ a, a < base → h'.1 a = h.1 a) ∧ h.2.1 ≤ h'.2.1 ∧ h'.2.1 ≤ h.2.1 + 1 ∧ h'.2.2 + 2 * w = h.2.2 + 2 * w' := by
  obtain ⟨e, rfl⟩ : ∃ q : Nat, d = q + 1 := ⟨d - 1, by omega⟩
  obtain ⟨q, f, b0, b1, b2, b3, b4, b5, b6, b7, e0, e1, b8, b9, b10, hq⟩ := hO
  have hlen : fLen (fApp t (.branch k x fNil)) = fLen t + 1 := by rw [fLen_app]; rfl
  have bq : b ≤ q := by omega
  obtain ⟨c, fs, c1, c2⟩ := hx.cls hW.1
  have g1 : ∀ (h3 : gH), h3.1 y = h.1 y → (some y = none ∨ ∃ z, ga_oO h3 (some y) [11, 12, 13, 14, 15, 17, 18] = some z) = True := fun h3 q => eq_true (Or.inr ⟨_, oO_at (q.trans c1) c2⟩)
  have gy : y ≠ o ∧ y ≠ q := by
    have : ∀ a, h.1 y = h.1 a → True := fun _ _ => trivial
    constructor
    · rintro rfl
      rw [e0] at c1
      cases c1
      simp at c2
    · rintro rfl
      rw [e1] at c1
      cases c1
  have hp0 : Int32.ofNat (fLen t) = Int32.ofNat w ↔ fLen t = w := i32_eq (by omega) (by omega)
  refine go_52 _ ?_
  by_cases hfull : fLen t = w
  · -- a wider one
    have hlt : h.2.1 ≠ o ∧ h.2.1 ≠ q ∧ h.2.1 ≠ y := by
      refine ⟨by omega, by omega, ?_⟩
      rintro rfl
      have : g h.2.1 = none := hW.no (Nat.le_refl _)
      cases x with
      | leaf l => rcases hx.2 with ⟨-, p⟩ | ⟨-, p⟩ | ⟨-, p⟩ <;> rw [this] at p <;> cases p
      | branch n a b2 => rcases hx with ⟨-, z, -, p⟩ | ⟨-, z, -, p⟩ | ⟨-, z, z2, -, -, p⟩ | ⟨-, z, z2, v, -, -, p⟩ <;> rw [this] at p <;> cases p
    have hn1 : (ga_new h (.inl (4, 2 * w, ga_zero 4)) (2 * w)).1 o = some (.inr (8, [.inr (.inr (some (q))), .inl (Int32.ofNat (fLen t))])) := by rw [new_ne (Ne.symm hlt.1)]; exact e0
    have hn2 : (ga_new h (.inl (4, 2 * w, ga_zero 4)) (2 * w)).1 q = some (.inl (4, w, .inr (.inr f))) := by rw [new_ne (Ne.symm hlt.2.1)]; exact e1
    have hn3 : (ga_new h (.inl (4, 2 * w, ga_zero 4)) (2 * w)).1 h.2.1 = some (.inl (4, 2 * w, .inr (.inr fun _ => none))) := by rw [new_at]; rfl
    have hn4 : (ga_new h (.inl (4, 2 * w, ga_zero 4)) (2 * w)).1 y = h.1 y := new_ne (Ne.symm hlt.2.2)
    have hg' : Ext g (ga_new h (.inl (4, 2 * w, ga_zero 4)) (2 * w)) := by
      intro a c' ha
      have : a ≠ h.2.1 := by
        rintro rfl
        rw [hW.no (Nat.le_refl _)] at ha; cases ha
      rw [new_ne this]
      exact hW.1 a c' ha
    have hcp : (∀ i, i < w → ∀ v, f i = some v → ∃ z, ga_oO (ga_new h (.inl (4, 2 * w, ga_zero 4)) (2 * w)) (some v) [11, 12, 13, 14, 15, 17, 18] = some z) = True := eq_true (by
      intro i hi v hv
      obtain ⟨y', q1, q2⟩ := RSeq.part hg' t hq (Nat.zero_le i) (by omega)
      rw [hv] at q1
      cases q1
      exact q2)
    have b3' : b ≤ h.2.1 := by omega
    have hcl2 : (Int32.ofNat (2 * w)).toNatClampNeg = 2 * w := i32_clamp (by omega)
    simp (maxSteps := 1000000) (disch := first | omega | decide) only [bd_52, sSeq, sI, sL, sR, sIf, sInc, sSkip, sCont, sRet, sRet0, sEx, xC, iV, lV, rV, x1, x2, x2p, xP, xIf, xB, cI, cL, cN, cR, cB, cAnd, cOr, cNot, cT, aN, aC, ga_get, ga_st1, ga_st2, ga_kill, ga_put, ga_dim, vI, vL, vR, vA, List.head?_cons, List.head?_nil, rkI, rkL, rkR, rkU, ga_cc, ga_lc, decide_eq_true_eq, List.length_cons, List.length_nil, Nat.reduceAdd, Nat.reduceLT, ga_rI, ga_rL, ga_rR, ga_rU, true_and, and_true, ↓reduceIte, hFI, hFL, hFR, hAI, hAL, hAR, hLen, hCast, hInst, hCV, hCS, hNew, hSp, hNA, sPI, sPZ, sPL, sPR, sUI, sAI, sAB, sAZ, sAL, sAR, sVI, sVL, sObj, sSw, ↓Lm1, L0, L1, L2, L3, L4, L5, L6, L7, L8, L9, L10, L12, L15, L16, L17, L18, L20, L24, L26, L31, L32, L36, L48, L62, L64, L72, L96, L97, L122, L200, L255, L256, L399, L400, L600, L800, L9999, L1000000, i32_add, i32_mul, i32_sub, i32_lt, i32_le, i32_eq, i32_clamp, i32_in, mone_lt, mone_nlt, mone_le, mone_nle, mone_ne, mone_ne', M0, M1, i64_add, i64_mul, i64_lt, i64_le, i64_eq, i32_64, Nat.zero_le, ↓reduceIte, bI_0, bI_1, false_and, and_false, not_false_eq_true, not_true_eq_false, oF_set_eq, oF_set_ne, oO_set_eq, oO_set_ne, aR_set_eq, aR_set_ne, ds_set_eq, ds_set_ne, set_at, set_ne, set_2, lk_cons, List.set_cons_zero, List.set_cons_succ, List.getElem?_cons_zero, List.getElem?_cons_succ, Nat.reduceEqDiff, List.contains_cons, List.contains_nil, Nat.reduceBEq, beq_self_eq_true, Bool.true_or, Bool.false_or, Bool.or_false, Bool.or_true, ↓reduceIte, ne_eq, Nat.add_left_cancel_iff, oF_at e0, aR_at e1, hfull, hcl2]
    have z0 : ¬ 2 * w < 0 := by omega
    have z1 : 2 * w ≤ 65536 := by omega
    refine ⟨z0, z1, ?_⟩
    rw [hfull] at hn1
    simp (maxSteps := 1000000) (disch := first | omega | decide) only [sCopy, sSeq, sI, sL, sR, sIf, sInc, sSkip, sCont, sRet, sRet0, sEx, xC, iV, lV, rV, x1, x2, x2p, xP, xIf, xB, cI, cL, cN, cR, cB, cAnd, cOr, cNot, cT, aN, aC, ga_get, ga_st1, ga_st2, ga_kill, ga_put, ga_dim, vI, vL, vR, vA, List.head?_cons, List.head?_nil, rkI, rkL, rkR, rkU, ga_cc, ga_lc, decide_eq_true_eq, List.length_cons, List.length_nil, Nat.reduceAdd, Nat.reduceLT, ga_rI, ga_rL, ga_rR, ga_rU, true_and, and_true, ↓reduceIte, hFI, hFL, hFR, hAI, hAL, hAR, hLen, hCast, hInst, hCV, hCS, hNew, hSp, hNA, sPI, sPZ, sPL, sPR, sUI, sAI, sAB, sAZ, sAL, sAR, sVI, sVL, sObj, sSw, ↓Lm1, L0, L1, L2, L3, L4, L5, L6, L7, L8, L9, L10, L12, L15, L16, L17, L18, L20, L24, L26, L31, L32, L36, L48, L62, L64, L72, L96, L97, L122, L200, L255, L256, L399, L400, L600, L800, L9999, L1000000, i32_add, i32_mul, i32_sub, i32_lt, i32_le, i32_eq, i32_clamp, i32_in, mone_lt, mone_nlt, mone_le, mone_nle, mone_ne, mone_ne', M0, M1, i64_add, i64_mul, i64_lt, i64_le, i64_eq, i32_64, Nat.zero_le, ↓reduceIte, bI_0, bI_1, false_and, and_false, not_false_eq_true, not_true_eq_false, oF_set_eq, oF_set_ne, oO_set_eq, oO_set_ne, aR_set_eq, aR_set_ne, ds_set_eq, ds_set_ne, set_at, set_ne, set_2, lk_cons, List.set_cons_zero, List.set_cons_succ, List.getElem?_cons_zero, List.getElem?_cons_succ, Nat.reduceEqDiff, List.contains_cons, List.contains_nil, Nat.reduceBEq, beq_self_eq_true, Bool.true_or, Bool.false_or, Bool.or_false, Bool.or_true, ↓reduceIte, ne_eq, Nat.add_left_cancel_iff, oF_at hn1, oO_at hn1, aR_at hn2, aR_at hn3]
    refine ⟨bq, b3', by omega, Nat.le_refl _, by omega, of_eq_true hcp, ?_⟩
    have y1 : y ≠ h.2.1 := Ne.symm hlt.2.2
    try simp (maxSteps := 1000000) (disch := first | omega | decide) only [sSeq, sI, sL, sR, sIf, sInc, sSkip, sCont, sRet, sRet0, sEx, xC, iV, lV, rV, x1, x2, x2p, xP, xIf, xB, cI, cL, cN, cR, cB, cAnd, cOr, cNot, cT, aN, aC, ga_get, ga_st1, ga_st2, ga_kill, ga_put, ga_dim, vI, vL, vR, vA, List.head?_cons, List.head?_nil, rkI, rkL, rkR, rkU, ga_cc, ga_lc, decide_eq_true_eq, List.length_cons, List.length_nil, Nat.reduceAdd, Nat.reduceLT, ga_rI, ga_rL, ga_rR, ga_rU, true_and, and_true, ↓reduceIte, hFI, hFL, hFR, hAI, hAL, hAR, hLen, hCast, hInst, hCV, hCS, hNew, hSp, hNA, sPI, sPZ, sPL, sPR, sUI, sAI, sAB, sAZ, sAL, sAR, sVI, sVL, sObj, sSw, ↓Lm1, L0, L1, L2, L3, L4, L5, L6, L7, L8, L9, L10, L12, L15, L16, L17, L18, L20, L24, L26, L31, L32, L36, L48, L62, L64, L72, L96, L97, L122, L200, L255, L256, L399, L400, L600, L800, L9999, L1000000, i32_add, i32_mul, i32_sub, i32_lt, i32_le, i32_eq, i32_clamp, i32_in, mone_lt, mone_nlt, mone_le, mone_nle, mone_ne, mone_ne', M0, M1, i64_add, i64_mul, i64_lt, i64_le, i64_eq, i32_64, Nat.zero_le, ↓reduceIte, bI_0, bI_1, false_and, and_false, not_false_eq_true, not_true_eq_false, oF_set_eq, oF_set_ne, oO_set_eq, oO_set_ne, aR_set_eq, aR_set_ne, ds_set_eq, ds_set_ne, set_at, set_ne, set_2, lk_cons, List.set_cons_zero, List.set_cons_succ, List.getElem?_cons_zero, List.getElem?_cons_succ, Nat.reduceEqDiff, List.contains_cons, List.contains_nil, Nat.reduceBEq, beq_self_eq_true, Bool.true_or, Bool.false_or, Bool.or_false, Bool.or_true, ↓reduceIte, ne_eq, Nat.add_left_cancel_iff, oF_at hn1, oO_at hn1, aR_at hn2, aR_at hn3, hlt.1, hlt.2.1, Ne.symm hlt.1, Ne.symm hlt.2.1]
    refine ⟨b3', ?_, ?_⟩
    · refine Or.inr ⟨(y, c, fs), ?_⟩
      exact oO_at (hn4.trans c1) c2
    refine ⟨2 * w, ⟨h.2.1, va_up (va_cpy f (fun _ => none) 0 0 w) w (some y), b0, b1, by omega, ?_, ?_, by omega, b6, hW.no (Nat.le_refl _), ?_, ?_, ?_, ?_, ?_, ?_⟩, ⟨?_, ?_⟩, ?_, ?_, ?_, ?_⟩
    · show o < h.2.1 + 1; omega
    · show h.2.1 < h.2.1 + 1; omega
    · rw [hlen]
      simp (maxSteps := 1000000) (disch := first | omega | decide) only [sSeq, sI, sL, sR, sIf, sInc, sSkip, sCont, sRet, sRet0, sEx, xC, iV, lV, rV, x1, x2, x2p, xP, xIf, xB, cI, cL, cN, cR, cB, cAnd, cOr, cNot, cT, aN, aC, ga_get, ga_st1, ga_st2, ga_kill, ga_put, ga_dim, vI, vL, vR, vA, List.head?_cons, List.head?_nil, rkI, rkL, rkR, rkU, ga_cc, ga_lc, decide_eq_true_eq, List.length_cons, List.length_nil, Nat.reduceAdd, Nat.reduceLT, ga_rI, ga_rL, ga_rR, ga_rU, true_and, and_true, ↓reduceIte, hFI, hFL, hFR, hAI, hAL, hAR, hLen, hCast, hInst, hCV, hCS, hNew, hSp, hNA, sPI, sPZ, sPL, sPR, sUI, sAI, sAB, sAZ, sAL, sAR, sVI, sVL, sObj, sSw, ↓Lm1, L0, L1, L2, L3, L4, L5, L6, L7, L8, L9, L10, L12, L15, L16, L17, L18, L20, L24, L26, L31, L32, L36, L48, L62, L64, L72, L96, L97, L122, L200, L255, L256, L399, L400, L600, L800, L9999, L1000000, i32_add, i32_mul, i32_sub, i32_lt, i32_le, i32_eq, i32_clamp, i32_in, mone_lt, mone_nlt, mone_le, mone_nle, mone_ne, mone_ne', M0, M1, i64_add, i64_mul, i64_lt, i64_le, i64_eq, i32_64, Nat.zero_le, ↓reduceIte, bI_0, bI_1, false_and, and_false, not_false_eq_true, not_true_eq_false, oF_set_eq, oF_set_ne, oO_set_eq, oO_set_ne, aR_set_eq, aR_set_ne, ds_set_eq, ds_set_ne, set_at, set_ne, set_2, lk_cons, List.set_cons_zero, List.set_cons_succ, List.getElem?_cons_zero, List.getElem?_cons_succ, Nat.reduceEqDiff, List.contains_cons, List.contains_nil, Nat.reduceBEq, beq_self_eq_true, Bool.true_or, Bool.false_or, Bool.or_false, Bool.or_true, ↓reduceIte, ne_eq, Nat.add_left_cancel_iff, e0, hfull]
    · simp (maxSteps := 1000000) (disch := first | omega | decide) only [sSeq, sI, sL, sR, sIf, sInc, sSkip, sCont, sRet, sRet0, sEx, xC, iV, lV, rV, x1, x2, x2p, xP, xIf, xB, cI, cL, cN, cR, cB, cAnd, cOr, cNot, cT, aN, aC, ga_get, ga_st1, ga_st2, ga_kill, ga_put, ga_dim, vI, vL, vR, vA, List.head?_cons, List.head?_nil, rkI, rkL, rkR, rkU, ga_cc, ga_lc, decide_eq_true_eq, List.length_cons, List.length_nil, Nat.reduceAdd, Nat.reduceLT, ga_rI, ga_rL, ga_rR, ga_rU, true_and, and_true, ↓reduceIte, hFI, hFL, hFR, hAI, hAL, hAR, hLen, hCast, hInst, hCV, hCS, hNew, hSp, hNA, sPI, sPZ, sPL, sPR, sUI, sAI, sAB, sAZ, sAL, sAR, sVI, sVL, sObj, sSw, ↓Lm1, L0, L1, L2, L3, L4, L5, L6, L7, L8, L9, L10, L12, L15, L16, L17, L18, L20, L24, L26, L31, L32, L36, L48, L62, L64, L72, L96, L97, L122, L200, L255, L256, L399, L400, L600, L800, L9999, L1000000, i32_add, i32_mul, i32_sub, i32_lt, i32_le, i32_eq, i32_clamp, i32_in, mone_lt, mone_nlt, mone_le, mone_nle, mone_ne, mone_ne', M0, M1, i64_add, i64_mul, i64_lt, i64_le, i64_eq, i32_64, Nat.zero_le, ↓reduceIte, bI_0, bI_1, false_and, and_false, not_false_eq_true, not_true_eq_false, oF_set_eq, oF_set_ne, oO_set_eq, oO_set_ne, aR_set_eq, aR_set_ne, ds_set_eq, ds_set_ne, set_at, set_ne, set_2, lk_cons, List.set_cons_zero, List.set_cons_succ, List.getElem?_cons_zero, List.getElem?_cons_succ, Nat.reduceEqDiff, List.contains_cons, List.contains_nil, Nat.reduceBEq, beq_self_eq_true, Bool.true_or, Bool.false_or, Bool.or_false, Bool.or_true, ↓reduceIte, ne_eq, Nat.add_left_cancel_iff, e0]
    · rw [hlen]; omega
    · omega
    · rw [hlen]; omega
    · rw [hlen, hfull]
      refine RSeq.snoc hx t (up_at _ _ _) ?_
      rw [hfull] at hq
      refine RSeq.congr t (fun i _ hi => ?_) hq
      rw [up_ne (by omega)]
      simp [va_cpy, hi]
    · intro a c' ha
      have a1 : a ≠ o := by rintro rfl; rw [b6] at ha; cases ha
      have a2 : a ≠ h.2.1 := by rintro rfl; rw [hW.no (Nat.le_refl _)] at ha; cases ha
      simp (maxSteps := 1000000) (disch := first | omega | decide) only [sSeq, sI, sL, sR, sIf, sInc, sSkip, sCont, sRet, sRet0, sEx, xC, iV, lV, rV, x1, x2, x2p, xP, xIf, xB, cI, cL, cN, cR, cB, cAnd, cOr, cNot, cT, aN, aC, ga_get, ga_st1, ga_st2, ga_kill, ga_put, ga_dim, vI, vL, vR, vA, List.head?_cons, List.head?_nil, rkI, rkL, rkR, rkU, ga_cc, ga_lc, decide_eq_true_eq, List.length_cons, List.length_nil, Nat.reduceAdd, Nat.reduceLT, ga_rI, ga_rL, ga_rR, ga_rU, true_and, and_true, ↓reduceIte, hFI, hFL, hFR, hAI, hAL, hAR, hLen, hCast, hInst, hCV, hCS, hNew, hSp, hNA, sPI, sPZ, sPL, sPR, sUI, sAI, sAB, sAZ, sAL, sAR, sVI, sVL, sObj, sSw, ↓Lm1, L0, L1, L2, L3, L4, L5, L6, L7, L8, L9, L10, L12, L15, L16, L17, L18, L20, L24, L26, L31, L32, L36, L48, L62, L64, L72, L96, L97, L122, L200, L255, L256, L399, L400, L600, L800, L9999, L1000000, i32_add, i32_mul, i32_sub, i32_lt, i32_le, i32_eq, i32_clamp, i32_in, mone_lt, mone_nlt, mone_le, mone_nle, mone_ne, mone_ne', M0, M1, i64_add, i64_mul, i64_lt, i64_le, i64_eq, i32_64, Nat.zero_le, ↓reduceIte, bI_0, bI_1, false_and, and_false, not_false_eq_true, not_true_eq_false, oF_set_eq, oF_set_ne, oO_set_eq, oO_set_ne, aR_set_eq, aR_set_ne, ds_set_eq, ds_set_ne, set_at, set_ne, set_2, lk_cons, List.set_cons_zero, List.set_cons_succ, List.getElem?_cons_zero, List.getElem?_cons_succ, Nat.reduceEqDiff, List.contains_cons, List.contains_nil, Nat.reduceBEq, beq_self_eq_true, Bool.true_or, Bool.false_or, Bool.or_false, Bool.or_true, ↓reduceIte, ne_eq, Nat.add_left_cancel_iff, a1, a2, new_ne a2]
      exact hW.1 a c' ha
    · intro a ha
      have := hW.2 a ha
      show a < h.2.1 + 1
      omega
    · intro a ha
      have a1 : a ≠ o := by omega
      have a2 : a ≠ h.2.1 := by omega
      simp (maxSteps := 1000000) (disch := first | omega | decide) only [sSeq, sI, sL, sR, sIf, sInc, sSkip, sCont, sRet, sRet0, sEx, xC, iV, lV, rV, x1, x2, x2p, xP, xIf, xB, cI, cL, cN, cR, cB, cAnd, cOr, cNot, cT, aN, aC, ga_get, ga_st1, ga_st2, ga_kill, ga_put, ga_dim, vI, vL, vR, vA, List.head?_cons, List.head?_nil, rkI, rkL, rkR, rkU, ga_cc, ga_lc, decide_eq_true_eq, List.length_cons, List.length_nil, Nat.reduceAdd, Nat.reduceLT, ga_rI, ga_rL, ga_rR, ga_rU, true_and, and_true, ↓reduceIte, hFI, hFL, hFR, hAI, hAL, hAR, hLen, hCast, hInst, hCV, hCS, hNew, hSp, hNA, sPI, sPZ, sPL, sPR, sUI, sAI, sAB, sAZ, sAL, sAR, sVI, sVL, sObj, sSw, ↓Lm1, L0, L1, L2, L3, L4, L5, L6, L7, L8, L9, L10, L12, L15, L16, L17, L18, L20, L24, L26, L31, L32, L36, L48, L62, L64, L72, L96, L97, L122, L200, L255, L256, L399, L400, L600, L800, L9999, L1000000, i32_add, i32_mul, i32_sub, i32_lt, i32_le, i32_eq, i32_clamp, i32_in, mone_lt, mone_nlt, mone_le, mone_nle, mone_ne, mone_ne', M0, M1, i64_add, i64_mul, i64_lt, i64_le, i64_eq, i32_64, Nat.zero_le, ↓reduceIte, bI_0, bI_1, false_and, and_false, not_false_eq_true, not_true_eq_false, oF_set_eq, oF_set_ne, oO_set_eq, oO_set_ne, aR_set_eq, aR_set_ne, ds_set_eq, ds_set_ne, set_at, set_ne, set_2, lk_cons, List.set_cons_zero, List.set_cons_succ, List.getElem?_cons_zero, List.getElem?_cons_succ, Nat.reduceEqDiff, List.contains_cons, List.contains_nil, Nat.reduceBEq, beq_self_eq_true, Bool.true_or, Bool.false_or, Bool.or_false, Bool.or_true, ↓reduceIte, ne_eq, Nat.add_left_cancel_iff, a1, a2, new_ne a2]
    · show h.2.1 ≤ h.2.1 + 1; omega
    · exact Nat.le_refl _
    · show h.2.2 + 2 * w + 2 * w = h.2.2 + 2 * (2 * w); omega
  · simp (maxSteps := 1000000) (disch := first | omega | decide) only [bd_52, sSeq, sI, sL, sR, sIf, sInc, sSkip, sCont, sRet, sRet0, sEx, xC, iV, lV, rV, x1, x2, x2p, xP, xIf, xB, cI, cL, cN, cR, cB, cAnd, cOr, cNot, cT, aN, aC, ga_get, ga_st1, ga_st2, ga_kill, ga_put, ga_dim, vI, vL, vR, vA, List.head?_cons, List.head?_nil, rkI, rkL, rkR, rkU, ga_cc, ga_lc, decide_eq_true_eq, List.length_cons, List.length_nil, Nat.reduceAdd, Nat.reduceLT, ga_rI, ga_rL, ga_rR, ga_rU, true_and, and_true, ↓reduceIte, hFI, hFL, hFR, hAI, hAL, hAR, hLen, hCast, hInst, hCV, hCS, hNew, hSp, hNA, sPI, sPZ, sPL, sPR, sUI, sAI, sAB, sAZ, sAL, sAR, sVI, sVL, sObj, sSw, ↓Lm1, L0, L1, L2, L3, L4, L5, L6, L7, L8, L9, L10, L12, L15, L16, L17, L18, L20, L24, L26, L31, L32, L36, L48, L62, L64, L72, L96, L97, L122, L200, L255, L256, L399, L400, L600, L800, L9999, L1000000, i32_add, i32_mul, i32_sub, i32_lt, i32_le, i32_eq, i32_clamp, i32_in, mone_lt, mone_nlt, mone_le, mone_nle, mone_ne, mone_ne', M0, M1, i64_add, i64_mul, i64_lt, i64_le, i64_eq, i32_64, Nat.zero_le, ↓reduceIte, bI_0, bI_1, false_and, and_false, not_false_eq_true, not_true_eq_false, oF_set_eq, oF_set_ne, oO_set_eq, oO_set_ne, aR_set_eq, aR_set_ne, ds_set_eq, ds_set_ne, set_at, set_ne, set_2, lk_cons, List.set_cons_zero, List.set_cons_succ, List.getElem?_cons_zero, List.getElem?_cons_succ, Nat.reduceEqDiff, List.contains_cons, List.contains_nil, Nat.reduceBEq, beq_self_eq_true, Bool.true_or, Bool.false_or, Bool.or_false, Bool.or_true, ↓reduceIte, ne_eq, Nat.add_left_cancel_iff, oF_at e0, oO_at e0, aR_at e1, hfull, g1 h rfl, bq]
    refine ⟨w, ⟨q, va_up f (fLen t) (some y), b0, b1, b2, b3, b4, b5, b6, b7, ?_, ?_, ?_, b9, ?_, ?_⟩, ⟨?_, hW.2⟩, ?_, Nat.le_refl _, Nat.le_succ _, rfl⟩
    · rw [hlen]
      simp (maxSteps := 1000000) (disch := first | omega | decide) only [sSeq, sI, sL, sR, sIf, sInc, sSkip, sCont, sRet, sRet0, sEx, xC, iV, lV, rV, x1, x2, x2p, xP, xIf, xB, cI, cL, cN, cR, cB, cAnd, cOr, cNot, cT, aN, aC, ga_get, ga_st1, ga_st2, ga_kill, ga_put, ga_dim, vI, vL, vR, vA, List.head?_cons, List.head?_nil, rkI, rkL, rkR, rkU, ga_cc, ga_lc, decide_eq_true_eq, List.length_cons, List.length_nil, Nat.reduceAdd, Nat.reduceLT, ga_rI, ga_rL, ga_rR, ga_rU, true_and, and_true, ↓reduceIte, hFI, hFL, hFR, hAI, hAL, hAR, hLen, hCast, hInst, hCV, hCS, hNew, hSp, hNA, sPI, sPZ, sPL, sPR, sUI, sAI, sAB, sAZ, sAL, sAR, sVI, sVL, sObj, sSw, ↓Lm1, L0, L1, L2, L3, L4, L5, L6, L7, L8, L9, L10, L12, L15, L16, L17, L18, L20, L24, L26, L31, L32, L36, L48, L62, L64, L72, L96, L97, L122, L200, L255, L256, L399, L400, L600, L800, L9999, L1000000, i32_add, i32_mul, i32_sub, i32_lt, i32_le, i32_eq, i32_clamp, i32_in, mone_lt, mone_nlt, mone_le, mone_nle, mone_ne, mone_ne', M0, M1, i64_add, i64_mul, i64_lt, i64_le, i64_eq, i32_64, Nat.zero_le, ↓reduceIte, bI_0, bI_1, false_and, and_false, not_false_eq_true, not_true_eq_false, oF_set_eq, oF_set_ne, oO_set_eq, oO_set_ne, aR_set_eq, aR_set_ne, ds_set_eq, ds_set_ne, set_at, set_ne, set_2, lk_cons, List.set_cons_zero, List.set_cons_succ, List.getElem?_cons_zero, List.getElem?_cons_succ, Nat.reduceEqDiff, List.contains_cons, List.contains_nil, Nat.reduceBEq, beq_self_eq_true, Bool.true_or, Bool.false_or, Bool.or_false, Bool.or_true, ↓reduceIte, ne_eq, Nat.add_left_cancel_iff, e0]
    · simp (maxSteps := 1000000) (disch := first | omega | decide) only [sSeq, sI, sL, sR, sIf, sInc, sSkip, sCont, sRet, sRet0, sEx, xC, iV, lV, rV, x1, x2, x2p, xP, xIf, xB, cI, cL, cN, cR, cB, cAnd, cOr, cNot, cT, aN, aC, ga_get, ga_st1, ga_st2, ga_kill, ga_put, ga_dim, vI, vL, vR, vA, List.head?_cons, List.head?_nil, rkI, rkL, rkR, rkU, ga_cc, ga_lc, decide_eq_true_eq, List.length_cons, List.length_nil, Nat.reduceAdd, Nat.reduceLT, ga_rI, ga_rL, ga_rR, ga_rU, true_and, and_true, ↓reduceIte, hFI, hFL, hFR, hAI, hAL, hAR, hLen, hCast, hInst, hCV, hCS, hNew, hSp, hNA, sPI, sPZ, sPL, sPR, sUI, sAI, sAB, sAZ, sAL, sAR, sVI, sVL, sObj, sSw, ↓Lm1, L0, L1, L2, L3, L4, L5, L6, L7, L8, L9, L10, L12, L15, L16, L17, L18, L20, L24, L26, L31, L32, L36, L48, L62, L64, L72, L96, L97, L122, L200, L255, L256, L399, L400, L600, L800, L9999, L1000000, i32_add, i32_mul, i32_sub, i32_lt, i32_le, i32_eq, i32_clamp, i32_in, mone_lt, mone_nlt, mone_le, mone_nle, mone_ne, mone_ne', M0, M1, i64_add, i64_mul, i64_lt, i64_le, i64_eq, i32_64, Nat.zero_le, ↓reduceIte, bI_0, bI_1, false_and, and_false, not_false_eq_true, not_true_eq_false, oF_set_eq, oF_set_ne, oO_set_eq, oO_set_ne, aR_set_eq, aR_set_ne, ds_set_eq, ds_set_ne, set_at, set_ne, set_2, lk_cons, List.set_cons_zero, List.set_cons_succ, List.getElem?_cons_zero, List.getElem?_cons_succ, Nat.reduceEqDiff, List.contains_cons, List.contains_nil, Nat.reduceBEq, beq_self_eq_true, Bool.true_or, Bool.false_or, Bool.or_false, Bool.or_true, ↓reduceIte, ne_eq, Nat.add_left_cancel_iff, e1]
    · rw [hlen]; omega
    · rw [hlen]; omega
    · rw [hlen]
      refine RSeq.snoc hx t (up_at _ _ _) (RSeq.congr t (fun i _ hi => ?_) hq)
      rw [up_ne (by omega)]
    · intro a c' ha
      have a1 : a ≠ o := by rintro rfl; rw [b6] at ha; cases ha
      have a2 : a ≠ q := by rintro rfl; rw [b7] at ha; cases ha
      simp (maxSteps := 1000000) (disch := first | omega | decide) only [sSeq, sI, sL, sR, sIf, sInc, sSkip, sCont, sRet, sRet0, sEx, xC, iV, lV, rV, x1, x2, x2p, xP, xIf, xB, cI, cL, cN, cR, cB, cAnd, cOr, cNot, cT, aN, aC, ga_get, ga_st1, ga_st2, ga_kill, ga_put, ga_dim, vI, vL, vR, vA, List.head?_cons, List.head?_nil, rkI, rkL, rkR, rkU, ga_cc, ga_lc, decide_eq_true_eq, List.length_cons, List.length_nil, Nat.reduceAdd, Nat.reduceLT, ga_rI, ga_rL, ga_rR, ga_rU, true_and, and_true, ↓reduceIte, hFI, hFL, hFR, hAI, hAL, hAR, hLen, hCast, hInst, hCV, hCS, hNew, hSp, hNA, sPI, sPZ, sPL, sPR, sUI, sAI, sAB, sAZ, sAL, sAR, sVI, sVL, sObj, sSw, ↓Lm1, L0, L1, L2, L3, L4, L5, L6, L7, L8, L9, L10, L12, L15, L16, L17, L18, L20, L24, L26, L31, L32, L36, L48, L62, L64, L72, L96, L97, L122, L200, L255, L256, L399, L400, L600, L800, L9999, L1000000, i32_add, i32_mul, i32_sub, i32_lt, i32_le, i32_eq, i32_clamp, i32_in, mone_lt, mone_nlt, mone_le, mone_nle, mone_ne, mone_ne', M0, M1, i64_add, i64_mul, i64_lt, i64_le, i64_eq, i32_64, Nat.zero_le, ↓reduceIte, bI_0, bI_1, false_and, and_false, not_false_eq_true, not_true_eq_false, oF_set_eq, oF_set_ne, oO_set_eq, oO_set_ne, aR_set_eq, aR_set_ne, ds_set_eq, ds_set_ne, set_at, set_ne, set_2, lk_cons, List.set_cons_zero, List.set_cons_succ, List.getElem?_cons_zero, List.getElem?_cons_succ, Nat.reduceEqDiff, List.contains_cons, List.contains_nil, Nat.reduceBEq, beq_self_eq_true, Bool.true_or, Bool.false_or, Bool.or_false, Bool.or_true, ↓reduceIte, ne_eq, Nat.add_left_cancel_iff, a1, a2]
      exact hW.1 a c' ha
    · intro a ha
      have a1 : a ≠ o := by omega
      have a2 : a ≠ q := by omega
      simp (maxSteps := 1000000) (disch := first | omega | decide) only [sSeq, sI, sL, sR, sIf, sInc, sSkip, sCont, sRet, sRet0, sEx, xC, iV, lV, rV, x1, x2, x2p, xP, xIf, xB, cI, cL, cN, cR, cB, cAnd, cOr, cNot, cT, aN, aC, ga_get, ga_st1, ga_st2, ga_kill, ga_put, ga_dim, vI, vL, vR, vA, List.head?_cons, List.head?_nil, rkI, rkL, rkR, rkU, ga_cc, ga_lc, decide_eq_true_eq, List.length_cons, List.length_nil, Nat.reduceAdd, Nat.reduceLT, ga_rI, ga_rL, ga_rR, ga_rU, true_and, and_true, ↓reduceIte, hFI, hFL, hFR, hAI, hAL, hAR, hLen, hCast, hInst, hCV, hCS, hNew, hSp, hNA, sPI, sPZ, sPL, sPR, sUI, sAI, sAB, sAZ, sAL, sAR, sVI, sVL, sObj, sSw, ↓Lm1, L0, L1, L2, L3, L4, L5, L6, L7, L8, L9, L10, L12, L15, L16, L17, L18, L20, L24, L26, L31, L32, L36, L48, L62, L64, L72, L96, L97, L122, L200, L255, L256, L399, L400, L600, L800, L9999, L1000000, i32_add, i32_mul, i32_sub, i32_lt, i32_le, i32_eq, i32_clamp, i32_in, mone_lt, mone_nlt, mone_le, mone_nle, mone_ne, mone_ne', M0, M1, i64_add, i64_mul, i64_lt, i64_le, i64_eq, i32_64, Nat.zero_le, ↓reduceIte, bI_0, bI_1, false_and, and_false, not_false_eq_true, not_true_eq_false, oF_set_eq, oF_set_ne, oO_set_eq, oO_set_ne, aR_set_eq, aR_set_ne, ds_set_eq, ds_set_ne, set_at, set_ne, set_2, lk_cons, List.set_cons_zero, List.set_cons_succ, List.getElem?_cons_zero, List.getElem?_cons_succ, Nat.reduceEqDiff, List.contains_cons, List.contains_nil, Nat.reduceBEq, beq_self_eq_true, Bool.true_or, Bool.false_or, Bool.or_false, Bool.or_true, ↓reduceIte, ne_eq, Nat.add_left_cancel_iff, a1, a2]
