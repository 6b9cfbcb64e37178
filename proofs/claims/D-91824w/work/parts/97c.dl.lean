/-! LAYER 4o20: the class: a new deal -/
section L
variable {b d : Nat} {sa : Nat → Nat} {g : gG} {h : gH}
theorem new_deal {k sg z ch ev : Nat} {t : Fo} (hd : 17 ≤ d) (hW : Wd g h) (hb : b ≤ h.2.1) (hz : IsAll g z t) (hp : pOk 6 t) (hok : dOk (sg, t, ch, ev)) : ∃ h2, RN b sa d 112 [.inr (.inr (some (h.2.1))), .inl (Int32.ofNat (k)), .inl (Int32.ofNat (sg)), .inr (.inr (some (z))), .inl (Int32.ofNat (ch)), .inl (Int32.ofNat (ev))] (ga_new h (.inr (19, df_X19)) 6) none h2 ∧ ∃ g2, gLe g g2 ∧ Wd g2 h2 ∧ RDl g2 h.2.1 k (sg, t, ch, ev) ∧ (∀ a, a < h.2.1 → h2.1 a = h.1 a) ∧ h2.2 = (h.2.1 + 4, h.2.2 + 153) := by
  obtain ⟨e, rfl⟩ : ∃ q : Nat, d = q + 1 := ⟨d - 1, by omega⟩
  obtain ⟨h1, r1, r2, r3, r4⟩ := new_row (b := b) (d := e) (sa := sa) (g := g) (h := ga_new h (.inr (19, df_X19)) 6) (by omega)
  have hs : (ga_new h (.inr (19, df_X19)) 6).2.1 = h.2.1 + 1 := rfl
  rw [hs] at r1 r2 r3
  have hz1 : h1.1 h.2.1 = some (.inr (19, df_X19)) := by rw [r3 _ (Nat.lt_succ_self _), new_at]
  have hlow : ∀ a, a < h.2.1 → h1.1 a = h.1 a := fun a ha => by rw [r3 a (by omega), new_ne (by omega)]
  have h12 : h1.2 = (h.2.1 + 4, h.2.2 + 153) := by rw [r4]; rfl
  have hza := hz
  have hl : (fLeaves t 0).length ≤ 12 := hok.2.2.1
  obtain ⟨q, m, w, f, z1, z2, -, -, -⟩ := id hz
  have zlt : z < h.2.1 := hW.2 z (by rw [z1]; exact fun q => by cases q)
  have hg1 : Ext g h1 := fun x c hx => by rw [hlow x (hW.2 x (by rw [hx]; exact fun q => by cases q))]; exact hW.1 x c hx
  have key : ∀ H : gH, (∀ x, x ≠ h.2.1 → H.1 x = h1.1 x) → H.1 h.2.1 = some (.inr (19, [.inl (Int32.ofNat (k)), .inl (Int32.ofNat (sg)), .inl (Int32.ofNat (ch)), .inl (Int32.ofNat (ev)), .inr (.inr (some (z))), .inr (.inr (some (h.2.1 + 1)))])) → H.2 = h1.2 → ∃ h2, RN b sa e 55 [.inr (.inr (some (z))), .inr (.inr (some (h.2.1 + 1))), .inl (Int32.ofNat (0))] H none h2 ∧ ∃ g2, gLe g g2 ∧ Wd g2 h2 ∧ RDl g2 h.2.1 k (sg, t, ch, ev) ∧ (∀ a, a < h.2.1 → h2.1 a = h.1 a) ∧ h2.2 = (h.2.1 + 4, h.2.2 + 153) := by
    intro H a1 a2 a3
    have hgH : Ext g H := fun x c hx => by
      have := hW.2 x (by rw [hx]; exact fun q => by cases q)
      rw [a1 x (by omega)]; exact hg1 x c hx
    have hrow : isRow g H.1 (h.2.1 + 1) [] := r2.mono gLe_rfl (fun x h1 h2 => a1 x (by omega))
    obtain ⟨h3, p1, p2, p3, p4⟩ := sp_55 (b := b) (sa := sa) (g := g) (s := h.2.1 + 1) (by omega) (fun x q1 q2 => hW.no (by omega)) 6 e (by omega) t hp z 0 H [] hgH hza hrow (by simp only [List.length_nil]; omega)
    refine ⟨h3, p1, fun x => if h.2.1 ≤ x then (if x < h.2.1 + 4 then h3.1 x else none) else g x, ?_, ?_, ?_, ?_, ?_⟩
    · intro x c hx
      have := hW.2 x (by rw [hx]; exact fun q => by cases q)
      show (if h.2.1 ≤ x then _ else _) = _
      rw [if_neg (by omega)]
      exact hx
    · refine ⟨fun x c hx => ?_, fun x hx => ?_⟩
      · replace hx : (if h.2.1 ≤ x then (if x < h.2.1 + 4 then h3.1 x else none) else g x) = some c := hx
        split at hx
        · split at hx
          · exact hx
          · cases hx
        · exact (hgH.fr p3 (fun y hy => hW.no (by omega))) x c hx
      · have e3 : h3.2.1 = h.2.1 + 4 := by rw [p4, a3, h12]
        rw [e3]
        replace hx : (if h.2.1 ≤ x then (if x < h.2.1 + 4 then h3.1 x else none) else g x) ≠ none := hx
        split at hx
        · split at hx
          · omega
          · exact (hx rfl).elim
        · omega
    · have hle : gLe g (fun x => if h.2.1 ≤ x then (if x < h.2.1 + 4 then h3.1 x else none) else g x) := fun x c hx => by
        have := hW.2 x (by rw [hx]; exact fun q => by cases q)
        show (if h.2.1 ≤ x then _ else _) = _
        rw [if_neg (by omega)]
        exact hx
      refine ⟨hok, z, h.2.1 + 1, ?_, hz.mono hle, p2.mono hle (fun x q1 q2 => ?_)⟩
      · show (if h.2.1 ≤ h.2.1 then _ else _) = _
        rw [if_pos (Nat.le_refl _), if_pos (by omega), p3 _ (fun q => by omega)]
        exact a2
      · show (if h.2.1 ≤ x then _ else _) = _
        rw [if_pos (by omega), if_pos (by omega)]
    · intro a ha
      rw [p3 a (fun q => by omega), a1 a (by omega)]
      exact hlow a ha
    · rw [p4, a3, h12]
  refine go_112 _ ?_
  simp (maxSteps := 1000000) (disch := first | omega | (show List.contains _ _ = true; decide) | (simp only [new_21, set_21]; omega)) only [sSeq, sI, sL, sR, sIf, sInc, sSkip, sCont, sRet, sRet0, sEx, xC, iV, lV, rV, x1, x2, x2p, xP, xIf, xB, cI, cL, cN, cR, cB, cAnd, cOr, cNot, cT, aN, aC, ga_get, ga_st1, ga_st2, ga_kill, ga_put, ga_dim, vI, vL, vR, vA, List.head?_cons, List.head?_nil, rkI, rkL, rkR, rkU, ga_cc, ga_lc, decide_eq_true_eq, List.length_cons, List.length_nil, Nat.reduceAdd, Nat.reduceLT, ga_rI, ga_rL, ga_rR, ga_rU, true_and, and_true, ↓reduceIte, hFI, hFL, hFR, hAI, hAL, hAR, hLen, hCast, hInst, hCV, hCS, hNew, hSp, hNA, sPI, sPZ, sPL, sPR, sUI, sAI, sAB, sAZ, sAL, sAR, sVI, sVL, sObj, sSw, ↓Lm1, L0, L1, L2, L3, L4, L5, L6, L7, L8, L9, L10, L12, L15, L16, L17, L18, L20, L24, L26, L31, L32, L36, L48, L62, L64, L72, L96, L97, L122, L200, L255, L256, L399, L400, L600, L800, L9999, L1000000, i32_add, i32_mul, i32_sub, i32_lt, i32_le, i32_eq, i32_clamp, i32_in, mone_lt, mone_nlt, mone_le, mone_nle, mone_ne, mone_ne', M0, M1, i64_add, i64_mul, i64_lt, i64_le, i64_eq, i32_64, Nat.zero_le, ↓reduceIte, bI_0, bI_1, false_and, and_false, not_false_eq_true, not_true_eq_false, oF_set_eq, oF_set_ne, oO_set_eq, oO_set_ne, aR_set_eq, aR_set_ne, ds_set_eq, ds_set_ne, set_at, set_ne, set_2, lk_cons, List.set_cons_zero, List.set_cons_succ, List.getElem?_cons_zero, List.getElem?_cons_succ, Nat.reduceEqDiff, List.contains_cons, List.contains_nil, Nat.reduceBEq, beq_self_eq_true, Bool.true_or, Bool.false_or, Bool.or_false, Bool.or_true, ↓reduceIte, ne_eq, Nat.add_left_cancel_iff, oF_new_eq, oF_new_ne, oO_new_eq, oO_new_ne, aR_new_eq, aR_new_ne, ds_new_eq, ds_new_ne, new_at, new_ne, new_21, new_22, set_21, set_22, bd_112]
  unfold df_X19 at hz1
  refine ⟨⟨_, new_at _ _ _⟩, h1, r1, ?_⟩
  simp (maxSteps := 1000000) (disch := first | omega | (show List.contains _ _ = true; decide) | (simp only [new_21, set_21]; omega)) only [sSeq, sI, sL, sR, sIf, sInc, sSkip, sCont, sRet, sRet0, sEx, xC, iV, lV, rV, x1, x2, x2p, xP, xIf, xB, cI, cL, cN, cR, cB, cAnd, cOr, cNot, cT, aN, aC, ga_get, ga_st1, ga_st2, ga_kill, ga_put, ga_dim, vI, vL, vR, vA, List.head?_cons, List.head?_nil, rkI, rkL, rkR, rkU, ga_cc, ga_lc, decide_eq_true_eq, List.length_cons, List.length_nil, Nat.reduceAdd, Nat.reduceLT, ga_rI, ga_rL, ga_rR, ga_rU, true_and, and_true, ↓reduceIte, hFI, hFL, hFR, hAI, hAL, hAR, hLen, hCast, hInst, hCV, hCS, hNew, hSp, hNA, sPI, sPZ, sPL, sPR, sUI, sAI, sAB, sAZ, sAL, sAR, sVI, sVL, sObj, sSw, ↓Lm1, L0, L1, L2, L3, L4, L5, L6, L7, L8, L9, L10, L12, L15, L16, L17, L18, L20, L24, L26, L31, L32, L36, L48, L62, L64, L72, L96, L97, L122, L200, L255, L256, L399, L400, L600, L800, L9999, L1000000, i32_add, i32_mul, i32_sub, i32_lt, i32_le, i32_eq, i32_clamp, i32_in, mone_lt, mone_nlt, mone_le, mone_nle, mone_ne, mone_ne', M0, M1, i64_add, i64_mul, i64_lt, i64_le, i64_eq, i32_64, Nat.zero_le, ↓reduceIte, bI_0, bI_1, false_and, and_false, not_false_eq_true, not_true_eq_false, oF_set_eq, oF_set_ne, oO_set_eq, oO_set_ne, aR_set_eq, aR_set_ne, ds_set_eq, ds_set_ne, set_at, set_ne, set_2, lk_cons, List.set_cons_zero, List.set_cons_succ, List.getElem?_cons_zero, List.getElem?_cons_succ, Nat.reduceEqDiff, List.contains_cons, List.contains_nil, Nat.reduceBEq, beq_self_eq_true, Bool.true_or, Bool.false_or, Bool.or_false, Bool.or_true, ↓reduceIte, ne_eq, Nat.add_left_cancel_iff, oF_new_eq, oF_new_ne, oO_new_eq, oO_new_ne, aR_new_eq, aR_new_ne, ds_new_eq, ds_new_ne, new_at, new_ne, new_21, new_22, set_21, set_22, oO_at hz1, oF_at hz1, ds_at (hg1 _ _ z1)]
  refine ⟨(), key _ (fun x hx => ?_) ?_ rfl⟩
  · simp [ga_set, hx]
  · simp [ga_set]
end L
