/-! LAYER 4o21: the class: a new law; a row, a sink made on the way -/
section L
variable {b d : Nat} {sa : Nat → Nat} {g : gG} {h : gH}
theorem new_law (hd : 2 ≤ d) : ∃ h2, RN b sa d 135 [.inr (.inr (some (h.2.1)))] (ga_new h (.inr (1, df_X1)) 2) none h2 ∧ (h2.1 h.2.1 = some (.inr (1, [.inr (.inr (some (h.2.1 + 1))), .inl (Int32.ofNat (0))])) ∧ h2.1 (h.2.1 + 1) = some (.inl (8, 16, .inr (.inr fun _ => none))) ∧ (∀ a, a < h.2.1 → h2.1 a = h.1 a) ∧ h2.2 = (h.2.1 + 2, h.2.2 + 18)) := by
  obtain ⟨e, rfl⟩ : ∃ q : Nat, d = q + 1 := ⟨d - 1, by omega⟩
  refine go_135 _ ?_
  simp (maxSteps := 1000000) (disch := first | omega | (show List.contains _ _ = true; decide) | (simp only [new_21, set_21]; omega)) only [sSeq, sI, sL, sR, sIf, sInc, sSkip, sCont, sRet, sRet0, sEx, xC, iV, lV, rV, x1, x2, x2p, xP, xIf, xB, cI, cL, cN, cR, cB, cAnd, cOr, cNot, cT, aN, aC, ga_get, ga_st1, ga_st2, ga_kill, ga_put, ga_dim, vI, vL, vR, vA, List.head?_cons, List.head?_nil, rkI, rkL, rkR, rkU, ga_cc, ga_lc, decide_eq_true_eq, List.length_cons, List.length_nil, Nat.reduceAdd, Nat.reduceLT, ga_rI, ga_rL, ga_rR, ga_rU, true_and, and_true, ↓reduceIte, hFI, hFL, hFR, hAI, hAL, hAR, hLen, hCast, hInst, hCV, hCS, hNew, hSp, hNA, sPI, sPZ, sPL, sPR, sUI, sAI, sAB, sAZ, sAL, sAR, sVI, sVL, sObj, sSw, ↓Lm1, L0, L1, L2, L3, L4, L5, L6, L7, L8, L9, L10, L12, L15, L16, L17, L18, L20, L24, L26, L31, L32, L36, L48, L62, L64, L72, L96, L97, L122, L200, L255, L256, L399, L400, L600, L800, L9999, L1000000, i32_add, i32_mul, i32_sub, i32_lt, i32_le, i32_eq, i32_clamp, i32_in, mone_lt, mone_nlt, mone_le, mone_nle, mone_ne, mone_ne', M0, M1, i64_add, i64_mul, i64_lt, i64_le, i64_eq, i32_64, Nat.zero_le, ↓reduceIte, bI_0, bI_1, false_and, and_false, not_false_eq_true, not_true_eq_false, oF_set_eq, oF_set_ne, oO_set_eq, oO_set_ne, aR_set_eq, aR_set_ne, ds_set_eq, ds_set_ne, set_at, set_ne, set_2, lk_cons, List.set_cons_zero, List.set_cons_succ, List.getElem?_cons_zero, List.getElem?_cons_succ, Nat.reduceEqDiff, List.contains_cons, List.contains_nil, Nat.reduceBEq, beq_self_eq_true, Bool.true_or, Bool.false_or, Bool.or_false, Bool.or_true, ↓reduceIte, ne_eq, Nat.add_left_cancel_iff, oF_new_eq, oF_new_ne, oO_new_eq, oO_new_ne, aR_new_eq, aR_new_ne, ds_new_eq, ds_new_ne, new_at, new_ne, new_21, new_22, set_21, set_22, bd_135, df_X1]
  refine ⟨by decide, ?_, fun a ha => ?_, rfl⟩
  · simp [ga_set, ga_new]; rfl
  · have : a ≠ h.2.1 := by omega
    have : a ≠ h.2.1 + 1 := by omega
    simp [ga_set, ga_new, *]
theorem use_row {H : gH} {s : Nat} {Q : gH → Prop} (hd : 2 ≤ d) (hs : H.2.1 = s) (hQ : ∀ h2 : gH, isRow g h2.1 s [] → (∀ a, a < s → h2.1 a = H.1 a) → h2.2 = (s + 3, H.2.2 + 147) → Q h2) : ∃ h2, RN b sa d 63 [.inr (.inr (some (s)))] (ga_new H (.inr (3, df_X3)) 3) none h2 ∧ Q h2 := by
  subst hs
  obtain ⟨h2, r1, r2, r3, r4⟩ := new_row (b := b) (sa := sa) (g := g) (h := H) hd
  exact ⟨h2, r1, hQ h2 r2 r3 r4⟩
theorem use_sink {H : gH} {s : Nat} {Q : gH → Prop} (hd : 2 ≤ d) (hs : H.2.1 = s) (hQ : ∀ h2 : gH, isSink h2 s [] → (∀ a, a < s → h2.1 a = H.1 a) → h2.2 = (s + 6, H.2.2 + 1086) → Q h2) : ∃ h2, RN b sa d 51 [.inr (.inr (some (s)))] (ga_new H (.inr (4, df_X4)) 6) none h2 ∧ Q h2 := by
  subst hs
  obtain ⟨h2, r1, r2, r3, r4⟩ := new_sink (b := b) (sa := sa) (h := H) hd
  exact ⟨h2, r1, hQ h2 r2 r3 r4⟩
end L
