/-! LAYER 4k: the reference: nodes, what passes -/
theorem sm_164 {m d : Nat} {σ : MS} {v lo hi : Int32} (hd : 1 ≤ d) : RM m d 164 [.inl v, .inl lo, .inl hi] σ (some (.inl (bI (decide (lo ≤ v ∧ v ≤ hi))))) σ := by
  obtain ⟨e, rfl⟩ : ∃ q : Nat, d = q + 1 := ⟨d - 1, by omega⟩
  refine ruI (go_164 _ (fun _ _ q => by rw [q.1]; exact bI_ok _) ?_)
  simp only [bm_164, sSeq, sI, sL, sR, sIf, sInc, sSkip, sCont, sRet, sRet0, sEx, xC, iV, lV, rV, x1, x2, x2p, xP, xIf, xB, cI, cL, cN, cR, cB, cAnd, cOr, cNot, cT, aN, aC, ga_get, ga_st1, ga_st2, ga_kill, ga_put, ga_dim, vI, vL, vR, vA, List.head?_cons, List.head?_nil, rkI, rkL, rkR, rkU, ga_cc, ga_lc, decide_eq_true_eq, List.length_cons, List.length_nil, Nat.reduceAdd, Nat.reduceLT, ga_rI, ga_rL, ga_rR, ga_rU, true_and, and_true, ↓reduceIte, mT, mFI, mFL, mAI, mAL, tI, tZ, tL, tU, tAI, tAB, tAZ, tAL, tV, mC, hCS, sSw]
  by_cases h1 : lo ≤ v <;> by_cases h2 : v ≤ hi <;> simp [h1, h2, bI]
theorem sm_187 {m d i k : Nat} {σ : MS} (hd : 1 ≤ d) (hi : i < 2304) (hk : k < 8) (h7 : σ.2.2.1 7 i = Int32.ofNat k) : RM m d 187 [.inr (.inr (some (m))), .inl (Int32.ofNat (i))] σ (some (.inl (bI (decide (k ≤ 3))))) σ := by
  obtain ⟨e, rfl⟩ : ∃ q : Nat, d = q + 1 := ⟨d - 1, by omega⟩
  refine ruI (go_187 _ (fun _ _ q => by rw [q.1]; exact bI_ok _) ?_)
  simp (disch := omega) only [bm_187, sSeq, sI, sL, sR, sIf, sInc, sSkip, sCont, sRet, sRet0, sEx, xC, iV, lV, rV, x1, x2, x2p, xP, xIf, xB, cI, cL, cN, cR, cB, cAnd, cOr, cNot, cT, aN, aC, ga_get, ga_st1, ga_st2, ga_kill, ga_put, ga_dim, vI, vL, vR, vA, List.head?_cons, List.head?_nil, rkI, rkL, rkR, rkU, ga_cc, ga_lc, decide_eq_true_eq, List.length_cons, List.length_nil, Nat.reduceAdd, Nat.reduceLT, ga_rI, ga_rL, ga_rR, ga_rU, true_and, and_true, ↓reduceIte, mT, mFI, mFL, mAI, mAL, tI, tZ, tL, tU, tAI, tAB, tAZ, tAL, tV, mC, hCS, sSw, ↓Lm1, L0, L1, L2, L3, L4, L5, L6, L7, L8, L9, L10, L12, L15, L16, L17, L18, L20, L24, L26, L31, L32, L36, L48, L62, L64, L72, L96, L97, L122, L200, L255, L256, L399, L400, L600, L800, L9999, L1000000, i32_add, i32_mul, i32_sub, i32_lt, i32_le, i32_eq, i32_clamp, i32_in, mone_lt, mone_nlt, mone_le, mone_nle, mone_ne, mone_ne', M0, M1, i64_add, i64_mul, i64_lt, i64_le, i64_eq, i32_64, Nat.zero_le, ↓reduceIte, bI_0, bI_1, false_and, and_false, not_false_eq_true, not_true_eq_false, mLen_7, h7]
  by_cases h : k ≤ 3 <;> simp [h, bI]
theorem sm_188 {m d i : Nat} {σ : MS} {c : Ctx} (hd : 1 ≤ d) (hi : i < 2304) (h9 : σ.2.2.1 9 i = cUp c) (hc : Chn σ.2.2.1 c) : RM m d 188 [.inr (.inr (some (m))), .inl (Int32.ofNat (i))] σ (some (.inl (Int32.ofNat (lat c)))) σ := by
  obtain ⟨e, rfl⟩ : ∃ q : Nat, d = q + 1 := ⟨d - 1, by omega⟩
  refine ruI (go_188 _ ?_)
  simp (disch := omega) only [bm_188, sSeq, sI, sL, sR, sIf, sInc, sSkip, sCont, sRet, sRet0, sEx, xC, iV, lV, rV, x1, x2, x2p, xP, xIf, xB, cI, cL, cN, cR, cB, cAnd, cOr, cNot, cT, aN, aC, ga_get, ga_st1, ga_st2, ga_kill, ga_put, ga_dim, vI, vL, vR, vA, List.head?_cons, List.head?_nil, rkI, rkL, rkR, rkU, ga_cc, ga_lc, decide_eq_true_eq, List.length_cons, List.length_nil, Nat.reduceAdd, Nat.reduceLT, ga_rI, ga_rL, ga_rR, ga_rU, true_and, and_true, ↓reduceIte, mT, mFI, mFL, mAI, mAL, tI, tZ, tL, tU, tAI, tAB, tAZ, tAL, tV, mC, hCS, sSw, ↓Lm1, L0, L1, L2, L3, L4, L5, L6, L7, L8, L9, L10, L12, L15, L16, L17, L18, L20, L24, L26, L31, L32, L36, L48, L62, L64, L72, L96, L97, L122, L200, L255, L256, L399, L400, L600, L800, L9999, L1000000, i32_add, i32_mul, i32_sub, i32_lt, i32_le, i32_eq, i32_clamp, i32_in, mone_lt, mone_nlt, mone_le, mone_nle, mone_ne, mone_ne', M0, M1, i64_add, i64_mul, i64_lt, i64_le, i64_eq, i32_64, Nat.zero_le, ↓reduceIte, bI_0, bI_1, false_and, and_false, not_false_eq_true, not_true_eq_false, mLen_9, h9]
  refine lr_bm_188_l2 (fun n e τ => ∃ c' v, n = c'.length ∧ e = [some (.inr (.inr (some (m)))), some (.inl (Int32.ofNat (i))), some (.inl (Int32.ofNat (v))), some (.inl (cUp c'))] ∧ τ = σ ∧ Chn σ.2.2.1 c' ∧ v + lat c' = lat c) ?_ c.length _ _ ⟨c, 0, rfl, rfl, rfl, hc, Nat.zero_add _⟩
  rintro n e τ ⟨c', v, rfl, rfl, rfl, hc', hv⟩
  cases c' with
  | nil =>
    simp (disch := omega) only [sSeq, sI, sL, sR, sIf, sInc, sSkip, sCont, sRet, sRet0, sEx, xC, iV, lV, rV, x1, x2, x2p, xP, xIf, xB, cI, cL, cN, cR, cB, cAnd, cOr, cNot, cT, aN, aC, ga_get, ga_st1, ga_st2, ga_kill, ga_put, ga_dim, vI, vL, vR, vA, List.head?_cons, List.head?_nil, rkI, rkL, rkR, rkU, ga_cc, ga_lc, decide_eq_true_eq, List.length_cons, List.length_nil, Nat.reduceAdd, Nat.reduceLT, ga_rI, ga_rL, ga_rR, ga_rU, true_and, and_true, ↓reduceIte, mT, mFI, mFL, mAI, mAL, tI, tZ, tL, tU, tAI, tAB, tAZ, tAL, tV, mC, hCS, sSw, cUp, ↓Lm1, L0, L1, L2, L3, L4, L5, L6, L7, L8, L9, L10, L12, L15, L16, L17, L18, L20, L24, L26, L31, L32, L36, L48, L62, L64, L72, L96, L97, L122, L200, L255, L256, L399, L400, L600, L800, L9999, L1000000, i32_add, i32_mul, i32_sub, i32_lt, i32_le, i32_eq, i32_clamp, i32_in, mone_lt, mone_nlt, mone_le, mone_nle, mone_ne, mone_ne', M0, M1, i64_add, i64_mul, i64_lt, i64_le, i64_eq, i32_64, Nat.zero_le, ↓reduceIte, bI_0, bI_1, false_and, and_false, not_false_eq_true, not_true_eq_false]
    exact congrArg Int32.ofNat hv
  | cons q c' =>
    obtain ⟨j, k, n, p⟩ := q
    obtain ⟨h1, h2, h3, h4, h5, h6, h7, h8⟩ := hc'
    dsimp only at h1 h2 h3 h4 h5 h6 h7
    have hk : k < 8 := by omega
    have e9 : τ.2.2.1 9 j = cUp c' := by cases c' <;> exact h6
    simp (disch := omega) only [bm_188_b1, sSeq, sI, sL, sR, sIf, sInc, sSkip, sCont, sRet, sRet0, sEx, xC, iV, lV, rV, x1, x2, x2p, xP, xIf, xB, cI, cL, cN, cR, cB, cAnd, cOr, cNot, cT, aN, aC, ga_get, ga_st1, ga_st2, ga_kill, ga_put, ga_dim, vI, vL, vR, vA, List.head?_cons, List.head?_nil, rkI, rkL, rkR, rkU, ga_cc, ga_lc, decide_eq_true_eq, List.length_cons, List.length_nil, Nat.reduceAdd, Nat.reduceLT, ga_rI, ga_rL, ga_rR, ga_rU, true_and, and_true, ↓reduceIte, mT, mFI, mFL, mAI, mAL, tI, tZ, tL, tU, tAI, tAB, tAZ, tAL, tV, mC, hCS, sSw, cUp, ↓Lm1, L0, L1, L2, L3, L4, L5, L6, L7, L8, L9, L10, L12, L15, L16, L17, L18, L20, L24, L26, L31, L32, L36, L48, L62, L64, L72, L96, L97, L122, L200, L255, L256, L399, L400, L600, L800, L9999, L1000000, i32_add, i32_mul, i32_sub, i32_lt, i32_le, i32_eq, i32_clamp, i32_in, mone_lt, mone_nlt, mone_le, mone_nle, mone_ne, mone_ne', M0, M1, i64_add, i64_mul, i64_lt, i64_le, i64_eq, i32_64, Nat.zero_le, ↓reduceIte, bI_0, bI_1, false_and, and_false, not_false_eq_true, not_true_eq_false, mLen_7, mLen_8, mLen_9, h2, h3]
    have hl : lat ((j, k, n, p) :: c') = (if k = 4 then n else 0) + lat c' := rfl
    by_cases h : k = 4
    · rw [if_pos h] at hl
      simp (disch := omega) only [h, ↓Lm1, L0, L1, L2, L3, L4, L5, L6, L7, L8, L9, L10, L12, L15, L16, L17, L18, L20, L24, L26, L31, L32, L36, L48, L62, L64, L72, L96, L97, L122, L200, L255, L256, L399, L400, L600, L800, L9999, L1000000, i32_add, i32_mul, i32_sub, i32_lt, i32_le, i32_eq, i32_clamp, i32_in, mone_lt, mone_nlt, mone_le, mone_nle, mone_ne, mone_ne', M0, M1, i64_add, i64_mul, i64_lt, i64_le, i64_eq, i32_64, Nat.zero_le, ↓reduceIte, bI_0, bI_1, false_and, and_false, not_false_eq_true, not_true_eq_false, e9]
      exact ⟨c'.length, Nat.lt_succ_self _, c', v + n, rfl, rfl, h8, by omega⟩
    · rw [if_neg h] at hl
      simp (disch := omega) only [h, ↓Lm1, L0, L1, L2, L3, L4, L5, L6, L7, L8, L9, L10, L12, L15, L16, L17, L18, L20, L24, L26, L31, L32, L36, L48, L62, L64, L72, L96, L97, L122, L200, L255, L256, L399, L400, L600, L800, L9999, L1000000, i32_add, i32_mul, i32_sub, i32_lt, i32_le, i32_eq, i32_clamp, i32_in, mone_lt, mone_nlt, mone_le, mone_nle, mone_ne, mone_ne', M0, M1, i64_add, i64_mul, i64_lt, i64_le, i64_eq, i32_64, Nat.zero_le, ↓reduceIte, bI_0, bI_1, false_and, and_false, not_false_eq_true, not_true_eq_false, e9, Nat.add_zero]
      exact ⟨c'.length, Nat.lt_succ_self _, c', v, rfl, rfl, h8, by omega⟩
/-- the code's bits, as the reference asks them -/
def bit32 (code : Int32) (k : Nat) : Int32 := (code >>> (Int32.ofNat k &&& 31)) &&& 1
def mBits (code : Int32) (sh : Nat) (β : Nat → Bool) : Prop := (∀ k, k < 5 → bit32 code k = bI (β k)) ∧ ∀ k, k < 3 → bit32 code (sh + k) = bI (β (5 + k))
theorem tm1_mul (β : Nat → Bool) (q : Nat × Nat × Nat × Nat) (v : Nat) : tm1 β q v = v * tm1 β q 1 := by
  unfold tm1
  split
  · simp
  · split
    · simp
    · split
      · split <;> simp
      · split <;> simp
theorem tms_le {A : MA} (β : Nat → Bool) : ∀ (c : Ctx), Chn A c → tms β c ≤ 9 ^ c.length := by
  intro c
  induction c with
  | nil => intro _; exact Nat.le_refl _
  | cons q c ih =>
    intro hc
    obtain ⟨h1, h2, h3, h4, h5, h6, h7, h8⟩ := hc
    have := ih h8
    have h9 : 9 ^ (q :: c).length = 9 ^ c.length * 9 := by rw [List.length_cons, Nat.pow_succ]
    rw [h9]
    show tm1 β q (tms β c) ≤ _
    unfold tm1
    split
    · omega
    · split
      · have h10 : q.2.2.1 ≤ 9 := by omega
        exact Nat.mul_le_mul this h10
      · split <;> split <;> omega
theorem tm1_le {q : Nat × Nat × Nat × Nat} (β : Nat → Bool) (v : Nat) (h4 : q.2.1 = 4 ∧ q.2.2.1 < 400 ∨ q.2.1 = 5 ∧ q.2.2.1 < 10 ∨ q.2.1 = 6 ∧ q.2.2.1 < 5 ∨ q.2.1 = 7 ∧ q.2.2.1 < 3) : tm1 β q v ≤ v * 9 := by
  unfold tm1
  split
  · omega
  · split
    · exact Nat.mul_le_mul_left v (by omega)
    · split <;> split <;> omega
theorem lat_le {A : MA} : ∀ (c : Ctx), Chn A c → lat c ≤ 399 * c.length := by
  intro c
  induction c with
  | nil => intro _; exact Nat.le_refl _
  | cons q c ih =>
    intro hc
    obtain ⟨h1, h2, h3, h4, h5, h6, h7, h8⟩ := hc
    have := ih h8
    simp only [lat, List.length_cons]
    split <;> omega
theorem sm_192 {m d i sh : Nat} {σ : MS} {c : Ctx} {code : Int32} {β : Nat → Bool} (hd : 1 ≤ d) (hi : i < 2304) (hsh : sh ≤ 100) (h9 : σ.2.2.1 9 i = cUp c) (h10 : σ.2.2.1 10 i = Int32.ofNat (cPt c)) (hc : Chn σ.2.2.1 c) (hl : c.length ≤ 6) (hβ : mBits code sh β) : RM m d 192 [.inr (.inr (some (m))), .inl (Int32.ofNat (i)), .inl code, .inl (Int32.ofNat (sh))] σ (some (.inr (.inl (Int64.ofNat (tms β c))))) σ := by
  obtain ⟨e, rfl⟩ : ∃ q : Nat, d = q + 1 := ⟨d - 1, by omega⟩
  refine ruL (go_192 _ ?_)
  simp (disch := omega) only [bm_192, sSeq, sI, sL, sR, sIf, sInc, sSkip, sCont, sRet, sRet0, sEx, xC, iV, lV, rV, x1, x2, x2p, xP, xIf, xB, cI, cL, cN, cR, cB, cAnd, cOr, cNot, cT, aN, aC, ga_get, ga_st1, ga_st2, ga_kill, ga_put, ga_dim, vI, vL, vR, vA, List.head?_cons, List.head?_nil, rkI, rkL, rkR, rkU, ga_cc, ga_lc, decide_eq_true_eq, List.length_cons, List.length_nil, Nat.reduceAdd, Nat.reduceLT, ga_rI, ga_rL, ga_rR, ga_rU, true_and, and_true, ↓reduceIte, mT, mFI, mFL, mAI, mAL, tI, tZ, tL, tU, tAI, tAB, tAZ, tAL, tV, mC, hCS, sSw, ↓Lm1, L0, L1, L2, L3, L4, L5, L6, L7, L8, L9, L10, L12, L15, L16, L17, L18, L20, L24, L26, L31, L32, L36, L48, L62, L64, L72, L96, L97, L122, L200, L255, L256, L399, L400, L600, L800, L9999, L1000000, i32_add, i32_mul, i32_sub, i32_lt, i32_le, i32_eq, i32_clamp, i32_in, mone_lt, mone_nlt, mone_le, mone_nle, mone_ne, mone_ne', M0, M1, i64_add, i64_mul, i64_lt, i64_le, i64_eq, i32_64, Nat.zero_le, ↓reduceIte, bI_0, bI_1, false_and, and_false, not_false_eq_true, not_true_eq_false]
  have h96 : 1 * 9 ^ c.length ≤ 9 ^ 6 := by rw [Nat.one_mul]; exact Nat.pow_le_pow_right (by decide) hl
  refine lr_bm_192_l2 (fun n e τ => ∃ c' i' v g, n = c'.length ∧ e = [some (.inr (.inr (some (m)))), some (.inl (Int32.ofNat (i))), some (.inl code), some (.inl (Int32.ofNat (sh))), some (.inr (.inl (Int64.ofNat (v)))), none, some (.inl (Int32.ofNat (i'))), g] ∧ τ = σ ∧ i' < 2304 ∧ σ.2.2.1 9 i' = cUp c' ∧ σ.2.2.1 10 i' = Int32.ofNat (cPt c') ∧ Chn σ.2.2.1 c' ∧ v * tms β c' = tms β c ∧ v * 9 ^ c'.length ≤ 9 ^ 6) ?_ c.length _ _ ⟨c, i, 1, none, rfl, rfl, rfl, hi, h9, h10, hc, Nat.one_mul _, h96⟩
  rintro n e τ ⟨c', i', v, g, rfl, rfl, rfl, hi', h9', h10', hc', hv, hb⟩
  have hvb : v < 2 ^ 63 := by
    have : v ≤ v * 9 ^ c'.length := Nat.le_mul_of_pos_right v (Nat.pow_pos (by decide))
    omega
  by_cases h0 : v = 0
  · subst h0
    simp (disch := omega) only [sSeq, sI, sL, sR, sIf, sInc, sSkip, sCont, sRet, sRet0, sEx, xC, iV, lV, rV, x1, x2, x2p, xP, xIf, xB, cI, cL, cN, cR, cB, cAnd, cOr, cNot, cT, aN, aC, ga_get, ga_st1, ga_st2, ga_kill, ga_put, ga_dim, vI, vL, vR, vA, List.head?_cons, List.head?_nil, rkI, rkL, rkR, rkU, ga_cc, ga_lc, decide_eq_true_eq, List.length_cons, List.length_nil, Nat.reduceAdd, Nat.reduceLT, ga_rI, ga_rL, ga_rR, ga_rU, true_and, and_true, ↓reduceIte, mT, mFI, mFL, mAI, mAL, tI, tZ, tL, tU, tAI, tAB, tAZ, tAL, tV, mC, hCS, sSw, ↓Lm1, L0, L1, L2, L3, L4, L5, L6, L7, L8, L9, L10, L12, L15, L16, L17, L18, L20, L24, L26, L31, L32, L36, L48, L62, L64, L72, L96, L97, L122, L200, L255, L256, L399, L400, L600, L800, L9999, L1000000, i32_add, i32_mul, i32_sub, i32_lt, i32_le, i32_eq, i32_clamp, i32_in, mone_lt, mone_nlt, mone_le, mone_nle, mone_ne, mone_ne', M0, M1, i64_add, i64_mul, i64_lt, i64_le, i64_eq, i32_64, Nat.zero_le, ↓reduceIte, bI_0, bI_1, false_and, and_false, not_false_eq_true, not_true_eq_false, Nat.lt_irrefl]
    rw [← hv, Nat.zero_mul]
  have h0' : 0 < v := by omega
  cases c' with
  | nil =>
    simp (disch := omega) only [sSeq, sI, sL, sR, sIf, sInc, sSkip, sCont, sRet, sRet0, sEx, xC, iV, lV, rV, x1, x2, x2p, xP, xIf, xB, cI, cL, cN, cR, cB, cAnd, cOr, cNot, cT, aN, aC, ga_get, ga_st1, ga_st2, ga_kill, ga_put, ga_dim, vI, vL, vR, vA, List.head?_cons, List.head?_nil, rkI, rkL, rkR, rkU, ga_cc, ga_lc, decide_eq_true_eq, List.length_cons, List.length_nil, Nat.reduceAdd, Nat.reduceLT, ga_rI, ga_rL, ga_rR, ga_rU, true_and, and_true, ↓reduceIte, mT, mFI, mFL, mAI, mAL, tI, tZ, tL, tU, tAI, tAB, tAZ, tAL, tV, mC, hCS, sSw, ↓Lm1, L0, L1, L2, L3, L4, L5, L6, L7, L8, L9, L10, L12, L15, L16, L17, L18, L20, L24, L26, L31, L32, L36, L48, L62, L64, L72, L96, L97, L122, L200, L255, L256, L399, L400, L600, L800, L9999, L1000000, i32_add, i32_mul, i32_sub, i32_lt, i32_le, i32_eq, i32_clamp, i32_in, mone_lt, mone_nlt, mone_le, mone_nle, mone_ne, mone_ne', M0, M1, i64_add, i64_mul, i64_lt, i64_le, i64_eq, i32_64, Nat.zero_le, ↓reduceIte, bI_0, bI_1, false_and, and_false, not_false_eq_true, not_true_eq_false, h0', h9', mLen_9, cUp]
    rw [← hv]
    exact congrArg Int64.ofNat (Nat.mul_one v).symm
  | cons q c' =>
    obtain ⟨j, k, n, p⟩ := q
    obtain ⟨h1, h2, h3, h4, h5, h6, h7, h8⟩ := hc'
    dsimp only at h1 h2 h3 h4 h5 h6 h7
    have e9 : τ.2.2.1 9 j = cUp c' := by cases c' <;> exact h6
    have e10 : τ.2.2.1 10 j = Int32.ofNat (cPt c') := by cases c' <;> exact h7
    have key : tm1 β (j, k, n, p) v * tms β c' = tms β c := by
      rw [← hv]
      show tm1 β _ v * tms β c' = v * tm1 β _ (tms β c')
      rw [tm1_mul β _ v, tm1_mul β _ (tms β c'), Nat.mul_assoc]
      exact congrArg (v * ·) (Nat.mul_comm _ _)
    have kb : tm1 β (j, k, n, p) v * 9 ^ c'.length ≤ 9 ^ 6 := by
      refine Nat.le_trans (Nat.mul_le_mul_right _ (tm1_le β v h4)) ?_
      rw [Nat.mul_assoc, Nat.mul_comm 9]
      exact hb
    have fin : ∀ w, w = tm1 β (j, k, n, p) v → ∃ n', n' < ((j, k, n, p) :: c').length ∧ ∃ c2 i2 v2 g2, n' = c2.length ∧ ([some (.inr (.inr (some (m)))), some (.inl (Int32.ofNat (i))), some (.inl code), some (.inl (Int32.ofNat (sh))), some (.inr (.inl (Int64.ofNat (w)))), none, some (.inl (Int32.ofNat (j))), some (.inl (Int32.ofNat (j)))] : ga_Env) = [some (.inr (.inr (some (m)))), some (.inl (Int32.ofNat (i))), some (.inl code), some (.inl (Int32.ofNat (sh))), some (.inr (.inl (Int64.ofNat (v2)))), none, some (.inl (Int32.ofNat (i2))), g2] ∧ i2 < 2304 ∧ τ.2.2.1 9 i2 = cUp c2 ∧ τ.2.2.1 10 i2 = Int32.ofNat (cPt c2) ∧ Chn τ.2.2.1 c2 ∧ v2 * tms β c2 = tms β c ∧ v2 * 9 ^ c2.length ≤ 9 ^ 6 := by
      rintro w rfl
      exact ⟨c'.length, Nat.lt_succ_self _, c', j, _, _, rfl, rfl, h1, e9, e10, h8, key, kb⟩
    have u9 : cUp ((j, k, n, p) :: c') = Int32.ofNat j := rfl
    have u10 : cPt ((j, k, n, p) :: c') = p := rfl
    rw [u9] at h9'
    rw [u10] at h10'
    rcases h4 with ⟨rfl, hn⟩ | ⟨rfl, hn⟩ | ⟨rfl, hn⟩ | ⟨rfl, hn⟩
    · simp (disch := omega) only [bm_192_b1, sSeq, sI, sL, sR, sIf, sInc, sSkip, sCont, sRet, sRet0, sEx, xC, iV, lV, rV, x1, x2, x2p, xP, xIf, xB, cI, cL, cN, cR, cB, cAnd, cOr, cNot, cT, aN, aC, ga_get, ga_st1, ga_st2, ga_kill, ga_put, ga_dim, vI, vL, vR, vA, List.head?_cons, List.head?_nil, rkI, rkL, rkR, rkU, ga_cc, ga_lc, decide_eq_true_eq, List.length_cons, List.length_nil, Nat.reduceAdd, Nat.reduceLT, ga_rI, ga_rL, ga_rR, ga_rU, true_and, and_true, ↓reduceIte, mT, mFI, mFL, mAI, mAL, tI, tZ, tL, tU, tAI, tAB, tAZ, tAL, tV, mC, hCS, sSw, ↓Lm1, L0, L1, L2, L3, L4, L5, L6, L7, L8, L9, L10, L12, L15, L16, L17, L18, L20, L24, L26, L31, L32, L36, L48, L62, L64, L72, L96, L97, L122, L200, L255, L256, L399, L400, L600, L800, L9999, L1000000, i32_add, i32_mul, i32_sub, i32_lt, i32_le, i32_eq, i32_clamp, i32_in, mone_lt, mone_nlt, mone_le, mone_nle, mone_ne, mone_ne', M0, M1, i64_add, i64_mul, i64_lt, i64_le, i64_eq, i32_64, Nat.zero_le, ↓reduceIte, bI_0, bI_1, false_and, and_false, not_false_eq_true, not_true_eq_false, h0', h9', h10', mLen_7, mLen_8, mLen_9, mLen_10, h2, h3, Nat.reduceEqDiff]
      exact fin _ rfl
    · simp (disch := omega) only [bm_192_b1, sSeq, sI, sL, sR, sIf, sInc, sSkip, sCont, sRet, sRet0, sEx, xC, iV, lV, rV, x1, x2, x2p, xP, xIf, xB, cI, cL, cN, cR, cB, cAnd, cOr, cNot, cT, aN, aC, ga_get, ga_st1, ga_st2, ga_kill, ga_put, ga_dim, vI, vL, vR, vA, List.head?_cons, List.head?_nil, rkI, rkL, rkR, rkU, ga_cc, ga_lc, decide_eq_true_eq, List.length_cons, List.length_nil, Nat.reduceAdd, Nat.reduceLT, ga_rI, ga_rL, ga_rR, ga_rU, true_and, and_true, ↓reduceIte, mT, mFI, mFL, mAI, mAL, tI, tZ, tL, tU, tAI, tAB, tAZ, tAL, tV, mC, hCS, sSw, ↓Lm1, L0, L1, L2, L3, L4, L5, L6, L7, L8, L9, L10, L12, L15, L16, L17, L18, L20, L24, L26, L31, L32, L36, L48, L62, L64, L72, L96, L97, L122, L200, L255, L256, L399, L400, L600, L800, L9999, L1000000, i32_add, i32_mul, i32_sub, i32_lt, i32_le, i32_eq, i32_clamp, i32_in, mone_lt, mone_nlt, mone_le, mone_nle, mone_ne, mone_ne', M0, M1, i64_add, i64_mul, i64_lt, i64_le, i64_eq, i32_64, Nat.zero_le, ↓reduceIte, bI_0, bI_1, false_and, and_false, not_false_eq_true, not_true_eq_false, h0', h9', h10', mLen_7, mLen_8, mLen_9, mLen_10, h2, h3, Nat.reduceEqDiff]
      exact fin _ rfl
    · have hbit : (code >>> (Int32.ofNat n &&& Int32.ofNat 31)) &&& Int32.ofNat 1 = bI (β n) := hβ.1 n hn
      have hp : p = 0 ∨ p = 1 := by omega
      rcases hp with rfl | rfl <;> cases hq : β n <;> simp (disch := omega) only [bm_192_b1, sSeq, sI, sL, sR, sIf, sInc, sSkip, sCont, sRet, sRet0, sEx, xC, iV, lV, rV, x1, x2, x2p, xP, xIf, xB, cI, cL, cN, cR, cB, cAnd, cOr, cNot, cT, aN, aC, ga_get, ga_st1, ga_st2, ga_kill, ga_put, ga_dim, vI, vL, vR, vA, List.head?_cons, List.head?_nil, rkI, rkL, rkR, rkU, ga_cc, ga_lc, decide_eq_true_eq, List.length_cons, List.length_nil, Nat.reduceAdd, Nat.reduceLT, ga_rI, ga_rL, ga_rR, ga_rU, true_and, and_true, ↓reduceIte, mT, mFI, mFL, mAI, mAL, tI, tZ, tL, tU, tAI, tAB, tAZ, tAL, tV, mC, hCS, sSw, ↓Lm1, L0, L1, L2, L3, L4, L5, L6, L7, L8, L9, L10, L12, L15, L16, L17, L18, L20, L24, L26, L31, L32, L36, L48, L62, L64, L72, L96, L97, L122, L200, L255, L256, L399, L400, L600, L800, L9999, L1000000, i32_add, i32_mul, i32_sub, i32_lt, i32_le, i32_eq, i32_clamp, i32_in, mone_lt, mone_nlt, mone_le, mone_nle, mone_ne, mone_ne', M0, M1, i64_add, i64_mul, i64_lt, i64_le, i64_eq, i32_64, Nat.zero_le, ↓reduceIte, bI_0, bI_1, false_and, and_false, not_false_eq_true, not_true_eq_false, h0', h9', h10', mLen_7, mLen_8, mLen_9, mLen_10, h2, h3, Nat.reduceEqDiff, hbit, hq, bI, Bool.false_eq_true] <;> (refine fin _ ?_; simp [tm1, hq])
    · have hbit : (code >>> (Int32.ofNat (sh + n) &&& Int32.ofNat 31)) &&& Int32.ofNat 1 = bI (β (5 + n)) := hβ.2 n hn
      have hp : p = 0 ∨ p = 1 := by omega
      rcases hp with rfl | rfl <;> cases hq : β (5 + n) <;> simp (disch := omega) only [bm_192_b1, sSeq, sI, sL, sR, sIf, sInc, sSkip, sCont, sRet, sRet0, sEx, xC, iV, lV, rV, x1, x2, x2p, xP, xIf, xB, cI, cL, cN, cR, cB, cAnd, cOr, cNot, cT, aN, aC, ga_get, ga_st1, ga_st2, ga_kill, ga_put, ga_dim, vI, vL, vR, vA, List.head?_cons, List.head?_nil, rkI, rkL, rkR, rkU, ga_cc, ga_lc, decide_eq_true_eq, List.length_cons, List.length_nil, Nat.reduceAdd, Nat.reduceLT, ga_rI, ga_rL, ga_rR, ga_rU, true_and, and_true, ↓reduceIte, mT, mFI, mFL, mAI, mAL, tI, tZ, tL, tU, tAI, tAB, tAZ, tAL, tV, mC, hCS, sSw, ↓Lm1, L0, L1, L2, L3, L4, L5, L6, L7, L8, L9, L10, L12, L15, L16, L17, L18, L20, L24, L26, L31, L32, L36, L48, L62, L64, L72, L96, L97, L122, L200, L255, L256, L399, L400, L600, L800, L9999, L1000000, i32_add, i32_mul, i32_sub, i32_lt, i32_le, i32_eq, i32_clamp, i32_in, mone_lt, mone_nlt, mone_le, mone_nle, mone_ne, mone_ne', M0, M1, i64_add, i64_mul, i64_lt, i64_le, i64_eq, i32_64, Nat.zero_le, ↓reduceIte, bI_0, bI_1, false_and, and_false, not_false_eq_true, not_true_eq_false, h0', h9', h10', mLen_7, mLen_8, mLen_9, mLen_10, h2, h3, Nat.reduceEqDiff, hbit, hq, bI, Bool.false_eq_true] <;> (refine fin _ ?_; simp [tm1, hq])
/-- the flows at hand are rows -/
def isFl (σ : MS) (rows : List Row) : Prop := σ.1 48 = Int32.ofNat rows.length ∧ rows.length ≤ 256 ∧ ∀ i r, rows[i]? = some r → σ.2.2.1 49 i = Int32.ofNat r.1 ∧ σ.2.2.1 50 i = Int32.ofNat r.2.1 ∧ σ.2.2.1 51 i = Int32.ofNat r.2.2.1 ∧ σ.2.2.1 52 i = Int32.ofNat r.2.2.2.1 ∧ σ.2.2.2 53 i = Int64.ofNat r.2.2.2.2
theorem sm_202 {m d : Nat} {σ : MS} {rows : List Row} (r : Row) (hd : 1 ≤ d) (hs : isFl σ rows) (hl : rows.length < 256) (hm : r.2.2.2.2 < 2 ^ 63) : ∃ τ, RM m d 202 [.inr (.inr (some (m))), .inl (Int32.ofNat (r.1)), .inl (Int32.ofNat (r.2.1)), .inl (Int32.ofNat (r.2.2.1)), .inl (Int32.ofNat (r.2.2.2.1)), .inr (.inl (Int64.ofNat (r.2.2.2.2)))] σ none τ ∧ (isFl τ (rows ++ [r].filter nzRow) ∧ mFr [48, 49, 50, 51, 52, 53] σ τ) := by
  obtain ⟨e, rfl⟩ : ∃ q : Nat, d = q + 1 := ⟨d - 1, by omega⟩
  obtain ⟨h1, h2, h3⟩ := id hs
  refine go_202 _ ?_
  simp (disch := omega) only [bm_202, sSeq, sI, sL, sR, sIf, sInc, sSkip, sCont, sRet, sRet0, sEx, xC, iV, lV, rV, x1, x2, x2p, xP, xIf, xB, cI, cL, cN, cR, cB, cAnd, cOr, cNot, cT, aN, aC, ga_get, ga_st1, ga_st2, ga_kill, ga_put, ga_dim, vI, vL, vR, vA, List.head?_cons, List.head?_nil, rkI, rkL, rkR, rkU, ga_cc, ga_lc, decide_eq_true_eq, List.length_cons, List.length_nil, Nat.reduceAdd, Nat.reduceLT, ga_rI, ga_rL, ga_rR, ga_rU, true_and, and_true, ↓reduceIte, mT, mFI, mFL, mAI, mAL, tI, tZ, tL, tU, tAI, tAB, tAZ, tAL, tV, mC, hCS, sSw, ↓Lm1, L0, L1, L2, L3, L4, L5, L6, L7, L8, L9, L10, L12, L15, L16, L17, L18, L20, L24, L26, L31, L32, L36, L48, L62, L64, L72, L96, L97, L122, L200, L255, L256, L399, L400, L600, L800, L9999, L1000000, i32_add, i32_mul, i32_sub, i32_lt, i32_le, i32_eq, i32_clamp, i32_in, mone_lt, mone_nlt, mone_le, mone_nle, mone_ne, mone_ne', M0, M1, i64_add, i64_mul, i64_lt, i64_le, i64_eq, i32_64, Nat.zero_le, ↓reduceIte, bI_0, bI_1, false_and, and_false, not_false_eq_true, not_true_eq_false]
  by_cases h0 : r.2.2.2.2 = 0
  · have e0 : [r].filter nzRow = [] := by simp [nzRow, h0]
    rw [if_pos h0, e0, List.append_nil]
    exact ⟨hs, mFr_rfl _ _⟩
  · have e0 : [r].filter nzRow = [r] := by simp [nzRow, h0]
    rw [if_neg h0, e0]
    simp (disch := omega) only [sSeq, sI, sL, sR, sIf, sInc, sSkip, sCont, sRet, sRet0, sEx, xC, iV, lV, rV, x1, x2, x2p, xP, xIf, xB, cI, cL, cN, cR, cB, cAnd, cOr, cNot, cT, aN, aC, ga_get, ga_st1, ga_st2, ga_kill, ga_put, ga_dim, vI, vL, vR, vA, List.head?_cons, List.head?_nil, rkI, rkL, rkR, rkU, ga_cc, ga_lc, decide_eq_true_eq, List.length_cons, List.length_nil, Nat.reduceAdd, Nat.reduceLT, ga_rI, ga_rL, ga_rR, ga_rU, true_and, and_true, ↓reduceIte, mT, mFI, mFL, mAI, mAL, tI, tZ, tL, tU, tAI, tAB, tAZ, tAL, tV, mC, hCS, sSw, ↓Lm1, L0, L1, L2, L3, L4, L5, L6, L7, L8, L9, L10, L12, L15, L16, L17, L18, L20, L24, L26, L31, L32, L36, L48, L62, L64, L72, L96, L97, L122, L200, L255, L256, L399, L400, L600, L800, L9999, L1000000, i32_add, i32_mul, i32_sub, i32_lt, i32_le, i32_eq, i32_clamp, i32_in, mone_lt, mone_nlt, mone_le, mone_nle, mone_ne, mone_ne', M0, M1, i64_add, i64_mul, i64_lt, i64_le, i64_eq, i32_64, Nat.zero_le, ↓reduceIte, bI_0, bI_1, false_and, and_false, not_false_eq_true, not_true_eq_false, mset_i, mset_l, mset_a, mset_b, msetL_i, msetL_l, msetL_a, msetL_b, mas_i, mas_l, mas_a, mas_b, masL_i, masL_l, masL_a, masL_b, up_at, Nat.reduceEqDiff, ↓reduceIte, h1, mLen_49, mLen_50, mLen_51, mLen_52, mLen_53]
    refine ⟨⟨?_, by simp; omega, fun i x hx => ?_⟩, ?_⟩
    · simp [mset_i, mset_l, mset_a, mset_b, msetL_i, msetL_l, msetL_a, msetL_b, mas_i, mas_l, mas_a, mas_b, masL_i, masL_l, masL_a, masL_b, up_at, Nat.reduceEqDiff, ↓reduceIte]
    · simp only [mset_i, mset_l, mset_a, mset_b, msetL_i, msetL_l, msetL_a, msetL_b, mas_i, mas_l, mas_a, mas_b, masL_i, masL_l, masL_a, masL_b, up_at, Nat.reduceEqDiff, ↓reduceIte]
      rcases app_get hx with ⟨q1, q2⟩ | ⟨rfl, rfl⟩
      · have hne : i ≠ rows.length := by omega
        simp only [va_up, hne, if_false]
        exact h3 i x q2
      · simp [va_up]
    · simp [mFr_mset, mFr_msetL, mFr_mas, mFr_masL, mFr_rfl, List.mem_cons, List.not_mem_nil, or_false, Nat.reduceEqDiff, or_true, true_or]
/-- a deal: the day on which it's signed, its parts, how many choices, its events -/
abbrev DD : Type := Nat × Fo × Nat × Nat
def dOk (D : DD) : Prop := fOk 6 D.2.1 ∧ fSz D.2.1 ≤ 96 ∧ (fLeaves D.2.1 0).length ≤ 12 ∧ D.1 < 400 ∧ D.2.2.1 ≤ 3 ∧ D.2.2.2 < 32
def IsD (σ : MS) (k : Nat) (D : DD) : Prop := k < 24 ∧ σ.2.2.1 2 k = Int32.ofNat (fSz D.2.1) ∧ σ.2.2.1 3 k = Int32.ofNat D.1 ∧ σ.2.2.1 4 k = Int32.ofNat (fLeaves D.2.1 0).length ∧ σ.2.2.1 5 k = Int32.ofNat D.2.2.1 ∧ σ.2.2.1 6 k = Int32.ofNat D.2.2.2 ∧ Nd σ.2.2.1 D.2.1 (96 * k) (-1) 0 ∧ dOk D
theorem IsD.fr {F : List Nat} {σ τ : MS} {k : Nat} {D : DD} (h : IsD σ k D) (f : mFr F σ τ) (hF : ∀ j, j < 20 → j ∉ F) : IsD τ k D := by
  have e : ∀ j, j < 20 → σ.2.2.1 j = τ.2.2.1 j := fun j hj => ((f j (hF j hj)).2.2.1).symm
  obtain ⟨h1, h2, h3, h4, h5, h6, h7, h8⟩ := h
  rw [e 2 (by decide)] at h2
  rw [e 3 (by decide)] at h3
  rw [e 4 (by decide)] at h4
  rw [e 5 (by decide)] at h5
  rw [e 6 (by decide)] at h6
  exact ⟨h1, h2, h3, h4, h5, h6, Nd_congr (fun j _ hj => e j hj) _ _ _ _ h7, h8⟩
theorem IsD.node {σ : MS} {k q : Nat} {D : DD} {x : Option Lf × Ctx} (h : IsD σ k D) (hx : (fNodes D.2.1 [] (96 * k))[q]? = some x) : NdX σ.2.2.1 (96 * k + q) x := by
  obtain ⟨h1, h2, h3, h4, h5, h6, h7, h8⟩ := h
  have := h8.2.1
  exact Nd_nodes D.2.1 6 h8.1 [] (96 * k) (by omega) (Nat.le_refl _) trivial h7 q x hx
theorem tk1 {α : Type} {xs : List α} {q : Nat} {x : α} (h : xs[q]? = some x) : xs.take (q + 1) = xs.take q ++ [x] := by
  rw [List.take_succ, h]
  rfl
theorem tk_len {α β : Type} (f : α → List β) (xs : List α) (q : Nat) : ((xs.take q).flatMap f).length ≤ (xs.flatMap f).length := by
  conv => rhs; rw [← List.take_append_drop q xs, List.flatMap_append, List.length_append]
  omega
theorem fRows_at (β : Nat → Bool) {t : Fo} (h : fOk 6 t) (i : Nat) : (fNodes t [] i).flatMap (nRows β) = fRows t 0 1 β := by
  rw [fRows_nodes β t 6 h [] i]
  rfl
theorem sm_203 {m d k sh : Nat} {σ : MS} {D : DD} {rows : List Row} {code : Int32} {β : Nat → Bool} (hd : 2 ≤ d) (hD : IsD σ k D) (hs : isFl σ rows) (hl : rows.length + 3 * (fLeaves D.2.1 0).length ≤ 256) (hsh : sh ≤ 100) (hβ : mBits code sh β) : ∃ τ, RM m d 203 [.inr (.inr (some (m))), .inl (Int32.ofNat (k)), .inl code, .inl (Int32.ofNat (sh))] σ none τ ∧ (isFl τ (rows ++ (fRows D.2.1 0 1 β).filter nzRow) ∧ mFr [48, 49, 50, 51, 52, 53] σ τ) := by
  obtain ⟨e, rfl⟩ : ∃ q : Nat, d = q + 1 := ⟨d - 1, by omega⟩
  have hk24 := hD.1
  have hok := hD.2.2.2.2.2.2.2
  have hsz := hok.2.1
  have hR := fRows_at β hok.1 (96 * k)
  have hlen := fNodes_len D.2.1 [] (96 * k)
  generalize hNS : fNodes D.2.1 [] (96 * k) = NS at hR hlen
  have hRl : (NS.flatMap (nRows β)).length ≤ 3 * (fLeaves D.2.1 0).length := by rw [hR]; exact fRows_len _ _ _ _ _
  refine go_203 _ ?_
  simp (disch := omega) only [bm_203, sSeq, sI, sL, sR, sIf, sInc, sSkip, sCont, sRet, sRet0, sEx, xC, iV, lV, rV, x1, x2, x2p, xP, xIf, xB, cI, cL, cN, cR, cB, cAnd, cOr, cNot, cT, aN, aC, ga_get, ga_st1, ga_st2, ga_kill, ga_put, ga_dim, vI, vL, vR, vA, List.head?_cons, List.head?_nil, rkI, rkL, rkR, rkU, ga_cc, ga_lc, decide_eq_true_eq, List.length_cons, List.length_nil, Nat.reduceAdd, Nat.reduceLT, ga_rI, ga_rL, ga_rR, ga_rU, true_and, and_true, ↓reduceIte, mT, mFI, mFL, mAI, mAL, tI, tZ, tL, tU, tAI, tAB, tAZ, tAL, tV, mC, hCS, sSw, ↓Lm1, L0, L1, L2, L3, L4, L5, L6, L7, L8, L9, L10, L12, L15, L16, L17, L18, L20, L24, L26, L31, L32, L36, L48, L62, L64, L72, L96, L97, L122, L200, L255, L256, L399, L400, L600, L800, L9999, L1000000, i32_add, i32_mul, i32_sub, i32_lt, i32_le, i32_eq, i32_clamp, i32_in, mone_lt, mone_nlt, mone_le, mone_nle, mone_ne, mone_ne', M0, M1, i64_add, i64_mul, i64_lt, i64_le, i64_eq, i32_64, Nat.zero_le, ↓reduceIte, bI_0, bI_1, false_and, and_false, not_false_eq_true, not_true_eq_false]
  refine lr_bm_203_l2 (fun n env τ => ∃ q g5 g7, n = NS.length - q ∧ q ≤ NS.length ∧ env = [some (.inr (.inr (some (m)))), some (.inl (Int32.ofNat (k))), some (.inl code), some (.inl (Int32.ofNat (sh))), some (.inl (Int32.ofNat (96 * k + q))), g5, none, g7] ∧ isFl τ (rows ++ ((NS.take q).flatMap (nRows β)).filter nzRow) ∧ mFr [48, 49, 50, 51, 52, 53] σ τ) ?_ NS.length _ _ ⟨0, none, none, rfl, Nat.zero_le _, rfl, by simpa using hs, mFr_rfl _ _⟩
  rintro n env τ ⟨q, g5, g7, rfl, hq, rfl, hfl, hF⟩
  have hD' : IsD τ k D := hD.fr hF (by intro j hj; simp; omega)
  have h2 := hD'.2.1
  simp (disch := omega) only [sSeq, sI, sL, sR, sIf, sInc, sSkip, sCont, sRet, sRet0, sEx, xC, iV, lV, rV, x1, x2, x2p, xP, xIf, xB, cI, cL, cN, cR, cB, cAnd, cOr, cNot, cT, aN, aC, ga_get, ga_st1, ga_st2, ga_kill, ga_put, ga_dim, vI, vL, vR, vA, List.head?_cons, List.head?_nil, rkI, rkL, rkR, rkU, ga_cc, ga_lc, decide_eq_true_eq, List.length_cons, List.length_nil, Nat.reduceAdd, Nat.reduceLT, ga_rI, ga_rL, ga_rR, ga_rU, true_and, and_true, ↓reduceIte, mT, mFI, mFL, mAI, mAL, tI, tZ, tL, tU, tAI, tAB, tAZ, tAL, tV, mC, hCS, sSw, ↓Lm1, L0, L1, L2, L3, L4, L5, L6, L7, L8, L9, L10, L12, L15, L16, L17, L18, L20, L24, L26, L31, L32, L36, L48, L62, L64, L72, L96, L97, L122, L200, L255, L256, L399, L400, L600, L800, L9999, L1000000, i32_add, i32_mul, i32_sub, i32_lt, i32_le, i32_eq, i32_clamp, i32_in, mone_lt, mone_nlt, mone_le, mone_nle, mone_ne, mone_ne', M0, M1, i64_add, i64_mul, i64_lt, i64_le, i64_eq, i32_64, Nat.zero_le, ↓reduceIte, bI_0, bI_1, false_and, and_false, not_false_eq_true, not_true_eq_false, mLen_2, h2, Nat.add_lt_add_iff_left]
  by_cases hqN : q < fSz D.2.1
  · rw [if_pos hqN]
    obtain ⟨x, hx⟩ : ∃ x, NS[q]? = some x := ⟨NS[q], List.getElem?_eq_getElem (by omega)⟩
    have hnd := hD'.node (q := q) (by rw [hNS]; exact hx)
    have htk := tk1 hx
    have hl1 := tk_len (nRows β) NS (q + 1)
    rw [htk, List.flatMap_append, List.length_append] at hl1
    have hl2 : (rows ++ ((NS.take q).flatMap (nRows β)).filter nzRow).length ≤ rows.length + ((NS.take q).flatMap (nRows β)).length := by
      rw [List.length_append]
      have := List.length_filter_le nzRow ((NS.take q).flatMap (nRows β))
      omega
    have fin : ∀ (τ' : MS) g5 g7, isFl τ' (rows ++ ((NS.take q).flatMap (nRows β)).filter nzRow ++ (nRows β x).filter nzRow) → mFr [48, 49, 50, 51, 52, 53] σ τ' → ∃ n', n' < NS.length - q ∧ ∃ q2 h5 h7, n' = NS.length - q2 ∧ q2 ≤ NS.length ∧ ([some (.inr (.inr (some (m)))), some (.inl (Int32.ofNat (k))), some (.inl code), some (.inl (Int32.ofNat (sh))), some (.inl (Int32.ofNat (96 * k + q + 1))), g5, none, g7] : ga_Env) = [some (.inr (.inr (some (m)))), some (.inl (Int32.ofNat (k))), some (.inl code), some (.inl (Int32.ofNat (sh))), some (.inl (Int32.ofNat (96 * k + q2))), h5, none, h7] ∧ isFl τ' (rows ++ ((NS.take q2).flatMap (nRows β)).filter nzRow) ∧ mFr [48, 49, 50, 51, 52, 53] σ τ' := by
      intro τ' g5 g7 a1 a2
      refine ⟨NS.length - (q + 1), by omega, q + 1, g5, g7, rfl, by omega, rfl, ?_, a2⟩
      rw [htk, List.flatMap_append, List.filter_append, ← List.append_assoc]
      simpa using a1
    obtain ⟨xo, c⟩ := x
    obtain ⟨hx1, hx9, hx10, hxc, hxl⟩ := hnd
    dsimp only at hx9 hx10 hxc hxl
    simp only [bm_203_b1, sSeq, sI, sL, sR, sIf, sInc, sSkip, sCont, sRet, sRet0, sEx, xC, iV, lV, rV, x1, x2, x2p, xP, xIf, xB, cI, cL, cN, cR, cB, cAnd, cOr, cNot, cT, aN, aC, ga_get, ga_st1, ga_st2, ga_kill, ga_put, ga_dim, vI, vL, vR, vA, List.head?_cons, List.head?_nil, rkI, rkL, rkR, rkU, ga_cc, ga_lc, decide_eq_true_eq, List.length_cons, List.length_nil, Nat.reduceAdd, Nat.reduceLT, ga_rI, ga_rL, ga_rR, ga_rU, true_and, and_true, ↓reduceIte, mT, mFI, mFL, mAI, mAL, tI, tZ, tL, tU, tAI, tAB, tAZ, tAL, tV, mC, hCS, sSw]
    cases xo with
    | none =>
      obtain ⟨kk, hk4, hk8, h7⟩ := hx1
      refine ⟨_, _, sm_187 (by omega) (by omega) hk8 h7, ?_⟩
      have : ¬ kk ≤ 3 := by omega
      simp (disch := omega) only [sSeq, sI, sL, sR, sIf, sInc, sSkip, sCont, sRet, sRet0, sEx, xC, iV, lV, rV, x1, x2, x2p, xP, xIf, xB, cI, cL, cN, cR, cB, cAnd, cOr, cNot, cT, aN, aC, ga_get, ga_st1, ga_st2, ga_kill, ga_put, ga_dim, vI, vL, vR, vA, List.head?_cons, List.head?_nil, rkI, rkL, rkR, rkU, ga_cc, ga_lc, decide_eq_true_eq, List.length_cons, List.length_nil, Nat.reduceAdd, Nat.reduceLT, ga_rI, ga_rL, ga_rR, ga_rU, true_and, and_true, ↓reduceIte, mT, mFI, mFL, mAI, mAL, tI, tZ, tL, tU, tAI, tAB, tAZ, tAL, tV, mC, hCS, sSw, ↓Lm1, L0, L1, L2, L3, L4, L5, L6, L7, L8, L9, L10, L12, L15, L16, L17, L18, L20, L24, L26, L31, L32, L36, L48, L62, L64, L72, L96, L97, L122, L200, L255, L256, L399, L400, L600, L800, L9999, L1000000, i32_add, i32_mul, i32_sub, i32_lt, i32_le, i32_eq, i32_clamp, i32_in, mone_lt, mone_nlt, mone_le, mone_nle, mone_ne, mone_ne', M0, M1, i64_add, i64_mul, i64_lt, i64_le, i64_eq, i32_64, Nat.zero_le, ↓reduceIte, bI_0, bI_1, false_and, and_false, not_false_eq_true, not_true_eq_false, this, decide_false, i32_succ]
      exact fin τ g5 g7 (by simpa [nRows] using hfl) hF
    | some l =>
      obtain ⟨hlo, a7, a13, a14, a15, a16, a17, a18, a19⟩ := hx1
      obtain ⟨ok1, ok2, ok3, ok4, ok5, ok6, ok7, ok8, ok9⟩ := id hlo
      refine ⟨_, _, sm_187 (by omega) (by omega) (by omega) a7, ?_⟩
      have : lForm l ≤ 3 := by omega
      simp (disch := omega) only [sSeq, sI, sL, sR, sIf, sInc, sSkip, sCont, sRet, sRet0, sEx, xC, iV, lV, rV, x1, x2, x2p, xP, xIf, xB, cI, cL, cN, cR, cB, cAnd, cOr, cNot, cT, aN, aC, ga_get, ga_st1, ga_st2, ga_kill, ga_put, ga_dim, vI, vL, vR, vA, List.head?_cons, List.head?_nil, rkI, rkL, rkR, rkU, ga_cc, ga_lc, decide_eq_true_eq, List.length_cons, List.length_nil, Nat.reduceAdd, Nat.reduceLT, ga_rI, ga_rL, ga_rR, ga_rU, true_and, and_true, ↓reduceIte, mT, mFI, mFL, mAI, mAL, tI, tZ, tL, tU, tAI, tAB, tAZ, tAL, tV, mC, hCS, sSw, ↓Lm1, L0, L1, L2, L3, L4, L5, L6, L7, L8, L9, L10, L12, L15, L16, L17, L18, L20, L24, L26, L31, L32, L36, L48, L62, L64, L72, L96, L97, L122, L200, L255, L256, L399, L400, L600, L800, L9999, L1000000, i32_add, i32_mul, i32_sub, i32_lt, i32_le, i32_eq, i32_clamp, i32_in, mone_lt, mone_nlt, mone_le, mone_nle, mone_ne, mone_ne', M0, M1, i64_add, i64_mul, i64_lt, i64_le, i64_eq, i32_64, Nat.zero_le, ↓reduceIte, bI_0, bI_1, false_and, and_false, not_false_eq_true, not_true_eq_false, this, decide_true]
      refine ⟨_, _, sm_192 (by omega) (by omega) hsh hx9 hx10 hxc hxl hβ, ?_⟩
      have ht1 : tms β c ≤ 9 ^ 6 := Nat.le_trans (tms_le β c hxc) (Nat.pow_le_pow_right (by decide) hxl)
      have ht2 := lat_le c hxc
      have ht3 : tms β c < 2 ^ 63 := by omega
      by_cases h0 : tms β c = 0
      · simp (disch := omega) only [sSeq, sI, sL, sR, sIf, sInc, sSkip, sCont, sRet, sRet0, sEx, xC, iV, lV, rV, x1, x2, x2p, xP, xIf, xB, cI, cL, cN, cR, cB, cAnd, cOr, cNot, cT, aN, aC, ga_get, ga_st1, ga_st2, ga_kill, ga_put, ga_dim, vI, vL, vR, vA, List.head?_cons, List.head?_nil, rkI, rkL, rkR, rkU, ga_cc, ga_lc, decide_eq_true_eq, List.length_cons, List.length_nil, Nat.reduceAdd, Nat.reduceLT, ga_rI, ga_rL, ga_rR, ga_rU, true_and, and_true, ↓reduceIte, mT, mFI, mFL, mAI, mAL, tI, tZ, tL, tU, tAI, tAB, tAZ, tAL, tV, mC, hCS, sSw, ↓Lm1, L0, L1, L2, L3, L4, L5, L6, L7, L8, L9, L10, L12, L15, L16, L17, L18, L20, L24, L26, L31, L32, L36, L48, L62, L64, L72, L96, L97, L122, L200, L255, L256, L399, L400, L600, L800, L9999, L1000000, i32_add, i32_mul, i32_sub, i32_lt, i32_le, i32_eq, i32_clamp, i32_in, mone_lt, mone_nlt, mone_le, mone_nle, mone_ne, mone_ne', M0, M1, i64_add, i64_mul, i64_lt, i64_le, i64_eq, i32_64, Nat.zero_le, ↓reduceIte, bI_0, bI_1, false_and, and_false, not_false_eq_true, not_true_eq_false, h0, i32_succ]
        exact fin τ _ _ (by simpa [nRows, h0] using hfl) hF
      · have hro : ∀ r ∈ lRows l (lat c) (tms β c), rOk r := lRows_ok hlo (by omega) (by omega)
        have hnr : nRows β (some l, c) = lRows l (lat c) (tms β c) := by simp [nRows, h0]
        have hl3 : (nRows β (some l, c)).length = (lRows l (lat c) (tms β c)).length := by rw [hnr]
        simp only [List.flatMap_cons, List.flatMap_nil, List.append_nil, hl3] at hl1
        simp (disch := omega) only [sSeq, sI, sL, sR, sIf, sInc, sSkip, sCont, sRet, sRet0, sEx, xC, iV, lV, rV, x1, x2, x2p, xP, xIf, xB, cI, cL, cN, cR, cB, cAnd, cOr, cNot, cT, aN, aC, ga_get, ga_st1, ga_st2, ga_kill, ga_put, ga_dim, vI, vL, vR, vA, List.head?_cons, List.head?_nil, rkI, rkL, rkR, rkU, ga_cc, ga_lc, decide_eq_true_eq, List.length_cons, List.length_nil, Nat.reduceAdd, Nat.reduceLT, ga_rI, ga_rL, ga_rR, ga_rU, true_and, and_true, ↓reduceIte, mT, mFI, mFL, mAI, mAL, tI, tZ, tL, tU, tAI, tAB, tAZ, tAL, tV, mC, hCS, sSw, ↓Lm1, L0, L1, L2, L3, L4, L5, L6, L7, L8, L9, L10, L12, L15, L16, L17, L18, L20, L24, L26, L31, L32, L36, L48, L62, L64, L72, L96, L97, L122, L200, L255, L256, L399, L400, L600, L800, L9999, L1000000, i32_add, i32_mul, i32_sub, i32_lt, i32_le, i32_eq, i32_clamp, i32_in, mone_lt, mone_nlt, mone_le, mone_nle, mone_ne, mone_ne', M0, M1, i64_add, i64_mul, i64_lt, i64_le, i64_eq, i32_64, Nat.zero_le, ↓reduceIte, bI_0, bI_1, false_and, and_false, not_false_eq_true, not_true_eq_false, h0]
        refine ⟨_, _, sm_188 (by omega) (by omega) hx9 hxc, ?_⟩
        simp (disch := omega) only [sSeq, sI, sL, sR, sIf, sInc, sSkip, sCont, sRet, sRet0, sEx, xC, iV, lV, rV, x1, x2, x2p, xP, xIf, xB, cI, cL, cN, cR, cB, cAnd, cOr, cNot, cT, aN, aC, ga_get, ga_st1, ga_st2, ga_kill, ga_put, ga_dim, vI, vL, vR, vA, List.head?_cons, List.head?_nil, rkI, rkL, rkR, rkU, ga_cc, ga_lc, decide_eq_true_eq, List.length_cons, List.length_nil, Nat.reduceAdd, Nat.reduceLT, ga_rI, ga_rL, ga_rR, ga_rU, true_and, and_true, ↓reduceIte, mT, mFI, mFL, mAI, mAL, tI, tZ, tL, tU, tAI, tAB, tAZ, tAL, tV, mC, hCS, sSw, ↓Lm1, L0, L1, L2, L3, L4, L5, L6, L7, L8, L9, L10, L12, L15, L16, L17, L18, L20, L24, L26, L31, L32, L36, L48, L62, L64, L72, L96, L97, L122, L200, L255, L256, L399, L400, L600, L800, L9999, L1000000, i32_add, i32_mul, i32_sub, i32_lt, i32_le, i32_eq, i32_clamp, i32_in, mone_lt, mone_nlt, mone_le, mone_nle, mone_ne, mone_ne', M0, M1, i64_add, i64_mul, i64_lt, i64_le, i64_eq, i32_64, Nat.zero_le, ↓reduceIte, bI_0, bI_1, false_and, and_false, not_false_eq_true, not_true_eq_false, mLen_13, mLen_14, mLen_15, mLen_16, mLen_18, a13, a14, a15, a16, a18]
        have l1 : 1 ≤ (lRows l (lat c) (tms β c)).length := by unfold lRows; simp
        have m1 : lMuch l * tms β c = tms β c * lMuch l := Nat.mul_comm _ _
        have m2 : lCoin l * tms β c = tms β c * lCoin l := Nat.mul_comm _ _
        have b1 : tms β c * lMuch l ≤ 5313878559 := by
          rw [← m1]
          exact (hro (lAt l + lat c, lA l, lB l, lThing l, lMuch l * tms β c) (by unfold lRows; exact List.mem_cons_self)).2.2.2.2
        obtain ⟨τ1, p1, p2, p3⟩ := sm_202 (m := m) (d := e) (lAt l + lat c, lA l, lB l, lThing l, tms β c * lMuch l) (by omega) hfl (by omega) (by dsimp only; omega)
        have hF1 := hF.trans p3
        have hD1 : IsD τ1 k D := hD.fr hF1 (by intro j hj; simp; omega)
        obtain ⟨⟨-, c7, c13, c14, c15, c16, c17, c18, c19⟩, -⟩ := hD1.node (q := q) (by rw [hNS]; exact hx)
        refine ⟨(), τ1, p1, ?_⟩
        simp (disch := omega) only [sSeq, sI, sL, sR, sIf, sInc, sSkip, sCont, sRet, sRet0, sEx, xC, iV, lV, rV, x1, x2, x2p, xP, xIf, xB, cI, cL, cN, cR, cB, cAnd, cOr, cNot, cT, aN, aC, ga_get, ga_st1, ga_st2, ga_kill, ga_put, ga_dim, vI, vL, vR, vA, List.head?_cons, List.head?_nil, rkI, rkL, rkR, rkU, ga_cc, ga_lc, decide_eq_true_eq, List.length_cons, List.length_nil, Nat.reduceAdd, Nat.reduceLT, ga_rI, ga_rL, ga_rR, ga_rU, true_and, and_true, ↓reduceIte, mT, mFI, mFL, mAI, mAL, tI, tZ, tL, tU, tAI, tAB, tAZ, tAL, tV, mC, hCS, sSw, ↓Lm1, L0, L1, L2, L3, L4, L5, L6, L7, L8, L9, L10, L12, L15, L16, L17, L18, L20, L24, L26, L31, L32, L36, L48, L62, L64, L72, L96, L97, L122, L200, L255, L256, L399, L400, L600, L800, L9999, L1000000, i32_add, i32_mul, i32_sub, i32_lt, i32_le, i32_eq, i32_clamp, i32_in, mone_lt, mone_nlt, mone_le, mone_nle, mone_ne, mone_ne', M0, M1, i64_add, i64_mul, i64_lt, i64_le, i64_eq, i32_64, Nat.zero_le, ↓reduceIte, bI_0, bI_1, false_and, and_false, not_false_eq_true, not_true_eq_false, mLen_7, mLen_13, mLen_14, mLen_15, mLen_16, mLen_19, c7, c13, c14, c15, c16, c19]
        have hf : lForm l < 2 ∨ lForm l = 2 ∨ lForm l = 3 := by omega
        rcases hf with hf | hf | hf
        · have n3 : ¬ lForm l = 3 := by omega
          have n2 : ¬ 2 ≤ lForm l := by omega
          simp (disch := omega) only [sSeq, sI, sL, sR, sIf, sInc, sSkip, sCont, sRet, sRet0, sEx, xC, iV, lV, rV, x1, x2, x2p, xP, xIf, xB, cI, cL, cN, cR, cB, cAnd, cOr, cNot, cT, aN, aC, ga_get, ga_st1, ga_st2, ga_kill, ga_put, ga_dim, vI, vL, vR, vA, List.head?_cons, List.head?_nil, rkI, rkL, rkR, rkU, ga_cc, ga_lc, decide_eq_true_eq, List.length_cons, List.length_nil, Nat.reduceAdd, Nat.reduceLT, ga_rI, ga_rL, ga_rR, ga_rU, true_and, and_true, ↓reduceIte, mT, mFI, mFL, mAI, mAL, tI, tZ, tL, tU, tAI, tAB, tAZ, tAL, tV, mC, hCS, sSw, ↓Lm1, L0, L1, L2, L3, L4, L5, L6, L7, L8, L9, L10, L12, L15, L16, L17, L18, L20, L24, L26, L31, L32, L36, L48, L62, L64, L72, L96, L97, L122, L200, L255, L256, L399, L400, L600, L800, L9999, L1000000, i32_add, i32_mul, i32_sub, i32_lt, i32_le, i32_eq, i32_clamp, i32_in, mone_lt, mone_nlt, mone_le, mone_nle, mone_ne, mone_ne', M0, M1, i64_add, i64_mul, i64_lt, i64_le, i64_eq, i32_64, Nat.zero_le, ↓reduceIte, bI_0, bI_1, false_and, and_false, not_false_eq_true, not_true_eq_false, n3, n2, i32_succ]
          have hrw : lRows l (lat c) (tms β c) = [(lAt l + lat c, lA l, lB l, lThing l, tms β c * lMuch l)] := by
            unfold lRows
            rw [if_neg n3, if_neg (by omega), m1]
            rfl
          exact fin τ1 _ _ (by rw [hnr, hrw]; exact p2) hF1
        · have n3 : ¬ lForm l = 3 := by omega
          have n2 : 2 ≤ lForm l := by omega
          have hrw : lRows l (lat c) (tms β c) = [(lAt l + lat c, lA l, lB l, lThing l, tms β c * lMuch l)] ++ [(lTill l + lat c, lB l, lA l, 0, tms β c * lCoin l)] := by
            unfold lRows
            rw [if_neg n3, if_pos (Or.inl hf), m1, m2]
            rfl
          have b2 : tms β c * lCoin l ≤ 5313878559 := (hro (lTill l + lat c, lB l, lA l, 0, tms β c * lCoin l) (by rw [hrw]; simp)).2.2.2.2
          rw [hrw] at hl1
          simp only [List.length_append, List.length_cons, List.length_nil] at hl1 hl2
          obtain ⟨τ2, s1, s2, s3⟩ := sm_202 (m := m) (d := e) (lTill l + lat c, lB l, lA l, 0, tms β c * lCoin l) (by omega) p2 (by
            have := List.length_filter_le nzRow [((lAt l + lat c, lA l, lB l, lThing l, tms β c * lMuch l) : Row)]
            simp only [List.length_append, List.length_cons, List.length_nil] at this ⊢
            omega) (by dsimp only; omega)
          simp (disch := omega) only [sSeq, sI, sL, sR, sIf, sInc, sSkip, sCont, sRet, sRet0, sEx, xC, iV, lV, rV, x1, x2, x2p, xP, xIf, xB, cI, cL, cN, cR, cB, cAnd, cOr, cNot, cT, aN, aC, ga_get, ga_st1, ga_st2, ga_kill, ga_put, ga_dim, vI, vL, vR, vA, List.head?_cons, List.head?_nil, rkI, rkL, rkR, rkU, ga_cc, ga_lc, decide_eq_true_eq, List.length_cons, List.length_nil, Nat.reduceAdd, Nat.reduceLT, ga_rI, ga_rL, ga_rR, ga_rU, true_and, and_true, ↓reduceIte, mT, mFI, mFL, mAI, mAL, tI, tZ, tL, tU, tAI, tAB, tAZ, tAL, tV, mC, hCS, sSw, ↓Lm1, L0, L1, L2, L3, L4, L5, L6, L7, L8, L9, L10, L12, L15, L16, L17, L18, L20, L24, L26, L31, L32, L36, L48, L62, L64, L72, L96, L97, L122, L200, L255, L256, L399, L400, L600, L800, L9999, L1000000, i32_add, i32_mul, i32_sub, i32_lt, i32_le, i32_eq, i32_clamp, i32_in, mone_lt, mone_nlt, mone_le, mone_nle, mone_ne, mone_ne', M0, M1, i64_add, i64_mul, i64_lt, i64_le, i64_eq, i32_64, Nat.zero_le, ↓reduceIte, bI_0, bI_1, false_and, and_false, not_false_eq_true, not_true_eq_false, n3, n2, mLen_13, mLen_14, mLen_17, mLen_19, c13, c14, c17, c19]
          refine ⟨(), τ2, s1, ?_⟩
          try simp (disch := omega) only [sSeq, sI, sL, sR, sIf, sInc, sSkip, sCont, sRet, sRet0, sEx, xC, iV, lV, rV, x1, x2, x2p, xP, xIf, xB, cI, cL, cN, cR, cB, cAnd, cOr, cNot, cT, aN, aC, ga_get, ga_st1, ga_st2, ga_kill, ga_put, ga_dim, vI, vL, vR, vA, List.head?_cons, List.head?_nil, rkI, rkL, rkR, rkU, ga_cc, ga_lc, decide_eq_true_eq, List.length_cons, List.length_nil, Nat.reduceAdd, Nat.reduceLT, ga_rI, ga_rL, ga_rR, ga_rU, true_and, and_true, ↓reduceIte, mT, mFI, mFL, mAI, mAL, tI, tZ, tL, tU, tAI, tAB, tAZ, tAL, tV, mC, hCS, sSw, ↓Lm1, L0, L1, L2, L3, L4, L5, L6, L7, L8, L9, L10, L12, L15, L16, L17, L18, L20, L24, L26, L31, L32, L36, L48, L62, L64, L72, L96, L97, L122, L200, L255, L256, L399, L400, L600, L800, L9999, L1000000, i32_add, i32_mul, i32_sub, i32_lt, i32_le, i32_eq, i32_clamp, i32_in, mone_lt, mone_nlt, mone_le, mone_nle, mone_ne, mone_ne', M0, M1, i64_add, i64_mul, i64_lt, i64_le, i64_eq, i32_64, Nat.zero_le, ↓reduceIte, bI_0, bI_1, false_and, and_false, not_false_eq_true, not_true_eq_false, i32_succ]
          exact fin τ2 _ _ (by rw [hnr, hrw, List.filter_append, ← List.append_assoc]; exact s2) (hF1.trans s3)
        · have n2 : 2 ≤ lForm l := by omega
          have hrw : lRows l (lat c) (tms β c) = [(lAt l + lat c, lA l, lB l, lThing l, tms β c * lMuch l)] ++ ([(lTill l + lat c, lB l, lA l, lThing l, tms β c * lMuch l)] ++ [(lTill l + lat c, lB l, lA l, 0, tms β c * lCoin l)]) := by
            unfold lRows
            rw [if_pos hf, if_pos (Or.inr hf), m1, m2]
            rfl
          have b2 : tms β c * lCoin l ≤ 5313878559 := (hro (lTill l + lat c, lB l, lA l, 0, tms β c * lCoin l) (by rw [hrw]; simp)).2.2.2.2
          rw [hrw] at hl1
          have z1 := List.length_filter_le nzRow [((lAt l + lat c, lA l, lB l, lThing l, tms β c * lMuch l) : Row)]
          have z2 := List.length_filter_le nzRow [((lTill l + lat c, lB l, lA l, lThing l, tms β c * lMuch l) : Row)]
          simp only [List.length_append, List.length_cons, List.length_nil] at hl1 hl2 z1 z2
          obtain ⟨τ2, s1, s2, s3⟩ := sm_202 (m := m) (d := e) (lTill l + lat c, lB l, lA l, lThing l, tms β c * lMuch l) (by omega) p2 (by
            simp only [List.length_append]
            omega) (by dsimp only; omega)
          have hF2 := hF1.trans s3
          have hD2 : IsD τ2 k D := hD.fr hF2 (by intro j hj; simp; omega)
          obtain ⟨⟨-, d7, d13, d14, d15, d16, d17, d18, d19⟩, -⟩ := hD2.node (q := q) (by rw [hNS]; exact hx)
          obtain ⟨τ3, t1, t2, t3⟩ := sm_202 (m := m) (d := e) (lTill l + lat c, lB l, lA l, 0, tms β c * lCoin l) (by omega) s2 (by
            simp only [List.length_append]
            omega) (by dsimp only; omega)
          simp (disch := omega) only [hf, sSeq, sI, sL, sR, sIf, sInc, sSkip, sCont, sRet, sRet0, sEx, xC, iV, lV, rV, x1, x2, x2p, xP, xIf, xB, cI, cL, cN, cR, cB, cAnd, cOr, cNot, cT, aN, aC, ga_get, ga_st1, ga_st2, ga_kill, ga_put, ga_dim, vI, vL, vR, vA, List.head?_cons, List.head?_nil, rkI, rkL, rkR, rkU, ga_cc, ga_lc, decide_eq_true_eq, List.length_cons, List.length_nil, Nat.reduceAdd, Nat.reduceLT, ga_rI, ga_rL, ga_rR, ga_rU, true_and, and_true, ↓reduceIte, mT, mFI, mFL, mAI, mAL, tI, tZ, tL, tU, tAI, tAB, tAZ, tAL, tV, mC, hCS, sSw, ↓Lm1, L0, L1, L2, L3, L4, L5, L6, L7, L8, L9, L10, L12, L15, L16, L17, L18, L20, L24, L26, L31, L32, L36, L48, L62, L64, L72, L96, L97, L122, L200, L255, L256, L399, L400, L600, L800, L9999, L1000000, i32_add, i32_mul, i32_sub, i32_lt, i32_le, i32_eq, i32_clamp, i32_in, mone_lt, mone_nlt, mone_le, mone_nle, mone_ne, mone_ne', M0, M1, i64_add, i64_mul, i64_lt, i64_le, i64_eq, i32_64, Nat.zero_le, ↓reduceIte, bI_0, bI_1, false_and, and_false, not_false_eq_true, not_true_eq_false]
          refine ⟨(), τ2, s1, ?_⟩
          simp (disch := omega) only [sSeq, sI, sL, sR, sIf, sInc, sSkip, sCont, sRet, sRet0, sEx, xC, iV, lV, rV, x1, x2, x2p, xP, xIf, xB, cI, cL, cN, cR, cB, cAnd, cOr, cNot, cT, aN, aC, ga_get, ga_st1, ga_st2, ga_kill, ga_put, ga_dim, vI, vL, vR, vA, List.head?_cons, List.head?_nil, rkI, rkL, rkR, rkU, ga_cc, ga_lc, decide_eq_true_eq, List.length_cons, List.length_nil, Nat.reduceAdd, Nat.reduceLT, ga_rI, ga_rL, ga_rR, ga_rU, true_and, and_true, ↓reduceIte, mT, mFI, mFL, mAI, mAL, tI, tZ, tL, tU, tAI, tAB, tAZ, tAL, tV, mC, hCS, sSw, ↓Lm1, L0, L1, L2, L3, L4, L5, L6, L7, L8, L9, L10, L12, L15, L16, L17, L18, L20, L24, L26, L31, L32, L36, L48, L62, L64, L72, L96, L97, L122, L200, L255, L256, L399, L400, L600, L800, L9999, L1000000, i32_add, i32_mul, i32_sub, i32_lt, i32_le, i32_eq, i32_clamp, i32_in, mone_lt, mone_nlt, mone_le, mone_nle, mone_ne, mone_ne', M0, M1, i64_add, i64_mul, i64_lt, i64_le, i64_eq, i32_64, Nat.zero_le, ↓reduceIte, bI_0, bI_1, false_and, and_false, not_false_eq_true, not_true_eq_false, n2, mLen_7, mLen_13, mLen_14, mLen_17, mLen_19, d7, d13, d14, d17, d19, hf, Nat.reduceLeDiff]
          refine ⟨(), τ3, t1, ?_⟩
          try simp (disch := omega) only [sSeq, sI, sL, sR, sIf, sInc, sSkip, sCont, sRet, sRet0, sEx, xC, iV, lV, rV, x1, x2, x2p, xP, xIf, xB, cI, cL, cN, cR, cB, cAnd, cOr, cNot, cT, aN, aC, ga_get, ga_st1, ga_st2, ga_kill, ga_put, ga_dim, vI, vL, vR, vA, List.head?_cons, List.head?_nil, rkI, rkL, rkR, rkU, ga_cc, ga_lc, decide_eq_true_eq, List.length_cons, List.length_nil, Nat.reduceAdd, Nat.reduceLT, ga_rI, ga_rL, ga_rR, ga_rU, true_and, and_true, ↓reduceIte, mT, mFI, mFL, mAI, mAL, tI, tZ, tL, tU, tAI, tAB, tAZ, tAL, tV, mC, hCS, sSw, ↓Lm1, L0, L1, L2, L3, L4, L5, L6, L7, L8, L9, L10, L12, L15, L16, L17, L18, L20, L24, L26, L31, L32, L36, L48, L62, L64, L72, L96, L97, L122, L200, L255, L256, L399, L400, L600, L800, L9999, L1000000, i32_add, i32_mul, i32_sub, i32_lt, i32_le, i32_eq, i32_clamp, i32_in, mone_lt, mone_nlt, mone_le, mone_nle, mone_ne, mone_ne', M0, M1, i64_add, i64_mul, i64_lt, i64_le, i64_eq, i32_64, Nat.zero_le, ↓reduceIte, bI_0, bI_1, false_and, and_false, not_false_eq_true, not_true_eq_false, i32_succ]
          exact fin τ3 _ _ (by rw [hnr, hrw, List.filter_append, List.filter_append, ← List.append_assoc, ← List.append_assoc]; exact t2) (hF2.trans t3)
  · rw [if_neg hqN]
    have : q = NS.length := by omega
    subst this
    rw [List.take_length, hR] at hfl
    exact ⟨hfl, hF⟩
