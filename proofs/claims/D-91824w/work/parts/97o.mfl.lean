/-! LAYER 4p7: the reference: all flows at hand; nets -/
def mβ (c sh : Nat) (i : Nat) : Bool := if i < 5 then c.testBit i else c.testBit (sh + (i - 5))
theorem mβ_lo {c sh i : Nat} (h : i < 5) : mβ c sh i = c.testBit i := if_pos h
theorem mβ_hi (c sh k : Nat) : mβ c sh (5 + k) = c.testBit (sh + k) := by
  unfold mβ
  rw [if_neg (by omega), Nat.add_sub_cancel_left]
theorem mβ_ok {c sh : Nat} (hc : c < 2 ^ 31) (hs : sh ≤ 28) : mBits (Int32.ofNat c) sh (mβ c sh) := by
  refine ⟨fun k hk => ?_, fun k hk => ?_⟩
  · rw [bit_test hc (by omega), mβ_lo hk]
  · rw [bit_test hc (by omega), mβ_hi]
/-- every choice's number is below -/
def fChs (ch : Nat) : Fo → Prop
  | .leaf _ => True
  | .branch _ (.leaf _) r => fChs ch r
  | .branch k (.branch n a b) r => (k = 7 → n < ch) ∧ fChs ch a ∧ fChs ch b ∧ fChs ch r
theorem fRows_congr {ch : Nat} {β γ : Nat → Bool} (h5 : ∀ i, i < 5 → β i = γ i) (hc : ∀ i, i < ch → β (5 + i) = γ (5 + i)) : ∀ (t : Fo) (d : Nat), fOk d t → fChs ch t → ∀ s n, fRows t s n β = fRows t s n γ := by
  intro t
  induction t using fo_ind with
  | h0 x => intro d _ _ s n; rfl
  | h1 k l r ih => intro d h q s n; simp only [fRows, ih d h.2 q]
  | h2 k n a b r iha ihb ihr =>
    intro d h q s t
    obtain ⟨hd, hk, ha, hb, hr⟩ := h
    obtain ⟨q1, q2, q3, q4⟩ := q
    simp only [fRows, iha _ ha q2, ihb _ hb q3, ihr d hr q4]
    rcases hk with ⟨rfl, -⟩ | ⟨rfl, -⟩ | ⟨rfl, hn⟩ | ⟨rfl, hn⟩
    · rfl
    · rfl
    · simp [h5 n hn]
    · simp [hc n (q1 rfl)]
theorem subC_lo {c sh ch i : Nat} (h : i < 5) : (subC c sh ch).testBit i = c.testBit i := by
  unfold subC
  have e : (31 : Nat) = 2 ^ 5 - 1 := rfl
  rw [Nat.testBit_or, Nat.testBit_and, e, Nat.testBit_two_pow_sub_one, Nat.testBit_shiftLeft]
  simp [h]
  omega
theorem subC_hi {c sh ch i : Nat} (h : i < ch) : (subC c sh ch).testBit (5 + i) = c.testBit (sh + i) := by
  unfold subC
  have e : (31 : Nat) = 2 ^ 5 - 1 := rfl
  rw [Nat.testBit_or, Nat.testBit_and, e, Nat.testBit_two_pow_sub_one, Nat.testBit_shiftLeft, Nat.testBit_and, Nat.testBit_shiftRight, Nat.one_shiftLeft, Nat.testBit_two_pow_sub_one]
  simp [h]
  intro _ q
  omega
theorem sub_rows {D : DD} {c sh : Nat} (h : dOk D) (hc : fChs D.2.2.1 D.2.1) (s n : Nat) : fRows D.2.1 s n (mβ c sh) = fRows D.2.1 s n (fun i => (subC c sh D.2.2.1).testBit i) :=
  fRows_congr (fun i hi => by rw [mβ_lo hi, subC_lo hi]) (fun i hi => by rw [mβ_hi, subC_hi hi]) D.2.1 6 h.1 hc s n
theorem dks_le {dl : Nat → DD} : ∀ {ks : List Nat}, (∀ k ∈ ks, dOk (dl k)) → chS dl ks ≤ 3 * ks.length ∧ evS dl ks < 32 ∧ (rowS dl ks).length ≤ 12 * ks.length := by
  intro ks
  induction ks with
  | nil => intro _; exact ⟨Nat.le_refl _, (show 0 < 32 by decide), Nat.le_refl _⟩
  | cons k ks ih =>
    intro hk
    obtain ⟨i1, i2, i3⟩ := ih fun k hk' => hk k (List.mem_cons_of_mem _ hk')
    obtain ⟨-, -, o3, -, o5, o6⟩ := hk k List.mem_cons_self
    have e : rowS dl (k :: ks) = fLeaves (dl k).2.1 0 ++ rowS dl ks := rfl
    refine ⟨?_, ?_, ?_⟩
    · simp only [chS, List.length_cons]; omega
    · exact Nat.or_lt_two_pow (n := 5) o6 i2
    · rw [e, List.length_append, List.length_cons]; omega
theorem bRowsC_rOk {dl : Nat → DD} (code : Nat) : ∀ (ks : List Nat) (sh : Nat), (∀ k ∈ ks, dOk (dl k)) → ∀ r ∈ bRowsC dl code ks sh, rOk r := by
  intro ks
  induction ks with
  | nil => intro sh _ r hr; cases hr
  | cons k ks ih =>
    intro sh hk r hr
    rcases List.mem_append.mp hr with q | q
    · exact fRows_ok _ 6 (hk k List.mem_cons_self).1 0 1 _ (by decide) (by decide) r q
    · exact ih _ (fun k hk' => hk k (List.mem_cons_of_mem _ hk')) r q
theorem isHd.fr {F : List Nat} {σ τ : MS} {dl : Nat → DD} {ks : List Nat} (h : isHd σ dl ks) (f : mFr F σ τ) (hF : ∀ j, j < 20 ∨ j = 55 ∨ j = 57 → j ∉ F) : isHd τ dl ks := by
  obtain ⟨h1, h2, h3⟩ := h
  refine ⟨h1, ((f 55 (hF _ (by omega))).1).trans h2, fun i k hk => ⟨?_, (h3 i k hk).2.fr f (fun j hj => hF j (Or.inl hj))⟩⟩
  rw [(f 57 (hF _ (by omega))).2.2.1]
  exact (h3 i k hk).1
theorem isHd.ok {σ : MS} {dl : Nat → DD} {ks : List Nat} (h : isHd σ dl ks) : ∀ k ∈ ks, dOk (dl k) := fun k hk => by
  obtain ⟨i, hi⟩ := List.getElem?_of_mem hk
  exact (h.2.2 i k hi).2.2.2.2.2.2.2.2
theorem isHd.ch {σ : MS} {dl : Nat → DD} {ks : List Nat} (h : isHd σ dl ks) : chS dl ks ≤ 18 ∧ evS dl ks < 32 ∧ (rowS dl ks).length ≤ 72 := by
  obtain ⟨c1, c2, c3⟩ := dks_le h.ok
  have := h.1
  exact ⟨by omega, c2, by omega⟩
/-- every deal's choices are below its many -/
def chOk (dl : Nat → DD) (ks : List Nat) : Prop := ∀ k ∈ ks, fChs (dl k).2.2.1 (dl k).2.1
/-- the families as the reference has them -/
def isFm (σ : MS) (fam : Nat → Nat) : Prop := ∀ i, i < 8 → σ.2.2.1 0 i = Int32.ofNat (fam i) ∧ fam i < 8
theorem isFm.fr {F : List Nat} {σ τ : MS} {fam : Nat → Nat} (h : isFm σ fam) (f : mFr F σ τ) (hF : 0 ∉ F) : isFm τ fam := fun i hi => by
  rw [(f 0 hF).2.2.1]
  exact h i hi
theorem isFl.fr {F : List Nat} {σ τ : MS} {rs : List Row} (h : isFl σ rs) (f : mFr F σ τ) (hF : ∀ j, 48 ≤ j → j < 54 → j ∉ F) : isFl τ rs := by
  obtain ⟨h1, h2, h3⟩ := h
  refine ⟨((f 48 (hF _ (by omega) (by omega))).1).trans h1, h2, ?_⟩
  rw [(f 49 (hF _ (by omega) (by omega))).2.2.1, (f 50 (hF _ (by omega) (by omega))).2.2.1, (f 51 (hF _ (by omega) (by omega))).2.2.1, (f 52 (hF _ (by omega) (by omega))).2.2.1, (f 53 (hF _ (by omega) (by omega))).2.2.2]
  exact h3
/-- the rows that the reference has of a code -/
abbrev fRw (dl : Nat → DD) (ks : List Nat) (c : Nat) : List Row := (bRowsC dl c ks 5).filter nzRow
theorem fRw_ok {dl : Nat → DD} {ks : List Nat} {c : Nat} (h : ∀ k ∈ ks, dOk (dl k)) : ∀ r ∈ fRw dl ks c, rOk r := fun r hr => bRowsC_rOk c ks 5 h r (List.mem_filter.mp hr).1
section L
variable {m d : Nat} {σ : MS} {dl : Nat → DD} {ks : List Nat}
theorem sm_215 {c : Nat} (hd : 3 ≤ d) (hH : isHd σ dl ks) (hC : chOk dl ks) (hc : c < 2 ^ 31) : ∃ τ, RM m d 215 [.inr (.inr (some (m))), .inl (Int32.ofNat (c))] σ none τ ∧ (isFl τ (fRw dl ks c) ∧ isHd τ dl ks ∧ mFr [48, 49, 50, 51, 52, 53] σ τ) := by
  obtain ⟨e, rfl⟩ : ∃ q : Nat, d = q + 1 := ⟨d - 1, by omega⟩
  refine go_215 _ ?_
  simp (maxSteps := 1000000) (disch := omega) only [↓xC_ap, ↓iV_ap, ↓lV_ap, ↓rV_ap, ↓x1_ap, ↓x2_ap, ↓x2p_ap, ↓xIf_ap, ↓cI_ap, ↓cL_ap, ↓cR_ap, ↓cN_ap, ↓cB_ap, ↓cAnd_ap, ↓cOr_ap, ↓cNot_ap, ↓cT_ap, ↓aN_ap, ↓aC_ap, ↓sSkip_ap, ↓sSeq_ap, ↓sI_ap, ↓sL_ap, ↓sR_ap, ↓sInc_ap, ↓sIf_ap, ↓sRet0_ap, ↓sRet_ap, ↓sCont_ap, ↓sEx_ap, ↓sSw_ap, ↓xP_ap, ↓hFI_ap, ↓hFL_ap, ↓hFR_ap, ↓hAI_ap, ↓hAL_ap, ↓hAR_ap, ↓hLen_ap, ↓hCast_ap, ↓hInst_ap, ↓sPI_ap, ↓sPZ_ap, ↓sPL_ap, ↓sPR_ap, ↓sUI_ap, ↓sAI_ap, ↓sAB_ap, ↓sAZ_ap, ↓sAL_ap, ↓sAR_ap, ↓sVI_ap, ↓sVL_ap, ↓hCV_ap, ↓hCS_ap, ↓hNew_ap, ↓hNA_ap, ↓hSp_ap, ↓sObj_ap, ↓sCopy_ap, ↓mFI_ap, ↓mFL_ap, ↓mAI_ap, ↓mAL_ap, ↓tI_ap, ↓tZ_ap, ↓tL_ap, ↓tU_ap, ↓tAI_ap, ↓tAB_ap, ↓tAZ_ap, ↓tAL_ap, ↓tV_ap, ↓mC_ap, ↓hLI_ap, ↓hLL_ap, ↓xB_ap, ↓cIte_ap, ga_get, ga_st1, ga_st2, ga_kill, ga_put, ga_dim, vI, vL, vR, vA, List.head?_cons, List.head?_nil, rkI, rkL, rkR, rkU, ga_cc, ga_lc, decide_eq_true_eq, List.length_cons, List.length_nil, Nat.reduceAdd, Nat.reduceLT, ga_rI, ga_rL, ga_rR, ga_rU, true_and, and_true, ↓reduceIte, mT, ↓Lm1, L0, L1, L2, L3, L4, L5, L6, L7, L8, L9, L10, L12, L15, L16, L17, L18, L20, L24, L26, L31, L32, L36, L48, L62, L64, L72, L96, L97, L122, L200, L255, L256, L399, L400, L600, L800, L9999, L1000000, i32_add, i32_mul, i32_sub, i32_lt, i32_le, i32_eq, i32_clamp, i32_in, mone_lt, mone_nlt, mone_le, mone_nle, mone_ne, mone_ne', M0, M1, i64_add, i64_mul, i64_lt, i64_le, i64_eq, i32_64, Nat.zero_le, ↓reduceIte, bI_0, bI_1, false_and, and_false, not_false_eq_true, not_true_eq_false, mset_i, mset_l, mset_a, mset_b, msetL_i, msetL_l, msetL_a, msetL_b, mas_i, mas_l, mas_a, mas_b, masL_i, masL_l, masL_a, masL_b, up_at, Nat.reduceEqDiff, ↓reduceIte, bm_215]
  refine lr_bm_215_l2 (fun n env τ => ∃ q, n = ks.length - q ∧ q ≤ ks.length ∧ env = [some (.inr (.inr (some (m)))), some (.inl (Int32.ofNat (c))), some (.inl (Int32.ofNat (5 + chS dl (ks.take q)))), some (.inl (Int32.ofNat (q)))] ∧ isFl τ ((bRowsC dl c (ks.take q) 5).filter nzRow) ∧ mFr [48, 49, 50, 51, 52, 53] σ τ) ?_ ks.length _ _ ⟨0, rfl, Nat.zero_le _, rfl, ?_, by simp only [mFr_mset, mFr_msetL, mFr_mas, mFr_masL, mFr_rfl, List.mem_cons, List.not_mem_nil, or_false, Nat.reduceEqDiff, or_true, true_or]⟩
  · rintro n env τ ⟨q, rfl, hq, rfl, i1, i2⟩
    have hHi := hH.fr i2 (by intro j hj; simp; omega)
    obtain ⟨h6, k1, k2⟩ := hHi
    simp (maxSteps := 1000000) (disch := omega) only [↓xC_ap, ↓iV_ap, ↓lV_ap, ↓rV_ap, ↓x1_ap, ↓x2_ap, ↓x2p_ap, ↓xIf_ap, ↓cI_ap, ↓cL_ap, ↓cR_ap, ↓cN_ap, ↓cB_ap, ↓cAnd_ap, ↓cOr_ap, ↓cNot_ap, ↓cT_ap, ↓aN_ap, ↓aC_ap, ↓sSkip_ap, ↓sSeq_ap, ↓sI_ap, ↓sL_ap, ↓sR_ap, ↓sInc_ap, ↓sIf_ap, ↓sRet0_ap, ↓sRet_ap, ↓sCont_ap, ↓sEx_ap, ↓sSw_ap, ↓xP_ap, ↓hFI_ap, ↓hFL_ap, ↓hFR_ap, ↓hAI_ap, ↓hAL_ap, ↓hAR_ap, ↓hLen_ap, ↓hCast_ap, ↓hInst_ap, ↓sPI_ap, ↓sPZ_ap, ↓sPL_ap, ↓sPR_ap, ↓sUI_ap, ↓sAI_ap, ↓sAB_ap, ↓sAZ_ap, ↓sAL_ap, ↓sAR_ap, ↓sVI_ap, ↓sVL_ap, ↓hCV_ap, ↓hCS_ap, ↓hNew_ap, ↓hNA_ap, ↓hSp_ap, ↓sObj_ap, ↓sCopy_ap, ↓mFI_ap, ↓mFL_ap, ↓mAI_ap, ↓mAL_ap, ↓tI_ap, ↓tZ_ap, ↓tL_ap, ↓tU_ap, ↓tAI_ap, ↓tAB_ap, ↓tAZ_ap, ↓tAL_ap, ↓tV_ap, ↓mC_ap, ↓hLI_ap, ↓hLL_ap, ↓xB_ap, ↓cIte_ap, ga_get, ga_st1, ga_st2, ga_kill, ga_put, ga_dim, vI, vL, vR, vA, List.head?_cons, List.head?_nil, rkI, rkL, rkR, rkU, ga_cc, ga_lc, decide_eq_true_eq, List.length_cons, List.length_nil, Nat.reduceAdd, Nat.reduceLT, ga_rI, ga_rL, ga_rR, ga_rU, true_and, and_true, ↓reduceIte, mT, ↓Lm1, L0, L1, L2, L3, L4, L5, L6, L7, L8, L9, L10, L12, L15, L16, L17, L18, L20, L24, L26, L31, L32, L36, L48, L62, L64, L72, L96, L97, L122, L200, L255, L256, L399, L400, L600, L800, L9999, L1000000, i32_add, i32_mul, i32_sub, i32_lt, i32_le, i32_eq, i32_clamp, i32_in, mone_lt, mone_nlt, mone_le, mone_nle, mone_ne, mone_ne', M0, M1, i64_add, i64_mul, i64_lt, i64_le, i64_eq, i32_64, Nat.zero_le, ↓reduceIte, bI_0, bI_1, false_and, and_false, not_false_eq_true, not_true_eq_false, mset_i, mset_l, mset_a, mset_b, msetL_i, msetL_l, msetL_a, msetL_b, mas_i, mas_l, mas_a, mas_b, masL_i, masL_l, masL_a, masL_b, up_at, Nat.reduceEqDiff, ↓reduceIte, k1]
    by_cases hql : q < ks.length
    · rw [if_pos hql]
      obtain ⟨k, hx⟩ : ∃ k, ks[q]? = some k := ⟨_, List.getElem?_eq_getElem hql⟩
      obtain ⟨k3, k4⟩ := k2 q k hx
      have hkm : k ∈ ks := List.mem_of_getElem? hx
      have hok : dOk (dl k) := k4.2.2.2.2.2.2.2
      have htl : (ks.take q).length = q := by rw [List.length_take]; omega
      obtain ⟨c1, c2, c3⟩ := dks_le (ks := ks.take q) fun k hk => hH.ok k (List.mem_of_mem_take hk)
      rw [htl] at c1 c3
      have hrl := bRowsC_len dl c (ks.take q) 5
      have hfl := List.length_filter_le nzRow (bRowsC dl c (ks.take q) 5)
      have hok3 := hok.2.2.1
      obtain ⟨τ1, p1, p2, p3⟩ := sm_203 (m := m) (d := e) (code := Int32.ofNat c) (sh := 5 + chS dl (ks.take q)) (by omega) k4 i1 (by omega) (by omega) (mβ_ok hc (by omega))
      have hH1 := hH.fr (i2.trans p3) (by intro j hj; simp; omega)
      obtain ⟨-, m1, m2⟩ := hH1
      obtain ⟨m3, m4⟩ := m2 q k hx
      obtain ⟨r1, r2, r3, r4, r5, -⟩ := m4
      unfold bm_215_b1
      simp (maxSteps := 1000000) (disch := omega) only [↓xC_ap, ↓iV_ap, ↓lV_ap, ↓rV_ap, ↓x1_ap, ↓x2_ap, ↓x2p_ap, ↓xIf_ap, ↓cI_ap, ↓cL_ap, ↓cR_ap, ↓cN_ap, ↓cB_ap, ↓cAnd_ap, ↓cOr_ap, ↓cNot_ap, ↓cT_ap, ↓aN_ap, ↓aC_ap, ↓sSkip_ap, ↓sSeq_ap, ↓sI_ap, ↓sL_ap, ↓sR_ap, ↓sInc_ap, ↓sIf_ap, ↓sRet0_ap, ↓sRet_ap, ↓sCont_ap, ↓sEx_ap, ↓sSw_ap, ↓xP_ap, ↓hFI_ap, ↓hFL_ap, ↓hFR_ap, ↓hAI_ap, ↓hAL_ap, ↓hAR_ap, ↓hLen_ap, ↓hCast_ap, ↓hInst_ap, ↓sPI_ap, ↓sPZ_ap, ↓sPL_ap, ↓sPR_ap, ↓sUI_ap, ↓sAI_ap, ↓sAB_ap, ↓sAZ_ap, ↓sAL_ap, ↓sAR_ap, ↓sVI_ap, ↓sVL_ap, ↓hCV_ap, ↓hCS_ap, ↓hNew_ap, ↓hNA_ap, ↓hSp_ap, ↓sObj_ap, ↓sCopy_ap, ↓mFI_ap, ↓mFL_ap, ↓mAI_ap, ↓mAL_ap, ↓tI_ap, ↓tZ_ap, ↓tL_ap, ↓tU_ap, ↓tAI_ap, ↓tAB_ap, ↓tAZ_ap, ↓tAL_ap, ↓tV_ap, ↓mC_ap, ↓hLI_ap, ↓hLL_ap, ↓xB_ap, ↓cIte_ap, ga_get, ga_st1, ga_st2, ga_kill, ga_put, ga_dim, vI, vL, vR, vA, List.head?_cons, List.head?_nil, rkI, rkL, rkR, rkU, ga_cc, ga_lc, decide_eq_true_eq, List.length_cons, List.length_nil, Nat.reduceAdd, Nat.reduceLT, ga_rI, ga_rL, ga_rR, ga_rU, true_and, and_true, ↓reduceIte, mT, ↓Lm1, L0, L1, L2, L3, L4, L5, L6, L7, L8, L9, L10, L12, L15, L16, L17, L18, L20, L24, L26, L31, L32, L36, L48, L62, L64, L72, L96, L97, L122, L200, L255, L256, L399, L400, L600, L800, L9999, L1000000, i32_add, i32_mul, i32_sub, i32_lt, i32_le, i32_eq, i32_clamp, i32_in, mone_lt, mone_nlt, mone_le, mone_nle, mone_ne, mone_ne', M0, M1, i64_add, i64_mul, i64_lt, i64_le, i64_eq, i32_64, Nat.zero_le, ↓reduceIte, bI_0, bI_1, false_and, and_false, not_false_eq_true, not_true_eq_false, mset_i, mset_l, mset_a, mset_b, msetL_i, msetL_l, msetL_a, msetL_b, mas_i, mas_l, mas_a, mas_b, masL_i, masL_l, masL_a, masL_b, up_at, Nat.reduceEqDiff, ↓reduceIte, mLen_0, mLen_2, mLen_3, mLen_4, mLen_5, mLen_6, mLen_7, mLen_8, mLen_9, mLen_10, mLen_11, mLen_12, mLen_13, mLen_14, mLen_15, mLen_16, mLen_17, mLen_18, mLen_19, mLen_20, mLen_30, mLen_31, mLen_38, mLen_39, mLen_40, mLen_44, mLen_46, mLen_49, mLen_50, mLen_51, mLen_52, mLen_53, mLen_56, mLen_57, mLen_62, mLen_63, mLen_64, mLen_65, mLen_66, mLen_69, mLen_70, mLen_71, mLen_72, mLen_73, mLen_74, mLen_75, mLen_76, mLen_77, mLen_81, mLen_82, mLen_86, mLen_87, mLen_89, mLen_90, mLen_91, mLen_92, k3]
      refine ⟨(), τ1, p1, ?_⟩
      simp (maxSteps := 1000000) (disch := omega) only [↓xC_ap, ↓iV_ap, ↓lV_ap, ↓rV_ap, ↓x1_ap, ↓x2_ap, ↓x2p_ap, ↓xIf_ap, ↓cI_ap, ↓cL_ap, ↓cR_ap, ↓cN_ap, ↓cB_ap, ↓cAnd_ap, ↓cOr_ap, ↓cNot_ap, ↓cT_ap, ↓aN_ap, ↓aC_ap, ↓sSkip_ap, ↓sSeq_ap, ↓sI_ap, ↓sL_ap, ↓sR_ap, ↓sInc_ap, ↓sIf_ap, ↓sRet0_ap, ↓sRet_ap, ↓sCont_ap, ↓sEx_ap, ↓sSw_ap, ↓xP_ap, ↓hFI_ap, ↓hFL_ap, ↓hFR_ap, ↓hAI_ap, ↓hAL_ap, ↓hAR_ap, ↓hLen_ap, ↓hCast_ap, ↓hInst_ap, ↓sPI_ap, ↓sPZ_ap, ↓sPL_ap, ↓sPR_ap, ↓sUI_ap, ↓sAI_ap, ↓sAB_ap, ↓sAZ_ap, ↓sAL_ap, ↓sAR_ap, ↓sVI_ap, ↓sVL_ap, ↓hCV_ap, ↓hCS_ap, ↓hNew_ap, ↓hNA_ap, ↓hSp_ap, ↓sObj_ap, ↓sCopy_ap, ↓mFI_ap, ↓mFL_ap, ↓mAI_ap, ↓mAL_ap, ↓tI_ap, ↓tZ_ap, ↓tL_ap, ↓tU_ap, ↓tAI_ap, ↓tAB_ap, ↓tAZ_ap, ↓tAL_ap, ↓tV_ap, ↓mC_ap, ↓hLI_ap, ↓hLL_ap, ↓xB_ap, ↓cIte_ap, ga_get, ga_st1, ga_st2, ga_kill, ga_put, ga_dim, vI, vL, vR, vA, List.head?_cons, List.head?_nil, rkI, rkL, rkR, rkU, ga_cc, ga_lc, decide_eq_true_eq, List.length_cons, List.length_nil, Nat.reduceAdd, Nat.reduceLT, ga_rI, ga_rL, ga_rR, ga_rU, true_and, and_true, ↓reduceIte, mT, ↓Lm1, L0, L1, L2, L3, L4, L5, L6, L7, L8, L9, L10, L12, L15, L16, L17, L18, L20, L24, L26, L31, L32, L36, L48, L62, L64, L72, L96, L97, L122, L200, L255, L256, L399, L400, L600, L800, L9999, L1000000, i32_add, i32_mul, i32_sub, i32_lt, i32_le, i32_eq, i32_clamp, i32_in, mone_lt, mone_nlt, mone_le, mone_nle, mone_ne, mone_ne', M0, M1, i64_add, i64_mul, i64_lt, i64_le, i64_eq, i32_64, Nat.zero_le, ↓reduceIte, bI_0, bI_1, false_and, and_false, not_false_eq_true, not_true_eq_false, mset_i, mset_l, mset_a, mset_b, msetL_i, msetL_l, msetL_a, msetL_b, mas_i, mas_l, mas_a, mas_b, masL_i, masL_l, masL_a, masL_b, up_at, Nat.reduceEqDiff, ↓reduceIte, mLen_0, mLen_2, mLen_3, mLen_4, mLen_5, mLen_6, mLen_7, mLen_8, mLen_9, mLen_10, mLen_11, mLen_12, mLen_13, mLen_14, mLen_15, mLen_16, mLen_17, mLen_18, mLen_19, mLen_20, mLen_30, mLen_31, mLen_38, mLen_39, mLen_40, mLen_44, mLen_46, mLen_49, mLen_50, mLen_51, mLen_52, mLen_53, mLen_56, mLen_57, mLen_62, mLen_63, mLen_64, mLen_65, mLen_66, mLen_69, mLen_70, mLen_71, mLen_72, mLen_73, mLen_74, mLen_75, mLen_76, mLen_77, mLen_81, mLen_82, mLen_86, mLen_87, mLen_89, mLen_90, mLen_91, mLen_92, m3, r5, i32_succ]
      have ht : ks.take (q + 1) = ks.take q ++ [k] := tk1 hx
      refine ⟨_, by omega, q + 1, rfl, by omega, ?_, ?_, i2.trans p3⟩
      · rw [ht, chS_snoc, Nat.add_assoc]
      · rw [ht, bRowsC_app, List.filter_append]
        simp only [bRowsC, List.append_nil]
        rw [← sub_rows hok (hC k hkm)]
        exact p2
    · rw [if_neg hql]
      have : q = ks.length := by omega
      subst this
      rw [List.take_length] at i1
      exact ⟨i1, hH.fr i2 (by intro j hj; simp; omega), i2⟩
  · refine ⟨by simp [mset, va_up, bRowsC], by simp [bRowsC], fun i r hr => ?_⟩
    simp [bRowsC] at hr
theorem netZ_snoc' (fam : Nat → Nat) (f th : Nat) (dy : Nat → Bool) (xs : List Row) (r : Row) : netZ fam f th dy (xs ++ [r]) = netZ fam f th dy xs + nTerm fam f th dy r := by
  rw [netZ_app]
  simp [netZ]
theorem sm_216 {f t : Nat} {day : Int32} {dy : Nat → Bool} {fam : Nat → Nat} {rs : List Row} (hd : 1 ≤ d) (hS : isFl σ rs) (hro : ∀ r ∈ rs, rOk r) (hf : isFm σ fam) (hf8 : f < 8) (ht6 : t < 6) (hdy : dyOf day dy) : RM m d 216 [.inr (.inr (some (m))), .inl (Int32.ofNat (f)), .inl (Int32.ofNat (t)), .inl day] σ (some (.inr (.inl (Int64.ofInt (netZ fam f t dy rs))))) σ := by
  obtain ⟨e, rfl⟩ : ∃ q : Nat, d = q + 1 := ⟨d - 1, by omega⟩
  obtain ⟨h1, h2, h3⟩ := hS
  refine ruL (go_216 _ ?_)
  simp (maxSteps := 1000000) (disch := omega) only [↓xC_ap, ↓iV_ap, ↓lV_ap, ↓rV_ap, ↓x1_ap, ↓x2_ap, ↓x2p_ap, ↓xIf_ap, ↓cI_ap, ↓cL_ap, ↓cR_ap, ↓cN_ap, ↓cB_ap, ↓cAnd_ap, ↓cOr_ap, ↓cNot_ap, ↓cT_ap, ↓aN_ap, ↓aC_ap, ↓sSkip_ap, ↓sSeq_ap, ↓sI_ap, ↓sL_ap, ↓sR_ap, ↓sInc_ap, ↓sIf_ap, ↓sRet0_ap, ↓sRet_ap, ↓sCont_ap, ↓sEx_ap, ↓sSw_ap, ↓xP_ap, ↓hFI_ap, ↓hFL_ap, ↓hFR_ap, ↓hAI_ap, ↓hAL_ap, ↓hAR_ap, ↓hLen_ap, ↓hCast_ap, ↓hInst_ap, ↓sPI_ap, ↓sPZ_ap, ↓sPL_ap, ↓sPR_ap, ↓sUI_ap, ↓sAI_ap, ↓sAB_ap, ↓sAZ_ap, ↓sAL_ap, ↓sAR_ap, ↓sVI_ap, ↓sVL_ap, ↓hCV_ap, ↓hCS_ap, ↓hNew_ap, ↓hNA_ap, ↓hSp_ap, ↓sObj_ap, ↓sCopy_ap, ↓mFI_ap, ↓mFL_ap, ↓mAI_ap, ↓mAL_ap, ↓tI_ap, ↓tZ_ap, ↓tL_ap, ↓tU_ap, ↓tAI_ap, ↓tAB_ap, ↓tAZ_ap, ↓tAL_ap, ↓tV_ap, ↓mC_ap, ↓hLI_ap, ↓hLL_ap, ↓xB_ap, ↓cIte_ap, ga_get, ga_st1, ga_st2, ga_kill, ga_put, ga_dim, vI, vL, vR, vA, List.head?_cons, List.head?_nil, rkI, rkL, rkR, rkU, ga_cc, ga_lc, decide_eq_true_eq, List.length_cons, List.length_nil, Nat.reduceAdd, Nat.reduceLT, ga_rI, ga_rL, ga_rR, ga_rU, true_and, and_true, ↓reduceIte, mT, ↓Lm1, L0, L1, L2, L3, L4, L5, L6, L7, L8, L9, L10, L12, L15, L16, L17, L18, L20, L24, L26, L31, L32, L36, L48, L62, L64, L72, L96, L97, L122, L200, L255, L256, L399, L400, L600, L800, L9999, L1000000, i32_add, i32_mul, i32_sub, i32_lt, i32_le, i32_eq, i32_clamp, i32_in, mone_lt, mone_nlt, mone_le, mone_nle, mone_ne, mone_ne', M0, M1, i64_add, i64_mul, i64_lt, i64_le, i64_eq, i32_64, Nat.zero_le, ↓reduceIte, bI_0, bI_1, false_and, and_false, not_false_eq_true, not_true_eq_false, mset_i, mset_l, mset_a, mset_b, msetL_i, msetL_l, msetL_a, msetL_b, mas_i, mas_l, mas_a, mas_b, masL_i, masL_l, masL_a, masL_b, up_at, Nat.reduceEqDiff, ↓reduceIte, bm_216]
  refine lr_bm_216_l2 (fun n env τ => ∃ j, n = rs.length - j ∧ j ≤ rs.length ∧ env = [some (.inr (.inr (some (m)))), some (.inl (Int32.ofNat (f))), some (.inl (Int32.ofNat (t))), some (.inl day), some (.inr (.inl (Int64.ofInt (netZ fam f t dy (rs.take j))))), none, some (.inl (Int32.ofNat (j)))] ∧ τ = σ) ?_ rs.length _ _ ⟨0, rfl, Nat.zero_le _, rfl, rfl⟩
  rintro n env τ ⟨j, rfl, hj, rfl, rfl⟩
  simp (maxSteps := 1000000) (disch := omega) only [↓xC_ap, ↓iV_ap, ↓lV_ap, ↓rV_ap, ↓x1_ap, ↓x2_ap, ↓x2p_ap, ↓xIf_ap, ↓cI_ap, ↓cL_ap, ↓cR_ap, ↓cN_ap, ↓cB_ap, ↓cAnd_ap, ↓cOr_ap, ↓cNot_ap, ↓cT_ap, ↓aN_ap, ↓aC_ap, ↓sSkip_ap, ↓sSeq_ap, ↓sI_ap, ↓sL_ap, ↓sR_ap, ↓sInc_ap, ↓sIf_ap, ↓sRet0_ap, ↓sRet_ap, ↓sCont_ap, ↓sEx_ap, ↓sSw_ap, ↓xP_ap, ↓hFI_ap, ↓hFL_ap, ↓hFR_ap, ↓hAI_ap, ↓hAL_ap, ↓hAR_ap, ↓hLen_ap, ↓hCast_ap, ↓hInst_ap, ↓sPI_ap, ↓sPZ_ap, ↓sPL_ap, ↓sPR_ap, ↓sUI_ap, ↓sAI_ap, ↓sAB_ap, ↓sAZ_ap, ↓sAL_ap, ↓sAR_ap, ↓sVI_ap, ↓sVL_ap, ↓hCV_ap, ↓hCS_ap, ↓hNew_ap, ↓hNA_ap, ↓hSp_ap, ↓sObj_ap, ↓sCopy_ap, ↓mFI_ap, ↓mFL_ap, ↓mAI_ap, ↓mAL_ap, ↓tI_ap, ↓tZ_ap, ↓tL_ap, ↓tU_ap, ↓tAI_ap, ↓tAB_ap, ↓tAZ_ap, ↓tAL_ap, ↓tV_ap, ↓mC_ap, ↓hLI_ap, ↓hLL_ap, ↓xB_ap, ↓cIte_ap, ga_get, ga_st1, ga_st2, ga_kill, ga_put, ga_dim, vI, vL, vR, vA, List.head?_cons, List.head?_nil, rkI, rkL, rkR, rkU, ga_cc, ga_lc, decide_eq_true_eq, List.length_cons, List.length_nil, Nat.reduceAdd, Nat.reduceLT, ga_rI, ga_rL, ga_rR, ga_rU, true_and, and_true, ↓reduceIte, mT, ↓Lm1, L0, L1, L2, L3, L4, L5, L6, L7, L8, L9, L10, L12, L15, L16, L17, L18, L20, L24, L26, L31, L32, L36, L48, L62, L64, L72, L96, L97, L122, L200, L255, L256, L399, L400, L600, L800, L9999, L1000000, i32_add, i32_mul, i32_sub, i32_lt, i32_le, i32_eq, i32_clamp, i32_in, mone_lt, mone_nlt, mone_le, mone_nle, mone_ne, mone_ne', M0, M1, i64_add, i64_mul, i64_lt, i64_le, i64_eq, i32_64, Nat.zero_le, ↓reduceIte, bI_0, bI_1, false_and, and_false, not_false_eq_true, not_true_eq_false, mset_i, mset_l, mset_a, mset_b, msetL_i, msetL_l, msetL_a, msetL_b, mas_i, mas_l, mas_a, mas_b, masL_i, masL_l, masL_a, masL_b, up_at, Nat.reduceEqDiff, ↓reduceIte, h1]
  by_cases hjl : j < rs.length
  · rw [if_pos hjl]
    obtain ⟨r, hx⟩ : ∃ r, rs[j]? = some r := ⟨_, List.getElem?_eq_getElem hjl⟩
    obtain ⟨v0, v1, v2, v3, v4⟩ := h3 j r hx
    obtain ⟨o1, o2, o3, o4, o5⟩ := hro r (List.mem_of_getElem? hx)
    obtain ⟨y1, y2⟩ := hf r.2.1 o2
    obtain ⟨y3, y4⟩ := hf r.2.2.1 o3
    have fin : ∀ w, w = Int64.ofInt (netZ fam f t dy (rs.take (j + 1))) → ∃ n', n' < rs.length - j ∧ ∃ j2, n' = rs.length - j2 ∧ j2 ≤ rs.length ∧ ([some (.inr (.inr (some (m)))), some (.inl (Int32.ofNat (f))), some (.inl (Int32.ofNat (t))), some (.inl day), some (.inr (.inl w)), none, some (.inl (Int32.ofNat (j + 1)))] : ga_Env) = [some (.inr (.inr (some (m)))), some (.inl (Int32.ofNat (f))), some (.inl (Int32.ofNat (t))), some (.inl day), some (.inr (.inl (Int64.ofInt (netZ fam f t dy (rs.take j2))))), none, some (.inl (Int32.ofNat (j2)))] := by
      rintro w rfl
      exact ⟨rs.length - (j + 1), by omega, j + 1, rfl, by omega, rfl⟩
    have hsn : netZ fam f t dy (rs.take (j + 1)) = netZ fam f t dy (rs.take j) + nTerm fam f t dy r := by rw [tk1 hx, netZ_snoc']
    have hz : ((Int32.ofNat 0 ≤ mone) = False) := mone_nle (by decide)
    unfold bm_216_b1
    by_cases ht : r.2.2.2.1 = t
    case neg =>
      simp (maxSteps := 1000000) (disch := omega) only [↓xC_ap, ↓iV_ap, ↓lV_ap, ↓rV_ap, ↓x1_ap, ↓x2_ap, ↓x2p_ap, ↓xIf_ap, ↓cI_ap, ↓cL_ap, ↓cR_ap, ↓cN_ap, ↓cB_ap, ↓cAnd_ap, ↓cOr_ap, ↓cNot_ap, ↓cT_ap, ↓aN_ap, ↓aC_ap, ↓sSkip_ap, ↓sSeq_ap, ↓sI_ap, ↓sL_ap, ↓sR_ap, ↓sInc_ap, ↓sIf_ap, ↓sRet0_ap, ↓sRet_ap, ↓sCont_ap, ↓sEx_ap, ↓sSw_ap, ↓xP_ap, ↓hFI_ap, ↓hFL_ap, ↓hFR_ap, ↓hAI_ap, ↓hAL_ap, ↓hAR_ap, ↓hLen_ap, ↓hCast_ap, ↓hInst_ap, ↓sPI_ap, ↓sPZ_ap, ↓sPL_ap, ↓sPR_ap, ↓sUI_ap, ↓sAI_ap, ↓sAB_ap, ↓sAZ_ap, ↓sAL_ap, ↓sAR_ap, ↓sVI_ap, ↓sVL_ap, ↓hCV_ap, ↓hCS_ap, ↓hNew_ap, ↓hNA_ap, ↓hSp_ap, ↓sObj_ap, ↓sCopy_ap, ↓mFI_ap, ↓mFL_ap, ↓mAI_ap, ↓mAL_ap, ↓tI_ap, ↓tZ_ap, ↓tL_ap, ↓tU_ap, ↓tAI_ap, ↓tAB_ap, ↓tAZ_ap, ↓tAL_ap, ↓tV_ap, ↓mC_ap, ↓hLI_ap, ↓hLL_ap, ↓xB_ap, ↓cIte_ap, ga_get, ga_st1, ga_st2, ga_kill, ga_put, ga_dim, vI, vL, vR, vA, List.head?_cons, List.head?_nil, rkI, rkL, rkR, rkU, ga_cc, ga_lc, decide_eq_true_eq, List.length_cons, List.length_nil, Nat.reduceAdd, Nat.reduceLT, ga_rI, ga_rL, ga_rR, ga_rU, true_and, and_true, ↓reduceIte, mT, ↓Lm1, L0, L1, L2, L3, L4, L5, L6, L7, L8, L9, L10, L12, L15, L16, L17, L18, L20, L24, L26, L31, L32, L36, L48, L62, L64, L72, L96, L97, L122, L200, L255, L256, L399, L400, L600, L800, L9999, L1000000, i32_add, i32_mul, i32_sub, i32_lt, i32_le, i32_eq, i32_clamp, i32_in, mone_lt, mone_nlt, mone_le, mone_nle, mone_ne, mone_ne', M0, M1, i64_add, i64_mul, i64_lt, i64_le, i64_eq, i32_64, Nat.zero_le, ↓reduceIte, bI_0, bI_1, false_and, and_false, not_false_eq_true, not_true_eq_false, mset_i, mset_l, mset_a, mset_b, msetL_i, msetL_l, msetL_a, msetL_b, mas_i, mas_l, mas_a, mas_b, masL_i, masL_l, masL_a, masL_b, up_at, Nat.reduceEqDiff, ↓reduceIte, mLen_0, mLen_2, mLen_3, mLen_4, mLen_5, mLen_6, mLen_7, mLen_8, mLen_9, mLen_10, mLen_11, mLen_12, mLen_13, mLen_14, mLen_15, mLen_16, mLen_17, mLen_18, mLen_19, mLen_20, mLen_30, mLen_31, mLen_38, mLen_39, mLen_40, mLen_44, mLen_46, mLen_49, mLen_50, mLen_51, mLen_52, mLen_53, mLen_56, mLen_57, mLen_62, mLen_63, mLen_64, mLen_65, mLen_66, mLen_69, mLen_70, mLen_71, mLen_72, mLen_73, mLen_74, mLen_75, mLen_76, mLen_77, mLen_81, mLen_82, mLen_86, mLen_87, mLen_89, mLen_90, mLen_91, mLen_92, v3, ht, i32_succ]
      exact fin _ (by rw [hsn]; simp [nTerm, ht])
    have hday : (dy r.1 = false ∧ (0 : Int32) ≤ day ∧ Int32.ofNat r.1 ≠ day) ∨ (dy r.1 = true ∧ (day = mone ∨ ((0 : Int32) ≤ day ∧ Int32.ofNat r.1 = day))) := by
      rcases hdy with ⟨q1, q2⟩ | ⟨n1, q0, q1, q2⟩
      · right; exact ⟨by rw [q2]; rfl, Or.inl q1⟩
      · have nm : (0 : Int32) ≤ day := by rw [q1, L0, i32_le (by decide) (by omega)]; exact Nat.zero_le _
        by_cases e : r.1 = n1
        · right; exact ⟨by rw [q2]; simp [dOn, e], Or.inr ⟨nm, by rw [q1, e]⟩⟩
        · left; refine ⟨by rw [q2]; simp [dOn, e], nm, ?_⟩
          rw [q1]; intro e'; exact e ((i32_eq (by omega) (by omega)).mp e')
    rcases hday with ⟨q1, q2, q3⟩ | ⟨q1, q2⟩
    · rw [L0] at q2
      simp (maxSteps := 1000000) (disch := omega) only [↓xC_ap, ↓iV_ap, ↓lV_ap, ↓rV_ap, ↓x1_ap, ↓x2_ap, ↓x2p_ap, ↓xIf_ap, ↓cI_ap, ↓cL_ap, ↓cR_ap, ↓cN_ap, ↓cB_ap, ↓cAnd_ap, ↓cOr_ap, ↓cNot_ap, ↓cT_ap, ↓aN_ap, ↓aC_ap, ↓sSkip_ap, ↓sSeq_ap, ↓sI_ap, ↓sL_ap, ↓sR_ap, ↓sInc_ap, ↓sIf_ap, ↓sRet0_ap, ↓sRet_ap, ↓sCont_ap, ↓sEx_ap, ↓sSw_ap, ↓xP_ap, ↓hFI_ap, ↓hFL_ap, ↓hFR_ap, ↓hAI_ap, ↓hAL_ap, ↓hAR_ap, ↓hLen_ap, ↓hCast_ap, ↓hInst_ap, ↓sPI_ap, ↓sPZ_ap, ↓sPL_ap, ↓sPR_ap, ↓sUI_ap, ↓sAI_ap, ↓sAB_ap, ↓sAZ_ap, ↓sAL_ap, ↓sAR_ap, ↓sVI_ap, ↓sVL_ap, ↓hCV_ap, ↓hCS_ap, ↓hNew_ap, ↓hNA_ap, ↓hSp_ap, ↓sObj_ap, ↓sCopy_ap, ↓mFI_ap, ↓mFL_ap, ↓mAI_ap, ↓mAL_ap, ↓tI_ap, ↓tZ_ap, ↓tL_ap, ↓tU_ap, ↓tAI_ap, ↓tAB_ap, ↓tAZ_ap, ↓tAL_ap, ↓tV_ap, ↓mC_ap, ↓hLI_ap, ↓hLL_ap, ↓xB_ap, ↓cIte_ap, ga_get, ga_st1, ga_st2, ga_kill, ga_put, ga_dim, vI, vL, vR, vA, List.head?_cons, List.head?_nil, rkI, rkL, rkR, rkU, ga_cc, ga_lc, decide_eq_true_eq, List.length_cons, List.length_nil, Nat.reduceAdd, Nat.reduceLT, ga_rI, ga_rL, ga_rR, ga_rU, true_and, and_true, ↓reduceIte, mT, ↓Lm1, L0, L1, L2, L3, L4, L5, L6, L7, L8, L9, L10, L12, L15, L16, L17, L18, L20, L24, L26, L31, L32, L36, L48, L62, L64, L72, L96, L97, L122, L200, L255, L256, L399, L400, L600, L800, L9999, L1000000, i32_add, i32_mul, i32_sub, i32_lt, i32_le, i32_eq, i32_clamp, i32_in, mone_lt, mone_nlt, mone_le, mone_nle, mone_ne, mone_ne', M0, M1, i64_add, i64_mul, i64_lt, i64_le, i64_eq, i32_64, Nat.zero_le, ↓reduceIte, bI_0, bI_1, false_and, and_false, not_false_eq_true, not_true_eq_false, mset_i, mset_l, mset_a, mset_b, msetL_i, msetL_l, msetL_a, msetL_b, mas_i, mas_l, mas_a, mas_b, masL_i, masL_l, masL_a, masL_b, up_at, Nat.reduceEqDiff, ↓reduceIte, mLen_0, mLen_2, mLen_3, mLen_4, mLen_5, mLen_6, mLen_7, mLen_8, mLen_9, mLen_10, mLen_11, mLen_12, mLen_13, mLen_14, mLen_15, mLen_16, mLen_17, mLen_18, mLen_19, mLen_20, mLen_30, mLen_31, mLen_38, mLen_39, mLen_40, mLen_44, mLen_46, mLen_49, mLen_50, mLen_51, mLen_52, mLen_53, mLen_56, mLen_57, mLen_62, mLen_63, mLen_64, mLen_65, mLen_66, mLen_69, mLen_70, mLen_71, mLen_72, mLen_73, mLen_74, mLen_75, mLen_76, mLen_77, mLen_81, mLen_82, mLen_86, mLen_87, mLen_89, mLen_90, mLen_91, mLen_92, v3, ht, ge_iff_le, q2, q3, v0, i32_succ]
      exact fin _ (by rw [hsn]; simp [nTerm, q1])
    · have hT : nTerm fam f t dy r = (if fam r.2.2.1 = f then (r.2.2.2.2 : Int) else 0) - (if fam r.2.1 = f then (r.2.2.2.2 : Int) else 0) := by
        unfold nTerm; rw [if_pos ⟨ht, q1⟩]
      rcases q2 with rfl | ⟨q2, q3⟩
      · by_cases ha : fam r.2.2.1 = f <;> by_cases hb' : fam r.2.1 = f <;> (simp (maxSteps := 1000000) (disch := omega) only [↓xC_ap, ↓iV_ap, ↓lV_ap, ↓rV_ap, ↓x1_ap, ↓x2_ap, ↓x2p_ap, ↓xIf_ap, ↓cI_ap, ↓cL_ap, ↓cR_ap, ↓cN_ap, ↓cB_ap, ↓cAnd_ap, ↓cOr_ap, ↓cNot_ap, ↓cT_ap, ↓aN_ap, ↓aC_ap, ↓sSkip_ap, ↓sSeq_ap, ↓sI_ap, ↓sL_ap, ↓sR_ap, ↓sInc_ap, ↓sIf_ap, ↓sRet0_ap, ↓sRet_ap, ↓sCont_ap, ↓sEx_ap, ↓sSw_ap, ↓xP_ap, ↓hFI_ap, ↓hFL_ap, ↓hFR_ap, ↓hAI_ap, ↓hAL_ap, ↓hAR_ap, ↓hLen_ap, ↓hCast_ap, ↓hInst_ap, ↓sPI_ap, ↓sPZ_ap, ↓sPL_ap, ↓sPR_ap, ↓sUI_ap, ↓sAI_ap, ↓sAB_ap, ↓sAZ_ap, ↓sAL_ap, ↓sAR_ap, ↓sVI_ap, ↓sVL_ap, ↓hCV_ap, ↓hCS_ap, ↓hNew_ap, ↓hNA_ap, ↓hSp_ap, ↓sObj_ap, ↓sCopy_ap, ↓mFI_ap, ↓mFL_ap, ↓mAI_ap, ↓mAL_ap, ↓tI_ap, ↓tZ_ap, ↓tL_ap, ↓tU_ap, ↓tAI_ap, ↓tAB_ap, ↓tAZ_ap, ↓tAL_ap, ↓tV_ap, ↓mC_ap, ↓hLI_ap, ↓hLL_ap, ↓xB_ap, ↓cIte_ap, ga_get, ga_st1, ga_st2, ga_kill, ga_put, ga_dim, vI, vL, vR, vA, List.head?_cons, List.head?_nil, rkI, rkL, rkR, rkU, ga_cc, ga_lc, decide_eq_true_eq, List.length_cons, List.length_nil, Nat.reduceAdd, Nat.reduceLT, ga_rI, ga_rL, ga_rR, ga_rU, true_and, and_true, ↓reduceIte, mT, ↓Lm1, L0, L1, L2, L3, L4, L5, L6, L7, L8, L9, L10, L12, L15, L16, L17, L18, L20, L24, L26, L31, L32, L36, L48, L62, L64, L72, L96, L97, L122, L200, L255, L256, L399, L400, L600, L800, L9999, L1000000, i32_add, i32_mul, i32_sub, i32_lt, i32_le, i32_eq, i32_clamp, i32_in, mone_lt, mone_nlt, mone_le, mone_nle, mone_ne, mone_ne', M0, M1, i64_add, i64_mul, i64_lt, i64_le, i64_eq, i32_64, Nat.zero_le, ↓reduceIte, bI_0, bI_1, false_and, and_false, not_false_eq_true, not_true_eq_false, mset_i, mset_l, mset_a, mset_b, msetL_i, msetL_l, msetL_a, msetL_b, mas_i, mas_l, mas_a, mas_b, masL_i, masL_l, masL_a, masL_b, up_at, Nat.reduceEqDiff, ↓reduceIte, mLen_0, mLen_2, mLen_3, mLen_4, mLen_5, mLen_6, mLen_7, mLen_8, mLen_9, mLen_10, mLen_11, mLen_12, mLen_13, mLen_14, mLen_15, mLen_16, mLen_17, mLen_18, mLen_19, mLen_20, mLen_30, mLen_31, mLen_38, mLen_39, mLen_40, mLen_44, mLen_46, mLen_49, mLen_50, mLen_51, mLen_52, mLen_53, mLen_56, mLen_57, mLen_62, mLen_63, mLen_64, mLen_65, mLen_66, mLen_69, mLen_70, mLen_71, mLen_72, mLen_73, mLen_74, mLen_75, mLen_76, mLen_77, mLen_81, mLen_82, mLen_86, mLen_87, mLen_89, mLen_90, mLen_91, mLen_92, v3, ht, ge_iff_le, hz, v2, y3, ha, v1, y1, hb', v4, i32_succ, i64_addI, i64_subI]; exact fin _ (by rw [hsn, hT]; simp only [ha, hb', if_true, if_false]; try (congr 1 <;> omega)))
      · rw [L0] at q2
        by_cases ha : fam r.2.2.1 = f <;> by_cases hb' : fam r.2.1 = f <;> (simp (maxSteps := 1000000) (disch := omega) only [↓xC_ap, ↓iV_ap, ↓lV_ap, ↓rV_ap, ↓x1_ap, ↓x2_ap, ↓x2p_ap, ↓xIf_ap, ↓cI_ap, ↓cL_ap, ↓cR_ap, ↓cN_ap, ↓cB_ap, ↓cAnd_ap, ↓cOr_ap, ↓cNot_ap, ↓cT_ap, ↓aN_ap, ↓aC_ap, ↓sSkip_ap, ↓sSeq_ap, ↓sI_ap, ↓sL_ap, ↓sR_ap, ↓sInc_ap, ↓sIf_ap, ↓sRet0_ap, ↓sRet_ap, ↓sCont_ap, ↓sEx_ap, ↓sSw_ap, ↓xP_ap, ↓hFI_ap, ↓hFL_ap, ↓hFR_ap, ↓hAI_ap, ↓hAL_ap, ↓hAR_ap, ↓hLen_ap, ↓hCast_ap, ↓hInst_ap, ↓sPI_ap, ↓sPZ_ap, ↓sPL_ap, ↓sPR_ap, ↓sUI_ap, ↓sAI_ap, ↓sAB_ap, ↓sAZ_ap, ↓sAL_ap, ↓sAR_ap, ↓sVI_ap, ↓sVL_ap, ↓hCV_ap, ↓hCS_ap, ↓hNew_ap, ↓hNA_ap, ↓hSp_ap, ↓sObj_ap, ↓sCopy_ap, ↓mFI_ap, ↓mFL_ap, ↓mAI_ap, ↓mAL_ap, ↓tI_ap, ↓tZ_ap, ↓tL_ap, ↓tU_ap, ↓tAI_ap, ↓tAB_ap, ↓tAZ_ap, ↓tAL_ap, ↓tV_ap, ↓mC_ap, ↓hLI_ap, ↓hLL_ap, ↓xB_ap, ↓cIte_ap, ga_get, ga_st1, ga_st2, ga_kill, ga_put, ga_dim, vI, vL, vR, vA, List.head?_cons, List.head?_nil, rkI, rkL, rkR, rkU, ga_cc, ga_lc, decide_eq_true_eq, List.length_cons, List.length_nil, Nat.reduceAdd, Nat.reduceLT, ga_rI, ga_rL, ga_rR, ga_rU, true_and, and_true, ↓reduceIte, mT, ↓Lm1, L0, L1, L2, L3, L4, L5, L6, L7, L8, L9, L10, L12, L15, L16, L17, L18, L20, L24, L26, L31, L32, L36, L48, L62, L64, L72, L96, L97, L122, L200, L255, L256, L399, L400, L600, L800, L9999, L1000000, i32_add, i32_mul, i32_sub, i32_lt, i32_le, i32_eq, i32_clamp, i32_in, mone_lt, mone_nlt, mone_le, mone_nle, mone_ne, mone_ne', M0, M1, i64_add, i64_mul, i64_lt, i64_le, i64_eq, i32_64, Nat.zero_le, ↓reduceIte, bI_0, bI_1, false_and, and_false, not_false_eq_true, not_true_eq_false, mset_i, mset_l, mset_a, mset_b, msetL_i, msetL_l, msetL_a, msetL_b, mas_i, mas_l, mas_a, mas_b, masL_i, masL_l, masL_a, masL_b, up_at, Nat.reduceEqDiff, ↓reduceIte, mLen_0, mLen_2, mLen_3, mLen_4, mLen_5, mLen_6, mLen_7, mLen_8, mLen_9, mLen_10, mLen_11, mLen_12, mLen_13, mLen_14, mLen_15, mLen_16, mLen_17, mLen_18, mLen_19, mLen_20, mLen_30, mLen_31, mLen_38, mLen_39, mLen_40, mLen_44, mLen_46, mLen_49, mLen_50, mLen_51, mLen_52, mLen_53, mLen_56, mLen_57, mLen_62, mLen_63, mLen_64, mLen_65, mLen_66, mLen_69, mLen_70, mLen_71, mLen_72, mLen_73, mLen_74, mLen_75, mLen_76, mLen_77, mLen_81, mLen_82, mLen_86, mLen_87, mLen_89, mLen_90, mLen_91, mLen_92, v3, ht, ge_iff_le, q2, q3, v0, v2, y3, ha, v1, y1, hb', v4, i32_succ, i64_addI, i64_subI]; exact fin _ (by rw [hsn, hT]; simp only [ha, hb', if_true, if_false]; try (congr 1 <;> omega)))
  · rw [if_neg hjl]
    have : j = rs.length := by omega
    subst this
    rw [List.take_length]
end L
