/-! LAYER 4j: pure: the nodes of a forest in the order of the text, each with what it is in -/
abbrev Ctx : Type := List (Nat × Nat × Nat × Nat)
/-- days that are added by what it is in; how many times it passes -/
def lat : Ctx → Nat
  | [] => 0
  | q :: c => (if q.2.1 = 4 then q.2.2.1 else 0) + lat c
def tm1 (β : Nat → Bool) (q : Nat × Nat × Nat × Nat) (v : Nat) : Nat :=
  if q.2.1 = 4 then v else if q.2.1 = 5 then v * q.2.2.1 else if q.2.1 = 6 then (if β q.2.2.1 = decide (q.2.2.2 = 0) then v else 0) else (if β (5 + q.2.2.1) = decide (q.2.2.2 ≠ 0) then v else 0)
def tms (β : Nat → Bool) : Ctx → Nat
  | [] => 1
  | q :: c => tm1 β q (tms β c)
def fNodes : Fo → Ctx → Nat → List (Option Lf × Ctx)
  | .leaf _, _, _ => []
  | .branch _ (.leaf l) r, c, i => (some l, c) :: fNodes r c (i + 1)
  | .branch k (.branch n a b) r, c, i => (none, c) :: (fNodes a ((i, k, n, 0) :: c) (i + 1) ++ (fNodes b ((i, k, n, 1) :: c) (i + 1 + fSz a) ++ fNodes r c (i + 1 + fSz a + fSz b)))
theorem fNodes_len : ∀ (t : Fo) (c : Ctx) (i : Nat), (fNodes t c i).length = fSz t := by
  intro t
  induction t using fo_ind with
  | h0 x => intro c i; rfl
  | h1 k l r ih => intro c i; simp only [fNodes, fSz, List.length_cons, ih]
  | h2 k n a b r iha ihb ihr => intro c i; simp only [fNodes, fSz, List.length_cons, List.length_append, iha, ihb, ihr]; omega
def nRows (β : Nat → Bool) (x : Option Lf × Ctx) : List Row := match x.1 with
  | none => []
  | some l => if tms β x.2 = 0 then [] else lRows l (lat x.2) (tms β x.2)
def nLeaf (x : Option Lf × Ctx) : Option (Lf × Nat) := x.1.map fun l => (l, lat x.2)
theorem fNil_of {t : Fo} (h : fLen t = 0) : ∃ x, t = .leaf x := by
  cases t with
  | leaf x => exact ⟨x, rfl⟩
  | branch k x r => simp [fLen] at h
theorem fRows_nodes (β : Nat → Bool) : ∀ (t : Fo) (d : Nat), fOk d t → ∀ (c : Ctx) (i : Nat), (fNodes t c i).flatMap (nRows β) = if tms β c = 0 then [] else fRows t (lat c) (tms β c) β := by
  intro t
  induction t using fo_ind with
  | h0 x => intro d _ c i; simp [fNodes, fRows]
  | h1 k l r ih =>
    intro d h c i
    simp only [fNodes, fRows, List.flatMap_cons, ih d h.2 c (i + 1), nRows]
    split <;> rfl
  | h2 k n a b r iha ihb ihr =>
    intro d h c i
    obtain ⟨hd, hk, ha, hb, hr⟩ := h
    simp only [fNodes, fRows, List.flatMap_cons, List.flatMap_append, iha (d - 1) ha, ihb (d - 1) hb, ihr d hr, nRows, List.nil_append]
    by_cases h0 : tms β c = 0
    · have z : ∀ p, tms β ((i, k, n, p) :: c) = 0 := by
        intro p
        simp only [tms, tm1, h0]
        split
        · rfl
        · split
          · exact Nat.zero_mul _
          · split <;> split <;> rfl
      simp only [z, h0, if_true, List.append_nil]
    · rcases hk with ⟨rfl, -, hn⟩ | ⟨rfl, -, hn⟩ | ⟨rfl, -⟩ | ⟨rfl, -⟩
      · obtain ⟨x, rfl⟩ := fNil_of hn
        simp [tms, tm1, lat, h0, fRows, Nat.add_comm n (lat c)]
      · obtain ⟨x, rfl⟩ := fNil_of hn
        by_cases n0 : n = 0
        · simp [tms, tm1, lat, h0, fRows, n0]
        · have : tms β c * n ≠ 0 := Nat.mul_ne_zero h0 n0
          simp [tms, tm1, lat, h0, fRows, n0, this]
      · cases hβ : β n <;> simp [tms, tm1, lat, h0, hβ]
      · cases hβ : β (5 + n) <;> simp [tms, tm1, lat, h0, hβ]
theorem fLeaves_nodes : ∀ (t : Fo) (d : Nat), fOk d t → ∀ (c : Ctx) (i : Nat), (fNodes t c i).filterMap nLeaf = fLeaves t (lat c) := by
  intro t
  induction t using fo_ind with
  | h0 x => intro d _ c i; rfl
  | h1 k l r ih =>
    intro d h c i
    simp only [fNodes, fLeaves, ← ih d h.2 c (i + 1)]
    rfl
  | h2 k n a b r iha ihb ihr =>
    intro d h c i
    obtain ⟨hd, hk, ha, hb, hr⟩ := h
    have e : (fNodes (.branch k (.branch n a b) r) c i).filterMap nLeaf = (fNodes a ((i, k, n, 0) :: c) (i + 1) ++ (fNodes b ((i, k, n, 1) :: c) (i + 1 + fSz a) ++ fNodes r c (i + 1 + fSz a + fSz b))).filterMap nLeaf := rfl
    rw [e, List.filterMap_append, List.filterMap_append, iha (d - 1) ha, ihb (d - 1) hb, ihr d hr]
    rcases hk with ⟨rfl, -, hn⟩ | ⟨rfl, -, hn⟩ | ⟨rfl, -⟩ | ⟨rfl, -⟩
    · obtain ⟨x, rfl⟩ := fNil_of hn
      simp [lat, fLeaves, Nat.add_comm n (lat c)]
    · obtain ⟨x, rfl⟩ := fNil_of hn
      simp [lat, fLeaves]
    · simp [lat, fLeaves]
    · simp [lat, fLeaves]
/-! the nodes as the reference has them -/
abbrev MA : Type := Nat → Nat → Int32
def lfAt (A : MA) (i : Nat) (l : Lf) : Prop := lOk l ∧ A 7 i = Int32.ofNat (lForm l) ∧ A 13 i = Int32.ofNat (lA l) ∧ A 14 i = Int32.ofNat (lB l) ∧ A 15 i = Int32.ofNat (lThing l) ∧ A 16 i = Int32.ofNat (lMuch l) ∧ A 17 i = Int32.ofNat (lCoin l) ∧ A 18 i = Int32.ofNat (lAt l) ∧ A 19 i = Int32.ofNat (lTill l)
def Nd (A : MA) : Fo → Nat → Int32 → Nat → Prop
  | .leaf _, _, _, _ => True
  | .branch _ (.leaf l) r, i, u, p => (lfAt A i l ∧ A 8 i = 0 ∧ A 9 i = u ∧ A 10 i = Int32.ofNat p ∧ A 11 i = Int32.ofNat (i + 1)) ∧ Nd A r (i + 1) u p
  | .branch k (.branch n a b) r, i, u, p => (A 7 i = Int32.ofNat k ∧ A 8 i = Int32.ofNat n ∧ A 9 i = u ∧ A 10 i = Int32.ofNat p ∧ A 11 i = Int32.ofNat (i + 1 + fSz a + fSz b) ∧ A 12 i = (if fSz b = 0 then -1 else Int32.ofNat (i + 1 + fSz a))) ∧ Nd A a (i + 1) (Int32.ofNat i) 0 ∧ Nd A b (i + 1 + fSz a) (Int32.ofNat i) 1 ∧ Nd A r (i + 1 + fSz a + fSz b) u p
/-- what a node is in, by the arrays; that a context stands in them -/
def Chn (A : MA) : Ctx → Prop
  | [] => True
  | q :: c => q.1 < 2304 ∧ A 7 q.1 = Int32.ofNat q.2.1 ∧ A 8 q.1 = Int32.ofNat q.2.2.1 ∧ (q.2.1 = 4 ∧ q.2.2.1 < 400 ∨ q.2.1 = 5 ∧ q.2.2.1 < 10 ∨ q.2.1 = 6 ∧ q.2.2.1 < 5 ∨ q.2.1 = 7 ∧ q.2.2.1 < 3) ∧ q.2.2.2 < 2 ∧ A 9 q.1 = (match c with | [] => -1 | r :: _ => Int32.ofNat r.1) ∧ A 10 q.1 = (match c with | [] => 0 | r :: _ => Int32.ofNat r.2.2.2) ∧ Chn A c
def cUp (c : Ctx) : Int32 := match c with | [] => -1 | r :: _ => Int32.ofNat r.1
def cPt (c : Ctx) : Nat := match c with | [] => 0 | r :: _ => r.2.2.2
def NdX (A : MA) (i : Nat) (x : Option Lf × Ctx) : Prop := (match x.1 with
  | some l => lfAt A i l
  | none => ∃ k, 4 ≤ k ∧ k < 8 ∧ A 7 i = Int32.ofNat k) ∧ A 9 i = cUp x.2 ∧ A 10 i = Int32.ofNat (cPt x.2) ∧ Chn A x.2 ∧ x.2.length ≤ 6
theorem getE_app {α : Type} {P : Nat → α → Prop} {xs ys : List α} {i : Nat} (h1 : ∀ q x, xs[q]? = some x → P (i + q) x) (h2 : ∀ q x, ys[q]? = some x → P (i + xs.length + q) x) : ∀ q x, (xs ++ ys)[q]? = some x → P (i + q) x := by
  intro q x h
  rcases Nat.lt_or_ge q xs.length with hq | hq
  · rw [List.getElem?_append_left hq] at h
    exact h1 q x h
  · rw [List.getElem?_append_right hq] at h
    have := h2 _ x h
    rw [show i + xs.length + (q - xs.length) = i + q by omega] at this
    exact this
theorem Nd_nodes {A : MA} : ∀ (t : Fo) (d : Nat), fOk d t → ∀ (c : Ctx) (i : Nat), i + fSz t ≤ 2304 → c.length + d ≤ 6 → Chn A c → Nd A t i (cUp c) (cPt c) → ∀ q x, (fNodes t c i)[q]? = some x → NdX A (i + q) x := by
  intro t
  induction t using fo_ind with
  | h0 x => intro d _ c i _ _ _ _ q x hx; simp [fNodes] at hx
  | h1 k l r ih =>
    intro d h c i hi hl hc hN
    obtain ⟨⟨n1, n2, n3, n4, n5⟩, n6⟩ := hN
    simp only [fSz] at hi
    have h1 : ∀ q x, [((some l, c) : Option Lf × Ctx)][q]? = some x → NdX A (i + q) x := by
      intro q x hx
      cases q with
      | zero =>
        simp at hx
        subst hx
        exact ⟨n1, n3, n4, hc, by dsimp only; omega⟩
      | succ q => simp at hx
    exact getE_app (xs := [((some l, c) : Option Lf × Ctx)]) h1 (ih d h.2 c (i + 1) (by omega) hl hc n6)
  | h2 k n a b r iha ihb ihr =>
    intro d h c i hi hl hc hN
    obtain ⟨hd, hk, ha, hb, hr⟩ := h
    obtain ⟨⟨n1, n2, n3, n4, n5, n6⟩, n7, n8, n9⟩ := hN
    simp only [fSz] at hi
    have hk4 : 4 ≤ k ∧ k < 8 ∧ n < 400 := by omega
    have hcc : ∀ p, p < 2 → Chn A ((i, k, n, p) :: c) := by
      intro p hp
      refine ⟨by dsimp only; omega, n1, n2, by dsimp only; omega, hp, ?_, ?_, hc⟩
      · cases c <;> exact n3
      · cases c <;> exact n4
    have h1 : ∀ q x, [((none, c) : Option Lf × Ctx)][q]? = some x → NdX A (i + q) x := by
      intro q x hx
      cases q with
      | zero =>
        simp at hx
        subst hx
        exact ⟨⟨k, hk4.1, hk4.2.1, n1⟩, n3, n4, hc, by dsimp only; omega⟩
      | succ q => simp at hx
    refine getE_app (xs := [((none, c) : Option Lf × Ctx)]) h1 ?_
    refine getE_app (i := i + 1) (iha (d - 1) ha ((i, k, n, 0) :: c) (i + 1) (by omega) (by simp only [List.length_cons]; omega) (hcc 0 (by decide)) n7) ?_
    rw [fNodes_len]
    refine getE_app (ihb (d - 1) hb ((i, k, n, 1) :: c) (i + 1 + fSz a) (by omega) (by simp only [List.length_cons]; omega) (hcc 1 (by decide)) n8) ?_
    rw [fNodes_len]
    exact ihr d hr c _ (by omega) hl hc n9
theorem Nd_congr {A B : MA} (h : ∀ k, 7 ≤ k → k < 20 → A k = B k) : ∀ (t : Fo) (i : Nat) (u : Int32) (p : Nat), Nd A t i u p → Nd B t i u p := by
  intro t
  have e7 := h 7 (by decide) (by decide)
  have e8 := h 8 (by decide) (by decide)
  have e9 := h 9 (by decide) (by decide)
  have e10 := h 10 (by decide) (by decide)
  have e11 := h 11 (by decide) (by decide)
  have e12 := h 12 (by decide) (by decide)
  have e13 := h 13 (by decide) (by decide)
  have e14 := h 14 (by decide) (by decide)
  have e15 := h 15 (by decide) (by decide)
  have e16 := h 16 (by decide) (by decide)
  have e17 := h 17 (by decide) (by decide)
  have e18 := h 18 (by decide) (by decide)
  have e19 := h 19 (by decide) (by decide)
  induction t using fo_ind with
  | h0 x => intro i u p _; trivial
  | h1 k l r ih =>
    intro i u p hN
    simp only [Nd, lfAt, e7, e8, e9, e10, e11, e13, e14, e15, e16, e17, e18, e19] at hN ⊢
    exact ⟨hN.1, ih _ _ _ hN.2⟩
  | h2 k n a b r iha ihb ihr =>
    intro i u p hN
    simp only [Nd, e7, e8, e9, e10, e11, e12] at hN ⊢
    exact ⟨hN.1, iha _ _ _ hN.2.1, ihb _ _ _ hN.2.2.1, ihr _ _ _ hN.2.2.2⟩
