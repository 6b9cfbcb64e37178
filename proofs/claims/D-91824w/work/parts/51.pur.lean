/-! LAYER 4d: the pure side: leaves, forests, what passes -/
/-- a leaf: form, hands, thing, how much, day, coin, until -/
abbrev Lf : Type := Nat × Nat × Nat × Nat × Nat × Nat × Nat × Nat
def lForm (l : Lf) : Nat := l.1
def lA (l : Lf) : Nat := l.2.1
def lB (l : Lf) : Nat := l.2.2.1
def lThing (l : Lf) : Nat := l.2.2.2.1
def lMuch (l : Lf) : Nat := l.2.2.2.2.1
def lAt (l : Lf) : Nat := l.2.2.2.2.2.1
def lCoin (l : Lf) : Nat := l.2.2.2.2.2.2.1
def lTill (l : Lf) : Nat := l.2.2.2.2.2.2.2
/-- parts one behind the other: none (leaf) | a leaf, the rest (branch _ (leaf l) r) | a group of kind k (4 after, 5 times, 6 if, 7 choice), number n, parts a and b, the rest -/
abbrev Fo : Type := Lean.RArray Lf
def fNil : Fo := .leaf (0, 0, 0, 0, 0, 0, 0, 0)
def fLf (l : Lf) (r : Fo) : Fo := .branch 0 (.leaf l) r
def fGr (k n : Nat) (a b r : Fo) : Fo := .branch k (.branch n a b) r
theorem fo_ind {P : Fo → Prop} (h0 : ∀ x, P (.leaf x)) (h1 : ∀ n l r, P r → P (.branch n (.leaf l) r)) (h2 : ∀ k n a b r, P a → P b → P r → P (.branch k (.branch n a b) r)) : ∀ t : Fo, P t := by
  have H : ∀ t : Fo, P t ∧ ∀ n a b, t = .branch n a b → P a ∧ P b := by
    intro t
    induction t with
    | leaf x => exact ⟨h0 x, fun n a b e => by cases e⟩
    | branch k l r ihl ihr =>
      refine ⟨?_, fun n a b e => by cases e; exact ⟨ihl.1, ihr.1⟩⟩
      cases l with
      | leaf x => exact h1 k x r ihr.1
      | branch n a b =>
        obtain ⟨p1, p2⟩ := ihl.2 n a b rfl
        exact h2 k n a b r p1 p2 ihr.1
  exact fun t => (H t).1
def fApp : Fo → Fo → Fo
  | .leaf _, s => s
  | .branch k x r, s => .branch k x (fApp r s)
def fLen : Fo → Nat
  | .leaf _ => 0
  | .branch _ _ r => fLen r + 1
/-- how many nodes -/
def fSz : Fo → Nat
  | .leaf _ => 0
  | .branch _ (.leaf _) r => fSz r + 1
  | .branch _ (.branch _ a b) r => fSz a + fSz b + fSz r + 1
def fDep : Fo → Nat
  | .leaf _ => 0
  | .branch _ (.leaf _) r => fDep r
  | .branch _ (.branch _ a b) r => max (max (fDep a) (fDep b) + 1) (fDep r)
/-- a row of what passes: day, from, to, thing, how much -/
abbrev Row : Type := Nat × Nat × Nat × Nat × Nat
def lRows (l : Lf) (s t : Nat) : List Row :=
  (lAt l + s, lA l, lB l, lThing l, lMuch l * t) ::
    ((if lForm l = 3 then [(lTill l + s, lB l, lA l, lThing l, lMuch l * t)] else []) ++
     (if lForm l = 2 ∨ lForm l = 3 then [(lTill l + s, lB l, lA l, 0, lCoin l * t)] else []))
/-- the rows: days that are added, how many times, the code's bits -/
def fRows : Fo → Nat → Nat → (Nat → Bool) → List Row
  | .leaf _, _, _, _ => []
  | .branch _ (.leaf l) r, s, t, c => lRows l s t ++ fRows r s t c
  | .branch k (.branch n a b) r, s, t, c => (if k = 4 then fRows a (s + n) t c else if k = 5 then (if n = 0 then [] else fRows a s (t * n) c) else if k = 6 then (if c n then fRows a s t c else fRows b s t c) else (if c (5 + n) then fRows b s t c else fRows a s t c)) ++ fRows r s t c
/-- the leaves with the days that are added to theirs -/
def fLeaves : Fo → Nat → List (Lf × Nat)
  | .leaf _, _ => []
  | .branch _ (.leaf l) r, s => (l, s) :: fLeaves r s
  | .branch k (.branch n a b) r, s => (if k = 4 then fLeaves a (s + n) else if k = 5 then fLeaves a s else fLeaves a s ++ fLeaves b s) ++ fLeaves r s
def fHas : Fo → Bool
  | .leaf _ => false
  | .branch _ (.leaf _) r => fHas r
  | .branch k (.branch _ a b) r => (decide (7 ≤ k) || (if k ≤ 5 then fHas a else (fHas a || fHas b))) || fHas r
def lEq (l m : Lf) : Bool := decide (l.1 = m.1 ∧ l.2.1 = m.2.1 ∧ l.2.2.1 = m.2.2.1 ∧ l.2.2.2.1 = m.2.2.2.1 ∧ l.2.2.2.2.1 = m.2.2.2.2.1 ∧ l.2.2.2.2.2.1 = m.2.2.2.2.2.1 ∧ l.2.2.2.2.2.2.1 = m.2.2.2.2.2.2.1 ∧ l.2.2.2.2.2.2.2 = m.2.2.2.2.2.2.2)
theorem lEq_iff (l m : Lf) : lEq l m = true ↔ l = m := by
  obtain ⟨a1, a2, a3, a4, a5, a6, a7, a8⟩ := l
  obtain ⟨b1, b2, b3, b4, b5, b6, b7, b8⟩ := m
  simp [lEq]
theorem lEq_symm (l m : Lf) : lEq l m = lEq m l := by
  rw [Bool.eq_iff_iff, lEq_iff, lEq_iff, eq_comm]
def fLike : Fo → Fo → Bool
  | .leaf _, .leaf _ => true
  | .branch _ (.leaf l) r, .branch _ (.leaf m) s => lEq l m && fLike r s
  | .branch k (.branch n a b) r, .branch j (.branch m c d) s => (decide (k = j) && decide (n = m) && fLike a c && (if k ≤ 5 then true else fLike b d)) && fLike r s
  | _, _ => false
/-- a group made plain: what stands for it, how many steps -/
def plG (k n : Nat) (a b : Fo) : Fo × Nat :=
  if k = 4 then
    (if fLen a = 0 ∨ n = 0 then (a, 1) else match a with
      | .branch 4 (.branch m c _) (.leaf _) => (fGr 4 (n + m) c fNil fNil, 1)
      | _ => (fGr 4 n a fNil fNil, 0))
  else if k = 5 then (if 0 < fLen a ∧ 1 < n then (fGr 5 n a fNil fNil, 0) else (if n = 0 then fNil else a, 1))
  else if fLike a b && !fHas a then (a, 1) else (fGr k n a b fNil, 0)
def fPl : Fo → Fo × Nat
  | .leaf _ => (fNil, 0)
  | .branch _ (.leaf l) r => (fLf l (fPl r).1, (fPl r).2)
  | .branch k (.branch n a b) r => (fApp (plG k n (fPl a).1 (fPl b).1).1 (fPl r).1, (fPl a).2 + (if k ≤ 5 then 0 else (fPl b).2) + (plG k n (fPl a).1 (fPl b).1).2 + (fPl r).2)
/-- bounds that every read deal keeps -/
def lOk (l : Lf) : Prop := lForm l < 4 ∧ lA l < 8 ∧ lB l < 8 ∧ lThing l < 6 ∧ lMuch l < 10000 ∧ lAt l < 400 ∧ lCoin l < 10000 ∧ lTill l < 400 ∧ (lForm l < 2 → lCoin l = 0 ∧ lTill l = lAt l)
def fOk : Nat → Fo → Prop
  | _, .leaf _ => True
  | d, .branch _ (.leaf l) r => lOk l ∧ fOk d r
  | d, .branch k (.branch n a b) r => 0 < d ∧ (k = 4 ∧ n < 400 ∧ fLen b = 0 ∨ k = 5 ∧ n < 10 ∧ fLen b = 0 ∨ k = 6 ∧ n < 5 ∨ k = 7 ∧ n < 3) ∧ fOk (d - 1) a ∧ fOk (d - 1) b ∧ fOk d r
/-- bounds of what is made plain, too: days may have been put together -/
def pOk : Nat → Fo → Prop
  | _, .leaf _ => True
  | d, .branch _ (.leaf l) r => lOk l ∧ pOk d r
  | d, .branch k (.branch n a b) r => 0 < d ∧ (k = 4 ∧ (n ≤ 399 * d ∧ n < 100000) ∧ fLen b = 0 ∨ k = 5 ∧ n < 10 ∧ fLen b = 0 ∨ k = 6 ∧ n < 5 ∨ k = 7 ∧ n < 3) ∧ pOk (d - 1) a ∧ pOk (d - 1) b ∧ pOk d r
theorem fOk.p : ∀ {t : Fo} {d : Nat}, fOk d t → pOk d t := by
  intro t
  induction t using fo_ind with
  | h0 x => intro d _; trivial
  | h1 k l r ih => intro d h; exact ⟨h.1, ih h.2⟩
  | h2 k n a b r iha ihb ihr =>
    intro d h
    obtain ⟨h1, h2, h3, h4, h5⟩ := h
    exact ⟨h1, by omega, iha h3, ihb h4, ihr h5⟩
theorem pOk_succ : ∀ {t : Fo} {d : Nat}, pOk d t → pOk (d + 1) t := by
  intro t
  induction t using fo_ind with
  | h0 x => intro d _; trivial
  | h1 k l r ih => intro d h; exact ⟨h.1, ih h.2⟩
  | h2 k n a b r iha ihb ihr =>
    intro d h
    obtain ⟨h1, h2, h3, h4, h5⟩ := h
    have e : d + 1 - 1 = (d - 1) + 1 := by omega
    refine ⟨by omega, by omega, ?_, ?_, ihr h5⟩
    · rw [e]; exact iha h3
    · rw [e]; exact ihb h4
theorem pOk_app : ∀ {t u : Fo} {d : Nat}, pOk d t → pOk d u → pOk d (fApp t u) := by
  intro t u
  induction t using fo_ind with
  | h0 x => intro d _ h; exact h
  | h1 k l r ih => intro d h hu; exact ⟨h.1, ih h.2 hu⟩
  | h2 k n a b r iha ihb ihr =>
    intro d h hu
    obtain ⟨h1, h2, h3, h4, h5⟩ := h
    exact ⟨h1, h2, h3, h4, ihr h5 hu⟩
theorem fApp_nil : ∀ t : Fo, fLen t = 0 → ∀ s, fApp t s = s := by
  intro t h s
  cases t with
  | leaf _ => rfl
  | branch k x r => simp [fLen] at h
theorem fLen_app : ∀ t s : Fo, fLen (fApp t s) = fLen t + fLen s := by
  intro t s
  induction t with
  | leaf _ => simp [fApp, fLen]
  | branch k x r _ ih => simp only [fApp, fLen, ih]; omega
theorem fApp_assoc : ∀ t s u : Fo, fApp (fApp t s) u = fApp t (fApp s u) := by
  intro t s u
  induction t with
  | leaf _ => rfl
  | branch k x r _ ih => simp only [fApp, ih]
theorem fRows_app : ∀ t u : Fo, ∀ s n c, fRows (fApp t u) s n c = fRows t s n c ++ fRows u s n c := by
  intro t u
  induction t using fo_ind with
  | h0 x => intro s n c; rfl
  | h1 k l r ih => intro s n c; simp only [fApp, fRows, ih, List.append_assoc]
  | h2 k n a b r iha ihb ihr => intro s n c; simp only [fApp, fRows, ihr, List.append_assoc]
theorem fLeaves_app : ∀ t u : Fo, ∀ s, fLeaves (fApp t u) s = fLeaves t s ++ fLeaves u s := by
  intro t u
  induction t using fo_ind with
  | h0 x => intro s; rfl
  | h1 k l r ih => intro s; simp only [fApp, fLeaves, ih, List.cons_append]
  | h2 k n a b r iha ihb ihr => intro s; simp only [fApp, fLeaves, ihr, List.append_assoc]
theorem fHas_app : ∀ t u : Fo, fHas (fApp t u) = (fHas t || fHas u) := by
  intro t u
  induction t using fo_ind with
  | h0 x => simp [fApp, fHas]
  | h1 k l r ih => simp only [fApp, fHas, ih]
  | h2 k n a b r iha ihb ihr => simp only [fApp, fHas, ihr, Bool.or_assoc]
theorem fLike_symm : ∀ t u : Fo, fLike t u = fLike u t := by
  intro t
  induction t using fo_ind with
  | h0 x => intro u; cases u with
    | leaf y => rfl
    | branch k y s => cases y <;> rfl
  | h1 k l r ih => intro u; cases u with
    | leaf y => rfl
    | branch j y s => cases y with
      | leaf m => simp only [fLike, ih s, lEq_symm l m]
      | branch m c e => rfl
  | h2 k n a b r iha ihb ihr => intro u; cases u with
    | leaf y => rfl
    | branch j y s => cases y with
      | leaf m => rfl
      | branch m c e =>
        simp only [fLike, iha c, ihb e, ihr s]
        by_cases h : k = j
        · subst h; simp only [eq_comm]
        · simp [h, Ne.symm h]
/-- what one rest has as the days' sum, the leaves' many and rows -/
theorem fLeaves_len : ∀ t : Fo, ∀ s u, (fLeaves t s).length = (fLeaves t u).length := by
  intro t
  induction t using fo_ind with
  | h0 x => intro s u; rfl
  | h1 k l r ih => intro s u; simp only [fLeaves, List.length_cons, ih s u]
  | h2 k n a b r iha ihb ihr =>
    intro s u
    simp only [fLeaves]
    split
    · simp only [List.length_append, iha (s + n) (u + n), ihr s u]
    · split
      · simp only [List.length_append, iha s u, ihr s u]
      · simp only [List.length_append, iha s u, ihb s u, ihr s u]
theorem lRows_len (l : Lf) (s t : Nat) : (lRows l s t).length ≤ 3 := by
  unfold lRows
  split <;> split <;> simp
theorem fRows_len : ∀ t : Fo, ∀ s n c u, (fRows t s n c).length ≤ 3 * (fLeaves t u).length := by
  intro t
  induction t using fo_ind with
  | h0 x => intro s n c u; simp [fRows]
  | h1 k l r ih =>
    intro s n c u
    have h1 := lRows_len l s n
    have h2 := ih s n c u
    simp only [fRows, fLeaves, List.length_append, List.length_cons]
    omega
  | h2 k n a b r iha ihb ihr =>
    intro s t c u
    have h1 := ihr s t c u
    simp only [fRows, fLeaves, List.length_append]
    have e1 := fLeaves_len a u (u + n)
    have ha := fun s t => iha s t c u
    have hb := fun s t => ihb s t c u
    by_cases k4 : k = 4
    · simp only [k4, if_true]
      have := ha (s + n) t
      omega
    · by_cases k5 : k = 5
      · subst k5
        simp only [show ¬ (5 = 4) by decide, if_true, if_false]
        split
        · simp only [List.length_nil]; omega
        · have := ha s (t * n); omega
      · simp only [k4, k5, if_false, List.length_append]
        have h3 := ha s t
        have h4 := hb s t
        split
        · split <;> omega
        · split <;> omega
theorem plG_len (k n : Nat) (a b : Fo) : fLen (plG k n a b).1 ≤ fLen a + 1 := by
  unfold plG
  split
  · split
    · simp
    · split <;> simp [fGr, fLen, fNil]
  · split
    · split <;> simp [fGr, fLen, fNil]
      split <;> simp [fLen]
    · split <;> simp [fGr, fLen, fNil]
theorem fPl_len : ∀ t : Fo, fLen (fPl t).1 ≤ fSz t := by
  intro t
  induction t using fo_ind with
  | h0 x => exact Nat.le_refl _
  | h1 k l r ih => simp only [fPl, fLf, fLen, fSz]; omega
  | h2 k n a b r iha ihb ihr =>
    have := plG_len k n (fPl a).1 (fPl b).1
    simp only [fPl, fLen_app, fSz]
    omega
theorem plG_ok {k n d : Nat} {a b : Fo} (h0 : 0 < d) (hd : d ≤ 6) (hk : k = 4 ∧ n < 400 ∨ k = 5 ∧ n < 10 ∨ k = 6 ∧ n < 5 ∨ k = 7 ∧ n < 3) (ha : pOk (d - 1) a) (hb : pOk (d - 1) b) : pOk d (plG k n a b).1 := by
  have ha1 : pOk d a := by
    have := pOk_succ ha
    rwa [show d - 1 + 1 = d by omega] at this
  unfold plG
  split
  · rename_i k4
    split
    · exact ha1
    · split
      · rename_i m c x y
        obtain ⟨h1, h2, h3, h4, h5⟩ := ha
        have hc := pOk_succ h3
        rw [show d - 1 - 1 + 1 = d - 1 by omega] at hc
        exact ⟨h0, Or.inl ⟨rfl, by omega, rfl⟩, hc, trivial, trivial⟩
      · exact ⟨h0, Or.inl ⟨rfl, by omega, rfl⟩, ha, trivial, trivial⟩
  · split
    · split
      · exact ⟨h0, Or.inr (Or.inl ⟨rfl, by omega, rfl⟩), ha, trivial, trivial⟩
      · dsimp only
        split
        · trivial
        · exact ha1
    · split
      · exact ha1
      · exact ⟨h0, by omega, ha, hb, trivial⟩
theorem fPl_ok : ∀ (t : Fo) (d : Nat), d ≤ 6 → fOk d t → pOk d (fPl t).1 := by
  intro t
  induction t using fo_ind with
  | h0 x => intro d _ _; trivial
  | h1 k l r ih => intro d hd h; exact ⟨h.1, ih d hd h.2⟩
  | h2 k n a b r iha ihb ihr =>
    intro d hd h
    obtain ⟨h1, h2, h3, h4, h5⟩ := h
    exact pOk_app (plG_ok h1 hd (by omega) (iha (d - 1) (by omega) h3) (ihb (d - 1) (by omega) h4)) (ihr d hd h5)
