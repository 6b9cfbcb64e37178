/-! LAYER 4h: pure: nets, who lends -/
def nTerm (fam : Nat → Nat) (f th : Nat) (dy : Nat → Bool) (r : Row) : Int := if r.2.2.2.1 = th ∧ dy r.1 = true then (if fam r.2.2.1 = f then (r.2.2.2.2 : Int) else 0) - (if fam r.2.1 = f then (r.2.2.2.2 : Int) else 0) else 0
def netZ (fam : Nat → Nat) (f th : Nat) (dy : Nat → Bool) : List Row → Int
  | [] => 0
  | r :: l => nTerm fam f th dy r + netZ fam f th dy l
theorem netZ_app (fam : Nat → Nat) (f th : Nat) (dy : Nat → Bool) (xs ys : List Row) : netZ fam f th dy (xs ++ ys) = netZ fam f th dy xs + netZ fam f th dy ys := by
  induction xs with
  | nil => simp [netZ]
  | cons r l ih => simp only [List.cons_append, netZ, ih]; omega
def dAll : Nat → Bool := fun _ => true
def dOn (d : Nat) : Nat → Bool := fun x => decide (x = d)
/-- rows of nothing don't count -/
def nzRow (r : Row) : Bool := decide (r.2.2.2.2 ≠ 0)
theorem nTerm_zero {fam : Nat → Nat} {f th : Nat} {dy : Nat → Bool} {r : Row} (h : nzRow r = false) : nTerm fam f th dy r = 0 := by
  have h0 : r.2.2.2.2 = 0 := by simpa [nzRow] using h
  unfold nTerm
  rw [h0]
  split <;> simp
theorem netZ_nz (fam : Nat → Nat) (f th : Nat) (dy : Nat → Bool) (xs : List Row) : netZ fam f th dy (xs.filter nzRow) = netZ fam f th dy xs := by
  induction xs with
  | nil => rfl
  | cons r l ih =>
    rw [List.filter_cons]
    cases h : nzRow r with
    | true => rw [if_pos rfl]; simp only [netZ, ih]
    | false => rw [if_neg (by decide)]; simp only [netZ, ih, nTerm_zero h]; omega
/-- how much all rows come to -/
def sumR : List Row → Nat
  | [] => 0
  | r :: l => r.2.2.2.2 + sumR l
theorem netZ_bound (fam : Nat → Nat) (f th : Nat) (dy : Nat → Bool) (xs : List Row) : -(sumR xs : Int) ≤ netZ fam f th dy xs ∧ netZ fam f th dy xs ≤ sumR xs := by
  induction xs with
  | nil => simp [netZ, sumR]
  | cons r l ih =>
    have h : -(r.2.2.2.2 : Int) ≤ nTerm fam f th dy r ∧ nTerm fam f th dy r ≤ r.2.2.2.2 := by
      unfold nTerm
      split
      · split <;> split <;> omega
      · omega
    simp only [netZ, sumR]
    omega
theorem netZ_none {fam : Nat → Nat} {f th : Nat} {dy : Nat → Bool} {xs : List Row} (h : ∀ r ∈ xs, r.2.2.2.1 = th → dy r.1 = true → r.2.2.2.2 = 0) : netZ fam f th dy xs = 0 := by
  induction xs with
  | nil => rfl
  | cons r l ih =>
    have h1 : nTerm fam f th dy r = 0 := by
      unfold nTerm
      split
      · rename_i q
        rw [h r List.mem_cons_self q.1 q.2]
        split <;> split <;> rfl
      · rfl
    simp only [netZ, h1, ih fun r hr => h r (List.mem_cons_of_mem _ hr)]
    rfl
/-- what every row keeps -/
def rOk (r : Row) : Prop := r.1 < 4000 ∧ r.2.1 < 8 ∧ r.2.2.1 < 8 ∧ r.2.2.2.1 < 6 ∧ r.2.2.2.2 ≤ 5313878559
theorem sumR_bound {xs : List Row} (h : ∀ r ∈ xs, rOk r) : sumR xs ≤ 5313878559 * xs.length := by
  induction xs with
  | nil => exact Nat.zero_le _
  | cons r l ih =>
    have h1 := (h r List.mem_cons_self).2.2.2.2
    have h2 := ih fun r hr => h r (List.mem_cons_of_mem _ hr)
    simp only [sumR, List.length_cons]
    omega
theorem lRows_ok {l : Lf} {s t : Nat} (h : lOk l) (hs : s ≤ 2394) (ht : t ≤ 531441) : ∀ r ∈ lRows l s t, rOk r := by
  obtain ⟨o1, o2, o3, o4, o5, o6, o7, o8, o9⟩ := h
  have m1 : lMuch l * t ≤ 5313878559 := by
    have := Nat.mul_le_mul (show lMuch l ≤ 9999 by omega) ht
    omega
  have m2 : lCoin l * t ≤ 5313878559 := by
    have := Nat.mul_le_mul (show lCoin l ≤ 9999 by omega) ht
    omega
  intro r hr
  unfold lRows at hr
  simp only [List.mem_cons, List.mem_append] at hr
  rcases hr with rfl | hr | hr
  · exact ⟨by dsimp only; omega, o2, o3, o4, m1⟩
  · split at hr
    · rcases List.mem_singleton.mp hr with rfl
      exact ⟨by dsimp only; omega, o3, o2, o4, m1⟩
    · cases hr
  · split at hr
    · rcases List.mem_singleton.mp hr with rfl
      exact ⟨by dsimp only; omega, o3, o2, by dsimp only; omega, m2⟩
    · cases hr
theorem fRows_ok : ∀ (t : Fo) (d : Nat), fOk d t → ∀ s n c, s + 399 * d ≤ 2394 → n * 9 ^ d ≤ 531441 → ∀ r ∈ fRows t s n c, rOk r := by
  intro t
  induction t using fo_ind with
  | h0 x => intro d _ s n c _ _ r hr; cases hr
  | h1 k l u ih =>
    intro d h s n c hs hn r hr
    have h9 : 1 ≤ 9 ^ d := Nat.pow_pos (by decide)
    rcases List.mem_append.mp hr with q | q
    · exact lRows_ok h.1 (by omega) (Nat.le_trans (Nat.le_mul_of_pos_right n h9) hn) r q
    · exact ih d h.2 s n c hs hn r q
  | h2 k m a b u iha ihb ihu =>
    intro d h s n c hs hn r hr
    obtain ⟨hd, hk, ha, hb, hu⟩ := h
    rcases List.mem_append.mp hr with q | q
    · have e9 : 9 ^ d = 9 * 9 ^ (d - 1) := by
        have : d = (d - 1) + 1 := by omega
        rw [this, Nat.pow_succ, Nat.add_sub_cancel, Nat.mul_comm]
      have hn1 : n * 9 ^ (d - 1) ≤ 531441 := by
        rw [e9] at hn
        have : n * 9 ^ (d - 1) ≤ n * (9 * 9 ^ (d - 1)) := Nat.mul_le_mul_left n (by omega)
        omega
      split at q
      · exact iha (d - 1) ha (s + m) n c (by omega) hn1 r q
      · split at q
        · split at q
          · cases q
          · rename_i k4 k5 m0
            have hm : m ≤ 9 := by omega
            refine iha (d - 1) ha s (n * m) c (by omega) ?_ r q
            rw [Nat.mul_assoc]
            rw [e9] at hn
            exact Nat.le_trans (Nat.mul_le_mul_left n (Nat.mul_le_mul_right _ hm)) hn
        · split at q
          · split at q
            · exact iha (d - 1) ha s n c (by omega) hn1 r q
            · exact ihb (d - 1) hb s n c (by omega) hn1 r q
          · split at q
            · exact ihb (d - 1) hb s n c (by omega) hn1 r q
            · exact iha (d - 1) ha s n c (by omega) hn1 r q
    · exact ihu d hu s n c hs hn r q
/-- days: each once, the first first -/
theorem sorted_ext : ∀ {xs ys : List Nat}, xs.Pairwise (· < ·) → ys.Pairwise (· < ·) → (∀ d, d ∈ xs ↔ d ∈ ys) → xs = ys := by
  intro xs
  induction xs with
  | nil =>
    intro ys _ _ h
    cases ys with
    | nil => rfl
    | cons y l => exact absurd ((h y).mpr List.mem_cons_self) (by simp)
  | cons x l ih =>
    intro ys hx hy h
    cases ys with
    | nil => exact absurd ((h x).mp List.mem_cons_self) (by simp)
    | cons y m =>
      have hx1 := List.pairwise_cons.mp hx
      have hy1 := List.pairwise_cons.mp hy
      have e : x = y := by
        rcases List.mem_cons.mp ((h x).mp List.mem_cons_self) with q | q
        · exact q
        · rcases List.mem_cons.mp ((h y).mpr List.mem_cons_self) with p | p
          · exact p.symm
          · have := hx1.1 y p
            have := hy1.1 x q
            omega
      subst e
      congr 1
      refine ih hx1.2 hy1.2 fun d => ?_
      constructor
      · intro q
        rcases List.mem_cons.mp ((h d).mp (List.mem_cons_of_mem _ q)) with p | p
        · subst p; exact absurd (hx1.1 d q) (Nat.lt_irrefl _)
        · exact p
      · intro q
        rcases List.mem_cons.mp ((h d).mpr (List.mem_cons_of_mem _ q)) with p | p
        · subst p; exact absurd (hy1.1 d q) (Nat.lt_irrefl _)
        · exact p
/-- a day, put in its place -/
def insD (d : Nat) : List Nat → List Nat
  | [] => [d]
  | x :: l => if x < d then x :: insD d l else if x = d then x :: l else d :: x :: l
theorem insD_mem {d x : Nat} : ∀ {l : List Nat}, x ∈ insD d l ↔ x = d ∨ x ∈ l := by
  intro l
  induction l with
  | nil => simp [insD]
  | cons y l ih =>
    unfold insD
    split
    · rw [List.mem_cons, ih, List.mem_cons]
      constructor
      · rintro (q | q | q)
        · exact Or.inr (Or.inl q)
        · exact Or.inl q
        · exact Or.inr (Or.inr q)
      · rintro (q | q | q)
        · exact Or.inr (Or.inl q)
        · exact Or.inl q
        · exact Or.inr (Or.inr q)
    · split
      · rename_i e
        subst e
        rw [List.mem_cons]
        constructor
        · exact Or.inr
        · rintro (q | q)
          · exact Or.inl q
          · exact q
      · rw [List.mem_cons]
theorem insD_sorted {d : Nat} : ∀ {l : List Nat}, l.Pairwise (· < ·) → (insD d l).Pairwise (· < ·) := by
  intro l
  induction l with
  | nil => intro _; simp [insD]
  | cons y l ih =>
    intro h
    have h1 := List.pairwise_cons.mp h
    unfold insD
    split
    · refine List.pairwise_cons.mpr ⟨fun x hx => ?_, ih h1.2⟩
      rcases insD_mem.mp hx with rfl | q
      · assumption
      · exact h1.1 x q
    · split
      · exact h
      · refine List.pairwise_cons.mpr ⟨fun x hx => ?_, h⟩
        rcases List.mem_cons.mp hx with rfl | q
        · omega
        · have := h1.1 x q; omega
/-- the days of rows -/
def daysOf (xs : List Row) : List Nat := xs.foldl (fun D r => insD r.1 D) []
theorem days_fold (xs : List Row) : ∀ D : List Nat, D.Pairwise (· < ·) → (xs.foldl (fun D r => insD r.1 D) D).Pairwise (· < ·) ∧ ∀ d, d ∈ xs.foldl (fun D r => insD r.1 D) D ↔ d ∈ D ∨ ∃ r ∈ xs, r.1 = d := by
  induction xs with
  | nil => intro D h; exact ⟨h, fun d => by simp⟩
  | cons r l ih =>
    intro D h
    obtain ⟨p1, p2⟩ := ih (insD r.1 D) (insD_sorted h)
    refine ⟨p1, fun d => ?_⟩
    rw [List.foldl_cons, p2 d, insD_mem]
    constructor
    · rintro ((q | q) | ⟨r2, q1, q2⟩)
      · exact Or.inr ⟨r, List.mem_cons_self, q.symm⟩
      · exact Or.inl q
      · exact Or.inr ⟨r2, List.mem_cons_of_mem _ q1, q2⟩
    · rintro (q | ⟨r2, q1, q2⟩)
      · exact Or.inl (Or.inr q)
      · rcases List.mem_cons.mp q1 with rfl | q1
        · exact Or.inl (Or.inl q2.symm)
        · exact Or.inr ⟨r2, q1, q2⟩
theorem daysOf_sorted (xs : List Row) : (daysOf xs).Pairwise (· < ·) := (days_fold xs [] List.Pairwise.nil).1
theorem daysOf_mem {xs : List Row} {d : Nat} : d ∈ daysOf xs ↔ ∃ r ∈ xs, r.1 = d := by
  unfold daysOf
  rw [(days_fold xs [] List.Pairwise.nil).2 d]
  simp
/-- who lends -/
def totZ (fam : Nat → Nat) (rows : List Row) (f th : Nat) : Int := netZ fam f th dAll rows
def dayZ (fam : Nat → Nat) (rows : List Row) (f d : Nat) : Int := netZ fam f 0 (dOn d) rows
def evenB (fam : Nat → Nat) (rows : List Row) (f : Nat) : Bool := (List.range 5).all fun t => decide (totZ fam rows f (t + 1) = 0)
def okTail : Bool → List Int → Bool
  | _, [] => true
  | got, v :: r => if v < 0 ∧ got = true then false else okTail (got || decide (0 < v)) r
def nzD (fam : Nat → Nat) (rows : List Row) (l : Nat) (D : List Nat) : List Nat := D.filter fun d => decide (dayZ fam rows l d ≠ 0)
/-- the day on which it begins to lend, by its own days -/
def lendDay (fam : Nat → Nat) (rows : List Row) (D : List Nat) (l : Nat) : Option Nat := match nzD fam rows l D with
  | [] => none
  | d :: r => if dayZ fam rows l d < 0 ∧ okTail false ((d :: r).map (dayZ fam rows l)) = true then some d else none
def lendB (fam : Nat → Nat) (rows : List Row) (l b : Nat) : Bool := evenB fam rows l && evenB fam rows b && decide (0 < totZ fam rows l 0) && decide (totZ fam rows b 0 < 0) && (match lendDay fam rows (daysOf rows) l with
  | none => false
  | some d => decide (0 < dayZ fam rows b d))
/-- days of coin that flows -/
def coinRows (rows : List Row) : List Row := (rows.filter nzRow).filter fun r => decide (r.2.2.2.1 = 0)
theorem dayZ_none {fam : Nat → Nat} {rows : List Row} {f d : Nat} (h : d ∉ daysOf (coinRows rows)) : dayZ fam rows f d = 0 := by
  refine netZ_none fun r hr h0 hd => ?_
  rcases Nat.eq_zero_or_pos r.2.2.2.2 with q | q
  · exact q
  · exfalso
    apply h
    refine daysOf_mem.mpr ⟨r, ?_, by simpa [dOn] using hd⟩
    unfold coinRows
    rw [List.mem_filter, List.mem_filter]
    exact ⟨⟨hr, by simp [nzRow]; omega⟩, by simpa using h0⟩
theorem coinDays_sub {rows : List Row} {d : Nat} (h : d ∈ daysOf (coinRows rows)) : d ∈ daysOf rows := by
  obtain ⟨r, h1, h2⟩ := daysOf_mem.mp h
  unfold coinRows at h1
  exact daysOf_mem.mpr ⟨r, (List.mem_filter.mp (List.mem_filter.mp h1).1).1, h2⟩
theorem nzD_same (fam : Nat → Nat) (rows : List Row) (l : Nat) : nzD fam rows l (daysOf (coinRows rows)) = nzD fam rows l (daysOf rows) := by
  refine sorted_ext ((daysOf_sorted _).filter _) ((daysOf_sorted _).filter _) fun d => ?_
  unfold nzD
  rw [List.mem_filter, List.mem_filter]
  constructor
  · exact fun q => ⟨coinDays_sub q.1, q.2⟩
  · rintro ⟨q1, q2⟩
    refine ⟨?_, q2⟩
    rcases Decidable.em (d ∈ daysOf (coinRows rows)) with h | h
    · exact h
    · rw [dayZ_none h] at q2; simp at q2
theorem lendDay_same (fam : Nat → Nat) (rows : List Row) (l : Nat) : lendDay fam rows (daysOf (coinRows rows)) l = lendDay fam rows (daysOf rows) l := by
  unfold lendDay
  rw [nzD_same]
