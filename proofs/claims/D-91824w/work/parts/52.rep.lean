/-! LAYER 4e: the class's objects: leaves, parts, rows, sinks -/
abbrev gG : Type := Nat → Option ga_Ce
def gLe (g g' : gG) : Prop := ∀ x c, g x = some c → g' x = some c
def Ext (g : gG) (h : gH) : Prop := ∀ x c, g x = some c → h.1 x = some c
def hFr (P : Nat → Prop) (h h' : gH) : Prop := ∀ x, ¬ P x → h'.1 x = h.1 x
theorem gLe_rfl {g : gG} : gLe g g := fun _ _ h => h
theorem gLe_trans {g g1 g2 : gG} (h : gLe g g1) (k : gLe g1 g2) : gLe g g2 := fun x c q => k x c (h x c q)
theorem Ext.le {g g' : gG} {h : gH} (k : Ext g' h) (q : gLe g g') : Ext g h := fun x c e => k x c (q x c e)
theorem hFr_rfl {P : Nat → Prop} {h : gH} : hFr P h h := fun _ _ => rfl
theorem hFr.trans {P : Nat → Prop} {h h1 h2 : gH} (p : hFr P h h1) (q : hFr P h1 h2) : hFr P h h2 := fun x hx => (q x hx).trans (p x hx)
theorem hFr.mono {P Q : Nat → Prop} {h h1 : gH} (p : hFr P h h1) (q : ∀ x, P x → Q x) : hFr Q h h1 := fun x hx => p x fun k => hx (q x k)
theorem Ext.fr {g : gG} {h h' : gH} {P : Nat → Prop} (k : Ext g h) (f : hFr P h h') (d : ∀ x, P x → g x = none) : Ext g h' := by
  intro x c e
  rw [f x (fun q => by rw [d x q] at e; cases e)]
  exact k x c e
theorem ds_at {h : gH} {a c : Nat} {fs vs : List ga_V} {t : List (Nat × Nat)} (ha : h.1 a = some (.inr (c, fs))) : ga_ds h (.inr (.inr (some a)) :: vs) t = t.lookup c := by
  simp [ga_ds, ha]
def lf5 (l : Lf) : List ga_V := [.inl (Int32.ofNat (lA l)), .inl (Int32.ofNat (lB l)), .inl (Int32.ofNat (lThing l)), .inl (Int32.ofNat (lMuch l)), .inl (Int32.ofNat (lAt l))]
def lf6 (l : Lf) : List ga_V := [.inl (Int32.ofNat (lA l)), .inl (Int32.ofNat (lB l)), .inl (Int32.ofNat (lThing l)), .inl (Int32.ofNat (lMuch l)), .inl (Int32.ofNat (lAt l)), .inl (Int32.ofNat (lForm l))]
def lf7 (l : Lf) : List ga_V := [.inl (Int32.ofNat (lA l)), .inl (Int32.ofNat (lB l)), .inl (Int32.ofNat (lThing l)), .inl (Int32.ofNat (lMuch l)), .inl (Int32.ofNat (lAt l)), .inl (Int32.ofNat (lCoin l)), .inl (Int32.ofNat (lTill l))]
/-- the leaf object at a place -/
def RLf (g : gG) (a : Nat) (l : Lf) : Prop := lOk l ∧ ((lForm l < 2 ∧ g a = some (.inr (13, lf6 l))) ∨ (lForm l = 2 ∧ g a = some (.inr (11, lf7 l))) ∨ (lForm l = 3 ∧ g a = some (.inr (12, lf7 l))))
/-- parts of an All's array from place j to k are the forest -/
def RSeq (g : gG) : Fo → (Nat → Option Nat) → Nat → Nat → Prop
  | .leaf _, _, j, k => j = k
  | .branch _ (.leaf l) r, f, j, k => j < k ∧ (∃ a, f j = some a ∧ RLf g a l) ∧ RSeq g r f (j + 1) k
  | .branch c (.branch n a b) r, f, j, k => j < k ∧ (∃ y z q m w f1, f j = some y ∧ g z = some (.inr (8, [.inr (.inr (some q)), .inl (Int32.ofNat m)])) ∧ g q = some (.inl (4, w, .inr (.inr f1))) ∧ m ≤ w ∧ w ≤ 65536 ∧ RSeq g a f1 0 m ∧
      ((c = 4 ∧ g y = some (.inr (14, [.inl (Int32.ofNat n), .inr (.inr (some z))]))) ∨
       (c = 5 ∧ g y = some (.inr (15, [.inl (Int32.ofNat n), .inr (.inr (some z))]))) ∨
       (∃ z2 q2 m2 w2 f2, g z2 = some (.inr (8, [.inr (.inr (some q2)), .inl (Int32.ofNat m2)])) ∧ g q2 = some (.inl (4, w2, .inr (.inr f2))) ∧ m2 ≤ w2 ∧ w2 ≤ 65536 ∧ RSeq g b f2 0 m2 ∧
         ((c = 6 ∧ g y = some (.inr (17, [.inr (.inr (some z)), .inr (.inr (some z2)), .inl (Int32.ofNat n)]))) ∨
          (c = 7 ∧ ∃ u, g y = some (.inr (18, [.inr (.inr (some z)), .inr (.inr (some z2)), .inl u, .inl (Int32.ofNat n)]))))))) ∧ RSeq g r f (j + 1) k
def IsAll (g : gG) (z : Nat) (t : Fo) : Prop := ∃ q m w f, g z = some (.inr (8, [.inr (.inr (some q)), .inl (Int32.ofNat m)])) ∧ g q = some (.inl (4, w, .inr (.inr f))) ∧ m ≤ w ∧ w ≤ 65536 ∧ RSeq g t f 0 m
theorem RLf.mono {g g' : gG} (hg : gLe g g') {a : Nat} {l : Lf} (h : RLf g a l) : RLf g' a l := by
  refine ⟨h.1, ?_⟩
  rcases h.2 with ⟨h1, h2⟩ | ⟨h1, h2⟩ | ⟨h1, h2⟩
  · exact Or.inl ⟨h1, hg _ _ h2⟩
  · exact Or.inr (Or.inl ⟨h1, hg _ _ h2⟩)
  · exact Or.inr (Or.inr ⟨h1, hg _ _ h2⟩)
theorem RSeq.mono {g g' : gG} (hg : gLe g g') : ∀ (t : Fo) {f : Nat → Option Nat} {j k : Nat}, RSeq g t f j k → RSeq g' t f j k := by
  intro t
  induction t using fo_ind with
  | h0 x => intro f j k h; exact h
  | h1 n l r ih =>
    intro f j k h
    obtain ⟨h1, ⟨a, h2, h3⟩, h4⟩ := h
    exact ⟨h1, ⟨a, h2, h3.mono hg⟩, ih h4⟩
  | h2 c n a b r iha ihb ihr =>
    intro f j k h
    obtain ⟨h1, ⟨y, z, q, m, w, f1, h2, h3, h4, h5, h6, h7, h8⟩, h9⟩ := h
    refine ⟨h1, ⟨y, z, q, m, w, f1, h2, hg _ _ h3, hg _ _ h4, h5, h6, iha h7, ?_⟩, ihr h9⟩
    rcases h8 with ⟨e, h⟩ | ⟨e, h⟩ | ⟨z2, q2, m2, w2, f2, k1, k2, k3, k4, k5, k6⟩
    · exact Or.inl ⟨e, hg _ _ h⟩
    · exact Or.inr (Or.inl ⟨e, hg _ _ h⟩)
    · refine Or.inr (Or.inr ⟨z2, q2, m2, w2, f2, hg _ _ k1, hg _ _ k2, k3, k4, ihb k5, ?_⟩)
      rcases k6 with ⟨e, h⟩ | ⟨e, u, h⟩
      · exact Or.inl ⟨e, hg _ _ h⟩
      · exact Or.inr ⟨e, u, hg _ _ h⟩
theorem IsAll.mono {g g' : gG} (hg : gLe g g') {z : Nat} {t : Fo} (h : IsAll g z t) : IsAll g' z t := by
  obtain ⟨q, m, w, f, h1, h2, h3, h4, h5⟩ := h
  exact ⟨q, m, w, f, hg _ _ h1, hg _ _ h2, h3, h4, RSeq.mono hg t h5⟩
theorem RSeq.le {g : gG} : ∀ (t : Fo) {f : Nat → Option Nat} {j k : Nat}, RSeq g t f j k → k = j + fLen t := by
  intro t
  induction t using fo_ind with
  | h0 x => intro f j k h; exact h.symm
  | h1 n l r ih =>
    intro f j k h
    have := ih h.2.2
    simp only [fLen]
    omega
  | h2 c n a b r iha ihb ihr =>
    intro f j k h
    have := ihr h.2.2
    simp only [fLen]
    omega
/-- a sink at s: its five arrays behind it -/
def isSink (h : gH) (s : Nat) (rows : List Row) : Prop := ∃ f0 f1 f2 f3 f4, h.1 s = some (.inr (4, [.inr (.inr (some (s + 1))), .inr (.inr (some (s + 2))), .inr (.inr (some (s + 3))), .inr (.inr (some (s + 4))), .inr (.inr (some (s + 5))), .inl (Int32.ofNat rows.length)])) ∧ h.1 (s + 1) = some (.inl (0, 216, .inl f0)) ∧ h.1 (s + 2) = some (.inl (0, 216, .inl f1)) ∧ h.1 (s + 3) = some (.inl (0, 216, .inl f2)) ∧ h.1 (s + 4) = some (.inl (0, 216, .inl f3)) ∧ h.1 (s + 5) = some (.inl (1, 216, .inr (.inl f4))) ∧ rows.length ≤ 216 ∧ ∀ i r, rows[i]? = some r → f0 i = Int32.ofNat r.1 ∧ f1 i = Int32.ofNat r.2.1 ∧ f2 i = Int32.ofNat r.2.2.1 ∧ f3 i = Int32.ofNat r.2.2.2.1 ∧ f4 i = Int64.ofNat r.2.2.2.2
/-- a row of leaves at r: its two arrays behind it -/
def isRow (g : gG) (c : gG) (r : Nat) (xs : List (Lf × Nat)) : Prop := ∃ f0 f1, c r = some (.inr (3, [.inr (.inr (some (r + 1))), .inr (.inr (some (r + 2))), .inl (Int32.ofNat xs.length)])) ∧ c (r + 1) = some (.inl (5, 72, .inr (.inr f0))) ∧ c (r + 2) = some (.inl (0, 72, .inl f1)) ∧ xs.length ≤ 72 ∧ ∀ i x, xs[i]? = some x → (∃ a, f0 i = some a ∧ RLf g a x.1) ∧ f1 i = Int32.ofNat x.2
theorem isSink.fr {h h' : gH} {s : Nat} {rows : List Row} {P : Nat → Prop} (k : isSink h s rows) (f : hFr P h h') (d : ∀ x, s ≤ x → x < s + 6 → ¬ P x) : isSink h' s rows := by
  obtain ⟨f0, f1, f2, f3, f4, h1, h2, h3, h4, h5, h6, h7⟩ := k
  refine ⟨f0, f1, f2, f3, f4, ?_, ?_, ?_, ?_, ?_, ?_, h7⟩
  · rw [f s (d _ (by omega) (by omega))]; exact h1
  · rw [f _ (d _ (by omega) (by omega))]; exact h2
  · rw [f _ (d _ (by omega) (by omega))]; exact h3
  · rw [f _ (d _ (by omega) (by omega))]; exact h4
  · rw [f _ (d _ (by omega) (by omega))]; exact h5
  · rw [f _ (d _ (by omega) (by omega))]; exact h6
theorem isRow.mono {g g' : gG} {c c' : gG} {r : Nat} {xs : List (Lf × Nat)} (k : isRow g c r xs) (hg : gLe g g') (hc : ∀ x, r ≤ x → x < r + 3 → c' x = c x) : isRow g' c' r xs := by
  obtain ⟨f0, f1, h1, h2, h3, h4, h5⟩ := k
  refine ⟨f0, f1, ?_, ?_, ?_, h4, fun i x hx => ?_⟩
  · rw [hc _ (by omega) (by omega)]; exact h1
  · rw [hc _ (by omega) (by omega)]; exact h2
  · rw [hc _ (by omega) (by omega)]; exact h3
  · obtain ⟨⟨a, q1, q2⟩, q3⟩ := h5 i x hx
    exact ⟨⟨a, q1, q2.mono hg⟩, q3⟩
theorem app_get {α : Type} {xs : List α} {r x : α} {i : Nat} (h : (xs ++ [r])[i]? = some x) : (i < xs.length ∧ xs[i]? = some x) ∨ (i = xs.length ∧ x = r) := by
  rcases Nat.lt_or_ge i xs.length with q | q
  · exact Or.inl ⟨q, by rw [List.getElem?_append_left q] at h; exact h⟩
  · right
    rw [List.getElem?_append_right q] at h
    have : i - xs.length = 0 := by
      rcases Nat.eq_zero_or_pos (i - xs.length) with e | e
      · exact e
      · rw [List.getElem?_eq_none (by simp; omega)] at h; cases h
    rw [this] at h
    exact ⟨by omega, by simpa using h.symm⟩
