/-! LAYER 5a: the class's object as a whole -/
def xOb (X lwA tp n L nW nH nO : Nat) (flt : Int32) : ga_Ce := .inr (0, [.inr (.inr (some (X + 1))), .inr (.inr (some (X + 2))), .inr (.inr (some (X + 3))), .inr (.inr (some (X + 4))), .inr (.inr (some (X + 5))), .inr (.inr (some (X + 6))), .inr (.inr (some (lwA))), .inr (.inr (some (X + 9))), .inr (.inr (some (X + 24))), .inl (Int32.ofNat (tp)), .inl (Int32.ofNat (n)), .inl (Int32.ofNat (L)), .inl (Int32.ofNat (nW)), .inl (Int32.ofNat (nH)), .inl (Int32.ofNat (nO)), .inl flt, .inr (.inr (some (X + 39)))])
/-- a bundle's block in its place -/
def BK (X n : Nat) (g : gG) (h : gH) (adr : Nat → Nat) (dl : Nat → DD) (p : Nat × List Nat) : Prop := isBun g h X p.1 adr dl p.2 ∧ (∀ k ∈ p.2, k < n) ∧ (∀ x, inB p.1 x → g x = none) ∧ p.1 + 15 ≤ h.2.1 ∧ X + 9 ≤ p.1 ∧ (p.1 + 15 ≤ X + 39 ∨ X + 40 ≤ p.1)
def RCells (h : gH) (X : Nat) (fam : Nat → Nat) (n : Nat) (adr : Nat → Nat) (L lwA : Nat) (W : List (List Rl)) (wA : Nat → Nat) (HB : List (Nat × List Nat)) (off : List Nat) (B : Nat → Nat) (tp : Nat) (flt : Int32) : Prop :=
  h.1 X = some (xOb X lwA tp n L W.length HB.length off.length flt) ∧
  (∃ fm, h.1 (X + 1) = some (.inl (0, 8, .inl fm)) ∧ ∀ i, i < 8 → fm i = Int32.ofNat (fam i) ∧ fam i < 8) ∧
  (∃ f, h.1 (X + 2) = some (.inl (6, 24, .inr (.inr f))) ∧ ∀ k, k < n → f k = some (adr k)) ∧
  (∃ f, h.1 (X + 3) = some (.inl (7, 12, .inr (.inr f))) ∧ ∀ w, w < W.length → f w = some (wA w)) ∧
  (∃ f, h.1 (X + 4) = some (.inl (9, 6, .inr (.inr f))) ∧ ∀ i p, HB[i]? = some p → f i = some p.1) ∧
  (∃ f, h.1 (X + 5) = some (.inl (6, 10, .inr (.inr f))) ∧ ∀ i k, off[i]? = some k → f i = some (adr k)) ∧
  (∃ f, h.1 (X + 6) = some (.inl (2, 600, .inl f)) ∧ ∀ i, i < tp → f i = byt (B i) ∧ B i < 256) ∧
  (∃ f, h.1 (X + 39) = some (.inl (0, 24, .inl f)))
/-- the deals, the laws, the bounds: what stands for good -/
def RFix (b X : Nat) (g : gG) (n : Nat) (dl : Nat → DD) (adr : Nat → Nat) (L : Nat) (lw : List Rl) (lwA : Nat) (W : List (List Rl)) (wA : Nat → Nat) (HB : List (Nat × List Nat)) (off : List Nat) (tp : Nat) : Prop :=
  b ≤ X ∧ (∀ x, (X ≤ x ∧ x < X + 7) ∨ (X + 9 ≤ x ∧ x < X + 40) → g x = none) ∧ n ≤ 24 ∧ tp ≤ 600 ∧ L ≤ 6 ∧ W.length ≤ 12 ∧ HB.length ≤ 6 ∧ off.length ≤ 10 ∧ (∀ k ∈ off, k < n) ∧ DLS g adr dl n ∧ (∀ k, k < n → fChs (dl k).2.2.1 (dl k).2.1) ∧ IsLaw g lwA lw ∧ ∀ w rs, W[w]? = some rs → IsLaw g (wA w) rs
def RBl (X n : Nat) (g : gG) (h : gH) (adr : Nat → Nat) (dl : Nat → DD) (ks oks : List Nat) (HB : List (Nat × List Nat)) : Prop := (∀ p ∈ (X + 9, ks) :: (X + 24, oks) :: HB, BK X n g h adr dl p) ∧ ((X + 9, ks) :: (X + 24, oks) :: HB).Pairwise fun p q => p.1 + 15 ≤ q.1
def RepC (b X : Nat) (g : gG) (h : gH) (fam : Nat → Nat) (n : Nat) (dl : Nat → DD) (adr : Nat → Nat) (L : Nat) (lw : List Rl) (lwA : Nat) (W : List (List Rl)) (wA : Nat → Nat) (ks oks : List Nat) (HB : List (Nat × List Nat)) (off : List Nat) (B : Nat → Nat) (tp : Nat) (flt : Int32) : Prop :=
  Wd g h ∧ X + 40 ≤ h.2.1 ∧ RCells h X fam n adr L lwA W wA HB off B tp flt ∧ RFix b X g n dl adr L lw lwA W wA HB off tp ∧ RBl X n g h adr dl ks oks HB
/-- what a call may change: the object's own cells, its arrays, the bundles -/
def Rg (X : Nat) (HB : List (Nat × List Nat)) (x : Nat) : Prop := (X ≤ x ∧ x < X + 40) ∨ ∃ p ∈ HB, inB p.1 x
def cFr (X : Nat) (HB : List (Nat × List Nat)) (h h' : gH) : Prop := (∀ x, x < h.2.1 → ¬ Rg X HB x → h'.1 x = h.1 x) ∧ h.2.1 ≤ h'.2.1 ∧ h.2.2 ≤ h'.2.2
theorem cFr_rfl {X : Nat} {HB : List (Nat × List Nat)} {h : gH} : cFr X HB h h := ⟨fun _ _ _ => rfl, Nat.le_refl _, Nat.le_refl _⟩
theorem cFr.trans {X : Nat} {HB : List (Nat × List Nat)} {h h1 h2 : gH} (a : cFr X HB h h1) (k : cFr X HB h1 h2) : cFr X HB h h2 :=
  ⟨fun x hx hn => (k.1 x (Nat.lt_of_lt_of_le hx a.2.1) hn).trans (a.1 x hx hn), Nat.le_trans a.2.1 k.2.1, Nat.le_trans a.2.2 k.2.2⟩
section L
variable {b X n L lwA tp : Nat} {g : gG} {h h' : gH} {fam adr wA B : Nat → Nat} {dl : Nat → DD} {lw : List Rl} {W : List (List Rl)} {ks oks ks' oks' off : List Nat} {HB : List (Nat × List Nat)} {flt : Int32}
theorem RCells.fr (k : RCells h X fam n adr L lwA W wA HB off B tp flt) (f : ∀ x, (X ≤ x ∧ x < X + 7) ∨ x = X + 39 → h'.1 x = h.1 x) : RCells h' X fam n adr L lwA W wA HB off B tp flt := by
  unfold RCells
  rw [f X (by omega), f (X + 1) (by omega), f (X + 2) (by omega), f (X + 3) (by omega), f (X + 4) (by omega), f (X + 5) (by omega), f (X + 6) (by omega), f (X + 39) (by omega)]
  exact k
theorem BK.fr {p : Nat × List Nat} (k : BK X n g h adr dl p) (f : ∀ x, inB p.1 x → h'.1 x = h.1 x) (hh : h.2.1 ≤ h'.2.1) : BK X n g h' adr dl p := by
  obtain ⟨k1, k2, k3, k4, k5, k6⟩ := k
  exact ⟨k1.fr gLe_rfl (fun x a c => f x ⟨a, c⟩), k2, k3, Nat.le_trans k4 hh, k5, k6⟩
theorem RepC.ctx {p : Nat × List Nat} (k : RepC b X g h fam n dl adr L lw lwA W wA ks oks HB off B tp flt) (hp : p ∈ (X + 9, ks) :: (X + 24, oks) :: HB) : BCtx b g h X p.1 adr dl n p.2 fam := by
  obtain ⟨hw, hX, ⟨c0, ⟨fm, c1, c2⟩, -⟩, ⟨f1, f2, f3, f4, f5, f6, f7, f8, f9, f10, f11⟩, hB, -⟩ := k
  obtain ⟨k1, k2, k3, k4, k5, k6⟩ := hB p hp
  refine ⟨by omega, hw.1, k3, k1, f10, k2, ⟨X + 1, _, fm, c0, rfl, c1, c2⟩, fun F fs fm' e1 e2 e3 => ?_⟩
  rw [c0] at e1
  cases e1
  cases e2
  omega
/-- a bundle's block changes, nothing else -/
theorem RepC.upd {A : Nat} (k : RepC b X g h fam n dl adr L lw lwA W wA ks oks HB off B tp flt) (hA : ∃ p ∈ (X + 9, ks) :: (X + 24, oks) :: HB, p.1 = A) (f : hFr (inB A) h h') (hh : h'.2 = h.2) (hq : ∀ p ∈ (X + 9, ks') :: (X + 24, oks') :: HB, (p.1 = A → isBun g h' X A adr dl p.2 ∧ ∀ k ∈ p.2, k < n) ∧ (p.1 ≠ A → p ∈ (X + 9, ks) :: (X + 24, oks) :: HB)) : RepC b X g h' fam n dl adr L lw lwA W wA ks' oks' HB off B tp flt := by
  obtain ⟨hw, hX, hc, hf, hB, hP⟩ := k
  obtain ⟨p0, hp0, rfl⟩ := hA
  obtain ⟨a1, a2, a3, a4, a5, a6⟩ := hB p0 hp0
  have hP' : ((X + 9, ks') :: (X + 24, oks') :: HB).Pairwise fun p q => p.1 + 15 ≤ q.1 := by
    obtain ⟨p1, p2⟩ := List.pairwise_cons.mp hP
    obtain ⟨p3, p4⟩ := List.pairwise_cons.mp p2
    refine List.pairwise_cons.mpr ⟨fun q hq' => ?_, List.pairwise_cons.mpr ⟨fun q hq' => p3 q hq', p4⟩⟩
    rcases List.mem_cons.mp hq' with rfl | q'
    · show X + 9 + 15 ≤ X + 24; omega
    · exact p1 q (List.mem_cons_of_mem _ q')
  refine ⟨⟨hw.1.fr f a3, fun x q => by rw [hh]; exact hw.2 x q⟩, by rw [hh]; exact hX, hc.fr (fun x hx => f x (fun q => by unfold inB at q; omega)), hf, fun p hp => ?_, hP'⟩
  obtain ⟨q1, q2⟩ := hq p hp
  by_cases e : p.1 = p0.1
  · obtain ⟨r1, r2⟩ := q1 e
    exact ⟨by rw [e]; exact r1, r2, by rw [e]; exact a3, by rw [e, hh]; exact a4, by rw [e]; exact a5, by rw [e]; exact a6⟩
  · have hm := q2 e
    refine (hB p hm).fr (fun x hx => f x (fun q => ?_)) (by rw [hh]; exact Nat.le_refl _)
    have hd : ∀ {l : List (Nat × List Nat)}, l.Pairwise (fun p q => p.1 + 15 ≤ q.1) → ∀ p ∈ l, ∀ q ∈ l, p.1 ≠ q.1 → p.1 + 15 ≤ q.1 ∨ q.1 + 15 ≤ p.1 := by
      intro l
      induction l with
      | nil => intro _ p hp; cases hp
      | cons y l ih =>
        intro hl p hp q hq hne
        obtain ⟨l1, l2⟩ := List.pairwise_cons.mp hl
        rcases List.mem_cons.mp hp with rfl | hp2
        · rcases List.mem_cons.mp hq with rfl | hq2
          · exact absurd rfl hne
          · exact Or.inl (l1 q hq2)
        · rcases List.mem_cons.mp hq with rfl | hq2
          · exact Or.inr (l1 p hp2)
          · exact ih l2 p hp2 q hq2 hne
    have := hd hP p hm p0 hp0 e
    unfold inB at q hx
    omega
theorem RepC.same {p : Nat × List Nat} (k : RepC b X g h fam n dl adr L lw lwA W wA ks oks HB off B tp flt) (hp : p ∈ (X + 9, ks) :: (X + 24, oks) :: HB) (f : hFr (inB p.1) h h') (hh : h'.2 = h.2) (hb : isBun g h' X p.1 adr dl p.2) : RepC b X g h' fam n dl adr L lw lwA W wA ks oks HB off B tp flt := by
  refine k.upd ⟨p, hp, rfl⟩ f hh (fun q hq => ⟨fun e => ?_, fun _ => hq⟩)
  have hP := k.2.2.2.2.2
  have hd : ∀ {l : List (Nat × List Nat)}, l.Pairwise (fun p q => p.1 + 15 ≤ q.1) → ∀ p ∈ l, ∀ q ∈ l, p.1 = q.1 → p = q := by
    intro l
    induction l with
    | nil => intro _ p hp; cases hp
    | cons y l ih =>
      intro hl p hp q hq he
      obtain ⟨l1, l2⟩ := List.pairwise_cons.mp hl
      rcases List.mem_cons.mp hp with rfl | hp2
      · rcases List.mem_cons.mp hq with rfl | hq2
        · rfl
        · have := l1 q hq2; omega
      · rcases List.mem_cons.mp hq with rfl | hq2
        · have := l1 p hp2; omega
        · exact ih l2 p hp2 q hq2 he
  have : q = p := hd hP q hq p hp e
  subst this
  exact ⟨hb, (k.2.2.2.2.1 q hq).2.1⟩
theorem RepC.own (k : RepC b X g h fam n dl adr L lw lwA W wA ks oks HB off B tp flt) (f : hFr (inB (X + 9)) h h') (hh : h'.2 = h.2) (hb : isBun g h' X (X + 9) adr dl ks') (hk : ∀ k ∈ ks', k < n) : RepC b X g h' fam n dl adr L lw lwA W wA ks' oks HB off B tp flt := by
  refine k.upd ⟨(X + 9, ks), List.mem_cons_self, rfl⟩ f hh (fun q hq => ?_)
  have hP := k.2.2.2.2.2
  obtain ⟨p1, -⟩ := List.pairwise_cons.mp hP
  rcases List.mem_cons.mp hq with rfl | hq
  · exact ⟨fun _ => ⟨hb, hk⟩, fun e => absurd rfl e⟩
  · have := p1 q hq
    exact ⟨fun e => by dsimp only at this; omega, fun _ => List.mem_cons_of_mem _ hq⟩
theorem RepC.oth (k : RepC b X g h fam n dl adr L lw lwA W wA ks oks HB off B tp flt) (f : hFr (inB (X + 24)) h h') (hh : h'.2 = h.2) (hb : isBun g h' X (X + 24) adr dl oks') (hk : ∀ k ∈ oks', k < n) : RepC b X g h' fam n dl adr L lw lwA W wA ks oks' HB off B tp flt := by
  refine k.upd ⟨(X + 24, oks), List.mem_cons_of_mem _ List.mem_cons_self, rfl⟩ f hh (fun q hq => ?_)
  have hP := k.2.2.2.2.2
  obtain ⟨p1, p2⟩ := List.pairwise_cons.mp hP
  obtain ⟨p3, -⟩ := List.pairwise_cons.mp p2
  rcases List.mem_cons.mp hq with rfl | hq
  · exact ⟨fun e => by dsimp only at e; omega, fun _ => List.mem_cons_self⟩
  · rcases List.mem_cons.mp hq with rfl | hq
    · exact ⟨fun _ => ⟨hb, hk⟩, fun e => absurd rfl e⟩
    · have := p3 q hq
      exact ⟨fun e => by dsimp only at this; omega, fun _ => List.mem_cons_of_mem _ (List.mem_cons_of_mem _ hq)⟩
theorem RepC.cfr {A : Nat} (hA : ∃ p ∈ (X + 9, ks) :: (X + 24, oks) :: HB, p.1 = A) (f : hFr (inB A) h h') (hh : h'.2 = h.2) : cFr X HB h h' := by
  obtain ⟨p, hp, rfl⟩ := hA
  refine ⟨fun x _ hn => f x (fun q => hn ?_), by rw [hh]; exact Nat.le_refl _, by rw [hh]; exact Nat.le_refl _⟩
  unfold inB at q
  rcases List.mem_cons.mp hp with rfl | hp
  · left; dsimp only at q; omega
  · rcases List.mem_cons.mp hp with rfl | hp
    · left; dsimp only at q; omega
    · exact Or.inr ⟨p, hp, q⟩
/-- a deal's number tells it -/
theorem RepC.adi (k : RepC b X g h fam n dl adr L lw lwA W wA ks oks HB off B tp flt) {i j : Nat} (hi : i < n) (hj : j < n) (e : adr i = adr j) : i = j := by
  obtain ⟨hw, hX, hc, ⟨f1, f2, f3, f4, f5, f6, f7, f8, f9, f10, f11⟩, hB⟩ := k
  obtain ⟨-, z, r, d0, -⟩ := f10 i hi
  obtain ⟨-, z2, r2, d2, -⟩ := f10 j hj
  rw [e, d2] at d0
  injection d0 with d0
  injection d0 with d0
  injection d0 with d1 d2
  injection d2 with d3 d4
  injection d3 with d5
  exact ((i32_eq (by omega) (by omega)).mp d5).symm
end L
