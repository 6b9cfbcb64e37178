/-! LAYER 1l: calls, new, arrays made -/
section HC
variable {cc : ByteArray} {own : String} {ini : Bool} {Ω : ga_Om} {ok : gH → Prop} {mt : Nat → ga_Mn} {cr : ga_Cr gH} {g : ga_Gt} {rt : Option ga_V → gH → Prop}
variable {w wa pc p1 p2 p3 p4 idx k n pk : Nat} {cs : List Nat} {o : ga_Ex gH (Option Nat)}
theorem gx_U {η : Type} {le : η → η → Prop} {ok : η → Prop} {g : Nat → ga_Env → List ga_V → η → Prop} (O : ga_or le ok) : gx le ok g vU w pc pc (xC ()) :=
  ⟨fun K e h hk => ⟨(), h, hk, O.1 h⟩, fun e st h K hw hk kk => (kk () h hk).2⟩
theorem wP {α β : Type} {ta : α → List ga_V} {tb : β → List ga_V} {n m : Nat} (ha : ∀ x, ga_wt (ta x) ≤ n) (hb : ∀ y, ga_wt (tb y) ≤ m) (q : α × β) : ga_wt (tb q.2 ++ ta q.1) ≤ m + n := by
  rw [wt_app]
  exact Nat.add_le_add (hb q.2) (ha q.1)
/-- how an answer lies on the stack -/
def ga_tr {α : Type} (tr : α → Option ga_V) (tv : α → List ga_V) : Prop := ∀ x, (tr x).toList = tv x
theorem trI : ga_tr ga_rI vI := fun _ => rfl
theorem trL : ga_tr ga_rL vL := fun _ => rfl
theorem trR : ga_tr ga_rR vR := fun _ => rfl
theorem trU : ga_tr ga_rU vU := fun _ => rfl
theorem gx_CV {α β : Type} {tr : α → Option ga_V} {tv : α → List ga_V} {tb fa : β → List ga_V} {as : ga_Ex gH β} {t : List (Nat × Nat)} (O : ga_or ga_le ok) (hle : ∀ y vs h r h', cr y vs h r h' → ga_le h h') (H : ga_HM cc own ini Ω ok mt cr g) (hw8 : w ≤ 8) (htr : ga_tr tr tv) (ha : gx ga_le ok g tb w pc p1 as) (hfa : ∀ x, tb x = (fa x).reverse) (hn : ∀ x, (fa x).length = n + 1) (hd : decode cc p1 = .ok (.invokevirtual idx, 3)) (hf : ga_VCs own idx n mt t) : gx ga_le ok g tv w pc (p1 + 3) (hCV tr cr t fa as) := by
  refine ⟨fun K e h hk => ?_, fun e st h K hw hk kk => ?_⟩
  · obtain ⟨x, h', h1, h2⟩ := ha.1 _ e h hk
    split at h1
    · obtain ⟨v, h3, h4, h5⟩ := h1
      exact ⟨v, h3, h5, ga_le_trans h2 (hle _ _ _ _ _ h4)⟩
    · cases h1
  · refine ha.2 e st h _ hw hk fun x h' hv => ?_
    split at hv
    · rename_i y hy
      obtain ⟨v, h3, h4, h5⟩ := hv
      have K1 := kk _ _ h5
      refine ⟨O.2.2 _ _ (hle _ _ _ _ _ h4) K1.1, ?_⟩
      rw [hfa]
      have hnx := hn x
      generalize hvs : fa x = vs at hy h4 hnx
      unfold ga_ds at hy
      split at hy
      · rename_i a r
        split at hy
        · rename_i c fs hc
          obtain ⟨q1, q2⟩ := hf.at hy
          have K2 := H.2.2.2.2.2.2.2.2.2.2.2.2.2.2.2.2.2.2.1 (st := st) (env := e) (vs := r) hd q1 q2 hc (by simpa using hnx) h4 (Nat.le_trans hw hw8) K1.1 (by rw [htr]; exact K1.2)
          simpa using K2
        · cases hy
      · cases hy
    · cases hv
theorem gx_CS {α β : Type} {tr : α → Option ga_V} {tv : α → List ga_V} {tb fa : β → List ga_V} {as : ga_Ex gH β} {y : Nat} (O : ga_or ga_le ok) (hle : ∀ y vs h r h', cr y vs h r h' → ga_le h h') (H : ga_HM cc own ini Ω ok mt cr g) (hw8 : w ≤ 8) (htr : ga_tr tr tv) (ha : gx ga_le ok g tb w pc p1 as) (hfa : ∀ x, tb x = (fa x).reverse) (hn : ∀ x, (fa x).length = n) (hd : decode cc p1 = .ok (.invokestatic idx, 3)) (hf : ga_SC own idx (mt y) n) (hL : (mt y).2.2.1 ≤ 45) : gx ga_le ok g tv w pc (p1 + 3) (hCS tr cr y fa as) := by
  refine ⟨fun K e h hk => ?_, fun e st h K hw hk kk => ?_⟩
  · obtain ⟨x, h', ⟨v, h3, h4, h5⟩, h2⟩ := ha.1 _ e h hk
    exact ⟨v, h3, h5, ga_le_trans h2 (hle _ _ _ _ _ h4)⟩
  · refine ha.2 e st h _ hw hk fun x h' ⟨v, h3, h4, h5⟩ => ?_
    have K1 := kk _ _ h5
    refine ⟨O.2.2 _ _ (hle _ _ _ _ _ h4) K1.1, ?_⟩
    rw [hfa]
    exact H.2.2.2.2.2.2.2.2.2.2.2.2.2.2.2.2.2.2.2.2.1 hd hf hL (hn x) h4 (Nat.le_trans hw hw8) K1.1 (by rw [htr]; exact K1.2)
theorem gx_Sp {α β : Type} {tr : α → Option ga_V} {tv : α → List ga_V} {tb fa : β → List ga_V} {as : ga_Ex gH β} {y : Nat} (O : ga_or ga_le ok) (hle : ∀ y vs h r h', cr y vs h r h' → ga_le h h') (H : ga_HM cc own ini Ω ok mt cr g) (hw8 : w ≤ 8) (htr : ga_tr tr tv) (ha : gx ga_le ok g tb w pc p1 as) (hfa : ∀ x, tb x = (fa x).reverse) (hn : ∀ x, (fa x).length = n + 1) (hd : decode cc p1 = .ok (.invokespecial idx, 3)) (hf : ga_ICs own idx n (mt y) cs) (hL : (mt y).2.2.1 ≤ 45) : gx ga_le ok g tv w pc (p1 + 3) (hSp tr cr y cs fa as) := by
  refine ⟨fun K e h hk => ?_, fun e st h K hw hk kk => ?_⟩
  · obtain ⟨x, h', ⟨-, v, h3, h4, h5⟩, h2⟩ := ha.1 _ e h hk
    exact ⟨v, h3, h5, ga_le_trans h2 (hle _ _ _ _ _ h4)⟩
  · refine ha.2 e st h _ hw hk fun x h' ⟨⟨⟨a, c, fs⟩, hz⟩, v, h3, h4, h5⟩ => ?_
    have K1 := kk _ _ h5
    refine ⟨O.2.2 _ _ (hle _ _ _ _ _ h4) K1.1, ?_⟩
    rw [hfa]
    have hnx := hn x
    obtain ⟨e1, g1, g2⟩ := ga_oO_inv hz
    generalize hvs : fa x = vs at e1 h4 hnx
    split at e1
    · rename_i r l
      subst e1
      have K2 := H.2.2.2.2.2.2.2.2.2.2.2.2.2.2.2.2.2.2.2.1 (st := st) (env := e) (vs := l) hd (hf.at g2) hL g1 (by simpa using hnx) h4 (Nat.le_trans hw hw8) K1.1 (by rw [htr]; exact K1.2)
      simpa using K2
    · cases e1
theorem gx_New {β : Type} {tb fa : β → List ga_V} {as : ga_Ex gH β} {y ci N idx2 : Nat} {df : List ga_V} {ty0 : Nat → FieldType} (O : ga_or ga_le ok) (hle : ∀ y vs h r h', cr y vs h r h' → ga_le h h') (H : ga_HM cc own ini Ω ok mt cr g) (hw8 : w ≤ 7) (hd0 : decode cc pc = .ok (.new idx2, 3)) (hnw : ga_NW own idx2 ci ty0) (hl : df.length = N) (hN : (ga_cl[ci]?).map (fun r => r.2.2) = some N) (hdf : ∀ j, j < N → defaultValue (ty0 j) = vp_V (df.map ga_v) j) (hd1 : decode cc (pc + 3) = .ok (.dup, 1)) (ha : gx ga_le ok g tb (2 + w) (pc + 4) p1 as) (hfa : ∀ x, tb x = (fa x).reverse) (hn : ∀ x, (fa x).length = n) (hd : decode cc p1 = .ok (.invokespecial idx, 3)) (hf : ga_IC own idx (ga_nmOf ci) (mt y) n) (hL : (mt y).2.2.1 ≤ 45) : gx ga_le ok g vR w pc (p1 + 3) (hNew cr ci N df y fa as) := by
  refine ⟨fun K e h hk => ?_, fun e st h K hw hk kk => ?_⟩
  · obtain ⟨x, h', ⟨-, h3, h4, h5⟩, h2⟩ := ha.1 _ e _ hk
    exact ⟨_, h3, h5, ga_le_trans ga_le_new (ga_le_trans h2 (hle _ _ _ _ _ h4))⟩
  · obtain ⟨x, h', ⟨-, h3, h4, h5⟩, h2⟩ := ha.1 _ e _ hk
    have hok : ok (ga_new h (.inr (ci, df)) N) := O.2.2 _ _ (ga_le_trans h2 (hle _ _ _ _ _ h4)) (kk _ _ h5).1
    refine H.2.2.2.2.2.2.2.2.2.2.2.1 hd0 hnw hl hN hdf hok ?_
    refine H.1 (pc + 3) e _ _ _ 1 (pc + 4, e, .inr (.inr (some h.2.1)) :: .inr (.inr (some h.2.1)) :: st) hd1 rfl rfl ?_
    refine ha.2 e (.inr (.inr (some h.2.1)) :: .inr (.inr (some h.2.1)) :: st) _ _ (by show ga_wt ([.inr (.inr (some h.2.1)), .inr (.inr (some h.2.1))] ++ st) ≤ _; rw [wt_app]; exact Nat.add_le_add (Nat.le_refl 2) hw) hk fun x h' ⟨⟨fs, hc⟩, h3, h4, h5⟩ => ?_
    have K1 := kk _ _ h5
    refine ⟨O.2.2 _ _ (hle _ _ _ _ _ h4) K1.1, ?_⟩
    rw [hfa]
    exact H.2.2.2.2.2.2.2.2.2.2.2.2.2.2.2.2.2.2.2.1 (st := .inr (.inr (some h.2.1)) :: st) hd hf hL hc (hn x) h4 (by show ga_wt ([.inr (.inr (some h.2.1))] ++ st) ≤ _; rw [wt_app]; exact Nat.le_trans (Nat.add_le_add (Nat.le_refl 1) hw) (by omega)) K1.1 K1.2
theorem gx_NA {i : ga_Ex gH Int32} (O : ga_or ga_le ok) (H : ga_HM cc own ini Ω ok mt cr g) (hk : k < 4) (hq : Jvm.Cond.arrayClass (ga_ty k) ∈ lw_all) (hi : gx ga_le ok g vI w pc p1 i) (hd : decode cc p1 = .ok (.newarray (ga_at k), 2)) : gx ga_le ok g vR w pc (p1 + 2) (hNA k i) := by
  refine ⟨fun K e h hk => ?_, fun e st h K hw hk' kk => ?_⟩
  · obtain ⟨x, h', h1, h2⟩ := hi.1 _ e h hk
    exact ⟨_, _, h1.2.2, ga_le_trans h2 ga_le_new⟩
  · refine hi.2 e st h _ hw hk' fun x h' hv => ?_
    have K1 := kk _ _ hv.2.2
    exact ⟨O.2.2 _ _ ga_le_new K1.1, H.2.2.2.2.2.2.2.2.2.2.2.2.1 hk hq hd hv.1 hv.2.1 K1.1 K1.2⟩
theorem gx_NQ {i : ga_Ex gH Int32} (O : ga_or ga_le ok) (H : ga_HM cc own ini Ω ok mt cr g) (hk4 : 4 ≤ k) (hk : k < 10) (hq : Jvm.Cond.classLink own idx (ga_kn k) ∈ lw_all) (hao : ga_kn k ∈ ga_ao) (hi : gx ga_le ok g vI w pc p1 i) (hd : decode cc p1 = .ok (.anewarray idx, 3)) : gx ga_le ok g vR w pc (p1 + 3) (hNA k i) := by
  refine ⟨fun K e h hk => ?_, fun e st h K hw hk' kk => ?_⟩
  · obtain ⟨x, h', h1, h2⟩ := hi.1 _ e h hk
    exact ⟨_, _, h1.2.2, ga_le_trans h2 ga_le_new⟩
  · refine hi.2 e st h _ hw hk' fun x h' hv => ?_
    have K1 := kk _ _ hv.2.2
    have hz : ga_zero k = .inr (.inr fun _ => none) := by
      rcases k with _ | _ | _ | _ | k <;> first | omega | rfl
    rw [hz] at K1
    exact ⟨O.2.2 _ _ ga_le_new K1.1, H.2.2.2.2.2.2.2.2.2.2.2.2.2.1 hk4 hk hq hao hd hv.1 hv.2.1 K1.1 K1.2⟩
/-- the elements of an array that is written down: each behind dup and its place -/
def ga_litI (cc : ByteArray) (ok : gH → Prop) (g : ga_Gt) (w : Nat) : Nat → Nat → Nat → List (ga_Ex gH Int32) → Prop
  | pc, pe, _, [] => pc = pe
  | pc, pe, j, x :: r => ∃ i n p1 p2, decode cc pc = .ok (.dup, 1) ∧ decode cc (pc + 1) = .ok (i, n) ∧ ga_ln i n = true ∧ (∀ e st, ga_ps i (pc + 1) e st = some (p1, e, .inl (Int32.ofNat j) :: st)) ∧ gx ga_le ok g vI (3 + w) p1 p2 x ∧ decode cc p2 = .ok (.iastore, 1) ∧ ga_litI cc ok g w (p2 + 1) pe (j + 1) r
def ga_litL (cc : ByteArray) (ok : gH → Prop) (g : ga_Gt) (w : Nat) : Nat → Nat → Nat → List (ga_Ex gH Int64) → Prop
  | pc, pe, _, [] => pc = pe
  | pc, pe, j, x :: r => ∃ i n p1 p2, decode cc pc = .ok (.dup, 1) ∧ decode cc (pc + 1) = .ok (i, n) ∧ ga_ln i n = true ∧ (∀ e st, ga_ps i (pc + 1) e st = some (p1, e, .inl (Int32.ofNat j) :: st)) ∧ gx ga_le ok g vL (3 + w) p1 p2 x ∧ decode cc p2 = .ok (.lastore, 1) ∧ ga_litL cc ok g w (p2 + 1) pe (j + 1) r
theorem ga_litI_go {w pe : Nat} (O : ga_or ga_le ok) (H : ga_HM cc own ini Ω ok mt cr g) {a : Nat} (hb : Ω.2.2.1 ≤ a) : ∀ (xs : List (ga_Ex gH Int32)) (pc j : Nat), ga_litI cc ok g w pc pe j xs → ∀ (K : Option Nat → gH → Prop) (e : ga_Env) (h : gH), hLitI a j xs K e h → (∃ h', K (some a) h' ∧ ga_le h h') ∧ ∀ st, ga_wt st ≤ w → (∀ h', K (some a) h' → ok h' ∧ g pe e (.inr (.inr (some a)) :: st) h') → g pc e (.inr (.inr (some a)) :: st) h := by
  intro xs
  induction xs with
  | nil =>
    intro pc j hl K e h hk
    cases hl
    exact ⟨⟨h, hk, ga_le_rfl⟩, fun st hw kk => (kk h hk).2⟩
  | cons x r ih =>
    intro pc j hl K e h hk
    obtain ⟨i, n, p1, p2, d0, d1, d2, d3, d4, d5, d6⟩ := hl
    have live : ∀ h1 v, (match ga_aR h1 (some a) 0 with | some (_, n, .inl f) => vp_in (Int32.ofNat j) n ∧ hLitI a (j + 1) r K e (ga_set h1 a (.inl (0, n, .inl (va_up f (Int32.ofNat j).toNatClampNeg v)))) | _ => False) → ∃ h', K (some a) h' ∧ ga_le h1 h' := by
      intro h1 v hv
      split at hv
      · obtain ⟨⟨h', k1, k2⟩, -⟩ := ih _ _ d6 K e _ hv.2
        exact ⟨h', k1, ga_le_trans ga_le_set k2⟩
      · cases hv
    constructor
    · obtain ⟨v, h1, k1, k2⟩ := d4.1 _ e h hk
      obtain ⟨h', k3, k4⟩ := live h1 v k1
      exact ⟨h', k3, ga_le_trans k2 k4⟩
    · intro st hw kk
      refine H.1 pc e _ h _ 1 (pc + 1, e, .inr (.inr (some a)) :: .inr (.inr (some a)) :: st) d0 rfl rfl ?_
      refine H.1 (pc + 1) e _ h _ n _ d1 d2 (d3 e _) ?_
      refine d4.2 e (.inl (Int32.ofNat j) :: .inr (.inr (some a)) :: .inr (.inr (some a)) :: st) h _ (by show ga_wt ([.inl (Int32.ofNat j), .inr (.inr (some a)), .inr (.inr (some a))] ++ st) ≤ _; rw [wt_app]; exact Nat.add_le_add (Nat.le_refl 3) hw) hk fun v h1 hv => ?_
      obtain ⟨h', k3, k4⟩ := live h1 v hv
      refine ⟨O.2.2 _ _ k4 (kk h' k3).1, ?_⟩
      split at hv
      · rename_i q m f hq
        obtain ⟨e1, g1⟩ := ga_aR_inv hq
        cases e1
        exact H.2.2.2.2.2.2.1 (st := .inr (.inr (some a)) :: st) hb d5 g1 hv.1 ((ih _ _ d6 K e _ hv.2).2 st hw kk)
      · cases hv
theorem ga_litL_go {w pe : Nat} (O : ga_or ga_le ok) (H : ga_HM cc own ini Ω ok mt cr g) {a : Nat} (hb : Ω.2.2.1 ≤ a) : ∀ (xs : List (ga_Ex gH Int64)) (pc j : Nat), ga_litL cc ok g w pc pe j xs → ∀ (K : Option Nat → gH → Prop) (e : ga_Env) (h : gH), hLitL a j xs K e h → (∃ h', K (some a) h' ∧ ga_le h h') ∧ ∀ st, ga_wt st ≤ w → (∀ h', K (some a) h' → ok h' ∧ g pe e (.inr (.inr (some a)) :: st) h') → g pc e (.inr (.inr (some a)) :: st) h := by
  intro xs
  induction xs with
  | nil =>
    intro pc j hl K e h hk
    cases hl
    exact ⟨⟨h, hk, ga_le_rfl⟩, fun st hw kk => (kk h hk).2⟩
  | cons x r ih =>
    intro pc j hl K e h hk
    obtain ⟨i, n, p1, p2, d0, d1, d2, d3, d4, d5, d6⟩ := hl
    have live : ∀ h1 v, (match ga_aR h1 (some a) 1 with | some (_, n, .inr (.inl f)) => vp_in (Int32.ofNat j) n ∧ hLitL a (j + 1) r K e (ga_set h1 a (.inl (1, n, .inr (.inl (va_up f (Int32.ofNat j).toNatClampNeg v))))) | _ => False) → ∃ h', K (some a) h' ∧ ga_le h1 h' := by
      intro h1 v hv
      split at hv
      · obtain ⟨⟨h', k1, k2⟩, -⟩ := ih _ _ d6 K e _ hv.2
        exact ⟨h', k1, ga_le_trans ga_le_set k2⟩
      · cases hv
    constructor
    · obtain ⟨v, h1, k1, k2⟩ := d4.1 _ e h hk
      obtain ⟨h', k3, k4⟩ := live h1 v k1
      exact ⟨h', k3, ga_le_trans k2 k4⟩
    · intro st hw kk
      refine H.1 pc e _ h _ 1 (pc + 1, e, .inr (.inr (some a)) :: .inr (.inr (some a)) :: st) d0 rfl rfl ?_
      refine H.1 (pc + 1) e _ h _ n _ d1 d2 (d3 e _) ?_
      refine d4.2 e (.inl (Int32.ofNat j) :: .inr (.inr (some a)) :: .inr (.inr (some a)) :: st) h _ (by show ga_wt ([.inl (Int32.ofNat j), .inr (.inr (some a)), .inr (.inr (some a))] ++ st) ≤ _; rw [wt_app]; exact Nat.add_le_add (Nat.le_refl 3) hw) hk fun v h1 hv => ?_
      obtain ⟨h', k3, k4⟩ := live h1 v hv
      refine ⟨O.2.2 _ _ k4 (kk h' k3).1, ?_⟩
      split at hv
      · rename_i q m f hq
        obtain ⟨e1, g1⟩ := ga_aR_inv hq
        cases e1
        exact H.2.2.2.2.2.2.2.1 (st := .inr (.inr (some a)) :: st) hb d5 g1 hv.1 ((ih _ _ d6 K e _ hv.2).2 st hw kk)
      · cases hv
def hLI (b n : Nat) (xs : List (ga_Ex gH Int32)) : ga_Ex gH (Option Nat) := fun K e h => b ≤ h.2.1 ∧ hLitI h.2.1 0 xs K e (ga_new h (.inl (0, n, ga_zero 0)) n)
def hLL (b n : Nat) (xs : List (ga_Ex gH Int64)) : ga_Ex gH (Option Nat) := fun K e h => b ≤ h.2.1 ∧ hLitL h.2.1 0 xs K e (ga_new h (.inl (1, n, ga_zero 1)) n)
theorem gx_LI {xs : List (ga_Ex gH Int32)} {i : Instr} {m : Nat} (O : ga_or ga_le ok) (H : ga_HM cc own ini Ω ok mt cr g) (hq : Jvm.Cond.arrayClass (ga_ty 0) ∈ lw_all) (d1 : decode cc pc = .ok (i, m)) (d2 : ga_ln i m = true) (d3 : ∀ e st, ga_ps i pc e st = some (p1, e, .inl (Int32.ofNat n) :: st)) (hd : decode cc p1 = .ok (.newarray (ga_at 0), 2)) (hn : n ≤ 1000) (hl : ga_litI cc ok g w (p1 + 2) p2 0 xs) : gx ga_le ok g vR w pc p2 (hLI Ω.2.2.1 n xs) := by
  have hcl : (Int32.ofNat n).toNatClampNeg = n := nI_clamp (n := n) (by omega)
  refine ⟨fun K e h hk => ?_, fun e st h K hw hk kk => ?_⟩
  · obtain ⟨⟨h', k1, k2⟩, -⟩ := ga_litI_go O H hk.1 xs _ _ hl K e _ hk.2
    exact ⟨_, h', k1, ga_le_trans ga_le_new k2⟩
  · obtain ⟨⟨h', k1, k2⟩, k3⟩ := ga_litI_go O H hk.1 xs _ _ hl K e _ hk.2
    refine H.1 pc e _ h _ m _ d1 d2 (d3 e st) ?_
    have hok : ok (ga_new h (.inl (0, n, ga_zero 0)) n) := O.2.2 _ _ k2 (kk _ h' k1).1
    refine H.2.2.2.2.2.2.2.2.2.2.2.2.1 (k := 0) (by decide) hq hd (nI_pos (n := n) (by omega)) (by rw [hcl]; omega) (by rw [hcl]; exact hok) ?_
    rw [hcl]
    exact k3 st hw (fun h' q => kk _ h' q)
theorem gx_LL {xs : List (ga_Ex gH Int64)} {i : Instr} {m : Nat} (O : ga_or ga_le ok) (H : ga_HM cc own ini Ω ok mt cr g) (hq : Jvm.Cond.arrayClass (ga_ty 1) ∈ lw_all) (d1 : decode cc pc = .ok (i, m)) (d2 : ga_ln i m = true) (d3 : ∀ e st, ga_ps i pc e st = some (p1, e, .inl (Int32.ofNat n) :: st)) (hd : decode cc p1 = .ok (.newarray (ga_at 1), 2)) (hn : n ≤ 1000) (hl : ga_litL cc ok g w (p1 + 2) p2 0 xs) : gx ga_le ok g vR w pc p2 (hLL Ω.2.2.1 n xs) := by
  have hcl : (Int32.ofNat n).toNatClampNeg = n := nI_clamp (n := n) (by omega)
  refine ⟨fun K e h hk => ?_, fun e st h K hw hk kk => ?_⟩
  · obtain ⟨⟨h', k1, k2⟩, -⟩ := ga_litL_go O H hk.1 xs _ _ hl K e _ hk.2
    exact ⟨_, h', k1, ga_le_trans ga_le_new k2⟩
  · obtain ⟨⟨h', k1, k2⟩, k3⟩ := ga_litL_go O H hk.1 xs _ _ hl K e _ hk.2
    refine H.1 pc e _ h _ m _ d1 d2 (d3 e st) ?_
    have hok : ok (ga_new h (.inl (1, n, ga_zero 1)) n) := O.2.2 _ _ k2 (kk _ h' k1).1
    refine H.2.2.2.2.2.2.2.2.2.2.2.2.1 (k := 1) (by decide) hq hd (nI_pos (n := n) (by omega)) (by rw [hcl]; omega) (by rw [hcl]; exact hok) ?_
    rw [hcl]
    exact k3 st hw (fun h' q => kk _ h' q)
theorem gs_Obj (O : ga_or ga_le ok) (H : ga_HM cc own ini Ω ok mt cr g) (h0 : decode cc pc = .ok (.aload_n 0, 1)) (hd : decode cc (pc + 1) = .ok (.invokespecial idx, 3)) (hq : Jvm.Cond.methodLink own idx objectInit ∈ lw_all) : gs ga_le ok g rt pc (pc + 4) pk sObj := by
  refine ⟨fun N C R e h hk => ?_, fun e h N C R hk kn kc kr => ?_⟩
  · unfold sObj at hk
    split at hk
    · exact Or.inl ⟨e, h, Or.inl hk, ga_le_rfl⟩
    · cases hk
  · unfold sObj at hk
    split at hk
    · rename_i a ha
      refine H.1 pc e [] h _ 1 (pc + 1, e, [.inr (.inr (some a))]) h0 rfl ?_ ?_
      · show ga_ld _ e [] 0 ga_isR = _
        unfold ga_ld
        rw [ha]
        rfl
      · exact H.2.2.2.2.2.2.2.2.2.2.2.2.2.2.2.2.2.2.2.2.2.1 hd hq (Nat.zero_le _) (kn e h hk).2
    · cases hk
theorem gs_Copy {x y : ga_Ex gH (Option Nat)} {z : ga_Ex gH Int32} (O : ga_or ga_le ok) (H : ga_HM cc own ini Ω ok mt cr g) (hA : ga_Ass (ga_kn 4) cs) (hx : gx ga_le ok g vR 0 pc p1 x) (h0 : decode cc p1 = .ok (.iconst 0, 1)) (hy : gx ga_le ok g vR 2 (p1 + 1) p2 y) (h2 : decode cc p2 = .ok (.iconst 0, 1)) (hz : gx ga_le ok g vI 4 (p2 + 1) p3 z) (hd : decode cc p3 = .ok (.invokestatic idx, 3)) (hq : Jvm.Cond.methodLink own idx arraycopyName ∈ lw_all) : gs ga_le ok g rt pc (p3 + 3) pk (sCopy Ω.2.2.1 cs x y z) := by
  have live : ∀ {N : ga_Env → gH → Prop} {e : ga_Env} {r q : Option Nat} {n : Int32} {h3 : gH}, (match ga_aR h3 r 4, ga_aR h3 q 4 with
      | some (a0, n0, .inr (.inr f)), some (a, n1, .inr (.inr p)) => Ω.2.2.1 ≤ a0 ∧ Ω.2.2.1 ≤ a ∧ ¬ n < 0 ∧ n.toNatClampNeg ≤ n0 ∧ n.toNatClampNeg ≤ n1 ∧ (∀ i, i < n.toNatClampNeg → ∀ w, f i = some w → ∃ z, ga_oO h3 (some w) cs = some z) ∧ N e (ga_set h3 a (.inl (4, n1, .inr (.inr (va_cpy f p 0 0 n.toNatClampNeg)))))
      | _, _ => False) → ∃ a n0 f a1 n1 p, ga_aR h3 r 4 = some (a, n0, .inr (.inr f)) ∧ ga_aR h3 q 4 = some (a1, n1, .inr (.inr p)) ∧ Ω.2.2.1 ≤ a ∧ Ω.2.2.1 ≤ a1 ∧ ¬ n < 0 ∧ n.toNatClampNeg ≤ n0 ∧ n.toNatClampNeg ≤ n1 ∧ (∀ i, i < n.toNatClampNeg → ∀ w, f i = some w → ∃ z, ga_oO h3 (some w) cs = some z) ∧ N e (ga_set h3 a1 (.inl (4, n1, .inr (.inr (va_cpy f p 0 0 n.toNatClampNeg))))) := by
    intro N e r q n h3 hk
    split at hk
    · rename_i a0 n0 f a n1 p q1 q2
      exact ⟨a0, n0, f, a, n1, p, q1, q2, hk⟩
    · cases hk
  have liv : ∀ {N C : ga_Env → gH → Prop} {R : Option ga_V → gH → Prop} {e : ga_Env} {h : gH}, sCopy Ω.2.2.1 cs x y z N C R e h → ∃ h', N e h' ∧ ga_le h h' := by
    intro N C R e h hk
    obtain ⟨r, h1, k1, k2⟩ := hx.1 _ e h hk
    obtain ⟨q, h2, k3, k4⟩ := hy.1 _ e h1 k1
    obtain ⟨n, h3, k5, k6⟩ := hz.1 _ e h2 k3
    obtain ⟨a, n0, f, a1, n1, p, q1, q2, q3, q4, q5, q6, q7, q8, q9⟩ := live k5
    exact ⟨_, q9, ga_le_trans k2 (ga_le_trans k4 (ga_le_trans k6 ga_le_set))⟩
  refine ⟨fun N C R e h hk => ?_, fun e h N C R hk kn kc kr => ?_⟩
  · obtain ⟨h', k1, k2⟩ := liv hk
    exact Or.inl ⟨e, h', Or.inl k1, k2⟩
  · refine hx.2 e [] h _ (Nat.zero_le _) hk fun r h1 k1 => ?_
    obtain ⟨qa, ha2, k3a, k4a⟩ := hy.1 _ e h1 k1
    obtain ⟨na, ha3, k5a, k6a⟩ := hz.1 _ e ha2 k3a
    obtain ⟨_, _, _, _, _, _, -, -, -, -, -, -, -, -, q9a⟩ := live k5a
    refine ⟨O.2.2 _ _ (ga_le_trans k4a (ga_le_trans k6a ga_le_set)) (kn _ _ q9a).1, ?_⟩
    refine H.1 p1 e _ h1 _ 1 (p1 + 1, e, .inl 0 :: (vR r ++ [])) h0 rfl rfl ?_
    refine hy.2 e (.inl 0 :: (vR r ++ [])) h1 _ (by show ga_wt ([.inl 0] ++ (vR r ++ [])) ≤ 2; rw [wt_app, wt_app]; have := wR r; show 1 + (_ + 0) ≤ 2; omega) k1 fun q h2' k3 => ?_
    obtain ⟨nb, hb3, k5b, k6b⟩ := hz.1 _ e h2' k3
    obtain ⟨_, _, _, _, _, _, -, -, -, -, -, -, -, -, q9b⟩ := live k5b
    refine ⟨O.2.2 _ _ (ga_le_trans k6b ga_le_set) (kn _ _ q9b).1, ?_⟩
    refine H.1 p2 e _ h2' _ 1 (p2 + 1, e, .inl 0 :: (vR q ++ .inl 0 :: (vR r ++ []))) h2 rfl rfl ?_
    refine hz.2 e (.inl 0 :: (vR q ++ .inl 0 :: (vR r ++ []))) h2' _ (by show ga_wt ([.inl 0] ++ (vR q ++ ([.inl 0] ++ (vR r ++ [])))) ≤ 4; rw [wt_app, wt_app, wt_app, wt_app]; have := wR r; have := wR q; show 1 + (_ + (1 + (_ + 0))) ≤ 4; omega) k3 fun n h3 k5 => ?_
    obtain ⟨a, n0, f, a1, n1, p, q1, q2, q3, q4, q5, q6, q7, q8, q9⟩ := live k5
    have K := kn _ _ q9
    refine ⟨O.2.2 _ _ ga_le_set K.1, ?_⟩
    obtain ⟨rfl, g1⟩ := ga_aR_inv q1
    obtain ⟨rfl, g2⟩ := ga_aR_inv q2
    exact H.2.2.2.2.2.2.2.2.2.2.2.2.2.2.2.2.2.2.2.2.2.2 q4 q3 hd hq g1 g2 q5 q6 q7 (fun i hi y hy => by
      obtain ⟨⟨a3, c3, fs3⟩, hz⟩ := q8 i hi y hy
      obtain ⟨e2, g3, g4⟩ := ga_oO_inv hz
      cases e2
      obtain ⟨q2, g5, g6⟩ := hA.at g4
      exact ⟨c3, fs3, q2, g3, g5, g6⟩) K.2
end HC
