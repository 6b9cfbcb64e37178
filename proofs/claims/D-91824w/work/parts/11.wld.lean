/-! LAYER 1b: the abstract heap and how the machine holds it -/
/-- an array: its kind, length, contents; an object: its class, its fields -/
abbrev ga_Ct : Type := (Nat → Int32) ⊕ (Nat → Int64) ⊕ (Nat → Option Nat)
abbrev ga_Ce : Type := (Nat × Nat × ga_Ct) ⊕ (Nat × List ga_V)
/-- the cells, the next address, the slots so far -/
abbrev ga_H : Type := (Nat → Option ga_Ce) × Nat × Nat
def ga_set (h : ga_H) (a : Nat) (c : ga_Ce) : ga_H := (fun x => if x = a then some c else h.1 x, h.2.1, h.2.2)
def ga_new (h : ga_H) (c : ga_Ce) (k : Nat) : ga_H := (fun x => if x = h.2.1 then some c else h.1 x, h.2.1 + 1, h.2.2 + k)
def ga_le (h h' : ga_H) : Prop := h.2.1 ≤ h'.2.1 ∧ h.2.2 ≤ h'.2.2
theorem ga_le_rfl {h : ga_H} : ga_le h h := ⟨Nat.le_refl _, Nat.le_refl _⟩
theorem ga_le_trans {a b c : ga_H} (h : ga_le a b) (k : ga_le b c) : ga_le a c := ⟨Nat.le_trans h.1 k.1, Nat.le_trans h.2 k.2⟩
def ga_ct : ga_Ct → ((Nat → Int32) ⊕ (Nat → Int64) ⊕ (Nat → UInt32) ⊕ (Nat → UInt64) ⊕ (Nat → Option Nat))
  | .inl f => .inl f
  | .inr (.inl f) => .inr (.inl f)
  | .inr (.inr f) => .inr (.inr (.inr (.inr f)))
def ga_el : ga_Ct → Nat → Value
  | .inl f, j => .int (f j)
  | .inr (.inl f), j => .long (f j)
  | .inr (.inr f), j => va_rf (f j)
theorem ga_cellV (cA : ClassId) (n : Nat) (f : ga_Ct) : vp_cell cA (n, ga_ct f) = arrV cA n (ga_el f) := by
  rcases f with f | f | f <;> rfl
def ga_cl : List vw_C := [(RX0, TX0, 17), (RX1, TX1, 2), (RX2, TX2, 12), (RX3, TX3, 3), (RX4, TX4, 6), (RX5, TX5, 93), (RX1, TX1, 2), (RX7, TX7, 11), (RX8, TX8, 2), (RX1, TX1, 2), (RX1, TX1, 2), (RX11, TX11, 7), (RX12, TX12, 7), (RX13, TX13, 6), (RX14, TX14, 2), (RX15, TX15, 2), (RX1, TX1, 2), (RX17, TX17, 3), (RX18, TX18, 4), (RX19, TX19, 6), (RX20, TX20, 8), (RX21, TX21, 8), (RX22, TX22, 1)]
def ga_ty : Nat → FieldType
  | 0 => .int
  | 1 => .long
  | 2 => .byte
  | 3 => .boolean
  | 4 => .object "LoanNames$Part"
  | 5 => .object "LoanNames$Leaf"
  | 6 => .object "LoanNames$Deal"
  | 7 => .object "LoanNames$Law"
  | 8 => .object "LoanNames$Rule"
  | _ => .object "LoanNames$Bundle"
/-- classes' numbers and slots, arrays' classes, the first address of ours, the static arrays' addresses -/
abbrev ga_Om : Type := va_G × (Nat → ClassId) × Nat × (Nat → Nat)
def ga_tys (Ω : ga_Om) : List (ClassId × FieldType) := (List.range 10).map fun k => (Ω.2.1 k, ga_ty k)
def ga_A (Ω : ga_Om) : Nat → Prop := fun q => Ω.2.2.1 ≤ q
def ga_Ro (U : State) (a k n : Nat) (f : ga_Ct) (H : Heap) : Prop := ∃ cell : Cell, H[a]? = some cell ∧ U.isArrayOf cell (ga_ty k) ∧ cell.vm ≠ .unknown ∧ n ≤ cell.slots.size ∧ cell.slots.size.toInt32 = Int32.ofNat n ∧ ∀ j : Nat, j < n → cell.slots[j]? = some (ga_el f j)
def ga_At (Ω : ga_Om) (U : State) (a : Nat) (ce : ga_Ce) (H : Heap) : Prop := match ce with
  | .inl (k, n, f) => k < 10 ∧ ((Ω.2.2.1 ≤ a ∧ H[a]? = some (vp_cell (Ω.2.1 k) (n, ga_ct f))) ∨ (a < Ω.2.2.1 ∧ ga_Ro U a k n f H))
  | .inr (c, fs) => Ω.2.2.1 ≤ a ∧ ∃ r : vw_C, ga_cl[c]? = some r ∧ fs.length = r.2.2 ∧ t_OB a (Ω.1.1 c) r.2.2 (Ω.1.2 c) H (vp_V (fs.map ga_v))
def ga_sts (Ω : ga_Om) : List (String × String × ga_V) := [("AFTER", "J", .inr (.inl 418330731890)), ("AT", "J", .inr (.inl 24948)), ("BACK", "J", .inr (.inl 1650549611)), ("BAR", "J", .inr (.inl 6447474)), ("CHOICE", "J", .inr (.inl 109300196926309)), ("ELSE", "J", .inr (.inl 1701606245)), ("FOR", "J", .inr (.inl 6713202)), ("IF", "J", .inr (.inl 26982)), ("MORE", "J", .inr (.inl 1836020325)), ("OF", "J", .inr (.inl 28518)), ("OR", "J", .inr (.inl 28530)), ("PAID", "J", .inr (.inl 1885432164)), ("SAME", "J", .inr (.inl 1935764837)), ("THEN", "J", .inr (.inl 1952998766)), ("TIMES", "J", .inr (.inl 499984983411)), ("WITHIN", "J", .inr (.inl 131294808271214)), ("FORM_NAMES", "[J", .inr (.inr (some (Ω.2.2.2 0)))), ("HAND_NAMES", "[J", .inr (.inr (some (Ω.2.2.2 1)))), ("THING_NAMES", "[J", .inr (.inr (some (Ω.2.2.2 2)))), ("EVENT_NAMES", "[J", .inr (.inr (some (Ω.2.2.2 3))))]
def ga_isNw : Jvm.Cond → Bool
  | .fieldLinkNest .. => true
  | .methodLinkNest .. => true
  | .declares .. => true
  | .castable .. => true
  | _ => false
def ga_nw : List Jvm.Cond := lw_tbl.filter ga_isNw
def ga_ao : List String := ["LoanNames$Part", "LoanNames$Leaf", "LoanNames$Deal", "LoanNames$Law", "LoanNames$Rule", "LoanNames$Bundle"]
/-- which class is none of which, for instanceof -/
def ga_nc : List (String × String) := [("LoanNames$Pass", "LoanNames$After"), ("LoanNames$Sale", "LoanNames$After"), ("LoanNames$Hire", "LoanNames$After"), ("LoanNames$Times", "LoanNames$After"), ("LoanNames$If", "LoanNames$After"), ("LoanNames$Choice", "LoanNames$After"), ("LoanNames$Pass", "LoanNames$Times"), ("LoanNames$Sale", "LoanNames$Times"), ("LoanNames$Hire", "LoanNames$Times"), ("LoanNames$After", "LoanNames$Times"), ("LoanNames$If", "LoanNames$Times"), ("LoanNames$Choice", "LoanNames$Times"), ("LoanNames$Pass", "LoanNames$Fork"), ("LoanNames$Sale", "LoanNames$Fork"), ("LoanNames$Hire", "LoanNames$Fork"), ("LoanNames$After", "LoanNames$Fork"), ("LoanNames$Times", "LoanNames$Fork"), ("LoanNames$After", "LoanNames$Leaf"), ("LoanNames$Times", "LoanNames$Leaf"), ("LoanNames$If", "LoanNames$Leaf"), ("LoanNames$Choice", "LoanNames$Leaf"), ("LoanNames$If", "LoanNames$Choice"), ("LoanNames$Choice", "LoanNames$If")]
/-- what the tables say, in the form that rides -/
def ga_sx : List Jvm.Cond := [.selects "LoanNames$DealReader" yX6_look yX6_look, .selects "LoanNames$DealReader" yX6_isLetter yX6_isLetter, .selects "LoanNames$DealReader" yX6_isDigit yX6_isDigit, .selects "LoanNames$LawReader" yX6_look yX6_look, .selects "LoanNames$LawReader" yX6_isLetter yX6_isLetter, .selects "LoanNames$LawReader" yX6_isDigit yX6_isDigit]
def ga_Nt (U : State) : Prop := (∀ w ∈ ga_nw, va_Nw w U) ∧ (∀ C ∈ ga_ao, va_AO C U) ∧ (∀ q ∈ ga_nc, va_Nc q.1 q.2 U) ∧ ∀ w ∈ ga_sx, va_Nw w U
theorem ga_sx_good : ∀ w ∈ ga_sx, (w.onTables && w.keeps) = true := by
  intro w hw
  simp only [ga_sx, List.mem_cons, List.not_mem_nil, or_false] at hw
  rcases hw with rfl | rfl | rfl | rfl | rfl | rfl <;> rfl
def ga_Wd (Ω : ga_Om) (U : State) (h : ga_H) (H : Heap) : Prop :=
  h.2.1 = H.size ∧ Ω.2.2.1 ≤ H.size ∧ (∀ (a : Nat) (c : ga_Ce), h.1 a = some c → ga_At Ω U a c H) ∧ (∀ q ∈ ga_sts Ω, va_Z "LoanNames" q.1 q.2.1 (ga_v q.2.2) (ga_A Ω) U H) ∧ va_K Ω.1 ga_cl (ga_tys Ω) U ∧ ga_Nt U
theorem ga_Nt.moved {s U : State} (hW : s.WarmedH U.vm) (h : ga_Nt s) : ga_Nt U := by
  refine ⟨fun w hw => ?_, fun C hC => va_AO.moved hW.alike (h.2.1 C hC), fun q hq => va_Nc.moved hW.alike (h.2.2.1 q hq), fun w hw => word_at hW (Or.inl (ga_sx_good w hw)) (h.2.2.2 w hw)⟩
  have h1 := h.1 w hw
  have h2 : ga_isNw w = true := (List.mem_filter.mp hw).2
  cases w <;> first
    | exact va_Nw.warmF hW h1
    | exact va_Nw.warmM hW h1
    | exact va_Nw.warmD hW h1
    | exact va_Nw.warmC hW h1
    | cases h2
theorem ga_At.moved {Ω : ga_Om} {s U : State} {a : Nat} {ce : ga_Ce} {H : Heap} (hW : s.vm.Alike U.vm) (h : ga_At Ω s a ce H) : ga_At Ω U a ce H := by
  rcases ce with ⟨k, n, f⟩ | ⟨c, fs⟩
  · obtain ⟨hk, h | ⟨hb, cell, h1, h2, h3⟩⟩ := h
    · exact ⟨hk, Or.inl h⟩
    · exact ⟨hk, Or.inr ⟨hb, cell, h1, State.isArrayOf_alike hW h2, h3⟩⟩
  · exact h
theorem ga_At.lt {Ω : ga_Om} {s : State} {a : Nat} {ce : ga_Ce} {H : Heap} (h : ga_At Ω s a ce H) : a < H.size := by
  rcases ce with ⟨k, n, f⟩ | ⟨c, fs⟩
  · obtain ⟨-, ⟨-, h⟩ | ⟨-, cell, h, -⟩⟩ := h <;> exact (Array.getElem?_eq_some_iff.mp h).1
  · obtain ⟨-, r, -, -, cell, h, -⟩ := h
    exact (Array.getElem?_eq_some_iff.mp h).1
theorem ga_At.kept {Ω : ga_Om} {s : State} {a : Nat} {ce : ga_Ce} {H H1 : Heap} (h : ga_At Ω s a ce H) (hq : H1[a]? = H[a]?) : ga_At Ω s a ce H1 := by
  rcases ce with ⟨k, n, f⟩ | ⟨c, fs⟩
  · obtain ⟨hk, ⟨h1, h2⟩ | ⟨hb, cell, h1, h2⟩⟩ := h
    · exact ⟨hk, Or.inl ⟨h1, by rw [hq]; exact h2⟩⟩
    · exact ⟨hk, Or.inr ⟨hb, cell, by rw [hq]; exact h1, h2⟩⟩
  · obtain ⟨h1, r, h2, h3, h4⟩ := h
    exact ⟨h1, r, h2, h3, h4.kept hq⟩
theorem ga_Wd.moved {Ω : ga_Om} {s U : State} {h : ga_H} {H : Heap} (hW : s.WarmedH U.vm) (w : ga_Wd Ω s h H) : ga_Wd Ω U h H := by
  obtain ⟨h1, h2, h3, h4, h5, h6⟩ := w
  exact ⟨h1, h2, fun a c hc => (h3 a c hc).moved hW.alike, fun q hq => (h4 q hq).moved hW.alike, h5.moved hW.alike, h6.moved hW⟩
theorem ga_Wd.set {Ω : ga_Om} {s : State} {h : ga_H} {H H1 : Heap} {a : Nat} {ce : ga_Ce} (w : ga_Wd Ω s h H) (hb : Ω.2.2.1 ≤ a) (z : H1.size = H.size) (o : ∀ q : Nat, q ≠ a → H1[q]? = H[q]?) (n : ga_At Ω s a ce H1) : ga_Wd Ω s (ga_set h a ce) H1 := by
  obtain ⟨h1, h2, h3, h4, h5, h6⟩ := w
  refine ⟨by rw [z]; exact h1, by rw [z]; exact h2, fun x c hx => ?_, fun q hq => (h4 q hq).kept (fun x _ hx => o x (fun e => hx (by rw [e]; exact hb))), h5, h6⟩
  unfold ga_set at hx
  dsimp only at hx
  split at hx
  · rename_i e; subst e; cases hx; exact n
  · rename_i e; exact (h3 x c hx).kept (o x e)
theorem ga_Wd.new {Ω : ga_Om} {s : State} {h : ga_H} {H H1 : Heap} {ce : ga_Ce} {k : Nat} (w : ga_Wd Ω s h H) (z : H1.size = H.size + 1) (o : ∀ q : Nat, q < H.size → H1[q]? = H[q]?) (n : ga_At Ω s H.size ce H1) : ga_Wd Ω s (ga_new h ce k) H1 := by
  obtain ⟨h1, h2, h3, h4, h5, h6⟩ := w
  refine ⟨by rw [z, ← h1]; rfl, by omega, fun x c hx => ?_, fun q hq => (h4 q hq).kept (fun x hx _ => o x hx), h5, h6⟩
  unfold ga_new at hx
  dsimp only at hx
  split at hx
  · rename_i e; cases hx; rw [e, h1]; exact n
  · exact (h3 x c hx).kept (o x (h3 x c hx).lt)
/-- the machine at a place of a method, over an abstract heap -/
def ga_G (p : Program) (l : Launch) (e : Jvm.Env) (R : Room) (s : State) (m : MethodId) (args : Array Value) (below : List Frame) (meth : Method) (c : Code) (Q : State → Prop) (Ω : ga_Om) (n0 s0 nL : Nat) (pc : Nat) (env : ga_Env) (st : List ga_V) (h : ga_H) : Prop :=
  ∀ (H : Heap) (locs : List Loc) (cells slots : Nat) (ls : Array Slot), ga_E env ls nL → ga_Wd Ω s h H → (∀ q ∈ locs, Ω.2.2.1 ≤ q.base) → cells + n0 = h.2.1 → slots + s0 = h.2.2 → W p l e R s m args below meth c H locs cells slots Q (F0 m pc ls (st.map ga_v))
section PS
variable {p : Program} {l : Launch} {e : Jvm.Env} {R : Room} {s : State} {m : MethodId} {args : Array Value} {below : List Frame} {meth : Method} {c : Code} {Q : State → Prop} {Ω : ga_Om} {n0 s0 nL : Nat} {cc : ByteArray}
theorem ga_tg_eq {pc : Nat} {off : Int} (h : 0 ≤ (pc : Int) + off) : (pc : Int) + off = (ga_tg pc off : Int) := by unfold ga_tg; omega
theorem ga_II_inv {st : List ga_V} {f : Int32 → Int32 → Option ga_V} {pc : Nat} {env : ga_Env} {x : Nat × ga_Env × List ga_V} (h : ga_go pc env (ga_II st f) = some x) : ∃ a b v r, st = .inl b :: .inl a :: r ∧ f a b = some v ∧ x = (pc, env, v :: r) := by
  rcases st with _ | ⟨b | b, _ | ⟨a | a, r⟩⟩ <;> simp only [ga_go, ga_II, Option.map_none, Option.map_some, reduceCtorEq] at h
  cases hf : f a b with
  | none => rw [hf] at h; simp at h
  | some v => rw [hf] at h; simp at h; exact ⟨a, b, v, r, rfl, hf, h.symm⟩
theorem ga_LL_inv {st : List ga_V} {f : Int64 → Int64 → Option ga_V} {pc : Nat} {env : ga_Env} {x : Nat × ga_Env × List ga_V} (h : ga_go pc env (ga_LL st f) = some x) : ∃ a b v r, st = .inr (.inl b) :: .inr (.inl a) :: r ∧ f a b = some v ∧ x = (pc, env, v :: r) := by
  rcases st with _ | ⟨b | b | b, _ | ⟨a | a | a, r⟩⟩ <;> simp only [ga_go, ga_LL, Option.map_none, Option.map_some, reduceCtorEq] at h
  cases hf : f a b with
  | none => rw [hf] at h; simp at h
  | some v => rw [hf] at h; simp at h; exact ⟨a, b, v, r, rfl, hf, h.symm⟩
theorem ga_I1_inv {st : List ga_V} {f : Int32 → ga_V} {pc : Nat} {env : ga_Env} {x : Nat × ga_Env × List ga_V} (h : ga_go pc env (ga_I1 st f) = some x) : ∃ a r, st = .inl a :: r ∧ x = (pc, env, f a :: r) := by
  rcases st with _ | ⟨a | a, r⟩ <;> simp only [ga_go, ga_I1, Option.map_none, Option.map_some, reduceCtorEq] at h
  exact ⟨a, r, rfl, (Option.some.inj h).symm⟩
theorem ga_L1_inv {st : List ga_V} {f : Int64 → ga_V} {pc : Nat} {env : ga_Env} {x : Nat × ga_Env × List ga_V} (h : ga_go pc env (ga_L1 st f) = some x) : ∃ a r, st = .inr (.inl a) :: r ∧ x = (pc, env, f a :: r) := by
  rcases st with _ | ⟨a | a | a, r⟩ <;> simp only [ga_go, ga_L1, Option.map_none, Option.map_some, reduceCtorEq] at h
  exact ⟨a, r, rfl, (Option.some.inj h).symm⟩
theorem ga_ld_inv {st : List ga_V} {k pc : Nat} {f : ga_V → Bool} {env : ga_Env} {x : Nat × ga_Env × List ga_V} (h : ga_ld pc env st k f = some x) : ∃ v, ga_get env k = some v ∧ f v = true ∧ x = (pc, env, v :: st) := by
  unfold ga_ld at h
  split at h
  · rename_i v hv
    split at h
    · rename_i hf; exact ⟨v, hv, hf, (Option.some.inj h).symm⟩
    · cases h
  · cases h
theorem ga_s1_inv {st : List ga_V} {k pc : Nat} {f : ga_V → Bool} {env : ga_Env} {x : Nat × ga_Env × List ga_V} (h : ga_s1 pc env st k f = some x) : ∃ v r, st = v :: r ∧ f v = true ∧ k < env.length ∧ x = (pc, ga_st1 env k v, r) := by
  unfold ga_s1 at h
  split at h
  · rename_i v r
    split at h
    · rename_i hf
      simp only [Bool.and_eq_true, decide_eq_true_eq] at hf
      exact ⟨v, r, rfl, hf.1, hf.2, (Option.some.inj h).symm⟩
    · cases h
  · cases h
theorem ga_s2_inv {st : List ga_V} {k pc : Nat} {env : ga_Env} {x : Nat × ga_Env × List ga_V} (h : ga_s2 pc env st k = some x) : ∃ v r, st = .inr (.inl v) :: r ∧ k + 1 < env.length ∧ x = (pc, ga_st2 env k (.inr (.inl v)), r) := by
  unfold ga_s2 at h
  split at h
  · rename_i v r
    split at h
    · rename_i hf
      simp only [Bool.and_eq_true, decide_eq_true_eq] at hf
      rcases v with v | v | v <;> simp only [ga_isL] at hf
      · cases hf.1
      · exact ⟨v, r, rfl, hf.2, (Option.some.inj h).symm⟩
      · cases hf.1
    · cases h
  · cases h
theorem ga_br_inv {pc : Nat} {off : Int} {env : ga_Env} {r : List ga_V} {b : Bool} {x : Nat × ga_Env × List ga_V} (h : ga_br pc off env r b = some x) : (pc : Int) + off = (ga_tg pc off : Int) ∧ ((b = true ∧ x = (ga_tg pc off, env, r)) ∨ (b = false ∧ x = (pc + 3, env, r))) := by
  unfold ga_br at h
  split at h
  · rename_i h0
    refine ⟨ga_tg_eq h0, ?_⟩
    split at h
    · rename_i hb; exact Or.inl ⟨hb, (Option.some.inj h).symm⟩
    · rename_i hb; exact Or.inr ⟨by simpa using hb, (Option.some.inj h).symm⟩
  · cases h
end PS
