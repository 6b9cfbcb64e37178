/-! LAYER 1a: values, locals, the abstract heap, pure steps of one instruction -/
/-- a value: an int, a long, a reference or null -/
abbrev ga_V : Type := Int32 ⊕ Int64 ⊕ Option Nat
def ga_v : ga_V → Value
  | .inl x => .int x
  | .inr (.inl x) => .long x
  | .inr (.inr r) => va_rf r
abbrev ga_Env : Type := List (Option ga_V)
def ga_get : ga_Env → Nat → Option ga_V
  | [], _ => none
  | v :: _, 0 => v
  | _ :: l, n + 1 => ga_get l n
def ga_put : ga_Env → Nat → Option ga_V → ga_Env
  | [], _, _ => []
  | _ :: l, 0, v => v :: l
  | x :: l, n + 1, v => x :: ga_put l n v
def ga_dim : Option ga_V → Option ga_V
  | some (.inr (.inl _)) => none
  | v => v
def ga_kill : ga_Env → Nat → ga_Env
  | l, 0 => l
  | l, n + 1 => ga_put l n (ga_dim (ga_get l n))
def ga_st1 (l : ga_Env) (k : Nat) (v : ga_V) : ga_Env := ga_put (ga_kill l k) k (some v)
def ga_st2 (l : ga_Env) (k : Nat) (v : ga_V) : ga_Env := ga_put (ga_put (ga_kill l k) k (some v)) (k + 1) none
theorem ga_put_len (l : ga_Env) (k : Nat) (v : Option ga_V) : (ga_put l k v).length = l.length := by
  induction l generalizing k with
  | nil => cases k <;> rfl
  | cons a l ih => cases k with
    | zero => rfl
    | succ k => simp [ga_put, ih]
theorem ga_kill_len (l : ga_Env) (k : Nat) : (ga_kill l k).length = l.length := by
  cases k <;> simp [ga_kill, ga_put_len]
theorem ga_st1_len (l : ga_Env) (k : Nat) (v : ga_V) : (ga_st1 l k v).length = l.length := by simp [ga_st1, ga_put_len, ga_kill_len]
theorem ga_st2_len (l : ga_Env) (k : Nat) (v : ga_V) : (ga_st2 l k v).length = l.length := by simp [ga_st2, ga_put_len, ga_kill_len]
theorem ga_get_put (l : ga_Env) (k j : Nat) (v : Option ga_V) : ga_get (ga_put l k v) j = if j = k ∧ k < l.length then v else ga_get l j := by
  induction l generalizing k j with
  | nil => simp [ga_put, ga_get]
  | cons a l ih => cases k with
    | zero => cases j with
      | zero => simp [ga_put, ga_get]
      | succ j => simp [ga_put, ga_get]
    | succ k => cases j with
      | zero => simp [ga_put, ga_get]
      | succ j => simp [ga_put, ga_get, ih]
theorem ga_get_big {l : ga_Env} {j : Nat} (q : l.length ≤ j) : ga_get l j = none := by
  induction l generalizing j with
  | nil => rfl
  | cons a l ih => cases j with
    | zero => simp at q
    | succ j => exact ih (j := j) (by simpa using q)
/-- the listed values of an env, for the kit -/
def ga_al : Nat → ga_Env → List (Nat × Value)
  | _, [] => []
  | i, some v :: l => (i, ga_v v) :: ga_al (i + 1) l
  | i, none :: l => ga_al (i + 1) l
theorem ga_mem_al {l : ga_Env} {i : Nat} {q : Nat × Value} : q ∈ ga_al i l ↔ ∃ k v, ga_get l k = some v ∧ q = (i + k, ga_v v) := by
  induction l generalizing i with
  | nil => simp [ga_al, ga_get]
  | cons a l ih =>
    cases a with
    | none =>
      rw [ga_al, ih]
      constructor
      · rintro ⟨k, v, h, rfl⟩
        exact ⟨k + 1, v, h, by rw [show i + 1 + k = i + (k + 1) by omega]⟩
      · rintro ⟨k, v, h, rfl⟩
        cases k with
        | zero => simp [ga_get] at h
        | succ k => exact ⟨k, v, h, by rw [show i + 1 + k = i + (k + 1) by omega]⟩
    | some a =>
      rw [ga_al, List.mem_cons, ih]
      constructor
      · rintro (rfl | ⟨k, v, h, rfl⟩)
        · exact ⟨0, a, rfl, rfl⟩
        · exact ⟨k + 1, v, h, by rw [show i + 1 + k = i + (k + 1) by omega]⟩
      · rintro ⟨k, v, h, rfl⟩
        cases k with
        | zero => simp [ga_get] at h; subst h; exact Or.inl rfl
        | succ k => exact Or.inr ⟨k, v, h, by rw [show i + 1 + k = i + (k + 1) by omega]⟩
/-- the machine's locals hold the env -/
def ga_E (l : ga_Env) (ls : Array Slot) (nL : Nat) : Prop := lv_has ls nL (ga_al 0 l) ∧ l.length = nL
theorem ga_E.get {l : ga_Env} {ls : Array Slot} {nL k : Nat} {v : ga_V} (h : ga_E l ls nL) (hk : ga_get l k = some v) : ls[k]? = some (.val (ga_v v)) := by
  have := h.1.2.2 (k, ga_v v) (ga_mem_al.mpr ⟨k, v, hk, by simp⟩)
  exact this
theorem ga_cat2 {v : ga_V} (h : (ga_v v).category = 2) : ∃ x, v = .inr (.inl x) := by
  rcases v with x | x | r
  · simp [ga_v, Value.category] at h
  · exact ⟨x, rfl⟩
  · cases r <;> simp [ga_v, va_rf, Value.category] at h
theorem ga_get_kill {l : ga_Env} {k j : Nat} {v : ga_V} (h : ga_get (ga_kill l k) j = some v) : ga_get l j = some v ∧ (j + 1 = k → (ga_v v).category ≠ 2) := by
  cases k with
  | zero => exact ⟨h, fun e => by omega⟩
  | succ k =>
    rw [ga_kill, ga_get_put] at h
    split at h
    · rename_i hj
      obtain ⟨rfl, -⟩ := hj
      cases hg : ga_get l j with
      | none => rw [hg] at h; simp [ga_dim] at h
      | some w =>
        rw [hg] at h
        rcases w with x | x | r
        · simp [ga_dim] at h; subst h; exact ⟨rfl, fun _ => by simp [ga_v, Value.category]⟩
        · simp [ga_dim] at h
        · simp [ga_dim] at h; subst h; exact ⟨rfl, fun _ => by cases r <;> simp [ga_v, va_rf, Value.category]⟩
    · rename_i hj
      refine ⟨h, fun e hc => ?_⟩
      have hjk : j = k := by omega
      subst hjk
      obtain ⟨x, rfl⟩ := ga_cat2 hc
      have hlt : j < l.length := by
        rcases Nat.lt_or_ge j l.length with q | q
        · exact q
        · exfalso
          rw [ga_get_big q] at h; cases h
      exact hj ⟨rfl, hlt⟩
theorem ga_E.st1 {l : ga_Env} {ls' : Array Slot} {nL k : Nat} {v : ga_V} (hl : l.length = nL) (h : lv_has ls' nL ((k, ga_v v) :: (ga_al 0 l).filter (fun q => !(q.1 == k) && !(q.1 + 1 == k && q.2.category == 2)))) : ga_E (ga_st1 l k v) ls' nL := by
  refine ⟨⟨h.1, h.2.1, fun q hq => ?_⟩, by rw [ga_st1_len, hl]⟩
  obtain ⟨j, w, hw, rfl⟩ := ga_mem_al.mp hq
  refine h.2.2 _ ?_
  rw [ga_st1, ga_get_put] at hw
  split at hw
  · rename_i hj; obtain ⟨rfl, -⟩ := hj; cases hw; simp
  · rename_i hj
    obtain ⟨h1, h2⟩ := ga_get_kill hw
    by_cases hjk : j = k
    · subst hjk
      exfalso
      have hlt : ¬ j < l.length := fun q => hj ⟨rfl, by rw [ga_kill_len]; exact q⟩
      have := h.2.2 (j, ga_v w)
      have h0 : ls'[j]? = some (.val (ga_v v)) := h.2.2 (j, ga_v v) (by simp)
      have hlt2 : j < ls'.size := lv_lt h0
      rw [h.1, ← hl] at hlt2
      exact hlt hlt2
    · refine List.mem_cons_of_mem _ (List.mem_filter.mpr ⟨ga_mem_al.mpr ⟨j, w, h1, rfl⟩, ?_⟩)
      simp only [Nat.zero_add, Bool.and_eq_true, Bool.not_eq_true', beq_eq_false_iff_ne, ne_eq, Bool.and_eq_false_imp, beq_iff_eq]
      exact ⟨hjk, fun e => by simpa using h2 e⟩
theorem ga_E.st2 {l : ga_Env} {ls' : Array Slot} {nL k : Nat} {v : ga_V} (hl : l.length = nL) (hk : k + 1 < nL) (h : lv_has ls' nL ((k, ga_v v) :: (ga_al 0 l).filter (fun q => !(q.1 == k) && (!(q.1 == k + 1) && !(q.1 + 1 == k && q.2.category == 2))))) : ga_E (ga_st2 l k v) ls' nL := by
  refine ⟨⟨h.1, h.2.1, fun q hq => ?_⟩, by rw [ga_st2_len, hl]⟩
  obtain ⟨j, w, hw, rfl⟩ := ga_mem_al.mp hq
  refine h.2.2 _ ?_
  rw [ga_st2, ga_get_put] at hw
  split at hw
  · cases hw
  · rename_i hj1
    rw [ga_get_put] at hw
    split at hw
    · rename_i hj; obtain ⟨rfl, -⟩ := hj; cases hw; simp
    · rename_i hj
      obtain ⟨h1, h2⟩ := ga_get_kill hw
      have hjk : j ≠ k := fun e => hj ⟨e, by rw [ga_kill_len]; omega⟩
      have hjk1 : j ≠ k + 1 := fun e => hj1 ⟨e, by rw [ga_put_len, ga_kill_len]; omega⟩
      refine List.mem_cons_of_mem _ (List.mem_filter.mpr ⟨ga_mem_al.mpr ⟨j, w, h1, rfl⟩, ?_⟩)
      simp only [Nat.zero_add, Bool.and_eq_true, Bool.not_eq_true', beq_eq_false_iff_ne, ne_eq, Bool.and_eq_false_imp, beq_iff_eq]
      exact ⟨hjk, hjk1, fun e => by simpa using h2 e⟩
/-! pure steps -/
abbrev ga_N : Type := Option (Nat × ga_Env × List ga_V)
def ga_tg (pc : Nat) (off : Int) : Nat := ((pc : Int) + off).toNat
def ga_II (st : List ga_V) (f : Int32 → Int32 → Option ga_V) : Option (List ga_V) := match st with
  | .inl y :: .inl x :: r => (f x y).map (· :: r)
  | _ => none
def ga_LL (st : List ga_V) (f : Int64 → Int64 → Option ga_V) : Option (List ga_V) := match st with
  | .inr (.inl y) :: .inr (.inl x) :: r => (f x y).map (· :: r)
  | _ => none
def ga_I1 (st : List ga_V) (f : Int32 → ga_V) : Option (List ga_V) := match st with
  | .inl x :: r => some (f x :: r)
  | _ => none
def ga_L1 (st : List ga_V) (f : Int64 → ga_V) : Option (List ga_V) := match st with
  | .inr (.inl x) :: r => some (f x :: r)
  | _ => none
def ga_go (pc : Nat) (e : ga_Env) (s : Option (List ga_V)) : ga_N := s.map fun r => (pc, e, r)
def ga_br (pc : Nat) (off : Int) (e : ga_Env) (r : List ga_V) (b : Bool) : ga_N := if 0 ≤ (pc : Int) + off then (if b then some (ga_tg pc off, e, r) else some (pc + 3, e, r)) else none
def ga_ld (pc : Nat) (e : ga_Env) (st : List ga_V) (k : Nat) (p : ga_V → Bool) : ga_N := match ga_get e k with
  | some v => if p v then some (pc, e, v :: st) else none
  | none => none
def ga_isI : ga_V → Bool
  | .inl _ => true
  | _ => false
def ga_isL : ga_V → Bool
  | .inr (.inl _) => true
  | _ => false
def ga_isR : ga_V → Bool
  | .inr (.inr _) => true
  | _ => false
def ga_s1 (pc : Nat) (e : ga_Env) (st : List ga_V) (k : Nat) (p : ga_V → Bool) : ga_N := match st with
  | v :: r => if p v && decide (k < e.length) then some (pc, ga_st1 e k v, r) else none
  | _ => none
def ga_s2 (pc : Nat) (e : ga_Env) (st : List ga_V) (k : Nat) : ga_N := match st with
  | v :: r => if ga_isL v && decide (k + 1 < e.length) then some (pc, ga_st2 e k v, r) else none
  | _ => none
def ga_cc (o : ClassFile.Cond) (x y : Int32) : Bool := match o with
  | .eq => decide (x = y)
  | .ne => decide (¬ x = y)
  | .lt => decide (x < y)
  | .ge => decide (y ≤ x)
  | .gt => decide (y < x)
  | .le => decide (x ≤ y)
def ga_ps (i : Instr) (pc : Nat) (e : ga_Env) (st : List ga_V) : ga_N := match i with
  | .iconst n => some (pc + 1, e, .inl (Int32.ofInt n) :: st)
  | .bipush n => some (pc + 2, e, .inl (Int8.ofInt n).toInt32 :: st)
  | .sipush n => some (pc + 3, e, .inl (Int16.ofInt n).toInt32 :: st)
  | .lconst n => some (pc + 1, e, .inr (.inl (Int64.ofNat (n : Nat))) :: st)
  | .aconst_null => some (pc + 1, e, .inr (.inr none) :: st)
  | .iload_n k => ga_ld (pc + 1) e st k ga_isI
  | .iload k => ga_ld (pc + 2) e st k ga_isI
  | .lload_n k => ga_ld (pc + 1) e st k ga_isL
  | .lload k => ga_ld (pc + 2) e st k ga_isL
  | .aload_n k => ga_ld (pc + 1) e st k ga_isR
  | .aload k => ga_ld (pc + 2) e st k ga_isR
  | .istore_n k => ga_s1 (pc + 1) e st k ga_isI
  | .istore k => ga_s1 (pc + 2) e st k ga_isI
  | .lstore_n k => ga_s2 (pc + 1) e st k
  | .lstore k => ga_s2 (pc + 2) e st k
  | .astore_n k => ga_s1 (pc + 1) e st k ga_isR
  | .astore k => ga_s1 (pc + 2) e st k ga_isR
  | .iinc k n => match ga_get e k with
    | some (.inl x) => some (pc + 3, ga_st1 e k (.inl (x + Int32.ofInt n)), st)
    | _ => none
  | .iadd => ga_go (pc + 1) e (ga_II st fun x y => some (.inl (x + y)))
  | .isub => ga_go (pc + 1) e (ga_II st fun x y => some (.inl (x - y)))
  | .imul => ga_go (pc + 1) e (ga_II st fun x y => some (.inl (x * y)))
  | .iand => ga_go (pc + 1) e (ga_II st fun x y => some (.inl (x &&& y)))
  | .ior => ga_go (pc + 1) e (ga_II st fun x y => some (.inl (x ||| y)))
  | .ixor => ga_go (pc + 1) e (ga_II st fun x y => some (.inl (x ^^^ y)))
  | .idiv => ga_go (pc + 1) e (ga_II st fun x y => if y = 0 then none else some (.inl (x / y)))
  | .irem => ga_go (pc + 1) e (ga_II st fun x y => if y = 0 then none else some (.inl (x - x / y * y)))
  | .ishl => ga_go (pc + 1) e (ga_II st fun x y => some (.inl (x <<< (y &&& 31))))
  | .ishr => ga_go (pc + 1) e (ga_II st fun x y => some (.inl (x >>> (y &&& 31))))
  | .iushr => ga_go (pc + 1) e (ga_II st fun x y => some (.inl (x.toUInt32 >>> (y.toUInt32 &&& Int32.toUInt32 31)).toInt32))
  | .ineg => ga_go (pc + 1) e (ga_I1 st fun x => .inl (-x))
  | .ladd => ga_go (pc + 1) e (ga_LL st fun x y => some (.inr (.inl (x + y))))
  | .lsub => ga_go (pc + 1) e (ga_LL st fun x y => some (.inr (.inl (x - y))))
  | .lmul => ga_go (pc + 1) e (ga_LL st fun x y => some (.inr (.inl (x * y))))
  | .lor => ga_go (pc + 1) e (ga_LL st fun x y => some (.inr (.inl (x ||| y))))
  | .ldiv => ga_go (pc + 1) e (ga_LL st fun x y => if y = 0 then none else some (.inr (.inl (x / y))))
  | .lrem => ga_go (pc + 1) e (ga_LL st fun x y => if y = 0 then none else some (.inr (.inl (x - x / y * y))))
  | .lcmp => ga_go (pc + 1) e (ga_LL st fun x y => some (.inl (lg_cmp x y)))
  | .lneg => ga_go (pc + 1) e (ga_L1 st fun x => .inr (.inl (-x)))
  | .lshl => match st with
    | .inl y :: .inr (.inl x) :: r => some (pc + 1, e, .inr (.inl (x <<< (y.toInt64 &&& 63))) :: r)
    | _ => none
  | .i2l => ga_go (pc + 1) e (ga_I1 st fun x => .inr (.inl x.toInt64))
  | .l2i => ga_go (pc + 1) e (ga_L1 st fun x => .inl x.toInt32)
  | .i2b => ga_go (pc + 1) e (ga_I1 st fun x => .inl x.toInt8.toInt32)
  | .dup => match st with
    | v :: r => if ga_isL v then none else some (pc + 1, e, v :: v :: r)
    | _ => none
  | .dup2 => match st with
    | v :: w :: r => if ga_isL v || ga_isL w then none else some (pc + 1, e, v :: w :: v :: w :: r)
    | _ => none
  | .pop => match st with
    | v :: r => if ga_isL v then none else some (pc + 1, e, r)
    | _ => none
  | .ifCond o off => match st with
    | .inl x :: r => ga_br pc off e r (ga_cc o x 0)
    | _ => none
  | .if_icmp o off => match st with
    | .inl y :: .inl x :: r => ga_br pc off e r (ga_cc o x y)
    | _ => none
  | .if_acmp o off => match st with
    | .inr (.inr y) :: .inr (.inr x) :: r => ga_br pc off e r (match o with | .eq => decide (x = y) | .ne => decide (¬ x = y))
    | _ => none
  | .ifnull off => match st with
    | .inr (.inr x) :: r => ga_br pc off e r (decide (x = none))
    | _ => none
  | .ifnonnull off => match st with
    | .inr (.inr x) :: r => ga_br pc off e r (decide (¬ x = none))
    | _ => none
  | .goto off => if 0 ≤ (pc : Int) + off then some (ga_tg pc off, e, st) else none
  | .tableswitch d lo hi offs => match st with
    | .inl x :: r =>
      if x.toInt < lo ∨ hi < x.toInt then (if 0 ≤ (pc : Int) + d then some (ga_tg pc d, e, r) else none)
      else match offs[(x.toInt - lo).toNat]? with
        | some off => if 0 ≤ (pc : Int) + off then some (ga_tg pc off, e, r) else none
        | none => none
    | _ => none
  | _ => none
def ga_ln (i : Instr) (n : Nat) : Bool := match i with
  | .bipush _ | .iload _ | .lload _ | .aload _ | .istore _ | .lstore _ | .astore _ => n == 2
  | .sipush _ | .iinc _ _ | .ifCond _ _ | .if_icmp _ _ | .if_acmp _ _ | .ifnull _ | .ifnonnull _ | .goto _ => n == 3
  | .tableswitch _ _ _ _ => true
  | _ => n == 1
/-- a predicate of places in a code is closed under the pure steps -/
def ga_M {η : Type} (cc : ByteArray) (g : Nat → ga_Env → List ga_V → η → Prop) : Prop :=
  ∀ (pc : Nat) (e : ga_Env) (st : List ga_V) (h : η) (i : Instr) (n : Nat) (x : Nat × ga_Env × List ga_V), decode cc pc = .ok (i, n) → ga_ln i n = true → ga_ps i pc e st = some x → g x.1 x.2.1 x.2.2 h → g pc e st h
