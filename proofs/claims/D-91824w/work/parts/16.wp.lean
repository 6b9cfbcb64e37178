/-! LAYER 1g: programs by what they need of what follows; and that a code does them -/
abbrev ga_Ex (η α : Type) : Type := (α → η → Prop) → ga_Env → η → Prop
abbrev ga_Co (η : Type) : Type := (η → Prop) → (η → Prop) → ga_Env → η → Prop
abbrev ga_Sm (η : Type) : Type := (ga_Env → η → Prop) → (ga_Env → η → Prop) → (Option ga_V → η → Prop) → ga_Env → η → Prop
def vI (x : Int32) : List ga_V := [.inl x]
def vL (x : Int64) : List ga_V := [.inr (.inl x)]
def vR (x : Option Nat) : List ga_V := [.inr (.inr x)]
def vA (x : List ga_V) : List ga_V := x.reverse
section CB
variable {η : Type}
def xC {α : Type} (v : α) : ga_Ex η α := fun K _ h => K v h
def iV (k : Nat) : ga_Ex η Int32 := fun K e h => match ga_get e k with
  | some (.inl x) => K x h
  | _ => False
def lV (k : Nat) : ga_Ex η Int64 := fun K e h => match ga_get e k with
  | some (.inr (.inl x)) => K x h
  | _ => False
def rV (k : Nat) : ga_Ex η (Option Nat) := fun K e h => match ga_get e k with
  | some (.inr (.inr x)) => K x h
  | _ => False
def x1 {α β : Type} (f : α → β) (a : ga_Ex η α) : ga_Ex η β := fun K e h => a (fun x h1 => K (f x) h1) e h
def x2 {α β γ : Type} (f : α → β → γ) (a : ga_Ex η α) (b : ga_Ex η β) : ga_Ex η γ := fun K e h => a (fun x h1 => b (fun y h2 => K (f x y) h2) e h1) e h
/-- by what isn't 0 -/
def x2p {α β γ : Type} (P : β → Prop) (f : α → β → γ) (a : ga_Ex η α) (b : ga_Ex η β) : ga_Ex η γ := fun K e h => a (fun x h1 => b (fun y h2 => P y ∧ K (f x y) h2) e h1) e h
def xIf {α : Type} (c : ga_Co η) (a b : ga_Ex η α) : ga_Ex η α := fun K e h => c (fun h1 => a K e h1) (fun h1 => b K e h1) e h
def xB (c : ga_Co η) : ga_Ex η Int32 := xIf c (xC 1) (xC 0)
def cI (o : ClassFile.Cond) (a b : ga_Ex η Int32) : ga_Co η := fun T F e h => a (fun x h1 => b (fun y h2 => if ga_cc o x y = true then T h2 else F h2) e h1) e h
def ga_lc (o : ClassFile.Cond) (x y : Int64) : Bool := match o with
  | .eq => decide (x = y)
  | .ne => decide (¬ x = y)
  | .lt => decide (x < y)
  | .ge => decide (y ≤ x)
  | .gt => decide (y < x)
  | .le => decide (x ≤ y)
def cL (o : ClassFile.Cond) (a b : ga_Ex η Int64) : ga_Co η := fun T F e h => a (fun x h1 => b (fun y h2 => if ga_lc o x y = true then T h2 else F h2) e h1) e h
def cR (a b : ga_Ex η (Option Nat)) : ga_Co η := fun T F e h => a (fun x h1 => b (fun y h2 => if x = y then T h2 else F h2) e h1) e h
def cN (a : ga_Ex η (Option Nat)) : ga_Co η := fun T F e h => a (fun x h1 => if x = none then T h1 else F h1) e h
def cB (a : ga_Ex η Int32) : ga_Co η := fun T F e h => a (fun x h1 => if x = 0 then F h1 else T h1) e h
def cAnd (a b : ga_Co η) : ga_Co η := fun T F e h => a (fun h1 => b T F e h1) F e h
def cOr (a b : ga_Co η) : ga_Co η := fun T F e h => a T (fun h1 => b T F e h1) e h
def cNot (a : ga_Co η) : ga_Co η := fun T F e h => a F T e h
def cT : ga_Co η := fun T _ _ h => T h
def aN : ga_Ex η (List ga_V) := fun K _ h => K [] h
/-- one more argument, behind the others -/
def aC {α : Type} (tv : α → List ga_V) (a : ga_Ex η (List ga_V)) (b : ga_Ex η α) : ga_Ex η (List ga_V) := fun K e h => a (fun vs h1 => b (fun y h2 => K (vs ++ tv y) h2) e h1) e h
def sSkip : ga_Sm η := fun N _ _ e h => N e h
def sSeq (a b : ga_Sm η) : ga_Sm η := fun N C R e h => a (fun e h => b N C R e h) C R e h
def sI (k : Nat) (a : ga_Ex η Int32) : ga_Sm η := fun N _ _ e h => a (fun x h1 => k < e.length ∧ N (ga_st1 e k (.inl x)) h1) e h
def sL (k : Nat) (a : ga_Ex η Int64) : ga_Sm η := fun N _ _ e h => a (fun x h1 => k + 1 < e.length ∧ N (ga_st2 e k (.inr (.inl x))) h1) e h
def sR (k : Nat) (a : ga_Ex η (Option Nat)) : ga_Sm η := fun N _ _ e h => a (fun x h1 => k < e.length ∧ N (ga_st1 e k (.inr (.inr x))) h1) e h
def sInc (k : Nat) (n : Int32) : ga_Sm η := fun N _ _ e h => match ga_get e k with
  | some (.inl x) => N (ga_st1 e k (.inl (x + n))) h
  | _ => False
def sIf (c : ga_Co η) (a b : ga_Sm η) : ga_Sm η := fun N C R e h => c (fun h1 => a N C R e h1) (fun h1 => b N C R e h1) e h
def sForN (c : ga_Co η) (u b : ga_Sm η) (N : ga_Env → η → Prop) (R : Option ga_V → η → Prop) : Nat → ga_Env → η → Prop
  | 0, _, _ => False
  | n + 1, e, h => c (fun h1 => b (fun e h => u (sForN c u b N R n) (fun _ _ => False) R e h) (fun e h => u (sForN c u b N R n) (fun _ _ => False) R e h) R e h1) (fun h1 => N e h1) e h
def sFor (c : ga_Co η) (u b : ga_Sm η) : ga_Sm η := fun N _ R e h => ∃ n, sForN c u b N R n e h
def sDoN (b : ga_Sm η) (c : ga_Co η) (N : ga_Env → η → Prop) (R : Option ga_V → η → Prop) : Nat → ga_Env → η → Prop
  | 0, _, _ => False
  | n + 1, e, h => b (fun e h => c (fun h1 => sDoN b c N R n e h1) (fun h1 => N e h1) e h) (fun _ _ => False) R e h
def sDo (b : ga_Sm η) (c : ga_Co η) : ga_Sm η := fun N _ R e h => ∃ n, sDoN b c N R n e h
def sRet0 : ga_Sm η := fun _ _ R _ h => R none h
def sRet {α : Type} (tv : α → List ga_V) (a : ga_Ex η α) : ga_Sm η := fun _ _ R e h => a (fun x h1 => R (tv x).head? h1) e h
def sCont : ga_Sm η := fun _ C _ e h => C e h
def sEx {α : Type} (a : ga_Ex η α) : ga_Sm η := fun N _ _ e h => a (fun _ h1 => N e h1) e h
/-- by an int's value: the cases that are told, else the last -/
def sSw (a : ga_Ex η Int32) (cs : List (Int32 × ga_Sm η)) (d : ga_Sm η) : ga_Sm η := fun N C R e h => a (fun x h1 => (cs.foldr (fun q r => if x = q.1 then q.2 else r) d) N C R e h1) e h
/-! that a code does them -/
section JD
variable (le : η → η → Prop) (ok : η → Prop) (g : Nat → ga_Env → List ga_V → η → Prop) (rt : Option ga_V → η → Prop)
def gx {α : Type} (tv : α → List ga_V) (w pc pc' : Nat) (a : ga_Ex η α) : Prop :=
  (∀ K e h, a K e h → ∃ v h', K v h' ∧ le h h') ∧ ∀ e st h K, ga_wt st ≤ w → a K e h → (∀ v h', K v h' → ok h' ∧ g pc' e (tv v ++ st) h') → g pc e st h
def gc (w pc pt pf : Nat) (c : ga_Co η) : Prop :=
  (∀ T F e h, c T F e h → ∃ h', (T h' ∨ F h') ∧ le h h') ∧ ∀ e st h T F, ga_wt st ≤ w → c T F e h → (∀ h', T h' → ok h' ∧ g pt e st h') → (∀ h', F h' → ok h' ∧ g pf e st h') → g pc e st h
def gs (pc pn pk : Nat) (s : ga_Sm η) : Prop :=
  (∀ N C R e h, s N C R e h → (∃ e' h', (N e' h' ∨ C e' h') ∧ le h h') ∨ ∃ r h', R r h' ∧ le h h') ∧ ∀ e h N C R, s N C R e h → (∀ e h, N e h → ok h ∧ g pn e [] h) → (∀ e h, C e h → ok h ∧ g pk e [] h) → (∀ r h, R r h → ok h ∧ rt r h) → g pc e [] h
end JD
def ga_or (le : η → η → Prop) (ok : η → Prop) : Prop := (∀ a, le a a) ∧ (∀ a b c, le a b → le b c → le a c) ∧ ∀ a b, le a b → ok b → ok a
variable {le : η → η → Prop} {ok : η → Prop} {g : Nat → ga_Env → List ga_V → η → Prop} {rt : Option ga_V → η → Prop} {cc : ByteArray}
variable (O : ga_or le ok) (M : ga_M cc g)
theorem wt_app (a b : List ga_V) : ga_wt (a ++ b) = ga_wt a + ga_wt b := by simp [ga_wt]
theorem gx_push {α : Type} {tv : α → List ga_V} {v : α} {w pc pc' n : Nat} {i : Instr} (O : ga_or le ok) (M : ga_M cc g) (hd : decode cc pc = .ok (i, n)) (hn : ga_ln i n = true) (hp : ∀ e st, ga_ps i pc e st = some (pc', e, tv v ++ st)) : gx le ok g tv w pc pc' (xC v) :=
  ⟨fun K e h hk => ⟨v, h, hk, O.1 h⟩, fun e st h K hw hk kk => M pc e st h i n _ hd hn (hp e st) (kk v h hk).2⟩
theorem gx_iV {k w pc pc' n : Nat} {i : Instr} (O : ga_or le ok) (M : ga_M cc g) (hd : decode cc pc = .ok (i, n)) (hn : ga_ln i n = true) (hp : ∀ e st, ga_ps i pc e st = ga_ld pc' e st k ga_isI) : gx le ok g vI w pc pc' (iV k) := by
  refine ⟨fun K e h hk => ?_, fun e st h K hw hk kk => ?_⟩
  · unfold iV at hk
    split at hk
    · rename_i x _; exact ⟨x, h, hk, O.1 h⟩
    · cases hk
  · unfold iV at hk
    split at hk
    · rename_i x hx
      exact M pc e st h i n (pc', e, .inl x :: st) hd hn (by rw [hp]; unfold ga_ld; rw [hx]; rfl) (kk x h hk).2
    · cases hk
theorem gx_lV {k w pc pc' n : Nat} {i : Instr} (O : ga_or le ok) (M : ga_M cc g) (hd : decode cc pc = .ok (i, n)) (hn : ga_ln i n = true) (hp : ∀ e st, ga_ps i pc e st = ga_ld pc' e st k ga_isL) : gx le ok g vL w pc pc' (lV k) := by
  refine ⟨fun K e h hk => ?_, fun e st h K hw hk kk => ?_⟩
  · unfold lV at hk
    split at hk
    · rename_i x _; exact ⟨x, h, hk, O.1 h⟩
    · cases hk
  · unfold lV at hk
    split at hk
    · rename_i x hx
      exact M pc e st h i n (pc', e, .inr (.inl x) :: st) hd hn (by rw [hp]; unfold ga_ld; rw [hx]; rfl) (kk x h hk).2
    · cases hk
theorem gx_rV {k w pc pc' n : Nat} {i : Instr} (O : ga_or le ok) (M : ga_M cc g) (hd : decode cc pc = .ok (i, n)) (hn : ga_ln i n = true) (hp : ∀ e st, ga_ps i pc e st = ga_ld pc' e st k ga_isR) : gx le ok g vR w pc pc' (rV k) := by
  refine ⟨fun K e h hk => ?_, fun e st h K hw hk kk => ?_⟩
  · unfold rV at hk
    split at hk
    · rename_i x _; exact ⟨x, h, hk, O.1 h⟩
    · cases hk
  · unfold rV at hk
    split at hk
    · rename_i x hx
      exact M pc e st h i n (pc', e, .inr (.inr x) :: st) hd hn (by rw [hp]; unfold ga_ld; rw [hx]; rfl) (kk x h hk).2
    · cases hk
theorem gx_un {α β : Type} {ta : α → List ga_V} {tb : β → List ga_V} {f : α → β} {a : ga_Ex η α} {w pc p1 p2 n : Nat} {i : Instr} (M : ga_M cc g) (ha : gx le ok g ta w pc p1 a) (hd : decode cc p1 = .ok (i, n)) (hn : ga_ln i n = true) (hp : ∀ e st x, ga_ps i p1 e (ta x ++ st) = some (p2, e, tb (f x) ++ st)) : gx le ok g tb w pc p2 (x1 f a) := by
  refine ⟨fun K e h hk => ?_, fun e st h K hw hk kk => ?_⟩
  · obtain ⟨v, h', h1, h2⟩ := ha.1 _ e h hk
    exact ⟨_, h', h1, h2⟩
  · exact ha.2 e st h _ hw hk fun v h' hv => ⟨(kk _ h' hv).1, M p1 e _ h' i n _ hd hn (hp e st v) (kk _ h' hv).2⟩
theorem gx_op {α β γ : Type} {ta : α → List ga_V} {tb : β → List ga_V} {tc : γ → List ga_V} {f : α → β → γ} {P : β → Prop} {a : ga_Ex η α} {b : ga_Ex η β} {w wa pc p1 p2 p3 n : Nat} {i : Instr} (O : ga_or le ok) (M : ga_M cc g) (hw : ∀ x, ga_wt (ta x) ≤ wa) (ha : gx le ok g ta w pc p1 a) (hb : gx le ok g tb (wa + w) p1 p2 b) (hd : decode cc p2 = .ok (i, n)) (hn : ga_ln i n = true) (hp : ∀ e st x y, P y → ga_ps i p2 e (tb y ++ (ta x ++ st)) = some (p3, e, tc (f x y) ++ st)) : gx le ok g tc w pc p3 (x2p P f a b) := by
  refine ⟨fun K e h hk => ?_, fun e st h K hw' hk kk => ?_⟩
  · obtain ⟨v, h', h1, h2⟩ := ha.1 _ e h hk
    obtain ⟨v2, h3, h4, h5⟩ := hb.1 _ e h' h1
    exact ⟨_, h3, h4.2, O.2.1 _ _ _ h2 h5⟩
  · refine ha.2 e st h _ hw' hk fun v h' hv => ?_
    obtain ⟨v2, h3, h4, h5⟩ := hb.1 _ e h' hv
    refine ⟨O.2.2 _ _ h5 (kk _ _ h4.2).1, ?_⟩
    refine hb.2 e (ta v ++ st) h' _ (by rw [wt_app]; have := hw v; omega) hv fun y h6 hy => ?_
    exact ⟨(kk _ _ hy.2).1, M p2 e _ h6 i n _ hd hn (hp e st v y hy.1) (kk _ _ hy.2).2⟩
theorem gx_of {α : Type} {tv : α → List ga_V} {a a' : ga_Ex η α} {w pc pc' : Nat} (h : gx le ok g tv w pc pc' a) (e : ∀ K en h, a' K en h ↔ a K en h) : gx le ok g tv w pc pc' a' :=
  ⟨fun K en h' hk => h.1 K en h' ((e _ _ _).mp hk), fun en st h' K hw hk kk => h.2 en st h' K hw ((e _ _ _).mp hk) kk⟩
theorem gx_op' {α β γ : Type} {ta : α → List ga_V} {tb : β → List ga_V} {tc : γ → List ga_V} {f : α → β → γ} {a : ga_Ex η α} {b : ga_Ex η β} {w wa pc p1 p2 p3 n : Nat} {i : Instr} (O : ga_or le ok) (M : ga_M cc g) (hw : ∀ x, ga_wt (ta x) ≤ wa) (ha : gx le ok g ta w pc p1 a) (hb : gx le ok g tb (wa + w) p1 p2 b) (hd : decode cc p2 = .ok (i, n)) (hn : ga_ln i n = true) (hp : ∀ e st x y, ga_ps i p2 e (tb y ++ (ta x ++ st)) = some (p3, e, tc (f x y) ++ st)) : gx le ok g tc w pc p3 (x2 f a b) := by
  refine ⟨fun K e h hk => ?_, fun e st h K hw' hk kk => ?_⟩
  · obtain ⟨v, h', h1, h2⟩ := ha.1 _ e h hk
    obtain ⟨v2, h3, h4, h5⟩ := hb.1 _ e h' h1
    exact ⟨_, h3, h4, O.2.1 _ _ _ h2 h5⟩
  · refine ha.2 e st h _ hw' hk fun v h' hv => ?_
    obtain ⟨v2, h3, h4, h5⟩ := hb.1 _ e h' hv
    refine ⟨O.2.2 _ _ h5 (kk _ _ h4).1, ?_⟩
    refine hb.2 e (ta v ++ st) h' _ (by rw [wt_app]; have := hw v; omega) hv fun y h6 hy => ?_
    exact ⟨(kk _ _ hy).1, M p2 e _ h6 i n _ hd hn (hp e st v y) (kk _ _ hy).2⟩
theorem wI (x : Int32) : ga_wt (vI x) ≤ 1 := Nat.le_refl _
theorem wL (x : Int64) : ga_wt (vL x) ≤ 2 := Nat.le_refl _
theorem wR (x : Option Nat) : ga_wt (vR x) ≤ 1 := by cases x <;> exact Nat.le_refl _
theorem gx_if {α : Type} {tv : α → List ga_V} {c : ga_Co η} {a b : ga_Ex η α} {w pc pt pf pe : Nat} (O : ga_or le ok) (hc : gc le ok g w pc pt pf c) (ha : gx le ok g tv w pt pe a) (hb : gx le ok g tv w pf pe b) : gx le ok g tv w pc pe (xIf c a b) := by
  refine ⟨fun K e h hk => ?_, fun e st h K hw hk kk => ?_⟩
  · obtain ⟨h', h1 | h1, h2⟩ := hc.1 _ _ e h hk
    · obtain ⟨v, h3, h4, h5⟩ := ha.1 _ e h' h1
      exact ⟨v, h3, h4, O.2.1 _ _ _ h2 h5⟩
    · obtain ⟨v, h3, h4, h5⟩ := hb.1 _ e h' h1
      exact ⟨v, h3, h4, O.2.1 _ _ _ h2 h5⟩
  · refine hc.2 e st h _ _ hw hk (fun h' h1 => ?_) (fun h' h1 => ?_)
    · obtain ⟨v, h3, h4, h5⟩ := ha.1 _ e h' h1
      exact ⟨O.2.2 _ _ h5 (kk _ _ h4).1, ha.2 e st h' K hw h1 kk⟩
    · obtain ⟨v, h3, h4, h5⟩ := hb.1 _ e h' h1
      exact ⟨O.2.2 _ _ h5 (kk _ _ h4).1, hb.2 e st h' K hw h1 kk⟩
theorem ga_goto {q r : Nat} {off : Int} (M : ga_M cc g) (hd : decode cc q = .ok (.goto off, 3)) (ht : (q : Int) + off = (r : Int)) {e : ga_Env} {st : List ga_V} {h : η} (k : g r e st h) : g q e st h := by
  refine M q e st h _ 3 (r, e, st) hd rfl ?_ k
  show (if 0 ≤ (q : Int) + off then some (ga_tg q off, e, st) else none) = _
  rw [if_pos (by omega), ga_tg, ht]
  rfl
theorem gx_go {α : Type} {tv : α → List ga_V} {a : ga_Ex η α} {w pc q r : Nat} {off : Int} (M : ga_M cc g) (ha : gx le ok g tv w pc q a) (hd : decode cc q = .ok (.goto off, 3)) (ht : (q : Int) + off = (r : Int)) : gx le ok g tv w pc r a :=
  ⟨ha.1, fun e st h K hw hk kk => ha.2 e st h K hw hk fun v h' hv => ⟨(kk v h' hv).1, ga_goto M hd ht (kk v h' hv).2⟩⟩
theorem gc_goT {c : ga_Co η} {w pc q r pf : Nat} {off : Int} (M : ga_M cc g) (hc : gc le ok g w pc q pf c) (hd : decode cc q = .ok (.goto off, 3)) (ht : (q : Int) + off = (r : Int)) : gc le ok g w pc r pf c :=
  ⟨hc.1, fun e st h T F hw hk kt kf => hc.2 e st h T F hw hk (fun h' hv => ⟨(kt h' hv).1, ga_goto M hd ht (kt h' hv).2⟩) kf⟩
theorem gc_goF {c : ga_Co η} {w pc q r pt : Nat} {off : Int} (M : ga_M cc g) (hc : gc le ok g w pc pt q c) (hd : decode cc q = .ok (.goto off, 3)) (ht : (q : Int) + off = (r : Int)) : gc le ok g w pc pt r c :=
  ⟨hc.1, fun e st h T F hw hk kt kf => hc.2 e st h T F hw hk kt (fun h' hv => ⟨(kf h' hv).1, ga_goto M hd ht (kf h' hv).2⟩)⟩
theorem gs_go {s : ga_Sm η} {pc q r pk : Nat} {off : Int} (M : ga_M cc g) (hs : gs le ok g rt pc q pk s) (hd : decode cc q = .ok (.goto off, 3)) (ht : (q : Int) + off = (r : Int)) : gs le ok g rt pc r pk s :=
  ⟨hs.1, fun e h N C R hk kn kc kr => hs.2 e h N C R hk (fun e h' hv => ⟨(kn e h' hv).1, ga_goto M hd ht (kn e h' hv).2⟩) kc kr⟩
theorem gs_go0 {s : ga_Sm η} {pc q pn pk : Nat} {off : Int} (M : ga_M cc g) (hs : gs le ok g rt q pn pk s) (hd : decode cc pc = .ok (.goto off, 3)) (ht : (pc : Int) + off = (q : Int)) : gs le ok g rt pc pn pk s :=
  ⟨hs.1, fun e h N C R hk kn kc kr => ga_goto M hd ht (hs.2 e h N C R hk kn kc kr)⟩
/-! conditions -/
theorem ga_br_y {pc tgt : Nat} {off : Int} {e : ga_Env} {r : List ga_V} {b : Bool} (ht : (pc : Int) + off = (tgt : Int)) (hb : b = true) : ga_br pc off e r b = some (tgt, e, r) := by
  unfold ga_br
  rw [if_pos (by omega), if_pos hb, ga_tg, ht]
  rfl
theorem ga_br_n {pc tgt : Nat} {off : Int} {e : ga_Env} {r : List ga_V} {b : Bool} (ht : (pc : Int) + off = (tgt : Int)) (hb : b = false) : ga_br pc off e r b = some (pc + 3, e, r) := by
  unfold ga_br
  rw [if_pos (by omega), if_neg (by rw [hb]; decide)]
def ga_ng : ClassFile.Cond → ClassFile.Cond
  | .eq => .ne
  | .ne => .eq
  | .lt => .ge
  | .ge => .lt
  | .gt => .le
  | .le => .gt
theorem ga_cc_ng (o : ClassFile.Cond) (x y : Int32) : ga_cc (ga_ng o) x y = !ga_cc o x y := by
  cases o
  · simp [ga_cc, ga_ng]
  · simp [ga_cc, ga_ng]
  · show decide (y ≤ x) = !decide (x < y)
    rw [← decide_not, decide_eq_decide, Int32.not_lt]
  · show decide (x < y) = !decide (y ≤ x)
    rw [← decide_not, decide_eq_decide, Int32.not_le]
  · show decide (x ≤ y) = !decide (y < x)
    rw [← decide_not, decide_eq_decide, Int32.not_lt]
  · show decide (y < x) = !decide (x ≤ y)
    rw [← decide_not, decide_eq_decide, Int32.not_le]
theorem ga_cc_lc (o : ClassFile.Cond) (x y : Int64) : ga_cc o (lg_cmp x y) 0 = ga_lc o x y := by
  have h1 : (lg_cmp x y = 0) ↔ x = y := by
    unfold lg_cmp
    by_cases h : x > y
    · rw [if_pos h]
      constructor
      · intro q; cases q
      · intro q; subst q; exact absurd h Int64.lt_irrefl
    · rw [if_neg h]
      by_cases h2 : x = y
      · rw [if_pos h2]; simp [h2]
      · rw [if_neg h2]
        constructor
        · intro q; cases q
        · intro q; exact absurd q h2
  cases o
  · simp only [ga_cc, ga_lc, h1]
  · simp only [ga_cc, ga_lc, h1]
  · simp only [ga_cc, ga_lc]
    rw [decide_eq_decide, ← Int32.not_le, lg_cmp_ge, Int64.not_le]
  · simp only [ga_cc, ga_lc]
    rw [decide_eq_decide, lg_cmp_ge]
  · simp only [ga_cc, ga_lc]
    rw [decide_eq_decide, ← Int32.not_le, lg_cmp_le, Int64.not_le]
  · simp only [ga_cc, ga_lc]
    rw [decide_eq_decide, lg_cmp_le]
/-- the branch of a comparison that stands: b tells, by the code's own word b' -/
theorem gc_br {α : Type} {ta : α → List ga_V} {a : ga_Ex η α} {P : α → Bool} {w pc p1 n tgt pt pf : Nat} {i : Instr} {off : Int} {neg : Bool} (O : ga_or le ok) (M : ga_M cc g) (ha : gx le ok g ta w pc p1 a) (hd : decode cc p1 = .ok (i, n)) (hn : ga_ln i n = true) (ht : (p1 : Int) + off = (tgt : Int)) (hp : ∀ e st x, ga_ps i p1 e (ta x ++ st) = ga_br p1 off e st (neg ^^ P x)) (h1 : pt = (if neg then p1 + 3 else tgt)) (h2 : pf = (if neg then tgt else p1 + 3)) : gc le ok g w pc pt pf (fun T F e h => a (fun x h1 => if P x = true then T h1 else F h1) e h) := by
  refine ⟨fun T F e h hk => ?_, fun e st h T F hw hk kt kf => ?_⟩
  · obtain ⟨v, h', h3, h4⟩ := ha.1 _ e h hk
    refine ⟨h', ?_, h4⟩
    split at h3
    · exact Or.inl h3
    · exact Or.inr h3
  · refine ha.2 e st h _ hw hk fun v h' hv => ?_
    split at hv
    · rename_i hP
      refine ⟨(kt _ hv).1, ?_⟩
      have K := (kt _ hv).2
      cases neg with
      | false => exact M p1 e _ h' i n _ hd hn ((hp e st v).trans (ga_br_y ht (by rw [hP]; rfl))) (by rw [h1] at K; exact K)
      | true => exact M p1 e _ h' i n _ hd hn ((hp e st v).trans (ga_br_n ht (by rw [hP]; rfl))) (by rw [h1] at K; exact K)
    · rename_i hP
      have hP : P v = false := by simpa using hP
      refine ⟨(kf _ hv).1, ?_⟩
      have K := (kf _ hv).2
      cases neg with
      | false => exact M p1 e _ h' i n _ hd hn ((hp e st v).trans (ga_br_n ht (by rw [hP]; rfl))) (by rw [h2] at K; exact K)
      | true => exact M p1 e _ h' i n _ hd hn ((hp e st v).trans (ga_br_y ht (by rw [hP]; rfl))) (by rw [h2] at K; exact K)
def xP {α β : Type} (a : ga_Ex η α) (b : ga_Ex η β) : ga_Ex η (α × β) := fun K e h => a (fun x h1 => b (fun y h2 => K (x, y) h2) e h1) e h
theorem gx_P {α β : Type} {ta : α → List ga_V} {tb : β → List ga_V} {a : ga_Ex η α} {b : ga_Ex η β} {w wa pc p1 p2 : Nat} (O : ga_or le ok) (hw : ∀ x, ga_wt (ta x) ≤ wa) (ha : gx le ok g ta w pc p1 a) (hb : gx le ok g tb (wa + w) p1 p2 b) : gx le ok g (fun q : α × β => tb q.2 ++ ta q.1) w pc p2 (xP a b) := by
  refine ⟨fun K e h hk => ?_, fun e st h K hw' hk kk => ?_⟩
  · obtain ⟨v, h', h1, h2⟩ := ha.1 _ e h hk
    obtain ⟨v2, h3, h4, h5⟩ := hb.1 _ e h' h1
    exact ⟨_, h3, h4, O.2.1 _ _ _ h2 h5⟩
  · refine ha.2 e st h _ hw' hk fun v h' hv => ?_
    obtain ⟨v2, h3, h4, h5⟩ := hb.1 _ e h' hv
    refine ⟨O.2.2 _ _ h5 (kk _ _ h4).1, ?_⟩
    refine hb.2 e (ta v ++ st) h' _ (by rw [wt_app]; have := hw v; omega) hv fun y h6 hy => ?_
    have := kk _ _ hy
    exact ⟨this.1, by rw [← List.append_assoc]; exact this.2⟩
theorem gc_I {o : ClassFile.Cond} {a b : ga_Ex η Int32} {w pc p1 p2 tgt pt pf : Nat} {off : Int} (neg : Bool) (O : ga_or le ok) (M : ga_M cc g) (ha : gx le ok g vI w pc p1 a) (hb : gx le ok g vI (1 + w) p1 p2 b) (hd : decode cc p2 = .ok (.if_icmp (if neg then ga_ng o else o) off, 3)) (ht : (p2 : Int) + off = (tgt : Int)) (h1 : pt = (if neg then p2 + 3 else tgt)) (h2 : pf = (if neg then tgt else p2 + 3)) : gc le ok g w pc pt pf (cI o a b) := by
  refine gc_br (P := fun q : Int32 × Int32 => ga_cc o q.1 q.2) (neg := neg) O M (gx_P O wI ha hb) hd rfl ht (fun e st x => ?_) h1 h2
  show ga_br p2 off e st (ga_cc _ x.1 x.2) = _
  cases neg
  · simp
  · simp [ga_cc_ng]
theorem gc_I0 {o : ClassFile.Cond} {a : ga_Ex η Int32} {w pc p1 tgt pt pf : Nat} {off : Int} (neg : Bool) (O : ga_or le ok) (M : ga_M cc g) (ha : gx le ok g vI w pc p1 a) (hd : decode cc p1 = .ok (.ifCond (if neg then ga_ng o else o) off, 3)) (ht : (p1 : Int) + off = (tgt : Int)) (h1 : pt = (if neg then p1 + 3 else tgt)) (h2 : pf = (if neg then tgt else p1 + 3)) : gc le ok g w pc pt pf (cI o a (xC 0)) := by
  refine gc_br (P := fun q : Int32 => ga_cc o q 0) (neg := neg) O M ha hd rfl ht (fun e st x => ?_) h1 h2
  show ga_br p1 off e st (ga_cc _ x 0) = _
  cases neg
  · simp
  · simp [ga_cc_ng]
theorem gc_L {o : ClassFile.Cond} {a b : ga_Ex η Int64} {w pc p1 p2 p3 tgt pt pf : Nat} {off : Int} (neg : Bool) (O : ga_or le ok) (M : ga_M cc g) (ha : gx le ok g vL w pc p1 a) (hb : gx le ok g vL (2 + w) p1 p2 b) (hl : decode cc p2 = .ok (.lcmp, 1)) (hd : decode cc p3 = .ok (.ifCond (if neg then ga_ng o else o) off, 3)) (ht : (p3 : Int) + off = (tgt : Int)) (h0 : p3 = p2 + 1) (h1 : pt = (if neg then p3 + 3 else tgt)) (h2 : pf = (if neg then tgt else p3 + 3)) : gc le ok g w pc pt pf (cL o a b) := by
  subst h0
  have hx : gx le ok g vI w pc (p2 + 1) (x2 lg_cmp a b) := gx_op' O M wL ha hb hl rfl (fun _ _ _ _ => rfl)
  have := gc_br (P := fun q : Int32 => ga_cc o q 0) (neg := neg) O M hx hd rfl ht (fun e st x => by
    show ga_br (p2 + 1) off e st (ga_cc _ x 0) = _
    cases neg
    · simp
    · simp [ga_cc_ng]) h1 h2
  simp only [x2, ga_cc_lc] at this
  exact this
theorem gc_R {a b : ga_Ex η (Option Nat)} {w pc p1 p2 tgt pt pf : Nat} {off : Int} (neg : Bool) (O : ga_or le ok) (M : ga_M cc g) (ha : gx le ok g vR w pc p1 a) (hb : gx le ok g vR (1 + w) p1 p2 b) (hd : decode cc p2 = .ok (.if_acmp (if neg then .ne else .eq) off, 3)) (ht : (p2 : Int) + off = (tgt : Int)) (h1 : pt = (if neg then p2 + 3 else tgt)) (h2 : pf = (if neg then tgt else p2 + 3)) : gc le ok g w pc pt pf (cR a b) := by
  have := gc_br (P := fun q : Option Nat × Option Nat => decide (q.1 = q.2)) (neg := neg) O M (gx_P O wR ha hb) hd rfl ht (fun e st x => by
    cases neg
    · show ga_br p2 off e st (decide (x.1 = x.2)) = _
      simp
    · show ga_br p2 off e st (decide (¬ x.1 = x.2)) = _
      simp) h1 h2
  simp only [xP, decide_eq_true_eq] at this
  exact this
theorem gc_N {a : ga_Ex η (Option Nat)} {w pc p1 tgt pt pf : Nat} {off : Int} {i : Instr} (neg : Bool) (O : ga_or le ok) (M : ga_M cc g) (ha : gx le ok g vR w pc p1 a) (hd : decode cc p1 = .ok (i, 3)) (hi : i = (if neg then .ifnonnull off else .ifnull off)) (ht : (p1 : Int) + off = (tgt : Int)) (h1 : pt = (if neg then p1 + 3 else tgt)) (h2 : pf = (if neg then tgt else p1 + 3)) : gc le ok g w pc pt pf (cN a) := by
  have := gc_br (P := fun q : Option Nat => decide (q = none)) (neg := neg) O M ha hd (by subst hi; cases neg <;> rfl) ht (fun e st x => by
    subst hi
    cases neg
    · show ga_br p1 off e st (decide (x = none)) = _
      simp
    · show ga_br p1 off e st (decide (¬ x = none)) = _
      simp) h1 h2
  simp only [decide_eq_true_eq] at this
  exact this
theorem gc_B {a : ga_Ex η Int32} {w pc p1 tgt pt pf : Nat} {off : Int} (neg : Bool) (O : ga_or le ok) (M : ga_M cc g) (ha : gx le ok g vI w pc p1 a) (hd : decode cc p1 = .ok (.ifCond (if neg then .eq else .ne) off, 3)) (ht : (p1 : Int) + off = (tgt : Int)) (h1 : pt = (if neg then p1 + 3 else tgt)) (h2 : pf = (if neg then tgt else p1 + 3)) : gc le ok g w pc pt pf (cB a) := by
  have := gc_br (P := fun q : Int32 => !decide (q = 0)) (neg := neg) O M ha hd rfl ht (fun e st x => by
    cases neg
    · show ga_br p1 off e st (decide (¬ x = 0)) = _
      simp
    · show ga_br p1 off e st (decide (x = 0)) = _
      simp) h1 h2
  have e : (fun T F e h => a (fun x h1 => if (!decide (x = 0)) = true then T h1 else F h1) e h : ga_Co η) = cB a := by
    funext T F e h
    unfold cB
    congr 1
    funext x h1
    by_cases hx : x = 0 <;> simp [hx]
  rw [← e]
  exact this
theorem gc_and {a b : ga_Co η} {w pc q pt pf : Nat} (O : ga_or le ok) (ha : gc le ok g w pc q pf a) (hb : gc le ok g w q pt pf b) : gc le ok g w pc pt pf (cAnd a b) := by
  refine ⟨fun T F e h hk => ?_, fun e st h T F hw hk kt kf => ?_⟩
  · obtain ⟨h', h1 | h1, h2⟩ := ha.1 _ _ e h hk
    · obtain ⟨h3, h4, h5⟩ := hb.1 _ _ e h' h1
      exact ⟨h3, h4, O.2.1 _ _ _ h2 h5⟩
    · exact ⟨h', Or.inr h1, h2⟩
  · refine ha.2 e st h _ _ hw hk (fun h' h1 => ⟨?_, hb.2 e st h' T F hw h1 kt kf⟩) kf
    obtain ⟨h3, h4 | h4, h5⟩ := hb.1 _ _ e h' h1
    · exact O.2.2 _ _ h5 (kt _ h4).1
    · exact O.2.2 _ _ h5 (kf _ h4).1
theorem gc_or {a b : ga_Co η} {w pc q pt pf : Nat} (O : ga_or le ok) (ha : gc le ok g w pc pt q a) (hb : gc le ok g w q pt pf b) : gc le ok g w pc pt pf (cOr a b) := by
  refine ⟨fun T F e h hk => ?_, fun e st h T F hw hk kt kf => ?_⟩
  · obtain ⟨h', h1 | h1, h2⟩ := ha.1 _ _ e h hk
    · exact ⟨h', Or.inl h1, h2⟩
    · obtain ⟨h3, h4, h5⟩ := hb.1 _ _ e h' h1
      exact ⟨h3, h4, O.2.1 _ _ _ h2 h5⟩
  · refine ha.2 e st h _ _ hw hk kt (fun h' h1 => ⟨?_, hb.2 e st h' T F hw h1 kt kf⟩)
    obtain ⟨h3, h4 | h4, h5⟩ := hb.1 _ _ e h' h1
    · exact O.2.2 _ _ h5 (kt _ h4).1
    · exact O.2.2 _ _ h5 (kf _ h4).1
theorem gc_not {a : ga_Co η} {w pc pt pf : Nat} (ha : gc le ok g w pc pf pt a) : gc le ok g w pc pt pf (cNot a) :=
  ⟨fun T F e h hk => by
    obtain ⟨h', h1, h2⟩ := ha.1 _ _ e h hk
    exact ⟨h', h1.symm, h2⟩, fun e st h T F hw hk kt kf => ha.2 e st h _ _ hw hk kf kt⟩
theorem gc_T {w pc pf : Nat} (O : ga_or le ok) : gc le ok g w pc pc pf cT :=
  ⟨fun T F e h hk => ⟨h, Or.inl hk, O.1 h⟩, fun e st h T F hw hk kt kf => (kt h hk).2⟩
theorem gx_aN {w pc : Nat} (O : ga_or le ok) : gx le ok g vA w pc pc aN :=
  ⟨fun K e h hk => ⟨[], h, hk, O.1 h⟩, fun e st h K hw hk kk => (kk [] h hk).2⟩
end CB
