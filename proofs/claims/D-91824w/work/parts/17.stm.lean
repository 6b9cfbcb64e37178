/-! LAYER 1h: statements -/
section ST
variable {η : Type} {le : η → η → Prop} {ok : η → Prop} {g : Nat → ga_Env → List ga_V → η → Prop} {rt : Option ga_V → η → Prop} {cc : ByteArray}
theorem gs_skip {pc pk : Nat} (O : ga_or le ok) : gs le ok g rt pc pc pk sSkip :=
  ⟨fun N C R e h hk => Or.inl ⟨e, h, Or.inl hk, O.1 h⟩, fun e h N C R hk kn kc kr => (kn e h hk).2⟩
theorem gs_cont {pn pk : Nat} (O : ga_or le ok) : gs le ok g rt pk pn pk sCont :=
  ⟨fun N C R e h hk => Or.inl ⟨e, h, Or.inr hk, O.1 h⟩, fun e h N C R hk kn kc kr => (kc e h hk).2⟩
theorem gs_seq {a b : ga_Sm η} {pc q pn pk : Nat} (O : ga_or le ok) (ha : gs le ok g rt pc q pk a) (hb : gs le ok g rt q pn pk b) : gs le ok g rt pc pn pk (sSeq a b) := by
  refine ⟨fun N C R e h hk => ?_, fun e h N C R hk kn kc kr => ?_⟩
  · rcases ha.1 _ _ _ e h hk with ⟨e', h', h1 | h1, h2⟩ | ⟨r, h', h1, h2⟩
    · rcases hb.1 _ _ _ e' h' h1 with ⟨e3, h3, h4, h5⟩ | ⟨r, h3, h4, h5⟩
      · exact Or.inl ⟨e3, h3, h4, O.2.1 _ _ _ h2 h5⟩
      · exact Or.inr ⟨r, h3, h4, O.2.1 _ _ _ h2 h5⟩
    · exact Or.inl ⟨e', h', Or.inr h1, h2⟩
    · exact Or.inr ⟨r, h', h1, h2⟩
  · refine ha.2 e h _ _ _ hk (fun e' h' h1 => ⟨?_, hb.2 e' h' N C R h1 kn kc kr⟩) kc kr
    rcases hb.1 _ _ _ e' h' h1 with ⟨e3, h3, h4 | h4, h5⟩ | ⟨r, h3, h4, h5⟩
    · exact O.2.2 _ _ h5 (kn _ _ h4).1
    · exact O.2.2 _ _ h5 (kc _ _ h4).1
    · exact O.2.2 _ _ h5 (kr _ _ h4).1
theorem gs_okOf {s : ga_Sm η} {pc pn pk : Nat} (O : ga_or le ok) (hs : gs le ok g rt pc pn pk s) {N C : ga_Env → η → Prop} {R : Option ga_V → η → Prop} {e : ga_Env} {h : η} (hk : s N C R e h) (kn : ∀ e h, N e h → ok h) (kc : ∀ e h, C e h → ok h) (kr : ∀ r h, R r h → ok h) : ok h := by
  rcases hs.1 _ _ _ e h hk with ⟨e', h', h1 | h1, h2⟩ | ⟨r, h', h1, h2⟩
  · exact O.2.2 _ _ h2 (kn _ _ h1)
  · exact O.2.2 _ _ h2 (kc _ _ h1)
  · exact O.2.2 _ _ h2 (kr _ _ h1)
theorem gs_I {a : ga_Ex η Int32} {k n pc p1 pn pk : Nat} {i : Instr} (M : ga_M cc g) (ha : gx le ok g vI 0 pc p1 a) (hd : decode cc p1 = .ok (i, n)) (hn : ga_ln i n = true) (hp : ∀ e st, ga_ps i p1 e st = ga_s1 pn e st k ga_isI) : gs le ok g rt pc pn pk (sI k a) := by
  refine ⟨fun N C R e h hk => ?_, fun e h N C R hk kn kc kr => ?_⟩
  · obtain ⟨v, h', h1, h2⟩ := ha.1 _ e h hk
    exact Or.inl ⟨_, h', Or.inl h1.2, h2⟩
  · refine ha.2 e [] h _ (Nat.zero_le _) hk fun v h' hv => ⟨(kn _ _ hv.2).1, ?_⟩
    refine M p1 e _ h' i n (pn, ga_st1 e k (.inl v), []) hd hn ?_ (kn _ _ hv.2).2
    rw [hp]
    show (if ga_isI (.inl v) && decide (k < e.length) then _ else none) = _
    simp [ga_isI, hv.1]
theorem gs_L {a : ga_Ex η Int64} {k n pc p1 pn pk : Nat} {i : Instr} (M : ga_M cc g) (ha : gx le ok g vL 0 pc p1 a) (hd : decode cc p1 = .ok (i, n)) (hn : ga_ln i n = true) (hp : ∀ e st, ga_ps i p1 e st = ga_s2 pn e st k) : gs le ok g rt pc pn pk (sL k a) := by
  refine ⟨fun N C R e h hk => ?_, fun e h N C R hk kn kc kr => ?_⟩
  · obtain ⟨v, h', h1, h2⟩ := ha.1 _ e h hk
    exact Or.inl ⟨_, h', Or.inl h1.2, h2⟩
  · refine ha.2 e [] h _ (Nat.zero_le _) hk fun v h' hv => ⟨(kn _ _ hv.2).1, ?_⟩
    refine M p1 e _ h' i n (pn, ga_st2 e k (.inr (.inl v)), []) hd hn ?_ (kn _ _ hv.2).2
    rw [hp]
    show (if ga_isL (.inr (.inl v)) && decide (k + 1 < e.length) then _ else none) = _
    simp [ga_isL, hv.1]
theorem gs_R {a : ga_Ex η (Option Nat)} {k n pc p1 pn pk : Nat} {i : Instr} (M : ga_M cc g) (ha : gx le ok g vR 0 pc p1 a) (hd : decode cc p1 = .ok (i, n)) (hn : ga_ln i n = true) (hp : ∀ e st, ga_ps i p1 e st = ga_s1 pn e st k ga_isR) : gs le ok g rt pc pn pk (sR k a) := by
  refine ⟨fun N C R e h hk => ?_, fun e h N C R hk kn kc kr => ?_⟩
  · obtain ⟨v, h', h1, h2⟩ := ha.1 _ e h hk
    exact Or.inl ⟨_, h', Or.inl h1.2, h2⟩
  · refine ha.2 e [] h _ (Nat.zero_le _) hk fun v h' hv => ⟨(kn _ _ hv.2).1, ?_⟩
    refine M p1 e _ h' i n (pn, ga_st1 e k (.inr (.inr v)), []) hd hn ?_ (kn _ _ hv.2).2
    rw [hp]
    show (if ga_isR (.inr (.inr v)) && decide (k < e.length) then _ else none) = _
    simp [ga_isR, hv.1]
theorem gs_inc {k pc pk : Nat} {n : Int} {m : Int32} (O : ga_or le ok) (M : ga_M cc g) (hd : decode cc pc = .ok (.iinc k n, 3)) (hm : Int32.ofInt n = m) : gs le ok g rt pc (pc + 3) pk (sInc k m) := by
  refine ⟨fun N C R e h hk => ?_, fun e h N C R hk kn kc kr => ?_⟩
  · unfold sInc at hk
    split at hk
    · exact Or.inl ⟨_, h, Or.inl hk, O.1 h⟩
    · cases hk
  · unfold sInc at hk
    split at hk
    · rename_i x hx
      refine M pc e [] h _ 3 (pc + 3, ga_st1 e k (.inl (x + m)), []) hd rfl ?_ (kn _ _ hk).2
      show (match ga_get e k with | some (.inl x) => some (pc + 3, ga_st1 e k (.inl (x + Int32.ofInt n)), []) | _ => none) = _
      rw [hx, hm]
    · cases hk
theorem gs_if {c : ga_Co η} {a b : ga_Sm η} {pc pt pf pn pk : Nat} (O : ga_or le ok) (hc : gc le ok g 0 pc pt pf c) (ha : gs le ok g rt pt pn pk a) (hb : gs le ok g rt pf pn pk b) : gs le ok g rt pc pn pk (sIf c a b) := by
  refine ⟨fun N C R e h hk => ?_, fun e h N C R hk kn kc kr => ?_⟩
  · obtain ⟨h', h1 | h1, h2⟩ := hc.1 _ _ e h hk
    · rcases ha.1 _ _ _ e h' h1 with ⟨e3, h3, h4, h5⟩ | ⟨r, h3, h4, h5⟩
      · exact Or.inl ⟨e3, h3, h4, O.2.1 _ _ _ h2 h5⟩
      · exact Or.inr ⟨r, h3, h4, O.2.1 _ _ _ h2 h5⟩
    · rcases hb.1 _ _ _ e h' h1 with ⟨e3, h3, h4, h5⟩ | ⟨r, h3, h4, h5⟩
      · exact Or.inl ⟨e3, h3, h4, O.2.1 _ _ _ h2 h5⟩
      · exact Or.inr ⟨r, h3, h4, O.2.1 _ _ _ h2 h5⟩
  · exact hc.2 e [] h _ _ (Nat.zero_le _) hk (fun h' h1 => ⟨gs_okOf O ha h1 (fun e h q => (kn e h q).1) (fun e h q => (kc e h q).1) (fun r h q => (kr r h q).1), ha.2 e h' N C R h1 kn kc kr⟩) (fun h' h1 => ⟨gs_okOf O hb h1 (fun e h q => (kn e h q).1) (fun e h q => (kc e h q).1) (fun r h q => (kr r h q).1), hb.2 e h' N C R h1 kn kc kr⟩)
theorem gs_for {c : ga_Co η} {u b : ga_Sm η} {pc pb pu pn pk : Nat} (O : ga_or le ok) (hc : gc le ok g 0 pc pb pn c) (hb : gs le ok g rt pb pu pu b) (hu : gs le ok g rt pu pc pc u) : gs le ok g rt pc pn pk (sFor c u b) := by
  refine ⟨fun N C R e h ⟨n, hk⟩ => ?_, fun e h N C R ⟨n, hk⟩ kn kc kr => ?_⟩
  · have L : ∀ n e h, sForN c u b N R n e h → (∃ e' h', N e' h' ∧ le h h') ∨ ∃ r h', R r h' ∧ le h h' := by
      intro n
      induction n with
      | zero => intro e h hk; cases hk
      | succ n ih =>
        intro e h hk
        obtain ⟨h', h1 | h1, h2⟩ := hc.1 _ _ e h hk
        · rcases hb.1 _ _ _ e h' h1 with ⟨e3, h3, h4, h5⟩ | ⟨r, h3, h4, h5⟩
          · have h4 : u (sForN c u b N R n) (fun _ _ => False) R e3 h3 := by rcases h4 with h4 | h4 <;> exact h4
            rcases hu.1 _ _ _ e3 h3 h4 with ⟨e6, h6, h7 | h7, h8⟩ | ⟨r, h6, h7, h8⟩
            · rcases ih e6 h6 h7 with ⟨e9, h9, h10, h11⟩ | ⟨r, h9, h10, h11⟩
              · exact Or.inl ⟨e9, h9, h10, O.2.1 _ _ _ h2 (O.2.1 _ _ _ h5 (O.2.1 _ _ _ h8 h11))⟩
              · exact Or.inr ⟨r, h9, h10, O.2.1 _ _ _ h2 (O.2.1 _ _ _ h5 (O.2.1 _ _ _ h8 h11))⟩
            · cases h7
            · exact Or.inr ⟨r, h6, h7, O.2.1 _ _ _ h2 (O.2.1 _ _ _ h5 h8)⟩
          · exact Or.inr ⟨r, h3, h4, O.2.1 _ _ _ h2 h5⟩
        · exact Or.inl ⟨e, h', h1, h2⟩
    rcases L n e h hk with ⟨e', h', h1, h2⟩ | h1
    · exact Or.inl ⟨e', h', Or.inl h1, h2⟩
    · exact Or.inr h1
  · have L : ∀ n e h, sForN c u b N R n e h → ok h ∧ g pc e [] h := by
      intro n
      induction n with
      | zero => intro e h hk; cases hk
      | succ n ih =>
        intro e h hk
        have ku : ∀ e h, u (sForN c u b N R n) (fun _ _ => False) R e h → ok h ∧ g pu e [] h := fun e h hk =>
          ⟨gs_okOf O hu hk (fun e h q => (ih e h q).1) (fun _ _ q => q.elim) (fun r h q => (kr r h q).1), hu.2 e h _ _ _ hk ih (fun _ _ q => q.elim) kr⟩
        have kb : ∀ e h, b (fun e h => u (sForN c u b N R n) (fun _ _ => False) R e h) (fun e h => u (sForN c u b N R n) (fun _ _ => False) R e h) R e h → ok h ∧ g pb e [] h := fun e h hk =>
          ⟨gs_okOf O hb hk (fun e h q => (ku e h q).1) (fun e h q => (ku e h q).1) (fun r h q => (kr r h q).1), hb.2 e h _ _ _ hk ku ku kr⟩
        have K := hc.2 e [] h _ _ (Nat.zero_le _) hk (fun h' h1 => kb e h' h1) (fun h' h1 => kn e h' h1)
        refine ⟨?_, K⟩
        obtain ⟨h', h1 | h1, h2⟩ := hc.1 _ _ e h hk
        · exact O.2.2 _ _ h2 (kb e h' h1).1
        · exact O.2.2 _ _ h2 (kn e h' h1).1
    exact (L n e h hk).2
theorem gs_do {c : ga_Co η} {b : ga_Sm η} {pc pm pn pk pz : Nat} (O : ga_or le ok) (hb : gs le ok g rt pc pm pz b) (hc : gc le ok g 0 pm pc pn c) : gs le ok g rt pc pn pk (sDo b c) := by
  refine ⟨fun N C R e h ⟨n, hk⟩ => ?_, fun e h N C R ⟨n, hk⟩ kn kc kr => ?_⟩
  · have L : ∀ n e h, sDoN b c N R n e h → (∃ e' h', N e' h' ∧ le h h') ∨ ∃ r h', R r h' ∧ le h h' := by
      intro n
      induction n with
      | zero => intro e h hk; cases hk
      | succ n ih =>
        intro e h hk
        rcases hb.1 _ _ _ e h hk with ⟨e3, h3, h4 | h4, h5⟩ | ⟨r, h3, h4, h5⟩
        · obtain ⟨h', h1 | h1, h2⟩ := hc.1 _ _ e3 h3 h4
          · rcases ih e3 h' h1 with ⟨e9, h9, h10, h11⟩ | ⟨r, h9, h10, h11⟩
            · exact Or.inl ⟨e9, h9, h10, O.2.1 _ _ _ h5 (O.2.1 _ _ _ h2 h11)⟩
            · exact Or.inr ⟨r, h9, h10, O.2.1 _ _ _ h5 (O.2.1 _ _ _ h2 h11)⟩
          · exact Or.inl ⟨e3, h', h1, O.2.1 _ _ _ h5 h2⟩
        · cases h4
        · exact Or.inr ⟨r, h3, h4, h5⟩
    rcases L n e h hk with ⟨e', h', h1, h2⟩ | h1
    · exact Or.inl ⟨e', h', Or.inl h1, h2⟩
    · exact Or.inr h1
  · have L : ∀ n e h, sDoN b c N R n e h → ok h ∧ g pc e [] h := by
      intro n
      induction n with
      | zero => intro e h hk; cases hk
      | succ n ih =>
        intro e h hk
        have km : ∀ e h, c (fun h1 => sDoN b c N R n e h1) (fun h1 => N e h1) e h → ok h ∧ g pm e [] h := fun e h hk => by
          refine ⟨?_, hc.2 e [] h _ _ (Nat.zero_le _) hk (fun h' h1 => ih e h' h1) (fun h' h1 => kn e h' h1)⟩
          obtain ⟨h', h1 | h1, h2⟩ := hc.1 _ _ e h hk
          · exact O.2.2 _ _ h2 (ih e h' h1).1
          · exact O.2.2 _ _ h2 (kn e h' h1).1
        exact ⟨gs_okOf O hb hk (fun e h q => (km e h q).1) (fun _ _ q => q.elim) (fun r h q => (kr r h q).1), hb.2 e h _ _ _ hk km (fun _ _ q => q.elim) kr⟩
    exact (L n e h hk).2
/-- what the machine has to know of the ends -/
def ga_RT (cc : ByteArray) (g : Nat → ga_Env → List ga_V → η → Prop) (rt : Option ga_V → η → Prop) : Prop :=
  (∀ pc e h, decode cc pc = .ok (.return_, 1) → rt none h → g pc e [] h) ∧ (∀ pc e h x, decode cc pc = .ok (.ireturn, 1) → rt (some (.inl x)) h → g pc e [.inl x] h) ∧ (∀ pc e h x, decode cc pc = .ok (.lreturn, 1) → rt (some (.inr (.inl x))) h → g pc e [.inr (.inl x)] h) ∧ ∀ pc e h x, decode cc pc = .ok (.areturn, 1) → rt (some (.inr (.inr x))) h → g pc e [.inr (.inr x)] h
theorem gs_ret0 {pc pn pk : Nat} (O : ga_or le ok) (T : ga_RT cc g rt) (hd : decode cc pc = .ok (.return_, 1)) : gs le ok g rt pc pn pk sRet0 :=
  ⟨fun N C R e h hk => Or.inr ⟨none, h, hk, O.1 h⟩, fun e h N C R hk kn kc kr => T.1 pc e h hd (kr _ _ hk).2⟩
theorem gs_retI {a : ga_Ex η Int32} {pc p1 pn pk : Nat} (T : ga_RT cc g rt) (ha : gx le ok g vI 0 pc p1 a) (hd : decode cc p1 = .ok (.ireturn, 1)) : gs le ok g rt pc pn pk (sRet vI a) := by
  refine ⟨fun N C R e h hk => ?_, fun e h N C R hk kn kc kr => ?_⟩
  · obtain ⟨v, h', h1, h2⟩ := ha.1 _ e h hk
    exact Or.inr ⟨_, h', h1, h2⟩
  · exact ha.2 e [] h _ (Nat.zero_le _) hk fun v h' hv => ⟨(kr _ _ hv).1, T.2.1 p1 e h' v hd (kr _ _ hv).2⟩
theorem gs_retL {a : ga_Ex η Int64} {pc p1 pn pk : Nat} (T : ga_RT cc g rt) (ha : gx le ok g vL 0 pc p1 a) (hd : decode cc p1 = .ok (.lreturn, 1)) : gs le ok g rt pc pn pk (sRet vL a) := by
  refine ⟨fun N C R e h hk => ?_, fun e h N C R hk kn kc kr => ?_⟩
  · obtain ⟨v, h', h1, h2⟩ := ha.1 _ e h hk
    exact Or.inr ⟨_, h', h1, h2⟩
  · exact ha.2 e [] h _ (Nat.zero_le _) hk fun v h' hv => ⟨(kr _ _ hv).1, T.2.2.1 p1 e h' v hd (kr _ _ hv).2⟩
theorem gs_retR {a : ga_Ex η (Option Nat)} {pc p1 pn pk : Nat} (T : ga_RT cc g rt) (ha : gx le ok g vR 0 pc p1 a) (hd : decode cc p1 = .ok (.areturn, 1)) : gs le ok g rt pc pn pk (sRet vR a) := by
  refine ⟨fun N C R e h hk => ?_, fun e h N C R hk kn kc kr => ?_⟩
  · obtain ⟨v, h', h1, h2⟩ := ha.1 _ e h hk
    exact Or.inr ⟨_, h', h1, h2⟩
  · exact ha.2 e [] h _ (Nat.zero_le _) hk fun v h' hv => ⟨(kr _ _ hv).1, T.2.2.2 p1 e h' v hd (kr _ _ hv).2⟩
/-- an expression whose value is thrown away -/
theorem gs_exI {a : ga_Ex η Int32} {pc p1 pk : Nat} (M : ga_M cc g) (ha : gx le ok g vI 0 pc p1 a) (hd : decode cc p1 = .ok (.pop, 1)) : gs le ok g rt pc (p1 + 1) pk (sEx a) := by
  refine ⟨fun N C R e h hk => ?_, fun e h N C R hk kn kc kr => ?_⟩
  · obtain ⟨v, h', h1, h2⟩ := ha.1 _ e h hk
    exact Or.inl ⟨e, h', Or.inl h1, h2⟩
  · exact ha.2 e [] h _ (Nat.zero_le _) hk fun v h' hv => ⟨(kn _ _ hv).1, M p1 e _ h' _ 1 (p1 + 1, e, []) hd rfl rfl (kn _ _ hv).2⟩
theorem gs_exR {a : ga_Ex η (Option Nat)} {pc p1 pk : Nat} (M : ga_M cc g) (ha : gx le ok g vR 0 pc p1 a) (hd : decode cc p1 = .ok (.pop, 1)) : gs le ok g rt pc (p1 + 1) pk (sEx a) := by
  refine ⟨fun N C R e h hk => ?_, fun e h N C R hk kn kc kr => ?_⟩
  · obtain ⟨v, h', h1, h2⟩ := ha.1 _ e h hk
    exact Or.inl ⟨e, h', Or.inl h1, h2⟩
  · exact ha.2 e [] h _ (Nat.zero_le _) hk fun v h' hv => ⟨(kn _ _ hv).1, M p1 e _ h' _ 1 (p1 + 1, e, []) hd rfl rfl (kn _ _ hv).2⟩
def vU (_ : Unit) : List ga_V := []
theorem gs_exU {a : ga_Ex η Unit} {pc p1 pk : Nat} (ha : gx le ok g vU 0 pc p1 a) : gs le ok g rt pc p1 pk (sEx a) := by
  refine ⟨fun N C R e h hk => ?_, fun e h N C R hk kn kc kr => ?_⟩
  · obtain ⟨v, h', h1, h2⟩ := ha.1 _ e h hk
    exact Or.inl ⟨e, h', Or.inl h1, h2⟩
  · exact ha.2 e [] h _ (Nat.zero_le _) hk fun v h' hv => kn _ _ hv
/-- the places of a switch's cases -/
def ga_swOk (pc : Nat) (d lo hi : Int) (offs : Array Int) : List (Int32 × Nat) → Prop
  | [] => True
  | (v, p) :: r => (¬ v.toInt < lo ∧ ¬ hi < v.toInt ∧ ∃ off, offs[(v.toInt - lo).toNat]? = some off ∧ (pc : Int) + off = (p : Int)) ∧ ga_swOk pc d lo hi offs r
/-- every value that isn't a told one goes to the last case -/
def ga_swD (pc pd : Nat) (d lo hi : Int) (offs : Array Int) (ls : List (Int32 × Nat)) : Prop := (pc : Int) + d = (pd : Int) ∧ ∀ x : Int32, ¬ x.toInt < lo → ¬ hi < x.toInt → (∀ q ∈ ls, x ≠ q.1) → ∃ off, offs[(x.toInt - lo).toNat]? = some off ∧ (pc : Int) + off = (pd : Int)
def ga_swS (le : η → η → Prop) (ok : η → Prop) (g : Nat → ga_Env → List ga_V → η → Prop) (rt : Option ga_V → η → Prop) (pn pk : Nat) : List (Int32 × Nat) → List (Int32 × ga_Sm η) → Prop
  | [], [] => True
  | (v, p) :: r, (v', s) :: u => v = v' ∧ gs le ok g rt p pn pk s ∧ ga_swS le ok g rt pn pk r u
  | _, _ => False
theorem gs_sw {a : ga_Ex η Int32} {cs : List (Int32 × ga_Sm η)} {ds : ga_Sm η} {ls : List (Int32 × Nat)} {pc p1 pd pn pk len : Nat} {d lo hi : Int} {offs : Array Int} (O : ga_or le ok) (M : ga_M cc g) (ha : gx le ok g vI 0 pc p1 a) (hd : decode cc p1 = .ok (.tableswitch d lo hi offs, len)) (h1 : ga_swOk p1 d lo hi offs ls) (h2 : ga_swD p1 pd d lo hi offs ls) (h3 : ga_swS le ok g rt pn pk ls cs) (h4 : gs le ok g rt pd pn pk ds) : gs le ok g rt pc pn pk (sSw a cs ds) := by
  have pick : ∀ (ls : List (Int32 × Nat)) (cs : List (Int32 × ga_Sm η)), ga_swOk p1 d lo hi offs ls → ga_swS le ok g rt pn pk ls cs → ∀ x : Int32, ∃ pq, gs le ok g rt pq pn pk (cs.foldr (fun q r => if x = q.1 then q.2 else r) ds) ∧ ((pq = pd ∧ ∀ q ∈ ls, x ≠ q.1) ∨ (¬ x.toInt < lo ∧ ¬ hi < x.toInt ∧ ∃ off, offs[(x.toInt - lo).toNat]? = some off ∧ (p1 : Int) + off = (pq : Int))) := by
    intro ls
    induction ls with
    | nil =>
      intro cs k1 k2 x
      cases cs with
      | nil => exact ⟨pd, h4, Or.inl ⟨rfl, fun q hq => by cases hq⟩⟩
      | cons c cs => cases k2
    | cons q ls ih =>
      obtain ⟨q1, q2⟩ := q
      intro cs k1 k2 x
      cases cs with
      | nil => cases k2
      | cons c cs =>
        obtain ⟨c1, c2⟩ := c
        obtain ⟨k3, k4, k5⟩ := k2
        by_cases hx : x = c1
        · refine ⟨q2, ?_, Or.inr ?_⟩
          · rw [List.foldr_cons, if_pos hx]; exact k4
          · rw [hx, ← k3]; exact k1.1
        · obtain ⟨pq, k6, k7⟩ := ih cs k1.2 k5 x
          refine ⟨pq, ?_, ?_⟩
          · rw [List.foldr_cons, if_neg hx]; exact k6
          · rcases k7 with ⟨k7, k8⟩ | k7
            · refine Or.inl ⟨k7, fun z hz => ?_⟩
              rcases List.mem_cons.mp hz with rfl | hz
              · show x ≠ q1; rw [k3]; exact hx
              · exact k8 z hz
            · exact Or.inr k7
  refine ⟨fun N C R e h hk => ?_, fun e h N C R hk kn kc kr => ?_⟩
  · obtain ⟨v, h', k1, k2⟩ := ha.1 _ e h hk
    obtain ⟨pq, k3, -⟩ := pick ls cs h1 h3 v
    rcases k3.1 _ _ _ e h' k1 with ⟨e3, h3, h4, h5⟩ | ⟨r, h3, h4, h5⟩
    · exact Or.inl ⟨e3, h3, h4, O.2.1 _ _ _ k2 h5⟩
    · exact Or.inr ⟨r, h3, h4, O.2.1 _ _ _ k2 h5⟩
  · refine ha.2 e [] h _ (Nat.zero_le _) hk fun v h' hv => ?_
    obtain ⟨pq, k3, k4⟩ := pick ls cs h1 h3 v
    refine ⟨gs_okOf O k3 hv (fun e h q => (kn e h q).1) (fun e h q => (kc e h q).1) (fun r h q => (kr r h q).1), ?_⟩
    have K := k3.2 e h' N C R hv kn kc kr
    refine M p1 e _ h' _ len (pq, e, []) hd rfl ?_ K
    show (if v.toInt < lo ∨ hi < v.toInt then (if 0 ≤ (p1 : Int) + d then some (ga_tg p1 d, e, []) else none) else match offs[(v.toInt - lo).toNat]? with | some off => if 0 ≤ (p1 : Int) + off then some (ga_tg p1 off, e, []) else none | none => none) = _
    by_cases hr : v.toInt < lo ∨ hi < v.toInt
    · rw [if_pos hr]
      rcases k4 with ⟨rfl, -⟩ | ⟨k5, k6, -⟩
      · rw [if_pos (by have := h2.1; omega), ga_tg, h2.1]; rfl
      · rcases hr with hr | hr
        · exact absurd hr k5
        · exact absurd hr k6
    · rw [if_neg hr]
      rw [not_or] at hr
      have : ∃ off, offs[(v.toInt - lo).toNat]? = some off ∧ (p1 : Int) + off = (pq : Int) := by
        rcases k4 with ⟨rfl, k5⟩ | ⟨-, -, k5⟩
        · exact h2.2 v hr.1 hr.2 k5
        · exact k5
      obtain ⟨off, k5, k6⟩ := this
      rw [k5]
      show (if 0 ≤ (p1 : Int) + off then some (ga_tg p1 off, e, []) else none) = _
      rw [if_pos (by omega), ga_tg, k6]
      rfl
end ST
