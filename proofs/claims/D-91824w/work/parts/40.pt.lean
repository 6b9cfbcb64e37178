/-! LAYER 4a: programs are by points. Printed by gen/mk40.py -/
section PT
variable {η α β γ : Type}
abbrev ga_Out (η : Type) : Type := (ga_Env × η) ⊕ (ga_Env × η) ⊕ (Option ga_V × η)
def Po (N C : ga_Env → η → Prop) (R : Option ga_V → η → Prop) : ga_Out η → Prop
  | .inl q => N q.1 q.2
  | .inr (.inl q) => C q.1 q.2
  | .inr (.inr q) => R q.1 q.2
def px (a : ga_Ex η α) : Prop := ∀ K e h, a K e h → ∃ v h', K v h' ∧ ∀ K', K' v h' → a K' e h
def pc (c : ga_Co η) : Prop := ∀ T F e h, c T F e h → ∃ (b : Bool) (h' : η), (if b = true then T h' else F h') ∧ ∀ T' F', (if b = true then T' h' else F' h') → c T' F' e h
def ps (S : ga_Sm η) : Prop := ∀ N C R e h, S N C R e h → ∃ o : ga_Out η, Po N C R o ∧ ∀ N' C' R', Po N' C' R' o → S N' C' R' e h
theorem px_C (v : α) : px (η := η) (xC v) := fun K e h q => ⟨v, h, q, fun _ q => q⟩
theorem px_iV (k : Nat) : px (η := η) (iV k) := by
  intro K e h q
  unfold iV at q ⊢
  split at q
  · rename_i x hx
    exact ⟨x, h, q, fun K' q' => q'⟩
  · cases q
theorem px_lV (k : Nat) : px (η := η) (lV k) := by
  intro K e h q
  unfold lV at q ⊢
  split at q
  · rename_i x hx
    exact ⟨x, h, q, fun K' q' => q'⟩
  · cases q
theorem px_rV (k : Nat) : px (η := η) (rV k) := by
  intro K e h q
  unfold rV at q ⊢
  split at q
  · rename_i x hx
    exact ⟨x, h, q, fun K' q' => q'⟩
  · cases q
theorem px_step {a : ga_Ex η α} {F : (β → η → Prop) → ga_Env → α → η → Prop} (ha : px a) (hF : ∀ K e x h1, F K e x h1 → ∃ v h', K v h' ∧ ∀ K', K' v h' → F K' e x h1) : px (fun K e h => a (fun x h1 => F K e x h1) e h) := by
  intro K e h q
  obtain ⟨x, h1, q1, g1⟩ := ha _ e h q
  obtain ⟨v, h', q2, g2⟩ := hF K e x h1 q1
  exact ⟨v, h', q2, fun K' q' => g1 _ (g2 K' q')⟩
theorem px_x1 {f : α → β} {a : ga_Ex η α} (ha : px a) : px (x1 f a) := by
  unfold x1
  refine px_step ha ?_
  intro K e x h1 q
  exact ⟨f x, h1, q, fun _ q => q⟩
theorem px_x2 {f : α → β → γ} {a : ga_Ex η α} {b : ga_Ex η β} (ha : px a) (hb : px b) : px (x2 f a b) := by
  unfold x2
  refine px_step ha ?_
  intro K e x h1 q
  obtain ⟨y, h2, q1, g1⟩ := hb _ e h1 q
  exact ⟨f x y, h2, q1, fun K' q' => g1 _ q'⟩
theorem px_P {a : ga_Ex η α} {b : ga_Ex η β} (ha : px a) (hb : px b) : px (xP a b) := by
  unfold xP
  refine px_step ha ?_
  intro K e x h1 q
  obtain ⟨y, h2, q1, g1⟩ := hb _ e h1 q
  exact ⟨(x, y), h2, q1, fun K' q' => g1 _ q'⟩
theorem px_x2p {P : β → Prop} {f : α → β → γ} {a : ga_Ex η α} {b : ga_Ex η β} (ha : px a) (hb : px b) : px (x2p P f a b) := by
  unfold x2p
  refine px_step ha ?_
  intro K e x h1 q
  obtain ⟨y, h2, q1, g1⟩ := hb _ e h1 q
  exact ⟨f x y, h2, q1.2, fun K' q' => g1 _ ⟨q1.1, q'⟩⟩
theorem px_If {c : ga_Co η} {a b : ga_Ex η α} (hc : pc c) (ha : px a) (hb : px b) : px (xIf c a b) := by
  intro K e h q
  obtain ⟨t, h1, q1, g1⟩ := hc _ _ e h q
  cases t with
  | true =>
    obtain ⟨v, h2, q2, g2⟩ := ha _ e h1 q1
    exact ⟨v, h2, q2, fun K' q' => g1 _ _ (g2 K' q')⟩
  | false =>
    obtain ⟨v, h2, q2, g2⟩ := hb _ e h1 q1
    exact ⟨v, h2, q2, fun K' q' => g1 _ _ (g2 K' q')⟩
theorem px_B {c : ga_Co η} (hc : pc c) : px (xB c) := px_If hc (px_C 1) (px_C 0)
theorem pc_2 {f : α → β → Prop} [∀ x y, Decidable (f x y)] {a : ga_Ex η α} {b : ga_Ex η β} (ha : px a) (hb : px b) : pc (fun T F e h => a (fun x h1 => b (fun y h2 => if f x y then T h2 else F h2) e h1) e h) := by
  intro T F e h q
  obtain ⟨x, h1, q1, g1⟩ := ha _ e h q
  obtain ⟨y, h2, q2, g2⟩ := hb _ e h1 q1
  refine ⟨decide (f x y), h2, by simpa using q2, fun T' F' q' => g1 _ (g2 _ (by simpa using q'))⟩
theorem pc_1 {f : α → Prop} [∀ x, Decidable (f x)] {a : ga_Ex η α} (ha : px a) : pc (fun T F e h => a (fun x h1 => if f x then T h1 else F h1) e h) := by
  intro T F e h q
  obtain ⟨x, h1, q1, g1⟩ := ha _ e h q
  refine ⟨decide (f x), h1, by simpa using q1, fun T' F' q' => g1 _ (by simpa using q')⟩
theorem pc_I {o : ClassFile.Cond} {a b : ga_Ex η Int32} (ha : px a) (hb : px b) : pc (cI o a b) := pc_2 (f := fun x y => ga_cc o x y = true) ha hb
theorem pc_L {o : ClassFile.Cond} {a b : ga_Ex η Int64} (ha : px a) (hb : px b) : pc (cL o a b) := pc_2 (f := fun x y => ga_lc o x y = true) ha hb
theorem pc_R {a b : ga_Ex η (Option Nat)} (ha : px a) (hb : px b) : pc (cR a b) := pc_2 (f := fun x y => x = y) ha hb
theorem pc_N {a : ga_Ex η (Option Nat)} (ha : px a) : pc (cN a) := pc_1 (f := fun x => x = none) ha
theorem pc_not {c : ga_Co η} (hc : pc c) : pc (cNot c) := by
  intro T F e h q
  obtain ⟨t, h1, q1, g1⟩ := hc _ _ e h q
  exact ⟨!t, h1, by cases t <;> simpa using q1, fun T' F' q' => g1 _ _ (by cases t <;> simpa using q')⟩
theorem pc_B {a : ga_Ex η Int32} (ha : px a) : pc (cB a) := by
  intro T F e h q
  obtain ⟨x, h1, q1, g1⟩ := ha _ e h q
  by_cases hx : x = 0
  · rw [if_pos hx] at q1
    exact ⟨false, h1, q1, fun T' F' q' => g1 _ (by rw [if_pos hx]; exact q')⟩
  · rw [if_neg hx] at q1
    exact ⟨true, h1, q1, fun T' F' q' => g1 _ (by rw [if_neg hx]; exact q')⟩
theorem pc_ite {c a b : ga_Co η} (hc : pc c) (ha : pc a) (hb : pc b) : pc (cIte c a b) := by
  intro T F e h q
  obtain ⟨t, h1, q1, g1⟩ := hc _ _ e h q
  cases t with
  | true =>
    obtain ⟨v, h2, q2, g2⟩ := ha _ _ e h1 q1
    exact ⟨v, h2, q2, fun T' F' q' => g1 _ _ (g2 T' F' q')⟩
  | false =>
    obtain ⟨v, h2, q2, g2⟩ := hb _ _ e h1 q1
    exact ⟨v, h2, q2, fun T' F' q' => g1 _ _ (g2 T' F' q')⟩
theorem pc_T : pc (cT (η := η)) := fun T F e h q => ⟨true, h, q, fun T' F' q' => q'⟩
theorem pc_and {a b : ga_Co η} (ha : pc a) (hb : pc b) : pc (cAnd a b) := by
  intro T F e h q
  obtain ⟨t, h1, q1, g1⟩ := ha _ _ e h q
  cases t with
  | true =>
    obtain ⟨v, h2, q2, g2⟩ := hb _ _ e h1 q1
    exact ⟨v, h2, q2, fun T' F' q' => g1 _ _ (g2 T' F' q')⟩
  | false => exact ⟨false, h1, q1, fun T' F' q' => g1 _ _ q'⟩
theorem pc_or {a b : ga_Co η} (ha : pc a) (hb : pc b) : pc (cOr a b) := by
  intro T F e h q
  obtain ⟨t, h1, q1, g1⟩ := ha _ _ e h q
  cases t with
  | true => exact ⟨true, h1, q1, fun T' F' q' => g1 _ _ q'⟩
  | false =>
    obtain ⟨v, h2, q2, g2⟩ := hb _ _ e h1 q1
    exact ⟨v, h2, q2, fun T' F' q' => g1 _ _ (g2 T' F' q')⟩
theorem ps_step {a : ga_Ex η α} {F : (ga_Env → η → Prop) → (ga_Env → η → Prop) → (Option ga_V → η → Prop) → ga_Env → α → η → Prop} (ha : px a) (hF : ∀ N C R e x h1, F N C R e x h1 → ∃ o, Po N C R o ∧ ∀ N' C' R', Po N' C' R' o → F N' C' R' e x h1) : ps (fun N C R e h => a (fun x h1 => F N C R e x h1) e h) := by
  intro N C R e h q
  obtain ⟨x, h1, q1, g1⟩ := ha _ e h q
  obtain ⟨v, q2, g2⟩ := hF N C R e x h1 q1
  exact ⟨v, q2, fun N' C' R' q' => g1 _ (g2 N' C' R' q')⟩
theorem ps_skip : ps (sSkip (η := η)) := fun N C R e h q => ⟨.inl (e, h), q, fun _ _ _ q => q⟩
theorem ps_cont : ps (sCont (η := η)) := fun N C R e h q => ⟨.inr (.inl (e, h)), q, fun _ _ _ q => q⟩
theorem ps_ret0 : ps (sRet0 (η := η)) := fun N C R e h q => ⟨.inr (.inr (none, h)), q, fun _ _ _ q => q⟩
theorem ps_seq {a b : ga_Sm η} (ha : ps a) (hb : ps b) : ps (sSeq a b) := by
  intro N C R e h q
  obtain ⟨o, q1, g1⟩ := ha _ _ _ e h q
  rcases o with ⟨e1, h1⟩ | o | o
  · obtain ⟨o2, q2, g2⟩ := hb _ _ _ e1 h1 q1
    exact ⟨o2, q2, fun N' C' R' q' => g1 _ _ _ (g2 _ _ _ q')⟩
  · exact ⟨.inr (.inl o), q1, fun N' C' R' q' => g1 _ _ _ q'⟩
  · exact ⟨.inr (.inr o), q1, fun N' C' R' q' => g1 _ _ _ q'⟩
theorem ps_sI {k : Nat} {a : ga_Ex η Int32} (ha : px a) : ps (sI k a) := by
  unfold sI
  refine ps_step ha ?_
  intro N C R e x h1 q
  exact ⟨.inl (ga_st1 e k (.inl x), h1), q.2, fun _ _ _ q' => ⟨q.1, q'⟩⟩
theorem ps_sL {k : Nat} {a : ga_Ex η Int64} (ha : px a) : ps (sL k a) := by
  unfold sL
  refine ps_step ha ?_
  intro N C R e x h1 q
  exact ⟨.inl (ga_st2 e k (.inr (.inl x)), h1), q.2, fun _ _ _ q' => ⟨q.1, q'⟩⟩
theorem ps_sR {k : Nat} {a : ga_Ex η (Option Nat)} (ha : px a) : ps (sR k a) := by
  unfold sR
  refine ps_step ha ?_
  intro N C R e x h1 q
  exact ⟨.inl (ga_st1 e k (.inr (.inr x)), h1), q.2, fun _ _ _ q' => ⟨q.1, q'⟩⟩
theorem ps_sInc {k : Nat} {n : Int32} : ps (sInc (η := η) k n) := by
  intro N C R e h q
  unfold sInc at q ⊢
  split at q
  · exact ⟨.inl (_, h), q, fun _ _ _ q => q⟩
  · cases q
theorem ps_sIf {c : ga_Co η} {a b : ga_Sm η} (hc : pc c) (ha : ps a) (hb : ps b) : ps (sIf c a b) := by
  intro N C R e h q
  obtain ⟨t, h1, q1, g1⟩ := hc _ _ e h q
  cases t with
  | true =>
    obtain ⟨v, q2, g2⟩ := ha _ _ _ e h1 q1
    exact ⟨v, q2, fun N' C' R' q' => g1 _ _ (g2 _ _ _ q')⟩
  | false =>
    obtain ⟨v, q2, g2⟩ := hb _ _ _ e h1 q1
    exact ⟨v, q2, fun N' C' R' q' => g1 _ _ (g2 _ _ _ q')⟩
theorem ps_sRet {tv : α → List ga_V} {a : ga_Ex η α} (ha : px a) : ps (sRet tv a) := by
  unfold sRet
  refine ps_step ha ?_
  intro N C R e x h1 q
  exact ⟨.inr (.inr (_, h1)), q, fun _ _ _ q => q⟩
theorem ps_sEx {a : ga_Ex η α} (ha : px a) : ps (sEx a) := by
  unfold sEx
  refine ps_step ha ?_
  intro N C R e x h1 q
  exact ⟨.inl (e, h1), q, fun _ _ _ q => q⟩
theorem ps_ForN {c : ga_Co η} {u b : ga_Sm η} (hc : pc c) (hu : ps u) (hb : ps b) : ∀ n N R e h, sForN c u b N R n e h → ∃ o, Po N (fun _ _ => False) R o ∧ ∀ N' R', Po N' (fun _ _ => False) R' o → sForN c u b N' R' n e h := by
  intro n
  induction n with
  | zero => intro N R e h q; cases q
  | succ n ih =>
    intro N R e h q
    obtain ⟨t, h1, q1, g1⟩ := hc _ _ e h q
    cases t with
    | false => exact ⟨.inl (e, h1), q1, fun N' R' q' => g1 _ _ q'⟩
    | true =>
      obtain ⟨o, q2, g2⟩ := hb _ _ _ e h1 q1
      rcases o with ⟨e2, h2⟩ | ⟨e2, h2⟩ | o
      · obtain ⟨o3, q3, g3⟩ := hu _ _ _ e2 h2 q2
        rcases o3 with ⟨e3, h3⟩ | o3 | o3
        · obtain ⟨o4, q4, g4⟩ := ih N R e3 h3 q3
          exact ⟨o4, q4, fun N' R' q' => g1 _ _ (g2 _ _ _ (g3 _ _ _ (g4 _ _ q')))⟩
        · cases q3
        · exact ⟨.inr (.inr o3), q3, fun N' R' q' => g1 _ _ (g2 _ _ _ (g3 _ _ _ q'))⟩
      · obtain ⟨o3, q3, g3⟩ := hu _ _ _ e2 h2 q2
        rcases o3 with ⟨e3, h3⟩ | o3 | o3
        · obtain ⟨o4, q4, g4⟩ := ih N R e3 h3 q3
          exact ⟨o4, q4, fun N' R' q' => g1 _ _ (g2 _ _ _ (g3 _ _ _ (g4 _ _ q')))⟩
        · cases q3
        · exact ⟨.inr (.inr o3), q3, fun N' R' q' => g1 _ _ (g2 _ _ _ (g3 _ _ _ q'))⟩
      · exact ⟨.inr (.inr o), q2, fun N' R' q' => g1 _ _ (g2 _ _ _ q')⟩
theorem ps_DoN {c : ga_Co η} {b : ga_Sm η} (hc : pc c) (hb : ps b) : ∀ n N R e h, sDoN b c N R n e h → ∃ o, Po N (fun _ _ => False) R o ∧ ∀ N' R', Po N' (fun _ _ => False) R' o → sDoN b c N' R' n e h := by
  intro n
  induction n with
  | zero => intro N R e h q; cases q
  | succ n ih =>
    intro N R e h q
    obtain ⟨o, q2, g2⟩ := hb _ _ _ e h q
    rcases o with ⟨e2, h2⟩ | o | o
    · obtain ⟨t, h3, q3, g3⟩ := hc _ _ e2 h2 q2
      cases t with
      | false => exact ⟨.inl (e2, h3), q3, fun N' R' q' => g2 _ _ _ (g3 _ _ q')⟩
      | true =>
        obtain ⟨o4, q4, g4⟩ := ih N R e2 h3 q3
        exact ⟨o4, q4, fun N' R' q' => g2 _ _ _ (g3 _ _ (g4 _ _ q'))⟩
    · cases q2
    · exact ⟨.inr (.inr o), q2, fun N' R' q' => g2 _ _ _ q'⟩
theorem Po_weak {N C : ga_Env → η → Prop} {R : Option ga_V → η → Prop} : ∀ {o : ga_Out η}, Po N (fun _ _ => False) R o → Po N C R o
  | .inl _, h => h
  | .inr (.inl _), h => h.elim
  | .inr (.inr _), h => h
theorem Po_strong {N N' C' : ga_Env → η → Prop} {R R' : Option ga_V → η → Prop} : ∀ {o : ga_Out η}, Po N (fun _ _ => False) R o → Po N' C' R' o → Po N' (fun _ _ => False) R' o
  | .inl _, _, h => h
  | .inr (.inl _), h, _ => h.elim
  | .inr (.inr _), _, h => h
theorem ps_for {c : ga_Co η} {u b : ga_Sm η} (hc : pc c) (hu : ps u) (hb : ps b) : ps (sFor c u b) := by
  rintro N C R e h ⟨n, q⟩
  obtain ⟨o, q1, g1⟩ := ps_ForN hc hu hb n N R e h q
  exact ⟨o, Po_weak q1, fun N' C' R' q' => ⟨n, g1 _ _ (Po_strong q1 q')⟩⟩
theorem ps_do {c : ga_Co η} {b : ga_Sm η} (hc : pc c) (hb : ps b) : ps (sDo b c) := by
  rintro N C R e h ⟨n, q⟩
  obtain ⟨o, q1, g1⟩ := ps_DoN hc hb n N R e h q
  exact ⟨o, Po_weak q1, fun N' C' R' q' => ⟨n, g1 _ _ (Po_strong q1 q')⟩⟩
theorem ps_nil : ∀ q ∈ ([] : List (Int32 × ga_Sm η)), ps q.2 := fun q hq => by cases hq
theorem ps_cons {x : Int32} {s : ga_Sm η} {cs : List (Int32 × ga_Sm η)} (h : ps s) (hc : ∀ q ∈ cs, ps q.2) : ∀ q ∈ (x, s) :: cs, ps q.2 := fun q hq => by
  rcases List.mem_cons.mp hq with rfl | hq
  · exact h
  · exact hc q hq
theorem ps_sw {a : ga_Ex η Int32} {cs : List (Int32 × ga_Sm η)} {d : ga_Sm η} (ha : px a) (hcs : ∀ q ∈ cs, ps q.2) (hd : ps d) : ps (sSw a cs d) := by
  have H : ∀ (x : Int32) (cs : List (Int32 × ga_Sm η)), (∀ q ∈ cs, ps q.2) → ps (cs.foldr (fun q r => if x = q.1 then q.2 else r) d) := by
    intro x cs
    induction cs with
    | nil => intro _; exact hd
    | cons q r ih =>
      intro hq
      rw [List.foldr_cons]
      split
      · exact hq q List.mem_cons_self
      · exact ih fun z hz => hq z (List.mem_cons_of_mem _ hz)
  exact ps_step ha fun N C R e x h1 q => H x cs hcs N C R e h1 q
theorem px_CS {tr : α → Option ga_V} {cr : ga_Cr η} {y : Nat} {fa : β → List ga_V} {as : ga_Ex η β} (ha : px as) : px (hCS tr cr y fa as) := by
  unfold hCS
  refine px_step ha ?_
  intro K e x h1 q
  obtain ⟨v, h2, q1, q2⟩ := q
  exact ⟨v, h2, q2, fun K' q' => ⟨v, h2, q1, q'⟩⟩
end PT
section PH
theorem px_FI {cs : List Nat} {k : Nat} {o : ga_Ex gH (Option Nat)} (ho : px o) : px (hFI cs k o) := by
  unfold hFI
  refine px_step ho ?_
  intro K e r h1 q
  try dsimp only at q ⊢
  split at q
  · rename_i x hx
    exact ⟨x, h1, q, fun K' q' => q'⟩
  · cases q
theorem px_FL {cs : List Nat} {k : Nat} {o : ga_Ex gH (Option Nat)} (ho : px o) : px (hFL cs k o) := by
  unfold hFL
  refine px_step ho ?_
  intro K e r h1 q
  try dsimp only at q ⊢
  split at q
  · rename_i x hx
    exact ⟨x, h1, q, fun K' q' => q'⟩
  · cases q
theorem px_FR {cs : List Nat} {k : Nat} {o : ga_Ex gH (Option Nat)} (ho : px o) : px (hFR cs k o) := by
  unfold hFR
  refine px_step ho ?_
  intro K e r h1 q
  try dsimp only at q ⊢
  split at q
  · rename_i x hx
    exact ⟨x, h1, q, fun K' q' => q'⟩
  · cases q
theorem px_AI {k : Nat} {o : ga_Ex gH (Option Nat)} {i : ga_Ex gH Int32} (ho : px o) (hi : px i) : px (hAI k o i) := by
  unfold hAI
  refine px_step ho ?_
  intro K e r h1 q
  obtain ⟨x, h2, q1, g1⟩ := hi _ e h1 q
  try dsimp only at q1
  split at q1
  · rename_i hx
    exact ⟨_, h2, q1.2, fun K' q' => g1 _ (by (try dsimp only); rw [hx]; exact ⟨q1.1, q'⟩)⟩
  · cases q1
theorem px_AL {o : ga_Ex gH (Option Nat)} {i : ga_Ex gH Int32} (ho : px o) (hi : px i) : px (hAL o i) := by
  unfold hAL
  refine px_step ho ?_
  intro K e r h1 q
  obtain ⟨x, h2, q1, g1⟩ := hi _ e h1 q
  try dsimp only at q1
  split at q1
  · rename_i hx
    exact ⟨_, h2, q1.2, fun K' q' => g1 _ (by (try dsimp only); rw [hx]; exact ⟨q1.1, q'⟩)⟩
  · cases q1
theorem px_AR {k : Nat} {o : ga_Ex gH (Option Nat)} {i : ga_Ex gH Int32} (ho : px o) (hi : px i) : px (hAR k o i) := by
  unfold hAR
  refine px_step ho ?_
  intro K e r h1 q
  obtain ⟨x, h2, q1, g1⟩ := hi _ e h1 q
  try dsimp only at q1
  split at q1
  · rename_i hx
    exact ⟨_, h2, q1.2, fun K' q' => g1 _ (by (try dsimp only); rw [hx]; exact ⟨q1.1, q'⟩)⟩
  · cases q1
theorem px_Len {k : Nat} {o : ga_Ex gH (Option Nat)} (ho : px o) : px (hLen k o) := by
  unfold hLen
  refine px_step ho ?_
  intro K e r h1 q
  try dsimp only at q ⊢
  split at q
  · exact ⟨_, h1, q, fun K' q' => q'⟩
  · cases q
theorem px_Cast {cs : List Nat} {o : ga_Ex gH (Option Nat)} (ho : px o) : px (hCast cs o) := by
  unfold hCast
  refine px_step ho ?_
  intro K e r h1 q
  try dsimp only at q ⊢
  split at q
  · exact ⟨_, h1, q, fun K' q' => q'⟩
  · cases q
theorem px_Inst {ys ns : List Nat} {o : ga_Ex gH (Option Nat)} (ho : px o) : px (hInst ys ns o) := by
  unfold hInst
  refine px_step ho ?_
  intro K e r h1 q
  try dsimp only at q ⊢
  split at q
  · split at q
    · rename_i h; exact ⟨_, h1, q, fun K' q' => by rw [if_pos h]; exact q'⟩
    · rename_i h; exact ⟨_, h1, q, fun K' q' => by rw [if_neg h]; exact q'⟩
  · cases q
theorem px_CV {α β : Type} {tr : α → Option ga_V} {cr : ga_Cr gH} {t : List (Nat × Nat)} {fa : β → List ga_V} {as : ga_Ex gH β} (ha : px as) : px (hCV tr cr t fa as) := by
  unfold hCV
  refine px_step ha ?_
  intro K e x h1 q
  try dsimp only at q ⊢
  split at q
  · obtain ⟨v, h2, q1, q2⟩ := q
    exact ⟨v, h2, q2, fun K' q' => ⟨v, h2, q1, q'⟩⟩
  · cases q
theorem px_Sp {α β : Type} {tr : α → Option ga_V} {cr : ga_Cr gH} {y : Nat} {cs : List Nat} {fa : β → List ga_V} {as : ga_Ex gH β} (ha : px as) : px (hSp tr cr y cs fa as) := by
  unfold hSp
  refine px_step ha ?_
  intro K e x h1 q
  obtain ⟨q0, v, h2, q1, q2⟩ := q
  exact ⟨v, h2, q2, fun K' q' => ⟨q0, v, h2, q1, q'⟩⟩
theorem px_New {β : Type} {cr : ga_Cr gH} {ci N : Nat} {df : List ga_V} {y : Nat} {fa : β → List ga_V} {as : ga_Ex gH β} (ha : px as) : px (hNew cr ci N df y fa as) := by
  intro K e h q
  obtain ⟨x, h1, ⟨q0, h2, q1, q2⟩, g1⟩ := ha _ e _ q
  exact ⟨_, h2, q2, fun K' q' => g1 _ ⟨q0, h2, q1, q'⟩⟩
theorem px_NA {k : Nat} {n : ga_Ex gH Int32} (hn : px n) : px (hNA k n) := by
  unfold hNA
  refine px_step hn ?_
  intro K e x h1 q
  exact ⟨_, _, q.2.2, fun K' q' => ⟨q.1, q.2.1, q'⟩⟩
theorem px_LitI : ∀ (xs : List (ga_Ex gH Int32)) (a j : Nat), (∀ x ∈ xs, px x) → px (hLitI a j xs)
  | [], a, j, _ => fun K e h q => ⟨some a, h, q, fun _ q => q⟩
  | x :: r, a, j, hx => by
    intro K e h q
    rw [hLitI] at q
    obtain ⟨v, h1, q, g0⟩ := hx x List.mem_cons_self _ e h q
    try dsimp only at q
    split at q
    · rename_i hh
      obtain ⟨w, h2, q1, g1⟩ := px_LitI r a (j + 1) (fun z hz => hx z (List.mem_cons_of_mem _ hz)) _ _ _ q.2
      exact ⟨w, h2, q1, fun K' q' => by rw [hLitI]; exact g0 _ (by (try dsimp only); rw [hh]; exact ⟨q.1, g1 K' q'⟩)⟩
    · cases q
theorem px_LI {b n : Nat} {xs : List (ga_Ex gH Int32)} (hx : ∀ x ∈ xs, px x) : px (hLI b n xs) := by
  intro K e h q
  obtain ⟨v, h', q1, g1⟩ := px_LitI xs _ _ hx _ _ _ q.2
  exact ⟨v, h', q1, fun K' q' => ⟨q.1, g1 _ q'⟩⟩
theorem px_LitL : ∀ (xs : List (ga_Ex gH Int64)) (a j : Nat), (∀ x ∈ xs, px x) → px (hLitL a j xs)
  | [], a, j, _ => fun K e h q => ⟨some a, h, q, fun _ q => q⟩
  | x :: r, a, j, hx => by
    intro K e h q
    rw [hLitL] at q
    obtain ⟨v, h1, q, g0⟩ := hx x List.mem_cons_self _ e h q
    try dsimp only at q
    split at q
    · rename_i hh
      obtain ⟨w, h2, q1, g1⟩ := px_LitL r a (j + 1) (fun z hz => hx z (List.mem_cons_of_mem _ hz)) _ _ _ q.2
      exact ⟨w, h2, q1, fun K' q' => by rw [hLitL]; exact g0 _ (by (try dsimp only); rw [hh]; exact ⟨q.1, g1 K' q'⟩)⟩
    · cases q
theorem px_LL {b n : Nat} {xs : List (ga_Ex gH Int64)} (hx : ∀ x ∈ xs, px x) : px (hLL b n xs) := by
  intro K e h q
  obtain ⟨v, h', q1, g1⟩ := px_LitL xs _ _ hx _ _ _ q.2
  exact ⟨v, h', q1, fun K' q' => ⟨q.1, g1 _ q'⟩⟩
theorem ps_PI {cs : List Nat} {k : Nat} {o : ga_Ex gH (Option Nat)} {x : ga_Ex gH Int32} (ho : px o) (hx : px x) : ps (sPI cs k o x) := by
  unfold sPI
  refine ps_step ho ?_
  intro N C R e r h1 q
  obtain ⟨v, h2, q1, g1⟩ := hx _ e h1 q
  try dsimp only at q1
  split at q1
  · rename_i hh
    exact ⟨.inl (e, _), q1, fun N' C' R' q' => g1 _ (by (try dsimp only); rw [hh]; exact q')⟩
  · cases q1
theorem ps_PZ {cs : List Nat} {k : Nat} {o : ga_Ex gH (Option Nat)} {x : ga_Ex gH Int32} (ho : px o) (hx : px x) : ps (sPZ cs k o x) := by
  unfold sPZ
  refine ps_step ho ?_
  intro N C R e r h1 q
  obtain ⟨v, h2, q1, g1⟩ := hx _ e h1 q
  try dsimp only at q1
  split at q1
  · rename_i hh
    exact ⟨.inl (e, _), q1.2, fun N' C' R' q' => g1 _ (by (try dsimp only); rw [hh]; exact ⟨q1.1, q'⟩)⟩
  · cases q1
theorem ps_PL {cs : List Nat} {k : Nat} {o : ga_Ex gH (Option Nat)} {x : ga_Ex gH Int64} (ho : px o) (hx : px x) : ps (sPL cs k o x) := by
  unfold sPL
  refine ps_step ho ?_
  intro N C R e r h1 q
  obtain ⟨v, h2, q1, g1⟩ := hx _ e h1 q
  try dsimp only at q1
  split at q1
  · rename_i hh
    exact ⟨.inl (e, _), q1, fun N' C' R' q' => g1 _ (by (try dsimp only); rw [hh]; exact q')⟩
  · cases q1
theorem ps_PR {cs : List Nat} {k : Nat} {o : ga_Ex gH (Option Nat)} {x : ga_Ex gH (Option Nat)} (ho : px o) (hx : px x) : ps (sPR cs k o x) := by
  unfold sPR
  refine ps_step ho ?_
  intro N C R e r h1 q
  obtain ⟨v, h2, q1, g1⟩ := hx _ e h1 q
  try dsimp only at q1
  split at q1
  · rename_i hh
    exact ⟨.inl (e, _), q1, fun N' C' R' q' => g1 _ (by (try dsimp only); rw [hh]; exact q')⟩
  · cases q1
theorem ps_UI {f : Int32 → Int32 → Int32} {cs : List Nat} {k : Nat} {o : ga_Ex gH (Option Nat)} {x : ga_Ex gH Int32} (ho : px o) (hx : px x) : ps (sUI f cs k o x) := by
  unfold sUI
  refine ps_step ho ?_
  intro N C R e r h1 q
  try dsimp only at q ⊢
  split at q
  · obtain ⟨v, h2, q1, g1⟩ := hx _ e h1 q
    try dsimp only at q1
    split at q1
    · rename_i hh
      exact ⟨.inl (e, _), q1, fun N' C' R' q' => g1 _ (by (try dsimp only); rw [hh]; exact q')⟩
    · cases q1
  · cases q
theorem ps_AI {b : Nat} {o : ga_Ex gH (Option Nat)} {i : ga_Ex gH Int32} {x : ga_Ex gH Int32} (ho : px o) (hi : px i) (hx : px x) : ps (sAI b o i x) := by
  unfold sAI
  refine ps_step ho ?_
  intro N C R e r h1 q
  obtain ⟨j, h2, q2, g2⟩ := hi _ e h1 q
  obtain ⟨v, h3, q3, g3⟩ := hx _ e h2 q2
  try dsimp only at q3
  split at q3
  · rename_i hh
    exact ⟨.inl (e, _), q3.2.2, fun N' C' R' q' => g2 _ (g3 _ (by (try dsimp only); rw [hh]; exact ⟨q3.1, q3.2.1, q'⟩))⟩
  · cases q3
theorem ps_AB {b : Nat} {o : ga_Ex gH (Option Nat)} {i : ga_Ex gH Int32} {x : ga_Ex gH Int32} (ho : px o) (hi : px i) (hx : px x) : ps (sAB b o i x) := by
  unfold sAB
  refine ps_step ho ?_
  intro N C R e r h1 q
  obtain ⟨j, h2, q2, g2⟩ := hi _ e h1 q
  obtain ⟨v, h3, q3, g3⟩ := hx _ e h2 q2
  try dsimp only at q3
  split at q3
  · rename_i hh
    exact ⟨.inl (e, _), q3.2.2, fun N' C' R' q' => g2 _ (g3 _ (by (try dsimp only); rw [hh]; exact ⟨q3.1, q3.2.1, q'⟩))⟩
  · cases q3
theorem ps_AZ {b : Nat} {o : ga_Ex gH (Option Nat)} {i : ga_Ex gH Int32} {x : ga_Ex gH Int32} (ho : px o) (hi : px i) (hx : px x) : ps (sAZ b o i x) := by
  unfold sAZ
  refine ps_step ho ?_
  intro N C R e r h1 q
  obtain ⟨j, h2, q2, g2⟩ := hi _ e h1 q
  obtain ⟨v, h3, q3, g3⟩ := hx _ e h2 q2
  try dsimp only at q3
  split at q3
  · rename_i hh
    exact ⟨.inl (e, _), q3.2.2.2, fun N' C' R' q' => g2 _ (g3 _ (by (try dsimp only); rw [hh]; exact ⟨q3.1, q3.2.1, q3.2.2.1, q'⟩))⟩
  · cases q3
theorem ps_AL {b : Nat} {o : ga_Ex gH (Option Nat)} {i : ga_Ex gH Int32} {x : ga_Ex gH Int64} (ho : px o) (hi : px i) (hx : px x) : ps (sAL b o i x) := by
  unfold sAL
  refine ps_step ho ?_
  intro N C R e r h1 q
  obtain ⟨j, h2, q2, g2⟩ := hi _ e h1 q
  obtain ⟨v, h3, q3, g3⟩ := hx _ e h2 q2
  try dsimp only at q3
  split at q3
  · rename_i hh
    exact ⟨.inl (e, _), q3.2.2, fun N' C' R' q' => g2 _ (g3 _ (by (try dsimp only); rw [hh]; exact ⟨q3.1, q3.2.1, q'⟩))⟩
  · cases q3
theorem ps_AR {b k : Nat} {cs : List Nat} {o : ga_Ex gH (Option Nat)} {i : ga_Ex gH Int32} {x : ga_Ex gH (Option Nat)} (ho : px o) (hi : px i) (hx : px x) : ps (sAR b k cs o i x) := by
  unfold sAR
  refine ps_step ho ?_
  intro N C R e r h1 q
  obtain ⟨j, h2, q2, g2⟩ := hi _ e h1 q
  obtain ⟨v, h3, q3, g3⟩ := hx _ e h2 q2
  try dsimp only at q3
  split at q3
  · rename_i hh
    exact ⟨.inl (e, _), q3.2.2.2, fun N' C' R' q' => g2 _ (g3 _ (by (try dsimp only); rw [hh]; exact ⟨q3.1, q3.2.1, q3.2.2.1, q'⟩))⟩
  · cases q3
theorem ps_VI {f : Int32 → Int32 → Int32} {b : Nat} {o : ga_Ex gH (Option Nat)} {i : ga_Ex gH Int32} {x : ga_Ex gH Int32} (ho : px o) (hi : px i) (hx : px x) : ps (sVI f b o i x) := by
  unfold sVI
  refine ps_step ho ?_
  intro N C R e r h1 q
  obtain ⟨j, h2, q2, g2⟩ := hi _ e h1 q
  try dsimp only at q2
  split at q2
  · rename_i hh0
    obtain ⟨q20, q2⟩ := q2
    obtain ⟨v, h3, q3, g3⟩ := hx _ e h2 q2
    try dsimp only at q3
    split at q3
    · rename_i hh
      exact ⟨.inl (e, _), q3.2.2, fun N' C' R' q' => g2 _ (by (try dsimp only); rw [hh0]; exact ⟨q20, g3 _ (by (try dsimp only); rw [hh]; exact ⟨q3.1, q3.2.1, q'⟩)⟩)⟩
    · cases q3
  · cases q2
theorem ps_VL {f : Int64 → Int64 → Int64} {b : Nat} {o : ga_Ex gH (Option Nat)} {i : ga_Ex gH Int32} {x : ga_Ex gH Int64} (ho : px o) (hi : px i) (hx : px x) : ps (sVL f b o i x) := by
  unfold sVL
  refine ps_step ho ?_
  intro N C R e r h1 q
  obtain ⟨j, h2, q2, g2⟩ := hi _ e h1 q
  try dsimp only at q2
  split at q2
  · rename_i hh0
    obtain ⟨q20, q2⟩ := q2
    obtain ⟨v, h3, q3, g3⟩ := hx _ e h2 q2
    try dsimp only at q3
    split at q3
    · rename_i hh
      exact ⟨.inl (e, _), q3.2.2, fun N' C' R' q' => g2 _ (by (try dsimp only); rw [hh0]; exact ⟨q20, g3 _ (by (try dsimp only); rw [hh]; exact ⟨q3.1, q3.2.1, q'⟩)⟩)⟩
    · cases q3
  · cases q2
theorem ps_Obj : ps sObj := by
  intro N C R e h q
  unfold sObj at q ⊢
  split at q
  · exact ⟨.inl (e, h), q, fun _ _ _ q => q⟩
  · cases q
theorem ps_Copy {b : Nat} {cs : List Nat} {x y : ga_Ex gH (Option Nat)} {z : ga_Ex gH Int32} (hx : px x) (hy : px y) (hz : px z) : ps (sCopy b cs x y z) := by
  unfold sCopy
  refine ps_step hx ?_
  intro N C R e r h1 q
  obtain ⟨j, h2, q2, g2⟩ := hy _ e h1 q
  obtain ⟨v, h3, q3, g3⟩ := hz _ e h2 q2
  try dsimp only at q3
  split at q3
  · rename_i hh1 hh2
    obtain ⟨a1, a2, a3, a4, a5, a6, q4⟩ := q3
    exact ⟨.inl (e, _), q4, fun N' C' R' q' => g2 _ (g3 _ (by (try dsimp only); rw [hh1, hh2]; exact ⟨a1, a2, a3, a4, a5, a6, q'⟩))⟩
  · cases q3
theorem px_mFI {m k : Nat} : px (mFI m k) := fun K e σ q => ⟨_, σ, q.2, fun K' q' => ⟨q.1, q'⟩⟩
theorem px_mFL {m k : Nat} : px (mFL m k) := fun K e σ q => ⟨_, σ, q.2, fun K' q' => ⟨q.1, q'⟩⟩
theorem px_mAI {m k : Nat} {i : ga_Ex MS Int32} (hi : px i) : px (mAI m k i) := by
  intro K e σ q
  obtain ⟨x, σ1, q1, g1⟩ := hi _ e σ q.2
  exact ⟨_, σ1, q1.2, fun K' q' => ⟨q.1, g1 _ ⟨q1.1, q'⟩⟩⟩
theorem px_mAL {m k : Nat} {i : ga_Ex MS Int32} (hi : px i) : px (mAL m k i) := by
  intro K e σ q
  obtain ⟨x, σ1, q1, g1⟩ := hi _ e σ q.2
  exact ⟨_, σ1, q1.2, fun K' q' => ⟨q.1, g1 _ ⟨q1.1, q'⟩⟩⟩
theorem ps_tI {m k : Nat} {x : ga_Ex MS Int32} (hx : px x) : ps (tI m k x) := by
  intro N C R e σ q
  obtain ⟨x, σ1, q1, g1⟩ := hx _ e σ q.2
  exact ⟨.inl (e, _), q1, fun N' C' R' q' => ⟨q.1, g1 _ q'⟩⟩
theorem ps_tZ {m k : Nat} {x : ga_Ex MS Int32} (hx : px x) : ps (tZ m k x) := by
  intro N C R e σ q
  obtain ⟨x, σ1, q1, g1⟩ := hx _ e σ q.2
  exact ⟨.inl (e, _), q1.2, fun N' C' R' q' => ⟨q.1, g1 _ ⟨q1.1, q'⟩⟩⟩
theorem ps_tL {m k : Nat} {x : ga_Ex MS Int64} (hx : px x) : ps (tL m k x) := by
  intro N C R e σ q
  obtain ⟨x, σ1, q1, g1⟩ := hx _ e σ q.2
  exact ⟨.inl (e, _), q1, fun N' C' R' q' => ⟨q.1, g1 _ q'⟩⟩
theorem ps_tU {f : Int32 → Int32 → Int32} {m k : Nat} {x : ga_Ex MS Int32} (hx : px x) : ps (tU f m k x) := by
  intro N C R e σ q
  obtain ⟨x, σ1, q1, g1⟩ := hx _ e σ q.2
  exact ⟨.inl (e, _), q1, fun N' C' R' q' => ⟨q.1, g1 _ q'⟩⟩
theorem ps_tAI {m k : Nat} {i : ga_Ex MS Int32} {x : ga_Ex MS Int32} (hi : px i) (hx : px x) : ps (tAI m k i x) := by
  intro N C R e σ q
  obtain ⟨j, σ1, q1, g1⟩ := hi _ e σ q.2
  obtain ⟨v, σ2, q2, g2⟩ := hx _ e σ1 q1
  exact ⟨.inl (e, _), q2.2, fun N' C' R' q' => ⟨q.1, g1 _ (g2 _ ⟨q2.1, q'⟩)⟩⟩
theorem ps_tAB {m k : Nat} {i : ga_Ex MS Int32} {x : ga_Ex MS Int32} (hi : px i) (hx : px x) : ps (tAB m k i x) := by
  intro N C R e σ q
  obtain ⟨j, σ1, q1, g1⟩ := hi _ e σ q.2
  obtain ⟨v, σ2, q2, g2⟩ := hx _ e σ1 q1
  exact ⟨.inl (e, _), q2.2, fun N' C' R' q' => ⟨q.1, g1 _ (g2 _ ⟨q2.1, q'⟩)⟩⟩
theorem ps_tAZ {m k : Nat} {i : ga_Ex MS Int32} {x : ga_Ex MS Int32} (hi : px i) (hx : px x) : ps (tAZ m k i x) := by
  intro N C R e σ q
  obtain ⟨j, σ1, q1, g1⟩ := hi _ e σ q.2
  obtain ⟨v, σ2, q2, g2⟩ := hx _ e σ1 q1
  exact ⟨.inl (e, _), q2.2.2, fun N' C' R' q' => ⟨q.1, g1 _ (g2 _ ⟨q2.1, q2.2.1, q'⟩)⟩⟩
theorem ps_tAL {m k : Nat} {i : ga_Ex MS Int32} {x : ga_Ex MS Int64} (hi : px i) (hx : px x) : ps (tAL m k i x) := by
  intro N C R e σ q
  obtain ⟨j, σ1, q1, g1⟩ := hi _ e σ q.2
  obtain ⟨v, σ2, q2, g2⟩ := hx _ e σ1 q1
  exact ⟨.inl (e, _), q2.2, fun N' C' R' q' => ⟨q.1, g1 _ (g2 _ ⟨q2.1, q'⟩)⟩⟩
theorem ps_tV {f : Int32 → Int32 → Int32} {m k : Nat} {i x : ga_Ex MS Int32} (hi : px i) (hx : px x) : ps (tV f m k i x) := by
  intro N C R e σ q
  obtain ⟨j, σ1, q1, g1⟩ := hi _ e σ q.2
  obtain ⟨v, σ2, q2, g2⟩ := hx _ e σ1 q1.2
  exact ⟨.inl (e, _), q2, fun N' C' R' q' => ⟨q.1, g1 _ ⟨q1.1, g2 _ q'⟩⟩⟩
theorem px_mC {α β : Type} {tr : α → Option ga_V} {cr : ga_Cr MS} {m y : Nat} {fa : β → List ga_V} {as : ga_Ex MS β} (ha : px as) : px (mC tr cr m y fa as) := by
  intro K e σ q
  obtain ⟨x, σ1, ⟨v, σ2, q1, q2⟩, g1⟩ := ha _ e σ q.2
  exact ⟨v, σ2, q2, fun K' q' => ⟨q.1, g1 _ ⟨v, σ2, q1, q'⟩⟩⟩
end PH
