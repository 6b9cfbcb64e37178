/-! LAYER 1n: a method by its program; runs by depth -/
def ga_ent : List ga_V → Nat → ga_Env
  | [], n => List.replicate n none
  | .inr (.inl x) :: r, n => some (.inr (.inl x)) :: none :: ga_ent r (n - 2)
  | .inl x :: r, n => some (.inl x) :: ga_ent r (n - 1)
  | .inr (.inr x) :: r, n => some (.inr (.inr x)) :: ga_ent r (n - 1)
def ga_sz : List ga_V → Nat
  | [] => 0
  | .inr (.inl _) :: r => 2 + ga_sz r
  | .inl _ :: r => 1 + ga_sz r
  | .inr (.inr _) :: r => 1 + ga_sz r
theorem ga_al_none (i n : Nat) : ga_al i (List.replicate n none) = [] := by
  induction n generalizing i with
  | zero => rfl
  | succ n ih => rw [List.replicate_succ, ga_al]; exact ih _
theorem ga_cat1 (x : Option Nat) : (va_rf x).category = 1 := by cases x <;> rfl
theorem ga_ent_al (vs : List ga_V) : ∀ (i n : Nat), ga_al i (ga_ent vs n) = lv_args i (vs.map ga_v) := by
  induction vs with
  | nil => intro i n; exact ga_al_none i n
  | cons v r ih =>
    intro i n
    rcases v with x | x | x
    · show (i, Value.int x) :: ga_al (i + 1) (ga_ent r (n - 1)) = _
      rw [ih]; rfl
    · show (i, Value.long x) :: ga_al (i + 1 + 1) (ga_ent r (n - 2)) = _
      rw [ih]; rfl
    · show (i, va_rf x) :: ga_al (i + 1) (ga_ent r (n - 1)) = (i, va_rf x) :: lv_args (if (va_rf x).category = 2 then i + 2 else i + 1) (r.map ga_v)
      rw [ih, ga_cat1]; rfl
theorem ga_ent_len (vs : List ga_V) : ∀ n, ga_sz vs ≤ n → (ga_ent vs n).length = n := by
  induction vs with
  | nil => intro n _; exact List.length_replicate
  | cons v r ih =>
    intro n hn
    rcases v with x | x | x
    · have h1 : 1 + ga_sz r ≤ n := hn
      show (ga_ent r (n - 1)).length + 1 = n
      rw [ih _ (by omega)]; omega
    · have h1 : 2 + ga_sz r ≤ n := hn
      show (ga_ent r (n - 2)).length + 1 + 1 = n
      rw [ih _ (by omega)]; omega
    · have h1 : 1 + ga_sz r ≤ n := hn
      show (ga_ent r (n - 1)).length + 1 = n
      rw [ih _ (by omega)]; omega
theorem ga_sz_sl (vs : List ga_V) : (lg_sl (vs.map ga_v)).length = ga_sz vs := by
  induction vs with
  | nil => rfl
  | cons v r ih =>
    have e : lg_sl ((v :: r).map ga_v) = (if (ga_v v).category = 2 then [.val (ga_v v), .second] else [.val (ga_v v)]) ++ lg_sl (r.map ga_v) := rfl
    rw [e, List.length_append, ih]
    rcases v with x | x | x
    · rfl
    · rfl
    · show (if (va_rf x).category = 2 then [Slot.val (va_rf x), Slot.second] else [Slot.val (va_rf x)]).length + _ = _
      rw [ga_cat1]; rfl
theorem ga_entE {vs : List ga_V} {n : Nat} (h : ga_sz vs ≤ n) : ga_E (ga_ent vs n) ((lg_sl (vs.map ga_v) ++ List.replicate (n - (lg_sl (vs.map ga_v)).length) Slot.unset).toArray) n := by
  refine ⟨?_, ga_ent_len vs n h⟩
  rw [ga_ent_al]
  exact lv_entry (vs.map ga_v) (by rw [ga_sz_sl]; exact h)
theorem ga_nr (x : Option Nat) : ga_v (.inr (.inr x)) = .null ∨ ∃ a, ga_v (.inr (.inr x)) = .ref a := by
  cases x with
  | none => exact Or.inl rfl
  | some a => exact Or.inr ⟨a, rfl⟩
/-- an answer of the method's kind -/
def ga_rok : Option FieldType → Option ga_V → Prop
  | none, none => True
  | some .int, some (.inl _) => True
  | some .boolean, some (.inl x) => x = 0 ∨ x = 1
  | some .long, some (.inr (.inl _)) => True
  | some (.object _), some (.inr (.inr _)) => True
  | _, _ => False
section ME
variable {p : Program} {l : Launch} {e : Jvm.Env} {R : Room} {s : State} {m : MethodId} {args : Array Value} {below : List Frame} {meth : Method} {c : Code} {Ω : ga_Om} {nL : Nat} {cc : ByteArray} {own : String}
theorem ga_G_RT {h h' : ga_H} {r : Option ga_V} {ret : Option FieldType} {mc ms : Nat} (S : CallFix p m c cc nL s args lw_all own) (hr : meth.sig.returnType = ret) (hlocks : meth.locks = false) (hle : ga_le h h') (hmc : mc = h'.2.1 - h.2.1) (hms : ms = h'.2.2 - h.2.2) (hrok : ga_rok ret r) :
    ga_RT cc (ga_G p l e R s m args below meth c (MQ below (ga_Qc Ω r h') args s mc ms (ga_A Ω)) Ω h.2.1 h.2.2 nL) (fun r' x => r' = r ∧ x = h') := by
  have hcl : ∀ {cells slots : Nat}, cells + h.2.1 = h'.2.1 → slots + h.2.2 = h'.2.2 → cells = mc ∧ slots = ms := fun a b => ⟨by omega, by omega⟩
  refine ⟨?_, ?_, ?_, ?_⟩
  · rintro pc en hh hd ⟨rfl, rfl⟩ H locs cells slots ls hE hW hL hC hS
    obtain ⟨rfl, rfl⟩ := hcl hC hS
    have hr' : meth.sig.returnType = none := by
      cases ret with
      | none => exact hr
      | some ty => cases ty <;> cases hrok
    exact W.vret S.1 S.2.1 hr' (fun t ht hWm => ⟨rfl, by rw [ht]; exact hW.moved hWm⟩) hL hd hlocks
  · rintro pc en hh x hd ⟨rfl, rfl⟩ H locs cells slots ls hE hW hL hC hS
    obtain ⟨rfl, rfl⟩ := hcl hC hS
    have hr' : ∃ ty, meth.sig.returnType = some ty ∧ narrow ty (.int x) = .int x := by
      cases ret with
      | none => cases hrok
      | some ty =>
        refine ⟨ty, hr, ?_⟩
        cases ty <;> first | (cases hrok; done) | rfl | (rcases hrok with rfl | rfl <;> rfl)
    obtain ⟨ty, hr1, hr2⟩ := hr'
    exact W.zret S.1 S.2.1 hr1 hr2 (fun t ht hWm => ⟨rfl, by rw [ht]; exact hW.moved hWm⟩) hL hd hlocks
  · rintro pc en hh x hd ⟨rfl, rfl⟩ H locs cells slots ls hE hW hL hC hS
    obtain ⟨rfl, rfl⟩ := hcl hC hS
    have hr' : meth.sig.returnType = some .long := by
      rw [hr]
      cases ret with
      | none => cases hrok
      | some ty => cases ty <;> first | (cases hrok; done) | rfl
    exact W.lret S.1 S.2.1 hr' (fun t ht hWm => ⟨rfl, by rw [ht]; exact hW.moved hWm⟩) hL hd hlocks
  · rintro pc en hh x hd ⟨rfl, rfl⟩ H locs cells slots ls hE hW hL hC hS
    obtain ⟨rfl, rfl⟩ := hcl hC hS
    have hr' : ∃ rt, meth.sig.returnType = some rt ∧ ((∃ n, rt = .object n) ∨ ∃ t, rt = .array t) := by
      rw [hr]
      cases ret with
      | none => cases hrok
      | some ty => cases ty <;> first | (cases hrok; done) | exact ⟨_, rfl, Or.inl ⟨_, rfl⟩⟩
    obtain ⟨rt, hr1, hr2⟩ := hr'
    exact W.aret S.1 S.2.1 hr1 hr2 (ga_nr x) (fun t ht hWm => ⟨rfl, by rw [ht]; exact hW.moved hWm⟩) hL hd hlocks
end ME
/-- the entry's law, for a class that the model knows in part -/
theorem ga_ofW {l : Launch} {y : MethodName} {ws ws' : List Jvm.Cond} {rm : Room} {Pc : Array Value → State → Prop} {Qc : Array Value → State → Outcome → State → Prop} {mc ms : Nat} {free : Addr → Prop} {cc : ByteArray} {maxL : Nat} {ret : Option FieldType}
    (hy : plainFor y = true) (hw : ws = Jvm.Cond.code y cc maxL ret :: ws')
    (body : ∀ p e s m args below meth c s₁, BodyLoose p l y (headSpec ws rm) cc maxL ret e s m args below meth c s₁ → c.maxLocals = maxL → Pc args s →
      W p l e (headSpec ws rm).room s m args below meth c s.heap [] 0 0 (MQ below Qc args s mc ms free) (entryFrame m args maxL)) : Met l y ws rm Pc Qc mc ms free := by
  refine MetFree.of_bodySF (code := cc) (maxLocals := maxL) (ret := ret) hy ?_ ?_
  · intro args s m h hn
    obtain ⟨meth, c, h1, h2, h3, h4, h5, h6, -, -⟩ := Jvm.Cond.code_spec hn (atoms_spec (ws := ws) h _ (by rw [hw]; exact List.mem_cons_self))
    exact ⟨meth, c, h1, h2, h3, h4, h5, h6⟩
  · intro p e s m args below meth c s₁ B hml hP _
    have hh0 : s₁.heap = s.heap := by rw [B.state]; rfl
    obtain ⟨t, a1, o, b1, b2, b3⟩ := body p e s m args below meth c s₁ B hml hP s₁ hh0 (Stand.of_body B)
    exact ⟨t, o, a1, b1, b2, ⟨b3.1, b3.2⟩⟩
/-- a method's contract, out of its program: with the calls one level below -/
theorem ga_meth {l : Launch} {Ω : ga_Om} {d : Nat} {y : ga_Mn} {vs : List ga_V} {h h' : ga_H} {r : Option ga_V} {mt : Nat → ga_Mn} {cr : ga_Cr ga_H} {ini : Bool} (hy : plainFor y.1 = true) (hini : ini = true → y.1.name = "<init>") (hrok : ga_rok y.2.2.2 r) (hsz : ga_sz vs ≤ y.2.2.1) (hle : ga_le h h') (hcr : ∀ y vs h r h', cr y vs h r h' → ga_Met l Ω d (mt y) vs h r h')
    (q1 : Jvm.Cond.instanceMethod objectInit ∈ lw_all) (q2 : Jvm.Cond.code objectInit ⟨#[0xb1]⟩ 1 none ∈ lw_all) (q3 : Jvm.Cond.native arraycopyName ∈ lw_all) (q4 : Jvm.Cond.static arraycopyName ∈ lw_all) (q5 : Jvm.Cond.initialized "java/lang/System" ∈ lw_all)
    (body : ∀ g : ga_Gt, ga_HM y.2.1 y.1.cls ini Ω (fun x => ga_le x h') mt cr g → ga_RT y.2.1 g (fun r' x => r' = r ∧ x = h') → g 0 (ga_ent vs y.2.2.1) [] h) : ga_Met l Ω (d + 1) y vs h r h' := by
  refine ⟨hle, ?_⟩
  refine ga_ofW (cc := y.2.1) (maxL := y.2.2.1) (ret := y.2.2.2) hy rfl ?_
  intro p e s m args below meth c s₁ B hml hv
  obtain ⟨rfl, hW⟩ := hv
  have hts := atoms_spec (ws := ws_ y.1 y.2.1 y.2.2.1 y.2.2.2) B.pre
  have hts : ∀ w ∈ lw_all, w.before _ s = true := fun w h => hts w (List.mem_cons_of_mem _ h)
  have hown : s.vm.findClass y.1.cls = some m.cls := findClass_of_methodNamed B.named
  have S : CallFix p m c y.2.1 y.2.2.1 s (vs.map ga_v).toArray lw_all y.1.cls := ⟨B.exec, B.bytes, hml, hown, hts⟩
  have hnm : meth.name = y.1.name := (name_of_methodNamed B.named B.method).1
  have HM := ga_G_HM (l := l) (e := e) (R := (headSpec (ws_ y.1 y.2.1 y.2.2.1 y.2.2.2) (ga_rm (d + 1) (h'.2.1 - h.2.1) (h'.2.2 - h.2.2))).room) (below := below) (Q := MQ below (ga_Qc Ω r h') (vs.map ga_v).toArray s (h'.2.1 - h.2.1) (h'.2.2 - h.2.2) (ga_A Ω)) (n0 := h.2.1) (s0 := h.2.2) (d := d) (ini := ini) (ok := fun x => ga_le x h') (mt := mt) (cr := cr) (meth := meth) S (fun q => by rw [hnm]; exact hini q) (fun x hx => ⟨by show _ ≤ h.2.1 + (h'.2.1 - h.2.1); have := hx.1; have := hle.1; omega, by show _ ≤ h.2.2 + (h'.2.2 - h.2.2); have := hx.2; have := hle.2; omega⟩) ⟨Nat.le_refl _, by show 64 * d + 128 ≤ 64 * (d + 1) + 64; omega⟩ hcr q1 q2 q3 q4 q5
  have RT := ga_G_RT (l := l) (e := e) (R := (headSpec (ws_ y.1 y.2.1 y.2.2.1 y.2.2.2) (ga_rm (d + 1) (h'.2.1 - h.2.1) (h'.2.2 - h.2.2))).room) (below := below) (r := r) (mc := h'.2.1 - h.2.1) (ms := h'.2.2 - h.2.2) (Ω := Ω) S B.returns B.notSynchronized hle rfl rfl hrok
  rw [lg_entry_eq]
  exact body _ HM RT s.heap [] 0 0 _ (ga_entE hsz) hW (fun q hq => by cases hq) (Nat.zero_add _) (Nat.zero_add _)
/-- out of a program that a code does -/
theorem ga_body {r : Option ga_V} {h h' : ga_H} {env : ga_Env} {S : ga_Sm gH} {g : ga_Gt} {pn pk : Nat} (hs : gs ga_le (fun x => ga_le x h') g (fun r' x => r' = r ∧ x = h') 0 pn pk S) (hk : S (fun _ _ => False) (fun _ _ => False) (fun r' x => r' = r ∧ x = h') env h) : g 0 env [] h :=
  hs.2 env h _ _ _ hk (fun _ _ q => q.elim) (fun _ _ q => q.elim) (fun _ _ q => ⟨by rw [q.2]; exact ga_le_rfl, q⟩)
/-- the reference's runs, and all runs, by depth -/
def m_run (mt : Nat → ga_Mn) (im : Nat → Bool) (md : ga_Cr MS → Nat → Nat → ga_Sm MS) (m : Nat) : Nat → ga_Cr MS
  | 0, _, _, _, _, _ => False
  | d + 1, y, vs, σ, r, τ => im y = true ∧ ga_rok (mt y).2.2.2 r ∧ ga_sz vs ≤ (mt y).2.2.1 ∧ md (m_run mt im md m d) m y (fun _ _ => False) (fun _ _ => False) (fun r' x => r' = r ∧ x = τ) (ga_ent vs (mt y).2.2.1) σ
def ga_run (mt : Nat → ga_Mn) (im : Nat → Bool) (bd : ga_Cr gH → Nat → ga_Sm gH) (md : ga_Cr MS → Nat → Nat → ga_Sm MS) (b : Nat) : Nat → ga_Cr gH
  | 0, _, _, _, _, _ => False
  | d + 1, y, vs, h, r, h' => (im y = true ∧ ∃ (h0 : ga_H) (m : Nat) (σ τ : MS), b ≤ m ∧ h = mput h0 m σ ∧ h' = mput h0 m τ ∧ m_run mt im md m (d + 1) y vs σ r τ) ∨ (im y = false ∧ ga_rok (mt y).2.2.2 r ∧ ga_sz vs ≤ (mt y).2.2.1 ∧ bd (ga_run mt im bd md b d) y (fun _ _ => False) (fun _ _ => False) (fun r' x => r' = r ∧ x = h') (ga_ent vs (mt y).2.2.1) h)
theorem ga_HM_T (cc : ByteArray) (own : String) (ini : Bool) (Ω : ga_Om) (ok : ga_H → Prop) (mt : Nat → ga_Mn) (cr : ga_Cr ga_H) : ga_HM cc own ini Ω ok mt cr (fun _ _ _ _ => True) := by
  refine ⟨?_, ?_, ?_, ?_, ?_, ?_, ?_, ?_, ?_, ?_, ?_, ?_, ?_, ?_, ?_, ?_, ?_, ?_, ?_, ?_, ?_, ?_, ?_⟩
  · unfold ga_M; intros; exact True.intro
  · unfold hm_getf; intros; exact True.intro
  · unfold hm_putf; intros; exact True.intro
  · unfold hm_gets; intros; exact True.intro
  · unfold hm_ald; intros; exact True.intro
  · unfold hm_alen; intros; exact True.intro
  · unfold hm_iast; intros; exact True.intro
  · unfold hm_last; intros; exact True.intro
  · unfold hm_bast; intros; exact True.intro
  · unfold hm_zast; intros; exact True.intro
  · unfold hm_aast; intros; exact True.intro
  · unfold hm_newo; intros; exact True.intro
  · unfold hm_newa; intros; exact True.intro
  · unfold hm_newq; intros; exact True.intro
  · unfold hm_cast; intros; exact True.intro
  · unfold hm_inst; intros; exact True.intro
  · unfold hm_ldc2; intros; exact True.intro
  · unfold hm_ldc; intros; exact True.intro
  · unfold hm_callV; intros; exact True.intro
  · unfold hm_callI; intros; exact True.intro
  · unfold hm_callS; intros; exact True.intro
  · unfold hm_objI; intros; exact True.intro
  · unfold hm_copy; intros; exact True.intro
/-- every run is a contract, if every program is what its code does -/
theorem ga_main {l : Launch} {Ω : ga_Om} {mt : Nat → ga_Mn} {im ini : Nat → Bool} {bd : ga_Cr gH → Nat → ga_Sm gH} {md : ga_Cr MS → Nat → Nat → ga_Sm MS}
    (hy : ∀ y N C R e h cr, bd cr y N C R e h → plainFor (mt y).1 = true ∧ (ini y = true → (mt y).1.name = "<init>")) (hyM : ∀ y, im y = true → plainFor (mt y).1 = true)
    (q1 : Jvm.Cond.instanceMethod objectInit ∈ lw_all) (q2 : Jvm.Cond.code objectInit ⟨#[0xb1]⟩ 1 none ∈ lw_all) (q3 : Jvm.Cond.native arraycopyName ∈ lw_all) (q4 : Jvm.Cond.static arraycopyName ∈ lw_all) (q5 : Jvm.Cond.initialized "java/lang/System" ∈ lw_all)
    (hb : ∀ y (cr : ga_Cr gH) (ok : gH → Prop) (g : ga_Gt) (rt : Option ga_V → gH → Prop), im y = false → (∀ a b, ga_le a b → ok b → ok a) → (∀ y vs h r h', cr y vs h r h' → ga_le h h') → ga_HM (mt y).2.1 (mt y).1.cls (ini y) Ω ok mt cr g → ga_RT (mt y).2.1 g rt → ∃ pn pk, gs ga_le ok g rt 0 pn pk (bd cr y))
    (hm : ∀ y (cr : ga_Cr gH) (crm : ga_Cr MS) (ok : gH → Prop) (g : ga_Gt) (rt : Option ga_V → MS → Prop) (h0 : ga_H) (m : Nat), im y = true → Ω.2.2.1 ≤ m → (∀ σ, ok (mput h0 m σ)) → (∀ y vs σ r τ, crm y vs σ r τ → cr y vs (mput h0 m σ) r (mput h0 m τ)) → ga_HM (mt y).2.1 (mt y).1.cls (ini y) Ω ok mt cr g → ga_RT (mt y).2.1 (gM g h0 m) rt → ∃ pn pk, gs mle mok (gM g h0 m) rt 0 pn pk (md crm m y)) (hiniM : ∀ y, im y = true → ini y = false) :
    ∀ d y vs h r h', ga_run mt im bd md Ω.2.2.1 d y vs h r h' → ga_Met l Ω d (mt y) vs h r h' := by
  intro d
  induction d with
  | zero => intro y vs h r h' q; cases q
  | succ d ih =>
    intro y vs h r h' q
    have hle : ∀ y vs h r h', ga_run mt im bd md Ω.2.2.1 d y vs h r h' → ga_le h h' := fun y vs h r h' q => (ih y vs h r h' q).1
    rcases q with ⟨him, h0, m, σ, τ, hbm, rfl, rfl, -, hrok, hsz, hk⟩ | ⟨him, hrok, hsz, hk⟩
    · refine ga_meth (ini := ini y) (hyM y him) (fun q => by rw [hiniM y him] at q; cases q) hrok hsz ⟨Nat.le_refl _, Nat.le_refl _⟩ ih q1 q2 q3 q4 q5 fun g HM RT => ?_
      have RT' : ga_RT (mt y).2.1 (gM g h0 m) (fun r' x => r' = r ∧ x = τ) := ⟨fun pc e h hd q => RT.1 pc e _ hd ⟨q.1, by rw [q.2]⟩, fun pc e h x hd q => RT.2.1 pc e _ x hd ⟨q.1, by rw [q.2]⟩, fun pc e h x hd q => RT.2.2.1 pc e _ x hd ⟨q.1, by rw [q.2]⟩, fun pc e h x hd q => RT.2.2.2 pc e _ x hd ⟨q.1, by rw [q.2]⟩⟩
      obtain ⟨pn, pk, hs⟩ := hm y _ (m_run mt im md m d) _ g _ h0 m him hbm (fun σ => ⟨Nat.le_refl _, Nat.le_refl _⟩) (fun y vs σ r τ q => by
        cases d with
        | zero => cases q
        | succ d => exact Or.inl ⟨q.1, h0, m, σ, τ, hbm, rfl, rfl, q⟩) HM RT'
      exact hs.2 _ σ _ _ _ hk (fun _ _ q => q.elim) (fun _ _ q => q.elim) (fun _ _ q => ⟨trivial, q⟩)
    · have hy' := hy y _ _ _ _ _ _ hk
      have hlive : ga_le h h' := by
        -- the program's own liveness needs a place: any closed g; take the trivial one
        obtain ⟨pn, pk, hs⟩ := hb y (ga_run mt im bd md Ω.2.2.1 d) (fun _ => True) (fun _ _ _ _ => True) (fun _ _ => True) him (fun _ _ _ _ => trivial) hle (ga_HM_T _ _ _ _ _ _ _) ⟨fun _ _ _ _ _ => trivial, fun _ _ _ _ _ _ => trivial, fun _ _ _ _ _ _ => trivial, fun _ _ _ _ _ _ => trivial⟩
        rcases hs.1 _ _ _ _ _ hk with ⟨e', x, q | q, -⟩ | ⟨r', x, q, q2⟩
        · cases q
        · cases q
        · rw [← q.2]; exact q2
      refine ga_meth (ini := ini y) hy'.1 hy'.2 hrok hsz hlive ih q1 q2 q3 q4 q5 fun g HM RT => ?_
      obtain ⟨pn, pk, hs⟩ := hb y _ _ g _ him (fun a b h1 h2 => ga_le_trans h1 h2) hle HM RT
      exact ga_body hs hk
