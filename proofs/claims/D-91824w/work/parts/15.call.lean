/-! LAYER 1f: calls, entry, return -/
def ga_Pc (Ω : ga_Om) (vs : List ga_V) (h : ga_H) : Array Value → State → Prop := fun a U => a = (vs.map ga_v).toArray ∧ ga_Wd Ω U h U.heap
def ga_Qc (Ω : ga_Om) (r : Option ga_V) (h' : ga_H) : Array Value → State → Outcome → State → Prop := fun _ _ o t => o = .returned (r.map ga_v) ∧ ga_Wd Ω t h' t.heap
def ga_rm (d mc ms : Nat) : Room := { frames := d, cells := mc, slots := ms, locals := 64 * d + 64 }
/-- a method by its name, code, locals, answer -/
abbrev ga_Mn : Type := MethodName × ByteArray × Nat × Option FieldType
def ga_Met (l : Launch) (Ω : ga_Om) (d : Nat) (y : ga_Mn) (vs : List ga_V) (h : ga_H) (r : Option ga_V) (h' : ga_H) : Prop :=
  ga_le h h' ∧ Met l y.1 (ws_ y.1 y.2.1 y.2.2.1 y.2.2.2) (ga_rm d (h'.2.1 - h.2.1) (h'.2.2 - h.2.2)) (ga_Pc Ω vs h) (ga_Qc Ω r h') (h'.2.1 - h.2.1) (h'.2.2 - h.2.2) (ga_A Ω)
theorem ga_Nt.same {U V : State} (hv : U.vm = V.vm) (h : ga_Nt U) : ga_Nt V := by
  have hA : U.vm.Alike V.vm := by rw [hv]; exact Vm.Alike.refl _
  refine ⟨fun w hw => ?_, fun C hC => va_AO.moved hA (h.2.1 C hC), fun q hq => va_Nc.moved hA (h.2.2.1 q hq), fun w hw => va_Nw.same (by have := ga_sx_good w hw; simp only [Bool.and_eq_true] at this; exact this.1) hv (h.2.2.2 w hw)⟩
  have h1 := h.1 w hw
  have h2 : ga_isNw w = true := (List.mem_filter.mp hw).2
  refine va_Nw.same ?_ hv h1
  cases w <;> first | rfl | cases h2
theorem ga_Wd.same {Ω : ga_Om} {U V : State} {h : ga_H} {H : Heap} (hv : U.vm = V.vm) (w : ga_Wd Ω U h H) : ga_Wd Ω V h H := by
  have hA : U.vm.Alike V.vm := by rw [hv]; exact Vm.Alike.refl _
  obtain ⟨h1, h2, h3, h4, h5, h6⟩ := w
  exact ⟨h1, h2, fun a c hc => (h3 a c hc).moved hA, fun q hq => (h4 q hq).moved hA, h5.moved hA, h6.same hv⟩
theorem ga_Wd.back {Ω : ga_Om} {s t : State} {h : ga_H} {H : Heap} (hA : t.vm.Alike s.vm) (hN : ga_Nt s) (w : ga_Wd Ω t h H) : ga_Wd Ω s h H := by
  obtain ⟨h1, h2, h3, h4, h5, h6⟩ := w
  exact ⟨h1, h2, fun a c hc => (h3 a c hc).moved hA, fun q hq => (h4 q hq).moved hA, h5.moved hA, hN⟩
theorem ga_blind {Ω : ga_Om} {vs : List ga_V} {h : ga_H} : FrameBlind (ga_Pc Ω vs h) := fun a U g mk q => ⟨q.1, ga_Wd.same (U := U) (V := U.calling g mk a) rfl q.2⟩
def ga_VC (own : String) (idx : Nat) (C : String) (y : ga_Mn) (n : Nat) : Prop := ∀ {p : Program} {l : Launch} {e : Jvm.Env} {R : Room} {s : State} {m : MethodId} {args : Array Value} {below : List Frame} {meth : Method} {c : Code} {H : Heap} {locs : List Loc} {cells slots mc ms nL : Nat} {cc : ByteArray} {rm : Room} {Pc : Array Value → State → Prop} {Qc : Array Value → State → Outcome → State → Prop} {free : Addr → Prop} {b : Addr} {As rest : List Value} {g : JFrame},
  CallFix p m c cc nL s args lw_all own → ga_Nt s → rm.cells = mc → rm.slots = ms → rm.frames + 1 ≤ R.frames ∧ 8 + (y.2.2.1 + 11) + rm.locals ≤ R.locals → Met l y.1 (ws_ y.1 y.2.1 y.2.2.1 y.2.2.2) rm Pc Qc mc ms free → PreV s H C b Pc As → g.method = m → As.length = n → g.locals.size = nL → g.stack = As.reverse ++ .ref b :: rest → 2 * g.monitorRoom + (rest.map fun v => v.category).sum ≤ 8 → decode cc g.pc = .ok (.invokevirtual idx, 3) → cells + mc ≤ R.cells ∧ slots + ms ≤ R.slots → va_Run p l e R s m args below meth c H locs cells slots mc ms g rest (Qc (Value.ref b :: As).toArray) free
def ga_SC (own : String) (idx : Nat) (y : ga_Mn) (n : Nat) : Prop := ∀ {p : Program} {l : Launch} {e : Jvm.Env} {R : Room} {s : State} {m : MethodId} {args : Array Value} {below : List Frame} {meth : Method} {c : Code} {H : Heap} {locs : List Loc} {cells slots mc ms nL : Nat} {cc : ByteArray} {rm : Room} {Pc : Array Value → State → Prop} {Qc : Array Value → State → Outcome → State → Prop} {free : Addr → Prop} {As rest : List Value} {g : JFrame},
  CallFix p m c cc nL s args lw_all own → ga_Nt s → rm.cells = mc → rm.slots = ms → rm.frames + 1 ≤ R.frames ∧ 8 + (y.2.2.1 + 11) + rm.locals ≤ R.locals → Met l y.1 (ws_ y.1 y.2.1 y.2.2.1 y.2.2.2) rm Pc Qc mc ms free → PreS s H Pc As → g.method = m → As.length = n → g.locals.size = nL → g.stack = As.reverse ++ rest → 2 * g.monitorRoom + (rest.map fun v => v.category).sum ≤ 8 → decode cc g.pc = .ok (.invokestatic idx, 3) → cells + mc ≤ R.cells ∧ slots + ms ≤ R.slots → va_Run p l e R s m args below meth c H locs cells slots mc ms g rest (Qc As.toArray) free
/-- by invokespecial: a constructor, or super's method -/
def ga_IC (own : String) (idx : Nat) (C : String) (y : ga_Mn) (n : Nat) : Prop := ∀ {p : Program} {l : Launch} {e : Jvm.Env} {R : Room} {s : State} {m : MethodId} {args : Array Value} {below : List Frame} {meth : Method} {c : Code} {H : Heap} {locs : List Loc} {cells slots mc ms nL : Nat} {cc : ByteArray} {rm : Room} {Pc : Array Value → State → Prop} {Qc : Array Value → State → Outcome → State → Prop} {free : Addr → Prop} {cC : ClassId} {b : Addr} {As rest : List Value} {g : JFrame},
  ClassAt s C cC → CallFix p m c cc nL s args lw_all own → ga_Nt s → rm.cells = mc → rm.slots = ms → rm.frames + 1 ≤ R.frames ∧ 8 + (y.2.2.1 + 11) + rm.locals ≤ R.locals → Met l y.1 (ws_ y.1 y.2.1 y.2.2.1 y.2.2.2) rm Pc Qc mc ms free → PreV s H C b Pc As → g.method = m → As.length = n → g.locals.size = nL → g.stack = As.reverse ++ .ref b :: rest → 2 * g.monitorRoom + (rest.map fun v => v.category).sum ≤ 8 → decode cc g.pc = .ok (.invokespecial idx, 3) → cells + mc ≤ R.cells ∧ slots + ms ≤ R.slots → va_Run p l e R s m args below meth c H locs cells slots mc ms g rest (Qc (Value.ref b :: As).toArray) free
/-- a class's own method, by its own name -/
theorem ga_VC_V {own C : String} {idx : Nat} {y : ga_Mn} (n : Nat) (h1 : Jvm.Cond.methodLink own idx y.1 ∈ lw_all) (h2 : Jvm.Cond.instanceMethod y.1 ∈ lw_all) (h3 : Jvm.Cond.selects C y.1 y.1 ∈ lw_all) (h4 : Jvm.Cond.initialized C ∈ lw_all) (h5 : Jvm.Cond.code y.1 y.2.1 y.2.2.1 y.2.2.2 ∈ lw_all) (hd : y.1.cls = C ∧ y.1.cls ≠ "java/lang/invoke/MethodHandle" ∧ y.1.cls ≠ "java/lang/invoke/VarHandle" ∧ (parseMethodDescriptor y.1.desc).map (fun d => d.parameters.length) = some n) : ga_VC own idx C y n := by
  intro p l e R s m args below meth c H locs cells slots mc ms nL cc rm Pc Qc free b As rest g S hN hrc hrs hR hM hp hg hn hsz hst hW hd2 hf
  exact va_runV S hM (cwV n S.2.2.2.2 (lw_V h1 h2 h3 h4 h5) rfl hrc hrs hd hR) hp hg hn hsz hst hW hd2 hf
/-- a private method, on an object of a subclass -/
theorem ga_VC_P {own C : String} {idx : Nat} {y : ga_Mn} (n : Nat) (h1 : Jvm.Cond.methodLink own idx y.1 ∈ lw_all) (h2 : Jvm.Cond.instanceMethod y.1 ∈ lw_all) (h3 : Jvm.Cond.selects C y.1 y.1 ∈ ga_sx) (h4 : Jvm.Cond.initialized y.1.cls ∈ lw_all) (h5 : Jvm.Cond.code y.1 y.2.1 y.2.2.1 y.2.2.2 ∈ lw_all) (hd : y.1.cls ≠ "java/lang/invoke/MethodHandle" ∧ y.1.cls ≠ "java/lang/invoke/VarHandle" ∧ (parseMethodDescriptor y.1.desc).map (fun d => d.parameters.length) = some n) : ga_VC own idx C y n := by
  intro p l e R s m args below meth c H locs cells slots mc ms nL cc rm Pc Qc free b As rest g S hN hrc hrs hR hM hpv hg hn hsz hst hW hd2 hf
  exact va_runV S hM ⟨callB_of n S.2.2.2.2 (lw_meth h5) rfl hrc hrs (S.2.2.2.2 _ h4) (S.2.2.2.2 _ h1) hd hR, S.2.2.2.2 _ h2, va_Nw.use rfl (hN.2.2.2 _ h3)⟩ hpv hg hn hsz hst hW hd2 hf
/-- an inherited method -/
theorem ga_VC_U {own C owner : String} {idx : Nat} {x : MethodName} {y : ga_Mn} (n : Nat) (h1 : Jvm.Cond.methodLink own idx x ∈ lw_all) (h2 : Jvm.Cond.sameMethod x.cls owner x.name x.desc ∈ lw_all) (h3 : Jvm.Cond.selects C x y.1 ∈ lw_all) (h4 : Jvm.Cond.instanceMethod y.1 ∈ lw_all) (h6 : Jvm.Cond.initialized y.1.cls ∈ lw_all) (h5 : Jvm.Cond.code y.1 y.2.1 y.2.2.1 y.2.2.2 ∈ lw_all) (hyx : y.1 = ⟨owner, x.name, x.desc⟩) (hd : owner ≠ "java/lang/invoke/MethodHandle" ∧ owner ≠ "java/lang/invoke/VarHandle" ∧ (parseMethodDescriptor x.desc).map (fun d => d.parameters.length) = some n) : ga_VC own idx C y n := by
  intro p l e R s m args below meth c H locs cells slots mc ms nL cc rm Pc Qc free b As rest g S hN hrc hrs hR hM hp hg hn hsz hst hW hd2 hf
  have hT : GoodIn lw_all (va_wsU own idx C owner x y.1 (ws_ y.1 y.2.1 y.2.2.1 y.2.2.2)) := lw_app (fun w hw => by
    simp only [List.mem_cons, List.not_mem_nil, or_false] at hw
    rcases hw with rfl | rfl | rfl | rfl | rfl <;> assumption) (lw_meth h5)
  exact va_runU S hM (va_cwU n S.2.2.2.2 hT rfl hrc hrs hyx hd hR) hp hg hn hsz hst hW hd2 hf
/-- a method whose named one is abstract -/
theorem ga_VC_A {own C owner : String} {idx : Nat} {x : MethodName} {y : ga_Mn} (n : Nat) (h1 : Jvm.Cond.methodLink own idx x ∈ lw_all) (h2 : Jvm.Cond.sameMethod x.cls owner x.name x.desc ∈ lw_all) (h3 : Jvm.Cond.selects C x y.1 ∈ lw_all) (h4 : Jvm.Cond.instanceMethod y.1 ∈ lw_all) (h6 : Jvm.Cond.initialized y.1.cls ∈ lw_all) (h5 : Jvm.Cond.code y.1 y.2.1 y.2.2.1 y.2.2.2 ∈ lw_all) (hz : Jvm.Cond.declares ⟨owner, x.name, x.desc⟩ ∈ ga_nw) (hd : owner ≠ "java/lang/invoke/MethodHandle" ∧ owner ≠ "java/lang/invoke/VarHandle" ∧ (parseMethodDescriptor x.desc).map (fun d => d.parameters.length) = some n) : ga_VC own idx C y n := by
  intro p l e R s m args below meth c H locs cells slots mc ms nL cc rm Pc Qc free b As rest g S hN hrc hrs hR hM hp hg hn hsz hst hW hd2 hf
  have hT : GoodIn lw_all (va_wsU own idx C owner x y.1 (ws_ y.1 y.2.1 y.2.2.1 y.2.2.2)) := lw_app (fun w hw => by
    simp only [List.mem_cons, List.not_mem_nil, or_false] at hw
    rcases hw with rfl | rfl | rfl | rfl | rfl <;> assumption) (lw_meth h5)
  exact va_runU S hM (va_cwA n S.2.2.2.2 hT rfl hrc hrs (hN.1 _ hz) hd hR) hp hg hn hsz hst hW hd2 hf
/-- an overriding method: the named one has code of its own -/
theorem ga_VC_O {own C owner : String} {idx : Nat} {x : MethodName} {y : ga_Mn} (n : Nat) (h1 : Jvm.Cond.methodLink own idx x ∈ lw_all) (h2 : Jvm.Cond.sameMethod x.cls owner x.name x.desc ∈ lw_all) (h7 : Jvm.Cond.instanceMethod ⟨owner, x.name, x.desc⟩ ∈ lw_all) (h3 : Jvm.Cond.selects C x y.1 ∈ lw_all) (h4 : Jvm.Cond.instanceMethod y.1 ∈ lw_all) (h6 : Jvm.Cond.initialized y.1.cls ∈ lw_all) (h5 : Jvm.Cond.code y.1 y.2.1 y.2.2.1 y.2.2.2 ∈ lw_all) {b0 : ByteArray} {m0 : Nat} {r0 : Option FieldType} (h0 : Jvm.Cond.code ⟨owner, x.name, x.desc⟩ b0 m0 r0 ∈ lw_all) (hd : owner ≠ "java/lang/invoke/MethodHandle" ∧ owner ≠ "java/lang/invoke/VarHandle" ∧ (parseMethodDescriptor x.desc).map (fun d => d.parameters.length) = some n) : ga_VC own idx C y n := by
  intro p l e R s m args below meth c H locs cells slots mc ms nL cc rm Pc Qc free b As rest g S hN hrc hrs hR hM hp hg hn hsz hst hW hd2 hf
  have hT : GoodIn lw_all (va_wsO own idx C owner x y.1 (ws_ y.1 y.2.1 y.2.2.1 y.2.2.2)) := lw_app (fun w hw => by
    simp only [List.mem_cons, List.not_mem_nil, or_false] at hw
    rcases hw with rfl | rfl | rfl | rfl | rfl | rfl <;> assumption) (lw_meth h5)
  exact va_runU S hM (va_cwO n S.2.2.2.2 hT rfl hrc hrs h0 hd hR) hp hg hn hsz hst hW hd2 hf
/-- a nest mate's private method -/
theorem ga_VC_N {own C host : String} {idx : Nat} {y : ga_Mn} (n : Nat) (h1 : Jvm.Cond.methodLinkNest own idx y.1 host ∈ ga_nw) (h2 : Jvm.Cond.instanceMethod y.1 ∈ lw_all) (h3 : Jvm.Cond.selects C y.1 y.1 ∈ lw_all) (h4 : Jvm.Cond.initialized y.1.cls ∈ lw_all) (h5 : Jvm.Cond.code y.1 y.2.1 y.2.2.1 y.2.2.2 ∈ lw_all) (hd : y.1.cls ≠ "java/lang/invoke/MethodHandle" ∧ y.1.cls ≠ "java/lang/invoke/VarHandle" ∧ (parseMethodDescriptor y.1.desc).map (fun d => d.parameters.length) = some n) : ga_VC own idx C y n := by
  intro p l e R s m args below meth c H locs cells slots mc ms nL cc rm Pc Qc free b As rest g S hN hrc hrs hR hM hp hg hn hsz hst hW hd2 hf
  exact va_runVN S hM ⟨va_cnB n S.2.2.2.2 (lw_meth h5) rfl hrc hrs (hN.1 _ h1) (S.2.2.2.2 _ h4) hd hR, S.2.2.2.2 _ h2, S.2.2.2.2 _ h3⟩ hp hg hn hsz hst hW hd2 hf
theorem ga_SC_S {own : String} {idx : Nat} {y : ga_Mn} (n : Nat) (h1 : Jvm.Cond.methodLink own idx y.1 ∈ lw_all) (h2 : Jvm.Cond.static y.1 ∈ lw_all) (h3 : Jvm.Cond.initialized y.1.cls ∈ lw_all) (h4 : Jvm.Cond.code y.1 y.2.1 y.2.2.1 y.2.2.2 ∈ lw_all) (hd : y.1.cls ≠ "java/lang/invoke/MethodHandle" ∧ y.1.cls ≠ "java/lang/invoke/VarHandle" ∧ (parseMethodDescriptor y.1.desc).map (fun d => d.parameters.length) = some n) : ga_SC own idx y n := by
  intro p l e R s m args below meth c H locs cells slots mc ms nL cc rm Pc Qc free As rest g S hN hrc hrs hR hM hp hg hn hsz hst hW hd2 hf
  exact va_runS S hM (va_cwS n S.2.2.2.2 (lw_S h1 h2 h3 h4) rfl hrc hrs hd hR) hp hg hn hsz hst hW hd2 hf
theorem ga_SC_N {own host : String} {idx : Nat} {y : ga_Mn} (n : Nat) (h1 : Jvm.Cond.methodLinkNest own idx y.1 host ∈ ga_nw) (h2 : Jvm.Cond.static y.1 ∈ lw_all) (h3 : Jvm.Cond.initialized y.1.cls ∈ lw_all) (h4 : Jvm.Cond.code y.1 y.2.1 y.2.2.1 y.2.2.2 ∈ lw_all) (hd : y.1.cls ≠ "java/lang/invoke/MethodHandle" ∧ y.1.cls ≠ "java/lang/invoke/VarHandle" ∧ (parseMethodDescriptor y.1.desc).map (fun d => d.parameters.length) = some n) : ga_SC own idx y n := by
  intro p l e R s m args below meth c H locs cells slots mc ms nL cc rm Pc Qc free As rest g S hN hrc hrs hR hM hp hg hn hsz hst hW hd2 hf
  exact va_runSN S hM ⟨va_cnB n S.2.2.2.2 (lw_meth h4) rfl hrc hrs (hN.1 _ h1) (S.2.2.2.2 _ h3) hd hR, S.2.2.2.2 _ h2, trivial⟩ hp hg hn hsz hst hW hd2 hf
theorem ga_IC_I {own C : String} {idx : Nat} {y : MethodName} {b : ByteArray} {L : Nat} (n : Nat) (h1 : Jvm.Cond.methodLink own idx y ∈ lw_all) (h2 : Jvm.Cond.instanceMethod y ∈ lw_all) (h3 : Jvm.Cond.initialized y.cls ∈ lw_all) (h4 : Jvm.Cond.code y b L none ∈ lw_all) (hy : y.name = "<init>") (hd : y.cls ≠ "java/lang/invoke/MethodHandle" ∧ y.cls ≠ "java/lang/invoke/VarHandle" ∧ (parseMethodDescriptor y.desc).map (fun d => d.parameters.length) = some n) : ga_IC own idx C (y, b, L, none) n := by
  intro p l e R s m args below meth c H locs cells slots mc ms nL cc rm Pc Qc free cC bb As rest g hat S hN hrc hrs hR hM hp hg hn hsz hst hW hd2 hf
  exact va_runI S hM (cwI n S.2.2.2.2 (lw_meth h4) rfl hrc hrs (S.2.2.2.2 _ h3) (S.2.2.2.2 _ h1) (S.2.2.2.2 _ h2) hy hd hR) ⟨hp.1, hp.2.2⟩ hg hn hsz hst hW hd2 hf
theorem ga_IC_N {own C host : String} {idx : Nat} {y : MethodName} {b : ByteArray} {L : Nat} (n : Nat) (h1 : Jvm.Cond.methodLinkNest own idx y host ∈ ga_nw) (h2 : Jvm.Cond.instanceMethod y ∈ lw_all) (h3 : Jvm.Cond.initialized y.cls ∈ lw_all) (h4 : Jvm.Cond.code y b L none ∈ lw_all) (hy : y.name = "<init>") (hd : y.cls ≠ "java/lang/invoke/MethodHandle" ∧ y.cls ≠ "java/lang/invoke/VarHandle" ∧ (parseMethodDescriptor y.desc).map (fun d => d.parameters.length) = some n) : ga_IC own idx C (y, b, L, none) n := by
  intro p l e R s m args below meth c H locs cells slots mc ms nL cc rm Pc Qc free cC bb As rest g hat S hN hrc hrs hR hM hp hg hn hsz hst hW hd2 hf
  exact va_runIN S hM ⟨va_cnB n S.2.2.2.2 (lw_meth h4) rfl hrc hrs (hN.1 _ h1) (S.2.2.2.2 _ h3) hd hR, hy, S.2.2.2.2 _ h2⟩ ⟨hp.1, hp.2.2⟩ hg hn hsz hst hW hd2 hf
theorem ga_IC_S {own C : String} {idx : Nat} {y : ga_Mn} (n : Nat) (h1 : Jvm.Cond.methodLink own idx y.1 ∈ lw_all) (h2 : Jvm.Cond.sameMethod y.1.cls y.1.cls y.1.name y.1.desc ∈ lw_all) (h3 : Jvm.Cond.superclass own y.1.cls ∈ lw_all) (h4 : Jvm.Cond.instanceMethod y.1 ∈ lw_all) (h5 : Jvm.Cond.initialized y.1.cls ∈ lw_all) (h6 : Jvm.Cond.code y.1 y.2.1 y.2.2.1 y.2.2.2 ∈ lw_all) (hd : y.1.name ≠ "<init>" ∧ (parseMethodDescriptor y.1.desc).map (fun d => d.parameters.length) = some n) : ga_IC own idx C y n := by
  intro p l e R s m args below meth c H locs cells slots mc ms nL cc rm Pc Qc free cC bb As rest g hat S hN hrc hrs hR hM hp hg hn hsz hst hW hd2 hf
  have hT : GoodIn lw_all (va_wsSU own idx y.1 (ws_ y.1 y.2.1 y.2.2.1 y.2.2.2)) := lw_app (fun w hw => by
    simp only [List.mem_cons, List.not_mem_nil, or_false] at hw
    rcases hw with rfl | rfl | rfl | rfl | rfl <;> assumption) (lw_meth h6)
  exact va_runSU hat S hM (va_cwSU n S.2.2.2.2 hT rfl hrc hrs hd hR) hp hg hn hsz hst hW hd2 hf
def ga_wt (st : List ga_V) : Nat := (st.map fun v => (ga_v v).category).sum
section CL
variable {p : Program} {l : Launch} {e : Jvm.Env} {R : Room} {s : State} {m : MethodId} {args : Array Value} {below : List Frame} {meth : Method} {c : Code} {Q : State → Prop} {Ω : ga_Om} {n0 s0 nL : Nat} {cc : ByteArray} {own : String}
variable {pc : Nat} {env : ga_Env} {st : List ga_V} {h h' : ga_H} {a d : Nat} {y : ga_Mn} {vs : List ga_V} {r : Option ga_V}
theorem ga_after {H : Heap} {locs : List Loc} {cells slots mc ms : Nat} {ls : Array Slot} {stk : List Value} {aa : Array Value} (hE : ga_E env ls nL) (hW : ga_Wd Ω s h H) (hL : ∀ q ∈ locs, Ω.2.2.1 ≤ q.base) (hC : cells + n0 = h.2.1) (hS : slots + s0 = h.2.2) (hle : ga_le h h') (hmc : mc = h'.2.1 - h.2.1) (hms : ms = h'.2.2 - h.2.2)
    (hr : va_Run p l e R s m args below meth c H locs cells slots mc ms (F0 m pc ls stk) (st.map ga_v) (ga_Qc Ω r h' aa) (ga_A Ω))
    (kk : ga_G p l e R s m args below meth c Q Ω n0 s0 nL (pc + 3) env (r.toList ++ st) h') : W p l e R s m args below meth c H locs cells slots Q (F0 m pc ls stk) := by
  intro T hT X
  obtain ⟨v, st₀, t, T', L, h0, X', hLf, e1, e2, ⟨hv, hq⟩, hgo⟩ := hr T hT X
  have hv : v = r.map ga_v := Outcome.returned.inj hv
  subst hv
  have hA : t.vm.Alike s.vm := by rw [← e2]; exact X'.warmed.alike.symm
  have hW' : ga_Wd Ω s h' T'.heap := by rw [e1]; exact ga_Wd.back hA hW.2.2.2.2.2 hq
  obtain ⟨t2, a1, b1⟩ := kk T'.heap (locs ++ L) (cells + mc) (slots + ms) ls hE hW' (fun q hq => by
    rcases List.mem_append.mp hq with h1 | h1
    · exact hL q h1
    · exact hLf q h1) (by rw [hmc]; have := hle.1; omega) (by rw [hms]; have := hle.2; omega) T' rfl X'
  refine ⟨t2, hgo t2 ?_, b1⟩
  have hst : (r.map ga_v).toList ++ st.map ga_v = (r.toList ++ st).map ga_v := by cases r <;> rfl
  have e : ({ F0 m pc ls stk with pc := (F0 m pc ls stk).pc + 3, stack := (r.map ga_v).toList ++ st.map ga_v } : JFrame) = F0 m (pc + 3) ls ((r.toList ++ st).map ga_v) := by rw [hst]
  rw [e]
  exact a1
theorem ga_pre {H : Heap} (hN : ga_Wd Ω s h H) : ∀ U : State, U.heap = H → s.WarmedH U.vm → ga_Pc Ω vs h (vs.map ga_v).toArray U := fun U hU hWm => ⟨rfl, by rw [hU]; exact hN.moved hWm⟩
theorem ga_mono0 {ls : Array Slot} {stk : List Value} (hw : ga_wt st ≤ 8) : 2 * (F0 m pc ls stk).monitorRoom + ((st.map ga_v).map fun v => v.category).sum ≤ 8 := by
  refine lv_room ?_
  rw [List.map_map]
  exact hw
theorem ga_callV (S : CallFix p m c cc nL s args lw_all own) {idx n ci : Nat} {fs : List ga_V} {q : vw_C} (hd : decode cc pc = .ok (.invokevirtual idx, 3)) (hq : ga_cl[ci]? = some q) (hf : ga_VC own idx q.1 y n) (hc : h.1 a = some (.inr (ci, fs))) (hn : vs.length = n) (hL : y.2.2.1 ≤ 45) (hR : d + 1 ≤ R.frames ∧ 64 * d + 128 ≤ R.locals) (hM : ga_Met l Ω d y (.inr (.inr (some a)) :: vs) h r h') (hw : ga_wt st ≤ 8) (hcap : h'.2.1 ≤ n0 + R.cells ∧ h'.2.2 ≤ s0 + R.slots)
    (kk : ga_G p l e R s m args below meth c Q Ω n0 s0 nL (pc + 3) env (r.toList ++ st) h') : ga_G p l e R s m args below meth c Q Ω n0 s0 nL pc env (vs.reverse ++ .inr (.inr (some a)) :: st) h := by
  intro H locs cells slots ls hE hW hLc hC hS
  obtain ⟨q', hq', cell, q1, q2, q3, kC, q4⟩ := ga_obj hW hc
  have er : q' = q := Option.some.inj (hq'.symm.trans hq)
  subst er
  have hle := hM.1
  refine ga_after hE hW hLc hC hS hle rfl rfl (hf (rm := ga_rm d (h'.2.1 - h.2.1) (h'.2.2 - h.2.2)) (b := a) (As := vs.map ga_v) (rest := st.map ga_v) S hW.2.2.2.2.2 rfl rfl ⟨hR.1, by show 8 + (y.2.2.1 + 11) + (64 * d + 64) ≤ R.locals; omega⟩ hM.2 ⟨ga_blind, ⟨cell, q1, by rw [q2]; rfl, q3⟩, ga_pre hW⟩ rfl (by rw [List.length_map]; exact hn) (by rw [hE.1.1]) (by simp [ga_v, va_rf]) (ga_mono0 hw) hd ⟨by have := hle.1; omega, by have := hle.2; omega⟩) kk
theorem ga_callI (S : CallFix p m c cc nL s args lw_all own) {idx n ci : Nat} {fs : List ga_V} {q : vw_C} (hd : decode cc pc = .ok (.invokespecial idx, 3)) (hq : ga_cl[ci]? = some q) (hf : ga_IC own idx q.1 y n) (hc : h.1 a = some (.inr (ci, fs))) (hn : vs.length = n) (hL : y.2.2.1 ≤ 45) (hR : d + 1 ≤ R.frames ∧ 64 * d + 128 ≤ R.locals) (hM : ga_Met l Ω d y (.inr (.inr (some a)) :: vs) h r h') (hw : ga_wt st ≤ 8) (hcap : h'.2.1 ≤ n0 + R.cells ∧ h'.2.2 ≤ s0 + R.slots)
    (kk : ga_G p l e R s m args below meth c Q Ω n0 s0 nL (pc + 3) env (r.toList ++ st) h') : ga_G p l e R s m args below meth c Q Ω n0 s0 nL pc env (vs.reverse ++ .inr (.inr (some a)) :: st) h := by
  intro H locs cells slots ls hE hW hLc hC hS
  obtain ⟨q', hq', cell, q1, q2, q3, kC, q4⟩ := ga_obj hW hc
  have er : q' = q := Option.some.inj (hq'.symm.trans hq)
  subst er
  have hle := hM.1
  refine ga_after hE hW hLc hC hS hle rfl rfl (hf (rm := ga_rm d (h'.2.1 - h.2.1) (h'.2.2 - h.2.2)) (b := a) (As := vs.map ga_v) (rest := st.map ga_v) (hW.2.2.2.2.1.1 ci _ hq').2 S hW.2.2.2.2.2 rfl rfl ⟨hR.1, by show 8 + (y.2.2.1 + 11) + (64 * d + 64) ≤ R.locals; omega⟩ hM.2 ⟨ga_blind, ⟨cell, q1, by rw [q2]; rfl, q3⟩, ga_pre hW⟩ rfl (by rw [List.length_map]; exact hn) (by rw [hE.1.1]) (by simp [ga_v, va_rf]) (ga_mono0 hw) hd ⟨by have := hle.1; omega, by have := hle.2; omega⟩) kk
theorem ga_callS (S : CallFix p m c cc nL s args lw_all own) {idx n : Nat} (hd : decode cc pc = .ok (.invokestatic idx, 3)) (hf : ga_SC own idx y n) (hn : vs.length = n) (hL : y.2.2.1 ≤ 45) (hR : d + 1 ≤ R.frames ∧ 64 * d + 128 ≤ R.locals) (hM : ga_Met l Ω d y vs h r h') (hw : ga_wt st ≤ 8) (hcap : h'.2.1 ≤ n0 + R.cells ∧ h'.2.2 ≤ s0 + R.slots)
    (kk : ga_G p l e R s m args below meth c Q Ω n0 s0 nL (pc + 3) env (r.toList ++ st) h') : ga_G p l e R s m args below meth c Q Ω n0 s0 nL pc env (vs.reverse ++ st) h := by
  intro H locs cells slots ls hE hW hLc hC hS
  have hle := hM.1
  refine ga_after hE hW hLc hC hS hle rfl rfl (hf (rm := ga_rm d (h'.2.1 - h.2.1) (h'.2.2 - h.2.2)) (As := vs.map ga_v) (rest := st.map ga_v) S hW.2.2.2.2.2 rfl rfl ⟨hR.1, by show 8 + (y.2.2.1 + 11) + (64 * d + 64) ≤ R.locals; omega⟩ hM.2 ⟨ga_blind, ga_pre hW⟩ rfl (by rw [List.length_map]; exact hn) (by rw [hE.1.1]) (by simp) (ga_mono0 hw) hd ⟨by have := hle.1; omega, by have := hle.2; omega⟩) kk
theorem ga_objI (S : CallFix p m c cc nL s args lw_all own) {idx : Nat} (hd : decode cc pc = .ok (.invokespecial idx, 3)) (hq : Jvm.Cond.methodLink own idx objectInit ∈ lw_all) (hq2 : Jvm.Cond.instanceMethod objectInit ∈ lw_all) (hq3 : Jvm.Cond.code objectInit ⟨#[0xb1]⟩ 1 none ∈ lw_all) (hR : 1 ≤ R.frames ∧ 64 ≤ R.locals) (hw : ga_wt st ≤ 8)
    (kk : ga_G p l e R s m args below meth c Q Ω n0 s0 nL (pc + 3) env st h) : ga_G p l e R s m args below meth c Q Ω n0 s0 nL pc env (.inr (.inr (some a)) :: st) h := by
  intro H locs cells slots ls hE hW hLc hC hS
  exact W.objInit S.1 S.2.1 S.2.2.2.1 (S.2.2.2.2 _ hq) (S.2.2.2.2 _ hq2) (S.2.2.2.2 _ hq3) rfl (by rw [S.2.2.1]; exact hE.1.1) rfl hd hR.1 (by have := ga_mono0 (m := m) (pc := pc) (ls := ls) (stk := List.map ga_v (.inr (.inr (some a)) :: st)) hw; omega) (kk H locs cells slots ls hE hW hLc hC hS)
end CL
