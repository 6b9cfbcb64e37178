/-! LAYER 1i: all that a code's place has to know of the machine, over the heap -/
/-- the class names of the receivers' numbers -/
def ga_nmOf (ci : Nat) : String := match ga_cl[ci]? with
  | some r => r.1
  | none => ""
theorem ga_nmOf_eq {ci : Nat} {r : vw_C} (h : ga_cl[ci]? = some r) : r.1 = ga_nmOf ci := by unfold ga_nmOf; rw [h]
abbrev ga_Gt : Type := Nat → ga_Env → List ga_V → ga_H → Prop
abbrev ga_Cr (η : Type) : Type := Nat → List ga_V → η → Option ga_V → η → Prop
def hm_getf (cc : ByteArray) (own : String) (g : ga_Gt) : Prop := ∀ {pc : Nat} {env : ga_Env} {st : List ga_V} {h : ga_H} {a idx ci k : Nat} {fs : List ga_V} {v : ga_V}, decode cc pc = .ok (.getfield idx, 3) → ga_FL own idx ci k → h.1 a = some (.inr (ci, fs)) → fs[k]? = some v → g (pc + 3) env (v :: st) h → g pc env (.inr (.inr (some a)) :: st) h
def hm_putf (cc : ByteArray) (own : String) (ini : Bool) (g : ga_Gt) : Prop := ∀ {pc : Nat} {env : ga_Env} {st : List ga_V} {h : ga_H} {a idx ci k : Nat} {fs : List ga_V} {v : ga_V} {ty : FieldType} {fin : Bool}, decode cc pc = .ok (.putfield idx, 3) → ga_FW own idx ci k ty fin → (fin = true → ini = true) → h.1 a = some (.inr (ci, fs)) → narrow ty (ga_v v) = ga_v v → fits ty (ga_v v) = true → g (pc + 3) env st (ga_set h a (.inr (ci, fs.set k v))) → g pc env (v :: .inr (.inr (some a)) :: st) h
def hm_gets (cc : ByteArray) (own : String) (Ω : ga_Om) (g : ga_Gt) : Prop := ∀ {pc : Nat} {env : ga_Env} {st : List ga_V} {h : ga_H} {idx : Nat} {n d : String} {v : ga_V}, decode cc pc = .ok (.getstatic idx, 3) → ga_SL own idx n d → (n, d, v) ∈ ga_sts Ω → g (pc + 3) env (v :: st) h → g pc env st h
def hm_ald (cc : ByteArray) (g : ga_Gt) : Prop := ∀ {pc : Nat} {env : ga_Env} {st : List ga_V} {h : ga_H} {a k n : Nat} {i : Int32} {f : ga_Ct} {v : ga_V} {o : Instr}, decode cc pc = .ok (o, 1) → ((o = .iaload ∧ k = 0) ∨ (o = .laload ∧ k = 1) ∨ (o = .baload ∧ k = 2) ∨ (o = .baload ∧ k = 3) ∨ (o = .aaload ∧ 4 ≤ k)) → h.1 a = some (.inl (k, n, f)) → vp_in i n → (match f with | .inl f => k ≠ 1 ∧ k < 4 ∧ v = .inl (f i.toNatClampNeg) | .inr (.inl f) => k = 1 ∧ v = .inr (.inl (f i.toNatClampNeg)) | .inr (.inr f) => 4 ≤ k ∧ v = .inr (.inr (f i.toNatClampNeg))) → g (pc + 1) env (v :: st) h → g pc env (.inl i :: .inr (.inr (some a)) :: st) h
def hm_alen (cc : ByteArray) (g : ga_Gt) : Prop := ∀ {pc : Nat} {env : ga_Env} {st : List ga_V} {h : ga_H} {a k n : Nat} {f : ga_Ct}, decode cc pc = .ok (.arraylength, 1) → h.1 a = some (.inl (k, n, f)) → g (pc + 1) env (.inl (Int32.ofNat n) :: st) h → g pc env (.inr (.inr (some a)) :: st) h
def hm_iast (cc : ByteArray) (Ω : ga_Om) (g : ga_Gt) : Prop := ∀ {pc : Nat} {env : ga_Env} {st : List ga_V} {h : ga_H} {a n : Nat} {f : Nat → Int32} {i x : Int32}, Ω.2.2.1 ≤ a → decode cc pc = .ok (.iastore, 1) → h.1 a = some (.inl (0, n, .inl f)) → vp_in i n → g (pc + 1) env st (ga_set h a (.inl (0, n, .inl (va_up f i.toNatClampNeg x)))) → g pc env (.inl x :: .inl i :: .inr (.inr (some a)) :: st) h
def hm_last (cc : ByteArray) (Ω : ga_Om) (g : ga_Gt) : Prop := ∀ {pc : Nat} {env : ga_Env} {st : List ga_V} {h : ga_H} {a n : Nat} {f : Nat → Int64} {i : Int32} {x : Int64}, Ω.2.2.1 ≤ a → decode cc pc = .ok (.lastore, 1) → h.1 a = some (.inl (1, n, .inr (.inl f))) → vp_in i n → g (pc + 1) env st (ga_set h a (.inl (1, n, .inr (.inl (va_up f i.toNatClampNeg x))))) → g pc env (.inr (.inl x) :: .inl i :: .inr (.inr (some a)) :: st) h
def hm_bast (cc : ByteArray) (Ω : ga_Om) (g : ga_Gt) : Prop := ∀ {pc : Nat} {env : ga_Env} {st : List ga_V} {h : ga_H} {a n : Nat} {f : Nat → Int32} {i x : Int32}, Ω.2.2.1 ≤ a → decode cc pc = .ok (.bastore, 1) → h.1 a = some (.inl (2, n, .inl f)) → vp_in i n → g (pc + 1) env st (ga_set h a (.inl (2, n, .inl (va_up f i.toNatClampNeg x.toInt8.toInt32)))) → g pc env (.inl x :: .inl i :: .inr (.inr (some a)) :: st) h
def hm_zast (cc : ByteArray) (Ω : ga_Om) (g : ga_Gt) : Prop := ∀ {pc : Nat} {env : ga_Env} {st : List ga_V} {h : ga_H} {a n : Nat} {f : Nat → Int32} {i x : Int32}, Ω.2.2.1 ≤ a → (x = 0 ∨ x = 1) → decode cc pc = .ok (.bastore, 1) → h.1 a = some (.inl (3, n, .inl f)) → vp_in i n → g (pc + 1) env st (ga_set h a (.inl (3, n, .inl (va_up f i.toNatClampNeg x)))) → g pc env (.inl x :: .inl i :: .inr (.inr (some a)) :: st) h
def hm_aast (cc : ByteArray) (Ω : ga_Om) (g : ga_Gt) : Prop := ∀ {pc : Nat} {env : ga_Env} {st : List ga_V} {h : ga_H} {a k n : Nat} {f : Nat → Option Nat} {i : Int32} {x : Option Nat}, Ω.2.2.1 ≤ a → 4 ≤ k → decode cc pc = .ok (.aastore, 1) → h.1 a = some (.inl (k, n, .inr (.inr f))) → vp_in i n → (∀ y, x = some y → ∃ ci fs r, h.1 y = some (.inr (ci, fs)) ∧ ga_cl[ci]? = some r ∧ ga_As r.1 (ga_kn k)) → g (pc + 1) env st (ga_set h a (.inl (k, n, .inr (.inr (va_up f i.toNatClampNeg x))))) → g pc env (.inr (.inr x) :: .inl i :: .inr (.inr (some a)) :: st) h
def hm_newo (cc : ByteArray) (own : String) (ok : ga_H → Prop) (g : ga_Gt) : Prop := ∀ {pc : Nat} {env : ga_Env} {st : List ga_V} {h : ga_H} {idx ci N : Nat} {ty0 : Nat → FieldType} {fs : List ga_V}, decode cc pc = .ok (.new idx, 3) → ga_NW own idx ci ty0 → fs.length = N → (ga_cl[ci]?).map (fun r => r.2.2) = some N → (∀ j, j < N → defaultValue (ty0 j) = vp_V (fs.map ga_v) j) → ok (ga_new h (.inr (ci, fs)) N) → g (pc + 3) env (.inr (.inr (some h.2.1)) :: st) (ga_new h (.inr (ci, fs)) N) → g pc env st h
def hm_newa (cc : ByteArray) (ok : ga_H → Prop) (g : ga_Gt) : Prop := ∀ {pc : Nat} {env : ga_Env} {st : List ga_V} {h : ga_H} {k : Nat} {i : Int32}, k < 4 → Jvm.Cond.arrayClass (ga_ty k) ∈ lw_all → decode cc pc = .ok (.newarray (ga_at k), 2) → ¬ i < 0 → i.toNatClampNeg ≤ 65536 → ok (ga_new h (.inl (k, i.toNatClampNeg, ga_zero k)) i.toNatClampNeg) → g (pc + 2) env (.inr (.inr (some h.2.1)) :: st) (ga_new h (.inl (k, i.toNatClampNeg, ga_zero k)) i.toNatClampNeg) → g pc env (.inl i :: st) h
def hm_newq (cc : ByteArray) (own : String) (ok : ga_H → Prop) (g : ga_Gt) : Prop := ∀ {pc : Nat} {env : ga_Env} {st : List ga_V} {h : ga_H} {k idx : Nat} {i : Int32}, 4 ≤ k → k < 10 → Jvm.Cond.classLink own idx (ga_kn k) ∈ lw_all → ga_kn k ∈ ga_ao → decode cc pc = .ok (.anewarray idx, 3) → ¬ i < 0 → i.toNatClampNeg ≤ 65536 → ok (ga_new h (.inl (k, i.toNatClampNeg, .inr (.inr fun _ => none))) i.toNatClampNeg) → g (pc + 3) env (.inr (.inr (some h.2.1)) :: st) (ga_new h (.inl (k, i.toNatClampNeg, .inr (.inr fun _ => none))) i.toNatClampNeg) → g pc env (.inl i :: st) h
def hm_cast (cc : ByteArray) (own : String) (g : ga_Gt) : Prop := ∀ {pc : Nat} {env : ga_Env} {st : List ga_V} {h : ga_H} {a idx ci : Nat} {fs : List ga_V} {r : vw_C} {E : String}, decode cc pc = .ok (.checkcast idx, 3) → Jvm.Cond.classLink own idx E ∈ lw_all → h.1 a = some (.inr (ci, fs)) → ga_cl[ci]? = some r → ga_As r.1 E → g (pc + 3) env (.inr (.inr (some a)) :: st) h → g pc env (.inr (.inr (some a)) :: st) h
def hm_inst (cc : ByteArray) (own : String) (g : ga_Gt) : Prop := ∀ {pc : Nat} {env : ga_Env} {st : List ga_V} {h : ga_H} {a idx ci : Nat} {fs : List ga_V} {r : vw_C} {E : String} {b : Int32}, decode cc pc = .ok (.instanceof idx, 3) → Jvm.Cond.classLink own idx E ∈ lw_all → h.1 a = some (.inr (ci, fs)) → ga_cl[ci]? = some r → ((b = 1 ∧ ga_As r.1 E) ∨ (b = 0 ∧ (r.1, E) ∈ ga_nc)) → g (pc + 3) env (.inl b :: st) h → g pc env (.inr (.inr (some a)) :: st) h
def hm_ldc2 (cc : ByteArray) (own : String) (g : ga_Gt) : Prop := ∀ {pc : Nat} {env : ga_Env} {st : List ga_V} {h : ga_H} {idx : Nat} {v : Int64}, decode cc pc = .ok (.ldc2_w idx, 3) → Jvm.Cond.constantLong own idx v ∈ lw_all → g (pc + 3) env (.inr (.inl v) :: st) h → g pc env st h
def hm_ldc (cc : ByteArray) (own : String) (g : ga_Gt) : Prop := ∀ {pc : Nat} {env : ga_Env} {st : List ga_V} {h : ga_H} {idx n : Nat} {v : Int32} {o : Instr}, decode cc pc = .ok (o, n) → ((o = .ldc idx ∧ n = 2) ∨ (o = .ldc_w idx ∧ n = 3)) → Jvm.Cond.constant own idx v ∈ lw_all → g (pc + n) env (.inl v :: st) h → g pc env st h
def hm_callV (cc : ByteArray) (own : String) (ok : ga_H → Prop) (mt : Nat → ga_Mn) (cr : ga_Cr ga_H) (g : ga_Gt) : Prop := ∀ {pc : Nat} {env : ga_Env} {st : List ga_V} {h h' : ga_H} {a idx n ci y : Nat} {fs vs : List ga_V} {r : Option ga_V}, decode cc pc = .ok (.invokevirtual idx, 3) → ga_VC own idx (ga_nmOf ci) (mt y) n → (mt y).2.2.1 ≤ 45 → h.1 a = some (.inr (ci, fs)) → vs.length = n → cr y (.inr (.inr (some a)) :: vs) h r h' → ga_wt st ≤ 8 → ok h' → g (pc + 3) env (r.toList ++ st) h' → g pc env (vs.reverse ++ .inr (.inr (some a)) :: st) h
def hm_callI (cc : ByteArray) (own : String) (ok : ga_H → Prop) (mt : Nat → ga_Mn) (cr : ga_Cr ga_H) (g : ga_Gt) : Prop := ∀ {pc : Nat} {env : ga_Env} {st : List ga_V} {h h' : ga_H} {a idx n ci y : Nat} {fs vs : List ga_V} {r : Option ga_V}, decode cc pc = .ok (.invokespecial idx, 3) → ga_IC own idx (ga_nmOf ci) (mt y) n → (mt y).2.2.1 ≤ 45 → h.1 a = some (.inr (ci, fs)) → vs.length = n → cr y (.inr (.inr (some a)) :: vs) h r h' → ga_wt st ≤ 8 → ok h' → g (pc + 3) env (r.toList ++ st) h' → g pc env (vs.reverse ++ .inr (.inr (some a)) :: st) h
def hm_callS (cc : ByteArray) (own : String) (ok : ga_H → Prop) (mt : Nat → ga_Mn) (cr : ga_Cr ga_H) (g : ga_Gt) : Prop := ∀ {pc : Nat} {env : ga_Env} {st : List ga_V} {h h' : ga_H} {idx n y : Nat} {vs : List ga_V} {r : Option ga_V}, decode cc pc = .ok (.invokestatic idx, 3) → ga_SC own idx (mt y) n → (mt y).2.2.1 ≤ 45 → vs.length = n → cr y vs h r h' → ga_wt st ≤ 8 → ok h' → g (pc + 3) env (r.toList ++ st) h' → g pc env (vs.reverse ++ st) h
def hm_objI (cc : ByteArray) (own : String) (g : ga_Gt) : Prop := ∀ {pc : Nat} {env : ga_Env} {st : List ga_V} {h : ga_H} {a idx : Nat}, decode cc pc = .ok (.invokespecial idx, 3) → Jvm.Cond.methodLink own idx objectInit ∈ lw_all → ga_wt st ≤ 8 → g (pc + 3) env st h → g pc env (.inr (.inr (some a)) :: st) h
def hm_copy (cc : ByteArray) (own : String) (Ω : ga_Om) (g : ga_Gt) : Prop := ∀ {pc : Nat} {env : ga_Env} {h : ga_H} {a0 a idx N0 N1 : Nat} {f q : Nat → Option Nat} {n : Int32}, Ω.2.2.1 ≤ a → Ω.2.2.1 ≤ a0 → decode cc pc = .ok (.invokestatic idx, 3) → Jvm.Cond.methodLink own idx arraycopyName ∈ lw_all → h.1 a0 = some (.inl (4, N0, .inr (.inr f))) → h.1 a = some (.inl (4, N1, .inr (.inr q))) → ¬ n < 0 → n.toNatClampNeg ≤ N0 → n.toNatClampNeg ≤ N1 → (∀ i, i < n.toNatClampNeg → ∀ y, f i = some y → ∃ ci fs r, h.1 y = some (.inr (ci, fs)) ∧ ga_cl[ci]? = some r ∧ ga_As r.1 (ga_kn 4)) → g (pc + 3) env [] (ga_set h a (.inl (4, N1, .inr (.inr (va_cpy f q 0 0 n.toNatClampNeg))))) → g pc env [.inl n, .inl 0, .inr (.inr (some a)), .inl 0, .inr (.inr (some a0))] h
def ga_HM (cc : ByteArray) (own : String) (ini : Bool) (Ω : ga_Om) (ok : ga_H → Prop) (mt : Nat → ga_Mn) (cr : ga_Cr ga_H) (g : ga_Gt) : Prop :=
  ga_M cc g ∧ hm_getf cc own g ∧ hm_putf cc own ini g ∧ hm_gets cc own Ω g ∧ hm_ald cc g ∧ hm_alen cc g ∧ hm_iast cc Ω g ∧ hm_last cc Ω g ∧ hm_bast cc Ω g ∧ hm_zast cc Ω g ∧ hm_aast cc Ω g ∧ hm_newo cc own ok g ∧ hm_newa cc ok g ∧ hm_newq cc own ok g ∧ hm_cast cc own g ∧ hm_inst cc own g ∧ hm_ldc2 cc own g ∧ hm_ldc cc own g ∧ hm_callV cc own ok mt cr g ∧ hm_callI cc own ok mt cr g ∧ hm_callS cc own ok mt cr g ∧ hm_objI cc own g ∧ hm_copy cc own Ω g
section HM
variable {p : Program} {l : Launch} {e : Jvm.Env} {R : Room} {s : State} {m : MethodId} {args : Array Value} {below : List Frame} {meth : Method} {c : Code} {Q : State → Prop} {Ω : ga_Om} {n0 s0 nL : Nat} {cc : ByteArray} {own : String}
set_option maxHeartbeats 4000000 in
theorem ga_copy (S : CallFix p m c cc nL s args lw_all own) (hR : 1 ≤ R.frames ∧ 64 ≤ R.locals) (hnat : Jvm.Cond.native arraycopyName ∈ lw_all) (hstat : Jvm.Cond.static arraycopyName ∈ lw_all) (hini : Jvm.Cond.initialized "java/lang/System" ∈ lw_all) : hm_copy cc own Ω (ga_G p l e R s m args below meth c Q Ω n0 s0 nL) := by
  intro pc env h a0 a idx N0 N1 f q n hb hb0 hd hlink hc0 hc1 h3 h4 h5 hel kk H locs cells slots ls hE hW hL hC hS
  obtain ⟨-, e0, o0⟩ := ga_own hW hb0 hc0
  obtain ⟨hk1, e1, o1⟩ := ga_own hW hb hc1
  have nn : ∀ z : Int32, ¬ z < 0 → z.toInt = (z.toNatClampNeg : Int) := by
    intro z hz
    have hz0 : (0 : Int) ≤ z.toInt := by
      have := Int32.not_lt.mp hz
      simpa using Int32.le_iff_toInt_le.mp this
    show z.toInt = ((z.toInt.toNat : Nat) : Int)
    omega
  intro T hT X
  obtain ⟨-, k0, hk0, cm0, hkk0⟩ := o0
  obtain ⟨-, k1, hk1', cm1, hkk1⟩ := o1
  have hloc : 2 * (F0 m pc ls (List.map ga_v [.inl n, .inl 0, .inr (.inr (some a)), .inl 0, .inr (.inr (some a0))])).monitorRoom + (List.map (fun v => v.category) ([] : List Value)).sum + (nativeFrameWords "java/lang/System" "arraycopy" 5 + 11) ≤ R.locals := by
    have h1 : nativeFrameWords "java/lang/System" "arraycopy" 5 ≤ 40 := by decide +kernel
    show 2 * 0 + 0 + _ ≤ _
    omega
  obtain ⟨vm', X', step⟩ := X.arraycopy S.1 S.2.2.2.1 (S.2.2.2.2 _ hlink) (S.2.2.2.2 _ hnat) (S.2.2.2.2 _ hstat) (S.2.2.2.2 _ hini) (src := a0) (dst := a) (cs := arrV (Ω.2.1 4) N0 (ga_el (.inr (.inr f)))) (cd := arrV (Ω.2.1 4) N1 (ga_el (.inr (.inr q)))) (srcPos := 0) (destPos := 0) (n := n) (by rw [hT]; exact e0) (by rw [hT]; exact e1)
    (fun _ h => by cases h) (fun _ h => by cases h) (fun h => by cases h) (fun h => by cases h) hk0 hk1' hkk0 hkk1 rfl (by decide) (by decide) h3
    (by rw [nn n h3]; show ¬ _ > ((arrV (Ω.2.1 4) N0 (ga_el (.inr (.inr f)))).slots.size : Int); rw [arrV_size]; show ¬ (0 : Int) + _ > _; omega)
    (by rw [nn n h3]; show ¬ _ > ((arrV (Ω.2.1 4) N1 (ga_el (.inr (.inr q)))).slots.size : Int); rw [arrV_size]; show ¬ (0 : Int) + _ > _; omega)
    (fun vm₁ hal i hi => by
      have e : (arrV (Ω.2.1 4) N0 (ga_el (.inr (.inr f)))).slots.getD ((0 : Int32).toNatClampNeg + i) .null = va_rf (f i) := by
        rw [show (0 : Int32).toNatClampNeg + i = i from Nat.zero_add i, Array.getD_eq_getD_getElem?, arrV_read _ _ (by omega)]
        rfl
      rw [e]
      cases hy : f i with
      | none => exact ⟨rfl, trivial⟩
      | some y =>
        obtain ⟨ci, fs, r, g1, g2, g3⟩ := hel i hi y hy
        obtain ⟨r', hr', cellV, q1, q2, q3, kC, q4⟩ := ga_obj hW g1
        have er : r' = r := Option.some.inj (hr'.symm.trans g2)
        subst er
        obtain ⟨kA, comp, r1, r2, r3, -⟩ := (show va_RA s (Ω.2.1 4) (.object (ga_kn 4)) from (hW.2.2.2.2.1.2 4 _ (ga_ty_at Ω (by decide))).2)
        cases hk1'.symm.trans r1
        cases hkk1.symm.trans r2
        obtain ⟨kE, hkE, -⟩ := Vm.findClass_spec r3
        obtain ⟨kC', hkC', -⟩ := hal.2.2 _ _ q4
        obtain ⟨kE', hkE', -⟩ := hal.2.2 _ _ hkE
        refine ⟨rfl, cellV, (show T.heap[y]? = some cellV by rw [hT]; exact q1), (fun q h => by rw [h] at q2; cases q2), ⟨kC', hkC'⟩, ?_, ?_⟩
        · exact ⟨kE', hkE'⟩
        · show vm₁.assignable _ _ = true
          rw [hal.assignable]
          exact ga_asg hW.2.2.2.2.2 g3 q3 r3)
    (g := F0 m pc ls (List.map ga_v [.inl n, .inl 0, .inr (.inr (some a)), .inl 0, .inr (.inr (some a0))])) rfl (by rw [S.2.2.1]; exact hE.1.1) (rest := []) rfl (by rw [S.2.1]; exact hd) hR.1 hloc
  have ec : copied (arrV (Ω.2.1 4) N0 (ga_el (.inr (.inr f)))) (arrV (Ω.2.1 4) N1 (ga_el (.inr (.inr q)))) 0 0 n = arrV (Ω.2.1 4) N1 (ga_el (.inr (.inr (va_cpy f q 0 0 n.toNatClampNeg)))) :=
    va_copied (fun z => va_rf z) (Ω.2.1 4) (Ω.2.1 4) f q (by show 0 + _ ≤ _; omega)
  rw [ec] at X' step
  have hl : a < H.size := (Array.getElem?_eq_some_iff.mp e1).1
  have hheap : ((T.setVm vm').setCell a (arrV (Ω.2.1 4) N1 (ga_el (.inr (.inr (va_cpy f q 0 0 n.toNatClampNeg)))))).heap = H.setIfInBounds a (arrV (Ω.2.1 4) N1 (ga_el (.inr (.inr (va_cpy f q 0 0 n.toNatClampNeg))))) := by rw [← hT]; rfl
  obtain ⟨t, a1, b1⟩ := kk _ _ cells slots ls hE (hW.set hb (by simp) (fun x hx => by simp [Array.getElem?_setIfInBounds, Ne.symm hx]) (⟨by decide, Or.inl ⟨hb, by rw [ga_cellV]; simp [Array.getElem?_setIfInBounds, hl]⟩⟩ : ga_At Ω s a (.inl (4, N1, .inr (.inr (va_cpy f q 0 0 n.toNatClampNeg)))) (H.setIfInBounds a (arrV (Ω.2.1 4) N1 (ga_el (.inr (.inr (va_cpy f q 0 0 n.toNatClampNeg)))))))) (fun z hz => by
      rcases List.mem_append.mp hz with h | h
      · exact hL z h
      · obtain ⟨y, -, hy⟩ := List.mem_map.mp h
        rw [← hy]
        exact hb) hC hS _ hheap X'
  exact ⟨t, step t a1, b1⟩
theorem ga_G_HM {d : Nat} {ini : Bool} {ok : ga_H → Prop} {mt : Nat → ga_Mn} {cr : ga_Cr ga_H} (S : CallFix p m c cc nL s args lw_all own) (hini : ini = true → meth.name = "<init>") (hok : ∀ h, ok h → h.2.1 ≤ n0 + R.cells ∧ h.2.2 ≤ s0 + R.slots) (hR : d + 1 ≤ R.frames ∧ 64 * d + 128 ≤ R.locals) (hcr : ∀ y vs h r h', cr y vs h r h' → ga_Met l Ω d (mt y) vs h r h') (q1 : Jvm.Cond.instanceMethod objectInit ∈ lw_all) (q2 : Jvm.Cond.code objectInit ⟨#[0xb1]⟩ 1 none ∈ lw_all) (q3 : Jvm.Cond.native arraycopyName ∈ lw_all) (q4 : Jvm.Cond.static arraycopyName ∈ lw_all) (q5 : Jvm.Cond.initialized "java/lang/System" ∈ lw_all) : ga_HM cc own ini Ω ok mt cr (ga_G p l e R s m args below meth c Q Ω n0 s0 nL) := by
  have hR0 : 1 ≤ R.frames ∧ 64 ≤ R.locals := ⟨by omega, by omega⟩
  refine ⟨ga_G_M S.1 S.2.1, ?_, ?_, ?_, ?_, ?_, ?_, ?_, ?_, ?_, ?_, ?_, ?_, ?_, ?_, ?_, ?_, ?_, ?_, ?_, ?_, ?_, ga_copy S hR0 q3 q4 q5⟩
  · intro pc env st h a idx ci k fs v hd hf hc hv kk
    exact ga_getf S hd hf hc hv kk
  · intro pc env st h a idx ci k fs v ty fin hd hf hin hc hn hfit kk
    exact ga_putf S hd hf (fun q => hini (hin q)) hc hn hfit kk
  · intro pc env st h idx n d v hd hf hv kk
    exact ga_gets S hd hf hv kk
  · intro pc env st h a k n i f v o hd ho hc hi hv kk
    rcases ho with ⟨rfl, rfl⟩ | ⟨rfl, rfl⟩ | ⟨rfl, rfl⟩ | ⟨rfl, rfl⟩ | ⟨rfl, hk⟩
    · rcases f with f | f | f
      · obtain ⟨-, -, rfl⟩ := hv; exact ga_iald S hd hc hi kk
      · exact absurd hv.1 (by decide)
      · exact absurd hv.1 (by decide)
    · rcases f with f | f | f
      · exact absurd rfl hv.1
      · obtain ⟨-, rfl⟩ := hv; exact ga_lald S hd hc hi kk
      · exact absurd hv.1 (by decide)
    · rcases f with f | f | f
      · obtain ⟨-, -, rfl⟩ := hv; exact ga_bald S hd hc hi kk
      · exact absurd hv.1 (by decide)
      · exact absurd hv.1 (by decide)
    · rcases f with f | f | f
      · obtain ⟨-, -, rfl⟩ := hv; exact ga_zald S hd hc hi kk
      · exact absurd hv.1 (by decide)
      · exact absurd hv.1 (by decide)
    · rcases f with f | f | f
      · exact absurd hv.2.1 (by omega)
      · exact absurd hv.1 (by omega)
      · obtain ⟨-, rfl⟩ := hv; exact ga_aald S hk hd hc hi kk
  · intro pc env st h a k n f hd hc kk
    exact ga_alen S hd hc kk
  · intro pc env st h a n f i x hb hd hc hi kk
    exact ga_iast S hb hd hc hi kk
  · intro pc env st h a n f i x hb hd hc hi kk
    exact ga_last S hb hd hc hi kk
  · intro pc env st h a n f i x hb hd hc hi kk
    exact ga_bast S hb hd hc hi kk
  · intro pc env st h a n f i x hb hx hd hc hi kk
    exact ga_zast S hb hx hd hc hi kk
  · intro pc env st h a k n f i x hb hk hd hc hi hx kk
    cases x with
    | none => exact ga_aastN S hb hk hd hc hi kk
    | some y =>
      obtain ⟨ci, fs, r, h1, h2, h3⟩ := hx y rfl
      exact ga_aast S hb hk hd hc hi h1 h2 h3 kk
  · intro pc env st h idx ci N ty0 fs hd hf hl hN hfs ho kk
    exact ga_newo S hd hf hl hN hfs (hok _ ho).1 (hok _ ho).2 kk
  · intro pc env st h k i hk hq hd hi hz ho kk
    exact ga_newa S hk hq hd hi hz (hok _ ho).1 (hok _ ho).2 kk
  · intro pc env st h k idx i hk hk2 hq hao hd hi hz ho kk
    exact ga_newq S hk hk2 hq hao hd hi hz (hok _ ho).1 (hok _ ho).2 kk
  · intro pc env st h a idx ci fs r E hd hq hc hr hA kk
    exact ga_cast S hd hq hc hr hA kk
  · intro pc env st h a idx ci fs r E b hd hq hc hr hA kk
    rcases hA with ⟨rfl, hA⟩ | ⟨rfl, hA⟩
    · exact ga_instY S hd hq hc hr hA kk
    · exact ga_instN S hd hq hc hr hA kk
  · intro pc env st h idx v hd hq kk
    exact ga_ldc2 S hd hq kk
  · intro pc env st h idx n v o hd ho hq kk
    rcases ho with ⟨rfl, rfl⟩ | ⟨rfl, rfl⟩
    · exact ga_ldc S hd hq kk
    · exact ga_ldcw S hd hq kk
  · intro pc env st h h' a idx n ci y fs vs r hd hf hL hc hn hr hw ho kk
    intro H locs cells slots ls hE hW hLc hC hS
    obtain ⟨q', hq', -⟩ := ga_obj hW hc
    rw [← ga_nmOf_eq hq'] at hf
    exact ga_callV S hd hq' hf hc hn hL hR (hcr _ _ _ _ _ hr) hw (hok _ ho) kk H locs cells slots ls hE hW hLc hC hS
  · intro pc env st h h' a idx n ci y fs vs r hd hf hL hc hn hr hw ho kk
    intro H locs cells slots ls hE hW hLc hC hS
    obtain ⟨q', hq', -⟩ := ga_obj hW hc
    rw [← ga_nmOf_eq hq'] at hf
    exact ga_callI S hd hq' hf hc hn hL hR (hcr _ _ _ _ _ hr) hw (hok _ ho) kk H locs cells slots ls hE hW hLc hC hS
  · intro pc env st h h' idx n y vs r hd hf hL hn hr hw ho kk
    exact ga_callS S hd hf hn hL hR (hcr _ _ _ _ _ hr) hw (hok _ ho) kk
  · intro pc env st h a idx hd hq hw kk
    exact ga_objI S hd hq q1 q2 hR0 hw kk
end HM
