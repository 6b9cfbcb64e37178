/-! LAYER 1e: more instructions over the heap -/
/-- the class of a cell's number: assignable to a named one -/
def ga_As (C E : String) : Prop := C = E ∨ Jvm.Cond.castable C E ∈ ga_nw
def ga_kn : Nat → String
  | 4 => "LoanNames$Part"
  | 5 => "LoanNames$Leaf"
  | 6 => "LoanNames$Deal"
  | 7 => "LoanNames$Law"
  | 8 => "LoanNames$Rule"
  | _ => "LoanNames$Bundle"
theorem ga_kn_ty {k : Nat} (hk : 4 ≤ k) : ga_ty k = .object (ga_kn k) := by
  rcases k with _ | _ | _ | _ | _ | _ | _ | _ | _ | k
  · omega
  · omega
  · omega
  · omega
  all_goals rfl
section HQ
variable {p : Program} {l : Launch} {e : Jvm.Env} {R : Room} {s : State} {m : MethodId} {args : Array Value} {below : List Frame} {meth : Method} {c : Code} {Q : State → Prop} {Ω : ga_Om} {n0 s0 nL : Nat} {cc : ByteArray} {own : String}
variable {pc : Nat} {env : ga_Env} {st : List ga_V} {h : ga_H} {a : Nat}
theorem ga_bast (S : CallFix p m c cc nL s args lw_all own) {n : Nat} {f : Nat → Int32} {i x : Int32} (hb : Ω.2.2.1 ≤ a) (hd : decode cc pc = .ok (.bastore, 1)) (hc : h.1 a = some (.inl (2, n, .inl f))) (hi : vp_in i n)
    (kk : ga_G p l e R s m args below meth c Q Ω n0 s0 nL (pc + 1) env st (ga_set h a (.inl (2, n, .inl (va_up f i.toNatClampNeg x.toInt8.toInt32))))) : ga_G p l e R s m args below meth c Q Ω n0 s0 nL pc env (.inl x :: .inl i :: .inr (.inr (some a)) :: st) h := by
  intro H locs cells slots ls hE hW hL hC hS
  obtain ⟨hk, h1, h2⟩ := ga_own hW hb hc
  refine W.bast S.1 S.2.1 h1 h2 (fun q => by cases q) (ga_out (by rw [arrV_size]; exact Nat.le_refl _) hi) rfl rfl hd fun H1 e1 z o => ?_
  refine kk H1 _ cells slots ls hE (ga_stored hW hk hb e1 z o fun j => ?_) (ga_locs hL hb) hC hS
  by_cases hj : j = i.toNatClampNeg
  · simp only [updV, ga_el, va_up, hj, if_true]
    rfl
  · simp [updV, ga_el, va_up, hj]
theorem ga_zast (S : CallFix p m c cc nL s args lw_all own) {n : Nat} {f : Nat → Int32} {i x : Int32} (hb : Ω.2.2.1 ≤ a) (hx : x = 0 ∨ x = 1) (hd : decode cc pc = .ok (.bastore, 1)) (hc : h.1 a = some (.inl (3, n, .inl f))) (hi : vp_in i n)
    (kk : ga_G p l e R s m args below meth c Q Ω n0 s0 nL (pc + 1) env st (ga_set h a (.inl (3, n, .inl (va_up f i.toNatClampNeg x))))) : ga_G p l e R s m args below meth c Q Ω n0 s0 nL pc env (.inl x :: .inl i :: .inr (.inr (some a)) :: st) h := by
  intro H locs cells slots ls hE hW hL hC hS
  obtain ⟨hk, h1, h2⟩ := ga_own hW hb hc
  refine W.zast S.1 S.2.1 h1 h2 (fun q => by cases q) (ga_out (by rw [arrV_size]; exact Nat.le_refl _) hi) rfl rfl hd fun H1 e1 z o => ?_
  have hn : narrow .boolean (.int x) = .int x := by rcases hx with rfl | rfl <;> rfl
  rw [hn] at e1
  refine kk H1 _ cells slots ls hE (ga_stored hW hk hb e1 z o fun j => ?_) (ga_locs hL hb) hC hS
  by_cases hj : j = i.toNatClampNeg <;> simp [updV, ga_el, va_up, hj]
/-- an object, as a receiver -/
theorem ga_obj {H : Heap} {ci : Nat} {fs : List ga_V} (hW : ga_Wd Ω s h H) (hc : h.1 a = some (.inr (ci, fs))) : ∃ r : vw_C, ga_cl[ci]? = some r ∧ ∃ cell : Cell, H[a]? = some cell ∧ cell.vm = .none ∧ s.vm.findClass r.1 = some cell.cls ∧ ∃ kC : Class, s.vm.classes[cell.cls]? = some kC := by
  obtain ⟨hb, r, g1, g2, cell, q1, q2, q3, q4⟩ := hW.2.2.1 a _ hc
  obtain ⟨hSl, hfc, kC, hkC, hkind⟩ := hW.2.2.2.2.1.1 ci _ g1
  exact ⟨r, g1, cell, q1, q3, by rw [q2]; exact hfc, kC, by rw [q2]; exact hkC⟩
theorem ga_asg {C E : String} (hN : ga_Nt s) (hA : ga_As C E) {cC cE : ClassId} (h1 : s.vm.findClass C = some cC) (h2 : s.vm.findClass E = some cE) : s.vm.assignable cC cE = true := by
  rcases hA with rfl | hA
  · exact vb_asgS cE cC h2 h1
  · exact vb_asgC (hN.1 _ hA) cE cC h2 h1
theorem ga_aast (S : CallFix p m c cc nL s args lw_all own) {k n v ci : Nat} {fs : List ga_V} {r : vw_C} {f : Nat → Option Nat} {i : Int32} (hb : Ω.2.2.1 ≤ a) (hk4 : 4 ≤ k) (hd : decode cc pc = .ok (.aastore, 1)) (hc : h.1 a = some (.inl (k, n, .inr (.inr f)))) (hi : vp_in i n) (hv : h.1 v = some (.inr (ci, fs))) (hr : ga_cl[ci]? = some r) (hA : ga_As r.1 (ga_kn k))
    (kk : ga_G p l e R s m args below meth c Q Ω n0 s0 nL (pc + 1) env st (ga_set h a (.inl (k, n, .inr (.inr (va_up f i.toNatClampNeg (some v))))))) : ga_G p l e R s m args below meth c Q Ω n0 s0 nL pc env (.inr (.inr (some v)) :: .inl i :: .inr (.inr (some a)) :: st) h := by
  intro H locs cells slots ls hE hW hL hC hS
  obtain ⟨hk, h1, h2⟩ := ga_own hW hb hc
  obtain ⟨r', hr', cell, q1, q2, q3, kC, q4⟩ := ga_obj hW hv
  have er : r' = r := Option.some.inj (hr'.symm.trans hr)
  subst er
  have hRA := (hW.2.2.2.2.1.2 k _ (ga_ty_at Ω hk)).2
  rw [show ((Ω.2.1 k, ga_ty k) : ClassId × FieldType).2 = .object (ga_kn k) from ga_kn_ty hk4] at hRA
  obtain ⟨kA, comp, k1, k2, k3, k4⟩ := hRA
  obtain ⟨kE, hkE, -⟩ := Vm.findClass_spec k3
  refine W.aast S.1 S.2.1 h1 (fun q h => by cases h) (fun h => by cases h) k1 k2 rfl hkE ⟨fun q => hi (Or.inl q), by rw [arrV_size]; exact ga_inlt hi⟩ q1 (fun q h => by rw [q2] at h; cases h) q4 (ga_asg hW.2.2.2.2.2 hA q3 k3) rfl rfl hd fun H1 e1 z o => ?_
  refine kk H1 _ cells slots ls hE (ga_stored hW hk hb e1 z o fun j => ?_) (ga_locs hL hb) hC hS
  by_cases hj : j = i.toNatClampNeg <;> simp [updV, ga_el, va_up, hj, va_rf]
theorem ga_aastN (S : CallFix p m c cc nL s args lw_all own) {k n : Nat} {f : Nat → Option Nat} {i : Int32} (hb : Ω.2.2.1 ≤ a) (hk4 : 4 ≤ k) (hd : decode cc pc = .ok (.aastore, 1)) (hc : h.1 a = some (.inl (k, n, .inr (.inr f)))) (hi : vp_in i n)
    (kk : ga_G p l e R s m args below meth c Q Ω n0 s0 nL (pc + 1) env st (ga_set h a (.inl (k, n, .inr (.inr (va_up f i.toNatClampNeg none)))))) : ga_G p l e R s m args below meth c Q Ω n0 s0 nL pc env (.inr (.inr none) :: .inl i :: .inr (.inr (some a)) :: st) h := by
  intro H locs cells slots ls hE hW hL hC hS
  obtain ⟨hk, h1, h2⟩ := ga_own hW hb hc
  rw [ga_kn_ty hk4] at h2
  have hlt : a < H.size := (Array.getElem?_eq_some_iff.mp h1).1
  intro T hT X
  have hT' : T.heap[a]? = some (arrV (Ω.2.1 k) n (ga_el (.inr (.inr f)))) := by rw [hT]; exact h1
  obtain ⟨X', stp⟩ := va_aastN0 X S.1 hT' h2 (fun q => by cases q) (ga_out (by rw [arrV_size]; exact Nat.le_refl _) hi) (g := F0 m pc ls (List.map ga_v (.inr (.inr none) :: .inl i :: .inr (.inr (some a)) :: st))) rfl rfl (by rw [S.2.1]; exact hd)
  have hlt' : a < T.heap.size := by rw [hT]; exact hlt
  have e1 := heapAt_setCell_self ((arrV (Ω.2.1 k) n (ga_el (.inr (.inr f)))).setSlot i.toNatClampNeg .null) hlt'
  obtain ⟨t, a1, b1⟩ := kk (T.setCell a ((arrV (Ω.2.1 k) n (ga_el (.inr (.inr f)))).setSlot i.toNatClampNeg .null)).heap _ cells slots ls hE (ga_stored (f' := .inr (.inr (va_up f i.toNatClampNeg none))) hW hk hb e1 (by rw [size_setCell, hT]) (fun q hq => by rw [heapAt_setCell_ne _ (Ne.symm hq), hT]) fun j => by by_cases hj : j = i.toNatClampNeg <;> simp [updV, ga_el, va_up, hj, va_rf]) (ga_locs hL hb) hC hS _ rfl X'
  exact ⟨t, stp t a1, b1⟩
/-- a class's defaults -/
def ga_df (ty : FieldType) : ga_V := match ty with
  | .long => .inr (.inl 0)
  | .object _ => .inr (.inr none)
  | .array _ => .inr (.inr none)
  | _ => .inl 0
def ga_NW (own : String) (idx ci : Nat) (ty0 : Nat → FieldType) : Prop := ∃ (C : String) (T : u_T) (N : Nat), ga_cl[ci]? = some (C, T, N) ∧ (∀ w ∈ u_ws C T N, w ∈ lw_all) ∧ (∀ k, k < N → parseFieldDescriptor (T k).2.2.1 = some (ty0 k)) ∧ Jvm.Cond.classLink own idx C ∈ lw_all ∧ Jvm.Cond.instantiable C N ∈ lw_all ∧ Jvm.Cond.initialized C ∈ lw_all
theorem ga_newo (S : CallFix p m c cc nL s args lw_all own) {idx ci N : Nat} {ty0 : Nat → FieldType} {fs : List ga_V} (hd : decode cc pc = .ok (.new idx, 3)) (hf : ga_NW own idx ci ty0) (hl : fs.length = N) (hN : (ga_cl[ci]?).map (fun r => r.2.2) = some N) (hfs : ∀ j, j < N → defaultValue (ty0 j) = vp_V (fs.map ga_v) j) (hc : h.2.1 + 1 ≤ n0 + R.cells) (hs : h.2.2 + N ≤ s0 + R.slots)
    (kk : ga_G p l e R s m args below meth c Q Ω n0 s0 nL (pc + 3) env (.inr (.inr (some h.2.1)) :: st) (ga_new h (.inr (ci, fs)) N)) : ga_G p l e R s m args below meth c Q Ω n0 s0 nL pc env st h := by
  intro H locs cells slots ls hE hW hL hC hS
  obtain ⟨C, T, N', h1, h3, hty, h4, h5, h6⟩ := hf
  rw [h1] at hN
  have hN : N' = N := Option.some.inj hN
  subst hN
  have hKn := hW.2.2.2.2.1.1 ci _ h1
  refine W.newcK S.1 S.2.1 S.2.2.2.1 (S.2.2.2.2 _ h4) (S.2.2.2.2 _ h5) (S.2.2.2.2 _ h6) rfl hd (by omega) (by omega) hKn.2.1 rfl fun H1 kC hkC e1 z1 o1 => ?_
  have hh : h.2.1 = H.size := hW.1
  rw [hh] at kk
  refine kk H1 locs (cells + 1) (slots + N') ls hE (hW.new z1 o1 ⟨by have := hW.2.1; omega, _, h1, hl, ?_⟩) hL (by show cells + 1 + n0 = h.2.1 + 1; omega) (by show slots + N' + s0 = h.2.2 + N'; omega)
  exact (u_born ty0 S.2.2.2.2 h3 hKn hkC e1 hty).to hfs
def ga_at : Nat → ArrayType
  | 0 => .int
  | 1 => .long
  | 2 => .byte
  | _ => .boolean
def ga_zero : Nat → ga_Ct
  | 0 => .inl fun _ => 0
  | 1 => .inr (.inl fun _ => 0)
  | 2 => .inl fun _ => 0
  | 3 => .inl fun _ => 0
  | _ => .inr (.inr fun _ => none)
theorem ga_newa (S : CallFix p m c cc nL s args lw_all own) {k : Nat} {i : Int32} (hk : k < 4) (hq : Jvm.Cond.arrayClass (ga_ty k) ∈ lw_all) (hd : decode cc pc = .ok (.newarray (ga_at k), 2)) (hi : ¬ i < 0) (hz : i.toNatClampNeg ≤ 65536) (hc : h.2.1 + 1 ≤ n0 + R.cells) (hs : h.2.2 + i.toNatClampNeg ≤ s0 + R.slots)
    (kk : ga_G p l e R s m args below meth c Q Ω n0 s0 nL (pc + 2) env (.inr (.inr (some h.2.1)) :: st) (ga_new h (.inl (k, i.toNatClampNeg, ga_zero k)) i.toNatClampNeg)) : ga_G p l e R s m args below meth c Q Ω n0 s0 nL pc env (.inl i :: st) h := by
  intro H locs cells slots ls hE hW hL hC hS
  have hh : h.2.1 = H.size := hW.1
  rw [hh] at kk
  have hty : newarray.typeOf (ga_at k) = ga_ty k := by rcases k with _ | _ | _ | _ | k <;> first | rfl | omega
  have hby : componentBytes (newarray.typeOf (ga_at k)) ≤ 8 := by rcases k with _ | _ | _ | _ | k <;> first | decide | omega
  refine va_newaK (g := F0 m pc ls (List.map ga_v (.inl i :: st))) S.1 S.2.1 (by rw [hty]; exact S.2.2.2.2 _ hq) rfl hd rfl hi rfl (Nat.le_trans (Nat.mul_le_mul hz hby) (by decide)) (by omega) (by omega) rfl fun H1 cA e1 z1 o1 hA hF => ?_
  have hRA := (hW.2.2.2.2.1.2 k _ (ga_ty_at Ω (by omega))).2
  have hcA : Ω.2.1 k = cA := by
    rw [hty] at hF
    have hRA : s.vm.findClass ("[" ++ (ga_ty k).toString) = some (Ω.2.1 k) := by rcases k with _ | _ | _ | _ | k <;> first | exact hRA | omega
    exact Option.some.inj (hRA.symm.trans hF)
  subst hcA
  refine kk H1 locs (cells + 1) (slots + i.toNatClampNeg) ls hE (hW.new z1 o1 ⟨by omega, Or.inl ⟨by have := hW.2.1; omega, ?_⟩⟩) hL (by show cells + 1 + n0 = h.2.1 + 1; omega) (by show slots + i.toNatClampNeg + s0 = h.2.2 + i.toNatClampNeg; omega)
  rw [e1, ga_cellV]
  rcases k with _ | _ | _ | _ | k <;> first | rfl | omega
theorem ga_newq (S : CallFix p m c cc nL s args lw_all own) {k idx : Nat} {i : Int32} (hk : 4 ≤ k) (hk10 : k < 10) (hq : Jvm.Cond.classLink own idx (ga_kn k) ∈ lw_all) (hao : ga_kn k ∈ ga_ao) (hd : decode cc pc = .ok (.anewarray idx, 3)) (hi : ¬ i < 0) (hz : i.toNatClampNeg ≤ 65536) (hc : h.2.1 + 1 ≤ n0 + R.cells) (hs : h.2.2 + i.toNatClampNeg ≤ s0 + R.slots)
    (kk : ga_G p l e R s m args below meth c Q Ω n0 s0 nL (pc + 3) env (.inr (.inr (some h.2.1)) :: st) (ga_new h (.inl (k, i.toNatClampNeg, .inr (.inr fun _ => none))) i.toNatClampNeg)) : ga_G p l e R s m args below meth c Q Ω n0 s0 nL pc env (.inl i :: st) h := by
  intro H locs cells slots ls hE hW hL hC hS
  have hh : h.2.1 = H.size := hW.1
  rw [hh] at kk
  refine W.anew (g := F0 m pc ls (List.map ga_v (.inl i :: st))) S.1 S.2.1 S.2.2.2.1 (S.2.2.2.2 _ hq) (va_AO.use (hW.2.2.2.2.2.2.1 _ hao)) rfl hd rfl hi (by omega) (by omega) (by omega) fun cA kA comp f1 f2 f3 f4 => ?_
  have hRA := (hW.2.2.2.2.1.2 k _ (ga_ty_at Ω hk10)).2
  rw [show ((Ω.2.1 k, ga_ty k) : ClassId × FieldType).2 = .object (ga_kn k) from ga_kn_ty hk] at hRA
  obtain ⟨kA', comp', k1, k2, k3, k4⟩ := hRA
  have hcA : Ω.2.1 k = cA := Option.some.inj (k4.symm.trans f1)
  subst hcA
  generalize hH1 : H.push ({ cls := Ω.2.1 k, slots := Array.replicate i.toNatClampNeg .null, vm := .none } : Cell) = H1
  have z1 : H1.size = H.size + 1 := by rw [← hH1, Array.size_push]
  have e1 : H1[H.size]? = some (arrV (Ω.2.1 k) i.toNatClampNeg (fun _ => .null)) := by rw [← hH1, Array.getElem?_push_size, ← arrV_new]
  have o1 : ∀ q : Nat, q < H.size → H1[q]? = H[q]? := fun q hq => by rw [← hH1, Array.getElem?_push, if_neg (Nat.ne_of_lt hq)]
  refine kk H1 locs (cells + 1) (slots + i.toNatClampNeg) ls hE (hW.new z1 o1 ⟨hk10, Or.inl ⟨by have := hW.2.1; omega, ?_⟩⟩) hL (by show cells + 1 + n0 = h.2.1 + 1; omega) (by show slots + i.toNatClampNeg + s0 = h.2.2 + i.toNatClampNeg; omega)
  rw [e1, ga_cellV]
  rfl
theorem ga_cast (S : CallFix p m c cc nL s args lw_all own) {idx ci : Nat} {fs : List ga_V} {r : vw_C} {E : String} (hd : decode cc pc = .ok (.checkcast idx, 3)) (hq : Jvm.Cond.classLink own idx E ∈ lw_all) (hc : h.1 a = some (.inr (ci, fs))) (hr : ga_cl[ci]? = some r) (hA : ga_As r.1 E)
    (kk : ga_G p l e R s m args below meth c Q Ω n0 s0 nL (pc + 3) env (.inr (.inr (some a)) :: st) h) : ga_G p l e R s m args below meth c Q Ω n0 s0 nL pc env (.inr (.inr (some a)) :: st) h := by
  intro H locs cells slots ls hE hW hL hC hS
  obtain ⟨r', hr', cell, q1, q2, q3, kC, q4⟩ := ga_obj hW hc
  have er : r' = r := Option.some.inj (hr'.symm.trans hr)
  subst er
  have K := kk H locs cells slots ls hE hW hL hC hS
  rcases hA with rfl | hA
  · exact va_castS S.1 S.2.1 S.2.2.2.1 (S.2.2.2.2 _ hq) (hW.2.2.2.2.1.1 ci _ hr').2 ⟨cell, q1, by rw [q2]; rfl, q3⟩ hd K
  · exact va_castY S.1 S.2.1 S.2.2.2.1 (S.2.2.2.2 _ hq) (hW.2.2.2.2.2.1 _ hA) ⟨cell, q1, by rw [q2]; rfl, q3⟩ hd K
theorem ga_instY (S : CallFix p m c cc nL s args lw_all own) {idx ci : Nat} {fs : List ga_V} {r : vw_C} {E : String} (hd : decode cc pc = .ok (.instanceof idx, 3)) (hq : Jvm.Cond.classLink own idx E ∈ lw_all) (hc : h.1 a = some (.inr (ci, fs))) (hr : ga_cl[ci]? = some r) (hA : ga_As r.1 E)
    (kk : ga_G p l e R s m args below meth c Q Ω n0 s0 nL (pc + 3) env (.inl 1 :: st) h) : ga_G p l e R s m args below meth c Q Ω n0 s0 nL pc env (.inr (.inr (some a)) :: st) h := by
  intro H locs cells slots ls hE hW hL hC hS
  obtain ⟨r', hr', cell, q1, q2, q3, kC, q4⟩ := ga_obj hW hc
  have er : r' = r := Option.some.inj (hr'.symm.trans hr)
  subst er
  have K := kk H locs cells slots ls hE hW hL hC hS
  rcases hA with rfl | hA
  · exact va_instS S.1 S.2.1 S.2.2.2.1 (S.2.2.2.2 _ hq) (hW.2.2.2.2.1.1 ci _ hr').2 ⟨cell, q1, by rw [q2]; rfl, q3⟩ hd K
  · exact va_instY S.1 S.2.1 S.2.2.2.1 (S.2.2.2.2 _ hq) (hW.2.2.2.2.2.1 _ hA) ⟨cell, q1, by rw [q2]; rfl, q3⟩ hd K
theorem ga_instN (S : CallFix p m c cc nL s args lw_all own) {idx ci : Nat} {fs : List ga_V} {r : vw_C} {E : String} (hd : decode cc pc = .ok (.instanceof idx, 3)) (hq : Jvm.Cond.classLink own idx E ∈ lw_all) (hc : h.1 a = some (.inr (ci, fs))) (hr : ga_cl[ci]? = some r) (hA : (r.1, E) ∈ ga_nc)
    (kk : ga_G p l e R s m args below meth c Q Ω n0 s0 nL (pc + 3) env (.inl 0 :: st) h) : ga_G p l e R s m args below meth c Q Ω n0 s0 nL pc env (.inr (.inr (some a)) :: st) h := by
  intro H locs cells slots ls hE hW hL hC hS
  obtain ⟨r', hr', cell, q1, q2, q3, kC, q4⟩ := ga_obj hW hc
  have er : r' = r := Option.some.inj (hr'.symm.trans hr)
  subst er
  exact va_instNo S.1 S.2.1 S.2.2.2.1 (S.2.2.2.2 _ hq) (hW.2.2.2.2.2.2.2.1 _ hA) ⟨cell, q1, by rw [q2]; rfl, q3⟩ hd (kk H locs cells slots ls hE hW hL hC hS)
theorem ga_ldc2 (S : CallFix p m c cc nL s args lw_all own) {idx : Nat} {v : Int64} (hd : decode cc pc = .ok (.ldc2_w idx, 3)) (hq : Jvm.Cond.constantLong own idx v ∈ lw_all)
    (kk : ga_G p l e R s m args below meth c Q Ω n0 s0 nL (pc + 3) env (.inr (.inl v) :: st) h) : ga_G p l e R s m args below meth c Q Ω n0 s0 nL pc env st h := by
  intro H locs cells slots ls hE hW hL hC hS
  exact lv_ldc2 S.1 S.2.1 S.2.2.2.1 (S.2.2.2.2 _ hq) hd (kk H locs cells slots ls hE hW hL hC hS)
theorem ga_ldcw (S : CallFix p m c cc nL s args lw_all own) {idx : Nat} {v : Int32} (hd : decode cc pc = .ok (.ldc_w idx, 3)) (hq : Jvm.Cond.constant own idx v ∈ lw_all)
    (kk : ga_G p l e R s m args below meth c Q Ω n0 s0 nL (pc + 3) env (.inl v :: st) h) : ga_G p l e R s m args below meth c Q Ω n0 s0 nL pc env st h := by
  intro H locs cells slots ls hE hW hL hC hS
  exact lv_ldcw S.1 S.2.1 S.2.2.2.1 (S.2.2.2.2 _ hq) hd (kk H locs cells slots ls hE hW hL hC hS)
theorem ga_ldc (S : CallFix p m c cc nL s args lw_all own) {idx : Nat} {v : Int32} (hd : decode cc pc = .ok (.ldc idx, 2)) (hq : Jvm.Cond.constant own idx v ∈ lw_all)
    (kk : ga_G p l e R s m args below meth c Q Ω n0 s0 nL (pc + 2) env (.inl v :: st) h) : ga_G p l e R s m args below meth c Q Ω n0 s0 nL pc env st h := by
  intro H locs cells slots ls hE hW hL hC hS
  exact lv_ldc S.1 S.2.1 S.2.2.2.1 (S.2.2.2.2 _ hq) hd (kk H locs cells slots ls hE hW hL hC hS)
end HQ
