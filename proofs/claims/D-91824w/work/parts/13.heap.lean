/-! LAYER 1d: instructions over the heap: fields, arrays, new, casts -/
def ga_FL (own : String) (idx ci k : Nat) : Prop := ∃ (C : String) (T : u_T) (N : Nat) (ref : String), ga_cl[ci]? = some (C, T, N) ∧ k < N ∧ (∀ w ∈ u_ws C T N, w ∈ lw_all) ∧ (Jvm.Cond.fieldLink own idx ref (T k).2.1 (T k).2.2.1 ∈ lw_all ∨ ∃ host, Jvm.Cond.fieldLinkNest own idx ref (T k).2.1 (T k).2.2.1 host ∈ ga_nw) ∧ ((T k).1 = ref ∨ Jvm.Cond.sameField ref (T k).1 (T k).2.1 (T k).2.2.1 ∈ lw_all)
def ga_FW (own : String) (idx ci k : Nat) (ty : FieldType) (fin : Bool) : Prop := ∃ (C : String) (T : u_T) (N : Nat) (ref : String) (ty0 : Nat → FieldType), ga_cl[ci]? = some (C, T, N) ∧ k < N ∧ (∀ w ∈ u_ws C T N, w ∈ lw_all) ∧ (∀ j, j < N → parseFieldDescriptor (T j).2.2.1 = some (ty0 j)) ∧ (∀ a, a < N → ∀ b, b < N → a ≠ b → (T a).2.1 ≠ (T b).2.1) ∧ Jvm.Cond.fieldLink own idx ref (T k).2.1 (T k).2.2.1 ∈ lw_all ∧ ((T k).1 = ref ∨ Jvm.Cond.sameField ref (T k).1 (T k).2.1 (T k).2.2.1 ∈ lw_all) ∧ (T k).2.2.2 = fin ∧ ty0 k = ty ∧ (fin = true → (T k).1 = own)
def ga_SL (own : String) (idx : Nat) (n d : String) : Prop := (∃ ref, Jvm.Cond.fieldLink own idx ref n d ∈ lw_all ∧ ref = "LoanNames") ∨ ∃ host, Jvm.Cond.fieldLinkNest own idx "LoanNames" n d host ∈ ga_nw
section HP
variable {p : Program} {l : Launch} {e : Jvm.Env} {R : Room} {s : State} {m : MethodId} {args : Array Value} {below : List Frame} {meth : Method} {c : Code} {Q : State → Prop} {Ω : ga_Om} {n0 s0 nL : Nat} {cc : ByteArray} {own : String}
variable {pc : Nat} {env : ga_Env} {st : List ga_V} {h : ga_H} {a : Nat}
theorem ga_same (S : CallFix p m c cc nL s args lw_all own) {o ref n d : String} (h : o = ref ∨ Jvm.Cond.sameField ref o n d ∈ lw_all) (x : ClassId × Class × Nat × Field) (ho : s.fieldFound? o n d = some x) : s.fieldFound? ref n d = some x := by
  rcases h with rfl | h
  · exact ho
  · exact u_same (S.2.2.2.2 _ h) x ho
theorem ga_getf (S : CallFix p m c cc nL s args lw_all own) {idx ci k : Nat} {fs : List ga_V} {v : ga_V} (hd : decode cc pc = .ok (.getfield idx, 3)) (hf : ga_FL own idx ci k) (hc : h.1 a = some (.inr (ci, fs))) (hv : fs[k]? = some v)
    (kk : ga_G p l e R s m args below meth c Q Ω n0 s0 nL (pc + 3) env (v :: st) h) : ga_G p l e R s m args below meth c Q Ω n0 s0 nL pc env (.inr (.inr (some a)) :: st) h := by
  intro H locs cells slots ls hE hW hL hC hS
  obtain ⟨C, T, N, ref, h1, h2, h3, h4, h5⟩ := hf
  obtain ⟨hb, r, g1, g2, cell, q1, q2, q3, q4⟩ := hW.2.2.1 a _ hc
  have hr : r = (C, T, N) := Option.some.inj (g1.symm.trans h1)
  subst hr
  obtain ⟨hSl, hfc, kC, hkC, hkind⟩ := hW.2.2.2.2.1.1 ci _ h1
  obtain ⟨cf, kf, fi, f, hi, hsl⟩ := hSl k h2
  have hst := (u_facts hfc hkC (u_lays S.2.2.2.2 h3 h2) hi).1
  have hslot : cell.slots[f.slot]? = some (ga_v v) := by
    rw [hsl, q4 k h2]
    simp [vp_V, hv]
  have K := kk H locs cells slots ls hE hW hL hC hS
  rcases h4 with h4 | ⟨host, h4⟩
  · exact W.getf S.1 S.2.1 S.2.2.2.1 (S.2.2.2.2 _ h4) (ga_same S h5 _ hi) hst q1 (by rw [q3]; exact fun h => by cases h) hslot rfl rfl hd K
  · exact va_Wgetf S.1 S.2.1 S.2.2.2.1 (va_Nw.use rfl (hW.2.2.2.2.2.1 _ h4)) (ga_same S h5 _ hi) hst q1 (by rw [q3]; exact fun h => by cases h) hslot rfl rfl hd K
theorem ga_locs {locs : List Loc} {b i : Nat} (hL : ∀ q ∈ locs, Ω.2.2.1 ≤ q.base) (hb : Ω.2.2.1 ≤ b) : ∀ q ∈ locs ++ [⟨b, i⟩], Ω.2.2.1 ≤ q.base := by
  intro q hq
  rcases List.mem_append.mp hq with h1 | h1
  · exact hL q h1
  · rw [List.mem_singleton.mp h1]; exact hb
theorem ga_putf (S : CallFix p m c cc nL s args lw_all own) {idx ci k : Nat} {fs : List ga_V} {v : ga_V} {ty : FieldType} {fin : Bool} (hd : decode cc pc = .ok (.putfield idx, 3)) (hf : ga_FW own idx ci k ty fin) (hin : fin = true → meth.name = "<init>") (hc : h.1 a = some (.inr (ci, fs))) (hn : narrow ty (ga_v v) = ga_v v) (hfit : fits ty (ga_v v) = true)
    (kk : ga_G p l e R s m args below meth c Q Ω n0 s0 nL (pc + 3) env st (ga_set h a (.inr (ci, fs.set k v)))) : ga_G p l e R s m args below meth c Q Ω n0 s0 nL pc env (v :: .inr (.inr (some a)) :: st) h := by
  intro H locs cells slots ls hE hW hL hC hS
  obtain ⟨C, T, N, ref, ty0, h1, h2, h3, hty, hnm, h4, h5, h6, h7, h8⟩ := hf
  obtain ⟨hb, r, g1, g2, cell, q1, q2, q3, q4⟩ := hW.2.2.1 a _ hc
  have hr : r = (C, T, N) := Option.some.inj (g1.symm.trans h1)
  subst hr
  have hap := va_apart (own := own) S.2.2.2.2 h3 ty0 hty hnm hW.2.2.2.2.1 h1
  obtain ⟨hSl, hfc, kC, hkC, hkind⟩ := hW.2.2.2.2.1.1 ci _ h1
  obtain ⟨cf, kf, fi, f, hi, hsl⟩ := hSl k h2
  have hst := (u_facts hfc hkC (u_lays S.2.2.2.2 h3 h2) hi).1
  have hdesc : parseFieldDescriptor (T k).2.2.1 = some ty := by rw [hty k h2, h7]
  have hlt : k < (fs.map ga_v).length := by rw [List.length_map, g2]; exact h2
  have fin' : ∀ H' : Heap, H'[a]? = some (cell.setSlot f.slot (ga_v v)) → H'.size = H.size → (∀ q, q ≠ a → H'[q]? = H[q]?) → W p l e R s m args below meth c H' (locs ++ [⟨a, f.slot⟩]) cells slots Q (F0 m (pc + 3) ls (List.map ga_v st)) := by
    intro H' e1 e2 e3
    refine kk H' _ cells slots ls hE (hW.set hb e2 e3 ⟨hb, _, h1, by rw [List.length_set]; exact g2, ?_⟩) (ga_locs hL hb) hC hS
    rw [hsl] at e1
    rw [List.map_set]
    exact t_OB.to (V := updV (vp_V (fs.map ga_v)) k (ga_v v)) ⟨_, e1, q2, q3, t_set q4 hap h2 (ga_v v)⟩ (fun j _ => vp_updV_set hlt (ga_v v) j)
  cases hfin : fin with
  | false =>
    have hlay := S.2.2.2.2 _ (h3 _ (u_in_lay h2))
    unfold u_lay at hlay
    rw [if_neg (by rw [h6, hfin]; decide)] at hlay
    have h9 := u_store hfc hkC hkind hlay hi hdesc hn hfit
    exact W.putK S.1 S.2.1 (f := f) ⟨S.2.2.2.1, S.2.2.2.2 _ h4, ⟨_, _, _, ga_same S h5 _ hi⟩, hst⟩ (by rw [q2]; exact h9) q1 q3 (by rw [hsl]; exact k2_hasslot (q4 k h2)) rfl rfl hd fin'
  | true =>
    have hlay := S.2.2.2.2 _ (h3 _ (u_in_lay h2))
    unfold u_lay at hlay
    rw [if_pos (by rw [h6, hfin])] at hlay
    have hcf : m.cls = cf := by
      obtain ⟨_, _, c', _, _, _, -, -, hf', -, -, -, hown2, -⟩ := Cond.laysFinal_spec hlay
      have e1 : c' = cf := by have := hi.symm.trans hf'; simp at this; exact this.1.symm
      rw [h8 hfin] at hown2
      rw [← e1]; exact Option.some.inj (S.2.2.2.1.symm.trans hown2)
    have h9 := u_fits hfc hkC hkind (Or.inr hlay) hi hdesc hn hfit
    exact W.putFinK S.1 S.2.1 S.2.2.2.1 (S.2.2.2.2 _ h4) (ga_same S h5 _ hi) hst hcf (hin hfin) (by rw [q2]; exact h9) q1 q3 (by rw [hsl]; exact k2_hasslot (q4 k h2)) rfl rfl hd fin'
theorem ga_gets (S : CallFix p m c cc nL s args lw_all own) {idx : Nat} {n d : String} {v : ga_V} (hd : decode cc pc = .ok (.getstatic idx, 3)) (hf : ga_SL own idx n d) (hv : (n, d, v) ∈ ga_sts Ω)
    (kk : ga_G p l e R s m args below meth c Q Ω n0 s0 nL (pc + 3) env (v :: st) h) : ga_G p l e R s m args below meth c Q Ω n0 s0 nL pc env st h := by
  intro H locs cells slots ls hE hW hL hC hS
  obtain ⟨cf, kf, fi, f, a, cell, h1, h2, h3, h4, h5, h6, h7, h8⟩ := hW.2.2.2.1 _ hv
  have K := kk H locs cells slots ls hE hW hL hC hS
  rcases hf with ⟨ref, hl, rfl⟩ | ⟨host, hl⟩
  · exact W.gets S.1 S.2.1 S.2.2.2.1 (S.2.2.2.2 _ hl) h1 h2 h3 h4 h5 (fun e => by rw [e] at h6; cases h6) h7 rfl hd K
  · exact va_WgetsN S.1 S.2.1 S.2.2.2.1 (va_Nw.use rfl (hW.2.2.2.2.2.1 _ hl)) h1 h2 h3 h4 h5 (fun e => by rw [e] at h6; cases h6) h7 rfl hd K
theorem ga_ty_at (Ω : ga_Om) {k : Nat} (hk : k < 10) : (ga_tys Ω)[k]? = some (Ω.2.1 k, ga_ty k) := by
  unfold ga_tys
  rw [List.getElem?_map, List.getElem?_range hk]
  rfl
/-- an array, for reading: its cell -/
theorem ga_arr {H : Heap} {k n : Nat} {f : ga_Ct} (hW : ga_Wd Ω s h H) (hc : h.1 a = some (.inl (k, n, f))) : ∃ cell : Cell, H[a]? = some cell ∧ s.isArrayOf cell (ga_ty k) ∧ cell.vm ≠ .unknown ∧ n ≤ cell.slots.size ∧ cell.slots.size.toInt32 = Int32.ofNat n ∧ ∀ j : Nat, j < n → cell.slots[j]? = some (ga_el f j) := by
  obtain ⟨hk, ⟨hb, h1⟩ | ⟨-, h1⟩⟩ := hW.2.2.1 a _ hc
  · rw [ga_cellV] at h1
    refine ⟨_, h1, (hW.2.2.2.2.1.2 k _ (ga_ty_at Ω hk)).1 n _, (fun q => by cases q), by rw [arrV_size]; exact Nat.le_refl _, by rw [arrV_size], fun j hj => arrV_read _ _ hj⟩
  · exact h1
theorem ga_out {cell : Cell} {n : Nat} {i : Int32} (h1 : n ≤ cell.slots.size) (hin : vp_in i n) : ¬ (i < 0 ∨ cell.slots.size ≤ i.toNatClampNeg) := by
  intro q
  rcases q with q | q
  · exact hin (Or.inl q)
  · exact hin (Or.inr (Nat.le_trans h1 q))
theorem ga_inlt {n : Nat} {i : Int32} (hin : vp_in i n) : i.toNatClampNeg < n := Nat.not_le.mp fun q => hin (Or.inr q)
theorem ga_iald (S : CallFix p m c cc nL s args lw_all own) {n : Nat} {f : Nat → Int32} {i : Int32} (hd : decode cc pc = .ok (.iaload, 1)) (hc : h.1 a = some (.inl (0, n, .inl f))) (hi : vp_in i n)
    (kk : ga_G p l e R s m args below meth c Q Ω n0 s0 nL (pc + 1) env (.inl (f i.toNatClampNeg) :: st) h) : ga_G p l e R s m args below meth c Q Ω n0 s0 nL pc env (.inl i :: .inr (.inr (some a)) :: st) h := by
  intro H locs cells slots ls hE hW hL hC hS
  obtain ⟨cell, h1, h2, h3, h4, h5, h6⟩ := ga_arr hW hc
  exact W.iald S.1 S.2.1 h1 h2 h3 (ga_out h4 hi) (h6 _ (ga_inlt hi)) rfl rfl hd (kk H locs cells slots ls hE hW hL hC hS)
theorem ga_bald (S : CallFix p m c cc nL s args lw_all own) {n : Nat} {f : Nat → Int32} {i : Int32} (hd : decode cc pc = .ok (.baload, 1)) (hc : h.1 a = some (.inl (2, n, .inl f))) (hi : vp_in i n)
    (kk : ga_G p l e R s m args below meth c Q Ω n0 s0 nL (pc + 1) env (.inl (f i.toNatClampNeg) :: st) h) : ga_G p l e R s m args below meth c Q Ω n0 s0 nL pc env (.inl i :: .inr (.inr (some a)) :: st) h := by
  intro H locs cells slots ls hE hW hL hC hS
  obtain ⟨cell, h1, h2, h3, h4, h5, h6⟩ := ga_arr hW hc
  exact W.bald S.1 S.2.1 h1 h2 h3 (ga_out h4 hi) (h6 _ (ga_inlt hi)) rfl rfl hd (kk H locs cells slots ls hE hW hL hC hS)
theorem ga_zald (S : CallFix p m c cc nL s args lw_all own) {n : Nat} {f : Nat → Int32} {i : Int32} (hd : decode cc pc = .ok (.baload, 1)) (hc : h.1 a = some (.inl (3, n, .inl f))) (hi : vp_in i n)
    (kk : ga_G p l e R s m args below meth c Q Ω n0 s0 nL (pc + 1) env (.inl (f i.toNatClampNeg) :: st) h) : ga_G p l e R s m args below meth c Q Ω n0 s0 nL pc env (.inl i :: .inr (.inr (some a)) :: st) h := by
  intro H locs cells slots ls hE hW hL hC hS
  obtain ⟨cell, h1, h2, h3, h4, h5, h6⟩ := ga_arr hW hc
  exact W.zald S.1 S.2.1 h1 h2 h3 (ga_out h4 hi) (h6 _ (ga_inlt hi)) rfl rfl hd (kk H locs cells slots ls hE hW hL hC hS)
theorem ga_lald (S : CallFix p m c cc nL s args lw_all own) {n : Nat} {f : Nat → Int64} {i : Int32} (hd : decode cc pc = .ok (.laload, 1)) (hc : h.1 a = some (.inl (1, n, .inr (.inl f)))) (hi : vp_in i n)
    (kk : ga_G p l e R s m args below meth c Q Ω n0 s0 nL (pc + 1) env (.inr (.inl (f i.toNatClampNeg)) :: st) h) : ga_G p l e R s m args below meth c Q Ω n0 s0 nL pc env (.inl i :: .inr (.inr (some a)) :: st) h := by
  intro H locs cells slots ls hE hW hL hC hS
  obtain ⟨cell, h1, h2, h3, h4, h5, h6⟩ := ga_arr hW hc
  exact W.lald S.1 S.2.1 h1 h2 h3 (ga_out h4 hi) (h6 _ (ga_inlt hi)) rfl rfl hd (kk H locs cells slots ls hE hW hL hC hS)
theorem ga_aald (S : CallFix p m c cc nL s args lw_all own) {k n : Nat} {f : Nat → Option Nat} {i : Int32} (hk : 4 ≤ k) (hd : decode cc pc = .ok (.aaload, 1)) (hc : h.1 a = some (.inl (k, n, .inr (.inr f)))) (hi : vp_in i n)
    (kk : ga_G p l e R s m args below meth c Q Ω n0 s0 nL (pc + 1) env (.inr (.inr (f i.toNatClampNeg)) :: st) h) : ga_G p l e R s m args below meth c Q Ω n0 s0 nL pc env (.inl i :: .inr (.inr (some a)) :: st) h := by
  intro H locs cells slots ls hE hW hL hC hS
  obtain ⟨cell, h1, h2, h3, h4, h5, h6⟩ := ga_arr hW hc
  refine W.aald S.1 S.2.1 h1 h2 ?_ h3 (ga_out h4 hi) (h6 _ (ga_inlt hi)) rfl rfl hd (kk H locs cells slots ls hE hW hL hC hS)
  rcases k with _ | _ | _ | _ | _ | _ | _ | _ | _ | k
  · omega
  · omega
  · omega
  · omega
  all_goals rfl
theorem ga_alen (S : CallFix p m c cc nL s args lw_all own) {k n : Nat} {f : ga_Ct} (hd : decode cc pc = .ok (.arraylength, 1)) (hc : h.1 a = some (.inl (k, n, f)))
    (kk : ga_G p l e R s m args below meth c Q Ω n0 s0 nL (pc + 1) env (.inl (Int32.ofNat n) :: st) h) : ga_G p l e R s m args below meth c Q Ω n0 s0 nL pc env (.inr (.inr (some a)) :: st) h := by
  intro H locs cells slots ls hE hW hL hC hS
  obtain ⟨cell, h1, h2, h3, h4, h5, h6⟩ := ga_arr hW hc
  exact W.alen S.1 S.2.1 h1 h2 h5 rfl rfl hd (kk H locs cells slots ls hE hW hL hC hS)
theorem ga_own {H : Heap} {k n : Nat} {f : ga_Ct} (hW : ga_Wd Ω s h H) (hb : Ω.2.2.1 ≤ a) (hc : h.1 a = some (.inl (k, n, f))) : k < 10 ∧ H[a]? = some (arrV (Ω.2.1 k) n (ga_el f)) ∧ s.isArrayOf (arrV (Ω.2.1 k) n (ga_el f)) (ga_ty k) := by
  obtain ⟨hk, ⟨-, h1⟩ | ⟨h0, h1⟩⟩ := hW.2.2.1 a _ hc
  · rw [ga_cellV] at h1
    exact ⟨hk, h1, (hW.2.2.2.2.1.2 k _ (ga_ty_at Ω hk)).1 n _⟩
  · omega
theorem ga_stored {H H1 : Heap} {k n j : Nat} {f f' : ga_Ct} {x : Value} (hW : ga_Wd Ω s h H) (hk : k < 10) (hb : Ω.2.2.1 ≤ a) (e1 : H1[a]? = some ((arrV (Ω.2.1 k) n (ga_el f)).setSlot j x)) (z : H1.size = H.size) (o : ∀ q : Nat, q ≠ a → H1[q]? = H[q]?) (hf : ∀ i, updV (ga_el f) j x i = ga_el f' i) : ga_Wd Ω s (ga_set h a (.inl (k, n, f'))) H1 := by
  refine hW.set hb z o ⟨hk, Or.inl ⟨hb, ?_⟩⟩
  rw [e1, arrV_store, ga_cellV]
  congr 2
  funext i
  exact hf i
theorem ga_iast (S : CallFix p m c cc nL s args lw_all own) {n : Nat} {f : Nat → Int32} {i x : Int32} (hb : Ω.2.2.1 ≤ a) (hd : decode cc pc = .ok (.iastore, 1)) (hc : h.1 a = some (.inl (0, n, .inl f))) (hi : vp_in i n)
    (kk : ga_G p l e R s m args below meth c Q Ω n0 s0 nL (pc + 1) env st (ga_set h a (.inl (0, n, .inl (va_up f i.toNatClampNeg x))))) : ga_G p l e R s m args below meth c Q Ω n0 s0 nL pc env (.inl x :: .inl i :: .inr (.inr (some a)) :: st) h := by
  intro H locs cells slots ls hE hW hL hC hS
  obtain ⟨hk, h1, h2⟩ := ga_own hW hb hc
  refine W.iast S.1 S.2.1 h1 h2 (fun q => by cases q) (ga_out (by rw [arrV_size]; exact Nat.le_refl _) hi) rfl rfl hd fun H1 e1 z o => ?_
  refine kk H1 _ cells slots ls hE (ga_stored hW hk hb e1 z o fun j => ?_) (ga_locs hL hb) hC hS
  by_cases hj : j = i.toNatClampNeg <;> simp [updV, ga_el, va_up, hj]
theorem ga_last (S : CallFix p m c cc nL s args lw_all own) {n : Nat} {f : Nat → Int64} {i : Int32} {x : Int64} (hb : Ω.2.2.1 ≤ a) (hd : decode cc pc = .ok (.lastore, 1)) (hc : h.1 a = some (.inl (1, n, .inr (.inl f)))) (hi : vp_in i n)
    (kk : ga_G p l e R s m args below meth c Q Ω n0 s0 nL (pc + 1) env st (ga_set h a (.inl (1, n, .inr (.inl (va_up f i.toNatClampNeg x)))))) : ga_G p l e R s m args below meth c Q Ω n0 s0 nL pc env (.inr (.inl x) :: .inl i :: .inr (.inr (some a)) :: st) h := by
  intro H locs cells slots ls hE hW hL hC hS
  obtain ⟨hk, h1, h2⟩ := ga_own hW hb hc
  refine W.last S.1 S.2.1 h1 h2 (fun q => by cases q) (ga_out (by rw [arrV_size]; exact Nat.le_refl _) hi) rfl rfl hd fun H1 e1 z o => ?_
  refine kk H1 _ cells slots ls hE (ga_stored hW hk hb e1 z o fun j => ?_) (ga_locs hL hb) hC hS
  by_cases hj : j = i.toNatClampNeg <;> simp [updV, ga_el, va_up, hj]
end HP
