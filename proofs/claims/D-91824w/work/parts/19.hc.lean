/-! LAYER 1j: programs over the heap, and that a code does them -/
def ga_oF (h : ga_H) (r : Option Nat) (cs : List Nat) (k : Nat) : Option ga_V := match r with
  | none => none
  | some a => match h.1 a with
    | some (.inr (c, fs)) => if cs.contains c then fs[k]? else none
    | _ => none
def ga_oO (h : ga_H) (r : Option Nat) (cs : List Nat) : Option (Nat × Nat × List ga_V) := match r with
  | none => none
  | some a => match h.1 a with
    | some (.inr (c, fs)) => if cs.contains c then some (a, c, fs) else none
    | _ => none
def ga_aR (h : ga_H) (r : Option Nat) (k : Nat) : Option (Nat × Nat × ga_Ct) := match r with
  | none => none
  | some a => match h.1 a with
    | some (.inl (k', n, f)) => if k' = k then some (a, n, f) else none
    | _ => none
theorem ga_oF_inv {h : ga_H} {r : Option Nat} {cs : List Nat} {k : Nat} {v : ga_V} (q : ga_oF h r cs k = some v) : ∃ a c fs, r = some a ∧ h.1 a = some (.inr (c, fs)) ∧ c ∈ cs ∧ fs[k]? = some v := by
  unfold ga_oF at q
  split at q
  · cases q
  · rename_i a
    split at q
    · rename_i c fs hc
      split at q
      · rename_i hm; exact ⟨a, c, fs, rfl, hc, by simpa using hm, q⟩
      · cases q
    · cases q
theorem ga_oO_inv {h : ga_H} {r : Option Nat} {cs : List Nat} {a c : Nat} {fs : List ga_V} (q : ga_oO h r cs = some (a, c, fs)) : r = some a ∧ h.1 a = some (.inr (c, fs)) ∧ c ∈ cs := by
  unfold ga_oO at q
  split at q
  · cases q
  · rename_i a'
    split at q
    · rename_i c' fs' hc
      split at q
      · rename_i hm; cases q; exact ⟨rfl, hc, by simpa using hm⟩
      · cases q
    · cases q
theorem ga_aR_inv {h : ga_H} {r : Option Nat} {k a n : Nat} {f : ga_Ct} (q : ga_aR h r k = some (a, n, f)) : r = some a ∧ h.1 a = some (.inl (k, n, f)) := by
  unfold ga_aR at q
  split at q
  · cases q
  · rename_i a'
    split at q
    · rename_i k' n' f' hc
      split at q
      · rename_i hm; subst hm; cases q; exact ⟨rfl, hc⟩
      · cases q
    · cases q
def ga_FLs (own : String) (idx k : Nat) : List Nat → Prop
  | [] => True
  | c :: r => ga_FL own idx c k ∧ ga_FLs own idx k r
theorem ga_FLs.at {own : String} {idx k c : Nat} {cs : List Nat} (h : ga_FLs own idx k cs) (hc : c ∈ cs) : ga_FL own idx c k := by
  induction cs with
  | nil => cases hc
  | cons x r ih =>
    rcases List.mem_cons.mp hc with rfl | hc
    · exact h.1
    · exact ih h.2 hc
def ga_FWs (own : String) (idx k : Nat) (ty : FieldType) (fin : Bool) : List Nat → Prop
  | [] => True
  | c :: r => ga_FW own idx c k ty fin ∧ ga_FWs own idx k ty fin r
theorem ga_FWs.at {own : String} {idx k c : Nat} {ty : FieldType} {fin : Bool} {cs : List Nat} (h : ga_FWs own idx k ty fin cs) (hc : c ∈ cs) : ga_FW own idx c k ty fin := by
  induction cs with
  | nil => cases hc
  | cons x r ih =>
    rcases List.mem_cons.mp hc with rfl | hc
    · exact h.1
    · exact ih h.2 hc
abbrev gH : Type := ga_H
def hFI (cs : List Nat) (k : Nat) (o : ga_Ex gH (Option Nat)) : ga_Ex gH Int32 := fun K e h => o (fun r h1 => match ga_oF h1 r cs k with | some (.inl x) => K x h1 | _ => False) e h
def hFL (cs : List Nat) (k : Nat) (o : ga_Ex gH (Option Nat)) : ga_Ex gH Int64 := fun K e h => o (fun r h1 => match ga_oF h1 r cs k with | some (.inr (.inl x)) => K x h1 | _ => False) e h
def hFR (cs : List Nat) (k : Nat) (o : ga_Ex gH (Option Nat)) : ga_Ex gH (Option Nat) := fun K e h => o (fun r h1 => match ga_oF h1 r cs k with | some (.inr (.inr x)) => K x h1 | _ => False) e h
def hAI (k : Nat) (a : ga_Ex gH (Option Nat)) (i : ga_Ex gH Int32) : ga_Ex gH Int32 := fun K e h => a (fun r h1 => i (fun x h2 => match ga_aR h2 r k with | some (_, n, .inl f) => vp_in x n ∧ K (f x.toNatClampNeg) h2 | _ => False) e h1) e h
def hAL (a : ga_Ex gH (Option Nat)) (i : ga_Ex gH Int32) : ga_Ex gH Int64 := fun K e h => a (fun r h1 => i (fun x h2 => match ga_aR h2 r 1 with | some (_, n, .inr (.inl f)) => vp_in x n ∧ K (f x.toNatClampNeg) h2 | _ => False) e h1) e h
def hAR (k : Nat) (a : ga_Ex gH (Option Nat)) (i : ga_Ex gH Int32) : ga_Ex gH (Option Nat) := fun K e h => a (fun r h1 => i (fun x h2 => match ga_aR h2 r k with | some (_, n, .inr (.inr f)) => vp_in x n ∧ K (f x.toNatClampNeg) h2 | _ => False) e h1) e h
def hLen (k : Nat) (a : ga_Ex gH (Option Nat)) : ga_Ex gH Int32 := fun K e h => a (fun r h1 => match ga_aR h1 r k with | some (_, n, _) => K (Int32.ofNat n) h1 | none => False) e h
def hCast (cs : List Nat) (o : ga_Ex gH (Option Nat)) : ga_Ex gH (Option Nat) := fun K e h => o (fun r h1 => match ga_oO h1 r cs with | some _ => K r h1 | none => False) e h
def hInst (ys ns : List Nat) (o : ga_Ex gH (Option Nat)) : ga_Ex gH Int32 := fun K e h => o (fun r h1 => match ga_oO h1 r (ys ++ ns) with | some (_, c, _) => if ys.contains c then K 1 h1 else K 0 h1 | none => False) e h
def sPI (cs : List Nat) (k : Nat) (o : ga_Ex gH (Option Nat)) (x : ga_Ex gH Int32) : ga_Sm gH := fun N _ _ e h => o (fun r h1 => x (fun v h2 => match ga_oO h2 r cs with | some (a, c, fs) => N e (ga_set h2 a (.inr (c, fs.set k (.inl v)))) | none => False) e h1) e h
def sPZ (cs : List Nat) (k : Nat) (o : ga_Ex gH (Option Nat)) (x : ga_Ex gH Int32) : ga_Sm gH := fun N _ _ e h => o (fun r h1 => x (fun v h2 => match ga_oO h2 r cs with | some (a, c, fs) => (v = 0 ∨ v = 1) ∧ N e (ga_set h2 a (.inr (c, fs.set k (.inl v)))) | none => False) e h1) e h
def sPL (cs : List Nat) (k : Nat) (o : ga_Ex gH (Option Nat)) (x : ga_Ex gH Int64) : ga_Sm gH := fun N _ _ e h => o (fun r h1 => x (fun v h2 => match ga_oO h2 r cs with | some (a, c, fs) => N e (ga_set h2 a (.inr (c, fs.set k (.inr (.inl v))))) | none => False) e h1) e h
def sPR (cs : List Nat) (k : Nat) (o x : ga_Ex gH (Option Nat)) : ga_Sm gH := fun N _ _ e h => o (fun r h1 => x (fun v h2 => match ga_oO h2 r cs with | some (a, c, fs) => N e (ga_set h2 a (.inr (c, fs.set k (.inr (.inr v))))) | none => False) e h1) e h
def sUI (f : Int32 → Int32 → Int32) (cs : List Nat) (k : Nat) (o : ga_Ex gH (Option Nat)) (x : ga_Ex gH Int32) : ga_Sm gH := fun N _ _ e h => o (fun r h1 => match ga_oF h1 r cs k with | some (.inl v) => x (fun w h2 => match ga_oO h2 r cs with | some (a, c, fs) => N e (ga_set h2 a (.inr (c, fs.set k (.inl (f v w))))) | none => False) e h1 | _ => False) e h
def sAI (b : Nat) (a : ga_Ex gH (Option Nat)) (i x : ga_Ex gH Int32) : ga_Sm gH := fun N _ _ e h => a (fun r h1 => i (fun j h2 => x (fun v h3 => match ga_aR h3 r 0 with | some (q, n, .inl f) => b ≤ q ∧ vp_in j n ∧ N e (ga_set h3 q (.inl (0, n, .inl (va_up f j.toNatClampNeg v)))) | _ => False) e h2) e h1) e h
def sAB (b : Nat) (a : ga_Ex gH (Option Nat)) (i x : ga_Ex gH Int32) : ga_Sm gH := fun N _ _ e h => a (fun r h1 => i (fun j h2 => x (fun v h3 => match ga_aR h3 r 2 with | some (q, n, .inl f) => b ≤ q ∧ vp_in j n ∧ N e (ga_set h3 q (.inl (2, n, .inl (va_up f j.toNatClampNeg v.toInt8.toInt32)))) | _ => False) e h2) e h1) e h
def sAZ (b : Nat) (a : ga_Ex gH (Option Nat)) (i x : ga_Ex gH Int32) : ga_Sm gH := fun N _ _ e h => a (fun r h1 => i (fun j h2 => x (fun v h3 => match ga_aR h3 r 3 with | some (q, n, .inl f) => b ≤ q ∧ vp_in j n ∧ (v = 0 ∨ v = 1) ∧ N e (ga_set h3 q (.inl (3, n, .inl (va_up f j.toNatClampNeg v)))) | _ => False) e h2) e h1) e h
def sAL (b : Nat) (a : ga_Ex gH (Option Nat)) (i : ga_Ex gH Int32) (x : ga_Ex gH Int64) : ga_Sm gH := fun N _ _ e h => a (fun r h1 => i (fun j h2 => x (fun v h3 => match ga_aR h3 r 1 with | some (q, n, .inr (.inl f)) => b ≤ q ∧ vp_in j n ∧ N e (ga_set h3 q (.inl (1, n, .inr (.inl (va_up f j.toNatClampNeg v))))) | _ => False) e h2) e h1) e h
def sAR (b k : Nat) (cs : List Nat) (a : ga_Ex gH (Option Nat)) (i : ga_Ex gH Int32) (x : ga_Ex gH (Option Nat)) : ga_Sm gH := fun N _ _ e h => a (fun r h1 => i (fun j h2 => x (fun v h3 => match ga_aR h3 r k with | some (q, n, .inr (.inr f)) => b ≤ q ∧ vp_in j n ∧ (v = none ∨ ∃ z, ga_oO h3 v cs = some z) ∧ N e (ga_set h3 q (.inl (k, n, .inr (.inr (va_up f j.toNatClampNeg v))))) | _ => False) e h2) e h1) e h
def sVI (f : Int32 → Int32 → Int32) (b : Nat) (a : ga_Ex gH (Option Nat)) (i x : ga_Ex gH Int32) : ga_Sm gH := fun N _ _ e h => a (fun r h1 => i (fun j h2 => match ga_aR h2 r 0 with | some (_, n, .inl p) => vp_in j n ∧ x (fun v h3 => match ga_aR h3 r 0 with | some (q, n', .inl p') => b ≤ q ∧ vp_in j n' ∧ N e (ga_set h3 q (.inl (0, n', .inl (va_up p' j.toNatClampNeg (f (p j.toNatClampNeg) v))))) | _ => False) e h2 | _ => False) e h1) e h
def sVL (f : Int64 → Int64 → Int64) (b : Nat) (a : ga_Ex gH (Option Nat)) (i : ga_Ex gH Int32) (x : ga_Ex gH Int64) : ga_Sm gH := fun N _ _ e h => a (fun r h1 => i (fun j h2 => match ga_aR h2 r 1 with | some (_, n, .inr (.inl p)) => vp_in j n ∧ x (fun v h3 => match ga_aR h3 r 1 with | some (q, n', .inr (.inl p')) => b ≤ q ∧ vp_in j n' ∧ N e (ga_set h3 q (.inl (1, n', .inr (.inl (va_up p' j.toNatClampNeg (f (p j.toNatClampNeg) v)))))) | _ => False) e h2 | _ => False) e h1) e h
/-- which method, by the receiver's class -/
def ga_ds (h : ga_H) (vs : List ga_V) (t : List (Nat × Nat)) : Option Nat := match vs with
  | .inr (.inr (some a)) :: _ => match h.1 a with
    | some (.inr (c, _)) => t.lookup c
    | _ => none
  | _ => none
def ga_rI (v : Int32) : Option ga_V := some (.inl v)
def ga_rL (v : Int64) : Option ga_V := some (.inr (.inl v))
def ga_rR (v : Option Nat) : Option ga_V := some (.inr (.inr v))
def ga_rU (_ : Unit) : Option ga_V := none
/-- a call by the receiver's class; of one method -/
def hCV {α β : Type} (tr : α → Option ga_V) (cr : ga_Cr gH) (t : List (Nat × Nat)) (fa : β → List ga_V) (as : ga_Ex gH β) : ga_Ex gH α := fun K e h => as (fun x h1 => match ga_ds h1 (fa x) t with | some y => ∃ v h2, cr y (fa x) h1 (tr v) h2 ∧ K v h2 | none => False) e h
def hCS {α β η : Type} (tr : α → Option ga_V) (cr : ga_Cr η) (y : Nat) (fa : β → List ga_V) (as : ga_Ex η β) : ga_Ex η α := fun K e h => as (fun x h1 => ∃ v h2, cr y (fa x) h1 (tr v) h2 ∧ K v h2) e h
/-- new: the object, then the constructor on it -/
def hNew {β : Type} (cr : ga_Cr gH) (ci N : Nat) (df : List ga_V) (y : Nat) (fa : β → List ga_V) (as : ga_Ex gH β) : ga_Ex gH (Option Nat) := fun K e h => as (fun x h1 => (∃ fs, h1.1 h.2.1 = some (.inr (ci, fs))) ∧ ∃ h2, cr y (.inr (.inr (some h.2.1)) :: fa x) h1 none h2 ∧ K (some h.2.1) h2) e (ga_new h (.inr (ci, df)) N)
def hNA (k : Nat) (n : ga_Ex gH Int32) : ga_Ex gH (Option Nat) := fun K e h => n (fun i h1 => ¬ i < 0 ∧ i.toNatClampNeg ≤ 65536 ∧ K (some h1.2.1) (ga_new h1 (.inl (k, i.toNatClampNeg, ga_zero k)) i.toNatClampNeg)) e h
def hLitI : Nat → Nat → List (ga_Ex gH Int32) → (Option Nat → gH → Prop) → ga_Env → gH → Prop
  | a, _, [], K, _, h => K (some a) h
  | a, j, x :: r, K, e, h => x (fun v h1 => match ga_aR h1 (some a) 0 with | some (_, n, .inl f) => vp_in (Int32.ofNat j) n ∧ hLitI a (j + 1) r K e (ga_set h1 a (.inl (0, n, .inl (va_up f (Int32.ofNat j).toNatClampNeg v)))) | _ => False) e h
def hLitL : Nat → Nat → List (ga_Ex gH Int64) → (Option Nat → gH → Prop) → ga_Env → gH → Prop
  | a, _, [], K, _, h => K (some a) h
  | a, j, x :: r, K, e, h => x (fun v h1 => match ga_aR h1 (some a) 1 with | some (_, n, .inr (.inl f)) => vp_in (Int32.ofNat j) n ∧ hLitL a (j + 1) r K e (ga_set h1 a (.inl (1, n, .inr (.inl (va_up f (Int32.ofNat j).toNatClampNeg v))))) | _ => False) e h
/-- super's constructor, or another invokespecial on this -/
def hSp {α β : Type} (tr : α → Option ga_V) (cr : ga_Cr gH) (y : Nat) (cs : List Nat) (fa : β → List ga_V) (as : ga_Ex gH β) : ga_Ex gH α := fun K e h => as (fun x h1 => (∃ z, ga_oO h1 (match fa x with | .inr (.inr r) :: _ => r | _ => none) cs = some z) ∧ ∃ v h2, cr y (fa x) h1 (tr v) h2 ∧ K v h2) e h
def sObj : ga_Sm gH := fun N _ _ e h => match ga_get e 0 with
  | some (.inr (.inr (some _))) => N e h
  | _ => False
/-- System.arraycopy of parts from the first places -/
def sCopy (b : Nat) (cs : List Nat) (x y : ga_Ex gH (Option Nat)) (z : ga_Ex gH Int32) : ga_Sm gH := fun N _ _ e h => x (fun r h1 => y (fun q h2 => z (fun n h3 => match ga_aR h3 r 4, ga_aR h3 q 4 with
  | some (a0, n0, .inr (.inr f)), some (a, n1, .inr (.inr p)) => b ≤ a0 ∧ b ≤ a ∧ ¬ n < 0 ∧ n.toNatClampNeg ≤ n0 ∧ n.toNatClampNeg ≤ n1 ∧ (∀ i, i < n.toNatClampNeg → ∀ w, f i = some w → ∃ z, ga_oO h3 (some w) cs = some z) ∧ N e (ga_set h3 a (.inl (4, n1, .inr (.inr (va_cpy f p 0 0 n.toNatClampNeg)))))
  | _, _ => False) e h2) e h1) e h
def ga_Ass (E : String) : List Nat → Prop
  | [] => True
  | c :: r => (∃ q, ga_cl[c]? = some q ∧ ga_As q.1 E) ∧ ga_Ass E r
theorem ga_Ass.at {E : String} {c : Nat} {cs : List Nat} (h : ga_Ass E cs) (hc : c ∈ cs) : ∃ q, ga_cl[c]? = some q ∧ ga_As q.1 E := by
  induction cs with
  | nil => cases hc
  | cons x r ih =>
    rcases List.mem_cons.mp hc with rfl | hc
    · exact h.1
    · exact ih h.2 hc
def ga_Nss (E : String) : List Nat → Prop
  | [] => True
  | c :: r => (∃ q, ga_cl[c]? = some q ∧ (q.1, E) ∈ ga_nc) ∧ ga_Nss E r
theorem ga_Nss.at {E : String} {c : Nat} {cs : List Nat} (h : ga_Nss E cs) (hc : c ∈ cs) : ∃ q, ga_cl[c]? = some q ∧ (q.1, E) ∈ ga_nc := by
  induction cs with
  | nil => cases hc
  | cons x r ih =>
    rcases List.mem_cons.mp hc with rfl | hc
    · exact h.1
    · exact ih h.2 hc
def ga_VCs (own : String) (idx n : Nat) (mt : Nat → ga_Mn) : List (Nat × Nat) → Prop
  | [] => True
  | q :: r => (ga_VC own idx (ga_nmOf q.1) (mt q.2) n ∧ (mt q.2).2.2.1 ≤ 45) ∧ ga_VCs own idx n mt r
theorem ga_VCs.at {own : String} {idx n c y : Nat} {mt : Nat → ga_Mn} {t : List (Nat × Nat)} (h : ga_VCs own idx n mt t) (hc : t.lookup c = some y) : ga_VC own idx (ga_nmOf c) (mt y) n ∧ (mt y).2.2.1 ≤ 45 := by
  induction t with
  | nil => cases hc
  | cons x r ih =>
    obtain ⟨c', y'⟩ := x
    rw [List.lookup_cons] at hc
    split at hc
    · rename_i he
      have he : c = c' := by simpa using he
      cases hc; subst he; exact h.1
    · exact ih h.2 hc
def ga_ICs (own : String) (idx n : Nat) (y : ga_Mn) : List Nat → Prop
  | [] => True
  | c :: r => ga_IC own idx (ga_nmOf c) y n ∧ ga_ICs own idx n y r
theorem ga_ICs.at {own : String} {idx n c : Nat} {y : ga_Mn} {cs : List Nat} (h : ga_ICs own idx n y cs) (hc : c ∈ cs) : ga_IC own idx (ga_nmOf c) y n := by
  induction cs with
  | nil => cases hc
  | cons x r ih =>
    rcases List.mem_cons.mp hc with rfl | hc
    · exact h.1
    · exact ih h.2 hc
section HL
variable {cc : ByteArray} {own : String} {ini : Bool} {Ω : ga_Om} {ok : gH → Prop} {mt : Nat → ga_Mn} {cr : ga_Cr gH} {g : ga_Gt} {rt : Option ga_V → gH → Prop}
variable {w pc p1 p2 p3 p4 idx k pk : Nat} {cs : List Nat} {o : ga_Ex gH (Option Nat)}
theorem gx_FI (H : ga_HM cc own ini Ω ok mt cr g) (ho : gx ga_le ok g vR w pc p1 o) (hd : decode cc p1 = .ok (.getfield idx, 3)) (hf : ga_FLs own idx k cs) : gx ga_le ok g vI w pc (p1 + 3) (hFI cs k o) := by
  refine ⟨fun K e h hk => ?_, fun e st h K hw hk kk => ?_⟩
  · obtain ⟨r, h', h1, h2⟩ := ho.1 _ e h hk
    split at h1
    · exact ⟨_, h', h1, h2⟩
    · cases h1
  · refine ho.2 e st h _ hw hk fun r h' hv => ?_
    split at hv
    · rename_i x hx
      obtain ⟨a, c, fs, rfl, h1, h2, h3⟩ := ga_oF_inv hx
      exact ⟨(kk _ _ hv).1, H.2.1 hd (hf.at h2) h1 h3 (kk _ _ hv).2⟩
    · cases hv
theorem gx_FL (H : ga_HM cc own ini Ω ok mt cr g) (ho : gx ga_le ok g vR w pc p1 o) (hd : decode cc p1 = .ok (.getfield idx, 3)) (hf : ga_FLs own idx k cs) : gx ga_le ok g vL w pc (p1 + 3) (hFL cs k o) := by
  refine ⟨fun K e h hk => ?_, fun e st h K hw hk kk => ?_⟩
  · obtain ⟨r, h', h1, h2⟩ := ho.1 _ e h hk
    split at h1
    · exact ⟨_, h', h1, h2⟩
    · cases h1
  · refine ho.2 e st h _ hw hk fun r h' hv => ?_
    split at hv
    · rename_i x hx
      obtain ⟨a, c, fs, rfl, h1, h2, h3⟩ := ga_oF_inv hx
      exact ⟨(kk _ _ hv).1, H.2.1 hd (hf.at h2) h1 h3 (kk _ _ hv).2⟩
    · cases hv
theorem gx_FR (H : ga_HM cc own ini Ω ok mt cr g) (ho : gx ga_le ok g vR w pc p1 o) (hd : decode cc p1 = .ok (.getfield idx, 3)) (hf : ga_FLs own idx k cs) : gx ga_le ok g vR w pc (p1 + 3) (hFR cs k o) := by
  refine ⟨fun K e h hk => ?_, fun e st h K hw hk kk => ?_⟩
  · obtain ⟨r, h', h1, h2⟩ := ho.1 _ e h hk
    split at h1
    · exact ⟨_, h', h1, h2⟩
    · cases h1
  · refine ho.2 e st h _ hw hk fun r h' hv => ?_
    split at hv
    · rename_i x hx
      obtain ⟨a, c, fs, rfl, h1, h2, h3⟩ := ga_oF_inv hx
      exact ⟨(kk _ _ hv).1, H.2.1 hd (hf.at h2) h1 h3 (kk _ _ hv).2⟩
    · cases hv
theorem ga_leOr (hok : ∀ a b, ga_le a b → ok b → ok a) : ga_or ga_le ok := ⟨fun _ => ga_le_rfl, fun _ _ _ h k => ga_le_trans h k, hok⟩
theorem ga_le_set {h : ga_H} {a : Nat} {c : ga_Ce} : ga_le h (ga_set h a c) := ⟨Nat.le_refl _, Nat.le_refl _⟩
theorem ga_le_new {h : ga_H} {c : ga_Ce} {k : Nat} : ga_le h (ga_new h c k) := ⟨Nat.le_succ _, Nat.le_add_right _ _⟩
theorem gx_AI {i : ga_Ex gH Int32} {oi : Instr} (O : ga_or ga_le ok) (H : ga_HM cc own ini Ω ok mt cr g) (ha : gx ga_le ok g vR w pc p1 o) (hi : gx ga_le ok g vI (1 + w) p1 p2 i) (hd : decode cc p2 = .ok (oi, 1)) (hk : (oi = .iaload ∧ k = 0) ∨ (oi = .baload ∧ k = 2) ∨ (oi = .baload ∧ k = 3)) : gx ga_le ok g vI w pc (p2 + 1) (hAI k o i) := by
  refine ⟨fun K e h hk => ?_, fun e st h K hw hk' kk => ?_⟩
  · obtain ⟨r, h', h1, h2⟩ := ha.1 _ e h hk
    obtain ⟨j, h3, h4, h5⟩ := hi.1 _ e h' h1
    split at h4
    · exact ⟨_, h3, h4.2, ga_le_trans h2 h5⟩
    · cases h4
  · refine ha.2 e st h _ hw hk' fun r h' hv => ?_
    have hlive := hi.1 _ e h' hv
    obtain ⟨j, h3, h4, h5⟩ := hlive
    split at h4
    · refine ⟨O.2.2 _ _ h5 (kk _ _ h4.2).1, ?_⟩
      refine hi.2 e (vR r ++ st) h' _ (by rw [wt_app]; have := wR r; omega) hv fun x h6 hx => ?_
      split at hx
      · rename_i a n f hq
        obtain ⟨rfl, h8⟩ := ga_aR_inv hq
        refine ⟨(kk _ _ hx.2).1, H.2.2.2.2.1 hd ?_ h8 hx.1 ?_ (kk _ _ hx.2).2⟩
        · rcases hk with ⟨h1, h2⟩ | ⟨h1, h2⟩ | ⟨h1, h2⟩
          · exact Or.inl ⟨h1, h2⟩
          · exact Or.inr (Or.inr (Or.inl ⟨h1, h2⟩))
          · exact Or.inr (Or.inr (Or.inr (Or.inl ⟨h1, h2⟩)))
        · rcases hk with ⟨h1, rfl⟩ | ⟨h1, rfl⟩ | ⟨h1, rfl⟩ <;> exact ⟨by decide, by decide, rfl⟩
      · cases hx
    · cases h4
theorem gx_AL {i : ga_Ex gH Int32} (O : ga_or ga_le ok) (H : ga_HM cc own ini Ω ok mt cr g) (ha : gx ga_le ok g vR w pc p1 o) (hi : gx ga_le ok g vI (1 + w) p1 p2 i) (hd : decode cc p2 = .ok (.laload, 1)) : gx ga_le ok g vL w pc (p2 + 1) (hAL o i) := by
  refine ⟨fun K e h hk => ?_, fun e st h K hw hk' kk => ?_⟩
  · obtain ⟨r, h', h1, h2⟩ := ha.1 _ e h hk
    obtain ⟨j, h3, h4, h5⟩ := hi.1 _ e h' h1
    split at h4
    · exact ⟨_, h3, h4.2, ga_le_trans h2 h5⟩
    · cases h4
  · refine ha.2 e st h _ hw hk' fun r h' hv => ?_
    have hlive := hi.1 _ e h' hv
    obtain ⟨j, h3, h4, h5⟩ := hlive
    split at h4
    · refine ⟨O.2.2 _ _ h5 (kk _ _ h4.2).1, ?_⟩
      refine hi.2 e (vR r ++ st) h' _ (by rw [wt_app]; have := wR r; omega) hv fun x h6 hx => ?_
      split at hx
      · rename_i a n f hq
        obtain ⟨rfl, h8⟩ := ga_aR_inv hq
        exact ⟨(kk _ _ hx.2).1, H.2.2.2.2.1 hd (Or.inr (Or.inl ⟨rfl, rfl⟩)) h8 hx.1 ⟨rfl, rfl⟩ (kk _ _ hx.2).2⟩
      · cases hx
    · cases h4
theorem gx_AR {i : ga_Ex gH Int32} (O : ga_or ga_le ok) (H : ga_HM cc own ini Ω ok mt cr g) (hk4 : 4 ≤ k) (ha : gx ga_le ok g vR w pc p1 o) (hi : gx ga_le ok g vI (1 + w) p1 p2 i) (hd : decode cc p2 = .ok (.aaload, 1)) : gx ga_le ok g vR w pc (p2 + 1) (hAR k o i) := by
  refine ⟨fun K e h hk => ?_, fun e st h K hw hk' kk => ?_⟩
  · obtain ⟨r, h', h1, h2⟩ := ha.1 _ e h hk
    obtain ⟨j, h3, h4, h5⟩ := hi.1 _ e h' h1
    split at h4
    · exact ⟨_, h3, h4.2, ga_le_trans h2 h5⟩
    · cases h4
  · refine ha.2 e st h _ hw hk' fun r h' hv => ?_
    have hlive := hi.1 _ e h' hv
    obtain ⟨j, h3, h4, h5⟩ := hlive
    split at h4
    · refine ⟨O.2.2 _ _ h5 (kk _ _ h4.2).1, ?_⟩
      refine hi.2 e (vR r ++ st) h' _ (by rw [wt_app]; have := wR r; omega) hv fun x h6 hx => ?_
      split at hx
      · rename_i a n f hq
        obtain ⟨rfl, h8⟩ := ga_aR_inv hq
        exact ⟨(kk _ _ hx.2).1, H.2.2.2.2.1 hd (Or.inr (Or.inr (Or.inr (Or.inr ⟨rfl, hk4⟩)))) h8 hx.1 ⟨hk4, rfl⟩ (kk _ _ hx.2).2⟩
      · cases hx
    · cases h4
theorem gx_Len (H : ga_HM cc own ini Ω ok mt cr g) (ho : gx ga_le ok g vR w pc p1 o) (hd : decode cc p1 = .ok (.arraylength, 1)) : gx ga_le ok g vI w pc (p1 + 1) (hLen k o) := by
  refine ⟨fun K e h hk => ?_, fun e st h K hw hk kk => ?_⟩
  · obtain ⟨r, h', h1, h2⟩ := ho.1 _ e h hk
    split at h1
    · exact ⟨_, h', h1, h2⟩
    · cases h1
  · refine ho.2 e st h _ hw hk fun r h' hv => ?_
    split at hv
    · rename_i a n f hq
      obtain ⟨rfl, h1⟩ := ga_aR_inv hq
      exact ⟨(kk _ _ hv).1, H.2.2.2.2.2.1 hd h1 (kk _ _ hv).2⟩
    · cases hv
theorem gx_Cast {E : String} (H : ga_HM cc own ini Ω ok mt cr g) (ho : gx ga_le ok g vR w pc p1 o) (hd : decode cc p1 = .ok (.checkcast idx, 3)) (hq : Jvm.Cond.classLink own idx E ∈ lw_all) (hA : ga_Ass E cs) : gx ga_le ok g vR w pc (p1 + 3) (hCast cs o) := by
  refine ⟨fun K e h hk => ?_, fun e st h K hw hk kk => ?_⟩
  · obtain ⟨r, h', h1, h2⟩ := ho.1 _ e h hk
    split at h1
    · exact ⟨_, h', h1, h2⟩
    · cases h1
  · refine ho.2 e st h _ hw hk fun r h' hv => ?_
    split at hv
    · rename_i z hz
      obtain ⟨a, c, fs⟩ := z
      obtain ⟨rfl, h1, h2⟩ := ga_oO_inv hz
      obtain ⟨q, h3, h4⟩ := hA.at h2
      exact ⟨(kk _ _ hv).1, H.2.2.2.2.2.2.2.2.2.2.2.2.2.2.1 hd hq h1 h3 h4 (kk _ _ hv).2⟩
    · cases hv
theorem gx_Inst {E : String} {ys ns : List Nat} (H : ga_HM cc own ini Ω ok mt cr g) (ho : gx ga_le ok g vR w pc p1 o) (hd : decode cc p1 = .ok (.instanceof idx, 3)) (hq : Jvm.Cond.classLink own idx E ∈ lw_all) (hA : ga_Ass E ys) (hN : ga_Nss E ns) : gx ga_le ok g vI w pc (p1 + 3) (hInst ys ns o) := by
  refine ⟨fun K e h hk => ?_, fun e st h K hw hk kk => ?_⟩
  · obtain ⟨r, h', h1, h2⟩ := ho.1 _ e h hk
    split at h1
    · split at h1
      · exact ⟨_, h', h1, h2⟩
      · exact ⟨_, h', h1, h2⟩
    · cases h1
  · refine ho.2 e st h _ hw hk fun r h' hv => ?_
    split at hv
    · rename_i a c fs hz
      obtain ⟨rfl, h1, h2⟩ := ga_oO_inv hz
      split at hv
      · rename_i hy
        obtain ⟨q, h3, h4⟩ := hA.at (by simpa using hy)
        exact ⟨(kk _ _ hv).1, H.2.2.2.2.2.2.2.2.2.2.2.2.2.2.2.1 hd hq h1 h3 (Or.inl ⟨rfl, h4⟩) (kk _ _ hv).2⟩
      · rename_i hy
        have hn : c ∈ ns := by
          rcases List.mem_append.mp h2 with h | h
          · exact absurd (by simpa using h) hy
          · exact h
        obtain ⟨q, h3, h4⟩ := hN.at hn
        exact ⟨(kk _ _ hv).1, H.2.2.2.2.2.2.2.2.2.2.2.2.2.2.2.1 hd hq h1 h3 (Or.inr ⟨rfl, h4⟩) (kk _ _ hv).2⟩
    · cases hv
end HL
