/-! LAYER 1m: the reference (LoanNamesModel) as one state of numbers: its fields by their places in TX5. Printed by gen/mk22.py -/
def mKL : List (Nat × Nat × Nat) := [(4, 0, 8), (0, 0, 0), (4, 1, 24), (4, 2, 24), (4, 3, 24), (4, 4, 24), (4, 5, 24), (4, 6, 2304), (4, 7, 2304), (4, 8, 2304), (4, 9, 2304), (4, 10, 2304), (4, 11, 2304), (4, 12, 2304), (4, 13, 2304), (4, 14, 2304), (4, 15, 2304), (4, 16, 2304), (4, 17, 2304), (4, 18, 2304), (6, 19, 600), (0, 0, 0), (0, 0, 0), (0, 0, 0), (0, 0, 0), (0, 0, 0), (0, 0, 0), (0, 0, 0), (1, 0, 0), (2, 0, 0), (4, 20, 6), (4, 21, 6), (0, 0, 0), (0, 0, 0), (0, 0, 0), (0, 0, 0), (0, 0, 0), (0, 0, 0), (7, 22, 96), (7, 23, 96), (4, 24, 96), (0, 0, 0), (0, 0, 0), (0, 0, 0), (4, 25, 1600), (0, 0, 0), (4, 26, 8), (0, 0, 0), (0, 0, 0), (4, 27, 256), (4, 28, 256), (4, 29, 256), (4, 30, 256), (5, 31, 256), (0, 0, 0), (0, 0, 0), (4, 32, 6), (4, 33, 6), (0, 0, 0), (0, 0, 0), (1, 0, 0), (0, 0, 0), (4, 34, 256), (7, 35, 8), (5, 36, 8), (4, 37, 8), (4, 38, 8), (0, 0, 0), (0, 0, 0), (4, 39, 6), (4, 40, 12), (4, 41, 240), (4, 42, 240), (4, 43, 240), (4, 44, 240), (4, 45, 240), (4, 46, 240), (7, 47, 240), (0, 0, 0), (0, 0, 0), (0, 0, 0), (4, 48, 72), (4, 49, 72), (0, 0, 0), (0, 0, 0), (0, 0, 0), (4, 50, 10), (4, 51, 1024), (0, 0, 0), (4, 52, 6), (4, 53, 36), (5, 54, 48), (4, 55, 24)]
def mJL : List Nat := [0, 2, 3, 4, 5, 6, 7, 8, 9, 10, 11, 12, 13, 14, 15, 16, 17, 18, 19, 20, 30, 31, 38, 39, 40, 44, 46, 49, 50, 51, 52, 53, 56, 57, 62, 63, 64, 65, 66, 69, 70, 71, 72, 73, 74, 75, 76, 77, 81, 82, 86, 87, 89, 90, 91, 92]
/-- ints, longs, int (byte, boolean) arrays, long arrays, by the field's place -/
abbrev MS : Type := (Nat → Int32) × (Nat → Int64) × (Nat → Nat → Int32) × (Nat → Nat → Int64)
def mLen (k : Nat) : Nat := ((mKL[k]?).getD (0, 0, 0)).2.2
def mFv (m : Nat) (σ : MS) (k : Nat) : ga_V := match mKL[k]? with
  | some (0, _, _) => .inl (σ.1 k)
  | some (1, _, _) => .inr (.inl (σ.2.1 k))
  | some (2, _, _) => .inl (σ.1 k)
  | some (_, j, _) => .inr (.inr (some (m + 1 + j)))
  | none => .inl 0
def mfs (m : Nat) (σ : MS) : List ga_V := (List.range 93).map (mFv m σ)
def mAc (σ : MS) (k : Nat) : ga_Ce := match mKL[k]? with
  | some (5, _, n) => .inl (1, n, .inr (.inl (σ.2.2.2 k)))
  | some (6, _, n) => .inl (2, n, .inl (σ.2.2.1 k))
  | some (7, _, n) => .inl (3, n, .inl (σ.2.2.1 k))
  | some (_, _, n) => .inl (0, n, .inl (σ.2.2.1 k))
  | none => .inl (0, 0, .inl (σ.2.2.1 k))
/-- a heap with the reference's cells in it: its object at m, its arrays behind it -/
def mput (h : ga_H) (m : Nat) (σ : MS) : ga_H := (fun a => if a = m then some (.inr (5, mfs m σ)) else if m < a then (match mJL[a - (m + 1)]? with
  | some k => some (mAc σ k)
  | none => h.1 a) else h.1 a, h.2)
def mset (σ : MS) (k : Nat) (v : Int32) : MS := (va_up σ.1 k v, σ.2.1, σ.2.2.1, σ.2.2.2)
def msetL (σ : MS) (k : Nat) (v : Int64) : MS := (σ.1, va_up σ.2.1 k v, σ.2.2.1, σ.2.2.2)
def mas (σ : MS) (k i : Nat) (v : Int32) : MS := (σ.1, σ.2.1, va_up σ.2.2.1 k (va_up (σ.2.2.1 k) i v), σ.2.2.2)
def masL (σ : MS) (k i : Nat) (v : Int64) : MS := (σ.1, σ.2.1, σ.2.2.1, va_up σ.2.2.2 k (va_up (σ.2.2.2 k) i v))
theorem mJ_inv : ∀ j : Nat, j < 56 → ∀ k : Nat, mJL[j]? = some k → ∃ c n : Nat, mKL[k]? = some (c + 4, j, n) := by
  intro j hj k hk
  have h : ∀ j : Fin 56, (match mJL[j.val]? with | some k => (match mKL[k]? with | some (c, j', n) => decide (4 ≤ c) && decide (j' = j.val) | none => false) | none => true : Bool) = true := by decide +kernel
  have := h ⟨j, hj⟩
  dsimp only at this
  rw [hk] at this
  dsimp only at this
  split at this
  · rename_i c j' n hq
    simp only [Bool.and_eq_true, decide_eq_true_eq] at this
    obtain ⟨h1, rfl⟩ := this
    exact ⟨c - 4, n, by rw [hq, Nat.sub_add_cancel h1]⟩
  · cases this
theorem mJ_of : ∀ (k c j n : Nat), mKL[k]? = some (c + 4, j, n) → mJL[j]? = some k := by
  intro k c j n h
  have hk : k < 93 := (List.getElem?_eq_some_iff.mp h).1
  have h2 : ∀ k : Fin 93, (match mKL[k.val]? with | some (c, j, n) => decide (4 ≤ c → mJL[j]? = some k.val) | none => true : Bool) = true := by decide +kernel
  have := h2 ⟨k, hk⟩
  dsimp only at this
  rw [h] at this
  exact of_decide_eq_true this (Nat.le_add_left 4 c)
theorem mJ_len {j k : Nat} (h : mJL[j]? = some k) : j < 56 := (List.getElem?_eq_some_iff.mp h).1
theorem mput_self (h : ga_H) (m : Nat) (σ : MS) : (mput h m σ).1 m = some (.inr (5, mfs m σ)) := by simp [mput]
theorem mput_arr (h : ga_H) (m : Nat) (σ : MS) {j k : Nat} (hj : mJL[j]? = some k) : (mput h m σ).1 (m + 1 + j) = some (mAc σ k) := by
  unfold mput
  dsimp only
  rw [if_neg (by omega), if_pos (by omega), show m + 1 + j - (m + 1) = j by omega, hj]
theorem mfs_at (m : Nat) (σ : MS) {k : Nat} (hk : k < 93) : (mfs m σ)[k]? = some (mFv m σ k) := by
  unfold mfs
  rw [List.getElem?_map, List.getElem?_range hk]
  rfl
theorem mfs_set (m : Nat) (σ τ : MS) {k : Nat} {v : ga_V} (h1 : mFv m τ k = v) (h2 : ∀ i, i ≠ k → mFv m τ i = mFv m σ i) : (mfs m σ).set k v = mfs m τ := by
  apply List.ext_getElem?
  intro i
  rw [List.getElem?_set]
  by_cases hi : i < 93
  · by_cases hk : k = i
    · subst hk
      rw [if_pos rfl, mfs_at m τ hi, h1, if_pos (by simpa [mfs] using hi)]
    · rw [if_neg hk, mfs_at m τ hi, mfs_at m σ hi, h2 i (Ne.symm hk)]
  · have e1 : (mfs m τ)[i]? = none := by simp [mfs]; omega
    have e2 : (mfs m σ)[i]? = none := by simp [mfs]; omega
    rw [e1]
    by_cases hk : k = i
    · subst hk; rw [if_pos rfl, if_neg (by simpa [mfs] using hi)]
    · rw [if_neg hk, e2]
theorem mput_set (h : ga_H) (m : Nat) (σ τ : MS) (h1 : τ.2.2 = σ.2.2) : ga_set (mput h m σ) m (.inr (5, mfs m τ)) = mput h m τ := by
  have hA : ∀ k, mAc τ k = mAc σ k := fun k => by unfold mAc; rw [h1]
  unfold ga_set mput
  dsimp only
  congr 1
  funext a
  by_cases ha : a = m
  · simp [ha]
  · simp only [ha, if_false, hA]
theorem mput_setI (h : ga_H) (m : Nat) (σ : MS) {k c j n : Nat} {v : Int32} (hc : mKL[k]? = some (c, j, n)) (h0 : c = 0 ∨ c = 2) : ga_set (mput h m σ) m (.inr (5, (mfs m σ).set k (.inl v))) = mput h m (mset σ k v) := by
  rw [mfs_set m σ (mset σ k v) (k := k) (v := .inl v), mput_set h m σ (mset σ k v) rfl]
  · unfold mFv
    rcases h0 with rfl | rfl <;> simp [hc, mset, va_up]
  · intro i hi
    unfold mFv
    split <;> simp [mset, va_up, hi]
theorem mput_setL (h : ga_H) (m : Nat) (σ : MS) {k j n : Nat} {v : Int64} (hc : mKL[k]? = some (1, j, n)) : ga_set (mput h m σ) m (.inr (5, (mfs m σ).set k (.inr (.inl v)))) = mput h m (msetL σ k v) := by
  rw [mfs_set m σ (msetL σ k v) (k := k) (v := .inr (.inl v)), mput_set h m σ (msetL σ k v) rfl]
  · unfold mFv
    simp [hc, msetL, va_up]
  · intro i hi
    unfold mFv
    split <;> simp [msetL, va_up, hi]
theorem mput_aset (h : ga_H) (m : Nat) (σ τ : MS) {k j : Nat} {ce : ga_Ce} (hj : mJL[j]? = some k) (h1 : τ.1 = σ.1 ∧ τ.2.1 = σ.2.1) (h2 : mAc τ k = ce) (h3 : ∀ i, i ≠ k → mAc τ i = mAc σ i) : ga_set (mput h m σ) (m + 1 + j) ce = mput h m τ := by
  have hF : mfs m τ = mfs m σ := by
    unfold mfs
    congr 1
    funext i
    unfold mFv
    rw [h1.1, h1.2]
  unfold ga_set mput
  dsimp only
  congr 1
  funext a
  by_cases ha : a = m
  · rw [if_neg (by omega), if_pos ha, if_pos ha, hF]
  · rw [if_neg ha, if_neg ha]
    by_cases hm : m < a
    · rw [if_pos hm, if_pos hm]
      by_cases haj : a = m + 1 + j
      · rw [if_pos haj, haj, show m + 1 + j - (m + 1) = j by omega, hj]
        exact congrArg some h2.symm
      · rw [if_neg haj]
        cases hq : mJL[a - (m + 1)]? with
        | none => rfl
        | some k' =>
          have hk : k' ≠ k := by
            intro e
            subst e
            obtain ⟨c1, n1, e1⟩ := mJ_inv _ (mJ_len hj) _ hj
            obtain ⟨c2, n2, e2⟩ := mJ_inv _ (mJ_len hq) _ hq
            rw [e1] at e2
            have := congrArg (fun o => (Option.getD o (0, 0, 0)).2.1) e2
            simp at this
            omega
          exact congrArg some (h3 k' hk).symm
    · rw [if_neg hm, if_neg hm, if_neg (by omega)]
theorem mAc_I {σ : MS} {k c j n : Nat} (hc : mKL[k]? = some (c + 4, j, n)) (h : c = 0 ∨ c = 2 ∨ c = 3) : mAc σ k = .inl (c, n, .inl (σ.2.2.1 k)) := by
  unfold mAc
  rcases h with rfl | rfl | rfl <;> simp only [hc]
theorem mAc_L {σ : MS} {k j n : Nat} (hc : mKL[k]? = some (5, j, n)) : mAc σ k = .inl (1, n, .inr (.inl (σ.2.2.2 k))) := by
  unfold mAc
  simp only [hc]
theorem mput_asI (h : ga_H) (m : Nat) (σ : MS) {k c j n i : Nat} {v : Int32} (hc : mKL[k]? = some (c + 4, j, n)) (h0 : c = 0 ∨ c = 2 ∨ c = 3) : ga_set (mput h m σ) (m + 1 + j) (.inl (c, n, .inl (va_up (σ.2.2.1 k) i v))) = mput h m (mas σ k i v) := by
  refine mput_aset h m σ (mas σ k i v) (mJ_of _ _ _ _ hc) ⟨rfl, rfl⟩ ?_ ?_
  · rw [mAc_I hc h0]
    simp [mas, va_up]
  · intro x hx
    unfold mAc
    split <;> simp [mas, va_up, hx]
theorem mput_asL (h : ga_H) (m : Nat) (σ : MS) {k j n i : Nat} {v : Int64} (hc : mKL[k]? = some (5, j, n)) : ga_set (mput h m σ) (m + 1 + j) (.inl (1, n, .inr (.inl (va_up (σ.2.2.2 k) i v)))) = mput h m (masL σ k i v) := by
  refine mput_aset h m σ (masL σ k i v) (mJ_of k 1 j n hc) ⟨rfl, rfl⟩ ?_ ?_
  · rw [mAc_L hc]
    simp [masL, va_up]
  · intro x hx
    unfold mAc
    split <;> simp [masL, va_up, hx]
theorem mLen_of {k c j n : Nat} (hc : mKL[k]? = some (c, j, n)) : mLen k = n := by unfold mLen; rw [hc]; rfl
/-! the reference's programs -/
def mT (m : Nat) (e : ga_Env) : Prop := ga_get e 0 = some (.inr (.inr (some m)))
def mFI (m k : Nat) : ga_Ex MS Int32 := fun K e σ => mT m e ∧ K (σ.1 k) σ
def mFL (m k : Nat) : ga_Ex MS Int64 := fun K e σ => mT m e ∧ K (σ.2.1 k) σ
def mAI (m k : Nat) (i : ga_Ex MS Int32) : ga_Ex MS Int32 := fun K e σ => mT m e ∧ i (fun x σ1 => vp_in x (mLen k) ∧ K (σ1.2.2.1 k x.toNatClampNeg) σ1) e σ
def mAL (m k : Nat) (i : ga_Ex MS Int32) : ga_Ex MS Int64 := fun K e σ => mT m e ∧ i (fun x σ1 => vp_in x (mLen k) ∧ K (σ1.2.2.2 k x.toNatClampNeg) σ1) e σ
def tI (m k : Nat) (x : ga_Ex MS Int32) : ga_Sm MS := fun N _ _ e σ => mT m e ∧ x (fun v σ1 => N e (mset σ1 k v)) e σ
def tZ (m k : Nat) (x : ga_Ex MS Int32) : ga_Sm MS := fun N _ _ e σ => mT m e ∧ x (fun v σ1 => (v = 0 ∨ v = 1) ∧ N e (mset σ1 k v)) e σ
def tL (m k : Nat) (x : ga_Ex MS Int64) : ga_Sm MS := fun N _ _ e σ => mT m e ∧ x (fun v σ1 => N e (msetL σ1 k v)) e σ
def tU (f : Int32 → Int32 → Int32) (m k : Nat) (x : ga_Ex MS Int32) : ga_Sm MS := fun N _ _ e σ => mT m e ∧ x (fun v σ1 => N e (mset σ1 k (f (σ.1 k) v))) e σ
def tAI (m k : Nat) (i x : ga_Ex MS Int32) : ga_Sm MS := fun N _ _ e σ => mT m e ∧ i (fun j σ1 => x (fun v σ2 => vp_in j (mLen k) ∧ N e (mas σ2 k j.toNatClampNeg v)) e σ1) e σ
def tAB (m k : Nat) (i x : ga_Ex MS Int32) : ga_Sm MS := fun N _ _ e σ => mT m e ∧ i (fun j σ1 => x (fun v σ2 => vp_in j (mLen k) ∧ N e (mas σ2 k j.toNatClampNeg v.toInt8.toInt32)) e σ1) e σ
def tAZ (m k : Nat) (i x : ga_Ex MS Int32) : ga_Sm MS := fun N _ _ e σ => mT m e ∧ i (fun j σ1 => x (fun v σ2 => vp_in j (mLen k) ∧ (v = 0 ∨ v = 1) ∧ N e (mas σ2 k j.toNatClampNeg v)) e σ1) e σ
def tAL (m k : Nat) (i : ga_Ex MS Int32) (x : ga_Ex MS Int64) : ga_Sm MS := fun N _ _ e σ => mT m e ∧ i (fun j σ1 => x (fun v σ2 => vp_in j (mLen k) ∧ N e (masL σ2 k j.toNatClampNeg v)) e σ1) e σ
def tV (f : Int32 → Int32 → Int32) (m k : Nat) (i x : ga_Ex MS Int32) : ga_Sm MS := fun N _ _ e σ => mT m e ∧ i (fun j σ1 => vp_in j (mLen k) ∧ x (fun v σ2 => N e (mas σ2 k j.toNatClampNeg (f (σ1.2.2.1 k j.toNatClampNeg) v))) e σ1) e σ
def mC {α β : Type} (tr : α → Option ga_V) (cr : ga_Cr MS) (m y : Nat) (fa : β → List ga_V) (as : ga_Ex MS β) : ga_Ex MS α := fun K e σ => mT m e ∧ as (fun x σ1 => ∃ v σ2, cr y (.inr (.inr (some m)) :: fa x) σ1 (tr v) σ2 ∧ K v σ2) e σ
section MD
def mle (_ _ : MS) : Prop := True
def mok (_ : MS) : Prop := True
theorem mOr : ga_or mle mok := ⟨fun _ => trivial, fun _ _ _ _ _ => trivial, fun _ _ _ _ => trivial⟩
variable {cc : ByteArray} {ini : Bool} {Ω : ga_Om} {ok : gH → Prop} {mt : Nat → ga_Mn} {cr : ga_Cr gH} {g : ga_Gt} {rt : Option ga_V → MS → Prop} {h0 : ga_H} {m : Nat}
variable {w pc p1 p2 p3 p4 idx k pk : Nat}
abbrev gM (g : ga_Gt) (h0 : ga_H) (m : Nat) : Nat → ga_Env → List ga_V → MS → Prop := fun pc e st σ => g pc e st (mput h0 m σ)
theorem gM_M (H : ga_M cc g) : ga_M cc (gM g h0 m) := fun pc e st h i n x hd hn hp k => H pc e st _ i n x hd hn hp k
theorem m_this (M : ga_M cc g) {e : ga_Env} {st : List ga_V} {h : ga_H} (hT : mT m e) (hd : decode cc pc = .ok (.aload_n 0, 1)) (k : g (pc + 1) e (.inr (.inr (some m)) :: st) h) : g pc e st h := by
  refine M pc e st h _ 1 (pc + 1, e, .inr (.inr (some m)) :: st) hd rfl ?_ k
  show ga_ld _ e st 0 ga_isR = _
  unfold ga_ld
  rw [hT]
  rfl
theorem mx_FI {c : Nat} (H : ga_HM cc RX5 ini Ω ok mt cr g) (h1 : decode cc pc = .ok (.aload_n 0, 1)) (hd : decode cc (pc + 1) = .ok (.getfield idx, 3)) (hf : ga_FL RX5 idx 5 k) (hc : mKL[k]? = some (c, 0, 0)) (h2 : c = 0 ∨ c = 2) : gx mle mok (gM g h0 m) vI w pc (pc + 4) (mFI m k) := by
  have hk : k < 93 := (List.getElem?_eq_some_iff.mp hc).1
  refine ⟨fun K e h hk => ⟨_, h, hk.2, trivial⟩, fun e st h K hw hk' kk => ?_⟩
  refine m_this H.1 hk'.1 h1 (H.2.1 hd hf (mput_self h0 m h) (mfs_at m h hk) ?_)
  have : mFv m h k = .inl (h.1 k) := by unfold mFv; rcases h2 with rfl | rfl <;> simp only [hc]
  rw [this]
  exact (kk _ _ hk'.2).2
theorem mx_FL (H : ga_HM cc RX5 ini Ω ok mt cr g) (h1 : decode cc pc = .ok (.aload_n 0, 1)) (hd : decode cc (pc + 1) = .ok (.getfield idx, 3)) (hf : ga_FL RX5 idx 5 k) (hc : mKL[k]? = some (1, 0, 0)) : gx mle mok (gM g h0 m) vL w pc (pc + 4) (mFL m k) := by
  have hk : k < 93 := (List.getElem?_eq_some_iff.mp hc).1
  refine ⟨fun K e h hk => ⟨_, h, hk.2, trivial⟩, fun e st h K hw hk' kk => ?_⟩
  refine m_this H.1 hk'.1 h1 (H.2.1 hd hf (mput_self h0 m h) (mfs_at m h hk) ?_)
  have : mFv m h k = .inr (.inl (h.2.1 k)) := by unfold mFv; simp only [hc]
  rw [this]
  exact (kk _ _ hk'.2).2
/-- the array's reference, onto the stack -/
theorem m_arr {c j n : Nat} (H : ga_HM cc RX5 ini Ω ok mt cr g) {e : ga_Env} {st : List ga_V} {σ : MS} (hT : mT m e) (h1 : decode cc pc = .ok (.aload_n 0, 1)) (hd : decode cc (pc + 1) = .ok (.getfield idx, 3)) (hf : ga_FL RX5 idx 5 k) (hc : mKL[k]? = some (c + 4, j, n)) (kk : g (pc + 4) e (.inr (.inr (some (m + 1 + j))) :: st) (mput h0 m σ)) : g pc e st (mput h0 m σ) := by
  have hk : k < 93 := (List.getElem?_eq_some_iff.mp hc).1
  refine m_this H.1 hT h1 (H.2.1 hd hf (mput_self h0 m σ) (mfs_at m σ hk) ?_)
  have : mFv m σ k = .inr (.inr (some (m + 1 + j))) := by unfold mFv; simp only [hc]
  rw [this]
  exact kk
theorem mx_AI {c j n : Nat} {i : ga_Ex MS Int32} {oi : Instr} (H : ga_HM cc RX5 ini Ω ok mt cr g) (h1 : decode cc pc = .ok (.aload_n 0, 1)) (hd : decode cc (pc + 1) = .ok (.getfield idx, 3)) (hf : ga_FL RX5 idx 5 k) (hc : mKL[k]? = some (c + 4, j, n)) (hi : gx mle mok (gM g h0 m) vI (1 + w) (pc + 4) p1 i) (h2 : decode cc p1 = .ok (oi, 1)) (h3 : (oi = .iaload ∧ c = 0) ∨ (oi = .baload ∧ c = 2) ∨ (oi = .baload ∧ c = 3)) : gx mle mok (gM g h0 m) vI w pc (p1 + 1) (mAI m k i) := by
  refine ⟨fun K e σ hk => ?_, fun e st σ K hw hk kk => ?_⟩
  · obtain ⟨x, σ1, k1, -⟩ := hi.1 _ e σ hk.2
    exact ⟨_, σ1, k1.2, trivial⟩
  · refine m_arr H hk.1 h1 hd hf hc ?_
    refine hi.2 e (.inr (.inr (some (m + 1 + j))) :: st) σ _ (by show ga_wt ([.inr (.inr (some (m + 1 + j)))] ++ st) ≤ _; rw [wt_app]; exact Nat.add_le_add (Nat.le_refl 1) hw) hk.2 fun x σ1 hx => ⟨trivial, ?_⟩
    have h0' : c = 0 ∨ c = 2 ∨ c = 3 := by
      rcases h3 with ⟨-, h⟩ | ⟨-, h⟩ | ⟨-, h⟩
      · exact Or.inl h
      · exact Or.inr (Or.inl h)
      · exact Or.inr (Or.inr h)
    have hcell : (mput h0 m σ1).1 (m + 1 + j) = some (.inl (c, n, .inl (σ1.2.2.1 k))) := by rw [mput_arr h0 m σ1 (mJ_of _ _ _ _ hc), mAc_I hc h0']
    have hin : vp_in x n := by have := hx.1; rwa [mLen_of hc] at this
    refine H.2.2.2.2.1 h2 ?_ hcell hin ?_ (kk _ _ hx.2).2
    · rcases h3 with h | h | h
      · exact Or.inl h
      · exact Or.inr (Or.inr (Or.inl h))
      · exact Or.inr (Or.inr (Or.inr (Or.inl h)))
    · rcases h0' with rfl | rfl | rfl <;> exact ⟨by decide, by decide, rfl⟩
theorem mx_AL {j n : Nat} {i : ga_Ex MS Int32} (H : ga_HM cc RX5 ini Ω ok mt cr g) (h1 : decode cc pc = .ok (.aload_n 0, 1)) (hd : decode cc (pc + 1) = .ok (.getfield idx, 3)) (hf : ga_FL RX5 idx 5 k) (hc : mKL[k]? = some (5, j, n)) (hi : gx mle mok (gM g h0 m) vI (1 + w) (pc + 4) p1 i) (h2 : decode cc p1 = .ok (.laload, 1)) : gx mle mok (gM g h0 m) vL w pc (p1 + 1) (mAL m k i) := by
  refine ⟨fun K e σ hk => ?_, fun e st σ K hw hk kk => ?_⟩
  · obtain ⟨x, σ1, k1, -⟩ := hi.1 _ e σ hk.2
    exact ⟨_, σ1, k1.2, trivial⟩
  · refine m_arr (c := 1) H hk.1 h1 hd hf hc ?_
    refine hi.2 e (.inr (.inr (some (m + 1 + j))) :: st) σ _ (by show ga_wt ([.inr (.inr (some (m + 1 + j)))] ++ st) ≤ _; rw [wt_app]; exact Nat.add_le_add (Nat.le_refl 1) hw) hk.2 fun x σ1 hx => ⟨trivial, ?_⟩
    have hcell : (mput h0 m σ1).1 (m + 1 + j) = some (.inl (1, n, .inr (.inl (σ1.2.2.2 k)))) := by rw [mput_arr h0 m σ1 (mJ_of k 1 j n hc), mAc_L hc]
    have hin : vp_in x n := by have := hx.1; rwa [mLen_of hc] at this
    exact H.2.2.2.2.1 h2 (Or.inr (Or.inl ⟨rfl, rfl⟩)) hcell hin ⟨rfl, rfl⟩ (kk _ _ hx.2).2
theorem ms_I {c : Nat} {x : ga_Ex MS Int32} (H : ga_HM cc RX5 ini Ω ok mt cr g) (h1 : decode cc pc = .ok (.aload_n 0, 1)) (hx : gx mle mok (gM g h0 m) vI 1 (pc + 1) p1 x) (hd : decode cc p1 = .ok (.putfield idx, 3)) (hf : ga_FW RX5 idx 5 k .int false) (hc : mKL[k]? = some (0, 0, 0)) : gs mle mok (gM g h0 m) rt pc (p1 + 3) pk (tI m k x) := by
  refine ⟨fun N C R e σ hk => ?_, fun e σ N C R hk kn kc kr => ?_⟩
  · obtain ⟨v, σ1, k1, -⟩ := hx.1 _ e σ hk.2
    exact Or.inl ⟨e, _, Or.inl k1, trivial⟩
  · refine m_this H.1 hk.1 h1 ?_
    refine hx.2 e [.inr (.inr (some m))] σ _ (Nat.le_refl 1) hk.2 fun v σ1 k1 => ⟨trivial, ?_⟩
    refine H.2.2.1 (st := []) hd hf (fun q => by cases q) (mput_self h0 m σ1) (fit_int v).1 (fit_int v).2 ?_
    rw [mput_setI h0 m σ1 hc (Or.inl rfl)]
    exact (kn _ _ k1).2
theorem ms_Z {x : ga_Ex MS Int32} (H : ga_HM cc RX5 ini Ω ok mt cr g) (h1 : decode cc pc = .ok (.aload_n 0, 1)) (hx : gx mle mok (gM g h0 m) vI 1 (pc + 1) p1 x) (hd : decode cc p1 = .ok (.putfield idx, 3)) (hf : ga_FW RX5 idx 5 k .boolean false) (hc : mKL[k]? = some (2, 0, 0)) : gs mle mok (gM g h0 m) rt pc (p1 + 3) pk (tZ m k x) := by
  refine ⟨fun N C R e σ hk => ?_, fun e σ N C R hk kn kc kr => ?_⟩
  · obtain ⟨v, σ1, k1, -⟩ := hx.1 _ e σ hk.2
    exact Or.inl ⟨e, _, Or.inl k1.2, trivial⟩
  · refine m_this H.1 hk.1 h1 ?_
    refine hx.2 e [.inr (.inr (some m))] σ _ (Nat.le_refl 1) hk.2 fun v σ1 k1 => ⟨trivial, ?_⟩
    refine H.2.2.1 (st := []) hd hf (fun q => by cases q) (mput_self h0 m σ1) (fit_bool k1.1).1 (fit_bool k1.1).2 ?_
    rw [mput_setI h0 m σ1 hc (Or.inr rfl)]
    exact (kn _ _ k1.2).2
theorem ms_L {x : ga_Ex MS Int64} (H : ga_HM cc RX5 ini Ω ok mt cr g) (h1 : decode cc pc = .ok (.aload_n 0, 1)) (hx : gx mle mok (gM g h0 m) vL 1 (pc + 1) p1 x) (hd : decode cc p1 = .ok (.putfield idx, 3)) (hf : ga_FW RX5 idx 5 k .long false) (hc : mKL[k]? = some (1, 0, 0)) : gs mle mok (gM g h0 m) rt pc (p1 + 3) pk (tL m k x) := by
  refine ⟨fun N C R e σ hk => ?_, fun e σ N C R hk kn kc kr => ?_⟩
  · obtain ⟨v, σ1, k1, -⟩ := hx.1 _ e σ hk.2
    exact Or.inl ⟨e, _, Or.inl k1, trivial⟩
  · refine m_this H.1 hk.1 h1 ?_
    refine hx.2 e [.inr (.inr (some m))] σ _ (Nat.le_refl 1) hk.2 fun v σ1 k1 => ⟨trivial, ?_⟩
    refine H.2.2.1 (st := []) hd hf (fun q => by cases q) (mput_self h0 m σ1) (fit_long v).1 (fit_long v).2 ?_
    rw [mput_setL h0 m σ1 hc]
    exact (kn _ _ k1).2
theorem ms_U {f : Int32 → Int32 → Int32} {x : ga_Ex MS Int32} {n idx2 : Nat} {oi : Instr} (H : ga_HM cc RX5 ini Ω ok mt cr g) (h1 : decode cc pc = .ok (.aload_n 0, 1)) (hdup : decode cc (pc + 1) = .ok (.dup, 1)) (hg : decode cc (pc + 2) = .ok (.getfield idx2, 3)) (hf2 : ga_FL RX5 idx2 5 k) (hx : gx mle mok (gM g h0 m) vI 2 (pc + 5) p1 x) (hop : decode cc p1 = .ok (oi, n)) (hn : ga_ln oi n = true) (hp : ∀ e st a b, ga_ps oi p1 e (.inl b :: .inl a :: st) = some (p2, e, .inl (f a b) :: st)) (hd : decode cc p2 = .ok (.putfield idx, 3)) (hf : ga_FW RX5 idx 5 k .int false) (hc : mKL[k]? = some (0, 0, 0)) : gs mle mok (gM g h0 m) rt pc (p2 + 3) pk (tU f m k x) := by
  have hk93 : k < 93 := (List.getElem?_eq_some_iff.mp hc).1
  refine ⟨fun N C R e σ hk => ?_, fun e σ N C R hk kn kc kr => ?_⟩
  · obtain ⟨v, σ1, k1, -⟩ := hx.1 _ e σ hk.2
    exact Or.inl ⟨e, _, Or.inl k1, trivial⟩
  · refine m_this H.1 hk.1 h1 ?_
    refine H.1 (pc + 1) e _ _ _ 1 (pc + 2, e, [.inr (.inr (some m)), .inr (.inr (some m))]) hdup rfl rfl ?_
    refine H.2.1 hg hf2 (mput_self h0 m σ) (mfs_at m σ hk93) ?_
    have : mFv m σ k = .inl (σ.1 k) := by unfold mFv; simp only [hc]
    rw [this]
    refine hx.2 e [.inl (σ.1 k), .inr (.inr (some m))] σ _ (Nat.le_refl 2) hk.2 fun v σ1 k1 => ⟨trivial, ?_⟩
    refine H.1 p1 e _ _ _ n _ hop hn (hp e [.inr (.inr (some m))] _ v) ?_
    refine H.2.2.1 (st := []) hd hf (fun q => by cases q) (mput_self h0 m σ1) (fit_int _).1 (fit_int _).2 ?_
    rw [mput_setI h0 m σ1 hc (Or.inl rfl)]
    exact (kn _ _ k1).2
theorem ms_AI {j n : Nat} {i : ga_Ex MS Int32} {x : ga_Ex MS Int32} (H : ga_HM cc RX5 ini Ω ok mt cr g) (hb : Ω.2.2.1 ≤ m) (h1 : decode cc pc = .ok (.aload_n 0, 1)) (hd : decode cc (pc + 1) = .ok (.getfield idx, 3)) (hf : ga_FL RX5 idx 5 k) (hc : mKL[k]? = some (4, j, n)) (hi : gx mle mok (gM g h0 m) vI 1 (pc + 4) p1 i) (hx : gx mle mok (gM g h0 m) vI 2 p1 p2 x) (h2 : decode cc p2 = .ok (.iastore, 1)) : gs mle mok (gM g h0 m) rt pc (p2 + 1) pk (tAI m k i x) := by
  refine ⟨fun N C R e σ hk => ?_, fun e σ N C R hk kn kc kr => ?_⟩
  · obtain ⟨y, σ1, k1, -⟩ := hi.1 _ e σ hk.2
    obtain ⟨v, σ2, k2, -⟩ := hx.1 _ e σ1 k1
    exact Or.inl ⟨e, _, Or.inl k2.2, trivial⟩
  · refine m_arr (c := 0) H hk.1 h1 hd hf hc ?_
    refine hi.2 e [.inr (.inr (some (m + 1 + j)))] σ _ (Nat.le_refl 1) hk.2 fun y σ1 k1 => ⟨trivial, ?_⟩
    refine hx.2 e [.inl y, .inr (.inr (some (m + 1 + j)))] σ1 _ (Nat.le_refl 2) k1 fun v σ2 k2 => ⟨trivial, ?_⟩
    have hcell : (mput h0 m σ2).1 (m + 1 + j) = some (.inl (0, n, .inl (σ2.2.2.1 k))) := by rw [mput_arr h0 m σ2 (mJ_of k 0 j n hc), mAc_I (c := 0) hc (by decide)]
    have hin : vp_in y n := by have := k2.1; rwa [mLen_of hc] at this
    refine H.2.2.2.2.2.2.1 (st := []) (by omega) h2 hcell hin ?_
    rw [mput_asI h0 m σ2 (c := 0) hc (by decide)]
    exact (kn _ _ k2.2).2
theorem ms_AB {j n : Nat} {i : ga_Ex MS Int32} {x : ga_Ex MS Int32} (H : ga_HM cc RX5 ini Ω ok mt cr g) (hb : Ω.2.2.1 ≤ m) (h1 : decode cc pc = .ok (.aload_n 0, 1)) (hd : decode cc (pc + 1) = .ok (.getfield idx, 3)) (hf : ga_FL RX5 idx 5 k) (hc : mKL[k]? = some (6, j, n)) (hi : gx mle mok (gM g h0 m) vI 1 (pc + 4) p1 i) (hx : gx mle mok (gM g h0 m) vI 2 p1 p2 x) (h2 : decode cc p2 = .ok (.bastore, 1)) : gs mle mok (gM g h0 m) rt pc (p2 + 1) pk (tAB m k i x) := by
  refine ⟨fun N C R e σ hk => ?_, fun e σ N C R hk kn kc kr => ?_⟩
  · obtain ⟨y, σ1, k1, -⟩ := hi.1 _ e σ hk.2
    obtain ⟨v, σ2, k2, -⟩ := hx.1 _ e σ1 k1
    exact Or.inl ⟨e, _, Or.inl k2.2, trivial⟩
  · refine m_arr (c := 2) H hk.1 h1 hd hf hc ?_
    refine hi.2 e [.inr (.inr (some (m + 1 + j)))] σ _ (Nat.le_refl 1) hk.2 fun y σ1 k1 => ⟨trivial, ?_⟩
    refine hx.2 e [.inl y, .inr (.inr (some (m + 1 + j)))] σ1 _ (Nat.le_refl 2) k1 fun v σ2 k2 => ⟨trivial, ?_⟩
    have hcell : (mput h0 m σ2).1 (m + 1 + j) = some (.inl (2, n, .inl (σ2.2.2.1 k))) := by rw [mput_arr h0 m σ2 (mJ_of k 2 j n hc), mAc_I (c := 2) hc (by decide)]
    have hin : vp_in y n := by have := k2.1; rwa [mLen_of hc] at this
    refine H.2.2.2.2.2.2.2.2.1 (st := []) (by omega) h2 hcell hin ?_
    rw [mput_asI h0 m σ2 (c := 2) hc (by decide)]
    exact (kn _ _ k2.2).2
theorem ms_AZ {j n : Nat} {i : ga_Ex MS Int32} {x : ga_Ex MS Int32} (H : ga_HM cc RX5 ini Ω ok mt cr g) (hb : Ω.2.2.1 ≤ m) (h1 : decode cc pc = .ok (.aload_n 0, 1)) (hd : decode cc (pc + 1) = .ok (.getfield idx, 3)) (hf : ga_FL RX5 idx 5 k) (hc : mKL[k]? = some (7, j, n)) (hi : gx mle mok (gM g h0 m) vI 1 (pc + 4) p1 i) (hx : gx mle mok (gM g h0 m) vI 2 p1 p2 x) (h2 : decode cc p2 = .ok (.bastore, 1)) : gs mle mok (gM g h0 m) rt pc (p2 + 1) pk (tAZ m k i x) := by
  refine ⟨fun N C R e σ hk => ?_, fun e σ N C R hk kn kc kr => ?_⟩
  · obtain ⟨y, σ1, k1, -⟩ := hi.1 _ e σ hk.2
    obtain ⟨v, σ2, k2, -⟩ := hx.1 _ e σ1 k1
    exact Or.inl ⟨e, _, Or.inl k2.2.2, trivial⟩
  · refine m_arr (c := 3) H hk.1 h1 hd hf hc ?_
    refine hi.2 e [.inr (.inr (some (m + 1 + j)))] σ _ (Nat.le_refl 1) hk.2 fun y σ1 k1 => ⟨trivial, ?_⟩
    refine hx.2 e [.inl y, .inr (.inr (some (m + 1 + j)))] σ1 _ (Nat.le_refl 2) k1 fun v σ2 k2 => ⟨trivial, ?_⟩
    have hcell : (mput h0 m σ2).1 (m + 1 + j) = some (.inl (3, n, .inl (σ2.2.2.1 k))) := by rw [mput_arr h0 m σ2 (mJ_of k 3 j n hc), mAc_I (c := 3) hc (by decide)]
    have hin : vp_in y n := by have := k2.1; rwa [mLen_of hc] at this
    refine H.2.2.2.2.2.2.2.2.2.1 (st := []) (by omega) k2.2.1 h2 hcell hin ?_
    rw [mput_asI h0 m σ2 (c := 3) hc (by decide)]
    exact (kn _ _ k2.2.2).2
theorem ms_AL {j n : Nat} {i : ga_Ex MS Int32} {x : ga_Ex MS Int64} (H : ga_HM cc RX5 ini Ω ok mt cr g) (hb : Ω.2.2.1 ≤ m) (h1 : decode cc pc = .ok (.aload_n 0, 1)) (hd : decode cc (pc + 1) = .ok (.getfield idx, 3)) (hf : ga_FL RX5 idx 5 k) (hc : mKL[k]? = some (5, j, n)) (hi : gx mle mok (gM g h0 m) vI 1 (pc + 4) p1 i) (hx : gx mle mok (gM g h0 m) vL 2 p1 p2 x) (h2 : decode cc p2 = .ok (.lastore, 1)) : gs mle mok (gM g h0 m) rt pc (p2 + 1) pk (tAL m k i x) := by
  refine ⟨fun N C R e σ hk => ?_, fun e σ N C R hk kn kc kr => ?_⟩
  · obtain ⟨y, σ1, k1, -⟩ := hi.1 _ e σ hk.2
    obtain ⟨v, σ2, k2, -⟩ := hx.1 _ e σ1 k1
    exact Or.inl ⟨e, _, Or.inl k2.2, trivial⟩
  · refine m_arr (c := 1) H hk.1 h1 hd hf hc ?_
    refine hi.2 e [.inr (.inr (some (m + 1 + j)))] σ _ (Nat.le_refl 1) hk.2 fun y σ1 k1 => ⟨trivial, ?_⟩
    refine hx.2 e [.inl y, .inr (.inr (some (m + 1 + j)))] σ1 _ (Nat.le_refl 2) k1 fun v σ2 k2 => ⟨trivial, ?_⟩
    have hcell : (mput h0 m σ2).1 (m + 1 + j) = some (.inl (1, n, .inr (.inl (σ2.2.2.2 k)))) := by rw [mput_arr h0 m σ2 (mJ_of k 1 j n hc), mAc_L hc]
    have hin : vp_in y n := by have := k2.1; rwa [mLen_of hc] at this
    refine H.2.2.2.2.2.2.2.1 (st := []) (by omega) h2 hcell hin ?_
    rw [mput_asL h0 m σ2 hc]
    exact (kn _ _ k2.2).2
theorem ms_V {f : Int32 → Int32 → Int32} {j n nn : Nat} {i x : ga_Ex MS Int32} {oi : Instr} (H : ga_HM cc RX5 ini Ω ok mt cr g) (hb : Ω.2.2.1 ≤ m) (h1 : decode cc pc = .ok (.aload_n 0, 1)) (hd : decode cc (pc + 1) = .ok (.getfield idx, 3)) (hf : ga_FL RX5 idx 5 k) (hc : mKL[k]? = some (4, j, n)) (hi : gx mle mok (gM g h0 m) vI 1 (pc + 4) p1 i) (hdup : decode cc p1 = .ok (.dup2, 1)) (hl : decode cc (p1 + 1) = .ok (.iaload, 1)) (hx : gx mle mok (gM g h0 m) vI 3 (p1 + 2) p2 x) (hop : decode cc p2 = .ok (oi, nn)) (hn : ga_ln oi nn = true) (hp : ∀ e st a b, ga_ps oi p2 e (.inl b :: .inl a :: st) = some (p3, e, .inl (f a b) :: st)) (h2 : decode cc p3 = .ok (.iastore, 1)) : gs mle mok (gM g h0 m) rt pc (p3 + 1) pk (tV f m k i x) := by
  refine ⟨fun N C R e σ hk => ?_, fun e σ N C R hk kn kc kr => ?_⟩
  · obtain ⟨y, σ1, k1, -⟩ := hi.1 _ e σ hk.2
    obtain ⟨v, σ2, k2, -⟩ := hx.1 _ e σ1 k1.2
    exact Or.inl ⟨e, _, Or.inl k2, trivial⟩
  · refine m_arr (c := 0) H hk.1 h1 hd hf hc ?_
    refine hi.2 e [.inr (.inr (some (m + 1 + j)))] σ _ (Nat.le_refl 1) hk.2 fun y σ1 k1 => ⟨trivial, ?_⟩
    have hcell : ∀ σ2 : MS, (mput h0 m σ2).1 (m + 1 + j) = some (.inl (0, n, .inl (σ2.2.2.1 k))) := fun σ2 => by rw [mput_arr h0 m σ2 (mJ_of k 0 j n hc), mAc_I (c := 0) hc (by decide)]
    have hin : vp_in y n := by have := k1.1; rwa [mLen_of hc] at this
    refine H.1 p1 e _ _ _ 1 (p1 + 1, e, [.inl y, .inr (.inr (some (m + 1 + j))), .inl y, .inr (.inr (some (m + 1 + j)))]) hdup rfl rfl ?_
    refine H.2.2.2.2.1 hl (Or.inl ⟨rfl, rfl⟩) (hcell σ1) hin ⟨by decide, by decide, rfl⟩ ?_
    refine hx.2 e [.inl (σ1.2.2.1 k y.toNatClampNeg), .inl y, .inr (.inr (some (m + 1 + j)))] σ1 _ (Nat.le_refl 3) k1.2 fun v σ2 k2 => ⟨trivial, ?_⟩
    refine H.1 p2 e _ _ _ nn _ hop hn (hp e [.inl y, .inr (.inr (some (m + 1 + j)))] _ v) ?_
    refine H.2.2.2.2.2.2.1 (st := []) (by omega) h2 (hcell σ2) hin ?_
    rw [mput_asI h0 m σ2 (c := 0) hc (by decide)]
    exact (kn _ _ k2).2
theorem mx_ldc2 {v : Int64} (H : ga_HM cc RX5 ini Ω ok mt cr g) (hd : decode cc pc = .ok (.ldc2_w idx, 3)) (hq : Jvm.Cond.constantLong RX5 idx v ∈ lw_all) : gx mle mok (gM g h0 m) vL w pc (pc + 3) (xC v) :=
  ⟨fun K e h hk => ⟨v, h, hk, trivial⟩, fun e st h K hw hk kk => H.2.2.2.2.2.2.2.2.2.2.2.2.2.2.2.2.1 hd hq (kk v h hk).2⟩
theorem mx_ldc {v : Int32} {n : Nat} {oi : Instr} (H : ga_HM cc RX5 ini Ω ok mt cr g) (hd : decode cc pc = .ok (oi, n)) (ho : (oi = .ldc idx ∧ n = 2) ∨ (oi = .ldc_w idx ∧ n = 3)) (hq : Jvm.Cond.constant RX5 idx v ∈ lw_all) : gx mle mok (gM g h0 m) vI w pc (pc + n) (xC v) :=
  ⟨fun K e h hk => ⟨v, h, hk, trivial⟩, fun e st h K hw hk kk => H.2.2.2.2.2.2.2.2.2.2.2.2.2.2.2.2.2.1 hd ho hq (kk v h hk).2⟩
theorem mx_C {α β : Type} {tr : α → Option ga_V} {tv : α → List ga_V} {tb fa : β → List ga_V} {as : ga_Ex MS β} {crm : ga_Cr MS} {y n : Nat} (H : ga_HM cc RX5 ini Ω ok mt cr g) (hok : ∀ σ, ok (mput h0 m σ)) (hcr : ∀ y vs σ r σ', crm y vs σ r σ' → cr y vs (mput h0 m σ) r (mput h0 m σ')) (hw8 : w ≤ 8) (htr : ga_tr tr tv) (h1 : decode cc pc = .ok (.aload_n 0, 1)) (ha : gx mle mok (gM g h0 m) tb (1 + w) (pc + 1) p1 as) (hfa : ∀ x, tb x = (fa x).reverse) (hn : ∀ x, (fa x).length = n) (hd : decode cc p1 = .ok (.invokevirtual idx, 3)) (hf : ga_VC RX5 idx RX5 (mt y) n) (hL : (mt y).2.2.1 ≤ 45) : gx mle mok (gM g h0 m) tv w pc (p1 + 3) (mC tr crm m y fa as) := by
  refine ⟨fun K e σ hk => ?_, fun e st σ K hw hk kk => ?_⟩
  · obtain ⟨x, σ1, ⟨v, σ2, k1, k2⟩, -⟩ := ha.1 _ e σ hk.2
    exact ⟨v, σ2, k2, trivial⟩
  · refine m_this H.1 hk.1 h1 ?_
    refine ha.2 e (.inr (.inr (some m)) :: st) σ _ (by show ga_wt ([.inr (.inr (some m))] ++ st) ≤ _; rw [wt_app]; exact Nat.add_le_add (Nat.le_refl 1) hw) hk.2 fun x σ1 ⟨v, σ2, k1, k2⟩ => ⟨trivial, ?_⟩
    show g p1 e (tb x ++ _) _
    rw [hfa]
    exact H.2.2.2.2.2.2.2.2.2.2.2.2.2.2.2.2.2.2.1 (st := st) (env := e) (vs := fa x) hd hf hL (mput_self h0 m σ1) (hn x) (hcr _ _ _ _ _ k1) (Nat.le_trans hw hw8) (hok σ2) (by rw [htr]; exact (kk _ _ k2).2)
theorem mx_S {α β : Type} {tr : α → Option ga_V} {tv : α → List ga_V} {tb fa : β → List ga_V} {as : ga_Ex MS β} {crm : ga_Cr MS} {y n : Nat} (H : ga_HM cc RX5 ini Ω ok mt cr g) (hok : ∀ σ, ok (mput h0 m σ)) (hcr : ∀ y vs σ r σ', crm y vs σ r σ' → cr y vs (mput h0 m σ) r (mput h0 m σ')) (hw8 : w ≤ 8) (htr : ga_tr tr tv) (ha : gx mle mok (gM g h0 m) tb w pc p1 as) (hfa : ∀ x, tb x = (fa x).reverse) (hn : ∀ x, (fa x).length = n) (hd : decode cc p1 = .ok (.invokestatic idx, 3)) (hf : ga_SC RX5 idx (mt y) n) (hL : (mt y).2.2.1 ≤ 45) : gx mle mok (gM g h0 m) tv w pc (p1 + 3) (hCS tr crm y fa as) := by
  refine ⟨fun K e σ hk => ?_, fun e st σ K hw hk kk => ?_⟩
  · obtain ⟨x, σ1, ⟨v, σ2, k1, k2⟩, -⟩ := ha.1 _ e σ hk
    exact ⟨v, σ2, k2, trivial⟩
  · refine ha.2 e st σ _ hw hk fun x σ1 ⟨v, σ2, k1, k2⟩ => ⟨trivial, ?_⟩
    show g p1 e (tb x ++ _) _
    rw [hfa]
    exact H.2.2.2.2.2.2.2.2.2.2.2.2.2.2.2.2.2.2.2.2.1 (st := st) (env := e) (vs := fa x) hd hf hL (hn x) (hcr _ _ _ _ _ k1) (Nat.le_trans hw hw8) (hok σ2) (by rw [htr]; exact (kk _ _ k2).2)
end MD
