/-! LAYER 2: what the printed derivations use beside -/
section G0
variable {η : Type} {le : η → η → Prop} {ok : η → Prop} {g : Nat → ga_Env → List ga_V → η → Prop} {rt : Option ga_V → η → Prop} {cc : ByteArray} {w pc p1 p2 p3 : Nat}
theorem gx_ic {n : Int} {v : Int32} (O : ga_or le ok) (M : ga_M cc g) (hd : decode cc pc = .ok (.iconst n, 1)) (hv : Int32.ofInt n = v) : gx le ok g vI w pc (pc + 1) (xC v) := by
  subst hv; exact gx_push O M hd rfl (fun _ _ => rfl)
theorem gx_bi {n : Int} {v : Int32} (O : ga_or le ok) (M : ga_M cc g) (hd : decode cc pc = .ok (.bipush n, 2)) (hv : (Int8.ofInt n).toInt32 = v) : gx le ok g vI w pc (pc + 2) (xC v) := by
  subst hv; exact gx_push O M hd rfl (fun _ _ => rfl)
theorem gx_si {n : Int} {v : Int32} (O : ga_or le ok) (M : ga_M cc g) (hd : decode cc pc = .ok (.sipush n, 3)) (hv : (Int16.ofInt n).toInt32 = v) : gx le ok g vI w pc (pc + 3) (xC v) := by
  subst hv; exact gx_push O M hd rfl (fun _ _ => rfl)
theorem gx_lc {n : Fin 2} {v : Int64} (O : ga_or le ok) (M : ga_M cc g) (hd : decode cc pc = .ok (.lconst n, 1)) (hv : Int64.ofNat (n : Nat) = v) : gx le ok g vL w pc (pc + 1) (xC v) := by
  subst hv; exact gx_push O M hd rfl (fun _ _ => rfl)
theorem gx_nul (O : ga_or le ok) (M : ga_M cc g) (hd : decode cc pc = .ok (.aconst_null, 1)) : gx le ok g vR w pc (pc + 1) (xC none) := gx_push O M hd rfl (fun _ _ => rfl)
theorem gx_iv_n {k : Fin 4} (O : ga_or le ok) (M : ga_M cc g) (hd : decode cc pc = .ok (.iload_n k, 1)) : gx le ok g vI w pc (pc + 1) (iV k) := gx_iV O M hd rfl (fun _ _ => rfl)
theorem gx_iv {k : Nat} (O : ga_or le ok) (M : ga_M cc g) (hd : decode cc pc = .ok (.iload k, 2)) : gx le ok g vI w pc (pc + 2) (iV k) := gx_iV O M hd rfl (fun _ _ => rfl)
theorem gx_lv_n {k : Fin 4} (O : ga_or le ok) (M : ga_M cc g) (hd : decode cc pc = .ok (.lload_n k, 1)) : gx le ok g vL w pc (pc + 1) (lV k) := gx_lV O M hd rfl (fun _ _ => rfl)
theorem gx_lv {k : Nat} (O : ga_or le ok) (M : ga_M cc g) (hd : decode cc pc = .ok (.lload k, 2)) : gx le ok g vL w pc (pc + 2) (lV k) := gx_lV O M hd rfl (fun _ _ => rfl)
theorem gx_rv_n {k : Fin 4} (O : ga_or le ok) (M : ga_M cc g) (hd : decode cc pc = .ok (.aload_n k, 1)) : gx le ok g vR w pc (pc + 1) (rV k) := gx_rV O M hd rfl (fun _ _ => rfl)
theorem gx_rv {k : Nat} (O : ga_or le ok) (M : ga_M cc g) (hd : decode cc pc = .ok (.aload k, 2)) : gx le ok g vR w pc (pc + 2) (rV k) := gx_rV O M hd rfl (fun _ _ => rfl)
theorem gs_in {k : Fin 4} {pk : Nat} {a : ga_Ex η Int32} (M : ga_M cc g) (ha : gx le ok g vI 0 pc p1 a) (hd : decode cc p1 = .ok (.istore_n k, 1)) : gs le ok g rt pc (p1 + 1) pk (sI k a) := gs_I M ha hd rfl (fun _ _ => rfl)
theorem gs_iw {k : Nat} {pk : Nat} {a : ga_Ex η Int32} (M : ga_M cc g) (ha : gx le ok g vI 0 pc p1 a) (hd : decode cc p1 = .ok (.istore k, 2)) : gs le ok g rt pc (p1 + 2) pk (sI k a) := gs_I M ha hd rfl (fun _ _ => rfl)
theorem gs_ln {k : Fin 4} {pk : Nat} {a : ga_Ex η Int64} (M : ga_M cc g) (ha : gx le ok g vL 0 pc p1 a) (hd : decode cc p1 = .ok (.lstore_n k, 1)) : gs le ok g rt pc (p1 + 1) pk (sL k a) := gs_L M ha hd rfl (fun _ _ => rfl)
theorem gs_lw {k : Nat} {pk : Nat} {a : ga_Ex η Int64} (M : ga_M cc g) (ha : gx le ok g vL 0 pc p1 a) (hd : decode cc p1 = .ok (.lstore k, 2)) : gs le ok g rt pc (p1 + 2) pk (sL k a) := gs_L M ha hd rfl (fun _ _ => rfl)
theorem gs_rn {k : Fin 4} {pk : Nat} {a : ga_Ex η (Option Nat)} (M : ga_M cc g) (ha : gx le ok g vR 0 pc p1 a) (hd : decode cc p1 = .ok (.astore_n k, 1)) : gs le ok g rt pc (p1 + 1) pk (sR k a) := gs_R M ha hd rfl (fun _ _ => rfl)
theorem gs_rw {k : Nat} {pk : Nat} {a : ga_Ex η (Option Nat)} (M : ga_M cc g) (ha : gx le ok g vR 0 pc p1 a) (hd : decode cc p1 = .ok (.astore k, 2)) : gs le ok g rt pc (p1 + 2) pk (sR k a) := gs_R M ha hd rfl (fun _ _ => rfl)
theorem gx_ii {f : Int32 → Int32 → Int32} {i : Instr} {a b : ga_Ex η Int32} (O : ga_or le ok) (M : ga_M cc g) (ha : gx le ok g vI w pc p1 a) (hb : gx le ok g vI (1 + w) p1 p2 b) (hd : decode cc p2 = .ok (i, 1)) (hn : ga_ln i 1 = true) (hp : ∀ e st x y, ga_ps i p2 e (.inl y :: .inl x :: st) = some (p2 + 1, e, .inl (f x y) :: st)) : gx le ok g vI w pc (p2 + 1) (x2 f a b) := gx_op' O M wI ha hb hd hn hp
theorem gx_ll {f : Int64 → Int64 → Int64} {i : Instr} {a b : ga_Ex η Int64} (O : ga_or le ok) (M : ga_M cc g) (ha : gx le ok g vL w pc p1 a) (hb : gx le ok g vL (2 + w) p1 p2 b) (hd : decode cc p2 = .ok (i, 1)) (hn : ga_ln i 1 = true) (hp : ∀ e st x y, ga_ps i p2 e (.inr (.inl y) :: .inr (.inl x) :: st) = some (p2 + 1, e, .inr (.inl (f x y)) :: st)) : gx le ok g vL w pc (p2 + 1) (x2 f a b) := gx_op' O M wL ha hb hd hn hp
theorem gx_li {f : Int64 → Int32 → Int64} {i : Instr} {a : ga_Ex η Int64} {b : ga_Ex η Int32} (O : ga_or le ok) (M : ga_M cc g) (ha : gx le ok g vL w pc p1 a) (hb : gx le ok g vI (2 + w) p1 p2 b) (hd : decode cc p2 = .ok (i, 1)) (hn : ga_ln i 1 = true) (hp : ∀ e st x y, ga_ps i p2 e (.inl y :: .inr (.inl x) :: st) = some (p2 + 1, e, .inr (.inl (f x y)) :: st)) : gx le ok g vL w pc (p2 + 1) (x2 f a b) := gx_op' O M wL ha hb hd hn hp
theorem gx_idiv {a b : ga_Ex η Int32} (O : ga_or le ok) (M : ga_M cc g) (ha : gx le ok g vI w pc p1 a) (hb : gx le ok g vI (1 + w) p1 p2 b) (hd : decode cc p2 = .ok (.idiv, 1)) : gx le ok g vI w pc (p2 + 1) (x2p (fun y => ¬ y = 0) (fun x y => x / y) a b) := gx_op O M wI ha hb hd rfl (fun e st x y h => by
  show ga_go (p2 + 1) e (ga_II (.inl y :: .inl x :: st) fun x y => if y = 0 then none else some (.inl (x / y))) = _
  simp [ga_go, ga_II, h, vI])
theorem gx_irem {a b : ga_Ex η Int32} (O : ga_or le ok) (M : ga_M cc g) (ha : gx le ok g vI w pc p1 a) (hb : gx le ok g vI (1 + w) p1 p2 b) (hd : decode cc p2 = .ok (.irem, 1)) : gx le ok g vI w pc (p2 + 1) (x2p (fun y => ¬ y = 0) (fun x y => x - x / y * y) a b) := gx_op O M wI ha hb hd rfl (fun e st x y h => by
  show ga_go (p2 + 1) e (ga_II (.inl y :: .inl x :: st) fun x y => if y = 0 then none else some (.inl (x - x / y * y))) = _
  simp [ga_go, ga_II, h, vI])
theorem gx_ldiv {a b : ga_Ex η Int64} (O : ga_or le ok) (M : ga_M cc g) (ha : gx le ok g vL w pc p1 a) (hb : gx le ok g vL (2 + w) p1 p2 b) (hd : decode cc p2 = .ok (.ldiv, 1)) : gx le ok g vL w pc (p2 + 1) (x2p (fun y => ¬ y = 0) (fun x y => x / y) a b) := gx_op O M wL ha hb hd rfl (fun e st x y h => by
  show ga_go (p2 + 1) e (ga_LL (.inr (.inl y) :: .inr (.inl x) :: st) fun x y => if y = 0 then none else some (.inr (.inl (x / y)))) = _
  simp [ga_go, ga_LL, h, vL])
theorem gx_lrem {a b : ga_Ex η Int64} (O : ga_or le ok) (M : ga_M cc g) (ha : gx le ok g vL w pc p1 a) (hb : gx le ok g vL (2 + w) p1 p2 b) (hd : decode cc p2 = .ok (.lrem, 1)) : gx le ok g vL w pc (p2 + 1) (x2p (fun y => ¬ y = 0) (fun x y => x - x / y * y) a b) := gx_op O M wL ha hb hd rfl (fun e st x y h => by
  show ga_go (p2 + 1) e (ga_LL (.inr (.inl y) :: .inr (.inl x) :: st) fun x y => if y = 0 then none else some (.inr (.inl (x - x / y * y)))) = _
  simp [ga_go, ga_LL, h, vL])
theorem gx_i2l {a : ga_Ex η Int32} (M : ga_M cc g) (ha : gx le ok g vI w pc p1 a) (hd : decode cc p1 = .ok (.i2l, 1)) : gx le ok g vL w pc (p1 + 1) (x1 (fun x : Int32 => x.toInt64) a) := gx_un M ha hd rfl (fun _ _ _ => rfl)
theorem gx_l2i {a : ga_Ex η Int64} (M : ga_M cc g) (ha : gx le ok g vL w pc p1 a) (hd : decode cc p1 = .ok (.l2i, 1)) : gx le ok g vI w pc (p1 + 1) (x1 (fun x : Int64 => x.toInt32) a) := gx_un M ha hd rfl (fun _ _ _ => rfl)
theorem gx_i2b {a : ga_Ex η Int32} (M : ga_M cc g) (ha : gx le ok g vI w pc p1 a) (hd : decode cc p1 = .ok (.i2b, 1)) : gx le ok g vI w pc (p1 + 1) (x1 (fun x : Int32 => x.toInt8.toInt32) a) := gx_un M ha hd rfl (fun _ _ _ => rfl)
theorem gx_ineg {a : ga_Ex η Int32} (M : ga_M cc g) (ha : gx le ok g vI w pc p1 a) (hd : decode cc p1 = .ok (.ineg, 1)) : gx le ok g vI w pc (p1 + 1) (x1 (fun x : Int32 => -x) a) := gx_un M ha hd rfl (fun _ _ _ => rfl)
theorem gx_lneg {a : ga_Ex η Int64} (M : ga_M cc g) (ha : gx le ok g vL w pc p1 a) (hd : decode cc p1 = .ok (.lneg, 1)) : gx le ok g vL w pc (p1 + 1) (x1 (fun x : Int64 => -x) a) := gx_un M ha hd rfl (fun _ _ _ => rfl)
def cIte (c a b : ga_Co η) : ga_Co η := fun T F e h => c (fun h1 => a T F e h1) (fun h1 => b T F e h1) e h
theorem gc_ite {c a b : ga_Co η} {qa qb pt pf : Nat} (O : ga_or le ok) (hc : gc le ok g w pc qa qb c) (ha : gc le ok g w qa pt pf a) (hb : gc le ok g w qb pt pf b) : gc le ok g w pc pt pf (cIte c a b) := by
  have okA : ∀ {T F : η → Prop} {e : ga_Env} {h : η}, (∀ h, T h → ok h) → (∀ h, F h → ok h) → a T F e h → ok h := fun kt kf q => by
    obtain ⟨h3, h4 | h4, h5⟩ := ha.1 _ _ _ _ q
    · exact O.2.2 _ _ h5 (kt _ h4)
    · exact O.2.2 _ _ h5 (kf _ h4)
  have okB : ∀ {T F : η → Prop} {e : ga_Env} {h : η}, (∀ h, T h → ok h) → (∀ h, F h → ok h) → b T F e h → ok h := fun kt kf q => by
    obtain ⟨h3, h4 | h4, h5⟩ := hb.1 _ _ _ _ q
    · exact O.2.2 _ _ h5 (kt _ h4)
    · exact O.2.2 _ _ h5 (kf _ h4)
  refine ⟨fun T F e h hk => ?_, fun e st h T F hw hk kt kf => ?_⟩
  · obtain ⟨h', h1 | h1, h2⟩ := hc.1 _ _ e h hk
    · obtain ⟨h3, h4, h5⟩ := ha.1 _ _ e h' h1
      exact ⟨h3, h4, O.2.1 _ _ _ h2 h5⟩
    · obtain ⟨h3, h4, h5⟩ := hb.1 _ _ e h' h1
      exact ⟨h3, h4, O.2.1 _ _ _ h2 h5⟩
  · exact hc.2 e st h _ _ hw hk (fun h' h1 => ⟨okA (fun h q => (kt h q).1) (fun h q => (kf h q).1) h1, ha.2 e st h' T F hw h1 kt kf⟩) (fun h' h1 => ⟨okB (fun h q => (kt h q).1) (fun h q => (kf h q).1) h1, hb.2 e st h' T F hw h1 kt kf⟩)
theorem ga_swD_full {pc pd n : Nat} {d : Int} {offs : Array Int} {ls : List (Int32 × Nat)} (h1 : (pc : Int) + d = (pd : Int)) (hn : n < 1000) (h2 : ∀ i, i < n + 1 → ∃ q ∈ ls, q.1 = Int32.ofNat i) : ga_swD pc pd d 0 (n : Int) offs ls := by
  refine ⟨h1, fun x h3 h4 h5 => ?_⟩
  exfalso
  obtain ⟨q, hq, he⟩ := h2 x.toInt.toNat (by omega)
  refine h5 q hq ?_
  rw [he]
  apply Int32.toInt_inj.mp
  have := nI_toInt (n := x.toInt.toNat) (by omega)
  unfold nI at this
  rw [this]
  omega
end G0
