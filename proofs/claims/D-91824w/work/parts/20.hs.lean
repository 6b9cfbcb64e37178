/-! LAYER 1k: statements and calls over the heap -/
section HS
variable {cc : ByteArray} {own : String} {ini : Bool} {Ω : ga_Om} {ok : gH → Prop} {mt : Nat → ga_Mn} {cr : ga_Cr gH} {g : ga_Gt} {rt : Option ga_V → gH → Prop}
variable {w pc p1 p2 p3 p4 idx k pk : Nat} {cs : List Nat} {o : ga_Ex gH (Option Nat)}
theorem fit_int (x : Int32) : narrow .int (.int x) = .int x ∧ fits .int (.int x) = true := ⟨rfl, rfl⟩
theorem fit_long (x : Int64) : narrow .long (.long x) = .long x ∧ fits .long (.long x) = true := ⟨rfl, rfl⟩
theorem fit_bool {x : Int32} (h : x = 0 ∨ x = 1) : narrow .boolean (.int x) = .int x ∧ fits .boolean (.int x) = true := by rcases h with rfl | rfl <;> exact ⟨rfl, rfl⟩
def ga_rty : FieldType → Bool
  | .object _ => true
  | .array _ => true
  | _ => false
theorem fit_ref {ty : FieldType} (h : ga_rty ty = true) (x : Option Nat) : narrow ty (va_rf x) = va_rf x ∧ fits ty (va_rf x) = true := by
  cases ty <;> first | (cases h; done) | (cases x <;> exact ⟨rfl, rfl⟩)
theorem gx_ldc2 {v : Int64} (O : ga_or ga_le ok) (H : ga_HM cc own ini Ω ok mt cr g) (hd : decode cc pc = .ok (.ldc2_w idx, 3)) (hq : Jvm.Cond.constantLong own idx v ∈ lw_all) : gx ga_le ok g vL w pc (pc + 3) (xC v) :=
  ⟨fun K e h hk => ⟨v, h, hk, O.1 h⟩, fun e st h K hw hk kk => H.2.2.2.2.2.2.2.2.2.2.2.2.2.2.2.2.1 hd hq (kk v h hk).2⟩
theorem gx_ldc {v : Int32} {n : Nat} {oi : Instr} (O : ga_or ga_le ok) (H : ga_HM cc own ini Ω ok mt cr g) (hd : decode cc pc = .ok (oi, n)) (ho : (oi = .ldc idx ∧ n = 2) ∨ (oi = .ldc_w idx ∧ n = 3)) (hq : Jvm.Cond.constant own idx v ∈ lw_all) : gx ga_le ok g vI w pc (pc + n) (xC v) :=
  ⟨fun K e h hk => ⟨v, h, hk, O.1 h⟩, fun e st h K hw hk kk => H.2.2.2.2.2.2.2.2.2.2.2.2.2.2.2.2.2.1 hd ho hq (kk v h hk).2⟩
theorem gx_stL {v : Int64} {n d : String} (O : ga_or ga_le ok) (H : ga_HM cc own ini Ω ok mt cr g) (hd : decode cc pc = .ok (.getstatic idx, 3)) (hf : ga_SL own idx n d) (hv : (n, d, .inr (.inl v)) ∈ ga_sts Ω) : gx ga_le ok g vL w pc (pc + 3) (xC v) :=
  ⟨fun K e h hk => ⟨v, h, hk, O.1 h⟩, fun e st h K hw hk kk => H.2.2.2.1 hd hf hv (kk v h hk).2⟩
theorem gx_stR {v : Option Nat} {n d : String} (O : ga_or ga_le ok) (H : ga_HM cc own ini Ω ok mt cr g) (hd : decode cc pc = .ok (.getstatic idx, 3)) (hf : ga_SL own idx n d) (hv : (n, d, .inr (.inr v)) ∈ ga_sts Ω) : gx ga_le ok g vR w pc (pc + 3) (xC v) :=
  ⟨fun K e h hk => ⟨v, h, hk, O.1 h⟩, fun e st h K hw hk kk => H.2.2.2.1 hd hf hv (kk v h hk).2⟩

theorem gs_PI {x : ga_Ex gH Int32} {ty : FieldType} {fin : Bool} (O : ga_or ga_le ok) (H : ga_HM cc own ini Ω ok mt cr g) (ho : gx ga_le ok g vR 0 pc p1 o) (hx : gx ga_le ok g vI 1 p1 p2 x) (hd : decode cc p2 = .ok (.putfield idx, 3)) (hf : ga_FWs own idx k ty fin cs) (hin : fin = true → ini = true) (hty : ty = .int) : gs ga_le ok g rt pc (p2 + 3) pk (sPI cs k o x) := by
  refine ⟨fun N C R e h hk => ?_, fun e h N C R hk kn kc kr => ?_⟩
  · obtain ⟨r, h', h1, h2⟩ := ho.1 _ e h hk
    obtain ⟨v, h3, h4, h5⟩ := hx.1 _ e h' h1
    split at h4
    · exact Or.inl ⟨_, _, Or.inl h4, ga_le_trans h2 (ga_le_trans h5 ga_le_set)⟩
    · cases h4
  · refine ho.2 e [] h _ (Nat.zero_le _) hk fun r h' hv => ?_
    obtain ⟨v, h3, h4, h5⟩ := hx.1 _ e h' hv
    split at h4
    · refine ⟨O.2.2 _ _ (ga_le_trans h5 ga_le_set) (kn _ _ h4).1, ?_⟩
      refine hx.2 e (vR r ++ []) h' _ (by rw [wt_app]; have := wR r; show _ + 0 ≤ 1; omega) hv fun v h6 hx => ?_
      split at hx
      · rename_i a c fs hz
        obtain ⟨rfl, h7, h8⟩ := ga_oO_inv hz
        have K := kn _ _ hx
        refine ⟨O.2.2 _ _ ga_le_set K.1, ?_⟩
        have F : narrow ty (ga_v (.inl v)) = ga_v (.inl v) ∧ fits ty (ga_v (.inl v)) = true := by rw [hty]; exact fit_int v
        exact H.2.2.1 (st := []) hd (hf.at h8) hin h7 F.1 F.2 K.2
      · cases hx
    · cases h4
theorem gs_PZ {x : ga_Ex gH Int32} {ty : FieldType} {fin : Bool} (O : ga_or ga_le ok) (H : ga_HM cc own ini Ω ok mt cr g) (ho : gx ga_le ok g vR 0 pc p1 o) (hx : gx ga_le ok g vI 1 p1 p2 x) (hd : decode cc p2 = .ok (.putfield idx, 3)) (hf : ga_FWs own idx k ty fin cs) (hin : fin = true → ini = true) (hty : ty = .boolean) : gs ga_le ok g rt pc (p2 + 3) pk (sPZ cs k o x) := by
  refine ⟨fun N C R e h hk => ?_, fun e h N C R hk kn kc kr => ?_⟩
  · obtain ⟨r, h', h1, h2⟩ := ho.1 _ e h hk
    obtain ⟨v, h3, h4, h5⟩ := hx.1 _ e h' h1
    split at h4
    · exact Or.inl ⟨_, _, Or.inl h4.2, ga_le_trans h2 (ga_le_trans h5 ga_le_set)⟩
    · cases h4
  · refine ho.2 e [] h _ (Nat.zero_le _) hk fun r h' hv => ?_
    obtain ⟨v, h3, h4, h5⟩ := hx.1 _ e h' hv
    split at h4
    · refine ⟨O.2.2 _ _ (ga_le_trans h5 ga_le_set) (kn _ _ h4.2).1, ?_⟩
      refine hx.2 e (vR r ++ []) h' _ (by rw [wt_app]; have := wR r; show _ + 0 ≤ 1; omega) hv fun v h6 hx => ?_
      split at hx
      · rename_i a c fs hz
        obtain ⟨rfl, h7, h8⟩ := ga_oO_inv hz
        have K := kn _ _ hx.2
        refine ⟨O.2.2 _ _ ga_le_set K.1, ?_⟩
        have F : narrow ty (ga_v (.inl v)) = ga_v (.inl v) ∧ fits ty (ga_v (.inl v)) = true := by rw [hty]; exact fit_bool hx.1
        exact H.2.2.1 (st := []) hd (hf.at h8) hin h7 F.1 F.2 K.2
      · cases hx
    · cases h4
theorem gs_PL {x : ga_Ex gH Int64} {ty : FieldType} {fin : Bool} (O : ga_or ga_le ok) (H : ga_HM cc own ini Ω ok mt cr g) (ho : gx ga_le ok g vR 0 pc p1 o) (hx : gx ga_le ok g vL 1 p1 p2 x) (hd : decode cc p2 = .ok (.putfield idx, 3)) (hf : ga_FWs own idx k ty fin cs) (hin : fin = true → ini = true) (hty : ty = .long) : gs ga_le ok g rt pc (p2 + 3) pk (sPL cs k o x) := by
  refine ⟨fun N C R e h hk => ?_, fun e h N C R hk kn kc kr => ?_⟩
  · obtain ⟨r, h', h1, h2⟩ := ho.1 _ e h hk
    obtain ⟨v, h3, h4, h5⟩ := hx.1 _ e h' h1
    split at h4
    · exact Or.inl ⟨_, _, Or.inl h4, ga_le_trans h2 (ga_le_trans h5 ga_le_set)⟩
    · cases h4
  · refine ho.2 e [] h _ (Nat.zero_le _) hk fun r h' hv => ?_
    obtain ⟨v, h3, h4, h5⟩ := hx.1 _ e h' hv
    split at h4
    · refine ⟨O.2.2 _ _ (ga_le_trans h5 ga_le_set) (kn _ _ h4).1, ?_⟩
      refine hx.2 e (vR r ++ []) h' _ (by rw [wt_app]; have := wR r; show _ + 0 ≤ 1; omega) hv fun v h6 hx => ?_
      split at hx
      · rename_i a c fs hz
        obtain ⟨rfl, h7, h8⟩ := ga_oO_inv hz
        have K := kn _ _ hx
        refine ⟨O.2.2 _ _ ga_le_set K.1, ?_⟩
        have F : narrow ty (ga_v (.inr (.inl v))) = ga_v (.inr (.inl v)) ∧ fits ty (ga_v (.inr (.inl v))) = true := by rw [hty]; exact fit_long v
        exact H.2.2.1 (st := []) hd (hf.at h8) hin h7 F.1 F.2 K.2
      · cases hx
    · cases h4
theorem gs_PR {x : ga_Ex gH (Option Nat)} {ty : FieldType} {fin : Bool} (O : ga_or ga_le ok) (H : ga_HM cc own ini Ω ok mt cr g) (ho : gx ga_le ok g vR 0 pc p1 o) (hx : gx ga_le ok g vR 1 p1 p2 x) (hd : decode cc p2 = .ok (.putfield idx, 3)) (hf : ga_FWs own idx k ty fin cs) (hin : fin = true → ini = true) (hty : ga_rty ty = true) : gs ga_le ok g rt pc (p2 + 3) pk (sPR cs k o x) := by
  refine ⟨fun N C R e h hk => ?_, fun e h N C R hk kn kc kr => ?_⟩
  · obtain ⟨r, h', h1, h2⟩ := ho.1 _ e h hk
    obtain ⟨v, h3, h4, h5⟩ := hx.1 _ e h' h1
    split at h4
    · exact Or.inl ⟨_, _, Or.inl h4, ga_le_trans h2 (ga_le_trans h5 ga_le_set)⟩
    · cases h4
  · refine ho.2 e [] h _ (Nat.zero_le _) hk fun r h' hv => ?_
    obtain ⟨v, h3, h4, h5⟩ := hx.1 _ e h' hv
    split at h4
    · refine ⟨O.2.2 _ _ (ga_le_trans h5 ga_le_set) (kn _ _ h4).1, ?_⟩
      refine hx.2 e (vR r ++ []) h' _ (by rw [wt_app]; have := wR r; show _ + 0 ≤ 1; omega) hv fun v h6 hx => ?_
      split at hx
      · rename_i a c fs hz
        obtain ⟨rfl, h7, h8⟩ := ga_oO_inv hz
        have K := kn _ _ hx
        refine ⟨O.2.2 _ _ ga_le_set K.1, ?_⟩
        have F : narrow ty (ga_v (.inr (.inr v))) = ga_v (.inr (.inr v)) ∧ fits ty (ga_v (.inr (.inr v))) = true := fit_ref hty v
        exact H.2.2.1 (st := []) hd (hf.at h8) hin h7 F.1 F.2 K.2
      · cases hx
    · cases h4
theorem gs_UI {x : ga_Ex gH Int32} {f : Int32 → Int32 → Int32} {n idx2 : Nat} {oi : Instr} (O : ga_or ga_le ok) (H : ga_HM cc own ini Ω ok mt cr g) (ho : gx ga_le ok g vR 0 pc p1 o) (h0 : decode cc p1 = .ok (.dup, 1)) (hg : decode cc (p1 + 1) = .ok (.getfield idx2, 3)) (hf2 : ga_FLs own idx2 k cs) (hx : gx ga_le ok g vI 2 (p1 + 4) p2 x) (hop : decode cc p2 = .ok (oi, n)) (hn : ga_ln oi n = true) (hp : ∀ e st a b, ga_ps oi p2 e (.inl b :: .inl a :: st) = some (p3, e, .inl (f a b) :: st)) (hd : decode cc p3 = .ok (.putfield idx, 3)) (hf : ga_FWs own idx k .int false cs) : gs ga_le ok g rt pc (p3 + 3) pk (sUI f cs k o x) := by
  refine ⟨fun N C R e h hk => ?_, fun e h N C R hk kn kc kr => ?_⟩
  · obtain ⟨r, h', h1, h2⟩ := ho.1 _ e h hk
    split at h1
    · obtain ⟨v, h3, h4, h5⟩ := hx.1 _ e h' h1
      split at h4
      · exact Or.inl ⟨_, _, Or.inl h4, ga_le_trans h2 (ga_le_trans h5 ga_le_set)⟩
      · cases h4
    · cases h1
  · refine ho.2 e [] h _ (Nat.zero_le _) hk fun r h' hv => ?_
    split at hv
    · rename_i v hv0
      obtain ⟨a0, c0, fs0, rfl, g1, g2, g3⟩ := ga_oF_inv hv0
      obtain ⟨v2, h3, h4, h5⟩ := hx.1 _ e h' hv
      split at h4
      · refine ⟨O.2.2 _ _ (ga_le_trans h5 ga_le_set) (kn _ _ h4).1, ?_⟩
        refine H.1 p1 e _ h' _ 1 (p1 + 1, e, [.inr (.inr (some a0)), .inr (.inr (some a0))]) h0 rfl rfl ?_
        refine H.2.1 hg (hf2.at g2) g1 g3 ?_
        refine hx.2 e [.inl v, .inr (.inr (some a0))] h' _ (Nat.le_refl _) hv fun v6 h6 hx => ?_
        split at hx
        · rename_i a c fs hz
          obtain ⟨ea, h7, h8⟩ := ga_oO_inv hz
          cases ea
          have K := kn _ _ hx
          refine ⟨O.2.2 _ _ ga_le_set K.1, ?_⟩
          refine H.1 p2 e _ h6 _ n _ hop hn (hp e [.inr (.inr (some a0))] v v6) ?_
          exact H.2.2.1 (st := []) hd (hf.at h8) (fun q => by cases q) h7 (fit_int _).1 (fit_int _).2 K.2
        · cases hx
      · cases h4
    · cases hv
theorem gs_AI {i : ga_Ex gH Int32} {x : ga_Ex gH Int32} (O : ga_or ga_le ok) (H : ga_HM cc own ini Ω ok mt cr g) (ha : gx ga_le ok g vR 0 pc p1 o) (hi : gx ga_le ok g vI 1 p1 p2 i) (hx : gx ga_le ok g vI 2 p2 p3 x) (hd : decode cc p3 = .ok (.iastore, 1)) : gs ga_le ok g rt pc (p3 + 1) pk (sAI Ω.2.2.1 o i x) := by
  have live : ∀ {N C : ga_Env → gH → Prop} {e : ga_Env} {h : gH} {R : Option ga_V → gH → Prop}, sAI Ω.2.2.1 o i x N C R e h → ∃ e' h', N e' h' ∧ ga_le h h' := by
    intro N C e h R hk
    obtain ⟨r, h', h1, h2⟩ := ha.1 _ e h hk
    obtain ⟨j, h3, h4, h5⟩ := hi.1 _ e h' h1
    obtain ⟨v, h6, h7, h8⟩ := hx.1 _ e h3 h4
    split at h7
    · exact ⟨_, _, h7.2.2, ga_le_trans h2 (ga_le_trans h5 (ga_le_trans h8 ga_le_set))⟩
    · cases h7
  refine ⟨fun N C R e h hk => ?_, fun e h N C R hk kn kc kr => ?_⟩
  · obtain ⟨e', h', h1, h2⟩ := live hk
    exact Or.inl ⟨e', h', Or.inl h1, h2⟩
  · refine ha.2 e [] h _ (Nat.zero_le _) hk fun r h' hv => ?_
    have okI : ∀ h3 j, x (fun v h3 => match ga_aR h3 r 0 with | some (q, n, .inl f) => Ω.2.2.1 ≤ q ∧ vp_in j n ∧ N e (ga_set h3 q (.inl (0, n, .inl (va_up f j.toNatClampNeg v)))) | _ => False) e h3 → ok h3 := by
      intro h3 j h4
      obtain ⟨v, h6, h7, h8⟩ := hx.1 _ e h3 h4
      split at h7
      · exact O.2.2 _ _ (ga_le_trans h8 ga_le_set) (kn _ _ h7.2.2).1
      · cases h7
    obtain ⟨j, h3, h4, h5⟩ := hi.1 _ e h' hv
    refine ⟨O.2.2 _ _ h5 (okI h3 j h4), ?_⟩
    refine hi.2 e (vR r ++ []) h' _ (by rw [wt_app]; have := wR r; show _ + 0 ≤ 1; omega) hv fun j h3 h4 => ⟨okI h3 j h4, ?_⟩
    refine hx.2 e (vI j ++ (vR r ++ [])) h3 _ (by rw [wt_app, wt_app]; have := wR r; have := wI j; show _ + (_ + 0) ≤ 2; omega) h4 fun v h6 h7 => ?_
    split at h7
    · rename_i q n f hq
      obtain ⟨rfl, g1⟩ := ga_aR_inv hq
      have K := kn _ _ h7.2.2
      refine ⟨O.2.2 _ _ ga_le_set K.1, ?_⟩
      exact by
        have hb2 := h7.1
        exact H.2.2.2.2.2.2.1 (st := []) hb2 hd g1 h7.2.1 K.2
    · cases h7
theorem gs_AB {i : ga_Ex gH Int32} {x : ga_Ex gH Int32} (O : ga_or ga_le ok) (H : ga_HM cc own ini Ω ok mt cr g) (ha : gx ga_le ok g vR 0 pc p1 o) (hi : gx ga_le ok g vI 1 p1 p2 i) (hx : gx ga_le ok g vI 2 p2 p3 x) (hd : decode cc p3 = .ok (.bastore, 1)) : gs ga_le ok g rt pc (p3 + 1) pk (sAB Ω.2.2.1 o i x) := by
  have live : ∀ {N C : ga_Env → gH → Prop} {e : ga_Env} {h : gH} {R : Option ga_V → gH → Prop}, sAB Ω.2.2.1 o i x N C R e h → ∃ e' h', N e' h' ∧ ga_le h h' := by
    intro N C e h R hk
    obtain ⟨r, h', h1, h2⟩ := ha.1 _ e h hk
    obtain ⟨j, h3, h4, h5⟩ := hi.1 _ e h' h1
    obtain ⟨v, h6, h7, h8⟩ := hx.1 _ e h3 h4
    split at h7
    · exact ⟨_, _, h7.2.2, ga_le_trans h2 (ga_le_trans h5 (ga_le_trans h8 ga_le_set))⟩
    · cases h7
  refine ⟨fun N C R e h hk => ?_, fun e h N C R hk kn kc kr => ?_⟩
  · obtain ⟨e', h', h1, h2⟩ := live hk
    exact Or.inl ⟨e', h', Or.inl h1, h2⟩
  · refine ha.2 e [] h _ (Nat.zero_le _) hk fun r h' hv => ?_
    have okI : ∀ h3 j, x (fun v h3 => match ga_aR h3 r 2 with | some (q, n, .inl f) => Ω.2.2.1 ≤ q ∧ vp_in j n ∧ N e (ga_set h3 q (.inl (2, n, .inl (va_up f j.toNatClampNeg v.toInt8.toInt32)))) | _ => False) e h3 → ok h3 := by
      intro h3 j h4
      obtain ⟨v, h6, h7, h8⟩ := hx.1 _ e h3 h4
      split at h7
      · exact O.2.2 _ _ (ga_le_trans h8 ga_le_set) (kn _ _ h7.2.2).1
      · cases h7
    obtain ⟨j, h3, h4, h5⟩ := hi.1 _ e h' hv
    refine ⟨O.2.2 _ _ h5 (okI h3 j h4), ?_⟩
    refine hi.2 e (vR r ++ []) h' _ (by rw [wt_app]; have := wR r; show _ + 0 ≤ 1; omega) hv fun j h3 h4 => ⟨okI h3 j h4, ?_⟩
    refine hx.2 e (vI j ++ (vR r ++ [])) h3 _ (by rw [wt_app, wt_app]; have := wR r; have := wI j; show _ + (_ + 0) ≤ 2; omega) h4 fun v h6 h7 => ?_
    split at h7
    · rename_i q n f hq
      obtain ⟨rfl, g1⟩ := ga_aR_inv hq
      have K := kn _ _ h7.2.2
      refine ⟨O.2.2 _ _ ga_le_set K.1, ?_⟩
      exact by
        have hb2 := h7.1
        exact H.2.2.2.2.2.2.2.2.1 (st := []) hb2 hd g1 h7.2.1 K.2
    · cases h7
theorem gs_AZ {i : ga_Ex gH Int32} {x : ga_Ex gH Int32} (O : ga_or ga_le ok) (H : ga_HM cc own ini Ω ok mt cr g) (ha : gx ga_le ok g vR 0 pc p1 o) (hi : gx ga_le ok g vI 1 p1 p2 i) (hx : gx ga_le ok g vI 2 p2 p3 x) (hd : decode cc p3 = .ok (.bastore, 1)) : gs ga_le ok g rt pc (p3 + 1) pk (sAZ Ω.2.2.1 o i x) := by
  have live : ∀ {N C : ga_Env → gH → Prop} {e : ga_Env} {h : gH} {R : Option ga_V → gH → Prop}, sAZ Ω.2.2.1 o i x N C R e h → ∃ e' h', N e' h' ∧ ga_le h h' := by
    intro N C e h R hk
    obtain ⟨r, h', h1, h2⟩ := ha.1 _ e h hk
    obtain ⟨j, h3, h4, h5⟩ := hi.1 _ e h' h1
    obtain ⟨v, h6, h7, h8⟩ := hx.1 _ e h3 h4
    split at h7
    · exact ⟨_, _, h7.2.2.2, ga_le_trans h2 (ga_le_trans h5 (ga_le_trans h8 ga_le_set))⟩
    · cases h7
  refine ⟨fun N C R e h hk => ?_, fun e h N C R hk kn kc kr => ?_⟩
  · obtain ⟨e', h', h1, h2⟩ := live hk
    exact Or.inl ⟨e', h', Or.inl h1, h2⟩
  · refine ha.2 e [] h _ (Nat.zero_le _) hk fun r h' hv => ?_
    have okI : ∀ h3 j, x (fun v h3 => match ga_aR h3 r 3 with | some (q, n, .inl f) => Ω.2.2.1 ≤ q ∧ vp_in j n ∧ (v = 0 ∨ v = 1) ∧ N e (ga_set h3 q (.inl (3, n, .inl (va_up f j.toNatClampNeg v)))) | _ => False) e h3 → ok h3 := by
      intro h3 j h4
      obtain ⟨v, h6, h7, h8⟩ := hx.1 _ e h3 h4
      split at h7
      · exact O.2.2 _ _ (ga_le_trans h8 ga_le_set) (kn _ _ h7.2.2.2).1
      · cases h7
    obtain ⟨j, h3, h4, h5⟩ := hi.1 _ e h' hv
    refine ⟨O.2.2 _ _ h5 (okI h3 j h4), ?_⟩
    refine hi.2 e (vR r ++ []) h' _ (by rw [wt_app]; have := wR r; show _ + 0 ≤ 1; omega) hv fun j h3 h4 => ⟨okI h3 j h4, ?_⟩
    refine hx.2 e (vI j ++ (vR r ++ [])) h3 _ (by rw [wt_app, wt_app]; have := wR r; have := wI j; show _ + (_ + 0) ≤ 2; omega) h4 fun v h6 h7 => ?_
    split at h7
    · rename_i q n f hq
      obtain ⟨rfl, g1⟩ := ga_aR_inv hq
      have K := kn _ _ h7.2.2.2
      refine ⟨O.2.2 _ _ ga_le_set K.1, ?_⟩
      exact by
        have hb2 := h7.1
        exact H.2.2.2.2.2.2.2.2.2.1 (st := []) hb2 h7.2.2.1 hd g1 h7.2.1 K.2
    · cases h7
theorem gs_AL {i : ga_Ex gH Int32} {x : ga_Ex gH Int64} (O : ga_or ga_le ok) (H : ga_HM cc own ini Ω ok mt cr g) (ha : gx ga_le ok g vR 0 pc p1 o) (hi : gx ga_le ok g vI 1 p1 p2 i) (hx : gx ga_le ok g vL 2 p2 p3 x) (hd : decode cc p3 = .ok (.lastore, 1)) : gs ga_le ok g rt pc (p3 + 1) pk (sAL Ω.2.2.1 o i x) := by
  have live : ∀ {N C : ga_Env → gH → Prop} {e : ga_Env} {h : gH} {R : Option ga_V → gH → Prop}, sAL Ω.2.2.1 o i x N C R e h → ∃ e' h', N e' h' ∧ ga_le h h' := by
    intro N C e h R hk
    obtain ⟨r, h', h1, h2⟩ := ha.1 _ e h hk
    obtain ⟨j, h3, h4, h5⟩ := hi.1 _ e h' h1
    obtain ⟨v, h6, h7, h8⟩ := hx.1 _ e h3 h4
    split at h7
    · exact ⟨_, _, h7.2.2, ga_le_trans h2 (ga_le_trans h5 (ga_le_trans h8 ga_le_set))⟩
    · cases h7
  refine ⟨fun N C R e h hk => ?_, fun e h N C R hk kn kc kr => ?_⟩
  · obtain ⟨e', h', h1, h2⟩ := live hk
    exact Or.inl ⟨e', h', Or.inl h1, h2⟩
  · refine ha.2 e [] h _ (Nat.zero_le _) hk fun r h' hv => ?_
    have okI : ∀ h3 j, x (fun v h3 => match ga_aR h3 r 1 with | some (q, n, .inr (.inl f)) => Ω.2.2.1 ≤ q ∧ vp_in j n ∧ N e (ga_set h3 q (.inl (1, n, .inr (.inl (va_up f j.toNatClampNeg v))))) | _ => False) e h3 → ok h3 := by
      intro h3 j h4
      obtain ⟨v, h6, h7, h8⟩ := hx.1 _ e h3 h4
      split at h7
      · exact O.2.2 _ _ (ga_le_trans h8 ga_le_set) (kn _ _ h7.2.2).1
      · cases h7
    obtain ⟨j, h3, h4, h5⟩ := hi.1 _ e h' hv
    refine ⟨O.2.2 _ _ h5 (okI h3 j h4), ?_⟩
    refine hi.2 e (vR r ++ []) h' _ (by rw [wt_app]; have := wR r; show _ + 0 ≤ 1; omega) hv fun j h3 h4 => ⟨okI h3 j h4, ?_⟩
    refine hx.2 e (vI j ++ (vR r ++ [])) h3 _ (by rw [wt_app, wt_app]; have := wR r; have := wI j; show _ + (_ + 0) ≤ 2; omega) h4 fun v h6 h7 => ?_
    split at h7
    · rename_i q n f hq
      obtain ⟨rfl, g1⟩ := ga_aR_inv hq
      have K := kn _ _ h7.2.2
      refine ⟨O.2.2 _ _ ga_le_set K.1, ?_⟩
      exact by
        have hb2 := h7.1
        exact H.2.2.2.2.2.2.2.1 (st := []) hb2 hd g1 h7.2.1 K.2
    · cases h7
theorem gs_AR {i : ga_Ex gH Int32} {x : ga_Ex gH (Option Nat)} (O : ga_or ga_le ok) (H : ga_HM cc own ini Ω ok mt cr g) (hk4 : 4 ≤ k) (hA : ga_Ass (ga_kn k) cs) (ha : gx ga_le ok g vR 0 pc p1 o) (hi : gx ga_le ok g vI 1 p1 p2 i) (hx : gx ga_le ok g vR 2 p2 p3 x) (hd : decode cc p3 = .ok (.aastore, 1)) : gs ga_le ok g rt pc (p3 + 1) pk (sAR Ω.2.2.1 k cs o i x) := by
  have live : ∀ {N C : ga_Env → gH → Prop} {e : ga_Env} {h : gH} {R : Option ga_V → gH → Prop}, sAR Ω.2.2.1 k cs o i x N C R e h → ∃ e' h', N e' h' ∧ ga_le h h' := by
    intro N C e h R hk
    obtain ⟨r, h', h1, h2⟩ := ha.1 _ e h hk
    obtain ⟨j, h3, h4, h5⟩ := hi.1 _ e h' h1
    obtain ⟨v, h6, h7, h8⟩ := hx.1 _ e h3 h4
    split at h7
    · exact ⟨_, _, h7.2.2.2, ga_le_trans h2 (ga_le_trans h5 (ga_le_trans h8 ga_le_set))⟩
    · cases h7
  refine ⟨fun N C R e h hk => ?_, fun e h N C R hk kn kc kr => ?_⟩
  · obtain ⟨e', h', h1, h2⟩ := live hk
    exact Or.inl ⟨e', h', Or.inl h1, h2⟩
  · refine ha.2 e [] h _ (Nat.zero_le _) hk fun r h' hv => ?_
    have okI : ∀ h3 j, x (fun v h3 => match ga_aR h3 r k with | some (q, n, .inr (.inr f)) => Ω.2.2.1 ≤ q ∧ vp_in j n ∧ (v = none ∨ ∃ z, ga_oO h3 v cs = some z) ∧ N e (ga_set h3 q (.inl (k, n, .inr (.inr (va_up f j.toNatClampNeg v))))) | _ => False) e h3 → ok h3 := by
      intro h3 j h4
      obtain ⟨v, h6, h7, h8⟩ := hx.1 _ e h3 h4
      split at h7
      · exact O.2.2 _ _ (ga_le_trans h8 ga_le_set) (kn _ _ h7.2.2.2).1
      · cases h7
    obtain ⟨j, h3, h4, h5⟩ := hi.1 _ e h' hv
    refine ⟨O.2.2 _ _ h5 (okI h3 j h4), ?_⟩
    refine hi.2 e (vR r ++ []) h' _ (by rw [wt_app]; have := wR r; show _ + 0 ≤ 1; omega) hv fun j h3 h4 => ⟨okI h3 j h4, ?_⟩
    refine hx.2 e (vI j ++ (vR r ++ [])) h3 _ (by rw [wt_app, wt_app]; have := wR r; have := wI j; show _ + (_ + 0) ≤ 2; omega) h4 fun v h6 h7 => ?_
    split at h7
    · rename_i q n f hq
      obtain ⟨rfl, g1⟩ := ga_aR_inv hq
      have K := kn _ _ h7.2.2.2
      refine ⟨O.2.2 _ _ ga_le_set K.1, ?_⟩
      exact by
        have hb2 := h7.1
        refine H.2.2.2.2.2.2.2.2.2.2.1 (st := []) hb2 hk4 hd g1 h7.2.1 (fun y hy => ?_) K.2
        subst hy
        rcases h7.2.2.1 with hz | ⟨⟨a2, c2, fs2⟩, hz⟩
        · cases hz
        · obtain ⟨e2, g2, g3⟩ := ga_oO_inv hz
          cases e2
          obtain ⟨q2, g4, g5⟩ := hA.at g3
          exact ⟨c2, fs2, q2, g2, g4, g5⟩
    · cases h7
theorem gs_VI {f : Int32 → Int32 → Int32} {i : ga_Ex gH Int32} {x : ga_Ex gH Int32} {n : Nat} {oi : Instr} (O : ga_or ga_le ok) (H : ga_HM cc own ini Ω ok mt cr g) (ha : gx ga_le ok g vR 0 pc p1 o) (hi : gx ga_le ok g vI 1 p1 p2 i) (h0 : decode cc p2 = .ok (.dup2, 1)) (hl : decode cc (p2 + 1) = .ok (.iaload, 1)) (hx : gx ga_le ok g vI (2 + 1) (p2 + 2) p3 x) (hop : decode cc p3 = .ok (oi, n)) (hn : ga_ln oi n = true) (hp : ∀ e st a b, ga_ps oi p3 e (.inl b :: .inl a :: st) = some (p4, e, .inl (f a b) :: st)) (hd : decode cc p4 = .ok (.iastore, 1)) : gs ga_le ok g rt pc (p4 + 1) pk (sVI f Ω.2.2.1 o i x) := by
  refine ⟨fun N C R e h hk => ?_, fun e h N C R hk kn kc kr => ?_⟩
  · obtain ⟨r, h', h1, h2⟩ := ha.1 _ e h hk
    obtain ⟨j, h3, h4, h5⟩ := hi.1 _ e h' h1
    split at h4
    · obtain ⟨v, h6, h7, h8⟩ := hx.1 _ e h3 h4.2
      split at h7
      · exact Or.inl ⟨_, _, Or.inl h7.2.2, ga_le_trans h2 (ga_le_trans h5 (ga_le_trans h8 ga_le_set))⟩
      · cases h7
    · cases h4
  · refine ha.2 e [] h _ (Nat.zero_le _) hk fun r h' hv => ?_
    have okI : ∀ j h2, (match ga_aR h2 r 0 with | some (_, n, .inl p) => vp_in j n ∧ x (fun v h3 => match ga_aR h3 r 0 with | some (q, n', .inl p') => Ω.2.2.1 ≤ q ∧ vp_in j n' ∧ N e (ga_set h3 q (.inl (0, n', .inl (va_up p' j.toNatClampNeg (f (p j.toNatClampNeg) v))))) | _ => False) e h2 | _ => False) → ok h2 := by
      intro j h2 h4
      split at h4
      · obtain ⟨v, h6, h7, h8⟩ := hx.1 _ e h2 h4.2
        split at h7
        · exact O.2.2 _ _ (ga_le_trans h8 ga_le_set) (kn _ _ h7.2.2).1
        · cases h7
      · cases h4
    obtain ⟨j, h3, h4, h5⟩ := hi.1 _ e h' hv
    refine ⟨O.2.2 _ _ h5 (okI j h3 h4), ?_⟩
    refine hi.2 e (vR r ++ []) h' _ (by rw [wt_app]; have := wR r; show _ + 0 ≤ 1; omega) hv fun j h3 h4 => ⟨okI j h3 h4, ?_⟩
    split at h4
    · rename_i q0 n0 p hq0
      obtain ⟨rfl, g0⟩ := ga_aR_inv hq0
      obtain ⟨hin, h4⟩ := h4
      refine H.1 p2 e _ h3 _ 1 (p2 + 1, e, [.inl j, .inr (.inr (some q0)), .inl j, .inr (.inr (some q0))]) h0 rfl rfl ?_
      refine H.2.2.2.2.1 hl (Or.inl ⟨rfl, rfl⟩) g0 hin ⟨by decide, by decide, rfl⟩ ?_
      refine hx.2 e [.inl (p j.toNatClampNeg), .inl j, .inr (.inr (some q0))] h3 _ (Nat.le_refl _) h4 fun v h6 h7 => ?_
      split at h7
      · rename_i q n' p' hq
        obtain ⟨eq, g1⟩ := ga_aR_inv hq
        cases eq
        have K := kn _ _ h7.2.2
        refine ⟨O.2.2 _ _ ga_le_set K.1, ?_⟩
        refine H.1 p3 e _ h6 _ n _ hop hn (hp e [.inl j, .inr (.inr (some q0))] _ v) ?_
        exact H.2.2.2.2.2.2.1 (st := []) h7.1 hd g1 h7.2.1 K.2
      · cases h7
    · cases h4
theorem gs_VL {f : Int64 → Int64 → Int64} {i : ga_Ex gH Int32} {x : ga_Ex gH Int64} {n : Nat} {oi : Instr} (O : ga_or ga_le ok) (H : ga_HM cc own ini Ω ok mt cr g) (ha : gx ga_le ok g vR 0 pc p1 o) (hi : gx ga_le ok g vI 1 p1 p2 i) (h0 : decode cc p2 = .ok (.dup2, 1)) (hl : decode cc (p2 + 1) = .ok (.laload, 1)) (hx : gx ga_le ok g vL (2 + 2) (p2 + 2) p3 x) (hop : decode cc p3 = .ok (oi, n)) (hn : ga_ln oi n = true) (hp : ∀ e st a b, ga_ps oi p3 e (.inr (.inl b) :: .inr (.inl a) :: st) = some (p4, e, .inr (.inl (f a b)) :: st)) (hd : decode cc p4 = .ok (.lastore, 1)) : gs ga_le ok g rt pc (p4 + 1) pk (sVL f Ω.2.2.1 o i x) := by
  refine ⟨fun N C R e h hk => ?_, fun e h N C R hk kn kc kr => ?_⟩
  · obtain ⟨r, h', h1, h2⟩ := ha.1 _ e h hk
    obtain ⟨j, h3, h4, h5⟩ := hi.1 _ e h' h1
    split at h4
    · obtain ⟨v, h6, h7, h8⟩ := hx.1 _ e h3 h4.2
      split at h7
      · exact Or.inl ⟨_, _, Or.inl h7.2.2, ga_le_trans h2 (ga_le_trans h5 (ga_le_trans h8 ga_le_set))⟩
      · cases h7
    · cases h4
  · refine ha.2 e [] h _ (Nat.zero_le _) hk fun r h' hv => ?_
    have okI : ∀ j h2, (match ga_aR h2 r 1 with | some (_, n, .inr (.inl p)) => vp_in j n ∧ x (fun v h3 => match ga_aR h3 r 1 with | some (q, n', .inr (.inl p')) => Ω.2.2.1 ≤ q ∧ vp_in j n' ∧ N e (ga_set h3 q (.inl (1, n', .inr (.inl (va_up p' j.toNatClampNeg (f (p j.toNatClampNeg) v)))))) | _ => False) e h2 | _ => False) → ok h2 := by
      intro j h2 h4
      split at h4
      · obtain ⟨v, h6, h7, h8⟩ := hx.1 _ e h2 h4.2
        split at h7
        · exact O.2.2 _ _ (ga_le_trans h8 ga_le_set) (kn _ _ h7.2.2).1
        · cases h7
      · cases h4
    obtain ⟨j, h3, h4, h5⟩ := hi.1 _ e h' hv
    refine ⟨O.2.2 _ _ h5 (okI j h3 h4), ?_⟩
    refine hi.2 e (vR r ++ []) h' _ (by rw [wt_app]; have := wR r; show _ + 0 ≤ 1; omega) hv fun j h3 h4 => ⟨okI j h3 h4, ?_⟩
    split at h4
    · rename_i q0 n0 p hq0
      obtain ⟨rfl, g0⟩ := ga_aR_inv hq0
      obtain ⟨hin, h4⟩ := h4
      refine H.1 p2 e _ h3 _ 1 (p2 + 1, e, [.inl j, .inr (.inr (some q0)), .inl j, .inr (.inr (some q0))]) h0 rfl rfl ?_
      refine H.2.2.2.2.1 hl (Or.inr (Or.inl ⟨rfl, rfl⟩)) g0 hin ⟨rfl, rfl⟩ ?_
      refine hx.2 e [.inr (.inl (p j.toNatClampNeg)), .inl j, .inr (.inr (some q0))] h3 _ (Nat.le_refl _) h4 fun v h6 h7 => ?_
      split at h7
      · rename_i q n' p' hq
        obtain ⟨eq, g1⟩ := ga_aR_inv hq
        cases eq
        have K := kn _ _ h7.2.2
        refine ⟨O.2.2 _ _ ga_le_set K.1, ?_⟩
        refine H.1 p3 e _ h6 _ n _ hop hn (hp e [.inl j, .inr (.inr (some q0))] _ v) ?_
        exact H.2.2.2.2.2.2.2.1 (st := []) h7.1 hd g1 h7.2.1 K.2
      · cases h7
    · cases h4
end HS
