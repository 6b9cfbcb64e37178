/-! LAYER 4c: how each method is run. Printed by gen/jmain.py -/
section RK
variable {η : Type}
def rkI (Q : Int32 → η → Prop) : Option ga_V → η → Prop
  | some (.inl v), h => Q v h
  | _, _ => False
def rkL (Q : Int64 → η → Prop) : Option ga_V → η → Prop
  | some (.inr (.inl v)), h => Q v h
  | _, _ => False
def rkR (Q : Option Nat → η → Prop) : Option ga_V → η → Prop
  | some (.inr (.inr v)), h => Q v h
  | _, _ => False
def rkU (Q : η → Prop) : Option ga_V → η → Prop
  | none, h => Q h
  | _, _ => False
theorem rkI_inv {Q : Int32 → η → Prop} : ∀ {r h}, rkI Q r h → ∃ v, r = some (.inl v) ∧ Q v h
  | some (.inl v), _, q => ⟨v, rfl, q⟩
  | some (.inr _), _, q => q.elim
  | none, _, q => q.elim
theorem rkL_inv {Q : Int64 → η → Prop} : ∀ {r h}, rkL Q r h → ∃ v, r = some (.inr (.inl v)) ∧ Q v h
  | some (.inr (.inl v)), _, q => ⟨v, rfl, q⟩
  | some (.inr (.inr _)), _, q => q.elim
  | some (.inl _), _, q => q.elim
  | none, _, q => q.elim
theorem rkR_inv {Q : Option Nat → η → Prop} : ∀ {r h}, rkR Q r h → ∃ v, r = some (.inr (.inr v)) ∧ Q v h
  | some (.inr (.inr v)), _, q => ⟨v, rfl, q⟩
  | some (.inr (.inl _)), _, q => q.elim
  | some (.inl _), _, q => q.elim
  | none, _, q => q.elim
theorem rkU_inv {Q : η → Prop} : ∀ {r h}, rkU Q r h → r = none ∧ Q h
  | none, _, q => ⟨rfl, q⟩
  | some _, _, q => q.elim
end RK
theorem RN_at {b : Nat} {sa : Nat → Nat} {d y L : Nat} {vs : List ga_V} {h : ga_H} {S : ga_Sm gH} {env : ga_Env} {rt : Option FieldType} (hy : y < 273) (him : ga_im y = false) (hS : ga_bd b sa (RN b sa d) y = S) (hL : (ga_mt y).2.2.1 = L) (hR : (ga_mt y).2.2.2 = rt) (hsz : Nat.ble (ga_sz vs) L = true) (hE : ga_ent vs L = env) (Q : Option ga_V → ga_H → Prop) (hQ : ∀ r h', Q r h' → ga_rok rt r) (hk : S (fun _ _ => False) (fun _ _ => False) Q env h) : ∃ r h', RN b sa (d + 1) y vs h r h' ∧ Q r h' := by
  subst hS; subst hL; subst hR; subst hE
  exact RN_go hy him (Nat.le_of_ble_eq_true hsz) Q hQ hk
theorem RM_at {m d y L : Nat} {vs : List ga_V} {h : MS} {S : ga_Sm MS} {env : ga_Env} {rt : Option FieldType} (hy : y < 273) (him : ga_im y = true) (hS : ga_md (RM m d) m y = S) (hL : (ga_mt y).2.2.1 = L) (hR : (ga_mt y).2.2.2 = rt) (hsz : Nat.ble (ga_sz vs) L = true) (hE : ga_ent vs L = env) (Q : Option ga_V → MS → Prop) (hQ : ∀ r h', Q r h' → ga_rok rt r) (hk : S (fun _ _ => False) (fun _ _ => False) Q env h) : ∃ r h', RM m (d + 1) y vs h r h' ∧ Q r h' := by
  subst hS; subst hL; subst hR; subst hE
  exact RM_go hy him (Nat.le_of_ble_eq_true hsz) Q hQ hk
theorem go_0 {b d : Nat} {sa : Nat → Nat} {h : gH} {x0 : Int32} {x1 : Int32} {x2 : Int32} (Q : Int32 → gH → Prop) (hQ : ∀ v h, Q v h → v = 0 ∨ v = 1) (hk : bd_0 b sa (RN b sa d) (fun _ _ => False) (fun _ _ => False) (rkI Q) [some (.inl x0), some (.inl x1), some (.inl x2)] h) : ∃ v h', RN b sa (d + 1) 0 [.inl x0, .inl x1, .inl x2] h (some (.inl v)) h' ∧ Q v h' := by
  obtain ⟨r, h', q1, q2⟩ := RN_at (y := 0) (L := 3) (vs := [.inl x0, .inl x1, .inl x2]) (S := bd_0 b sa (RN b sa d)) (env := [some (.inl x0), some (.inl x1), some (.inl x2)]) (rt := (some .boolean)) (by decide) rfl rfl rfl rfl rfl rfl (rkI Q) (fun r h q => by obtain ⟨v, rfl, q⟩ := rkI_inv q; exact hQ v h q) hk
  obtain ⟨v, rfl, q2⟩ := rkI_inv q2
  exact ⟨v, h', q1, q2⟩
theorem go_1 {b d : Nat} {sa : Nat → Nat} {h : gH} {x0 : Int32} {x1 : Int32} (Q : Int32 → gH → Prop) (hQ : ∀ v h, Q v h → v = 0 ∨ v = 1) (hk : bd_1 b sa (RN b sa d) (fun _ _ => False) (fun _ _ => False) (rkI Q) [some (.inl x0), some (.inl x1)] h) : ∃ v h', RN b sa (d + 1) 1 [.inl x0, .inl x1] h (some (.inl v)) h' ∧ Q v h' := by
  obtain ⟨r, h', q1, q2⟩ := RN_at (y := 1) (L := 2) (vs := [.inl x0, .inl x1]) (S := bd_1 b sa (RN b sa d)) (env := [some (.inl x0), some (.inl x1)]) (rt := (some .boolean)) (by decide) rfl rfl rfl rfl rfl rfl (rkI Q) (fun r h q => by obtain ⟨v, rfl, q⟩ := rkI_inv q; exact hQ v h q) hk
  obtain ⟨v, rfl, q2⟩ := rkI_inv q2
  exact ⟨v, h', q1, q2⟩
theorem go_2 {b d : Nat} {sa : Nat → Nat} {h : gH} {x0 : Option Nat} {x1 : Int64} (Q : Int32 → gH → Prop) (hk : bd_2 b sa (RN b sa d) (fun _ _ => False) (fun _ _ => False) (rkI Q) [some (.inr (.inr x0)), some (.inr (.inl x1)), none, none] h) : ∃ v h', RN b sa (d + 1) 2 [.inr (.inr x0), .inr (.inl x1)] h (some (.inl v)) h' ∧ Q v h' := by
  obtain ⟨r, h', q1, q2⟩ := RN_at (y := 2) (L := 4) (vs := [.inr (.inr x0), .inr (.inl x1)]) (S := bd_2 b sa (RN b sa d)) (env := [some (.inr (.inr x0)), some (.inr (.inl x1)), none, none]) (rt := (some .int)) (by decide) rfl rfl rfl rfl rfl rfl (rkI Q) (fun r h q => by obtain ⟨v, rfl, q⟩ := rkI_inv q; exact trivial) hk
  obtain ⟨v, rfl, q2⟩ := rkI_inv q2
  exact ⟨v, h', q1, q2⟩
theorem go_3 {b d : Nat} {sa : Nat → Nat} {h : gH} {x0 : Option Nat} {x1 : Int32} {x2 : Int32} (Q : Int32 → gH → Prop) (hQ : ∀ v h, Q v h → v = 0 ∨ v = 1) (hk : bd_3 b sa (RN b sa d) (fun _ _ => False) (fun _ _ => False) (rkI Q) [some (.inr (.inr x0)), some (.inl x1), some (.inl x2)] h) : ∃ v h', RN b sa (d + 1) 3 [.inr (.inr x0), .inl x1, .inl x2] h (some (.inl v)) h' ∧ Q v h' := by
  obtain ⟨r, h', q1, q2⟩ := RN_at (y := 3) (L := 3) (vs := [.inr (.inr x0), .inl x1, .inl x2]) (S := bd_3 b sa (RN b sa d)) (env := [some (.inr (.inr x0)), some (.inl x1), some (.inl x2)]) (rt := (some .boolean)) (by decide) rfl rfl rfl rfl rfl rfl (rkI Q) (fun r h q => by obtain ⟨v, rfl, q⟩ := rkI_inv q; exact hQ v h q) hk
  obtain ⟨v, rfl, q2⟩ := rkI_inv q2
  exact ⟨v, h', q1, q2⟩
theorem go_4 {b d : Nat} {sa : Nat → Nat} {h : gH} {x0 : Option Nat} {x1 : Int32} {x2 : Int32} {x3 : Int32} {x4 : Int32} {x5 : Int32} (Q : Int32 → gH → Prop) (hk : bd_4 b sa (RN b sa d) (fun _ _ => False) (fun _ _ => False) (rkI Q) [some (.inr (.inr x0)), some (.inl x1), some (.inl x2), some (.inl x3), some (.inl x4), some (.inl x5), none, none] h) : ∃ v h', RN b sa (d + 1) 4 [.inr (.inr x0), .inl x1, .inl x2, .inl x3, .inl x4, .inl x5] h (some (.inl v)) h' ∧ Q v h' := by
  obtain ⟨r, h', q1, q2⟩ := RN_at (y := 4) (L := 8) (vs := [.inr (.inr x0), .inl x1, .inl x2, .inl x3, .inl x4, .inl x5]) (S := bd_4 b sa (RN b sa d)) (env := [some (.inr (.inr x0)), some (.inl x1), some (.inl x2), some (.inl x3), some (.inl x4), some (.inl x5), none, none]) (rt := (some .int)) (by decide) rfl rfl rfl rfl rfl rfl (rkI Q) (fun r h q => by obtain ⟨v, rfl, q⟩ := rkI_inv q; exact trivial) hk
  obtain ⟨v, rfl, q2⟩ := rkI_inv q2
  exact ⟨v, h', q1, q2⟩
theorem go_5 {b d : Nat} {sa : Nat → Nat} {h : gH} {x0 : Option Nat} {x1 : Int32} {x2 : Int32} (Q : Int32 → gH → Prop) (hk : bd_5 b sa (RN b sa d) (fun _ _ => False) (fun _ _ => False) (rkI Q) [some (.inr (.inr x0)), some (.inl x1), some (.inl x2), none, none] h) : ∃ v h', RN b sa (d + 1) 5 [.inr (.inr x0), .inl x1, .inl x2] h (some (.inl v)) h' ∧ Q v h' := by
  obtain ⟨r, h', q1, q2⟩ := RN_at (y := 5) (L := 5) (vs := [.inr (.inr x0), .inl x1, .inl x2]) (S := bd_5 b sa (RN b sa d)) (env := [some (.inr (.inr x0)), some (.inl x1), some (.inl x2), none, none]) (rt := (some .int)) (by decide) rfl rfl rfl rfl rfl rfl (rkI Q) (fun r h q => by obtain ⟨v, rfl, q⟩ := rkI_inv q; exact trivial) hk
  obtain ⟨v, rfl, q2⟩ := rkI_inv q2
  exact ⟨v, h', q1, q2⟩
theorem go_6 {b d : Nat} {sa : Nat → Nat} {h : gH} {x0 : Option Nat} {x1 : Int32} {x2 : Int32} {x3 : Int32} (Q : Option Nat → gH → Prop) (hk : bd_6 b sa (RN b sa d) (fun _ _ => False) (fun _ _ => False) (rkR Q) [some (.inr (.inr x0)), some (.inl x1), some (.inl x2), some (.inl x3), none, none] h) : ∃ v h', RN b sa (d + 1) 6 [.inr (.inr x0), .inl x1, .inl x2, .inl x3] h (some (.inr (.inr v))) h' ∧ Q v h' := by
  obtain ⟨r, h', q1, q2⟩ := RN_at (y := 6) (L := 6) (vs := [.inr (.inr x0), .inl x1, .inl x2, .inl x3]) (S := bd_6 b sa (RN b sa d)) (env := [some (.inr (.inr x0)), some (.inl x1), some (.inl x2), some (.inl x3), none, none]) (rt := (some (.object "LoanNames$Law"))) (by decide) rfl rfl rfl rfl rfl rfl (rkR Q) (fun r h q => by obtain ⟨v, rfl, q⟩ := rkR_inv q; exact trivial) hk
  obtain ⟨v, rfl, q2⟩ := rkR_inv q2
  exact ⟨v, h', q1, q2⟩
theorem go_7 {b d : Nat} {sa : Nat → Nat} {h : gH} {x0 : Option Nat} {x1 : Int32} (Q : Int32 → gH → Prop) (hk : bd_7 b sa (RN b sa d) (fun _ _ => False) (fun _ _ => False) (rkI Q) [some (.inr (.inr x0)), some (.inl x1), none] h) : ∃ v h', RN b sa (d + 1) 7 [.inr (.inr x0), .inl x1] h (some (.inl v)) h' ∧ Q v h' := by
  obtain ⟨r, h', q1, q2⟩ := RN_at (y := 7) (L := 3) (vs := [.inr (.inr x0), .inl x1]) (S := bd_7 b sa (RN b sa d)) (env := [some (.inr (.inr x0)), some (.inl x1), none]) (rt := (some .int)) (by decide) rfl rfl rfl rfl rfl rfl (rkI Q) (fun r h q => by obtain ⟨v, rfl, q⟩ := rkI_inv q; exact trivial) hk
  obtain ⟨v, rfl, q2⟩ := rkI_inv q2
  exact ⟨v, h', q1, q2⟩
theorem go_8 {b d : Nat} {sa : Nat → Nat} {h : gH} {x0 : Option Nat} {x1 : Int32} (Q : Int32 → gH → Prop) (hk : bd_8 b sa (RN b sa d) (fun _ _ => False) (fun _ _ => False) (rkI Q) [some (.inr (.inr x0)), some (.inl x1), none] h) : ∃ v h', RN b sa (d + 1) 8 [.inr (.inr x0), .inl x1] h (some (.inl v)) h' ∧ Q v h' := by
  obtain ⟨r, h', q1, q2⟩ := RN_at (y := 8) (L := 3) (vs := [.inr (.inr x0), .inl x1]) (S := bd_8 b sa (RN b sa d)) (env := [some (.inr (.inr x0)), some (.inl x1), none]) (rt := (some .int)) (by decide) rfl rfl rfl rfl rfl rfl (rkI Q) (fun r h q => by obtain ⟨v, rfl, q⟩ := rkI_inv q; exact trivial) hk
  obtain ⟨v, rfl, q2⟩ := rkI_inv q2
  exact ⟨v, h', q1, q2⟩
theorem go_9 {b d : Nat} {sa : Nat → Nat} {h : gH} {x0 : Option Nat} (Q : Int32 → gH → Prop) (hk : bd_9 b sa (RN b sa d) (fun _ _ => False) (fun _ _ => False) (rkI Q) [some (.inr (.inr x0))] h) : ∃ v h', RN b sa (d + 1) 9 [.inr (.inr x0)] h (some (.inl v)) h' ∧ Q v h' := by
  obtain ⟨r, h', q1, q2⟩ := RN_at (y := 9) (L := 1) (vs := [.inr (.inr x0)]) (S := bd_9 b sa (RN b sa d)) (env := [some (.inr (.inr x0))]) (rt := (some .int)) (by decide) rfl rfl rfl rfl rfl rfl (rkI Q) (fun r h q => by obtain ⟨v, rfl, q⟩ := rkI_inv q; exact trivial) hk
  obtain ⟨v, rfl, q2⟩ := rkI_inv q2
  exact ⟨v, h', q1, q2⟩
theorem go_10 {b d : Nat} {sa : Nat → Nat} {h : gH} {x0 : Option Nat} {x1 : Int32} (Q : Option Nat → gH → Prop) (hk : bd_10 b sa (RN b sa d) (fun _ _ => False) (fun _ _ => False) (rkR Q) [some (.inr (.inr x0)), some (.inl x1)] h) : ∃ v h', RN b sa (d + 1) 10 [.inr (.inr x0), .inl x1] h (some (.inr (.inr v))) h' ∧ Q v h' := by
  obtain ⟨r, h', q1, q2⟩ := RN_at (y := 10) (L := 2) (vs := [.inr (.inr x0), .inl x1]) (S := bd_10 b sa (RN b sa d)) (env := [some (.inr (.inr x0)), some (.inl x1)]) (rt := (some (.object "LoanNames$Deal"))) (by decide) rfl rfl rfl rfl rfl rfl (rkR Q) (fun r h q => by obtain ⟨v, rfl, q⟩ := rkR_inv q; exact trivial) hk
  obtain ⟨v, rfl, q2⟩ := rkR_inv q2
  exact ⟨v, h', q1, q2⟩
theorem go_11 {b d : Nat} {sa : Nat → Nat} {h : gH} {x0 : Option Nat} {x1 : Option Nat} (Q : Int32 → gH → Prop) (hk : bd_11 b sa (RN b sa d) (fun _ _ => False) (fun _ _ => False) (rkI Q) [some (.inr (.inr x0)), some (.inr (.inr x1)), none, none] h) : ∃ v h', RN b sa (d + 1) 11 [.inr (.inr x0), .inr (.inr x1)] h (some (.inl v)) h' ∧ Q v h' := by
  obtain ⟨r, h', q1, q2⟩ := RN_at (y := 11) (L := 4) (vs := [.inr (.inr x0), .inr (.inr x1)]) (S := bd_11 b sa (RN b sa d)) (env := [some (.inr (.inr x0)), some (.inr (.inr x1)), none, none]) (rt := (some .int)) (by decide) rfl rfl rfl rfl rfl rfl (rkI Q) (fun r h q => by obtain ⟨v, rfl, q⟩ := rkI_inv q; exact trivial) hk
  obtain ⟨v, rfl, q2⟩ := rkI_inv q2
  exact ⟨v, h', q1, q2⟩
theorem go_12 {b d : Nat} {sa : Nat → Nat} {h : gH} {x0 : Option Nat} {x1 : Int32} {x2 : Int32} (Q : Int32 → gH → Prop) (hk : bd_12 b sa (RN b sa d) (fun _ _ => False) (fun _ _ => False) (rkI Q) [some (.inr (.inr x0)), some (.inl x1), some (.inl x2), none] h) : ∃ v h', RN b sa (d + 1) 12 [.inr (.inr x0), .inl x1, .inl x2] h (some (.inl v)) h' ∧ Q v h' := by
  obtain ⟨r, h', q1, q2⟩ := RN_at (y := 12) (L := 4) (vs := [.inr (.inr x0), .inl x1, .inl x2]) (S := bd_12 b sa (RN b sa d)) (env := [some (.inr (.inr x0)), some (.inl x1), some (.inl x2), none]) (rt := (some .int)) (by decide) rfl rfl rfl rfl rfl rfl (rkI Q) (fun r h q => by obtain ⟨v, rfl, q⟩ := rkI_inv q; exact trivial) hk
  obtain ⟨v, rfl, q2⟩ := rkI_inv q2
  exact ⟨v, h', q1, q2⟩
theorem go_13 {b d : Nat} {sa : Nat → Nat} {h : gH} {x0 : Option Nat} {x1 : Int32} {x2 : Int32} {x3 : Int32} (Q : Int32 → gH → Prop) (hk : bd_13 b sa (RN b sa d) (fun _ _ => False) (fun _ _ => False) (rkI Q) [some (.inr (.inr x0)), some (.inl x1), some (.inl x2), some (.inl x3), none, none] h) : ∃ v h', RN b sa (d + 1) 13 [.inr (.inr x0), .inl x1, .inl x2, .inl x3] h (some (.inl v)) h' ∧ Q v h' := by
  obtain ⟨r, h', q1, q2⟩ := RN_at (y := 13) (L := 6) (vs := [.inr (.inr x0), .inl x1, .inl x2, .inl x3]) (S := bd_13 b sa (RN b sa d)) (env := [some (.inr (.inr x0)), some (.inl x1), some (.inl x2), some (.inl x3), none, none]) (rt := (some .int)) (by decide) rfl rfl rfl rfl rfl rfl (rkI Q) (fun r h q => by obtain ⟨v, rfl, q⟩ := rkI_inv q; exact trivial) hk
  obtain ⟨v, rfl, q2⟩ := rkI_inv q2
  exact ⟨v, h', q1, q2⟩
theorem go_14 {b d : Nat} {sa : Nat → Nat} {h : gH} {x0 : Option Nat} {x1 : Int32} {x2 : Int32} (Q : Int32 → gH → Prop) (hk : bd_14 b sa (RN b sa d) (fun _ _ => False) (fun _ _ => False) (rkI Q) [some (.inr (.inr x0)), some (.inl x1), some (.inl x2), none, none, none, none] h) : ∃ v h', RN b sa (d + 1) 14 [.inr (.inr x0), .inl x1, .inl x2] h (some (.inl v)) h' ∧ Q v h' := by
  obtain ⟨r, h', q1, q2⟩ := RN_at (y := 14) (L := 7) (vs := [.inr (.inr x0), .inl x1, .inl x2]) (S := bd_14 b sa (RN b sa d)) (env := [some (.inr (.inr x0)), some (.inl x1), some (.inl x2), none, none, none, none]) (rt := (some .int)) (by decide) rfl rfl rfl rfl rfl rfl (rkI Q) (fun r h q => by obtain ⟨v, rfl, q⟩ := rkI_inv q; exact trivial) hk
  obtain ⟨v, rfl, q2⟩ := rkI_inv q2
  exact ⟨v, h', q1, q2⟩
theorem go_15 {b d : Nat} {sa : Nat → Nat} {h : gH} {x0 : Option Nat} {x1 : Option Nat} (Q : Int32 → gH → Prop) (hQ : ∀ v h, Q v h → v = 0 ∨ v = 1) (hk : bd_15 b sa (RN b sa d) (fun _ _ => False) (fun _ _ => False) (rkI Q) [some (.inr (.inr x0)), some (.inr (.inr x1)), none, none, none, none, none, none] h) : ∃ v h', RN b sa (d + 1) 15 [.inr (.inr x0), .inr (.inr x1)] h (some (.inl v)) h' ∧ Q v h' := by
  obtain ⟨r, h', q1, q2⟩ := RN_at (y := 15) (L := 8) (vs := [.inr (.inr x0), .inr (.inr x1)]) (S := bd_15 b sa (RN b sa d)) (env := [some (.inr (.inr x0)), some (.inr (.inr x1)), none, none, none, none, none, none]) (rt := (some .boolean)) (by decide) rfl rfl rfl rfl rfl rfl (rkI Q) (fun r h q => by obtain ⟨v, rfl, q⟩ := rkI_inv q; exact hQ v h q) hk
  obtain ⟨v, rfl, q2⟩ := rkI_inv q2
  exact ⟨v, h', q1, q2⟩
theorem go_16 {b d : Nat} {sa : Nat → Nat} {h : gH} {x0 : Option Nat} {x1 : Int32} {x2 : Option Nat} {x3 : Int32} (Q : Int32 → gH → Prop) (hQ : ∀ v h, Q v h → v = 0 ∨ v = 1) (hk : bd_16 b sa (RN b sa d) (fun _ _ => False) (fun _ _ => False) (rkI Q) [some (.inr (.inr x0)), some (.inl x1), some (.inr (.inr x2)), some (.inl x3)] h) : ∃ v h', RN b sa (d + 1) 16 [.inr (.inr x0), .inl x1, .inr (.inr x2), .inl x3] h (some (.inl v)) h' ∧ Q v h' := by
  obtain ⟨r, h', q1, q2⟩ := RN_at (y := 16) (L := 4) (vs := [.inr (.inr x0), .inl x1, .inr (.inr x2), .inl x3]) (S := bd_16 b sa (RN b sa d)) (env := [some (.inr (.inr x0)), some (.inl x1), some (.inr (.inr x2)), some (.inl x3)]) (rt := (some .boolean)) (by decide) rfl rfl rfl rfl rfl rfl (rkI Q) (fun r h q => by obtain ⟨v, rfl, q⟩ := rkI_inv q; exact hQ v h q) hk
  obtain ⟨v, rfl, q2⟩ := rkI_inv q2
  exact ⟨v, h', q1, q2⟩
theorem go_17 {b d : Nat} {sa : Nat → Nat} {h : gH} {x0 : Option Nat} {x1 : Int32} {x2 : Int32} (Q : Int32 → gH → Prop) (hk : bd_17 b sa (RN b sa d) (fun _ _ => False) (fun _ _ => False) (rkI Q) [some (.inr (.inr x0)), some (.inl x1), some (.inl x2), none, none, none, none, none] h) : ∃ v h', RN b sa (d + 1) 17 [.inr (.inr x0), .inl x1, .inl x2] h (some (.inl v)) h' ∧ Q v h' := by
  obtain ⟨r, h', q1, q2⟩ := RN_at (y := 17) (L := 8) (vs := [.inr (.inr x0), .inl x1, .inl x2]) (S := bd_17 b sa (RN b sa d)) (env := [some (.inr (.inr x0)), some (.inl x1), some (.inl x2), none, none, none, none, none]) (rt := (some .int)) (by decide) rfl rfl rfl rfl rfl rfl (rkI Q) (fun r h q => by obtain ⟨v, rfl, q⟩ := rkI_inv q; exact trivial) hk
  obtain ⟨v, rfl, q2⟩ := rkI_inv q2
  exact ⟨v, h', q1, q2⟩
theorem go_18 {b d : Nat} {sa : Nat → Nat} {h : gH} {x0 : Option Nat} {x1 : Int32} (Q : Int32 → gH → Prop) (hk : bd_18 b sa (RN b sa d) (fun _ _ => False) (fun _ _ => False) (rkI Q) [some (.inr (.inr x0)), some (.inl x1), none] h) : ∃ v h', RN b sa (d + 1) 18 [.inr (.inr x0), .inl x1] h (some (.inl v)) h' ∧ Q v h' := by
  obtain ⟨r, h', q1, q2⟩ := RN_at (y := 18) (L := 3) (vs := [.inr (.inr x0), .inl x1]) (S := bd_18 b sa (RN b sa d)) (env := [some (.inr (.inr x0)), some (.inl x1), none]) (rt := (some .int)) (by decide) rfl rfl rfl rfl rfl rfl (rkI Q) (fun r h q => by obtain ⟨v, rfl, q⟩ := rkI_inv q; exact trivial) hk
  obtain ⟨v, rfl, q2⟩ := rkI_inv q2
  exact ⟨v, h', q1, q2⟩
theorem go_19 {b d : Nat} {sa : Nat → Nat} {h : gH} {x0 : Option Nat} (Q : Int32 → gH → Prop) (hk : bd_19 b sa (RN b sa d) (fun _ _ => False) (fun _ _ => False) (rkI Q) [some (.inr (.inr x0)), none] h) : ∃ v h', RN b sa (d + 1) 19 [.inr (.inr x0)] h (some (.inl v)) h' ∧ Q v h' := by
  obtain ⟨r, h', q1, q2⟩ := RN_at (y := 19) (L := 2) (vs := [.inr (.inr x0)]) (S := bd_19 b sa (RN b sa d)) (env := [some (.inr (.inr x0)), none]) (rt := (some .int)) (by decide) rfl rfl rfl rfl rfl rfl (rkI Q) (fun r h q => by obtain ⟨v, rfl, q⟩ := rkI_inv q; exact trivial) hk
  obtain ⟨v, rfl, q2⟩ := rkI_inv q2
  exact ⟨v, h', q1, q2⟩
theorem go_20 {b d : Nat} {sa : Nat → Nat} {h : gH} {x0 : Option Nat} {x1 : Int32} {x2 : Int32} {x3 : Int32} (Q : Int64 → gH → Prop) (hk : bd_20 b sa (RN b sa d) (fun _ _ => False) (fun _ _ => False) (rkL Q) [some (.inr (.inr x0)), some (.inl x1), some (.inl x2), some (.inl x3), none] h) : ∃ v h', RN b sa (d + 1) 20 [.inr (.inr x0), .inl x1, .inl x2, .inl x3] h (some (.inr (.inl v))) h' ∧ Q v h' := by
  obtain ⟨r, h', q1, q2⟩ := RN_at (y := 20) (L := 5) (vs := [.inr (.inr x0), .inl x1, .inl x2, .inl x3]) (S := bd_20 b sa (RN b sa d)) (env := [some (.inr (.inr x0)), some (.inl x1), some (.inl x2), some (.inl x3), none]) (rt := (some .long)) (by decide) rfl rfl rfl rfl rfl rfl (rkL Q) (fun r h q => by obtain ⟨v, rfl, q⟩ := rkL_inv q; exact trivial) hk
  obtain ⟨v, rfl, q2⟩ := rkL_inv q2
  exact ⟨v, h', q1, q2⟩
theorem go_21 {b d : Nat} {sa : Nat → Nat} {h : gH} {x0 : Int32} (Q : Int32 → gH → Prop) (hQ : ∀ v h, Q v h → v = 0 ∨ v = 1) (hk : bd_21 b sa (RN b sa d) (fun _ _ => False) (fun _ _ => False) (rkI Q) [some (.inl x0)] h) : ∃ v h', RN b sa (d + 1) 21 [.inl x0] h (some (.inl v)) h' ∧ Q v h' := by
  obtain ⟨r, h', q1, q2⟩ := RN_at (y := 21) (L := 1) (vs := [.inl x0]) (S := bd_21 b sa (RN b sa d)) (env := [some (.inl x0)]) (rt := (some .boolean)) (by decide) rfl rfl rfl rfl rfl rfl (rkI Q) (fun r h q => by obtain ⟨v, rfl, q⟩ := rkI_inv q; exact hQ v h q) hk
  obtain ⟨v, rfl, q2⟩ := rkI_inv q2
  exact ⟨v, h', q1, q2⟩
theorem go_22 {b d : Nat} {sa : Nat → Nat} {h : gH} {x0 : Option Nat} {x1 : Int32} {x2 : Int32} {x3 : Int32} {x4 : Int32} (Q : Int64 → gH → Prop) (hk : bd_22 b sa (RN b sa d) (fun _ _ => False) (fun _ _ => False) (rkL Q) [some (.inr (.inr x0)), some (.inl x1), some (.inl x2), some (.inl x3), some (.inl x4)] h) : ∃ v h', RN b sa (d + 1) 22 [.inr (.inr x0), .inl x1, .inl x2, .inl x3, .inl x4] h (some (.inr (.inl v))) h' ∧ Q v h' := by
  obtain ⟨r, h', q1, q2⟩ := RN_at (y := 22) (L := 5) (vs := [.inr (.inr x0), .inl x1, .inl x2, .inl x3, .inl x4]) (S := bd_22 b sa (RN b sa d)) (env := [some (.inr (.inr x0)), some (.inl x1), some (.inl x2), some (.inl x3), some (.inl x4)]) (rt := (some .long)) (by decide) rfl rfl rfl rfl rfl rfl (rkL Q) (fun r h q => by obtain ⟨v, rfl, q⟩ := rkL_inv q; exact trivial) hk
  obtain ⟨v, rfl, q2⟩ := rkL_inv q2
  exact ⟨v, h', q1, q2⟩
theorem go_23 {b d : Nat} {sa : Nat → Nat} {h : gH} {x0 : Option Nat} (Q : Int32 → gH → Prop) (hk : bd_23 b sa (RN b sa d) (fun _ _ => False) (fun _ _ => False) (rkI Q) [some (.inr (.inr x0))] h) : ∃ v h', RN b sa (d + 1) 23 [.inr (.inr x0)] h (some (.inl v)) h' ∧ Q v h' := by
  obtain ⟨r, h', q1, q2⟩ := RN_at (y := 23) (L := 1) (vs := [.inr (.inr x0)]) (S := bd_23 b sa (RN b sa d)) (env := [some (.inr (.inr x0))]) (rt := (some .int)) (by decide) rfl rfl rfl rfl rfl rfl (rkI Q) (fun r h q => by obtain ⟨v, rfl, q⟩ := rkI_inv q; exact trivial) hk
  obtain ⟨v, rfl, q2⟩ := rkI_inv q2
  exact ⟨v, h', q1, q2⟩
theorem go_24 {b d : Nat} {sa : Nat → Nat} {h : gH} {x0 : Option Nat} {x1 : Int32} {x2 : Int32} (Q : Int32 → gH → Prop) (hQ : ∀ v h, Q v h → v = 0 ∨ v = 1) (hk : bd_24 b sa (RN b sa d) (fun _ _ => False) (fun _ _ => False) (rkI Q) [some (.inr (.inr x0)), some (.inl x1), some (.inl x2)] h) : ∃ v h', RN b sa (d + 1) 24 [.inr (.inr x0), .inl x1, .inl x2] h (some (.inl v)) h' ∧ Q v h' := by
  obtain ⟨r, h', q1, q2⟩ := RN_at (y := 24) (L := 3) (vs := [.inr (.inr x0), .inl x1, .inl x2]) (S := bd_24 b sa (RN b sa d)) (env := [some (.inr (.inr x0)), some (.inl x1), some (.inl x2)]) (rt := (some .boolean)) (by decide) rfl rfl rfl rfl rfl rfl (rkI Q) (fun r h q => by obtain ⟨v, rfl, q⟩ := rkI_inv q; exact hQ v h q) hk
  obtain ⟨v, rfl, q2⟩ := rkI_inv q2
  exact ⟨v, h', q1, q2⟩
theorem go_25 {b d : Nat} {sa : Nat → Nat} {h : gH} {x0 : Option Nat} {x1 : Int32} {x2 : Int32} (Q : Int32 → gH → Prop) (hk : bd_25 b sa (RN b sa d) (fun _ _ => False) (fun _ _ => False) (rkI Q) [some (.inr (.inr x0)), some (.inl x1), some (.inl x2)] h) : ∃ v h', RN b sa (d + 1) 25 [.inr (.inr x0), .inl x1, .inl x2] h (some (.inl v)) h' ∧ Q v h' := by
  obtain ⟨r, h', q1, q2⟩ := RN_at (y := 25) (L := 3) (vs := [.inr (.inr x0), .inl x1, .inl x2]) (S := bd_25 b sa (RN b sa d)) (env := [some (.inr (.inr x0)), some (.inl x1), some (.inl x2)]) (rt := (some .int)) (by decide) rfl rfl rfl rfl rfl rfl (rkI Q) (fun r h q => by obtain ⟨v, rfl, q⟩ := rkI_inv q; exact trivial) hk
  obtain ⟨v, rfl, q2⟩ := rkI_inv q2
  exact ⟨v, h', q1, q2⟩
theorem go_26 {b d : Nat} {sa : Nat → Nat} {h : gH} {x0 : Int64} {x1 : Int64} {x2 : Int64} {x3 : Int64} (Q : Int32 → gH → Prop) (hQ : ∀ v h, Q v h → v = 0 ∨ v = 1) (hk : bd_26 b sa (RN b sa d) (fun _ _ => False) (fun _ _ => False) (rkI Q) [some (.inr (.inl x0)), none, some (.inr (.inl x1)), none, some (.inr (.inl x2)), none, some (.inr (.inl x3)), none, none, none, none, none, none, none, none, none, none, none, none, none, none, none, none] h) : ∃ v h', RN b sa (d + 1) 26 [.inr (.inl x0), .inr (.inl x1), .inr (.inl x2), .inr (.inl x3)] h (some (.inl v)) h' ∧ Q v h' := by
  obtain ⟨r, h', q1, q2⟩ := RN_at (y := 26) (L := 23) (vs := [.inr (.inl x0), .inr (.inl x1), .inr (.inl x2), .inr (.inl x3)]) (S := bd_26 b sa (RN b sa d)) (env := [some (.inr (.inl x0)), none, some (.inr (.inl x1)), none, some (.inr (.inl x2)), none, some (.inr (.inl x3)), none, none, none, none, none, none, none, none, none, none, none, none, none, none, none, none]) (rt := (some .boolean)) (by decide) rfl rfl rfl rfl rfl rfl (rkI Q) (fun r h q => by obtain ⟨v, rfl, q⟩ := rkI_inv q; exact hQ v h q) hk
  obtain ⟨v, rfl, q2⟩ := rkI_inv q2
  exact ⟨v, h', q1, q2⟩
theorem go_27 {b d : Nat} {sa : Nat → Nat} {h : gH} {x0 : Int64} {x1 : Int64} (Q : Int64 → gH → Prop) (hk : bd_27 b sa (RN b sa d) (fun _ _ => False) (fun _ _ => False) (rkL Q) [some (.inr (.inl x0)), none, some (.inr (.inl x1)), none, none, none, none, none, none, none] h) : ∃ v h', RN b sa (d + 1) 27 [.inr (.inl x0), .inr (.inl x1)] h (some (.inr (.inl v))) h' ∧ Q v h' := by
  obtain ⟨r, h', q1, q2⟩ := RN_at (y := 27) (L := 10) (vs := [.inr (.inl x0), .inr (.inl x1)]) (S := bd_27 b sa (RN b sa d)) (env := [some (.inr (.inl x0)), none, some (.inr (.inl x1)), none, none, none, none, none, none, none]) (rt := (some .long)) (by decide) rfl rfl rfl rfl rfl rfl (rkL Q) (fun r h q => by obtain ⟨v, rfl, q⟩ := rkL_inv q; exact trivial) hk
  obtain ⟨v, rfl, q2⟩ := rkL_inv q2
  exact ⟨v, h', q1, q2⟩
theorem go_28 {b d : Nat} {sa : Nat → Nat} {h : gH} {x0 : Option Nat} {x1 : Int32} {x2 : Int32} {x3 : Int32} (Q : Int64 → gH → Prop) (hk : bd_28 b sa (RN b sa d) (fun _ _ => False) (fun _ _ => False) (rkL Q) [some (.inr (.inr x0)), some (.inl x1), some (.inl x2), some (.inl x3), none, none, none, none, none, none] h) : ∃ v h', RN b sa (d + 1) 28 [.inr (.inr x0), .inl x1, .inl x2, .inl x3] h (some (.inr (.inl v))) h' ∧ Q v h' := by
  obtain ⟨r, h', q1, q2⟩ := RN_at (y := 28) (L := 10) (vs := [.inr (.inr x0), .inl x1, .inl x2, .inl x3]) (S := bd_28 b sa (RN b sa d)) (env := [some (.inr (.inr x0)), some (.inl x1), some (.inl x2), some (.inl x3), none, none, none, none, none, none]) (rt := (some .long)) (by decide) rfl rfl rfl rfl rfl rfl (rkL Q) (fun r h q => by obtain ⟨v, rfl, q⟩ := rkL_inv q; exact trivial) hk
  obtain ⟨v, rfl, q2⟩ := rkL_inv q2
  exact ⟨v, h', q1, q2⟩
theorem go_29 {b d : Nat} {sa : Nat → Nat} {h : gH} {x0 : Option Nat} (Q : Int32 → gH → Prop) (hk : bd_29 b sa (RN b sa d) (fun _ _ => False) (fun _ _ => False) (rkI Q) [some (.inr (.inr x0))] h) : ∃ v h', RN b sa (d + 1) 29 [.inr (.inr x0)] h (some (.inl v)) h' ∧ Q v h' := by
  obtain ⟨r, h', q1, q2⟩ := RN_at (y := 29) (L := 1) (vs := [.inr (.inr x0)]) (S := bd_29 b sa (RN b sa d)) (env := [some (.inr (.inr x0))]) (rt := (some .int)) (by decide) rfl rfl rfl rfl rfl rfl (rkI Q) (fun r h q => by obtain ⟨v, rfl, q⟩ := rkI_inv q; exact trivial) hk
  obtain ⟨v, rfl, q2⟩ := rkI_inv q2
  exact ⟨v, h', q1, q2⟩
theorem go_30 {b d : Nat} {sa : Nat → Nat} {h : gH} {x0 : Option Nat} (Q : Int64 → gH → Prop) (hk : bd_30 b sa (RN b sa d) (fun _ _ => False) (fun _ _ => False) (rkL Q) [some (.inr (.inr x0)), none, none, none, none] h) : ∃ v h', RN b sa (d + 1) 30 [.inr (.inr x0)] h (some (.inr (.inl v))) h' ∧ Q v h' := by
  obtain ⟨r, h', q1, q2⟩ := RN_at (y := 30) (L := 5) (vs := [.inr (.inr x0)]) (S := bd_30 b sa (RN b sa d)) (env := [some (.inr (.inr x0)), none, none, none, none]) (rt := (some .long)) (by decide) rfl rfl rfl rfl rfl rfl (rkL Q) (fun r h q => by obtain ⟨v, rfl, q⟩ := rkL_inv q; exact trivial) hk
  obtain ⟨v, rfl, q2⟩ := rkL_inv q2
  exact ⟨v, h', q1, q2⟩
theorem go_31 {b d : Nat} {sa : Nat → Nat} {h : gH} {x0 : Option Nat} {x1 : Int32} {x2 : Int32} (Q : Int64 → gH → Prop) (hk : bd_31 b sa (RN b sa d) (fun _ _ => False) (fun _ _ => False) (rkL Q) [some (.inr (.inr x0)), some (.inl x1), some (.inl x2)] h) : ∃ v h', RN b sa (d + 1) 31 [.inr (.inr x0), .inl x1, .inl x2] h (some (.inr (.inl v))) h' ∧ Q v h' := by
  obtain ⟨r, h', q1, q2⟩ := RN_at (y := 31) (L := 3) (vs := [.inr (.inr x0), .inl x1, .inl x2]) (S := bd_31 b sa (RN b sa d)) (env := [some (.inr (.inr x0)), some (.inl x1), some (.inl x2)]) (rt := (some .long)) (by decide) rfl rfl rfl rfl rfl rfl (rkL Q) (fun r h q => by obtain ⟨v, rfl, q⟩ := rkL_inv q; exact trivial) hk
  obtain ⟨v, rfl, q2⟩ := rkL_inv q2
  exact ⟨v, h', q1, q2⟩
theorem go_32 {b d : Nat} {sa : Nat → Nat} {h : gH} {x0 : Option Nat} {x1 : Int32} {x2 : Int32} {x3 : Int32} (Q : Int64 → gH → Prop) (hk : bd_32 b sa (RN b sa d) (fun _ _ => False) (fun _ _ => False) (rkL Q) [some (.inr (.inr x0)), some (.inl x1), some (.inl x2), some (.inl x3), none, none, none, none, none, none, none, none] h) : ∃ v h', RN b sa (d + 1) 32 [.inr (.inr x0), .inl x1, .inl x2, .inl x3] h (some (.inr (.inl v))) h' ∧ Q v h' := by
  obtain ⟨r, h', q1, q2⟩ := RN_at (y := 32) (L := 12) (vs := [.inr (.inr x0), .inl x1, .inl x2, .inl x3]) (S := bd_32 b sa (RN b sa d)) (env := [some (.inr (.inr x0)), some (.inl x1), some (.inl x2), some (.inl x3), none, none, none, none, none, none, none, none]) (rt := (some .long)) (by decide) rfl rfl rfl rfl rfl rfl (rkL Q) (fun r h q => by obtain ⟨v, rfl, q⟩ := rkL_inv q; exact trivial) hk
  obtain ⟨v, rfl, q2⟩ := rkL_inv q2
  exact ⟨v, h', q1, q2⟩
theorem go_33 {b d : Nat} {sa : Nat → Nat} {h : gH} {x0 : Option Nat} {x1 : Int32} (Q : Int32 → gH → Prop) (hk : bd_33 b sa (RN b sa d) (fun _ _ => False) (fun _ _ => False) (rkI Q) [some (.inr (.inr x0)), some (.inl x1), none, none, none] h) : ∃ v h', RN b sa (d + 1) 33 [.inr (.inr x0), .inl x1] h (some (.inl v)) h' ∧ Q v h' := by
  obtain ⟨r, h', q1, q2⟩ := RN_at (y := 33) (L := 5) (vs := [.inr (.inr x0), .inl x1]) (S := bd_33 b sa (RN b sa d)) (env := [some (.inr (.inr x0)), some (.inl x1), none, none, none]) (rt := (some .int)) (by decide) rfl rfl rfl rfl rfl rfl (rkI Q) (fun r h q => by obtain ⟨v, rfl, q⟩ := rkI_inv q; exact trivial) hk
  obtain ⟨v, rfl, q2⟩ := rkI_inv q2
  exact ⟨v, h', q1, q2⟩
theorem go_34 {b d : Nat} {sa : Nat → Nat} {h : gH} {x0 : Option Nat} {x1 : Int32} (Q : Int32 → gH → Prop) (hk : bd_34 b sa (RN b sa d) (fun _ _ => False) (fun _ _ => False) (rkI Q) [some (.inr (.inr x0)), some (.inl x1)] h) : ∃ v h', RN b sa (d + 1) 34 [.inr (.inr x0), .inl x1] h (some (.inl v)) h' ∧ Q v h' := by
  obtain ⟨r, h', q1, q2⟩ := RN_at (y := 34) (L := 2) (vs := [.inr (.inr x0), .inl x1]) (S := bd_34 b sa (RN b sa d)) (env := [some (.inr (.inr x0)), some (.inl x1)]) (rt := (some .int)) (by decide) rfl rfl rfl rfl rfl rfl (rkI Q) (fun r h q => by obtain ⟨v, rfl, q⟩ := rkI_inv q; exact trivial) hk
  obtain ⟨v, rfl, q2⟩ := rkI_inv q2
  exact ⟨v, h', q1, q2⟩
theorem go_35 {b d : Nat} {sa : Nat → Nat} {h : gH} {x0 : Option Nat} {x1 : Int32} (Q : Int32 → gH → Prop) (hk : bd_35 b sa (RN b sa d) (fun _ _ => False) (fun _ _ => False) (rkI Q) [some (.inr (.inr x0)), some (.inl x1), none, none] h) : ∃ v h', RN b sa (d + 1) 35 [.inr (.inr x0), .inl x1] h (some (.inl v)) h' ∧ Q v h' := by
  obtain ⟨r, h', q1, q2⟩ := RN_at (y := 35) (L := 4) (vs := [.inr (.inr x0), .inl x1]) (S := bd_35 b sa (RN b sa d)) (env := [some (.inr (.inr x0)), some (.inl x1), none, none]) (rt := (some .int)) (by decide) rfl rfl rfl rfl rfl rfl (rkI Q) (fun r h q => by obtain ⟨v, rfl, q⟩ := rkI_inv q; exact trivial) hk
  obtain ⟨v, rfl, q2⟩ := rkI_inv q2
  exact ⟨v, h', q1, q2⟩
theorem go_36 {b d : Nat} {sa : Nat → Nat} {h : gH} {x0 : Option Nat} {x1 : Int32} (Q : Int32 → gH → Prop) (hQ : ∀ v h, Q v h → v = 0 ∨ v = 1) (hk : bd_36 b sa (RN b sa d) (fun _ _ => False) (fun _ _ => False) (rkI Q) [some (.inr (.inr x0)), some (.inl x1), none] h) : ∃ v h', RN b sa (d + 1) 36 [.inr (.inr x0), .inl x1] h (some (.inl v)) h' ∧ Q v h' := by
  obtain ⟨r, h', q1, q2⟩ := RN_at (y := 36) (L := 3) (vs := [.inr (.inr x0), .inl x1]) (S := bd_36 b sa (RN b sa d)) (env := [some (.inr (.inr x0)), some (.inl x1), none]) (rt := (some .boolean)) (by decide) rfl rfl rfl rfl rfl rfl (rkI Q) (fun r h q => by obtain ⟨v, rfl, q⟩ := rkI_inv q; exact hQ v h q) hk
  obtain ⟨v, rfl, q2⟩ := rkI_inv q2
  exact ⟨v, h', q1, q2⟩
theorem go_37 {b d : Nat} {sa : Nat → Nat} {h : gH} {x0 : Option Nat} {x1 : Int32} {x2 : Int32} (Q : Int32 → gH → Prop) (hk : bd_37 b sa (RN b sa d) (fun _ _ => False) (fun _ _ => False) (rkI Q) [some (.inr (.inr x0)), some (.inl x1), some (.inl x2), none, none, none] h) : ∃ v h', RN b sa (d + 1) 37 [.inr (.inr x0), .inl x1, .inl x2] h (some (.inl v)) h' ∧ Q v h' := by
  obtain ⟨r, h', q1, q2⟩ := RN_at (y := 37) (L := 6) (vs := [.inr (.inr x0), .inl x1, .inl x2]) (S := bd_37 b sa (RN b sa d)) (env := [some (.inr (.inr x0)), some (.inl x1), some (.inl x2), none, none, none]) (rt := (some .int)) (by decide) rfl rfl rfl rfl rfl rfl (rkI Q) (fun r h q => by obtain ⟨v, rfl, q⟩ := rkI_inv q; exact trivial) hk
  obtain ⟨v, rfl, q2⟩ := rkI_inv q2
  exact ⟨v, h', q1, q2⟩
theorem go_38 {b d : Nat} {sa : Nat → Nat} {h : gH} {x0 : Option Nat} (Q : Int32 → gH → Prop) (hk : bd_38 b sa (RN b sa d) (fun _ _ => False) (fun _ _ => False) (rkI Q) [some (.inr (.inr x0))] h) : ∃ v h', RN b sa (d + 1) 38 [.inr (.inr x0)] h (some (.inl v)) h' ∧ Q v h' := by
  obtain ⟨r, h', q1, q2⟩ := RN_at (y := 38) (L := 1) (vs := [.inr (.inr x0)]) (S := bd_38 b sa (RN b sa d)) (env := [some (.inr (.inr x0))]) (rt := (some .int)) (by decide) rfl rfl rfl rfl rfl rfl (rkI Q) (fun r h q => by obtain ⟨v, rfl, q⟩ := rkI_inv q; exact trivial) hk
  obtain ⟨v, rfl, q2⟩ := rkI_inv q2
  exact ⟨v, h', q1, q2⟩
theorem go_39 {b d : Nat} {sa : Nat → Nat} {h : gH} {x0 : Option Nat} {x1 : Int32} {x2 : Int32} (Q : Int32 → gH → Prop) (hk : bd_39 b sa (RN b sa d) (fun _ _ => False) (fun _ _ => False) (rkI Q) [some (.inr (.inr x0)), some (.inl x1), some (.inl x2), none] h) : ∃ v h', RN b sa (d + 1) 39 [.inr (.inr x0), .inl x1, .inl x2] h (some (.inl v)) h' ∧ Q v h' := by
  obtain ⟨r, h', q1, q2⟩ := RN_at (y := 39) (L := 4) (vs := [.inr (.inr x0), .inl x1, .inl x2]) (S := bd_39 b sa (RN b sa d)) (env := [some (.inr (.inr x0)), some (.inl x1), some (.inl x2), none]) (rt := (some .int)) (by decide) rfl rfl rfl rfl rfl rfl (rkI Q) (fun r h q => by obtain ⟨v, rfl, q⟩ := rkI_inv q; exact trivial) hk
  obtain ⟨v, rfl, q2⟩ := rkI_inv q2
  exact ⟨v, h', q1, q2⟩
theorem go_40 {b d : Nat} {sa : Nat → Nat} {h : gH} {x0 : Option Nat} {x1 : Option Nat} {x2 : Option Nat} {x3 : Int32} (Q : Int32 → gH → Prop) (hQ : ∀ v h, Q v h → v = 0 ∨ v = 1) (hk : bd_40 b sa (RN b sa d) (fun _ _ => False) (fun _ _ => False) (rkI Q) [some (.inr (.inr x0)), some (.inr (.inr x1)), some (.inr (.inr x2)), some (.inl x3), none, none] h) : ∃ v h', RN b sa (d + 1) 40 [.inr (.inr x0), .inr (.inr x1), .inr (.inr x2), .inl x3] h (some (.inl v)) h' ∧ Q v h' := by
  obtain ⟨r, h', q1, q2⟩ := RN_at (y := 40) (L := 6) (vs := [.inr (.inr x0), .inr (.inr x1), .inr (.inr x2), .inl x3]) (S := bd_40 b sa (RN b sa d)) (env := [some (.inr (.inr x0)), some (.inr (.inr x1)), some (.inr (.inr x2)), some (.inl x3), none, none]) (rt := (some .boolean)) (by decide) rfl rfl rfl rfl rfl rfl (rkI Q) (fun r h q => by obtain ⟨v, rfl, q⟩ := rkI_inv q; exact hQ v h q) hk
  obtain ⟨v, rfl, q2⟩ := rkI_inv q2
  exact ⟨v, h', q1, q2⟩
theorem go_41 {b d : Nat} {sa : Nat → Nat} {h : gH} {x0 : Option Nat} {x1 : Int32} (Q : Int32 → gH → Prop) (hk : bd_41 b sa (RN b sa d) (fun _ _ => False) (fun _ _ => False) (rkI Q) [some (.inr (.inr x0)), some (.inl x1), none] h) : ∃ v h', RN b sa (d + 1) 41 [.inr (.inr x0), .inl x1] h (some (.inl v)) h' ∧ Q v h' := by
  obtain ⟨r, h', q1, q2⟩ := RN_at (y := 41) (L := 3) (vs := [.inr (.inr x0), .inl x1]) (S := bd_41 b sa (RN b sa d)) (env := [some (.inr (.inr x0)), some (.inl x1), none]) (rt := (some .int)) (by decide) rfl rfl rfl rfl rfl rfl (rkI Q) (fun r h q => by obtain ⟨v, rfl, q⟩ := rkI_inv q; exact trivial) hk
  obtain ⟨v, rfl, q2⟩ := rkI_inv q2
  exact ⟨v, h', q1, q2⟩
theorem go_42 {b d : Nat} {sa : Nat → Nat} {h : gH} {x0 : Option Nat} {x1 : Option Nat} (Q : Int32 → gH → Prop) (hk : bd_42 b sa (RN b sa d) (fun _ _ => False) (fun _ _ => False) (rkI Q) [some (.inr (.inr x0)), some (.inr (.inr x1)), none, none] h) : ∃ v h', RN b sa (d + 1) 42 [.inr (.inr x0), .inr (.inr x1)] h (some (.inl v)) h' ∧ Q v h' := by
  obtain ⟨r, h', q1, q2⟩ := RN_at (y := 42) (L := 4) (vs := [.inr (.inr x0), .inr (.inr x1)]) (S := bd_42 b sa (RN b sa d)) (env := [some (.inr (.inr x0)), some (.inr (.inr x1)), none, none]) (rt := (some .int)) (by decide) rfl rfl rfl rfl rfl rfl (rkI Q) (fun r h q => by obtain ⟨v, rfl, q⟩ := rkI_inv q; exact trivial) hk
  obtain ⟨v, rfl, q2⟩ := rkI_inv q2
  exact ⟨v, h', q1, q2⟩
theorem go_43 {b d : Nat} {sa : Nat → Nat} {h : gH} {x0 : Option Nat} {x1 : Int32} (Q : Int32 → gH → Prop) (hk : bd_43 b sa (RN b sa d) (fun _ _ => False) (fun _ _ => False) (rkI Q) [some (.inr (.inr x0)), some (.inl x1), none, none, none, none, none, none, none] h) : ∃ v h', RN b sa (d + 1) 43 [.inr (.inr x0), .inl x1] h (some (.inl v)) h' ∧ Q v h' := by
  obtain ⟨r, h', q1, q2⟩ := RN_at (y := 43) (L := 9) (vs := [.inr (.inr x0), .inl x1]) (S := bd_43 b sa (RN b sa d)) (env := [some (.inr (.inr x0)), some (.inl x1), none, none, none, none, none, none, none]) (rt := (some .int)) (by decide) rfl rfl rfl rfl rfl rfl (rkI Q) (fun r h q => by obtain ⟨v, rfl, q⟩ := rkI_inv q; exact trivial) hk
  obtain ⟨v, rfl, q2⟩ := rkI_inv q2
  exact ⟨v, h', q1, q2⟩
theorem go_44 {b d : Nat} {sa : Nat → Nat} {h : gH} {x0 : Option Nat} {x1 : Option Nat} {x2 : Option Nat} {x3 : Int32} (Q : Int32 → gH → Prop) (hQ : ∀ v h, Q v h → v = 0 ∨ v = 1) (hk : bd_44 b sa (RN b sa d) (fun _ _ => False) (fun _ _ => False) (rkI Q) [some (.inr (.inr x0)), some (.inr (.inr x1)), some (.inr (.inr x2)), some (.inl x3)] h) : ∃ v h', RN b sa (d + 1) 44 [.inr (.inr x0), .inr (.inr x1), .inr (.inr x2), .inl x3] h (some (.inl v)) h' ∧ Q v h' := by
  obtain ⟨r, h', q1, q2⟩ := RN_at (y := 44) (L := 4) (vs := [.inr (.inr x0), .inr (.inr x1), .inr (.inr x2), .inl x3]) (S := bd_44 b sa (RN b sa d)) (env := [some (.inr (.inr x0)), some (.inr (.inr x1)), some (.inr (.inr x2)), some (.inl x3)]) (rt := (some .boolean)) (by decide) rfl rfl rfl rfl rfl rfl (rkI Q) (fun r h q => by obtain ⟨v, rfl, q⟩ := rkI_inv q; exact hQ v h q) hk
  obtain ⟨v, rfl, q2⟩ := rkI_inv q2
  exact ⟨v, h', q1, q2⟩
theorem go_45 {b d : Nat} {sa : Nat → Nat} {h : gH} {x0 : Option Nat} {x1 : Int32} (Q : gH → Prop) (hk : bd_45 b sa (RN b sa d) (fun _ _ => False) (fun _ _ => False) (rkU Q) [some (.inr (.inr x0)), some (.inl x1), none, none, none] h) : ∃ h', RN b sa (d + 1) 45 [.inr (.inr x0), .inl x1] h none h' ∧ Q h' := by
  obtain ⟨r, h', q1, q2⟩ := RN_at (y := 45) (L := 5) (vs := [.inr (.inr x0), .inl x1]) (S := bd_45 b sa (RN b sa d)) (env := [some (.inr (.inr x0)), some (.inl x1), none, none, none]) (rt := none) (by decide) rfl rfl rfl rfl rfl rfl (rkU Q) (fun r h q => by obtain ⟨rfl, -⟩ := rkU_inv q; exact trivial) hk
  obtain ⟨rfl, q2⟩ := rkU_inv q2
  exact ⟨h', q1, q2⟩
theorem go_46 {b d : Nat} {sa : Nat → Nat} {h : gH} {x0 : Option Nat} {x1 : Int32} {x2 : Int32} (Q : Int32 → gH → Prop) (hk : bd_46 b sa (RN b sa d) (fun _ _ => False) (fun _ _ => False) (rkI Q) [some (.inr (.inr x0)), some (.inl x1), some (.inl x2), none, none] h) : ∃ v h', RN b sa (d + 1) 46 [.inr (.inr x0), .inl x1, .inl x2] h (some (.inl v)) h' ∧ Q v h' := by
  obtain ⟨r, h', q1, q2⟩ := RN_at (y := 46) (L := 5) (vs := [.inr (.inr x0), .inl x1, .inl x2]) (S := bd_46 b sa (RN b sa d)) (env := [some (.inr (.inr x0)), some (.inl x1), some (.inl x2), none, none]) (rt := (some .int)) (by decide) rfl rfl rfl rfl rfl rfl (rkI Q) (fun r h q => by obtain ⟨v, rfl, q⟩ := rkI_inv q; exact trivial) hk
  obtain ⟨v, rfl, q2⟩ := rkI_inv q2
  exact ⟨v, h', q1, q2⟩
theorem go_47 {b d : Nat} {sa : Nat → Nat} {h : gH} {x0 : Option Nat} {x1 : Int32} {x2 : Int32} (Q : Int32 → gH → Prop) (hk : bd_47 b sa (RN b sa d) (fun _ _ => False) (fun _ _ => False) (rkI Q) [some (.inr (.inr x0)), some (.inl x1), some (.inl x2), none, none] h) : ∃ v h', RN b sa (d + 1) 47 [.inr (.inr x0), .inl x1, .inl x2] h (some (.inl v)) h' ∧ Q v h' := by
  obtain ⟨r, h', q1, q2⟩ := RN_at (y := 47) (L := 5) (vs := [.inr (.inr x0), .inl x1, .inl x2]) (S := bd_47 b sa (RN b sa d)) (env := [some (.inr (.inr x0)), some (.inl x1), some (.inl x2), none, none]) (rt := (some .int)) (by decide) rfl rfl rfl rfl rfl rfl (rkI Q) (fun r h q => by obtain ⟨v, rfl, q⟩ := rkI_inv q; exact trivial) hk
  obtain ⟨v, rfl, q2⟩ := rkI_inv q2
  exact ⟨v, h', q1, q2⟩
theorem go_48 {b d : Nat} {sa : Nat → Nat} {h : gH} {x0 : Option Nat} {x1 : Int32} (Q : Int32 → gH → Prop) (hk : bd_48 b sa (RN b sa d) (fun _ _ => False) (fun _ _ => False) (rkI Q) [some (.inr (.inr x0)), some (.inl x1)] h) : ∃ v h', RN b sa (d + 1) 48 [.inr (.inr x0), .inl x1] h (some (.inl v)) h' ∧ Q v h' := by
  obtain ⟨r, h', q1, q2⟩ := RN_at (y := 48) (L := 2) (vs := [.inr (.inr x0), .inl x1]) (S := bd_48 b sa (RN b sa d)) (env := [some (.inr (.inr x0)), some (.inl x1)]) (rt := (some .int)) (by decide) rfl rfl rfl rfl rfl rfl (rkI Q) (fun r h q => by obtain ⟨v, rfl, q⟩ := rkI_inv q; exact trivial) hk
  obtain ⟨v, rfl, q2⟩ := rkI_inv q2
  exact ⟨v, h', q1, q2⟩
theorem go_49 {b d : Nat} {sa : Nat → Nat} {h : gH} {x0 : Option Nat} (Q : gH → Prop) (hk : bd_49 b sa (RN b sa d) (fun _ _ => False) (fun _ _ => False) (rkU Q) [some (.inr (.inr x0))] h) : ∃ h', RN b sa (d + 1) 49 [.inr (.inr x0)] h none h' ∧ Q h' := by
  obtain ⟨r, h', q1, q2⟩ := RN_at (y := 49) (L := 1) (vs := [.inr (.inr x0)]) (S := bd_49 b sa (RN b sa d)) (env := [some (.inr (.inr x0))]) (rt := none) (by decide) rfl rfl rfl rfl rfl rfl (rkU Q) (fun r h q => by obtain ⟨rfl, -⟩ := rkU_inv q; exact trivial) hk
  obtain ⟨rfl, q2⟩ := rkU_inv q2
  exact ⟨h', q1, q2⟩
theorem go_50 {b d : Nat} {sa : Nat → Nat} {h : gH} {x0 : Option Nat} {x1 : Int32} {x2 : Int32} {x3 : Int32} {x4 : Int32} {x5 : Int64} (Q : gH → Prop) (hk : bd_50 b sa (RN b sa d) (fun _ _ => False) (fun _ _ => False) (rkU Q) [some (.inr (.inr x0)), some (.inl x1), some (.inl x2), some (.inl x3), some (.inl x4), some (.inr (.inl x5)), none] h) : ∃ h', RN b sa (d + 1) 50 [.inr (.inr x0), .inl x1, .inl x2, .inl x3, .inl x4, .inr (.inl x5)] h none h' ∧ Q h' := by
  obtain ⟨r, h', q1, q2⟩ := RN_at (y := 50) (L := 7) (vs := [.inr (.inr x0), .inl x1, .inl x2, .inl x3, .inl x4, .inr (.inl x5)]) (S := bd_50 b sa (RN b sa d)) (env := [some (.inr (.inr x0)), some (.inl x1), some (.inl x2), some (.inl x3), some (.inl x4), some (.inr (.inl x5)), none]) (rt := none) (by decide) rfl rfl rfl rfl rfl rfl (rkU Q) (fun r h q => by obtain ⟨rfl, -⟩ := rkU_inv q; exact trivial) hk
  obtain ⟨rfl, q2⟩ := rkU_inv q2
  exact ⟨h', q1, q2⟩
theorem go_51 {b d : Nat} {sa : Nat → Nat} {h : gH} {x0 : Option Nat} (Q : gH → Prop) (hk : bd_51 b sa (RN b sa d) (fun _ _ => False) (fun _ _ => False) (rkU Q) [some (.inr (.inr x0))] h) : ∃ h', RN b sa (d + 1) 51 [.inr (.inr x0)] h none h' ∧ Q h' := by
  obtain ⟨r, h', q1, q2⟩ := RN_at (y := 51) (L := 1) (vs := [.inr (.inr x0)]) (S := bd_51 b sa (RN b sa d)) (env := [some (.inr (.inr x0))]) (rt := none) (by decide) rfl rfl rfl rfl rfl rfl (rkU Q) (fun r h q => by obtain ⟨rfl, -⟩ := rkU_inv q; exact trivial) hk
  obtain ⟨rfl, q2⟩ := rkU_inv q2
  exact ⟨h', q1, q2⟩
theorem go_52 {b d : Nat} {sa : Nat → Nat} {h : gH} {x0 : Option Nat} {x1 : Option Nat} (Q : gH → Prop) (hk : bd_52 b sa (RN b sa d) (fun _ _ => False) (fun _ _ => False) (rkU Q) [some (.inr (.inr x0)), some (.inr (.inr x1)), none] h) : ∃ h', RN b sa (d + 1) 52 [.inr (.inr x0), .inr (.inr x1)] h none h' ∧ Q h' := by
  obtain ⟨r, h', q1, q2⟩ := RN_at (y := 52) (L := 3) (vs := [.inr (.inr x0), .inr (.inr x1)]) (S := bd_52 b sa (RN b sa d)) (env := [some (.inr (.inr x0)), some (.inr (.inr x1)), none]) (rt := none) (by decide) rfl rfl rfl rfl rfl rfl (rkU Q) (fun r h q => by obtain ⟨rfl, -⟩ := rkU_inv q; exact trivial) hk
  obtain ⟨rfl, q2⟩ := rkU_inv q2
  exact ⟨h', q1, q2⟩
theorem go_53 {b d : Nat} {sa : Nat → Nat} {h : gH} {x0 : Option Nat} {x1 : Option Nat} (Q : gH → Prop) (hk : bd_53 b sa (RN b sa d) (fun _ _ => False) (fun _ _ => False) (rkU Q) [some (.inr (.inr x0)), some (.inr (.inr x1)), none] h) : ∃ h', RN b sa (d + 1) 53 [.inr (.inr x0), .inr (.inr x1)] h none h' ∧ Q h' := by
  obtain ⟨r, h', q1, q2⟩ := RN_at (y := 53) (L := 3) (vs := [.inr (.inr x0), .inr (.inr x1)]) (S := bd_53 b sa (RN b sa d)) (env := [some (.inr (.inr x0)), some (.inr (.inr x1)), none]) (rt := none) (by decide) rfl rfl rfl rfl rfl rfl (rkU Q) (fun r h q => by obtain ⟨rfl, -⟩ := rkU_inv q; exact trivial) hk
  obtain ⟨rfl, q2⟩ := rkU_inv q2
  exact ⟨h', q1, q2⟩
theorem go_54 {b d : Nat} {sa : Nat → Nat} {h : gH} {x0 : Option Nat} {x1 : Option Nat} {x2 : Int32} {x3 : Int64} {x4 : Int32} (Q : gH → Prop) (hk : bd_54 b sa (RN b sa d) (fun _ _ => False) (fun _ _ => False) (rkU Q) [some (.inr (.inr x0)), some (.inr (.inr x1)), some (.inl x2), some (.inr (.inl x3)), none, some (.inl x4), none] h) : ∃ h', RN b sa (d + 1) 54 [.inr (.inr x0), .inr (.inr x1), .inl x2, .inr (.inl x3), .inl x4] h none h' ∧ Q h' := by
  obtain ⟨r, h', q1, q2⟩ := RN_at (y := 54) (L := 7) (vs := [.inr (.inr x0), .inr (.inr x1), .inl x2, .inr (.inl x3), .inl x4]) (S := bd_54 b sa (RN b sa d)) (env := [some (.inr (.inr x0)), some (.inr (.inr x1)), some (.inl x2), some (.inr (.inl x3)), none, some (.inl x4), none]) (rt := none) (by decide) rfl rfl rfl rfl rfl rfl (rkU Q) (fun r h q => by obtain ⟨rfl, -⟩ := rkU_inv q; exact trivial) hk
  obtain ⟨rfl, q2⟩ := rkU_inv q2
  exact ⟨h', q1, q2⟩
theorem go_55 {b d : Nat} {sa : Nat → Nat} {h : gH} {x0 : Option Nat} {x1 : Option Nat} {x2 : Int32} (Q : gH → Prop) (hk : bd_55 b sa (RN b sa d) (fun _ _ => False) (fun _ _ => False) (rkU Q) [some (.inr (.inr x0)), some (.inr (.inr x1)), some (.inl x2), none] h) : ∃ h', RN b sa (d + 1) 55 [.inr (.inr x0), .inr (.inr x1), .inl x2] h none h' ∧ Q h' := by
  obtain ⟨r, h', q1, q2⟩ := RN_at (y := 55) (L := 4) (vs := [.inr (.inr x0), .inr (.inr x1), .inl x2]) (S := bd_55 b sa (RN b sa d)) (env := [some (.inr (.inr x0)), some (.inr (.inr x1)), some (.inl x2), none]) (rt := none) (by decide) rfl rfl rfl rfl rfl rfl (rkU Q) (fun r h q => by obtain ⟨rfl, -⟩ := rkU_inv q; exact trivial) hk
  obtain ⟨rfl, q2⟩ := rkU_inv q2
  exact ⟨h', q1, q2⟩
theorem go_56 {b d : Nat} {sa : Nat → Nat} {h : gH} {x0 : Option Nat} (Q : Int32 → gH → Prop) (hQ : ∀ v h, Q v h → v = 0 ∨ v = 1) (hk : bd_56 b sa (RN b sa d) (fun _ _ => False) (fun _ _ => False) (rkI Q) [some (.inr (.inr x0)), none, none] h) : ∃ v h', RN b sa (d + 1) 56 [.inr (.inr x0)] h (some (.inl v)) h' ∧ Q v h' := by
  obtain ⟨r, h', q1, q2⟩ := RN_at (y := 56) (L := 3) (vs := [.inr (.inr x0)]) (S := bd_56 b sa (RN b sa d)) (env := [some (.inr (.inr x0)), none, none]) (rt := (some .boolean)) (by decide) rfl rfl rfl rfl rfl rfl (rkI Q) (fun r h q => by obtain ⟨v, rfl, q⟩ := rkI_inv q; exact hQ v h q) hk
  obtain ⟨v, rfl, q2⟩ := rkI_inv q2
  exact ⟨v, h', q1, q2⟩
theorem go_57 {b d : Nat} {sa : Nat → Nat} {h : gH} {x0 : Option Nat} {x1 : Option Nat} (Q : Int32 → gH → Prop) (hQ : ∀ v h, Q v h → v = 0 ∨ v = 1) (hk : bd_57 b sa (RN b sa d) (fun _ _ => False) (fun _ _ => False) (rkI Q) [some (.inr (.inr x0)), some (.inr (.inr x1)), none] h) : ∃ v h', RN b sa (d + 1) 57 [.inr (.inr x0), .inr (.inr x1)] h (some (.inl v)) h' ∧ Q v h' := by
  obtain ⟨r, h', q1, q2⟩ := RN_at (y := 57) (L := 3) (vs := [.inr (.inr x0), .inr (.inr x1)]) (S := bd_57 b sa (RN b sa d)) (env := [some (.inr (.inr x0)), some (.inr (.inr x1)), none]) (rt := (some .boolean)) (by decide) rfl rfl rfl rfl rfl rfl (rkI Q) (fun r h q => by obtain ⟨v, rfl, q⟩ := rkI_inv q; exact hQ v h q) hk
  obtain ⟨v, rfl, q2⟩ := rkI_inv q2
  exact ⟨v, h', q1, q2⟩
theorem go_58 {b d : Nat} {sa : Nat → Nat} {h : gH} {x0 : Option Nat} {x1 : Option Nat} (Q : Option Nat → gH → Prop) (hk : bd_58 b sa (RN b sa d) (fun _ _ => False) (fun _ _ => False) (rkR Q) [some (.inr (.inr x0)), some (.inr (.inr x1)), none, none] h) : ∃ v h', RN b sa (d + 1) 58 [.inr (.inr x0), .inr (.inr x1)] h (some (.inr (.inr v))) h' ∧ Q v h' := by
  obtain ⟨r, h', q1, q2⟩ := RN_at (y := 58) (L := 4) (vs := [.inr (.inr x0), .inr (.inr x1)]) (S := bd_58 b sa (RN b sa d)) (env := [some (.inr (.inr x0)), some (.inr (.inr x1)), none, none]) (rt := (some (.object "LoanNames$All"))) (by decide) rfl rfl rfl rfl rfl rfl (rkR Q) (fun r h q => by obtain ⟨v, rfl, q⟩ := rkR_inv q; exact trivial) hk
  obtain ⟨v, rfl, q2⟩ := rkR_inv q2
  exact ⟨v, h', q1, q2⟩
theorem go_59 {b d : Nat} {sa : Nat → Nat} {h : gH} {x0 : Option Nat} (Q : gH → Prop) (hk : bd_59 b sa (RN b sa d) (fun _ _ => False) (fun _ _ => False) (rkU Q) [some (.inr (.inr x0))] h) : ∃ h', RN b sa (d + 1) 59 [.inr (.inr x0)] h none h' ∧ Q h' := by
  obtain ⟨r, h', q1, q2⟩ := RN_at (y := 59) (L := 1) (vs := [.inr (.inr x0)]) (S := bd_59 b sa (RN b sa d)) (env := [some (.inr (.inr x0))]) (rt := none) (by decide) rfl rfl rfl rfl rfl rfl (rkU Q) (fun r h q => by obtain ⟨rfl, -⟩ := rkU_inv q; exact trivial) hk
  obtain ⟨rfl, q2⟩ := rkU_inv q2
  exact ⟨h', q1, q2⟩
theorem go_60 {b d : Nat} {sa : Nat → Nat} {h : gH} {x0 : Option Nat} (Q : gH → Prop) (hk : bd_60 b sa (RN b sa d) (fun _ _ => False) (fun _ _ => False) (rkU Q) [some (.inr (.inr x0))] h) : ∃ h', RN b sa (d + 1) 60 [.inr (.inr x0)] h none h' ∧ Q h' := by
  obtain ⟨r, h', q1, q2⟩ := RN_at (y := 60) (L := 1) (vs := [.inr (.inr x0)]) (S := bd_60 b sa (RN b sa d)) (env := [some (.inr (.inr x0))]) (rt := none) (by decide) rfl rfl rfl rfl rfl rfl (rkU Q) (fun r h q => by obtain ⟨rfl, -⟩ := rkU_inv q; exact trivial) hk
  obtain ⟨rfl, q2⟩ := rkU_inv q2
  exact ⟨h', q1, q2⟩
theorem go_61 {b d : Nat} {sa : Nat → Nat} {h : gH} {x0 : Option Nat} {x1 : Option Nat} {x2 : Int32} (Q : gH → Prop) (hk : bd_61 b sa (RN b sa d) (fun _ _ => False) (fun _ _ => False) (rkU Q) [some (.inr (.inr x0)), some (.inr (.inr x1)), some (.inl x2)] h) : ∃ h', RN b sa (d + 1) 61 [.inr (.inr x0), .inr (.inr x1), .inl x2] h none h' ∧ Q h' := by
  obtain ⟨r, h', q1, q2⟩ := RN_at (y := 61) (L := 3) (vs := [.inr (.inr x0), .inr (.inr x1), .inl x2]) (S := bd_61 b sa (RN b sa d)) (env := [some (.inr (.inr x0)), some (.inr (.inr x1)), some (.inl x2)]) (rt := none) (by decide) rfl rfl rfl rfl rfl rfl (rkU Q) (fun r h q => by obtain ⟨rfl, -⟩ := rkU_inv q; exact trivial) hk
  obtain ⟨rfl, q2⟩ := rkU_inv q2
  exact ⟨h', q1, q2⟩
theorem go_62 {b d : Nat} {sa : Nat → Nat} {h : gH} {x0 : Option Nat} {x1 : Int32} (Q : Int32 → gH → Prop) (hk : bd_62 b sa (RN b sa d) (fun _ _ => False) (fun _ _ => False) (rkI Q) [some (.inr (.inr x0)), some (.inl x1)] h) : ∃ v h', RN b sa (d + 1) 62 [.inr (.inr x0), .inl x1] h (some (.inl v)) h' ∧ Q v h' := by
  obtain ⟨r, h', q1, q2⟩ := RN_at (y := 62) (L := 2) (vs := [.inr (.inr x0), .inl x1]) (S := bd_62 b sa (RN b sa d)) (env := [some (.inr (.inr x0)), some (.inl x1)]) (rt := (some .int)) (by decide) rfl rfl rfl rfl rfl rfl (rkI Q) (fun r h q => by obtain ⟨v, rfl, q⟩ := rkI_inv q; exact trivial) hk
  obtain ⟨v, rfl, q2⟩ := rkI_inv q2
  exact ⟨v, h', q1, q2⟩
theorem go_63 {b d : Nat} {sa : Nat → Nat} {h : gH} {x0 : Option Nat} (Q : gH → Prop) (hk : bd_63 b sa (RN b sa d) (fun _ _ => False) (fun _ _ => False) (rkU Q) [some (.inr (.inr x0))] h) : ∃ h', RN b sa (d + 1) 63 [.inr (.inr x0)] h none h' ∧ Q h' := by
  obtain ⟨r, h', q1, q2⟩ := RN_at (y := 63) (L := 1) (vs := [.inr (.inr x0)]) (S := bd_63 b sa (RN b sa d)) (env := [some (.inr (.inr x0))]) (rt := none) (by decide) rfl rfl rfl rfl rfl rfl (rkU Q) (fun r h q => by obtain ⟨rfl, -⟩ := rkU_inv q; exact trivial) hk
  obtain ⟨rfl, q2⟩ := rkU_inv q2
  exact ⟨h', q1, q2⟩
theorem go_64 {b d : Nat} {sa : Nat → Nat} {h : gH} {x0 : Option Nat} (Q : Option Nat → gH → Prop) (hk : bd_64 b sa (RN b sa d) (fun _ _ => False) (fun _ _ => False) (rkR Q) [some (.inr (.inr x0)), none] h) : ∃ v h', RN b sa (d + 1) 64 [.inr (.inr x0)] h (some (.inr (.inr v))) h' ∧ Q v h' := by
  obtain ⟨r, h', q1, q2⟩ := RN_at (y := 64) (L := 2) (vs := [.inr (.inr x0)]) (S := bd_64 b sa (RN b sa d)) (env := [some (.inr (.inr x0)), none]) (rt := (some (.object "LoanNames$All"))) (by decide) rfl rfl rfl rfl rfl rfl (rkR Q) (fun r h q => by obtain ⟨v, rfl, q⟩ := rkR_inv q; exact trivial) hk
  obtain ⟨v, rfl, q2⟩ := rkR_inv q2
  exact ⟨v, h', q1, q2⟩
theorem go_65 {b d : Nat} {sa : Nat → Nat} {h : gH} {x0 : Option Nat} (Q : gH → Prop) (hk : bd_65 b sa (RN b sa d) (fun _ _ => False) (fun _ _ => False) (rkU Q) [some (.inr (.inr x0))] h) : ∃ h', RN b sa (d + 1) 65 [.inr (.inr x0)] h none h' ∧ Q h' := by
  obtain ⟨r, h', q1, q2⟩ := RN_at (y := 65) (L := 1) (vs := [.inr (.inr x0)]) (S := bd_65 b sa (RN b sa d)) (env := [some (.inr (.inr x0))]) (rt := none) (by decide) rfl rfl rfl rfl rfl rfl (rkU Q) (fun r h q => by obtain ⟨rfl, -⟩ := rkU_inv q; exact trivial) hk
  obtain ⟨rfl, q2⟩ := rkU_inv q2
  exact ⟨h', q1, q2⟩
theorem go_66 {b d : Nat} {sa : Nat → Nat} {h : gH} {x0 : Option Nat} (Q : Int32 → gH → Prop) (hk : bd_66 b sa (RN b sa d) (fun _ _ => False) (fun _ _ => False) (rkI Q) [some (.inr (.inr x0))] h) : ∃ v h', RN b sa (d + 1) 66 [.inr (.inr x0)] h (some (.inl v)) h' ∧ Q v h' := by
  obtain ⟨r, h', q1, q2⟩ := RN_at (y := 66) (L := 1) (vs := [.inr (.inr x0)]) (S := bd_66 b sa (RN b sa d)) (env := [some (.inr (.inr x0))]) (rt := (some .int)) (by decide) rfl rfl rfl rfl rfl rfl (rkI Q) (fun r h q => by obtain ⟨v, rfl, q⟩ := rkI_inv q; exact trivial) hk
  obtain ⟨v, rfl, q2⟩ := rkI_inv q2
  exact ⟨v, h', q1, q2⟩
theorem go_67 {b d : Nat} {sa : Nat → Nat} {h : gH} {x0 : Option Nat} (Q : Int32 → gH → Prop) (hk : bd_67 b sa (RN b sa d) (fun _ _ => False) (fun _ _ => False) (rkI Q) [some (.inr (.inr x0))] h) : ∃ v h', RN b sa (d + 1) 67 [.inr (.inr x0)] h (some (.inl v)) h' ∧ Q v h' := by
  obtain ⟨r, h', q1, q2⟩ := RN_at (y := 67) (L := 1) (vs := [.inr (.inr x0)]) (S := bd_67 b sa (RN b sa d)) (env := [some (.inr (.inr x0))]) (rt := (some .int)) (by decide) rfl rfl rfl rfl rfl rfl (rkI Q) (fun r h q => by obtain ⟨v, rfl, q⟩ := rkI_inv q; exact trivial) hk
  obtain ⟨v, rfl, q2⟩ := rkI_inv q2
  exact ⟨v, h', q1, q2⟩
theorem go_68 {b d : Nat} {sa : Nat → Nat} {h : gH} {x0 : Option Nat} {x1 : Option Nat} {x2 : Int32} {x3 : Int64} {x4 : Int32} (Q : gH → Prop) (hk : bd_68 b sa (RN b sa d) (fun _ _ => False) (fun _ _ => False) (rkU Q) [some (.inr (.inr x0)), some (.inr (.inr x1)), some (.inl x2), some (.inr (.inl x3)), none, some (.inl x4)] h) : ∃ h', RN b sa (d + 1) 68 [.inr (.inr x0), .inr (.inr x1), .inl x2, .inr (.inl x3), .inl x4] h none h' ∧ Q h' := by
  obtain ⟨r, h', q1, q2⟩ := RN_at (y := 68) (L := 6) (vs := [.inr (.inr x0), .inr (.inr x1), .inl x2, .inr (.inl x3), .inl x4]) (S := bd_68 b sa (RN b sa d)) (env := [some (.inr (.inr x0)), some (.inr (.inr x1)), some (.inl x2), some (.inr (.inl x3)), none, some (.inl x4)]) (rt := none) (by decide) rfl rfl rfl rfl rfl rfl (rkU Q) (fun r h q => by obtain ⟨rfl, -⟩ := rkU_inv q; exact trivial) hk
  obtain ⟨rfl, q2⟩ := rkU_inv q2
  exact ⟨h', q1, q2⟩
theorem go_69 {b d : Nat} {sa : Nat → Nat} {h : gH} {x0 : Option Nat} {x1 : Option Nat} {x2 : Int32} (Q : gH → Prop) (hk : bd_69 b sa (RN b sa d) (fun _ _ => False) (fun _ _ => False) (rkU Q) [some (.inr (.inr x0)), some (.inr (.inr x1)), some (.inl x2)] h) : ∃ h', RN b sa (d + 1) 69 [.inr (.inr x0), .inr (.inr x1), .inl x2] h none h' ∧ Q h' := by
  obtain ⟨r, h', q1, q2⟩ := RN_at (y := 69) (L := 3) (vs := [.inr (.inr x0), .inr (.inr x1), .inl x2]) (S := bd_69 b sa (RN b sa d)) (env := [some (.inr (.inr x0)), some (.inr (.inr x1)), some (.inl x2)]) (rt := none) (by decide) rfl rfl rfl rfl rfl rfl (rkU Q) (fun r h q => by obtain ⟨rfl, -⟩ := rkU_inv q; exact trivial) hk
  obtain ⟨rfl, q2⟩ := rkU_inv q2
  exact ⟨h', q1, q2⟩
theorem go_70 {b d : Nat} {sa : Nat → Nat} {h : gH} {x0 : Option Nat} (Q : Int32 → gH → Prop) (hQ : ∀ v h, Q v h → v = 0 ∨ v = 1) (hk : bd_70 b sa (RN b sa d) (fun _ _ => False) (fun _ _ => False) (rkI Q) [some (.inr (.inr x0))] h) : ∃ v h', RN b sa (d + 1) 70 [.inr (.inr x0)] h (some (.inl v)) h' ∧ Q v h' := by
  obtain ⟨r, h', q1, q2⟩ := RN_at (y := 70) (L := 1) (vs := [.inr (.inr x0)]) (S := bd_70 b sa (RN b sa d)) (env := [some (.inr (.inr x0))]) (rt := (some .boolean)) (by decide) rfl rfl rfl rfl rfl rfl (rkI Q) (fun r h q => by obtain ⟨v, rfl, q⟩ := rkI_inv q; exact hQ v h q) hk
  obtain ⟨v, rfl, q2⟩ := rkI_inv q2
  exact ⟨v, h', q1, q2⟩
theorem go_71 {b d : Nat} {sa : Nat → Nat} {h : gH} {x0 : Option Nat} {x1 : Option Nat} (Q : Int32 → gH → Prop) (hQ : ∀ v h, Q v h → v = 0 ∨ v = 1) (hk : bd_71 b sa (RN b sa d) (fun _ _ => False) (fun _ _ => False) (rkI Q) [some (.inr (.inr x0)), some (.inr (.inr x1)), none] h) : ∃ v h', RN b sa (d + 1) 71 [.inr (.inr x0), .inr (.inr x1)] h (some (.inl v)) h' ∧ Q v h' := by
  obtain ⟨r, h', q1, q2⟩ := RN_at (y := 71) (L := 3) (vs := [.inr (.inr x0), .inr (.inr x1)]) (S := bd_71 b sa (RN b sa d)) (env := [some (.inr (.inr x0)), some (.inr (.inr x1)), none]) (rt := (some .boolean)) (by decide) rfl rfl rfl rfl rfl rfl (rkI Q) (fun r h q => by obtain ⟨v, rfl, q⟩ := rkI_inv q; exact hQ v h q) hk
  obtain ⟨v, rfl, q2⟩ := rkI_inv q2
  exact ⟨v, h', q1, q2⟩
theorem go_72 {b d : Nat} {sa : Nat → Nat} {h : gH} {x0 : Option Nat} {x1 : Option Nat} (Q : Option Nat → gH → Prop) (hk : bd_72 b sa (RN b sa d) (fun _ _ => False) (fun _ _ => False) (rkR Q) [some (.inr (.inr x0)), some (.inr (.inr x1))] h) : ∃ v h', RN b sa (d + 1) 72 [.inr (.inr x0), .inr (.inr x1)] h (some (.inr (.inr v))) h' ∧ Q v h' := by
  obtain ⟨r, h', q1, q2⟩ := RN_at (y := 72) (L := 2) (vs := [.inr (.inr x0), .inr (.inr x1)]) (S := bd_72 b sa (RN b sa d)) (env := [some (.inr (.inr x0)), some (.inr (.inr x1))]) (rt := (some (.object "LoanNames$All"))) (by decide) rfl rfl rfl rfl rfl rfl (rkR Q) (fun r h q => by obtain ⟨v, rfl, q⟩ := rkR_inv q; exact trivial) hk
  obtain ⟨v, rfl, q2⟩ := rkR_inv q2
  exact ⟨v, h', q1, q2⟩
theorem go_73 {b d : Nat} {sa : Nat → Nat} {h : gH} {x0 : Option Nat} {x1 : Int32} {x2 : Int32} {x3 : Int32} {x4 : Int32} {x5 : Int32} (Q : gH → Prop) (hk : bd_73 b sa (RN b sa d) (fun _ _ => False) (fun _ _ => False) (rkU Q) [some (.inr (.inr x0)), some (.inl x1), some (.inl x2), some (.inl x3), some (.inl x4), some (.inl x5)] h) : ∃ h', RN b sa (d + 1) 73 [.inr (.inr x0), .inl x1, .inl x2, .inl x3, .inl x4, .inl x5] h none h' ∧ Q h' := by
  obtain ⟨r, h', q1, q2⟩ := RN_at (y := 73) (L := 6) (vs := [.inr (.inr x0), .inl x1, .inl x2, .inl x3, .inl x4, .inl x5]) (S := bd_73 b sa (RN b sa d)) (env := [some (.inr (.inr x0)), some (.inl x1), some (.inl x2), some (.inl x3), some (.inl x4), some (.inl x5)]) (rt := none) (by decide) rfl rfl rfl rfl rfl rfl (rkU Q) (fun r h q => by obtain ⟨rfl, -⟩ := rkU_inv q; exact trivial) hk
  obtain ⟨rfl, q2⟩ := rkU_inv q2
  exact ⟨h', q1, q2⟩
theorem go_74 {b d : Nat} {sa : Nat → Nat} {h : gH} {x0 : Option Nat} (Q : Int32 → gH → Prop) (hk : bd_74 b sa (RN b sa d) (fun _ _ => False) (fun _ _ => False) (rkI Q) [some (.inr (.inr x0))] h) : ∃ v h', RN b sa (d + 1) 74 [.inr (.inr x0)] h (some (.inl v)) h' ∧ Q v h' := by
  obtain ⟨r, h', q1, q2⟩ := RN_at (y := 74) (L := 1) (vs := [.inr (.inr x0)]) (S := bd_74 b sa (RN b sa d)) (env := [some (.inr (.inr x0))]) (rt := (some .int)) (by decide) rfl rfl rfl rfl rfl rfl (rkI Q) (fun r h q => by obtain ⟨v, rfl, q⟩ := rkI_inv q; exact trivial) hk
  obtain ⟨v, rfl, q2⟩ := rkI_inv q2
  exact ⟨v, h', q1, q2⟩
theorem go_75 {b d : Nat} {sa : Nat → Nat} {h : gH} {x0 : Option Nat} {x1 : Int32} {x2 : Int32} {x3 : Int32} {x4 : Int32} {x5 : Int32} {x6 : Int32} (Q : gH → Prop) (hk : bd_75 b sa (RN b sa d) (fun _ _ => False) (fun _ _ => False) (rkU Q) [some (.inr (.inr x0)), some (.inl x1), some (.inl x2), some (.inl x3), some (.inl x4), some (.inl x5), some (.inl x6)] h) : ∃ h', RN b sa (d + 1) 75 [.inr (.inr x0), .inl x1, .inl x2, .inl x3, .inl x4, .inl x5, .inl x6] h none h' ∧ Q h' := by
  obtain ⟨r, h', q1, q2⟩ := RN_at (y := 75) (L := 7) (vs := [.inr (.inr x0), .inl x1, .inl x2, .inl x3, .inl x4, .inl x5, .inl x6]) (S := bd_75 b sa (RN b sa d)) (env := [some (.inr (.inr x0)), some (.inl x1), some (.inl x2), some (.inl x3), some (.inl x4), some (.inl x5), some (.inl x6)]) (rt := none) (by decide) rfl rfl rfl rfl rfl rfl (rkU Q) (fun r h q => by obtain ⟨rfl, -⟩ := rkU_inv q; exact trivial) hk
  obtain ⟨rfl, q2⟩ := rkU_inv q2
  exact ⟨h', q1, q2⟩
theorem go_76 {b d : Nat} {sa : Nat → Nat} {h : gH} {x0 : Option Nat} (Q : Int32 → gH → Prop) (hk : bd_76 b sa (RN b sa d) (fun _ _ => False) (fun _ _ => False) (rkI Q) [some (.inr (.inr x0))] h) : ∃ v h', RN b sa (d + 1) 76 [.inr (.inr x0)] h (some (.inl v)) h' ∧ Q v h' := by
  obtain ⟨r, h', q1, q2⟩ := RN_at (y := 76) (L := 1) (vs := [.inr (.inr x0)]) (S := bd_76 b sa (RN b sa d)) (env := [some (.inr (.inr x0))]) (rt := (some .int)) (by decide) rfl rfl rfl rfl rfl rfl (rkI Q) (fun r h q => by obtain ⟨v, rfl, q⟩ := rkI_inv q; exact trivial) hk
  obtain ⟨v, rfl, q2⟩ := rkI_inv q2
  exact ⟨v, h', q1, q2⟩
theorem go_77 {b d : Nat} {sa : Nat → Nat} {h : gH} {x0 : Option Nat} (Q : Int32 → gH → Prop) (hk : bd_77 b sa (RN b sa d) (fun _ _ => False) (fun _ _ => False) (rkI Q) [some (.inr (.inr x0))] h) : ∃ v h', RN b sa (d + 1) 77 [.inr (.inr x0)] h (some (.inl v)) h' ∧ Q v h' := by
  obtain ⟨r, h', q1, q2⟩ := RN_at (y := 77) (L := 1) (vs := [.inr (.inr x0)]) (S := bd_77 b sa (RN b sa d)) (env := [some (.inr (.inr x0))]) (rt := (some .int)) (by decide) rfl rfl rfl rfl rfl rfl (rkI Q) (fun r h q => by obtain ⟨v, rfl, q⟩ := rkI_inv q; exact trivial) hk
  obtain ⟨v, rfl, q2⟩ := rkI_inv q2
  exact ⟨v, h', q1, q2⟩
theorem go_78 {b d : Nat} {sa : Nat → Nat} {h : gH} {x0 : Option Nat} (Q : Int32 → gH → Prop) (hk : bd_78 b sa (RN b sa d) (fun _ _ => False) (fun _ _ => False) (rkI Q) [some (.inr (.inr x0))] h) : ∃ v h', RN b sa (d + 1) 78 [.inr (.inr x0)] h (some (.inl v)) h' ∧ Q v h' := by
  obtain ⟨r, h', q1, q2⟩ := RN_at (y := 78) (L := 1) (vs := [.inr (.inr x0)]) (S := bd_78 b sa (RN b sa d)) (env := [some (.inr (.inr x0))]) (rt := (some .int)) (by decide) rfl rfl rfl rfl rfl rfl (rkI Q) (fun r h q => by obtain ⟨v, rfl, q⟩ := rkI_inv q; exact trivial) hk
  obtain ⟨v, rfl, q2⟩ := rkI_inv q2
  exact ⟨v, h', q1, q2⟩
theorem go_79 {b d : Nat} {sa : Nat → Nat} {h : gH} {x0 : Option Nat} {x1 : Option Nat} {x2 : Int32} {x3 : Int64} {x4 : Int32} (Q : gH → Prop) (hk : bd_79 b sa (RN b sa d) (fun _ _ => False) (fun _ _ => False) (rkU Q) [some (.inr (.inr x0)), some (.inr (.inr x1)), some (.inl x2), some (.inr (.inl x3)), none, some (.inl x4)] h) : ∃ h', RN b sa (d + 1) 79 [.inr (.inr x0), .inr (.inr x1), .inl x2, .inr (.inl x3), .inl x4] h none h' ∧ Q h' := by
  obtain ⟨r, h', q1, q2⟩ := RN_at (y := 79) (L := 6) (vs := [.inr (.inr x0), .inr (.inr x1), .inl x2, .inr (.inl x3), .inl x4]) (S := bd_79 b sa (RN b sa d)) (env := [some (.inr (.inr x0)), some (.inr (.inr x1)), some (.inl x2), some (.inr (.inl x3)), none, some (.inl x4)]) (rt := none) (by decide) rfl rfl rfl rfl rfl rfl (rkU Q) (fun r h q => by obtain ⟨rfl, -⟩ := rkU_inv q; exact trivial) hk
  obtain ⟨rfl, q2⟩ := rkU_inv q2
  exact ⟨h', q1, q2⟩
theorem go_80 {b d : Nat} {sa : Nat → Nat} {h : gH} {x0 : Option Nat} {x1 : Int32} {x2 : Int32} {x3 : Int32} {x4 : Int32} {x5 : Int32} {x6 : Int32} {x7 : Int32} (Q : gH → Prop) (hk : bd_80 b sa (RN b sa d) (fun _ _ => False) (fun _ _ => False) (rkU Q) [some (.inr (.inr x0)), some (.inl x1), some (.inl x2), some (.inl x3), some (.inl x4), some (.inl x5), some (.inl x6), some (.inl x7)] h) : ∃ h', RN b sa (d + 1) 80 [.inr (.inr x0), .inl x1, .inl x2, .inl x3, .inl x4, .inl x5, .inl x6, .inl x7] h none h' ∧ Q h' := by
  obtain ⟨r, h', q1, q2⟩ := RN_at (y := 80) (L := 8) (vs := [.inr (.inr x0), .inl x1, .inl x2, .inl x3, .inl x4, .inl x5, .inl x6, .inl x7]) (S := bd_80 b sa (RN b sa d)) (env := [some (.inr (.inr x0)), some (.inl x1), some (.inl x2), some (.inl x3), some (.inl x4), some (.inl x5), some (.inl x6), some (.inl x7)]) (rt := none) (by decide) rfl rfl rfl rfl rfl rfl (rkU Q) (fun r h q => by obtain ⟨rfl, -⟩ := rkU_inv q; exact trivial) hk
  obtain ⟨rfl, q2⟩ := rkU_inv q2
  exact ⟨h', q1, q2⟩
theorem go_81 {b d : Nat} {sa : Nat → Nat} {h : gH} {x0 : Option Nat} (Q : Int32 → gH → Prop) (hk : bd_81 b sa (RN b sa d) (fun _ _ => False) (fun _ _ => False) (rkI Q) [some (.inr (.inr x0))] h) : ∃ v h', RN b sa (d + 1) 81 [.inr (.inr x0)] h (some (.inl v)) h' ∧ Q v h' := by
  obtain ⟨r, h', q1, q2⟩ := RN_at (y := 81) (L := 1) (vs := [.inr (.inr x0)]) (S := bd_81 b sa (RN b sa d)) (env := [some (.inr (.inr x0))]) (rt := (some .int)) (by decide) rfl rfl rfl rfl rfl rfl (rkI Q) (fun r h q => by obtain ⟨v, rfl, q⟩ := rkI_inv q; exact trivial) hk
  obtain ⟨v, rfl, q2⟩ := rkI_inv q2
  exact ⟨v, h', q1, q2⟩
theorem go_82 {b d : Nat} {sa : Nat → Nat} {h : gH} {x0 : Option Nat} {x1 : Option Nat} {x2 : Int32} {x3 : Int64} {x4 : Int32} (Q : gH → Prop) (hk : bd_82 b sa (RN b sa d) (fun _ _ => False) (fun _ _ => False) (rkU Q) [some (.inr (.inr x0)), some (.inr (.inr x1)), some (.inl x2), some (.inr (.inl x3)), none, some (.inl x4)] h) : ∃ h', RN b sa (d + 1) 82 [.inr (.inr x0), .inr (.inr x1), .inl x2, .inr (.inl x3), .inl x4] h none h' ∧ Q h' := by
  obtain ⟨r, h', q1, q2⟩ := RN_at (y := 82) (L := 6) (vs := [.inr (.inr x0), .inr (.inr x1), .inl x2, .inr (.inl x3), .inl x4]) (S := bd_82 b sa (RN b sa d)) (env := [some (.inr (.inr x0)), some (.inr (.inr x1)), some (.inl x2), some (.inr (.inl x3)), none, some (.inl x4)]) (rt := none) (by decide) rfl rfl rfl rfl rfl rfl (rkU Q) (fun r h q => by obtain ⟨rfl, -⟩ := rkU_inv q; exact trivial) hk
  obtain ⟨rfl, q2⟩ := rkU_inv q2
  exact ⟨h', q1, q2⟩
theorem go_83 {b d : Nat} {sa : Nat → Nat} {h : gH} {x0 : Option Nat} {x1 : Int32} {x2 : Int32} {x3 : Int32} {x4 : Int32} {x5 : Int32} {x6 : Int32} {x7 : Int32} (Q : gH → Prop) (hk : bd_83 b sa (RN b sa d) (fun _ _ => False) (fun _ _ => False) (rkU Q) [some (.inr (.inr x0)), some (.inl x1), some (.inl x2), some (.inl x3), some (.inl x4), some (.inl x5), some (.inl x6), some (.inl x7)] h) : ∃ h', RN b sa (d + 1) 83 [.inr (.inr x0), .inl x1, .inl x2, .inl x3, .inl x4, .inl x5, .inl x6, .inl x7] h none h' ∧ Q h' := by
  obtain ⟨r, h', q1, q2⟩ := RN_at (y := 83) (L := 8) (vs := [.inr (.inr x0), .inl x1, .inl x2, .inl x3, .inl x4, .inl x5, .inl x6, .inl x7]) (S := bd_83 b sa (RN b sa d)) (env := [some (.inr (.inr x0)), some (.inl x1), some (.inl x2), some (.inl x3), some (.inl x4), some (.inl x5), some (.inl x6), some (.inl x7)]) (rt := none) (by decide) rfl rfl rfl rfl rfl rfl (rkU Q) (fun r h q => by obtain ⟨rfl, -⟩ := rkU_inv q; exact trivial) hk
  obtain ⟨rfl, q2⟩ := rkU_inv q2
  exact ⟨h', q1, q2⟩
theorem go_84 {b d : Nat} {sa : Nat → Nat} {h : gH} {x0 : Option Nat} {x1 : Option Nat} {x2 : Int32} {x3 : Int64} {x4 : Int32} (Q : gH → Prop) (hk : bd_84 b sa (RN b sa d) (fun _ _ => False) (fun _ _ => False) (rkU Q) [some (.inr (.inr x0)), some (.inr (.inr x1)), some (.inl x2), some (.inr (.inl x3)), none, some (.inl x4)] h) : ∃ h', RN b sa (d + 1) 84 [.inr (.inr x0), .inr (.inr x1), .inl x2, .inr (.inl x3), .inl x4] h none h' ∧ Q h' := by
  obtain ⟨r, h', q1, q2⟩ := RN_at (y := 84) (L := 6) (vs := [.inr (.inr x0), .inr (.inr x1), .inl x2, .inr (.inl x3), .inl x4]) (S := bd_84 b sa (RN b sa d)) (env := [some (.inr (.inr x0)), some (.inr (.inr x1)), some (.inl x2), some (.inr (.inl x3)), none, some (.inl x4)]) (rt := none) (by decide) rfl rfl rfl rfl rfl rfl (rkU Q) (fun r h q => by obtain ⟨rfl, -⟩ := rkU_inv q; exact trivial) hk
  obtain ⟨rfl, q2⟩ := rkU_inv q2
  exact ⟨h', q1, q2⟩
theorem go_85 {b d : Nat} {sa : Nat → Nat} {h : gH} {x0 : Option Nat} {x1 : Option Nat} {x2 : Int32} (Q : gH → Prop) (hk : bd_85 b sa (RN b sa d) (fun _ _ => False) (fun _ _ => False) (rkU Q) [some (.inr (.inr x0)), some (.inr (.inr x1)), some (.inl x2)] h) : ∃ h', RN b sa (d + 1) 85 [.inr (.inr x0), .inr (.inr x1), .inl x2] h none h' ∧ Q h' := by
  obtain ⟨r, h', q1, q2⟩ := RN_at (y := 85) (L := 3) (vs := [.inr (.inr x0), .inr (.inr x1), .inl x2]) (S := bd_85 b sa (RN b sa d)) (env := [some (.inr (.inr x0)), some (.inr (.inr x1)), some (.inl x2)]) (rt := none) (by decide) rfl rfl rfl rfl rfl rfl (rkU Q) (fun r h q => by obtain ⟨rfl, -⟩ := rkU_inv q; exact trivial) hk
  obtain ⟨rfl, q2⟩ := rkU_inv q2
  exact ⟨h', q1, q2⟩
theorem go_86 {b d : Nat} {sa : Nat → Nat} {h : gH} {x0 : Option Nat} (Q : Int32 → gH → Prop) (hQ : ∀ v h, Q v h → v = 0 ∨ v = 1) (hk : bd_86 b sa (RN b sa d) (fun _ _ => False) (fun _ _ => False) (rkI Q) [some (.inr (.inr x0))] h) : ∃ v h', RN b sa (d + 1) 86 [.inr (.inr x0)] h (some (.inl v)) h' ∧ Q v h' := by
  obtain ⟨r, h', q1, q2⟩ := RN_at (y := 86) (L := 1) (vs := [.inr (.inr x0)]) (S := bd_86 b sa (RN b sa d)) (env := [some (.inr (.inr x0))]) (rt := (some .boolean)) (by decide) rfl rfl rfl rfl rfl rfl (rkI Q) (fun r h q => by obtain ⟨v, rfl, q⟩ := rkI_inv q; exact hQ v h q) hk
  obtain ⟨v, rfl, q2⟩ := rkI_inv q2
  exact ⟨v, h', q1, q2⟩
theorem go_87 {b d : Nat} {sa : Nat → Nat} {h : gH} {x0 : Option Nat} {x1 : Option Nat} (Q : Int32 → gH → Prop) (hQ : ∀ v h, Q v h → v = 0 ∨ v = 1) (hk : bd_87 b sa (RN b sa d) (fun _ _ => False) (fun _ _ => False) (rkI Q) [some (.inr (.inr x0)), some (.inr (.inr x1))] h) : ∃ v h', RN b sa (d + 1) 87 [.inr (.inr x0), .inr (.inr x1)] h (some (.inl v)) h' ∧ Q v h' := by
  obtain ⟨r, h', q1, q2⟩ := RN_at (y := 87) (L := 2) (vs := [.inr (.inr x0), .inr (.inr x1)]) (S := bd_87 b sa (RN b sa d)) (env := [some (.inr (.inr x0)), some (.inr (.inr x1))]) (rt := (some .boolean)) (by decide) rfl rfl rfl rfl rfl rfl (rkI Q) (fun r h q => by obtain ⟨v, rfl, q⟩ := rkI_inv q; exact hQ v h q) hk
  obtain ⟨v, rfl, q2⟩ := rkI_inv q2
  exact ⟨v, h', q1, q2⟩
theorem go_88 {b d : Nat} {sa : Nat → Nat} {h : gH} {x0 : Option Nat} {x1 : Option Nat} (Q : Option Nat → gH → Prop) (hk : bd_88 b sa (RN b sa d) (fun _ _ => False) (fun _ _ => False) (rkR Q) [some (.inr (.inr x0)), some (.inr (.inr x1)), none, none, none] h) : ∃ v h', RN b sa (d + 1) 88 [.inr (.inr x0), .inr (.inr x1)] h (some (.inr (.inr v))) h' ∧ Q v h' := by
  obtain ⟨r, h', q1, q2⟩ := RN_at (y := 88) (L := 5) (vs := [.inr (.inr x0), .inr (.inr x1)]) (S := bd_88 b sa (RN b sa d)) (env := [some (.inr (.inr x0)), some (.inr (.inr x1)), none, none, none]) (rt := (some (.object "LoanNames$All"))) (by decide) rfl rfl rfl rfl rfl rfl (rkR Q) (fun r h q => by obtain ⟨v, rfl, q⟩ := rkR_inv q; exact trivial) hk
  obtain ⟨v, rfl, q2⟩ := rkR_inv q2
  exact ⟨v, h', q1, q2⟩
theorem go_89 {b d : Nat} {sa : Nat → Nat} {h : gH} {x0 : Option Nat} {x1 : Int32} {x2 : Option Nat} (Q : gH → Prop) (hk : bd_89 b sa (RN b sa d) (fun _ _ => False) (fun _ _ => False) (rkU Q) [some (.inr (.inr x0)), some (.inl x1), some (.inr (.inr x2))] h) : ∃ h', RN b sa (d + 1) 89 [.inr (.inr x0), .inl x1, .inr (.inr x2)] h none h' ∧ Q h' := by
  obtain ⟨r, h', q1, q2⟩ := RN_at (y := 89) (L := 3) (vs := [.inr (.inr x0), .inl x1, .inr (.inr x2)]) (S := bd_89 b sa (RN b sa d)) (env := [some (.inr (.inr x0)), some (.inl x1), some (.inr (.inr x2))]) (rt := none) (by decide) rfl rfl rfl rfl rfl rfl (rkU Q) (fun r h q => by obtain ⟨rfl, -⟩ := rkU_inv q; exact trivial) hk
  obtain ⟨rfl, q2⟩ := rkU_inv q2
  exact ⟨h', q1, q2⟩
theorem go_90 {b d : Nat} {sa : Nat → Nat} {h : gH} {x0 : Option Nat} {x1 : Option Nat} {x2 : Int32} {x3 : Int64} {x4 : Int32} (Q : gH → Prop) (hk : bd_90 b sa (RN b sa d) (fun _ _ => False) (fun _ _ => False) (rkU Q) [some (.inr (.inr x0)), some (.inr (.inr x1)), some (.inl x2), some (.inr (.inl x3)), none, some (.inl x4)] h) : ∃ h', RN b sa (d + 1) 90 [.inr (.inr x0), .inr (.inr x1), .inl x2, .inr (.inl x3), .inl x4] h none h' ∧ Q h' := by
  obtain ⟨r, h', q1, q2⟩ := RN_at (y := 90) (L := 6) (vs := [.inr (.inr x0), .inr (.inr x1), .inl x2, .inr (.inl x3), .inl x4]) (S := bd_90 b sa (RN b sa d)) (env := [some (.inr (.inr x0)), some (.inr (.inr x1)), some (.inl x2), some (.inr (.inl x3)), none, some (.inl x4)]) (rt := none) (by decide) rfl rfl rfl rfl rfl rfl (rkU Q) (fun r h q => by obtain ⟨rfl, -⟩ := rkU_inv q; exact trivial) hk
  obtain ⟨rfl, q2⟩ := rkU_inv q2
  exact ⟨h', q1, q2⟩
theorem go_91 {b d : Nat} {sa : Nat → Nat} {h : gH} {x0 : Option Nat} {x1 : Option Nat} {x2 : Int32} (Q : gH → Prop) (hk : bd_91 b sa (RN b sa d) (fun _ _ => False) (fun _ _ => False) (rkU Q) [some (.inr (.inr x0)), some (.inr (.inr x1)), some (.inl x2)] h) : ∃ h', RN b sa (d + 1) 91 [.inr (.inr x0), .inr (.inr x1), .inl x2] h none h' ∧ Q h' := by
  obtain ⟨r, h', q1, q2⟩ := RN_at (y := 91) (L := 3) (vs := [.inr (.inr x0), .inr (.inr x1), .inl x2]) (S := bd_91 b sa (RN b sa d)) (env := [some (.inr (.inr x0)), some (.inr (.inr x1)), some (.inl x2)]) (rt := none) (by decide) rfl rfl rfl rfl rfl rfl (rkU Q) (fun r h q => by obtain ⟨rfl, -⟩ := rkU_inv q; exact trivial) hk
  obtain ⟨rfl, q2⟩ := rkU_inv q2
  exact ⟨h', q1, q2⟩
theorem go_92 {b d : Nat} {sa : Nat → Nat} {h : gH} {x0 : Option Nat} (Q : Int32 → gH → Prop) (hQ : ∀ v h, Q v h → v = 0 ∨ v = 1) (hk : bd_92 b sa (RN b sa d) (fun _ _ => False) (fun _ _ => False) (rkI Q) [some (.inr (.inr x0))] h) : ∃ v h', RN b sa (d + 1) 92 [.inr (.inr x0)] h (some (.inl v)) h' ∧ Q v h' := by
  obtain ⟨r, h', q1, q2⟩ := RN_at (y := 92) (L := 1) (vs := [.inr (.inr x0)]) (S := bd_92 b sa (RN b sa d)) (env := [some (.inr (.inr x0))]) (rt := (some .boolean)) (by decide) rfl rfl rfl rfl rfl rfl (rkI Q) (fun r h q => by obtain ⟨v, rfl, q⟩ := rkI_inv q; exact hQ v h q) hk
  obtain ⟨v, rfl, q2⟩ := rkI_inv q2
  exact ⟨v, h', q1, q2⟩
theorem go_93 {b d : Nat} {sa : Nat → Nat} {h : gH} {x0 : Option Nat} {x1 : Option Nat} (Q : Int32 → gH → Prop) (hQ : ∀ v h, Q v h → v = 0 ∨ v = 1) (hk : bd_93 b sa (RN b sa d) (fun _ _ => False) (fun _ _ => False) (rkI Q) [some (.inr (.inr x0)), some (.inr (.inr x1))] h) : ∃ v h', RN b sa (d + 1) 93 [.inr (.inr x0), .inr (.inr x1)] h (some (.inl v)) h' ∧ Q v h' := by
  obtain ⟨r, h', q1, q2⟩ := RN_at (y := 93) (L := 2) (vs := [.inr (.inr x0), .inr (.inr x1)]) (S := bd_93 b sa (RN b sa d)) (env := [some (.inr (.inr x0)), some (.inr (.inr x1))]) (rt := (some .boolean)) (by decide) rfl rfl rfl rfl rfl rfl (rkI Q) (fun r h q => by obtain ⟨v, rfl, q⟩ := rkI_inv q; exact hQ v h q) hk
  obtain ⟨v, rfl, q2⟩ := rkI_inv q2
  exact ⟨v, h', q1, q2⟩
theorem go_94 {b d : Nat} {sa : Nat → Nat} {h : gH} {x0 : Option Nat} {x1 : Option Nat} (Q : Option Nat → gH → Prop) (hk : bd_94 b sa (RN b sa d) (fun _ _ => False) (fun _ _ => False) (rkR Q) [some (.inr (.inr x0)), some (.inr (.inr x1)), none] h) : ∃ v h', RN b sa (d + 1) 94 [.inr (.inr x0), .inr (.inr x1)] h (some (.inr (.inr v))) h' ∧ Q v h' := by
  obtain ⟨r, h', q1, q2⟩ := RN_at (y := 94) (L := 3) (vs := [.inr (.inr x0), .inr (.inr x1)]) (S := bd_94 b sa (RN b sa d)) (env := [some (.inr (.inr x0)), some (.inr (.inr x1)), none]) (rt := (some (.object "LoanNames$All"))) (by decide) rfl rfl rfl rfl rfl rfl (rkR Q) (fun r h q => by obtain ⟨v, rfl, q⟩ := rkR_inv q; exact trivial) hk
  obtain ⟨v, rfl, q2⟩ := rkR_inv q2
  exact ⟨v, h', q1, q2⟩
theorem go_95 {b d : Nat} {sa : Nat → Nat} {h : gH} {x0 : Option Nat} {x1 : Int32} {x2 : Option Nat} (Q : gH → Prop) (hk : bd_95 b sa (RN b sa d) (fun _ _ => False) (fun _ _ => False) (rkU Q) [some (.inr (.inr x0)), some (.inl x1), some (.inr (.inr x2))] h) : ∃ h', RN b sa (d + 1) 95 [.inr (.inr x0), .inl x1, .inr (.inr x2)] h none h' ∧ Q h' := by
  obtain ⟨r, h', q1, q2⟩ := RN_at (y := 95) (L := 3) (vs := [.inr (.inr x0), .inl x1, .inr (.inr x2)]) (S := bd_95 b sa (RN b sa d)) (env := [some (.inr (.inr x0)), some (.inl x1), some (.inr (.inr x2))]) (rt := none) (by decide) rfl rfl rfl rfl rfl rfl (rkU Q) (fun r h q => by obtain ⟨rfl, -⟩ := rkU_inv q; exact trivial) hk
  obtain ⟨rfl, q2⟩ := rkU_inv q2
  exact ⟨h', q1, q2⟩
theorem go_96 {b d : Nat} {sa : Nat → Nat} {h : gH} {x0 : Option Nat} {x1 : Option Nat} {x2 : Int32} {x3 : Int64} {x4 : Int32} (Q : gH → Prop) (hk : bd_96 b sa (RN b sa d) (fun _ _ => False) (fun _ _ => False) (rkU Q) [some (.inr (.inr x0)), some (.inr (.inr x1)), some (.inl x2), some (.inr (.inl x3)), none, some (.inl x4)] h) : ∃ h', RN b sa (d + 1) 96 [.inr (.inr x0), .inr (.inr x1), .inl x2, .inr (.inl x3), .inl x4] h none h' ∧ Q h' := by
  obtain ⟨r, h', q1, q2⟩ := RN_at (y := 96) (L := 6) (vs := [.inr (.inr x0), .inr (.inr x1), .inl x2, .inr (.inl x3), .inl x4]) (S := bd_96 b sa (RN b sa d)) (env := [some (.inr (.inr x0)), some (.inr (.inr x1)), some (.inl x2), some (.inr (.inl x3)), none, some (.inl x4)]) (rt := none) (by decide) rfl rfl rfl rfl rfl rfl (rkU Q) (fun r h q => by obtain ⟨rfl, -⟩ := rkU_inv q; exact trivial) hk
  obtain ⟨rfl, q2⟩ := rkU_inv q2
  exact ⟨h', q1, q2⟩
theorem go_97 {b d : Nat} {sa : Nat → Nat} {h : gH} {x0 : Option Nat} {x1 : Option Nat} {x2 : Int32} (Q : gH → Prop) (hk : bd_97 b sa (RN b sa d) (fun _ _ => False) (fun _ _ => False) (rkU Q) [some (.inr (.inr x0)), some (.inr (.inr x1)), some (.inl x2)] h) : ∃ h', RN b sa (d + 1) 97 [.inr (.inr x0), .inr (.inr x1), .inl x2] h none h' ∧ Q h' := by
  obtain ⟨r, h', q1, q2⟩ := RN_at (y := 97) (L := 3) (vs := [.inr (.inr x0), .inr (.inr x1), .inl x2]) (S := bd_97 b sa (RN b sa d)) (env := [some (.inr (.inr x0)), some (.inr (.inr x1)), some (.inl x2)]) (rt := none) (by decide) rfl rfl rfl rfl rfl rfl (rkU Q) (fun r h q => by obtain ⟨rfl, -⟩ := rkU_inv q; exact trivial) hk
  obtain ⟨rfl, q2⟩ := rkU_inv q2
  exact ⟨h', q1, q2⟩
theorem go_98 {b d : Nat} {sa : Nat → Nat} {h : gH} {x0 : Option Nat} (Q : Int32 → gH → Prop) (hQ : ∀ v h, Q v h → v = 0 ∨ v = 1) (hk : bd_98 b sa (RN b sa d) (fun _ _ => False) (fun _ _ => False) (rkI Q) [some (.inr (.inr x0))] h) : ∃ v h', RN b sa (d + 1) 98 [.inr (.inr x0)] h (some (.inl v)) h' ∧ Q v h' := by
  obtain ⟨r, h', q1, q2⟩ := RN_at (y := 98) (L := 1) (vs := [.inr (.inr x0)]) (S := bd_98 b sa (RN b sa d)) (env := [some (.inr (.inr x0))]) (rt := (some .boolean)) (by decide) rfl rfl rfl rfl rfl rfl (rkI Q) (fun r h q => by obtain ⟨v, rfl, q⟩ := rkI_inv q; exact hQ v h q) hk
  obtain ⟨v, rfl, q2⟩ := rkI_inv q2
  exact ⟨v, h', q1, q2⟩
theorem go_99 {b d : Nat} {sa : Nat → Nat} {h : gH} {x0 : Option Nat} {x1 : Option Nat} (Q : Int32 → gH → Prop) (hQ : ∀ v h, Q v h → v = 0 ∨ v = 1) (hk : bd_99 b sa (RN b sa d) (fun _ _ => False) (fun _ _ => False) (rkI Q) [some (.inr (.inr x0)), some (.inr (.inr x1))] h) : ∃ v h', RN b sa (d + 1) 99 [.inr (.inr x0), .inr (.inr x1)] h (some (.inl v)) h' ∧ Q v h' := by
  obtain ⟨r, h', q1, q2⟩ := RN_at (y := 99) (L := 2) (vs := [.inr (.inr x0), .inr (.inr x1)]) (S := bd_99 b sa (RN b sa d)) (env := [some (.inr (.inr x0)), some (.inr (.inr x1))]) (rt := (some .boolean)) (by decide) rfl rfl rfl rfl rfl rfl (rkI Q) (fun r h q => by obtain ⟨v, rfl, q⟩ := rkI_inv q; exact hQ v h q) hk
  obtain ⟨v, rfl, q2⟩ := rkI_inv q2
  exact ⟨v, h', q1, q2⟩
theorem go_100 {b d : Nat} {sa : Nat → Nat} {h : gH} {x0 : Option Nat} {x1 : Option Nat} (Q : Option Nat → gH → Prop) (hk : bd_100 b sa (RN b sa d) (fun _ _ => False) (fun _ _ => False) (rkR Q) [some (.inr (.inr x0)), some (.inr (.inr x1)), none, none, none] h) : ∃ v h', RN b sa (d + 1) 100 [.inr (.inr x0), .inr (.inr x1)] h (some (.inr (.inr v))) h' ∧ Q v h' := by
  obtain ⟨r, h', q1, q2⟩ := RN_at (y := 100) (L := 5) (vs := [.inr (.inr x0), .inr (.inr x1)]) (S := bd_100 b sa (RN b sa d)) (env := [some (.inr (.inr x0)), some (.inr (.inr x1)), none, none, none]) (rt := (some (.object "LoanNames$All"))) (by decide) rfl rfl rfl rfl rfl rfl (rkR Q) (fun r h q => by obtain ⟨v, rfl, q⟩ := rkR_inv q; exact trivial) hk
  obtain ⟨v, rfl, q2⟩ := rkR_inv q2
  exact ⟨v, h', q1, q2⟩
theorem go_101 {b d : Nat} {sa : Nat → Nat} {h : gH} {x0 : Option Nat} {x1 : Option Nat} {x2 : Option Nat} (Q : gH → Prop) (hk : bd_101 b sa (RN b sa d) (fun _ _ => False) (fun _ _ => False) (rkU Q) [some (.inr (.inr x0)), some (.inr (.inr x1)), some (.inr (.inr x2))] h) : ∃ h', RN b sa (d + 1) 101 [.inr (.inr x0), .inr (.inr x1), .inr (.inr x2)] h none h' ∧ Q h' := by
  obtain ⟨r, h', q1, q2⟩ := RN_at (y := 101) (L := 3) (vs := [.inr (.inr x0), .inr (.inr x1), .inr (.inr x2)]) (S := bd_101 b sa (RN b sa d)) (env := [some (.inr (.inr x0)), some (.inr (.inr x1)), some (.inr (.inr x2))]) (rt := none) (by decide) rfl rfl rfl rfl rfl rfl (rkU Q) (fun r h q => by obtain ⟨rfl, -⟩ := rkU_inv q; exact trivial) hk
  obtain ⟨rfl, q2⟩ := rkU_inv q2
  exact ⟨h', q1, q2⟩
theorem go_102 {b d : Nat} {sa : Nat → Nat} {h : gH} {x0 : Option Nat} {x1 : Int32} (Q : Int32 → gH → Prop) (hQ : ∀ v h, Q v h → v = 0 ∨ v = 1) (hk : bd_102 b sa (RN b sa d) (fun _ _ => False) (fun _ _ => False) (rkI Q) [some (.inr (.inr x0)), some (.inl x1)] h) : ∃ v h', RN b sa (d + 1) 102 [.inr (.inr x0), .inl x1] h (some (.inl v)) h' ∧ Q v h' := by
  obtain ⟨r, h', q1, q2⟩ := RN_at (y := 102) (L := 2) (vs := [.inr (.inr x0), .inl x1]) (S := bd_102 b sa (RN b sa d)) (env := [some (.inr (.inr x0)), some (.inl x1)]) (rt := (some .boolean)) (by decide) rfl rfl rfl rfl rfl rfl (rkI Q) (fun r h q => by obtain ⟨v, rfl, q⟩ := rkI_inv q; exact hQ v h q) hk
  obtain ⟨v, rfl, q2⟩ := rkI_inv q2
  exact ⟨v, h', q1, q2⟩
theorem go_103 {b d : Nat} {sa : Nat → Nat} {h : gH} {x0 : Option Nat} {x1 : Option Nat} (Q : Int32 → gH → Prop) (hQ : ∀ v h, Q v h → v = 0 ∨ v = 1) (hk : bd_103 b sa (RN b sa d) (fun _ _ => False) (fun _ _ => False) (rkI Q) [some (.inr (.inr x0)), some (.inr (.inr x1))] h) : ∃ v h', RN b sa (d + 1) 103 [.inr (.inr x0), .inr (.inr x1)] h (some (.inl v)) h' ∧ Q v h' := by
  obtain ⟨r, h', q1, q2⟩ := RN_at (y := 103) (L := 2) (vs := [.inr (.inr x0), .inr (.inr x1)]) (S := bd_103 b sa (RN b sa d)) (env := [some (.inr (.inr x0)), some (.inr (.inr x1))]) (rt := (some .boolean)) (by decide) rfl rfl rfl rfl rfl rfl (rkI Q) (fun r h q => by obtain ⟨v, rfl, q⟩ := rkI_inv q; exact hQ v h q) hk
  obtain ⟨v, rfl, q2⟩ := rkI_inv q2
  exact ⟨v, h', q1, q2⟩
theorem go_104 {b d : Nat} {sa : Nat → Nat} {h : gH} {x0 : Option Nat} {x1 : Option Nat} {x2 : Option Nat} (Q : Option Nat → gH → Prop) (hk : bd_104 b sa (RN b sa d) (fun _ _ => False) (fun _ _ => False) (rkR Q) [some (.inr (.inr x0)), some (.inr (.inr x1)), some (.inr (.inr x2))] h) : ∃ v h', RN b sa (d + 1) 104 [.inr (.inr x0), .inr (.inr x1), .inr (.inr x2)] h (some (.inr (.inr v))) h' ∧ Q v h' := by
  obtain ⟨r, h', q1, q2⟩ := RN_at (y := 104) (L := 3) (vs := [.inr (.inr x0), .inr (.inr x1), .inr (.inr x2)]) (S := bd_104 b sa (RN b sa d)) (env := [some (.inr (.inr x0)), some (.inr (.inr x1)), some (.inr (.inr x2))]) (rt := (some (.object "LoanNames$Fork"))) (by decide) rfl rfl rfl rfl rfl rfl (rkR Q) (fun r h q => by obtain ⟨v, rfl, q⟩ := rkR_inv q; exact trivial) hk
  obtain ⟨v, rfl, q2⟩ := rkR_inv q2
  exact ⟨v, h', q1, q2⟩
theorem go_105 {b d : Nat} {sa : Nat → Nat} {h : gH} {x0 : Option Nat} {x1 : Int32} {x2 : Option Nat} {x3 : Option Nat} (Q : gH → Prop) (hk : bd_105 b sa (RN b sa d) (fun _ _ => False) (fun _ _ => False) (rkU Q) [some (.inr (.inr x0)), some (.inl x1), some (.inr (.inr x2)), some (.inr (.inr x3))] h) : ∃ h', RN b sa (d + 1) 105 [.inr (.inr x0), .inl x1, .inr (.inr x2), .inr (.inr x3)] h none h' ∧ Q h' := by
  obtain ⟨r, h', q1, q2⟩ := RN_at (y := 105) (L := 4) (vs := [.inr (.inr x0), .inl x1, .inr (.inr x2), .inr (.inr x3)]) (S := bd_105 b sa (RN b sa d)) (env := [some (.inr (.inr x0)), some (.inl x1), some (.inr (.inr x2)), some (.inr (.inr x3))]) (rt := none) (by decide) rfl rfl rfl rfl rfl rfl (rkU Q) (fun r h q => by obtain ⟨rfl, -⟩ := rkU_inv q; exact trivial) hk
  obtain ⟨rfl, q2⟩ := rkU_inv q2
  exact ⟨h', q1, q2⟩
theorem go_106 {b d : Nat} {sa : Nat → Nat} {h : gH} {x0 : Option Nat} {x1 : Int32} (Q : Int32 → gH → Prop) (hQ : ∀ v h, Q v h → v = 0 ∨ v = 1) (hk : bd_106 b sa (RN b sa d) (fun _ _ => False) (fun _ _ => False) (rkI Q) [some (.inr (.inr x0)), some (.inl x1)] h) : ∃ v h', RN b sa (d + 1) 106 [.inr (.inr x0), .inl x1] h (some (.inl v)) h' ∧ Q v h' := by
  obtain ⟨r, h', q1, q2⟩ := RN_at (y := 106) (L := 2) (vs := [.inr (.inr x0), .inl x1]) (S := bd_106 b sa (RN b sa d)) (env := [some (.inr (.inr x0)), some (.inl x1)]) (rt := (some .boolean)) (by decide) rfl rfl rfl rfl rfl rfl (rkI Q) (fun r h q => by obtain ⟨v, rfl, q⟩ := rkI_inv q; exact hQ v h q) hk
  obtain ⟨v, rfl, q2⟩ := rkI_inv q2
  exact ⟨v, h', q1, q2⟩
theorem go_107 {b d : Nat} {sa : Nat → Nat} {h : gH} {x0 : Option Nat} {x1 : Option Nat} (Q : Int32 → gH → Prop) (hQ : ∀ v h, Q v h → v = 0 ∨ v = 1) (hk : bd_107 b sa (RN b sa d) (fun _ _ => False) (fun _ _ => False) (rkI Q) [some (.inr (.inr x0)), some (.inr (.inr x1))] h) : ∃ v h', RN b sa (d + 1) 107 [.inr (.inr x0), .inr (.inr x1)] h (some (.inl v)) h' ∧ Q v h' := by
  obtain ⟨r, h', q1, q2⟩ := RN_at (y := 107) (L := 2) (vs := [.inr (.inr x0), .inr (.inr x1)]) (S := bd_107 b sa (RN b sa d)) (env := [some (.inr (.inr x0)), some (.inr (.inr x1))]) (rt := (some .boolean)) (by decide) rfl rfl rfl rfl rfl rfl (rkI Q) (fun r h q => by obtain ⟨v, rfl, q⟩ := rkI_inv q; exact hQ v h q) hk
  obtain ⟨v, rfl, q2⟩ := rkI_inv q2
  exact ⟨v, h', q1, q2⟩
theorem go_108 {b d : Nat} {sa : Nat → Nat} {h : gH} {x0 : Option Nat} {x1 : Option Nat} {x2 : Option Nat} (Q : Option Nat → gH → Prop) (hk : bd_108 b sa (RN b sa d) (fun _ _ => False) (fun _ _ => False) (rkR Q) [some (.inr (.inr x0)), some (.inr (.inr x1)), some (.inr (.inr x2))] h) : ∃ v h', RN b sa (d + 1) 108 [.inr (.inr x0), .inr (.inr x1), .inr (.inr x2)] h (some (.inr (.inr v))) h' ∧ Q v h' := by
  obtain ⟨r, h', q1, q2⟩ := RN_at (y := 108) (L := 3) (vs := [.inr (.inr x0), .inr (.inr x1), .inr (.inr x2)]) (S := bd_108 b sa (RN b sa d)) (env := [some (.inr (.inr x0)), some (.inr (.inr x1)), some (.inr (.inr x2))]) (rt := (some (.object "LoanNames$Fork"))) (by decide) rfl rfl rfl rfl rfl rfl (rkR Q) (fun r h q => by obtain ⟨v, rfl, q⟩ := rkR_inv q; exact trivial) hk
  obtain ⟨v, rfl, q2⟩ := rkR_inv q2
  exact ⟨v, h', q1, q2⟩
theorem go_109 {b d : Nat} {sa : Nat → Nat} {h : gH} {x0 : Option Nat} (Q : Int32 → gH → Prop) (hQ : ∀ v h, Q v h → v = 0 ∨ v = 1) (hk : bd_109 b sa (RN b sa d) (fun _ _ => False) (fun _ _ => False) (rkI Q) [some (.inr (.inr x0))] h) : ∃ v h', RN b sa (d + 1) 109 [.inr (.inr x0)] h (some (.inl v)) h' ∧ Q v h' := by
  obtain ⟨r, h', q1, q2⟩ := RN_at (y := 109) (L := 1) (vs := [.inr (.inr x0)]) (S := bd_109 b sa (RN b sa d)) (env := [some (.inr (.inr x0))]) (rt := (some .boolean)) (by decide) rfl rfl rfl rfl rfl rfl (rkI Q) (fun r h q => by obtain ⟨v, rfl, q⟩ := rkI_inv q; exact hQ v h q) hk
  obtain ⟨v, rfl, q2⟩ := rkI_inv q2
  exact ⟨v, h', q1, q2⟩
theorem go_110 {b d : Nat} {sa : Nat → Nat} {h : gH} {x0 : Option Nat} {x1 : Int32} {x2 : Int32} {x3 : Option Nat} {x4 : Option Nat} (Q : gH → Prop) (hk : bd_110 b sa (RN b sa d) (fun _ _ => False) (fun _ _ => False) (rkU Q) [some (.inr (.inr x0)), some (.inl x1), some (.inl x2), some (.inr (.inr x3)), some (.inr (.inr x4))] h) : ∃ h', RN b sa (d + 1) 110 [.inr (.inr x0), .inl x1, .inl x2, .inr (.inr x3), .inr (.inr x4)] h none h' ∧ Q h' := by
  obtain ⟨r, h', q1, q2⟩ := RN_at (y := 110) (L := 5) (vs := [.inr (.inr x0), .inl x1, .inl x2, .inr (.inr x3), .inr (.inr x4)]) (S := bd_110 b sa (RN b sa d)) (env := [some (.inr (.inr x0)), some (.inl x1), some (.inl x2), some (.inr (.inr x3)), some (.inr (.inr x4))]) (rt := none) (by decide) rfl rfl rfl rfl rfl rfl (rkU Q) (fun r h q => by obtain ⟨rfl, -⟩ := rkU_inv q; exact trivial) hk
  obtain ⟨rfl, q2⟩ := rkU_inv q2
  exact ⟨h', q1, q2⟩
theorem go_111 {b d : Nat} {sa : Nat → Nat} {h : gH} {x0 : Option Nat} (Q : Int32 → gH → Prop) (hk : bd_111 b sa (RN b sa d) (fun _ _ => False) (fun _ _ => False) (rkI Q) [some (.inr (.inr x0)), none, none] h) : ∃ v h', RN b sa (d + 1) 111 [.inr (.inr x0)] h (some (.inl v)) h' ∧ Q v h' := by
  obtain ⟨r, h', q1, q2⟩ := RN_at (y := 111) (L := 3) (vs := [.inr (.inr x0)]) (S := bd_111 b sa (RN b sa d)) (env := [some (.inr (.inr x0)), none, none]) (rt := (some .int)) (by decide) rfl rfl rfl rfl rfl rfl (rkI Q) (fun r h q => by obtain ⟨v, rfl, q⟩ := rkI_inv q; exact trivial) hk
  obtain ⟨v, rfl, q2⟩ := rkI_inv q2
  exact ⟨v, h', q1, q2⟩
theorem go_112 {b d : Nat} {sa : Nat → Nat} {h : gH} {x0 : Option Nat} {x1 : Int32} {x2 : Int32} {x3 : Option Nat} {x4 : Int32} {x5 : Int32} (Q : gH → Prop) (hk : bd_112 b sa (RN b sa d) (fun _ _ => False) (fun _ _ => False) (rkU Q) [some (.inr (.inr x0)), some (.inl x1), some (.inl x2), some (.inr (.inr x3)), some (.inl x4), some (.inl x5)] h) : ∃ h', RN b sa (d + 1) 112 [.inr (.inr x0), .inl x1, .inl x2, .inr (.inr x3), .inl x4, .inl x5] h none h' ∧ Q h' := by
  obtain ⟨r, h', q1, q2⟩ := RN_at (y := 112) (L := 6) (vs := [.inr (.inr x0), .inl x1, .inl x2, .inr (.inr x3), .inl x4, .inl x5]) (S := bd_112 b sa (RN b sa d)) (env := [some (.inr (.inr x0)), some (.inl x1), some (.inl x2), some (.inr (.inr x3)), some (.inl x4), some (.inl x5)]) (rt := none) (by decide) rfl rfl rfl rfl rfl rfl (rkU Q) (fun r h q => by obtain ⟨rfl, -⟩ := rkU_inv q; exact trivial) hk
  obtain ⟨rfl, q2⟩ := rkU_inv q2
  exact ⟨h', q1, q2⟩
theorem go_113 {b d : Nat} {sa : Nat → Nat} {h : gH} {x0 : Option Nat} {x1 : Int32} (Q : Int32 → gH → Prop) (hQ : ∀ v h, Q v h → v = 0 ∨ v = 1) (hk : bd_113 b sa (RN b sa d) (fun _ _ => False) (fun _ _ => False) (rkI Q) [some (.inr (.inr x0)), some (.inl x1)] h) : ∃ v h', RN b sa (d + 1) 113 [.inr (.inr x0), .inl x1] h (some (.inl v)) h' ∧ Q v h' := by
  obtain ⟨r, h', q1, q2⟩ := RN_at (y := 113) (L := 2) (vs := [.inr (.inr x0), .inl x1]) (S := bd_113 b sa (RN b sa d)) (env := [some (.inr (.inr x0)), some (.inl x1)]) (rt := (some .boolean)) (by decide) rfl rfl rfl rfl rfl rfl (rkI Q) (fun r h q => by obtain ⟨v, rfl, q⟩ := rkI_inv q; exact hQ v h q) hk
  obtain ⟨v, rfl, q2⟩ := rkI_inv q2
  exact ⟨v, h', q1, q2⟩
theorem go_114 {b d : Nat} {sa : Nat → Nat} {h : gH} {x0 : Option Nat} {x1 : Int32} (Q : Int32 → gH → Prop) (hQ : ∀ v h, Q v h → v = 0 ∨ v = 1) (hk : bd_114 b sa (RN b sa d) (fun _ _ => False) (fun _ _ => False) (rkI Q) [some (.inr (.inr x0)), some (.inl x1)] h) : ∃ v h', RN b sa (d + 1) 114 [.inr (.inr x0), .inl x1] h (some (.inl v)) h' ∧ Q v h' := by
  obtain ⟨r, h', q1, q2⟩ := RN_at (y := 114) (L := 2) (vs := [.inr (.inr x0), .inl x1]) (S := bd_114 b sa (RN b sa d)) (env := [some (.inr (.inr x0)), some (.inl x1)]) (rt := (some .boolean)) (by decide) rfl rfl rfl rfl rfl rfl (rkI Q) (fun r h q => by obtain ⟨v, rfl, q⟩ := rkI_inv q; exact hQ v h q) hk
  obtain ⟨v, rfl, q2⟩ := rkI_inv q2
  exact ⟨v, h', q1, q2⟩
theorem go_115 {b d : Nat} {sa : Nat → Nat} {h : gH} {x0 : Option Nat} (Q : gH → Prop) (hk : bd_115 b sa (RN b sa d) (fun _ _ => False) (fun _ _ => False) (rkU Q) [some (.inr (.inr x0))] h) : ∃ h', RN b sa (d + 1) 115 [.inr (.inr x0)] h none h' ∧ Q h' := by
  obtain ⟨r, h', q1, q2⟩ := RN_at (y := 115) (L := 1) (vs := [.inr (.inr x0)]) (S := bd_115 b sa (RN b sa d)) (env := [some (.inr (.inr x0))]) (rt := none) (by decide) rfl rfl rfl rfl rfl rfl (rkU Q) (fun r h q => by obtain ⟨rfl, -⟩ := rkU_inv q; exact trivial) hk
  obtain ⟨rfl, q2⟩ := rkU_inv q2
  exact ⟨h', q1, q2⟩
theorem go_116 {b d : Nat} {sa : Nat → Nat} {h : gH} {x0 : Option Nat} (Q : gH → Prop) (hk : bd_116 b sa (RN b sa d) (fun _ _ => False) (fun _ _ => False) (rkU Q) [some (.inr (.inr x0))] h) : ∃ h', RN b sa (d + 1) 116 [.inr (.inr x0)] h none h' ∧ Q h' := by
  obtain ⟨r, h', q1, q2⟩ := RN_at (y := 116) (L := 1) (vs := [.inr (.inr x0)]) (S := bd_116 b sa (RN b sa d)) (env := [some (.inr (.inr x0))]) (rt := none) (by decide) rfl rfl rfl rfl rfl rfl (rkU Q) (fun r h q => by obtain ⟨rfl, -⟩ := rkU_inv q; exact trivial) hk
  obtain ⟨rfl, q2⟩ := rkU_inv q2
  exact ⟨h', q1, q2⟩
theorem go_117 {b d : Nat} {sa : Nat → Nat} {h : gH} {x0 : Option Nat} {x1 : Int32} {x2 : Int64} (Q : Int32 → gH → Prop) (hQ : ∀ v h, Q v h → v = 0 ∨ v = 1) (hk : bd_117 b sa (RN b sa d) (fun _ _ => False) (fun _ _ => False) (rkI Q) [some (.inr (.inr x0)), some (.inl x1), some (.inr (.inl x2)), none] h) : ∃ v h', RN b sa (d + 1) 117 [.inr (.inr x0), .inl x1, .inr (.inl x2)] h (some (.inl v)) h' ∧ Q v h' := by
  obtain ⟨r, h', q1, q2⟩ := RN_at (y := 117) (L := 4) (vs := [.inr (.inr x0), .inl x1, .inr (.inl x2)]) (S := bd_117 b sa (RN b sa d)) (env := [some (.inr (.inr x0)), some (.inl x1), some (.inr (.inl x2)), none]) (rt := (some .boolean)) (by decide) rfl rfl rfl rfl rfl rfl (rkI Q) (fun r h q => by obtain ⟨v, rfl, q⟩ := rkI_inv q; exact hQ v h q) hk
  obtain ⟨v, rfl, q2⟩ := rkI_inv q2
  exact ⟨v, h', q1, q2⟩
theorem go_118 {b d : Nat} {sa : Nat → Nat} {h : gH} {x0 : Option Nat} {x1 : Int32} {x2 : Int64} (Q : Int32 → gH → Prop) (hQ : ∀ v h, Q v h → v = 0 ∨ v = 1) (hk : bd_118 b sa (RN b sa d) (fun _ _ => False) (fun _ _ => False) (rkI Q) [some (.inr (.inr x0)), some (.inl x1), some (.inr (.inl x2)), none] h) : ∃ v h', RN b sa (d + 1) 118 [.inr (.inr x0), .inl x1, .inr (.inl x2)] h (some (.inl v)) h' ∧ Q v h' := by
  obtain ⟨r, h', q1, q2⟩ := RN_at (y := 118) (L := 4) (vs := [.inr (.inr x0), .inl x1, .inr (.inl x2)]) (S := bd_118 b sa (RN b sa d)) (env := [some (.inr (.inr x0)), some (.inl x1), some (.inr (.inl x2)), none]) (rt := (some .boolean)) (by decide) rfl rfl rfl rfl rfl rfl (rkI Q) (fun r h q => by obtain ⟨v, rfl, q⟩ := rkI_inv q; exact hQ v h q) hk
  obtain ⟨v, rfl, q2⟩ := rkI_inv q2
  exact ⟨v, h', q1, q2⟩
theorem go_119 {b d : Nat} {sa : Nat → Nat} {h : gH} {x0 : Option Nat} {x1 : Int32} {x2 : Int64} (Q : gH → Prop) (hk : bd_119 b sa (RN b sa d) (fun _ _ => False) (fun _ _ => False) (rkU Q) [some (.inr (.inr x0)), some (.inl x1), some (.inr (.inl x2)), none] h) : ∃ h', RN b sa (d + 1) 119 [.inr (.inr x0), .inl x1, .inr (.inl x2)] h none h' ∧ Q h' := by
  obtain ⟨r, h', q1, q2⟩ := RN_at (y := 119) (L := 4) (vs := [.inr (.inr x0), .inl x1, .inr (.inl x2)]) (S := bd_119 b sa (RN b sa d)) (env := [some (.inr (.inr x0)), some (.inl x1), some (.inr (.inl x2)), none]) (rt := none) (by decide) rfl rfl rfl rfl rfl rfl (rkU Q) (fun r h q => by obtain ⟨rfl, -⟩ := rkU_inv q; exact trivial) hk
  obtain ⟨rfl, q2⟩ := rkU_inv q2
  exact ⟨h', q1, q2⟩
theorem go_120 {b d : Nat} {sa : Nat → Nat} {h : gH} {x0 : Option Nat} {x1 : Int32} {x2 : Int32} (Q : Int32 → gH → Prop) (hk : bd_120 b sa (RN b sa d) (fun _ _ => False) (fun _ _ => False) (rkI Q) [some (.inr (.inr x0)), some (.inl x1), some (.inl x2), none] h) : ∃ v h', RN b sa (d + 1) 120 [.inr (.inr x0), .inl x1, .inl x2] h (some (.inl v)) h' ∧ Q v h' := by
  obtain ⟨r, h', q1, q2⟩ := RN_at (y := 120) (L := 4) (vs := [.inr (.inr x0), .inl x1, .inl x2]) (S := bd_120 b sa (RN b sa d)) (env := [some (.inr (.inr x0)), some (.inl x1), some (.inl x2), none]) (rt := (some .int)) (by decide) rfl rfl rfl rfl rfl rfl (rkI Q) (fun r h q => by obtain ⟨v, rfl, q⟩ := rkI_inv q; exact trivial) hk
  obtain ⟨v, rfl, q2⟩ := rkI_inv q2
  exact ⟨v, h', q1, q2⟩
theorem go_121 {b d : Nat} {sa : Nat → Nat} {h : gH} {x0 : Option Nat} {x1 : Option Nat} {x2 : Int32} (Q : Int32 → gH → Prop) (hk : bd_121 b sa (RN b sa d) (fun _ _ => False) (fun _ _ => False) (rkI Q) [some (.inr (.inr x0)), some (.inr (.inr x1)), some (.inl x2), none] h) : ∃ v h', RN b sa (d + 1) 121 [.inr (.inr x0), .inr (.inr x1), .inl x2] h (some (.inl v)) h' ∧ Q v h' := by
  obtain ⟨r, h', q1, q2⟩ := RN_at (y := 121) (L := 4) (vs := [.inr (.inr x0), .inr (.inr x1), .inl x2]) (S := bd_121 b sa (RN b sa d)) (env := [some (.inr (.inr x0)), some (.inr (.inr x1)), some (.inl x2), none]) (rt := (some .int)) (by decide) rfl rfl rfl rfl rfl rfl (rkI Q) (fun r h q => by obtain ⟨v, rfl, q⟩ := rkI_inv q; exact trivial) hk
  obtain ⟨v, rfl, q2⟩ := rkI_inv q2
  exact ⟨v, h', q1, q2⟩
theorem go_122 {b d : Nat} {sa : Nat → Nat} {h : gH} {x0 : Option Nat} (Q : Int32 → gH → Prop) (hk : bd_122 b sa (RN b sa d) (fun _ _ => False) (fun _ _ => False) (rkI Q) [some (.inr (.inr x0))] h) : ∃ v h', RN b sa (d + 1) 122 [.inr (.inr x0)] h (some (.inl v)) h' ∧ Q v h' := by
  obtain ⟨r, h', q1, q2⟩ := RN_at (y := 122) (L := 1) (vs := [.inr (.inr x0)]) (S := bd_122 b sa (RN b sa d)) (env := [some (.inr (.inr x0))]) (rt := (some .int)) (by decide) rfl rfl rfl rfl rfl rfl (rkI Q) (fun r h q => by obtain ⟨v, rfl, q⟩ := rkI_inv q; exact trivial) hk
  obtain ⟨v, rfl, q2⟩ := rkI_inv q2
  exact ⟨v, h', q1, q2⟩
theorem go_123 {b d : Nat} {sa : Nat → Nat} {h : gH} {x0 : Option Nat} {x1 : Option Nat} {x2 : Int32} (Q : gH → Prop) (hk : bd_123 b sa (RN b sa d) (fun _ _ => False) (fun _ _ => False) (rkU Q) [some (.inr (.inr x0)), some (.inr (.inr x1)), some (.inl x2)] h) : ∃ h', RN b sa (d + 1) 123 [.inr (.inr x0), .inr (.inr x1), .inl x2] h none h' ∧ Q h' := by
  obtain ⟨r, h', q1, q2⟩ := RN_at (y := 123) (L := 3) (vs := [.inr (.inr x0), .inr (.inr x1), .inl x2]) (S := bd_123 b sa (RN b sa d)) (env := [some (.inr (.inr x0)), some (.inr (.inr x1)), some (.inl x2)]) (rt := none) (by decide) rfl rfl rfl rfl rfl rfl (rkU Q) (fun r h q => by obtain ⟨rfl, -⟩ := rkU_inv q; exact trivial) hk
  obtain ⟨rfl, q2⟩ := rkU_inv q2
  exact ⟨h', q1, q2⟩
theorem go_124 {b d : Nat} {sa : Nat → Nat} {h : gH} {x0 : Option Nat} (Q : Option Nat → gH → Prop) (hk : bd_124 b sa (RN b sa d) (fun _ _ => False) (fun _ _ => False) (rkR Q) [some (.inr (.inr x0)), none] h) : ∃ v h', RN b sa (d + 1) 124 [.inr (.inr x0)] h (some (.inr (.inr v))) h' ∧ Q v h' := by
  obtain ⟨r, h', q1, q2⟩ := RN_at (y := 124) (L := 2) (vs := [.inr (.inr x0)]) (S := bd_124 b sa (RN b sa d)) (env := [some (.inr (.inr x0)), none]) (rt := (some (.object "LoanNames$All"))) (by decide) rfl rfl rfl rfl rfl rfl (rkR Q) (fun r h q => by obtain ⟨v, rfl, q⟩ := rkR_inv q; exact trivial) hk
  obtain ⟨v, rfl, q2⟩ := rkR_inv q2
  exact ⟨v, h', q1, q2⟩
theorem go_125 {b d : Nat} {sa : Nat → Nat} {h : gH} {x0 : Option Nat} (Q : Option Nat → gH → Prop) (hk : bd_125 b sa (RN b sa d) (fun _ _ => False) (fun _ _ => False) (rkR Q) [some (.inr (.inr x0)), none] h) : ∃ v h', RN b sa (d + 1) 125 [.inr (.inr x0)] h (some (.inr (.inr v))) h' ∧ Q v h' := by
  obtain ⟨r, h', q1, q2⟩ := RN_at (y := 125) (L := 2) (vs := [.inr (.inr x0)]) (S := bd_125 b sa (RN b sa d)) (env := [some (.inr (.inr x0)), none]) (rt := (some (.object "LoanNames$All"))) (by decide) rfl rfl rfl rfl rfl rfl (rkR Q) (fun r h q => by obtain ⟨v, rfl, q⟩ := rkR_inv q; exact trivial) hk
  obtain ⟨v, rfl, q2⟩ := rkR_inv q2
  exact ⟨v, h', q1, q2⟩
theorem go_126 {b d : Nat} {sa : Nat → Nat} {h : gH} {x0 : Option Nat} (Q : Option Nat → gH → Prop) (hk : bd_126 b sa (RN b sa d) (fun _ _ => False) (fun _ _ => False) (rkR Q) [some (.inr (.inr x0)), none] h) : ∃ v h', RN b sa (d + 1) 126 [.inr (.inr x0)] h (some (.inr (.inr v))) h' ∧ Q v h' := by
  obtain ⟨r, h', q1, q2⟩ := RN_at (y := 126) (L := 2) (vs := [.inr (.inr x0)]) (S := bd_126 b sa (RN b sa d)) (env := [some (.inr (.inr x0)), none]) (rt := (some (.object "LoanNames$All"))) (by decide) rfl rfl rfl rfl rfl rfl (rkR Q) (fun r h q => by obtain ⟨v, rfl, q⟩ := rkR_inv q; exact trivial) hk
  obtain ⟨v, rfl, q2⟩ := rkR_inv q2
  exact ⟨v, h', q1, q2⟩
theorem go_127 {b d : Nat} {sa : Nat → Nat} {h : gH} {x0 : Option Nat} (Q : Option Nat → gH → Prop) (hk : bd_127 b sa (RN b sa d) (fun _ _ => False) (fun _ _ => False) (rkR Q) [some (.inr (.inr x0)), none, none, none] h) : ∃ v h', RN b sa (d + 1) 127 [.inr (.inr x0)] h (some (.inr (.inr v))) h' ∧ Q v h' := by
  obtain ⟨r, h', q1, q2⟩ := RN_at (y := 127) (L := 4) (vs := [.inr (.inr x0)]) (S := bd_127 b sa (RN b sa d)) (env := [some (.inr (.inr x0)), none, none, none]) (rt := (some (.object "LoanNames$Part"))) (by decide) rfl rfl rfl rfl rfl rfl (rkR Q) (fun r h q => by obtain ⟨v, rfl, q⟩ := rkR_inv q; exact trivial) hk
  obtain ⟨v, rfl, q2⟩ := rkR_inv q2
  exact ⟨v, h', q1, q2⟩
theorem go_128 {b d : Nat} {sa : Nat → Nat} {h : gH} {x0 : Option Nat} (Q : Option Nat → gH → Prop) (hk : bd_128 b sa (RN b sa d) (fun _ _ => False) (fun _ _ => False) (rkR Q) [some (.inr (.inr x0)), none, none, none] h) : ∃ v h', RN b sa (d + 1) 128 [.inr (.inr x0)] h (some (.inr (.inr v))) h' ∧ Q v h' := by
  obtain ⟨r, h', q1, q2⟩ := RN_at (y := 128) (L := 4) (vs := [.inr (.inr x0)]) (S := bd_128 b sa (RN b sa d)) (env := [some (.inr (.inr x0)), none, none, none]) (rt := (some (.object "LoanNames$Part"))) (by decide) rfl rfl rfl rfl rfl rfl (rkR Q) (fun r h q => by obtain ⟨v, rfl, q⟩ := rkR_inv q; exact trivial) hk
  obtain ⟨v, rfl, q2⟩ := rkR_inv q2
  exact ⟨v, h', q1, q2⟩
theorem go_129 {b d : Nat} {sa : Nat → Nat} {h : gH} {x0 : Option Nat} {x1 : Int32} (Q : Option Nat → gH → Prop) (hk : bd_129 b sa (RN b sa d) (fun _ _ => False) (fun _ _ => False) (rkR Q) [some (.inr (.inr x0)), some (.inl x1), none, none, none, none, none, none] h) : ∃ v h', RN b sa (d + 1) 129 [.inr (.inr x0), .inl x1] h (some (.inr (.inr v))) h' ∧ Q v h' := by
  obtain ⟨r, h', q1, q2⟩ := RN_at (y := 129) (L := 8) (vs := [.inr (.inr x0), .inl x1]) (S := bd_129 b sa (RN b sa d)) (env := [some (.inr (.inr x0)), some (.inl x1), none, none, none, none, none, none]) (rt := (some (.object "LoanNames$Part"))) (by decide) rfl rfl rfl rfl rfl rfl (rkR Q) (fun r h q => by obtain ⟨v, rfl, q⟩ := rkR_inv q; exact trivial) hk
  obtain ⟨v, rfl, q2⟩ := rkR_inv q2
  exact ⟨v, h', q1, q2⟩
theorem go_130 {b d : Nat} {sa : Nat → Nat} {h : gH} {x0 : Option Nat} {x1 : Option Nat} {x2 : Int32} (Q : gH → Prop) (hk : bd_130 b sa (RN b sa d) (fun _ _ => False) (fun _ _ => False) (rkU Q) [some (.inr (.inr x0)), some (.inr (.inr x1)), some (.inl x2)] h) : ∃ h', RN b sa (d + 1) 130 [.inr (.inr x0), .inr (.inr x1), .inl x2] h none h' ∧ Q h' := by
  obtain ⟨r, h', q1, q2⟩ := RN_at (y := 130) (L := 3) (vs := [.inr (.inr x0), .inr (.inr x1), .inl x2]) (S := bd_130 b sa (RN b sa d)) (env := [some (.inr (.inr x0)), some (.inr (.inr x1)), some (.inl x2)]) (rt := none) (by decide) rfl rfl rfl rfl rfl rfl (rkU Q) (fun r h q => by obtain ⟨rfl, -⟩ := rkU_inv q; exact trivial) hk
  obtain ⟨rfl, q2⟩ := rkU_inv q2
  exact ⟨h', q1, q2⟩
theorem go_131 {b d : Nat} {sa : Nat → Nat} {h : gH} {x0 : Option Nat} {x1 : Int32} {x2 : Int32} (Q : Int32 → gH → Prop) (hQ : ∀ v h, Q v h → v = 0 ∨ v = 1) (hk : bd_131 b sa (RN b sa d) (fun _ _ => False) (fun _ _ => False) (rkI Q) [some (.inr (.inr x0)), some (.inl x1), some (.inl x2)] h) : ∃ v h', RN b sa (d + 1) 131 [.inr (.inr x0), .inl x1, .inl x2] h (some (.inl v)) h' ∧ Q v h' := by
  obtain ⟨r, h', q1, q2⟩ := RN_at (y := 131) (L := 3) (vs := [.inr (.inr x0), .inl x1, .inl x2]) (S := bd_131 b sa (RN b sa d)) (env := [some (.inr (.inr x0)), some (.inl x1), some (.inl x2)]) (rt := (some .boolean)) (by decide) rfl rfl rfl rfl rfl rfl (rkI Q) (fun r h q => by obtain ⟨v, rfl, q⟩ := rkI_inv q; exact hQ v h q) hk
  obtain ⟨v, rfl, q2⟩ := rkI_inv q2
  exact ⟨v, h', q1, q2⟩
theorem go_132 {b d : Nat} {sa : Nat → Nat} {h : gH} {x0 : Option Nat} {x1 : Option Nat} {x2 : Int32} (Q : Int32 → gH → Prop) (hQ : ∀ v h, Q v h → v = 0 ∨ v = 1) (hk : bd_132 b sa (RN b sa d) (fun _ _ => False) (fun _ _ => False) (rkI Q) [some (.inr (.inr x0)), some (.inr (.inr x1)), some (.inl x2)] h) : ∃ v h', RN b sa (d + 1) 132 [.inr (.inr x0), .inr (.inr x1), .inl x2] h (some (.inl v)) h' ∧ Q v h' := by
  obtain ⟨r, h', q1, q2⟩ := RN_at (y := 132) (L := 3) (vs := [.inr (.inr x0), .inr (.inr x1), .inl x2]) (S := bd_132 b sa (RN b sa d)) (env := [some (.inr (.inr x0)), some (.inr (.inr x1)), some (.inl x2)]) (rt := (some .boolean)) (by decide) rfl rfl rfl rfl rfl rfl (rkI Q) (fun r h q => by obtain ⟨v, rfl, q⟩ := rkI_inv q; exact hQ v h q) hk
  obtain ⟨v, rfl, q2⟩ := rkI_inv q2
  exact ⟨v, h', q1, q2⟩
theorem go_133 {b d : Nat} {sa : Nat → Nat} {h : gH} {x0 : Option Nat} {x1 : Option Nat} {x2 : Int32} {x3 : Int32} {x4 : Option Nat} (Q : Int32 → gH → Prop) (hQ : ∀ v h, Q v h → v = 0 ∨ v = 1) (hk : bd_133 b sa (RN b sa d) (fun _ _ => False) (fun _ _ => False) (rkI Q) [some (.inr (.inr x0)), some (.inr (.inr x1)), some (.inl x2), some (.inl x3), some (.inr (.inr x4)), none, none, none] h) : ∃ v h', RN b sa (d + 1) 133 [.inr (.inr x0), .inr (.inr x1), .inl x2, .inl x3, .inr (.inr x4)] h (some (.inl v)) h' ∧ Q v h' := by
  obtain ⟨r, h', q1, q2⟩ := RN_at (y := 133) (L := 8) (vs := [.inr (.inr x0), .inr (.inr x1), .inl x2, .inl x3, .inr (.inr x4)]) (S := bd_133 b sa (RN b sa d)) (env := [some (.inr (.inr x0)), some (.inr (.inr x1)), some (.inl x2), some (.inl x3), some (.inr (.inr x4)), none, none, none]) (rt := (some .boolean)) (by decide) rfl rfl rfl rfl rfl rfl (rkI Q) (fun r h q => by obtain ⟨v, rfl, q⟩ := rkI_inv q; exact hQ v h q) hk
  obtain ⟨v, rfl, q2⟩ := rkI_inv q2
  exact ⟨v, h', q1, q2⟩
theorem go_134 {b d : Nat} {sa : Nat → Nat} {h : gH} {x0 : Option Nat} {x1 : Int32} {x2 : Int32} {x3 : Int32} {x4 : Int32} {x5 : Int32} {x6 : Int32} {x7 : Int32} {x8 : Int32} (Q : gH → Prop) (hk : bd_134 b sa (RN b sa d) (fun _ _ => False) (fun _ _ => False) (rkU Q) [some (.inr (.inr x0)), some (.inl x1), some (.inl x2), some (.inl x3), some (.inl x4), some (.inl x5), some (.inl x6), some (.inl x7), some (.inl x8)] h) : ∃ h', RN b sa (d + 1) 134 [.inr (.inr x0), .inl x1, .inl x2, .inl x3, .inl x4, .inl x5, .inl x6, .inl x7, .inl x8] h none h' ∧ Q h' := by
  obtain ⟨r, h', q1, q2⟩ := RN_at (y := 134) (L := 9) (vs := [.inr (.inr x0), .inl x1, .inl x2, .inl x3, .inl x4, .inl x5, .inl x6, .inl x7, .inl x8]) (S := bd_134 b sa (RN b sa d)) (env := [some (.inr (.inr x0)), some (.inl x1), some (.inl x2), some (.inl x3), some (.inl x4), some (.inl x5), some (.inl x6), some (.inl x7), some (.inl x8)]) (rt := none) (by decide) rfl rfl rfl rfl rfl rfl (rkU Q) (fun r h q => by obtain ⟨rfl, -⟩ := rkU_inv q; exact trivial) hk
  obtain ⟨rfl, q2⟩ := rkU_inv q2
  exact ⟨h', q1, q2⟩
theorem go_135 {b d : Nat} {sa : Nat → Nat} {h : gH} {x0 : Option Nat} (Q : gH → Prop) (hk : bd_135 b sa (RN b sa d) (fun _ _ => False) (fun _ _ => False) (rkU Q) [some (.inr (.inr x0))] h) : ∃ h', RN b sa (d + 1) 135 [.inr (.inr x0)] h none h' ∧ Q h' := by
  obtain ⟨r, h', q1, q2⟩ := RN_at (y := 135) (L := 1) (vs := [.inr (.inr x0)]) (S := bd_135 b sa (RN b sa d)) (env := [some (.inr (.inr x0))]) (rt := none) (by decide) rfl rfl rfl rfl rfl rfl (rkU Q) (fun r h q => by obtain ⟨rfl, -⟩ := rkU_inv q; exact trivial) hk
  obtain ⟨rfl, q2⟩ := rkU_inv q2
  exact ⟨h', q1, q2⟩
theorem go_136 {b d : Nat} {sa : Nat → Nat} {h : gH} {x0 : Option Nat} {x1 : Int32} {x2 : Int32} (Q : Int32 → gH → Prop) (hQ : ∀ v h, Q v h → v = 0 ∨ v = 1) (hk : bd_136 b sa (RN b sa d) (fun _ _ => False) (fun _ _ => False) (rkI Q) [some (.inr (.inr x0)), some (.inl x1), some (.inl x2)] h) : ∃ v h', RN b sa (d + 1) 136 [.inr (.inr x0), .inl x1, .inl x2] h (some (.inl v)) h' ∧ Q v h' := by
  obtain ⟨r, h', q1, q2⟩ := RN_at (y := 136) (L := 3) (vs := [.inr (.inr x0), .inl x1, .inl x2]) (S := bd_136 b sa (RN b sa d)) (env := [some (.inr (.inr x0)), some (.inl x1), some (.inl x2)]) (rt := (some .boolean)) (by decide) rfl rfl rfl rfl rfl rfl (rkI Q) (fun r h q => by obtain ⟨v, rfl, q⟩ := rkI_inv q; exact hQ v h q) hk
  obtain ⟨v, rfl, q2⟩ := rkI_inv q2
  exact ⟨v, h', q1, q2⟩
theorem go_137 {b d : Nat} {sa : Nat → Nat} {h : gH} {x0 : Option Nat} (Q : Option Nat → gH → Prop) (hk : bd_137 b sa (RN b sa d) (fun _ _ => False) (fun _ _ => False) (rkR Q) [some (.inr (.inr x0)), none, none, none, none, none, none, none, none] h) : ∃ v h', RN b sa (d + 1) 137 [.inr (.inr x0)] h (some (.inr (.inr v))) h' ∧ Q v h' := by
  obtain ⟨r, h', q1, q2⟩ := RN_at (y := 137) (L := 9) (vs := [.inr (.inr x0)]) (S := bd_137 b sa (RN b sa d)) (env := [some (.inr (.inr x0)), none, none, none, none, none, none, none, none]) (rt := (some (.object "LoanNames$Rule"))) (by decide) rfl rfl rfl rfl rfl rfl (rkR Q) (fun r h q => by obtain ⟨v, rfl, q⟩ := rkR_inv q; exact trivial) hk
  obtain ⟨v, rfl, q2⟩ := rkR_inv q2
  exact ⟨v, h', q1, q2⟩
theorem go_138 {b d : Nat} {sa : Nat → Nat} {h : gH} {x0 : Option Nat} {x1 : Option Nat} {x2 : Int32} (Q : gH → Prop) (hk : bd_138 b sa (RN b sa d) (fun _ _ => False) (fun _ _ => False) (rkU Q) [some (.inr (.inr x0)), some (.inr (.inr x1)), some (.inl x2)] h) : ∃ h', RN b sa (d + 1) 138 [.inr (.inr x0), .inr (.inr x1), .inl x2] h none h' ∧ Q h' := by
  obtain ⟨r, h', q1, q2⟩ := RN_at (y := 138) (L := 3) (vs := [.inr (.inr x0), .inr (.inr x1), .inl x2]) (S := bd_138 b sa (RN b sa d)) (env := [some (.inr (.inr x0)), some (.inr (.inr x1)), some (.inl x2)]) (rt := none) (by decide) rfl rfl rfl rfl rfl rfl (rkU Q) (fun r h q => by obtain ⟨rfl, -⟩ := rkU_inv q; exact trivial) hk
  obtain ⟨rfl, q2⟩ := rkU_inv q2
  exact ⟨h', q1, q2⟩
theorem go_139 {b d : Nat} {sa : Nat → Nat} {h : gH} {x0 : Option Nat} {x1 : Option Nat} (Q : Int32 → gH → Prop) (hQ : ∀ v h, Q v h → v = 0 ∨ v = 1) (hk : bd_139 b sa (RN b sa d) (fun _ _ => False) (fun _ _ => False) (rkI Q) [some (.inr (.inr x0)), some (.inr (.inr x1)), none, none] h) : ∃ v h', RN b sa (d + 1) 139 [.inr (.inr x0), .inr (.inr x1)] h (some (.inl v)) h' ∧ Q v h' := by
  obtain ⟨r, h', q1, q2⟩ := RN_at (y := 139) (L := 4) (vs := [.inr (.inr x0), .inr (.inr x1)]) (S := bd_139 b sa (RN b sa d)) (env := [some (.inr (.inr x0)), some (.inr (.inr x1)), none, none]) (rt := (some .boolean)) (by decide) rfl rfl rfl rfl rfl rfl (rkI Q) (fun r h q => by obtain ⟨v, rfl, q⟩ := rkI_inv q; exact hQ v h q) hk
  obtain ⟨v, rfl, q2⟩ := rkI_inv q2
  exact ⟨v, h', q1, q2⟩
theorem go_140 {b d : Nat} {sa : Nat → Nat} {h : gH} {x0 : Option Nat} {x1 : Option Nat} (Q : gH → Prop) (hk : bd_140 b sa (RN b sa d) (fun _ _ => False) (fun _ _ => False) (rkU Q) [some (.inr (.inr x0)), some (.inr (.inr x1)), none] h) : ∃ h', RN b sa (d + 1) 140 [.inr (.inr x0), .inr (.inr x1)] h none h' ∧ Q h' := by
  obtain ⟨r, h', q1, q2⟩ := RN_at (y := 140) (L := 3) (vs := [.inr (.inr x0), .inr (.inr x1)]) (S := bd_140 b sa (RN b sa d)) (env := [some (.inr (.inr x0)), some (.inr (.inr x1)), none]) (rt := none) (by decide) rfl rfl rfl rfl rfl rfl (rkU Q) (fun r h q => by obtain ⟨rfl, -⟩ := rkU_inv q; exact trivial) hk
  obtain ⟨rfl, q2⟩ := rkU_inv q2
  exact ⟨h', q1, q2⟩
theorem go_141 {b d : Nat} {sa : Nat → Nat} {h : gH} {x0 : Option Nat} (Q : gH → Prop) (hk : bd_141 b sa (RN b sa d) (fun _ _ => False) (fun _ _ => False) (rkU Q) [some (.inr (.inr x0))] h) : ∃ h', RN b sa (d + 1) 141 [.inr (.inr x0)] h none h' ∧ Q h' := by
  obtain ⟨r, h', q1, q2⟩ := RN_at (y := 141) (L := 1) (vs := [.inr (.inr x0)]) (S := bd_141 b sa (RN b sa d)) (env := [some (.inr (.inr x0))]) (rt := none) (by decide) rfl rfl rfl rfl rfl rfl (rkU Q) (fun r h q => by obtain ⟨rfl, -⟩ := rkU_inv q; exact trivial) hk
  obtain ⟨rfl, q2⟩ := rkU_inv q2
  exact ⟨h', q1, q2⟩
theorem go_142 {b d : Nat} {sa : Nat → Nat} {h : gH} {x0 : Option Nat} {x1 : Option Nat} (Q : gH → Prop) (hk : bd_142 b sa (RN b sa d) (fun _ _ => False) (fun _ _ => False) (rkU Q) [some (.inr (.inr x0)), some (.inr (.inr x1)), none] h) : ∃ h', RN b sa (d + 1) 142 [.inr (.inr x0), .inr (.inr x1)] h none h' ∧ Q h' := by
  obtain ⟨r, h', q1, q2⟩ := RN_at (y := 142) (L := 3) (vs := [.inr (.inr x0), .inr (.inr x1)]) (S := bd_142 b sa (RN b sa d)) (env := [some (.inr (.inr x0)), some (.inr (.inr x1)), none]) (rt := none) (by decide) rfl rfl rfl rfl rfl rfl (rkU Q) (fun r h q => by obtain ⟨rfl, -⟩ := rkU_inv q; exact trivial) hk
  obtain ⟨rfl, q2⟩ := rkU_inv q2
  exact ⟨h', q1, q2⟩
theorem go_143 {b d : Nat} {sa : Nat → Nat} {h : gH} {x0 : Option Nat} (Q : Int32 → gH → Prop) (hQ : ∀ v h, Q v h → v = 0 ∨ v = 1) (hk : bd_143 b sa (RN b sa d) (fun _ _ => False) (fun _ _ => False) (rkI Q) [some (.inr (.inr x0))] h) : ∃ v h', RN b sa (d + 1) 143 [.inr (.inr x0)] h (some (.inl v)) h' ∧ Q v h' := by
  obtain ⟨r, h', q1, q2⟩ := RN_at (y := 143) (L := 1) (vs := [.inr (.inr x0)]) (S := bd_143 b sa (RN b sa d)) (env := [some (.inr (.inr x0))]) (rt := (some .boolean)) (by decide) rfl rfl rfl rfl rfl rfl (rkI Q) (fun r h q => by obtain ⟨v, rfl, q⟩ := rkI_inv q; exact hQ v h q) hk
  obtain ⟨v, rfl, q2⟩ := rkI_inv q2
  exact ⟨v, h', q1, q2⟩
theorem go_144 {b d : Nat} {sa : Nat → Nat} {h : gH} {x0 : Option Nat} {x1 : Int32} (Q : Int32 → gH → Prop) (hQ : ∀ v h, Q v h → v = 0 ∨ v = 1) (hk : bd_144 b sa (RN b sa d) (fun _ _ => False) (fun _ _ => False) (rkI Q) [some (.inr (.inr x0)), some (.inl x1)] h) : ∃ v h', RN b sa (d + 1) 144 [.inr (.inr x0), .inl x1] h (some (.inl v)) h' ∧ Q v h' := by
  obtain ⟨r, h', q1, q2⟩ := RN_at (y := 144) (L := 2) (vs := [.inr (.inr x0), .inl x1]) (S := bd_144 b sa (RN b sa d)) (env := [some (.inr (.inr x0)), some (.inl x1)]) (rt := (some .boolean)) (by decide) rfl rfl rfl rfl rfl rfl (rkI Q) (fun r h q => by obtain ⟨v, rfl, q⟩ := rkI_inv q; exact hQ v h q) hk
  obtain ⟨v, rfl, q2⟩ := rkI_inv q2
  exact ⟨v, h', q1, q2⟩
theorem go_145 {b d : Nat} {sa : Nat → Nat} {h : gH} {x0 : Option Nat} {x1 : Int32} (Q : Int32 → gH → Prop) (hQ : ∀ v h, Q v h → v = 0 ∨ v = 1) (hk : bd_145 b sa (RN b sa d) (fun _ _ => False) (fun _ _ => False) (rkI Q) [some (.inr (.inr x0)), some (.inl x1)] h) : ∃ v h', RN b sa (d + 1) 145 [.inr (.inr x0), .inl x1] h (some (.inl v)) h' ∧ Q v h' := by
  obtain ⟨r, h', q1, q2⟩ := RN_at (y := 145) (L := 2) (vs := [.inr (.inr x0), .inl x1]) (S := bd_145 b sa (RN b sa d)) (env := [some (.inr (.inr x0)), some (.inl x1)]) (rt := (some .boolean)) (by decide) rfl rfl rfl rfl rfl rfl (rkI Q) (fun r h q => by obtain ⟨v, rfl, q⟩ := rkI_inv q; exact hQ v h q) hk
  obtain ⟨v, rfl, q2⟩ := rkI_inv q2
  exact ⟨v, h', q1, q2⟩
theorem go_146 {b d : Nat} {sa : Nat → Nat} {h : gH} {x0 : Option Nat} (Q : Int32 → gH → Prop) (hk : bd_146 b sa (RN b sa d) (fun _ _ => False) (fun _ _ => False) (rkI Q) [some (.inr (.inr x0))] h) : ∃ v h', RN b sa (d + 1) 146 [.inr (.inr x0)] h (some (.inl v)) h' ∧ Q v h' := by
  obtain ⟨r, h', q1, q2⟩ := RN_at (y := 146) (L := 1) (vs := [.inr (.inr x0)]) (S := bd_146 b sa (RN b sa d)) (env := [some (.inr (.inr x0))]) (rt := (some .int)) (by decide) rfl rfl rfl rfl rfl rfl (rkI Q) (fun r h q => by obtain ⟨v, rfl, q⟩ := rkI_inv q; exact trivial) hk
  obtain ⟨v, rfl, q2⟩ := rkI_inv q2
  exact ⟨v, h', q1, q2⟩
theorem go_147 {b d : Nat} {sa : Nat → Nat} {h : gH} {x0 : Option Nat} {x1 : Int32} (Q : Option Nat → gH → Prop) (hk : bd_147 b sa (RN b sa d) (fun _ _ => False) (fun _ _ => False) (rkR Q) [some (.inr (.inr x0)), some (.inl x1), none, none] h) : ∃ v h', RN b sa (d + 1) 147 [.inr (.inr x0), .inl x1] h (some (.inr (.inr v))) h' ∧ Q v h' := by
  obtain ⟨r, h', q1, q2⟩ := RN_at (y := 147) (L := 4) (vs := [.inr (.inr x0), .inl x1]) (S := bd_147 b sa (RN b sa d)) (env := [some (.inr (.inr x0)), some (.inl x1), none, none]) (rt := (some (.object "LoanNames$Sink"))) (by decide) rfl rfl rfl rfl rfl rfl (rkR Q) (fun r h q => by obtain ⟨v, rfl, q⟩ := rkR_inv q; exact trivial) hk
  obtain ⟨v, rfl, q2⟩ := rkR_inv q2
  exact ⟨v, h', q1, q2⟩
theorem go_148 {b d : Nat} {sa : Nat → Nat} {h : gH} {x0 : Option Nat} {x1 : Int32} {x2 : Int32} {x3 : Int32} {x4 : Int32} (Q : Int64 → gH → Prop) (hk : bd_148 b sa (RN b sa d) (fun _ _ => False) (fun _ _ => False) (rkL Q) [some (.inr (.inr x0)), some (.inl x1), some (.inl x2), some (.inl x3), some (.inl x4), none, none, none] h) : ∃ v h', RN b sa (d + 1) 148 [.inr (.inr x0), .inl x1, .inl x2, .inl x3, .inl x4] h (some (.inr (.inl v))) h' ∧ Q v h' := by
  obtain ⟨r, h', q1, q2⟩ := RN_at (y := 148) (L := 8) (vs := [.inr (.inr x0), .inl x1, .inl x2, .inl x3, .inl x4]) (S := bd_148 b sa (RN b sa d)) (env := [some (.inr (.inr x0)), some (.inl x1), some (.inl x2), some (.inl x3), some (.inl x4), none, none, none]) (rt := (some .long)) (by decide) rfl rfl rfl rfl rfl rfl (rkL Q) (fun r h q => by obtain ⟨v, rfl, q⟩ := rkL_inv q; exact trivial) hk
  obtain ⟨v, rfl, q2⟩ := rkL_inv q2
  exact ⟨v, h', q1, q2⟩
theorem go_149 {b d : Nat} {sa : Nat → Nat} {h : gH} {x0 : Option Nat} {x1 : Int32} (Q : Int32 → gH → Prop) (hk : bd_149 b sa (RN b sa d) (fun _ _ => False) (fun _ _ => False) (rkI Q) [some (.inr (.inr x0)), some (.inl x1), none, none] h) : ∃ v h', RN b sa (d + 1) 149 [.inr (.inr x0), .inl x1] h (some (.inl v)) h' ∧ Q v h' := by
  obtain ⟨r, h', q1, q2⟩ := RN_at (y := 149) (L := 4) (vs := [.inr (.inr x0), .inl x1]) (S := bd_149 b sa (RN b sa d)) (env := [some (.inr (.inr x0)), some (.inl x1), none, none]) (rt := (some .int)) (by decide) rfl rfl rfl rfl rfl rfl (rkI Q) (fun r h q => by obtain ⟨v, rfl, q⟩ := rkI_inv q; exact trivial) hk
  obtain ⟨v, rfl, q2⟩ := rkI_inv q2
  exact ⟨v, h', q1, q2⟩
theorem go_150 {b d : Nat} {sa : Nat → Nat} {h : gH} {x0 : Option Nat} {x1 : Int32} (Q : gH → Prop) (hk : bd_150 b sa (RN b sa d) (fun _ _ => False) (fun _ _ => False) (rkU Q) [some (.inr (.inr x0)), some (.inl x1), none] h) : ∃ h', RN b sa (d + 1) 150 [.inr (.inr x0), .inl x1] h none h' ∧ Q h' := by
  obtain ⟨r, h', q1, q2⟩ := RN_at (y := 150) (L := 3) (vs := [.inr (.inr x0), .inl x1]) (S := bd_150 b sa (RN b sa d)) (env := [some (.inr (.inr x0)), some (.inl x1), none]) (rt := none) (by decide) rfl rfl rfl rfl rfl rfl (rkU Q) (fun r h q => by obtain ⟨rfl, -⟩ := rkU_inv q; exact trivial) hk
  obtain ⟨rfl, q2⟩ := rkU_inv q2
  exact ⟨h', q1, q2⟩
theorem go_151 {b d : Nat} {sa : Nat → Nat} {h : gH} {x0 : Option Nat} {x1 : Int32} {x2 : Int32} {x3 : Int64} (Q : gH → Prop) (hk : bd_151 b sa (RN b sa d) (fun _ _ => False) (fun _ _ => False) (rkU Q) [some (.inr (.inr x0)), some (.inl x1), some (.inl x2), some (.inr (.inl x3)), none] h) : ∃ h', RN b sa (d + 1) 151 [.inr (.inr x0), .inl x1, .inl x2, .inr (.inl x3)] h none h' ∧ Q h' := by
  obtain ⟨r, h', q1, q2⟩ := RN_at (y := 151) (L := 5) (vs := [.inr (.inr x0), .inl x1, .inl x2, .inr (.inl x3)]) (S := bd_151 b sa (RN b sa d)) (env := [some (.inr (.inr x0)), some (.inl x1), some (.inl x2), some (.inr (.inl x3)), none]) (rt := none) (by decide) rfl rfl rfl rfl rfl rfl (rkU Q) (fun r h q => by obtain ⟨rfl, -⟩ := rkU_inv q; exact trivial) hk
  obtain ⟨rfl, q2⟩ := rkU_inv q2
  exact ⟨h', q1, q2⟩
theorem go_152 {b d : Nat} {sa : Nat → Nat} {h : gH} {x0 : Option Nat} {x1 : Int32} {x2 : Int32} (Q : Int64 → gH → Prop) (hk : bd_152 b sa (RN b sa d) (fun _ _ => False) (fun _ _ => False) (rkL Q) [some (.inr (.inr x0)), some (.inl x1), some (.inl x2)] h) : ∃ v h', RN b sa (d + 1) 152 [.inr (.inr x0), .inl x1, .inl x2] h (some (.inr (.inl v))) h' ∧ Q v h' := by
  obtain ⟨r, h', q1, q2⟩ := RN_at (y := 152) (L := 3) (vs := [.inr (.inr x0), .inl x1, .inl x2]) (S := bd_152 b sa (RN b sa d)) (env := [some (.inr (.inr x0)), some (.inl x1), some (.inl x2)]) (rt := (some .long)) (by decide) rfl rfl rfl rfl rfl rfl (rkL Q) (fun r h q => by obtain ⟨v, rfl, q⟩ := rkL_inv q; exact trivial) hk
  obtain ⟨v, rfl, q2⟩ := rkL_inv q2
  exact ⟨v, h', q1, q2⟩
theorem go_153 {b d : Nat} {sa : Nat → Nat} {h : gH} {x0 : Option Nat} {x1 : Int32} (Q : Int32 → gH → Prop) (hQ : ∀ v h, Q v h → v = 0 ∨ v = 1) (hk : bd_153 b sa (RN b sa d) (fun _ _ => False) (fun _ _ => False) (rkI Q) [some (.inr (.inr x0)), some (.inl x1), none, none] h) : ∃ v h', RN b sa (d + 1) 153 [.inr (.inr x0), .inl x1] h (some (.inl v)) h' ∧ Q v h' := by
  obtain ⟨r, h', q1, q2⟩ := RN_at (y := 153) (L := 4) (vs := [.inr (.inr x0), .inl x1]) (S := bd_153 b sa (RN b sa d)) (env := [some (.inr (.inr x0)), some (.inl x1), none, none]) (rt := (some .boolean)) (by decide) rfl rfl rfl rfl rfl rfl (rkI Q) (fun r h q => by obtain ⟨v, rfl, q⟩ := rkI_inv q; exact hQ v h q) hk
  obtain ⟨v, rfl, q2⟩ := rkI_inv q2
  exact ⟨v, h', q1, q2⟩
theorem go_154 {b d : Nat} {sa : Nat → Nat} {h : gH} {x0 : Option Nat} {x1 : Int32} (Q : Int32 → gH → Prop) (hk : bd_154 b sa (RN b sa d) (fun _ _ => False) (fun _ _ => False) (rkI Q) [some (.inr (.inr x0)), some (.inl x1), none] h) : ∃ v h', RN b sa (d + 1) 154 [.inr (.inr x0), .inl x1] h (some (.inl v)) h' ∧ Q v h' := by
  obtain ⟨r, h', q1, q2⟩ := RN_at (y := 154) (L := 3) (vs := [.inr (.inr x0), .inl x1]) (S := bd_154 b sa (RN b sa d)) (env := [some (.inr (.inr x0)), some (.inl x1), none]) (rt := (some .int)) (by decide) rfl rfl rfl rfl rfl rfl (rkI Q) (fun r h q => by obtain ⟨v, rfl, q⟩ := rkI_inv q; exact trivial) hk
  obtain ⟨v, rfl, q2⟩ := rkI_inv q2
  exact ⟨v, h', q1, q2⟩
theorem go_155 {b d : Nat} {sa : Nat → Nat} {h : gH} {x0 : Option Nat} {x1 : Int32} {x2 : Int32} (Q : Int32 → gH → Prop) (hQ : ∀ v h, Q v h → v = 0 ∨ v = 1) (hk : bd_155 b sa (RN b sa d) (fun _ _ => False) (fun _ _ => False) (rkI Q) [some (.inr (.inr x0)), some (.inl x1), some (.inl x2), none, none, none, none, none] h) : ∃ v h', RN b sa (d + 1) 155 [.inr (.inr x0), .inl x1, .inl x2] h (some (.inl v)) h' ∧ Q v h' := by
  obtain ⟨r, h', q1, q2⟩ := RN_at (y := 155) (L := 8) (vs := [.inr (.inr x0), .inl x1, .inl x2]) (S := bd_155 b sa (RN b sa d)) (env := [some (.inr (.inr x0)), some (.inl x1), some (.inl x2), none, none, none, none, none]) (rt := (some .boolean)) (by decide) rfl rfl rfl rfl rfl rfl (rkI Q) (fun r h q => by obtain ⟨v, rfl, q⟩ := rkI_inv q; exact hQ v h q) hk
  obtain ⟨v, rfl, q2⟩ := rkI_inv q2
  exact ⟨v, h', q1, q2⟩
theorem go_156 {b d : Nat} {sa : Nat → Nat} {h : gH} {x0 : Option Nat} {x1 : Int32} (Q : Int64 → gH → Prop) (hk : bd_156 b sa (RN b sa d) (fun _ _ => False) (fun _ _ => False) (rkL Q) [some (.inr (.inr x0)), some (.inl x1), none, none, none, none, none] h) : ∃ v h', RN b sa (d + 1) 156 [.inr (.inr x0), .inl x1] h (some (.inr (.inl v))) h' ∧ Q v h' := by
  obtain ⟨r, h', q1, q2⟩ := RN_at (y := 156) (L := 7) (vs := [.inr (.inr x0), .inl x1]) (S := bd_156 b sa (RN b sa d)) (env := [some (.inr (.inr x0)), some (.inl x1), none, none, none, none, none]) (rt := (some .long)) (by decide) rfl rfl rfl rfl rfl rfl (rkL Q) (fun r h q => by obtain ⟨v, rfl, q⟩ := rkL_inv q; exact trivial) hk
  obtain ⟨v, rfl, q2⟩ := rkL_inv q2
  exact ⟨v, h', q1, q2⟩
theorem go_157 {b d : Nat} {sa : Nat → Nat} {h : gH} {x0 : Option Nat} {x1 : Int32} {x2 : Int32} (Q : Int32 → gH → Prop) (hk : bd_157 b sa (RN b sa d) (fun _ _ => False) (fun _ _ => False) (rkI Q) [some (.inr (.inr x0)), some (.inl x1), some (.inl x2), none, none] h) : ∃ v h', RN b sa (d + 1) 157 [.inr (.inr x0), .inl x1, .inl x2] h (some (.inl v)) h' ∧ Q v h' := by
  obtain ⟨r, h', q1, q2⟩ := RN_at (y := 157) (L := 5) (vs := [.inr (.inr x0), .inl x1, .inl x2]) (S := bd_157 b sa (RN b sa d)) (env := [some (.inr (.inr x0)), some (.inl x1), some (.inl x2), none, none]) (rt := (some .int)) (by decide) rfl rfl rfl rfl rfl rfl (rkI Q) (fun r h q => by obtain ⟨v, rfl, q⟩ := rkI_inv q; exact trivial) hk
  obtain ⟨v, rfl, q2⟩ := rkI_inv q2
  exact ⟨v, h', q1, q2⟩
theorem go_158 {b d : Nat} {sa : Nat → Nat} {h : gH} {x0 : Option Nat} (Q : Int32 → gH → Prop) (hk : bd_158 b sa (RN b sa d) (fun _ _ => False) (fun _ _ => False) (rkI Q) [some (.inr (.inr x0)), none, none, none] h) : ∃ v h', RN b sa (d + 1) 158 [.inr (.inr x0)] h (some (.inl v)) h' ∧ Q v h' := by
  obtain ⟨r, h', q1, q2⟩ := RN_at (y := 158) (L := 4) (vs := [.inr (.inr x0)]) (S := bd_158 b sa (RN b sa d)) (env := [some (.inr (.inr x0)), none, none, none]) (rt := (some .int)) (by decide) rfl rfl rfl rfl rfl rfl (rkI Q) (fun r h q => by obtain ⟨v, rfl, q⟩ := rkI_inv q; exact trivial) hk
  obtain ⟨v, rfl, q2⟩ := rkI_inv q2
  exact ⟨v, h', q1, q2⟩
theorem go_159 {b d : Nat} {sa : Nat → Nat} {h : gH} {x0 : Option Nat} {x1 : Option Nat} (Q : Int32 → gH → Prop) (hQ : ∀ v h, Q v h → v = 0 ∨ v = 1) (hk : bd_159 b sa (RN b sa d) (fun _ _ => False) (fun _ _ => False) (rkI Q) [some (.inr (.inr x0)), some (.inr (.inr x1)), none] h) : ∃ v h', RN b sa (d + 1) 159 [.inr (.inr x0), .inr (.inr x1)] h (some (.inl v)) h' ∧ Q v h' := by
  obtain ⟨r, h', q1, q2⟩ := RN_at (y := 159) (L := 3) (vs := [.inr (.inr x0), .inr (.inr x1)]) (S := bd_159 b sa (RN b sa d)) (env := [some (.inr (.inr x0)), some (.inr (.inr x1)), none]) (rt := (some .boolean)) (by decide) rfl rfl rfl rfl rfl rfl (rkI Q) (fun r h q => by obtain ⟨v, rfl, q⟩ := rkI_inv q; exact hQ v h q) hk
  obtain ⟨v, rfl, q2⟩ := rkI_inv q2
  exact ⟨v, h', q1, q2⟩
theorem go_160 {b d : Nat} {sa : Nat → Nat} {h : gH} {x0 : Option Nat} {x1 : Option Nat} (Q : Int32 → gH → Prop) (hk : bd_160 b sa (RN b sa d) (fun _ _ => False) (fun _ _ => False) (rkI Q) [some (.inr (.inr x0)), some (.inr (.inr x1)), none] h) : ∃ v h', RN b sa (d + 1) 160 [.inr (.inr x0), .inr (.inr x1)] h (some (.inl v)) h' ∧ Q v h' := by
  obtain ⟨r, h', q1, q2⟩ := RN_at (y := 160) (L := 3) (vs := [.inr (.inr x0), .inr (.inr x1)]) (S := bd_160 b sa (RN b sa d)) (env := [some (.inr (.inr x0)), some (.inr (.inr x1)), none]) (rt := (some .int)) (by decide) rfl rfl rfl rfl rfl rfl (rkI Q) (fun r h q => by obtain ⟨v, rfl, q⟩ := rkI_inv q; exact trivial) hk
  obtain ⟨v, rfl, q2⟩ := rkI_inv q2
  exact ⟨v, h', q1, q2⟩
theorem go_161 {b d : Nat} {sa : Nat → Nat} {h : gH} {x0 : Option Nat} {x1 : Option Nat} {x2 : Int32} (Q : Int32 → gH → Prop) (hk : bd_161 b sa (RN b sa d) (fun _ _ => False) (fun _ _ => False) (rkI Q) [some (.inr (.inr x0)), some (.inr (.inr x1)), some (.inl x2), none] h) : ∃ v h', RN b sa (d + 1) 161 [.inr (.inr x0), .inr (.inr x1), .inl x2] h (some (.inl v)) h' ∧ Q v h' := by
  obtain ⟨r, h', q1, q2⟩ := RN_at (y := 161) (L := 4) (vs := [.inr (.inr x0), .inr (.inr x1), .inl x2]) (S := bd_161 b sa (RN b sa d)) (env := [some (.inr (.inr x0)), some (.inr (.inr x1)), some (.inl x2), none]) (rt := (some .int)) (by decide) rfl rfl rfl rfl rfl rfl (rkI Q) (fun r h q => by obtain ⟨v, rfl, q⟩ := rkI_inv q; exact trivial) hk
  obtain ⟨v, rfl, q2⟩ := rkI_inv q2
  exact ⟨v, h', q1, q2⟩
theorem go_162 {b d : Nat} {sa : Nat → Nat} {h : gH} {x0 : Option Nat} {x1 : Option Nat} (Q : Int32 → gH → Prop) (hQ : ∀ v h, Q v h → v = 0 ∨ v = 1) (hk : bd_162 b sa (RN b sa d) (fun _ _ => False) (fun _ _ => False) (rkI Q) [some (.inr (.inr x0)), some (.inr (.inr x1)), none, none] h) : ∃ v h', RN b sa (d + 1) 162 [.inr (.inr x0), .inr (.inr x1)] h (some (.inl v)) h' ∧ Q v h' := by
  obtain ⟨r, h', q1, q2⟩ := RN_at (y := 162) (L := 4) (vs := [.inr (.inr x0), .inr (.inr x1)]) (S := bd_162 b sa (RN b sa d)) (env := [some (.inr (.inr x0)), some (.inr (.inr x1)), none, none]) (rt := (some .boolean)) (by decide) rfl rfl rfl rfl rfl rfl (rkI Q) (fun r h q => by obtain ⟨v, rfl, q⟩ := rkI_inv q; exact hQ v h q) hk
  obtain ⟨v, rfl, q2⟩ := rkI_inv q2
  exact ⟨v, h', q1, q2⟩
theorem go_163 {b d : Nat} {sa : Nat → Nat} {h : gH} {x0 : Option Nat} {x1 : Option Nat} (Q : gH → Prop) (hk : bd_163 b sa (RN b sa d) (fun _ _ => False) (fun _ _ => False) (rkU Q) [some (.inr (.inr x0)), some (.inr (.inr x1))] h) : ∃ h', RN b sa (d + 1) 163 [.inr (.inr x0), .inr (.inr x1)] h none h' ∧ Q h' := by
  obtain ⟨r, h', q1, q2⟩ := RN_at (y := 163) (L := 2) (vs := [.inr (.inr x0), .inr (.inr x1)]) (S := bd_163 b sa (RN b sa d)) (env := [some (.inr (.inr x0)), some (.inr (.inr x1))]) (rt := none) (by decide) rfl rfl rfl rfl rfl rfl (rkU Q) (fun r h q => by obtain ⟨rfl, -⟩ := rkU_inv q; exact trivial) hk
  obtain ⟨rfl, q2⟩ := rkU_inv q2
  exact ⟨h', q1, q2⟩
theorem go_164 {m d : Nat} {h : MS} {x0 : Int32} {x1 : Int32} {x2 : Int32} (Q : Int32 → MS → Prop) (hQ : ∀ v h, Q v h → v = 0 ∨ v = 1) (hk : bm_164 m (RM m d) (fun _ _ => False) (fun _ _ => False) (rkI Q) [some (.inl x0), some (.inl x1), some (.inl x2)] h) : ∃ v h', RM m (d + 1) 164 [.inl x0, .inl x1, .inl x2] h (some (.inl v)) h' ∧ Q v h' := by
  obtain ⟨r, h', q1, q2⟩ := RM_at (y := 164) (L := 3) (vs := [.inl x0, .inl x1, .inl x2]) (S := bm_164 m (RM m d)) (env := [some (.inl x0), some (.inl x1), some (.inl x2)]) (rt := (some .boolean)) (by decide) rfl rfl rfl rfl rfl rfl (rkI Q) (fun r h q => by obtain ⟨v, rfl, q⟩ := rkI_inv q; exact hQ v h q) hk
  obtain ⟨v, rfl, q2⟩ := rkI_inv q2
  exact ⟨v, h', q1, q2⟩
theorem go_165 {m d : Nat} {h : MS} {x1 : Int32} {x2 : Int32} (Q : Int32 → MS → Prop) (hQ : ∀ v h, Q v h → v = 0 ∨ v = 1) (hk : bm_165 m (RM m d) (fun _ _ => False) (fun _ _ => False) (rkI Q) [some (.inr (.inr (some m))), some (.inl x1), some (.inl x2)] h) : ∃ v h', RM m (d + 1) 165 [.inr (.inr (some m)), .inl x1, .inl x2] h (some (.inl v)) h' ∧ Q v h' := by
  obtain ⟨r, h', q1, q2⟩ := RM_at (y := 165) (L := 3) (vs := [.inr (.inr (some m)), .inl x1, .inl x2]) (S := bm_165 m (RM m d)) (env := [some (.inr (.inr (some m))), some (.inl x1), some (.inl x2)]) (rt := (some .boolean)) (by decide) rfl rfl rfl rfl rfl rfl (rkI Q) (fun r h q => by obtain ⟨v, rfl, q⟩ := rkI_inv q; exact hQ v h q) hk
  obtain ⟨v, rfl, q2⟩ := rkI_inv q2
  exact ⟨v, h', q1, q2⟩
theorem go_166 {m d : Nat} {h : MS} {x1 : Int32} {x2 : Int32} {x3 : Int32} {x4 : Int32} {x5 : Int32} (Q : Int32 → MS → Prop) (hk : bm_166 m (RM m d) (fun _ _ => False) (fun _ _ => False) (rkI Q) [some (.inr (.inr (some m))), some (.inl x1), some (.inl x2), some (.inl x3), some (.inl x4), some (.inl x5), none, none] h) : ∃ v h', RM m (d + 1) 166 [.inr (.inr (some m)), .inl x1, .inl x2, .inl x3, .inl x4, .inl x5] h (some (.inl v)) h' ∧ Q v h' := by
  obtain ⟨r, h', q1, q2⟩ := RM_at (y := 166) (L := 8) (vs := [.inr (.inr (some m)), .inl x1, .inl x2, .inl x3, .inl x4, .inl x5]) (S := bm_166 m (RM m d)) (env := [some (.inr (.inr (some m))), some (.inl x1), some (.inl x2), some (.inl x3), some (.inl x4), some (.inl x5), none, none]) (rt := (some .int)) (by decide) rfl rfl rfl rfl rfl rfl (rkI Q) (fun r h q => by obtain ⟨v, rfl, q⟩ := rkI_inv q; exact trivial) hk
  obtain ⟨v, rfl, q2⟩ := rkI_inv q2
  exact ⟨v, h', q1, q2⟩
theorem go_167 {m d : Nat} {h : MS}  (Q : Int32 → MS → Prop) (hk : bm_167 m (RM m d) (fun _ _ => False) (fun _ _ => False) (rkI Q) [some (.inr (.inr (some m)))] h) : ∃ v h', RM m (d + 1) 167 [.inr (.inr (some m))] h (some (.inl v)) h' ∧ Q v h' := by
  obtain ⟨r, h', q1, q2⟩ := RM_at (y := 167) (L := 1) (vs := [.inr (.inr (some m))]) (S := bm_167 m (RM m d)) (env := [some (.inr (.inr (some m)))]) (rt := (some .int)) (by decide) rfl rfl rfl rfl rfl rfl (rkI Q) (fun r h q => by obtain ⟨v, rfl, q⟩ := rkI_inv q; exact trivial) hk
  obtain ⟨v, rfl, q2⟩ := rkI_inv q2
  exact ⟨v, h', q1, q2⟩
theorem go_168 {m d : Nat} {h : MS}  (Q : MS → Prop) (hk : bm_168 m (RM m d) (fun _ _ => False) (fun _ _ => False) (rkU Q) [some (.inr (.inr (some m))), none] h) : ∃ h', RM m (d + 1) 168 [.inr (.inr (some m))] h none h' ∧ Q h' := by
  obtain ⟨r, h', q1, q2⟩ := RM_at (y := 168) (L := 2) (vs := [.inr (.inr (some m))]) (S := bm_168 m (RM m d)) (env := [some (.inr (.inr (some m))), none]) (rt := none) (by decide) rfl rfl rfl rfl rfl rfl (rkU Q) (fun r h q => by obtain ⟨rfl, -⟩ := rkU_inv q; exact trivial) hk
  obtain ⟨rfl, q2⟩ := rkU_inv q2
  exact ⟨h', q1, q2⟩
theorem go_169 {m d : Nat} {h : MS}  (Q : MS → Prop) (hk : bm_169 m (RM m d) (fun _ _ => False) (fun _ _ => False) (rkU Q) [some (.inr (.inr (some m)))] h) : ∃ h', RM m (d + 1) 169 [.inr (.inr (some m))] h none h' ∧ Q h' := by
  obtain ⟨r, h', q1, q2⟩ := RM_at (y := 169) (L := 1) (vs := [.inr (.inr (some m))]) (S := bm_169 m (RM m d)) (env := [some (.inr (.inr (some m)))]) (rt := none) (by decide) rfl rfl rfl rfl rfl rfl (rkU Q) (fun r h q => by obtain ⟨rfl, -⟩ := rkU_inv q; exact trivial) hk
  obtain ⟨rfl, q2⟩ := rkU_inv q2
  exact ⟨h', q1, q2⟩
theorem go_170 {m d : Nat} {h : MS} {x1 : Int64} (Q : Int32 → MS → Prop) (hQ : ∀ v h, Q v h → v = 0 ∨ v = 1) (hk : bm_170 m (RM m d) (fun _ _ => False) (fun _ _ => False) (rkI Q) [some (.inr (.inr (some m))), some (.inr (.inl x1)), none] h) : ∃ v h', RM m (d + 1) 170 [.inr (.inr (some m)), .inr (.inl x1)] h (some (.inl v)) h' ∧ Q v h' := by
  obtain ⟨r, h', q1, q2⟩ := RM_at (y := 170) (L := 3) (vs := [.inr (.inr (some m)), .inr (.inl x1)]) (S := bm_170 m (RM m d)) (env := [some (.inr (.inr (some m))), some (.inr (.inl x1)), none]) (rt := (some .boolean)) (by decide) rfl rfl rfl rfl rfl rfl (rkI Q) (fun r h q => by obtain ⟨v, rfl, q⟩ := rkI_inv q; exact hQ v h q) hk
  obtain ⟨v, rfl, q2⟩ := rkI_inv q2
  exact ⟨v, h', q1, q2⟩
theorem go_171 {m d : Nat} {h : MS} {x1 : Int64} (Q : MS → Prop) (hk : bm_171 m (RM m d) (fun _ _ => False) (fun _ _ => False) (rkU Q) [some (.inr (.inr (some m))), some (.inr (.inl x1)), none] h) : ∃ h', RM m (d + 1) 171 [.inr (.inr (some m)), .inr (.inl x1)] h none h' ∧ Q h' := by
  obtain ⟨r, h', q1, q2⟩ := RM_at (y := 171) (L := 3) (vs := [.inr (.inr (some m)), .inr (.inl x1)]) (S := bm_171 m (RM m d)) (env := [some (.inr (.inr (some m))), some (.inr (.inl x1)), none]) (rt := none) (by decide) rfl rfl rfl rfl rfl rfl (rkU Q) (fun r h q => by obtain ⟨rfl, -⟩ := rkU_inv q; exact trivial) hk
  obtain ⟨rfl, q2⟩ := rkU_inv q2
  exact ⟨h', q1, q2⟩
theorem go_172 {m d : Nat} {h : MS} {x1 : Int32} {x2 : Int32} (Q : Int32 → MS → Prop) (hk : bm_172 m (RM m d) (fun _ _ => False) (fun _ _ => False) (rkI Q) [some (.inr (.inr (some m))), some (.inl x1), some (.inl x2), none] h) : ∃ v h', RM m (d + 1) 172 [.inr (.inr (some m)), .inl x1, .inl x2] h (some (.inl v)) h' ∧ Q v h' := by
  obtain ⟨r, h', q1, q2⟩ := RM_at (y := 172) (L := 4) (vs := [.inr (.inr (some m)), .inl x1, .inl x2]) (S := bm_172 m (RM m d)) (env := [some (.inr (.inr (some m))), some (.inl x1), some (.inl x2), none]) (rt := (some .int)) (by decide) rfl rfl rfl rfl rfl rfl (rkI Q) (fun r h q => by obtain ⟨v, rfl, q⟩ := rkI_inv q; exact trivial) hk
  obtain ⟨v, rfl, q2⟩ := rkI_inv q2
  exact ⟨v, h', q1, q2⟩
theorem go_173 {m d : Nat} {h : MS}  (Q : Int32 → MS → Prop) (hk : bm_173 m (RM m d) (fun _ _ => False) (fun _ _ => False) (rkI Q) [some (.inr (.inr (some m)))] h) : ∃ v h', RM m (d + 1) 173 [.inr (.inr (some m))] h (some (.inl v)) h' ∧ Q v h' := by
  obtain ⟨r, h', q1, q2⟩ := RM_at (y := 173) (L := 1) (vs := [.inr (.inr (some m))]) (S := bm_173 m (RM m d)) (env := [some (.inr (.inr (some m)))]) (rt := (some .int)) (by decide) rfl rfl rfl rfl rfl rfl (rkI Q) (fun r h q => by obtain ⟨v, rfl, q⟩ := rkI_inv q; exact trivial) hk
  obtain ⟨v, rfl, q2⟩ := rkI_inv q2
  exact ⟨v, h', q1, q2⟩
theorem go_174 {m d : Nat} {h : MS}  (Q : Int32 → MS → Prop) (hk : bm_174 m (RM m d) (fun _ _ => False) (fun _ _ => False) (rkI Q) [some (.inr (.inr (some m)))] h) : ∃ v h', RM m (d + 1) 174 [.inr (.inr (some m))] h (some (.inl v)) h' ∧ Q v h' := by
  obtain ⟨r, h', q1, q2⟩ := RM_at (y := 174) (L := 1) (vs := [.inr (.inr (some m))]) (S := bm_174 m (RM m d)) (env := [some (.inr (.inr (some m)))]) (rt := (some .int)) (by decide) rfl rfl rfl rfl rfl rfl (rkI Q) (fun r h q => by obtain ⟨v, rfl, q⟩ := rkI_inv q; exact trivial) hk
  obtain ⟨v, rfl, q2⟩ := rkI_inv q2
  exact ⟨v, h', q1, q2⟩
theorem go_175 {m d : Nat} {h : MS}  (Q : Int32 → MS → Prop) (hk : bm_175 m (RM m d) (fun _ _ => False) (fun _ _ => False) (rkI Q) [some (.inr (.inr (some m)))] h) : ∃ v h', RM m (d + 1) 175 [.inr (.inr (some m))] h (some (.inl v)) h' ∧ Q v h' := by
  obtain ⟨r, h', q1, q2⟩ := RM_at (y := 175) (L := 1) (vs := [.inr (.inr (some m))]) (S := bm_175 m (RM m d)) (env := [some (.inr (.inr (some m)))]) (rt := (some .int)) (by decide) rfl rfl rfl rfl rfl rfl (rkI Q) (fun r h q => by obtain ⟨v, rfl, q⟩ := rkI_inv q; exact trivial) hk
  obtain ⟨v, rfl, q2⟩ := rkI_inv q2
  exact ⟨v, h', q1, q2⟩
theorem go_176 {m d : Nat} {h : MS} {x1 : Int32} (Q : Int32 → MS → Prop) (hk : bm_176 m (RM m d) (fun _ _ => False) (fun _ _ => False) (rkI Q) [some (.inr (.inr (some m))), some (.inl x1), none] h) : ∃ v h', RM m (d + 1) 176 [.inr (.inr (some m)), .inl x1] h (some (.inl v)) h' ∧ Q v h' := by
  obtain ⟨r, h', q1, q2⟩ := RM_at (y := 176) (L := 3) (vs := [.inr (.inr (some m)), .inl x1]) (S := bm_176 m (RM m d)) (env := [some (.inr (.inr (some m))), some (.inl x1), none]) (rt := (some .int)) (by decide) rfl rfl rfl rfl rfl rfl (rkI Q) (fun r h q => by obtain ⟨v, rfl, q⟩ := rkI_inv q; exact trivial) hk
  obtain ⟨v, rfl, q2⟩ := rkI_inv q2
  exact ⟨v, h', q1, q2⟩
theorem go_177 {m d : Nat} {h : MS}  (Q : Int32 → MS → Prop) (hk : bm_177 m (RM m d) (fun _ _ => False) (fun _ _ => False) (rkI Q) [some (.inr (.inr (some m))), none] h) : ∃ v h', RM m (d + 1) 177 [.inr (.inr (some m))] h (some (.inl v)) h' ∧ Q v h' := by
  obtain ⟨r, h', q1, q2⟩ := RM_at (y := 177) (L := 2) (vs := [.inr (.inr (some m))]) (S := bm_177 m (RM m d)) (env := [some (.inr (.inr (some m))), none]) (rt := (some .int)) (by decide) rfl rfl rfl rfl rfl rfl (rkI Q) (fun r h q => by obtain ⟨v, rfl, q⟩ := rkI_inv q; exact trivial) hk
  obtain ⟨v, rfl, q2⟩ := rkI_inv q2
  exact ⟨v, h', q1, q2⟩
theorem go_178 {m d : Nat} {h : MS} {x1 : Int32} (Q : MS → Prop) (hk : bm_178 m (RM m d) (fun _ _ => False) (fun _ _ => False) (rkU Q) [some (.inr (.inr (some m))), some (.inl x1)] h) : ∃ h', RM m (d + 1) 178 [.inr (.inr (some m)), .inl x1] h none h' ∧ Q h' := by
  obtain ⟨r, h', q1, q2⟩ := RM_at (y := 178) (L := 2) (vs := [.inr (.inr (some m)), .inl x1]) (S := bm_178 m (RM m d)) (env := [some (.inr (.inr (some m))), some (.inl x1)]) (rt := none) (by decide) rfl rfl rfl rfl rfl rfl (rkU Q) (fun r h q => by obtain ⟨rfl, -⟩ := rkU_inv q; exact trivial) hk
  obtain ⟨rfl, q2⟩ := rkU_inv q2
  exact ⟨h', q1, q2⟩
theorem go_179 {m d : Nat} {h : MS} {x1 : Int32} (Q : Int32 → MS → Prop) (hk : bm_179 m (RM m d) (fun _ _ => False) (fun _ _ => False) (rkI Q) [some (.inr (.inr (some m))), some (.inl x1), none] h) : ∃ v h', RM m (d + 1) 179 [.inr (.inr (some m)), .inl x1] h (some (.inl v)) h' ∧ Q v h' := by
  obtain ⟨r, h', q1, q2⟩ := RM_at (y := 179) (L := 3) (vs := [.inr (.inr (some m)), .inl x1]) (S := bm_179 m (RM m d)) (env := [some (.inr (.inr (some m))), some (.inl x1), none]) (rt := (some .int)) (by decide) rfl rfl rfl rfl rfl rfl (rkI Q) (fun r h q => by obtain ⟨v, rfl, q⟩ := rkI_inv q; exact trivial) hk
  obtain ⟨v, rfl, q2⟩ := rkI_inv q2
  exact ⟨v, h', q1, q2⟩
theorem go_180 {m d : Nat} {h : MS} {x1 : Int32} (Q : MS → Prop) (hk : bm_180 m (RM m d) (fun _ _ => False) (fun _ _ => False) (rkU Q) [some (.inr (.inr (some m))), some (.inl x1), none] h) : ∃ h', RM m (d + 1) 180 [.inr (.inr (some m)), .inl x1] h none h' ∧ Q h' := by
  obtain ⟨r, h', q1, q2⟩ := RM_at (y := 180) (L := 3) (vs := [.inr (.inr (some m)), .inl x1]) (S := bm_180 m (RM m d)) (env := [some (.inr (.inr (some m))), some (.inl x1), none]) (rt := none) (by decide) rfl rfl rfl rfl rfl rfl (rkU Q) (fun r h q => by obtain ⟨rfl, -⟩ := rkU_inv q; exact trivial) hk
  obtain ⟨rfl, q2⟩ := rkU_inv q2
  exact ⟨h', q1, q2⟩
theorem go_181 {m d : Nat} {h : MS} {x1 : Int32} {x2 : Int32} (Q : MS → Prop) (hk : bm_181 m (RM m d) (fun _ _ => False) (fun _ _ => False) (rkU Q) [some (.inr (.inr (some m))), some (.inl x1), some (.inl x2)] h) : ∃ h', RM m (d + 1) 181 [.inr (.inr (some m)), .inl x1, .inl x2] h none h' ∧ Q h' := by
  obtain ⟨r, h', q1, q2⟩ := RM_at (y := 181) (L := 3) (vs := [.inr (.inr (some m)), .inl x1, .inl x2]) (S := bm_181 m (RM m d)) (env := [some (.inr (.inr (some m))), some (.inl x1), some (.inl x2)]) (rt := none) (by decide) rfl rfl rfl rfl rfl rfl (rkU Q) (fun r h q => by obtain ⟨rfl, -⟩ := rkU_inv q; exact trivial) hk
  obtain ⟨rfl, q2⟩ := rkU_inv q2
  exact ⟨h', q1, q2⟩
theorem go_182 {m d : Nat} {h : MS} {x1 : Int32} (Q : MS → Prop) (hk : bm_182 m (RM m d) (fun _ _ => False) (fun _ _ => False) (rkU Q) [some (.inr (.inr (some m))), some (.inl x1), none] h) : ∃ h', RM m (d + 1) 182 [.inr (.inr (some m)), .inl x1] h none h' ∧ Q h' := by
  obtain ⟨r, h', q1, q2⟩ := RM_at (y := 182) (L := 3) (vs := [.inr (.inr (some m)), .inl x1]) (S := bm_182 m (RM m d)) (env := [some (.inr (.inr (some m))), some (.inl x1), none]) (rt := none) (by decide) rfl rfl rfl rfl rfl rfl (rkU Q) (fun r h q => by obtain ⟨rfl, -⟩ := rkU_inv q; exact trivial) hk
  obtain ⟨rfl, q2⟩ := rkU_inv q2
  exact ⟨h', q1, q2⟩
theorem go_183 {m d : Nat} {h : MS}  (Q : Int32 → MS → Prop) (hQ : ∀ v h, Q v h → v = 0 ∨ v = 1) (hk : bm_183 m (RM m d) (fun _ _ => False) (fun _ _ => False) (rkI Q) [some (.inr (.inr (some m))), none, none] h) : ∃ v h', RM m (d + 1) 183 [.inr (.inr (some m))] h (some (.inl v)) h' ∧ Q v h' := by
  obtain ⟨r, h', q1, q2⟩ := RM_at (y := 183) (L := 3) (vs := [.inr (.inr (some m))]) (S := bm_183 m (RM m d)) (env := [some (.inr (.inr (some m))), none, none]) (rt := (some .boolean)) (by decide) rfl rfl rfl rfl rfl rfl (rkI Q) (fun r h q => by obtain ⟨v, rfl, q⟩ := rkI_inv q; exact hQ v h q) hk
  obtain ⟨v, rfl, q2⟩ := rkI_inv q2
  exact ⟨v, h', q1, q2⟩
theorem go_184 {m d : Nat} {h : MS} {x1 : Int32} {x2 : Int32} (Q : Int32 → MS → Prop) (hk : bm_184 m (RM m d) (fun _ _ => False) (fun _ _ => False) (rkI Q) [some (.inr (.inr (some m))), some (.inl x1), some (.inl x2), none, none] h) : ∃ v h', RM m (d + 1) 184 [.inr (.inr (some m)), .inl x1, .inl x2] h (some (.inl v)) h' ∧ Q v h' := by
  obtain ⟨r, h', q1, q2⟩ := RM_at (y := 184) (L := 5) (vs := [.inr (.inr (some m)), .inl x1, .inl x2]) (S := bm_184 m (RM m d)) (env := [some (.inr (.inr (some m))), some (.inl x1), some (.inl x2), none, none]) (rt := (some .int)) (by decide) rfl rfl rfl rfl rfl rfl (rkI Q) (fun r h q => by obtain ⟨v, rfl, q⟩ := rkI_inv q; exact trivial) hk
  obtain ⟨v, rfl, q2⟩ := rkI_inv q2
  exact ⟨v, h', q1, q2⟩
theorem go_185 {m d : Nat} {h : MS}  (Q : Int32 → MS → Prop) (hk : bm_185 m (RM m d) (fun _ _ => False) (fun _ _ => False) (rkI Q) [some (.inr (.inr (some m)))] h) : ∃ v h', RM m (d + 1) 185 [.inr (.inr (some m))] h (some (.inl v)) h' ∧ Q v h' := by
  obtain ⟨r, h', q1, q2⟩ := RM_at (y := 185) (L := 1) (vs := [.inr (.inr (some m))]) (S := bm_185 m (RM m d)) (env := [some (.inr (.inr (some m)))]) (rt := (some .int)) (by decide) rfl rfl rfl rfl rfl rfl (rkI Q) (fun r h q => by obtain ⟨v, rfl, q⟩ := rkI_inv q; exact trivial) hk
  obtain ⟨v, rfl, q2⟩ := rkI_inv q2
  exact ⟨v, h', q1, q2⟩
theorem go_186 {m d : Nat} {h : MS} {x1 : Int32} (Q : Int32 → MS → Prop) (hQ : ∀ v h, Q v h → v = 0 ∨ v = 1) (hk : bm_186 m (RM m d) (fun _ _ => False) (fun _ _ => False) (rkI Q) [some (.inr (.inr (some m))), some (.inl x1)] h) : ∃ v h', RM m (d + 1) 186 [.inr (.inr (some m)), .inl x1] h (some (.inl v)) h' ∧ Q v h' := by
  obtain ⟨r, h', q1, q2⟩ := RM_at (y := 186) (L := 2) (vs := [.inr (.inr (some m)), .inl x1]) (S := bm_186 m (RM m d)) (env := [some (.inr (.inr (some m))), some (.inl x1)]) (rt := (some .boolean)) (by decide) rfl rfl rfl rfl rfl rfl (rkI Q) (fun r h q => by obtain ⟨v, rfl, q⟩ := rkI_inv q; exact hQ v h q) hk
  obtain ⟨v, rfl, q2⟩ := rkI_inv q2
  exact ⟨v, h', q1, q2⟩
theorem go_187 {m d : Nat} {h : MS} {x1 : Int32} (Q : Int32 → MS → Prop) (hQ : ∀ v h, Q v h → v = 0 ∨ v = 1) (hk : bm_187 m (RM m d) (fun _ _ => False) (fun _ _ => False) (rkI Q) [some (.inr (.inr (some m))), some (.inl x1)] h) : ∃ v h', RM m (d + 1) 187 [.inr (.inr (some m)), .inl x1] h (some (.inl v)) h' ∧ Q v h' := by
  obtain ⟨r, h', q1, q2⟩ := RM_at (y := 187) (L := 2) (vs := [.inr (.inr (some m)), .inl x1]) (S := bm_187 m (RM m d)) (env := [some (.inr (.inr (some m))), some (.inl x1)]) (rt := (some .boolean)) (by decide) rfl rfl rfl rfl rfl rfl (rkI Q) (fun r h q => by obtain ⟨v, rfl, q⟩ := rkI_inv q; exact hQ v h q) hk
  obtain ⟨v, rfl, q2⟩ := rkI_inv q2
  exact ⟨v, h', q1, q2⟩
theorem go_188 {m d : Nat} {h : MS} {x1 : Int32} (Q : Int32 → MS → Prop) (hk : bm_188 m (RM m d) (fun _ _ => False) (fun _ _ => False) (rkI Q) [some (.inr (.inr (some m))), some (.inl x1), none, none] h) : ∃ v h', RM m (d + 1) 188 [.inr (.inr (some m)), .inl x1] h (some (.inl v)) h' ∧ Q v h' := by
  obtain ⟨r, h', q1, q2⟩ := RM_at (y := 188) (L := 4) (vs := [.inr (.inr (some m)), .inl x1]) (S := bm_188 m (RM m d)) (env := [some (.inr (.inr (some m))), some (.inl x1), none, none]) (rt := (some .int)) (by decide) rfl rfl rfl rfl rfl rfl (rkI Q) (fun r h q => by obtain ⟨v, rfl, q⟩ := rkI_inv q; exact trivial) hk
  obtain ⟨v, rfl, q2⟩ := rkI_inv q2
  exact ⟨v, h', q1, q2⟩
theorem go_189 {m d : Nat} {h : MS} {x1 : Int32} {x2 : Int32} (Q : Int32 → MS → Prop) (hk : bm_189 m (RM m d) (fun _ _ => False) (fun _ _ => False) (rkI Q) [some (.inr (.inr (some m))), some (.inl x1), some (.inl x2), none, none] h) : ∃ v h', RM m (d + 1) 189 [.inr (.inr (some m)), .inl x1, .inl x2] h (some (.inl v)) h' ∧ Q v h' := by
  obtain ⟨r, h', q1, q2⟩ := RM_at (y := 189) (L := 5) (vs := [.inr (.inr (some m)), .inl x1, .inl x2]) (S := bm_189 m (RM m d)) (env := [some (.inr (.inr (some m))), some (.inl x1), some (.inl x2), none, none]) (rt := (some .int)) (by decide) rfl rfl rfl rfl rfl rfl (rkI Q) (fun r h q => by obtain ⟨v, rfl, q⟩ := rkI_inv q; exact trivial) hk
  obtain ⟨v, rfl, q2⟩ := rkI_inv q2
  exact ⟨v, h', q1, q2⟩
theorem go_190 {m d : Nat} {h : MS} {x1 : Int32} {x2 : Int32} {x3 : Int32} (Q : Int32 → MS → Prop) (hk : bm_190 m (RM m d) (fun _ _ => False) (fun _ _ => False) (rkI Q) [some (.inr (.inr (some m))), some (.inl x1), some (.inl x2), some (.inl x3), none, none] h) : ∃ v h', RM m (d + 1) 190 [.inr (.inr (some m)), .inl x1, .inl x2, .inl x3] h (some (.inl v)) h' ∧ Q v h' := by
  obtain ⟨r, h', q1, q2⟩ := RM_at (y := 190) (L := 6) (vs := [.inr (.inr (some m)), .inl x1, .inl x2, .inl x3]) (S := bm_190 m (RM m d)) (env := [some (.inr (.inr (some m))), some (.inl x1), some (.inl x2), some (.inl x3), none, none]) (rt := (some .int)) (by decide) rfl rfl rfl rfl rfl rfl (rkI Q) (fun r h q => by obtain ⟨v, rfl, q⟩ := rkI_inv q; exact trivial) hk
  obtain ⟨v, rfl, q2⟩ := rkI_inv q2
  exact ⟨v, h', q1, q2⟩
theorem go_191 {m d : Nat} {h : MS} {x1 : Int32} {x2 : Int32} (Q : Int32 → MS → Prop) (hk : bm_191 m (RM m d) (fun _ _ => False) (fun _ _ => False) (rkI Q) [some (.inr (.inr (some m))), some (.inl x1), some (.inl x2)] h) : ∃ v h', RM m (d + 1) 191 [.inr (.inr (some m)), .inl x1, .inl x2] h (some (.inl v)) h' ∧ Q v h' := by
  obtain ⟨r, h', q1, q2⟩ := RM_at (y := 191) (L := 3) (vs := [.inr (.inr (some m)), .inl x1, .inl x2]) (S := bm_191 m (RM m d)) (env := [some (.inr (.inr (some m))), some (.inl x1), some (.inl x2)]) (rt := (some .int)) (by decide) rfl rfl rfl rfl rfl rfl (rkI Q) (fun r h q => by obtain ⟨v, rfl, q⟩ := rkI_inv q; exact trivial) hk
  obtain ⟨v, rfl, q2⟩ := rkI_inv q2
  exact ⟨v, h', q1, q2⟩
theorem go_192 {m d : Nat} {h : MS} {x1 : Int32} {x2 : Int32} {x3 : Int32} (Q : Int64 → MS → Prop) (hk : bm_192 m (RM m d) (fun _ _ => False) (fun _ _ => False) (rkL Q) [some (.inr (.inr (some m))), some (.inl x1), some (.inl x2), some (.inl x3), none, none, none, none] h) : ∃ v h', RM m (d + 1) 192 [.inr (.inr (some m)), .inl x1, .inl x2, .inl x3] h (some (.inr (.inl v))) h' ∧ Q v h' := by
  obtain ⟨r, h', q1, q2⟩ := RM_at (y := 192) (L := 8) (vs := [.inr (.inr (some m)), .inl x1, .inl x2, .inl x3]) (S := bm_192 m (RM m d)) (env := [some (.inr (.inr (some m))), some (.inl x1), some (.inl x2), some (.inl x3), none, none, none, none]) (rt := (some .long)) (by decide) rfl rfl rfl rfl rfl rfl (rkL Q) (fun r h q => by obtain ⟨v, rfl, q⟩ := rkL_inv q; exact trivial) hk
  obtain ⟨v, rfl, q2⟩ := rkL_inv q2
  exact ⟨v, h', q1, q2⟩
theorem go_193 {m d : Nat} {h : MS} {x1 : Int32} (Q : Int32 → MS → Prop) (hk : bm_193 m (RM m d) (fun _ _ => False) (fun _ _ => False) (rkI Q) [some (.inr (.inr (some m))), some (.inl x1)] h) : ∃ v h', RM m (d + 1) 193 [.inr (.inr (some m)), .inl x1] h (some (.inl v)) h' ∧ Q v h' := by
  obtain ⟨r, h', q1, q2⟩ := RM_at (y := 193) (L := 2) (vs := [.inr (.inr (some m)), .inl x1]) (S := bm_193 m (RM m d)) (env := [some (.inr (.inr (some m))), some (.inl x1)]) (rt := (some .int)) (by decide) rfl rfl rfl rfl rfl rfl (rkI Q) (fun r h q => by obtain ⟨v, rfl, q⟩ := rkI_inv q; exact trivial) hk
  obtain ⟨v, rfl, q2⟩ := rkI_inv q2
  exact ⟨v, h', q1, q2⟩
theorem go_194 {m d : Nat} {h : MS} {x1 : Int32} {x2 : Int32} {x3 : Int32} (Q : Int32 → MS → Prop) (hk : bm_194 m (RM m d) (fun _ _ => False) (fun _ _ => False) (rkI Q) [some (.inr (.inr (some m))), some (.inl x1), some (.inl x2), some (.inl x3), none, none] h) : ∃ v h', RM m (d + 1) 194 [.inr (.inr (some m)), .inl x1, .inl x2, .inl x3] h (some (.inl v)) h' ∧ Q v h' := by
  obtain ⟨r, h', q1, q2⟩ := RM_at (y := 194) (L := 6) (vs := [.inr (.inr (some m)), .inl x1, .inl x2, .inl x3]) (S := bm_194 m (RM m d)) (env := [some (.inr (.inr (some m))), some (.inl x1), some (.inl x2), some (.inl x3), none, none]) (rt := (some .int)) (by decide) rfl rfl rfl rfl rfl rfl (rkI Q) (fun r h q => by obtain ⟨v, rfl, q⟩ := rkI_inv q; exact trivial) hk
  obtain ⟨v, rfl, q2⟩ := rkI_inv q2
  exact ⟨v, h', q1, q2⟩
theorem go_195 {m d : Nat} {h : MS} {x1 : Int32} {x2 : Int32} (Q : MS → Prop) (hk : bm_195 m (RM m d) (fun _ _ => False) (fun _ _ => False) (rkU Q) [some (.inr (.inr (some m))), some (.inl x1), some (.inl x2)] h) : ∃ h', RM m (d + 1) 195 [.inr (.inr (some m)), .inl x1, .inl x2] h none h' ∧ Q h' := by
  obtain ⟨r, h', q1, q2⟩ := RM_at (y := 195) (L := 3) (vs := [.inr (.inr (some m)), .inl x1, .inl x2]) (S := bm_195 m (RM m d)) (env := [some (.inr (.inr (some m))), some (.inl x1), some (.inl x2)]) (rt := none) (by decide) rfl rfl rfl rfl rfl rfl (rkU Q) (fun r h q => by obtain ⟨rfl, -⟩ := rkU_inv q; exact trivial) hk
  obtain ⟨rfl, q2⟩ := rkU_inv q2
  exact ⟨h', q1, q2⟩
theorem go_196 {m d : Nat} {h : MS} {x1 : Int32} {x2 : Int32} {x3 : Int32} (Q : Int32 → MS → Prop) (hk : bm_196 m (RM m d) (fun _ _ => False) (fun _ _ => False) (rkI Q) [some (.inr (.inr (some m))), some (.inl x1), some (.inl x2), some (.inl x3), none, none] h) : ∃ v h', RM m (d + 1) 196 [.inr (.inr (some m)), .inl x1, .inl x2, .inl x3] h (some (.inl v)) h' ∧ Q v h' := by
  obtain ⟨r, h', q1, q2⟩ := RM_at (y := 196) (L := 6) (vs := [.inr (.inr (some m)), .inl x1, .inl x2, .inl x3]) (S := bm_196 m (RM m d)) (env := [some (.inr (.inr (some m))), some (.inl x1), some (.inl x2), some (.inl x3), none, none]) (rt := (some .int)) (by decide) rfl rfl rfl rfl rfl rfl (rkI Q) (fun r h q => by obtain ⟨v, rfl, q⟩ := rkI_inv q; exact trivial) hk
  obtain ⟨v, rfl, q2⟩ := rkI_inv q2
  exact ⟨v, h', q1, q2⟩
theorem go_197 {m d : Nat} {h : MS} {x1 : Int32} {x2 : Int32} (Q : MS → Prop) (hk : bm_197 m (RM m d) (fun _ _ => False) (fun _ _ => False) (rkU Q) [some (.inr (.inr (some m))), some (.inl x1), some (.inl x2)] h) : ∃ h', RM m (d + 1) 197 [.inr (.inr (some m)), .inl x1, .inl x2] h none h' ∧ Q h' := by
  obtain ⟨r, h', q1, q2⟩ := RM_at (y := 197) (L := 3) (vs := [.inr (.inr (some m)), .inl x1, .inl x2]) (S := bm_197 m (RM m d)) (env := [some (.inr (.inr (some m))), some (.inl x1), some (.inl x2)]) (rt := none) (by decide) rfl rfl rfl rfl rfl rfl (rkU Q) (fun r h q => by obtain ⟨rfl, -⟩ := rkU_inv q; exact trivial) hk
  obtain ⟨rfl, q2⟩ := rkU_inv q2
  exact ⟨h', q1, q2⟩
theorem go_198 {m d : Nat} {h : MS} {x1 : Int32} {x2 : Int32} {x3 : Int32} {x4 : Int32} (Q : Int32 → MS → Prop) (hk : bm_198 m (RM m d) (fun _ _ => False) (fun _ _ => False) (rkI Q) [some (.inr (.inr (some m))), some (.inl x1), some (.inl x2), some (.inl x3), some (.inl x4), none, none] h) : ∃ v h', RM m (d + 1) 198 [.inr (.inr (some m)), .inl x1, .inl x2, .inl x3, .inl x4] h (some (.inl v)) h' ∧ Q v h' := by
  obtain ⟨r, h', q1, q2⟩ := RM_at (y := 198) (L := 7) (vs := [.inr (.inr (some m)), .inl x1, .inl x2, .inl x3, .inl x4]) (S := bm_198 m (RM m d)) (env := [some (.inr (.inr (some m))), some (.inl x1), some (.inl x2), some (.inl x3), some (.inl x4), none, none]) (rt := (some .int)) (by decide) rfl rfl rfl rfl rfl rfl (rkI Q) (fun r h q => by obtain ⟨v, rfl, q⟩ := rkI_inv q; exact trivial) hk
  obtain ⟨v, rfl, q2⟩ := rkI_inv q2
  exact ⟨v, h', q1, q2⟩
theorem go_199 {m d : Nat} {h : MS} {x1 : Int32} {x2 : Int32} (Q : Int32 → MS → Prop) (hQ : ∀ v h, Q v h → v = 0 ∨ v = 1) (hk : bm_199 m (RM m d) (fun _ _ => False) (fun _ _ => False) (rkI Q) [some (.inr (.inr (some m))), some (.inl x1), some (.inl x2), none, none, none] h) : ∃ v h', RM m (d + 1) 199 [.inr (.inr (some m)), .inl x1, .inl x2] h (some (.inl v)) h' ∧ Q v h' := by
  obtain ⟨r, h', q1, q2⟩ := RM_at (y := 199) (L := 6) (vs := [.inr (.inr (some m)), .inl x1, .inl x2]) (S := bm_199 m (RM m d)) (env := [some (.inr (.inr (some m))), some (.inl x1), some (.inl x2), none, none, none]) (rt := (some .boolean)) (by decide) rfl rfl rfl rfl rfl rfl (rkI Q) (fun r h q => by obtain ⟨v, rfl, q⟩ := rkI_inv q; exact hQ v h q) hk
  obtain ⟨v, rfl, q2⟩ := rkI_inv q2
  exact ⟨v, h', q1, q2⟩
theorem go_200 {m d : Nat} {h : MS} {x1 : Int32} {x2 : Int32} (Q : MS → Prop) (hk : bm_200 m (RM m d) (fun _ _ => False) (fun _ _ => False) (rkU Q) [some (.inr (.inr (some m))), some (.inl x1), some (.inl x2), none, none, none, none] h) : ∃ h', RM m (d + 1) 200 [.inr (.inr (some m)), .inl x1, .inl x2] h none h' ∧ Q h' := by
  obtain ⟨r, h', q1, q2⟩ := RM_at (y := 200) (L := 7) (vs := [.inr (.inr (some m)), .inl x1, .inl x2]) (S := bm_200 m (RM m d)) (env := [some (.inr (.inr (some m))), some (.inl x1), some (.inl x2), none, none, none, none]) (rt := none) (by decide) rfl rfl rfl rfl rfl rfl (rkU Q) (fun r h q => by obtain ⟨rfl, -⟩ := rkU_inv q; exact trivial) hk
  obtain ⟨rfl, q2⟩ := rkU_inv q2
  exact ⟨h', q1, q2⟩
theorem go_201 {m d : Nat} {h : MS} {x1 : Int32} {x2 : Int32} (Q : Int32 → MS → Prop) (hk : bm_201 m (RM m d) (fun _ _ => False) (fun _ _ => False) (rkI Q) [some (.inr (.inr (some m))), some (.inl x1), some (.inl x2), none, none, none] h) : ∃ v h', RM m (d + 1) 201 [.inr (.inr (some m)), .inl x1, .inl x2] h (some (.inl v)) h' ∧ Q v h' := by
  obtain ⟨r, h', q1, q2⟩ := RM_at (y := 201) (L := 6) (vs := [.inr (.inr (some m)), .inl x1, .inl x2]) (S := bm_201 m (RM m d)) (env := [some (.inr (.inr (some m))), some (.inl x1), some (.inl x2), none, none, none]) (rt := (some .int)) (by decide) rfl rfl rfl rfl rfl rfl (rkI Q) (fun r h q => by obtain ⟨v, rfl, q⟩ := rkI_inv q; exact trivial) hk
  obtain ⟨v, rfl, q2⟩ := rkI_inv q2
  exact ⟨v, h', q1, q2⟩
theorem go_202 {m d : Nat} {h : MS} {x1 : Int32} {x2 : Int32} {x3 : Int32} {x4 : Int32} {x5 : Int64} (Q : MS → Prop) (hk : bm_202 m (RM m d) (fun _ _ => False) (fun _ _ => False) (rkU Q) [some (.inr (.inr (some m))), some (.inl x1), some (.inl x2), some (.inl x3), some (.inl x4), some (.inr (.inl x5)), none] h) : ∃ h', RM m (d + 1) 202 [.inr (.inr (some m)), .inl x1, .inl x2, .inl x3, .inl x4, .inr (.inl x5)] h none h' ∧ Q h' := by
  obtain ⟨r, h', q1, q2⟩ := RM_at (y := 202) (L := 7) (vs := [.inr (.inr (some m)), .inl x1, .inl x2, .inl x3, .inl x4, .inr (.inl x5)]) (S := bm_202 m (RM m d)) (env := [some (.inr (.inr (some m))), some (.inl x1), some (.inl x2), some (.inl x3), some (.inl x4), some (.inr (.inl x5)), none]) (rt := none) (by decide) rfl rfl rfl rfl rfl rfl (rkU Q) (fun r h q => by obtain ⟨rfl, -⟩ := rkU_inv q; exact trivial) hk
  obtain ⟨rfl, q2⟩ := rkU_inv q2
  exact ⟨h', q1, q2⟩
theorem go_203 {m d : Nat} {h : MS} {x1 : Int32} {x2 : Int32} {x3 : Int32} (Q : MS → Prop) (hk : bm_203 m (RM m d) (fun _ _ => False) (fun _ _ => False) (rkU Q) [some (.inr (.inr (some m))), some (.inl x1), some (.inl x2), some (.inl x3), none, none, none, none] h) : ∃ h', RM m (d + 1) 203 [.inr (.inr (some m)), .inl x1, .inl x2, .inl x3] h none h' ∧ Q h' := by
  obtain ⟨r, h', q1, q2⟩ := RM_at (y := 203) (L := 8) (vs := [.inr (.inr (some m)), .inl x1, .inl x2, .inl x3]) (S := bm_203 m (RM m d)) (env := [some (.inr (.inr (some m))), some (.inl x1), some (.inl x2), some (.inl x3), none, none, none, none]) (rt := none) (by decide) rfl rfl rfl rfl rfl rfl (rkU Q) (fun r h q => by obtain ⟨rfl, -⟩ := rkU_inv q; exact trivial) hk
  obtain ⟨rfl, q2⟩ := rkU_inv q2
  exact ⟨h', q1, q2⟩
theorem go_204 {m d : Nat} {h : MS} {x1 : Int32} {x2 : Int32} {x3 : Int32} (Q : Int64 → MS → Prop) (hk : bm_204 m (RM m d) (fun _ _ => False) (fun _ _ => False) (rkL Q) [some (.inr (.inr (some m))), some (.inl x1), some (.inl x2), some (.inl x3), none, none, none] h) : ∃ v h', RM m (d + 1) 204 [.inr (.inr (some m)), .inl x1, .inl x2, .inl x3] h (some (.inr (.inl v))) h' ∧ Q v h' := by
  obtain ⟨r, h', q1, q2⟩ := RM_at (y := 204) (L := 7) (vs := [.inr (.inr (some m)), .inl x1, .inl x2, .inl x3]) (S := bm_204 m (RM m d)) (env := [some (.inr (.inr (some m))), some (.inl x1), some (.inl x2), some (.inl x3), none, none, none]) (rt := (some .long)) (by decide) rfl rfl rfl rfl rfl rfl (rkL Q) (fun r h q => by obtain ⟨v, rfl, q⟩ := rkL_inv q; exact trivial) hk
  obtain ⟨v, rfl, q2⟩ := rkL_inv q2
  exact ⟨v, h', q1, q2⟩
theorem go_205 {m d : Nat} {h : MS} {x1 : Int32} {x2 : Int32} (Q : Int32 → MS → Prop) (hk : bm_205 m (RM m d) (fun _ _ => False) (fun _ _ => False) (rkI Q) [some (.inr (.inr (some m))), some (.inl x1), some (.inl x2), none, none, none, none] h) : ∃ v h', RM m (d + 1) 205 [.inr (.inr (some m)), .inl x1, .inl x2] h (some (.inl v)) h' ∧ Q v h' := by
  obtain ⟨r, h', q1, q2⟩ := RM_at (y := 205) (L := 7) (vs := [.inr (.inr (some m)), .inl x1, .inl x2]) (S := bm_205 m (RM m d)) (env := [some (.inr (.inr (some m))), some (.inl x1), some (.inl x2), none, none, none, none]) (rt := (some .int)) (by decide) rfl rfl rfl rfl rfl rfl (rkI Q) (fun r h q => by obtain ⟨v, rfl, q⟩ := rkI_inv q; exact trivial) hk
  obtain ⟨v, rfl, q2⟩ := rkI_inv q2
  exact ⟨v, h', q1, q2⟩
theorem go_206 {m d : Nat} {h : MS} {x1 : Int32} (Q : Int32 → MS → Prop) (hk : bm_206 m (RM m d) (fun _ _ => False) (fun _ _ => False) (rkI Q) [some (.inr (.inr (some m))), some (.inl x1), none] h) : ∃ v h', RM m (d + 1) 206 [.inr (.inr (some m)), .inl x1] h (some (.inl v)) h' ∧ Q v h' := by
  obtain ⟨r, h', q1, q2⟩ := RM_at (y := 206) (L := 3) (vs := [.inr (.inr (some m)), .inl x1]) (S := bm_206 m (RM m d)) (env := [some (.inr (.inr (some m))), some (.inl x1), none]) (rt := (some .int)) (by decide) rfl rfl rfl rfl rfl rfl (rkI Q) (fun r h q => by obtain ⟨v, rfl, q⟩ := rkI_inv q; exact trivial) hk
  obtain ⟨v, rfl, q2⟩ := rkI_inv q2
  exact ⟨v, h', q1, q2⟩
theorem go_207 {m d : Nat} {h : MS}  (Q : Int32 → MS → Prop) (hk : bm_207 m (RM m d) (fun _ _ => False) (fun _ _ => False) (rkI Q) [some (.inr (.inr (some m))), none] h) : ∃ v h', RM m (d + 1) 207 [.inr (.inr (some m))] h (some (.inl v)) h' ∧ Q v h' := by
  obtain ⟨r, h', q1, q2⟩ := RM_at (y := 207) (L := 2) (vs := [.inr (.inr (some m))]) (S := bm_207 m (RM m d)) (env := [some (.inr (.inr (some m))), none]) (rt := (some .int)) (by decide) rfl rfl rfl rfl rfl rfl (rkI Q) (fun r h q => by obtain ⟨v, rfl, q⟩ := rkI_inv q; exact trivial) hk
  obtain ⟨v, rfl, q2⟩ := rkI_inv q2
  exact ⟨v, h', q1, q2⟩
theorem go_208 {m d : Nat} {h : MS}  (Q : MS → Prop) (hk : bm_208 m (RM m d) (fun _ _ => False) (fun _ _ => False) (rkU Q) [some (.inr (.inr (some m))), none] h) : ∃ h', RM m (d + 1) 208 [.inr (.inr (some m))] h none h' ∧ Q h' := by
  obtain ⟨r, h', q1, q2⟩ := RM_at (y := 208) (L := 2) (vs := [.inr (.inr (some m))]) (S := bm_208 m (RM m d)) (env := [some (.inr (.inr (some m))), none]) (rt := none) (by decide) rfl rfl rfl rfl rfl rfl (rkU Q) (fun r h q => by obtain ⟨rfl, -⟩ := rkU_inv q; exact trivial) hk
  obtain ⟨rfl, q2⟩ := rkU_inv q2
  exact ⟨h', q1, q2⟩
theorem go_209 {m d : Nat} {h : MS}  (Q : Int32 → MS → Prop) (hk : bm_209 m (RM m d) (fun _ _ => False) (fun _ _ => False) (rkI Q) [some (.inr (.inr (some m))), none, none] h) : ∃ v h', RM m (d + 1) 209 [.inr (.inr (some m))] h (some (.inl v)) h' ∧ Q v h' := by
  obtain ⟨r, h', q1, q2⟩ := RM_at (y := 209) (L := 3) (vs := [.inr (.inr (some m))]) (S := bm_209 m (RM m d)) (env := [some (.inr (.inr (some m))), none, none]) (rt := (some .int)) (by decide) rfl rfl rfl rfl rfl rfl (rkI Q) (fun r h q => by obtain ⟨v, rfl, q⟩ := rkI_inv q; exact trivial) hk
  obtain ⟨v, rfl, q2⟩ := rkI_inv q2
  exact ⟨v, h', q1, q2⟩
theorem go_210 {m d : Nat} {h : MS}  (Q : Int32 → MS → Prop) (hk : bm_210 m (RM m d) (fun _ _ => False) (fun _ _ => False) (rkI Q) [some (.inr (.inr (some m))), none, none] h) : ∃ v h', RM m (d + 1) 210 [.inr (.inr (some m))] h (some (.inl v)) h' ∧ Q v h' := by
  obtain ⟨r, h', q1, q2⟩ := RM_at (y := 210) (L := 3) (vs := [.inr (.inr (some m))]) (S := bm_210 m (RM m d)) (env := [some (.inr (.inr (some m))), none, none]) (rt := (some .int)) (by decide) rfl rfl rfl rfl rfl rfl (rkI Q) (fun r h q => by obtain ⟨v, rfl, q⟩ := rkI_inv q; exact trivial) hk
  obtain ⟨v, rfl, q2⟩ := rkI_inv q2
  exact ⟨v, h', q1, q2⟩
theorem go_211 {m d : Nat} {h : MS} {x0 : Int32} (Q : Int32 → MS → Prop) (hk : bm_211 m (RM m d) (fun _ _ => False) (fun _ _ => False) (rkI Q) [some (.inl x0), none, none] h) : ∃ v h', RM m (d + 1) 211 [.inl x0] h (some (.inl v)) h' ∧ Q v h' := by
  obtain ⟨r, h', q1, q2⟩ := RM_at (y := 211) (L := 3) (vs := [.inl x0]) (S := bm_211 m (RM m d)) (env := [some (.inl x0), none, none]) (rt := (some .int)) (by decide) rfl rfl rfl rfl rfl rfl (rkI Q) (fun r h q => by obtain ⟨v, rfl, q⟩ := rkI_inv q; exact trivial) hk
  obtain ⟨v, rfl, q2⟩ := rkI_inv q2
  exact ⟨v, h', q1, q2⟩
theorem go_212 {m d : Nat} {h : MS}  (Q : Int32 → MS → Prop) (hQ : ∀ v h, Q v h → v = 0 ∨ v = 1) (hk : bm_212 m (RM m d) (fun _ _ => False) (fun _ _ => False) (rkI Q) [some (.inr (.inr (some m)))] h) : ∃ v h', RM m (d + 1) 212 [.inr (.inr (some m))] h (some (.inl v)) h' ∧ Q v h' := by
  obtain ⟨r, h', q1, q2⟩ := RM_at (y := 212) (L := 1) (vs := [.inr (.inr (some m))]) (S := bm_212 m (RM m d)) (env := [some (.inr (.inr (some m)))]) (rt := (some .boolean)) (by decide) rfl rfl rfl rfl rfl rfl (rkI Q) (fun r h q => by obtain ⟨v, rfl, q⟩ := rkI_inv q; exact hQ v h q) hk
  obtain ⟨v, rfl, q2⟩ := rkI_inv q2
  exact ⟨v, h', q1, q2⟩
theorem go_213 {m d : Nat} {h : MS}  (Q : Int32 → MS → Prop) (hk : bm_213 m (RM m d) (fun _ _ => False) (fun _ _ => False) (rkI Q) [some (.inr (.inr (some m)))] h) : ∃ v h', RM m (d + 1) 213 [.inr (.inr (some m))] h (some (.inl v)) h' ∧ Q v h' := by
  obtain ⟨r, h', q1, q2⟩ := RM_at (y := 213) (L := 1) (vs := [.inr (.inr (some m))]) (S := bm_213 m (RM m d)) (env := [some (.inr (.inr (some m)))]) (rt := (some .int)) (by decide) rfl rfl rfl rfl rfl rfl (rkI Q) (fun r h q => by obtain ⟨v, rfl, q⟩ := rkI_inv q; exact trivial) hk
  obtain ⟨v, rfl, q2⟩ := rkI_inv q2
  exact ⟨v, h', q1, q2⟩
theorem go_214 {m d : Nat} {h : MS} {x1 : Int32} (Q : Int32 → MS → Prop) (hk : bm_214 m (RM m d) (fun _ _ => False) (fun _ _ => False) (rkI Q) [some (.inr (.inr (some m))), some (.inl x1), none, none] h) : ∃ v h', RM m (d + 1) 214 [.inr (.inr (some m)), .inl x1] h (some (.inl v)) h' ∧ Q v h' := by
  obtain ⟨r, h', q1, q2⟩ := RM_at (y := 214) (L := 4) (vs := [.inr (.inr (some m)), .inl x1]) (S := bm_214 m (RM m d)) (env := [some (.inr (.inr (some m))), some (.inl x1), none, none]) (rt := (some .int)) (by decide) rfl rfl rfl rfl rfl rfl (rkI Q) (fun r h q => by obtain ⟨v, rfl, q⟩ := rkI_inv q; exact trivial) hk
  obtain ⟨v, rfl, q2⟩ := rkI_inv q2
  exact ⟨v, h', q1, q2⟩
theorem go_215 {m d : Nat} {h : MS} {x1 : Int32} (Q : MS → Prop) (hk : bm_215 m (RM m d) (fun _ _ => False) (fun _ _ => False) (rkU Q) [some (.inr (.inr (some m))), some (.inl x1), none, none] h) : ∃ h', RM m (d + 1) 215 [.inr (.inr (some m)), .inl x1] h none h' ∧ Q h' := by
  obtain ⟨r, h', q1, q2⟩ := RM_at (y := 215) (L := 4) (vs := [.inr (.inr (some m)), .inl x1]) (S := bm_215 m (RM m d)) (env := [some (.inr (.inr (some m))), some (.inl x1), none, none]) (rt := none) (by decide) rfl rfl rfl rfl rfl rfl (rkU Q) (fun r h q => by obtain ⟨rfl, -⟩ := rkU_inv q; exact trivial) hk
  obtain ⟨rfl, q2⟩ := rkU_inv q2
  exact ⟨h', q1, q2⟩
theorem go_216 {m d : Nat} {h : MS} {x1 : Int32} {x2 : Int32} {x3 : Int32} (Q : Int64 → MS → Prop) (hk : bm_216 m (RM m d) (fun _ _ => False) (fun _ _ => False) (rkL Q) [some (.inr (.inr (some m))), some (.inl x1), some (.inl x2), some (.inl x3), none, none, none] h) : ∃ v h', RM m (d + 1) 216 [.inr (.inr (some m)), .inl x1, .inl x2, .inl x3] h (some (.inr (.inl v))) h' ∧ Q v h' := by
  obtain ⟨r, h', q1, q2⟩ := RM_at (y := 216) (L := 7) (vs := [.inr (.inr (some m)), .inl x1, .inl x2, .inl x3]) (S := bm_216 m (RM m d)) (env := [some (.inr (.inr (some m))), some (.inl x1), some (.inl x2), some (.inl x3), none, none, none]) (rt := (some .long)) (by decide) rfl rfl rfl rfl rfl rfl (rkL Q) (fun r h q => by obtain ⟨v, rfl, q⟩ := rkL_inv q; exact trivial) hk
  obtain ⟨v, rfl, q2⟩ := rkL_inv q2
  exact ⟨v, h', q1, q2⟩
theorem go_217 {m d : Nat} {h : MS} {x1 : Int32} {x2 : Int32} {x3 : Int32} {x4 : Int32} (Q : MS → Prop) (hk : bm_217 m (RM m d) (fun _ _ => False) (fun _ _ => False) (rkU Q) [some (.inr (.inr (some m))), some (.inl x1), some (.inl x2), some (.inl x3), some (.inl x4), none, none, none, none] h) : ∃ h', RM m (d + 1) 217 [.inr (.inr (some m)), .inl x1, .inl x2, .inl x3, .inl x4] h none h' ∧ Q h' := by
  obtain ⟨r, h', q1, q2⟩ := RM_at (y := 217) (L := 9) (vs := [.inr (.inr (some m)), .inl x1, .inl x2, .inl x3, .inl x4]) (S := bm_217 m (RM m d)) (env := [some (.inr (.inr (some m))), some (.inl x1), some (.inl x2), some (.inl x3), some (.inl x4), none, none, none, none]) (rt := none) (by decide) rfl rfl rfl rfl rfl rfl (rkU Q) (fun r h q => by obtain ⟨rfl, -⟩ := rkU_inv q; exact trivial) hk
  obtain ⟨rfl, q2⟩ := rkU_inv q2
  exact ⟨h', q1, q2⟩
theorem go_218 {m d : Nat} {h : MS} {x1 : Int32} (Q : Int64 → MS → Prop) (hk : bm_218 m (RM m d) (fun _ _ => False) (fun _ _ => False) (rkL Q) [some (.inr (.inr (some m))), some (.inl x1), none, none, none] h) : ∃ v h', RM m (d + 1) 218 [.inr (.inr (some m)), .inl x1] h (some (.inr (.inl v))) h' ∧ Q v h' := by
  obtain ⟨r, h', q1, q2⟩ := RM_at (y := 218) (L := 5) (vs := [.inr (.inr (some m)), .inl x1]) (S := bm_218 m (RM m d)) (env := [some (.inr (.inr (some m))), some (.inl x1), none, none, none]) (rt := (some .long)) (by decide) rfl rfl rfl rfl rfl rfl (rkL Q) (fun r h q => by obtain ⟨v, rfl, q⟩ := rkL_inv q; exact trivial) hk
  obtain ⟨v, rfl, q2⟩ := rkL_inv q2
  exact ⟨v, h', q1, q2⟩
theorem go_219 {m d : Nat} {h : MS} {x1 : Int32} {x2 : Int32} {x3 : Int32} (Q : Int32 → MS → Prop) (hk : bm_219 m (RM m d) (fun _ _ => False) (fun _ _ => False) (rkI Q) [some (.inr (.inr (some m))), some (.inl x1), some (.inl x2), some (.inl x3), none, none] h) : ∃ v h', RM m (d + 1) 219 [.inr (.inr (some m)), .inl x1, .inl x2, .inl x3] h (some (.inl v)) h' ∧ Q v h' := by
  obtain ⟨r, h', q1, q2⟩ := RM_at (y := 219) (L := 6) (vs := [.inr (.inr (some m)), .inl x1, .inl x2, .inl x3]) (S := bm_219 m (RM m d)) (env := [some (.inr (.inr (some m))), some (.inl x1), some (.inl x2), some (.inl x3), none, none]) (rt := (some .int)) (by decide) rfl rfl rfl rfl rfl rfl (rkI Q) (fun r h q => by obtain ⟨v, rfl, q⟩ := rkI_inv q; exact trivial) hk
  obtain ⟨v, rfl, q2⟩ := rkI_inv q2
  exact ⟨v, h', q1, q2⟩
theorem go_220 {m d : Nat} {h : MS} {x1 : Int32} {x2 : Int32} {x3 : Int32} (Q : Int64 → MS → Prop) (hk : bm_220 m (RM m d) (fun _ _ => False) (fun _ _ => False) (rkL Q) [some (.inr (.inr (some m))), some (.inl x1), some (.inl x2), some (.inl x3), none, none, none, none] h) : ∃ v h', RM m (d + 1) 220 [.inr (.inr (some m)), .inl x1, .inl x2, .inl x3] h (some (.inr (.inl v))) h' ∧ Q v h' := by
  obtain ⟨r, h', q1, q2⟩ := RM_at (y := 220) (L := 8) (vs := [.inr (.inr (some m)), .inl x1, .inl x2, .inl x3]) (S := bm_220 m (RM m d)) (env := [some (.inr (.inr (some m))), some (.inl x1), some (.inl x2), some (.inl x3), none, none, none, none]) (rt := (some .long)) (by decide) rfl rfl rfl rfl rfl rfl (rkL Q) (fun r h q => by obtain ⟨v, rfl, q⟩ := rkL_inv q; exact trivial) hk
  obtain ⟨v, rfl, q2⟩ := rkL_inv q2
  exact ⟨v, h', q1, q2⟩
theorem go_221 {m d : Nat} {h : MS} {x1 : Int32} {x2 : Int32} {x3 : Int32} {x4 : Int32} (Q : Int64 → MS → Prop) (hk : bm_221 m (RM m d) (fun _ _ => False) (fun _ _ => False) (rkL Q) [some (.inr (.inr (some m))), some (.inl x1), some (.inl x2), some (.inl x3), some (.inl x4)] h) : ∃ v h', RM m (d + 1) 221 [.inr (.inr (some m)), .inl x1, .inl x2, .inl x3, .inl x4] h (some (.inr (.inl v))) h' ∧ Q v h' := by
  obtain ⟨r, h', q1, q2⟩ := RM_at (y := 221) (L := 5) (vs := [.inr (.inr (some m)), .inl x1, .inl x2, .inl x3, .inl x4]) (S := bm_221 m (RM m d)) (env := [some (.inr (.inr (some m))), some (.inl x1), some (.inl x2), some (.inl x3), some (.inl x4)]) (rt := (some .long)) (by decide) rfl rfl rfl rfl rfl rfl (rkL Q) (fun r h q => by obtain ⟨v, rfl, q⟩ := rkL_inv q; exact trivial) hk
  obtain ⟨v, rfl, q2⟩ := rkL_inv q2
  exact ⟨v, h', q1, q2⟩
theorem go_222 {m d : Nat} {h : MS}  (Q : Int32 → MS → Prop) (hk : bm_222 m (RM m d) (fun _ _ => False) (fun _ _ => False) (rkI Q) [some (.inr (.inr (some m)))] h) : ∃ v h', RM m (d + 1) 222 [.inr (.inr (some m))] h (some (.inl v)) h' ∧ Q v h' := by
  obtain ⟨r, h', q1, q2⟩ := RM_at (y := 222) (L := 1) (vs := [.inr (.inr (some m))]) (S := bm_222 m (RM m d)) (env := [some (.inr (.inr (some m)))]) (rt := (some .int)) (by decide) rfl rfl rfl rfl rfl rfl (rkI Q) (fun r h q => by obtain ⟨v, rfl, q⟩ := rkI_inv q; exact trivial) hk
  obtain ⟨v, rfl, q2⟩ := rkI_inv q2
  exact ⟨v, h', q1, q2⟩
theorem go_223 {m d : Nat} {h : MS}  (Q : MS → Prop) (hk : bm_223 m (RM m d) (fun _ _ => False) (fun _ _ => False) (rkU Q) [some (.inr (.inr (some m))), none, none, none] h) : ∃ h', RM m (d + 1) 223 [.inr (.inr (some m))] h none h' ∧ Q h' := by
  obtain ⟨r, h', q1, q2⟩ := RM_at (y := 223) (L := 4) (vs := [.inr (.inr (some m))]) (S := bm_223 m (RM m d)) (env := [some (.inr (.inr (some m))), none, none, none]) (rt := none) (by decide) rfl rfl rfl rfl rfl rfl (rkU Q) (fun r h q => by obtain ⟨rfl, -⟩ := rkU_inv q; exact trivial) hk
  obtain ⟨rfl, q2⟩ := rkU_inv q2
  exact ⟨h', q1, q2⟩
theorem go_224 {m d : Nat} {h : MS} {x1 : Int32} (Q : Int32 → MS → Prop) (hk : bm_224 m (RM m d) (fun _ _ => False) (fun _ _ => False) (rkI Q) [some (.inr (.inr (some m))), some (.inl x1), none, none, none, none, none] h) : ∃ v h', RM m (d + 1) 224 [.inr (.inr (some m)), .inl x1] h (some (.inl v)) h' ∧ Q v h' := by
  obtain ⟨r, h', q1, q2⟩ := RM_at (y := 224) (L := 7) (vs := [.inr (.inr (some m)), .inl x1]) (S := bm_224 m (RM m d)) (env := [some (.inr (.inr (some m))), some (.inl x1), none, none, none, none, none]) (rt := (some .int)) (by decide) rfl rfl rfl rfl rfl rfl (rkI Q) (fun r h q => by obtain ⟨v, rfl, q⟩ := rkI_inv q; exact trivial) hk
  obtain ⟨v, rfl, q2⟩ := rkI_inv q2
  exact ⟨v, h', q1, q2⟩
theorem go_225 {m d : Nat} {h : MS} {x1 : Int32} (Q : MS → Prop) (hk : bm_225 m (RM m d) (fun _ _ => False) (fun _ _ => False) (rkU Q) [some (.inr (.inr (some m))), some (.inl x1), none, none, none] h) : ∃ h', RM m (d + 1) 225 [.inr (.inr (some m)), .inl x1] h none h' ∧ Q h' := by
  obtain ⟨r, h', q1, q2⟩ := RM_at (y := 225) (L := 5) (vs := [.inr (.inr (some m)), .inl x1]) (S := bm_225 m (RM m d)) (env := [some (.inr (.inr (some m))), some (.inl x1), none, none, none]) (rt := none) (by decide) rfl rfl rfl rfl rfl rfl (rkU Q) (fun r h q => by obtain ⟨rfl, -⟩ := rkU_inv q; exact trivial) hk
  obtain ⟨rfl, q2⟩ := rkU_inv q2
  exact ⟨h', q1, q2⟩
theorem go_226 {m d : Nat} {h : MS} {x0 : Int32} {x1 : Int32} (Q : Int32 → MS → Prop) (hQ : ∀ v h, Q v h → v = 0 ∨ v = 1) (hk : bm_226 m (RM m d) (fun _ _ => False) (fun _ _ => False) (rkI Q) [some (.inl x0), some (.inl x1)] h) : ∃ v h', RM m (d + 1) 226 [.inl x0, .inl x1] h (some (.inl v)) h' ∧ Q v h' := by
  obtain ⟨r, h', q1, q2⟩ := RM_at (y := 226) (L := 2) (vs := [.inl x0, .inl x1]) (S := bm_226 m (RM m d)) (env := [some (.inl x0), some (.inl x1)]) (rt := (some .boolean)) (by decide) rfl rfl rfl rfl rfl rfl (rkI Q) (fun r h q => by obtain ⟨v, rfl, q⟩ := rkI_inv q; exact hQ v h q) hk
  obtain ⟨v, rfl, q2⟩ := rkI_inv q2
  exact ⟨v, h', q1, q2⟩
theorem go_227 {m d : Nat} {h : MS} {x1 : Int32} {x2 : Int32} (Q : Int32 → MS → Prop) (hk : bm_227 m (RM m d) (fun _ _ => False) (fun _ _ => False) (rkI Q) [some (.inr (.inr (some m))), some (.inl x1), some (.inl x2), none, none] h) : ∃ v h', RM m (d + 1) 227 [.inr (.inr (some m)), .inl x1, .inl x2] h (some (.inl v)) h' ∧ Q v h' := by
  obtain ⟨r, h', q1, q2⟩ := RM_at (y := 227) (L := 5) (vs := [.inr (.inr (some m)), .inl x1, .inl x2]) (S := bm_227 m (RM m d)) (env := [some (.inr (.inr (some m))), some (.inl x1), some (.inl x2), none, none]) (rt := (some .int)) (by decide) rfl rfl rfl rfl rfl rfl (rkI Q) (fun r h q => by obtain ⟨v, rfl, q⟩ := rkI_inv q; exact trivial) hk
  obtain ⟨v, rfl, q2⟩ := rkI_inv q2
  exact ⟨v, h', q1, q2⟩
theorem go_228 {m d : Nat} {h : MS} {x0 : Int64} {x1 : Int64} (Q : Int64 → MS → Prop) (hk : bm_228 m (RM m d) (fun _ _ => False) (fun _ _ => False) (rkL Q) [some (.inr (.inl x0)), none, some (.inr (.inl x1)), none, none, none, none, none, none, none] h) : ∃ v h', RM m (d + 1) 228 [.inr (.inl x0), .inr (.inl x1)] h (some (.inr (.inl v))) h' ∧ Q v h' := by
  obtain ⟨r, h', q1, q2⟩ := RM_at (y := 228) (L := 10) (vs := [.inr (.inl x0), .inr (.inl x1)]) (S := bm_228 m (RM m d)) (env := [some (.inr (.inl x0)), none, some (.inr (.inl x1)), none, none, none, none, none, none, none]) (rt := (some .long)) (by decide) rfl rfl rfl rfl rfl rfl (rkL Q) (fun r h q => by obtain ⟨v, rfl, q⟩ := rkL_inv q; exact trivial) hk
  obtain ⟨v, rfl, q2⟩ := rkL_inv q2
  exact ⟨v, h', q1, q2⟩
theorem go_229 {m d : Nat} {h : MS} {x0 : Int64} {x1 : Int64} {x2 : Int64} {x3 : Int64} (Q : Int32 → MS → Prop) (hQ : ∀ v h, Q v h → v = 0 ∨ v = 1) (hk : bm_229 m (RM m d) (fun _ _ => False) (fun _ _ => False) (rkI Q) [some (.inr (.inl x0)), none, some (.inr (.inl x1)), none, some (.inr (.inl x2)), none, some (.inr (.inl x3)), none, none, none, none, none, none, none, none, none, none, none, none, none, none, none, none, none, none] h) : ∃ v h', RM m (d + 1) 229 [.inr (.inl x0), .inr (.inl x1), .inr (.inl x2), .inr (.inl x3)] h (some (.inl v)) h' ∧ Q v h' := by
  obtain ⟨r, h', q1, q2⟩ := RM_at (y := 229) (L := 25) (vs := [.inr (.inl x0), .inr (.inl x1), .inr (.inl x2), .inr (.inl x3)]) (S := bm_229 m (RM m d)) (env := [some (.inr (.inl x0)), none, some (.inr (.inl x1)), none, some (.inr (.inl x2)), none, some (.inr (.inl x3)), none, none, none, none, none, none, none, none, none, none, none, none, none, none, none, none, none, none]) (rt := (some .boolean)) (by decide) rfl rfl rfl rfl rfl rfl (rkI Q) (fun r h q => by obtain ⟨v, rfl, q⟩ := rkI_inv q; exact hQ v h q) hk
  obtain ⟨v, rfl, q2⟩ := rkI_inv q2
  exact ⟨v, h', q1, q2⟩
theorem go_230 {m d : Nat} {h : MS} {x1 : Int32} (Q : Int64 → MS → Prop) (hk : bm_230 m (RM m d) (fun _ _ => False) (fun _ _ => False) (rkL Q) [some (.inr (.inr (some m))), some (.inl x1), none, none, none, none, none] h) : ∃ v h', RM m (d + 1) 230 [.inr (.inr (some m)), .inl x1] h (some (.inr (.inl v))) h' ∧ Q v h' := by
  obtain ⟨r, h', q1, q2⟩ := RM_at (y := 230) (L := 7) (vs := [.inr (.inr (some m)), .inl x1]) (S := bm_230 m (RM m d)) (env := [some (.inr (.inr (some m))), some (.inl x1), none, none, none, none, none]) (rt := (some .long)) (by decide) rfl rfl rfl rfl rfl rfl (rkL Q) (fun r h q => by obtain ⟨v, rfl, q⟩ := rkL_inv q; exact trivial) hk
  obtain ⟨v, rfl, q2⟩ := rkL_inv q2
  exact ⟨v, h', q1, q2⟩
theorem go_231 {m d : Nat} {h : MS} {x1 : Int32} {x2 : Int32} {x3 : Int32} (Q : Int64 → MS → Prop) (hk : bm_231 m (RM m d) (fun _ _ => False) (fun _ _ => False) (rkL Q) [some (.inr (.inr (some m))), some (.inl x1), some (.inl x2), some (.inl x3), none, none, none, none, none, none, none, none, none, none] h) : ∃ v h', RM m (d + 1) 231 [.inr (.inr (some m)), .inl x1, .inl x2, .inl x3] h (some (.inr (.inl v))) h' ∧ Q v h' := by
  obtain ⟨r, h', q1, q2⟩ := RM_at (y := 231) (L := 14) (vs := [.inr (.inr (some m)), .inl x1, .inl x2, .inl x3]) (S := bm_231 m (RM m d)) (env := [some (.inr (.inr (some m))), some (.inl x1), some (.inl x2), some (.inl x3), none, none, none, none, none, none, none, none, none, none]) (rt := (some .long)) (by decide) rfl rfl rfl rfl rfl rfl (rkL Q) (fun r h q => by obtain ⟨v, rfl, q⟩ := rkL_inv q; exact trivial) hk
  obtain ⟨v, rfl, q2⟩ := rkL_inv q2
  exact ⟨v, h', q1, q2⟩
theorem go_232 {m d : Nat} {h : MS}  (Q : Int32 → MS → Prop) (hk : bm_232 m (RM m d) (fun _ _ => False) (fun _ _ => False) (rkI Q) [some (.inr (.inr (some m))), none, none, none] h) : ∃ v h', RM m (d + 1) 232 [.inr (.inr (some m))] h (some (.inl v)) h' ∧ Q v h' := by
  obtain ⟨r, h', q1, q2⟩ := RM_at (y := 232) (L := 4) (vs := [.inr (.inr (some m))]) (S := bm_232 m (RM m d)) (env := [some (.inr (.inr (some m))), none, none, none]) (rt := (some .int)) (by decide) rfl rfl rfl rfl rfl rfl (rkI Q) (fun r h q => by obtain ⟨v, rfl, q⟩ := rkI_inv q; exact trivial) hk
  obtain ⟨v, rfl, q2⟩ := rkI_inv q2
  exact ⟨v, h', q1, q2⟩
theorem go_233 {m d : Nat} {h : MS}  (Q : Int32 → MS → Prop) (hk : bm_233 m (RM m d) (fun _ _ => False) (fun _ _ => False) (rkI Q) [some (.inr (.inr (some m)))] h) : ∃ v h', RM m (d + 1) 233 [.inr (.inr (some m))] h (some (.inl v)) h' ∧ Q v h' := by
  obtain ⟨r, h', q1, q2⟩ := RM_at (y := 233) (L := 1) (vs := [.inr (.inr (some m))]) (S := bm_233 m (RM m d)) (env := [some (.inr (.inr (some m)))]) (rt := (some .int)) (by decide) rfl rfl rfl rfl rfl rfl (rkI Q) (fun r h q => by obtain ⟨v, rfl, q⟩ := rkI_inv q; exact trivial) hk
  obtain ⟨v, rfl, q2⟩ := rkI_inv q2
  exact ⟨v, h', q1, q2⟩
theorem go_234 {m d : Nat} {h : MS}  (Q : Int64 → MS → Prop) (hk : bm_234 m (RM m d) (fun _ _ => False) (fun _ _ => False) (rkL Q) [some (.inr (.inr (some m))), none, none, none, none, none, none] h) : ∃ v h', RM m (d + 1) 234 [.inr (.inr (some m))] h (some (.inr (.inl v))) h' ∧ Q v h' := by
  obtain ⟨r, h', q1, q2⟩ := RM_at (y := 234) (L := 7) (vs := [.inr (.inr (some m))]) (S := bm_234 m (RM m d)) (env := [some (.inr (.inr (some m))), none, none, none, none, none, none]) (rt := (some .long)) (by decide) rfl rfl rfl rfl rfl rfl (rkL Q) (fun r h q => by obtain ⟨v, rfl, q⟩ := rkL_inv q; exact trivial) hk
  obtain ⟨v, rfl, q2⟩ := rkL_inv q2
  exact ⟨v, h', q1, q2⟩
theorem go_235 {m d : Nat} {h : MS} {x1 : Int32} {x2 : Int32} (Q : Int64 → MS → Prop) (hk : bm_235 m (RM m d) (fun _ _ => False) (fun _ _ => False) (rkL Q) [some (.inr (.inr (some m))), some (.inl x1), some (.inl x2), none, none] h) : ∃ v h', RM m (d + 1) 235 [.inr (.inr (some m)), .inl x1, .inl x2] h (some (.inr (.inl v))) h' ∧ Q v h' := by
  obtain ⟨r, h', q1, q2⟩ := RM_at (y := 235) (L := 5) (vs := [.inr (.inr (some m)), .inl x1, .inl x2]) (S := bm_235 m (RM m d)) (env := [some (.inr (.inr (some m))), some (.inl x1), some (.inl x2), none, none]) (rt := (some .long)) (by decide) rfl rfl rfl rfl rfl rfl (rkL Q) (fun r h q => by obtain ⟨v, rfl, q⟩ := rkL_inv q; exact trivial) hk
  obtain ⟨v, rfl, q2⟩ := rkL_inv q2
  exact ⟨v, h', q1, q2⟩
theorem go_236 {m d : Nat} {h : MS} {x1 : Int32} {x2 : Int32} {x3 : Int32} (Q : Int64 → MS → Prop) (hk : bm_236 m (RM m d) (fun _ _ => False) (fun _ _ => False) (rkL Q) [some (.inr (.inr (some m))), some (.inl x1), some (.inl x2), some (.inl x3), none, none, none, none, none, none, none, none] h) : ∃ v h', RM m (d + 1) 236 [.inr (.inr (some m)), .inl x1, .inl x2, .inl x3] h (some (.inr (.inl v))) h' ∧ Q v h' := by
  obtain ⟨r, h', q1, q2⟩ := RM_at (y := 236) (L := 12) (vs := [.inr (.inr (some m)), .inl x1, .inl x2, .inl x3]) (S := bm_236 m (RM m d)) (env := [some (.inr (.inr (some m))), some (.inl x1), some (.inl x2), some (.inl x3), none, none, none, none, none, none, none, none]) (rt := (some .long)) (by decide) rfl rfl rfl rfl rfl rfl (rkL Q) (fun r h q => by obtain ⟨v, rfl, q⟩ := rkL_inv q; exact trivial) hk
  obtain ⟨v, rfl, q2⟩ := rkL_inv q2
  exact ⟨v, h', q1, q2⟩
theorem go_237 {m d : Nat} {h : MS}  (Q : Int32 → MS → Prop) (hk : bm_237 m (RM m d) (fun _ _ => False) (fun _ _ => False) (rkI Q) [some (.inr (.inr (some m))), none, none] h) : ∃ v h', RM m (d + 1) 237 [.inr (.inr (some m))] h (some (.inl v)) h' ∧ Q v h' := by
  obtain ⟨r, h', q1, q2⟩ := RM_at (y := 237) (L := 3) (vs := [.inr (.inr (some m))]) (S := bm_237 m (RM m d)) (env := [some (.inr (.inr (some m))), none, none]) (rt := (some .int)) (by decide) rfl rfl rfl rfl rfl rfl (rkI Q) (fun r h q => by obtain ⟨v, rfl, q⟩ := rkI_inv q; exact trivial) hk
  obtain ⟨v, rfl, q2⟩ := rkI_inv q2
  exact ⟨v, h', q1, q2⟩
theorem go_238 {m d : Nat} {h : MS}  (Q : Int32 → MS → Prop) (hk : bm_238 m (RM m d) (fun _ _ => False) (fun _ _ => False) (rkI Q) [some (.inr (.inr (some m)))] h) : ∃ v h', RM m (d + 1) 238 [.inr (.inr (some m))] h (some (.inl v)) h' ∧ Q v h' := by
  obtain ⟨r, h', q1, q2⟩ := RM_at (y := 238) (L := 1) (vs := [.inr (.inr (some m))]) (S := bm_238 m (RM m d)) (env := [some (.inr (.inr (some m)))]) (rt := (some .int)) (by decide) rfl rfl rfl rfl rfl rfl (rkI Q) (fun r h q => by obtain ⟨v, rfl, q⟩ := rkI_inv q; exact trivial) hk
  obtain ⟨v, rfl, q2⟩ := rkI_inv q2
  exact ⟨v, h', q1, q2⟩
theorem go_239 {m d : Nat} {h : MS}  (Q : Int32 → MS → Prop) (hk : bm_239 m (RM m d) (fun _ _ => False) (fun _ _ => False) (rkI Q) [some (.inr (.inr (some m)))] h) : ∃ v h', RM m (d + 1) 239 [.inr (.inr (some m))] h (some (.inl v)) h' ∧ Q v h' := by
  obtain ⟨r, h', q1, q2⟩ := RM_at (y := 239) (L := 1) (vs := [.inr (.inr (some m))]) (S := bm_239 m (RM m d)) (env := [some (.inr (.inr (some m)))]) (rt := (some .int)) (by decide) rfl rfl rfl rfl rfl rfl (rkI Q) (fun r h q => by obtain ⟨v, rfl, q⟩ := rkI_inv q; exact trivial) hk
  obtain ⟨v, rfl, q2⟩ := rkI_inv q2
  exact ⟨v, h', q1, q2⟩
theorem go_240 {m d : Nat} {h : MS} {x1 : Int32} (Q : MS → Prop) (hk : bm_240 m (RM m d) (fun _ _ => False) (fun _ _ => False) (rkU Q) [some (.inr (.inr (some m))), some (.inl x1)] h) : ∃ h', RM m (d + 1) 240 [.inr (.inr (some m)), .inl x1] h none h' ∧ Q h' := by
  obtain ⟨r, h', q1, q2⟩ := RM_at (y := 240) (L := 2) (vs := [.inr (.inr (some m)), .inl x1]) (S := bm_240 m (RM m d)) (env := [some (.inr (.inr (some m))), some (.inl x1)]) (rt := none) (by decide) rfl rfl rfl rfl rfl rfl (rkU Q) (fun r h q => by obtain ⟨rfl, -⟩ := rkU_inv q; exact trivial) hk
  obtain ⟨rfl, q2⟩ := rkU_inv q2
  exact ⟨h', q1, q2⟩
theorem go_241 {m d : Nat} {h : MS} {x1 : Int32} {x2 : Int32} (Q : Int32 → MS → Prop) (hk : bm_241 m (RM m d) (fun _ _ => False) (fun _ _ => False) (rkI Q) [some (.inr (.inr (some m))), some (.inl x1), some (.inl x2), none] h) : ∃ v h', RM m (d + 1) 241 [.inr (.inr (some m)), .inl x1, .inl x2] h (some (.inl v)) h' ∧ Q v h' := by
  obtain ⟨r, h', q1, q2⟩ := RM_at (y := 241) (L := 4) (vs := [.inr (.inr (some m)), .inl x1, .inl x2]) (S := bm_241 m (RM m d)) (env := [some (.inr (.inr (some m))), some (.inl x1), some (.inl x2), none]) (rt := (some .int)) (by decide) rfl rfl rfl rfl rfl rfl (rkI Q) (fun r h q => by obtain ⟨v, rfl, q⟩ := rkI_inv q; exact trivial) hk
  obtain ⟨v, rfl, q2⟩ := rkI_inv q2
  exact ⟨v, h', q1, q2⟩
theorem go_242 {m d : Nat} {h : MS} {x1 : Int32} (Q : Int32 → MS → Prop) (hk : bm_242 m (RM m d) (fun _ _ => False) (fun _ _ => False) (rkI Q) [some (.inr (.inr (some m))), some (.inl x1), none] h) : ∃ v h', RM m (d + 1) 242 [.inr (.inr (some m)), .inl x1] h (some (.inl v)) h' ∧ Q v h' := by
  obtain ⟨r, h', q1, q2⟩ := RM_at (y := 242) (L := 3) (vs := [.inr (.inr (some m)), .inl x1]) (S := bm_242 m (RM m d)) (env := [some (.inr (.inr (some m))), some (.inl x1), none]) (rt := (some .int)) (by decide) rfl rfl rfl rfl rfl rfl (rkI Q) (fun r h q => by obtain ⟨v, rfl, q⟩ := rkI_inv q; exact trivial) hk
  obtain ⟨v, rfl, q2⟩ := rkI_inv q2
  exact ⟨v, h', q1, q2⟩
theorem go_243 {m d : Nat} {h : MS} {x1 : Int32} (Q : Int32 → MS → Prop) (hk : bm_243 m (RM m d) (fun _ _ => False) (fun _ _ => False) (rkI Q) [some (.inr (.inr (some m))), some (.inl x1), none] h) : ∃ v h', RM m (d + 1) 243 [.inr (.inr (some m)), .inl x1] h (some (.inl v)) h' ∧ Q v h' := by
  obtain ⟨r, h', q1, q2⟩ := RM_at (y := 243) (L := 3) (vs := [.inr (.inr (some m)), .inl x1]) (S := bm_243 m (RM m d)) (env := [some (.inr (.inr (some m))), some (.inl x1), none]) (rt := (some .int)) (by decide) rfl rfl rfl rfl rfl rfl (rkI Q) (fun r h q => by obtain ⟨v, rfl, q⟩ := rkI_inv q; exact trivial) hk
  obtain ⟨v, rfl, q2⟩ := rkI_inv q2
  exact ⟨v, h', q1, q2⟩
theorem go_244 {m d : Nat} {h : MS}  (Q : MS → Prop) (hk : bm_244 m (RM m d) (fun _ _ => False) (fun _ _ => False) (rkU Q) [some (.inr (.inr (some m))), none, none] h) : ∃ h', RM m (d + 1) 244 [.inr (.inr (some m))] h none h' ∧ Q h' := by
  obtain ⟨r, h', q1, q2⟩ := RM_at (y := 244) (L := 3) (vs := [.inr (.inr (some m))]) (S := bm_244 m (RM m d)) (env := [some (.inr (.inr (some m))), none, none]) (rt := none) (by decide) rfl rfl rfl rfl rfl rfl (rkU Q) (fun r h q => by obtain ⟨rfl, -⟩ := rkU_inv q; exact trivial) hk
  obtain ⟨rfl, q2⟩ := rkU_inv q2
  exact ⟨h', q1, q2⟩
theorem go_245 {m d : Nat} {h : MS} {x1 : Int32} {x2 : Int32} {x3 : Int32} (Q : Int32 → MS → Prop) (hQ : ∀ v h, Q v h → v = 0 ∨ v = 1) (hk : bm_245 m (RM m d) (fun _ _ => False) (fun _ _ => False) (rkI Q) [some (.inr (.inr (some m))), some (.inl x1), some (.inl x2), some (.inl x3), none] h) : ∃ v h', RM m (d + 1) 245 [.inr (.inr (some m)), .inl x1, .inl x2, .inl x3] h (some (.inl v)) h' ∧ Q v h' := by
  obtain ⟨r, h', q1, q2⟩ := RM_at (y := 245) (L := 5) (vs := [.inr (.inr (some m)), .inl x1, .inl x2, .inl x3]) (S := bm_245 m (RM m d)) (env := [some (.inr (.inr (some m))), some (.inl x1), some (.inl x2), some (.inl x3), none]) (rt := (some .boolean)) (by decide) rfl rfl rfl rfl rfl rfl (rkI Q) (fun r h q => by obtain ⟨v, rfl, q⟩ := rkI_inv q; exact hQ v h q) hk
  obtain ⟨v, rfl, q2⟩ := rkI_inv q2
  exact ⟨v, h', q1, q2⟩
theorem go_246 {m d : Nat} {h : MS} {x1 : Int32} {x2 : Int32} {x3 : Int32} (Q : Int32 → MS → Prop) (hQ : ∀ v h, Q v h → v = 0 ∨ v = 1) (hk : bm_246 m (RM m d) (fun _ _ => False) (fun _ _ => False) (rkI Q) [some (.inr (.inr (some m))), some (.inl x1), some (.inl x2), some (.inl x3), none, none, none] h) : ∃ v h', RM m (d + 1) 246 [.inr (.inr (some m)), .inl x1, .inl x2, .inl x3] h (some (.inl v)) h' ∧ Q v h' := by
  obtain ⟨r, h', q1, q2⟩ := RM_at (y := 246) (L := 7) (vs := [.inr (.inr (some m)), .inl x1, .inl x2, .inl x3]) (S := bm_246 m (RM m d)) (env := [some (.inr (.inr (some m))), some (.inl x1), some (.inl x2), some (.inl x3), none, none, none]) (rt := (some .boolean)) (by decide) rfl rfl rfl rfl rfl rfl (rkI Q) (fun r h q => by obtain ⟨v, rfl, q⟩ := rkI_inv q; exact hQ v h q) hk
  obtain ⟨v, rfl, q2⟩ := rkI_inv q2
  exact ⟨v, h', q1, q2⟩
theorem go_247 {m d : Nat} {h : MS} {x1 : Int32} (Q : Int32 → MS → Prop) (hQ : ∀ v h, Q v h → v = 0 ∨ v = 1) (hk : bm_247 m (RM m d) (fun _ _ => False) (fun _ _ => False) (rkI Q) [some (.inr (.inr (some m))), some (.inl x1), none, none] h) : ∃ v h', RM m (d + 1) 247 [.inr (.inr (some m)), .inl x1] h (some (.inl v)) h' ∧ Q v h' := by
  obtain ⟨r, h', q1, q2⟩ := RM_at (y := 247) (L := 4) (vs := [.inr (.inr (some m)), .inl x1]) (S := bm_247 m (RM m d)) (env := [some (.inr (.inr (some m))), some (.inl x1), none, none]) (rt := (some .boolean)) (by decide) rfl rfl rfl rfl rfl rfl (rkI Q) (fun r h q => by obtain ⟨v, rfl, q⟩ := rkI_inv q; exact hQ v h q) hk
  obtain ⟨v, rfl, q2⟩ := rkI_inv q2
  exact ⟨v, h', q1, q2⟩
theorem go_248 {m d : Nat} {h : MS}  (Q : Int32 → MS → Prop) (hk : bm_248 m (RM m d) (fun _ _ => False) (fun _ _ => False) (rkI Q) [some (.inr (.inr (some m))), none, none] h) : ∃ v h', RM m (d + 1) 248 [.inr (.inr (some m))] h (some (.inl v)) h' ∧ Q v h' := by
  obtain ⟨r, h', q1, q2⟩ := RM_at (y := 248) (L := 3) (vs := [.inr (.inr (some m))]) (S := bm_248 m (RM m d)) (env := [some (.inr (.inr (some m))), none, none]) (rt := (some .int)) (by decide) rfl rfl rfl rfl rfl rfl (rkI Q) (fun r h q => by obtain ⟨v, rfl, q⟩ := rkI_inv q; exact trivial) hk
  obtain ⟨v, rfl, q2⟩ := rkI_inv q2
  exact ⟨v, h', q1, q2⟩
theorem go_249 {m d : Nat} {h : MS} {x1 : Int32} (Q : Int32 → MS → Prop) (hk : bm_249 m (RM m d) (fun _ _ => False) (fun _ _ => False) (rkI Q) [some (.inr (.inr (some m))), some (.inl x1), none] h) : ∃ v h', RM m (d + 1) 249 [.inr (.inr (some m)), .inl x1] h (some (.inl v)) h' ∧ Q v h' := by
  obtain ⟨r, h', q1, q2⟩ := RM_at (y := 249) (L := 3) (vs := [.inr (.inr (some m)), .inl x1]) (S := bm_249 m (RM m d)) (env := [some (.inr (.inr (some m))), some (.inl x1), none]) (rt := (some .int)) (by decide) rfl rfl rfl rfl rfl rfl (rkI Q) (fun r h q => by obtain ⟨v, rfl, q⟩ := rkI_inv q; exact trivial) hk
  obtain ⟨v, rfl, q2⟩ := rkI_inv q2
  exact ⟨v, h', q1, q2⟩
theorem go_250 {m d : Nat} {h : MS} {x1 : Int32} (Q : Int32 → MS → Prop) (hQ : ∀ v h, Q v h → v = 0 ∨ v = 1) (hk : bm_250 m (RM m d) (fun _ _ => False) (fun _ _ => False) (rkI Q) [some (.inr (.inr (some m))), some (.inl x1), none] h) : ∃ v h', RM m (d + 1) 250 [.inr (.inr (some m)), .inl x1] h (some (.inl v)) h' ∧ Q v h' := by
  obtain ⟨r, h', q1, q2⟩ := RM_at (y := 250) (L := 3) (vs := [.inr (.inr (some m)), .inl x1]) (S := bm_250 m (RM m d)) (env := [some (.inr (.inr (some m))), some (.inl x1), none]) (rt := (some .boolean)) (by decide) rfl rfl rfl rfl rfl rfl (rkI Q) (fun r h q => by obtain ⟨v, rfl, q⟩ := rkI_inv q; exact hQ v h q) hk
  obtain ⟨v, rfl, q2⟩ := rkI_inv q2
  exact ⟨v, h', q1, q2⟩
theorem go_251 {m d : Nat} {h : MS} {x1 : Int32} (Q : Int32 → MS → Prop) (hk : bm_251 m (RM m d) (fun _ _ => False) (fun _ _ => False) (rkI Q) [some (.inr (.inr (some m))), some (.inl x1)] h) : ∃ v h', RM m (d + 1) 251 [.inr (.inr (some m)), .inl x1] h (some (.inl v)) h' ∧ Q v h' := by
  obtain ⟨r, h', q1, q2⟩ := RM_at (y := 251) (L := 2) (vs := [.inr (.inr (some m)), .inl x1]) (S := bm_251 m (RM m d)) (env := [some (.inr (.inr (some m))), some (.inl x1)]) (rt := (some .int)) (by decide) rfl rfl rfl rfl rfl rfl (rkI Q) (fun r h q => by obtain ⟨v, rfl, q⟩ := rkI_inv q; exact trivial) hk
  obtain ⟨v, rfl, q2⟩ := rkI_inv q2
  exact ⟨v, h', q1, q2⟩
theorem go_252 {m d : Nat} {h : MS} {x1 : Int32} (Q : Int32 → MS → Prop) (hk : bm_252 m (RM m d) (fun _ _ => False) (fun _ _ => False) (rkI Q) [some (.inr (.inr (some m))), some (.inl x1), none] h) : ∃ v h', RM m (d + 1) 252 [.inr (.inr (some m)), .inl x1] h (some (.inl v)) h' ∧ Q v h' := by
  obtain ⟨r, h', q1, q2⟩ := RM_at (y := 252) (L := 3) (vs := [.inr (.inr (some m)), .inl x1]) (S := bm_252 m (RM m d)) (env := [some (.inr (.inr (some m))), some (.inl x1), none]) (rt := (some .int)) (by decide) rfl rfl rfl rfl rfl rfl (rkI Q) (fun r h q => by obtain ⟨v, rfl, q⟩ := rkI_inv q; exact trivial) hk
  obtain ⟨v, rfl, q2⟩ := rkI_inv q2
  exact ⟨v, h', q1, q2⟩
theorem go_253 {m d : Nat} {h : MS} {x1 : Int32} (Q : MS → Prop) (hk : bm_253 m (RM m d) (fun _ _ => False) (fun _ _ => False) (rkU Q) [some (.inr (.inr (some m))), some (.inl x1), none, none] h) : ∃ h', RM m (d + 1) 253 [.inr (.inr (some m)), .inl x1] h none h' ∧ Q h' := by
  obtain ⟨r, h', q1, q2⟩ := RM_at (y := 253) (L := 4) (vs := [.inr (.inr (some m)), .inl x1]) (S := bm_253 m (RM m d)) (env := [some (.inr (.inr (some m))), some (.inl x1), none, none]) (rt := none) (by decide) rfl rfl rfl rfl rfl rfl (rkU Q) (fun r h q => by obtain ⟨rfl, -⟩ := rkU_inv q; exact trivial) hk
  obtain ⟨rfl, q2⟩ := rkU_inv q2
  exact ⟨h', q1, q2⟩
theorem go_254 {m d : Nat} {h : MS}  (Q : Int32 → MS → Prop) (hk : bm_254 m (RM m d) (fun _ _ => False) (fun _ _ => False) (rkI Q) [some (.inr (.inr (some m))), none, none] h) : ∃ v h', RM m (d + 1) 254 [.inr (.inr (some m))] h (some (.inl v)) h' ∧ Q v h' := by
  obtain ⟨r, h', q1, q2⟩ := RM_at (y := 254) (L := 3) (vs := [.inr (.inr (some m))]) (S := bm_254 m (RM m d)) (env := [some (.inr (.inr (some m))), none, none]) (rt := (some .int)) (by decide) rfl rfl rfl rfl rfl rfl (rkI Q) (fun r h q => by obtain ⟨v, rfl, q⟩ := rkI_inv q; exact trivial) hk
  obtain ⟨v, rfl, q2⟩ := rkI_inv q2
  exact ⟨v, h', q1, q2⟩
theorem go_255 {m d : Nat} {h : MS} {x1 : Int32} {x2 : Int32} (Q : Int32 → MS → Prop) (hk : bm_255 m (RM m d) (fun _ _ => False) (fun _ _ => False) (rkI Q) [some (.inr (.inr (some m))), some (.inl x1), some (.inl x2)] h) : ∃ v h', RM m (d + 1) 255 [.inr (.inr (some m)), .inl x1, .inl x2] h (some (.inl v)) h' ∧ Q v h' := by
  obtain ⟨r, h', q1, q2⟩ := RM_at (y := 255) (L := 3) (vs := [.inr (.inr (some m)), .inl x1, .inl x2]) (S := bm_255 m (RM m d)) (env := [some (.inr (.inr (some m))), some (.inl x1), some (.inl x2)]) (rt := (some .int)) (by decide) rfl rfl rfl rfl rfl rfl (rkI Q) (fun r h q => by obtain ⟨v, rfl, q⟩ := rkI_inv q; exact trivial) hk
  obtain ⟨v, rfl, q2⟩ := rkI_inv q2
  exact ⟨v, h', q1, q2⟩
theorem go_256 {m d : Nat} {h : MS}  (Q : Int32 → MS → Prop) (hk : bm_256 m (RM m d) (fun _ _ => False) (fun _ _ => False) (rkI Q) [some (.inr (.inr (some m))), none] h) : ∃ v h', RM m (d + 1) 256 [.inr (.inr (some m))] h (some (.inl v)) h' ∧ Q v h' := by
  obtain ⟨r, h', q1, q2⟩ := RM_at (y := 256) (L := 2) (vs := [.inr (.inr (some m))]) (S := bm_256 m (RM m d)) (env := [some (.inr (.inr (some m))), none]) (rt := (some .int)) (by decide) rfl rfl rfl rfl rfl rfl (rkI Q) (fun r h q => by obtain ⟨v, rfl, q⟩ := rkI_inv q; exact trivial) hk
  obtain ⟨v, rfl, q2⟩ := rkI_inv q2
  exact ⟨v, h', q1, q2⟩
theorem go_257 {m d : Nat} {h : MS} {x1 : Int32} (Q : MS → Prop) (hk : bm_257 m (RM m d) (fun _ _ => False) (fun _ _ => False) (rkU Q) [some (.inr (.inr (some m))), some (.inl x1), none] h) : ∃ h', RM m (d + 1) 257 [.inr (.inr (some m)), .inl x1] h none h' ∧ Q h' := by
  obtain ⟨r, h', q1, q2⟩ := RM_at (y := 257) (L := 3) (vs := [.inr (.inr (some m)), .inl x1]) (S := bm_257 m (RM m d)) (env := [some (.inr (.inr (some m))), some (.inl x1), none]) (rt := none) (by decide) rfl rfl rfl rfl rfl rfl (rkU Q) (fun r h q => by obtain ⟨rfl, -⟩ := rkU_inv q; exact trivial) hk
  obtain ⟨rfl, q2⟩ := rkU_inv q2
  exact ⟨h', q1, q2⟩
theorem go_258 {m d : Nat} {h : MS} {x1 : Int32} {x2 : Int32} (Q : Int32 → MS → Prop) (hk : bm_258 m (RM m d) (fun _ _ => False) (fun _ _ => False) (rkI Q) [some (.inr (.inr (some m))), some (.inl x1), some (.inl x2)] h) : ∃ v h', RM m (d + 1) 258 [.inr (.inr (some m)), .inl x1, .inl x2] h (some (.inl v)) h' ∧ Q v h' := by
  obtain ⟨r, h', q1, q2⟩ := RM_at (y := 258) (L := 3) (vs := [.inr (.inr (some m)), .inl x1, .inl x2]) (S := bm_258 m (RM m d)) (env := [some (.inr (.inr (some m))), some (.inl x1), some (.inl x2)]) (rt := (some .int)) (by decide) rfl rfl rfl rfl rfl rfl (rkI Q) (fun r h q => by obtain ⟨v, rfl, q⟩ := rkI_inv q; exact trivial) hk
  obtain ⟨v, rfl, q2⟩ := rkI_inv q2
  exact ⟨v, h', q1, q2⟩
theorem go_259 {m d : Nat} {h : MS} {x1 : Int32} {x2 : Int32} (Q : Int32 → MS → Prop) (hQ : ∀ v h, Q v h → v = 0 ∨ v = 1) (hk : bm_259 m (RM m d) (fun _ _ => False) (fun _ _ => False) (rkI Q) [some (.inr (.inr (some m))), some (.inl x1), some (.inl x2), none, none] h) : ∃ v h', RM m (d + 1) 259 [.inr (.inr (some m)), .inl x1, .inl x2] h (some (.inl v)) h' ∧ Q v h' := by
  obtain ⟨r, h', q1, q2⟩ := RM_at (y := 259) (L := 5) (vs := [.inr (.inr (some m)), .inl x1, .inl x2]) (S := bm_259 m (RM m d)) (env := [some (.inr (.inr (some m))), some (.inl x1), some (.inl x2), none, none]) (rt := (some .boolean)) (by decide) rfl rfl rfl rfl rfl rfl (rkI Q) (fun r h q => by obtain ⟨v, rfl, q⟩ := rkI_inv q; exact hQ v h q) hk
  obtain ⟨v, rfl, q2⟩ := rkI_inv q2
  exact ⟨v, h', q1, q2⟩
theorem go_260 {m d : Nat} {h : MS} {x1 : Int32} (Q : Int32 → MS → Prop) (hk : bm_260 m (RM m d) (fun _ _ => False) (fun _ _ => False) (rkI Q) [some (.inr (.inr (some m))), some (.inl x1), none, none] h) : ∃ v h', RM m (d + 1) 260 [.inr (.inr (some m)), .inl x1] h (some (.inl v)) h' ∧ Q v h' := by
  obtain ⟨r, h', q1, q2⟩ := RM_at (y := 260) (L := 4) (vs := [.inr (.inr (some m)), .inl x1]) (S := bm_260 m (RM m d)) (env := [some (.inr (.inr (some m))), some (.inl x1), none, none]) (rt := (some .int)) (by decide) rfl rfl rfl rfl rfl rfl (rkI Q) (fun r h q => by obtain ⟨v, rfl, q⟩ := rkI_inv q; exact trivial) hk
  obtain ⟨v, rfl, q2⟩ := rkI_inv q2
  exact ⟨v, h', q1, q2⟩
theorem go_261 {m d : Nat} {h : MS} {x1 : Int32} (Q : Int32 → MS → Prop) (hk : bm_261 m (RM m d) (fun _ _ => False) (fun _ _ => False) (rkI Q) [some (.inr (.inr (some m))), some (.inl x1), none, none, none, none, none] h) : ∃ v h', RM m (d + 1) 261 [.inr (.inr (some m)), .inl x1] h (some (.inl v)) h' ∧ Q v h' := by
  obtain ⟨r, h', q1, q2⟩ := RM_at (y := 261) (L := 7) (vs := [.inr (.inr (some m)), .inl x1]) (S := bm_261 m (RM m d)) (env := [some (.inr (.inr (some m))), some (.inl x1), none, none, none, none, none]) (rt := (some .int)) (by decide) rfl rfl rfl rfl rfl rfl (rkI Q) (fun r h q => by obtain ⟨v, rfl, q⟩ := rkI_inv q; exact trivial) hk
  obtain ⟨v, rfl, q2⟩ := rkI_inv q2
  exact ⟨v, h', q1, q2⟩
theorem go_262 {m d : Nat} {h : MS} {x1 : Int32} {x2 : Int32} {x3 : Int32} (Q : Int32 → MS → Prop) (hQ : ∀ v h, Q v h → v = 0 ∨ v = 1) (hk : bm_262 m (RM m d) (fun _ _ => False) (fun _ _ => False) (rkI Q) [some (.inr (.inr (some m))), some (.inl x1), some (.inl x2), some (.inl x3), none] h) : ∃ v h', RM m (d + 1) 262 [.inr (.inr (some m)), .inl x1, .inl x2, .inl x3] h (some (.inl v)) h' ∧ Q v h' := by
  obtain ⟨r, h', q1, q2⟩ := RM_at (y := 262) (L := 5) (vs := [.inr (.inr (some m)), .inl x1, .inl x2, .inl x3]) (S := bm_262 m (RM m d)) (env := [some (.inr (.inr (some m))), some (.inl x1), some (.inl x2), some (.inl x3), none]) (rt := (some .boolean)) (by decide) rfl rfl rfl rfl rfl rfl (rkI Q) (fun r h q => by obtain ⟨v, rfl, q⟩ := rkI_inv q; exact hQ v h q) hk
  obtain ⟨v, rfl, q2⟩ := rkI_inv q2
  exact ⟨v, h', q1, q2⟩
theorem go_263 {m d : Nat} {h : MS} {x1 : Int32} (Q : MS → Prop) (hk : bm_263 m (RM m d) (fun _ _ => False) (fun _ _ => False) (rkU Q) [some (.inr (.inr (some m))), some (.inl x1), none, none, none] h) : ∃ h', RM m (d + 1) 263 [.inr (.inr (some m)), .inl x1] h none h' ∧ Q h' := by
  obtain ⟨r, h', q1, q2⟩ := RM_at (y := 263) (L := 5) (vs := [.inr (.inr (some m)), .inl x1]) (S := bm_263 m (RM m d)) (env := [some (.inr (.inr (some m))), some (.inl x1), none, none, none]) (rt := none) (by decide) rfl rfl rfl rfl rfl rfl (rkU Q) (fun r h q => by obtain ⟨rfl, -⟩ := rkU_inv q; exact trivial) hk
  obtain ⟨rfl, q2⟩ := rkU_inv q2
  exact ⟨h', q1, q2⟩
theorem go_264 {m d : Nat} {h : MS} {x1 : Int32} {x2 : Int32} (Q : Int32 → MS → Prop) (hk : bm_264 m (RM m d) (fun _ _ => False) (fun _ _ => False) (rkI Q) [some (.inr (.inr (some m))), some (.inl x1), some (.inl x2), none, none] h) : ∃ v h', RM m (d + 1) 264 [.inr (.inr (some m)), .inl x1, .inl x2] h (some (.inl v)) h' ∧ Q v h' := by
  obtain ⟨r, h', q1, q2⟩ := RM_at (y := 264) (L := 5) (vs := [.inr (.inr (some m)), .inl x1, .inl x2]) (S := bm_264 m (RM m d)) (env := [some (.inr (.inr (some m))), some (.inl x1), some (.inl x2), none, none]) (rt := (some .int)) (by decide) rfl rfl rfl rfl rfl rfl (rkI Q) (fun r h q => by obtain ⟨v, rfl, q⟩ := rkI_inv q; exact trivial) hk
  obtain ⟨v, rfl, q2⟩ := rkI_inv q2
  exact ⟨v, h', q1, q2⟩
theorem go_265 {m d : Nat} {h : MS} {x1 : Int32} {x2 : Int32} (Q : Int32 → MS → Prop) (hk : bm_265 m (RM m d) (fun _ _ => False) (fun _ _ => False) (rkI Q) [some (.inr (.inr (some m))), some (.inl x1), some (.inl x2), none] h) : ∃ v h', RM m (d + 1) 265 [.inr (.inr (some m)), .inl x1, .inl x2] h (some (.inl v)) h' ∧ Q v h' := by
  obtain ⟨r, h', q1, q2⟩ := RM_at (y := 265) (L := 4) (vs := [.inr (.inr (some m)), .inl x1, .inl x2]) (S := bm_265 m (RM m d)) (env := [some (.inr (.inr (some m))), some (.inl x1), some (.inl x2), none]) (rt := (some .int)) (by decide) rfl rfl rfl rfl rfl rfl (rkI Q) (fun r h q => by obtain ⟨v, rfl, q⟩ := rkI_inv q; exact trivial) hk
  obtain ⟨v, rfl, q2⟩ := rkI_inv q2
  exact ⟨v, h', q1, q2⟩
theorem go_266 {m d : Nat} {h : MS} {x1 : Int32} (Q : Int32 → MS → Prop) (hk : bm_266 m (RM m d) (fun _ _ => False) (fun _ _ => False) (rkI Q) [some (.inr (.inr (some m))), some (.inl x1)] h) : ∃ v h', RM m (d + 1) 266 [.inr (.inr (some m)), .inl x1] h (some (.inl v)) h' ∧ Q v h' := by
  obtain ⟨r, h', q1, q2⟩ := RM_at (y := 266) (L := 2) (vs := [.inr (.inr (some m)), .inl x1]) (S := bm_266 m (RM m d)) (env := [some (.inr (.inr (some m))), some (.inl x1)]) (rt := (some .int)) (by decide) rfl rfl rfl rfl rfl rfl (rkI Q) (fun r h q => by obtain ⟨v, rfl, q⟩ := rkI_inv q; exact trivial) hk
  obtain ⟨v, rfl, q2⟩ := rkI_inv q2
  exact ⟨v, h', q1, q2⟩
theorem go_267 {m d : Nat} {h : MS}  (Q : Int32 → MS → Prop) (hk : bm_267 m (RM m d) (fun _ _ => False) (fun _ _ => False) (rkI Q) [some (.inr (.inr (some m))), none, none] h) : ∃ v h', RM m (d + 1) 267 [.inr (.inr (some m))] h (some (.inl v)) h' ∧ Q v h' := by
  obtain ⟨r, h', q1, q2⟩ := RM_at (y := 267) (L := 3) (vs := [.inr (.inr (some m))]) (S := bm_267 m (RM m d)) (env := [some (.inr (.inr (some m))), none, none]) (rt := (some .int)) (by decide) rfl rfl rfl rfl rfl rfl (rkI Q) (fun r h q => by obtain ⟨v, rfl, q⟩ := rkI_inv q; exact trivial) hk
  obtain ⟨v, rfl, q2⟩ := rkI_inv q2
  exact ⟨v, h', q1, q2⟩
theorem go_268 {m d : Nat} {h : MS}  (Q : Int32 → MS → Prop) (hk : bm_268 m (RM m d) (fun _ _ => False) (fun _ _ => False) (rkI Q) [some (.inr (.inr (some m))), none, none] h) : ∃ v h', RM m (d + 1) 268 [.inr (.inr (some m))] h (some (.inl v)) h' ∧ Q v h' := by
  obtain ⟨r, h', q1, q2⟩ := RM_at (y := 268) (L := 3) (vs := [.inr (.inr (some m))]) (S := bm_268 m (RM m d)) (env := [some (.inr (.inr (some m))), none, none]) (rt := (some .int)) (by decide) rfl rfl rfl rfl rfl rfl (rkI Q) (fun r h q => by obtain ⟨v, rfl, q⟩ := rkI_inv q; exact trivial) hk
  obtain ⟨v, rfl, q2⟩ := rkI_inv q2
  exact ⟨v, h', q1, q2⟩
theorem go_269 {b d : Nat} {sa : Nat → Nat} {h : gH} {x0 : Option Nat} (Q : gH → Prop) (hk : bd_269 b sa (RN b sa d) (fun _ _ => False) (fun _ _ => False) (rkU Q) [some (.inr (.inr x0)), none] h) : ∃ h', RN b sa (d + 1) 269 [.inr (.inr x0)] h none h' ∧ Q h' := by
  obtain ⟨r, h', q1, q2⟩ := RN_at (y := 269) (L := 2) (vs := [.inr (.inr x0)]) (S := bd_269 b sa (RN b sa d)) (env := [some (.inr (.inr x0)), none]) (rt := none) (by decide) rfl rfl rfl rfl rfl rfl (rkU Q) (fun r h q => by obtain ⟨rfl, -⟩ := rkU_inv q; exact trivial) hk
  obtain ⟨rfl, q2⟩ := rkU_inv q2
  exact ⟨h', q1, q2⟩
theorem go_270 {b d : Nat} {sa : Nat → Nat} {h : gH} {x0 : Int32} {x1 : Int32} (Q : Int32 → gH → Prop) (hk : bd_270 b sa (RN b sa d) (fun _ _ => False) (fun _ _ => False) (rkI Q) [some (.inl x0), some (.inl x1)] h) : ∃ v h', RN b sa (d + 1) 270 [.inl x0, .inl x1] h (some (.inl v)) h' ∧ Q v h' := by
  obtain ⟨r, h', q1, q2⟩ := RN_at (y := 270) (L := 2) (vs := [.inl x0, .inl x1]) (S := bd_270 b sa (RN b sa d)) (env := [some (.inl x0), some (.inl x1)]) (rt := (some .int)) (by decide) rfl rfl rfl rfl rfl rfl (rkI Q) (fun r h q => by obtain ⟨v, rfl, q⟩ := rkI_inv q; exact trivial) hk
  obtain ⟨v, rfl, q2⟩ := rkI_inv q2
  exact ⟨v, h', q1, q2⟩
theorem go_271 {b d : Nat} {sa : Nat → Nat} {h : gH} {x0 : Int32} (Q : Int32 → gH → Prop) (hk : bd_271 b sa (RN b sa d) (fun _ _ => False) (fun _ _ => False) (rkI Q) [some (.inl x0)] h) : ∃ v h', RN b sa (d + 1) 271 [.inl x0] h (some (.inl v)) h' ∧ Q v h' := by
  obtain ⟨r, h', q1, q2⟩ := RN_at (y := 271) (L := 1) (vs := [.inl x0]) (S := bd_271 b sa (RN b sa d)) (env := [some (.inl x0)]) (rt := (some .int)) (by decide) rfl rfl rfl rfl rfl rfl (rkI Q) (fun r h q => by obtain ⟨v, rfl, q⟩ := rkI_inv q; exact trivial) hk
  obtain ⟨v, rfl, q2⟩ := rkI_inv q2
  exact ⟨v, h', q1, q2⟩
theorem go_272 {b d : Nat} {sa : Nat → Nat} {h : gH} {x0 : Int32} (Q : Int32 → gH → Prop) (hk : bd_272 b sa (RN b sa d) (fun _ _ => False) (fun _ _ => False) (rkI Q) [some (.inl x0)] h) : ∃ v h', RN b sa (d + 1) 272 [.inl x0] h (some (.inl v)) h' ∧ Q v h' := by
  obtain ⟨r, h', q1, q2⟩ := RN_at (y := 272) (L := 1) (vs := [.inl x0]) (S := bd_272 b sa (RN b sa d)) (env := [some (.inl x0)]) (rt := (some .int)) (by decide) rfl rfl rfl rfl rfl rfl (rkI Q) (fun r h q => by obtain ⟨v, rfl, q⟩ := rkI_inv q; exact trivial) hk
  obtain ⟨v, rfl, q2⟩ := rkI_inv q2
  exact ⟨v, h', q1, q2⟩
