/-! LAYER 1c: the machine is closed under the pure steps -/
section MC
variable {p : Program} {l : Launch} {e : Jvm.Env} {R : Room} {s : State} {m : MethodId} {args : Array Value} {below : List Frame} {meth : Method} {c : Code} {Q : State → Prop} {Ω : ga_Om} {n0 s0 nL : Nat} {cc : ByteArray}
theorem ga_isI_inv {v : ga_V} (h : ga_isI v = true) : ∃ x, v = .inl x := by
  rcases v with v | v | v <;> first | exact ⟨v, rfl⟩ | cases h
theorem ga_isL_inv {v : ga_V} (h : ga_isL v = true) : ∃ x, v = .inr (.inl x) := by
  rcases v with v | v | v <;> first | exact ⟨v, rfl⟩ | cases h
theorem ga_isR_inv {v : ga_V} (h : ga_isR v = true) : ∃ x, v = .inr (.inr x) := by
  rcases v with v | v | v <;> first | exact ⟨v, rfl⟩ | cases h
theorem ga_nL_cat {v : ga_V} (h : ga_isL v = false) : (ga_v v).category = 1 := by
  rcases v with v | v | v
  · rfl
  · cases h
  · cases v <;> rfl
set_option maxHeartbeats 8000000 in
theorem ga_G_M (hx : p.tables.exec = Jvm.exec) (hb : c.code = cc) : ga_M cc (ga_G p l e R s m args below meth c Q Ω n0 s0 nL) := by
  intro pc env st h i n x hd hn hp k H locs cells slots ls hE hW hL hC hS
  have K := fun ls hE => k H locs cells slots ls hE hW hL hC hS
  clear k
  cases i
  case iconst v =>
    have hn : n = 1 := eq_of_beq hn; subst hn
    have hp := Option.some.inj hp; subst hp
    exact lv_iconst hx hb hd rfl (K ls hE)
  case bipush v =>
    have hn : n = 2 := eq_of_beq hn; subst hn
    have hp := Option.some.inj hp; subst hp
    exact lv_bipush hx hb hd rfl (K ls hE)
  case sipush v =>
    have hn : n = 3 := eq_of_beq hn; subst hn
    have hp := Option.some.inj hp; subst hp
    exact lv_sipush hx hb hd rfl (K ls hE)
  case lconst v =>
    have hn : n = 1 := eq_of_beq hn; subst hn
    have hp := Option.some.inj hp; subst hp
    exact lv_lconst hx hb hd rfl (K ls hE)
  case aconst_null =>
    have hn : n = 1 := eq_of_beq hn; subst hn
    have hp := Option.some.inj hp; subst hp
    exact lv_null hx hb hd (K ls hE)
  case iload_n k =>
    have hn : n = 1 := eq_of_beq hn; subst hn
    obtain ⟨v, hg, hv, rfl⟩ := ga_ld_inv hp
    obtain ⟨v, rfl⟩ := ga_isI_inv hv
    exact lv_iload_n hx hb hd rfl (hE.get hg) (K ls hE)
  case iload k =>
    have hn : n = 2 := eq_of_beq hn; subst hn
    obtain ⟨v, hg, hv, rfl⟩ := ga_ld_inv hp
    obtain ⟨v, rfl⟩ := ga_isI_inv hv
    exact lv_iload hx hb hd (hE.get hg) (K ls hE)
  case lload_n k =>
    have hn : n = 1 := eq_of_beq hn; subst hn
    obtain ⟨v, hg, hv, rfl⟩ := ga_ld_inv hp
    obtain ⟨v, rfl⟩ := ga_isL_inv hv
    exact lv_lload_n hx hb hd rfl (hE.get hg) (K ls hE)
  case lload k =>
    have hn : n = 2 := eq_of_beq hn; subst hn
    obtain ⟨v, hg, hv, rfl⟩ := ga_ld_inv hp
    obtain ⟨v, rfl⟩ := ga_isL_inv hv
    exact lv_lload hx hb hd (hE.get hg) (K ls hE)
  case aload_n k =>
    have hn : n = 1 := eq_of_beq hn; subst hn
    obtain ⟨v, hg, hv, rfl⟩ := ga_ld_inv hp
    obtain ⟨v, rfl⟩ := ga_isR_inv hv
    cases v with
    | none => exact lv_aload_nN hx hb hd rfl (hE.get hg) (K ls hE)
    | some v => exact lv_aload_n hx hb hd rfl (hE.get hg) (K ls hE)
  case aload k =>
    have hn : n = 2 := eq_of_beq hn; subst hn
    obtain ⟨v, hg, hv, rfl⟩ := ga_ld_inv hp
    obtain ⟨v, rfl⟩ := ga_isR_inv hv
    cases v with
    | none => exact lv_aloadN hx hb hd (hE.get hg) (K ls hE)
    | some v => exact lv_aload hx hb hd (hE.get hg) (K ls hE)
  case istore_n k =>
    have hn : n = 1 := eq_of_beq hn; subst hn
    obtain ⟨v, r, rfl, hv, hk, rfl⟩ := ga_s1_inv hp
    obtain ⟨v, rfl⟩ := ga_isI_inv hv
    exact lv_istore_n hx hb hd rfl hE.1 (by rw [← hE.2]; exact hk) rfl (fun ls' hl' => K ls' (ga_E.st1 hE.2 hl'))
  case istore k =>
    have hn : n = 2 := eq_of_beq hn; subst hn
    obtain ⟨v, r, rfl, hv, hk, rfl⟩ := ga_s1_inv hp
    obtain ⟨v, rfl⟩ := ga_isI_inv hv
    exact lv_istore hx hb hd hE.1 (by rw [← hE.2]; exact hk) rfl (fun ls' hl' => K ls' (ga_E.st1 hE.2 hl'))
  case lstore_n k =>
    have hn : n = 1 := eq_of_beq hn; subst hn
    obtain ⟨v, r, rfl, hk, rfl⟩ := ga_s2_inv hp
    exact lv_lstore_n hx hb hd rfl hE.1 (by rw [← hE.2]; exact hk) rfl (fun ls' hl' => K ls' (ga_E.st2 hE.2 (by rw [← hE.2]; exact hk) hl'))
  case lstore k =>
    have hn : n = 2 := eq_of_beq hn; subst hn
    obtain ⟨v, r, rfl, hk, rfl⟩ := ga_s2_inv hp
    exact lv_lstore hx hb hd hE.1 (by rw [← hE.2]; exact hk) rfl (fun ls' hl' => K ls' (ga_E.st2 hE.2 (by rw [← hE.2]; exact hk) hl'))
  case astore_n k =>
    have hn : n = 1 := eq_of_beq hn; subst hn
    obtain ⟨v, r, rfl, hv, hk, rfl⟩ := ga_s1_inv hp
    obtain ⟨v, rfl⟩ := ga_isR_inv hv
    cases v with
    | none => exact lv_astore_nN hx hb hd rfl hE.1 (by rw [← hE.2]; exact hk) rfl (fun ls' hl' => K ls' (ga_E.st1 hE.2 hl'))
    | some v => exact lv_astore_n hx hb hd rfl hE.1 (by rw [← hE.2]; exact hk) rfl (fun ls' hl' => K ls' (ga_E.st1 hE.2 hl'))
  case astore k =>
    have hn : n = 2 := eq_of_beq hn; subst hn
    obtain ⟨v, r, rfl, hv, hk, rfl⟩ := ga_s1_inv hp
    obtain ⟨v, rfl⟩ := ga_isR_inv hv
    cases v with
    | none => exact lv_astoreN hx hb hd hE.1 (by rw [← hE.2]; exact hk) rfl (fun ls' hl' => K ls' (ga_E.st1 hE.2 hl'))
    | some v => exact lv_astore hx hb hd hE.1 (by rw [← hE.2]; exact hk) rfl (fun ls' hl' => K ls' (ga_E.st1 hE.2 hl'))
  case iinc k v =>
    have hn : n = 3 := eq_of_beq hn; subst hn
    have hp : (match ga_get env k with | some (.inl x) => some (pc + 3, ga_st1 env k (.inl (x + Int32.ofInt v)), st) | _ => none) = some x := hp
    split at hp
    · rename_i a hg
      have hp := Option.some.inj hp; subst hp
      obtain ⟨j, hj⟩ := List.getElem?_of_mem (ga_mem_al.mpr ⟨k, _, hg, rfl⟩ : (0 + k, ga_v (.inl a)) ∈ ga_al 0 env)
      rw [Nat.zero_add] at hj
      exact lv_iinc hx hb hd hE.1 hj rfl (by rw [← hE.2]; exact Nat.not_le.mp fun q => by rw [ga_get_big q] at hg; cases hg) rfl (fun ls' hl' => K ls' (ga_E.st1 hE.2 hl'))
    · cases hp
  case iadd =>
    have hn : n = 1 := eq_of_beq hn; subst hn
    obtain ⟨a, b, v, r, rfl, hf, rfl⟩ := ga_II_inv hp
    cases hf
    exact lv_iadd hx hb hd (K ls hE)
  case isub =>
    have hn : n = 1 := eq_of_beq hn; subst hn
    obtain ⟨a, b, v, r, rfl, hf, rfl⟩ := ga_II_inv hp
    cases hf
    exact lv_isub hx hb hd (K ls hE)
  case imul =>
    have hn : n = 1 := eq_of_beq hn; subst hn
    obtain ⟨a, b, v, r, rfl, hf, rfl⟩ := ga_II_inv hp
    cases hf
    exact lv_imul hx hb hd (K ls hE)
  case iand =>
    have hn : n = 1 := eq_of_beq hn; subst hn
    obtain ⟨a, b, v, r, rfl, hf, rfl⟩ := ga_II_inv hp
    cases hf
    exact lv_iand hx hb hd (K ls hE)
  case ior =>
    have hn : n = 1 := eq_of_beq hn; subst hn
    obtain ⟨a, b, v, r, rfl, hf, rfl⟩ := ga_II_inv hp
    cases hf
    exact lv_ior hx hb hd (K ls hE)
  case ixor =>
    have hn : n = 1 := eq_of_beq hn; subst hn
    obtain ⟨a, b, v, r, rfl, hf, rfl⟩ := ga_II_inv hp
    cases hf
    exact lv_ixor hx hb hd (K ls hE)
  case ishl =>
    have hn : n = 1 := eq_of_beq hn; subst hn
    obtain ⟨a, b, v, r, rfl, hf, rfl⟩ := ga_II_inv hp
    cases hf
    exact lv_ishl hx hb hd (K ls hE)
  case ishr =>
    have hn : n = 1 := eq_of_beq hn; subst hn
    obtain ⟨a, b, v, r, rfl, hf, rfl⟩ := ga_II_inv hp
    cases hf
    exact lv_ishr hx hb hd (K ls hE)
  case iushr =>
    have hn : n = 1 := eq_of_beq hn; subst hn
    obtain ⟨a, b, v, r, rfl, hf, rfl⟩ := ga_II_inv hp
    cases hf
    exact lv_iushr hx hb hd rfl (K ls hE)
  case idiv =>
    have hn : n = 1 := eq_of_beq hn; subst hn
    obtain ⟨a, b, v, r, rfl, hf, rfl⟩ := ga_II_inv hp
    by_cases h0 : b = 0
    · rw [if_pos h0] at hf; cases hf
    rw [if_neg h0] at hf; cases hf
    exact lv_idiv hx hb hd h0 (K ls hE)
  case irem =>
    have hn : n = 1 := eq_of_beq hn; subst hn
    obtain ⟨a, b, v, r, rfl, hf, rfl⟩ := ga_II_inv hp
    by_cases h0 : b = 0
    · rw [if_pos h0] at hf; cases hf
    rw [if_neg h0] at hf; cases hf
    exact lv_irem hx hb hd h0 (K ls hE)
  case ladd =>
    have hn : n = 1 := eq_of_beq hn; subst hn
    obtain ⟨a, b, v, r, rfl, hf, rfl⟩ := ga_LL_inv hp
    cases hf
    exact lv_ladd hx hb hd (K ls hE)
  case lsub =>
    have hn : n = 1 := eq_of_beq hn; subst hn
    obtain ⟨a, b, v, r, rfl, hf, rfl⟩ := ga_LL_inv hp
    cases hf
    exact lv_lsub hx hb hd (K ls hE)
  case lmul =>
    have hn : n = 1 := eq_of_beq hn; subst hn
    obtain ⟨a, b, v, r, rfl, hf, rfl⟩ := ga_LL_inv hp
    cases hf
    exact lv_lmul hx hb hd (K ls hE)
  case lor =>
    have hn : n = 1 := eq_of_beq hn; subst hn
    obtain ⟨a, b, v, r, rfl, hf, rfl⟩ := ga_LL_inv hp
    cases hf
    exact lv_lor hx hb hd (K ls hE)
  case ldiv =>
    have hn : n = 1 := eq_of_beq hn; subst hn
    obtain ⟨a, b, v, r, rfl, hf, rfl⟩ := ga_LL_inv hp
    by_cases h0 : b = 0
    · rw [if_pos h0] at hf; cases hf
    rw [if_neg h0] at hf; cases hf
    exact lv_ldiv hx hb hd h0 (K ls hE)
  case lrem =>
    have hn : n = 1 := eq_of_beq hn; subst hn
    obtain ⟨a, b, v, r, rfl, hf, rfl⟩ := ga_LL_inv hp
    by_cases h0 : b = 0
    · rw [if_pos h0] at hf; cases hf
    rw [if_neg h0] at hf; cases hf
    exact lv_lrem hx hb hd h0 (K ls hE)
  case lcmp =>
    have hn : n = 1 := eq_of_beq hn; subst hn
    obtain ⟨a, b, v, r, rfl, hf, rfl⟩ := ga_LL_inv hp
    cases hf
    exact W.lcmp hx hb hd (K ls hE)
  case ineg =>
    have hn : n = 1 := eq_of_beq hn; subst hn
    obtain ⟨a, r, rfl, rfl⟩ := ga_I1_inv hp
    exact lv_ineg hx hb hd (K ls hE)
  case lneg =>
    have hn : n = 1 := eq_of_beq hn; subst hn
    obtain ⟨a, r, rfl, rfl⟩ := ga_L1_inv hp
    exact lv_lneg hx hb hd (K ls hE)
  case i2l =>
    have hn : n = 1 := eq_of_beq hn; subst hn
    obtain ⟨a, r, rfl, rfl⟩ := ga_I1_inv hp
    exact lv_i2l hx hb hd rfl (K ls hE)
  case i2b =>
    have hn : n = 1 := eq_of_beq hn; subst hn
    obtain ⟨a, r, rfl, rfl⟩ := ga_I1_inv hp
    exact lv_i2b hx hb hd rfl (K ls hE)
  case l2i =>
    have hn : n = 1 := eq_of_beq hn; subst hn
    obtain ⟨a, r, rfl, rfl⟩ := ga_L1_inv hp
    exact lv_l2i hx hb hd rfl (K ls hE)
  case lshl =>
    have hn : n = 1 := eq_of_beq hn; subst hn
    rcases st with _ | ⟨b | b | b, _ | ⟨a | a | a, r⟩⟩ <;> first | (cases hp; done) | skip
    have hp := Option.some.inj hp; subst hp
    exact lv_lshl hx hb hd rfl (K ls hE)
  case dup =>
    have hn : n = 1 := eq_of_beq hn; subst hn
    rcases st with _ | ⟨a, r⟩
    · cases hp
    have hp : (if ga_isL a then none else some (pc + 1, env, a :: a :: r)) = some x := hp
    split at hp
    · cases hp
    rename_i ha
    have hp := Option.some.inj hp; subst hp
    exact lv_dup hx hb hd (ga_nL_cat (by simpa using ha)) (K ls hE)
  case pop =>
    have hn : n = 1 := eq_of_beq hn; subst hn
    rcases st with _ | ⟨a, r⟩
    · cases hp
    have hp : (if ga_isL a then none else some (pc + 1, env, r)) = some x := hp
    split at hp
    · cases hp
    rename_i ha
    have hp := Option.some.inj hp; subst hp
    exact lv_pop hx hb hd (ga_nL_cat (by simpa using ha)) (K ls hE)
  case dup2 =>
    have hn : n = 1 := eq_of_beq hn; subst hn
    rcases st with _ | ⟨a, _ | ⟨b, r⟩⟩
    · cases hp
    · cases hp
    have hp : (if ga_isL a || ga_isL b then none else some (pc + 1, env, a :: b :: a :: b :: r)) = some x := hp
    split at hp
    · cases hp
    rename_i ha
    simp only [Bool.or_eq_true, not_or, Bool.not_eq_true] at ha
    have hp := Option.some.inj hp; subst hp
    exact lv_dup2_11 hx hb hd (ga_nL_cat ha.1) (ga_nL_cat ha.2) (K ls hE)
  case ifCond o off =>
    have hn : n = 3 := eq_of_beq hn; subst hn
    rcases st with _ | ⟨a | a, r⟩ <;> first | (cases hp; done) | skip
    obtain ⟨ht, ⟨hc, rfl⟩ | ⟨hc, rfl⟩⟩ := ga_br_inv hp <;> cases o <;> first | (replace hc := of_decide_eq_true hc) | (replace hc := of_decide_eq_false hc)
    · exact lv_if_eq hx hb hd ht (fun _ => K ls hE) (fun q => absurd hc q)
    · exact lv_if_ne hx hb hd ht (fun _ => K ls hE) (fun q => absurd q hc)
    · exact lv_if_lt hx hb hd ht (fun _ => K ls hE) (fun q => absurd hc q)
    · exact lv_if_ge hx hb hd ht (fun _ => K ls hE) (fun q => absurd hc q)
    · exact lv_if_gt hx hb hd ht (fun _ => K ls hE) (fun q => absurd hc q)
    · exact lv_if_le hx hb hd ht (fun _ => K ls hE) (fun q => absurd hc q)
    · exact lv_if_eq hx hb hd ht (fun q => absurd q hc) (fun _ => K ls hE)
    · exact lv_if_ne hx hb hd ht (fun q => absurd q hc) (fun _ => K ls hE)
    · exact lv_if_lt hx hb hd ht (fun q => absurd q hc) (fun _ => K ls hE)
    · exact lv_if_ge hx hb hd ht (fun q => absurd q hc) (fun _ => K ls hE)
    · exact lv_if_gt hx hb hd ht (fun q => absurd q hc) (fun _ => K ls hE)
    · exact lv_if_le hx hb hd ht (fun q => absurd q hc) (fun _ => K ls hE)
  case if_icmp o off =>
    have hn : n = 3 := eq_of_beq hn; subst hn
    rcases st with _ | ⟨b | b, _ | ⟨a | a, r⟩⟩ <;> first | (cases hp; done) | skip
    obtain ⟨ht, ⟨hc, rfl⟩ | ⟨hc, rfl⟩⟩ := ga_br_inv hp <;> cases o <;> first | (replace hc := of_decide_eq_true hc) | (replace hc := of_decide_eq_false hc)
    · exact lv_icmp_eq hx hb hd ht (fun _ => K ls hE) (fun q => absurd hc q)
    · exact lv_icmp_ne hx hb hd ht (fun _ => K ls hE) (fun q => absurd q hc)
    · exact lv_icmp_lt hx hb hd ht (fun _ => K ls hE) (fun q => absurd hc q)
    · exact lv_icmp_ge hx hb hd ht (fun _ => K ls hE) (fun q => absurd hc q)
    · exact lv_icmp_gt hx hb hd ht (fun _ => K ls hE) (fun q => absurd hc q)
    · exact lv_icmp_le hx hb hd ht (fun _ => K ls hE) (fun q => absurd hc q)
    · exact lv_icmp_eq hx hb hd ht (fun q => absurd q hc) (fun _ => K ls hE)
    · exact lv_icmp_ne hx hb hd ht (fun q => absurd q hc) (fun _ => K ls hE)
    · exact lv_icmp_lt hx hb hd ht (fun q => absurd q hc) (fun _ => K ls hE)
    · exact lv_icmp_ge hx hb hd ht (fun q => absurd q hc) (fun _ => K ls hE)
    · exact lv_icmp_gt hx hb hd ht (fun q => absurd q hc) (fun _ => K ls hE)
    · exact lv_icmp_le hx hb hd ht (fun q => absurd q hc) (fun _ => K ls hE)
  case if_acmp o off =>
    have hn : n = 3 := eq_of_beq hn; subst hn
    rcases st with _ | ⟨b | b | b, _ | ⟨a | a | a, r⟩⟩ <;> first | (cases hp; done) | skip
    obtain ⟨ht, ⟨hc, rfl⟩ | ⟨hc, rfl⟩⟩ := ga_br_inv hp <;> cases o <;> first | (replace hc := of_decide_eq_true hc) | (replace hc := of_decide_eq_false hc)
    · exact lv_acmp_eq hx hb hd ht (fun _ => K ls hE) (fun q => absurd hc q)
    · exact lv_acmp_ne hx hb hd ht (fun _ => K ls hE) (fun q => absurd q hc)
    · exact lv_acmp_eq hx hb hd ht (fun q => absurd q hc) (fun _ => K ls hE)
    · exact lv_acmp_ne hx hb hd ht (fun q => absurd q hc) (fun _ => K ls hE)
  case ifnull off =>
    have hn : n = 3 := eq_of_beq hn; subst hn
    rcases st with _ | ⟨a | a | a, r⟩ <;> first | (cases hp; done) | skip
    obtain ⟨ht, ⟨hc, rfl⟩ | ⟨hc, rfl⟩⟩ := ga_br_inv hp <;> first | (replace hc := of_decide_eq_true hc) | (replace hc := of_decide_eq_false hc)
    · subst hc
      exact lv_ifnullN hx hb hd ht (K ls hE)
    · cases a with
      | none => exact absurd rfl hc
      | some a => exact lv_ifnull hx hb hd (K ls hE)
  case ifnonnull off =>
    have hn : n = 3 := eq_of_beq hn; subst hn
    rcases st with _ | ⟨a | a | a, r⟩ <;> first | (cases hp; done) | skip
    obtain ⟨ht, ⟨hc, rfl⟩ | ⟨hc, rfl⟩⟩ := ga_br_inv hp <;> first | (replace hc := of_decide_eq_true hc) | (replace hc := of_decide_eq_false hc)
    · cases a with
      | none => exact absurd rfl hc
      | some a => exact lv_ifnonnull hx hb hd ht (K ls hE)
    · cases a with
      | none => exact lv_ifnonnullN hx hb hd (K ls hE)
      | some a => exact absurd (fun q => by cases q) hc
  case goto off =>
    have hn : n = 3 := eq_of_beq hn; subst hn
    have hp : (if 0 ≤ (pc : Int) + off then some (ga_tg pc off, env, st) else none) = some x := hp
    split at hp
    · rename_i h0
      have hp := Option.some.inj hp; subst hp
      exact lv_goto hx hb hd (ga_tg_eq h0) (K ls hE)
    · cases hp
  case tableswitch d lo hi offs =>
    rcases st with _ | ⟨a | a, r⟩ <;> first | (cases hp; done) | skip
    have hp : (if a.toInt < lo ∨ hi < a.toInt then (if 0 ≤ (pc : Int) + d then some (ga_tg pc d, env, r) else none) else match offs[(a.toInt - lo).toNat]? with | some off => if 0 ≤ (pc : Int) + off then some (ga_tg pc off, env, r) else none | none => none) = some x := hp
    split at hp
    · rename_i hr
      split at hp
      · rename_i h0
        have hp := Option.some.inj hp; subst hp
        exact lv_tableOut hx hb hd hr (ga_tg_eq h0) (K ls hE)
      · cases hp
    · rename_i hr
      rw [not_or] at hr
      split at hp
      · rename_i off ho
        split at hp
        · rename_i h0
          have hp := Option.some.inj hp; subst hp
          exact lv_tableIn hx hb hd hr.1 hr.2 ho (ga_tg_eq h0) (K ls hE)
        · cases hp
      · cases hp
  all_goals (exact absurd hp (by intro q; cases q))
end MC
