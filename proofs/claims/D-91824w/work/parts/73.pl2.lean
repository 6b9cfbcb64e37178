/-! LAYER 4f9: the class: heads made plain -/
def hFk (D k : Nat) : Fo → Prop
  | .leaf l => lOk l
  | .branch n a b => 0 < D ∧ (k = 4 ∧ n < 400 ∧ fLen b = 0 ∨ k = 5 ∧ n < 10 ∧ fLen b = 0 ∨ k = 6 ∧ n < 5 ∨ k = 7 ∧ n < 3) ∧ fOk (D - 1) a ∧ fOk (D - 1) b
theorem hFk_hd {D k : Nat} {x r : Fo} : fOk D (.branch k x r) ↔ hFk D k x ∧ fOk D r := by
  cases x with
  | leaf l => exact Iff.rfl
  | branch n a b =>
    constructor
    · rintro ⟨h1, h2, h3, h4, h5⟩; exact ⟨⟨h1, h2, h3, h4⟩, h5⟩
    · rintro ⟨⟨h1, h2, h3, h4⟩, h5⟩; exact ⟨h1, h2, h3, h4, h5⟩
abbrev plT : List (Nat × Nat) := [(11, 72), (12, 72), (13, 72), (14, 88), (15, 94), (17, 100), (18, 100)]
/-- what All.plain does -/
def PL58 (b d : Nat) (sa : Nat → Nat) (P D : Nat) (t : Fo) : Prop := ∀ z h g n, Wd g h → IsAll g z t → b ≤ h.2.1 → h.1 P = some (.inr (22, [.inl (Int32.ofNat (n))])) → P < h.2.1 → g P = none → ∃ z' h' g', RN b sa d 58 [.inr (.inr (some (z))), .inr (.inr (some (P)))] h (some (.inr (.inr (some (z'))))) h' ∧ RES g g' h h' (fun a => a = P) z' (fPl t).1 (2 + cC D (fSz t)) (6 + cS D (fSz t)) ∧ h'.1 P = some (.inr (22, [.inl (Int32.ofNat (n + (fPl t).2))]))
/-- one more step told -/
theorem RES.step {g g' : gG} {h h' : gH} {P z cc ss : Nat} {t : Fo} (r : RES g g' h h' (fun a => a = P) z t cc ss) (hP : g P = none) (hP2 : P < h.2.1) (c : ga_Ce) : RES g g' h (ga_set h' P c) (fun a => a = P) z t cc ss := by
  obtain ⟨a1, a2, a3, a4, a5, a6, a7, a8⟩ := r
  have hgP : g' P = none := by
    cases e : g' P with
    | none => rfl
    | some c' =>
      rcases a5 P (by rw [e]; simp) with q | q
      · exact absurd hP q
      · omega
  refine ⟨a1, ⟨fun x q hx => ?_, a2.2⟩, a3, fun a ha hn => ?_, a5, a6, a7, a8⟩
  · have : x ≠ P := by rintro rfl; rw [hgP] at hx; cases hx
    rw [set_ne this]
    exact a2.1 x q hx
  · rw [set_ne hn]
    exact a4 a ha hn
theorem RES.noP {g g' : gG} {h h' : gH} {P z cc ss : Nat} {t : Fo} (r : RES g g' h h' (fun a => a = P) z t cc ss) (hP : g P = none) (hP2 : P < h.2.1) : g' P = none ∧ P < h'.2.1 := by
  obtain ⟨a1, a2, a3, a4, a5, a6, a7, a8⟩ := r
  refine ⟨?_, by omega⟩
  cases e : g' P with
  | none => rfl
  | some c' =>
    rcases a5 P (by rw [e]; simp) with q | q
    · exact absurd hP q
    · omega
theorem gne {g : gG} {P x : Nat} {c : ga_Ce} (h : g P = none) (k : g x = some c) : x ≠ P := by
  rintro rfl; rw [h] at k; cases k
/-- a new part of each kind, alone -/
theorem mk_after {b d n z : Nat} {sa : Nat → Nat} {g : gG} {h : gH} {A : Fo} (hd : 3 ≤ d) (hW : Wd g h) (hb : b ≤ h.2.1) (hz : IsAll g z A) : ∃ h2, RN b sa d 89 [.inr (.inr (some (h.2.1))), .inl (Int32.ofNat (n)), .inr (.inr (some (z)))] (ga_new h (.inr (14, df_X14)) 2) none h2 ∧ h2.1 h.2.1 = some (.inr (14, [.inl (Int32.ofNat (n)), .inr (.inr (some (z)))])) ∧ ∃ z' h', RN b sa d 64 [.inr (.inr (some (h.2.1)))] h2 (some (.inr (.inr (some (z'))))) h' ∧ ∃ g', RES g g' h h' (fun _ => False) z' (fGr 4 n A fNil fNil) 4 8 := by
  have hN : NEW b d sa h 14 2 89 df_X14 [.inl (Int32.ofNat (n)), .inr (.inr (some (z)))] [.inl (Int32.ofNat (n)), .inr (.inr (some (z)))] := new_14 (by omega)
  exact NEW.alone (k := 4) (x := .branch n A fNil) (by omega) hN hW hb (fun g2 hg2 hgy => Or.inl ⟨rfl, z, hz.mono hg2, hgy⟩)
theorem mk_times {b d n z : Nat} {sa : Nat → Nat} {g : gG} {h : gH} {A : Fo} (hd : 3 ≤ d) (hW : Wd g h) (hb : b ≤ h.2.1) (hz : IsAll g z A) : ∃ h2, RN b sa d 95 [.inr (.inr (some (h.2.1))), .inl (Int32.ofNat (n)), .inr (.inr (some (z)))] (ga_new h (.inr (15, df_X15)) 2) none h2 ∧ h2.1 h.2.1 = some (.inr (15, [.inl (Int32.ofNat (n)), .inr (.inr (some (z)))])) ∧ ∃ z' h', RN b sa d 64 [.inr (.inr (some (h.2.1)))] h2 (some (.inr (.inr (some (z'))))) h' ∧ ∃ g', RES g g' h h' (fun _ => False) z' (fGr 5 n A fNil fNil) 4 8 := by
  have hN : NEW b d sa h 15 2 95 df_X15 [.inl (Int32.ofNat (n)), .inr (.inr (some (z)))] [.inl (Int32.ofNat (n)), .inr (.inr (some (z)))] := new_15 (by omega)
  exact NEW.alone (k := 5) (x := .branch n A fNil) (by omega) hN hW hb (fun g2 hg2 hgy => Or.inr (Or.inl ⟨rfl, z, hz.mono hg2, hgy⟩))
theorem RES.mk_fin {g g1 g' : gG} {h h1 h' : gH} {P z1 z' c1 s1 n0 : Nat} {t1 t' : Fo} (p2 : RES g g1 h h1 (fun a => a = P) z1 t1 c1 s1) (r4 : RES g1 g' h1 h' (fun _ => False) z' t' 4 8) (hP : P < h1.2.1) (uP : h1.1 P = some (.inr (22, [.inl (Int32.ofNat (n0))]))) : RES g g' h h' (fun a => a = P) z' t' (c1 + 4) (s1 + 8) ∧ h'.1 P = some (.inr (22, [.inl (Int32.ofNat (n0 + 0))])) := by
  refine ⟨p2.seq (r4.P _), ?_⟩
  rw [r4.2.2.2.1 P hP (fun q => q), uP, Nat.add_zero]
