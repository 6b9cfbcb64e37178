/-! LAYER 3: the law out of the runs -/
/-- what is left to show, with no machine in sight: the law's program, over the runs, from the start's heap, answers 1 within its room -/
def ga_goal : Prop := ∀ (b L : Nat) (xs : Nat → Int32) (sa : Nat → Nat) (n : Nat), L ≤ 384 → b < n → (∀ k, k < 4 → sa k < n) → ga_ap b sa → ∃ d, d ≤ 1000 ∧ bd_law n sa (ga_run ga_mt ga_im (ga_bd n sa) ga_md n d) (fun _ _ => False) (fun _ _ => False) (fun r x => r = some (.inl 1) ∧ x.2.1 ≤ n + 1009686 ∧ x.2.2 ≤ 6073190) (ga_ent [.inr (.inr (some b))] 4) (ga_H0 b L xs sa n)
theorem ga_whole (G : ga_goal) {p : Program} {e : Jvm.Env} {s : State} {m : MethodId} {below : List Frame} {meth : Method} {c : Code} (l : Launch) {b L : Nat} {xs : Nat → Int32} (hL : L ≤ 384) (C0 : lw_At p s m meth c b L xs) : W p l e room_1 s m #[Value.ref b] below meth c s.heap [] 0 0 (lw_Z below #[Value.ref b] s) (entryFrame m ([Value.ref b] : List Value).toArray 4) := by
  obtain ⟨hx, hb, hr, hml, hown, hts, hX, hbl, hlocks, hgv⟩ := C0
  obtain ⟨⟨D0, dA, bs, sa⟩, hΩ, hap, hsl, hWd⟩ := st_world hts (flat_of_before _ hgv) hX hbl
  dsimp only at hΩ
  subst hΩ
  generalize hΩ : (⟨D0, dA, s.heap.size, sa⟩ : ga_Om) = Ω at *
  have hb1 : Ω.2.2.1 = s.heap.size := by rw [← hΩ]
  have hb2 : Ω.2.2.2 = sa := by rw [← hΩ]
  obtain ⟨d, hd, hk⟩ := G b L xs Ω.2.2.2 s.heap.size hL hbl hsl hap
  have hall : ∀ w ∈ lw_all, w.before #[Value.ref b] s = true := fun w hw => hts w (List.mem_filter.mp hw).1
  have hM := ga_runs (l := l) (Ω := Ω) q123 q124 q685 q684 q110 d
  have S : CallFix p m c cL_law 4 s #[Value.ref b] lw_all R_law := ⟨hx, hb, hml, hown, hall⟩
  have HM := ga_G_HM (l := l) (e := e) (R := room_1) (below := below) (meth := meth) (Q := lw_Z below #[Value.ref b] s) (Ω := Ω) (n0 := s.heap.size) (s0 := 0) (d := d) (ini := false) (ok := fun h => h.2.1 ≤ s.heap.size + 1009686 ∧ h.2.2 ≤ 6073190) S (fun q => by cases q) (fun h hh => ⟨hh.1, by show _ ≤ 0 + 6073190; omega⟩) ⟨by show d + 1 ≤ 8192; omega, by show 64 * d + 128 ≤ 100000; omega⟩ hM q123 q124 q685 q684 q110
  have RT : ga_RT cL_law (ga_G p l e room_1 s m #[Value.ref b] below meth c (lw_Z below #[Value.ref b] s) Ω s.heap.size 0 4) (fun r x => r = some (.inl 1) ∧ x.2.1 ≤ s.heap.size + 1009686 ∧ x.2.2 ≤ 6073190) := by
    refine ⟨?_, ?_, ?_, ?_⟩
    · rintro pc en hh hd ⟨q, -⟩; cases q
    · rintro pc en hh x hdd ⟨q, h1, h2⟩ H locs cells slots ls hE hW hLo hC hS
      cases q
      exact va_forget (fun q hq => by rw [← hb1]; exact hLo q hq) (W.widen (by omega) (by omega) (lw_ret hx hb hr hlocks hdd))
    · rintro pc en hh x hd ⟨q, -⟩; cases q
    · rintro pc en hh x hd ⟨q, -⟩; cases q
  rw [← hb1] at hk
  have hg := (bd_law_d (Ω := Ω) (g := ga_G p l e room_1 s m #[Value.ref b] below meth c (lw_Z below #[Value.ref b] s) Ω s.heap.size 0 4) ⟨fun _ => ga_le_rfl, fun _ _ _ => ga_le_trans, fun a b h1 h2 => ⟨Nat.le_trans h1.1 h2.1, Nat.le_trans h1.2 h2.2⟩⟩ (fun y vs h r h' q => (hM y vs h r h' q).1) HM RT).2 _ _ _ _ _ hk (fun _ _ q => q.elim) (fun _ _ q => q.elim) (fun _ _ q => ⟨by rw [← hb1]; exact q.2, by rw [← hb1]; exact q⟩)
  rw [lg_entry_eq]
  exact hg s.heap [] 0 0 _ (ga_entE (vs := [.inr (.inr (some b))]) (n := 4) (by show 1 + 0 ≤ 4; decide)) (by rw [hb1]; exact hWd) (fun q hq => by cases hq) (by rw [← hb1]; exact Nat.zero_add _) (Nat.zero_add _)
