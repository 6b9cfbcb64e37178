/-! LAYER 4q: pure: what is out, with days on which nothing is owed or without; prices -/
def outP (net : Nat → Int) : Nat → Int → List Nat → Int
  | _, _, [] => 0
  | p, c, d :: r => (if c < 0 then -c * ((d : Int) - p) else 0) + outP net d (c + net d) r
def sumZ (net : Nat → Int) : List Nat → Int
  | [] => 0
  | d :: r => net d + sumZ net r
def nzF (net : Nat → Int) (D : List Nat) : List Nat := D.filter fun d => decide (net d ≠ 0)
theorem nzF_z {net : Nat → Int} {d : Nat} {D : List Nat} (h : net d = 0) : nzF net (d :: D) = nzF net D := by
  unfold nzF
  rw [List.filter_cons_of_neg (by simpa using h)]
theorem nzF_n {net : Nat → Int} {d : Nat} {D : List Nat} (h : net d ≠ 0) : nzF net (d :: D) = d :: nzF net D := by
  unfold nzF
  rw [List.filter_cons_of_pos (by simpa using h)]
theorem outZ_P (net : Nat → Int) : ∀ (r : List Nat) (d : Nat) (c : Int), outZ net c (d :: r) = outP net d (c + net d) r := by
  intro r
  induction r with
  | nil => intro d c; rfl
  | cons e r ih =>
    intro d c
    show (if c + net d < 0 then -(c + net d) * ((e : Int) - d) else 0) + outZ net (c + net d) (e :: r) = _
    rw [ih]
    rfl
theorem sumZ_nz (net : Nat → Int) : ∀ D : List Nat, sumZ net (nzF net D) = sumZ net D := by
  intro D
  induction D with
  | nil => rfl
  | cons d D ih =>
    by_cases h : net d = 0
    · rw [nzF_z h, ih]; simp only [sumZ, h]; omega
    · rw [nzF_n h]; simp only [sumZ, ih]
theorem outP_nz (net : Nat → Int) : ∀ (D : List Nat) (p : Nat) (c : Int), 0 ≤ c + sumZ net D → outP net p c D = outP net p c (nzF net D) := by
  intro D
  induction D with
  | nil => intro p c _; rfl
  | cons d D ih =>
    intro p c h
    simp only [sumZ] at h
    by_cases h0 : net d = 0
    · rw [nzF_z h0]
      show (if c < 0 then -c * ((d : Int) - p) else 0) + outP net d (c + net d) D = _
      have e0 : c + net d = c := by omega
      rw [e0, ih d c (by omega)]
      have hs := sumZ_nz net D
      cases hq : nzF net D with
      | nil =>
        rw [hq] at hs
        simp only [sumZ] at hs
        rw [if_neg (by omega)]
        rfl
      | cons e r =>
        show _ + ((if c < 0 then -c * ((e : Int) - d) else 0) + outP net e (c + net e) r) = (if c < 0 then -c * ((e : Int) - p) else 0) + outP net e (c + net e) r
        by_cases hc : c < 0
        · rw [if_pos hc, if_pos hc, if_pos hc, ← Int.add_assoc, ← Int.mul_add]
          congr 2
          omega
        · rw [if_neg hc, if_neg hc, if_neg hc]
          omega
    · rw [nzF_n h0]
      show (if c < 0 then -c * ((d : Int) - p) else 0) + outP net d (c + net d) D = (if c < 0 then -c * ((d : Int) - p) else 0) + outP net d (c + net d) (nzF net D)
      rw [ih d (c + net d) (by omega)]
theorem outZ_0 (net : Nat → Int) : ∀ (D : List Nat), 0 ≤ sumZ net D → outZ net 0 D = outZ net 0 (nzF net D) := by
  intro D
  induction D with
  | nil => intro _; rfl
  | cons d D ih =>
    intro h
    simp only [sumZ] at h
    by_cases h0 : net d = 0
    · rw [nzF_z h0, ← ih (by omega), outZ_P]
      cases D with
      | nil => rfl
      | cons e r =>
        rw [outZ_P, h0]
        show (if (0 : Int) + 0 < 0 then -((0 : Int) + 0) * ((e : Int) - d) else 0) + outP net e ((0 : Int) + 0 + net e) r = _
        rw [if_neg (by decide)]
        simp
    · rw [nzF_n h0, outZ_P, outZ_P, outP_nz net D d (0 + net d) (by omega)]
theorem outP_nn (net : Nat → Int) : ∀ (D : List Nat) (p : Nat) (c : Int), (p :: D).Pairwise (· < ·) → 0 ≤ outP net p c D := by
  intro D
  induction D with
  | nil => intro p c _; exact Int.le_refl 0
  | cons d D ih =>
    intro p c h
    obtain ⟨h1, h2⟩ := List.pairwise_cons.mp h
    have hpd := h1 d List.mem_cons_self
    have := ih d (c + net d) h2
    simp only [outP]
    split
    · have : 0 ≤ -c * ((d : Int) - p) := Int.mul_nonneg (by omega) (by omega)
      omega
    · omega
theorem outP_le (net : Nat → Int) {K : Int} (hK : 0 ≤ K) (hn : ∀ x, -1200000000000 ≤ net x) : ∀ (D : List Nat) (p : Nat) (c : Int), (p :: D).Pairwise (· < ·) → p < 4000 → (∀ x ∈ D, x < 4000) → -K + 1200000000000 * D.length ≤ c → outP net p c D ≤ K * (4000 - p) := by
  intro D
  induction D with
  | nil => intro p c _ hp _ _; exact Int.mul_nonneg hK (by omega)
  | cons d D ih =>
    intro p c h hp hD hc
    obtain ⟨h1, h2⟩ := List.pairwise_cons.mp h
    have hpd := h1 d List.mem_cons_self
    have hd4 := hD d List.mem_cons_self
    have hnd := hn d
    rw [List.length_cons] at hc
    have hr := ih d (c + net d) h2 hd4 (fun x hx => hD x (List.mem_cons_of_mem _ hx)) (by omega)
    have hsum : K * ((d : Int) - p) + K * (4000 - d) = K * (4000 - p) := by rw [← Int.mul_add]; congr 1; omega
    have hk0 : 0 ≤ K * ((d : Int) - p) := Int.mul_nonneg hK (by omega)
    simp only [outP]
    split
    · have : -c * ((d : Int) - p) ≤ K * ((d : Int) - p) := Int.mul_le_mul_of_nonneg_right (by omega) (by omega)
      omega
    · omega
theorem sumZ_add (f g : Nat → Int) : ∀ D : List Nat, sumZ (fun d => f d + g d) D = sumZ f D + sumZ g D := by
  intro D
  induction D with
  | nil => rfl
  | cons d D ih => simp only [sumZ, ih]; omega
theorem sumZ_none {f : Nat → Int} : ∀ {D : List Nat}, (∀ d ∈ D, f d = 0) → sumZ f D = 0 := by
  intro D
  induction D with
  | nil => intro _; rfl
  | cons d D ih =>
    intro h
    simp only [sumZ, h d List.mem_cons_self, ih fun x hx => h x (List.mem_cons_of_mem _ hx)]
    rfl
theorem sumZ_one {f : Nat → Int} {a : Nat} : ∀ {D : List Nat}, D.Pairwise (· < ·) → a ∈ D → (∀ d, d ≠ a → f d = 0) → sumZ f D = f a := by
  intro D
  induction D with
  | nil => intro _ h _; cases h
  | cons d D ih =>
    intro hD ha hz
    obtain ⟨h1, h2⟩ := List.pairwise_cons.mp hD
    rcases List.mem_cons.mp ha with rfl | q
    · have : sumZ f D = 0 := sumZ_none fun x hx => hz x (by have := h1 x hx; omega)
      simp only [sumZ, this]; omega
    · have hd : f d = 0 := hz d (by have := h1 a q; omega)
      simp only [sumZ, hd, ih h2 q hz]; omega
theorem sum_days (fam : Nat → Nat) (l : Nat) {D : List Nat} (hD : D.Pairwise (· < ·)) : ∀ (R : List Row), (∀ r ∈ R, r.2.2.2.1 = 0 → r.1 ∈ D) → sumZ (dayZ fam R l) D = totZ fam R l 0 := by
  intro R
  induction R with
  | nil => intro _; exact sumZ_none fun _ _ => rfl
  | cons r R ih =>
    intro h
    have e : dayZ fam (r :: R) l = fun d => nTerm fam l 0 (dOn d) r + dayZ fam R l d := rfl
    rw [e, sumZ_add, ih fun x hx => h x (List.mem_cons_of_mem _ hx)]
    show _ = nTerm fam l 0 dAll r + totZ fam R l 0
    congr 1
    by_cases h0 : r.2.2.2.1 = 0
    · rw [sumZ_one hD (h r List.mem_cons_self h0)]
      · unfold nTerm dOn dAll
        simp
      · intro d hd
        unfold nTerm dOn
        rw [if_neg]
        rintro ⟨-, q⟩
        have := of_decide_eq_true q
        exact hd this.symm
    · rw [sumZ_none]
      · unfold nTerm; rw [if_neg fun q => h0 q.1]
      · intro d _
        unfold nTerm; rw [if_neg fun q => h0 q.1]
theorem nzF_drop {net : Nat → Int} : ∀ {D : List Nat} {k : Nat}, (∀ i x, i < k → D[i]? = some x → net x = 0) → nzF net (D.drop k) = nzF net D ∧ sumZ net (D.drop k) = sumZ net D := by
  intro D
  induction D with
  | nil => intro k _; simp
  | cons d D ih =>
    intro k h
    cases k with
    | zero => exact ⟨rfl, rfl⟩
    | succ k =>
      have hd : net d = 0 := h 0 d (by omega) rfl
      obtain ⟨a, b⟩ := ih (k := k) fun i x hi hx => h (i + 1) x (by omega) (by simpa using hx)
      rw [List.drop_succ_cons, nzF_z hd]
      refine ⟨a, ?_⟩
      rw [b]
      simp only [sumZ, hd]; omega
theorem lendB_inv {fam : Nat → Nat} {rs : List Row} {l b : Nat} (h : lendB fam rs l b = true) : 0 < totZ fam rs l 0 ∧ totZ fam rs b 0 < 0 ∧ ∃ d r, nzD fam rs l (daysOf rs) = d :: r ∧ dayZ fam rs l d < 0 := by
  rw [lendB_eq] at h
  simp only [Bool.and_eq_true, decide_eq_true_eq] at h
  obtain ⟨⟨⟨⟨h1, h2⟩, h3⟩, h4⟩, h5⟩ := h
  refine ⟨h3, h4, ?_⟩
  unfold lendDay at h5
  cases hq : nzD fam rs l (daysOf rs) with
  | nil => rw [hq] at h5; cases h5
  | cons d r =>
    rw [hq] at h5
    dsimp only at h5
    refine ⟨d, r, rfl, ?_⟩
    by_cases q : dayZ fam rs l d < 0
    · exact q
    · rw [if_neg fun p => q p.1] at h5; cases h5
/-- what is out: the same by days of coin and by all days from the first on; more than nothing -/
theorem out_same {fam : Nat → Nat} {rs : List Row} {l b : Nat} (h : lendB fam rs l b = true) (hr : rsOk rs) : (∀ k, isFst (dayZ fam rs l) (daysOf rs) k → outZ (dayZ fam rs l) 0 ((daysOf rs).drop k) = outZ (dayZ fam rs l) 0 (cDays (rs.filter nzRow))) ∧ 0 < outZ (dayZ fam rs l) 0 (cDays (rs.filter nzRow)) ∧ outZ (dayZ fam rs l) 0 (cDays (rs.filter nzRow)) ≤ 1200000000000000000 := by
  obtain ⟨h1, -, d, r, h3, h4⟩ := lendB_inv h
  have hS := daysOf_sorted rs
  have hs : sumZ (dayZ fam rs l) (daysOf rs) = totZ fam rs l 0 := sum_days fam l hS rs fun x hx _ => daysOf_mem.mpr ⟨x, hx, rfl⟩
  have hN : nzF (dayZ fam rs l) (daysOf rs) = d :: r := h3
  have hNc : nzF (dayZ fam rs l) (cDays (rs.filter nzRow)) = d :: r := by
    rw [← h3]
    exact nzD_same fam rs l
  have hsc : sumZ (dayZ fam rs l) (cDays (rs.filter nzRow)) = totZ fam rs l 0 := by
    rw [← sumZ_nz, hNc, ← hN, sumZ_nz, hs]
  have e1 : outZ (dayZ fam rs l) 0 (cDays (rs.filter nzRow)) = outZ (dayZ fam rs l) 0 (d :: r) := by
    rw [outZ_0 _ _ (by omega), hNc]
  have hso : (d :: r).Pairwise (· < ·) := by rw [← hN]; exact hS.filter _
  have h40 : ∀ x ∈ d :: r, x < 4000 := fun x hx => by
    rw [← hN] at hx
    obtain ⟨y, y1, y2⟩ := daysOf_mem.mp (List.mem_filter.mp hx).1
    have := (hr.1 y y1).1
    omega
  have hlen : (d :: r).length ≤ 216 := by
    rw [← hN]
    exact Nat.le_trans (List.length_filter_le _ _) (Nat.le_trans (daysOf_len2 _ rs rfl) hr.2)
  have bnd : ∀ x, -1200000000000 ≤ dayZ fam rs l x ∧ dayZ fam rs l x ≤ 1200000000000 := fun x => net_bd hr fam l 0 (dOn x)
  refine ⟨fun k hk => ?_, ?_, ?_⟩
  · obtain ⟨a1, a2⟩ := nzF_drop (net := dayZ fam rs l) (D := daysOf rs) (k := k) hk.2.1
    rw [outZ_0 _ _ (by omega), a1, e1, hN]
  · rw [e1, outZ_P]
    cases r with
    | nil =>
      rw [← sumZ_nz, hN] at hs
      simp only [sumZ] at hs
      omega
    | cons e r =>
      obtain ⟨p1, p2⟩ := List.pairwise_cons.mp hso
      have hde := p1 e List.mem_cons_self
      have hnn := outP_nn (dayZ fam rs l) r e (0 + dayZ fam rs l d + dayZ fam rs l e) p2
      show 0 < (if 0 + dayZ fam rs l d < 0 then -(0 + dayZ fam rs l d) * ((e : Int) - d) else 0) + outP (dayZ fam rs l) e (0 + dayZ fam rs l d + dayZ fam rs l e) r
      rw [if_pos (by omega)]
      have : 0 < -(0 + dayZ fam rs l d) * ((e : Int) - d) := Int.mul_pos (by omega) (by omega)
      omega
  · rw [e1, outZ_P]
    have hd4 := h40 d List.mem_cons_self
    rw [List.length_cons] at hlen
    have := outP_le (dayZ fam rs l) (K := 300000000000000) (by decide) (fun x => (bnd x).1) r d (0 + dayZ fam rs l d) hso hd4 (fun x hx => h40 x (List.mem_cons_of_mem _ hx)) (by have := bnd d; omega)
    omega
/-- fractions: less; the least or the most of some -/
def less2 (p q : Nat × Nat) : Bool := decide (p.1 * q.2 < q.1 * p.2)
def prP (dl : Nat → DD) (fam : Nat → Nat) (ks : List Nat) (x c : Nat) : Nat × Nat := ((totZ fam (bRowsC dl c ks 5) x 0).toNat, (outZ (dayZ fam (bRowsC dl c ks 5) x) 0 (cDays (fRw dl ks c))).toNat)
def pick (lo : Bool) (p : Nat × Nat) : Option (Nat × Nat) → Nat × Nat
  | none => p
  | some q => if (if lo = true then less2 p q else less2 q p) = true then p else q
def prB (lo : Bool) (P : Nat → Nat × Nat) (cs : List Nat) : Option (Nat × Nat) := cs.foldl (fun acc c => some (pick lo (P c) acc)) none
theorem prB_snoc (lo : Bool) (P : Nat → Nat × Nat) (cs : List Nat) (c : Nat) : prB lo P (cs ++ [c]) = some (pick lo (P c) (prB lo P cs)) := by
  unfold prB
  rw [List.foldl_append]
  rfl
theorem prB_in {lo : Bool} {P : Nat → Nat × Nat} {Q : Nat × Nat → Prop} : ∀ {n : Nat} {cs : List Nat}, cs.length = n → (∀ c ∈ cs, Q (P c)) → ∀ q, prB lo P cs = some q → Q q := by
  intro n
  induction n with
  | zero => intro cs h _ q hq; rw [List.length_eq_zero_iff.mp h] at hq; cases hq
  | succ n ih =>
    intro cs h hQ q hq
    obtain ⟨ys, y, rfl⟩ : ∃ ys y, cs = ys ++ [y] := by
      rcases List.eq_nil_or_concat cs with z | ⟨ys, y, z⟩
      · rw [z] at h; cases h
      · exact ⟨ys, y, by rw [z, List.concat_eq_append]⟩
    rw [prB_snoc] at hq
    cases hq
    have hy := hQ y (by simp)
    have hl : ys.length = n := by simpa using h
    cases hp : prB lo P ys with
    | none => exact hy
    | some q =>
      have hq := ih hl (fun c hc => hQ c (by simp [hc])) q hp
      have e : pick lo (P y) (some q) = if (if lo = true then less2 (P y) q else less2 q (P y)) = true then P y else q := rfl
      rw [e]
      by_cases z : (if lo = true then less2 (P y) q else less2 q (P y)) = true
      · rw [if_pos z]; exact hy
      · rw [if_neg z]; exact hq
/-- the codes by which one lends to another -/
def lcs (dl : Nat → DD) (fam : Nat → Nat) (ks : List Nat) (x y c : Nat) : List Nat := (cds (evS dl ks) c).filter fun c => lendB fam (bRowsC dl c ks 5) x y
def minus1 : Int64 := -1
def priceF (dl : Nat → DD) (fam : Nat → Nat) (ks : List Nat) (l b what : Int32) : Int64 := match two l b with
  | none => minus1
  | some p => match dOf 4 what with
    | none => minus1
    | some w => if lookB dl ks = true then (match prB (decide (w < 2)) (prP dl fam ks p.1) (lcs dl fam ks p.1 p.2 (codN dl ks)) with
      | none => minus1
      | some q => Int64.ofNat ((if w % 2 = 0 then q.1 else q.2) / Nat.gcd q.1 q.2)) else minus1
/-- the least coin -/
def minZ (f : Nat → Int) (cs : List Nat) : Option Int := cs.foldl (fun acc c => match acc with | none => some (f c) | some a => some (if f c < a then f c else a)) none
theorem minZ_snoc (f : Nat → Int) (cs : List Nat) (c : Nat) : minZ f (cs ++ [c]) = match minZ f cs with | none => some (f c) | some a => some (if f c < a then f c else a) := by
  unfold minZ
  rw [List.foldl_append]
  rfl
theorem minZ_in {f : Nat → Int} {Q : Int → Prop} : ∀ {n : Nat} {cs : List Nat}, cs.length = n → (∀ c ∈ cs, Q (f c)) → ∀ q, minZ f cs = some q → Q q := by
  intro n
  induction n with
  | zero => intro cs h _ q hq; rw [List.length_eq_zero_iff.mp h] at hq; cases hq
  | succ n ih =>
    intro cs h hQ q hq
    obtain ⟨ys, y, rfl⟩ : ∃ ys y, cs = ys ++ [y] := by
      rcases List.eq_nil_or_concat cs with z | ⟨ys, y, z⟩
      · rw [z] at h; cases h
      · exact ⟨ys, y, by rw [z, List.concat_eq_append]⟩
    rw [minZ_snoc] at hq
    have hy := hQ y (by simp)
    have hl : ys.length = n := by simpa using h
    cases hp : minZ f ys with
    | none => rw [hp] at hq; cases hq; exact hy
    | some a =>
      rw [hp] at hq
      have ha := ih hl (fun c hc => hQ c (by simp [hc])) a hp
      cases hq
      split
      · exact hy
      · exact ha
def stepF (dl : Nat → DD) (fam : Nat → Nat) (ks : List Nat) : Int64 := match loanV dl ks fam with
  | none => minus1
  | some k => match minZ (fun c => totZ fam (bRowsC dl c ks 5) (k / 8) 0) (cds (evS dl ks) (codN dl ks)) with
    | none => minus1
    | some v => Int64.ofInt v
theorem loanV_inv {dl : Nat → DD} {fam : Nat → Nat} {ks : List Nat} {k : Nat} (h : loanV dl ks fam = some k) : k < 64 ∧ ∀ c ∈ cds (evS dl ks) (codN dl ks), 0 < totZ fam (bRowsC dl c ks 5) (k / 8) 0 := by
  unfold loanV at h
  split at h
  · rw [List.find?_range_eq_some] at h
    obtain ⟨h1, h2, -⟩ := h
    have h2 : k < 64 := by simpa using h2
    refine ⟨h2, fun c hc => ?_⟩
    have e : k = 8 * (k / 8) + k % 8 := by omega
    rw [e, show 32 * 2 ^ chS dl ks = codN dl ks from rfl, may_cds dl ks fam (codN_pos dl ks) (Nat.mod_lt _ (by decide))] at h1
    exact (lendB_inv (List.all_eq_true.mp h1 c hc)).1
  · cases h
def bearsF (dl : Nat → DD) (fam : Nat → Nat) (ks : List Nat) (f ev : Int32) : Int64 := match dOf 8 f with
  | none => noNet
  | some f => match dOf 5 ev with
    | none => noNet
    | some e => Int64.ofInt (totZ fam (bRowsC dl (1 <<< e) ks 5) f 0 - totZ fam (bRowsC dl 0 ks 5) f 0)
/-- what others pay: the sum, the most, who -/
def costT (fam : Nat → Nat) (rs : List Row) (x y f : Nat) : Int := if f = x ∨ f = y then 0 else totZ fam rs f 0
def costN (v : Int) (f : Nat) (s : Int × Int × Option Nat) : Int × Int × Option Nat := if v ≤ 0 then s else if v ≤ s.2.1 then (s.1 + v, s.2) else (s.1 + v, v, some f)
def costS (fam : Nat → Nat) (rs : List Row) (x y : Nat) : Nat → Int × Int × Option Nat
  | 0 => (0, 0, none)
  | f + 1 => costN (costT fam rs x y f) f (costS fam rs x y f)
def oL : Option Nat → Int64
  | none => minus1
  | some k => Int64.ofNat k
def costF (dl : Nat → DD) (fam : Nat → Nat) (ks : List Nat) (l b what : Int32) : Int64 := match two l b with
  | none => minus1
  | some p => match dOf 2 what with
    | none => minus1
    | some w => if w = 0 then Int64.ofInt (costS fam (bRowsC dl 0 ks 5) p.1 p.2 8).1 else oL (costS fam (bRowsC dl 0 ks 5) p.1 p.2 8).2.2
theorem costS_bd {fam : Nat → Nat} {rs : List Row} (hr : rsOk rs) (x y : Nat) : ∀ n, 0 ≤ (costS fam rs x y n).1 ∧ (costS fam rs x y n).1 ≤ 1200000000000 * n ∧ 0 ≤ (costS fam rs x y n).2.1 ∧ (costS fam rs x y n).2.1 ≤ 1200000000000 ∧ ∀ k, (costS fam rs x y n).2.2 = some k → k < n := by
  intro n
  induction n with
  | zero => exact ⟨Int.le_refl 0, Int.le_refl 0, Int.le_refl 0, by show (0 : Int) ≤ 1200000000000; decide, fun k h => by cases h⟩
  | succ n ih =>
    obtain ⟨a, b, c, d, e⟩ := ih
    have hb : costT fam rs x y n ≤ 1200000000000 := by
      unfold costT
      split
      · decide
      · exact (net_bd hr fam n 0 dAll).2
    show 0 ≤ (costN _ _ _).1 ∧ _
    simp only [costS]
    unfold costN
    split
    · exact ⟨a, by omega, c, d, fun k hk => by have := e k hk; omega⟩
    · split
      · refine ⟨by dsimp only; omega, by dsimp only; omega, c, d, fun k hk => by have := e k hk; omega⟩
      · refine ⟨by dsimp only; omega, by dsimp only; omega, by dsimp only; omega, by dsimp only; omega, fun k hk => ?_⟩
        dsimp only at hk
        cases hk
        omega
