/-! LAYER 4d: ints as numbers -/
theorem i32_toInt {i : Nat} (h : i < 2 ^ 31) : (Int32.ofNat i).toInt = i := Int32.toInt_ofNat_small h
theorem i32_lt {i n : Nat} (hi : i < 2 ^ 31) (hn : n < 2 ^ 31) : Int32.ofNat i < Int32.ofNat n ↔ i < n := by
  rw [Int32.lt_iff_toInt_lt, Int32.toInt_ofNat_small hi, Int32.toInt_ofNat_small hn]
  omega
theorem i32_le {i n : Nat} (hi : i < 2 ^ 31) (hn : n < 2 ^ 31) : Int32.ofNat i ≤ Int32.ofNat n ↔ i ≤ n := by
  rw [Int32.le_iff_toInt_le, Int32.toInt_ofNat_small hi, Int32.toInt_ofNat_small hn]
  omega
theorem i32_eq {i n : Nat} (hi : i < 2 ^ 31) (hn : n < 2 ^ 31) : Int32.ofNat i = Int32.ofNat n ↔ i = n := by
  constructor
  · intro h
    have := congrArg Int32.toInt h
    rw [Int32.toInt_ofNat_small hi, Int32.toInt_ofNat_small hn] at this
    omega
  · rintro rfl; rfl
theorem i32_clamp {i : Nat} (hi : i < 2 ^ 31) : (Int32.ofNat i).toNatClampNeg = i := by
  unfold Int32.toNatClampNeg
  rw [Int32.toInt_ofNat_small hi]
  rfl
theorem i32_succ (i : Nat) : Int32.ofNat i + 1 = Int32.ofNat (i + 1) := by
  rw [Int32.ofNat_add]; rfl
theorem i32_add (i j : Nat) : Int32.ofNat i + Int32.ofNat j = Int32.ofNat (i + j) := by
  rw [Int32.ofNat_add]
theorem i32_in {i n : Nat} (h : i < n) (hn : n < 2 ^ 31) : vp_in (Int32.ofNat i) n := by
  unfold vp_in
  rw [i32_clamp (by omega), Int32.lt_iff_toInt_lt, Int32.toInt_ofNat_small (by omega)]
  show ¬ ((i : Int) < 0 ∨ n ≤ i)
  omega
theorem i32_nat {x : Int32} {n : Nat} (h0 : 0 ≤ x.toInt) (h1 : x.toInt < n) : ∃ k : Nat, k < n ∧ x = Int32.ofNat k := by
  refine ⟨x.toInt.toNat, by omega, ?_⟩
  apply Int32.toInt_inj.mp
  have := Int32.toInt_lt x
  rw [Int32.toInt_ofNat_small (by omega)]
  omega
/-- a heap's lookups -/
theorem oF_at {h : ga_H} {a c k : Nat} {cs : List Nat} {fs : List ga_V} (ha : h.1 a = some (.inr (c, fs))) (hc : cs.contains c = true) : ga_oF h (some a) cs k = fs[k]? := by
  simp [ga_oF, ha, List.contains_iff_mem.mp hc]
theorem oO_at {h : ga_H} {a c : Nat} {cs : List Nat} {fs : List ga_V} (ha : h.1 a = some (.inr (c, fs))) (hc : cs.contains c = true) : ga_oO h (some a) cs = some (a, c, fs) := by
  simp [ga_oO, ha, List.contains_iff_mem.mp hc]
theorem aR_at {h : ga_H} {a k n : Nat} {f : ga_Ct} (ha : h.1 a = some (.inl (k, n, f))) : ga_aR h (some a) k = some (a, n, f) := by
  simp [ga_aR, ha]
theorem set_at (h : ga_H) (a : Nat) (c : ga_Ce) : (ga_set h a c).1 a = some c := by simp [ga_set]
theorem set_ne {h : ga_H} {a x : Nat} {c : ga_Ce} (e : x ≠ a) : (ga_set h a c).1 x = h.1 x := by simp [ga_set, e]
theorem new_at (h : ga_H) (c : ga_Ce) (k : Nat) : (ga_new h c k).1 h.2.1 = some c := by simp [ga_new]
theorem new_ne {h : ga_H} {x k : Nat} {c : ga_Ce} (e : x ≠ h.2.1) : (ga_new h c k).1 x = h.1 x := by simp [ga_new, e]
theorem i64_mul (i j : Nat) : Int64.ofNat i * Int64.ofNat j = Int64.ofNat (i * j) := by
  rw [Int64.ofNat_mul]
theorem i64_add (i j : Nat) : Int64.ofNat i + Int64.ofNat j = Int64.ofNat (i + j) := by
  rw [Int64.ofNat_add]
theorem i32_mul (i j : Nat) : Int32.ofNat i * Int32.ofNat j = Int32.ofNat (i * j) := by
  rw [Int32.ofNat_mul]
theorem i32_sub {i j : Nat} (h : j ≤ i) : Int32.ofNat i - Int32.ofNat j = Int32.ofNat (i - j) := by
  have : Int32.ofNat i = Int32.ofNat (i - j) + Int32.ofNat j := by rw [i32_add]; congr 1; omega
  rw [this, Int32.add_sub_cancel]
theorem i32_64 {i : Nat} (h : i < 2 ^ 31) : (Int32.ofNat i).toInt64 = Int64.ofNat i := by
  apply Int64.toInt_inj.mp
  rw [Int32.toInt_toInt64, Int32.toInt_ofNat_small h, Int64.toInt_ofNat_of_lt (by omega)]
def mone : Int32 := -1
theorem Lm1 : (-1 : Int32) = mone := rfl
theorem L0 : (0 : Int32) = Int32.ofNat 0 := rfl
theorem L1 : (1 : Int32) = Int32.ofNat 1 := rfl
theorem L2 : (2 : Int32) = Int32.ofNat 2 := rfl
theorem L3 : (3 : Int32) = Int32.ofNat 3 := rfl
theorem L4 : (4 : Int32) = Int32.ofNat 4 := rfl
theorem L5 : (5 : Int32) = Int32.ofNat 5 := rfl
theorem L6 : (6 : Int32) = Int32.ofNat 6 := rfl
theorem L7 : (7 : Int32) = Int32.ofNat 7 := rfl
theorem L8 : (8 : Int32) = Int32.ofNat 8 := rfl
theorem L9 : (9 : Int32) = Int32.ofNat 9 := rfl
theorem L10 : (10 : Int32) = Int32.ofNat 10 := rfl
theorem L12 : (12 : Int32) = Int32.ofNat 12 := rfl
theorem L15 : (15 : Int32) = Int32.ofNat 15 := rfl
theorem L16 : (16 : Int32) = Int32.ofNat 16 := rfl
theorem L17 : (17 : Int32) = Int32.ofNat 17 := rfl
theorem L18 : (18 : Int32) = Int32.ofNat 18 := rfl
theorem L20 : (20 : Int32) = Int32.ofNat 20 := rfl
theorem L24 : (24 : Int32) = Int32.ofNat 24 := rfl
theorem L26 : (26 : Int32) = Int32.ofNat 26 := rfl
theorem L31 : (31 : Int32) = Int32.ofNat 31 := rfl
theorem L32 : (32 : Int32) = Int32.ofNat 32 := rfl
theorem L36 : (36 : Int32) = Int32.ofNat 36 := rfl
theorem L48 : (48 : Int32) = Int32.ofNat 48 := rfl
theorem L62 : (62 : Int32) = Int32.ofNat 62 := rfl
theorem L64 : (64 : Int32) = Int32.ofNat 64 := rfl
theorem L72 : (72 : Int32) = Int32.ofNat 72 := rfl
theorem L96 : (96 : Int32) = Int32.ofNat 96 := rfl
theorem L97 : (97 : Int32) = Int32.ofNat 97 := rfl
theorem L122 : (122 : Int32) = Int32.ofNat 122 := rfl
theorem L200 : (200 : Int32) = Int32.ofNat 200 := rfl
theorem L255 : (255 : Int32) = Int32.ofNat 255 := rfl
theorem L256 : (256 : Int32) = Int32.ofNat 256 := rfl
theorem L399 : (399 : Int32) = Int32.ofNat 399 := rfl
theorem L400 : (400 : Int32) = Int32.ofNat 400 := rfl
theorem L600 : (600 : Int32) = Int32.ofNat 600 := rfl
theorem L800 : (800 : Int32) = Int32.ofNat 800 := rfl
theorem L9999 : (9999 : Int32) = Int32.ofNat 9999 := rfl
theorem L1000000 : (1000000 : Int32) = Int32.ofNat 1000000 := rfl
theorem mone_lt {k : Nat} (h : k < 2 ^ 31) : (mone < Int32.ofNat k) = True := by
  rw [Int32.lt_iff_toInt_lt, Int32.toInt_ofNat_small h]
  exact eq_true (by show ((-1 : Int) < k); omega)
theorem mone_nlt {k : Nat} (h : k < 2 ^ 31) : (Int32.ofNat k < mone) = False := by
  rw [Int32.lt_iff_toInt_lt, Int32.toInt_ofNat_small h]
  exact eq_false (by show ¬ ((k : Int) < -1); omega)
theorem mone_le {k : Nat} (h : k < 2 ^ 31) : (mone ≤ Int32.ofNat k) = True := by
  rw [Int32.le_iff_toInt_le, Int32.toInt_ofNat_small h]
  exact eq_true (by show ((-1 : Int) ≤ k); omega)
theorem mone_nle {k : Nat} (h : k < 2 ^ 31) : (Int32.ofNat k ≤ mone) = False := by
  rw [Int32.le_iff_toInt_le, Int32.toInt_ofNat_small h]
  exact eq_false (by show ¬ ((k : Int) ≤ -1); omega)
theorem mone_ne {k : Nat} (h : k < 2 ^ 31) : (Int32.ofNat k = mone) = False := by
  refine eq_false fun e => ?_
  have := congrArg Int32.toInt e
  rw [Int32.toInt_ofNat_small h] at this
  have h2 : mone.toInt = -1 := rfl
  omega
theorem mone_ne' {k : Nat} (h : k < 2 ^ 31) : (mone = Int32.ofNat k) = False := by
  refine eq_false fun e => ?_
  have := mone_ne h
  rw [e] at this
  simp at this
theorem M0 : (0 : Int64) = Int64.ofNat 0 := rfl
theorem M1 : (1 : Int64) = Int64.ofNat 1 := rfl
theorem i64_lt {i n : Nat} (hi : i < 2 ^ 63) (hn : n < 2 ^ 63) : Int64.ofNat i < Int64.ofNat n ↔ i < n := by
  rw [Int64.lt_iff_toInt_lt, Int64.toInt_ofNat_of_lt hi, Int64.toInt_ofNat_of_lt hn]
  omega
theorem i64_le {i n : Nat} (hi : i < 2 ^ 63) (hn : n < 2 ^ 63) : Int64.ofNat i ≤ Int64.ofNat n ↔ i ≤ n := by
  rw [Int64.le_iff_toInt_le, Int64.toInt_ofNat_of_lt hi, Int64.toInt_ofNat_of_lt hn]
  omega
theorem i64_eq {i n : Nat} (hi : i < 2 ^ 63) (hn : n < 2 ^ 63) : Int64.ofNat i = Int64.ofNat n ↔ i = n := by
  constructor
  · intro h
    have := congrArg Int64.toInt h
    rw [Int64.toInt_ofNat_of_lt hi, Int64.toInt_ofNat_of_lt hn] at this
    omega
  · rintro rfl; rfl
/-- a run whose outcome is told -/
theorem ruI {m d y : Nat} {vs : List ga_V} {σ τ : MS} {r : Int32} (h : ∃ v h', RM m d y vs σ (some (.inl v)) h' ∧ (v = r ∧ h' = τ)) : RM m d y vs σ (some (.inl r)) τ := by
  obtain ⟨v, h', p, rfl, rfl⟩ := h; exact p
theorem ruL {m d y : Nat} {vs : List ga_V} {σ τ : MS} {r : Int64} (h : ∃ v h', RM m d y vs σ (some (.inr (.inl v))) h' ∧ (v = r ∧ h' = τ)) : RM m d y vs σ (some (.inr (.inl r))) τ := by
  obtain ⟨v, h', p, rfl, rfl⟩ := h; exact p
theorem ruU {m d y : Nat} {vs : List ga_V} {σ τ : MS} (h : ∃ h', RM m d y vs σ none h' ∧ (h' = τ)) : RM m d y vs σ none τ := by
  obtain ⟨h', p, rfl⟩ := h; exact p
theorem rnI {b d y : Nat} {sa : Nat → Nat} {vs : List ga_V} {σ τ : gH} {r : Int32} (h : ∃ v h', RN b sa d y vs σ (some (.inl v)) h' ∧ (v = r ∧ h' = τ)) : RN b sa d y vs σ (some (.inl r)) τ := by
  obtain ⟨v, h', p, rfl, rfl⟩ := h; exact p
theorem rnL {b d y : Nat} {sa : Nat → Nat} {vs : List ga_V} {σ τ : gH} {r : Int64} (h : ∃ v h', RN b sa d y vs σ (some (.inr (.inl v))) h' ∧ (v = r ∧ h' = τ)) : RN b sa d y vs σ (some (.inr (.inl r))) τ := by
  obtain ⟨v, h', p, rfl, rfl⟩ := h; exact p
theorem rnR {b d y : Nat} {sa : Nat → Nat} {vs : List ga_V} {σ τ : gH} {r : Option Nat} (h : ∃ v h', RN b sa d y vs σ (some (.inr (.inr v))) h' ∧ (v = r ∧ h' = τ)) : RN b sa d y vs σ (some (.inr (.inr r))) τ := by
  obtain ⟨v, h', p, rfl, rfl⟩ := h; exact p
theorem rnU {b d y : Nat} {sa : Nat → Nat} {vs : List ga_V} {σ τ : gH} (h : ∃ h', RN b sa d y vs σ none h' ∧ (h' = τ)) : RN b sa d y vs σ none τ := by
  obtain ⟨h', p, rfl⟩ := h; exact p
