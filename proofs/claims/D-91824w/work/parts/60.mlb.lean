/-! LAYER 4i: the reference: its state, what stays -/
theorem mLen_0 : mLen 0 = 8 := rfl
theorem mLen_2 : mLen 2 = 24 := rfl
theorem mLen_3 : mLen 3 = 24 := rfl
theorem mLen_4 : mLen 4 = 24 := rfl
theorem mLen_5 : mLen 5 = 24 := rfl
theorem mLen_6 : mLen 6 = 24 := rfl
theorem mLen_7 : mLen 7 = 2304 := rfl
theorem mLen_8 : mLen 8 = 2304 := rfl
theorem mLen_9 : mLen 9 = 2304 := rfl
theorem mLen_10 : mLen 10 = 2304 := rfl
theorem mLen_11 : mLen 11 = 2304 := rfl
theorem mLen_12 : mLen 12 = 2304 := rfl
theorem mLen_13 : mLen 13 = 2304 := rfl
theorem mLen_14 : mLen 14 = 2304 := rfl
theorem mLen_15 : mLen 15 = 2304 := rfl
theorem mLen_16 : mLen 16 = 2304 := rfl
theorem mLen_17 : mLen 17 = 2304 := rfl
theorem mLen_18 : mLen 18 = 2304 := rfl
theorem mLen_19 : mLen 19 = 2304 := rfl
theorem mLen_20 : mLen 20 = 600 := rfl
theorem mLen_30 : mLen 30 = 6 := rfl
theorem mLen_31 : mLen 31 = 6 := rfl
theorem mLen_38 : mLen 38 = 96 := rfl
theorem mLen_39 : mLen 39 = 96 := rfl
theorem mLen_40 : mLen 40 = 96 := rfl
theorem mLen_44 : mLen 44 = 1600 := rfl
theorem mLen_46 : mLen 46 = 8 := rfl
theorem mLen_49 : mLen 49 = 256 := rfl
theorem mLen_50 : mLen 50 = 256 := rfl
theorem mLen_51 : mLen 51 = 256 := rfl
theorem mLen_52 : mLen 52 = 256 := rfl
theorem mLen_53 : mLen 53 = 256 := rfl
theorem mLen_56 : mLen 56 = 6 := rfl
theorem mLen_57 : mLen 57 = 6 := rfl
theorem mLen_62 : mLen 62 = 256 := rfl
theorem mLen_63 : mLen 63 = 8 := rfl
theorem mLen_64 : mLen 64 = 8 := rfl
theorem mLen_65 : mLen 65 = 8 := rfl
theorem mLen_66 : mLen 66 = 8 := rfl
theorem mLen_69 : mLen 69 = 6 := rfl
theorem mLen_70 : mLen 70 = 12 := rfl
theorem mLen_71 : mLen 71 = 240 := rfl
theorem mLen_72 : mLen 72 = 240 := rfl
theorem mLen_73 : mLen 73 = 240 := rfl
theorem mLen_74 : mLen 74 = 240 := rfl
theorem mLen_75 : mLen 75 = 240 := rfl
theorem mLen_76 : mLen 76 = 240 := rfl
theorem mLen_77 : mLen 77 = 240 := rfl
theorem mLen_81 : mLen 81 = 72 := rfl
theorem mLen_82 : mLen 82 = 72 := rfl
theorem mLen_86 : mLen 86 = 10 := rfl
theorem mLen_87 : mLen 87 = 1024 := rfl
theorem mLen_89 : mLen 89 = 6 := rfl
theorem mLen_90 : mLen 90 = 36 := rfl
theorem mLen_91 : mLen 91 = 48 := rfl
theorem mLen_92 : mLen 92 = 24 := rfl
def bI (b : Bool) : Int32 := if b = true then 1 else 0
theorem bI_0 (b : Bool) : (bI b = 0) = (b = false) := by cases b <;> simp [bI]
theorem bI_1 (b : Bool) : (bI b = 1) = (b = true) := by cases b <;> simp [bI]
theorem bI_ok (b : Bool) : bI b = 0 ∨ bI b = 1 := by cases b <;> simp [bI]
def mFr (F : List Nat) (σ τ : MS) : Prop := ∀ k, k ∉ F → τ.1 k = σ.1 k ∧ τ.2.1 k = σ.2.1 k ∧ τ.2.2.1 k = σ.2.2.1 k ∧ τ.2.2.2 k = σ.2.2.2 k
theorem mFr_rfl (F : List Nat) (σ : MS) : mFr F σ σ := fun _ _ => ⟨rfl, rfl, rfl, rfl⟩
theorem mFr.trans {F : List Nat} {σ τ υ : MS} (h : mFr F σ τ) (k : mFr F τ υ) : mFr F σ υ := fun j hj => by
  obtain ⟨a1, a2, a3, a4⟩ := h j hj
  obtain ⟨b1, b2, b3, b4⟩ := k j hj
  exact ⟨b1.trans a1, b2.trans a2, b3.trans a3, b4.trans a4⟩
theorem mFr.mono {F G : List Nat} {σ τ : MS} (h : mFr F σ τ) (q : F.all (fun k => G.contains k) = true) : mFr G σ τ := fun j hj => h j fun hF => hj (by
  have := List.all_eq_true.mp q j hF
  simpa using this)
theorem mFr_mset {F : List Nat} {σ τ : MS} {k : Nat} {v : Int32} (hk : k ∈ F) : mFr F σ (mset τ k v) ↔ mFr F σ τ := by
  refine forall_congr' fun j => ?_
  refine forall_congr' fun hj => ?_
  have : j ≠ k := fun e => hj (e ▸ hk)
  simp [mset, va_up, this]
theorem mFr_msetL {F : List Nat} {σ τ : MS} {k : Nat} {v : Int64} (hk : k ∈ F) : mFr F σ (msetL τ k v) ↔ mFr F σ τ := by
  refine forall_congr' fun j => ?_
  refine forall_congr' fun hj => ?_
  have : j ≠ k := fun e => hj (e ▸ hk)
  simp [msetL, va_up, this]
theorem mFr_mas {F : List Nat} {σ τ : MS} {k i : Nat} {v : Int32} (hk : k ∈ F) : mFr F σ (mas τ k i v) ↔ mFr F σ τ := by
  refine forall_congr' fun j => ?_
  refine forall_congr' fun hj => ?_
  have : j ≠ k := fun e => hj (e ▸ hk)
  simp [mas, va_up, this]
theorem mFr_masL {F : List Nat} {σ τ : MS} {k i : Nat} {v : Int64} (hk : k ∈ F) : mFr F σ (masL τ k i v) ↔ mFr F σ τ := by
  refine forall_congr' fun j => ?_
  refine forall_congr' fun hj => ?_
  have : j ≠ k := fun e => hj (e ▸ hk)
  simp [masL, va_up, this]
theorem up_at {α : Type} (f : Nat → α) (k : Nat) (v : α) : va_up f k v k = v := by simp [va_up]
theorem up_ne {α : Type} {f : Nat → α} {k j : Nat} {v : α} (h : j ≠ k) : va_up f k v j = f j := by simp [va_up, h]
/-- one more step of a loop -/
theorem for_step {η : Type} {c : ga_Co η} {u b : ga_Sm η} (hc : pc c) (hu : ps u) (hb : ps b) {N C : ga_Env → η → Prop} {R : Option ga_V → η → Prop} {e : ga_Env} {h : η}
    (q : c (fun h1 => b (fun e2 h2 => u (fun e3 h3 => sFor c u b N C R e3 h3) (fun _ _ => False) R e2 h2) (fun e2 h2 => u (fun e3 h3 => sFor c u b N C R e3 h3) (fun _ _ => False) R e2 h2) R e h1) (fun h1 => N e h1) e h) : sFor c u b N C R e h := by
  obtain ⟨t, h1, q1, g1⟩ := hc _ _ e h q
  cases t with
  | false => exact ⟨1, g1 _ _ q1⟩
  | true =>
    obtain ⟨o, q2, g2⟩ := hb _ _ _ e h1 q1
    rcases o with ⟨e2, h2⟩ | ⟨e2, h2⟩ | ⟨r, h2⟩
    · obtain ⟨o3, q3, g3⟩ := hu _ _ _ e2 h2 q2
      rcases o3 with ⟨e3, h3⟩ | ⟨e3, h3⟩ | ⟨r, h3⟩
      · obtain ⟨n, hn⟩ := q3
        exact ⟨n + 1, g1 _ _ (g2 _ _ _ (g3 _ _ _ hn))⟩
      · exact q3.elim
      · exact ⟨1, g1 _ _ (g2 _ _ _ (g3 _ _ _ q3))⟩
    · obtain ⟨o3, q3, g3⟩ := hu _ _ _ e2 h2 q2
      rcases o3 with ⟨e3, h3⟩ | ⟨e3, h3⟩ | ⟨r, h3⟩
      · obtain ⟨n, hn⟩ := q3
        exact ⟨n + 1, g1 _ _ (g2 _ _ _ (g3 _ _ _ hn))⟩
      · exact q3.elim
      · exact ⟨1, g1 _ _ (g2 _ _ _ (g3 _ _ _ q3))⟩
    · exact ⟨1, g1 _ _ (g2 _ _ _ q2)⟩
theorem mset_i (σ : MS) (k : Nat) (v : Int32) (j : Nat) : (mset σ k v).1 j = if j = k then v else σ.1 j := rfl
theorem mset_l (σ : MS) (k : Nat) (v : Int32) : (mset σ k v).2.1 = σ.2.1 := rfl
theorem mset_a (σ : MS) (k : Nat) (v : Int32) : (mset σ k v).2.2.1 = σ.2.2.1 := rfl
theorem mset_b (σ : MS) (k : Nat) (v : Int32) : (mset σ k v).2.2.2 = σ.2.2.2 := rfl
theorem msetL_i (σ : MS) (k : Nat) (v : Int64) : (msetL σ k v).1 = σ.1 := rfl
theorem msetL_l (σ : MS) (k : Nat) (v : Int64) (j : Nat) : (msetL σ k v).2.1 j = if j = k then v else σ.2.1 j := rfl
theorem msetL_a (σ : MS) (k : Nat) (v : Int64) : (msetL σ k v).2.2.1 = σ.2.2.1 := rfl
theorem msetL_b (σ : MS) (k : Nat) (v : Int64) : (msetL σ k v).2.2.2 = σ.2.2.2 := rfl
theorem mas_i (σ : MS) (k i : Nat) (v : Int32) : (mas σ k i v).1 = σ.1 := rfl
theorem mas_l (σ : MS) (k i : Nat) (v : Int32) : (mas σ k i v).2.1 = σ.2.1 := rfl
theorem mas_a (σ : MS) (k i : Nat) (v : Int32) (j : Nat) : (mas σ k i v).2.2.1 j = if j = k then va_up (σ.2.2.1 k) i v else σ.2.2.1 j := rfl
theorem mas_b (σ : MS) (k i : Nat) (v : Int32) : (mas σ k i v).2.2.2 = σ.2.2.2 := rfl
theorem masL_i (σ : MS) (k i : Nat) (v : Int64) : (masL σ k i v).1 = σ.1 := rfl
theorem masL_l (σ : MS) (k i : Nat) (v : Int64) : (masL σ k i v).2.1 = σ.2.1 := rfl
theorem masL_a (σ : MS) (k i : Nat) (v : Int64) : (masL σ k i v).2.2.1 = σ.2.2.1 := rfl
theorem masL_b (σ : MS) (k i : Nat) (v : Int64) (j : Nat) : (masL σ k i v).2.2.2 j = if j = k then va_up (σ.2.2.2 k) i v else σ.2.2.2 j := rfl
