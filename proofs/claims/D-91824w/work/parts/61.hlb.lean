/-! LAYER 4i2: the class's heap: lookups after changes -/
theorem oF_set_eq (h : gH) (a c k : Nat) (cs : List Nat) (fs : List ga_V) : ga_oF (ga_set h a (.inr (c, fs))) (some a) cs k = if cs.contains c = true then fs[k]? else none := by
  simp only [ga_oF, set_at]
theorem oF_set_ne {h : gH} {a a' k : Nat} {c : ga_Ce} {cs : List Nat} (e : a ≠ a') : ga_oF (ga_set h a' c) (some a) cs k = ga_oF h (some a) cs k := by
  simp only [ga_oF, set_ne e]
theorem oO_set_eq (h : gH) (a c : Nat) (cs : List Nat) (fs : List ga_V) : ga_oO (ga_set h a (.inr (c, fs))) (some a) cs = if cs.contains c = true then some (a, c, fs) else none := by
  simp only [ga_oO, set_at]
theorem oO_set_ne {h : gH} {a a' : Nat} {c : ga_Ce} {cs : List Nat} (e : a ≠ a') : ga_oO (ga_set h a' c) (some a) cs = ga_oO h (some a) cs := by
  simp only [ga_oO, set_ne e]
theorem aR_set_eq (h : gH) (a k k' n : Nat) (f : ga_Ct) : ga_aR (ga_set h a (.inl (k', n, f))) (some a) k = if k' = k then some (a, n, f) else none := by
  simp only [ga_aR, set_at]
theorem aR_set_ne {h : gH} {a a' k : Nat} {c : ga_Ce} (e : a ≠ a') : ga_aR (ga_set h a' c) (some a) k = ga_aR h (some a) k := by
  simp only [ga_aR, set_ne e]
theorem set_2 (h : gH) (a : Nat) (c : ga_Ce) : (ga_set h a c).2 = h.2 := rfl
theorem lk_cons (a k b : Nat) (t : List (Nat × Nat)) : ((k, b) :: t).lookup a = if a = k then some b else t.lookup a := by
  rw [List.lookup_cons]
  by_cases e : a = k
  · subst e; simp
  · have : (a == k) = false := by simpa using e
    rw [this, if_neg e]
theorem ds_set_ne {h : gH} {a a' : Nat} {c : ga_Ce} {vs : List ga_V} {t : List (Nat × Nat)} (e : a ≠ a') : ga_ds (ga_set h a' c) (.inr (.inr (some a)) :: vs) t = ga_ds h (.inr (.inr (some a)) :: vs) t := by
  simp only [ga_ds, set_ne e]
theorem ds_set_eq (h : gH) (a c : Nat) (fs vs : List ga_V) (t : List (Nat × Nat)) : ga_ds (ga_set h a (.inr (c, fs))) (.inr (.inr (some a)) :: vs) t = t.lookup c := by
  simp only [ga_ds, set_at]
