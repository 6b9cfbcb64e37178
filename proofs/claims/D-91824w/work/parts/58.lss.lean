/-! LAYER 4m: pure: fractions compared, divisors -/
theorem div_less {x y u v : Nat} (hy : 0 < y) (hv : 0 < v) (h : x / y < u / v) : x * v < u * y := by
  have h1 : x < y * (x / y + 1) := Nat.lt_mul_div_succ x hy
  have h2 : v * (u / v) ≤ u := Nat.mul_div_le u v
  calc x * v < y * (x / y + 1) * v := Nat.mul_lt_mul_of_pos_right h1 hv
    _ ≤ y * (u / v) * v := Nat.mul_le_mul_right v (Nat.mul_le_mul_left y h)
    _ = v * (u / v) * y := by rw [Nat.mul_assoc, Nat.mul_comm, Nat.mul_comm (u / v) v]
    _ ≤ u * y := Nat.mul_le_mul_right y h2
theorem div_same {x y u v : Nat} (h : x / y = u / v) : (x * v < u * y ↔ (x % y) * v < (u % v) * y) := by
  have h1 : y * (x / y) + x % y = x := Nat.div_add_mod x y
  have h2 : v * (u / v) + u % v = u := Nat.div_add_mod u v
  have e1 : x * v = y * (x / y) * v + (x % y) * v := by rw [← Nat.add_mul, h1]
  have e2 : u * y = v * (u / v) * y + (u % v) * y := by rw [← Nat.add_mul, h2]
  have e3 : y * (x / y) * v = v * (u / v) * y := by
    rw [← h]
    rw [Nat.mul_assoc, Nat.mul_comm, Nat.mul_comm (x / y) v]
  omega
