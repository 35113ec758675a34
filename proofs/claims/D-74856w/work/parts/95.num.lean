/-! NUMBERS: ints of 32 and 64 bits as whole numbers -/
set_option maxRecDepth 100000
theorem b32 {x : Int} (h1 : -2147483648 ≤ x) (h2 : x < 2147483648) : x.bmod (2 ^ 32) = x := Int.bmod_eq_of_le_mul_two (by omega) (by omega)
theorem b64 {x : Int} (h1 : -9223372036854775808 ≤ x) (h2 : x < 9223372036854775808) : x.bmod (2 ^ 64) = x := Int.bmod_eq_of_le_mul_two (by omega) (by omega)
theorem i_add {a b : Int32} (h1 : -2147483648 ≤ a.toInt + b.toInt) (h2 : a.toInt + b.toInt < 2147483648) : (a + b).toInt = a.toInt + b.toInt := by rw [Int32.toInt_add]; exact b32 h1 h2
theorem i_sub {a b : Int32} (h1 : -2147483648 ≤ a.toInt - b.toInt) (h2 : a.toInt - b.toInt < 2147483648) : (a - b).toInt = a.toInt - b.toInt := by rw [Int32.toInt_sub]; exact b32 h1 h2
theorem i_mul {a b : Int32} (h1 : -2147483648 ≤ a.toInt * b.toInt) (h2 : a.toInt * b.toInt < 2147483648) : (a * b).toInt = a.toInt * b.toInt := by rw [Int32.toInt_mul]; exact b32 h1 h2
theorem l_add {a b : Int64} (h1 : -9223372036854775808 ≤ a.toInt + b.toInt) (h2 : a.toInt + b.toInt < 9223372036854775808) : (a + b).toInt = a.toInt + b.toInt := by rw [Int64.toInt_add]; exact b64 h1 h2
theorem l_sub {a b : Int64} (h1 : -9223372036854775808 ≤ a.toInt - b.toInt) (h2 : a.toInt - b.toInt < 9223372036854775808) : (a - b).toInt = a.toInt - b.toInt := by rw [Int64.toInt_sub]; exact b64 h1 h2
theorem l_mul {a b : Int64} (h1 : -9223372036854775808 ≤ a.toInt * b.toInt) (h2 : a.toInt * b.toInt < 9223372036854775808) : (a * b).toInt = a.toInt * b.toInt := by rw [Int64.toInt_mul]; exact b64 h1 h2
theorem l_div {a b : Int64} (ha : 0 ≤ a.toInt) (hb : 0 < b.toInt) : (a / b).toInt = a.toInt / b.toInt := by
  rw [Int64.toInt_div, Int.tdiv_eq_ediv_of_nonneg ha]
  have h1 : a.toInt / b.toInt ≤ a.toInt := Int.ediv_le_self _ ha
  have h2 : 0 ≤ a.toInt / b.toInt := Int.ediv_nonneg ha (Int.le_of_lt hb)
  have h3 : a.toInt < 9223372036854775808 := by
    have := Int64.toInt_lt a
    omega
  exact b64 (by omega) (by omega)
theorem i_div {a b : Int32} (ha : 0 ≤ a.toInt) (hb : 0 < b.toInt) : (a / b).toInt = a.toInt / b.toInt := by
  rw [Int32.toInt_div, Int.tdiv_eq_ediv_of_nonneg ha]
  have h1 : a.toInt / b.toInt ≤ a.toInt := Int.ediv_le_self _ ha
  have h2 : 0 ≤ a.toInt / b.toInt := Int.ediv_nonneg ha (Int.le_of_lt hb)
  have h3 : a.toInt < 2147483648 := by
    have := Int32.toInt_lt a
    omega
  exact b32 (by omega) (by omega)
theorem l_int {a : Int64} (h1 : -2147483648 ≤ a.toInt) (h2 : a.toInt < 2147483648) : a.toInt32.toInt = a.toInt := by rw [Int64.toInt_toInt32]; exact b32 h1 h2
theorem mul_in {a b x y : Int} (ha : 0 ≤ a) (hb : 0 ≤ b) (hx : a ≤ x) (hy : b ≤ y) : 0 ≤ a * b ∧ a * b ≤ x * y := ⟨Int.mul_nonneg ha hb, Int.mul_le_mul hx hy hb (Int.le_trans ha hx)⟩
/-- a clock's time -/
theorem c_at_eq {r o t : Int32} (r1 : 0 ≤ r.toInt) (r2 : r.toInt ≤ 1100) (o1 : 0 ≤ o.toInt) (o2 : o.toInt ≤ 100000) (t1 : 0 ≤ t.toInt) (t2 : t.toInt ≤ 100000000) : (c_at r o t).toInt = o.toInt + r.toInt * t.toInt / 1000 := by
  have hm := mul_in r1 t1 r2 t2
  unfold c_at
  have e1 : (r.toInt64 * t.toInt64).toInt = r.toInt * t.toInt := by
    rw [l_mul] <;> rw [Int32.toInt_toInt64, Int32.toInt_toInt64] <;> omega
  have e2 : (r.toInt64 * t.toInt64 / (1000 : Int64)).toInt = r.toInt * t.toInt / 1000 := by
    rw [l_div (by rw [e1]; exact hm.1) (by decide), e1]
    rfl
  have e3 : (o.toInt64 + r.toInt64 * t.toInt64 / (1000 : Int64)).toInt = o.toInt + r.toInt * t.toInt / 1000 := by
    rw [l_add] <;> rw [e2, Int32.toInt_toInt64] <;> omega
  rw [l_int] <;> rw [e3]
  · omega
  · omega
/-- when a clock reaches a value -/
theorem c_re_eq {r o v : Int32} (r1 : 900 ≤ r.toInt) (r2 : r.toInt ≤ 1100) (o1 : 0 ≤ o.toInt) (o2 : o.toInt ≤ 100000) (v1 : 0 ≤ v.toInt) (v2 : v.toInt ≤ 100000000) : (c_re r o v).toInt = (max 0 (v.toInt - o.toInt) * 1000 + r.toInt - 1) / r.toInt := by
  unfold c_re
  have e0 : (v.toInt64 - o.toInt64).toInt = v.toInt - o.toInt := by
    rw [l_sub] <;> rw [Int32.toInt_toInt64, Int32.toInt_toInt64] <;> omega
  obtain ⟨d, hd⟩ : ∃ d : Int64, d = (if (v.toInt64 - o.toInt64) < (0 : Int64) then (0 : Int64) else (v.toInt64 - o.toInt64)) := ⟨_, rfl⟩
  have ed : d.toInt = max 0 (v.toInt - o.toInt) := by
    rw [hd]
    by_cases hx : (v.toInt64 - o.toInt64) < (0 : Int64)
    · rw [if_pos hx]
      rw [Int64.lt_iff_toInt_lt, e0] at hx
      have hx' : v.toInt - o.toInt < 0 := hx
      show (0 : Int) = _
      omega
    · rw [if_neg hx, e0]
      rw [Int64.lt_iff_toInt_lt, e0] at hx
      have hx' : ¬ v.toInt - o.toInt < 0 := hx
      omega
  rw [← hd]
  have k1000 : ((1000 : Int64)).toInt = 1000 := by decide
  have k1 : ((1 : Int64)).toInt = 1 := by decide
  have e1 : (d * (1000 : Int64)).toInt = max 0 (v.toInt - o.toInt) * 1000 := by
    rw [l_mul] <;> rw [ed, k1000] <;> omega
  have e2 : (d * (1000 : Int64) + r.toInt64).toInt = max 0 (v.toInt - o.toInt) * 1000 + r.toInt := by
    rw [l_add] <;> rw [e1, Int32.toInt_toInt64] <;> omega
  have e3 : (d * (1000 : Int64) + r.toInt64 - (1 : Int64)).toInt = max 0 (v.toInt - o.toInt) * 1000 + r.toInt - 1 := by
    rw [l_sub] <;> rw [e2, k1] <;> omega
  have e4 : (((d * (1000 : Int64)) + r.toInt64 - (1 : Int64)) / r.toInt64).toInt = (max 0 (v.toInt - o.toInt) * 1000 + r.toInt - 1) / r.toInt := by
    rw [l_div (by rw [e3]; omega) (by rw [Int32.toInt_toInt64]; omega), e3, Int32.toInt_toInt64]
  have q1 : 0 ≤ (max 0 (v.toInt - o.toInt) * 1000 + r.toInt - 1) / r.toInt := Int.ediv_nonneg (by omega) (by omega)
  have q2 : (max 0 (v.toInt - o.toInt) * 1000 + r.toInt - 1) / r.toInt < 2147483648 := by
    refine Int.ediv_lt_of_lt_mul (by omega) ?_
    have : 2147483648 * 900 ≤ 2147483648 * r.toInt := by omega
    omega
  rw [l_int] <;> rw [e4]
  · omega
  · exact q2
/-- bounds of a clock's time -/
theorem c_at_b {r o t : Int32} (r1 : 900 ≤ r.toInt) (r2 : r.toInt ≤ 1100) (o1 : 0 ≤ o.toInt) (o2 : o.toInt ≤ 100000) (t1 : 0 ≤ t.toInt) (t2 : t.toInt ≤ 100000000) : o.toInt ≤ (c_at r o t).toInt ∧ (c_at r o t).toInt ≤ o.toInt + 2 * t.toInt ∧ 1000 * ((c_at r o t).toInt - o.toInt) ≤ r.toInt * t.toInt ∧ r.toInt * t.toInt < 1000 * ((c_at r o t).toInt - o.toInt) + 1000 := by
  have hm := mul_in (show 0 ≤ r.toInt by omega) t1 r2 (Int.le_refl t.toInt)
  rw [c_at_eq (by omega) r2 o1 o2 t1 t2]
  refine ⟨?_, ?_, ?_, ?_⟩ <;> omega
/-- bounds of the time at which a value is shown: the least time t with r * t >= 1000 * (v - o) -/
theorem c_re_b {r o v : Int32} (r1 : 900 ≤ r.toInt) (r2 : r.toInt ≤ 1100) (o1 : 0 ≤ o.toInt) (o2 : o.toInt ≤ 100000) (v1 : 0 ≤ v.toInt) (v2 : v.toInt ≤ 100000000) : 0 ≤ (c_re r o v).toInt ∧ (c_re r o v).toInt ≤ 2 * max 0 (v.toInt - o.toInt) + 1 ∧ 1000 * max 0 (v.toInt - o.toInt) ≤ r.toInt * (c_re r o v).toInt ∧ r.toInt * (c_re r o v).toInt < 1000 * max 0 (v.toInt - o.toInt) + r.toInt := by
  rw [c_re_eq r1 r2 o1 o2 v1 v2]
  obtain ⟨x, hx⟩ : ∃ x : Int, x = max 0 (v.toInt - o.toInt) * 1000 + r.toInt - 1 := ⟨_, rfl⟩
  rw [← hx]
  have hr : 0 < r.toInt := by omega
  have d1 := Int.mul_ediv_add_emod x r.toInt
  have d2 := Int.emod_lt_of_pos x hr
  have d3 := Int.emod_nonneg x (Int.ne_of_gt hr)
  have q1 : 0 ≤ x / r.toInt := Int.ediv_nonneg (by omega) (by omega)
  have q3 : 900 * (x / r.toInt) ≤ r.toInt * (x / r.toInt) := Int.mul_le_mul_of_nonneg_right r1 q1
  refine ⟨q1, ?_, ?_, ?_⟩ <;> omega
/-- a clock is below a value just before the time at which it reaches it -/
theorem c_lt_iff {r o v t : Int32} (r1 : 900 ≤ r.toInt) (r2 : r.toInt ≤ 1100) (o1 : 0 ≤ o.toInt) (o2 : o.toInt ≤ 100000) (v1 : o.toInt ≤ v.toInt) (v2 : v.toInt ≤ 100000000) (t1 : 0 ≤ t.toInt) (t2 : t.toInt ≤ 100000000) : t < c_re r o v ↔ c_at r o t < v := by
  have ha := c_at_b r1 r2 o1 o2 t1 t2
  have hb := c_re_b r1 r2 o1 o2 (by omega) v2
  have hm : max 0 (v.toInt - o.toInt) = v.toInt - o.toInt := by omega
  rw [hm] at hb
  rw [Int32.lt_iff_toInt_lt, Int32.lt_iff_toInt_lt]
  constructor
  · intro h
    have h1 : r.toInt * (t.toInt + 1) ≤ r.toInt * (c_re r o v).toInt := Int.mul_le_mul_of_nonneg_left (by omega) (by omega)
    rw [Int.mul_add, Int.mul_one] at h1
    omega
  · intro h
    have h1 : r.toInt * t.toInt < r.toInt * (c_re r o v).toInt := by omega
    exact Int.lt_of_mul_lt_mul_left h1 (by omega)
theorem mx_i {a b : Int32} : (mx a b).toInt = max a.toInt b.toInt := by
  unfold mx
  by_cases h : a < b
  · rw [if_pos h]
    rw [Int32.lt_iff_toInt_lt] at h
    omega
  · rw [if_neg h]
    rw [Int32.lt_iff_toInt_lt] at h
    omega
theorem mn_i {a b : Int32} : (mn a b).toInt = min a.toInt b.toInt := by
  unfold mn
  by_cases h : b < a
  · rw [if_pos h]
    rw [Int32.lt_iff_toInt_lt] at h
    omega
  · rw [if_neg h]
    rw [Int32.lt_iff_toInt_lt] at h
    omega
theorem lcg_b {x : Int32} (hx : 0 ≤ x.toInt) : 0 ≤ (lcg x).toInt := by
  have hx2 := Int32.toInt_lt x
  unfold lcg
  have k1 : ((1103515245 : Int64)).toInt = 1103515245 := by decide
  have k2 : ((12345 : Int64)).toInt = 12345 := by decide
  have k3 : ((2147483648 : Int64)).toInt = 2147483648 := by decide
  have e1 : ((1103515245 : Int64) * x.toInt64).toInt = 1103515245 * x.toInt := by
    rw [l_mul] <;> rw [k1, Int32.toInt_toInt64] <;> omega
  have e2 : ((1103515245 : Int64) * x.toInt64 + (12345 : Int64)).toInt = 1103515245 * x.toInt + 12345 := by
    rw [l_add] <;> rw [e1, k2] <;> omega
  obtain ⟨y, hy⟩ : ∃ y : Int64, y = (1103515245 : Int64) * x.toInt64 + (12345 : Int64) := ⟨_, rfl⟩
  rw [← hy] at e2 ⊢
  have e3 : (y / (2147483648 : Int64)).toInt = y.toInt / 2147483648 := by
    rw [l_div (by omega) (by decide), k3]
  have e4 : (y / (2147483648 : Int64) * (2147483648 : Int64)).toInt = y.toInt / 2147483648 * 2147483648 := by
    rw [l_mul] <;> rw [e3, k3] <;> omega
  have e5 : (y - y / (2147483648 : Int64) * (2147483648 : Int64)).toInt = y.toInt - y.toInt / 2147483648 * 2147483648 := by
    rw [l_sub] <;> rw [e4] <;> omega
  rw [l_int] <;> rw [e5] <;> omega
theorem jit_b {x j : Int32} (hx : 0 ≤ x.toInt) (j1 : 0 ≤ j.toInt) (j2 : j.toInt ≤ 1000) : 0 ≤ (jit x j).toInt ∧ (jit x j).toInt ≤ j.toInt := by
  have hx2 := Int32.toInt_lt x
  unfold jit
  have k1 : ((65536 : Int32)).toInt = 65536 := by decide
  have k2 : ((1 : Int32)).toInt = 1 := by decide
  have e1 : (x / (65536 : Int32)).toInt = x.toInt / 65536 := by rw [i_div hx (by decide), k1]
  have e2 : (j + (1 : Int32)).toInt = j.toInt + 1 := by
    rw [i_add] <;> rw [k2] <;> omega
  obtain ⟨y, hy⟩ : ∃ y : Int32, y = x / (65536 : Int32) := ⟨_, rfl⟩
  obtain ⟨z, hz⟩ : ∃ z : Int32, z = j + (1 : Int32) := ⟨_, rfl⟩
  rw [← hy] at e1 ⊢
  rw [← hz] at e2 ⊢
  have e3 : (y / z).toInt = y.toInt / z.toInt := i_div (by omega) (by omega)
  have hz0 : 0 < z.toInt := by omega
  have d1 := Int.mul_ediv_add_emod y.toInt z.toInt
  have d2 := Int.emod_lt_of_pos y.toInt hz0
  have d3 := Int.emod_nonneg y.toInt (Int.ne_of_gt hz0)
  have q1 : 0 ≤ y.toInt / z.toInt := Int.ediv_nonneg (by omega) (by omega)
  have q2 : y.toInt / z.toInt * z.toInt = z.toInt * (y.toInt / z.toInt) := Int.mul_comm _ _
  have q0 : 0 ≤ y.toInt / z.toInt * z.toInt := Int.mul_nonneg q1 (by omega)
  have e4 : (y / z * z).toInt = y.toInt / z.toInt * z.toInt := by
    rw [i_mul] <;> rw [e3] <;> omega
  have e5 : (y - y / z * z).toInt = y.toInt - y.toInt / z.toInt * z.toInt := by
    rw [i_sub] <;> rw [e4] <;> omega
  rw [e5]
  omega
