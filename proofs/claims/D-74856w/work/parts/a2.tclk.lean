/-! THE TWIN: clocks, tests -/
set_option maxRecDepth 100000
theorem shows_eq {r o t : Int32} : o + ((r.toInt64 * t.toInt64) / (1000 : Int64)).toInt32 = c_at r o t := by
  unfold c_at
  rw [Int64.toInt32_add, Int32.toInt32_toInt64]
theorem t_shows {r o t : Int32} {h : PH} : f_X7_shows r o t h = some (c_at r o t, h) := by
  unfold f_X7_shows
  rw [dvL_at (by decide), shows_eq]
theorem t_timeOf {r o v : Int32} {h : PH} (r1 : iv r 900 1100) (o1 : 0 ≤ o.toInt) (v1 : o.toInt ≤ v.toInt) : f_X7_timeOf r o v h = some (c_re r o v, h) := by
  unfold f_X7_timeOf
  have hv := Int32.toInt_lt v
  have e1 : (v - o).toInt64 = v.toInt64 - o.toInt64 := by
    apply Int64.toInt.inj
    rw [Int32.toInt_toInt64, i_sub (by omega) (by omega), l_sub] <;> rw [Int32.toInt_toInt64, Int32.toInt_toInt64] <;> omega
  have e2 : ¬ (v.toInt64 - o.toInt64) < (0 : Int64) := by
    rw [Int64.lt_iff_toInt_lt, ← e1, Int32.toInt_toInt64, i_sub (by omega) (by omega)]
    have : ((0 : Int64)).toInt = 0 := by decide
    omega
  rw [dvL_at (fun hx => by
    have e : r.toInt64.toInt = 0 := by rw [hx]; rfl
    rw [Int32.toInt_toInt64] at e
    omega), e1]
  unfold c_re
  rw [if_neg e2, Int64.mul_comm]
section TC
variable {A : Nat → Nat} {T : TS} {h : PH} {ex : Bool × Int32 × Int32} {S : SS}
theorem t_srv (hA : TA A h) (hT : TWb ex S (q_w T)) : f_X7_serverShows (some (A 0)) (tw A T h) = some (srvAt S, tw A T h) := by
  obtain ⟨a0, a1, a2, a3, a4, -⟩ := hT.1
  unfold f_X7_serverShows
  rw [t_rW, t_aW hA 3 3 rfl (by decide), t_rW, t_aW hA 4 4 rfl (by decide), t_rW, t_aW hA 0 0 rfl (by decide), t_shows, a0, a3, a4]
  rfl
theorem T_n (hT : TWb ex S (q_w T)) {i c : Nat} (hi : i < s_n S) (hc : c < 12) : q_w T (40 + 20 * i + c) = tnd (s_nd S i) c := hT.2.1 i c hi (by omega) (Or.inl hc)
theorem t_ofN (hA : TA A h) (hT : TWb ex S (q_w T)) (x : Int32) (c : Nat) {i : Nat} (hx : x = Int32.ofNat c) (hi : i < s_n S) (hc : c < 12) : f_X7_of (some (A 0)) (Int32.ofNat i) x (tw A T h) = some (tnd (s_nd S i) c, tw A T h) := by
  have h6 := hT.2.2.2.2.2.2
  rw [t_of hA _ _ hx (by omega) (by omega), T_n hT hi hc]
theorem t_clock (hA : TA A h) (hT : TWb ex S (q_w T)) {i : Nat} (hi : i < s_n S) : f_X7_clock (some (A 0)) (Int32.ofNat i) (tw A T h) = some (ndAt S i (now S), tw A T h) := by
  unfold f_X7_clock
  rw [t_rv, cl_eq (t_ofN hA hT 0 0 rfl hi (by decide)), t_rv, cl_eq (t_ofN hA hT 1 1 rfl hi (by decide)), t_rW, t_aW hA 0 0 rfl (by decide), t_shows, hT.1.1]
  rfl
theorem t_endOf (hA : TA A h) (hT : TWb ex S (q_w T)) {i : Nat} (hN : NI (s_nd S i)) (hi : i < s_n S) (hz : s_nd S i 6 ≠ 0) : f_X7_endOf (some (A 0)) (Int32.ofNat i) (tw A T h) = some (ndRe S i (s_nd S i 7), tw A T h) := by
  unfold f_X7_endOf
  rw [t_rv, cl_eq (t_ofN hA hT 0 0 rfl hi (by decide)), t_rv, cl_eq (t_ofN hA hT 1 1 rfl hi (by decide)), t_rv, cl_eq (t_ofN hA hT 8 8 rfl hi (by decide))]
  rw [show tnd (s_nd S i) 0 = s_nd S i 20 from rfl, show tnd (s_nd S i) 1 = s_nd S i 21 from rfl, show tnd (s_nd S i) 8 = s_nd S i 7 from rfl]
  rw [t_timeOf hN.1 hN.2.1.1 (hN.2.2.2.2.2.2.2.2.2.2.1 hz)]
  rfl
theorem t_isPaused (hA : TA A h) (hT : TWb ex S (q_w T)) {i : Nat} (hN : NI (s_nd S i)) (hW : 0 ≤ (now S).toInt) (hi : i < s_n S) : f_X7_isPaused (some (A 0)) (Int32.ofNat i) (tw A T h) = some ((if paused S i (now S) = true then 1 else 0), tw A T h) := by
  unfold f_X7_isPaused
  rw [t_rv, cl_eq (t_ofN hA hT 4 4 rfl hi (by decide)), t_rW, t_aW hA 0 0 rfl (by decide), hT.1.1]
  rw [show tnd (s_nd S i) 4 = s_nd S i 5 from rfl]
  unfold f_X7_isPaused_B20 paused
  by_cases hp : s_nd S i 5 ≤ now S
  · rw [if_pos hp, rN_at nar01.1]
    have : ¬ now S < s_nd S i 5 := fun hx => by
      rw [Int32.lt_iff_toInt_lt] at hx
      rw [Int32.le_iff_toInt_le] at hp
      omega
    simp [this]
  · rw [if_neg hp, rN_at nar01.2]
    have h1 : now S < s_nd S i 5 := by
      rw [Int32.lt_iff_toInt_lt]
      rw [Int32.le_iff_toInt_le] at hp
      omega
    have h2 : s_nd S i 2 ≠ 0 := fun hx => by
      have := hN.2.2.2.2.2.2.2.1 hx
      rw [this, Int32.lt_iff_toInt_lt] at h1
      have k0 : ((0 : Int32)).toInt = 0 := by decide
      omega
    simp [h1, h2]
theorem t_leads (hA : TA A h) (hT : TWb ex S (q_w T)) {i : Nat} (hN : NI (s_nd S i)) (hW : iv (now S) 0 5000000) (hi : i < s_n S) : f_X7_leads (some (A 0)) (Int32.ofNat i) (tw A T h) = some ((if leads S i (now S) = true then 1 else 0), tw A T h) := by
  have k0 : ((0 : Int32)).toInt = 0 := by decide
  have z0 : ¬ now S < (0 : Int32) := fun hx => by rw [Int32.lt_iff_toInt_lt] at hx; omega
  unfold f_X7_leads
  rw [t_rv, cl_eq (t_ofN hA hT 3 3 rfl hi (by decide)), show tnd (s_nd S i) 3 = s_nd S i 2 from rfl]
  unfold f_X7_leads_B39 f_X7_leads_B40 leads until_
  rcases hN.2.2.2.1 with h2 | h2
  · rw [h2, if_neg (by decide), if_pos rfl, rN_at nar01.1]
    simp [z0]
  · rw [h2, if_pos rfl, if_neg (show ¬ (1 : Int32) = 0 by decide), t_rv, cl_eq (t_ofN hA hT 7 7 rfl hi (by decide)), show tnd (s_nd S i) 7 = s_nd S i 6 from rfl]
    by_cases h6 : s_nd S i 6 = 0
    · rw [if_pos h6, if_pos (show s_nd S i 6 ≤ 0 by rw [h6]; decide), rN_at nar01.1]
      simp [z0]
    · have h6' : ¬ s_nd S i 6 ≤ 0 := fun hx => h6 (by
        rw [Int32.le_iff_toInt_le] at hx
        apply Int32.toInt.inj
        have := hN.2.2.2.2.2.2.2.2.1
        omega)
      rw [if_neg h6, if_neg h6', t_rv, cl_eq (t_clock hA hT hi), t_rv, cl_eq (t_ofN hA hT 8 8 rfl hi (by decide)), show tnd (s_nd S i) 8 = s_nd S i 7 from rfl]
      have hl := hN.2.2.2.2.2.2.2.2.2.2.1 h6
      have h7 := hN.2.2.2.2.2.2.2.2.2.1
      have hiff := c_lt_iff (r := s_nd S i 20) (o := s_nd S i 21) (v := s_nd S i 7) (t := now S) hN.1.1 hN.1.2 hN.2.1.1 hN.2.1.2 hl (by omega) hW.1 (by omega)
      by_cases hc : s_nd S i 7 ≤ ndAt S i (now S)
      · rw [if_pos hc, rN_at nar01.1]
        have : ¬ now S < ndRe S i (s_nd S i 7) := fun hx => by
          have := hiff.mp hx
          rw [Int32.lt_iff_toInt_lt] at this
          rw [Int32.le_iff_toInt_le] at hc
          unfold ndAt at hc
          omega
        simp [this]
      · rw [if_neg hc, rN_at nar01.2]
        have : now S < ndRe S i (s_nd S i 7) := hiff.mpr (by
          rw [Int32.lt_iff_toInt_lt]
          rw [Int32.le_iff_toInt_le] at hc
          unfold ndAt at hc
          omega)
        simp [this]
/-- setsTimer -/
theorem t_setsTimer (hA : TA A h) (hT : TWb ex S (q_w T)) {i : Nat} {v : Int32} (hN : NI (s_nd S i)) (hW : iv (now S) 0 5000000) (hi : i < s_n S) (hv : (s_nd S i 21).toInt ≤ v.toInt) (hv2 : v.toInt ≤ 100000000) :
    ∃ x : Int32, f_X7_setsTimer (some (A 0)) (Int32.ofNat i) v (tw A T h) = some ((), tw A (x_w T (upd (q_w T) (40 + 20 * i + 9) x)) h) ∧ TWb ex (setTimer S i v) (upd (q_w T) (40 + 20 * i + 9) x) := by
  have h6 := hT.2.2.2.2.2.2
  unfold f_X7_setsTimer
  rw [t_rW, t_aW hA 0 0 rfl (by decide), t_rv, cl_eq (t_ofN hA hT 0 0 rfl hi (by decide)), t_rv, cl_eq (t_ofN hA hT 1 1 rfl hi (by decide))]
  rw [show tnd (s_nd S i) 0 = s_nd S i 20 from rfl, show tnd (s_nd S i) 1 = s_nd S i 21 from rfl, cl_eq (t_timeOf hN.1 hN.2.1.1 hv), t_rv, hT.1.1]
  rw [cl_eq (t_puts hA 9 9 rfl (by omega) (by decide))]
  refine ⟨_, rfl, ?_⟩
  have h0 : mx (now S + 1) (ndRe S i v) ≠ -4 := fun hx => by
    have e1 : (mx (now S + 1) (ndRe S i v)).toInt = -4 := by rw [hx]; decide
    rw [mx_i] at e1
    have k1 : ((1 : Int32)).toInt = 1 := by decide
    have e2 : (now S + 1).toInt = (now S).toInt + 1 := by rw [i_add] <;> rw [k1] <;> omega
    omega
  have hk := hT.tm (i := i) (v := mx (now S + 1) (ndRe S i v)) hi
  rw [if_neg h0] at hk
  exact hk
end TC
