/-! THE TWIN's CALLS: clocks, leases, states of nodes -/
set_option maxRecDepth 100000
def srvEnd (S : SS) : Int32 := if s_sc S 12 = -4 then -4 else c_re (s_cf S 0) (s_cf S 1) (s_sc S 13)
def ndEnd (S : SS) (i : Nat) : Int32 := if s_nd S i 6 = 0 then -4 else ndRe S i (s_nd S i 7)
def margS (S : SS) (i : Nat) : Int32 := if s_sc S 12 = Int32.ofNat i then (if s_nd S i 6 = s_sc S 14 then (if s_nd S i 6 = 0 then 0 else srvEnd S - ndRe S i (s_nd S i 7)) else 0) else 0
def stateS (S : SS) (i : Nat) : Int32 := ((s_nd S i 2 + (if paused S i (now S) = true then 2 else 0)) + 4 * s_nd S i 3) + 8 * s_nd S i 4
def leftS (S : SS) (i : Nat) : Int32 := if s_nd S i 2 = 0 then 0 else if s_nd S i 6 = 0 then 0 else (if (0 : Int32) < s_nd S i 7 - ndAt S i (now S) then s_nd S i 7 - ndAt S i (now S) else 0)
section TGT
variable {A : Nat → Nat} {h : PH} {T : TS} {ex : Bool × Int32 × Int32} {S : SS} {L : List MG}
theorem t_serverClock (hA : TA A h) (hr : TR ex S (L.map some) (q_w T)) : TC A T h ex 0 (srvAt S) S (f_X7_serverClock (some (A 0)) (tw A T h)) := by
  have hr0 : TR ex S (L.map some) (q_w (x_sc T 1 0)) := hr
  unfold f_X7_serverClock
  rw [t_pV hA (by decide), t_rv, cl_eq (t_srv hA hr0.1)]
  exact TC_q hr
theorem t_graceLeft (hA : TA A h) (hr : TR ex S (L.map some) (q_w T)) : TC A T h ex 0 (mx 0 (s_sc S 15 - srvAt S)) S (f_X7_graceLeft (some (A 0)) (tw A T h)) := by
  have hr0 : TR ex S (L.map some) (q_w (x_sc T 1 0)) := hr
  have a13 : q_w T 13 = s_sc S 15 := hr.1.1.2.2.2.2.2.2.2.2.2.2.2.2.2.1
  unfold f_X7_graceLeft
  rw [t_pV hA (by decide), t_rW, t_aW hA 13 13 rfl (by decide), q_wsc, a13, t_rv, cl_eq (t_srv hA hr0.1)]
  exact TC_q hr
theorem t_srvEnd (hA : TA A h) (hT : TWb ex S (q_w T)) (hI : Inv S) : f_X7_serverEnd (some (A 0)) (tw A T h) = some (srvEnd S, tw A T h) := by
  obtain ⟨a0, a1, a2, a3, a4, a5, a6, a7, a8, a9, a10, a11, -⟩ := hT.1
  obtain ⟨W1', W2', W3', W4', W5', W6', W7', W8', W9'⟩ := hI.2.2.2.1
  unfold f_X7_serverEnd f_X7_serverEnd_B39 srvEnd
  rw [t_rW, t_aW hA 10 10 rfl (by decide), a10]
  by_cases hc : s_sc S 12 = -4
  · rw [if_pos hc, if_pos hc]
  · rw [if_neg hc, if_neg hc, t_rW, t_aW hA 3 3 rfl (by decide), a3, t_rW, t_aW hA 4 4 rfl (by decide), a4, t_rW, t_aW hA 11 11 rfl (by decide), a11, cl_eq (t_timeOf hI.1.1 hI.1.2.1.1 (W8' hc))]
theorem t_serverExpiryTime (hA : TA A h) (hr : TR ex S (L.map some) (q_w T)) (hI : Inv S) : TC A T h ex 0 (srvEnd S) S (f_X7_serverExpiryTime (some (A 0)) (tw A T h)) := by
  have hr0 : TR ex S (L.map some) (q_w (x_sc T 1 0)) := hr
  unfold f_X7_serverExpiryTime
  rw [t_pV hA (by decide), t_rv, cl_eq (t_srvEnd hA hr0.1 hI)]
  exact TC_q hr
theorem t_nodeClock (hA : TA A h) (hr : TR ex S (L.map some) (q_w T)) (hI : Inv S) {i : Nat} (hi : i < s_n S) : TC A T h ex 0 (ndAt S i (now S)) S (f_X7_nodeClock (some (A 0)) (Int32.ofNat i) (tw A T h)) := by
  have hr0 : TR ex S (L.map some) (q_w (x_sc T 1 0)) := hr
  unfold f_X7_nodeClock f_X7_nodeClock_B17
  rw [t_rv, cl_eq ((t_noNd hA hr.1 hI.2.2.1.1).1 (isNd_in hi hI.2.2.1.2)), if_pos rfl, t_rv, cl_eq (t_clock hA hr0.1 hi)]
  exact TC_q hr
theorem t_isLeading (hA : TA A h) (hr : TR ex S (L.map some) (q_w T)) (hI : Inv S) {i : Nat} (hi : i < s_n S) : TC A T h ex 0 (if leads S i (now S) = true then 1 else 0) S (f_X7_isLeading (some (A 0)) (Int32.ofNat i) (tw A T h)) := by
  have hr0 : TR ex S (L.map some) (q_w (x_sc T 1 0)) := hr
  unfold f_X7_isLeading f_X7_isLeading_B20 f_X7_isLeading_B21
  rw [t_rv, cl_eq ((t_noNd hA hr.1 hI.2.2.1.1).1 (isNd_in hi hI.2.2.1.2)), if_pos rfl, t_rv, cl_eq (t_leads hA hr0.1 (hI.2.1 i hi) hI.2.2.2.1.1 hi)]
  by_cases hl : leads S i (now S) = true
  · rw [if_pos hl, if_neg (by decide), rN_at nar01.2]
    exact TC_q hr
  · rw [if_neg hl, if_pos rfl, rN_at nar01.1]
    exact TC_q hr
theorem t_nodeExpiryTime (hA : TA A h) (hr : TR ex S (L.map some) (q_w T)) (hI : Inv S) {i : Nat} (hi : i < s_n S) : TC A T h ex 0 (ndEnd S i) S (f_X7_nodeExpiryTime (some (A 0)) (Int32.ofNat i) (tw A T h)) := by
  have hr0 : TR ex S (L.map some) (q_w (x_sc T 1 0)) := hr
  unfold f_X7_nodeExpiryTime f_X7_nodeExpiryTime_B30 ndEnd
  rw [t_rv, cl_eq ((t_noNd hA hr.1 hI.2.2.1.1).1 (isNd_in hi hI.2.2.1.2)), if_pos rfl, t_rv, cl_eq (t_ofN hA hr0.1 7 7 rfl hi (by decide)), show tnd (s_nd S i) 7 = s_nd S i 6 from rfl]
  by_cases hz : s_nd S i 6 = 0
  · rw [if_pos hz, if_pos hz]
    exact TC_q hr
  · rw [if_neg hz, if_neg hz, t_rv, cl_eq (t_endOf hA hr0.1 (hI.2.1 i hi) hi hz)]
    exact TC_q hr
theorem t_timerTime (hA : TA A h) (hr : TR ex S (L.map some) (q_w T)) (hI : Inv S) {i : Nat} (hi : i < s_n S) : TC A T h ex 0 (s_nd S i 8) S (f_X7_timerTime (some (A 0)) (Int32.ofNat i) (tw A T h)) := by
  have hr0 : TR ex S (L.map some) (q_w (x_sc T 1 0)) := hr
  have hN := hI.2.1 i hi
  unfold f_X7_timerTime f_X7_timerTime_B33
  rw [t_rv, cl_eq ((t_noNd hA hr.1 hI.2.2.1.1).1 (isNd_in hi hI.2.2.1.2)), if_pos rfl, t_rv, cl_eq (t_ofN hA hr0.1 9 9 rfl hi (by decide)), show tnd (s_nd S i) 9 = (if s_nd S i 8 = -4 then -1 else s_nd S i 8) from rfl]
  by_cases h8 : s_nd S i 8 = -4
  · rw [if_pos h8, if_pos rfl, h8]
    exact TC_q hr
  · have h8i : iv (s_nd S i 8) 0 20000000 := by rcases hN.2.2.2.2.2.2.2.2.2.2.2 with e | e; exact absurd e h8; exact e
    have h8n : ¬ s_nd S i 8 = -1 := fun hx => by
      have : (s_nd S i 8).toInt = -1 := by rw [hx]; decide
      omega
    rw [if_neg h8, if_neg h8n, t_rv, cl_eq (t_ofN hA hr0.1 9 9 rfl hi (by decide)), show tnd (s_nd S i) 9 = (if s_nd S i 8 = -4 then -1 else s_nd S i 8) from rfl, if_neg h8]
    exact TC_q hr
theorem t_nodeState (hA : TA A h) (hr : TR ex S (L.map some) (q_w T)) (hI : Inv S) {i : Nat} (hi : i < s_n S) : TC A T h ex 0 (stateS S i) S (f_X7_nodeState (some (A 0)) (Int32.ofNat i) (tw A T h)) := by
  have hr0 : TR ex S (L.map some) (q_w (x_sc T 1 0)) := hr
  unfold f_X7_nodeState f_X7_nodeState_B29 stateS
  rw [t_rv, cl_eq ((t_noNd hA hr.1 hI.2.2.1.1).1 (isNd_in hi hI.2.2.1.2)), if_pos rfl, t_rv, cl_eq (t_ofN hA hr0.1 3 3 rfl hi (by decide)), show tnd (s_nd S i) 3 = s_nd S i 2 from rfl, t_rv, cl_eq (t_isPaused hA hr0.1 (hI.2.1 i hi) hI.2.2.2.1.1.1 hi)]
  by_cases hp : paused S i (now S) = true
  · rw [if_pos hp, if_pos hp, if_neg (show ¬ (1 : Int32) = 0 by decide), t_rv, cl_eq (t_ofN hA hr0.1 5 5 rfl hi (by decide)), t_rv, cl_eq (t_ofN hA hr0.1 6 6 rfl hi (by decide))]
    exact TC_q hr
  · rw [if_neg hp, if_neg hp, if_pos rfl, t_rv, cl_eq (t_ofN hA hr0.1 5 5 rfl hi (by decide)), t_rv, cl_eq (t_ofN hA hr0.1 6 6 rfl hi (by decide))]
    exact TC_q hr
theorem t_leaseLeft (hA : TA A h) (hr : TR ex S (L.map some) (q_w T)) (hI : Inv S) {i : Nat} (hi : i < s_n S) : TC A T h ex 0 (leftS S i) S (f_X7_leaseLeft (some (A 0)) (Int32.ofNat i) (tw A T h)) := by
  have hr0 : TR ex S (L.map some) (q_w (x_sc T 1 0)) := hr
  unfold f_X7_leaseLeft f_X7_leaseLeft_B29 f_X7_leaseLeft_B50 leftS
  rw [t_rv, cl_eq ((t_noNd hA hr.1 hI.2.2.1.1).1 (isNd_in hi hI.2.2.1.2)), if_pos rfl, t_rv, cl_eq (t_ofN hA hr0.1 3 3 rfl hi (by decide)), show tnd (s_nd S i) 3 = s_nd S i 2 from rfl]
  by_cases hu : s_nd S i 2 = 0
  · rw [if_pos hu, if_pos hu]
    exact TC_q hr
  · rw [if_neg hu, if_neg hu, t_rv, cl_eq (t_ofN hA hr0.1 7 7 rfl hi (by decide)), show tnd (s_nd S i) 7 = s_nd S i 6 from rfl]
    by_cases hz : s_nd S i 6 = 0
    · rw [if_pos hz, if_pos hz]
      exact TC_q hr
    · rw [if_neg hz, if_neg hz, t_rv, cl_eq (t_ofN hA hr0.1 8 8 rfl hi (by decide)), show tnd (s_nd S i) 8 = s_nd S i 7 from rfl, t_rv, cl_eq (t_clock hA hr0.1 hi)]
      exact TC_q hr
theorem t_margin (hA : TA A h) (hr : TR ex S (L.map some) (q_w T)) (hI : Inv S) {i : Nat} (hi : i < s_n S) : TC A T h ex 0 (margS S i) S (f_X7_margin (some (A 0)) (Int32.ofNat i) (tw A T h)) := by
  have hr0 : TR ex S (L.map some) (q_w (x_sc T 1 0)) := hr
  obtain ⟨a0, a1, a2, a3, a4, a5, a6, a7, a8, a9, a10, a11, a12, -⟩ := hr0.1.1
  unfold f_X7_margin f_X7_margin_B48 f_X7_margin_B62 margS
  rw [t_rv, cl_eq ((t_noNd hA hr.1 hI.2.2.1.1).1 (isNd_in hi hI.2.2.1.2)), if_pos rfl, t_rW, t_aW hA 10 10 rfl (by decide), a10]
  by_cases c1 : s_sc S 12 = Int32.ofNat i
  · rw [if_pos c1, if_pos c1, t_rv, cl_eq (t_ofN hA hr0.1 7 7 rfl hi (by decide)), show tnd (s_nd S i) 7 = s_nd S i 6 from rfl, t_rW, t_aW hA 12 12 rfl (by decide), a12]
    by_cases c2 : s_nd S i 6 = s_sc S 14
    · rw [if_pos c2, if_pos c2, t_rv, cl_eq (t_ofN hA hr0.1 7 7 rfl hi (by decide)), show tnd (s_nd S i) 7 = s_nd S i 6 from rfl]
      by_cases hz : s_nd S i 6 = 0
      · rw [if_pos hz, if_pos hz]
        exact TC_q hr
      · rw [if_neg hz, if_neg hz, t_rv, cl_eq (t_srvEnd hA hr0.1 hI), t_rv, cl_eq (t_endOf hA hr0.1 (hI.2.1 i hi) hi hz)]
        exact TC_q hr
    · rw [if_neg c2, if_neg c2]
      exact TC_q hr
  · rw [if_neg c1, if_neg c1]
    exact TC_q hr
end TGT
