/-! THE TWIN's CALLS: wrong arguments -/
set_option maxRecDepth 100000
section TWA
variable {A : Nat → Nat} {h : PH} {T : TS} {ex : Bool × Int32 × Int32} {S : SS} {L : List MG}
theorem reg_of {p : Int32} (hp : iv p 0 7) : ∃ r : Nat, r < 8 ∧ p = Int32.ofNat r := by
  refine ⟨p.toInt.toNat, by have := hp.1; have := hp.2; omega, ?_⟩
  have h1 := hp.1
  have h2 := hp.2
  apply Int32.toInt_inj.mp
  rw [Int32.toInt_ofNat_of_lt (by omega)]
  omega
theorem t_withdraw1 (hA : TA A h) (hr : TR ex S (L.map some) (q_w T)) (hn : 1 ≤ s_n S) {p0 : Int32} (hp : ¬ isNd S p0) : TC A T h ex 1 0 S (f_X7_withdraw (some (A 0)) p0 (tw A T h)) := by
  unfold f_X7_withdraw 
  rw [t_rv, cl_eq ((t_noNd hA hr.1 hn).2 hp), if_neg (show ¬ (1 : Int32) = 0 by decide)]
  exact TC_q hr
theorem t_crash1 (hA : TA A h) (hr : TR ex S (L.map some) (q_w T)) (hn : 1 ≤ s_n S) {p0 : Int32} (hp : ¬ isNd S p0) : TC A T h ex 1 0 S (f_X7_crash (some (A 0)) p0 (tw A T h)) := by
  unfold f_X7_crash 
  rw [t_rv, cl_eq ((t_noNd hA hr.1 hn).2 hp), if_neg (show ¬ (1 : Int32) = 0 by decide)]
  exact TC_q hr
theorem t_restart1 (hA : TA A h) (hr : TR ex S (L.map some) (q_w T)) (hn : 1 ≤ s_n S) {p0 : Int32} (hp : ¬ isNd S p0) : TC A T h ex 1 0 S (f_X7_restart (some (A 0)) p0 (tw A T h)) := by
  unfold f_X7_restart f_X7_restart_B18
  rw [t_rv, cl_eq ((t_noNd hA hr.1 hn).2 hp), if_neg (show ¬ (1 : Int32) = 0 by decide), rN_at nar01.1]
  exact TC_q hr
theorem t_pause1 (hA : TA A h) (hr : TR ex S (L.map some) (q_w T)) (hn : 1 ≤ s_n S) {p0 p1 : Int32} (hp : ¬ isNd S p0) : TC A T h ex 1 0 S (f_X7_pause (some (A 0)) p0 p1 (tw A T h)) := by
  unfold f_X7_pause 
  rw [t_rv, cl_eq ((t_noNd hA hr.1 hn).2 hp), if_neg (show ¬ (1 : Int32) = 0 by decide)]
  exact TC_q hr
theorem t_setCut1 (hA : TA A h) (hr : TR ex S (L.map some) (q_w T)) (hn : 1 ≤ s_n S) {p0 p1 : Int32} (hp : ¬ isNd S p0) : TC A T h ex 1 0 S (f_X7_setCut (some (A 0)) p0 p1 (tw A T h)) := by
  unfold f_X7_setCut 
  rw [t_rv, cl_eq ((t_noNd hA hr.1 hn).2 hp), if_neg (show ¬ (1 : Int32) = 0 by decide), rN_at nar01.1]
  exact TC_q hr
theorem t_planOutage1 (hA : TA A h) (hr : TR ex S (L.map some) (q_w T)) (hn : 1 ≤ s_n S) {p0 p1 p2 : Int32} (hp : ¬ isNd S p0) : TC A T h ex 1 0 S (f_X7_planOutage (some (A 0)) p0 p1 p2 (tw A T h)) := by
  unfold f_X7_planOutage 
  rw [t_rv, cl_eq ((t_noNd hA hr.1 hn).2 hp), if_neg (show ¬ (1 : Int32) = 0 by decide)]
  exact TC_q hr
theorem t_timerTime1 (hA : TA A h) (hr : TR ex S (L.map some) (q_w T)) (hn : 1 ≤ s_n S) {p0 : Int32} (hp : ¬ isNd S p0) : TC A T h ex 1 0 S (f_X7_timerTime (some (A 0)) p0 (tw A T h)) := by
  unfold f_X7_timerTime 
  rw [t_rv, cl_eq ((t_noNd hA hr.1 hn).2 hp), if_neg (show ¬ (1 : Int32) = 0 by decide)]
  exact TC_q hr
theorem t_nodeState1 (hA : TA A h) (hr : TR ex S (L.map some) (q_w T)) (hn : 1 ≤ s_n S) {p0 : Int32} (hp : ¬ isNd S p0) : TC A T h ex 1 0 S (f_X7_nodeState (some (A 0)) p0 (tw A T h)) := by
  unfold f_X7_nodeState 
  rw [t_rv, cl_eq ((t_noNd hA hr.1 hn).2 hp), if_neg (show ¬ (1 : Int32) = 0 by decide)]
  exact TC_q hr
theorem t_campaign1 (hA : TA A h) (hr : TR ex S (L.map some) (q_w T)) (hn : 1 ≤ s_n S) {p0 : Int32} (hp : ¬ isNd S p0) : TC A T h ex 1 0 S (f_X7_campaign (some (A 0)) p0 (tw A T h)) := by
  unfold f_X7_campaign 
  rw [t_rv, cl_eq ((t_noNd hA hr.1 hn).2 hp), if_neg (show ¬ (1 : Int32) = 0 by decide)]
  exact TC_q hr
theorem t_writeLater1 (hA : TA A h) (hr : TR ex S (L.map some) (q_w T)) (hn : 1 ≤ s_n S) {p0 p1 p2 p3 : Int32} (hp : ¬ isNd S p0) : TC A T h ex 1 0 S (f_X7_writeLater (some (A 0)) p0 p1 p2 p3 (tw A T h)) := by
  unfold f_X7_writeLater 
  rw [t_rv, cl_eq ((t_noNd hA hr.1 hn).2 hp), if_neg (show ¬ (1 : Int32) = 0 by decide)]
  exact TC_q hr
theorem t_fetch1 (hA : TA A h) (hr : TR ex S (L.map some) (q_w T)) (hn : 1 ≤ s_n S) {p0 p1 : Int32} (hp : ¬ isNd S p0) : TC A T h ex 1 0 S (f_X7_fetch (some (A 0)) p0 p1 (tw A T h)) := by
  unfold f_X7_fetch 
  rw [t_rv, cl_eq ((t_noNd hA hr.1 hn).2 hp), if_neg (show ¬ (1 : Int32) = 0 by decide)]
  exact TC_q hr
theorem t_read1 (hA : TA A h) (hr : TR ex S (L.map some) (q_w T)) (hn : 1 ≤ s_n S) {p0 p1 : Int32} (hp : ¬ isNd S p0) : TC A T h ex 1 0 S (f_X7_read (some (A 0)) p0 p1 (tw A T h)) := by
  unfold f_X7_read 
  rw [t_rv, cl_eq ((t_noNd hA hr.1 hn).2 hp), if_neg (show ¬ (1 : Int32) = 0 by decide)]
  exact TC_q hr
theorem t_isLeading1 (hA : TA A h) (hr : TR ex S (L.map some) (q_w T)) (hn : 1 ≤ s_n S) {p0 : Int32} (hp : ¬ isNd S p0) : TC A T h ex 1 0 S (f_X7_isLeading (some (A 0)) p0 (tw A T h)) := by
  unfold f_X7_isLeading f_X7_isLeading_B20 f_X7_isLeading_B21
  rw [t_rv, cl_eq ((t_noNd hA hr.1 hn).2 hp), if_neg (show ¬ (1 : Int32) = 0 by decide), rN_at nar01.1]
  exact TC_q hr
theorem t_nodeExpiryTime1 (hA : TA A h) (hr : TR ex S (L.map some) (q_w T)) (hn : 1 ≤ s_n S) {p0 : Int32} (hp : ¬ isNd S p0) : TC A T h ex 1 0 S (f_X7_nodeExpiryTime (some (A 0)) p0 (tw A T h)) := by
  unfold f_X7_nodeExpiryTime 
  rw [t_rv, cl_eq ((t_noNd hA hr.1 hn).2 hp), if_neg (show ¬ (1 : Int32) = 0 by decide)]
  exact TC_q hr
theorem t_margin1 (hA : TA A h) (hr : TR ex S (L.map some) (q_w T)) (hn : 1 ≤ s_n S) {p0 : Int32} (hp : ¬ isNd S p0) : TC A T h ex 1 0 S (f_X7_margin (some (A 0)) p0 (tw A T h)) := by
  unfold f_X7_margin 
  rw [t_rv, cl_eq ((t_noNd hA hr.1 hn).2 hp), if_neg (show ¬ (1 : Int32) = 0 by decide)]
  exact TC_q hr
theorem t_leaseLeft1 (hA : TA A h) (hr : TR ex S (L.map some) (q_w T)) (hn : 1 ≤ s_n S) {p0 : Int32} (hp : ¬ isNd S p0) : TC A T h ex 1 0 S (f_X7_leaseLeft (some (A 0)) p0 (tw A T h)) := by
  unfold f_X7_leaseLeft 
  rw [t_rv, cl_eq ((t_noNd hA hr.1 hn).2 hp), if_neg (show ¬ (1 : Int32) = 0 by decide)]
  exact TC_q hr
theorem t_nodeClock1 (hA : TA A h) (hr : TR ex S (L.map some) (q_w T)) (hn : 1 ≤ s_n S) {p0 : Int32} (hp : ¬ isNd S p0) : TC A T h ex 1 0 S (f_X7_nodeClock (some (A 0)) p0 (tw A T h)) := by
  unfold f_X7_nodeClock 
  rw [t_rv, cl_eq ((t_noNd hA hr.1 hn).2 hp), if_neg (show ¬ (1 : Int32) = 0 by decide)]
  exact TC_q hr
theorem t_write1 (hA : TA A h) (hr : TR ex S (L.map some) (q_w T)) (hn : 1 ≤ s_n S) {p0 p1 p2 : Int32} (hp : ¬ isNd S p0) : TC A T h ex 1 0 S (f_X7_write (some (A 0)) p0 p1 p2 (tw A T h)) := by
  unfold f_X7_write 
  rw [t_rv, cl_eq ((t_noNd hA hr.1 hn).2 hp), if_neg (show ¬ (1 : Int32) = 0 by decide)]
  exact TC_q hr
theorem t_timeUntilLeader1 (hA : TA A h) (hr : TR ex S (L.map some) (q_w T)) (hn : 1 ≤ s_n S) {p0 p1 : Int32} (hp : ¬ isNd S p0) : TC A T h ex 1 0 S (f_X7_timeUntilLeader (some (A 0)) p0 p1 (tw A T h)) := by
  unfold f_X7_timeUntilLeader 
  rw [t_rv, cl_eq ((t_noNd hA hr.1 hn).2 hp), if_neg (show ¬ (1 : Int32) = 0 by decide)]
  exact TC_q hr
theorem t_acquiresUntil1 (hA : TA A h) (hr : TR ex S (L.map some) (q_w T)) (hn : 1 ≤ s_n S) {p0 p1 : Int32} (hp : ¬ isNd S p0) : TC A T h ex 1 0 S (f_X7_acquiresUntil (some (A 0)) p0 p1 (tw A T h)) := by
  unfold f_X7_acquiresUntil 
  rw [t_rv, cl_eq ((t_noNd hA hr.1 hn).2 hp), if_neg (show ¬ (1 : Int32) = 0 by decide)]
  exact TC_q hr
theorem t_tryWrite1 (hA : TA A h) (hr : TR ex S (L.map some) (q_w T)) (hn : 1 ≤ s_n S) {p0 p1 : Int32} (hp : ¬ isNd S p0) : TC A T h ex 1 0 S (f_X7_tryWrite (some (A 0)) p0 p1 (tw A T h)) := by
  unfold f_X7_tryWrite 
  rw [t_rv, cl_eq ((t_noNd hA hr.1 hn).2 hp), if_neg (show ¬ (1 : Int32) = 0 by decide)]
  exact TC_q hr
theorem t_predictRead1 (hA : TA A h) (hr : TR ex S (L.map some) (q_w T)) (hn : 1 ≤ s_n S) {p0 p1 p2 : Int32} (hp : ¬ isNd S p0) : TC A T h ex 1 0 S (f_X7_predictRead (some (A 0)) p0 p1 p2 (tw A T h)) := by
  unfold f_X7_predictRead 
  rw [t_rv, cl_eq ((t_noNd hA hr.1 hn).2 hp), if_neg (show ¬ (1 : Int32) = 0 by decide)]
  exact TC_q hr
theorem t_fetch2 (hA : TA A h) (hr : TR ex S (L.map some) (q_w T)) (hI : Inv S) {i : Nat} {p : Int32} (hi : i < s_n S) (hb : ¬ iv p 0 7) : TC A T h ex 2 0 S (f_X7_fetch (some (A 0)) (Int32.ofNat i) p (tw A T h)) := by
  have h6 := hI.2.2.1.2
  have k1 : ((1 : Int64)).toInt = 1 := by decide
  have k2 : ((20000 : Int64)).toInt = 20000 := by decide
  have k3 : ((5000 : Int64)).toInt = 5000 := by decide
  unfold f_X7_fetch f_X7_fetch_B21
  rw [t_rv, cl_eq ((t_noNd hA hr.1 hI.2.2.1.1).1 (isNd_in hi h6)), if_pos rfl, cl_eq (t_noReg hb), if_pos rfl, t_rv, cl_eq (t_throws1 hA (by decide) (by decide) q10), if_neg (show ¬ (1 : Int32) = 0 by decide), x_scsc]
  exact TC_q hr
theorem t_read2 (hA : TA A h) (hr : TR ex S (L.map some) (q_w T)) (hI : Inv S) {i : Nat} {p : Int32} (hi : i < s_n S) (hb : ¬ iv p 0 7) : TC A T h ex 2 0 S (f_X7_read (some (A 0)) (Int32.ofNat i) p (tw A T h)) := by
  have h6 := hI.2.2.1.2
  have k1 : ((1 : Int64)).toInt = 1 := by decide
  have k2 : ((20000 : Int64)).toInt = 20000 := by decide
  have k3 : ((5000 : Int64)).toInt = 5000 := by decide
  unfold f_X7_read f_X7_read_B21
  rw [t_rv, cl_eq ((t_noNd hA hr.1 hI.2.2.1.1).1 (isNd_in hi h6)), if_pos rfl, cl_eq (t_noReg hb), if_pos rfl, t_rv, cl_eq (t_throws1 hA (by decide) (by decide) q10), if_neg (show ¬ (1 : Int32) = 0 by decide), x_scsc]
  exact TC_q hr
theorem t_tryWrite2 (hA : TA A h) (hr : TR ex S (L.map some) (q_w T)) (hI : Inv S) {i : Nat} {p : Int32} (hi : i < s_n S) (hb : ¬ iv p 0 7) : TC A T h ex 2 0 S (f_X7_tryWrite (some (A 0)) (Int32.ofNat i) p (tw A T h)) := by
  have h6 := hI.2.2.1.2
  have k1 : ((1 : Int64)).toInt = 1 := by decide
  have k2 : ((20000 : Int64)).toInt = 20000 := by decide
  have k3 : ((5000 : Int64)).toInt = 5000 := by decide
  unfold f_X7_tryWrite f_X7_tryWrite_B21
  rw [t_rv, cl_eq ((t_noNd hA hr.1 hI.2.2.1.1).1 (isNd_in hi h6)), if_pos rfl, cl_eq (t_noReg hb), if_pos rfl, t_rv, cl_eq (t_throws1 hA (by decide) (by decide) q10), if_neg (show ¬ (1 : Int32) = 0 by decide), x_scsc]
  exact TC_q hr
theorem t_write2 (hA : TA A h) (hr : TR ex S (L.map some) (q_w T)) (hI : Inv S) {i : Nat} {p q : Int32} (hi : i < s_n S) (hb : ¬ (iv p 0 7 ∧ iv q 0 999999)) : TC A T h ex 2 0 S (f_X7_write (some (A 0)) (Int32.ofNat i) p q (tw A T h)) := by
  have h6 := hI.2.2.1.2
  have k1 : ((1 : Int64)).toInt = 1 := by decide
  have k2 : ((20000 : Int64)).toInt = 20000 := by decide
  have k3 : ((5000 : Int64)).toInt = 5000 := by decide
  have key : TC A T h ex 2 0 S (f_X7_write_B23 (some (A 0)) (Int32.ofNat i) p q (some (A 0)) (tw A (x_sc T 1 0) h)) := by
    unfold f_X7_write_B23 f_X7_write_B28
    rw [t_rv, cl_eq (t_throws1 hA (by decide) (by decide) q10), if_neg (show ¬ (1 : Int32) = 0 by decide), x_scsc]
    exact TC_q hr
  unfold f_X7_write
  rw [t_rv, cl_eq ((t_noNd hA hr.1 hI.2.2.1.1).1 (isNd_in hi h6)), if_pos rfl]
  by_cases h1 : iv p 0 7
  · obtain ⟨r, hr8, e⟩ := reg_of h1
    rw [e] at key ⊢
    rw [cl_eq (t_isReg hr8), if_neg (show ¬ (1 : Int32) = 0 by decide), cl_eq t_isVal, if_neg (show ¬ (0 ≤ q.toInt ∧ q.toInt ≤ 999999) from fun h2 => hb ⟨h1, h2⟩), if_pos rfl]
    exact key
  · rw [cl_eq (t_noReg h1), if_pos rfl]
    exact key
theorem t_writeLater2 (hA : TA A h) (hr : TR ex S (L.map some) (q_w T)) (hI : Inv S) {i : Nat} {p q s : Int32} (hi : i < s_n S) (hb : ¬ (iv p 0 7 ∧ iv q 0 999999 ∧ iv s 1 20000)) : TC A T h ex 2 0 S (f_X7_writeLater (some (A 0)) (Int32.ofNat i) p q s (tw A T h)) := by
  have h6 := hI.2.2.1.2
  have k1 : ((1 : Int64)).toInt = 1 := by decide
  have k2 : ((20000 : Int64)).toInt = 20000 := by decide
  have k3 : ((5000 : Int64)).toInt = 5000 := by decide
  have key : TC A T h ex 2 0 S (f_X7_writeLater_B36 (some (A 0)) (Int32.ofNat i) p q s (some (A 0)) (tw A (x_sc T 1 0) h)) := by
    unfold f_X7_writeLater_B36 f_X7_writeLater_B41
    rw [t_rv, cl_eq (t_throws1 hA (by decide) (by decide) q10), if_neg (show ¬ (1 : Int32) = 0 by decide), x_scsc]
    exact TC_q hr
  unfold f_X7_writeLater
  rw [t_rv, cl_eq ((t_noNd hA hr.1 hI.2.2.1.1).1 (isNd_in hi h6)), if_pos rfl]
  by_cases h1 : iv p 0 7
  · obtain ⟨r, hr8, e⟩ := reg_of h1
    rw [e] at key ⊢
    rw [cl_eq (t_isReg hr8), if_neg (show ¬ (1 : Int32) = 0 by decide), cl_eq t_isVal]
    by_cases h2 : 0 ≤ q.toInt ∧ q.toInt ≤ 999999
    · rw [if_pos h2, if_neg (show ¬ (1 : Int32) = 0 by decide), cl_eq t_in, k1, k2, Int32.toInt_toInt64, if_neg (show ¬ (1 ≤ s.toInt ∧ s.toInt ≤ 20000) from fun h3 => hb ⟨h1, h2, h3⟩), if_pos rfl]
      exact key
    · rw [if_neg h2, if_pos rfl]
      exact key
  · rw [cl_eq (t_noReg h1), if_pos rfl]
    exact key
theorem t_predictRead2 (hA : TA A h) (hr : TR ex S (L.map some) (q_w T)) (hI : Inv S) {i : Nat} {p q : Int32} (hi : i < s_n S) (hb : ¬ (iv p 0 7 ∧ iv q 1 5000)) : TC A T h ex 2 0 S (f_X7_predictRead (some (A 0)) (Int32.ofNat i) p q (tw A T h)) := by
  have h6 := hI.2.2.1.2
  have k1 : ((1 : Int64)).toInt = 1 := by decide
  have k2 : ((20000 : Int64)).toInt = 20000 := by decide
  have k3 : ((5000 : Int64)).toInt = 5000 := by decide
  have key : TC A T h ex 2 0 S (f_X7_predictRead_B28 (some (A 0)) (Int32.ofNat i) p q (some (A 0)) (tw A (x_sc T 1 0) h)) := by
    unfold f_X7_predictRead_B28 f_X7_predictRead_B33
    rw [t_rv, cl_eq (t_throws1 hA (by decide) (by decide) q10), if_neg (show ¬ (1 : Int32) = 0 by decide), x_scsc]
    exact TC_q hr
  unfold f_X7_predictRead
  rw [t_rv, cl_eq ((t_noNd hA hr.1 hI.2.2.1.1).1 (isNd_in hi h6)), if_pos rfl]
  by_cases h1 : iv p 0 7
  · obtain ⟨r, hr8, e⟩ := reg_of h1
    rw [e] at key ⊢
    rw [cl_eq (t_isReg hr8), if_neg (show ¬ (1 : Int32) = 0 by decide), cl_eq t_in, k1, k3, Int32.toInt_toInt64, if_neg (show ¬ (1 ≤ q.toInt ∧ q.toInt ≤ 5000) from fun h2 => hb ⟨h1, h2⟩), if_pos rfl]
    exact key
  · rw [cl_eq (t_noReg h1), if_pos rfl]
    exact key
end TWA
