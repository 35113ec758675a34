/-! THE COMPONENT: what is told (printed by gen/mkd1.py) -/
set_option maxRecDepth 100000
section CX1
variable {E : PE} {B : Nat × Nat} {F : Nat → Nat} {R : PM} {S : SS} {h : PH} {X bA sA : Nat} {len le : Int32}
theorem x_now (hS : SP E B F R S h) (hX : R X = some (cLL bA len le (F 0) sA)) : f_X1_now (some X) h = some (s_sc S 8, h) := by
  unfold f_X1_now
  rw [x_sim hS hX, r_scN hS (by decide) (by decide)]
theorem x_holder (hS : SP E B F R S h) (hX : R X = some (cLL bA len le (F 0) sA)) : f_X1_holder (some X) h = some (s_sc S 12, h) := by
  unfold f_X1_holder
  rw [x_sim hS hX, r_scN hS (by decide) (by decide)]
theorem x_greatestToken (hS : SP E B F R S h) (hX : R X = some (cLL bA len le (F 0) sA)) : f_X1_greatestToken (some X) h = some (s_sc S 14, h) := by
  unfold f_X1_greatestToken
  rw [x_sim hS hX, r_scN hS (by decide) (by decide)]
theorem x_messagesLost (hS : SP E B F R S h) (hX : R X = some (cLL bA len le (F 0) sA)) : f_X1_messagesLost (some X) h = some (s_sc S 11, h) := by
  unfold f_X1_messagesLost
  rw [x_sim hS hX, r_scN hS (by decide) (by decide)]
theorem x_splitTime (hS : SP E B F R S h) (hX : R X = some (cLL bA len le (F 0) sA)) : f_X1_splitTime (some X) h = some (s_sc S 16, h) := by
  unfold f_X1_splitTime
  rw [x_sim hS hX, r_scN hS (by decide) (by decide)]
theorem x_reads (hS : SP E B F R S h) (hX : R X = some (cLL bA len le (F 0) sA)) : f_X1_reads (some X) h = some (s_sc S 18, h) := by
  unfold f_X1_reads
  rw [x_sim hS hX, r_scN hS (by decide) (by decide)]
theorem x_staleReads (hS : SP E B F R S h) (hX : R X = some (cLL bA len le (F 0) sA)) : f_X1_staleReads (some X) h = some (s_sc S 19, h) := by
  unfold f_X1_staleReads
  rw [x_sim hS hX, r_scN hS (by decide) (by decide)]
theorem x_nodeCount (hS : SP E B F R S h) (hX : R X = some (cLL bA len le (F 0) sA)) : f_X1_nodeCount (some X) h = some (Int32.ofNat (s_n S), h) := by
  unfold f_X1_nodeCount
  rw [x_sim hS hX, r_refN hS (by decide) (by decide), r_n hS]
theorem x_serverClock (hS : SP E B F R S h) (hX : R X = some (cLL bA len le (F 0) sA)) : f_X1_serverClock (some X) h = some (srvAt S, h) := by
  unfold f_X1_serverClock
  rw [x_sim hS hX, r_sim hS, cl_eq (r_srv hS)]
theorem x_storageToken (hS : SP E B F R S h) (hX : R X = some (cLL bA len le (F 0) sA)) : f_X1_storageToken (some X) h = some (s_sc S 30, h) := by
  unfold f_X1_storageToken
  rw [x_sim hS hX, r_refN hS (by decide) (by decide), r_stoN hS]
theorem x_graceLeft (hS : SP E B F R S h) (hX : R X = some (cLL bA len le (F 0) sA)) : f_X1_graceLeft (some X) h = some (mx 0 (s_sc S 15 - srvAt S), h) := by
  unfold f_X1_graceLeft
  rw [x_sim hS hX, r_scN hS (by decide) (by decide), x_sim hS hX, r_sim hS, cl_eq (r_srv hS)]
  rfl
theorem x_leaders (hS : SP E B F R S h) (hX : R X = some (cLL bA len le (F 0) sA)) (hw : W1 S) : f_X1_leaders (some X) h = some (leadersS S, h) := by
  unfold f_X1_leaders
  rw [x_sim hS hX, r_sim hS, cl_eq (m_leaders hS hw)]
theorem x_messagesOnWay (hS : SP E B F R S h) (hX : R X = some (cLL bA len le (F 0) sA)) : f_X1_messagesOnWay (some X) h = some (Int32.ofNat (s_ms S).length, h) := by
  unfold f_X1_messagesOnWay
  rw [x_sim hS hX, r_refN hS (by decide) (by decide), r_lsv hS (by decide) (by decide), cl_eq (r_size hS (by decide) (by decide)), len2]
theorem x_delayedWrites (hS : SP E B F R S h) (hX : R X = some (cLL bA len le (F 0) sA)) : f_X1_delayedWrites (some X) h = some (Int32.ofNat (s_dl S).length, h) := by
  unfold f_X1_delayedWrites
  rw [x_sim hS hX, r_refN hS (by decide) (by decide), r_lsv hS (by decide) (by decide), cl_eq (r_size hS (by decide) (by decide)), len3]
theorem x_logSize (hS : SP E B F R S h) (hX : R X = some (cLL bA len le (F 0) sA)) : f_X1_logSize (some X) h = some (Int32.ofNat (s_lg S).length, h) := by
  unfold f_X1_logSize
  rw [x_sim hS hX, r_refN hS (by decide) (by decide), r_lsv hS (by decide) (by decide), cl_eq (r_size hS (by decide) (by decide)), len5]
theorem x_token (hS : SP E B F R S h) (hX : R X = some (cLL bA len le (F 0) sA)) {i : Nat} (hi : i < s_n S) : f_X1_token (some X) (Int32.ofNat i) h = some (.inr (s_nd S i 6), h) := by
  unfold f_X1_token
  rw [x_rv hS hX, cl_eq (x_nodeY hS hX hi)]
  dsimp only
  rw [r_ndN hS hi (by decide) (by decide)]
theorem x_tokenN (hS : SP E B F R S h) (hX : R X = some (cLL bA len le (F 0) sA)) (hB : fitB B (g_mk S 1 6)) {p : Int32} (hp : ¬ isNd S p) : okk (f_X1_token (some X) p h) (XT E B F R 24 S) := by
  unfold f_X1_token
  rw [x_rv hS hX]
  exact x_on (x_nodeN hS hX hB hp) (fun q h1 _ => rfl)
theorem x_timerTime (hS : SP E B F R S h) (hX : R X = some (cLL bA len le (F 0) sA)) {i : Nat} (hi : i < s_n S) : f_X1_timerTime (some X) (Int32.ofNat i) h = some (.inr (s_nd S i 8), h) := by
  unfold f_X1_timerTime
  rw [x_rv hS hX, cl_eq (x_nodeY hS hX hi)]
  dsimp only
  rw [r_ndN hS hi (by decide) (by decide)]
theorem x_timerTimeN (hS : SP E B F R S h) (hX : R X = some (cLL bA len le (F 0) sA)) (hB : fitB B (g_mk S 1 6)) {p : Int32} (hp : ¬ isNd S p) : okk (f_X1_timerTime (some X) p h) (XT E B F R 24 S) := by
  unfold f_X1_timerTime
  rw [x_rv hS hX]
  exact x_on (x_nodeN hS hX hB hp) (fun q h1 _ => rfl)
theorem x_cached (hS : SP E B F R S h) (hX : R X = some (cLL bA len le (F 0) sA)) {i : Nat} (hi : i < s_n S) : f_X1_cached (some X) (Int32.ofNat i) h = some (.inr (s_nd S i 9), h) := by
  unfold f_X1_cached
  rw [x_rv hS hX, cl_eq (x_nodeY hS hX hi)]
  dsimp only
  rw [r_ndN hS hi (by decide) (by decide)]
theorem x_cachedN (hS : SP E B F R S h) (hX : R X = some (cLL bA len le (F 0) sA)) (hB : fitB B (g_mk S 1 6)) {p : Int32} (hp : ¬ isNd S p) : okk (f_X1_cached (some X) p h) (XT E B F R 24 S) := by
  unfold f_X1_cached
  rw [x_rv hS hX]
  exact x_on (x_nodeN hS hX hB hp) (fun q h1 _ => rfl)
theorem x_ledTime (hS : SP E B F R S h) (hX : R X = some (cLL bA len le (F 0) sA)) {i : Nat} (hi : i < s_n S) : f_X1_ledTime (some X) (Int32.ofNat i) h = some (.inr (s_nd S i 10), h) := by
  unfold f_X1_ledTime
  rw [x_rv hS hX, cl_eq (x_nodeY hS hX hi)]
  dsimp only
  rw [r_ndN hS hi (by decide) (by decide)]
theorem x_ledTimeN (hS : SP E B F R S h) (hX : R X = some (cLL bA len le (F 0) sA)) (hB : fitB B (g_mk S 1 6)) {p : Int32} (hp : ¬ isNd S p) : okk (f_X1_ledTime (some X) p h) (XT E B F R 24 S) := by
  unfold f_X1_ledTime
  rw [x_rv hS hX]
  exact x_on (x_nodeN hS hX hB hp) (fun q h1 _ => rfl)
theorem x_nodeClock (hS : SP E B F R S h) (hX : R X = some (cLL bA len le (F 0) sA)) {i : Nat} (hi : i < s_n S) : f_X1_nodeClock (some X) (Int32.ofNat i) h = some (.inr (ndAt S i (now S)), h) := by
  unfold f_X1_nodeClock
  rw [x_rv hS hX, cl_eq (x_nodeY hS hX hi)]
  dsimp only
  rw [r_ndkN hS hi, x_sim hS hX, r_scN hS (by decide) (by decide), r_clkv hS hi, cl_eq (r_at hS hi)]
theorem x_nodeClockN (hS : SP E B F R S h) (hX : R X = some (cLL bA len le (F 0) sA)) (hB : fitB B (g_mk S 1 6)) {p : Int32} (hp : ¬ isNd S p) : okk (f_X1_nodeClock (some X) p h) (XT E B F R 24 S) := by
  unfold f_X1_nodeClock
  rw [x_rv hS hX]
  exact x_on (x_nodeN hS hX hB hp) (fun q h1 _ => rfl)
theorem x_isLeading (hS : SP E B F R S h) (hX : R X = some (cLL bA len le (F 0) sA)) (hw : W1 S) {i : Nat} (hi : i < s_n S) : f_X1_isLeading (some X) (Int32.ofNat i) h = some (.inr (if leads S i (now S) = true then 1 else 0), h) := by
  unfold f_X1_isLeading
  rw [x_rv hS hX, cl_eq (x_nodeY hS hX hi)]
  dsimp only
  rw [x_sim hS hX, r_scN hS (by decide) (by decide), r_ndv hS hi, cl_eq (m_leads hS hi hw)]
  by_cases c : leads S i (now S) = true
  · rw [if_pos c]
    exact rN_at nar01.2
  · rw [if_neg c]
    exact rN_at nar01.1
theorem x_isLeadingN (hS : SP E B F R S h) (hX : R X = some (cLL bA len le (F 0) sA)) (hB : fitB B (g_mk S 1 6)) {p : Int32} (hp : ¬ isNd S p) : okk (f_X1_isLeading (some X) p h) (XT E B F R 24 S) := by
  unfold f_X1_isLeading
  rw [x_rv hS hX]
  exact x_on (x_nodeN hS hX hB hp) (fun q h1 _ => rfl)
theorem x_nodeExpiryTime (hS : SP E B F R S h) (hX : R X = some (cLL bA len le (F 0) sA)) (hw : W1 S) {i : Nat} (hi : i < s_n S) : f_X1_nodeExpiryTime (some X) (Int32.ofNat i) h = some (.inr (ndEnd S i), h) := by
  unfold f_X1_nodeExpiryTime
  rw [x_rv hS hX, cl_eq (x_nodeY hS hX hi)]
  dsimp only
  unfold ndEnd f_X1_nodeExpiryTime_B29
  rw [r_ndN hS hi (by decide) (by decide)]
  by_cases c : s_nd S i 6 = 0
  · rw [if_pos c, if_pos c]
  · rw [if_neg c, if_neg c, r_ndkN hS hi, r_ndN hS hi (by decide) (by decide), r_clkv hS hi, cl_eq (r_re hS hi (hw.1 i hi))]
theorem x_nodeExpiryTimeN (hS : SP E B F R S h) (hX : R X = some (cLL bA len le (F 0) sA)) (hB : fitB B (g_mk S 1 6)) {p : Int32} (hp : ¬ isNd S p) : okk (f_X1_nodeExpiryTime (some X) p h) (XT E B F R 24 S) := by
  unfold f_X1_nodeExpiryTime
  rw [x_rv hS hX]
  exact x_on (x_nodeN hS hX hB hp) (fun q h1 _ => rfl)
theorem x_serverExpiryTime (hS : SP E B F R S h) (hX : R X = some (cLL bA len le (F 0) sA)) (hz : (s_cf S 0).toInt64 ≠ 0) : f_X1_serverExpiryTime (some X) h = some (srvEnd S, h) := by
  unfold f_X1_serverExpiryTime f_X1_serverExpiryTime_B37 srvEnd
  rw [x_sim hS hX, r_scN hS (by decide) (by decide)]
  by_cases c : s_sc S 12 = -4
  · rw [if_pos c, if_pos c]
  · rw [if_neg c, if_neg c, x_sim hS hX, r_ofN hS, r_cfs hS, x_sim hS hX, r_scN hS (by decide) (by decide), rv_at hS.srv.1]
    unfold f_X4_reaches
    rw [gI_at hS.srv.1 rfl, gI_at hS.srv.1 rfl, gI_at hS.srv.1 rfl, dvL_at hz]
    rfl
theorem x_margin (hS : SP E B F R S h) (hX : R X = some (cLL bA len le (F 0) sA)) (hw : W1 S) (hz : (s_cf S 0).toInt64 ≠ 0) {i : Nat} (hi : i < s_n S) : f_X1_margin (some X) (Int32.ofNat i) h = some (.inr (margS S i), h) := by
  unfold f_X1_margin
  rw [x_rv hS hX, cl_eq (x_nodeY hS hX hi)]
  dsimp only
  unfold f_X1_margin_B38 margS
  rw [x_sim hS hX, r_scN hS (by decide) (by decide)]
  by_cases c : s_sc S 12 = Int32.ofNat i
  · rw [if_pos c, if_pos c, r_ndN hS hi (by decide) (by decide)]
    by_cases c0 : s_nd S i 6 = 0
    · rw [if_pos c0, if_pos c0]
      split <;> rfl
    · rw [if_neg c0, if_neg c0, r_ndN hS hi (by decide) (by decide), x_sim hS hX, r_scN hS (by decide) (by decide)]
      by_cases c1 : s_nd S i 6 = s_sc S 14
      · rw [if_pos c1, if_pos c1, x_rv hS hX, cl_eq (x_serverExpiryTime hS hX hz), x_rv hS hX, cl_eq (x_nodeExpiryTime hS hX hw hi)]
        dsimp only
        unfold ndEnd
        rw [if_neg c0]
      · rw [if_neg c1, if_neg c1]
  · rw [if_neg c, if_neg c]
theorem x_marginN (hS : SP E B F R S h) (hX : R X = some (cLL bA len le (F 0) sA)) (hB : fitB B (g_mk S 1 6)) {p : Int32} (hp : ¬ isNd S p) : okk (f_X1_margin (some X) p h) (XT E B F R 24 S) := by
  unfold f_X1_margin
  rw [x_rv hS hX]
  exact x_on (x_nodeN hS hX hB hp) (fun q h1 _ => rfl)
theorem x_leaseLeft (hS : SP E B F R S h) (hX : R X = some (cLL bA len le (F 0) sA)) (hI : Inv S) {i : Nat} (hi : i < s_n S) : f_X1_leaseLeft (some X) (Int32.ofNat i) h = some (.inr (leftS S i), h) := by
  unfold f_X1_leaseLeft
  rw [x_rv hS hX, cl_eq (x_nodeY hS hX hi)]
  dsimp only
  unfold leftS f_X1_leaseLeft_B46 f_X1_leaseLeft_B47
  rw [r_ndN hS hi (by decide) (by decide)]
  by_cases c : s_nd S i 2 = 0
  · rw [if_pos c, if_pos c]
  · rw [if_neg c, if_neg c, r_ndN hS hi (by decide) (by decide)]
    have hN := hI.2.1 i hi
    by_cases c0 : s_nd S i 6 = 0
    · rw [if_pos c0, if_pos (show s_nd S i 6 ≤ 0 by rw [c0]; decide)]
    · have h0 := hN.2.2.2.2.2.2.2.2.1
      have hp : ¬ s_nd S i 6 ≤ 0 := fun hy => c0 (by
        rw [i_le, show ((0 : Int32)).toInt = 0 from rfl] at hy
        apply Int32.toInt_inj.mp
        show _ = (0 : Int)
        omega)
      rw [if_neg c0, if_neg hp, r_ndN hS hi (by decide) (by decide), r_ndkN hS hi, x_sim hS hX, r_scN hS (by decide) (by decide), r_clkv hS hi, cl_eq (r_at hS hi)]
theorem x_leaseLeftN (hS : SP E B F R S h) (hX : R X = some (cLL bA len le (F 0) sA)) (hB : fitB B (g_mk S 1 6)) {p : Int32} (hp : ¬ isNd S p) : okk (f_X1_leaseLeft (some X) p h) (XT E B F R 24 S) := by
  unfold f_X1_leaseLeft
  rw [x_rv hS hX]
  exact x_on (x_nodeN hS hX hB hp) (fun q h1 _ => rfl)
theorem x_stored (hS : SP E B F R S h) (hX : R X = some (cLL bA len le (F 0) sA)) {r : Nat} (hr : r < 8) : f_X1_stored (some X) (Int32.ofNat r) h = some (.inr (s_ar S 0 r), h) := by
  unfold f_X1_stored
  rw [cl_eq (x_regY hr)]
  dsimp only
  rw [x_sim hS hX, r_refN hS (by decide) (by decide), r_stoN0 hS, r_arr hS (by decide) (show r < arL 8 from hr)]
  rfl
theorem x_storedN (hS : SP E B F R S h) (hX : R X = some (cLL bA len le (F 0) sA)) (hB : fitB B (g_mk S 1 6)) {p : Int32} (hp : ¬ iv p 0 7) : okk (f_X1_stored (some X) p h) (XT E B F R 20 S) := by
  unfold f_X1_stored
  exact x_on (x_regN hS hB hp) (fun q h1 _ => rfl)
theorem x_version (hS : SP E B F R S h) (hX : R X = some (cLL bA len le (F 0) sA)) {r : Nat} (hr : r < 8) : f_X1_version (some X) (Int32.ofNat r) h = some (.inr (s_ar S 1 r), h) := by
  unfold f_X1_version
  rw [cl_eq (x_regY hr)]
  dsimp only
  rw [x_sim hS hX, r_refN hS (by decide) (by decide), r_stoN1 hS, r_arr hS (by decide) (show r < arL 9 from hr)]
  rfl
theorem x_versionN (hS : SP E B F R S h) (hX : R X = some (cLL bA len le (F 0) sA)) (hB : fitB B (g_mk S 1 6)) {p : Int32} (hp : ¬ iv p 0 7) : okk (f_X1_version (some X) p h) (XT E B F R 20 S) := by
  unfold f_X1_version
  exact x_on (x_regN hS hB hp) (fun q h1 _ => rfl)
end CX1
