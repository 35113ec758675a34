/-! THE TWIN's CALLS: registers, log, counts, leaders; wrong arguments -/
set_option maxRecDepth 100000
section TLC
variable {A : Nat → Nat} {h : PH} {T : TS} {ex : Bool × Int32 × Int32} {S : SS} {L : List MG}
theorem q10 : q_sc (x_sc T 1 0) 1 = 0 := by show fu (q_sc T) 1 0 1 = _; rw [fu_eq]
theorem t_regCell (hA : TA A h) (hr : TR ex S (L.map some) (q_w T)) {r b : Nat} {x : Int32} (hx : x = Int32.ofNat b) (hb : b < 1000) (hr8 : r < 8) : TC A T h ex 0 (q_w T (b + r)) S (f_X7_registerCell (some (A 0)) (Int32.ofNat r) x (tw A T h)) := by
  unfold f_X7_registerCell f_X7_registerCell_B18 f_X7_registerCell_B37
  rw [t_pV hA (by decide), cl_eq (t_isReg hr8), if_neg (by decide), t_rv, cl_eq (t_throws0 rfl q10), if_pos rfl, t_rW, t_aW hA _ (b + r) (by rw [hx, of_add]) (by omega)]
  exact TC_q hr
theorem t_regBad (hA : TA A h) (hr : TR ex S (L.map some) (q_w T)) {p x : Int32} (hp : ¬ iv p 0 7) : TC A T h ex 1 0 S (f_X7_registerCell (some (A 0)) p x (tw A T h)) := by
  unfold f_X7_registerCell f_X7_registerCell_B18 f_X7_registerCell_B37
  rw [t_pV hA (by decide), cl_eq (t_noReg hp), if_pos rfl, t_rv, cl_eq (t_throws1 hA (by decide) (by decide) q10), if_neg (by decide), x_scsc]
  exact TC_q hr
/-- a number of the k-th event -/
theorem t_logCell (hA : TA A h) (hr : TR ex S (L.map some) (q_w T)) {k c : Nat} {x : Int32} (hx : x = Int32.ofNat c) (hc : c < 4) (hk : k < (s_lg S).length) : TC A T h ex 0 (q_w T (336 + 4 * k + c)) S (f_X7_logCell (some (A 0)) (Int32.ofNat k) x (tw A T h)) := by
  have a22 : q_w T 22 = Int32.ofNat (s_lg S).length := hr.1.1.2.2.2.2.2.2.2.2.2.2.2.2.2.2.2.2.2.2.2.2.1
  have hl : (s_lg S).length ≤ 200 := hr.1.2.2.2.2.2.1.1
  have e0 : ((0 : Int64)).toInt = 0 := by decide
  have en : ((Int32.ofNat (s_lg S).length - 1).toInt64).toInt = ((s_lg S).length : Int) - 1 := by
    rw [Int32.toInt_toInt64, show (1 : Int32) = Int32.ofNat 1 from rfl, of_sub (by omega), Int32.toInt_ofNat_of_lt (by omega)]
    omega
  unfold f_X7_logCell f_X7_logCell_B30 f_X7_logCell_B55
  rw [t_pV hA (by decide), t_rW, t_aW hA 22 22 rfl (by decide), q_wsc, a22, cl_eq t_in, e0, en, Int32.toInt_toInt64, Int32.toInt_ofNat_of_lt (by omega), if_pos (show (0 : Int) ≤ (k : Int) ∧ (k : Int) ≤ ((s_lg S).length : Int) - 1 by omega), if_neg (show ¬ (1 : Int32) = 0 by decide), t_rv, cl_eq (t_throws0 rfl q10), if_pos rfl, t_rW, t_aW hA _ (336 + 4 * k + c) (ix4 hx) (by omega)]
  exact TC_q hr
theorem t_logBad (hA : TA A h) (hr : TR ex S (L.map some) (q_w T)) {p x : Int32} (hp : ¬ (0 ≤ p.toInt ∧ p.toInt ≤ ((s_lg S).length : Int) - 1)) : TC A T h ex 1 0 S (f_X7_logCell (some (A 0)) p x (tw A T h)) := by
  have a22 : q_w T 22 = Int32.ofNat (s_lg S).length := hr.1.1.2.2.2.2.2.2.2.2.2.2.2.2.2.2.2.2.2.2.2.2.1
  have hl : (s_lg S).length ≤ 200 := hr.1.2.2.2.2.2.1.1
  have e0 : ((0 : Int64)).toInt = 0 := by decide
  have k1 : ((1 : Int32)).toInt = 1 := by decide
  have en : ((Int32.ofNat (s_lg S).length - 1).toInt64).toInt = ((s_lg S).length : Int) - 1 := by
    have e1 : (Int32.ofNat (s_lg S).length).toInt = (s_lg S).length := Int32.toInt_ofNat_of_lt (by omega)
    rw [Int32.toInt_toInt64, i_sub (by rw [e1, k1]; omega) (by rw [e1, k1]; omega), e1, k1]
  unfold f_X7_logCell f_X7_logCell_B30 f_X7_logCell_B55
  rw [t_pV hA (by decide), t_rW, t_aW hA 22 22 rfl (by decide), q_wsc, a22, cl_eq t_in, e0, en, Int32.toInt_toInt64, if_neg hp, if_pos rfl, t_rv, cl_eq (t_throws1 hA (by decide) (by decide) q10), if_neg (by decide), x_scsc]
  exact TC_q hr
theorem t_eventCount (hA : TA A h) (hr : TR ex S (L.map some) (q_w T)) {k : Nat} (h1 : 1 ≤ k) (h8 : k ≤ 8) : TC A T h ex 0 (s_ar S 2 k) S (f_X7_eventCount (some (A 0)) (Int32.ofNat k) (tw A T h)) := by
  have e1 : ((1 : Int64)).toInt = 1 := by decide
  have e8 : ((8 : Int64)).toInt = 8 := by decide
  have ea : q_w T (24 + k) = s_ar S 2 k := hr.1.2.2.1.1 k (by omega)
  unfold f_X7_eventCount f_X7_eventCount_B23 f_X7_eventCount_B43
  rw [t_pV hA (by decide), cl_eq t_in, e1, e8, Int32.toInt_toInt64, Int32.toInt_ofNat_of_lt (by omega), if_pos (show (1 : Int) ≤ (k : Int) ∧ (k : Int) ≤ 8 by omega), if_neg (show ¬ (1 : Int32) = 0 by decide), t_rv, cl_eq (t_throws0 rfl q10), if_pos rfl, t_rW, t_aW hA _ (24 + k) (by rw [show (24 : Int32) = Int32.ofNat 24 from rfl, of_add]) (by omega), q_wsc, ea]
  exact TC_q hr
theorem t_eventBad (hA : TA A h) (hr : TR ex S (L.map some) (q_w T)) {p : Int32} (hp : ¬ iv p 1 8) : TC A T h ex 1 0 S (f_X7_eventCount (some (A 0)) p (tw A T h)) := by
  have e1 : ((1 : Int64)).toInt = 1 := by decide
  have e8 : ((8 : Int64)).toInt = 8 := by decide
  unfold f_X7_eventCount f_X7_eventCount_B23 f_X7_eventCount_B43
  rw [t_pV hA (by decide), cl_eq t_in, e1, e8, Int32.toInt_toInt64, if_neg (show ¬ (1 ≤ p.toInt ∧ p.toInt ≤ 8) from hp), if_pos rfl, t_rv, cl_eq (t_throws1 hA (by decide) (by decide) q10), if_neg (by decide), x_scsc]
  exact TC_q hr
/-- the leaders -/
theorem t_leadL (hA : TA A h) (hT : TWb ex S (q_w T)) (hN : ∀ i : Nat, i < s_n S → NI (s_nd S i)) (hW : iv (now S) 0 5000000) : ∀ (d i N : Nat) (x : Int32), i + d = s_n S → d < N → f_X7_leadersNow_L4 N (some (A 0)) x (Int32.ofNat i) (tw A T h) = some (((List.range (s_n S)).drop i).foldl (fun a k => a ||| (if leads S k (now S) = true then (1 : Int32) <<< (Int32.ofNat k &&& 31) else 0)) x, tw A T h) := by
  intro d
  have a2 : q_w T 2 = Int32.ofNat (s_n S) := hT.1.2.2.1
  have h6 := hT.2.2.2.2.2.2
  induction d with
  | zero =>
    intro i N x h1 h2
    cases N with
    | zero => omega
    | succ N =>
      unfold f_X7_leadersNow_L4
      rw [t_rW, t_aW hA 2 2 rfl (by decide), a2, if_pos (by rw [of_le (by omega) (by omega)]; omega), List.drop_of_length_le (by simp; omega), List.foldl_nil]
  | succ d ih =>
    intro i N x h1 h2
    cases N with
    | zero => omega
    | succ N =>
      have hi : i < s_n S := by omega
      rw [range_drop hi, List.foldl_cons]
      have nx : Int32.ofNat i + 1 = Int32.ofNat (i + 1) := by rw [show (1 : Int32) = Int32.ofNat 1 from rfl, of_add]
      unfold f_X7_leadersNow_L4 f_X7_leadersNow_B30
      rw [t_rW, t_aW hA 2 2 rfl (by decide), a2, if_neg (fun hy => by rw [of_le (by omega) (by omega)] at hy; omega), t_rv, cl_eq (t_leads hA hT (hN i hi) hW hi), nx]
      by_cases hl : leads S i (now S) = true
      · rw [if_pos hl, if_neg (show ¬ (1 : Int32) = 0 by decide), ih (i + 1) N _ (by omega) (by omega), if_pos hl]
      · rw [if_neg hl, if_pos rfl, ih (i + 1) N _ (by omega) (by omega), if_neg hl]
theorem t_leadersN (hA : TA A h) (hT : TWb ex S (q_w T)) (hI : Inv S) : f_X7_leadersNow (some (A 0)) (tw A T h) = some (leadersS S, tw A T h) := by
  have h6 := hI.2.2.1.2
  unfold f_X7_leadersNow leadersS
  have := t_leadL hA hT hI.2.1 hI.2.2.2.1.1 (s_n S) 0 FU 0 (by omega) (by unfold FU; omega)
  rw [List.drop_zero] at this
  exact this
theorem t_leaders (hA : TA A h) (hr : TR ex S (L.map some) (q_w T)) (hI : Inv S) : TC A T h ex 0 (leadersS S) S (f_X7_leaders (some (A 0)) (tw A T h)) := by
  have hr0 : TR ex S (L.map some) (q_w (x_sc T 1 0)) := hr
  unfold f_X7_leaders
  rw [t_pV hA (by decide), t_rv, cl_eq (t_leadersN hA hr0.1 hI)]
  exact TC_q hr
end TLC
