/-! THE TWIN: predictions (1): leaderlessTime, longestLeaderless, acquiresUntil -/
set_option maxRecDepth 100000
section TPD
variable {A : Nat → Nat} {h : PH} {T : TS} {p2 : Int32 × Int32} {S S2 : SS} {L : List MG}
/-- the row after putsAside, some work (T1) and takesBack -/
theorem TD.back {T1 : TS} {code ans : Int32} (hr : TR (true, p2) S (L.map some) (q_w T)) (hq : TQ T T1) (h1 : q_sc T1 1 = code) (ha : q_as T1 = ovW (q_as T) (q_w T) 73136) : TD A T h code ans S (some (ans, tw A (x_w T1 (ovW (q_w T1) (q_as T1) 73136)) h)) := by
  refine ⟨_, L, p2, rfl, hq, h1, ?_⟩
  rw [q_xw, ha]
  exact hr.cong (fun p hp => by rw [ovW_lt hp, ovW_lt hp])
theorem q_assc {k : Nat} {v : Int32} : q_as (x_sc T k v) = q_as T := rfl
theorem q_was {f : Nat → Int32} : q_w (x_as T f) = q_w T := rfl
theorem Inv_sc17 {v : Int32} (hI : Inv S) : Inv (u_sc S 17 v) := hI
theorem TQ.as {T T' : TS} {f : Nat → Int32} {v : Int32} (h : TQ (x_as (x_sc T 1 v) f) T') : TQ T T' := TQ.sc1 (v := v) h
theorem TQ.w {T T' : TS} {f : Nat → Int32} (h : TQ (x_w T f) T') : TQ T T' := h
theorem t_leaderlessTime (hA : TA A h) (hr : TR (true, p2) S (L.map some) (q_w T)) (hr2 : TR (true, p2) S2 (L.map some) (q_w T)) (hI : Inv S2) (hR : Rest S2) {p : Int32} (hp : iv p 1 5000) {n : Nat} (hn : n < FU) (hn5 : 5000 ≤ n) :
    (¬ now S2 + p ≤ 5000000 → TD A T h 0 (-5) S (f_X7_leaderlessTime (some (A 0)) p (tw A T h))) ∧ (now S2 + p ≤ 5000000 → s_gh (goOn n (u_sc S2 17 0) (now S2 + p)) 0 ≤ 1000000 → msB n (u_sc S2 17 0) (now S2 + p) → TD A T h 0 (s_sc (goOn n (u_sc S2 17 0) (now S2 + p)) 17) S (f_X7_leaderlessTime (some (A 0)) p (tw A T h))) := by
  have a0 : q_w T 0 = now S2 := hr2.1.1.1
  have hW := hI.2.2.2.1.1
  have e1 : ((1 : Int64)).toInt = 1 := by decide
  have e5 : ((5000 : Int64)).toInt = 5000 := by decide
  have k5 : ((5000000 : Int32)).toInt = 5000000 := by decide
  have hp1 := hp.1
  have hp2 := hp.2
  have w1 := hW.1
  have w2 := hW.2
  have ea : (now S2 + p).toInt = (now S2).toInt + p.toInt := i_add (by omega) (by omega)
  unfold f_X7_leaderlessTime f_X7_leaderlessTime_B23
  rw [t_pV hA (by decide), cl_eq t_in, e1, e5, Int32.toInt_toInt64, if_pos (show 1 ≤ p.toInt ∧ p.toInt ≤ 5000 from hp), if_neg (show ¬ (1 : Int32) = 0 by decide), t_rv, cl_eq (t_throws0 rfl q10), if_pos rfl, t_rW, t_aW hA 0 0 rfl (by decide), q_wsc, a0]
  refine ⟨fun hc => ?_, fun hc hb hm => ?_⟩
  · rw [if_neg hc]
    exact (TC_q hr).td
  · rw [if_pos hc, t_rv, cl_eq (t_putsAside hA), t_rW, t_sW hA 23 23 rfl (by decide), t_rv, q_assc, q_was, q_wsc]
    rw [Int32.le_iff_toInt_le, k5] at hc
    have r1 : TR (true, p2) (u_sc S2 17 0) (L.map some) (q_w (x_w (x_as (x_sc T 1 0) (ovW (q_as T) (q_w T) 73136)) (upd (q_w T) 23 0))) := by
      rw [q_xw]
      exact hr2.sc (p := 23) (k := 17) (by simp [scM])
    obtain ⟨T', L', g1, g2, g3, g4, g5⟩ := t_goes hA (t := now S2 + p) (by omega) hn r1 (show Inv (u_sc S2 17 0) from hI) (show Rest (u_sc S2 17 0) from hR) (show (now S2).toInt ≤ _ by omega) (show _ - (now S2).toInt ≤ (n : Int) by omega) hb hm
    rw [cl_eq (show f_X7_goesTo (some (A 0)) (now S2 + p) _ = _ from g1), t_rW, t_aW hA 23 23 rfl (by decide), g4.1.1.2.2.2.2.2.2.2.2.2.2.2.2.2.2.2.2.2.2.2.2.2.1, t_rv, cl_eq (t_takesBack hA)]
    exact TD.back hr (TQ.as (TQ.w g2)) (g3.trans q10) g5
theorem t_leaderlessTime1 (hA : TA A h) (hr : TR (true, p2) S (L.map some) (q_w T)) {p : Int32} (hp : ¬ iv p 1 5000) : TD A T h 1 0 S (f_X7_leaderlessTime (some (A 0)) p (tw A T h)) := by
  have e1 : ((1 : Int64)).toInt = 1 := by decide
  have e5 : ((5000 : Int64)).toInt = 5000 := by decide
  unfold f_X7_leaderlessTime f_X7_leaderlessTime_B23
  rw [t_pV hA (by decide), cl_eq t_in, e1, e5, Int32.toInt_toInt64, if_neg (show ¬ (1 ≤ p.toInt ∧ p.toInt ≤ 5000) from hp), if_pos rfl, t_rv, cl_eq (t_throws1 hA (by decide) (by decide) q10), if_neg (show ¬ (1 : Int32) = 0 by decide), x_scsc]
  exact (TC_q hr).td
theorem sub_move {a b c : Int32} (h : a - b = 0 - c) : a = b - c := by
  have e : a = a - b + b := by
    apply Int32.toBitVec_inj.mp
    simp
  rw [e, h]
  apply Int32.toBitVec_inj.mp
  simp [BitVec.sub_eq_add_neg, BitVec.add_comm]
theorem t_acquiresUntil (hA : TA A h) (hr : TR (true, p2) S (L.map some) (q_w T)) (hr2 : TR (true, p2) S2 (L.map some) (q_w T)) (hI : Inv S2) (hR : Rest S2) {i : Nat} (hi : i < s_n S2) {p : Int32} {n : Nat} (hn : n < FU) (hn5 : 5000 ≤ n) :
    (¬ iv p 1 5000 → TD A T h 2 0 S (f_X7_acquiresUntil (some (A 0)) (Int32.ofNat i) p (tw A T h))) ∧ (iv p 1 5000 → (¬ now S2 + p ≤ 5000000 → TD A T h 0 (-5) S (f_X7_acquiresUntil (some (A 0)) (Int32.ofNat i) p (tw A T h))) ∧ (now S2 + p ≤ 5000000 → s_gh (goOn n S2 (now S2 + p)) 0 ≤ 1000000 → msB n S2 (now S2 + p) → TD A T h 0 (s_nd (goOn n S2 (now S2 + p)) i 11 - s_nd S2 i 11) S (f_X7_acquiresUntil (some (A 0)) (Int32.ofNat i) p (tw A T h)))) := by
  have a0 : q_w T 0 = now S2 := hr2.1.1.1
  have h6 := hI.2.2.1.2
  have hW := hI.2.2.2.1.1
  have e1 : ((1 : Int64)).toInt = 1 := by decide
  have e5 : ((5000 : Int64)).toInt = 5000 := by decide
  have k5 : ((5000000 : Int32)).toInt = 5000000 := by decide
  have w1 := hW.1
  have w2 := hW.2
  unfold f_X7_acquiresUntil f_X7_acquiresUntil_B26
  rw [t_rv, cl_eq ((t_noNd hA hr2.1 hI.2.2.1.1).1 (isNd_in hi h6)), if_pos rfl, cl_eq t_in, e1, e5, Int32.toInt_toInt64]
  refine ⟨fun hb => ?_, fun hp => ?_⟩
  · rw [if_neg (show ¬ (1 ≤ p.toInt ∧ p.toInt ≤ 5000) from hb), if_pos rfl, t_rv, cl_eq (t_throws1 hA (by decide) (by decide) q10), if_neg (show ¬ (1 : Int32) = 0 by decide), x_scsc]
    exact (TC_q hr).td
  · have hp1 := hp.1
    have hp2 := hp.2
    have ea : (now S2 + p).toInt = (now S2).toInt + p.toInt := i_add (by omega) (by omega)
    rw [if_pos (show 1 ≤ p.toInt ∧ p.toInt ≤ 5000 from hp), if_neg (show ¬ (1 : Int32) = 0 by decide), t_rv, cl_eq (t_throws0 rfl q10), if_pos rfl, t_rW, t_aW hA 0 0 rfl (by decide), q_wsc, a0]
    refine ⟨fun hc => ?_, fun hc hb hm => ?_⟩
    · rw [if_neg hc]
      exact (TC_q hr).td
    · rw [if_pos hc, t_rv, cl_eq (t_putsAside hA), t_pV hA (by decide), t_pV hA (by decide), t_rv, q_assc, q_wsc]
      rw [Int32.le_iff_toInt_le, k5] at hc
      obtain ⟨T1, hT1⟩ : ∃ T1, x_sc (x_sc (x_as (x_sc T 1 0) (ovW (q_as T) (q_w T) 73136)) 12 (Int32.ofNat i)) 13 0 = T1 := ⟨_, rfl⟩
      have r1 : TR (true, p2) S2 (L.map some) (q_w T1) := by rw [← hT1]; exact hr2
      have b12 : q_sc T1 12 = Int32.ofNat i := by
        rw [← hT1]
        show fu (fu (fu (q_sc T) 1 0) 12 (Int32.ofNat i)) 13 0 12 = _
        rw [fu_ne (by decide), fu_eq]
      have b13 : q_sc T1 13 = 0 := by
        rw [← hT1]
        show fu (fu (fu (q_sc T) 1 0) 12 (Int32.ofNat i)) 13 0 13 = _
        rw [fu_eq]
      have b1 : q_sc T1 1 = 0 := by
        rw [← hT1]
        show fu (fu (fu (q_sc T) 1 0) 12 (Int32.ofNat i)) 13 0 1 = _
        rw [fu_ne (by decide), fu_ne (by decide), fu_eq]
      have b3 : q_sc T1 3 = q_sc T 3 := by
        rw [← hT1]
        show fu (fu (fu (q_sc T) 1 0) 12 (Int32.ofNat i)) 13 0 3 = _
        rw [fu_ne (by decide), fu_ne (by decide), fu_ne (by decide)]
      have b8 : q_sc T1 8 = q_sc T 8 := by
        rw [← hT1]
        show fu (fu (fu (q_sc T) 1 0) 12 (Int32.ofNat i)) 13 0 8 = _
        rw [fu_ne (by decide), fu_ne (by decide), fu_ne (by decide)]
      have ba : q_as T1 = ovW (q_as T) (q_w T) 73136 := by rw [← hT1]; rfl
      have bb : q_bf T1 = q_bf T ∧ q_kp T1 = q_kp T ∧ q_ik T1 = q_ik T := by rw [← hT1]; exact ⟨rfl, rfl, rfl⟩
      rw [hT1]
      obtain ⟨w', L', c, o, g1, g2, g3, -⟩ := t_goesTo hA (t := now S2 + p) (by omega) hn r1 hI hR (by omega) (by omega) hb hm
      have g4 := g3.2 i hi b12
      rw [b13] at g4
      have g5 : c = s_nd (goOn n S2 (now S2 + p)) i 11 - s_nd S2 i 11 := by
        have e : q_sc (x_w (x_sc (x_sc T1 14 o) 13 c) w') 13 = c := by
          show fu (fu (q_sc T1) 14 o) 13 c 13 = _
          rw [fu_eq]
        rw [e] at g4
        exact sub_move g4
      rw [cl_eq g1, t_pV hA (by decide), t_rv, cl_eq (t_takesBack hA), t_gI (by decide)]
      have e13 : q_sc (x_w (x_sc (x_w (x_sc (x_sc T1 14 o) 13 c) w') 12 (-4)) (ovW (q_w (x_sc (x_w (x_sc (x_sc T1 14 o) 13 c) w') 12 (-4))) (q_as (x_sc (x_w (x_sc (x_sc T1 14 o) 13 c) w') 12 (-4))) 73136)) 13 = s_nd (goOn n S2 (now S2 + p)) i 11 - s_nd S2 i 11 := by
        show fu (fu (fu (q_sc T1) 14 o) 13 c) 12 (-4) 13 = _
        rw [fu_ne (by decide), fu_eq, g5]
      rw [e13]
      refine TD.back hr ⟨bb.1, bb.2.1, bb.2.2, ?_, ?_⟩ ?_ ba
      · show fu (fu (fu (q_sc T1) 14 o) 13 c) 12 (-4) 3 = _
        rw [fu_ne (by decide), fu_ne (by decide), fu_ne (by decide), b3]
      · show fu (fu (fu (q_sc T1) 14 o) 13 c) 12 (-4) 8 = _
        rw [fu_ne (by decide), fu_ne (by decide), fu_ne (by decide), b8]
      · show fu (fu (fu (q_sc T1) 14 o) 13 c) 12 (-4) 1 = _
        rw [fu_ne (by decide), fu_ne (by decide), fu_ne (by decide), b1]
end TPD
