/-! THE TWIN's CALLS: what a call may change at all; advance, advanceToNextEvent -/
set_option maxRecDepth 100000
/-- the text, the snapshots and the load's error stay -/
def TQ (T T' : TS) : Prop := q_bf T' = q_bf T ∧ q_kp T' = q_kp T ∧ q_ik T' = q_ik T ∧ q_sc T' 3 = q_sc T 3 ∧ q_sc T' 8 = q_sc T 8
def TD (A : Nat → Nat) (T : TS) (h : PH) (code ans : Int32) (S' : SS) (o : Option (Int32 × PH)) : Prop := ∃ (T' : TS) (L' : List MG) (p : Int32 × Int32), o = some (ans, tw A T' h) ∧ TQ T T' ∧ q_sc T' 1 = code ∧ TR (true, p) S' (L'.map some) (q_w T')
section TAD
variable {A : Nat → Nat} {h : PH} {T : TS} {p2 : Int32 × Int32} {S : SS} {L : List MG}
theorem TC.td {code ans : Int32} {S' : SS} {o : Option (Int32 × PH)} (hc : TC A T h (true, p2) code ans S' o) : TD A T h code ans S' o := by
  obtain ⟨w', L', c, h1, h2⟩ := hc
  refine ⟨x_w (x_sc (x_sc T 13 c) 1 code) w', L', p2, h1, ⟨rfl, rfl, rfl, ?_, ?_⟩, ?_, h2⟩
  · show fu (fu (q_sc T) 13 c) 1 code 3 = _
    rw [fu_ne (by decide), fu_ne (by decide)]
  · show fu (fu (q_sc T) 13 c) 1 code 8 = _
    rw [fu_ne (by decide), fu_ne (by decide)]
  · show fu (fu (q_sc T) 13 c) 1 code 1 = _
    rw [fu_eq]
/-- goesTo, in short -/
theorem t_goes (hA : TA A h) {t : Int32} (ht2 : t.toInt ≤ 5000000) {n : Nat} (hn : n < FU) (hr : TR (true, p2) S (L.map some) (q_w T)) (hI : Inv S) (hR : Rest S) (ht : (now S).toInt ≤ t.toInt) (hnt : t.toInt - (now S).toInt ≤ n) (hb : s_gh (goOn n S t) 0 ≤ 1000000) (hm : msB n S t) : ∃ (T' : TS) (L' : List MG), f_X7_goesTo (some (A 0)) t (tw A T h) = some ((), tw A T' h) ∧ TQ T T' ∧ q_sc T' 1 = q_sc T 1 ∧ TR (true, RL n S t p2) (goOn n S t) (L'.map some) (q_w T') ∧ q_as T' = q_as T := by
  obtain ⟨w', L', c, o, g1, g2, -, -⟩ := t_goesTo hA ht2 hn hr hI hR ht hnt hb hm
  refine ⟨_, L', g1, ⟨rfl, rfl, rfl, ?_, ?_⟩, ?_, g2, rfl⟩
  · show fu (fu (q_sc T) 14 o) 13 c 3 = _
    rw [fu_ne (by decide), fu_ne (by decide)]
  · show fu (fu (q_sc T) 14 o) 13 c 8 = _
    rw [fu_ne (by decide), fu_ne (by decide)]
  · show fu (fu (q_sc T) 14 o) 13 c 1 = _
    rw [fu_ne (by decide), fu_ne (by decide)]
theorem TQ.sc1 {T T' : TS} {v : Int32} (h : TQ (x_sc T 1 v) T') : TQ T T' := by
  obtain ⟨a, b, c, d, e⟩ := h
  refine ⟨a, b, c, d.trans ?_, e.trans ?_⟩
  · show fu (q_sc T) 1 v 3 = _
    rw [fu_ne (by decide)]
  · show fu (q_sc T) 1 v 8 = _
    rw [fu_ne (by decide)]
theorem t_advance (hA : TA A h) (hr : TR (true, p2) S (L.map some) (q_w T)) (hI : Inv S) (hR : Rest S) {p : Int32} (hp : iv p 1 5000) {n : Nat} (hn : n < FU) (hn5 : 5000 ≤ n) :
    (¬ now S + p ≤ 5000000 → TD A T h 0 (-5) S (f_X7_advance (some (A 0)) p (tw A T h))) ∧ (now S + p ≤ 5000000 → s_gh (goOn n S (now S + p)) 0 ≤ 1000000 → msB n S (now S + p) → TD A T h 0 (now (goOn n S (now S + p))) (goOn n S (now S + p)) (f_X7_advance (some (A 0)) p (tw A T h))) := by
  have hr0 : TR (true, p2) S (L.map some) (q_w (x_sc T 1 0)) := hr
  have a0 : q_w T 0 = now S := hr.1.1.1
  have hW := hI.2.2.2.1.1
  have e1 : ((1 : Int64)).toInt = 1 := by decide
  have e5 : ((5000 : Int64)).toInt = 5000 := by decide
  have k5 : ((5000000 : Int32)).toInt = 5000000 := by decide
  have hp1 := hp.1
  have hp2 := hp.2
  have w1 := hW.1
  have w2 := hW.2
  have ea : (now S + p).toInt = (now S).toInt + p.toInt := i_add (by omega) (by omega)
  unfold f_X7_advance f_X7_advance_B23
  rw [t_pV hA (by decide), cl_eq t_in, e1, e5, Int32.toInt_toInt64, if_pos (show 1 ≤ p.toInt ∧ p.toInt ≤ 5000 from hp), if_neg (show ¬ (1 : Int32) = 0 by decide), t_rv, cl_eq (t_throws0 rfl q10), if_pos rfl, t_rW, t_aW hA 0 0 rfl (by decide), q_wsc, a0]
  refine ⟨fun hc => ?_, fun hc hb hm => ?_⟩
  · rw [if_neg hc]
    exact (TC_q hr).td
  · rw [if_pos hc, t_rW, t_aW hA 0 0 rfl (by decide), q_wsc, a0, t_rv]
    rw [Int32.le_iff_toInt_le, k5] at hc
    obtain ⟨T', L', g1, g2, g3, g4, -⟩ := t_goes hA (t := now S + p) (by omega) hn hr0 hI hR (by omega) (by omega) hb hm
    rw [cl_eq g1, t_rW, t_aW hA 0 0 rfl (by decide), g4.1.1.1]
    exact ⟨T', L', _, rfl, g2.sc1, g3.trans q10, g4⟩
theorem t_advance1 (hA : TA A h) (hr : TR (true, p2) S (L.map some) (q_w T)) {p : Int32} (hp : ¬ iv p 1 5000) : TD A T h 1 0 S (f_X7_advance (some (A 0)) p (tw A T h)) := by
  have e1 : ((1 : Int64)).toInt = 1 := by decide
  have e5 : ((5000 : Int64)).toInt = 5000 := by decide
  unfold f_X7_advance f_X7_advance_B23
  rw [t_pV hA (by decide), cl_eq t_in, e1, e5, Int32.toInt_toInt64, if_neg (show ¬ (1 ≤ p.toInt ∧ p.toInt ≤ 5000) from hp), if_pos rfl, t_rv, cl_eq (t_throws1 hA (by decide) (by decide) q10), if_neg (show ¬ (1 : Int32) = 0 by decide), x_scsc]
  exact (TC_q hr).td
theorem t_advNext (hA : TA A h) (hr : TR (true, p2) S (L.map some) (q_w T)) (hI : Inv S) (hR : Rest S) {n : Nat} (hn : n < FU) (hn5 : 5000000 ≤ n) :
    (nextEvent S = 2147483647 → TD A T h 0 (-4) S (f_X7_advanceToNextEvent (some (A 0)) (tw A T h))) ∧ (nextEvent S ≠ 2147483647 → (¬ nextEvent S ≤ 5000000 → TD A T h 0 (-5) S (f_X7_advanceToNextEvent (some (A 0)) (tw A T h))) ∧ (nextEvent S ≤ 5000000 → s_gh (goOn n S (nextEvent S)) 0 ≤ 1000000 → msB n S (nextEvent S) → TD A T h 0 (nextEvent S) (goOn n S (nextEvent S)) (f_X7_advanceToNextEvent (some (A 0)) (tw A T h)))) := by
  have hr0 : TR (true, p2) S (L.map some) (q_w (x_sc T 1 0)) := hr
  have hW := hI.2.2.2.1.1
  have w1 := hW.1
  have k5 : ((5000000 : Int32)).toInt = 5000000 := by decide
  have k2 : ((2000000000 : Int32)).toInt = 2000000000 := by decide
  have hp : L.Perm (s_ms S) := by
    have := hr.2.2.1
    rw [show (L.map some).filterMap id = L from by simp] at this
    exact this
  unfold f_X7_advanceToNextEvent
  rw [t_pV hA (by decide), t_rv, cl_eq (t_nextTime hA hr0 hI.2.1 hW)]
  rcases NT_eq hI hR hp with ⟨c1, c2⟩ | ⟨c1, c2, c3⟩
  · refine ⟨fun _ => ?_, fun hx => absurd c1 hx⟩
    rw [c2, if_pos rfl]
    exact (TC_q hr).td
  · have hne : ¬ nextEvent S = 2000000000 := fun hy => by rw [hy, k2] at c3; omega
    rw [c1, if_neg hne]
    refine ⟨fun hx => ?_, fun _ => ⟨fun hc => ?_, fun hc hb hm => ?_⟩⟩
    · rw [hx, show ((2147483647 : Int32)).toInt = 2147483647 from by decide] at c3
      omega
    · rw [if_neg hc]
      exact (TC_q hr).td
    · rw [if_pos hc, t_rv]
      rw [Int32.le_iff_toInt_le, k5] at hc
      obtain ⟨T', L', g1, g2, g3, g4, -⟩ := t_goes hA (t := nextEvent S) (by omega) hn hr0 hI hR (by omega) (by omega) hb hm
      rw [cl_eq g1]
      exact ⟨T', L', _, rfl, g2.sc1, g3.trans q10, g4⟩
end TAD
