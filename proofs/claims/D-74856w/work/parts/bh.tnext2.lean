/-! THE TWIN: predictions (2): one event; nextLeader, timeUntilLeader -/
set_option maxRecDepth 100000
section TPN
variable {A : Nat → Nat} {h : PH} {S : SS}
theorem step_next {t : Int32} (hx : ¬ t < nextEvent S) : step S t = step S (nextEvent S) := by
  have e1 : mn (nextEvent S) t = nextEvent S := by
    apply Int32.toInt.inj
    rw [mn_i]
    rw [Int32.lt_iff_toInt_lt] at hx
    omega
  have e2 : mn (nextEvent S) (nextEvent S) = nextEvent S := by
    apply Int32.toInt.inj
    rw [mn_i]
    omega
  have e3 : ¬ nextEvent S < nextEvent S := by rw [Int32.lt_iff_toInt_lt]; omega
  unfold step
  dsimp only
  rw [if_neg hx, if_neg e3, e1, e2]
theorem next_gt (hI : Inv S) (hR : Rest S) (hx : (nextEvent S).toInt ≤ 5000000) : (now S).toInt < (nextEvent S).toInt := by
  have m := MO_nextEvent (S := S)
  rcases m.2.1 with e | e
  · omega
  · exact (EV_b hI hR e).1
theorem next_gt2 (hI : Inv S) (hR : Rest S) : (now S).toInt < (nextEvent S).toInt := by
  have m := MO_nextEvent (S := S)
  have w := hI.2.2.2.1.1.2
  rcases m.2.1 with e | e
  · omega
  · exact (EV_b hI hR e).1
theorem step_hap : step S (nextEvent S) = happen (pass S (nextEvent S)) := by
  have e2 : mn (nextEvent S) (nextEvent S) = nextEvent S := by
    apply Int32.toInt.inj
    rw [mn_i]
    omega
  have e3 : ¬ nextEvent S < nextEvent S := by rw [Int32.lt_iff_toInt_lt]; omega
  unfold step
  dsimp only
  rw [if_neg e3, e2]
theorem now_next (hI : Inv S) (hR : Rest S) (hx : (nextEvent S).toInt ≤ 5000000) (hb : s_gh (step S (nextEvent S)) 0 ≤ 1000000) : now (step S (nextEvent S)) = nextEvent S := by
  have g := next_gt hI hR hx
  have hI1 := Inv_pass (t := nextEvent S) hI hR (by omega) hx (MO_nextEvent (S := S)).1
  rw [step_hap] at hb ⊢
  rw [(happen_ok hI1 hb).2.2.1]
  exact pass_now
theorem goOn_stop {n : Nat} {t : Int32} (hx : t ≤ now S) : goOn n S t = S := by
  cases n with
  | zero => rfl
  | succ n =>
    unfold goOn
    rw [if_pos hx]
theorem i_le {a b : Int32} : a ≤ b ↔ a.toInt ≤ b.toInt := Int32.le_iff_toInt_le
theorem i_lt {a b : Int32} : a < b ↔ a.toInt < b.toInt := Int32.lt_iff_toInt_lt
theorem goOn_next (n : Nat) (hI : Inv S) (hR : Rest S) (hx : (nextEvent S).toInt ≤ 5000000) (hb : s_gh (step S (nextEvent S)) 0 ≤ 1000000) : goOn (n + 1) S (nextEvent S) = step S (nextEvent S) := by
  have g := next_gt hI hR hx
  conv => lhs; unfold goOn
  rw [if_neg (by rw [i_le]; omega)]
  exact goOn_stop (by rw [now_next hI hR hx hb, i_le]; omega)
theorem msB_next (n : Nat) (hI : Inv S) (hR : Rest S) (hx : (nextEvent S).toInt ≤ 5000000) (hb : s_gh (step S (nextEvent S)) 0 ≤ 1000000) (hl : (s_ms S).length ≤ 5999) : msB (n + 1) S (nextEvent S) := by
  have g := next_gt hI hR hx
  have ok := step_ok (t := nextEvent S) hI hR g hx hb
  refine Or.inr ⟨hl, ?_⟩
  cases n with
  | zero => trivial
  | succ n =>
    refine Or.inl ?_
    have g2 := next_gt2 ok.1 ok.2.1
    rw [now_next hI hR hx hb] at g2
    rw [i_lt]
    exact g2
theorem t_goesNext (hA : TA A h) {p2 : Int32 × Int32} {T : TS} {L : List MG} (hr : TR (true, p2) S (L.map some) (q_w T)) (hI : Inv S) (hR : Rest S) (hx : (nextEvent S).toInt ≤ 5000000) (hb : s_gh (step S (nextEvent S)) 0 ≤ 1000000) (hl : (s_ms S).length ≤ 5999) :
    ∃ (T' : TS) (L' : List MG) (p' : Int32 × Int32), f_X7_goesTo (some (A 0)) (nextEvent S) (tw A T h) = some ((), tw A T' h) ∧ TQ T T' ∧ q_sc T' 1 = q_sc T 1 ∧ TR (true, p') (step S (nextEvent S)) (L'.map some) (q_w T') ∧ q_as T' = q_as T := by
  have g := next_gt hI hR hx
  have w := hI.2.2.2.1.1.1
  have eg := goOn_next 5000000 hI hR hx hb
  obtain ⟨T', L', g1, g2, g3, g4, g5⟩ := t_goes hA (t := nextEvent S) hx (n := 5000000 + 1) (by unfold FU; omega) hr hI hR (by omega) (by omega) (by rw [eg]; exact hb) (msB_next 5000000 hI hR hx hb hl)
  rw [eg] at g4
  exact ⟨T', L', _, g1, g2, g3, g4, g5⟩
theorem TQ.tr {T T' T'' : TS} (h : TQ T T') (g : TQ T' T'') : TQ T T'' := ⟨g.1.trans h.1, g.2.1.trans h.2.1, g.2.2.1.trans h.2.2.1, g.2.2.2.1.trans h.2.2.2.1, g.2.2.2.2.trans h.2.2.2.2⟩
theorem TQ.rf {T : TS} : TQ T T := ⟨rfl, rfl, rfl, rfl, rfl⟩
/-- who leads, as six bits -/
def m6 (b0 b1 b2 b3 b4 b5 : Bool) : Int32 := (((((0 ||| (if b0 = true then (1 : Int32) <<< (Int32.ofNat 0 &&& 31) else 0)) ||| (if b1 = true then (1 : Int32) <<< (Int32.ofNat 1 &&& 31) else 0)) ||| (if b2 = true then (1 : Int32) <<< (Int32.ofNat 2 &&& 31) else 0)) ||| (if b3 = true then (1 : Int32) <<< (Int32.ofNat 3 &&& 31) else 0)) ||| (if b4 = true then (1 : Int32) <<< (Int32.ofNat 4 &&& 31) else 0)) ||| (if b5 = true then (1 : Int32) <<< (Int32.ofNat 5 &&& 31) else 0)
def bz (x : Int32) (k : Nat) : Prop := ((x >>> (Int32.ofNat k &&& 31)) &&& (1 : Int32)) = 0
def lowB (x : Int32) : Int32 := if ¬ ((x >>> (Int32.ofNat 0 &&& 31)) &&& (1 : Int32)) = 0 then 0 else if ¬ ((x >>> (Int32.ofNat 1 &&& 31)) &&& (1 : Int32)) = 0 then 1 else if ¬ ((x >>> (Int32.ofNat 2 &&& 31)) &&& (1 : Int32)) = 0 then 2 else if ¬ ((x >>> (Int32.ofNat 3 &&& 31)) &&& (1 : Int32)) = 0 then 3 else if ¬ ((x >>> (Int32.ofNat 4 &&& 31)) &&& (1 : Int32)) = 0 then 4 else if ¬ ((x >>> (Int32.ofNat 5 &&& 31)) &&& (1 : Int32)) = 0 then 5 else -4
def low6 (b0 b1 b2 b3 b4 b5 : Bool) : Int32 := if b0 = true then 0 else if b1 = true then 1 else if b2 = true then 2 else if b3 = true then 3 else if b4 = true then 4 else if b5 = true then 5 else -4
theorem m6_low : ∀ b0 b1 b2 b3 b4 b5 : Bool, lowB (m6 b0 b1 b2 b3 b4 b5) = low6 b0 b1 b2 b3 b4 b5 := by decide +kernel
theorem m6_bit : ∀ b0 b1 b2 b3 b4 b5 : Bool, (((m6 b0 b1 b2 b3 b4 b5 >>> (Int32.ofNat 0 &&& 31)) &&& (1 : Int32)) = 0 ↔ b0 = false) ∧ (((m6 b0 b1 b2 b3 b4 b5 >>> (Int32.ofNat 1 &&& 31)) &&& (1 : Int32)) = 0 ↔ b1 = false) ∧ (((m6 b0 b1 b2 b3 b4 b5 >>> (Int32.ofNat 2 &&& 31)) &&& (1 : Int32)) = 0 ↔ b2 = false) ∧ (((m6 b0 b1 b2 b3 b4 b5 >>> (Int32.ofNat 3 &&& 31)) &&& (1 : Int32)) = 0 ↔ b3 = false) ∧ (((m6 b0 b1 b2 b3 b4 b5 >>> (Int32.ofNat 4 &&& 31)) &&& (1 : Int32)) = 0 ↔ b4 = false) ∧ (((m6 b0 b1 b2 b3 b4 b5 >>> (Int32.ofNat 5 &&& 31)) &&& (1 : Int32)) = 0 ↔ b5 = false) := by decide +kernel
theorem m6_zero : ∀ b0 b1 b2 b3 b4 b5 : Bool, m6 b0 b1 b2 b3 b4 b5 = 0 ↔ (b0 || b1 || b2 || b3 || b4 || b5) = false := by decide +kernel
theorem m6_not : ∀ c0 c1 c2 c3 c4 c5 : Bool, ∀ b0 b1 b2 b3 b4 b5 : Bool, m6 b0 b1 b2 b3 b4 b5 &&& (m6 c0 c1 c2 c3 c4 c5 ^^^ (-1 : Int32)) = m6 (b0 && !c0) (b1 && !c1) (b2 && !c2) (b3 && !c3) (b4 && !c4) (b5 && !c5) := by decide +kernel
/-- whether the node k is there, and leads -/
def bL (S : SS) (k : Nat) : Bool := decide (k < s_n S) && leads S k (now S)
theorem leaders6 (h1 : 1 ≤ s_n S) (h6 : s_n S ≤ 6) : leadersS S = m6 (bL S 0) (bL S 1) (bL S 2) (bL S 3) (bL S 4) (bL S 5) := by
  have hc : s_n S = 1 ∨ s_n S = 2 ∨ s_n S = 3 ∨ s_n S = 4 ∨ s_n S = 5 ∨ s_n S = 6 := by omega
  unfold leadersS m6 bL
  rcases hc with e | e | e | e | e | e <;> rw [e] <;> simp [List.range, List.range.loop]
theorem scan6 {c0 c1 c2 c3 c4 c5 : Bool} (h1 : 1 ≤ s_n S) (h6 : s_n S ≤ 6) : scanL S (m6 c0 c1 c2 c3 c4 c5) (s_n S) (-4) = low6 (bL S 0 && !c0) (bL S 1 && !c1) (bL S 2 && !c2) (bL S 3 && !c3) (bL S 4 && !c4) (bL S 5 && !c5) := by
  have hc : s_n S = 1 ∨ s_n S = 2 ∨ s_n S = 3 ∨ s_n S = 4 ∨ s_n S = 5 ∨ s_n S = 6 := by omega
  obtain ⟨q0, q1, q2, q3, q4, q5⟩ := m6_bit c0 c1 c2 c3 c4 c5
  unfold low6 bL
  rcases hc with e | e | e | e | e | e <;> rw [e] <;> simp only [scanL, q0, q1, q2, q3, q4, q5] <;> simp [and_comm]
/-- nobody leads but who led at first -/
def NLd (S : SS) (c0 c1 c2 c3 c4 c5 : Bool) : Prop := ((bL S 0 && !c0) || (bL S 1 && !c1) || (bL S 2 && !c2) || (bL S 3 && !c3) || (bL S 4 && !c4) || (bL S 5 && !c5)) = false
theorem low6_none : ∀ b0 b1 b2 b3 b4 b5 : Bool, low6 b0 b1 b2 b3 b4 b5 = -4 ↔ (b0 || b1 || b2 || b3 || b4 || b5) = false := by decide +kernel
theorem bL_pass {t : Int32} {k : Nat} (ht : (now S).toInt ≤ t.toInt) (hk : bL (pass S t) k = true) : bL S k = true := by
  unfold bL at hk ⊢
  rw [Bool.and_eq_true] at hk ⊢
  have hn : s_n (pass S t) = s_n S := n_pass
  rw [hn] at hk
  refine ⟨hk.1, ?_⟩
  have h2 := hk.2
  unfold leads at h2 ⊢
  rw [decide_eq_true_iff] at h2 ⊢
  have eu : until_ (pass S t) k = until_ S k := by
    unfold until_ ndRe
    rw [pass_nd (by decide), pass_nd (by decide), pass_nd (by decide), pass_nd (by decide), pass_nd (by decide)]
  rw [eu, pass_now, i_lt] at h2
  rw [i_lt]
  omega
theorem NLd_pass {t : Int32} {c0 c1 c2 c3 c4 c5 : Bool} (ht : (now S).toInt ≤ t.toInt) (hN : NLd S c0 c1 c2 c3 c4 c5) : NLd (pass S t) c0 c1 c2 c3 c4 c5 := by
  have g : ∀ k : Nat, bL S k = false → bL (pass S t) k = false := fun k hk => by
    cases hx : bL (pass S t) k with
    | false => rfl
    | true => rw [bL_pass ht hx] at hk; exact absurd hk (by decide)
  unfold NLd at hN ⊢
  simp only [Bool.or_eq_false_iff, Bool.and_eq_false_iff] at hN ⊢
  obtain ⟨⟨⟨⟨⟨a0, a1⟩, a2⟩, a3⟩, a4⟩, a5⟩ := hN
  exact ⟨⟨⟨⟨⟨a0.imp (g 0) id, a1.imp (g 1) id⟩, a2.imp (g 2) id⟩, a3.imp (g 3) id⟩, a4.imp (g 4) id⟩, a5.imp (g 5) id⟩
theorem step_pass {t : Int32} (hx : t < nextEvent S) : step S t = pass S t := by
  have e1 : mn (nextEvent S) t = t := by
    apply Int32.toInt.inj
    rw [mn_i]
    rw [i_lt] at hx
    omega
  unfold step
  dsimp only
  rw [if_pos hx, e1]
theorem nextLead_stop {n : Nat} {t old f : Int32} (hx : t ≤ now S ∨ f ≠ -4) : (nextLead n S t old f) = (f, S) := by
  cases n with
  | zero => rfl
  | succ n =>
    unfold nextLead
    by_cases hc : t ≤ now S
    · rw [if_pos hc]
    · rw [if_neg hc, if_neg (hx.resolve_left hc)]
/-- without an event up to the time t nobody new leads -/
theorem nextLead_none {n : Nat} {t : Int32} {c0 c1 c2 c3 c4 c5 : Bool} (hI : Inv S) (hx : t < nextEvent S) (hN : NLd S c0 c1 c2 c3 c4 c5) : (nextLead n S t (m6 c0 c1 c2 c3 c4 c5) (-4)).1 = -4 := by
  cases n with
  | zero => rfl
  | succ n =>
    unfold nextLead
    by_cases hc : t ≤ now S
    · rw [if_pos hc]
    · rw [if_neg hc, if_pos rfl, step_pass hx]
      have hn : s_n (pass S t) = s_n S := n_pass
      rw [i_le] at hc
      have hN' := NLd_pass (t := t) (by omega) hN
      have e : scanL (pass S t) (m6 c0 c1 c2 c3 c4 c5) (s_n (pass S t)) (-4) = -4 := by
        rw [scan6 (by rw [hn]; exact hI.2.2.1.1) (by rw [hn]; exact hI.2.2.1.2), low6_none]
        exact hN'
      rw [e, nextLead_stop (Or.inl (by rw [pass_now, i_le]; omega))]
theorem perm_of {ex : Bool × Int32 × Int32} {w : Nat → Int32} {L : List MG} (hr : TR ex S (L.map some) w) : L.Perm (s_ms S) := by
  have := hr.2.2.1
  rw [show (L.map some).filterMap id = L from by simp] at this
  exact this
theorem goOn_step {n : Nat} {t : Int32} (hx : ¬ t ≤ now S) : goOn (n + 1) S t = goOn n (step S t) t := by
  conv => lhs; unfold goOn
  rw [if_neg hx]
theorem t_nextLeadL (hA : TA A h) {t : Int32} (ht2 : t.toInt ≤ 5000000) (c0 c1 c2 c3 c4 c5 : Bool) : ∀ (n N : Nat) (p2 : Int32 × Int32) (S : SS) (T : TS) (L : List MG), n + 1 < N → TR (true, p2) S (L.map some) (q_w T) → Inv S → Rest S → (now S).toInt ≤ t.toInt → t.toInt - (now S).toInt ≤ n → s_gh (goOn n S t) 0 ≤ 1000000 → msB n S t → NLd S c0 c1 c2 c3 c4 c5 →
    ∃ (T' : TS) (x : Int32), f_X7_nextLeader_L69 N (some (A 0)) t (m6 c0 c1 c2 c3 c4 c5) (NTs S L) 0 (tw A T h) = f_X7_nextLeader_B105 (some (A 0)) x (tw A T' h) ∧ TQ T T' ∧ q_sc T' 1 = q_sc T 1 ∧ q_as T' = q_as T ∧ lowB x = (nextLead n S t (m6 c0 c1 c2 c3 c4 c5) (-4)).1 := by
  have k2 : ((2000000000 : Int32)).toInt = 2000000000 := by decide
  have k7 : ((2147483647 : Int32)).toInt = 2147483647 := by decide
  have l0 : lowB 0 = -4 := by decide +kernel
  intro n
  induction n with
  | zero =>
    intro N p2 S T L hN hr hI hR ht hnt hb hm hNL
    cases N with
    | zero => omega
    | succ N =>
      have g := next_gt2 hI hR
      have hlt : t < NTs S L := by
        rw [i_lt]
        rcases NT_eq hI hR (perm_of hr) with ⟨c1, c2⟩ | ⟨c1, c2, c3⟩
        · rw [c2, k2]; omega
        · rw [c1]; omega
      refine ⟨T, 0, ?_, TQ.rf, rfl, rfl, l0⟩
      conv => lhs; unfold f_X7_nextLeader_L69
      rw [if_pos rfl, if_pos hlt]
  | succ n ih =>
    intro N p2 S T L hN hr hI hR ht hnt hb hm hNL
    cases N with
    | zero => omega
    | succ N =>
      have g := next_gt2 hI hR
      conv => enter [1, T', 1, x, 1, 1]; unfold f_X7_nextLeader_L69
      rw [if_pos rfl]
      by_cases hlt : t < NTs S L
      · refine ⟨T, 0, by rw [if_pos hlt], TQ.rf, rfl, rfl, ?_⟩
        have hlt2 : t < nextEvent S := by
          rw [i_lt] at hlt ⊢
          rcases NT_eq hI hR (perm_of hr) with ⟨d1, d2⟩ | ⟨d1, d2, d3⟩
          · rw [d1, k7]; omega
          · rw [d1] at hlt; exact hlt
        rw [nextLead_none hI hlt2 hNL]
        exact l0
      · rw [if_neg hlt]
        rcases NT_eq hI hR (perm_of hr) with ⟨d1, d2⟩ | ⟨d1, d2, d3⟩
        · rw [d2, i_lt, k2] at hlt
          omega
        · rw [d1] at hlt ⊢
          have hlt' := hlt
          rw [i_lt] at hlt'
          have hx5 : (nextEvent S).toInt ≤ 5000000 := by omega
          have hnow : ¬ t ≤ now S := by rw [i_le]; omega
          rw [goOn_step hnow] at hb
          have es := step_next hlt
          have hb1 : s_gh (step S (nextEvent S)) 0 ≤ 1000000 := by
            rw [← es]
            exact Nat.le_trans (gle_goOn n).1 hb
          have hm2 := hm.resolve_left hlt
          obtain ⟨T1, L1, p1, g1, g2, g3, g4, g5⟩ := t_goesNext hA hr hI hR hx5 hb1 hm2.1
          have ok := step_ok (t := nextEvent S) hI hR g hx5 hb1
          have hn1 := now_next hI hR hx5 hb1
          have h1 := ok.1.2.2.1.1
          have h6 := ok.1.2.2.1.2
          rw [t_rv, cl_eq g1, t_rv, cl_eq (t_leadersN hA g4.1 ok.1), t_rv, cl_eq (t_nextTime hA g4 ok.1.2.1 ok.1.2.2.2.1.1), leaders6 h1 h6, m6_not]
          rw [es] at hb hm2
          have en : nextLead (n + 1) S t (m6 c0 c1 c2 c3 c4 c5) (-4) = nextLead n (step S (nextEvent S)) t (m6 c0 c1 c2 c3 c4 c5) (low6 (bL (step S (nextEvent S)) 0 && !c0) (bL (step S (nextEvent S)) 1 && !c1) (bL (step S (nextEvent S)) 2 && !c2) (bL (step S (nextEvent S)) 3 && !c3) (bL (step S (nextEvent S)) 4 && !c4) (bL (step S (nextEvent S)) 5 && !c5)) := by
            conv => lhs; unfold nextLead
            rw [if_neg hnow, if_pos rfl, es, scan6 h1 h6]
          rw [en]
          by_cases hz : NLd (step S (nextEvent S)) c0 c1 c2 c3 c4 c5
          · rw [(m6_zero _ _ _ _ _ _).mpr hz, (low6_none _ _ _ _ _ _).mpr hz]
            obtain ⟨T', x, j1, j2, j3, j4, j5⟩ := ih N p1 (step S (nextEvent S)) T1 L1 (by omega) g4 ok.1 ok.2.1 (by rw [hn1]; omega) (by rw [hn1]; omega) hb hm2.2 hz
            exact ⟨T', x, j1, g2.tr j2, j3.trans g3, j4.trans g5, j5⟩
          · have hl4 : low6 (bL (step S (nextEvent S)) 0 && !c0) (bL (step S (nextEvent S)) 1 && !c1) (bL (step S (nextEvent S)) 2 && !c2) (bL (step S (nextEvent S)) 3 && !c3) (bL (step S (nextEvent S)) 4 && !c4) (bL (step S (nextEvent S)) 5 && !c5) ≠ -4 := fun hy => hz ((low6_none _ _ _ _ _ _).mp hy)
            have hne : ¬ m6 (bL (step S (nextEvent S)) 0 && !c0) (bL (step S (nextEvent S)) 1 && !c1) (bL (step S (nextEvent S)) 2 && !c2) (bL (step S (nextEvent S)) 3 && !c3) (bL (step S (nextEvent S)) 4 && !c4) (bL (step S (nextEvent S)) 5 && !c5) = 0 := fun hy => hz ((m6_zero _ _ _ _ _ _).mp hy)
            rw [nextLead_stop (Or.inr hl4)]
            refine ⟨T1, _, ?_, g2, g3, g5, m6_low _ _ _ _ _ _⟩
            cases N with
            | zero => omega
            | succ N =>
              conv => lhs; unfold f_X7_nextLeader_L69
              rw [if_neg hne]
theorem t_lowB {x : Int32} {h' : PH} : f_X7_nextLeader_L112 FU x 0 h' = some (lowB x, h') := by
  have e : FU = (FU - 7) + 7 := by unfold FU; omega
  rw [e]
  unfold lowB
  have a : ((0 : Int32) + 1) = 1 ∧ ((1 : Int32) + 1) = 2 ∧ ((2 : Int32) + 1) = 3 ∧ ((3 : Int32) + 1) = 4 ∧ ((4 : Int32) + 1) = 5 ∧ ((5 : Int32) + 1) = 6 := by decide
  obtain ⟨a1, a2, a3, a4, a5, a6⟩ := a
  have b : ¬ (6 : Int32) ≤ 0 ∧ ¬ (6 : Int32) ≤ 1 ∧ ¬ (6 : Int32) ≤ 2 ∧ ¬ (6 : Int32) ≤ 3 ∧ ¬ (6 : Int32) ≤ 4 ∧ ¬ (6 : Int32) ≤ 5 ∧ (6 : Int32) ≤ 6 := by decide
  obtain ⟨b0, b1, b2, b3, b4, b5, b6⟩ := b
  simp only [f_X7_nextLeader_L112, f_X7_nextLeader_B135, f_X7_nextLeader_B149, a1, a2, a3, a4, a5, a6, b0, b1, b2, b3, b4, b5, b6, if_true, if_false]
  have o : (Int32.ofNat 0 = 0) ∧ (Int32.ofNat 1 = 1) ∧ (Int32.ofNat 2 = 2) ∧ (Int32.ofNat 3 = 3) ∧ (Int32.ofNat 4 = 4) ∧ (Int32.ofNat 5 = 5) := ⟨rfl, rfl, rfl, rfl, rfl, rfl⟩
  obtain ⟨o0, o1, o2, o3, o4, o5⟩ := o
  rw [o0, o1, o2, o3, o4, o5]
  have n : ¬ (0 : Int32) = 6 ∧ ¬ (1 : Int32) = 6 ∧ ¬ (2 : Int32) = 6 ∧ ¬ (3 : Int32) = 6 ∧ ¬ (4 : Int32) = 6 ∧ ¬ (5 : Int32) = 6 := by decide
  obtain ⟨n0, n1, n2, n3, n4, n5⟩ := n
  simp only [n0, n1, n2, n3, n4, n5, if_false, ite_not]
  split
  · split
    · split
      · split
        · split
          · split <;> rfl
          · rfl
        · rfl
      · rfl
    · rfl
  · rfl
theorem t_nextLeader (hA : TA A h) {p2 : Int32 × Int32} {S2 : SS} {T : TS} {L : List MG} (hr : TR (true, p2) S (L.map some) (q_w T)) (hr2 : TR (true, p2) S2 (L.map some) (q_w T)) (hI : Inv S2) (hR : Rest S2) {p : Int32} (hp : iv p 1 5000) {n : Nat} (hn : n + 1 < FU) (hn5 : 5000 ≤ n) :
    (¬ now S2 + p ≤ 5000000 → TD A T h 0 (-5) S (f_X7_nextLeader (some (A 0)) p (tw A T h))) ∧ (now S2 + p ≤ 5000000 → s_gh (goOn n S2 (now S2 + p)) 0 ≤ 1000000 → msB n S2 (now S2 + p) → TD A T h 0 (nextLead n S2 (now S2 + p) (leadersS S2) (-4)).1 S (f_X7_nextLeader (some (A 0)) p (tw A T h))) := by
  have a0 : q_w T 0 = now S2 := hr2.1.1.1
  have hW := hI.2.2.2.1.1
  have e1 : ((1 : Int64)).toInt = 1 := by decide
  have e5 : ((5000 : Int64)).toInt = 5000 := by decide
  have k5 : ((5000000 : Int32)).toInt = 5000000 := by decide
  have hp1 := hp.1
  have hp2 := hp.2
  have w1 := hW.1
  have w2 := hW.2
  have ea : (now S2 + p).toInt = (now S2).toInt + p.toInt := i_add (by omega) (by omega)
  unfold f_X7_nextLeader f_X7_nextLeader_B23
  rw [t_pV hA (by decide), cl_eq t_in, e1, e5, Int32.toInt_toInt64, if_pos (show 1 ≤ p.toInt ∧ p.toInt ≤ 5000 from hp), if_neg (show ¬ (1 : Int32) = 0 by decide), t_rv, cl_eq (t_throws0 rfl q10), if_pos rfl, t_rW, t_aW hA 0 0 rfl (by decide), q_wsc, a0]
  refine ⟨fun hc => ?_, fun hc hb hm => ?_⟩
  · rw [if_neg hc]
    exact (TC_q hr).td
  · rw [if_pos hc, t_rv, cl_eq (t_putsAside hA), t_rv, q_assc, q_wsc]
    rw [i_le, k5] at hc
    have r1 : TR (true, p2) S2 (L.map some) (q_w (x_as (x_sc T 1 0) (ovW (q_as T) (q_w T) 73136))) := hr2
    have h1 := hI.2.2.1.1
    have h6 := hI.2.2.1.2
    rw [cl_eq (t_leadersN hA r1.1 hI), t_rv, cl_eq (t_nextTime hA r1 hI.2.1 hW), leaders6 h1 h6]
    have hNL : NLd S2 (bL S2 0) (bL S2 1) (bL S2 2) (bL S2 3) (bL S2 4) (bL S2 5) := by
      unfold NLd
      simp
    obtain ⟨T', x, g1, g2, g3, g4, g5⟩ := t_nextLeadL hA (t := now S2 + p) (by omega) (bL S2 0) (bL S2 1) (bL S2 2) (bL S2 3) (bL S2 4) (bL S2 5) n FU p2 S2 _ L hn r1 hI hR (by omega) (by omega) hb hm hNL
    rw [g1]
    unfold f_X7_nextLeader_B105
    rw [t_rv, cl_eq (t_takesBack hA), t_lowB, g5]
    exact TD.back hr (TQ.as g2) (g3.trans q10) g4
theorem t_nextLeader1 (hA : TA A h) {p2 : Int32 × Int32} {T : TS} {L : List MG} (hr : TR (true, p2) S (L.map some) (q_w T)) {p : Int32} (hp : ¬ iv p 1 5000) : TD A T h 1 0 S (f_X7_nextLeader (some (A 0)) p (tw A T h)) := by
  have e1 : ((1 : Int64)).toInt = 1 := by decide
  have e5 : ((5000 : Int64)).toInt = 5000 := by decide
  unfold f_X7_nextLeader f_X7_nextLeader_B23
  rw [t_pV hA (by decide), cl_eq t_in, e1, e5, Int32.toInt_toInt64, if_neg (show ¬ (1 ≤ p.toInt ∧ p.toInt ≤ 5000) from hp), if_pos rfl, t_rv, cl_eq (t_throws1 hA (by decide) (by decide) q10), if_neg (show ¬ (1 : Int32) = 0 by decide), x_scsc]
  exact (TC_q hr).td
end TPN
