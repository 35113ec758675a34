/-! THE TWIN: predictions (3): timeUntilLeader, longestLeaderless, predictRead; snapshots -/
set_option maxRecDepth 100000
section TPU
variable {A : Nat → Nat} {h : PH} {S : SS}
theorem leadF_stop {n i : Nat} {t : Int32} (hx : t ≤ now S ∨ leads S i (now S) = true) : leadF n S i t = S := by
  cases n with
  | zero => rfl
  | succ n =>
    unfold leadF
    by_cases hc : t ≤ now S
    · rw [if_pos hc]
    · rw [if_neg hc, if_pos (hx.resolve_left hc)]
theorem leadF_none {n i : Nat} {t : Int32} (hi : i < s_n S) (hx : t < nextEvent S) (hl : ¬ leads S i (now S) = true) : ¬ leads (leadF n S i t) i (now (leadF n S i t)) = true := by
  cases n with
  | zero => exact hl
  | succ n =>
    unfold leadF
    by_cases hc : t ≤ now S
    · rw [if_pos hc]; exact hl
    · rw [if_neg hc, if_neg hl, step_pass hx, leadF_stop (Or.inl (by rw [pass_now, i_le]; omega))]
      intro hy
      rw [i_le] at hc
      have hn : s_n (pass S t) = s_n S := n_pass
      have := bL_pass (S := S) (t := t) (k := i) (by omega) (by unfold bL; rw [hn, hy]; simp [hi])
      unfold bL at this
      rw [Bool.and_eq_true] at this
      exact hl this.2
theorem t_untilL (hA : TA A h) {t fr : Int32} (ht2 : t.toInt ≤ 5000000) {i : Nat} : ∀ (n N : Nat) (p2 : Int32 × Int32) (S : SS) (T : TS) (L : List MG), n < N → TR (true, p2) S (L.map some) (q_w T) → Inv S → Rest S → i < s_n S → (now S).toInt ≤ t.toInt → t.toInt - (now S).toInt ≤ n → s_gh (goOn n S t) 0 ≤ 1000000 → msB n S t →
    ∃ (T' : TS) (S' : SS) (L' : List MG) (p' : Int32 × Int32), f_X7_timeUntilLeader_L68 N (some (A 0)) (Int32.ofNat i) fr t (NTs S L) (tw A T h) = f_X7_timeUntilLeader_B98 (some (A 0)) (Int32.ofNat i) fr (tw A T' h) ∧ TQ T T' ∧ q_sc T' 1 = q_sc T 1 ∧ q_as T' = q_as T ∧ TR (true, p') S' (L'.map some) (q_w T') ∧ Inv S' ∧ i < s_n S' ∧
      ((¬ leads S' i (now S') = true ∧ ¬ leads (leadF n S i t) i (now (leadF n S i t)) = true) ∨ (leads S' i (now S') = true ∧ S' = leadF n S i t)) := by
  have k2 : ((2000000000 : Int32)).toInt = 2000000000 := by decide
  have k7 : ((2147483647 : Int32)).toInt = 2147483647 := by decide
  intro n
  induction n with
  | zero =>
    intro N p2 S T L hN hr hI hR hi ht hnt hb hm
    cases N with
    | zero => omega
    | succ N =>
      have g := next_gt2 hI hR
      have hlt : t < NTs S L := by
        rw [i_lt]
        rcases NT_eq hI hR (perm_of hr) with ⟨c1, c2⟩ | ⟨c1, c2, c3⟩
        · rw [c2, k2]; omega
        · rw [c1]; omega
      refine ⟨T, S, L, p2, ?_, TQ.rf, rfl, rfl, hr, hI, hi, ?_⟩
      · conv => lhs; unfold f_X7_timeUntilLeader_L68
        rw [t_rv, cl_eq (t_leads hA hr.1 (hI.2.1 i hi) hI.2.2.2.1.1 hi)]
        by_cases hl : leads S i (now S) = true
        · rw [if_pos hl, if_neg (show ¬ (1 : Int32) = 0 by decide)]
        · rw [if_neg hl, if_pos rfl, if_pos hlt]
      · by_cases hl : leads S i (now S) = true
        · exact Or.inr ⟨hl, rfl⟩
        · exact Or.inl ⟨hl, hl⟩
  | succ n ih =>
    intro N p2 S T L hN hr hI hR hi ht hnt hb hm
    cases N with
    | zero => omega
    | succ N =>
      have g := next_gt2 hI hR
      by_cases hl : leads S i (now S) = true
      · refine ⟨T, S, L, p2, ?_, TQ.rf, rfl, rfl, hr, hI, hi, Or.inr ⟨hl, (leadF_stop (Or.inr hl)).symm⟩⟩
        conv => lhs; unfold f_X7_timeUntilLeader_L68
        rw [t_rv, cl_eq (t_leads hA hr.1 (hI.2.1 i hi) hI.2.2.2.1.1 hi), if_pos hl, if_neg (show ¬ (1 : Int32) = 0 by decide)]
      · by_cases hlt : t < NTs S L
        · refine ⟨T, S, L, p2, ?_, TQ.rf, rfl, rfl, hr, hI, hi, Or.inl ⟨hl, ?_⟩⟩
          · conv => lhs; unfold f_X7_timeUntilLeader_L68
            rw [t_rv, cl_eq (t_leads hA hr.1 (hI.2.1 i hi) hI.2.2.2.1.1 hi), if_neg hl, if_pos rfl, if_pos hlt]
          · have hlt2 : t < nextEvent S := by
              rw [i_lt] at hlt ⊢
              rcases NT_eq hI hR (perm_of hr) with ⟨d1, d2⟩ | ⟨d1, d2, d3⟩
              · rw [d1, k7]; omega
              · rw [d1] at hlt; exact hlt
            exact leadF_none hi hlt2 hl
        · rcases NT_eq hI hR (perm_of hr) with ⟨d1, d2⟩ | ⟨d1, d2, d3⟩
          · rw [d2, i_lt, k2] at hlt
            omega
          · rw [d1] at hlt
            have hlt' := hlt
            rw [i_lt] at hlt'
            have hx5 : (nextEvent S).toInt ≤ 5000000 := by omega
            have hnow : ¬ t ≤ now S := by rw [i_le]; omega
            rw [goOn_step hnow] at hb
            have es := step_next hlt
            have hb1 : s_gh (step S (nextEvent S)) 0 ≤ 1000000 := by
              rw [← es]
              exact Nat.le_trans (gle_goOn n).1 hb
            have hm2 := hm.resolve_left hlt
            obtain ⟨T1, L1, p1, g1, g2, g3, g4, g5⟩ := t_goesNext hA hr hI hR hx5 hb1 hm2.1
            have ok := step_ok (t := nextEvent S) hI hR g hx5 hb1
            have hn1 := now_next hI hR hx5 hb1
            have ns : s_n (step S (nextEvent S)) = s_n S := st_step.2.1
            rw [es] at hb hm2
            obtain ⟨T', S', L', p', j1, j2, j3, j4, j5, j6, j7, j8⟩ := ih N p1 (step S (nextEvent S)) T1 L1 (by omega) g4 ok.1 ok.2.1 (by rw [ns]; exact hi) (by rw [hn1]; omega) (by rw [hn1]; omega) hb hm2.2
            have en : leadF (n + 1) S i t = leadF n (step S (nextEvent S)) i t := by
              conv => lhs; unfold leadF
              rw [if_neg hnow, if_neg hl, es]
            rw [en]
            refine ⟨T', S', L', p', ?_, g2.tr j2, j3.trans g3, j4.trans g5, j5, j6, j7, j8⟩
            rw [← j1]
            conv => lhs; unfold f_X7_timeUntilLeader_L68
            rw [t_rv, cl_eq (t_leads hA hr.1 (hI.2.1 i hi) hI.2.2.2.1.1 hi), if_neg hl, if_pos rfl, d1, if_neg hlt, t_rv, cl_eq g1, t_rv, cl_eq (t_nextTime hA g4 ok.1.2.1 ok.1.2.2.2.1.1)]
/-- timeUntilLeader's answer -/
def tulS (n : Nat) (S : SS) (i : Nat) (t : Int32) : Int32 := if leads (leadF n S i t) i (now (leadF n S i t)) = true then now (leadF n S i t) - now S else -4
theorem t_timeUntilLeader (hA : TA A h) {p2 : Int32 × Int32} {S2 : SS} {T : TS} {L : List MG} (hr : TR (true, p2) S (L.map some) (q_w T)) (hr2 : TR (true, p2) S2 (L.map some) (q_w T)) (hI : Inv S2) (hR : Rest S2) {i : Nat} (hi : i < s_n S2) {p : Int32} {n : Nat} (hn : n < FU) (hn5 : 5000 ≤ n) :
    (¬ iv p 1 5000 → TD A T h 2 0 S (f_X7_timeUntilLeader (some (A 0)) (Int32.ofNat i) p (tw A T h))) ∧ (iv p 1 5000 → (¬ now S2 + p ≤ 5000000 → TD A T h 0 (-5) S (f_X7_timeUntilLeader (some (A 0)) (Int32.ofNat i) p (tw A T h))) ∧ (now S2 + p ≤ 5000000 → s_gh (goOn n S2 (now S2 + p)) 0 ≤ 1000000 → msB n S2 (now S2 + p) → TD A T h 0 (tulS n S2 i (now S2 + p)) S (f_X7_timeUntilLeader (some (A 0)) (Int32.ofNat i) p (tw A T h)))) := by
  have a0 : q_w T 0 = now S2 := hr2.1.1.1
  have h6 := hI.2.2.1.2
  have hW := hI.2.2.2.1.1
  have e1 : ((1 : Int64)).toInt = 1 := by decide
  have e5 : ((5000 : Int64)).toInt = 5000 := by decide
  have k5 : ((5000000 : Int32)).toInt = 5000000 := by decide
  have w1 := hW.1
  have w2 := hW.2
  unfold f_X7_timeUntilLeader f_X7_timeUntilLeader_B26 f_X7_timeUntilLeader_B33
  rw [t_rv, cl_eq ((t_noNd hA hr2.1 hI.2.2.1.1).1 (isNd_in hi h6)), if_pos rfl, cl_eq t_in, e1, e5, Int32.toInt_toInt64]
  refine ⟨fun hb => ?_, fun hp => ?_⟩
  · rw [if_neg (show ¬ (1 ≤ p.toInt ∧ p.toInt ≤ 5000) from hb), if_pos rfl, t_rv, cl_eq (t_throws1 hA (by decide) (by decide) q10), if_neg (show ¬ (1 : Int32) = 0 by decide), x_scsc]
    exact (TC_q hr).td
  · have hp1 := hp.1
    have hp2 := hp.2
    have ea : (now S2 + p).toInt = (now S2).toInt + p.toInt := i_add (by omega) (by omega)
    rw [if_pos (show 1 ≤ p.toInt ∧ p.toInt ≤ 5000 from hp), if_neg (show ¬ (1 : Int32) = 0 by decide), t_rv, cl_eq (t_throws0 rfl q10), if_pos rfl, t_rW, t_aW hA 0 0 rfl (by decide), q_wsc, a0]
    refine ⟨fun hc => ?_, fun hc hb hm => ?_⟩
    · rw [if_neg hc]
      exact (TC_q hr).td
    · rw [if_pos hc, t_rv, cl_eq (t_putsAside hA), t_rv, q_assc, q_wsc]
      rw [i_le, k5] at hc
      have r1 : TR (true, p2) S2 (L.map some) (q_w (x_as (x_sc T 1 0) (ovW (q_as T) (q_w T) 73136))) := hr2
      rw [cl_eq (t_nextTime hA r1 hI.2.1 hW)]
      obtain ⟨T', S', L', p', j1, j2, j3, j4, j5, j6, j7, j8⟩ := t_untilL hA (t := now S2 + p) (fr := now S2) (by omega) (i := i) n FU p2 S2 _ L hn r1 hI hR hi (by omega) (by omega) hb hm
      rw [j1]
      unfold f_X7_timeUntilLeader_B98 f_X7_timeUntilLeader_B119
      rw [t_rv, cl_eq (t_leads hA j5.1 (j6.2.1 i j7) j6.2.2.2.1.1 j7)]
      unfold tulS
      rcases j8 with ⟨u1, u2⟩ | ⟨u1, u2⟩
      · rw [if_neg u1, if_neg u2, if_pos rfl, t_rv, cl_eq (t_takesBack hA)]
        exact TD.back hr (TQ.as j2) (j3.trans q10) j4
      · have b0 : q_w T' 0 = now S' := j5.1.1.1
        rw [if_pos u1, ← u2, if_pos u1, if_neg (show ¬ (1 : Int32) = 0 by decide), t_rW, t_aW hA 0 0 rfl (by decide), b0, t_rv, cl_eq (t_takesBack hA)]
        exact TD.back hr (TQ.as j2) (j3.trans q10) j4
-- the longest time without a leader
theorem pass_G {t : Int32} : ∀ (l : List Nat) (q : SS × Int32 × Int32) (a : Int32), (∀ j : Nat, until_ q.1 j = until_ S j) → now q.1 = now S → (now S).toInt ≤ t.toInt → (now S).toInt ≤ a.toInt → q.2.1.toInt = min t.toInt a.toInt → (l.foldl (passNd t) q).2.1.toInt = min t.toInt (l.foldl (fun a k => mx a (until_ S k)) a).toInt := by
  intro l
  induction l with
  | nil => intro q a h1 h2 h3 h4 h5; exact h5
  | cons i l ih =>
    intro q a h1 h2 h3 h4 h5
    rw [List.foldl_cons, List.foldl_cons]
    have em : (mx a (until_ S i)).toInt = max a.toInt (until_ S i).toInt := mx_i
    have ee : (mx (now q.1) (mn t (until_ q.1 i))).toInt = max (now S).toInt (min t.toInt (until_ S i).toInt) := by
      rw [mx_i, mn_i, h1, h2]
    refine ih (passNd t q i) (mx a (until_ S i)) ?_ ?_ h3 (by omega) ?_
    · intro j
      unfold passNd
      dsimp only
      split
      · show until_ (u_nd q.1 i 10 _) j = _
        rw [until_nd10]; exact h1 j
      · show until_ (u_nd q.1 i 10 _) j = _
        rw [until_nd10]; exact h1 j
    · unfold passNd
      dsimp only
      split
      · exact h2
      · exact h2
    · unfold passNd
      dsimp only
      split
      · next hc =>
        rw [i_le] at hc
        show q.2.1.toInt = _
        omega
      · next hc =>
        rw [i_le] at hc
        show (mx (now q.1) (mn t (until_ q.1 i))).toInt = _
        omega
theorem rnW_gap {t x : Int32} (ht : (now S).toInt ≤ t.toInt) (hn : (now S).toInt ≤ (nextEvent S).toInt) : rnW S (mn t (nextEvent S)) x = gapOf S t x := by
  have hm : (now S).toInt ≤ (mn t (nextEvent S)).toInt := by rw [mn_i]; omega
  obtain ⟨e, he⟩ : ∃ e, mn t (nextEvent S) = e := ⟨_, rfl⟩
  have g := pass_G (S := S) (t := e) (List.range (s_n S)) (S, now S, now S) (now S) (fun _ => rfl) rfl (by rw [← he]; exact hm) (by omega) (by show (now S).toInt = _; rw [← he]; omega)
  have hl : (now S).toInt ≤ (lastE S).toInt := by
    have : ∀ (l : List Nat) (a : Int32), a.toInt ≤ (l.foldl (fun a k => mx a (until_ S k)) a).toInt := by
      intro l
      induction l with
      | nil => intro a; exact Int.le_refl _
      | cons i l ih =>
        intro a
        rw [List.foldl_cons]
        have := ih (mx a (until_ S i))
        rw [mx_i] at this
        omega
    exact this _ _
  have e2 : ((List.range (s_n S)).foldl (passNd e) (S, now S, now S)).2.1 = mn e (lastE S) := by
    apply Int32.toInt.inj
    rw [g, mn_i]
    rfl
  unfold rnW gapOf
  rw [he, e2]
  rw [he] at hm
  have hmn : (mn e (lastE S)).toInt = min e.toInt (lastE S).toInt := mn_i
  by_cases hc : mn e (lastE S) = now S
  · rw [if_pos hc, if_pos (by rw [hc, i_le]; omega)]
  · have : ¬ mn e (lastE S) ≤ now S := fun hy => hc (by
      apply Int32.toInt.inj
      rw [i_le] at hy
      omega)
    rw [if_neg hc, if_neg this]
theorem RL_gap {t : Int32} (ht2 : t.toInt ≤ 5000000) : ∀ (n : Nat) (S : SS) (lg gap : Int32), Inv S → Rest S → (now S).toInt ≤ t.toInt → t.toInt - (now S).toInt ≤ n → s_gh (goOn n S t) 0 ≤ 1000000 → gap.toInt ≤ lg.toInt → (RL n S t (gap, lg)).2 = (gapG n S t lg gap).1 := by
  have stop : ∀ (S : SS) (lg gap : Int32), gap.toInt ≤ lg.toInt → mx lg (rnW S (now S) gap) = lg := fun S lg gap hg => by
    have e : rnW S (now S) gap = gap := by
      unfold rnW
      rw [fold_now, if_pos rfl, add_sub3, Int32.sub_self, Int32.add_zero]
    rw [e]
    apply Int32.toInt.inj
    rw [mx_i]
    omega
  intro n
  induction n with
  | zero =>
    intro S lg gap hI hR ht hnt hb hg
    have : t = now S := by apply Int32.toInt.inj; omega
    subst this
    exact stop S lg gap hg
  | succ n ih =>
    intro S lg gap hI hR ht hnt hb hg
    have gx := next_gt2 hI hR
    unfold RL gapG
    by_cases hlt : t < nextEvent S
    · rw [if_pos hlt]
      by_cases hc : t ≤ now S
      · rw [if_pos hc]
        have : t = now S := by
          rw [i_le] at hc
          apply Int32.toInt.inj; omega
        subst this
        exact stop S lg gap hg
      · rw [if_neg hc]
        have em : mn t (nextEvent S) = t := by
          apply Int32.toInt.inj
          rw [mn_i]
          rw [i_lt] at hlt
          omega
        have e := rnW_gap (S := S) (t := t) (x := gap) ht (by omega)
        rw [em] at e ⊢
        rw [step_pass hlt]
        have st : ∀ (m : Nat) (a b : Int32), (gapG m (pass S t) t a b).1 = a := fun m a b => by
          cases m with
          | zero => rfl
          | succ m =>
            unfold gapG
            rw [if_pos (by rw [pass_now, i_le]; omega)]
        rw [st, e]
    · rw [if_neg hlt]
      have hlt' := hlt
      rw [i_lt] at hlt'
      have hnow : ¬ t ≤ now S := by rw [i_le]; omega
      rw [if_neg hnow]
      have em : mn t (nextEvent S) = nextEvent S := by
        apply Int32.toInt.inj
        rw [mn_i]
        omega
      have e := rnW_gap (S := S) (t := t) (x := gap) ht (by omega)
      rw [em] at e ⊢
      rw [goOn_step hnow, step_next hlt] at hb
      have hb1 : s_gh (step S (nextEvent S)) 0 ≤ 1000000 := Nat.le_trans (gle_goOn n).1 hb
      have ok := step_ok (t := nextEvent S) hI hR gx (by omega) hb1
      have hn1 := now_next hI hR (by omega) hb1
      rw [e, step_next hlt]
      refine ih _ _ _ ok.1 ok.2.1 (by rw [hn1]; omega) (by rw [hn1]; omega) hb ?_
      rw [mx_i]
      omega
theorem t_longestLeaderless (hA : TA A h) {p2 : Int32 × Int32} {S2 : SS} {T : TS} {L : List MG} (hr : TR (true, p2) S (L.map some) (q_w T)) (hr2 : TR (true, p2) S2 (L.map some) (q_w T)) (hI : Inv S2) (hR : Rest S2) {p : Int32} (hp : iv p 1 5000) {n : Nat} (hn : n < FU) (hn5 : 5000 ≤ n) :
    (¬ now S2 + p ≤ 5000000 → TD A T h 0 (-5) S (f_X7_longestLeaderless (some (A 0)) p (tw A T h))) ∧ (now S2 + p ≤ 5000000 → s_gh (goOn n S2 (now S2 + p)) 0 ≤ 1000000 → msB n S2 (now S2 + p) → TD A T h 0 (gapG n S2 (now S2 + p) 0 0).1 S (f_X7_longestLeaderless (some (A 0)) p (tw A T h))) := by
  have a0 : q_w T 0 = now S2 := hr2.1.1.1
  have hW := hI.2.2.2.1.1
  have e1 : ((1 : Int64)).toInt = 1 := by decide
  have e5 : ((5000 : Int64)).toInt = 5000 := by decide
  have k5 : ((5000000 : Int32)).toInt = 5000000 := by decide
  have hp1 := hp.1
  have hp2 := hp.2
  have w1 := hW.1
  have w2 := hW.2
  have ea : (now S2 + p).toInt = (now S2).toInt + p.toInt := i_add (by omega) (by omega)
  unfold f_X7_longestLeaderless f_X7_longestLeaderless_B23
  rw [t_pV hA (by decide), cl_eq t_in, e1, e5, Int32.toInt_toInt64, if_pos (show 1 ≤ p.toInt ∧ p.toInt ≤ 5000 from hp), if_neg (show ¬ (1 : Int32) = 0 by decide), t_rv, cl_eq (t_throws0 rfl q10), if_pos rfl, t_rW, t_aW hA 0 0 rfl (by decide), q_wsc, a0]
  refine ⟨fun hc => ?_, fun hc hb hm => ?_⟩
  · rw [if_neg hc]
    exact (TC_q hr).td
  · rw [if_pos hc, t_rv, cl_eq (t_putsAside hA), t_rW, t_sW hA 33 33 rfl (by decide), t_rW, t_sW hA 34 34 rfl (by decide), t_rv, q_assc, q_was, q_wsc]
    rw [i_le, k5] at hc
    rw [q_xw, x_xw]
    have r1 : TR (true, (0, 0)) S2 (L.map some) (q_w (x_w (x_as (x_sc T 1 0) (ovW (q_as T) (q_w T) 73136)) (upd (upd (q_w T) 33 0) 34 0))) := by
      rw [q_xw]
      have b1 : TWb (true, (0, p2.2)) S2 (upd (q_w T) 33 0) := hr2.1.rn 33 (Or.inl ⟨rfl, rfl⟩)
      have b2 : TWb (true, (0, 0)) S2 (upd (upd (q_w T) 33 0) 34 0) := b1.rn 34 (Or.inr ⟨rfl, rfl⟩)
      have hm := hr2.2.1
      refine ⟨b2, ?_, hr2.2.2⟩
      have hm2 : TMp (true, p2) (L.map some) (upd (upd (q_w T) 33 0) 34 0) := hm.keep (fun p hp => by rw [upd_ne (by omega), upd_ne (by omega)])
      exact hm2
    obtain ⟨T', L', g1, g2, g3, g4, g5⟩ := t_goes hA (t := now S2 + p) (by omega) hn r1 hI hR (by omega) (by omega) hb hm
    have e34 : q_w T' 34 = (RL n S2 (now S2 + p) (0, 0)).2 := g4.1.1.2.2.2.2.2.2.2.2.2.2.2.2.2.2.2.2.2.2.2.2.2.2.2.2
    rw [cl_eq g1, t_rW, t_aW hA 34 34 rfl (by decide), e34, t_rv, cl_eq (t_takesBack hA), RL_gap (t := now S2 + p) (by omega) n S2 0 0 hI hR (by omega) (by omega) hb (by omega)]
    exact TD.back hr (TQ.as (TQ.w g2)) (g3.trans q10) g5
theorem t_longestLeaderless1 (hA : TA A h) {p2 : Int32 × Int32} {T : TS} {L : List MG} (hr : TR (true, p2) S (L.map some) (q_w T)) {p : Int32} (hp : ¬ iv p 1 5000) : TD A T h 1 0 S (f_X7_longestLeaderless (some (A 0)) p (tw A T h)) := by
  have e1 : ((1 : Int64)).toInt = 1 := by decide
  have e5 : ((5000 : Int64)).toInt = 5000 := by decide
  unfold f_X7_longestLeaderless f_X7_longestLeaderless_B23
  rw [t_pV hA (by decide), cl_eq t_in, e1, e5, Int32.toInt_toInt64, if_neg (show ¬ (1 ≤ p.toInt ∧ p.toInt ≤ 5000) from hp), if_pos rfl, t_rv, cl_eq (t_throws1 hA (by decide) (by decide) q10), if_neg (show ¬ (1 : Int32) = 0 by decide), x_scsc]
  exact (TC_q hr).td
/-- predictRead's answer -/
def prdS (S : SS) (i r : Nat) : Int32 := if unfi S i < 0 then unfi S i else if ((s_nd S i 9 >>> (Int32.ofNat r &&& 31)) &&& (1 : Int32)) = 0 then -4 else s_nd S i (30 + r)
theorem t_predictRead (hA : TA A h) {p2 : Int32 × Int32} {S2 : SS} {T : TS} {L : List MG} (hr : TR (true, p2) S (L.map some) (q_w T)) (hr2 : TR (true, p2) S2 (L.map some) (q_w T)) (hI : Inv S2) (hR : Rest S2) {i r : Nat} (hi : i < s_n S2) (hr8 : r < 8) {p : Int32} (hp : iv p 1 5000) {n : Nat} (hn : n < FU) (hn5 : 5000 ≤ n) :
    (¬ now S2 + p ≤ 5000000 → TD A T h 0 (-5) S (f_X7_predictRead (some (A 0)) (Int32.ofNat i) (Int32.ofNat r) p (tw A T h))) ∧ (now S2 + p ≤ 5000000 → s_gh (goOn n S2 (now S2 + p)) 0 ≤ 1000000 → msB n S2 (now S2 + p) → TD A T h 0 (prdS (goOn n S2 (now S2 + p)) i r) S (f_X7_predictRead (some (A 0)) (Int32.ofNat i) (Int32.ofNat r) p (tw A T h))) := by
  have a0 : q_w T 0 = now S2 := hr2.1.1.1
  have h6 := hI.2.2.1.2
  have hW := hI.2.2.2.1.1
  have e1 : ((1 : Int64)).toInt = 1 := by decide
  have e5 : ((5000 : Int64)).toInt = 5000 := by decide
  have k5 : ((5000000 : Int32)).toInt = 5000000 := by decide
  have w1 := hW.1
  have w2 := hW.2
  have hp1 := hp.1
  have hp2 := hp.2
  have ea : (now S2 + p).toInt = (now S2).toInt + p.toInt := i_add (by omega) (by omega)
  unfold f_X7_predictRead f_X7_predictRead_B33
  rw [t_rv, cl_eq ((t_noNd hA hr2.1 hI.2.2.1.1).1 (isNd_in hi h6)), if_pos rfl, cl_eq (t_isReg hr8), if_neg (show ¬ (1 : Int32) = 0 by decide), cl_eq t_in, e1, e5, Int32.toInt_toInt64]
  rw [if_pos (show 1 ≤ p.toInt ∧ p.toInt ≤ 5000 from hp), if_neg (show ¬ (1 : Int32) = 0 by decide), t_rv, cl_eq (t_throws0 rfl q10), if_pos rfl, t_rW, t_aW hA 0 0 rfl (by decide), q_wsc, a0]
  refine ⟨fun hc => ?_, fun hc hb hm => ?_⟩
  · rw [if_neg hc]
    exact (TC_q hr).td
  · rw [if_pos hc, t_rv, cl_eq (t_putsAside hA), t_rv, q_assc, q_wsc]
    rw [i_le, k5] at hc
    have r1 : TR (true, p2) S2 (L.map some) (q_w (x_as (x_sc T 1 0) (ovW (q_as T) (q_w T) 73136))) := hr2
    obtain ⟨T', L', g1, g2, g3, g4, g5⟩ := t_goes hA (t := now S2 + p) (by omega) hn r1 hI hR (by omega) (by omega) hb hm
    obtain ⟨o1, o2, o3, o4, o5⟩ := goOn_ok n S2 (now S2 + p) hI hR (by omega) (by omega) hb
    have ns : ∀ (n : Nat) (S : SS) (t : Int32), s_n (goOn n S t) = s_n S := by
      intro n
      induction n with
      | zero => intro S t; rfl
      | succ n ih =>
        intro S t
        unfold goOn
        split
        · rfl
        · rw [ih]; exact st_step.2.1
    have hi' : i < s_n (goOn n S2 (now S2 + p)) := by rw [ns]; exact hi
    have hN' := o1.2.1 i hi'
    have hW' := o1.2.2.2.1.1
    rw [cl_eq g1, t_rv, cl_eq (t_refusalL hA g4.1 hN' hW' hi')]
    unfold prdS f_X7_predictRead_B115 f_X7_predictRead_B113 f_X7_predictRead_B115
    rcases unfi_n (S := goOn n S2 (now S2 + p)) (i := i) with e | e
    · rw [if_neg (lt_ne e), if_pos e, t_rv, cl_eq (t_takesBack hA)]
      exact TD.back hr (TQ.as g2) (g3.trans q10) g5
    · rw [e, if_pos rfl, if_neg (show ¬ (0 : Int32) < 0 by decide), t_rv, cl_eq (t_ofN hA g4.1 11 11 rfl hi' (by decide)), show tnd (s_nd (goOn n S2 (now S2 + p)) i) 11 = s_nd (goOn n S2 (now S2 + p)) i 9 from rfl]
      by_cases hb : ((s_nd (goOn n S2 (now S2 + p)) i 9 >>> (Int32.ofNat r &&& 31)) &&& (1 : Int32)) = 0
      · rw [if_pos hb, if_pos hb, t_rv, cl_eq (t_takesBack hA)]
        exact TD.back hr (TQ.as g2) (g3.trans q10) g5
      · rw [if_neg hb, if_neg hb, t_rv]
        rw [cl_eq (t_of hA ((12 : Int32) + Int32.ofNat r) (12 + r) (by rw [show (12 : Int32) = Int32.ofNat 12 from rfl, of_add]) (by omega) (by omega))]
        have ec : q_w T' (40 + 20 * i + (12 + r)) = s_nd (goOn n S2 (now S2 + p)) i (30 + r) := by
          have := g4.1.2.1 i (12 + r) hi' (by omega) (Or.inr rfl)
          rw [tnd_hi (by omega), show 18 + (12 + r) = 30 + r from by omega] at this
          exact this
        rw [ec, t_rv, cl_eq (t_takesBack hA)]
        exact TD.back hr (TQ.as g2) (g3.trans q10) g5
end TPU
