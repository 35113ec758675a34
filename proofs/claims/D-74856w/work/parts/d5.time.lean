/-! THE COMPONENT: time, predictions -/
set_option maxRecDepth 100000
/-- room for a copy -/
def cpF (B : Nat × Nat) (S : SS) : Prop := s_gh S 0 + cpCl S + 100 ≤ B.1 ∧ s_gh S 1 + cpSl S + 2000 ≤ B.2
/-- S, with the counters of S2 -/
def ctS (S S2 : SS) : SS := u_ct S (s_gh S2 0) (s_gh S2 1)
section CX5
variable {E : PE} {B : Nat × Nat} {F : Nat → Nat} {R : PM} {S : SS} {h : PH} {X bA sA : Nat} {len le : Int32}
theorem SP.copy (hS : SP E B F R S h) (hI : Inv S) (hc : cpF B S) (hB2 : B.2 < 2 ^ 25) : ∃ (F' : Nat → Nat) (R' : PM) (h1 : PH), f_X2_copy (some (F 0)) h = some (some (F' 0), h1) ∧ SP E B F' R' (copyS S) h1 ∧ (∀ (b : Nat) (e : va_E), R b = some e → R' b = some e) ∧ ∀ (S2 : SS) (h2 : PH), SP E B F' R' S2 h2 → SP E B F R (ctS S S2) h2 := by
  obtain ⟨G, ad, I, g1, g2, hr⟩ := hS
  have hz : ∀ i : Nat, i < s_n S → ∀ j : Nat, j = 2 ∨ j = 3 ∨ j = 4 → s_nd S i j = 0 ∨ s_nd S i j = 1 := by
    intro i hi j hj
    obtain ⟨-, -, -, n2, n3, n4, -⟩ := hI.2.1 i hi
    rcases hj with rfl | rfl | rfl
    · exact n2
    · exact n3
    · exact n4
  obtain ⟨o, h', e, hr'⟩ := m_copy hr hz hc.1 hc.2 hB2
  rw [g1 0 (by decide)] at e
  refine ⟨gB (pn h) o G, KN (s_n S) G I h, h', e, ⟨gB (pn h) o G, ad, KN (s_n S) G I h, fun _ _ => rfl, fun b e hb => hb, hr'⟩, fun b e hb => KN_in hr (g2 b e hb), fun S2 h2 hS2 => ?_⟩
  exact ⟨G, ad, I, g1, g2, hr.back hS2.base.1 (fun b e hb => hS2.tr hb) hS2.room.1 hS2.room.2⟩
theorem Inv_copy (hI : Inv S) (hb : s_gh (copyS S) 0 ≤ 1000000) : Inv (copyS S) := by
  have hg : s_gh S 0 ≤ s_gh (copyS S) 0 := by
    show s_gh S 0 ≤ s_gh S 0 + cpCl S
    omega
  obtain ⟨a1, a2, a3, a4, a5⟩ := hI
  have e : ∀ k : Nat, k ≠ 20 → k ≠ 21 → scC (s_sc S) k = s_sc S k := fun k h1 h2 => by
    unfold scC
    rw [fu_ne h2, fu_ne h1]
  refine ⟨a1, a2, a3, ?_, a5⟩
  exact WI.up (S := S) (S' := copyS S) a4 rfl rfl (fun k hk => e k (by omega) (by omega)) hg hb
theorem Rest_copy (hR : Rest S) : Rest (copyS S) := hR
theorem now_copy : now (copyS S) = now S := by
  show scC (s_sc S) 8 = _
  unfold scC
  rw [fu_ne (by decide), fu_ne (by decide)]
theorem x_until (hS : SP E B F R S h) (hX : R X = some (cLL bA len le (F 0) sA)) {p : Int32} (hp : iv p 1 5000) : f_X1_until (some X) p h = some (.inr (if now S + p ≤ 5000000 then now S + p else -5), h) := by
  have e1 : ((1 : Int64)).toInt = 1 := by decide
  have e5 : ((5000 : Int64)).toInt = 5000 := by decide
  unfold f_X1_until f_X1_until_B40
  rw [cl_eq x_in, e1, e5, Int32.toInt_toInt64, if_pos (show 1 ≤ p.toInt ∧ p.toInt ≤ 5000 from hp), cl_eq x_check1]
  dsimp only
  rw [x_sim hS hX, r_scN hS (by decide) (by decide)]
  obtain ⟨y, hy⟩ : ∃ y, now S + p = y := ⟨_, rfl⟩
  rw [hy]
  by_cases c : y ≤ 5000000
  · rw [if_pos c, if_pos c, x_sim hS hX, r_scN hS (by decide) (by decide), hy]
  · rw [if_neg c, if_neg c]
theorem x_untilP (hS : SP E B F R S h) (hB : fitB B (g_mk S 1 6)) {p : Int32} (hp : ¬ iv p 1 5000) : okk (f_X1_until (some X) p h) (XT E B F R 20 S) := by
  unfold f_X1_until
  exact x_rng0 hS hB hp (x_on (x_check0 hS hB) (fun q h1 _ => rfl))
theorem x_advance (hS : SP E B F R S h) (hX : R X = some (cLL bA len le (F 0) sA)) (hx : EX E) (hI : Inv S) (hR : Rest S) {p : Int32} (hp : iv p 1 5000) {n : Nat} (hn : n < FU) (hn5 : 5000 ≤ n) (hB2 : B.2 < 2 ^ 25) :
    (¬ now S + p ≤ 5000000 → okk (f_X1_advance (some X) p h) (XV E B F R (-5) S)) ∧ (now S + p ≤ 5000000 → s_gh (goOn n S (now S + p)) 0 ≤ 1000000 → fitB B (goOn n S (now S + p)) → okk (f_X1_advance (some X) p h) (XV E B F R (now (goOn n S (now S + p))) (goOn n S (now S + p)))) := by
  have e1 : ((1 : Int64)).toInt = 1 := by decide
  have e5 : ((5000 : Int64)).toInt = 5000 := by decide
  have k5 : ((5000000 : Int32)).toInt = 5000000 := by decide
  have w := hI.2.2.2.1.1
  have w1 := w.1
  have w2 := w.2
  have p1 := hp.1
  have p2 := hp.2
  have ea : (now S + p).toInt = (now S).toInt + p.toInt := i_add (by omega) (by omega)
  obtain ⟨y, hy⟩ : ∃ y, now S + p = y := ⟨_, rfl⟩
  rw [hy] at ea ⊢
  unfold f_X1_advance f_X2_goOn
  rw [cl_eq x_in, e1, e5, Int32.toInt_toInt64, if_pos (show 1 ≤ p.toInt ∧ p.toInt ≤ 5000 from hp), cl_eq x_check1]
  dsimp only
  rw [x_sim hS hX, r_scN hS (by decide) (by decide), hy]
  refine ⟨fun c => ?_, fun c hb hf => ?_⟩
  · rw [if_neg c]
    exact ⟨_, rfl, rfl, hS⟩
  · rw [if_pos c, x_sim hS hX, x_sim hS hX, r_scN hS (by decide) (by decide), hy, r_sim hS]
    rw [i_le, k5] at c
    have ok := goOn_ok n S y hI hR c (by omega) hb
    refine okk_cl ((m_goOn hB2 hx n S h y hS hI.bi ok.2.2.1 hf FU hn).mono fun b hb => ?_)
    rw [x_sim hb hX, r_scN hb (by decide) (by decide)]
    exact ⟨_, rfl, rfl, hb⟩
theorem x_advanceP (hS : SP E B F R S h) (hB : fitB B (g_mk S 1 6)) {p : Int32} (hp : ¬ iv p 1 5000) : okk (f_X1_advance (some X) p h) (XT E B F R 20 S) ∧ okk (f_X1_nextLeader (some X) p h) (XT E B F R 20 S) ∧ okk (f_X1_leaderlessTime (some X) p h) (XT E B F R 20 S) := by
  unfold f_X1_advance f_X1_nextLeader f_X1_leaderlessTime
  exact ⟨x_rng0 hS hB hp (x_on (x_check0 hS hB) (fun q h1 _ => rfl)), x_rng0 hS hB hp (x_on (x_check0 hS hB) (fun q h1 _ => rfl)), x_rng0 hS hB hp (x_on (x_check0 hS hB) (fun q h1 _ => rfl))⟩
theorem x_advNext (hS : SP E B F R S h) (hX : R X = some (cLL bA len le (F 0) sA)) (hx : EX E) (hI : Inv S) (hR : Rest S) {n : Nat} (hn : n < FU) (hn5 : 5000000 ≤ n) (hB2 : B.2 < 2 ^ 25) :
    (nextEvent S = 2147483647 → okk (f_X1_advanceToNextEvent (some X) h) (XI E B F R (-4) S)) ∧ (nextEvent S ≠ 2147483647 → (¬ nextEvent S ≤ 5000000 → okk (f_X1_advanceToNextEvent (some X) h) (XI E B F R (-5) S)) ∧ (nextEvent S ≤ 5000000 → s_gh (goOn n S (nextEvent S)) 0 ≤ 1000000 → fitB B (goOn n S (nextEvent S)) → okk (f_X1_advanceToNextEvent (some X) h) (XI E B F R (now (goOn n S (nextEvent S))) (goOn n S (nextEvent S))))) := by
  have k5 : ((5000000 : Int32)).toInt = 5000000 := by decide
  have w := hI.2.2.2.1.1
  have w1 := w.1
  unfold f_X1_advanceToNextEvent f_X2_goOn
  rw [x_sim hS hX, r_sim hS, cl_eq (m_nextEvent hS)]
  obtain ⟨y, hy⟩ : ∃ y, nextEvent S = y := ⟨_, rfl⟩
  rw [hy]
  refine ⟨fun c => ?_, fun c => ⟨fun c2 => ?_, fun c2 hb hf => ?_⟩⟩
  · rw [if_pos c]
    exact ⟨_, rfl, rfl, hS⟩
  · rw [if_neg c, if_neg c2]
    exact ⟨_, rfl, rfl, hS⟩
  · rw [if_neg c, if_pos c2, x_sim hS hX, r_sim hS]
    rw [i_le, k5] at c2
    have ok := goOn_ok n S y hI hR c2 (by omega) hb
    refine okk_cl ((m_goOn hB2 hx n S h y hS hI.bi ok.2.2.1 hf FU hn).mono fun b hb => ?_)
    rw [x_sim hb hX, r_scN hb (by decide) (by decide)]
    exact ⟨_, rfl, rfl, hb⟩
/-- the loops of predictions end -/
theorem nDone_of {t old : Int32} : ∀ (n : Nat) (S : SS) (f : Int32), gDone n S t → nDone n S t old f := by
  intro n
  induction n with
  | zero => intro S f h; exact Or.inl h
  | succ n ih =>
    intro S f h
    rcases h with h | ⟨h1, h2⟩
    · exact Or.inl h
    · exact Or.inr (Or.inr ⟨h1, ih _ _ h2⟩)
theorem lDone_of {t : Int32} {i : Nat} : ∀ (n : Nat) (S : SS), gDone n S t → lDone n S i t := by
  intro n
  induction n with
  | zero => intro S h; exact Or.inl h
  | succ n ih =>
    intro S h
    rcases h with h | ⟨h1, h2⟩
    · exact Or.inl h
    · exact Or.inr (Or.inr ⟨h1, ih _ h2⟩)
theorem step_mn {t : Int32} : step S (mn t (nextEvent S)) = step S t := by
  by_cases c : t < nextEvent S
  · have e : mn t (nextEvent S) = t := by
      apply Int32.toInt.inj
      rw [mn_i]
      rw [i_lt] at c
      omega
    rw [e]
  · have e : mn t (nextEvent S) = nextEvent S := by
      apply Int32.toInt.inj
      rw [mn_i]
      rw [i_lt] at c
      omega
    rw [e, ← step_next c]
theorem sDone_mn {t : Int32} (h : sDone S t) : sDone S (mn t (nextEvent S)) := by
  by_cases c : t < nextEvent S
  · have e : mn t (nextEvent S) = t := by
      apply Int32.toInt.inj
      rw [mn_i]
      rw [i_lt] at c
      omega
    rw [e]; exact h
  · have e : mn t (nextEvent S) = nextEvent S := by
      apply Int32.toInt.inj
      rw [mn_i]
      rw [i_lt] at c
      omega
    have e2 : mn (nextEvent S) t = nextEvent S := by
      apply Int32.toInt.inj
      rw [mn_i]
      rw [i_lt] at c
      omega
    have e3 : mn (nextEvent S) (nextEvent S) = nextEvent S := by
      apply Int32.toInt.inj
      rw [mn_i]
      omega
    rw [e]
    rcases h with h | h
    · exact absurd h c
    · rw [e2] at h
      exact Or.inr (by rw [e3]; exact h)
theorem pDone_of {t : Int32} : ∀ (n : Nat) (S : SS), gDone n S t → pDone n S t := by
  intro n
  induction n with
  | zero => intro S h; exact h
  | succ n ih =>
    intro S h
    rcases h with h | ⟨h1, h2⟩
    · exact Or.inl h
    · exact Or.inr ⟨sDone_mn h1, by rw [step_mn]; exact ih _ h2⟩
theorem gle_nL {t old : Int32} : ∀ (n : Nat) (S : SS) (f : Int32), gle (nextLead n S t old f).2 (goOn n S t) := by
  intro n
  induction n with
  | zero => intro S f; exact gle.rf
  | succ n ih =>
    intro S f
    unfold nextLead
    by_cases c : t ≤ now S
    · rw [if_pos c, goOn_stop c]
      exact gle.rf
    · rw [if_neg c]
      by_cases c2 : f = -4
      · rw [if_pos c2, goOn_step c]
        exact ih _ _
      · rw [if_neg c2]
        exact gle_goOn (n + 1)
theorem gle_lF {t : Int32} {i : Nat} : ∀ (n : Nat) (S : SS), gle (leadF n S i t) (goOn n S t) := by
  intro n
  induction n with
  | zero => intro S; exact gle.rf
  | succ n ih =>
    intro S
    unfold leadF
    by_cases c : t ≤ now S
    · rw [if_pos c, goOn_stop c]
      exact gle.rf
    · rw [if_neg c]
      by_cases c2 : leads S i (now S) = true
      · rw [if_pos c2]
        exact gle_goOn (n + 1)
      · rw [if_neg c2, goOn_step c]
        exact ih _
theorem gap_go {t : Int32} : ∀ (n : Nat) (S : SS) (lg gap : Int32), (gapG n S t lg gap).2 = goOn n S t := by
  intro n
  induction n with
  | zero => intro S lg gap; rfl
  | succ n ih =>
    intro S lg gap
    unfold gapG
    by_cases c : t ≤ now S
    · rw [if_pos c, goOn_stop c]
    · rw [if_neg c, goOn_step c, ih, step_mn]
/-- what a prediction needs: n steps are enough, the room -/
def prF (B : Nat × Nat) (n : Nat) (S : SS) (t : Int32) : Prop := cpF B S ∧ s_gh (goOn n S t) 0 ≤ 1000000 ∧ fitB B (goOn n S t)
theorem gh_goOn_copy {n : Nat} {t : Int32} (hb : s_gh (goOn n (copyS S) t) 0 ≤ 1000000) : s_gh (copyS S) 0 ≤ 1000000 := Nat.le_trans (gle_goOn n).1 hb
theorem n_copy : s_n (copyS S) = s_n S := rfl
theorem x_nextLeader (hS : SP E B F R S h) (hX : R X = some (cLL bA len le (F 0) sA)) (hx : EX E) (hI : Inv S) (hR : Rest S) {p : Int32} (hp : iv p 1 5000) {n : Nat} (hn : n < FU) (hn5 : 5000 ≤ n) (hB2 : B.2 < 2 ^ 25) :
    (¬ now S + p ≤ 5000000 → okk (f_X1_nextLeader (some X) p h) (XV E B F R (-5) S)) ∧ (now S + p ≤ 5000000 → cpF B S → s_gh (goOn n (copyS S) (now S + p)) 0 ≤ 1000000 → fitB B (goOn n (copyS S) (now S + p)) → okk (f_X1_nextLeader (some X) p h) (XV E B F R (nextLead n (copyS S) (now S + p) (leadersS (copyS S)) (-4)).1 (ctS S (nextLead n (copyS S) (now S + p) (leadersS (copyS S)) (-4)).2))) := by
  have e1 : ((1 : Int64)).toInt = 1 := by decide
  have e5 : ((5000 : Int64)).toInt = 5000 := by decide
  have k5 : ((5000000 : Int32)).toInt = 5000000 := by decide
  have w := hI.2.2.2.1.1
  have w1 := w.1
  have w2 := w.2
  have p1 := hp.1
  have p2 := hp.2
  have ea : (now S + p).toInt = (now S).toInt + p.toInt := i_add (by omega) (by omega)
  obtain ⟨y, hy⟩ : ∃ y, now S + p = y := ⟨_, rfl⟩
  rw [hy] at ea ⊢
  unfold f_X1_nextLeader f_X1_nextLeader_B44 f_X2_nextLeader
  rw [cl_eq x_in, e1, e5, Int32.toInt_toInt64, if_pos (show 1 ≤ p.toInt ∧ p.toInt ≤ 5000 from hp), cl_eq x_check1]
  dsimp only
  rw [x_sim hS hX, r_scN hS (by decide) (by decide), hy]
  refine ⟨fun c => ?_, fun c hc hb hf => ?_⟩
  · rw [if_neg c]
    exact ⟨_, rfl, rfl, hS⟩
  · rw [if_pos c, x_sim hS hX, r_sim hS]
    rw [i_le, k5] at c
    obtain ⟨F', R', h1, q1, q2, q3, q4⟩ := hS.copy hI hc hB2
    have hI' := Inv_copy hI (gh_goOn_copy hb)
    have ok := goOn_ok n (copyS S) y hI' (Rest_copy hR) c (by rw [now_copy]; omega) hb
    rw [cl_eq q1, r_sim q2, r_sim q2, cl_eq (m_leaders q2 hI'.w1)]
    exact okk_cl ((m_nextLeadL hB2 hx n (copyS S) h1 y (leadersS (copyS S)) (-4) q2 hI'.bi (nDone_of n _ _ ok.2.2.1) (hf.le (gle_nL n _ _)) FU hn).mono fun b hb => ⟨_, rfl, by rw [hb.1], q4 _ _ hb.2⟩)
theorem x_leaderlessTime (hS : SP E B F R S h) (hX : R X = some (cLL bA len le (F 0) sA)) (hx : EX E) (hI : Inv S) (hR : Rest S) {p : Int32} (hp : iv p 1 5000) {n : Nat} (hn : n < FU) (hn5 : 5000 ≤ n) (hB2 : B.2 < 2 ^ 25) :
    (¬ now S + p ≤ 5000000 → okk (f_X1_leaderlessTime (some X) p h) (XV E B F R (-5) S)) ∧ (now S + p ≤ 5000000 → cpF B S → s_gh (goOn n (u_sc (copyS S) 17 0) (now S + p)) 0 ≤ 1000000 → fitB B (goOn n (u_sc (copyS S) 17 0) (now S + p)) → okk (f_X1_leaderlessTime (some X) p h) (XV E B F R (s_sc (goOn n (u_sc (copyS S) 17 0) (now S + p)) 17) (ctS S (goOn n (u_sc (copyS S) 17 0) (now S + p))))) := by
  have e1 : ((1 : Int64)).toInt = 1 := by decide
  have e5 : ((5000 : Int64)).toInt = 5000 := by decide
  have k5 : ((5000000 : Int32)).toInt = 5000000 := by decide
  have w := hI.2.2.2.1.1
  have w1 := w.1
  have w2 := w.2
  have p1 := hp.1
  have p2 := hp.2
  have ea : (now S + p).toInt = (now S).toInt + p.toInt := i_add (by omega) (by omega)
  obtain ⟨y, hy⟩ : ∃ y, now S + p = y := ⟨_, rfl⟩
  rw [hy] at ea ⊢
  unfold f_X1_leaderlessTime f_X2_goOn
  rw [cl_eq x_in, e1, e5, Int32.toInt_toInt64, if_pos (show 1 ≤ p.toInt ∧ p.toInt ≤ 5000 from hp), cl_eq x_check1]
  dsimp only
  rw [x_sim hS hX, r_scN hS (by decide) (by decide), hy]
  refine ⟨fun c => ?_, fun c hc hb hf => ?_⟩
  · rw [if_neg c]
    exact ⟨_, rfl, rfl, hS⟩
  · rw [if_pos c, x_sim hS hX, r_sim hS]
    rw [i_le, k5] at c
    obtain ⟨F', R', h1, q1, q2, q3, q4⟩ := hS.copy hI hc hB2
    have hb0 : s_gh (copyS S) 0 ≤ 1000000 := Nat.le_trans (gle_goOn (S := u_sc (copyS S) 17 0) n).1 hb
    have hI' : Inv (u_sc (copyS S) 17 0) := (Inv_copy hI hb0).sc (by decide)
    have hR' : Rest (u_sc (copyS S) 17 0) := Rest_copy hR
    have en : now (u_sc (copyS S) 17 0) = now S := by
      rw [← now_copy (S := S)]
      exact sc_usc (by decide)
    have ok := goOn_ok n (u_sc (copyS S) 17 0) y hI' hR' c (by rw [en]; omega) hb
    obtain ⟨h2, s2, e2⟩ := w_sc q2 (k := 17) (v := 0) (by decide) (by decide)
    rw [cl_eq q1, e2, r_sim s2]
    refine okk_cl ((m_goOn hB2 hx n _ h2 y s2 hI'.bi ok.2.2.1 hf FU hn).mono fun b hb => ?_)
    rw [r_scN hb (by decide) (by decide)]
    exact ⟨_, rfl, rfl, q4 _ _ hb⟩
theorem neg5 {y : Int32} (hy : 0 ≤ y.toInt) : (0 : Int32) ≤ y := by rw [i_le, show ((0 : Int32)).toInt = 0 from rfl]; exact hy
theorem x_longestLeaderless (hS : SP E B F R S h) (hX : R X = some (cLL bA len le (F 0) sA)) (hx : EX E) (hI : Inv S) (hR : Rest S) {p : Int32} (hp : iv p 1 5000) {n : Nat} (hn : n < FU) (hn5 : 5000 ≤ n) (hB2 : B.2 < 2 ^ 25) :
    (¬ now S + p ≤ 5000000 → okk (f_X1_longestLeaderless (some X) p h) (XV E B F R (-5) S)) ∧ (now S + p ≤ 5000000 → cpF B S → s_gh (goOn n (copyS S) (now S + p)) 0 ≤ 1000000 → fitB B (goOn n (copyS S) (now S + p)) → okk (f_X1_longestLeaderless (some X) p h) (XV E B F R (gapG n (copyS S) (now S + p) 0 0).1 (ctS S (goOn n (copyS S) (now S + p))))) := by
  have k5 : ((5000000 : Int32)).toInt = 5000000 := by decide
  have w := hI.2.2.2.1.1
  have w1 := w.1
  have w2 := w.2
  have p1 := hp.1
  have p2 := hp.2
  have ea : (now S + p).toInt = (now S).toInt + p.toInt := i_add (by omega) (by omega)
  have hu := x_until hS hX hp
  obtain ⟨y, hy⟩ : ∃ y, now S + p = y := ⟨_, rfl⟩
  rw [hy] at ea hu ⊢
  unfold f_X1_longestLeaderless f_X1_longestLeaderless_B25 f_X2_longestGap
  rw [x_rv hS hX]
  refine ⟨fun c => ?_, fun c hc hb hf => ?_⟩
  · rw [if_neg c] at hu
    rw [cl_eq hu]
    dsimp only
    rw [if_neg (by decide)]
    exact ⟨_, rfl, rfl, hS⟩
  · rw [if_pos c] at hu
    rw [cl_eq hu]
    dsimp only
    rw [if_pos (neg5 (by omega)), x_sim hS hX, r_sim hS]
    rw [i_le, k5] at c
    obtain ⟨F', R', h1, q1, q2, q3, q4⟩ := hS.copy hI hc hB2
    have hI' := Inv_copy hI (gh_goOn_copy hb)
    have ok := goOn_ok n (copyS S) y hI' (Rest_copy hR) c (by rw [now_copy]; omega) hb
    rw [cl_eq q1, r_sim q2]
    exact okk_cl ((m_gap hB2 hx n (copyS S) h1 y 0 0 q2 hI'.bi (pDone_of n _ ok.2.2.1) (by rw [gap_go]; exact hf) FU hn).mono fun b hb => ⟨_, rfl, by rw [hb.1], q4 _ _ (by rw [← gap_go (lg := 0) (gap := 0)]; exact hb.2)⟩)
theorem x_longestLeaderlessP (hS : SP E B F R S h) (hX : R X = some (cLL bA len le (F 0) sA)) (hB : fitB B (g_mk S 1 6)) {p : Int32} (hp : ¬ iv p 1 5000) : okk (f_X1_longestLeaderless (some X) p h) (XT E B F R 20 S) := by
  unfold f_X1_longestLeaderless
  rw [x_rv hS hX]
  exact x_on (x_untilP hS hB hp) (fun q h1 _ => rfl)
end CX5
