/-! THE COMPONENT: predictions (2) -/
set_option maxRecDepth 100000
section CX6
variable {E : PE} {B : Nat × Nat} {F : Nat → Nat} {R : PM} {S : SS} {h : PH} {X bA sA : Nat} {len le : Int32}
theorem x_predN (hS : SP E B F R S h) (hX : R X = some (cLL bA len le (F 0) sA)) (hB : fitB B (g_mk S 1 6)) {p q r : Int32} (hp : ¬ isNd S p) : okk (f_X1_timeUntilLeader (some X) p q h) (XT E B F R 24 S) ∧ okk (f_X1_tryWrite (some X) p q h) (XT E B F R 24 S) ∧ okk (f_X1_predictRead (some X) p q r h) (XT E B F R 24 S) ∧ okk (f_X1_acquiresUntil (some X) p q h) (XT E B F R 24 S) := by
  have g := x_nodeN hS hX hB hp
  unfold f_X1_timeUntilLeader f_X1_tryWrite f_X1_predictRead f_X1_acquiresUntil
  rw [x_rv hS hX, x_rv hS hX, x_rv hS hX, x_rv hS hX]
  exact ⟨x_on g (fun q h1 _ => rfl), x_on g (fun q h1 _ => rfl), x_on g (fun q h1 _ => rfl), x_on g (fun q h1 _ => rfl)⟩
theorem x_timeUntilLeaderP (hS : SP E B F R S h) (hX : R X = some (cLL bA len le (F 0) sA)) (hB : fitB B (g_mk S 1 6)) {i : Nat} {q : Int32} (hi : i < s_n S) (hq : ¬ iv q 1 5000) : okk (f_X1_timeUntilLeader (some X) (Int32.ofNat i) q h) (XT E B F R 20 S) ∧ okk (f_X1_acquiresUntil (some X) (Int32.ofNat i) q h) (XT E B F R 20 S) := by
  have g := x_untilP (X := X) hS hB hq
  unfold f_X1_timeUntilLeader f_X1_acquiresUntil
  rw [x_rv hS hX, x_rv hS hX, cl_eq (x_nodeY hS hX hi), cl_eq (x_nodeY hS hX hi)]
  dsimp only
  rw [x_rv hS hX, x_rv hS hX]
  exact ⟨x_on g (fun q h1 _ => rfl), x_on g (fun q h1 _ => rfl)⟩
theorem x_tryWriteP (hS : SP E B F R S h) (hX : R X = some (cLL bA len le (F 0) sA)) (hB : fitB B (g_mk S 1 6)) {i : Nat} {q : Int32} (hi : i < s_n S) (hq : ¬ iv q 0 7) : okk (f_X1_tryWrite (some X) (Int32.ofNat i) q h) (XT E B F R 20 S) := by
  unfold f_X1_tryWrite
  rw [x_rv hS hX, cl_eq (x_nodeY hS hX hi)]
  exact x_on (x_regN hS hB hq) (fun q h1 _ => rfl)
theorem x_predictReadP (hS : SP E B F R S h) (hX : R X = some (cLL bA len le (F 0) sA)) (hB : fitB B (g_mk S 1 6)) {i : Nat} {q r : Int32} (hi : i < s_n S) (hq : ¬ (iv q 0 7 ∧ iv r 1 5000)) : okk (f_X1_predictRead (some X) (Int32.ofNat i) q r h) (XT E B F R 20 S) := by
  unfold f_X1_predictRead
  rw [x_rv hS hX, cl_eq (x_nodeY hS hX hi)]
  dsimp only
  by_cases c : iv q 0 7
  · obtain ⟨k, hk, rfl⟩ := reg_of c
    rw [cl_eq (x_regY hk)]
    dsimp only
    rw [x_rv hS hX]
    exact x_on (x_untilP hS hB (fun hy => hq ⟨c, hy⟩)) (fun q h1 _ => rfl)
  · exact x_on (x_regN hS hB c) (fun q h1 _ => rfl)
theorem st_n {n : Nat} : ∀ {S : SS} {t : Int32}, s_n (goOn n S t) = s_n S := by
  induction n with
  | zero => intro S t; rfl
  | succ n ih =>
    intro S t
    unfold goOn
    split
    · rfl
    · rw [ih]; exact st_step.2.1
theorem x_timeUntilLeader (hS : SP E B F R S h) (hX : R X = some (cLL bA len le (F 0) sA)) (hx : EX E) (hI : Inv S) (hR : Rest S) {i : Nat} (hi : i < s_n S) {p : Int32} (hp : iv p 1 5000) {n : Nat} (hn : n < FU) (hn5 : 5000 ≤ n) (hB2 : B.2 < 2 ^ 25) :
    (¬ now S + p ≤ 5000000 → okk (f_X1_timeUntilLeader (some X) (Int32.ofNat i) p h) (XV E B F R (-5) S)) ∧ (now S + p ≤ 5000000 → cpF B S → s_gh (goOn n (copyS S) (now S + p)) 0 ≤ 1000000 → fitB B (goOn n (copyS S) (now S + p)) → okk (f_X1_timeUntilLeader (some X) (Int32.ofNat i) p h) (XV E B F R (tulS n (copyS S) i (now S + p)) (ctS S (leadF n (copyS S) i (now S + p))))) := by
  have k5 : ((5000000 : Int32)).toInt = 5000000 := by decide
  have w := hI.2.2.2.1.1
  have w1 := w.1
  have w2 := w.2
  have p1 := hp.1
  have p2 := hp.2
  have ea : (now S + p).toInt = (now S).toInt + p.toInt := i_add (by omega) (by omega)
  have hu := x_until hS hX hp
  obtain ⟨y, hy⟩ : ∃ y, now S + p = y := ⟨_, rfl⟩
  rw [hy] at ea hu ⊢
  unfold f_X1_timeUntilLeader f_X1_timeUntilLeader_B52 f_X2_leadsFrom
  rw [x_rv hS hX, cl_eq (x_nodeY hS hX hi)]
  dsimp only
  rw [x_rv hS hX]
  refine ⟨fun c => ?_, fun c hc hb hf => ?_⟩
  · rw [if_neg c] at hu
    rw [cl_eq hu]
    dsimp only
    rw [if_neg (by decide)]
    exact ⟨_, rfl, rfl, hS⟩
  · rw [if_pos c] at hu
    rw [cl_eq hu]
    dsimp only
    rw [if_pos (neg5 (by omega)), x_sim hS hX, r_sim hS]
    rw [i_le, k5] at c
    obtain ⟨F', R', h1, q1, q2, q3, q4⟩ := hS.copy hI hc hB2
    have hI' := Inv_copy hI (gh_goOn_copy hb)
    have ok := goOn_ok n (copyS S) y hI' (Rest_copy hR) c (by rw [now_copy]; omega) hb
    rw [cl_eq q1, r_sim q2]
    refine okk_cl ((m_leadsFrom hB2 hx n (copyS S) h1 i y q2 hI'.bi hi (lDone_of n _ ok.2.2.1) (hf.le (gle_lF n _)) (fun S' hS' => st_step.2.1.trans hS') FU hn).mono fun b hb => ?_)
    obtain ⟨b1, b2⟩ := hb
    have hm := q4 _ _ b2
    have hXm := hm
    rw [b1]
    unfold tulS
    obtain ⟨S3, hS3⟩ : ∃ S3, leadF n (copyS S) i y = S3 := ⟨_, rfl⟩
    rw [hS3] at hm b2 ⊢
    by_cases cl : leads S3 i (now S3) = true
    · have h0 : (0 : Int32) ≤ now S3 := by
        refine neg5 ?_
        have : ∀ (n : Nat) (S : SS), 0 ≤ (now S).toInt → Inv S → Rest S → y.toInt ≤ 5000000 → s_gh (goOn n S y) 0 ≤ 1000000 → 0 ≤ (now (leadF n S i y)).toInt := by
          intro n
          induction n with
          | zero => intro S h _ _ _ _; exact h
          | succ n ih =>
            intro S h hI hR hy hb
            unfold leadF
            by_cases c1 : y ≤ now S
            · rw [if_pos c1]; exact h
            · rw [if_neg c1]
              by_cases c2 : leads S i (now S) = true
              · rw [if_pos c2]; exact h
              · rw [if_neg c2]
                rw [goOn_step c1] at hb
                have hb1 : s_gh (step S y) 0 ≤ 1000000 := Nat.le_trans (gle_goOn n).1 hb
                rw [i_le] at c1
                have so := step_ok (t := y) hI hR (by omega) hy hb1
                exact ih _ (by have := so.2.2.1; omega) so.1 so.2.1 hy hb
        rw [← hS3]
        exact this n (copyS S) (by rw [now_copy]; omega) hI' (Rest_copy hR) c hb
      rw [if_pos cl, if_pos cl, if_pos h0, x_sim hm hX, r_scN hm (by decide) (by decide), now_copy]
      exact ⟨_, rfl, rfl, hm⟩
    · rw [if_neg cl, if_neg cl, if_neg (by decide)]
      exact ⟨_, rfl, rfl, hm⟩
theorem x_tryWrite (hS : SP E B F R S h) (hX : R X = some (cLL bA len le (F 0) sA)) (hx : EX E) (hI : Inv S) (hR : Rest S) {i r : Nat} (hi : i < s_n S) (hr : r < 8) {n : Nat} (hn : n < FU) (hn5 : 5000 ≤ n) (hB2 : B.2 < 2 ^ 25) (hc : unfi S i = 0 → cpF B S) (hb : unfi S i = 0 → s_gh (tryW n (copyS S) i r).2 0 ≤ 1000000) (hf : unfi S i = 0 → fitB B (tryW n (copyS S) i r).2) : okk (f_X1_tryWrite (some X) (Int32.ofNat i) (Int32.ofNat r) h) (XV E B F R (if unfi S i < 0 then unfi S i else (tryW n (copyS S) i r).1) (if unfi S i < 0 then S else ctS S (tryW n (copyS S) i r).2)) := by
  unfold f_X1_tryWrite f_X1_tryWrite_B38
  rw [x_rv hS hX, cl_eq (x_nodeY hS hX hi)]
  dsimp only
  rw [cl_eq (x_regY hr)]
  dsimp only
  rw [x_rv hS hX, cl_eq (x_unfit hS hX hI.w1 hi)]
  rcases unfi_n (S := S) (i := i) with e | e
  · rw [if_neg (unfi_le e), if_pos e, if_pos e, x_rv hS hX, cl_eq (x_unfit hS hX hI.w1 hi)]
    exact ⟨_, rfl, rfl, hS⟩
  · replace hc := hc e
    replace hb := hb e
    replace hf := hf e
    rw [e, if_pos (by decide), if_neg (by decide), if_neg (by decide), x_sim hS hX, r_sim hS]
    obtain ⟨F', R', h1, q1, q2, q3, q4⟩ := hS.copy hI hc hB2
    have hbs : s_gh (send (copyS S) 4 i 3 (s_nd (copyS S) i 6) (Int32.ofNat r) 0) 0 ≤ s_gh (tryW n (copyS S) i r).2 0 := by
      rw [tryW_eq]
      by_cases c4 : s_nd (copyS S) i 4 = 0
      · rw [if_pos c4]
        by_cases c5 : tryT (copyS S) i ≤ 5000000
        · rw [if_pos c5]
          have q := (gle_goOn (S := tryC (copyS S) i r 0) (t := tryT (copyS S) i) n).1
          unfold tryC at q
          rw [gh_s20] at q
          unfold tryC
          exact q
        · rw [if_neg c5]
          exact Nat.le_refl _
      · rw [if_neg c4]
        exact Nat.le_refl _
    have hbs' := Nat.le_trans hbs hb
    have hI' := Inv_copy hI (Nat.le_trans (gle_sendS (S := copyS S)).1 hbs')
    have hd : tDone n (copyS S) i r := by
      have g : s_nd (copyS S) i 4 = 0 → tryT (copyS S) i ≤ 5000000 → gDone n (tryC (copyS S) i r 0) (tryT (copyS S) i) := by
        intro c4 c5
        rw [tryW_eq, if_pos c4, if_pos c5] at hb
        have tb := tryT_b hI' hi
        have k5 : ((5000000 : Int32)).toInt = 5000000 := by decide
        rw [i_le, k5] at c5
        have hIs : Inv (tryC (copyS S) i r 0) := (Inv_send hI' hbs' (by decide) hi (fun _ => ⟨r, hr, rfl⟩) (fun hx => by omega) (fun hx => by omega)).sc (by decide)
        have hRs : Rest (tryC (copyS S) i r 0) := (Rest_send hI' (Rest_copy hR) hi).s20
        have ens : now (tryC (copyS S) i r 0) = now (copyS S) := by
          unfold tryC
          rw [now_s20]
          exact sc_send (by decide)
        exact (goOn_ok n (tryC (copyS S) i r 0) (tryT (copyS S) i) hIs hRs c5 (by rw [ens]; omega) hb).2.2.1
      exact g
    rw [cl_eq q1, r_sim q2]
    exact okk_cl ((m_tryW hB2 hx hn q2 hI'.bi hi hr hd hf).mono fun b hb => ⟨_, rfl, by rw [hb.1], q4 _ _ hb.2⟩)
theorem x_predictRead (hS : SP E B F R S h) (hX : R X = some (cLL bA len le (F 0) sA)) (hx : EX E) (hI : Inv S) (hR : Rest S) {i r : Nat} (hi : i < s_n S) (hr : r < 8) {p : Int32} (hp : iv p 1 5000) {n : Nat} (hn : n < FU) (hn5 : 5000 ≤ n) (hB2 : B.2 < 2 ^ 25) :
    (¬ now S + p ≤ 5000000 → okk (f_X1_predictRead (some X) (Int32.ofNat i) (Int32.ofNat r) p h) (XV E B F R (-5) S)) ∧ (now S + p ≤ 5000000 → cpF B S → s_gh (goOn n (copyS S) (now S + p)) 0 ≤ 1000000 → fitB B (goOn n (copyS S) (now S + p)) → okk (f_X1_predictRead (some X) (Int32.ofNat i) (Int32.ofNat r) p h) (XV E B F R (prdS (goOn n (copyS S) (now S + p)) i r) (ctS S (goOn n (copyS S) (now S + p))))) := by
  have k5 : ((5000000 : Int32)).toInt = 5000000 := by decide
  have w := hI.2.2.2.1.1
  have w1 := w.1
  have w2 := w.2
  have p1 := hp.1
  have p2 := hp.2
  have ea : (now S + p).toInt = (now S).toInt + p.toInt := i_add (by omega) (by omega)
  have hu := x_until hS hX hp
  obtain ⟨y, hy⟩ : ∃ y, now S + p = y := ⟨_, rfl⟩
  rw [hy] at ea hu ⊢
  unfold f_X1_predictRead f_X1_predictRead_B111 f_X2_goOn
  rw [x_rv hS hX, cl_eq (x_nodeY hS hX hi)]
  dsimp only
  rw [cl_eq (x_regY hr)]
  dsimp only
  rw [x_rv hS hX]
  refine ⟨fun c => ?_, fun c hc hb hf => ?_⟩
  · rw [if_neg c] at hu
    rw [cl_eq hu]
    dsimp only
    rw [if_neg (by decide)]
    exact ⟨_, rfl, rfl, hS⟩
  · rw [if_pos c] at hu
    rw [cl_eq hu]
    dsimp only
    rw [if_pos (neg5 (by omega)), x_sim hS hX, r_sim hS]
    rw [i_le, k5] at c
    obtain ⟨F', R', h1, q1, q2, q3, q4⟩ := hS.copy hI hc hB2
    have hI' := Inv_copy hI (gh_goOn_copy hb)
    have ok := goOn_ok n (copyS S) y hI' (Rest_copy hR) c (by rw [now_copy]; omega) hb
    rw [cl_eq q1, r_sim q2]
    refine okk_cl ((m_goOn hB2 hx n _ h1 y q2 hI'.bi ok.2.2.1 hf FU hn).mono fun b hb => ?_)
    have hm := q4 _ _ hb
    obtain ⟨S3, hS3⟩ : ∃ S3, goOn n (copyS S) y = S3 := ⟨_, rfl⟩
    have n3 : s_n S3 = s_n S := by rw [← hS3]; exact st_n
    have now3 : now S3 = y := by
      rw [← hS3]
      apply Int32.toInt.inj
      have a := ok.2.2.2.2
      have b : ∀ (n : Nat) (S : SS), (now S).toInt ≤ y.toInt → Inv S → Rest S → y.toInt ≤ 5000000 → s_gh (goOn n S y) 0 ≤ 1000000 → (now (goOn n S y)).toInt ≤ y.toInt := by
        intro n
        induction n with
        | zero => intro S h _ _ _ _; exact h
        | succ n ih =>
          intro S h hI hR hy hb
          by_cases c1 : y ≤ now S
          · rw [goOn_stop c1]; exact h
          · rw [goOn_step c1] at hb ⊢
            have hb1 : s_gh (step S y) 0 ≤ 1000000 := Nat.le_trans (gle_goOn n).1 hb
            rw [i_le] at c1
            have so := step_ok (t := y) hI hR (by omega) hy hb1
            exact ih _ so.2.2.2.1 so.1 so.2.1 hy hb
      have := b n (copyS S) (by rw [now_copy]; omega) hI' (Rest_copy hR) c (by assumption)
      omega
    have w3 : W1 S3 := by rw [← hS3]; exact ok.1.w1
    rw [hS3] at hb hm ⊢
    have hi3 : i < s_n S3 := by rw [n3]; exact hi
    rw [r_refN hb (by decide) (by decide), r_nds hb hi3, r_ndN hb hi3 (by decide) (by decide)]
    unfold prdS unfi unab
    by_cases u : s_nd S3 i 2 = 0
    · rw [if_pos u]
      simp only [if_pos u]
      exact ⟨_, rfl, rfl, hm⟩
    · rw [if_neg u, r_ndv hb hi3, cl_eq (m_paused hb hi3), ← now3]
      simp only [if_neg u]
      by_cases up : paused S3 i (now S3) = true
      · simp only [if_pos up]
        exact ⟨_, rfl, rfl, hm⟩
      · simp only [if_neg up]
        rw [if_pos trivial, r_ndv hb hi3, cl_eq (m_leads hb hi3 w3)]
        by_cases ul : leads S3 i (now S3) = true
        · simp only [if_pos ul]
          rw [if_neg (show ¬ (1 : Int32) = 0 by decide), r_ndN hb hi3 (by decide) (by decide)]
          have b01 : ∀ x : Int32, ((x >>> (Int32.ofNat r &&& 31)) &&& (1 : Int32)) = 1 ↔ ¬ ((x >>> (Int32.ofNat r &&& 31)) &&& (1 : Int32)) = 0 := by
            intro x
            obtain ⟨z, hz⟩ : ∃ z, x >>> (Int32.ofNat r &&& 31) = z := ⟨_, rfl⟩
            rw [hz]
            have h2 : (z &&& (1 : Int32)).toBitVec = (BitVec.ofBool (z.toBitVec.getLsbD 0)).setWidth 32 := by
              rw [Int32.toBitVec_and]
              exact BitVec.and_one_eq_setWidth_ofBool_getLsbD
            constructor
            · intro e
              rw [e]
              decide
            · intro e
              cases hb : z.toBitVec.getLsbD 0 with
              | true =>
                rw [hb] at h2
                apply Int32.toBitVec_inj.mp
                rw [h2]
                decide
              | false =>
                rw [hb] at h2
                refine absurd ?_ e
                apply Int32.toBitVec_inj.mp
                rw [h2]
                decide
          by_cases cb : ((s_nd S3 i 9 >>> (Int32.ofNat r &&& 31)) &&& (1 : Int32)) = 0
          · have cb1 : ¬ ((s_nd S3 i 9 >>> (Int32.ofNat r &&& 31)) &&& (1 : Int32)) = 1 := fun hy => ((b01 _).mp hy) cb
            rw [if_neg cb1, if_pos cb]
            exact ⟨_, rfl, rfl, hm⟩
          · rw [if_pos ((b01 _).mpr cb), if_neg cb, r_ndcN hb hi3, r_cch hb hi3 hr]
            exact ⟨_, rfl, rfl, hm⟩
        · simp only [if_neg ul]
          exact ⟨_, rfl, rfl, hm⟩
theorem x_acquiresUntil (hS : SP E B F R S h) (hX : R X = some (cLL bA len le (F 0) sA)) (hx : EX E) (hI : Inv S) (hR : Rest S) {i : Nat} (hi : i < s_n S) {p : Int32} (hp : iv p 1 5000) {n : Nat} (hn : n < FU) (hn5 : 5000 ≤ n) (hB2 : B.2 < 2 ^ 25) :
    (¬ now S + p ≤ 5000000 → okk (f_X1_acquiresUntil (some X) (Int32.ofNat i) p h) (XV E B F R (-5) S)) ∧ (now S + p ≤ 5000000 → cpF B S → s_gh (goOn n (copyS S) (now S + p)) 0 ≤ 1000000 → fitB B (goOn n (copyS S) (now S + p)) → okk (f_X1_acquiresUntil (some X) (Int32.ofNat i) p h) (XV E B F R (s_nd (goOn n (copyS S) (now S + p)) i 11 - s_nd S i 11) (ctS S (goOn n (copyS S) (now S + p))))) := by
  have k5 : ((5000000 : Int32)).toInt = 5000000 := by decide
  have w := hI.2.2.2.1.1
  have w1 := w.1
  have w2 := w.2
  have p1 := hp.1
  have p2 := hp.2
  have ea : (now S + p).toInt = (now S).toInt + p.toInt := i_add (by omega) (by omega)
  have hu := x_until hS hX hp
  obtain ⟨y, hy⟩ : ∃ y, now S + p = y := ⟨_, rfl⟩
  rw [hy] at ea hu ⊢
  unfold f_X1_acquiresUntil f_X2_goOn
  rw [x_rv hS hX, cl_eq (x_nodeY hS hX hi)]
  dsimp only
  rw [x_rv hS hX]
  refine ⟨fun c => ?_, fun c hc hb hf => ?_⟩
  · rw [if_neg c] at hu
    rw [cl_eq hu]
    dsimp only
    rw [if_neg (by decide)]
    exact ⟨_, rfl, rfl, hS⟩
  · rw [if_pos c] at hu
    rw [cl_eq hu]
    dsimp only
    rw [if_pos (neg5 (by omega)), x_sim hS hX, r_sim hS]
    rw [i_le, k5] at c
    obtain ⟨F', R', h1, q1, q2, q3, q4⟩ := hS.copy hI hc hB2
    have hI' := Inv_copy hI (gh_goOn_copy hb)
    have ok := goOn_ok n (copyS S) y hI' (Rest_copy hR) c (by rw [now_copy]; omega) hb
    rw [cl_eq q1, r_sim q2]
    refine okk_cl ((m_goOn hB2 hx n _ h1 y q2 hI'.bi ok.2.2.1 hf FU hn).mono fun b hb => ?_)
    have hm := q4 _ _ hb
    have hi3 : i < s_n (goOn n (copyS S) y) := by rw [st_n]; exact hi
    rw [r_refN hb (by decide) (by decide), r_nds hb hi3, r_ndN hb hi3 (by decide) (by decide), r_ndN hm hi (by decide) (by decide)]
    exact ⟨_, rfl, rfl, hm⟩
end CX6
