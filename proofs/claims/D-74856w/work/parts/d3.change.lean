/-! THE COMPONENT: calls that change the simulation -/
set_option maxRecDepth 100000
section CX3
variable {E : PE} {B : Nat × Nat} {F : Nat → Nat} {R : PM} {S : SS} {h : PH} {X bA sA : Nat} {len le : Int32}
theorem W1_sc {k : Nat} {v : Int32} (h : W1 S) : W1 (u_sc S k v) := h
theorem x_lastL (hS : SP E B F R S h) (hX : R X = some (cLL bA len le (F 0) sA)) (hl : (s_lg S).length ≤ 200) {p : Int32} : ∀ (j N : Nat), j ≤ (s_lg S).length → j < N → ∀ x : Int32, x = Int32.ofNat j - 1 → f_X1_lastEventTime_L27 N (some X) p x h = some (.inr (lastT S p j), h) := by
  intro j
  induction j with
  | zero =>
    intro N h1 h2 x hx
    cases N with
    | zero => omega
    | succ N =>
      unfold f_X1_lastEventTime_L27
      rw [hx, if_pos (by decide)]
      rfl
  | succ j ih =>
    intro N h1 h2 x hx
    have ej : Int32.ofNat (j + 1) - 1 = Int32.ofNat j := by
      have k1 : ((1 : Int32)).toInt = 1 := by decide
      apply Int32.toInt_inj.mp
      rw [i_sub (by rw [of_i (by omega), k1]; omega) (by rw [of_i (by omega), k1]; omega), of_i (by omega), of_i (by omega), k1]
      omega
    rw [ej] at hx
    subst hx
    obtain ⟨e, he⟩ : ∃ e, (s_lg S)[j]? = some e := ⟨_, List.getElem?_eq_getElem (by omega)⟩
    obtain ⟨a, a1, a2, a3⟩ := lg_at hS he
    have eg : (s_lg S).getD j (0, 0, 0, 0) = e := by rw [List.getD_eq_getElem?_getD, he]; rfl
    cases N with
    | zero => omega
    | succ N =>
      unfold f_X1_lastEventTime_L27 lastT
      rw [if_neg (by rw [i_lt, of_i (by omega), show ((0 : Int32)).toInt = 0 from rfl]; omega), x_sim hS hX, r_refN hS (by decide) (by decide), r_lsv hS (by decide) (by decide), cl_eq a1, kC_at a3, gIN_at a3 a2 rfl, eg]
      by_cases c : e.2.1 = p
      · rw [if_pos c, if_pos c, x_sim hS hX, r_refN hS (by decide) (by decide), r_lsv hS (by decide) (by decide), cl_eq a1, kC_at a3, gIN_at a3 a2 rfl]
      · rw [if_neg c, if_neg c]
        refine ih N (by omega) (by omega) _ ?_
        rw [Int32.sub_eq_add_neg]
theorem x_lastEventTime (hS : SP E B F R S h) (hX : R X = some (cLL bA len le (F 0) sA)) (hl : (s_lg S).length ≤ 200) {p : Int32} (hp : iv p 1 8) : f_X1_lastEventTime (some X) p h = some (.inr (lastT S p (s_lg S).length), h) := by
  have e1 : ((1 : Int64)).toInt = 1 := by decide
  have e8 : ((8 : Int64)).toInt = 8 := by decide
  unfold f_X1_lastEventTime
  rw [cl_eq x_in, e1, e8, Int32.toInt_toInt64, if_pos (show 1 ≤ p.toInt ∧ p.toInt ≤ 8 from hp), cl_eq x_check1]
  dsimp only
  rw [x_sim hS hX, r_refN hS (by decide) (by decide), r_lsv hS (by decide) (by decide), cl_eq (r_size hS (by decide) (by decide)), len5]
  exact x_lastL hS hX hl (s_lg S).length FU (Nat.le_refl _) (by unfold FU; omega) _ rfl
theorem x_lastEventTimeN (hS : SP E B F R S h) (hB : fitB B (g_mk S 1 6)) {p : Int32} (hp : ¬ iv p 1 8) : okk (f_X1_lastEventTime (some X) p h) (XT E B F R 20 S) := by
  unfold f_X1_lastEventTime
  exact x_rng0 hS hB hp (x_on (x_check0 hS hB) (fun q h1 _ => rfl))
theorem x_nodeState (hS : SP E B F R S h) (hX : R X = some (cLL bA len le (F 0) sA)) (hI : Inv S) {i : Nat} (hi : i < s_n S) : f_X1_nodeState (some X) (Int32.ofNat i) h = some (.inr (stateS S i), h) := by
  obtain ⟨-, -, -, n2, n3, n4, -⟩ := hI.2.1 i hi
  unfold f_X1_nodeState f_X1_nodeState_B18 f_X1_nodeState_B37 f_X1_nodeState_B50 f_X1_nodeState_B64 stateS
  rw [x_rv hS hX, cl_eq (x_nodeY hS hX hi)]
  dsimp only
  have bit : ∀ (t0 : Int32) (b : Bool), b = paused S i (now S) → (gIN h (some (F (50 + i))) 5 3 fun v8 => if v8 = 0 then gIN h (some (F (50 + i))) 5 4 fun v9 => (if v9 = 0 then (some (.inr (t0 + (if b = true then 2 else 0) + 0 + 0), h) : Option (((Nat × Nat) ⊕ Int32) × PH)) else some (.inr (t0 + (if b = true then 2 else 0) + 0 + 8), h)) else gIN h (some (F (50 + i))) 5 4 fun v9 => if v9 = 0 then some (.inr (t0 + (if b = true then 2 else 0) + 4 + 0), h) else some (.inr (t0 + (if b = true then 2 else 0) + 4 + 8), h)) = some (.inr (t0 + (if b = true then 2 else 0) + 4 * s_nd S i 3 + 8 * s_nd S i 4), h) := by
    intro t0 b _
    rw [r_ndN hS hi (by decide) (by decide)]
    obtain ⟨x, hx⟩ : ∃ x : Int32, t0 + (if b = true then 2 else 0) = x := ⟨_, rfl⟩
    rw [hx]
    rcases n3 with e3 | e3
    · rw [e3, if_pos rfl, r_ndN hS hi (by decide) (by decide)]
      rcases n4 with e4 | e4
      · rw [e4, if_pos rfl]
        rfl
      · rw [e4, if_neg (by decide)]
        rfl
    · rw [e3, if_neg (by decide), r_ndN hS hi (by decide) (by decide)]
      rcases n4 with e4 | e4
      · rw [e4, if_pos rfl]
        rfl
      · rw [e4, if_neg (by decide)]
        rfl
  rw [r_ndN hS hi (by decide) (by decide)]
  have g0 := bit 0 (paused S i (now S)) rfl
  have g1 := bit 1 (paused S i (now S)) rfl
  have hp : paused S i (s_sc S 8) = paused S i (now S) := rfl
  rcases n2 with e2 | e2
  · rw [e2, if_pos rfl, x_sim hS hX, r_scN hS (by decide) (by decide), r_ndv hS hi, cl_eq (m_paused hS hi), hp]
    cases hb : paused S i (now S) with
    | true => rw [hb] at g0; exact g0
    | false => rw [hb] at g0; exact g0
  · rw [e2, if_neg (by decide), x_sim hS hX, r_scN hS (by decide) (by decide), r_ndv hS hi, cl_eq (m_paused hS hi), hp]
    cases hb : paused S i (now S) with
    | true => rw [hb] at g1; exact g1
    | false => rw [hb] at g1; exact g1
theorem x_nodeStateN (hS : SP E B F R S h) (hX : R X = some (cLL bA len le (F 0) sA)) (hB : fitB B (g_mk S 1 6)) {p : Int32} (hp : ¬ isNd S p) : okk (f_X1_nodeState (some X) p h) (XT E B F R 24 S) := by
  unfold f_X1_nodeState
  rw [x_rv hS hX]
  exact x_on (x_nodeN hS hX hB hp) (fun q h1 _ => rfl)
theorem x_campaign (hS : SP E B F R S h) (hX : R X = some (cLL bA len le (F 0) sA)) (hw : W1 S) {i : Nat} (hi : i < s_n S) (hf : fitB B (campS S i).2) (hB2 : B.2 < 2 ^ 25) : okk (f_X1_campaign (some X) (Int32.ofNat i) h) (XV E B F R (campS S i).1 (campS S i).2) := by
  unfold f_X1_campaign
  unfold campS at hf ⊢
  rw [x_rv hS hX, cl_eq (x_nodeY hS hX hi)]
  dsimp only
  rw [x_rv hS hX, cl_eq (x_unable hS hX hi)]
  rcases unab_c (S := S) (i := i) with e | e | e
  · rw [e, if_neg (by decide), if_pos (by decide), x_rv hS hX, cl_eq (x_unable hS hX hi), e]
    exact ⟨_, rfl, rfl, hS⟩
  · rw [e, if_neg (by decide), if_pos (by decide), x_rv hS hX, cl_eq (x_unable hS hX hi), e]
    exact ⟨_, rfl, rfl, hS⟩
  · rw [e, if_neg (by decide)] at hf
    rw [e, if_pos (by decide), if_neg (by decide), r_ndN hS hi (by decide) (by decide)]
    by_cases c : s_nd S i 3 = 0
    · rw [if_pos c] at hf
      rw [if_pos c, if_pos c]
      obtain ⟨h', hS', e'⟩ := w_ndZ hS (k := 3) (v := 1) hi (by decide) (by decide) (Or.inr rfl)
      rw [e', x_sim hS' hX, r_sim hS']
      exact okk_cl ((m_acquire hS' (hw.nd (by decide)) hi hf hB2).mono fun b hb => ⟨_, rfl, rfl, hb⟩)
    · rw [if_neg c, if_neg c]
      exact ⟨_, rfl, rfl, hS⟩
theorem x_restart (hS : SP E B F R S h) (hX : R X = some (cLL bA len le (F 0) sA)) {i : Nat} (hi : i < s_n S) : okk (f_X1_restart (some X) (Int32.ofNat i) h) (XV E B F R (restS S i).1 (restS S i).2) := by
  unfold f_X1_restart f_X1_restart_B25 restS
  rw [x_rv hS hX, cl_eq (x_nodeY hS hX hi)]
  dsimp only
  rw [r_ndN hS hi (by decide) (by decide)]
  obtain ⟨h', hS', e'⟩ := w_ndZ hS (k := 2) (v := 1) hi (by decide) (by decide) (Or.inr rfl)
  rw [e']
  by_cases c : s_nd S i 2 = 0
  · rw [if_pos c, if_pos c, rN_at nar01.2]
    exact ⟨_, rfl, rfl, hS'⟩
  · rw [if_neg c, if_neg c, rN_at nar01.1]
    exact ⟨_, rfl, rfl, hS'⟩
theorem x_setCut (hS : SP E B F R S h) (hX : R X = some (cLL bA len le (F 0) sA)) (hI : Inv S) {i : Nat} {v : Int32} (hi : i < s_n S) (hv : v = 0 ∨ v = 1) : okk (f_X1_setCut (some X) (Int32.ofNat i) v h) (XV E B F R (cutS S i v).1 (cutS S i v).2) := by
  obtain ⟨-, -, -, n2, n3, n4, -⟩ := hI.2.1 i hi
  unfold f_X1_setCut cutS
  rw [x_rv hS hX, cl_eq (x_nodeY hS hX hi)]
  dsimp only
  rw [r_ndN hS hi (by decide) (by decide)]
  obtain ⟨h', hS', e'⟩ := w_ndZ hS (k := 4) (v := v) hi (by decide) (by decide) hv
  rw [e']
  rcases n4 with e4 | e4
  · rw [e4, rN_at nar01.1]
    exact ⟨_, rfl, rfl, hS'⟩
  · rw [e4, rN_at nar01.2]
    exact ⟨_, rfl, rfl, hS'⟩
theorem x_crash (hS : SP E B F R S h) (hX : R X = some (cLL bA len le (F 0) sA)) {i : Nat} (hi : i < s_n S) (hf : fitB B (crashS S i).2) (hB2 : B.2 < 2 ^ 25) : okk (f_X1_crash (some X) (Int32.ofNat i) h) (XV E B F R (crashS S i).1 (crashS S i).2) := by
  unfold f_X1_crash
  unfold crashS at hf ⊢
  rw [x_rv hS hX, cl_eq (x_nodeY hS hX hi)]
  dsimp only
  rw [r_ndN hS hi (by decide) (by decide)]
  by_cases c : s_nd S i 2 = 0
  · rw [if_pos c, if_pos c]
    exact ⟨_, rfl, rfl, hS⟩
  · rw [if_neg c] at hf
    rw [if_neg c, if_neg c, r_ndN hS hi (by decide) (by decide), x_sim hS hX, r_sim hS]
    have hfn : fitB B (note S 7 (Int32.ofNat i) (s_nd S i 6)) := hf
    refine okk_cl ((m_note hS (kind := 7) (by decide) hfn hB2).mono fun b hb => ?_)
    have n1 : s_n (note S 7 (Int32.ofNat i) (s_nd S i 6)) = s_n S := cS_note.2.1
    have hi1 : i < s_n (note S 7 (Int32.ofNat i) (s_nd S i 6)) := by rw [n1]; exact hi
    rw [r_ndv hb hi1]
    refine okk_cl ((m_lose hb hi1).mono fun b2 hb2 => ?_)
    obtain ⟨h3, s3, e3⟩ := w_ndZ hb2 (k := 2) (v := 0) hi1 (by decide) (by decide) (Or.inl rfl)
    rw [e3]
    obtain ⟨h4, s4, e4⟩ := w_ndZ s3 (k := 3) (v := 0) hi1 (by decide) (by decide) (Or.inl rfl)
    rw [e4]
    obtain ⟨h5, s5, e5⟩ := w_nd s4 (k := 8) (v := -4) hi1 (by decide) (by decide)
    rw [e5]
    obtain ⟨h6, s6, e6⟩ := w_nd s5 (k := 5) (v := 0) hi1 (by decide) (by decide)
    rw [e6]
    exact ⟨_, rfl, rfl, s6⟩
theorem x_pause (hS : SP E B F R S h) (hX : R X = some (cLL bA len le (F 0) sA)) {i : Nat} {ms : Int32} (hi : i < s_n S) (hm : iv ms 1 20000) : okk (f_X1_pause (some X) (Int32.ofNat i) ms h) (XV E B F R (pauS S i ms).1 (pauS S i ms).2) := by
  have e1 : ((1 : Int64)).toInt = 1 := by decide
  have e2 : ((20000 : Int64)).toInt = 20000 := by decide
  unfold f_X1_pause pauS
  rw [x_rv hS hX, cl_eq (x_nodeY hS hX hi)]
  dsimp only
  rw [cl_eq x_in, e1, e2, Int32.toInt_toInt64, if_pos (show 1 ≤ ms.toInt ∧ ms.toInt ≤ 20000 from hm), cl_eq x_check1]
  dsimp only
  rw [r_ndN hS hi (by decide) (by decide)]
  by_cases c : s_nd S i 2 = 0
  · rw [if_pos c, if_pos c]
    exact ⟨_, rfl, rfl, hS⟩
  · rw [if_neg c, if_neg c, r_ndN hS hi (by decide) (by decide), x_sim hS hX, r_scN hS (by decide) (by decide)]
    obtain ⟨h', hS', e'⟩ := w_nd hS (k := 5) (v := mx (s_nd S i 5) (now S + ms)) hi (by decide) (by decide)
    have em : (if s_nd S i 5 < s_sc S 8 + ms then s_sc S 8 + ms else s_nd S i 5) = mx (s_nd S i 5) (now S + ms) := rfl
    rw [em, e', r_ndN hS' hi (by decide) (by decide)]
    refine ⟨_, rfl, ?_, hS'⟩
    show (Sum.inr (fu (s_nd S) i (fu (s_nd S i) 5 (mx (s_nd S i 5) (now S + ms))) i 5) : (Nat × Nat) ⊕ Int32) = _
    rw [fu_eq, fu_eq]
theorem x_pauseP (hS : SP E B F R S h) (hX : R X = some (cLL bA len le (F 0) sA)) (hB : fitB B (g_mk S 1 6)) {i : Nat} {ms : Int32} (hi : i < s_n S) (hm : ¬ iv ms 1 20000) : okk (f_X1_pause (some X) (Int32.ofNat i) ms h) (XT E B F R 20 S) := by
  unfold f_X1_pause
  rw [x_rv hS hX, cl_eq (x_nodeY hS hX hi)]
  exact x_rng0 hS hB hm (x_on (x_check0 hS hB) (fun q h1 _ => rfl))
theorem x_withdraw (hS : SP E B F R S h) (hX : R X = some (cLL bA len le (F 0) sA)) (hw : W1 S) {i : Nat} (hi : i < s_n S) (hf : fitB B (withS S i).2) (hB2 : B.2 < 2 ^ 25) : okk (f_X1_withdraw (some X) (Int32.ofNat i) h) (XV E B F R (withS S i).1 (withS S i).2) := by
  unfold f_X1_withdraw f_X1_withdraw_B67
  unfold withS at hf ⊢
  rw [x_rv hS hX, cl_eq (x_nodeY hS hX hi)]
  dsimp only
  rw [x_rv hS hX, cl_eq (x_unable hS hX hi)]
  rcases unab_c (S := S) (i := i) with e | e | e
  · rw [e, if_neg (by decide), if_pos (by decide), x_rv hS hX, cl_eq (x_unable hS hX hi), e]
    exact ⟨_, rfl, rfl, hS⟩
  · rw [e, if_neg (by decide), if_pos (by decide), x_rv hS hX, cl_eq (x_unable hS hX hi), e]
    exact ⟨_, rfl, rfl, hS⟩
  · rw [e, if_neg (by decide)] at hf
    rw [e, if_pos (by decide), if_neg (by decide), r_ndN hS hi (by decide) (by decide)]
    by_cases c : s_nd S i 3 = 0
    · rw [if_pos c, if_pos c]
      exact ⟨_, rfl, rfl, hS⟩
    · rw [if_neg c] at hf
      rw [if_neg c, if_neg c, r_ndN hS hi (by decide) (by decide)]
      obtain ⟨h1, s1, e1⟩ := w_ndZ hS (k := 3) (v := 0) hi (by decide) (by decide) (Or.inl rfl)
      rw [e1]
      obtain ⟨h2, s2, e2⟩ := w_nd s1 (k := 8) (v := -4) hi (by decide) (by decide)
      rw [e2]
      obtain ⟨S2, hS2⟩ : ∃ S2, u_nd (u_nd S i 3 0) i 8 (-4) = S2 := ⟨_, rfl⟩
      have n2 : s_n S2 = s_n S := by rw [← hS2]; rfl
      have w2 : W1 S2 := by rw [← hS2]; exact (hw.nd (by decide)).nd (by decide)
      rw [hS2] at s2 hf ⊢
      have hi2 : i < s_n S2 := by rw [n2]; exact hi
      by_cases c6 : s_nd S i 6 ≤ 0
      · rw [if_pos c6, r_ndv s2 hi2]
        simp only [if_pos c6]
        exact okk_cl ((m_lose s2 hi2).mono fun b hb => ⟨_, rfl, rfl, hb⟩)
      · rw [if_neg c6]
        simp only [if_neg c6] at hf ⊢
        have hf' : fitB B (send S2 3 i 1 (s_nd S i 6) 0 0) := hf
        have ro := roomN s2 hf'
        rw [x_sim s2 hX, r_kind s2 (by decide), nA_1 ro.1 ro.2, sI_pn0 s2.base.2.1 (by decide) (by decide), r_sim (s2.mk _ 1 ro.1 ro.2)]
        refine okk_cl ((m_sendN s2 (kind := 3) (len := 1) w2 (by decide) hi2 (by decide) ?_ ?_ ?_ hf' hB2).mono fun b hb => ?_)
        · rfl
        · rfl
        · rfl
        · have ns : s_n (send S2 3 i 1 (s_nd S i 6) 0 0) = s_n S2 := cS_send.2.1
          rw [r_ndv hb (by rw [ns]; exact hi2)]
          exact okk_cl ((m_lose hb (by rw [ns]; exact hi2)).mono fun b2 hb2 => ⟨_, rfl, rfl, hb2⟩)
end CX3
