/-! THE COMPONENT: the log, counts, bounds, caches -/
set_option maxRecDepth 100000
section CX2
variable {E : PE} {B : Nat × Nat} {F : Nat → Nat} {R : PM} {S : SS} {h : PH} {X bA sA : Nat} {len le : Int32}
theorem lg_at (hS : SP E B F R S h) {k : Nat} {e : EG} (he : (s_lg S)[k]? = some e) : ∃ q : Nat, f_J2_get (some (F 5)) (Int32.ofNat k) h = some (some q, h) ∧ pbase h ≤ q ∧ h.1 q = some (cEvt e) := by
  refine l_at hS (li := 5) (by decide) (by decide) ?_
  show ((s_lg S).map cEvt)[k]? = _
  rw [List.getElem?_map, he]
  rfl
/-- the event at a place of the log -/
theorem x_eventY (hS : SP E B F R S h) (hX : R X = some (cLL bA len le (F 0) sA)) (hl : (s_lg S).length ≤ 200) {k : Nat} {e : EG} (he : (s_lg S)[k]? = some e) : ∃ q : Nat, f_X1_event (some X) (Int32.ofNat k) h = some (.inr (some q), h) ∧ pbase h ≤ q ∧ h.1 q = some (cEvt e) := by
  have hk := get_len he
  have e0 : ((0 : Int64)).toInt = 0 := by decide
  have k1 : ((1 : Int32)).toInt = 1 := by decide
  have es : (Int32.ofNat (s_lg S).length - 1).toInt = ((s_lg S).length : Int) - 1 := by
    rw [i_sub (by rw [of_i (by omega), k1]; omega) (by rw [of_i (by omega), k1]; omega), of_i (by omega), k1]
  obtain ⟨q, q1, q2, q3⟩ := lg_at hS he
  refine ⟨q, ?_, q2, q3⟩
  unfold f_X1_event
  rw [x_sim hS hX, r_refN hS (by decide) (by decide), r_lsv hS (by decide) (by decide), cl_eq (r_size hS (by decide) (by decide)), len5, cl_eq x_in, e0, Int32.toInt_toInt64, Int32.toInt_toInt64, es, of_i (by omega), if_pos (show (0 : Int) ≤ k ∧ (k : Int) ≤ ((s_lg S).length : Int) - 1 by omega), if_neg (show ¬ (1 : Int32) = 0 by decide), x_sim hS hX, r_refN hS (by decide) (by decide), r_lsv hS (by decide) (by decide), cl_eq q1, kC_at q3]
theorem x_eventN (hS : SP E B F R S h) (hX : R X = some (cLL bA len le (F 0) sA)) (hl : (s_lg S).length ≤ 200) (hB : fitB B (g_mk S 1 6)) {p : Int32} (hp : ¬ (0 ≤ p.toInt ∧ p.toInt ≤ ((s_lg S).length : Int) - 1)) : okk (f_X1_event (some X) p h) (XT E B F R 24 S) := by
  have e0 : ((0 : Int64)).toInt = 0 := by decide
  have k1 : ((1 : Int32)).toInt = 1 := by decide
  have es : (Int32.ofNat (s_lg S).length - 1).toInt = ((s_lg S).length : Int) - 1 := by
    rw [i_sub (by rw [of_i (by omega), k1]; omega) (by rw [of_i (by omega), k1]; omega), of_i (by omega), k1]
  unfold f_X1_event
  rw [x_sim hS hX, r_refN hS (by decide) (by decide), r_lsv hS (by decide) (by decide), cl_eq (r_size hS (by decide) (by decide)), len5, cl_eq x_in, e0, Int32.toInt_toInt64, Int32.toInt_toInt64, es, if_neg hp, if_pos rfl]
  exact x_throw hS hB 24
theorem x_logTime (hS : SP E B F R S h) (hX : R X = some (cLL bA len le (F 0) sA)) (hl : (s_lg S).length ≤ 200) {k : Nat} {e : EG} (he : (s_lg S)[k]? = some e) : f_X1_logTime (some X) (Int32.ofNat k) h = some (.inr e.1, h) := by
  obtain ⟨q, q1, q2, q3⟩ := x_eventY hS hX hl he
  unfold f_X1_logTime
  rw [x_rv hS hX, cl_eq q1]
  exact gIN_at q3 q2 rfl
theorem x_logKind (hS : SP E B F R S h) (hX : R X = some (cLL bA len le (F 0) sA)) (hl : (s_lg S).length ≤ 200) {k : Nat} {e : EG} (he : (s_lg S)[k]? = some e) : f_X1_logKind (some X) (Int32.ofNat k) h = some (.inr e.2.1, h) := by
  obtain ⟨q, q1, q2, q3⟩ := x_eventY hS hX hl he
  unfold f_X1_logKind
  rw [x_rv hS hX, cl_eq q1]
  exact gIN_at q3 q2 rfl
theorem x_logNode (hS : SP E B F R S h) (hX : R X = some (cLL bA len le (F 0) sA)) (hl : (s_lg S).length ≤ 200) {k : Nat} {e : EG} (he : (s_lg S)[k]? = some e) : f_X1_logNode (some X) (Int32.ofNat k) h = some (.inr e.2.2.1, h) := by
  obtain ⟨q, q1, q2, q3⟩ := x_eventY hS hX hl he
  unfold f_X1_logNode
  rw [x_rv hS hX, cl_eq q1]
  exact gIN_at q3 q2 rfl
theorem x_logToken (hS : SP E B F R S h) (hX : R X = some (cLL bA len le (F 0) sA)) (hl : (s_lg S).length ≤ 200) {k : Nat} {e : EG} (he : (s_lg S)[k]? = some e) : f_X1_logToken (some X) (Int32.ofNat k) h = some (.inr e.2.2.2, h) := by
  obtain ⟨q, q1, q2, q3⟩ := x_eventY hS hX hl he
  unfold f_X1_logToken
  rw [x_rv hS hX, cl_eq q1]
  exact gIN_at q3 q2 rfl
theorem x_logN (hS : SP E B F R S h) (hX : R X = some (cLL bA len le (F 0) sA)) (hl : (s_lg S).length ≤ 200) (hB : fitB B (g_mk S 1 6)) {p : Int32} (hp : ¬ (0 ≤ p.toInt ∧ p.toInt ≤ ((s_lg S).length : Int) - 1)) : okk (f_X1_logTime (some X) p h) (XT E B F R 24 S) ∧ okk (f_X1_logKind (some X) p h) (XT E B F R 24 S) ∧ okk (f_X1_logNode (some X) p h) (XT E B F R 24 S) ∧ okk (f_X1_logToken (some X) p h) (XT E B F R 24 S) := by
  have g := x_eventN hS hX hl hB hp
  unfold f_X1_logTime f_X1_logKind f_X1_logNode f_X1_logToken
  rw [x_rv hS hX, x_rv hS hX, x_rv hS hX, x_rv hS hX]
  exact ⟨x_on g (fun q h1 _ => rfl), x_on g (fun q h1 _ => rfl), x_on g (fun q h1 _ => rfl), x_on g (fun q h1 _ => rfl)⟩
/-- a number within a range is checked -/
theorem x_rng0 (hS : SP E B F R S h) (hB : fitB B (g_mk S 1 6)) {γ : Type} {p : Int32} {a b : Int64} {K : Int32 → PH → Option (((Nat × Nat) ⊕ γ) × PH)} (hp : ¬ (a.toInt ≤ p.toInt ∧ p.toInt ≤ b.toInt)) (hK : okk (K 0 h) (XT E B F R 20 S)) : okk (cl_ (f_X1_in p.toInt64 a b h) K) (XT E B F R 20 S) := by
  rw [cl_eq x_in, Int32.toInt_toInt64, if_neg hp]
  exact hK
theorem x_eventCount (hS : SP E B F R S h) (hX : R X = some (cLL bA len le (F 0) sA)) {k : Nat} (h1 : 1 ≤ k) (h8 : k ≤ 8) : f_X1_eventCount (some X) (Int32.ofNat k) h = some (.inr (s_ar S 2 k), h) := by
  have e1 : ((1 : Int64)).toInt = 1 := by decide
  have e8 : ((8 : Int64)).toInt = 8 := by decide
  unfold f_X1_eventCount
  rw [cl_eq x_in, e1, e8, Int32.toInt_toInt64, of_i (by omega), if_pos (show (1 : Int) ≤ k ∧ (k : Int) ≤ 8 by omega), cl_eq x_check1]
  dsimp only
  rw [x_sim hS hX, r_refN hS (by decide) (by decide), r_arr hS (by decide) (show k < arL 7 from by unfold arL; rw [if_pos rfl]; omega)]
  rfl
theorem x_eventCountN (hS : SP E B F R S h) (hB : fitB B (g_mk S 1 6)) {p : Int32} (hp : ¬ iv p 1 8) : okk (f_X1_eventCount (some X) p h) (XT E B F R 20 S) := by
  unfold f_X1_eventCount
  exact x_rng0 hS hB hp (x_on (x_check0 hS hB) (fun q h1 _ => rfl))
theorem x_overtakingPairs (hS : SP E B F R S h) (hX : R X = some (cLL bA len le (F 0) sA)) (hb : BI S) : f_X1_overtakingPairs (some X) h = some (pairsS S, h) := by
  unfold f_X1_overtakingPairs
  rw [x_sim hS hX, r_sim hS, cl_eq (m_pairs hS hb)]
theorem x_staleL (hS : SP E B F R S h) (hX : R X = some (cLL bA len le (F 0) sA)) (hw : W1 S) : ∀ (d i N : Nat) (x : Int32), i + d = s_n S → d < N → f_X1_staleCaches_L4 N (some X) x (Int32.ofNat i) h = some (((List.range (s_n S)).drop i).foldl (fun a k => a ||| (if staleS S k = 0 then 0 else (1 : Int32) <<< (Int32.ofNat k &&& 31))) x, h) := by
  have h6 := hS.base.2.2.2
  intro d
  induction d with
  | zero =>
    intro i N x h1 h2
    cases N with
    | zero => omega
    | succ N =>
      unfold f_X1_staleCaches_L4
      rw [x_sim hS hX, r_refN hS (by decide) (by decide), r_n hS, if_pos (by rw [of_le (by omega) (by omega)]; omega), List.drop_eq_nil_of_le (by rw [List.length_range]; omega)]
      rfl
  | succ d ih =>
    intro i N x h1 h2
    have hi : i < s_n S := by omega
    cases N with
    | zero => omega
    | succ N =>
      unfold f_X1_staleCaches_L4 f_X1_staleCaches_B43
      rw [x_sim hS hX, r_refN hS (by decide) (by decide), r_n hS, if_neg (by rw [of_le (by omega) (by omega)]; omega), x_sim hS hX, x_sim hS hX, r_refN hS (by decide) (by decide), r_nds hS hi, r_sim hS, cl_eq (m_isStale hS hw hi), show (1 : Int32) = Int32.ofNat 1 from rfl, of_add]
      have ed : (List.range (s_n S)).drop i = i :: (List.range (s_n S)).drop (i + 1) := by
        rw [List.drop_eq_getElem_cons (by rw [List.length_range]; exact hi), List.getElem_range]
      rw [ed, List.foldl_cons]
      by_cases c : staleS S i = 0
      · rw [if_pos c, if_pos c]
        exact ih (i + 1) N _ (by omega) (by omega)
      · rw [if_neg c, if_neg c]
        exact ih (i + 1) N _ (by omega) (by omega)
theorem x_staleCaches (hS : SP E B F R S h) (hX : R X = some (cLL bA len le (F 0) sA)) (hw : W1 S) : f_X1_staleCaches (some X) h = some (stalesS S, h) := by
  have h6 := hS.base.2.2.2
  have := x_staleL hS hX hw (s_n S) 0 FU 0 (by omega) (by unfold FU; omega)
  rw [List.drop_zero] at this
  exact this
theorem x_boundL (hS : SP E B F R S h) : ∀ (d i N : Nat) (x : Int32), i + d = s_n S → d < N → f_X1_smallestBound_L35 N x (some (F 1)) (Int32.ofNat (s_n S)) (Int32.ofNat i) h = some (((List.range (s_n S)).drop i).foldl (fun a k => if a < ab_ (s_nd S k 20 - 1000) then ab_ (s_nd S k 20 - 1000) else a) x, h) := by
  have h6 := hS.base.2.2.2
  intro d
  induction d with
  | zero =>
    intro i N x h1 h2
    cases N with
    | zero => omega
    | succ N =>
      unfold f_X1_smallestBound_L35
      rw [if_pos (by rw [of_le (by omega) (by omega)]; omega), List.drop_eq_nil_of_le (by rw [List.length_range]; omega)]
      rfl
  | succ d ih =>
    intro i N x h1 h2
    have hi : i < s_n S := by omega
    cases N with
    | zero => omega
    | succ N =>
      unfold f_X1_smallestBound_L35
      rw [if_neg (by rw [of_le (by omega) (by omega)]; omega), r_nds hS hi, r_ndkN hS hi, gIN_at (hS.clk hi).1 (hS.clk hi).2 rfl, show (1 : Int32) = Int32.ofNat 1 from rfl, of_add]
      have ed : (List.range (s_n S)).drop i = i :: (List.range (s_n S)).drop (i + 1) := by
        rw [List.drop_eq_getElem_cons (by rw [List.length_range]; exact hi), List.getElem_range]
      rw [ed, List.foldl_cons]
      exact ih (i + 1) N _ (by omega) (by omega)
theorem x_smallestBound (hS : SP E B F R S h) (hX : R X = some (cLL bA len le (F 0) sA)) : f_X1_smallestBound (some X) h = some (bndS S, h) := by
  have h6 := hS.base.2.2.2
  unfold f_X1_smallestBound
  rw [x_sim hS hX, r_ofN hS, r_cfs hS, gIN_at hS.srv.1 hS.srv.2 rfl, x_sim hS hX, r_refN hS (by decide) (by decide), r_n hS]
  have := x_boundL hS (s_n S) 0 FU (ab_ (s_cf S 0 - 1000)) (by omega) (by unfold FU; omega)
  rw [List.drop_zero] at this
  exact this
theorem x_cntL (hS : SP E B F R S h) (hX : R X = some (cLL bA len le (F 0) sA)) (hl : (s_lg S).length ≤ 200) {p q : Int32} : ∀ (d i N : Nat) (x : Int32), i + d = (s_lg S).length → d < N → f_X1_countInLog_L28 N (some X) p q x (Int32.ofNat i) h = some (.inr (((s_lg S).drop i).foldl (fun a e => a + (if e.2.1 = p ∧ e.2.2.1 = q then 1 else 0)) x), h) := by
  intro d
  induction d with
  | zero =>
    intro i N x h1 h2
    cases N with
    | zero => omega
    | succ N =>
      unfold f_X1_countInLog_L28
      rw [x_sim hS hX, r_refN hS (by decide) (by decide), r_lsv hS (by decide) (by decide), cl_eq (r_size hS (by decide) (by decide)), len5, if_pos (by rw [of_le (by omega) (by omega)]; omega), List.drop_eq_nil_of_le (by omega)]
      rfl
  | succ d ih =>
    intro i N x h1 h2
    have hi : i < (s_lg S).length := by omega
    obtain ⟨e, he⟩ : ∃ e, (s_lg S)[i]? = some e := ⟨_, List.getElem?_eq_getElem hi⟩
    obtain ⟨a, a1, a2, a3⟩ := lg_at hS he
    cases N with
    | zero => omega
    | succ N =>
      unfold f_X1_countInLog_L28 f_X1_countInLog_B98 f_X1_countInLog_B99
      rw [x_sim hS hX, r_refN hS (by decide) (by decide), r_lsv hS (by decide) (by decide), cl_eq (r_size hS (by decide) (by decide)), len5, if_neg (by rw [of_le (by omega) (by omega)]; omega), x_sim hS hX, r_refN hS (by decide) (by decide), r_lsv hS (by decide) (by decide), cl_eq a1, kC_at a3, gIN_at a3 a2 rfl]
      have ed : (s_lg S).drop i = e :: (s_lg S).drop (i + 1) := by
        rw [List.drop_eq_getElem_cons hi]
        rw [List.getElem?_eq_getElem hi] at he
        cases he
        rfl
      rw [ed, List.foldl_cons, show (1 : Int32) = Int32.ofNat 1 from rfl, of_add]
      by_cases c : e.2.1 = p
      · rw [if_pos c, x_sim hS hX, r_refN hS (by decide) (by decide), r_lsv hS (by decide) (by decide), cl_eq a1, kC_at a3, gIN_at a3 a2 rfl]
        by_cases c2 : e.2.2.1 = q
        · rw [if_pos c2, if_pos ⟨c, c2⟩]
          exact ih (i + 1) N _ (by omega) (by omega)
        · rw [if_neg c2, if_neg (fun hy => c2 hy.2)]
          exact ih (i + 1) N _ (by omega) (by omega)
      · rw [if_neg c, if_neg (fun hy => c hy.1)]
        exact ih (i + 1) N _ (by omega) (by omega)
theorem x_countInLog (hS : SP E B F R S h) (hX : R X = some (cLL bA len le (F 0) sA)) (hl : (s_lg S).length ≤ 200) {p q : Int32} (hp : iv p 1 8) (hq : q = -1 ∨ isNd S q) : f_X1_countInLog (some X) p q h = some (.inr (cntS S p q), h) := by
  have e1 : ((1 : Int64)).toInt = 1 := by decide
  have e8 : ((8 : Int64)).toInt = 8 := by decide
  have g := x_cntL hS hX hl (p := p) (q := q) (s_lg S).length 0 FU 0 (by omega) (by unfold FU; omega)
  rw [List.drop_zero] at g
  have e : f_X1_countInLog_B11 (some X) p q h = some (.inr (cntS S p q), h) := by
    unfold f_X1_countInLog_B11
    rw [cl_eq x_in, e1, e8, Int32.toInt_toInt64, if_pos (show 1 ≤ p.toInt ∧ p.toInt ≤ 8 from hp), cl_eq x_check1]
    exact g
  unfold f_X1_countInLog
  by_cases c : q = -1
  · rw [if_pos c]
    exact e
  · obtain ⟨i, hi, rfl⟩ := isNd_of (hq.resolve_left c)
    rw [if_neg c, x_rv hS hX, cl_eq (x_nodeY hS hX hi)]
    exact e
theorem x_countInLogN (hS : SP E B F R S h) (hX : R X = some (cLL bA len le (F 0) sA)) (hB : fitB B (g_mk S 1 6)) {p q : Int32} (hq : ¬ (q = -1 ∨ isNd S q)) : okk (f_X1_countInLog (some X) p q h) (XT E B F R 24 S) := by
  unfold f_X1_countInLog
  rw [if_neg (fun hy => hq (Or.inl hy)), x_rv hS hX]
  exact x_on (x_nodeN hS hX hB (fun hy => hq (Or.inr hy))) (fun q h1 _ => rfl)
theorem x_countInLogP (hS : SP E B F R S h) (hX : R X = some (cLL bA len le (F 0) sA)) (hB : fitB B (g_mk S 1 6)) {p q : Int32} (hp : ¬ iv p 1 8) (hq : q = -1 ∨ isNd S q) : okk (f_X1_countInLog (some X) p q h) (XT E B F R 20 S) := by
  have e : okk (f_X1_countInLog_B11 (some X) p q h) (XT E B F R 20 S) := by
    unfold f_X1_countInLog_B11
    exact x_rng0 hS hB hp (x_on (x_check0 hS hB) (fun q h1 _ => rfl))
  unfold f_X1_countInLog
  by_cases c : q = -1
  · rw [if_pos c]
    exact e
  · obtain ⟨i, hi, rfl⟩ := isNd_of (hq.resolve_left c)
    rw [if_neg c, x_rv hS hX, cl_eq (x_nodeY hS hX hi)]
    exact e
end CX2
