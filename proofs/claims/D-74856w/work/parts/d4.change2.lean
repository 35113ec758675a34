/-! THE COMPONENT: calls that change the simulation (2) -/
set_option maxRecDepth 100000
section CX4
variable {E : PE} {B : Nat × Nat} {F : Nat → Nat} {R : PM} {S : SS} {h : PH} {X bA sA : Nat} {len le : Int32}
theorem x_withdrawN (hS : SP E B F R S h) (hX : R X = some (cLL bA len le (F 0) sA)) (hB : fitB B (g_mk S 1 6)) {p : Int32} (hp : ¬ isNd S p) : okk (f_X1_withdraw (some X) p h) (XT E B F R 24 S) ∧ okk (f_X1_campaign (some X) p h) (XT E B F R 24 S) ∧ okk (f_X1_crash (some X) p h) (XT E B F R 24 S) ∧ okk (f_X1_restart (some X) p h) (XT E B F R 24 S) := by
  have g := x_nodeN hS hX hB hp
  unfold f_X1_withdraw f_X1_campaign f_X1_crash f_X1_restart
  rw [x_rv hS hX, x_rv hS hX, x_rv hS hX, x_rv hS hX]
  exact ⟨x_on g (fun q h1 _ => rfl), x_on g (fun q h1 _ => rfl), x_on g (fun q h1 _ => rfl), x_on g (fun q h1 _ => rfl)⟩
theorem x_call2N (hS : SP E B F R S h) (hX : R X = some (cLL bA len le (F 0) sA)) (hB : fitB B (g_mk S 1 6)) {p q r s : Int32} (hp : ¬ isNd S p) : okk (f_X1_pause (some X) p q h) (XT E B F R 24 S) ∧ okk (f_X1_setCut (some X) p q h) (XT E B F R 24 S) ∧ okk (f_X1_planOutage (some X) p q r h) (XT E B F R 24 S) ∧ okk (f_X1_write (some X) p q r h) (XT E B F R 24 S) ∧ okk (f_X1_writeLater (some X) p q r s h) (XT E B F R 24 S) ∧ okk (f_X1_fetch (some X) p q h) (XT E B F R 24 S) ∧ okk (f_X1_read (some X) p q h) (XT E B F R 24 S) := by
  have g := x_nodeN hS hX hB hp
  unfold f_X1_pause f_X1_setCut f_X1_planOutage f_X1_write f_X1_writeLater f_X1_fetch f_X1_read
  rw [x_rv hS hX, x_rv hS hX, x_rv hS hX, x_rv hS hX, x_rv hS hX, x_rv hS hX, x_rv hS hX]
  exact ⟨x_on g (fun q h1 _ => rfl), x_on g (fun q h1 _ => rfl), x_on g (fun q h1 _ => rfl), x_on g (fun q h1 _ => rfl), x_on g (fun q h1 _ => rfl), x_on g (fun q h1 _ => rfl), x_on g (fun q h1 _ => rfl)⟩
theorem x_restartServer (hS : SP E B F R S h) (hX : R X = some (cLL bA len le (F 0) sA)) (hf : fitB B (rsvS S).2) (hB2 : B.2 < 2 ^ 25) : okk (f_X1_restartServer (some X) h) (XI E B F R (rsvS S).1 (rsvS S).2) := by
  unfold f_X1_restartServer f_X2_restartServer
  unfold rsvS at hf ⊢
  rw [x_sim hS hX, r_sim hS]
  obtain ⟨h1, s1, e1⟩ := w_sc hS (k := 12) (v := -4) (by decide) (by decide)
  have es : srvAt (u_sc S 12 (-4)) = srvAt S := by
    unfold srvAt
    rw [show now (u_sc S 12 (-4)) = now S from sc_usc (by decide), show s_cf (u_sc S 12 (-4)) = s_cf S from rfl]
  obtain ⟨y, hy⟩ : ∃ y, srvAt S + s_cf S 3 = y := ⟨_, rfl⟩
  rw [hy] at hf ⊢
  rw [e1, r_sim s1, cl_eq (r_srv s1), r_of s1, r_cf s1 (by decide) (by decide), es, show s_cf (u_sc S 12 (-4)) 3 = s_cf S 3 from rfl, hy]
  obtain ⟨h2, s2, e2⟩ := w_sc s1 (k := 15) (v := y) (by decide) (by decide)
  have e14 : s_sc (u_sc (u_sc S 12 (-4)) 15 y) 14 = s_sc S 14 := by rw [sc_usc (by decide), sc_usc (by decide)]
  rw [e2, r_sc s2 (by decide) (by decide), e14, r_sim s2]
  refine okk_cl (okk_cl ((m_note s2 (kind := 8) (by decide) hf hB2).mono fun b hb => ?_))
  rw [r_sc hb (by decide) (by decide), sc_note2, show s_sc (u_sc (u_sc S 12 (-4)) 15 y) 15 = y from fu_eq (f := s_sc (u_sc S 12 (-4))) (k := 15) (v := y)]
  exact ⟨_, rfl, _, rfl, rfl, hb⟩
theorem unfi_le {i : Nat} (e : unfi S i < 0) : ¬ (0 : Int32) ≤ unfi S i := by
  rw [i_lt] at e
  rw [i_le]
  omega
theorem x_write (hS : SP E B F R S h) (hX : R X = some (cLL bA len le (F 0) sA)) (hw : W1 S) {i r : Nat} {v : Int32} (hi : i < s_n S) (hr : r < 8) (hv : iv v 0 999999) (hf : fitB B (wrS S i r v).2) (hB2 : B.2 < 2 ^ 25) : okk (f_X1_write (some X) (Int32.ofNat i) (Int32.ofNat r) v h) (XV E B F R (wrS S i r v).1 (wrS S i r v).2) := by
  have e0 : ((0 : Int64)).toInt = 0 := by decide
  have e9 : ((999999 : Int64)).toInt = 999999 := by decide
  unfold f_X1_write
  unfold wrS at hf ⊢
  rw [x_rv hS hX, cl_eq (x_nodeY hS hX hi)]
  dsimp only
  rw [cl_eq (x_regY hr)]
  dsimp only
  rw [cl_eq x_in, e0, e9, Int32.toInt_toInt64, if_pos (show 0 ≤ v.toInt ∧ v.toInt ≤ 999999 from hv), cl_eq x_check1]
  dsimp only
  rw [x_rv hS hX, cl_eq (x_unfit hS hX hw hi)]
  rcases unfi_n (S := S) (i := i) with e | e
  · rw [if_neg (unfi_le e), if_pos e, x_rv hS hX, cl_eq (x_unfit hS hX hw hi)]
    exact ⟨_, rfl, rfl, hS⟩
  · rw [e, if_neg (by decide)] at hf
    rw [e, if_pos (by decide), if_neg (by decide), x_sim hS hX, r_kind hS (by decide)]
    have hf' : fitB B (send S 4 i 3 (s_nd S i 6) (Int32.ofNat r) v) := hf
    have ro := roomN hS hf'
    rw [nA_3 ro.1 ro.2, r_ndN (hS.mk _ 3 ro.1 ro.2) hi (by decide) (by decide), show s_nd (g_mk S 1 3) i 6 = s_nd S i 6 from rfl, sI_pn0 hS.base.2.1 (by decide) (by decide), sI_pn1 hS.base.2.1 (by decide) (by decide), sI_pn2 hS.base.2.1 (by decide) (by decide), r_sim (hS.mk _ 3 ro.1 ro.2)]
    refine okk_cl ((m_sendN hS (kind := 4) (len := 3) hw (by decide) hi (by decide) ?_ ?_ ?_ hf' hB2).mono fun b hb => ?_)
    · rfl
    · rfl
    · rfl
    · rw [r_ndN hb (by rw [cS_send.2.1]; exact hi) (by decide) (by decide), cS_send.2.2]
      exact ⟨_, rfl, rfl, hb⟩
theorem x_fetch (hS : SP E B F R S h) (hX : R X = some (cLL bA len le (F 0) sA)) (hw : W1 S) {i r : Nat} (hi : i < s_n S) (hr : r < 8) (hf : fitB B (feS S i r).2) (hB2 : B.2 < 2 ^ 25) : okk (f_X1_fetch (some X) (Int32.ofNat i) (Int32.ofNat r) h) (XV E B F R (feS S i r).1 (feS S i r).2) := by
  unfold f_X1_fetch
  unfold feS at hf ⊢
  rw [x_rv hS hX, cl_eq (x_nodeY hS hX hi)]
  dsimp only
  rw [cl_eq (x_regY hr)]
  dsimp only
  rw [x_rv hS hX, cl_eq (x_unfit hS hX hw hi)]
  rcases unfi_n (S := S) (i := i) with e | e
  · rw [if_neg (unfi_le e), if_pos e, x_rv hS hX, cl_eq (x_unfit hS hX hw hi)]
    exact ⟨_, rfl, rfl, hS⟩
  · rw [e, if_neg (by decide)] at hf
    rw [e, if_pos (by decide), if_neg (by decide), x_sim hS hX, r_kind hS (by decide)]
    have hf' : fitB B (send S 5 i 2 (s_nd S i 6) (Int32.ofNat r) 0) := hf
    have ro := roomN hS hf'
    rw [nA_2 ro.1 ro.2, r_ndN (hS.mk _ 2 ro.1 ro.2) hi (by decide) (by decide), show s_nd (g_mk S 1 2) i 6 = s_nd S i 6 from rfl, sI_pn0 hS.base.2.1 (by decide) (by decide), sI_pn1 hS.base.2.1 (by decide) (by decide), r_sim (hS.mk _ 2 ro.1 ro.2)]
    refine okk_cl ((m_sendN hS (kind := 5) (len := 2) hw (by decide) hi (by decide) ?_ ?_ ?_ hf' hB2).mono fun b hb => ?_)
    · rfl
    · rfl
    · rfl
    · rw [r_ndN hb (by rw [cS_send.2.1]; exact hi) (by decide) (by decide), cS_send.2.2]
      exact ⟨_, rfl, rfl, hb⟩
theorem x_read (hS : SP E B F R S h) (hX : R X = some (cLL bA len le (F 0) sA)) (hw : W1 S) {i r : Nat} (hi : i < s_n S) (hr : r < 8) : okk (f_X1_read (some X) (Int32.ofNat i) (Int32.ofNat r) h) (XV E B F R (rdS S i r).1 (rdS S i r).2) := by
  unfold f_X1_read f_X1_read_B85 rdS
  rw [x_rv hS hX, cl_eq (x_nodeY hS hX hi)]
  dsimp only
  rw [cl_eq (x_regY hr)]
  dsimp only
  rw [x_rv hS hX, cl_eq (x_unfit hS hX hw hi)]
  rcases unfi_n (S := S) (i := i) with e | e
  · rw [if_neg (unfi_le e), if_pos e, x_rv hS hX, cl_eq (x_unfit hS hX hw hi)]
    exact ⟨_, rfl, rfl, hS⟩
  · rw [e, if_pos (by decide), if_neg (by decide), r_ndN hS hi (by decide) (by decide)]
    by_cases c : ((s_nd S i 9 >>> (Int32.ofNat r &&& 31)) &&& (1 : Int32)) = 0
    · rw [if_pos c, if_pos c]
      exact ⟨_, rfl, rfl, hS⟩
    · rw [if_neg c, if_neg c, x_sim hS hX, r_scN hS (by decide) (by decide)]
      obtain ⟨y, hy⟩ : ∃ y, s_sc S 18 + 1 = y := ⟨_, rfl⟩
      rw [hy]
      obtain ⟨h1, s1, e1⟩ := w_sc hS (k := 18) (v := y) (by decide) (by decide)
      have a0 : s_ar (u_sc S 18 y) (arX 8) r = s_ar S 0 r := rfl
      have n0 : s_nd (u_sc S 18 y) i (30 + r) = s_nd S i (30 + r) := rfl
      rw [e1, r_ndcN s1 hi, r_cch s1 hi hr, x_sim s1 hX, r_refN s1 (by decide) (by decide), r_stoN0 s1, r_arr s1 (k := 8) (by decide) (show r < arL 8 from hr), a0, n0]
      by_cases c2 : s_nd S i (30 + r) = s_ar S 0 r
      · rw [if_pos c2, if_pos c2, r_ndcN s1 hi, r_cch s1 hi hr, n0]
        exact ⟨_, rfl, rfl, s1⟩
      · rw [if_neg c2, if_neg c2, x_sim s1 hX, r_scN s1 (by decide) (by decide), sc_usc (by decide)]
        obtain ⟨z, hz⟩ : ∃ z, s_sc S 19 + 1 = z := ⟨_, rfl⟩
        rw [hz]
        obtain ⟨h2, s2, e2⟩ := w_sc s1 (k := 19) (v := z) (by decide) (by decide)
        rw [e2, r_ndcN s2 hi, r_cch s2 hi hr]
        exact ⟨_, rfl, rfl, s2⟩
theorem i_out {N : Nat} {a b c : Int32} (hb : pbase h ≤ pn h) : f_X20_init (pn h) a b c (p_new h (.inr (17, [.int 0, .int 0, .int 0])) N) = some ((), p_new h (.inr (17, [.int a, .int b, .int c])) N) := by
  unfold f_X20_init
  rw [pV_at (h := p_new h _ N) pn_at hb (Nat.le_of_ble_eq_true rfl), ps_pn, pV_at (h := p_new h _ N) pn_at hb (Nat.le_of_ble_eq_true rfl), ps_pn, pV_at (h := p_new h _ N) pn_at hb (Nat.le_of_ble_eq_true rfl), ps_pn]
  rfl
theorem i_del {N : Nat} {a b c d e : Int32} (hb : pbase h ≤ pn h) : f_X21_init (pn h) a b c d e (p_new h (.inr (18, [.int 0, .int 0, .int 0, .int 0, .int 0])) N) = some ((), p_new h (.inr (18, [.int a, .int b, .int c, .int d, .int e])) N) := by
  unfold f_X21_init
  rw [pV_at (h := p_new h _ N) pn_at hb (Nat.le_of_ble_eq_true rfl), ps_pn, pV_at (h := p_new h _ N) pn_at hb (Nat.le_of_ble_eq_true rfl), ps_pn, pV_at (h := p_new h _ N) pn_at hb (Nat.le_of_ble_eq_true rfl), ps_pn, pV_at (h := p_new h _ N) pn_at hb (Nat.le_of_ble_eq_true rfl), ps_pn, pV_at (h := p_new h _ N) pn_at hb (Nat.le_of_ble_eq_true rfl), ps_pn]
  rfl
theorem x_planOutage (hS : SP E B F R S h) (hX : R X = some (cLL bA len le (F 0) sA)) (hl : (s_ou S).length ≤ 20) {i : Nat} {ms du : Int32} (hi : i < s_n S) (hm : iv ms 1 20000) (hd : iv du 1 20000) (hf : fitB B (ouS S i ms du).2) (hB2 : B.2 < 2 ^ 25) : okk (f_X1_planOutage (some X) (Int32.ofNat i) ms du h) (XV E B F R (ouS S i ms du).1 (ouS S i ms du).2) := by
  have e1 : ((1 : Int64)).toInt = 1 := by decide
  have e2 : ((20000 : Int64)).toInt = 20000 := by decide
  unfold f_X1_planOutage f_X1_planOutage_B35
  unfold ouS at hf ⊢
  rw [x_rv hS hX, cl_eq (x_nodeY hS hX hi)]
  dsimp only
  rw [cl_eq x_in, e1, e2, Int32.toInt_toInt64, if_pos (show 1 ≤ ms.toInt ∧ ms.toInt ≤ 20000 from hm), if_neg (show ¬ (1 : Int32) = 0 by decide), cl_eq x_in, e1, e2, Int32.toInt_toInt64, if_pos (show 1 ≤ du.toInt ∧ du.toInt ≤ 20000 from hd), if_neg (show ¬ (1 : Int32) = 0 by decide), cl_eq x_check1]
  dsimp only
  rw [x_sim hS hX, r_refN hS (by decide) (by decide), r_lsv hS (by decide) (by decide), cl_eq (r_size hS (by decide) (by decide)), len4]
  by_cases c : (s_ou S).length = 20
  · rw [if_pos c, if_pos (show Int32.ofNat (s_ou S).length = 20 by rw [c]; rfl)]
    exact ⟨_, rfl, rfl, hS⟩
  · have hne : ¬ Int32.ofNat (s_ou S).length = 20 := fun hy => c (by
      have := congrArg Int32.toInt hy
      rw [of_i (by omega), show ((20 : Int32)).toInt = 20 from rfl] at this
      omega)
    rw [if_neg c] at hf
    rw [if_neg c, if_neg hne, x_sim hS hX, r_scN hS (by decide) (by decide), x_sim hS hX, r_refN hS (by decide) (by decide)]
    obtain ⟨y, hy⟩ : ∃ y, now S + ms = y := ⟨_, rfl⟩
    obtain ⟨z, hz⟩ : ∃ z, y + du = z := ⟨_, rfl⟩
    rw [hy, hz] at hf ⊢
    have hle : gle (g_mk S 1 3) (u_ou (g_add (g_mk S 1 3) 4 (s_ou S).length) (s_ou S ++ [(i, y, z)])) := gle_add (S := g_mk S 1 3)
    have hf1 := hf.le hle
    have rm := hS.room
    have ro1 : 1 ≤ pcl h := by have := hf1.1; rw [gh_mk0] at this; have := rm.1; omega
    have ro2 : 3 ≤ psl h := by have := hf1.2; rw [gh_mk1] at this; have := rm.2; omega
    rw [nO_at ro1 ro2, cl_eq (i_out hS.base.2.1), r_lsv (hS.mk _ 3 ro1 ro2) (by decide) (by decide)]
    refine okk_cl ((l_addn hS (S' := u_ou (g_add (g_mk S 1 3) 4 (s_ou S).length) (s_ou S ++ [(i, y, z)])) (li := 4) (N := 3) (by decide) (by decide) ?_ ?_ ?_ (by decide) hf hB2).mono fun b hb => ⟨_, rfl, rfl, hb⟩)
    · rw [len4]
      exact ⟨rfl, rfl, rfl, rfl, rfl, rfl⟩
    · show (s_ou S ++ [(i, y, z)]).map cOut = (s_ou S).map cOut ++ [cOut (i, y, z)]
      rw [List.map_append]; rfl
    · intro k k1 k2 k3
      have : k = 2 ∨ k = 3 ∨ k = 5 := by omega
      rcases this with rfl | rfl | rfl <;> rfl
theorem x_planOutageP (hS : SP E B F R S h) (hX : R X = some (cLL bA len le (F 0) sA)) (hB : fitB B (g_mk S 1 6)) {i : Nat} {ms du : Int32} (hi : i < s_n S) (hm : ¬ (iv ms 1 20000 ∧ iv du 1 20000)) : okk (f_X1_planOutage (some X) (Int32.ofNat i) ms du h) (XT E B F R 20 S) := by
  have e1 : ((1 : Int64)).toInt = 1 := by decide
  have e2 : ((20000 : Int64)).toInt = 20000 := by decide
  have g : okk (f_X1_planOutage_B35 (some X) (Int32.ofNat i) ms du 0 h) (XT E B F R 20 S) := by
    unfold f_X1_planOutage_B35
    exact x_on (x_check0 hS hB) (fun q h1 _ => rfl)
  unfold f_X1_planOutage f_X1_planOutage_B34
  rw [x_rv hS hX, cl_eq (x_nodeY hS hX hi)]
  dsimp only
  rw [cl_eq x_in, e1, e2, Int32.toInt_toInt64]
  by_cases c : iv ms 1 20000
  · rw [if_pos (show 1 ≤ ms.toInt ∧ ms.toInt ≤ 20000 from c), if_neg (show ¬ (1 : Int32) = 0 by decide), cl_eq x_in, e1, e2, Int32.toInt_toInt64, if_neg (show ¬ (1 ≤ du.toInt ∧ du.toInt ≤ 20000) from fun hy => hm ⟨c, hy⟩), if_pos rfl]
    exact g
  · rw [if_neg (show ¬ (1 ≤ ms.toInt ∧ ms.toInt ≤ 20000) from c), if_pos rfl]
    exact g
theorem x_writeLater (hS : SP E B F R S h) (hX : R X = some (cLL bA len le (F 0) sA)) (hw : W1 S) (hl : (s_dl S).length ≤ 20) {i r : Nat} {v ms : Int32} (hi : i < s_n S) (hr : r < 8) (hv : iv v 0 999999) (hm : iv ms 1 20000) (hf : fitB B (wlS S i r v ms).2) (hB2 : B.2 < 2 ^ 25) : okk (f_X1_writeLater (some X) (Int32.ofNat i) (Int32.ofNat r) v ms h) (XV E B F R (wlS S i r v ms).1 (wlS S i r v ms).2) := by
  have e0 : ((0 : Int64)).toInt = 0 := by decide
  have e9 : ((999999 : Int64)).toInt = 999999 := by decide
  have e1 : ((1 : Int64)).toInt = 1 := by decide
  have e2 : ((20000 : Int64)).toInt = 20000 := by decide
  unfold f_X1_writeLater f_X1_writeLater_B41
  unfold wlS at hf ⊢
  rw [x_rv hS hX, cl_eq (x_nodeY hS hX hi)]
  dsimp only
  rw [cl_eq (x_regY hr)]
  dsimp only
  rw [cl_eq x_in, e0, e9, Int32.toInt_toInt64, if_pos (show 0 ≤ v.toInt ∧ v.toInt ≤ 999999 from hv), if_neg (show ¬ (1 : Int32) = 0 by decide), cl_eq x_in, e1, e2, Int32.toInt_toInt64, if_pos (show 1 ≤ ms.toInt ∧ ms.toInt ≤ 20000 from hm), if_neg (show ¬ (1 : Int32) = 0 by decide), cl_eq x_check1]
  dsimp only
  rw [x_rv hS hX, cl_eq (x_unfit hS hX hw hi)]
  rcases unfi_n (S := S) (i := i) with e | e
  · rw [if_neg (unfi_le e), if_pos e, x_rv hS hX, cl_eq (x_unfit hS hX hw hi)]
    exact ⟨_, rfl, rfl, hS⟩
  · rw [e, if_neg (by decide)] at hf
    rw [e, if_pos (by decide), if_neg (by decide), x_sim hS hX, r_refN hS (by decide) (by decide), r_lsv hS (by decide) (by decide), cl_eq (r_size hS (by decide) (by decide)), len3]
    by_cases c : (s_dl S).length = 20
    · rw [if_pos c, if_pos (show Int32.ofNat (s_dl S).length = 20 by rw [c]; rfl)]
      exact ⟨_, rfl, rfl, hS⟩
    · have hne : ¬ Int32.ofNat (s_dl S).length = 20 := fun hy => c (by
        have := congrArg Int32.toInt hy
        rw [of_i (by omega), show ((20 : Int32)).toInt = 20 from rfl] at this
        omega)
      rw [if_neg c] at hf
      rw [if_neg c, if_neg hne, x_sim hS hX, r_refN hS (by decide) (by decide)]
      obtain ⟨y, hy⟩ : ∃ y, now S + ms = y := ⟨_, rfl⟩
      rw [hy] at hf ⊢
      have hle : gle (g_mk S 1 5) (u_dl (g_add (g_mk S 1 5) 3 (s_dl S).length) (s_dl S ++ [(i, s_nd S i 6, r, v, y)])) := gle_add (S := g_mk S 1 5)
      have hf1 := hf.le hle
      have rm := hS.room
      have ro1 : 1 ≤ pcl h := by have := hf1.1; rw [gh_mk0] at this; have := rm.1; omega
      have ro2 : 5 ≤ psl h := by have := hf1.2; rw [gh_mk1] at this; have := rm.2; omega
      have hm5 := hS.mk (.inr (18, [.int 0, .int 0, .int 0, .int 0, .int 0])) 5 ro1 ro2
      have hX5 : (if X = pn h then some (.inr (18, [.int 0, .int 0, .int 0, .int 0, .int 0])) else R X) = some (cLL bA len le (F 0) sA) := by
        rw [if_neg (Nat.ne_of_lt (hS.tr hX).2)]; exact hX
      rw [nO_at ro1 ro2, r_ndN hm5 hi (by decide) (by decide), show s_nd (g_mk S 1 5) i 6 = s_nd S i 6 from rfl, x_sim hm5 hX5, r_scN hm5 (by decide) (by decide), show s_sc (g_mk S 1 5) 8 + ms = y from hy, cl_eq (i_del hS.base.2.1), r_lsv (hS.mk _ 5 ro1 ro2) (by decide) (by decide)]
      refine okk_cl ((l_addn hS (S' := u_dl (g_add (g_mk S 1 5) 3 (s_dl S).length) (s_dl S ++ [(i, s_nd S i 6, r, v, y)])) (li := 3) (N := 5) (by decide) (by decide) ?_ ?_ ?_ (by decide) hf hB2).mono fun b hb => ?_)
      · rw [len3]
        exact ⟨rfl, rfl, rfl, rfl, rfl, rfl⟩
      · show (s_dl S ++ [(i, s_nd S i 6, r, v, y)]).map cDel = (s_dl S).map cDel ++ [cDel (i, s_nd S i 6, r, v, y)]
        rw [List.map_append]; rfl
      · intro k k1 k2 k3
        have : k = 2 ∨ k = 4 ∨ k = 5 := by omega
        rcases this with rfl | rfl | rfl <;> rfl
      · rw [r_ndN hb hi (by decide) (by decide)]
        exact ⟨_, rfl, rfl, hb⟩
/-- a wrong register, a wrong value -/
theorem x_regP (hS : SP E B F R S h) (hX : R X = some (cLL bA len le (F 0) sA)) (hB : fitB B (g_mk S 1 6)) {i : Nat} {p q s : Int32} (hi : i < s_n S) (hp : ¬ iv p 0 7) : okk (f_X1_write (some X) (Int32.ofNat i) p q h) (XT E B F R 20 S) ∧ okk (f_X1_writeLater (some X) (Int32.ofNat i) p q s h) (XT E B F R 20 S) ∧ okk (f_X1_fetch (some X) (Int32.ofNat i) p h) (XT E B F R 20 S) ∧ okk (f_X1_read (some X) (Int32.ofNat i) p h) (XT E B F R 20 S) := by
  have g := x_regN hS hB hp
  unfold f_X1_write f_X1_writeLater f_X1_fetch f_X1_read
  rw [x_rv hS hX, cl_eq (x_nodeY hS hX hi), x_rv hS hX, cl_eq (x_nodeY hS hX hi), x_rv hS hX, cl_eq (x_nodeY hS hX hi), x_rv hS hX, cl_eq (x_nodeY hS hX hi)]
  exact ⟨x_on g (fun q h1 _ => rfl), x_on g (fun q h1 _ => rfl), x_on g (fun q h1 _ => rfl), x_on g (fun q h1 _ => rfl)⟩
theorem x_writeP (hS : SP E B F R S h) (hX : R X = some (cLL bA len le (F 0) sA)) (hB : fitB B (g_mk S 1 6)) {i r : Nat} {q : Int32} (hi : i < s_n S) (hr : r < 8) (hq : ¬ iv q 0 999999) : okk (f_X1_write (some X) (Int32.ofNat i) (Int32.ofNat r) q h) (XT E B F R 20 S) := by
  unfold f_X1_write
  rw [x_rv hS hX, cl_eq (x_nodeY hS hX hi)]
  dsimp only
  rw [cl_eq (x_regY hr)]
  exact x_rng0 hS hB hq (x_on (x_check0 hS hB) (fun q h1 _ => rfl))
theorem x_writeLaterP (hS : SP E B F R S h) (hX : R X = some (cLL bA len le (F 0) sA)) (hB : fitB B (g_mk S 1 6)) {i r : Nat} {q s : Int32} (hi : i < s_n S) (hr : r < 8) (hq : ¬ (iv q 0 999999 ∧ iv s 1 20000)) : okk (f_X1_writeLater (some X) (Int32.ofNat i) (Int32.ofNat r) q s h) (XT E B F R 20 S) := by
  have e0 : ((0 : Int64)).toInt = 0 := by decide
  have e9 : ((999999 : Int64)).toInt = 999999 := by decide
  have e1 : ((1 : Int64)).toInt = 1 := by decide
  have e2 : ((20000 : Int64)).toInt = 20000 := by decide
  have g : okk (f_X1_writeLater_B41 (some X) (Int32.ofNat i) (Int32.ofNat r) q s (some (F (50 + i))) 0 h) (XT E B F R 20 S) := by
    unfold f_X1_writeLater_B41
    exact x_on (x_check0 hS hB) (fun q h1 _ => rfl)
  unfold f_X1_writeLater f_X1_writeLater_B40
  rw [x_rv hS hX, cl_eq (x_nodeY hS hX hi)]
  dsimp only
  rw [cl_eq (x_regY hr)]
  dsimp only
  rw [cl_eq x_in, e0, e9, Int32.toInt_toInt64]
  by_cases c : iv q 0 999999
  · rw [if_pos (show 0 ≤ q.toInt ∧ q.toInt ≤ 999999 from c), if_neg (show ¬ (1 : Int32) = 0 by decide), cl_eq x_in, e1, e2, Int32.toInt_toInt64, if_neg (show ¬ (1 ≤ s.toInt ∧ s.toInt ≤ 20000) from fun hy => hq ⟨c, hy⟩), if_pos rfl]
    exact g
  · rw [if_neg (show ¬ (0 ≤ q.toInt ∧ q.toInt ≤ 999999) from c), if_pos rfl]
    exact g
end CX4
