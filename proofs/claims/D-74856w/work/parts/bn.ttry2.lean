/-! THE TWIN: tryWrite (2) -/
set_option maxRecDepth 100000
section TT2
variable {A : Nat → Nat} {h : PH} {S : SS}
/-- the copy with the tried message, of the value v -/
def tryC (S : SS) (i r : Nat) (v : Int32) : SS := u_sc (send S 4 i 3 (s_nd S i 6) (Int32.ofNat r) v) 20 (s_sc (send S 4 i 3 (s_nd S i 6) (Int32.ofNat r) v) 10)
def tryT (S : SS) (i : Nat) : Int32 := now S + s_nd S i 1 + jit (lcg (s_sc S 9)) (s_cf S 7)
theorem sent10 {k n l : Nat} {a b c : Int32} : s_sc (send S k n l a b c) 10 = s_sc S 10 + 1 := by
  obtain ⟨x, hx⟩ : ∃ x, lcg (s_sc S 9) = x := ⟨_, rfl⟩
  obtain ⟨y, hy⟩ : ∃ y, s_sc S 10 + 1 = y := ⟨_, rfl⟩
  have g : ∀ X : SS, s_sc (u_sc X 10 y) 10 = y := fun X => fu_eq (f := s_sc X) (k := 10) (v := y)
  unfold send
  dsimp only
  rw [hx, hy]
  by_cases c4 : s_nd S n 4 = 0
  · rw [if_pos c4]
    exact g (u_sc (g_mk S 1 l) 9 x)
  · rw [if_neg c4, sc_usc (by decide)]
    exact g _
theorem er_tryC {i r : Nat} {v : Int32} : er (tryC S i r v) = er (tryC S i r 0) := by
  unfold tryC
  rw [er_sc, er_sc, er_send, er_send, sent10, sent10]
theorem tryT_b (hI : Inv S) {i : Nat} (hi : i < s_n S) : (now S).toInt < (tryT S i).toInt ∧ (tryT S i).toInt ≤ (now S).toInt + 2000 := by
  have hd := (hI.2.1 i hi).2.2.1
  have hc := hI.1.2.2.2.2.2.2.1
  have hx := lcg_b hI.2.2.2.1.2.1
  have hj := jit_b hx hc.1 hc.2
  have w := hI.2.2.2.1.1
  have w1 := w.1
  have w2 := w.2
  have d1 := hd.1
  have d2 := hd.2
  have c2 := hc.2
  have e1 : (now S + s_nd S i 1).toInt = (now S).toInt + (s_nd S i 1).toInt := i_add (by omega) (by omega)
  obtain ⟨x, ex⟩ : ∃ x, jit (lcg (s_sc S 9)) (s_cf S 7) = x := ⟨_, rfl⟩
  rw [ex] at hj
  have e2 : (now S + s_nd S i 1 + x).toInt = (now S).toInt + (s_nd S i 1).toInt + x.toInt := by
    rw [i_add (by rw [e1]; omega) (by rw [e1]; omega), e1]
  unfold tryT
  rw [ex, e2]
  omega
theorem send_ms {k n l : Nat} {a b c : Int32} (h4 : s_nd S n 4 = 0) : s_ms (send S k n l a b c) = s_ms S ++ [mSend S k n a b c] := by
  unfold send
  dsimp only
  rw [if_pos h4]
  rfl
theorem send_cut {k n l : Nat} {a b c : Int32} (h4 : ¬ s_nd S n 4 = 0) : s_ms (send S k n l a b c) = s_ms S := by
  unfold send
  dsimp only
  rw [if_neg h4]
  rfl
theorem Rest_send {k n l : Nat} {a b c : Int32} (hI : Inv S) (hR : Rest S) (hn : n < s_n S) : Rest (send S k n l a b c) := by
  have mx := MX_send (k := k) (l := l) (a := a) (b := b) (c := c) hI hn
  have lk := LK_send (S := S) (k := k) (n := n) (l := l) (a := a) (b := b) (c := c)
  have cs := cS_send (S := S) (k := k) (n := n) (l := l) (a := a) (b := b) (c := c)
  have en : (now (send S k n l a b c)).toInt = (now S).toInt := now_LK lk
  refine ⟨?_, ?_, ?_, ?_⟩
  · rw [en]; exact mx.pl hR.1
  · rw [en, lk.1]; exact hR.2.1
  · rw [en, lk.2.1]; exact hR.2.2.1
  · rw [en, cs.2.1, cs.2.2]; exact hR.2.2.2
theorem tryW_eq {n i r : Nat} : tryW n S i r = if s_nd S i 4 = 0 then (if tryT S i ≤ 5000000 then (s_sc (goOn n (tryC S i r 0) (tryT S i)) 21, goOn n (tryC S i r 0) (tryT S i)) else (-5, send S 4 i 3 (s_nd S i 6) (Int32.ofNat r) 0)) else (2, send S 4 i 3 (s_nd S i 6) (Int32.ofNat r) 0) := rfl
theorem er_ghE : s_gh (er S) = s_gh S := rfl
theorem Rest.s20 {v : Int32} (h : Rest S) : Rest (u_sc S 20 v) := h
theorem now_s20 {v : Int32} : now (u_sc S 20 v) = now S := sc_usc (by decide)
theorem ms_s20 {v : Int32} : s_ms (u_sc S 20 v) = s_ms S := rfl
theorem sc_s20 {v : Int32} : s_sc (u_sc S 20 v) 20 = v := fu_eq (f := s_sc S) (k := 20) (v := v)
theorem gh_s20 {v : Int32} : s_gh (u_sc S 20 v) = s_gh S := rfl
theorem t_tryWrite (hA : TA A h) {p2 : Int32 × Int32} {S2 : SS} {T : TS} {L : List MG} (hr : TR (true, p2) S (L.map some) (q_w T)) (hr2 : TR (true, p2) S2 (L.map some) (q_w T)) (hI : Inv S2) (hR : Rest S2) (hv : VQ nv S2) (hvm : ∀ m ∈ s_ms S2, nv m.2.2.2.2.2.1) {i r : Nat} (hi : i < s_n S2) (hr8 : r < 8) {n : Nat} (hn : n < FU) (hn5 : 5000 ≤ n) (hl : (s_ms S2).length ≤ 5999)
    (hb : unfi S2 i = 0 → s_gh (tryW n S2 i r).2 0 ≤ 1000000) (hm : unfi S2 i = 0 → s_nd S2 i 4 = 0 → tryT S2 i ≤ 5000000 → msB n (tryC S2 i r 0) (tryT S2 i)) :
    TD A T h 0 (if unfi S2 i < 0 then unfi S2 i else (tryW n S2 i r).1) S (f_X7_tryWrite (some (A 0)) (Int32.ofNat i) (Int32.ofNat r) (tw A T h)) := by
  have h6 := hI.2.2.1.2
  have hW := hI.2.2.2.1.1
  have w1 := hW.1
  have w2 := hW.2
  have hN := hI.2.1 i hi
  have k5 : ((5000000 : Int32)).toInt = 5000000 := by decide
  have hr0 : TR (true, p2) S2 (L.map some) (q_w (x_sc T 1 0)) := hr2
  have hLl : L.length = (s_ms S2).length := (perm_of hr2).length_eq
  unfold f_X7_tryWrite f_X7_tryWrite_B21
  rw [t_rv, cl_eq ((t_noNd hA hr2.1 hI.2.2.1.1).1 (isNd_in hi h6)), if_pos rfl, cl_eq (t_isReg hr8), if_neg (show ¬ (1 : Int32) = 0 by decide), t_rv, cl_eq (t_throws0 rfl q10), if_pos rfl, t_rv, cl_eq (t_refusalL hA hr0.1 hN hW hi)]
  rcases unfi_n (S := S2) (i := i) with e | e
  · rw [if_neg (lt_ne e), if_pos e, t_rv, cl_eq (t_refusalL hA hr0.1 hN hW hi)]
    exact (TC_q hr).td
  · replace hb := hb e
    replace hm := hm e
    rw [e, if_pos rfl, if_neg (show ¬ (0 : Int32) < 0 by decide), t_rv, cl_eq (t_putsAside hA), q_assc, q_wsc]
    obtain ⟨T1, hT1⟩ : ∃ T1, x_as (x_sc T 1 0) (ovW (q_as T) (q_w T) 73136) = T1 := ⟨_, rfl⟩
    have r1 : TR (true, p2) S2 (L.map some) (q_w T1) := by rw [← hT1]; exact hr2
    have qT : TQ T T1 := by rw [← hT1]; exact TQ.as TQ.rf
    have qa : q_as T1 = ovW (q_as T) (q_w T) 73136 := by rw [← hT1]; rfl
    have q1 : q_sc T1 1 = 0 := by rw [← hT1]; exact q10
    have e20 : q_w T1 20 = Int32.ofNat L.length := by
      have := r1.2.1.1
      rw [List.length_map] at this
      exact this
    rw [hT1, t_rW, t_aW hA 20 20 rfl (by decide), e20, t_rv, cl_eq (t_ofN hA r1.1 7 7 rfl hi (by decide)), show tnd (s_nd S2 i) 7 = s_nd S2 i 6 from rfl, t_rv]
    obtain ⟨w2', Pl2, g1, g2, ⟨l, g3, -⟩, g5⟩ := t_sends (T := T1) (kind := 4) (node := i) (len := 3) (a := s_nd S2 i 6) (b := Int32.ofNat r) (c := -7) (tok := s_nd S2 i 6) (num := Int32.ofNat r) (val := -7) hA r1 hI.si (by rw [List.length_map]; omega) hi rfl rfl (fun _ => rfl)
    rw [cl_eq (show f_X7_sends (some (A 0)) 3 _ _ _ _ _ = _ from g1)]
    rw [g3, ← List.map_append] at g2
    have e20' : w2' 20 = Int32.ofNat (L.length + l.length) := by
      have := g2.2.1.1
      rw [List.length_map, List.length_append] at this
      exact this
    have hp2 := perm_of g2
    have qT2 : ∀ o : Int32, TQ T (x_sc (x_w T1 w2') 14 o) := fun o => by
      refine ⟨qT.1, qT.2.1, qT.2.2.1, ?_, ?_⟩
      · show fu (q_sc T1) 14 o 3 = _
        rw [fu_ne (by decide)]; exact qT.2.2.2.1
      · show fu (q_sc T1) 14 o 8 = _
        rw [fu_ne (by decide)]; exact qT.2.2.2.2
    have q12 : ∀ o : Int32, q_sc (x_sc (x_w T1 w2') 14 o) 1 = 0 := fun o => by
      show fu (q_sc T1) 14 o 1 = _
      rw [fu_ne (by decide)]; exact q1
    rw [t_rW, t_aW hA 20 20 rfl (by decide), q_xw, e20']
    unfold f_X7_tryWrite_B103 f_X7_tryWrite_B131 f_X7_tryWrite_B145
    rw [tryW_eq] at hb ⊢
    by_cases h4 : s_nd S2 i 4 = 0
    · rw [if_pos h4] at hb ⊢
      have tb := tryT_b hI hi
      have htm : (mSend S2 4 i (s_nd S2 i 6) (Int32.ofNat r) (-7)).2.2.2.2.2.2 = tryT S2 i := rfl
      obtain ⟨tt, htt⟩ : ∃ x, tryT S2 i = x := ⟨_, rfl⟩
      rw [htt] at hb hm tb htm ⊢
      have hs := send_ms (k := 4) (l := 3) (a := s_nd S2 i 6) (b := Int32.ofNat r) (c := -7) h4
      have hl1 : l = [mSend S2 4 i (s_nd S2 i 6) (Int32.ofNat r) (-7)] := by
        rw [hs] at hp2
        have := hp2.trans ((perm_of hr2).symm.append_right _)
        exact List.perm_singleton.mp ((List.perm_append_left_iff _).mp this)
      rw [hl1] at g2
      have hpl : (((L ++ [mSend S2 4 i (s_nd S2 i 6) (Int32.ofNat r) (-7)]).map some)[L.length]? : Option (Option MG)) = some (some (mSend S2 4 i (s_nd S2 i 6) (Int32.ofNat r) (-7))) := by
        rw [List.getElem?_map, List.getElem?_append_right (Nat.le_refl _), Nat.sub_self]
        rfl
      have earr : w2' (1136 + 6 * L.length + 2) = tt := by
        have := ((g2.2.1.2.2 L.length).1 _ hpl).2.2.1
        rw [show 1136 + 6 * L.length + 2 = 1138 + 6 * L.length from by omega, this, htm]
      have hlen5 : L.length ≤ 5999 := by rw [hLl]; exact hl
      rw [hl1, if_neg (show ¬ Int32.ofNat (L.length + [mSend S2 4 i (s_nd S2 i 6) (Int32.ofNat r) (-7)].length) ≤ Int32.ofNat L.length by rw [of_le (by simp; omega) (by omega)]; simp), t_rW, t_aW hA (((1136 : Int32) + ((6 : Int32) * Int32.ofNat L.length)) + (2 : Int32)) (1136 + 6 * L.length + 2) (ix6 rfl) (by omega), q_xw, earr, t_pV hA (by decide)]
      have hne4 : ¬ tt = -4 := fun hx => by
        rw [hx] at tb
        have : ((-4 : Int32)).toInt = -4 := by decide
        omega
      rw [if_neg hne4]
      by_cases h5 : tt ≤ 5000000
      · rw [if_pos h5] at hb ⊢
        have h5' := h5
        rw [i_le, k5] at h5'
        have h6' : ¬ (5000000 : Int32) < tt := by rw [i_lt, k5]; omega
        rw [if_neg h6', t_rv]
        replace hm := hm h4 h5
        have hbc : s_gh (goOn n (tryC S2 i r 0) (tt)) 0 ≤ 1000000 := hb
        -- the run with the value -7
        have hBI : ∀ v : Int32, BI (tryC S2 i r v) := fun v => BI_sc (BI_send hI.bi (by decide) hi (fun _ => ⟨r, hr8, rfl⟩))
        have eg : er (goOn n (tryC S2 i r (-7)) (tt)) = er (goOn n (tryC S2 i r 0) (tt)) := by
          rw [er_goOn _ _ _ (hBI _), er_goOn _ _ _ (hBI _), er_tryC]
        have egh : s_gh (goOn n (tryC S2 i r (-7)) (tt)) = s_gh (goOn n (tryC S2 i r 0) (tt)) := by
          have q := congrArg s_gh eg
          rw [er_ghE, er_ghE] at q
          exact q
        have esc : s_sc (goOn n (tryC S2 i r (-7)) (tt)) = s_sc (goOn n (tryC S2 i r 0) (tt)) := by
          have q := congrArg s_sc eg
          rw [er_scE, er_scE] at q
          exact q
        have hb7 : s_gh (goOn n (tryC S2 i r (-7)) (tt)) 0 ≤ 1000000 := by rw [egh]; exact hbc
        have hm7 : msB n (tryC S2 i r (-7)) (tt) := by
          rw [er_msB _ _ _ (hBI _), er_tryC, ← er_msB _ _ _ (hBI _)]
          exact hm
        have hbs : s_gh (send S2 4 i 3 (s_nd S2 i 6) (Int32.ofNat r) (-7)) 0 ≤ 1000000 := by
          have q := (gle_goOn (S := tryC S2 i r (-7)) (t := tt) n).1
          unfold tryC at q
          rw [gh_s20] at q
          exact Nat.le_trans q hb7
        have hIs : Inv (tryC S2 i r (-7)) := (Inv_send hI hbs (by decide) hi (fun _ => ⟨r, hr8, rfl⟩) (fun hx => by omega) (fun hx => by omega)).sc (by decide)
        have hRs : Rest (tryC S2 i r (-7)) := (Rest_send hI hR hi).s20
        have ens : now (tryC S2 i r (-7)) = now S2 := by
          unfold tryC
          rw [now_s20]
          exact sc_send (by decide)
        have rs : TR (true, p2) (tryC S2 i r (-7)) ((L ++ [mSend S2 4 i (s_nd S2 i 6) (Int32.ofNat r) (-7)]).map some) (q_w (x_sc (x_w T1 w2') 14 2)) := g2.sc0 (Or.inr (Or.inl rfl))
        obtain ⟨w3, L3, c3, o3, j1, j2, -, j4⟩ := t_goesTo hA (t := tt) h5' hn rs hIs hRs (by rw [ens]; omega) (by rw [ens]; omega) hb7 hm7
        rw [cl_eq j1, if_pos h5, t_rv, cl_eq (t_takesBack hA), t_gI (by decide)]
        have hTP : TP (s_sc S2 10 + 1) (tt) (tryC S2 i r (-7)) := by
          have hms : s_ms (tryC S2 i r (-7)) = s_ms S2 ++ [mSend S2 4 i (s_nd S2 i 6) (Int32.ofNat r) (-7)] := by
            unfold tryC
            rw [ms_s20, hs]
          refine ⟨⟨(VQ_send (k := 4) (n := i) (l := 3) (a := s_nd S2 i 6) (b := Int32.ofNat r) (c := -7) hv).sc, ?_, fun m hm hw => ?_⟩, mSend S2 4 i (s_nd S2 i 6) (Int32.ofNat r) (-7), by rw [hms]; simp, rfl, rfl, htm, rfl⟩
          · unfold tryC
            rw [sc_s20, sent10]
          · rw [hms, List.mem_append, List.mem_singleton] at hm
            rcases hm with hm | hm
            · exact hvm m hm
            · rw [hm] at hw
              exact absurd rfl hw
        have ho := out_goOn (w := s_sc S2 10 + 1) (t := tt) h5' n (tryC S2 i r (-7)) (q_sc (x_sc (x_w T1 w2') 14 2) 14) hTP hIs hRs (by rw [ens]; omega) (by rw [ens]; omega) hb7
        have e14 : q_sc (x_w (x_w (x_sc (x_sc (x_sc (x_w T1 w2') 14 2) 14 o3) 13 c3) w3) (ovW (q_w (x_w (x_sc (x_sc (x_sc (x_w T1 w2') 14 2) 14 o3) 13 c3) w3)) (q_as (x_w (x_sc (x_sc (x_sc (x_w T1 w2') 14 2) 14 o3) 13 c3) w3)) 73136)) 14 = s_sc (goOn n (tryC S2 i r 0) (tt)) 21 := by
          show fu (fu (fu (q_sc T1) 14 2) 14 o3) 13 c3 14 = _
          rw [fu_ne (by decide), fu_eq, j4 rfl, ho, esc]
        rw [e14]
        refine TD.back hr ⟨qT.1, qT.2.1, qT.2.2.1, ?_, ?_⟩ ?_ qa
        · show fu (fu (fu (q_sc T1) 14 2) 14 o3) 13 c3 3 = _
          rw [fu_ne (by decide), fu_ne (by decide), fu_ne (by decide)]; exact qT.2.2.2.1
        · show fu (fu (fu (q_sc T1) 14 2) 14 o3) 13 c3 8 = _
          rw [fu_ne (by decide), fu_ne (by decide), fu_ne (by decide)]; exact qT.2.2.2.2
        · show fu (fu (fu (q_sc T1) 14 2) 14 o3) 13 c3 1 = _
          rw [fu_ne (by decide), fu_ne (by decide), fu_ne (by decide)]; exact q1
      · have h5' := h5
        rw [i_le, k5] at h5'
        have h6' : (5000000 : Int32) < tt := by rw [i_lt, k5]; omega
        rw [if_neg h5, if_pos h6', if_neg h5, t_pV hA (by decide), t_rv, cl_eq (t_takesBack hA), t_gI (by decide), x_scsc]
        have e14 : q_sc (x_w (x_sc (x_w T1 w2') 14 (-5)) (ovW (q_w (x_sc (x_w T1 w2') 14 (-5))) (q_as (x_sc (x_w T1 w2') 14 (-5))) 73136)) 14 = -5 := by
          show fu (q_sc T1) 14 (-5) 14 = _
          rw [fu_eq]
        rw [e14]
        exact TD.back hr (qT2 _) (q12 _) qa
    · rw [if_neg h4]
      have hs := send_cut (k := 4) (l := 3) (a := s_nd S2 i 6) (b := Int32.ofNat r) (c := -7) h4
      have hl0 : l.length = 0 := by
        have := hp2.length_eq
        rw [hs, List.length_append] at this
        omega
      rw [hl0, Nat.add_zero, if_pos (show Int32.ofNat L.length ≤ Int32.ofNat L.length by rw [i_le]; omega), t_pV hA (by decide), if_pos rfl, if_pos (by decide), t_rv, cl_eq (t_takesBack hA), t_gI (by decide)]
      have e14 : q_sc (x_w (x_sc (x_w T1 w2') 14 2) (ovW (q_w (x_sc (x_w T1 w2') 14 2)) (q_as (x_sc (x_w T1 w2') 14 2)) 73136)) 14 = 2 := by
        show fu (q_sc T1) 14 2 14 = _
        rw [fu_eq]
      rw [e14]
      exact TD.back hr (qT2 _) (q12 _) qa
end TT2
