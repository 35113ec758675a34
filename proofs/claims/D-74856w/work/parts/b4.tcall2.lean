/-! THE TWIN's CALLS: restartServer, write, fetch, read, planOutage -/
set_option maxRecDepth 100000
def rsvS (S : SS) : Int32 × SS := (srvAt S + s_cf S 3, note (u_sc (u_sc S 12 (-4)) 15 (srvAt S + s_cf S 3)) 8 (-1) (s_sc S 14))
def wrS (S : SS) (i r : Nat) (v : Int32) : Int32 × SS := if unfi S i < 0 then (unfi S i, S) else (s_nd S i 6, send S 4 i 3 (s_nd S i 6) (Int32.ofNat r) v)
def feS (S : SS) (i r : Nat) : Int32 × SS := if unfi S i < 0 then (unfi S i, S) else (s_nd S i 6, send S 5 i 2 (s_nd S i 6) (Int32.ofNat r) 0)
def rdS (S : SS) (i r : Nat) : Int32 × SS := if unfi S i < 0 then (unfi S i, S) else if ((s_nd S i 9 >>> (Int32.ofNat r &&& 31)) &&& (1 : Int32)) = 0 then (-4, S) else (s_nd S i (30 + r), if s_nd S i (30 + r) = s_ar S 0 r then u_sc S 18 (s_sc S 18 + 1) else u_sc (u_sc S 18 (s_sc S 18 + 1)) 19 (s_sc S 19 + 1))
def ouS (S : SS) (i : Nat) (ms du : Int32) : Int32 × SS := if (s_ou S).length = 20 then (-5, S) else (now S + ms + du, u_ou (g_add (g_mk S 1 3) 4 (s_ou S).length) (s_ou S ++ [(i, now S + ms, now S + ms + du)]))
section TC2
variable {A : Nat → Nat} {h : PH} {T : TS} {ex : Bool × Int32 × Int32} {S : SS} {L : List MG}
theorem unfi_c {i : Nat} : unfi S i = -3 ∨ unfi S i = -2 ∨ unfi S i = -1 ∨ unfi S i = 0 := by
  unfold unfi
  rcases unab_c (S := S) (i := i) with e | e | e
  · rw [e, if_pos (by decide)]; exact Or.inl rfl
  · rw [e, if_pos (by decide)]; exact Or.inr (Or.inl rfl)
  · rw [e, if_neg (by decide)]
    split
    · exact Or.inr (Or.inr (Or.inr rfl))
    · exact Or.inr (Or.inr (Or.inl rfl))
theorem unfi_n {i : Nat} : unfi S i < 0 ∨ unfi S i = 0 := by
  rcases unfi_c (S := S) (i := i) with e | e | e | e
  · rw [e]; exact Or.inl (by decide)
  · rw [e]; exact Or.inl (by decide)
  · rw [e]; exact Or.inl (by decide)
  · exact Or.inr e
theorem lt_ne {x : Int32} (hx : x < 0) : ¬ x = 0 := fun e => by rw [e] at hx; exact absurd hx (by decide)
theorem t_isReg {r : Nat} (hr : r < 8) : f_X7_isRegister (Int32.ofNat r) h = some (1, h) := by
  unfold f_X7_isRegister
  have e0 : ((0 : Int64)).toInt = 0 := by decide
  have e7 : ((7 : Int64)).toInt = 7 := by decide
  rw [cl_eq t_in, e0, e7, Int32.toInt_toInt64, Int32.toInt_ofNat_of_lt (by omega), if_pos (by omega), rN_at nar01.2]
theorem t_noReg {x : Int32} (hx : ¬ iv x 0 7) : f_X7_isRegister x h = some (0, h) := by
  unfold f_X7_isRegister
  have e0 : ((0 : Int64)).toInt = 0 := by decide
  have e7 : ((7 : Int64)).toInt = 7 := by decide
  rw [cl_eq t_in, e0, e7, Int32.toInt_toInt64, if_neg (show ¬ (0 ≤ x.toInt ∧ x.toInt ≤ 7) from hx), rN_at nar01.1]
theorem t_isVal {x : Int32} : f_X7_isValue x h = some ((if 0 ≤ x.toInt ∧ x.toInt ≤ 999999 then 1 else 0), h) := by
  unfold f_X7_isValue
  have e0 : ((0 : Int64)).toInt = 0 := by decide
  have e7 : ((999999 : Int64)).toInt = 999999 := by decide
  rw [cl_eq t_in, e0, e7, Int32.toInt_toInt64]
  by_cases hc : 0 ≤ x.toInt ∧ x.toInt ≤ 999999
  · rw [if_pos hc, rN_at nar01.2]
  · rw [if_neg hc, rN_at nar01.1]
theorem t_restartServer (hA : TA A h) (hr : TR ex S (L.map some) (q_w T)) : TC A T h ex 0 (rsvS S).1 (rsvS S).2 (f_X7_restartServer (some (A 0)) (tw A T h)) := by
  unfold f_X7_restartServer rsvS
  have r1 : TR ex (u_sc S 12 (-4)) (L.map some) (q_w (x_w (x_sc T 1 0) (upd (q_w T) 10 (-4)))) := hr.sc (p := 10) (by simp [scM])
  have a5 : q_w (x_w (x_sc T 1 0) (upd (q_w T) 10 (-4))) 5 = s_cf S 3 := r1.1.1.2.2.2.2.2.1
  have esrv : srvAt (u_sc S 12 (-4)) = srvAt S := rfl
  rw [t_pV hA (by decide), t_rW, t_sW hA 10 10 rfl (by decide), q_wsc, t_rW, t_rv, cl_eq (t_srv hA r1.1), esrv, t_rW, t_aW hA 5 5 rfl (by decide), a5, t_sW hA 13 13 rfl (by decide), q_xw, x_xw]
  have r2 : TR ex (u_sc (u_sc S 12 (-4)) 15 (srvAt S + s_cf S 3)) (L.map some) (q_w (x_w (x_sc T 1 0) (upd (upd (q_w T) 10 (-4)) 13 (srvAt S + s_cf S 3)))) := by
    rw [q_xw]
    exact TR.sc (p := 13) (k := 15) (by rw [q_xw] at r1; exact r1) (by simp [scM])
  have a12 : q_w (x_w (x_sc T 1 0) (upd (upd (q_w T) 10 (-4)) 13 (srvAt S + s_cf S 3))) 12 = s_sc S 14 := r2.1.1.2.2.2.2.2.2.2.2.2.2.2.2.1
  rw [t_rW, t_aW hA 12 12 rfl (by decide), a12, t_rv]
  obtain ⟨w', g1, g2⟩ := r2.logs hA (kind := 8) (x2 := -1) (x3 := s_sc S 14) (by decide)
  rw [cl_eq (show f_X7_logs (some (A 0)) 8 _ _ _ = _ from g1), x_xw, t_rW, t_aW hA 13 13 rfl (by decide), q_xw]
  have a13 : w' 13 = srvAt S + s_cf S 3 := by
    have := g2.1.1.2.2.2.2.2.2.2.2.2.2.2.2.2.1
    rw [this, sc_note]
    rfl
  rw [a13]
  exact TC.w rfl g2
theorem t_write (hA : TA A h) (hr : TR ex S (L.map some) (q_w T)) (hI : Inv S) (hl : L.length < 12000) {i r : Nat} {v : Int32} (hi : i < s_n S) (hr8 : r < 8) (hv : iv v 0 999999) : TC A T h ex 0 (wrS S i r v).1 (wrS S i r v).2 (f_X7_write (some (A 0)) (Int32.ofNat i) (Int32.ofNat r) v (tw A T h)) := by
  have h6 := hI.2.2.1.2
  have hN := hI.2.1 i hi
  have hW := hI.2.2.2.1.1
  have hr0 : TR ex S (L.map some) (q_w (x_sc T 1 0)) := hr
  have q1 : q_sc (x_sc T 1 0) 1 = 0 := by show fu (q_sc T) 1 0 1 = _; rw [fu_eq]
  unfold f_X7_write f_X7_write_B28 wrS
  rw [t_rv, cl_eq ((t_noNd hA hr.1 hI.2.2.1.1).1 (isNd_in hi h6)), if_pos rfl, cl_eq (t_isReg hr8), if_neg (show ¬ (1 : Int32) = 0 by decide), cl_eq t_isVal, if_pos (show 0 ≤ v.toInt ∧ v.toInt ≤ 999999 from hv), if_neg (show ¬ (1 : Int32) = 0 by decide), t_rv, cl_eq (t_throws0 rfl q1), if_pos rfl, t_rv, cl_eq (t_refusalL hA hr0.1 hN hW hi)]
  rcases unfi_n (S := S) (i := i) with e | e
  · rw [if_neg (lt_ne e), if_pos e, t_rv, cl_eq (t_refusalL hA hr0.1 hN hW hi)]
    exact TC_q hr
  · rw [e, if_pos rfl, if_neg (show ¬ (0 : Int32) < 0 by decide), t_rv, cl_eq (t_ofN hA hr0.1 7 7 rfl hi (by decide)), show tnd (s_nd S i) 7 = s_nd S i 6 from rfl, t_rv]
    obtain ⟨w2, Pl2, g1, g2, ⟨l, g3, -⟩, g5⟩ := t_sends (T := x_sc T 1 0) (kind := 4) (node := i) (len := 3) (a := s_nd S i 6) (b := Int32.ofNat r) (c := v) (tok := s_nd S i 6) (num := Int32.ofNat r) (val := v) hA hr0 hI.si (by rw [List.length_map]; exact hl) hi rfl rfl (fun _ => rfl)
    rw [cl_eq (show f_X7_sends (some (A 0)) 3 _ _ _ _ _ = _ from g1), t_rv]
    rw [g3, ← List.map_append] at g2
    have hi2 : i < s_n (send S 4 i 3 (s_nd S i 6) (Int32.ofNat r) v) := by rw [cS_send.2.1]; exact hi
    have e7 := t_ofN (T := x_w (x_sc T 1 0) w2) hA g2.1 7 7 rfl hi2 (by decide)
    rw [show tnd (s_nd (send S 4 i 3 (s_nd S i 6) (Int32.ofNat r) v) i) 7 = s_nd (send S 4 i 3 (s_nd S i 6) (Int32.ofNat r) v) i 6 from rfl, cS_send.2.2] at e7
    rw [cl_eq e7]
    exact TC.w rfl g2
theorem t_fetch (hA : TA A h) (hr : TR ex S (L.map some) (q_w T)) (hI : Inv S) (hl : L.length < 12000) {i r : Nat} (hi : i < s_n S) (hr8 : r < 8) : TC A T h ex 0 (feS S i r).1 (feS S i r).2 (f_X7_fetch (some (A 0)) (Int32.ofNat i) (Int32.ofNat r) (tw A T h)) := by
  have h6 := hI.2.2.1.2
  have hN := hI.2.1 i hi
  have hW := hI.2.2.2.1.1
  have hr0 : TR ex S (L.map some) (q_w (x_sc T 1 0)) := hr
  have q1 : q_sc (x_sc T 1 0) 1 = 0 := by show fu (q_sc T) 1 0 1 = _; rw [fu_eq]
  unfold f_X7_fetch f_X7_fetch_B21 feS
  rw [t_rv, cl_eq ((t_noNd hA hr.1 hI.2.2.1.1).1 (isNd_in hi h6)), if_pos rfl, cl_eq (t_isReg hr8), if_neg (show ¬ (1 : Int32) = 0 by decide), t_rv, cl_eq (t_throws0 rfl q1), if_pos rfl, t_rv, cl_eq (t_refusalL hA hr0.1 hN hW hi)]
  rcases unfi_n (S := S) (i := i) with e | e
  · rw [if_neg (lt_ne e), if_pos e, t_rv, cl_eq (t_refusalL hA hr0.1 hN hW hi)]
    exact TC_q hr
  · rw [e, if_pos rfl, if_neg (show ¬ (0 : Int32) < 0 by decide), t_rv, cl_eq (t_ofN hA hr0.1 7 7 rfl hi (by decide)), show tnd (s_nd S i) 7 = s_nd S i 6 from rfl, t_rv]
    obtain ⟨w2, Pl2, g1, g2, ⟨l, g3, -⟩, g5⟩ := t_sends (T := x_sc T 1 0) (kind := 5) (node := i) (len := 2) (a := s_nd S i 6) (b := Int32.ofNat r) (c := 0) (tok := s_nd S i 6) (num := Int32.ofNat r) (val := 0) hA hr0 hI.si (by rw [List.length_map]; exact hl) hi rfl rfl (fun _ => rfl)
    rw [cl_eq (show f_X7_sends (some (A 0)) 4 _ _ _ _ _ = _ from g1), t_rv]
    rw [g3, ← List.map_append] at g2
    have hi2 : i < s_n (send S 5 i 2 (s_nd S i 6) (Int32.ofNat r) 0) := by rw [cS_send.2.1]; exact hi
    have e7 := t_ofN (T := x_w (x_sc T 1 0) w2) hA g2.1 7 7 rfl hi2 (by decide)
    rw [show tnd (s_nd (send S 5 i 2 (s_nd S i 6) (Int32.ofNat r) 0) i) 7 = s_nd (send S 5 i 2 (s_nd S i 6) (Int32.ofNat r) 0) i 6 from rfl, cS_send.2.2] at e7
    rw [cl_eq e7]
    exact TC.w rfl g2
theorem t_read (hA : TA A h) (hex : ex.1 = true) (hr : TR ex S (L.map some) (q_w T)) (hI : Inv S) {i r : Nat} (hi : i < s_n S) (hr8 : r < 8) : TC A T h ex 0 (rdS S i r).1 (rdS S i r).2 (f_X7_read (some (A 0)) (Int32.ofNat i) (Int32.ofNat r) (tw A T h)) := by
  have h6 := hI.2.2.1.2
  have hN := hI.2.1 i hi
  have hW := hI.2.2.2.1.1
  have hr0 : TR ex S (L.map some) (q_w (x_sc T 1 0)) := hr
  have q1 : q_sc (x_sc T 1 0) 1 = 0 := by show fu (q_sc T) 1 0 1 = _; rw [fu_eq]
  have a18 : q_w T 18 = s_sc S 18 := hr.1.1.2.2.2.2.2.2.2.2.2.2.2.2.2.2.2.2.2.1
  have a19 : q_w T 19 = s_sc S 19 := hr.1.1.2.2.2.2.2.2.2.2.2.2.2.2.2.2.2.2.2.2.1
  unfold f_X7_read f_X7_read_B21 f_X7_read_B107 rdS
  rw [t_rv, cl_eq ((t_noNd hA hr.1 hI.2.2.1.1).1 (isNd_in hi h6)), if_pos rfl, cl_eq (t_isReg hr8), if_neg (show ¬ (1 : Int32) = 0 by decide), t_rv, cl_eq (t_throws0 rfl q1), if_pos rfl, t_rv, cl_eq (t_refusalL hA hr0.1 hN hW hi)]
  rcases unfi_n (S := S) (i := i) with e | e
  · rw [if_neg (lt_ne e), if_pos e, t_rv, cl_eq (t_refusalL hA hr0.1 hN hW hi)]
    exact TC_q hr
  · rw [e, if_pos rfl, if_neg (show ¬ (0 : Int32) < 0 by decide), t_rv, cl_eq (t_ofN hA hr0.1 11 11 rfl hi (by decide)), show tnd (s_nd S i) 11 = s_nd S i 9 from rfl]
    by_cases hb : ((s_nd S i 9 >>> (Int32.ofNat r &&& 31)) &&& (1 : Int32)) = 0
    · rw [if_pos hb, if_pos hb]
      exact TC_q hr
    · rw [if_neg hb, if_neg hb, t_rv]
      rw [cl_eq (t_of hA ((12 : Int32) + Int32.ofNat r) (12 + r) (by rw [show (12 : Int32) = Int32.ofNat 12 from rfl, of_add]) (by omega) (by omega))]
      have ec : q_w (x_sc T 1 0) (40 + 20 * i + (12 + r)) = s_nd S i (30 + r) := by
        have := hr.1.2.1 i (12 + r) hi (by omega) (Or.inr hex)
        rw [tnd_hi (by omega), show 18 + (12 + r) = 30 + r from by omega] at this
        exact this
      have eg : q_w T (160 + r) = s_ar S 0 r := hr.1.2.2.1.2.2 r hex hr8
      rw [ec, t_rW, t_aW hA 18 18 rfl (by decide), q_wsc, a18, t_sW hA 18 18 rfl (by decide), q_wsc, t_rW, t_aW hA _ (160 + r) (by rw [show (160 : Int32) = Int32.ofNat 160 from rfl, of_add]) (by omega), q_xw, upd_ne (by omega), eg]
      have r1 : TR ex (u_sc S 18 (s_sc S 18 + 1)) (L.map some) (upd (q_w T) 18 (s_sc S 18 + 1)) := hr.sc (by simp [scM])
      by_cases hq : s_nd S i (30 + r) = s_ar S 0 r
      · rw [if_pos hq, if_pos hq]
        exact TC.w rfl r1
      · rw [if_neg hq, if_neg hq, t_rW, t_aW hA 19 19 rfl (by decide), q_xw, upd_ne (by decide), a19, t_sW hA 19 19 rfl (by decide), q_xw, x_xw]
        exact TC.w rfl (r1.sc (by simp [scM]))
end TC2
