/-! THE TWIN: granted, handles, acquires -/
set_option maxRecDepth 100000
section TND
variable {A : Nat → Nat} {T : TS} {h : PH} {ex : Bool × Int32 × Int32} {S S' : SS} {Pl : List (Option MG)} {w : Nat → Int32}
/-- the end of granted: the limit stands there already; the token, the timer -/
theorem t_gEnd (hA : TA A h) (hr : TR ex S Pl (q_w T)) (hI : SI S) {i : Nat} {tok x : Int32} (hi : i < s_n S) (hx : iv x (s_nd S i 21).toInt 5700000) : ∃ w' : Nat → Int32, f_X7_granted_B122 (some (A 0)) (Int32.ofNat i) tok x (tw A T h) = some ((), tw A (x_w T w') h) ∧ TR ex (setTimer (u_nd S i 6 tok) i (x + s_cf S 5)) Pl w' := by
  have h6 := hI.2.2.1
  have hC := hI.1.2.2.2.2.1
  have hN := hI.2.1 i hi
  have o1 := hN.2.1.1
  unfold f_X7_granted_B122
  have r1 : TR ex (u_nd S i 6 tok) Pl (upd (q_w T) (40 + 20 * i + 7) tok) := hr.nd (k := 6) hi (by decide)
  have a7 : upd (q_w T) (40 + 20 * i + 7) tok 7 = s_cf S 5 := r1.1.1.2.2.2.2.2.2.2.1
  rw [t_rv, cl_eq (t_puts hA 7 7 rfl (by omega) (by decide)), t_rW, t_aW hA 7 7 rfl (by decide), q_xw, a7, t_rv]
  have e1 : (x + s_cf S 5).toInt = x.toInt + (s_cf S 5).toInt := i_add (by omega) (by omega)
  have e21 : s_nd (u_nd S i 6 tok) i 21 = s_nd S i 21 := nd_ne (Or.inr (by decide))
  have hN1 : s_nd (u_nd S i 6 tok) i 20 = s_nd S i 20 := nd_ne (Or.inr (by decide))
  -- the timer needs the clock alone
  unfold f_X7_setsTimer
  rw [t_rW, t_aW hA 0 0 rfl (by decide), t_rv, cl_eq (t_ofN (T := x_w T (upd (q_w T) (40 + 20 * i + 7) tok)) hA r1.1 0 0 rfl hi (by decide)), t_rv, cl_eq (t_ofN (T := x_w T (upd (q_w T) (40 + 20 * i + 7) tok)) hA r1.1 1 1 rfl hi (by decide))]
  rw [show tnd (s_nd (u_nd S i 6 tok) i) 0 = s_nd (u_nd S i 6 tok) i 20 from rfl, show tnd (s_nd (u_nd S i 6 tok) i) 1 = s_nd (u_nd S i 6 tok) i 21 from rfl]
  rw [cl_eq (t_timeOf (by rw [hN1]; exact hN.1) (by rw [e21]; exact hN.2.1.1) (by rw [e21, e1]; omega)), t_rv]
  have a0 : q_w (x_w T (upd (q_w T) (40 + 20 * i + 7) tok)) 0 = now (u_nd S i 6 tok) := r1.1.1.1
  rw [a0, cl_eq (t_puts hA 9 9 rfl (by omega) (by decide))]
  refine ⟨_, rfl, ?_⟩
  have h0 : mx (now (u_nd S i 6 tok) + 1) (ndRe (u_nd S i 6 tok) i (x + s_cf S 5)) ≠ -4 := fun hy => by
    have g1 : (mx (now (u_nd S i 6 tok) + 1) (ndRe (u_nd S i 6 tok) i (x + s_cf S 5))).toInt = -4 := by rw [hy]; decide
    rw [mx_i] at g1
    have k1 : ((1 : Int32)).toInt = 1 := by decide
    have hW : iv (now (u_nd S i 6 tok)) 0 5000000 := hI.2.2.2.1
    have g2 : (now (u_nd S i 6 tok) + 1).toInt = (now (u_nd S i 6 tok)).toInt + 1 := by rw [i_add] <;> rw [k1] <;> omega
    omega
  have hk := r1.1.tm (i := i) (v := mx (now (u_nd S i 6 tok) + 1) (ndRe (u_nd S i 6 tok) i (x + s_cf S 5))) hi
  rw [if_neg h0] at hk
  exact r1.lo hk (by omega) rfl
theorem t_granted (hA : TA A h) (hr : TR ex S Pl (q_w T)) (hI : SI S) (hl : Pl.length < 12000) {m : MG} (hn : m.2.1 < s_n S) (hx : iv m.2.2.2.1 (s_nd S m.2.1 21).toInt 5700000) : TO A T h ex (granted S m) (now S).toInt Pl (f_X7_granted (some (A 0)) (Int32.ofNat m.2.1) m.2.2.2.2.1 m.2.2.2.1 (tw A T h)) := by
  have h6 := hI.2.2.1
  have hN := hI.2.1 m.2.1 hn
  have o1 := hN.2.1.1
  obtain ⟨c0, c1, c3, c4, c5, c6, c7, c8⟩ := hI.1
  obtain ⟨a0, a1, a2, a3, a4, a5, a6, -⟩ := hr.1.1
  unfold f_X7_granted granted
  dsimp only
  rw [t_rv, cl_eq (t_ofN hA hr.1 5 5 rfl hn (by decide)), show tnd (s_nd S m.2.1) 5 = s_nd S m.2.1 3 from rfl]
  by_cases hc : s_nd S m.2.1 3 = 0
  · rw [if_pos hc, if_pos hc, t_rv]
    obtain ⟨w2, Pl2, g1, g2, g3, g4⟩ := t_sends (kind := 3) (node := m.2.1) (len := 1) (a := m.2.2.2.2.1) (b := 0) (c := 0) (tok := m.2.2.2.2.1) (num := 0) (val := 0) hA hr hI hl hn rfl rfl (fun _ => rfl)
    rw [cl_eq (show f_X7_sends (some (A 0)) 2 _ _ _ _ _ = _ from g1)]
    exact ⟨w2, Pl2, rfl, g2, g3, g4⟩
  · rw [if_neg hc, if_neg hc, t_rv, cl_eq (t_ofN hA hr.1 7 7 rfl hn (by decide)), show tnd (s_nd S m.2.1) 7 = s_nd S m.2.1 6 from rfl]
    by_cases ht : m.2.2.2.2.1 < s_nd S m.2.1 6
    · rw [if_neg (fun hy => (nle.mp hy) ht), if_pos ht]
      exact ⟨q_w T, Pl, rfl, hr, Ext.rf, Nat.le_succ _⟩
    · rw [if_pos (nle.mpr ht), if_neg ht]
      obtain ⟨lim, hlim⟩ : ∃ lim : Int32, lim = limitOf S m.2.2.2.1 := ⟨_, rfl⟩
      have hdv : (1000 : Int32) + s_cf S 4 ≠ 0 := fun hy => by
        have k : ((1000 : Int32)).toInt = 1000 := by decide
        have k0 : ((0 : Int32)).toInt = 0 := by decide
        have e := i_add (a := (1000 : Int32)) (b := s_cf S 4) (by rw [k]; omega) (by rw [k]; omega)
        rw [hy, k] at e
        omega
      have el : m.2.2.2.1 + (s_cf S 3 * ((1000 : Int32) - s_cf S 4)) / ((1000 : Int32) + s_cf S 4) = lim := by rw [hlim]; exact limit_eq c3 c4
      rw [t_rW, t_aW hA 5 5 rfl (by decide), a5, t_rW, t_aW hA 6 6 rfl (by decide), a6, t_rW, t_aW hA 6 6 rfl (by decide), a6, dvI_at hdv, t_rv, cl_eq (t_ofN hA hr.1 7 7 rfl hn (by decide)), show tnd (s_nd S m.2.1) 7 = s_nd S m.2.1 6 from rfl, el, ← hlim]
      by_cases hnew : s_nd S m.2.1 6 < m.2.2.2.2.1
      · rw [if_neg (fun hy => (nle.mp hy) hnew), if_pos hnew]
        unfold f_X7_granted_B81 f_X7_granted_B96 f_X7_granted_B113
        rw [if_neg (by decide), t_rv, cl_eq (t_puts hA 11 11 rfl (by omega) (by decide)), if_neg (by decide), t_rv, cl_eq (t_puts hA 8 8 rfl (by omega) (by decide))]
        have r1 : TR ex (u_nd S m.2.1 9 0) Pl (upd (q_w T) (40 + 20 * m.2.1 + 11) 0) := hr.nd (k := 9) hn (by decide)
        have r2 : TR ex (u_nd (u_nd S m.2.1 9 0) m.2.1 7 lim) Pl (upd (upd (q_w T) (40 + 20 * m.2.1 + 11) 0) (40 + 20 * m.2.1 + 8) lim) := r1.nd (k := 7) hn (by decide)
        simp only [q_xw, x_xw]
        obtain ⟨S2, hS2⟩ : ∃ S2 : SS, S2 = u_nd (u_nd S m.2.1 9 0) m.2.1 7 lim := ⟨_, rfl⟩
        -- the token of the new lease, the timer
        have a7 : upd (upd (q_w T) (40 + 20 * m.2.1 + 11) 0) (40 + 20 * m.2.1 + 8) lim 7 = s_cf S 5 := r2.1.1.2.2.2.2.2.2.2.1
        have e20 : s_nd S2 m.2.1 20 = s_nd S m.2.1 20 := by rw [hS2, nd_ne (Or.inr (by decide)), nd_ne (Or.inr (by decide))]
        have e21 : s_nd S2 m.2.1 21 = s_nd S m.2.1 21 := by rw [hS2, nd_ne (Or.inr (by decide)), nd_ne (Or.inr (by decide))]
        have r3 : TR ex (u_nd S2 m.2.1 6 m.2.2.2.2.1) Pl (upd (upd (upd (q_w T) (40 + 20 * m.2.1 + 11) 0) (40 + 20 * m.2.1 + 8) lim) (40 + 20 * m.2.1 + 7) m.2.2.2.2.1) := by
          rw [hS2]
          exact r2.nd (k := 6) hn (by decide)
        have f20 : s_nd (u_nd S2 m.2.1 6 m.2.2.2.2.1) m.2.1 20 = s_nd S m.2.1 20 := by rw [nd_ne (Or.inr (by decide)), e20]
        have f21 : s_nd (u_nd S2 m.2.1 6 m.2.2.2.2.1) m.2.1 21 = s_nd S m.2.1 21 := by rw [nd_ne (Or.inr (by decide)), e21]
        have hn2 : m.2.1 < s_n (u_nd S2 m.2.1 6 m.2.2.2.2.1) := by rw [hS2]; exact hn
        have e1 : (m.2.2.2.1 + s_cf S 5).toInt = m.2.2.2.1.toInt + (s_cf S 5).toInt := i_add (by omega) (by omega)
        have hnow : now (u_nd S2 m.2.1 6 m.2.2.2.2.1) = now S := by rw [hS2]; rfl
        unfold f_X7_granted_B122 f_X7_setsTimer
        rw [t_rv, cl_eq (t_puts hA 7 7 rfl (by omega) (by decide)), t_rW, t_aW hA 7 7 rfl (by decide), t_rv]
        simp only [q_xw, x_xw]
        have a7' : upd (upd (upd (q_w T) (40 + 20 * m.2.1 + 11) 0) (40 + 20 * m.2.1 + 8) lim) (40 + 20 * m.2.1 + 7) m.2.2.2.2.1 7 = s_cf S 5 := by
          have := r3.1.1.2.2.2.2.2.2.2.1
          rw [this, hS2]
          rfl
        rw [a7']
        obtain ⟨T3, hT3⟩ : ∃ T3 : TS, T3 = x_w T (upd (upd (upd (q_w T) (40 + 20 * m.2.1 + 11) 0) (40 + 20 * m.2.1 + 8) lim) (40 + 20 * m.2.1 + 7) m.2.2.2.2.1) := ⟨_, rfl⟩
        rw [← hT3]
        have r3' : TR ex (u_nd S2 m.2.1 6 m.2.2.2.2.1) Pl (q_w T3) := by rw [hT3]; exact r3
        rw [t_rW, t_aW hA 0 0 rfl (by decide), t_rv, cl_eq (t_ofN hA r3'.1 0 0 rfl hn2 (by decide)), t_rv, cl_eq (t_ofN hA r3'.1 1 1 rfl hn2 (by decide))]
        rw [show tnd (s_nd (u_nd S2 m.2.1 6 m.2.2.2.2.1) m.2.1) 0 = s_nd (u_nd S2 m.2.1 6 m.2.2.2.2.1) m.2.1 20 from rfl, show tnd (s_nd (u_nd S2 m.2.1 6 m.2.2.2.2.1) m.2.1) 1 = s_nd (u_nd S2 m.2.1 6 m.2.2.2.2.1) m.2.1 21 from rfl]
        rw [cl_eq (t_timeOf (by rw [f20]; exact hN.1) (by rw [f21]; exact hN.2.1.1) (by rw [f21, e1]; omega)), t_rv]
        have a0' : q_w T3 0 = now (u_nd S2 m.2.1 6 m.2.2.2.2.1) := r3'.1.1.1
        rw [a0', cl_eq (t_puts hA 9 9 rfl (by omega) (by decide))]
        have h0 : mx (now (u_nd S2 m.2.1 6 m.2.2.2.2.1) + 1) (ndRe (u_nd S2 m.2.1 6 m.2.2.2.2.1) m.2.1 (m.2.2.2.1 + s_cf S 5)) ≠ -4 := fun hy => by
          have g1 : (mx (now (u_nd S2 m.2.1 6 m.2.2.2.2.1) + 1) (ndRe (u_nd S2 m.2.1 6 m.2.2.2.2.1) m.2.1 (m.2.2.2.1 + s_cf S 5))).toInt = -4 := by rw [hy]; decide
          rw [mx_i, hnow] at g1
          have k1 : ((1 : Int32)).toInt = 1 := by decide
          have hW : iv (now S) 0 5000000 := hI.2.2.2.1
          have g2 : (now S + 1).toInt = (now S).toInt + 1 := by rw [i_add] <;> rw [k1] <;> omega
          omega
        have hk := r3'.1.tm (i := m.2.1) (v := mx (now (u_nd S2 m.2.1 6 m.2.2.2.2.1) + 1) (ndRe (u_nd S2 m.2.1 6 m.2.2.2.2.1) m.2.1 (m.2.2.2.1 + s_cf S 5))) hn2
        rw [if_neg h0] at hk
        refine ⟨_, Pl, by rw [hT3, x_xw]; rfl, ?_, Ext.rf, Nat.le_succ _⟩
        have hfin : TR ex (setTimer (u_nd S2 m.2.1 6 m.2.2.2.2.1) m.2.1 (m.2.2.2.1 + s_cf S 5)) Pl _ := r3'.lo hk (by omega) rfl
        have hmx : mx (s_nd (u_nd (u_nd (u_nd S m.2.1 9 0) m.2.1 6 m.2.2.2.2.1) m.2.1 7 lim) m.2.1 7) lim = lim := by
          rw [nd_at]
          unfold mx
          split <;> rfl
        rw [hmx, und_und, und_comm (a := 6) (b := 7) (by decide), ← hS2]
        rw [hT3] at hfin
        exact hfin
      · rw [if_pos (nle.mpr hnew), if_neg hnew]
        have heq : m.2.2.2.2.1 = s_nd S m.2.1 6 := by
          apply Int32.toInt.inj
          rw [Int32.lt_iff_toInt_lt] at ht hnew
          omega
        unfold f_X7_granted_B81 f_X7_granted_B96 f_X7_granted_B113
        rw [if_pos rfl, if_pos rfl, t_rv, cl_eq (t_ofN hA hr.1 8 8 rfl hn (by decide)), show tnd (s_nd S m.2.1) 8 = s_nd S m.2.1 7 from rfl]
        by_cases hb : lim ≤ s_nd S m.2.1 7
        · rw [if_pos hb]
          obtain ⟨w', e1, e2⟩ := t_gEnd (tok := m.2.2.2.2.1) (x := m.2.2.2.1) hA hr hI hn hx
          refine ⟨w', Pl, e1, ?_, Ext.rf, Nat.le_succ _⟩
          have hmx : mx (s_nd S m.2.1 7) lim = s_nd S m.2.1 7 := by
            unfold mx
            rw [if_neg (nle.mp hb)]
          rw [hmx, und_self rfl]
          rw [heq, und_self rfl] at e2
          exact e2
        · rw [if_neg hb, t_rv, cl_eq (t_puts hA 8 8 rfl (by omega) (by decide))]
          have r1 : TR ex (u_nd S m.2.1 7 lim) Pl (upd (q_w T) (40 + 20 * m.2.1 + 8) lim) := hr.nd (k := 7) hn (by decide)
          obtain ⟨S2, hS2⟩ : ∃ S2 : SS, S2 = u_nd S m.2.1 7 lim := ⟨_, rfl⟩
          rw [← hS2] at r1
          have hmx : mx (s_nd S m.2.1 7) lim = lim := by
            unfold mx
            rw [if_pos (by rw [Int32.lt_iff_toInt_lt]; rw [Int32.le_iff_toInt_le] at hb; omega)]
          rw [hmx, ← hS2]
          have e20 : s_nd S2 m.2.1 20 = s_nd S m.2.1 20 := by rw [hS2, nd_ne (Or.inr (by decide))]
          have e21 : s_nd S2 m.2.1 21 = s_nd S m.2.1 21 := by rw [hS2, nd_ne (Or.inr (by decide))]
          have e6 : s_nd S2 m.2.1 6 = s_nd S m.2.1 6 := by rw [hS2, nd_ne (Or.inr (by decide))]
          have hn2 : m.2.1 < s_n S2 := by rw [hS2]; exact hn
          have hcf : s_cf S2 5 = s_cf S 5 := by rw [hS2]; rfl
          have hnow : now S2 = now S := by rw [hS2]; rfl
          have e1 : (m.2.2.2.1 + s_cf S 5).toInt = m.2.2.2.1.toInt + (s_cf S 5).toInt := i_add (by omega) (by omega)
          unfold f_X7_granted_B122 f_X7_setsTimer
          rw [t_rv, cl_eq (t_puts hA 7 7 rfl (by omega) (by decide)), t_rW, t_aW hA 7 7 rfl (by decide), t_rv]
          simp only [q_xw, x_xw]
          have r2 : TR ex S2 Pl (upd (upd (q_w T) (40 + 20 * m.2.1 + 8) lim) (40 + 20 * m.2.1 + 7) m.2.2.2.2.1) := by
            have := r1.nd (k := 6) (v := m.2.2.2.2.1) hn2 (by decide)
            rw [heq, und_self e6.symm] at this
            rw [heq]
            exact this
          have a7' : upd (upd (q_w T) (40 + 20 * m.2.1 + 8) lim) (40 + 20 * m.2.1 + 7) m.2.2.2.2.1 7 = s_cf S 5 := by
            have := r2.1.1.2.2.2.2.2.2.2.1
            rw [this, hcf]
          rw [a7']
          obtain ⟨T3, hT3⟩ : ∃ T3 : TS, T3 = x_w T (upd (upd (q_w T) (40 + 20 * m.2.1 + 8) lim) (40 + 20 * m.2.1 + 7) m.2.2.2.2.1) := ⟨_, rfl⟩
          rw [← hT3]
          have r3' : TR ex S2 Pl (q_w T3) := by rw [hT3]; exact r2
          rw [t_rW, t_aW hA 0 0 rfl (by decide), t_rv, cl_eq (t_ofN hA r3'.1 0 0 rfl hn2 (by decide)), t_rv, cl_eq (t_ofN hA r3'.1 1 1 rfl hn2 (by decide))]
          rw [show tnd (s_nd S2 m.2.1) 0 = s_nd S2 m.2.1 20 from rfl, show tnd (s_nd S2 m.2.1) 1 = s_nd S2 m.2.1 21 from rfl]
          rw [cl_eq (t_timeOf (by rw [e20]; exact hN.1) (by rw [e21]; exact hN.2.1.1) (by rw [e21, e1]; omega)), t_rv]
          have a0' : q_w T3 0 = now S2 := r3'.1.1.1
          rw [a0', cl_eq (t_puts hA 9 9 rfl (by omega) (by decide))]
          have h0 : mx (now S2 + 1) (ndRe S2 m.2.1 (m.2.2.2.1 + s_cf S 5)) ≠ -4 := fun hy => by
            have g1 : (mx (now S2 + 1) (ndRe S2 m.2.1 (m.2.2.2.1 + s_cf S 5))).toInt = -4 := by rw [hy]; decide
            rw [mx_i, hnow] at g1
            have k1 : ((1 : Int32)).toInt = 1 := by decide
            have hW : iv (now S) 0 5000000 := hI.2.2.2.1
            have g2 : (now S + 1).toInt = (now S).toInt + 1 := by rw [i_add] <;> rw [k1] <;> omega
            omega
          have hk := r3'.1.tm (i := m.2.1) (v := mx (now S2 + 1) (ndRe S2 m.2.1 (m.2.2.2.1 + s_cf S 5))) hn2
          rw [if_neg h0] at hk
          refine ⟨_, Pl, by rw [hT3, x_xw]; rfl, ?_, Ext.rf, Nat.le_succ _⟩
          have hfin : TR ex (setTimer S2 m.2.1 (m.2.2.2.1 + s_cf S 5)) Pl _ := r3'.lo hk (by omega) rfl
          rw [hT3] at hfin
          exact hfin
/-- handles -/
theorem t_handles (hA : TA A h) (hr : TR ex S Pl (q_w T)) (hI : SI S) (hl : Pl.length < 12000) {m : MG} {val : Int32} (hm : mOK (s_n S) m) (hx : m.1 = 0 ∨ m.1 = 1 → iv m.2.2.2.1 (s_nd S m.2.1 21).toInt 5700000) (hv : ex.1 = true → val = m.2.2.2.2.2.1) : TO A T h ex (handle S m) (now S).toInt Pl (f_X7_handles (some (A 0)) (Int32.ofNat (tk m.1)) (Int32.ofNat m.2.1) (tTok m) (tNum m) val (tw A T h)) := by
  obtain ⟨hk9, hn, hreg⟩ := hm
  have hN := hI.2.1 m.2.1 hn
  have hW := hI.2.2.2.1
  have a8 : q_w T 8 = s_cf S 6 := hr.1.1.2.2.2.2.2.2.2.2.1
  have hcases : m.1 = 0 ∨ m.1 = 1 ∨ m.1 = 2 ∨ m.1 = 3 ∨ m.1 = 4 ∨ m.1 = 5 ∨ m.1 = 6 ∨ m.1 = 7 ∨ m.1 = 8 := by omega
  unfold f_X7_handles f_X7_handles_B166
  have fin : ∀ {S' : SS} {o : Option (Unit × PH)}, TO A T h ex S' (now S).toInt Pl o → TO A T h ex S' (now S).toInt Pl (cl_ o fun _u h1 => some ((), h1)) := by
    intro S' o ho
    obtain ⟨w', Pl', e1, e2⟩ := ho
    exact ⟨w', Pl', by rw [cl_eq e1], e2⟩
  rcases hcases with k | k | k | k | k | k | k | k | k
  · have e1 : tNum m = m.2.2.2.1 := by unfold tNum; rw [if_pos (Or.inl k)]
    rw [k, if_pos (show Int32.ofNat (tk 0) = 1 from rfl), t_rv, e1]
    unfold handle
    rw [if_pos k]
    exact fin (t_atServer hA hr hI hl hn)
  · have e1 : tNum m = m.2.2.2.1 := by unfold tNum; rw [if_pos (Or.inr k)]
    have e2 : tTok m = m.2.2.2.2.1 := by unfold tTok; rw [if_neg (by omega), if_pos k]
    rw [k, if_neg (by decide), if_neg (by decide), if_neg (by decide), if_neg (by decide), if_pos (show Int32.ofNat (tk 1) = 5 from rfl), t_rv, e1, e2]
    unfold handle atNode
    rw [if_neg (by omega), if_neg (by omega), if_neg (by omega), if_pos k]
    exact fin (t_granted hA hr hI hl hn (hx (Or.inr k)))
  · rw [k, if_neg (by decide), if_neg (by decide), if_neg (by decide), if_neg (by decide), if_neg (by decide), if_pos (show Int32.ofNat (tk 2) = 6 from rfl), t_rv, cl_eq (t_ofN hA hr.1 5 5 rfl hn (by decide)), show tnd (s_nd S m.2.1) 5 = s_nd S m.2.1 3 from rfl]
    unfold handle atNode
    dsimp only
    rw [if_neg (by omega), if_neg (by omega), if_neg (by omega), if_neg (by omega), if_pos k]
    rcases hN.2.2.2.2.1 with h3 | h3
    · rw [h3, if_neg (show ¬ (0 : Int32) = 1 by decide), if_pos (show (0 : Int32) = 0 from rfl)]
      exact ⟨q_w T, Pl, rfl, hr, Ext.rf, Nat.le_succ _⟩
    · rw [h3, if_pos (show (1 : Int32) = 1 from rfl), if_neg (show ¬ (1 : Int32) = 0 by decide), t_rv, cl_eq (t_clock hA hr.1 hn), t_rW, t_aW hA 8 8 rfl (by decide), a8, t_rv]
      have hc := c_at_b (t := now S) hN.1.1 hN.1.2 hN.2.1.1 hN.2.1.2 hW.1 (by omega)
      have hc' : (s_nd S m.2.1 21).toInt ≤ (ndAt S m.2.1 (now S)).toInt ∧ (ndAt S m.2.1 (now S)).toInt ≤ (s_nd S m.2.1 21).toInt + 2 * (now S).toInt := ⟨hc.1, hc.2.1⟩
      have c6 := hI.1.2.2.2.2.2.1
      have o2 := hN.2.1.2
      have o1 := hN.2.1.1
      have e1 : (ndAt S m.2.1 (now S) + s_cf S 6).toInt = (ndAt S m.2.1 (now S)).toInt + (s_cf S 6).toInt := i_add (by omega) (by omega)
      obtain ⟨w', g1, g2⟩ := hr.timer hA (v := ndAt S m.2.1 (now S) + s_cf S 6) hN hW hn (by omega) (by omega)
      rw [cl_eq g1]
      exact ⟨w', Pl, rfl, g2, Ext.rf, Nat.le_succ _⟩
  · have e2 : tTok m = m.2.2.2.1 := by unfold tTok; rw [if_neg (by omega), if_neg (by omega)]
    rw [k, if_neg (by decide), if_pos (show Int32.ofNat (tk 3) = 2 from rfl), t_rv, e2]
    unfold handle
    rw [if_neg (by omega), if_pos k]
    exact fin (t_released hA hr hn)
  · obtain ⟨r, hr8, er⟩ := hreg (by omega)
    have e1 : tNum m = Int32.ofNat r := by unfold tNum; rw [if_neg (by omega), er]
    have e2 : tTok m = m.2.2.2.1 := by unfold tTok; rw [if_neg (by omega), if_neg (by omega)]
    rw [k, if_neg (by decide), if_neg (by decide), if_pos (show Int32.ofNat (tk 4) = 3 from rfl), t_rv, e1, e2]
    unfold handle
    rw [if_neg (by omega), if_neg (by omega), if_pos (Or.inl k)]
    exact fin ((t_atStorage hA hr hI hl hn hr8 er hv).1 k)
  · obtain ⟨r, hr8, er⟩ := hreg (by omega)
    have e1 : tNum m = Int32.ofNat r := by unfold tNum; rw [if_neg (by omega), er]
    have e2 : tTok m = m.2.2.2.1 := by unfold tTok; rw [if_neg (by omega), if_neg (by omega)]
    rw [k, if_neg (by decide), if_neg (by decide), if_neg (by decide), if_pos (show Int32.ofNat (tk 5) = 4 from rfl), t_rv, e1, e2]
    unfold handle
    rw [if_neg (by omega), if_neg (by omega), if_pos (Or.inr k)]
    exact fin ((t_atStorage hA hr hI hl hn hr8 er hv).2 k)
  · obtain ⟨r, hr8, er⟩ := hreg (by omega)
    have e1 : tNum m = Int32.ofNat r := by unfold tNum; rw [if_neg (by omega), er]
    have e2 : tTok m = m.2.2.2.1 := by unfold tTok; rw [if_neg (by omega), if_neg (by omega)]
    rw [k, if_neg (by decide), if_neg (by decide), if_neg (by decide), if_neg (by decide), if_neg (by decide), if_neg (by decide), if_pos (show Int32.ofNat (tk 6) = 7 from rfl), t_rv, e1, e2]
    unfold handle atNode
    dsimp only
    rw [if_neg (by omega), if_neg (by omega), if_neg (by omega), if_neg (by omega), if_neg (by omega), if_neg (by omega), er, clamp9 (by omega)]
    obtain ⟨w', g1, g2⟩ := t_caches hA hr (tok := m.2.2.2.1) (val := val) (v := m.2.2.2.2.2.1) hn hr8 hv
    rw [cl_eq g1]
    exact ⟨w', Pl, rfl, g2, Ext.rf, Nat.le_succ _⟩
  · obtain ⟨r, hr8, er⟩ := hreg (by omega)
    have e1 : tNum m = Int32.ofNat r := by unfold tNum; rw [if_neg (by omega), er]
    have e2 : tTok m = m.2.2.2.1 := by unfold tTok; rw [if_neg (by omega), if_neg (by omega)]
    rw [k, if_neg (by decide), if_neg (by decide), if_neg (by decide), if_neg (by decide), if_neg (by decide), if_neg (by decide), if_neg (by decide), if_pos (show Int32.ofNat (tk 7) = 8 from rfl), t_rv, e1, e2]
    unfold handle atNode
    dsimp only
    rw [if_neg (by omega), if_neg (by omega), if_neg (by omega), if_neg (by omega), if_neg (by omega), if_neg (by omega), er, clamp9 (by omega)]
    obtain ⟨w', g1, g2⟩ := t_caches hA hr (tok := m.2.2.2.1) (val := val) (v := m.2.2.2.2.2.1) hn hr8 hv
    rw [cl_eq g1]
    exact ⟨w', Pl, rfl, g2, Ext.rf, Nat.le_succ _⟩
  · have e2 : tTok m = m.2.2.2.1 := by unfold tTok; rw [if_neg (by omega), if_neg (by omega)]
    rw [k, if_neg (by decide), if_neg (by decide), if_neg (by decide), if_neg (by decide), if_neg (by decide), if_neg (by decide), if_neg (by decide), if_neg (by decide), if_pos (show Int32.ofNat (tk 8) = 9 from rfl), t_rv, cl_eq (t_ofN hA hr.1 7 7 rfl hn (by decide)), show tnd (s_nd S m.2.1) 7 = s_nd S m.2.1 6 from rfl, e2]
    unfold handle atNode
    dsimp only
    rw [if_neg (by omega), if_neg (by omega), if_neg (by omega), if_neg (by omega), if_neg (by omega), if_pos k]
    by_cases hc : s_nd S m.2.1 6 = m.2.2.2.1
    · rw [if_pos hc, if_pos hc, t_rv]
      obtain ⟨w', g1, g2⟩ := t_forgets hA hr hn
      rw [cl_eq g1]
      exact ⟨w', Pl, rfl, g2, Ext.rf, Nat.le_succ _⟩
    · rw [if_neg hc, if_neg hc]
      exact ⟨q_w T, Pl, rfl, hr, Ext.rf, Nat.le_succ _⟩
end TND
