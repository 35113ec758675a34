/-! ROOM -/
set_option maxRecDepth 100000
section RMS
variable {k len len' : Nat} {S S' : SS} {Z Z' : Nat → Option SS} {bf bf' : Nat → Nat} {le le' : Int32}
/-- what must fit, fits -/
theorem GI.ftl (h : GI k S Z len) (hk : k < 64) (hj : LJ S) : FTL (S, Z, bf, len, le) := by
  obtain ⟨l1, l2⟩ := h.len hk
  obtain ⟨b1, b2⟩ := h.b (by omega)
  have B1 : BB.1 = 603072 := rfl
  have B2 : BB.2 = 7125098 := rfl
  refine ⟨⟨fun S' hs => ?_, ?_, fun t n rn ht => ?_, fun S0 t n p rn ht => ?_, by show (s_ms S).length ≤ 5999; omega, fun i r n hi hr hu hn => ?_⟩, ⟨?_, ?_⟩, fun i hi Q hq => ?_⟩
  · rcases hs with rfl | hs
    · have e0 : s_gh (g_mk S 1 6) 0 = s_gh S 0 + 1 := gh_mk0
      have e1 : s_gh (g_mk S 1 6) 1 = s_gh S 1 + 6 := rfl
      refine ⟨?_, ?_⟩
      · rw [B1, e0]
        omega
      · rw [B2, e1]
        omega
    · exact (h.nxa hk hj hs).fit (by omega)
  · obtain ⟨p1, p2⟩ := cp_b hj.1 (show (s_ms S).length ≤ 6000 by omega)
    refine ⟨?_, ?_⟩
    · rw [B1]
      show s_gh S 0 + cpCl S + 100 ≤ 603072
      omega
    · rw [B2]
      show s_gh S 1 + cpSl S + 2000 ≤ 7125098
      omega
  · obtain ⟨q1, q2, q3⟩ := h.run hk hj rn ht
    exact ⟨Nat.le_trans q2 (by decide), q3.fit (by omega), q1⟩
  · obtain ⟨q1, q2, q3, q4⟩ := h.pred hk hj p rn ht
    have f := (q4 _ q3 gle.rf).fit (by omega)
    obtain ⟨t0, t1, -⟩ := ct_gh (S := S) (S2 := goOn n S0 t)
    refine ⟨Nat.le_trans q2 (by decide), ⟨?_, ?_⟩, q1⟩
    · rw [← t0]
      exact f.1
    · rw [← t1]
      exact f.2
  · obtain ⟨q1, q2⟩ := h.try_ hk hj hi hr hu hn
    have f := q2.fit (by omega)
    obtain ⟨t0, t1, -⟩ := ct_gh (S := S) (S2 := (tryW n (copyS S) i r).2)
    refine ⟨q1, ⟨?_, ?_⟩⟩
    · rw [← t0]
      exact f.1
    · rw [← t1]
      exact f.2
  · rw [B1]
    show s_gh S 0 + 2 * len + 200 ≤ 603072
    omega
  · rw [B2]
    show s_gh S 1 + 18 * len + 6000 ≤ 7125098
    omega
  · obtain ⟨V, v1, g, v3, v4⟩ := h
    obtain ⟨L, a1, a2, a3, a4, a5⟩ := g.ledZ hi hq
    have lq := STI_len a2 a3 (by omega) a4
    obtain ⟨p1, p2⟩ := cp_b a4.2.1.1 (show (s_ms Q).length ≤ 6000 by omega)
    obtain ⟨t0, t1, -⟩ := ct_gh (S := Q) (S2 := S)
    refine ⟨?_, ?_⟩
    · rw [B1]
      show s_gh (ctS Q S) 0 + cpCl Q + 100 ≤ 603072
      rw [t0]
      omega
    · rw [B2]
      show s_gh (ctS Q S) 1 + cpSl Q + 2000 ≤ 7125098
      rw [t1]
      omega
/-- every call -/
theorem GI.nxl (h : GI k S Z len) (hk : k < 64) (hj : LJ S) (hz : ZJ S Z) (hn : NXL S Z bf len le S' Z' bf' len' le') : GI (k + 1) S' Z' len' := by
  obtain ⟨l1, l2⟩ := h.len hk
  obtain ⟨b1, b2⟩ := h.b (by omega)
  obtain ⟨hj', hz'⟩ := NXL.lj hj hz (h.ftl hk hj) hn
  rcases hn with ⟨a, rfl, -, rfl, -⟩ | ⟨rfl, rfl, -, rfl, -⟩ | ⟨rfl, rfl, ⟨c, q, rfl, c1, c2, c3, c4⟩, -⟩ | ⟨rfl, rfl, -, c, cl, sl, p1, p2, p3, rfl, p5, p6, p7, p8⟩ | ⟨-, rfl, -, rfl, s, hs, rfl⟩ | ⟨-, rfl, -, rfl, s, Q, hs, hq, rfl⟩
  · rcases a with rfl | rfl | a | ⟨t, n, r1, r2, rfl⟩ | a
    · exact h.idle SAM.rf hj' (Nat.le_refl _) (by omega) (by omega) (by omega) (fun j _ => rfl) rfl
    · have e0 : s_gh (g_mk S 1 6) 0 = s_gh S 0 + 1 := gh_mk0
      have e1 : s_gh (g_mk S 1 6) 1 = s_gh S 1 + 6 := rfl
      exact h.idle SAM_mk hj' (by omega) (by omega) (by omega) (by omega) (fun j hj => gh_mkj hj) rfl
    · exact h.nxa hk hj a
    · exact (h.run hk hj r1 r2).2.2
    · exact h.nxp hk hj a
  · exact h.idle SAM.rf hj' (Nat.le_refl _) (by omega) (by omega) (by omega) (fun j _ => rfl) rfl
  · have e0 : s_gh (u_ct S c q) 0 = c := by
      show fu (fu (s_gh S) 0 c) 1 q 0 = _
      rw [fu_ne (by decide), fu_eq]
    have e1 : s_gh (u_ct S c q) 1 = q := by
      show fu (fu (s_gh S) 0 c) 1 q 1 = _
      rw [fu_eq]
    have e2 : ∀ j : Nat, 2 ≤ j → s_gh (u_ct S c q) j = s_gh S j := fun j hj => by
      show fu (fu (s_gh S) 0 c) 1 q j = _
      rw [fu_ne (by omega), fu_ne (by omega)]
    exact h.idle SAM_uct hj' (by omega) (by omega) (by omega) (by omega) e2 rfl
  · obtain ⟨d1, d2⟩ := parse_cost (by omega) p1
    obtain ⟨V, v1, g, v3, v4⟩ := h
    have cc := cpt_le v4
    have e0 : s_gh (SC c cl sl) 0 = cl := rfl
    have e1 : s_gh (SC c cl sl) 1 = sl := rfl
    refine ⟨V + 2 * len + 60, by omega, g.load hj' (parse_rg p1) d2 p2 p3 d1 (Nat.le_refl _), by omega, Nat.le_of_ble_eq_true rfl, Nat.le_of_ble_eq_true rfl, Nat.le_of_ble_eq_true rfl, Nat.le_of_ble_eq_true rfl, Nat.zero_le _⟩
  · obtain ⟨p1, p2⟩ := cp_b hj.1 (show (s_ms S).length ≤ 6000 by omega)
    obtain ⟨e0, e1⟩ := cp_gh (S := S)
    obtain ⟨t0, t1, -⟩ := ct_gh (S := S) (S2 := copyS S)
    obtain ⟨V, v1, g, v3, v4⟩ := h
    obtain ⟨u1, u2⟩ := ct_cap (S2 := copyS S) v4
    have hjc : LJ (copyS S) := hj.copy (by omega)
    refine ⟨V + cpCl S, by omega, ?_, by rw [u2]; omega, u1⟩
    obtain ⟨nl, Lam, d, gl, h1, h2⟩ := g
    obtain ⟨a1, a2, a3⟩ := gl.1 _ gl.2.1.1
    have hS := gl.2.1.2
    obtain ⟨c3, c4, c5⟩ := LGy_ok a1 a2 (w := 46) (by omega)
    have c6 : lgU (LGy (Lam (d 0)) (lgU (Lam (d 0)) + 46)) = lgU (Lam (d 0)) + 46 := rfl
    refine GA_step (d' := fu d (s + 1) (d 0)) gl h1 h2 gl.2.1.1 LGy_le rfl c3 c4 c5 (by rw [c6, pot_sam SAM_ct]; omega) ⟨?_, ?_⟩ (fun j hj2 Q hq => ?_)
    · rw [fu_ne (by omega)]
      exact gl.2.1.1
    · rw [fu_ne (by omega), fu_eq]
      exact (hS.sam SAM_ct hj').mono LGy_le
    · by_cases e : j = s
      · subst e
        rw [fu_eq] at hq
        cases hq
        rw [fu_eq, fu_eq]
        exact ⟨gl.2.1.1, (hS.sam SAM_copy hjc).mono LGy_le⟩
      · rw [fu_ne e] at hq
        rw [fu_ne (by omega)]
        exact ⟨(gl.2.2 j hj2 Q hq).1, STI_up LGy_le (gl.2.2 j hj2 Q hq).2⟩
  · obtain ⟨V, v1, g, v3, v4⟩ := h
    have cc := cpt_le v4
    obtain ⟨nl, Lam, d, gl, h1, h2⟩ := g
    obtain ⟨w1, w2⟩ := gl.2.2 s hs Q hq
    obtain ⟨a1, a2, a3⟩ := gl.1 _ w1
    have hA : lgA (Lam (d (s + 1))) ≤ 63 := by
      have := sN_pos (n := nl) (F := fun l => lgA (Lam l)) w1
      dsimp only at this
      omega
    have lq := STI_len a2 a3 hA w2
    have sam : SAM Q (copyS (ctS Q S)) := SAM_ct.tr SAM_copy
    obtain ⟨p1, p2⟩ := cp_b w2.2.1.1 (show (s_ms Q).length ≤ 6000 by omega)
    obtain ⟨t0, t1, -⟩ := ct_gh (S := Q) (S2 := S)
    have x1 : cpCl (ctS Q S) = cpCl Q := rfl
    have x2 : cpSl (ctS Q S) = cpSl Q := rfl
    obtain ⟨e0, e1⟩ := cp_gh (S := ctS Q S)
    have y := cpt_copy (S := ctS Q S) hj'.1.2.2.1.2
    have hIQ : Inv (ctS Q S) := ((hz s hs Q hq).1.ct (hz s hs Q hq).2 (by omega)).1
    have hp := pot_le w2
    have pe := pot_sam sam
    obtain ⟨q, hq'⟩ : ∃ q, 4 * s_n (lgC (Lam (d (s + 1)))) * (501 + (lgx (Lam (d (s + 1))) + lgy (Lam (d (s + 1))))) = q := ⟨_, rfl⟩
    rw [hq'] at hp
    obtain ⟨c3, c4, c5⟩ := LGy_ok a1 a2 (w := 60 + q) (by rw [hq']; omega)
    have c6 : lgU (LGy (Lam (d (s + 1))) (lgU (Lam (d (s + 1))) + (60 + q))) = lgU (Lam (d (s + 1))) + (60 + q) := rfl
    refine ⟨V + 46, by omega, ?_, by omega, CAP_copy hIQ (show (s_ms Q).length ≤ 6000 by omega)⟩
    refine GA_step (d' := fu d 0 (d (s + 1))) gl h1 h2 w1 LGy_le rfl c3 c4 c5 (by rw [c6, pe]; omega) ⟨?_, ?_⟩ (fun j hj2 Q' hq2 => ?_)
    · rw [fu_eq]
      exact w1
    · rw [fu_eq, fu_eq]
      exact (w2.sam sam hj').mono LGy_le
    · rw [fu_ne (Nat.succ_ne_zero _)]
      exact ⟨(gl.2.2 j hj2 Q' hq2).1, STI_up LGy_le (gl.2.2 j hj2 Q' hq2).2⟩
/-- what holds after k calls -/
theorem chn_gi : ∀ (k : Nat) (s : LST), k ≤ 64 → CHN k s → GI k s.1 s.2.1 s.2.2.2.1 ∧ LJ s.1 ∧ ZJ s.1 s.2.1
  | 0, s, _, h => by
    obtain ⟨cl, sl, e1, h1, h2, e2, e3⟩ := h
    rw [e1, e2, e3]
    refine ⟨⟨cl, Nat.le_refl _, GA_0 h1, ?_, Nat.le_of_ble_eq_true rfl, Nat.le_of_ble_eq_true rfl, Nat.le_of_ble_eq_true rfl, Nat.le_of_ble_eq_true rfl, Nat.zero_le _⟩, LJ_SC RGCP (by decide) (by decide) (by omega), fun s hs Q hq => by cases hq⟩
    have e : s_gh (SC csP cl sl) 1 = sl := rfl
    rw [e]
    omega
  | k + 1, s, hk, h => by
    obtain ⟨r, hr, hn⟩ := h
    obtain ⟨g, hj, hz⟩ := chn_gi k r (by omega) hr
    have f := g.ftl (bf := r.2.2.1) (le := r.2.2.2.2) (by omega) hj
    obtain ⟨k1, k2⟩ := NXL.lj hj hz f hn
    exact ⟨g.nxl (by omega) hj hz hn, k1, k2⟩
/-- THE ROOM -/
theorem room_holds : ROOM := fun k s hk hc hj _ => (chn_gi k s (by omega) hc).1.ftl (bf := s.2.2.1) (le := s.2.2.2.2) hk hj
end RMS
