/-! ROOM: the account after each kind of call -/
set_option maxRecDepth 100000
/-- an action keeps what holds at rest -/
theorem NXa.lj {S S' : SS} (h : LJ S) (hb : s_gh S' 0 ≤ 1000000) (ha : NXa S S') : LJ S' ∧ s_gh S 0 ≤ s_gh S' 0 := by
  rcases ha with rfl | ⟨i, hi, ha⟩
  · exact ⟨h.rsv hb, (gle.tr (b := u_sc (u_sc S 12 (-4)) 15 (srvAt S + s_cf S 3)) gle.rf gle_note).1⟩
  · rcases ha with rfl | rfl | rfl | rfl | ⟨ms, hm, rfl⟩ | ⟨v, hv, rfl⟩ | ⟨ms, du, hm, hd, rfl⟩ | ⟨r, hr, ⟨v, hv, rfl | ⟨ms, hm, rfl⟩⟩ | rfl | rfl⟩
    · refine ⟨h.camp hi hb, ?_⟩
      unfold campS
      split
      · exact Nat.le_refl _
      · split
        · exact (gle.tr (b := u_nd S i 3 1) gle.rf gle_acquire).1
        · exact Nat.le_refl _
    · refine ⟨h.wit hi hb, ?_⟩
      unfold withS
      split
      · exact Nat.le_refl _
      · split
        · exact Nat.le_refl _
        · dsimp only
          split
          · exact Nat.le_refl _
          · exact (gle.tr (b := u_nd (u_nd S i 3 0) i 8 (-4)) gle.rf gle_sendS).1
    · refine ⟨h.cra hi hb, ?_⟩
      unfold crashS
      split
      · exact Nat.le_refl _
      · exact (gle_note (S := S) (k := 7) (n := Int32.ofNat i) (t := s_nd S i 6)).1
    · exact ⟨h.res hi, Nat.le_refl _⟩
    · refine ⟨h.pau hi hm, ?_⟩
      unfold pauS
      split <;> exact Nat.le_refl _
    · exact ⟨h.cut_ hv, Nat.le_refl _⟩
    · refine ⟨h.out hi hm hd hb, ?_⟩
      unfold ouS
      split
      · exact Nat.le_refl _
      · exact (gle.tr gle_mk gle_add).1
    · refine ⟨h.wri hi hr hv hb, ?_⟩
      unfold wrS
      split
      · exact Nat.le_refl _
      · exact gle_sendS.1
    · refine ⟨h.wla hi hr hv hm hb, ?_⟩
      unfold wlS
      split
      · exact Nat.le_refl _
      · split
        · exact Nat.le_refl _
        · exact (gle.tr gle_mk gle_add).1
    · refine ⟨h.fet hi hr hb, ?_⟩
      unfold feS
      split
      · exact Nat.le_refl _
      · exact gle_sendS.1
    · refine ⟨h.rea, ?_⟩
      unfold rdS
      split
      · exact Nat.le_refl _
      · split
        · exact Nat.le_refl _
        · dsimp only
          split <;> exact Nat.le_refl _
/-- the account after k calls: cells (V or less), slots, capacities -/
def GI (k : Nat) (S : SS) (Z : Nat → Option SS) (len : Nat) : Prop := ∃ V : Nat, s_gh S 0 ≤ V ∧ GA k V S Z len ∧ s_gh S 1 ≤ 300000 + 7 * V + 3 * cpt S + 40000 * k ∧ CAP S
/-- what a prediction begins with -/
def PSX (S S0 : SS) : Prop := gle (copyS S) S0 ∧ SL (copyS S) S0 ∧ CAP S0 ∧ GH S0 ≤ s_gh S 0 + 95 ∧ (now S0).toInt = (now S).toInt
section STP
variable {k len len' n i r V : Nat} {S S' S0 S2 : SS} {Z Z' : Nat → Option SS} {t : Int32} {L : LG}
theorem GI.b (h : GI k S Z len) (hk : k ≤ 64) : s_gh S 0 + pot S ≤ 100 + 9400 * k ∧ s_gh S 1 ≤ 329440 + 105800 * k := by
  obtain ⟨V, v1, g, v3, v4⟩ := h
  have a := g.b hk
  have b := cpt_le v4
  omega
theorem GI.fit (h : GI k S Z len) (hk : k ≤ 64) : fitB BB S := by
  have := h.b hk
  refine ⟨?_, ?_⟩
  · show s_gh S 0 ≤ 603072
    omega
  · show s_gh S 1 ≤ 7125098
    omega
/-- messages and delayed writes are few -/
theorem STI_len (hW : WF L) (hG : LGD L) (h64 : lgA L ≤ 63) (hS : STI L S) : (s_ms S).length + (s_dl S).length ≤ 5999 := by
  have := msg_ld hW hG (by omega) hS.pst
  omega
theorem GI.len (h : GI k S Z len) (hk : k < 64) : (s_ms S).length + (s_dl S).length ≤ 5999 ∧ len ≤ k := by
  obtain ⟨V, v1, g, v3, v4⟩ := h
  obtain ⟨L, a1, a2, a3, a4, a5⟩ := g.led
  exact ⟨STI_len a2 a3 (by omega) a4, g.len⟩
/-- a call that is charged to nobody -/
theorem GI.idle (h : GI k S Z len) (hs : SAM S S') (hj : LJ S') (hg : s_gh S 0 ≤ s_gh S' 0) (hV : s_gh S' 0 + 60 * len' ≤ s_gh S 0 + 60 * len + 60) (hl : len' ≤ len + 1) (h1 : s_gh S' 1 ≤ s_gh S 1 + 9000) (hk : ∀ j : Nat, 2 ≤ j → s_gh S' j = s_gh S j) (hlg : s_lg S' = s_lg S) : GI (k + 1) S' Z len' := by
  obtain ⟨V, v1, g, v3, v4⟩ := h
  have ec : cpt S' = cpt S := by
    unfold cpt
    rw [hk 2 (by decide), hk 3 (by decide), hk 4 (by decide), hk 5 (by decide)]
  have eC : CAP S' := by
    unfold CAP
    rw [hk 2 (by decide), hk 3 (by decide), hk 4 (by decide), hk 5 (by decide), hlg]
    exact v4
  refine ⟨V + (s_gh S' 0 - s_gh S 0), by omega, g.idle (fun L h => h.sam hs hj) ?_ hl, ?_, eC⟩
  · rw [pot_sam hs]
    omega
  · rw [ec]
    omega
/-- an action -/
theorem GI.nxa (h : GI k S Z len) (hk : k < 64) (hj : LJ S) (hn : NXa S S') : GI (k + 1) S' Z len := by
  have hl := (h.len hk).1
  have hb0 := (h.b (by omega)).1
  obtain ⟨V, v1, g, v3, v4⟩ := h
  have cap := CAP_nxa hj.1 (by omega) v4 hn
  have sl := SL_nxa hn
  rcases nxa_x hj (by omega) hn with rfl | ⟨i, hi, hc⟩
  · exact ⟨V, v1, g.idle (fun _ h => h) (by omega) (by omega), by omega, v4⟩
  · have hb : s_gh S' 0 ≤ s_gh S 0 + 56 := by
      rcases hc with q | q
      · exact q.2.2.2.2.2.2
      · exact q.2.2.2.2
    obtain ⟨hj', hg⟩ := NXa.lj hj (by omega) hn
    have hp : pot S' ≤ pot S + 4 := by
      rcases hc with q | q
      · exact pot_ac q.1
      · exact pot_ac q.1
    refine ⟨V + (s_gh S' 0 - s_gh S 0), by omega, ?_, ?_, cap⟩
    · obtain ⟨nl, Lam, d, gl, h1, h2⟩ := g
      obtain ⟨a1, a2, a3⟩ := gl.1 _ gl.2.1.1
      rcases hc with q | q
      · obtain ⟨c1, c2, c3, c4, c5, c6⟩ := LGc_ok (i := i) a1 a2 (w := 60) (Nat.le_refl _) _ rfl
        exact GA_main gl h1 h2 c1 c2 c3 c4 c5 (by rw [c6]; omega) (gl.2.1.2.camp q hi hj')
      · obtain ⟨c1, c2, c3, c4, c5, c6⟩ := LGa_ok (i := i) a1 a2 (w := 60) (Nat.le_refl _) _ rfl
        exact GA_main gl h1 h2 c1 c2 c3 c4 c5 (by rw [c6]; omega) (gl.2.1.2.act q hi hj')
    · unfold SL at sl
      omega
/-- time goes on -/
theorem GI.run (h : GI k S Z len) (hk : k < 64) (hj : LJ S) (rn : RN S t n) (ht : t.toInt ≤ (now S).toInt + 5000 ∨ t = nextEvent S) : msB n S t ∧ s_gh (goOn n S t) 0 ≤ 900000 ∧ GI (k + 1) (goOn n S t) Z len := by
  have hb0 := (h.b (by omega)).1
  obtain ⟨V, v1, g, v3, v4⟩ := h
  have hd20 := hj.1.2.2.2.2.2.2.2.2.2.1
  have hn6 := hj.1.2.2.1.2
  have sl := SL_goOn n (S := S) (t := t)
  have gl0 := (gle_goOn n (S := S) (t := t)).1
  obtain ⟨nl, Lam, d, gl, h1, h2⟩ := g
  obtain ⟨a1, a2, a3⟩ := gl.1 _ gl.2.1.1
  have hS := gl.2.1.2
  have hA : lgA (Lam (d 0)) + 1 ≤ 64 := by
    have := sN_pos (n := nl) (F := fun l => lgA (Lam l)) gl.2.1.1
    dsimp only at this
    omega
  obtain ⟨m1, m2, m3, w, L', c1, c2, c3, c4, c5, c6, c7, -, c9⟩ := run_led (adv := 1) a1 a2 a3 hA hS.pst (by omega) rn ht (Nat.le_refl _)
  have hj' := hj.goOn rn (Nat.le_trans m3 (by decide))
  have cap := CAP_goOn n (t := t) (S := S) (by omega) hn6 m1 v4
  have x7 := c7 rfl
  have b1 := GH_b (S := S)
  have b2 := GH_b (S := goOn n S t)
  have o1 : oN S ≤ lgy (Lam (d 0)) := hS.2.2.2.2.1
  refine ⟨m1, m3, V + (s_gh (goOn n S t) 0 - s_gh S 0), by omega, ?_, ?_, cap⟩
  · exact GA_main gl h1 h2 c1 c2 c3 c4 c5 (by rw [c6]; omega) (c9 rfl hS hj')
  · unfold SL at sl
    omega
theorem cp_gh : s_gh (copyS S) 0 = s_gh S 0 + cpCl S ∧ s_gh (copyS S) 1 = s_gh S 1 + cpSl S := ⟨rfl, rfl⟩
/-- where a prediction begins -/
theorem psx_of (hj : LJ S) (hl : (s_ms S).length ≤ 5999) (hg : s_gh S 0 ≤ 900000) (hp : PS0 S S0) : PSX S S0 ∧ ∀ L : LG, STI L S → PST L S0 := by
  obtain ⟨p1, p2⟩ := cp_b hj.1 (by omega)
  obtain ⟨e0, e1⟩ := cp_gh (S := S)
  have hb : s_gh (copyS S) 0 ≤ 1000000 := by omega
  have hc := CAP_copy hj.1 (show (s_ms S).length ≤ 6000 by omega)
  have b1 := GH_b (S := copyS S)
  have hI := Inv_copy hj.1 hb
  have n1 : now (copyS S) = now S := SAM_copy.2.2.2.2.2
  rcases hp with rfl | rfl | ⟨i, r, hi, hr, hu, h4, rfl⟩
  · exact ⟨⟨gle.rf, SL.rf, hc, by omega, by rw [n1]⟩, fun L h => PST_copy h hb⟩
  · refine ⟨⟨gle.rf, SL.of rfl, hc.same rfl rfl, ?_, ?_⟩, fun L h => PST_17 h hb⟩
    · show GH (copyS S) ≤ _
      omega
    · have : now (u_sc (copyS S) 17 0) = now (copyS S) := (SAM_sc (by decide)).2.2.2.2.2
      rw [this, n1]
  · obtain ⟨nw, n2, n3, n4⟩ := snd_x (X := copyS S) (k := 4) (i := i) (ln := 3) (a := s_nd (copyS S) i 6) (b := Int32.ofNat r) (c := 0) hI hi (show (s_ms S).length < 8000 by omega)
    have w := (wri_x (S := copyS S) (i := i) (k := 4) (ln := 3) (a := s_nd (copyS S) i 6) (b := Int32.ofNat r) (c := 0) hI hi (by decide) (show (s_ms S).length < 8000 by omega)).1
    have b2 := GH_b (S := send (copyS S) 4 i 3 (s_nd (copyS S) i 6) (Int32.ofNat r) 0)
    have hb2 : s_gh (tryC (copyS S) i r 0) 0 ≤ 1000000 := by
      show s_gh (send (copyS S) 4 i 3 (s_nd (copyS S) i 6) (Int32.ofNat r) 0) 0 ≤ 1000000
      omega
    refine ⟨⟨gle_sendS, (SL_send (by decide)).up rfl, (LCP_send.2.2.2 (show (s_ms S).length + 1 ≤ 6061 by omega) hc).same rfl rfl, ?_, ?_⟩, fun L h => PST_try h hb2 hi hr (by omega)⟩
    · show GH (send (copyS S) 4 i 3 (s_nd (copyS S) i 6) (Int32.ofNat r) 0) ≤ _
      omega
    · have a : now (tryC (copyS S) i r 0) = now (send (copyS S) 4 i 3 (s_nd (copyS S) i 6) (Int32.ofNat r) 0) := (SAM_sc (by decide)).2.2.2.2.2
      rw [a, w.1.2.2.1, n1]
theorem ct_gh : s_gh (ctS S S2) 0 = s_gh S2 0 ∧ s_gh (ctS S S2) 1 = s_gh S2 1 ∧ ∀ j : Nat, 2 ≤ j → s_gh (ctS S S2) j = s_gh S j := by
  refine ⟨gh_ctS, ?_, fun j hj => ?_⟩
  · show fu (fu (s_gh S) 0 (s_gh S2 0)) 1 (s_gh S2 1) 1 = _
    rw [fu_eq]
  · show fu (fu (s_gh S) 0 (s_gh S2 0)) 1 (s_gh S2 1) j = _
    rw [fu_ne (by omega), fu_ne (by omega)]
theorem ct_cap (h : CAP S) : CAP (ctS S S2) ∧ cpt (ctS S S2) = cpt S := by
  have hk := (ct_gh (S := S) (S2 := S2)).2.2
  refine ⟨?_, ?_⟩
  · unfold CAP
    rw [hk 2 (by decide), hk 3 (by decide), hk 4 (by decide), hk 5 (by decide)]
    exact h
  · unfold cpt
    rw [hk 2 (by decide), hk 3 (by decide), hk 4 (by decide), hk 5 (by decide)]
/-- slots of a prediction -/
theorem pred_sl {S1 : SS} (hn : s_n S ≤ 6) (h1 : SL (copyS S) S1) (hc : CAP S1) (hg : s_gh (copyS S) 0 ≤ s_gh S1 0) : s_gh S1 1 ≤ s_gh S 1 + 29072 + 7 * (s_gh S1 0 - s_gh S 0) := by
  obtain ⟨e0, e1⟩ := cp_gh (S := S)
  have a := cpt_copy (S := S) hn
  have b := cpt_le hc
  unfold SL at h1
  omega
/-- a prediction -/
theorem GI.pred (h : GI k S Z len) (hk : k < 64) (hj : LJ S) (hp : PS0 S S0) (rn : RN S0 t n) (ht : t.toInt ≤ (now S).toInt + 5000) : msB n S0 t ∧ s_gh (goOn n S0 t) 0 ≤ 900000 ∧ gle (copyS S) (goOn n S0 t) ∧ ∀ S2 : SS, gle (copyS S) S2 → gle S2 (goOn n S0 t) → GI (k + 1) (ctS S S2) Z len := by
  have hl := (h.len hk).1
  have hb0 := (h.b (by omega)).1
  obtain ⟨V, v1, g, v3, v4⟩ := h
  have hn6 := hj.1.2.2.1.2
  obtain ⟨⟨x1, x2, x3, x4, x5⟩, x6⟩ := psx_of hj (by omega) (by omega) hp
  obtain ⟨e0, e1⟩ := cp_gh (S := S)
  obtain ⟨nl, Lam, d, gl, h1, h2⟩ := g
  obtain ⟨a1, a2, a3⟩ := gl.1 _ gl.2.1.1
  have hS := gl.2.1.2
  have hP := x6 _ hS
  have hA : lgA (Lam (d 0)) + 1 ≤ 64 := by
    have := sN_pos (n := nl) (F := fun l => lgA (Lam l)) gl.2.1.1
    dsimp only at this
    omega
  have b1 := GH_b (S := S0)
  obtain ⟨m1, m2, m3, w, L', c1, c2, c3, c4, c5, c6, -, c8, -⟩ := run_led (adv := 0) a1 a2 a3 hA hP (by omega) rn (Or.inl (by omega)) (Nat.zero_le _)
  have hI0 := hP.2.1.1
  have cap := CAP_goOn n (t := t) (S := S0) (by have := hI0.2.2.2.2.2.2.2.2.2.1; omega) hI0.2.2.1.2 m1 x3
  have gg := x1.tr (gle_goOn n (S := S0) (t := t))
  have sl := pred_sl hn6 (x2.tr (SL_goOn n (S := S0) (t := t))) cap gg.1
  have y8 := c8 rfl
  have b2 := GH_b (S := goOn n S0 t)
  have o1 : oN S0 ≤ lgy (Lam (d 0)) + 1 := hP.2.2.2.2.2.2
  refine ⟨m1, m3, gg, fun S2 g1 g2 => ?_⟩
  obtain ⟨t0, t1, t2⟩ := ct_gh (S := S) (S2 := S2)
  obtain ⟨u1, u2⟩ := ct_cap (S2 := S2) v4
  have z0 := g1.1
  have z1 := g2.1
  have z2 := g2.2
  have hj' : LJ (ctS S S2) := hj.ct (by omega) (by omega)
  refine ⟨V + (s_gh (goOn n S0 t) 0 - s_gh S 0), by omega, ?_, ?_, u1⟩
  · exact GA_main gl h1 h2 c1 c2 c3 c4 c5 (by rw [c6, pot_sam SAM_ct]; omega) ((hS.sam SAM_ct hj').mono c1)
  · rw [u2]
    omega
/-- a call with no ledger of its own -/
theorem GI_y (g : GA k V S Z len) (hs : SAM S S') (hj : LJ S') {V' : Nat} (hV : V' ≤ V + 160) : GA (k + 1) V' S' Z len := by
  obtain ⟨nl, Lam, d, gl, h1, h2⟩ := g
  obtain ⟨a1, a2, a3⟩ := gl.1 _ gl.2.1.1
  have hS := gl.2.1.2
  obtain ⟨q, hq⟩ : ∃ q, 4 * s_n (lgC (Lam (d 0))) * (501 + (lgx (Lam (d 0)) + lgy (Lam (d 0)))) = q := ⟨_, rfl⟩
  have q0 : 4 * 1 * 501 ≤ q := by
    rw [← hq]
    refine Nat.mul_le_mul (Nat.mul_le_mul_left _ ?_) (Nat.le_add_right _ _)
    have := hS.2.1.1.2.2.1.1
    rw [hS.1.2.1] at this
    exact this
  obtain ⟨c3, c4, c5⟩ := LGy_ok a1 a2 (w := 160) (by rw [hq]; omega)
  have c6 : lgU (LGy (Lam (d 0)) (lgU (Lam (d 0)) + 160)) = lgU (Lam (d 0)) + 160 := rfl
  exact GA_main gl h1 h2 LGy_le rfl c3 c4 c5 (by rw [c6, pot_sam hs]; omega) ((hS.sam hs hj).mono LGy_le)
/-- a write is tried -/
theorem GI.try_ (h : GI k S Z len) (hk : k < 64) (hj : LJ S) (hi : i < s_n S) (hr : r < 8) (hu : unfi S i = 0) (hn : 5000 ≤ n) : s_gh (tryW n (copyS S) i r).2 0 ≤ 1000000 ∧ GI (k + 1) (ctS S (tryW n (copyS S) i r).2) Z len := by
  have hl := (h.len hk).1
  have hb0 := (h.b (by omega)).1
  have hn6 := hj.1.2.2.1.2
  obtain ⟨p1, p2⟩ := cp_b hj.1 (by omega)
  obtain ⟨e0, e1⟩ := cp_gh (S := S)
  have hb : s_gh (copyS S) 0 ≤ 1000000 := by omega
  have hI := Inv_copy hj.1 hb
  have hc := CAP_copy hj.1 (show (s_ms S).length ≤ 6000 by omega)
  have b1 := GH_b (S := copyS S)
  have n1 : now (copyS S) = now S := SAM_copy.2.2.2.2.2
  have key : s_gh (send (copyS S) 4 i 3 (s_nd (copyS S) i 6) (Int32.ofNat r) 0) 0 ≤ 1000000 ∧ GI (k + 1) (ctS S (send (copyS S) 4 i 3 (s_nd (copyS S) i 6) (Int32.ofNat r) 0)) Z len := by
    obtain ⟨nw, n2, n3, n4⟩ := snd_x (X := copyS S) (k := 4) (i := i) (ln := 3) (a := s_nd (copyS S) i 6) (b := Int32.ofNat r) (c := 0) hI hi (show (s_ms S).length < 8000 by omega)
    have b2 := GH_b (S := send (copyS S) 4 i 3 (s_nd (copyS S) i 6) (Int32.ofNat r) 0)
    have g1 : gle (copyS S) (send (copyS S) 4 i 3 (s_nd (copyS S) i 6) (Int32.ofNat r) 0) := gle_sendS
    have c1 : CAP (send (copyS S) 4 i 3 (s_nd (copyS S) i 6) (Int32.ofNat r) 0) := LCP_send.2.2.2 (show (s_ms S).length + 1 ≤ 6061 by omega) hc
    have sl := pred_sl hn6 (SL_send (S := copyS S) (kind := 4) (node := i) (len := 3) (a := s_nd (copyS S) i 6) (b := Int32.ofNat r) (c := 0) (by decide)) c1 g1.1
    obtain ⟨X, hX⟩ : ∃ X, send (copyS S) 4 i 3 (s_nd (copyS S) i 6) (Int32.ofNat r) 0 = X := ⟨_, rfl⟩
    rw [hX] at n4 b2 g1 sl ⊢
    obtain ⟨V, v1, g, v3, v4⟩ := h
    obtain ⟨t0, t1, t2⟩ := ct_gh (S := S) (S2 := X)
    obtain ⟨u1, u2⟩ := ct_cap (S2 := X) v4
    have z0 := g1.1
    refine ⟨by omega, V + 95, by omega, GI_y g SAM_ct (hj.ct (by omega) (by omega)) (by omega), ?_, u1⟩
    rw [u2]
    omega
  rw [tryW_eq]
  by_cases c4 : s_nd (copyS S) i 4 = 0
  · rw [if_pos c4]
    by_cases c5 : tryT (copyS S) i ≤ 5000000
    · rw [if_pos c5]
      have hp : PS0 S (tryC (copyS S) i r 0) := Or.inr (Or.inr ⟨i, r, hi, hr, hu, c4, rfl⟩)
      obtain ⟨⟨x1, x2, x3, x4, x5⟩, x6⟩ := psx_of hj (by omega) (by omega) hp
      obtain ⟨t1, t2⟩ := tryT_b hI hi
      rw [n1] at t1 t2
      have t3 : (tryT (copyS S) i).toInt ≤ 5000000 := by
        have k5 : ((5000000 : Int32)).toInt = 5000000 := by decide
        have := Int32.le_iff_toInt_le.mp c5
        omega
      obtain ⟨q1, q2, q3, q4⟩ := h.pred hk hj hp (t := tryT (copyS S) i) (n := n) ⟨by omega, t3, by omega⟩ (by omega)
      exact ⟨Nat.le_trans q2 (by decide), q4 _ q3 gle.rf⟩
    · rw [if_neg c5]
      exact key
  · rw [if_neg c4]
    exact key
theorem GI.nxp (h : GI k S Z len) (hk : k < 64) (hj : LJ S) (hn : NXp S S') : GI (k + 1) S' Z len := by
  obtain ⟨S2, rfl, g1, ⟨S0, t, n, p1, p2, p3, p4⟩ | ⟨i, r, n, p1, p2, p3, p4, rfl⟩⟩ := hn
  · exact (h.pred hk hj p1 p2 p3).2.2.2 S2 g1 p4
  · exact (h.try_ hk hj p1 p2 p3 p4).2
end STP
