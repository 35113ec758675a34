/-! THE INVARIANT is kept: messages -/
set_option maxRecDepth 100000
section IV2
variable {S S' : SS}
theorem gle_send2 {k n l : Nat} {a b c : Int32} : gle S (send S k n l a b c) := gle_mk.tr gle_send
theorem limit_b {first : Int32} (h : Inv S) (hf : iv first 0 5700000) : iv (limitOf S first) first.toInt 5760000 := by
  have hd := h.1.2.2.1
  have hb := h.1.2.2.2.1
  have k64 : ((1000 : Int64)).toInt = 1000 := by decide
  unfold limitOf
  have hm := mul_in (a := (s_cf S 3).toInt) (b := 1000 - (s_cf S 4).toInt) (x := 60000) (y := 1000) (by omega) (by omega) (by omega) (by omega)
  have f1 : ((1000 : Int64) - (s_cf S 4).toInt64).toInt = 1000 - (s_cf S 4).toInt := by rw [l_sub] <;> rw [k64, Int32.toInt_toInt64] <;> omega
  have f2 : ((1000 : Int64) + (s_cf S 4).toInt64).toInt = 1000 + (s_cf S 4).toInt := by rw [l_add] <;> rw [k64, Int32.toInt_toInt64] <;> omega
  have f3 : ((s_cf S 3).toInt64 * ((1000 : Int64) - (s_cf S 4).toInt64)).toInt = (s_cf S 3).toInt * (1000 - (s_cf S 4).toInt) := by rw [l_mul] <;> rw [f1, Int32.toInt_toInt64] <;> omega
  have f4 : ((s_cf S 3).toInt64 * ((1000 : Int64) - (s_cf S 4).toInt64) / ((1000 : Int64) + (s_cf S 4).toInt64)).toInt = (s_cf S 3).toInt * (1000 - (s_cf S 4).toInt) / (1000 + (s_cf S 4).toInt) := by rw [l_div (by rw [f3]; exact hm.1) (by rw [f2]; omega), f3, f2]
  have q1 : 0 ≤ (s_cf S 3).toInt * (1000 - (s_cf S 4).toInt) / (1000 + (s_cf S 4).toInt) := Int.ediv_nonneg hm.1 (by omega)
  have q2 : (s_cf S 3).toInt * (1000 - (s_cf S 4).toInt) / (1000 + (s_cf S 4).toInt) ≤ 60000 := by
    have : (s_cf S 3).toInt * (1000 - (s_cf S 4).toInt) ≤ 60000 * (1000 + (s_cf S 4).toInt) := by
      have h1 := mul_in (a := (s_cf S 3).toInt) (b := 1000 - (s_cf S 4).toInt) (x := 60000) (y := 1000 + (s_cf S 4).toInt) (by omega) (by omega) (by omega) (by omega)
      exact h1.2
    exact Int.ediv_le_of_le_mul (by omega) this
  obtain ⟨q, hq⟩ : ∃ q : Int64, q = (s_cf S 3).toInt64 * ((1000 : Int64) - (s_cf S 4).toInt64) / ((1000 : Int64) + (s_cf S 4).toInt64) := ⟨_, rfl⟩
  rw [← hq] at f4 ⊢
  have f5 : (first.toInt64 + q).toInt = first.toInt + q.toInt := by rw [l_add] <;> rw [Int32.toInt_toInt64] <;> omega
  refine ⟨?_, ?_⟩ <;> rw [l_int (by rw [f5]; omega) (by rw [f5]; omega), f5] <;> omega
theorem Inv_decide {m : MG} (h : Inv S) (hm : MI2 S m) (hk : m.1 = 0) (hb : s_gh (decide_ S m) 0 ≤ 1000000) : Inv (decide_ S m) := by
  have hn := hm.1.2.1
  have hsv := h.srv
  have hd := h.1.2.2.1
  have c1 := h.1.2.1
  have hn6 := h.2.2.1.2
  have W := h.2.2.2.1
  unfold decide_ at hb ⊢
  dsimp only at hb ⊢
  by_cases hc : srvAt S < s_sc S 15 ∨ (s_sc S 12 != -4 && decide (srvAt S < s_sc S 13)) = true ∧ s_sc S 12 ≠ Int32.ofNat m.2.1
  · rw [if_pos hc] at hb ⊢
    have h1 : Inv (note S 3 (Int32.ofNat m.2.1) (s_sc S 14)) := Inv_note h (Nat.le_trans gle_send2.1 hb)
    exact Inv_send h1 hb (by decide) (by rw [cS_note.2.1]; exact hn) (fun hk => absurd hk.1 (by decide)) (fun hk => by rcases hk with hk | hk <;> exact absurd hk (by decide)) (fun hk => absurd hk (by decide))
  · rw [if_neg hc] at hb ⊢
    obtain ⟨S1, hS1⟩ : ∃ S1 : SS, S1 = u_sc (u_sc (if (s_sc S 12 != -4 && decide (srvAt S < s_sc S 13)) = true then S else u_sc S 14 (s_sc S 14 + 1)) 12 (Int32.ofNat m.2.1)) 13 (srvAt S + s_cf S 3) := ⟨_, rfl⟩
    obtain ⟨kk, hkk⟩ : ∃ kk : Nat, kk = (if (s_sc S 12 != -4 && decide (srvAt S < s_sc S 13)) = true then 2 else 1) := ⟨_, rfl⟩
    rw [← hS1, ← hkk] at hb ⊢
    have e13 : (srvAt S + s_cf S 3).toInt = (srvAt S).toInt + (s_cf S 3).toInt := i_add (by omega) (by omega)
    have f1 : s_cf S1 = s_cf S := by rw [hS1]; split <;> rfl
    have f2 : s_n S1 = s_n S := by rw [hS1]; split <;> rfl
    have f3 : s_nd S1 = s_nd S := by rw [hS1]; split <;> rfl
    have f5 : S1.2.2.2.1 = S.2.2.2.1 := by rw [hS1]; split <;> rfl
    have f6 : s_gh S1 = s_gh S := by rw [hS1]; split <;> rfl
    have g8 : s_sc S1 8 = s_sc S 8 := by rw [hS1]; split <;> rfl
    have g9 : s_sc S1 9 = s_sc S 9 := by rw [hS1]; split <;> rfl
    have g10 : s_sc S1 10 = s_sc S 10 := by rw [hS1]; split <;> rfl
    have g12 : s_sc S1 12 = Int32.ofNat m.2.1 := by rw [hS1]; rfl
    have g13 : s_sc S1 13 = srvAt S + s_cf S 3 := by rw [hS1]; rfl
    have g15 : s_sc S1 15 = s_sc S 15 := by rw [hS1]; split <;> rfl
    have g14 : (s_sc S 14).toInt ≤ (s_sc S1 14).toInt ∧ (s_sc S1 14).toInt ≤ (s_sc S 14).toInt + 1 := by
      rw [hS1]
      split
      · exact ⟨Int.le_refl _, by show (s_sc S 14).toInt ≤ _; omega⟩
      · show (s_sc S 14).toInt ≤ (s_sc S 14 + 1).toInt ∧ (s_sc S 14 + 1).toInt ≤ _
        have k1 : ((1 : Int32)).toInt = 1 := by decide
        have a5 := W.2.2.2.2.1
        have a4 := W.2.2.2.1
        rw [i_add (by rw [k1]; omega) (by rw [k1]; omega), k1]
        omega
    clear hS1
    obtain ⟨tk, htk⟩ : ∃ tk : Int32, tk = s_sc S1 14 := ⟨_, rfl⟩
    have hb2 : s_gh (note S1 kk (Int32.ofNat m.2.1) (s_sc S1 14)) 0 ≤ 1000000 := Nat.le_trans gle_send2.1 hb
    have hg := gh_note (S := S1) (k := kk) (n := Int32.ofNat m.2.1) (t := s_sc S1 14)
    rw [f6] at hg
    have hms : s_ms S1 = s_ms S := congrArg (fun q => q.1) f5
    have hou : s_ou S1 = s_ou S := congrArg (fun q => q.2.2.1) f5
    have hdl : s_dl S1 = s_dl S := congrArg (fun q => q.2.1) f5
    have hlg : s_lg S1 = s_lg S := congrArg (fun q => q.2.2.2) f5
    have h1 : Inv (note S1 kk (Int32.ofNat m.2.1) (s_sc S1 14)) := by
      refine h.of (cS_note.1.trans f1) (cS_note.2.1.trans f2) (fun i hi => by rw [cS_note.2.2, f3]; exact h.2.1 i hi) (fun i => by rw [cS_note.2.2, f3]) (by rw [sc_note2, g8]) ?_ (by rw [sc_note2, g10]; exact Int.le_refl _) (fun q hq => by rw [ms_note2, hms] at hq; exact Or.inl hq) (by rw [ms_note2, hms]; exact h.2.2.2.2.2.1) (fun o ho => by rw [ls_note.1, hou] at ho; exact ho) (by rw [ls_note.1, hou]; exact h.2.2.2.2.2.2.2.2.1) (fun d hd => by rw [ls_note.2, hdl] at hd; exact hd) (by rw [ls_note.2, hdl]; exact h.2.2.2.2.2.2.2.2.2.1) (lg_note (by rw [hlg]; exact h.2.2.2.2.2.2.2.2.2.2))
      obtain ⟨a1, a2, a3, a4, a5, a6, a7, a8, a9⟩ := W
      unfold WI
      show iv (s_sc (note S1 kk (Int32.ofNat m.2.1) (s_sc S1 14)) 8) 0 5000000 ∧ _
      rw [sc_note2, cS_note.1, cS_note.2.1, f1, f2, g8, g9, g10, g12, g13, g15]
      refine ⟨a1, a2, ⟨a3.1, by have := a3.2; omega⟩, hb2, ⟨by have := a5.1; omega, by have := a5.2; omega⟩, Or.inr ⟨m.2.1, hn, rfl⟩, ⟨?_, ?_⟩, fun _ => ?_, a9⟩
      · rw [e13]; omega
      · rw [e13]; omega
      · rw [e13]; omega
    refine Inv_send h1 hb (by decide) (by rw [cS_note.2.1, f2]; exact hn) (fun hk => absurd hk.1 (by decide)) (fun _ => ?_) (fun _ => ?_)
    · rw [cS_note.2.2, f3]
      exact hm.2.1 (Or.inl hk)
    · rw [sc_note2]
      have := W.2.2.2.2.1.1
      omega
theorem Inv_release {m : MG} (h : Inv S) (hb : s_gh (release S m) 0 ≤ 1000000) : Inv (release S m) := by
  unfold release at hb ⊢
  by_cases hc : m.2.2.2.1 = s_sc S 14
  · rw [if_pos hc] at hb ⊢
    have key : ∀ S0 : SS, Inv S0 → Inv (u_sc S0 12 (-4)) := fun S0 h0 => by
      refine h0.of rfl rfl h0.2.1 (fun _ => rfl) rfl ?_ (Int.le_refl _) (fun q hq => Or.inl hq) h0.2.2.2.2.2.1 (fun o ho => ho) h0.2.2.2.2.2.2.2.2.1 (fun d hd => hd) h0.2.2.2.2.2.2.2.2.2.1 h0.2.2.2.2.2.2.2.2.2.2
      obtain ⟨a1, a2, a3, a4, a5, a6, a7, a8, a9⟩ := h0.2.2.2.1
      exact ⟨a1, a2, a3, a4, a5, Or.inl rfl, a7, fun hx => absurd rfl hx, a9⟩
    by_cases h2 : s_sc S 12 = -4
    · rw [if_pos h2] at hb ⊢
      exact key S h
    · rw [if_neg h2] at hb ⊢
      exact key _ (Inv_note h hb)
  · rw [if_neg hc] at hb ⊢
    exact h
theorem Inv_mk {c k : Nat} (h : Inv S) (hb : s_gh (g_mk S c k) 0 ≤ 1000000) : Inv (g_mk S c k) := by
  refine h.of rfl rfl h.2.1 (fun _ => rfl) rfl (h.2.2.2.1.up rfl rfl (fun _ _ => rfl) (by rw [gh_mk0]; omega) hb) (Int.le_refl _) (fun q hq => Or.inl hq) h.2.2.2.2.2.1 (fun o ho => ho) h.2.2.2.2.2.2.2.2.1 (fun d hd => hd) h.2.2.2.2.2.2.2.2.2.1 h.2.2.2.2.2.2.2.2.2.2
theorem Inv_ga {li sz : Nat} (h : Inv S) (hl : li ≠ 0) (hb : s_gh (g_add S li sz) 0 ≤ 1000000) : Inv (g_add S li sz) := by
  refine h.of rfl rfl h.2.1 (fun _ => rfl) rfl (h.2.2.2.1.up rfl rfl (fun _ _ => rfl) (gg_le hl) hb) (Int.le_refl _) (fun q hq => Or.inl hq) h.2.2.2.2.2.1 (fun o ho => ho) h.2.2.2.2.2.2.2.2.1 (fun d hd => hd) h.2.2.2.2.2.2.2.2.2.1 h.2.2.2.2.2.2.2.2.2.2
theorem Inv_fence {m : MG} (h : Inv S) (hn : m.2.1 < s_n S) (hb : s_gh (fence S m) 0 ≤ 1000000) : Inv (fence S m) := by
  unfold fence at hb ⊢
  have b1 : s_gh (note (g_mk S 2 13) 5 (Int32.ofNat m.2.1) m.2.2.2.1) 0 ≤ 1000000 := Nat.le_trans (gle_watch (S := note (g_mk S 2 13) 5 (Int32.ofNat m.2.1) m.2.2.2.1) (m := m) (i := 1)).1 (Nat.le_trans (gle_send2 (S := watch (note (g_mk S 2 13) 5 (Int32.ofNat m.2.1) m.2.2.2.1) m 1)).1 hb)
  have b2 : s_gh (g_mk S 2 13) 0 ≤ 1000000 := Nat.le_trans gle_note.1 b1
  exact Inv_send (Inv_note (Inv_mk h b2) b1).wt hb (by decide) (by show m.2.1 < s_n (note (g_mk S 2 13) 5 (Int32.ofNat m.2.1) m.2.2.2.1); rw [cS_note.2.1]; exact hn) (fun hk => absurd hk.2 (by decide)) (fun hk => by rcases hk with hk | hk <;> exact absurd hk (by decide)) (fun hk => absurd hk (by decide))
theorem Inv_atStorage {m : MG} (h : Inv S) (hm : mOK (s_n S) m) (hk : m.1 = 4 ∨ m.1 = 5) (hb : s_gh (atStorage S m) 0 ≤ 1000000) : Inv (atStorage S m) := by
  obtain ⟨r, hr8, er⟩ := hm.2.2 (by omega)
  unfold atStorage at hb ⊢
  dsimp only at hb ⊢
  by_cases hc : s_sc S 30 ≤ m.2.2.2.1
  · rw [if_pos hc] at hb ⊢
    by_cases h5 : m.1 = 5
    · rw [if_pos h5] at hb ⊢
      exact Inv_send (h.sc (by decide)) hb (by decide) hm.2.1 (fun _ => ⟨r, hr8, er⟩) (fun hk => by rcases hk with hk | hk <;> exact absurd hk (by decide)) (fun hk => absurd hk (by decide))
    · rw [if_neg h5] at hb ⊢
      have h2 : Inv (u_ar (u_ar (u_sc S 30 m.2.2.2.1) 0 m.2.2.2.2.1.toNatClampNeg m.2.2.2.2.2.1) 1 m.2.2.2.2.1.toNatClampNeg (s_ar S 1 m.2.2.2.2.1.toNatClampNeg + 1)) := ((h.sc (by decide)).ar).ar
      have n2 : s_n (u_ar (u_ar (u_sc S 30 m.2.2.2.1) 0 m.2.2.2.2.1.toNatClampNeg m.2.2.2.2.2.1) 1 m.2.2.2.2.1.toNatClampNeg (s_ar S 1 m.2.2.2.2.1.toNatClampNeg + 1)) = s_n S := rfl
      obtain ⟨S2, hS2⟩ : ∃ S2 : SS, S2 = u_ar (u_ar (u_sc S 30 m.2.2.2.1) 0 m.2.2.2.2.1.toNatClampNeg m.2.2.2.2.2.1) 1 m.2.2.2.2.1.toNatClampNeg (s_ar S 1 m.2.2.2.2.1.toNatClampNeg + 1) := ⟨_, rfl⟩
      rw [← hS2] at h2 n2 hb ⊢
      have b1 : s_gh (note S2 6 (Int32.ofNat m.2.1) m.2.2.2.1) 0 ≤ 1000000 := Nat.le_trans (gle_watch (S := note S2 6 (Int32.ofNat m.2.1) m.2.2.2.1) (m := m) (i := 0)).1 (Nat.le_trans (gle_send2 (S := watch (note S2 6 (Int32.ofNat m.2.1) m.2.2.2.1) m 0)).1 hb)
      exact Inv_send (Inv_note h2 b1).wt hb (by decide) (by show m.2.1 < s_n (note S2 6 (Int32.ofNat m.2.1) m.2.2.2.1); rw [cS_note.2.1, n2]; exact hm.2.1) (fun _ => ⟨r, hr8, er⟩) (fun hk => by rcases hk with hk | hk <;> exact absurd hk (by decide)) (fun hk => absurd hk (by decide))
  · rw [if_neg hc] at hb ⊢
    exact Inv_fence h hm.2.1 hb
theorem nd_at2 {i a : Nat} {x : Int32} : s_nd (u_nd S i a x) i = fu (s_nd S i) a x := by
  show fu (s_nd S) i (fu (s_nd S i) a x) i = _
  rw [fu_eq]
theorem Inv_granted {m : MG} (h : Inv S) (hm : MI2 S m) (hk : m.1 = 1) (hb : s_gh (granted S m) 0 ≤ 1000000) : Inv (granted S m) := by
  have hn := hm.1.2.1
  have hN := h.2.1 m.2.1 hn
  have hx := hm.2.1 (Or.inr hk)
  have ht := hm.2.2.1 hk
  have o1 := hN.2.1.1
  have hl := limit_b (first := m.2.2.2.1) h ⟨by omega, hx.2⟩
  have c5 := h.1.2.2.2.2.1
  have e5 : (m.2.2.2.1 + s_cf S 5).toInt = m.2.2.2.1.toInt + (s_cf S 5).toInt := i_add (by omega) (by omega)
  unfold granted at hb ⊢
  dsimp only at hb ⊢
  by_cases hc : s_nd S m.2.1 3 = 0
  · rw [if_pos hc] at hb ⊢
    exact Inv_send h hb (by decide) hn (fun hk => absurd hk.1 (by decide)) (fun hk => by rcases hk with hk | hk <;> exact absurd hk (by decide)) (fun hk => absurd hk (by decide))
  · rw [if_neg hc] at hb ⊢
    by_cases h1 : m.2.2.2.2.1 < s_nd S m.2.1 6
    · rw [if_pos h1] at hb ⊢
      exact h
    · rw [if_neg h1] at hb ⊢
      obtain ⟨lim, hlim⟩ : ∃ lim : Int32, lim = limitOf S m.2.2.2.1 := ⟨_, rfl⟩
      rw [← hlim] at hl ⊢
      by_cases h2 : s_nd S m.2.1 6 < m.2.2.2.2.1
      · rw [if_pos h2]
        have s1 : Inv (u_nd S m.2.1 9 0) := h.nd (by decide) (fun _ => hN)
        have hN1 : NI (fu (fu (s_nd S m.2.1) 9 0) 7 lim) := by
          obtain ⟨a1, a2, a3, a4, a5, a6, a7, a8, a9, a10, a11, a12⟩ := hN
          exact ⟨a1, a2, a3, a4, a5, a6, a7, a8, a9, ⟨by show 0 ≤ lim.toInt; omega, by show lim.toInt ≤ 7000000; omega⟩, fun _ => by show (s_nd S m.2.1 21).toInt ≤ lim.toInt; omega, a12⟩
        have hN2 : NI (fu (fu (fu (s_nd S m.2.1) 9 0) 6 m.2.2.2.2.1) 7 lim) := by
          obtain ⟨a1, a2, a3, a4, a5, a6, a7, a8, a9, a10, a11, a12⟩ := hN
          exact ⟨a1, a2, a3, a4, a5, a6, a7, a8, ht, ⟨by show 0 ≤ lim.toInt; omega, by show lim.toInt ≤ 7000000; omega⟩, fun _ => by show (s_nd S m.2.1 21).toInt ≤ lim.toInt; omega, a12⟩
        -- all three at once
        have s3 : Inv (u_nd (u_nd (u_nd S m.2.1 9 0) m.2.1 6 m.2.2.2.2.1) m.2.1 7 lim) := by
          refine h.of rfl rfl (fun j hj => ?_) (fun j => ?_) rfl (h.2.2.2.1.up rfl rfl (fun _ _ => rfl) (Nat.le_refl _) h.2.2.2.1.2.2.2.1) (Int.le_refl _) (fun q hq => Or.inl hq) h.2.2.2.2.2.1 (fun o ho => ho) h.2.2.2.2.2.2.2.2.1 (fun d hd => hd) h.2.2.2.2.2.2.2.2.2.1 h.2.2.2.2.2.2.2.2.2.2
          · by_cases hji : j = m.2.1
            · subst hji
              rw [nd_at2, nd_at2, nd_at2]
              exact hN2
            · show NI (fu (fu (fu (s_nd S) m.2.1 _) m.2.1 _) m.2.1 _ j)
              rw [fu_ne hji, fu_ne hji, fu_ne hji]
              exact h.2.1 j hj
          · by_cases hji : j = m.2.1
            · subst hji
              rw [nd_at2, nd_at2, nd_at2]
              rfl
            · show fu (fu (fu (s_nd S) m.2.1 _) m.2.1 _) m.2.1 _ j 21 = _
              rw [fu_ne hji, fu_ne hji, fu_ne hji]
        have s4 : Inv (u_nd (u_nd (u_nd (u_nd S m.2.1 9 0) m.2.1 6 m.2.2.2.2.1) m.2.1 7 lim) m.2.1 7 (mx (s_nd (u_nd (u_nd (u_nd S m.2.1 9 0) m.2.1 6 m.2.2.2.2.1) m.2.1 7 lim) m.2.1 7) lim)) := by
          refine s3.nd (by decide) (fun _ => ?_)
          rw [nd_at2, nd_at2, nd_at2]
          have em : mx (fu (fu (fu (s_nd S m.2.1) 9 0) 6 m.2.2.2.2.1) 7 lim 7) lim = lim := by
            rw [fu_eq]
            unfold mx
            split <;> rfl
          rw [em]
          have ef : fu (fu (fu (fu (s_nd S m.2.1) 9 0) 6 m.2.2.2.2.1) 7 lim) 7 lim = fu (fu (fu (s_nd S m.2.1) 9 0) 6 m.2.2.2.2.1) 7 lim := by
            funext k
            by_cases hk7 : k = 7
            · rw [hk7, fu_eq, fu_eq]
            · rw [fu_ne hk7]
          rw [ef]
          exact hN2
        exact s4.tm hn (by rw [iv, e5]; omega)
      · rw [if_neg h2]
        have s4 : Inv (u_nd S m.2.1 7 (mx (s_nd S m.2.1 7) lim)) := by
          refine h.nd (by decide) (fun _ => ?_)
          obtain ⟨a1, a2, a3, a4, a5, a6, a7, a8, a9, a10, a11, a12⟩ := hN
          refine ⟨a1, a2, a3, a4, a5, a6, a7, a8, a9, ⟨?_, ?_⟩, fun _ => ?_, a12⟩
          · show 0 ≤ (mx (s_nd S m.2.1 7) lim).toInt
            rw [mx_i]; omega
          · show (mx (s_nd S m.2.1 7) lim).toInt ≤ _
            rw [mx_i]; omega
          · show _ ≤ (mx (s_nd S m.2.1 7) lim).toInt
            rw [mx_i]
            show (s_nd S m.2.1 21).toInt ≤ _
            omega
        exact s4.tm hn (by rw [iv, e5]; omega)
theorem Inv_atNode {m : MG} (h : Inv S) (hm : MI2 S m) (hb : s_gh (atNode S m) 0 ≤ 1000000) : Inv (atNode S m) := by
  have hn := hm.1.2.1
  have hN := h.2.1 m.2.1 hn
  unfold atNode at hb ⊢
  dsimp only at hb ⊢
  by_cases k1 : m.1 = 1
  · rw [if_pos k1] at hb ⊢
    exact Inv_granted h hm k1 hb
  rw [if_neg k1] at hb ⊢
  by_cases k2 : m.1 = 2
  · rw [if_pos k2] at hb ⊢
    by_cases hc : s_nd S m.2.1 3 = 0
    · rw [if_pos hc]; exact h
    · rw [if_neg hc]
      have hc := h.clk hn
      have c6 := h.1.2.2.2.2.2.1
      have o1 := hN.2.1.1
      have e : (ndAt S m.2.1 (now S) + s_cf S 6).toInt = (ndAt S m.2.1 (now S)).toInt + (s_cf S 6).toInt := i_add (by omega) (by omega)
      exact h.tm hn (by rw [iv, e]; omega)
  rw [if_neg k2] at hb ⊢
  by_cases k8 : m.1 = 8
  · rw [if_pos k8] at hb ⊢
    by_cases hc : s_nd S m.2.1 6 = m.2.2.2.1
    · rw [if_pos hc]
      unfold lose
      have s1 : Inv (u_nd S m.2.1 6 0) := h.nd (by decide) (fun _ => by
        obtain ⟨a1, a2, a3, a4, a5, a6, a7, a8, a9, a10, a11, a12⟩ := hN
        exact ⟨a1, a2, a3, a4, a5, a6, a7, a8, by show (0 : Int) ≤ ((0 : Int32)).toInt; decide, a10, fun hx => absurd rfl hx, a12⟩)
      exact s1.nd (by decide) (fun hi => s1.2.1 m.2.1 hi)
    · rw [if_neg hc]; exact h
  rw [if_neg k8] at hb ⊢
  by_cases hc : s_nd S m.2.1 6 = m.2.2.2.1
  · rw [if_pos hc]
    have s1 : Inv (u_nd S m.2.1 9 (s_nd S m.2.1 9 ||| ((1 : Int32) <<< (m.2.2.2.2.1 &&& 31)))) := h.nd (by decide) (fun _ => hN)
    obtain ⟨q, hq⟩ : ∃ q : Nat, q = 30 + m.2.2.2.2.1.toNatClampNeg := ⟨_, rfl⟩
    rw [← hq]
    have hq3 : 30 ≤ q := by omega
    refine s1.nd (by omega) (fun hi => ?_)
    have hN1 := s1.2.1 m.2.1 hi
    obtain ⟨f, hf⟩ : ∃ f : Nat → Int32, f = s_nd (u_nd S m.2.1 9 (s_nd S m.2.1 9 ||| ((1 : Int32) <<< (m.2.2.2.2.1 &&& 31)))) m.2.1 := ⟨_, rfl⟩
    rw [← hf] at hN1 ⊢
    have e : ∀ k : Nat, k < 30 → fu f q m.2.2.2.2.2.1 k = f k := fun k hk => fu_ne (by omega)
    unfold NI at hN1 ⊢
    rw [e 20 (by decide), e 21 (by decide), e 1 (by decide), e 2 (by decide), e 3 (by decide), e 4 (by decide), e 5 (by decide), e 6 (by decide), e 7 (by decide), e 8 (by decide)]
    exact hN1
  · rw [if_neg hc]; exact h
theorem Inv_handle {m : MG} (h : Inv S) (hm : MI2 S m) (hb : s_gh (handle S m) 0 ≤ 1000000) : Inv (handle S m) := by
  unfold handle at hb ⊢
  by_cases k0 : m.1 = 0
  · rw [if_pos k0] at hb ⊢
    exact Inv_decide h hm k0 hb
  rw [if_neg k0] at hb ⊢
  by_cases k3 : m.1 = 3
  · rw [if_pos k3] at hb ⊢
    exact Inv_release h hb
  rw [if_neg k3] at hb ⊢
  by_cases k4 : m.1 = 4 ∨ m.1 = 5
  · rw [if_pos k4] at hb ⊢
    exact Inv_atStorage h hm.1 k4 hb
  rw [if_neg k4] at hb ⊢
  exact Inv_atNode h hm hb
theorem Inv_er {j : Nat} (h : Inv S) : Inv (u_ms S ((s_ms S).eraseIdx j)) := h.ms (fun m hm => Or.inl (List.mem_of_mem_eraseIdx hm)) (h.2.2.2.2.2.1.sublist (List.eraseIdx_sublist _ _))
theorem Inv_arrive {m : MG} {k : Nat} (h : Inv S) (hj : (s_ms S)[k]? = some m) (hb : s_gh (arrive S k m) 0 ≤ 1000000) : Inv (arrive S k m) := by
  have hmem : m ∈ s_ms S := List.mem_of_getElem? hj
  have hm := h.2.2.2.2.1 m hmem
  have hn := hm.1.2.1
  have hN := h.2.1 m.2.1 hn
  have hm1 : MI2 (u_ms S ((s_ms S).eraseIdx k)) m := hm
  unfold arrive at hb ⊢
  dsimp only at hb ⊢
  by_cases c1 : s_nd S m.2.1 4 ≠ 0 ∨ (toNode m.1 = true ∧ s_nd S m.2.1 2 = 0)
  · rw [if_pos c1] at hb ⊢
    exact ((Inv_er h).sc (by decide)).wt
  rw [if_neg c1] at hb ⊢
  by_cases c2 : toNode m.1 = true ∧ paused S m.2.1 (now S) = true
  · rw [if_pos c2] at hb ⊢
    have b1 : s_gh (g_mk (u_ms S ((s_ms S).eraseIdx k)) 1 7) 0 ≤ 1000000 := Nat.le_trans (gle_add (li := 2) (sz := (s_ms (u_ms S ((s_ms S).eraseIdx k))).length)).1 hb
    have h1 := Inv_ga (li := 2) (sz := (s_ms (u_ms S ((s_ms S).eraseIdx k))).length) (Inv_mk (Inv_er (j := k) h) b1) (by decide) hb
    have hp : (now S).toInt < (s_nd S m.2.1 5).toInt := by
      have hpa := c2.2
      unfold paused at hpa
      have := (Bool.and_eq_true _ _ ▸ hpa).2
      have h2 := of_decide_eq_true this
      rw [Int32.lt_iff_toInt_lt] at h2
      exact h2
    have e7 := hN.2.2.2.2.2.2.1
    refine h1.ms (fun q hq => ?_) ?_
    · rcases List.mem_append.mp hq with hq | hq
      · exact Or.inl hq
      · refine Or.inr ?_
        rw [List.mem_singleton.mp hq]
        exact ⟨hm.1, hm.2.1, hm.2.2.1, hm.2.2.2.1, ⟨by show (now S).toInt ≤ (s_nd S m.2.1 5).toInt; omega, e7.2⟩⟩
    · refine List.pairwise_append.mpr ⟨h.2.2.2.2.2.1.sublist (List.eraseIdx_sublist _ _), by simp, fun a ha b hb' => ?_⟩
      rw [List.mem_singleton.mp hb']
      -- the message's number is its own
      have hp2 : (m :: (s_ms S).eraseIdx k).Pairwise (fun a b => a.2.2.1 ≠ b.2.2.1) := by
        have hperm : (s_ms S).Perm (m :: (s_ms S).eraseIdx k) := by
          have : ∀ (l : List MG) (k : Nat), l[k]? = some m → l.Perm (m :: l.eraseIdx k) := by
            intro l
            induction l with
            | nil => intro k hk; simp at hk
            | cons x l ih =>
              intro k hk
              cases k with
              | zero =>
                have : x = m := by simpa using hk
                subst this
                simp
              | succ k => exact (List.Perm.cons x (ih k (by simpa using hk))).trans (List.Perm.swap m x _)
          exact this _ k hj
        exact hperm.pairwise h.2.2.2.2.2.1 (fun hab => Ne.symm hab)
      exact Ne.symm ((List.pairwise_cons.mp hp2).1 a ha)
  rw [if_neg c2] at hb ⊢
  exact Inv_handle (Inv_er h) hm1 hb
end IV2
