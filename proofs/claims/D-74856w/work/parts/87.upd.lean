/-! WRITING the picture -/
set_option maxRecDepth 100000
theorem fix_sim {F G : Nat → Nat} (g : ∀ k : Nat, k < 12 ∨ 16 ≤ k → G k = F k) (sc : Nat → Int32) : cSim G sc = cSim F sc := by
  unfold cSim
  rw [g 40 (Or.inr (by decide)), g 1 (Or.inl (by decide)), g 2 (Or.inl (by decide)), g 3 (Or.inl (by decide)), g 4 (Or.inl (by decide)), g 5 (Or.inl (by decide)), g 6 (Or.inl (by decide)), g 7 (Or.inl (by decide))]
theorem fix_node {F G : Nat → Nat} (g : ∀ k : Nat, k < 12 ∨ 16 ≤ k → G k = F k) (i : Nat) (nd : Nat → Int32) : cNode G i nd = cNode F i nd := by
  unfold cNode
  rw [g (70 + i) (Or.inr (by omega)), g (60 + i) (Or.inr (by omega))]
theorem fix_sto {F G : Nat → Nat} (g : ∀ k : Nat, k < 12 ∨ 16 ≤ k → G k = F k) (v : Int32) : cSto G v = cSto F v := by
  unfold cSto
  rw [g 8 (Or.inl (by decide)), g 9 (Or.inl (by decide))]
section UP
variable {E : PE} {B : Nat × Nat} {F : Nat → Nat} {R : PM} {S : SS} {h : PH} {G : Nat → Nat} {ad : Nat → Nat → Nat} {I : PM}
theorem CR_sc {k k' : Nat} {v : Int32} {e : va_E} (hk : k ≠ 30) (hn : k' ≠ 0) (h : CR E G ad S k' e) : CR E G ad (u_sc S k v) k' e := by
  unfold CR at h ⊢
  rw [if_neg hn] at h ⊢
  by_cases h6 : k' = 6
  · rw [if_pos h6] at h ⊢
    rw [h]
    show cSto G (s_sc S 30) = cSto G (fu (s_sc S) k v 30)
    rw [fu_ne (Ne.symm hk)]
  · rw [if_neg h6] at h ⊢
    exact h
theorem w_sc (hS : SP E B F R S h) {k : Nat} {v : Int32} (h1 : 8 ≤ k) (h2 : k ≤ 21) : ∃ h' : PH, SP E B F R (u_sc S k v) h' ∧ ∀ {β : Type} (K : PH → Option β), pV h (some (F 0)) 1 k (.int v) K = K h' := by
  have hs := hS.sim
  obtain ⟨fs, e1, e2, e3, e4⟩ := cSim_get (G := F) (sc := s_sc S) h1 h2
  refine ⟨p_set h (F 0) (cSim F (fu (s_sc S) k v)), ?_, fun K => ?_⟩
  · obtain ⟨G, ad, I, g1, g2, hr⟩ := hS
    refine ⟨G, ad, I, g1, g2, ?_⟩
    rw [← g1 0 (Or.inl (by decide)), ← fix_sim g1]
    exact hr.set 0 _ (Or.inl (by decide)) rfl rfl (fun k' e hn hc => CR_sc (by omega) hn hc) rfl (fun x => x)
  · rw [pV_at (by rw [hs.1, e1]) hs.2 e3, e4 v]
theorem w_sto (hS : SP E B F R S h) {v : Int32} : ∃ h' : PH, SP E B F R (u_sc S 30 v) h' ∧ ∀ {β : Type} (K : PH → Option β), pV h (some (F 6)) 4 2 (.int v) K = K h' := by
  have hs := hS.sto
  refine ⟨p_set h (F 6) (cSto F v), ?_, fun K => ?_⟩
  · obtain ⟨G, ad, I, g1, g2, hr⟩ := hS
    refine ⟨G, ad, I, g1, g2, ?_⟩
    rw [← g1 6 (Or.inl (by decide)), ← fix_sto g1]
    refine hr.set 6 _ (Or.inl (by decide)) rfl rfl (fun k' e hn hc => ?_) rfl (fun x => x)
    unfold CR at hc ⊢
    by_cases h0 : k' = 0
    · rw [if_pos h0] at hc ⊢; exact hc
    · rw [if_neg h0, if_neg hn] at hc ⊢; exact hc
  · exact pV_at hs.1 hs.2 (Nat.le_of_ble_eq_true rfl)
theorem IM_nd {i k : Nat} {v : Int32} (hk : k ≠ 1 ∧ k ≠ 20 ∧ k ≠ 21) (h : IM E G ad I S) : IM E G ad I (u_nd S i k v) := by
  have e1 : ∀ j m : Nat, m = 1 ∨ m = 20 ∨ m = 21 → s_nd (u_nd S i k v) j m = s_nd S j m := by
    intro j m hm
    show fu (s_nd S) i (fu (s_nd S i) k v) j m = s_nd S j m
    by_cases hj : j = i
    · subst hj
      rw [fu_eq, fu_ne (by omega)]
    · rw [fu_ne hj]
  obtain ⟨i1, i2, i3, i4, ⟨md, c, f, a1, a2, a3, a4, a5, a6⟩, i6⟩ := h
  refine ⟨fun j hj => ?_, i2, i3, i4, ⟨md, c, f, a1, a2, a3, a4, a5, fun j hj => ?_⟩, i6⟩
  · rw [e1 j 20 (by omega), e1 j 21 (by omega)]
    exact i1 j hj
  · rw [e1 j 1 (by omega)]
    exact a6 j hj
theorem CR_nd {i k k' : Nat} {v : Int32} {e : va_E} (hk : k ≤ 11) (hn : k' ≠ 50 + i) (h : CR E G ad S k' e) : CR E G ad (u_nd S i k v) k' e := by
  unfold CR at h ⊢
  by_cases h0 : k' = 0
  · rw [if_pos h0] at h ⊢; exact h
  by_cases h6 : k' = 6
  · rw [if_neg h0, if_pos h6] at h ⊢; exact h
  by_cases h5 : 50 ≤ k'
  · rw [if_neg h0, if_neg h6, if_pos h5] at h ⊢
    unfold cN at h ⊢
    by_cases h7 : k' < 60
    · rw [if_pos h7] at h ⊢
      show e = cNode G (k' - 50) (fu (s_nd S) i (fu (s_nd S i) k v) (k' - 50))
      rw [fu_ne (by omega)]
      exact h
    · rw [if_neg h7] at h ⊢
      obtain ⟨f, a1, a2⟩ := h
      refine ⟨f, a1, fun r hr => ?_⟩
      rw [a2 r hr]
      show _ = fu (s_nd S) i (fu (s_nd S i) k v) (k' - 60) (30 + r)
      by_cases hj : k' - 60 = i
      · rw [hj, fu_eq, fu_ne (by omega)]
      · rw [fu_ne hj]
  · rw [if_neg h0, if_neg h6, if_neg h5] at h ⊢
    exact h
theorem w_nd (hS : SP E B F R S h) {i k : Nat} {v : Int32} (hi : i < s_n S) (h1 : 2 ≤ k) (h2 : k ≤ 11) : ∃ h' : PH, SP E B F R (u_nd S i k v) h' ∧ ∀ {β : Type} (K : PH → Option β), pV h (some (F (50 + i))) 5 k (.int v) K = K h' := by
  have hs := hS.node hi
  obtain ⟨fs, e1, e2, e3, e4⟩ := cNode_get (G := F) (i := i) (nd := s_nd S i) (show 1 ≤ k by omega) h2
  refine ⟨p_set h (F (50 + i)) (cNode F i (fu (s_nd S i) k v)), ?_, fun K => ?_⟩
  · obtain ⟨G, ad, I, g1, g2, hr⟩ := hS
    refine ⟨G, ad, I, g1, g2, ?_⟩
    rw [← g1 (50 + i) (Or.inr (by omega)), ← fix_node g1]
    have hn6 := hr.2.2.2.2.2.2.1.2
    refine hr.set (50 + i) _ (Or.inr (Or.inr (Or.inl (by omega)))) rfl rfl (fun k' e hn hc => CR_nd h2 hn hc) ?_ (fun x => IM_nd (by omega) x)
    unfold CR
    rw [if_neg (by omega), if_neg (by omega), if_pos (by omega)]
    unfold cN
    rw [if_pos (by omega), show 50 + i - 50 = i from by omega]
    show _ = cNode G i (fu (s_nd S) i (fu (s_nd S i) k v) i)
    rw [fu_eq]
  · rw [pV_at (by rw [hs.1, e1]) hs.2 e3, e4 v]
theorem w_ndZ (hS : SP E B F R S h) {i k : Nat} {v : Int32} (hi : i < s_n S) (h1 : 2 ≤ k) (h2 : k ≤ 11) (hv : v = 0 ∨ v = 1) : ∃ h' : PH, SP E B F R (u_nd S i k v) h' ∧ ∀ {β : Type} (K : PH → Option β), pZ h (some (F (50 + i))) 5 k v K = K h' := by
  obtain ⟨h', a1, a2⟩ := w_nd hS (v := v) hi h1 h2
  exact ⟨h', a1, fun K => by rw [pZ_at hv, a2]⟩
theorem w_cch (hS : SP E B F R S h) {i r : Nat} {v : Int32} (hi : i < s_n S) (hr : r < 8) : ∃ h' : PH, SP E B F R (u_nd S i (30 + r) v) h' ∧ ∀ {β : Type} (K : PH → Option β), sI h (some (F (60 + i))) 0 (Int32.ofNat r) v K = K h' := by
  obtain ⟨f, h1, h2, h3⟩ := hS.cch hi
  refine ⟨p_set h (F (60 + i)) (.inl (h.2.1.2.1 0, 8, .inl (upd f r v))), ?_, fun K => ?_⟩
  · obtain ⟨G, ad, I, g1, g2, hp⟩ := hS
    refine ⟨G, ad, I, g1, g2, ?_⟩
    have hE := hp.1
    have hn6 := hp.2.2.2.2.2.2.1.2
    rw [← g1 (60 + i) (Or.inr (by omega))]
    refine hp.set (60 + i) _ (Or.inr (Or.inr (Or.inr (by omega)))) rfl rfl (fun k' e hn hc => ?_) ?_ (fun x => IM_nd (by omega) x)
    · unfold CR at hc ⊢
      by_cases h0 : k' = 0
      · rw [if_pos h0] at hc ⊢; exact hc
      by_cases h6 : k' = 6
      · rw [if_neg h0, if_pos h6] at hc ⊢; exact hc
      by_cases h5 : 50 ≤ k'
      · rw [if_neg h0, if_neg h6, if_pos h5] at hc ⊢
        unfold cN at hc ⊢
        by_cases h7 : k' < 60
        · rw [if_pos h7] at hc ⊢
          show e = cNode G (k' - 50) (fu (s_nd S) i (fu (s_nd S i) (30 + r) v) (k' - 50))
          rw [hc]
          by_cases hj : k' - 50 = i
          · rw [hj, fu_eq]
            unfold cNode
            rw [fu_ne (by omega), fu_ne (by omega), fu_ne (by omega), fu_ne (by omega), fu_ne (by omega), fu_ne (by omega), fu_ne (by omega), fu_ne (by omega), fu_ne (by omega), fu_ne (by omega), fu_ne (by omega)]
          · rw [fu_ne hj]
        · rw [if_neg h7] at hc ⊢
          obtain ⟨f', a1, a2⟩ := hc
          refine ⟨f', a1, fun r' hr' => ?_⟩
          rw [a2 r' hr']
          show _ = fu (s_nd S) i (fu (s_nd S i) (30 + r) v) (k' - 60) (30 + r')
          rw [fu_ne (by omega)]
      · rw [if_neg h0, if_neg h6, if_neg h5] at hc ⊢
        exact hc
    · unfold CR
      rw [if_neg (by omega), if_neg (by omega), if_pos (by omega)]
      unfold cN
      rw [if_neg (by omega), show 60 + i - 60 = i from by omega]
      refine ⟨upd f r v, by rw [hE], fun r' hr' => ?_⟩
      show upd f r v r' = fu (s_nd S) i (fu (s_nd S i) (30 + r) v) i (30 + r')
      rw [fu_eq]
      by_cases hj : r' = r
      · subst hj
        rw [fu_eq]
        simp [upd]
      · rw [fu_ne (by omega), ← h3 r' hr']
        simp [upd, hj]
  · rw [sI_at h1 (inR_of (by decide) hr) h2, clamp9 (by omega)]
theorem w_arr (hS : SP E B F R S h) {k r : Nat} {v : Int32} (hk : k = 7 ∨ k = 8 ∨ k = 9) (hr : r < arL k) : ∃ h' : PH, SP E B F R (u_ar S (arX k) r v) h' ∧ ∀ {β : Type} (K : PH → Option β), sI h (some (F k)) 0 (Int32.ofNat r) v K = K h' := by
  obtain ⟨f, h1, h2, h3⟩ := hS.arr hk
  have hal := arL_le k
  refine ⟨p_set h (F k) (.inl (h.2.1.2.1 0, arL k, .inl (upd f r v))), ?_, fun K => ?_⟩
  · obtain ⟨G, ad, I, g1, g2, hp⟩ := hS
    refine ⟨G, ad, I, g1, g2, ?_⟩
    have hE := hp.1
    rw [← g1 k (Or.inl (by omega))]
    refine hp.set k _ (Or.inl (by omega)) rfl rfl (fun k' e hn hc => ?_) ?_ (fun x => x)
    · unfold CR at hc ⊢
      by_cases h0 : k' = 0
      · rw [if_pos h0] at hc ⊢; exact hc
      by_cases h6 : k' = 6
      · rw [if_neg h0, if_pos h6] at hc ⊢; exact hc
      by_cases h5 : 50 ≤ k'
      · rw [if_neg h0, if_neg h6, if_pos h5] at hc ⊢; exact hc
      by_cases h7 : k' = 7 ∨ k' = 8 ∨ k' = 9
      · rw [if_neg h0, if_neg h6, if_neg h5, if_pos h7] at hc ⊢
        obtain ⟨f', a1, a2⟩ := hc
        refine ⟨f', a1, fun r' hr' => ?_⟩
        rw [a2 r' hr']
        show _ = fu (s_ar S) (arX k) (fu (s_ar S (arX k)) r v) (arX k') r'
        rw [fu_ne]
        unfold arX
        rcases h7 with rfl | rfl | rfl <;> rcases hk with rfl | rfl | rfl <;> first | exact absurd rfl hn | decide
      · rw [if_neg h0, if_neg h6, if_neg h5, if_neg h7] at hc ⊢; exact hc
    · unfold CR
      rw [if_neg (by omega), if_neg (by omega), if_neg (by omega), if_pos hk]
      refine ⟨upd f r v, by rw [hE], fun r' hr' => ?_⟩
      show upd f r v r' = fu (s_ar S) (arX k) (fu (s_ar S (arX k)) r v) (arX k) r'
      rw [fu_eq]
      by_cases hj : r' = r
      · subst hj
        rw [fu_eq]
        simp [upd]
      · rw [fu_ne hj, ← h3 r' hr']
        simp [upd, hj]
  · rw [sI_at h1 (inR_of (by omega) hr) h2, clamp9 (by omega)]
/-- a new cell, known from now on -/
theorem SP.mk (hS : SP E B F R S h) (e : va_E) (k : Nat) (h1 : 1 ≤ pcl h) (h2 : k ≤ psl h) : SP E B F (fun b => if b = pn h then some e else R b) (g_mk S 1 k) (p_new h e k) := by
  obtain ⟨G, ad, I, g1, g2, hp⟩ := hS
  have hq := hp.new e k h1 h2
  obtain ⟨r1, r2, r3, r4, r5, r6, r7, r8, r9⟩ := hp
  obtain ⟨q1, q2, q3, q4, q5, q6, q7, q8, q9⟩ := hq
  refine ⟨G, ad, fun b => if b = pn h then some e else I b, g1, fun b x hb => ?_, q1, fun b x hb => ?_, fun k hk => ?_, q4, q5, ?_, q7, q8, q9⟩
  · by_cases hp : b = pn h
    · simp only [hp, if_true] at hb ⊢; exact hb
    · simp only [hp, if_false] at hb ⊢; exact g2 b x hb
  · by_cases hp : b = pn h
    · simp only [hp, if_true] at hb
      cases hb
      subst hp
      exact ⟨pn_at, Nat.lt_succ_self _⟩
    · simp only [hp, if_false] at hb
      exact q2 b x hb
  · have hne : G k ≠ pn h := Nat.ne_of_lt (r3 k hk).2.2
    refine ⟨?_, (q3 k hk).2⟩
    simp only [hne, if_false]
    exact (q3 k hk).1
  · have up : ∀ {b : Nat} {x : va_E}, I b = some x → (fun b => if b = pn h then some e else I b) b = some x := by
      intro b x hb
      have hne : b ≠ pn h := Nat.ne_of_lt (r2 b x hb).2
      simp only [hne, if_false]
      exact hb
    obtain ⟨i1, i2, i3, ⟨m1, c1, f1, a1, a2, a3, a4, a5, a6⟩, ⟨md, c, f, b1, b2, b3, b4, b5, b6⟩, i6, i7, i8⟩ := q6
    exact ⟨fun i hi => ⟨up (i1 i hi).1, (i1 i hi).2⟩, ⟨up i2.1, i2.2⟩, ⟨up i3.1, i3.2⟩, ⟨m1, c1, f1, up a1, a2, up a3, a4, a5, a6⟩, ⟨md, c, f, up b1, b2, up b3, b4, b5, fun i hi => by obtain ⟨q, e1, e2⟩ := b6 i hi; exact ⟨q, e1, up e2⟩⟩, fun li j x h1 h2 hx => ⟨up (i6 li j x h1 h2 hx).1, (i6 li j x h1 h2 hx).2⟩, i7, fun i hi => ⟨(i8 i hi).1, up (i8 i hi).2⟩⟩
/-- less is known -/
theorem SP.less (hS : SP E B F R S h) {R' : PM} (hr : ∀ (b : Nat) (e : va_E), R' b = some e → R b = some e) : SP E B F R' S h := by
  obtain ⟨G, ad, I, g1, g2, hp⟩ := hS
  exact ⟨G, ad, I, g1, fun b e hb => g2 b e (hr b e hb), hp⟩
theorem SP.room (hS : SP E B F R S h) : pcl h + s_gh S 0 = B.1 ∧ psl h + s_gh S 1 = B.2 := by
  obtain ⟨G, ad, I, g1, g2, hp⟩ := hS
  exact hp.2.2.2.2.2.2.2
end UP
