/-! METHODS of nodes; note, send, acquire -/
set_option maxRecDepth 100000
theorem nar01 : vp_nar .boolean 0 = 0 ∧ vp_nar .boolean 1 = 1 := by decide
/-- the configuration's numbers may be divided by -/
def W1 (S : SS) : Prop := (∀ i : Nat, i < s_n S → (s_nd S i 20).toInt64 ≠ 0) ∧ s_cf S 7 + 1 ≠ 0 ∧ (1000 : Int64) + (s_cf S 4).toInt64 ≠ 0
/-- it fits into the room -/
def fitB (B : Nat × Nat) (S : SS) : Prop := s_gh S 0 ≤ B.1 ∧ s_gh S 1 ≤ B.2
def gle (S S' : SS) : Prop := s_gh S 0 ≤ s_gh S' 0 ∧ s_gh S 1 ≤ s_gh S' 1
theorem gle.tr {a b c : SS} (h : gle a b) (k : gle b c) : gle a c := ⟨Nat.le_trans h.1 k.1, Nat.le_trans h.2 k.2⟩
theorem gle.rf {a : SS} : gle a a := ⟨Nat.le_refl _, Nat.le_refl _⟩
theorem fitB.le {B : Nat × Nat} {a b : SS} (h : fitB B b) (k : gle a b) : fitB B a := ⟨Nat.le_trans k.1 h.1, Nat.le_trans k.2 h.2⟩
theorem gle_mk {S : SS} {c k : Nat} : gle S (g_mk S c k) := by
  refine ⟨?_, ?_⟩
  · show _ ≤ fu (fu (s_gh S) 0 (s_gh S 0 + c)) 1 (s_gh S 1 + k) 0
    rw [fu_ne (by decide), fu_eq]; omega
  · show _ ≤ fu (fu (s_gh S) 0 (s_gh S 0 + c)) 1 (s_gh S 1 + k) 1
    rw [fu_eq]; omega
theorem gh_mk0 {S : SS} {c k : Nat} : s_gh (g_mk S c k) 0 = s_gh S 0 + c := by
  show fu (fu (s_gh S) 0 (s_gh S 0 + c)) 1 (s_gh S 1 + k) 0 = _
  rw [fu_ne (by decide), fu_eq]
theorem gh_mk1 {S : SS} {c k : Nat} : s_gh (g_mk S c k) 1 = s_gh S 1 + k := by
  show fu (fu (s_gh S) 0 (s_gh S 0 + c)) 1 (s_gh S 1 + k) 1 = _
  rw [fu_eq]
theorem gle_add {S : SS} {li sz : Nat} : gle S (g_add S li sz) := by
  unfold g_add gg
  split
  · refine ⟨?_, ?_⟩
    · show _ ≤ fu (fu (fu (s_gh S) li (s_gh S li + max 1 (s_gh S li / 2))) 0 (s_gh S 0 + 1)) 1 (s_gh S 1 + (s_gh S li + max 1 (s_gh S li / 2))) 0
      rw [fu_ne (by decide), fu_eq]; omega
    · show _ ≤ fu (fu (fu (s_gh S) li (s_gh S li + max 1 (s_gh S li / 2))) 0 (s_gh S 0 + 1)) 1 (s_gh S 1 + (s_gh S li + max 1 (s_gh S li / 2))) 1
      rw [fu_eq]; omega
  · exact gle.rf
section MN
variable {E : PE} {B : Nat × Nat} {F : Nat → Nat} {R : PM} {S : SS} {h : PH}
theorem m_paused (hS : SP E B F R S h) {i : Nat} {t : Int32} (hi : i < s_n S) : f_X6_isPaused (some (F (50 + i))) t h = some (if paused S i t then 1 else 0, h) := by
  unfold f_X6_isPaused f_X6_isPaused_B19 f_X6_isPaused_B20
  rw [r_nd hS hi (by decide) (by decide), r_nd hS hi (by decide) (by decide)]
  unfold paused
  by_cases h2 : s_nd S i 2 = 0
  · rw [if_pos h2, rN_at nar01.1]
    simp [h2]
  · rw [if_neg h2]
    by_cases h5 : s_nd S i 5 ≤ t
    · rw [if_pos h5, rN_at nar01.1]
      have : ¬ t < s_nd S i 5 := Int32.not_lt.mpr h5
      simp [h2, this]
    · rw [if_neg h5, rN_at nar01.2]
      have : t < s_nd S i 5 := Int32.not_le.mp h5
      simp [h2, this]
theorem m_until (hS : SP E B F R S h) {i : Nat} (hi : i < s_n S) (hw : W1 S) : f_X6_leadsUntil (some (F (50 + i))) h = some (until_ S i, h) := by
  unfold f_X6_leadsUntil f_X6_leadsUntil_B28 f_X6_leadsUntil_B29
  rw [r_nd hS hi (by decide) (by decide), r_nd hS hi (by decide) (by decide)]
  unfold until_
  by_cases h2 : s_nd S i 2 = 0
  · rw [if_pos h2, if_pos h2]
  · rw [if_neg h2, if_neg h2]
    by_cases h6 : s_nd S i 6 ≤ 0
    · rw [if_pos h6, if_pos h6]
    · rw [if_neg h6, if_neg h6, r_ndk hS hi, r_nd hS hi (by decide) (by decide), r_clkv hS hi, cl_eq (r_re hS hi (hw.1 i hi))]
theorem m_leads (hS : SP E B F R S h) {i : Nat} {t : Int32} (hi : i < s_n S) (hw : W1 S) : f_X6_leads (some (F (50 + i))) t h = some (if leads S i t then 1 else 0, h) := by
  unfold f_X6_leads f_X6_leads_B13
  rw [r_ndv hS hi, cl_eq (m_until hS hi hw)]
  unfold leads
  by_cases h1 : until_ S i ≤ t
  · rw [if_pos h1, rN_at nar01.1]
    have : ¬ t < until_ S i := Int32.not_lt.mpr h1
    simp [this]
  · rw [if_neg h1, rN_at nar01.2]
    have : t < until_ S i := Int32.not_le.mp h1
    simp [this]
theorem m_due (hS : SP E B F R S h) {i : Nat} (hi : i < s_n S) : f_X6_isDue (some (F (50 + i))) (now S) h = some (if due S i then 1 else 0, h) := by
  unfold f_X6_isDue f_X6_isDue_B34 f_X6_isDue_B35
  rw [r_nd hS hi (by decide) (by decide), r_ndv hS hi, cl_eq (m_paused hS hi), r_nd hS hi (by decide) (by decide), r_nd hS hi (by decide) (by decide)]
  unfold due
  by_cases h2 : s_nd S i 2 = 0
  · rw [if_pos h2, rN_at nar01.1]
    simp [h2]
  · rw [if_neg h2]
    by_cases hp : paused S i (now S) = true
    · rw [if_pos hp, if_neg (by decide), rN_at nar01.1]
      simp [hp]
    · rw [if_neg hp, if_pos rfl]
      by_cases h8 : s_nd S i 8 < 0
      · rw [if_pos h8, rN_at nar01.1]
        have : ¬ 0 ≤ s_nd S i 8 := Int32.not_le.mpr h8
        simp [this]
      · rw [if_neg h8]
        have h8' : 0 ≤ s_nd S i 8 := Int32.not_lt.mp h8
        by_cases h9 : now S < s_nd S i 8
        · rw [if_pos h9, rN_at nar01.1]
          have : ¬ s_nd S i 8 ≤ now S := Int32.not_le.mpr h9
          simp [this]
        · rw [if_neg h9, rN_at nar01.2]
          have : s_nd S i 8 ≤ now S := Int32.not_lt.mp h9
          simp [h2, hp, h8', this]
theorem m_setTimer (hS : SP E B F R S h) {i : Nat} {v : Int32} (hi : i < s_n S) (hw : W1 S) : okk (f_X6_setTimer (some (F (50 + i))) (now S) v h) (fun b => SP E B F R (setTimer S i v) b.2) := by
  unfold f_X6_setTimer
  rw [r_ndk hS hi, r_clkv hS hi, cl_eq (r_re hS hi (hw.1 i hi))]
  obtain ⟨h', a1, a2⟩ := w_nd hS (k := 8) (v := mx (now S + 1) (ndRe S i v)) hi (by decide) (by decide)
  rw [show (if now S + (1 : Int32) < ndRe S i v then ndRe S i v else now S + (1 : Int32)) = mx (now S + 1) (ndRe S i v) from rfl, a2]
  exact ⟨_, rfl, a1⟩
theorem m_lose (hS : SP E B F R S h) {i : Nat} (hi : i < s_n S) : okk (f_X6_loseToken (some (F (50 + i))) h) (fun b => SP E B F R (lose S i) b.2) := by
  unfold f_X6_loseToken
  obtain ⟨h1, a1, a2⟩ := w_nd hS (k := 6) (v := 0) hi (by decide) (by decide)
  rw [a2]
  obtain ⟨h2, b1, b2⟩ := w_nd a1 (k := 9) (v := 0) hi (by decide) (by decide)
  rw [b2]
  exact ⟨_, rfl, b1⟩
theorem m_cache (hS : SP E B F R S h) {i r : Nat} {v : Int32} (hi : i < s_n S) (hr : r < 8) : okk (f_X6_cache (some (F (50 + i))) (Int32.ofNat r) v h) (fun b => SP E B F R (u_nd (u_nd S i 9 (s_nd S i 9 ||| ((1 : Int32) <<< (Int32.ofNat r &&& 31)))) i (30 + r) v) b.2) := by
  unfold f_X6_cache
  rw [r_nd hS hi (by decide) (by decide)]
  obtain ⟨h1, a1, a2⟩ := w_nd hS (k := 9) (v := s_nd S i 9 ||| ((1 : Int32) <<< (Int32.ofNat r &&& 31))) hi (by decide) (by decide)
  rw [a2, r_ndc a1 hi]
  obtain ⟨h2, b1, b2⟩ := w_cch a1 (v := v) hi hr
  rw [b2]
  exact ⟨_, rfl, b1⟩
theorem m_watch (hS : SP E B F R S h) {q : Nat} {m : MG} {its : Int32} (hq : R q = some (cMsg (sAd E) m)) (hq2 : E.2.2.1 ≤ q) : okk (f_X2_watch (some (F 0)) (some q) its h) (fun b => SP E B F R (watch S m its) b.2) := by
  unfold f_X2_watch f_X2_watch_B20
  have hb : pbase h ≤ q := by show h.2.1.2.2.1 ≤ _; rw [hS.base.1]; exact hq2
  rw [gIN_at (hS.tr hq).1 hb (v := m.2.2.1) rfl, r_sc hS (by decide) (by decide)]
  unfold watch
  obtain ⟨h1, a1, a2⟩ := w_sc hS (k := 21) (v := if m.2.2.1 = s_sc S 20 then its else s_sc S 21) (by decide) (by decide)
  by_cases hc : m.2.2.1 = s_sc S 20
  · rw [if_pos hc]
    rw [if_pos hc] at a1 a2 ⊢
    rw [a2]
    exact ⟨_, rfl, a1⟩
  · rw [if_neg hc, r_sc hS (by decide) (by decide)]
    rw [if_neg hc] at a1 a2 ⊢
    rw [a2]
    exact ⟨_, rfl, a1⟩
theorem i_evt {t k n o : Int32} {N : Nat} (hb : pbase h ≤ pn h) : f_X17_init (pn h) t k n o (p_new h (.inr (14, [.int 0, .int 0, .int 0, .int 0])) N) = some ((), p_new h (cEvt (t, k, n, o)) N) := by
  unfold f_X17_init
  rw [pV_at (h := p_new h _ N) pn_at hb (Nat.le_of_ble_eq_true rfl), ps_pn, pV_at (h := p_new h _ N) pn_at hb (Nat.le_of_ble_eq_true rfl), ps_pn, pV_at (h := p_new h _ N) pn_at hb (Nat.le_of_ble_eq_true rfl), ps_pn, pV_at (h := p_new h _ N) pn_at hb (Nat.le_of_ble_eq_true rfl), ps_pn]
  rfl
theorem i_msg {ka : Nat → Nat} {k node N : Nat} {seq x : Int32} {f : Nat → Int32} {a : Nat} (hb : pbase h ≤ pn h) (ha : h.1 a = some (.inl (h.2.1.2.1 0, 3, .inl f))) (hal : a < pn h) (hba : pbase h ≤ a) : f_X16_init_2 (pn h) (some (ka k)) (Int32.ofNat node) seq (some a) x (p_new h (.inr (13, [.null, .int 0, .int 0, .int 0, .int 0, .int 0, .int 0])) N) = some ((), p_new h (cMsg ka (k, node, seq, f 0, f 1, f 2, x)) N) := by
  unfold f_X16_init_2
  have ea : ∀ e : va_E, (p_new h e N).1 a = some (.inl (h.2.1.2.1 0, 3, .inl f)) := fun e => by rw [pn_ne (Nat.ne_of_lt hal)]; exact ha
  rw [pV_at (h := p_new h _ N) pn_at hb (Nat.le_of_ble_eq_true rfl), ps_pn, pV_at (h := p_new h _ N) pn_at hb (Nat.le_of_ble_eq_true rfl), ps_pn, pV_at (h := p_new h _ N) pn_at hb (Nat.le_of_ble_eq_true rfl), ps_pn]
  rw [aI_at (h := p_new h _ N) (ea _) (show inR (0 : Int32) 3 from inR_of (i := 0) (by decide) (by decide)) hba]
  rw [pV_at (h := p_new h _ N) pn_at hb (Nat.le_of_ble_eq_true rfl), ps_pn]
  rw [aI_at (h := p_new h _ N) (ea _) (show inR (1 : Int32) 3 from inR_of (i := 1) (by decide) (by decide)) hba]
  rw [pV_at (h := p_new h _ N) pn_at hb (Nat.le_of_ble_eq_true rfl), ps_pn]
  rw [aI_at (h := p_new h _ N) (ea _) (show inR (2 : Int32) 3 from inR_of (i := 2) (by decide) (by decide)) hba]
  rw [pV_at (h := p_new h _ N) pn_at hb (Nat.le_of_ble_eq_true rfl), ps_pn, pV_at (h := p_new h _ N) pn_at hb (Nat.le_of_ble_eq_true rfl), ps_pn]
  rfl
end MN
