/-! granted, at the node, at the storage -/
set_option maxRecDepth 100000
/-- statics that nobody asks about -/
def EX (E : PE) : Prop := ∀ i : Nat, 12 ≤ i → i ≤ 14 → E.1 i = .null ∨ ∃ q : Nat, E.1 i = .ref q
theorem EX.at {E : PE} {h : PH} (hx : EX E) (he : h.2.1 = E) {i : Nat} (h1 : 12 ≤ i) (h2 : i ≤ 14) : ∃ r : Option Nat, ∀ {β : Type} (K : Option Nat → Option β), asR (some (h.2.1.1 i)) K = K r := by
  rw [he]
  rcases hx i h1 h2 with h | ⟨q, h⟩
  · exact ⟨none, fun K => by rw [h]; rfl⟩
  · exact ⟨some q, fun K => by rw [h]; rfl⟩
section MG2
variable {E : PE} {B : Nat × Nat} {F : Nat → Nat} {R : PM} {S : SS} {h : PH}
theorem pV_pn {β : Type} {ci k N : Nat} {fs : List Value} {v : Value} {K : PH → Option β} (hb : pbase h ≤ pn h) (hk : k < fs.length) : pV (p_new h (.inr (ci, fs)) N) (some (pn h)) ci k v K = K (p_new h (.inr (ci, fs.set k v)) N) := by
  rw [pV_at (h := p_new h (.inr (ci, fs)) N) pn_at hb hk, ps_pn]
theorem i_stale {t : Int32} (hx : EX E) (he : h.2.1 = E) (hb : pbase h ≤ pn h) : f_X18_init (pn h) t (p_new h (.inr (15, [.null, .null, .null, .null, .null, .int 0, .int 0])) 7) = some ((), p_new h (.inr (15, [.null, .null, .null, .null, .null, .int 0, .int t])) 7) := by
  obtain ⟨r13, e13⟩ := hx.at he (i := 13) (by decide) (by decide)
  obtain ⟨r14, e14⟩ := hx.at he (i := 14) (by decide) (by decide)
  unfold f_X18_init f_J4_init_2_X18 f_J3_init_3_X18 f_J3_init_3_X18_B41 f_J3_init_3_X18_B60
  rw [pV_pn hb (Nat.le_of_ble_eq_true rfl)]
  rw [show ∀ (e : va_E) (K : Option Nat → Option (Unit × PH)), asR (some ((p_new h e 7).2.1.1 13)) K = K r13 from fun e K => e13 K]
  rw [pV_pn hb (Nat.le_of_ble_eq_true rfl)]
  rw [show ∀ (e : va_E) (K : Option Nat → Option (Unit × PH)), asR (some ((p_new h e 7).2.1.1 14)) K = K r14 from fun e K => e14 K]
  rw [pV_pn hb (Nat.le_of_ble_eq_true rfl), if_pos rfl, pV_pn hb (Nat.le_of_ble_eq_true rfl), pV_pn hb (Nat.le_of_ble_eq_true rfl), pV_pn hb (Nat.le_of_ble_eq_true rfl), if_pos rfl, pV_pn hb (Nat.le_of_ble_eq_true rfl)]
  simp only [cl_]
  rw [pV_pn hb (Nat.le_of_ble_eq_true rfl)]
  rfl
theorem i_rej {q : Nat} (hx : EX E) (he : h.2.1 = E) (hb : pbase h ≤ pn h) : f_X19_init (pn h) (some q) (p_new h (.inr (16, [.null, .null, .null, .null, .null, .int 0])) 6) = some ((), p_new h (.inr (16, [.ref q, .null, .null, .null, .null, .int 0])) 6) := by
  obtain ⟨r13, e13⟩ := hx.at he (i := 13) (by decide) (by decide)
  obtain ⟨r14, e14⟩ := hx.at he (i := 14) (by decide) (by decide)
  unfold f_X19_init f_J4_init_2_X19 f_J3_init_3_X19 f_J3_init_3_X19_B41 f_J3_init_3_X19_B60
  rw [pV_pn hb (Nat.le_of_ble_eq_true rfl)]
  rw [show ∀ (e : va_E) (K : Option Nat → Option (Unit × PH)), asR (some ((p_new h e 6).2.1.1 13)) K = K r13 from fun e K => e13 K]
  rw [pV_pn hb (Nat.le_of_ble_eq_true rfl)]
  rw [show ∀ (e : va_E) (K : Option Nat → Option (Unit × PH)), asR (some ((p_new h e 6).2.1.1 14)) K = K r14 from fun e K => e14 K]
  rw [pV_pn hb (Nat.le_of_ble_eq_true rfl), if_pos rfl, pV_pn hb (Nat.le_of_ble_eq_true rfl), pV_pn hb (Nat.le_of_ble_eq_true rfl), pV_pn hb (Nat.le_of_ble_eq_true rfl), if_pos rfl, pV_pn hb (Nat.le_of_ble_eq_true rfl)]
  rfl
theorem r_ord (hS : SP E B F R S h) {k : Nat} (hk : k < 9) : f_J19_ordinal_X15 (some (sAd E k)) h = some (Int32.ofNat k, h) := by
  unfold f_J19_ordinal_X15
  rw [gI_at (hS.kind hk).2 rfl]
theorem r_kv (hS : SP E B F R S h) {β : Type} {k : Nat} {X : Option β} (hk : k < 9) : rv_ h (some (sAd E k)) 25 X = X := rv_at (hS.kind hk).2
theorem k_inj (hS : SP E B F R S h) {j k : Nat} (hj : j < 9) (hk : k < 9) : (some (sAd E j) = some (sAd E k)) ↔ j = k := by
  refine ⟨fun hx => ?_, fun hx => by rw [hx]⟩
  have h1 := (hS.kind hj).2
  have h2 := (hS.kind hk).2
  rw [Option.some.inj hx, h2] at h1
  have h3 : Int32.ofNat k = Int32.ofNat j := by
    have := Option.some.inj h1
    unfold cKnd at this
    simpa using this
  exact (ofNat_inj31 (by omega) (by omega) h3).symm
theorem m_toNode (hS : SP E B F R S h) {k : Nat} (hk : k < 9) : f_X15_isToNode (some (sAd E k)) h = some (if toNode k then 1 else 0, h) := by
  unfold f_X15_isToNode f_X15_isToNode_B27 f_X15_isToNode_B32
  rw [r_kind hS (by decide)]
  unfold toNode
  by_cases h1 : k = 1
  · rw [if_pos ((k_inj hS hk (by decide)).mpr h1), rN_at nar01.2]
    simp [h1]
  · rw [if_neg (fun hx => h1 ((k_inj hS hk (by decide)).mp hx)), r_kind hS (by decide)]
    by_cases h2 : k = 2
    · rw [if_pos ((k_inj hS hk (by decide)).mpr h2), rN_at nar01.2]
      simp [h2]
    · rw [if_neg (fun hx => h2 ((k_inj hS hk (by decide)).mp hx)), r_kv hS hk, cl_eq (r_ord hS hk), r_kind hS (by decide), r_kv hS (by decide), cl_eq (r_ord hS (by decide))]
      by_cases h6 : k < 6
      · rw [if_pos ((of_lt (by omega) (by decide)).mpr h6), rN_at nar01.1]
        have : ¬ 6 ≤ k := by omega
        simp [h1, h2, this]
      · rw [if_neg (fun hx => h6 ((of_lt (by omega) (by decide)).mp hx)), rN_at nar01.2]
        have : 6 ≤ k := by omega
        simp [this]
theorem m_granted (hS : SP E B F R S h) {q : Nat} {m : MG} (hq : R q = some (cMsg (sAd E) m)) (hq2 : E.2.2.1 ≤ q) (hw : W1 S) (hn : m.2.1 < s_n S) (hB : fitB B (granted S m)) (hB2 : B.2 < 2 ^ 25) : okk (f_X2_granted (some (F 0)) (some q) (some (F (50 + m.2.1))) h) (fun b => SP E B F R (granted S m) b.2) := by
  unfold granted at hB ⊢
  dsimp only at hB ⊢
  have tail : ∀ {S1 : SS} {h1 : PH} (limit : Int32), SP E B F R S1 h1 → W1 S1 → m.2.1 < s_n S1 → s_cf S1 = s_cf S → okk (f_X2_granted_B107 (some (F 0)) (some q) (some (F (50 + m.2.1))) limit h1) (fun b => SP E B F R (setTimer (u_nd S1 m.2.1 7 (mx (s_nd S1 m.2.1 7) limit)) m.2.1 (m.2.2.2.1 + s_cf S 5)) b.2) := by
    intro S1 h1 limit hS1 hw1 hn1 hcf
    unfold f_X2_granted_B107
    rw [r_ndN hS1 hn1 (by decide) (by decide)]
    obtain ⟨h22, a1, a2⟩ := w_nd hS1 (k := 7) (v := mx (s_nd S1 m.2.1 7) limit) hn1 (by decide) (by decide)
    rw [show (if s_nd S1 m.2.1 7 < limit then limit else s_nd S1 m.2.1 7) = mx (s_nd S1 m.2.1 7) limit from rfl, a2]
    rw [r_sc a1 (by decide) (by decide), r_m a1 hq hq2 (k := 3) rfl, r_of a1, r_cf a1 (by decide) (by decide), r_ndv a1 hn1]
    rw [show s_cf (u_nd S1 m.2.1 7 (mx (s_nd S1 m.2.1 7) limit)) 5 = s_cf S 5 from congrFun hcf 5]
    exact okk_cl ((m_setTimer a1 hn1 (hw1.nd (by decide))).mono fun b hb => ⟨_, rfl, hb⟩)
  unfold f_X2_granted
  rw [r_m hS hq hq2 (k := 4) rfl, r_ndN hS hn (by decide) (by decide)]
  by_cases h3 : s_nd S m.2.1 3 = 0
  · rw [if_pos h3]
    rw [if_pos h3] at hB ⊢
    have ro := roomN hS hB
    rw [r_kind hS (by decide), r_m hS hq hq2 (k := 1) rfl, nA_1 ro.1 ro.2, sI_pn0 hS.base.2.1 (by decide) (by decide), r_sim (hS.mk _ 1 ro.1 ro.2)]
    exact okk_cl ((m_sendN hS (kind := 3) (len := 1) (a := m.2.2.2.2.1) (b := 0) (c := 0) hw (by decide) hn (by decide) rfl rfl rfl hB hB2).mono fun b9 hb9 => ⟨_, rfl, hb9⟩)
  · rw [if_neg h3]
    rw [if_neg h3] at hB ⊢
    rw [r_ndN hS hn (by decide) (by decide)]
    by_cases h6 : m.2.2.2.2.1 < s_nd S m.2.1 6
    · rw [if_neg (Int32.not_le.mpr h6)]
      rw [if_pos h6]
      exact ⟨_, rfl, hS⟩
    · rw [if_pos (Int32.not_lt.mp h6)]
      rw [if_neg h6]
      rw [r_m hS hq hq2 (k := 3) rfl, r_of hS, r_cf hS (by decide) (by decide), r_of hS, r_cf hS (by decide) (by decide), r_of hS, r_cf hS (by decide) (by decide), dvL_at hw.2.2, r_ndN hS hn (by decide) (by decide)]
      rw [show (m.2.2.2.1.toInt64 + (s_cf S 3).toInt64 * ((1000 : Int64) - (s_cf S 4).toInt64) / ((1000 : Int64) + (s_cf S 4).toInt64)).toInt32 = limitOf S m.2.2.2.1 from rfl]
      obtain ⟨lim, hlim⟩ : ∃ x, limitOf S m.2.2.2.1 = x := ⟨_, rfl⟩
      rw [hlim]
      by_cases h7 : s_nd S m.2.1 6 < m.2.2.2.2.1
      · rw [if_neg (Int32.not_le.mpr h7)]
        rw [if_pos h7]
        obtain ⟨h12, a1, a2⟩ := w_nd hS (k := 9) (v := 0) hn (by decide) (by decide)
        rw [a2]
        obtain ⟨h13, b1, b2⟩ := w_nd a1 (k := 6) (v := m.2.2.2.2.1) hn (by decide) (by decide)
        rw [b2]
        obtain ⟨h14, c1, c2⟩ := w_nd b1 (k := 7) (v := lim) hn (by decide) (by decide)
        rw [c2]
        exact tail lim c1 (((hw.nd (by decide)).nd (by decide)).nd (by decide)) hn rfl
      · rw [if_pos (Int32.not_lt.mp h7)]
        rw [if_neg h7]
        exact tail lim hS hw hn rfl
end MG2
