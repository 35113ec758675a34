/-! at the node, at the storage, handle, arrive -/
set_option maxRecDepth 100000
/-- a message that can be -/
def mOK (n : Nat) (m : MG) : Prop := m.1 < 9 ∧ m.2.1 < n ∧ (4 ≤ m.1 ∧ m.1 ≤ 7 → ∃ r : Nat, r < 8 ∧ m.2.2.2.2.1 = Int32.ofNat r)
section MH3
variable {E : PE} {B : Nat × Nat} {F : Nat → Nat} {R : PM} {S : SS} {h : PH}
theorem of_k {a b : Nat} (ha : a < 9) (hb : b < 9) : Int32.ofNat a = Int32.ofNat b ↔ a = b := of_inj (by omega) (by omega)
theorem m_atNode (hS : SP E B F R S h) {q : Nat} {m : MG} (hq : R q = some (cMsg (sAd E) m)) (hq2 : E.2.2.1 ≤ q) (hw : W1 S) (hm : mOK (s_n S) m) (h4 : m.1 = 1 ∨ m.1 = 2 ∨ 6 ≤ m.1) (hB : fitB B (atNode S m)) (hB2 : B.2 < 2 ^ 25) : okk (f_X2_atNode (some (F 0)) (some q) (some (F (50 + m.2.1))) h) (fun b => SP E B F R (atNode S m) b.2) := by
  obtain ⟨hk, hn, hr⟩ := hm
  unfold atNode at hB ⊢
  dsimp only at hB ⊢
  unfold f_X2_atNode f_X2_atNode_B127
  rw [r_mk hS hq hq2, r_kv hS hk, cl_eq (r_ord hS hk)]
  by_cases c1 : m.1 = 1
  · rw [if_pos (show Int32.ofNat m.1 = 1 from (of_k hk (by decide)).mpr c1), r_sim hS]
    rw [if_pos c1] at hB ⊢
    exact okk_cl ((m_granted hS hq hq2 hw hn hB hB2).mono fun b hb => ⟨_, rfl, hb⟩)
  rw [if_neg (show ¬ Int32.ofNat m.1 = 1 from fun hx => c1 ((of_k hk (by decide)).mp hx))]
  rw [if_neg c1] at hB ⊢
  by_cases c2 : m.1 = 2
  · rw [if_pos (show Int32.ofNat m.1 = 2 from (of_k hk (by decide)).mpr c2), r_ndN hS hn (by decide) (by decide)]
    rw [if_pos c2] at hB ⊢
    by_cases c3 : s_nd S m.2.1 3 = 0
    · rw [if_pos c3, if_pos c3]
      exact ⟨_, rfl, hS⟩
    · rw [if_neg c3, if_neg c3]
      rw [r_sc hS (by decide) (by decide), r_ndkN hS hn, r_sc hS (by decide) (by decide), r_clkv hS hn, cl_eq (r_at hS hn), r_of hS, r_cf hS (by decide) (by decide), r_ndv hS hn]
      exact okk_cl ((m_setTimer hS hn hw).mono fun b hb => ⟨_, rfl, hb⟩)
  rw [if_neg (show ¬ Int32.ofNat m.1 = 2 from fun hx => c2 ((of_k hk (by decide)).mp hx))]
  rw [if_neg c2] at hB ⊢
  by_cases c8 : m.1 = 8
  · rw [if_pos (show Int32.ofNat m.1 = 8 from (of_k hk (by decide)).mpr c8), r_ndN hS hn (by decide) (by decide), r_m hS hq hq2 (k := 3) rfl]
    rw [if_pos c8] at hB ⊢
    by_cases c6 : s_nd S m.2.1 6 = m.2.2.2.1
    · rw [if_pos c6, if_pos c6, r_ndv hS hn]
      exact okk_cl ((m_lose hS hn).mono fun b hb => ⟨_, rfl, hb⟩)
    · rw [if_neg c6, if_neg c6]
      exact ⟨_, rfl, hS⟩
  rw [if_neg (show ¬ Int32.ofNat m.1 = 8 from fun hx => c8 ((of_k hk (by decide)).mp hx)), r_ndN hS hn (by decide) (by decide), r_m hS hq hq2 (k := 3) rfl]
  rw [if_neg c8] at hB ⊢
  by_cases c6 : s_nd S m.2.1 6 = m.2.2.2.1
  · rw [if_pos c6, if_pos c6, r_m hS hq hq2 (k := 4) rfl, r_m hS hq hq2 (k := 5) rfl, r_ndv hS hn]
    have h67 : 4 ≤ m.1 ∧ m.1 ≤ 7 := by clear hr; omega
    obtain ⟨r, r1, r2⟩ := hr h67
    rw [r2, clamp9 (by omega)]
    exact okk_cl ((m_cache hS hn r1).mono fun b hb => ⟨_, rfl, hb⟩)
  · rw [if_neg c6, if_neg c6]
    exact ⟨_, rfl, hS⟩
theorem th_pn {β : Type} {ci N : Nat} {fs : List Value} {K : Nat → Nat → Option β} : th_ (p_new h (.inr (ci, fs)) N) (some (pn h)) K = K ci (pn h) := by
  have e : (p_new h (.inr (ci, fs)) N).1 (pn h) = some (.inr (ci, fs)) := pn_at
  simp [th_, cA_, e]
theorem xo_at {α : Type} {ci q : Nat} (hb : pbase h ≤ q) : xo_ (α := α) h ci q = some (.inl (ci, q), h) := by
  unfold xo_
  exact if_pos hb
abbrev stC (t : Int32) : va_E := .inr (15, [.null, .null, .null, .null, .null, .int 0, .int t])
abbrev rjC (q : Nat) : va_E := .inr (16, [.ref q, .null, .null, .null, .null, .int 0])
theorem m_seeNo (hS : SP E B F R S h) {t : Int32} (hx : EX E) (hc : ¬ s_sc S 30 ≤ t) (ro : 1 ≤ pcl h ∧ 7 ≤ psl h) : f_X5_see (some (F 6)) t h = some (.inl (15, pn h), p_new h (stC t) 7) := by
  have hb := hS.base
  unfold f_X5_see
  rw [r_sto hS, if_neg hc, nO_at ro.1 ro.2, cl_eq (i_stale hx hb.1 hb.2.1), th_pn]
  exact xo_at (h := p_new h (stC t) 7) hb.2.1
theorem m_seeYes (hS : SP E B F R S h) {t : Int32} (hc : s_sc S 30 ≤ t) : ∃ h1 : PH, f_X5_see (some (F 6)) t h = some (.inr (), h1) ∧ SP E B F R (u_sc S 30 t) h1 := by
  unfold f_X5_see
  obtain ⟨h1, a1, a2⟩ := w_sto hS (v := t)
  rw [r_sto hS, if_pos hc, a2]
  exact ⟨h1, rfl, a1⟩
theorem m_carryNo (hS : SP E B F R S h) {q : Nat} {m : MG} (hq : R q = some (cMsg (sAd E) m)) (hq2 : E.2.2.1 ≤ q) (hx : EX E) (hk : m.1 = 4 ∨ m.1 = 5) (hc : ¬ s_sc S 30 ≤ m.2.2.2.1) (ro : 2 ≤ pcl h ∧ 13 ≤ psl h) :
    f_X2_carryOut (some (F 0)) (some q) h = some (.inl (16, pn (p_new h (stC m.2.2.2.1) 7)), p_new (p_new h (stC m.2.2.2.1) 7) (rjC (pn h)) 6) := by
  have hb := hS.base
  have hk9 : m.1 < 9 := by omega
  have ro1 : 1 ≤ pcl h ∧ 7 ≤ psl h := by omega
  have hS1 := hS.mk (stC m.2.2.2.1) 7 ro1.1 ro1.2
  have hb1 := hS1.base
  have ro2 : 1 ≤ pcl (p_new h (stC m.2.2.2.1) 7) ∧ 6 ≤ psl (p_new h (stC m.2.2.2.1) 7) := by
    refine ⟨?_, ?_⟩
    · show 1 ≤ h.2.2.2.1 - 1
      have : 2 ≤ h.2.2.2.1 := ro.1
      omega
    · show 6 ≤ h.2.2.2.2 - 7
      have : 13 ≤ h.2.2.2.2 := ro.2
      omega
  have rj : ∀ {α : Type}, (if pbase (p_new h (stC m.2.2.2.1) 7) ≤ pn h then (nO (p_new h (stC m.2.2.2.1) 7) 16 6 [.null, .null, .null, .null, .null, .int 0] fun a41 h42 => cl_ (f_X19_init a41 (some (pn h)) h42) fun _u h43 => th_ h43 (some a41) fun ci9 q9 => xo_ (α := α) h43 ci9 q9) else none) = some (.inl (16, pn (p_new h (stC m.2.2.2.1) 7)), p_new (p_new h (stC m.2.2.2.1) 7) (rjC (pn h)) 6) := by
    intro α
    rw [if_pos (show pbase (p_new h (stC m.2.2.2.1) 7) ≤ pn h from hb.2.1), nO_at ro2.1 ro2.2, cl_eq (i_rej hx hb1.1 hb1.2.1), th_pn]
    exact xo_at (h := p_new (p_new h (stC m.2.2.2.1) 7) (rjC (pn h)) 6) hb1.2.1
  unfold f_X2_carryOut
  rw [r_mk hS hq hq2, r_kind hS (by decide)]
  by_cases h5 : m.1 = 5
  · rw [if_pos ((k_inj hS hk9 (by decide)).mpr h5), r_ref hS (by decide) (by decide), r_m hS hq hq2 (k := 3) rfl, r_m hS hq hq2 (k := 4) rfl, r_stov hS]
    have e1 : f_X5_fetch (some (F 6)) m.2.2.2.1 m.2.2.2.2.1 h = some (.inl (15, pn h), p_new h (stC m.2.2.2.1) 7) := by
      unfold f_X5_fetch
      rw [r_stov hS, cl_eq (m_seeNo hS hx hc ro1)]
      exact xo_at (h := p_new h (stC m.2.2.2.1) 7) hb.2.1
    rw [cl_eq e1]
    dsimp only
    rw [if_pos rfl]
    exact rj
  · rw [if_neg (fun hx9 => h5 ((k_inj hS hk9 (by decide)).mp hx9)), r_ref hS (by decide) (by decide), r_m hS hq hq2 (k := 3) rfl, r_m hS hq hq2 (k := 4) rfl, r_m hS hq hq2 (k := 5) rfl, r_stov hS]
    have e1 : f_X5_write (some (F 6)) m.2.2.2.1 m.2.2.2.2.1 m.2.2.2.2.2.1 h = some (.inl (15, pn h), p_new h (stC m.2.2.2.1) 7) := by
      unfold f_X5_write
      rw [r_stov hS, cl_eq (m_seeNo hS hx hc ro1)]
      exact xo_at (h := p_new h (stC m.2.2.2.1) 7) hb.2.1
    rw [cl_eq e1]
    dsimp only
    rw [if_pos rfl]
    exact rj
end MH3
