/-! at the storage, release, handle, arrive -/
set_option maxRecDepth 100000
section MA
variable {E : PE} {B : Nat × Nat} {F : Nat → Nat} {R : PM} {S : SS} {h : PH}
theorem m_atStorage (hS : SP E B F R S h) {q : Nat} {m : MG} (hq : R q = some (cMsg (sAd E) m)) (hq2 : E.2.2.1 ≤ q) (hw : W1 S) (hx : EX E) (hm : mOK (s_n S) m) (hk : m.1 = 4 ∨ m.1 = 5) (hB : fitB B (atStorage S m)) (hB2 : B.2 < 2 ^ 25) : okk (f_X2_atStorage (some (F 0)) (some q) h) (fun b => SP E B F R (atStorage S m) b.2) := by
  by_cases hc : s_sc S 30 ≤ m.2.2.2.1
  · obtain ⟨hk9, hn, hr⟩ := hm
    have h67 : 4 ≤ m.1 ∧ m.1 ≤ 7 := by clear hr; omega
    obtain ⟨r, r1, r2⟩ := hr h67
    unfold atStorage at hB ⊢
    rw [if_pos hc] at hB ⊢
    dsimp only at hB ⊢
    rw [r2, clamp9 (by omega)] at hB ⊢
    obtain ⟨h1, a1, a2⟩ := m_seeYes hS hc
    suffices hmain : okk (f_X2_carryOut (some (F 0)) (some q) h) (fun b => b.1 = .inr () ∧ SP E B F R (if m.1 = 5 then send (u_sc S 30 m.2.2.2.1) 7 m.2.1 3 m.2.2.2.1 (Int32.ofNat r) (s_ar S 0 r) else send (watch (note (u_ar (u_ar (u_sc S 30 m.2.2.2.1) 0 r m.2.2.2.2.2.1) 1 r (s_ar S 1 r + 1)) 6 (Int32.ofNat m.2.1) m.2.2.2.1) m 0) 6 m.2.1 3 m.2.2.2.1 (Int32.ofNat r) m.2.2.2.2.2.1) b.2) by
      unfold f_X2_atStorage
      rw [r_sim hS]
      refine okk_cl (hmain.mono fun b hb => ?_)
      obtain ⟨z, h9⟩ := b
      obtain ⟨rfl, hb2⟩ := hb
      exact ⟨_, rfl, hb2⟩
    unfold f_X2_carryOut f_X2_carryOut_B135
    rw [r_mk hS hq hq2, r_kind hS (by decide)]
    by_cases h5 : m.1 = 5
    · rw [if_pos h5] at hB
      rw [if_pos ((k_inj hS hk9 (by decide)).mpr h5), r_ref hS (by decide) (by decide), r_m hS hq hq2 (k := 3) rfl, r_m hS hq hq2 (k := 4) rfl, r_stov hS, r2]
      have e1 : f_X5_fetch (some (F 6)) m.2.2.2.1 (Int32.ofNat r) h = some (.inr (s_ar S 0 r), h1) := by
        unfold f_X5_fetch
        rw [r_stov hS, cl_eq a1]
        dsimp only
        rw [r_sto0 a2, r_arr a2 (k := 8) (Or.inr (Or.inl rfl)) r1]
        rfl
      rw [cl_eq e1]
      dsimp only
      have ro := roomN a2 hB
      have e2 := fun e => a2.mk e 3 ro.1 ro.2
      have qn : q ≠ pn h1 := Nat.ne_of_lt (a2.tr hq).2
      have hq' : ∀ e : va_E, (fun b => if b = pn h1 then some e else R b : PM) q = some (cMsg (sAd E) m) := fun e => (if_neg qn).trans hq
      rw [r_kind a2 (by decide), r_m a2 hq hq2 (k := 1) rfl, nA_3 ro.1 ro.2, r_m (e2 _) (hq' _) hq2 (k := 3) rfl, sI_pn0 a2.base.2.1 (by decide) (by decide), r_m (e2 _) (hq' _) hq2 (k := 4) rfl, sI_pn1 a2.base.2.1 (by decide) (by decide), sI_pn2 a2.base.2.1 (by decide) (by decide), r_sim (e2 _), r2]
      refine okk_cl ((m_sendN a2 (kind := 7) (len := 3) (a := m.2.2.2.1) (b := Int32.ofNat r) (c := s_ar S 0 r) hw (by decide) hn (by decide) rfl rfl rfl hB hB2).mono fun b9 hb9 => ⟨_, rfl, rfl, ?_⟩)
      rw [if_pos h5]
      exact hb9
    · rw [if_neg h5] at hB
      rw [if_neg (fun hx9 => h5 ((k_inj hS hk9 (by decide)).mp hx9)), r_ref hS (by decide) (by decide), r_m hS hq hq2 (k := 3) rfl, r_m hS hq hq2 (k := 4) rfl, r_m hS hq hq2 (k := 5) rfl, r_stov hS, r2]
      obtain ⟨h3, b1, b2⟩ := w_arr a2 (k := 8) (v := m.2.2.2.2.2.1) (Or.inr (Or.inl rfl)) r1
      obtain ⟨h6, c1, c2⟩ := w_arr b1 (k := 9) (v := s_ar S 1 r + 1) (Or.inr (Or.inr rfl)) r1
      have e1 : f_X5_write (some (F 6)) m.2.2.2.1 (Int32.ofNat r) m.2.2.2.2.2.1 h = some (.inr (), h6) := by
        unfold f_X5_write
        rw [r_stov hS, cl_eq a1]
        dsimp only
        rw [r_sto0 a2, b2, r_sto1 b1, r_arr b1 (k := 9) (Or.inr (Or.inr rfl)) r1]
        rw [show s_ar (u_ar (u_sc S 30 m.2.2.2.1) (arX 8) r m.2.2.2.2.2.1) (arX 9) r + (1 : Int32) = s_ar S 1 r + 1 from rfl, c2]
      rw [cl_eq e1]
      dsimp only
      have hB1 : fitB B (note (u_ar (u_ar (u_sc S 30 m.2.2.2.1) 0 r m.2.2.2.2.2.1) 1 r (s_ar S 1 r + 1)) 6 (Int32.ofNat m.2.1) m.2.2.2.1) := hB.le gle_ws
      rw [r_m c1 hq hq2 (k := 1) rfl, r_m c1 hq hq2 (k := 3) rfl, r_sim c1]
      refine okk_cl ((m_note c1 (kind := 6) (by decide) hB1 hB2).mono fun b hb => ?_)
      obtain ⟨u, h10⟩ := b
      have s3 : SP E B F R (note (u_ar (u_ar (u_sc S 30 m.2.2.2.1) 0 r m.2.2.2.2.2.1) 1 r (s_ar S 1 r + 1)) 6 (Int32.ofNat m.2.1) m.2.2.2.1) h10 := hb
      show okk (rv_ h10 (some (F 0)) 1 _) _
      rw [r_sim s3]
      refine okk_cl ((m_watch s3 hq hq2).mono fun b hb2 => ?_)
      obtain ⟨u, h11⟩ := b
      have s4 : SP E B F R (watch (note (u_ar (u_ar (u_sc S 30 m.2.2.2.1) 0 r m.2.2.2.2.2.1) 1 r (s_ar S 1 r + 1)) 6 (Int32.ofNat m.2.1) m.2.2.2.1) m 0) h11 := hb2
      show okk (asR (some (h11.2.1.1 6)) _) _
      have ro := roomN s4 hB
      have e2 := fun e => s4.mk e 3 ro.1 ro.2
      have qn : q ≠ pn h11 := Nat.ne_of_lt (s4.tr hq).2
      have hq' : ∀ e : va_E, (fun b => if b = pn h11 then some e else R b : PM) q = some (cMsg (sAd E) m) := fun e => (if_neg qn).trans hq
      rw [r_kind s4 (by decide), r_m s4 hq hq2 (k := 1) rfl, nA_3 ro.1 ro.2, r_m (e2 _) (hq' _) hq2 (k := 3) rfl, sI_pn0 s4.base.2.1 (by decide) (by decide), r_m (e2 _) (hq' _) hq2 (k := 4) rfl, sI_pn1 s4.base.2.1 (by decide) (by decide), r_m (e2 _) (hq' _) hq2 (k := 5) rfl, sI_pn2 s4.base.2.1 (by decide) (by decide), r_sim (e2 _), r2]
      refine okk_cl ((m_sendN s4 (kind := 6) (len := 3) (a := m.2.2.2.1) (b := Int32.ofNat r) (c := m.2.2.2.2.2.1) (cS_watch.w1 (cS_note.w1 (show W1 (u_ar (u_ar (u_sc S 30 m.2.2.2.1) 0 r m.2.2.2.2.2.1) 1 r (s_ar S 1 r + 1)) from hw))) (by decide) (by show m.2.1 < s_n (note (u_ar (u_ar (u_sc S 30 m.2.2.2.1) 0 r m.2.2.2.2.2.1) 1 r (s_ar S 1 r + 1)) 6 (Int32.ofNat m.2.1) m.2.2.2.1); rw [cS_note.2.1]; exact hn) (by decide) rfl rfl rfl hB hB2).mono fun b9 hb9 => ⟨_, rfl, rfl, ?_⟩)
      rw [if_neg h5]
      exact hb9
  · unfold atStorage at hB ⊢
    rw [if_neg hc] at hB ⊢
    exact m_fence hS hq hq2 hw hx hm hk hc hB hB2
theorem m_handle (hS : SP E B F R S h) {q : Nat} {m : MG} (hq : R q = some (cMsg (sAd E) m)) (hq2 : E.2.2.1 ≤ q) (hw : W1 S) (hx : EX E) (hm : mOK (s_n S) m) (hB : fitB B (handle S m)) (hB2 : B.2 < 2 ^ 25) : okk (f_X2_handle (some (F 0)) (some q) h) (fun b => SP E B F R (handle S m) b.2) := by
  have hk := hm.1
  have hn := hm.2.1
  unfold handle at hB ⊢
  unfold f_X2_handle f_X2_handle_B117
  rw [r_mk hS hq hq2, r_kv hS hk, cl_eq (r_ord hS hk)]
  have node : (m.1 = 1 ∨ m.1 = 2 ∨ 6 ≤ m.1) → fitB B (atNode S m) → okk (gR h (some (F 0)) 1 1 fun r5 => gIN h (some q) 13 1 fun v6 => aQ h r5 5 v6 fun r7 => rv_ h (some (F 0)) 1 (cl_ (f_X2_atNode (some (F 0)) (some q) r7 h) fun _u h8 => some ((), h8))) (fun b => SP E B F R (atNode S m) b.2) := by
    intro h4 hB4
    rw [r_ref hS (by decide) (by decide), r_m hS hq hq2 (k := 1) rfl, r_nds hS hn, r_sim hS]
    exact okk_cl ((m_atNode hS hq hq2 hw hm h4 hB4 hB2).mono fun b hb => ⟨_, rfl, hb⟩)
  by_cases c0 : m.1 = 0
  · rw [if_pos (show Int32.ofNat m.1 = 0 from (of_k hk (by decide)).mpr c0), r_sim hS]
    rw [if_pos c0] at hB ⊢
    exact okk_cl ((m_decide hS hq hq2 hw hn hB hB2).mono fun b hb => ⟨_, rfl, hb⟩)
  rw [if_neg (show ¬ Int32.ofNat m.1 = 0 from fun hx => c0 ((of_k hk (by decide)).mp hx))]
  rw [if_neg c0] at hB ⊢
  by_cases c1 : m.1 = 1
  · rw [if_pos (show Int32.ofNat m.1 = 1 from (of_k hk (by decide)).mpr c1)]
    rw [if_neg (by omega), if_neg (by omega)] at hB ⊢
    exact node (Or.inl c1) hB
  rw [if_neg (show ¬ Int32.ofNat m.1 = 1 from fun hx => c1 ((of_k hk (by decide)).mp hx))]
  by_cases c2 : m.1 = 2
  · rw [if_pos (show Int32.ofNat m.1 = 2 from (of_k hk (by decide)).mpr c2)]
    rw [if_neg (by omega), if_neg (by omega)] at hB ⊢
    exact node (Or.inr (Or.inl c2)) hB
  rw [if_neg (show ¬ Int32.ofNat m.1 = 2 from fun hx => c2 ((of_k hk (by decide)).mp hx))]
  by_cases c3 : m.1 = 3
  · rw [if_pos (show Int32.ofNat m.1 = 3 from (of_k hk (by decide)).mpr c3)]
    rw [if_pos c3] at hB ⊢
    unfold release at hB ⊢
    unfold f_X2_handle_B86 f_X2_handle_B117
    rw [r_m hS hq hq2 (k := 3) rfl, r_sc hS (by decide) (by decide)]
    by_cases d1 : m.2.2.2.1 = s_sc S 14
    · rw [if_pos d1]
      rw [if_pos d1] at hB ⊢
      rw [r_sc hS (by decide) (by decide)]
      by_cases d2 : s_sc S 12 = -4
      · rw [if_pos d2]
        rw [if_pos d2] at hB ⊢
        obtain ⟨h25, a1, a2⟩ := w_sc hS (k := 12) (v := -4) (by decide) (by decide)
        rw [a2]
        exact ⟨_, rfl, a1⟩
      · rw [if_neg d2]
        rw [if_neg d2] at hB ⊢
        rw [r_m hS hq hq2 (k := 1) rfl, r_m hS hq hq2 (k := 3) rfl, r_sim hS]
        refine okk_cl ((m_note hS (kind := 4) (by decide) hB hB2).mono fun b hb => ?_)
        obtain ⟨u, h18⟩ := b
        have s3 : SP E B F R (note S 4 (Int32.ofNat m.2.1) m.2.2.2.1) h18 := hb
        obtain ⟨h25, a1, a2⟩ := w_sc s3 (k := 12) (v := -4) (by decide) (by decide)
        show okk (pV h18 (some (F 0)) 1 12 _ _) _
        rw [a2]
        exact ⟨_, rfl, a1⟩
    · rw [if_neg d1]
      rw [if_neg d1]
      exact ⟨_, rfl, hS⟩
  rw [if_neg (show ¬ Int32.ofNat m.1 = 3 from fun hx => c3 ((of_k hk (by decide)).mp hx))]
  rw [if_neg c3] at hB ⊢
  by_cases c4 : m.1 = 4
  · rw [if_pos (show Int32.ofNat m.1 = 4 from (of_k hk (by decide)).mpr c4), r_sim hS]
    rw [if_pos (Or.inl c4)] at hB ⊢
    exact okk_cl ((m_atStorage hS hq hq2 hw hx hm (Or.inl c4) hB hB2).mono fun b hb => ⟨_, rfl, hb⟩)
  rw [if_neg (show ¬ Int32.ofNat m.1 = 4 from fun hx => c4 ((of_k hk (by decide)).mp hx))]
  by_cases c5 : m.1 = 5
  · rw [if_pos (show Int32.ofNat m.1 = 5 from (of_k hk (by decide)).mpr c5), r_sim hS]
    rw [if_pos (Or.inr c5)] at hB ⊢
    exact okk_cl ((m_atStorage hS hq hq2 hw hx hm (Or.inr c5) hB hB2).mono fun b hb => ⟨_, rfl, hb⟩)
  rw [if_neg (show ¬ Int32.ofNat m.1 = 5 from fun hx => c5 ((of_k hk (by decide)).mp hx))]
  rw [if_neg (by omega)] at hB ⊢
  exact node (Or.inr (Or.inr (by omega))) hB
end MA
