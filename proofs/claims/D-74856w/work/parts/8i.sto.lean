/-! at the storage, handle, arrive -/
set_option maxRecDepth 100000
section MSt
variable {E : PE} {B : Nat × Nat} {F : Nat → Nat} {R : PM} {S : SS} {h : PH}
theorem m_token {q q9 : Nat} {t : Int32} (e1 : h.1 q9 = some (rjC q)) (e2 : h.1 q = some (stC t)) (b1 : pbase h ≤ q9) (b2 : pbase h ≤ q) (hn : q ≠ q9) : f_X19_token (some q9) h = some (t, h) := by
  unfold f_X19_token
  have e3 : ∀ {β : Type} (K : Option Nat → Option β), cauC h (some q9) 16 K = K (some q) := by
    intro β K
    have b1' : h.2.1.2.2.1 ≤ q9 := b1
    have hg : gcF q9 (some q) = some q := if_neg (fun hx => hn (Option.some.inj hx))
    unfold cauC cO_ cA_
    simp only [e1, if_true]
    rw [if_pos b1]
    show K (gcF q9 (some q)) = _
    rw [hg]
  rw [e3, kC_at e2, gIN_at e2 b2 rfl]
theorem gle_watch {S : SS} {m : MG} {i : Int32} : gle S (watch S m i) := gle.rf
theorem gle_ws {S : SS} {m : MG} {i : Int32} {k n l : Nat} {a b c : Int32} : gle S (send (watch S m i) k n l a b c) := gle.tr (gle_watch (m := m) (i := i)) gle_sendS
theorem cS_watch {S : SS} {m : MG} {i : Int32} : cS S (watch S m i) := ⟨rfl, rfl, rfl⟩
theorem m_fence (hS : SP E B F R S h) {q : Nat} {m : MG} (hq : R q = some (cMsg (sAd E) m)) (hq2 : E.2.2.1 ≤ q) (hw : W1 S) (hx : EX E) (hm : mOK (s_n S) m) (hk : m.1 = 4 ∨ m.1 = 5) (hc : ¬ s_sc S 30 ≤ m.2.2.2.1) (hB : fitB B (fence S m)) (hB2 : B.2 < 2 ^ 25) : okk (f_X2_atStorage (some (F 0)) (some q) h) (fun b => SP E B F R (fence S m) b.2) := by
  obtain ⟨hk9, hn, -⟩ := hm
  unfold fence at hB ⊢
  have hB1 : fitB B (note (g_mk S 2 13) 5 (Int32.ofNat m.2.1) m.2.2.2.1) := hB.le gle_ws
  have hB0 : fitB B (g_mk S 2 13) := hB1.le gle_note
  have rm := hS.room
  have p1 := hB0.1
  have p2 := hB0.2
  rw [gh_mk0] at p1
  rw [gh_mk1] at p2
  have ro : 2 ≤ pcl h ∧ 13 ≤ psl h := by omega
  have hb := hS.base
  have s1 := hS.mk (stC m.2.2.2.1) 7 (by omega) (by omega)
  have ro2 : 1 ≤ pcl (p_new h (stC m.2.2.2.1) 7) ∧ 6 ≤ psl (p_new h (stC m.2.2.2.1) 7) := by
    refine ⟨?_, ?_⟩
    · show 1 ≤ h.2.2.2.1 - 1
      have : 2 ≤ h.2.2.2.1 := ro.1
      omega
    · show 6 ≤ h.2.2.2.2 - 7
      have : 13 ≤ h.2.2.2.2 := ro.2
      omega
  have s2 := s1.mk (rjC (pn h)) 6 ro2.1 ro2.2
  rw [g_mk_mk] at s2
  have hlt : pn h < pn (p_new h (stC m.2.2.2.1) 7) := Nat.lt_succ_self _
  have t1 : (fun b => if b = pn (p_new h (stC m.2.2.2.1) 7) then some (rjC (pn h)) else (fun b => if b = pn h then some (stC m.2.2.2.1) else R b) b : PM) (pn (p_new h (stC m.2.2.2.1) 7)) = some (rjC (pn h)) := if_pos rfl
  have t2 : (fun b => if b = pn (p_new h (stC m.2.2.2.1) 7) then some (rjC (pn h)) else (fun b => if b = pn h then some (stC m.2.2.2.1) else R b) b : PM) (pn h) = some (stC m.2.2.2.1) := (if_neg (Nat.ne_of_lt hlt)).trans (if_pos rfl)
  have qlt : q < pn h := (hS.tr hq).2
  have t3 : ∀ (b : Nat) (e : va_E), R b = some e → (fun b => if b = pn (p_new h (stC m.2.2.2.1) 7) then some (rjC (pn h)) else (fun b => if b = pn h then some (stC m.2.2.2.1) else R b) b : PM) b = some e := by
    intro b e he
    have hl := (hS.tr he).2
    exact (if_neg (by omega)).trans ((if_neg (by omega)).trans he)
  have t4 := t3 q _ hq
  obtain ⟨R2, hR2⟩ : ∃ R2 : PM, (fun b => if b = pn (p_new h (stC m.2.2.2.1) 7) then some (rjC (pn h)) else (fun b => if b = pn h then some (stC m.2.2.2.1) else R b) b : PM) = R2 := ⟨_, rfl⟩
  rw [hR2] at s2 t1 t2 t3 t4
  have hbE : E.2.2.1 ≤ pn h := by have h9 : h.2.1.2.2.1 ≤ pn h := hb.2.1; rw [hb.1] at h9; exact h9
  have tok : ∀ {S1 : SS} {h1 : PH}, SP E B F R2 S1 h1 → f_X19_token (some (pn (p_new h (stC m.2.2.2.1) 7))) h1 = some (m.2.2.2.1, h1) := by
    intro S1 h1 hs
    have hbb := hs.base
    refine m_token (hs.tr t1).1 (hs.tr t2).1 ?_ ?_ (Nat.ne_of_lt hlt)
    · show h1.2.1.2.2.1 ≤ _; rw [hbb.1]; omega
    · show h1.2.1.2.2.1 ≤ _; rw [hbb.1]; exact hbE
  unfold f_X2_atStorage
  rw [r_sim hS, cl_eq (m_carryNo hS hq hq2 hx hk hc ro)]
  dsimp only
  rw [if_pos rfl, if_pos (show pbase (p_new (p_new h (stC m.2.2.2.1) 7) (rjC (pn h)) 6) ≤ pn (p_new h (stC m.2.2.2.1) 7) by show h.2.1.2.2.1 ≤ _; rw [hb.1]; omega)]
  rw [r_m s2 t4 hq2 (k := 1) rfl, rv_at (s2.tr t1).1, cl_eq (tok s2), r_sim s2]
  refine okk_cl ((m_note s2 (kind := 5) (by decide) hB1 hB2).mono fun b hb1 => ?_)
  obtain ⟨u, h5⟩ := b
  have s3 : SP E B F R2 (note (g_mk S 2 13) 5 (Int32.ofNat m.2.1) m.2.2.2.1) h5 := hb1
  show okk (rv_ h5 (some (F 0)) 1 _) _
  rw [r_sim s3]
  refine okk_cl ((m_watch s3 t4 hq2).mono fun b hb2 => ?_)
  obtain ⟨u, h6⟩ := b
  have s4 : SP E B F R2 (watch (note (g_mk S 2 13) 5 (Int32.ofNat m.2.1) m.2.2.2.1) m 1) h6 := hb2
  show okk (asR (some (h6.2.1.1 8)) _) _
  have ro4 := roomN s4 hB
  have qn9 : pn (p_new h (stC m.2.2.2.1) 7) ≠ pn h6 := Nat.ne_of_lt (s4.tr t1).2
  have s5 := fun e => s4.mk e 1 ro4.1 ro4.2
  have t5 : ∀ e : va_E, SP E B F R2 (g_mk (watch (note (g_mk S 2 13) 5 (Int32.ofNat m.2.1) m.2.2.2.1) m 1) 1 1) (p_new h6 e 1) := fun e => (s5 e).less fun b' e' hb' => by
    have hne : b' ≠ pn h6 := Nat.ne_of_lt (s4.tr hb').2
    show (if b' = pn h6 then _ else R2 b') = some e'
    rw [if_neg hne]; exact hb'
  rw [r_kind s4 (by decide), r_m s4 t4 hq2 (k := 1) rfl, nA_1 ro4.1 ro4.2, rv_at ((t5 _).tr t1).1, cl_eq (tok (t5 _)), sI_pn0 s4.base.2.1 (by decide) (by decide), r_sim (t5 _)]
  refine okk_cl ((m_sendN s4 (kind := 8) (len := 1) (a := m.2.2.2.1) (b := 0) (c := 0) (cS_watch.w1 (cS_note.w1 (show W1 (g_mk S 2 13) from hw))) (by decide) (by show m.2.1 < s_n (note (g_mk S 2 13) 5 (Int32.ofNat m.2.1) m.2.2.2.1); rw [cS_note.2.1]; exact hn) (by decide) rfl rfl rfl hB hB2).mono fun b9 hb9 => ⟨_, rfl, hb9.less t3⟩)
end MSt
