/-! arrive, the first message -/
set_option maxRecDepth 100000
theorem map_er {α β : Type} (f : α → β) : ∀ (l : List α) (k : Nat), (l.eraseIdx k).map f = (l.map f).eraseIdx k
  | [], _ => rfl
  | _ :: _, 0 => rfl
  | a :: l, k + 1 => by
    show f a :: (l.eraseIdx k).map f = f a :: (l.map f).eraseIdx k
    rw [map_er f l k]
section MF
variable {E : PE} {B : Nat × Nat} {F : Nat → Nat} {R : PM} {S : SS} {h : PH}
theorem i_post {ka : Nat → Nat} {q : Nat} {m : MG} {t : Int32} (hb : pbase h ≤ pn h) (hq : h.1 q = some (cMsg ka m)) (hl : q < pn h) : f_X16_init (pn h) (some q) t (p_new h (.inr (13, [.null, .int 0, .int 0, .int 0, .int 0, .int 0, .int 0])) 7) = some ((), p_new h (cMsg ka (m.1, m.2.1, m.2.2.1, m.2.2.2.1, m.2.2.2.2.1, m.2.2.2.2.2.1, t)) 7) := by
  unfold f_X16_init
  have eq : ∀ e : va_E, (p_new h e 7).1 q = some (.inr (13, [.ref (ka m.1), .int (Int32.ofNat m.2.1), .int m.2.2.1, .int m.2.2.2.1, .int m.2.2.2.2.1, .int m.2.2.2.2.2.1, .int m.2.2.2.2.2.2])) := fun e => by rw [pn_ne (Nat.ne_of_lt hl)]; exact hq
  rw [gR_at (eq _) (v := ka m.1) rfl, pV_pn hb (Nat.le_of_ble_eq_true rfl), gI_at (eq _) (v := Int32.ofNat m.2.1) rfl, pV_pn hb (Nat.le_of_ble_eq_true rfl), gI_at (eq _) (v := m.2.2.1) rfl, pV_pn hb (Nat.le_of_ble_eq_true rfl), gI_at (eq _) (v := m.2.2.2.1) rfl, pV_pn hb (Nat.le_of_ble_eq_true rfl), gI_at (eq _) (v := m.2.2.2.2.1) rfl, pV_pn hb (Nat.le_of_ble_eq_true rfl), gI_at (eq _) (v := m.2.2.2.2.2.1) rfl, pV_pn hb (Nat.le_of_ble_eq_true rfl), pV_pn hb (Nat.le_of_ble_eq_true rfl)]
  rfl
theorem m_arrive {k q : Nat} {m : MG} (hS : SQ E B F R S h 2 k q) (hk : (s_ms S)[k]? = some m) (hw : W1 S) (hx : EX E) (hm : mOK (s_n S) m) (hB : fitB B (arrive S k m)) (hB2 : B.2 < 2 ^ 25) : okk (f_X2_arrive (some (F 0)) (some q) h) (fun b => SP E B F R (arrive S k m) b.2) := by
  have hn := hm.2.1
  have hS0 : SP E B F R S h := by
    obtain ⟨G, ad, I, g1, g2, hr, -, -⟩ := hS
    exact ⟨G, ad, I, g1, g2, hr⟩
  obtain ⟨x, x1, x2, x3⟩ := l_remq hS (S' := u_ms S ((s_ms S).eraseIdx k)) ⟨rfl, rfl, rfl, rfl, rfl, rfl⟩ (by
    show ((s_ms S).eraseIdx k).map (cMsg (sAd E)) = ((s_ms S).map (cMsg (sAd E))).eraseIdx k
    exact map_er _ _ _) (fun j j1 j2 j3 => by
    have : j = 3 ∨ j = 4 ∨ j = 5 := by omega
    rcases this with rfl | rfl | rfl <;> rfl)
  have ex : x = cMsg (sAd E) m := by
    have h1 : ((s_ms S).map (cMsg (sAd E)))[k]? = some x := x1
    rw [List.getElem?_map, hk] at h1
    exact (Option.some.inj h1).symm
  subst ex
  unfold f_X2_arrive
  rw [r_ref hS0 (by decide) (by decide), r_lsv hS0 (by decide) (by decide)]
  refine okk_cl (x3.mono fun b hb => ?_)
  obtain ⟨u, h2⟩ := b
  have s1 : SP E B F (fun b => if b = q then some (cMsg (sAd E) m) else R b) (u_ms S ((s_ms S).eraseIdx k)) h2 := hb
  have hq : (fun b => if b = q then some (cMsg (sAd E) m) else R b : PM) q = some (cMsg (sAd E) m) := if_pos rfl
  have qlt := (hS0.base)
  have back : ∀ {S' : SS} {h' : PH}, SP E B F (fun b => if b = q then some (cMsg (sAd E) m) else R b) S' h' → SP E B F R S' h' := by
    intro S' h' hs
    refine hs.less fun b e he => ?_
    by_cases hbq : b = q
    · obtain ⟨x', y1, y2, y3⟩ := hS.sp (by decide) (by decide)
      have z1 := (hS0.tr he).1
      have ex' : x' = cMsg (sAd E) m := by
        have h1 : ((s_ms S).map (cMsg (sAd E)))[k]? = some x' := y1
        rw [List.getElem?_map, hk] at h1
        exact (Option.some.inj h1).symm
      have z2 := (y3.tr (b := q) (e := x') (if_pos rfl)).1
      rw [hbq, z2, ex'] at z1
      rw [hbq]
      exact (if_pos rfl).trans z1
    · exact (if_neg hbq).trans he
  obtain ⟨R1, hR1⟩ : ∃ R1 : PM, (fun b => if b = q then some (cMsg (sAd E) m) else R b : PM) = R1 := ⟨_, rfl⟩
  rw [hR1] at s1 hq back
  have hn1 : m.2.1 < s_n (u_ms S ((s_ms S).eraseIdx k)) := hn
  have hw1 : W1 (u_ms S ((s_ms S).eraseIdx k)) := hw
  show okk (gR h2 (some (F 0)) 1 1 _) _
  rw [r_ref s1 (by decide) (by decide), r_m s1 hq x2 (k := 1) rfl, r_nds s1 hn1, r_ndN s1 hn1 (by decide) (by decide)]
  unfold arrive at hB ⊢
  dsimp only at hB ⊢
  have lost : okk (f_X2_arrive_B45 (some (F 0)) (some q) h2) (fun b => SP E B F R (watch (u_sc (u_ms S ((s_ms S).eraseIdx k)) 11 (s_sc S 11 + 1)) m 2) b.2) := by
    unfold f_X2_arrive_B45 f_X2_arrive_B111
    rw [r_sc s1 (by decide) (by decide)]
    obtain ⟨h13, a1, a2⟩ := w_sc s1 (k := 11) (v := s_sc S 11 + 1) (by decide) (by decide)
    rw [show Value.int (s_sc (u_ms S ((s_ms S).eraseIdx k)) 11 + 1) = Value.int (s_sc S 11 + 1) from rfl, a2, r_sim a1]
    exact okk_cl ((m_watch a1 hq x2).mono fun b hb => ⟨_, rfl, back hb⟩)
  have rest : okk (f_X2_arrive_B64 (some (F 0)) (some q) (some (F (50 + m.2.1))) h2) (fun b => SP E B F R (if toNode m.1 = true ∧ paused S m.2.1 (now S) = true then u_ms (g_add (g_mk (u_ms S ((s_ms S).eraseIdx k)) 1 7) 2 (s_ms (u_ms S ((s_ms S).eraseIdx k))).length) (s_ms (u_ms S ((s_ms S).eraseIdx k)) ++ [(m.1, m.2.1, m.2.2.1, m.2.2.2.1, m.2.2.2.2.1, m.2.2.2.2.2.1, s_nd S m.2.1 5)]) else handle (u_ms S ((s_ms S).eraseIdx k)) m) b.2) ∨ ¬ fitB B (if toNode m.1 = true ∧ paused S m.2.1 (now S) = true then u_ms (g_add (g_mk (u_ms S ((s_ms S).eraseIdx k)) 1 7) 2 (s_ms (u_ms S ((s_ms S).eraseIdx k))).length) (s_ms (u_ms S ((s_ms S).eraseIdx k)) ++ [(m.1, m.2.1, m.2.2.1, m.2.2.2.1, m.2.2.2.2.1, m.2.2.2.2.2.1, s_nd S m.2.1 5)]) else handle (u_ms S ((s_ms S).eraseIdx k)) m) := by
    by_cases hf : fitB B (if toNode m.1 = true ∧ paused S m.2.1 (now S) = true then u_ms (g_add (g_mk (u_ms S ((s_ms S).eraseIdx k)) 1 7) 2 (s_ms (u_ms S ((s_ms S).eraseIdx k))).length) (s_ms (u_ms S ((s_ms S).eraseIdx k)) ++ [(m.1, m.2.1, m.2.2.1, m.2.2.2.1, m.2.2.2.2.1, m.2.2.2.2.2.1, s_nd S m.2.1 5)]) else handle (u_ms S ((s_ms S).eraseIdx k)) m)
    · left
      unfold f_X2_arrive_B64 f_X2_arrive_B106 f_X2_arrive_B111
      rw [r_mk s1 hq x2, r_kv s1 hm.1, cl_eq (m_toNode s1 hm.1)]
      have hand : ¬ (toNode m.1 = true ∧ paused S m.2.1 (now S) = true) → okk (rv_ h2 (some (F 0)) 1 (cl_ (f_X2_handle (some (F 0)) (some q) h2) fun _u h27 => some ((), h27))) (fun b => SP E B F R (if toNode m.1 = true ∧ paused S m.2.1 (now S) = true then u_ms (g_add (g_mk (u_ms S ((s_ms S).eraseIdx k)) 1 7) 2 (s_ms (u_ms S ((s_ms S).eraseIdx k))).length) (s_ms (u_ms S ((s_ms S).eraseIdx k)) ++ [(m.1, m.2.1, m.2.2.1, m.2.2.2.1, m.2.2.2.2.1, m.2.2.2.2.2.1, s_nd S m.2.1 5)]) else handle (u_ms S ((s_ms S).eraseIdx k)) m) b.2) := by
        intro hno
        rw [if_neg hno] at hf ⊢
        rw [r_sim s1]
        exact okk_cl ((m_handle s1 hq x2 hw1 hx hm hf hB2).mono fun b hb => ⟨_, rfl, back hb⟩)
      by_cases ht : toNode m.1 = true
      · rw [if_pos ht, if_neg (by decide), r_sc s1 (by decide) (by decide), r_ndv s1 hn1, cl_eq (m_paused s1 hn1)]
        by_cases hp : paused S m.2.1 (now S) = true
        · rw [if_pos (show paused (u_ms S ((s_ms S).eraseIdx k)) m.2.1 (s_sc (u_ms S ((s_ms S).eraseIdx k)) 8) = true from hp), if_neg (by decide)]
          rw [if_pos ⟨ht, hp⟩] at hf ⊢
          rw [r_ref s1 (by decide) (by decide), r_ndN s1 hn1 (by decide) (by decide), rv_at (s1.tr hq).1]
          have rm := s1.room
          have hf1 : fitB B (g_mk (u_ms S ((s_ms S).eraseIdx k)) 1 7) := hf.le (gle_add (S := g_mk (u_ms S ((s_ms S).eraseIdx k)) 1 7))
          have p1 := hf1.1
          have p2 := hf1.2
          rw [gh_mk0] at p1
          rw [gh_mk1] at p2
          have ro : 1 ≤ pcl h2 ∧ 7 ≤ psl h2 := by omega
          have e1 : f_X16_postponedTo (some q) (s_nd (u_ms S ((s_ms S).eraseIdx k)) m.2.1 5) h2 = some (some (pn h2), p_new h2 (cMsg (sAd E) (m.1, m.2.1, m.2.2.1, m.2.2.2.1, m.2.2.2.2.1, m.2.2.2.2.2.1, s_nd S m.2.1 5)) 7) := by
            unfold f_X16_postponedTo
            rw [nO_at ro.1 ro.2, cl_eq (i_post s1.base.2.1 (s1.tr hq).1 (s1.tr hq).2)]
            rfl
          rw [cl_eq e1, r_lsv (s1.mk _ 7 ro.1 ro.2) (by decide) (by decide)]
          refine okk_cl ((l_addn s1 (S' := u_ms (g_add (g_mk (u_ms S ((s_ms S).eraseIdx k)) 1 7) 2 (s_ms (u_ms S ((s_ms S).eraseIdx k))).length) (s_ms (u_ms S ((s_ms S).eraseIdx k)) ++ [(m.1, m.2.1, m.2.2.1, m.2.2.2.1, m.2.2.2.2.1, m.2.2.2.2.2.1, s_nd S m.2.1 5)])) (li := 2) (N := 7) (by decide) (by decide) ?_ ?_ ?_ (by decide) hf hB2).mono fun b hb => ⟨_, rfl, back hb⟩)
          · rw [len2]
            exact ⟨rfl, rfl, rfl, rfl, rfl, rfl⟩
          · show (s_ms (u_ms S ((s_ms S).eraseIdx k)) ++ [(m.1, m.2.1, m.2.2.1, m.2.2.2.1, m.2.2.2.2.1, m.2.2.2.2.2.1, s_nd S m.2.1 5)]).map (cMsg (sAd E)) = (s_ms (u_ms S ((s_ms S).eraseIdx k))).map (cMsg (sAd E)) ++ _
            rw [List.map_append]; rfl
          · intro j j1 j2 j3
            have : j = 3 ∨ j = 4 ∨ j = 5 := by omega
            rcases this with rfl | rfl | rfl <;> rfl
        · rw [if_neg (show ¬ paused (u_ms S ((s_ms S).eraseIdx k)) m.2.1 (s_sc (u_ms S ((s_ms S).eraseIdx k)) 8) = true from hp), if_pos rfl]
          exact hand (fun hx => hp hx.2)
      · rw [if_neg ht, if_pos rfl]
        exact hand (fun hx => ht hx.1)
    · exact Or.inr hf
  by_cases hcut : s_nd S m.2.1 4 = 0
  · rw [if_pos (show s_nd (u_ms S ((s_ms S).eraseIdx k)) m.2.1 4 = 0 from hcut)]
    rw [r_mk s1 hq x2, r_kv s1 hm.1, cl_eq (m_toNode s1 hm.1)]
    by_cases ht : toNode m.1 = true
    · rw [if_pos ht, if_neg (by decide), r_ndN s1 hn1 (by decide) (by decide)]
      by_cases hup : s_nd S m.2.1 2 = 0
      · rw [if_pos (show s_nd (u_ms S ((s_ms S).eraseIdx k)) m.2.1 2 = 0 from hup)]
        rw [if_pos (show s_nd S m.2.1 4 ≠ 0 ∨ (toNode m.1 = true ∧ s_nd S m.2.1 2 = 0) from Or.inr ⟨ht, hup⟩)]
        exact lost
      · rw [if_neg (show ¬ s_nd (u_ms S ((s_ms S).eraseIdx k)) m.2.1 2 = 0 from hup)]
        rw [if_neg (show ¬ (s_nd S m.2.1 4 ≠ 0 ∨ (toNode m.1 = true ∧ s_nd S m.2.1 2 = 0)) from fun hx => hx.elim (fun hy => hy hcut) (fun hy => hup hy.2))] at hB ⊢
        exact rest.resolve_right (fun hx => hx hB)
    · rw [if_neg ht, if_pos rfl]
      rw [if_neg (show ¬ (s_nd S m.2.1 4 ≠ 0 ∨ (toNode m.1 = true ∧ s_nd S m.2.1 2 = 0)) from fun hx => hx.elim (fun hy => hy hcut) (fun hy => ht hy.1))] at hB ⊢
      exact rest.resolve_right (fun hx => hx hB)
  · rw [if_neg (show ¬ s_nd (u_ms S ((s_ms S).eraseIdx k)) m.2.1 4 = 0 from hcut)]
    rw [if_pos (show s_nd S m.2.1 4 ≠ 0 ∨ (toNode m.1 = true ∧ s_nd S m.2.1 2 = 0) from Or.inl hcut)]
    exact lost
end MF
