/-! THE TWIN: a message arrives -/
set_option maxRecDepth 100000
theorem pl_perm : ∀ (l : List (Option MG)) (k : Nat) (m : MG), l[k]? = some (some m) → (l.filterMap id).Perm (m :: (l.set k none).filterMap id)
  | [], k, m, hk => by simp at hk
  | x :: l, 0, m, hk => by
    have : x = some m := by simpa using hk
    subst this
    simp
  | x :: l, k + 1, m, hk => by
    have ih := pl_perm l k m (by simpa using hk)
    cases x with
    | none => simpa using ih
    | some q =>
      show (q :: l.filterMap id).Perm (m :: q :: (l.set k none).filterMap id)
      exact (List.Perm.cons q ih).trans (List.Perm.swap m q _)
theorem pl_sub : ∀ (l : List (Option MG)) (k : Nat), ((l.set k none).filterMap id).Sublist (l.filterMap id)
  | [], k => by simp
  | x :: l, 0 => by
    cases x with
    | none => simp
    | some q =>
      show (l.filterMap id).Sublist (q :: l.filterMap id)
      exact List.sublist_cons_self _ _
  | x :: l, k + 1 => by
    have ih := pl_sub l k
    cases x with
    | none => simpa using ih
    | some q =>
      show (q :: (l.set k none).filterMap id).Sublist (q :: l.filterMap id)
      exact List.Sublist.cons_cons q ih
theorem pl_map : ∀ (l : List (Option MG)) (k : Nat) (m m' : MG), l[k]? = some (some m) → sq m' = sq m → ((l.set k (some m')).filterMap id).map sq = (l.filterMap id).map sq
  | [], k, m, m', hk, _ => by simp at hk
  | x :: l, 0, m, m', hk, hs => by
    have : x = some m := by simpa using hk
    subst this
    show sq m' :: _ = sq m :: _
    rw [hs]
  | x :: l, k + 1, m, m', hk, hs => by
    have ih := pl_map l k m m' (by simpa using hk) hs
    cases x with
    | none => simpa using ih
    | some q =>
      show sq q :: ((l.set k (some m')).filterMap id).map sq = sq q :: (l.filterMap id).map sq
      rw [ih]
theorem pw_map {l : List MG} : l.Pairwise (fun a b => sq a < sq b) ↔ (l.map sq).Pairwise (fun a b => a < b) := by
  rw [List.pairwise_map]
theorem erase_perm {α : Type} : ∀ (l : List α) (j : Nat) (m : α), l[j]? = some m → l.Perm (m :: l.eraseIdx j)
  | [], j, m, h => by simp at h
  | x :: l, 0, m, h => by
    have : x = m := by simpa using h
    subst this
    simp
  | x :: l, j + 1, m, h => by
    have ih := erase_perm l j m (by simpa using h)
    show (x :: l).Perm (m :: x :: l.eraseIdx j)
    exact (List.Perm.cons x ih).trans (List.Perm.swap m x _)
section TAR
variable {A : Nat → Nat} {T : TS} {h : PH} {ex : Bool × Int32 × Int32} {S S' : SS} {Pl : List (Option MG)} {w : Nat → Int32}
theorem x_sc_self {k : Nat} : x_sc T k (q_sc T k) = T := by
  have e : fu (q_sc T) k (q_sc T k) = q_sc T := by
    funext j
    by_cases hj : j = k
    · rw [hj, fu_eq]
    · rw [fu_ne hj]
  show (T.1, T.2.1, T.2.2.1, T.2.2.2.1, T.2.2.2.2.1, T.2.2.2.2.2.1, fu (q_sc T) k (q_sc T k)) = T
  rw [e]
  rfl
theorem TMp.gone {k : Nat} (hm : TMp ex Pl w) (hk : k < Pl.length) : TMp ex (Pl.set k none) (upd w (1136 + 6 * k) 0) := by
  refine ⟨by rw [upd_ne (by omega), List.length_set]; exact hm.1, by rw [List.length_set]; exact hm.2.1, fun j => ⟨fun m hx => ?_, fun hx => ?_⟩⟩
  · have hjk : j ≠ k := fun e => by
      subst e
      rw [List.getElem?_set_self hk] at hx
      cases hx
    rw [List.getElem?_set_ne (Ne.symm hjk)] at hx
    have := (hm.2.2 j).1 m hx
    unfold TWm at this ⊢
    rw [upd_ne (by omega), upd_ne (by omega), upd_ne (by omega), upd_ne (by omega), upd_ne (by omega), upd_ne (by omega)]
    exact this
  · by_cases hjk : j = k
    · subst hjk
      exact upd_eq
    · rw [List.getElem?_set_ne (Ne.symm hjk)] at hx
      rw [upd_ne (by omega)]
      exact (hm.2.2 j).2 hx
theorem TMp.late {k : Nat} {m : MG} {t : Int32} (hm : TMp ex Pl w) (hk : Pl[k]? = some (some m)) : TMp ex (Pl.set k (some (m.1, m.2.1, m.2.2.1, m.2.2.2.1, m.2.2.2.2.1, m.2.2.2.2.2.1, t))) (upd w (1136 + 6 * k + 2) t) := by
  have hkl : k < Pl.length := (List.getElem?_eq_some_iff.mp hk).1
  refine ⟨by rw [upd_ne (by omega), List.length_set]; exact hm.1, by rw [List.length_set]; exact hm.2.1, fun j => ⟨fun m' hx => ?_, fun hx => ?_⟩⟩
  · by_cases hjk : j = k
    · subst hjk
      rw [List.getElem?_set_self hkl] at hx
      have em : m' = (m.1, m.2.1, m.2.2.1, m.2.2.2.1, m.2.2.2.2.1, m.2.2.2.2.2.1, t) := by
        have := Option.some.inj (Option.some.inj hx)
        exact this.symm
      rw [em]
      have := (hm.2.2 j).1 m hk
      unfold TWm at this ⊢
      rw [upd_ne (by omega), upd_ne (by omega), show 1138 + 6 * j = 1136 + 6 * j + 2 from by omega, upd_eq, upd_ne (by omega), upd_ne (by omega), upd_ne (by omega)]
      exact ⟨this.1, this.2.1, rfl, this.2.2.2.1, this.2.2.2.2.1, this.2.2.2.2.2⟩
    · rw [List.getElem?_set_ne (Ne.symm hjk)] at hx
      have := (hm.2.2 j).1 m' hx
      unfold TWm at this ⊢
      rw [upd_ne (by omega), upd_ne (by omega), upd_ne (by omega), upd_ne (by omega), upd_ne (by omega), upd_ne (by omega)]
      exact this
  · by_cases hjk : j = k
    · subst hjk
      rw [List.getElem?_set_self hkl] at hx
      cases hx
    · rw [List.getElem?_set_ne (Ne.symm hjk)] at hx
      rw [upd_ne (by omega)]
      exact (hm.2.2 j).2 hx
theorem t_toNode {k : Nat} {h' : PH} (hk : k < 9) : f_X7_isToNode (some (A 0)) (Int32.ofNat (tk k)) h' = some ((if toNode k = true then 1 else 0), h') := by
  unfold f_X7_isToNode f_X7_isToNode_B10
  have : k = 0 ∨ k = 1 ∨ k = 2 ∨ k = 3 ∨ k = 4 ∨ k = 5 ∨ k = 6 ∨ k = 7 ∨ k = 8 := by omega
  rcases this with rfl | rfl | rfl | rfl | rfl | rfl | rfl | rfl | rfl
  · rw [if_pos (by decide), rN_at nar01.1]; rfl
  · rw [if_neg (by decide), rN_at nar01.2]; rfl
  · rw [if_neg (by decide), rN_at nar01.2]; rfl
  · rw [if_pos (by decide), rN_at nar01.1]; rfl
  · rw [if_pos (by decide), rN_at nar01.1]; rfl
  · rw [if_pos (by decide), rN_at nar01.1]; rfl
  · rw [if_neg (by decide), rN_at nar01.2]; rfl
  · rw [if_neg (by decide), rN_at nar01.2]; rfl
  · rw [if_neg (by decide), rN_at nar01.2]; rfl
/-- the message is lost -/
def lostS (S : SS) (m : MG) : Prop := s_nd S m.2.1 4 ≠ 0 ∨ (toNode m.1 = true ∧ s_nd S m.2.1 2 = 0)
/-- what arrives makes of the outcome -/
noncomputable def outc (S : SS) (m : MG) (val old : Int32) : Int32 := if val = -7 then @ite Int32 (lostS S m) (Classical.propDecidable _) 2 (if tTok m < s_sc S 30 then 1 else 0) else old
theorem SI.er {j : Nat} (h : SI S) : SI (u_ms S ((s_ms S).eraseIdx j)) := h.eq rfl rfl h.2.1 rfl rfl rfl (fun m hm => List.mem_of_mem_eraseIdx hm)
/-- the message goes; it is lost or handled -/
theorem t_gone (hA : TA A h) (hr : TR ex S Pl (q_w T)) (hI : SI S) (hl : Pl.length < 12000) {k j : Nat} {m : MG} {val : Int32} (hk : Pl[k]? = some (some m)) (hj : (s_ms S)[j]? = some m) (hm : mOK (s_n S) m) (hx : m.1 = 0 ∨ m.1 = 1 → iv m.2.2.2.1 (s_nd S m.2.1 21).toInt 5700000) (hv : ex.1 = true → val = m.2.2.2.2.2.1) {lost : Int32} (hlo : (lost = 1 ∧ lostS S m) ∨ (lost = 0 ∧ ¬ lostS S m)) :
    ∃ (w' : Nat → Int32) (l : List MG), f_X7_arrives_B132 (some (A 0)) (Int32.ofNat (1136 + 6 * k)) (Int32.ofNat (tk m.1)) (Int32.ofNat m.2.1) (tTok m) (tNum m) val lost (tw A T h) = some (1, tw A (x_w (x_sc T 14 (outc S m val (q_sc T 14))) w') h) ∧ TR ex (if lost = 1 then watch (u_sc (u_ms S ((s_ms S).eraseIdx j)) 11 (s_sc S 11 + 1)) m 2 else handle (u_ms S ((s_ms S).eraseIdx j)) m) (Pl.set k none ++ l.map some) w' ∧ (∀ q ∈ l, (now S).toInt < tmI q) ∧ l.length ≤ 1 := by
  have hkl : k < Pl.length := (List.getElem?_eq_some_iff.mp hk).1
  obtain ⟨hT, hmp, hp, hs⟩ := hr
  -- the row without it
  have hp1 : ((Pl.set k none).filterMap id).Perm ((s_ms S).eraseIdx j) := List.Perm.cons_inv ((pl_perm Pl k m hk).symm.trans (hp.trans (erase_perm _ j m hj)))
  have hr1 : TR ex (u_ms S ((s_ms S).eraseIdx j)) (Pl.set k none) (upd (q_w T) (1136 + 6 * k) 0) := ⟨hT.ms.hi (by omega), hmp.gone hkl, hp1, hs.sublist (pl_sub Pl k)⟩
  unfold f_X7_arrives_B132
  rw [t_rW, t_sW hA _ (1136 + 6 * k) rfl (by omega)]
  -- the outcome
  have main : ∀ o : Int32, ∃ (w' : Nat → Int32) (l : List MG), f_X7_arrives_B176 (some (A 0)) (Int32.ofNat (tk m.1)) (Int32.ofNat m.2.1) (tTok m) (tNum m) val lost (tw A (x_sc (x_w T (upd (q_w T) (1136 + 6 * k) 0)) 14 o) h) = some (1, tw A (x_w (x_sc T 14 o) w') h) ∧ TR ex (if lost = 1 then watch (u_sc (u_ms S ((s_ms S).eraseIdx j)) 11 (s_sc S 11 + 1)) m 2 else handle (u_ms S ((s_ms S).eraseIdx j)) m) (Pl.set k none ++ l.map some) w' ∧ (∀ q ∈ l, (now S).toInt < tmI q) ∧ l.length ≤ 1 := by
    intro o
    unfold f_X7_arrives_B176 f_X7_arrives_B208
    rcases hlo with ⟨rfl, h1⟩ | ⟨rfl, h1⟩
    · rw [if_neg (by decide), if_pos rfl, t_rW, t_aW hA 16 16 rfl (by decide), t_sW hA 16 16 rfl (by decide), rN_at nar01.2]
      have a16 : q_w (x_sc (x_w T (upd (q_w T) (1136 + 6 * k) 0)) 14 o) 16 = s_sc S 11 := hr1.1.1.2.2.2.2.2.2.2.2.2.2.2.2.2.2.2.1
      rw [a16]
      refine ⟨upd (upd (q_w T) (1136 + 6 * k) 0) 16 (s_sc S 11 + 1), [], rfl, ?_, by simp, by simp⟩
      rw [List.map_nil, List.append_nil]
      have h2 : TR ex (u_sc (u_ms S ((s_ms S).eraseIdx j)) 11 (s_sc S 11 + 1)) (Pl.set k none) (upd (upd (q_w T) (1136 + 6 * k) 0) 16 (s_sc S 11 + 1)) := hr1.sc (by simp [scM])
      exact h2.sc0 (Or.inr (Or.inr rfl))
    · rw [if_pos rfl, if_neg (by decide), t_rv]
      obtain ⟨w', Pl', g1, g2, ⟨l, g3, g4⟩, g5⟩ := t_handles (T := x_sc (x_w T (upd (q_w T) (1136 + 6 * k) 0)) 14 o) (m := m) (val := val) hA hr1 hI.er (by rw [List.length_set]; exact hl) hm hx hv
      rw [cl_eq g1, rN_at nar01.2]
      refine ⟨w', l, rfl, by rw [← g3]; exact g2, g4, ?_⟩
      rw [g3] at g5
      simp at g5
      omega
  have e14 : q_w (x_w T (upd (q_w T) (1136 + 6 * k) 0)) 14 = s_sc S 30 := hr1.1.1.2.2.2.2.2.2.2.2.2.2.2.2.2.2.1
  unfold f_X7_arrives_B173
  by_cases hval : val = -7
  · rw [if_pos hval]
    rcases hlo with ⟨rfl, h1⟩ | ⟨rfl, h1⟩
    · have eo : outc S m val (q_sc T 14) = 2 := by unfold outc; rw [if_pos hval, if_pos h1]
      rw [if_neg (by decide), t_pV hA (by decide), eo]
      exact main 2
    · rw [if_pos rfl, t_rW, t_aW hA 14 14 rfl (by decide), e14]
      by_cases hf : tTok m < s_sc S 30
      · have eo : outc S m val (q_sc T 14) = 1 := by unfold outc; rw [if_pos hval, if_neg h1, if_pos hf]
        rw [if_neg (fun hy => (nle.mp hy) hf), t_pV hA (by decide), eo]
        exact main 1
      · have eo : outc S m val (q_sc T 14) = 0 := by unfold outc; rw [if_pos hval, if_neg h1, if_neg hf]
        rw [if_pos (nle.mpr hf), t_pV hA (by decide), eo]
        exact main 0
  · have eo : outc S m val (q_sc T 14) = q_sc T 14 := by unfold outc; rw [if_neg hval]
    rw [if_neg hval, eo]
    have hh := main (q_sc T 14)
    rw [show x_sc (x_w T (upd (q_w T) (1136 + 6 * k) 0)) 14 (q_sc T 14) = x_w T (upd (q_w T) (1136 + 6 * k) 0) from by rw [← x_wsc, x_sc_self]] at hh
    exact hh
/-- arrives -/
theorem t_arrives (hA : TA A h) (hr : TR ex S Pl (q_w T)) (hI : SI S) (hl : Pl.length < 12000) {k j : Nat} {m : MG} (hk : Pl[k]? = some (some m)) (hj : (s_ms S)[j]? = some m) (hm : mOK (s_n S) m) (hx : m.1 = 0 ∨ m.1 = 1 → iv m.2.2.2.1 (s_nd S m.2.1 21).toInt 5700000) :
    (∃ (w' : Nat → Int32) (l : List MG), f_X7_arrives (some (A 0)) (Int32.ofNat k) (tw A T h) = some (1, tw A (x_w (x_sc T 14 (outc S m (q_w T (1141 + 6 * k)) (q_sc T 14))) w') h) ∧ TR ex (arrive S j m) (Pl.set k none ++ l.map some) w' ∧ (∀ q ∈ l, (now S).toInt < tmI q) ∧ l.length ≤ 1 ∧ ¬ (toNode m.1 = true ∧ paused S m.2.1 (now S) = true ∧ ¬ lostS S m)) ∨
    (∃ (w' : Nat → Int32) (m' : MG), f_X7_arrives (some (A 0)) (Int32.ofNat k) (tw A T h) = some (0, tw A (x_w T w') h) ∧ TR ex (arrive S j m) (Pl.set k (some m')) w' ∧ (now S).toInt < tmI m' ∧ m'.2.2.1 = m.2.2.1 ∧ w' (1141 + 6 * k) = q_w T (1141 + 6 * k) ∧ ¬ lostS S m ∧ toNode m.1 = true ∧ paused S m.2.1 (now S) = true) := by
  have hkl : k < Pl.length := (List.getElem?_eq_some_iff.mp hk).1
  have hw := (hr.2.1.2.2 k).1 m hk
  unfold TWm at hw
  obtain ⟨w0, w1, w2, w3, w4, w5⟩ := hw
  have hN := hI.2.1 m.2.1 hm.2.1
  have hW := hI.2.2.2.1
  unfold f_X7_arrives
  rw [t_rW, t_aW hA _ _ ix60 (by omega), w0, t_rW, t_aW hA _ _ (ix6 (x := 1) (c := 1) rfl) (by omega), show 1136 + 6 * k + 1 = 1137 + 6 * k from by omega, w1, t_rW, t_aW hA _ _ (ix6 (x := 3) (c := 3) rfl) (by omega), show 1136 + 6 * k + 3 = 1139 + 6 * k from by omega, w3, t_rW, t_aW hA _ _ (ix6 (x := 4) (c := 4) rfl) (by omega), show 1136 + 6 * k + 4 = 1140 + 6 * k from by omega, w4, t_rW, t_aW hA _ _ (ix6 (x := 5) (c := 5) rfl) (by omega), show 1136 + 6 * k + 5 = 1141 + 6 * k from by omega, ix60, t_rv]
  rw [cl_eq (t_ofN hA hr.1 6 6 rfl hm.2.1 (by decide)), show tnd (s_nd S m.2.1) 6 = s_nd S m.2.1 4 from rfl]
  unfold f_X7_arrives_B86 f_X7_arrives_B90
  -- it is lost
  have lost : lostS S m → ((∃ (w' : Nat → Int32) (l : List MG), f_X7_arrives_B91 (some (A 0)) (Int32.ofNat (1136 + 6 * k)) (Int32.ofNat (tk m.1)) (Int32.ofNat m.2.1) (tTok m) (tNum m) (q_w T (1141 + 6 * k)) 1 (tw A T h) = some (1, tw A (x_w (x_sc T 14 (outc S m (q_w T (1141 + 6 * k)) (q_sc T 14))) w') h) ∧ TR ex (arrive S j m) (Pl.set k none ++ l.map some) w' ∧ (∀ q ∈ l, (now S).toInt < tmI q) ∧ l.length ≤ 1 ∧ ¬ (toNode m.1 = true ∧ paused S m.2.1 (now S) = true ∧ ¬ lostS S m))) := by
    intro h1
    unfold f_X7_arrives_B91
    rw [if_neg (by decide)]
    have := t_gone (lost := 1) hA hr hI hl hk hj hm hx w5 (Or.inl ⟨rfl, h1⟩)
    rw [if_pos rfl] at this
    unfold arrive
    dsimp only
    rw [if_pos (show s_nd S m.2.1 4 ≠ 0 ∨ (toNode m.1 = true ∧ s_nd S m.2.1 2 = 0) from h1)]
    obtain ⟨w', l, e1, e2, e3, e4⟩ := this
    exact ⟨w', l, e1, e2, e3, e4, fun hy => hy.2.2 h1⟩
  by_cases hc : s_nd S m.2.1 4 = 1
  · rw [if_pos hc]
    exact Or.inl (lost (Or.inl (by rw [hc]; decide)))
  · have hc0 : s_nd S m.2.1 4 = 0 := by rcases hN.2.2.2.2.2.1 with e | e; exact e; exact absurd e hc
    rw [if_neg hc, t_rv, cl_eq (t_toNode hm.1)]
    -- it is handled, unless its node is paused
    have go : ¬ lostS S m → ((∃ (w' : Nat → Int32) (l : List MG), f_X7_arrives_B91 (some (A 0)) (Int32.ofNat (1136 + 6 * k)) (Int32.ofNat (tk m.1)) (Int32.ofNat m.2.1) (tTok m) (tNum m) (q_w T (1141 + 6 * k)) 0 (tw A T h) = some (1, tw A (x_w (x_sc T 14 (outc S m (q_w T (1141 + 6 * k)) (q_sc T 14))) w') h) ∧ TR ex (arrive S j m) (Pl.set k none ++ l.map some) w' ∧ (∀ q ∈ l, (now S).toInt < tmI q) ∧ l.length ≤ 1 ∧ ¬ (toNode m.1 = true ∧ paused S m.2.1 (now S) = true ∧ ¬ lostS S m)) ∨
        (∃ (w' : Nat → Int32) (m' : MG), f_X7_arrives_B91 (some (A 0)) (Int32.ofNat (1136 + 6 * k)) (Int32.ofNat (tk m.1)) (Int32.ofNat m.2.1) (tTok m) (tNum m) (q_w T (1141 + 6 * k)) 0 (tw A T h) = some (0, tw A (x_w T w') h) ∧ TR ex (arrive S j m) (Pl.set k (some m')) w' ∧ (now S).toInt < tmI m' ∧ m'.2.2.1 = m.2.2.1 ∧ w' (1141 + 6 * k) = q_w T (1141 + 6 * k) ∧ ¬ lostS S m ∧ toNode m.1 = true ∧ paused S m.2.1 (now S) = true)) := by
      intro h1
      unfold f_X7_arrives_B91
      rw [if_pos rfl, t_rv, cl_eq (t_toNode hm.1)]
      have hh := t_gone (lost := 0) hA hr hI hl hk hj hm hx w5 (Or.inr ⟨rfl, h1⟩)
      rw [if_neg (show ¬ (0 : Int32) = 1 by decide)] at hh
      unfold arrive
      dsimp only
      rw [if_neg (show ¬ (s_nd S m.2.1 4 ≠ 0 ∨ (toNode m.1 = true ∧ s_nd S m.2.1 2 = 0)) from h1)]
      by_cases htn : toNode m.1 = true
      · rw [if_pos htn, if_neg (by decide), t_rv, cl_eq (t_isPaused hA hr.1 hN hW.1 hm.2.1)]
        by_cases hpa : paused S m.2.1 (now S) = true
        · rw [if_pos hpa, if_neg (by decide), t_rW, t_rv, cl_eq (t_ofN hA hr.1 4 4 rfl hm.2.1 (by decide)), show tnd (s_nd S m.2.1) 4 = s_nd S m.2.1 5 from rfl]
          rw [t_sW hA _ (1136 + 6 * k + 2) (by rw [show (2 : Int32) = Int32.ofNat 2 from rfl, of_add]) (by omega), rN_at nar01.1]
          rw [if_pos ⟨htn, hpa⟩]
          refine Or.inr ⟨_, (m.1, m.2.1, m.2.2.1, m.2.2.2.1, m.2.2.2.2.1, m.2.2.2.2.2.1, s_nd S m.2.1 5), rfl, ?_, ?_, rfl, by rw [upd_ne (by omega)], h1, htn, hpa⟩
          · obtain ⟨hT, hmp, hp, hs⟩ := hr
            refine ⟨?_, hmp.late hk, ?_, ?_⟩
            · exact TWb.hi (show TWb ex _ (q_w T) from hT) (by omega)
            · have p1 := pl_perm (Pl.set k (some (m.1, m.2.1, m.2.2.1, m.2.2.2.1, m.2.2.2.2.1, m.2.2.2.2.2.1, s_nd S m.2.1 5))) k _ (List.getElem?_set_self hkl)
              rw [List.set_set] at p1
              have hp1 : ((Pl.set k none).filterMap id).Perm ((s_ms S).eraseIdx j) := List.Perm.cons_inv ((pl_perm Pl k m hk).symm.trans (hp.trans (erase_perm _ j m hj)))
              exact p1.trans ((List.Perm.cons _ hp1).trans (List.perm_append_singleton _ _).symm)
            · rw [pw_map] at hs ⊢
              rw [pl_map Pl k m (m.1, m.2.1, m.2.2.1, m.2.2.2.1, m.2.2.2.2.1, m.2.2.2.2.2.1, s_nd S m.2.1 5) hk rfl]
              exact hs
          · show (now S).toInt < (s_nd S m.2.1 5).toInt
            unfold paused at hpa
            have := (Bool.and_eq_true _ _ ▸ hpa).2
            have h2 := of_decide_eq_true this
            rw [Int32.lt_iff_toInt_lt] at h2
            exact h2
        · rw [if_neg hpa, if_pos rfl, if_neg (fun hy => hpa hy.2)]
          obtain ⟨w', l, e1, e2, e3, e4⟩ := hh
          exact Or.inl ⟨w', l, e1, e2, e3, e4, fun hy => hpa hy.2.1⟩
      · rw [if_neg htn, if_pos rfl, if_neg (fun hy => htn hy.1)]
        obtain ⟨w', l, e1, e2, e3, e4⟩ := hh
        exact Or.inl ⟨w', l, e1, e2, e3, e4, fun hy => htn hy.1⟩
    by_cases htn : toNode m.1 = true
    · rw [if_pos htn, if_neg (show ¬ (1 : Int32) = 0 by decide), t_rv, cl_eq (t_ofN hA hr.1 3 3 rfl hm.2.1 (by decide)), show tnd (s_nd S m.2.1) 3 = s_nd S m.2.1 2 from rfl]
      by_cases hu : s_nd S m.2.1 2 = 0
      · rw [if_pos hu]
        exact Or.inl (lost (Or.inr ⟨htn, hu⟩))
      · rw [if_neg hu]
        exact go (fun hy => by
          rcases hy with hy | hy
          · exact hy hc0
          · exact hu hy.2)
    · rw [if_neg htn, if_pos rfl]
      exact go (fun hy => by
        rcases hy with hy | hy
        · exact hy hc0
        · exact htn hy.1)
end TAR
