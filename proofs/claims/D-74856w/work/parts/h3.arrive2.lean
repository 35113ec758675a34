/-! ROOM: what an arrival does, all kinds -/
set_option maxRecDepth 100000
section EFB
variable {S X : SS} {k g : Nat} {m : MG}
theorem EQ.nd (h : EQ S X k g) {i j : Nat} {v : Int32} (hj : j = 6 ∨ j = 7 ∨ j = 9 ∨ 30 ≤ j) : EQ S (u_nd X i j v) k g :=
  ⟨h.1.tr (SM_nd (by omega)), h.2.1, h.2.2.1, fun a => (nd_ne (Or.inr (by omega))).trans (h.2.2.2.1 a), Nat.le_trans (Nat.le_of_eq (GH_same rfl)) h.2.2.2.2.1, h.2.2.2.2.2⟩
/-- a timer is set -/
theorem EQ.tim (h : EQ S X k g) {v : Int32} (hg : g ≤ wt S m) (hu : s_nd S m.2.1 2 ≠ 0) (hc : s_nd S m.2.1 3 ≠ 0) (hv : (m.1 = 1 ∧ v = m.2.2.2.1 + s_cf S 5) ∨ (m.1 = 2 ∧ v = ndAt S m.2.1 (now S) + s_cf S 6)) : AEF S (setTimer X m.2.1 v) k m := by
  have e : ndRe X m.2.1 v = ndRe S m.2.1 v := by
    show c_re (s_nd X m.2.1 20) (s_nd X m.2.1 21) v = _
    rw [h.1.2.2.2.2.2 m.2.1 20 (by decide) (by decide) (by decide) (by decide) (by decide), h.1.2.2.2.2.2 m.2.1 21 (by decide) (by decide) (by decide) (by decide) (by decide)]
    rfl
  refine ⟨[], ?_, h.1.tr (SM_nd (by decide)), Or.inl rfl, ?_, fun j hj => (nd_ne (Or.inl (Ne.symm hj))).trans (h.2.2.2.1 j), Or.inr ⟨rfl, hu, hc, ?_⟩⟩
  · rw [List.append_nil]
    exact h.2.2.1
  · have a := h.2.2.2.2.1
    have b : GH (setTimer X m.2.1 v) = GH X := GH_same rfl
    rw [b]
    simp only [List.map_nil, List.sum_nil]
    omega
  · have f : s_nd (setTimer X m.2.1 v) m.2.1 8 = mx (now S + 1) (ndRe S m.2.1 v) := by
      rw [← e, ← h.1.2.2.1]
      show fu (s_nd X) m.2.1 (fu (s_nd X m.2.1) 8 (mx (now X + 1) (ndRe X m.2.1 v))) m.2.1 8 = _
      rw [fu_eq, fu_eq]
    rw [f]
    rcases hv with ⟨a, rfl⟩ | ⟨a, rfl⟩
    · exact Or.inl ⟨a, rfl⟩
    · exact Or.inr ⟨a, rfl⟩
theorem eff_granted (hI : Inv S) (hn : m.2.1 < s_n S) (h4 : s_nd S m.2.1 4 = 0) (hl : (s_ms S).length < 8000) (hu : s_nd S m.2.1 2 ≠ 0) (h1 : m.1 = 1) : AEF S (granted (u_ms S ((s_ms S).eraseIdx k)) m) k m := by
  obtain ⟨M, hM⟩ : ∃ M, u_ms S ((s_ms S).eraseIdx k) = M := ⟨_, rfl⟩
  have e0 : EQ S M k 0 := hM ▸ EQ.ms hI
  rw [hM]
  clear hM
  have c3 : s_nd M m.2.1 3 = s_nd S m.2.1 3 := e0.1.2.2.2.2.2 m.2.1 3 (by decide) (by decide) (by decide) (by decide) (by decide)
  have f5 : s_cf M 5 = s_cf S 5 := by rw [e0.1.1]
  unfold granted
  dsimp only
  rw [c3, f5]
  split
  · next c =>
    refine EQ.snd hI hn h4 hl e0 (fun q k1 k2 k3 t1 t2 => ⟨⟨k2, Or.inr (Or.inr (Or.inl ⟨h1, k1, c, t1, t2⟩))⟩, ?_⟩)
    rw [wt_k1 h1, wt_k3 k1, cnd, if_pos c]
    omega
  · next c =>
    split
    · exact e0.non (Nat.zero_le _)
    · obtain ⟨W, hW⟩ : ∃ W, (if s_nd M m.2.1 6 < m.2.2.2.2.1 then u_nd (u_nd (u_nd M m.2.1 9 0) m.2.1 6 m.2.2.2.2.1) m.2.1 7 (limitOf M m.2.2.2.1) else M) = W := ⟨_, rfl⟩
      have e1 : EQ S W k 0 := by
        rw [← hW]
        split
        · exact ((e0.nd (by decide)).nd (by decide)).nd (by decide)
        · exact e0
      rw [hW]
      exact EQ.tim (e1.nd (by decide)) (Nat.zero_le _) hu c (Or.inl ⟨h1, rfl⟩)
theorem eff_atNode (hI : Inv S) (hn : m.2.1 < s_n S) (h4 : s_nd S m.2.1 4 = 0) (hl : (s_ms S).length < 8000) (hu : s_nd S m.2.1 2 ≠ 0) : AEF S (atNode (u_ms S ((s_ms S).eraseIdx k)) m) k m := by
  have e0 : EQ S (u_ms S ((s_ms S).eraseIdx k)) k 0 := EQ.ms hI
  unfold atNode
  dsimp only
  split
  · next h1 => exact eff_granted hI hn h4 hl hu h1
  · split
    · next h2 =>
      split
      · exact e0.non (Nat.zero_le _)
      · next c => exact EQ.tim e0 (Nat.zero_le _) hu c (Or.inr ⟨h2, rfl⟩)
    · split
      · split
        · exact ((e0.nd (by decide)).nd (by decide)).non (Nat.zero_le _)
        · exact e0.non (Nat.zero_le _)
      · split
        · exact ((e0.nd (by decide)).nd (Or.inr (Or.inr (Or.inr (Nat.le_add_right _ _))))).non (Nat.zero_le _)
        · exact e0.non (Nat.zero_le _)
theorem toNode_k (h : toNode m.1 = true) : m.1 = 1 ∨ m.1 = 2 ∨ 6 ≤ m.1 := by
  unfold toNode at h
  simp only [Bool.or_eq_true, beq_iff_eq, decide_eq_true_eq] at h
  omega
theorem eraseIdx_lt {l : List MG} (hk : l[k]? = some m) : (l.eraseIdx k).length + 1 = l.length := by
  obtain ⟨hlt, -⟩ := List.getElem?_eq_some_iff.mp hk
  rw [List.length_eraseIdx_of_lt hlt]
  omega
/-- an arrival -/
theorem arrive_eff (hI : Inv S) (hk : (s_ms S)[k]? = some m) (hl : (s_ms S).length < 8000) (hle : tmJ m ≤ (now S).toInt) : AEF S (arrive S k m) k m := by
  have hmem : m ∈ s_ms S := List.mem_of_getElem? hk
  have hn : m.2.1 < s_n S := (hI.2.2.2.2.1 m hmem).1.2.1
  have e0 : EQ S (u_ms S ((s_ms S).eraseIdx k)) k 0 := EQ.ms hI
  unfold arrive
  dsimp only
  split
  · exact ((e0.sc (by decide) (by decide)).wa).non (Nat.zero_le _)
  · next c =>
    have h4 : s_nd S m.2.1 4 = 0 := Decidable.byContradiction (fun h => c (Or.inl h))
    split
    · next c2 =>
      have hu : s_nd S m.2.1 2 ≠ 0 := fun h => c (Or.inr ⟨c2.1, h⟩)
      have hp : (now S).toInt < (s_nd S m.2.1 5).toInt := by
        have := c2.2
        unfold paused at this
        simp only [Bool.and_eq_true, decide_eq_true_eq] at this
        exact Int32.lt_iff_toInt_lt.mp this.2
      have hkd := toNode_k c2.1
      have e : s_ms (u_ms S ((s_ms S).eraseIdx k)) = (s_ms S).eraseIdx k := rfl
      obtain ⟨q, hq⟩ : ∃ q : MG, (m.1, m.2.1, m.2.2.1, m.2.2.2.1, m.2.2.2.2.1, m.2.2.2.2.2.1, s_nd S m.2.1 5) = q := ⟨_, rfl⟩
      have q1 : q.1 = m.1 := by rw [← hq]
      have q2 : q.2.1 = m.2.1 := by rw [← hq]
      have q3 : q.2.2.2.1 = m.2.2.2.1 := by rw [← hq]
      have q4 : tmJ q = (s_nd S m.2.1 5).toInt := by
        rw [← hq]
        rfl
      rw [hq, e]
      refine ⟨[q], rfl, ?_, Or.inr ⟨q, rfl, q2, Or.inr (Or.inl ⟨hkd, q1, q3, q4, hp, hu⟩)⟩, ?_, fun j _ => rfl, Or.inl rfl⟩
      · exact (SM_ms.tr SM_mk).tr (SM_ga.tr SM_ms)
      · have hle2 := List.length_eraseIdx_le (s_ms S) k
        have a := GH_add (S := g_mk (u_ms S ((s_ms S).eraseIdx k)) 1 7) (li := 2) (sz := ((s_ms S).eraseIdx k).length) (Or.inl rfl) (by omega)
        have b : GH (u_ms S ((s_ms S).eraseIdx k)) = GH S := GH_same rfl
        have b2 : GH (u_ms (g_add (g_mk (u_ms S ((s_ms S).eraseIdx k)) 1 7) 2 ((s_ms S).eraseIdx k).length) ((s_ms S).eraseIdx k ++ [q])) = GH (g_add (g_mk (u_ms S ((s_ms S).eraseIdx k)) 1 7) 2 ((s_ms S).eraseIdx k).length) := GH_same rfl
        rw [GH_mk] at a
        rw [sum1, b2]
        have pq : ppd S m.2.1 (tmJ q) = 0 := by
          unfold ppd
          rw [if_neg (by omega)]
        have pm : ppd S m.2.1 (tmJ m) = 1 := by
          unfold ppd
          rw [if_pos (by omega)]
        rcases hkd with h1 | h1
        · rw [wt_k1 h1, wt_k1 (q1.trans h1), q2, pq, pm]
          omega
        · rw [wt_k2 h1, wt_k2 (by rw [q1]; exact h1), q2, pq, pm]
          omega
    · next c2 =>
      unfold handle
      split
      · next h0 => exact eff_decide hI hn h4 hl hle h0
      · split
        · next h3 => exact eff_release hI h3
        · split
          · next h5 => exact eff_storage hI hn h4 hl hle h5
          · next a0 a3 a5 =>
            have ht : toNode m.1 = true := by
              unfold toNode
              simp only [Bool.or_eq_true, beq_iff_eq, decide_eq_true_eq]
              omega
            exact eff_atNode hI hn h4 hl (fun h => c (Or.inr ⟨ht, h⟩))
end EFB
