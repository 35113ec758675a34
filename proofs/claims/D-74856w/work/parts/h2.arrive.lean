/-! ROOM: what an arrival does, by kinds -/
set_option maxRecDepth 100000
section EFA
variable {S X : SS} {k g : Nat} {m : MG}
theorem wt_k0 {q : MG} (h : q.1 = 0) : wt S q = 4 + cnd S q.2.1 + ppd S q.2.1 (tmJ q + (s_nd S q.2.1 1).toInt) := if_pos h
theorem wt_k1 {q : MG} (h : q.1 = 1) : wt S q = cnd S q.2.1 + ppd S q.2.1 (tmJ q) := by
  unfold wt
  rw [if_neg (by omega), if_pos h]
theorem wt_k3 {q : MG} (h : q.1 = 3) : wt S q = 1 := by
  unfold wt
  rw [if_neg (by omega), if_neg (by omega), if_pos h]
theorem wt_k4 {q : MG} (h : q.1 = 4 ∨ q.1 = 5) : wt S q = 6 + ppd S q.2.1 (tmJ q + (s_nd S q.2.1 1).toInt) := by
  unfold wt
  rw [if_neg (by omega), if_neg (by omega), if_neg (by omega), if_pos h]
theorem wt_k2 {q : MG} (h : q.1 = 2 ∨ 6 ≤ q.1) : wt S q = ppd S q.2.1 (tmJ q) := by
  unfold wt
  rw [if_neg (by omega), if_neg (by omega), if_neg (by omega), if_neg (by omega)]
/-- X: S without its message k, g cells spent, ready to answer -/
def EQ (S X : SS) (k g : Nat) : Prop := SM S X ∧ s_sc X 9 = s_sc S 9 ∧ s_ms X = (s_ms S).eraseIdx k ∧ (∀ j : Nat, s_nd X j 8 = s_nd S j 8) ∧ GH X ≤ GH S + g ∧ (s_lg X).length ≤ 200
theorem EQ.ms (hI : Inv S) : EQ S (u_ms S ((s_ms S).eraseIdx k)) k 0 := ⟨SM_ms, rfl, rfl, fun _ => rfl, Nat.le_of_eq (GH_same rfl), hI.2.2.2.2.2.2.2.2.2.2⟩
theorem EQ.sc (h : EQ S X k g) {j : Nat} {v : Int32} (h8 : j ≠ 8) (h9 : j ≠ 9) : EQ S (u_sc X j v) k g := ⟨h.1.tr (SM_sc h8), (fu_ne (Ne.symm h9)).trans h.2.1, h.2.2.1, h.2.2.2.1, Nat.le_trans (Nat.le_of_eq (GH_same rfl)) h.2.2.2.2.1, h.2.2.2.2.2⟩
theorem EQ.ar (h : EQ S X k g) {i j : Nat} {v : Int32} : EQ S (u_ar X i j v) k g := ⟨h.1.tr SM_ar, h.2.1, h.2.2.1, h.2.2.2.1, Nat.le_trans (Nat.le_of_eq (GH_same rfl)) h.2.2.2.2.1, h.2.2.2.2.2⟩
theorem EQ.wa (h : EQ S X k g) {v : Int32} : EQ S (watch X m v) k g := h.sc (j := 21) (by decide) (by decide)
theorem EQ.mk (h : EQ S X k g) {c l : Nat} : EQ S (g_mk X c l) k (g + c) := ⟨h.1.tr SM_mk, h.2.1, h.2.2.1, h.2.2.2.1, by rw [GH_mk]; have := h.2.2.2.2.1; omega, h.2.2.2.2.2⟩
theorem lgl_note {i : Nat} {n t : Int32} (h : (s_lg X).length ≤ 200) : (s_lg (note X i n t)).length ≤ 200 := by
  unfold note
  dsimp only
  by_cases c : (s_lg X).length = 200
  · rw [if_pos c]
    show ((s_lg X).tail ++ [_]).length ≤ 200
    rw [List.length_append, List.length_tail, List.length_singleton]
    omega
  · rw [if_neg c]
    show (s_lg X ++ [_]).length ≤ 200
    rw [List.length_append, List.length_singleton]
    omega
theorem EQ.no (h : EQ S X k g) {i : Nat} {n t : Int32} : EQ S (note X i n t) k (g + 1) := by
  refine ⟨h.1.tr SM_note, ?_, ?_, fun j => ?_, ?_, lgl_note h.2.2.2.2.2⟩
  · rw [sc_note2]
    exact h.2.1
  · rw [ms_note2]
    exact h.2.2.1
  · rw [cS_note.2.2]
    exact h.2.2.2.1 j
  · have a := GH_note (S := X) (k := i) (n := n) (t := t) h.2.2.2.2.2
    have b := h.2.2.2.2.1
    omega
theorem EQ.le (h : EQ S X k g) {g' : Nat} (hg : g ≤ g') : EQ S X k g' := ⟨h.1, h.2.1, h.2.2.1, h.2.2.2.1, Nat.le_trans h.2.2.2.2.1 (by omega), h.2.2.2.2.2⟩
theorem EQ.non (h : EQ S X k g) (hg : g ≤ wt S m) : AEF S X k m := AEF_non h.1 h.2.2.1 h.2.2.2.1 (Nat.le_trans h.2.2.2.2.1 (by omega))
theorem EQ.snd (hI : Inv S) (hn : m.2.1 < s_n S) (h4 : s_nd S m.2.1 4 = 0) (hl : (s_ms S).length < 8000) (h : EQ S X k g) {kind ln : Nat} {a b c : Int32}
    (hN : ∀ q : MG, q.1 = kind → q.2.1 = m.2.1 → q.2.2.2.1 = a → (now S).toInt + (s_nd S m.2.1 1).toInt ≤ tmJ q → tmJ q ≤ (now S).toInt + (s_nd S m.2.1 1).toInt + (s_cf S 7).toInt → NEWM S m q ∧ g + 3 + wt S q ≤ wt S m) : AEF S (send X kind m.2.1 ln a b c) k m := by
  have t := tm_sendX hI h.1 h.2.1 (k := kind) (n := m.2.1) (a := a) (b := b) (c := c) hn
  have f := hN (mSend X kind m.2.1 a b c) rfl rfl rfl t.1 t.2
  refine AEF_snd hI hn h4 h.1 h.2.1 h.2.2.1 hl h.2.2.2.1 f.1 ?_
  obtain ⟨w, hw⟩ : ∃ w, wt S (mSend X kind m.2.1 a b c) = w := ⟨_, rfl⟩
  have f2 := f.2
  rw [hw] at f2 ⊢
  have := h.2.2.2.2.1
  omega
theorem eff_decide (hI : Inv S) (hn : m.2.1 < s_n S) (h4 : s_nd S m.2.1 4 = 0) (hl : (s_ms S).length < 8000) (hle : tmJ m ≤ (now S).toInt) (h0 : m.1 = 0) : AEF S (decide_ (u_ms S ((s_ms S).eraseIdx k)) m) k m := by
  obtain ⟨M, hM⟩ : ∃ M, u_ms S ((s_ms S).eraseIdx k) = M := ⟨_, rfl⟩
  have e0 : EQ S M k 0 := hM ▸ EQ.ms hI
  rw [hM]
  clear hM
  unfold decide_
  dsimp only
  split
  · -- denied
    refine EQ.snd hI hn h4 hl (e0.no (i := 3)) (fun q k1 k2 k3 t1 t2 => ⟨⟨k2, Or.inl ⟨h0, Or.inr k1, fun hx => absurd (k1.symm.trans hx) (by decide), t1, t2⟩⟩, ?_⟩)
    have p := ppd_mono (S := S) (i := m.2.1) (x := tmJ m + (s_nd S m.2.1 1).toInt) (y := tmJ q) (by omega)
    rw [wt_k0 h0, wt_k2 (Or.inl k1), k2]
    omega
  · -- granted
    obtain ⟨W, hW⟩ : ∃ W, (if (s_sc M 12 != -4 && decide (srvAt M < s_sc M 13)) = true then M else u_sc M 14 (s_sc M 14 + 1)) = W := ⟨_, rfl⟩
    have e1 : EQ S W k 0 := by
      rw [← hW]
      split
      · exact e0
      · exact e0.sc (by decide) (by decide)
    rw [hW]
    clear hW
    refine EQ.snd hI hn h4 hl (((e1.sc (j := 12) (by decide) (by decide)).sc (j := 13) (by decide) (by decide)).no) (fun q k1 k2 k3 t1 t2 => ⟨⟨k2, Or.inl ⟨h0, Or.inl k1, fun _ => k3, t1, t2⟩⟩, ?_⟩)
    have p := ppd_mono (S := S) (i := m.2.1) (x := tmJ m + (s_nd S m.2.1 1).toInt) (y := tmJ q) (by omega)
    rw [wt_k0 h0, wt_k1 k1, k2]
    omega
theorem eff_release (hI : Inv S) (h3 : m.1 = 3) : AEF S (release (u_ms S ((s_ms S).eraseIdx k)) m) k m := by
  have e0 : EQ S (u_ms S ((s_ms S).eraseIdx k)) k 0 := EQ.ms hI
  unfold release
  split
  · split
    · exact (e0.sc (by decide) (by decide)).non (Nat.zero_le _)
    · exact ((e0.no (i := 4)).sc (by decide) (by decide)).non (by rw [wt_k3 h3]; omega)
  · exact e0.non (Nat.zero_le _)
theorem eff_storage (hI : Inv S) (hn : m.2.1 < s_n S) (h4 : s_nd S m.2.1 4 = 0) (hl : (s_ms S).length < 8000) (hle : tmJ m ≤ (now S).toInt) (hk4 : m.1 = 4 ∨ m.1 = 5) : AEF S (atStorage (u_ms S ((s_ms S).eraseIdx k)) m) k m := by
  obtain ⟨M, hM⟩ : ∃ M, u_ms S ((s_ms S).eraseIdx k) = M := ⟨_, rfl⟩
  have e0 : EQ S M k 0 := hM ▸ EQ.ms hI
  rw [hM]
  clear hM
  -- an answer is sent by X
  have fin : ∀ (X : SS) (kd ln : Nat) (a b c : Int32), 6 ≤ kd → EQ S X k 3 → AEF S (send X kd m.2.1 ln a b c) k m := fun X kd ln a b c hkd hX => by
    refine EQ.snd hI hn h4 hl hX (fun q k1 k2 k3 t1 t2 => ⟨⟨k2, Or.inr (Or.inr (Or.inr ⟨hk4, by omega, t1⟩))⟩, ?_⟩)
    have p := ppd_mono (S := S) (i := m.2.1) (x := tmJ m + (s_nd S m.2.1 1).toInt) (y := tmJ q) (by omega)
    rw [wt_k4 hk4, wt_k2 (Or.inr (by omega)), k2]
    omega
  unfold atStorage
  split
  · dsimp only
    split
    · exact fin _ 7 3 _ _ _ (by decide) ((e0.sc (by decide) (by decide)).le (by decide))
    · exact fin _ 6 3 _ _ _ (by decide) ((((e0.sc (j := 30) (by decide) (by decide)).ar.ar.no).wa).le (by decide))
  · unfold fence
    exact fin _ 8 1 _ _ _ (by decide) (((e0.mk.no).wa).le (by decide))
end EFA
