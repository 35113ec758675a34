/-! THE TWIN: the server, the storage, the nodes -/
set_option maxRecDepth 100000
theorem nle {a b : Int32} : b ≤ a ↔ ¬ a < b := by
  rw [Int32.lt_iff_toInt_lt, Int32.le_iff_toInt_le]
  omega
/-- the twin's method ends: S' stands there, messages were added -/
def TO (A : Nat → Nat) (T : TS) (h : PH) (ex : Bool × Int32 × Int32) (S' : SS) (t : Int) (Pl : List (Option MG)) (o : Option (Unit × PH)) : Prop := ∃ (w' : Nat → Int32) (Pl' : List (Option MG)), o = some ((), tw A (x_w T w') h) ∧ TR ex S' Pl' w' ∧ Ext t Pl Pl' ∧ Pl'.length ≤ Pl.length + 1
theorem sc_note {S : SS} {k : Nat} {n t : Int32} : s_sc (note S k n t) = s_sc S := by
  unfold note
  dsimp only
  split <;> rfl
theorem ms_note {S : SS} {k : Nat} {n t : Int32} : s_ms (note S k n t) = s_ms S := by
  unfold note
  dsimp only
  split <;> rfl
theorem sc_send {S : SS} {k n l : Nat} {a b c : Int32} {j : Nat} (hj : j ≠ 9 ∧ j ≠ 10 ∧ j ≠ 11) : s_sc (send S k n l a b c) j = s_sc S j := by
  unfold send
  dsimp only
  split
  · show fu (fu (s_sc S) 9 _) 10 _ j = _
    rw [fu_ne hj.2.1, fu_ne hj.1]
  · show fu (fu (fu (s_sc S) 9 _) 10 _) 11 _ j = _
    rw [fu_ne hj.2.2, fu_ne hj.2.1, fu_ne hj.1]
theorem SI.note {S : SS} {k : Nat} {n t : Int32} (h : SI S) : SI (note S k n t) := h.eq cS_note.1 cS_note.2.1 (fun i hi => by rw [cS_note.2.2]; exact h.2.1 i hi) (by rw [sc_note]) (by rw [sc_note]) (by rw [sc_note]) (fun m hm => by rw [ms_note] at hm; exact hm)
theorem SI.sc {S : SS} {k : Nat} {v : Int32} (h : SI S) (hk : k ≠ 8 ∧ k ≠ 9 ∧ k ≠ 10) : SI (u_sc S k v) := h.eq rfl rfl h.2.1 (fu_ne (Ne.symm hk.1)) (fu_ne (Ne.symm hk.2.1)) (fu_ne (Ne.symm hk.2.2)) (fun m hm => hm)
theorem SI.ar {S : SS} {j k : Nat} {v : Int32} (h : SI S) : SI (u_ar S j k v) := h
theorem SI.mk {S : SS} {j k : Nat} (h : SI S) : SI (g_mk S j k) := h
theorem SI.wt {S : SS} {m : MG} {v : Int32} (h : SI S) : SI (watch S m v) := h.sc (by decide)
section TSV
variable {A : Nat → Nat} {T : TS} {h : PH} {ex : Bool × Int32 × Int32} {S S' : SS} {Pl : List (Option MG)}
theorem TR.sc {p k : Nat} {v : Int32} {w : Nat → Int32} (hr : TR ex S Pl w) (hpk : (p, k) ∈ scM) : TR ex (u_sc S k v) Pl (upd w p v) := by
  refine hr.to (hr.1.sc hpk) (fun q hq => upd_ne ?_) rfl
  simp [scM] at hpk
  omega
theorem TR.sc0 {k : Nat} {v : Int32} {w : Nat → Int32} (hr : TR ex S Pl w) (hk : k = 10 ∨ k = 20 ∨ k = 21) : TR ex (u_sc S k v) Pl w := ⟨hr.1.sc0 hk, hr.2⟩
theorem TR.logs (hA : TA A h) (hr : TR ex S Pl (q_w T)) {kind : Nat} {x2 x3 : Int32} (hk : kind < 9) : ∃ w' : Nat → Int32, f_X7_logs (some (A 0)) (Int32.ofNat kind) x2 x3 (tw A T h) = some ((), tw A (x_w T w') h) ∧ TR ex (note S kind x2 x3) Pl w' := by
  obtain ⟨w', e1, e2, e3⟩ := t_logs hA hr.1 (x2 := x2) (x3 := x3) hk
  exact ⟨w', e1, hr.to e2 e3 ms_note⟩
theorem t_deny (hA : TA A h) (hr : TR ex S Pl (q_w T)) (hI : SI S) (hl : Pl.length < 12000) {n : Nat} (hn : n < s_n S) : TO A T h ex (send (note S 3 (Int32.ofNat n) (s_sc S 14)) 2 n 0 0 0 0) (now S).toInt Pl (f_X7_atServer_B50 (some (A 0)) (Int32.ofNat n) (tw A T h)) := by
  have a12 : q_w T 12 = s_sc S 14 := hr.1.1.2.2.2.2.2.2.2.2.2.2.2.2.1
  unfold f_X7_atServer_B50
  rw [t_rW, t_aW hA 12 12 rfl (by decide), a12, t_rv]
  obtain ⟨w1, e1, e2⟩ := hr.logs hA (kind := 3) (x2 := Int32.ofNat n) (x3 := s_sc S 14) (by decide)
  rw [cl_eq (show f_X7_logs (some (A 0)) 3 _ _ _ = _ from e1), t_rv]
  obtain ⟨w2, Pl2, g1, g2, g3, g4⟩ := t_sends (T := x_w T w1) (kind := 2) (node := n) (len := 0) (a := 0) (b := 0) (c := 0) (tok := 0) (num := 0) (val := 0) hA e2 hI.note hl (by rw [cS_note.2.1]; exact hn) rfl rfl (fun _ => rfl)
  rw [cl_eq (show f_X7_sends (some (A 0)) 6 _ _ _ _ _ = _ from g1)]
  rw [show (now (note S 3 (Int32.ofNat n) (s_sc S 14))).toInt = (now S).toInt by show (s_sc _ 8).toInt = _; rw [sc_note]] at g3
  exact ⟨w2, Pl2, rfl, g2, g3, g4⟩
theorem t_grant (hA : TA A h) (hr : TR ex S Pl (q_w T)) (hI : SI S) (hl : Pl.length < 12000) {n kind : Nat} {x : Int32} (hn : n < s_n S) (hk : kind < 9) : TO A T h ex (send (note S kind (Int32.ofNat n) (s_sc S 14)) 1 n 2 x (s_sc (note S kind (Int32.ofNat n) (s_sc S 14)) 14) 0) (now S).toInt Pl (f_X7_atServer_B153 (some (A 0)) (Int32.ofNat n) x (some (A 0)) (Int32.ofNat kind) (tw A T h)) := by
  have a12 : q_w T 12 = s_sc S 14 := hr.1.1.2.2.2.2.2.2.2.2.2.2.2.2.1
  unfold f_X7_atServer_B153
  rw [t_rW, t_aW hA 12 12 rfl (by decide), a12, t_rv]
  obtain ⟨w1, e1, e2⟩ := hr.logs hA (kind := kind) (x2 := Int32.ofNat n) (x3 := s_sc S 14) hk
  have b12 : q_w (x_w T w1) 12 = s_sc (note S kind (Int32.ofNat n) (s_sc S 14)) 14 := e2.1.1.2.2.2.2.2.2.2.2.2.2.2.2.1
  rw [cl_eq e1, t_rW, t_aW hA 12 12 rfl (by decide), b12, t_rv]
  obtain ⟨w2, Pl2, g1, g2, g3, g4⟩ := t_sends (T := x_w T w1) (kind := 1) (node := n) (len := 2) (a := x) (b := s_sc (note S kind (Int32.ofNat n) (s_sc S 14)) 14) (c := 0) (tok := s_sc (note S kind (Int32.ofNat n) (s_sc S 14)) 14) (num := x) (val := 0) hA e2 hI.note hl (by rw [cS_note.2.1]; exact hn) rfl rfl (fun _ => rfl)
  rw [cl_eq (show f_X7_sends (some (A 0)) 5 _ _ _ _ _ = _ from g1)]
  rw [show (now (note S kind (Int32.ofNat n) (s_sc S 14))).toInt = (now S).toInt by show (s_sc _ 8).toInt = _; rw [sc_note]] at g3
  exact ⟨w2, Pl2, rfl, g2, g3, g4⟩
theorem t_hold (hA : TA A h) (hr : TR ex S Pl (q_w T)) (hI : SI S) (hl : Pl.length < 12000) {n : Nat} {x s : Int32} (hn : n < s_n S) {hd : Bool} : TO A T h ex (send (note (u_sc (u_sc S 12 (Int32.ofNat n)) 13 (s + s_cf S 3)) (if hd = true then 2 else 1) (Int32.ofNat n) (s_sc (u_sc (u_sc S 12 (Int32.ofNat n)) 13 (s + s_cf S 3)) 14)) 1 n 2 x (s_sc (note (u_sc (u_sc S 12 (Int32.ofNat n)) 13 (s + s_cf S 3)) (if hd = true then 2 else 1) (Int32.ofNat n) (s_sc (u_sc (u_sc S 12 (Int32.ofNat n)) 13 (s + s_cf S 3)) 14)) 14) 0) (now S).toInt Pl (f_X7_atServer_B119 (some (A 0)) (Int32.ofNat n) x s (if hd = true then 0 else 1) (tw A T h)) := by
  unfold f_X7_atServer_B119
  have hr1 : TR ex (u_sc S 12 (Int32.ofNat n)) Pl (upd (q_w T) 10 (Int32.ofNat n)) := hr.sc (by simp [scM])
  have a5 : upd (q_w T) 10 (Int32.ofNat n) 5 = s_cf S 3 := hr1.1.1.2.2.2.2.2.1
  have hr2 : TR ex (u_sc (u_sc S 12 (Int32.ofNat n)) 13 (s + s_cf S 3)) Pl (upd (upd (q_w T) 10 (Int32.ofNat n)) 11 (s + s_cf S 3)) := hr1.sc (by simp [scM])
  rw [t_rW, t_sW hA 10 10 rfl (by decide), t_rW, t_rW, t_aW hA 5 5 rfl (by decide), q_xw, a5, t_sW hA 11 11 rfl (by decide), q_xw, x_xw]
  have hI2 : SI (u_sc (u_sc S 12 (Int32.ofNat n)) 13 (s + s_cf S 3)) := (hI.sc (by decide)).sc (by decide)
  cases hd with
  | true =>
    rw [if_pos (show (if true = true then (0 : Int32) else 1) = 0 from rfl)]
    exact t_grant (T := x_w T (upd (upd (q_w T) 10 (Int32.ofNat n)) 11 (s + s_cf S 3))) (kind := 2) hA hr2 hI2 hl hn (by decide)
  | false =>
    rw [if_neg (show ¬ (if false = true then (0 : Int32) else 1) = 0 from by decide)]
    exact t_grant (T := x_w T (upd (upd (q_w T) 10 (Int32.ofNat n)) 11 (s + s_cf S 3))) (kind := 1) hA hr2 hI2 hl hn (by decide)
theorem t_atServer (hA : TA A h) (hr : TR ex S Pl (q_w T)) (hI : SI S) (hl : Pl.length < 12000) {m : MG} (hn : m.2.1 < s_n S) : TO A T h ex (decide_ S m) (now S).toInt Pl (f_X7_atServer (some (A 0)) (Int32.ofNat m.2.1) m.2.2.2.1 (tw A T h)) := by
  obtain ⟨a0, a1, a2, a3, a4, a5, a6, a7, a8, a9, a10, a11, a12, a13, -⟩ := hr.1.1
  have hn6 := hI.2.2.1
  unfold f_X7_atServer
  rw [t_rv, cl_eq (t_srv hA hr.1), t_rW, t_aW hA 13 13 rfl (by decide), a13]
  unfold decide_
  dsimp only
  obtain ⟨s, hs⟩ : ∃ s : Int32, s = srvAt S := ⟨_, rfl⟩
  rw [← hs]
  by_cases c1 : s < s_sc S 15
  · rw [if_pos c1, if_pos (Or.inl c1)]
    exact t_deny hA hr hI hl hn
  · rw [if_neg c1, t_rW, t_aW hA 10 10 rfl (by decide), a10]
    -- the lease is given anew
    have hnew : TO A T h ex (send (note (u_sc (u_sc (u_sc S 14 (s_sc S 14 + 1)) 12 (Int32.ofNat m.2.1)) 13 (s + s_cf S 3)) 1 (Int32.ofNat m.2.1) (s_sc (u_sc (u_sc (u_sc S 14 (s_sc S 14 + 1)) 12 (Int32.ofNat m.2.1)) 13 (s + s_cf S 3)) 14)) 1 m.2.1 2 m.2.2.2.1 (s_sc (note (u_sc (u_sc (u_sc S 14 (s_sc S 14 + 1)) 12 (Int32.ofNat m.2.1)) 13 (s + s_cf S 3)) 1 (Int32.ofNat m.2.1) (s_sc (u_sc (u_sc (u_sc S 14 (s_sc S 14 + 1)) 12 (Int32.ofNat m.2.1)) 13 (s + s_cf S 3)) 14)) 14) 0) (now S).toInt Pl (f_X7_atServer_B101 (some (A 0)) (Int32.ofNat m.2.1) m.2.2.2.1 s 1 (tw A T h)) := by
      unfold f_X7_atServer_B101
      rw [if_neg (by decide), t_rW, t_aW hA 12 12 rfl (by decide), a12, t_sW hA 12 12 rfl (by decide)]
      exact t_hold (T := x_w T (upd (q_w T) 12 (s_sc S 14 + 1))) (hd := false) hA (hr.sc (by simp [scM])) (hI.sc (by decide)) hl hn
    by_cases c2 : s_sc S 12 = -4
    · rw [if_pos c2]
      have hh : (s_sc S 12 != -4 && decide (s < s_sc S 13)) = false := by rw [c2]; rfl
      rw [hh, if_neg (by simp [c1])]
      unfold f_X7_atServer_B74
      rw [t_rW, t_aW hA 10 10 rfl (by decide), a10, c2, if_neg (show ¬ (-4 : Int32) = Int32.ofNat m.2.1 from fun hx => by
        have : (Int32.ofNat m.2.1).toInt = -4 := by rw [← hx]; decide
        rw [Int32.toInt_ofNat_of_lt (by omega)] at this
        omega)]
      exact hnew
    · rw [if_neg c2, t_rW, t_aW hA 10 10 rfl (by decide), a10]
      by_cases c3 : s_sc S 12 = Int32.ofNat m.2.1
      · rw [if_pos c3]
        unfold f_X7_atServer_B74
        rw [t_rW, t_aW hA 10 10 rfl (by decide), a10, if_pos c3, t_rW, t_aW hA 11 11 rfl (by decide), a11]
        by_cases c4 : s < s_sc S 13
        · rw [if_pos c4]
          have hh : (s_sc S 12 != -4 && decide (s < s_sc S 13)) = true := by simp [c2, c4]
          rw [hh, if_neg (by simp [c1, c3])]
          unfold f_X7_atServer_B101
          rw [if_pos rfl]
          exact t_hold (hd := true) hA hr hI hl hn
        · rw [if_neg c4]
          have hh : (s_sc S 12 != -4 && decide (s < s_sc S 13)) = false := by simp [c4]
          rw [hh, if_neg (by simp [c1])]
          exact hnew
      · rw [if_neg c3, t_rW, t_aW hA 11 11 rfl (by decide), a11]
        by_cases c4 : s < s_sc S 13
        · rw [if_neg (fun hx => (nle.mp hx) c4)]
          have hh : (s_sc S 12 != -4 && decide (s < s_sc S 13)) = true := by simp [c2, c4]
          rw [hh, if_pos (Or.inr ⟨rfl, c3⟩)]
          exact t_deny hA hr hI hl hn
        · rw [if_pos (nle.mpr c4)]
          have hh : (s_sc S 12 != -4 && decide (s < s_sc S 13)) = false := by simp [c4]
          rw [hh, if_neg (by simp [c1])]
          unfold f_X7_atServer_B74
          rw [t_rW, t_aW hA 10 10 rfl (by decide), a10, if_neg c3]
          exact hnew
theorem t_released (hA : TA A h) (hr : TR ex S Pl (q_w T)) {m : MG} (hn : m.2.1 < s_n S) : TO A T h ex (release S m) (now S).toInt Pl (f_X7_released (some (A 0)) (Int32.ofNat m.2.1) m.2.2.2.1 (tw A T h)) := by
  obtain ⟨a0, a1, a2, a3, a4, a5, a6, a7, a8, a9, a10, a11, a12, a13, -⟩ := hr.1.1
  unfold f_X7_released f_X7_released_B23 release
  rw [t_rW, t_aW hA 12 12 rfl (by decide), a12]
  by_cases c1 : m.2.2.2.1 = s_sc S 14
  · rw [if_pos c1, if_pos c1, t_rW, t_aW hA 10 10 rfl (by decide), a10]
    by_cases c2 : s_sc S 12 = -4
    · rw [if_pos c2, if_pos c2]
      refine ⟨q_w T, Pl, rfl, ?_, Ext.rf, Nat.le_succ _⟩
      have : u_sc S 12 (-4) = S := by
        have e : fu (s_sc S) 12 (-4) = s_sc S := by
          funext j
          by_cases hj : j = 12
          · rw [hj, fu_eq, c2]
          · rw [fu_ne hj]
        show (S.1, S.2.1, S.2.2.1, S.2.2.2.1, S.2.2.2.2.1, fu (s_sc S) 12 (-4), S.2.2.2.2.2.2) = S
        rw [e]
      rw [this]
      exact hr
    · rw [if_neg c2, if_neg c2, t_rW, t_sW hA 10 10 rfl (by decide), t_rv]
      have hr1 : TR ex (u_sc S 12 (-4)) Pl (upd (q_w T) 10 (-4)) := hr.sc (by simp [scM])
      obtain ⟨w1, e1, e2⟩ := TR.logs (T := x_w T (upd (q_w T) 10 (-4))) hA hr1 (kind := 4) (x2 := Int32.ofNat m.2.1) (x3 := m.2.2.2.1) (by decide)
      rw [cl_eq (show f_X7_logs (some (A 0)) 4 _ _ _ = _ from e1)]
      refine ⟨w1, Pl, rfl, ?_, Ext.rf, Nat.le_succ _⟩
      have : note (u_sc S 12 (-4)) 4 (Int32.ofNat m.2.1) m.2.2.2.1 = u_sc (note S 4 (Int32.ofNat m.2.1) m.2.2.2.1) 12 (-4) := by
        unfold note
        dsimp only
        by_cases h2 : (s_lg S).length = 200
        · rw [if_pos h2, if_pos (show (s_lg (u_sc S 12 (-4))).length = 200 from h2)]
          rfl
        · rw [if_neg h2, if_neg (show ¬ (s_lg (u_sc S 12 (-4))).length = 200 from h2)]
          rfl
      rw [← this]
      exact e2
  · rw [if_neg c1, if_neg c1]
    exact ⟨q_w T, Pl, rfl, hr, Ext.rf, Nat.le_succ _⟩
end TSV
