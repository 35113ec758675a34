/-! THE TWIN: sending -/
set_option maxRecDepth 100000
def sq (m : MG) : Int := m.2.2.1.toInt
def tmI (m : MG) : Int := m.2.2.2.2.2.2.toInt
/-- what stands in the messages' places (none: gone) -/
def TMp (ex : Bool × Int32 × Int32) (Pl : List (Option MG)) (w : Nat → Int32) : Prop := w 20 = Int32.ofNat Pl.length ∧ Pl.length ≤ 12000 ∧ ∀ k : Nat, (∀ m : MG, Pl[k]? = some (some m) → TWm ex k m w) ∧ (Pl[k]? = some none → w (1136 + 6 * k) = 0)
/-- the twin's row w stands for S -/
def TR (ex : Bool × Int32 × Int32) (S : SS) (Pl : List (Option MG)) (w : Nat → Int32) : Prop := TWb ex S w ∧ TMp ex Pl w ∧ (Pl.filterMap id).Perm (s_ms S) ∧ (Pl.filterMap id).Pairwise (fun a b => sq a < sq b)
/-- messages were added, for later times -/
def Ext (t : Int) (Pl Pl' : List (Option MG)) : Prop := ∃ l : List MG, Pl' = Pl ++ l.map some ∧ ∀ m ∈ l, t < tmI m
theorem Ext.rf {t : Int} {Pl : List (Option MG)} : Ext t Pl Pl := ⟨[], by simp, fun m hm => absurd hm (by simp)⟩
theorem Ext.tr {t : Int} {P Q R : List (Option MG)} (h : Ext t P Q) (g : Ext t Q R) : Ext t P R := by
  obtain ⟨l, rfl, h2⟩ := h
  obtain ⟨l', rfl, g2⟩ := g
  refine ⟨l ++ l', by simp, fun m hm => ?_⟩
  rcases List.mem_append.mp hm with hm | hm
  · exact h2 m hm
  · exact g2 m hm
/-- what sending needs -/
def SI (S : SS) : Prop := CI (s_cf S) ∧ (∀ i : Nat, i < s_n S → NI (s_nd S i)) ∧ s_n S ≤ 6 ∧ iv (now S) 0 5000000 ∧ 0 ≤ (s_sc S 9).toInt ∧ iv (s_sc S 10) 0 1000000 ∧ ∀ m ∈ s_ms S, sq m ≤ (s_sc S 10).toInt
theorem Inv.si {S : SS} (h : Inv S) : SI S := by
  have w := h.2.2.2.1
  refine ⟨h.1, h.2.1, h.2.2.1.2, w.1, w.2.1, ⟨w.2.2.1.1, ?_⟩, fun m hm => (h.2.2.2.2.1 m hm).2.2.2.1.2⟩
  have h1 := w.2.2.1.2
  have h2 := w.2.2.2.1
  omega
theorem SI.eq {S S' : SS} (h : SI S) (e1 : s_cf S' = s_cf S) (e2 : s_n S' = s_n S) (e3 : ∀ i : Nat, i < s_n S → NI (s_nd S' i)) (e4 : s_sc S' 8 = s_sc S 8) (e5 : s_sc S' 9 = s_sc S 9) (e6 : s_sc S' 10 = s_sc S 10) (e7 : ∀ m ∈ s_ms S', m ∈ s_ms S) : SI S' := by
  obtain ⟨h1, h2, h3, h4, h5, h6, h7⟩ := h
  refine ⟨by rw [e1]; exact h1, fun i hi => e3 i (by rw [← e2]; exact hi), by rw [e2]; exact h3, ?_, by rw [e5]; exact h5, by rw [e6]; exact h6, fun m hm => by rw [e6]; exact h7 m (e7 m hm)⟩
  show iv (s_sc S' 8) 0 5000000
  rw [e4]
  exact h4
section TSD
variable {A : Nat → Nat} {T : TS} {h : PH} {ex : Bool × Int32 × Int32} {S S' : SS} {w w' : Nat → Int32} {Pl : List (Option MG)}
theorem TMp.keep (hm : TMp ex Pl w) (hk : ∀ p : Nat, p = 20 ∨ 1136 ≤ p → w' p = w p) : TMp ex Pl w' := by
  refine ⟨by rw [hk 20 (Or.inl rfl)]; exact hm.1, hm.2.1, fun k => ⟨fun m hx => ?_, fun hx => ?_⟩⟩
  · have := (hm.2.2 k).1 m hx
    unfold TWm at this ⊢
    rw [hk _ (by omega), hk _ (by omega), hk _ (by omega), hk _ (by omega), hk _ (by omega), hk _ (by omega)]
    exact this
  · rw [hk _ (by omega)]
    exact (hm.2.2 k).2 hx
theorem TR.to (hr : TR ex S Pl w) (hb : TWb ex S' w') (hk : ∀ p : Nat, p = 20 ∨ 1136 ≤ p → w' p = w p) (hm : s_ms S' = s_ms S) : TR ex S' Pl w' := ⟨hb, hr.2.1.keep hk, by rw [hm]; exact hr.2.2.1, hr.2.2.2⟩
theorem ix6 {n c : Nat} {x : Int32} (hx : x = Int32.ofNat c) : ((1136 : Int32) + ((6 : Int32) * Int32.ofNat n)) + x = Int32.ofNat (1136 + 6 * n + c) := by
  subst hx
  rw [show (1136 : Int32) = Int32.ofNat 1136 from rfl, show (6 : Int32) = Int32.ofNat 6 from rfl, ofm, of_add, of_add]
theorem ix60 {n : Nat} : ((1136 : Int32) + ((6 : Int32) * Int32.ofNat n)) = Int32.ofNat (1136 + 6 * n) := by
  rw [show (1136 : Int32) = Int32.ofNat 1136 from rfl, show (6 : Int32) = Int32.ofNat 6 from rfl, ofm, of_add]
/-- a message is written to the end -/
theorem TMp.push {m : MG} {a0 a1 a2 a3 a4 a5 : Int32} (hm : TMp ex Pl w) (hl : Pl.length < 12000) (e0 : a0 = Int32.ofNat (tk m.1)) (e1 : a1 = Int32.ofNat m.2.1) (e2 : a2 = m.2.2.2.2.2.2) (e3 : a3 = tTok m) (e4 : a4 = tNum m) (e5 : ex.1 = true → a5 = m.2.2.2.2.2.1) :
    TMp ex (Pl ++ [some m]) (upd (upd (upd (upd (upd (upd (upd w (1136 + 6 * Pl.length) a0) (1136 + 6 * Pl.length + 1) a1) (1136 + 6 * Pl.length + 2) a2) (1136 + 6 * Pl.length + 3) a3) (1136 + 6 * Pl.length + 4) a4) (1136 + 6 * Pl.length + 5) a5) 20 (Int32.ofNat Pl.length + 1)) := by
  obtain ⟨n, hn⟩ : ∃ n : Nat, n = Pl.length := ⟨_, rfl⟩
  rw [← hn] at hl ⊢
  have lo : ∀ p : Nat, p < 1136 + 6 * n → p ≠ 20 → upd (upd (upd (upd (upd (upd (upd w (1136 + 6 * n) a0) (1136 + 6 * n + 1) a1) (1136 + 6 * n + 2) a2) (1136 + 6 * n + 3) a3) (1136 + 6 * n + 4) a4) (1136 + 6 * n + 5) a5) 20 (Int32.ofNat n + 1) p = w p := fun p p1 p2 => by
    rw [upd_ne p2, upd_ne (by omega), upd_ne (by omega), upd_ne (by omega), upd_ne (by omega), upd_ne (by omega), upd_ne (by omega)]
  refine ⟨by rw [upd_eq, show (1 : Int32) = Int32.ofNat 1 from rfl, of_add, hn]; simp, by rw [List.length_append, ← hn]; simp; omega, fun k => ⟨fun m' hx => ?_, fun hx => ?_⟩⟩
  · rcases get_app1 hx with ⟨k1, k2⟩ | ⟨k1, k2⟩
    · have := (hm.2.2 k).1 m' k2
      unfold TWm at this ⊢
      rw [← hn] at k1
      rw [lo _ (by omega) (by omega), lo _ (by omega) (by omega), lo _ (by omega) (by omega), lo _ (by omega) (by omega), lo _ (by omega) (by omega), lo _ (by omega) (by omega)]
      exact this
    · rw [← hn] at k1
      subst k1
      cases k2
      unfold TWm
      refine ⟨?_, ?_, ?_, ?_, ?_, fun he => ?_⟩
      · rw [upd_ne (by omega), upd_ne (by omega), upd_ne (by omega), upd_ne (by omega), upd_ne (by omega), upd_ne (by omega), upd_eq, e0]
      · rw [upd_ne (by omega), upd_ne (by omega), upd_ne (by omega), upd_ne (by omega), upd_ne (by omega), show 1137 + 6 * k = 1136 + 6 * k + 1 from by omega, upd_eq, e1]
      · rw [upd_ne (by omega), upd_ne (by omega), upd_ne (by omega), upd_ne (by omega), show 1138 + 6 * k = 1136 + 6 * k + 2 from by omega, upd_eq, e2]
      · rw [upd_ne (by omega), upd_ne (by omega), upd_ne (by omega), show 1139 + 6 * k = 1136 + 6 * k + 3 from by omega, upd_eq, e3]
      · rw [upd_ne (by omega), upd_ne (by omega), show 1140 + 6 * k = 1136 + 6 * k + 4 from by omega, upd_eq, e4]
      · rw [upd_ne (by omega), show 1141 + 6 * k = 1136 + 6 * k + 5 from by omega, upd_eq, e5 he]
  · rcases get_app1 hx with ⟨k1, k2⟩ | ⟨k1, k2⟩
    · rw [← hn] at k1
      rw [lo _ (by omega) (by omega)]
      exact (hm.2.2 k).2 k2
    · cases k2
/-- the message that send makes -/
def mSend (S : SS) (kind node : Nat) (a b c : Int32) : MG := (kind, node, s_sc S 10 + 1, a, b, c, now S + s_nd S node 1 + jit (lcg (s_sc S 9)) (s_cf S 7))
/-- sends: tok, num as the message has them; val as well, if the row is exact -/
theorem t_sends (hA : TA A h) (hr : TR ex S Pl (q_w T)) (hI : SI S) (hl : Pl.length < 12000) {kind node len : Nat} {a b c tok num val : Int32} (hn : node < s_n S) (h3 : tok = tTok (mSend S kind node a b c)) (h4 : num = tNum (mSend S kind node a b c)) (h5 : ex.1 = true → val = c) :
    ∃ (w' : Nat → Int32) (Pl' : List (Option MG)), f_X7_sends (some (A 0)) (Int32.ofNat (tk kind)) (Int32.ofNat node) tok num val (tw A T h) = some ((), tw A (x_w T w') h) ∧ TR ex (send S kind node len a b c) Pl' w' ∧ Ext (now S).toInt Pl Pl' ∧ Pl'.length ≤ Pl.length + 1 := by
  obtain ⟨hT, hm, hp, hs⟩ := hr
  have hn6 := hI.2.2.1
  obtain ⟨c1, c2, c3, c4, c5, c6, c7, c8⟩ := hI.1
  have hN := hI.2.1 node hn
  obtain ⟨-, -, -, W1', W2', W3', W4'⟩ := hI
  have a0 : q_w T 0 = now S := hT.1.1
  have a1 : q_w T 1 = s_sc S 9 := hT.1.2.1
  have a9 : q_w T 9 = s_cf S 7 := hT.1.2.2.2.2.2.2.2.2.2.1
  have a16 : q_w T 16 = s_sc S 11 := hT.1.2.2.2.2.2.2.2.2.2.2.2.2.2.2.2.1
  obtain ⟨x, hx⟩ : ∃ x : Int32, lcg (s_sc S 9) = x := ⟨_, rfl⟩
  have hx0 : 0 ≤ x.toInt := by rw [← hx]; exact lcg_b W2'
  have hT1 : TWb ex (u_sc S 9 x) (upd (q_w T) 1 x) := hT.sc (by simp [scM])
  have k1 : ((1 : Int32)).toInt = 1 := by decide
  have hj1 : s_cf S 7 + 1 ≠ 0 := fun hx => by
    have e := i_add (a := s_cf S 7) (b := 1) (by rw [k1]; omega) (by rw [k1]; omega)
    rw [hx, k1] at e
    have k0 : ((0 : Int32)).toInt = 0 := by decide
    omega
  unfold f_X7_sends
  rw [t_rW, t_rW, t_aW hA 1 1 rfl (by decide), dvL_at (by decide), a1]
  rw [show ((((1103515245 : Int64) * ((s_sc S 9).toInt64)) + (12345 : Int64)) - (((1103515245 : Int64) * ((s_sc S 9).toInt64)) + (12345 : Int64)) / (2147483648 : Int64) * (2147483648 : Int64)).toInt32 = x from hx]
  rw [t_sW hA 1 1 rfl (by decide), t_rW, t_aW hA 1 1 rfl (by decide), dvI_at (by decide), t_rW, t_aW hA 9 9 rfl (by decide), q_xw, upd_eq, upd_ne (by decide), a9, dvI_at hj1, t_rv]
  rw [cl_eq (t_ofN (T := x_w T (upd (q_w T) 1 x)) hA hT1 6 6 rfl hn (by decide))]
  rw [show tnd (s_nd (u_sc S 9 x) node) 6 = s_nd S node 4 from rfl]
  unfold send
  dsimp only
  rw [hx]
  rcases hN.2.2.2.2.2.1 with hc | hc
  · rw [hc, if_neg (by decide), if_pos rfl]
    have e20 : upd (q_w T) 1 x 20 = Int32.ofNat Pl.length := by rw [upd_ne (by decide)]; exact hm.1
    rw [t_rW, t_aW hA 20 20 rfl (by decide), q_xw, e20, t_rW, t_sW hA _ _ ix60 (by omega), t_rW, t_sW hA _ _ (ix6 (x := 1) (c := 1) rfl) (by omega), t_rW, t_rW, t_aW hA 0 0 rfl (by decide), t_rv]
    simp only [q_xw, x_xw]
    rw [cl_eq (t_of hA 2 2 rfl (by omega) (by decide))]
    have hT0 : TWb ex S (upd (q_w T) 1 x) ∨ True := Or.inr trivial
    have ed : ∀ v0 v1 : Int32, upd (upd (upd (q_w T) 1 x) (1136 + 6 * Pl.length) v0) (1136 + 6 * Pl.length + 1) v1 (40 + 20 * node + 2) = s_nd S node 1 := fun v0 v1 => by
      rw [upd_ne (by omega), upd_ne (by omega), upd_ne (by omega)]
      exact hT.2.1 node 2 hn (by decide) (Or.inl (by decide))
    have e00 : ∀ v0 v1 : Int32, upd (upd (upd (q_w T) 1 x) (1136 + 6 * Pl.length) v0) (1136 + 6 * Pl.length + 1) v1 0 = now S := fun v0 v1 => by
      rw [upd_ne (by omega), upd_ne (by omega), upd_ne (by omega)]
      exact a0
    rw [t_sW hA _ _ (ix6 (x := 2) (c := 2) rfl) (by omega), t_rW, t_sW hA _ _ (ix6 (x := 3) (c := 3) rfl) (by omega), t_rW, t_sW hA _ _ (ix6 (x := 4) (c := 4) rfl) (by omega), t_rW, t_sW hA _ _ (ix6 (x := 5) (c := 5) rfl) (by omega), t_rW, t_aW hA 20 20 rfl (by decide), t_sW hA 20 20 rfl (by decide)]
    simp only [q_xw, x_xw]
    rw [ed, e00]
    rw [upd_ne (show 20 ≠ 1136 + 6 * Pl.length + 5 by omega), upd_ne (show 20 ≠ 1136 + 6 * Pl.length + 4 by omega), upd_ne (show 20 ≠ 1136 + 6 * Pl.length + 3 by omega), upd_ne (show 20 ≠ 1136 + 6 * Pl.length + 2 by omega), upd_ne (show 20 ≠ 1136 + 6 * Pl.length + 1 by omega), upd_ne (show 20 ≠ 1136 + 6 * Pl.length by omega), e20]
    have hm1 : TMp ex Pl (upd (q_w T) 1 x) := hm.keep (fun p hp => upd_ne (by omega))
    have hm2 := hm1.push (m := mSend S kind node a b c) (a0 := Int32.ofNat (tk kind)) (a1 := Int32.ofNat node) (a2 := now S + s_nd S node 1 + (x / (65536 : Int32) - x / (65536 : Int32) / (s_cf S 7 + (1 : Int32)) * (s_cf S 7 + (1 : Int32)))) (a3 := tok) (a4 := num) (a5 := val) hl rfl rfl (by unfold mSend; rw [hx]; rfl) h3 h4 h5
    have ht : (now S).toInt < tmI (mSend S kind node a b c) := by
      have hj := jit_b (x := x) (j := s_cf S 7) hx0 c7.1 c7.2
      have d1 := hN.2.2.1
      have e1 : (now S + s_nd S node 1).toInt = (now S).toInt + (s_nd S node 1).toInt := i_add (by omega) (by omega)
      show _ < (now S + s_nd S node 1 + jit (lcg (s_sc S 9)) (s_cf S 7)).toInt
      rw [hx, i_add (by rw [e1]; omega) (by rw [e1]; omega), e1]
      omega
    refine ⟨_, Pl ++ [some (mSend S kind node a b c)], rfl, ⟨?_, hm2, ?_, ?_⟩, ⟨[mSend S kind node a b c], by simp, fun m hm => by rw [List.mem_singleton.mp hm]; exact ht⟩, by simp⟩
    · have q1 : TWb ex (u_sc (u_sc S 9 x) 10 (s_sc S 10 + 1)) (upd (q_w T) 1 x) := hT1.sc0 (Or.inl rfl)
      exact ((((((q1.hi (by omega)).hi (by omega)).hi (by omega)).hi (by omega)).hi (by omega)).hi (by omega)).run (Or.inl rfl)
    · rw [List.filterMap_append]
      refine List.Perm.append hp ?_
      show List.Perm [mSend S kind node a b c] _
      unfold mSend
      rw [hx]
    · rw [List.filterMap_append]
      refine List.pairwise_append.mpr ⟨hs, by simp, fun m hm m' hm' => ?_⟩
      have e1 : m' = mSend S kind node a b c := by simpa using hm'
      have e2 : m.2.2.1.toInt ≤ (s_sc S 10).toInt := W4' m (hp.mem_iff.mp hm)
      rw [e1]
      show m.2.2.1.toInt < (s_sc S 10 + 1).toInt
      rw [i_add (by rw [k1]; omega) (by rw [k1]; omega), k1]
      omega
  · rw [hc, if_pos rfl, if_neg (by decide)]
    rw [t_rW, t_aW hA 16 16 rfl (by decide), t_sW hA 16 16 rfl (by decide)]
    simp only [q_xw, x_xw]
    rw [upd_ne (show 16 ≠ 1 by decide), a16]
    refine ⟨_, Pl, rfl, ⟨?_, hm.keep (fun p hp => ?_), hp, hs⟩, Ext.rf, Nat.le_succ _⟩
    · have q1 : TWb ex (u_sc (u_sc S 9 x) 10 (s_sc S 10 + 1)) (upd (q_w T) 1 x) := hT1.sc0 (Or.inl rfl)
      exact q1.sc (p := 16) (k := 11) (v := s_sc S 11 + 1) (by simp [scM])
    · rw [upd_ne (by omega), upd_ne (by omega)]
end TSD
