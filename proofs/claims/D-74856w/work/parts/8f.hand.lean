/-! acquire, decide, granted, at the node -/
set_option maxRecDepth 100000
theorem W1.nd {S : SS} {i k : Nat} {v : Int32} (hw : W1 S) (hk : k ≠ 20) : W1 (u_nd S i k v) := by
  refine ⟨fun j hj => ?_, hw.2⟩
  show (fu (s_nd S) i (fu (s_nd S i) k v) j 20).toInt64 ≠ 0
  by_cases h : j = i
  · subst h
    rw [fu_eq, fu_ne (Ne.symm hk)]; exact hw.1 j hj
  · rw [fu_ne h]; exact hw.1 j hj
theorem W1.tm {S : SS} {i : Nat} {v : Int32} (hw : W1 S) : W1 (setTimer S i v) := W1.nd hw (by decide)
/-- configuration and nodes are the same -/
def cS (S S' : SS) : Prop := s_cf S' = s_cf S ∧ s_n S' = s_n S ∧ s_nd S' = s_nd S
theorem cS.rf {S : SS} : cS S S := ⟨rfl, rfl, rfl⟩
theorem cS.tr {a b c : SS} (h : cS a b) (k : cS b c) : cS a c := ⟨k.1.trans h.1, k.2.1.trans h.2.1, k.2.2.trans h.2.2⟩
theorem cS_note {S : SS} {k : Nat} {n t : Int32} : cS S (note S k n t) := by
  unfold note
  dsimp only
  split <;> exact ⟨rfl, rfl, rfl⟩
theorem cS_send {S : SS} {k n l : Nat} {a b c : Int32} : cS S (send S k n l a b c) := by
  unfold send
  dsimp only
  split <;> exact ⟨rfl, rfl, rfl⟩
theorem cS.w1 {S S' : SS} (h : cS S S') (hw : W1 S) : W1 S' := by
  obtain ⟨h1, h2, h3⟩ := h
  unfold W1
  rw [h1, h2, h3]
  exact hw
section MH
variable {E : PE} {B : Nat × Nat} {F : Nat → Nat} {R : PM} {S : SS} {h : PH}
theorem sI_pn {β : Type} {n N t i : Nat} {v : Int32} {f : Nat → Int32} {K : PH → Option β} (hb : pbase h ≤ pn h) (hi : i < n) (hn : n < 2 ^ 31) : sI (p_new h (.inl (h.2.1.2.1 t, n, .inl f)) N) (some (pn h)) t (Int32.ofNat i) v K = K (p_new h (.inl (h.2.1.2.1 t, n, .inl (upd f i v))) N) := by
  have e : (p_new h (.inl (h.2.1.2.1 t, n, .inl f)) N).1 (pn h) = some (.inl ((p_new h (.inl (h.2.1.2.1 t, n, .inl f)) N).2.1.2.1 t, n, .inl f)) := pn_at
  rw [sI_at e (inR_of hn hi) hb, clamp9 (by omega)]
  rw [show p_set (p_new h (.inl (h.2.1.2.1 t, n, .inl f)) N) (pn h) (.inl ((p_new h (.inl (h.2.1.2.1 t, n, .inl f)) N).2.1.2.1 t, n, .inl (upd f i v))) = p_new h (.inl (h.2.1.2.1 t, n, .inl (upd f i v))) N from ps_pn]
theorem sI_pn0 {β : Type} {n N t : Nat} {v : Int32} {f : Nat → Int32} {K : PH → Option β} (hb : pbase h ≤ pn h) (hi : 0 < n) (hn : n < 2 ^ 31) : sI (p_new h (.inl (h.2.1.2.1 t, n, .inl f)) N) (some (pn h)) t (0 : Int32) v K = K (p_new h (.inl (h.2.1.2.1 t, n, .inl (upd f 0 v))) N) := sI_pn (i := 0) hb hi hn
theorem sI_pn1 {β : Type} {n N t : Nat} {v : Int32} {f : Nat → Int32} {K : PH → Option β} (hb : pbase h ≤ pn h) (hi : 1 < n) (hn : n < 2 ^ 31) : sI (p_new h (.inl (h.2.1.2.1 t, n, .inl f)) N) (some (pn h)) t (1 : Int32) v K = K (p_new h (.inl (h.2.1.2.1 t, n, .inl (upd f 1 v))) N) := sI_pn (i := 1) hb hi hn
theorem sI_pn2 {β : Type} {n N t : Nat} {v : Int32} {f : Nat → Int32} {K : PH → Option β} (hb : pbase h ≤ pn h) (hi : 2 < n) (hn : n < 2 ^ 31) : sI (p_new h (.inl (h.2.1.2.1 t, n, .inl f)) N) (some (pn h)) t (2 : Int32) v K = K (p_new h (.inl (h.2.1.2.1 t, n, .inl (upd f 2 v))) N) := sI_pn (i := 2) hb hi hn
theorem nA_0 {β : Type} {t : Nat} {x : AX} {K : Nat → PH → Option β} (h1 : 1 ≤ pcl h) : nA h t (0 : Int32) x K = K (pn h) (p_new h (.inl (h.2.1.2.1 t, 0, x)) 0) := nA_at (m := 0) (by decide) h1 (Nat.zero_le _)
theorem nA_1 {β : Type} {t : Nat} {x : AX} {K : Nat → PH → Option β} (h1 : 1 ≤ pcl h) (h2 : 1 ≤ psl h) : nA h t (1 : Int32) x K = K (pn h) (p_new h (.inl (h.2.1.2.1 t, 1, x)) 1) := nA_at (m := 1) (by decide) h1 h2
theorem nA_2 {β : Type} {t : Nat} {x : AX} {K : Nat → PH → Option β} (h1 : 1 ≤ pcl h) (h2 : 2 ≤ psl h) : nA h t (2 : Int32) x K = K (pn h) (p_new h (.inl (h.2.1.2.1 t, 2, x)) 2) := nA_at (m := 2) (by decide) h1 h2
theorem nA_3 {β : Type} {t : Nat} {x : AX} {K : Nat → PH → Option β} (h1 : 1 ≤ pcl h) (h2 : 3 ≤ psl h) : nA h t (3 : Int32) x K = K (pn h) (p_new h (.inl (h.2.1.2.1 t, 3, x)) 3) := nA_at (m := 3) (by decide) h1 h2
/-- the room for the row of numbers of a send -/
theorem roomN (hS : SP E B F R S h) {kind node len : Nat} {a b c : Int32} (hB : fitB B (send S kind node len a b c)) : 1 ≤ pcl h ∧ len ≤ psl h := by
  have h1 := hB.le gle_send
  have p1 := h1.1
  have p2 := h1.2
  rw [gh_mk0] at p1
  rw [gh_mk1] at p2
  have rm := hS.room
  omega
/-- send, with its new row of numbers -/
theorem m_sendN (hS : SP E B F R S h) {kind node len : Nat} {f : Nat → Int32} {a b c : Int32} (hw : W1 S) (hk : kind < 9) (hn : node < s_n S) (hl : len ≤ 3) (ea : num f len 0 = a) (eb : num f len 1 = b) (ec : num f len 2 = c) (hB : fitB B (send S kind node len a b c)) (hB2 : B.2 < 2 ^ 25) :
    okk (f_X2_send (some (F 0)) (some (sAd E kind)) (Int32.ofNat node) (some (pn h)) (p_new h (.inl (h.2.1.2.1 0, len, .inl f)) len)) (fun b9 => SP E B F R (send S kind node len a b c) b9.2) := by
  have ro := roomN hS hB
  have hb := hS.base
  have hE : h.2.1.2.1 0 = E.2.1 0 := by rw [hb.1]
  have hbe : E.2.2.1 ≤ pn h := by have := hb.2.1; have h9 : h.2.1.2.2.1 ≤ pn h := this; rw [hb.1] at h9; exact h9
  refine (m_send (hS.mk (.inl (h.2.1.2.1 0, len, .inl f)) len ro.1 ro.2) hw hk hn hl (show (if pn h = pn h then some (.inl (h.2.1.2.1 0, len, .inl f)) else R (pn h)) = some (.inl (E.2.1 0, len, .inl f)) by rw [if_pos rfl, hE]) hbe ea eb ec hB hB2).mono fun b9 hb9 => hb9.less fun b' e' hb' => ?_
  have hne : b' ≠ pn h := Nat.ne_of_lt (hS.tr hb').2
  show (if b' = pn h then _ else R b') = some e'
  rw [if_neg hne]; exact hb'
theorem m_acquire (hS : SP E B F R S h) {i : Nat} (hw : W1 S) (hi : i < s_n S) (hB : fitB B (acquire S i)) (hB2 : B.2 < 2 ^ 25) : okk (f_X2_acquire (some (F 0)) (Int32.ofNat i) h) (fun b => SP E B F R (acquire S i) b.2) := by
  unfold acquire at hB ⊢
  dsimp only at hB ⊢
  obtain ⟨sh, hsh⟩ : ∃ x, ndAt S i (now S) = x := ⟨_, rfl⟩
  rw [hsh] at hB ⊢
  unfold f_X2_acquire
  rw [r_ref hS (by decide) (by decide), r_nds hS hi, r_ndkN hS hi, r_sc hS (by decide) (by decide), r_clkv hS hi, cl_eq (r_at hS hi)]
  rw [show ndAt S i (s_sc S 8) = sh from hsh, r_sc hS (by decide) (by decide), r_of hS, r_cf hS (by decide) (by decide), r_ndv hS hi]
  refine okk_cl ((m_setTimer hS hi hw).mono fun b hb => ?_)
  obtain ⟨u, h10⟩ := b
  have hb' : SP E B F R (setTimer S i (sh + s_cf S 6)) h10 := hb
  show okk (gIN h10 (some (F (50 + i))) 5 11 _) _
  have hi' : i < s_n (setTimer S i (sh + s_cf S 6)) := hi
  rw [r_ndN hb' hi' (by decide) (by decide)]
  obtain ⟨h12, a1, a2⟩ := w_nd hb' (k := 11) (v := s_nd (setTimer S i (sh + s_cf S 6)) i 11 + 1) hi' (by decide) (by decide)
  rw [a2, r_kind a1 (by decide)]
  have ro := roomN a1 hB
  rw [nA_1 ro.1 ro.2, sI_pn0 a1.base.2.1 (by decide) (by decide)]
  rw [r_sim (a1.mk _ 1 ro.1 ro.2)]
  refine okk_cl ((m_sendN a1 (kind := 0) (len := 1) (W1.nd hw.tm (by decide)) (by decide) hi (by decide) ?_ ?_ ?_ hB hB2).mono fun b9 hb9 => ⟨_, rfl, hb9⟩)
  · rfl
  · rfl
  · rfl
theorem gle_note {S : SS} {k : Nat} {n t : Int32} : gle S (note S k n t) := by
  unfold note
  dsimp only
  split
  · exact (gle_mk (S := u_lg S (s_lg S).tail)).tr gle_add
  · exact (gle_mk (S := S)).tr gle_add
theorem gle_sendS {S : SS} {k n l : Nat} {a b c : Int32} : gle S (send S k n l a b c) := gle_mk.tr gle_send
theorem m_serverRestart : True := trivial
/-- a message's number -/
theorem r_m (hS : SP E B F R S h) {β : Type} {q k : Nat} {m : MG} {v : Int32} {K : Int32 → Option β} (hq : R q = some (cMsg (sAd E) m)) (hq2 : E.2.2.1 ≤ q) (hv : [Value.ref (sAd E m.1), .int (Int32.ofNat m.2.1), .int m.2.2.1, .int m.2.2.2.1, .int m.2.2.2.2.1, .int m.2.2.2.2.2.1, .int m.2.2.2.2.2.2][k]? = some (.int v)) : gIN h (some q) 13 k K = K v :=
  gIN_at (hS.tr hq).1 (by show h.2.1.2.2.1 ≤ _; rw [hS.base.1]; exact hq2) hv
theorem r_mk (hS : SP E B F R S h) {β : Type} {q : Nat} {m : MG} {K : Option Nat → Option β} (hq : R q = some (cMsg (sAd E) m)) (hq2 : E.2.2.1 ≤ q) : gRN h (some q) 13 0 K = K (some (sAd E m.1)) :=
  gRN_at (hS.tr hq).1 (by show h.2.1.2.2.1 ≤ _; rw [hS.base.1]; exact hq2) rfl
theorem m_decide (hS : SP E B F R S h) {q : Nat} {m : MG} (hq : R q = some (cMsg (sAd E) m)) (hq2 : E.2.2.1 ≤ q) (hw : W1 S) (hn : m.2.1 < s_n S) (hB : fitB B (decide_ S m)) (hB2 : B.2 < 2 ^ 25) : okk (f_X2_decide (some (F 0)) (some q) h) (fun b => SP E B F R (decide_ S m) b.2) := by
  unfold decide_ at hB ⊢
  dsimp only at hB ⊢
  obtain ⟨sh, hsh⟩ : ∃ x, srvAt S = x := ⟨_, rfl⟩
  rw [hsh] at hB ⊢
  have deny : ∀ {S1 : SS} {h1 : PH}, SP E B F R S1 h1 → W1 S1 → m.2.1 < s_n S1 → fitB B (send (note S1 3 (Int32.ofNat m.2.1) (s_sc S1 14)) 2 m.2.1 0 0 0 0) → okk (f_X2_decide_B51 (some (F 0)) (some q) h1) (fun b => SP E B F R (send (note S1 3 (Int32.ofNat m.2.1) (s_sc S1 14)) 2 m.2.1 0 0 0 0) b.2) := by
    intro S1 h1 hS1 hw1 hn1 hB1
    unfold f_X2_decide_B51
    rw [r_m hS1 hq hq2 rfl, r_sc hS1 (by decide) (by decide), r_sim hS1]
    refine okk_cl ((m_note hS1 (kind := 3) (by decide) (hB1.le gle_sendS) hB2).mono fun b hb => ?_)
    obtain ⟨u, h10⟩ := b
    have hb' : SP E B F R (note S1 3 (Int32.ofNat m.2.1) (s_sc S1 14)) h10 := hb
    show okk (asR (some (h10.2.1.1 2)) _) _
    have ro := roomN hb' hB1
    rw [r_kind hb' (by decide), r_m hb' hq hq2 rfl, nA_0 ro.1, r_sim (hb'.mk _ 0 ro.1 ro.2)]
    exact okk_cl ((m_sendN hb' (kind := 2) (len := 0) (cS_note.w1 hw1) (by decide) (by rw [cS_note.2.1]; exact hn1) (by decide) rfl rfl rfl hB1 hB2).mono fun b9 hb9 => ⟨_, rfl, hb9⟩)
  have grant : ∀ {S1 : SS} {h1 : PH} (kd : Nat), SP E B F R S1 h1 → W1 S1 → m.2.1 < s_n S1 → kd < 9 → fitB B (send (note S1 kd (Int32.ofNat m.2.1) (s_sc S1 14)) 1 m.2.1 2 m.2.2.2.1 (s_sc (note S1 kd (Int32.ofNat m.2.1) (s_sc S1 14)) 14) 0) → okk (f_X2_decide_B124 (some (F 0)) (some q) (some (F 0)) (Int32.ofNat kd) h1) (fun b => SP E B F R (send (note S1 kd (Int32.ofNat m.2.1) (s_sc S1 14)) 1 m.2.1 2 m.2.2.2.1 (s_sc (note S1 kd (Int32.ofNat m.2.1) (s_sc S1 14)) 14) 0) b.2) := by
    intro S1 h1 kd hS1 hw1 hn1 hkd hB1
    unfold f_X2_decide_B124
    rw [r_m hS1 hq hq2 rfl, r_sc hS1 (by decide) (by decide), r_sim hS1]
    refine okk_cl ((m_note hS1 hkd (hB1.le gle_sendS) hB2).mono fun b hb => ?_)
    obtain ⟨u, h10⟩ := b
    have hb' : SP E B F R (note S1 kd (Int32.ofNat m.2.1) (s_sc S1 14)) h10 := hb
    show okk (asR (some (h10.2.1.1 1)) _) _
    have ro := roomN hb' hB1
    have e1 : ∀ e : va_E, SP E B F (fun b => if b = pn h10 then some e else R b) (g_mk (note S1 kd (Int32.ofNat m.2.1) (s_sc S1 14)) 1 2) (p_new h10 e 2) := fun e => hb'.mk e 2 ro.1 ro.2
    have qn : q ≠ pn h10 := Nat.ne_of_lt (hb'.tr hq).2
    have hq' : ∀ e : va_E, (fun b => if b = pn h10 then some e else R b : PM) q = some (cMsg (sAd E) m) := fun e => by show (if q = pn h10 then some e else R q) = _; rw [if_neg qn]; exact hq
    rw [r_kind hb' (by decide), r_m hb' hq hq2 rfl, nA_2 ro.1 ro.2, r_m (e1 _) (hq' _) hq2 rfl, sI_pn0 hb'.base.2.1 (by decide) (by decide), r_sc (e1 _) (by decide) (by decide), sI_pn1 hb'.base.2.1 (by decide) (by decide), r_sim (e1 _)]
    exact okk_cl ((m_sendN hb' (kind := 1) (len := 2) (cS_note.w1 hw1) (by decide) (by rw [cS_note.2.1]; exact hn1) (by decide) rfl rfl rfl hB1 hB2).mono fun b9 hb9 => ⟨_, rfl, hb9⟩)
  have g93 : ∀ {S1 : SS} {h1 : PH} (hd : Bool), SP E B F R S1 h1 → cS S S1 → fitB B (send (note (u_sc (u_sc S1 12 (Int32.ofNat m.2.1)) 13 (sh + s_cf S 3)) (if hd = true then 2 else 1) (Int32.ofNat m.2.1) (s_sc (u_sc (u_sc S1 12 (Int32.ofNat m.2.1)) 13 (sh + s_cf S 3)) 14)) 1 m.2.1 2 m.2.2.2.1 (s_sc (note (u_sc (u_sc S1 12 (Int32.ofNat m.2.1)) 13 (sh + s_cf S 3)) (if hd = true then 2 else 1) (Int32.ofNat m.2.1) (s_sc (u_sc (u_sc S1 12 (Int32.ofNat m.2.1)) 13 (sh + s_cf S 3)) 14)) 14) 0) →
      okk (f_X2_decide_B93 (some (F 0)) (some q) sh (if hd = true then 1 else 0) h1) (fun b => SP E B F R (send (note (u_sc (u_sc S1 12 (Int32.ofNat m.2.1)) 13 (sh + s_cf S 3)) (if hd = true then 2 else 1) (Int32.ofNat m.2.1) (s_sc (u_sc (u_sc S1 12 (Int32.ofNat m.2.1)) 13 (sh + s_cf S 3)) 14)) 1 m.2.1 2 m.2.2.2.1 (s_sc (note (u_sc (u_sc S1 12 (Int32.ofNat m.2.1)) 13 (sh + s_cf S 3)) (if hd = true then 2 else 1) (Int32.ofNat m.2.1) (s_sc (u_sc (u_sc S1 12 (Int32.ofNat m.2.1)) 13 (sh + s_cf S 3)) 14)) 14) 0) b.2) := by
    intro S1 h1 hd hS1 hc hB1
    unfold f_X2_decide_B93
    rw [r_m hS1 hq hq2 rfl]
    obtain ⟨h19, a1, a2⟩ := w_sc hS1 (k := 12) (v := Int32.ofNat m.2.1) (by decide) (by decide)
    rw [a2, r_of a1, r_cf a1 (by decide) (by decide)]
    rw [show s_cf (u_sc S1 12 (Int32.ofNat m.2.1)) 3 = s_cf S 3 from congrFun hc.1 3]
    obtain ⟨h22, b1, b2⟩ := w_sc a1 (k := 13) (v := sh + s_cf S 3) (by decide) (by decide)
    rw [b2]
    have hw1 : W1 (u_sc (u_sc S1 12 (Int32.ofNat m.2.1)) 13 (sh + s_cf S 3)) := hc.w1 hw
    have hn1 : m.2.1 < s_n (u_sc (u_sc S1 12 (Int32.ofNat m.2.1)) 13 (sh + s_cf S 3)) := by show m.2.1 < s_n S1; rw [hc.2.1]; exact hn
    cases hd with
    | true =>
      rw [if_neg (by decide)]
      exact grant 2 b1 hw1 hn1 (by decide) hB1
    | false =>
      rw [if_pos (by decide)]
      exact grant 1 b1 hw1 hn1 (by decide) hB1
  have key : f_X2_decide (some (F 0)) (some q) h = f_X2_decide_B27 (some (F 0)) (some q) sh (if (s_sc S 12 != -4 && decide (sh < s_sc S 13)) = true then 1 else 0) h := by
    unfold f_X2_decide f_X2_decide_B26
    rw [r_sim hS, cl_eq (r_srv hS), hsh, r_sc hS (by decide) (by decide)]
    by_cases h12 : s_sc S 12 = -4
    · rw [if_pos h12]
      simp [h12]
    · rw [if_neg h12, r_sc hS (by decide) (by decide)]
      by_cases h13 : s_sc S 13 ≤ sh
      · rw [if_pos h13]
        have : ¬ sh < s_sc S 13 := Int32.not_lt.mpr h13
        simp [this]
      · rw [if_neg h13]
        have : sh < s_sc S 13 := Int32.not_le.mp h13
        simp [this, h12]
  rw [key]
  obtain ⟨hd, hhd⟩ : ∃ x, (s_sc S 12 != -4 && decide (sh < s_sc S 13)) = x := ⟨_, rfl⟩
  rw [hhd] at hB ⊢
  unfold f_X2_decide_B27
  rw [r_sc hS (by decide) (by decide)]
  by_cases h15 : sh < s_sc S 15
  · rw [if_pos h15]
    rw [if_pos (Or.inl h15)] at hB ⊢
    exact deny hS hw hn hB
  · rw [if_neg h15]
    unfold f_X2_decide_B79
    cases hd with
    | false =>
      rw [if_neg (show ¬ (sh < s_sc S 15 ∨ (false = true ∧ s_sc S 12 ≠ Int32.ofNat m.2.1)) from fun hx => hx.elim h15 (fun hy => Bool.noConfusion hy.1))] at hB ⊢
      rw [if_pos (show (if false = true then (1 : Int32) else 0) = 0 from rfl), if_pos (show (if false = true then (1 : Int32) else 0) = 0 from rfl), r_sc hS (by decide) (by decide)]
      obtain ⟨h17, a1, a2⟩ := w_sc hS (k := 14) (v := s_sc S 14 + 1) (by decide) (by decide)
      rw [a2]
      exact g93 false a1 ⟨rfl, rfl, rfl⟩ hB
    | true =>
      have t1 : ¬ (if true = true then (1 : Int32) else 0) = 0 := by decide
      by_cases hh : s_sc S 12 = Int32.ofNat m.2.1
      · rw [if_neg (show ¬ (sh < s_sc S 15 ∨ (true = true ∧ s_sc S 12 ≠ Int32.ofNat m.2.1)) from fun hx => hx.elim h15 (fun hy => hy.2 hh))] at hB ⊢
        rw [if_neg t1, if_neg t1, r_sc hS (by decide) (by decide), r_m hS hq hq2 (k := 1) rfl, if_pos hh]
        exact g93 true hS cS.rf hB
      · rw [if_pos (show (sh < s_sc S 15 ∨ (true = true ∧ s_sc S 12 ≠ Int32.ofNat m.2.1)) from Or.inr ⟨rfl, hh⟩)] at hB ⊢
        rw [if_neg t1, if_neg t1, r_sc hS (by decide) (by decide), r_m hS hq hq2 (k := 1) rfl, if_neg hh]
        exact deny hS hw hn hB
end MH
