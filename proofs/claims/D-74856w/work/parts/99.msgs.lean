/-! MESSAGES: which comes first; what arrives; that it ends -/
set_option maxRecDepth 100000
def tmJ (m : MG) : Int := m.2.2.2.2.2.2.toInt
def sqJ (m : MG) : Int := m.2.2.1.toInt
/-- m comes no later than q -/
def nlt (m q : MG) : Prop := tmJ m < tmJ q ∨ (tmJ m = tmJ q ∧ sqJ m ≤ sqJ q)
theorem nlt_rf {m : MG} : nlt m m := Or.inr ⟨rfl, Int.le_refl _⟩
theorem nlt_tr {a b c : MG} (h : nlt a b) (g : nlt b c) : nlt a c := by unfold nlt at *; omega
theorem bef_iff {m q : MG} : bef m q = true ↔ tmJ m < tmJ q ∨ (tmJ m = tmJ q ∧ sqJ m < sqJ q) := by
  unfold bef tmJ sqJ
  rw [Bool.or_eq_true, Bool.and_eq_true, decide_eq_true_eq, decide_eq_true_eq, decide_eq_true_eq, Int32.lt_iff_toInt_lt, Int32.lt_iff_toInt_lt]
  constructor
  · rintro (h | ⟨h1, h2⟩)
    · exact Or.inl h
    · exact Or.inr ⟨by rw [h1], h2⟩
  · rintro (h | ⟨h1, h2⟩)
    · exact Or.inl h
    · exact Or.inr ⟨Int32.toInt.inj h1, h2⟩
theorem fmGo_min : ∀ (l : List MG) (i : Nat) (acc : Option (Nat × MG)) (k : Nat) (m : MG), fmGo l i acc = some (k, m) → (∀ a : Nat × MG, acc = some a → nlt m a.2) ∧ ∀ q ∈ l, nlt m q
  | [], i, acc, k, m, h => by
    unfold fmGo at h
    refine ⟨fun a ha => ?_, fun q hq => absurd hq (by simp)⟩
    rw [ha] at h
    cases h
    exact nlt_rf
  | x :: l, i, none, k, m, h => by
    unfold fmGo at h
    have ih := fmGo_min l (i + 1) (some (i, x)) k m h
    refine ⟨fun a ha => (by cases ha), fun q hq => ?_⟩
    rcases List.mem_cons.mp hq with e | e
    · rw [e]
      exact ih.1 _ rfl
    · exact ih.2 q e
  | x :: l, i, some f, k, m, h => by
    unfold fmGo at h
    by_cases hb : bef x f.2 = true
    · rw [if_pos hb] at h
      have ih := fmGo_min l (i + 1) (some (i, x)) k m h
      have h1 := ih.1 _ rfl
      refine ⟨fun a ha => ?_, fun q hq => ?_⟩
      · cases ha
        rw [bef_iff] at hb
        have h2 : nlt x f.2 := by unfold nlt; omega
        exact nlt_tr h1 h2
      · rcases List.mem_cons.mp hq with e | e
        · rw [e]; exact h1
        · exact ih.2 q e
    · rw [if_neg hb] at h
      have ih := fmGo_min l (i + 1) (some f) k m h
      have h1 := ih.1 _ rfl
      refine ⟨fun a ha => (by cases ha; exact h1), fun q hq => ?_⟩
      rcases List.mem_cons.mp hq with e | e
      · rw [e]
        rw [bef_iff] at hb
        have h2 : nlt f.2 x := by unfold nlt; omega
        exact nlt_tr h1 h2
      · exact ih.2 q e
theorem fmsg_min {l : List MG} {k : Nat} {m : MG} (h : fmsg l = some (k, m)) : ∀ q ∈ l, nlt m q := (fmGo_min l 0 none k m h).2
theorem fmGo_some : ∀ (l : List MG) (i : Nat) (f : Nat × MG), ∃ a, fmGo l i (some f) = some a
  | [], i, f => ⟨f, rfl⟩
  | x :: l, i, f => by
    unfold fmGo
    split
    · exact fmGo_some l (i + 1) _
    · exact fmGo_some l (i + 1) _
theorem fmsg_none {l : List MG} (h : fmsg l = none) : l = [] := by
  cases l with
  | nil => rfl
  | cons x l =>
    obtain ⟨a, ha⟩ := fmGo_some l 1 (0, x)
    have : fmsg (x :: l) = some a := ha
    rw [this] at h
    cases h
/-- messages are added for later times, the time stays -/
def MX (S S' : SS) : Prop := s_sc S' 8 = s_sc S 8 ∧ ∃ l : List MG, s_ms S' = s_ms S ++ l ∧ (∀ q ∈ l, (now S).toInt < tmJ q) ∧ l.length ≤ 1
section MXS
variable {S S' S1 : SS}
theorem MX.rf (h8 : s_sc S' 8 = s_sc S 8) (hm : s_ms S' = s_ms S) : MX S S' := ⟨h8, [], by rw [hm]; simp, by simp, by simp⟩
theorem MX.pre (h : MX S1 S') (h8 : s_sc S1 8 = s_sc S 8) (hm : s_ms S1 = s_ms S) : MX S S' := by
  obtain ⟨a, l, b, c, d⟩ := h
  refine ⟨a.trans h8, l, by rw [b, hm], fun q hq => ?_, d⟩
  have := c q hq
  have e : (now S1).toInt = (now S).toInt := by show (s_sc S1 8).toInt = _; rw [h8]
  omega
theorem MX_send {k n l : Nat} {a b c : Int32} (h : Inv S) (hn : n < s_n S) : MX S (send S k n l a b c) := by
  obtain ⟨W1', W2', -⟩ := h.2.2.2.1
  have hN := h.2.1 n hn
  have c7 := h.1.2.2.2.2.2.2.1
  have hx0 := lcg_b W2'
  have d1 := hN.2.2.1
  have e1 : (now S + s_nd S n 1).toInt = (now S).toInt + (s_nd S n 1).toInt := i_add (by omega) (by omega)
  unfold send
  dsimp only
  obtain ⟨x, hx9⟩ : ∃ x : Int32, lcg (s_sc S 9) = x := ⟨_, rfl⟩
  rw [hx9] at hx0 ⊢
  have hj := jit_b (x := x) (j := s_cf S 7) hx0 c7.1 c7.2
  obtain ⟨y, hy⟩ : ∃ y : Int32, y = jit x (s_cf S 7) := ⟨_, rfl⟩
  rw [← hy] at hj ⊢
  have e2 : (now S + s_nd S n 1 + y).toInt = (now S).toInt + (s_nd S n 1).toInt + y.toInt := by rw [i_add (by rw [e1]; omega) (by rw [e1]; omega), e1]
  by_cases hc : s_nd S n 4 = 0
  · rw [if_pos hc]
    refine ⟨rfl, [(k, n, s_sc S 10 + 1, a, b, c, now S + s_nd S n 1 + y)], rfl, fun q hq => ?_, by simp⟩
    rw [List.mem_singleton.mp hq]
    show _ < (now S + s_nd S n 1 + y).toInt
    omega
  · rw [if_neg hc]
    exact MX.rf rfl rfl
theorem MX_decide {m : MG} (h : Inv S) (hm : MI2 S m) (hb : s_gh (decide_ S m) 0 ≤ 1000000) : MX S (decide_ S m) := by
  have hn := hm.1.2.1
  unfold decide_ at hb ⊢
  dsimp only at hb ⊢
  by_cases hc : srvAt S < s_sc S 15 ∨ (s_sc S 12 != -4 && decide (srvAt S < s_sc S 13)) = true ∧ s_sc S 12 ≠ Int32.ofNat m.2.1
  · rw [if_pos hc] at hb ⊢
    have h1 : Inv (note S 3 (Int32.ofNat m.2.1) (s_sc S 14)) := Inv_note h (Nat.le_trans gle_send2.1 hb)
    exact (MX_send h1 (by rw [cS_note.2.1]; exact hn)).pre (by rw [sc_note2]) ms_note2
  · rw [if_neg hc] at hb ⊢
    obtain ⟨S1, hS1⟩ : ∃ S1 : SS, S1 = u_sc (u_sc (if (s_sc S 12 != -4 && decide (srvAt S < s_sc S 13)) = true then S else u_sc S 14 (s_sc S 14 + 1)) 12 (Int32.ofNat m.2.1)) 13 (srvAt S + s_cf S 3) := ⟨_, rfl⟩
    obtain ⟨kk, hkk⟩ : ∃ kk : Nat, kk = (if (s_sc S 12 != -4 && decide (srvAt S < s_sc S 13)) = true then 2 else 1) := ⟨_, rfl⟩
    rw [← hS1, ← hkk] at hb ⊢
    have f1 : s_cf S1 = s_cf S := by rw [hS1]; split <;> rfl
    have f2 : s_n S1 = s_n S := by rw [hS1]; split <;> rfl
    have f3 : s_nd S1 = s_nd S := by rw [hS1]; split <;> rfl
    have f5 : s_ms S1 = s_ms S := by rw [hS1]; split <;> rfl
    have g8 : s_sc S1 8 = s_sc S 8 := by rw [hS1]; split <;> rfl
    have g9 : s_sc S1 9 = s_sc S 9 := by rw [hS1]; split <;> rfl
    clear hS1
    -- what sending needs of the state
    obtain ⟨W1', W2', -⟩ := h.2.2.2.1
    have hN := h.2.1 m.2.1 hn
    have c7 := h.1.2.2.2.2.2.2.1
    obtain ⟨S2, hS2⟩ : ∃ S2 : SS, S2 = note S1 kk (Int32.ofNat m.2.1) (s_sc S1 14) := ⟨_, rfl⟩
    rw [← hS2]
    have p8 : s_sc S2 8 = s_sc S 8 := by rw [hS2, sc_note2, g8]
    have p9 : s_sc S2 9 = s_sc S 9 := by rw [hS2, sc_note2, g9]
    have pms : s_ms S2 = s_ms S := by rw [hS2, ms_note2, f5]
    have pnd : s_nd S2 = s_nd S := by rw [hS2, cS_note.2.2, f3]
    have pcf : s_cf S2 = s_cf S := by rw [hS2, cS_note.1, f1]
    clear hS2
    refine MX.pre (S1 := S2) ?_ p8 pms
    have hx0 := lcg_b W2'
    have d1 := hN.2.2.1
    have enow : now S2 = now S := p8
    have e1 : (now S + s_nd S m.2.1 1).toInt = (now S).toInt + (s_nd S m.2.1 1).toInt := i_add (by omega) (by omega)
    unfold send
    dsimp only
    rw [p9, pnd, pcf, enow]
    obtain ⟨x, hx9⟩ : ∃ x : Int32, lcg (s_sc S 9) = x := ⟨_, rfl⟩
    rw [hx9] at hx0 ⊢
    have hj := jit_b (x := x) (j := s_cf S 7) hx0 c7.1 c7.2
    obtain ⟨y, hy⟩ : ∃ y : Int32, y = jit x (s_cf S 7) := ⟨_, rfl⟩
    rw [← hy] at hj ⊢
    have e2 : (now S + s_nd S m.2.1 1 + y).toInt = (now S).toInt + (s_nd S m.2.1 1).toInt + y.toInt := by rw [i_add (by rw [e1]; omega) (by rw [e1]; omega), e1]
    by_cases hc4 : s_nd S m.2.1 4 = 0
    · rw [if_pos hc4]
      refine ⟨rfl, [_], rfl, fun q hq => ?_, by simp⟩
      rw [List.mem_singleton.mp hq, enow]
      show _ < (now S + s_nd S m.2.1 1 + y).toInt
      omega
    · rw [if_neg hc4]
      exact MX.rf rfl rfl
theorem MX_release {m : MG} : MX S (release S m) := by
  unfold release
  by_cases c1 : m.2.2.2.1 = s_sc S 14
  · rw [if_pos c1]
    by_cases c2 : s_sc S 12 = -4
    · rw [if_pos c2]
      exact MX.rf rfl rfl
    · rw [if_neg c2]
      have a1 : s_sc (note S 4 (Int32.ofNat m.2.1) m.2.2.2.1) = s_sc S := sc_note2
      have a2 : s_ms (note S 4 (Int32.ofNat m.2.1) m.2.2.2.1) = s_ms S := ms_note2
      obtain ⟨N, hN⟩ : ∃ N : SS, N = note S 4 (Int32.ofNat m.2.1) m.2.2.2.1 := ⟨_, rfl⟩
      rw [← hN] at a1 a2 ⊢
      have b1 : s_sc (u_sc N 12 (-4)) 8 = s_sc N 8 := rfl
      have b2 : s_ms (u_sc N 12 (-4)) = s_ms N := rfl
      exact MX.rf (by rw [b1, a1]) (by rw [b2, a2])
  · rw [if_neg c1]
    exact MX.rf rfl rfl
theorem MX_fence {m : MG} (h : Inv S) (hn : m.2.1 < s_n S) (hb : s_gh (fence S m) 0 ≤ 1000000) : MX S (fence S m) := by
  unfold fence at hb ⊢
  have b1 : s_gh (note (g_mk S 2 13) 5 (Int32.ofNat m.2.1) m.2.2.2.1) 0 ≤ 1000000 := Nat.le_trans (gle_watch (S := note (g_mk S 2 13) 5 (Int32.ofNat m.2.1) m.2.2.2.1) (m := m) (i := 1)).1 (Nat.le_trans (gle_send2 (S := watch (note (g_mk S 2 13) 5 (Int32.ofNat m.2.1) m.2.2.2.1) m 1)).1 hb)
  have b2 : s_gh (g_mk S 2 13) 0 ≤ 1000000 := Nat.le_trans gle_note.1 b1
  refine (MX_send (Inv_note (Inv_mk h b2) b1).wt (by show m.2.1 < s_n (note (g_mk S 2 13) 5 (Int32.ofNat m.2.1) m.2.2.2.1); rw [cS_note.2.1]; exact hn)).pre ?_ ?_
  · show fu (s_sc (note (g_mk S 2 13) 5 (Int32.ofNat m.2.1) m.2.2.2.1)) 21 (if m.2.2.1 = s_sc (note (g_mk S 2 13) 5 (Int32.ofNat m.2.1) m.2.2.2.1) 20 then 1 else s_sc (note (g_mk S 2 13) 5 (Int32.ofNat m.2.1) m.2.2.2.1) 21) 8 = _
    rw [fu_ne (by decide), sc_note2]
    rfl
  · show s_ms (note (g_mk S 2 13) 5 (Int32.ofNat m.2.1) m.2.2.2.1) = _
    rw [ms_note2]
    rfl
theorem MX_atStorage {m : MG} (h : Inv S) (hm : mOK (s_n S) m) (hb : s_gh (atStorage S m) 0 ≤ 1000000) : MX S (atStorage S m) := by
  unfold atStorage at hb ⊢
  dsimp only at hb ⊢
  by_cases hc : s_sc S 30 ≤ m.2.2.2.1
  · rw [if_pos hc] at hb ⊢
    by_cases h5 : m.1 = 5
    · rw [if_pos h5] at hb ⊢
      exact (MX_send (h.sc (by decide)) hm.2.1).pre rfl rfl
    · rw [if_neg h5] at hb ⊢
      have h2 : Inv (u_ar (u_ar (u_sc S 30 m.2.2.2.1) 0 m.2.2.2.2.1.toNatClampNeg m.2.2.2.2.2.1) 1 m.2.2.2.2.1.toNatClampNeg (s_ar S 1 m.2.2.2.2.1.toNatClampNeg + 1)) := ((h.sc (by decide)).ar).ar
      obtain ⟨S2, hS2⟩ : ∃ S2 : SS, S2 = u_ar (u_ar (u_sc S 30 m.2.2.2.1) 0 m.2.2.2.2.1.toNatClampNeg m.2.2.2.2.2.1) 1 m.2.2.2.2.1.toNatClampNeg (s_ar S 1 m.2.2.2.2.1.toNatClampNeg + 1) := ⟨_, rfl⟩
      rw [← hS2] at h2 hb ⊢
      have n2 : s_n S2 = s_n S := by rw [hS2]; rfl
      have q8 : s_sc S2 8 = s_sc S 8 := by rw [hS2]; rfl
      have qm : s_ms S2 = s_ms S := by rw [hS2]; rfl
      have b1 : s_gh (note S2 6 (Int32.ofNat m.2.1) m.2.2.2.1) 0 ≤ 1000000 := Nat.le_trans (gle_watch (S := note S2 6 (Int32.ofNat m.2.1) m.2.2.2.1) (m := m) (i := 0)).1 (Nat.le_trans (gle_send2 (S := watch (note S2 6 (Int32.ofNat m.2.1) m.2.2.2.1) m 0)).1 hb)
      refine (MX_send (Inv_note h2 b1).wt (by show m.2.1 < s_n (note S2 6 (Int32.ofNat m.2.1) m.2.2.2.1); rw [cS_note.2.1, n2]; exact hm.2.1)).pre ?_ ?_
      · show fu (s_sc (note S2 6 (Int32.ofNat m.2.1) m.2.2.2.1)) 21 (if m.2.2.1 = s_sc (note S2 6 (Int32.ofNat m.2.1) m.2.2.2.1) 20 then 0 else s_sc (note S2 6 (Int32.ofNat m.2.1) m.2.2.2.1) 21) 8 = _
        rw [fu_ne (by decide), sc_note2, q8]
      · show s_ms (note S2 6 (Int32.ofNat m.2.1) m.2.2.2.1) = _
        rw [ms_note2, qm]
  · rw [if_neg hc] at hb ⊢
    exact MX_fence h hm.2.1 hb
theorem MX_atNode {m : MG} (h : Inv S) (hm : MI2 S m) : MX S (atNode S m) := by
  unfold atNode
  dsimp only
  split
  · unfold granted
    dsimp only
    split
    · exact MX_send h hm.1.2.1
    · split
      · exact MX.rf rfl rfl
      · split <;> exact MX.rf rfl rfl
  · split
    · split
      · exact MX.rf rfl rfl
      · exact MX.rf rfl rfl
    · split
      · split
        · exact MX.rf rfl rfl
        · exact MX.rf rfl rfl
      · split
        · exact MX.rf rfl rfl
        · exact MX.rf rfl rfl
theorem MX_handle {m : MG} (h : Inv S) (hm : MI2 S m) (hb : s_gh (handle S m) 0 ≤ 1000000) : MX S (handle S m) := by
  unfold handle at hb ⊢
  by_cases k0 : m.1 = 0
  · rw [if_pos k0] at hb ⊢
    exact MX_decide h hm hb
  rw [if_neg k0] at hb ⊢
  by_cases k3 : m.1 = 3
  · rw [if_pos k3] at hb ⊢
    exact MX_release
  rw [if_neg k3] at hb ⊢
  by_cases k4 : m.1 = 4 ∨ m.1 = 5
  · rw [if_pos k4] at hb ⊢
    exact MX_atStorage h hm.1 hb
  rw [if_neg k4] at hb ⊢
  exact MX_atNode h hm
/-- what arrives goes; at most one comes, for a later time -/
theorem MX_arrive {m : MG} {k : Nat} (h : Inv S) (hj : (s_ms S)[k]? = some m) (hb : s_gh (arrive S k m) 0 ≤ 1000000) : s_sc (arrive S k m) 8 = s_sc S 8 ∧ ∃ l : List MG, s_ms (arrive S k m) = (s_ms S).eraseIdx k ++ l ∧ (∀ q ∈ l, (now S).toInt < tmJ q) ∧ l.length ≤ 1 := by
  have hm := h.2.2.2.2.1 m (List.mem_of_getElem? hj)
  have hm1 : MI2 (u_ms S ((s_ms S).eraseIdx k)) m := hm
  unfold arrive at hb ⊢
  dsimp only at hb ⊢
  by_cases c1 : s_nd S m.2.1 4 ≠ 0 ∨ (toNode m.1 = true ∧ s_nd S m.2.1 2 = 0)
  · rw [if_pos c1]
    exact ⟨rfl, [], by simp; rfl, by simp, by simp⟩
  rw [if_neg c1] at hb ⊢
  by_cases c2 : toNode m.1 = true ∧ paused S m.2.1 (now S) = true
  · rw [if_pos c2]
    refine ⟨rfl, [_], rfl, fun q hq => ?_, by simp⟩
    rw [List.mem_singleton.mp hq]
    have hpa := c2.2
    unfold paused at hpa
    have := (Bool.and_eq_true _ _ ▸ hpa).2
    have h2 := of_decide_eq_true this
    rw [Int32.lt_iff_toInt_lt] at h2
    exact h2
  rw [if_neg c2] at hb ⊢
  exact MX_handle (Inv_er h) hm1 hb
end MXS
/-- how many are due -/
def dueN (S : SS) : Nat := (s_ms S).countP (fun m => decide (tmJ m ≤ (now S).toInt))
theorem dueN_arrive {S : SS} {m : MG} {k : Nat} (h : Inv S) (hj : (s_ms S)[k]? = some m) (hd : tmJ m ≤ (now S).toInt) (hb : s_gh (arrive S k m) 0 ≤ 1000000) : dueN (arrive S k m) + 1 = dueN S := by
  obtain ⟨h8, l, e1, e2, e3⟩ := MX_arrive h hj hb
  have en : (now (arrive S k m)).toInt = (now S).toInt := by show (s_sc (arrive S k m) 8).toInt = _; rw [h8]
  unfold dueN
  rw [en, e1, List.countP_append]
  have hz : l.countP (fun m => decide (tmJ m ≤ (now S).toInt)) = 0 := by
    rw [List.countP_eq_zero]
    intro q hq
    have := e2 q hq
    simp
    omega
  have hperm : ∀ (l : List MG) (k : Nat), l[k]? = some m → l.Perm (m :: l.eraseIdx k) := by
    intro l
    induction l with
    | nil => intro k hk; simp at hk
    | cons x l ih =>
      intro k hk
      cases k with
      | zero =>
        have : x = m := by simpa using hk
        subst this
        simp
      | succ k => exact (List.Perm.cons x (ih k (by simpa using hk))).trans (List.Perm.swap m x _)
  rw [hz, (hperm _ k hj).countP_eq, List.countP_cons, if_pos (by simpa using hd)]
theorem mDone_of : ∀ (n : Nat) (S : SS), Inv S → dueN S ≤ n → s_gh (msgsNow n S) 0 ≤ 1000000 → mDone n S := by
  intro n
  induction n with
  | zero =>
    intro S h hd hb
    unfold mDone
    cases hf : fmsg (s_ms S) with
    | none => trivial
    | some q =>
      obtain ⟨k, m⟩ := q
      have hmem : m ∈ s_ms S := List.mem_of_getElem? (fmsg_mem hf)
      have h0 : dueN S = 0 := by omega
      unfold dueN at h0
      rw [List.countP_eq_zero] at h0
      have := h0 m hmem
      simp at this
      show now S < m.2.2.2.2.2.2
      rw [Int32.lt_iff_toInt_lt]
      exact this
  | succ n ih =>
    intro S h hd hb
    unfold mDone
    unfold msgsNow at hb
    cases hf : fmsg (s_ms S) with
    | none => trivial
    | some q =>
      obtain ⟨k, m⟩ := q
      rw [hf] at hb
      dsimp only at hb ⊢
      by_cases hlt : now S < m.2.2.2.2.2.2
      · exact Or.inl hlt
      · rw [if_neg hlt] at hb
        refine Or.inr ?_
        have hb1 : s_gh (arrive S k m) 0 ≤ 1000000 := Nat.le_trans (gle_msgs n).1 hb
        have hj := fmsg_mem hf
        have hdu : tmJ m ≤ (now S).toInt := by
          rw [Int32.lt_iff_toInt_lt] at hlt
          show m.2.2.2.2.2.2.toInt ≤ _
          omega
        have := dueN_arrive h hj hdu hb1
        exact ih _ (Inv_arrive h hj hb1) (by omega) hb
theorem Inv_msgs : ∀ (n : Nat) (S : SS), Inv S → s_gh (msgsNow n S) 0 ≤ 1000000 → Inv (msgsNow n S) := by
  intro n
  induction n with
  | zero => intro S h _; exact h
  | succ n ih =>
    intro S h hb
    unfold msgsNow at hb ⊢
    cases hf : fmsg (s_ms S) with
    | none => exact h
    | some q =>
      obtain ⟨k, m⟩ := q
      rw [hf] at hb
      dsimp only at hb ⊢
      by_cases hlt : now S < m.2.2.2.2.2.2
      · rw [if_pos hlt]; exact h
      · rw [if_neg hlt] at hb ⊢
        exact ih _ (Inv_arrive h (fmsg_mem hf) (Nat.le_trans (gle_msgs n).1 hb)) hb
