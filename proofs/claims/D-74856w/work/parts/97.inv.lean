/-! THE INVARIANT is kept -/
set_option maxRecDepth 100000
theorem sc_note2 {S : SS} {k : Nat} {n t : Int32} : s_sc (note S k n t) = s_sc S := by
  unfold note
  dsimp only
  split <;> rfl
theorem ms_note2 {S : SS} {k : Nat} {n t : Int32} : s_ms (note S k n t) = s_ms S := by
  unfold note
  dsimp only
  split <;> rfl
theorem ls_note {S : SS} {k : Nat} {n t : Int32} : s_ou (note S k n t) = s_ou S ∧ s_dl (note S k n t) = s_dl S := by
  unfold note
  dsimp only
  split <;> exact ⟨rfl, rfl⟩
theorem lg_note {S : SS} {k : Nat} {n t : Int32} (h : (s_lg S).length ≤ 200) : (s_lg (note S k n t)).length ≤ 200 := by
  unfold note
  dsimp only
  split
  · show (List.tail (s_lg S) ++ [_]).length ≤ 200
    rw [List.length_append, List.length_tail]
    simp
    omega
  · show (s_lg S ++ [_]).length ≤ 200
    rw [List.length_append]
    simp
    omega
theorem gg_le {g : Nat → Nat} {li sz : Nat} (h0 : li ≠ 0) : g 0 ≤ gg g li sz 0 := by
  unfold gg
  split
  · rw [fu_ne (by decide), fu_eq]
    omega
  · exact Nat.le_refl _
theorem gh_note {S : SS} {k : Nat} {n t : Int32} : s_gh S 0 + 1 ≤ s_gh (note S k n t) 0 := by
  unfold note
  dsimp only
  split
  · have := gg_le (g := s_gh (g_mk (u_lg S (s_lg S).tail) 1 4)) (li := 5) (sz := (s_lg S).tail.length) (by decide)
    rw [gh_mk0] at this
    exact this
  · have := gg_le (g := s_gh (g_mk S 1 4)) (li := 5) (sz := (s_lg S).length) (by decide)
    rw [gh_mk0] at this
    exact this
theorem gh_send {S : SS} {k n l : Nat} {a b c : Int32} : s_gh S 0 + 1 ≤ s_gh (send S k n l a b c) 0 := by
  unfold send
  dsimp only
  split
  · have := gg_le (g := s_gh (g_mk (u_sc (u_sc (g_mk S 1 l) 9 (lcg (s_sc S 9))) 10 (s_sc S 10 + 1)) 2 10)) (li := 2) (sz := (s_ms S).length) (by decide)
    rw [gh_mk0] at this
    have e : s_gh (u_sc (u_sc (g_mk S 1 l) 9 (lcg (s_sc S 9))) 10 (s_sc S 10 + 1)) 0 = s_gh S 0 + 1 := gh_mk0 (k := l)
    rw [e] at this
    exact Nat.le_trans (by omega) this
  · exact Nat.le_of_eq (gh_mk0 (k := l)).symm
section IVK
variable {S S' : SS}
theorem Inv.of (h : Inv S) (hcf : s_cf S' = s_cf S) (hn : s_n S' = s_n S) (hN : ∀ i : Nat, i < s_n S → NI (s_nd S' i)) (h21 : ∀ i : Nat, s_nd S' i 21 = s_nd S i 21) (hnow : s_sc S' 8 = s_sc S 8) (hw : WI S') (h10 : (s_sc S 10).toInt ≤ (s_sc S' 10).toInt) (hms : ∀ m ∈ s_ms S', m ∈ s_ms S ∨ MI2 S' m) (hpw : (s_ms S').Pairwise (fun a b => a.2.2.1 ≠ b.2.2.1)) (hou : ∀ o ∈ s_ou S', o ∈ s_ou S) (hlo : (s_ou S').length ≤ 20) (hdl : ∀ d ∈ s_dl S', d ∈ s_dl S) (hld : (s_dl S').length ≤ 20) (hlg : (s_lg S').length ≤ 200) : Inv S' := by
  obtain ⟨h1, h2, h3, h4, h5, h6, h7, h8, h9⟩ := h
  have hnow' : now S' = now S := hnow
  refine ⟨by rw [hcf]; exact h1, fun i hi => hN i (by rw [← hn]; exact hi), by rw [hn]; exact h3, hw, fun m hm => ?_, hpw, fun o ho => ?_, fun d hd => ?_, hlo, hld, hlg⟩
  · rcases hms m hm with g | g
    · obtain ⟨a1, a2, a3, a4, a5⟩ := h5 m g
      refine ⟨by rw [hn]; exact a1, fun hk => by rw [h21]; exact a2 hk, a3, ⟨a4.1, Int.le_trans a4.2 h10⟩, by rw [hnow']; exact a5⟩
    · exact g
  · obtain ⟨a1, a2, a3, a4⟩ := h7 o (hou o ho)
    exact ⟨by rw [hn]; exact a1, a2, by rw [hnow']; exact a3, a4⟩
  · obtain ⟨a1, a2, a3⟩ := h8 d (hdl d hd)
    exact ⟨by rw [hn]; exact a1, a2, by rw [hnow']; exact a3⟩
theorem WI.up (h : WI S) (hcf : s_cf S' = s_cf S) (hn : s_n S' = s_n S) (e : ∀ k : Nat, k = 8 ∨ k = 9 ∨ k = 10 ∨ k = 12 ∨ k = 13 ∨ k = 14 ∨ k = 15 → s_sc S' k = s_sc S k) (hg : s_gh S 0 ≤ s_gh S' 0) (hb : s_gh S' 0 ≤ 1000000) : WI S' := by
  obtain ⟨a1, a2, a3, a4, a5, a6, a7, a8, a9⟩ := h
  unfold WI
  show iv (s_sc S' 8) 0 5000000 ∧ _
  rw [e 8 (by decide), e 9 (by decide), e 10 (by decide), e 12 (by decide), e 13 (by decide), e 14 (by decide), e 15 (by decide), hcf, hn]
  exact ⟨a1, a2, ⟨a3.1, by have := a3.2; omega⟩, hb, ⟨a5.1, by have := a5.2; omega⟩, a6, a7, a8, a9⟩
/-- what the invariant doesn't see -/
theorem Inv.sc {k : Nat} {v : Int32} (h : Inv S) (hk : k ≠ 8 ∧ k ≠ 9 ∧ k ≠ 10 ∧ k ≠ 12 ∧ k ≠ 13 ∧ k ≠ 14 ∧ k ≠ 15) : Inv (u_sc S k v) := by
  have e : ∀ j : Nat, j ≠ k → s_sc (u_sc S k v) j = s_sc S j := fun j hj => fu_ne hj
  exact h.of rfl rfl h.2.1 (fun _ => rfl) (e 8 (by omega)) (h.2.2.2.1.up rfl rfl (fun j hj => e j (by omega)) (Nat.le_refl _) h.2.2.2.1.2.2.2.1) (by rw [e 10 (by omega)]; exact Int.le_refl _) (fun m hm => Or.inl hm) h.2.2.2.2.2.1 (fun o ho => ho) h.2.2.2.2.2.2.2.2.1 (fun d hd => hd) h.2.2.2.2.2.2.2.2.2.1 h.2.2.2.2.2.2.2.2.2.2
theorem Inv.ar {j k : Nat} {v : Int32} (h : Inv S) : Inv (u_ar S j k v) := h
theorem Inv.wt {m : MG} {v : Int32} (h : Inv S) : Inv (watch S m v) := h.sc (by decide)
theorem Inv.nd {i k : Nat} {v : Int32} (h : Inv S) (hk : k ≠ 21) (hN : i < s_n S → NI (fu (s_nd S i) k v)) : Inv (u_nd S i k v) := by
  refine h.of rfl rfl (fun j hj => ?_) (fun j => ?_) rfl (h.2.2.2.1.up rfl rfl (fun _ _ => rfl) (Nat.le_refl _) h.2.2.2.1.2.2.2.1) (Int.le_refl _) (fun m hm => Or.inl hm) h.2.2.2.2.2.1 (fun o ho => ho) h.2.2.2.2.2.2.2.2.1 (fun d hd => hd) h.2.2.2.2.2.2.2.2.2.1 h.2.2.2.2.2.2.2.2.2.2
  · show NI (fu (s_nd S) i (fu (s_nd S i) k v) j)
    by_cases hji : j = i
    · subst hji
      rw [fu_eq]
      exact hN hj
    · rw [fu_ne hji]
      exact h.2.1 j hj
  · show fu (s_nd S) i (fu (s_nd S i) k v) j 21 = s_nd S j 21
    by_cases hji : j = i
    · subst hji
      rw [fu_eq, fu_ne (Ne.symm hk)]
    · rw [fu_ne hji]
theorem Inv_note {k : Nat} {n t : Int32} (h : Inv S) (hb : s_gh (note S k n t) 0 ≤ 1000000) : Inv (note S k n t) := by
  have hg := gh_note (S := S) (k := k) (n := n) (t := t)
  refine h.of cS_note.1 cS_note.2.1 (fun i hi => by rw [cS_note.2.2]; exact h.2.1 i hi) (fun i => by rw [cS_note.2.2]) (by rw [sc_note2]) (h.2.2.2.1.up cS_note.1 cS_note.2.1 (fun j _ => by rw [sc_note2]) (by omega) hb) (by rw [sc_note2]; exact Int.le_refl _) (fun m hm => by rw [ms_note2] at hm; exact Or.inl hm) (by rw [ms_note2]; exact h.2.2.2.2.2.1) (fun o ho => by rw [ls_note.1] at ho; exact ho) (by rw [ls_note.1]; exact h.2.2.2.2.2.2.2.2.1) (fun d hd => by rw [ls_note.2] at hd; exact hd) (by rw [ls_note.2]; exact h.2.2.2.2.2.2.2.2.2.1) (lg_note h.2.2.2.2.2.2.2.2.2.2)
theorem Inv.ms {l : List MG} (h : Inv S) (hl : ∀ m ∈ l, m ∈ s_ms S ∨ MI2 S m) (hp : l.Pairwise (fun a b => a.2.2.1 ≠ b.2.2.1)) : Inv (u_ms S l) := ⟨h.1, h.2.1, h.2.2.1, h.2.2.2.1, fun m hm => by rcases hl m hm with g | g; exact h.2.2.2.2.1 m g; exact g, hp, h.2.2.2.2.2.2⟩
theorem Inv_send {k n l : Nat} {a b c : Int32} (h : Inv S) (hb : s_gh (send S k n l a b c) 0 ≤ 1000000) (hk : k < 9) (hn : n < s_n S) (hr : 4 ≤ k ∧ k ≤ 7 → ∃ r : Nat, r < 8 ∧ b = Int32.ofNat r) (hx : k = 0 ∨ k = 1 → iv a (s_nd S n 21).toInt 5700000) (hb1 : k = 1 → 0 ≤ b.toInt) : Inv (send S k n l a b c) := by
  have hg := gh_send (S := S) (k := k) (n := n) (l := l) (a := a) (b := b) (c := c)
  obtain ⟨W1', W2', W3', W4', W5', W6', W7', W8', W9'⟩ := h.2.2.2.1
  have hN := h.2.1 n hn
  have c7 := h.1.2.2.2.2.2.2.1
  have k1 : ((1 : Int32)).toInt = 1 := by decide
  have e10 : (s_sc S 10 + 1).toInt = (s_sc S 10).toInt + 1 := by rw [i_add] <;> rw [k1] <;> omega
  have hx0 := lcg_b W2'
  have d1 := hN.2.2.1
  have e1 : (now S + s_nd S n 1).toInt = (now S).toInt + (s_nd S n 1).toInt := i_add (by omega) (by omega)
  obtain ⟨x, hx9⟩ : ∃ x : Int32, lcg (s_sc S 9) = x := ⟨_, rfl⟩
  unfold send at hb hg ⊢
  dsimp only at hb hg ⊢
  rw [hx9] at hb hg hx0 ⊢
  have hj := jit_b (x := x) (j := s_cf S 7) hx0 c7.1 c7.2
  obtain ⟨y, hy⟩ : ∃ y : Int32, y = jit x (s_cf S 7) := ⟨_, rfl⟩
  rw [← hy] at hj hb hg ⊢
  have e2 : (now S + s_nd S n 1 + y).toInt = (now S).toInt + (s_nd S n 1).toInt + y.toInt := by rw [i_add (by rw [e1]; omega) (by rw [e1]; omega), e1]
  by_cases hc : s_nd S n 4 = 0
  · rw [if_pos hc] at hb hg ⊢
    obtain ⟨S1, hS1⟩ : ∃ S1 : SS, S1 = u_ms (g_add (g_mk (u_sc (u_sc (g_mk S 1 l) 9 x) 10 (s_sc S 10 + 1)) 2 10) 2 (s_ms S).length) (s_ms S ++ [(k, n, s_sc S 10 + 1, a, b, c, now S + s_nd S n 1 + y)]) := ⟨_, rfl⟩
    rw [← hS1] at hb hg ⊢
    have f1 : s_cf S1 = s_cf S := by rw [hS1]; rfl
    have f2 : s_n S1 = s_n S := by rw [hS1]; rfl
    have f3 : s_nd S1 = s_nd S := by rw [hS1]; rfl
    have f4 : s_sc S1 = fu (fu (s_sc S) 9 x) 10 (s_sc S 10 + 1) := by rw [hS1]; rfl
    have f5 : s_ms S1 = s_ms S ++ [(k, n, s_sc S 10 + 1, a, b, c, now S + s_nd S n 1 + y)] := by rw [hS1]; rfl
    have g8 : s_sc S1 8 = s_sc S 8 := by rw [f4]; rfl
    have g10 : s_sc S1 10 = s_sc S 10 + 1 := by rw [f4]; rfl
    refine h.of f1 f2 (fun i hi => by rw [f3]; exact h.2.1 i hi) (fun i => by rw [f3]) g8 ?_ (by rw [g10, e10]; omega) (fun m hm => ?_) ?_ (fun o ho => by rw [hS1] at ho; exact ho) (by rw [hS1]; exact h.2.2.2.2.2.2.2.2.1) (fun d hd => by rw [hS1] at hd; exact hd) (by rw [hS1]; exact h.2.2.2.2.2.2.2.2.2.1) (by rw [hS1]; exact h.2.2.2.2.2.2.2.2.2.2)
    · unfold WI
      show iv (s_sc S1 8) 0 5000000 ∧ _
      rw [f4, f1, f2]
      exact ⟨W1', hx0, ⟨by show 0 ≤ (s_sc S 10 + 1).toInt; omega, by show (s_sc S 10 + 1).toInt ≤ _; omega⟩, hb, ⟨W5'.1, by show (s_sc S 14).toInt ≤ _; omega⟩, W6', W7', W8', W9'⟩
    · rw [f5] at hm
      rcases List.mem_append.mp hm with hm | hm
      · exact Or.inl hm
      · refine Or.inr ?_
        rw [List.mem_singleton.mp hm]
        refine ⟨⟨hk, by rw [f2]; exact hn, hr⟩, fun hk' => by rw [f3]; exact hx hk', hb1, ⟨?_, ?_⟩, ?_, ?_⟩
        · show 1 ≤ (s_sc S 10 + 1).toInt
          omega
        · rw [g10]
          exact Int.le_refl _
        · show (s_sc S1 8).toInt ≤ (now S + s_nd S n 1 + y).toInt
          rw [g8, e2]
          have : (s_sc S 8).toInt = (now S).toInt := rfl
          omega
        · show (now S + s_nd S n 1 + y).toInt ≤ 5020000
          rw [e2]
          omega
    · rw [f5]
      refine List.pairwise_append.mpr ⟨h.2.2.2.2.2.1, by simp, fun m hm m' hm' => ?_⟩
      rw [List.mem_singleton.mp hm']
      intro he
      have hq := (h.2.2.2.2.1 m hm).2.2.2.1.2
      rw [he] at hq
      have : (s_sc S 10 + 1).toInt ≤ (s_sc S 10).toInt := hq
      omega
  · rw [if_neg hc] at hb hg ⊢
    obtain ⟨S1, hS1⟩ : ∃ S1 : SS, S1 = u_sc (u_sc (u_sc (g_mk S 1 l) 9 x) 10 (s_sc S 10 + 1)) 11 (s_sc S 11 + 1) := ⟨_, rfl⟩
    rw [← hS1] at hb hg ⊢
    have f1 : s_cf S1 = s_cf S := by rw [hS1]; rfl
    have f2 : s_n S1 = s_n S := by rw [hS1]; rfl
    have f3 : s_nd S1 = s_nd S := by rw [hS1]; rfl
    have f4 : s_sc S1 = fu (fu (fu (s_sc S) 9 x) 10 (s_sc S 10 + 1)) 11 (s_sc S 11 + 1) := by rw [hS1]; rfl
    have g8 : s_sc S1 8 = s_sc S 8 := by rw [f4]; rfl
    have g10 : s_sc S1 10 = s_sc S 10 + 1 := by rw [f4]; rfl
    refine h.of f1 f2 (fun i hi => by rw [f3]; exact h.2.1 i hi) (fun i => by rw [f3]) g8 ?_ (by rw [g10, e10]; omega) (fun m hm => by rw [hS1] at hm; exact Or.inl hm) (by rw [hS1]; exact h.2.2.2.2.2.1) (fun o ho => by rw [hS1] at ho; exact ho) (by rw [hS1]; exact h.2.2.2.2.2.2.2.2.1) (fun d hd => by rw [hS1] at hd; exact hd) (by rw [hS1]; exact h.2.2.2.2.2.2.2.2.2.1) (by rw [hS1]; exact h.2.2.2.2.2.2.2.2.2.2)
    unfold WI
    show iv (s_sc S1 8) 0 5000000 ∧ _
    rw [f4, f1, f2]
    exact ⟨W1', hx0, ⟨by show 0 ≤ (s_sc S 10 + 1).toInt; omega, by show (s_sc S 10 + 1).toInt ≤ _; omega⟩, hb, ⟨W5'.1, by show (s_sc S 14).toInt ≤ _; omega⟩, W6', W7', W8', W9'⟩
/-- clocks within the invariant -/
theorem Inv.clk (h : Inv S) {i : Nat} (hi : i < s_n S) : iv (ndAt S i (now S)) (s_nd S i 21).toInt 5600000 := by
  have hN := h.2.1 i hi
  have hW := h.2.2.2.1.1
  have hc := c_at_b (t := now S) hN.1.1 hN.1.2 hN.2.1.1 hN.2.1.2 hW.1 (by omega)
  have hm := mul_in (a := (s_nd S i 20).toInt) (b := (now S).toInt) (x := 1100) (y := 5000000) (by have := hN.1.1; omega) hW.1 hN.1.2 hW.2
  have o2 := hN.2.1.2
  exact ⟨hc.1, by show (c_at (s_nd S i 20) (s_nd S i 21) (now S)).toInt ≤ _; omega⟩
theorem Inv.srv (h : Inv S) : iv (srvAt S) (s_cf S 1).toInt 5600000 := by
  have hN := h.1
  have hW := h.2.2.2.1.1
  have hc := c_at_b (t := now S) hN.1.1 hN.1.2 hN.2.1.1 hN.2.1.2 hW.1 (by omega)
  have hm := mul_in (a := (s_cf S 0).toInt) (b := (now S).toInt) (x := 1100) (y := 5000000) (by have := hN.1.1; omega) hW.1 hN.1.2 hW.2
  have o2 := hN.2.1.2
  exact ⟨hc.1, by show (c_at (s_cf S 0) (s_cf S 1) (now S)).toInt ≤ _; omega⟩
theorem NI.timer {nd : Nat → Int32} {v : Int32} (h : NI nd) (hv : v = -4 ∨ iv v 0 20000000) : NI (fu nd 8 v) := by
  obtain ⟨a1, a2, a3, a4, a5, a6, a7, a8, a9, a10, a11, a12⟩ := h
  exact ⟨a1, a2, a3, a4, a5, a6, a7, a8, a9, a10, a11, hv⟩
theorem Inv.tm {i : Nat} {v : Int32} (h : Inv S) (hi : i < s_n S) (hv : iv v 0 6000000) : Inv (setTimer S i v) := by
  have hN := h.2.1 i hi
  have hW := h.2.2.2.1.1
  refine h.nd (by decide) (fun _ => hN.timer (Or.inr ?_))
  have hr := c_re_b (v := v) hN.1.1 hN.1.2 hN.2.1.1 hN.2.1.2 hv.1 (by omega)
  have k1 : ((1 : Int32)).toInt = 1 := by decide
  have e : (now S + 1).toInt = (now S).toInt + 1 := by rw [i_add] <;> rw [k1] <;> omega
  have o1 := hN.2.1.1
  have hr' : 0 ≤ (ndRe S i v).toInt ∧ (ndRe S i v).toInt ≤ 2 * max 0 (v.toInt - (s_nd S i 21).toInt) + 1 := ⟨hr.1, hr.2.1⟩
  refine ⟨?_, ?_⟩ <;> rw [mx_i] <;> omega
theorem Inv_acquire {i : Nat} (h : Inv S) (hi : i < s_n S) (hb : s_gh (acquire S i) 0 ≤ 1000000) : Inv (acquire S i) := by
  have hc := h.clk hi
  have c6 := h.1.2.2.2.2.2.1
  have o1 := (h.2.1 i hi).2.1.1
  have e : (ndAt S i (now S) + s_cf S 6).toInt = (ndAt S i (now S)).toInt + (s_cf S 6).toInt := i_add (by omega) (by omega)
  have h1 : Inv (setTimer S i (ndAt S i (now S) + s_cf S 6)) := h.tm hi (by rw [iv, e]; omega)
  have h2 : Inv (u_nd (setTimer S i (ndAt S i (now S) + s_cf S 6)) i 11 (s_nd (setTimer S i (ndAt S i (now S) + s_cf S 6)) i 11 + 1)) := h1.nd (by decide) (fun hi' => h1.2.1 i hi')
  refine Inv_send h2 hb (by decide) hi (fun hk => absurd hk.1 (by decide)) (fun _ => ⟨?_, by omega⟩) (fun hk => absurd hk (by decide))
  have e21 : s_nd (u_nd (setTimer S i (ndAt S i (now S) + s_cf S 6)) i 11 (s_nd (setTimer S i (ndAt S i (now S) + s_cf S 6)) i 11 + 1)) i 21 = s_nd S i 21 := by
    show fu (fu (s_nd S) i (fu (s_nd S i) 8 _)) i (fu (fu (s_nd S) i (fu (s_nd S i) 8 _) i) 11 _) i 21 = _
    rw [fu_eq, fu_ne (by decide), fu_eq, fu_ne (by decide)]
  rw [e21]
  exact hc.1
end IVK
