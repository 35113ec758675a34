/-! ROOM: L6: the reply comes ahead of the retry: a retry fires only when no token (but late ones) is left -/
set_option maxRecDepth 100000
def fm6 (i : Nat) (Lt : List Int) (c : Nat) (q : MG) : Nat := if q.2.1 = i ∧ q.1 ≤ c ∧ (q.1 = 0 ∨ tmJ q ∉ Lt) then 1 else 0
def fmB6 (S0 : SS) (i : Nat) (s e : Int) (Lt : List Int) (q : MG) : Nat := if q.2.1 = i ∧ (q.1 = 0 ∨ (q.1 = 1 ∧ tmJ q ∉ Lt)) then Nn s e 45 (fireT S0 q) else 0
/-- all good tokens are back ahead of the timer -/
def rl6 (S0 S : SS) (i : Nat) (Lt : List Int) : Prop := s_nd S i 8 = -4 ∨ s_nd S i 3 = 0 ∨ ∀ m ∈ s_ms S, m.2.1 = i → (m.1 = 0 → tmJ m + way S0 i < (s_nd S i 8).toInt) ∧ (m.1 = 1 ∨ m.1 = 2 ∨ m.1 = 3 → tmJ m ∉ Lt → tmJ m < (s_nd S i 8).toInt)
/-- tokens that are not late, but for DENYs (c = 2) or with RELEASEs (c = 3) -/
def k6 (S : SS) (i : Nat) (Lt : List Int) (c : Nat) : Nat := ((s_ms S).map (fm6 i Lt c)).sum
def c6 (S0 : SS) (s : Int) (i : Nat) (Lt : List Int) (c B : Nat) (S : SS) (g : Nat → JG) : Prop :=
  cVt (fm6 i Lt c) (fun _ => 1) 0 1 B i S g ∧ (jf (g i) = 0 → rl6 S0 S i Lt) ∧
  (∀ e : Int, (now S).toInt ≤ e → cVt (fmB6 S0 i s e Lt) (fun t => Nn s e 45 t.toInt) 1 (Nn s e 45 (s + 1)) (B * Nn s e 45 (s + 1)) i S g) ∧
  (jF (g i) = 0 ∨ jF (g i) ≤ (B + jL (g i)) * Nn s (jl (g i)) 45 (s + 1))
section L6S
variable {S0 S S' : SS} {g g' : Nat → JG} {s : Int} {i c B R sp : Nat} {Lt : List Int} {Ls : Nat → List Int}
theorem fm6_le {q : MG} : fm6 i Lt c q ≤ 1 := by
  unfold fm6
  split
  · exact Nat.le_refl _
  · exact Nat.zero_le _
theorem Nn_cat {jl e t : Int} (h1 : s < jl) (h2 : jl + 45 ≤ t) (h3 : t ≤ e) : Nn s jl 45 (s + 1) + Nn s e 45 t ≤ Nn s e 45 (s + 1) := by
  unfold Nn
  rw [show max (s + 1) (s + 1) = s + 1 from by omega, show max t (s + 1) = t from by omega]
  omega
/-- time goes on, or the ghosts change -/
theorem JE_same {fo : MG → Nat} (hE : JE s fo S S' g g') : g' = g ∨ (now S').toInt = (now S).toInt := by
  rcases hE with ⟨e, -⟩ | ⟨e, -⟩ | ⟨k, m, hk, hm, -, hl, -, b, -⟩ | ⟨j, -, -, -, -, rfl, -⟩ | ⟨j, -, -, -, -, -, b, -⟩
  · exact Or.inl e
  · exact Or.inl e
  · obtain ⟨-, -, x, -⟩ := b
    have : now S' = now S := x.2.2.1
    exact Or.inr (by rw [this])
  · exact Or.inr rfl
  · obtain ⟨nw, -, -, -, -, -, b6, -⟩ := b
    have : now S' = now S := b6 8 (Or.inl rfl)
    exact Or.inr (by rw [this])
theorem rl6_zero (hI : Inv S) (hd : due S i = true) (h3 : s_nd S i 3 ≠ 0) (hw : 0 ≤ way S0 i) (h : rl6 S0 S i Lt) : ∀ q ∈ s_ms S, ¬ (q.2.1 = i ∧ q.1 ≤ 3 ∧ (q.1 = 0 ∨ tmJ q ∉ Lt)) := by
  intro q hq hx
  obtain ⟨d1, d2, d3, d4⟩ := due_b hd
  have hn : (now S).toInt ≤ tmJ q := (hI.2.2.2.2.1 q hq).2.2.2.2.1
  rcases h with h | h | h
  · rw [h] at d3
    exact absurd d3 (by decide)
  · exact h3 h
  · obtain ⟨a, b⟩ := h q hq hx.1
    by_cases k0 : q.1 = 0
    · have := a k0
      omega
    · have nl : tmJ q ∉ Lt := by
        rcases hx.2.2 with z | z
        · exact absurd z k0
        · exact z
      have := b (by omega) nl
      omega
theorem rl6_step (hc : CST S0 S) (hc' : CST S0 S') (hI : Inv S) (h6 : 2 * way S0 i < wayR S0 i) (hw : 0 ≤ way S0 i) (h5 : (s_nd S0 i 5).toInt ∈ Ls i) (hN : cLt S0 i (Ls i) S)
    (hE : JE s (foL Ls) S S' g g') (hR : jf (g i) = 0 → rl6 S0 S i (Ls i)) : jf (g' i) = 0 → rl6 S0 S' i (Ls i) := by
  have e3 : s_nd S' i 3 = s_nd S i 3 := (hc'.ki (by decide)).trans (hc.ki (by decide)).symm
  have e1 : s_nd S i 1 = s_nd S0 i 1 := hc.ki (by decide)
  have e5 : s_nd S i 5 = s_nd S0 i 5 := hc.ki (by decide)
  have e7 : s_cf S 7 = s_cf S0 7 := by rw [hc.1]
  -- nothing new for this node, its timer stays
  have stay : s_nd S' i 8 = s_nd S i 8 → g' i = g i ∨ jf (g' i) = jf (g i) → (∀ m ∈ s_ms S', m.2.1 = i → m ∈ s_ms S ∨ (m.1 ≠ 0 ∧ m.1 ≠ 1 ∧ m.1 ≠ 2 ∧ m.1 ≠ 3)) → jf (g' i) = 0 → rl6 S0 S' i (Ls i) := fun h8 hg hm hf => by
    have hf0 : jf (g i) = 0 := by
      rcases hg with q | q
      · rw [← q]; exact hf
      · omega
    rcases hR hf0 with z | z | z
    · exact Or.inl (h8.trans z)
    · exact Or.inr (Or.inl (e3.trans z))
    · refine Or.inr (Or.inr fun m h1 h2 => ?_)
      rw [h8]
      rcases hm m h1 h2 with q | q
      · exact z m q h2
      · exact ⟨fun k => absurd k q.1, fun k => by omega⟩
  -- the timer is set by a retry
  have set : ∀ x : Int32, (now S).toInt + wayR S0 i ≤ x.toInt → s_nd S' i 8 = x → (∀ m ∈ s_ms S', m.2.1 = i → m ∈ s_ms S ∨ (m.1 = 0 ∧ tmJ m ≤ (now S).toInt + way S0 i)) → rl6 S0 S' i (Ls i) := fun x hx h8 hm => by
    refine Or.inr (Or.inr fun m h1 h2 => ?_)
    rw [h8]
    rcases hm m h1 h2 with q | q
    · obtain ⟨t0, t1, t2, t3⟩ := hN m q h2
      refine ⟨fun k => by have := (t0 k).2; omega, fun k nl => ?_⟩
      rcases k with k | k | k
      · rcases t1 k with z | z
        · have := z.2
          omega
        · exact absurd z nl
      · rcases t2 k with z | z
        · omega
        · exact absurd z nl
      · have := t3 k
        omega
    · exact ⟨fun _ => by have := q.2; omega, fun k => by omega⟩
  have rt : i < s_n S → (now S).toInt + wayR S0 i ≤ (mx (now S + 1) (ndRe S i (ndAt S i (now S) + s_cf S 6))).toInt := fun hi => by
    have := retry_ge hI hi
    rw [wayR_cs hc] at this
    exact this
  rcases hE with ⟨e, b | b⟩ | ⟨e, -, t, rfl, -⟩ | ⟨k, m, hk, hm, hs0, hl, -, b, b2⟩ | ⟨j, hj, hs, hd, -, rfl, e⟩ | ⟨j, hj, hs, hd, -, -, b, e⟩
  · exact stay (b.2.2.2.2.2.2.2 i 8 (by decide)) (Or.inl (by rw [e])) (fun m h1 h2 => Or.inl (by rw [← b.2.2.1]; exact h1))
  · obtain ⟨nw, c1, c2, -, c4, -⟩ := b
    refine stay (by rw [c4.2.2]) (Or.inl (by rw [e])) (fun m h1 h2 => ?_)
    rw [c1] at h1
    rcases List.mem_append.mp h1 with q | q
    · exact Or.inl q
    · have := c2 m q
      exact Or.inr ⟨by omega, by omega, by omega, by omega⟩
  · exact stay (pass_nd (by decide)) (Or.inl (by rw [e])) (fun m h1 h2 => Or.inl (by
      have em : s_ms (pass S t) = s_ms S := congrArg (fun q => q.1) (pass_l (S := S) (t := t))
      rw [← em]
      exact h1))
  · obtain ⟨nw, c1, c2, c3, -, c5, -⟩ := b
    have hmem : m ∈ s_ms S := List.mem_of_getElem? hk
    have hmi : m.2.1 < s_n S := (hI.2.2.2.2.1 m hmem).1.2.1
    rcases b2 with ⟨d1, d2⟩ | ⟨d0, -, -, d2⟩
    · have et : s_nd S' i 8 = s_nd S i 8 := by
        by_cases ci : i = m.2.1
        · rw [ci]
          exact d1
        · exact c5 i ci
      have eg : jf (g' i) = jf (g i) := by
        rcases d2 with ⟨-, e⟩ | ⟨-, e⟩
        · rw [e]
          by_cases ci : i = m.2.1
          · rw [ci, fu_eq]; rfl
          · rw [fu_ne ci]
        · rw [e]
      intro hf
      have hf0 : jf (g i) = 0 := by omega
      rcases hR hf0 with z | z | z
      · exact Or.inl (et.trans z)
      · exact Or.inr (Or.inl (e3.trans z))
      · by_cases z3 : s_nd S i 3 = 0
        · exact Or.inr (Or.inl (e3.trans z3))
        refine Or.inr (Or.inr fun x h1 h2 => ?_)
        rw [et]
        rw [c1] at h1
        rcases List.mem_append.mp h1 with q | q
        · exact z x (List.mem_of_mem_eraseIdx q) h2
        · rcases c3 with rfl | ⟨q', rfl, hN'⟩
          · cases q
          · have ex := List.mem_singleton.mp q
            subst ex
            refine ⟨fun k0 => absurd k0 hN'.k0, fun k nl => ?_⟩
            obtain ⟨n0, h⟩ := hN'
            have mi : m.2.1 = i := by rw [← n0]; exact h2
            rw [mi] at h
            rcases h with h | h | h | h
            · obtain ⟨a1, a2, a3, a4, a5⟩ := h
              have := (z m hmem mi).1 a1
              rw [e1, e7] at a5
              unfold way at this
              omega
            · obtain ⟨a1, a2, -, a4, -⟩ := h
              rw [e5] at a4
              rw [a4] at nl
              exact absurd h5 nl
            · exact absurd h.2.2.1 z3
            · omega
    · by_cases ci : i = m.2.1
      · subst ci
        rcases d2 with ⟨k1, t1, e⟩ | ⟨k2, t2, e⟩
        · intro hf
          exfalso
          have : jf (g' m.2.1) = foL Ls m := by rw [e, fu_eq]; rfl
          rcases foL_12 (Ls := Ls) (m := m) with q | q <;> omega
        · intro _
          exact set _ (rt hmi) t2 (fun x h1 h2 => Or.inl (by rw [d0] at h1; exact List.mem_of_mem_eraseIdx h1))
      · refine stay (c5 i ci) (Or.inl ?_) (fun x h1 h2 => Or.inl (by rw [d0] at h1; exact List.mem_of_mem_eraseIdx h1))
        rcases d2 with ⟨k1, t1, e⟩ | ⟨k2, t2, e⟩
        · rw [e, fu_ne ci]
        · rw [e, fu_ne ci]
  · by_cases ci : i = j
    · subst ci
      exact fun _ => Or.inl nd_at
    · exact stay (nd_ne (Or.inl (Ne.symm ci))) (Or.inl (by rw [e, fu_ne ci])) (fun m h1 h2 => Or.inl h1)
  · obtain ⟨nw, c1, c2, -, -, -, -, c6, c7, -⟩ := b
    by_cases ci : i = j
    · subst ci
      intro _
      refine set _ (rt hj) c7 (fun x h1 h2 => ?_)
      rw [c1] at h1
      rcases List.mem_append.mp h1 with q | q
      · exact Or.inl q
      · rcases c2 with rfl | ⟨q', rfl, q1, q2, q3, q4, q5⟩
        · cases q
        · have ex := List.mem_singleton.mp q
          subst ex
          rw [e1, e7] at q5
          exact Or.inr ⟨q1, by unfold way; omega⟩
    · refine stay (c6 i 8 (Or.inl ci)) (Or.inl (by rw [e, fu_ne ci])) (fun x h1 h2 => ?_)
      rw [c1] at h1
      rcases List.mem_append.mp h1 with q | q
      · exact Or.inl q
      · exfalso
        rcases c2 with rfl | ⟨q', rfl, q1, q2, -⟩
        · cases q
        · have ex := List.mem_singleton.mp q
          subst ex
          exact ci (h2.symm.trans q2)
theorem c6_step (hc : CST S0 S) (hc' : CST S0 S') (hI : Inv S) (h6 : 2 * way S0 i < wayR S0 i) (hw : 0 ≤ way S0 i) (hp : 45 ≤ wayP S0 i) (hr : 45 ≤ wayR S0 i) (h5 : (s_nd S0 i 5).toInt ∈ Ls i) (hN : cLt S0 i (Ls i) S) (hcc : 1 ≤ c ∧ c ≤ 3) (hcl : c ≤ 2 ∨ ∀ t : Int, s < t → t ∉ Ls i) (hB : 1 ≤ B)
    (hA : cA s (wayR S0 i) sp i S g) (hjl : jF (g i) ≠ 0 → s < jl (g i)) (hE : JE s (foL Ls) S S' g g') (hC : c6 S0 s i (Ls i) c B S g) : c6 S0 s i (Ls i) c B S' g' := by
  obtain ⟨C1, C2, C3, C4⟩ := hC
  have hn := JE_now hE
  have e5 : s_nd S i 5 = s_nd S0 i 5 := hc.ki (by decide)
  have K3 : ∀ e : Int, (now S').toInt ≤ e → cVt (fmB6 S0 i s e (Ls i)) (fun t => Nn s e 45 t.toInt) 1 (Nn s e 45 (s + 1)) (B * Nn s e 45 (s + 1)) i S' g' := fun e he => by
    have hx : i < s_n S → ∀ q : MG, q.1 = 0 → q.2.1 = i → q.2.2.2.1 = ndAt S i (now S) → (now S).toInt + 45 ≤ fireT S0 q := fun hi q q1 q2 q3 => by
      have r := renew_ge hI hi
      rw [wayP_cs hc] at r
      have r2 : (ndRe S i (ndAt S i (now S) + s_cf S 5)).toInt = xT S0 q := by
        rw [xT_cs hc]
        unfold xT
        rw [q2, q3]
      unfold fireT
      rw [if_pos q1, ← r2]
      omega
    refine cVt_step (fun q hq => ?_) (fun m q hm ht hs0 hn => ?_) (fun m hm m1 m2 ht hf => ?_) (fun hi hs hd q q1 q2 q3 q4 => ?_) (fun hi hs hd => ?_) (fun hi hs hd h3 hf => ?_) hE (C3 e (by omega))
    · unfold fmB6
      rw [if_neg (by omega)]
    · unfold fmB6
      by_cases cc : q.2.1 = i ∧ (q.1 = 0 ∨ (q.1 = 1 ∧ tmJ q ∉ Ls i))
      · obtain ⟨a, b, d⟩ := fireT_new hc ht hn (by omega)
        rw [if_pos cc, if_pos]
        · exact Nn_mono d
        · refine ⟨by rw [← b]; exact cc.1, ?_⟩
          rcases a with a | a
          · exact Or.inl a
          · exfalso
            obtain ⟨n0, h⟩ := hn
            have mi : m.2.1 = i := by rw [← n0]; exact cc.1
            rw [mi] at h
            rcases h with h | h | h | h
            · omega
            · obtain ⟨a1, a2, -, a4, -⟩ := h
              rw [e5] at a4
              rcases cc.2 with z | z
              · omega
              · rw [a4] at z
                exact z.2 h5
            · omega
            · omega
      · rw [if_neg cc]
        exact Nat.zero_le _
    · unfold fmB6
      rw [if_pos]
      · refine Nn_mono ?_
        unfold fireT
        rw [if_neg (by omega), xT_cs hc, mx_i, now1 hI]
        unfold xT
        rw [m2]
        omega
      · refine ⟨m2, Or.inr ⟨m1, ?_⟩⟩
        unfold foL at hf
        rw [m2] at hf
        by_cases z : tmJ m ∈ Ls i
        · rw [if_pos z] at hf
          cases hf
        · exact z
    · obtain ⟨d1, d2, d3, d4⟩ := due_b hd
      have ee : fmB6 S0 i s e (Ls i) q = Nn s e 45 (fireT S0 q) := if_pos ⟨q2, Or.inl q1⟩
      have k := Nn_step (s := s) (e := e) (p := 45) (by decide) hs (by omega) (hx hi q q1 q2 q3)
      have k2 : Nn s e 45 (now S).toInt ≤ Nn s e 45 (s_nd S i 8).toInt := Nn_mono d4
      have k3 : Nn s e 45 (now S).toInt ≤ Nn s e 45 (s + 1) := Nn_mono (by omega)
      rw [ee]
      exact ⟨Nat.le_trans k k2, Nat.le_trans k k3⟩
    · obtain ⟨d1, d2, d3, d4⟩ := due_b hd
      have k := Nn_one (s := s) (e := e) (p := 45) hs (by omega)
      exact ⟨Nat.le_trans k (Nn_mono d4), Nat.le_trans k (Nn_mono (by omega))⟩
    · obtain ⟨d1, d2, d3, d4⟩ := due_b hd
      have z := rl6_zero hI hd h3 hw (C2 hf)
      have zs : ((s_ms S).map (fmB6 S0 i s e (Ls i))).sum = 0 := zero_sum (fun q hq => if_neg (fun cc => z q hq ⟨cc.1, by omega, by
        rcases cc.2 with y | y
        · exact Or.inl y
        · exact Or.inr y.2⟩))
      have k1 := Nn_one (s := s) (e := e) (p := 45) hs (by omega)
      have key : jF (g i) + Nn s e 45 (now S).toInt ≤ B * Nn s e 45 (s + 1) + Nn s e 45 (s + 1) * jL (g i) := by
        have m1 : 1 * Nn s e 45 (s + 1) ≤ B * Nn s e 45 (s + 1) := Nat.mul_le_mul_right _ hB
        have k3 : Nn s e 45 (now S).toInt ≤ Nn s e 45 (s + 1) := Nn_mono (by omega)
        by_cases f0 : jF (g i) = 0
        · rw [f0]
          omega
        · have f1 : jF (g i) ≤ (B + jL (g i)) * Nn s (jl (g i)) 45 (s + 1) := by
            rcases C4 with y | y
            · exact absurd y f0
            · exact y
          have t1 : jl (g i) + (wayR S0 i : Int) ≤ (s_nd S i 8).toInt := by
            rcases (hA.2 f0).2 with y | y
            · rw [y] at d3
              exact absurd d3 (by decide)
            · rw [hf] at y
              exact y
          have cat := Nn_cat (s := s) (jl := jl (g i)) (e := e) (t := (now S).toInt) (hjl f0) (by omega) (by omega)
          have m2 := Nat.mul_le_mul_left (B + jL (g i)) cat
          rw [Nat.mul_add] at m2
          have m3 : 1 * Nn s e 45 (now S).toInt ≤ (B + jL (g i)) * Nn s e 45 (now S).toInt := Nat.mul_le_mul_right _ (by omega)
          rw [Nat.add_mul B (jL (g i)) (Nn s e 45 (s + 1)), Nat.mul_comm (jL (g i)) (Nn s e 45 (s + 1))] at m2
          omega
      rw [zs, Nat.one_mul]
      refine ⟨by omega, fun q q1 q2 q3 q4 => ?_⟩
      have ee : fmB6 S0 i s e (Ls i) q = Nn s e 45 (fireT S0 q) := if_pos ⟨q2, Or.inl q1⟩
      have k := Nn_step (s := s) (e := e) (p := 45) (by decide) hs (by omega) (hx hi q q1 q2 q3)
      rw [ee]
      omega
  refine ⟨?_, rl6_step hc hc' hI h6 hw h5 hN hE C2, K3, ?_⟩
  · refine cVt_step (fun q hq => ?_) (fun m q hm ht hs0 hn => ?_) (fun m hm m1 m2 ht hf => ?_) (fun hi hs hd q q1 q2 q3 q4 => ?_) (fun hi hs hd => ?_) (fun hi hs hd h3 hf => ?_) hE C1
    · unfold fm6
      rw [if_neg (by omega)]
    · unfold fm6
      by_cases cc : q.2.1 = i ∧ q.1 ≤ c ∧ (q.1 = 0 ∨ tmJ q ∉ Ls i)
      · rw [if_pos cc, if_pos]
        · exact Nat.le_refl _
        · have k0 := hn.k0
          obtain ⟨n0, h⟩ := hn
          have mi : m.2.1 = i := by rw [← n0]; exact cc.1
          rw [mi] at h
          rcases h with h | h | h | h
          · exact ⟨mi, by omega, Or.inl h.1⟩
          · exfalso
            obtain ⟨a1, a2, -, a4, -⟩ := h
            rw [e5] at a4
            rcases cc.2.2 with z | z
            · exact k0 z
            · rw [a4] at z
              exact z h5
          · refine ⟨mi, by omega, Or.inr ?_⟩
            rcases hcl with z | z
            · omega
            · rw [ht]
              exact z _ hs0
          · omega
      · rw [if_neg cc]
        exact Nat.zero_le _
    · unfold fm6
      rw [if_pos]
      · exact Nat.le_refl _
      · refine ⟨m2, by omega, Or.inr ?_⟩
        unfold foL at hf
        rw [m2] at hf
        by_cases z : tmJ m ∈ Ls i
        · rw [if_pos z] at hf
          cases hf
        · exact z
    · have := fm6_le (i := i) (Lt := Ls i) (c := c) (q := q)
      omega
    · omega
    · have z := rl6_zero hI hd h3 hw (C2 hf)
      have zs : ((s_ms S).map (fm6 i (Ls i) c)).sum = 0 := zero_sum (fun q hq => if_neg (fun cc => z q hq ⟨cc.1, by omega, cc.2.2⟩))
      rw [zs]
      refine ⟨by omega, fun q q1 q2 q3 q4 => ?_⟩
      have := fm6_le (i := i) (Lt := Ls i) (c := c) (q := q)
      omega
  · rcases hE.tv (i := i) with ⟨-, h | h⟩ | ⟨-, m, -, -, -, -, -, h⟩ | ⟨-, -, h⟩ | ⟨-, h⟩ | ⟨-, hs', hd, -, h⟩
    · rw [h]; exact C4
    · rw [h]; exact C4
    · rw [h]; exact C4
    · rw [h]; exact C4
    · rw [h]; exact C4
    · right
      have en : jl (g' i) = (now S).toInt := by rw [h]; rfl
      have nn : (now S').toInt = (now S).toInt := by
        rcases JE_same hE with q | q
        · exfalso
          have f : jF (g' i) = jF (g i) + 1 := by rw [h]; exact jF_fire
          rw [q] at f
          omega
        · exact q
      have k := K3 (now S).toInt (by omega)
      unfold cVt at k
      rw [en, Nat.add_mul, Nat.mul_comm (jL (g' i))]
      omega
end L6S
