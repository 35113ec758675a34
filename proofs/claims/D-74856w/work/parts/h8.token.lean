/-! ROOM: tokens: what the messages and the timer of a node are still worth -/
set_option maxRecDepth 100000
theorem er_sum {f : MG → Nat} {m : MG} : ∀ {l : List MG} {k : Nat}, l[k]? = some m → ((l.eraseIdx k).map f).sum + f m = (l.map f).sum
  | [], k, h => by simp at h
  | x :: l, 0, h => by
    have : x = m := by simpa using h
    subst this
    rw [List.eraseIdx_cons_zero, List.map_cons, List.sum_cons]
    omega
  | x :: l, k + 1, h => by
    have := er_sum (f := f) (l := l) (k := k) (by simpa using h)
    rw [List.eraseIdx_cons_succ, List.map_cons, List.sum_cons, List.map_cons, List.sum_cons]
    omega
theorem app_sum {f : MG → Nat} {l l' : List MG} : ((l ++ l').map f).sum = (l.map f).sum + (l'.map f).sum := by
  rw [List.map_append, List.sum_append]
theorem zero_sum {f : MG → Nat} : ∀ {l : List MG}, (∀ q ∈ l, f q = 0) → (l.map f).sum = 0
  | [], _ => rfl
  | x :: l, h => by
    rw [List.map_cons, List.sum_cons, h x (by simp), zero_sum (fun q hq => h q (by simp [hq]))]
/-- the worth of a G-timer -/
def tW (ft : Int32 → Nat) (S : SS) (r : JG) (i : Nat) : Nat := if jf r ≠ 0 ∧ s_nd S i 8 ≠ -4 then ft (s_nd S i 8) else 0
/-- a a fire, the messages' worth and the timer's worth come to B at most, and b for each R-fire -/
def cW (fm : MG → Nat) (ft : Int32 → Nat) (a b B i : Nat) (S : SS) (g : Nat → JG) : Prop := a * jF (g i) + ((s_ms S).map fm).sum + tW ft S (g i) i ≤ B + b * jR (g i)
section CWS
variable {S S' : SS} {fo : MG → Nat} {g g' : Nat → JG} {s : Int} {i a b B : Nat} {fm : MG → Nat} {ft : Int32 → Nat}
theorem tW_same (h : s_nd S' i 8 = s_nd S i 8) {r r' : JG} (hr : jf r' = jf r) : tW ft S' r' i = tW ft S r i := by
  unfold tW
  rw [h, hr]
theorem tW_zero {r : JG} (h : jf r = 0) : tW ft S r i = 0 := if_neg (fun hx => hx.1 h)
theorem tW_le {r : JG} : tW ft S r i ≤ ft (s_nd S i 8) := by
  unfold tW
  split
  · exact Nat.le_refl _
  · exact Nat.zero_le _
theorem cW_step (h4 : ∀ q : MG, q.1 = 4 ∨ q.2.1 ≠ i → fm q = 0) (h2 : ∀ m q : MG, m ∈ s_ms S → tmJ m = (now S).toInt → NEWM S m q → fm q ≤ fm m)
    (h1 : ∀ m : MG, m ∈ s_ms S → m.1 = 1 → m.2.1 = i → tmJ m = (now S).toInt → ft (mx (now S + 1) (ndRe S i (m.2.2.2.1 + s_cf S 5))) ≤ fm m)
    (h3 : i < s_n S → s < (now S).toInt → due S i = true → ∀ q : MG, q.1 = 0 → q.2.1 = i → q.2.2.2.1 = ndAt S i (now S) → (now S).toInt + (s_nd S i 1).toInt ≤ tmJ q → a + fm q ≤ ft (s_nd S i 8) ∧ a + fm q ≤ b)
    (h0 : i < s_n S → s < (now S).toInt → due S i = true → a ≤ ft (s_nd S i 8) ∧ a ≤ b)
    (hE : JE s fo S S' g g') (hC : cW fm ft a b B i S g) : cW fm ft a b B i S' g' := by
  unfold cW at hC ⊢
  rcases hE with ⟨e, c | c⟩ | ⟨e, -, t, rfl, -⟩ | ⟨k, m, hk, hm, -, hl, -, c, d⟩ | ⟨j, hj, hs, hd, -, rfl, e⟩ | ⟨j, hj, hs, hd, -, -, c, e⟩
  · rw [e, c.2.2.1, tW_same (c.2.2.2.2.2.2.2 i 8 (by decide)) rfl]
    exact hC
  · obtain ⟨nw, c1, c2, -, c4, -⟩ := c
    have ew : tW ft S' (g i) i = tW ft S (g i) i := tW_same (by rw [c4.2.2]) rfl
    rw [e, c1, app_sum, zero_sum (fun q hq => h4 q (Or.inl (c2 q hq))), ew, Nat.add_zero]
    exact hC
  · have em : s_ms (pass S t) = s_ms S := congrArg (fun q => q.1) (pass_l (S := S) (t := t))
    rw [e, em, tW_same (pass_nd (by decide)) rfl]
    exact hC
  · obtain ⟨nw, c1, c2, c3, -, c5, -⟩ := c
    have hmem : m ∈ s_ms S := List.mem_of_getElem? hk
    have es := er_sum (f := fm) hk
    have en : (nw.map fm).sum ≤ fm m := by
      rcases c3 with rfl | ⟨q, rfl, hq⟩
      · exact Nat.zero_le _
      · rw [sum1]
        exact h2 m q hmem hm hq
    rcases d with ⟨d1, d2⟩ | ⟨d0, -, -, d2⟩
    · -- the timers stay
      have et : s_nd S' i 8 = s_nd S i 8 := by
        by_cases ci : i = m.2.1
        · rw [ci]
          exact d1
        · exact c5 i ci
      have eg : jF (g' i) = jF (g i) ∧ jR (g' i) = jR (g i) ∧ jf (g' i) = jf (g i) := by
        rcases d2 with ⟨-, e⟩ | ⟨-, e⟩
        · rw [e]
          by_cases ci : i = m.2.1
          · rw [ci, fu_eq]
            exact ⟨rfl, rfl, rfl⟩
          · rw [fu_ne ci]
            exact ⟨rfl, rfl, rfl⟩
        · rw [e]
          exact ⟨rfl, rfl, rfl⟩
      rw [eg.1, eg.2.1, c1, app_sum, tW_same et eg.2.2]
      omega
    · rw [d0]
      by_cases ci : i = m.2.1
      · subst ci
        rcases d2 with ⟨k1, t1, e⟩ | ⟨k2, t2, e⟩
        · have f1 := h1 m hmem k1 rfl hm
          have f2 := tW_le (ft := ft) (S := S') (r := g' m.2.1) (i := m.2.1)
          rw [t1] at f2
          have e1 : jF (g' m.2.1) = jF (g m.2.1) := by rw [e, fu_eq]; rfl
          have e2 : jR (g' m.2.1) = jR (g m.2.1) := by rw [e, fu_eq]; rfl
          rw [e1, e2]
          omega
        · have e1 : jF (g' m.2.1) = jF (g m.2.1) := by rw [e, fu_eq]; rfl
          have e2 : jR (g' m.2.1) = jR (g m.2.1) := by rw [e, fu_eq]; rfl
          have e3 : jf (g' m.2.1) = 0 := by rw [e, fu_eq]; rfl
          rw [e1, e2, tW_zero e3]
          omega
      · have eg : g' i = g i := by
          rcases d2 with ⟨k1, t1, e⟩ | ⟨k2, t2, e⟩
          · rw [e, fu_ne ci]
          · rw [e, fu_ne ci]
        rw [eg, tW_same (c5 i ci) rfl]
        omega
  · by_cases ci : i = j
    · subst ci
      have e1 : jF (g' i) = jF (g i) := by rw [e, fu_eq]; rfl
      have e2 : jR (g' i) = jR (g i) := by rw [e, fu_eq]; rfl
      have e3 : jf (g' i) = 0 := by rw [e, fu_eq]; rfl
      rw [e1, e2, tW_zero e3]
      show a * jF (g i) + ((s_ms S).map fm).sum + 0 ≤ _
      omega
    · rw [e, fu_ne ci, tW_same (nd_ne (Or.inl (Ne.symm ci))) rfl]
      exact hC
  · obtain ⟨nw, c1, c2, -, -, -, -, c6, -⟩ := c
    by_cases ci : i = j
    · subst ci
      have e1 : jF (g' i) = jF (g i) + 1 := by rw [e, fu_eq]; exact jF_fire
      have e2 : jR (g' i) = jR (g i) + (if jf (g i) = 0 then 1 else 0) := by rw [e, fu_eq]; rfl
      have e3 : jf (g' i) = 0 := by rw [e, fu_eq]; rfl
      have en : a + (nw.map fm).sum ≤ ft (s_nd S i 8) ∧ a + (nw.map fm).sum ≤ b := by
        rcases c2 with rfl | ⟨q, rfl, q1, q2, q3, q4, -⟩
        · exact h0 hj hs hd
        · rw [sum1]
          exact h3 hj hs hd q q1 q2 q3 q4
      rw [e1, e2, c1, app_sum, tW_zero e3, Nat.mul_add a, Nat.mul_one]
      by_cases z : jf (g i) = 0
      · rw [if_pos z, Nat.mul_add b, Nat.mul_one]
        have := en.2
        omega
      · rw [if_neg z, Nat.add_zero, Nat.add_zero]
        have d3 := (due_b hd).2.2.1
        have ht : s_nd S i 8 ≠ -4 := fun hx => by
          rw [hx] at d3
          exact absurd d3 (by decide)
        have e4 : tW ft S (g i) i = ft (s_nd S i 8) := if_pos ⟨z, ht⟩
        rw [e4] at hC
        have := en.1
        omega
    · have en : (nw.map fm).sum = 0 := by
        rcases c2 with rfl | ⟨q, rfl, q1, q2, -⟩
        · rfl
        · rw [sum1]
          exact h4 q (Or.inr (by rw [q2]; exact Ne.symm ci))
      rw [e, fu_ne ci, c1, app_sum, en, tW_same (c6 i 8 (Or.inl ci)) rfl]
      exact hC
end CWS
