/-! ROOM: tokens and releases of a node; arrivals are no more than fires and ACQUIREs on the way; other messages -/
set_option maxRecDepth 100000
/-- messages of a node: ACQUIRE, GRANT, DENY, RELEASE -/
def fmM (i : Nat) (q : MG) : Nat := if q.2.1 = i ∧ q.1 ≤ 3 then 1 else 0
def fmI (i : Nat) (q : MG) : Nat := if q.2.1 = i ∧ q.1 = 0 then 1 else 0
def fmO (q : MG) : Nat := if q.1 ≤ 3 then 0 else 1
def mN (S : SS) (i : Nat) : Nat := ((s_ms S).map (fmM i)).sum
def aqN (S : SS) (i : Nat) : Nat := ((s_ms S).map (fmI i)).sum
def oN (S : SS) : Nat := ((s_ms S).map fmO).sum + (s_dl S).length
def cAI (I0 i : Nat) (S : SS) (g : Nat → JG) : Prop := jA (g i) + aqN S i ≤ I0 + jF (g i)
section HJS
variable {S0 S S' : SS} {fo : MG → Nat} {g g' : Nat → JG} {s : Int} {i B I0 : Nat}
theorem fmM_le {q : MG} : fmM i q ≤ 1 := by
  unfold fmM
  split
  · exact Nat.le_refl _
  · exact Nat.zero_le _
theorem fmI_le {q : MG} : fmI i q ≤ fmM i q := by
  unfold fmM fmI
  by_cases c : q.2.1 = i ∧ q.1 = 0
  · rw [if_pos c, if_pos ⟨c.1, by omega⟩]
    exact Nat.le_refl _
  · rw [if_neg c]
    exact Nat.zero_le _
theorem fmK_le {q : MG} : fmK i q ≤ fmM i q := by
  unfold fmM fmK
  by_cases c : q.2.1 = i ∧ (q.1 = 0 ∨ q.1 = 1)
  · rw [if_pos c, if_pos ⟨c.1, by omega⟩]
    exact Nat.le_refl _
  · rw [if_neg c]
    exact Nat.zero_le _
theorem NEWM.fm {m q : MG} (h : NEWM S m q) : fmM i q ≤ fmM i m := by
  unfold fmM
  by_cases c : q.2.1 = i ∧ q.1 ≤ 3
  · rw [if_pos c, if_pos]
    · exact Nat.le_refl _
    · obtain ⟨h0, h | h | h | h⟩ := h
      · exact ⟨by rw [← h0]; exact c.1, by omega⟩
      · exact ⟨by rw [← h0]; exact c.1, by omega⟩
      · exact ⟨by rw [← h0]; exact c.1, by omega⟩
      · omega
  · rw [if_neg c]
    exact Nat.zero_le _
theorem cK3_step (hE : JE s fo S S' g g') (hC : cW (fmM i) (fun _ => 1) 0 1 B i S g) : cW (fmM i) (fun _ => 1) 0 1 B i S' g' := by
  refine cW_step (fun q hq => ?_) (fun m q hm ht hn => hn.fm) (fun m hm m1 m2 ht => ?_) (fun hi hs hd q q1 q2 q3 q4 => ?_) (fun hi hs hd => ?_) hE hC
  · unfold fmM
    rw [if_neg (by omega)]
  · unfold fmM
    rw [if_pos ⟨m2, by omega⟩]
    exact Nat.le_refl _
  · have := fmM_le (i := i) (q := q)
    omega
  · omega
/-- the ghosts' counts, but for fires and arrivals -/
theorem jA_flag {r : JG} {x : Nat} : jA (jFlag r x) = jA r := rfl
theorem cAI_step (hE : JE s fo S S' g g') (hC : cAI I0 i S g) : cAI I0 i S' g' := by
  unfold cAI aqN at hC ⊢
  have f0 : ∀ q : MG, q.1 ≠ 0 → fmI i q = 0 := fun q h => if_neg (fun c => h c.2)
  have f1 : ∀ q : MG, q.2.1 ≠ i → fmI i q = 0 := fun q h => if_neg (fun c => h c.1)
  rcases hE with ⟨e, c | c⟩ | ⟨e, -, t, rfl, -⟩ | ⟨k, m, hk, hm, -, hl, -, c, d⟩ | ⟨j, hj, hs, hd, -, rfl, e⟩ | ⟨j, hj, hs, hd, -, -, c, e⟩
  · rw [e, c.2.2.1]
    exact hC
  · obtain ⟨nw, c1, c2, -⟩ := c
    rw [e, c1, app_sum, zero_sum (l := nw) (fun q hq => f0 q (by rw [c2 q hq]; decide)), Nat.add_zero]
    exact hC
  · have em : s_ms (pass S t) = s_ms S := congrArg (fun q => q.1) (pass_l (S := S) (t := t))
    rw [e, em]
    exact hC
  · obtain ⟨nw, c1, c2, c3, -⟩ := c
    have es := er_sum (f := fmI i) hk
    have en : (nw.map (fmI i)).sum = 0 := zero_sum (fun q hq => by
      rcases c3 with rfl | ⟨q', rfl, hN⟩
      · cases hq
      · rw [List.mem_singleton.mp hq]
        exact f0 _ hN.k0)
    have key : jF (g' i) = jF (g i) ∧ jA (g' i) ≤ jA (g i) + fmI i m := by
      have fl : ∀ r : JG, jF r = jF (g m.2.1) → jA r = jA (g m.2.1) → g' = fu g m.2.1 r → jF (g' i) = jF (g i) ∧ jA (g' i) ≤ jA (g i) + fmI i m := fun r r1 r2 e => by
        rw [e]
        by_cases ci : i = m.2.1
        · subst ci
          rw [fu_eq, r1, r2]
          exact ⟨rfl, Nat.le_add_right _ _⟩
        · rw [fu_ne ci]
          exact ⟨rfl, Nat.le_add_right _ _⟩
      rcases d with ⟨-, ⟨k0, e⟩ | ⟨k0, e⟩⟩ | ⟨-, -, -, ⟨k0, -, e⟩ | ⟨k0, -, e⟩⟩
      · rw [e]
        by_cases ci : i = m.2.1
        · subst ci
          rw [fu_eq, show fmI m.2.1 m = 1 from if_pos ⟨rfl, k0⟩]
          exact ⟨rfl, Nat.le_refl _⟩
        · rw [fu_ne ci]
          exact ⟨rfl, Nat.le_add_right _ _⟩
      · rw [e]
        exact ⟨rfl, Nat.le_add_right _ _⟩
      · exact fl (jFlag (g m.2.1) (fo m)) rfl rfl e
      · exact fl (jFlag (g m.2.1) 0) rfl rfl e
    rw [c1, app_sum, en]
    omega
  · have key : jF (g' i) = jF (g i) ∧ jA (g' i) = jA (g i) := by
      rw [e]
      by_cases ci : i = j
      · subst ci
        rw [fu_eq]
        exact ⟨rfl, rfl⟩
      · rw [fu_ne ci]
        exact ⟨rfl, rfl⟩
    rw [key.1, key.2]
    exact hC
  · obtain ⟨nw, c1, c2, -⟩ := c
    by_cases ci : i = j
    · subst ci
      have e1 : jF (g' i) = jF (g i) + 1 := by rw [e, fu_eq]; exact jF_fire
      have e2 : jA (g' i) = jA (g i) := by rw [e, fu_eq]; rfl
      have en : (nw.map (fmI i)).sum ≤ 1 := by
        rcases c2 with rfl | ⟨q, rfl, -⟩
        · exact Nat.zero_le _
        · rw [sum1]
          exact Nat.le_trans fmI_le fmM_le
      rw [e1, e2, c1, app_sum]
      omega
    · have en : (nw.map (fmI i)).sum = 0 := by
        rcases c2 with rfl | ⟨q, rfl, q1, q2, -⟩
        · rfl
        · rw [sum1]
          exact f1 q (by rw [q2]; exact Ne.symm ci)
      rw [e, fu_ne ci, c1, app_sum, en]
      exact hC
/-- other messages and delayed writes don't grow -/
theorem oN_step (hE : JE s fo S S' g g') : oN S' ≤ oN S := by
  unfold oN
  rcases hE with ⟨e, c | c⟩ | ⟨e, -, t, rfl, -⟩ | ⟨k, m, hk, hm, -, hl, -, c, d⟩ | ⟨j, hj, hs, hd, -, rfl, e⟩ | ⟨j, hj, hs, hd, -, -, c, e⟩
  · rw [c.2.2.1, c.2.2.2.1]
    exact Nat.le_refl _
  · obtain ⟨nw, c1, c2, c3, -⟩ := c
    have := all_sum (w := fmO) (b := 1) (l := nw) (fun q _ => by unfold fmO; split <;> omega)
    rw [c1, app_sum]
    omega
  · have em : s_ms (pass S t) = s_ms S := congrArg (fun q => q.1) (pass_l (S := S) (t := t))
    have ed : s_dl (pass S t) = s_dl S := congrArg (fun q => q.2.1) (pass_l (S := S) (t := t))
    rw [em, ed]
    exact Nat.le_refl _
  · obtain ⟨nw, c1, c2, c3, -⟩ := c
    have es := er_sum (f := fmO) hk
    have ed : s_dl S' = s_dl S := c2.2.2.2.1
    have en : (nw.map fmO).sum ≤ fmO m := by
      rcases c3 with rfl | ⟨q, rfl, hN⟩
      · exact Nat.zero_le _
      · rw [sum1]
        unfold fmO
        obtain ⟨h0, h | h | h | h⟩ := hN
        · rw [if_pos (by omega)]
          exact Nat.zero_le _
        · rw [h.2.1]
          exact Nat.le_refl _
        · rw [if_pos (by omega)]
          exact Nat.zero_le _
        · rw [if_neg (by omega), if_neg (by omega)]
          exact Nat.le_refl _
    rw [c1, app_sum, ed]
    omega
  · exact Nat.le_refl _
  · obtain ⟨nw, c1, c2, -, -, c5, -⟩ := c
    have en : (nw.map fmO).sum = 0 := zero_sum (fun q hq => by
      rcases c2 with rfl | ⟨q', rfl, q1, -⟩
      · cases hq
      · rw [List.mem_singleton.mp hq]
        unfold fmO
        rw [if_pos (by omega)])
    rw [c1, app_sum, en, c5]
    exact Nat.le_refl _
end HJS
