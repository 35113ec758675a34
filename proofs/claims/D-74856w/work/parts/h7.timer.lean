/-! ROOM: the spacing of a node's fires -/
set_option maxRecDepth 100000
/-- what an event does to the timer of node i -/
def TV (s : Int) (fo : MG → Nat) (S S' : SS) (g g' : Nat → JG) (i : Nat) : Prop :=
  (s_nd S' i 8 = s_nd S i 8 ∧ (g' i = g i ∨ g' i = jAcq (g i) (now S).toInt)) ∨
  ((∀ j : Nat, jl (g j) < (now S).toInt) ∧ ∃ m : MG, m ∈ s_ms S ∧ m.2.1 = i ∧ m.1 = 1 ∧ tmJ m = (now S).toInt ∧ s_nd S' i 8 = mx (now S + 1) (ndRe S i (m.2.2.2.1 + s_cf S 5)) ∧ g' i = jFlag (g i) (fo m)) ∨
  ((∀ j : Nat, jl (g j) < (now S).toInt) ∧ s_nd S' i 8 = mx (now S + 1) (ndRe S i (ndAt S i (now S) + s_cf S 6)) ∧ g' i = jFlag (g i) 0) ∨
  (s_nd S' i 8 = -4 ∧ g' i = jFlag (g i) 0) ∨
  (i < s_n S ∧ s < (now S).toInt ∧ due S i = true ∧ s_nd S' i 8 = mx (now S + 1) (ndRe S i (ndAt S i (now S) + s_cf S 6)) ∧ g' i = jFire (g i) (now S).toInt)
section TVS
variable {S S' : SS} {fo : MG → Nat} {g g' : Nat → JG} {i : Nat} {s : Int}
theorem JE.tv (h : JE s fo S S' g g') : TV s fo S S' g g' i := by
  rcases h with ⟨e, a | a⟩ | ⟨e, -, t, rfl, -⟩ | ⟨k, m, hk, hm, -, hl, -, a, b⟩ | ⟨j, hj, -, hd, -, rfl, e⟩ | ⟨j, hj, hs, hd, -, -, a, e⟩
  · exact Or.inl ⟨a.2.2.2.2.2.2.2 i 8 (by decide), Or.inl (by rw [e])⟩
  · obtain ⟨nw, -, -, -, a4, -⟩ := a
    exact Or.inl ⟨by rw [a4.2.2], Or.inl (by rw [e])⟩
  · exact Or.inl ⟨pass_nd (by decide), Or.inl (by rw [e])⟩
  · obtain ⟨nw, -, -, -, -, a5, -⟩ := a
    by_cases ci : i = m.2.1
    · subst ci
      rcases b with ⟨b1, ⟨-, e⟩ | ⟨-, e⟩⟩ | ⟨-, -, -, ⟨k1, t1, e⟩ | ⟨k2, t2, e⟩⟩
      · exact Or.inl ⟨b1, Or.inr (by rw [e, fu_eq])⟩
      · exact Or.inl ⟨b1, Or.inl (by rw [e])⟩
      · exact Or.inr (Or.inl ⟨hl, m, List.mem_of_getElem? hk, rfl, k1, hm, t1, by rw [e, fu_eq]⟩)
      · exact Or.inr (Or.inr (Or.inl ⟨hl, t2, by rw [e, fu_eq]⟩))
    · refine Or.inl ⟨a5 i ci, Or.inl ?_⟩
      rcases b with ⟨b1, ⟨-, e⟩ | ⟨-, e⟩⟩ | ⟨-, -, -, ⟨k1, t1, e⟩ | ⟨k2, t2, e⟩⟩
      · rw [e, fu_ne ci]
      · rw [e]
      · rw [e, fu_ne ci]
      · rw [e, fu_ne ci]
  · by_cases ci : i = j
    · subst ci
      exact Or.inr (Or.inr (Or.inr (Or.inl ⟨nd_at, by rw [e, fu_eq]⟩)))
    · exact Or.inl ⟨nd_ne (Or.inl (Ne.symm ci)), Or.inl (by rw [e, fu_ne ci])⟩
  · obtain ⟨nw, -, -, -, -, -, -, a6, a7, -⟩ := a
    by_cases ci : i = j
    · subst ci
      exact Or.inr (Or.inr (Or.inr (Or.inr ⟨hj, hs, hd, a7, by rw [e, fu_eq]⟩)))
    · exact Or.inl ⟨a6 i 8 (Or.inl ci), Or.inl (by rw [e, fu_ne ci])⟩
/-- a flag's spacing -/
def wF (R sp : Nat) (f : Nat) : Nat := if f = 0 then R else if f = 1 then sp else 2
/-- the fires of node i keep their distances (s: the run's start) -/
def cA (s : Int) (R sp : Nat) (i : Nat) (S : SS) (g : Nat → JG) : Prop :=
  s ≤ jl (g i) ∧ (jF (g i) ≠ 0 → (∃ c : Nat, ((c = sp ∧ 1 ≤ jG (g i)) ∨ (c = R ∧ 1 ≤ jR (g i)) ∨ (c = 2 ∧ 1 ≤ jL (g i))) ∧ ((sp * jG (g i) + R * jR (g i) + 2 * jL (g i) : Nat) : Int) + (s + 1) ≤ jl (g i) + c) ∧
    (s_nd S i 8 = -4 ∨ jl (g i) + wF R sp (jf (g i)) ≤ (s_nd S i 8).toInt))
theorem jF_flag {r : JG} {f : Nat} : jF (jFlag r f) = jF r := rfl
theorem jF_acq {r : JG} {t : Int} : jF (jAcq r t) = jF r := rfl
theorem jF_fire {r : JG} {t : Int} : jF (jFire r t) = jF r + 1 := by
  show (jG r + (if jf r = 1 then 1 else 0)) + (jR r + (if jf r = 0 then 1 else 0)) + (jL r + (if jf r = 0 then 0 else if jf r = 1 then 0 else 1)) = (jG r + jR r + jL r) + 1
  by_cases a : jf r = 0
  · rw [if_neg (by omega), if_pos a, if_pos a]
    omega
  · by_cases b : jf r = 1
    · rw [if_pos b, if_neg a, if_neg a, if_pos b]
      omega
    · rw [if_neg b, if_neg a, if_neg a, if_neg b]
      omega
theorem now1 (hI : Inv S) : (now S + 1).toInt = (now S).toInt + 1 := by
  have k1 : ((1 : Int32)).toInt = 1 := by decide
  have w := hI.2.2.2.1.1
  have w1 := w.1
  have w2 := w.2
  rw [i_add (by omega) (by omega), k1]
theorem cA_step {R sp : Nat} (hI : Inv S) (hR : (now S).toInt + R ≤ (mx (now S + 1) (ndRe S i (ndAt S i (now S) + s_cf S 6))).toInt)
    (hG : ∀ m : MG, m ∈ s_ms S → m.2.1 = i → m.1 = 1 → tmJ m = (now S).toInt → fo m = 1 → jl (g i) < (now S).toInt → jl (g i) + sp ≤ (mx (now S + 1) (ndRe S i (m.2.2.2.1 + s_cf S 5))).toInt)
    (hE : TV s fo S S' g g' i) (hA : cA s R sp i S g) (hfo : ∀ m : MG, fo m = 1 ∨ fo m = 2) : cA s R sp i S' g' := by
  obtain ⟨a1, a2⟩ := hA
  have n1 := now1 hI
  rcases hE with ⟨h1, h2 | h2⟩ | ⟨hl, m, m1, m2, m3, m4, h1, h2⟩ | ⟨hl, h1, h2⟩ | ⟨h1, h2⟩ | ⟨hi, hs', hd, h1, h2⟩
  · unfold cA
    rw [h1, h2]
    exact ⟨a1, a2⟩
  · unfold cA
    rw [h1, h2]
    exact ⟨a1, a2⟩
  · unfold cA
    rw [h1, h2]
    refine ⟨a1, fun hf => ⟨(a2 hf).1, Or.inr ?_⟩⟩
    show jl (g i) + wF R sp (fo m) ≤ _
    have b : (now S + 1).toInt ≤ (mx (now S + 1) (ndRe S i (m.2.2.2.1 + s_cf S 5))).toInt := by
      rw [mx_i]
      omega
    have l := hl i
    rcases hfo m with f1 | f2
    · have := hG m m1 m2 m3 m4 f1 l
      rw [f1]
      exact this
    · rw [f2]
      show jl (g i) + ((2 : Nat) : Int) ≤ _
      omega
  · unfold cA
    rw [h1, h2]
    refine ⟨a1, fun hf => ⟨(a2 hf).1, Or.inr ?_⟩⟩
    show jl (g i) + (R : Int) ≤ _
    have l := hl i
    omega
  · unfold cA
    rw [h1, h2]
    exact ⟨a1, fun hf => ⟨(a2 hf).1, Or.inl rfl⟩⟩
  · obtain ⟨d1, d2, d3, d4⟩ := due_b hd
    have ht : s_nd S i 8 ≠ -4 := fun hx => by
      rw [hx] at d3
      exact absurd d3 (by decide)
    unfold cA
    rw [h1, h2]
    refine ⟨Int.le_of_lt hs', fun _ => ⟨?_, Or.inr hR⟩⟩
    show ∃ c : Nat, ((c = sp ∧ 1 ≤ jG (g i) + (if jf (g i) = 1 then 1 else 0)) ∨ (c = R ∧ 1 ≤ jR (g i) + (if jf (g i) = 0 then 1 else 0)) ∨ (c = 2 ∧ 1 ≤ jL (g i) + (if jf (g i) = 0 then 0 else if jf (g i) = 1 then 0 else 1))) ∧ ((sp * (jG (g i) + (if jf (g i) = 1 then 1 else 0)) + R * (jR (g i) + (if jf (g i) = 0 then 1 else 0)) + 2 * (jL (g i) + (if jf (g i) = 0 then 0 else if jf (g i) = 1 then 0 else 1)) : Nat) : Int) + (s + 1) ≤ (now S).toInt + c
    obtain ⟨w, hw⟩ : ∃ w, wF R sp (jf (g i)) = w := ⟨_, rfl⟩
    have e1 : sp * (jG (g i) + (if jf (g i) = 1 then 1 else 0)) + R * (jR (g i) + (if jf (g i) = 0 then 1 else 0)) + 2 * (jL (g i) + (if jf (g i) = 0 then 0 else if jf (g i) = 1 then 0 else 1)) = sp * jG (g i) + R * jR (g i) + 2 * jL (g i) + w := by
      rw [← hw]
      unfold wF
      by_cases a : jf (g i) = 0
      · rw [if_neg (by omega), if_pos a, if_pos a, if_pos a, Nat.mul_add R, Nat.mul_one, Nat.add_zero, Nat.add_zero]
        omega
      · by_cases b : jf (g i) = 1
        · rw [if_pos b, if_neg a, if_neg a, if_pos b, if_neg a, if_pos b, Nat.mul_add sp, Nat.mul_one, Nat.add_zero, Nat.add_zero]
          omega
        · rw [if_neg b, if_neg a, if_neg a, if_neg b, if_neg a, if_neg b, Nat.add_zero, Nat.add_zero]
          omega
    rw [e1]
    by_cases hf : jF (g i) = 0
    · have z : jG (g i) = 0 ∧ jR (g i) = 0 ∧ jL (g i) = 0 := by
        unfold jF at hf
        omega
      refine ⟨w, ?_, ?_⟩
      · rw [← hw]
        unfold wF
        by_cases a : jf (g i) = 0
        · rw [if_pos a]
          refine Or.inr (Or.inl ⟨rfl, ?_⟩)
          rw [if_pos a]
          omega
        · by_cases b : jf (g i) = 1
          · rw [if_neg a, if_pos b]
            refine Or.inl ⟨rfl, ?_⟩
            rw [if_pos b]
            omega
          · rw [if_neg a, if_neg b]
            refine Or.inr (Or.inr ⟨rfl, ?_⟩)
            rw [if_neg a, if_neg b]
            omega
      · rw [z.1, z.2.1, z.2.2]
        omega
    · obtain ⟨⟨c, b1, b2⟩, b3⟩ := a2 hf
      rw [hw] at b3
      have b4 : jl (g i) + w ≤ (s_nd S i 8).toInt := by
        rcases b3 with q | q
        · exact absurd q ht
        · exact q
      refine ⟨c, ?_, by omega⟩
      rcases b1 with q | q | q
      · exact Or.inl ⟨q.1, by omega⟩
      · exact Or.inr (Or.inl ⟨q.1, by omega⟩)
      · exact Or.inr (Or.inr ⟨q.1, by omega⟩)
end TVS
