/-! ROOM: a run, all counts together -/
set_option maxRecDepth 100000
section RUN
variable {S0 S S' : SS} {fo : MG → Nat} {g g' : Nat → JG} {s e : Int} {i R sp n : Nat}
theorem mulge {x y : Nat} (h : 2 ≤ x) : 2 * y ≤ x * y := Nat.mul_le_mul_right y h
theorem mulge1 {x y : Nat} (h : 2 ≤ x) (hy : 1 ≤ y) : x + 2 * (y - 1) ≤ x * y := by
  obtain ⟨z, rfl⟩ : ∃ z, y = z + 1 := ⟨y - 1, by omega⟩
  have := mulge (y := z) h
  rw [Nat.mul_add, Nat.mul_one]
  omega
/-- at least 2 ms between fires -/
theorem cA_F (hA : cA s R sp i S g) (hR : 2 ≤ R) (hs : 2 ≤ sp) (hl : jl (g i) ≤ e) (h : s < e) : 2 * (jF (g i) : Int) ≤ (e - s - 1) + 2 := by
  by_cases z : jF (g i) = 0
  · rw [z]
    omega
  · obtain ⟨⟨c, b1, b2⟩, -⟩ := hA.2 z
    unfold jF at z ⊢
    have m1 := mulge (y := jG (g i)) hs
    have m2 := mulge (y := jR (g i)) hR
    rcases b1 with ⟨rfl, q⟩ | ⟨rfl, q⟩ | ⟨rfl, q⟩
    · have := mulge1 hs q
      omega
    · have := mulge1 hR q
      omega
    · omega
/-- retries keep their distance -/
theorem cA_R (hA : cA s R sp i S g) (hl : jl (g i) ≤ e) (h : s < e) (h1 : jR (g i) ≠ 0) : ((R * (jR (g i) - 1) : Nat) : Int) ≤ e - s - 1 := by
  have z : jF (g i) ≠ 0 := by
    unfold jF
    omega
  obtain ⟨⟨c, b1, b2⟩, -⟩ := hA.2 z
  obtain ⟨y, hy⟩ : ∃ y, jR (g i) = y + 1 := ⟨jR (g i) - 1, by omega⟩
  have e1 : R * jR (g i) = R * y + R := by rw [hy, Nat.mul_add, Nat.mul_one]
  have e2 : jR (g i) - 1 = y := by omega
  rw [e2]
  rcases b1 with ⟨rfl, q⟩ | ⟨rfl, q⟩ | ⟨rfl, q⟩
  · have : c * 1 ≤ c * jG (g i) := Nat.mul_le_mul_left c q
    omega
  · omega
  · omega
theorem cA_R2 (hA : cA s R sp i S g) (hl : jl (g i) ≤ e) (h : s < e) (hR : 0 < R) {b : Nat} (hb : (e - s - 1).toNat / R + 1 ≤ b) : jR (g i) ≤ b := by
  by_cases h1 : jR (g i) = 0
  · omega
  · have a := cA_R hA hl h h1
    have : jR (g i) - 1 ≤ (e - s - 1).toNat / R := by
      rw [Nat.le_div_iff_mul_le hR, Nat.mul_comm]
      omega
    omega
theorem JE_now (hE : JE s fo S S' g g') : (now S).toInt ≤ (now S').toInt := by
  rcases hE with ⟨e, b | b⟩ | ⟨e, -, t, rfl, h, -⟩ | ⟨k, m, hk, hm, -, hl, -, b, d⟩ | ⟨j, hj, hs, hd, -, rfl, e⟩ | ⟨j, hj, hs, hd, hcd, -, b, e⟩
  · have : now S' = now S := congrFun b.2.2.2.2.1 8
    rw [this]
    exact Int.le_refl _
  · obtain ⟨nw, -, -, -, -, b5, -⟩ := b
    have : now S' = now S := b5 8 (Or.inl rfl)
    rw [this]
    exact Int.le_refl _
  · exact Int.le_of_lt h
  · obtain ⟨-, -, x, -⟩ := b
    have : now S' = now S := x.2.2.1
    rw [this]
    exact Int.le_refl _
  · exact Int.le_refl _
  · obtain ⟨nw, -, -, -, -, -, b6, -⟩ := b
    have : now S' = now S := b6 8 (Or.inl rfl)
    rw [this]
    exact Int.le_refl _
theorem TV_jl (h : TV s fo S S' g g' i) : jl (g' i) = jl (g i) ∨ jl (g' i) = (now S).toInt := by
  rcases h with ⟨-, h | h⟩ | ⟨-, m, -, -, -, -, -, h⟩ | ⟨-, -, h⟩ | ⟨-, h⟩ | ⟨-, -, -, -, h⟩
  · exact Or.inl (by rw [h])
  · exact Or.inl (by rw [h]; rfl)
  · exact Or.inl (by rw [h]; rfl)
  · exact Or.inl (by rw [h]; rfl)
  · exact Or.inl (by rw [h]; rfl)
  · exact Or.inr (by rw [h]; rfl)
end RUN
