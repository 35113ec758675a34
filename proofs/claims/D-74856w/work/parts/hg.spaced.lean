/-! ROOM: without jitter: what is kept between calls, and the bound -/
set_option maxRecDepth 100000
/-- kept between calls: all but c of the node's ACQUIREs on their way are 2 ms apart -/
def SPI (i c : Nat) (S : SS) : Prop := ∃ (L : Int) (U V : List Int), cI0 (s_nd S i 1).toInt i c S L U V ∧ L ≤ (now S).toInt
section SPS
variable {S : SS} {g : Nat → JG} {s d : Int} {i c : Nat}
theorem cI_0 {f : Nat → Nat} (h : SPI i c S) (hd : (s_nd S i 1).toInt = d) (hs : (now S).toInt ≤ s) : cI s d i c S (g00 s f) := by
  obtain ⟨L, U, V, a, b⟩ := h
  rw [hd] at a
  exact ⟨L, U, V, 0, 0, c, a, Nat.le_refl _, Int.le_trans b hs, Nat.le_refl _, Or.inl rfl⟩
theorem cI_1 (h : cI s d i c S g) (hl : jl (g i) ≤ (now S).toInt) (hd : (s_nd S i 1).toInt = d) : SPI i c S := by
  obtain ⟨L, U, V, u, w, cc, ⟨a1, a2, a3, a4, a5⟩, b1, b2, -⟩ := h
  exact ⟨L, U, V, ⟨a1, a2, by rw [hd]; exact a3, a4, by omega⟩, by omega⟩
theorem cI_A (h : cI s d i c S g) (hs : s ≤ (now S).toInt) : 2 * (jA (g i) : Int) ≤ (now S).toInt - s + 1 + 2 * c := by
  obtain ⟨L, U, V, u, w, cc, -, b1, -, b3, b4⟩ := h
  rcases b4 with q | ⟨la, q1, q2, -, -⟩
  · omega
  · omega
end SPS
