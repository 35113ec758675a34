/-! ROOM: late fires are no more than the late times -/
set_option maxRecDepth 100000
/-- the flag of a GRANT: late or not -/
def foL (Ls : Nat → List Int) (m : MG) : Nat := if tmJ m ∈ Ls m.2.1 then 2 else 1
/-- late times from s (not taken) to t -/
def nLt (Lt : List Int) (s t : Int) : Nat := Lt.countP (fun x => decide (s < x ∧ x ≤ t))
def cLV (s : Int) (i : Nat) (Lt : List Int) (S : SS) (g : Nat → JG) : Prop := jf (g i) ≤ 2 ∧ jL (g i) ≤ nLt Lt s (jl (g i)) ∧ (jf (g i) = 2 → ∃ a ∈ Lt, jl (g i) < a ∧ a ≤ (now S).toInt)
section LT2
variable {S0 S S' : SS} {g g' : Nat → JG} {s : Int} {i : Nat} {Lt : List Int} {Ls : Nat → List Int}
theorem foL_12 {m : MG} : foL Ls m = 1 ∨ foL Ls m = 2 := by
  unfold foL
  split
  · exact Or.inr rfl
  · exact Or.inl rfl
theorem nLt_mono {a b : Int} (hab : a ≤ b) {l : List Int} : nLt l s a ≤ nLt l s b := List.countP_mono_left (fun x _ h => by simp at h ⊢; omega)
theorem nLt_up {a b y : Int} (h0 : s ≤ a) (h1 : a < y) (h2 : y ≤ b) : ∀ {l : List Int}, y ∈ l → nLt l s a + 1 ≤ nLt l s b
  | [], h => by cases h
  | x :: l, h => by
    unfold nLt
    rw [List.countP_cons, List.countP_cons]
    rcases List.mem_cons.mp h with q | q
    · subst q
      have := nLt_mono (s := s) (a := a) (b := b) (by omega) (l := l)
      unfold nLt at this
      rw [if_neg (by simp; omega), if_pos (by simp; omega)]
      omega
    · have := nLt_up h0 h1 h2 q
      unfold nLt at this
      by_cases c : s < x ∧ x ≤ a
      · rw [if_pos (by simpa using c), if_pos (by simp; omega)]
        omega
      · rw [if_neg (by simpa using c)]
        omega
theorem nLt_add {a b : Int} (h0 : s ≤ a) (h1 : a ≤ b) {l : List Int} : nLt l s a + nLt l a b = nLt l s b := by
  unfold nLt
  induction l with
  | nil => rfl
  | cons x l ih =>
    rw [List.countP_cons, List.countP_cons, List.countP_cons]
    by_cases c1 : s < x ∧ x ≤ a
    · rw [if_pos (by simpa using c1), if_neg (by simp; omega), if_pos (by simp; omega)]
      omega
    · by_cases c2 : a < x ∧ x ≤ b
      · rw [if_neg (by simpa using c1), if_pos (by simpa using c2), if_pos (by simp; omega)]
        omega
      · rw [if_neg (by simpa using c1), if_neg (by simpa using c2), if_neg (by simp; omega)]
        omega
theorem cLV_step (hl : jl (g i) ≤ max (now S).toInt s) (hs : s ≤ jl (g i)) (hE : JE s (foL Ls) S S' g g') (hC : cLV s i (Ls i) S g) : cLV s i (Ls i) S' g' := by
  have hn := JE_now hE
  obtain ⟨c0, c1, c2⟩ := hC
  have kp : jf (g i) = 2 → ∃ a ∈ Ls i, jl (g i) < a ∧ a ≤ (now S').toInt := fun h => by
    obtain ⟨a, h1, h2, h3⟩ := c2 h
    exact ⟨a, h1, h2, by omega⟩
  rcases hE.tv (i := i) with ⟨-, h | h⟩ | ⟨hl2, m, m1, m2, m3, m4, -, h⟩ | ⟨-, -, h⟩ | ⟨-, h⟩ | ⟨-, hs', hd, -, h⟩
  · unfold cLV
    rw [h]
    exact ⟨c0, c1, kp⟩
  · unfold cLV
    rw [h]
    exact ⟨c0, c1, kp⟩
  · unfold cLV
    rw [h]
    refine ⟨by show foL Ls m ≤ 2; rcases foL_12 (Ls := Ls) (m := m) with q | q <;> omega, c1, fun hf => ?_⟩
    have hf' : foL Ls m = 2 := hf
    have l := hl2 i
    unfold foL at hf'
    rw [m2] at hf'
    by_cases q : tmJ m ∈ Ls i
    · exact ⟨_, q, by show jl (g i) < _; omega, by omega⟩
    · rw [if_neg q] at hf'
      cases hf'
  · unfold cLV
    rw [h]
    exact ⟨Nat.zero_le _, c1, fun hf => absurd (show (0 : Nat) = 2 from hf) (by decide)⟩
  · unfold cLV
    rw [h]
    exact ⟨Nat.zero_le _, c1, fun hf => absurd (show (0 : Nat) = 2 from hf) (by decide)⟩
  · unfold cLV
    rw [h]
    refine ⟨Nat.zero_le _, ?_, fun hf => absurd (show (0 : Nat) = 2 from hf) (by decide)⟩
    show jL (g i) + (if jf (g i) = 0 then 0 else if jf (g i) = 1 then 0 else 1) ≤ nLt (Ls i) s (now S).toInt
    have m := nLt_mono (s := s) (a := jl (g i)) (b := (now S).toInt) (Int.le_trans hl (Int.max_le.mpr ⟨Int.le_refl _, Int.le_of_lt hs'⟩)) (l := Ls i)
    by_cases a : jf (g i) = 2
    · obtain ⟨y, y1, y2, y3⟩ := c2 a
      have := nLt_up hs y2 y3 y1
      rw [if_neg (by omega), if_neg (by omega)]
      omega
    · have z : (if jf (g i) = 0 then 0 else if jf (g i) = 1 then 0 else 1) = 0 := by
        by_cases b : jf (g i) = 0
        · rw [if_pos b]
        · rw [if_neg b, if_pos (by omega)]
      rw [z]
      omega
end LT2
