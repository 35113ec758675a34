/-! ROOM: counts; the ghosts at a run's start -/
set_option maxRecDepth 100000
/-- ACQUIREs and GRANTs of a node on their way -/
def kN (S : SS) (i : Nat) : Nat := ((s_ms S).map (fmK i)).sum
def wtN (S : SS) : Nat := ((s_ms S).map (wt S)).sum
def wzN (S : SS) : Nat := ((s_ms S).map (wz S)).sum
/-- the ghosts at the start: f: the timers' flags -/
def g00 (s : Int) (f : Nat → Nat) : Nat → JG := fun i => (0, 0, 0, s, f i, 0, s)
section ALL
variable {S0 : SS} {e : Int}
theorem sum_mul {f k : MG → Nat} {b : Nat} : ∀ {l : List MG}, (∀ q : MG, f q ≤ b * k q) → (l.map f).sum ≤ b * (l.map k).sum
  | [], _ => Nat.zero_le _
  | x :: l, h => by
    rw [List.map_cons, List.sum_cons, List.map_cons, List.sum_cons, Nat.mul_add]
    have := sum_mul (l := l) h
    have := h x
    omega
theorem Nn_top {s : Int} {q : Nat} {x : Int} : Nn s e q x ≤ Nn s e q (s + 1) := by
  by_cases c : s + 1 ≤ x
  · exact Nn_mono c
  · have : Nn s e q x = Nn s e q (s + 1) := by
      unfold Nn
      rw [show max x (s + 1) = max (s + 1) (s + 1) from by omega]
    rw [this]
    exact Nat.le_refl _
theorem wayR_45 (hI : Inv S0) {i : Nat} (hi : i < s_n S0) : 45 ≤ wayR S0 i ∧ 45 ≤ wayP S0 i := by
  have N := (hI.2.1 i hi).1
  have c5 := hI.1.2.2.2.2.1.1
  have c6 := hI.1.2.2.2.2.2.1.1
  have key : ∀ q : Int, 50 ≤ q → 45 ≤ wayN (s_nd S0 i 20).toInt q := fun q hq => by
    have h := wayN_b (r := (s_nd S0 i 20).toInt) (q := q) N.1 (by omega)
    have : 44 ≤ 1000 * (q - 1) / (s_nd S0 i 20).toInt := by
      have N1 := N.1
      have N2 := N.2
      rw [Int.le_ediv_iff_mul_le (by omega)]
      omega
    omega
  exact ⟨key _ c6, key _ c5⟩
theorem sN_g0 {n : Nat} {s : Int} {f : Nat → Nat} {F : JG → Nat} (h : ∀ x : Nat, F (0, 0, 0, s, x, 0, s) = 0) : sN n (fun j => F (g00 s f j)) = 0 := by
  have : sN n (fun j => F (g00 s f j)) = sN n (fun _ => 0) := sN_eq (fun i _ => h (f i))
  rw [this, sN_cs, Nat.mul_zero]
end ALL
