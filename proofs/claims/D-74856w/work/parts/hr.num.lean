/-! ROOM: what a run's counts come to, in numbers -/
set_option maxRecDepth 100000
/-- a node's counts: fires F, retries r, late fires l, arrivals A -/
def NU (S0 S : SS) (f c T P : Nat → Nat) (i : Nat) (F r l A : Nat) : Prop :=
  (2 * F ≤ 5001 ∧ r + l ≤ F) ∧ (∀ Rc : Nat, 2 ≤ Rc → Rc ≤ wayR S0 i → 2 * F + (Rc - 2) * r ≤ 4999 + Rc ∧ r ≤ 4999 / Rc + 1) ∧ (∀ p : Nat, 0 < p → p ≤ perN S0 i → F ≤ (4999 / p + 1) * (mN S0 i + f i + r)) ∧
  mN S i ≤ mN S0 i + f i + r ∧ A + aqN S i ≤ aqN S0 i + F ∧ ((s_cf S0 7).toInt = 0 → 2 * A ≤ 5001 + 2 * c i) ∧ (2 * way S0 i < wayR S0 i → F ≤ 112 * T i) ∧ (s_nd S0 i 3 = 0 → F = 0) ∧
  (∀ q : Nat, q ≤ spN S0 i → q ≤ wayR S0 i → q * (F - l) ≤ 4999 + q) ∧ l ≤ P i
section NUS
variable {S0 S S' : SS} {g g' : Nat → JG} {s e : Int} {Ls : Nat → List Int} {f c T P : Nat → Nat} {i : Nat}
theorem kN_le : kN S i ≤ mN S i := by
  have := sum_mul (f := fmK i) (k := fmM i) (b := 1) (l := s_ms S) (fun q => by rw [Nat.one_mul]; exact fmK_le)
  unfold kN mN
  omega
theorem iN_le : aqN S i ≤ mN S i := by
  have := sum_mul (f := fmI i) (k := fmM i) (b := 1) (l := s_ms S) (fun q => by rw [Nat.one_mul]; exact fmI_le)
  unfold aqN mN
  omega
theorem Nn_val {p : Nat} (hp : 0 < p) (h : s < e) : Nn s e p (s + 1) = (e - s - 1).toNat / p + 1 := by
  unfold Nn
  rw [show max (s + 1) (s + 1) = s + 1 from by omega]
  obtain ⟨n, hn⟩ : ∃ n : Nat, e - (s + 1) = (n : Int) := ⟨(e - (s + 1)).toNat, by omega⟩
  rw [hn, show e - s - 1 = (n : Int) from by omega, Int.toNat_natCast, ← Int.natCast_ediv]
  obtain ⟨z, hz⟩ : ∃ z, n / p = z := ⟨_, rfl⟩
  rw [hz]
  omega
theorem NU_of (hI : Inv S0) (H : RH S0 s e Ls f c T) (hP : ∀ i : Nat, i < s_n S0 → nLt (Ls i) s e ≤ P i) (hle : (now S).toInt ≤ e) (hw : s < (now S).toInt) (hF : FA S0 s e Ls f c T S g) (hi : i < s_n S0) : NU S0 S f c T P i (jF (g i)) (jR (g i)) (jL (g i)) (jA (g i)) := by
  obtain ⟨⟨h1, h2, h3⟩, h4, h5, h6, h7⟩ := H
  obtain ⟨b1, b2, b3, b4, b5, b6, b7, b8, b9⟩ := hF.2.1 i hi
  have hl := hF.1 i
  have W := wayR_45 hI hi
  have aF := cA_F b1 (by omega) spN_2 hl h2
  refine ⟨⟨by omega, by unfold jF; omega⟩, fun Rc r2 rc => ?_, fun p p0 pp => ?_, ?_, b4, fun hj => ?_, fun k => ?_, b9, fun q q1 q2 => ?_, ?_⟩
  · refine ⟨?_, ?_⟩
    · by_cases z : jF (g i) = 0
      · have : jR (g i) = 0 := by
          unfold jF at z
          omega
        rw [z, this, Nat.mul_zero]
        omega
      · obtain ⟨⟨cc, x1, x2⟩, -⟩ := b1.2 z
        obtain ⟨y, rfl⟩ : ∃ y, Rc = y + 2 := ⟨Rc - 2, by omega⟩
        have m1 := mulge (y := jG (g i)) (spN_2 (S0 := S0) (i := i))
        have m2 : (y + 2) * jR (g i) ≤ wayR S0 i * jR (g i) := Nat.mul_le_mul_right _ rc
        have m3 : (y + 2 - 2) * jR (g i) + 2 * jR (g i) = (y + 2) * jR (g i) := by
          rw [Nat.add_sub_cancel, Nat.add_mul]
        have eF : jF (g i) = jG (g i) + jR (g i) + jL (g i) := rfl
        rcases x1 with ⟨rfl, q⟩ | ⟨rfl, q⟩ | ⟨rfl, q⟩
        · have m4 := mulge1 (spN_2 (S0 := S0) (i := i)) q
          omega
        · obtain ⟨w, hw2⟩ : ∃ w, jR (g i) = w + 1 := ⟨jR (g i) - 1, by omega⟩
          have m5 : (y + 2) * w ≤ wayR S0 i * w := Nat.mul_le_mul_right _ rc
          have m6 : wayR S0 i * jR (g i) = wayR S0 i * w + wayR S0 i := by rw [hw2, Nat.mul_add, Nat.mul_one]
          have m7 : (y + 2) * jR (g i) = (y + 2) * w + (y + 2) := by rw [hw2, Nat.mul_add, Nat.mul_one]
          omega
        · omega
    · refine cA_R2 b1 hl h2 (by omega) ?_
      have : (e - s - 1).toNat / wayR S0 i ≤ 4999 / Rc := Nat.le_trans (Nat.div_le_div_right (by omega)) (Nat.div_le_div_left rc (by omega))
      omega
  · have pp2 := perN_b hI hi
    have v := Nn_val (s := s) (e := e) (p := perN S0 i) (by omega) h2
    have v2 : Nn s e (perN S0 i) (s + 1) ≤ 4999 / p + 1 := by
      rw [v]
      have : (e - s - 1).toNat / perN S0 i ≤ 4999 / p := Nat.le_trans (Nat.div_le_div_right (by omega)) (Nat.div_le_div_left pp p0)
      omega
    unfold cW at b2
    have k := kN_le (S := S0) (i := i)
    have m1 : Nn s e (perN S0 i) (s + 1) * (kN S0 i + f i + jR (g i)) ≤ (4999 / p + 1) * (mN S0 i + f i + jR (g i)) := Nat.mul_le_mul v2 (by omega)
    rw [Nat.mul_add _ (kN S0 i + f i) (jR (g i))] at m1
    omega
  · unfold cW mN at *
    omega
  · have := cI_A (b7 hj) (by omega)
    omega
  · obtain ⟨c1, -, c3, -⟩ := (b8 k).1
    obtain ⟨k1, k2, k3, k4⟩ := (h7 i hi).1 k
    have x := c3 e hle
    unfold cVt at x
    have v := Nn_val (s := s) (e := e) (p := 45) (by decide) h2
    have v2 : Nn s e 45 (s + 1) ≤ 112 := by
      rw [v]
      omega
    have l1 : jL (g i) ≤ nLt (Ls i) s e := Nat.le_trans b6.2.1 (nLt_mono hl)
    have m1 : (T i - nLt (Ls i) s e + jL (g i)) * Nn s e 45 (s + 1) ≤ T i * 112 := Nat.mul_le_mul (by omega) v2
    rw [Nat.add_mul, Nat.mul_comm (jL (g i))] at m1
    omega
  · by_cases z : jF (g i) = 0
    · rw [z, Nat.zero_sub, Nat.mul_zero]
      exact Nat.zero_le _
    · obtain ⟨⟨cc, x1, x2⟩, -⟩ := b1.2 z
      have eF : jF (g i) - jL (g i) = jG (g i) + jR (g i) := by
        unfold jF
        omega
      rw [eF, Nat.mul_add]
      have m1 : q * jG (g i) ≤ spN S0 i * jG (g i) := Nat.mul_le_mul_right _ q1
      have m2 : q * jR (g i) ≤ wayR S0 i * jR (g i) := Nat.mul_le_mul_right _ q2
      rcases x1 with ⟨rfl, y⟩ | ⟨rfl, y⟩ | ⟨rfl, y⟩
      · obtain ⟨w, hw2⟩ : ∃ w, jG (g i) = w + 1 := ⟨jG (g i) - 1, by omega⟩
        have m5 : q * w ≤ spN S0 i * w := Nat.mul_le_mul_right _ q1
        have m6 : spN S0 i * jG (g i) = spN S0 i * w + spN S0 i := by rw [hw2, Nat.mul_add, Nat.mul_one]
        have m7 : q * jG (g i) = q * w + q := by rw [hw2, Nat.mul_add, Nat.mul_one]
        omega
      · obtain ⟨w, hw2⟩ : ∃ w, jR (g i) = w + 1 := ⟨jR (g i) - 1, by omega⟩
        have m5 : q * w ≤ wayR S0 i * w := Nat.mul_le_mul_right _ q2
        have m6 : wayR S0 i * jR (g i) = wayR S0 i * w + wayR S0 i := by rw [hw2, Nat.mul_add, Nat.mul_one]
        have m7 : q * jR (g i) = q * w + q := by rw [hw2, Nat.mul_add, Nat.mul_one]
        omega
      · by_cases q0 : q = 0
        · rw [q0, Nat.zero_mul, Nat.zero_mul]
          omega
        · by_cases q1' : q = 1
          · rw [q1'] at m1 m2 ⊢
            have : 2 * jG (g i) ≤ spN S0 i * jG (g i) := mulge spN_2
            have : 2 * jR (g i) ≤ wayR S0 i * jR (g i) := Nat.mul_le_mul_right _ (by omega)
            omega
          · omega
  · exact Nat.le_trans (Nat.le_trans b6.2.1 (nLt_mono hl)) (hP i hi)
/-- the pair's law -/
theorem NU_pair {lam : Int} (hF : FA S0 s e Ls f c T S g) (hp : PH7 S0 s lam) : ∃ home : Nat, ∀ j : Nat, j < s_n S0 → j ≠ home → (jG (g j) = 0 ∨ 2 * (jG (g j) : Int) ≤ lam + way S0 j + 2) := by
  obtain ⟨-, home, -, -, h⟩ := hF.2.2.2.2.2.2.2.2 lam hp
  exact ⟨home, fun j h1 h2 => (h j h1 h2).2⟩
end NUS
