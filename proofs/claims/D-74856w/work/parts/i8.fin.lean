/-! ROOM: what a lineage uses at most, in numbers -/
set_option maxRecDepth 100000
/-- a: the plan's start; bm, eP, e0: its extras; n nodes; s: campaigns at least; cb: bytes -/
def cost1 (a bm eP e0 n s cb N X : Nat) : Nat := a + bm * X + 2000 * (N * (110 + 10 * (X - s) + eP * X + e0) + 60 * X + (X - s) * (4 * n * (501 + X)) + 8 * cb + 130 * min 1 cb)
def chk1 (a : Nat → Nat) (H bm eP e0 n s cb lo hi N X : Nat) : Bool := Nat.blt 64 (N + X + cb) || Nat.blt X lo || Nat.blt hi X || (Nat.ble N H && Nat.ble (cost1 (a N) bm eP e0 n s cb N X) (18800000 * (cb + N + X)))
/-- N calls of time and X others fit, X from lo to hi -/
def chk (a : Nat → Nat) (H bm eP e0 n s cb lo hi : Nat) : Bool := (List.range 65).all fun N => (List.range 65).all fun X => chk1 a H bm eP e0 n s cb lo hi N X
section FIN
variable {L : LG} {cond : Nat → Nat → Prop} {Af : Nat → Prop} {H eP e0 bm : Nat} {a : Nat → Nat} {b : Nat → Nat → Nat}
theorem chk_at {a : Nat → Nat} {H bm eP e0 n s cb lo hi N X : Nat} (h : chk a H bm eP e0 n s cb lo hi = true) (h1 : N + X + cb ≤ 64) (h2 : lo ≤ X) (h3 : X ≤ hi) : N ≤ H ∧ cost1 (a N) bm eP e0 n s cb N X ≤ 18800000 * (cb + N + X) := by
  have c := List.all_eq_true.mp (List.all_eq_true.mp h N (List.mem_range.mpr (by omega))) X (List.mem_range.mpr (by omega))
  unfold chk1 at c
  have e1 : Nat.blt 64 (N + X + cb) = false := by
    rw [Bool.eq_false_iff]
    intro hx
    have : 64 + 1 ≤ N + X + cb := Nat.le_of_ble_eq_true hx
    omega
  have e2 : Nat.blt X lo = false := by
    rw [Bool.eq_false_iff]
    intro hx
    have : X + 1 ≤ lo := Nat.le_of_ble_eq_true hx
    omega
  have e3 : Nat.blt hi X = false := by
    rw [Bool.eq_false_iff]
    intro hx
    have : hi + 1 ≤ X := Nat.le_of_ble_eq_true hx
    omega
  rw [e1, e2, e3, Bool.false_or, Bool.false_or, Bool.false_or, Bool.and_eq_true] at c
  exact ⟨Nat.le_of_ble_eq_true c.1, Nat.le_of_ble_eq_true c.2⟩
/-- the plan's end: cells used are paid by the calls -/
theorem fin_of {n s cb lo hi : Nat} {aa : Nat → Nat} (hA : ACCT L) (hs : STEPOK (lgC L) cond Af H a b eP e0) (hm : ∀ x y x' y' : Nat, x ≤ x' → y ≤ y' → cond x' y' → cond x y) (hb : ∀ j i : Nat, j ≤ H → b j i ≤ bm) (hc : cond (lgx L) (lgy L)) (hf : ∀ i : Nat, i < s_n (lgC L) → lgM L i ≠ 0 → Af i)
    (hk : chk aa H bm eP e0 n s cb lo hi = true) (hn : s_n (lgC L) = n) (ha : a (lgN L) ≤ aa (lgN L)) (h64 : lgA L ≤ 64) (hcb : cb ≤ lgB L) (hy : lgy L + s ≤ lgx L + lgy L ∨ lgy L = 0) (hlo : lo ≤ lgx L + lgy L) (hhi : lgx L + lgy L ≤ hi) : lgU L ≤ 9400 * lgA L := by
  unfold lgA at h64 ⊢
  obtain ⟨k1, k2⟩ := chk_at (N := lgN L) (X := lgx L + lgy L) hk (by omega) hlo hhi
  have h := hA cond Af H a b eP e0 bm hs hm hb hc hf 0 (by omega)
  rw [Nat.zero_add, hn] at h
  unfold cost1 at k2
  obtain ⟨X, hX⟩ : ∃ X, lgx L + lgy L = X := ⟨_, rfl⟩
  rw [hX] at h k2 hy
  have y1 : lgy L ≤ X - s := by omega
  have m1 : lgN L * (110 + 10 * lgy L + eP * X + e0) ≤ lgN L * (110 + 10 * (X - s) + eP * X + e0) := Nat.mul_le_mul_left _ (by omega)
  have m2 : lgy L * (4 * n * (501 + X)) ≤ (X - s) * (4 * n * (501 + X)) := Nat.mul_le_mul_right _ y1
  omega
end FIN
