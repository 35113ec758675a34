/-! ROOM: the numbers of a configuration -/
set_option maxRecDepth 100000
/-- a node's numbers: rate, offset, delay -/
def ndC (c : CS) (i : Nat) : Nat × Nat × Nat := c.2.1.getD i (0, 0, 0)
section CNF
variable {c : CS} {i cl sl : Nat}
theorem ndC_rg (hg : RGC c) (hi : i < c.2.1.length) : (900 ≤ (ndC c i).1 ∧ (ndC c i).1 ≤ 1100) ∧ (ndC c i).2.1 ≤ 100000 ∧ 1 ≤ (ndC c i).2.2 ∧ (ndC c i).2.2 ≤ 1000 := by
  have hm : ndC c i ∈ c.2.1 := by
    unfold ndC
    rw [List.getD_eq_getElem?_getD, List.getElem?_eq_getElem hi]
    exact List.getElem_mem hi
  exact hg.2.2.2.2.2.2.2.2 _ hm
theorem sc_n : s_n (SC c cl sl) = c.2.1.length := rfl
theorem sc_cf {k : Nat} (h : c.1 k < 2147483648) : (s_cf (SC c cl sl) k).toInt = (c.1 k : Int) := of_i h
theorem sc_nd : s_nd (SC c cl sl) i 1 = Int32.ofNat (ndC c i).2.2 ∧ s_nd (SC c cl sl) i 20 = Int32.ofNat (ndC c i).1 := ⟨rfl, rfl⟩
theorem sc_way (hg : RGC c) (hi : i < c.2.1.length) : way (SC c cl sl) i = ((ndC c i).2.2 : Int) + c.1 7 := by
  obtain ⟨-, -, a, b⟩ := ndC_rg hg hi
  have j := hg.2.2.2.2.2.2.1
  unfold way
  rw [sc_nd.1, of_i (by omega), sc_cf (by omega)]
theorem wayN_lo {r q m : Nat} (r1 : 1 ≤ r) (h : m * r ≤ 1000 * (q - 1)) (hq : 1 ≤ q) : m + 1 ≤ wayN (r : Int) (q : Int) := by
  unfold wayN
  have : (m : Int) ≤ 1000 * ((q : Int) - 1) / (r : Int) := by
    rw [Int.le_ediv_iff_mul_le (by omega)]
    have e : ((m * r : Nat) : Int) = (m : Int) * r := Int.natCast_mul m r
    omega
  omega
theorem wayN_hi {r q m : Nat} (r1 : 1 ≤ r) (h : 1000 * (q - 1) < (m + 1) * r) (hq : 1 ≤ q) : wayN (r : Int) (q : Int) ≤ m + 1 := by
  unfold wayN
  have : 1000 * ((q : Int) - 1) / (r : Int) < (m : Int) + 1 := by
    rw [Int.ediv_lt_iff_lt_mul (by omega)]
    have e : (((m + 1) * r : Nat) : Int) = ((m : Int) + 1) * r := by rw [Int.natCast_mul]; rfl
    omega
  omega
theorem sc_wR (hg : RGC c) (hi : i < c.2.1.length) : wayR (SC c cl sl) i = wayN (((ndC c i).1 : Nat) : Int) ((c.1 6 : Nat) : Int) := by
  obtain ⟨⟨a, b⟩, -⟩ := ndC_rg hg hi
  have j := hg.2.2.2.2.2.1
  unfold wayR
  rw [sc_nd.2, of_i (by omega), sc_cf (by omega)]
theorem sc_wP (hg : RGC c) (hi : i < c.2.1.length) : wayP (SC c cl sl) i = wayN (((ndC c i).1 : Nat) : Int) ((c.1 5 : Nat) : Int) := by
  obtain ⟨⟨a, b⟩, -⟩ := ndC_rg hg hi
  have j := hg.2.2.2.2.1
  unfold wayP
  rw [sc_nd.2, of_i (by omega), sc_cf (by omega)]
/-- retry and renewal: at least 45; by default 454 .. 556 and 1818 (2002 with three digits) -/
theorem sc_ways (hg : RGC c) (hi : i < c.2.1.length) : (45 ≤ wayR (SC c cl sl) i ∧ 45 ≤ wayP (SC c cl sl) i) ∧ (c.1 6 = 500 → 454 ≤ wayR (SC c cl sl) i ∧ wayR (SC c cl sl) i ≤ 556) ∧ (c.1 5 = 2000 → 1818 ≤ wayP (SC c cl sl) i ∧ ((ndC c i).1 ≤ 999 → 2002 ≤ wayP (SC c cl sl) i)) ∧ ((ndC c i).1 ≤ 999 → 50 ≤ wayR (SC c cl sl) i) := by
  obtain ⟨⟨a, b⟩, -⟩ := ndC_rg hg hi
  have j5 := hg.2.2.2.2.1
  have j6 := hg.2.2.2.2.2.1
  rw [sc_wR hg hi, sc_wP hg hi]
  refine ⟨⟨wayN_lo (m := 44) (by omega) (by omega) (by omega), wayN_lo (m := 44) (by omega) (by omega) (by omega)⟩, fun h => ?_, fun h => ?_, fun h => wayN_lo (m := 49) (by omega) (by omega) (by omega)⟩
  · rw [h]
    exact ⟨wayN_lo (m := 453) (by omega) (by omega) (by decide), wayN_hi (m := 555) (by omega) (by omega) (by decide)⟩
  · rw [h]
    exact ⟨wayN_lo (m := 1817) (by omega) (by omega) (by decide), fun h9 => wayN_lo (m := 2001) (by omega) (by omega) (by decide)⟩
theorem sc_per : wayP (SC c cl sl) i ≤ perN (SC c cl sl) i := Nat.le_max_left _ _
theorem sc_per2 (hg : RGC c) (hi : i < c.2.1.length) : 2 * (ndC c i).2.2 + 1 ≤ perN (SC c cl sl) i := by
  obtain ⟨-, -, a, b⟩ := ndC_rg hg hi
  unfold perN
  rw [sc_nd.1, of_i (by omega)]
  omega
theorem sc_sp {q : Nat} (h : (q : Int) ≤ (wayP (SC c cl sl) i : Int) - 2 * way (SC c cl sl) i + 1) : q ≤ spN (SC c cl sl) i := by
  unfold spN
  omega
/-- bytes of the nodes -/
theorem map_sN {F : Nat × Nat × Nat → Nat} : ∀ (l : List (Nat × Nat × Nat)), (l.map F).sum = sN l.length (fun i => F (l.getD i (0, 0, 0)))
  | [] => rfl
  | x :: l => by
    have ih := map_sN (F := F) l
    rw [List.map_cons, List.sum_cons, ih, List.length_cons]
    unfold sN
    rw [List.range_succ_eq_map, List.map_cons, List.sum_cons, List.map_map]
    rfl
theorem cst_nodes : cst c = sN c.2.1.length (fun i => 8 + dN (ndC c i).1 + dN (ndC c i).2.2) + (if c.2.2 3 = true then 8 else 0) + (if c.2.2 4 = true then 8 else 0) + (if c.2.2 5 = true then 7 + dN (c.1 7) else 0) + (if c.2.2 2 = true then 11 else 0) + (if c.2.2 0 = true then 12 else 0) := by
  unfold cst
  rw [map_sN]
  rfl
theorem dN_r (hg : RGC c) (hi : i < c.2.1.length) : 3 ≤ dN (ndC c i).1 ∧ (1000 ≤ (ndC c i).1 → 4 ≤ dN (ndC c i).1) := by
  obtain ⟨⟨a, b⟩, -⟩ := ndC_rg hg hi
  exact ⟨dN_ge (by omega) (by decide) (by decide), fun h => dN_ge (by omega) (by decide) (by decide)⟩
end CNF
