/-! ROOM: there are never too many messages -/
set_option maxRecDepth 100000
section MSG
variable {L : LG} {c : CS} {cl sl : Nat} {S : SS}
/-- all messages, counted by nodes -/
theorem len_ms (hI : Inv S) : (s_ms S).length + (s_dl S).length ≤ sN (s_n S) (mN S) + oN S := by
  have key : ∀ l : List MG, (∀ q ∈ l, q.2.1 < s_n S) → l.length ≤ sN (s_n S) (fun i => (l.map (fmM i)).sum) + (l.map fmO).sum := by
    intro l
    induction l with
    | nil => intro _; exact Nat.zero_le _
    | cons q l ih =>
      intro h
      have a := ih (fun x hx => h x (List.mem_cons_of_mem _ hx))
      have e : sN (s_n S) (fun i => ((q :: l).map (fmM i)).sum) = sN (s_n S) (fun i => fmM i q) + sN (s_n S) (fun i => (l.map (fmM i)).sum) := by
        rw [← sN_add]
        rfl
      rw [e, List.length_cons, List.map_cons, List.sum_cons]
      have b : 1 ≤ sN (s_n S) (fun i => fmM i q) + fmO q := by
        by_cases k : q.1 ≤ 3
        · have := sN_pos (F := fun i => fmM i q) (h q (List.mem_cons_self ..))
          have e1 : fmM q.2.1 q = 1 := fmM_1 k
          omega
        · have := fmO_1 k
          omega
      omega
  have := key (s_ms S) (fun q hq => (hI.2.2.2.2.1 q hq).1.2.1)
  unfold oN mN
  omega
/-- an L6 node that was never paused -/
theorem mN_np {c T P : Nat → Nat} {i : Nat} (hI : Inv S) (hR : Rest S) (hK : KS S c T P) (hi : i < s_n S) (hl : 2 * way S i < wayR S i) (hp : P i = 0) : mN S i ≤ T i := by
  obtain ⟨Lt, k, k1, k2⟩ := hK i hi
  obtain ⟨f, -, -, -, -, f5⟩ := k.2.2.2 hl
  have np : ∀ t ∈ Lt, t ≤ 0 := fun t ht => by
    refine Int.not_lt.mp fun hx => ?_
    have z : nLt Lt 0 6000000 = 0 := by omega
    unfold nLt at z
    rw [List.countP_eq_zero] at z
    have := z t ht
    have := k2 t ht
    simp at *
    omega
  have := f5 np
  have e : mN S i ≤ 1 * k6 S i Lt 3 := by
    unfold mN k6
    have := sum_le (F := fmM i) (G := fun q => 1 * fm6 i Lt 3 q) (l := s_ms S) (fun q hq => by
      unfold fmM fm6
      by_cases y : q.2.1 = i ∧ q.1 ≤ 3
      · rw [if_pos y, if_pos]
        · exact Nat.le_refl _
        · refine ⟨y.1, y.2, Or.inr (fun hx => ?_)⟩
          have a := np _ hx
          have b := hR.1 q hq
          have w := hI.2.2.2.1.1.1
          have b' : (now S).toInt < tmJ q := b
          omega
      · rw [if_neg y]
        exact Nat.zero_le _)
    rw [sum_mulc] at this
    exact this
  omega
/-- the next run's messages -/
theorem msg_ok (hW : WF L) (hL : LOK L c cl sl) (h64 : lgA L + 1 ≤ 64) {S0 : SS} (hP : PST L S0) : (s_ms S0).length + (s_dl S0).length + sN (s_n S0) (fun i => 4999 / wayR S0 i + 2) ≤ 5999 := by
  obtain ⟨hC, hg, hd, n1, n6, hb⟩ := hL
  obtain ⟨p1, ⟨hI, hR⟩, p3, p4, -, -, p7⟩ := hP
  rw [hC] at p1
  have cn := cst_ge (c := c)
  have bn := sN_ge (n := c.2.1.length) (m := 12) (F := bN c) (fun i hi => bN_12 hg hi)
  unfold lgA at h64
  have lm := len_ms hI
  obtain ⟨⟨w1, w2⟩, w3, w4, w5⟩ := hW
  rw [hC] at w1 w2 w3 w5
  have hn0 : s_n S0 = c.2.1.length := p1.2.1
  have hnC : s_n (SC c cl sl) = c.2.1.length := rfl
  rw [hnC] at w1 w2 w3 w5
  -- one node
  have one : ∀ i : Nat, i < c.2.1.length → (lgM L i = 0 → mN S0 i = 0) ∧ mN S0 i ≤ rmx (SC c cl sl) i * lgN L + (lgx L + lgy L) ∧ 4999 / wayR S0 i + 2 ≤ 113 ∧ rmx (SC c cl sl) i ≤ 113 ∧ (c.1 6 = 500 → rmx (SC c cl sl) i ≤ 13) ∧ ((ndC c i).1 ≤ 999 → rmx (SC c cl sl) i ≤ 101) ∧ (c.1 7 = 0 → (ndC c i).2.2 ≤ 22 → lgP L i = 0 → mN S0 i ≤ lgX L i + 1) := fun i hi => by
    have hi0 : i < s_n S0 := by omega
    have w := sc_ways (cl := cl) (sl := sl) hg hi
    obtain ⟨a1, a2⟩ := p4 i hi0
    have k := w5 i hi
    refine ⟨fun h => (a2 h).2, Nat.le_trans a1 k, ?_, (rm_45 w.1.1).1, fun h => (rm_454 (w.2.1 h).1).1, fun h => ?_, fun h7 hd2 hp => ?_⟩
    · rw [CC_wR p1]
      have : 4999 / wayR (SC c cl sl) i ≤ 4999 / 45 := Nat.div_le_div_left w.1.1 (by decide)
      omega
    · have := (rmx_le (C := SC c cl sl) (i := i) (R := 50) ⟨by decide, w.2.2.2 h⟩).1
      omega
    · refine mN_np (T := fun i => lgX L i + 1) hI hR p3 hi0 ?_ hp
      rw [CC_way p1, CC_wR p1, sc_way hg hi, h7]
      have := w.1.1
      omega
  have s2 : sN (s_n S0) (fun i => 4999 / wayR S0 i + 2) ≤ c.2.1.length * 113 := by
    rw [hn0, ← sN_cs]
    exact sN_le (fun i hi => (one i hi).2.2.1)
  rw [hn0] at lm
  -- the sum, roughly
  have rough : ∀ rm : Nat, (∀ i : Nat, i < c.2.1.length → rmx (SC c cl sl) i ≤ rm) → sN c.2.1.length (mN S0) ≤ c.2.1.length * (rm * lgN L + (lgx L + lgy L)) := fun rm h => by
    rw [← sN_cs]
    refine sN_le (fun i hi => Nat.le_trans (one i hi).2.1 ?_)
    have := Nat.mul_le_mul_right (lgN L) (h i hi)
    omega
  have lin : ∀ i : Nat, i < c.2.1.length → mN S0 i ≤ 113 * lgN L + (lgx L + lgy L) ∧ ((ndC c i).1 ≤ 999 → mN S0 i ≤ 101 * lgN L + (lgx L + lgy L)) ∧ (3 ≤ dN (ndC c i).1 ∧ (1000 ≤ (ndC c i).1 → 4 ≤ dN (ndC c i).1)) ∧ (10 ≤ (ndC c i).2.2 → 2 ≤ dN (ndC c i).2.2) ∧ 1 ≤ dN (ndC c i).2.2 := fun i hi => by
    obtain ⟨-, a, -, b, -, d, -⟩ := one i hi
    refine ⟨?_, fun h => ?_, dN_r hg hi, fun h => dN_ge (by omega) (by decide) (by decide), dN_pos⟩
    · have := Nat.mul_le_mul_right (lgN L) b
      omega
    · have := Nat.mul_le_mul_right (lgN L) (d h)
      omega
  clear w5
  by_cases f4 : c.2.2 4 = true
  · rw [if_pos f4] at cn
    have r113 := rough 113 (fun i hi => (one i hi).2.2.2.1)
    have j0 : c.1 7 = 0 ∨ 8 ≤ (if c.2.2 5 = true then 7 + dN (c.1 7) else 0) := by
      by_cases f5 : c.2.2 5 = true
      · right
        rw [if_pos f5]
        have := dN_pos (v := c.1 7)
        omega
      · exact Or.inl (hd.2.2.2.2 (by simpa using f5))
    obtain ⟨n, hn⟩ : ∃ n, c.2.1.length = n := ⟨_, rfl⟩
    rw [hn] at w1 w2 w3 lm cn bn s2 r113 one n1 n6 lin
    have : n = 1 ∨ n = 2 ∨ n = 3 ∨ n = 4 := by omega
    rcases this with rfl | rfl | rfl | rfl
    · omega
    · rw [sN2] at lm w2 w3 w1 cn
      obtain ⟨a0, -, -, -, -, -, s0⟩ := one 0 (by decide)
      obtain ⟨a1, -, -, -, -, -, s1⟩ := one 1 (by decide)
      obtain ⟨b0, c0, ⟨d0, e0⟩, g0, k0⟩ := lin 0 (by decide)
      obtain ⟨b1, c1, ⟨d1, e1⟩, g1, k1⟩ := lin 1 (by decide)
      unfold bN at cn
      rcases j0 with j0 | j0
      · have s0 := s0 j0
        have s1 := s1 j0
        clear one lin r113 rough
        omega
      · clear one lin r113 rough s0 s1
        omega
    · rw [sN_s, sN2] at lm w2 w1
      have a0 := (one 0 (by decide)).1
      have a1 := (one 1 (by decide)).1
      have a2 := (one 2 (by decide)).1
      have b0 := (lin 0 (by decide)).1
      have b1 := (lin 1 (by decide)).1
      have b2 := (lin 2 (by decide)).1
      clear one lin r113 rough
      omega
    · omega
  · have h6 := hd.2.2.2.1 (by simpa using f4)
    have r13 := rough 13 (fun i hi => (one i hi).2.2.2.2.1 h6)
    obtain ⟨n, hn⟩ : ∃ n, c.2.1.length = n := ⟨_, rfl⟩
    rw [hn] at lm cn bn s2 r13 n1 n6
    have : n = 1 ∨ n = 2 ∨ n = 3 ∨ n = 4 ∨ n = 5 := by omega
    clear one lin rough
    rcases this with rfl | rfl | rfl | rfl | rfl <;> omega
/-- at the start -/
theorem msg_csP (hW : WF L) (hC : lgC L = SC csP cl sl) (h64 : lgA L + 1 ≤ 64) {S0 : SS} (hP : PST L S0) : (s_ms S0).length + (s_dl S0).length + sN (s_n S0) (fun i => 4999 / wayR S0 i + 2) ≤ 5999 := by
  obtain ⟨p1, ⟨hI, hR⟩, p3, p4, -, -, p7⟩ := hP
  rw [hC] at p1
  unfold lgA at h64
  have lm := len_ms hI
  have w5 := hW.2.2.2
  rw [hC] at w5
  have hn0 : s_n S0 = 1 := p1.2.1
  have w := sc_ways (c := csP) (cl := cl) (sl := sl) RGCP (i := 0) (by decide)
  have r := (rm_454 (w.2.1 (by decide)).1).1
  have k := w5 0 (show 0 < 1 from by decide)
  have m := (p4 0 (by omega)).1
  have e : 4999 / wayR S0 0 + 2 ≤ 113 := by
    rw [CC_wR p1]
    have : 4999 / wayR (SC csP cl sl) 0 ≤ 4999 / 45 := Nat.div_le_div_left w.1.1 (by decide)
    omega
  have q := Nat.mul_le_mul_right (lgN L) r
  rw [hn0, sN1] at lm
  rw [hn0, sN1]
  omega
end MSG
