/-! ROOM: plans: sums over nodes, pairs -/
set_option maxRecDepth 100000
section PLS
variable {C : SS} {i : Nat} {cond : Nat → Nat → Prop} {t : List LR} {kds : Nat → List LK1} {rm R per p z q c0 H : Nat}
/-- sparse, with jitter -/
theorem node_SJ (ht : lpT 1000 rm kds t = true) (hk : ∀ n : Nat, ([(c0, 10, 0, 0)], 1) ∈ kds n ∧ (ncL 0 18 (rm * n + 64), 0) ∈ kds n) (hq : 0 < q ∧ q ≤ spN C i ∧ q ≤ wayR C i) (hc0 : 14 * ((4999 + q) / q) ≤ c0) (hrm : rmx C i ≤ rm) (hH : H + 1 ≤ t.length) : NODEOK C i cond H (lpa t) (lpb t) 11 0 := by
  intro L S0 S1 f F r l A xx sh adv j hC hw hx hc hcond hj hi
  obtain ⟨c1, c2, c3, -⟩ := hc
  rw [hC] at c1
  have hi0 : i < s_n S0 := by rw [c1.2.1]; exact hi
  obtain ⟨⟨f1, f2⟩, n1, n2, n3, n4, n5, n6, n7⟩ := c3 i hi0
  obtain ⟨k1, k2⟩ := node_K (H := H) hC hw hx hi hrm hH hj
  have py := hw.py (i := i) (by rw [hC]; exact hi)
  have hl : l i ≤ lgP L i := n1.2.2.2.2.2.2.2.2.2
  obtain ⟨g1, g3⟩ := hk (t.length - (j + 2))
  have sp := n1.2.2.2.2.2.2.2.2.1 q (by rw [CC_sp c1]; exact hq.2.1) (by rw [CC_wR c1]; exact hq.2.2)
  have spd : F i - l i ≤ (4999 + q) / q := by
    rw [Nat.le_div_iff_mul_le hq.1, Nat.mul_comm]
    exact sp
  have fr : f i + r i ≤ rm := by
    have r1 := (n1.2.1 (wayR S0 i) (by have := (wayR_45 c2 hi0).1; omega) (Nat.le_refl _)).2
    refine Nat.le_trans ?_ hrm
    unfold rmx
    rw [← CC_wR (i := i) c1, ← CC_way (i := i) c1]
    by_cases k : 2 * way S0 i < wayR S0 i
    · rw [if_pos k]
      omega
    · rw [if_neg k, f2 (Or.inl k)]
      omega
  obtain ⟨s1, s2⟩ := sh_le (L := L) n1 n7
  have il := iN_le (S := S0) (i := i)
  have xk : xx i ≤ xF S0 i * lgK L i := Nat.le_trans n4 (Nat.mul_le_mul_left _ n2)
  unfold xF at xk
  obtain ⟨M, hM⟩ : ∃ M, rm * (t.length - (j + 2)) + 64 = M := ⟨_, rfl⟩
  rw [hM] at g3 k2
  have fl : l i ≤ F i := by
    have := n1.1.2
    omega
  by_cases hcn : s_nd S0 i 3 = 0
  · obtain ⟨z1, z2, z3⟩ := NU_nc n1 hcn
    rw [if_pos hcn] at xk
    have h := lp_step0 ht (w := 9 * lgK L i) (rho := 0) (K := lgK L i) k1 g3 (fun b hb => by
      unfold ncL at hb
      rcases List.mem_cons.mp hb with rfl | hb
      · show 2 * (9 * lgK L i) + 0 * 0 ≤ 0 + 18 * lgK L i + 0 * 0
        omega
      · rw [List.mem_singleton.mp hb]
        show 2 * (9 * lgK L i) + 0 * 0 ≤ 0 + 18 * M + 0 * lgK L i + 0 * 0
        omega) (Nat.zero_le _) (a := 0) (Nat.le_refl _)
    rw [z2, f2 (Or.inr hcn), Nat.mul_zero]
    rw [Nat.mul_zero] at h
    omega
  · rw [if_neg hcn] at xk
    have h := lp_step0 ht (w := 7 * (F i - l i) + 4 * aqN S0 i + xx i) (rho := f i + r i) (K := lgK L i) k1 g1 (fun b hb => by
      rw [List.mem_singleton.mp hb]
      show 2 * (7 * (F i - l i) + 4 * aqN S0 i + xx i) + 0 * (f i + r i) ≤ c0 + 10 * lgK L i + 0 * (f i + r i)
      omega) fr (a := adv) (Nat.mul_le_mul_right _ s1)
    omega
theorem plan_sum {af : Nat → Bool} {aa bb : Nat → Nat → Nat} {e1 e2 : Nat} (h : ∀ i : Nat, i < s_n C → af i = true → NODEOK C i cond H (aa i) (bb i) e1 e2) :
    STEPOK C cond (fun i => af i = true) H (fun j => sN (s_n C) (fun i => if af i = true then aa i j else 0)) (fun j i => if af i = true then bb i j else 0) (s_n C * e1 + e2) (e2 * s_n C) := by
  intro L S0 S1 f F r l A xx sh adv j hC hw hx hc hcond hA hj
  have key : ∀ i : Nat, i < s_n C → 2000 * sh i + (if af i = true then aa i j else 0) + (if af i = true then bb i j else 0) * (lgK L i + adv * (f i + r i)) ≤ (if af i = true then aa i (j + 1) else 0) + (if af i = true then bb i (j + 1) else 0) * lgK L i + 2000 * (e1 * (lgx L + lgy L) + e2 * (lgX L i + 1)) := fun i hi => by
    by_cases ha : af i = true
    · rw [if_pos ha, if_pos ha, if_pos ha, if_pos ha]
      exact h i hi ha L S0 S1 f F r l A xx sh adv j hC hw hx hc hcond hj hi
    · rw [if_neg ha, if_neg ha, if_neg ha, if_neg ha]
      have x0 : lgM L i = 0 := Decidable.byContradiction fun hne => ha (hA i hi hne)
      obtain ⟨c1, c2, c3, -⟩ := hc
      rw [hC] at c1
      obtain ⟨-, n1, n2, n3, n4, n5, n6, n7⟩ := c3 i (by rw [c1.2.1]; exact hi)
      obtain ⟨z1, z2⟩ := n6 x0
      obtain ⟨y1, -, -⟩ := NU_nc n1 z1
      rw [z2, Nat.mul_zero] at n4
      have il := iN_le (S := S0) (i := i)
      have s2 := (sh_le (L := L) n1 n7).2
      omega
  have s := sN_le (n := s_n C) key
  rw [sN_add, sN_add, sN_mul, sN_add, sN_add, sN_mul, sN_add, sN_mul, sN_cs] at s
  have w1 := hw.1.1
  rw [hC] at w1
  have ex : sN (s_n C) (fun i => lgX L i + 1) = sN (s_n C) (lgX L) + s_n C := by
    rw [sN_add, sN_cs, Nat.mul_one]
  have es : sN (s_n C) (fun i => e2 * (lgX L i + 1)) = e2 * (sN (s_n C) (lgX L) + s_n C) := by rw [sN_mul, ex]
  rw [es] at s
  have m1 : e2 * (sN (s_n C) (lgX L) + s_n C) ≤ e2 * (lgx L + lgy L) + e2 * s_n C := by
    rw [← Nat.mul_add]
    exact Nat.mul_le_mul_left _ (by omega)
  have m2 : (s_n C * e1 + e2) * (lgx L + lgy L) = s_n C * (e1 * (lgx L + lgy L)) + e2 * (lgx L + lgy L) := by rw [Nat.add_mul, Nat.mul_assoc]
  have m3 : s_n C * (e1 * (lgx L + lgy L)) = e1 * (s_n C * (lgx L + lgy L)) := Nat.mul_left_comm _ _ _
  rw [m2, m3]
  dsimp only
  omega
/-- a pair's law out of the run's -/
theorem par_of {S0 : SS} {F r l : Nat → Nat} {lam d : Nat} (hn : s_n S0 = 2) (h : ∃ home : Nat, ∀ j : Nat, j < s_n S0 → j ≠ home → 2 * ((F j - r j - l j : Nat) : Int) ≤ lam + way S0 j + 2) (hd : ∀ j : Nat, j < 2 → (lam : Int) + way S0 j + 2 ≤ 2 * d + 1) : PAR (F 0) (r 0) (l 0) (F 1) (r 1) (l 1) d := by
  obtain ⟨home, hh⟩ := h
  unfold PAR
  by_cases h0 : (0 : Nat) = home
  · right
    have a := hh 1 (by omega) (by omega)
    have b := hd 1 (by decide)
    omega
  · left
    have a := hh 0 (by omega) h0
    have b := hd 0 (by decide)
    omega
theorem sN2 {f : Nat → Nat} : sN 2 f = f 0 + f 1 := by
  rw [sN_s, sN_s]
  show 0 + f 0 + f 1 = _
  omega
theorem plan_P {lam d Fs : Nat} (ht : lpT 1000 rm kds t = true) (hk : ∀ n : Nat, (pavL Fs R per, 1) ∈ kds n ∧ (pprL Fs per, 0) ∈ kds n ∧ (navL R per (112 * n + 64), 1) ∈ kds n ∧ (nprL per (112 * n + 64), 0) ∈ kds n) (hn : s_n C = 2)
    (hR : 45 ≤ R ∧ R ≤ wayR C 0 ∧ R ≤ wayR C 1) (hp : 0 < p ∧ p ≤ perN C 0 ∧ p ≤ perN C 1) (hper : 4999 / p + 1 ≤ per) (hrm : 2 * (4999 / R + 1) ≤ rm) (hL6 : ∀ i : Nat, i < 2 → ¬ 2 * way C i < wayR C i) (hj0 : (s_cf C 7).toInt = 0)
    (q0 : s_cf C 0 = 1000) (q1 : s_cf C 1 = 0) (q3 : s_cf C 3 = 5000) (hlam : ∀ x y : Nat, cond x y → (x + y ≤ 3 ∧ lam = 0) ∨ ∀ i : Nat, i < 2 → way C i ≤ lam) (hd : ∀ j : Nat, j < 2 → (lam : Int) + way C j + 2 ≤ 2 * d + 1) (hFs : 2500 + d + (4999 / R + 1) ≤ Fs) (hH : H + 1 ≤ t.length) (hH2 : t.length ≤ 28) :
    STEPOK C cond (fun _ => True) H (lpa t) (fun j _ => lpb t j) 22 0 := by
  intro L S0 S1 f F r l A xx sh adv j hC hw hx hc hcond hA hj
  obtain ⟨c1, c2, c3, c4⟩ := hc
  rw [hC] at c1
  have n0 : s_n S0 = 2 := c1.2.1.trans hn
  have j0 : (s_cf S0 7).toInt = 0 := by rw [c1.1]; exact hj0
  obtain ⟨⟨f1, f2⟩, a1, a2, a3, a4, a5, a6, a7⟩ := c3 0 (by omega)
  obtain ⟨⟨g1, g2⟩, b1, b2, b3, b4, b5, b6, b7⟩ := c3 1 (by omega)
  have rx : ∀ i : Nat, i < 2 → R ≤ wayR C i → rmx C i ≤ 112 := fun i hi hr => by
    have := (rmx_le (C := C) (i := i) (R := 45) ⟨by decide, by omega⟩).2 (hL6 i hi)
    omega
  obtain ⟨k1, k2⟩ := node_K (t := t) (H := H) (i := 0) hC hw hx (by omega) (rx 0 (by decide) hR.2.1) hH hj
  obtain ⟨-, k3⟩ := node_K (t := t) (H := H) (i := 1) hC hw hx (by omega) (rx 1 (by decide) hR.2.2) hH hj
  have p0 := hw.py (i := 0) (by rw [hC]; omega)
  have p1 := hw.py (i := 1) (by rw [hC]; omega)
  have l0 : l 0 ≤ lgP L 0 := a1.2.2.2.2.2.2.2.2.2
  have l1 : l 1 ≤ lgP L 1 := b1.2.2.2.2.2.2.2.2.2
  have s0 : (adv = 1 ∧ sh 0 ≤ 7 * F 0 + xx 0) ∨ (adv = 0 ∧ sh 0 ≤ 3 * F 0 + 4 * A 0 + xx 0) := by
    rcases a7 with ⟨-, q⟩ | ⟨q, -⟩
    · exact q
    · exact absurd j0 q
  have s1 : (adv = 1 ∧ sh 1 ≤ 7 * F 1 + xx 1) ∨ (adv = 0 ∧ sh 1 ≤ 3 * F 1 + 4 * A 1 + xx 1) := by
    rcases b7 with ⟨-, q⟩ | ⟨q, -⟩
    · exact q
    · exact absurd j0 q
  have e0 : f 0 = 0 := f2 (Or.inl (by rw [CC_way c1, CC_wR c1]; exact hL6 0 (by decide)))
  have e1 : f 1 = 0 := g2 (Or.inl (by rw [CC_way c1, CC_wR c1]; exact hL6 1 (by decide)))
  rw [hn, sN2, sN2, sN2]
  have h := cls_P (f := f) (c := fun _ => lgx L + lgy L) (sh := sh 0 + sh 1) (adv := adv) (M := 112 * (t.length - (j + 2)) + 64) (d := d) (e := 22 * (lgx L + lgy L)) ht (hk (t.length - (j + 2))) a1 b1 ⟨e0, e1⟩ ⟨by omega, by rw [CC_wR c1]; exact hR.2.1, by rw [CC_wR c1]; exact hR.2.2⟩ ⟨hp.1, by rw [CC_per c1]; exact hp.2.1, by rw [CC_per c1]; exact hp.2.2⟩ hper hrm j0 ⟨a3 j0, b3 j0⟩ ⟨a2, b2⟩ ⟨Nat.le_trans a4 (Nat.mul_le_mul_left _ a2), Nat.le_trans b4 (Nat.mul_le_mul_left _ b2)⟩ ⟨k2, k3, by omega⟩ k1
    (fun x1 x2 => par_of n0 (c4 lam (by rw [c1.1]; exact q0) (by rw [c1.1]; exact q1) (by rw [c1.1]; exact q3) (fun i hi => by
      have : i = 0 ∨ i = 1 := by omega
      rcases this with rfl | rfl
      · exact x1
      · exact x2) (by
      rcases hlam _ _ hcond with ⟨y1, y2⟩ | y
      · exact Or.inl ⟨y1, n0⟩
      · exact Or.inr (fun i hi => by rw [CC_way c1]; exact y i (by omega)))) (fun j hj => by rw [CC_way c1]; exact hd j hj)) hFs
    (by
      rcases s0 with ⟨h1, q0⟩ | ⟨h1, q0⟩
      · rcases s1 with ⟨-, q1⟩ | ⟨h2, q1⟩
        · exact Or.inl ⟨h1, by omega⟩
        · omega
      · rcases s1 with ⟨h2, q1⟩ | ⟨-, q1⟩
        · omega
        · exact Or.inr ⟨h1, by omega⟩) (by show 4 * (lgx L + lgy L) + 7 * l 0 + (4 * (lgx L + lgy L) + 7 * l 1) ≤ _; omega)
  rw [e0, e1, Nat.zero_add, Nat.zero_add]
  have m1 : lpb t j * (lgK L 0 + lgK L 1 + adv * (r 0 + r 1)) = lpb t j * (lgK L 0 + adv * r 0) + lpb t j * (lgK L 1 + adv * r 1) := by
    rw [← Nat.mul_add]
    congr 1
    rw [Nat.mul_add]
    omega
  have m2 : lpb t (j + 1) * (lgK L 0 + lgK L 1) = lpb t (j + 1) * lgK L 0 + lpb t (j + 1) * lgK L 1 := Nat.mul_add _ _ _
  dsimp only
  omega
theorem plan_Pa {lam d : Nat} (ht : lpT 1000 rm kds t = true) (hk : ∀ n : Nat, ([(c0, 10, 0, 0)], 1) ∈ kds n) (hn : s_n C = 2)
    (hR : 454 ≤ R ∧ R ≤ wayR C 0 ∧ R ≤ wayR C 1) (hp : 45 ≤ perN C 0 ∧ 45 ≤ perN C 1) (hrm : 2 * (4999 / R + 1) ≤ rm) (hL6 : ∀ i : Nat, i < 2 → ¬ 2 * way C i < wayR C i)
    (q0 : s_cf C 0 = 1000) (q1 : s_cf C 1 = 0) (q3 : s_cf C 3 = 5000) (hlam : ∀ x y : Nat, cond x y → (x + y ≤ 3 ∧ lam = 0) ∨ ∀ i : Nat, i < 2 → way C i ≤ lam) (hd : ∀ j : Nat, j < 2 → (lam : Int) + way C j + 2 ≤ 2 * d + 1) (hFs : 14 * (2500 + d + (4999 / R + 1)) ≤ c0) (hc0 : 42000 ≤ c0) (hH : H + 1 ≤ t.length) (hH2 : t.length ≤ 28) :
    STEPOK C cond (fun _ => True) H (lpa t) (fun j _ => lpb t j) 22 0 := by
  intro L S0 S1 f F r l A xx sh adv j hC hw hx hc hcond hA hj
  obtain ⟨c1, c2, c3, c4⟩ := hc
  rw [hC] at c1
  have n0 : s_n S0 = 2 := c1.2.1.trans hn
  obtain ⟨⟨f1, f2⟩, a1, a2, a3, a4, a5, a6, a7⟩ := c3 0 (by omega)
  obtain ⟨⟨g1, g2⟩, b1, b2, b3, b4, b5, b6, b7⟩ := c3 1 (by omega)
  have rx : ∀ i : Nat, i < 2 → R ≤ wayR C i → rmx C i ≤ 12 := fun i hi hr => by
    have := (rmx_le (C := C) (i := i) (R := 454) ⟨by decide, by omega⟩).2 (hL6 i hi)
    omega
  obtain ⟨k1, k2⟩ := node_K (t := t) (H := H) (i := 0) hC hw hx (by omega) (rx 0 (by decide) hR.2.1) hH hj
  obtain ⟨-, k3⟩ := node_K (t := t) (H := H) (i := 1) hC hw hx (by omega) (rx 1 (by decide) hR.2.2) hH hj
  have p0 := hw.py (i := 0) (by rw [hC]; omega)
  have p1 := hw.py (i := 1) (by rw [hC]; omega)
  have l0 : l 0 ≤ lgP L 0 := a1.2.2.2.2.2.2.2.2.2
  have l1 : l 1 ≤ lgP L 1 := b1.2.2.2.2.2.2.2.2.2
  obtain ⟨s1, s2⟩ := sh_le (L := L) a1 a7
  obtain ⟨-, s3⟩ := sh_le (L := L) b1 b7
  have e0 : f 0 = 0 := f2 (Or.inl (by rw [CC_way c1, CC_wR c1]; exact hL6 0 (by decide)))
  have e1 : f 1 = 0 := g2 (Or.inl (by rw [CC_way c1, CC_wR c1]; exact hL6 1 (by decide)))
  rw [hn, sN2, sN2, sN2]
  have h := cls_Pa (f := f) (c := fun _ => lgx L + lgy L) (sh := sh 0 + sh 1) (adv := adv) (d := d) (e := 22 * (lgx L + lgy L)) ht (hk (t.length - (j + 2))) s1 a1 b1 ⟨e0, e1⟩ ⟨by omega, by rw [CC_wR c1]; exact hR.2.1, by rw [CC_wR c1]; exact hR.2.2⟩ ⟨by rw [CC_per c1]; exact hp.1, by rw [CC_per c1]; exact hp.2⟩ hrm ⟨a2, b2⟩ ⟨Nat.le_trans a4 (Nat.mul_le_mul_left _ a2), Nat.le_trans b4 (Nat.mul_le_mul_left _ b2)⟩ ⟨by omega, by omega⟩ k1
    (fun x1 x2 => par_of n0 (c4 lam (by rw [c1.1]; exact q0) (by rw [c1.1]; exact q1) (by rw [c1.1]; exact q3) (fun i hi => by
      have : i = 0 ∨ i = 1 := by omega
      rcases this with rfl | rfl
      · exact x1
      · exact x2) (by
      rcases hlam _ _ hcond with ⟨y1, y2⟩ | y
      · exact Or.inl ⟨y1, n0⟩
      · exact Or.inr (fun i hi => by rw [CC_way c1]; exact y i (by omega)))) (fun j hj => by rw [CC_way c1]; exact hd j hj)) hFs hc0
    (by omega) (by omega)
  rw [e0, e1, Nat.zero_add, Nat.zero_add]
  have m1 : lpb t j * (lgK L 0 + lgK L 1 + adv * (r 0 + r 1)) = lpb t j * (lgK L 0 + adv * r 0) + lpb t j * (lgK L 1 + adv * r 1) := by
    rw [← Nat.mul_add]
    congr 1
    rw [Nat.mul_add]
    omega
  have m2 : lpb t (j + 1) * (lgK L 0 + lgK L 1) = lpb t (j + 1) * lgK L 0 + lpb t (j + 1) * lgK L 1 := Nat.mul_add _ _ _
  dsimp only
  omega
end PLS
