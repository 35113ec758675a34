/-! ROOM: the classes of nodes against the ledger -/
set_option maxRecDepth 100000
def NODEOK (C : SS) (i : Nat) (cond : Nat → Nat → Prop) (H : Nat) (a b : Nat → Nat) (e1 e2 : Nat) : Prop :=
  ∀ (L : LG) (S0 S1 : SS) (f F r l A xx sh : Nat → Nat) (adv j : Nat), lgC L = C → WF L → lgx L + lgy L ≤ 64 → CFB L S0 S1 f F r l A xx sh adv → cond (lgx L) (lgy L) → j + lgN L + 1 ≤ H → i < s_n C →
    2000 * sh i + a j + b j * (lgK L i + adv * (f i + r i)) ≤ a (j + 1) + b (j + 1) * lgK L i + 2000 * (e1 * (lgx L + lgy L) + e2 * (lgX L i + 1))
section NDS
variable {C : SS} {i : Nat} {cond : Nat → Nat → Prop} {t : List LR} {kds : Nat → List LK1} {rm R per p z q c0 : Nat}
/-- l is at most y -/
theorem WF.py {L : LG} (h : WF L) (hi : i < s_n (lgC L)) : lgP L i ≤ lgy L := Nat.le_trans (sN_pos hi) h.2.1
theorem rmx_le (hR : 1 ≤ R ∧ R ≤ wayR C i) : rmx C i ≤ 4999 / R + 2 ∧ (¬ 2 * way C i < wayR C i → rmx C i ≤ 4999 / R + 1) := by
  have h : 4999 / wayR C i ≤ 4999 / R := Nat.div_le_div_left hR.2 hR.1
  unfold rmx
  refine ⟨by split <;> omega, fun k => ?_⟩
  rw [if_neg k]
  omega
theorem node_K {L : LG} {j H : Nat} (hC : lgC L = C) (hw : WF L) (hx : lgx L + lgy L ≤ 64) (hi : i < s_n C) (hr : rmx C i ≤ rm) (hH : H + 1 ≤ t.length) (hj : j + lgN L + 1 ≤ H) : j + 1 < t.length ∧ lgK L i ≤ rm * (t.length - (j + 2)) + 64 := by
  have a := hw.2.2.2 i (by rw [hC]; exact hi)
  rw [hC] at a
  have b : rmx C i * lgN L ≤ rm * (t.length - (j + 2)) := Nat.mul_le_mul hr (by omega)
  exact ⟨by omega, by omega⟩
/-- jitter 0, not L6 -/
theorem node_A (ht : lpT 1000 rm kds t = true) (hk : ∀ n : Nat, (advL R per z, 1) ∈ kds n ∧ (predL R per z, 0) ∈ kds n ∧ (z = 0 ∨ (ncL 4008 10 (rm * n + 64), 0) ∈ kds n)) (hz : z ≤ 1) (hR : 2 ≤ R ∧ R ≤ wayR C i) (hp : 0 < p ∧ p ≤ perN C i) (hper : 4999 / p + 1 ≤ per) (hrm : 4999 / R + 1 ≤ rm)
    (hL6 : ¬ 2 * way C i < wayR C i) (hj0 : (s_cf C 7).toInt = 0) (hcd : ∀ x y : Nat, cond x y → z = 0 → y = 0) {H : Nat} (hH : H + 1 ≤ t.length) : NODEOK C i cond H (lpa t) (lpb t) 11 0 := by
  intro L S0 S1 f F r l A xx sh adv j hC hw hx hc hcond hj hi
  obtain ⟨c1, c2, c3, -⟩ := hc
  rw [hC] at c1
  have hi0 : i < s_n S0 := by rw [c1.2.1]; exact hi
  obtain ⟨⟨f1, f2⟩, n1, n2, n3, n4, n5, n6, n7⟩ := c3 i hi0
  have f0 : f i = 0 := f2 (Or.inl (by rw [CC_way c1, CC_wR c1]; exact hL6))
  have j0 : (s_cf S0 7).toInt = 0 := by rw [c1.1]; exact hj0
  obtain ⟨k1, k2⟩ := node_K (H := H) hC hw hx hi (Nat.le_trans ((rmx_le (C := C) ⟨by omega, hR.2⟩).2 hL6) hrm) hH hj
  have py := hw.py (i := i) (by rw [hC]; exact hi)
  have hl : l i ≤ lgP L i := n1.2.2.2.2.2.2.2.2.2
  refine cls_A (f := f) (c := fun _ => lgx L + lgy L) ht hk hz ⟨hR.1, by rw [CC_wR c1]; exact hR.2⟩ ⟨hp.1, by rw [CC_per c1]; exact hp.2⟩ hper hrm n1 f0 j0 (n3 j0) n2 (Nat.le_trans n4 (Nat.mul_le_mul_left _ n2)) (fun z0 => n5 (hcd _ _ hcond z0)) k1 k2 ?_ (by show 4 * (lgx L + lgy L) + 7 * l i ≤ _; omega)
  rcases n7 with ⟨-, q⟩ | ⟨q, -⟩
  · exact q
  · exact absurd j0 q
/-- with jitter (or without), not L6 -/
theorem sh_le {S0 : SS} {L : LG} {f F r l A xx sh : Nat → Nat} {adv : Nat} {c T P : Nat → Nat} {S1 : SS} (n1 : NU S0 S1 f c T P i (F i) (r i) (l i) (A i)) (n7 : ((s_cf S0 7).toInt = 0 ∧ ((adv = 1 ∧ sh i ≤ 7 * F i + xx i) ∨ (adv = 0 ∧ sh i ≤ 3 * F i + 4 * A i + xx i))) ∨ ((s_cf S0 7).toInt ≠ 0 ∧ adv ≤ 1 ∧ sh i ≤ 7 * F i + 4 * aqN S0 i + xx i)) : adv ≤ 1 ∧ sh i ≤ 7 * F i + 4 * aqN S0 i + xx i := by
  have h6 := n1.2.2.2.2.1
  rcases n7 with ⟨-, ⟨h1, q⟩ | ⟨h1, q⟩⟩ | ⟨-, h1, q⟩
  · exact ⟨by omega, by omega⟩
  · exact ⟨by omega, by omega⟩
  · exact ⟨h1, q⟩
theorem node_B (ht : lpT 1000 rm kds t = true) (hk : ∀ n : Nat, (jitL R per, 1) ∈ kds n ∧ (ncL 0 18 (rm * n + 64), 0) ∈ kds n) (hR : 2 ≤ R ∧ R ≤ wayR C i) (hp : 0 < p ∧ p ≤ perN C i) (hper : 4999 / p + 1 ≤ per) (hrm : 4999 / R + 1 ≤ rm)
    (hL6 : ¬ 2 * way C i < wayR C i) {H : Nat} (hH : H + 1 ≤ t.length) : NODEOK C i cond H (lpa t) (lpb t) 0 0 := by
  intro L S0 S1 f F r l A xx sh adv j hC hw hx hc hcond hj hi
  obtain ⟨c1, c2, c3, -⟩ := hc
  rw [hC] at c1
  have hi0 : i < s_n S0 := by rw [c1.2.1]; exact hi
  obtain ⟨⟨f1, f2⟩, n1, n2, n3, n4, n5, n6, n7⟩ := c3 i hi0
  have f0 : f i = 0 := f2 (Or.inl (by rw [CC_way c1, CC_wR c1]; exact hL6))
  obtain ⟨k1, k2⟩ := node_K (H := H) hC hw hx hi (Nat.le_trans ((rmx_le (C := C) ⟨by omega, hR.2⟩).2 hL6) hrm) hH hj
  obtain ⟨s1, s2⟩ := sh_le (L := L) n1 n7
  have h := cls_B (e := 0) (f := f) (c := fun _ => lgx L + lgy L) ht hk ⟨hR.1, by rw [CC_wR c1]; exact hR.2⟩ ⟨hp.1, by rw [CC_per c1]; exact hp.2⟩ hper hrm s1 n1 f0 n2 (Nat.le_trans n4 (Nat.mul_le_mul_left _ n2)) k1 k2 s2
  omega
/-- sparse, jitter 0 -/
theorem node_S (ht : lpT 1000 rm kds t = true) (hk : ∀ n : Nat, ([(c0, 2, 0, 0)], 1) ∈ kds n ∧ ([(c0 + 4008, 2, 0, 0)], 0) ∈ kds n ∧ (ncL 4008 10 (rm * n + 64), 0) ∈ kds n) (hq : 0 < q ∧ q ≤ spN C i ∧ q ≤ wayR C i) (hc0 : 14 * ((4999 + q) / q) ≤ c0) (hrm : rmx C i ≤ rm) (hj0 : (s_cf C 7).toInt = 0) {H : Nat} (hH : H + 1 ≤ t.length) : NODEOK C i cond H (lpa t) (lpb t) 11 0 := by
  intro L S0 S1 f F r l A xx sh adv j hC hw hx hc hcond hj hi
  obtain ⟨c1, c2, c3, -⟩ := hc
  rw [hC] at c1
  have hi0 : i < s_n S0 := by rw [c1.2.1]; exact hi
  obtain ⟨⟨f1, f2⟩, n1, n2, n3, n4, n5, n6, n7⟩ := c3 i hi0
  have j0 : (s_cf S0 7).toInt = 0 := by rw [c1.1]; exact hj0
  obtain ⟨k1, k2⟩ := node_K (H := H) hC hw hx hi hrm hH hj
  have py := hw.py (i := i) (by rw [hC]; exact hi)
  have hl : l i ≤ lgP L i := n1.2.2.2.2.2.2.2.2.2
  have hI := n3 j0
  obtain ⟨g1, g2, g3⟩ := hk (t.length - (j + 2))
  have sp := n1.2.2.2.2.2.2.2.2.1 q (by rw [CC_sp c1]; exact hq.2.1) (by rw [CC_wR c1]; exact hq.2.2)
  have spd : F i - l i ≤ (4999 + q) / q := by
    rw [Nat.le_div_iff_mul_le hq.1, Nat.mul_comm]
    exact sp
  have a5 := n1.2.2.2.2.1
  have fr : f i + r i ≤ rm := by
    have r1 := (n1.2.1 (wayR S0 i) (by have := (wayR_45 c2 hi0).1; omega) (Nat.le_refl _)).2
    refine Nat.le_trans ?_ hrm
    unfold rmx
    rw [← CC_wR (i := i) c1, ← CC_way (i := i) c1]
    by_cases k : 2 * way S0 i < wayR S0 i
    · rw [if_pos k]
      omega
    · rw [if_neg k, f2 (Or.inl k)]
      omega
  have sh1 : (adv = 1 ∧ sh i ≤ 7 * F i + xx i) ∨ (adv = 0 ∧ sh i ≤ 3 * F i + 4 * A i + xx i) := by
    rcases n7 with ⟨-, q⟩ | ⟨q, -⟩
    · exact q
    · exact absurd j0 q
  have xk : xx i ≤ xF S0 i * lgK L i := Nat.le_trans n4 (Nat.mul_le_mul_left _ n2)
  unfold xF at xk
  obtain ⟨M, hM⟩ : ∃ M, rm * (t.length - (j + 2)) + 64 = M := ⟨_, rfl⟩
  rw [hM] at g3 k2
  have fl : l i ≤ F i := by
    have := n1.1.2
    omega
  by_cases hcn : s_nd S0 i 3 = 0
  · obtain ⟨z1, z2, z3⟩ := NU_nc n1 hcn
    rw [if_pos hcn] at xk
    have h := lp_step0 ht (w := 2004 + 5 * lgK L i) (rho := 0) (K := lgK L i) k1 g3 (fun b hb => by
      unfold ncL at hb
      rcases List.mem_cons.mp hb with rfl | hb
      · show 2 * (2004 + 5 * lgK L i) + 0 * 0 ≤ 4008 + 10 * lgK L i + 0 * 0
        omega
      · rw [List.mem_singleton.mp hb]
        show 2 * (2004 + 5 * lgK L i) + 0 * 0 ≤ 4008 + 10 * M + 0 * lgK L i + 0 * 0
        omega) (Nat.zero_le _) (a := 0) (Nat.le_refl _)
    rw [z2, f2 (Or.inr hcn), Nat.mul_zero]
    rw [Nat.mul_zero] at h
    have : sh i ≤ 2004 + 5 * lgK L i + 4 * (lgx L + lgy L) := by
      rcases sh1 with ⟨-, hs⟩ | ⟨-, hs⟩ <;> omega
    omega
  · rw [if_neg hcn] at xk
    rcases sh1 with ⟨rfl, hs⟩ | ⟨rfl, hs⟩
    · have h := lp_step0 ht (w := 7 * (F i - l i) + xx i) (rho := f i + r i) (K := lgK L i) k1 g1 (fun b hb => by
        rw [List.mem_singleton.mp hb]
        show 2 * (7 * (F i - l i) + xx i) + 0 * (f i + r i) ≤ c0 + 2 * lgK L i + 0 * (f i + r i)
        omega) fr (a := 1) (Nat.le_refl _)
      omega
    · have h := lp_step0 ht (w := 7 * (F i - l i) + 2004 + xx i) (rho := f i + r i) (K := lgK L i) k1 g2 (fun b hb => by
        rw [List.mem_singleton.mp hb]
        show 2 * (7 * (F i - l i) + 2004 + xx i) + 0 * (f i + r i) ≤ c0 + 4008 + 2 * lgK L i + 0 * (f i + r i)
        omega) fr (a := 0) (Nat.le_refl _)
      omega
/-- one bound for all: c0 + k0 K; q: what is bounded by the spacing, or by the tokens (e2) -/
theorem node_1 {k0 e2 : Nat} (ht : lpT 1000 rm kds t = true) (hk : ∀ n : Nat, ([(c0, k0, 0, 0)], 1) ∈ kds n) (hrm : rmx C i ≤ rm)
    (hw : ∀ (S0 S1 : SS) (f c T P : Nat → Nat) (F r l A x K : Nat), CC C S0 → NU S0 S1 f c T P i F r l A → x ≤ xF S0 i * mN S0 i → mN S0 i ≤ K → ((s_cf S0 7).toInt = 0 → aqN S0 i ≤ 501 + c i) → ∃ w : Nat, 2 * w ≤ c0 + k0 * K ∧ 7 * F + 4 * aqN S0 i + x ≤ w + 4 * c i + 7 * l + e2 * T i) {H : Nat} (hH : H + 1 ≤ t.length) : NODEOK C i cond H (lpa t) (lpb t) 11 e2 := by
  intro L S0 S1 f F r l A xx sh adv j hC hwf hx hc hcond hj hi
  obtain ⟨c1, c2, c3, -⟩ := hc
  rw [hC] at c1
  have hi0 : i < s_n S0 := by rw [c1.2.1]; exact hi
  obtain ⟨⟨f1, f2⟩, n1, n2, n3, n4, n5, n6, n7⟩ := c3 i hi0
  obtain ⟨k1, k2⟩ := node_K (H := H) hC hwf hx hi hrm hH hj
  have py := hwf.py (i := i) (by rw [hC]; exact hi)
  have hl : l i ≤ lgP L i := n1.2.2.2.2.2.2.2.2.2
  obtain ⟨s1, s2⟩ := sh_le (L := L) n1 n7
  have fr : f i + r i ≤ rm := by
    have r1 := (n1.2.1 (wayR S0 i) (by have := (wayR_45 c2 hi0).1; omega) (Nat.le_refl _)).2
    refine Nat.le_trans ?_ hrm
    unfold rmx
    rw [← CC_wR (i := i) c1, ← CC_way (i := i) c1]
    by_cases k : 2 * way S0 i < wayR S0 i
    · rw [if_pos k]
      omega
    · rw [if_neg k, f2 (Or.inl k)]
      omega
  obtain ⟨w, w1, w2⟩ := hw S0 S1 f _ _ _ (F i) (r i) (l i) (A i) (xx i) (lgK L i) c1 n1 n4 n2 n3
  have h := lp_step0 ht (w := w) (rho := f i + r i) (K := lgK L i) k1 (hk (t.length - (j + 2))) (fun b hb => by
    rw [List.mem_singleton.mp hb]
    show 2 * w + 0 * (f i + r i) ≤ c0 + k0 * lgK L i + 0 * (f i + r i)
    omega) fr (a := adv) (Nat.mul_le_mul_right _ s1)
  have w3 : 7 * F i + 4 * aqN S0 i + xx i ≤ w + 4 * (lgx L + lgy L) + 7 * l i + e2 * (lgX L i + 1) := w2
  omega
end NDS
