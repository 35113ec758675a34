/-! ROOM: a call of one node against the tables -/
set_option maxRecDepth 100000
/-- the factor of a node's other costs -/
def xF (S : SS) (i : Nat) : Nat := if s_nd S i 3 = 0 then 5 else 1
section CLA
variable {S0 S : SS} {f c T P : Nat → Nat} {i F r l A K x sh e adv rm R per p z j : Nat} {t : List LR} {kds : Nat → List LK1}
/-- the end: from w to the share -/
theorem cls_end {w : Nat} (hs : sh ≤ w + e) (h : 1000 * (2 * w) + lpa t j + lpb t j * (K + adv * (f i + r)) ≤ lpa t (j + 1) + lpb t (j + 1) * K) : 2000 * sh + lpa t j + lpb t j * (K + adv * (f i + r)) ≤ lpa t (j + 1) + lpb t (j + 1) * K + 2000 * e := by
  omega
theorem lp_step0 (ht : lpT 1000 rm kds t = true) {w rho : Nat} (hr : j + 1 < t.length) {kd : LK1} (hk : kd ∈ kds (t.length - (j + 2))) (hb : ∀ b ∈ kd.1, 2 * w + b.2.2.2 * rho ≤ b.1 + b.2.1 * K + b.2.2.1 * rho) (hrm : rho ≤ rm) {a : Nat} (ha : a * rho ≤ kd.2 * rho) : 1000 * (2 * w) + lpa t j + lpb t j * (K + a * rho) ≤ lpa t (j + 1) + lpb t (j + 1) * K := by
  have h := lp_step ht hr hk hb hrm
  have m : lpb t j * (K + a * rho) ≤ lpb t j * (K + kd.2 * rho) := Nat.mul_le_mul_left _ (by omega)
  omega
theorem NU_nc (hN : NU S0 S f c T P i F r l A) (h : s_nd S0 i 3 = 0) : F = 0 ∧ r = 0 ∧ l = 0 := by
  obtain ⟨⟨-, h2⟩, -, -, -, -, -, -, h3, -⟩ := hN
  have := h3 h
  omega
/-- jitter 0, the timer's flag is not needed: advances and predictions -/
theorem cls_A (ht : lpT 1000 rm kds t = true) (hk : ∀ n : Nat, (advL R per z, 1) ∈ kds n ∧ (predL R per z, 0) ∈ kds n ∧ (z = 0 ∨ (ncL 4008 10 (rm * n + 64), 0) ∈ kds n)) (hz : z ≤ 1) (hR : 2 ≤ R ∧ R ≤ wayR S0 i) (hp : 0 < p ∧ p ≤ perN S0 i) (hper : 4999 / p + 1 ≤ per) (hrm : 4999 / R + 1 ≤ rm)
    (hN : NU S0 S f c T P i F r l A) (hf : f i = 0) (hj0 : (s_cf S0 7).toInt = 0) (hI : aqN S0 i ≤ 501 + c i) (hmK : mN S0 i ≤ K) (hx : x ≤ xF S0 i * K) (hx0 : z = 0 → x = 0 ∧ (s_nd S0 i 3 = 0 → mN S0 i = 0)) (hl : j + 1 < t.length) (hKn : K ≤ rm * (t.length - (j + 2)) + 64)
    (hs : (adv = 1 ∧ sh ≤ 7 * F + x) ∨ (adv = 0 ∧ sh ≤ 3 * F + 4 * A + x)) (he : 4 * c i + 7 * l ≤ e) :
    2000 * sh + lpa t j + lpb t j * (K + adv * (f i + r)) ≤ lpa t (j + 1) + lpb t (j + 1) * K + 2000 * e := by
  obtain ⟨k1, k2, k3⟩ := hk (t.length - (j + 2))
  obtain ⟨⟨n1, n2⟩, n3, n4, -, n6, n7, -, n9, -⟩ := id hN
  have n3 := n3 R hR.1 hR.2
  have n4 := n4 p hp.1 hp.2
  have n7 := n7 hj0
  rw [hf] at n4 ⊢
  rw [Nat.zero_add]
  have m1 : (4999 / p + 1) * (mN S0 i + 0 + r) ≤ per * (K + r) := Nat.mul_le_mul hper (by omega)
  rw [Nat.mul_add per K r] at m1
  have il := iN_le (S := S0) (i := i)
  obtain ⟨q, hq⟩ : ∃ q, (R - 2) * r = q := ⟨_, rfl⟩
  obtain ⟨u, hu⟩ : ∃ u, per * K = u := ⟨_, rfl⟩
  obtain ⟨v, hv⟩ : ∃ v, per * r = v := ⟨_, rfl⟩
  rw [hu, hv] at m1
  rw [hq] at n3
  -- a candidate (or nothing on its way)
  have cand : x ≤ z * K → 2000 * sh + lpa t j + lpb t j * (K + adv * r) ≤ lpa t (j + 1) + lpb t (j + 1) * K + 2000 * e := fun hxz => by
    have ez : 2 * z * K = 2 * (z * K) := Nat.mul_assoc 2 z K
    rcases hs with ⟨rfl, hs⟩ | ⟨rfl, hs⟩
    · have h := lp_step0 ht (w := 7 * F + x) (rho := r) (K := K) hl k1 (fun b hb => by
        unfold advL at hb
        rcases List.mem_cons.mp hb with rfl | hb
        · show 2 * (7 * F + x) + 0 * r ≤ 35000 + 2 * z * K + 0 * r
          omega
        rcases List.mem_cons.mp hb with rfl | hb
        · show 2 * (7 * F + x) + 7 * (R - 2) * r ≤ 7 * (4999 + R) + 2 * z * K + 0 * r
          have : 7 * (R - 2) * r = 7 * q := by rw [Nat.mul_assoc, hq]
          omega
        · rw [List.mem_singleton.mp hb]
          show 2 * (7 * F + x) + 0 * r ≤ 0 + (14 * per + 2 * z) * K + 14 * per * r
          have e1 : (14 * per + 2 * z) * K = 14 * u + 2 * (z * K) := by rw [Nat.add_mul, Nat.mul_assoc, hu, ez]
          have e2 : 14 * per * r = 14 * v := by rw [Nat.mul_assoc, hv]
          omega) (by omega) (a := 1) (Nat.le_refl _)
      omega
    · obtain ⟨A', hA⟩ : ∃ A', min A 2500 = A' := ⟨_, rfl⟩
      have h := lp_step0 ht (w := 3 * F + 4 * A' + x) (rho := r) (K := K) hl k2 (fun b hb => by
        unfold predL at hb
        rcases List.mem_cons.mp hb with rfl | hb
        · show 2 * (3 * F + 4 * A' + x) + 0 * r ≤ 35000 + 2 * z * K + 0 * r
          omega
        rcases List.mem_cons.mp hb with rfl | hb
        · show 2 * (3 * F + 4 * A' + x) + 3 * (R - 2) * r ≤ 3 * (4999 + R) + 20000 + 2 * z * K + 0 * r
          have : 3 * (R - 2) * r = 3 * q := by rw [Nat.mul_assoc, hq]
          omega
        rcases List.mem_cons.mp hb with rfl | hb
        · show 2 * (3 * F + 4 * A' + x) + 0 * r ≤ 0 + (14 * per + 8 + 2 * z) * K + 14 * per * r
          have e1 : (14 * per + 8 + 2 * z) * K = 14 * u + 8 * K + 2 * (z * K) := by rw [Nat.add_mul, Nat.add_mul, Nat.mul_assoc, hu, ez]
          have e2 : 14 * per * r = 14 * v := by rw [Nat.mul_assoc, hv]
          omega
        · rw [List.mem_singleton.mp hb]
          show 2 * (3 * F + 4 * A' + x) + 0 * r ≤ 20000 + (6 * per + 2 * z) * K + 6 * per * r
          have e1 : (6 * per + 2 * z) * K = 6 * u + 2 * (z * K) := by rw [Nat.add_mul, Nat.mul_assoc, hu, ez]
          have e2 : 6 * per * r = 6 * v := by rw [Nat.mul_assoc, hv]
          omega) (by omega) (a := 0) (Nat.le_refl _)
      omega
  by_cases z0 : z = 0
  · obtain ⟨x0, -⟩ := hx0 z0
    exact cand (by rw [x0]; exact Nat.zero_le _)
  · have z1 : z = 1 := by omega
    by_cases hc : s_nd S0 i 3 = 0
    · obtain ⟨f0, r0, l0⟩ := NU_nc hN hc
      have k3 : (ncL 4008 10 (rm * (t.length - (j + 2)) + 64), 0) ∈ kds (t.length - (j + 2)) := by
        rcases k3 with k | k
        · exact absurd k z0
        · exact k
      unfold xF at hx
      rw [if_pos hc] at hx
      obtain ⟨M, hM⟩ : ∃ M, rm * (t.length - (j + 2)) + 64 = M := ⟨_, rfl⟩
      rw [hM] at k3 hKn
      have h := lp_step0 ht (w := 2004 + 5 * K) (rho := 0) (K := K) hl k3 (fun b hb => by
        unfold ncL at hb
        rcases List.mem_cons.mp hb with rfl | hb
        · show 2 * (2004 + 5 * K) + 0 * 0 ≤ 4008 + 10 * K + 0 * 0
          omega
        · rw [List.mem_singleton.mp hb]
          show 2 * (2004 + 5 * K) + 0 * 0 ≤ 4008 + 10 * M + 0 * K + 0 * 0
          omega) (Nat.zero_le _) (a := 0) (Nat.le_refl _)
      rw [r0, Nat.mul_zero]
      rw [Nat.mul_zero] at h
      have : sh ≤ 2004 + 5 * K + e := by
        rcases hs with ⟨-, hs⟩ | ⟨-, hs⟩ <;> omega
      omega
    · unfold xF at hx
      rw [if_neg hc] at hx
      exact cand (by rw [z1]; exact hx)
/-- with jitter -/
theorem cls_B (ht : lpT 1000 rm kds t = true) (hk : ∀ n : Nat, (jitL R per, 1) ∈ kds n ∧ (ncL 0 18 (rm * n + 64), 0) ∈ kds n) (hR : 2 ≤ R ∧ R ≤ wayR S0 i) (hp : 0 < p ∧ p ≤ perN S0 i) (hper : 4999 / p + 1 ≤ per) (hrm : 4999 / R + 1 ≤ rm) (ha : adv ≤ 1)
    (hN : NU S0 S f c T P i F r l A) (hf : f i = 0) (hmK : mN S0 i ≤ K) (hx : x ≤ xF S0 i * K) (hl : j + 1 < t.length) (hKn : K ≤ rm * (t.length - (j + 2)) + 64) (hs : sh ≤ 7 * F + 4 * aqN S0 i + x) :
    2000 * sh + lpa t j + lpb t j * (K + adv * (f i + r)) ≤ lpa t (j + 1) + lpb t (j + 1) * K + 2000 * e := by
  obtain ⟨k1, k3⟩ := hk (t.length - (j + 2))
  obtain ⟨⟨n1, n2⟩, n3, n4, -⟩ := id hN
  have n3 := n3 R hR.1 hR.2
  have n4 := n4 p hp.1 hp.2
  rw [hf] at n4 ⊢
  rw [Nat.zero_add]
  have m1 : (4999 / p + 1) * (mN S0 i + 0 + r) ≤ per * (K + r) := Nat.mul_le_mul hper (by omega)
  rw [Nat.mul_add per K r] at m1
  have il := iN_le (S := S0) (i := i)
  obtain ⟨q, hq⟩ : ∃ q, (R - 2) * r = q := ⟨_, rfl⟩
  obtain ⟨u, hu⟩ : ∃ u, per * K = u := ⟨_, rfl⟩
  obtain ⟨v, hv⟩ : ∃ v, per * r = v := ⟨_, rfl⟩
  rw [hu, hv] at m1
  rw [hq] at n3
  unfold xF at hx
  by_cases hc : s_nd S0 i 3 = 0
  · obtain ⟨f0, r0, l0⟩ := NU_nc hN hc
    rw [if_pos hc] at hx
    obtain ⟨M, hM⟩ : ∃ M, rm * (t.length - (j + 2)) + 64 = M := ⟨_, rfl⟩
    rw [hM] at k3 hKn
    have h := lp_step0 ht (w := 9 * K) (rho := 0) (K := K) hl k3 (fun b hb => by
      unfold ncL at hb
      rcases List.mem_cons.mp hb with rfl | hb
      · show 2 * (9 * K) + 0 * 0 ≤ 0 + 18 * K + 0 * 0
        omega
      · rw [List.mem_singleton.mp hb]
        show 2 * (9 * K) + 0 * 0 ≤ 0 + 18 * M + 0 * K + 0 * 0
        omega) (Nat.zero_le _) (a := 0) (Nat.le_refl _)
    rw [r0, Nat.mul_zero]
    rw [Nat.mul_zero] at h
    omega
  · rw [if_neg hc] at hx
    have h := lp_step0 ht (w := 7 * F + 4 * aqN S0 i + x) (rho := r) (K := K) hl k1 (fun b hb => by
      unfold jitL at hb
      rcases List.mem_cons.mp hb with rfl | hb
      · show 2 * (7 * F + 4 * aqN S0 i + x) + 0 * r ≤ 35000 + 10 * K + 0 * r
        omega
      rcases List.mem_cons.mp hb with rfl | hb
      · show 2 * (7 * F + 4 * aqN S0 i + x) + 7 * (R - 2) * r ≤ 7 * (4999 + R) + 10 * K + 0 * r
        have : 7 * (R - 2) * r = 7 * q := by rw [Nat.mul_assoc, hq]
        omega
      · rw [List.mem_singleton.mp hb]
        show 2 * (7 * F + 4 * aqN S0 i + x) + 0 * r ≤ 0 + (14 * per + 10) * K + 14 * per * r
        have e1 : (14 * per + 10) * K = 14 * u + 10 * K := by rw [Nat.add_mul, Nat.mul_assoc, hu]
        have e2 : 14 * per * r = 14 * v := by rw [Nat.mul_assoc, hv]
        omega) (by omega) (a := adv) (Nat.mul_le_mul_right _ ha)
    omega
/-- one bound for candidates: c0 + k0 K (twice the cells) -/
theorem cls_1 {c0 k0 w : Nat} (ht : lpT 1000 rm kds t = true) (hk : ∀ n : Nat, ([(c0, k0, 0, 0)], adv) ∈ kds n) (hw : 2 * w ≤ c0 + k0 * K) (hrm : f i + r ≤ rm) (hl : j + 1 < t.length) (hs : sh ≤ w + e) :
    2000 * sh + lpa t j + lpb t j * (K + adv * (f i + r)) ≤ lpa t (j + 1) + lpb t (j + 1) * K + 2000 * e := by
  have h := lp_step0 ht (w := w) (rho := f i + r) (K := K) hl (hk (t.length - (j + 2))) (fun b hb => by
    rw [List.mem_singleton.mp hb]
    show 2 * w + 0 * (f i + r) ≤ c0 + k0 * K + 0 * (f i + r)
    omega) hrm (a := adv) (Nat.le_refl _)
  omega
end CLA
