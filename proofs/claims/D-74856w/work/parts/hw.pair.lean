/-! ROOM: a call of a pair of nodes against the tables -/
set_option maxRecDepth 100000
/-- both are candidates: one node's G-fires end early; lam, L: the last RELEASE's time, the longest way -/
def PAR (F0 r0 l0 F1 r1 l1 : Nat) (d : Nat) : Prop := F0 ≤ d + r0 + l0 ∨ F1 ≤ d + r1 + l1
section PAI
variable {S0 S : SS} {f c T P : Nat → Nat} {F0 r0 l0 A0 K0 x0 F1 r1 l1 A1 K1 x1 sh e adv R per p d Fs M j rm : Nat} {t : List LR} {kds : Nat → List LK1}
/-- what both families need of one node -/
theorem nu_b {i F r l A K : Nat} (hN : NU S0 S f c T P i F r l A) (hf : f i = 0) (hR : 2 ≤ R ∧ R ≤ wayR S0 i) (hp : 0 < p ∧ p ≤ perN S0 i) (hper : 4999 / p + 1 ≤ per) (hmK : mN S0 i ≤ K) : F ≤ 2500 ∧ 2 * F + (R - 2) * r ≤ 4999 + R ∧ r ≤ 4999 / R + 1 ∧ F ≤ per * K + per * r ∧ A ≤ aqN S0 i + F ∧ aqN S0 i ≤ K ∧ (s_nd S0 i 3 = 0 → F = 0 ∧ r = 0 ∧ l = 0) ∧ l ≤ P i := by
  obtain ⟨⟨n1, n2⟩, n3, n4, -, n6, n7, -, n9, -, n10⟩ := id hN
  have n3 := n3 R hR.1 hR.2
  have n4 := n4 p hp.1 hp.2
  rw [hf] at n4
  have m1 : (4999 / p + 1) * (mN S0 i + 0 + r) ≤ per * (K + r) := Nat.mul_le_mul hper (by omega)
  rw [Nat.mul_add per K r] at m1
  have il := iN_le (S := S0) (i := i)
  exact ⟨by omega, n3.1, n3.2, by omega, by omega, by omega, NU_nc hN, n10⟩
/-- jitter 0 -/
theorem cls_P (ht : lpT 1000 rm kds t = true) (hk : (pavL Fs R per, 1) ∈ kds (t.length - (j + 2)) ∧ (pprL Fs per, 0) ∈ kds (t.length - (j + 2)) ∧ (navL R per M, 1) ∈ kds (t.length - (j + 2)) ∧ (nprL per M, 0) ∈ kds (t.length - (j + 2)))
    (h0 : NU S0 S f c T P 0 F0 r0 l0 A0) (h1 : NU S0 S f c T P 1 F1 r1 l1 A1) (hf : f 0 = 0 ∧ f 1 = 0) (hR : 2 ≤ R ∧ R ≤ wayR S0 0 ∧ R ≤ wayR S0 1) (hp : 0 < p ∧ p ≤ perN S0 0 ∧ p ≤ perN S0 1) (hper : 4999 / p + 1 ≤ per) (hrm : 2 * (4999 / R + 1) ≤ rm) (hj0 : (s_cf S0 7).toInt = 0)
    (hI : aqN S0 0 ≤ 501 + c 0 ∧ aqN S0 1 ≤ 501 + c 1) (hmK : mN S0 0 ≤ K0 ∧ mN S0 1 ≤ K1) (hx : x0 ≤ xF S0 0 * K0 ∧ x1 ≤ xF S0 1 * K1) (hM : K0 ≤ M ∧ K1 ≤ M ∧ M ≤ 3000) (hl : j + 1 < t.length)
    (hd : s_nd S0 0 3 ≠ 0 → s_nd S0 1 3 ≠ 0 → PAR F0 r0 l0 F1 r1 l1 d) (hFs : 2500 + d + (4999 / R + 1) ≤ Fs)
    (hs : (adv = 1 ∧ sh ≤ (7 * F0 + x0) + (7 * F1 + x1)) ∨ (adv = 0 ∧ sh ≤ (3 * F0 + 4 * A0 + x0) + (3 * F1 + 4 * A1 + x1))) (he : 4 * c 0 + 7 * l0 + (4 * c 1 + 7 * l1) ≤ e) :
    2000 * sh + lpa t j + lpb t j * (K0 + K1 + adv * (r0 + r1)) ≤ lpa t (j + 1) + lpb t (j + 1) * (K0 + K1) + 2000 * e := by
  obtain ⟨k1, k2, k3, k4⟩ := hk
  obtain ⟨a1, a2, a3, a4, a5, a6, a7, a8⟩ := nu_b h0 hf.1 ⟨hR.1, hR.2.1⟩ ⟨hp.1, hp.2.1⟩ hper hmK.1
  obtain ⟨b1, b2, b3, b4, b5, b6, b7, b8⟩ := nu_b h1 hf.2 ⟨hR.1, hR.2.2⟩ ⟨hp.1, hp.2.2⟩ hper hmK.2
  have A2 := h0.2.2.2.2.2.1 hj0
  have B2 := h1.2.2.2.2.2.1 hj0
  obtain ⟨q0, hq0⟩ : ∃ q, (R - 2) * r0 = q := ⟨_, rfl⟩
  obtain ⟨q1, hq1⟩ : ∃ q, (R - 2) * r1 = q := ⟨_, rfl⟩
  obtain ⟨u0, hu0⟩ : ∃ u, per * K0 = u := ⟨_, rfl⟩
  obtain ⟨u1, hu1⟩ : ∃ u, per * K1 = u := ⟨_, rfl⟩
  obtain ⟨v0, hv0⟩ : ∃ v, per * r0 = v := ⟨_, rfl⟩
  obtain ⟨v1, hv1⟩ : ∃ v, per * r1 = v := ⟨_, rfl⟩
  rw [hq0] at a2
  rw [hq1] at b2
  rw [hu0, hv0] at a4
  rw [hu1, hv1] at b4
  have eq : 7 * (R - 2) * (r0 + r1) = 7 * q0 + 7 * q1 := by rw [Nat.mul_add, Nat.mul_assoc, Nat.mul_assoc, hq0, hq1]
  have eu : ∀ k : Nat, (14 * per + k) * (K0 + K1) = 14 * u0 + 14 * u1 + (k * K0 + k * K1) := fun k => by
    rw [Nat.add_mul, Nat.mul_add, Nat.mul_assoc, Nat.mul_assoc, hu0, hu1, Nat.mul_add]
  have ev : 14 * per * (r0 + r1) = 14 * v0 + 14 * v1 := by rw [Nat.mul_add, Nat.mul_assoc, Nat.mul_assoc, hv0, hv1]
  unfold xF at hx
  obtain ⟨hx0, hx1⟩ := hx
  have rr : r0 + r1 ≤ rm := by omega
  by_cases hc : s_nd S0 0 3 ≠ 0 ∧ s_nd S0 1 3 ≠ 0
  · rw [if_neg hc.1] at hx0
    rw [if_neg hc.2] at hx1
    have hpar := hd hc.1 hc.2
    unfold PAR at hpar
    have hFF : F0 + F1 ≤ Fs + l0 + l1 := by omega
    rcases hs with ⟨rfl, hs⟩ | ⟨rfl, hs⟩
    · obtain ⟨w, hw⟩ : ∃ w, min (7 * F0 + x0 + (7 * F1 + x1)) (7 * Fs + x0 + x1) = w := ⟨_, rfl⟩
      have h := lp_step0 ht (w := w) (rho := r0 + r1) (K := K0 + K1) hl k1 (fun b hb => by
        unfold pavL at hb
        rcases List.mem_cons.mp hb with rfl | hb
        · show 2 * w + 0 * (r0 + r1) ≤ 14 * Fs + 2 * (K0 + K1) + 0 * (r0 + r1)
          omega
        rcases List.mem_cons.mp hb with rfl | hb
        · show 2 * w + 7 * (R - 2) * (r0 + r1) ≤ 14 * (4999 + R) + 2 * (K0 + K1) + 0 * (r0 + r1)
          omega
        · rw [List.mem_singleton.mp hb]
          show 2 * w + 0 * (r0 + r1) ≤ 0 + (14 * per + 2) * (K0 + K1) + 14 * per * (r0 + r1)
          have := eu 2
          omega) rr (a := 1) (Nat.le_refl _)
      omega
    · obtain ⟨w, hw⟩ : ∃ w, min (7 * F0 + 4 * aqN S0 0 + x0 + (7 * F1 + 4 * aqN S0 1 + x1)) (7 * Fs + 2004 + x0 + x1) = w := ⟨_, rfl⟩
      have h := lp_step0 ht (w := w) (rho := r0 + r1) (K := K0 + K1) hl k2 (fun b hb => by
        unfold pprL at hb
        rcases List.mem_cons.mp hb with rfl | hb
        · show 2 * w + 0 * (r0 + r1) ≤ 14 * Fs + 4008 + 2 * (K0 + K1) + 0 * (r0 + r1)
          omega
        · rw [List.mem_singleton.mp hb]
          show 2 * w + 0 * (r0 + r1) ≤ 0 + (14 * per + 10) * (K0 + K1) + 14 * per * (r0 + r1)
          have := eu 10
          omega) rr (a := 0) (by omega)
      omega
  · -- not both
    have key : (7 * F0 + x0) + (7 * F1 + x1) ≤ 17500 + (K0 + K1) + 4 * M ∧ 2 * ((7 * F0 + x0) + (7 * F1 + x1)) + (7 * q0 + 7 * q1) ≤ 7 * (4999 + R) + 8 * M + 2 * (K0 + K1) ∧ (7 * F0 + x0) + (7 * F1 + x1) ≤ 7 * u0 + 7 * u1 + 5 * (K0 + K1) + 7 * v0 + 7 * v1 ∧
        (3 * F0 + 4 * A0 + x0) + (3 * F1 + 4 * A1 + x1) ≤ 17500 + (K0 + K1) + 4 * M + 2004 + (4 * c 0 + 4 * c 1) := by
      by_cases c0 : s_nd S0 0 3 = 0
      · obtain ⟨z1, z2, z3⟩ := a7 c0
        have q00 : q0 = 0 := by rw [← hq0, z2, Nat.mul_zero]
        rw [if_pos c0] at hx0
        by_cases c1 : s_nd S0 1 3 = 0
        · obtain ⟨y1, y2, y3⟩ := b7 c1
          have q10 : q1 = 0 := by rw [← hq1, y2, Nat.mul_zero]
          rw [if_pos c1] at hx1
          refine ⟨by omega, by omega, by omega, by omega⟩
        · rw [if_neg c1] at hx1
          refine ⟨by omega, by omega, by omega, by omega⟩
      · have c1 : s_nd S0 1 3 = 0 := Decidable.byContradiction fun hh => hc ⟨c0, hh⟩
        obtain ⟨y1, y2, y3⟩ := b7 c1
        have q10 : q1 = 0 := by rw [← hq1, y2, Nat.mul_zero]
        rw [if_neg c0] at hx0
        rw [if_pos c1] at hx1
        refine ⟨by omega, by omega, by omega, by omega⟩
    obtain ⟨y1, y2, y3, y4⟩ := key
    rcases hs with ⟨rfl, hs⟩ | ⟨rfl, hs⟩
    · have h := lp_step0 ht (w := 7 * F0 + x0 + (7 * F1 + x1)) (rho := r0 + r1) (K := K0 + K1) hl k3 (fun b hb => by
        unfold navL at hb
        rcases List.mem_cons.mp hb with rfl | hb
        · show 2 * (7 * F0 + x0 + (7 * F1 + x1)) + 0 * (r0 + r1) ≤ 35000 + 8 * M + 2 * (K0 + K1) + 0 * (r0 + r1)
          omega
        rcases List.mem_cons.mp hb with rfl | hb
        · show 2 * (7 * F0 + x0 + (7 * F1 + x1)) + 7 * (R - 2) * (r0 + r1) ≤ 7 * (4999 + R) + 8 * M + 2 * (K0 + K1) + 0 * (r0 + r1)
          omega
        · rw [List.mem_singleton.mp hb]
          show 2 * (7 * F0 + x0 + (7 * F1 + x1)) + 0 * (r0 + r1) ≤ 0 + (14 * per + 10) * (K0 + K1) + 14 * per * (r0 + r1)
          have := eu 10
          omega) rr (a := 1) (Nat.le_refl _)
      omega
    · obtain ⟨w, hw⟩ : ∃ w, min (7 * F0 + 4 * aqN S0 0 + x0 + (7 * F1 + 4 * aqN S0 1 + x1)) (17500 + (K0 + K1) + 4 * M + 2004) = w := ⟨_, rfl⟩
      have h := lp_step0 ht (w := w) (rho := r0 + r1) (K := K0 + K1) hl k4 (fun b hb => by
        unfold nprL at hb
        rcases List.mem_cons.mp hb with rfl | hb
        · show 2 * w + 0 * (r0 + r1) ≤ 35000 + 8 * M + 4008 + 2 * (K0 + K1) + 0 * (r0 + r1)
          omega
        · rw [List.mem_singleton.mp hb]
          show 2 * w + 0 * (r0 + r1) ≤ 4008 + (14 * per + 18) * (K0 + K1) + 14 * per * (r0 + r1)
          have := eu 18
          omega) rr (a := 0) (by omega)
      omega
/-- with jitter -/
theorem cls_Pa {c0 : Nat} (ht : lpT 1000 rm kds t = true) (hk : ([(c0, 10, 0, 0)], 1) ∈ kds (t.length - (j + 2))) (ha : adv ≤ 1)
    (h0 : NU S0 S f c T P 0 F0 r0 l0 A0) (h1 : NU S0 S f c T P 1 F1 r1 l1 A1) (hf : f 0 = 0 ∧ f 1 = 0) (hR : 2 ≤ R ∧ R ≤ wayR S0 0 ∧ R ≤ wayR S0 1) (hp : 45 ≤ perN S0 0 ∧ 45 ≤ perN S0 1) (hrm : 2 * (4999 / R + 1) ≤ rm)
    (hmK : mN S0 0 ≤ K0 ∧ mN S0 1 ≤ K1) (hx : x0 ≤ xF S0 0 * K0 ∧ x1 ≤ xF S0 1 * K1) (hM : K0 ≤ 400 ∧ K1 ≤ 400) (hl : j + 1 < t.length)
    (hd : s_nd S0 0 3 ≠ 0 → s_nd S0 1 3 ≠ 0 → PAR F0 r0 l0 F1 r1 l1 d) (hFs : 14 * (2500 + d + (4999 / R + 1)) ≤ c0) (hc0 : 42000 ≤ c0)
    (hs : sh ≤ (7 * F0 + 4 * aqN S0 0 + x0) + (7 * F1 + 4 * aqN S0 1 + x1)) (he : 7 * l0 + 7 * l1 ≤ e) :
    2000 * sh + lpa t j + lpb t j * (K0 + K1 + adv * (r0 + r1)) ≤ lpa t (j + 1) + lpb t (j + 1) * (K0 + K1) + 2000 * e := by
  obtain ⟨a1, a2, a3, a4, a5, a6, a7, a8⟩ := nu_b (p := 45) (per := 112) h0 hf.1 ⟨hR.1, hR.2.1⟩ ⟨by decide, hp.1⟩ (by decide) hmK.1
  obtain ⟨b1, b2, b3, b4, b5, b6, b7, b8⟩ := nu_b (p := 45) (per := 112) h1 hf.2 ⟨hR.1, hR.2.2⟩ ⟨by decide, hp.2⟩ (by decide) hmK.2
  unfold xF at hx
  obtain ⟨hx0, hx1⟩ := hx
  have rr : r0 + r1 ≤ rm := by omega
  obtain ⟨w, hw⟩ : ∃ w, (7 * F0 + 4 * aqN S0 0 + x0) + (7 * F1 + 4 * aqN S0 1 + x1) - (7 * l0 + 7 * l1) = w := ⟨_, rfl⟩
  have key : 2 * w ≤ c0 + 10 * (K0 + K1) := by
    by_cases hc : s_nd S0 0 3 ≠ 0 ∧ s_nd S0 1 3 ≠ 0
    · rw [if_neg hc.1] at hx0
      rw [if_neg hc.2] at hx1
      have hpar := hd hc.1 hc.2
      unfold PAR at hpar
      omega
    · by_cases c0 : s_nd S0 0 3 = 0
      · obtain ⟨z1, z2, z3⟩ := a7 c0
        rw [if_pos c0] at hx0
        by_cases c1 : s_nd S0 1 3 = 0
        · obtain ⟨y1, y2, y3⟩ := b7 c1
          rw [if_pos c1] at hx1
          omega
        · rw [if_neg c1] at hx1
          omega
      · have c1 : s_nd S0 1 3 = 0 := Decidable.byContradiction fun hh => hc ⟨c0, hh⟩
        obtain ⟨y1, y2, y3⟩ := b7 c1
        rw [if_neg c0] at hx0
        rw [if_pos c1] at hx1
        omega
  have h := lp_step0 ht (w := w) (rho := r0 + r1) (K := K0 + K1) hl hk (fun b hb => by
    rw [List.mem_singleton.mp hb]
    show 2 * w + 0 * (r0 + r1) ≤ c0 + 10 * (K0 + K1) + 0 * (r0 + r1)
    omega) rr (a := adv) (Nat.mul_le_mul_right _ ha)
  omega
end PAI
