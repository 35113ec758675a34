/-! ROOM: how many bytes a configuration takes -/
set_option maxRecDepth 100000
/-- decimal digits (4: 4 or more) -/
def dN (v : Nat) : Nat := if v < 10 then 1 else if v < 100 then 2 else if v < 1000 then 3 else 4
theorem dN_pow {v n : Nat} (h : v < 10 ^ n) (hn : 1 ≤ n) : dN v ≤ n := by
  unfold dN
  by_cases c1 : v < 10
  · rw [if_pos c1]; exact hn
  rw [if_neg c1]
  have n1 : n ≠ 1 := fun hx => by rw [hx] at h; omega
  by_cases c2 : v < 100
  · rw [if_pos c2]; omega
  rw [if_neg c2]
  have n2 : n ≠ 2 := fun hx => by rw [hx] at h; omega
  by_cases c3 : v < 1000
  · rw [if_pos c3]; omega
  rw [if_neg c3]
  have n3 : n ≠ 3 := fun hx => by rw [hx] at h; omega
  omega
section BYS
variable {bf : Nat → Nat} {len : Nat}
def dig (bf : Nat → Nat) (len p : Nat) : Prop := 48 ≤ hb bf len p ∧ hb bf len p ≤ 57
theorem dgs_val : ∀ (f p v : Nat), p ≤ len → (dgs bf len f p v).1 + 1 ≤ (v + 1) * 10 ^ ((dgs bf len f p v).2 - p) := by
  intro f
  induction f with
  | zero =>
    intro p v hp
    unfold dgs
    rw [Nat.sub_self, Nat.pow_zero, Nat.mul_one]
    exact Nat.le_refl _
  | succ f ih =>
    intro p v hp
    unfold dgs
    split
    · next h =>
      have hl : p < len := by
        unfold hb at h
        split at h
        · assumption
        · omega
      have a := ih (p + 1) (10 * v + (hb bf len p - 48)) (by omega)
      have b := dgs_le (bf := bf) (len := len) f (p + 1) (10 * v + (hb bf len p - 48)) (by omega)
      obtain ⟨x, hx⟩ : ∃ x, dgs bf len f (p + 1) (10 * v + (hb bf len p - 48)) = x := ⟨_, rfl⟩
      rw [hx] at a b ⊢
      have e : x.2 - p = (x.2 - (p + 1)) + 1 := by omega
      have m : (10 * v + (hb bf len p - 48) + 1) * 10 ^ (x.2 - (p + 1)) ≤ (10 * (v + 1)) * 10 ^ (x.2 - (p + 1)) := Nat.mul_le_mul_right _ (by omega)
      have z : (10 * (v + 1)) * 10 ^ (x.2 - (p + 1)) = (v + 1) * 10 ^ (x.2 - p) := by
        rw [e, Nat.pow_succ, Nat.mul_comm 10 (v + 1), Nat.mul_assoc, Nat.mul_comm 10]
      omega
    · rw [Nat.sub_self, Nat.pow_zero, Nat.mul_one]
      exact Nat.le_refl _
theorem dgs_end : ∀ (f p v : Nat), p ≤ len → len - p < f → ¬ dig bf len (dgs bf len f p v).2 := by
  intro f
  induction f with
  | zero => intro p v hp h; omega
  | succ f ih =>
    intro p v hp h
    unfold dgs
    split
    · next hx =>
      have hl : p < len := by
        unfold hb at hx
        split at hx
        · assumption
        · omega
      exact ih (p + 1) _ (by omega) (by omega)
    · assumption
theorem nmb_cost {lo hi p : Nat} {d : Nat × Nat} (hp : p ≤ len) (hl : len ≤ 400) (h : nmb bf len lo hi p = .inr d) : p + dN d.1 ≤ d.2 ∧ d.2 ≤ len ∧ ¬ dig bf len d.2 ∧ (¬ dig bf len p → p + 1 + dN d.1 ≤ d.2) := by
  have h1 := sk_le (bf := bf) hp
  unfold nmb at h
  dsimp only at h
  obtain ⟨q, hq⟩ : ∃ q, sk bf len p = q := ⟨_, rfl⟩
  rw [hq] at h h1
  have h2 := dgs_le (bf := bf) FL q 0 h1.2
  have h3 := dgs_val (bf := bf) FL q 0 h1.2
  have h4 := dgs_end (bf := bf) FL q 0 h1.2 (by unfold FL; omega)
  obtain ⟨x, hx⟩ : ∃ x : Nat × Nat, dgs bf len FL q 0 = x := ⟨_, rfl⟩
  have h5 : ¬ dig bf len q → x.2 = q := fun hd => by
    rw [← hx]
    exact dgs_eq hd
  rw [hx] at h h2 h3 h4
  by_cases c : x.2 = q
  · rw [if_pos c] at h
    cases h
  · rw [if_neg c] at h
    by_cases c2 : lo ≤ x.1 ∧ x.1 ≤ hi
    · rw [if_pos c2] at h
      have k : dN x.1 ≤ x.2 - q := dN_pow (by omega) (by omega)
      rw [← Sum.inr.inj h]
      refine ⟨by omega, h2.2, h4, fun hd => ?_⟩
      have : q ≠ p := fun hx => c (h5 (by rw [hx]; exact hd))
      omega
    · rw [if_neg c2] at h
      cases h
/-- what a configuration takes (with its ends of statements) -/
def cst (c : CS) : Nat := (c.2.1.map (fun nd => 8 + dN nd.1 + dN nd.2.2)).sum + (if c.2.2 3 = true then 8 else 0) + (if c.2.2 4 = true then 8 else 0) + (if c.2.2 5 = true then 7 + dN (c.1 7) else 0) + (if c.2.2 2 = true then 11 else 0) + (if c.2.2 0 = true then 12 else 0)
/-- what was not met is as by default -/
def dft (c : CS) : Prop := (c.2.2 0 = false → c.1 0 = 1000 ∧ c.1 1 = 0) ∧ (c.2.2 2 = false → c.1 3 = 5000) ∧ (c.2.2 3 = false → c.1 5 = 2000) ∧ (c.2.2 4 = false → c.1 6 = 500) ∧ (c.2.2 5 = false → c.1 7 = 0)
theorem rd1_cost {c : CS} {k lo hi p : Nat} {d : CS × Nat} (hp : p ≤ len) (hl : len ≤ 400) (h : rd1 bf len c k lo hi p = .inr d) : ∃ v : Nat, d.1 = c_set c k v ∧ lo ≤ v ∧ p + dN v ≤ d.2 ∧ d.2 ≤ len ∧ ¬ dig bf len d.2 ∧ (¬ dig bf len p → p + 1 + dN v ≤ d.2) := by
  unfold rd1 at h
  cases hn : nmb bf len lo hi p with
  | inl e => rw [hn] at h; cases h
  | inr x =>
    rw [hn] at h
    cases h
    have a := nmb_cost hp hl hn
    exact ⟨x.1, rfl, (nmb_ok hp hn).1, a⟩
theorem rd2_cost {c : CS} {k lo hi k' lo' hi' p : Nat} {d : CS × Nat} (hp : p ≤ len) (hl : len ≤ 400) (h : rd2 bf len c k lo hi k' lo' hi' p = .inr d) : ∃ v w : Nat, d.1 = c_set (c_set c k v) k' w ∧ lo ≤ v ∧ p + dN v + 1 + dN w ≤ d.2 ∧ d.2 ≤ len := by
  unfold rd2 at h
  cases hn : rd1 bf len c k lo hi p with
  | inl e => rw [hn] at h; cases h
  | inr x =>
    rw [hn] at h
    obtain ⟨v, v1, v2, v3, v4, v5, -⟩ := rd1_cost hp hl hn
    obtain ⟨w, w1, -, -, w4, -, w6⟩ := rd1_cost v4 hl h
    have := w6 v5
    exact ⟨v, w, by rw [w1, v1], v2, by omega, w4⟩
theorem dN_pos {v : Nat} : 1 ≤ dN v := by
  unfold dN
  split
  · exact Nat.le_refl _
  · split
    · decide
    · split <;> decide
theorem dN_ge {v n : Nat} (h : 10 ^ (n - 1) ≤ v) (hn : 1 ≤ n) (h4 : n ≤ 4) : n ≤ dN v := by
  have : n = 1 ∨ n = 2 ∨ n = 3 ∨ n = 4 := by omega
  rcases this with rfl | rfl | rfl | rfl
  · exact dN_pos
  · unfold dN
    rw [if_neg (by omega)]
    split
    · decide
    · split <;> decide
  · unfold dN
    rw [if_neg (by omega), if_neg (by omega)]
    split <;> decide
  · unfold dN
    rw [if_neg (by omega), if_neg (by omega), if_neg (by omega)]
    decide
theorem wlen : ∀ k : Nat, k < 7 → (wd k).length = (if k = 0 then 6 else if k = 1 then 4 else if k = 5 then 6 else if k = 6 then 4 else 5) := by decide
theorem wix_len {a n k : Nat} (h : wix bf a n = k) (hk : k < 7) : n = (wd k).length := by
  unfold wix at h
  by_cases c0 : isW bf a n 0 = true
  · rw [if_pos c0] at h; subst h; exact (isW_iff.mp c0).1
  rw [if_neg c0] at h
  by_cases c1 : isW bf a n 1 = true
  · rw [if_pos c1] at h; subst h; exact (isW_iff.mp c1).1
  rw [if_neg c1] at h
  by_cases c2 : isW bf a n 2 = true
  · rw [if_pos c2] at h; subst h; exact (isW_iff.mp c2).1
  rw [if_neg c2] at h
  by_cases c3 : isW bf a n 3 = true
  · rw [if_pos c3] at h; subst h; exact (isW_iff.mp c3).1
  rw [if_neg c3] at h
  by_cases c4 : isW bf a n 4 = true
  · rw [if_pos c4] at h; subst h; exact (isW_iff.mp c4).1
  rw [if_neg c4] at h
  by_cases c5 : isW bf a n 5 = true
  · rw [if_pos c5] at h; subst h; exact (isW_iff.mp c5).1
  rw [if_neg c5] at h
  by_cases c6 : isW bf a n 6 = true
  · rw [if_pos c6] at h; subst h; exact (isW_iff.mp c6).1
  rw [if_neg c6] at h
  omega
/-- met flags and values that a statement leaves -/
theorem cst_set {c : CS} {k kk v : Nat} (h7 : kk ≠ 7) (hm : c.2.2 k = false) : cst (c_set (c_met c k) kk v) = cst c + (if k = 3 then 8 else if k = 4 then 8 else if k = 5 then 7 + dN (c.1 7) else if k = 2 then 11 else if k = 0 then 12 else 0) := by
  have e7 : fu c.1 kk v 7 = c.1 7 := fu_ne (Ne.symm h7)
  unfold cst c_set c_met
  dsimp only
  rw [e7]
  have f : ∀ j : Nat, fu c.2.2 k true j = if j = k then true else c.2.2 j := fun j => rfl
  simp only [f]
  by_cases k3 : k = 3
  · subst k3
    rw [hm]
    simp
    omega
  by_cases k4 : k = 4
  · subst k4
    rw [hm]
    simp
    omega
  by_cases k5 : k = 5
  · subst k5
    rw [hm]
    simp
    omega
  by_cases k2 : k = 2
  · subst k2
    rw [hm]
    simp
    omega
  by_cases k0 : k = 0
  · subst k0
    rw [hm]
    simp
  rw [if_neg (Ne.symm k3), if_neg (Ne.symm k4), if_neg (Ne.symm k5), if_neg (Ne.symm k2), if_neg (Ne.symm k0), if_neg k3, if_neg k4, if_neg k5, if_neg k2, if_neg k0]
  rfl
theorem cst_set2 {c : CS} {kk v : Nat} (h7 : kk ≠ 7) : cst (c_set c kk v) = cst c := by
  have e7 : fu c.1 kk v 7 = c.1 7 := fu_ne (Ne.symm h7)
  unfold cst c_set
  dsimp only
  rw [e7]
theorem cst_jit {c : CS} {v : Nat} (hm : c.2.2 5 = false) : cst (c_set (c_met c 5) 7 v) = cst c + (7 + dN v) := by
  have e7 : fu c.1 7 v 7 = v := fu_eq
  unfold cst c_set c_met
  dsimp only
  rw [e7]
  have f : ∀ j : Nat, fu c.2.2 5 true j = if j = 5 then true else c.2.2 j := fun j => rfl
  simp only [f, hm]
  simp
  omega
theorem cst_node {c : CS} {r o d : Nat} : cst (c_node (c_met c 1) r o d) = cst c + (8 + dN r + dN d) := by
  unfold cst c_node c_met
  dsimp only
  have f : ∀ j : Nat, fu c.2.2 1 true j = if j = 1 then true else c.2.2 j := fun j => rfl
  simp only [f]
  simp
  omega
theorem stm_cost {c : CS} {p : Nat} {d : CS × Nat} (hp : p ≤ len) (hl : len ≤ 400) (hd : dft c) (hx : stm bf len c p = .inr d) : cst d.1 ≤ cst c + (d.2 - p) + 1 ∧ p ≤ d.2 ∧ d.2 ≤ len ∧ dft d.1 := by
  unfold stm at hx
  dsimp only at hx
  have ha := sk_le (bf := bf) hp
  obtain ⟨a, ea⟩ : ∃ a, sk bf len p = a := ⟨_, rfl⟩
  rw [ea] at hx ha
  have hb' := wds_le (bf := bf) FL a ha.2
  obtain ⟨b, eb⟩ : ∃ b, wds bf len FL a = b := ⟨_, rfl⟩
  rw [eb] at hx hb'
  obtain ⟨k, hk⟩ : ∃ k, wix bf a (b - a) = k := ⟨_, rfl⟩
  rw [hk] at hx
  obtain ⟨t, ht⟩ : ∃ t, (if k = 1 then decide (c.2.1.length = 6) else c.2.2 k) = t := ⟨_, rfl⟩
  rw [ht] at hx
  by_cases c7 : k = 7
  · rw [if_pos c7] at hx; cases hx
  rw [if_neg c7] at hx
  by_cases ct : t = true
  · rw [if_pos ct] at hx; cases hx
  rw [if_neg ct] at hx
  have k7 : k < 7 := by
    have := wix_le (bf := bf) (a := a) (n := b - a)
    omega
  have wl := wix_len hk k7
  rw [wlen k k7] at wl
  have met : k ≠ 1 → c.2.2 k = false := fun h1 => by
    rw [if_neg h1] at ht
    cases hc : c.2.2 k with
    | false => rfl
    | true => exact absurd (ht.symm.trans hc) ct
  obtain ⟨d0, d2, d3, d4, d5⟩ := hd
  have F : ∀ (k' j : Nat) (w : Nat), fu c.1 k' w j = if j = k' then w else c.1 j := fun _ _ _ => rfl
  have M : ∀ (k' j : Nat), fu c.2.2 k' true j = if j = k' then true else c.2.2 j := fun _ _ => rfl
  unfold rdW at hx
  by_cases k0 : k = 0
  · subst k0
    rw [if_pos rfl] at hx
    obtain ⟨v, w, e, v1, v2, v3⟩ := rd2_cost hb'.2 hl hx
    have := dN_ge (v := v) (n := 3) (by omega) (by decide) (by decide)
    have := dN_pos (v := w)
    rw [e, cst_set2 (by decide), cst_set (by decide) (met (by decide))]
    refine ⟨by simp; simp at wl; omega, by simp at wl; omega, v3, ?_⟩
    refine ⟨fun h => ?_, fun h => ?_, fun h => ?_, fun h => ?_, fun h => ?_⟩
    · exact absurd (show fu c.2.2 0 true 0 = false from h) (by rw [fu_eq]; decide)
    · exact d2 (by simpa [c_set, c_met, fu] using h)
    · exact d3 (by simpa [c_set, c_met, fu] using h)
    · exact d4 (by simpa [c_set, c_met, fu] using h)
    · exact d5 (by simpa [c_set, c_met, fu] using h)
  rw [if_neg k0] at hx
  by_cases k1 : k = 1
  · subst k1
    rw [if_pos rfl] at hx
    unfold rdN at hx
    cases hr : nmb bf len 900 1100 b with
    | inl e => rw [hr] at hx; cases hx
    | inr r =>
      rw [hr] at hx
      dsimp only at hx
      obtain ⟨r1, r2, r3, -⟩ := nmb_cost hb'.2 hl hr
      cases ho : nmb bf len 0 100000 r.2 with
      | inl e => rw [ho] at hx; cases hx
      | inr o =>
        rw [ho] at hx
        dsimp only at hx
        obtain ⟨-, o2, o3, o4⟩ := nmb_cost r2 hl ho
        cases hdl : nmb bf len 1 1000 o.2 with
        | inl e => rw [hdl] at hx; cases hx
        | inr dd =>
          rw [hdl] at hx
          obtain ⟨-, q2, q3, q4⟩ := nmb_cost o2 hl hdl
          cases hx
          have := o4 r3
          have := q4 o3
          have := dN_pos (v := o.1)
          rw [cst_node]
          refine ⟨by simp at wl; omega, by simp at wl; omega, q2, ?_⟩
          refine ⟨fun h => ?_, fun h => ?_, fun h => ?_, fun h => ?_, fun h => ?_⟩
          · exact d0 (by simpa [c_node, c_met, fu] using h)
          · exact d2 (by simpa [c_node, c_met, fu] using h)
          · exact d3 (by simpa [c_node, c_met, fu] using h)
          · exact d4 (by simpa [c_node, c_met, fu] using h)
          · exact d5 (by simpa [c_node, c_met, fu] using h)
  rw [if_neg k1] at hx
  by_cases k2 : k = 2
  · subst k2
    rw [if_pos rfl] at hx
    obtain ⟨v, w, e, v1, v2, v3⟩ := rd2_cost hb'.2 hl hx
    have := dN_ge (v := v) (n := 3) (by omega) (by decide) (by decide)
    have := dN_pos (v := w)
    rw [e, cst_set2 (by decide), cst_set (by decide) (met (by decide))]
    refine ⟨by simp; simp at wl; omega, by simp at wl; omega, v3, ?_⟩
    refine ⟨fun h => ?_, fun h => ?_, fun h => ?_, fun h => ?_, fun h => ?_⟩
    · exact d0 (by simpa [c_set, c_met, fu] using h)
    · exact absurd (show fu c.2.2 2 true 2 = false from h) (by rw [fu_eq]; decide)
    · exact d3 (by simpa [c_set, c_met, fu] using h)
    · exact d4 (by simpa [c_set, c_met, fu] using h)
    · exact d5 (by simpa [c_set, c_met, fu] using h)
  rw [if_neg k2] at hx
  by_cases k3 : k = 3
  · subst k3
    rw [if_pos rfl] at hx
    obtain ⟨v, e, v1, v2, v3, -, -⟩ := rd1_cost hb'.2 hl hx
    have := dN_ge (v := v) (n := 2) (by omega) (by decide) (by decide)
    rw [e, cst_set (by decide) (met (by decide))]
    refine ⟨by simp; simp at wl; omega, by simp at wl; omega, v3, ?_⟩
    refine ⟨fun h => ?_, fun h => ?_, fun h => ?_, fun h => ?_, fun h => ?_⟩
    · exact d0 (by simpa [c_set, c_met, fu] using h)
    · exact d2 (by simpa [c_set, c_met, fu] using h)
    · exact absurd (show fu c.2.2 3 true 3 = false from h) (by rw [fu_eq]; decide)
    · exact d4 (by simpa [c_set, c_met, fu] using h)
    · exact d5 (by simpa [c_set, c_met, fu] using h)
  rw [if_neg k3] at hx
  by_cases k4 : k = 4
  · subst k4
    rw [if_pos rfl] at hx
    obtain ⟨v, e, v1, v2, v3, -, -⟩ := rd1_cost hb'.2 hl hx
    have := dN_ge (v := v) (n := 2) (by omega) (by decide) (by decide)
    rw [e, cst_set (by decide) (met (by decide))]
    refine ⟨by simp; simp at wl; omega, by simp at wl; omega, v3, ?_⟩
    refine ⟨fun h => ?_, fun h => ?_, fun h => ?_, fun h => ?_, fun h => ?_⟩
    · exact d0 (by simpa [c_set, c_met, fu] using h)
    · exact d2 (by simpa [c_set, c_met, fu] using h)
    · exact d3 (by simpa [c_set, c_met, fu] using h)
    · exact absurd (show fu c.2.2 4 true 4 = false from h) (by rw [fu_eq]; decide)
    · exact d5 (by simpa [c_set, c_met, fu] using h)
  rw [if_neg k4] at hx
  by_cases k5 : k = 5
  · subst k5
    rw [if_pos rfl] at hx
    obtain ⟨v, e, v1, v2, v3, -, -⟩ := rd1_cost hb'.2 hl hx
    rw [e, cst_jit (met (by decide))]
    refine ⟨by simp at wl; omega, by simp at wl; omega, v3, ?_⟩
    refine ⟨fun h => ?_, fun h => ?_, fun h => ?_, fun h => ?_, fun h => ?_⟩
    · exact d0 (by simpa [c_set, c_met, fu] using h)
    · exact d2 (by simpa [c_set, c_met, fu] using h)
    · exact d3 (by simpa [c_set, c_met, fu] using h)
    · exact d4 (by simpa [c_set, c_met, fu] using h)
    · exact absurd (show fu c.2.2 5 true 5 = false from h) (by rw [fu_eq]; decide)
  rw [if_neg k5] at hx
  have k6 : k = 6 := by omega
  subst k6
  obtain ⟨v, e, v1, v2, v3, -, -⟩ := rd1_cost hb'.2 hl hx
  rw [e, cst_set (by decide) (met (by decide))]
  refine ⟨by simp; simp at wl; omega, by simp at wl; omega, v3, ?_⟩
  refine ⟨fun h => ?_, fun h => ?_, fun h => ?_, fun h => ?_, fun h => ?_⟩
  · exact d0 (by simpa [c_set, c_met, fu] using h)
  · exact d2 (by simpa [c_set, c_met, fu] using h)
  · exact d3 (by simpa [c_set, c_met, fu] using h)
  · exact d4 (by simpa [c_set, c_met, fu] using h)
  · exact d5 (by simpa [c_set, c_met, fu] using h)
theorem sts_cost (hl : len ≤ 400) : ∀ (f p : Nat) (c c' : CS), p ≤ len → dft c → sts bf len f c p = .inr c' → cst c' ≤ cst c + (len + 1 - p) ∧ dft c' := by
  intro f
  induction f with
  | zero =>
    intro p c c' hp h hx
    unfold sts at hx
    cases hx
  | succ f ih =>
    intro p c c' hp h hx
    rw [sts_T] at hx
    cases hs : stm bf len c p with
    | inl e' => rw [hs] at hx; cases hx
    | inr d =>
      rw [hs] at hx
      obtain ⟨a1, a2, a3, a4⟩ := stm_cost hp hl h hs
      have hq' := sk_le (bf := bf) a3
      unfold stTl at hx
      dsimp only at hx
      obtain ⟨q, hq⟩ : ∃ q, sk bf len d.2 = q := ⟨_, rfl⟩
      rw [hq] at hx hq'
      by_cases c1 : hb bf len q = 256
      · rw [if_pos c1] at hx
        by_cases c2 : d.1.2.1.length = 0
        · rw [if_pos c2] at hx; cases hx
        · rw [if_neg c2] at hx
          cases hx
          exact ⟨by omega, a4⟩
      · rw [if_neg c1] at hx
        by_cases c2 : hb bf len q = 59
        · rw [if_pos c2] at hx
          have ql := hb_lt c2 (by decide)
          have b := ih (q + 1) d.1 c' (by omega) a4 hx
          exact ⟨by omega, b.2⟩
        · rw [if_neg c2] at hx
          cases hx
/-- what the text of a configuration takes -/
theorem parse_cost {c : CS} (hl : len ≤ 400) (h : parse bf len = .inr c) : cst c ≤ len + 1 ∧ dft c := by
  have z : dft cs0 := ⟨fun _ => ⟨rfl, rfl⟩, fun _ => rfl, fun _ => rfl, fun _ => rfl, fun _ => rfl⟩
  have a := sts_cost hl FL 0 cs0 c (Nat.zero_le _) z h
  have : cst cs0 = 0 := by decide
  exact ⟨by omega, a.2⟩
end BYS
