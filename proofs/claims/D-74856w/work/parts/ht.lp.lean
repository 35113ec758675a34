/-! ROOM: linear bounds of what is still to come (tables), and a call's step -/
set_option maxRecDepth 100000
/-- a bound x + qm r <= c + k K + qp r: (c, k, qp, qm) -/
abbrev LB : Type := Nat × Nat × Nat × Nat
/-- multipliers with their bounds: sums of the multipliers, of c, k, qp, qm -/
def lpc : List Nat → List LB → Nat × Nat × Nat × Nat × Nat
  | t :: ts, b :: bs => (t + (lpc ts bs).1, t * b.1 + (lpc ts bs).2.1, t * b.2.1 + (lpc ts bs).2.2.1, t * b.2.2.1 + (lpc ts bs).2.2.2.1, t * b.2.2.2 + (lpc ts bs).2.2.2.2)
  | _, _ => (0, 0, 0, 0, 0)
theorem lpc_ok {x K r : Nat} : ∀ (ts : List Nat) (bs : List LB), (∀ b ∈ bs, x + b.2.2.2 * r ≤ b.1 + b.2.1 * K + b.2.2.1 * r) → (lpc ts bs).1 * x + (lpc ts bs).2.2.2.2 * r ≤ (lpc ts bs).2.1 + (lpc ts bs).2.2.1 * K + (lpc ts bs).2.2.2.1 * r
  | [], bs, _ => by
    have : lpc [] bs = (0, 0, 0, 0, 0) := by cases bs <;> rfl
    rw [this]
    show 0 * x + 0 * r ≤ 0 + 0 * K + 0 * r
    omega
  | t :: ts, [], _ => by
    show 0 * x + 0 * r ≤ 0 + 0 * K + 0 * r
    omega
  | t :: ts, b :: bs, h => by
    have ih := lpc_ok ts bs (fun y hy => h y (List.mem_cons_of_mem _ hy))
    have hb := Nat.mul_le_mul_left t (h b (List.mem_cons_self ..))
    rw [Nat.mul_add, Nat.mul_add, Nat.mul_add, ← Nat.mul_assoc, ← Nat.mul_assoc, ← Nat.mul_assoc] at hb
    unfold lpc
    dsimp only
    rw [Nat.add_mul, Nat.add_mul, Nat.add_mul, Nat.add_mul]
    omega
/-- a row of a table: a, b (of what is still to come: a + b K), multipliers of each kind of call -/
abbrev LR : Type := Nat × Nat × List (List Nat)
/-- a kind of call: its bounds; 1 if the retries stay -/
abbrev LK1 : Type := List LB × Nat
def lpK (D rm : Nat) (p q : LR) (ts : List Nat) (kd : LK1) : Bool :=
  Nat.beq (lpc ts kd.1).1 D && Nat.ble ((lpc ts kd.1).2.1 + ((lpc ts kd.1).2.2.2.1 + kd.2 * p.2.1 - (lpc ts kd.1).2.2.2.2) * rm + p.1) q.1 && Nat.ble ((lpc ts kd.1).2.2.1 + p.2.1) q.2.1
def lpKs (D rm : Nat) (p q : LR) : List (List Nat) → List LK1 → Bool
  | ts :: tss, kd :: kds => lpK D rm p q ts kd && lpKs D rm p q tss kds
  | [], [] => true
  | _, _ => false
/-- a table of rows; the kinds of calls depend on how many calls were made before -/
def lpT (D rm : Nat) (kds : Nat → List LK1) : List LR → Bool
  | p :: q :: l => lpKs D rm p q q.2.2 (kds l.length) && lpT D rm kds (q :: l)
  | _ => true
def lpa (t : List LR) (r : Nat) : Nat := (t.getD r (0, 0, [])).1
def lpb (t : List LR) (r : Nat) : Nat := (t.getD r (0, 0, [])).2.1
section LPS
variable {D rm : Nat} {kds : Nat → List LK1} {t : List LR}
theorem lpT_at : ∀ {t : List LR}, lpT D rm kds t = true → ∀ r : Nat, r + 1 < t.length → ∃ p q : LR, t.getD r (0, 0, []) = p ∧ t.getD (r + 1) (0, 0, []) = q ∧ lpKs D rm p q q.2.2 (kds (t.length - (r + 2))) = true
  | [], _, r, h => by simp at h
  | [p], _, r, h => by simp at h
  | p :: q :: l, ht, r, h => by
    unfold lpT at ht
    rw [Bool.and_eq_true] at ht
    cases r with
    | zero => exact ⟨p, q, rfl, rfl, by simpa using ht.1⟩
    | succ r =>
      obtain ⟨p', q', e1, e2, e3⟩ := lpT_at (t := q :: l) ht.2 r (by simp at h ⊢; omega)
      refine ⟨p', q', by simpa using e1, by simpa using e2, ?_⟩
      have : (p :: q :: l).length - (r + 1 + 2) = (q :: l).length - (r + 2) := by simp
      rw [this]
      exact e3
theorem lpKs_at {p q : LR} : ∀ (tss : List (List Nat)) (kds : List LK1), lpKs D rm p q tss kds = true → ∀ kd ∈ kds, ∃ ts : List Nat, lpK D rm p q ts kd = true
  | [], [], _, kd, h => by cases h
  | [], _ :: _, h, _, _ => by cases h
  | _ :: _, [], h, _, _ => by cases h
  | ts :: tss, k :: kds, h, kd, hk => by
    unfold lpKs at h
    rw [Bool.and_eq_true] at h
    rcases List.mem_cons.mp hk with rfl | hk
    · exact ⟨ts, h.1⟩
    · exact lpKs_at tss kds h.2 kd hk
/-- a call -/
theorem lp_step (ht : lpT D rm kds t = true) {r x K rho : Nat} (hr : r + 1 < t.length) {kd : LK1} (hk : kd ∈ kds (t.length - (r + 2))) (hb : ∀ b ∈ kd.1, x + b.2.2.2 * rho ≤ b.1 + b.2.1 * K + b.2.2.1 * rho) (hrm : rho ≤ rm) : D * x + lpa t r + lpb t r * (K + kd.2 * rho) ≤ lpa t (r + 1) + lpb t (r + 1) * K := by
  obtain ⟨p, q, e1, e2, e3⟩ := lpT_at ht r hr
  obtain ⟨ts, h⟩ := lpKs_at _ _ e3 kd hk
  unfold lpa lpb
  rw [e1, e2]
  unfold lpK at h
  rw [Bool.and_eq_true, Bool.and_eq_true] at h
  have h1 : (lpc ts kd.1).1 = D := Nat.eq_of_beq_eq_true h.1.1
  have h2 := Nat.le_of_ble_eq_true h.1.2
  have h3 := Nat.le_of_ble_eq_true h.2
  have s := lpc_ok ts kd.1 hb
  rw [h1] at s
  have m1 : ((lpc ts kd.1).2.2.1 + p.2.1) * K ≤ q.2.1 * K := Nat.mul_le_mul_right _ h3
  rw [Nat.add_mul] at m1
  obtain ⟨y, hy⟩ : ∃ y, (lpc ts kd.1).2.2.2.1 + kd.2 * p.2.1 - (lpc ts kd.1).2.2.2.2 = y := ⟨_, rfl⟩
  rw [hy] at h2
  have m2 : ((lpc ts kd.1).2.2.2.1 + kd.2 * p.2.1) * rho ≤ (y + (lpc ts kd.1).2.2.2.2) * rho := Nat.mul_le_mul_right _ (by omega)
  rw [Nat.add_mul, Nat.add_mul] at m2
  have m3 : y * rho ≤ y * rm := Nat.mul_le_mul_left _ hrm
  have m4 : p.2.1 * (K + kd.2 * rho) = p.2.1 * K + kd.2 * p.2.1 * rho := by rw [Nat.mul_add, ← Nat.mul_assoc, Nat.mul_comm p.2.1 kd.2]
  omega
theorem lp_mono (ht : lpT D rm kds t = true) (hk : ∀ n : Nat, ∃ kd : LK1, kd ∈ kds n) : ∀ {r n : Nat}, r + n < t.length → lpa t r ≤ lpa t (r + n) ∧ lpb t r ≤ lpb t (r + n)
  | r, 0, _ => ⟨Nat.le_refl _, Nat.le_refl _⟩
  | r, n + 1, h => by
    obtain ⟨a1, a2⟩ := lp_mono ht hk (r := r) (n := n) (by omega)
    obtain ⟨p, q, e1, e2, e3⟩ := lpT_at ht (r + n) (by omega)
    obtain ⟨kd, hk⟩ := hk (t.length - (r + n + 2))
    obtain ⟨ts, h⟩ := lpKs_at _ _ e3 kd hk
    unfold lpK at h
    rw [Bool.and_eq_true, Bool.and_eq_true] at h
    have h2 := Nat.le_of_ble_eq_true h.1.2
    have h3 := Nat.le_of_ble_eq_true h.2
    have b1 : lpa t (r + n) = p.1 := by unfold lpa; rw [e1]
    have b2 : lpb t (r + n) = p.2.1 := by unfold lpb; rw [e1]
    have b3 : lpa t (r + (n + 1)) = q.1 := by unfold lpa; rw [← e2]; rfl
    have b4 : lpb t (r + (n + 1)) = q.2.1 := by unfold lpb; rw [← e2]; rfl
    omega
end LPS
