/-! ROOM: how often a token may still fire -/
set_option maxRecDepth 100000
/-- ms until a node's clock shows q more, at least -/
def wayN (r q : Int) : Nat := (1000 * (q - 1) / r + 1).toNat
section HNS
variable {S0 S S' : SS} {i : Nat}
theorem CST.ki (h : CST S0 S) {k : Nat} (hk : k = 1 ∨ k = 2 ∨ k = 3 ∨ k = 5 ∨ k = 20 ∨ k = 21) : s_nd S i k = s_nd S0 i k := h.2.2 i k hk
theorem wayN_b {r q : Int} (r1 : 900 ≤ r) (q1 : 1 ≤ q) : (wayN r q : Int) = 1000 * (q - 1) / r + 1 := by
  unfold wayN
  have : 0 ≤ 1000 * (q - 1) / r := Int.ediv_nonneg (by omega) (by omega)
  omega
theorem clk_ge (hI : Inv S) (hi : i < s_n S) {q : Int32} (q1 : 1 ≤ q.toInt) (q2 : q.toInt ≤ 100000) : (now S).toInt + (wayN (s_nd S i 20).toInt q.toInt : Int) ≤ (ndRe S i (ndAt S i (now S) + q)).toInt := by
  have N := hI.2.1 i hi
  have w := hI.2.2.2.1.1
  have h := reach_ge (r := s_nd S i 20) (o := s_nd S i 21) (t := now S) (q := q) N.1.1 N.1.2 N.2.1.1 N.2.1.2 w.1 (by have := w.2; omega) q1 q2
  rw [wayN_b N.1.1 q1]
  show _ ≤ (c_re (s_nd S i 20) (s_nd S i 21) (c_at (s_nd S i 20) (s_nd S i 21) (now S) + q)).toInt
  omega
/-- the retry's way, the renewal's way -/
def wayR (S : SS) (i : Nat) : Nat := wayN (s_nd S i 20).toInt (s_cf S 6).toInt
def wayP (S : SS) (i : Nat) : Nat := wayN (s_nd S i 20).toInt (s_cf S 5).toInt
theorem retry_ge (hI : Inv S) (hi : i < s_n S) : (now S).toInt + (wayR S i : Int) ≤ (mx (now S + 1) (ndRe S i (ndAt S i (now S) + s_cf S 6))).toInt := by
  have c := hI.1.2.2.2.2.2.1
  have h := clk_ge hI hi (q := s_cf S 6) (by have := c.1; omega) (by have := c.2; omega)
  rw [mx_i]
  unfold wayR
  omega
theorem renew_ge (hI : Inv S) (hi : i < s_n S) : (now S).toInt + (wayP S i : Int) ≤ (ndRe S i (ndAt S i (now S) + s_cf S 5)).toInt := by
  have c := hI.1.2.2.2.2.1
  exact clk_ge hI hi (q := s_cf S 5) (by have := c.1; omega) (by have := c.2; omega)
theorem wayR_cs (h : CST S0 S) : wayR S i = wayR S0 i := by
  unfold wayR
  rw [h.ki (by decide), h.1]
theorem wayP_cs (h : CST S0 S) : wayP S i = wayP S0 i := by
  unfold wayP
  rw [h.ki (by decide), h.1]
/-- fires up to e, the first at x or after s, p apart -/
def Nn (s e : Int) (p : Nat) (x : Int) : Nat := ((e - max x (s + 1)) / p + 1).toNat
theorem Nn_mono {s e : Int} {p : Nat} {x y : Int} (h : x ≤ y) : Nn s e p y ≤ Nn s e p x := by
  have h1 : (e - max y (s + 1)) / (p : Int) ≤ (e - max x (s + 1)) / (p : Int) := by
    rcases Nat.eq_zero_or_pos p with q | q
    · subst q
      simp
    · exact Int.ediv_le_ediv (by omega) (by omega)
  unfold Nn
  omega
theorem Nn_step {s e : Int} {p : Nat} {x y : Int} (hp : 0 < p) (h1 : s < x) (h2 : x ≤ e) (h : x + p ≤ y) : 1 + Nn s e p y ≤ Nn s e p x := by
  have a : Nn s e p y ≤ Nn s e p (x + p) := Nn_mono h
  have e1 : max x (s + 1) = x := by omega
  have e2 : max (x + (p : Int)) (s + 1) = x + p := by omega
  have e3 : (e - (x + (p : Int))) / (p : Int) = (e - x) / (p : Int) - 1 := by
    have := Int.add_mul_ediv_right (e - x) (-1) (c := (p : Int)) (by omega)
    rw [show e - (x + (p : Int)) = e - x + (-1) * (p : Int) from by omega, this]
    omega
  have e4 : 0 ≤ (e - x) / (p : Int) := Int.ediv_nonneg (by omega) (by omega)
  unfold Nn at a ⊢
  rw [e2, e3] at a
  rw [e1]
  omega
theorem Nn_one {s e : Int} {p : Nat} {x : Int} (h1 : s < x) (h2 : x ≤ e) : 1 ≤ Nn s e p x := by
  have e1 : max x (s + 1) = x := by omega
  have e4 : 0 ≤ (e - x) / (p : Int) := Int.ediv_nonneg (by omega) (by omega)
  unfold Nn
  rw [e1]
  omega
/-- when a message's token fires at the earliest -/
def fireT (S0 : SS) (q : MG) : Int := if q.1 = 0 then max (tmJ q + (s_nd S0 q.2.1 1).toInt + 1) (xT S0 q) else max (tmJ q + 1) (xT S0 q)
def fmB (S0 : SS) (i : Nat) (s e : Int) (p : Nat) (q : MG) : Nat := if q.2.1 = i ∧ (q.1 = 0 ∨ q.1 = 1) then Nn s e p (fireT S0 q) else 0
def fmK (i : Nat) (q : MG) : Nat := if q.2.1 = i ∧ (q.1 = 0 ∨ q.1 = 1) then 1 else 0
theorem xT_cs (h : CST S0 S) {m : MG} : xT S0 m = xT S m := by
  unfold xT
  show (c_re (s_nd S0 m.2.1 20) (s_nd S0 m.2.1 21) (m.2.2.2.1 + s_cf S0 5)).toInt = (c_re (s_nd S m.2.1 20) (s_nd S m.2.1 21) (m.2.2.2.1 + s_cf S 5)).toInt
  rw [h.2.2 m.2.1 20 (by decide), h.2.2 m.2.1 21 (by decide), h.1]
theorem xT_eq {m q : MG} (h1 : q.2.1 = m.2.1) (h2 : q.2.2.2.1 = m.2.2.2.1) : xT S q = xT S m := by
  unfold xT
  rw [h1, h2]
/-- the worth of a message that comes out of another -/
theorem fireT_new (hc : CST S0 S) {m q : MG} (hm : tmJ m = (now S).toInt) (h : NEWM S m q) (hq : q.1 = 0 ∨ q.1 = 1) : (m.1 = 0 ∨ m.1 = 1) ∧ q.2.1 = m.2.1 ∧ fireT S0 m ≤ fireT S0 q := by
  obtain ⟨h0, h | h | h | h⟩ := h
  · obtain ⟨a1, a2, a3, a4, -⟩ := h
    have q1 : q.1 = 1 := by omega
    refine ⟨Or.inl a1, h0, ?_⟩
    unfold fireT
    rw [if_pos a1, if_neg (by omega), xT_eq h0 (a3 q1), ← hc.2.2 m.2.1 1 (by decide)]
    omega
  · obtain ⟨a1, a2, a3, a4, a5, -⟩ := h
    have m1 : m.1 = 1 := by omega
    refine ⟨Or.inr m1, h0, ?_⟩
    unfold fireT
    rw [if_neg (by omega), if_neg (by omega), xT_eq h0 a3]
    omega
  · omega
  · omega
theorem cB_step {fo : MG → Nat} {g g' : Nat → JG} {s e : Int} {p B : Nat} (hc : CST S0 S) (hI : Inv S) (hp0 : 0 < p) (hp : p ≤ wayP S0 i ∨ (p : Int) ≤ 2 * (s_nd S0 i 1).toInt + 1) (he : (now S).toInt ≤ e)
    (hE : JE s fo S S' g g') (hC : cW (fmB S0 i s e p) (fun t => Nn s e p t.toInt) 1 (Nn s e p (s + 1)) B i S g) : cW (fmB S0 i s e p) (fun t => Nn s e p t.toInt) 1 (Nn s e p (s + 1)) B i S' g' := by
  refine cW_step (fun q hq => ?_) (fun m q hm ht hn => ?_) (fun m hm m1 m2 ht => ?_) (fun hi hs hd q q1 q2 q3 q4 => ?_) (fun hi hs hd => ?_) hE hC
  · unfold fmB
    rw [if_neg (by omega)]
  · unfold fmB
    by_cases c : q.2.1 = i ∧ (q.1 = 0 ∨ q.1 = 1)
    · obtain ⟨a, b, d⟩ := fireT_new hc ht hn c.2
      rw [if_pos c, if_pos ⟨by rw [← b]; exact c.1, a⟩]
      exact Nn_mono d
    · rw [if_neg c]
      exact Nat.zero_le _
  · unfold fmB
    rw [if_pos ⟨m2, Or.inr m1⟩]
    refine Nn_mono ?_
    unfold fireT
    rw [if_neg (by omega), xT_cs hc, mx_i, now1 hI]
    unfold xT
    rw [m2]
    omega
  · obtain ⟨d1, d2, d3, d4⟩ := due_b hd
    have e1 : fmB S0 i s e p q = Nn s e p (fireT S0 q) := if_pos ⟨q2, Or.inl q1⟩
    have hx : (now S).toInt + p ≤ fireT S0 q := by
      have r := renew_ge hI hi
      rw [wayP_cs hc] at r
      have r2 : (ndRe S i (ndAt S i (now S) + s_cf S 5)).toInt = xT S0 q := by
        rw [xT_cs hc]
        unfold xT
        rw [q2, q3]
      have r3 : s_nd S i 1 = s_nd S0 i 1 := hc.ki (by decide)
      unfold fireT
      rw [if_pos q1, q2, ← r2]
      rw [r3] at q4
      omega
    have k := Nn_step hp0 hs he hx
    have k2 : Nn s e p (now S).toInt ≤ Nn s e p (s_nd S i 8).toInt := Nn_mono d4
    have k3 : Nn s e p (now S).toInt ≤ Nn s e p (s + 1) := Nn_mono (by omega)
    rw [e1]
    exact ⟨Nat.le_trans k k2, Nat.le_trans k k3⟩
  · obtain ⟨d1, d2, d3, d4⟩ := due_b hd
    have k := Nn_one (p := p) hs he
    exact ⟨Nat.le_trans k (Nn_mono d4), Nat.le_trans k (Nn_mono (by omega))⟩
theorem cK_step {fo : MG → Nat} {g g' : Nat → JG} {s : Int} {B : Nat} (hc : CST S0 S) (hE : JE s fo S S' g g') (hC : cW (fmK i) (fun _ => 1) 0 1 B i S g) : cW (fmK i) (fun _ => 1) 0 1 B i S' g' := by
  refine cW_step (fun q hq => ?_) (fun m q hm ht hn => ?_) (fun m hm m1 m2 ht => ?_) (fun hi hs hd q q1 q2 q3 q4 => ?_) (fun hi hs hd => ?_) hE hC
  · unfold fmK
    rw [if_neg (by omega)]
  · unfold fmK
    by_cases c : q.2.1 = i ∧ (q.1 = 0 ∨ q.1 = 1)
    · obtain ⟨a, b, d⟩ := fireT_new hc ht hn c.2
      rw [if_pos c, if_pos ⟨by rw [← b]; exact c.1, a⟩]
      exact Nat.le_refl _
    · rw [if_neg c]
      exact Nat.zero_le _
  · unfold fmK
    rw [if_pos ⟨m2, Or.inr m1⟩]
    exact Nat.le_refl _
  · have : fmK i q ≤ 1 := by
      unfold fmK
      split
      · exact Nat.le_refl _
      · exact Nat.zero_le _
    omega
  · omega
end HNS
