/-! ROOM: a call of time against the ledger -/
set_option maxRecDepth 100000
/-- a state that a run may begin with -/
def PST (L : LG) (S0 : SS) : Prop :=
  CC (lgC L) S0 ∧ (Inv S0 ∧ Rest S0) ∧ KS S0 (fun _ => lgx L + lgy L) (fun i => lgX L i + 1) (lgP L) ∧ (∀ i : Nat, i < s_n S0 → mN S0 i ≤ lgK L i ∧ (lgM L i = 0 → s_nd S0 i 3 = 0 ∧ mN S0 i = 0)) ∧
  (lgy L = 0 → PW S0) ∧ ((∀ i : Nat, i < s_n S0 → s_nd S0 i 3 ≠ 0) → lgx L + lgy L ≤ 3 → s_n S0 = 2 → ∀ m ∈ s_ms S0, m.1 ≠ 3) ∧ oN S0 ≤ lgy L + 1
/-- kept for the next calls: 4 cells for each ACQUIRE on its way, without jitter -/
def pot (S : SS) : Nat := if (s_cf S 7).toInt = 0 then sN (s_n S) (fun i => 4 * aqN S i) else 0
section CLL
variable {L L' : LG} {S S' S0 S1 : SS} {f F r l A xx sh : Nat → Nat} {adv : Nat}
theorem PR.pw (h : PR S) : PW S := ⟨fun m hm hx => by have := h.1 m hm; omega, fun i hi => ⟨(h.2.2 i hi).2.1, (h.2.2 i hi).2.2⟩⟩
theorem ncd_all (h : ∀ i : Nat, i < s_n S → s_nd S i 3 ≠ 0) : ncd S = s_n S := by
  unfold ncd
  have : sN (s_n S) (fun i => if s_nd S i 3 = 0 then 0 else 1) = sN (s_n S) (fun _ => 1) := sN_eq (fun i hi => if_neg (h i hi))
  rw [this, sN_cs, Nat.mul_one]
theorem STI.pst (h : STI L S) : PST L S := by
  obtain ⟨h1, h2, h3, h4, h5, h6, h7, h8⟩ := h
  refine ⟨h1, ⟨h2.1, h2.2.1⟩, h3, h4, fun hy => (h6 hy).pw, fun hc hx hn m hm m3 => ?_, by omega⟩
  have e := ncd_all hc
  rcases h8 with q | q
  · have := (h6 (by omega)).1 m hm
    omega
  · exact q.1 m hm m3
/-- the facts of a run, for the ledger -/
theorem CFB_of (hP : PST L S0) (hR : RU S0 S1 f (fun _ => lgx L + lgy L) (fun i => lgX L i + 1) (lgP L) F r l A) (hI1 : Inv S1) (hc : CST S0 S1) (ha : adv ≤ 1) :
    ∃ xx sh : Nat → Nat, CFB L S0 S1 f F r l A xx sh adv ∧ (adv = 1 → GH S1 + pot S1 ≤ GH S0 + pot S0 + 10 * oN S0 + sN (s_n S0) sh) ∧ (adv = 0 → GH S1 ≤ GH S0 + 10 * oN S0 + sN (s_n S0) sh) := by
  obtain ⟨p1, ⟨hI, hRe⟩, p3, p4, p5, p6, p7⟩ := hP
  obtain ⟨u1, u2, u3, u4, u5, u6, u7⟩ := hR
  obtain ⟨xx, hxx⟩ : ∃ xx : Nat → Nat, xx = fun i => if lgy L = 0 then 0 else xN S0 i := ⟨_, rfl⟩
  have hx1 : ∀ i : Nat, i < s_n S0 → xx i ≤ xF S0 i * mN S0 i := fun i hi => by
    rw [hxx]
    show (if lgy L = 0 then 0 else xN S0 i) ≤ _
    unfold xN xF
    split
    · exact Nat.zero_le _
    · split
      · exact Nat.le_refl _
      · rw [Nat.one_mul]
        exact Nat.le_refl _
  have hw : wtN S0 + 10 * (s_dl S0).length ≤ sN (s_n S0) (fun i => 4 * aqN S0 i) + sN (s_n S0) xx + 10 * oN S0 ∧ wzN S0 + 10 * (s_dl S0).length ≤ sN (s_n S0) xx + 10 * oN S0 := by
    obtain ⟨a1, a2, a3⟩ := wt_all hI
    rw [hxx]
    by_cases hy : lgy L = 0
    · obtain ⟨b1, b2⟩ := a3 (p5 hy)
      have : sN (s_n S0) (fun i => if lgy L = 0 then 0 else xN S0 i) = sN (s_n S0) (fun _ => 0) := sN_eq (fun i _ => if_pos hy)
      rw [this, sN_cs, Nat.mul_zero]
      omega
    · have : sN (s_n S0) (fun i => if lgy L = 0 then 0 else xN S0 i) = sN (s_n S0) (fun i => xN S0 i) := sN_eq (fun i _ => if_neg hy)
      rw [this, ← sN_add]
      exact ⟨a1, a2⟩
  obtain ⟨sh, hsh⟩ : ∃ sh : Nat → Nat, sh = fun i => if (s_cf S0 7).toInt = 0 then (if adv = 1 then 7 * F i + xx i else 3 * F i + 4 * A i + xx i) else 7 * F i + 4 * aqN S0 i + xx i := ⟨_, rfl⟩
  refine ⟨xx, sh, ⟨p1, hI, fun i hi => ?_, fun lam q0 q1 q3 qc ql => ?_⟩, fun h1 => ?_, fun h0 => ?_⟩
  · obtain ⟨v1, v2, v3⟩ := u1 i hi
    refine ⟨⟨v1, v2⟩, v3, (p4 i hi).1, fun hj => ?_, hx1 i hi, fun hy => ⟨?_, ((p5 hy).2 i hi).2⟩, (p4 i hi).2, ?_⟩
    · obtain ⟨Lt, k, -⟩ := p3 i hi
      exact SPI_I hI hRe hi (k.2.2.1 hj)
    · rw [hxx]
      exact if_pos hy
    · by_cases hj : (s_cf S0 7).toInt = 0
      · left
        refine ⟨hj, ?_⟩
        by_cases h1 : adv = 1
        · left
          refine ⟨h1, Nat.le_of_eq ?_⟩
          rw [hsh]
          exact (if_pos hj).trans (if_pos h1)
        · right
          refine ⟨by omega, Nat.le_of_eq ?_⟩
          rw [hsh]
          exact (if_pos hj).trans (if_neg h1)
      · right
        refine ⟨hj, ha, Nat.le_of_eq ?_⟩
        rw [hsh]
        exact if_neg hj
  · refine u7 lam q0 q1 q3 qc (fun m hm m3 => ?_)
    rcases ql with ⟨q, qn⟩ | q
    · exact absurd m3 (p6 qc q qn m hm)
    · have hmi := (hI.2.2.2.2.1 m hm).1.2.1
      obtain ⟨Lt, k, -⟩ := p3 m.2.1 hmi
      have := (k.1 m hm rfl).2.2.2 m3
      have := q m.2.1 hmi
      omega
  · have nn : s_n S1 = s_n S0 := hc.2.1
    unfold pot
    rw [hc.1, nn]
    rw [nn] at u5
    by_cases hj : (s_cf S0 7).toInt = 0
    · rw [if_pos hj, if_pos hj]
      have e : sN (s_n S0) sh = 7 * sN (s_n S0) F + sN (s_n S0) xx := by
        rw [← sN_mul, ← sN_add, hsh]
        exact sN_eq (fun i _ => (if_pos hj).trans (if_pos h1))
      rw [e]
      omega
    · rw [if_neg hj, if_neg hj]
      have e : sN (s_n S0) sh = 7 * sN (s_n S0) F + sN (s_n S0) (fun i => 4 * aqN S0 i) + sN (s_n S0) xx := by
        rw [← sN_mul, ← sN_add, ← sN_add, hsh]
        exact sN_eq (fun i _ => if_neg hj)
      rw [e]
      omega
  · have nn : s_n S1 = s_n S0 := hc.2.1
    by_cases hj : (s_cf S0 7).toInt = 0
    · have e : sN (s_n S0) sh = 3 * sN (s_n S0) F + 4 * sN (s_n S0) A + sN (s_n S0) xx := by
        rw [← sN_mul, ← sN_mul, ← sN_add, ← sN_add, hsh]
        exact sN_eq (fun i _ => (if_pos hj).trans (if_neg (by omega)))
      rw [e]
      omega
    · have e : sN (s_n S0) sh = 7 * sN (s_n S0) F + sN (s_n S0) (fun i => 4 * aqN S0 i) + sN (s_n S0) xx := by
        rw [← sN_mul, ← sN_add, ← sN_add, hsh]
        exact sN_eq (fun i _ => if_neg hj)
      rw [e]
      omega
/-- the same but for counters: what a run may begin with -/
theorem PST.sam (h : PST L S0) (hs : SAM S0 S1) (hI : Inv S1) (hR : Rest S1) : PST L S1 := by
  obtain ⟨p1, -, p3, p4, p5, p6, p7⟩ := h
  have hk := hs
  obtain ⟨e1, e2, e3, e4, e5, e6⟩ := hs
  have em : ∀ i : Nat, mN S1 i = mN S0 i := fun i => SAM_mN hk
  refine ⟨p1.tr hk.cst.cc, ⟨hI, hR⟩, fun i hi => ?_, fun i hi => ?_, fun hy => ?_, fun hc => ?_, ?_⟩
  · rw [e2] at hi
    obtain ⟨Lt, a, b⟩ := p3 i hi
    exact ⟨Lt, hk.ki a, b⟩
  · rw [e2] at hi
    rw [em, e3]
    exact p4 i hi
  · obtain ⟨a, b⟩ := p5 hy
    refine ⟨fun m hm => a m (by rw [← e4]; exact hm), fun i hi => ?_⟩
    rw [e2] at hi
    rw [e3, em]
    exact b i hi
  · rw [e2] at hc ⊢
    rw [e3] at hc
    rw [e4]
    exact p6 hc
  · unfold oN at p7 ⊢
    rw [e4, e5]
    exact p7
end CLL
