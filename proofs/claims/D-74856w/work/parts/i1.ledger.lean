/-! ROOM: the ledger of a lineage (all states that come from one load) -/
set_option maxRecDepth 100000
/-- a state of the configuration; 0 base, 1 calls of time, 2 campaigns, 3 other calls, 4 cells used; messages of a node, calls of a node, pauses of a node (bounds) -/
abbrev LG : Type := SS × (Nat → Nat) × (Nat → Nat) × (Nat → Nat) × (Nat → Nat) × (Nat → Nat)
abbrev lgC (L : LG) : SS := L.1
abbrev lgB (L : LG) : Nat := L.2.1 0
abbrev lgN (L : LG) : Nat := L.2.1 1
abbrev lgx (L : LG) : Nat := L.2.1 2
abbrev lgy (L : LG) : Nat := L.2.1 3
abbrev lgU (L : LG) : Nat := L.2.1 4
abbrev lgK (L : LG) : Nat → Nat := L.2.2.1
abbrev lgX (L : LG) : Nat → Nat := L.2.2.2.1
abbrev lgP (L : LG) : Nat → Nat := L.2.2.2.2.1
/-- campaigns of a node -/
abbrev lgM (L : LG) : Nat → Nat := L.2.2.2.2.2
def lgA (L : LG) : Nat := lgB L + lgN L + lgx L + lgy L
/-- candidates -/
def ncd (S : SS) : Nat := sN (s_n S) (fun i => if s_nd S i 3 = 0 then 0 else 1)
/-- growth of a node's messages in a call, at most -/
def rmx (C : SS) (i : Nat) : Nat := 4999 / wayR C i + 1 + (if 2 * way C i < wayR C i then 1 else 0)
/-- a state of the lineage -/
def STI (L : LG) (S : SS) : Prop :=
  CC (lgC L) S ∧ LJ S ∧ KS S (fun _ => lgx L + lgy L) (fun i => lgX L i + 1) (lgP L) ∧
  (∀ i : Nat, i < s_n S → mN S i ≤ lgK L i ∧ (lgM L i = 0 → s_nd S i 3 = 0 ∧ mN S i = 0)) ∧ oN S ≤ lgy L ∧ (lgy L = 0 → PR S) ∧ ncd S ≤ lgx L ∧ (ncd S + 1 ≤ lgx L ∨ NR S)
/-- the ledger's own order -/
def WF (L : LG) : Prop := (sN (s_n (lgC L)) (lgX L) ≤ lgx L + lgy L ∧ sN (s_n (lgC L)) (lgM L) ≤ lgx L) ∧ sN (s_n (lgC L)) (lgP L) ≤ lgy L ∧ (∀ i : Nat, lgP L i ≤ lgX L i) ∧ ∀ i : Nat, i < s_n (lgC L) → lgK L i ≤ rmx (lgC L) i * lgN L + (lgx L + lgy L)
/-- a call of time: S0 the state it begins with, sh the nodes' shares of the cost, adv 1: the retries stay -/
def CFB (L : LG) (S0 S1 : SS) (f F r l A xx sh : Nat → Nat) (adv : Nat) : Prop :=
  CC (lgC L) S0 ∧ Inv S0 ∧
  (∀ i : Nat, i < s_n S0 → (f i ≤ 1 ∧ (¬ 2 * way S0 i < wayR S0 i ∨ s_nd S0 i 3 = 0 → f i = 0)) ∧ NU S0 S1 f (fun _ => lgx L + lgy L) (fun i => lgX L i + 1) (lgP L) i (F i) (r i) (l i) (A i) ∧
    mN S0 i ≤ lgK L i ∧ ((s_cf S0 7).toInt = 0 → aqN S0 i ≤ 501 + (lgx L + lgy L)) ∧ xx i ≤ xF S0 i * mN S0 i ∧ (lgy L = 0 → xx i = 0 ∧ (s_nd S0 i 3 = 0 → mN S0 i = 0)) ∧ (lgM L i = 0 → s_nd S0 i 3 = 0 ∧ mN S0 i = 0) ∧
    (((s_cf S0 7).toInt = 0 ∧ ((adv = 1 ∧ sh i ≤ 7 * F i + xx i) ∨ (adv = 0 ∧ sh i ≤ 3 * F i + 4 * A i + xx i))) ∨ ((s_cf S0 7).toInt ≠ 0 ∧ adv ≤ 1 ∧ sh i ≤ 7 * F i + 4 * aqN S0 i + xx i))) ∧
  ∀ lam : Nat, s_cf S0 0 = 1000 → s_cf S0 1 = 0 → s_cf S0 3 = 5000 → (∀ i : Nat, i < s_n S0 → s_nd S0 i 3 ≠ 0) → ((lgx L + lgy L ≤ 3 ∧ s_n S0 = 2) ∨ ∀ i : Nat, i < s_n S0 → way S0 i ≤ lam) →
    ∃ home : Nat, ∀ j : Nat, j < s_n S0 → j ≠ home → 2 * ((F j - r j - l j : Nat) : Int) ≤ lam + way S0 j + 2
/-- a plan bounds all that is to come: a j + sum of b j i K i with j calls of time to come -/
def STEPOK (C : SS) (cond : Nat → Nat → Prop) (Af : Nat → Prop) (H : Nat) (a : Nat → Nat) (b : Nat → Nat → Nat) (eP e0 : Nat) : Prop :=
  ∀ (L : LG) (S0 S1 : SS) (f F r l A xx sh : Nat → Nat) (adv j : Nat), lgC L = C → WF L → lgx L + lgy L ≤ 64 → CFB L S0 S1 f F r l A xx sh adv → cond (lgx L) (lgy L) → (∀ i : Nat, i < s_n C → lgM L i ≠ 0 → Af i) → j + lgN L + 1 ≤ H →
    2000 * sN (s_n C) sh + a j + sN (s_n C) (fun i => b j i * (lgK L i + adv * (f i + r i))) ≤ a (j + 1) + sN (s_n C) (fun i => b (j + 1) i * lgK L i) + 2000 * (eP * (lgx L + lgy L) + e0)
/-- what a lineage has used -/
def ACCT (L : LG) : Prop := ∀ (cond : Nat → Nat → Prop) (Af : Nat → Prop) (H : Nat) (a : Nat → Nat) (b : Nat → Nat → Nat) (eP e0 bm : Nat), STEPOK (lgC L) cond Af H a b eP e0 → (∀ x y x' y' : Nat, x ≤ x' → y ≤ y' → cond x' y' → cond x y) → (∀ j i : Nat, j ≤ H → b j i ≤ bm) →
  cond (lgx L) (lgy L) → (∀ i : Nat, i < s_n (lgC L) → lgM L i ≠ 0 → Af i) → ∀ j : Nat, j + lgN L ≤ H →
    2000 * lgU L + a j + sN (s_n (lgC L)) (fun i => b j i * lgK L i) ≤ a (j + lgN L) + bm * (lgx L + lgy L) + 2000 * (lgN L * (110 + 10 * lgy L + eP * (lgx L + lgy L) + e0) + 60 * (lgx L + lgy L) + lgy L * (4 * s_n (lgC L) * (501 + (lgx L + lgy L))) + 8 * lgB L + 130 * min 1 (lgB L))
section LGS
variable {L L' : LG} {S S' S0 S1 : SS} {f F r l A xx sh : Nat → Nat} {adv : Nat}
/-- a ledger grows -/
def LGle (L L' : LG) : Prop := lgC L' = lgC L ∧ lgx L ≤ lgx L' ∧ lgy L ≤ lgy L' ∧ (∀ i : Nat, lgK L i ≤ lgK L' i) ∧ (∀ i : Nat, lgX L i ≤ lgX L' i) ∧ (∀ i : Nat, lgP L i ≤ lgP L' i) ∧ ∀ i : Nat, lgM L i ≤ lgM L' i
theorem LGle.rf : LGle L L := ⟨rfl, Nat.le_refl _, Nat.le_refl _, fun _ => Nat.le_refl _, fun _ => Nat.le_refl _, fun _ => Nat.le_refl _, fun _ => Nat.le_refl _⟩
theorem KS.mono {c T P c' T' P' : Nat → Nat} (h : KS S c T P) (h1 : ∀ i, c i ≤ c' i) (h2 : ∀ i, T i ≤ T' i) (h3 : ∀ i, P i ≤ P' i) : KS S c' T' P' := fun i hi => by
  obtain ⟨Lt, a, b, d⟩ := h i hi
  exact ⟨Lt, a.mono (h1 i) (h2 i), Nat.le_trans b (h3 i), d⟩
theorem STI.mono (h : STI L S) (hl : LGle L L') : STI L' S := by
  obtain ⟨h1, h2, h3, h4, h5, h6, h7, h8⟩ := h
  obtain ⟨l1, l2, l3, l4, l5, l6, l7⟩ := hl
  refine ⟨by rw [l1]; exact h1, h2, h3.mono (fun _ => by omega) (fun i => ?_) l6, fun i hi => ⟨Nat.le_trans (h4 i hi).1 (l4 i), fun hx => (h4 i hi).2 ?_⟩, by omega, fun hy => h6 (by omega), by omega, ?_⟩
  · have := l5 i
    show lgX L i + 1 ≤ lgX L' i + 1
    omega
  · have := l7 i
    omega
  · rcases h8 with q | q
    · exact Or.inl (by omega)
    · exact Or.inr q
/-- a call of time -/
theorem ACCT.time (h : ACCT L) (hw : WF L) (hx : lgx L + lgy L ≤ 64) (hc : CFB L S0 S1 f F r l A xx sh adv) {K' : Nat → Nat} {u' : Nat} (hK : ∀ i : Nat, i < s_n (lgC L) → K' i = lgK L i + adv * (f i + r i)) (hu : u' ≤ lgU L + 110 + 10 * lgy L + sN (s_n (lgC L)) sh)
    (eC : lgC L' = lgC L) (e1 : lgB L' = lgB L) (e2 : lgN L' = lgN L + 1) (e3 : lgx L' = lgx L) (e4 : lgy L' = lgy L) (e5 : lgU L' = u') (e6 : lgK L' = K') (e7 : lgM L' = lgM L) : ACCT L' := by
  intro cond Af H a b eP e0 bm hs hm hb hcd hA j hj
  rw [eC] at hs hA ⊢
  rw [e3, e4] at hcd
  rw [e7] at hA
  rw [e2] at hj
  rw [e1, e2, e3, e4, e5, e6]
  have s1 := hs L S0 S1 f F r l A xx sh adv j rfl hw hx hc hcd hA (by omega)
  have s2 := h cond Af H a b eP e0 bm hs hm hb hcd hA (j + 1) (by omega)
  have ek : sN (s_n (lgC L)) (fun i => b j i * K' i) = sN (s_n (lgC L)) (fun i => b j i * (lgK L i + adv * (f i + r i))) := sN_eq (fun i hi => by rw [hK i hi])
  rw [ek, show j + (lgN L + 1) = j + 1 + lgN L from by omega]
  have en : (lgN L + 1) * (110 + 10 * lgy L + eP * (lgx L + lgy L) + e0) = lgN L * (110 + 10 * lgy L + eP * (lgx L + lgy L) + e0) + (110 + 10 * lgy L + eP * (lgx L + lgy L) + e0) := by rw [Nat.add_mul, Nat.one_mul]
  rw [en]
  omega
/-- another call: at most one message more at one node -/
theorem ACCT.other (h : ACCT L) {u' j0 : Nat} (hj0 : j0 ≤ 1) (hu : u' ≤ lgU L + 60 + j0 * (4 * s_n (lgC L) * (501 + (lgx L + lgy L)))) (hl : LGle L L') (hK : sN (s_n (lgC L)) (fun i => lgK L' i - lgK L i) ≤ 1)
    (e1 : lgB L' = lgB L) (e2 : lgN L' = lgN L) (e3 : lgx L' + lgy L' = lgx L + lgy L + 1) (e4 : lgy L + j0 ≤ lgy L') (e5 : lgU L' = u') : ACCT L' := by
  obtain ⟨l1, l2, l3, l4, l5, l6, l7⟩ := hl
  intro cond Af H a b eP e0 bm hs hm hb hcd hA j hj
  rw [l1] at hs hA ⊢
  rw [e2] at hj
  rw [e1, e2, e3, e5]
  have s2 := h cond Af H a b eP e0 bm hs hm hb (hm _ _ _ _ l2 l3 hcd) (fun i hi hx => hA i hi (by have := l7 i; omega)) j hj
  have ek : sN (s_n (lgC L)) (fun i => b j i * lgK L' i) ≤ sN (s_n (lgC L)) (fun i => b j i * lgK L i) + bm * sN (s_n (lgC L)) (fun i => lgK L' i - lgK L i) := by
    rw [← sN_mul, ← sN_add]
    refine sN_le (fun i hi => ?_)
    have e : lgK L' i = lgK L i + (lgK L' i - lgK L i) := by
      have := l4 i
      omega
    have m : b j i * (lgK L' i - lgK L i) ≤ bm * (lgK L' i - lgK L i) := Nat.mul_le_mul_right _ (hb j i (by omega))
    have : b j i * lgK L' i = b j i * lgK L i + b j i * (lgK L' i - lgK L i) := by rw [← Nat.mul_add, ← e]
    omega
  have m1 : bm * sN (s_n (lgC L)) (fun i => lgK L' i - lgK L i) ≤ bm * 1 := Nat.mul_le_mul_left _ hK
  obtain ⟨X, hX⟩ : ∃ X, lgx L + lgy L = X := ⟨_, rfl⟩
  rw [hX] at s2 hu ⊢
  have m2 : bm * (X + 1) = bm * X + bm := Nat.mul_succ _ _
  have m3 : lgN L * (110 + 10 * lgy L + eP * X + e0) ≤ lgN L * (110 + 10 * lgy L' + eP * (X + 1) + e0) := Nat.mul_le_mul_left _ (by
    have : eP * X ≤ eP * (X + 1) := Nat.mul_le_mul_left _ (Nat.le_succ _)
    omega)
  obtain ⟨q, hq⟩ : ∃ q, 4 * s_n (lgC L) * (501 + X) = q := ⟨_, rfl⟩
  have q1 : q ≤ 4 * s_n (lgC L) * (501 + (X + 1)) := by
    rw [← hq]
    exact Nat.mul_le_mul_left _ (by omega)
  rw [hq] at s2 hu
  have m4 : (lgy L + j0) * q ≤ lgy L' * (4 * s_n (lgC L) * (501 + (X + 1))) := Nat.mul_le_mul e4 q1
  rw [Nat.add_mul] at m4
  omega
end LGS
