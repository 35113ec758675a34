/-! ROOM: a state of the lineage after a call -/
set_option maxRecDepth 100000
/-- a ledger with other numbers -/
def LG' (L : LG) (N x y u : Nat) (K X P M : Nat → Nat) : LG := (lgC L, (fun k => if k = 0 then lgB L else if k = 1 then N else if k = 2 then x else if k = 3 then y else u), K, X, P, M)
section AFT
variable {L : LG} {S S' S0 S1 : SS} {i j : Nat}
theorem sN_one {n : Nat} {F : Nat → Nat} {i : Nat} (h : ∀ j : Nat, j < n → j ≠ i → F j = 0) (h1 : F i ≤ 1) : sN n F ≤ 1 := by
  induction n with
  | zero => exact Nat.zero_le _
  | succ n ih =>
    rw [sN_s]
    have a := ih (fun j hj => h j (by omega))
    by_cases c : n = i
    · have : sN n F = sN n (fun _ => 0) := sN_eq (fun j hj => h j (by omega) (by omega))
      rw [this, sN_cs, Nat.mul_zero, c]
      omega
    · have := h n (by omega) c
      omega
theorem sN_fu1 {n : Nat} {F : Nat → Nat} {i : Nat} : sN n (fu F i (F i + 1)) ≤ sN n F + 1 := by
  induction n with
  | zero => exact Nat.zero_le _
  | succ n ih =>
    rw [sN_s, sN_s]
    by_cases c : n = i
    · subst c
      have : sN n (fu F n (F n + 1)) = sN n F := sN_eq (fun j hj => fu_ne (by omega))
      rw [this, fu_eq]
      omega
    · rw [fu_ne c]
      omega
/-- only counters changed -/
theorem STI.sam (h : STI L S) (hs : SAM S S') (hj : LJ S') : STI L S' := by
  obtain ⟨h1, h2, h3, h4, h5, h6, h7, h8⟩ := h
  have hk := hs
  obtain ⟨e1, e2, e3, e4, e5, e6⟩ := hs
  have em : ∀ i : Nat, mN S' i = mN S i := fun i => SAM_mN hk
  have en : ncd S' = ncd S := by
    unfold ncd
    rw [e2, e3]
  refine ⟨h1.tr hk.cst.cc, hj, fun i hi => ?_, fun i hi => ?_, ?_, fun hy => ?_, by omega, ?_⟩
  · rw [e2] at hi
    obtain ⟨Lt, a, b⟩ := h3 i hi
    exact ⟨Lt, hk.ki a, b⟩
  · rw [e2] at hi
    rw [em, e3]
    exact h4 i hi
  · unfold oN at h5 ⊢
    rw [e4, e5]
    exact h5
  · obtain ⟨a, b, c⟩ := h6 hy
    refine ⟨by rw [e4]; exact a, by rw [e5]; exact b, fun i hi => ?_⟩
    rw [e2] at hi
    rw [e3, em]
    exact c i hi
  · rcases h8 with q | ⟨q1, q2⟩
    · exact Or.inl (by omega)
    · refine Or.inr ⟨by rw [e4]; exact q1, fun i hi => ?_⟩
      rw [e2] at hi
      rw [e3, em]
      exact q2 i hi
/-- after a run -/
theorem STI.run (h : STI L S) (hc : CST S S') (hj : LJ S') {f F r l A : Nat → Nat} (hk : KS S' (fun _ => lgx L + lgy L) (fun i => lgX L i + 1) (lgP L)) (hR : RU S S' f (fun _ => lgx L + lgy L) (fun i => lgX L i + 1) (lgP L) F r l A) {u : Nat} :
    STI (LG' L (lgN L + 1) (lgx L) (lgy L) u (fun i => lgK L i + 1 * (f i + r i)) (lgX L) (lgP L) (lgM L)) S' := by
  obtain ⟨h1, h2, h3, h4, h5, h6, h7, h8⟩ := h
  obtain ⟨r1, r2, r3, r4, -⟩ := hR
  have nn : s_n S' = s_n S := hc.2.1
  have e3 : ∀ i : Nat, s_nd S' i 3 = s_nd S i 3 := fun i => hc.ki (by decide)
  have en : ncd S' = ncd S := by
    unfold ncd
    rw [nn]
    exact sN_eq (fun i _ => by rw [e3])
  refine ⟨h1.tr hc.cc, hj, hk, fun i hi => ?_, by show oN S' ≤ lgy L; omega, fun hy => r3 (h6 hy), by show ncd S' ≤ lgx L; omega, ?_⟩
  · rw [nn] at hi
    obtain ⟨⟨v1, v2, v3⟩⟩ := And.intro (r1 i hi) trivial
    obtain ⟨⟨n1, n2⟩, -, -, n4, -, -, -, n8, -⟩ := v3
    obtain ⟨a1, a2⟩ := h4 i hi
    refine ⟨?_, fun hx => ?_⟩
    · show mN S' i ≤ lgK L i + 1 * (f i + r i)
      omega
    · obtain ⟨z1, z2⟩ := a2 hx
      have f0 := v2 (Or.inr z1)
      have F0 := n8 z1
      exact ⟨by rw [e3]; exact z1, by omega⟩
  · show ncd S' + 1 ≤ lgx L ∨ NR S'
    rcases h8 with q | q
    · exact Or.inl (by omega)
    · exact Or.inr (r4 q)
theorem WF.run (h : WF L) (hI : Inv S0) (hC : CC (lgC L) S0) {f F r l A c T P : Nat → Nat} (hR : RU S0 S1 f c T P F r l A) {adv u : Nat} (ha : adv ≤ 1) : WF (LG' L (lgN L + 1) (lgx L) (lgy L) u (fun i => lgK L i + adv * (f i + r i)) (lgX L) (lgP L) (lgM L)) := by
  obtain ⟨w1, w2, w3, w4⟩ := h
  refine ⟨w1, w2, w3, fun i hi => ?_⟩
  show lgK L i + adv * (f i + r i) ≤ rmx (lgC L) i * (lgN L + 1) + (lgx L + lgy L)
  have hi2 : i < s_n (lgC L) := hi
  have hi' : i < s_n S0 := by rw [hC.2.1]; exact hi2
  obtain ⟨v1, v2, v3⟩ := hR.1 i hi'
  have a := w4 i hi2
  have r1 := (v3.2.1 (wayR S0 i) · (Nat.le_refl _))
  have fr : f i + r i ≤ rmx (lgC L) i := by
    unfold rmx
    rw [← CC_wR (i := i) hC, ← CC_way (i := i) hC]
    have q := (r1 (by have := (wayR_45 hI hi').1; omega)).2
    by_cases k : 2 * way S0 i < wayR S0 i
    · rw [if_pos k]
      omega
    · rw [if_neg k, v2 (Or.inl k)]
      omega
  have m : adv * (f i + r i) ≤ 1 * rmx (lgC L) i := Nat.mul_le_mul ha fr
  have e : rmx (lgC L) i * (lgN L + 1) = rmx (lgC L) i * lgN L + rmx (lgC L) i := Nat.mul_succ _ _
  omega
end AFT
