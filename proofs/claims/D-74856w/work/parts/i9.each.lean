/-! ROOM: each class of nodes -/
set_option maxRecDepth 100000
section ECH
variable {C : SS} {i : Nat} {cond : Nat → Nat → Prop} {H : Nat}
theorem rm_45 (h : 45 ≤ wayR C i) : rmx C i ≤ 113 ∧ (¬ 2 * way C i < wayR C i → rmx C i ≤ 112) := rmx_le (R := 45) ⟨by decide, h⟩
theorem rm_454 (h : 454 ≤ wayR C i) : rmx C i ≤ 13 ∧ (¬ 2 * way C i < wayR C i → rmx C i ≤ 12) := rmx_le (R := 454) ⟨by decide, h⟩
/-- what the spacing bounds, with all other costs at most 9 K -/
theorem w_sp {S0 S1 : SS} {f c T P : Nat → Nat} {F r l A x K : Nat} (hs : 45 ≤ spN C i ∧ 45 ≤ wayR C i) (hC : CC C S0) (hN : NU S0 S1 f c T P i F r l A) (hx : x ≤ xF S0 i * mN S0 i) (hK : mN S0 i ≤ K) : ∃ w : Nat, 2 * w ≤ 1568 + 18 * K ∧ 7 * F + 4 * aqN S0 i + x ≤ w + 4 * c i + 7 * l + 0 * T i := by
  have sp := hN.2.2.2.2.2.2.2.2.1 45 (by rw [CC_sp hC]; exact hs.1) (by rw [CC_wR hC]; exact hs.2)
  have il := iN_le (S := S0) (i := i)
  have fl := hN.1.2
  unfold xF at hx
  refine ⟨7 * (F - l) + 4 * aqN S0 i + x, ?_, by omega⟩
  by_cases hc : s_nd S0 i 3 = 0
  · obtain ⟨z1, z2, z3⟩ := NU_nc hN hc
    rw [if_pos hc] at hx
    omega
  · rw [if_neg hc] at hx
    omega
theorem w_l6 {S0 S1 : SS} {f c T P : Nat → Nat} {F r l A x K : Nat} (hs : 2 * way C i < wayR C i) (hC : CC C S0) (hN : NU S0 S1 f c T P i F r l A) (hx : x ≤ xF S0 i * mN S0 i) (hK : mN S0 i ≤ K) : ∃ w : Nat, 2 * w ≤ 0 + 18 * K ∧ 7 * F + 4 * aqN S0 i + x ≤ w + 4 * c i + 7 * l + 784 * T i := by
  have t := hN.2.2.2.2.2.2.1 (by rw [CC_way hC, CC_wR hC]; exact hs)
  have il := iN_le (S := S0) (i := i)
  unfold xF at hx
  refine ⟨4 * aqN S0 i + x, ?_, by omega⟩
  by_cases hc : s_nd S0 i 3 = 0
  · rw [if_pos hc] at hx
    omega
  · rw [if_neg hc] at hx
    omega
theorem n_QS (hs : 45 ≤ spN C i) (hR : 454 ≤ wayR C i) (hH : H ≤ 63) : NODEOK C i cond H (lpa tQS) (lpb tQS) 11 0 :=
  node_1 okQS (fun _ => List.mem_singleton.mpr rfl) (rm_454 hR).1 (fun S0 S1 f c T P F r l A x K hC hN hx hK _ => w_sp ⟨hs, by omega⟩ hC hN hx hK) (by show H + 1 ≤ 64; omega)
theorem n_L6 (hl : 2 * way C i < wayR C i) (hR : 454 ≤ wayR C i) (hH : H ≤ 44) : NODEOK C i cond H (lpa tL6) (lpb tL6) 11 784 :=
  node_1 okL6 (fun _ => List.mem_singleton.mpr rfl) (rm_454 hR).1 (fun S0 S1 f c T P F r l A x K hC hN hx hK _ => w_l6 hl hC hN hx hK) (by show H + 1 ≤ 45; omega)
theorem n_L6J (hl : 2 * way C i < wayR C i) (hR : 45 ≤ wayR C i) (hH : H ≤ 27) : NODEOK C i cond H (lpa tL6J) (lpb tL6J) 11 784 :=
  node_1 okL6J (fun _ => List.mem_singleton.mpr rfl) (rm_45 hR).1 (fun S0 S1 f c T P F r l A x K hC hN hx hK _ => w_l6 hl hC hN hx hK) (by show H + 1 ≤ 28; omega)
theorem n_L6c (hl : 2 * way C i < wayR C i) (hR : 45 ≤ wayR C i) (hj : (s_cf C 7).toInt = 0) (hH : H ≤ 35) : NODEOK C i cond H (lpa tL6c) (lpb tL6c) 11 784 :=
  node_1 okL6c (fun _ => List.mem_singleton.mpr rfl) (rm_45 hR).1 (fun S0 S1 f c T P F r l A x K hC hN hx hK hI => by
    have t := hN.2.2.2.2.2.2.1 (by rw [CC_way hC, CC_wR hC]; exact hl)
    have hI := hI (by rw [hC.1]; exact hj)
    unfold xF at hx
    refine ⟨2004 + x, ?_, by omega⟩
    by_cases hc : s_nd S0 i 3 = 0
    · rw [if_pos hc] at hx
      omega
    · rw [if_neg hc] at hx
      omega) (by show H + 1 ≤ 36; omega)
theorem NODEOK.up {a b : Nat → Nat} {e1 e1' e2 e2' : Nat} (h : NODEOK C i cond H a b e1 e2) (h1 : e1 ≤ e1') (h2 : e2 ≤ e2') : NODEOK C i cond H a b e1' e2' := fun L S0 S1 f F r l A xx sh adv j q1 q2 q3 q4 q5 q6 q7 => by
  have k := h L S0 S1 f F r l A xx sh adv j q1 q2 q3 q4 q5 q6 q7
  have m1 : e1 * (lgx L + lgy L) ≤ e1' * (lgx L + lgy L) := Nat.mul_le_mul_right _ h1
  have m2 : e2 * (lgX L i + 1) ≤ e2' * (lgX L i + 1) := Nat.mul_le_mul_right _ h2
  omega
theorem NODEOK.low {a b : Nat → Nat} {e1 e2 H' : Nat} (h : NODEOK C i cond H a b e1 e2) (hH : H' ≤ H) : NODEOK C i cond H' a b e1 e2 := fun L S0 S1 f F r l A xx sh adv j q1 q2 q3 q4 q5 q6 q7 => h L S0 S1 f F r l A xx sh adv j q1 q2 q3 q4 q5 (by omega) q7
theorem n_Qd (hl : ¬ 2 * way C i < wayR C i) (hR : 454 ≤ wayR C i) (hp : 1818 ≤ perN C i) (hH : H ≤ 52) : NODEOK C i cond H (lpa tQd) (lpb tQd) 11 0 :=
  (node_B (R := 454) (per := 3) (p := 1818) okQd (fun _ => ⟨List.mem_cons_self .., List.mem_cons_of_mem _ (List.mem_singleton.mpr rfl)⟩) ⟨by decide, hR⟩ ⟨by decide, hp⟩ (by decide) (by decide) hl (by show H + 1 ≤ 53; omega)).up (Nat.zero_le _) (Nat.le_refl _)
theorem n_DpJ (hl : ¬ 2 * way C i < wayR C i) (hR : 454 ≤ wayR C i) (hp : 45 ≤ perN C i) (hH : H ≤ 33) : NODEOK C i cond H (lpa tDpJ) (lpb tDpJ) 11 0 :=
  (node_B (R := 454) (per := 112) (p := 45) okDpJ (fun _ => ⟨List.mem_cons_self .., List.mem_cons_of_mem _ (List.mem_singleton.mpr rfl)⟩) ⟨by decide, hR⟩ ⟨by decide, hp⟩ (by decide) (by decide) hl (by show H + 1 ≤ 34; omega)).up (Nat.zero_le _) (Nat.le_refl _)
theorem n_DcJ (hl : ¬ 2 * way C i < wayR C i) (hR : 45 ≤ wayR C i) (hp : 45 ≤ perN C i) (hH : H ≤ 33) : NODEOK C i cond H (lpa tDcJ) (lpb tDcJ) 11 0 :=
  (node_B (R := 45) (per := 112) (p := 45) okDcJ (fun _ => ⟨List.mem_cons_self .., List.mem_cons_of_mem _ (List.mem_singleton.mpr rfl)⟩) ⟨by decide, hR⟩ ⟨by decide, hp⟩ (by decide) (by decide) hl (by show H + 1 ≤ 34; omega)).up (Nat.zero_le _) (Nat.le_refl _)
theorem n_D3J (hl : ¬ 2 * way C i < wayR C i) (hR : 45 ≤ wayR C i) (hp : 1818 ≤ perN C i) (hH : H ≤ 33) : NODEOK C i cond H (lpa tD3J) (lpb tD3J) 11 0 :=
  (node_B (R := 45) (per := 3) (p := 1818) okD3J (fun _ => ⟨List.mem_cons_self .., List.mem_cons_of_mem _ (List.mem_singleton.mpr rfl)⟩) ⟨by decide, hR⟩ ⟨by decide, hp⟩ (by decide) (by decide) hl (by show H + 1 ≤ 34; omega)).up (Nat.zero_le _) (Nat.le_refl _)
theorem n_D3K (hl : ¬ 2 * way C i < wayR C i) (hR : 45 ≤ wayR C i) (hp : 1818 ≤ perN C i) (hH : H ≤ 20) : NODEOK C i cond H (lpa tD3K) (lpb tD3K) 11 0 :=
  (node_B (R := 45) (per := 3) (p := 1818) okD3K (fun _ => ⟨List.mem_cons_self .., List.mem_cons_of_mem _ (List.mem_singleton.mpr rfl)⟩) ⟨by decide, hR⟩ ⟨by decide, hp⟩ (by decide) (by decide) hl (by show H + 1 ≤ 21; omega)).up (Nat.zero_le _) (Nat.le_refl _)
theorem m3 {a b c : LK1} : a ∈ [a, b, c] ∧ b ∈ [a, b, c] ∧ c ∈ [a, b, c] := ⟨List.mem_cons_self .., List.mem_cons_of_mem _ (List.mem_cons_self ..), List.mem_cons_of_mem _ (List.mem_cons_of_mem _ (List.mem_singleton.mpr rfl))⟩
theorem n_DpJ0 (hl : ¬ 2 * way C i < wayR C i) (hR : 454 ≤ wayR C i) (hp : 455 ≤ perN C i) (hj : (s_cf C 7).toInt = 0) (hH : H ≤ 41) : NODEOK C i cond H (lpa tDpJ0) (lpb tDpJ0) 11 0 :=
  node_A (R := 454) (per := 11) (p := 455) (z := 1) okDpJ0 (fun _ => ⟨m3.1, m3.2.1, Or.inr m3.2.2⟩) (by decide) ⟨by decide, hR⟩ ⟨by decide, hp⟩ (by decide) (by decide) hl hj (fun _ _ _ h => absurd h (by decide)) (by show H + 1 ≤ 42; omega)
theorem n_D3b (hl : ¬ 2 * way C i < wayR C i) (hR : 45 ≤ wayR C i) (hp : 1818 ≤ perN C i) (hj : (s_cf C 7).toInt = 0) (hH : H ≤ 39) : NODEOK C i cond H (lpa tD3b) (lpb tD3b) 11 0 :=
  node_A (R := 45) (per := 3) (p := 1818) (z := 1) okD3b (fun _ => ⟨m3.1, m3.2.1, Or.inr m3.2.2⟩) (by decide) ⟨by decide, hR⟩ ⟨by decide, hp⟩ (by decide) (by decide) hl hj (fun _ _ _ h => absurd h (by decide)) (by show H + 1 ≤ 40; omega)
theorem n_D3n (hl : ¬ 2 * way C i < wayR C i) (hR : 45 ≤ wayR C i) (hp : 1818 ≤ perN C i) (hj : (s_cf C 7).toInt = 0) (hH : H ≤ 28) : NODEOK C i cond H (lpa tD3n) (lpb tD3n) 11 0 :=
  node_A (R := 45) (per := 3) (p := 1818) (z := 1) okD3n (fun _ => ⟨m3.1, m3.2.1, Or.inr m3.2.2⟩) (by decide) ⟨by decide, hR⟩ ⟨by decide, hp⟩ (by decide) (by decide) hl hj (fun _ _ _ h => absurd h (by decide)) (by show H + 1 ≤ 29; omega)
theorem n_D3c (hl : ¬ 2 * way C i < wayR C i) (hR : 45 ≤ wayR C i) (hp : 1818 ≤ perN C i) (hj : (s_cf C 7).toInt = 0) (hH : H ≤ 20) : NODEOK C i cond H (lpa tD3c) (lpb tD3c) 11 0 :=
  node_A (R := 45) (per := 3) (p := 1818) (z := 1) okD3c (fun _ => ⟨m3.1, m3.2.1, Or.inr m3.2.2⟩) (by decide) ⟨by decide, hR⟩ ⟨by decide, hp⟩ (by decide) (by decide) hl hj (fun _ _ _ h => absurd h (by decide)) (by show H + 1 ≤ 21; omega)
theorem n_D3a (hl : ¬ 2 * way C i < wayR C i) (hR : 45 ≤ wayR C i) (hp : 1818 ≤ perN C i) (hj : (s_cf C 7).toInt = 0) (hH : H ≤ 40) : NODEOK C i (fun _ y => y = 0) H (lpa tD3a) (lpb tD3a) 11 0 :=
  node_A (R := 45) (per := 3) (p := 1818) (z := 0) okD3a (fun _ => ⟨List.mem_cons_self .., List.mem_cons_of_mem _ (List.mem_singleton.mpr rfl), Or.inl rfl⟩) (by decide) ⟨by decide, hR⟩ ⟨by decide, hp⟩ (by decide) (by decide) hl hj (fun _ _ h _ => h) (by show H + 1 ≤ 41; omega)
theorem n_Dca (hl : ¬ 2 * way C i < wayR C i) (hR : 45 ≤ wayR C i) (hp : 45 ≤ perN C i) (hj : (s_cf C 7).toInt = 0) (hH : H ≤ 34) : NODEOK C i (fun _ y => y = 0) H (lpa tDca) (lpb tDca) 11 0 :=
  node_A (R := 45) (per := 112) (p := 45) (z := 0) okDca (fun _ => ⟨List.mem_cons_self .., List.mem_cons_of_mem _ (List.mem_singleton.mpr rfl), Or.inl rfl⟩) (by decide) ⟨by decide, hR⟩ ⟨by decide, hp⟩ (by decide) (by decide) hl hj (fun _ _ h _ => h) (by show H + 1 ≤ 35; omega)
theorem n_SS (hs : 45 ≤ spN C i) (hR : 45 ≤ wayR C i) (hj : (s_cf C 7).toInt = 0) (hH : H ≤ 43) : NODEOK C i cond H (lpa tSS) (lpb tSS) 11 0 :=
  node_S (q := 45) (c0 := 1568) okSS (fun _ => m3) ⟨by decide, hs, hR⟩ (by decide) (rm_45 hR).1 hj (by show H + 1 ≤ 44; omega)
theorem n_S5 (hl : ¬ 2 * way C i < wayR C i) (hs : 5 ≤ spN C i) (hR : 45 ≤ wayR C i) (hj : (s_cf C 7).toInt = 0) (hH : H ≤ 41) : NODEOK C i cond H (lpa tS5) (lpb tS5) 11 0 :=
  node_S (q := 5) (c0 := 14014) okS5 (fun _ => m3) ⟨by decide, hs, by omega⟩ (by decide) ((rm_45 hR).2 hl) hj (by show H + 1 ≤ 42; omega)
theorem n_S5n (hl : ¬ 2 * way C i < wayR C i) (hs : 5 ≤ spN C i) (hR : 45 ≤ wayR C i) (hj : (s_cf C 7).toInt = 0) (hH : H ≤ 29) : NODEOK C i cond H (lpa tS5n) (lpb tS5n) 11 0 :=
  node_S (q := 5) (c0 := 14014) okS5n (fun _ => m3) ⟨by decide, hs, by omega⟩ (by decide) ((rm_45 hR).2 hl) hj (by show H + 1 ≤ 30; omega)
theorem n_SSJ (hs : 45 ≤ spN C i) (hR : 45 ≤ wayR C i) (hH : H ≤ 35) : NODEOK C i cond H (lpa tSSJ) (lpb tSSJ) 11 0 :=
  node_SJ (q := 45) (c0 := 1568) okSSJ (fun _ => ⟨List.mem_cons_self .., List.mem_cons_of_mem _ (List.mem_singleton.mpr rfl)⟩) ⟨by decide, hs, hR⟩ (by decide) (rm_45 hR).1 (by show H + 1 ≤ 36; omega)
end ECH
