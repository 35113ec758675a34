/-! THE COMPONENT reads: a reference is added to a list -/
set_option maxRecDepth 100000
section CAD
variable {l row cap q ci n : Nat} {mc : Int32} {xs gs : List Value} {h : PH}
/-- the row of a full list grows -/
theorem p_grow {xs : List Nat} (hL : LSP h l row cap mc xs) (hc : 1 ≤ cap ∧ cap ≤ 1000) (hfull : xs.length = cap) (h1 : 1 ≤ pcl h) (h2 : cap + max 1 (cap / 2) ≤ psl h) (hE : ∀ i : Nat, i < xs.length → ∃ (ci : Nat) (fs : List Value), h.1 (xs.getD i 0) = some (.inr (ci, fs)) ∧ ci ≤ 25 ∧ xs.getD i 0 < pn h) :
    ∃ f' : Nat → Option Nat, f_J2_grow (some l) h = some (some (pn h), p_set (p_new h (.inl (h.2.1.2.1 4, cap + max 1 (cap / 2), refs f')) (cap + max 1 (cap / 2))) l (.inr (19, [.int mc, .ref (pn h), .int (Int32.ofNat xs.length)]))) ∧ ∀ j : Nat, j < xs.length → f' j = some (xs.getD j 0) := by
  obtain ⟨a1, ⟨f, a4, a5⟩, a2, a3, a6, a7, a8, l1, l2⟩ := hL
  obtain ⟨cap', ec⟩ : ∃ c, cap + max 1 (cap / 2) = c := ⟨_, rfl⟩
  rw [ec] at h2 ⊢
  have hbp : pbase h ≤ pn h := by omega
  refine ⟨va_cpy f (fun _ => none) 0 0 cap, ?_, ?_⟩
  · unfold f_J2_grow
    rw [gI_at a1 rfl, rv_at a1]
    unfold f_J2_grow_2
    rw [gR_at a1 rfl, aN_at a4]
    have c0 : (0 : Int32) < Int32.ofNat cap := by
      rw [show (0 : Int32) = Int32.ofNat 0 from rfl, of_lt (by omega) (by omega)]
      omega
    rw [if_pos c0]
    unfold f_J2_grow_2_B20 f_J11_newLength
    have e1 : Int32.ofNat xs.length + 1 - Int32.ofNat cap = Int32.ofNat 1 := by
      rw [show (1 : Int32) = Int32.ofNat 1 from rfl, of_add, of_sub (by omega)]
      congr 1
      omega
    have e2 : (if Int32.ofNat 1 < Int32.ofNat (cap / 2) then Int32.ofNat (cap / 2) else Int32.ofNat 1) = Int32.ofNat (max 1 (cap / 2)) := by
      by_cases hx : 1 < cap / 2
      · rw [if_pos ((of_lt (by omega) (by omega)).mpr hx)]
        congr 1
        omega
      · rw [if_neg (fun hy => hx ((of_lt (by omega) (by omega)).mp hy))]
        congr 1
        omega
    rw [e1, of_shr (by omega), e2, of_add, ec]
    have c1 : ¬ Int32.ofNat cap' ≤ 0 := by
      rw [show (0 : Int32) = Int32.ofNat 0 from rfl, of_le (by omega) (by omega)]
      omega
    have c2 : ¬ (2147483639 : Int32) < Int32.ofNat cap' := by
      rw [show (2147483639 : Int32) = Int32.ofNat 2147483639 from rfl, of_lt (by omega) (by omega)]
      omega
    rw [if_neg c1, if_neg c2]
    simp only [cl_]
    rw [gR_at a1 rfl]
    unfold f_J13_copyOf_2
    rw [mirrorC a4 a3]
    unfold f_J13_copyOf_3
    rw [if_pos rfl, nA_at (by omega) h1 h2]
    unfold f_J13_copyOf_3_B24
    have b4 : (p_new h (.inl (h.2.1.2.1 4, cap', aNul)) cap').1 row = some (.inl (h.2.1.2.1 4, cap, refs f)) := by rw [pn_ne (Nat.ne_of_lt l2)]; exact a4
    have b5 : (p_new h (.inl (h.2.1.2.1 4, cap', aNul)) cap').1 (pn h) = some (.inl (h.2.1.2.1 4, cap', refs (fun _ => none))) := pn_at
    rw [aN_at (h := p_new h (.inl (h.2.1.2.1 4, cap', aNul)) cap') b4]
    have c3 : ¬ Int32.ofNat cap' < Int32.ofNat cap := by
      rw [of_lt (by omega) (by omega)]
      omega
    rw [if_neg c3]
    rw [show (0 : Int32) = Int32.ofNat 0 from rfl, ycQ_at (h := p_new h (.inl (h.2.1.2.1 4, cap', aNul)) cap') (n := cap) b4 b5 a3 hbp (by omega) (by omega) (by omega) (by omega) (by omega) ?_]
    · rw [show p_set (p_new h (.inl (h.2.1.2.1 4, cap', aNul)) cap') (pn h) (.inl ((p_new h (.inl (h.2.1.2.1 4, cap', aNul)) cap').2.1.2.1 4, cap', refs (va_cpy f (fun _ => none) 0 0 cap))) = p_new h (.inl (h.2.1.2.1 4, cap', refs (va_cpy f (fun _ => none) 0 0 cap))) cap' from ps_pn]
      simp only [cl_]
      have b6 : (p_new h (.inl (h.2.1.2.1 4, cap', refs (va_cpy f (fun _ => none) 0 0 cap))) cap').1 l = some (.inr (19, [.int mc, .ref row, .int (Int32.ofNat xs.length)])) := by rw [pn_ne (Nat.ne_of_lt l1)]; exact a1
      rw [pV_at b6 a2 (Nat.le_of_ble_eq_true rfl)]
      rfl
    · intro i hi
      rw [Nat.zero_add, a5 i (by omega)]
      obtain ⟨ci, fs, q1, q2, q3⟩ := hE i (by omega)
      have h4 : (p_new h (.inl (h.2.1.2.1 4, cap', aNul)) cap').1 (xs.getD i 0) = some (.inr (ci, fs)) := by rw [pn_ne (Nat.ne_of_lt q3)]; exact q1
      simp only [elOK, h4]
      simp [q2]
  · intro j hj
    rw [← a5 j hj]
    show (if 0 ≤ j ∧ j < 0 + cap then f (0 + (j - 0)) else none) = f j
    rw [if_pos (by omega)]
    congr 1
    omega
end CAD
