/-! LISTS: add of a new object, whole -/
set_option maxRecDepth 100000
section L3
variable {E : PE} {B : Nat × Nat} {F G : Nat → Nat} {R I : PM} {S S' : SS} {h h' : PH} {ad : Nat → Nat → Nat}
theorem RP.grow (hr : RP E B G ad I S h) {li cap' : Nat} (h1 : 2 ≤ li) (h2 : li < 6) (hfull : (lsC E S li).length = s_gh S li) (ec : cap' = s_gh S li + max 1 (s_gh S li / 2)) (hr1 : 1 ≤ pcl h) (hr2 : cap' ≤ psl h) (hc : cap' < 2 ^ 25) :
    ∃ (md : Int32) (f' : Nat → Option Nat), f_J2_grow (some (G li)) h = some (some (pn h), p_set (p_new h (.inl (h.2.1.2.1 4, cap', refs f')) cap') (G li) (cLst md (pn h) (lsC E S li).length)) ∧ (∀ j : Nat, j < (lsC E S li).length → f' j = some (ad li j)) ∧ ∀ j : Nat, (lsC E S li).length ≤ j → f' j = none := by
  obtain ⟨⟨md, a1⟩, a2, a3, f, a4, a5, a6, a7, a8, a9⟩ := hr.lst h1 h2
  have m1 : mR (s_n S) li := Or.inl (by omega)
  have m2 : mR (s_n S) (li + 10) := Or.inr (Or.inl (by omega))
  have l1 : G li < pn h := (hr.2.2.1 li m1).2.2
  have l2 : G (li + 10) < pn h := (hr.2.2.1 (li + 10) m2).2.2
  have hbp : pbase h ≤ pn h := Nat.le_of_lt (Nat.lt_of_le_of_lt a2 l1)
  refine ⟨md, va_cpy f (fun _ => none) 0 0 (s_gh S li), ?_, ?_, ?_⟩
  · unfold f_J2_grow
    rw [gI_at a1 rfl, rv_at a1]
    unfold f_J2_grow_2
    rw [gR_at a1 rfl, aN_at a4]
    have c0 : (0 : Int32) < Int32.ofNat (s_gh S li) := by
      rw [show (0 : Int32) = Int32.ofNat 0 from rfl, of_lt (by omega) (by omega)]
      exact a9
    rw [if_pos c0]
    unfold f_J2_grow_2_B20 f_J11_newLength
    have e1 : Int32.ofNat (lsC E S li).length + 1 - Int32.ofNat (s_gh S li) = Int32.ofNat 1 := by
      rw [show (1 : Int32) = Int32.ofNat 1 from rfl, of_add, of_sub (by omega)]
      congr 1
      omega
    have e2 : (if Int32.ofNat 1 < Int32.ofNat (s_gh S li / 2) then Int32.ofNat (s_gh S li / 2) else Int32.ofNat 1) = Int32.ofNat (max 1 (s_gh S li / 2)) := by
      by_cases hx : 1 < s_gh S li / 2
      · rw [if_pos ((of_lt (by omega) (by omega)).mpr hx)]
        congr 1
        omega
      · rw [if_neg (fun hy => hx ((of_lt (by omega) (by omega)).mp hy))]
        congr 1
        omega
    rw [e1, of_shr (by omega), e2, of_add, ← ec]
    have c1 : ¬ Int32.ofNat cap' ≤ 0 := by
      rw [show (0 : Int32) = Int32.ofNat 0 from rfl, of_le (by omega) (by omega)]
      omega
    have c2 : ¬ (2147483639 : Int32) < Int32.ofNat cap' := by
      rw [show (2147483639 : Int32) = Int32.ofNat 2147483639 from rfl, of_lt (by omega) (by omega)]
      omega
    rw [if_neg c1, if_neg c2]
    simp only [cl_]
    rw [gR_at a1 rfl]
    unfold f_J13_copyOf_2
    rw [mirrorC a4 a3]
    unfold f_J13_copyOf_3
    rw [if_pos rfl, nA_at (by omega) hr1 hr2]
    unfold f_J13_copyOf_3_B24
    have b4 : (p_new h (.inl (h.2.1.2.1 4, cap', aNul)) cap').1 (G (li + 10)) = some (.inl (h.2.1.2.1 4, s_gh S li, refs f)) := by rw [pn_ne (Nat.ne_of_lt l2)]; exact a4
    have b5 : (p_new h (.inl (h.2.1.2.1 4, cap', aNul)) cap').1 (pn h) = some (.inl (h.2.1.2.1 4, cap', refs (fun _ => none))) := pn_at
    rw [aN_at (h := p_new h (.inl (h.2.1.2.1 4, cap', aNul)) cap') b4]
    have c3 : ¬ Int32.ofNat cap' < Int32.ofNat (s_gh S li) := by
      rw [of_lt (by omega) (by omega)]
      omega
    rw [if_neg c3]
    rw [show (0 : Int32) = Int32.ofNat 0 from rfl, ycQ_at (h := p_new h (.inl (h.2.1.2.1 4, cap', aNul)) cap') (n := s_gh S li) b4 b5 a3 hbp (by omega) (by omega) (by omega) (by omega) (by omega) ?_]
    · rw [show p_set (p_new h (.inl (h.2.1.2.1 4, cap', aNul)) cap') (pn h) (.inl ((p_new h (.inl (h.2.1.2.1 4, cap', aNul)) cap').2.1.2.1 4, cap', refs (va_cpy f (fun _ => none) 0 0 (s_gh S li)))) = p_new h (.inl (h.2.1.2.1 4, cap', refs (va_cpy f (fun _ => none) 0 0 (s_gh S li)))) cap' from ps_pn]
      simp only [cl_]
      have b6 : (p_new h (.inl (h.2.1.2.1 4, cap', refs (va_cpy f (fun _ => none) 0 0 (s_gh S li)))) cap').1 (G li) = some (.inr (19, [.int md, .ref (G (li + 10)), .int (Int32.ofNat (lsC E S li).length)])) := by rw [pn_ne (Nat.ne_of_lt l1)]; exact a1
      rw [pV_at b6 a2 (Nat.le_of_ble_eq_true rfl)]
      rfl
    · intro i hi
      rw [Nat.zero_add, a5 i (by omega)]
      have hx : (lsC E S li)[i]? = some ((lsC E S li)[i]'(by omega)) := List.getElem?_eq_getElem _
      have hi9 := hr.2.2.2.2.2.1.2.2.2.2.2.1 li i _ h1 h2 hx
      obtain ⟨ci, fs, q1, q2⟩ := lsC_cls (List.mem_of_getElem? hx)
      have h3 := hr.2.1 _ _ hi9.1
      rw [q1] at h3
      have h4 : (p_new h (.inl (h.2.1.2.1 4, cap', aNul)) cap').1 (ad li i) = some (.inr (ci, fs)) := by rw [pn_ne (Nat.ne_of_lt h3.2)]; exact h3.1
      simp [elOK, h4, q2]
  · intro j hj
    rw [← a5 j hj]
    show (if 0 ≤ j ∧ j < 0 + s_gh S li then f (0 + (j - 0)) else none) = f j
    rw [if_pos (by omega)]
    congr 1
    omega
  · intro j hj
    show (if 0 ≤ j ∧ j < 0 + s_gh S li then f (0 + (j - 0)) else none) = none
    rw [if_neg (by omega)]
/-- a new object is added to a list -/
theorem l_addn (hS : SP E B F R S h) {li N ci : Nat} {fs : List Value} (h1 : 2 ≤ li) (h2 : li < 6) (hb : sB (g_add (g_mk S 1 N) li (lsC E S li).length) S') (hli : lsC E S' li = lsC E S li ++ [.inr (ci, fs)]) (hlo : ∀ k : Nat, k ≠ li → 2 ≤ k → k < 6 → lsC E S' k = lsC E S k) (hci : ci ≤ 25) (hB : s_gh S' 0 ≤ B.1 ∧ s_gh S' 1 ≤ B.2) (hB2 : B.2 < 2 ^ 25) :
    okk (f_J2_add (some (F li)) (some (pn h)) (p_new h (.inr (ci, fs)) N)) (fun b => SP E B F R S' b.2) := by
  obtain ⟨G, ad, I, g1, g2, hr⟩ := hS
  have hgh : s_gh S' = gg (s_gh (g_mk S 1 N)) li (lsC E S li).length := hb.2.2.2.2.2
  have k0 : s_gh (g_mk S 1 N) 0 = s_gh S 0 + 1 := by
    show fu (fu (s_gh S) 0 (s_gh S 0 + 1)) 1 (s_gh S 1 + N) 0 = _
    rw [fu_ne (by decide), fu_eq]
  have k1 : s_gh (g_mk S 1 N) 1 = s_gh S 1 + N := by
    show fu (fu (s_gh S) 0 (s_gh S 0 + 1)) 1 (s_gh S 1 + N) 1 = _
    rw [fu_eq]
  have kl : s_gh (g_mk S 1 N) li = s_gh S li := (fu_ne (by omega)).trans (fu_ne (by omega))
  have q0 : s_gh S 0 + 1 ≤ s_gh S' 0 ∧ s_gh S 1 + N ≤ s_gh S' 1 := by
    rw [hgh]
    unfold gg
    split
    · refine ⟨?_, ?_⟩
      · rw [fu_ne (by decide), fu_eq]; omega
      · rw [fu_eq]; omega
    · omega
  have rm := hr.2.2.2.2.2.2.2
  have room1 : 1 ≤ pcl h := by have := rm.1; omega
  have room2 : N ≤ psl h := by have := rm.2; omega
  have hr1 := hr.mkI (.inr (ci, fs)) N room1 room2
  have hbp : E.2.2.1 ≤ pn h := by
    have := hr.2.2.1 0 (Or.inl (by decide))
    omega
  have hnew : ∀ j : Nat, j < (lsC E S li).length → ad li j ≠ pn h := by
    intro j hj
    have hx : (lsC E S li)[j]? = some ((lsC E S li)[j]) := List.getElem?_eq_getElem hj
    have hi := hr.2.2.2.2.2.1.2.2.2.2.2.1 li j _ h1 h2 hx
    exact Nat.ne_of_lt (hr.2.1 _ _ hi.1).2
  have hlsm : ∀ k : Nat, lsC E (g_mk S 1 N) k = lsC E S k := fun k => rfl
  have hq : (fun b => if b = pn h then some (Sum.inr (ci, fs)) else I b : PM) (pn h) = some (.inr (ci, fs)) := if_pos rfl
  obtain ⟨⟨md, a1⟩, a2, a3, f, a4, a5, a6, a7, a8, a9⟩ := hr1.lst h1 h2
  have hr2 := hr1.md (md := md + 1) h1 h2
  have hR : ∀ (b : Nat) (e : va_E), R b = some e → (fun b => if b = pn h then some (Sum.inr (ci, fs)) else I b : PM) b = some e := by
    intro b e hbe
    have h3 := g2 b e hbe
    have hne : b ≠ pn h := Nat.ne_of_lt (hr.2.1 _ _ h3).2
    show (if b = pn h then some (Sum.inr (ci, fs)) else I b) = some e
    rw [if_neg hne]
    exact h3
  obtain ⟨⟨md2, b1⟩, b2, b3, f2, b4, b5, b6, b7, b8, b9⟩ := hr2.lst h1 h2
  rw [← g1 li (Or.inl (by omega))]
  unfold f_J2_add
  rw [gIN_at a1 a2 rfl, pV_at a1 a2 (Nat.le_of_ble_eq_true rfl)]
  rw [show (Sum.inr (19, List.set [Value.int md, Value.ref (G (li + 10)), Value.int (Int32.ofNat (lsC E (g_mk S 1 N) li).length)] 0 (Value.int (md + 1))) : va_E) = cLst (md + 1) (G (li + 10)) (lsC E (g_mk S 1 N) li).length from rfl]
  rw [gR_at b1 rfl, gI_at b1 rfl, rv_at b1]
  unfold f_J2_add_2
  rw [aN_at b4]
  by_cases hfull : (lsC E S li).length = s_gh S li
  · have hgf : s_gh S' = fu (fu (fu (s_gh (g_mk S 1 N)) li (s_gh S li + max 1 (s_gh S li / 2))) 0 (s_gh (g_mk S 1 N) 0 + 1)) 1 (s_gh (g_mk S 1 N) 1 + (s_gh S li + max 1 (s_gh S li / 2))) := by
      rw [hgh]
      unfold gg
      rw [if_pos (by rw [kl]; exact hfull), kl]
    have z0 : s_gh S' 0 = s_gh S 0 + 2 := by rw [hgf, fu_ne (by decide), fu_eq, k0]
    have z1 : s_gh S' 1 = s_gh S 1 + N + (s_gh S li + max 1 (s_gh S li / 2)) := by rw [hgf, fu_eq, k1]
    have rm2 := hr2.2.2.2.2.2.2.2
    rw [if_pos (by rw [hlsm, hfull, kl])]
    obtain ⟨md3, f3, c1, c2, c3⟩ := hr2.grow (cap' := s_gh S li + max 1 (s_gh S li / 2)) h1 h2 (by rw [hlsm, kl]; exact hfull) (by rw [kl]) (by have := rm2.1; rw [k0] at this; omega) (by have := rm2.2; rw [k1] at this; omega) (by omega)
    have hr3 := hr2.move (md := md3) (cap' := s_gh S li + max 1 (s_gh S li / 2)) (f' := f3) h1 h2 (by have := rm2.1; rw [k0] at this; omega) (by have := rm2.2; rw [k1] at this; omega) c2 c3 (by rw [hlsm]; omega) (by omega) (by omega)
    rw [rv_at b1, cl_eq c1]
    have hr4 := hr3.add (S' := S') (q := pn h) (ci := ci) (fs := fs) (li := li) ⟨hb.1, hb.2.1, hb.2.2.1, hb.2.2.2.1, hb.2.2.2.2.1, hgf⟩ h1 h2 hli hlo hq hbp hci hnew ?_
    · obtain ⟨h9, d1, d2⟩ := hr4
      rw [fu_ne (show li ≠ li + 10 by omega), fu_eq] at d1
      refine ⟨(1, h9), ?_, ?_⟩
      · have d3 := cl_eq (K := fun (_u : Unit) (h5 : PH) => rN .boolean (1 : Int32) (fun v => v) h5) d1
        refine d3.trans ?_
        exact rN_at (by decide)
      · refine ⟨fu G (li + 10) _, _, _, fun k hk => ?_, hR, d2⟩
        rw [fu_ne (by omega)]
        exact g1 k hk
    · show (lsC E S li).length < fu (fu (fu (s_gh (g_mk S 1 N)) li (s_gh S li + max 1 (s_gh S li / 2))) 0 _) 1 _ li
      rw [fu_ne (by omega), fu_ne (by omega), fu_eq]
      omega
  · have hgf : s_gh S' = s_gh (g_mk S 1 N) := by
      rw [hgh]
      unfold gg
      rw [if_neg (by rw [kl]; exact hfull)]
    have hlt : (lsC E S li).length < s_gh S li := by
      rw [kl] at a7
      have : (lsC E S li).length ≤ s_gh S li := a7
      omega
    rw [if_neg (fun hx => hfull (by
      rw [of_inj (by omega) (by omega), kl] at hx
      exact hx))]
    have hr4 := hr2.add (S' := S') (q := pn h) (ci := ci) (fs := fs) (li := li) ⟨hb.1, hb.2.1, hb.2.2.1, hb.2.2.2.1, hb.2.2.2.2.1, hgf⟩ h1 h2 hli hlo hq hbp hci hnew (by rw [hlsm, kl]; exact hlt)
    obtain ⟨h9, d1, d2⟩ := hr4
    refine ⟨(1, h9), ?_, ⟨G, _, _, g1, hR, d2⟩⟩
    have d3 := cl_eq (K := fun (_u : Unit) (h5 : PH) => rN .boolean (1 : Int32) (fun v => v) h5) d1
    exact d3.trans (rN_at (by decide))
end L3
