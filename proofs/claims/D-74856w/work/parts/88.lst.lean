/-! THE LISTS of the picture -/
set_option maxRecDepth 100000
theorem of_add (a b : Nat) : Int32.ofNat a + Int32.ofNat b = Int32.ofNat (a + b) := (Int32.ofNat_add a b).symm
theorem of_inj {a b : Nat} (ha : a < 2 ^ 31) (hb : b < 2 ^ 31) : Int32.ofNat a = Int32.ofNat b ↔ a = b := ⟨ofNat_inj31 ha hb, fun h => by rw [h]⟩
theorem of_le {a b : Nat} (ha : a < 2 ^ 31) (hb : b < 2 ^ 31) : Int32.ofNat a ≤ Int32.ofNat b ↔ a ≤ b := by
  rw [Int32.le_iff_toInt_le, Int32.toInt_ofNat_of_lt ha, Int32.toInt_ofNat_of_lt hb]
  omega
theorem of_lt {a b : Nat} (ha : a < 2 ^ 31) (hb : b < 2 ^ 31) : Int32.ofNat a < Int32.ofNat b ↔ a < b := by
  rw [Int32.lt_iff_toInt_lt, Int32.toInt_ofNat_of_lt ha, Int32.toInt_ofNat_of_lt hb]
  omega
theorem of_sub {a b : Nat} (h : b ≤ a) : Int32.ofNat a - Int32.ofNat b = Int32.ofNat (a - b) := by
  have e : Int32.ofNat (a - b) + Int32.ofNat b = Int32.ofNat a := by rw [of_add, Nat.sub_add_cancel h]
  rw [← e]
  exact Int32.add_sub_cancel _ _
theorem of_shr {a : Nat} (ha : a < 2 ^ 31) : (Int32.ofNat a) >>> ((1 : Int32) &&& 31) = Int32.ofNat (a / 2) := by
  rw [show ((1 : Int32) &&& 31) = 1 from by decide]
  apply Int32.toInt_inj.mp
  rw [Int32.toInt_ofNat_of_lt (by omega)]
  have h1 : ((Int32.ofNat a) >>> (1 : Int32)).toInt = (Int32.ofNat a).toInt >>> 1 := by
    show (((Int32.ofNat a) >>> (1 : Int32)).toBitVec).toInt = _
    rw [Int32.toBitVec_shiftRight]
    show (((Int32.ofNat a).toBitVec).sshiftRight' _).toInt = _
    rw [show ((1 : Int32).toBitVec.smod 32) = 1#32 from by decide]
    rw [BitVec.sshiftRight_eq', BitVec.toInt_sshiftRight]
    rfl
  rw [h1, Int32.toInt_ofNat_of_lt ha, Int.shiftRight_eq_div_pow]
  omega
section LL
variable {E : PE} {B : Nat × Nat} {F G : Nat → Nat} {R I : PM} {S S' : SS} {h h' : PH} {ad ad' : Nat → Nat → Nat}
/-- some roles' cells are changed at once -/
theorem RP.gen (hr : RP E B G ad I S h) (C : Nat → Prop) (hE : h'.2 = h.2) (hout : ∀ b : Nat, (∀ k : Nat, mR (s_n S) k → C k → b ≠ G k) → h'.1 b = h.1 b) (hn : s_n S' = s_n S) (hg : s_gh S' 0 = s_gh S 0 ∧ s_gh S' 1 = s_gh S 1)
    (hc : ∀ (k : Nat) (e : va_E), mR (s_n S) k → ¬ C k → CR E G ad S k e → CR E G ad' S' k e) (hc0 : ∀ k : Nat, mR (s_n S) k → C k → ∃ e : va_E, h'.1 (G k) = some e ∧ CR E G ad' S' k e) (hi : IM E G ad' I S') : RP E B G ad' I S' h' := by
  obtain ⟨r1, r2, r3, r4, r5, r6, r7, r8, r9⟩ := hr
  have hpn : pn h' = pn h := by show h'.2.2.1 = _; rw [hE]
  refine ⟨by rw [hE]; exact r1, fun b e hb => ?_, ?_, ?_, ?_, hi, by rw [hn]; exact r7, ?_, ?_⟩
  · obtain ⟨g1, g2⟩ := r2 b e hb
    refine ⟨?_, by rw [hpn]; exact g2⟩
    rw [hout b (fun k hk _ hbk => ?_), g1]
    rw [hbk, (r3 k hk).1] at hb
    cases hb
  · rw [hn, hpn]; exact r3
  · rw [hn]; exact r4
  · rw [hn]
    intro k hk
    by_cases hC : C k
    · exact hc0 k hk hC
    · obtain ⟨e, g1, g2⟩ := r5 k hk
      refine ⟨e, ?_, hc k e hk hC g2⟩
      rw [hout _ (fun j hj hCj hjk => ?_), g1]
      rw [r4 k j hk hj hjk] at hC
      exact hC hCj
  · rw [hg.1]
    show h'.2.2.2.1 + _ = _
    rw [hE]; exact r8
  · rw [hg.2]
    show h'.2.2.2.2 + _ = _
    rw [hE]; exact r9
/-- the list's object and its row -/
theorem RP.lst (hr : RP E B G ad I S h) {li : Nat} (h1 : 2 ≤ li) (h2 : li < 6) : (∃ md : Int32, h.1 (G li) = some (cLst md (G (li + 10)) (lsC E S li).length)) ∧ pbase h ≤ G li ∧ pbase h ≤ G (li + 10) ∧
    ∃ f : Nat → Option Nat, h.1 (G (li + 10)) = some (.inl (h.2.1.2.1 4, s_gh S li, refs f)) ∧ (∀ j : Nat, j < (lsC E S li).length → f j = some (ad li j)) ∧ (∀ j : Nat, (lsC E S li).length ≤ j → f j = none) ∧ (lsC E S li).length ≤ s_gh S li ∧ s_gh S li < 2 ^ 30 ∧ 0 < s_gh S li := by
  obtain ⟨r1, r2, r3, r4, r5, r6, r7, r8, r9⟩ := hr
  have m1 : mR (s_n S) li := Or.inl (by omega)
  have m2 : mR (s_n S) (li + 10) := Or.inr (Or.inl (by omega))
  obtain ⟨e, a1, a2⟩ := r5 li m1
  obtain ⟨e', b1, b2⟩ := r5 (li + 10) m2
  unfold CR at a2 b2
  rw [if_neg (by omega), if_neg (by omega), if_neg (by omega), if_neg (by omega)] at a2 b2
  unfold cL at a2 b2
  rw [if_neg (by omega), if_pos (by omega)] at a2
  rw [if_neg (by omega), if_neg (by omega), show li + 10 - 10 = li from by omega] at b2
  obtain ⟨md, a3⟩ := a2
  obtain ⟨f, b3, b4, b5, b6, b7⟩ := b2
  refine ⟨⟨md, by rw [a1, a3]⟩, ?_, ?_, f, by rw [b1, b3, r1], b4, b5, b6, b7⟩
  · show h.2.1.2.2.1 ≤ _; rw [r1]; exact (r3 li m1).2.1
  · show h.2.1.2.2.1 ≤ _; rw [r1]; exact (r3 (li + 10) m2).2.1
/-- an element -/
theorem l_get (hS : SP E B F R S h) {li j : Nat} {x : va_E} (h1 : 2 ≤ li) (h2 : li < 6) (hx : (lsC E S li)[j]? = some x) : ∃ q : Nat, f_J2_get (some (F li)) (Int32.ofNat j) h = some (some q, h) ∧ pbase h ≤ q ∧ h.1 q = some x ∧ SP E B F (fun b => if b = q then some x else R b) S h := by
  obtain ⟨G, ad, I, g1, g2, hr⟩ := hS
  obtain ⟨⟨md, a1⟩, a2, a3, f, a4, a5, a6, a7, a8, -⟩ := hr.lst h1 h2
  have hj : j < (lsC E S li).length := (List.getElem?_eq_some_iff.mp hx).1
  have hi := hr.2.2.2.2.2.1.2.2.2.2.2.1 li j x h1 h2 hx
  have hE := hr.1
  refine ⟨ad li j, ?_, by show h.2.1.2.2.1 ≤ _; rw [hE]; exact hi.2, (hr.2.1 _ _ hi.1).1, ⟨G, ad, I, g1, fun b e hb => ?_, hr⟩⟩
  · rw [← g1 li (Or.inl (by omega))]
    unfold f_J2_get f_J18_checkIndex f_J14_checkIndex f_J2_elementData
    have c1 : ¬ Int32.ofNat j < 0 := by
      rw [show (0 : Int32) = Int32.ofNat 0 from rfl, of_lt (by omega) (by omega)]
      omega
    have c2 : Int32.ofNat j < Int32.ofNat (lsC E S li).length := (of_lt (by omega) (by omega)).mpr hj
    rw [gI_at a1 rfl, if_neg c1, if_pos c2]
    simp only [cl_]
    rw [rv_at a1, gR_at a1 rfl, aQ_at a4 (inR_of (by omega) (by omega)) a3, clamp9 (by omega), a5 j hj]
  · by_cases hb2 : b = ad li j
    · simp only [hb2, if_true] at hb ⊢
      cases hb
      exact hi.1
    · simp only [hb2, if_false] at hb
      exact g2 b e hb
end LL
