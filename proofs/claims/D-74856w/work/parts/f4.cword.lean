/-! THE COMPONENT reads: a word's letters -/
set_option maxRecDepth 100000
section BL3
variable {n0 sb v : Nat} {w : List Nat} {h : PH}
theorem sb_lat {cap : Nat} (e9 : h.2.1.1 9 = .int 1) (hS : SBc h n0 sb v cap w) : f_J7_isLatin1_J8 (some sb) h = some (1, h) := by
  unfold f_J7_isLatin1_J8 f_J7_isLatin1_J8_B18
  rw [e9]
  simp only [asI]
  rw [if_neg (show ¬ (1 : Int32) = 0 by decide), gI_at hS.1 rfl, if_pos rfl, rN_at nb0.2]
theorem bC_gt {n : Nat} (hn : n < 400) : n < bC (n + 1) := by
  unfold bC
  repeat' split
  all_goals omega
theorem bKS_up {n m : Nat} (h : n ≤ m) : bK n ≤ bK m ∧ bS n ≤ bS m := by
  unfold bK bS
  repeat' split
  all_goals omega
theorem getD_app {w : List Nat} {c i : Nat} : (w ++ [c]).getD i 0 = if i = w.length then c else w.getD i 0 := by
  by_cases q : i < w.length
  · rw [if_neg (by omega), List.getD_eq_getElem?_getD, List.getD_eq_getElem?_getD, List.getElem?_append_left q]
  · by_cases q2 : i = w.length
    · rw [if_pos q2, List.getD_eq_getElem?_getD, q2, List.getElem?_append_right (Nat.le_refl _), Nat.sub_self]
      rfl
    · rw [if_neg q2, List.getD_eq_getElem?_getD, List.getD_eq_getElem?_getD, List.getElem?_eq_none (by rw [List.length_append]; show w.length + 1 ≤ i; omega), List.getElem?_eq_none (by omega)]
/-- a letter is appended -/
theorem sb_app {c : Nat} (e9 : h.2.1.1 9 = .int 1) (hc : 97 ≤ c ∧ c ≤ 122) (hS : SB h n0 sb v w) (hl : w.length < 400) (h1 : bK (w.length + 1) - bK w.length ≤ pcl h) (h2 : bS (w.length + 1) - bS w.length ≤ psl h) :
    ∃ (v' : Nat) (h' : PH), f_J8_append_3 (some sb) (((Int32.ofNat c).toUInt32 % 65536).toInt32) h = some (some sb, h') ∧ SB h' n0 sb v' (w ++ [c]) ∧ GR n0 (bK (w.length + 1) - bK w.length) (bS (w.length + 1) - bS w.length) h h' := by
  have ln := let_num c (by omega) hc.1
  obtain ⟨v', h', en, hS', g⟩ := sb_ens hS hl h1 h2
  have e9' : h'.2.1.1 9 = .int 1 := by rw [g.2.1]; exact e9
  have la := sb_lat e9' hS'
  obtain ⟨a1, ⟨f, a2, a3, a4⟩, a5, a6, a7, a8, a9, a10, a11⟩ := hS'
  have hgt := bC_gt hl
  have hb5 : bC (w.length + 1) ≤ 574 := by
    unfold bC
    repeat' split
    all_goals omega
  have ce : f_J15_canEncode (Int32.ofNat c) h' = some (1, h') := by
    unfold f_J15_canEncode f_J15_canEncode_B12
    rw [if_neg ln.2.2.2, rN_at nb0.2]
  unfold f_J8_append_3 f_J7_append_3_J8 f_J7_append_3_J8_B75
  rw [ln.1, rv_at hS.1, gI_at hS.1 rfl, rv_at hS.1, cl_eq en, rv_at a1, cl_eq la, if_neg (show ¬ (1 : Int32) = 0 by decide), cl_eq ce, if_neg (show ¬ (1 : Int32) = 0 by decide), gR_at a1 rfl, gI_at a1 rfl, pV_at a1 (by omega) (Nat.le_of_ble_eq_true rfl), ln.2.1]
  have e2 : ∀ e : va_E, (p_set h' sb e).1 v' = some (.inl ((p_set h' sb e).2.1.2.1 1, bC (w.length + 1), .inl f)) := fun e => (ps_ne a7).trans a2
  rw [sI_at (e2 _) (inR_of (by omega) hgt) (by show pbase h' ≤ v'; omega), clamp9 (by omega), show (1 : Int32) = Int32.ofNat 1 from rfl, of_add]
  refine ⟨v', _, rfl, ?_, ?_⟩
  · have el : (w ++ [c]).length = w.length + 1 := by rw [List.length_append]; rfl
    refine ⟨?_, ⟨_, ps_at.trans (by rw [el]; rfl), fun i hi => ?_, fun i hi => ?_⟩, a5, a6, a7, a8, a9, a10, by omega⟩
    · rw [el]
      exact (ps_ne (Ne.symm a7)).trans ps_at
    · rw [el] at hi
      show (if i = w.length then Int32.ofNat c else f i) = _
      rw [getD_app]
      by_cases q : i = w.length
      · rw [if_pos q, if_pos q]
      · rw [if_neg q, if_neg q]
        exact a3 i (by omega)
    · rw [el] at hi
      show fits .byte (.int (if i = w.length then Int32.ofNat c else f i)) = true
      by_cases q : i = w.length
      · rw [if_pos q]
        exact ln.2.2.1
      · rw [if_neg q]
        exact a4 i hi
  · exact ((g.trans (GR.set a5) (Nat.le_refl _)).trans (GR.set a6) (Nat.le_refl _)).more (Nat.le_refl _) (Nat.le_refl _) (Nat.le_refl _)
end BL3
