/-! LISTS: adding a new object, removing -/
set_option maxRecDepth 100000
/-- all the same but the lists -/
def sB (S S' : SS) : Prop := s_cf S' = s_cf S ∧ s_n S' = s_n S ∧ s_nd S' = s_nd S ∧ s_ar S' = s_ar S ∧ s_sc S' = s_sc S ∧ s_gh S' = s_gh S
section L2
variable {E : PE} {B : Nat × Nat} {F G : Nat → Nat} {R I : PM} {S S' : SS} {h h' : PH} {ad : Nat → Nat → Nat}
theorem ps_comm {a b : Nat} {x y : va_E} (hn : a ≠ b) : p_set (p_set h a x) b y = p_set (p_set h b y) a x := by
  unfold p_set
  refine Prod.ext (funext fun c => ?_) rfl
  show (if c = b then some y else if c = a then some x else h.1 c) = (if c = a then some x else if c = b then some y else h.1 c)
  by_cases hb : c = b
  · rw [if_pos hb, if_neg (by rw [hb]; exact Ne.symm hn), if_pos hb]
  · rw [if_neg hb]
    by_cases ha : c = a
    · rw [if_pos ha, if_pos ha]
    · rw [if_neg ha, if_neg ha, if_neg hb]
theorem CR_ls (hb : sB S S') {li : Nat} {ad2 : Nat → Nat} (h1 : 2 ≤ li) (h2 : li < 6) (hlo : ∀ k : Nat, k ≠ li → 2 ≤ k → k < 6 → lsC E S' k = lsC E S k) {k : Nat} {e : va_E} (hk : mR (s_n S) k) (hk1 : k ≠ li) (hk2 : k ≠ li + 10) (hc : CR E G ad S k e) : CR E G (fu ad li ad2) S' k e := by
  obtain ⟨b1, b2, b3, b4, b5, b6⟩ := hb
  unfold CR at hc ⊢
  rw [b2, b3, b4, b5, b6]
  by_cases c0 : k = 0
  · rw [if_pos c0] at hc ⊢; exact hc
  rw [if_neg c0] at hc ⊢
  by_cases c6 : k = 6
  · rw [if_pos c6] at hc ⊢; exact hc
  rw [if_neg c6] at hc ⊢
  by_cases c5 : 50 ≤ k
  · rw [if_pos c5] at hc ⊢; exact hc
  rw [if_neg c5] at hc ⊢
  by_cases c7 : k = 7 ∨ k = 8 ∨ k = 9
  · rw [if_pos c7] at hc ⊢; exact hc
  rw [if_neg c7] at hc ⊢
  unfold cL at hc ⊢
  by_cases c1 : k = 1
  · rw [if_pos c1] at hc ⊢; exact hc
  rw [if_neg c1] at hc ⊢
  by_cases c2 : k < 6
  · rw [if_pos c2] at hc ⊢
    have e1 : lsC E S' k = lsC E S k := hlo k hk1 (by omega) (by omega)
    obtain ⟨md, a1⟩ := hc
    refine ⟨md, ?_⟩
    show e = cLst md (G (k + 10)) (lsC E S' k).length
    rw [e1]
    exact a1
  rw [if_neg c2] at hc ⊢
  have hk3 : 2 ≤ k - 10 ∧ k - 10 < 6 := by unfold mR at hk; omega
  have e1 : lsC E S' (k - 10) = lsC E S (k - 10) := hlo (k - 10) (by omega) hk3.1 hk3.2
  obtain ⟨f, a1, a2, a3, a4⟩ := hc
  refine ⟨f, a1, ?_, ?_, ?_⟩
  · show ∀ j : Nat, j < (lsC E S' (k - 10)).length → f j = some (fu ad li ad2 (k - 10) j)
    rw [e1, fu_ne (by omega)]
    exact a2
  · show ∀ j : Nat, (lsC E S' (k - 10)).length ≤ j → f j = none
    rw [e1]
    exact a3
  · show (lsC E S' (k - 10)).length ≤ s_gh S (k - 10) ∧ _
    rw [e1]
    exact a4
/-- the list li is another one, in the same row -/
theorem RP.list (hr : RP E B G ad I S h) (hb : sB S S') {li : Nat} {ad2 : Nat → Nat} {f' : Nat → Option Nat} {md : Int32} (h1 : 2 ≤ li) (h2 : li < 6) (hlo : ∀ k : Nat, k ≠ li → 2 ≤ k → k < 6 → lsC E S' k = lsC E S k) (hf1 : ∀ j : Nat, j < (lsC E S' li).length → f' j = some (ad2 j)) (hf2 : ∀ j : Nat, (lsC E S' li).length ≤ j → f' j = none) (hl : (lsC E S' li).length ≤ s_gh S li)
    (hel : ∀ (j : Nat) (x : va_E), (lsC E S' li)[j]? = some x → I (ad2 j) = some x ∧ E.2.2.1 ≤ ad2 j) (hij : ∀ i j : Nat, i < (lsC E S' li).length → j < (lsC E S' li).length → ad2 i = ad2 j → i = j) :
    RP E B G (fu ad li ad2) I S' (p_set (p_set h (G (li + 10)) (.inl (h.2.1.2.1 4, s_gh S li, refs f'))) (G li) (cLst md (G (li + 10)) (lsC E S' li).length)) := by
  have hlst := hr.lst h1 h2
  have hr0 := hr
  obtain ⟨r1, r2, r3, r4, r5, r6, r7, r8, r9⟩ := hr
  have mli : mR (s_n S) li := Or.inl (by omega)
  have mlt : mR (s_n S) (li + 10) := Or.inr (Or.inl (by omega))
  have hne : G li ≠ G (li + 10) := fun hx => absurd (r4 _ _ mli mlt hx) (by omega)
  refine hr0.gen (fun k => k = li ∨ k = li + 10) rfl (fun b hbk => ?_) hb.2.1 (by rw [hb.2.2.2.2.2]; exact ⟨rfl, rfl⟩) (fun k e hk hC hc => CR_ls hb h1 h2 hlo hk (fun hx => hC (Or.inl hx)) (fun hx => hC (Or.inr hx)) hc) (fun k hk hC => ?_) ?_
  · rw [ps_ne (hbk li mli (Or.inl rfl)), ps_ne (hbk (li + 10) mlt (Or.inr rfl))]
  · rcases hC with rfl | rfl
    · refine ⟨_, ps_at, ?_⟩
      unfold CR
      rw [if_neg (by omega), if_neg (by omega), if_neg (by omega), if_neg (by omega)]
      unfold cL
      rw [if_neg (by omega), if_pos (by omega)]
      exact ⟨md, rfl⟩
    · refine ⟨_, by rw [ps_ne (Ne.symm hne), ps_at], ?_⟩
      unfold CR
      rw [if_neg (by omega), if_neg (by omega), if_neg (by omega), if_neg (by omega)]
      unfold cL
      rw [if_neg (by omega), if_neg (by omega), show li + 10 - 10 = li from by omega, fu_eq, hb.2.2.2.2.2]
      obtain ⟨-, -, -, f, -, -, -, -, g1, g2⟩ := hlst
      exact ⟨f', by rw [r1], hf1, hf2, hl, g1, g2⟩
  · obtain ⟨b1, b2, b3, b4, b5, b6⟩ := hb
    obtain ⟨i1, i2, i3, i4, i5, i6, i7, i8⟩ := r6
    refine ⟨by rw [b2, b3]; exact i1, by rw [b1]; exact i2, by rw [b1]; exact i3, by rw [b2]; exact i4, by rw [b2, b3]; exact i5, fun lj j x l1 l2 hx => ?_, fun lj l1 l2 => ?_, i8⟩
    · by_cases hl2 : lj = li
      · subst hl2
        rw [fu_eq]
        exact hel j x hx
      · rw [fu_ne hl2]
        rw [hlo lj hl2 l1 l2] at hx
        exact i6 lj j x l1 l2 hx
    · by_cases hl2 : lj = li
      · subst hl2
        rw [fu_eq]
        exact hij
      · rw [fu_ne hl2, hlo lj hl2 l1 l2]
        exact i7 lj l1 l2
theorem elOK_of (hr : RP E B G ad I S h) {li j : Nat} (h1 : 2 ≤ li) (h2 : li < 6) (hj : j < (lsC E S li).length) : elOK h (some (ad li j)) = true := by
  have hx : (lsC E S li)[j]? = some ((lsC E S li)[j]) := List.getElem?_eq_getElem hj
  have hi := hr.2.2.2.2.2.1.2.2.2.2.2.1 li j _ h1 h2 hx
  obtain ⟨ci, fs, e1, e2⟩ := lsC_cls (List.mem_of_getElem? hx)
  have h3 := (hr.2.1 _ _ hi.1).1
  rw [e1] at h3
  simp [elOK, h3, e2]
/-- an object that is known, and in no list, is added -/
theorem RP.add (hr : RP E B G ad I S h) (hb : sB S S') {li q ci : Nat} {fs : List Value} (h1 : 2 ≤ li) (h2 : li < 6) (hli : lsC E S' li = lsC E S li ++ [.inr (ci, fs)]) (hlo : ∀ k : Nat, k ≠ li → 2 ≤ k → k < 6 → lsC E S' k = lsC E S k) (hq : I q = some (.inr (ci, fs))) (hq2 : E.2.2.1 ≤ q) (hci : ci ≤ 25) (hnew : ∀ j : Nat, j < (lsC E S li).length → ad li j ≠ q) (hlt : (lsC E S li).length < s_gh S li) :
    ∃ h' : PH, f_J2_add_2_B11 (some (G li)) (some q) (some (G (li + 10))) (Int32.ofNat (lsC E S li).length) h = some ((), h') ∧ RP E B G (fu ad li (fu (ad li) (lsC E S li).length q)) I S' h' := by
  obtain ⟨⟨md, a1⟩, a2, a3, f, a4, a5, a6, a7, a8, a9⟩ := hr.lst h1 h2
  have hlen : (lsC E S' li).length = (lsC E S li).length + 1 := by rw [hli]; simp
  have m1 : mR (s_n S) li := Or.inl (by omega)
  have m2 : mR (s_n S) (li + 10) := Or.inr (Or.inl (by omega))
  have hne : G li ≠ G (li + 10) := fun hx => absurd (hr.2.2.2.1 _ _ m1 m2 hx) (by omega)
  refine ⟨_, ?_, hr.list hb (md := md) (f' := va_up f (lsC E S li).length (some q)) h1 h2 hlo ?_ ?_ ?_ ?_ ?_⟩
  · unfold f_J2_add_2_B11
    rw [sQ_at a4 (inR_of (by omega) hlt) a3 (hr.2.1 _ _ hq).1 ⟨rfl, hci⟩, clamp9 (by omega)]
    have e2 : (p_set h (G (li + 10)) (.inl (h.2.1.2.1 4, s_gh S li, refs (va_up f (lsC E S li).length (some q))))).1 (G li) = some (.inr (19, [.int md, .ref (G (li + 10)), .int (Int32.ofNat (lsC E S li).length)])) := by rw [ps_ne hne]; exact a1
    rw [pV_at e2 a2 (Nat.le_of_ble_eq_true rfl)]
    rw [hlen, show (1 : Int32) = Int32.ofNat 1 from rfl, of_add]
    rfl
  · intro j hj
    rw [hlen] at hj
    by_cases hjl : j = (lsC E S li).length
    · subst hjl
      rw [fu_eq]
      exact if_pos rfl
    · rw [fu_ne hjl]
      exact (if_neg hjl).trans (a5 j (by omega))
  · intro j hj
    rw [hlen] at hj
    exact (if_neg (by omega)).trans (a6 j (by omega))
  · rw [hlen]; exact hlt
  · intro j x hx
    rw [hli] at hx
    by_cases hjl : j < (lsC E S li).length
    · rw [List.getElem?_append_left hjl] at hx
      rw [fu_ne (by omega)]
      exact hr.2.2.2.2.2.1.2.2.2.2.2.1 li j x h1 h2 hx
    · have hj2 := (List.getElem?_eq_some_iff.mp hx).1
      simp at hj2
      have hj3 : j = (lsC E S li).length := by omega
      subst hj3
      rw [fu_eq]
      simp at hx
      rw [← hx]
      exact ⟨hq, hq2⟩
  · intro i j hi hj hij
    rw [hlen] at hi hj
    by_cases hi1 : i = (lsC E S li).length
    · by_cases hj1 : j = (lsC E S li).length
      · omega
      · rw [hi1, fu_eq, fu_ne hj1] at hij
        exact absurd hij.symm (hnew j (by omega))
    · by_cases hj1 : j = (lsC E S li).length
      · rw [hj1, fu_eq, fu_ne hi1] at hij
        exact absurd hij (hnew i (by omega))
      · rw [fu_ne hi1, fu_ne hj1] at hij
        exact hr.2.2.2.2.2.1.2.2.2.2.2.2.1 li h1 h2 i j (by omega) (by omega) hij
end L2
