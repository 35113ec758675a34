/-! LISTS: removing -/
set_option maxRecDepth 100000
section L4
variable {E : PE} {B : Nat × Nat} {F G : Nat → Nat} {R I : PM} {S S' : SS} {h h' : PH} {ad : Nat → Nat → Nat}
theorem RP.get (hr : RP E B G ad I S h) {li j : Nat} (h1 : 2 ≤ li) (h2 : li < 6) (hj : j < (lsC E S li).length) : f_J2_get (some (G li)) (Int32.ofNat j) h = some (some (ad li j), h) := by
  obtain ⟨⟨md, a1⟩, a2, a3, f, a4, a5, a6, a7, a8, -⟩ := hr.lst h1 h2
  unfold f_J2_get f_J18_checkIndex f_J14_checkIndex f_J2_elementData
  have c1 : ¬ Int32.ofNat j < 0 := by
    rw [show (0 : Int32) = Int32.ofNat 0 from rfl, of_lt (by omega) (by omega)]
    omega
  have c2 : Int32.ofNat j < Int32.ofNat (lsC E S li).length := (of_lt (by omega) (by omega)).mpr hj
  rw [gI_at a1 rfl, if_neg c1, if_pos c2]
  simp only [cl_]
  rw [rv_at a1, gR_at a1 rfl, aQ_at a4 (inR_of (by omega) (by omega)) a3, clamp9 (by omega), a5 j hj]
theorem RP.fast (hr : RP E B G ad I S h) (hb : sB S S') {li j : Nat} (h1 : 2 ≤ li) (h2 : li < 6) (hj : j < (lsC E S li).length) (hli : lsC E S' li = (lsC E S li).eraseIdx j) (hlo : ∀ k : Nat, k ≠ li → 2 ≤ k → k < 6 → lsC E S' k = lsC E S k) :
    ∃ h' : PH, f_J2_fastRemove (some (G li)) (some (G (li + 10))) (Int32.ofNat j) h = some ((), h') ∧ RP E B G (fu ad li (fun m => if m < j then ad li m else ad li (m + 1))) I S' h' := by
  obtain ⟨⟨md, a1⟩, a2, a3, -⟩ := hr.lst h1 h2
  have hr2 := hr.md (md := md + 1) h1 h2
  obtain ⟨⟨md2, b1⟩, b2, b3, f, b4, b5, b6, b7, b8, b9⟩ := hr2.lst h1 h2
  have hlen : (lsC E S' li).length = (lsC E S li).length - 1 := by rw [hli, List.length_eraseIdx_of_lt hj]
  have m1 : mR (s_n S) li := Or.inl (by omega)
  have m2 : mR (s_n S) (li + 10) := Or.inr (Or.inl (by omega))
  have hne : G li ≠ G (li + 10) := fun hx => absurd (hr.2.2.2.1 _ _ m1 m2 hx) (by omega)
  have fin : ∀ f' : Nat → Option Nat, (∀ m : Nat, m < (lsC E S li).length - 1 → f' m = if m < j then f m else f (m + 1)) → (∀ m : Nat, (lsC E S li).length - 1 ≤ m → f' m = none) →
      RP E B G (fu ad li (fun m => if m < j then ad li m else ad li (m + 1))) I S' (p_set (p_set (p_set h (G li) (cLst (md + 1) (G (li + 10)) (lsC E S li).length)) (G (li + 10)) (.inl (h.2.1.2.1 4, s_gh S li, refs f'))) (G li) (cLst md2 (G (li + 10)) (lsC E S' li).length)) := by
    intro f' f1 f2
    refine hr2.list hb (md := md2) (f' := f') (li := li) h1 h2 hlo ?_ ?_ ?_ ?_ ?_
    · intro m hm
      rw [hlen] at hm
      rw [f1 m hm]
      by_cases hmj : m < j
      · rw [if_pos hmj, if_pos hmj]; exact b5 m (by omega)
      · rw [if_neg hmj, if_neg hmj]; exact b5 (m + 1) (by omega)
    · intro m hm
      rw [hlen] at hm
      exact f2 m hm
    · rw [hlen]; omega
    · intro m x hx
      rw [hli, List.getElem?_eraseIdx] at hx
      by_cases hmj : m < j
      · rw [if_pos hmj] at hx ⊢
        exact hr.2.2.2.2.2.1.2.2.2.2.2.1 li m x h1 h2 hx
      · rw [if_neg hmj] at hx ⊢
        exact hr.2.2.2.2.2.1.2.2.2.2.2.1 li (m + 1) x h1 h2 hx
    · intro m n hm hn hmn
      rw [hlen] at hm hn
      have inj := hr.2.2.2.2.2.1.2.2.2.2.2.2.1 li h1 h2
      by_cases c1 : m < j
      · by_cases c2 : n < j
        · rw [if_pos c1, if_pos c2] at hmn; exact inj m n (by omega) (by omega) hmn
        · rw [if_pos c1, if_neg c2] at hmn; have := inj m (n + 1) (by omega) (by omega) hmn; omega
      · by_cases c2 : n < j
        · rw [if_neg c1, if_pos c2] at hmn; have := inj (m + 1) n (by omega) (by omega) hmn; omega
        · rw [if_neg c1, if_neg c2] at hmn; have := inj (m + 1) (n + 1) (by omega) (by omega) hmn; omega
  unfold f_J2_fastRemove
  rw [gIN_at a1 a2 rfl, pV_at a1 a2 (Nat.le_of_ble_eq_true rfl)]
  rw [show (Sum.inr (19, List.set [Value.int md, Value.ref (G (li + 10)), Value.int (Int32.ofNat (lsC E S li).length)] 0 (Value.int (md + 1))) : va_E) = cLst (md + 1) (G (li + 10)) (lsC E S li).length from rfl]
  rw [gI_at b1 rfl]
  have e1 : Int32.ofNat (lsC E S li).length - 1 = Int32.ofNat ((lsC E S li).length - 1) := by
    rw [show (1 : Int32) = Int32.ofNat 1 from rfl, of_sub (by omega)]
  rw [e1]
  unfold f_J2_fastRemove_B34
  by_cases hlast : (lsC E S li).length - 1 ≤ j
  · rw [if_pos ((of_le (by omega) (by omega)).mpr hlast)]
    rw [pV_at b1 b2 (Nat.le_of_ble_eq_true rfl)]
    have e2 : (p_set (p_set h (G li) (cLst (md + 1) (G (li + 10)) (lsC E S li).length)) (G li) (.inr (19, List.set [Value.int md2, Value.ref (G (li + 10)), Value.int (Int32.ofNat (lsC E S li).length)] 2 (Value.int (Int32.ofNat ((lsC E S li).length - 1)))))).1 (G (li + 10)) = some (.inl (h.2.1.2.1 4, s_gh S li, refs f)) := by rw [ps_ne (Ne.symm hne)]; exact b4
    rw [sQn_at e2 (inR_of (by omega) (by omega)) b3, clamp9 (by omega)]
    refine ⟨_, rfl, ?_⟩
    rw [ps_comm hne]
    have := fin (va_up f ((lsC E S li).length - 1) none) (fun m hm => ?_) (fun m hm => ?_)
    · rw [hlen] at this
      exact this
    · show (if m = (lsC E S li).length - 1 then none else f m) = _
      rw [if_neg (by omega), if_pos (by omega)]
    · show (if m = (lsC E S li).length - 1 then none else f m) = _
      by_cases hx : m = (lsC E S li).length - 1
      · rw [if_pos hx]
      · rw [if_neg hx]; exact b6 m (by omega)
  · rw [if_neg (fun hx => hlast ((of_le (by omega) (by omega)).mp hx))]
    have e5 : Int32.ofNat j + 1 = Int32.ofNat (j + 1) := of_add j 1
    rw [e5, of_sub (by omega)]
    rw [ycQ_at (n0 := s_gh S li) (n1 := s_gh S li) b4 b4 b3 b3 (by omega) (by omega) (by omega) (by omega) (by omega) (fun i hi => by
      rw [b5 _ (by omega)]
      exact elOK_of hr2 h1 h2 (by omega))]
    rw [show ((p_set h (G li) (cLst (md + 1) (G (li + 10)) (lsC E S li).length)).2.1.2.1 4) = h.2.1.2.1 4 from rfl]
    have e2 : (p_set (p_set h (G li) (cLst (md + 1) (G (li + 10)) (lsC E S li).length)) (G (li + 10)) (.inl (h.2.1.2.1 4, s_gh S li, refs (va_cpy f f (j + 1) j ((lsC E S li).length - 1 - j))))).1 (G li) = some (.inr (19, [Value.int md2, Value.ref (G (li + 10)), Value.int (Int32.ofNat (lsC E S li).length)])) := by rw [ps_ne hne]; exact b1
    rw [pV_at e2 b2 (Nat.le_of_ble_eq_true rfl)]
    have e3 : (p_set (p_set (p_set h (G li) (cLst (md + 1) (G (li + 10)) (lsC E S li).length)) (G (li + 10)) (.inl (h.2.1.2.1 4, s_gh S li, refs (va_cpy f f (j + 1) j ((lsC E S li).length - 1 - j))))) (G li) (.inr (19, List.set [Value.int md2, Value.ref (G (li + 10)), Value.int (Int32.ofNat (lsC E S li).length)] 2 (Value.int (Int32.ofNat ((lsC E S li).length - 1)))))).1 (G (li + 10)) = some (.inl (h.2.1.2.1 4, s_gh S li, refs (va_cpy f f (j + 1) j ((lsC E S li).length - 1 - j)))) := by rw [ps_ne (Ne.symm hne), ps_at]
    rw [sQn_at e3 (inR_of (by omega) (by omega)) b3, clamp9 (by omega)]
    refine ⟨_, rfl, ?_⟩
    rw [ps_comm hne, psps]
    have := fin (va_up (va_cpy f f (j + 1) j ((lsC E S li).length - 1 - j)) ((lsC E S li).length - 1) none) (fun m hm => ?_) (fun m hm => ?_)
    · rw [hlen] at this
      exact this
    · show (if m = (lsC E S li).length - 1 then none else if j ≤ m ∧ m < j + ((lsC E S li).length - 1 - j) then f (j + 1 + (m - j)) else f m) = _
      rw [if_neg (by omega)]
      by_cases hmj : m < j
      · rw [if_neg (by omega), if_pos hmj]
      · rw [if_pos (by omega), if_neg hmj]
        congr 1
        omega
    · show (if m = (lsC E S li).length - 1 then none else if j ≤ m ∧ m < j + ((lsC E S li).length - 1 - j) then f (j + 1 + (m - j)) else f m) = _
      by_cases hx : m = (lsC E S li).length - 1
      · rw [if_pos hx]
      · rw [if_neg hx, if_neg (by omega)]; exact b6 m (by omega)
theorem l_rem (hS : SP E B F R S h) (hb : sB S S') {li j : Nat} (h1 : 2 ≤ li) (h2 : li < 6) (hj : j < (lsC E S li).length) (hli : lsC E S' li = (lsC E S li).eraseIdx j) (hlo : ∀ k : Nat, k ≠ li → 2 ≤ k → k < 6 → lsC E S' k = lsC E S k) : okk (f_J2_remove (some (F li)) (Int32.ofNat j) h) (fun b => SP E B F R S' b.2) := by
  obtain ⟨G, ad, I, g1, g2, hr⟩ := hS
  obtain ⟨⟨md, a1⟩, a2, a3, f, a4, a5, a6, a7, a8, -⟩ := hr.lst h1 h2
  obtain ⟨h9, d1, d2⟩ := hr.fast hb h1 h2 hj hli hlo
  rw [← g1 li (Or.inl (by omega))]
  unfold f_J2_remove f_J18_checkIndex f_J14_checkIndex
  have c1 : ¬ Int32.ofNat j < 0 := by
    rw [show (0 : Int32) = Int32.ofNat 0 from rfl, of_lt (by omega) (by omega)]
    omega
  have c2 : Int32.ofNat j < Int32.ofNat (lsC E S li).length := (of_lt (by omega) (by omega)).mpr hj
  rw [gI_at a1 rfl, if_neg c1, if_pos c2]
  simp only [cl_]
  rw [gR_at a1 rfl, aQ_at a4 (inR_of (by omega) (by omega)) a3, rv_at a1, d1]
  exact ⟨_, rfl, G, _, I, g1, g2, d2⟩
/-- the simulation, with q the address of the element k of the list li -/
def SQ (E : PE) (B : Nat × Nat) (F : Nat → Nat) (R : PM) (S : SS) (h : PH) (li k q : Nat) : Prop :=
  ∃ (G : Nat → Nat) (ad : Nat → Nat → Nat) (I : PM), (∀ k : Nat, k < 12 ∨ 16 ≤ k → G k = F k) ∧ (∀ (b : Nat) (e : va_E), R b = some e → I b = some e) ∧ RP E B G ad I S h ∧ ad li k = q ∧ k < (lsC E S li).length
/-- its cell is known from now on -/
theorem SQ.sp {li k q : Nat} (hS : SQ E B F R S h li k q) (h1 : 2 ≤ li) (h2 : li < 6) : ∃ x : va_E, (lsC E S li)[k]? = some x ∧ E.2.2.1 ≤ q ∧ SP E B F (fun b => if b = q then some x else R b) S h := by
  obtain ⟨G, ad, I, g1, g2, hr, rfl, hk⟩ := hS
  have hx : (lsC E S li)[k]? = some ((lsC E S li)[k]) := List.getElem?_eq_getElem hk
  have hi := hr.2.2.2.2.2.1.2.2.2.2.2.1 li k _ h1 h2 hx
  refine ⟨_, hx, hi.2, G, ad, I, g1, fun b e hb => ?_, hr⟩
  by_cases hb2 : b = ad li k
  · simp only [hb2, if_true] at hb ⊢
    cases hb
    exact hi.1
  · simp only [hb2, if_false] at hb
    exact g2 b e hb
/-- the object is removed -/
theorem l_remq {k q : Nat} (hS : SQ E B F R S h 2 k q) (hb : sB S S') (hli : lsC E S' 2 = (lsC E S 2).eraseIdx k) (hlo : ∀ k : Nat, k ≠ 2 → 2 ≤ k → k < 6 → lsC E S' k = lsC E S k) : ∃ x : va_E, (lsC E S 2)[k]? = some x ∧ E.2.2.1 ≤ q ∧ okk (f_J2_remove_2 (some (F 2)) (some q) h) (fun b => SP E B F (fun b => if b = q then some x else R b) S' b.2) := by
  obtain ⟨G, ad, I, g1, g2, hr, rfl, hk⟩ := hS
  have hx : (lsC E S 2)[k]? = some ((lsC E S 2)[k]) := List.getElem?_eq_getElem hk
  have hi := hr.2.2.2.2.2.1.2.2.2.2.2.1 2 k _ (by decide) (by decide) hx
  have inj := hr.2.2.2.2.2.1.2.2.2.2.2.2.1 2 (by decide) (by decide)
  obtain ⟨⟨md, a1⟩, a2, a3, f, a4, a5, a6, a7, a8, -⟩ := hr.lst (li := 2) (by decide) (by decide)
  obtain ⟨h9, d1, d2⟩ := hr.fast hb (li := 2) (by decide) (by decide) hk hli hlo
  refine ⟨_, hx, hi.2, ?_⟩
  have hR : ∀ (b : Nat) (e : va_E), (fun b => if b = ad 2 k then some ((lsC E S 2)[k]) else R b : PM) b = some e → I b = some e := by
    intro b e hb
    by_cases hb2 : b = ad 2 k
    · simp only [hb2, if_true] at hb ⊢
      cases hb
      exact hi.1
    · simp only [hb2, if_false] at hb
      exact g2 b e hb
  have hcell := (hr.2.1 _ _ hi.1).1
  obtain ⟨m, hm⟩ : ∃ m : MG, (lsC E S 2)[k] = cMsg (sAd E) m := by
    have hme : (lsC E S 2)[k] ∈ (s_ms S).map (cMsg (sAd E)) := List.getElem_mem hk
    obtain ⟨m, -, e⟩ := List.mem_map.mp hme
    exact ⟨m, e.symm⟩
  rw [hm] at hcell
  have loop : ∀ (n i : Nat), i ≤ k → k < i + n → f_J2_remove_2_L39 n (some (G 2)) (some (ad 2 k)) (some (G 12)) (Int32.ofNat (lsC E S 2).length) (Int32.ofNat i) h = f_J2_remove_2_B67 (some (G 2)) (some (G 12)) (Int32.ofNat k) h := by
    intro n
    induction n with
    | zero => intro i h1 h2; omega
    | succ n ih =>
      intro i h1 h2
      unfold f_J2_remove_2_L39
      rw [if_neg (fun hx => by rw [of_le (by omega) (by omega)] at hx; omega)]
      rw [aQ_at a4 (inR_of (by omega) (by omega)) a3, clamp9 (by omega), a5 i (by omega)]
      unfold oE
      rw [rv_at hcell]
      by_cases hik : i = k
      · subst hik
        rw [if_pos rfl]
        exact if_neg (by decide)
      · rw [if_neg (fun hx => hik (inj i k (by omega) hk (Option.some.inj hx).symm))]
        refine (if_pos rfl).trans ?_
        have e5 : Int32.ofNat i + 1 = Int32.ofNat (i + 1) := of_add i 1
        rw [e5]
        exact ih (i + 1) (by omega) (by omega)
  rw [← g1 2 (Or.inl (by decide))]
  unfold f_J2_remove_2
  rw [gR_at a1 rfl, gI_at a1 rfl, if_neg (by simp)]
  have hFU : k < 0 + FU := by
    have : (lsC E S 2).length < 2 ^ 30 := by omega
    have e9 : (2 : Nat) ^ 30 < FU := Nat.le_of_ble_eq_true rfl
    omega
  rw [show (0 : Int32) = Int32.ofNat 0 from rfl, loop FU 0 (Nat.zero_le _) hFU]
  unfold f_J2_remove_2_B67
  rw [rv_at a1]
  refine ⟨(1, h9), ?_, G, _, I, g1, hR, d2⟩
  have d3 := cl_eq (K := fun (_u : Unit) (h6 : PH) => rN .boolean (1 : Int32) (fun v => v) h6) d1
  exact d3.trans (rN_at (by decide))
end L4
