/-! THE COMPONENT reads: add, whole -/
set_option maxRecDepth 100000
section CAE
variable {l row cap q ci n : Nat} {mc : Int32} {xs : List Nat} {gs : List Value} {h : PH}
theorem inR_9 {i n : Nat} (hi : i < n) (hn : i < 2 ^ 31) : inR (Int32.ofNat i) n := by
  unfold inR
  rw [clamp9 hn, show (0 : Int32) = Int32.ofNat 0 from rfl, of_lt hn (by omega)]
  omega
/-- there is place for one more -/
theorem p_addB (hL : LSP h l row cap mc xs) (hlt : xs.length < cap) (hl4 : xs.length < 400) (hq : h.1 q = some (.inr (ci, gs))) (hci : ci ≤ 25) :
    ∃ h' : PH, f_J2_add_2_B11 (some l) (some q) (some row) (Int32.ofNat xs.length) h = some ((), h') ∧ LSP h' l row cap mc (xs ++ [q]) ∧ h'.2 = h.2 ∧ ∀ b : Nat, b ≠ l → b ≠ row → h'.1 b = h.1 b := by
  obtain ⟨a1, ⟨f, a4, a5⟩, a2, a3, a6, a7, a8, l1, l2⟩ := hL
  have el : (xs ++ [q]).length = xs.length + 1 := by rw [List.length_append]; rfl
  unfold f_J2_add_2_B11
  rw [sQ_at a4 (inR_9 hlt (by omega)) a3 hq ⟨rfl, hci⟩, pV_at ((ps_ne a6).trans a1) a2 (Nat.le_of_ble_eq_true rfl), clamp9 (by omega), show (1 : Int32) = Int32.ofNat 1 from rfl, of_add]
  refine ⟨_, rfl, ⟨by rw [el]; exact ps_at, ⟨va_up f xs.length (some q), (ps_ne (Ne.symm a6)).trans ps_at, fun i hi => ?_⟩, a2, a3, a6, by omega, by omega, l1, l2⟩, rfl, fun b h1 h2 => (ps_ne h1).trans (ps_ne h2)⟩
  rw [el] at hi
  rw [getD_app]
  by_cases c : i = xs.length
  · rw [if_pos c]
    simp [va_up, c]
  · rw [if_neg c]
    simp only [va_up, c, if_false]
    exact a5 i (by omega)
/-- a reference is added -/
theorem p_add (hL : LSP h l row cap mc xs) (hc : 1 ≤ cap ∧ cap ≤ 1000) (hl4 : xs.length < 400) (h1 : 1 ≤ pcl h) (h2 : cap + max 1 (cap / 2) ≤ psl h) (hq : h.1 q = some (.inr (ci, gs))) (hci : ci ≤ 25) (hql : q ≠ l) (hqn : q < pn h)
    (hE : ∀ i : Nat, i < xs.length → ∃ (ci : Nat) (fs : List Value), h.1 (xs.getD i 0) = some (.inr (ci, fs)) ∧ ci ≤ 25 ∧ xs.getD i 0 < pn h ∧ xs.getD i 0 ≠ l) (hn1 : n ≤ l) (hn2 : n ≤ row) :
    ∃ (row' : Nat) (h' : PH), f_J2_add (some l) (some q) h = some (1, h') ∧ LSP h' l row' (if xs.length = cap then cap + max 1 (cap / 2) else cap) (mc + 1) (xs ++ [q]) ∧ (row' = row ∨ row' = pn h) ∧ GR n (if xs.length = cap then 1 else 0) (if xs.length = cap then cap + max 1 (cap / 2) else 0) h h' ∧ ∀ b : Nat, b ≠ l → b ≠ row → b < pn h → h'.1 b = h.1 b := by
  have hL0 := hL
  obtain ⟨a1, ⟨f, a4, a5⟩, a2, a3, a6, a7, a8, l1, l2⟩ := hL
  unfold f_J2_add
  rw [gIN_at a1 a2 rfl, pV_at a1 a2 (Nat.le_of_ble_eq_true rfl)]
  obtain ⟨H, hH⟩ : ∃ H, p_set h l (.inr (19, [.int (mc + 1), .ref row, .int (Int32.ofNat xs.length)])) = H := ⟨_, rfl⟩
  have hM : LSP H l row cap (mc + 1) xs := by
    rw [← hH]
    exact ⟨ps_at, ⟨f, (ps_ne (Ne.symm a6)).trans a4, a5⟩, a2, a3, a6, a7, a8, l1, l2⟩
  have hne : ∀ b : Nat, b ≠ l → H.1 b = h.1 b := fun b hb => by rw [← hH]; exact ps_ne hb
  have g0 : GR n 0 0 h H := by rw [← hH]; exact GR.set hn1
  have k0 : pn H = pn h ∧ pcl H = pcl h ∧ psl H = psl h := by rw [← hH]; exact ⟨rfl, rfl, rfl⟩
  rw [show p_set h l (.inr (19, [Value.int mc, Value.ref row, Value.int (Int32.ofNat xs.length)].set 0 (.int (mc + 1)))) = H from hH]
  have b1 := hM.1
  obtain ⟨f2, b4, b5⟩ := hM.2.1
  have hqH : H.1 q = some (.inr (ci, gs)) := (hne q hql).trans hq
  rw [gR_at b1 rfl, gI_at b1 rfl, rv_at b1]
  unfold f_J2_add_2
  rw [aN_at b4]
  by_cases c : xs.length = cap
  · rw [if_pos (by rw [c]), rv_at b1, if_pos c, if_pos c, if_pos c]
    obtain ⟨f3, e1, e2⟩ := p_grow hM hc c (by omega) (by omega) (fun i hi => by
      obtain ⟨ci, fs, q1, q2, q3, q4⟩ := hE i hi
      exact ⟨ci, fs, (hne _ q4).trans q1, q2, by omega⟩)
    obtain ⟨cap', ec⟩ : ∃ c, cap + max 1 (cap / 2) = c := ⟨_, rfl⟩
    rw [ec] at h2 e1 ⊢
    rw [cl_eq e1]
    obtain ⟨Y, hY⟩ : ∃ Y, p_set (p_new H (.inl (H.2.1.2.1 4, cap', refs f3)) cap') l (.inr (19, [.int (mc + 1), .ref (pn H), .int (Int32.ofNat xs.length)])) = Y := ⟨_, rfl⟩
    rw [hY]
    have hYb : ∀ b : Nat, b ≠ l → b < pn h → Y.1 b = H.1 b := fun b hb hb2 => by rw [← hY]; exact (ps_ne hb).trans (pn_ne (by omega))
    have hN : LSP Y l (pn H) cap' (mc + 1) xs := by
      rw [← hY]
      have hbs : pbase H = pbase h := g0.base
      exact ⟨ps_at, ⟨f3, (ps_ne (by omega)).trans pn_at, e2⟩, by show pbase H ≤ l; omega, by show pbase H ≤ pn H; omega, by omega, by omega, a8, by show l < pn H + 1; omega, Nat.lt_succ_self _⟩
    have gY : GR n 1 cap' H Y := by
      rw [← hY]
      exact ((GR.new (n := n) (by omega) (by omega) (by omega)).trans (GR.set hn1) (Nat.le_refl _)).more (Nat.le_refl _) (Nat.le_refl _) (Nat.le_refl _)
    obtain ⟨Z, z1, z2, z3, z4⟩ := p_addB hN (by omega) hl4 ((hYb q hql hqn).trans hqH) hci
    rw [cl_eq z1, rN_at nb0.2]
    refine ⟨pn H, Z, rfl, z2, Or.inr k0.1, ?_, fun b h1 h2 h3 => (z4 b h1 (by omega)).trans ((hYb b h1 h3).trans (hne b h1))⟩
    have gZ : GR n 0 0 Y Z := by
      have e1 : pn Z = pn Y := by unfold pn; rw [z3]
      have e2 : pcl Z = pcl Y := by unfold pcl; rw [z3]
      have e3 : psl Z = psl Y := by unfold psl; rw [z3]
      exact ⟨fun b hb => z4 b (by omega) (by omega), by rw [z3], by omega, by omega, by omega, by omega, by omega⟩
    exact ((g0.trans gY (Nat.le_refl _)).trans gZ (Nat.le_refl _)).more (Nat.le_refl _) (by omega) (by omega)
  · rw [if_neg (by rw [of_inj (by omega) (by omega)]; exact c), if_neg c, if_neg c, if_neg c]
    obtain ⟨Z, z1, z2, z3, z4⟩ := p_addB hM (by omega) hl4 hqH hci
    rw [cl_eq z1, rN_at nb0.2]
    refine ⟨row, Z, rfl, z2, Or.inl rfl, ?_, fun b h1 h2 h3 => (z4 b h1 h2).trans (hne b h1)⟩
    have gZ : GR n 0 0 H Z := by
      have e1 : pn Z = pn H := by unfold pn; rw [z3]
      have e2 : pcl Z = pcl H := by unfold pcl; rw [z3]
      have e3 : psl Z = psl H := by unfold psl; rw [z3]
      exact ⟨fun b hb => z4 b (by omega) (by omega), by rw [z3], by omega, by omega, by omega, by omega, by omega⟩
    exact (g0.trans gZ (Nat.le_refl _)).more (Nat.le_refl _) (by omega) (by omega)
end CAE
