/-! THE LAW: the tried write, the error of loading (printed by gen/mkg8.py) -/
set_option maxRecDepth 100000
theorem gle_tryW {S : SS} {n i r : Nat} : gle S (tryW n S i r).2 := by
  rw [tryW_eq]
  split
  · split
    · exact gle.tr (b := tryC S i r 0) gle_sendS (gle_goOn n)
    · exact gle_sendS
  · exact gle_sendS
theorem unfi_0 {S : SS} {i : Nat} (h : ¬ unfi S i < 0) : unfi S i = 0 := by
  unfold unfi at h ⊢
  rcases unab_c (S := S) (i := i) with e | e | e
  · rw [e, if_pos (by decide)] at h
    exact absurd (by decide) h
  · rw [e, if_pos (by decide)] at h
    exact absurd (by decide) h
  · rw [e, if_neg (by decide)] at h ⊢
    by_cases c : leads S i (now S) = true
    · rw [if_pos c]
    · rw [if_neg c] at h
      exact absurd (by decide) h
theorem unfi_copy {S : SS} {i : Nat} : unfi (copyS S) i = unfi S i := rfl
theorem now_tryC {S : SS} {i r : Nat} : now (tryC S i r 0) = now S := by
  unfold tryC
  exact (sc_usc (by decide)).trans (sc_send (by decide))
section G8
variable {E : PE} {W : Nat → Nat} {a7 L len : Nat} {xs : Nat → Int32} {S : SS} {Z : Nat → Option SS} {bf : Nat → Nat} {le : Int32} {h : PH} {n j : Nat}
theorem rn_try {i r : Nat} (I : Inv S) (Ic : Inv (copyS S)) (hi : i < s_n S) (ht : tryT (copyS S) i ≤ 5000000) : RN (tryC (copyS S) i r 0) (tryT (copyS S) i) 5000 := by
  have b := tryT_b Ic (i := i) hi
  have k5 : ((5000000 : Int32)).toInt = 5000000 := by decide
  rw [Int32.le_iff_toInt_le, k5] at ht
  unfold RN
  rw [now_tryC]
  exact ⟨b.1, ht, by omega⟩
theorem rn_try2 {i : Nat} (Ic : Inv (copyS S)) (hi : i < s_n S) : (tryT (copyS S) i).toInt ≤ (now S).toInt + 5000 := by
  have b := tryT_b Ic (i := i) hi
  rw [now_copy] at b
  omega
theorem s_59 (hW : SW E W a7 L xs) (hL : LW E BB W a7 S Z bf len le h) (hI : LI S) (hF : FT S) (hj : 5 * j + 5 ≤ L) : STEP E W a7 S Z bf len le n j (br_59 n (some (sAd E 50)) (some (W 0)) (some (AW W a7 0)) (some (W 3)) (Int32.ofNat (5 * j)) h) := by
  obtain ⟨F, Rc, T, g, fs, fo, hS, hC, hG, hT⟩ := hL
  obtain ⟨⟨LL, pp, hr⟩, hT2⟩ := id hT
  have hE := hS.base.1
  have n1 := hS.base.2.2.1
  have hX := kX (Rc := Rc) (T := T) (F := F) (len := len) (le := le) (g := g) (fs := fs) (fo := fo) hW
  have I := hI.1
  have w1 := I.w1
  have hB6 : fitB BB (g_mk S 1 6) := hF.1 _ (Or.inl rfl)
  have hx : EX E := hW.2.2.2.1.2.2.2.1
  have hlg : (s_lg S).length ≤ 200 := I.2.2.2.2.2.2.2.2.2.2
  have hll : LL.length < 12000 := by have := hF.2.2.2.2.1; rw [tr_len hr]; omega
  have hB2 : BB.2 < 2 ^ 25 := by decide
  unfold STEP br_59
  have e1 : Int32.ofNat (5 * j) + (1 : Int32) = Int32.ofNat (5 * j + 1) := of_add _ 1
  have e2 : Int32.ofNat (5 * j) + (2 : Int32) = Int32.ofNat (5 * j + 2) := of_add _ 2
  obtain ⟨p1, hp1⟩ : ∃ p1, xs (5 * j + 1) = p1 := ⟨_, rfl⟩
  obtain ⟨p2, hp2⟩ : ∃ p2, xs (5 * j + 2) = p2 := ⟨_, rfl⟩
  rw [e1, sa_at hW hE (k := 5 * j + 1) (by omega), hp1]
  rw [e2, sa_at hW hE (k := 5 * j + 2) (by omega), hp2]
  by_cases hn : isNd S p1
  · obtain ⟨i, hi, rfl⟩ := isNd_of hn
    by_cases hg : iv p2 0 7
    · obtain ⟨r, hr8, rfl⟩ := regN_of hg
      have Ic : Inv (copyS S) := Inv_copy I (gh_copy hF.2.1)
      have kf := fun hu : unfi S i = 0 => hF.2.2.2.2.2 i r 5000 hi hr8 hu (Nat.le_refl _)
      have xr := x_tryWrite hS hX hx I hI.2.1 hi hr8 (n := 5000) (by unfold FU; omega) (Nat.le_refl _) hB2 (fun _ => hF.2.1) (fun hu => (kf hu).1) (fun hu => (kf hu).2)
      have tr : ∀ h1 : PH, h1.2.1 = E → TD (AW W a7) T h1 0 (if unfi S i < 0 then unfi S i else (tryW 5000 (copyS S) i r).1) S (f_X7_tryWrite (some (AW W a7 0)) (Int32.ofNat i) (Int32.ofNat r) (tw (AW W a7) T h1)) := fun h1 hE1 => by
        have q := t_tryWrite (kTA hW hE1) hr (TR_copy hr) Ic (Rest_copy hI.2.1) hI.2.2.1 hI.2.2.2 hi hr8 (n := 5000) (by unfold FU; omega) (Nat.le_refl _) hF.2.2.2.2.1 (fun hu => (kf hu).1) (fun hu h4 ht => (hF.2.2.2.1 (tryC (copyS S) i r 0) (tryT (copyS S) i) 5000 (Or.inr (Or.inr ⟨i, r, hi, hr8, hu, h4, rfl⟩)) (rn_try I Ic hi ht) (rn_try2 Ic hi)).2.2)
        exact q
      by_cases hu : unfi S i < 0
      · rw [if_pos hu, if_pos hu] at xr
        simp only [if_pos hu] at tr
        exact ⟨S, Or.inl rfl, lj_int hW hC hG hT (code := 0) (S' := S) (by unfold f_X0_tryWrite; exact l_ok hW hS (xr) (fun v h1 => rfl)) (fun h1 hE1 et => by have q := tr h1 hE1; rw [et] at q; exact q) (fun _ _ _ q => q) (fun v h1 hE1 => by rw [sa_at hW hE1 (k := 5 * j + 1) (by omega), hp1, sa_at hW hE1 (k := 5 * j + 2) (by omega), hp2]; rfl)⟩
      · rw [if_neg hu, if_neg hu] at xr
        simp only [if_neg hu] at tr
        exact ⟨ctS S (tryW 5000 (copyS S) i r).2, Or.inr (Or.inr (Or.inr (Or.inr ⟨_, rfl, gle_tryW, Or.inr ⟨i, r, 5000, hi, hr8, unfi_0 hu, Nat.le_refl _, rfl⟩⟩))), lj_int hW hC hG hT (code := 0) (S' := ctS S (tryW 5000 (copyS S) i r).2) (by unfold f_X0_tryWrite; exact l_ok hW hS (xr) (fun v h1 => rfl)) (fun h1 hE1 et => by have q := tr h1 hE1; rw [et] at q; exact q) (fun _ _ _ q => q) (fun v h1 hE1 => by rw [sa_at hW hE1 (k := 5 * j + 1) (by omega), hp1, sa_at hW hE1 (k := 5 * j + 2) (by omega), hp2]; rfl)⟩
    · have hg : ¬ iv p2 0 7 := hg
      exact ⟨g_mk S 1 6, Or.inr (Or.inl rfl), lj_int hW hC hG hT (code := 2) (S' := g_mk S 1 6) (by unfold f_X0_tryWrite; exact l_er hW hS (x_tryWriteP hS hX hB6 hi hg) (by decide) (fun q h1 hq => (if_neg (by decide)).trans ((if_pos rfl).trans (if_pos hq)))) (fun h1 hE1 et => by have q := t_tryWrite2 (kTA hW hE1) hr I hi hg; rw [et] at q; exact q.td) (fun _ _ _ q => q) (fun v h1 hE1 => by rw [sa_at hW hE1 (k := 5 * j + 1) (by omega), hp1, sa_at hW hE1 (k := 5 * j + 2) (by omega), hp2]; rfl)⟩
  · have hn : ¬ isNd S p1 := hn
    exact ⟨g_mk S 1 6, Or.inr (Or.inl rfl), lj_int hW hC hG hT (code := 1) (S' := g_mk S 1 6) (by unfold f_X0_tryWrite; exact l_er hW hS ((x_predN hS hX hB6 (q := p2) (r := 0) hn).2.1) (by decide) (fun q h1 hq => (if_pos rfl).trans (if_pos hq))) (fun h1 hE1 et => by have q := t_tryWrite1 (kTA hW hE1) hr n1 (p1 := p2) hn; rw [et] at q; exact q.td) (fun _ _ _ q => q) (fun v h1 hE1 => by rw [sa_at hW hE1 (k := 5 * j + 1) (by omega), hp1, sa_at hW hE1 (k := 5 * j + 2) (by omega), hp2]; rfl)⟩
theorem s_2 (hW : SW E W a7 L xs) (hL : LW E BB W a7 S Z bf len le h) (hI : LI S) (hF : FT S) (hj : 5 * j + 5 ≤ L) : STEP E W a7 S Z bf len le n j (br_2 n (some (sAd E 50)) (some (W 0)) (some (AW W a7 0)) (some (W 3)) (Int32.ofNat (5 * j)) h) := by
  obtain ⟨F, Rc, T, g, fs, fo, hS, hC, hG, hT⟩ := hL
  obtain ⟨⟨LL, pp, hr⟩, hT2⟩ := id hT
  have hE := hS.base.1
  have n1 := hS.base.2.2.1
  have hX := kX (Rc := Rc) (T := T) (F := F) (len := len) (le := le) (g := g) (fs := fs) (fo := fo) hW
  have I := hI.1
  have w1 := I.w1
  have hB6 : fitB BB (g_mk S 1 6) := hF.1 _ (Or.inl rfl)
  have hx : EX E := hW.2.2.2.1.2.2.2.1
  have hlg : (s_lg S).length ≤ 200 := I.2.2.2.2.2.2.2.2.2.2
  have hll : LL.length < 12000 := by have := hF.2.2.2.2.1; rw [tr_len hr]; omega
  have hB2 : BB.2 < 2 ^ 25 := by decide
  unfold STEP br_2
  rw [rv_at (hS.tr hX).1, cl_eq (x_loadError hS hX), rv_at (hS.tr (kT hW (i := 0) (by decide))).1]
  have et := kTW hW hS
  have q : f_X7_loadError (some (AW W a7 0)) (tw (AW W a7) T h) = some (le, tw (AW W a7) (x_sc T 1 0) h) := by
    unfold f_X7_loadError
    rw [t_pV (kTA hW hE) (by decide), t_gI (by decide)]
    rw [show q_sc (x_sc T 1 0) 8 = le from (q_sne (by decide)).trans hT.2.2.1]
  rw [et] at q
  rw [cl_eq q, if_pos rfl]
  refine ⟨S, Or.inl rfl, _, rfl, ⟨F, Rc, x_sc T 1 0, g, fs, fo, ?_, hC, hG, ⟨LL, pp, hr⟩, ⟨hT.2.1.1, (q_sne (by decide)).trans hT.2.1.2.1, hT.2.1.2.2⟩, (q_sne (by decide)).trans hT.2.2.1, hT.2.2.2⟩, hE⟩
  exact hS.twin hW.1 (fun i hi => AW_lt hi)
end G8
