/-! THE LAW: time and predictions (printed by gen/mkg5.py) -/
set_option maxRecDepth 100000
theorem TR_copy {ex : Bool × Int32 × Int32} {S : SS} {Pl : List (Option MG)} {w : Nat → Int32} (hr : TR ex S Pl w) : TR ex (copyS S) Pl w := hr
theorem now_17 {S : SS} : now (u_sc (copyS S) 17 0) = now S := by
  show fu (s_sc (copyS S)) 17 0 8 = _
  rw [fu_ne (by decide)]
  exact now_copy
theorem rn_of {S : SS} {p : Int32} (I : Inv S) (hp : iv p 1 5000) (hy : now S + p ≤ 5000000) : RN S (now S + p) 5000 ∧ (now S + p).toInt ≤ (now S).toInt + 5000 := by
  have w := I.2.2.2.1.1
  have w1 := w.1
  have w2 := w.2
  have p1 := hp.1
  have p2 := hp.2
  have k5 : ((5000000 : Int32)).toInt = 5000000 := by decide
  have e : (now S + p).toInt = (now S).toInt + p.toInt := i_add (by omega) (by omega)
  rw [Int32.le_iff_toInt_le, k5] at hy
  exact ⟨⟨by omega, hy, by omega⟩, by omega⟩
theorem rn_copy {S : SS} {t : Int32} {n : Nat} (h : RN S t n) : RN (copyS S) t n ∧ RN (u_sc (copyS S) 17 0) t n := by
  unfold RN at h ⊢
  rw [now_copy, now_17]
  exact ⟨h, h⟩
theorem gh_copy {S : SS} (hc : cpF BB S) : s_gh (copyS S) 0 ≤ 1000000 := by
  have h1 : s_gh (copyS S) 0 = s_gh S 0 + cpCl S := rfl
  have h2 := hc.1
  have h3 : BB.1 = 603072 := rfl
  omega
theorem gle_copy {S : SS} : gle S (copyS S) := by
  refine ⟨?_, ?_⟩
  · show s_gh S 0 ≤ s_gh S 0 + cpCl S
    omega
  · show s_gh S 1 ≤ s_gh S 1 + cpSl S
    omega
section G7
variable {E : PE} {W : Nat → Nat} {a7 L len : Nat} {xs : Nat → Int32} {S : SS} {Z : Nat → Option SS} {bf : Nat → Nat} {le : Int32} {h : PH} {n j : Nat}
theorem s_14 (hW : SW E W a7 L xs) (hL : LW E BB W a7 S Z bf len le h) (hI : LI S) (hF : FT S) (hj : 5 * j + 5 ≤ L) : STEP E W a7 S Z bf len le n j (br_14 n (some (sAd E 50)) (some (W 0)) (some (AW W a7 0)) (some (W 3)) (Int32.ofNat (5 * j)) h) := by
  obtain ⟨F, Rc, T, g, fs, fo, hS, hC, hG, hT⟩ := hL
  obtain ⟨⟨LL, pp, hr⟩, hT2⟩ := id hT
  have hE := hS.base.1
  have n1 := hS.base.2.2.1
  have hX := kX (Rc := Rc) (T := T) (F := F) (len := len) (le := le) (g := g) (fs := fs) (fo := fo) hW
  have I := hI.1
  have w1 := I.w1
  have hB6 : fitB BB (g_mk S 1 6) := hF.1 _ (Or.inl rfl)
  have hx : EX E := hW.2.2.2.1.2.2.2.1
  have hlg : (s_lg S).length ≤ 200 := I.2.2.2.2.2.2.2.2.2.2
  have hll : LL.length < 12000 := by have := hF.2.2.2.2.1; rw [tr_len hr]; omega
  have hB2 : BB.2 < 2 ^ 25 := by decide
  unfold STEP br_14
  have e1 : Int32.ofNat (5 * j) + (1 : Int32) = Int32.ofNat (5 * j + 1) := of_add _ 1
  have e2 : Int32.ofNat (5 * j) + (2 : Int32) = Int32.ofNat (5 * j + 2) := of_add _ 2
  obtain ⟨p1, hp1⟩ : ∃ p1, xs (5 * j + 1) = p1 := ⟨_, rfl⟩
  obtain ⟨p2, hp2⟩ : ∃ p2, xs (5 * j + 2) = p2 := ⟨_, rfl⟩
  rw [e1, sa_at hW hE (k := 5 * j + 1) (by omega), hp1]
  rw [e2, sa_at hW hE (k := 5 * j + 2) (by omega), hp2]
  by_cases hz : p2 = 0
  · have hz : p2 = 0 := hz
    rw [if_pos hz]
    unfold f_L_law_B874
    rw [e1, e2]
    by_cases hn : isNd S p1
    · obtain ⟨i, hi, rfl⟩ := isNd_of hn
      exact ⟨(cutS S i 0).2, Or.inr (Or.inr (Or.inl (Or.inr ⟨i, hi, Or.inr (Or.inr (Or.inr (Or.inr (Or.inr (Or.inl (⟨0, (Or.inl rfl), rfl⟩))))))⟩))), lj_boo hW hC hG hT (I.2.1 i hi).2.2.2.2.2.1 (code := 0) (S' := (cutS S i 0).2) (by unfold f_X0_setCut; exact l_bo hW hS (I.2.1 i hi).2.2.2.2.2.1 (x_setCut hS hX I hi (Or.inl rfl)) (fun v h1 => rfl)) (fun h1 hE1 et => by have q := t_setCut (kTA hW hE1) hr I hi (Or.inl rfl); rw [et] at q; exact q.td) (fun _ _ _ q => q) (fun v h1 hE1 => by rw [sa_at hW hE1 (k := 5 * j + 1) (by omega), hp1, sa_at hW hE1 (k := 5 * j + 2) (by omega), hp2, if_pos hz]; rfl)⟩
    · have hn : ¬ isNd S p1 := hn
      exact ⟨g_mk S 1 6, Or.inr (Or.inl rfl), lj_boo hW hC hG hT (Or.inl rfl) (code := 1) (S' := g_mk S 1 6) (by unfold f_X0_setCut; exact l_er hW hS ((x_call2N hS hX hB6 (q := 0) (r := 0) (s := 0) hn).2.1) (by decide) (fun q h1 hq => (if_pos rfl).trans (if_pos hq))) (fun h1 hE1 et => by have q := t_setCut1 (kTA hW hE1) hr n1 (p1 := 0) hn; rw [et] at q; exact q.td) (fun _ _ _ q => q) (fun v h1 hE1 => by rw [sa_at hW hE1 (k := 5 * j + 1) (by omega), hp1, sa_at hW hE1 (k := 5 * j + 2) (by omega), hp2, if_pos hz]; rfl)⟩
  · have hz : ¬ p2 = 0 := hz
    rw [if_neg hz]
    unfold f_L_law_B874
    rw [e1, e2]
    by_cases hn : isNd S p1
    · obtain ⟨i, hi, rfl⟩ := isNd_of hn
      exact ⟨(cutS S i 1).2, Or.inr (Or.inr (Or.inl (Or.inr ⟨i, hi, Or.inr (Or.inr (Or.inr (Or.inr (Or.inr (Or.inl (⟨1, (Or.inr rfl), rfl⟩))))))⟩))), lj_boo hW hC hG hT (I.2.1 i hi).2.2.2.2.2.1 (code := 0) (S' := (cutS S i 1).2) (by unfold f_X0_setCut; exact l_bo hW hS (I.2.1 i hi).2.2.2.2.2.1 (x_setCut hS hX I hi (Or.inr rfl)) (fun v h1 => rfl)) (fun h1 hE1 et => by have q := t_setCut (kTA hW hE1) hr I hi (Or.inr rfl); rw [et] at q; exact q.td) (fun _ _ _ q => q) (fun v h1 hE1 => by rw [sa_at hW hE1 (k := 5 * j + 1) (by omega), hp1, sa_at hW hE1 (k := 5 * j + 2) (by omega), hp2, if_neg hz]; rfl)⟩
    · have hn : ¬ isNd S p1 := hn
      exact ⟨g_mk S 1 6, Or.inr (Or.inl rfl), lj_boo hW hC hG hT (Or.inl rfl) (code := 1) (S' := g_mk S 1 6) (by unfold f_X0_setCut; exact l_er hW hS ((x_call2N hS hX hB6 (q := 1) (r := 0) (s := 0) hn).2.1) (by decide) (fun q h1 hq => (if_pos rfl).trans (if_pos hq))) (fun h1 hE1 et => by have q := t_setCut1 (kTA hW hE1) hr n1 (p1 := 1) hn; rw [et] at q; exact q.td) (fun _ _ _ q => q) (fun v h1 hE1 => by rw [sa_at hW hE1 (k := 5 * j + 1) (by omega), hp1, sa_at hW hE1 (k := 5 * j + 2) (by omega), hp2, if_neg hz]; rfl)⟩
theorem s_3 (hW : SW E W a7 L xs) (hL : LW E BB W a7 S Z bf len le h) (hI : LI S) (hF : FT S) (hj : 5 * j + 5 ≤ L) : STEP E W a7 S Z bf len le n j (br_3 n (some (sAd E 50)) (some (W 0)) (some (AW W a7 0)) (some (W 3)) (Int32.ofNat (5 * j)) h) := by
  obtain ⟨F, Rc, T, g, fs, fo, hS, hC, hG, hT⟩ := hL
  obtain ⟨⟨LL, pp, hr⟩, hT2⟩ := id hT
  have hE := hS.base.1
  have n1 := hS.base.2.2.1
  have hX := kX (Rc := Rc) (T := T) (F := F) (len := len) (le := le) (g := g) (fs := fs) (fo := fo) hW
  have I := hI.1
  have w1 := I.w1
  have hB6 : fitB BB (g_mk S 1 6) := hF.1 _ (Or.inl rfl)
  have hx : EX E := hW.2.2.2.1.2.2.2.1
  have hlg : (s_lg S).length ≤ 200 := I.2.2.2.2.2.2.2.2.2.2
  have hll : LL.length < 12000 := by have := hF.2.2.2.2.1; rw [tr_len hr]; omega
  have hB2 : BB.2 < 2 ^ 25 := by decide
  unfold STEP br_3
  have e1 : Int32.ofNat (5 * j) + (1 : Int32) = Int32.ofNat (5 * j + 1) := of_add _ 1
  obtain ⟨p1, hp1⟩ : ∃ p1, xs (5 * j + 1) = p1 := ⟨_, rfl⟩
  rw [e1, sa_at hW hE (k := 5 * j + 1) (by omega), hp1]
  by_cases hp : iv p1 1 5000
  · have hp : iv p1 1 5000 := hp
    by_cases hy : now S + p1 ≤ 5000000
    · obtain ⟨ra, rb⟩ := rn_of I hp hy
      obtain ⟨f1, f2, f3⟩ := hF.2.2.1 _ _ ra (Or.inl rb)
      exact ⟨goOn 5000 S (now S + p1), Or.inr (Or.inr (Or.inr (Or.inl ⟨_, 5000, ra, Or.inl rb, rfl⟩))), lj_int hW hC hG hT (code := 0) (S' := goOn 5000 S (now S + p1)) (by unfold f_X0_advance; exact l_ok hW hS ((x_advance hS hX hx I hI.2.1 hp (n := 5000) (by unfold FU; omega) (Nat.le_refl _) hB2).2 hy f1 f2) (fun v h1 => rfl)) (fun h1 hE1 et => by have q := (t_advance (kTA hW hE1) hr I hI.2.1 hp (n := 5000) (by unfold FU; omega) (Nat.le_refl _)).2 hy f1 f3; rw [et] at q; exact q) (fun _ _ _ q => q) (fun v h1 hE1 => by rw [sa_at hW hE1 (k := 5 * j + 1) (by omega), hp1]; rfl)⟩
    · have hy : ¬ now S + p1 ≤ 5000000 := hy
      exact ⟨S, Or.inl rfl, lj_int hW hC hG hT (code := 0) (S' := S) (by unfold f_X0_advance; exact l_ok hW hS ((x_advance hS hX hx I hI.2.1 hp (n := 5000) (by unfold FU; omega) (Nat.le_refl _) hB2).1 hy) (fun v h1 => rfl)) (fun h1 hE1 et => by have q := (t_advance (kTA hW hE1) hr I hI.2.1 hp (n := 5000) (by unfold FU; omega) (Nat.le_refl _)).1 hy; rw [et] at q; exact q) (fun _ _ _ q => q) (fun v h1 hE1 => by rw [sa_at hW hE1 (k := 5 * j + 1) (by omega), hp1]; rfl)⟩
  · have hp : ¬ iv p1 1 5000 := hp
    exact ⟨g_mk S 1 6, Or.inr (Or.inl rfl), lj_int hW hC hG hT (code := 1) (S' := g_mk S 1 6) (by unfold f_X0_advance; exact l_er hW hS ((x_advanceP hS hB6 hp).1) (by decide) (fun q h1 hq => (if_pos rfl).trans (if_pos hq))) (fun h1 hE1 et => by have q := t_advance1 (kTA hW hE1) hr hp; rw [et] at q; exact q) (fun _ _ _ q => q) (fun v h1 hE1 => by rw [sa_at hW hE1 (k := 5 * j + 1) (by omega), hp1]; rfl)⟩
/-- the run to the next event -/
theorem rn_next {S : SS} (I : Inv S) (hR : Rest S) (hy : nextEvent S ≤ 5000000) : RN S (nextEvent S) 5000000 := by
  have k5 : ((5000000 : Int32)).toInt = 5000000 := by decide
  rw [Int32.le_iff_toInt_le, k5] at hy
  have w := I.2.2.2.1.1.1
  have := next_gt2 I hR
  exact ⟨this, hy, by omega⟩
theorem now_goOn_next {S : SS} (I : Inv S) (hR : Rest S) (hy : nextEvent S ≤ 5000000) (hg : s_gh (goOn 5000000 S (nextEvent S)) 0 ≤ 1000000) : now (goOn 5000000 S (nextEvent S)) = nextEvent S := by
  obtain ⟨r1, r2, r3⟩ := rn_next I hR hy
  have eg : goOn 5000000 S (nextEvent S) = goOn 4999999 (step S (nextEvent S)) (nextEvent S) := by
    show goOn (4999999 + 1) S (nextEvent S) = _
    conv => lhs; unfold goOn
    rw [if_neg (by rw [i_le]; omega)]
  have hb : s_gh (step S (nextEvent S)) 0 ≤ 1000000 := Nat.le_trans (gle_goOn 4999999).1 (by rw [← eg]; exact hg)
  rw [eg, goOn_stop (by rw [now_next I hR r2 hb, i_le]; omega)]
  exact now_next I hR r2 hb
theorem s_4 (hW : SW E W a7 L xs) (hL : LW E BB W a7 S Z bf len le h) (hI : LI S) (hF : FT S) (hj : 5 * j + 5 ≤ L) : STEP E W a7 S Z bf len le n j (br_4 n (some (sAd E 50)) (some (W 0)) (some (AW W a7 0)) (some (W 3)) (Int32.ofNat (5 * j)) h) := by
  obtain ⟨F, Rc, T, g, fs, fo, hS, hC, hG, hT⟩ := hL
  obtain ⟨⟨LL, pp, hr⟩, hT2⟩ := id hT
  have hE := hS.base.1
  have n1 := hS.base.2.2.1
  have hX := kX (Rc := Rc) (T := T) (F := F) (len := len) (le := le) (g := g) (fs := fs) (fo := fo) hW
  have I := hI.1
  have w1 := I.w1
  have hB6 : fitB BB (g_mk S 1 6) := hF.1 _ (Or.inl rfl)
  have hx : EX E := hW.2.2.2.1.2.2.2.1
  have hlg : (s_lg S).length ≤ 200 := I.2.2.2.2.2.2.2.2.2.2
  have hll : LL.length < 12000 := by have := hF.2.2.2.2.1; rw [tr_len hr]; omega
  have hB2 : BB.2 < 2 ^ 25 := by decide
  unfold STEP br_4
  rw [rv_at (hS.tr hX).1]
  have xa := x_advNext hS hX hx I hI.2.1 (n := 5000000) (by unfold FU; omega) (Nat.le_refl _) hB2
  by_cases hm : nextEvent S = 2147483647
  · have hm : nextEvent S = 2147483647 := hm
    exact ⟨S, Or.inl rfl, lj_sim hW hC hG hT (xa.1 hm) (fun h1 hE1 et => by have q := (t_advNext (kTA hW hE1) hr I hI.2.1 (n := 5000000) (by unfold FU; omega) (Nat.le_refl _)).1 hm; rw [et] at q; exact q) (fun _ _ _ q => q) (fun v h1 hE1 => rfl)⟩
  · have hm : ¬ nextEvent S = 2147483647 := hm
    by_cases hy : nextEvent S ≤ 5000000
    · have ra := rn_next I hI.2.1 hy
      obtain ⟨f1, f2, f3⟩ := hF.2.2.1 _ _ ra (Or.inr rfl)
      have en := now_goOn_next I hI.2.1 hy f1
      have xb := (xa.2 hm).2 hy f1 f2
      rw [en] at xb
      exact ⟨goOn 5000000 S (nextEvent S), Or.inr (Or.inr (Or.inr (Or.inl ⟨_, 5000000, ra, Or.inr rfl, rfl⟩))), lj_sim hW hC hG hT xb (fun h1 hE1 et => by have q := ((t_advNext (kTA hW hE1) hr I hI.2.1 (n := 5000000) (by unfold FU; omega) (Nat.le_refl _)).2 hm).2 hy f1 f3; rw [et] at q; exact q) (fun _ _ _ q => q) (fun v h1 hE1 => rfl)⟩
    · have hy : ¬ nextEvent S ≤ 5000000 := hy
      exact ⟨S, Or.inl rfl, lj_sim hW hC hG hT ((xa.2 hm).1 hy) (fun h1 hE1 et => by have q := ((t_advNext (kTA hW hE1) hr I hI.2.1 (n := 5000000) (by unfold FU; omega) (Nat.le_refl _)).2 hm).1 hy; rw [et] at q; exact q) (fun _ _ _ q => q) (fun v h1 hE1 => rfl)⟩
theorem s_49 (hW : SW E W a7 L xs) (hL : LW E BB W a7 S Z bf len le h) (hI : LI S) (hF : FT S) (hj : 5 * j + 5 ≤ L) : STEP E W a7 S Z bf len le n j (br_49 n (some (sAd E 50)) (some (W 0)) (some (AW W a7 0)) (some (W 3)) (Int32.ofNat (5 * j)) h) := by
  obtain ⟨F, Rc, T, g, fs, fo, hS, hC, hG, hT⟩ := hL
  obtain ⟨⟨LL, pp, hr⟩, hT2⟩ := id hT
  have hE := hS.base.1
  have n1 := hS.base.2.2.1
  have hX := kX (Rc := Rc) (T := T) (F := F) (len := len) (le := le) (g := g) (fs := fs) (fo := fo) hW
  have I := hI.1
  have w1 := I.w1
  have hB6 : fitB BB (g_mk S 1 6) := hF.1 _ (Or.inl rfl)
  have hx : EX E := hW.2.2.2.1.2.2.2.1
  have hlg : (s_lg S).length ≤ 200 := I.2.2.2.2.2.2.2.2.2.2
  have hll : LL.length < 12000 := by have := hF.2.2.2.2.1; rw [tr_len hr]; omega
  have hB2 : BB.2 < 2 ^ 25 := by decide
  unfold STEP br_49
  have e1 : Int32.ofNat (5 * j) + (1 : Int32) = Int32.ofNat (5 * j + 1) := of_add _ 1
  obtain ⟨p1, hp1⟩ : ∃ p1, xs (5 * j + 1) = p1 := ⟨_, rfl⟩
  rw [e1, sa_at hW hE (k := 5 * j + 1) (by omega), hp1]
  by_cases hp : iv p1 1 5000
  · have hp : iv p1 1 5000 := hp
    have Ic : Inv (copyS S) := Inv_copy I (gh_copy hF.2.1)
    by_cases hy : now S + p1 ≤ 5000000
    · obtain ⟨ra, rb⟩ := rn_of I hp hy
      obtain ⟨rc, rd⟩ := rn_copy ra
      obtain ⟨f1, f2, f3⟩ := hF.2.2.2.1 _ _ _ (Or.inl rfl) rc rb
      have ec : now (copyS S) = now S := now_copy
      have xr := (x_nextLeader hS hX hx I hI.2.1 hp (n := 5000) (by unfold FU; omega) (Nat.le_refl _) hB2).2 hy hF.2.1 f1 f2
      exact ⟨ctS S (nextLead 5000 (copyS S) (now S + p1) (leadersS (copyS S)) (-4)).2, Or.inr (Or.inr (Or.inr (Or.inr ⟨_, rfl, gle_nextLead _, Or.inl ⟨_, _, 5000, Or.inl rfl, rc, rb, gle_nL _ _ _⟩⟩))), lj_int hW hC hG hT (code := 0) (S' := ctS S (nextLead 5000 (copyS S) (now S + p1) (leadersS (copyS S)) (-4)).2) (by unfold f_X0_nextLeader; exact l_ok hW hS (xr) (fun v h1 => rfl)) (fun h1 hE1 et => by have q := (t_nextLeader (kTA hW hE1) hr (TR_copy hr) Ic (Rest_copy hI.2.1) hp (n := 5000) (by unfold FU; omega) (Nat.le_refl _)).2; rw [ec] at q; have q2 := q hy f1 f3; rw [et] at q2; exact q2) (fun _ _ _ q => q) (fun v h1 hE1 => by rw [sa_at hW hE1 (k := 5 * j + 1) (by omega), hp1]; rfl)⟩
    · have hy : ¬ now S + p1 ≤ 5000000 := hy
      have ec : now (copyS S) = now S := now_copy
      exact ⟨S, Or.inl rfl, lj_int hW hC hG hT (code := 0) (S' := S) (by unfold f_X0_nextLeader; exact l_ok hW hS ((x_nextLeader hS hX hx I hI.2.1 hp (n := 5000) (by unfold FU; omega) (Nat.le_refl _) hB2).1 hy) (fun v h1 => rfl)) (fun h1 hE1 et => by have q := (t_nextLeader (kTA hW hE1) hr (TR_copy hr) Ic (Rest_copy hI.2.1) hp (n := 5000) (by unfold FU; omega) (Nat.le_refl _)).1; rw [ec] at q; have q2 := q hy; rw [et] at q2; exact q2) (fun _ _ _ q => q) (fun v h1 hE1 => by rw [sa_at hW hE1 (k := 5 * j + 1) (by omega), hp1]; rfl)⟩
  · have hp : ¬ iv p1 1 5000 := hp
    exact ⟨g_mk S 1 6, Or.inr (Or.inl rfl), lj_int hW hC hG hT (code := 1) (S' := g_mk S 1 6) (by unfold f_X0_nextLeader; exact l_er hW hS ((x_advanceP hS hB6 hp).2.1) (by decide) (fun q h1 hq => (if_pos rfl).trans (if_pos hq))) (fun h1 hE1 et => by have q := t_nextLeader1 (kTA hW hE1) hr hp; rw [et] at q; exact q) (fun _ _ _ q => q) (fun v h1 hE1 => by rw [sa_at hW hE1 (k := 5 * j + 1) (by omega), hp1]; rfl)⟩
theorem s_50 (hW : SW E W a7 L xs) (hL : LW E BB W a7 S Z bf len le h) (hI : LI S) (hF : FT S) (hj : 5 * j + 5 ≤ L) : STEP E W a7 S Z bf len le n j (br_50 n (some (sAd E 50)) (some (W 0)) (some (AW W a7 0)) (some (W 3)) (Int32.ofNat (5 * j)) h) := by
  obtain ⟨F, Rc, T, g, fs, fo, hS, hC, hG, hT⟩ := hL
  obtain ⟨⟨LL, pp, hr⟩, hT2⟩ := id hT
  have hE := hS.base.1
  have n1 := hS.base.2.2.1
  have hX := kX (Rc := Rc) (T := T) (F := F) (len := len) (le := le) (g := g) (fs := fs) (fo := fo) hW
  have I := hI.1
  have w1 := I.w1
  have hB6 : fitB BB (g_mk S 1 6) := hF.1 _ (Or.inl rfl)
  have hx : EX E := hW.2.2.2.1.2.2.2.1
  have hlg : (s_lg S).length ≤ 200 := I.2.2.2.2.2.2.2.2.2.2
  have hll : LL.length < 12000 := by have := hF.2.2.2.2.1; rw [tr_len hr]; omega
  have hB2 : BB.2 < 2 ^ 25 := by decide
  unfold STEP br_50
  have e1 : Int32.ofNat (5 * j) + (1 : Int32) = Int32.ofNat (5 * j + 1) := of_add _ 1
  obtain ⟨p1, hp1⟩ : ∃ p1, xs (5 * j + 1) = p1 := ⟨_, rfl⟩
  rw [e1, sa_at hW hE (k := 5 * j + 1) (by omega), hp1]
  by_cases hp : iv p1 1 5000
  · have hp : iv p1 1 5000 := hp
    have Ic : Inv (copyS S) := Inv_copy I (gh_copy hF.2.1)
    by_cases hy : now S + p1 ≤ 5000000
    · obtain ⟨ra, rb⟩ := rn_of I hp hy
      obtain ⟨rc, rd⟩ := rn_copy ra
      obtain ⟨f1, f2, f3⟩ := hF.2.2.2.1 _ _ _ (Or.inr (Or.inl rfl)) rd rb
      have ec : now (copyS S) = now S := now_copy
      have xr := (x_leaderlessTime hS hX hx I hI.2.1 hp (n := 5000) (by unfold FU; omega) (Nat.le_refl _) hB2).2 hy hF.2.1 f1 f2
      exact ⟨ctS S (goOn 5000 (u_sc (copyS S) 17 0) (now S + p1)), Or.inr (Or.inr (Or.inr (Or.inr ⟨_, rfl, gle.tr (b := u_sc (copyS S) 17 0) gle_sc (gle_goOn _), Or.inl ⟨_, _, 5000, Or.inr (Or.inl rfl), rd, rb, gle.rf⟩⟩))), lj_int hW hC hG hT (code := 0) (S' := ctS S (goOn 5000 (u_sc (copyS S) 17 0) (now S + p1))) (by unfold f_X0_leaderlessTime; exact l_ok hW hS (xr) (fun v h1 => rfl)) (fun h1 hE1 et => by have q := (t_leaderlessTime (kTA hW hE1) hr (TR_copy hr) Ic (Rest_copy hI.2.1) hp (n := 5000) (by unfold FU; omega) (Nat.le_refl _)).2; rw [ec] at q; have q2 := q hy f1 f3; rw [et] at q2; exact q2) (fun _ _ _ q => q) (fun v h1 hE1 => by rw [sa_at hW hE1 (k := 5 * j + 1) (by omega), hp1]; rfl)⟩
    · have hy : ¬ now S + p1 ≤ 5000000 := hy
      have ec : now (copyS S) = now S := now_copy
      exact ⟨S, Or.inl rfl, lj_int hW hC hG hT (code := 0) (S' := S) (by unfold f_X0_leaderlessTime; exact l_ok hW hS ((x_leaderlessTime hS hX hx I hI.2.1 hp (n := 5000) (by unfold FU; omega) (Nat.le_refl _) hB2).1 hy) (fun v h1 => rfl)) (fun h1 hE1 et => by have q := (t_leaderlessTime (kTA hW hE1) hr (TR_copy hr) Ic (Rest_copy hI.2.1) hp (n := 5000) (by unfold FU; omega) (Nat.le_refl _)).1; rw [ec] at q; have q2 := q hy; rw [et] at q2; exact q2) (fun _ _ _ q => q) (fun v h1 hE1 => by rw [sa_at hW hE1 (k := 5 * j + 1) (by omega), hp1]; rfl)⟩
  · have hp : ¬ iv p1 1 5000 := hp
    exact ⟨g_mk S 1 6, Or.inr (Or.inl rfl), lj_int hW hC hG hT (code := 1) (S' := g_mk S 1 6) (by unfold f_X0_leaderlessTime; exact l_er hW hS ((x_advanceP hS hB6 hp).2.2) (by decide) (fun q h1 hq => (if_pos rfl).trans (if_pos hq))) (fun h1 hE1 et => by have q := t_leaderlessTime1 (kTA hW hE1) hr hp; rw [et] at q; exact q) (fun _ _ _ q => q) (fun v h1 hE1 => by rw [sa_at hW hE1 (k := 5 * j + 1) (by omega), hp1]; rfl)⟩
theorem s_57 (hW : SW E W a7 L xs) (hL : LW E BB W a7 S Z bf len le h) (hI : LI S) (hF : FT S) (hj : 5 * j + 5 ≤ L) : STEP E W a7 S Z bf len le n j (br_57 n (some (sAd E 50)) (some (W 0)) (some (AW W a7 0)) (some (W 3)) (Int32.ofNat (5 * j)) h) := by
  obtain ⟨F, Rc, T, g, fs, fo, hS, hC, hG, hT⟩ := hL
  obtain ⟨⟨LL, pp, hr⟩, hT2⟩ := id hT
  have hE := hS.base.1
  have n1 := hS.base.2.2.1
  have hX := kX (Rc := Rc) (T := T) (F := F) (len := len) (le := le) (g := g) (fs := fs) (fo := fo) hW
  have I := hI.1
  have w1 := I.w1
  have hB6 : fitB BB (g_mk S 1 6) := hF.1 _ (Or.inl rfl)
  have hx : EX E := hW.2.2.2.1.2.2.2.1
  have hlg : (s_lg S).length ≤ 200 := I.2.2.2.2.2.2.2.2.2.2
  have hll : LL.length < 12000 := by have := hF.2.2.2.2.1; rw [tr_len hr]; omega
  have hB2 : BB.2 < 2 ^ 25 := by decide
  unfold STEP br_57
  have e1 : Int32.ofNat (5 * j) + (1 : Int32) = Int32.ofNat (5 * j + 1) := of_add _ 1
  have e2 : Int32.ofNat (5 * j) + (2 : Int32) = Int32.ofNat (5 * j + 2) := of_add _ 2
  obtain ⟨p1, hp1⟩ : ∃ p1, xs (5 * j + 1) = p1 := ⟨_, rfl⟩
  obtain ⟨p2, hp2⟩ : ∃ p2, xs (5 * j + 2) = p2 := ⟨_, rfl⟩
  rw [e1, sa_at hW hE (k := 5 * j + 1) (by omega), hp1]
  rw [e2, sa_at hW hE (k := 5 * j + 2) (by omega), hp2]
  by_cases hn : isNd S p1
  · obtain ⟨i, hi, rfl⟩ := isNd_of hn
    by_cases hp : iv p2 1 5000
    · have hp : iv p2 1 5000 := hp
      have Ic : Inv (copyS S) := Inv_copy I (gh_copy hF.2.1)
      by_cases hy : now S + p2 ≤ 5000000
      · obtain ⟨ra, rb⟩ := rn_of I hp hy
        obtain ⟨rc, rd⟩ := rn_copy ra
        obtain ⟨f1, f2, f3⟩ := hF.2.2.2.1 _ _ _ (Or.inl rfl) rc rb
        have ec : now (copyS S) = now S := now_copy
        have xr := (x_timeUntilLeader hS hX hx I hI.2.1 hi hp (n := 5000) (by unfold FU; omega) (Nat.le_refl _) hB2).2 hy hF.2.1 f1 f2
        exact ⟨ctS S (leadF 5000 (copyS S) i (now S + p2)), Or.inr (Or.inr (Or.inr (Or.inr ⟨_, rfl, gle_leadF _, Or.inl ⟨_, _, 5000, Or.inl rfl, rc, rb, gle_lF _ _⟩⟩))), lj_int hW hC hG hT (code := 0) (S' := ctS S (leadF 5000 (copyS S) i (now S + p2))) (by unfold f_X0_timeUntilLeader; exact l_ok hW hS (xr) (fun v h1 => rfl)) (fun h1 hE1 et => by have q := ((t_timeUntilLeader (kTA hW hE1) hr (TR_copy hr) Ic (Rest_copy hI.2.1) hi (n := 5000) (by unfold FU; omega) (Nat.le_refl _)).2 hp).2; rw [ec] at q; have q2 := q hy f1 f3; rw [et] at q2; exact q2) (fun _ _ _ q => q) (fun v h1 hE1 => by rw [sa_at hW hE1 (k := 5 * j + 1) (by omega), hp1, sa_at hW hE1 (k := 5 * j + 2) (by omega), hp2]; rfl)⟩
      · have hy : ¬ now S + p2 ≤ 5000000 := hy
        have ec : now (copyS S) = now S := now_copy
        exact ⟨S, Or.inl rfl, lj_int hW hC hG hT (code := 0) (S' := S) (by unfold f_X0_timeUntilLeader; exact l_ok hW hS ((x_timeUntilLeader hS hX hx I hI.2.1 hi hp (n := 5000) (by unfold FU; omega) (Nat.le_refl _) hB2).1 hy) (fun v h1 => rfl)) (fun h1 hE1 et => by have q := ((t_timeUntilLeader (kTA hW hE1) hr (TR_copy hr) Ic (Rest_copy hI.2.1) hi (n := 5000) (by unfold FU; omega) (Nat.le_refl _)).2 hp).1; rw [ec] at q; have q2 := q hy; rw [et] at q2; exact q2) (fun _ _ _ q => q) (fun v h1 hE1 => by rw [sa_at hW hE1 (k := 5 * j + 1) (by omega), hp1, sa_at hW hE1 (k := 5 * j + 2) (by omega), hp2]; rfl)⟩
    · have hp : ¬ iv p2 1 5000 := hp
      have Ic : Inv (copyS S) := Inv_copy I (gh_copy hF.2.1)
      exact ⟨g_mk S 1 6, Or.inr (Or.inl rfl), lj_int hW hC hG hT (code := 2) (S' := g_mk S 1 6) (by unfold f_X0_timeUntilLeader; exact l_er hW hS ((x_timeUntilLeaderP hS hX hB6 hi hp).1) (by decide) (fun q h1 hq => (if_neg (by decide)).trans ((if_pos rfl).trans (if_pos hq)))) (fun h1 hE1 et => by have q := (t_timeUntilLeader (kTA hW hE1) hr (TR_copy hr) Ic (Rest_copy hI.2.1) hi (n := 5000) (by unfold FU; omega) (Nat.le_refl _)).1 hp; rw [et] at q; exact q) (fun _ _ _ q => q) (fun v h1 hE1 => by rw [sa_at hW hE1 (k := 5 * j + 1) (by omega), hp1, sa_at hW hE1 (k := 5 * j + 2) (by omega), hp2]; rfl)⟩
  · have hn : ¬ isNd S p1 := hn
    exact ⟨g_mk S 1 6, Or.inr (Or.inl rfl), lj_int hW hC hG hT (code := 1) (S' := g_mk S 1 6) (by unfold f_X0_timeUntilLeader; exact l_er hW hS ((x_predN hS hX hB6 (q := p2) (r := 0) hn).1) (by decide) (fun q h1 hq => (if_pos rfl).trans (if_pos hq))) (fun h1 hE1 et => by have q := t_timeUntilLeader1 (kTA hW hE1) hr n1 (p1 := p2) hn; rw [et] at q; exact q.td) (fun _ _ _ q => q) (fun v h1 hE1 => by rw [sa_at hW hE1 (k := 5 * j + 1) (by omega), hp1, sa_at hW hE1 (k := 5 * j + 2) (by omega), hp2]; rfl)⟩
theorem s_58 (hW : SW E W a7 L xs) (hL : LW E BB W a7 S Z bf len le h) (hI : LI S) (hF : FT S) (hj : 5 * j + 5 ≤ L) : STEP E W a7 S Z bf len le n j (br_58 n (some (sAd E 50)) (some (W 0)) (some (AW W a7 0)) (some (W 3)) (Int32.ofNat (5 * j)) h) := by
  obtain ⟨F, Rc, T, g, fs, fo, hS, hC, hG, hT⟩ := hL
  obtain ⟨⟨LL, pp, hr⟩, hT2⟩ := id hT
  have hE := hS.base.1
  have n1 := hS.base.2.2.1
  have hX := kX (Rc := Rc) (T := T) (F := F) (len := len) (le := le) (g := g) (fs := fs) (fo := fo) hW
  have I := hI.1
  have w1 := I.w1
  have hB6 : fitB BB (g_mk S 1 6) := hF.1 _ (Or.inl rfl)
  have hx : EX E := hW.2.2.2.1.2.2.2.1
  have hlg : (s_lg S).length ≤ 200 := I.2.2.2.2.2.2.2.2.2.2
  have hll : LL.length < 12000 := by have := hF.2.2.2.2.1; rw [tr_len hr]; omega
  have hB2 : BB.2 < 2 ^ 25 := by decide
  unfold STEP br_58
  have e1 : Int32.ofNat (5 * j) + (1 : Int32) = Int32.ofNat (5 * j + 1) := of_add _ 1
  obtain ⟨p1, hp1⟩ : ∃ p1, xs (5 * j + 1) = p1 := ⟨_, rfl⟩
  rw [e1, sa_at hW hE (k := 5 * j + 1) (by omega), hp1]
  by_cases hp : iv p1 1 5000
  · have hp : iv p1 1 5000 := hp
    have Ic : Inv (copyS S) := Inv_copy I (gh_copy hF.2.1)
    by_cases hy : now S + p1 ≤ 5000000
    · obtain ⟨ra, rb⟩ := rn_of I hp hy
      obtain ⟨rc, rd⟩ := rn_copy ra
      obtain ⟨f1, f2, f3⟩ := hF.2.2.2.1 _ _ _ (Or.inl rfl) rc rb
      have ec : now (copyS S) = now S := now_copy
      have xr := (x_longestLeaderless hS hX hx I hI.2.1 hp (n := 5000) (by unfold FU; omega) (Nat.le_refl _) hB2).2 hy hF.2.1 f1 f2
      exact ⟨ctS S (goOn 5000 (copyS S) (now S + p1)), Or.inr (Or.inr (Or.inr (Or.inr ⟨_, rfl, gle_goOn _, Or.inl ⟨_, _, 5000, Or.inl rfl, rc, rb, gle.rf⟩⟩))), lj_int hW hC hG hT (code := 0) (S' := ctS S (goOn 5000 (copyS S) (now S + p1))) (by unfold f_X0_longestLeaderless; exact l_ok hW hS (xr) (fun v h1 => rfl)) (fun h1 hE1 et => by have q := (t_longestLeaderless (kTA hW hE1) hr (TR_copy hr) Ic (Rest_copy hI.2.1) hp (n := 5000) (by unfold FU; omega) (Nat.le_refl _)).2; rw [ec] at q; have q2 := q hy f1 f3; rw [et] at q2; exact q2) (fun _ _ _ q => q) (fun v h1 hE1 => by rw [sa_at hW hE1 (k := 5 * j + 1) (by omega), hp1]; rfl)⟩
    · have hy : ¬ now S + p1 ≤ 5000000 := hy
      have ec : now (copyS S) = now S := now_copy
      exact ⟨S, Or.inl rfl, lj_int hW hC hG hT (code := 0) (S' := S) (by unfold f_X0_longestLeaderless; exact l_ok hW hS ((x_longestLeaderless hS hX hx I hI.2.1 hp (n := 5000) (by unfold FU; omega) (Nat.le_refl _) hB2).1 hy) (fun v h1 => rfl)) (fun h1 hE1 et => by have q := (t_longestLeaderless (kTA hW hE1) hr (TR_copy hr) Ic (Rest_copy hI.2.1) hp (n := 5000) (by unfold FU; omega) (Nat.le_refl _)).1; rw [ec] at q; have q2 := q hy; rw [et] at q2; exact q2) (fun _ _ _ q => q) (fun v h1 hE1 => by rw [sa_at hW hE1 (k := 5 * j + 1) (by omega), hp1]; rfl)⟩
  · have hp : ¬ iv p1 1 5000 := hp
    exact ⟨g_mk S 1 6, Or.inr (Or.inl rfl), lj_int hW hC hG hT (code := 1) (S' := g_mk S 1 6) (by unfold f_X0_longestLeaderless; exact l_er hW hS (x_longestLeaderlessP hS hX hB6 hp) (by decide) (fun q h1 hq => (if_pos rfl).trans (if_pos hq))) (fun h1 hE1 et => by have q := t_longestLeaderless1 (kTA hW hE1) hr hp; rw [et] at q; exact q) (fun _ _ _ q => q) (fun v h1 hE1 => by rw [sa_at hW hE1 (k := 5 * j + 1) (by omega), hp1]; rfl)⟩
theorem s_60 (hW : SW E W a7 L xs) (hL : LW E BB W a7 S Z bf len le h) (hI : LI S) (hF : FT S) (hj : 5 * j + 5 ≤ L) : STEP E W a7 S Z bf len le n j (br_60 n (some (sAd E 50)) (some (W 0)) (some (AW W a7 0)) (some (W 3)) (Int32.ofNat (5 * j)) h) := by
  obtain ⟨F, Rc, T, g, fs, fo, hS, hC, hG, hT⟩ := hL
  obtain ⟨⟨LL, pp, hr⟩, hT2⟩ := id hT
  have hE := hS.base.1
  have n1 := hS.base.2.2.1
  have hX := kX (Rc := Rc) (T := T) (F := F) (len := len) (le := le) (g := g) (fs := fs) (fo := fo) hW
  have I := hI.1
  have w1 := I.w1
  have hB6 : fitB BB (g_mk S 1 6) := hF.1 _ (Or.inl rfl)
  have hx : EX E := hW.2.2.2.1.2.2.2.1
  have hlg : (s_lg S).length ≤ 200 := I.2.2.2.2.2.2.2.2.2.2
  have hll : LL.length < 12000 := by have := hF.2.2.2.2.1; rw [tr_len hr]; omega
  have hB2 : BB.2 < 2 ^ 25 := by decide
  unfold STEP br_60
  have e1 : Int32.ofNat (5 * j) + (1 : Int32) = Int32.ofNat (5 * j + 1) := of_add _ 1
  have e2 : Int32.ofNat (5 * j) + (2 : Int32) = Int32.ofNat (5 * j + 2) := of_add _ 2
  have e3 : Int32.ofNat (5 * j) + (3 : Int32) = Int32.ofNat (5 * j + 3) := of_add _ 3
  obtain ⟨p1, hp1⟩ : ∃ p1, xs (5 * j + 1) = p1 := ⟨_, rfl⟩
  obtain ⟨p2, hp2⟩ : ∃ p2, xs (5 * j + 2) = p2 := ⟨_, rfl⟩
  obtain ⟨p3, hp3⟩ : ∃ p3, xs (5 * j + 3) = p3 := ⟨_, rfl⟩
  rw [e1, sa_at hW hE (k := 5 * j + 1) (by omega), hp1]
  rw [e2, sa_at hW hE (k := 5 * j + 2) (by omega), hp2]
  rw [e3, sa_at hW hE (k := 5 * j + 3) (by omega), hp3]
  by_cases hn : isNd S p1
  · obtain ⟨i, hi, rfl⟩ := isNd_of hn
    by_cases hg : iv p2 0 7 ∧ iv p3 1 5000
    · obtain ⟨r, hr8, rfl⟩ := regN_of hg.1
      have hp : iv p3 1 5000 := hg.2
      have Ic : Inv (copyS S) := Inv_copy I (gh_copy hF.2.1)
      by_cases hy : now S + p3 ≤ 5000000
      · obtain ⟨ra, rb⟩ := rn_of I hp hy
        obtain ⟨rc, rd⟩ := rn_copy ra
        obtain ⟨f1, f2, f3⟩ := hF.2.2.2.1 _ _ _ (Or.inl rfl) rc rb
        have ec : now (copyS S) = now S := now_copy
        have xr := (x_predictRead hS hX hx I hI.2.1 hi hr8 hp (n := 5000) (by unfold FU; omega) (Nat.le_refl _) hB2).2 hy hF.2.1 f1 f2
        exact ⟨ctS S (goOn 5000 (copyS S) (now S + p3)), Or.inr (Or.inr (Or.inr (Or.inr ⟨_, rfl, gle_goOn _, Or.inl ⟨_, _, 5000, Or.inl rfl, rc, rb, gle.rf⟩⟩))), lj_int hW hC hG hT (code := 0) (S' := ctS S (goOn 5000 (copyS S) (now S + p3))) (by unfold f_X0_predictRead; exact l_ok hW hS (xr) (fun v h1 => rfl)) (fun h1 hE1 et => by have q := (t_predictRead (kTA hW hE1) hr (TR_copy hr) Ic (Rest_copy hI.2.1) hi hr8 hp (n := 5000) (by unfold FU; omega) (Nat.le_refl _)).2; rw [ec] at q; have q2 := q hy f1 f3; rw [et] at q2; exact q2) (fun _ _ _ q => q) (fun v h1 hE1 => by rw [sa_at hW hE1 (k := 5 * j + 1) (by omega), hp1, sa_at hW hE1 (k := 5 * j + 2) (by omega), hp2, sa_at hW hE1 (k := 5 * j + 3) (by omega), hp3]; rfl)⟩
      · have hy : ¬ now S + p3 ≤ 5000000 := hy
        have ec : now (copyS S) = now S := now_copy
        exact ⟨S, Or.inl rfl, lj_int hW hC hG hT (code := 0) (S' := S) (by unfold f_X0_predictRead; exact l_ok hW hS ((x_predictRead hS hX hx I hI.2.1 hi hr8 hp (n := 5000) (by unfold FU; omega) (Nat.le_refl _) hB2).1 hy) (fun v h1 => rfl)) (fun h1 hE1 et => by have q := (t_predictRead (kTA hW hE1) hr (TR_copy hr) Ic (Rest_copy hI.2.1) hi hr8 hp (n := 5000) (by unfold FU; omega) (Nat.le_refl _)).1; rw [ec] at q; have q2 := q hy; rw [et] at q2; exact q2) (fun _ _ _ q => q) (fun v h1 hE1 => by rw [sa_at hW hE1 (k := 5 * j + 1) (by omega), hp1, sa_at hW hE1 (k := 5 * j + 2) (by omega), hp2, sa_at hW hE1 (k := 5 * j + 3) (by omega), hp3]; rfl)⟩
    · have hg : ¬ (iv p2 0 7 ∧ iv p3 1 5000) := hg
      exact ⟨g_mk S 1 6, Or.inr (Or.inl rfl), lj_int hW hC hG hT (code := 2) (S' := g_mk S 1 6) (by unfold f_X0_predictRead; exact l_er hW hS (x_predictReadP hS hX hB6 hi hg) (by decide) (fun q h1 hq => (if_neg (by decide)).trans ((if_pos rfl).trans (if_pos hq)))) (fun h1 hE1 et => by have q := t_predictRead2 (kTA hW hE1) hr I hi hg; rw [et] at q; exact q.td) (fun _ _ _ q => q) (fun v h1 hE1 => by rw [sa_at hW hE1 (k := 5 * j + 1) (by omega), hp1, sa_at hW hE1 (k := 5 * j + 2) (by omega), hp2, sa_at hW hE1 (k := 5 * j + 3) (by omega), hp3]; rfl)⟩
  · have hn : ¬ isNd S p1 := hn
    exact ⟨g_mk S 1 6, Or.inr (Or.inl rfl), lj_int hW hC hG hT (code := 1) (S' := g_mk S 1 6) (by unfold f_X0_predictRead; exact l_er hW hS ((x_predN hS hX hB6 (q := p2) (r := p3) hn).2.2.1) (by decide) (fun q h1 hq => (if_pos rfl).trans (if_pos hq))) (fun h1 hE1 et => by have q := t_predictRead1 (kTA hW hE1) hr n1 (p1 := p2) (p2 := p3) hn; rw [et] at q; exact q.td) (fun _ _ _ q => q) (fun v h1 hE1 => by rw [sa_at hW hE1 (k := 5 * j + 1) (by omega), hp1, sa_at hW hE1 (k := 5 * j + 2) (by omega), hp2, sa_at hW hE1 (k := 5 * j + 3) (by omega), hp3]; rfl)⟩
theorem s_61 (hW : SW E W a7 L xs) (hL : LW E BB W a7 S Z bf len le h) (hI : LI S) (hF : FT S) (hj : 5 * j + 5 ≤ L) : STEP E W a7 S Z bf len le n j (br_61 n (some (sAd E 50)) (some (W 0)) (some (AW W a7 0)) (some (W 3)) (Int32.ofNat (5 * j)) h) := by
  obtain ⟨F, Rc, T, g, fs, fo, hS, hC, hG, hT⟩ := hL
  obtain ⟨⟨LL, pp, hr⟩, hT2⟩ := id hT
  have hE := hS.base.1
  have n1 := hS.base.2.2.1
  have hX := kX (Rc := Rc) (T := T) (F := F) (len := len) (le := le) (g := g) (fs := fs) (fo := fo) hW
  have I := hI.1
  have w1 := I.w1
  have hB6 : fitB BB (g_mk S 1 6) := hF.1 _ (Or.inl rfl)
  have hx : EX E := hW.2.2.2.1.2.2.2.1
  have hlg : (s_lg S).length ≤ 200 := I.2.2.2.2.2.2.2.2.2.2
  have hll : LL.length < 12000 := by have := hF.2.2.2.2.1; rw [tr_len hr]; omega
  have hB2 : BB.2 < 2 ^ 25 := by decide
  unfold STEP br_61
  have e1 : Int32.ofNat (5 * j) + (1 : Int32) = Int32.ofNat (5 * j + 1) := of_add _ 1
  have e2 : Int32.ofNat (5 * j) + (2 : Int32) = Int32.ofNat (5 * j + 2) := of_add _ 2
  obtain ⟨p1, hp1⟩ : ∃ p1, xs (5 * j + 1) = p1 := ⟨_, rfl⟩
  obtain ⟨p2, hp2⟩ : ∃ p2, xs (5 * j + 2) = p2 := ⟨_, rfl⟩
  rw [e1, sa_at hW hE (k := 5 * j + 1) (by omega), hp1]
  rw [e2, sa_at hW hE (k := 5 * j + 2) (by omega), hp2]
  by_cases hn : isNd S p1
  · obtain ⟨i, hi, rfl⟩ := isNd_of hn
    by_cases hp : iv p2 1 5000
    · have hp : iv p2 1 5000 := hp
      have Ic : Inv (copyS S) := Inv_copy I (gh_copy hF.2.1)
      by_cases hy : now S + p2 ≤ 5000000
      · obtain ⟨ra, rb⟩ := rn_of I hp hy
        obtain ⟨rc, rd⟩ := rn_copy ra
        obtain ⟨f1, f2, f3⟩ := hF.2.2.2.1 _ _ _ (Or.inl rfl) rc rb
        have ec : now (copyS S) = now S := now_copy
        have xr := (x_acquiresUntil hS hX hx I hI.2.1 hi hp (n := 5000) (by unfold FU; omega) (Nat.le_refl _) hB2).2 hy hF.2.1 f1 f2
        exact ⟨ctS S (goOn 5000 (copyS S) (now S + p2)), Or.inr (Or.inr (Or.inr (Or.inr ⟨_, rfl, gle_goOn _, Or.inl ⟨_, _, 5000, Or.inl rfl, rc, rb, gle.rf⟩⟩))), lj_int hW hC hG hT (code := 0) (S' := ctS S (goOn 5000 (copyS S) (now S + p2))) (by unfold f_X0_acquiresUntil; exact l_ok hW hS (xr) (fun v h1 => rfl)) (fun h1 hE1 et => by have q := ((t_acquiresUntil (kTA hW hE1) hr (TR_copy hr) Ic (Rest_copy hI.2.1) hi (n := 5000) (by unfold FU; omega) (Nat.le_refl _)).2 hp).2; rw [ec] at q; have q2 := q hy f1 f3; rw [et] at q2; exact q2) (fun _ _ _ q => q) (fun v h1 hE1 => by rw [sa_at hW hE1 (k := 5 * j + 1) (by omega), hp1, sa_at hW hE1 (k := 5 * j + 2) (by omega), hp2]; rfl)⟩
      · have hy : ¬ now S + p2 ≤ 5000000 := hy
        have ec : now (copyS S) = now S := now_copy
        exact ⟨S, Or.inl rfl, lj_int hW hC hG hT (code := 0) (S' := S) (by unfold f_X0_acquiresUntil; exact l_ok hW hS ((x_acquiresUntil hS hX hx I hI.2.1 hi hp (n := 5000) (by unfold FU; omega) (Nat.le_refl _) hB2).1 hy) (fun v h1 => rfl)) (fun h1 hE1 et => by have q := ((t_acquiresUntil (kTA hW hE1) hr (TR_copy hr) Ic (Rest_copy hI.2.1) hi (n := 5000) (by unfold FU; omega) (Nat.le_refl _)).2 hp).1; rw [ec] at q; have q2 := q hy; rw [et] at q2; exact q2) (fun _ _ _ q => q) (fun v h1 hE1 => by rw [sa_at hW hE1 (k := 5 * j + 1) (by omega), hp1, sa_at hW hE1 (k := 5 * j + 2) (by omega), hp2]; rfl)⟩
    · have hp : ¬ iv p2 1 5000 := hp
      have Ic : Inv (copyS S) := Inv_copy I (gh_copy hF.2.1)
      exact ⟨g_mk S 1 6, Or.inr (Or.inl rfl), lj_int hW hC hG hT (code := 2) (S' := g_mk S 1 6) (by unfold f_X0_acquiresUntil; exact l_er hW hS ((x_timeUntilLeaderP hS hX hB6 hi hp).2) (by decide) (fun q h1 hq => (if_neg (by decide)).trans ((if_pos rfl).trans (if_pos hq)))) (fun h1 hE1 et => by have q := (t_acquiresUntil (kTA hW hE1) hr (TR_copy hr) Ic (Rest_copy hI.2.1) hi (n := 5000) (by unfold FU; omega) (Nat.le_refl _)).1 hp; rw [et] at q; exact q) (fun _ _ _ q => q) (fun v h1 hE1 => by rw [sa_at hW hE1 (k := 5 * j + 1) (by omega), hp1, sa_at hW hE1 (k := 5 * j + 2) (by omega), hp2]; rfl)⟩
  · have hn : ¬ isNd S p1 := hn
    exact ⟨g_mk S 1 6, Or.inr (Or.inl rfl), lj_int hW hC hG hT (code := 1) (S' := g_mk S 1 6) (by unfold f_X0_acquiresUntil; exact l_er hW hS ((x_predN hS hX hB6 (q := p2) (r := 0) hn).2.2.2) (by decide) (fun q h1 hq => (if_pos rfl).trans (if_pos hq))) (fun h1 hE1 et => by have q := t_acquiresUntil1 (kTA hW hE1) hr n1 (p1 := p2) hn; rw [et] at q; exact q.td) (fun _ _ _ q => q) (fun v h1 hE1 => by rw [sa_at hW hE1 (k := 5 * j + 1) (by omega), hp1, sa_at hW hE1 (k := 5 * j + 2) (by omega), hp2]; rfl)⟩
end G7
