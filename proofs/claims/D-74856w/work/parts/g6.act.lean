/-! THE LAW: calls that change something (printed by gen/mkg5.py) -/
set_option maxRecDepth 100000
section G6
variable {E : PE} {W : Nat → Nat} {a7 L len : Nat} {xs : Nat → Int32} {S : SS} {Z : Nat → Option SS} {bf : Nat → Nat} {le : Int32} {h : PH} {n j : Nat}
theorem s_9 (hW : SW E W a7 L xs) (hL : LW E BB W a7 S Z bf len le h) (hI : LI S) (hF : FT S) (hj : 5 * j + 5 ≤ L) : STEP E W a7 S Z bf len le n j (br_9 n (some (sAd E 50)) (some (W 0)) (some (AW W a7 0)) (some (W 3)) (Int32.ofNat (5 * j)) h) := by
  obtain ⟨F, Rc, T, g, fs, fo, hS, hC, hG, hT⟩ := hL
  obtain ⟨⟨LL, pp, hr⟩, hT2⟩ := id hT
  have hE := hS.base.1
  have n1 := hS.base.2.2.1
  have hX := kX (Rc := Rc) (T := T) (F := F) (len := len) (le := le) (g := g) (fs := fs) (fo := fo) hW
  have I := hI.1
  have w1 := I.w1
  have hB6 : fitB BB (g_mk S 1 6) := hF.1 _ (Or.inl rfl)
  have hx : EX E := hW.2.2.2.1.2.2.2.1
  have hlg : (s_lg S).length ≤ 200 := I.2.2.2.2.2.2.2.2.2.2
  have hll : LL.length < 12000 := by have := hF.2.2.2.2.1; rw [tr_len hr]; omega
  have hB2 : BB.2 < 2 ^ 25 := by decide
  unfold STEP br_9
  have e1 : Int32.ofNat (5 * j) + (1 : Int32) = Int32.ofNat (5 * j + 1) := of_add _ 1
  obtain ⟨p1, hp1⟩ : ∃ p1, xs (5 * j + 1) = p1 := ⟨_, rfl⟩
  rw [e1, sa_at hW hE (k := 5 * j + 1) (by omega), hp1]
  by_cases hn : isNd S p1
  · obtain ⟨i, hi, rfl⟩ := isNd_of hn
    exact ⟨(campS S i).2, Or.inr (Or.inr (Or.inl (Or.inr ⟨i, hi, Or.inl rfl⟩))), lj_int hW hC hG hT (code := 0) (S' := (campS S i).2) (by unfold f_X0_campaign; exact l_ok hW hS (x_campaign hS hX w1 hi (hF.1 _ (Or.inr (Or.inr ⟨i, hi, Or.inl rfl⟩))) hB2) (fun v h1 => rfl)) (fun h1 hE1 et => by have q := t_campaign (kTA hW hE1) hr I hll hi; rw [et] at q; exact q.td) (fun _ _ _ q => q) (fun v h1 hE1 => by rw [sa_at hW hE1 (k := 5 * j + 1) (by omega), hp1]; rfl)⟩
  · have hn : ¬ isNd S p1 := hn
    exact ⟨g_mk S 1 6, Or.inr (Or.inl rfl), lj_int hW hC hG hT (code := 1) (S' := g_mk S 1 6) (by unfold f_X0_campaign; exact l_er hW hS ((x_withdrawN hS hX hB6 hn).2.1) (by decide) (fun q h1 hq => (if_pos rfl).trans (if_pos hq))) (fun h1 hE1 et => by have q := t_campaign1 (kTA hW hE1) hr n1 hn; rw [et] at q; exact q.td) (fun _ _ _ q => q) (fun v h1 hE1 => by rw [sa_at hW hE1 (k := 5 * j + 1) (by omega), hp1]; rfl)⟩
theorem s_10 (hW : SW E W a7 L xs) (hL : LW E BB W a7 S Z bf len le h) (hI : LI S) (hF : FT S) (hj : 5 * j + 5 ≤ L) : STEP E W a7 S Z bf len le n j (br_10 n (some (sAd E 50)) (some (W 0)) (some (AW W a7 0)) (some (W 3)) (Int32.ofNat (5 * j)) h) := by
  obtain ⟨F, Rc, T, g, fs, fo, hS, hC, hG, hT⟩ := hL
  obtain ⟨⟨LL, pp, hr⟩, hT2⟩ := id hT
  have hE := hS.base.1
  have n1 := hS.base.2.2.1
  have hX := kX (Rc := Rc) (T := T) (F := F) (len := len) (le := le) (g := g) (fs := fs) (fo := fo) hW
  have I := hI.1
  have w1 := I.w1
  have hB6 : fitB BB (g_mk S 1 6) := hF.1 _ (Or.inl rfl)
  have hx : EX E := hW.2.2.2.1.2.2.2.1
  have hlg : (s_lg S).length ≤ 200 := I.2.2.2.2.2.2.2.2.2.2
  have hll : LL.length < 12000 := by have := hF.2.2.2.2.1; rw [tr_len hr]; omega
  have hB2 : BB.2 < 2 ^ 25 := by decide
  unfold STEP br_10
  have e1 : Int32.ofNat (5 * j) + (1 : Int32) = Int32.ofNat (5 * j + 1) := of_add _ 1
  obtain ⟨p1, hp1⟩ : ∃ p1, xs (5 * j + 1) = p1 := ⟨_, rfl⟩
  rw [e1, sa_at hW hE (k := 5 * j + 1) (by omega), hp1]
  by_cases hn : isNd S p1
  · obtain ⟨i, hi, rfl⟩ := isNd_of hn
    exact ⟨(withS S i).2, Or.inr (Or.inr (Or.inl (Or.inr ⟨i, hi, Or.inr (Or.inl rfl)⟩))), lj_int hW hC hG hT (code := 0) (S' := (withS S i).2) (by unfold f_X0_withdraw; exact l_ok hW hS (x_withdraw hS hX w1 hi (hF.1 _ (Or.inr (Or.inr ⟨i, hi, Or.inr (Or.inl rfl)⟩))) hB2) (fun v h1 => rfl)) (fun h1 hE1 et => by have q := t_withdraw (kTA hW hE1) hr I hll hi; rw [et] at q; exact q.td) (fun _ _ _ q => q) (fun v h1 hE1 => by rw [sa_at hW hE1 (k := 5 * j + 1) (by omega), hp1]; rfl)⟩
  · have hn : ¬ isNd S p1 := hn
    exact ⟨g_mk S 1 6, Or.inr (Or.inl rfl), lj_int hW hC hG hT (code := 1) (S' := g_mk S 1 6) (by unfold f_X0_withdraw; exact l_er hW hS ((x_withdrawN hS hX hB6 hn).1) (by decide) (fun q h1 hq => (if_pos rfl).trans (if_pos hq))) (fun h1 hE1 et => by have q := t_withdraw1 (kTA hW hE1) hr n1 hn; rw [et] at q; exact q.td) (fun _ _ _ q => q) (fun v h1 hE1 => by rw [sa_at hW hE1 (k := 5 * j + 1) (by omega), hp1]; rfl)⟩
theorem s_11 (hW : SW E W a7 L xs) (hL : LW E BB W a7 S Z bf len le h) (hI : LI S) (hF : FT S) (hj : 5 * j + 5 ≤ L) : STEP E W a7 S Z bf len le n j (br_11 n (some (sAd E 50)) (some (W 0)) (some (AW W a7 0)) (some (W 3)) (Int32.ofNat (5 * j)) h) := by
  obtain ⟨F, Rc, T, g, fs, fo, hS, hC, hG, hT⟩ := hL
  obtain ⟨⟨LL, pp, hr⟩, hT2⟩ := id hT
  have hE := hS.base.1
  have n1 := hS.base.2.2.1
  have hX := kX (Rc := Rc) (T := T) (F := F) (len := len) (le := le) (g := g) (fs := fs) (fo := fo) hW
  have I := hI.1
  have w1 := I.w1
  have hB6 : fitB BB (g_mk S 1 6) := hF.1 _ (Or.inl rfl)
  have hx : EX E := hW.2.2.2.1.2.2.2.1
  have hlg : (s_lg S).length ≤ 200 := I.2.2.2.2.2.2.2.2.2.2
  have hll : LL.length < 12000 := by have := hF.2.2.2.2.1; rw [tr_len hr]; omega
  have hB2 : BB.2 < 2 ^ 25 := by decide
  unfold STEP br_11
  have e1 : Int32.ofNat (5 * j) + (1 : Int32) = Int32.ofNat (5 * j + 1) := of_add _ 1
  obtain ⟨p1, hp1⟩ : ∃ p1, xs (5 * j + 1) = p1 := ⟨_, rfl⟩
  rw [e1, sa_at hW hE (k := 5 * j + 1) (by omega), hp1]
  by_cases hn : isNd S p1
  · obtain ⟨i, hi, rfl⟩ := isNd_of hn
    exact ⟨(crashS S i).2, Or.inr (Or.inr (Or.inl (Or.inr ⟨i, hi, Or.inr (Or.inr (Or.inl rfl))⟩))), lj_int hW hC hG hT (code := 0) (S' := (crashS S i).2) (by unfold f_X0_crash; exact l_ok hW hS (x_crash hS hX hi (hF.1 _ (Or.inr (Or.inr ⟨i, hi, Or.inr (Or.inr (Or.inl rfl))⟩))) hB2) (fun v h1 => rfl)) (fun h1 hE1 et => by have q := t_crash (kTA hW hE1) hr I hi; rw [et] at q; exact q.td) (fun _ _ _ q => q) (fun v h1 hE1 => by rw [sa_at hW hE1 (k := 5 * j + 1) (by omega), hp1]; rfl)⟩
  · have hn : ¬ isNd S p1 := hn
    exact ⟨g_mk S 1 6, Or.inr (Or.inl rfl), lj_int hW hC hG hT (code := 1) (S' := g_mk S 1 6) (by unfold f_X0_crash; exact l_er hW hS ((x_withdrawN hS hX hB6 hn).2.2.1) (by decide) (fun q h1 hq => (if_pos rfl).trans (if_pos hq))) (fun h1 hE1 et => by have q := t_crash1 (kTA hW hE1) hr n1 hn; rw [et] at q; exact q.td) (fun _ _ _ q => q) (fun v h1 hE1 => by rw [sa_at hW hE1 (k := 5 * j + 1) (by omega), hp1]; rfl)⟩
theorem s_12 (hW : SW E W a7 L xs) (hL : LW E BB W a7 S Z bf len le h) (hI : LI S) (hF : FT S) (hj : 5 * j + 5 ≤ L) : STEP E W a7 S Z bf len le n j (br_12 n (some (sAd E 50)) (some (W 0)) (some (AW W a7 0)) (some (W 3)) (Int32.ofNat (5 * j)) h) := by
  obtain ⟨F, Rc, T, g, fs, fo, hS, hC, hG, hT⟩ := hL
  obtain ⟨⟨LL, pp, hr⟩, hT2⟩ := id hT
  have hE := hS.base.1
  have n1 := hS.base.2.2.1
  have hX := kX (Rc := Rc) (T := T) (F := F) (len := len) (le := le) (g := g) (fs := fs) (fo := fo) hW
  have I := hI.1
  have w1 := I.w1
  have hB6 : fitB BB (g_mk S 1 6) := hF.1 _ (Or.inl rfl)
  have hx : EX E := hW.2.2.2.1.2.2.2.1
  have hlg : (s_lg S).length ≤ 200 := I.2.2.2.2.2.2.2.2.2.2
  have hll : LL.length < 12000 := by have := hF.2.2.2.2.1; rw [tr_len hr]; omega
  have hB2 : BB.2 < 2 ^ 25 := by decide
  unfold STEP br_12
  have e1 : Int32.ofNat (5 * j) + (1 : Int32) = Int32.ofNat (5 * j + 1) := of_add _ 1
  obtain ⟨p1, hp1⟩ : ∃ p1, xs (5 * j + 1) = p1 := ⟨_, rfl⟩
  rw [e1, sa_at hW hE (k := 5 * j + 1) (by omega), hp1]
  by_cases hn : isNd S p1
  · obtain ⟨i, hi, rfl⟩ := isNd_of hn
    exact ⟨(restS S i).2, Or.inr (Or.inr (Or.inl (Or.inr ⟨i, hi, Or.inr (Or.inr (Or.inr (Or.inl rfl)))⟩))), lj_boo hW hC hG hT (ite01) (code := 0) (S' := (restS S i).2) (by unfold f_X0_restart; exact l_bo hW hS (ite01) (x_restart hS hX hi) (fun v h1 => rfl)) (fun h1 hE1 et => by have q := t_restart (kTA hW hE1) hr I hi; rw [et] at q; exact q.td) (fun _ _ _ q => q) (fun v h1 hE1 => by rw [sa_at hW hE1 (k := 5 * j + 1) (by omega), hp1]; rfl)⟩
  · have hn : ¬ isNd S p1 := hn
    exact ⟨g_mk S 1 6, Or.inr (Or.inl rfl), lj_boo hW hC hG hT (Or.inl rfl) (code := 1) (S' := g_mk S 1 6) (by unfold f_X0_restart; exact l_er hW hS ((x_withdrawN hS hX hB6 hn).2.2.2) (by decide) (fun q h1 hq => (if_pos rfl).trans (if_pos hq))) (fun h1 hE1 et => by have q := t_restart1 (kTA hW hE1) hr n1 hn; rw [et] at q; exact q.td) (fun _ _ _ q => q) (fun v h1 hE1 => by rw [sa_at hW hE1 (k := 5 * j + 1) (by omega), hp1]; rfl)⟩
theorem s_13 (hW : SW E W a7 L xs) (hL : LW E BB W a7 S Z bf len le h) (hI : LI S) (hF : FT S) (hj : 5 * j + 5 ≤ L) : STEP E W a7 S Z bf len le n j (br_13 n (some (sAd E 50)) (some (W 0)) (some (AW W a7 0)) (some (W 3)) (Int32.ofNat (5 * j)) h) := by
  obtain ⟨F, Rc, T, g, fs, fo, hS, hC, hG, hT⟩ := hL
  obtain ⟨⟨LL, pp, hr⟩, hT2⟩ := id hT
  have hE := hS.base.1
  have n1 := hS.base.2.2.1
  have hX := kX (Rc := Rc) (T := T) (F := F) (len := len) (le := le) (g := g) (fs := fs) (fo := fo) hW
  have I := hI.1
  have w1 := I.w1
  have hB6 : fitB BB (g_mk S 1 6) := hF.1 _ (Or.inl rfl)
  have hx : EX E := hW.2.2.2.1.2.2.2.1
  have hlg : (s_lg S).length ≤ 200 := I.2.2.2.2.2.2.2.2.2.2
  have hll : LL.length < 12000 := by have := hF.2.2.2.2.1; rw [tr_len hr]; omega
  have hB2 : BB.2 < 2 ^ 25 := by decide
  unfold STEP br_13
  have e1 : Int32.ofNat (5 * j) + (1 : Int32) = Int32.ofNat (5 * j + 1) := of_add _ 1
  have e2 : Int32.ofNat (5 * j) + (2 : Int32) = Int32.ofNat (5 * j + 2) := of_add _ 2
  obtain ⟨p1, hp1⟩ : ∃ p1, xs (5 * j + 1) = p1 := ⟨_, rfl⟩
  obtain ⟨p2, hp2⟩ : ∃ p2, xs (5 * j + 2) = p2 := ⟨_, rfl⟩
  rw [e1, sa_at hW hE (k := 5 * j + 1) (by omega), hp1]
  rw [e2, sa_at hW hE (k := 5 * j + 2) (by omega), hp2]
  by_cases hn : isNd S p1
  · obtain ⟨i, hi, rfl⟩ := isNd_of hn
    by_cases hm : iv p2 1 20000
    · have hm : iv p2 1 20000 := hm
      exact ⟨(pauS S i p2).2, Or.inr (Or.inr (Or.inl (Or.inr ⟨i, hi, Or.inr (Or.inr (Or.inr (Or.inr (Or.inl (⟨p2, hm, rfl⟩)))))⟩))), lj_int hW hC hG hT (code := 0) (S' := (pauS S i p2).2) (by unfold f_X0_pause; exact l_ok hW hS (x_pause hS hX hi hm) (fun v h1 => rfl)) (fun h1 hE1 et => by have q := (t_pause (kTA hW hE1) hr I hi).1 hm; rw [et] at q; exact q.td) (fun _ _ _ q => q) (fun v h1 hE1 => by rw [sa_at hW hE1 (k := 5 * j + 1) (by omega), hp1, sa_at hW hE1 (k := 5 * j + 2) (by omega), hp2]; rfl)⟩
    · have hm : ¬ iv p2 1 20000 := hm
      exact ⟨g_mk S 1 6, Or.inr (Or.inl rfl), lj_int hW hC hG hT (code := 2) (S' := g_mk S 1 6) (by unfold f_X0_pause; exact l_er hW hS (x_pauseP hS hX hB6 hi hm) (by decide) (fun q h1 hq => (if_neg (by decide)).trans ((if_pos rfl).trans (if_pos hq)))) (fun h1 hE1 et => by have q := (t_pause (kTA hW hE1) hr I hi).2 hm; rw [et] at q; exact q.td) (fun _ _ _ q => q) (fun v h1 hE1 => by rw [sa_at hW hE1 (k := 5 * j + 1) (by omega), hp1, sa_at hW hE1 (k := 5 * j + 2) (by omega), hp2]; rfl)⟩
  · have hn : ¬ isNd S p1 := hn
    exact ⟨g_mk S 1 6, Or.inr (Or.inl rfl), lj_int hW hC hG hT (code := 1) (S' := g_mk S 1 6) (by unfold f_X0_pause; exact l_er hW hS ((x_call2N hS hX hB6 (q := p2) (r := 0) (s := 0) hn).1) (by decide) (fun q h1 hq => (if_pos rfl).trans (if_pos hq))) (fun h1 hE1 et => by have q := t_pause1 (kTA hW hE1) hr n1 (p1 := p2) hn; rw [et] at q; exact q.td) (fun _ _ _ q => q) (fun v h1 hE1 => by rw [sa_at hW hE1 (k := 5 * j + 1) (by omega), hp1, sa_at hW hE1 (k := 5 * j + 2) (by omega), hp2]; rfl)⟩
theorem s_15 (hW : SW E W a7 L xs) (hL : LW E BB W a7 S Z bf len le h) (hI : LI S) (hF : FT S) (hj : 5 * j + 5 ≤ L) : STEP E W a7 S Z bf len le n j (br_15 n (some (sAd E 50)) (some (W 0)) (some (AW W a7 0)) (some (W 3)) (Int32.ofNat (5 * j)) h) := by
  obtain ⟨F, Rc, T, g, fs, fo, hS, hC, hG, hT⟩ := hL
  obtain ⟨⟨LL, pp, hr⟩, hT2⟩ := id hT
  have hE := hS.base.1
  have n1 := hS.base.2.2.1
  have hX := kX (Rc := Rc) (T := T) (F := F) (len := len) (le := le) (g := g) (fs := fs) (fo := fo) hW
  have I := hI.1
  have w1 := I.w1
  have hB6 : fitB BB (g_mk S 1 6) := hF.1 _ (Or.inl rfl)
  have hx : EX E := hW.2.2.2.1.2.2.2.1
  have hlg : (s_lg S).length ≤ 200 := I.2.2.2.2.2.2.2.2.2.2
  have hll : LL.length < 12000 := by have := hF.2.2.2.2.1; rw [tr_len hr]; omega
  have hB2 : BB.2 < 2 ^ 25 := by decide
  unfold STEP br_15
  have e1 : Int32.ofNat (5 * j) + (1 : Int32) = Int32.ofNat (5 * j + 1) := of_add _ 1
  have e2 : Int32.ofNat (5 * j) + (2 : Int32) = Int32.ofNat (5 * j + 2) := of_add _ 2
  have e3 : Int32.ofNat (5 * j) + (3 : Int32) = Int32.ofNat (5 * j + 3) := of_add _ 3
  obtain ⟨p1, hp1⟩ : ∃ p1, xs (5 * j + 1) = p1 := ⟨_, rfl⟩
  obtain ⟨p2, hp2⟩ : ∃ p2, xs (5 * j + 2) = p2 := ⟨_, rfl⟩
  obtain ⟨p3, hp3⟩ : ∃ p3, xs (5 * j + 3) = p3 := ⟨_, rfl⟩
  rw [e1, sa_at hW hE (k := 5 * j + 1) (by omega), hp1]
  rw [e2, sa_at hW hE (k := 5 * j + 2) (by omega), hp2]
  rw [e3, sa_at hW hE (k := 5 * j + 3) (by omega), hp3]
  by_cases hn : isNd S p1
  · obtain ⟨i, hi, rfl⟩ := isNd_of hn
    by_cases hm : iv p2 1 20000 ∧ iv p3 1 20000
    · have hm : iv p2 1 20000 ∧ iv p3 1 20000 := hm
      exact ⟨(ouS S i p2 p3).2, Or.inr (Or.inr (Or.inl (Or.inr ⟨i, hi, Or.inr (Or.inr (Or.inr (Or.inr (Or.inr (Or.inr (Or.inl (⟨p2, p3, hm.1, hm.2, rfl⟩)))))))⟩))), lj_int hW hC hG hT (code := 0) (S' := (ouS S i p2 p3).2) (by unfold f_X0_planOutage; exact l_ok hW hS (x_planOutage hS hX I.2.2.2.2.2.2.2.2.1 hi hm.1 hm.2 (hF.1 _ (Or.inr (Or.inr ⟨i, hi, Or.inr (Or.inr (Or.inr (Or.inr (Or.inr (Or.inr (Or.inl (⟨p2, p3, hm.1, hm.2, rfl⟩)))))))⟩))) hB2) (fun v h1 => rfl)) (fun h1 hE1 et => by have q := (t_planOutage (kTA hW hE1) hr I hi).1 hm; rw [et] at q; exact q.td) (fun _ _ _ q => q) (fun v h1 hE1 => by rw [sa_at hW hE1 (k := 5 * j + 1) (by omega), hp1, sa_at hW hE1 (k := 5 * j + 2) (by omega), hp2, sa_at hW hE1 (k := 5 * j + 3) (by omega), hp3]; rfl)⟩
    · have hm : ¬ (iv p2 1 20000 ∧ iv p3 1 20000) := hm
      exact ⟨g_mk S 1 6, Or.inr (Or.inl rfl), lj_int hW hC hG hT (code := 2) (S' := g_mk S 1 6) (by unfold f_X0_planOutage; exact l_er hW hS (x_planOutageP hS hX hB6 hi hm) (by decide) (fun q h1 hq => (if_neg (by decide)).trans ((if_pos rfl).trans (if_pos hq)))) (fun h1 hE1 et => by have q := (t_planOutage (kTA hW hE1) hr I hi).2 hm; rw [et] at q; exact q.td) (fun _ _ _ q => q) (fun v h1 hE1 => by rw [sa_at hW hE1 (k := 5 * j + 1) (by omega), hp1, sa_at hW hE1 (k := 5 * j + 2) (by omega), hp2, sa_at hW hE1 (k := 5 * j + 3) (by omega), hp3]; rfl)⟩
  · have hn : ¬ isNd S p1 := hn
    exact ⟨g_mk S 1 6, Or.inr (Or.inl rfl), lj_int hW hC hG hT (code := 1) (S' := g_mk S 1 6) (by unfold f_X0_planOutage; exact l_er hW hS ((x_call2N hS hX hB6 (q := p2) (r := p3) (s := 0) hn).2.2.1) (by decide) (fun q h1 hq => (if_pos rfl).trans (if_pos hq))) (fun h1 hE1 et => by have q := t_planOutage1 (kTA hW hE1) hr n1 (p1 := p2) (p2 := p3) hn; rw [et] at q; exact q.td) (fun _ _ _ q => q) (fun v h1 hE1 => by rw [sa_at hW hE1 (k := 5 * j + 1) (by omega), hp1, sa_at hW hE1 (k := 5 * j + 2) (by omega), hp2, sa_at hW hE1 (k := 5 * j + 3) (by omega), hp3]; rfl)⟩
theorem s_17 (hW : SW E W a7 L xs) (hL : LW E BB W a7 S Z bf len le h) (hI : LI S) (hF : FT S) (hj : 5 * j + 5 ≤ L) : STEP E W a7 S Z bf len le n j (br_17 n (some (sAd E 50)) (some (W 0)) (some (AW W a7 0)) (some (W 3)) (Int32.ofNat (5 * j)) h) := by
  obtain ⟨F, Rc, T, g, fs, fo, hS, hC, hG, hT⟩ := hL
  obtain ⟨⟨LL, pp, hr⟩, hT2⟩ := id hT
  have hE := hS.base.1
  have n1 := hS.base.2.2.1
  have hX := kX (Rc := Rc) (T := T) (F := F) (len := len) (le := le) (g := g) (fs := fs) (fo := fo) hW
  have I := hI.1
  have w1 := I.w1
  have hB6 : fitB BB (g_mk S 1 6) := hF.1 _ (Or.inl rfl)
  have hx : EX E := hW.2.2.2.1.2.2.2.1
  have hlg : (s_lg S).length ≤ 200 := I.2.2.2.2.2.2.2.2.2.2
  have hll : LL.length < 12000 := by have := hF.2.2.2.2.1; rw [tr_len hr]; omega
  have hB2 : BB.2 < 2 ^ 25 := by decide
  unfold STEP br_17
  have e1 : Int32.ofNat (5 * j) + (1 : Int32) = Int32.ofNat (5 * j + 1) := of_add _ 1
  have e2 : Int32.ofNat (5 * j) + (2 : Int32) = Int32.ofNat (5 * j + 2) := of_add _ 2
  have e3 : Int32.ofNat (5 * j) + (3 : Int32) = Int32.ofNat (5 * j + 3) := of_add _ 3
  obtain ⟨p1, hp1⟩ : ∃ p1, xs (5 * j + 1) = p1 := ⟨_, rfl⟩
  obtain ⟨p2, hp2⟩ : ∃ p2, xs (5 * j + 2) = p2 := ⟨_, rfl⟩
  obtain ⟨p3, hp3⟩ : ∃ p3, xs (5 * j + 3) = p3 := ⟨_, rfl⟩
  rw [e1, sa_at hW hE (k := 5 * j + 1) (by omega), hp1]
  rw [e2, sa_at hW hE (k := 5 * j + 2) (by omega), hp2]
  rw [e3, sa_at hW hE (k := 5 * j + 3) (by omega), hp3]
  by_cases hn : isNd S p1
  · obtain ⟨i, hi, rfl⟩ := isNd_of hn
    by_cases hg : iv p2 0 7
    · obtain ⟨r, hr8, rfl⟩ := regN_of hg
      by_cases hv : iv p3 0 999999
      · have hv : iv p3 0 999999 := hv
        exact ⟨(wrS S i r p3).2, Or.inr (Or.inr (Or.inl (Or.inr ⟨i, hi, Or.inr (Or.inr (Or.inr (Or.inr (Or.inr (Or.inr (Or.inr (⟨r, hr8, Or.inl ⟨p3, hv, Or.inl rfl⟩⟩)))))))⟩))), lj_int hW hC hG hT (code := 0) (S' := (wrS S i r p3).2) (by unfold f_X0_write; exact l_ok hW hS (x_write hS hX w1 hi hr8 hv (hF.1 _ (Or.inr (Or.inr ⟨i, hi, Or.inr (Or.inr (Or.inr (Or.inr (Or.inr (Or.inr (Or.inr (⟨r, hr8, Or.inl ⟨p3, hv, Or.inl rfl⟩⟩)))))))⟩))) hB2) (fun v h1 => rfl)) (fun h1 hE1 et => by have q := t_write (kTA hW hE1) hr I hll hi hr8 hv; rw [et] at q; exact q.td) (fun _ _ _ q => q) (fun v h1 hE1 => by rw [sa_at hW hE1 (k := 5 * j + 1) (by omega), hp1, sa_at hW hE1 (k := 5 * j + 2) (by omega), hp2, sa_at hW hE1 (k := 5 * j + 3) (by omega), hp3]; rfl)⟩
      · have hv : ¬ iv p3 0 999999 := hv
        exact ⟨g_mk S 1 6, Or.inr (Or.inl rfl), lj_int hW hC hG hT (code := 2) (S' := g_mk S 1 6) (by unfold f_X0_write; exact l_er hW hS (x_writeP hS hX hB6 hi hr8 hv) (by decide) (fun q h1 hq => (if_neg (by decide)).trans ((if_pos rfl).trans (if_pos hq)))) (fun h1 hE1 et => by have q := t_write2 (kTA hW hE1) hr I hi (p := Int32.ofNat r) (q := p3) (fun hb => hv hb.2); rw [et] at q; exact q.td) (fun _ _ _ q => q) (fun v h1 hE1 => by rw [sa_at hW hE1 (k := 5 * j + 1) (by omega), hp1, sa_at hW hE1 (k := 5 * j + 2) (by omega), hp2, sa_at hW hE1 (k := 5 * j + 3) (by omega), hp3]; rfl)⟩
    · have hg : ¬ iv p2 0 7 := hg
      exact ⟨g_mk S 1 6, Or.inr (Or.inl rfl), lj_int hW hC hG hT (code := 2) (S' := g_mk S 1 6) (by unfold f_X0_write; exact l_er hW hS ((x_regP hS hX hB6 (q := p3) (s := 0) hi hg).1) (by decide) (fun q h1 hq => (if_neg (by decide)).trans ((if_pos rfl).trans (if_pos hq)))) (fun h1 hE1 et => by have q := t_write2 (kTA hW hE1) hr I hi (p := p2) (q := p3) (fun hb => hg hb.1); rw [et] at q; exact q.td) (fun _ _ _ q => q) (fun v h1 hE1 => by rw [sa_at hW hE1 (k := 5 * j + 1) (by omega), hp1, sa_at hW hE1 (k := 5 * j + 2) (by omega), hp2, sa_at hW hE1 (k := 5 * j + 3) (by omega), hp3]; rfl)⟩
  · have hn : ¬ isNd S p1 := hn
    exact ⟨g_mk S 1 6, Or.inr (Or.inl rfl), lj_int hW hC hG hT (code := 1) (S' := g_mk S 1 6) (by unfold f_X0_write; exact l_er hW hS ((x_call2N hS hX hB6 (q := p2) (r := p3) (s := 0) hn).2.2.2.1) (by decide) (fun q h1 hq => (if_pos rfl).trans (if_pos hq))) (fun h1 hE1 et => by have q := t_write1 (kTA hW hE1) hr n1 (p1 := p2) (p2 := p3) hn; rw [et] at q; exact q.td) (fun _ _ _ q => q) (fun v h1 hE1 => by rw [sa_at hW hE1 (k := 5 * j + 1) (by omega), hp1, sa_at hW hE1 (k := 5 * j + 2) (by omega), hp2, sa_at hW hE1 (k := 5 * j + 3) (by omega), hp3]; rfl)⟩
theorem s_18 (hW : SW E W a7 L xs) (hL : LW E BB W a7 S Z bf len le h) (hI : LI S) (hF : FT S) (hj : 5 * j + 5 ≤ L) : STEP E W a7 S Z bf len le n j (br_18 n (some (sAd E 50)) (some (W 0)) (some (AW W a7 0)) (some (W 3)) (Int32.ofNat (5 * j)) h) := by
  obtain ⟨F, Rc, T, g, fs, fo, hS, hC, hG, hT⟩ := hL
  obtain ⟨⟨LL, pp, hr⟩, hT2⟩ := id hT
  have hE := hS.base.1
  have n1 := hS.base.2.2.1
  have hX := kX (Rc := Rc) (T := T) (F := F) (len := len) (le := le) (g := g) (fs := fs) (fo := fo) hW
  have I := hI.1
  have w1 := I.w1
  have hB6 : fitB BB (g_mk S 1 6) := hF.1 _ (Or.inl rfl)
  have hx : EX E := hW.2.2.2.1.2.2.2.1
  have hlg : (s_lg S).length ≤ 200 := I.2.2.2.2.2.2.2.2.2.2
  have hll : LL.length < 12000 := by have := hF.2.2.2.2.1; rw [tr_len hr]; omega
  have hB2 : BB.2 < 2 ^ 25 := by decide
  unfold STEP br_18
  have e1 : Int32.ofNat (5 * j) + (1 : Int32) = Int32.ofNat (5 * j + 1) := of_add _ 1
  have e2 : Int32.ofNat (5 * j) + (2 : Int32) = Int32.ofNat (5 * j + 2) := of_add _ 2
  have e3 : Int32.ofNat (5 * j) + (3 : Int32) = Int32.ofNat (5 * j + 3) := of_add _ 3
  have e4 : Int32.ofNat (5 * j) + (4 : Int32) = Int32.ofNat (5 * j + 4) := of_add _ 4
  obtain ⟨p1, hp1⟩ : ∃ p1, xs (5 * j + 1) = p1 := ⟨_, rfl⟩
  obtain ⟨p2, hp2⟩ : ∃ p2, xs (5 * j + 2) = p2 := ⟨_, rfl⟩
  obtain ⟨p3, hp3⟩ : ∃ p3, xs (5 * j + 3) = p3 := ⟨_, rfl⟩
  obtain ⟨p4, hp4⟩ : ∃ p4, xs (5 * j + 4) = p4 := ⟨_, rfl⟩
  rw [e1, sa_at hW hE (k := 5 * j + 1) (by omega), hp1]
  rw [e2, sa_at hW hE (k := 5 * j + 2) (by omega), hp2]
  rw [e3, sa_at hW hE (k := 5 * j + 3) (by omega), hp3]
  rw [e4, sa_at hW hE (k := 5 * j + 4) (by omega), hp4]
  by_cases hn : isNd S p1
  · obtain ⟨i, hi, rfl⟩ := isNd_of hn
    by_cases hg : iv p2 0 7
    · obtain ⟨r, hr8, rfl⟩ := regN_of hg
      by_cases hv : iv p3 0 999999 ∧ iv p4 1 20000
      · have hv : iv p3 0 999999 ∧ iv p4 1 20000 := hv
        exact ⟨(wlS S i r p3 p4).2, Or.inr (Or.inr (Or.inl (Or.inr ⟨i, hi, Or.inr (Or.inr (Or.inr (Or.inr (Or.inr (Or.inr (Or.inr (⟨r, hr8, Or.inl ⟨p3, hv.1, Or.inr ⟨p4, hv.2, rfl⟩⟩⟩)))))))⟩))), lj_int hW hC hG hT (code := 0) (S' := (wlS S i r p3 p4).2) (by unfold f_X0_writeLater; exact l_ok hW hS (x_writeLater hS hX w1 I.2.2.2.2.2.2.2.2.2.1 hi hr8 hv.1 hv.2 (hF.1 _ (Or.inr (Or.inr ⟨i, hi, Or.inr (Or.inr (Or.inr (Or.inr (Or.inr (Or.inr (Or.inr (⟨r, hr8, Or.inl ⟨p3, hv.1, Or.inr ⟨p4, hv.2, rfl⟩⟩⟩)))))))⟩))) hB2) (fun v h1 => rfl)) (fun h1 hE1 et => by have q := t_writeLater (kTA hW hE1) hr I hi hr8 hv.1 hv.2; rw [et] at q; exact q.td) (fun _ _ _ q => q) (fun v h1 hE1 => by rw [sa_at hW hE1 (k := 5 * j + 1) (by omega), hp1, sa_at hW hE1 (k := 5 * j + 2) (by omega), hp2, sa_at hW hE1 (k := 5 * j + 3) (by omega), hp3, sa_at hW hE1 (k := 5 * j + 4) (by omega), hp4]; rfl)⟩
      · have hv : ¬ (iv p3 0 999999 ∧ iv p4 1 20000) := hv
        exact ⟨g_mk S 1 6, Or.inr (Or.inl rfl), lj_int hW hC hG hT (code := 2) (S' := g_mk S 1 6) (by unfold f_X0_writeLater; exact l_er hW hS (x_writeLaterP hS hX hB6 hi hr8 hv) (by decide) (fun q h1 hq => (if_neg (by decide)).trans ((if_pos rfl).trans (if_pos hq)))) (fun h1 hE1 et => by have q := t_writeLater2 (kTA hW hE1) hr I hi (p := Int32.ofNat r) (q := p3) (s := p4) (fun hb => hv hb.2); rw [et] at q; exact q.td) (fun _ _ _ q => q) (fun v h1 hE1 => by rw [sa_at hW hE1 (k := 5 * j + 1) (by omega), hp1, sa_at hW hE1 (k := 5 * j + 2) (by omega), hp2, sa_at hW hE1 (k := 5 * j + 3) (by omega), hp3, sa_at hW hE1 (k := 5 * j + 4) (by omega), hp4]; rfl)⟩
    · have hg : ¬ iv p2 0 7 := hg
      exact ⟨g_mk S 1 6, Or.inr (Or.inl rfl), lj_int hW hC hG hT (code := 2) (S' := g_mk S 1 6) (by unfold f_X0_writeLater; exact l_er hW hS ((x_regP hS hX hB6 (q := p3) (s := p4) hi hg).2.1) (by decide) (fun q h1 hq => (if_neg (by decide)).trans ((if_pos rfl).trans (if_pos hq)))) (fun h1 hE1 et => by have q := t_writeLater2 (kTA hW hE1) hr I hi (p := p2) (q := p3) (s := p4) (fun hb => hg hb.1); rw [et] at q; exact q.td) (fun _ _ _ q => q) (fun v h1 hE1 => by rw [sa_at hW hE1 (k := 5 * j + 1) (by omega), hp1, sa_at hW hE1 (k := 5 * j + 2) (by omega), hp2, sa_at hW hE1 (k := 5 * j + 3) (by omega), hp3, sa_at hW hE1 (k := 5 * j + 4) (by omega), hp4]; rfl)⟩
  · have hn : ¬ isNd S p1 := hn
    exact ⟨g_mk S 1 6, Or.inr (Or.inl rfl), lj_int hW hC hG hT (code := 1) (S' := g_mk S 1 6) (by unfold f_X0_writeLater; exact l_er hW hS ((x_call2N hS hX hB6 (q := p2) (r := p3) (s := p4) hn).2.2.2.2.1) (by decide) (fun q h1 hq => (if_pos rfl).trans (if_pos hq))) (fun h1 hE1 et => by have q := t_writeLater1 (kTA hW hE1) hr n1 (p1 := p2) (p2 := p3) (p3 := p4) hn; rw [et] at q; exact q.td) (fun _ _ _ q => q) (fun v h1 hE1 => by rw [sa_at hW hE1 (k := 5 * j + 1) (by omega), hp1, sa_at hW hE1 (k := 5 * j + 2) (by omega), hp2, sa_at hW hE1 (k := 5 * j + 3) (by omega), hp3, sa_at hW hE1 (k := 5 * j + 4) (by omega), hp4]; rfl)⟩
theorem s_19 (hW : SW E W a7 L xs) (hL : LW E BB W a7 S Z bf len le h) (hI : LI S) (hF : FT S) (hj : 5 * j + 5 ≤ L) : STEP E W a7 S Z bf len le n j (br_19 n (some (sAd E 50)) (some (W 0)) (some (AW W a7 0)) (some (W 3)) (Int32.ofNat (5 * j)) h) := by
  obtain ⟨F, Rc, T, g, fs, fo, hS, hC, hG, hT⟩ := hL
  obtain ⟨⟨LL, pp, hr⟩, hT2⟩ := id hT
  have hE := hS.base.1
  have n1 := hS.base.2.2.1
  have hX := kX (Rc := Rc) (T := T) (F := F) (len := len) (le := le) (g := g) (fs := fs) (fo := fo) hW
  have I := hI.1
  have w1 := I.w1
  have hB6 : fitB BB (g_mk S 1 6) := hF.1 _ (Or.inl rfl)
  have hx : EX E := hW.2.2.2.1.2.2.2.1
  have hlg : (s_lg S).length ≤ 200 := I.2.2.2.2.2.2.2.2.2.2
  have hll : LL.length < 12000 := by have := hF.2.2.2.2.1; rw [tr_len hr]; omega
  have hB2 : BB.2 < 2 ^ 25 := by decide
  unfold STEP br_19
  have e1 : Int32.ofNat (5 * j) + (1 : Int32) = Int32.ofNat (5 * j + 1) := of_add _ 1
  have e2 : Int32.ofNat (5 * j) + (2 : Int32) = Int32.ofNat (5 * j + 2) := of_add _ 2
  obtain ⟨p1, hp1⟩ : ∃ p1, xs (5 * j + 1) = p1 := ⟨_, rfl⟩
  obtain ⟨p2, hp2⟩ : ∃ p2, xs (5 * j + 2) = p2 := ⟨_, rfl⟩
  rw [e1, sa_at hW hE (k := 5 * j + 1) (by omega), hp1]
  rw [e2, sa_at hW hE (k := 5 * j + 2) (by omega), hp2]
  by_cases hn : isNd S p1
  · obtain ⟨i, hi, rfl⟩ := isNd_of hn
    by_cases hg : iv p2 0 7
    · obtain ⟨r, hr8, rfl⟩ := regN_of hg
      exact ⟨(feS S i r).2, Or.inr (Or.inr (Or.inl (Or.inr ⟨i, hi, Or.inr (Or.inr (Or.inr (Or.inr (Or.inr (Or.inr (Or.inr (⟨r, hr8, Or.inr (Or.inl rfl)⟩)))))))⟩))), lj_int hW hC hG hT (code := 0) (S' := (feS S i r).2) (by unfold f_X0_fetch; exact l_ok hW hS (x_fetch hS hX w1 hi hr8 (hF.1 _ (Or.inr (Or.inr ⟨i, hi, Or.inr (Or.inr (Or.inr (Or.inr (Or.inr (Or.inr (Or.inr (⟨r, hr8, Or.inr (Or.inl rfl)⟩)))))))⟩))) hB2) (fun v h1 => rfl)) (fun h1 hE1 et => by have q := t_fetch (kTA hW hE1) hr I hll hi hr8; rw [et] at q; exact q.td) (fun _ _ _ q => q) (fun v h1 hE1 => by rw [sa_at hW hE1 (k := 5 * j + 1) (by omega), hp1, sa_at hW hE1 (k := 5 * j + 2) (by omega), hp2]; rfl)⟩
    · have hg : ¬ iv p2 0 7 := hg
      exact ⟨g_mk S 1 6, Or.inr (Or.inl rfl), lj_int hW hC hG hT (code := 2) (S' := g_mk S 1 6) (by unfold f_X0_fetch; exact l_er hW hS ((x_regP hS hX hB6 (q := 0) (s := 0) hi hg).2.2.1) (by decide) (fun q h1 hq => (if_neg (by decide)).trans ((if_pos rfl).trans (if_pos hq)))) (fun h1 hE1 et => by have q := t_fetch2 (kTA hW hE1) hr I hi hg; rw [et] at q; exact q.td) (fun _ _ _ q => q) (fun v h1 hE1 => by rw [sa_at hW hE1 (k := 5 * j + 1) (by omega), hp1, sa_at hW hE1 (k := 5 * j + 2) (by omega), hp2]; rfl)⟩
  · have hn : ¬ isNd S p1 := hn
    exact ⟨g_mk S 1 6, Or.inr (Or.inl rfl), lj_int hW hC hG hT (code := 1) (S' := g_mk S 1 6) (by unfold f_X0_fetch; exact l_er hW hS ((x_call2N hS hX hB6 (q := p2) (r := 0) (s := 0) hn).2.2.2.2.2.1) (by decide) (fun q h1 hq => (if_pos rfl).trans (if_pos hq))) (fun h1 hE1 et => by have q := t_fetch1 (kTA hW hE1) hr n1 (p1 := p2) hn; rw [et] at q; exact q.td) (fun _ _ _ q => q) (fun v h1 hE1 => by rw [sa_at hW hE1 (k := 5 * j + 1) (by omega), hp1, sa_at hW hE1 (k := 5 * j + 2) (by omega), hp2]; rfl)⟩
theorem s_20 (hW : SW E W a7 L xs) (hL : LW E BB W a7 S Z bf len le h) (hI : LI S) (hF : FT S) (hj : 5 * j + 5 ≤ L) : STEP E W a7 S Z bf len le n j (br_20 n (some (sAd E 50)) (some (W 0)) (some (AW W a7 0)) (some (W 3)) (Int32.ofNat (5 * j)) h) := by
  obtain ⟨F, Rc, T, g, fs, fo, hS, hC, hG, hT⟩ := hL
  obtain ⟨⟨LL, pp, hr⟩, hT2⟩ := id hT
  have hE := hS.base.1
  have n1 := hS.base.2.2.1
  have hX := kX (Rc := Rc) (T := T) (F := F) (len := len) (le := le) (g := g) (fs := fs) (fo := fo) hW
  have I := hI.1
  have w1 := I.w1
  have hB6 : fitB BB (g_mk S 1 6) := hF.1 _ (Or.inl rfl)
  have hx : EX E := hW.2.2.2.1.2.2.2.1
  have hlg : (s_lg S).length ≤ 200 := I.2.2.2.2.2.2.2.2.2.2
  have hll : LL.length < 12000 := by have := hF.2.2.2.2.1; rw [tr_len hr]; omega
  have hB2 : BB.2 < 2 ^ 25 := by decide
  unfold STEP br_20
  have e1 : Int32.ofNat (5 * j) + (1 : Int32) = Int32.ofNat (5 * j + 1) := of_add _ 1
  have e2 : Int32.ofNat (5 * j) + (2 : Int32) = Int32.ofNat (5 * j + 2) := of_add _ 2
  obtain ⟨p1, hp1⟩ : ∃ p1, xs (5 * j + 1) = p1 := ⟨_, rfl⟩
  obtain ⟨p2, hp2⟩ : ∃ p2, xs (5 * j + 2) = p2 := ⟨_, rfl⟩
  rw [e1, sa_at hW hE (k := 5 * j + 1) (by omega), hp1]
  rw [e2, sa_at hW hE (k := 5 * j + 2) (by omega), hp2]
  by_cases hn : isNd S p1
  · obtain ⟨i, hi, rfl⟩ := isNd_of hn
    by_cases hg : iv p2 0 7
    · obtain ⟨r, hr8, rfl⟩ := regN_of hg
      exact ⟨(rdS S i r).2, Or.inr (Or.inr (Or.inl (Or.inr ⟨i, hi, Or.inr (Or.inr (Or.inr (Or.inr (Or.inr (Or.inr (Or.inr (⟨r, hr8, Or.inr (Or.inr rfl)⟩)))))))⟩))), lj_int hW hC hG hT (code := 0) (S' := (rdS S i r).2) (by unfold f_X0_read; exact l_ok hW hS (x_read hS hX w1 hi hr8) (fun v h1 => rfl)) (fun h1 hE1 et => by have q := t_read (kTA hW hE1) rfl hr I hi hr8; rw [et] at q; exact q.td) (fun _ _ _ q => q) (fun v h1 hE1 => by rw [sa_at hW hE1 (k := 5 * j + 1) (by omega), hp1, sa_at hW hE1 (k := 5 * j + 2) (by omega), hp2]; rfl)⟩
    · have hg : ¬ iv p2 0 7 := hg
      exact ⟨g_mk S 1 6, Or.inr (Or.inl rfl), lj_int hW hC hG hT (code := 2) (S' := g_mk S 1 6) (by unfold f_X0_read; exact l_er hW hS ((x_regP hS hX hB6 (q := 0) (s := 0) hi hg).2.2.2) (by decide) (fun q h1 hq => (if_neg (by decide)).trans ((if_pos rfl).trans (if_pos hq)))) (fun h1 hE1 et => by have q := t_read2 (kTA hW hE1) hr I hi hg; rw [et] at q; exact q.td) (fun _ _ _ q => q) (fun v h1 hE1 => by rw [sa_at hW hE1 (k := 5 * j + 1) (by omega), hp1, sa_at hW hE1 (k := 5 * j + 2) (by omega), hp2]; rfl)⟩
  · have hn : ¬ isNd S p1 := hn
    exact ⟨g_mk S 1 6, Or.inr (Or.inl rfl), lj_int hW hC hG hT (code := 1) (S' := g_mk S 1 6) (by unfold f_X0_read; exact l_er hW hS ((x_call2N hS hX hB6 (q := p2) (r := 0) (s := 0) hn).2.2.2.2.2.2) (by decide) (fun q h1 hq => (if_pos rfl).trans (if_pos hq))) (fun h1 hE1 et => by have q := t_read1 (kTA hW hE1) hr n1 (p1 := p2) hn; rw [et] at q; exact q.td) (fun _ _ _ q => q) (fun v h1 hE1 => by rw [sa_at hW hE1 (k := 5 * j + 1) (by omega), hp1, sa_at hW hE1 (k := 5 * j + 2) (by omega), hp2]; rfl)⟩
theorem s_16 (hW : SW E W a7 L xs) (hL : LW E BB W a7 S Z bf len le h) (hI : LI S) (hF : FT S) (hj : 5 * j + 5 ≤ L) : STEP E W a7 S Z bf len le n j (br_16 n (some (sAd E 50)) (some (W 0)) (some (AW W a7 0)) (some (W 3)) (Int32.ofNat (5 * j)) h) := by
  obtain ⟨F, Rc, T, g, fs, fo, hS, hC, hG, hT⟩ := hL
  obtain ⟨⟨LL, pp, hr⟩, hT2⟩ := id hT
  have hE := hS.base.1
  have n1 := hS.base.2.2.1
  have hX := kX (Rc := Rc) (T := T) (F := F) (len := len) (le := le) (g := g) (fs := fs) (fo := fo) hW
  have I := hI.1
  have w1 := I.w1
  have hB6 : fitB BB (g_mk S 1 6) := hF.1 _ (Or.inl rfl)
  have hx : EX E := hW.2.2.2.1.2.2.2.1
  have hlg : (s_lg S).length ≤ 200 := I.2.2.2.2.2.2.2.2.2.2
  have hll : LL.length < 12000 := by have := hF.2.2.2.2.1; rw [tr_len hr]; omega
  have hB2 : BB.2 < 2 ^ 25 := by decide
  unfold STEP br_16
  rw [rv_at (hS.tr hX).1]
  exact ⟨(rsvS S).2, Or.inr (Or.inr (Or.inl (Or.inl rfl))), lj_sim hW hC hG hT (x_restartServer hS hX (hF.1 _ (Or.inr (Or.inl rfl))) hB2) (fun h1 hE1 et => by have q := t_restartServer (kTA hW hE1) hr; rw [et] at q; exact q.td) (fun _ _ _ q => q) (fun v h1 hE1 => rfl)⟩
end G6
