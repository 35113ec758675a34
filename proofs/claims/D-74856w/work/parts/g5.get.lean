/-! THE LAW: calls that only tell (printed by gen/mkg5.py) -/
set_option maxRecDepth 100000
/-- a call of both is over: on to the next -/
def STEP (E : PE) (W : Nat → Nat) (a7 : Nat) (S : SS) (Z : Nat → Option SS) (bf : Nat → Nat) (len : Nat) (le : Int32) (n j : Nat) (o : Option (Int32 × PH)) : Prop := ∃ S' : SS, NXS S S' ∧ ∃ h' : PH, o = f_L_law_L23 n (some (sAd E 50)) (some (W 0)) (some (AW W a7 0)) (some (W 3)) (Int32.ofNat (5 * j) + (5 : Int32)) h' ∧ LW E BB W a7 S' Z bf len le h' ∧ h'.2.1 = E
section G5
variable {E : PE} {W : Nat → Nat} {a7 L len : Nat} {xs : Nat → Int32} {S : SS} {Z : Nat → Option SS} {bf : Nat → Nat} {le : Int32} {h : PH} {n j : Nat}
theorem s_5 (hW : SW E W a7 L xs) (hL : LW E BB W a7 S Z bf len le h) (hI : LI S) (hF : FT S) (hj : 5 * j + 5 ≤ L) : STEP E W a7 S Z bf len le n j (br_5 n (some (sAd E 50)) (some (W 0)) (some (AW W a7 0)) (some (W 3)) (Int32.ofNat (5 * j)) h) := by
  obtain ⟨F, Rc, T, g, fs, fo, hS, hC, hG, hT⟩ := hL
  obtain ⟨⟨LL, pp, hr⟩, hT2⟩ := id hT
  have hE := hS.base.1
  have n1 := hS.base.2.2.1
  have hX := kX (Rc := Rc) (T := T) (F := F) (len := len) (le := le) (g := g) (fs := fs) (fo := fo) hW
  have I := hI.1
  have w1 := I.w1
  have hB6 : fitB BB (g_mk S 1 6) := hF.1 _ (Or.inl rfl)
  have hx : EX E := hW.2.2.2.1.2.2.2.1
  have hlg : (s_lg S).length ≤ 200 := I.2.2.2.2.2.2.2.2.2.2
  have hll : LL.length < 12000 := by have := hF.2.2.2.2.1; rw [tr_len hr]; omega
  have hB2 : BB.2 < 2 ^ 25 := by decide
  unfold STEP br_5
  rw [rv_at (hS.tr hX).1]
  exact ⟨S, Or.inl rfl, lj_sim hW hC hG hT (okk_e (x_now hS hX) ⟨rfl, hS⟩) (fun h1 hE1 et => by have q := t_nowG (kTA hW hE1) hr; rw [et] at q; exact q.td) (fun _ _ _ q => q) (fun v h1 hE1 => rfl)⟩
theorem s_6 (hW : SW E W a7 L xs) (hL : LW E BB W a7 S Z bf len le h) (hI : LI S) (hF : FT S) (hj : 5 * j + 5 ≤ L) : STEP E W a7 S Z bf len le n j (br_6 n (some (sAd E 50)) (some (W 0)) (some (AW W a7 0)) (some (W 3)) (Int32.ofNat (5 * j)) h) := by
  obtain ⟨F, Rc, T, g, fs, fo, hS, hC, hG, hT⟩ := hL
  obtain ⟨⟨LL, pp, hr⟩, hT2⟩ := id hT
  have hE := hS.base.1
  have n1 := hS.base.2.2.1
  have hX := kX (Rc := Rc) (T := T) (F := F) (len := len) (le := le) (g := g) (fs := fs) (fo := fo) hW
  have I := hI.1
  have w1 := I.w1
  have hB6 : fitB BB (g_mk S 1 6) := hF.1 _ (Or.inl rfl)
  have hx : EX E := hW.2.2.2.1.2.2.2.1
  have hlg : (s_lg S).length ≤ 200 := I.2.2.2.2.2.2.2.2.2.2
  have hll : LL.length < 12000 := by have := hF.2.2.2.2.1; rw [tr_len hr]; omega
  have hB2 : BB.2 < 2 ^ 25 := by decide
  unfold STEP br_6
  rw [rv_at (hS.tr hX).1]
  exact ⟨S, Or.inl rfl, lj_sim hW hC hG hT (okk_e (x_nodeCount hS hX) ⟨rfl, hS⟩) (fun h1 hE1 et => by have q := t_ncG (kTA hW hE1) hr; rw [et] at q; exact q.td) (fun _ _ _ q => q) (fun v h1 hE1 => rfl)⟩
theorem s_8 (hW : SW E W a7 L xs) (hL : LW E BB W a7 S Z bf len le h) (hI : LI S) (hF : FT S) (hj : 5 * j + 5 ≤ L) : STEP E W a7 S Z bf len le n j (br_8 n (some (sAd E 50)) (some (W 0)) (some (AW W a7 0)) (some (W 3)) (Int32.ofNat (5 * j)) h) := by
  obtain ⟨F, Rc, T, g, fs, fo, hS, hC, hG, hT⟩ := hL
  obtain ⟨⟨LL, pp, hr⟩, hT2⟩ := id hT
  have hE := hS.base.1
  have n1 := hS.base.2.2.1
  have hX := kX (Rc := Rc) (T := T) (F := F) (len := len) (le := le) (g := g) (fs := fs) (fo := fo) hW
  have I := hI.1
  have w1 := I.w1
  have hB6 : fitB BB (g_mk S 1 6) := hF.1 _ (Or.inl rfl)
  have hx : EX E := hW.2.2.2.1.2.2.2.1
  have hlg : (s_lg S).length ≤ 200 := I.2.2.2.2.2.2.2.2.2.2
  have hll : LL.length < 12000 := by have := hF.2.2.2.2.1; rw [tr_len hr]; omega
  have hB2 : BB.2 < 2 ^ 25 := by decide
  unfold STEP br_8
  rw [rv_at (hS.tr hX).1]
  exact ⟨S, Or.inl rfl, lj_sim hW hC hG hT (okk_e (x_serverClock hS hX) ⟨rfl, hS⟩) (fun h1 hE1 et => by have q := t_serverClock (kTA hW hE1) hr; rw [et] at q; exact q.td) (fun _ _ _ q => q) (fun v h1 hE1 => rfl)⟩
theorem s_23 (hW : SW E W a7 L xs) (hL : LW E BB W a7 S Z bf len le h) (hI : LI S) (hF : FT S) (hj : 5 * j + 5 ≤ L) : STEP E W a7 S Z bf len le n j (br_23 n (some (sAd E 50)) (some (W 0)) (some (AW W a7 0)) (some (W 3)) (Int32.ofNat (5 * j)) h) := by
  obtain ⟨F, Rc, T, g, fs, fo, hS, hC, hG, hT⟩ := hL
  obtain ⟨⟨LL, pp, hr⟩, hT2⟩ := id hT
  have hE := hS.base.1
  have n1 := hS.base.2.2.1
  have hX := kX (Rc := Rc) (T := T) (F := F) (len := len) (le := le) (g := g) (fs := fs) (fo := fo) hW
  have I := hI.1
  have w1 := I.w1
  have hB6 : fitB BB (g_mk S 1 6) := hF.1 _ (Or.inl rfl)
  have hx : EX E := hW.2.2.2.1.2.2.2.1
  have hlg : (s_lg S).length ≤ 200 := I.2.2.2.2.2.2.2.2.2.2
  have hll : LL.length < 12000 := by have := hF.2.2.2.2.1; rw [tr_len hr]; omega
  have hB2 : BB.2 < 2 ^ 25 := by decide
  unfold STEP br_23
  rw [rv_at (hS.tr hX).1]
  exact ⟨S, Or.inl rfl, lj_sim hW hC hG hT (okk_e (x_storageToken hS hX) ⟨rfl, hS⟩) (fun h1 hE1 et => by have q := t_ownG (kTA hW hE1) hr (x := (14 : Int32)) (i := 14) (v := s_sc S 30) rfl (by decide) (hr.1.1.2.2.2.2.2.2.2.2.2.2.2.2.2.2.1); rw [et] at q; exact q.td) (fun _ _ _ q => q) (fun v h1 hE1 => rfl)⟩
theorem s_24 (hW : SW E W a7 L xs) (hL : LW E BB W a7 S Z bf len le h) (hI : LI S) (hF : FT S) (hj : 5 * j + 5 ≤ L) : STEP E W a7 S Z bf len le n j (br_24 n (some (sAd E 50)) (some (W 0)) (some (AW W a7 0)) (some (W 3)) (Int32.ofNat (5 * j)) h) := by
  obtain ⟨F, Rc, T, g, fs, fo, hS, hC, hG, hT⟩ := hL
  obtain ⟨⟨LL, pp, hr⟩, hT2⟩ := id hT
  have hE := hS.base.1
  have n1 := hS.base.2.2.1
  have hX := kX (Rc := Rc) (T := T) (F := F) (len := len) (le := le) (g := g) (fs := fs) (fo := fo) hW
  have I := hI.1
  have w1 := I.w1
  have hB6 : fitB BB (g_mk S 1 6) := hF.1 _ (Or.inl rfl)
  have hx : EX E := hW.2.2.2.1.2.2.2.1
  have hlg : (s_lg S).length ≤ 200 := I.2.2.2.2.2.2.2.2.2.2
  have hll : LL.length < 12000 := by have := hF.2.2.2.2.1; rw [tr_len hr]; omega
  have hB2 : BB.2 < 2 ^ 25 := by decide
  unfold STEP br_24
  rw [rv_at (hS.tr hX).1]
  exact ⟨S, Or.inl rfl, lj_sim hW hC hG hT (okk_e (x_holder hS hX) ⟨rfl, hS⟩) (fun h1 hE1 et => by have q := t_ownG (kTA hW hE1) hr (x := (10 : Int32)) (i := 10) (v := s_sc S 12) rfl (by decide) (hr.1.1.2.2.2.2.2.2.2.2.2.2.1); rw [et] at q; exact q.td) (fun _ _ _ q => q) (fun v h1 hE1 => rfl)⟩
theorem s_25 (hW : SW E W a7 L xs) (hL : LW E BB W a7 S Z bf len le h) (hI : LI S) (hF : FT S) (hj : 5 * j + 5 ≤ L) : STEP E W a7 S Z bf len le n j (br_25 n (some (sAd E 50)) (some (W 0)) (some (AW W a7 0)) (some (W 3)) (Int32.ofNat (5 * j)) h) := by
  obtain ⟨F, Rc, T, g, fs, fo, hS, hC, hG, hT⟩ := hL
  obtain ⟨⟨LL, pp, hr⟩, hT2⟩ := id hT
  have hE := hS.base.1
  have n1 := hS.base.2.2.1
  have hX := kX (Rc := Rc) (T := T) (F := F) (len := len) (le := le) (g := g) (fs := fs) (fo := fo) hW
  have I := hI.1
  have w1 := I.w1
  have hB6 : fitB BB (g_mk S 1 6) := hF.1 _ (Or.inl rfl)
  have hx : EX E := hW.2.2.2.1.2.2.2.1
  have hlg : (s_lg S).length ≤ 200 := I.2.2.2.2.2.2.2.2.2.2
  have hll : LL.length < 12000 := by have := hF.2.2.2.2.1; rw [tr_len hr]; omega
  have hB2 : BB.2 < 2 ^ 25 := by decide
  unfold STEP br_25
  rw [rv_at (hS.tr hX).1]
  exact ⟨S, Or.inl rfl, lj_sim hW hC hG hT (okk_e (x_greatestToken hS hX) ⟨rfl, hS⟩) (fun h1 hE1 et => by have q := t_ownG (kTA hW hE1) hr (x := (12 : Int32)) (i := 12) (v := s_sc S 14) rfl (by decide) (hr.1.1.2.2.2.2.2.2.2.2.2.2.2.2.1); rw [et] at q; exact q.td) (fun _ _ _ q => q) (fun v h1 hE1 => rfl)⟩
theorem s_26 (hW : SW E W a7 L xs) (hL : LW E BB W a7 S Z bf len le h) (hI : LI S) (hF : FT S) (hj : 5 * j + 5 ≤ L) : STEP E W a7 S Z bf len le n j (br_26 n (some (sAd E 50)) (some (W 0)) (some (AW W a7 0)) (some (W 3)) (Int32.ofNat (5 * j)) h) := by
  obtain ⟨F, Rc, T, g, fs, fo, hS, hC, hG, hT⟩ := hL
  obtain ⟨⟨LL, pp, hr⟩, hT2⟩ := id hT
  have hE := hS.base.1
  have n1 := hS.base.2.2.1
  have hX := kX (Rc := Rc) (T := T) (F := F) (len := len) (le := le) (g := g) (fs := fs) (fo := fo) hW
  have I := hI.1
  have w1 := I.w1
  have hB6 : fitB BB (g_mk S 1 6) := hF.1 _ (Or.inl rfl)
  have hx : EX E := hW.2.2.2.1.2.2.2.1
  have hlg : (s_lg S).length ≤ 200 := I.2.2.2.2.2.2.2.2.2.2
  have hll : LL.length < 12000 := by have := hF.2.2.2.2.1; rw [tr_len hr]; omega
  have hB2 : BB.2 < 2 ^ 25 := by decide
  unfold STEP br_26
  rw [rv_at (hS.tr hX).1]
  exact ⟨S, Or.inl rfl, lj_sim hW hC hG hT (okk_e (x_serverExpiryTime hS hX (cf0_ne I)) ⟨rfl, hS⟩) (fun h1 hE1 et => by have q := t_serverExpiryTime (kTA hW hE1) hr I; rw [et] at q; exact q.td) (fun _ _ _ q => q) (fun v h1 hE1 => rfl)⟩
theorem s_27 (hW : SW E W a7 L xs) (hL : LW E BB W a7 S Z bf len le h) (hI : LI S) (hF : FT S) (hj : 5 * j + 5 ≤ L) : STEP E W a7 S Z bf len le n j (br_27 n (some (sAd E 50)) (some (W 0)) (some (AW W a7 0)) (some (W 3)) (Int32.ofNat (5 * j)) h) := by
  obtain ⟨F, Rc, T, g, fs, fo, hS, hC, hG, hT⟩ := hL
  obtain ⟨⟨LL, pp, hr⟩, hT2⟩ := id hT
  have hE := hS.base.1
  have n1 := hS.base.2.2.1
  have hX := kX (Rc := Rc) (T := T) (F := F) (len := len) (le := le) (g := g) (fs := fs) (fo := fo) hW
  have I := hI.1
  have w1 := I.w1
  have hB6 : fitB BB (g_mk S 1 6) := hF.1 _ (Or.inl rfl)
  have hx : EX E := hW.2.2.2.1.2.2.2.1
  have hlg : (s_lg S).length ≤ 200 := I.2.2.2.2.2.2.2.2.2.2
  have hll : LL.length < 12000 := by have := hF.2.2.2.2.1; rw [tr_len hr]; omega
  have hB2 : BB.2 < 2 ^ 25 := by decide
  unfold STEP br_27
  rw [rv_at (hS.tr hX).1]
  exact ⟨S, Or.inl rfl, lj_sim hW hC hG hT (okk_e (x_graceLeft hS hX) ⟨rfl, hS⟩) (fun h1 hE1 et => by have q := t_graceLeft (kTA hW hE1) hr; rw [et] at q; exact q.td) (fun _ _ _ q => q) (fun v h1 hE1 => rfl)⟩
theorem s_29 (hW : SW E W a7 L xs) (hL : LW E BB W a7 S Z bf len le h) (hI : LI S) (hF : FT S) (hj : 5 * j + 5 ≤ L) : STEP E W a7 S Z bf len le n j (br_29 n (some (sAd E 50)) (some (W 0)) (some (AW W a7 0)) (some (W 3)) (Int32.ofNat (5 * j)) h) := by
  obtain ⟨F, Rc, T, g, fs, fo, hS, hC, hG, hT⟩ := hL
  obtain ⟨⟨LL, pp, hr⟩, hT2⟩ := id hT
  have hE := hS.base.1
  have n1 := hS.base.2.2.1
  have hX := kX (Rc := Rc) (T := T) (F := F) (len := len) (le := le) (g := g) (fs := fs) (fo := fo) hW
  have I := hI.1
  have w1 := I.w1
  have hB6 : fitB BB (g_mk S 1 6) := hF.1 _ (Or.inl rfl)
  have hx : EX E := hW.2.2.2.1.2.2.2.1
  have hlg : (s_lg S).length ≤ 200 := I.2.2.2.2.2.2.2.2.2.2
  have hll : LL.length < 12000 := by have := hF.2.2.2.2.1; rw [tr_len hr]; omega
  have hB2 : BB.2 < 2 ^ 25 := by decide
  unfold STEP br_29
  rw [rv_at (hS.tr hX).1]
  exact ⟨S, Or.inl rfl, lj_sim hW hC hG hT (okk_e (x_leaders hS hX w1) ⟨rfl, hS⟩) (fun h1 hE1 et => by have q := t_leaders (kTA hW hE1) hr I; rw [et] at q; exact q.td) (fun _ _ _ q => q) (fun v h1 hE1 => rfl)⟩
theorem s_36 (hW : SW E W a7 L xs) (hL : LW E BB W a7 S Z bf len le h) (hI : LI S) (hF : FT S) (hj : 5 * j + 5 ≤ L) : STEP E W a7 S Z bf len le n j (br_36 n (some (sAd E 50)) (some (W 0)) (some (AW W a7 0)) (some (W 3)) (Int32.ofNat (5 * j)) h) := by
  obtain ⟨F, Rc, T, g, fs, fo, hS, hC, hG, hT⟩ := hL
  obtain ⟨⟨LL, pp, hr⟩, hT2⟩ := id hT
  have hE := hS.base.1
  have n1 := hS.base.2.2.1
  have hX := kX (Rc := Rc) (T := T) (F := F) (len := len) (le := le) (g := g) (fs := fs) (fo := fo) hW
  have I := hI.1
  have w1 := I.w1
  have hB6 : fitB BB (g_mk S 1 6) := hF.1 _ (Or.inl rfl)
  have hx : EX E := hW.2.2.2.1.2.2.2.1
  have hlg : (s_lg S).length ≤ 200 := I.2.2.2.2.2.2.2.2.2.2
  have hll : LL.length < 12000 := by have := hF.2.2.2.2.1; rw [tr_len hr]; omega
  have hB2 : BB.2 < 2 ^ 25 := by decide
  unfold STEP br_36
  rw [rv_at (hS.tr hX).1]
  exact ⟨S, Or.inl rfl, lj_sim hW hC hG hT (okk_e (x_messagesOnWay hS hX) ⟨rfl, hS⟩) (fun h1 hE1 et => by have q := t_ownG (kTA hW hE1) hr (x := (20 : Int32)) (i := 20) (v := Int32.ofNat (s_ms S).length) rfl (by decide) (t_msgG hr); rw [et] at q; exact q.td) (fun _ _ _ q => q) (fun v h1 hE1 => rfl)⟩
theorem s_37 (hW : SW E W a7 L xs) (hL : LW E BB W a7 S Z bf len le h) (hI : LI S) (hF : FT S) (hj : 5 * j + 5 ≤ L) : STEP E W a7 S Z bf len le n j (br_37 n (some (sAd E 50)) (some (W 0)) (some (AW W a7 0)) (some (W 3)) (Int32.ofNat (5 * j)) h) := by
  obtain ⟨F, Rc, T, g, fs, fo, hS, hC, hG, hT⟩ := hL
  obtain ⟨⟨LL, pp, hr⟩, hT2⟩ := id hT
  have hE := hS.base.1
  have n1 := hS.base.2.2.1
  have hX := kX (Rc := Rc) (T := T) (F := F) (len := len) (le := le) (g := g) (fs := fs) (fo := fo) hW
  have I := hI.1
  have w1 := I.w1
  have hB6 : fitB BB (g_mk S 1 6) := hF.1 _ (Or.inl rfl)
  have hx : EX E := hW.2.2.2.1.2.2.2.1
  have hlg : (s_lg S).length ≤ 200 := I.2.2.2.2.2.2.2.2.2.2
  have hll : LL.length < 12000 := by have := hF.2.2.2.2.1; rw [tr_len hr]; omega
  have hB2 : BB.2 < 2 ^ 25 := by decide
  unfold STEP br_37
  rw [rv_at (hS.tr hX).1]
  exact ⟨S, Or.inl rfl, lj_sim hW hC hG hT (okk_e (x_delayedWrites hS hX) ⟨rfl, hS⟩) (fun h1 hE1 et => by have q := t_ownG (kTA hW hE1) hr (x := (21 : Int32)) (i := 21) (v := Int32.ofNat (s_dl S).length) rfl (by decide) (hr.1.1.2.2.2.2.2.2.2.2.2.2.2.2.2.2.2.2.2.2.2.1); rw [et] at q; exact q.td) (fun _ _ _ q => q) (fun v h1 hE1 => rfl)⟩
theorem s_38 (hW : SW E W a7 L xs) (hL : LW E BB W a7 S Z bf len le h) (hI : LI S) (hF : FT S) (hj : 5 * j + 5 ≤ L) : STEP E W a7 S Z bf len le n j (br_38 n (some (sAd E 50)) (some (W 0)) (some (AW W a7 0)) (some (W 3)) (Int32.ofNat (5 * j)) h) := by
  obtain ⟨F, Rc, T, g, fs, fo, hS, hC, hG, hT⟩ := hL
  obtain ⟨⟨LL, pp, hr⟩, hT2⟩ := id hT
  have hE := hS.base.1
  have n1 := hS.base.2.2.1
  have hX := kX (Rc := Rc) (T := T) (F := F) (len := len) (le := le) (g := g) (fs := fs) (fo := fo) hW
  have I := hI.1
  have w1 := I.w1
  have hB6 : fitB BB (g_mk S 1 6) := hF.1 _ (Or.inl rfl)
  have hx : EX E := hW.2.2.2.1.2.2.2.1
  have hlg : (s_lg S).length ≤ 200 := I.2.2.2.2.2.2.2.2.2.2
  have hll : LL.length < 12000 := by have := hF.2.2.2.2.1; rw [tr_len hr]; omega
  have hB2 : BB.2 < 2 ^ 25 := by decide
  unfold STEP br_38
  rw [rv_at (hS.tr hX).1]
  exact ⟨S, Or.inl rfl, lj_sim hW hC hG hT (okk_e (x_messagesLost hS hX) ⟨rfl, hS⟩) (fun h1 hE1 et => by have q := t_ownG (kTA hW hE1) hr (x := (16 : Int32)) (i := 16) (v := s_sc S 11) rfl (by decide) (hr.1.1.2.2.2.2.2.2.2.2.2.2.2.2.2.2.2.1); rw [et] at q; exact q.td) (fun _ _ _ q => q) (fun v h1 hE1 => rfl)⟩
theorem s_39 (hW : SW E W a7 L xs) (hL : LW E BB W a7 S Z bf len le h) (hI : LI S) (hF : FT S) (hj : 5 * j + 5 ≤ L) : STEP E W a7 S Z bf len le n j (br_39 n (some (sAd E 50)) (some (W 0)) (some (AW W a7 0)) (some (W 3)) (Int32.ofNat (5 * j)) h) := by
  obtain ⟨F, Rc, T, g, fs, fo, hS, hC, hG, hT⟩ := hL
  obtain ⟨⟨LL, pp, hr⟩, hT2⟩ := id hT
  have hE := hS.base.1
  have n1 := hS.base.2.2.1
  have hX := kX (Rc := Rc) (T := T) (F := F) (len := len) (le := le) (g := g) (fs := fs) (fo := fo) hW
  have I := hI.1
  have w1 := I.w1
  have hB6 : fitB BB (g_mk S 1 6) := hF.1 _ (Or.inl rfl)
  have hx : EX E := hW.2.2.2.1.2.2.2.1
  have hlg : (s_lg S).length ≤ 200 := I.2.2.2.2.2.2.2.2.2.2
  have hll : LL.length < 12000 := by have := hF.2.2.2.2.1; rw [tr_len hr]; omega
  have hB2 : BB.2 < 2 ^ 25 := by decide
  unfold STEP br_39
  rw [rv_at (hS.tr hX).1]
  exact ⟨S, Or.inl rfl, lj_sim hW hC hG hT (okk_e (x_logSize hS hX) ⟨rfl, hS⟩) (fun h1 hE1 et => by have q := t_ownG (kTA hW hE1) hr (x := (22 : Int32)) (i := 22) (v := Int32.ofNat (s_lg S).length) rfl (by decide) (hr.1.1.2.2.2.2.2.2.2.2.2.2.2.2.2.2.2.2.2.2.2.2.1); rw [et] at q; exact q.td) (fun _ _ _ q => q) (fun v h1 hE1 => rfl)⟩
theorem s_45 (hW : SW E W a7 L xs) (hL : LW E BB W a7 S Z bf len le h) (hI : LI S) (hF : FT S) (hj : 5 * j + 5 ≤ L) : STEP E W a7 S Z bf len le n j (br_45 n (some (sAd E 50)) (some (W 0)) (some (AW W a7 0)) (some (W 3)) (Int32.ofNat (5 * j)) h) := by
  obtain ⟨F, Rc, T, g, fs, fo, hS, hC, hG, hT⟩ := hL
  obtain ⟨⟨LL, pp, hr⟩, hT2⟩ := id hT
  have hE := hS.base.1
  have n1 := hS.base.2.2.1
  have hX := kX (Rc := Rc) (T := T) (F := F) (len := len) (le := le) (g := g) (fs := fs) (fo := fo) hW
  have I := hI.1
  have w1 := I.w1
  have hB6 : fitB BB (g_mk S 1 6) := hF.1 _ (Or.inl rfl)
  have hx : EX E := hW.2.2.2.1.2.2.2.1
  have hlg : (s_lg S).length ≤ 200 := I.2.2.2.2.2.2.2.2.2.2
  have hll : LL.length < 12000 := by have := hF.2.2.2.2.1; rw [tr_len hr]; omega
  have hB2 : BB.2 < 2 ^ 25 := by decide
  unfold STEP br_45
  rw [rv_at (hS.tr hX).1]
  exact ⟨S, Or.inl rfl, lj_sim hW hC hG hT (okk_e (x_splitTime hS hX) ⟨rfl, hS⟩) (fun h1 hE1 et => by have q := t_ownG (kTA hW hE1) hr (x := (17 : Int32)) (i := 17) (v := s_sc S 16) rfl (by decide) (hr.1.1.2.2.2.2.2.2.2.2.2.2.2.2.2.2.2.2.1); rw [et] at q; exact q.td) (fun _ _ _ q => q) (fun v h1 hE1 => rfl)⟩
theorem s_46 (hW : SW E W a7 L xs) (hL : LW E BB W a7 S Z bf len le h) (hI : LI S) (hF : FT S) (hj : 5 * j + 5 ≤ L) : STEP E W a7 S Z bf len le n j (br_46 n (some (sAd E 50)) (some (W 0)) (some (AW W a7 0)) (some (W 3)) (Int32.ofNat (5 * j)) h) := by
  obtain ⟨F, Rc, T, g, fs, fo, hS, hC, hG, hT⟩ := hL
  obtain ⟨⟨LL, pp, hr⟩, hT2⟩ := id hT
  have hE := hS.base.1
  have n1 := hS.base.2.2.1
  have hX := kX (Rc := Rc) (T := T) (F := F) (len := len) (le := le) (g := g) (fs := fs) (fo := fo) hW
  have I := hI.1
  have w1 := I.w1
  have hB6 : fitB BB (g_mk S 1 6) := hF.1 _ (Or.inl rfl)
  have hx : EX E := hW.2.2.2.1.2.2.2.1
  have hlg : (s_lg S).length ≤ 200 := I.2.2.2.2.2.2.2.2.2.2
  have hll : LL.length < 12000 := by have := hF.2.2.2.2.1; rw [tr_len hr]; omega
  have hB2 : BB.2 < 2 ^ 25 := by decide
  unfold STEP br_46
  rw [rv_at (hS.tr hX).1]
  exact ⟨S, Or.inl rfl, lj_sim hW hC hG hT (okk_e (x_reads hS hX) ⟨rfl, hS⟩) (fun h1 hE1 et => by have q := t_ownG (kTA hW hE1) hr (x := (18 : Int32)) (i := 18) (v := s_sc S 18) rfl (by decide) (hr.1.1.2.2.2.2.2.2.2.2.2.2.2.2.2.2.2.2.2.1); rw [et] at q; exact q.td) (fun _ _ _ q => q) (fun v h1 hE1 => rfl)⟩
theorem s_47 (hW : SW E W a7 L xs) (hL : LW E BB W a7 S Z bf len le h) (hI : LI S) (hF : FT S) (hj : 5 * j + 5 ≤ L) : STEP E W a7 S Z bf len le n j (br_47 n (some (sAd E 50)) (some (W 0)) (some (AW W a7 0)) (some (W 3)) (Int32.ofNat (5 * j)) h) := by
  obtain ⟨F, Rc, T, g, fs, fo, hS, hC, hG, hT⟩ := hL
  obtain ⟨⟨LL, pp, hr⟩, hT2⟩ := id hT
  have hE := hS.base.1
  have n1 := hS.base.2.2.1
  have hX := kX (Rc := Rc) (T := T) (F := F) (len := len) (le := le) (g := g) (fs := fs) (fo := fo) hW
  have I := hI.1
  have w1 := I.w1
  have hB6 : fitB BB (g_mk S 1 6) := hF.1 _ (Or.inl rfl)
  have hx : EX E := hW.2.2.2.1.2.2.2.1
  have hlg : (s_lg S).length ≤ 200 := I.2.2.2.2.2.2.2.2.2.2
  have hll : LL.length < 12000 := by have := hF.2.2.2.2.1; rw [tr_len hr]; omega
  have hB2 : BB.2 < 2 ^ 25 := by decide
  unfold STEP br_47
  rw [rv_at (hS.tr hX).1]
  exact ⟨S, Or.inl rfl, lj_sim hW hC hG hT (okk_e (x_staleReads hS hX) ⟨rfl, hS⟩) (fun h1 hE1 et => by have q := t_ownG (kTA hW hE1) hr (x := (19 : Int32)) (i := 19) (v := s_sc S 19) rfl (by decide) (hr.1.1.2.2.2.2.2.2.2.2.2.2.2.2.2.2.2.2.2.2.1); rw [et] at q; exact q.td) (fun _ _ _ q => q) (fun v h1 hE1 => rfl)⟩
theorem s_52 (hW : SW E W a7 L xs) (hL : LW E BB W a7 S Z bf len le h) (hI : LI S) (hF : FT S) (hj : 5 * j + 5 ≤ L) : STEP E W a7 S Z bf len le n j (br_52 n (some (sAd E 50)) (some (W 0)) (some (AW W a7 0)) (some (W 3)) (Int32.ofNat (5 * j)) h) := by
  obtain ⟨F, Rc, T, g, fs, fo, hS, hC, hG, hT⟩ := hL
  obtain ⟨⟨LL, pp, hr⟩, hT2⟩ := id hT
  have hE := hS.base.1
  have n1 := hS.base.2.2.1
  have hX := kX (Rc := Rc) (T := T) (F := F) (len := len) (le := le) (g := g) (fs := fs) (fo := fo) hW
  have I := hI.1
  have w1 := I.w1
  have hB6 : fitB BB (g_mk S 1 6) := hF.1 _ (Or.inl rfl)
  have hx : EX E := hW.2.2.2.1.2.2.2.1
  have hlg : (s_lg S).length ≤ 200 := I.2.2.2.2.2.2.2.2.2.2
  have hll : LL.length < 12000 := by have := hF.2.2.2.2.1; rw [tr_len hr]; omega
  have hB2 : BB.2 < 2 ^ 25 := by decide
  unfold STEP br_52
  rw [rv_at (hS.tr hX).1]
  exact ⟨S, Or.inl rfl, lj_sim hW hC hG hT (okk_e (x_smallestBound hS hX) ⟨rfl, hS⟩) (fun h1 hE1 et => by have q := t_smallestBound (kTA hW hE1) hr; rw [et] at q; exact q.td) (fun _ _ _ q => q) (fun v h1 hE1 => rfl)⟩
theorem s_53 (hW : SW E W a7 L xs) (hL : LW E BB W a7 S Z bf len le h) (hI : LI S) (hF : FT S) (hj : 5 * j + 5 ≤ L) : STEP E W a7 S Z bf len le n j (br_53 n (some (sAd E 50)) (some (W 0)) (some (AW W a7 0)) (some (W 3)) (Int32.ofNat (5 * j)) h) := by
  obtain ⟨F, Rc, T, g, fs, fo, hS, hC, hG, hT⟩ := hL
  obtain ⟨⟨LL, pp, hr⟩, hT2⟩ := id hT
  have hE := hS.base.1
  have n1 := hS.base.2.2.1
  have hX := kX (Rc := Rc) (T := T) (F := F) (len := len) (le := le) (g := g) (fs := fs) (fo := fo) hW
  have I := hI.1
  have w1 := I.w1
  have hB6 : fitB BB (g_mk S 1 6) := hF.1 _ (Or.inl rfl)
  have hx : EX E := hW.2.2.2.1.2.2.2.1
  have hlg : (s_lg S).length ≤ 200 := I.2.2.2.2.2.2.2.2.2.2
  have hll : LL.length < 12000 := by have := hF.2.2.2.2.1; rw [tr_len hr]; omega
  have hB2 : BB.2 < 2 ^ 25 := by decide
  unfold STEP br_53
  rw [rv_at (hS.tr hX).1]
  exact ⟨S, Or.inl rfl, lj_sim hW hC hG hT (okk_e (x_overtakingPairs hS hX I.bi) ⟨rfl, hS⟩) (fun h1 hE1 et => by have q := t_pairs (kTA hW hE1) hr I; rw [et] at q; exact q.td) (fun _ _ _ q => q) (fun v h1 hE1 => rfl)⟩
theorem s_54 (hW : SW E W a7 L xs) (hL : LW E BB W a7 S Z bf len le h) (hI : LI S) (hF : FT S) (hj : 5 * j + 5 ≤ L) : STEP E W a7 S Z bf len le n j (br_54 n (some (sAd E 50)) (some (W 0)) (some (AW W a7 0)) (some (W 3)) (Int32.ofNat (5 * j)) h) := by
  obtain ⟨F, Rc, T, g, fs, fo, hS, hC, hG, hT⟩ := hL
  obtain ⟨⟨LL, pp, hr⟩, hT2⟩ := id hT
  have hE := hS.base.1
  have n1 := hS.base.2.2.1
  have hX := kX (Rc := Rc) (T := T) (F := F) (len := len) (le := le) (g := g) (fs := fs) (fo := fo) hW
  have I := hI.1
  have w1 := I.w1
  have hB6 : fitB BB (g_mk S 1 6) := hF.1 _ (Or.inl rfl)
  have hx : EX E := hW.2.2.2.1.2.2.2.1
  have hlg : (s_lg S).length ≤ 200 := I.2.2.2.2.2.2.2.2.2.2
  have hll : LL.length < 12000 := by have := hF.2.2.2.2.1; rw [tr_len hr]; omega
  have hB2 : BB.2 < 2 ^ 25 := by decide
  unfold STEP br_54
  rw [rv_at (hS.tr hX).1]
  exact ⟨S, Or.inl rfl, lj_sim hW hC hG hT (okk_e (x_staleCaches hS hX w1) ⟨rfl, hS⟩) (fun h1 hE1 et => by have q := t_staleCaches (kTA hW hE1) rfl hr I; rw [et] at q; exact q.td) (fun _ _ _ q => q) (fun v h1 hE1 => rfl)⟩
theorem s_7 (hW : SW E W a7 L xs) (hL : LW E BB W a7 S Z bf len le h) (hI : LI S) (hF : FT S) (hj : 5 * j + 5 ≤ L) : STEP E W a7 S Z bf len le n j (br_7 n (some (sAd E 50)) (some (W 0)) (some (AW W a7 0)) (some (W 3)) (Int32.ofNat (5 * j)) h) := by
  obtain ⟨F, Rc, T, g, fs, fo, hS, hC, hG, hT⟩ := hL
  obtain ⟨⟨LL, pp, hr⟩, hT2⟩ := id hT
  have hE := hS.base.1
  have n1 := hS.base.2.2.1
  have hX := kX (Rc := Rc) (T := T) (F := F) (len := len) (le := le) (g := g) (fs := fs) (fo := fo) hW
  have I := hI.1
  have w1 := I.w1
  have hB6 : fitB BB (g_mk S 1 6) := hF.1 _ (Or.inl rfl)
  have hx : EX E := hW.2.2.2.1.2.2.2.1
  have hlg : (s_lg S).length ≤ 200 := I.2.2.2.2.2.2.2.2.2.2
  have hll : LL.length < 12000 := by have := hF.2.2.2.2.1; rw [tr_len hr]; omega
  have hB2 : BB.2 < 2 ^ 25 := by decide
  unfold STEP br_7
  have e1 : Int32.ofNat (5 * j) + (1 : Int32) = Int32.ofNat (5 * j + 1) := of_add _ 1
  obtain ⟨p1, hp1⟩ : ∃ p1, xs (5 * j + 1) = p1 := ⟨_, rfl⟩
  rw [e1, sa_at hW hE (k := 5 * j + 1) (by omega), hp1]
  by_cases hn : isNd S p1
  · obtain ⟨i, hi, rfl⟩ := isNd_of hn
    exact ⟨S, Or.inl rfl, lj_int hW hC hG hT (code := 0) (S' := S) (by unfold f_X0_nodeClock; exact l_ok hW hS (okk_e (x_nodeClock hS hX hi) ⟨rfl, hS⟩) (fun v h1 => rfl)) (fun h1 hE1 et => by have q := t_nodeClock (kTA hW hE1) hr I hi; rw [et] at q; exact q.td) (fun _ _ _ q => q) (fun v h1 hE1 => by rw [sa_at hW hE1 (k := 5 * j + 1) (by omega), hp1]; rfl)⟩
  · have hn : ¬ isNd S p1 := hn
    exact ⟨g_mk S 1 6, Or.inr (Or.inl rfl), lj_int hW hC hG hT (code := 1) (S' := g_mk S 1 6) (by unfold f_X0_nodeClock; exact l_er hW hS (x_nodeClockN hS hX hB6 hn) (by decide) (fun q h1 hq => (if_pos rfl).trans (if_pos hq))) (fun h1 hE1 et => by have q := t_nodeClock1 (kTA hW hE1) hr n1 hn; rw [et] at q; exact q.td) (fun _ _ _ q => q) (fun v h1 hE1 => by rw [sa_at hW hE1 (k := 5 * j + 1) (by omega), hp1]; rfl)⟩
theorem s_28 (hW : SW E W a7 L xs) (hL : LW E BB W a7 S Z bf len le h) (hI : LI S) (hF : FT S) (hj : 5 * j + 5 ≤ L) : STEP E W a7 S Z bf len le n j (br_28 n (some (sAd E 50)) (some (W 0)) (some (AW W a7 0)) (some (W 3)) (Int32.ofNat (5 * j)) h) := by
  obtain ⟨F, Rc, T, g, fs, fo, hS, hC, hG, hT⟩ := hL
  obtain ⟨⟨LL, pp, hr⟩, hT2⟩ := id hT
  have hE := hS.base.1
  have n1 := hS.base.2.2.1
  have hX := kX (Rc := Rc) (T := T) (F := F) (len := len) (le := le) (g := g) (fs := fs) (fo := fo) hW
  have I := hI.1
  have w1 := I.w1
  have hB6 : fitB BB (g_mk S 1 6) := hF.1 _ (Or.inl rfl)
  have hx : EX E := hW.2.2.2.1.2.2.2.1
  have hlg : (s_lg S).length ≤ 200 := I.2.2.2.2.2.2.2.2.2.2
  have hll : LL.length < 12000 := by have := hF.2.2.2.2.1; rw [tr_len hr]; omega
  have hB2 : BB.2 < 2 ^ 25 := by decide
  unfold STEP br_28
  have e1 : Int32.ofNat (5 * j) + (1 : Int32) = Int32.ofNat (5 * j + 1) := of_add _ 1
  obtain ⟨p1, hp1⟩ : ∃ p1, xs (5 * j + 1) = p1 := ⟨_, rfl⟩
  rw [e1, sa_at hW hE (k := 5 * j + 1) (by omega), hp1]
  by_cases hn : isNd S p1
  · obtain ⟨i, hi, rfl⟩ := isNd_of hn
    exact ⟨S, Or.inl rfl, lj_boo hW hC hG hT (ite01) (code := 0) (S' := S) (by unfold f_X0_isLeading; exact l_bo hW hS (ite01) (okk_e (x_isLeading hS hX w1 hi) ⟨rfl, hS⟩) (fun v h1 => rfl)) (fun h1 hE1 et => by have q := t_isLeading (kTA hW hE1) hr I hi; rw [et] at q; exact q.td) (fun _ _ _ q => q) (fun v h1 hE1 => by rw [sa_at hW hE1 (k := 5 * j + 1) (by omega), hp1]; rfl)⟩
  · have hn : ¬ isNd S p1 := hn
    exact ⟨g_mk S 1 6, Or.inr (Or.inl rfl), lj_boo hW hC hG hT (Or.inl rfl) (code := 1) (S' := g_mk S 1 6) (by unfold f_X0_isLeading; exact l_er hW hS (x_isLeadingN hS hX hB6 hn) (by decide) (fun q h1 hq => (if_pos rfl).trans (if_pos hq))) (fun h1 hE1 et => by have q := t_isLeading1 (kTA hW hE1) hr n1 hn; rw [et] at q; exact q.td) (fun _ _ _ q => q) (fun v h1 hE1 => by rw [sa_at hW hE1 (k := 5 * j + 1) (by omega), hp1]; rfl)⟩
theorem s_30 (hW : SW E W a7 L xs) (hL : LW E BB W a7 S Z bf len le h) (hI : LI S) (hF : FT S) (hj : 5 * j + 5 ≤ L) : STEP E W a7 S Z bf len le n j (br_30 n (some (sAd E 50)) (some (W 0)) (some (AW W a7 0)) (some (W 3)) (Int32.ofNat (5 * j)) h) := by
  obtain ⟨F, Rc, T, g, fs, fo, hS, hC, hG, hT⟩ := hL
  obtain ⟨⟨LL, pp, hr⟩, hT2⟩ := id hT
  have hE := hS.base.1
  have n1 := hS.base.2.2.1
  have hX := kX (Rc := Rc) (T := T) (F := F) (len := len) (le := le) (g := g) (fs := fs) (fo := fo) hW
  have I := hI.1
  have w1 := I.w1
  have hB6 : fitB BB (g_mk S 1 6) := hF.1 _ (Or.inl rfl)
  have hx : EX E := hW.2.2.2.1.2.2.2.1
  have hlg : (s_lg S).length ≤ 200 := I.2.2.2.2.2.2.2.2.2.2
  have hll : LL.length < 12000 := by have := hF.2.2.2.2.1; rw [tr_len hr]; omega
  have hB2 : BB.2 < 2 ^ 25 := by decide
  unfold STEP br_30
  have e1 : Int32.ofNat (5 * j) + (1 : Int32) = Int32.ofNat (5 * j + 1) := of_add _ 1
  obtain ⟨p1, hp1⟩ : ∃ p1, xs (5 * j + 1) = p1 := ⟨_, rfl⟩
  rw [e1, sa_at hW hE (k := 5 * j + 1) (by omega), hp1]
  by_cases hn : isNd S p1
  · obtain ⟨i, hi, rfl⟩ := isNd_of hn
    exact ⟨S, Or.inl rfl, lj_int hW hC hG hT (code := 0) (S' := S) (by unfold f_X0_token; exact l_ok hW hS (okk_e (x_token hS hX hi) ⟨rfl, hS⟩) (fun v h1 => rfl)) (fun h1 hE1 et => by have q := ((t_ofNode (kTA hW hE1) hr n1 (7 : Int32) 7 rfl (by decide)).1 i hi rfl).wr; rw [et] at q; exact q.td) (fun _ _ _ q => q) (fun v h1 hE1 => by rw [sa_at hW hE1 (k := 5 * j + 1) (by omega), hp1]; rfl)⟩
  · have hn : ¬ isNd S p1 := hn
    exact ⟨g_mk S 1 6, Or.inr (Or.inl rfl), lj_int hW hC hG hT (code := 1) (S' := g_mk S 1 6) (by unfold f_X0_token; exact l_er hW hS (x_tokenN hS hX hB6 hn) (by decide) (fun q h1 hq => (if_pos rfl).trans (if_pos hq))) (fun h1 hE1 et => by have q := ((t_ofNode (kTA hW hE1) hr n1 (7 : Int32) 7 rfl (by decide)).2 hn).wr; rw [et] at q; exact q.td) (fun _ _ _ q => q) (fun v h1 hE1 => by rw [sa_at hW hE1 (k := 5 * j + 1) (by omega), hp1]; rfl)⟩
theorem s_31 (hW : SW E W a7 L xs) (hL : LW E BB W a7 S Z bf len le h) (hI : LI S) (hF : FT S) (hj : 5 * j + 5 ≤ L) : STEP E W a7 S Z bf len le n j (br_31 n (some (sAd E 50)) (some (W 0)) (some (AW W a7 0)) (some (W 3)) (Int32.ofNat (5 * j)) h) := by
  obtain ⟨F, Rc, T, g, fs, fo, hS, hC, hG, hT⟩ := hL
  obtain ⟨⟨LL, pp, hr⟩, hT2⟩ := id hT
  have hE := hS.base.1
  have n1 := hS.base.2.2.1
  have hX := kX (Rc := Rc) (T := T) (F := F) (len := len) (le := le) (g := g) (fs := fs) (fo := fo) hW
  have I := hI.1
  have w1 := I.w1
  have hB6 : fitB BB (g_mk S 1 6) := hF.1 _ (Or.inl rfl)
  have hx : EX E := hW.2.2.2.1.2.2.2.1
  have hlg : (s_lg S).length ≤ 200 := I.2.2.2.2.2.2.2.2.2.2
  have hll : LL.length < 12000 := by have := hF.2.2.2.2.1; rw [tr_len hr]; omega
  have hB2 : BB.2 < 2 ^ 25 := by decide
  unfold STEP br_31
  have e1 : Int32.ofNat (5 * j) + (1 : Int32) = Int32.ofNat (5 * j + 1) := of_add _ 1
  obtain ⟨p1, hp1⟩ : ∃ p1, xs (5 * j + 1) = p1 := ⟨_, rfl⟩
  rw [e1, sa_at hW hE (k := 5 * j + 1) (by omega), hp1]
  by_cases hn : isNd S p1
  · obtain ⟨i, hi, rfl⟩ := isNd_of hn
    exact ⟨S, Or.inl rfl, lj_int hW hC hG hT (code := 0) (S' := S) (by unfold f_X0_nodeExpiryTime; exact l_ok hW hS (okk_e (x_nodeExpiryTime hS hX w1 hi) ⟨rfl, hS⟩) (fun v h1 => rfl)) (fun h1 hE1 et => by have q := t_nodeExpiryTime (kTA hW hE1) hr I hi; rw [et] at q; exact q.td) (fun _ _ _ q => q) (fun v h1 hE1 => by rw [sa_at hW hE1 (k := 5 * j + 1) (by omega), hp1]; rfl)⟩
  · have hn : ¬ isNd S p1 := hn
    exact ⟨g_mk S 1 6, Or.inr (Or.inl rfl), lj_int hW hC hG hT (code := 1) (S' := g_mk S 1 6) (by unfold f_X0_nodeExpiryTime; exact l_er hW hS (x_nodeExpiryTimeN hS hX hB6 hn) (by decide) (fun q h1 hq => (if_pos rfl).trans (if_pos hq))) (fun h1 hE1 et => by have q := t_nodeExpiryTime1 (kTA hW hE1) hr n1 hn; rw [et] at q; exact q.td) (fun _ _ _ q => q) (fun v h1 hE1 => by rw [sa_at hW hE1 (k := 5 * j + 1) (by omega), hp1]; rfl)⟩
theorem s_32 (hW : SW E W a7 L xs) (hL : LW E BB W a7 S Z bf len le h) (hI : LI S) (hF : FT S) (hj : 5 * j + 5 ≤ L) : STEP E W a7 S Z bf len le n j (br_32 n (some (sAd E 50)) (some (W 0)) (some (AW W a7 0)) (some (W 3)) (Int32.ofNat (5 * j)) h) := by
  obtain ⟨F, Rc, T, g, fs, fo, hS, hC, hG, hT⟩ := hL
  obtain ⟨⟨LL, pp, hr⟩, hT2⟩ := id hT
  have hE := hS.base.1
  have n1 := hS.base.2.2.1
  have hX := kX (Rc := Rc) (T := T) (F := F) (len := len) (le := le) (g := g) (fs := fs) (fo := fo) hW
  have I := hI.1
  have w1 := I.w1
  have hB6 : fitB BB (g_mk S 1 6) := hF.1 _ (Or.inl rfl)
  have hx : EX E := hW.2.2.2.1.2.2.2.1
  have hlg : (s_lg S).length ≤ 200 := I.2.2.2.2.2.2.2.2.2.2
  have hll : LL.length < 12000 := by have := hF.2.2.2.2.1; rw [tr_len hr]; omega
  have hB2 : BB.2 < 2 ^ 25 := by decide
  unfold STEP br_32
  have e1 : Int32.ofNat (5 * j) + (1 : Int32) = Int32.ofNat (5 * j + 1) := of_add _ 1
  obtain ⟨p1, hp1⟩ : ∃ p1, xs (5 * j + 1) = p1 := ⟨_, rfl⟩
  rw [e1, sa_at hW hE (k := 5 * j + 1) (by omega), hp1]
  by_cases hn : isNd S p1
  · obtain ⟨i, hi, rfl⟩ := isNd_of hn
    exact ⟨S, Or.inl rfl, lj_int hW hC hG hT (code := 0) (S' := S) (by unfold f_X0_margin; exact l_ok hW hS (okk_e (x_margin hS hX w1 (cf0_ne I) hi) ⟨rfl, hS⟩) (fun v h1 => rfl)) (fun h1 hE1 et => by have q := t_margin (kTA hW hE1) hr I hi; rw [et] at q; exact q.td) (fun _ _ _ q => q) (fun v h1 hE1 => by rw [sa_at hW hE1 (k := 5 * j + 1) (by omega), hp1]; rfl)⟩
  · have hn : ¬ isNd S p1 := hn
    exact ⟨g_mk S 1 6, Or.inr (Or.inl rfl), lj_int hW hC hG hT (code := 1) (S' := g_mk S 1 6) (by unfold f_X0_margin; exact l_er hW hS (x_marginN hS hX hB6 hn) (by decide) (fun q h1 hq => (if_pos rfl).trans (if_pos hq))) (fun h1 hE1 et => by have q := t_margin1 (kTA hW hE1) hr n1 hn; rw [et] at q; exact q.td) (fun _ _ _ q => q) (fun v h1 hE1 => by rw [sa_at hW hE1 (k := 5 * j + 1) (by omega), hp1]; rfl)⟩
theorem s_33 (hW : SW E W a7 L xs) (hL : LW E BB W a7 S Z bf len le h) (hI : LI S) (hF : FT S) (hj : 5 * j + 5 ≤ L) : STEP E W a7 S Z bf len le n j (br_33 n (some (sAd E 50)) (some (W 0)) (some (AW W a7 0)) (some (W 3)) (Int32.ofNat (5 * j)) h) := by
  obtain ⟨F, Rc, T, g, fs, fo, hS, hC, hG, hT⟩ := hL
  obtain ⟨⟨LL, pp, hr⟩, hT2⟩ := id hT
  have hE := hS.base.1
  have n1 := hS.base.2.2.1
  have hX := kX (Rc := Rc) (T := T) (F := F) (len := len) (le := le) (g := g) (fs := fs) (fo := fo) hW
  have I := hI.1
  have w1 := I.w1
  have hB6 : fitB BB (g_mk S 1 6) := hF.1 _ (Or.inl rfl)
  have hx : EX E := hW.2.2.2.1.2.2.2.1
  have hlg : (s_lg S).length ≤ 200 := I.2.2.2.2.2.2.2.2.2.2
  have hll : LL.length < 12000 := by have := hF.2.2.2.2.1; rw [tr_len hr]; omega
  have hB2 : BB.2 < 2 ^ 25 := by decide
  unfold STEP br_33
  have e1 : Int32.ofNat (5 * j) + (1 : Int32) = Int32.ofNat (5 * j + 1) := of_add _ 1
  obtain ⟨p1, hp1⟩ : ∃ p1, xs (5 * j + 1) = p1 := ⟨_, rfl⟩
  rw [e1, sa_at hW hE (k := 5 * j + 1) (by omega), hp1]
  by_cases hn : isNd S p1
  · obtain ⟨i, hi, rfl⟩ := isNd_of hn
    exact ⟨S, Or.inl rfl, lj_int hW hC hG hT (code := 0) (S' := S) (by unfold f_X0_timerTime; exact l_ok hW hS (okk_e (x_timerTime hS hX hi) ⟨rfl, hS⟩) (fun v h1 => rfl)) (fun h1 hE1 et => by have q := t_timerTime (kTA hW hE1) hr I hi; rw [et] at q; exact q.td) (fun _ _ _ q => q) (fun v h1 hE1 => by rw [sa_at hW hE1 (k := 5 * j + 1) (by omega), hp1]; rfl)⟩
  · have hn : ¬ isNd S p1 := hn
    exact ⟨g_mk S 1 6, Or.inr (Or.inl rfl), lj_int hW hC hG hT (code := 1) (S' := g_mk S 1 6) (by unfold f_X0_timerTime; exact l_er hW hS (x_timerTimeN hS hX hB6 hn) (by decide) (fun q h1 hq => (if_pos rfl).trans (if_pos hq))) (fun h1 hE1 et => by have q := t_timerTime1 (kTA hW hE1) hr n1 hn; rw [et] at q; exact q.td) (fun _ _ _ q => q) (fun v h1 hE1 => by rw [sa_at hW hE1 (k := 5 * j + 1) (by omega), hp1]; rfl)⟩
theorem s_34 (hW : SW E W a7 L xs) (hL : LW E BB W a7 S Z bf len le h) (hI : LI S) (hF : FT S) (hj : 5 * j + 5 ≤ L) : STEP E W a7 S Z bf len le n j (br_34 n (some (sAd E 50)) (some (W 0)) (some (AW W a7 0)) (some (W 3)) (Int32.ofNat (5 * j)) h) := by
  obtain ⟨F, Rc, T, g, fs, fo, hS, hC, hG, hT⟩ := hL
  obtain ⟨⟨LL, pp, hr⟩, hT2⟩ := id hT
  have hE := hS.base.1
  have n1 := hS.base.2.2.1
  have hX := kX (Rc := Rc) (T := T) (F := F) (len := len) (le := le) (g := g) (fs := fs) (fo := fo) hW
  have I := hI.1
  have w1 := I.w1
  have hB6 : fitB BB (g_mk S 1 6) := hF.1 _ (Or.inl rfl)
  have hx : EX E := hW.2.2.2.1.2.2.2.1
  have hlg : (s_lg S).length ≤ 200 := I.2.2.2.2.2.2.2.2.2.2
  have hll : LL.length < 12000 := by have := hF.2.2.2.2.1; rw [tr_len hr]; omega
  have hB2 : BB.2 < 2 ^ 25 := by decide
  unfold STEP br_34
  have e1 : Int32.ofNat (5 * j) + (1 : Int32) = Int32.ofNat (5 * j + 1) := of_add _ 1
  obtain ⟨p1, hp1⟩ : ∃ p1, xs (5 * j + 1) = p1 := ⟨_, rfl⟩
  rw [e1, sa_at hW hE (k := 5 * j + 1) (by omega), hp1]
  by_cases hn : isNd S p1
  · obtain ⟨i, hi, rfl⟩ := isNd_of hn
    exact ⟨S, Or.inl rfl, lj_int hW hC hG hT (code := 0) (S' := S) (by unfold f_X0_nodeState; exact l_ok hW hS (okk_e (x_nodeState hS hX I hi) ⟨rfl, hS⟩) (fun v h1 => rfl)) (fun h1 hE1 et => by have q := t_nodeState (kTA hW hE1) hr I hi; rw [et] at q; exact q.td) (fun _ _ _ q => q) (fun v h1 hE1 => by rw [sa_at hW hE1 (k := 5 * j + 1) (by omega), hp1]; rfl)⟩
  · have hn : ¬ isNd S p1 := hn
    exact ⟨g_mk S 1 6, Or.inr (Or.inl rfl), lj_int hW hC hG hT (code := 1) (S' := g_mk S 1 6) (by unfold f_X0_nodeState; exact l_er hW hS (x_nodeStateN hS hX hB6 hn) (by decide) (fun q h1 hq => (if_pos rfl).trans (if_pos hq))) (fun h1 hE1 et => by have q := t_nodeState1 (kTA hW hE1) hr n1 hn; rw [et] at q; exact q.td) (fun _ _ _ q => q) (fun v h1 hE1 => by rw [sa_at hW hE1 (k := 5 * j + 1) (by omega), hp1]; rfl)⟩
theorem s_35 (hW : SW E W a7 L xs) (hL : LW E BB W a7 S Z bf len le h) (hI : LI S) (hF : FT S) (hj : 5 * j + 5 ≤ L) : STEP E W a7 S Z bf len le n j (br_35 n (some (sAd E 50)) (some (W 0)) (some (AW W a7 0)) (some (W 3)) (Int32.ofNat (5 * j)) h) := by
  obtain ⟨F, Rc, T, g, fs, fo, hS, hC, hG, hT⟩ := hL
  obtain ⟨⟨LL, pp, hr⟩, hT2⟩ := id hT
  have hE := hS.base.1
  have n1 := hS.base.2.2.1
  have hX := kX (Rc := Rc) (T := T) (F := F) (len := len) (le := le) (g := g) (fs := fs) (fo := fo) hW
  have I := hI.1
  have w1 := I.w1
  have hB6 : fitB BB (g_mk S 1 6) := hF.1 _ (Or.inl rfl)
  have hx : EX E := hW.2.2.2.1.2.2.2.1
  have hlg : (s_lg S).length ≤ 200 := I.2.2.2.2.2.2.2.2.2.2
  have hll : LL.length < 12000 := by have := hF.2.2.2.2.1; rw [tr_len hr]; omega
  have hB2 : BB.2 < 2 ^ 25 := by decide
  unfold STEP br_35
  have e1 : Int32.ofNat (5 * j) + (1 : Int32) = Int32.ofNat (5 * j + 1) := of_add _ 1
  obtain ⟨p1, hp1⟩ : ∃ p1, xs (5 * j + 1) = p1 := ⟨_, rfl⟩
  rw [e1, sa_at hW hE (k := 5 * j + 1) (by omega), hp1]
  by_cases hn : isNd S p1
  · obtain ⟨i, hi, rfl⟩ := isNd_of hn
    exact ⟨S, Or.inl rfl, lj_int hW hC hG hT (code := 0) (S' := S) (by unfold f_X0_cached; exact l_ok hW hS (okk_e (x_cached hS hX hi) ⟨rfl, hS⟩) (fun v h1 => rfl)) (fun h1 hE1 et => by have q := ((t_ofNode (kTA hW hE1) hr n1 (11 : Int32) 11 rfl (by decide)).1 i hi rfl).wr; rw [et] at q; exact q.td) (fun _ _ _ q => q) (fun v h1 hE1 => by rw [sa_at hW hE1 (k := 5 * j + 1) (by omega), hp1]; rfl)⟩
  · have hn : ¬ isNd S p1 := hn
    exact ⟨g_mk S 1 6, Or.inr (Or.inl rfl), lj_int hW hC hG hT (code := 1) (S' := g_mk S 1 6) (by unfold f_X0_cached; exact l_er hW hS (x_cachedN hS hX hB6 hn) (by decide) (fun q h1 hq => (if_pos rfl).trans (if_pos hq))) (fun h1 hE1 et => by have q := ((t_ofNode (kTA hW hE1) hr n1 (11 : Int32) 11 rfl (by decide)).2 hn).wr; rw [et] at q; exact q.td) (fun _ _ _ q => q) (fun v h1 hE1 => by rw [sa_at hW hE1 (k := 5 * j + 1) (by omega), hp1]; rfl)⟩
theorem s_48 (hW : SW E W a7 L xs) (hL : LW E BB W a7 S Z bf len le h) (hI : LI S) (hF : FT S) (hj : 5 * j + 5 ≤ L) : STEP E W a7 S Z bf len le n j (br_48 n (some (sAd E 50)) (some (W 0)) (some (AW W a7 0)) (some (W 3)) (Int32.ofNat (5 * j)) h) := by
  obtain ⟨F, Rc, T, g, fs, fo, hS, hC, hG, hT⟩ := hL
  obtain ⟨⟨LL, pp, hr⟩, hT2⟩ := id hT
  have hE := hS.base.1
  have n1 := hS.base.2.2.1
  have hX := kX (Rc := Rc) (T := T) (F := F) (len := len) (le := le) (g := g) (fs := fs) (fo := fo) hW
  have I := hI.1
  have w1 := I.w1
  have hB6 : fitB BB (g_mk S 1 6) := hF.1 _ (Or.inl rfl)
  have hx : EX E := hW.2.2.2.1.2.2.2.1
  have hlg : (s_lg S).length ≤ 200 := I.2.2.2.2.2.2.2.2.2.2
  have hll : LL.length < 12000 := by have := hF.2.2.2.2.1; rw [tr_len hr]; omega
  have hB2 : BB.2 < 2 ^ 25 := by decide
  unfold STEP br_48
  have e1 : Int32.ofNat (5 * j) + (1 : Int32) = Int32.ofNat (5 * j + 1) := of_add _ 1
  obtain ⟨p1, hp1⟩ : ∃ p1, xs (5 * j + 1) = p1 := ⟨_, rfl⟩
  rw [e1, sa_at hW hE (k := 5 * j + 1) (by omega), hp1]
  by_cases hn : isNd S p1
  · obtain ⟨i, hi, rfl⟩ := isNd_of hn
    exact ⟨S, Or.inl rfl, lj_int hW hC hG hT (code := 0) (S' := S) (by unfold f_X0_ledTime; exact l_ok hW hS (okk_e (x_ledTime hS hX hi) ⟨rfl, hS⟩) (fun v h1 => rfl)) (fun h1 hE1 et => by have q := ((t_ofNode (kTA hW hE1) hr n1 (10 : Int32) 10 rfl (by decide)).1 i hi rfl).wr; rw [et] at q; exact q.td) (fun _ _ _ q => q) (fun v h1 hE1 => by rw [sa_at hW hE1 (k := 5 * j + 1) (by omega), hp1]; rfl)⟩
  · have hn : ¬ isNd S p1 := hn
    exact ⟨g_mk S 1 6, Or.inr (Or.inl rfl), lj_int hW hC hG hT (code := 1) (S' := g_mk S 1 6) (by unfold f_X0_ledTime; exact l_er hW hS (x_ledTimeN hS hX hB6 hn) (by decide) (fun q h1 hq => (if_pos rfl).trans (if_pos hq))) (fun h1 hE1 et => by have q := ((t_ofNode (kTA hW hE1) hr n1 (10 : Int32) 10 rfl (by decide)).2 hn).wr; rw [et] at q; exact q.td) (fun _ _ _ q => q) (fun v h1 hE1 => by rw [sa_at hW hE1 (k := 5 * j + 1) (by omega), hp1]; rfl)⟩
theorem s_51 (hW : SW E W a7 L xs) (hL : LW E BB W a7 S Z bf len le h) (hI : LI S) (hF : FT S) (hj : 5 * j + 5 ≤ L) : STEP E W a7 S Z bf len le n j (br_51 n (some (sAd E 50)) (some (W 0)) (some (AW W a7 0)) (some (W 3)) (Int32.ofNat (5 * j)) h) := by
  obtain ⟨F, Rc, T, g, fs, fo, hS, hC, hG, hT⟩ := hL
  obtain ⟨⟨LL, pp, hr⟩, hT2⟩ := id hT
  have hE := hS.base.1
  have n1 := hS.base.2.2.1
  have hX := kX (Rc := Rc) (T := T) (F := F) (len := len) (le := le) (g := g) (fs := fs) (fo := fo) hW
  have I := hI.1
  have w1 := I.w1
  have hB6 : fitB BB (g_mk S 1 6) := hF.1 _ (Or.inl rfl)
  have hx : EX E := hW.2.2.2.1.2.2.2.1
  have hlg : (s_lg S).length ≤ 200 := I.2.2.2.2.2.2.2.2.2.2
  have hll : LL.length < 12000 := by have := hF.2.2.2.2.1; rw [tr_len hr]; omega
  have hB2 : BB.2 < 2 ^ 25 := by decide
  unfold STEP br_51
  have e1 : Int32.ofNat (5 * j) + (1 : Int32) = Int32.ofNat (5 * j + 1) := of_add _ 1
  obtain ⟨p1, hp1⟩ : ∃ p1, xs (5 * j + 1) = p1 := ⟨_, rfl⟩
  rw [e1, sa_at hW hE (k := 5 * j + 1) (by omega), hp1]
  by_cases hn : isNd S p1
  · obtain ⟨i, hi, rfl⟩ := isNd_of hn
    exact ⟨S, Or.inl rfl, lj_int hW hC hG hT (code := 0) (S' := S) (by unfold f_X0_leaseLeft; exact l_ok hW hS (okk_e (x_leaseLeft hS hX I hi) ⟨rfl, hS⟩) (fun v h1 => rfl)) (fun h1 hE1 et => by have q := t_leaseLeft (kTA hW hE1) hr I hi; rw [et] at q; exact q.td) (fun _ _ _ q => q) (fun v h1 hE1 => by rw [sa_at hW hE1 (k := 5 * j + 1) (by omega), hp1]; rfl)⟩
  · have hn : ¬ isNd S p1 := hn
    exact ⟨g_mk S 1 6, Or.inr (Or.inl rfl), lj_int hW hC hG hT (code := 1) (S' := g_mk S 1 6) (by unfold f_X0_leaseLeft; exact l_er hW hS (x_leaseLeftN hS hX hB6 hn) (by decide) (fun q h1 hq => (if_pos rfl).trans (if_pos hq))) (fun h1 hE1 et => by have q := t_leaseLeft1 (kTA hW hE1) hr n1 hn; rw [et] at q; exact q.td) (fun _ _ _ q => q) (fun v h1 hE1 => by rw [sa_at hW hE1 (k := 5 * j + 1) (by omega), hp1]; rfl)⟩
theorem s_21 (hW : SW E W a7 L xs) (hL : LW E BB W a7 S Z bf len le h) (hI : LI S) (hF : FT S) (hj : 5 * j + 5 ≤ L) : STEP E W a7 S Z bf len le n j (br_21 n (some (sAd E 50)) (some (W 0)) (some (AW W a7 0)) (some (W 3)) (Int32.ofNat (5 * j)) h) := by
  obtain ⟨F, Rc, T, g, fs, fo, hS, hC, hG, hT⟩ := hL
  obtain ⟨⟨LL, pp, hr⟩, hT2⟩ := id hT
  have hE := hS.base.1
  have n1 := hS.base.2.2.1
  have hX := kX (Rc := Rc) (T := T) (F := F) (len := len) (le := le) (g := g) (fs := fs) (fo := fo) hW
  have I := hI.1
  have w1 := I.w1
  have hB6 : fitB BB (g_mk S 1 6) := hF.1 _ (Or.inl rfl)
  have hx : EX E := hW.2.2.2.1.2.2.2.1
  have hlg : (s_lg S).length ≤ 200 := I.2.2.2.2.2.2.2.2.2.2
  have hll : LL.length < 12000 := by have := hF.2.2.2.2.1; rw [tr_len hr]; omega
  have hB2 : BB.2 < 2 ^ 25 := by decide
  unfold STEP br_21
  have e1 : Int32.ofNat (5 * j) + (1 : Int32) = Int32.ofNat (5 * j + 1) := of_add _ 1
  obtain ⟨p1, hp1⟩ : ∃ p1, xs (5 * j + 1) = p1 := ⟨_, rfl⟩
  rw [e1, sa_at hW hE (k := 5 * j + 1) (by omega), hp1]
  by_cases hn : iv p1 0 7
  · obtain ⟨r, hr8, rfl⟩ := regN_of hn
    exact ⟨S, Or.inl rfl, lj_int hW hC hG hT (code := 0) (S' := S) (by unfold f_X0_stored; exact l_ok hW hS (okk_e (x_stored hS hX hr8) ⟨rfl, hS⟩) (fun v h1 => rfl)) (fun h1 hE1 et => by have q := t_stored (kTA hW hE1) rfl hr hr8; rw [et] at q; exact q.td) (fun _ _ _ q => q) (fun v h1 hE1 => by rw [sa_at hW hE1 (k := 5 * j + 1) (by omega), hp1]; rfl)⟩
  · have hn : ¬ (iv p1 0 7) := hn
    exact ⟨g_mk S 1 6, Or.inr (Or.inl rfl), lj_int hW hC hG hT (code := 1) (S' := g_mk S 1 6) (by unfold f_X0_stored; exact l_er hW hS (x_storedN hS hX hB6 hn) (by decide) (fun q h1 hq => (if_pos rfl).trans (if_pos hq))) (fun h1 hE1 et => by have q := (t_regBad (kTA hW hE1) hr (x := (160 : Int32)) hn).wr; rw [et] at q; exact q.td) (fun _ _ _ q => q) (fun v h1 hE1 => by rw [sa_at hW hE1 (k := 5 * j + 1) (by omega), hp1]; rfl)⟩
theorem s_22 (hW : SW E W a7 L xs) (hL : LW E BB W a7 S Z bf len le h) (hI : LI S) (hF : FT S) (hj : 5 * j + 5 ≤ L) : STEP E W a7 S Z bf len le n j (br_22 n (some (sAd E 50)) (some (W 0)) (some (AW W a7 0)) (some (W 3)) (Int32.ofNat (5 * j)) h) := by
  obtain ⟨F, Rc, T, g, fs, fo, hS, hC, hG, hT⟩ := hL
  obtain ⟨⟨LL, pp, hr⟩, hT2⟩ := id hT
  have hE := hS.base.1
  have n1 := hS.base.2.2.1
  have hX := kX (Rc := Rc) (T := T) (F := F) (len := len) (le := le) (g := g) (fs := fs) (fo := fo) hW
  have I := hI.1
  have w1 := I.w1
  have hB6 : fitB BB (g_mk S 1 6) := hF.1 _ (Or.inl rfl)
  have hx : EX E := hW.2.2.2.1.2.2.2.1
  have hlg : (s_lg S).length ≤ 200 := I.2.2.2.2.2.2.2.2.2.2
  have hll : LL.length < 12000 := by have := hF.2.2.2.2.1; rw [tr_len hr]; omega
  have hB2 : BB.2 < 2 ^ 25 := by decide
  unfold STEP br_22
  have e1 : Int32.ofNat (5 * j) + (1 : Int32) = Int32.ofNat (5 * j + 1) := of_add _ 1
  obtain ⟨p1, hp1⟩ : ∃ p1, xs (5 * j + 1) = p1 := ⟨_, rfl⟩
  rw [e1, sa_at hW hE (k := 5 * j + 1) (by omega), hp1]
  by_cases hn : iv p1 0 7
  · obtain ⟨r, hr8, rfl⟩ := regN_of hn
    exact ⟨S, Or.inl rfl, lj_int hW hC hG hT (code := 0) (S' := S) (by unfold f_X0_version; exact l_ok hW hS (okk_e (x_version hS hX hr8) ⟨rfl, hS⟩) (fun v h1 => rfl)) (fun h1 hE1 et => by have q := t_version (kTA hW hE1) hr hr8; rw [et] at q; exact q.td) (fun _ _ _ q => q) (fun v h1 hE1 => by rw [sa_at hW hE1 (k := 5 * j + 1) (by omega), hp1]; rfl)⟩
  · have hn : ¬ (iv p1 0 7) := hn
    exact ⟨g_mk S 1 6, Or.inr (Or.inl rfl), lj_int hW hC hG hT (code := 1) (S' := g_mk S 1 6) (by unfold f_X0_version; exact l_er hW hS (x_versionN hS hX hB6 hn) (by decide) (fun q h1 hq => (if_pos rfl).trans (if_pos hq))) (fun h1 hE1 et => by have q := (t_regBad (kTA hW hE1) hr (x := (168 : Int32)) hn).wr; rw [et] at q; exact q.td) (fun _ _ _ q => q) (fun v h1 hE1 => by rw [sa_at hW hE1 (k := 5 * j + 1) (by omega), hp1]; rfl)⟩
theorem s_40 (hW : SW E W a7 L xs) (hL : LW E BB W a7 S Z bf len le h) (hI : LI S) (hF : FT S) (hj : 5 * j + 5 ≤ L) : STEP E W a7 S Z bf len le n j (br_40 n (some (sAd E 50)) (some (W 0)) (some (AW W a7 0)) (some (W 3)) (Int32.ofNat (5 * j)) h) := by
  obtain ⟨F, Rc, T, g, fs, fo, hS, hC, hG, hT⟩ := hL
  obtain ⟨⟨LL, pp, hr⟩, hT2⟩ := id hT
  have hE := hS.base.1
  have n1 := hS.base.2.2.1
  have hX := kX (Rc := Rc) (T := T) (F := F) (len := len) (le := le) (g := g) (fs := fs) (fo := fo) hW
  have I := hI.1
  have w1 := I.w1
  have hB6 : fitB BB (g_mk S 1 6) := hF.1 _ (Or.inl rfl)
  have hx : EX E := hW.2.2.2.1.2.2.2.1
  have hlg : (s_lg S).length ≤ 200 := I.2.2.2.2.2.2.2.2.2.2
  have hll : LL.length < 12000 := by have := hF.2.2.2.2.1; rw [tr_len hr]; omega
  have hB2 : BB.2 < 2 ^ 25 := by decide
  unfold STEP br_40
  have e1 : Int32.ofNat (5 * j) + (1 : Int32) = Int32.ofNat (5 * j + 1) := of_add _ 1
  obtain ⟨p1, hp1⟩ : ∃ p1, xs (5 * j + 1) = p1 := ⟨_, rfl⟩
  rw [e1, sa_at hW hE (k := 5 * j + 1) (by omega), hp1]
  by_cases hn : 0 ≤ p1.toInt ∧ p1.toInt ≤ ((s_lg S).length : Int) - 1
  · obtain ⟨k, e, hk, rfl, he⟩ := log_of hlg hn
    exact ⟨S, Or.inl rfl, lj_int hW hC hG hT (code := 0) (S' := S) (by unfold f_X0_logTime; exact l_ok hW hS (okk_e (x_logTime hS hX hlg he) ⟨rfl, hS⟩) (fun v h1 => rfl)) (fun h1 hE1 et => by have q := (log_G (hr.1.2.2.2.2.2.1.2 k e he).1 (t_logCell (kTA hW hE1) hr (x := (0 : Int32)) (c := 0) rfl (by decide) hk)).wr; rw [et] at q; exact q.td) (fun _ _ _ q => q) (fun v h1 hE1 => by rw [sa_at hW hE1 (k := 5 * j + 1) (by omega), hp1]; rfl)⟩
  · have hn : ¬ (0 ≤ p1.toInt ∧ p1.toInt ≤ ((s_lg S).length : Int) - 1) := hn
    exact ⟨g_mk S 1 6, Or.inr (Or.inl rfl), lj_int hW hC hG hT (code := 1) (S' := g_mk S 1 6) (by unfold f_X0_logTime; exact l_er hW hS ((x_logN hS hX hlg hB6 hn).1) (by decide) (fun q h1 hq => (if_pos rfl).trans (if_pos hq))) (fun h1 hE1 et => by have q := (t_logBad (kTA hW hE1) hr (x := (0 : Int32)) hn).wr; rw [et] at q; exact q.td) (fun _ _ _ q => q) (fun v h1 hE1 => by rw [sa_at hW hE1 (k := 5 * j + 1) (by omega), hp1]; rfl)⟩
theorem s_41 (hW : SW E W a7 L xs) (hL : LW E BB W a7 S Z bf len le h) (hI : LI S) (hF : FT S) (hj : 5 * j + 5 ≤ L) : STEP E W a7 S Z bf len le n j (br_41 n (some (sAd E 50)) (some (W 0)) (some (AW W a7 0)) (some (W 3)) (Int32.ofNat (5 * j)) h) := by
  obtain ⟨F, Rc, T, g, fs, fo, hS, hC, hG, hT⟩ := hL
  obtain ⟨⟨LL, pp, hr⟩, hT2⟩ := id hT
  have hE := hS.base.1
  have n1 := hS.base.2.2.1
  have hX := kX (Rc := Rc) (T := T) (F := F) (len := len) (le := le) (g := g) (fs := fs) (fo := fo) hW
  have I := hI.1
  have w1 := I.w1
  have hB6 : fitB BB (g_mk S 1 6) := hF.1 _ (Or.inl rfl)
  have hx : EX E := hW.2.2.2.1.2.2.2.1
  have hlg : (s_lg S).length ≤ 200 := I.2.2.2.2.2.2.2.2.2.2
  have hll : LL.length < 12000 := by have := hF.2.2.2.2.1; rw [tr_len hr]; omega
  have hB2 : BB.2 < 2 ^ 25 := by decide
  unfold STEP br_41
  have e1 : Int32.ofNat (5 * j) + (1 : Int32) = Int32.ofNat (5 * j + 1) := of_add _ 1
  obtain ⟨p1, hp1⟩ : ∃ p1, xs (5 * j + 1) = p1 := ⟨_, rfl⟩
  rw [e1, sa_at hW hE (k := 5 * j + 1) (by omega), hp1]
  by_cases hn : 0 ≤ p1.toInt ∧ p1.toInt ≤ ((s_lg S).length : Int) - 1
  · obtain ⟨k, e, hk, rfl, he⟩ := log_of hlg hn
    exact ⟨S, Or.inl rfl, lj_int hW hC hG hT (code := 0) (S' := S) (by unfold f_X0_logKind; exact l_ok hW hS (okk_e (x_logKind hS hX hlg he) ⟨rfl, hS⟩) (fun v h1 => rfl)) (fun h1 hE1 et => by have q := (log_G ((congrArg (q_w T) (show 336 + 4 * k + 1 = 337 + 4 * k from by omega)).trans (hr.1.2.2.2.2.2.1.2 k e he).2.1) (t_logCell (kTA hW hE1) hr (x := (1 : Int32)) (c := 1) rfl (by decide) hk)).wr; rw [et] at q; exact q.td) (fun _ _ _ q => q) (fun v h1 hE1 => by rw [sa_at hW hE1 (k := 5 * j + 1) (by omega), hp1]; rfl)⟩
  · have hn : ¬ (0 ≤ p1.toInt ∧ p1.toInt ≤ ((s_lg S).length : Int) - 1) := hn
    exact ⟨g_mk S 1 6, Or.inr (Or.inl rfl), lj_int hW hC hG hT (code := 1) (S' := g_mk S 1 6) (by unfold f_X0_logKind; exact l_er hW hS ((x_logN hS hX hlg hB6 hn).2.1) (by decide) (fun q h1 hq => (if_pos rfl).trans (if_pos hq))) (fun h1 hE1 et => by have q := (t_logBad (kTA hW hE1) hr (x := (1 : Int32)) hn).wr; rw [et] at q; exact q.td) (fun _ _ _ q => q) (fun v h1 hE1 => by rw [sa_at hW hE1 (k := 5 * j + 1) (by omega), hp1]; rfl)⟩
theorem s_42 (hW : SW E W a7 L xs) (hL : LW E BB W a7 S Z bf len le h) (hI : LI S) (hF : FT S) (hj : 5 * j + 5 ≤ L) : STEP E W a7 S Z bf len le n j (br_42 n (some (sAd E 50)) (some (W 0)) (some (AW W a7 0)) (some (W 3)) (Int32.ofNat (5 * j)) h) := by
  obtain ⟨F, Rc, T, g, fs, fo, hS, hC, hG, hT⟩ := hL
  obtain ⟨⟨LL, pp, hr⟩, hT2⟩ := id hT
  have hE := hS.base.1
  have n1 := hS.base.2.2.1
  have hX := kX (Rc := Rc) (T := T) (F := F) (len := len) (le := le) (g := g) (fs := fs) (fo := fo) hW
  have I := hI.1
  have w1 := I.w1
  have hB6 : fitB BB (g_mk S 1 6) := hF.1 _ (Or.inl rfl)
  have hx : EX E := hW.2.2.2.1.2.2.2.1
  have hlg : (s_lg S).length ≤ 200 := I.2.2.2.2.2.2.2.2.2.2
  have hll : LL.length < 12000 := by have := hF.2.2.2.2.1; rw [tr_len hr]; omega
  have hB2 : BB.2 < 2 ^ 25 := by decide
  unfold STEP br_42
  have e1 : Int32.ofNat (5 * j) + (1 : Int32) = Int32.ofNat (5 * j + 1) := of_add _ 1
  obtain ⟨p1, hp1⟩ : ∃ p1, xs (5 * j + 1) = p1 := ⟨_, rfl⟩
  rw [e1, sa_at hW hE (k := 5 * j + 1) (by omega), hp1]
  by_cases hn : 0 ≤ p1.toInt ∧ p1.toInt ≤ ((s_lg S).length : Int) - 1
  · obtain ⟨k, e, hk, rfl, he⟩ := log_of hlg hn
    exact ⟨S, Or.inl rfl, lj_int hW hC hG hT (code := 0) (S' := S) (by unfold f_X0_logNode; exact l_ok hW hS (okk_e (x_logNode hS hX hlg he) ⟨rfl, hS⟩) (fun v h1 => rfl)) (fun h1 hE1 et => by have q := (log_G ((congrArg (q_w T) (show 336 + 4 * k + 2 = 338 + 4 * k from by omega)).trans (hr.1.2.2.2.2.2.1.2 k e he).2.2.1) (t_logCell (kTA hW hE1) hr (x := (2 : Int32)) (c := 2) rfl (by decide) hk)).wr; rw [et] at q; exact q.td) (fun _ _ _ q => q) (fun v h1 hE1 => by rw [sa_at hW hE1 (k := 5 * j + 1) (by omega), hp1]; rfl)⟩
  · have hn : ¬ (0 ≤ p1.toInt ∧ p1.toInt ≤ ((s_lg S).length : Int) - 1) := hn
    exact ⟨g_mk S 1 6, Or.inr (Or.inl rfl), lj_int hW hC hG hT (code := 1) (S' := g_mk S 1 6) (by unfold f_X0_logNode; exact l_er hW hS ((x_logN hS hX hlg hB6 hn).2.2.1) (by decide) (fun q h1 hq => (if_pos rfl).trans (if_pos hq))) (fun h1 hE1 et => by have q := (t_logBad (kTA hW hE1) hr (x := (2 : Int32)) hn).wr; rw [et] at q; exact q.td) (fun _ _ _ q => q) (fun v h1 hE1 => by rw [sa_at hW hE1 (k := 5 * j + 1) (by omega), hp1]; rfl)⟩
theorem s_43 (hW : SW E W a7 L xs) (hL : LW E BB W a7 S Z bf len le h) (hI : LI S) (hF : FT S) (hj : 5 * j + 5 ≤ L) : STEP E W a7 S Z bf len le n j (br_43 n (some (sAd E 50)) (some (W 0)) (some (AW W a7 0)) (some (W 3)) (Int32.ofNat (5 * j)) h) := by
  obtain ⟨F, Rc, T, g, fs, fo, hS, hC, hG, hT⟩ := hL
  obtain ⟨⟨LL, pp, hr⟩, hT2⟩ := id hT
  have hE := hS.base.1
  have n1 := hS.base.2.2.1
  have hX := kX (Rc := Rc) (T := T) (F := F) (len := len) (le := le) (g := g) (fs := fs) (fo := fo) hW
  have I := hI.1
  have w1 := I.w1
  have hB6 : fitB BB (g_mk S 1 6) := hF.1 _ (Or.inl rfl)
  have hx : EX E := hW.2.2.2.1.2.2.2.1
  have hlg : (s_lg S).length ≤ 200 := I.2.2.2.2.2.2.2.2.2.2
  have hll : LL.length < 12000 := by have := hF.2.2.2.2.1; rw [tr_len hr]; omega
  have hB2 : BB.2 < 2 ^ 25 := by decide
  unfold STEP br_43
  have e1 : Int32.ofNat (5 * j) + (1 : Int32) = Int32.ofNat (5 * j + 1) := of_add _ 1
  obtain ⟨p1, hp1⟩ : ∃ p1, xs (5 * j + 1) = p1 := ⟨_, rfl⟩
  rw [e1, sa_at hW hE (k := 5 * j + 1) (by omega), hp1]
  by_cases hn : 0 ≤ p1.toInt ∧ p1.toInt ≤ ((s_lg S).length : Int) - 1
  · obtain ⟨k, e, hk, rfl, he⟩ := log_of hlg hn
    exact ⟨S, Or.inl rfl, lj_int hW hC hG hT (code := 0) (S' := S) (by unfold f_X0_logToken; exact l_ok hW hS (okk_e (x_logToken hS hX hlg he) ⟨rfl, hS⟩) (fun v h1 => rfl)) (fun h1 hE1 et => by have q := (log_G ((congrArg (q_w T) (show 336 + 4 * k + 3 = 339 + 4 * k from by omega)).trans (hr.1.2.2.2.2.2.1.2 k e he).2.2.2) (t_logCell (kTA hW hE1) hr (x := (3 : Int32)) (c := 3) rfl (by decide) hk)).wr; rw [et] at q; exact q.td) (fun _ _ _ q => q) (fun v h1 hE1 => by rw [sa_at hW hE1 (k := 5 * j + 1) (by omega), hp1]; rfl)⟩
  · have hn : ¬ (0 ≤ p1.toInt ∧ p1.toInt ≤ ((s_lg S).length : Int) - 1) := hn
    exact ⟨g_mk S 1 6, Or.inr (Or.inl rfl), lj_int hW hC hG hT (code := 1) (S' := g_mk S 1 6) (by unfold f_X0_logToken; exact l_er hW hS ((x_logN hS hX hlg hB6 hn).2.2.2) (by decide) (fun q h1 hq => (if_pos rfl).trans (if_pos hq))) (fun h1 hE1 et => by have q := (t_logBad (kTA hW hE1) hr (x := (3 : Int32)) hn).wr; rw [et] at q; exact q.td) (fun _ _ _ q => q) (fun v h1 hE1 => by rw [sa_at hW hE1 (k := 5 * j + 1) (by omega), hp1]; rfl)⟩
theorem s_44 (hW : SW E W a7 L xs) (hL : LW E BB W a7 S Z bf len le h) (hI : LI S) (hF : FT S) (hj : 5 * j + 5 ≤ L) : STEP E W a7 S Z bf len le n j (br_44 n (some (sAd E 50)) (some (W 0)) (some (AW W a7 0)) (some (W 3)) (Int32.ofNat (5 * j)) h) := by
  obtain ⟨F, Rc, T, g, fs, fo, hS, hC, hG, hT⟩ := hL
  obtain ⟨⟨LL, pp, hr⟩, hT2⟩ := id hT
  have hE := hS.base.1
  have n1 := hS.base.2.2.1
  have hX := kX (Rc := Rc) (T := T) (F := F) (len := len) (le := le) (g := g) (fs := fs) (fo := fo) hW
  have I := hI.1
  have w1 := I.w1
  have hB6 : fitB BB (g_mk S 1 6) := hF.1 _ (Or.inl rfl)
  have hx : EX E := hW.2.2.2.1.2.2.2.1
  have hlg : (s_lg S).length ≤ 200 := I.2.2.2.2.2.2.2.2.2.2
  have hll : LL.length < 12000 := by have := hF.2.2.2.2.1; rw [tr_len hr]; omega
  have hB2 : BB.2 < 2 ^ 25 := by decide
  unfold STEP br_44
  have e1 : Int32.ofNat (5 * j) + (1 : Int32) = Int32.ofNat (5 * j + 1) := of_add _ 1
  obtain ⟨p1, hp1⟩ : ∃ p1, xs (5 * j + 1) = p1 := ⟨_, rfl⟩
  rw [e1, sa_at hW hE (k := 5 * j + 1) (by omega), hp1]
  by_cases hn : iv p1 1 8
  · obtain ⟨k, k1, k8, rfl⟩ := knd_of hn
    exact ⟨S, Or.inl rfl, lj_int hW hC hG hT (code := 0) (S' := S) (by unfold f_X0_eventCount; exact l_ok hW hS (okk_e (x_eventCount hS hX k1 k8) ⟨rfl, hS⟩) (fun v h1 => rfl)) (fun h1 hE1 et => by have q := t_eventCount (kTA hW hE1) hr k1 k8; rw [et] at q; exact q.td) (fun _ _ _ q => q) (fun v h1 hE1 => by rw [sa_at hW hE1 (k := 5 * j + 1) (by omega), hp1]; rfl)⟩
  · have hn : ¬ (iv p1 1 8) := hn
    exact ⟨g_mk S 1 6, Or.inr (Or.inl rfl), lj_int hW hC hG hT (code := 1) (S' := g_mk S 1 6) (by unfold f_X0_eventCount; exact l_er hW hS (x_eventCountN hS hB6 hn) (by decide) (fun q h1 hq => (if_pos rfl).trans (if_pos hq))) (fun h1 hE1 et => by have q := t_eventBad (kTA hW hE1) hr hn; rw [et] at q; exact q.td) (fun _ _ _ q => q) (fun v h1 hE1 => by rw [sa_at hW hE1 (k := 5 * j + 1) (by omega), hp1]; rfl)⟩
theorem s_56 (hW : SW E W a7 L xs) (hL : LW E BB W a7 S Z bf len le h) (hI : LI S) (hF : FT S) (hj : 5 * j + 5 ≤ L) : STEP E W a7 S Z bf len le n j (br_56 n (some (sAd E 50)) (some (W 0)) (some (AW W a7 0)) (some (W 3)) (Int32.ofNat (5 * j)) h) := by
  obtain ⟨F, Rc, T, g, fs, fo, hS, hC, hG, hT⟩ := hL
  obtain ⟨⟨LL, pp, hr⟩, hT2⟩ := id hT
  have hE := hS.base.1
  have n1 := hS.base.2.2.1
  have hX := kX (Rc := Rc) (T := T) (F := F) (len := len) (le := le) (g := g) (fs := fs) (fo := fo) hW
  have I := hI.1
  have w1 := I.w1
  have hB6 : fitB BB (g_mk S 1 6) := hF.1 _ (Or.inl rfl)
  have hx : EX E := hW.2.2.2.1.2.2.2.1
  have hlg : (s_lg S).length ≤ 200 := I.2.2.2.2.2.2.2.2.2.2
  have hll : LL.length < 12000 := by have := hF.2.2.2.2.1; rw [tr_len hr]; omega
  have hB2 : BB.2 < 2 ^ 25 := by decide
  unfold STEP br_56
  have e1 : Int32.ofNat (5 * j) + (1 : Int32) = Int32.ofNat (5 * j + 1) := of_add _ 1
  obtain ⟨p1, hp1⟩ : ∃ p1, xs (5 * j + 1) = p1 := ⟨_, rfl⟩
  rw [e1, sa_at hW hE (k := 5 * j + 1) (by omega), hp1]
  by_cases hn : iv p1 1 8
  · have hn : iv p1 1 8 := hn
    exact ⟨S, Or.inl rfl, lj_int hW hC hG hT (code := 0) (S' := S) (by unfold f_X0_lastEventTime; exact l_ok hW hS (okk_e (x_lastEventTime hS hX hlg hn) ⟨rfl, hS⟩) (fun v h1 => rfl)) (fun h1 hE1 et => by have q := t_lastEventTime (kTA hW hE1) hr hn; rw [et] at q; exact q.td) (fun _ _ _ q => q) (fun v h1 hE1 => by rw [sa_at hW hE1 (k := 5 * j + 1) (by omega), hp1]; rfl)⟩
  · have hn : ¬ (iv p1 1 8) := hn
    exact ⟨g_mk S 1 6, Or.inr (Or.inl rfl), lj_int hW hC hG hT (code := 1) (S' := g_mk S 1 6) (by unfold f_X0_lastEventTime; exact l_er hW hS (x_lastEventTimeN hS hB6 hn) (by decide) (fun q h1 hq => (if_pos rfl).trans (if_pos hq))) (fun h1 hE1 et => by have q := t_lastEventTime1 (kTA hW hE1) hr hn; rw [et] at q; exact q.td) (fun _ _ _ q => q) (fun v h1 hE1 => by rw [sa_at hW hE1 (k := 5 * j + 1) (by omega), hp1]; rfl)⟩
theorem s_55 (hW : SW E W a7 L xs) (hL : LW E BB W a7 S Z bf len le h) (hI : LI S) (hF : FT S) (hj : 5 * j + 5 ≤ L) : STEP E W a7 S Z bf len le n j (br_55 n (some (sAd E 50)) (some (W 0)) (some (AW W a7 0)) (some (W 3)) (Int32.ofNat (5 * j)) h) := by
  obtain ⟨F, Rc, T, g, fs, fo, hS, hC, hG, hT⟩ := hL
  obtain ⟨⟨LL, pp, hr⟩, hT2⟩ := id hT
  have hE := hS.base.1
  have n1 := hS.base.2.2.1
  have hX := kX (Rc := Rc) (T := T) (F := F) (len := len) (le := le) (g := g) (fs := fs) (fo := fo) hW
  have I := hI.1
  have w1 := I.w1
  have hB6 : fitB BB (g_mk S 1 6) := hF.1 _ (Or.inl rfl)
  have hx : EX E := hW.2.2.2.1.2.2.2.1
  have hlg : (s_lg S).length ≤ 200 := I.2.2.2.2.2.2.2.2.2.2
  have hll : LL.length < 12000 := by have := hF.2.2.2.2.1; rw [tr_len hr]; omega
  have hB2 : BB.2 < 2 ^ 25 := by decide
  unfold STEP br_55
  have e1 : Int32.ofNat (5 * j) + (1 : Int32) = Int32.ofNat (5 * j + 1) := of_add _ 1
  have e2 : Int32.ofNat (5 * j) + (2 : Int32) = Int32.ofNat (5 * j + 2) := of_add _ 2
  obtain ⟨p1, hp1⟩ : ∃ p1, xs (5 * j + 1) = p1 := ⟨_, rfl⟩
  obtain ⟨p2, hp2⟩ : ∃ p2, xs (5 * j + 2) = p2 := ⟨_, rfl⟩
  rw [e1, sa_at hW hE (k := 5 * j + 1) (by omega), hp1]
  rw [e2, sa_at hW hE (k := 5 * j + 2) (by omega), hp2]
  by_cases hq2 : p2 = -1 ∨ isNd S p2
  · by_cases hk : iv p1 1 8
    · have hk : iv p1 1 8 := hk
      exact ⟨S, Or.inl rfl, lj_int hW hC hG hT (code := 0) (S' := S) (by unfold f_X0_countInLog; exact l_ok hW hS (okk_e (x_countInLog hS hX hlg hk hq2) ⟨rfl, hS⟩) (fun v h1 => rfl)) (fun h1 hE1 et => by have q := ((t_countInLog (kTA hW hE1) hr n1).2 hq2).2 hk; rw [et] at q; exact q.td) (fun _ _ _ q => q) (fun v h1 hE1 => by rw [sa_at hW hE1 (k := 5 * j + 1) (by omega), hp1, sa_at hW hE1 (k := 5 * j + 2) (by omega), hp2]; rfl)⟩
    · have hk : ¬ iv p1 1 8 := hk
      exact ⟨g_mk S 1 6, Or.inr (Or.inl rfl), lj_int hW hC hG hT (code := 2) (S' := g_mk S 1 6) (by unfold f_X0_countInLog; exact l_er hW hS (x_countInLogP hS hX hB6 hk hq2) (by decide) (fun q h1 hq => (if_neg (by decide)).trans ((if_pos rfl).trans (if_pos hq)))) (fun h1 hE1 et => by have q := ((t_countInLog (kTA hW hE1) hr n1).2 hq2).1 hk; rw [et] at q; exact q.td) (fun _ _ _ q => q) (fun v h1 hE1 => by rw [sa_at hW hE1 (k := 5 * j + 1) (by omega), hp1, sa_at hW hE1 (k := 5 * j + 2) (by omega), hp2]; rfl)⟩
  · have hq2 : ¬ (p2 = -1 ∨ isNd S p2) := hq2
    exact ⟨g_mk S 1 6, Or.inr (Or.inl rfl), lj_int hW hC hG hT (code := 1) (S' := g_mk S 1 6) (by unfold f_X0_countInLog; exact l_er hW hS (x_countInLogN hS hX hB6 hq2) (by decide) (fun q h1 hq => (if_pos rfl).trans (if_pos hq))) (fun h1 hE1 et => by have q := (t_countInLog (kTA hW hE1) hr n1 (k := p1) (p := p2)).1 hq2; rw [et] at q; exact q.td) (fun _ _ _ q => q) (fun v h1 hE1 => by rw [sa_at hW hE1 (k := 5 * j + 1) (by omega), hp1, sa_at hW hE1 (k := 5 * j + 2) (by omega), hp2]; rfl)⟩
end G5
