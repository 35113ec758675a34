/-! THE LAW: snapshots -/
set_option maxRecDepth 100000
section GB
variable {E : PE} {W : Nat → Nat} {a7 L len : Nat} {xs : Nat → Int32} {S S' : SS} {Z Z' : Nat → Option SS} {bf bf' : Nat → Nat} {le : Int32} {h h1 : PH} {n j : Nat} {F F' : Nat → Nat} {Rc : PM} {T T' : TS} {g g' : Nat → Int32} {fs fs' : Nat → Option Nat} {fo : Nat → Int64} {len' : Nat} {le' : Int32}
/-- a simulation, with later counters -/
theorem Inv_ctS {Q : SS} (hI : Inv Q) (hg : s_gh Q 0 ≤ s_gh S 0) (hb : s_gh S 0 ≤ 1000000) : Inv (ctS Q S) := by
  have e : s_gh (ctS Q S) 0 = s_gh S 0 := by
    show fu (fu (s_gh Q) 0 (s_gh S 0)) 1 (s_gh S 1) 0 = _
    rw [fu_ne (by decide), fu_eq]
  obtain ⟨a1, a2, a3, a4, a5⟩ := hI
  refine ⟨a1, a2, a3, ?_, a5⟩
  exact WI.up (S := Q) (S' := ctS Q S) a4 rfl rfl (fun k _ => rfl) (by rw [e]; exact hg) (by rw [e]; exact hb)
/-- the row of slots -/
theorem kSVR (hW : SW E W a7 L xs) : SVR E (KR Rc W (eA E W a7 T (F 0) len le g fs fo)) (W 2) fs := ⟨fs, kSl hW, hW.2.1 2 (by decide), rfl, rfl⟩
theorem kS0 (hW : SW E W a7 L xs) (hC : CO E W a7 Z fs Rc) {e : Nat → va_E} : fs 0 = none ∨ ∃ (a : Nat) (gs : List Value), fs 0 = some a ∧ KR Rc W e a = some (.inr (1, gs)) := by
  have t := hC.2.2.2 0 (by decide)
  revert t
  cases Z 0 with
  | none => exact fun t => Or.inl t
  | some Q =>
    intro t
    obtain ⟨G, ad, t1, t2⟩ := t
    obtain ⟨-, c, c1, c2⟩ := t2.1 0 (Or.inl (by decide))
    unfold CR at c2
    rw [if_pos rfl] at c2
    have c3 := (KR_core (e := e) hC.1 c1).1
    rw [c2] at c3
    unfold cSim at c3
    exact Or.inr ⟨G 0, _, t1, c3⟩
/-- all the changing cells are soft -/
theorem kSoft (hW : SW E W a7 L xs) (hC : CO E W a7 Z fs Rc) {R : PM} {i : Nat} (hi : i < 11) (hR : ∀ (b : Nat) (x : va_E), KR Rc W (eA E W a7 T (F 0) len le g fs fo) b = some x → R b = some x) : softR R (eA E W a7 T (F 0) len le g fs fo i) := by
  by_cases i4 : 4 ≤ i
  · unfold eA eT
    rw [if_pos i4]
    exact tE_soft
  · rw [eA_lt (by omega)]
    unfold eC
    by_cases i0 : i = 0
    · rw [if_pos i0]
      exact Or.inr (Or.inr (Or.inl ⟨0, _, rfl, Or.inl rfl⟩))
    rw [if_neg i0]
    by_cases i1 : i = 1
    · rw [if_pos i1]
      exact Or.inl ⟨_, _, _, rfl⟩
    rw [if_neg i1]
    by_cases i2 : i = 2
    · rw [if_pos i2]
      refine Or.inr (Or.inr (Or.inr ⟨_, _, fs, rfl, ?_⟩))
      rcases kS0 hW hC (e := eA E W a7 T (F 0) len le g fs fo) with q | ⟨a, gs, q1, q2⟩
      · exact Or.inl q
      · exact Or.inr ⟨a, gs, q1, hR _ _ q2⟩
    rw [if_neg i2]
    exact Or.inr (Or.inl ⟨_, _, _, rfl⟩)
theorem s_62 (hW : SW E W a7 L xs) (hL : LW E BB W a7 S Z bf len le h) (hI : LI S) (hF : FT S) (hj : 5 * j + 5 ≤ L) : STEPL E W a7 S Z bf len le n j (br_62 n (some (sAd E 50)) (some (W 0)) (some (AW W a7 0)) (some (W 3)) (Int32.ofNat (5 * j)) h) := by
  obtain ⟨F, Rc, T, g, fs, fo, hS, hC, hG, hT⟩ := hL
  obtain ⟨⟨LL, pp, hr⟩, hT2⟩ := id hT
  have hE := hS.base.1
  have hX := kX (Rc := Rc) (T := T) (F := F) (len := len) (le := le) (g := g) (fs := fs) (fo := fo) hW
  have hB6 : fitB BB (g_mk S 1 6) := hF.1 _ (Or.inl rfl)
  have hB2 : BB.2 < 2 ^ 25 := by decide
  have e1 : Int32.ofNat (5 * j) + (1 : Int32) = Int32.ofNat (5 * j + 1) := of_add _ 1
  obtain ⟨p1, hp1⟩ : ∃ p1, xs (5 * j + 1) = p1 := ⟨_, rfl⟩
  by_cases hp : iv p1 0 1
  · obtain ⟨s, hs, rfl⟩ := slot_of hp
    unfold STEPL br_62
    rw [e1, sa_at hW hE (k := 5 * j + 1) (by omega), hp1]
    obtain ⟨G', ad', R', h1, f', x1, x2, x3, x4, x5, x6, x7⟩ := x_save hS hX hI.1 (kSVR hW) (kS0 hW hC) hs hF.2.1 hB2
    have W_lt : ∀ i : Nat, i < 11 → W i < pn h := fun i hi => (hS.tr (KR_at (Rc := Rc) (e := eA E W a7 T (F 0) len le g fs fo) hW.1 hi)).2
    have hC0 : CO E W a7 Z fs (cutR R' W) := hC.cut hW (fun b x _ hx => x4 b x hx)
    have hC1 : CO E W a7 (fu Z s (some (copyS S))) f' (cutR R' W) := by
      obtain ⟨c1, c2, c3, c4⟩ := hC0
      refine ⟨c1, c2, c3, fun u hu => ?_⟩
      by_cases us : u = s
      · subst us
        rw [fu_eq]
        refine ⟨G', ad', x6, x3.sub (fun b x hb => ?_) (fun y c hy hc => ?_) (fun b hb => cut_out (fun i hi hy => ?_))⟩
        · rcases KR_cases (W := W) (b := b) with ⟨i, hi, rfl⟩ | hb'
          · rw [cut_in hi] at hb
            cases hb
          · rw [cut_out hb'] at hb
            exact hb
        · rcases KR_cases (W := W) (b := y) with ⟨i, hi, rfl⟩ | hb'
          · have e2 := x4 _ _ (KR_at (Rc := Rc) (e := eA E W a7 T (F 0) len le g fs fo) hW.1 hi)
            rw [e2] at hy
            cases hy
            exact absurd hc ((kSoft hW hC hi x4).nu (fun _ _ hx => hx))
          · rw [cut_out hb']
            exact hy
        · have h2 := W_lt i hi
          have h3 := x5 b hb
          omega
      · rw [fu_ne us, x7 u hu us]
        exact c4 u hu
    have hS1 : SP E BB F (KR (cutR R' W) W (eA E W a7 T (F 0) len le g f' fo)) (ctS S (copyS S)) h1 := by
      refine x2.less (KR_le hW.1 (fun i hi => ?_) (fun b x hb hx => ?_))
      · by_cases i2 : i = 2
        · subst i2
          exact rU_at
        · rw [rU_ne (fun hy => i2 (hW.1 i 2 hi (by decide) hy)), x4 _ _ (KR_at hW.1 hi)]
          by_cases i4 : 4 ≤ i
          · rw [eA_up i4]
          · rw [eA_lt (by omega), eA_lt (by omega)]
            unfold eC
            rw [if_neg i2, if_neg i2]
      · rw [cut_out hb] at hx
        rw [rU_ne (hb 2 (by decide))]
        exact hx
    obtain ⟨fo', h', l1, l2, l3⟩ := l_out (ans := (now S).toInt64) hW hS1
    obtain ⟨T', ta, t1, t2, t3, t4, t5, t6, t7, t8⟩ := t_save (kTA hW l2.base.1) hr hs
    refine ⟨ctS S (copyS S), fu Z s (some (copyS S)), bf, len, le, Or.inr (Or.inr (Or.inr (Or.inr (Or.inl ⟨rfl, rfl, rfl, rfl, s, hs, rfl⟩)))), lj_gen (code := 0) hW l2 hC1 hG (T' := T') ⟨⟨LL, pp, by rw [t2]; exact hr⟩, ⟨hT.2.1.1, t4.trans hT.2.1.2.1, by rw [t3]; exact hT.2.1.2.2⟩, t5.trans hT.2.2.1, fun u hu => ?_⟩ t1 (fun _ => l3) ta ?_ (fun v h1 hE1 => by rw [sa_at hW hE1 (k := 5 * j + 1) (by omega), hp1]; rfl)⟩
    · by_cases us : u = s
      · subst us
        rw [fu_eq]
        obtain ⟨L2, p2, b2⟩ := t7
        exact ⟨t6, L2, p2, TR_copy b2⟩
      · rw [fu_ne us]
        have t := hT.2.2.2 u hu
        obtain ⟨y1, y2⟩ := t8 u hu us
        revert t
        cases Z u with
        | none => exact fun t => by rw [y1]; exact t
        | some Q =>
          intro t
          obtain ⟨b1, b2⟩ := t
          exact ⟨by rw [y1]; exact b1, y2 Q b2⟩
    · unfold f_X0_saveSnapshot
      rw [rv_at (hS.tr hX).1, cl_eq x1]
      exact l1 _
  · refine STEP.l ?_
    unfold STEP br_62
    rw [e1, sa_at hW hE (k := 5 * j + 1) (by omega), hp1]
    exact ⟨g_mk S 1 6, Or.inr (Or.inl rfl), lj_int hW hC hG hT (code := 1) (S' := g_mk S 1 6) (by unfold f_X0_saveSnapshot; exact l_er hW hS ((x_saveP hS hB6 hp).1) (by decide) (fun q h1 hq => (if_pos rfl).trans (if_pos hq))) (fun h1 hE1 et => by have q := t_save1 (kTA hW hE1) hr hp; rw [et] at q; exact q) (fun _ _ _ q => q) (fun v h1 hE1 => by rw [sa_at hW hE1 (k := 5 * j + 1) (by omega), hp1]; rfl)⟩
/-- what a snapshot needs -/
def ZI (S : SS) (Z : Nat → Option SS) : Prop := ∀ s : Nat, s < 2 → ∀ Q : SS, Z s = some Q → LI Q ∧ s_gh Q 0 ≤ s_gh S 0 ∧ cpF BB (ctS Q S)
theorem s_63 (hW : SW E W a7 L xs) (hL : LW E BB W a7 S Z bf len le h) (hI : LI S) (hF : FT S) (hZ : ZI S Z) (hj : 5 * j + 5 ≤ L) : STEPL E W a7 S Z bf len le n j (br_63 n (some (sAd E 50)) (some (W 0)) (some (AW W a7 0)) (some (W 3)) (Int32.ofNat (5 * j)) h) := by
  obtain ⟨F, Rc, T, g, fs, fo, hS, hC, hG, hT⟩ := hL
  obtain ⟨⟨LL, pp, hr⟩, hT2⟩ := id hT
  have hE := hS.base.1
  have hX := kX (Rc := Rc) (T := T) (F := F) (len := len) (le := le) (g := g) (fs := fs) (fo := fo) hW
  have hB6 : fitB BB (g_mk S 1 6) := hF.1 _ (Or.inl rfl)
  have hB2 : BB.2 < 2 ^ 25 := by decide
  have e1 : Int32.ofNat (5 * j) + (1 : Int32) = Int32.ofNat (5 * j + 1) := of_add _ 1
  obtain ⟨p1, hp1⟩ : ∃ p1, xs (5 * j + 1) = p1 := ⟨_, rfl⟩
  by_cases hp : iv p1 0 1
  · obtain ⟨s, hs, rfl⟩ := slot_of hp
    have tz := hT.2.2.2 s hs
    have cz := hC.2.2.2 s hs
    cases hq : Z s with
    | none =>
      rw [hq] at tz cz
      dsimp only at tz cz
      refine STEP.l ?_
      unfold STEP br_63
      rw [e1, sa_at hW hE (k := 5 * j + 1) (by omega), hp1]
      exact ⟨S, Or.inl rfl, lj_int hW hC hG hT (code := 0) (S' := S) (by unfold f_X0_restoreSnapshot; exact l_ok hW hS (okk_e (x_restore0 hS hX (kSVR hW) hs cz) ⟨rfl, hS⟩) (fun v h1 => rfl)) (fun h1 hE1 et => by have q := (t_restore (kTA hW hE1) hr hs).1 tz; rw [et] at q; exact q) (fun _ _ _ q => q) (fun v h1 hE1 => by rw [sa_at hW hE1 (k := 5 * j + 1) (by omega), hp1]; rfl)⟩
    | some Q =>
      rw [hq] at tz cz
      dsimp only at tz cz
      obtain ⟨z1, z2, z3⟩ := hZ s hs Q hq
      obtain ⟨G, ad, c1, c2⟩ := cz
      have gS := hI.1.2.2.2.1.2.2.2.1
      obtain ⟨F', h1, x1, x2⟩ := x_restore hS hX (hW.2.1 0 (by decide)) (kSVR hW) hs c1 (c2.more (fun b x hb => (KR_core hC.1 hb).1)) (Inv_ctS z1.1 z2 gS) z3 hB2
      have hS1 : SP E BB F' (KR Rc W (eA E W a7 T (F' 0) len le g fs fo)) (copyS (ctS Q S)) h1 := by
        refine x2.less (KR_le hW.1 (fun i hi => ?_) (fun b x hb hx => ?_))
        · by_cases i0 : i = 0
          · subst i0
            exact rU_at
          · rw [rU_ne (fun hy => i0 (hW.1 i 0 hi (by decide) hy)), KR_at hW.1 hi]
            by_cases i4 : 4 ≤ i
            · rw [eA_up i4]
            · rw [eA_lt (by omega), eA_lt (by omega)]
              unfold eC
              rw [if_neg i0, if_neg i0]
        · rw [rU_ne (hb 0 (by decide)), KR_out hb]
          exact hx
      obtain ⟨fo', h', l1, l2, l3⟩ := l_out (ans := (now Q).toInt64) hW hS1
      unfold STEPL br_63
      rw [e1, sa_at hW hE (k := 5 * j + 1) (by omega), hp1]
      refine ⟨copyS (ctS Q S), Z, bf, len, le, Or.inr (Or.inr (Or.inr (Or.inr (Or.inr ⟨rfl, rfl, rfl, rfl, s, Q, hs, hq, rfl⟩)))), lj_int hW hC hG hT (code := 0) (ans := now Q) (S' := copyS (ctS Q S)) (F := F') ⟨(0, h'), ?_, rfl, fo', l2, fun _ => l3⟩ (fun h1 hE1 et => by have q := (t_restore (kTA hW hE1) hr hs).2 tz.1 Q tz.2; rw [et] at q; exact q) (fun _ _ _ q => TR_copy q) (fun v h1 hE1 => by rw [sa_at hW hE1 (k := 5 * j + 1) (by omega), hp1]; rfl)⟩
      unfold f_X0_restoreSnapshot
      rw [rv_at (hS.tr hX).1, cl_eq x1]
      exact l1 _
  · refine STEP.l ?_
    unfold STEP br_63
    rw [e1, sa_at hW hE (k := 5 * j + 1) (by omega), hp1]
    exact ⟨g_mk S 1 6, Or.inr (Or.inl rfl), lj_int hW hC hG hT (code := 1) (S' := g_mk S 1 6) (by unfold f_X0_restoreSnapshot; exact l_er hW hS ((x_saveP hS hB6 hp).2) (by decide) (fun q h1 hq => (if_pos rfl).trans (if_pos hq))) (fun h1 hE1 et => by have q := t_restore1 (kTA hW hE1) hr hp; rw [et] at q; exact q) (fun _ _ _ q => q) (fun v h1 hE1 => by rw [sa_at hW hE1 (k := 5 * j + 1) (by omega), hp1]; rfl)⟩
end GB
