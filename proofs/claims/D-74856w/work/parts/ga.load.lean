/-! THE LAW: load -/
set_option maxRecDepth 100000
section GA
variable {E : PE} {W : Nat → Nat} {a7 L len : Nat} {xs : Nat → Int32} {S S' : SS} {Z Z' : Nat → Option SS} {bf bf' : Nat → Nat} {le : Int32} {h h1 : PH} {n j : Nat} {F F' : Nat → Nat} {Rc : PM} {T T' : TS} {g g' : Nat → Int32} {fs fs' : Nat → Option Nat} {fo : Nat → Int64} {len' : Nat} {le' : Int32}
theorem kKE (hW : SW E W a7 L xs) (hC : CO E W a7 Z fs Rc) {e : Nat → va_E} : KE E (KR Rc W e) := fun b x h1 h2 => by
  rw [KR_out (fun i hi hy => by have := hW.2.1 i hi; omega)]
  exact hC.2.1 b x h1 h2
/-- the words -/
theorem kWRD (hW : SW E W a7 L xs) (hS : SP E BB F (KR Rc W (eA E W a7 T (F 0) len le g fs fo)) S h) (hC : CO E W a7 Z fs Rc) : WRD (AW W a7) h := by
  have hE := hS.base.1
  obtain ⟨c1, c2, ⟨f, f1, f2⟩, c4⟩ := id hC
  have hP := hW.2.2.2.2.1
  have kn : ∀ (b : Nat) (x : va_E), b < E.2.2.1 → E.2.2.2 b = some x → h.1 b = some x := fun b x h1 h2 => (hS.tr (kKE hW hC b x h1 h2)).1
  unfold WRD
  rw [hE]
  refine ⟨⟨f, ?_, f2⟩, hP.2.1, hP.2.2.2.2.1 12 (by decide) (by decide), fun i hi => ?_⟩
  · show h.1 a7 = _
    exact (hS.tr (by rw [KR_out hW.2.2.1.2]; exact f1)).1
  · obtain ⟨v, v1, v2, v3, v4⟩ := hP.2.2.2.2.2.2.1 i hi
    have hb : pbase h = E.2.2.1 := by unfold pbase; rw [hE]
    rw [hb]
    exact ⟨v, v1, v2, kn _ _ v1 v3, kn _ _ v2 v4⟩
/-- the core out of what is known now -/
noncomputable def cutR (R : PM) (W : Nat → Nat) : PM := fun b => @ite (Option va_E) (∃ i : Nat, i < 11 ∧ b = W i) (Classical.propDecidable _) none (R b)
theorem cut_in {R : PM} {i : Nat} (hi : i < 11) : cutR R W (W i) = none := by
  unfold cutR
  exact if_pos ⟨i, hi, rfl⟩
theorem cut_out {R : PM} {b : Nat} (hb : ∀ i : Nat, i < 11 → b ≠ W i) : cutR R W b = R b := by
  unfold cutR
  exact if_neg (fun ⟨i, hi, hy⟩ => hb i hi hy)
/-- it knows at least what the old one knew -/
theorem cut_core {R : PM} {e : Nat → va_E} (hc : ∀ i : Nat, i < 11 → Rc (W i) = none) (hR : ∀ (b : Nat) (x : va_E), (∀ i : Nat, i < 11 → b ≠ W i) → KR Rc W e b = some x → R b = some x) : ∀ (b : Nat) (x : va_E), Rc b = some x → cutR R W b = some x := fun b x hb => by
  obtain ⟨k1, k2⟩ := KR_core (e := e) hc hb
  rw [cut_out k2]
  exact hR b x k2 k1
theorem CO.cut {R : PM} {e : Nat → va_E} (hW : SW E W a7 L xs) (hC : CO E W a7 Z fs Rc) (hR : ∀ (b : Nat) (x : va_E), (∀ i : Nat, i < 11 → b ≠ W i) → KR Rc W e b = some x → R b = some x) : CO E W a7 Z fs (cutR R W) := by
  have cc := cut_core hC.1 hR
  obtain ⟨c1, c2, ⟨f, f1, f2⟩, c4⟩ := hC
  refine ⟨fun i hi => cut_in hi, fun b x h1 h2 => cc b x (c2 b x h1 h2), ⟨f, cc _ _ f1, f2⟩, fun s hs => ?_⟩
  have t := c4 s hs
  revert t
  cases Z s with
  | none => exact fun t => t
  | some Q =>
    intro t
    obtain ⟨G, ad, t1, t2⟩ := t
    exact ⟨G, ad, t1, t2.more cc⟩
theorem s_1 (hW : SW E W a7 L xs) (hL : LW E BB W a7 S Z bf len le h) (hg : s_gh S 0 + 2 * len + 200 ≤ BB.1) (hg2 : s_gh S 1 + 18 * len + 6000 ≤ BB.2) : STEPL E W a7 S Z bf len le n j (br_1 n (some (sAd E 50)) (some (W 0)) (some (AW W a7 0)) (some (W 3)) (Int32.ofNat (5 * j)) h) := by
  obtain ⟨F, Rc, T, g, fs, fo, hS, hC, hG, hT⟩ := hL
  obtain ⟨⟨LL, pp, hr⟩, hT2⟩ := id hT
  have hE := hS.base.1
  have rm := hS.room
  have hX := kX (Rc := Rc) (T := T) (F := F) (len := len) (le := le) (g := g) (fs := fs) (fo := fo) hW
  unfold STEPL br_1
  rw [rv_at (hS.tr hX).1]
  -- the twin's text
  have lt : ∀ {S1 : SS} {T' : TS} {ans le1 : Int32}, LDR (x_sc T 1 0) T' (parse bf len) ans → q_sc T' 8 = le1 → (∃ (L' : List MG) (p' : Int32 × Int32), TR (true, p') S1 (L'.map some) (q_w T')) → LT S1 Z bf 0 le1 T' := fun {S1 T' ans le1} d h8 hr' => by
    obtain ⟨d1, d2, d3, d4, d5, -⟩ := d
    refine ⟨hr', ⟨Nat.zero_le _, d5, fun i hi => absurd hi (Nat.not_lt_zero i)⟩, h8, fun s hs => ?_⟩
    have t := hT.2.2.2 s hs
    revert t
    cases Z s with
    | none => exact fun t => by rw [d2]; exact t
    | some Q =>
      intro t
      obtain ⟨b1, L2, p2, b2⟩ := t
      exact ⟨by rw [d2]; exact b1, L2, p2, by rw [d1]; exact b2⟩
  have G0 : ∀ bf : Nat → Nat, CBF g bf 0 := fun bf => ⟨Nat.zero_le _, fun i hi => absurd hi (Nat.not_lt_zero i)⟩
  cases hp : parse bf len with
  | inl er =>
    obtain ⟨h1, c, k, e1, e2, e3, e4, e5, e6⟩ := x_loadE hS hX (hW.2.1 0 (by decide)) (kBf hW) (hW.2.1 1 (by decide)) hG hW.2.2.2.1 (kKE hW hC) (by omega) (by omega) hp
    have hS1 : SP E BB F (KR Rc W (eA E W a7 T (F 0) 0 (Int32.ofNat er.1) g fs fo)) (u_ct S c k) h1 := by
      refine e2.less (KR_le hW.1 (fun i hi => ?_) (fun b x hb hx => ?_))
      · by_cases i0 : i = 0
        · subst i0
          exact rU_at
        · rw [rU_ne (fun hy => i0 (hW.1 i 0 hi (by decide) hy)), KR_at hW.1 hi]
          by_cases i4 : 4 ≤ i
          · rw [eA_up i4]
          · rw [eA_lt (by omega), eA_lt (by omega)]
            unfold eC
            rw [if_neg i0, if_neg i0]
      · rw [rU_ne (hb 0 (by decide)), KR_out hb]
        exact hx
    obtain ⟨T', ans, t1, t2⟩ := t_load (kTA hW hS1.base.1) (kWRD hW hS1 hC) hT.2.1
    have t3 := t2
    rw [hp] at t3
    obtain ⟨d1, d2, d3, d4, d5, d6, d7, d8⟩ := t3
    refine ⟨u_ct S c k, Z, bf, 0, Int32.ofNat er.1, Or.inr (Or.inr (Or.inl ⟨rfl, rfl, ⟨c, k, rfl, e3, by omega, e5, e6⟩, er, hp, rfl⟩)), lj_gens hW hS1 hC (G0 bf) (T' := T') (lt t2 d7 ⟨LL, pp, by rw [d8]; exact hr⟩) t1 (e1.trans (by rw [d6])) (fun v h1 hE1 => rfl)⟩
  | inr c =>
    obtain ⟨F', R', h1, cl, sl, e1, e2, e3, e4, e5, e6, e7, e8, e9, e10⟩ := x_loadS hS hX (hW.2.1 0 (by decide)) (kBf hW) (hW.2.1 1 (by decide)) hG hW.2.2.2.1 (kKE hW hC) (by omega) (by omega) hp
    have hC1 : CO E W a7 Z fs (cutR R' W) := hC.cut hW (fun b x hb hx => e4 b x (hb 0 (by decide)) hx)
    have hS1 : SP E BB F' (KR (cutR R' W) W (eA E W a7 T (F' 0) 0 0 g fs fo)) (SC c cl sl) h1 := by
      refine e2.less (KR_le hW.1 (fun i hi => ?_) (fun b x hb hx => ?_))
      · by_cases i0 : i = 0
        · subst i0
          exact e3
        · have : R' (W i) = some (eA E W a7 T (F 0) len le g fs fo i) := e4 _ _ (fun hy => i0 (hW.1 i 0 hi (by decide) hy)) (KR_at hW.1 hi)
          rw [this]
          by_cases i4 : 4 ≤ i
          · rw [eA_up i4]
          · rw [eA_lt (by omega), eA_lt (by omega)]
            unfold eC
            rw [if_neg i0, if_neg i0]
      · rw [cut_out hb] at hx
        exact hx
    obtain ⟨T', ans, t1, t2⟩ := t_load (kTA hW hS1.base.1) (kWRD hW hS1 hC1) hT.2.1
    have t3 := t2
    rw [hp] at t3
    obtain ⟨d1, d2, d3, d4, d5, d6, d7, d8, d9, d10⟩ := t3
    refine ⟨SC c cl sl, Z, bf, 0, 0, Or.inr (Or.inr (Or.inr (Or.inl ⟨rfl, rfl, rfl, c, cl, sl, hp, e5, e6, rfl, e7, e8, e9, by omega⟩))), lj_gens hW hS1 hC1 (G0 bf) (T' := T') (lt t2 d7 ⟨[], (0, 0), TR_fresh d8 d10⟩) t1 (e1.trans (by rw [d6])) (fun v h1 hE1 => rfl)⟩
end GA
