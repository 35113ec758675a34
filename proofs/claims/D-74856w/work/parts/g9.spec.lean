/-! THE LAW: appendByte, load, snapshots -/
set_option maxRecDepth 100000
/-- what a call may do to the law's state -/
def NXL (S : SS) (Z : Nat → Option SS) (bf : Nat → Nat) (len : Nat) (le : Int32) (S' : SS) (Z' : Nat → Option SS) (bf' : Nat → Nat) (len' : Nat) (le' : Int32) : Prop :=
  (NXS S S' ∧ Z' = Z ∧ bf' = bf ∧ len' = len ∧ le' = le) ∨
  (S' = S ∧ Z' = Z ∧ le' = le ∧ len' = len + 1 ∧ len < 400 ∧ ∃ v : Nat, v < 256 ∧ bf' = fu bf len v) ∨
  (Z' = Z ∧ len' = 0 ∧ (∃ c k : Nat, S' = u_ct S c k ∧ s_gh S 0 ≤ c ∧ c ≤ s_gh S 0 + 2 * len + 60 ∧ s_gh S 1 ≤ k ∧ k ≤ s_gh S 1 + 18 * len + 3800) ∧ ∃ e : Nat × Nat, parse bf len = .inl e ∧ le' = Int32.ofNat e.1) ∨
  (Z' = Z ∧ len' = 0 ∧ le' = 0 ∧ ∃ (c : CS) (cl sl : Nat), parse bf len = .inr c ∧ 1 ≤ c.2.1.length ∧ c.2.1.length ≤ 6 ∧ S' = SC c cl sl ∧ s_gh S 0 ≤ cl ∧ cl ≤ s_gh S 0 + 2 * len + 60 ∧ s_gh S 1 ≤ sl ∧ sl ≤ s_gh S 1 + 18 * len + 3800) ∨
  (bf' = bf ∧ len' = len ∧ le' = le ∧ S' = ctS S (copyS S) ∧ ∃ s : Nat, s < 2 ∧ Z' = fu Z s (some (copyS S))) ∨
  (bf' = bf ∧ len' = len ∧ le' = le ∧ Z' = Z ∧ ∃ (s : Nat) (Q : SS), s < 2 ∧ Z s = some Q ∧ S' = copyS (ctS Q S))
def STEPL (E : PE) (W : Nat → Nat) (a7 : Nat) (S : SS) (Z : Nat → Option SS) (bf : Nat → Nat) (len : Nat) (le : Int32) (n j : Nat) (o : Option (Int32 × PH)) : Prop := ∃ (S' : SS) (Z' : Nat → Option SS) (bf' : Nat → Nat) (len' : Nat) (le' : Int32), NXL S Z bf len le S' Z' bf' len' le' ∧ ∃ h' : PH, o = f_L_law_L23 n (some (sAd E 50)) (some (W 0)) (some (AW W a7 0)) (some (W 3)) (Int32.ofNat (5 * j) + (5 : Int32)) h' ∧ LW E BB W a7 S' Z' bf' len' le' h' ∧ h'.2.1 = E
theorem STEP.l {E : PE} {W : Nat → Nat} {a7 : Nat} {S : SS} {Z : Nat → Option SS} {bf : Nat → Nat} {len : Nat} {le : Int32} {n j : Nat} {o : Option (Int32 × PH)} (h : STEP E W a7 S Z bf len le n j o) : STEPL E W a7 S Z bf len le n j o := by
  obtain ⟨S', h1, h2⟩ := h
  exact ⟨S', Z, bf, len, le, Or.inl ⟨h1, rfl, rfl, rfl, rfl⟩, h2⟩
section G9
variable {E : PE} {W : Nat → Nat} {a7 L len : Nat} {xs : Nat → Int32} {S S' : SS} {Z Z' : Nat → Option SS} {bf bf' : Nat → Nat} {le : Int32} {h h1 : PH} {n j : Nat} {F : Nat → Nat} {Rc : PM} {T T' : TS} {g g' : Nat → Int32} {fs fs' : Nat → Option Nat} {fo : Nat → Int64} {len' : Nat} {le' : Int32} {e e' : Nat → va_E}
theorem KR_le (hW : WI11 W) {R : PM} (h1 : ∀ i : Nat, i < 11 → R (W i) = some (e i)) (h2 : ∀ (b : Nat) (x : va_E), (∀ i : Nat, i < 11 → b ≠ W i) → Rc b = some x → R b = some x) : ∀ (b : Nat) (x : va_E), KR Rc W e b = some x → R b = some x := fun b x hb => by
  rcases KR_cases (W := W) (b := b) with ⟨i, hi, rfl⟩ | hb'
  · rw [KR_at hW hi] at hb
    rw [h1 i hi]
    exact hb
  · rw [KR_out hb'] at hb
    exact h2 b x hb' hb
/-- both calls are over (one that may throw) -/
theorem lj_gen (hW : SW E W a7 L xs) (hs : SP E BB F (KR Rc W (eA E W a7 T (F 0) len le g fs fo)) S h1) (hC : CO E W a7 Z fs Rc) (hG : CBF g bf len) (hT : LT S Z bf len le T') {code ans : Int32} (hc : q_sc T' 1 = code) (hf : code = 0 → fo 0 = ans.toInt64) {D : PH → Option (Int32 × PH)} (hD : D (tw (AW W a7) T h1) = some (ans, tw (AW W a7) T' h1)) {C : Option (Int32 × PH)} (ho : C = some (code, h1)) {Q : Int32 → PH → Option (Int32 × PH)} {Kk N : PH → Option (Int32 × PH)}
    (hQ : ∀ (v : Int32) (h1 : PH), h1.2.1 = E → Q v h1 = rv_ h1 (some (AW W a7 0)) 6 (cl_ (D h1) fun w h2 => rv_ h2 (some (AW W a7 0)) 6 (cl_ (f_X7_thrown (some (AW W a7 0)) h2) fun y h3 => if y = v then (if v = 0 then aL h3 (some (W 3)) 2 (0 : Int32) fun z => if (lg_cmp z w.toInt64) = 0 then Kk h3 else N h3 else Kk h3) else N h3))) :
    ∃ h' : PH, cl_ C Q = Kk h' ∧ LW E BB W a7 S Z bf len le h' ∧ h'.2.1 = E := by
  have hE := hs.base.1
  have s1 : SP E BB F (KR Rc W (eA E W a7 T' (F 0) len le g fs fo)) S (tw (AW W a7) T' h1) := hs.twin hW.1 (fun i hi => AW_lt hi)
  rw [kTW hW hs] at hD
  refine ⟨tw (AW W a7) T' h1, ?_, ⟨F, Rc, T', g, fs, fo, s1, hC, hG, hT⟩, hE⟩
  have r1 : ∀ {β : Type} (K : Option β), rv_ h1 (some (AW W a7 0)) 6 K = K := fun K => rv_at (hs.tr (kT hW (i := 0) (by decide))).1
  have r2 : ∀ {β : Type} (K : Option β), rv_ (tw (AW W a7) T' h1) (some (AW W a7 0)) 6 K = K := fun K => rv_at (tw_0 (A := AW W a7))
  have r3 : f_X7_thrown (some (AW W a7 0)) (tw (AW W a7) T' h1) = some (code, tw (AW W a7) T' h1) := by
    unfold f_X7_thrown
    rw [gI_at (tw_0 (A := AW W a7)) (v := q_sc T' 1) rfl, hc]
  have e3 := (s1.tr (k3 hW)).1
  have e3' : (tw (AW W a7) T' h1).1 (W 3) = some (.inl ((tw (AW W a7) T' h1).2.1.2.1 2, 1, .inr (.inl fo))) := by
    rw [s1.base.1]; exact e3
  have hb : pbase (tw (AW W a7) T' h1) ≤ W 3 := by
    unfold pbase
    rw [s1.base.1]
    exact hW.2.1 3 (by decide)
  have r4 : ∀ (K : Int64 → Option (Int32 × PH)), aL (tw (AW W a7) T' h1) (some (W 3)) 2 (0 : Int32) K = K (fo 0) := fun K => aL_at (n := 1) e3' (show inR (Int32.ofNat 0) 1 from inR_of (by decide) (by decide)) hb
  rw [ho, cl_eq rfl, hQ code h1 hE, r1, cl_eq hD, r2, cl_eq r3, if_pos rfl]
  by_cases h0 : code = 0
  · rw [if_pos h0, r4, hf h0, if_pos lg_cmp0]
  · rw [if_neg h0]
/-- both calls are over (one that can't throw) -/
theorem lj_gens (hW : SW E W a7 L xs) (hs : SP E BB F (KR Rc W (eA E W a7 T (F 0) len le g fs fo)) S h1) (hC : CO E W a7 Z fs Rc) (hG : CBF g bf len) (hT : LT S Z bf len le T') {ans : Int32} {D : PH → Option (Int32 × PH)} (hD : D (tw (AW W a7) T h1) = some (ans, tw (AW W a7) T' h1)) {C : Option (Int32 × PH)} (ho : C = some (ans, h1)) {Q : Int32 → PH → Option (Int32 × PH)} {Kk N : PH → Option (Int32 × PH)}
    (hQ : ∀ (v : Int32) (h1 : PH), h1.2.1 = E → Q v h1 = rv_ h1 (some (AW W a7 0)) 6 (cl_ (D h1) fun w h2 => if v = w then Kk h2 else N h2)) :
    ∃ h' : PH, cl_ C Q = Kk h' ∧ LW E BB W a7 S Z bf len le h' ∧ h'.2.1 = E := by
  have hE := hs.base.1
  have s1 : SP E BB F (KR Rc W (eA E W a7 T' (F 0) len le g fs fo)) S (tw (AW W a7) T' h1) := hs.twin hW.1 (fun i hi => AW_lt hi)
  rw [kTW hW hs] at hD
  refine ⟨tw (AW W a7) T' h1, ?_, ⟨F, Rc, T', g, fs, fo, s1, hC, hG, hT⟩, hE⟩
  have r1 : ∀ {β : Type} (K : Option β), rv_ h1 (some (AW W a7 0)) 6 K = K := fun K => rv_at (hs.tr (kT hW (i := 0) (by decide))).1
  rw [ho, cl_eq rfl, hQ ans h1 hE, r1, cl_eq hD, if_pos rfl]
theorem eA_lt {i : Nat} (hi : i < 4) : eA E W a7 T (F 0) len le g fs fo i = eC E W (F 0) len le g fs fo i := by
  unfold eA eT
  exact if_neg (by omega)
theorem kBf (hW : SW E W a7 L xs) : KR Rc W (eA E W a7 T (F 0) len le g fs fo) (W 1) = some (.inl (E.2.1 1, 400, .inl g)) := KR_at hW.1 (by decide)
theorem kSl (hW : SW E W a7 L xs) : KR Rc W (eA E W a7 T (F 0) len le g fs fo) (W 2) = some (.inl (E.2.1 6, 2, refs fs)) := KR_at hW.1 (by decide)
/-- two contents that agree but for those of the component -/
theorem eA_up {F' : Nat → Nat} {fo' : Nat → Int64} {i : Nat} (hi : 4 ≤ i) : eA E W a7 T (F 0) len le g fs fo i = eA E W a7 T (F' 0) len' le' g' fs' fo' i := by
  unfold eA eT
  rw [if_pos hi, if_pos hi]
theorem s_0 (hW : SW E W a7 L xs) (hL : LW E BB W a7 S Z bf len le h) (hF : FT S) (hj : 5 * j + 5 ≤ L) : STEPL E W a7 S Z bf len le n j (br_0 n (some (sAd E 50)) (some (W 0)) (some (AW W a7 0)) (some (W 3)) (Int32.ofNat (5 * j)) h) := by
  obtain ⟨F, Rc, T, g, fs, fo, hS, hC, hG, hT⟩ := hL
  obtain ⟨⟨LL, pp, hr⟩, hT2⟩ := id hT
  have hE := hS.base.1
  have hX := kX (Rc := Rc) (T := T) (F := F) (len := len) (le := le) (g := g) (fs := fs) (fo := fo) hW
  have hB6 : fitB BB (g_mk S 1 6) := hF.1 _ (Or.inl rfl)
  have e1 : Int32.ofNat (5 * j) + (1 : Int32) = Int32.ofNat (5 * j + 1) := of_add _ 1
  obtain ⟨p1, hp1⟩ : ∃ p1, xs (5 * j + 1) = p1 := ⟨_, rfl⟩
  unfold STEPL br_0
  rw [e1, sa_at hW hE (k := 5 * j + 1) (by omega), hp1]
  have TA1 := kTA hW hE
  by_cases hp : iv p1 0 255
  · by_cases h4 : len = 400
    · subst h4
      obtain ⟨fo', h', l1, l2, l3⟩ := l_out (ans := (-5 : Int32).toInt64) hW hS
      have ta := (t_append (kTA hW l2.base.1) hT.2.1 (p := p1)).2.1 hp rfl
      refine ⟨S, Z, bf, 400, le, Or.inl ⟨Or.inl rfl, rfl, rfl, rfl, rfl⟩, lj_gen (code := 0) hW l2 hC hG (T' := x_sc T 1 0) ⟨⟨LL, pp, hr⟩, ⟨hT.2.1.1, (q_sne (by decide)).trans hT.2.1.2.1, hT.2.1.2.2⟩, (q_sne (by decide)).trans hT.2.2.1, hT.2.2.2⟩ q_seq (fun _ => l3) ta ?_ (fun v h1 hE1 => by rw [sa_at hW hE1 (k := 5 * j + 1) (by omega), hp1]; rfl)⟩
      unfold f_X0_appendByte
      rw [rv_at (hS.tr hX).1, cl_eq (x_append4 hS hX hp)]
      exact l1 _
    · obtain ⟨g', h1, a1, a2, a3⟩ := x_append hS hX (hW.2.1 0 (by decide)) (kBf hW) (hW.2.1 1 (by decide)) hG h4 hp
      have hS1 : SP E BB F (KR Rc W (eA E W a7 T (F 0) (len + 1) le g' fs fo)) S h1 := by
        refine a2.less (KR_le hW.1 (fun i hi => ?_) (fun b x hb hx => ?_))
        · by_cases i0 : i = 0
          · subst i0
            exact rU_at
          · rw [rU_ne (fun hy => i0 (hW.1 i 0 hi (by decide) hy))]
            by_cases i1 : i = 1
            · subst i1
              exact rU_at
            · rw [rU_ne (fun hy => i1 (hW.1 i 1 hi (by decide) hy)), KR_at hW.1 hi]
              by_cases i4 : 4 ≤ i
              · rw [eA_up i4]
              · rw [eA_lt (by omega), eA_lt (by omega)]
                unfold eC
                rw [if_neg i0, if_neg i0, if_neg i1, if_neg i1]
        · rw [rU_ne (hb 0 (by decide)), rU_ne (hb 1 (by decide)), KR_out hb]
          exact hx
      obtain ⟨fo', h', l1, l2, l3⟩ := l_out (ans := (Int32.ofNat (len + 1)).toInt64) hW hS1
      have h400 := hG.1
      obtain ⟨T', ta, t1, t2, t3, t4, t5, t6⟩ := (t_append (kTA hW l2.base.1) hT.2.1 (p := p1)).2.2 hp h4
      have hv : p1.toInt.toNat < 256 := by
        have := hp.1
        have := hp.2
        omega
      refine ⟨S, Z, fu bf len p1.toInt.toNat, len + 1, le, Or.inr (Or.inl ⟨rfl, rfl, rfl, rfl, by omega, _, hv, rfl⟩), lj_gen (code := 0) hW l2 hC a3 (T' := T') ⟨⟨LL, pp, by rw [t3]; exact hr⟩, t1, t6.trans hT.2.2.1, fun s hs => ?_⟩ t2 (fun _ => l3) ta ?_ (fun v h1 hE1 => by rw [sa_at hW hE1 (k := 5 * j + 1) (by omega), hp1]; rfl)⟩
      · have t := hT.2.2.2 s hs
        revert t
        cases Z s with
        | none => exact fun t => by rw [t5]; exact t
        | some Q =>
          intro t
          obtain ⟨b1, L2, p2, b2⟩ := t
          exact ⟨by rw [t5]; exact b1, L2, p2, by rw [t4]; exact b2⟩
      · unfold f_X0_appendByte
        rw [rv_at (hS.tr hX).1, cl_eq a1]
        exact l1 _
  · obtain ⟨⟨z, h1⟩, o1, ⟨q, o2, o3⟩, o4⟩ := x_appendP hS hB6 hp (X := W 0)
    dsimp only at o2 o3 o4
    subst o2
    have ta := (t_append (kTA hW o4.base.1) hT.2.1 (p := p1)).1 hp
    refine ⟨g_mk S 1 6, Z, bf, len, le, Or.inl ⟨Or.inr (Or.inl rfl), rfl, rfl, rfl, rfl⟩, lj_gen (code := 1) hW o4 hC hG (T' := x_sc T 1 1) ⟨⟨LL, pp, hr⟩, ⟨hT.2.1.1, (q_sne (by decide)).trans hT.2.1.2.1, hT.2.1.2.2⟩, (q_sne (by decide)).trans hT.2.2.1, hT.2.2.2⟩ q_seq (fun hy => absurd hy (by decide)) ta ?_ (fun v h1 hE1 => by rw [sa_at hW hE1 (k := 5 * j + 1) (by omega), hp1]; rfl)⟩
    unfold f_X0_appendByte
    rw [rv_at (hS.tr hX).1, cl_eq o1]
    exact (if_pos rfl).trans (if_pos o3)
end G9
