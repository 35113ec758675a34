/-! ROOM: what is kept between calls, of one node -/
set_option maxRecDepth 100000
/-- Lt: the late times, c: marks (jitter 0), T: tokens (L6) -/
def KI (S : SS) (i : Nat) (Lt : List Int) (c T : Nat) : Prop :=
  cLt S i Lt S ∧ ((s_nd S i 5).toInt ∈ Lt ∧ (0 : Int) ∈ Lt) ∧ ((s_cf S 7).toInt = 0 → SPI i c S) ∧
  (2 * way S i < wayR S i → ∃ f : Nat, (f = 0 ∨ f = 1) ∧ (s_nd S i 3 = 0 → f = 0) ∧ (f = 0 → rl6 S S i Lt) ∧ max 1 (k6 S i Lt 2 + f) + nLt Lt (now S).toInt 6000000 ≤ T ∧ ((∀ t ∈ Lt, t ≤ 0) → k6 S i Lt 3 + f ≤ T))
section SIS
variable {S0 S S' : SS} {g g' : Nat → JG} {s e : Int} {Ls : Nat → List Int} {Lt : List Int} {f c T : Nat → Nat} {i : Nat}
theorem way_cs (h : CST S0 S) : way S i = way S0 i := by
  unfold way
  rw [h.ki (by decide), h.1]
theorem cLt_cs (h : CST S0 S) (hc : cLt S0 i Lt S) : cLt S i Lt S := by
  intro m hm hi
  obtain ⟨h0, h1, h2, h3⟩ := hc m hm hi
  unfold tOK
  rw [wayP_cs h, way_cs h, ← xT_cs h]
  exact ⟨h0, h1, h2, h3⟩
theorem rl6_cs (h : CST S0 S) (hc : rl6 S0 S i Lt) : rl6 S S i Lt := by
  unfold rl6 at hc ⊢
  rw [way_cs h]
  exact hc
/-- a run's start -/
theorem RH_of (hI : Inv S0) (hS : ∀ i : Nat, i < s_n S0 → KI S0 i (Ls i) (c i) (T i)) (h1 : (now S0).toInt ≤ s) (h2 : s < e) (h3 : e ≤ s + 5000) (h4 : ∀ x : Int, EV S0 x → s < x) (h5 : e ≤ 5000000) :
    ∃ f : Nat → Nat, RH S0 s e Ls f c (fun i => T i - nLt (Ls i) e 6000000) ∧ ∀ i : Nat, i < s_n S0 → f i ≤ 1 := by
  have key : ∀ i : Nat, ∃ fi : Nat, i < s_n S0 → fi ≤ 1 ∧ (2 * way S0 i < wayR S0 i → (fi = 0 ∨ fi = 1) ∧ (fi = 0 → rl6 S0 S0 i (Ls i)) ∧ max 1 (k6 S0 i (Ls i) 2 + fi) + nLt (Ls i) s e ≤ T i - nLt (Ls i) e 6000000 ∧ ((∀ t ∈ Ls i, t ≤ 0) → k6 S0 i (Ls i) 3 + fi ≤ T i - nLt (Ls i) e 6000000)) ∧ (¬ 2 * way S0 i < wayR S0 i ∨ s_nd S0 i 3 = 0 → fi = 0) := fun i => by
    by_cases hi : i < s_n S0
    · by_cases k : 2 * way S0 i < wayR S0 i
      · obtain ⟨fi, f1, f2, f3, f4, f5⟩ := (hS i hi).2.2.2 k
        refine ⟨fi, fun _ => ⟨by omega, fun _ => ⟨f1, f3, ?_, fun np => ?_⟩, fun h => ?_⟩⟩
        · have a := nLt_add (l := Ls i) h1 (Int.le_of_lt h2)
          have b := nLt_add (s := (now S0).toInt) (a := e) (b := 6000000) (l := Ls i) (by omega) (by omega)
          omega
        · have z : nLt (Ls i) e 6000000 = 0 := by
            unfold nLt
            rw [List.countP_eq_zero]
            intro x hx
            have := np x hx
            have w := hI.2.2.2.1.1.1
            simp
            omega
          have := f5 np
          omega
        · rcases h with h | h
          · exact absurd k h
          · exact f2 h
      · exact ⟨0, fun _ => ⟨by omega, fun h => absurd h k, fun _ => rfl⟩⟩
    · exact ⟨0, fun h => absurd h hi⟩
  obtain ⟨f, hf⟩ := Classical.axiomOfChoice key
  exact ⟨f, ⟨⟨h1, h2, h3⟩, h4, fun i hi => ⟨(hS i hi).1, (hS i hi).2.1.1⟩, fun hj i hi => (hS i hi).2.2.1 hj, fun i hi => (hf i hi).2⟩, fun i hi => (hf i hi).1⟩
/-- a run's end -/
theorem KI_run (hs0 : 0 ≤ s) (hS : ∀ i : Nat, i < s_n S0 → KI S0 i (Ls i) (c i) (T i)) (H : RH S0 s e Ls f c (fun i => T i - nLt (Ls i) e 6000000)) (h5 : e ≤ 5000000) (hc : CST S0 S) (hw : s < (now S).toInt) (hne : (now S).toInt ≤ e) (hl : ∀ i : Nat, jl (g i) ≤ max (now S).toInt s) (hF : FA S0 s e Ls f c (fun i => T i - nLt (Ls i) e 6000000) S g) : ∀ i : Nat, i < s_n S → KI S i (Ls i) (c i) (T i) := by
  intro i hi
  rw [hc.2.1] at hi
  obtain ⟨b1, b2, b3, b4, b5, b6, b7, b8, b9⟩ := hF.2.1 i hi
  obtain ⟨⟨h1, h2, h3⟩, h4, -, -, h7⟩ := H
  have s0 := hS i hi
  have l := hl i
  refine ⟨cLt_cs hc b5, ⟨by rw [hc.ki (by decide)]; exact s0.2.1.1, s0.2.1.2⟩, fun hj => ?_, fun k => ?_⟩
  · exact cI_1 (b7 (by rw [← hc.1]; exact hj)) (by omega) (by rw [hc.ki (by decide)])
  · rw [way_cs hc, wayR_cs hc] at k
    obtain ⟨k1, k2, k3, k4⟩ := (h7 i hi).1 k
    obtain ⟨⟨c1, c2, -, -⟩, c5⟩ := b8 k
    dsimp only at k3 k4 c1 c5
    have e3 : s_nd S i 3 = s_nd S0 i 3 := hc.ki (by decide)
    have fl : jf (g i) ≠ 0 → s_nd S i 8 ≠ -4 → 0 < jf (g i) := fun h _ => by omega
    obtain ⟨v1, v2, v3⟩ := b6
    have q1 := nLt_add (l := Ls i) (Int.le_of_lt hw) hne
    have q2 := nLt_add (s := (now S).toInt) (a := e) (b := 6000000) (l := Ls i) hne (by omega)
    have q3 : nLt (Ls i) s (jl (g i)) ≤ nLt (Ls i) s (now S).toInt := nLt_mono (by omega)
    have kz : ∀ cc B : Nat, cVt (fm6 i (Ls i) cc) (fun _ => 1) 0 1 B i S g → k6 S i (Ls i) cc + (if jf (g i) = 1 ∧ s_nd S i 8 ≠ -4 then 1 else 0) ≤ B + jL (g i) := fun cc B h => by
      unfold cVt tW1 at h
      dsimp only at h
      unfold k6
      omega
    by_cases z : jf (g i) = 0 ∨ s_nd S i 8 = -4 ∨ s_nd S i 3 = 0
    · refine ⟨0, Or.inl rfl, fun _ => rfl, fun _ => ?_, ?_, fun np => ?_⟩
      · rcases z with z | z | z
        · exact rl6_cs hc (c2 z)
        · exact Or.inl z
        · exact Or.inr (Or.inl z)
      · have a := kz _ _ c1
        clear v3
        omega
      · have a := kz _ _ (c5 np).1
        clear v3
        have nz : nLt (Ls i) s (jl (g i)) = 0 := by
          unfold nLt
          rw [List.countP_eq_zero]
          intro x hx
          have := np x hx
          simp
          omega
        omega
    · have z1 : jf (g i) ≠ 0 := fun h => z (Or.inl h)
      have z2 : s_nd S i 8 ≠ -4 := fun h => z (Or.inr (Or.inl h))
      have z3 : s_nd S i 3 ≠ 0 := fun h => z (Or.inr (Or.inr h))
      refine ⟨1, Or.inr rfl, fun h => absurd h z3, fun h => absurd h (by decide), ?_, fun np => ?_⟩
      · have a := kz _ _ c1
        by_cases y : jf (g i) = 1
        · rw [if_pos ⟨y, z2⟩] at a
          omega
        · obtain ⟨x, x1, x2, x3⟩ := v3 (by omega)
          have := nLt_up (s := s) b1.1 x2 x3 x1
          rw [if_neg (fun h => y h.1)] at a
          omega
      · have a := kz _ _ (c5 np).1
        have nz : nLt (Ls i) s (jl (g i)) = 0 := by
          unfold nLt
          rw [List.countP_eq_zero]
          intro x hx
          have := np x hx
          simp
          omega
        by_cases y : jf (g i) = 1
        · rw [if_pos ⟨y, z2⟩] at a
          omega
        · obtain ⟨x, x1, x2, x3⟩ := v3 (by omega)
          have := np x x1
          have := b1.1
          omega
end SIS
