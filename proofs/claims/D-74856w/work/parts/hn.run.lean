/-! ROOM: THE RUN: all counts together -/
set_option maxRecDepth 100000
/-- what a run begins with: late times Ls, flags f, marks c (jitter 0), tokens T (L6) -/
def RH (S0 : SS) (s e : Int) (Ls : Nat → List Int) (f c T : Nat → Nat) : Prop :=
  ((now S0).toInt ≤ s ∧ s < e ∧ e ≤ s + 5000) ∧ (∀ x : Int, EV S0 x → s < x) ∧
  (∀ i : Nat, i < s_n S0 → cLt S0 i (Ls i) S0 ∧ (s_nd S0 i 5).toInt ∈ Ls i) ∧
  ((s_cf S0 7).toInt = 0 → ∀ i : Nat, i < s_n S0 → SPI i (c i) S0) ∧
  (∀ i : Nat, i < s_n S0 → (2 * way S0 i < wayR S0 i → (f i = 0 ∨ f i = 1) ∧ (f i = 0 → rl6 S0 S0 i (Ls i)) ∧ max 1 (k6 S0 i (Ls i) 2 + f i) + nLt (Ls i) s e ≤ T i ∧ ((∀ t ∈ Ls i, t ≤ 0) → k6 S0 i (Ls i) 3 + f i ≤ T i)) ∧ (¬ 2 * way S0 i < wayR S0 i ∨ s_nd S0 i 3 = 0 → f i = 0))
/-- the pair's law: both are candidates, the lease and the server's clock as by default -/
def PH7 (S0 : SS) (s lam : Int) : Prop := s_cf S0 0 = 1000 ∧ s_cf S0 1 = 0 ∧ s_cf S0 3 = 5000 ∧ 0 ≤ lam ∧ (∀ i : Nat, i < s_n S0 → s_nd S0 i 3 ≠ 0) ∧ ∀ m ∈ s_ms S0, m.1 = 3 → tmJ m ≤ s + lam
/-- nothing but campaigns and runs so far -/
def PR (S : SS) : Prop := (∀ m ∈ s_ms S, m.1 ≤ 2) ∧ s_dl S = [] ∧ ∀ i : Nat, i < s_n S → s_nd S i 2 = 1 ∧ s_nd S i 5 = 0 ∧ (s_nd S i 3 = 0 → mN S i = 0)
/-- no RELEASE was ever made -/
def NR (S : SS) : Prop := (∀ m ∈ s_ms S, m.1 ≠ 3) ∧ ∀ i : Nat, i < s_n S → s_nd S i 3 = 0 → mN S i = 0
/-- the spacing of G-fires -/
def spN (S0 : SS) (i : Nat) : Nat := max 2 ((wayP S0 i : Int) - 2 * way S0 i + 1).toNat
/-- the period of a token -/
def perN (S0 : SS) (i : Nat) : Nat := max (wayP S0 i) (2 * (s_nd S0 i 1).toInt + 1).toNat
/-- of one node -/
def FN (S0 : SS) (s e : Int) (Ls : Nat → List Int) (f c T : Nat → Nat) (i : Nat) (S : SS) (g : Nat → JG) : Prop :=
  cA s (wayR S0 i) (spN S0 i) i S g ∧
  cW (fmB S0 i s e (perN S0 i)) (fun t => Nn s e (perN S0 i) t.toInt) 1 (Nn s e (perN S0 i) (s + 1)) (Nn s e (perN S0 i) (s + 1) * (kN S0 i + f i)) i S g ∧
  cW (fmM i) (fun _ => 1) 0 1 (mN S0 i + f i) i S g ∧ cAI (aqN S0 i) i S g ∧ cLt S0 i (Ls i) S ∧ cLV s i (Ls i) S g ∧
  ((s_cf S0 7).toInt = 0 → cI s (s_nd S0 i 1).toInt i (c i) S g) ∧
  (2 * way S0 i < wayR S0 i → c6 S0 s i (Ls i) 2 (T i - nLt (Ls i) s e) S g ∧ ((∀ t ∈ Ls i, t ≤ 0) → c6 S0 s i (Ls i) 3 (T i) S g)) ∧
  (s_nd S0 i 3 = 0 → jF (g i) = 0)
def FA (S0 : SS) (s e : Int) (Ls : Nat → List Int) (f c T : Nat → Nat) (S : SS) (g : Nat → JG) : Prop :=
  (∀ i : Nat, jl (g i) ≤ e) ∧ (∀ i : Nat, i < s_n S0 → FN S0 s e Ls f c T i S g) ∧
  cM ((s_ms S0).length + (s_dl S0).length + sN (s_n S0) f) (s_n S0) S g ∧ cG (wt S0) 7 0 (GH S0 + wtN S0 + 10 * (s_dl S0).length) (s_n S0) S g ∧ cG (wz S0) 3 4 (GH S0 + wzN S0 + 10 * (s_dl S0).length) (s_n S0) S g ∧ oN S ≤ oN S0 ∧ (PR S0 → ∀ m ∈ s_ms S, m.1 ≤ 2) ∧ (NR S0 → ∀ m ∈ s_ms S, m.1 ≠ 3) ∧
  ∀ lam : Int, PH7 S0 s lam → c7 S0 s e lam Ls S g
section RNS
variable {S0 S S' : SS} {g g' : Nat → JG} {s e : Int} {Ls : Nat → List Int} {f c T : Nat → Nat} {i : Nat}
theorem way_1 (hI : Inv S0) (hi : i < s_n S0) : 1 ≤ way S0 i := by
  have a := (hI.2.1 i hi).2.2.1.1
  have b := hI.1.2.2.2.2.2.2.1.1
  unfold way
  omega
theorem cA_jl {R sp : Nat} (h : cA s R sp i S g) (hf : jF (g i) ≠ 0) : s < jl (g i) := by
  obtain ⟨⟨c, b1, b2⟩, -⟩ := h.2 hf
  rcases b1 with ⟨rfl, q⟩ | ⟨rfl, q⟩ | ⟨rfl, q⟩
  · have : c * 1 ≤ c * jG (g i) := Nat.mul_le_mul_left c q
    omega
  · have : c * 1 ≤ c * jR (g i) := Nat.mul_le_mul_left c q
    omega
  · omega
theorem spN_2 : 2 ≤ spN S0 i := Nat.le_max_left _ _
theorem perN_b (hI : Inv S0) (hi : i < s_n S0) : 45 ≤ perN S0 i ∧ (perN S0 i ≤ wayP S0 i ∨ (perN S0 i : Int) ≤ 2 * (s_nd S0 i 1).toInt + 1) := by
  have a := (wayR_45 hI hi).2
  have b := (hI.2.1 i hi).2.2.1.1
  unfold perN
  omega
theorem jf_g0 : jf (g00 s f i) = f i := rfl
theorem FA_0 (hI : Inv S0) (H : RH S0 s e Ls f c T) : FA S0 s e Ls f c T S0 (g00 s f) := by
  obtain ⟨⟨h1, h2, h3⟩, h4, h5, h6, h7⟩ := H
  have ff : ∀ i : Nat, i < s_n S0 → f i ≤ 1 := fun i hi => by
    by_cases k : 2 * way S0 i < wayR S0 i
    · have := ((h7 i hi).1 k).1
      omega
    · have := (h7 i hi).2 (Or.inl k)
      omega
  refine ⟨fun i => Int.le_of_lt h2, fun i hi => ⟨⟨Int.le_refl _, fun h => absurd rfl h⟩, ?_, ?_, ?_, (h5 i hi).1, ⟨Nat.le_trans (ff i hi) (by decide), Nat.zero_le _, fun hf => ?_⟩, fun hj => cI_0 (h6 hj i hi) rfl h1, fun k => ?_, fun _ => rfl⟩, ?_, ?_, ?_, Nat.le_refl _, fun h => h.1, fun h => h.1, fun lam hp => ?_⟩
  · unfold cW
    have a := sum_mul (f := fmB S0 i s e (perN S0 i)) (k := fmK i) (b := Nn s e (perN S0 i) (s + 1)) (l := s_ms S0) (fun q => by
      unfold fmB fmK
      split
      · rw [Nat.mul_one]
        exact Nn_top
      · exact Nat.zero_le _)
    have c1 : jF (g00 s f i) = 0 := rfl
    have b : tW (fun t => Nn s e (perN S0 i) t.toInt) S0 (g00 s f i) i ≤ Nn s e (perN S0 i) (s + 1) * f i := by
      have := ff i hi
      by_cases z : f i = 0
      · rw [tW_zero (show jf (g00 s f i) = 0 from z)]
        exact Nat.zero_le _
      · rw [show f i = 1 from by omega, Nat.mul_one]
        exact Nat.le_trans tW_le Nn_top
    rw [c1, Nat.mul_add]
    unfold kN
    omega
  · unfold cW mN
    have b : tW (fun _ => 1) S0 (g00 s f i) i ≤ f i := by
      have := ff i hi
      by_cases z : f i = 0
      · rw [tW_zero (show jf (g00 s f i) = 0 from z)]
        exact Nat.zero_le _
      · rw [show f i = 1 from by omega]
        exact tW_le
    omega
  · unfold cAI
    show 0 + _ ≤ _ + 0
    omega
  · have := ff i hi
    have : f i = 2 := hf
    omega
  · obtain ⟨k1, k2, k3, k4⟩ := (h7 i hi).1 k
    have z : ∀ (cc B : Nat), 1 ≤ cc → k6 S0 i (Ls i) cc + f i ≤ B → c6 S0 s i (Ls i) cc B S0 (g00 s f) := fun cc B hcc hB => by
      have t1 : ∀ (ft : Int32 → Nat) (n : Nat), (∀ t : Int32, ft t ≤ n) → tW1 ft S0 (g00 s f i) i ≤ n * f i := fun ft n hn => by
        rcases k1 with q | q
        · rw [tW1_zero (show jf (g00 s f i) ≠ 1 from by rw [jf_g0, q]; decide)]
          exact Nat.zero_le _
        · rw [q, Nat.mul_one]
          exact Nat.le_trans tW1_le (hn _)
      refine ⟨?_, k2, fun e' he' => ?_, Or.inl rfl⟩
      · unfold cVt
        have := t1 (fun _ => 1) 1 (fun _ => Nat.le_refl _)
        unfold k6 at hB
        omega
      · unfold cVt
        have c1 : jF (g00 s f i) = 0 := rfl
        have c2 : jL (g00 s f i) = 0 := rfl
        have a := sum_mul (f := fmB6 S0 i s e' (Ls i)) (k := fm6 i (Ls i) cc) (b := Nn s e' 45 (s + 1)) (l := s_ms S0) (fun q => by
          unfold fmB6 fm6
          by_cases y : q.2.1 = i ∧ (q.1 = 0 ∨ (q.1 = 1 ∧ tmJ q ∉ Ls i))
          · by_cases y2 : q.2.1 = i ∧ q.1 ≤ cc ∧ (q.1 = 0 ∨ tmJ q ∉ Ls i)
            · rw [if_pos y, if_pos y2, Nat.mul_one]
              exact Nn_top
            · exfalso
              refine y2 ⟨y.1, by omega, ?_⟩
              rcases y.2 with q | q
              · exact Or.inl q
              · exact Or.inr q.2
          · rw [if_neg y]
            exact Nat.zero_le _)
        have b := t1 (fun t => Nn s e' 45 t.toInt) _ (fun t => Nn_top)
        have m := Nat.mul_le_mul_left (Nn s e' 45 (s + 1)) hB
        rw [Nat.mul_add] at m
        rw [c1, c2, Nat.mul_comm B]
        unfold k6 at m
        omega
    exact ⟨z 2 _ (by decide) (by omega), fun hl => z 3 _ (by decide) (k4 hl)⟩
  · unfold cM
    have : sN (s_n S0) (fun j => if jf (g00 s f j) = 0 then 0 else 1) ≤ sN (s_n S0) f := sN_le (fun j hj => by
      show (if f j = 0 then 0 else 1) ≤ f j
      split <;> omega)
    omega
  · unfold cG wtN
    omega
  · unfold cG wzN
    omega
  · refine ⟨hp.2.2.2.2.2, s_n S0, fun h => absurd h (by omega), fun m hm m1 _ => ?_, fun j hj _ => ⟨fun hf => ?_, Or.inl rfl⟩⟩
    · have hmi := (hI.2.2.2.2.1 m hm).1.2.1
      rcases ((h5 m.2.1 hmi).1 m hm rfl).2.1 m1 with q | q
      · left
        have := q.2
        have := hp.2.2.2.1
        omega
      · exact Or.inr q
    · have w := way_1 hI hj
      have := hp.2.2.2.1
      show s < _
      omega
/-- no message of the node -/
theorem mN_zero {S : SS} {i : Nat} (h : mN S i = 0) : ∀ q ∈ s_ms S, q.2.1 = i → 3 < q.1 := fun q hq hi => by
  refine Nat.not_le.mp fun hx => ?_
  have e : fmM i q = 1 := if_pos ⟨hi, hx⟩
  have key : ∀ {l : List MG}, q ∈ l → fmM i q ≤ (l.map (fmM i)).sum := by
    intro l
    induction l with
    | nil => intro h; cases h
    | cons x l ih =>
      intro h
      rw [List.map_cons, List.sum_cons]
      rcases List.mem_cons.mp h with z | z
      · rw [z]; omega
      · have := ih z; omega
  have := key hq
  unfold mN at h
  omega
theorem kinds2 {fo : MG → Nat} (hI : Inv S) (hE : JE s fo S S' g g') (hc : CST S0 S) (h : ∀ m ∈ s_ms S, m.1 ≤ 2) (hz : ∀ i : Nat, i < s_n S0 → s_nd S0 i 3 = 0 → mN S i = 0) (h0 : oN S = 0) : ∀ m ∈ s_ms S', m.1 ≤ 2 := by
  intro x hx
  rcases hE with ⟨eg, b | b⟩ | ⟨eg, -, t, rfl, -⟩ | ⟨k, m, hk, hm, hs0, hl, -, b, b2⟩ | ⟨j, hj, hs, hd, -, rfl, eg⟩ | ⟨j, hj, hs, hd, -, -, b, eg⟩
  · rw [b.2.2.1] at hx
    exact h x hx
  · obtain ⟨nw, c1, c2, c3, -⟩ := b
    have : nw = [] := by
      have : (s_dl S).length = 0 := by
        unfold oN at h0
        omega
      exact List.eq_nil_of_length_eq_zero (by omega)
    rw [c1, this, List.append_nil] at hx
    exact h x hx
  · have em : s_ms (pass S t) = s_ms S := congrArg (fun q => q.1) (pass_l (S := S) (t := t))
    rw [em] at hx
    exact h x hx
  · have hmem : m ∈ s_ms S := List.mem_of_getElem? hk
    have m2 := h m hmem
    have hmi : m.2.1 < s_n S0 := by
      rw [← hc.2.1]
      exact (hI.2.2.2.2.1 m hmem).1.2.1
    obtain ⟨nw, c1, c2, c3, -⟩ := b
    rw [c1] at hx
    rcases List.mem_append.mp hx with q | q
    · exact h x (List.mem_of_mem_eraseIdx q)
    · rcases c3 with rfl | ⟨q', rfl, hN⟩
      · cases q
      · have ex := List.mem_singleton.mp q
        subst ex
        obtain ⟨n0, h1 | h1 | h1 | h1⟩ := hN
        · omega
        · omega
        · exfalso
          have e3 : s_nd S m.2.1 3 = s_nd S0 m.2.1 3 := hc.ki (by decide)
          have := mN_zero (hz m.2.1 hmi (e3.symm.trans h1.2.2.1)) m hmem rfl
          omega
        · omega
  · exact h x hx
  · obtain ⟨nw, c1, c2, -⟩ := b
    rw [c1] at hx
    rcases List.mem_append.mp hx with q | q
    · exact h x q
    · rcases c2 with rfl | ⟨q', rfl, q1, -⟩
      · cases q
      · rw [List.mem_singleton.mp q]
        omega
theorem kinds3 {fo : MG → Nat} (hI : Inv S) (hE : JE s fo S S' g g') (hc : CST S0 S) (h : ∀ m ∈ s_ms S, m.1 ≠ 3) (hz : ∀ i : Nat, i < s_n S0 → s_nd S0 i 3 = 0 → mN S i = 0) : ∀ m ∈ s_ms S', m.1 ≠ 3 := by
  intro x hx
  rcases hE with ⟨eg, b | b⟩ | ⟨eg, -, t, rfl, -⟩ | ⟨k, m, hk, hm, hs0, hl, -, b, b2⟩ | ⟨j, hj, hs, hd, -, rfl, eg⟩ | ⟨j, hj, hs, hd, -, -, b, eg⟩
  · rw [b.2.2.1] at hx
    exact h x hx
  · obtain ⟨nw, c1, c2, c3, -⟩ := b
    rw [c1] at hx
    rcases List.mem_append.mp hx with q | q
    · exact h x q
    · have := c2 x q
      omega
  · have em : s_ms (pass S t) = s_ms S := congrArg (fun q => q.1) (pass_l (S := S) (t := t))
    rw [em] at hx
    exact h x hx
  · have hmem : m ∈ s_ms S := List.mem_of_getElem? hk
    have m2 := h m hmem
    have hmi : m.2.1 < s_n S0 := by
      rw [← hc.2.1]
      exact (hI.2.2.2.2.1 m hmem).1.2.1
    obtain ⟨nw, c1, c2, c3, -⟩ := b
    rw [c1] at hx
    rcases List.mem_append.mp hx with q | q
    · exact h x (List.mem_of_mem_eraseIdx q)
    · rcases c3 with rfl | ⟨q', rfl, hN⟩
      · cases q
      · have ex := List.mem_singleton.mp q
        subst ex
        obtain ⟨n0, h1 | h1 | h1 | h1⟩ := hN
        · omega
        · omega
        · exfalso
          have e3 : s_nd S m.2.1 3 = s_nd S0 m.2.1 3 := hc.ki (by decide)
          have := mN_zero (hz m.2.1 hmi (e3.symm.trans h1.2.2.1)) m hmem rfl
          omega
        · omega
  · exact h x hx
  · obtain ⟨nw, c1, c2, -⟩ := b
    rw [c1] at hx
    rcases List.mem_append.mp hx with q | q
    · exact h x q
    · rcases c2 with rfl | ⟨q', rfl, q1, -⟩
      · cases q
      · rw [List.mem_singleton.mp q]
        omega
theorem FA_step (hI0 : Inv S0) (H : RH S0 s e Ls f c T) (hc : CST S0 S) (hc' : CST S0 S') (hI : Inv S) (hl : ∀ i : Nat, jl (g i) ≤ max (now S).toInt s) (hn' : (now S').toInt ≤ e) (hE : JE s (foL Ls) S S' g g') (hF : FA S0 s e Ls f c T S g) : FA S0 s e Ls f c T S' g' := by
  obtain ⟨⟨h1, h2, h3⟩, h4, h5, h6, h7⟩ := H
  obtain ⟨a1, a2, a3, a4, a5, a6, aP, aN, a7⟩ := hF
  have nn : s_n S = s_n S0 := hc.2.1
  have nw := JE_now hE
  have idle : ∀ i : Nat, i < s_n S0 → s_nd S0 i 3 = 0 → mN S0 i = 0 → mN S i = 0 := fun i hi hk hz => by
    obtain ⟨b1, b2, b3, -, -, -, -, -, b9⟩ := a2 i hi
    have f0 := (h7 i hi).2 (Or.inr hk)
    have z := b9 hk
    have r0 : jR (g i) = 0 := by
      unfold jF at z
      omega
    unfold cW at b3
    rw [hz, f0, r0] at b3
    unfold mN
    omega
  refine ⟨fun i => ?_, fun i hi => ?_, cM_step hI nn hE a3, cC_step hc hI nn hE a4, cD_step hc hI nn hE a5, Nat.le_trans (oN_step hE) a6, fun h => ?_, fun h => ?_, fun lam hp => ?_⟩
  · rcases TV_jl (hE.tv (i := i)) with q | q
    · rw [q]
      exact a1 i
    · rw [q]
      omega
  · obtain ⟨b1, b2, b3, b4, b5, b6, b7, b8, b9⟩ := a2 i hi
    have hi' : i < s_n S := by omega
    have W := wayR_45 hI0 hi
    have P := perN_b hI0 hi
    refine ⟨?_, cB_step hc hI (by omega) P.2 (by omega) hE b2, cK3_step hE b3, cAI_step hE b4, cLt_step hc hI (h5 i hi).2 hE b5, cLV_step (hl i) b1.1 hE b6, fun hj => cI_step hI (by rw [hc.1]; exact hj) (by rw [hc.ki (by decide)]) hE (b7 hj), fun k => ?_, fun hk => ?_⟩
    · refine cA_step hI ?_ (fun m m1 m2 m3 m4 m5 m6 => ?_) hE.tv b1 (fun m => foL_12)
      · have := retry_ge hI hi'
        rw [wayR_cs hc] at this
        exact this
      · have nl : tmJ m ∉ Ls i := fun hx => by
          unfold foL at m5
          rw [m2, if_pos hx] at m5
          cases m5
        have x : tmJ m + wayP S0 i ≤ xT S0 m + 2 * way S0 i := by
          rcases (b5 m m1 m2).2.1 m3 with q | q
          · exact q.1
          · exact absurd q nl
        rw [xT_cs hc] at x
        unfold xT at x
        rw [m2] at x
        rw [mx_i, now1 hI]
        unfold spN
        omega
    · obtain ⟨k1, k2, k3, k4⟩ := (h7 i hi).1 k
      have jj : jF (g i) ≠ 0 → s < jl (g i) := cA_jl b1
      have w1 := way_1 hI0 hi
      have s0 : 0 ≤ s := by
        have := hI0.2.2.2.1.1.1
        omega
      have Z : ∀ cc B : Nat, 1 ≤ cc ∧ cc ≤ 3 → (cc ≤ 2 ∨ ∀ t : Int, s < t → t ∉ Ls i) → 1 ≤ B → c6 S0 s i (Ls i) cc B S g → c6 S0 s i (Ls i) cc B S' g' := fun cc B x1 x2 x3 x4 => c6_step hc hc' hI k (by omega) W.2 W.1 (h5 i hi).2 b5 x1 x2 x3 b1 jj hE x4
      exact ⟨Z 2 _ (by decide) (Or.inl (Nat.le_refl _)) (by omega) (b8 k).1, fun hl => Z 3 _ (by decide) (Or.inr (fun t ht hx => by have := hl t hx; omega)) (by omega) ((b8 k).2 hl)⟩
    · have z := b9 hk
      have e3 : s_nd S i 3 = s_nd S0 i 3 := hc.ki (by decide)
      rcases hE.tv (i := i) with ⟨-, h | h⟩ | ⟨-, m, -, -, -, -, -, h⟩ | ⟨-, -, h⟩ | ⟨-, h⟩ | ⟨hi2, hs', hd, q8, h⟩
      · rw [h]; exact z
      · rw [h]; exact z
      · rw [h]; exact z
      · rw [h]; exact z
      · rw [h]; exact z
      · exfalso
        have f1 : jF (g' i) = jF (g i) + 1 := by rw [h]; exact jF_fire
        have fl : ∀ (j : Nat) (r : JG), jF r = jF (g j) → jF (fu g j r i) = jF (g i) := fun j r hr => by
          by_cases ci : i = j
          · subst ci
            rw [fu_eq]
            exact hr
          · rw [fu_ne ci]
        rcases hE with ⟨eg, -⟩ | ⟨eg, -⟩ | ⟨k, m, hk2, hm, -, -, -, b, b2⟩ | ⟨j, -, -, -, -, -, eg⟩ | ⟨j, -, -, -, h3, -, -, eg⟩
        · rw [eg] at f1
          omega
        · rw [eg] at f1
          omega
        · rcases b2 with ⟨-, ⟨-, eg⟩ | ⟨-, eg⟩⟩ | ⟨-, -, -, ⟨-, -, eg⟩ | ⟨-, -, eg⟩⟩
          · rw [eg, fl m.2.1 (jAcq (g m.2.1) (now S).toInt) rfl] at f1
            omega
          · rw [eg] at f1
            omega
          · rw [eg, fl m.2.1 (jFlag (g m.2.1) (foL Ls m)) rfl] at f1
            omega
          · rw [eg, fl m.2.1 (jFlag (g m.2.1) 0) rfl] at f1
            omega
        · rw [eg, fl j (jFlag (g j) 0) rfl] at f1
          omega
        · by_cases ci : i = j
          · subst ci
            exact h3 (e3.trans hk)
          · rw [eg, fu_ne ci] at f1
            omega
  · have z : oN S = 0 := by
      have : oN S0 = 0 := by
        unfold oN
        rw [h.2.1, zero_sum (f := fmO) (fun q hq => if_pos (by have := h.1 q hq; omega))]
        rfl
      omega
    exact kinds2 hI hE hc (aP h) (fun i hi hk => idle i hi hk ((h.2.2 i hi).2.2 hk)) z
  · exact kinds3 hI hE hc (aN h) (fun i hi hk => idle i hi hk (h.2 i hi hk))
  · obtain ⟨p1, p2, p3, p4, p5, p6⟩ := id hp
    exact c7_step hc hI p1 p2 p3 h3 p4 p5 (fun i hi => (h5 i hi).2) (fun i hi => way_1 hI0 hi) (fun i _ => spN_2) (fun i hi => by have := (wayR_45 hI0 hi).1; omega) (fun i hi => (a2 i hi).1) hn' hE (a7 lam hp)
/-- THE RUN -/
theorem run_all (hI0 : Inv S0) (hR0 : Rest S0) (H : RH S0 s e Ls f c T) {t : Int32} (he : t.toInt = e) (ht : t.toInt ≤ 5000000) {ff r : Nat → Nat} (hf : ∀ i : Nat, i < s_n S0 → (e - s - 1) + 2 ≤ 2 * (ff i : Int)) (hr : ∀ i : Nat, i < s_n S0 → (e - s - 1).toNat / wayR S0 i + 1 ≤ r i)
    (hb : GH S0 + wtN S0 + 10 * (s_dl S0).length + 7 * sN (s_n S0) ff ≤ 900000) (hm : (s_ms S0).length + (s_dl S0).length + sN (s_n S0) f + sN (s_n S0) r ≤ 5999) (k : Nat) :
    Inv (goOn k S0 t) ∧ Rest (goOn k S0 t) ∧ msB k S0 t ∧ CST S0 (goOn k S0 t) ∧ (now (goOn k S0 t)).toInt ≤ e ∧ (goOn k S0 t = S0 ∨ s < (now (goOn k S0 t)).toInt) ∧ ∃ g : Nat → JG, FA S0 s e Ls f c T (goOn k S0 t) g ∧ ∀ i : Nat, jl (g i) ≤ max (now (goOn k S0 t)).toInt s := by
  have H0 := H
  obtain ⟨⟨h1, h2, h3⟩, h4, h5, h6, h7⟩ := H
  refine gh_ind (fo := foL Ls) (e := e) (F := FA S0 s e Ls f c T) (fun S g hc hF => ?_) (fun S S' g g' hI hI' hc hc' hl hn' hs' hE hF => FA_step hI0 H0 hc hc' hI hl hn' hE hF) (FA_0 hI0 H0) (fun i => Int.le_refl _) hI0 hR0 he ht h1 h2 h4 k
  obtain ⟨a1, a2, a3, a4, a5, a6, -, -, a7⟩ := hF
  have w : ∀ i : Nat, i < s_n S0 → jF (g i) ≤ ff i ∧ jR (g i) ≤ r i := fun i hi => by
    have hw := (wayR_45 hI0 hi).1
    have b := cA_F (a2 i hi).1 (by omega) spN_2 (a1 i) h2
    have c := hf i hi
    exact ⟨by omega, cA_R2 (a2 i hi).1 (a1 i) h2 (by omega) (hr i hi)⟩
  have b1 := sN_le (f := fun j => jF (g j)) (f' := ff) (fun i hi => (w i hi).1)
  have b2 := sN_le (f := fun j => jR (g j)) (f' := r) (fun i hi => (w i hi).2)
  unfold cM at a3
  unfold cG at a4
  have c := GH_b (S := S)
  omega
end RNS
