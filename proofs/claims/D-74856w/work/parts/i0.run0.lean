/-! ROOM: a run, from what is kept to what is kept, with its numbers -/
set_option maxRecDepth 100000
/-- of all nodes: marks c, tokens T, pauses P -/
def KS (S : SS) (c T P : Nat → Nat) : Prop := ∀ i : Nat, i < s_n S → ∃ Lt : List Int, KI S i Lt (c i) (T i) ∧ nLt Lt 0 6000000 ≤ P i ∧ ∀ t ∈ Lt, t ≤ 6000000
/-- the numbers of a run -/
def RU (S0 S : SS) (f c T P F r l A : Nat → Nat) : Prop :=
  (∀ i : Nat, i < s_n S0 → f i ≤ 1 ∧ (¬ 2 * way S0 i < wayR S0 i ∨ s_nd S0 i 3 = 0 → f i = 0) ∧ NU S0 S f c T P i (F i) (r i) (l i) (A i)) ∧
  oN S ≤ oN S0 ∧ (PR S0 → PR S) ∧ (NR S0 → NR S) ∧
  GH S + sN (s_n S) (fun i => 4 * aqN S i) ≤ GH S0 + (wtN S0 + 10 * (s_dl S0).length) + 7 * sN (s_n S0) F ∧
  GH S ≤ GH S0 + (wzN S0 + 10 * (s_dl S0).length) + 3 * sN (s_n S0) F + 4 * sN (s_n S0) A ∧
  ∀ lam : Nat, s_cf S0 0 = 1000 → s_cf S0 1 = 0 → s_cf S0 3 = 5000 → (∀ i : Nat, i < s_n S0 → s_nd S0 i 3 ≠ 0) → (∀ m ∈ s_ms S0, m.1 = 3 → tmJ m ≤ (now S0).toInt + lam) →
    ∃ home : Nat, ∀ j : Nat, j < s_n S0 → j ≠ home → 2 * ((F j - r j - l j : Nat) : Int) ≤ lam + way S0 j + 2
section R0S
variable {S0 S : SS} {c T P : Nat → Nat}
theorem NU.up {f T' : Nat → Nat} {i F r l A : Nat} (h : NU S0 S f c T' P i F r l A) (ht : T' i ≤ T i) : NU S0 S f c T P i F r l A := by
  obtain ⟨h1, h2, h3, h4, h5, h6, h7, h8, h9, h10⟩ := h
  exact ⟨h1, h2, h3, h4, h5, h6, fun k => Nat.le_trans (h7 k) (Nat.mul_le_mul_left _ ht), h8, h9, h10⟩
theorem run0 (hI : Inv S0) (hR : Rest S0) (hK : KS S0 c T P) {t : Int32} {n : Nat} (rn : RN S0 t n) (ht : t.toInt ≤ (now S0).toInt + 5000 ∨ t = nextEvent S0)
    (hb : GH S0 + wtN S0 + 10 * (s_dl S0).length + 17507 * s_n S0 ≤ 900000) (hm : (s_ms S0).length + (s_dl S0).length + sN (s_n S0) (fun i => 4999 / wayR S0 i + 2) ≤ 5999) :
    Inv (goOn n S0 t) ∧ Rest (goOn n S0 t) ∧ msB n S0 t ∧ CST S0 (goOn n S0 t) ∧ KS (goOn n S0 t) c T P ∧ s_gh (goOn n S0 t) 0 ≤ 900000 ∧ ∃ f F r l A : Nat → Nat, RU S0 (goOn n S0 t) f c T P F r l A := by
  obtain ⟨rn1, rn2, rn3⟩ := rn
  have w := hI.2.2.2.1.1
  -- where to begin
  obtain ⟨s, s1, s2, s3, s4, s5⟩ : ∃ s : Int, (now S0).toInt ≤ s ∧ s < t.toInt ∧ t.toInt ≤ s + 5000 ∧ (∀ x : Int, EV S0 x → s < x) ∧ ((s = (now S0).toInt) ∨ True) := by
    by_cases hc : t.toInt ≤ (now S0).toInt + 5000
    · exact ⟨_, Int.le_refl _, rn1, hc, fun x hx => (EV_b hI hR hx).1, Or.inr trivial⟩
    · have ht2 : t = nextEvent S0 := by
        rcases ht with q | q
        · exact absurd q hc
        · exact q
      refine ⟨t.toInt - 1, by omega, by omega, by omega, fun x hx => ?_, Or.inr trivial⟩
      have := (MO_nextEvent (S := S0)).1 x hx
      rw [ht2]
      omega
  obtain ⟨Ls, hLs⟩ : ∃ Ls : Nat → List Int, ∀ i : Nat, i < s_n S0 → KI S0 i (Ls i) (c i) (T i) ∧ nLt (Ls i) 0 6000000 ≤ P i ∧ ∀ t ∈ Ls i, t ≤ 6000000 := by
    have key : ∀ i : Nat, ∃ Lt : List Int, i < s_n S0 → KI S0 i Lt (c i) (T i) ∧ nLt Lt 0 6000000 ≤ P i ∧ ∀ t ∈ Lt, t ≤ 6000000 := fun i => by
      by_cases hi : i < s_n S0
      · obtain ⟨Lt, h⟩ := hK i hi
        exact ⟨Lt, fun _ => h⟩
      · exact ⟨[], fun h => absurd h hi⟩
    exact Classical.axiomOfChoice key
  obtain ⟨f, H, f1⟩ := RH_of (Ls := Ls) (c := c) (T := T) hI (fun i hi => (hLs i hi).1) s1 s2 s3 s4 rn2
  have h7 := H.2.2.2.2
  have fz : ∀ i : Nat, i < s_n S0 → ¬ 2 * way S0 i < wayR S0 i ∨ s_nd S0 i 3 = 0 → f i = 0 := fun i hi => (h7 i hi).2
  have b1 : 7 * sN (s_n S0) (fun _ => 2501) = 17507 * s_n S0 := by
    rw [sN_cs]
    omega
  have b2 : sN (s_n S0) f + sN (s_n S0) (fun i => 4999 / wayR S0 i + 1) ≤ sN (s_n S0) (fun i => 4999 / wayR S0 i + 2) := by
    rw [← sN_add]
    refine sN_le (fun i hi => ?_)
    have := f1 i hi
    omega
  obtain ⟨r1, r2, r3, r4, r5, r6, g, r7, r8⟩ := run_all hI hR H rfl rn2 (ff := fun _ => 2501) (r := fun i => 4999 / wayR S0 i + 1) (fun i hi => by
    show t.toInt - s - 1 + 2 ≤ 2 * ((2501 : Nat) : Int)
    omega) (fun i hi => by
    have : (t.toInt - s - 1).toNat / wayR S0 i ≤ 4999 / wayR S0 i := Nat.div_le_div_right (by omega)
    show (t.toInt - s - 1).toNat / wayR S0 i + 1 ≤ 4999 / wayR S0 i + 1
    omega) (by omega) (by omega) n
  have bF : s_gh (goOn n S0 t) 0 ≤ 900000 := by
    obtain ⟨a1, a2, -, a4, -⟩ := r7
    have wd : ∀ i : Nat, i < s_n S0 → jF (g i) ≤ 2501 := fun i hi => by
      have hw := (wayR_45 hI hi).1
      have b := cA_F (a2 i hi).1 (by omega) spN_2 (a1 i) s2
      omega
    have b3 := sN_le (f := fun j => jF (g j)) (f' := fun _ => 2501) wd
    unfold cG at a4
    have c := GH_b (S := goOn n S0 t)
    omega
  have go := goOn_ok n S0 t hI hR rn2 rn3 (by omega)
  have nt : t.toInt ≤ (now (goOn n S0 t)).toInt := go.2.2.2.2
  have hw : s < (now (goOn n S0 t)).toInt := by omega
  have s0 : 0 ≤ s := by
    have := w.1
    omega
  obtain ⟨S1, hS1⟩ : ∃ S1, goOn n S0 t = S1 := ⟨_, rfl⟩
  rw [hS1] at r1 r2 r4 r5 r7 r8 bF nt hw ⊢
  have nn : s_n S1 = s_n S0 := r4.2.1
  refine ⟨r1, r2, r3, r4, fun i hi => ?_, bF, f, fun i => jF (g i), fun i => jR (g i), fun i => jL (g i), fun i => jA (g i), fun i hi => ⟨f1 i hi, fz i hi, ?_⟩, r7.2.2.2.2.2.1, fun hp => ?_, fun hp => ?_, ?_, ?_, fun lam q0 q1 q3 qc qm => ?_⟩
  · rw [nn] at hi
    exact ⟨Ls i, KI_run s0 (fun i hi => (hLs i hi).1) H rn2 r4 hw r5 r8 r7 i (by rw [nn]; exact hi), (hLs i hi).2⟩
  · refine (NU_of hI H (fun i hi => ?_) r5 hw r7 hi).up (Nat.sub_le _ _)
    have a := nLt_add (s := (0 : Int)) (a := s) (b := t.toInt) (l := Ls i) s0 (by omega)
    have b := nLt_add (s := (0 : Int)) (a := t.toInt) (b := 6000000) (l := Ls i) (by omega) (by omega)
    have := (hLs i hi).2.1
    omega
  · obtain ⟨p1, p2, p3⟩ := hp
    have o0 : oN S0 = 0 := by
      unfold oN
      rw [p2, zero_sum (f := fmO) (fun q hq => if_pos (by have := p1 q hq; omega))]
      rfl
    have o1 : oN S1 = 0 := by have := r7.2.2.2.2.2.1; omega
    refine ⟨r7.2.2.2.2.2.2.1 ⟨p1, p2, p3⟩, List.eq_nil_of_length_eq_zero (by unfold oN at o1; omega), fun i hi => ?_⟩
    rw [nn] at hi
    obtain ⟨x1, x2, x3⟩ := p3 i hi
    refine ⟨(r4.ki (by decide)).trans x1, (r4.ki (by decide)).trans x2, fun h3 => ?_⟩
    rw [r4.ki (by decide)] at h3
    obtain ⟨-, -, b3, -, -, -, -, -, b9⟩ := r7.2.1 i hi
    have z := b9 h3
    have rz : jR (g i) = 0 := by
      unfold jF at z
      omega
    unfold cW at b3
    rw [x3 h3, fz i hi (Or.inr h3), rz] at b3
    unfold mN
    omega
  · obtain ⟨p1, p3⟩ := hp
    refine ⟨r7.2.2.2.2.2.2.2.1 ⟨p1, p3⟩, fun i hi h3 => ?_⟩
    rw [nn] at hi
    rw [r4.ki (by decide)] at h3
    obtain ⟨-, -, b3, -, -, -, -, -, b9⟩ := r7.2.1 i hi
    have z := b9 h3
    have rz : jR (g i) = 0 := by
      unfold jF at z
      omega
    unfold cW at b3
    rw [p3 i hi h3, fz i hi (Or.inr h3), rz] at b3
    unfold mN
    omega
  · have a4 := r7.2.2.2.1
    have lo := wt_low (S0 := S0) r1 nn
    unfold cG at a4
    omega
  · have a5 := r7.2.2.2.2.1
    unfold cG at a5
    omega
  · obtain ⟨home, hh⟩ := NU_pair (lam := (lam : Int)) r7 ⟨q0, q1, q3, Int.natCast_nonneg _, qc, fun m hm m3 => by have := qm m hm m3; omega⟩
    refine ⟨home, fun j hj hne => ?_⟩
    have e : jF (g j) - jR (g j) - jL (g j) = jG (g j) := by
      unfold jF
      omega
    rw [e]
    rcases hh j hj hne with z | z
    · rw [z]
      have := way_1 hI hj
      omega
    · exact z
end R0S
