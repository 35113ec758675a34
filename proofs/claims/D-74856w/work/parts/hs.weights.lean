/-! ROOM: what the messages on their way may still cost -/
set_option maxRecDepth 100000
/-- no RELEASE, nobody paused, no messages of a node that is no candidate -/
def PW (S : SS) : Prop := (∀ m ∈ s_ms S, m.1 ≠ 3) ∧ ∀ i : Nat, i < s_n S → s_nd S i 5 = 0 ∧ (s_nd S i 3 = 0 → mN S i = 0)
/-- cells besides the ACQUIREs' own -/
def xN (S : SS) (i : Nat) : Nat := if s_nd S i 3 = 0 then 5 * mN S i else mN S i
section WTS
variable {S0 S S' : SS} {g g' : Nat → JG} {s e : Int} {Ls : Nat → List Int} {f c T : Nat → Nat} {i : Nat}
theorem sN_add {n : Nat} {F G : Nat → Nat} : sN n (fun i => F i + G i) = sN n F + sN n G := by
  induction n with
  | zero => rfl
  | succ n ih => rw [sN_s, sN_s, sN_s, ih]; omega
theorem sN_mul {n k : Nat} {F : Nat → Nat} : sN n (fun i => k * F i) = k * sN n F := by
  induction n with
  | zero => rfl
  | succ n ih => rw [sN_s, sN_s, ih, Nat.mul_add]
theorem sN_pos {n : Nat} {F : Nat → Nat} {i : Nat} (hi : i < n) : F i ≤ sN n F := by
  induction n with
  | zero => omega
  | succ n ih =>
    rw [sN_s]
    by_cases h : i = n
    · subst h; omega
    · have := ih (by omega); omega
theorem sum_sN {n : Nat} {F : Nat → MG → Nat} {l : List MG} : (l.map (fun q => sN n (fun i => F i q))).sum = sN n (fun i => (l.map (F i)).sum) := by
  induction l with
  | nil =>
    show 0 = _
    have : sN n (fun i => (([] : List MG).map (F i)).sum) = sN n (fun _ => 0) := rfl
    rw [this, sN_cs, Nat.mul_zero]
  | cons q l ih =>
    rw [List.map_cons, List.sum_cons, ih, ← sN_add]
    rfl
theorem sum_le {F G : MG → Nat} : ∀ {l : List MG}, (∀ q ∈ l, F q ≤ G q) → (l.map F).sum ≤ (l.map G).sum
  | [], _ => Nat.le_refl _
  | x :: l, h => by
    rw [List.map_cons, List.sum_cons, List.map_cons, List.sum_cons]
    have := h x (List.mem_cons_self ..)
    have := sum_le (l := l) (fun q hq => h q (List.mem_cons_of_mem _ hq))
    omega
theorem sum_add {F G : MG → Nat} : ∀ {l : List MG}, (l.map (fun q => F q + G q)).sum = (l.map F).sum + (l.map G).sum
  | [] => rfl
  | x :: l => by
    rw [List.map_cons, List.sum_cons, List.map_cons, List.sum_cons, List.map_cons, List.sum_cons, sum_add]
    omega
theorem sum_mulc {F : MG → Nat} {k : Nat} : ∀ {l : List MG}, (l.map (fun q => k * F q)).sum = k * (l.map F).sum
  | [] => rfl
  | x :: l => by
    rw [List.map_cons, List.sum_cons, List.map_cons, List.sum_cons, sum_mulc, Nat.mul_add]
/-- a bound for each message gives one for all -/
theorem wsum {w : MG → Nat} {A X : Nat → Nat} (h : ∀ q ∈ s_ms S, q.2.1 < s_n S ∧ w q ≤ A q.2.1 * fmI q.2.1 q + X q.2.1 * fmM q.2.1 q + 7 * fmO q) : ((s_ms S).map w).sum ≤ sN (s_n S) (fun i => A i * aqN S i + X i * mN S i) + 7 * ((s_ms S).map fmO).sum := by
  have a := sum_le (F := w) (G := fun q => sN (s_n S) (fun i => A i * fmI i q + X i * fmM i q) + 7 * fmO q) (l := s_ms S) (fun q hq => by
    have := (h q hq).2
    have := sN_pos (F := fun i => A i * fmI i q + X i * fmM i q) (h q hq).1
    try dsimp only at this ⊢
    omega)
  have b : ((s_ms S).map (fun q => sN (s_n S) (fun i => A i * fmI i q + X i * fmM i q) + 7 * fmO q)).sum = sN (s_n S) (fun i => A i * aqN S i + X i * mN S i) + 7 * ((s_ms S).map fmO).sum := by
    rw [sum_add, sum_mulc, sum_sN]
    have : (fun i => ((s_ms S).map (fun q => A i * fmI i q + X i * fmM i q)).sum) = (fun i => A i * aqN S i + X i * mN S i) := by
      funext i
      rw [sum_add, sum_mulc, sum_mulc]
      rfl
    rw [this]
  omega
theorem fmI_1 {q : MG} (h : q.1 = 0) : fmI q.2.1 q = 1 := if_pos ⟨rfl, h⟩
theorem fmM_1 {q : MG} (h : q.1 ≤ 3) : fmM q.2.1 q = 1 := if_pos ⟨rfl, h⟩
theorem fmO_1 {q : MG} (h : ¬ q.1 ≤ 3) : fmO q = 1 := if_neg h
/-- X i: 0 where PW holds -/
theorem wt_b (hI : Inv S) (q : MG) (hq : q ∈ s_ms S) : q.2.1 < s_n S ∧ wt S q ≤ 4 * fmI q.2.1 q + (if s_nd S q.2.1 3 = 0 then 5 else 1) * fmM q.2.1 q + 7 * fmO q ∧ wz S q ≤ 0 * fmI q.2.1 q + (if s_nd S q.2.1 3 = 0 then 5 else 1) * fmM q.2.1 q + 7 * fmO q := by
  refine ⟨(hI.2.2.2.2.1 q hq).1.2.1, ?_⟩
  obtain ⟨x, hx⟩ : ∃ x : Nat, (if s_nd S q.2.1 3 = 0 then 5 else 1) = x := ⟨_, rfl⟩
  have hc : cnd S q.2.1 + 1 ≤ x := by
    rw [← hx]
    unfold cnd
    by_cases z : s_nd S q.2.1 3 = 0
    · rw [if_pos z, if_pos z]
      exact Nat.le_refl _
    · rw [if_neg z, if_neg z]
      exact Nat.le_refl _
  rw [hx]
  have p1 := ppd_le (S := S) (i := q.2.1) (x := tmJ q + (s_nd S q.2.1 1).toInt)
  have p2 := ppd_le (S := S) (i := q.2.1) (x := tmJ q)
  unfold wz
  by_cases k0 : q.1 = 0
  · rw [if_pos k0, wt_k0 k0, fmI_1 k0, fmM_1 (by omega)]
    omega
  rw [if_neg k0]
  by_cases k3 : q.1 ≤ 3
  · rw [fmM_1 k3]
    by_cases k1 : q.1 = 1
    · rw [wt_k1 k1]
      omega
    · by_cases k2 : q.1 = 2
      · rw [wt_k2 (Or.inl k2)]
        omega
      · rw [wt_k3 (by omega)]
        omega
  · rw [fmO_1 k3]
    by_cases k4 : q.1 = 4 ∨ q.1 = 5
    · rw [wt_k4 k4]
      omega
    · rw [wt_k2 (by omega)]
      omega
theorem wt_p (hI : Inv S) (hP : PW S) (q : MG) (hq : q ∈ s_ms S) : q.2.1 < s_n S ∧ wt S q ≤ 4 * fmI q.2.1 q + 0 * fmM q.2.1 q + 7 * fmO q ∧ wz S q ≤ 0 * fmI q.2.1 q + 0 * fmM q.2.1 q + 7 * fmO q := by
  have hn : q.2.1 < s_n S := (hI.2.2.2.2.1 q hq).1.2.1
  refine ⟨hn, ?_⟩
  have n1 : (now S).toInt ≤ tmJ q := (hI.2.2.2.2.1 q hq).2.2.2.2.1
  have n2 := hI.2.2.2.1.1.1
  obtain ⟨p1, p2⟩ := hP.2 q.2.1 hn
  have d1 := (hI.2.1 q.2.1 hn).2.2.1.1
  have pz : ∀ x : Int, 0 ≤ x → ppd S q.2.1 x = 0 := fun x hx => by
    unfold ppd
    rw [p1, if_neg]
    have : ((0 : Int32)).toInt = 0 := by decide
    omega
  have z1 := pz (tmJ q + (s_nd S q.2.1 1).toInt) (by omega)
  have z2 := pz (tmJ q) (by omega)
  have cz : q.1 ≤ 3 → cnd S q.2.1 = 0 := fun h => if_neg (fun hx => by
    have := mN_zero (p2 hx) q hq rfl
    omega)
  unfold wz
  by_cases k0 : q.1 = 0
  · rw [if_pos k0, wt_k0 k0, fmI_1 k0, cz (by omega), z1]
    omega
  rw [if_neg k0]
  by_cases k3 : q.1 ≤ 3
  · by_cases k1 : q.1 = 1
    · rw [wt_k1 k1, cz k3, z2]
      omega
    · by_cases k2 : q.1 = 2
      · rw [wt_k2 (Or.inl k2), z2]
        omega
      · exact absurd (show q.1 = 3 from by omega) (hP.1 q hq)
  · rw [fmO_1 k3]
    by_cases k4 : q.1 = 4 ∨ q.1 = 5
    · rw [wt_k4 k4, z1]
      omega
    · rw [wt_k2 (by omega), z2]
      omega
theorem wt_all (hI : Inv S) : wtN S + 10 * (s_dl S).length ≤ sN (s_n S) (fun i => 4 * aqN S i + xN S i) + 10 * oN S ∧ wzN S + 10 * (s_dl S).length ≤ sN (s_n S) (fun i => xN S i) + 10 * oN S ∧
    (PW S → wtN S + 10 * (s_dl S).length ≤ sN (s_n S) (fun i => 4 * aqN S i) + 10 * oN S ∧ wzN S + 10 * (s_dl S).length ≤ 10 * oN S) := by
  have ex : (fun i => (4 : Nat) * aqN S i + (if s_nd S i 3 = 0 then 5 else 1) * mN S i) = (fun i => 4 * aqN S i + xN S i) := by
    funext i
    unfold xN
    split <;> omega
  have ex2 : (fun i => (0 : Nat) * aqN S i + (if s_nd S i 3 = 0 then 5 else 1) * mN S i) = (fun i => xN S i) := by
    funext i
    unfold xN
    split <;> omega
  have a := wsum (S := S) (w := wt S) (A := fun _ => 4) (X := fun i => if s_nd S i 3 = 0 then 5 else 1) (fun q hq => ⟨(wt_b hI q hq).1, (wt_b hI q hq).2.1⟩)
  have b := wsum (S := S) (w := wz S) (A := fun _ => 0) (X := fun i => if s_nd S i 3 = 0 then 5 else 1) (fun q hq => ⟨(wt_b hI q hq).1, (wt_b hI q hq).2.2⟩)
  try dsimp only at a b
  rw [ex] at a
  rw [ex2] at b
  unfold wtN wzN oN
  refine ⟨by omega, by omega, fun hP => ?_⟩
  have c := wsum (S := S) (w := wt S) (A := fun _ => 4) (X := fun _ => 0) (fun q hq => ⟨(wt_p hI hP q hq).1, (wt_p hI hP q hq).2.1⟩)
  have d := wsum (S := S) (w := wz S) (A := fun _ => 0) (X := fun _ => 0) (fun q hq => ⟨(wt_p hI hP q hq).1, (wt_p hI hP q hq).2.2⟩)
  try dsimp only at c d
  have ez : (fun i => (0 : Nat) * aqN S i + 0 * mN S i) = (fun _ => 0) := by
    funext i
    omega
  have ez2 : (fun i => (4 : Nat) * aqN S i + 0 * mN S i) = (fun i => 4 * aqN S i) := by
    funext i
    omega
  rw [ez2] at c
  rw [ez, sN_cs, Nat.mul_zero] at d
  omega
/-- the ACQUIREs on their way at the end are in the weights -/
theorem wt_low (hI : Inv S) (hn : s_n S = s_n S0) : sN (s_n S) (fun i => 4 * aqN S i) ≤ ((s_ms S).map (wt S0)).sum := by
  have a : sN (s_n S) (fun i => 4 * aqN S i) = ((s_ms S).map (fun q => sN (s_n S) (fun i => 4 * fmI i q))).sum := by
    rw [sum_sN]
    congr 1
    funext i
    rw [sum_mulc]
    rfl
  rw [a]
  refine sum_le (fun q hq => ?_)
  have hq1 : q.2.1 < s_n S := (hI.2.2.2.2.1 q hq).1.2.1
  have key : ∀ n : Nat, sN n (fun i => 4 * fmI i q) ≤ if q.1 = 0 then 4 else 0 := by
    intro n
    induction n with
    | zero => exact Nat.zero_le _
    | succ n ih =>
      rw [sN_s]
      by_cases k0 : q.1 = 0
      · rw [if_pos k0] at ih ⊢
        by_cases z : q.2.1 = n
        · have : sN n (fun i => 4 * fmI i q) = sN n (fun _ => 0) := sN_eq (fun i hi => by
            have : fmI i q = 0 := if_neg (fun hx => by omega)
            rw [this])
          rw [this, sN_cs, Nat.mul_zero]
          have : fmI n q ≤ 1 := Nat.le_trans fmI_le fmM_le
          omega
        · have : fmI n q = 0 := if_neg (fun hx => z hx.1)
          omega
      · rw [if_neg k0] at ih ⊢
        have : fmI n q = 0 := if_neg (fun hx => k0 hx.2)
        omega
  refine Nat.le_trans (key _) ?_
  by_cases k0 : q.1 = 0
  · rw [if_pos k0, wt_k0 k0]
    omega
  · rw [if_neg k0]
    exact Nat.zero_le _
end WTS
