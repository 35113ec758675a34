/-! ROOM: the actions, one by one -/
set_option maxRecDepth 100000
/-- an action at i: new is what it sends -/
def AX2 (S S' : SS) (i : Nat) : Prop :=
  AC S S' i ∧ (s_nd S' i 5 = s_nd S i 5 ∨ s_nd S' i 5 = 0 ∨ (0 < (s_nd S' i 5).toInt ∧ s_ms S' = s_ms S)) ∧
  ((s_nd S' i 3 = s_nd S i 3 ∧ ∀ q ∈ s_ms S', q ∈ s_ms S ∨ 4 ≤ q.1) ∨ (s_nd S i 3 ≠ 0 ∧ s_nd S' i 3 = 0)) ∧
  oN S' ≤ oN S + 1 ∧ s_gh S' 0 ≤ s_gh S 0 + 56
/-- a campaign -/
def CMX (S S' : SS) (i : Nat) : Prop :=
  AC S S' i ∧ s_nd S i 3 = 0 ∧ s_nd S' i 3 ≠ 0 ∧ (∀ k : Nat, k = 2 ∨ k = 5 → s_nd S' i k = s_nd S i k) ∧ (∀ q ∈ s_ms S', q ∈ s_ms S ∨ (q.1 = 0 ∧ q.2.1 = i)) ∧ s_dl S' = s_dl S ∧ s_gh S' 0 ≤ s_gh S 0 + 56
section ACX
variable {S S' : SS} {i : Nat}
/-- the same messages -/
theorem AC_sam (h1 : s_cf S' = s_cf S) (h2 : s_n S' = s_n S) (h3 : now S' = now S) (h4 : s_ms S' = s_ms S) (h5 : ∀ j k : Nat, (k = 1 ∨ k = 20 ∨ k = 21) → s_nd S' j k = s_nd S j k) (h6 : ∀ j k : Nat, j ≠ i → (k = 2 ∨ k = 3 ∨ k = 5 ∨ k = 8) → s_nd S' j k = s_nd S j k)
    (h7 : (s_nd S' i 8 = s_nd S i 8 ∧ s_nd S' i 3 = s_nd S i 3) ∨ s_nd S' i 8 = -4) : AC S S' i :=
  ⟨h1, h2, h3, h5, h6, [], by rw [h4, List.append_nil], Or.inl rfl, by
    rcases h7 with q | q
    · exact Or.inl q
    · exact Or.inr (Or.inl q)⟩
theorem gh_of {k : Nat} (h : GH S' ≤ GH S + k) (hk : k ≤ 10) : s_gh S' 0 ≤ s_gh S 0 + 56 := by
  have a := GH_b (S := S)
  have b := GH_b (S := S')
  omega
theorem camp_x (h : LJ S) (hi : i < s_n S) (hl : (s_ms S).length < 8000) : (campS S i).2 = S ∨ CMX S (campS S i).2 i := by
  unfold campS
  by_cases c1 : unab S i < 0
  · rw [if_pos c1]; exact Or.inl rfl
  rw [if_neg c1]
  by_cases c2 : s_nd S i 3 = 0
  · rw [if_pos c2]
    right
    have h1 : LJ (u_nd S i 3 1) := h.nd (by decide) (by decide) (by decide) (by decide) (fun hi' => by
      obtain ⟨a1, a2, a3, a4, a5, a6⟩ := h.1.2.1 i hi'
      exact ⟨a1, a2, a3, a4, Or.inr rfl, a6⟩)
    obtain ⟨S1, hS1⟩ : ∃ S1, u_nd S i 3 1 = S1 := ⟨_, rfl⟩
    have e : ∀ j k : Nat, (j ≠ i ∨ k ≠ 3) → s_nd S1 j k = s_nd S j k := fun j k hk => by
      rw [← hS1]
      exact nd_ne (by omega)
    have m0 : s_ms S1 = s_ms S := by rw [← hS1]; rfl
    have n0 : s_n S1 = s_n S := by rw [← hS1]; rfl
    have f0 : s_cf S1 = s_cf S := by rw [← hS1]; rfl
    have d0 : s_dl S1 = s_dl S := by rw [← hS1]; rfl
    have w0 : now S1 = now S := by rw [← hS1]; rfl
    have g0 : GH S1 = GH S := by rw [← hS1]; exact GH_same rfl
    have i3 : s_nd S1 i 3 = 1 := by rw [← hS1]; exact nd_at
    have F := FEF_acq (S := S1) (i := i) (by rw [← hS1]; exact h1.1) (by rw [n0]; exact hi) (by rw [m0]; exact hl)
    show CMX S (acquire (u_nd S i 3 1) i) i
    rw [hS1]
    obtain ⟨nw, c1', c2', c3, c4, c5, c6, c7, c8, c9⟩ := F
    have en : now (acquire S1 i) = now S := (c6 8 (Or.inl rfl)).trans w0
    have at_ : ndAt S1 i (now S1) = ndAt S i (now S) := by
      unfold ndAt
      rw [e i 20 (Or.inr (by decide)), e i 21 (Or.inr (by decide)), w0]
    have tm : s_nd (acquire S1 i) i 8 = mx (now S + 1) (ndRe S i (ndAt S i (now S) + s_cf S 6)) := by
      rw [c8, at_, w0, f0]
      unfold ndRe
      rw [e i 20 (Or.inr (by decide)), e i 21 (Or.inr (by decide))]
    have ot : ∀ j k : Nat, (j ≠ i ∨ (k ≠ 8 ∧ k ≠ 11)) → s_nd (acquire S1 i) j k = s_nd S1 j k := c7
    refine ⟨⟨c3.trans f0, c4.trans n0, en, fun j k hk => ?_, fun j k hj hk => ?_, nw, by rw [c1', m0], ?_, Or.inr (Or.inr tm)⟩, c2, ?_, fun k hk => ?_, fun q hq => ?_, c5.trans d0, ?_⟩
    · rw [ot j k (Or.inr (by omega)), e j k (Or.inr (by omega))]
    · rw [ot j k (Or.inl hj), e j k (Or.inl hj)]
    · rcases c2' with rfl | ⟨q, rfl, q1, q2, q3, q4, q5⟩
      · exact Or.inl rfl
      · refine Or.inr ⟨q, rfl, q2, Or.inl ⟨q1, by rw [q3, at_], ?_, tm⟩⟩
        rw [w0, e i 1 (Or.inr (by decide)), f0] at q5
        unfold way
        omega
    · rw [ot i 3 (Or.inr (by decide)), i3]
      decide
    · rw [ot i k (Or.inr (by omega)), e i k (Or.inr (by omega))]
    · rw [c1', m0] at hq
      rcases List.mem_append.mp hq with z | z
      · exact Or.inl z
      · rcases c2' with rfl | ⟨q', rfl, q1, q2, -⟩
        · cases z
        · rw [List.mem_singleton.mp z]
          exact Or.inr ⟨q1, q2⟩
    · exact gh_of (k := 3) (by rw [← g0]; exact c9) (by decide)
  · rw [if_neg c2]; exact Or.inl rfl
/-- something is sent, of a kind from 3 on -/
theorem snd_x {X : SS} {k ln : Nat} {a b c : Int32} (hI : Inv X) (hi : i < s_n X) (hl : (s_ms X).length < 8000) : ∃ nw : List MG, s_ms (send X k i ln a b c) = s_ms X ++ nw ∧ (nw = [] ∨ ∃ q : MG, nw = [q] ∧ q.2.1 = i ∧ q.1 = k ∧ tmJ q ≤ (now X).toInt + way X i) ∧ GH (send X k i ln a b c) ≤ GH X + 3 := by
  have t := tm_send hI (k := k) (a := a) (b := b) (c := c) hi
  by_cases h4 : s_nd X i 4 = 0
  · refine ⟨[mSend X k i a b c], send_ms h4, Or.inr ⟨_, rfl, rfl, rfl, ?_⟩, GH_send hl⟩
    unfold way
    omega
  · exact ⟨[], by rw [send_cut h4, List.append_nil], Or.inl rfl, GH_send hl⟩
theorem wri_x {k ln : Nat} {a b c : Int32} (hI : Inv S) (hi : i < s_n S) (hk : 4 ≤ k) (hl : (s_ms S).length < 8000) : AX2 S (send S k i ln a b c) i ∧ s_dl (send S k i ln a b c) = s_dl S := by
  obtain ⟨nw, m1, m2, m3⟩ := snd_x (k := k) (ln := ln) (a := a) (b := b) (c := c) hI hi hl
  have cs := cS_send (S := S) (k := k) (n := i) (l := ln) (a := a) (b := b) (c := c)
  have lk := LK_send (S := S) (k := k) (n := i) (l := ln) (a := a) (b := b) (c := c)
  have nd : s_nd (send S k i ln a b c) = s_nd S := cs.2.2
  refine ⟨⟨⟨cs.1, cs.2.1, lk.2.2, fun j k' _ => by rw [nd], fun j k' _ _ => by rw [nd], nw, m1, ?_, Or.inl ⟨by rw [nd], by rw [nd]⟩⟩, Or.inl (by rw [nd]), Or.inl ⟨by rw [nd], fun q hq => ?_⟩, ?_, gh_of m3 (by decide)⟩, lk.2.1⟩
  · rcases m2 with h | ⟨q, h, q1, q2, q3⟩
    · exact Or.inl h
    · exact Or.inr ⟨q, h, q1, Or.inr (Or.inr (by omega))⟩
  · rw [m1] at hq
    rcases List.mem_append.mp hq with z | z
    · exact Or.inl z
    · rcases m2 with h | ⟨q', h, q1, q2, q3⟩
      · rw [h] at z; cases z
      · rw [h] at z
        rw [List.mem_singleton.mp z]
        exact Or.inr (by omega)
  · unfold oN
    rw [m1, app_sum, lk.2.1]
    have : (nw.map fmO).sum ≤ 1 := by
      rcases m2 with h | ⟨q', h, -⟩
      · rw [h]; exact Nat.zero_le _
      · rw [h, sum1]
        unfold fmO
        split <;> omega
    omega
theorem with_x (h : LJ S) (hi : i < s_n S) (hl : (s_ms S).length < 8000) : (withS S i).2 = S ∨ AX2 S (withS S i).2 i := by
  unfold withS
  by_cases c1 : unab S i < 0
  · rw [if_pos c1]; exact Or.inl rfl
  rw [if_neg c1]
  by_cases c2 : s_nd S i 3 = 0
  · rw [if_pos c2]; exact Or.inl rfl
  rw [if_neg c2]
  right
  have h1 : LJ (u_nd S i 3 0) := h.nd (by decide) (by decide) (by decide) (by decide) (fun hi' => by
    obtain ⟨a1, a2, a3, a4, a5, a6⟩ := h.1.2.1 i hi'
    exact ⟨a1, a2, a3, a4, Or.inl rfl, a6⟩)
  have h2 : LJ (u_nd (u_nd S i 3 0) i 8 (-4)) := h1.off
  obtain ⟨X, hX⟩ : ∃ X, u_nd (u_nd S i 3 0) i 8 (-4) = X := ⟨_, rfl⟩
  have e : ∀ j k : Nat, (j ≠ i ∨ (k ≠ 3 ∧ k ≠ 8)) → s_nd X j k = s_nd S j k := fun j k hk => by
    rw [← hX, nd_ne (by omega), nd_ne (by omega)]
  have e8 : s_nd X i 8 = -4 := by rw [← hX]; exact nd_at
  have e3 : s_nd X i 3 = 0 := by rw [← hX, nd_ne (Or.inr (by decide))]; exact nd_at
  have m0 : s_ms X = s_ms S := by rw [← hX]; rfl
  have n0 : s_n X = s_n S := by rw [← hX]; rfl
  have f0 : s_cf X = s_cf S := by rw [← hX]; rfl
  have d0 : s_dl X = s_dl S := by rw [← hX]; rfl
  have w0 : now X = now S := by rw [← hX]; rfl
  have g0 : GH X = GH S := by rw [← hX]; exact GH_same rfl
  have hIX : Inv X := by rw [← hX]; exact h2.1
  show AX2 S (lose (if s_nd S i 6 ≤ 0 then u_nd (u_nd S i 3 0) i 8 (-4) else send (u_nd (u_nd S i 3 0) i 8 (-4)) 3 i 1 (s_nd S i 6) 0 0) i) i
  rw [hX]
  obtain ⟨Y, hY⟩ : ∃ Y, (if s_nd S i 6 ≤ 0 then X else send X 3 i 1 (s_nd S i 6) 0 0) = Y := ⟨_, rfl⟩
  rw [hY]
  obtain ⟨nw, m1, m2, m3⟩ := snd_x (k := 3) (ln := 1) (a := s_nd S i 6) (b := 0) (c := 0) hIX (by rw [n0]; exact hi) (by rw [m0]; exact hl)
  have cs := cS_send (S := X) (k := 3) (n := i) (l := 1) (a := s_nd S i 6) (b := 0) (c := 0)
  have lk := LK_send (S := X) (k := 3) (n := i) (l := 1) (a := s_nd S i 6) (b := 0) (c := 0)
  have y : s_cf Y = s_cf X ∧ s_n Y = s_n X ∧ s_nd Y = s_nd X ∧ s_dl Y = s_dl X ∧ now Y = now X ∧ GH Y ≤ GH X + 3 ∧ ∃ nw : List MG, s_ms Y = s_ms X ++ nw ∧ (nw = [] ∨ ∃ q : MG, nw = [q] ∧ q.2.1 = i ∧ q.1 = 3 ∧ tmJ q ≤ (now X).toInt + way X i) := by
    rw [← hY]
    by_cases c3 : s_nd S i 6 ≤ 0
    · rw [if_pos c3]
      exact ⟨rfl, rfl, rfl, rfl, rfl, Nat.le_add_right _ _, [], by rw [List.append_nil], Or.inl rfl⟩
    · rw [if_neg c3]
      exact ⟨cs.1, cs.2.1, cs.2.2, lk.2.1, lk.2.2, m3, nw, m1, m2⟩
  obtain ⟨y1, y2, y3, y4, y5, y6, nw2, y7, y8⟩ := y
  have L : ∀ j k : Nat, k ≠ 6 → k ≠ 9 → s_nd (lose Y i) j k = s_nd Y j k := fun j k h6 h9 => by
    unfold lose
    rw [nd_ne (Or.inr (Ne.symm h9)), nd_ne (Or.inr (Ne.symm h6))]
  have lm : s_ms (lose Y i) = s_ms Y := rfl
  have lg : GH (lose Y i) = GH Y := GH_same rfl
  refine ⟨⟨y1.trans f0, y2.trans n0, y5.trans w0, fun j k hk => ?_, fun j k hj hk => ?_, nw2, by rw [lm, y7, m0], ?_, Or.inr (Or.inl ?_)⟩, Or.inl ?_, Or.inr ⟨c2, ?_⟩, ?_, gh_of (k := 3) (by rw [lg]; omega) (by decide)⟩
  · rw [L j k (by omega) (by omega), y3, e j k (Or.inr (by omega))]
  · rw [L j k (by omega) (by omega), y3, e j k (Or.inl hj)]
  · rcases y8 with h | ⟨q, h, q1, q2, q3⟩
    · exact Or.inl h
    · refine Or.inr ⟨q, h, q1, Or.inr (Or.inl ⟨q2, ?_, ?_⟩)⟩
      · rw [w0] at q3
        have : way X i = way S i := by
          unfold way
          rw [e i 1 (Or.inr (by decide)), f0]
        rw [this] at q3
        exact q3
      · rw [L i 8 (by decide) (by decide), y3, e8]
  · rw [L i 8 (by decide) (by decide), y3, e8]
  · rw [L i 5 (by decide) (by decide), y3, e i 5 (Or.inr (by decide))]
  · rw [L i 3 (by decide) (by decide), y3, e3]
  · show ((s_ms Y).map fmO).sum + (s_dl Y).length ≤ oN S + 1
    rw [y4, d0, y7, m0, app_sum]
    have : (nw2.map fmO).sum ≤ 1 := by
      rcases y8 with h | ⟨q', h, -⟩
      · rw [h]; exact Nat.zero_le _
      · rw [h, sum1]
        unfold fmO
        split <;> omega
    unfold oN
    omega
theorem cra_x (h : LJ S) : (crashS S i).2 = S ∨ AX2 S (crashS S i).2 i := by
  unfold crashS
  by_cases c1 : s_nd S i 2 = 0
  · rw [if_pos c1]; exact Or.inl rfl
  rw [if_neg c1]
  right
  have g1 := GH_note (S := S) (k := 7) (n := Int32.ofNat i) (t := s_nd S i 6) h.1.2.2.2.2.2.2.2.2.2.2
  have cs := cS_note (S := S) (k := 7) (n := Int32.ofNat i) (t := s_nd S i 6)
  have lk := LK_note (S := S) (k := 7) (n := Int32.ofNat i) (t := s_nd S i 6)
  have m1 : s_ms (note S 7 (Int32.ofNat i) (s_nd S i 6)) = s_ms S := ms_note2
  obtain ⟨X, hX⟩ : ∃ X, note S 7 (Int32.ofNat i) (s_nd S i 6) = X := ⟨_, rfl⟩
  show AX2 S (u_nd (u_nd (u_nd (u_nd (lose (note S 7 (Int32.ofNat i) (s_nd S i 6)) i) i 2 0) i 3 0) i 8 (-4)) i 5 0) i
  rw [hX] at g1 cs lk m1 ⊢
  have L : ∀ j k : Nat, (j ≠ i ∨ (k ≠ 2 ∧ k ≠ 3 ∧ k ≠ 8 ∧ k ≠ 5 ∧ k ≠ 6 ∧ k ≠ 9)) → s_nd (u_nd (u_nd (u_nd (u_nd (lose X i) i 2 0) i 3 0) i 8 (-4)) i 5 0) j k = s_nd S j k := fun j k hk => by
    unfold lose
    rw [nd_ne (by omega), nd_ne (by omega), nd_ne (by omega), nd_ne (by omega), nd_ne (by omega), nd_ne (by omega), cs.2.2]
  have k8 : s_nd (u_nd (u_nd (u_nd (u_nd (lose X i) i 2 0) i 3 0) i 8 (-4)) i 5 0) i 8 = -4 := by
    rw [nd_ne (Or.inr (by decide))]
    exact nd_at
  have k3 : s_nd (u_nd (u_nd (u_nd (u_nd (lose X i) i 2 0) i 3 0) i 8 (-4)) i 5 0) i 3 = 0 := by
    rw [nd_ne (Or.inr (by decide)), nd_ne (Or.inr (by decide))]
    exact nd_at
  have mm : s_ms (u_nd (u_nd (u_nd (u_nd (lose X i) i 2 0) i 3 0) i 8 (-4)) i 5 0) = s_ms S := m1
  refine ⟨AC_sam cs.1 cs.2.1 lk.2.2 mm (fun j k hk => L j k (Or.inr (by omega))) (fun j k hj hk => L j k (Or.inl hj)) (Or.inr k8), Or.inr (Or.inl nd_at), ?_, ?_, gh_of (k := 1) (by rw [show GH (u_nd (u_nd (u_nd (u_nd (lose X i) i 2 0) i 3 0) i 8 (-4)) i 5 0) = GH X from GH_same rfl]; exact g1) (by decide)⟩
  · by_cases z : s_nd S i 3 = 0
    · exact Or.inl ⟨k3.trans z.symm, fun q hq => Or.inl (by rw [mm] at hq; exact hq)⟩
    · exact Or.inr ⟨z, k3⟩
  · show ((s_ms X).map fmO).sum + (s_dl X).length ≤ oN S + 1
    rw [lk.2.1, m1]
    exact Nat.le_succ _
end ACX
