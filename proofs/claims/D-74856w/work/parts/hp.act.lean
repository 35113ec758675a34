/-! ROOM: what an action does to what is kept -/
set_option maxRecDepth 100000
/-- an action at the node i -/
def AC (S S' : SS) (i : Nat) : Prop :=
  s_cf S' = s_cf S ∧ s_n S' = s_n S ∧ now S' = now S ∧ (∀ j k : Nat, (k = 1 ∨ k = 20 ∨ k = 21) → s_nd S' j k = s_nd S j k) ∧ (∀ j k : Nat, j ≠ i → (k = 2 ∨ k = 3 ∨ k = 5 ∨ k = 8) → s_nd S' j k = s_nd S j k) ∧
  ∃ new : List MG, s_ms S' = s_ms S ++ new ∧
    (new = [] ∨ ∃ q : MG, new = [q] ∧ q.2.1 = i ∧ ((q.1 = 0 ∧ q.2.2.2.1 = ndAt S i (now S) ∧ tmJ q ≤ (now S).toInt + way S i ∧ s_nd S' i 8 = mx (now S + 1) (ndRe S i (ndAt S i (now S) + s_cf S 6))) ∨ (q.1 = 3 ∧ tmJ q ≤ (now S).toInt + way S i ∧ s_nd S' i 8 = -4) ∨ 4 ≤ q.1)) ∧
    ((s_nd S' i 8 = s_nd S i 8 ∧ s_nd S' i 3 = s_nd S i 3) ∨ s_nd S' i 8 = -4 ∨ s_nd S' i 8 = mx (now S + 1) (ndRe S i (ndAt S i (now S) + s_cf S 6)))
section ACS
variable {S S' : SS} {i j : Nat} {Lt Lt' : List Int} {c T : Nat}
theorem AC_way (h : AC S S' i) : way S' j = way S j := by
  unfold way
  rw [h.2.2.2.1 j 1 (by decide), h.1]
theorem AC_wR (h : AC S S' i) : wayR S' j = wayR S j := by
  unfold wayR
  rw [h.2.2.2.1 j 20 (by decide), h.1]
theorem AC_wP (h : AC S S' i) : wayP S' j = wayP S j := by
  unfold wayP
  rw [h.2.2.2.1 j 20 (by decide), h.1]
theorem AC_xT (h : AC S S' i) {m : MG} : xT S' m = xT S m := by
  unfold xT
  show (c_re (s_nd S' m.2.1 20) (s_nd S' m.2.1 21) (m.2.2.2.1 + s_cf S' 5)).toInt = (c_re (s_nd S m.2.1 20) (s_nd S m.2.1 21) (m.2.2.2.1 + s_cf S 5)).toInt
  rw [h.2.2.2.1 m.2.1 20 (by decide), h.2.2.2.1 m.2.1 21 (by decide), h.1]
theorem AC_tOK (h : AC S S' i) {m : MG} {t : Int} (ho : tOK S j Lt t m) (hl : ∀ x ∈ Lt, x ∈ Lt') : tOK S' j Lt' t m := by
  obtain ⟨h0, h1, h2, h3⟩ := ho
  unfold tOK
  rw [AC_wP h, AC_way h, AC_xT h]
  refine ⟨h0, fun k => ?_, fun k => ?_, h3⟩
  · rcases h1 k with q | q
    · exact Or.inl q
    · exact Or.inr (hl _ q)
  · rcases h2 k with q | q
    · exact Or.inl q
    · exact Or.inr (hl _ q)
/-- another node -/
theorem KI.oth (h : AC S S' i) (hj : j ≠ i) (hS : KI S j Lt c T) : KI S' j Lt c T := by
  have ha := h
  obtain ⟨e1, e2, e3, e4, e5, new, m1, m2, m3⟩ := h
  obtain ⟨s1, s2, s3, s4⟩ := hS
  have nn : ∀ q ∈ new, q.2.1 ≠ j := fun q hq hx => by
    rcases m2 with rfl | ⟨q', rfl, k1, -⟩
    · cases hq
    · rw [List.mem_singleton.mp hq] at hx
      exact hj (hx.symm.trans k1)
  have old : ∀ m ∈ s_ms S', m.2.1 = j → m ∈ s_ms S := fun m hm hi => by
    rw [m1] at hm
    rcases List.mem_append.mp hm with q | q
    · exact q
    · exact absurd hi (nn m q)
  refine ⟨fun m hm hi => ?_, ⟨by rw [e5 j 5 hj (by decide)]; exact s2.1, s2.2⟩, fun hj0 => ?_, fun k => ?_⟩
  · rw [e3]
    exact AC_tOK ha (s1 m (old m hm hi) hi) (fun x hx => hx)
  · rw [e1] at hj0
    obtain ⟨L, U, V, ⟨a1, a2, a3, a4, a5⟩, a6⟩ := s3 hj0
    refine ⟨L, U, V, ⟨?_, a2, ?_, ?_, a5⟩, by rw [e3]; exact a6⟩
    · rw [m1, aT_app, aT_no (l := new) (fun q hq hx => nn q hq hx.1), List.append_nil]
      exact a1
    · rw [e4 j 1 (by decide)]
      exact a3
    · rw [e5 j 8 hj (by decide)]
      exact a4
  · rw [AC_way ha, AC_wR ha] at k
    obtain ⟨f, f1, f2, f3, f4, f5⟩ := s4 k
    have kk : ∀ cc : Nat, k6 S' j Lt cc = k6 S j Lt cc := fun cc => by
      unfold k6
      rw [m1, app_sum, zero_sum (f := fm6 j Lt cc) (l := new) (fun q hq => if_neg (fun hx => nn q hq hx.1)), Nat.add_zero]
    refine ⟨f, f1, fun h3 => f2 (by rw [← e5 j 3 hj (by decide)]; exact h3), fun hf => ?_, by rw [kk, e3]; exact f4, fun np => by rw [kk]; exact f5 np⟩
    unfold rl6
    rw [e5 j 8 hj (by decide), e5 j 3 hj (by decide), AC_way ha]
    rcases f3 hf with q | q | q
    · exact Or.inl q
    · exact Or.inr (Or.inl q)
    · exact Or.inr (Or.inr fun m hm hi => q m (old m hm hi) hi)
theorem nLt_cons {x s t : Int} : nLt (x :: Lt) s t ≤ nLt Lt s t + 1 := by
  unfold nLt
  rw [List.countP_cons]
  split <;> omega
/-- the node itself -/
theorem KI.act (hI : Inv S) (hi : i < s_n S) (h : AC S S' i) (hL : Lt' = Lt ∨ ∃ u : Int, 0 < u ∧ Lt' = u :: Lt ∧ s_ms S' = s_ms S) (hp : (s_nd S' i 5).toInt ∈ Lt') (hS : KI S i Lt c T) : KI S' i Lt' (c + 1) (T + 1) := by
  have ha := h
  obtain ⟨e1, e2, e3, e4, e5, new, m1, m2, m3⟩ := h
  obtain ⟨s1, s2, s3, s4⟩ := hS
  have sub : ∀ x ∈ Lt, x ∈ Lt' := fun x hx => by
    rcases hL with rfl | ⟨u, -, rfl, -⟩
    · exact hx
    · exact List.mem_cons_of_mem _ hx
  have w1 := way_1 hI hi
  refine ⟨fun m hm hmi => ?_, ⟨hp, sub _ s2.2⟩, fun hj0 => ?_, fun k => ?_⟩
  · rw [e3]
    rw [m1] at hm
    rcases List.mem_append.mp hm with q | q
    · exact AC_tOK ha (s1 m q hmi) sub
    · rcases m2 with rfl | ⟨q', rfl, k1, k2⟩
      · cases q
      · have ex := List.mem_singleton.mp q
        subst ex
        unfold tOK
        rw [AC_wP ha, AC_way ha, AC_xT ha]
        rcases k2 with ⟨k0, k2, k3, -⟩ | ⟨k0, k3, -⟩ | k0
        · refine ⟨fun _ => ⟨?_, k3⟩, fun x => by omega, fun x => by omega, fun x => by omega⟩
          have r := renew_ge hI hi
          have r2 : (ndRe S i (ndAt S i (now S) + s_cf S 5)).toInt = xT S m := by
            unfold xT
            rw [k1, k2]
          omega
        · exact ⟨fun x => by omega, fun x => by omega, fun x => by omega, fun _ => k3⟩
        · exact ⟨fun x => by omega, fun x => by omega, fun x => by omega, fun x => by omega⟩
  · rw [e1] at hj0
    obtain ⟨L, U, V, ⟨a1, a2, a3, a4, a5⟩, a6⟩ := s3 hj0
    have tt : s_nd S' i 8 = -4 ∨ L + 2 ≤ (s_nd S' i 8).toInt := by
      rcases m3 with q | q | q
      · rw [q.1]
        exact a4
      · exact Or.inl q
      · right
        have r := retry_ge hI hi
        have w := (wayR_45 hI hi).1
        rw [q]
        omega
    by_cases hq : ∀ q ∈ new, ¬ (q.2.1 = i ∧ q.1 = 0)
    · refine ⟨L, U, V, ⟨?_, a2, ?_, tt, by omega⟩, by rw [e3]; exact a6⟩
      · rw [m1, aT_app, aT_no (l := new) hq, List.append_nil]
        exact a1
      · rw [e4 i 1 (by decide)]
        exact a3
    · rcases m2 with rfl | ⟨q', rfl, k1, k2⟩
      · exact absurd (fun q hq => by cases hq) hq
      · have q0 : q'.1 = 0 := by
          refine Decidable.byContradiction fun hne => hq (fun q hq hx => ?_)
          rw [List.mem_singleton.mp hq] at hx
          exact hne hx.2
        refine ⟨L, U, tmJ q' :: V, ⟨?_, a2, ?_, tt, ?_⟩, by rw [e3]; exact a6⟩
        · rw [m1, aT_app, aT_yes ⟨k1, q0⟩]
          have : aT i [] = [] := rfl
          rw [this]
          refine (a1.append_right [tmJ q']).trans ?_
          rw [List.append_assoc]
          exact List.Perm.append_left U List.perm_append_comm
        · rw [e4 i 1 (by decide)]
          exact a3
        · rw [List.length_cons]
          omega
  · rw [AC_way ha, AC_wR ha] at k
    obtain ⟨f, f1, f2, f3, f4, f5⟩ := s4 k
    have kk : ∀ cc : Nat, k6 S' i Lt' cc ≤ k6 S i Lt cc + 1 := fun cc => by
      unfold k6
      rw [m1, app_sum]
      have a : ((s_ms S).map (fm6 i Lt' cc)).sum ≤ 1 * ((s_ms S).map (fm6 i Lt cc)).sum := sum_mul (fun q => by
        unfold fm6
        by_cases y : q.2.1 = i ∧ q.1 ≤ cc ∧ (q.1 = 0 ∨ tmJ q ∉ Lt')
        · rw [if_pos y, if_pos]
          · exact Nat.le_refl _
          · refine ⟨y.1, y.2.1, ?_⟩
            rcases y.2.2 with z | z
            · exact Or.inl z
            · exact Or.inr (fun hx => z (sub _ hx))
        · rw [if_neg y]
          exact Nat.zero_le _)
      have b : (new.map (fm6 i Lt' cc)).sum ≤ 1 := by
        rcases m2 with rfl | ⟨q', rfl, -⟩
        · exact Nat.zero_le _
        · rw [sum1]
          exact fm6_le
      omega
    have pre : s_ms S' = s_ms S → k6 S' i Lt' 2 ≤ k6 S i Lt 2 := fun hn => by
      unfold k6
      rw [hn]
      have a : ((s_ms S).map (fm6 i Lt' 2)).sum ≤ 1 * ((s_ms S).map (fm6 i Lt 2)).sum := sum_mul (fun q => by
        unfold fm6
        by_cases y : q.2.1 = i ∧ q.1 ≤ 2 ∧ (q.1 = 0 ∨ tmJ q ∉ Lt')
        · rw [if_pos y, if_pos]
          · exact Nat.le_refl _
          · refine ⟨y.1, y.2.1, ?_⟩
            rcases y.2.2 with z | z
            · exact Or.inl z
            · exact Or.inr (fun hx => z (sub _ hx))
        · rw [if_neg y]
          exact Nat.zero_le _)
      omega
    -- the numbers
    have num : ∀ f' : Nat, f' ≤ f → max 1 (k6 S' i Lt' 2 + f') + nLt Lt' (now S').toInt 6000000 ≤ T + 1 ∧ ((∀ t ∈ Lt', t ≤ 0) → k6 S' i Lt' 3 + f' ≤ T + 1) := fun f' hf' => by
      rw [e3]
      have k2 := kk 2
      have k3 := kk 3
      rcases hL with rfl | ⟨u, u1, rfl, u2⟩
      · refine ⟨by omega, fun np => ?_⟩
        have := f5 np
        omega
      · have p := pre u2
        have q := nLt_cons (x := u) (Lt := Lt) (s := (now S).toInt) (t := 6000000)
        refine ⟨by omega, fun np => ?_⟩
        have := np u (List.mem_cons_self ..)
        omega
    by_cases t1 : s_nd S' i 8 = mx (now S + 1) (ndRe S i (ndAt S i (now S) + s_cf S 6))
    · refine ⟨0, Or.inl rfl, fun _ => rfl, fun _ => Or.inr (Or.inr fun m hm hmi => ?_), num 0 (Nat.zero_le _)⟩
      have r := retry_ge hI hi
      rw [← t1] at r
      rw [AC_way ha]
      rw [m1] at hm
      rcases List.mem_append.mp hm with q | q
      · obtain ⟨t0, t1, t2, t3⟩ := s1 m q hmi
        refine ⟨fun k => by have := (t0 k).2; omega, fun k nl => ?_⟩
        have nl' : tmJ m ∉ Lt := fun hx => nl (sub _ hx)
        rcases k with k | k | k
        · rcases t1 k with z | z
          · have := z.2
            omega
          · exact absurd z nl'
        · rcases t2 k with z | z
          · omega
          · exact absurd z nl'
        · have := t3 k
          omega
      · rcases m2 with rfl | ⟨q', rfl, k1, k2⟩
        · cases q
        · have ex := List.mem_singleton.mp q
          subst ex
          rcases k2 with ⟨k0, k2, k3, -⟩ | ⟨k0, k3, -⟩ | k0
          · exact ⟨fun _ => by omega, fun x => by omega⟩
          · exact ⟨fun x => by omega, fun _ _ => by omega⟩
          · exact ⟨fun x => by omega, fun x => by omega⟩
    · by_cases t2 : s_nd S' i 8 = -4
      · exact ⟨0, Or.inl rfl, fun _ => rfl, fun _ => Or.inl t2, num 0 (Nat.zero_le _)⟩
      · have t3 : s_nd S' i 8 = s_nd S i 8 ∧ s_nd S' i 3 = s_nd S i 3 := by
          rcases m3 with q | q | q
          · exact q
          · exact absurd q t2
          · exact absurd q t1
        refine ⟨f, f1, fun h3 => f2 (by rw [← t3.2]; exact h3), fun hf => ?_, num f (Nat.le_refl _)⟩
        unfold rl6
        rw [t3.1, t3.2, AC_way ha]
        rcases f3 hf with q | q | q
        · exact Or.inl q
        · exact Or.inr (Or.inl q)
        · refine Or.inr (Or.inr fun m hm hmi => ?_)
          rw [m1] at hm
          rcases List.mem_append.mp hm with z | z
          · exact ⟨(q m z hmi).1, fun k nl => (q m z hmi).2 k (fun hx => nl (sub _ hx))⟩
          · rcases m2 with rfl | ⟨q', rfl, k1, k2⟩
            · cases z
            · have ex := List.mem_singleton.mp z
              subst ex
              rcases k2 with ⟨k0, -, -, y⟩ | ⟨k0, -, y⟩ | k0
              · exact absurd y t1
              · exact absurd y t2
              · exact ⟨fun x => by omega, fun x => by omega⟩
end ACS
