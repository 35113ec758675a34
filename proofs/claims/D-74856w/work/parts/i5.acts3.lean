/-! ROOM: a state of the lineage after an action -/
set_option maxRecDepth 100000
section AC3
variable {L : LG} {S S' : SS} {i j u : Nat}
theorem AC_new (h : AC S S' i) : ∃ new : List MG, s_ms S' = s_ms S ++ new ∧ (new = [] ∨ ∃ q : MG, new = [q] ∧ q.2.1 = i) := by
  obtain ⟨-, -, -, -, -, new, m1, m2, -⟩ := h
  refine ⟨new, m1, ?_⟩
  rcases m2 with q | ⟨q, h1, h2, -⟩
  · exact Or.inl q
  · exact Or.inr ⟨q, h1, h2⟩
theorem AC_mN (h : AC S S' i) : (j ≠ i → mN S' j = mN S j) ∧ mN S' i ≤ mN S i + 1 := by
  obtain ⟨new, m1, m2⟩ := AC_new h
  unfold mN
  rw [m1, app_sum, app_sum]
  rcases m2 with rfl | ⟨q, rfl, q1⟩
  · exact ⟨fun _ => rfl, Nat.le_succ _⟩
  · rw [sum1, sum1]
    refine ⟨fun hj => ?_, ?_⟩
    · rw [show fmM j q = 0 from if_neg (fun hx => hj (hx.1.symm.trans q1))]
      rfl
    · have := fmM_le (i := i) (q := q)
      omega
/-- no new messages but of other kinds -/
theorem mN_sil (h : AC S S' i) (hq : ∀ q ∈ s_ms S', q ∈ s_ms S ∨ 4 ≤ q.1) (hI : Inv S') : mN S' j ≤ mN S j := by
  obtain ⟨new, m1, m2⟩ := AC_new h
  unfold mN
  rw [m1, app_sum]
  rcases m2 with rfl | ⟨q, rfl, q1⟩
  · exact Nat.le_refl _
  · rw [sum1]
    have hp := hI.2.2.2.2.2.1
    rw [m1] at hp
    have : fmM j q = 0 := by
      refine if_neg (fun hx => ?_)
      rcases hq q (by rw [m1]; exact List.mem_append_right _ (List.mem_singleton.mpr rfl)) with z | z
      · exact (List.pairwise_append.mp hp).2.2 q z q (List.mem_singleton.mpr rfl) rfl
      · omega
    omega
theorem KS.act {c T P : Nat → Nat} (h : KS S c T P) (hI : Inv S) (hi : i < s_n S) (ha : AC S S' i) (hp : s_nd S' i 5 = s_nd S i 5 ∨ s_nd S' i 5 = 0 ∨ (0 < (s_nd S' i 5).toInt ∧ s_ms S' = s_ms S)) (hI' : Inv S') : KS S' (fun j => c j + 1) (fu T i (T i + 1)) (fu P i (P i + 1)) := by
  intro j hj
  rw [ha.2.1] at hj
  obtain ⟨Lt, k, k1, k2⟩ := h j hj
  by_cases cj : j = i
  · subst cj
    rw [fu_eq, fu_eq]
    rcases hp with q | q | ⟨q1, q2⟩
    · exact ⟨Lt, k.act hI hi ha (Or.inl rfl) (by rw [q]; exact k.2.1.1), Nat.le_succ_of_le k1, k2⟩
    · exact ⟨Lt, k.act hI hi ha (Or.inl rfl) (by rw [q]; exact k.2.1.2), Nat.le_succ_of_le k1, k2⟩
    · refine ⟨(s_nd S' j 5).toInt :: Lt, k.act hI hi ha (Or.inr ⟨_, q1, rfl, q2⟩) (List.mem_cons_self ..), ?_, fun t ht => ?_⟩
      · have := nLt_cons (x := (s_nd S' j 5).toInt) (Lt := Lt) (s := 0) (t := 6000000)
        omega
      · rcases List.mem_cons.mp ht with rfl | ht
        · have := (hI'.2.1 j (by rw [ha.2.1]; exact hi)).2.2.2.2.2.2.1.2
          omega
        · exact k2 t ht
  · rw [fu_ne cj, fu_ne cj]
    exact ⟨Lt, (k.oth ha cj).mono (Nat.le_succ _) (Nat.le_refl _), k1, k2⟩
theorem KS.camp {c T P : Nat → Nat} (h : KS S c T P) (hI : Inv S) (hi : i < s_n S) (ha : AC S S' i) (hp : s_nd S' i 5 = s_nd S i 5) : KS S' (fun j => c j + 1) (fu T i (T i + 1)) P := by
  intro j hj
  rw [ha.2.1] at hj
  obtain ⟨Lt, k, k1, k2⟩ := h j hj
  by_cases cj : j = i
  · subst cj
    rw [fu_eq]
    exact ⟨Lt, k.act hI hi ha (Or.inl rfl) (by rw [hp]; exact k.2.1.1), k1, k2⟩
  · rw [fu_ne cj]
    exact ⟨Lt, (k.oth ha cj).mono (Nat.le_succ _) (Nat.le_refl _), k1, k2⟩
theorem ncd_up (hn : s_n S' = s_n S) (h : ∀ j : Nat, j ≠ i → s_nd S' j 3 = s_nd S j 3) : ncd S' ≤ ncd S + 1 := by
  unfold ncd
  rw [hn]
  have key : ∀ n : Nat, sN n (fun i => if s_nd S' i 3 = 0 then 0 else 1) ≤ sN n (fun i => if s_nd S i 3 = 0 then 0 else 1) + (if i < n then 1 else 0) := by
    intro n
    induction n with
    | zero => exact Nat.zero_le _
    | succ n ih =>
      rw [sN_s, sN_s]
      by_cases c : n = i
      · subst c
        have e1 : (if n < n then 1 else 0) = 0 := if_neg (Nat.lt_irrefl n)
        have e2 : (if n < n + 1 then 1 else 0) = 1 := if_pos (Nat.lt_succ_self n)
        rw [e1] at ih
        rw [e2]
        have : (if s_nd S' n 3 = 0 then 0 else 1) ≤ 1 := by split <;> omega
        omega
      · have e0 : (if s_nd S' n 3 = 0 then 0 else 1) = (if s_nd S n 3 = 0 then 0 else 1) := by rw [h n c]
        rw [e0]
        by_cases c2 : i < n
        · have e1 : (if i < n then 1 else 0) = 1 := if_pos c2
          have e2 : (if i < n + 1 then 1 else 0) = 1 := if_pos (by omega)
          rw [e1] at ih
          rw [e2]
          omega
        · have e1 : (if i < n then 1 else 0) = 0 := if_neg c2
          have e2 : (if i < n + 1 then 1 else 0) = 0 := if_neg (by omega)
          rw [e1] at ih
          rw [e2]
          omega
  refine Nat.le_trans (key _) ?_
  split <;> omega
theorem ncd_same (hn : s_n S' = s_n S) (h : ∀ j : Nat, s_nd S' j 3 = s_nd S j 3) : ncd S' = ncd S := by
  unfold ncd
  rw [hn]
  exact sN_eq (fun i _ => by rw [h])
theorem ncd_down (hi : i < s_n S) (hn : s_n S' = s_n S) (h : ∀ j : Nat, j ≠ i → s_nd S' j 3 = s_nd S j 3) (h1 : s_nd S i 3 ≠ 0) (h2 : s_nd S' i 3 = 0) : ncd S' + 1 = ncd S := by
  unfold ncd
  rw [hn]
  have key : ∀ n : Nat, sN n (fun i => if s_nd S' i 3 = 0 then 0 else 1) + (if i < n then 1 else 0) = sN n (fun i => if s_nd S i 3 = 0 then 0 else 1) := by
    intro n
    induction n with
    | zero => rfl
    | succ n ih =>
      rw [sN_s, sN_s]
      by_cases c : n = i
      · subst c
        have e1 : (if n < n then 1 else 0) = 0 := if_neg (Nat.lt_irrefl n)
        have e2 : (if n < n + 1 then 1 else 0) = 1 := if_pos (Nat.lt_succ_self n)
        have e3 : (if s_nd S' n 3 = 0 then 0 else 1) = 0 := if_pos h2
        have e4 : (if s_nd S n 3 = 0 then 0 else 1) = 1 := if_neg h1
        rw [e1] at ih
        rw [e2, e3, e4]
        omega
      · have e0 : (if s_nd S' n 3 = 0 then 0 else 1) = (if s_nd S n 3 = 0 then 0 else 1) := by rw [h n c]
        rw [e0]
        by_cases c2 : i < n
        · have e1 : (if i < n then 1 else 0) = 1 := if_pos c2
          have e2 : (if i < n + 1 then 1 else 0) = 1 := if_pos (by omega)
          rw [e1] at ih
          rw [e2]
          omega
        · have e1 : (if i < n then 1 else 0) = 0 := if_neg c2
          have e2 : (if i < n + 1 then 1 else 0) = 0 := if_neg (by omega)
          rw [e1] at ih
          rw [e2]
          omega
  have := key (s_n S)
  have e1 : (if i < s_n S then 1 else 0) = 1 := if_pos hi
  rw [e1] at this
  exact this
/-- a campaign -/
theorem STI.camp (h : STI L S) (hc : CMX S S' i) (hi : i < s_n S) (hj : LJ S') : STI (LG' L (lgN L) (lgx L + 1) (lgy L) u (fu (lgK L) i (lgK L i + 1)) (fu (lgX L) i (lgX L i + 1)) (lgP L) (fu (lgM L) i (lgM L i + 1))) S' := by
  obtain ⟨h1, h2, h3, h4, h5, h6, h7, h8⟩ := h
  obtain ⟨c1, c2, c3, c4, c5, c6, -⟩ := hc
  have nn : s_n S' = s_n S := c1.2.1
  have o3 : ∀ j : Nat, j ≠ i → s_nd S' j 3 = s_nd S j 3 := fun j hj => c1.2.2.2.2.1 j 3 hj (by decide)
  have kinds : ∀ P : Nat → Prop, P 0 → (∀ m ∈ s_ms S, P m.1) → ∀ m ∈ s_ms S', P m.1 := fun P p0 hm m h => by
    rcases c5 m h with z | z
    · exact hm m z
    · rw [z.1]; exact p0
  have nc : ∀ j : Nat, j < s_n S → s_nd S' j 3 = 0 → mN S' j = mN S j ∧ s_nd S j 3 = 0 := fun j hj hz => by
    have cj : j ≠ i := fun hx => by rw [hx] at hz; exact c3 hz
    exact ⟨(AC_mN c1).1 cj, by rw [← o3 j cj]; exact hz⟩
  have key : STI (LG' L (lgN L) (lgx L + 1) (lgy L) u (fu (lgK L) i (lgK L i + 1)) (fu (lgX L) i (lgX L i + 1)) (lgP L) (fu (lgM L) i (lgM L i + 1))) S' ↔ (CC (lgC L) S' ∧ LJ S' ∧ KS S' (fun _ => lgx L + 1 + lgy L) (fun j => fu (lgX L) i (lgX L i + 1) j + 1) (lgP L) ∧
      (∀ j : Nat, j < s_n S' → mN S' j ≤ fu (lgK L) i (lgK L i + 1) j ∧ (fu (lgM L) i (lgM L i + 1) j = 0 → s_nd S' j 3 = 0 ∧ mN S' j = 0)) ∧ oN S' ≤ lgy L ∧ (lgy L = 0 → PR S') ∧ ncd S' ≤ lgx L + 1 ∧ (ncd S' + 1 ≤ lgx L + 1 ∨ NR S')) := Iff.rfl
  rw [key]
  refine ⟨h1.tr c1.cc, hj, ?_, fun j hj => ?_, ?_, fun hy => ?_, ?_, ?_⟩
  · refine (h3.camp h2.1 hi c1 (c4 5 (Or.inr rfl))).mono (fun j => by show lgx L + lgy L + 1 ≤ lgx L + 1 + lgy L; omega) (fun j => ?_) (fun _ => Nat.le_refl _)
    by_cases cj : j = i
    · subst cj
      rw [fu_eq, fu_eq]
      exact Nat.le_refl _
    · rw [fu_ne cj, fu_ne cj]
      exact Nat.le_refl _
  · rw [nn] at hj
    obtain ⟨a1, a2⟩ := h4 j hj
    by_cases cj : j = i
    · subst cj
      rw [fu_eq, fu_eq]
      exact ⟨by have := (AC_mN (j := j) c1).2; omega, fun hx => absurd hx (Nat.succ_ne_zero _)⟩
    · rw [fu_ne cj, fu_ne cj, (AC_mN c1).1 cj, o3 j cj]
      exact ⟨a1, a2⟩
  · have e : oN S' = oN S := by
      obtain ⟨new, m1, m2⟩ := AC_new c1
      unfold oN
      rw [m1, app_sum, c6]
      rcases m2 with rfl | ⟨q, rfl, q1⟩
      · rfl
      · rw [sum1]
        rcases c5 q (by rw [m1]; exact List.mem_append_right _ (List.mem_singleton.mpr rfl)) with z | z
        · have hp := hj.1.2.2.2.2.2.1
          rw [m1] at hp
          exact absurd rfl ((List.pairwise_append.mp hp).2.2 q z q (List.mem_singleton.mpr rfl))
        · rw [show fmO q = 0 from if_pos (by omega)]
          rfl
    omega
  · obtain ⟨p1, p2, p3⟩ := h6 hy
    refine ⟨kinds (fun k => k ≤ 2) (by decide) p1, by rw [c6]; exact p2, fun j hj => ?_⟩
    rw [nn] at hj
    obtain ⟨x1, x2, x3⟩ := p3 j hj
    have e : ∀ k : Nat, k = 2 ∨ k = 5 → s_nd S' j k = s_nd S j k := fun k hk => by
      by_cases cj : j = i
      · subst cj
        exact c4 k hk
      · exact c1.2.2.2.2.1 j k cj (by omega)
    refine ⟨(e 2 (Or.inl rfl)).trans x1, (e 5 (Or.inr rfl)).trans x2, fun hz => ?_⟩
    obtain ⟨y1, y2⟩ := nc j hj hz
    rw [y1]
    exact x3 y2
  · have := ncd_up nn o3
    omega
  · rcases h8 with q | ⟨q1, q2⟩
    · have := ncd_up nn o3
      exact Or.inl (by omega)
    · refine Or.inr ⟨kinds (fun k => k ≠ 3) (by decide) q1, fun j hj hz => ?_⟩
      rw [nn] at hj
      obtain ⟨y1, y2⟩ := nc j hj hz
      rw [y1]
      exact q2 j hj y2
/-- another action -/
theorem STI.act (h : STI L S) (hc : AX2 S S' i) (hi : i < s_n S) (hj' : LJ S') : STI (LG' L (lgN L) (lgx L) (lgy L + 1) u (fu (lgK L) i (lgK L i + 1)) (fu (lgX L) i (lgX L i + 1)) (fu (lgP L) i (lgP L i + 1)) (lgM L)) S' := by
  obtain ⟨h1, h2, h3, h4, h5, h6, h7, h8⟩ := h
  obtain ⟨c1, c2, c3, c4, -⟩ := hc
  have nn : s_n S' = s_n S := c1.2.1
  have o3 : ∀ j : Nat, j ≠ i → s_nd S' j 3 = s_nd S j 3 := fun j hj => c1.2.2.2.2.1 j 3 hj (by decide)
  have key : STI (LG' L (lgN L) (lgx L) (lgy L + 1) u (fu (lgK L) i (lgK L i + 1)) (fu (lgX L) i (lgX L i + 1)) (fu (lgP L) i (lgP L i + 1)) (lgM L)) S' ↔ (CC (lgC L) S' ∧ LJ S' ∧ KS S' (fun _ => lgx L + (lgy L + 1)) (fun j => fu (lgX L) i (lgX L i + 1) j + 1) (fu (lgP L) i (lgP L i + 1)) ∧
      (∀ j : Nat, j < s_n S' → mN S' j ≤ fu (lgK L) i (lgK L i + 1) j ∧ (lgM L j = 0 → s_nd S' j 3 = 0 ∧ mN S' j = 0)) ∧ oN S' ≤ lgy L + 1 ∧ (lgy L + 1 = 0 → PR S') ∧ ncd S' ≤ lgx L ∧ (ncd S' + 1 ≤ lgx L ∨ NR S')) := Iff.rfl
  rw [key]
  refine ⟨h1.tr c1.cc, hj', ?_, fun j hj => ?_, by omega, fun hy => absurd hy (Nat.succ_ne_zero _), ?_, ?_⟩
  · refine (h3.act h2.1 hi c1 c2 hj'.1).mono (fun j => by show lgx L + lgy L + 1 ≤ lgx L + (lgy L + 1); omega) (fun j => ?_) (fun _ => Nat.le_refl _)
    by_cases cj : j = i
    · subst cj
      rw [fu_eq, fu_eq]
      exact Nat.le_refl _
    · rw [fu_ne cj, fu_ne cj]
      exact Nat.le_refl _
  · rw [nn] at hj
    obtain ⟨a1, a2⟩ := h4 j hj
    by_cases cj : j = i
    · subst cj
      rw [fu_eq]
      refine ⟨by have := (AC_mN (j := j) c1).2; omega, fun hx => ?_⟩
      obtain ⟨z1, z2⟩ := a2 hx
      rcases c3 with ⟨q1, q2⟩ | ⟨q1, q2⟩
      · have := mN_sil (j := j) c1 q2 hj'.1
        exact ⟨q1.trans z1, by omega⟩
      · exact absurd z1 q1
    · rw [fu_ne cj, (AC_mN c1).1 cj, o3 j cj]
      exact ⟨a1, a2⟩
  · rcases c3 with ⟨q1, q2⟩ | ⟨q1, q2⟩
    · have := ncd_same nn (fun j => by
        by_cases cj : j = i
        · rw [cj]; exact q1
        · exact o3 j cj)
      omega
    · have := ncd_down hi nn o3 q1 q2
      omega
  · rcases c3 with ⟨q1, q2⟩ | ⟨q1, q2⟩
    · have o3' : ∀ j : Nat, s_nd S' j 3 = s_nd S j 3 := fun j => by
        by_cases cj : j = i
        · rw [cj]; exact q1
        · exact o3 j cj
      have e := ncd_same nn o3'
      rcases h8 with z | ⟨z1, z2⟩
      · exact Or.inl (by omega)
      · refine Or.inr ⟨fun m hm => ?_, fun j hj hz => ?_⟩
        · rcases q2 m hm with y | y
          · exact z1 m y
          · omega
        · rw [nn] at hj
          rw [o3'] at hz
          have a := z2 j hj hz
          have b := mN_sil (j := j) c1 q2 hj'.1
          omega
    · have := ncd_down hi nn o3 q1 q2
      exact Or.inl (by omega)
end AC3
