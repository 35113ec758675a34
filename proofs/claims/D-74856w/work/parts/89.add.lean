/-! LISTS: growing, adding, removing -/
set_option maxRecDepth 100000
section AD
variable {E : PE} {B : Nat × Nat} {F G : Nat → Nat} {R I : PM} {S S' : SS} {h h' : PH} {ad ad' : Nat → Nat → Nat}
theorem RP.mkI (hr : RP E B G ad I S h) (e : va_E) (k : Nat) (h1 : 1 ≤ pcl h) (h2 : k ≤ psl h) : RP E B G ad (fun b => if b = pn h then some e else I b) (g_mk S 1 k) (p_new h e k) := by
  have hq := hr.new e k h1 h2
  obtain ⟨r1, r2, r3, r4, r5, r6, r7, r8, r9⟩ := hr
  obtain ⟨q1, q2, q3, q4, q5, q6, q7, q8, q9⟩ := hq
  refine ⟨q1, fun b x hb => ?_, fun k hk => ?_, q4, q5, ?_, q7, q8, q9⟩
  · by_cases hp : b = pn h
    · simp only [hp, if_true] at hb
      cases hb
      subst hp
      exact ⟨pn_at, Nat.lt_succ_self _⟩
    · simp only [hp, if_false] at hb
      exact q2 b x hb
  · have hne : G k ≠ pn h := Nat.ne_of_lt (r3 k hk).2.2
    refine ⟨?_, (q3 k hk).2⟩
    simp only [hne, if_false]
    exact (q3 k hk).1
  · have up : ∀ {b : Nat} {x : va_E}, I b = some x → (fun b => if b = pn h then some e else I b) b = some x := by
      intro b x hb
      have hne : b ≠ pn h := Nat.ne_of_lt (r2 b x hb).2
      simp only [hne, if_false]
      exact hb
    obtain ⟨i1, i2, i3, ⟨m1, c1, f1, a1, a2, a3, a4, a5, a6⟩, ⟨md, c, f, b1, b2, b3, b4, b5, b6⟩, i6, i7, i8⟩ := q6
    exact ⟨fun i hi => ⟨up (i1 i hi).1, (i1 i hi).2⟩, ⟨up i2.1, i2.2⟩, ⟨up i3.1, i3.2⟩, ⟨m1, c1, f1, up a1, a2, up a3, a4, a5, a6⟩, ⟨md, c, f, up b1, b2, up b3, b4, b5, fun i hi => by obtain ⟨q, e1, e2⟩ := b6 i hi; exact ⟨q, e1, up e2⟩⟩, fun li j x h1 h2 hx => ⟨up (i6 li j x h1 h2 hx).1, (i6 li j x h1 h2 hx).2⟩, i7, fun i hi => ⟨(i8 i hi).1, up (i8 i hi).2⟩⟩
theorem lsC_cls {li : Nat} {x : va_E} (hx : x ∈ lsC E S li) : ∃ (ci : Nat) (fs : List Value), x = .inr (ci, fs) ∧ ci ≤ 25 := by
  unfold lsC at hx
  split at hx
  · obtain ⟨m, -, rfl⟩ := List.mem_map.mp hx; exact ⟨_, _, rfl, by decide⟩
  · split at hx
    · obtain ⟨m, -, rfl⟩ := List.mem_map.mp hx; exact ⟨_, _, rfl, by decide⟩
    · split at hx
      · obtain ⟨m, -, rfl⟩ := List.mem_map.mp hx; exact ⟨_, _, rfl, by decide⟩
      · obtain ⟨m, -, rfl⟩ := List.mem_map.mp hx; exact ⟨_, _, rfl, by decide⟩
/-- the list's mod count is of no account -/
theorem RP.md (hr : RP E B G ad I S h) {li : Nat} {md : Int32} (h1 : 2 ≤ li) (h2 : li < 6) : RP E B G ad I S (p_set h (G li) (cLst md (G (li + 10)) (lsC E S li).length)) := by
  refine hr.set li _ (Or.inl (by omega)) rfl rfl (fun k e _ hc => hc) ?_ (fun x => x)
  unfold CR
  rw [if_neg (by omega), if_neg (by omega), if_neg (by omega), if_neg (by omega)]
  unfold cL
  rw [if_neg (by omega), if_pos (by omega)]
  exact ⟨md, rfl⟩
theorem psps {h : PH} {a : Nat} {e e' : va_E} : p_set (p_set h a e) a e' = p_set h a e' := by
  unfold p_set
  refine Prod.ext (funext fun b => ?_) rfl
  show (if b = a then some e' else if b = a then some e else h.1 b) = _
  by_cases hb : b = a
  · rw [if_pos hb]; exact (if_pos hb).symm
  · rw [if_neg hb, if_neg hb]; exact (if_neg hb).symm
theorem ps_pn {h : PH} {e e' : va_E} {k : Nat} : p_set (p_new h e k) (pn h) e' = p_new h e' k := by
  unfold p_set p_new
  refine Prod.ext (funext fun b => ?_) rfl
  show (if b = h.2.2.1 then some e' else if b = h.2.2.1 then some e else h.1 b) = _
  by_cases hb : b = h.2.2.1
  · rw [if_pos hb]; exact (if_pos hb).symm
  · rw [if_neg hb, if_neg hb]; exact (if_neg hb).symm
theorem mirrorC {β : Type} {a n : Nat} {x : AX} {K : Option Nat → Option β} (e : h.1 a = some (.inl (h.2.1.2.1 4, n, x))) (hb : pbase h ≤ a) : gC h (some a) K = K (some (sAd h.2.1 40)) := by
  have hb' : h.2.1.2.2.1 ≤ a := hb
  simp [gC, cR_, cA_, e, hb']
theorem ycQ_at {β : Type} {a b n0 n1 sp dp n : Nat} {f g : Nat → Option Nat} {K : PH → Option β} (e : h.1 a = some (.inl (h.2.1.2.1 4, n0, refs f))) (e' : h.1 b = some (.inl (h.2.1.2.1 4, n1, refs g))) (hb : pbase h ≤ a) (hb' : pbase h ≤ b) (l1 : sp + n ≤ n0) (l2 : dp + n ≤ n1) (s1 : sp < 2 ^ 31) (s2 : dp < 2 ^ 31) (s3 : n < 2 ^ 31) (hel : ∀ i : Nat, i < n → elOK h (f (sp + i)) = true) :
    ycQ h (some a) (Int32.ofNat sp) (some b) (Int32.ofNat dp) (Int32.ofNat n) K = K (p_set h b (.inl (h.2.1.2.1 4, n1, refs (va_cpy f g sp dp n)))) := by
  have z : ∀ m : Nat, m < 2 ^ 31 → ¬ Int32.ofNat m < 0 := fun m hm => by
    rw [show (0 : Int32) = Int32.ofNat 0 from rfl, of_lt hm (by omega)]
    omega
  simp only [ycQ, cR_, cA_, e, e', if_true]
  rw [clamp9 s1, clamp9 s2, clamp9 s3]
  exact if_pos ⟨z _ s1, z _ s2, z _ s3, l1, l2, hb, hb', List.all_eq_true.mpr fun i hi => hel i (List.mem_range.mp hi)⟩
/-- the row of the list li moves to a new one -/
theorem RP.move (hr : RP E B G ad I S h) {li cap' : Nat} {md : Int32} {f' : Nat → Option Nat} (h1 : 2 ≤ li) (h2 : li < 6) (hr1 : 1 ≤ pcl h) (hr2 : cap' ≤ psl h) (hf1 : ∀ j : Nat, j < (lsC E S li).length → f' j = some (ad li j)) (hf2 : ∀ j : Nat, (lsC E S li).length ≤ j → f' j = none) (hc1 : (lsC E S li).length ≤ cap') (hc2 : cap' < 2 ^ 30) (hc3 : 0 < cap') :
    RP E B (fu G (li + 10) (pn h)) ad I (u_gh S (fu (fu (fu (s_gh S) li cap') 0 (s_gh S 0 + 1)) 1 (s_gh S 1 + cap'))) (p_set (p_new h (.inl (h.2.1.2.1 4, cap', refs f')) cap') (G li) (cLst md (pn h) (lsC E S li).length)) := by
  obtain ⟨r1, r2, r3, r4, r5, r6, r7, r8, r9⟩ := hr
  have gk : ∀ {k : Nat}, k ≠ li + 10 → fu G (li + 10) (pn h) k = G k := fun hk => fu_ne hk
  have mli : mR (s_n S) li := Or.inl (by omega)
  have mlt : mR (s_n S) (li + 10) := Or.inr (Or.inl (by omega))
  have lt : ∀ k : Nat, mR (s_n S) k → G k ≠ pn h := fun k hk => Nat.ne_of_lt (r3 k hk).2.2
  have hold : ∀ b : Nat, b ≠ pn h → b ≠ G li → (p_set (p_new h (.inl (h.2.1.2.1 4, cap', refs f')) cap') (G li) (cLst md (pn h) (lsC E S li).length)).1 b = h.1 b := fun b hb1 hb2 => by rw [ps_ne hb2, pn_ne hb1]
  refine ⟨r1, fun b e hb => ?_, fun k hk => ?_, fun j k hj hk hjk => ?_, fun k hk => ?_, ?_, r7, ?_, ?_⟩
  · obtain ⟨g1, g2⟩ := r2 b e hb
    refine ⟨?_, Nat.lt_succ_of_lt g2⟩
    rw [hold b (Nat.ne_of_lt g2) (fun hbk => by rw [hbk, (r3 li mli).1] at hb; cases hb), g1]
  · by_cases hkt : k = li + 10
    · subst hkt
      rw [fu_eq]
      refine ⟨?_, ?_, Nat.lt_succ_self _⟩
      · cases hI : I (pn h) with
        | none => rfl
        | some x => exact absurd (r2 _ x hI).2 (Nat.lt_irrefl _)
      · exact Nat.le_of_lt (Nat.lt_of_le_of_lt (r3 li mli).2.1 (r3 li mli).2.2)
    · rw [gk hkt]
      exact ⟨(r3 k hk).1, (r3 k hk).2.1, Nat.lt_succ_of_lt (r3 k hk).2.2⟩
  · by_cases hjt : j = li + 10
    · by_cases hkt : k = li + 10
      · rw [hjt, hkt]
      · rw [hjt, fu_eq, gk hkt] at hjk
        exact absurd hjk.symm (lt k hk)
    · by_cases hkt : k = li + 10
      · rw [hkt, fu_eq, gk hjt] at hjk
        exact absurd hjk (lt j hj)
      · rw [gk hjt, gk hkt] at hjk
        exact r4 j k hj hk hjk
  · by_cases hkt : k = li + 10
    · subst hkt
      refine ⟨_, by rw [fu_eq, ps_ne (Ne.symm (lt li mli)), pn_at], ?_⟩
      unfold CR
      rw [if_neg (by omega), if_neg (by omega), if_neg (by omega), if_neg (by omega)]
      unfold cL
      rw [if_neg (by omega), if_neg (by omega), show li + 10 - 10 = li from by omega]
      have ec : s_gh (u_gh S (fu (fu (fu (s_gh S) li cap') 0 (s_gh S 0 + 1)) 1 (s_gh S 1 + cap'))) li = cap' := ((fu_ne (by omega)).trans (fu_ne (by omega))).trans fu_eq
      rw [ec]
      exact ⟨f', by rw [r1], hf1, hf2, hc1, hc2, hc3⟩
    · by_cases hkl : k = li
      · subst hkl
        refine ⟨_, by rw [gk hkt, ps_at], ?_⟩
        unfold CR
        rw [if_neg (by omega), if_neg (by omega), if_neg (by omega), if_neg (by omega)]
        unfold cL
        rw [if_neg (by omega), if_pos (by omega), fu_eq]
        exact ⟨md, rfl⟩
      · obtain ⟨e, a1, a2⟩ := r5 k hk
        refine ⟨e, ?_, ?_⟩
        · rw [gk hkt, hold _ (lt k hk) (fun hx => hkl (r4 k li hk mli hx)), a1]
        · unfold CR at a2 ⊢
          by_cases c0 : k = 0
          · rw [if_pos c0] at a2 ⊢
            rw [a2]
            unfold cSim
            rw [gk (show 40 ≠ li + 10 by omega), gk (show 1 ≠ li + 10 by omega), gk (show 2 ≠ li + 10 by omega), gk (show 3 ≠ li + 10 by omega), gk (show 4 ≠ li + 10 by omega), gk (show 5 ≠ li + 10 by omega), gk (show 6 ≠ li + 10 by omega), gk (show 7 ≠ li + 10 by omega)]
            rfl
          rw [if_neg c0] at a2 ⊢
          by_cases c6 : k = 6
          · rw [if_pos c6] at a2 ⊢
            rw [a2]
            unfold cSto
            rw [gk (show 8 ≠ li + 10 by omega), gk (show 9 ≠ li + 10 by omega)]
            rfl
          rw [if_neg c6] at a2 ⊢
          by_cases c5 : 50 ≤ k
          · rw [if_pos c5] at a2 ⊢
            unfold cN at a2 ⊢
            by_cases c7 : k < 60
            · rw [if_pos c7] at a2 ⊢
              rw [a2]
              unfold cNode
              rw [gk (show 70 + (k - 50) ≠ li + 10 by omega), gk (show 60 + (k - 50) ≠ li + 10 by omega)]
              rfl
            · rw [if_neg c7] at a2 ⊢
              exact a2
          rw [if_neg c5] at a2 ⊢
          by_cases c7 : k = 7 ∨ k = 8 ∨ k = 9
          · rw [if_pos c7] at a2 ⊢
            exact a2
          rw [if_neg c7] at a2 ⊢
          unfold cL at a2 ⊢
          by_cases c1 : k = 1
          · rw [if_pos c1] at a2 ⊢
            obtain ⟨f, b1, b2⟩ := a2
            exact ⟨f, b1, fun i hi => by rw [b2 i hi, gk (show 50 + i ≠ li + 10 by omega)]⟩
          rw [if_neg c1] at a2 ⊢
          by_cases c2 : k < 6
          · rw [if_pos c2] at a2 ⊢
            rw [gk (show k + 10 ≠ li + 10 by omega)]
            exact a2
          rw [if_neg c2] at a2 ⊢
          have hk2 : 2 ≤ k - 10 := by unfold mR at hk; omega
          have ec : s_gh (u_gh S (fu (fu (fu (s_gh S) li cap') 0 (s_gh S 0 + 1)) 1 (s_gh S 1 + cap'))) (k - 10) = s_gh S (k - 10) := ((fu_ne (by omega)).trans (fu_ne (by omega))).trans (fu_ne (by omega))
          rw [ec]
          exact a2
  · obtain ⟨i1, i2, i3, ⟨m1, c1, f1, a1, a2, a3, a4, a5, a6⟩, ⟨md2, c, f, b1, b2, b3, b4, b5, b6⟩, i6, i7, i8⟩ := r6
    have e40 := gk (show 40 ≠ li + 10 by omega)
    have e41 := gk (show 41 ≠ li + 10 by omega)
    have e42 := gk (show 42 ≠ li + 10 by omega)
    have e43 := gk (show 43 ≠ li + 10 by omega)
    have e44 := gk (show 44 ≠ li + 10 by omega)
    have e45 := gk (show 45 ≠ li + 10 by omega)
    refine ⟨fun i hi => by rw [gk (show 70 + i ≠ li + 10 by omega)]; exact i1 i hi, ?_, by rw [e41]; exact i3, ⟨m1, c1, f1, by rw [e42, e44]; exact a1, by rw [e42]; exact a2, by rw [e44]; exact a3, by rw [e44]; exact a4, a5, fun i hi => by rw [gk (show 70 + i ≠ li + 10 by omega)]; exact a6 i hi⟩, ⟨md2, c, f, by rw [e43, e45]; exact b1, by rw [e43]; exact b2, by rw [e45]; exact b3, by rw [e45]; exact b4, b5, b6⟩, i6, i7, i8⟩
    rw [e40]
    refine ⟨?_, i2.2⟩
    rw [i2.1]
    unfold cCfg
    rw [e41, e42, e43]
    rfl
  · show h.2.2.2.1 - 1 + fu (fu (fu (s_gh S) li cap') 0 (s_gh S 0 + 1)) 1 (s_gh S 1 + cap') 0 = B.1
    rw [fu_ne (by decide), fu_eq]
    have h1' : 1 ≤ h.2.2.2.1 := hr1
    have r8' : h.2.2.2.1 + s_gh S 0 = B.1 := r8
    omega
  · show h.2.2.2.2 - cap' + fu (fu (fu (s_gh S) li cap') 0 (s_gh S 0 + 1)) 1 (s_gh S 1 + cap') 1 = B.2
    rw [fu_eq]
    have h2' : cap' ≤ h.2.2.2.2 := hr2
    have r9' : h.2.2.2.2 + s_gh S 1 = B.2 := r9
    omega
end AD
