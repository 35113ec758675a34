/-! ROOM: the actions, all of them -/
set_option maxRecDepth 100000
section AZS
variable {S S' : SS} {i : Nat}
/-- quiet: the messages stay; the node's timer and candidacy stay -/
theorem quiet_x (h1 : s_cf S' = s_cf S) (h2 : s_n S' = s_n S) (h3 : now S' = now S) (h4 : s_ms S' = s_ms S) (h5 : ∀ j k : Nat, (k = 1 ∨ k = 20 ∨ k = 21 ∨ k = 3 ∨ k = 8) → s_nd S' j k = s_nd S j k) (h6 : ∀ j k : Nat, j ≠ i → (k = 2 ∨ k = 5) → s_nd S' j k = s_nd S j k)
    (h7 : s_nd S' i 5 = s_nd S i 5 ∨ s_nd S' i 5 = 0 ∨ 0 < (s_nd S' i 5).toInt) (h8 : (s_dl S').length ≤ (s_dl S).length + 1) (h9 : s_gh S' 0 ≤ s_gh S 0 + 56) : AX2 S S' i := by
  refine ⟨AC_sam h1 h2 h3 h4 (fun j k hk => h5 j k (by omega)) (fun j k hj hk => ?_) (Or.inl ⟨h5 i 8 (by decide), h5 i 3 (by decide)⟩), ?_, Or.inl ⟨h5 i 3 (by decide), fun q hq => Or.inl (by rw [h4] at hq; exact hq)⟩, ?_, h9⟩
  · rcases hk with rfl | rfl | rfl | rfl
    · exact h6 j 2 hj (by decide)
    · exact h5 j 3 (by decide)
    · exact h6 j 5 hj (by decide)
    · exact h5 j 8 (by decide)
  · rcases h7 with q | q | q
    · exact Or.inl q
    · exact Or.inr (Or.inl q)
    · exact Or.inr (Or.inr ⟨q, h4⟩)
  · unfold oN
    rw [h4]
    omega
theorem nd_o {j k a : Nat} {v : Int32} (hk : k ≠ a) : s_nd (u_nd S i a v) j k = s_nd S j k := nd_ne (Or.inr (Ne.symm hk))
theorem res_x : AX2 S (restS S i).2 i := quiet_x rfl rfl rfl rfl (fun j k hk => nd_o (by omega)) (fun j k hj hk => nd_ne (Or.inl (Ne.symm hj))) (Or.inl (nd_o (by decide))) (Nat.le_succ _) (Nat.le_add_right _ _)
theorem cut_x {v : Int32} : AX2 S (cutS S i v).2 i := quiet_x rfl rfl rfl rfl (fun j k hk => nd_o (by omega)) (fun j k hj hk => nd_ne (Or.inl (Ne.symm hj))) (Or.inl (nd_o (by decide))) (Nat.le_succ _) (Nat.le_add_right _ _)
theorem pau_x {ms : Int32} (hI : Inv S) (hm : iv ms 1 20000) : (pauS S i ms).2 = S ∨ AX2 S (pauS S i ms).2 i := by
  unfold pauS
  by_cases c1 : s_nd S i 2 = 0
  · rw [if_pos c1]; exact Or.inl rfl
  rw [if_neg c1]
  refine Or.inr (quiet_x rfl rfl rfl rfl (fun j k hk => nd_o (by omega)) (fun j k hj hk => nd_ne (Or.inl (Ne.symm hj))) (Or.inr (Or.inr ?_)) (Nat.le_succ _) (Nat.le_add_right _ _))
  show 0 < (s_nd (u_nd S i 5 (mx (s_nd S i 5) (now S + ms))) i 5).toInt
  rw [nd_at, mx_i]
  have w := hI.2.2.2.1.1
  have w1 := w.1
  have w2 := w.2
  have m1 := hm.1
  have m2 := hm.2
  rw [i_add (by omega) (by omega)]
  omega
theorem gh_g3 {li sz : Nat} (hl : li = 3 ∨ li = 4) {c k : Nat} : s_gh (g_add (g_mk S c k) li sz) 0 ≤ s_gh S 0 + c + 1 := by
  show gg (s_gh (g_mk S c k)) li sz 0 ≤ _
  have e : s_gh (g_mk S c k) 0 = s_gh S 0 + c := gh_mk0
  unfold gg
  split
  · rw [fu_ne (by decide), fu_eq, e]
    exact Nat.le_refl _
  · rw [e]
    omega
theorem ou_x {ms du : Int32} : (ouS S i ms du).2 = S ∨ AX2 S (ouS S i ms du).2 i := by
  unfold ouS
  by_cases c1 : (s_ou S).length = 20
  · rw [if_pos c1]; exact Or.inl rfl
  rw [if_neg c1]
  refine Or.inr (quiet_x rfl rfl rfl rfl (fun _ _ _ => rfl) (fun _ _ _ _ => rfl) (Or.inl rfl) (Nat.le_succ _) ?_)
  have := gh_g3 (S := S) (li := 4) (sz := (s_ou S).length) (c := 1) (k := 3) (Or.inr rfl)
  show s_gh (g_add (g_mk S 1 3) 4 (s_ou S).length) 0 ≤ _
  omega
theorem wl_x {r : Nat} {v ms : Int32} : (wlS S i r v ms).2 = S ∨ AX2 S (wlS S i r v ms).2 i := by
  unfold wlS
  by_cases c0 : unfi S i < 0
  · rw [if_pos c0]; exact Or.inl rfl
  rw [if_neg c0]
  by_cases c1 : (s_dl S).length = 20
  · rw [if_pos c1]; exact Or.inl rfl
  rw [if_neg c1]
  refine Or.inr (quiet_x rfl rfl rfl rfl (fun _ _ _ => rfl) (fun _ _ _ _ => rfl) (Or.inl rfl) ?_ ?_)
  · show (s_dl S ++ [_]).length ≤ _
    rw [List.length_append]
    exact Nat.le_refl _
  · have := gh_g3 (S := S) (li := 3) (sz := (s_dl S).length) (c := 1) (k := 5) (Or.inl rfl)
    show s_gh (g_add (g_mk S 1 5) 3 (s_dl S).length) 0 ≤ _
    omega
theorem rd_x {r : Nat} : (rdS S i r).2 = S ∨ AX2 S (rdS S i r).2 i := by
  unfold rdS
  by_cases c0 : unfi S i < 0
  · rw [if_pos c0]; exact Or.inl rfl
  rw [if_neg c0]
  by_cases c1 : ((s_nd S i 9 >>> (Int32.ofNat r &&& 31)) &&& (1 : Int32)) = 0
  · rw [if_pos c1]; exact Or.inl rfl
  rw [if_neg c1]
  right
  show AX2 S (if s_nd S i (30 + r) = s_ar S 0 r then u_sc S 18 (s_sc S 18 + 1) else u_sc (u_sc S 18 (s_sc S 18 + 1)) 19 (s_sc S 19 + 1)) i
  split
  · exact quiet_x rfl rfl (SAM_sc (S := S) (k := 18) (v := s_sc S 18 + 1) (by decide)).2.2.2.2.2 rfl (fun _ _ _ => rfl) (fun _ _ _ _ => rfl) (Or.inl rfl) (Nat.le_succ _) (Nat.le_add_right _ _)
  · exact quiet_x rfl rfl ((SAM_sc (S := S) (k := 18) (v := s_sc S 18 + 1) (by decide)).tr (SAM_sc (k := 19) (v := s_sc S 19 + 1) (by decide))).2.2.2.2.2 rfl (fun _ _ _ => rfl) (fun _ _ _ _ => rfl) (Or.inl rfl) (Nat.le_succ _) (Nat.le_add_right _ _)
theorem rsv_x (hI : Inv S) : AX2 S (rsvS S).2 0 := by
  unfold rsvS
  obtain ⟨v, hv⟩ : ∃ v, srvAt S + s_cf S 3 = v := ⟨_, rfl⟩
  rw [hv]
  obtain ⟨X, hX⟩ : ∃ X, u_sc (u_sc S 12 (-4)) 15 v = X := ⟨_, rfl⟩
  have sx : SAM S X := by
    rw [← hX]
    exact (SAM_sc (by decide)).tr (SAM_sc (by decide))
  have lg : s_lg X = s_lg S := by rw [← hX]; rfl
  have gg : GH X = GH S := by rw [← hX]; exact GH_same rfl
  show AX2 S (note (u_sc (u_sc S 12 (-4)) 15 v) 8 (-1) (s_sc S 14)) 0
  rw [hX]
  have cs := cS_note (S := X) (k := 8) (n := -1) (t := s_sc S 14)
  have lk := LK_note (S := X) (k := 8) (n := -1) (t := s_sc S 14)
  have g := GH_note (S := X) (k := 8) (n := -1) (t := s_sc S 14) (by rw [lg]; exact hI.2.2.2.2.2.2.2.2.2.2)
  exact quiet_x (cs.1.trans sx.1) (cs.2.1.trans sx.2.1) (lk.2.2.trans sx.2.2.2.2.2) (ms_note2.trans sx.2.2.2.1) (fun j k _ => by rw [cs.2.2, sx.2.2.1]) (fun j k _ _ => by rw [cs.2.2, sx.2.2.1]) (Or.inl (by rw [cs.2.2, sx.2.2.1])) (by rw [lk.2.1, sx.2.2.2.2.1]; omega) (gh_of (k := 1) (by omega) (by decide))
/-- every action -/
theorem nxa_x (h : LJ S) (hl : (s_ms S).length < 8000) (hn : NXa S S') : S' = S ∨ ∃ i : Nat, i < s_n S ∧ (CMX S S' i ∨ AX2 S S' i) := by
  have n1 := h.1.2.2.1.1
  rcases hn with rfl | ⟨i, hi, rfl | rfl | rfl | rfl | ⟨ms, hm, rfl⟩ | ⟨v, hv, rfl⟩ | ⟨ms, du, hm, hd, rfl⟩ | ⟨r, hr, ⟨v, hv, rfl | ⟨ms, hm, rfl⟩⟩ | rfl | rfl⟩⟩
  · exact Or.inr ⟨0, n1, Or.inr (rsv_x h.1)⟩
  · rcases camp_x h hi hl with q | q
    · exact Or.inl q
    · exact Or.inr ⟨i, hi, Or.inl q⟩
  · rcases with_x h hi hl with q | q
    · exact Or.inl q
    · exact Or.inr ⟨i, hi, Or.inr q⟩
  · rcases cra_x (i := i) h with q | q
    · exact Or.inl q
    · exact Or.inr ⟨i, hi, Or.inr q⟩
  · exact Or.inr ⟨i, hi, Or.inr res_x⟩
  · rcases pau_x (i := i) h.1 hm with q | q
    · exact Or.inl q
    · exact Or.inr ⟨i, hi, Or.inr q⟩
  · exact Or.inr ⟨i, hi, Or.inr cut_x⟩
  · rcases ou_x (S := S) (i := i) (ms := ms) (du := du) with q | q
    · exact Or.inl q
    · exact Or.inr ⟨i, hi, Or.inr q⟩
  · unfold wrS
    by_cases c0 : unfi S i < 0
    · rw [if_pos c0]; exact Or.inl rfl
    rw [if_neg c0]
    exact Or.inr ⟨i, hi, Or.inr (wri_x h.1 hi (by decide) hl).1⟩
  · rcases wl_x (S := S) (i := i) (r := r) (v := v) (ms := ms) with q | q
    · exact Or.inl q
    · exact Or.inr ⟨i, hi, Or.inr q⟩
  · unfold feS
    by_cases c0 : unfi S i < 0
    · rw [if_pos c0]; exact Or.inl rfl
    rw [if_neg c0]
    exact Or.inr ⟨i, hi, Or.inr (wri_x h.1 hi (by decide) hl).1⟩
  · rcases rd_x (S := S) (i := i) (r := r) with q | q
    · exact Or.inl q
    · exact Or.inr ⟨i, hi, Or.inr q⟩
end AZS
