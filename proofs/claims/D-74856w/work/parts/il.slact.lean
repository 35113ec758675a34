/-! SLOTS: calls that change something -/
set_option maxRecDepth 100000
section SLA
variable {S S' : SS} {i r : Nat}
theorem SL.up {X : SS} (h : SL S X) (g : s_gh S' = s_gh X) : SL S S' := h.tr (SL.of g)
theorem CAP.same (h : CAP S) (g : s_gh S' = s_gh S) (l : s_lg S' = s_lg S) : CAP S' := by
  unfold CAP
  rw [g, l]
  exact h
theorem SL_nxa (hn : NXa S S') : SL S S' := by
  rcases hn with rfl | ⟨i, hi, rfl | rfl | rfl | rfl | ⟨ms, hm, rfl⟩ | ⟨v, hv, rfl⟩ | ⟨ms, du, hm, hd, rfl⟩ | ⟨r, hr, ⟨v, hv, rfl | ⟨ms, hm, rfl⟩⟩ | rfl | rfl⟩⟩
  · exact (SL.of (S' := u_sc (u_sc S 12 (-4)) 15 (srvAt S + s_cf S 3)) rfl).tr SL_note
  · unfold campS
    split
    · exact SL.rf
    · split
      · exact (SL.of (S' := u_nd S i 3 1) rfl).tr SL_acquire
      · exact SL.rf
  · unfold withS
    split
    · exact SL.rf
    · split
      · exact SL.rf
      · dsimp only
        split
        · exact SL.of rfl
        · exact ((SL.of (S' := u_nd (u_nd S i 3 0) i 8 (-4)) rfl).tr (SL_send (by decide))).up rfl
  · unfold crashS
    split
    · exact SL.rf
    · exact (SL_note (S := S) (k := 7) (n := Int32.ofNat i) (t := s_nd S i 6)).up rfl
  · exact SL.of rfl
  · unfold pauS
    split
    · exact SL.rf
    · exact SL.of rfl
  · exact SL.of rfl
  · unfold ouS
    split
    · exact SL.rf
    · exact ((SL_mk (S := S) (c := 1) (k := 3) (by decide)).tr (SL_add (li := 4) (sz := (s_ou S).length) (by decide) (by decide))).up rfl
  · unfold wrS
    split
    · exact SL.rf
    · exact SL_send (by decide)
  · unfold wlS
    split
    · exact SL.rf
    · split
      · exact SL.rf
      · exact ((SL_mk (S := S) (c := 1) (k := 5) (by decide)).tr (SL_add (li := 3) (sz := (s_dl S).length) (by decide) (by decide))).up rfl
  · unfold feS
    split
    · exact SL.rf
    · exact SL_send (by decide)
  · unfold rdS
    split
    · exact SL.rf
    · split
      · exact SL.rf
      · dsimp only
        split <;> exact SL.of rfl
theorem CAP_add34 {li sz c k : Nat} (h : li = 3 ∨ li = 4) (hs : sz ≤ 20) (hc : CAP S) : CAP (g_add (g_mk S c k) li sz) := by
  obtain ⟨k2, k3, k4, k5, k6⟩ := hc
  refine ⟨?_, ?_, ?_, ?_, k6⟩
  · rw [gh_addj (by omega), if_neg (by omega), gh_mkj (by omega)]; exact k2
  · rw [gh_addj (by omega), gh_mkj (by omega), gh_mkj (by omega)]
    split
    · rename_i e
      obtain ⟨rfl, e2⟩ := e
      omega
    · exact k3
  · rw [gh_addj (by omega), gh_mkj (by omega), gh_mkj (by omega)]
    split
    · rename_i e
      obtain ⟨rfl, e2⟩ := e
      omega
    · exact k4
  · rw [gh_addj (by omega), if_neg (by omega), gh_mkj (by omega)]; exact k5
theorem CAP_nxa (hI : Inv S) (hl : (s_ms S).length ≤ 6000) (hc : CAP S) (hn : NXa S S') : CAP S' := by
  have ho := hI.2.2.2.2.2.2.2.2.1
  have hd20 := hI.2.2.2.2.2.2.2.2.2.1
  have snd : ∀ (X : SS) (kind node len : Nat) (a b c : Int32), s_ms X = s_ms S → CAP X → CAP (send X kind node len a b c) := fun X kind node len a b c e h => LCP_send.2.2.2 (by rw [e]; omega) h
  rcases hn with rfl | ⟨i, hi, rfl | rfl | rfl | rfl | ⟨ms, hm, rfl⟩ | ⟨v, hv, rfl⟩ | ⟨ms, du, hm, hd, rfl⟩ | ⟨r, hr, ⟨v, hv, rfl | ⟨ms, hm, rfl⟩⟩ | rfl | rfl⟩⟩
  · exact (LCP_note (S := u_sc (u_sc S 12 (-4)) 15 (srvAt S + s_cf S 3)) (k := 8) (n := -1) (t := s_sc S 14)).2.2.2 (by show (s_ms S).length + 0 ≤ _; omega) hc
  · unfold campS
    split
    · exact hc
    · split
      · exact (LCP_acquire (S := u_nd S i 3 1) (i := i)).2.2.2 (by show (s_ms S).length + 1 ≤ _; omega) hc
      · exact hc
  · unfold withS
    split
    · exact hc
    · split
      · exact hc
      · dsimp only
        split
        · exact hc.same rfl rfl
        · exact (snd (u_nd (u_nd S i 3 0) i 8 (-4)) 3 i 1 (s_nd S i 6) 0 0 rfl hc).same rfl rfl
  · unfold crashS
    split
    · exact hc
    · exact ((LCP_note (S := S) (k := 7) (n := Int32.ofNat i) (t := s_nd S i 6)).2.2.2 (by omega) hc).same rfl rfl
  · exact hc.same rfl rfl
  · unfold pauS
    split
    · exact hc
    · exact hc.same rfl rfl
  · exact hc.same rfl rfl
  · unfold ouS
    split
    · exact hc
    · exact (CAP_add34 (li := 4) (sz := (s_ou S).length) (c := 1) (k := 3) (Or.inr rfl) ho hc).same rfl rfl
  · unfold wrS
    split
    · exact hc
    · exact snd S _ _ _ _ _ _ rfl hc
  · unfold wlS
    split
    · exact hc
    · split
      · exact hc
      · exact (CAP_add34 (li := 3) (sz := (s_dl S).length) (c := 1) (k := 5) (Or.inl rfl) hd20 hc).same rfl rfl
  · unfold feS
    split
    · exact hc
    · exact snd S _ _ _ _ _ _ rfl hc
  · unfold rdS
    split
    · exact hc
    · split
      · exact hc
      · dsimp only
        split <;> exact hc.same rfl rfl
/-- a copy -/
theorem aa_b {c0 len : Nat} (h : c0 ≤ 4) : aaK c0 len ≤ len + 8 ∧ aaS c0 len ≤ 2 * len + 8 ∧ aaC c0 len ≤ 2 := by
  unfold aaK aaS aaC aaK
  split <;> omega
theorem CAP_copy (hI : Inv S) (hl : (s_ms S).length ≤ 6000) : CAP (copyS S) := by
  have ho := hI.2.2.2.2.2.2.2.2.1
  have hd20 := hI.2.2.2.2.2.2.2.2.2.1
  have hg := hI.2.2.2.2.2.2.2.2.2.2
  have a := (aa_b (c0 := 4) (len := (s_ms S).length) (by decide)).1
  have b := (aa_b (c0 := 2) (len := (s_dl S).length) (by decide)).1
  have c := (aa_b (c0 := 2) (len := (s_ou S).length) (by decide)).1
  have d := (aa_b (c0 := 4) (len := (s_lg S).length) (by decide)).1
  refine ⟨?_, ?_, ?_, ?_, hg⟩
  · show aaK 4 (s_ms S).length ≤ _
    omega
  · show aaK 2 (s_dl S).length ≤ _
    omega
  · show aaK 2 (s_ou S).length ≤ _
    omega
  · show aaK 4 (s_lg S).length ≤ _
    omega
theorem cp_b (hI : Inv S) (hl : (s_ms S).length ≤ 6000) : cpCl S ≤ 46 ∧ cpSl S ≤ 12900 := by
  have ho := hI.2.2.2.2.2.2.2.2.1
  have hd20 := hI.2.2.2.2.2.2.2.2.2.1
  have hg := hI.2.2.2.2.2.2.2.2.2.2
  have hn := hI.2.2.1.2
  have a := (aa_b (c0 := 4) (len := (s_ms S).length) (by decide))
  have b := (aa_b (c0 := 2) (len := (s_dl S).length) (by decide))
  have c := (aa_b (c0 := 2) (len := (s_ou S).length) (by decide))
  have d := (aa_b (c0 := 4) (len := (s_lg S).length) (by decide))
  unfold cpCl cpSl
  omega
theorem cpt_copy (hn : s_n S ≤ 6) : cpSl S ≤ 332 + 2 * cpt (copyS S) := by
  have k : ∀ c0 len : Nat, aaS c0 len ≤ 2 * aaK c0 len := fun c0 len => by
    unfold aaS aaK
    split <;> omega
  have e : cpt (copyS S) = aaK 4 (s_ms S).length + aaK 2 (s_dl S).length + aaK 2 (s_ou S).length + aaK 4 (s_lg S).length := rfl
  have a := k 4 (s_ms S).length
  have b := k 2 (s_dl S).length
  have c := k 2 (s_ou S).length
  have d := k 4 (s_lg S).length
  rw [e]
  unfold cpSl
  omega
theorem cpt_le (h : CAP S) : cpt S ≤ 9580 := by
  obtain ⟨k2, k3, k4, k5, -⟩ := h
  unfold cpt
  omega
end SLA
