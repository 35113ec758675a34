/-! ROOM: what a lineage uses: two and three options, and all together -/
set_option maxRecDepth 100000
section LI4
variable {L : LG} {c : CS} {cl sl : Nat}
theorem sN1 {f : Nat → Nat} : sN 1 f = f 0 := by
  rw [sN_s]
  show 0 + f 0 = _
  omega
/-- D: retry and renew, no jitter -/
theorem lin_D (hA : ACCT L) (hW : WF L) (hL : LOK L c cl sl) (h64 : lgA L ≤ 64) (hy : 1 ≤ lgx L) (hact : ∃ i : Nat, i < c.2.1.length ∧ lgM L i ≠ 0) (h7 : c.1 7 = 0) (f3 : c.2.2 3 = true) (f4 : c.2.2 4 = true) : lgU L ≤ 9400 * lgA L := by
  have hL0 := hL
  obtain ⟨hC, hg, hd, n1, n6, hb⟩ := hL
  have cn := cst_ge (c := c)
  rw [if_pos f4, if_pos f3] at cn
  have bn := sN_ge (n := c.2.1.length) (m := 12) (F := bN c) (fun i hi => bN_12 hg hi)
  have hn' : s_n (lgC L) = c.2.1.length := by rw [hC]; rfl
  have a64 := h64
  unfold lgA at a64
  have j0 := sc_j0 (cl := cl) (sl := sl) hg h7
  have cl8 : ∀ i : Nat, i < c.2.1.length → 2 * way (SC c cl sl) i < wayR (SC c cl sl) i → clsOK (lgC L) i (fun _ _ => True) 8 := fun i hi l => by
    rw [hC]
    exact ⟨by decide, n_L6c l (sc_ways (cl := cl) (sl := sl) hg hi).1.1 j0 (Nat.le_refl _)⟩
  have cl10 : ∀ i : Nat, i < c.2.1.length → ¬ 2 * way (SC c cl sl) i < wayR (SC c cl sl) i → clsOK (lgC L) i (fun _ _ => True) 10 := fun i hi l => by
    have w := sc_ways (cl := cl) (sl := sl) hg hi
    rw [hC]
    exact ⟨by decide, n_DcJ l w.1.1 (Nat.le_trans w.1.2 sc_per) (Nat.le_refl _)⟩
  obtain ⟨n, hn⟩ : ∃ n, c.2.1.length = n := ⟨_, rfl⟩
  rw [hn] at cn bn n1 n6 hn' hact cl8 cl10
  have : n = 1 ∨ n = 2 ∨ n = 3 ∨ n = 4 := by omega
  rcases this with rfl | rfl | rfl | rfl
  · have w := sc_ways (cl := cl) (sl := sl) hg (i := 0) (by omega)
    rw [sN1] at cn bn
    rcases tri_D (cl := cl) (sl := sl) hg (i := 0) (by omega) h7 with l | ⟨l, x⟩
    · exact fin_1 (cond := fun _ _ => True) (k := 8) hA hn' (fun _ _ _ _ _ _ _ => trivial) trivial (cl8 0 (by decide) l) ok_1.2.2.2.2.1 h64 (by omega) (Or.inl hy) (by omega)
    · by_cases hy0 : lgy L = 0
      · exact fin_1 (cond := fun _ y => y = 0) (k := 9) hA hn' (fun x y x' y' h1 h2 h3 => by omega) hy0 (by rw [hC]; exact ⟨by decide, n_Dca l w.1.1 (Nat.le_trans w.1.2 sc_per) j0 (Nat.le_refl _)⟩) ok_1.2.2.2.2.2.1 h64 (by omega) (Or.inr hy0) (by omega)
      · exact fin_1 (cond := fun _ _ => True) (k := 10) hA hn' (fun _ _ _ _ _ _ _ => trivial) trivial (cl10 0 (by decide) l) ok_1.2.2.2.2.2.2.1 h64 (by omega) (Or.inl hy) (by omega)
  · rw [sN2] at cn bn
    have b0 := bN_12 hg (i := 0) (by omega)
    have b1 := bN_12 hg (i := 1) (by omega)
    have t0 := tri_D (cl := cl) (sl := sl) hg (i := 0) (by omega) h7
    have t1 := tri_D (cl := cl) (sl := sl) hg (i := 1) (by omega) h7
    rcases act2 hW hn' hact with h2 | ⟨i0, hi0, ho⟩
    · rcases t0 with l0 | ⟨l0, x0⟩
      · rcases t1 with l1 | ⟨l1, x1⟩
        · exact fin_2b hA hn' (cl8 0 (by decide) l0) (cl8 1 (by decide) l1) ok_2b.1 h64 (by omega) h2
        · exact fin_2b hA hn' (cl8 0 (by decide) l0) (cl10 1 (by decide) l1) ok_2b.2.1 h64 (by omega) h2
      · rcases t1 with l1 | ⟨l1, x1⟩
        · exact fin_2b hA hn' (cl10 0 (by decide) l0) (cl8 1 (by decide) l1) ok_2b.2.2.1 h64 (by omega) h2
        · rcases srv_or hd with s | s
          · exact pair_b hA hC hg hn h7 s (two l0 l1) h64 (by omega) h2
          · exact lin_U hA hL0 h64 hy (Or.inr (Or.inl ⟨hn, by omega⟩))
    · have : i0 = 0 ∨ i0 = 1 := by omega
      rcases this with rfl | rfl
      · rcases t0 with l0 | ⟨l0, x0⟩
        · exact fin_2s hA hn' hi0 (cl8 0 (by decide) l0) ho ok_2b.2.2.2.1 h64 (by omega) hy
        · exact fin_2s hA hn' hi0 (cl10 0 (by decide) l0) ho ok_2b.2.2.2.2 h64 (by omega) hy
      · rcases t1 with l0 | ⟨l0, x0⟩
        · exact fin_2s hA hn' hi0 (cl8 1 (by decide) l0) ho ok_2b.2.2.2.1 h64 (by omega) hy
        · exact fin_2s hA hn' hi0 (cl10 1 (by decide) l0) ho ok_2b.2.2.2.2 h64 (by omega) hy
  · exact lin_U hA hL0 h64 hy (Or.inr (Or.inr (Or.inl ⟨hn, by omega⟩)))
  · exact lin_U hA hL0 h64 hy (Or.inr (Or.inr (Or.inr (Or.inl ⟨hn, by omega⟩))))
/-- E: retry and jitter -/
theorem lin_E (hA : ACCT L) (hW : WF L) (hL : LOK L c cl sl) (h64 : lgA L ≤ 64) (hy : 1 ≤ lgx L) (hact : ∃ i : Nat, i < c.2.1.length ∧ lgM L i ≠ 0) (h5 : c.1 5 = 2000) (f4 : c.2.2 4 = true) (f5 : c.2.2 5 = true) : lgU L ≤ 9400 * lgA L := by
  have hL0 := hL
  obtain ⟨hC, hg, hd, n1, n6, hb⟩ := hL
  have cn := cst_ge (c := c)
  rw [if_pos f4, if_pos f5] at cn
  have bn := sN_ge (n := c.2.1.length) (m := 12) (F := bN c) (fun i hi => bN_12 hg hi)
  have hn' : s_n (lgC L) = c.2.1.length := by rw [hC]; rfl
  have a64 := h64
  unfold lgA at a64
  have dp := dN_pos (v := c.1 7)
  -- classes
  have W := fun i (hi : i < c.2.1.length) => sc_ways (cl := cl) (sl := sl) hg hi
  have cS : ∀ i : Nat, i < c.2.1.length → 45 ≤ spN (SC c cl sl) i → clsOK (lgC L) i (fun _ _ => True) 11 := fun i hi s => by
    rw [hC]
    exact ⟨by decide, n_SSJ s (W i hi).1.1 (Nat.le_refl _)⟩
  have c6 : ∀ i : Nat, i < c.2.1.length → 2 * way (SC c cl sl) i < wayR (SC c cl sl) i → 454 ≤ wayR (SC c cl sl) i → clsOK (lgC L) i (fun _ _ => True) 6 := fun i hi l r => by
    rw [hC]
    exact ⟨by decide, n_L6 l r (Nat.le_refl _)⟩
  have cD : ∀ i : Nat, i < c.2.1.length → ¬ 2 * way (SC c cl sl) i < wayR (SC c cl sl) i → clsOK (lgC L) i (fun _ _ => True) 12 ∧ clsOK (lgC L) i (fun _ _ => True) 13 := fun i hi l => by
    have p := Nat.le_trans ((W i hi).2.2.1 h5).1 (sc_per (c := c) (i := i) (cl := cl) (sl := sl))
    rw [hC]
    exact ⟨⟨by decide, n_D3J l (W i hi).1.1 p (Nat.le_refl _)⟩, ⟨by decide, n_D3K l (W i hi).1.1 p (Nat.le_refl _)⟩⟩
  have T := fun i (hi : i < c.2.1.length) => tri_E (cl := cl) (sl := sl) hg hi h5
  obtain ⟨n, hn⟩ : ∃ n, c.2.1.length = n := ⟨_, rfl⟩
  rw [hn] at cn bn n1 n6 hn' hact cS c6 cD T
  have : n = 1 ∨ n = 2 ∨ n = 3 ∨ n = 4 := by omega
  rcases this with rfl | rfl | rfl | rfl
  · rw [sN1] at cn bn
    rcases T 0 (by decide) with s | ⟨⟨l, r⟩ | l, x⟩
    · exact fin_1 (cond := fun _ _ => True) (k := 11) hA hn' (fun _ _ _ _ _ _ _ => trivial) trivial (cS 0 (by decide) s) ok_1.2.2.2.2.2.2.2.1 h64 (by omega) (Or.inl hy) (by omega)
    · exact fin_1 (cond := fun _ _ => True) (k := 6) hA hn' (fun _ _ _ _ _ _ _ => trivial) trivial (c6 0 (by decide) l r) ok_C.1 h64 (by omega) (Or.inl hy) (by omega)
    · exact fin_1 (cond := fun _ _ => True) (k := 12) hA hn' (fun _ _ _ _ _ _ _ => trivial) trivial (cD 0 (by decide) l).1 ok_1.2.2.2.2.2.2.2.2.1 h64 (by omega) (Or.inl hy) (by omega)
  · rw [sN2] at cn bn
    have b0 := bN_12 hg (i := 0) (by omega)
    have b1 := bN_12 hg (i := 1) (by omega)
    by_cases hs : 45 ≤ spN (SC c cl sl) 0 ∧ 45 ≤ spN (SC c cl sl) 1
    · refine fin_all (κ := fun _ => 11) hA hn' (two (cS 0 (by decide) hs.1) (cS 1 (by decide) hs.2)) ok_2c.1 h64 (by omega) hy
    · have c42 : 42 ≤ cst c := by
        by_cases s0 : 45 ≤ spN (SC c cl sl) 0
        · have s1 : ¬ 45 ≤ spN (SC c cl sl) 1 := fun h => hs ⟨s0, h⟩
          rcases T 1 (by decide) with s | ⟨-, x⟩
          · exact absurd s s1
          · omega
        · rcases T 0 (by decide) with s | ⟨-, x⟩
          · exact absurd s s0
          · omega
      have kk : ∀ i : Nat, i < 2 → (∃ k ∈ [6, 11, 13], clsOK (lgC L) i (fun _ _ => True) k) ∧ ∃ k ∈ [6, 11, 12], clsOK (lgC L) i (fun _ _ => True) k := fun i hi => by
        rcases T i hi with s | ⟨⟨l, r⟩ | l, x⟩
        · exact ⟨⟨11, by decide, cS i hi s⟩, ⟨11, by decide, cS i hi s⟩⟩
        · exact ⟨⟨6, by decide, c6 i hi l r⟩, ⟨6, by decide, c6 i hi l r⟩⟩
        · exact ⟨⟨13, by decide, (cD i hi l).2⟩, ⟨12, by decide, (cD i hi l).1⟩⟩
      rcases act2 hW hn' hact with h2 | ⟨i0, hi0, ho⟩
      · obtain ⟨k0, m0, q0⟩ := (kk 0 (by decide)).1
        obtain ⟨k1, m1, q1⟩ := (kk 1 (by decide)).1
        have ok := allK_at 2 [6, 11, 13] _ ok_2c.2.1 [k0, k1] rfl (fun x hx => by
          rcases List.mem_cons.mp hx with rfl | hx
          · exact m0
          · rw [List.mem_singleton.mp hx]; exact m1)
        exact fin_2b hA hn' q0 q1 ok h64 (by omega) h2
      · obtain ⟨k0, m0, q0⟩ := (kk i0 hi0).2
        exact fin_2s hA hn' hi0 q0 ho (List.all_eq_true.mp ok_2c.2.2 k0 m0) h64 (by omega) hy
  · exact lin_U hA hL0 h64 hy (Or.inr (Or.inr (Or.inl ⟨hn, by omega⟩)))
  · exact lin_U hA hL0 h64 hy (Or.inr (Or.inr (Or.inr (Or.inl ⟨hn, by omega⟩))))
/-- F: renew and jitter -/
theorem lin_F (hA : ACCT L) (hW : WF L) (hL : LOK L c cl sl) (h64 : lgA L ≤ 64) (hy : 1 ≤ lgx L) (hact : ∃ i : Nat, i < c.2.1.length ∧ lgM L i ≠ 0) (h6 : c.1 6 = 500) (f3 : c.2.2 3 = true) (f5 : c.2.2 5 = true) : lgU L ≤ 9400 * lgA L := by
  have hL0 := hL
  obtain ⟨hC, hg, hd, n1, n6, hb⟩ := hL
  have cn := cst_ge (c := c)
  rw [if_pos f3, if_pos f5] at cn
  have bn := sN_ge (n := c.2.1.length) (m := 12) (F := bN c) (fun i hi => bN_12 hg hi)
  have hn' : s_n (lgC L) = c.2.1.length := by rw [hC]; rfl
  have a64 := h64
  unfold lgA at a64
  have dp := dN_pos (v := c.1 7)
  have W := fun i (hi : i < c.2.1.length) => sc_ways (cl := cl) (sl := sl) hg hi
  have c6 : ∀ i : Nat, i < c.2.1.length → 2 * way (SC c cl sl) i < wayR (SC c cl sl) i → 454 ≤ wayR (SC c cl sl) i → clsOK (lgC L) i (fun _ _ => True) 6 := fun i hi l r => by
    rw [hC]
    exact ⟨by decide, n_L6 l r (Nat.le_refl _)⟩
  have cD : ∀ i : Nat, i < c.2.1.length → ¬ 2 * way (SC c cl sl) i < wayR (SC c cl sl) i → 454 ≤ wayR (SC c cl sl) i → clsOK (lgC L) i (fun _ _ => True) 14 := fun i hi l r => by
    rw [hC]
    exact ⟨by decide, n_DpJ l r (Nat.le_trans (W i hi).1.2 sc_per) (Nat.le_refl _)⟩
  have T := fun i (hi : i < c.2.1.length) => tri_F (cl := cl) (sl := sl) hg hi h6
  obtain ⟨n, hn⟩ : ∃ n, c.2.1.length = n := ⟨_, rfl⟩
  rw [hn] at cn bn n1 n6 hn' hact c6 cD T
  have : n = 1 ∨ n = 2 ∨ n = 3 ∨ n = 4 := by omega
  rcases this with rfl | rfl | rfl | rfl
  · rw [sN1] at cn bn
    rcases T 0 (by decide) with ⟨l, r⟩ | ⟨l, r, x⟩
    · exact fin_1 (cond := fun _ _ => True) (k := 6) hA hn' (fun _ _ _ _ _ _ _ => trivial) trivial (c6 0 (by decide) l r) ok_C.1 h64 (by omega) (Or.inl hy) (by omega)
    · exact fin_1 (cond := fun _ _ => True) (k := 14) hA hn' (fun _ _ _ _ _ _ _ => trivial) trivial (cD 0 (by decide) l r) ok_1.2.2.2.2.2.2.2.2.2 h64 (by omega) (Or.inl hy) (by omega)
  · rw [sN2] at cn bn
    have b0 := bN_12 hg (i := 0) (by omega)
    have b1 := bN_12 hg (i := 1) (by omega)
    rcases act2 hW hn' hact with h2 | ⟨i0, hi0, ho⟩
    · rcases T 0 (by decide) with ⟨l0, r0⟩ | ⟨l0, r0, x0⟩
      · rcases T 1 (by decide) with ⟨l1, r1⟩ | ⟨l1, r1, x1⟩
        · exact fin_all (κ := fun _ => 6) hA hn' (two (c6 0 (by decide) l0 r0) (c6 1 (by decide) l1 r1)) ok_2d.1 h64 (by omega) hy
        · exact fin_2b hA hn' (c6 0 (by decide) l0 r0) (cD 1 (by decide) l1 r1) ok_2d.2.1 h64 (by omega) h2
      · rcases T 1 (by decide) with ⟨l1, r1⟩ | ⟨l1, r1, x1⟩
        · exact fin_2b hA hn' (cD 0 (by decide) l0 r0) (c6 1 (by decide) l1 r1) ok_2d.2.2.1 h64 (by omega) h2
        · rcases srv_or hd with s | s
          · exact pair_a hA hC hg hn h6 s (two l0 l1) h64 (by omega) h2
          · exact lin_U hA hL0 h64 hy (Or.inr (Or.inl ⟨hn, by omega⟩))
    · have : i0 = 0 ∨ i0 = 1 := by omega
      rcases this with rfl | rfl
      · rcases T 0 (by decide) with ⟨l0, r0⟩ | ⟨l0, r0, x0⟩
        · exact fin_2s hA hn' hi0 (c6 0 (by decide) l0 r0) ho ok_2d.2.2.2.1 h64 (by omega) hy
        · exact fin_2s hA hn' hi0 (cD 0 (by decide) l0 r0) ho ok_2d.2.2.2.2 h64 (by omega) hy
      · rcases T 1 (by decide) with ⟨l0, r0⟩ | ⟨l0, r0, x0⟩
        · exact fin_2s hA hn' hi0 (c6 1 (by decide) l0 r0) ho ok_2d.2.2.2.1 h64 (by omega) hy
        · exact fin_2s hA hn' hi0 (cD 1 (by decide) l0 r0) ho ok_2d.2.2.2.2 h64 (by omega) hy
  · exact lin_U hA hL0 h64 hy (Or.inr (Or.inr (Or.inl ⟨hn, by omega⟩)))
  · exact lin_U hA hL0 h64 hy (Or.inr (Or.inr (Or.inr (Or.inl ⟨hn, by omega⟩))))
/-- every configuration -/
theorem lin_ok (hA : ACCT L) (hW : WF L) (hL : LOK L c cl sl) (h64 : lgA L ≤ 64) : lgU L ≤ 9400 * lgA L := by
  have hL0 := hL
  obtain ⟨hC, hg, hd, n1, n6, hb⟩ := hL
  have cn := cst_ge (c := c)
  have bn := sN_ge (n := c.2.1.length) (m := 12) (F := bN c) (fun i hi => bN_12 hg hi)
  have hn' : s_n (lgC L) = c.2.1.length := by rw [hC]; rfl
  have a64 := h64
  unfold lgA at a64
  by_cases hact : ∃ i : Nat, i < c.2.1.length ∧ lgM L i ≠ 0
  · have hy : 1 ≤ lgx L := by
      obtain ⟨i, hi, hm⟩ := hact
      have w := hW.1.2
      rw [hn'] at w
      have := sN_pos (F := lgM L) hi
      omega
    have D0 : c.2.2 3 = false → c.1 5 = 2000 := hd.2.2.1
    have D1 : c.2.2 4 = false → c.1 6 = 500 := hd.2.2.2.1
    have D2 : c.2.2 5 = false → c.1 7 = 0 := hd.2.2.2.2
    by_cases f3 : c.2.2 3 = true
    · by_cases f4 : c.2.2 4 = true
      · by_cases f5 : c.2.2 5 = true
        · rw [if_pos f3, if_pos f4, if_pos f5] at cn
          have dp := dN_pos (v := c.1 7)
          refine lin_U hA hL0 h64 hy ?_
          omega
        · exact lin_D hA hW hL0 h64 hy hact (D2 (by simpa using f5)) f3 f4
      · by_cases f5 : c.2.2 5 = true
        · exact lin_F hA hW hL0 h64 hy hact (D1 (by simpa using f4)) f3 f5
        · exact lin_C hA hL0 h64 hy (D1 (by simpa using f4)) (D2 (by simpa using f5)) f3
    · have h5 := D0 (by simpa using f3)
      by_cases f4 : c.2.2 4 = true
      · by_cases f5 : c.2.2 5 = true
        · exact lin_E hA hW hL0 h64 hy hact h5 f4 f5
        · exact lin_B hA hW hL0 h64 hy hact h5 (D2 (by simpa using f5)) f4
      · exact lin_A hA hL0 h64 hy (D1 (by simpa using f4)) h5
  · have ok := List.all_eq_true.mp none_ok.1 (c.2.1.length - 1) (List.mem_range.mpr (by omega))
    have e : c.2.1.length - 1 + 1 = c.2.1.length := by omega
    rw [e] at ok
    exact fin_none hA hn' (fun i hi => Decidable.byContradiction fun h => hact ⟨i, hi, h⟩) ok h64 (by omega)
/-- the configuration at the start -/
theorem lin_csP (hA : ACCT L) (hW : WF L) (hC : lgC L = SC csP cl sl) (h64 : lgA L ≤ 64) : lgU L ≤ 9400 * lgA L := by
  have hn' : s_n (lgC L) = 1 := by rw [hC]; rfl
  have a64 := h64
  unfold lgA at a64
  by_cases h0 : lgM L 0 = 0
  · exact fin_none hA hn' (fun i hi => by
      have : i = 0 := by omega
      rw [this]; exact h0) none_ok.2 h64 (Nat.zero_le _)
  · have hy : 1 ≤ lgx L := by
      have w := hW.1.2
      rw [hn', sN1] at w
      omega
    have w := sc_ways (c := csP) (cl := cl) (sl := sl) RGCP (i := 0) (by decide)
    have W := sc_way (c := csP) (cl := cl) (sl := sl) RGCP (i := 0) (by decide)
    have e1 : ((ndC csP 0).2.2 : Int) + csP.1 7 = 10 := by decide
    rw [e1] at W
    have P := (w.2.2.1 (by decide)).1
    exact fin_1 (cond := fun _ _ => True) (k := 0) hA hn' (fun _ _ _ _ _ _ _ => trivial) trivial (by rw [hC]; exact ⟨by decide, n_QS (sc_sp (by omega)) (w.2.1 (by decide)).1 (Nat.le_refl _)⟩) ok_A.2 h64 (Nat.zero_le _) (Or.inl hy) (by omega)
end LI4
