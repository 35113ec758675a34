/-! ROOM: what a lineage uses: the options, one by one -/
set_option maxRecDepth 100000
section LI3
variable {L : LG} {c : CS} {cl sl : Nat}
/-- a node's class: retry only, no jitter, two nodes -/
theorem cl_B2 {i : Nat} (hg : RGC c) (hi : i < c.2.1.length) (h5 : c.1 5 = 2000) (h7 : c.1 7 = 0) : ∃ k ∈ [2, 6, 16, 17], clsOK (SC c cl sl) i (fun _ _ => True) k ∧ 12 + b17 k ≤ bN c i ∧ (k = 17 → ¬ 2 * way (SC c cl sl) i < wayR (SC c cl sl) i) := by
  have w := (sc_ways (cl := cl) (sl := sl) hg hi)
  have b := bN_12 hg hi
  rcases tri_B (cl := cl) (sl := sl) hg hi h5 h7 with s | ⟨l, r⟩ | ⟨l, s, x⟩ | ⟨l, x⟩
  · exact ⟨2, by decide, ⟨by decide, n_SS s w.1.1 (sc_j0 hg h7) (Nat.le_refl _)⟩, b, fun h => absurd h (by decide)⟩
  · exact ⟨6, by decide, ⟨by decide, n_L6 l r (Nat.le_refl _)⟩, b, fun h => absurd h (by decide)⟩
  · exact ⟨16, by decide, ⟨by decide, n_S5n l s w.1.1 (sc_j0 hg h7) (Nat.le_refl _)⟩, x, fun h => absurd h (by decide)⟩
  · exact ⟨17, by decide, ⟨by decide, n_D3n l w.1.1 (Nat.le_trans (w.2.2.1 h5).1 sc_per) (sc_j0 hg h7) (Nat.le_refl _)⟩, x, fun _ => l⟩
theorem cl_B3 {i : Nat} (hg : RGC c) (hi : i < c.2.1.length) (h5 : c.1 5 = 2000) (h7 : c.1 7 = 0) : ∃ k ∈ [2, 6, 18], clsOK (SC c cl sl) i (fun _ _ => True) k ∧ 12 + b18 k ≤ bN c i := by
  have w := (sc_ways (cl := cl) (sl := sl) hg hi)
  have b := bN_12 hg hi
  rcases tri_B (cl := cl) (sl := sl) hg hi h5 h7 with s | ⟨l, r⟩ | ⟨l, s, x⟩ | ⟨l, x⟩
  · exact ⟨2, by decide, ⟨by decide, n_SS s w.1.1 (sc_j0 hg h7) (Nat.le_refl _)⟩, b⟩
  · exact ⟨6, by decide, ⟨by decide, n_L6 l r (Nat.le_refl _)⟩, b⟩
  · exact ⟨18, by decide, ⟨by decide, n_D3c l w.1.1 (Nat.le_trans (w.2.2.1 h5).1 sc_per) (sc_j0 hg h7) (Nat.le_refl _)⟩, x⟩
  · exact ⟨18, by decide, ⟨by decide, n_D3c l w.1.1 (Nat.le_trans (w.2.2.1 h5).1 sc_per) (sc_j0 hg h7) (Nat.le_refl _)⟩, Nat.le_trans (by decide) x⟩
/-- both active, or one of them -/
theorem act2 (hW : WF L) (hn : s_n (lgC L) = 2) (hact : ∃ i : Nat, i < 2 ∧ lgM L i ≠ 0) : 2 ≤ lgx L ∨ (∃ i0 : Nat, i0 < 2 ∧ ∀ i : Nat, i < 2 → i ≠ i0 → lgM L i = 0) := by
  have w := hW.1.2
  rw [hn, sN2] at w
  by_cases h0 : lgM L 0 = 0
  · exact Or.inr ⟨1, by decide, fun i hi hne => by
      have : i = 0 := by omega
      rw [this]; exact h0⟩
  · by_cases h1 : lgM L 1 = 0
    · exact Or.inr ⟨0, by decide, fun i hi hne => by
        have : i = 1 := by omega
        rw [this]; exact h1⟩
    · exact Or.inl (by omega)
/-- the bytes -/
theorem cst_ge : cst c = sN c.2.1.length (bN c) + (if c.2.2 3 = true then 8 else 0) + (if c.2.2 4 = true then 8 else 0) + (if c.2.2 5 = true then 7 + dN (c.1 7) else 0) + (if c.2.2 2 = true then 11 else 0) + (if c.2.2 0 = true then 12 else 0) := cst_nodes
/-- lease and server are as by default, or take 11 bytes more -/
theorem srv_or (hd : dft c) : (c.1 0 = 1000 ∧ c.1 1 = 0 ∧ c.1 3 = 5000) ∨ 11 ≤ (if c.2.2 2 = true then 11 else 0) + (if c.2.2 0 = true then 12 else 0) := by
  by_cases h2 : c.2.2 2 = true
  · right
    rw [if_pos h2]
    omega
  · by_cases h0 : c.2.2 0 = true
    · right
      rw [if_pos h0]
      omega
    · left
      have a := hd.1 (by simpa using h0)
      exact ⟨a.1, a.2, hd.2.1 (by simpa using h2)⟩
/-- B: retry only, no jitter -/
theorem lin_B (hA : ACCT L) (hW : WF L) (hL : LOK L c cl sl) (h64 : lgA L ≤ 64) (hy : 1 ≤ lgx L) (hact : ∃ i : Nat, i < c.2.1.length ∧ lgM L i ≠ 0) (h5 : c.1 5 = 2000) (h7 : c.1 7 = 0) (f4 : c.2.2 4 = true) : lgU L ≤ 9400 * lgA L := by
  have hL0 := hL
  obtain ⟨hC, hg, hd, n1, n6, hb⟩ := hL
  have cn := cst_ge (c := c)
  rw [if_pos f4] at cn
  have bn := sN_ge (n := c.2.1.length) (m := 12) (F := bN c) (fun i hi => bN_12 hg hi)
  have hn' : s_n (lgC L) = c.2.1.length := by rw [hC]; rfl
  have a64 := h64
  unfold lgA at a64
  obtain ⟨n, hn⟩ : ∃ n, c.2.1.length = n := ⟨_, rfl⟩
  rw [hn] at cn bn n1 n6 hn' hact
  have : n = 1 ∨ n = 2 ∨ n = 3 ∨ n = 4 := by omega
  rcases this with rfl | rfl | rfl | rfl
  · have w := sc_ways (cl := cl) (sl := sl) hg (i := 0) (by omega)
    have e1 : sN 1 (bN c) = bN c 0 := by
      rw [sN_s]
      show 0 + bN c 0 = _
      omega
    rw [e1] at cn bn
    rcases tri_B (cl := cl) (sl := sl) hg (i := 0) (by omega) h5 h7 with s | ⟨l, r⟩ | ⟨l, s, x⟩ | ⟨l, x⟩
    · exact fin_1 (cond := fun _ _ => True) (k := 2) hA hn' (fun _ _ _ _ _ _ _ => trivial) trivial (by rw [hC]; exact ⟨by decide, n_SS s w.1.1 (sc_j0 hg h7) (Nat.le_refl _)⟩) ok_1.1 h64 (by omega) (Or.inl hy) (by omega)
    · exact fin_1 (cond := fun _ _ => True) (k := 6) hA hn' (fun _ _ _ _ _ _ _ => trivial) trivial (by rw [hC]; exact ⟨by decide, n_L6 l r (Nat.le_refl _)⟩) ok_C.1 h64 (by omega) (Or.inl hy) (by omega)
    · exact fin_1 (cond := fun _ _ => True) (k := 3) hA hn' (fun _ _ _ _ _ _ _ => trivial) trivial (by rw [hC]; exact ⟨by decide, n_S5 l s w.1.1 (sc_j0 hg h7) (Nat.le_refl _)⟩) ok_1.2.1 h64 (by omega) (Or.inl hy) (by omega)
    · by_cases hy0 : lgy L = 0
      · exact fin_1 (cond := fun _ y => y = 0) (k := 4) hA hn' (fun x y x' y' h1 h2 h3 => by omega) hy0 (by rw [hC]; exact ⟨by decide, n_D3a l w.1.1 (Nat.le_trans (w.2.2.1 h5).1 sc_per) (sc_j0 hg h7) (Nat.le_refl _)⟩) ok_1.2.2.1 h64 (by omega) (Or.inr hy0) (by omega)
      · exact fin_1 (cond := fun _ _ => True) (k := 5) hA hn' (fun _ _ _ _ _ _ _ => trivial) trivial (by rw [hC]; exact ⟨by decide, n_D3b l w.1.1 (Nat.le_trans (w.2.2.1 h5).1 sc_per) (sc_j0 hg h7) (Nat.le_refl _)⟩) ok_1.2.2.2.1 h64 (by omega) (Or.inl hy) (by omega)
  · rw [sN2] at cn bn
    obtain ⟨k0, m0, c0, x0, d0⟩ := cl_B2 (cl := cl) (sl := sl) hg (i := 0) (by omega) h5 h7
    obtain ⟨k1, m1, c1, x1, d1⟩ := cl_B2 (cl := cl) (sl := sl) hg (i := 1) (by omega) h5 h7
    rw [← hC] at c0 c1
    rcases act2 hW hn' hact with h2 | ⟨i0, hi0, ho⟩
    · by_cases hd2 : b17 k0 + b17 k1 = 6
      · have e0 : k0 = 17 := by
          unfold b17 at hd2
          by_cases z : k0 = 17
          · exact z
          · rw [if_neg z] at hd2
            split at hd2 <;> split at hd2 <;> (try split at hd2) <;> omega
        have e1 : k1 = 17 := by
          unfold b17 at hd2
          by_cases z : k1 = 17
          · exact z
          · rw [if_neg z] at hd2
            split at hd2 <;> (try split at hd2) <;> (try split at hd2) <;> omega
        rcases srv_or hd with s | s
        · exact pair_g hA hC hg hn h5 h7 s (two (d0 e0) (d1 e1)) h64 (by omega) h2
        · exact lin_U hA hL0 h64 hy (Or.inr (Or.inl ⟨hn, by omega⟩))
      · have ok := allK_at 2 [2, 6, 16, 17] _ ok_2.1 [k0, k1] rfl (fun x hx => by
          rcases List.mem_cons.mp hx with rfl | hx
          · exact m0
          · rw [List.mem_singleton.mp hx]; exact m1)
        have es : ([k0, k1].map b17).sum = b17 k0 + b17 k1 := by
          show b17 k0 + (b17 k1 + 0) = _
          omega
        rw [es] at ok
        have nb : Nat.beq (b17 k0 + b17 k1) 6 = false := by
          rw [Bool.eq_false_iff]
          intro h
          exact hd2 (Nat.eq_of_beq_eq_true h)
        rw [nb, Bool.false_or] at ok
        exact fin_2b hA hn' c0 c1 ok h64 (by omega) h2
    · have ok := List.all_eq_true.mp ok_2.2
      have : i0 = 0 ∨ i0 = 1 := by omega
      rcases this with rfl | rfl
      · exact fin_2s hA hn' hi0 c0 ho (ok k0 m0) h64 (by omega) hy
      · exact fin_2s hA hn' hi0 c1 ho (ok k1 m1) h64 (by omega) hy
  · obtain ⟨k0, m0, c0, x0⟩ := cl_B3 (cl := cl) (sl := sl) hg (i := 0) (by omega) h5 h7
    obtain ⟨k1, m1, c1, x1⟩ := cl_B3 (cl := cl) (sl := sl) hg (i := 1) (by omega) h5 h7
    obtain ⟨k2, m2, c2, x2⟩ := cl_B3 (cl := cl) (sl := sl) hg (i := 2) (by omega) h5 h7
    rw [← hC] at c0 c1 c2
    have e3 : sN 3 (bN c) = bN c 0 + bN c 1 + bN c 2 := by rw [sN_s, sN2]
    rw [e3] at cn
    have ok := allK_at 3 [2, 6, 18] _ ok_3 [k0, k1, k2] rfl (fun x hx => by
      rcases List.mem_cons.mp hx with rfl | hx
      · exact m0
      rcases List.mem_cons.mp hx with rfl | hx
      · exact m1
      · rw [List.mem_singleton.mp hx]; exact m2)
    have es : ([k0, k1, k2].map b18).sum = b18 k0 + b18 k1 + b18 k2 := by
      show b18 k0 + (b18 k1 + (b18 k2 + 0)) = _
      omega
    rw [es] at ok
    refine fin_all (κ := fun i => if i = 0 then k0 else if i = 1 then k1 else k2) hA hn' (fun i hi => ?_) ok h64 (by omega) hy
    have : i = 0 ∨ i = 1 ∨ i = 2 := by omega
    rcases this with rfl | rfl | rfl
    · exact c0
    · exact c1
    · exact c2
  · exact lin_U hA hL0 h64 hy (Or.inr (Or.inr (Or.inr (Or.inl ⟨hn, by omega⟩))))
/-- C: renew only, no jitter -/
theorem lin_C (hA : ACCT L) (hL : LOK L c cl sl) (h64 : lgA L ≤ 64) (hy : 1 ≤ lgx L) (h6 : c.1 6 = 500) (h7 : c.1 7 = 0) (f3 : c.2.2 3 = true) : lgU L ≤ 9400 * lgA L := by
  have hL0 := hL
  obtain ⟨hC, hg, hd, n1, n6, hb⟩ := hL
  have cn := cst_ge (c := c)
  rw [if_pos f3] at cn
  have bn := sN_ge (n := c.2.1.length) (m := 12) (F := bN c) (fun i hi => bN_12 hg hi)
  have hn' : s_n (lgC L) = c.2.1.length := by rw [hC]; rfl
  have a64 := h64
  unfold lgA at a64
  have k : ∀ i : Nat, i < c.2.1.length → ∃ k ∈ [6, 7], clsOK (lgC L) i (fun _ _ => True) k := fun i hi => by
    rw [hC]
    rcases cl_C (cl := cl) (sl := sl) hg hi h6 h7 with q | ⟨q, -⟩
    · exact ⟨6, by decide, q⟩
    · exact ⟨7, by decide, q⟩
  obtain ⟨n, hn⟩ : ∃ n, c.2.1.length = n := ⟨_, rfl⟩
  rw [hn] at cn bn n1 n6 hn' k
  have : n = 1 ∨ n = 2 ∨ n = 3 ∨ n = 4 := by omega
  rcases this with rfl | rfl | rfl | rfl
  · have e1 : sN 1 (bN c) = bN c 0 := by
      rw [sN_s]
      show 0 + bN c 0 = _
      omega
    rw [e1] at cn bn
    rcases cl_C (cl := cl) (sl := sl) hg (i := 0) (by omega) h6 h7 with q | ⟨q, x⟩
    · exact fin_1 (cond := fun _ _ => True) (k := 6) hA hn' (fun _ _ _ _ _ _ _ => trivial) trivial (by rw [hC]; exact q) ok_C.1 h64 (by omega) (Or.inl hy) (by omega)
    · exact fin_1 (cond := fun _ _ => True) (k := 7) hA hn' (fun _ _ _ _ _ _ _ => trivial) trivial (by rw [hC]; exact q) ok_C.2.1 h64 (by omega) (Or.inl hy) (by omega)
  · exact fin_set hA hn' k ok_C.2.2.1 h64 (by omega) hy
  · exact fin_set hA hn' k ok_C.2.2.2 h64 (by omega) hy
  · exact lin_U hA hL0 h64 hy (Or.inr (Or.inr (Or.inr (Or.inl ⟨hn, by omega⟩))))
end LI3
