/-! ROOM: what a lineage uses: every configuration -/
set_option maxRecDepth 100000
theorem mon_P : ((List.range 25).all fun j => Nat.ble (lpb tPg1 j) (lpb tPg1 24)) = true ∧ ((List.range 23).all fun j => Nat.ble (lpb tPg2 j) (lpb tPg2 22)) = true ∧ ((List.range 21).all fun j => Nat.ble (lpb tPb1 j) (lpb tPb1 20)) = true ∧ ((List.range 19).all fun j => Nat.ble (lpb tPb2 j) (lpb tPb2 18)) = true ∧ ((List.range 21).all fun j => Nat.ble (lpb tPa1 j) (lpb tPa1 20)) = true ∧ ((List.range 19).all fun j => Nat.ble (lpb tPa2 j) (lpb tPa2 18)) = true := by decide +kernel
theorem mon_of {t : List LR} {n : Nat} (h : ((List.range (n + 1)).all fun j => Nat.ble (lpb t j) (lpb t n)) = true) : ∀ j : Nat, j ≤ n → lpb t j ≤ lpb t n := fun j hj => Nat.le_of_ble_eq_true (List.all_eq_true.mp h j (List.mem_range.mpr (by omega)))
section LI2
variable {L : LG} {c : CS} {cl sl : Nat}
/-- no lease and no server in the text -/
theorem dft_srv (h0 : c.1 0 = 1000) (h1 : c.1 1 = 0) (h3 : c.1 3 = 5000) : s_cf (SC c cl sl) 0 = 1000 ∧ s_cf (SC c cl sl) 1 = 0 ∧ s_cf (SC c cl sl) 3 = 5000 := by
  refine ⟨?_, ?_, ?_⟩
  · show Int32.ofNat (c.1 0) = 1000
    rw [h0]; rfl
  · show Int32.ofNat (c.1 1) = 0
    rw [h1]; rfl
  · show Int32.ofNat (c.1 3) = 5000
    rw [h3]; rfl
theorem two {P : Nat → Prop} (h0 : P 0) (h1 : P 1) : ∀ i : Nat, i < 2 → P i := fun i hi => by
  have : i = 0 ∨ i = 1 := by omega
  rcases this with rfl | rfl
  · exact h0
  · exact h1
theorem m4 {a b c d : LK1} : a ∈ [a, b, c, d] ∧ b ∈ [a, b, c, d] ∧ c ∈ [a, b, c, d] ∧ d ∈ [a, b, c, d] := ⟨List.mem_cons_self .., List.mem_cons_of_mem _ (List.mem_cons_self ..), List.mem_cons_of_mem _ (List.mem_cons_of_mem _ (List.mem_cons_self ..)), List.mem_cons_of_mem _ (List.mem_cons_of_mem _ (List.mem_cons_of_mem _ (List.mem_singleton.mpr rfl)))⟩
theorem pair_g (hA : ACCT L) (hC : lgC L = SC c cl sl) (hg : RGC c) (hn : c.2.1.length = 2) (h5 : c.1 5 = 2000) (h7 : c.1 7 = 0) (hs : c.1 0 = 1000 ∧ c.1 1 = 0 ∧ c.1 3 = 5000) (l0 : ∀ i : Nat, i < 2 → ¬ 2 * way (SC c cl sl) i < wayR (SC c cl sl) i) (h64 : lgA L ≤ 64) (hcb : 38 ≤ lgB L) (hy : 2 ≤ lgx L) : lgU L ≤ 9400 * lgA L := by
  have w := fun i (hi : i < 2) => sc_ways (cl := cl) (sl := sl) hg (i := i) (by omega)
  have W : ∀ i : Nat, i < 2 → way (SC c cl sl) i ≤ 1000 := fun i hi => by
    have a := sc_way (cl := cl) (sl := sl) hg (i := i) (by omega)
    have b := (ndC_rg hg (i := i) (by omega)).2.2.2
    omega
  have P : ∀ i : Nat, i < 2 → 1818 ≤ perN (SC c cl sl) i := fun i hi => Nat.le_trans ((w i hi).2.2.1 h5).1 sc_per
  obtain ⟨s0, s1, s3⟩ := dft_srv (cl := cl) (sl := sl) hs.1 hs.2.1 hs.2.2
  have hn' : s_n (lgC L) = 2 := by rw [hC]; exact hn
  by_cases hx : lgx L + lgy L ≤ 3
  · refine fin_P (t := tPg1) (cond := fun x y => x + y ≤ 3) (H := 24) (lo := 2) (hi := 3) hA hn' ?_ (fun x y x' y' h1 h2 h3 => by omega) hx (mon_of mon_P.1) ok_P.1 h64 hcb hy (by omega) hx
    rw [hC]
    exact plan_P (lam := 0) (d := 501) (Fs := 3114) (R := 45) (per := 3) (p := 1818) okPg1 (fun _ => m4) hn ⟨by decide, (w 0 (by decide)).1.1, (w 1 (by decide)).1.1⟩ ⟨by decide, P 0 (by decide), P 1 (by decide)⟩ (by decide) (by decide) l0 (sc_j0 hg h7) s0 s1 s3 (fun x y h => Or.inl ⟨h, rfl⟩) (fun j hj => by have := W j hj; omega) (by decide) (by decide) (by decide)
  · refine fin_P (t := tPg2) (cond := fun _ _ => True) (H := 22) (lo := 4) (hi := 64) hA hn' ?_ (fun _ _ _ _ _ _ _ => trivial) trivial (mon_of mon_P.2.1) ok_P.2.1 h64 hcb hy (by omega) (by unfold lgA at h64; omega)
    rw [hC]
    exact plan_P (lam := 1000) (d := 1001) (Fs := 3614) (R := 45) (per := 3) (p := 1818) okPg2 (fun _ => m4) hn ⟨by decide, (w 0 (by decide)).1.1, (w 1 (by decide)).1.1⟩ ⟨by decide, P 0 (by decide), P 1 (by decide)⟩ (by decide) (by decide) l0 (sc_j0 hg h7) s0 s1 s3 (fun x y h => Or.inr (fun i hi => by have := W i hi; omega)) (fun j hj => by have := W j hj; omega) (by decide) (by decide) (by decide)
theorem pair_b (hA : ACCT L) (hC : lgC L = SC c cl sl) (hg : RGC c) (hn : c.2.1.length = 2) (h7 : c.1 7 = 0) (hs : c.1 0 = 1000 ∧ c.1 1 = 0 ∧ c.1 3 = 5000) (l0 : ∀ i : Nat, i < 2 → ¬ 2 * way (SC c cl sl) i < wayR (SC c cl sl) i) (h64 : lgA L ≤ 64) (hcb : 42 ≤ lgB L) (hy : 2 ≤ lgx L) : lgU L ≤ 9400 * lgA L := by
  have w := fun i (hi : i < 2) => sc_ways (cl := cl) (sl := sl) hg (i := i) (by omega)
  have W : ∀ i : Nat, i < 2 → way (SC c cl sl) i ≤ 1000 := fun i hi => by
    have a := sc_way (cl := cl) (sl := sl) hg (i := i) (by omega)
    have b := (ndC_rg hg (i := i) (by omega)).2.2.2
    omega
  have P : ∀ i : Nat, i < 2 → 45 ≤ perN (SC c cl sl) i := fun i hi => Nat.le_trans (w i hi).1.2 sc_per
  obtain ⟨s0, s1, s3⟩ := dft_srv (cl := cl) (sl := sl) hs.1 hs.2.1 hs.2.2
  have hn' : s_n (lgC L) = 2 := by rw [hC]; exact hn
  by_cases hx : lgx L + lgy L ≤ 3
  · refine fin_P (t := tPb1) (cond := fun x y => x + y ≤ 3) (H := 20) (lo := 2) (hi := 3) hA hn' ?_ (fun x y x' y' h1 h2 h3 => by omega) hx (mon_of mon_P.2.2.1) ok_P.2.2.1 h64 hcb hy (by omega) hx
    rw [hC]
    exact plan_P (lam := 0) (d := 501) (Fs := 3114) (R := 45) (per := 112) (p := 45) okPb1 (fun _ => m4) hn ⟨by decide, (w 0 (by decide)).1.1, (w 1 (by decide)).1.1⟩ ⟨by decide, P 0 (by decide), P 1 (by decide)⟩ (by decide) (by decide) l0 (sc_j0 hg h7) s0 s1 s3 (fun x y h => Or.inl ⟨h, rfl⟩) (fun j hj => by have := W j hj; omega) (by decide) (by decide) (by decide)
  · refine fin_P (t := tPb2) (cond := fun _ _ => True) (H := 18) (lo := 4) (hi := 64) hA hn' ?_ (fun _ _ _ _ _ _ _ => trivial) trivial (mon_of mon_P.2.2.2.1) ok_P.2.2.2.1 h64 hcb hy (by omega) (by unfold lgA at h64; omega)
    rw [hC]
    exact plan_P (lam := 1000) (d := 1001) (Fs := 3614) (R := 45) (per := 112) (p := 45) okPb2 (fun _ => m4) hn ⟨by decide, (w 0 (by decide)).1.1, (w 1 (by decide)).1.1⟩ ⟨by decide, P 0 (by decide), P 1 (by decide)⟩ (by decide) (by decide) l0 (sc_j0 hg h7) s0 s1 s3 (fun x y h => Or.inr (fun i hi => by have := W i hi; omega)) (fun j hj => by have := W j hj; omega) (by decide) (by decide) (by decide)
theorem pair_a (hA : ACCT L) (hC : lgC L = SC c cl sl) (hg : RGC c) (hn : c.2.1.length = 2) (h6 : c.1 6 = 500) (hs : c.1 0 = 1000 ∧ c.1 1 = 0 ∧ c.1 3 = 5000) (l0 : ∀ i : Nat, i < 2 → ¬ 2 * way (SC c cl sl) i < wayR (SC c cl sl) i) (h64 : lgA L ≤ 64) (hcb : 42 ≤ lgB L) (hy : 2 ≤ lgx L) : lgU L ≤ 9400 * lgA L := by
  have w := fun i (hi : i < 2) => sc_ways (cl := cl) (sl := sl) hg (i := i) (by omega)
  have W : ∀ i : Nat, i < 2 → way (SC c cl sl) i ≤ 2000 := fun i hi => by
    have a := sc_way (cl := cl) (sl := sl) hg (i := i) (by omega)
    have b := (ndC_rg hg (i := i) (by omega)).2.2.2
    have j := hg.2.2.2.2.2.2.1
    omega
  have P : ∀ i : Nat, i < 2 → 45 ≤ perN (SC c cl sl) i := fun i hi => Nat.le_trans (w i hi).1.2 sc_per
  obtain ⟨s0, s1, s3⟩ := dft_srv (cl := cl) (sl := sl) hs.1 hs.2.1 hs.2.2
  have hn' : s_n (lgC L) = 2 := by rw [hC]; exact hn
  by_cases hx : lgx L + lgy L ≤ 3
  · refine fin_P (t := tPa1) (cond := fun x y => x + y ≤ 3) (H := 20) (lo := 2) (hi := 3) hA hn' ?_ (fun x y x' y' h1 h2 h3 => by omega) hx (mon_of mon_P.2.2.2.2.1) ok_P.2.2.2.2.1 h64 hcb hy (by omega) hx
    rw [hC]
    exact plan_Pa (lam := 0) (d := 1001) (c0 := 49196) (R := 454) okPa1 (fun _ => List.mem_singleton.mpr rfl) hn ⟨by decide, ((w 0 (by decide)).2.1 h6).1, ((w 1 (by decide)).2.1 h6).1⟩ ⟨P 0 (by decide), P 1 (by decide)⟩ (by decide) l0 s0 s1 s3 (fun x y h => Or.inl ⟨h, rfl⟩) (fun j hj => by have := W j hj; omega) (by decide) (by decide) (by decide) (by decide)
  · refine fin_P (t := tPa2) (cond := fun _ _ => True) (H := 18) (lo := 4) (hi := 64) hA hn' ?_ (fun _ _ _ _ _ _ _ => trivial) trivial (mon_of mon_P.2.2.2.2.2) ok_P.2.2.2.2.2 h64 hcb hy (by omega) (by unfold lgA at h64; omega)
    rw [hC]
    exact plan_Pa (lam := 2000) (d := 2001) (c0 := 63196) (R := 454) okPa2 (fun _ => List.mem_singleton.mpr rfl) hn ⟨by decide, ((w 0 (by decide)).2.1 h6).1, ((w 1 (by decide)).2.1 h6).1⟩ ⟨P 0 (by decide), P 1 (by decide)⟩ (by decide) l0 s0 s1 s3 (fun x y h => Or.inr (fun i hi => by have := W i hi; omega)) (fun j hj => by have := W j hj; omega) (by decide) (by decide) (by decide) (by decide)
end LI2
