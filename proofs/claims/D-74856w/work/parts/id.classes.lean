/-! ROOM: which class a node is in -/
set_option maxRecDepth 100000
section IDC
variable {c : CS} {i cl sl : Nat}
abbrev bN (c : CS) (i : Nat) : Nat := 8 + dN (ndC c i).1 + dN (ndC c i).2.2
theorem bN_12 (hg : RGC c) (hi : i < c.2.1.length) : 12 ≤ bN c i := by
  have := (dN_r hg hi).1
  have := dN_pos (v := (ndC c i).2.2)
  unfold bN
  omega
theorem dN3 {v : Nat} (h : 100 ≤ v) : 3 ≤ dN v := dN_ge (n := 3) (by omega) (by decide) (by decide)
/-- A: neither retry nor renew -/
theorem cl_A (hg : RGC c) (hi : i < c.2.1.length) (h6 : c.1 6 = 500) (h5 : c.1 5 = 2000) : ∃ k ∈ [0, 1], clsOK (SC c cl sl) i (fun _ _ => True) k := by
  obtain ⟨⟨w1, w2⟩, w3, w4, w5⟩ := sc_ways (cl := cl) (sl := sl) hg hi
  have R := w3 h6
  have P := (w4 h5).1
  by_cases s : (45 : Int) ≤ (wayP (SC c cl sl) i : Int) - 2 * way (SC c cl sl) i + 1
  · exact ⟨0, by decide, by decide, n_QS (sc_sp s) R.1 (Nat.le_refl _)⟩
  · exact ⟨1, by decide, by decide, n_Qd (by omega) R.1 (Nat.le_trans P sc_per) (Nat.le_refl _)⟩
/-- U: any -/
theorem cl_U (hg : RGC c) (hi : i < c.2.1.length) : ∃ k ∈ [10, 15], clsOK (SC c cl sl) i (fun _ _ => True) k := by
  obtain ⟨⟨w1, w2⟩, -⟩ := sc_ways (cl := cl) (sl := sl) hg hi
  by_cases s : 2 * way (SC c cl sl) i < wayR (SC c cl sl) i
  · exact ⟨15, by decide, by decide, n_L6J s w1 (Nat.le_refl _)⟩
  · exact ⟨10, by decide, by decide, n_DcJ s w1 (Nat.le_trans w2 sc_per) (Nat.le_refl _)⟩
theorem sc_j0 (hg : RGC c) (h7 : c.1 7 = 0) : (s_cf (SC c cl sl) 7).toInt = 0 := by
  rw [sc_cf (by omega), h7]
  rfl
/-- C: renew only, no jitter -/
theorem cl_C (hg : RGC c) (hi : i < c.2.1.length) (h6 : c.1 6 = 500) (h7 : c.1 7 = 0) : clsOK (SC c cl sl) i (fun _ _ => True) 6 ∨ (clsOK (SC c cl sl) i (fun _ _ => True) 7 ∧ 14 ≤ bN c i) := by
  obtain ⟨⟨w1, w2⟩, w3, w4, w5⟩ := sc_ways (cl := cl) (sl := sl) hg hi
  have R := w3 h6
  have W := sc_way (cl := cl) (sl := sl) hg hi
  have r := (dN_r hg hi).1
  by_cases s : 2 * way (SC c cl sl) i < wayR (SC c cl sl) i
  · exact Or.inl ⟨by decide, n_L6 s R.1 (Nat.le_refl _)⟩
  · have d : 227 ≤ (ndC c i).2.2 := by omega
    have p := sc_per2 (cl := cl) (sl := sl) hg hi
    refine Or.inr ⟨⟨by decide, n_DpJ0 s R.1 (by omega) (sc_j0 hg h7) (Nat.le_refl _)⟩, ?_⟩
    have := dN3 (v := (ndC c i).2.2) (by omega)
    unfold bN
    omega
/-- B: retry only, no jitter -/
theorem tri_B (hg : RGC c) (hi : i < c.2.1.length) (h5 : c.1 5 = 2000) (h7 : c.1 7 = 0) : 45 ≤ spN (SC c cl sl) i ∨ (2 * way (SC c cl sl) i < wayR (SC c cl sl) i ∧ 454 ≤ wayR (SC c cl sl) i) ∨ (¬ 2 * way (SC c cl sl) i < wayR (SC c cl sl) i ∧ 5 ≤ spN (SC c cl sl) i ∧ 14 ≤ bN c i) ∨ (¬ 2 * way (SC c cl sl) i < wayR (SC c cl sl) i ∧ 15 ≤ bN c i) := by
  obtain ⟨⟨w1, w2⟩, w3, w4, w5⟩ := sc_ways (cl := cl) (sl := sl) hg hi
  have P := w4 h5
  have W := sc_way (cl := cl) (sl := sl) hg hi
  obtain ⟨r1, r2⟩ := dN_r hg hi
  by_cases s : (45 : Int) ≤ (wayP (SC c cl sl) i : Int) - 2 * way (SC c cl sl) i + 1
  · exact Or.inl (sc_sp s)
  · right
    by_cases l : 2 * way (SC c cl sl) i < wayR (SC c cl sl) i
    · exact Or.inl ⟨l, by omega⟩
    · right
      by_cases s5 : (5 : Int) ≤ (wayP (SC c cl sl) i : Int) - 2 * way (SC c cl sl) i + 1
      · refine Or.inl ⟨l, sc_sp s5, ?_⟩
        have := dN3 (v := (ndC c i).2.2) (by omega)
        unfold bN
        omega
      · refine Or.inr ⟨l, ?_⟩
        have d3 := dN3 (v := (ndC c i).2.2) (by omega)
        unfold bN
        by_cases r9 : (ndC c i).1 ≤ 999
        · have := P.2 r9
          have := dN_ge (v := (ndC c i).2.2) (n := 4) (by omega) (by decide) (by decide)
          omega
        · have := r2 (by omega)
          omega
theorem dj_2 {d j : Nat} (h : 199 ≤ d + j) : 4 ≤ dN d + dN j := by
  have a := dN_pos (v := d)
  have b := dN_pos (v := j)
  by_cases c : 100 ≤ d
  · have := dN3 c
    omega
  · have := dN3 (v := j) (by omega)
    omega
/-- E: retry and jitter -/
theorem tri_E (hg : RGC c) (hi : i < c.2.1.length) (h5 : c.1 5 = 2000) : 45 ≤ spN (SC c cl sl) i ∨ ((2 * way (SC c cl sl) i < wayR (SC c cl sl) i ∧ 454 ≤ wayR (SC c cl sl) i) ∨ ¬ 2 * way (SC c cl sl) i < wayR (SC c cl sl) i) ∧ 14 ≤ bN c i + (dN (c.1 7) - 1) := by
  obtain ⟨⟨w1, w2⟩, w3, w4, w5⟩ := sc_ways (cl := cl) (sl := sl) hg hi
  have P := w4 h5
  have W := sc_way (cl := cl) (sl := sl) hg hi
  have r1 := (dN_r hg hi).1
  by_cases s : (45 : Int) ≤ (wayP (SC c cl sl) i : Int) - 2 * way (SC c cl sl) i + 1
  · exact Or.inl (sc_sp s)
  · right
    have dj := dj_2 (d := (ndC c i).2.2) (j := c.1 7) (by omega)
    have := dN_pos (v := c.1 7)
    refine ⟨?_, by unfold bN; omega⟩
    by_cases l : 2 * way (SC c cl sl) i < wayR (SC c cl sl) i
    · exact Or.inl ⟨l, by omega⟩
    · exact Or.inr l
/-- F: renew and jitter -/
theorem tri_F (hg : RGC c) (hi : i < c.2.1.length) (h6 : c.1 6 = 500) : (2 * way (SC c cl sl) i < wayR (SC c cl sl) i ∧ 454 ≤ wayR (SC c cl sl) i) ∨ (¬ 2 * way (SC c cl sl) i < wayR (SC c cl sl) i ∧ 454 ≤ wayR (SC c cl sl) i ∧ 14 ≤ bN c i + (dN (c.1 7) - 1)) := by
  obtain ⟨⟨w1, w2⟩, w3, w4, w5⟩ := sc_ways (cl := cl) (sl := sl) hg hi
  have R := w3 h6
  have W := sc_way (cl := cl) (sl := sl) hg hi
  have r1 := (dN_r hg hi).1
  by_cases l : 2 * way (SC c cl sl) i < wayR (SC c cl sl) i
  · exact Or.inl ⟨l, R.1⟩
  · have dj := dj_2 (d := (ndC c i).2.2) (j := c.1 7) (by omega)
    have := dN_pos (v := c.1 7)
    exact Or.inr ⟨l, R.1, by unfold bN; omega⟩
/-- D: retry and renew, no jitter -/
theorem tri_D (hg : RGC c) (hi : i < c.2.1.length) (h7 : c.1 7 = 0) : 2 * way (SC c cl sl) i < wayR (SC c cl sl) i ∨ (¬ 2 * way (SC c cl sl) i < wayR (SC c cl sl) i ∧ 13 ≤ bN c i) := by
  obtain ⟨⟨w1, w2⟩, w3, w4, w5⟩ := sc_ways (cl := cl) (sl := sl) hg hi
  have W := sc_way (cl := cl) (sl := sl) hg hi
  have r1 := (dN_r hg hi).1
  by_cases l : 2 * way (SC c cl sl) i < wayR (SC c cl sl) i
  · exact Or.inl l
  · have := dN_ge (v := (ndC c i).2.2) (n := 2) (by omega) (by decide) (by decide)
    exact Or.inr ⟨l, by unfold bN; omega⟩
end IDC
