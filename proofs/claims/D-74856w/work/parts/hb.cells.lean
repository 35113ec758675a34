/-! ROOM: cells of a run, counted in two ways -/
set_option maxRecDepth 100000
/-- the cells that a message still makes, but for an ACQUIRE's own at the server -/
def wz (S : SS) (m : MG) : Nat := if m.1 = 0 then wt S m - 4 else wt S m
section CLS
variable {S0 S S' : SS} {fo : MG → Nat} {g g' : Nat → JG} {s : Int} {C0 n : Nat}
theorem wt_cs (h : CST S0 S) {m : MG} : wt S m = wt S0 m := by
  unfold wt cnd ppd
  rw [h.2.2 m.2.1 1 (by decide), h.2.2 m.2.1 3 (by decide), h.2.2 m.2.1 5 (by decide)]
theorem wz_cs (h : CST S0 S) {m : MG} : wz S m = wz S0 m := by
  unfold wz
  rw [wt_cs h]
theorem NEWM.k0 {m q : MG} (h : NEWM S m q) : q.1 ≠ 0 := by
  obtain ⟨h0, h | h | h | h⟩ := h
  · omega
  · omega
  · omega
  · omega
theorem wt_fire (hc : CST S0 S) {i : Nat} (hd : due S i = true) (h3 : s_nd S i 3 ≠ 0) {q : MG} (q1 : q.1 = 0) (q2 : q.2.1 = i) (hd1 : 1 ≤ (s_nd S i 1).toInt) (q4 : (now S).toInt + (s_nd S i 1).toInt ≤ tmJ q) : wt S0 q = 4 := by
  obtain ⟨d1, d2, d3, d4⟩ := due_b hd
  rw [← wt_cs hc, wt_k0 q1, q2]
  unfold cnd ppd
  rw [if_neg h3, if_neg (by omega)]
theorem cC_step (hc : CST S0 S) (hI : Inv S) (hn : s_n S = n) (hE : JE s fo S S' g g') (hC : cG (wt S0) 7 0 C0 n S g) : cG (wt S0) 7 0 C0 n S' g' := by
  refine cG_step hI hn (fun q hq => ?_) (fun k m hm ha => ?_) (fun i hi hd h3 => ⟨by decide, fun q q1 q2 q4 => ?_⟩) hE hC
  · rw [wt_k4 (Or.inl hq)]
    have := ppd_le (S := S0) (i := q.2.1) (x := tmJ q + (s_nd S0 q.2.1 1).toInt)
    omega
  · obtain ⟨nw, a1, a2, a3, a4, -⟩ := ha
    refine ⟨nw, a1, ?_⟩
    have e : nw.map (wt S) = nw.map (wt S0) := List.map_congr_left (fun q _ => wt_cs hc)
    rw [← e, ← wt_cs hc]
    omega
  · rw [wt_fire hc hd h3 q1 q2 (hI.2.1 i hi).2.2.1.1 q4]
    decide
theorem cD_step (hc : CST S0 S) (hI : Inv S) (hn : s_n S = n) (hE : JE s fo S S' g g') (hC : cG (wz S0) 3 4 C0 n S g) : cG (wz S0) 3 4 C0 n S' g' := by
  refine cG_step hI hn (fun q hq => ?_) (fun k m hm ha => ?_) (fun i hi hd h3 => ⟨by decide, fun q q1 q2 q4 => ?_⟩) hE hC
  · unfold wz
    rw [if_neg (by omega), wt_k4 (Or.inl hq)]
    have := ppd_le (S := S0) (i := q.2.1) (x := tmJ q + (s_nd S0 q.2.1 1).toInt)
    omega
  · obtain ⟨nw, a1, a2, a3, a4, -⟩ := ha
    refine ⟨nw, a1, ?_⟩
    have e : nw.map (wz S0) = nw.map (wt S) := by
      refine List.map_congr_left (fun q hq => ?_)
      rcases a3 with rfl | ⟨q', rfl, hN⟩
      · cases hq
      · rw [List.mem_singleton.mp hq]
        unfold wz
        rw [if_neg hN.k0, wt_cs hc]
    have f : wt S m ≤ wz S0 m + (if m.1 = 0 then 4 else 0) := by
      unfold wz
      rw [wt_cs hc]
      split
      · omega
      · omega
    rw [e]
    omega
  · unfold wz
    rw [if_pos q1, wt_fire hc hd h3 q1 q2 (hI.2.1 i hi).2.2.1.1 q4]
    decide
end CLS
