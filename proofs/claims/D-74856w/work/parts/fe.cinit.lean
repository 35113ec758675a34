/-! THE COMPONENT reads: a fresh parser -/
set_option maxRecDepth 100000
section CIN
variable {h : PH} {sim : va_E} {X : Nat}
theorem c_parser (hb : pbase h ≤ pn h) (h1 : 10 ≤ pcl h) (h2 : 60 ≤ psl h) :
    f_X8_init (pn h + 1) (some X) (bh h [sim, .inr (7, [.null, .null, .int 0, .null])] 26) = some ((), bh h ([sim, cPar (pn h + 2) (pn h + 8) X 0] ++ (cfC h (pn h + 2) ++ [cLst 0 (pn h + 9) 0, .inl (h.2.1.2.1 4, 2, aNul)])) 52) := by
  unfold f_X8_init
  have e2 : (2 : Int32) = Int32.ofNat 2 := rfl
  rw [b_pV (i := 1) hb rfl (Nat.le_of_ble_eq_true rfl)]
  refine (m_nO (β := Unit × PH) (h := h) (cs := [sim, .inr (7, [.null, .null, .int 0, .ref X])]) (ds := []) (k := 26) 0 (ci := 2) (N := 9) (fs := [.null, .null, .null, .int 0, .int 0, .int 0, .int 0, .int 0, .int 0]) rfl (by show 2 + 0 + 1 ≤ _; omega) (by omega)).trans ?_
  have e3 := c_conf (h := h) (cs := [sim, .inr (7, [.null, .null, .int 0, .ref X])]) (k := 35) hb (by show 2 + 6 ≤ _; omega) (by omega)
  refine (cl_eq e3).trans ?_
  refine (b_pV (h := h) (i := 1) (cs := [sim, .inr (7, [.null, .null, .int 0, .ref X])] ++ cfC h (pn h + 2)) hb rfl (Nat.le_of_ble_eq_true rfl)).trans ?_
  refine (m_nO (β := Unit × PH) (h := h) (cs := [sim, .inr (7, [.ref (pn h + 2), .null, .int 0, .ref X])]) (ds := cfC h (pn h + 2)) (k := 47) 6 (ci := 19) (N := 3) (fs := [.int 0, .null, .int 0]) rfl (by show 2 + 6 + 1 ≤ _; omega) (by omega)).trans ?_
  have e5 := m_lst (h := h) (cs := [sim, .inr (7, [.ref (pn h + 2), .null, .int 0, .ref X])]) (k := 50) 6 (c := 2) (ds := cfC h (pn h + 2)) rfl hb (by decide) (by decide) (by show 2 + 6 + 2 ≤ _; omega) (by omega)
  refine (cl_eq e5).trans ?_
  refine (b_pV (h := h) (i := 1) (cs := [sim, .inr (7, [.ref (pn h + 2), .null, .int 0, .ref X])] ++ (cfC h (pn h + 2) ++ [cLst 0 (pn h + 9) 0, .inl (h.2.1.2.1 4, 2, aNul)])) hb rfl (Nat.le_of_ble_eq_true rfl)).trans ?_
  rfl
end CIN
