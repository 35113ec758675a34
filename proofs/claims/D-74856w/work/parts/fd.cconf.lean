/-! THE COMPONENT reads: a fresh configuration -/
set_option maxRecDepth 100000
section CFG
variable {h : PH} {cs : List va_E} {k : Nat}
/-- a fresh configuration's cells, the first at place m -/
def cfC (h : PH) (m : Nat) : List va_E := [.inr (2, [.ref (m + 1), .ref (m + 2), .ref (m + 4), .int 5000, .int 20, .int 2000, .int 500, .int 0, .int 1]), .inr (3, [.int 1000, .int 0]), cLst 0 (m + 3) 0, .inl (h.2.1.2.1 4, 2, aNul), cLst 0 (m + 5) 0, .inl (h.2.1.2.1 4, 2, aNul)]
theorem get_mid {α : Type} {cs ds : List α} {i : Nat} : (cs ++ ds)[cs.length + i]? = ds[i]? := by
  rw [List.getElem?_append_right (by omega), Nat.add_sub_cancel_left]
theorem set_mid {α : Type} {cs ds : List α} {i : Nat} {x : α} : (cs ++ ds).set (cs.length + i) x = cs ++ ds.set i x := by
  rw [List.set_append_right _ _ (by omega), Nat.add_sub_cancel_left]
theorem m_pV {β : Type} {i ci f : Nat} {fs : List Value} {v : Value} {K : PH → Option β} {ds : List va_E} (hb : pbase h ≤ pn h) (hi : ds[i]? = some (.inr (ci, fs))) (hf : f < fs.length) : pV (bh h (cs ++ ds) k) (some (pn h + (cs.length + i))) ci f v K = K (bh h (cs ++ ds.set i (.inr (ci, fs.set f v))) k) := by
  rw [b_pV hb (by rw [get_mid]; exact hi) hf, set_mid]
theorem m_nO {β : Type} (m : Nat) {ci N : Nat} {fs : List Value} {K : Nat → PH → Option β} {ds : List va_E} (hm : ds.length = m) (h1 : cs.length + m + 1 ≤ pcl h) (h2 : k + N ≤ psl h) : nO (bh h (cs ++ ds) k) ci N fs K = K (pn h + (cs.length + m)) (bh h (cs ++ (ds ++ [.inr (ci, fs)])) (k + N)) := by
  subst hm
  rw [b_nO (by rw [List.length_append]; exact h1) h2, List.length_append, List.append_assoc]
theorem m_lst (m : Nat) {c : Nat} {ds : List va_E} (hm : ds.length = m) (hb : pbase h ≤ pn h) (hc : 0 < c) (hc2 : c ≤ 1000) (h1 : cs.length + m + 2 ≤ pcl h) (h2 : k + c ≤ psl h) : f_J2_init (pn h + (cs.length + m)) (Int32.ofNat c) (bh h (cs ++ (ds ++ [.inr (19, [.int 0, .null, .int 0])])) k) = some ((), bh h (cs ++ (ds ++ [cLst 0 (pn h + (cs.length + m) + 1) 0, .inl (h.2.1.2.1 4, c, aNul)])) (k + c)) := by
  subst hm
  have g := b_lst (cs := cs ++ ds) (k := k) hb hc hc2 (by rw [List.length_append]; exact h1) h2
  rw [List.length_append, List.append_assoc, List.append_assoc] at g
  exact g
theorem c_conf (hb : pbase h ≤ pn h) (h1 : cs.length + 6 ≤ pcl h) (h2 : k + 12 ≤ psl h) :
    f_X3_init (pn h + (cs.length + 0)) (bh h (cs ++ [.inr (2, [.null, .null, .null, .int 0, .int 0, .int 0, .int 0, .int 0, .int 0])]) k) = some ((), bh h (cs ++ cfC h (pn h + cs.length)) (k + 2 + 3 + 2 + 3 + 2)) := by
  unfold f_X3_init f_X4_init
  have e2 : (2 : Int32) = Int32.ofNat 2 := rfl
  rw [m_nO 1 rfl (by omega) (by omega)]
  rw [m_pV (i := 1) hb rfl (Nat.le_of_ble_eq_true rfl), m_pV (i := 1) hb rfl (Nat.le_of_ble_eq_true rfl), cl_eq rfl, m_pV (i := 0) hb rfl (Nat.le_of_ble_eq_true rfl)]
  rw [m_nO 2 rfl (by omega) (by omega), e2, cl_eq (m_lst 2 rfl hb (by decide) (by decide) (by omega) (by omega)), m_pV (i := 0) hb rfl (Nat.le_of_ble_eq_true rfl)]
  rw [m_nO 4 rfl (by omega) (by omega), cl_eq (m_lst 4 rfl hb (by decide) (by decide) (by omega) (by omega)), m_pV (i := 0) hb rfl (Nat.le_of_ble_eq_true rfl)]
  rw [m_pV (i := 0) hb rfl (Nat.le_of_ble_eq_true rfl), m_pV (i := 0) hb rfl (Nat.le_of_ble_eq_true rfl), m_pV (i := 0) hb rfl (Nat.le_of_ble_eq_true rfl), m_pV (i := 0) hb rfl (Nat.le_of_ble_eq_true rfl), m_pV (i := 0) hb rfl (Nat.le_of_ble_eq_true rfl)]
  rfl
end CFG
