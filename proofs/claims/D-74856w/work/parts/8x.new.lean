/-! CONSTRUCTORS: lists, storage, nodes -/
set_option maxRecDepth 100000
section NW2
variable {h : PH} {cs : List va_E} {k : Nat}
theorem set_end {x y : va_E} {l : List va_E} : (cs ++ x :: l).set cs.length y = cs ++ y :: l := by
  rw [List.set_append_right _ _ (Nat.le_refl _)]
  simp
theorem get_end {x : va_E} {l : List va_E} : (cs ++ x :: l)[cs.length]? = some x := by
  rw [List.getElem?_append_right (Nat.le_refl _)]
  simp
theorem b_lst {c : Nat} (hb : pbase h ≤ pn h) (hc : 0 < c) (hc2 : c ≤ 1000) (h1 : cs.length + 2 ≤ pcl h) (h2 : k + c ≤ psl h) : f_J2_init (pn h + cs.length) (Int32.ofNat c) (bh h (cs ++ [.inr (19, [.int 0, .null, .int 0])]) k) = some ((), bh h (cs ++ [cLst 0 (pn h + cs.length + 1) 0, .inl (h.2.1.2.1 4, c, aNul)]) (k + c)) := by
  unfold f_J2_init f_J1_init_J2 f_J0_init_J2 f_J2_init_B60
  simp only [cl_]
  rw [b_pV hb get_end (Nat.le_of_ble_eq_true rfl), set_end]
  have c0 : ¬ Int32.ofNat c ≤ 0 := by
    rw [show (0 : Int32) = Int32.ofNat 0 from rfl, of_le (by omega) (by omega)]
    omega
  simp only []
  rw [if_neg c0, b_nA (by omega) (by simp; omega) h2]
  rw [show (cs ++ [Sum.inr (19, List.set [Value.int 0, Value.null, Value.int 0] 0 (Value.int 0))] ++ [Sum.inl (h.2.1.2.1 4, c, aNul)] : List va_E) = cs ++ Sum.inr (19, [Value.int 0, Value.null, Value.int 0]) :: [Sum.inl (h.2.1.2.1 4, c, aNul)] from by simp]
  rw [b_pV hb get_end (Nat.le_of_ble_eq_true rfl), set_end]
  simp [cLst]
  rfl
abbrev arr8 (h : PH) : va_E := .inl (h.2.1.2.1 0, 8, .inl fun _ => 0)
theorem b_nA8 {β : Type} {K : Nat → PH → Option β} (h1 : cs.length + 1 ≤ pcl h) (h2 : k + 8 ≤ psl h) : nA (bh h cs k) 0 (8 : Int32) (.inl fun _ => 0) K = K (pn h + cs.length) (bh h (cs ++ [arr8 h]) (k + 8)) := b_nA (m := 8) (by decide) h1 h2
theorem b_sto (hb : pbase h ≤ pn h) (h1 : cs.length + 3 ≤ pcl h) (h2 : k + 16 ≤ psl h) : f_X5_init (pn h + cs.length) (bh h (cs ++ [.inr (4, [.null, .null, .int 0])]) k) = some ((), bh h (cs ++ [.inr (4, [.ref (pn h + cs.length + 1), .ref (pn h + cs.length + 2), .int 0]), arr8 h, arr8 h]) (k + 16)) := by
  unfold f_X5_init
  rw [b_nA8 (by simp; omega) (by omega)]
  rw [show (cs ++ [Sum.inr (4, [Value.null, Value.null, Value.int 0])] ++ [arr8 h] : List va_E) = cs ++ Sum.inr (4, [Value.null, Value.null, Value.int 0]) :: [arr8 h] from by simp]
  rw [b_pV hb get_end (Nat.le_of_ble_eq_true rfl), set_end]
  rw [b_nA8 (by simp; omega) (by omega)]
  rw [List.append_assoc, List.cons_append]
  rw [b_pV hb get_end (Nat.le_of_ble_eq_true rfl), set_end]
  simp
  rfl
abbrev node0 : va_E := .inr (5, [.null, .int 0, .int 0, .int 0, .int 0, .int 0, .int 0, .int 0, .int 0, .int 0, .int 0, .int 0, .null])
abbrev node1 (ck : Nat) (d : Int32) (ca : Nat) : va_E := .inr (5, [.ref ck, .int d, .int 1, .int 0, .int 0, .int 0, .int 0, .int 0, .int (-4), .int 0, .int 0, .int 0, .ref ca])
theorem b_node {ck : Nat} {d : Int32} (hb : pbase h ≤ pn h) (h1 : cs.length + 2 ≤ pcl h) (h2 : k + 8 ≤ psl h) : f_X6_init (pn h + cs.length) (some ck) d (bh h (cs ++ [node0]) k) = some ((), bh h (cs ++ [node1 ck d (pn h + cs.length + 1), arr8 h]) (k + 8)) := by
  unfold f_X6_init
  rw [pZ_at (Or.inr rfl), b_pV hb get_end (Nat.le_of_ble_eq_true rfl), set_end, b_pV hb get_end (Nat.le_of_ble_eq_true rfl), set_end]
  rw [b_nA8 (by simp; omega) (by omega)]
  rw [List.append_assoc, List.cons_append]
  rw [b_pV hb get_end (Nat.le_of_ble_eq_true rfl), set_end, b_pV hb get_end (Nat.le_of_ble_eq_true rfl), set_end, b_pV hb get_end (Nat.le_of_ble_eq_true rfl), set_end]
  simp
  rfl
end NW2
