/-! CONSTRUCTOR of a simulation: all but the nodes -/
set_option maxRecDepth 100000
abbrev sim0 : va_E := .inr (1, [.null, .null, .null, .null, .null, .null, .null, .null, .int 0, .int 0, .int 0, .int 0, .int 0, .int 0, .int 0, .int 0, .int 0, .int 0, .int 0, .int 0, .int 0, .int 0])
/-- the simulation's cell while its nodes are made -/
abbrev sim1 (a cfg : Nat) : va_E := .inr (1, [.ref cfg, .ref (a + 13), .ref (a + 1), .ref (a + 3), .ref (a + 5), .ref (a + 7), .ref (a + 9), .ref (a + 12), .int 0, .int 0, .int 0, .int 0, .int (-4), .int 0, .int 0, .int 0, .int 0, .int 0, .int 0, .int 0, .int 0, .int (-4)])
/-- the fourteen cells ahead of the nodes -/
abbrev blk (h : PH) (cfg n : Nat) (f : Nat → Option Nat) : List va_E := [sim1 (pn h) cfg, cLst 0 (pn h + 2) 0, .inl (h.2.1.2.1 4, 4, aNul), cLst 0 (pn h + 4) 0, .inl (h.2.1.2.1 4, 2, aNul), cLst 0 (pn h + 6) 0, .inl (h.2.1.2.1 4, 2, aNul), cLst 0 (pn h + 8) 0, .inl (h.2.1.2.1 4, 4, aNul), .inr (4, [.ref (pn h + 10), .ref (pn h + 11), .int 0]), arr8 h, arr8 h, .inl (h.2.1.2.1 0, 9, .inl fun _ => 0), .inl (h.2.1.2.1 5, n, refs f)]
section IN1
variable {h : PH}
theorem b_pV0 {β : Type} {cs : List va_E} {k ci f : Nat} {fs : List Value} {v : Value} {K : PH → Option β} (hb : pbase h ≤ pn h) (hi : cs[0]? = some (.inr (ci, fs))) (hf : f < fs.length) : pV (bh h cs k) (some (pn h)) ci f v K = K (bh h (cs.set 0 (.inr (ci, fs.set f v))) k) := b_pV (i := 0) hb hi hf
theorem b_nA9 {β : Type} {cs : List va_E} {k : Nat} {K : Nat → PH → Option β} (h1 : cs.length + 1 ≤ pcl h) (h2 : k + 9 ≤ psl h) : nA (bh h cs k) 0 (9 : Int32) (.inl fun _ => 0) K = K (pn h + cs.length) (bh h (cs ++ [.inl (h.2.1.2.1 0, 9, .inl fun _ => 0)]) (k + 9)) := b_nA (m := 9) (by decide) h1 h2
theorem b_lst4 {cs : List va_E} {k : Nat} (hb : pbase h ≤ pn h) (h1 : cs.length + 2 ≤ pcl h) (h2 : k + 4 ≤ psl h) : f_J2_init (pn h + cs.length) (4 : Int32) (bh h (cs ++ [.inr (19, [.int 0, .null, .int 0])]) k) = some ((), bh h (cs ++ [cLst 0 (pn h + cs.length + 1) 0, .inl (h.2.1.2.1 4, 4, aNul)]) (k + 4)) := b_lst (c := 4) hb (by decide) (by decide) h1 h2
theorem b_lst2 {cs : List va_E} {k : Nat} (hb : pbase h ≤ pn h) (h1 : cs.length + 2 ≤ pcl h) (h2 : k + 2 ≤ psl h) : f_J2_init (pn h + cs.length) (2 : Int32) (bh h (cs ++ [.inr (19, [.int 0, .null, .int 0])]) k) = some ((), bh h (cs ++ [cLst 0 (pn h + cs.length + 1) 0, .inl (h.2.1.2.1 4, 2, aNul)]) (k + 2)) := b_lst (c := 2) hb (by decide) (by decide) h1 h2
theorem b_init {cfg lst ed n : Nat} {md : Int32} {srv dls : Value} {rest : List Value} (hb : pbase h ≤ pn h) (hr1 : 100 ≤ pcl h) (hr2 : 1000 ≤ psl h) (hn : n ≤ 6) (hc : h.1 cfg = some (.inr (2, srv :: .ref lst :: rest))) (hcl : cfg < pn h) (hcb : pbase h ≤ cfg) (hl : h.1 lst = some (cLst md ed n)) (hll : lst < pn h) :
    f_X2_init (pn h) (some cfg) (bh h [sim0] 22) = f_X2_init_L106 FU (some (pn h)) (some cfg) (0 : Int32) (bh h (blk h cfg n (fun _ => none)) (22 + 3 + 4 + 3 + 2 + 3 + 2 + 3 + 4 + 3 + 16 + 9 + n)) := by
  unfold f_X2_init
  have t1 : ∀ {m : Nat}, m ≤ 100 → m ≤ pcl h := fun hm => Nat.le_trans hm hr1
  have t2 : ∀ {m : Nat}, m ≤ 1000 → m ≤ psl h := fun hm => Nat.le_trans hm hr2
  rw [b_nO (t1 (Nat.le_of_ble_eq_true rfl)) (t2 (by decide)), cl_eq (b_lst4 hb (t1 (Nat.le_of_ble_eq_true rfl)) (t2 (by decide))), b_pV0 hb rfl (Nat.le_of_ble_eq_true rfl)]
  rw [b_nO (t1 (Nat.le_of_ble_eq_true rfl)) (t2 (by decide)), cl_eq (b_lst2 hb (t1 (Nat.le_of_ble_eq_true rfl)) (t2 (by decide))), b_pV0 hb rfl (Nat.le_of_ble_eq_true rfl)]
  rw [b_nO (t1 (Nat.le_of_ble_eq_true rfl)) (t2 (by decide)), cl_eq (b_lst2 hb (t1 (Nat.le_of_ble_eq_true rfl)) (t2 (by decide))), b_pV0 hb rfl (Nat.le_of_ble_eq_true rfl)]
  rw [b_nO (t1 (Nat.le_of_ble_eq_true rfl)) (t2 (by decide)), cl_eq (b_lst4 hb (t1 (Nat.le_of_ble_eq_true rfl)) (t2 (by decide))), b_pV0 hb rfl (Nat.le_of_ble_eq_true rfl)]
  rw [b_nO (t1 (Nat.le_of_ble_eq_true rfl)) (t2 (by decide)), cl_eq (b_sto hb (t1 (Nat.le_of_ble_eq_true rfl)) (t2 (by decide))), b_pV0 hb rfl (Nat.le_of_ble_eq_true rfl)]
  rw [b_nA9 (t1 (Nat.le_of_ble_eq_true rfl)) (t2 (by decide)), b_pV0 hb rfl (Nat.le_of_ble_eq_true rfl), b_pV0 hb rfl (Nat.le_of_ble_eq_true rfl), b_pV0 hb rfl (Nat.le_of_ble_eq_true rfl), b_pV0 hb rfl (Nat.le_of_ble_eq_true rfl)]
  rw [gRN_at (h := bh h _ _) (by rw [bh_lo hcl]; exact hc) (by rw [bh_base]; exact hcb) (v := lst) rfl]
  have e1 : ∀ (cs : List va_E) (k : Nat), (bh h cs k).1 lst = some (cLst md ed n) := fun cs k => by rw [bh_lo hll]; exact hl
  rw [rv_at (e1 _ _)]
  have e2 : ∀ (cs : List va_E) (k : Nat), f_J2_size (some lst) (bh h cs k) = some (Int32.ofNat n, bh h cs k) := fun cs k => by
    unfold f_J2_size
    rw [gI_at (e1 cs k) rfl]
  rw [cl_eq (e2 _ _)]
  have e3 : ∀ {β : Type} (cs : List va_E) (k : Nat) (K : Nat → PH → Option β), cs.length + 1 ≤ pcl h → k + n ≤ psl h → nA (bh h cs k) 5 (Int32.ofNat n) aNul K = K (pn h + cs.length) (bh h (cs ++ [.inl (h.2.1.2.1 5, n, aNul)]) (k + n)) := fun cs k K g1 g2 => b_nA (by omega) g1 g2
  rw [e3 _ _ _ (t1 (Nat.le_of_ble_eq_true rfl)) (t2 (by omega)), b_pV0 hb rfl (Nat.le_of_ble_eq_true rfl)]
  rfl
end IN1
