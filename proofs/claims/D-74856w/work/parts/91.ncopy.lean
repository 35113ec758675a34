/-! COPY of a simulation: nodes, rows of references -/
set_option maxRecDepth 100000
section NC
variable {h : PH} {cs : List va_E} {k : Nat}
theorem set_end1 {x y z : va_E} : (cs ++ [x, y]).set (cs.length + 1) z = cs ++ [x, z] := by
  rw [List.set_append_right _ _ (by omega)]
  rw [show cs.length + 1 - cs.length = 1 from by omega]
  rfl
theorem get_end1 {x y : va_E} {l : List va_E} : (cs ++ x :: y :: l)[cs.length + 1]? = some y := by
  rw [List.getElem?_append_right (by omega), show cs.length + 1 - cs.length = 1 from by omega]
  rfl
theorem bh_app {l : List va_E} {k' a : Nat} (ha : a < pn h + cs.length) : (bh h (cs ++ l) k').1 a = (bh h cs k).1 a := by
  show (if pn h ≤ a then (match (cs ++ l)[a - pn h]? with | some e => some e | none => h.1 a) else h.1 a) = (if pn h ≤ a then (match cs[a - pn h]? with | some e => some e | none => h.1 a) else h.1 a)
  by_cases hp : pn h ≤ a
  · rw [if_pos hp, if_pos hp, List.getElem?_append_left (by omega)]
  · rw [if_neg hp, if_neg hp]
/-- a node's cell -/
abbrev nodeC (ck : Nat) (nd : Nat → Int32) (ca : Nat) : va_E := .inr (5, [.ref ck, .int (nd 1), .int (nd 2), .int (nd 3), .int (nd 4), .int (nd 5), .int (nd 6), .int (nd 7), .int (nd 8), .int (nd 9), .int (nd 10), .int (nd 11), .ref ca])
/-- a copied cache -/
abbrev cach (h : PH) (f : Nat → Int32) : va_E := .inl (h.2.1.2.1 0, 8, .inl (va_cpy f (fun _ => 0) 0 0 8))
theorem b_ncopy {q ck ca : Nat} {nd : Nat → Int32} {f : Nat → Int32} (hb : pbase h ≤ pn h) (h1 : cs.length + 2 ≤ pcl h) (h2 : k + 21 ≤ psl h) (hq : h.1 q = some (nodeC ck nd ca)) (hql : q < pn h) (hc : h.1 ca = some (.inl (h.2.1.2.1 0, 8, .inl f))) (hcl : ca < pn h) (hcb : pbase h ≤ ca) (hz : ∀ j : Nat, j = 2 ∨ j = 3 ∨ j = 4 → nd j = 0 ∨ nd j = 1) :
    f_X6_copy (some q) (bh h cs k) = some (some (pn h + cs.length), bh h (cs ++ [nodeC ck nd (pn h + cs.length + 1), cach h f]) (k + 21)) := by
  unfold f_X6_copy
  have lo : ∀ (l : List va_E) (kk : Nat), (bh h l kk).1 q = some (nodeC ck nd ca) := fun l kk => by rw [bh_lo hql]; exact hq
  rw [b_nO (by omega) (by omega), gR_at (lo _ _) (v := ck) rfl, gI_at (lo _ _) (v := nd 1) rfl, cl_eq (b_node hb h1 (by omega))]
  rw [gI_at (lo _ _) (v := nd 2) rfl, pZ_at (hz 2 (by decide)), b_pV hb get_end (Nat.le_of_ble_eq_true rfl), set_end]
  rw [gI_at (lo _ _) (v := nd 3) rfl, pZ_at (hz 3 (by decide)), b_pV hb get_end (Nat.le_of_ble_eq_true rfl), set_end]
  rw [gI_at (lo _ _) (v := nd 4) rfl, pZ_at (hz 4 (by decide)), b_pV hb get_end (Nat.le_of_ble_eq_true rfl), set_end]
  rw [gI_at (lo _ _) (v := nd 5) rfl, b_pV hb get_end (Nat.le_of_ble_eq_true rfl), set_end]
  rw [gI_at (lo _ _) (v := nd 6) rfl, b_pV hb get_end (Nat.le_of_ble_eq_true rfl), set_end]
  rw [gI_at (lo _ _) (v := nd 7) rfl, b_pV hb get_end (Nat.le_of_ble_eq_true rfl), set_end]
  rw [gI_at (lo _ _) (v := nd 8) rfl, b_pV hb get_end (Nat.le_of_ble_eq_true rfl), set_end]
  rw [gI_at (lo _ _) (v := nd 9) rfl, b_pV hb get_end (Nat.le_of_ble_eq_true rfl), set_end]
  rw [gI_at (lo _ _) (v := nd 10) rfl, b_pV hb get_end (Nat.le_of_ble_eq_true rfl), set_end]
  rw [gI_at (lo _ _) (v := nd 11) rfl, b_pV hb get_end (Nat.le_of_ble_eq_true rfl), set_end]
  rw [gR_at (lo _ _) (v := ca) rfl, gR_at (h := bh h _ _) (bh_at get_end) (v := pn h + cs.length + 1) rfl]
  refine (ycI_at0 (n := 8) (h := bh h _ _) (a := ca) (b := pn h + cs.length + 1) (n0 := 8) (n1 := 8) (f := f) (g := fun _ => 0) (by rw [bh_lo hcl]; exact hc) (bh_at (i := cs.length + 1) get_end1) hcb (by rw [bh_base]; omega) (by decide) (by decide) (by decide)).trans ?_
  rw [show pn h + cs.length + 1 = pn h + (cs.length + 1) from rfl, bh_set (by simp), set_end1]
  rfl
theorem of_min {a b : Nat} (ha : a < 2 ^ 31) (hb : b < 2 ^ 31) : (if Int32.ofNat a < Int32.ofNat b then Int32.ofNat a else Int32.ofNat b) = Int32.ofNat (min a b) := by
  by_cases hx : a < b
  · rw [if_pos ((of_lt ha hb).mpr hx)]
    congr 1
    omega
  · rw [if_neg (fun hy => hx ((of_lt ha hb).mp hy))]
    congr 1
    omega
theorem of_max {a b : Nat} (ha : a < 2 ^ 31) (hb : b < 2 ^ 31) : (if Int32.ofNat a < Int32.ofNat b then Int32.ofNat b else Int32.ofNat a) = Int32.ofNat (max a b) := by
  by_cases hx : a < b
  · rw [if_pos ((of_lt ha hb).mpr hx)]
    congr 1
    omega
  · rw [if_neg (fun hy => hx ((of_lt ha hb).mp hy))]
    congr 1
    omega
/-- an element of a row that stays -/
def elH (h : PH) (v : Option Nat) : Prop := v = none ∨ ∃ (a ci : Nat) (fs : List Value), v = some a ∧ a < pn h ∧ h.1 a = some (.inr (ci, fs)) ∧ ci ≤ 25
theorem elH_ok {v : Option Nat} {l : List va_E} {kk : Nat} (hv : elH h v) : elOK (bh h l kk) v = true := by
  rcases hv with rfl | ⟨a, ci, fs, rfl, h1, h2, h3⟩
  · rfl
  · have e : (bh h l kk).1 a = some (.inr (ci, fs)) := (bh_lo h1).trans h2
    simp [elOK, e, h3]
theorem b_copyOf {a m c : Nat} {f : Nat → Option Nat} (hb : pbase h ≤ pn h) (ha : (bh h cs k).1 a = some (.inl (h.2.1.2.1 4, c, refs f))) (hab : pbase h ≤ a) (hal : a < pn h + cs.length) (hm : m ≤ 60000000) (hc : c < 2 ^ 30) (hok : ∀ j : Nat, j < min m c → elH h (f j)) (h1 : cs.length + 1 ≤ pcl h) (h2 : k + m ≤ psl h) :
    f_J13_copyOf_2 (some a) (Int32.ofNat m) (bh h cs k) = some (some (pn h + cs.length), bh h (cs ++ [.inl (h.2.1.2.1 4, m, refs (va_cpy f (fun _ => none) 0 0 (min m c)))]) (k + m)) := by
  unfold f_J13_copyOf_2
  rw [mirrorC (h := bh h cs k) ha hab]
  unfold f_J13_copyOf_3
  rw [if_pos rfl, b_nA hm h1 h2]
  unfold f_J13_copyOf_3_B24
  have a1 : (bh h (cs ++ [.inl (h.2.1.2.1 4, m, aNul)]) (k + m)).1 a = some (.inl ((bh h (cs ++ [.inl (h.2.1.2.1 4, m, aNul)]) (k + m)).2.1.2.1 4, c, refs f)) := by
    rw [bh_app (k := k) hal]
    exact ha
  have a2 : (bh h (cs ++ [.inl (h.2.1.2.1 4, m, aNul)]) (k + m)).1 (pn h + cs.length) = some (.inl ((bh h (cs ++ [.inl (h.2.1.2.1 4, m, aNul)]) (k + m)).2.1.2.1 4, m, refs fun _ => none)) := bh_at get_end
  rw [aN_at a1, of_min (by omega) (by omega)]
  rw [show (0 : Int32) = Int32.ofNat 0 from rfl, ycQ_at a1 a2 hab (by rw [bh_base]; omega) (by omega) (by omega) (by decide) (by decide) (by omega) (fun i hi => by rw [Nat.zero_add]; exact elH_ok (hok i hi))]
  rw [bh_set (by simp)]
  rw [show (bh h (cs ++ [Sum.inl (h.2.1.2.1 4, m, aNul)]) (k + m)).2.1.2.1 4 = h.2.1.2.1 4 from rfl, set_end]
  rfl
end NC
