/-! CONSTRUCTOR of a simulation: the nodes -/
set_option maxRecDepth 100000
def ndc (h : PH) (ck : Nat → Nat) (dl : Nat → Int32) : Nat → List va_E
  | 0 => []
  | i + 1 => ndc h ck dl i ++ [node1 (ck i) (dl i) (pn h + 15 + 2 * i), arr8 h]
theorem ndc_len {h : PH} {ck : Nat → Nat} {dl : Nat → Int32} : ∀ i : Nat, (ndc h ck dl i).length = 2 * i
  | 0 => rfl
  | i + 1 => by
    unfold ndc
    rw [List.length_append, ndc_len i]
    simp
    omega
theorem inR_of2 {i n : Nat} (h1 : i < 2 ^ 31) (hi : i < n) : inR (Int32.ofNat i) n := by
  have e1 : (Int32.ofNat i).toNatClampNeg = i := Int32.toNatClampNeg_ofNat_of_lt h1
  intro h
  rcases h with h | h
  · rw [Int32.lt_iff_toInt_lt, Int32.toInt_ofNat_of_lt h1] at h
    simp at h
    omega
  · rw [e1] at h
    omega
/-- an element of a list that is known -/
theorem g_list {h : PH} {lst ed n c i : Nat} {md : Int32} {f : Nat → Option Nat} (hl : h.1 lst = some (cLst md ed n)) (he : h.1 ed = some (.inl (h.2.1.2.1 4, c, refs f))) (hb : pbase h ≤ ed) (hi : i < n) (hn : n ≤ c) (hn6 : n ≤ 6) : f_J2_get (some lst) (Int32.ofNat i) h = some (f i, h) := by
  unfold f_J2_get f_J18_checkIndex f_J14_checkIndex f_J2_elementData
  have c1 : ¬ Int32.ofNat i < 0 := by
    rw [show (0 : Int32) = Int32.ofNat 0 from rfl, of_lt (by omega) (by omega)]
    omega
  have c2 : Int32.ofNat i < Int32.ofNat n := (of_lt (by omega) (by omega)).mpr hi
  rw [gI_at hl rfl, if_neg c1, if_pos c2]
  simp only [cl_]
  rw [rv_at hl, gR_at hl rfl, aQ_at he (inR_of2 (by omega) (by omega)) hb, clamp9 (by omega)]
section IN2
variable {h : PH}
/-- the nodes' row after i of them -/
abbrev nrow (h : PH) (i : Nat) : Nat → Option Nat := fun j => if j < i then some (pn h + 14 + 2 * j) else none
theorem nrow_up {i : Nat} : va_up (nrow h i) i (some (pn h + 14 + 2 * i)) = nrow h (i + 1) := by
  funext j
  show (if j = i then some (pn h + 14 + 2 * i) else if j < i then some (pn h + 14 + 2 * j) else none) = if j < i + 1 then some (pn h + 14 + 2 * j) else none
  by_cases h1 : j = i
  · rw [if_pos h1, if_pos (by omega), h1]
  · rw [if_neg h1]
    by_cases h2 : j < i
    · rw [if_pos h2, if_pos (by omega)]
    · rw [if_neg h2, if_neg (by omega)]
theorem b_nodes {cfg l1 e1 c1 l2 e2 c2 n : Nat} {m1 m2 : Int32} {f1 f2 : Nat → Option Nat} {srv : Value} {rest : List Value} {ck : Nat → Nat} {dl : Nat → Int32} {k : Nat} (hb : pbase h ≤ pn h) (hr1 : 100 ≤ pcl h) (hr2 : k + 1000 ≤ psl h) (hn : n ≤ 6)
    (hc : h.1 cfg = some (.inr (2, srv :: .ref l1 :: .ref l2 :: rest))) (hcl : cfg < pn h) (hcb : pbase h ≤ cfg)
    (hl1 : h.1 l1 = some (cLst m1 e1 n)) (hl1l : l1 < pn h) (he1 : h.1 e1 = some (.inl (h.2.1.2.1 4, c1, refs f1))) (he1l : e1 < pn h) (he1b : pbase h ≤ e1) (hc1 : n ≤ c1) (hf1 : ∀ i, i < n → f1 i = some (ck i)) (hck : ∀ i, i < n → ck i < pn h ∧ ∃ r o : Int32, h.1 (ck i) = some (cClk r o))
    (hl2 : h.1 l2 = some (cLst m2 e2 n)) (hl2l : l2 < pn h) (he2 : h.1 e2 = some (.inl (h.2.1.2.1 4, c2, refs f2))) (he2l : e2 < pn h) (he2b : pbase h ≤ e2) (hc2 : n ≤ c2) (hf2 : ∀ i, i < n → ∃ q, f2 i = some q ∧ q < pn h ∧ h.1 q = some (cInt (dl i))) :
    ∀ (d i N : Nat), i + d = n → d < N → f_X2_init_L106 N (some (pn h)) (some cfg) (Int32.ofNat i) (bh h (blk h cfg n (nrow h i) ++ ndc h ck dl i) (k + 21 * i)) = f_X2_init_L106 1 (some (pn h)) (some cfg) (Int32.ofNat n) (bh h (blk h cfg n (nrow h n) ++ ndc h ck dl n) (k + 21 * n)) := by
  intro d
  have len : ∀ i : Nat, (blk h cfg n (nrow h i) ++ ndc h ck dl i).length = 14 + 2 * i := fun i => by rw [List.length_append, ndc_len]; rfl
  induction d with
  | zero =>
    intro i N h1 h2
    have : i = n := by omega
    subst this
    cases N with
    | zero => omega
    | succ N =>
      unfold f_X2_init_L106
      have a0 : (bh h (blk h cfg i (nrow h i) ++ ndc h ck dl i) (k + 21 * i)).1 (pn h) = some (sim1 (pn h) cfg) := bh_at (i := 0) rfl
      have a1 : (bh h (blk h cfg i (nrow h i) ++ ndc h ck dl i) (k + 21 * i)).1 (pn h + 13) = some (.inl ((bh h (blk h cfg i (nrow h i) ++ ndc h ck dl i) (k + 21 * i)).2.1.2.1 5, i, refs (nrow h i))) := bh_at (i := 13) rfl
      rw [gR_at a0 (v := pn h + 13) rfl, aN_at a1, if_pos (Int32.le_refl _), gR_at a0 (v := pn h + 13) rfl, aN_at a1, if_pos (Int32.le_refl _)]
  | succ d ih =>
    intro i N h1 h2
    cases N with
    | zero => omega
    | succ N =>
      have hin : i < n := by omega
      rw [← ih (i + 1) N (by omega) (by omega)]
      conv => lhs; unfold f_X2_init_L106
      have a0 : ∀ (l : List va_E) (kk : Nat), (bh h (blk h cfg n (nrow h i) ++ l) kk).1 (pn h) = some (sim1 (pn h) cfg) := fun l kk => bh_at (i := 0) rfl
      have a1 : (bh h (blk h cfg n (nrow h i) ++ ndc h ck dl i) (k + 21 * i)).1 (pn h + 13) = some (.inl ((bh h (blk h cfg n (nrow h i) ++ ndc h ck dl i) (k + 21 * i)).2.1.2.1 5, n, refs (nrow h i))) := bh_at (i := 13) rfl
      rw [gR_at (a0 _ _) (v := pn h + 13) rfl, aN_at a1, if_neg (fun hx => by rw [of_le (by omega) (by omega)] at hx; omega), gR_at (a0 _ _) (v := pn h + 13) rfl]
      rw [b_nO (by rw [len]; omega) (by omega)]
      have lo : ∀ (cs : List va_E) (kk b : Nat), b < pn h → (bh h cs kk).1 b = h.1 b := fun cs kk b hbl => bh_lo hbl
      rw [gRN_at (h := bh h _ _) (by rw [lo _ _ _ hcl]; exact hc) (by rw [bh_base]; exact hcb) (v := l1) rfl]
      rw [rv_at (h := bh h _ _) (by rw [lo _ _ _ hl1l]; exact hl1)]
      rw [cl_eq (g_list (h := bh h _ _) (by rw [lo _ _ _ hl1l]; exact hl1) (by rw [lo _ _ _ he1l]; exact he1) (by rw [bh_base]; exact he1b) hin hc1 hn), hf1 i hin]
      obtain ⟨k1, r, o, k2⟩ := hck i hin
      rw [kC_at (h := bh h _ _) (by rw [lo _ _ _ k1]; exact k2)]
      rw [gRN_at (h := bh h _ _) (by rw [lo _ _ _ hcl]; exact hc) (by rw [bh_base]; exact hcb) (v := l2) rfl]
      rw [rv_at (h := bh h _ _) (by rw [lo _ _ _ hl2l]; exact hl2)]
      obtain ⟨q, q1, q2, q3⟩ := hf2 i hin
      rw [cl_eq (g_list (h := bh h _ _) (by rw [lo _ _ _ hl2l]; exact hl2) (by rw [lo _ _ _ he2l]; exact he2) (by rw [bh_base]; exact he2b) hin hc2 hn), q1]
      rw [kC_at (h := bh h _ _) (by rw [lo _ _ _ q2]; exact q3), rv_at (h := bh h _ _) (by rw [lo _ _ _ q2]; exact q3)]
      have ei : ∀ (cs : List va_E) (kk : Nat), f_J17_intValue (some q) (bh h cs kk) = some (dl i, bh h cs kk) := fun cs kk => by
        unfold f_J17_intValue
        rw [gI_at (h := bh h cs kk) (by rw [lo _ _ _ q2]; exact q3) rfl]
      rw [cl_eq (ei _ _), cl_eq (b_node hb (by rw [len]; omega) (by omega))]
      rw [len]
      rw [b_sQ (i := 13) (ci := 5) (gs := [.ref (ck i), .int (dl i), .int 1, .int 0, .int 0, .int 0, .int 0, .int 0, .int (-4), .int 0, .int 0, .int 0, .ref (pn h + (14 + 2 * i) + 1)]) hb (show (blk h cfg n (nrow h i) ++ ndc h ck dl i ++ [node1 (ck i) (dl i) (pn h + (14 + 2 * i) + 1), arr8 h])[13]? = some (.inl (h.2.1.2.1 5, n, refs (nrow h i))) from rfl) hin (by omega) (bh_at (i := 14 + 2 * i) (by rw [List.getElem?_append_right (by rw [len]; omega), len]; simp)) ⟨rfl, by decide⟩, ofs]
      have ea : pn h + (14 + 2 * i) = pn h + 14 + 2 * i := by omega
      have eb : pn h + 14 + 2 * i + 1 = pn h + 15 + 2 * i := by omega
      have ec : k + 21 * i + 13 + 8 = k + 21 * (i + 1) := by omega
      rw [ea, nrow_up, eb, ec, List.append_assoc]
      rfl
end IN2
