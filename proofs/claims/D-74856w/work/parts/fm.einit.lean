/-! CONSTRUCTOR of a simulation whose own cell (at a) was made before -/
set_option maxRecDepth 100000
/-- the simulation's cell while its nodes are made; its other cells begin at p -/
abbrev sim1e (p cfg : Nat) : va_E := .inr (1, [.ref cfg, .ref (p + 12), .ref p, .ref (p + 2), .ref (p + 4), .ref (p + 6), .ref (p + 8), .ref (p + 11), .int 0, .int 0, .int 0, .int 0, .int (-4), .int 0, .int 0, .int 0, .int 0, .int 0, .int 0, .int 0, .int 0, .int (-4)])
/-- the thirteen cells ahead of the nodes -/
abbrev blke (h : PH) (n : Nat) (f : Nat → Option Nat) : List va_E := [cLst 0 (pn h + 1) 0, .inl (h.2.1.2.1 4, 4, aNul), cLst 0 (pn h + 3) 0, .inl (h.2.1.2.1 4, 2, aNul), cLst 0 (pn h + 5) 0, .inl (h.2.1.2.1 4, 2, aNul), cLst 0 (pn h + 7) 0, .inl (h.2.1.2.1 4, 4, aNul), .inr (4, [.ref (pn h + 9), .ref (pn h + 10), .int 0]), arr8 h, arr8 h, .inl (h.2.1.2.1 0, 9, .inl fun _ => 0), .inl (h.2.1.2.1 5, n, refs f)]
section EI1
variable {h : PH} {a : Nat} {e : va_E} {cs : List va_E} {k : Nat}
theorem e_lo {b : Nat} (hb : b < pn h) (hn : b ≠ a) : (bh (p_set h a e) cs k).1 b = h.1 b := (bh_lo (h := p_set h a e) hb).trans (ps_ne hn)
theorem e_at (ha : a < pn h) : (bh (p_set h a e) cs k).1 a = some e := (bh_lo (h := p_set h a e) ha).trans ps_at
theorem e_pset {e' : va_E} (ha : a < pn h) : p_set (bh (p_set h a e) cs k) a e' = bh (p_set h a e') cs k := by
  unfold p_set bh
  refine Prod.ext (funext fun b => ?_) rfl
  show (if b = a then some e' else (if pn h ≤ b then (match cs[b - pn h]? with | some e => some e | none => (if b = a then some e else h.1 b)) else (if b = a then some e else h.1 b))) = (if pn h ≤ b then (match cs[b - pn h]? with | some e => some e | none => (if b = a then some e' else h.1 b)) else (if b = a then some e' else h.1 b))
  by_cases hb : b = a
  · rw [if_pos hb, if_neg (show ¬ pn h ≤ b by omega), if_pos hb]
  · simp only [if_neg hb]
theorem e_pV {β : Type} {ci f : Nat} {fs : List Value} {v : Value} {K : PH → Option β} (ha : a < pn h) (hb : pbase h ≤ a) (hf : f < fs.length) : pV (bh (p_set h a (.inr (ci, fs))) cs k) (some a) ci f v K = K (bh (p_set h a (.inr (ci, fs.set f v))) cs k) := by
  rw [pV_at (e_at ha) (by rw [bh_base]; exact hb) hf, e_pset ha]
theorem e_nO {β : Type} {ci N : Nat} {fs : List Value} {K : Nat → PH → Option β} (h1 : cs.length + 1 ≤ pcl h) (h2 : k + N ≤ psl h) : nO (bh (p_set h a e) cs k) ci N fs K = K (pn h + cs.length) (bh (p_set h a e) (cs ++ [.inr (ci, fs)]) (k + N)) := b_nO (h := p_set h a e) h1 h2
theorem e_nA9 {β : Type} {K : Nat → PH → Option β} (h1 : cs.length + 1 ≤ pcl h) (h2 : k + 9 ≤ psl h) : nA (bh (p_set h a e) cs k) 0 (9 : Int32) (.inl fun _ => 0) K = K (pn h + cs.length) (bh (p_set h a e) (cs ++ [.inl (h.2.1.2.1 0, 9, .inl fun _ => 0)]) (k + 9)) := b_nA9 (h := p_set h a e) h1 h2
theorem e_nAn {β : Type} {n : Nat} {K : Nat → PH → Option β} (hn : n ≤ 6) (h1 : cs.length + 1 ≤ pcl h) (h2 : k + n ≤ psl h) : nA (bh (p_set h a e) cs k) 5 (Int32.ofNat n) aNul K = K (pn h + cs.length) (bh (p_set h a e) (cs ++ [.inl (h.2.1.2.1 5, n, aNul)]) (k + n)) := b_nA (h := p_set h a e) (by omega) h1 h2
theorem e_lst4 (hb : pbase h ≤ pn h) (h1 : cs.length + 2 ≤ pcl h) (h2 : k + 4 ≤ psl h) : f_J2_init (pn h + cs.length) (4 : Int32) (bh (p_set h a e) (cs ++ [.inr (19, [.int 0, .null, .int 0])]) k) = some ((), bh (p_set h a e) (cs ++ [cLst 0 (pn h + cs.length + 1) 0, .inl (h.2.1.2.1 4, 4, aNul)]) (k + 4)) := b_lst4 (h := p_set h a e) hb h1 h2
theorem e_lst2 (hb : pbase h ≤ pn h) (h1 : cs.length + 2 ≤ pcl h) (h2 : k + 2 ≤ psl h) : f_J2_init (pn h + cs.length) (2 : Int32) (bh (p_set h a e) (cs ++ [.inr (19, [.int 0, .null, .int 0])]) k) = some ((), bh (p_set h a e) (cs ++ [cLst 0 (pn h + cs.length + 1) 0, .inl (h.2.1.2.1 4, 2, aNul)]) (k + 2)) := b_lst2 (h := p_set h a e) hb h1 h2
theorem e_sto (hb : pbase h ≤ pn h) (h1 : cs.length + 3 ≤ pcl h) (h2 : k + 16 ≤ psl h) : f_X5_init (pn h + cs.length) (bh (p_set h a e) (cs ++ [.inr (4, [.null, .null, .int 0])]) k) = some ((), bh (p_set h a e) (cs ++ [.inr (4, [.ref (pn h + cs.length + 1), .ref (pn h + cs.length + 2), .int 0]), arr8 h, arr8 h]) (k + 16)) := b_sto (h := p_set h a e) hb h1 h2
theorem e_node {ck : Nat} {d : Int32} (hb : pbase h ≤ pn h) (h1 : cs.length + 2 ≤ pcl h) (h2 : k + 8 ≤ psl h) : f_X6_init (pn h + cs.length) (some ck) d (bh (p_set h a e) (cs ++ [node0]) k) = some ((), bh (p_set h a e) (cs ++ [node1 ck d (pn h + cs.length + 1), arr8 h]) (k + 8)) := b_node (h := p_set h a e) hb h1 h2
theorem e_sQ {β : Type} {i j t n ci b : Nat} {f : Nat → Option Nat} {gs : List Value} {K : PH → Option β} (hb : pbase h ≤ pn h) (hi : cs[i]? = some (.inl (h.2.1.2.1 t, n, refs f))) (hj : j < n) (hn : n < 2 ^ 31) (hv : (bh (p_set h a e) cs k).1 b = some (.inr (ci, gs))) (ho : okQ t ci = true ∧ ci ≤ 25) : sQ (bh (p_set h a e) cs k) (some (pn h + i)) t (Int32.ofNat j) (some b) K = K (bh (p_set h a e) (cs.set i (.inl (h.2.1.2.1 t, n, refs (va_up f j (some b))))) k) := b_sQ (h := p_set h a e) hb hi hj hn hv ho
theorem e_init {cfg lst ed n : Nat} {md : Int32} {srv dls : Value} {rest : List Value} (ha0 : h.1 a = some sim0) (ha : a < pn h) (hba : pbase h ≤ a) (hr1 : 100 ≤ pcl h) (hr2 : 1000 ≤ psl h) (hn : n ≤ 6) (hc : h.1 cfg = some (.inr (2, srv :: .ref lst :: rest))) (hcl : cfg < pn h) (hcb : pbase h ≤ cfg) (hl : h.1 lst = some (cLst md ed n)) (hll : lst < pn h) :
    f_X2_init a (some cfg) h = f_X2_init_L106 FU (some a) (some cfg) (0 : Int32) (bh (p_set h a (sim1e (pn h) cfg)) (blke h n (fun _ => none)) (0 + 3 + 4 + 3 + 2 + 3 + 2 + 3 + 4 + 3 + 16 + 9 + n)) := by
  have hb : pbase h ≤ pn h := by omega
  have nca : cfg ≠ a := fun hy => by rw [hy, ha0] at hc; cases hc
  have nla : lst ≠ a := fun hy => by rw [hy, ha0] at hl; cases hl
  have e0 : h = bh (p_set h a sim0) [] 0 := by
    rw [bh_nil]
    unfold p_set
    refine Prod.ext (funext fun b => ?_) rfl
    show h.1 b = (if b = a then some sim0 else h.1 b)
    by_cases c : b = a
    · rw [if_pos c, c, ha0]
    · rw [if_neg c]
  refine (congrArg (f_X2_init a (some cfg)) e0).trans ?_
  unfold f_X2_init
  have t1 : ∀ {m : Nat}, m ≤ 100 → m ≤ pcl h := fun hm => Nat.le_trans hm hr1
  have t2 : ∀ {m : Nat}, m ≤ 1000 → m ≤ psl h := fun hm => Nat.le_trans hm hr2
  rw [e_nO (t1 (Nat.le_of_ble_eq_true rfl)) (t2 (by decide)), cl_eq (e_lst4 hb (t1 (Nat.le_of_ble_eq_true rfl)) (t2 (by decide))), e_pV ha hba (Nat.le_of_ble_eq_true rfl)]
  rw [e_nO (t1 (Nat.le_of_ble_eq_true rfl)) (t2 (by decide)), cl_eq (e_lst2 hb (t1 (Nat.le_of_ble_eq_true rfl)) (t2 (by decide))), e_pV ha hba (Nat.le_of_ble_eq_true rfl)]
  rw [e_nO (t1 (Nat.le_of_ble_eq_true rfl)) (t2 (by decide)), cl_eq (e_lst2 hb (t1 (Nat.le_of_ble_eq_true rfl)) (t2 (by decide))), e_pV ha hba (Nat.le_of_ble_eq_true rfl)]
  rw [e_nO (t1 (Nat.le_of_ble_eq_true rfl)) (t2 (by decide)), cl_eq (e_lst4 hb (t1 (Nat.le_of_ble_eq_true rfl)) (t2 (by decide))), e_pV ha hba (Nat.le_of_ble_eq_true rfl)]
  rw [e_nO (t1 (Nat.le_of_ble_eq_true rfl)) (t2 (by decide)), cl_eq (e_sto hb (t1 (Nat.le_of_ble_eq_true rfl)) (t2 (by decide))), e_pV ha hba (Nat.le_of_ble_eq_true rfl)]
  rw [e_nA9 (t1 (Nat.le_of_ble_eq_true rfl)) (t2 (by decide)), e_pV ha hba (Nat.le_of_ble_eq_true rfl), e_pV ha hba (Nat.le_of_ble_eq_true rfl), e_pV ha hba (Nat.le_of_ble_eq_true rfl), e_pV ha hba (Nat.le_of_ble_eq_true rfl)]
  rw [gRN_at (h := bh _ _ _) (by rw [e_lo hcl nca]; exact hc) (by rw [bh_base]; exact hcb) (v := lst) rfl]
  have e1 : ∀ (x : va_E) (cs : List va_E) (k : Nat), (bh (p_set h a x) cs k).1 lst = some (cLst md ed n) := fun x cs k => by rw [e_lo hll nla]; exact hl
  rw [rv_at (e1 _ _ _)]
  have e2 : ∀ (x : va_E) (cs : List va_E) (k : Nat), f_J2_size (some lst) (bh (p_set h a x) cs k) = some (Int32.ofNat n, bh (p_set h a x) cs k) := fun x cs k => by
    unfold f_J2_size
    rw [gI_at (e1 x cs k) rfl]
  rw [cl_eq (e2 _ _ _)]
  rw [e_nAn hn (t1 (Nat.le_of_ble_eq_true rfl)) (t2 (by omega)), e_pV ha hba (Nat.le_of_ble_eq_true rfl)]
  rfl
end EI1
-- the nodes
def ndce (h : PH) (ck : Nat → Nat) (dl : Nat → Int32) : Nat → List va_E
  | 0 => []
  | i + 1 => ndce h ck dl i ++ [node1 (ck i) (dl i) (pn h + 14 + 2 * i), arr8 h]
theorem ndce_len {h : PH} {ck : Nat → Nat} {dl : Nat → Int32} : ∀ i : Nat, (ndce h ck dl i).length = 2 * i
  | 0 => rfl
  | i + 1 => by
    unfold ndce
    rw [List.length_append, ndce_len i]
    simp
    omega
section EI2
variable {h : PH} {a : Nat}
/-- the nodes' row after i of them -/
abbrev nrowe (h : PH) (i : Nat) : Nat → Option Nat := fun j => if j < i then some (pn h + 13 + 2 * j) else none
theorem nrowe_up {i : Nat} : va_up (nrowe h i) i (some (pn h + 13 + 2 * i)) = nrowe h (i + 1) := by
  funext j
  show (if j = i then some (pn h + 13 + 2 * i) else if j < i then some (pn h + 13 + 2 * j) else none) = if j < i + 1 then some (pn h + 13 + 2 * j) else none
  by_cases h1 : j = i
  · rw [if_pos h1, if_pos (by omega), h1]
  · rw [if_neg h1]
    by_cases h2 : j < i
    · rw [if_pos h2, if_pos (by omega)]
    · rw [if_neg h2, if_neg (by omega)]
theorem e_nodes {cfg l1 e1 c1 l2 e2 c2 n : Nat} {m1 m2 : Int32} {f1 f2 : Nat → Option Nat} {srv : Value} {rest : List Value} {ck : Nat → Nat} {dl : Nat → Int32} {k : Nat} (ha0 : h.1 a = some sim0) (ha : a < pn h) (hba : pbase h ≤ a) (hr1 : 100 ≤ pcl h) (hr2 : k + 1000 ≤ psl h) (hn : n ≤ 6)
    (hc : h.1 cfg = some (.inr (2, srv :: .ref l1 :: .ref l2 :: rest))) (hcl : cfg < pn h) (hcb : pbase h ≤ cfg)
    (hl1 : h.1 l1 = some (cLst m1 e1 n)) (hl1l : l1 < pn h) (he1 : h.1 e1 = some (.inl (h.2.1.2.1 4, c1, refs f1))) (he1l : e1 < pn h) (he1b : pbase h ≤ e1) (hc1 : n ≤ c1) (hf1 : ∀ i, i < n → f1 i = some (ck i)) (hck : ∀ i, i < n → ck i < pn h ∧ ∃ r o : Int32, h.1 (ck i) = some (cClk r o))
    (hl2 : h.1 l2 = some (cLst m2 e2 n)) (hl2l : l2 < pn h) (he2 : h.1 e2 = some (.inl (h.2.1.2.1 4, c2, refs f2))) (he2l : e2 < pn h) (he2b : pbase h ≤ e2) (hc2 : n ≤ c2) (hf2 : ∀ i, i < n → ∃ q, f2 i = some q ∧ q < pn h ∧ h.1 q = some (cInt (dl i))) :
    ∀ (d i N : Nat), i + d = n → d < N → f_X2_init_L106 N (some a) (some cfg) (Int32.ofNat i) (bh (p_set h a (sim1e (pn h) cfg)) (blke h n (nrowe h i) ++ ndce h ck dl i) (k + 21 * i)) = f_X2_init_L106 1 (some a) (some cfg) (Int32.ofNat n) (bh (p_set h a (sim1e (pn h) cfg)) (blke h n (nrowe h n) ++ ndce h ck dl n) (k + 21 * n)) := by
  intro d
  have hb : pbase h ≤ pn h := by omega
  have na : ∀ {b : Nat} {x : va_E}, h.1 b = some x → (∀ fs : List Value, x ≠ .inr (1, fs)) → b ≠ a := fun {b x} hx hn hy => by
    rw [hy, ha0] at hx
    cases hx
    exact hn _ rfl
  have nc : cfg ≠ a := na hc (fun fs hy => by cases hy)
  have n1 : l1 ≠ a := na hl1 (fun fs hy => by cases hy)
  have n2 : l2 ≠ a := na hl2 (fun fs hy => by cases hy)
  have n3 : e1 ≠ a := na he1 (fun fs hy => by cases hy)
  have n4 : e2 ≠ a := na he2 (fun fs hy => by cases hy)
  have len : ∀ i : Nat, (blke h n (nrowe h i) ++ ndce h ck dl i).length = 13 + 2 * i := fun i => by rw [List.length_append, ndce_len]; rfl
  obtain ⟨x1, hx1⟩ : ∃ x1, sim1e (pn h) cfg = x1 := ⟨_, rfl⟩
  induction d with
  | zero =>
    intro i N h1 h2
    have : i = n := by omega
    subst this
    cases N with
    | zero => omega
    | succ N =>
      unfold f_X2_init_L106
      have a0 : (bh (p_set h a (sim1e (pn h) cfg)) (blke h i (nrowe h i) ++ ndce h ck dl i) (k + 21 * i)).1 a = some (sim1e (pn h) cfg) := e_at ha
      have a1 : (bh (p_set h a (sim1e (pn h) cfg)) (blke h i (nrowe h i) ++ ndce h ck dl i) (k + 21 * i)).1 (pn h + 12) = some (.inl ((bh (p_set h a (sim1e (pn h) cfg)) (blke h i (nrowe h i) ++ ndce h ck dl i) (k + 21 * i)).2.1.2.1 5, i, refs (nrowe h i))) := bh_at (h := p_set h a (sim1e (pn h) cfg)) (i := 12) rfl
      rw [gR_at a0 (v := pn h + 12) rfl, aN_at a1, if_pos (Int32.le_refl _), gR_at a0 (v := pn h + 12) rfl, aN_at a1, if_pos (Int32.le_refl _)]
  | succ d ih =>
    intro i N h1 h2
    cases N with
    | zero => omega
    | succ N =>
      have hin : i < n := by omega
      rw [← ih (i + 1) N (by omega) (by omega)]
      conv => lhs; unfold f_X2_init_L106
      have a0 : ∀ (l : List va_E) (kk : Nat), (bh (p_set h a (sim1e (pn h) cfg)) (blke h n (nrowe h i) ++ l) kk).1 a = some (sim1e (pn h) cfg) := fun l kk => e_at ha
      have a1 : (bh (p_set h a (sim1e (pn h) cfg)) (blke h n (nrowe h i) ++ ndce h ck dl i) (k + 21 * i)).1 (pn h + 12) = some (.inl ((bh (p_set h a (sim1e (pn h) cfg)) (blke h n (nrowe h i) ++ ndce h ck dl i) (k + 21 * i)).2.1.2.1 5, n, refs (nrowe h i))) := bh_at (h := p_set h a (sim1e (pn h) cfg)) (i := 12) rfl
      rw [gR_at (a0 _ _) (v := pn h + 12) rfl, aN_at a1, if_neg (fun hx => by rw [of_le (by omega) (by omega)] at hx; omega), gR_at (a0 _ _) (v := pn h + 12) rfl]
      rw [e_nO (by rw [len]; omega) (by omega)]
      have lo : ∀ (cs : List va_E) (kk b : Nat), b < pn h → b ≠ a → (bh (p_set h a (sim1e (pn h) cfg)) cs kk).1 b = h.1 b := fun cs kk b hbl hn => e_lo hbl hn
      rw [gRN_at (h := bh _ _ _) (by rw [lo _ _ _ hcl nc]; exact hc) (by rw [bh_base]; exact hcb) (v := l1) rfl]
      rw [rv_at (h := bh _ _ _) (by rw [lo _ _ _ hl1l n1]; exact hl1)]
      rw [cl_eq (g_list (h := bh _ _ _) (by rw [lo _ _ _ hl1l n1]; exact hl1) (by rw [lo _ _ _ he1l n3]; exact he1) (by rw [bh_base]; exact he1b) hin hc1 hn), hf1 i hin]
      obtain ⟨k1, r, o, k2⟩ := hck i hin
      have n5 : ck i ≠ a := na k2 (fun fs hy => by cases hy)
      rw [kC_at (h := bh _ _ _) (by rw [lo _ _ _ k1 n5]; exact k2)]
      rw [gRN_at (h := bh _ _ _) (by rw [lo _ _ _ hcl nc]; exact hc) (by rw [bh_base]; exact hcb) (v := l2) rfl]
      rw [rv_at (h := bh _ _ _) (by rw [lo _ _ _ hl2l n2]; exact hl2)]
      obtain ⟨q, q1, q2, q3⟩ := hf2 i hin
      have n6 : q ≠ a := na q3 (fun fs hy => by cases hy)
      rw [cl_eq (g_list (h := bh _ _ _) (by rw [lo _ _ _ hl2l n2]; exact hl2) (by rw [lo _ _ _ he2l n4]; exact he2) (by rw [bh_base]; exact he2b) hin hc2 hn), q1]
      rw [kC_at (h := bh _ _ _) (by rw [lo _ _ _ q2 n6]; exact q3), rv_at (h := bh _ _ _) (by rw [lo _ _ _ q2 n6]; exact q3)]
      have ei : ∀ (cs : List va_E) (kk : Nat), f_J17_intValue (some q) (bh (p_set h a (sim1e (pn h) cfg)) cs kk) = some (dl i, bh (p_set h a (sim1e (pn h) cfg)) cs kk) := fun cs kk => by
        unfold f_J17_intValue
        rw [gI_at (h := bh _ cs kk) (by rw [lo _ _ _ q2 n6]; exact q3) rfl]
      rw [cl_eq (ei _ _), cl_eq (e_node hb (by rw [len]; omega) (by omega))]
      rw [len]
      rw [e_sQ (b := pn h + (13 + 2 * i)) (i := 12) (ci := 5) (gs := [.ref (ck i), .int (dl i), .int 1, .int 0, .int 0, .int 0, .int 0, .int 0, .int (-4), .int 0, .int 0, .int 0, .ref (pn h + (13 + 2 * i) + 1)]) hb (show (blke h n (nrowe h i) ++ ndce h ck dl i ++ [node1 (ck i) (dl i) (pn h + (13 + 2 * i) + 1), arr8 h])[12]? = some (.inl (h.2.1.2.1 5, n, refs (nrowe h i))) from rfl) hin (by omega) (bh_at (h := p_set h a (sim1e (pn h) cfg)) (i := 13 + 2 * i) (by rw [List.getElem?_append_right (by rw [len]; omega), len]; simp)) ⟨rfl, by decide⟩, ofs]
      have ea : pn h + (13 + 2 * i) = pn h + 13 + 2 * i := by omega
      have eb : pn h + 13 + 2 * i + 1 = pn h + 14 + 2 * i := by omega
      have ec : k + 21 * i + 13 + 8 = k + 21 * (i + 1) := by omega
      rw [ea, nrowe_up, eb, ec, List.append_assoc]
      rfl
end EI2
