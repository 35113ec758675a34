/-! COPY of a simulation: its picture -/
set_option maxRecDepth 100000
def scC (sc : Nat → Int32) : Nat → Int32 := fu (fu sc 20 0) 21 (-4)
def cpCl (S : SS) : Nat := 14 + 4 * s_n S + (aaC 4 (s_ms S).length + aaC 2 (s_dl S).length + aaC 2 (s_ou S).length + aaC 4 (s_lg S).length)
def cpSl (S : SS) : Nat := 74 + 43 * s_n S + (aaS 4 (s_ms S).length + aaS 2 (s_dl S).length + aaS 2 (s_ou S).length + aaS 4 (s_lg S).length)
def ghC (S : SS) : Nat → Nat := fun k => if k = 0 then s_gh S 0 + cpCl S else if k = 1 then s_gh S 1 + cpSl S else if k = 2 then aaK 4 (s_ms S).length else if k = 3 then aaK 2 (s_dl S).length else if k = 4 then aaK 2 (s_ou S).length else aaK 4 (s_lg S).length
/-- Simulation.copy -/
def copyS (S : SS) : SS := (s_cf S, s_n S, s_nd S, S.2.2.2.1, s_ar S, scC (s_sc S), ghC S)
def oC (n q2 q3 q4 q5 : Nat) (k : Nat) : Nat := if k = 12 then q2 else if k = 13 then q3 else if k = 14 then q4 else if k = 15 then q5 else if 60 ≤ k then 15 + 2 * n + 2 * (k - 60) else if 50 ≤ k then 14 + 2 * n + 2 * (k - 50) else off k
def iC (n q2 q3 q4 q5 : Nat) (x : Nat) : Nat := if x = 0 then 0 else if x = 13 then 1 else if x = 1 then 2 else if x = 3 then 3 else if x = 5 then 4 else if x = 7 then 5 else if x = 9 then 6 else if x = 12 then 7 else if x = 10 then 8 else if x = 11 then 9 else if x = q2 then 12 else if x = q3 then 13 else if x = q4 then 14 else if x = q5 then 15 else if x % 2 = 0 then 50 + (x - 14 - 2 * n) / 2 else 60 + (x - 15 - 2 * n) / 2
theorem iC_of {n q2 q3 q4 q5 k L2 L3 L4 : Nat} (hn : n ≤ 6) (h2 : q2 = 2 ∨ (14 + 4 * n ≤ q2 ∧ q2 < L2)) (h3 : q3 = 4 ∨ (L2 ≤ q3 ∧ q3 < L3)) (h4 : q4 = 6 ∨ (L3 ≤ q4 ∧ q4 < L4)) (h5 : q5 = 8 ∨ L4 ≤ q5) (l2 : 14 + 4 * n ≤ L2) (l3 : L2 ≤ L3) (l4 : L3 ≤ L4) (hk : mR n k) : iC n q2 q3 q4 q5 (oC n q2 q3 q4 q5 k) = k := by
  rcases mR_cases hk with rfl | rfl | ⟨k1, k2⟩ | rfl | k1 | ⟨k1, k2⟩ | ⟨i, k1, rfl⟩ | ⟨i, k1, rfl⟩
  · rfl
  · rfl
  · have : k = 2 ∨ k = 3 ∨ k = 4 ∨ k = 5 := by omega
    rcases this with rfl | rfl | rfl | rfl <;> rfl
  · rfl
  · rcases k1 with rfl | rfl | rfl <;> rfl
  · have : k = 12 ∨ k = 13 ∨ k = 14 ∨ k = 15 := by omega
    rcases this with rfl | rfl | rfl | rfl
    · show iC n q2 q3 q4 q5 q2 = 12
      unfold iC
      rw [if_neg (by omega), if_neg (by omega), if_neg (by omega), if_neg (by omega), if_neg (by omega), if_neg (by omega), if_neg (by omega), if_neg (by omega), if_neg (by omega), if_neg (by omega), if_pos rfl]
    · show iC n q2 q3 q4 q5 q3 = 13
      unfold iC
      rw [if_neg (by omega), if_neg (by omega), if_neg (by omega), if_neg (by omega), if_neg (by omega), if_neg (by omega), if_neg (by omega), if_neg (by omega), if_neg (by omega), if_neg (by omega), if_neg (by omega), if_pos rfl]
    · show iC n q2 q3 q4 q5 q4 = 14
      unfold iC
      rw [if_neg (by omega), if_neg (by omega), if_neg (by omega), if_neg (by omega), if_neg (by omega), if_neg (by omega), if_neg (by omega), if_neg (by omega), if_neg (by omega), if_neg (by omega), if_neg (by omega), if_neg (by omega), if_pos rfl]
    · show iC n q2 q3 q4 q5 q5 = 15
      unfold iC
      rw [if_neg (by omega), if_neg (by omega), if_neg (by omega), if_neg (by omega), if_neg (by omega), if_neg (by omega), if_neg (by omega), if_neg (by omega), if_neg (by omega), if_neg (by omega), if_neg (by omega), if_neg (by omega), if_neg (by omega), if_pos rfl]
  · have e : oC n q2 q3 q4 q5 (50 + i) = 14 + 2 * n + 2 * i := by
      unfold oC
      rw [if_neg (by omega), if_neg (by omega), if_neg (by omega), if_neg (by omega), if_neg (by omega), if_pos (by omega)]
      omega
    rw [e]
    unfold iC
    rw [if_neg (by omega), if_neg (by omega), if_neg (by omega), if_neg (by omega), if_neg (by omega), if_neg (by omega), if_neg (by omega), if_neg (by omega), if_neg (by omega), if_neg (by omega), if_neg (by omega), if_neg (by omega), if_neg (by omega), if_neg (by omega), if_pos (by omega)]
    omega
  · have e : oC n q2 q3 q4 q5 (60 + i) = 15 + 2 * n + 2 * i := by
      unfold oC
      rw [if_neg (by omega), if_neg (by omega), if_neg (by omega), if_neg (by omega), if_pos (by omega)]
      omega
    rw [e]
    unfold iC
    rw [if_neg (by omega), if_neg (by omega), if_neg (by omega), if_neg (by omega), if_neg (by omega), if_neg (by omega), if_neg (by omega), if_neg (by omega), if_neg (by omega), if_neg (by omega), if_neg (by omega), if_neg (by omega), if_neg (by omega), if_neg (by omega), if_neg (by omega)]
    omega
section CP
variable {E : PE} {B : Nat × Nat} {G : Nat → Nat} {ad : Nat → Nat → Nat} {I : PM} {S : SS} {h : PH}
/-- all cells of the picture are known -/
theorem KN_in (hr : RP E B G ad I S h) {b : Nat} {e : va_E} (hb : I b = some e) : KN (s_n S) G I h b = some e := by
  unfold KN
  rw [if_pos (show I b ≠ none ∨ ∃ k : Nat, mR (s_n S) k ∧ G k = b from Or.inl (by rw [hb]; simp))]
  exact (hr.2.1 b e hb).1
theorem KN_KH (hr : RP E B G ad I S h) : KH (KN (s_n S) G I h) h := by
  intro b e hb
  unfold KN at hb
  by_cases hc : I b ≠ none ∨ ∃ k : Nat, mR (s_n S) k ∧ G k = b
  · rw [if_pos hc] at hb
    refine ⟨hb, ?_⟩
    rcases hc with hc | ⟨k, k1, k2⟩
    · cases hI : I b with
      | none => exact absurd hI hc
      | some x => exact (hr.2.1 b x hI).2
    · rw [← k2]
      exact (hr.2.2.1 k k1).2.2
  · rw [if_neg hc] at hb
    cases hb
theorem bh_at0 {cs : List va_E} {k : Nat} {e : va_E} (hi : cs[0]? = some e) : (bh h cs k).1 (pn h) = some e := bh_at (i := 0) hi
theorem p_new1 {e : va_E} {j : Nat} : p_new h e j = bh h [e] j := by
  have := bh_new (h := h) (cs := []) (k := 0) (e := e) (j := j)
  rw [bh_nil] at this
  rw [this, Nat.zero_add]
  rfl
/-- what a list's row holds -/
theorem RP.rowOK (hr : RP E B G ad I S h) {li : Nat} (h1 : 2 ≤ li) (h2 : li < 6) {f : Nat → Option Nat} (hf : ∀ j : Nat, j < (lsC E S li).length → f j = some (ad li j)) : ∀ j : Nat, j < (lsC E S li).length → elH h (f j) := by
  intro j hj
  have hx : (lsC E S li)[j]? = some ((lsC E S li)[j]'hj) := List.getElem?_eq_getElem _
  have hi9 := hr.2.2.2.2.2.1.2.2.2.2.2.1 li j _ h1 h2 hx
  obtain ⟨ci, fs, q1, q2⟩ := lsC_cls (List.mem_of_getElem? hx)
  have h3 := hr.2.1 _ _ hi9.1
  rw [q1] at h3
  exact Or.inr ⟨_, ci, fs, hf j hj, h3.2, h3.1, q2⟩
theorem cpy_in {f : Nat → Int32} {g : Nat → Int32} {n r : Nat} (hr : r < n) : va_cpy f g 0 0 n r = f r := by
  show (if 0 ≤ r ∧ r < 0 + n then f (0 + (r - 0)) else g r) = f r
  rw [if_pos (by omega)]
  congr 1
  omega
theorem m_copy (hr : RP E B G ad I S h) (hz : ∀ i : Nat, i < s_n S → ∀ j : Nat, j = 2 ∨ j = 3 ∨ j = 4 → s_nd S i j = 0 ∨ s_nd S i j = 1) (hB1 : s_gh S 0 + cpCl S + 100 ≤ B.1) (hB2 : s_gh S 1 + cpSl S + 2000 ≤ B.2) (hB3 : B.2 < 2 ^ 25) :
    ∃ (o : Nat → Nat) (h' : PH), f_X2_copy (some (G 0)) h = some (some (gB (pn h) o G 0), h') ∧ RP E B (gB (pn h) o G) ad (KN (s_n S) G I h) (copyS S) h' := by
  have hr0 := hr
  obtain ⟨r1, r2, r3, r4, r5, r6, r7, r8, r9⟩ := hr
  have hn := r7.2
  have hbE : pbase h = E.2.2.1 := by rw [← r1]
  have m0 : mR (s_n S) 0 := Or.inl (by decide)
  have hb : pbase h ≤ pn h := by rw [hbE]; exact Nat.le_of_lt (Nat.lt_of_le_of_lt (r3 0 m0).2.1 (r3 0 m0).2.2)
  have hcl : pcl h = B.1 - s_gh S 0 := by omega
  have hsl : psl h = B.2 - s_gh S 1 := by omega
  -- the old one's cells
  have o0 : h.1 (G 0) = some (cSim G (s_sc S)) := by obtain ⟨e, a1, a2⟩ := r5 0 m0; rw [a1]; exact congrArg some a2
  have o0l : G 0 < pn h := (r3 0 m0).2.2
  obtain ⟨e1, o1, x1⟩ := r5 1 (Or.inl (by decide))
  obtain ⟨fr, x1, hfr⟩ : ∃ f : Nat → Option Nat, e1 = .inl (E.2.1 5, s_n S, refs f) ∧ ∀ i : Nat, i < s_n S → f i = some (G (50 + i)) := x1
  have hE5 : E.2.1 = h.2.1.2.1 := by rw [r1]
  rw [x1, hE5] at o1
  have mk : ∀ k : Nat, k < 10 → G k < pn h ∧ pbase h ≤ G k := fun k hk => ⟨(r3 k (Or.inl hk)).2.2, by rw [hbE]; exact (r3 k (Or.inl hk)).2.1⟩
  have hnodes : ∀ i : Nat, i < s_n S → h.1 (G (50 + i)) = some (nodeC (G (70 + i)) (s_nd S i) (G (60 + i))) ∧ G (50 + i) < pn h := by
    intro i hi
    have hm : mR (s_n S) (50 + i) := Or.inr (Or.inr (Or.inl (by omega)))
    obtain ⟨e, a1, a2⟩ := r5 (50 + i) hm
    unfold CR at a2
    rw [if_neg (by omega), if_neg (by omega), if_pos (by omega)] at a2
    unfold cN at a2
    rw [if_pos (by omega), show 50 + i - 50 = i from by omega] at a2
    exact ⟨by rw [a1, a2]; rfl, (r3 _ hm).2.2⟩
  have hcach : ∀ i : Nat, i < s_n S → ∃ f : Nat → Int32, (h.1 (G (60 + i)) = some (.inl (h.2.1.2.1 0, 8, .inl f)) ∧ G (60 + i) < pn h ∧ pbase h ≤ G (60 + i)) ∧ ∀ r : Nat, r < 8 → f r = s_nd S i (30 + r) := by
    intro i hi
    have hm : mR (s_n S) (60 + i) := Or.inr (Or.inr (Or.inr (by omega)))
    obtain ⟨e, a1, a2⟩ := r5 (60 + i) hm
    unfold CR at a2
    rw [if_neg (by omega), if_neg (by omega), if_pos (by omega)] at a2
    unfold cN at a2
    rw [if_neg (by omega), show 60 + i - 60 = i from by omega] at a2
    obtain ⟨f, b1, b2⟩ := a2
    exact ⟨f, ⟨by rw [a1, b1, hE5], (r3 _ hm).2.2, by rw [hbE]; exact (r3 _ hm).2.1⟩, b2⟩
  obtain ⟨fc, hfc⟩ : ∃ fc : Nat → Nat → Int32, ∀ i : Nat, i < s_n S → (h.1 (G (60 + i)) = some (.inl (h.2.1.2.1 0, 8, .inl (fc i))) ∧ G (60 + i) < pn h ∧ pbase h ≤ G (60 + i)) ∧ ∀ r : Nat, r < 8 → fc i r = s_nd S i (30 + r) :=
    ⟨fun i r => if hi : i < s_n S then Classical.choose (hcach i hi) r else 0, fun i hi => by
      have := Classical.choose_spec (hcach i hi)
      simp only [dif_pos hi]
      exact this⟩
  obtain ⟨⟨d2, p2⟩, -, t2, f2, u2, v2, w2, y2, z2, -⟩ := hr0.lst (li := 2) (by decide) (by decide)
  obtain ⟨⟨d3, p3⟩, -, t3, f3, u3, v3, w3, y3, z3, -⟩ := hr0.lst (li := 3) (by decide) (by decide)
  obtain ⟨⟨d4, p4⟩, -, t4, f4, u4, v4, w4, y4, z4, -⟩ := hr0.lst (li := 4) (by decide) (by decide)
  obtain ⟨⟨d5, p5⟩, -, t5, f5, u5, v5, w5, y5, z5, -⟩ := hr0.lst (li := 5) (by decide) (by decide)
  have k2 := hr0.rowOK (li := 2) (by decide) (by decide) v2
  have k3 := hr0.rowOK (li := 3) (by decide) (by decide) v3
  have k4 := hr0.rowOK (li := 4) (by decide) (by decide) v4
  have k5 := hr0.rowOK (li := 5) (by decide) (by decide) v5
  have n2 : (lsC E S 2).length = (s_ms S).length := by show ((s_ms S).map _).length = _; simp
  have n3 : (lsC E S 3).length = (s_dl S).length := by show ((s_dl S).map _).length = _; simp
  have n4 : (lsC E S 4).length = (s_ou S).length := by show ((s_ou S).map _).length = _; simp
  have n5 : (lsC E S 5).length = (s_lg S).length := by show ((s_lg S).map _).length = _; simp
  have mr : ∀ k : Nat, 12 ≤ k → k < 16 → G k < pn h := fun k a b => (r3 k (Or.inr (Or.inl ⟨a, b⟩))).2.2
  have aS : ∀ c l : Nat, l ≤ aaS c l := fun c l => by unfold aaS; split <;> omega
  have aC : ∀ c l : Nat, aaC c l ≤ 2 ∧ 1 ≤ aaC c l := fun c l => by unfold aaC; split <;> omega
  have b2 := aS 4 (s_ms S).length
  have b3 := aS 2 (s_dl S).length
  have b4 := aS 2 (s_ou S).length
  have b5 := aS 4 (s_lg S).length
  have e2 := aC 4 (s_ms S).length
  have e3 := aC 2 (s_dl S).length
  have e4 := aC 2 (s_ou S).length
  have e5 := aC 4 (s_lg S).length
  unfold cpCl at hB1
  unfold cpSl at hB2
  have osto : h.1 (G 6) = some (cSto G (s_sc S 30)) := by obtain ⟨e, a1, a2⟩ := r5 6 (Or.inl (by decide)); rw [a1]; exact congrArg some a2
  have oarr : ∀ k : Nat, k = 7 ∨ k = 8 ∨ k = 9 → ∃ f : Nat → Int32, h.1 (G k) = some (.inl (h.2.1.2.1 0, arL k, .inl f)) ∧ ∀ r : Nat, r < arL k → f r = s_ar S (arX k) r := by
    intro k hk
    obtain ⟨e, a1, a2⟩ := r5 k (Or.inl (by omega))
    unfold CR at a2
    rw [if_neg (by omega), if_neg (by omega), if_neg (by omega), if_pos hk] at a2
    obtain ⟨f, c1, c2⟩ := a2
    exact ⟨f, by rw [a1, c1, hE5], c2⟩
  obtain ⟨f7, q7, s7⟩ := oarr 7 (by decide)
  obtain ⟨f8, q8, s8⟩ := oarr 8 (by decide)
  obtain ⟨f9, q9, s9⟩ := oarr 9 (by decide)
  -- the run: the constructor
  have hCF : CFG E G (KN (s_n S) G I h) (s_n S) (s_cf S) (fun i => s_nd S i 1) (fun i => s_nd S i 20) (fun i => s_nd S i 21) := by
    obtain ⟨i1, i2, i3, ⟨g1, g2, g3, g4, g5, g6, g7, g8, g9⟩, ⟨j1, j2, j3, j4, j5, j6, j7, j8, j9⟩, -, -, i8⟩ := r6
    exact ⟨fun i hi => ⟨KN_in hr0 (i1 i hi).1, (i1 i hi).2⟩, ⟨KN_in hr0 i2.1, i2.2⟩, ⟨KN_in hr0 i3.1, i3.2⟩, ⟨g1, g2, g3, KN_in hr0 g4, g5, KN_in hr0 g6, g7, g8, g9⟩, ⟨j1, j2, j3, KN_in hr0 j4, j5, KN_in hr0 j6, j7, j8, fun i hi => by obtain ⟨q, a1, a2⟩ := j9 i hi; exact ⟨q, a1, KN_in hr0 a2⟩⟩, fun i hi => ⟨(i8 i hi).1, KN_in hr0 (i8 i hi).2⟩⟩
  have run1 : f_X2_copy (some (G 0)) h = f_X2_copy_L14 FU (some (G 0)) (some (pn h)) (0 : Int32) (bh h (blkN h (G 40) (s_n S) (s_cf S 8) (nrow h (s_n S)) ++ ndc h (fun i => G (70 + i)) (fun i => s_nd S i 1) (s_n S)) (74 + s_n S + 21 * s_n S)) := by
    unfold f_X2_copy
    rw [nO_at (by omega) (by omega), p_new1, gR_at (h := bh h _ _) (by rw [bh_lo o0l]; exact o0) (v := G 40) rfl, cl_eq (b_sim r1 hb (by omega) (by omega) hn (KN_KH hr0) hCF)]
  rw [run1]
  have hz0 : nrow h (s_n S) = crow h (s_n S) 0 := by
    funext j
    show _ = if j < 0 then _ else nrow h (s_n S) j
    rw [if_neg (Nat.not_lt_zero j)]
  have hN := b_cnodes (h := h) (n := s_n S) (ck := fun i => G (70 + i)) (nd := s_nd S) (fc := fc) (cfg := G 40) (k := 74 + s_n S + 21 * s_n S) (seed := s_cf S 8) (nda := fun i => G (50 + i)) (caa := fun i => G (60 + i)) (dl := fun i => s_nd S i 1) hb (by omega) (by omega) hn (show h.1 (G 0) = some (.inr (1, Value.ref (G 40) :: Value.ref (G 1) :: _)) from o0) o0l o1 (mk 1 (by decide)).1 (mk 1 (by decide)).2 hfr hnodes (fun i hi => (hfc i hi).1) hz (s_n S) 0 FU (by omega) (by unfold FU; omega)
  rw [show cpc h (s_n S) (fun i => G (70 + i)) (s_nd S) fc 0 = [] from rfl, List.append_nil, ← hz0, show 74 + s_n S + 21 * s_n S + 21 * 0 = 74 + s_n S + 21 * s_n S from rfl] at hN
  rw [show (0 : Int32) = Int32.ofNat 0 from rfl, hN]
  -- the lists
  obtain ⟨cs, hcs⟩ : ∃ cs : List va_E, cs = blkN h (G 40) (s_n S) (s_cf S 8) (crow h (s_n S) (s_n S)) ++ ndc h (fun i => G (70 + i)) (fun i => s_nd S i 1) (s_n S) ++ cpc h (s_n S) (fun i => G (70 + i)) (s_nd S) fc (s_n S) := ⟨_, rfl⟩
  have len : cs.length = 14 + 4 * s_n S := by
    rw [hcs, List.length_append, List.length_append, ndc_len, cpc_len]
    show 14 + 2 * s_n S + 2 * s_n S = _
    omega
  have i0 : cs[0]? = some (.inr (1, [.ref (G 40), .ref (pn h + 13), .ref (pn h + 1), .ref (pn h + 3), .ref (pn h + 5), .ref (pn h + 7), .ref (pn h + 9), .ref (pn h + 12), .int 0, .int (s_cf S 8), .int 0, .int 0, .int (-4), .int 0, .int 0, .int 0, .int 0, .int 0, .int 0, .int 0, .int 0, .int (-4)])) := by rw [hcs]; rfl
  have i1 : cs[1]? = some (cLst 0 (pn h + (1 + 1)) 0) := by rw [hcs]; rfl
  have i2 : cs[1 + 1]? = some (.inl (h.2.1.2.1 4, 4, refs fun _ => none)) := by rw [hcs]; rfl
  have i3 : cs[3]? = some (cLst 0 (pn h + (3 + 1)) 0) := by rw [hcs]; rfl
  have i4 : cs[3 + 1]? = some (.inl (h.2.1.2.1 4, 2, refs fun _ => none)) := by rw [hcs]; rfl
  have i5 : cs[5]? = some (cLst 0 (pn h + (5 + 1)) 0) := by rw [hcs]; rfl
  have i6 : cs[5 + 1]? = some (.inl (h.2.1.2.1 4, 2, refs fun _ => none)) := by rw [hcs]; rfl
  have i7 : cs[7]? = some (cLst 0 (pn h + (7 + 1)) 0) := by rw [hcs]; rfl
  have i8 : cs[7 + 1]? = some (.inl (h.2.1.2.1 4, 4, refs fun _ => none)) := by rw [hcs]; rfl
  have i9 : cs[9]? = some (.inr (4, [.ref (pn h + 10), .ref (pn h + 11), .int 0])) := by rw [hcs]; rfl
  have i10 : cs[10]? = some (arr8 h) := by rw [hcs]; rfl
  have i11 : cs[11]? = some (arr8 h) := by rw [hcs]; rfl
  have i12 : cs[12]? = some (.inl (h.2.1.2.1 0, 9, .inl fun _ => 0)) := by rw [hcs]; rfl
  have i13 : cs[13]? = some (.inl (h.2.1.2.1 5, s_n S, refs (crow h (s_n S) (s_n S)))) := by rw [hcs]; rfl
  have ind : ∀ i : Nat, i < s_n S → cs[14 + 2 * s_n S + 2 * i]? = some (nodeC (G (70 + i)) (s_nd S i) (pn h + 15 + 2 * s_n S + 2 * i)) ∧ cs[15 + 2 * s_n S + 2 * i]? = some (cach h (fc i)) := by
    intro i hi
    have l0 : (blkN h (G 40) (s_n S) (s_cf S 8) (crow h (s_n S) (s_n S)) ++ ndc h (fun i => G (70 + i)) (fun i => s_nd S i 1) (s_n S)).length = 14 + 2 * s_n S := by
      rw [List.length_append, ndc_len]
      rfl
    have c1 := cpc_get (h := h) (n := s_n S) (ck := fun i => G (70 + i)) (nd := s_nd S) (fc := fc) (s_n S) i hi
    rw [hcs, List.getElem?_append_right (by omega), List.getElem?_append_right (by omega), l0, show 14 + 2 * s_n S + 2 * i - (14 + 2 * s_n S) = 2 * i from by omega, show 15 + 2 * s_n S + 2 * i - (14 + 2 * s_n S) = 2 * i + 1 from by omega]
    exact c1
  rw [← hcs]
  clear hN run1 hcs
  rw [show 74 + s_n S + 21 * s_n S + 21 * s_n S = 74 + 43 * s_n S from by omega]
  unfold f_X2_copy_L14
  have so : ∀ (l : List va_E) (kk : Nat), (bh h l kk).1 (G 0) = some (cSim G (s_sc S)) := fun l kk => by rw [bh_lo o0l]; exact o0
  rw [gR_at (so _ _) (v := G 1) rfl, aN_at (h := bh h _ _) (t := 5) (by rw [bh_lo (mk 1 (by decide)).1]; exact o1), if_pos (Int32.le_refl _)]
  rw [gR_at (h := bh h _ _) (bh_at0 i0) (v := pn h + 1) rfl, gR_at (so _ _) (v := G 2) rfl, rv_at (h := bh h _ _) (bh_at i1)]
  obtain ⟨x2, cs2, a2, g2, A1, A2, A3, A4, A5, A6, A7, A8⟩ := b_addAll (cs := cs) (k := 74 + 43 * s_n S) (p := 1) (c0 := 4) hb p2 (mk 2 (by decide)).1 u2 (mr 12 (by decide) (by decide)) t2 y2 z2 (by rw [n2]; omega) k2 i1 i2 (by decide) (by decide) (by rw [len]; omega) (by rw [n2]; omega)
  rw [cl_eq A1]
  rw [gR_at (h := bh h _ _) (bh_at0 ((A8 0 (by decide) (by decide) (by omega)).trans i0)) (v := pn h + 3) rfl, gR_at (so _ _) (v := G 3) rfl]
  have j3 := (A8 3 (by decide) (by decide) (by omega)).trans i3
  have j4 := (A8 (3 + 1) (by decide) (by decide) (by omega)).trans i4
  rw [rv_at (h := bh h _ _) (bh_at j3)]
  obtain ⟨x3, cs3, a3, g3, B1, B2, B3, B4, B5, B6, B7, B8⟩ := b_addAll (cs := cs2) (k := 74 + 43 * s_n S + aaS 4 (lsC E S 2).length) (p := 3) (c0 := 2) hb p3 (mk 3 (by decide)).1 u3 (mr 13 (by decide) (by decide)) t3 y3 z3 (by rw [n3]; omega) k3 j3 j4 (by decide) (by decide) (by rw [A2, len, n2]; omega) (by rw [n2, n3]; omega)
  rw [cl_eq B1]
  rw [gR_at (h := bh h _ _) (bh_at0 ((B8 0 (by decide) (by decide) (by omega)).trans ((A8 0 (by decide) (by decide) (by omega)).trans i0))) (v := pn h + 5) rfl, gR_at (so _ _) (v := G 4) rfl]
  have j5 := (B8 5 (by decide) (by decide) (by omega)).trans ((A8 5 (by decide) (by decide) (by omega)).trans i5)
  have j6 := (B8 (5 + 1) (by decide) (by decide) (by omega)).trans ((A8 (5 + 1) (by decide) (by decide) (by omega)).trans i6)
  rw [rv_at (h := bh h _ _) (bh_at j5)]
  obtain ⟨x4, cs4, a4, g4, C1, C2, C3, C4, C5, C6, C7, C8⟩ := b_addAll (cs := cs3) (k := 74 + 43 * s_n S + aaS 4 (lsC E S 2).length + aaS 2 (lsC E S 3).length) (p := 5) (c0 := 2) hb p4 (mk 4 (by decide)).1 u4 (mr 14 (by decide) (by decide)) t4 y4 z4 (by rw [n4]; omega) k4 j5 j6 (by decide) (by decide) (by rw [B2, A2, len, n2, n3]; omega) (by rw [n2, n3, n4]; omega)
  rw [cl_eq C1]
  rw [gR_at (h := bh h _ _) (bh_at0 ((C8 0 (by decide) (by decide) (by omega)).trans ((B8 0 (by decide) (by decide) (by omega)).trans ((A8 0 (by decide) (by decide) (by omega)).trans i0)))) (v := pn h + 7) rfl, gR_at (so _ _) (v := G 5) rfl]
  have j7 := (C8 7 (by decide) (by decide) (by omega)).trans ((B8 7 (by decide) (by decide) (by omega)).trans ((A8 7 (by decide) (by decide) (by omega)).trans i7))
  have j8 := (C8 (7 + 1) (by decide) (by decide) (by omega)).trans ((B8 (7 + 1) (by decide) (by decide) (by omega)).trans ((A8 (7 + 1) (by decide) (by decide) (by omega)).trans i8))
  rw [rv_at (h := bh h _ _) (bh_at j7)]
  obtain ⟨x5, cs5, a5, g5, D1, D2, D3, D4, D5, D6, D7, D8⟩ := b_addAll (cs := cs4) (k := 74 + 43 * s_n S + aaS 4 (lsC E S 2).length + aaS 2 (lsC E S 3).length + aaS 2 (lsC E S 4).length) (p := 7) (c0 := 4) hb p5 (mk 5 (by decide)).1 u5 (mr 15 (by decide) (by decide)) t5 y5 z5 (by rw [n5]; omega) k5 j7 j8 (by decide) (by decide) (by rw [C2, B2, A2, len, n2, n3, n4]; omega) (by rw [n2, n3, n4, n5]; omega)
  rw [cl_eq D1]
  rw [n2] at A2 A3 A4 A5 A6
  rw [n3] at B2 B3 B4 B5 B6
  rw [n4] at C2 C3 C4 C5 C6
  rw [n5] at D2 D3 D4 D5 D6
  rw [n2, n3, n4, n5]
  -- what rests
  have all : ∀ j : Nat, j < cs.length → j = 0 ∨ 9 ≤ j → cs5[j]? = cs[j]? := fun j hj h9 => (D8 j (by omega) (by omega) (by omega)).trans ((C8 j (by omega) (by omega) (by omega)).trans ((B8 j (by omega) (by omega) (by omega)).trans (A8 j (by omega) (by omega) hj)))
  have l5 : cs5.length = cs.length + (aaC 4 (s_ms S).length + aaC 2 (s_dl S).length + aaC 2 (s_ou S).length + aaC 4 (s_lg S).length) := by omega
  have m9 := (all 9 (by omega) (by omega)).trans i9
  have m10 := (all 10 (by omega) (by omega)).trans i10
  have m11 := (all 11 (by omega) (by omega)).trans i11
  have m12 := (all 12 (by omega) (by omega)).trans i12
  have m13 := (all 13 (by omega) (by omega)).trans i13
  have m00 := (all 0 (by omega) (by omega)).trans i0
  obtain ⟨K, hK⟩ : ∃ K : Nat, K = 74 + 43 * s_n S + aaS 4 (s_ms S).length + aaS 2 (s_dl S).length + aaS 2 (s_ou S).length + aaS 4 (s_lg S).length := ⟨_, rfl⟩
  rw [← hK]
  rw [gR_at (h := bh h _ _) (bh_at0 m00) (v := pn h + 9) rfl, gR_at (so _ _) (v := G 6) rfl, rv_at (h := bh h _ _) (bh_at m9)]
  -- the storage
  have sto : f_X5_copyFrom (some (pn h + 9)) (some (G 6)) (bh h cs5 K) = some ((), bh h (((cs5.set 10 (.inl (h.2.1.2.1 0, 8, .inl (va_cpy f8 (fun _ => 0) 0 0 8)))).set 11 (.inl (h.2.1.2.1 0, 8, .inl (va_cpy f9 (fun _ => 0) 0 0 8)))).set 9 (.inr (4, [.ref (pn h + 10), .ref (pn h + 11), .int (s_sc S 30)]))) K) := by
    have ss : ∀ (l : List va_E) (kk : Nat), (bh h l kk).1 (G 6) = some (cSto G (s_sc S 30)) := fun l kk => by rw [bh_lo (mk 6 (by decide)).1]; exact osto
    unfold f_X5_copyFrom
    rw [gR_at (ss _ _) (v := G 8) rfl, gR_at (h := bh h _ _) (bh_at m9) (v := pn h + 10) rfl]
    refine (ycI_at0 (n := 8) (h := bh h cs5 K) (a := G 8) (b := pn h + 10) (n0 := 8) (n1 := 8) (f := f8) (g := fun _ => 0) (by rw [bh_lo (mk 8 (by decide)).1]; exact q8) (bh_at m10) (mk 8 (by decide)).2 (by rw [bh_base]; omega) (by decide) (by decide) (by decide)).trans ?_
    rw [bh_set (by omega)]
    have w9 : ∀ y : va_E, (cs5.set 10 y)[9]? = some (.inr (4, [.ref (pn h + 10), .ref (pn h + 11), .int 0])) := fun y => by rw [List.getElem?_set_ne (by decide)]; exact m9
    have w11 : ∀ y : va_E, (cs5.set 10 y)[11]? = some (arr8 h) := fun y => by rw [List.getElem?_set_ne (by decide)]; exact m11
    rw [gR_at (ss _ _) (v := G 9) rfl, gR_at (h := bh h _ _) (bh_at (w9 _)) (v := pn h + 11) rfl]
    refine (ycI_at0 (n := 8) (h := bh h _ _) (a := G 9) (b := pn h + 11) (n0 := 8) (n1 := 8) (f := f9) (g := fun _ => 0) (by rw [bh_lo (mk 9 (by decide)).1]; exact q9) (bh_at (w11 _)) (mk 9 (by decide)).2 (by rw [bh_base]; omega) (by decide) (by decide) (by decide)).trans ?_
    rw [bh_set (by simp; omega)]
    have w9' : ∀ y z : va_E, ((cs5.set 10 y).set 11 z)[9]? = some (.inr (4, [.ref (pn h + 10), .ref (pn h + 11), .int 0])) := fun y z => by rw [List.getElem?_set_ne (by decide)]; exact w9 y
    rw [gI_at (ss _ _) (v := s_sc S 30) rfl, b_pV hb (w9' _ _) (Nat.le_of_ble_eq_true rfl)]
    rfl
  rw [cl_eq sto]
  obtain ⟨cs6, hcs6⟩ : ∃ cs6 : List va_E, cs6 = ((cs5.set 10 (.inl (h.2.1.2.1 0, 8, .inl (va_cpy f8 (fun _ => 0) 0 0 8)))).set 11 (.inl (h.2.1.2.1 0, 8, .inl (va_cpy f9 (fun _ => 0) 0 0 8)))).set 9 (.inr (4, [.ref (pn h + 10), .ref (pn h + 11), .int (s_sc S 30)])) := ⟨_, rfl⟩
  have o6 : ∀ j : Nat, j ≠ 9 → j ≠ 10 → j ≠ 11 → cs6[j]? = cs5[j]? := fun j c1 c2 c3 => by rw [hcs6, List.getElem?_set_ne (Ne.symm c1), List.getElem?_set_ne (Ne.symm c3), List.getElem?_set_ne (Ne.symm c2)]
  have l6 : cs6.length = cs5.length := by rw [hcs6]; simp
  have y9 : cs6[9]? = some (.inr (4, [.ref (pn h + 10), .ref (pn h + 11), .int (s_sc S 30)])) := by rw [hcs6, List.getElem?_set_self (by simp; omega)]
  have y10 : cs6[10]? = some (.inl (h.2.1.2.1 0, 8, .inl (va_cpy f8 (fun _ => 0) 0 0 8))) := by rw [hcs6, List.getElem?_set_ne (by decide), List.getElem?_set_ne (by decide), List.getElem?_set_self (by omega)]
  have y11 : cs6[11]? = some (.inl (h.2.1.2.1 0, 8, .inl (va_cpy f9 (fun _ => 0) 0 0 8))) := by rw [hcs6, List.getElem?_set_ne (by decide), List.getElem?_set_self (by simp; omega)]
  rw [← hcs6]
  clear sto hcs6
  have w0 := (o6 0 (by decide) (by decide) (by decide)).trans m00
  have w12 := (o6 12 (by decide) (by decide) (by decide)).trans m12
  rw [gR_at (so _ _) (v := G 7) rfl, gR_at (h := bh h _ _) (bh_at0 w0) (v := pn h + 12) rfl]
  have ev : ∀ {β : Type} (KK : PH → Option β), ycI (bh h cs6 K) (some (G 7)) (0 : Int32) (some (pn h + 12)) (0 : Int32) (9 : Int32) 0 (fun _ => true) KK = KK (bh h (cs6.set 12 (.inl (h.2.1.2.1 0, 9, .inl (va_cpy f7 (fun _ => 0) 0 0 9)))) K) := fun KK => by
    refine (ycI_at0 (n := 9) (h := bh h cs6 K) (a := G 7) (b := pn h + 12) (n0 := 9) (n1 := 9) (f := f7) (g := fun _ => 0) (by rw [bh_lo (mk 7 (by decide)).1]; exact q7) (bh_at w12) (mk 7 (by decide)).2 (by rw [bh_base]; omega) (by decide) (by decide) (by decide)).trans ?_
    rw [bh_set (by omega)]
    rfl
  rw [ev]
  obtain ⟨cs7, hcs7⟩ : ∃ cs7 : List va_E, cs7 = cs6.set 12 (.inl (h.2.1.2.1 0, 9, .inl (va_cpy f7 (fun _ => 0) 0 0 9))) := ⟨_, rfl⟩
  have o7 : ∀ j : Nat, j ≠ 12 → cs7[j]? = cs6[j]? := fun j c1 => by rw [hcs7, List.getElem?_set_ne (Ne.symm c1)]
  have l7 : cs7.length = cs6.length := by rw [hcs7]; simp
  have y12 : cs7[12]? = some (.inl (h.2.1.2.1 0, 9, .inl (va_cpy f7 (fun _ => 0) 0 0 9))) := by rw [hcs7, List.getElem?_set_self (by omega)]
  rw [← hcs7]
  clear ev hcs7
  have w0' := (o7 0 (by decide)).trans w0
  have s0 : ∀ X : va_E, (cs7.set 0 X)[0]? = some X := fun X => List.getElem?_set_self (by omega)
  rw [gI_at (so _ _) (v := s_sc S 8) rfl, b_pV0 hb w0' (Nat.le_of_ble_eq_true rfl)]
  rw [gI_at (so _ _) (v := s_sc S 9) rfl, b_pV0 hb (s0 _) (Nat.le_of_ble_eq_true rfl), List.set_set]
  rw [gI_at (so _ _) (v := s_sc S 10) rfl, b_pV0 hb (s0 _) (Nat.le_of_ble_eq_true rfl), List.set_set]
  rw [gI_at (so _ _) (v := s_sc S 11) rfl, b_pV0 hb (s0 _) (Nat.le_of_ble_eq_true rfl), List.set_set]
  rw [gI_at (so _ _) (v := s_sc S 12) rfl, b_pV0 hb (s0 _) (Nat.le_of_ble_eq_true rfl), List.set_set]
  rw [gI_at (so _ _) (v := s_sc S 13) rfl, b_pV0 hb (s0 _) (Nat.le_of_ble_eq_true rfl), List.set_set]
  rw [gI_at (so _ _) (v := s_sc S 14) rfl, b_pV0 hb (s0 _) (Nat.le_of_ble_eq_true rfl), List.set_set]
  rw [gI_at (so _ _) (v := s_sc S 15) rfl, b_pV0 hb (s0 _) (Nat.le_of_ble_eq_true rfl), List.set_set]
  rw [gI_at (so _ _) (v := s_sc S 16) rfl, b_pV0 hb (s0 _) (Nat.le_of_ble_eq_true rfl), List.set_set]
  rw [gI_at (so _ _) (v := s_sc S 17) rfl, b_pV0 hb (s0 _) (Nat.le_of_ble_eq_true rfl), List.set_set]
  rw [gI_at (so _ _) (v := s_sc S 18) rfl, b_pV0 hb (s0 _) (Nat.le_of_ble_eq_true rfl), List.set_set]
  rw [gI_at (so _ _) (v := s_sc S 19) rfl, b_pV0 hb (s0 _) (Nat.le_of_ble_eq_true rfl), List.set_set]
  obtain ⟨X, hX⟩ : ∃ X : va_E, X = .inr (1, [.ref (G 40), .ref (pn h + 13), .ref (pn h + 1), .ref (pn h + 3), .ref (pn h + 5), .ref (pn h + 7), .ref (pn h + 9), .ref (pn h + 12), .int (s_sc S 8), .int (s_sc S 9), .int (s_sc S 10), .int (s_sc S 11), .int (s_sc S 12), .int (s_sc S 13), .int (s_sc S 14), .int (s_sc S 15), .int (s_sc S 16), .int (s_sc S 17), .int (s_sc S 18), .int (s_sc S 19), .int 0, .int (-4)]) := ⟨_, rfl⟩
  refine ⟨oC (s_n S) a2 a3 a4 a5, bh h (cs7.set 0 X) K, by rw [hX]; rfl, ?_⟩
  have lX : (cs7.set 0 X).length = cs.length + (aaC 4 (s_ms S).length + aaC 2 (s_dl S).length + aaC 2 (s_ou S).length + aaC 4 (s_lg S).length) := by rw [List.length_set]; omega
  have fin : ∀ j : Nat, j ≠ 0 → (j < 9 ∨ 13 ≤ j) → (cs7.set 0 X)[j]? = cs5[j]? := fun j c1 c2 => by rw [List.getElem?_set_ne (Ne.symm c1), o7 j (by omega), o6 j (by omega) (by omega) (by omega)]
  have q2' : a2 < cs2.length := get_lt A4
  have q3' : a3 < cs3.length := get_lt B4
  have q4' : a4 < cs4.length := get_lt C4
  have q5' : a5 < cs5.length := get_lt D4
  have inj : ∀ k : Nat, mR (s_n S) k → iC (s_n S) a2 a3 a4 a5 (oC (s_n S) a2 a3 a4 a5 k) = k := fun k hk => iC_of (L2 := cs2.length) (L3 := cs3.length) (L4 := cs4.length) hn (by omega) (by omega) (by omega) (by omega) (by omega) (by omega) (by omega) hk
  have gk : ∀ k : Nat, k < 16 ∨ (50 ≤ k ∧ k < 70) → gB (pn h) (oC (s_n S) a2 a3 a4 a5) G k = pn h + oC (s_n S) a2 a3 a4 a5 k := fun k hk => gB_in hk
  have go : ∀ k : Nat, ¬ (k < 16 ∨ (50 ≤ k ∧ k < 70)) → gB (pn h) (oC (s_n S) a2 a3 a4 a5) G k = G k := fun k hk => gB_out hk
  have f1 : ∀ j : Nat, j < cs.length → j ≠ 1 → j ≠ 2 → cs2[j]? = cs[j]? := fun j c1 c2 c3 => A8 j c2 c3 c1
  -- places in the last block
  have z1 : (cs7.set 0 X)[1]? = some (cLst 1 (pn h + a2) (s_ms S).length) := by rw [fin 1 (by decide) (by omega), D8 1 (by decide) (by decide) (by omega), C8 1 (by decide) (by decide) (by omega), B8 1 (by decide) (by decide) (by omega)]; exact A3
  have z3 : (cs7.set 0 X)[3]? = some (cLst 1 (pn h + a3) (s_dl S).length) := by rw [fin 3 (by decide) (by omega), D8 3 (by decide) (by decide) (by omega), C8 3 (by decide) (by decide) (by omega)]; exact B3
  have z5 : (cs7.set 0 X)[5]? = some (cLst 1 (pn h + a4) (s_ou S).length) := by rw [fin 5 (by decide) (by omega), D8 5 (by decide) (by decide) (by omega)]; exact C3
  have z7 : (cs7.set 0 X)[7]? = some (cLst 1 (pn h + a5) (s_lg S).length) := by rw [fin 7 (by decide) (by omega)]; exact D3
  have za2 : (cs7.set 0 X)[a2]? = some (.inl (h.2.1.2.1 4, aaK 4 (s_ms S).length, refs g2)) := by rw [fin a2 (by omega) (by omega), D8 a2 (by omega) (by omega) (by omega), C8 a2 (by omega) (by omega) (by omega), B8 a2 (by omega) (by omega) (by omega)]; exact A4
  have za3 : (cs7.set 0 X)[a3]? = some (.inl (h.2.1.2.1 4, aaK 2 (s_dl S).length, refs g3)) := by rw [fin a3 (by omega) (by omega), D8 a3 (by omega) (by omega) (by omega), C8 a3 (by omega) (by omega) (by omega)]; exact B4
  have za4 : (cs7.set 0 X)[a4]? = some (.inl (h.2.1.2.1 4, aaK 2 (s_ou S).length, refs g4)) := by rw [fin a4 (by omega) (by omega), D8 a4 (by omega) (by omega) (by omega)]; exact C4
  have za5 : (cs7.set 0 X)[a5]? = some (.inl (h.2.1.2.1 4, aaK 4 (s_lg S).length, refs g5)) := by rw [fin a5 (by omega) (by omega)]; exact D4
  have aK : ∀ c l : Nat, 0 < c → c ≤ 4 → l ≤ 50000000 → l ≤ aaK c l ∧ aaK c l < 2 ^ 30 ∧ 0 < aaK c l := fun c l c0 c1 c2 => by unfold aaK; split <;> omega
  refine RP_blk r1 hb (KN_KH hr0) r7 (fun j k hj hk he => by rw [← inj j hj, ← inj k hk, he]) (fun k hk => ?_) ?_ ?_ ?_
  · rcases mR_cases hk with rfl | rfl | ⟨k1, k2'⟩ | rfl | k1 | ⟨k1, k2'⟩ | ⟨i, k1, rfl⟩ | ⟨i, k1, rfl⟩
    · refine ⟨X, s0 X, ?_⟩
      have eX : X = cSim (gB (pn h) (oC (s_n S) a2 a3 a4 a5) G) (s_sc (copyS S)) := by
        rw [hX]
        unfold cSim
        rw [go 40 (by decide)]
        rfl
      rw [eX]
      exact CR_r0
    · refine ⟨_, (fin 13 (by decide) (by omega)).trans m13, ?_⟩
      rw [r1]
      refine CR_r1 (S := copyS S) (fun i hi => ?_)
      have hi' : i < s_n S := hi
      rw [gk (50 + i) (by omega)]
      unfold crow oC
      rw [if_pos hi', if_neg (by omega), if_neg (by omega), if_neg (by omega), if_neg (by omega), if_neg (by omega), if_pos (by omega), show 50 + i - 50 = i from by omega]
      congr 1
      omega
    · have : k = 2 ∨ k = 3 ∨ k = 4 ∨ k = 5 := by omega
      rcases this with rfl | rfl | rfl | rfl
      · refine ⟨_, z1, ?_⟩
        rw [← n2]
        exact CR_rl (S := copyS S) (by decide) (by decide)
      · refine ⟨_, z3, ?_⟩
        rw [← n3]
        exact CR_rl (S := copyS S) (by decide) (by decide)
      · refine ⟨_, z5, ?_⟩
        rw [← n4]
        exact CR_rl (S := copyS S) (by decide) (by decide)
      · refine ⟨_, z7, ?_⟩
        rw [← n5]
        exact CR_rl (S := copyS S) (by decide) (by decide)
    · refine ⟨_, show (cs7.set 0 X)[9]? = _ from by rw [List.getElem?_set_ne (by decide), o7 9 (by decide)]; exact y9, ?_⟩
      exact CR_r6 (S := copyS S)
    · rcases k1 with rfl | rfl | rfl
      · refine ⟨_, show (cs7.set 0 X)[12]? = _ from by rw [List.getElem?_set_ne (by decide)]; exact y12, ?_⟩
        rw [r1]
        exact CR_rv (S := copyS S) (by decide) (fun r hr => (cpy_in (n := 9) hr).trans (s7 r hr))
      · refine ⟨_, show (cs7.set 0 X)[10]? = _ from by rw [List.getElem?_set_ne (by decide), o7 10 (by decide)]; exact y10, ?_⟩
        rw [r1]
        exact CR_rv (S := copyS S) (by decide) (fun r hr => (cpy_in (n := 8) hr).trans (s8 r hr))
      · refine ⟨_, show (cs7.set 0 X)[11]? = _ from by rw [List.getElem?_set_ne (by decide), o7 11 (by decide)]; exact y11, ?_⟩
        rw [r1]
        exact CR_rv (S := copyS S) (by decide) (fun r hr => (cpy_in (n := 8) hr).trans (s9 r hr))
    · have : k = 12 ∨ k = 13 ∨ k = 14 ∨ k = 15 := by omega
      rcases this with rfl | rfl | rfl | rfl
      · refine ⟨_, za2, ?_⟩
        have t := aK 4 (s_ms S).length (by decide) (by decide) (by omega)
        rw [r1]
        exact CR_rr (S := copyS S) (k := 2) (by decide) (by decide) (fun j hj => (A5 j (by rw [← n2]; exact hj)).trans (v2 j hj)) (fun j hj => A6 j (by rw [← n2]; exact hj)) (by rw [show lsC E (copyS S) 2 = lsC E S 2 from rfl, n2]; exact t.1) t.2.1 t.2.2
      · refine ⟨_, za3, ?_⟩
        have t := aK 2 (s_dl S).length (by decide) (by decide) (by omega)
        rw [r1]
        exact CR_rr (S := copyS S) (k := 3) (by decide) (by decide) (fun j hj => (B5 j (by rw [← n3]; exact hj)).trans (v3 j hj)) (fun j hj => B6 j (by rw [← n3]; exact hj)) (by rw [show lsC E (copyS S) 3 = lsC E S 3 from rfl, n3]; exact t.1) t.2.1 t.2.2
      · refine ⟨_, za4, ?_⟩
        have t := aK 2 (s_ou S).length (by decide) (by decide) (by omega)
        rw [r1]
        exact CR_rr (S := copyS S) (k := 4) (by decide) (by decide) (fun j hj => (C5 j (by rw [← n4]; exact hj)).trans (v4 j hj)) (fun j hj => C6 j (by rw [← n4]; exact hj)) (by rw [show lsC E (copyS S) 4 = lsC E S 4 from rfl, n4]; exact t.1) t.2.1 t.2.2
      · refine ⟨_, za5, ?_⟩
        have t := aK 4 (s_lg S).length (by decide) (by decide) (by omega)
        rw [r1]
        exact CR_rr (S := copyS S) (k := 5) (by decide) (by decide) (fun j hj => (D5 j (by rw [← n5]; exact hj)).trans (v5 j hj)) (fun j hj => D6 j (by rw [← n5]; exact hj)) (by rw [show lsC E (copyS S) 5 = lsC E S 5 from rfl, n5]; exact t.1) t.2.1 t.2.2
    · have k1' : i < s_n S := k1
      have eo : oC (s_n S) a2 a3 a4 a5 (50 + i) = 14 + 2 * s_n S + 2 * i := by
        unfold oC
        rw [if_neg (by omega), if_neg (by omega), if_neg (by omega), if_neg (by omega), if_neg (by omega), if_pos (by omega)]
        omega
      have eo6 : oC (s_n S) a2 a3 a4 a5 (60 + i) = 15 + 2 * s_n S + 2 * i := by
        unfold oC
        rw [if_neg (by omega), if_neg (by omega), if_neg (by omega), if_neg (by omega), if_pos (by omega)]
        omega
      rw [eo]
      refine ⟨cNode (gB (pn h) (oC (s_n S) a2 a3 a4 a5) G) i (s_nd S i), ?_, CR_rn (S := copyS S) (by omega)⟩
      rw [fin _ (by omega) (by omega), all _ (by omega) (by omega), (ind i k1').1]
      unfold cNode
      rw [go (70 + i) (by omega), gk (60 + i) (by omega), eo6, show pn h + (15 + 2 * s_n S + 2 * i) = pn h + 15 + 2 * s_n S + 2 * i from by omega]
    · have k1' : i < s_n S := k1
      have eo6 : oC (s_n S) a2 a3 a4 a5 (60 + i) = 15 + 2 * s_n S + 2 * i := by
        unfold oC
        rw [if_neg (by omega), if_neg (by omega), if_neg (by omega), if_neg (by omega), if_pos (by omega)]
        omega
      rw [eo6]
      refine ⟨_, (fin _ (by omega) (by omega)).trans ((all _ (by omega) (by omega)).trans (ind i k1').2), ?_⟩
      unfold cach
      rw [r1]
      exact CR_rc (S := copyS S) (fun r hr => (cpy_in (n := 8) hr).trans ((hfc i k1').2 r hr))
  · obtain ⟨w1, w2', w3', ⟨g1', g2', g3', g4', g5', g6', g7', g8', g9'⟩, ⟨h1', h2', h3', h4', h5', h6', h7', h8', h9'⟩, w6, w7, w8⟩ := r6
    refine ⟨fun i hi => ?_, ?_, ?_, ⟨g1', g2', g3', ?_⟩, ⟨h1', h2', h3', ?_⟩, fun li j x b1 b2' hx => ⟨KN_in hr0 (w6 li j x b1 b2' hx).1, (w6 li j x b1 b2' hx).2⟩, w7, fun i hi => ⟨(w8 i hi).1, KN_in hr0 (w8 i hi).2⟩⟩
    · rw [go (70 + i) (by omega)]
      exact ⟨KN_in hr0 (w1 i hi).1, (w1 i hi).2⟩
    · rw [go 40 (by decide)]
      refine ⟨?_, w2'.2⟩
      rw [KN_in hr0 w2'.1]
      unfold cCfg
      rw [go 41 (by decide), go 42 (by decide), go 43 (by decide)]
      rfl
    · rw [go 41 (by decide)]
      exact ⟨KN_in hr0 w3'.1, w3'.2⟩
    · rw [go 42 (by decide), go 44 (by decide)]
      exact ⟨KN_in hr0 g4', g5', KN_in hr0 g6', g7', g8', fun i hi => by rw [go (70 + i) (by omega)]; exact g9' i hi⟩
    · rw [go 43 (by decide), go 45 (by decide)]
      exact ⟨KN_in hr0 h4', h5', KN_in hr0 h6', h7', h8', fun i hi => by obtain ⟨q, c1, c2⟩ := h9' i hi; exact ⟨q, c1, KN_in hr0 c2⟩⟩
  · show pcl h - (cs7.set 0 X).length + (s_gh S 0 + cpCl S) = B.1
    unfold cpCl
    omega
  · show psl h - K + (s_gh S 1 + cpSl S) = B.2
    unfold cpSl
    omega
end CP
