/-! COPY of a simulation: the loop over the nodes -/
set_option maxRecDepth 100000
def cpc (h : PH) (n : Nat) (ck : Nat → Nat) (nd fc : Nat → Nat → Int32) : Nat → List va_E
  | 0 => []
  | i + 1 => cpc h n ck nd fc i ++ [nodeC (ck i) (nd i) (pn h + 15 + 2 * n + 2 * i), cach h (fc i)]
section CLP
variable {h : PH} {n : Nat} {ck : Nat → Nat} {nd fc : Nat → Nat → Int32}
theorem cpc_len : ∀ i : Nat, (cpc h n ck nd fc i).length = 2 * i
  | 0 => rfl
  | i + 1 => by
    unfold cpc
    rw [List.length_append, cpc_len i]
    simp
    omega
theorem cpc_get : ∀ (m i : Nat), i < m → (cpc h n ck nd fc m)[2 * i]? = some (nodeC (ck i) (nd i) (pn h + 15 + 2 * n + 2 * i)) ∧ (cpc h n ck nd fc m)[2 * i + 1]? = some (cach h (fc i))
  | 0, i, hi => absurd hi (Nat.not_lt_zero i)
  | m + 1, i, hi => by
    unfold cpc
    by_cases he : i = m
    · subst he
      rw [List.getElem?_append_right (by rw [cpc_len]; omega), List.getElem?_append_right (by rw [cpc_len]; omega), cpc_len]
      rw [show 2 * i - 2 * i = 0 from by omega, show 2 * i + 1 - 2 * i = 1 from by omega]
      exact ⟨rfl, rfl⟩
    · rw [List.getElem?_append_left (by rw [cpc_len]; omega), List.getElem?_append_left (by rw [cpc_len]; omega)]
      exact cpc_get m i (by omega)
/-- the nodes' row after i copies -/
abbrev crow (h : PH) (n i : Nat) : Nat → Option Nat := fun j => if j < i then some (pn h + 14 + 2 * n + 2 * j) else nrow h n j
theorem crow_up {i : Nat} : va_up (crow h n i) i (some (pn h + 14 + 2 * n + 2 * i)) = crow h n (i + 1) := by
  funext j
  show (if j = i then some (pn h + 14 + 2 * n + 2 * i) else if j < i then some (pn h + 14 + 2 * n + 2 * j) else nrow h n j) = if j < i + 1 then some (pn h + 14 + 2 * n + 2 * j) else nrow h n j
  by_cases h1 : j = i
  · rw [if_pos h1, if_pos (by omega), h1]
  · rw [if_neg h1]
    by_cases h2 : j < i
    · rw [if_pos h2, if_pos (by omega)]
    · rw [if_neg h2, if_neg (by omega)]
theorem b_cnodes {sim row cfg k : Nat} {seed : Int32} {v0 : Value} {rest : List Value} {fr : Nat → Option Nat} {nda caa : Nat → Nat} {dl : Nat → Int32} (hb : pbase h ≤ pn h) (hr1 : 100 ≤ pcl h) (hr2 : k + 1000 ≤ psl h) (hn : n ≤ 6)
    (hs : h.1 sim = some (.inr (1, v0 :: .ref row :: rest))) (hsl : sim < pn h) (hw : h.1 row = some (.inl (h.2.1.2.1 5, n, refs fr))) (hwl : row < pn h) (hwb : pbase h ≤ row) (hfr : ∀ i : Nat, i < n → fr i = some (nda i))
    (hnd : ∀ i : Nat, i < n → h.1 (nda i) = some (nodeC (ck i) (nd i) (caa i)) ∧ nda i < pn h) (hca : ∀ i : Nat, i < n → h.1 (caa i) = some (.inl (h.2.1.2.1 0, 8, .inl (fc i))) ∧ caa i < pn h ∧ pbase h ≤ caa i) (hz : ∀ i : Nat, i < n → ∀ j : Nat, j = 2 ∨ j = 3 ∨ j = 4 → nd i j = 0 ∨ nd i j = 1) :
    ∀ (d i N : Nat), i + d = n → d < N → f_X2_copy_L14 N (some sim) (some (pn h)) (Int32.ofNat i) (bh h (blkN h cfg n seed (crow h n i) ++ ndc h ck dl n ++ cpc h n ck nd fc i) (k + 21 * i)) = f_X2_copy_L14 1 (some sim) (some (pn h)) (Int32.ofNat n) (bh h (blkN h cfg n seed (crow h n n) ++ ndc h ck dl n ++ cpc h n ck nd fc n) (k + 21 * n)) := by
  intro d
  have len : ∀ i : Nat, (blkN h cfg n seed (crow h n i) ++ ndc h ck dl n ++ cpc h n ck nd fc i).length = 14 + 2 * n + 2 * i := fun i => by rw [List.length_append, List.length_append, ndc_len, cpc_len]; rfl
  have s1 : ∀ (l : List va_E) (kk : Nat), (bh h l kk).1 sim = some (.inr (1, v0 :: .ref row :: rest)) := fun l kk => by rw [bh_lo hsl]; exact hs
  have s2 : ∀ (l : List va_E) (kk : Nat), (bh h l kk).1 row = some (.inl (h.2.1.2.1 5, n, refs fr)) := fun l kk => by rw [bh_lo hwl]; exact hw
  induction d with
  | zero =>
    intro i N h1 h2
    have : i = n := by omega
    subst this
    cases N with
    | zero => omega
    | succ N =>
      unfold f_X2_copy_L14
      rw [gR_at (s1 _ _) (v := row) rfl, aN_at (h := bh h _ _) (t := 5) (s2 _ _), if_pos (Int32.le_refl _), gR_at (s1 _ _) (v := row) rfl, aN_at (h := bh h _ _) (t := 5) (s2 _ _), if_pos (Int32.le_refl _)]
  | succ d ih =>
    intro i N h1 h2
    cases N with
    | zero => omega
    | succ N =>
      have hin : i < n := by omega
      rw [← ih (i + 1) N (by omega) (by omega)]
      conv => lhs; unfold f_X2_copy_L14
      rw [gR_at (s1 _ _) (v := row) rfl, aN_at (h := bh h _ _) (t := 5) (s2 _ _), if_neg (fun hx => by rw [of_le (by omega) (by omega)] at hx; omega)]
      have a0 : (bh h (blkN h cfg n seed (crow h n i) ++ ndc h ck dl n ++ cpc h n ck nd fc i) (k + 21 * i)).1 (pn h) = some (.inr (1, [.ref cfg, .ref (pn h + 13), .ref (pn h + 1), .ref (pn h + 3), .ref (pn h + 5), .ref (pn h + 7), .ref (pn h + 9), .ref (pn h + 12), .int 0, .int seed, .int 0, .int 0, .int (-4), .int 0, .int 0, .int 0, .int 0, .int 0, .int 0, .int 0, .int 0, .int (-4)])) := bh_at (i := 0) rfl
      rw [gR_at a0 (v := pn h + 13) rfl, gR_at (s1 _ _) (v := row) rfl, aQ_at (h := bh h _ _) (t := 5) (s2 _ _) (inR_of2 (by omega) hin) hwb, clamp9 (by omega), hfr i hin]
      obtain ⟨n1, n2⟩ := hnd i hin
      obtain ⟨c1, c2, c3⟩ := hca i hin
      rw [rv_at (h := bh h _ _) (by rw [bh_lo n2]; exact n1)]
      rw [cl_eq (b_ncopy hb (by rw [len]; omega) (by omega) n1 n2 c1 c2 c3 (hz i hin))]
      rw [len]
      rw [b_sQ (i := 13) (ci := 5) (gs := [.ref (ck i), .int (nd i 1), .int (nd i 2), .int (nd i 3), .int (nd i 4), .int (nd i 5), .int (nd i 6), .int (nd i 7), .int (nd i 8), .int (nd i 9), .int (nd i 10), .int (nd i 11), .ref (pn h + (14 + 2 * n + 2 * i) + 1)]) hb (show (blkN h cfg n seed (crow h n i) ++ ndc h ck dl n ++ cpc h n ck nd fc i ++ [nodeC (ck i) (nd i) (pn h + (14 + 2 * n + 2 * i) + 1), cach h (fc i)])[13]? = some (.inl (h.2.1.2.1 5, n, refs (crow h n i))) from rfl) hin (by omega) (bh_at (i := 14 + 2 * n + 2 * i) (by rw [List.getElem?_append_right (by rw [len]; omega), len]; simp)) ⟨rfl, by decide⟩, ofs]
      have ea : pn h + (14 + 2 * n + 2 * i) = pn h + 14 + 2 * n + 2 * i := by omega
      have eb : pn h + 14 + 2 * n + 2 * i + 1 = pn h + 15 + 2 * n + 2 * i := by omega
      have ec : k + 21 * i + 21 = k + 21 * (i + 1) := by omega
      rw [ea, crow_up, eb, ec, List.append_assoc _ (cpc h n ck nd fc i)]
      rfl
end CLP
