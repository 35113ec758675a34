/-! THE COMPONENT reads: what was had -/
set_option maxRecDepth 100000
/-- the list at l with its row holds the references xs -/
def LSP (h : PH) (l row cap : Nat) (mc : Int32) (xs : List Nat) : Prop := h.1 l = some (.inr (19, [.int mc, .ref row, .int (Int32.ofNat xs.length)])) ∧ (∃ f : Nat → Option Nat, h.1 row = some (.inl (h.2.1.2.1 4, cap, refs f)) ∧ ∀ i : Nat, i < xs.length → f i = some (xs.getD i 0)) ∧
  pbase h ≤ l ∧ pbase h ≤ row ∧ l ≠ row ∧ xs.length ≤ cap ∧ xs.length ≤ 400 ∧ l < pn h ∧ row < pn h
section CLS
variable {l row cap a : Nat} {mc : Int32} {xs : List Nat} {ws : List (List Nat)} {w : List Nat} {h : PH}
theorem has_L (e9 : h.2.1.1 9 = .int 1) (hL : LSP h l row cap mc xs) (hA : STW h a w) (hW : ∀ i : Nat, i < xs.length → STW h (xs.getD i 0) (ws.getD i [])) :
    ∀ (k i N : Nat), i + k = xs.length → k < N → ((∀ j : Nat, i ≤ j → j < xs.length → w ≠ ws.getD j []) → f_J2_indexOfRange_L42 N (some a) (Int32.ofNat xs.length) (some row) (Int32.ofNat i) h = some (-1, h)) ∧
      (∀ j : Nat, i ≤ j → j < xs.length → w = ws.getD j [] → ∃ m : Nat, m < xs.length ∧ f_J2_indexOfRange_L42 N (some a) (Int32.ofNat xs.length) (some row) (Int32.ofNat i) h = some (Int32.ofNat m, h)) := by
  obtain ⟨b1, ⟨f, b2, b3⟩, b4, b5, b6, b7, b8, -, -⟩ := hL
  have hA0 := hA
  obtain ⟨u, fs, g, a1, -⟩ := hA
  intro k
  induction k with
  | zero =>
    intro i N h1 h2
    cases N with
    | zero => omega
    | succ N =>
      unfold f_J2_indexOfRange_L42 f_J2_indexOfRange_B69
      rw [if_pos ((of_le (by omega) (by omega)).mpr (by omega))]
      exact ⟨fun _ => rfl, fun j j1 j2 => by omega⟩
  | succ k ih =>
    intro i N h1 h2
    cases N with
    | zero => omega
    | succ N =>
      have g1 := ih (i + 1) N (by omega) (by omega)
      have e3 : ∀ K : Option Nat → Option (Int32 × PH), aQ h (some row) 4 (Int32.ofNat i) K = K (some (xs.getD i 0)) := fun K => by
        have hi : inR (Int32.ofNat i) cap := by
          unfold inR
          rw [clamp9 (by omega)]
          rw [show (0 : Int32) = Int32.ofNat 0 from rfl, of_lt (by omega) (by omega)]
          omega
        rw [aQ_at b2 hi b5, clamp9 (by omega), b3 i (by omega)]
      unfold f_J2_indexOfRange_L42
      rw [if_neg (by rw [of_le (by omega) (by omega)]; omega), e3, rv_at a1, cl_eq (p_equals e9 hA0 (hW i (by omega))), show (1 : Int32) = Int32.ofNat 1 from rfl, of_add]
      by_cases d : w = ws.getD i []
      · rw [if_pos d, if_neg (show ¬ Int32.ofNat 1 = 0 by decide)]
        exact ⟨fun hy => absurd d (hy i (Nat.le_refl _) (by omega)), fun j j1 j2 j3 => ⟨i, by omega, rfl⟩⟩
      · rw [if_neg d, if_pos rfl]
        refine ⟨fun hy => g1.1 fun j j1 j2 => hy j (by omega) j2, fun j j1 j2 j3 => g1.2 j ?_ j2 j3⟩
        by_cases q : j = i
        · rw [q] at j3
          exact absurd j3 d
        · omega
/-- was the word had? -/
theorem p_has (e9 : h.2.1.1 9 = .int 1) (hL : LSP h l row cap mc xs) (hA : STW h a w) (hl : ws.length = xs.length) (hW : ∀ i : Nat, i < xs.length → STW h (xs.getD i 0) (ws.getD i [])) : f_J2_contains (some l) (some a) h = some (if w ∈ ws then 1 else 0, h) := by
  have g := has_L e9 hL hA hW xs.length 0 FU (by omega) (by have := hL.2.2.2.2.2.2.1; unfold FU; omega)
  have b8 := hL.2.2.2.2.2.2.1
  have b1 := hL.1
  unfold f_J2_contains f_J2_contains_B13 f_J2_indexOf f_J2_indexOfRange
  rw [rv_at b1, gI_at b1 rfl, rv_at b1, gR_at b1 rfl, if_neg (show ¬ (some a = none) from fun hy => by cases hy)]
  by_cases d : w ∈ ws
  · obtain ⟨j, j1, j2⟩ := List.getElem_of_mem d
    obtain ⟨m, m1, m2⟩ := g.2 j (Nat.zero_le _) (by omega) (by rw [List.getD_eq_getElem?_getD, List.getElem?_eq_getElem j1]; exact j2.symm)
    rw [cl_eq (show f_J2_indexOfRange_L42 FU (some a) (Int32.ofNat xs.length) (some row) (0 : Int32) h = _ from m2), cl_eq rfl, if_neg (by rw [show (0 : Int32) = Int32.ofNat 0 from rfl, of_lt (by omega) (by omega)]; omega), rN_at nb0.2, if_pos d]
  · have m2 := g.1 fun j _ j2 hy => d (by rw [hy, List.getD_eq_getElem?_getD, List.getElem?_eq_getElem (by omega)]; exact List.getElem_mem _)
    rw [cl_eq (show f_J2_indexOfRange_L42 FU (some a) (Int32.ofNat xs.length) (some row) (0 : Int32) h = _ from m2), cl_eq rfl, if_pos (by decide), rN_at nb00, if_neg d]
end CLS
