/-! THE COMPONENT reads: are two strings equal -/
set_option maxRecDepth 100000
/-- a string at a, its letters w -/
def STW (h : PH) (a : Nat) (w : List Nat) : Prop := ∃ (u : Nat) (fs : List Value) (f : Nat → Int32), h.1 a = some (.inr (22, .ref u :: .int 0 :: fs)) ∧ h.1 u = some (.inl (h.2.1.2.1 1, w.length, .inl f)) ∧ (∀ i : Nat, i < w.length → f i = Int32.ofNat (w.getD i 0)) ∧ (∀ i : Nat, i < w.length → w.getD i 0 < 256) ∧ w.length ≤ 400
section SEQ
variable {a b u u' n : Nat} {w w' : List Nat} {f g : Nat → Int32} {h : PH}
theorem nb00 : vp_nar .boolean (0 : Int32) = 0 := by decide
theorem eq_L (e : h.1 u = some (.inl (h.2.1.2.1 1, n, .inl f))) (e' : h.1 u' = some (.inl (h.2.1.2.1 1, n, .inl g))) (hn : n ≤ 400) : ∀ (k i N : Nat), n - i < k → k < N → i ≤ n →
    ((∀ j : Nat, i ≤ j → j < n → f j = g j) → f_J15_equals_L9 N (some u) (some u') (Int32.ofNat i) h = some (1, h)) ∧ (∀ j : Nat, i ≤ j → j < n → f j ≠ g j → f_J15_equals_L9 N (some u) (some u') (Int32.ofNat i) h = some (0, h)) := by
  intro k
  induction k with
  | zero => intro i N h1; omega
  | succ k ih =>
    intro i N h1 h2 hi
    cases N with
    | zero => omega
    | succ N =>
      unfold f_J15_equals_L9
      rw [aN_at e]
      by_cases c : n ≤ i
      · rw [if_pos ((of_le (by omega) (by omega)).mpr c), rN_at nb0.2]
        exact ⟨fun _ => rfl, fun j j1 j2 => by omega⟩
      · rw [if_neg (by rw [of_le (by omega) (by omega)]; exact c), aB_at e (inR_of (by omega) (by omega)), aB_at e' (inR_of (by omega) (by omega)), clamp9 (by omega), show (1 : Int32) = Int32.ofNat 1 from rfl, of_add]
        have g1 := ih (i + 1) N (by omega) (by omega) (by omega)
        by_cases d : f i = g i
        · rw [if_pos d]
          refine ⟨fun hy => g1.1 fun j j1 j2 => hy j (by omega) j2, fun j j1 j2 j3 => g1.2 j ?_ j2 j3⟩
          by_cases q : j = i
          · rw [q] at j3
            exact absurd d j3
          · omega
        · rw [if_neg d, rN_at nb00]
          exact ⟨fun hy => absurd (hy i (Nat.le_refl _) (by omega)) d, fun j j1 j2 j3 => rfl⟩
theorem list_ext0 {w w' : List Nat} (hl : w.length = w'.length) (hi : ∀ i : Nat, i < w.length → w.getD i 0 = w'.getD i 0) : w = w' := by
  refine List.ext_getElem hl fun i h1 h2 => ?_
  have := hi i h1
  rw [List.getD_eq_getElem?_getD, List.getD_eq_getElem?_getD, List.getElem?_eq_getElem h1, List.getElem?_eq_getElem h2] at this
  exact this
theorem eq_B (e : h.1 u = some (.inl (h.2.1.2.1 1, w.length, .inl f))) (e' : h.1 u' = some (.inl (h.2.1.2.1 1, w'.length, .inl g))) (hf : ∀ i : Nat, i < w.length → f i = Int32.ofNat (w.getD i 0)) (hg : ∀ i : Nat, i < w'.length → g i = Int32.ofNat (w'.getD i 0))
    (hf2 : ∀ i : Nat, i < w.length → w.getD i 0 < 256) (hg2 : ∀ i : Nat, i < w'.length → w'.getD i 0 < 256) (hn : w.length ≤ 400) (hn' : w'.length ≤ 400) : f_J15_equals (some u) (some u') h = some (if w = w' then 1 else 0, h) := by
  unfold f_J15_equals
  rw [aN_at e, aN_at e']
  by_cases c : w.length = w'.length
  · rw [if_pos (by rw [c])]
    have g1 := eq_L e (by rw [c]; exact e') hn 401 0 FU (by omega) (by unfold FU; omega) (Nat.zero_le _)
    by_cases d : w = w'
    · rw [if_pos d]
      exact g1.1 fun j _ j2 => by rw [hf j j2, hg j (by omega), d]
    · rw [if_neg d]
      obtain ⟨j, j2, j3⟩ : ∃ j, j < w.length ∧ w.getD j 0 ≠ w'.getD j 0 := by
        refine Classical.byContradiction fun hy => d (list_ext0 c fun i hi => ?_)
        exact Classical.byContradiction fun hz => hy ⟨i, hi, hz⟩
      refine g1.2 j (Nat.zero_le _) j2 fun hy => j3 ?_
      rw [hf j j2, hg j (by omega)] at hy
      have := hf2 j j2
      have := hg2 j (by omega)
      exact (of_inj (by omega) (by omega)).mp hy
  · rw [if_neg (by rw [of_inj (by omega) (by omega)]; exact c), rN_at nb00, if_neg (fun hy => c (by rw [hy]))]
theorem STW.uniq (hA : STW h a w) (hB : STW h a w') : w = w' := by
  obtain ⟨u, fs, f, a1, a2, a3, a4, a5⟩ := hA
  obtain ⟨u', fs', f', b1, b2, b3, b4, b5⟩ := hB
  rw [a1] at b1
  cases b1
  rw [a2] at b2
  have e1 : w.length = w'.length := congrArg (fun x : Option va_E => match x with | some (.inl (_, n, _)) => n | _ => 0) b2
  have e2 : f = f' := congrArg (fun x : Option va_E => match x with | some (.inl (_, _, .inl g)) => g | _ => f) b2
  refine list_ext0 e1 fun i hi => ?_
  have q := a3 i hi
  rw [e2, b3 i (by omega)] at q
  have := a4 i hi
  have := b4 i (by omega)
  exact ((of_inj (by omega) (by omega)).mp q).symm
theorem p_equals (e9 : h.2.1.1 9 = .int 1) (hA : STW h a w) (hB : STW h b w') : f_J9_equals (some a) (some b) h = some (if w = w' then 1 else 0, h) := by
  have hA0 := hA
  have hB0 := hB
  obtain ⟨u, fs, f, a1, a2, a3, a4, a5⟩ := hA
  obtain ⟨u', fs', f', b1, b2, b3, b4, b5⟩ := hB
  unfold f_J9_equals f_J9_equals_B36 f_J9_equals_B54 f_J9_equals_B55
  by_cases c : a = b
  · subst c
    rw [if_pos rfl, rN_at nb0.2, if_pos (hA0.uniq hB0)]
  · rw [if_neg (fun hy => c (Option.some.inj hy))]
    have iN1 : ∀ (K : Int32 → Option (Int32 × PH)), iN h (some b) 22 K = K 1 := fun K => by simp [iN, b1]
    rw [iN1, if_neg (show ¬ (1 : Int32) = 0 by decide), kC_at b1, e9]
    simp only [asI]
    rw [if_neg (show ¬ (1 : Int32) = 0 by decide), gI_at a1 rfl, gI_at b1 rfl, if_pos rfl, gR_at a1 rfl, gR_at b1 rfl, cl_eq (eq_B a2 b2 a3 b3 a4 b4 a5 b5)]
    by_cases d : w = w'
    · rw [if_pos d, if_neg (show ¬ (1 : Int32) = 0 by decide), rN_at nb0.2]
    · rw [if_neg d, if_pos rfl, rN_at nb00]
end SEQ
