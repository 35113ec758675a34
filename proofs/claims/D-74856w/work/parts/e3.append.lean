/-! THE COMPONENT: appendByte -/
set_option maxRecDepth 100000
/-- the buffer's row g holds the text -/
def CBF (g : Nat → Int32) (bf : Nat → Nat) (len : Nat) : Prop := len ≤ 400 ∧ ∀ i : Nat, i < len → (g i &&& (255 : Int32)) = Int32.ofNat (bf i) ∧ bf i < 256
theorem byte_and : ∀ n : Nat, n < 256 → (vp_nar .byte ((Int32.ofNat n).toInt8.toInt32) &&& (255 : Int32)) = Int32.ofNat n := by decide +kernel
section APP
variable {E : PE} {B : Nat × Nat} {F : Nat → Nat} {R : PM} {S : SS} {h : PH} {X bA sA : Nat} {le : Int32} {len : Nat} {bf : Nat → Nat} {g : Nat → Int32}
theorem x_appendP (hS : SP E B F R S h) (hB : fitB B (g_mk S 1 6)) {p : Int32} (hp : ¬ iv p 0 255) : okk (f_X1_appendByte (some X) p h) (XT E B F R 20 S) := by
  unfold f_X1_appendByte
  exact x_rng0 hS hB hp (x_on (x_check0 hS hB) (fun q h1 _ => rfl))
theorem x_append4 (hS : SP E B F R S h) (hX : R X = some (cLL bA (Int32.ofNat 400) le (F 0) sA)) {p : Int32} (hp : iv p 0 255) : f_X1_appendByte (some X) p h = some (.inr (-5), h) := by
  have e0 : ((0 : Int64)).toInt = 0 := by decide
  have e1 : ((255 : Int64)).toInt = 255 := by decide
  unfold f_X1_appendByte
  rw [cl_eq x_in, e0, e1, Int32.toInt_toInt64, if_pos (show 0 ≤ p.toInt ∧ p.toInt ≤ 255 from hp), cl_eq x_check1]
  dsimp only
  rw [gI_at (hS.tr hX).1 rfl, if_pos (show Int32.ofNat 400 = 400 from rfl)]
theorem x_append (hS : SP E B F R S h) (hX : R X = some (cLL bA (Int32.ofNat len) le (F 0) sA)) (hXb : E.2.2.1 ≤ X) (hA : R bA = some (.inl (E.2.1 1, 400, .inl g))) (hAb : E.2.2.1 ≤ bA) (hT : CBF g bf len) (h4 : len ≠ 400) {p : Int32} (hp : iv p 0 255) :
    ∃ (g' : Nat → Int32) (h1 : PH), f_X1_appendByte (some X) p h = some (.inr (Int32.ofNat (len + 1)), h1) ∧ SP E B F (rU (rU R bA (.inl (E.2.1 1, 400, .inl g'))) X (cLL bA (Int32.ofNat (len + 1)) le (F 0) sA)) S h1 ∧ CBF g' (fu bf len p.toInt.toNat) (len + 1) := by
  have e0 : ((0 : Int64)).toInt = 0 := by decide
  have e1 : ((255 : Int64)).toInt = 255 := by decide
  have hl := hT.1
  have p1 := hp.1
  have p2 := hp.2
  have eE : h.2.1 = E := hS.base.1
  have row : h.1 bA = some (.inl (h.2.1.2.1 1, 400, .inl g)) := by rw [eE]; exact (hS.tr hA).1
  have bb : pbase h ≤ bA := by
    show h.2.1.2.2.1 ≤ bA
    rw [eE]; exact hAb
  have bx : pbase h ≤ X := by
    show h.2.1.2.2.1 ≤ X
    rw [eE]; exact hXb
  have hne : X ≠ bA := fun hy => by
    rw [hy, hA] at hX
    cases hX
  have hne4 : ¬ Int32.ofNat len = 400 := fun hy => h4 (by
    have := congrArg Int32.toInt hy
    rw [of_i (by omega), show ((400 : Int32)).toInt = 400 from rfl] at this
    omega)
  obtain ⟨bv, hbv⟩ : ∃ bv, vp_nar .byte (p.toInt8.toInt32) = bv := ⟨_, rfl⟩
  have ep : p = Int32.ofNat p.toInt.toNat := by
    apply Int32.toInt_inj.mp
    rw [of_i (by omega)]
    omega
  have hba : (bv &&& (255 : Int32)) = Int32.ofNat p.toInt.toNat := by
    rw [← hbv]
    have := byte_and p.toInt.toNat (by omega)
    rw [← ep] at this
    rw [this]
    exact ep
  have s1 := hS.swap (e' := .inl (E.2.1 1, 400, .inl (upd g len bv))) hA (Or.inl ⟨_, _, _, rfl⟩)
  have hX1 : rU R bA (.inl (E.2.1 1, 400, .inl (upd g len bv))) X = some (cLL bA (Int32.ofNat len) le (F 0) sA) := by rw [rU_ne hne]; exact hX
  have s2 := s1.swap (e' := cLL bA (Int32.ofNat (len + 1)) le (F 0) sA) hX1 (Or.inr (Or.inr (Or.inl ⟨0, _, rfl, Or.inl rfl⟩)))
  have hx1 : (p_set h bA (.inl (E.2.1 1, 400, .inl (upd g len bv)))).1 X = some (.inr (0, [.ref bA, .int (Int32.ofNat len), .int le, .ref (F 0), .ref sA])) := (s1.tr hX1).1
  refine ⟨upd g len bv, p_set (p_set h bA (.inl (E.2.1 1, 400, .inl (upd g len bv)))) X (cLL bA (Int32.ofNat (len + 1)) le (F 0) sA), ?_, s2, ⟨by omega, fun i hi => ?_⟩⟩
  · unfold f_X1_appendByte
    rw [cl_eq x_in, e0, e1, Int32.toInt_toInt64, if_pos (show 0 ≤ p.toInt ∧ p.toInt ≤ 255 from hp), cl_eq x_check1]
    dsimp only
    rw [gI_at (hS.tr hX).1 rfl, if_neg hne4, gR_at (hS.tr hX).1 rfl, gI_at (hS.tr hX).1 rfl, sI_at row (inR_of (by decide) (by omega)) bb, clamp9 (by omega), hbv]
    have eh : p_set h bA (.inl (h.2.1.2.1 1, 400, .inl (upd g len bv))) = p_set h bA (.inl (E.2.1 1, 400, .inl (upd g len bv))) := by rw [eE]
    rw [eh, gI_at hx1 rfl, pV_at hx1 bx (Nat.le_of_ble_eq_true rfl), show (1 : Int32) = Int32.ofNat 1 from rfl, of_add]
    have e2 : p_set (p_set h bA (.inl (E.2.1 1, 400, .inl (upd g len bv)))) X (.inr (0, [Value.ref bA, .int (Int32.ofNat len), .int le, .ref (F 0), .ref sA].set 1 (.int (Int32.ofNat (len + 1))))) = p_set (p_set h bA (.inl (E.2.1 1, 400, .inl (upd g len bv)))) X (cLL bA (Int32.ofNat (len + 1)) le (F 0) sA) := rfl
    rw [e2]
    exact gI_at (s2.tr rU_at).1 rfl
  · by_cases c : i = len
    · subst c
      rw [upd_eq, fu_eq]
      exact ⟨hba, by omega⟩
    · rw [upd_ne c, fu_ne c]
      exact hT.2 i (by omega)
theorem x_loadError (hS : SP E B F R S h) (hX : R X = some (cLL bA (Int32.ofNat len) le (F 0) sA)) : f_X1_loadError (some X) h = some (le, h) := by
  unfold f_X1_loadError
  rw [gI_at (hS.tr hX).1 rfl]
end APP
