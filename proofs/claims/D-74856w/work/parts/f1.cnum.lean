/-! THE COMPONENT reads: errors, numbers -/
set_option maxRecDepth 100000
def cErr (ci pos : Nat) : va_E := .inr (ci, [.int (Int32.ofNat pos), .null, .null, .null, .null, .null, .int 0])
section CPE
variable {E : PE} {h : PH}
theorem i_X10 {pos : Nat} (hx : EX E) (he : h.2.1 = E) (hb : pbase h ≤ pn h) : f_X10_init (pn h) (Int32.ofNat pos) (p_new h (.inr (8, [.int 0, .null, .null, .null, .null, .null, .int 0])) 7) = some ((), p_new h (cErr 8 pos) 7) := by
  obtain ⟨r13, e13⟩ := hx.at he (i := 13) (by decide) (by decide)
  obtain ⟨r14, e14⟩ := hx.at he (i := 14) (by decide) (by decide)
  unfold f_X10_init f_X9_init_X10 f_J4_init_2_X10 f_J3_init_3_X10 f_J3_init_3_X10_B41 f_J3_init_3_X10_B60
  rw [pV_pn hb (Nat.le_of_ble_eq_true rfl)]
  rw [show ∀ (e : va_E) (K : Option Nat → Option (Unit × PH)), asR (some ((p_new h e 7).2.1.1 13)) K = K r13 from fun e K => e13 K]
  rw [pV_pn hb (Nat.le_of_ble_eq_true rfl)]
  rw [show ∀ (e : va_E) (K : Option Nat → Option (Unit × PH)), asR (some ((p_new h e 7).2.1.1 14)) K = K r14 from fun e K => e14 K]
  rw [pV_pn hb (Nat.le_of_ble_eq_true rfl), if_pos rfl, pV_pn hb (Nat.le_of_ble_eq_true rfl), pV_pn hb (Nat.le_of_ble_eq_true rfl), pV_pn hb (Nat.le_of_ble_eq_true rfl), if_pos rfl, pV_pn hb (Nat.le_of_ble_eq_true rfl)]
  simp only [cl_]
  rw [pV_pn hb (Nat.le_of_ble_eq_true rfl)]
  rfl
theorem th_X10 {α : Type} {pos : Nat} (hx : EX E) (he : h.2.1 = E) (hb : pbase h ≤ pn h) (h1 : 1 ≤ pcl h) (h2 : 7 ≤ psl h) : (nO h 8 7 [.int 0, .null, .null, .null, .null, .null, .int 0] fun a16 h17 => cl_ (f_X10_init a16 (Int32.ofNat pos) h17) fun _u h18 => th_ h18 (some a16) fun ci9 q9 => (xo_ h18 ci9 q9 : Option (((Nat × Nat) ⊕ α) × PH))) = some (.inl (8, pn h), p_new h (cErr 8 pos) 7) := by
  rw [nO_at h1 h2, cl_eq (i_X10 hx he hb)]
  have e : (p_new h (cErr 8 pos) 7).1 (pn h) = some (cErr 8 pos) := pn_at
  unfold th_ cA_
  simp only [e]
  unfold cErr xo_
  dsimp only
  rw [if_pos (show pbase (p_new h _ 7) ≤ pn h from hb)]
theorem i_X11 {pos : Nat} (hx : EX E) (he : h.2.1 = E) (hb : pbase h ≤ pn h) : f_X11_init (pn h) (Int32.ofNat pos) (p_new h (.inr (9, [.int 0, .null, .null, .null, .null, .null, .int 0])) 7) = some ((), p_new h (cErr 9 pos) 7) := by
  obtain ⟨r13, e13⟩ := hx.at he (i := 13) (by decide) (by decide)
  obtain ⟨r14, e14⟩ := hx.at he (i := 14) (by decide) (by decide)
  unfold f_X11_init f_X9_init_X11 f_J4_init_2_X11 f_J3_init_3_X11 f_J3_init_3_X11_B41 f_J3_init_3_X11_B60
  rw [pV_pn hb (Nat.le_of_ble_eq_true rfl)]
  rw [show ∀ (e : va_E) (K : Option Nat → Option (Unit × PH)), asR (some ((p_new h e 7).2.1.1 13)) K = K r13 from fun e K => e13 K]
  rw [pV_pn hb (Nat.le_of_ble_eq_true rfl)]
  rw [show ∀ (e : va_E) (K : Option Nat → Option (Unit × PH)), asR (some ((p_new h e 7).2.1.1 14)) K = K r14 from fun e K => e14 K]
  rw [pV_pn hb (Nat.le_of_ble_eq_true rfl), if_pos rfl, pV_pn hb (Nat.le_of_ble_eq_true rfl), pV_pn hb (Nat.le_of_ble_eq_true rfl), pV_pn hb (Nat.le_of_ble_eq_true rfl), if_pos rfl, pV_pn hb (Nat.le_of_ble_eq_true rfl)]
  simp only [cl_]
  rw [pV_pn hb (Nat.le_of_ble_eq_true rfl)]
  rfl
theorem th_X11 {α : Type} {pos : Nat} (hx : EX E) (he : h.2.1 = E) (hb : pbase h ≤ pn h) (h1 : 1 ≤ pcl h) (h2 : 7 ≤ psl h) : (nO h 9 7 [.int 0, .null, .null, .null, .null, .null, .int 0] fun a16 h17 => cl_ (f_X11_init a16 (Int32.ofNat pos) h17) fun _u h18 => th_ h18 (some a16) fun ci9 q9 => (xo_ h18 ci9 q9 : Option (((Nat × Nat) ⊕ α) × PH))) = some (.inl (9, pn h), p_new h (cErr 9 pos) 7) := by
  rw [nO_at h1 h2, cl_eq (i_X11 hx he hb)]
  have e : (p_new h (cErr 9 pos) 7).1 (pn h) = some (cErr 9 pos) := pn_at
  unfold th_ cA_
  simp only [e]
  unfold cErr xo_
  dsimp only
  rw [if_pos (show pbase (p_new h _ 7) ≤ pn h from hb)]
theorem i_X12 {pos : Nat} (hx : EX E) (he : h.2.1 = E) (hb : pbase h ≤ pn h) : f_X12_init (pn h) (Int32.ofNat pos) (p_new h (.inr (10, [.int 0, .null, .null, .null, .null, .null, .int 0])) 7) = some ((), p_new h (cErr 10 pos) 7) := by
  obtain ⟨r13, e13⟩ := hx.at he (i := 13) (by decide) (by decide)
  obtain ⟨r14, e14⟩ := hx.at he (i := 14) (by decide) (by decide)
  unfold f_X12_init f_X9_init_X12 f_J4_init_2_X12 f_J3_init_3_X12 f_J3_init_3_X12_B41 f_J3_init_3_X12_B60
  rw [pV_pn hb (Nat.le_of_ble_eq_true rfl)]
  rw [show ∀ (e : va_E) (K : Option Nat → Option (Unit × PH)), asR (some ((p_new h e 7).2.1.1 13)) K = K r13 from fun e K => e13 K]
  rw [pV_pn hb (Nat.le_of_ble_eq_true rfl)]
  rw [show ∀ (e : va_E) (K : Option Nat → Option (Unit × PH)), asR (some ((p_new h e 7).2.1.1 14)) K = K r14 from fun e K => e14 K]
  rw [pV_pn hb (Nat.le_of_ble_eq_true rfl), if_pos rfl, pV_pn hb (Nat.le_of_ble_eq_true rfl), pV_pn hb (Nat.le_of_ble_eq_true rfl), pV_pn hb (Nat.le_of_ble_eq_true rfl), if_pos rfl, pV_pn hb (Nat.le_of_ble_eq_true rfl)]
  simp only [cl_]
  rw [pV_pn hb (Nat.le_of_ble_eq_true rfl)]
  rfl
theorem th_X12 {α : Type} {pos : Nat} (hx : EX E) (he : h.2.1 = E) (hb : pbase h ≤ pn h) (h1 : 1 ≤ pcl h) (h2 : 7 ≤ psl h) : (nO h 10 7 [.int 0, .null, .null, .null, .null, .null, .int 0] fun a16 h17 => cl_ (f_X12_init a16 (Int32.ofNat pos) h17) fun _u h18 => th_ h18 (some a16) fun ci9 q9 => (xo_ h18 ci9 q9 : Option (((Nat × Nat) ⊕ α) × PH))) = some (.inl (10, pn h), p_new h (cErr 10 pos) 7) := by
  rw [nO_at h1 h2, cl_eq (i_X12 hx he hb)]
  have e : (p_new h (cErr 10 pos) 7).1 (pn h) = some (cErr 10 pos) := pn_at
  unfold th_ cA_
  simp only [e]
  unfold cErr xo_
  dsimp only
  rw [if_pos (show pbase (p_new h _ 7) ≤ pn h from hb)]
theorem i_X13 {pos : Nat} (hx : EX E) (he : h.2.1 = E) (hb : pbase h ≤ pn h) : f_X13_init (pn h) (Int32.ofNat pos) (p_new h (.inr (11, [.int 0, .null, .null, .null, .null, .null, .int 0])) 7) = some ((), p_new h (cErr 11 pos) 7) := by
  obtain ⟨r13, e13⟩ := hx.at he (i := 13) (by decide) (by decide)
  obtain ⟨r14, e14⟩ := hx.at he (i := 14) (by decide) (by decide)
  unfold f_X13_init f_X9_init_X13 f_J4_init_2_X13 f_J3_init_3_X13 f_J3_init_3_X13_B41 f_J3_init_3_X13_B60
  rw [pV_pn hb (Nat.le_of_ble_eq_true rfl)]
  rw [show ∀ (e : va_E) (K : Option Nat → Option (Unit × PH)), asR (some ((p_new h e 7).2.1.1 13)) K = K r13 from fun e K => e13 K]
  rw [pV_pn hb (Nat.le_of_ble_eq_true rfl)]
  rw [show ∀ (e : va_E) (K : Option Nat → Option (Unit × PH)), asR (some ((p_new h e 7).2.1.1 14)) K = K r14 from fun e K => e14 K]
  rw [pV_pn hb (Nat.le_of_ble_eq_true rfl), if_pos rfl, pV_pn hb (Nat.le_of_ble_eq_true rfl), pV_pn hb (Nat.le_of_ble_eq_true rfl), pV_pn hb (Nat.le_of_ble_eq_true rfl), if_pos rfl, pV_pn hb (Nat.le_of_ble_eq_true rfl)]
  simp only [cl_]
  rw [pV_pn hb (Nat.le_of_ble_eq_true rfl)]
  rfl
theorem th_X13 {α : Type} {pos : Nat} (hx : EX E) (he : h.2.1 = E) (hb : pbase h ≤ pn h) (h1 : 1 ≤ pcl h) (h2 : 7 ≤ psl h) : (nO h 11 7 [.int 0, .null, .null, .null, .null, .null, .int 0] fun a16 h17 => cl_ (f_X13_init a16 (Int32.ofNat pos) h17) fun _u h18 => th_ h18 (some a16) fun ci9 q9 => (xo_ h18 ci9 q9 : Option (((Nat × Nat) ⊕ α) × PH))) = some (.inl (11, pn h), p_new h (cErr 11 pos) 7) := by
  rw [nO_at h1 h2, cl_eq (i_X13 hx he hb)]
  have e : (p_new h (cErr 11 pos) 7).1 (pn h) = some (cErr 11 pos) := pn_at
  unfold th_ cA_
  simp only [e]
  unfold cErr xo_
  dsimp only
  rw [if_pos (show pbase (p_new h _ 7) ≤ pn h from hb)]
theorem i_X14 {q : Nat} (hx : EX E) (he : h.2.1 = E) (hb : pbase h ≤ pn h) : f_X14_init (pn h) (some q) (p_new h (.inr (12, [.null, .null, .null, .null, .null, .int 0])) 6) = some ((), p_new h (.inr (12, [.ref q, .null, .null, .null, .null, .int 0])) 6) := by
  obtain ⟨r13, e13⟩ := hx.at he (i := 13) (by decide) (by decide)
  obtain ⟨r14, e14⟩ := hx.at he (i := 14) (by decide) (by decide)
  unfold f_X14_init f_J4_init_2_X14 f_J3_init_3_X14 f_J3_init_3_X14_B41 f_J3_init_3_X14_B60
  rw [pV_pn hb (Nat.le_of_ble_eq_true rfl)]
  rw [show ∀ (e : va_E) (K : Option Nat → Option (Unit × PH)), asR (some ((p_new h e 6).2.1.1 13)) K = K r13 from fun e K => e13 K]
  rw [pV_pn hb (Nat.le_of_ble_eq_true rfl)]
  rw [show ∀ (e : va_E) (K : Option Nat → Option (Unit × PH)), asR (some ((p_new h e 6).2.1.1 14)) K = K r14 from fun e K => e14 K]
  rw [pV_pn hb (Nat.le_of_ble_eq_true rfl), if_pos rfl, pV_pn hb (Nat.le_of_ble_eq_true rfl), pV_pn hb (Nat.le_of_ble_eq_true rfl), pV_pn hb (Nat.le_of_ble_eq_true rfl), if_pos rfl, pV_pn hb (Nat.le_of_ble_eq_true rfl)]
  rfl
end CPE
section CPN
variable {E : PE} {X bA sA sim pa ca ha len p : Nat} {le : Int32} {bf : Nat → Nat} {h : PH}
theorem dgs_gt {q : Nat} (hq : q ≤ len) (c : 48 ≤ hb bf len q ∧ hb bf len q ≤ 57) : q < (dgs bf len FL q 0).2 := by
  have hlt : q < len := hb_lt (x := hb bf len q) rfl (by omega)
  have : FL = 400 + 1 := rfl
  rw [this]
  unfold dgs
  rw [if_pos c]
  have := dgs_le (bf := bf) (len := len) 400 (q + 1) (10 * 0 + (hb bf len q - 48)) (by omega)
  exact Nat.lt_of_lt_of_le (Nat.lt_succ_self q) this.1
theorem dgs_eq {q : Nat} (c : ¬ (48 ≤ hb bf len q ∧ hb bf len q ≤ 57)) : (dgs bf len FL q 0).2 = q := by
  have : FL = 400 + 1 := rfl
  rw [this]
  unfold dgs
  rw [if_neg c]
/-- a number: its value, or the throw -/
theorem p_number {lo hi : Nat} (hlo : lo ≤ 2147483647) (hhi : hi ≤ 2147483647) (hx : EX E) (he : h.2.1 = E) (hbn : pbase h ≤ pn h) (h1 : 1 ≤ pcl h) (h2 : 7 ≤ psl h) (hpa : pa < pn h) (hP : PPH X bA sA sim le pa ca ha bf len p h) :
    (∀ d : Nat × Nat, nmb bf len lo hi p = .inr d → f_X8_number (some pa) (Int32.ofNat lo) (Int32.ofNat hi) h = some (.inr (Int32.ofNat d.1), pP h pa ca ha X d.2)) ∧
    (∀ e : Nat × Nat, nmb bf len lo hi p = .inl e → ∃ q : Nat, q ≤ len ∧ f_X8_number (some pa) (Int32.ofNat lo) (Int32.ofNat hi) h = some (.inl (8 + e.1, pn h), p_new (pP h pa ca ha X q) (cErr (8 + e.1) e.2) 7) ∧ (e.1 = 1 ∨ e.1 = 2)) := by
  have hB := hP.b2
  have hpl := hP.2.2.2.2.2.2.2.2
  have hs := sk_le (bf := bf) hpl
  have k48 : ((48 : Int64)).toInt = ((48 : Nat) : Int) := by decide
  have k57 : ((57 : Int64)).toInt = ((57 : Nat) : Int) := by decide
  have nx := p_next hP
  unfold f_X8_number nmb
  dsimp only
  obtain ⟨q, hq⟩ : ∃ q, sk bf len p = q := ⟨_, rfl⟩
  rw [hq] at hs nx ⊢
  have hP1 := hP.at_ (q := q) hs.2
  rw [rv_at hP.1, cl_eq nx, cl_eq x_in, k48, k57, Int32.toInt_toInt64]
  have dl := dgs_le (bf := bf) FL q 0 hs.2
  by_cases c : 48 ≤ hb bf len q ∧ hb bf len q ≤ 57
  · have g := p_numL (b := q) hlo hhi FL FU q 0 (pP h pa ca ha X q) 0 hP1 (by unfold FL; omega) (by unfold FL FU; omega) (by decide)
    rw [pP_pP] at g
    have dg := dgs_gt hs.2 c
    have ga : (pP h pa ca ha X q).1 pa = some (cPar ca ha X q) := ps_at
    rw [if_pos ((hw_in hB.1 (by decide)).mpr c), if_neg (show ¬ (1 : Int32) = 0 by decide), gI_at ga rfl]
    obtain ⟨x, hx'⟩ : ∃ x, dgs bf len FL q 0 = x := ⟨_, rfl⟩
    rw [hx'] at g dl dg ⊢
    rw [if_neg (by omega)]
    by_cases c2 : lo ≤ x.1 ∧ x.1 ≤ hi
    · rw [if_pos c2]
      refine ⟨fun d hd => ?_, fun e hd => by cases hd⟩
      cases hd
      exact g.1 c2
    · rw [if_neg c2]
      refine ⟨fun d hd => (by cases hd), fun e hd => ?_⟩
      cases hd
      refine ⟨x.2, dl.2, ?_, Or.inr rfl⟩
      rw [g.2 c2]
      exact th_X12 (h := pP h pa ca ha X x.2) hx he hbn h1 h2
  · have d0 := dgs_eq c
    rw [if_neg (fun hy => c ((hw_in hB.1 (by decide)).mp hy)), if_pos rfl, if_pos d0]
    refine ⟨fun d hd => (by cases hd), fun e hd => ?_⟩
    cases hd
    refine ⟨q, hs.2, ?_, Or.inl rfl⟩
    have ga : ∀ (e : va_E) (k : Nat), (p_new (pP h pa ca ha X q) e k).1 pa = some (cPar ca ha X q) := fun e k => by
      have hlt : pa < pn (pP h pa ca ha X q) := hpa
      exact (pn_ne (Nat.ne_of_lt hlt)).trans ps_at
    rw [nO_at (h := pP h pa ca ha X q) h1 h2, gI_at (ga _ _) rfl]
    have := th_X11 (α := Int32) (pos := q) (h := pP h pa ca ha X q) hx he hbn h1 h2
    rw [nO_at (h := pP h pa ca ha X q) h1 h2] at this
    exact this
end CPN
