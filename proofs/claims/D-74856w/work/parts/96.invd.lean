/-! THE INVARIANT: what holds of every simulation -/
set_option maxRecDepth 100000
abbrev iv (x : Int32) (a b : Int) : Prop := a ≤ x.toInt ∧ x.toInt ≤ b
/-- a node's numbers -/
def NI (nd : Nat → Int32) : Prop :=
  iv (nd 20) 900 1100 ∧ iv (nd 21) 0 100000 ∧ iv (nd 1) 1 1000 ∧ (nd 2 = 0 ∨ nd 2 = 1) ∧ (nd 3 = 0 ∨ nd 3 = 1) ∧ (nd 4 = 0 ∨ nd 4 = 1) ∧ iv (nd 5) 0 5020000 ∧ (nd 2 = 0 → nd 5 = 0) ∧ 0 ≤ (nd 6).toInt ∧ iv (nd 7) 0 7000000 ∧ (nd 6 ≠ 0 → (nd 21).toInt ≤ (nd 7).toInt) ∧ (nd 8 = -4 ∨ iv (nd 8) 0 20000000)
/-- the configuration -/
def CI (cf : Nat → Int32) : Prop := iv (cf 0) 900 1100 ∧ iv (cf 1) 0 100000 ∧ iv (cf 3) 100 60000 ∧ iv (cf 4) 0 100 ∧ iv (cf 5) 50 60000 ∧ iv (cf 6) 50 60000 ∧ iv (cf 7) 0 1000 ∧ 0 ≤ (cf 8).toInt
/-- a message -/
def MI2 (S : SS) (m : MG) : Prop := mOK (s_n S) m ∧ (m.1 = 0 ∨ m.1 = 1 → iv m.2.2.2.1 (s_nd S m.2.1 21).toInt 5700000) ∧ (m.1 = 1 → 0 ≤ m.2.2.2.2.1.toInt) ∧ iv m.2.2.1 1 (s_sc S 10).toInt ∧ iv m.2.2.2.2.2.2 (now S).toInt 5020000
/-- numbers of the world -/
def WI (S : SS) : Prop := iv (now S) 0 5000000 ∧ 0 ≤ (s_sc S 9).toInt ∧ iv (s_sc S 10) 0 (s_gh S 0) ∧ s_gh S 0 ≤ 1000000 ∧ iv (s_sc S 14) 0 (s_gh S 0) ∧ (s_sc S 12 = -4 ∨ ∃ i : Nat, i < s_n S ∧ s_sc S 12 = Int32.ofNat i) ∧ iv (s_sc S 13) 0 7000000 ∧ (s_sc S 12 ≠ -4 → (s_cf S 1).toInt ≤ (s_sc S 13).toInt) ∧ iv (s_sc S 15) 0 7000000
def OI (S : SS) (o : OG) : Prop := o.1 < s_n S ∧ iv o.2.1 0 5020000 ∧ iv o.2.2 (now S).toInt 5040000 ∧ o.2.1.toInt < o.2.2.toInt
def DI (S : SS) (d : DG) : Prop := d.1 < s_n S ∧ d.2.2.1 < 8 ∧ iv d.2.2.2.2 (now S).toInt 5020000
/-- the invariant, while something happens -/
def Inv (S : SS) : Prop := CI (s_cf S) ∧ (∀ i : Nat, i < s_n S → NI (s_nd S i)) ∧ (1 ≤ s_n S ∧ s_n S ≤ 6) ∧ WI S ∧ (∀ m ∈ s_ms S, MI2 S m) ∧ (s_ms S).Pairwise (fun a b => a.2.2.1 ≠ b.2.2.1) ∧ (∀ o ∈ s_ou S, OI S o) ∧ (∀ d ∈ s_dl S, DI S d) ∧ (s_ou S).length ≤ 20 ∧ (s_dl S).length ≤ 20 ∧ (s_lg S).length ≤ 200
/-- nothing is left to happen now -/
def Rest (S : SS) : Prop := (∀ m ∈ s_ms S, (now S).toInt < m.2.2.2.2.2.2.toInt) ∧ (∀ o ∈ s_ou S, (now S).toInt < o.2.2.toInt) ∧ (∀ d ∈ s_dl S, (now S).toInt < d.2.2.2.2.toInt) ∧ ∀ i : Nat, i < s_n S → s_nd S i 2 = 1 → (s_nd S i 5).toInt ≤ (now S).toInt → s_nd S i 8 = -4 ∨ (now S).toInt < (s_nd S i 8).toInt
theorem Inv.w1 {S : SS} (h : Inv S) : W1 S := by
  obtain ⟨h1, h2, h3, h4⟩ := h
  refine ⟨fun i hi hx => ?_, fun hx => ?_, fun hx => ?_⟩
  · have := (h2 i hi).1.1
    have e : (s_nd S i 20).toInt64.toInt = 0 := by rw [hx]; rfl
    rw [Int32.toInt_toInt64] at e
    omega
  · have a := h1.2.2.2.2.2.2.1
    have e := i_add (a := s_cf S 7) (b := 1) (by have : ((1 : Int32)).toInt = 1 := by decide
                                                 omega) (by have : ((1 : Int32)).toInt = 1 := by decide
                                                            omega)
    rw [hx] at e
    have k1 : ((1 : Int32)).toInt = 1 := by decide
    have k0 : ((0 : Int32)).toInt = 0 := by decide
    omega
  · have a := h1.2.2.2.1
    have k1 : ((1000 : Int64)).toInt = 1000 := by decide
    have k0 : ((0 : Int64)).toInt = 0 := by decide
    have e := l_add (a := (1000 : Int64)) (b := (s_cf S 4).toInt64) (by rw [k1, Int32.toInt_toInt64]; omega) (by rw [k1, Int32.toInt_toInt64]; omega)
    rw [hx, k1, Int32.toInt_toInt64] at e
    omega
theorem Inv.bi {S : SS} (h : Inv S) : BI S := ⟨h.w1, fun m hm => (h.2.2.2.2.1 m hm).1, fun o ho => (h.2.2.2.2.2.2.1 o ho).1, fun d hd => ⟨(h.2.2.2.2.2.2.2.1 d hd).1, (h.2.2.2.2.2.2.2.1 d hd).2.1⟩⟩
