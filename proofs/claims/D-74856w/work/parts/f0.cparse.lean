/-! THE COMPONENT reads: here, next, number -/
set_option maxRecDepth 100000
/-- the parser's cell: configuration, what was had, the place, the component -/
def cPar (ca ha X at_ : Nat) : va_E := .inr (7, [.ref ca, .ref ha, .int (Int32.ofNat at_), .ref X])
/-- the heap of a parser at pa whose place is p -/
def PPH (X bA sA sim : Nat) (le : Int32) (pa ca ha : Nat) (bf : Nat → Nat) (len p : Nat) (h : PH) : Prop :=
  h.1 pa = some (cPar ca ha X p) ∧ pbase h ≤ pa ∧ h.1 X = some (cLL bA (Int32.ofNat len) le sim sA) ∧ pbase h ≤ X ∧ X ≠ pa ∧ bA ≠ pa ∧ (∃ g : Nat → Int32, h.1 bA = some (.inl (h.2.1.2.1 1, 400, .inl g)) ∧ CBF g bf len) ∧ pbase h ≤ bA ∧ p ≤ len
/-- the place is set -/
def pP (h : PH) (pa ca ha X q : Nat) : PH := p_set h pa (cPar ca ha X q)
section CPA
variable {X bA sA sim pa ca ha len p : Nat} {le : Int32} {bf : Nat → Nat} {h : PH}
theorem p_set2 {a : Nat} {e e' : va_E} : p_set (p_set h a e) a e' = p_set h a e' := by
  unfold p_set
  refine Prod.ext (funext fun b => ?_) rfl
  by_cases c : b = a
  · simp [c]
  · simp [c]
theorem pP_pP {q r : Nat} : pP (pP h pa ca ha X q) pa ca ha X r = pP h pa ca ha X r := p_set2
theorem pP_self (hp : h.1 pa = some (cPar ca ha X p)) : pP h pa ca ha X p = h := by
  unfold pP p_set
  refine Prod.ext (funext fun b => ?_) rfl
  show (if b = pa then some (cPar ca ha X p) else h.1 b) = _
  by_cases c : b = pa
  · rw [if_pos c, c, hp]
  · rw [if_neg c]
theorem PPH.at_ {q : Nat} (hP : PPH X bA sA sim le pa ca ha bf len p h) (hq : q ≤ len) : PPH X bA sA sim le pa ca ha bf len q (pP h pa ca ha X q) := by
  obtain ⟨a1, a2, a3, a4, a5, a6, ⟨g, a7, a8⟩, a9, a10⟩ := hP
  exact ⟨ps_at, a2, by rw [show (pP h pa ca ha X q).1 X = h.1 X from ps_ne a5]; exact a3, a4, a5, a6, ⟨g, by rw [show (pP h pa ca ha X q).1 bA = h.1 bA from ps_ne a6]; exact a7, a8⟩, a9, hq⟩
def hw (bf : Nat → Nat) (len p : Nat) : Int32 := if p < len then Int32.ofNat (bf p) else -1
theorem p_here (hP : PPH X bA sA sim le pa ca ha bf len p h) : f_X8_here (some pa) h = some (hw bf len p, h) := by
  obtain ⟨a1, a2, a3, a4, a5, a6, ⟨g, a7, a8⟩, a9, a10⟩ := hP
  have hl := a8.1
  unfold f_X8_here f_X8_here_B34 hw
  rw [gI_at a1 rfl, gR_at a1 rfl, gIN_at a3 a4 rfl]
  by_cases c : p < len
  · rw [if_neg (by rw [of_le (by omega) (by omega)]; omega), gR_at a1 rfl, gRN_at a3 a4 rfl, gI_at a1 rfl, aB_at a7 (inR_of (by decide) (by omega)), clamp9 (by omega), (a8.2 p c).1, if_pos c]
  · rw [if_pos (by rw [of_le (by omega) (by omega)]; omega), if_neg c]
theorem hw_i (hB : ∀ i : Nat, i < len → bf i < 256) : (hw bf len p).toInt = if p < len then (bf p : Int) else -1 := by
  unfold hw
  split
  · next c => have := hB p c; rw [of_i (by omega)]
  · rfl
theorem hw_eq (hB : ∀ i : Nat, i < len → bf i < 256) {x : Nat} (hx : x < 256) : hw bf len p = Int32.ofNat x ↔ hb bf len p = x := by
  unfold hb
  rw [← Int32.toInt_inj, hw_i hB, of_i (by omega)]
  split
  · omega
  · omega
theorem hw_in (hB : ∀ i : Nat, i < len → bf i < 256) {a b : Nat} (hb2 : b < 256) : ((a : Int) ≤ (hw bf len p).toInt ∧ (hw bf len p).toInt ≤ b) ↔ a ≤ hb bf len p ∧ hb bf len p ≤ b := by
  unfold hb
  rw [hw_i hB]
  split
  · omega
  · omega
theorem PPH.b2 (hP : PPH X bA sA sim le pa ca ha bf len p h) : (∀ i : Nat, i < len → bf i < 256) ∧ len ≤ 400 := by
  obtain ⟨a1, a2, a3, a4, a5, a6, ⟨g, a7, a8⟩, a9, a10⟩ := hP
  exact ⟨fun i hi => (a8.2 i hi).2, a8.1⟩
theorem p_inc {β : Type} {K : PH → Option β} (hP : PPH X bA sA sim le pa ca ha bf len p h) : (gI h (some pa) 7 2 fun v5 => pV h (some pa) 7 2 (.int (v5 + (1 : Int32))) K) = K (pP h pa ca ha X (p + 1)) := by
  obtain ⟨a1, a2, -⟩ := hP
  rw [gI_at a1 rfl, pV_at a1 a2 (Nat.le_of_ble_eq_true rfl), show (1 : Int32) = Int32.ofNat 1 from rfl, of_add]
  rfl
theorem p_nextL : ∀ (f N p : Nat) (h : PH), PPH X bA sA sim le pa ca ha bf len p h → len - p < f → f < N → f_X8_next_L0 N (some pa) h = some (hw bf len (skp bf len f p), pP h pa ca ha X (skp bf len f p)) := by
  intro f
  induction f with
  | zero => intro N p h _ h1; omega
  | succ f ih =>
    intro N p h hP h1 h2
    have hB := hP.b2
    have hpl := hP.2.2.2.2.2.2.2.2
    cases N with
    | zero => omega
    | succ N =>
      unfold f_X8_next_L0 skp
      rw [rv_at hP.1, cl_eq (p_here hP)]
      by_cases c : hb bf len p = 32
      · have hlt := hb_lt c (by decide)
        rw [if_pos (show hw bf len p = 32 from (hw_eq hB.1 (x := 32) (by decide)).mpr c), if_pos c, p_inc hP, ih N (p + 1) _ (hP.at_ (by omega)) (by omega) (by omega), pP_pP]
      · rw [if_neg (show ¬ hw bf len p = 32 from fun hx => c ((hw_eq hB.1 (x := 32) (by decide)).mp hx)), if_neg c, rv_at hP.1, cl_eq (p_here hP), pP_self hP.1]
theorem p_next (hP : PPH X bA sA sim le pa ca ha bf len p h) : f_X8_next (some pa) h = some (hw bf len (sk bf len p), pP h pa ca ha X (sk bf len p)) := p_nextL FL FU p h hP (by have := hP.b2; unfold FL; omega) (by unfold FL FU; omega)
theorem min_dig2 {v d : Nat} {x y : Int64} {w : Int32} (hx : x.toInt = min 10000000000 (v : Int)) (hd : d ≤ 9) (hy : w.toInt = (d : Int) + 48) (e : y = (if ((((10 : Int64) * x) + (w.toInt64)) - (48 : Int64)) < (10000000000 : Int64) then ((((10 : Int64) * x) + (w.toInt64)) - (48 : Int64)) else (10000000000 : Int64))) : y.toInt = min 10000000000 ((10 * v + d : Nat) : Int) := by
  have k10 : ((10 : Int64)).toInt = 10 := by decide
  have k48 : ((48 : Int64)).toInt = 48 := by decide
  have k3 : ((10000000000 : Int64)).toInt = 10000000000 := by decide
  have e1 : ((10 : Int64) * x).toInt = 10 * x.toInt := by rw [l_mul (by rw [k10]; omega) (by rw [k10]; omega), k10]
  have e2 : ((10 : Int64) * x + w.toInt64).toInt = 10 * x.toInt + w.toInt := by rw [l_add (by rw [e1, Int32.toInt_toInt64]; omega) (by rw [e1, Int32.toInt_toInt64]; omega), e1, Int32.toInt_toInt64]
  have e3 : ((10 : Int64) * x + w.toInt64 - (48 : Int64)).toInt = 10 * x.toInt + w.toInt - 48 := by rw [l_sub (by rw [e2, k48]; omega) (by rw [e2, k48]; omega), e2, k48]
  rw [e]
  split
  · next c =>
    rw [Int64.lt_iff_toInt_lt, e3, k3] at c
    rw [e3]
    omega
  · next c =>
    rw [Int64.lt_iff_toInt_lt, e3, k3] at c
    rw [k3]
    omega
/-- a number's digits: the value in its range, or the throw of a RangeError -/
theorem p_numL {lo hi b : Nat} (hlo : lo ≤ 2147483647) (hhi : hi ≤ 2147483647) : ∀ (f N p v : Nat) (h : PH) (x : Int64), PPH X bA sA sim le pa ca ha bf len p h → len - p < f → f < N → x.toInt = min 10000000000 (v : Int) →
    ((lo ≤ (dgs bf len f p v).1 ∧ (dgs bf len f p v).1 ≤ hi) → f_X8_number_L37 N (some pa) (Int32.ofNat lo) (Int32.ofNat hi) (Int32.ofNat b) x h = some (.inr (Int32.ofNat (dgs bf len f p v).1), pP h pa ca ha X (dgs bf len f p v).2)) ∧
    (¬ (lo ≤ (dgs bf len f p v).1 ∧ (dgs bf len f p v).1 ≤ hi) → f_X8_number_L37 N (some pa) (Int32.ofNat lo) (Int32.ofNat hi) (Int32.ofNat b) x h = (nO (pP h pa ca ha X (dgs bf len f p v).2) 10 7 [.int 0, .null, .null, .null, .null, .null, .int 0] fun a16 h17 => cl_ (f_X12_init a16 (Int32.ofNat b) h17) fun _u h18 => th_ h18 (some a16) fun ci9 q9 => xo_ h18 ci9 q9)) := by
  intro f
  induction f with
  | zero => intro N p v h x _ h1; omega
  | succ f ih =>
    intro N p v h x hP h1 h2 hx
    have hB := hP.b2
    have hpl := hP.2.2.2.2.2.2.2.2
    have k48 : ((48 : Int64)).toInt = ((48 : Nat) : Int) := by decide
    have k57 : ((57 : Int64)).toInt = ((57 : Nat) : Int) := by decide
    cases N with
    | zero => omega
    | succ N =>
      unfold f_X8_number_L37 dgs
      rw [rv_at hP.1, cl_eq (p_here hP), cl_eq x_in, k48, k57, Int32.toInt_toInt64]
      by_cases c : 48 ≤ hb bf len p ∧ hb bf len p ≤ 57
      · have hlt : p < len := hb_lt (x := hb bf len p) rfl (by omega)
        have ehv : (hw bf len p).toInt = ((hb bf len p - 48 : Nat) : Int) + 48 := by
          rw [hw_i hB.1, if_pos hlt]
          rw [hb_at hlt] at c ⊢
          omega
        rw [if_pos ((hw_in hB.1 (by decide)).mpr c), if_neg (show ¬ (1 : Int32) = 0 by decide), if_pos c, rv_at hP.1, cl_eq (p_here hP), p_inc hP]
        have g := ih N (p + 1) (10 * v + (hb bf len p - 48)) _ _ (hP.at_ (by omega)) (by omega) (by omega) (min_dig2 hx (by omega) ehv rfl)
        rw [pP_pP] at g
        exact g
      · rw [if_neg (fun hx => c ((hw_in hB.1 (by decide)).mp hx)), if_pos rfl, if_neg c, cl_eq x_in, Int32.toInt_toInt64, Int32.toInt_toInt64, of_i (by omega), of_i (by omega)]
        dsimp only
        rw [pP_self hP.1]
        refine ⟨fun q => ?_, fun q => ?_⟩
        · have hin : (lo : Int) ≤ x.toInt ∧ x.toInt ≤ (hi : Int) := by omega
          have ex : x.toInt32 = Int32.ofNat v := by
            apply Int32.toInt_inj.mp
            rw [l_int (by omega) (by omega), of_i (by omega)]
            omega
          rw [if_pos hin, if_neg (show ¬ (1 : Int32) = 0 by decide), ex]
        · have hin : ¬ ((lo : Int) ≤ x.toInt ∧ x.toInt ≤ (hi : Int)) := by omega
          rw [if_neg hin, if_pos rfl]
end CPA
