/-! THE START: the constants and the tables' words as the plain layer wants them -/
set_option maxRecDepth 100000
theorem fc_inj {vm : Vm} {X Y : String} {c : ClassId} (h1 : vm.findClass X = some c) (h2 : vm.findClass Y = some c) : X = Y := by
  unfold Vm.findClass at h1 h2
  obtain ⟨g1, p1, -⟩ := Array.findIdx?_eq_some_iff_getElem.mp h1
  obtain ⟨g2, p2, -⟩ := Array.findIdx?_eq_some_iff_getElem.mp h2
  simp only [Bool.and_eq_true, beq_iff_eq] at p1 p2
  exact p1.1.1.1.symm.trans p2.1.1.1
abbrev nar1 : Cond := .and given_1 narrow_1
abbrev kdN : List String := ["ACQUIRE", "GRANT", "DENY", "RELEASE", "WRITE", "FETCH", "WRITTEN", "FETCHED", "FENCED"]
def kdT (i : Nat) : Term := .static "LeaderLeases$Kind" (kdN.getD i "") "LLeaderLeases$Kind;"
abbrev txM : List Nat := [22, 24, 26, 28, 30, 32, 34]
abbrev txP : List Nat := [121, 95, 123, 125, 127, 129, 131]
def txT (i : Nat) : Term := .string "LeaderLeasesModel" (txM.getD i 0)
def txU (i : Nat) : Term := .string "LeaderLeases$Parser" (txP.getD i 0)
abbrev txN : List Nat := [6, 4, 5, 5, 5, 6, 4]
abbrev txB : List (List Int32) := [[115, 101, 114, 118, 101, 114], [110, 111, 100, 101], [108, 101, 97, 115, 101], [114, 101, 110, 101, 119], [114, 101, 116, 114, 121], [106, 105, 116, 116, 101, 114], [115, 101, 101, 100]]
def icT : Term := .static "java/lang/Integer$IntegerCache" "cache" "[Ljava/lang/Integer;"
theorem in_kd : ((List.range 9).all fun i => decide (Cond.exactly (kdT i) "LeaderLeases$Kind" ∈ flatC nar1) && decide (Cond.eq (.field (kdT i) "java/lang/Enum" "ordinal" "I") (.int (Int32.ofNat i)) ∈ flatC nar1)) = true := by decide +kernel
theorem in_tx : ((List.range 7).all fun i => decide (Cond.exactly (txT i) "java/lang/String" ∈ flatC nar1) && decide (Cond.eq (.field (txT i) "java/lang/String" "coder" "B") (.int 0) ∈ flatC nar1) && decide (Cond.arrayOf (.field (txT i) "java/lang/String" "value" "[B") .byte ∈ flatC nar1) && decide (Cond.exactly (.field (txT i) "java/lang/String" "value" "[B") "[B" ∈ flatC nar1) && decide (Cond.eq (.length (.field (txT i) "java/lang/String" "value" "[B")) (.int (Int32.ofNat (txN.getD i 0))) ∈ flatC nar1) && decide (Cond.eq (txU i) (txT i) ∈ flatC nar1)) = true := by decide +kernel
theorem in_te : ((List.range 7).all fun i => (List.range (txN.getD i 0)).all fun j => decide (Cond.eq (.elem (.field (txT i) "java/lang/String" "value" "[B") (.int (Int32.ofNat j))) (.int ((txB.getD i []).getD j 0)) ∈ flatC nar1)) = true := by decide +kernel
theorem in_ic : (decide (Cond.arrayOf icT (.object "java/lang/Integer") ∈ flatC nar1) && decide (Cond.eq (.length icT) (.int 256) ∈ flatC nar1) && decide (Cond.all icT (.and (.exactly (.elem icT (.index 0)) "java/lang/Integer") (.eq (.field (.elem icT (.index 0)) "java/lang/Integer" "value" "I") (.sub (.index 0) (.int 128)))) ∈ flatC nar1)) = true := by decide +kernel
theorem all_at {args : Array Value} {first s : State} {o : Option Outcome} {idx : List Nat} {t : Term} {c : Cond} {a : Addr} {cell : Cell} (ht : t.eval args first o idx s = some (.ref a)) (hc : s.arrayAt? a = some cell) (h : (Cond.all t c).value args first o s idx = some true) : ∀ i, i < cell.slots.size → c.value args first o s (i :: idx) = some true := by
  simp only [Cond.value, ht, hc] at h
  have key : ∀ (l : List Nat) (acc : Option Bool), l.foldl (fun acc i => match acc with | some true => c.value args first o s (i :: idx) | x => x) acc = some true → acc = some true ∧ ∀ i ∈ l, c.value args first o s (i :: idx) = some true := by
    intro l
    induction l with
    | nil => intro acc h; exact ⟨h, fun i hi => absurd hi List.not_mem_nil⟩
    | cons x l ih =>
      intro acc h
      obtain ⟨h1, h2⟩ := ih _ h
      cases acc with
      | none => cases h1
      | some v =>
        cases v with
        | false => cases h1
        | true => exact ⟨rfl, fun i hi => by rcases List.mem_cons.mp hi with rfl | hi; exact h1; exact h2 i hi⟩
  intro i hi
  exact (key _ _ h).2 i (List.mem_range.mpr hi)
theorem and_at {args : Array Value} {first s : State} {o : Option Outcome} {idx : List Nat} {X Y : Cond} (h : (Cond.and X Y).value args first o s idx = some true) : X.holds args first o s idx = true ∧ Y.holds args first o s idx = true := by
  simp only [Cond.value] at h
  cases hX : X.value args first o s idx with
  | none => rw [hX] at h; cases h
  | some v =>
    cases v with
    | false => rw [hX] at h; cases h
    | true =>
      rw [hX] at h
      have h1 : Y.value args first o s idx = some true := h
      exact ⟨by simp [Cond.holds, hX], by simp [Cond.holds, h1]⟩
theorem of_idx {args : Array Value} {s : State} {idx : List Nat} {t : Term} {a : Nat} {o n d : String} {v : Value} {A : Nat → Prop} (ht : t.eval args s none idx s = some (.ref a)) (hv : (Term.field t o n d).eval args s none idx s = some v) (hA : ∀ a : Nat, a < s.heap.size → ¬ A a) : va_OF o n d v a A s s.heap := by
  cases hfo : s.fieldFound? o n d with
  | none =>
    simp [Term.eval, ht, State.fieldOf?, State.fieldNamed?, hfo] at hv
  | some x =>
    obtain ⟨cf, k, fi, f⟩ := x
    obtain ⟨g1, cell, g2, g3, -, -, g6⟩ := Term.field_spec hfo ht hv
    exact ⟨cf, k, fi, f, cell, hfo, g1, g2, g3, g6, hA _ (Array.getElem?_eq_some_iff.mp g2).1⟩
theorem of_uniq {o n d : String} {v w : Value} {t : Nat} {B : Nat → Prop} {U : State} {H : Heap} (h1 : va_OF o n d v t B U H) (h2 : va_OF o n d w t B U H) : v = w := by
  obtain ⟨cf, k, i, f, cell, a1, a2, a3, a4, a5, a6⟩ := h1
  obtain ⟨cf', k', i', f', cell', b1, b2, b3, b4, b5, b6⟩ := h2
  cases a1.symm.trans b1
  cases a3.symm.trans b3
  cases a5.symm.trans b5
  rfl
theorem tx_inj : ∀ i, i < 7 → ∀ j, j < 7 → txN.getD i 0 = txN.getD j 0 → (∀ k, k < txN.getD i 0 → (txB.getD i []).getD k 0 = (txB.getD j []).getD k 0) → i = j := by decide
theorem ofNat_inj31 {i j : Nat} (hi : i < 2 ^ 31) (hj : j < 2 ^ 31) (h : Int32.ofNat i = Int32.ofNat j) : i = j := by
  have e1 := Int32.toNatClampNeg_ofNat_of_lt hi
  have e2 := Int32.toNatClampNeg_ofNat_of_lt hj
  rw [h] at e1
  exact e1.symm.trans e2
theorem tx_same {i j t : Nat} {B : Nat → Prop} {U : State} {H : Heap} (hi : i < 7) (hj : j < 7) (g : va_T .byte t (txN.getD i 0) (fun j => .int ((txB.getD i []).getD j 0)) B U H) (f : va_T .byte t (txN.getD j 0) (fun k => .int ((txB.getD j []).getD k 0)) B U H) : i = j := by
  obtain ⟨cell, a1, a2, a3, a4, a5, a6, a7⟩ := g
  obtain ⟨cell', b1, b2, b3, b4, b5, b6, b7⟩ := f
  cases a1.symm.trans b1
  have hlt : ∀ i, i < 7 → txN.getD i 0 < 2 ^ 31 := by decide
  have hn := ofNat_inj31 (hlt i hi) (hlt j hj) (a5.symm.trans b5)
  refine tx_inj i hi j hj hn fun k hk => ?_
  have c1 := a6 k hk
  have c2 := b6 k (hn ▸ hk)
  exact Value.int.inj (Option.some.inj (c1.symm.trans c2))
section ST
variable {A : Array Value} {s : State} {B : Nat → Prop}
theorem st_kd (hs : ∀ c ∈ flatC nar1, c.before A s = true) (hB : ∀ a : Nat, a < s.heap.size → ¬ B a) : ∃ kd : Nat → Nat, ∀ i : Nat, i < 9 → (kdT i).eval A s none [] s = some (.ref (kd i)) ∧ va_O "LeaderLeases$Kind" (kd i) B s s.heap ∧ va_OF "java/lang/Enum" "ordinal" "I" (.int (Int32.ofNat i)) (kd i) B s s.heap := by
  have h0 : ∀ i : Nat, ∃ k : Nat, i < 9 → (kdT i).eval A s none [] s = some (.ref k) ∧ va_O "LeaderLeases$Kind" k B s s.heap ∧ va_OF "java/lang/Enum" "ordinal" "I" (.int (Int32.ofNat i)) k B s s.heap := by
    intro i
    by_cases hi : i < 9
    · have h1 := List.all_eq_true.mp in_kd i (List.mem_range.mpr hi)
      simp only [Bool.and_eq_true, decide_eq_true_eq] at h1
      obtain ⟨a, c, cA, kA, q1, q2, q3, q4, q5, q6, -⟩ := Cond.exactly_spec (args := A) (first := s) (o := none) (s := s) (idx := []) (t := kdT i) (cls := "LeaderLeases$Kind") (hs _ h1.1)
      exact ⟨a, fun _ => ⟨q1, ⟨cA, q3, q5, by rw [q6]; exact q2, hB a (Array.getElem?_eq_some_iff.mp q3).1⟩, vk_OFof q1 (va_eqt (hs _ h1.2)) hB⟩⟩
    · exact ⟨0, fun h => absurd h hi⟩
  obtain ⟨kd, hkd⟩ := Classical.axiomOfChoice h0
  exact ⟨kd, hkd⟩
theorem st_tx (hs : ∀ c ∈ flatC nar1, c.before A s = true) (hB : ∀ a : Nat, a < s.heap.size → ¬ B a) : ∃ adK adV : Nat → Nat, ∀ i : Nat, i < 7 → (txT i).eval A s none [] s = some (.ref (adK i)) ∧ (txU i).eval A s none [] s = some (.ref (adK i)) ∧ va_O "java/lang/String" (adK i) B s s.heap ∧ va_OF "java/lang/String" "coder" "B" (.int 0) (adK i) B s s.heap ∧ va_OF "java/lang/String" "value" "[B" (.ref (adV i)) (adK i) B s s.heap ∧ va_T .byte (adV i) (txN.getD i 0) (fun j => .int ((txB.getD i []).getD j 0)) B s s.heap ∧ va_O "[B" (adV i) B s s.heap ∧ ∀ j : Nat, j < 7 → adK i = adK j → i = j := by
  have h0 : ∀ i : Nat, ∃ q : Nat × Nat, i < 7 → (txT i).eval A s none [] s = some (.ref q.1) ∧ (txU i).eval A s none [] s = some (.ref q.1) ∧ va_O "java/lang/String" q.1 B s s.heap ∧ va_OF "java/lang/String" "coder" "B" (.int 0) q.1 B s s.heap ∧ va_OF "java/lang/String" "value" "[B" (.ref q.2) q.1 B s s.heap ∧ va_T .byte q.2 (txN.getD i 0) (fun j => .int ((txB.getD i []).getD j 0)) B s s.heap ∧ va_O "[B" q.2 B s s.heap := by
    intro i
    by_cases hi : i < 7
    · have h1 := List.all_eq_true.mp in_tx i (List.mem_range.mpr hi)
      simp only [Bool.and_eq_true, decide_eq_true_eq] at h1
      obtain ⟨⟨⟨⟨⟨h1, h2⟩, h3⟩, h4⟩, h5⟩, h6⟩ := h1
      have h7 := List.all_eq_true.mp in_te i (List.mem_range.mpr hi)
      obtain ⟨a, c, cA, kA, q1, q2, q3, q4, q5, q6, -⟩ := Cond.exactly_spec (args := A) (first := s) (o := none) (s := s) (idx := []) (t := txT i) (cls := "java/lang/String") (hs _ h1)
      obtain ⟨t, ht, hT⟩ := va_Tof (f := fun j => .int ((txB.getD i []).getD j 0)) (A := B) (N := txN.getD i 0) (show txN.getD i 0 < 2 ^ 31 from Nat.lt_of_le_of_lt (show txN.getD i 0 ≤ 6 from by
        have : ∀ i, i < 7 → txN.getD i 0 ≤ 6 := by decide
        exact this i hi) (by decide)) (hs _ h3) (va_eqt (hs _ h5)) (fun j hj => va_eqt (hs _ (by simpa using List.all_eq_true.mp h7 j (List.mem_range.mpr hj)))) hB
      obtain ⟨a2, c2, cA2, kA2, p1, p2, p3, p4, p5, p6, -⟩ := Cond.exactly_spec (args := A) (first := s) (o := none) (s := s) (idx := []) (t := .field (txT i) "java/lang/String" "value" "[B") (cls := "[B") (hs _ h4)
      have e2 : a2 = t := by rw [ht] at p1; cases p1; rfl
      subst e2
      refine ⟨(a, a2), fun _ => ⟨q1, ?_, ⟨cA, q3, q5, by rw [q6]; exact q2, hB a (Array.getElem?_eq_some_iff.mp q3).1⟩, vk_OFof q1 (va_eqt (hs _ h2)) hB, vk_OFof q1 ht hB, hT, ⟨cA2, p3, p5, by rw [p6]; exact p2, hB a2 (Array.getElem?_eq_some_iff.mp p3).1⟩⟩⟩
      have h8 := hs _ h6
      cases hv : (txU i).eval A s none [] s with
      | none => simp [Cond.before, Cond.holds, Cond.value, hv, q1] at h8
      | some w => cases w <;> simp [Cond.before, Cond.holds, Cond.value, hv, q1] at h8 <;> simp [h8]
    · exact ⟨(0, 0), fun h => absurd h hi⟩
  obtain ⟨ad, had⟩ := Classical.axiomOfChoice h0
  refine ⟨fun i => (ad i).1, fun i => (ad i).2, fun i hi => ?_⟩
  obtain ⟨g1, g2, g3, g4, g5, g6, g7⟩ := had i hi
  refine ⟨g1, g2, g3, g4, g5, g6, g7, fun j hj e => ?_⟩
  obtain ⟨f1, f2, f3, f4, f5, f6, f7⟩ := had j hj
  have e1 : (ad i).1 = (ad j).1 := e
  have e2 : (ad i).2 = (ad j).2 := by
    rw [← e1] at f5
    exact Value.ref.inj (of_uniq g5 f5)
  rw [← e2] at f6
  exact tx_same hi hj g6 f6
theorem st_ic (hs : ∀ c ∈ flatC nar1, c.before A s = true) (hB : ∀ a : Nat, a < s.heap.size → ¬ B a) : ∃ (q : Nat) (it : Nat → Nat), icT.eval A s none [] s = some (.ref q) ∧ va_T (.object "java/lang/Integer") q 256 (fun j => .ref (it j)) B s s.heap ∧ ∀ j : Nat, j < 256 → va_O "java/lang/Integer" (it j) B s s.heap ∧ va_OF "java/lang/Integer" "value" "I" (.int (Int32.ofNat j - 128)) (it j) B s s.heap := by
  have h0 := in_ic
  simp only [Bool.and_eq_true, decide_eq_true_eq] at h0
  obtain ⟨⟨h1, h2⟩, h3⟩ := h0
  have g1 := hs _ h1
  have g3 : (Cond.all icT (.and (.exactly (.elem icT (.index 0)) "java/lang/Integer") (.eq (.field (.elem icT (.index 0)) "java/lang/Integer" "value" "I") (.sub (.index 0) (.int 128))))).value A s none s [] = some true := by
    have := hs _ h3
    simp only [Cond.before, Cond.holds] at this
    simpa using this
  have hle := va_eqt (hs _ h2)
  obtain ⟨q, cell, hq, hc, hv⟩ := Term.length_spec hle
  have hz : 256 ≤ cell.slots.size := by
    refine Nat.not_lt.mp fun hlt => ?_
    have e1 : (256 : Int32) = Int32.ofNat cell.slots.size := Value.int.inj hv
    have e2 := Int32.toNatClampNeg_ofNat_of_lt (n := cell.slots.size) (Nat.lt_trans hlt (by decide))
    rw [← e1] at e2
    have e3 : (256 : Int32).toNatClampNeg = 256 := by decide
    omega
  have g4 := all_at hq hc g3
  have h5 : ∀ j : Nat, ∃ t : Nat, j < 256 → (Term.elem icT (.int (Int32.ofNat j))).eval A s none [] s = some (.ref t) ∧ va_O "java/lang/Integer" t B s s.heap ∧ va_OF "java/lang/Integer" "value" "I" (.int (Int32.ofNat j - 128)) t B s s.heap := by
    intro j
    by_cases hj : j < 256
    · have g5 := g4 j (Nat.lt_of_lt_of_le hj hz)
      have g6 : (Cond.exactly (.elem icT (.index 0)) "java/lang/Integer").holds A s none s [j] = true ∧ (Cond.eq (.field (.elem icT (.index 0)) "java/lang/Integer" "value" "I") (.sub (.index 0) (.int 128))).holds A s none s [j] = true := by
        exact and_at g5
      obtain ⟨a, c, cA, kA, q1, q2, q3, q4, q5, q6, -⟩ := Cond.exactly_spec g6.1
      have e1 : (Term.sub (.index 0) (.int 128)).eval A s none [j] s = some (.int (Int32.ofNat j - 128)) := by simp [Term.eval]
      refine ⟨a, fun _ => ⟨?_, ⟨cA, q3, q5, by rw [q6]; exact q2, hB a (Array.getElem?_eq_some_iff.mp q3).1⟩, of_idx q1 (Cond.eq_int g6.2 e1) hB⟩⟩
      have e2 : (Term.elem icT (.int (Int32.ofNat j))).eval A s none [] s = (Term.elem icT (.index 0)).eval A s none [j] s := by simp [Term.eval, icT]
      rw [e2]; exact q1
    · exact ⟨0, fun h => absurd h hj⟩
  obtain ⟨it, hit⟩ := Classical.axiomOfChoice h5
  obtain ⟨t, ht, hT⟩ := va_Tof (f := fun j => .ref (it j)) (A := B) (N := 256) (by decide) g1 hle (fun j hj => (hit j hj).1) hB
  have e3 : t = q := by rw [hq] at ht; cases ht; rfl
  subst e3
  exact ⟨t, it, hq, hT, fun j hj => (hit j hj).2⟩
end ST
/-- the classes and their slots -/
theorem st_cl {A : Array Value} {s : State} (hts : ∀ w ∈ lw_tbl, w.before A s = true) : ∃ D : va_G, ∀ (c : Nat) (q : vw_C), clA[c]? = some q → u_Kn s q.1 q.2.1 q.2.2 (D.1 c) (D.2 c) := by
  have h0 : ∀ q ∈ clA, ∃ (cC : ClassId) (iS : Nat → Nat), u_Kn s q.1 q.2.1 q.2.2 cC iS := by
    have k0 : ∀ {C : String} {T : u_T}, ∀ w ∈ u_ws C T 0, w ∈ lw_tbl := fun w h => absurd h List.not_mem_nil
    refine List.forall_mem_cons.mpr ⟨u_known hts (fun w h => lw_all_tbl (in_X1 w h)) (hts _ (lw_all_tbl q136)), ?_⟩
    refine List.forall_mem_cons.mpr ⟨u_known hts (fun w h => lw_all_tbl (in_X2 w h)) (hts _ (lw_all_tbl q144)), ?_⟩
    refine List.forall_mem_cons.mpr ⟨u_known hts (fun w h => lw_all_tbl (in_X3 w h)) (hts _ (lw_all_tbl q149)), ?_⟩
    refine List.forall_mem_cons.mpr ⟨u_known hts (fun w h => lw_all_tbl (in_X4 w h)) (hts _ (lw_all_tbl q155)), ?_⟩
    refine List.forall_mem_cons.mpr ⟨u_known hts (fun w h => lw_all_tbl (in_X5 w h)) (hts _ (lw_all_tbl q660)), ?_⟩
    refine List.forall_mem_cons.mpr ⟨u_known hts (fun w h => lw_all_tbl (in_X6 w h)) (hts _ (lw_all_tbl q691)), ?_⟩
    refine List.forall_mem_cons.mpr ⟨u_known hts (fun w h => lw_all_tbl (in_X7 w h)) (hts _ (lw_all_tbl q2174)), ?_⟩
    refine List.forall_mem_cons.mpr ⟨u_known hts (fun w h => lw_all_tbl (in_X8 w h)) (hts _ (lw_all_tbl q896)), ?_⟩
    refine List.forall_mem_cons.mpr ⟨u_known hts (fun w h => lw_all_tbl (in_X10 w h)) (hts _ (lw_all_tbl q1040)), ?_⟩
    refine List.forall_mem_cons.mpr ⟨u_known hts (fun w h => lw_all_tbl (in_X11 w h)) (hts _ (lw_all_tbl q1144)), ?_⟩
    refine List.forall_mem_cons.mpr ⟨u_known hts (fun w h => lw_all_tbl (in_X12 w h)) (hts _ (lw_all_tbl q1164)), ?_⟩
    refine List.forall_mem_cons.mpr ⟨u_known hts (fun w h => lw_all_tbl (in_X13 w h)) (hts _ (lw_all_tbl q1194)), ?_⟩
    refine List.forall_mem_cons.mpr ⟨u_known hts (fun w h => lw_all_tbl (in_X14 w h)) (hts _ (lw_all_tbl q1210)), ?_⟩
    refine List.forall_mem_cons.mpr ⟨u_known hts (fun w h => lw_all_tbl (in_X16 w h)) (hts _ (lw_all_tbl q1372)), ?_⟩
    refine List.forall_mem_cons.mpr ⟨u_known hts (fun w h => lw_all_tbl (in_X17 w h)) (hts _ (lw_all_tbl q1430)), ?_⟩
    refine List.forall_mem_cons.mpr ⟨u_known hts (fun w h => lw_all_tbl (in_X18 w h)) (hts _ (lw_all_tbl q1487)), ?_⟩
    refine List.forall_mem_cons.mpr ⟨u_known hts (fun w h => lw_all_tbl (in_X19 w h)) (hts _ (lw_all_tbl q1512)), ?_⟩
    refine List.forall_mem_cons.mpr ⟨u_known hts (fun w h => lw_all_tbl (in_X20 w h)) (hts _ (lw_all_tbl q1825)), ?_⟩
    refine List.forall_mem_cons.mpr ⟨u_known hts (fun w h => lw_all_tbl (in_X21 w h)) (hts _ (lw_all_tbl q1869)), ?_⟩
    refine List.forall_mem_cons.mpr ⟨u_known hts (fun w h => lw_all_tbl (in_J2 w h)) (hts _ (lw_all_tbl q170)), ?_⟩
    refine List.forall_mem_cons.mpr ⟨u_known hts k0 (hts _ (lw_all_tbl q186)), ?_⟩
    refine List.forall_mem_cons.mpr ⟨u_known hts (fun w h => lw_all_tbl (in_J8 w h)) (hts _ (lw_all_tbl q234)), ?_⟩
    refine List.forall_mem_cons.mpr ⟨u_known hts (fun w h => lw_all_tbl (in_J9 w h)) (hts _ (lw_all_tbl q415)), ?_⟩
    refine List.forall_mem_cons.mpr ⟨u_known hts (fun w h => lw_all_tbl (in_J17 w h)) (hts _ (lw_all_tbl q641)), ?_⟩
    refine List.forall_mem_cons.mpr ⟨u_known hts k0 (hts _ (lw_all_tbl q1749)), ?_⟩
    exact fun _ h => absurd h List.not_mem_nil
  have h1 : ∀ c : Nat, ∃ p : ClassId × (Nat → Nat), ∀ q : vw_C, clA[c]? = some q → u_Kn s q.1 q.2.1 q.2.2 p.1 p.2 := by
    intro c
    cases hc : clA[c]? with
    | none => exact ⟨(0, fun _ => 0), fun q h => by cases h⟩
    | some q =>
      obtain ⟨cC, iS, h2⟩ := h0 q (List.mem_of_getElem? hc)
      exact ⟨(cC, iS), fun q' h => by cases h; exact h2⟩
  obtain ⟨p, hp⟩ := Classical.axiomOfChoice h1
  exact ⟨(fun c => (p c).1, fun c => (p c).2), fun c q h => hp c q h⟩
theorem st_ar {A : Array Value} {s : State} (hts : ∀ w ∈ lw_tbl, w.before A s = true) : ∃ ca : Nat → ClassId, ∀ (k : Nat) (q : FieldType), tyT[k]? = some q → (ArrOfT s (ca k) q ∧ va_RA s (ca k) q) ∧ s.vm.findClass ("[" ++ q.toString) = some (ca k) := by
  have ha : ∀ {ty : FieldType} {c : ClassId} {k : Class} {comp : ClassId}, s.vm.classes[c]? = some k → k.kind = .array comp ty → ArrOfT s c ty := fun hk hd n z => ⟨(fun k h => by cases h), _, hk, _, hd⟩
  have h0 : ∀ q ∈ tyT, ∃ c : ClassId, (ArrOfT s c q ∧ va_RA s c q) ∧ s.vm.findClass ("[" ++ q.toString) = some c := by
    have hp : ∀ ty : FieldType, (∀ C, ty ≠ .object C) → (Cond.arrayClass ty).before A s = true → ∃ c : ClassId, (ArrOfT s c ty ∧ va_RA s c ty) ∧ s.vm.findClass ("[" ++ ty.toString) = some c := by
      intro ty hn h
      obtain ⟨c, k, comp, h1, h2, h3⟩ := Cond.arrayClass_spec h
      refine ⟨c, ⟨ha h2 h3, ?_⟩, h1⟩
      cases ty with
      | object C => exact absurd rfl (hn C)
      | _ => exact h1
    have ho : ∀ C : String, (Cond.arrayOver (.object C)).before A s = true → ∃ c : ClassId, (ArrOfT s c (.object C) ∧ va_RA s c (.object C)) ∧ s.vm.findClass ("[" ++ (FieldType.object C).toString) = some c := by
      intro C h
      obtain ⟨comp, c, k, h1, h2, h3, h4, h5⟩ := Cond.arrayOver_spec h
      exact ⟨c, ⟨ha h3 h4, ⟨k, comp, h3, h4, h1, h5⟩⟩, h5⟩
    refine List.forall_mem_cons.mpr ⟨hp _ (fun C h => by cases h) (hts _ (lw_all_tbl q679)), ?_⟩
    refine List.forall_mem_cons.mpr ⟨hp _ (fun C h => by cases h) (hts _ (lw_all_tbl q168)), ?_⟩
    refine List.forall_mem_cons.mpr ⟨hp _ (fun C h => by cases h) (hts _ (lw_all_tbl q2780)), ?_⟩
    refine List.forall_mem_cons.mpr ⟨hp _ (fun C h => by cases h) (hts _ (lw_all_tbl q2257)), ?_⟩
    refine List.forall_mem_cons.mpr ⟨ho _ (hts _ q182), ?_⟩
    refine List.forall_mem_cons.mpr ⟨ho _ (hts _ q690), ?_⟩
    refine List.forall_mem_cons.mpr ⟨ho _ (hts _ q871), ?_⟩
    refine List.forall_mem_cons.mpr ⟨ho _ (hts _ q2181), ?_⟩
    exact fun _ h => absurd h List.not_mem_nil
  have h1 : ∀ k : Nat, ∃ c : ClassId, ∀ q : FieldType, tyT[k]? = some q → (ArrOfT s c q ∧ va_RA s c q) ∧ s.vm.findClass ("[" ++ q.toString) = some c := by
    intro k
    cases hc : tyT[k]? with
    | none => exact ⟨0, fun q h => by cases h⟩
    | some q =>
      obtain ⟨c, h2⟩ := h0 q (List.mem_of_getElem? hc)
      exact ⟨c, fun q' h => by cases h; exact h2⟩
  obtain ⟨p, hp⟩ := Classical.axiomOfChoice h1
  exact ⟨p, fun c q h => hp c q h⟩
theorem o_diff {X Y : String} {t : Nat} {B : Nat → Prop} {U : State} {H : Heap} (h1 : va_O X t B U H) (h2 : va_O Y t B U H) : X = Y := by
  obtain ⟨cell, a1, a2, a3, a4⟩ := h1
  obtain ⟨cell', b1, b2, b3, b4⟩ := h2
  cases a1.symm.trans b1
  exact fc_inj a3 b3
theorem o_lt {X : String} {t : Nat} {B : Nat → Prop} {U : State} {H : Heap} (h1 : va_O X t B U H) : t < H.size := by
  obtain ⟨cell, a1, a2, a3, a4⟩ := h1
  exact (Array.getElem?_eq_some_iff.mp a1).1
theorem ofNat_inj9 : ∀ i, i < 9 → ∀ j, j < 9 → Int32.ofNat i = Int32.ofNat j → i = j := by decide
theorem find_hit {n : Nat} {f : Nat → Nat} {a i : Nat} (hi : i < n) (h : f i = a) : ∃ j, (List.range n).find? (fun k => f k == a) = some j ∧ j < n ∧ f j = a := by
  cases hf : (List.range n).find? (fun k => f k == a) with
  | none =>
    have h1 := List.find?_eq_none.mp hf i (List.mem_range.mpr hi)
    simp [h] at h1
  | some j => exact ⟨j, rfl, List.mem_range.mp (List.mem_of_find?_eq_some hf), by simpa using List.find?_some hf⟩
theorem find_mis {n : Nat} {f : Nat → Nat} {a : Nat} (h : ∀ i, i < n → f i ≠ a) : (List.range n).find? (fun k => f k == a) = none := List.find?_eq_none.mpr fun i hi => by simpa using h i (List.mem_range.mp hi)
/-- the constants -/
def proF (kd adK adV it : Nat → Nat) (cB : ClassId) : PM := fun a =>
  match (List.range 9).find? (fun i => kd i == a) with
  | some i => some (.inr (25, [.int (Int32.ofNat i)]))
  | none => match (List.range 7).find? (fun i => adK i == a) with
    | some i => some (.inr (22, [.ref (adV i), .int 0]))
    | none => match (List.range 7).find? (fun i => adV i == a) with
      | some i => some (.inl (cB, txN.getD i 0, .inl (fun j => (txB.getD i []).getD j 0)))
      | none => match (List.range 256).find? (fun j => it j == a) with
        | some j => some (.inr (23, [.int (Int32.ofNat j - 128)]))
        | none => none
/-- the statics' values -/
def stV (kd adK it : Nat → Nat) (q mi b L : Nat) (v12 v13 v14 : Value) (xs : Nat → Int32) : Nat → Value := fun i =>
  if i < 9 then .ref (kd i) else if i = 9 then .int 1 else if i = 10 then .int 127 else if i = 11 then .ref q else if i = 12 then v12 else if i = 13 then v13 else if i = 14 then v14
  else if 20 ≤ i ∧ i < 27 then .ref (adK (i - 20)) else if 27 ≤ i ∧ i < 34 then .ref (adK (i - 27)) else if i = 40 then .ref mi else if i = 50 then .ref b
  else if i = 51 then .int (Int32.ofNat L) else if 1000 ≤ i ∧ i < 1256 then .ref (it (i - 1000)) else if 2000 ≤ i then .int (xs (i - 2000)) else .null
/-- what the plain layer knows of the start -/
def PS (E : PE) (b L : Nat) (xs : Nat → Int32) : Prop :=
  (∀ i : Nat, i < 9 → ∃ k : Nat, E.1 i = .ref k ∧ k < E.2.2.1 ∧ E.2.2.2 k = some (.inr (25, [.int (Int32.ofNat i)]))) ∧
  E.1 9 = .int 1 ∧ E.1 10 = .int 127 ∧ E.1 11 = .ref (sAd E 11) ∧ (∀ i : Nat, 12 ≤ i → i ≤ 14 → E.1 i = .null ∨ ∃ q : Nat, E.1 i = .ref q) ∧ (∀ i : Nat, i < 7 → sAd E (27 + i) = sAd E (20 + i)) ∧
  (∀ i : Nat, i < 7 → ∃ v : Nat, sAd E (20 + i) < E.2.2.1 ∧ v < E.2.2.1 ∧ E.2.2.2 (sAd E (20 + i)) = some (.inr (22, [.ref v, .int 0])) ∧ E.2.2.2 v = some (.inl (E.2.1 1, txN.getD i 0, .inl (fun j => (txB.getD i []).getD j 0)))) ∧
  (∀ j : Nat, j < 256 → sAd E (1000 + j) < E.2.2.1 ∧ E.2.2.2 (sAd E (1000 + j)) = some (.inr (23, [.int (Int32.ofNat j - 128)]))) ∧
  sAd E 50 = b ∧ scL E = L ∧ ∀ j : Nat, j < L → E.1 (2000 + j) = .int (xs j)
theorem st_nw {A : Array Value} {s : State} (hts : ∀ w ∈ lw_tbl, w.before A s = true) : NW s := by
  intro w hw hk
  have h1 := hts w hw
  cases w with
  | fieldLinkNest a i b n d g => exact va_Nw.of rfl h1
  | methodLinkNest a i x g => exact va_Nw.of rfl h1
  | declares x => exact va_Nw.of rfl h1
  | castable a b => exact va_Nw.of rfl h1
  | arrayOver t =>
    cases t with
    | object C => exact va_AO.of h1
    | _ => exact absurd (show false = true from hk) Bool.false_ne_true
  | _ => exact absurd (show false = true from hk) Bool.false_ne_true
theorem st_fw {A : Array Value} {s : State} (hts : ∀ w ∈ lw_tbl, w.before A s = true) : ∀ q ∈ fwT, va_Fw q.1 q.2.1 q.2.2 s := by
  refine List.forall_mem_cons.mpr ⟨va_Fw.of (hts _ q570) (hts _ q569) (hts _ q575) (hts _ q573) (hts _ q571), ?_⟩
  refine List.forall_mem_cons.mpr ⟨va_Fw.of (hts _ q683) (hts _ q682) (hts _ q687) (hts _ q685) (hts _ q571), ?_⟩
  refine List.forall_mem_cons.mpr ⟨va_Fw.of (hts _ q695) (hts _ q694) (hts _ q699) (hts _ q697) (hts _ q571), ?_⟩
  refine List.forall_mem_cons.mpr ⟨va_Fw.of (hts _ q989) (hts _ q988) (hts _ q993) (hts _ q991) (hts _ q571), ?_⟩
  refine List.forall_mem_cons.mpr ⟨va_Fw.of (hts _ q1188) (hts _ q1187) (hts _ q1192) (hts _ q1190) (hts _ q571), ?_⟩
  refine List.forall_mem_cons.mpr ⟨va_Fw.of (hts _ q1323) (hts _ q1322) (hts _ q1327) (hts _ q1325) (hts _ q571), ?_⟩
  refine List.forall_mem_cons.mpr ⟨va_Fw.of (hts _ q1341) (hts _ q1340) (hts _ q1345) (hts _ q1343) (hts _ q571), ?_⟩
  refine List.forall_mem_cons.mpr ⟨va_Fw.of (hts _ q2048) (hts _ q2047) (hts _ q2052) (hts _ q2050) (hts _ q571), ?_⟩
  refine List.forall_mem_cons.mpr ⟨va_Fw.of (hts _ q2057) (hts _ q2056) (hts _ q2062) (hts _ q2060) (hts _ q2058), ?_⟩
  exact fun _ h => absurd h List.not_mem_nil
theorem in_nc : (ncT.all fun q => decide (Cond.not (.castable q.1 q.2) ∈ flatC nar1)) = true := by decide +kernel
theorem in_st : (decide (Cond.eq (.static "java/lang/String" "COMPACT_STRINGS" "Z") (.int 1) ∈ flatC nar1) && decide (Cond.eq (.static "java/lang/Integer$IntegerCache" "high" "I") (.int 127) ∈ flatC nar1) && decide (Cond.isRef (.static "jdk/internal/util/Preconditions" "SIOOBE_FORMATTER" "Ljava/util/function/BiFunction;") ∈ flatC nar1) && decide (Cond.isRef (.static "java/lang/Throwable" "UNASSIGNED_STACK" "[Ljava/lang/StackTraceElement;") ∈ flatC nar1) && decide (Cond.isRef (.static "java/lang/Throwable" "SUPPRESSED_SENTINEL" "Ljava/util/List;") ∈ flatC nar1) && decide (Cond.isRef (.mirror "[Ljava/lang/Object;") ∈ flatC nar1)) = true := by decide +kernel
set_option maxHeartbeats 4000000 in
theorem st_world {p : Program} {s : State} {m : MethodId} {meth : Method} {c : Code} {b L : Nat} {xs : Nat → Int32} (hL : L ≤ 320) (C0 : lw_At p s m meth c b L xs) : ∃ (D : va_G) (E : PE), WK D E s s.heap ∧ E.2.2.1 = s.heap.size ∧ PS E b L xs := by
  obtain ⟨hx, hcode, hret, hml, hown, hts, hX, hbl, hlk, hgv⟩ := C0
  have hs := flat_of_before _ hgv
  have hB : ∀ a : Nat, a < s.heap.size → ¬ s.heap.size ≤ a := fun a h => Nat.not_le.mpr h
  obtain ⟨D, hD⟩ := st_cl hts
  obtain ⟨ca, hca⟩ := st_ar hts
  obtain ⟨kd, hkd⟩ := st_kd (B := fun q => s.heap.size ≤ q) hs hB
  obtain ⟨adK, adV, had⟩ := st_tx (B := fun q => s.heap.size ≤ q) hs hB
  obtain ⟨q, it, hq, hqT, hit⟩ := st_ic (B := fun q => s.heap.size ≤ q) hs hB
  have hst := in_st
  simp only [Bool.and_eq_true, decide_eq_true_eq] at hst
  obtain ⟨⟨⟨⟨⟨s1, s2⟩, s3⟩, s4⟩, s5⟩, s6⟩ := hst
  obtain ⟨mi, hmi⟩ := va_Mi.of (hs _ s6)
  have href : ∀ tm : Term, (Cond.isRef tm).before #[Value.ref b] s = true → ∃ v : Value, tm.eval #[Value.ref b] s none [] s = some v ∧ (v = .null ∨ ∃ q : Nat, v = .ref q) := by
    intro tm hr
    obtain ⟨v, hv, hr⟩ := Cond.isRef_spec hr
    refine ⟨v, hv, ?_⟩
    cases v with
    | null => exact Or.inl rfl
    | ref a => exact Or.inr ⟨a, rfl⟩
    | _ => cases hr
  obtain ⟨v12, hv12, hr12⟩ := href _ (hs _ s3)
  obtain ⟨v13, hv13, hr13⟩ := href _ (hs _ s4)
  obtain ⟨v14, hv14, hr14⟩ := href _ (hs _ s5)
  refine ⟨D, (stV kd adK it q mi b L v12 v13 v14 xs, ca, s.heap.size, proF kd adK adV it (ca 1)), ?_, rfl, ?_⟩
  · refine ⟨⟨hD, ?_⟩, st_nw hts, ?_, ?_, ?_⟩
    · intro k z hz
      have hk : ∃ ty : FieldType, tyT[k]? = some ty ∧ z = (ca k, ty) := by
        match k, hz with
        | 0, h => exact ⟨_, rfl, (Option.some.inj h).symm⟩
        | 1, h => exact ⟨_, rfl, (Option.some.inj h).symm⟩
        | 2, h => exact ⟨_, rfl, (Option.some.inj h).symm⟩
        | 3, h => exact ⟨_, rfl, (Option.some.inj h).symm⟩
        | 4, h => exact ⟨_, rfl, (Option.some.inj h).symm⟩
        | 5, h => exact ⟨_, rfl, (Option.some.inj h).symm⟩
        | 6, h => exact ⟨_, rfl, (Option.some.inj h).symm⟩
        | 7, h => exact ⟨_, rfl, (Option.some.inj h).symm⟩
        | n + 8, h => cases h
      obtain ⟨ty, h1, rfl⟩ := hk
      exact (hca k ty h1).1
    · intro a x hx
      change proF kd adK adV it (ca 1) a = some x at hx
      unfold proF at hx
      split at hx
      · rename_i i hi
        cases hx
        have e : kd i = a := by simpa using List.find?_some hi
        have hi9 := List.mem_range.mp (List.mem_of_find?_eq_some hi)
        subst e
        refine ⟨(hkd i hi9).2.1, fun k v hv => ?_⟩
        match k, hv with
        | 0, hv => cases hv; exact (hkd i hi9).2.2
      · split at hx
        · rename_i i hi
          cases hx
          have e : adK i = a := by simpa using List.find?_some hi
          have hi9 := List.mem_range.mp (List.mem_of_find?_eq_some hi)
          subst e
          refine ⟨(had i hi9).2.2.1, fun k v hv => ?_⟩
          match k, hv with
          | 0, hv => cases hv; exact (had i hi9).2.2.2.2.1
          | 1, hv => cases hv; exact (had i hi9).2.2.2.1
        · split at hx
          · rename_i i hi
            cases hx
            have e : adV i = a := by simpa using List.find?_some hi
            have hi9 := List.mem_range.mp (List.mem_of_find?_eq_some hi)
            subst e
            refine ⟨fun h => ?_, Or.inl ⟨rfl, (had i hi9).2.2.2.2.2.1⟩⟩
            have g0 := (hca 0 _ rfl).2
            have g1 := (hca 1 _ rfl).2
            have h' : ca 0 = ca 1 := h
            rw [h'] at g0
            exact absurd (fc_inj g0 g1) (by decide)
          · split at hx
            · rename_i i hi
              cases hx
              have e : it i = a := by simpa using List.find?_some hi
              have hi9 := List.mem_range.mp (List.mem_of_find?_eq_some hi)
              subst e
              refine ⟨(hit i hi9).1, fun k v hv => ?_⟩
              match k, hv with
              | 0, hv => cases hv; exact (hit i hi9).2
            · cases hx
    · intro i z hz
      match i, hz with
      | 0, h => cases h; exact va_Zof (hts _ q1572) (hts _ (lw_all_tbl q126)) (hkd 0 (by decide)).1 hB
      | 1, h => cases h; exact va_Zof (hts _ q1352) (hts _ (lw_all_tbl q126)) (hkd 1 (by decide)).1 hB
      | 2, h => cases h; exact va_Zof (hts _ q1354) (hts _ (lw_all_tbl q126)) (hkd 2 (by decide)).1 hB
      | 3, h => cases h; exact va_Zof (hts _ q1545) (hts _ (lw_all_tbl q126)) (hkd 3 (by decide)).1 hB
      | 4, h => cases h; exact va_Zof (hts _ q1561) (hts _ (lw_all_tbl q126)) (hkd 4 (by decide)).1 hB
      | 5, h => cases h; exact va_Zof (hts _ q1477) (hts _ (lw_all_tbl q126)) (hkd 5 (by decide)).1 hB
      | 6, h => cases h; exact va_Zof (hts _ q1362) (hts _ (lw_all_tbl q126)) (hkd 6 (by decide)).1 hB
      | 7, h => cases h; exact va_Zof (hts _ q1506) (hts _ (lw_all_tbl q126)) (hkd 7 (by decide)).1 hB
      | 8, h => cases h; exact va_Zof (hts _ q1535) (hts _ (lw_all_tbl q126)) (hkd 8 (by decide)).1 hB
      | 9, h => cases h; exact va_Zof (hts _ q243) (hts _ (lw_all_tbl q103)) (va_eqt (hs _ s1)) hB
      | 10, h => cases h; exact va_Zof (hts _ q637) (hts _ (lw_all_tbl q113)) (va_eqt (hs _ s2)) hB
      | 11, h => cases h; exact va_Zof (hts _ q639) (hts _ (lw_all_tbl q113)) hq hB
      | 12, h => cases h; exact va_Zof (hts _ q329) (hts _ (lw_all_tbl q109)) hv12 hB
      | 13, h => cases h; exact va_Zof (hts _ q212) (hts _ (lw_all_tbl q97)) hv13 hB
      | 14, h => cases h; exact va_Zof (hts _ q214) (hts _ (lw_all_tbl q97)) hv14 hB
      | n + 15, h => cases h
    · refine ⟨?_, ?_, vx_Zqof (hts _ q212) (hts _ (lw_all_tbl q97)) (hs _ s4) hB, vx_Zqof (hts _ q214) (hts _ (lw_all_tbl q97)) (hs _ s5) hB, hmi, va_Dc.of (hts _ q2827), ⟨?_, ?_⟩, st_fw hts⟩
      · intro i z hz
        match i, hz with
        | 0, h => cases h; exact vk_R.of (hts _ q2182) (had 0 (by decide)).1
        | 1, h => cases h; exact vk_R.of (hts _ q2183) (had 1 (by decide)).1
        | 2, h => cases h; exact vk_R.of (hts _ q2184) (had 2 (by decide)).1
        | 3, h => cases h; exact vk_R.of (hts _ q2185) (had 3 (by decide)).1
        | 4, h => cases h; exact vk_R.of (hts _ q2186) (had 4 (by decide)).1
        | 5, h => cases h; exact vk_R.of (hts _ q2187) (had 5 (by decide)).1
        | 6, h => cases h; exact vk_R.of (hts _ q2188) (had 6 (by decide)).1
        | 7, h => cases h; exact vk_R.of (hts _ q1128) (had 0 (by decide)).2.1
        | 8, h => cases h; exact vk_R.of (hts _ q975) (had 1 (by decide)).2.1
        | 9, h => cases h; exact vk_R.of (hts _ q1129) (had 2 (by decide)).2.1
        | 10, h => cases h; exact vk_R.of (hts _ q1130) (had 3 (by decide)).2.1
        | 11, h => cases h; exact vk_R.of (hts _ q1131) (had 4 (by decide)).2.1
        | 12, h => cases h; exact vk_R.of (hts _ q1132) (had 5 (by decide)).2.1
        | 13, h => cases h; exact vk_R.of (hts _ q1133) (had 6 (by decide)).2.1
        | n + 14, h => cases h
      · intro z hz
        have h1 := List.all_eq_true.mp in_nc z hz
        exact va_Nc.of (hs _ (by simpa using h1))
      · refine (show va_T (.object "java/lang/Integer") q 256 (fun j => .ref (it j)) (fun q => s.heap.size ≤ q) s s.heap → _ from fun hT => ?_) hqT
        obtain ⟨cell, h1, h2, h3, h4, h5, h6, h7⟩ := hT
        refine ⟨cell, h1, h2, h3, h4, h5, fun j hj => ?_, h7⟩
        rw [h6 j hj]
        have e1 : stV kd adK it q mi b L v12 v13 v14 xs (1000 + j) = .ref (it j) := by
          unfold stV
          rw [if_neg (by omega), if_neg (by omega), if_neg (by omega), if_neg (by omega), if_neg (by omega), if_neg (by omega), if_neg (by omega), if_neg (by omega), if_neg (by omega), if_neg (by omega), if_neg (by omega), if_neg (by omega), if_pos (by omega), show 1000 + j - 1000 = j from by omega]
        simp only [sAd, e1]
      · obtain ⟨scr, h1, h2, h3, h4, h5⟩ := hX
        have e0 : scL (stV kd adK it q mi b L v12 v13 v14 xs, ca, s.heap.size, proF kd adK adV it (ca 1)) = L := by
          show (Int32.ofNat L).toNatClampNeg = L
          exact Int32.toNatClampNeg_ofNat_of_lt (Nat.lt_of_le_of_lt hL (by decide))
        rw [e0]
        refine ⟨scr, h1, h2, h3, Nat.le_of_eq h4.symm, by rw [h4], fun j hj => ?_, Nat.not_le.mpr hbl⟩
        rw [h5 j hj]
        have e1 : stV kd adK it q mi b L v12 v13 v14 xs (2000 + j) = .int (xs j) := by
          unfold stV
          rw [if_neg (by omega), if_neg (by omega), if_neg (by omega), if_neg (by omega), if_neg (by omega), if_neg (by omega), if_neg (by omega), if_neg (by omega), if_neg (by omega), if_neg (by omega), if_neg (by omega), if_neg (by omega), if_neg (by omega), if_pos (by omega), show 2000 + j - 2000 = j from by omega]
        exact congrArg some e1.symm
  · have hkn : ∀ i, i < 9 → ∀ a X, va_O X a (fun q => s.heap.size ≤ q) s s.heap → X ≠ "LeaderLeases$Kind" → kd i ≠ a := fun i hi a X h1 h2 e => h2 (o_diff h1 (e ▸ (hkd i hi).2.1))
    have hsn : ∀ i, i < 7 → ∀ a X, va_O X a (fun q => s.heap.size ≤ q) s s.heap → X ≠ "java/lang/String" → adK i ≠ a := fun i hi a X h1 h2 e => h2 (o_diff h1 (e ▸ (had i hi).2.2.1))
    have hvn : ∀ i, i < 7 → ∀ a X, va_O X a (fun q => s.heap.size ≤ q) s s.heap → X ≠ "[B" → adV i ≠ a := fun i hi a X h1 h2 e => h2 (o_diff h1 (e ▸ (had i hi).2.2.2.2.2.2.1))
    refine ⟨fun i hi => ⟨kd i, ?_, o_lt (hkd i hi).2.1, ?_⟩, rfl, rfl, rfl, (fun i h1 h2 => by
      have : i = 12 ∨ i = 13 ∨ i = 14 := by omega
      rcases this with rfl | rfl | rfl
      · exact hr12
      · exact hr13
      · exact hr14), ?_, ?_, ?_, rfl, ?_, ?_⟩
    · show stV kd adK it q mi b L v12 v13 v14 xs i = _
      unfold stV
      rw [if_pos hi]
    · show proF kd adK adV it (ca 1) (kd i) = _
      obtain ⟨j, h1, h2, h3⟩ := find_hit (f := kd) (a := kd i) hi rfl
      have h4 := of_uniq (hkd i hi).2.2 (h3 ▸ (hkd j h2).2.2)
      have h5 : i = j := ofNat_inj9 i hi j h2 (Value.int.inj h4)
      subst h5
      simp only [proF, h1]
    · intro i hi
      have e1 : stV kd adK it q mi b L v12 v13 v14 xs (27 + i) = .ref (adK i) := by
        unfold stV
        rw [if_neg (by omega), if_neg (by omega), if_neg (by omega), if_neg (by omega), if_neg (by omega), if_neg (by omega), if_neg (by omega), if_neg (by omega), if_pos (by omega), show 27 + i - 27 = i from by omega]
      have e2 : stV kd adK it q mi b L v12 v13 v14 xs (20 + i) = .ref (adK i) := by
        unfold stV
        rw [if_neg (by omega), if_neg (by omega), if_neg (by omega), if_neg (by omega), if_neg (by omega), if_neg (by omega), if_neg (by omega), if_pos (by omega), show 20 + i - 20 = i from by omega]
      simp only [sAd, e1, e2]
    · intro i hi
      have e2 : stV kd adK it q mi b L v12 v13 v14 xs (20 + i) = .ref (adK i) := by
        unfold stV
        rw [if_neg (by omega), if_neg (by omega), if_neg (by omega), if_neg (by omega), if_neg (by omega), if_neg (by omega), if_neg (by omega), if_pos (by omega), show 20 + i - 20 = i from by omega]
      obtain ⟨g1, g2, g3, g4, g5, g6, g7, g8⟩ := had i hi
      refine ⟨adV i, ?_, o_lt g7, ?_, ?_⟩
      · simp only [sAd, e2]
        exact o_lt g3
      · simp only [sAd, e2]
        obtain ⟨j, h1, h2, h3⟩ := find_hit (f := adK) (a := adK i) hi rfl
        have h5 : i = j := g8 j h2 h3.symm
        subst h5
        simp only [proF, find_mis (fun k hk => hkn k hk _ _ g3 (by decide)), h1]
      · show proF kd adK adV it (ca 1) (adV i) = _
        obtain ⟨j, h1, h2, h3⟩ := find_hit (f := adV) (a := adV i) hi rfl
        have h5 : i = j := by
          have t2 := (had j h2).2.2.2.2.2.1
          rw [h3] at t2
          exact tx_same hi h2 g6 t2
        subst h5
        simp only [proF, find_mis (fun k hk => hkn k hk _ _ g7 (by decide)), find_mis (fun k hk => hsn k hk _ _ g7 (by decide)), h1]
    · intro j hj
      have e1 : stV kd adK it q mi b L v12 v13 v14 xs (1000 + j) = .ref (it j) := by
        unfold stV
        rw [if_neg (by omega), if_neg (by omega), if_neg (by omega), if_neg (by omega), if_neg (by omega), if_neg (by omega), if_neg (by omega), if_neg (by omega), if_neg (by omega), if_neg (by omega), if_neg (by omega), if_neg (by omega), if_pos (by omega), show 1000 + j - 1000 = j from by omega]
      have g1 := (hit j hj).1
      simp only [sAd, e1]
      refine ⟨o_lt g1, ?_⟩
      obtain ⟨k, h1, h2, h3⟩ := find_hit (f := it) (a := it j) hj rfl
      have h4 := of_uniq (hit j hj).2 (h3 ▸ (hit k h2).2)
      have h5 : j = k := by
        have h6 := Value.int.inj h4
        have h7 : Int32.ofNat j = Int32.ofNat k := by
          have := congrArg (fun x => x + 128) h6
          simpa using this
        exact ofNat_inj31 (Nat.lt_trans hj (by decide)) (Nat.lt_trans h2 (by decide)) h7
      subst h5
      simp only [proF, find_mis (fun k hk => hkn k hk _ _ g1 (by decide)), find_mis (fun k hk => hsn k hk _ _ g1 (by decide)), find_mis (fun k hk => hvn k hk _ _ g1 (by decide)), h1]
    · show (Int32.ofNat L).toNatClampNeg = L
      exact Int32.toNatClampNeg_ofNat_of_lt (Nat.lt_of_le_of_lt hL (by decide))
    · intro j hj
      show stV kd adK it q mi b L v12 v13 v14 xs (2000 + j) = _
      unfold stV
      rw [if_neg (by omega), if_neg (by omega), if_neg (by omega), if_neg (by omega), if_neg (by omega), if_neg (by omega), if_neg (by omega), if_neg (by omega), if_neg (by omega), if_neg (by omega), if_neg (by omega), if_neg (by omega), if_neg (by omega), if_pos (by omega), show 2000 + j - 2000 = j from by omega]
