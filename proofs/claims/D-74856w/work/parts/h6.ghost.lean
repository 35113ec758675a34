/-! ROOM: a run with ghosts: fires and their kinds, the last fire, who set the timer, arrivals at the server -/
set_option maxRecDepth 100000
/-- G-fires, R-fires, late fires, last fire, flag (0: timer of a retry, 1: of a GRANT, 2: of a late GRANT), ACQUIREs at the server, the last of these -/
abbrev JG : Type := Nat × Nat × Nat × Int × Nat × Nat × Int
abbrev jG (r : JG) : Nat := r.1
abbrev jR (r : JG) : Nat := r.2.1
abbrev jL (r : JG) : Nat := r.2.2.1
abbrev jl (r : JG) : Int := r.2.2.2.1
abbrev jf (r : JG) : Nat := r.2.2.2.2.1
abbrev jA (r : JG) : Nat := r.2.2.2.2.2.1
abbrev ja (r : JG) : Int := r.2.2.2.2.2.2
/-- fires -/
def jF (r : JG) : Nat := jG r + jR r + jL r
/-- a fire at t -/
def jFire (r : JG) (t : Int) : JG := (jG r + (if jf r = 1 then 1 else 0), jR r + (if jf r = 0 then 1 else 0), jL r + (if jf r = 0 then 0 else if jf r = 1 then 0 else 1), t, 0, jA r, ja r)
def jFlag (r : JG) (f : Nat) : JG := (jG r, jR r, jL r, jl r, f, jA r, ja r)
def jAcq (r : JG) (t : Int) : JG := (jG r, jR r, jL r, jl r, jf r, jA r + 1, t)
/-- what stays in a run -/
def CST (S0 S : SS) : Prop := s_cf S = s_cf S0 ∧ s_n S = s_n S0 ∧ ∀ j k : Nat, (k = 1 ∨ k = 2 ∨ k = 3 ∨ k = 5 ∨ k = 20 ∨ k = 21) → s_nd S j k = s_nd S0 j k
/-- when the node's clock shows the message's first number and a renewal -/
def xT (S : SS) (m : MG) : Int := (ndRe S m.2.1 (m.2.2.2.1 + s_cf S 5)).toInt
/-- an event, and what it does to the ghosts; fo: what flag a GRANT sets -/
def JE (s : Int) (fo : MG → Nat) (S S' : SS) (g g' : Nat → JG) : Prop :=
  (g' = g ∧ (NEF S S' ∨ DEF S S')) ∨
  (g' = g ∧ Rest S ∧ ∃ t : Int32, S' = pass S t ∧ (now S).toInt < t.toInt ∧ ∀ x : Int, EV S x → t.toInt ≤ x) ∨
  (∃ (k : Nat) (m : MG), (s_ms S)[k]? = some m ∧ tmJ m = (now S).toInt ∧ s < (now S).toInt ∧ (∀ i : Nat, jl (g i) < (now S).toInt) ∧ S' = arrive S k m ∧ AEF S S' k m ∧
    ((s_nd S' m.2.1 8 = s_nd S m.2.1 8 ∧ ((m.1 = 0 ∧ g' = fu g m.2.1 (jAcq (g m.2.1) (now S).toInt)) ∨ (m.1 ≠ 0 ∧ g' = g))) ∨
     (s_ms S' = (s_ms S).eraseIdx k ∧ s_nd S m.2.1 2 ≠ 0 ∧ s_nd S m.2.1 3 ≠ 0 ∧
       ((m.1 = 1 ∧ s_nd S' m.2.1 8 = mx (now S + 1) (ndRe S m.2.1 (m.2.2.2.1 + s_cf S 5)) ∧ g' = fu g m.2.1 (jFlag (g m.2.1) (fo m))) ∨
        (m.1 = 2 ∧ s_nd S' m.2.1 8 = mx (now S + 1) (ndRe S m.2.1 (ndAt S m.2.1 (now S) + s_cf S 6)) ∧ g' = fu g m.2.1 (jFlag (g m.2.1) 0)))))) ∨
  (∃ i : Nat, i < s_n S ∧ s < (now S).toInt ∧ due S i = true ∧ s_nd S i 3 = 0 ∧ S' = u_nd S i 8 (-4) ∧ g' = fu g i (jFlag (g i) 0)) ∨
  (∃ i : Nat, i < s_n S ∧ s < (now S).toInt ∧ due S i = true ∧ s_nd S i 3 ≠ 0 ∧ S' = acquire S i ∧ FEF S S' i ∧ g' = fu g i (jFire (g i) (now S).toInt))
section GHS
variable {S0 S S' : SS} {F : SS → (Nat → JG) → Prop} {fo : MG → Nat} {e : Int}
theorem CST.rf : CST S S := ⟨rfl, rfl, fun _ _ _ => rfl⟩
theorem CST.nef (h : CST S0 S) (a : NEF S S') : CST S0 S' := ⟨a.1.trans h.1, a.2.1.trans h.2.1, fun j k hk => (a.2.2.2.2.2.2.2 j k (by omega)).trans (h.2.2 j k hk)⟩
theorem CST.sm (h : CST S0 S) (a : SM S S') : CST S0 S' := ⟨a.1.trans h.1, a.2.1.trans h.2.1, fun j k hk => (a.2.2.2.2.2 j k (by omega) (by omega) (by omega) (by omega) (by omega)).trans (h.2.2 j k hk)⟩
theorem CST.cs (h : CST S0 S) (a : cS S S') : CST S0 S' := ⟨a.1.trans h.1, a.2.1.trans h.2.1, fun j k hk => (by rw [a.2.2]; exact h.2.2 j k hk)⟩
theorem CST.fef {i : Nat} (h : CST S0 S) (a : FEF S S' i) : CST S0 S' := by
  obtain ⟨new, -, -, a1, a2, -, -, a5, -⟩ := a
  exact ⟨a1.trans h.1, a2.trans h.2.1, fun j k hk => (a5 j k (Or.inr (by omega))).trans (h.2.2 j k hk)⟩
theorem CST.nd {i : Nat} {v : Int32} (h : CST S0 S) : CST S0 (u_nd S i 8 v) := ⟨h.1, h.2.1, fun j k hk => (nd_ne (Or.inr (by omega))).trans (h.2.2 j k hk)⟩
theorem CST.pas {t : Int32} (h : CST S0 S) : CST S0 (pass S t) := ⟨(pass_ls (t := t) (List.range (s_n S)) (S, now S, now S)).2.1.trans h.1, n_pass.trans h.2.1, fun j k hk => (pass_nd (by omega)).trans (h.2.2 j k hk)⟩
theorem due_b {i : Nat} (h : due S i = true) : s_nd S i 2 ≠ 0 ∧ (s_nd S i 5).toInt ≤ (now S).toInt ∧ 0 ≤ (s_nd S i 8).toInt ∧ (s_nd S i 8).toInt ≤ (now S).toInt := by
  have k0 : ((0 : Int32)).toInt = 0 := by decide
  unfold due at h
  simp only [Bool.and_eq_true, decide_eq_true_eq, bne_iff_ne, ne_eq, Bool.not_eq_true', Int32.le_iff_toInt_le] at h
  obtain ⟨⟨⟨h1, h2⟩, h3⟩, h4⟩ := h
  refine ⟨h1, ?_, by omega, h4⟩
  unfold paused at h2
  refine Int.not_lt.mp (fun hx => ?_)
  have e1 : (s_nd S i 2 != 0) = true := by simpa using h1
  rw [e1, Bool.true_and, decide_eq_false_iff_not, Int32.lt_iff_toInt_lt] at h2
  exact h2 hx
/-- nothing is due at the start -/
theorem due_s {s : Int} (hI : Inv S0) (hR : Rest S0) {i : Nat} (hi : i < s_n S) (hd : due S i = true) (h : S = S0 ∨ s < (now S).toInt) : s < (now S).toInt := by
  rcases h with rfl | h
  · obtain ⟨d1, d2, d3, d4⟩ := due_b hd
    have N := hI.2.1 i hi
    rcases N.2.2.2.1 with n2 | n2
    · exact absurd n2 d1
    · rcases hR.2.2.2 i hi n2 d2 with q | q
      · rw [q] at d3
        exact absurd d3 (by decide)
      · omega
  · exact h
/-- the induction over a run, with ghosts; s: no event comes up to it -/
theorem gh_ind {s : Int} (hF : ∀ (S : SS) (g : Nat → JG), CST S0 S → F S g → s_gh S 0 ≤ 900000 ∧ (s_ms S).length + (s_dl S).length ≤ 5999)
    (hE : ∀ (S S' : SS) (g g' : Nat → JG), Inv S → Inv S' → CST S0 S → CST S0 S' → (∀ i : Nat, jl (g i) ≤ max (now S).toInt s) → (now S').toInt ≤ e → s < (now S').toInt → JE s fo S S' g g' → F S g → F S' g')
    {g0 : Nat → JG} (h0 : F S0 g0) (hl : ∀ i : Nat, jl (g0 i) ≤ s) (hI0 : Inv S0) (hR0 : Rest S0) {t : Int32} (he : t.toInt = e) (ht : t.toInt ≤ 5000000) (hs : (now S0).toInt ≤ s) (hse : s < e) (hev : ∀ x : Int, EV S0 x → s < x) (n : Nat) :
    Inv (goOn n S0 t) ∧ Rest (goOn n S0 t) ∧ msB n S0 t ∧ CST S0 (goOn n S0 t) ∧ (now (goOn n S0 t)).toInt ≤ e ∧ (goOn n S0 t = S0 ∨ s < (now (goOn n S0 t)).toInt) ∧ ∃ g : Nat → JG, F (goOn n S0 t) g ∧ ∀ i : Nat, jl (g i) ≤ max (now (goOn n S0 t)).toInt s := by
  have G : GOI (fun S => CST S0 S ∧ ((now S).toInt ≤ e ∧ (S = S0 ∨ s < (now S).toInt)) ∧ ∃ g : Nat → JG, (∀ i : Nat, jl (g i) ≤ max (now S).toInt s) ∧ F S g) (fun S => CST S0 S ∧ ((now S).toInt ≤ e ∧ s < (now S).toInt) ∧ ∃ g : Nat → JG, (∀ i : Nat, jl (g i) < (now S).toInt) ∧ F S g) e := by
    refine ⟨fun S h => ?_, fun S h => ?_, fun S t hI hR h h1 h2 h2' h3 hI' => ?_, fun S S' hI h a hI' => ?_, fun S k m hI h hk hm a hI' => ?_, fun S S' hI h a hI' => ?_, fun S i hI h hi hd h3 hI' => ?_, fun S i hI h hi hd h3 a hI' => ?_⟩
    · obtain ⟨c, -, g, -, f⟩ := h
      exact hF S g c f
    · obtain ⟨c, w, g, l, f⟩ := h
      exact ⟨c, ⟨w.1, Or.inr w.2⟩, g, fun i => by have := l i; omega, f⟩
    · obtain ⟨c, w, g, l, f⟩ := h
      have sl : s < t.toInt := by
        rcases w.2 with rfl | q
        · rcases h2' with q | q
          · omega
          · exact hev _ q
        · omega
      refine ⟨c.pas, ⟨h2, sl⟩, g, fun i => ?_, hE S _ g g hI hI' c c.pas l h2 sl (Or.inr (Or.inl ⟨rfl, hR, t, rfl, h1, h3⟩)) f⟩
      show jl (g i) < t.toInt
      have := l i
      omega
    · obtain ⟨c, w, g, l, f⟩ := h
      have en : now S' = now S := by rw [now, a.2.2.2.2.1]
      exact ⟨c.nef a, by rw [en]; exact w, g, by rw [en]; exact l, hE S S' g g hI hI' c (c.nef a) (fun i => by have := l i; omega) (by rw [en]; exact w.1) (by rw [en]; exact w.2) (Or.inl ⟨rfl, Or.inl a⟩) f⟩
    · obtain ⟨c, w, g, l, f⟩ := h
      have a0 := a
      obtain ⟨new, a1, a2, a3, a4, a5, a6⟩ := a
      have en : now (arrive S k m) = now S := a2.2.2.1
      have ll : ∀ i : Nat, jl (g i) ≤ max (now S).toInt s := fun i => by have := l i; omega
      have ww : (now (arrive S k m)).toInt ≤ e ∧ s < (now (arrive S k m)).toInt := by rw [en]; exact w
      rcases a6 with b | ⟨b1, b2, b3, b4⟩
      · by_cases c0 : m.1 = 0
        · refine ⟨c.sm a2, ww, fu g m.2.1 (jAcq (g m.2.1) (now S).toInt), fun i => ?_, hE S _ g _ hI hI' c (c.sm a2) ll ww.1 ww.2 (Or.inr (Or.inr (Or.inl ⟨k, m, hk, hm, w.2, l, rfl, a0, Or.inl ⟨b, Or.inl ⟨c0, rfl⟩⟩⟩))) f⟩
          rw [en]
          by_cases ci : i = m.2.1
          · rw [ci, fu_eq]
            exact l m.2.1
          · rw [fu_ne ci]
            exact l i
        · exact ⟨c.sm a2, ww, g, by rw [en]; exact l, hE S _ g g hI hI' c (c.sm a2) ll ww.1 ww.2 (Or.inr (Or.inr (Or.inl ⟨k, m, hk, hm, w.2, l, rfl, a0, Or.inl ⟨b, Or.inr ⟨c0, rfl⟩⟩⟩))) f⟩
      · have em : s_ms (arrive S k m) = (s_ms S).eraseIdx k := by rw [a1, b1, List.append_nil]
        have lf : ∀ (x : Nat) (i : Nat), jl (fu g m.2.1 (jFlag (g m.2.1) x) i) < (now (arrive S k m)).toInt := fun x i => by
          rw [en]
          by_cases ci : i = m.2.1
          · rw [ci, fu_eq]
            exact l m.2.1
          · rw [fu_ne ci]
            exact l i
        rcases b4 with ⟨k1, t1⟩ | ⟨k2, t2⟩
        · exact ⟨c.sm a2, ww, fu g m.2.1 (jFlag (g m.2.1) (fo m)), lf _, hE S _ g _ hI hI' c (c.sm a2) ll ww.1 ww.2 (Or.inr (Or.inr (Or.inl ⟨k, m, hk, hm, w.2, l, rfl, a0, Or.inr ⟨em, b2, b3, Or.inl ⟨k1, t1, rfl⟩⟩⟩))) f⟩
        · exact ⟨c.sm a2, ww, fu g m.2.1 (jFlag (g m.2.1) 0), lf _, hE S _ g _ hI hI' c (c.sm a2) ll ww.1 ww.2 (Or.inr (Or.inr (Or.inl ⟨k, m, hk, hm, w.2, l, rfl, a0, Or.inr ⟨em, b2, b3, Or.inr ⟨k2, t2, rfl⟩⟩⟩))) f⟩
    · obtain ⟨c, w, g, l, f⟩ := h
      have a0 := a
      obtain ⟨new, a1, a2, a3, a4, a5, a6⟩ := a
      have en : now S' = now S := a5 8 (Or.inl rfl)
      exact ⟨c.cs a4, by rw [en]; exact w, g, by rw [en]; exact l, hE S S' g g hI hI' c (c.cs a4) (fun i => by have := l i; omega) (by rw [en]; exact w.1) (by rw [en]; exact w.2) (Or.inl ⟨rfl, Or.inr a0⟩) f⟩
    · obtain ⟨c, w, g, l, f⟩ := h
      have sl := due_s hI0 hR0 hi hd w.2
      refine ⟨c.nd, ⟨w.1, Or.inr sl⟩, fu g i (jFlag (g i) 0), fun j => ?_, hE S _ g _ hI hI' c c.nd l w.1 sl (Or.inr (Or.inr (Or.inr (Or.inl ⟨i, hi, sl, hd, h3, rfl, rfl⟩)))) f⟩
      show _ ≤ max (now S).toInt s
      by_cases ci : j = i
      · rw [ci, fu_eq]
        exact l i
      · rw [fu_ne ci]
        exact l j
    · obtain ⟨c, w, g, l, f⟩ := h
      have en : now (acquire S i) = now S := LK_acquire.2.2
      have sl := due_s hI0 hR0 hi hd w.2
      refine ⟨c.fef a, ⟨by rw [en]; exact w.1, Or.inr (by rw [en]; exact sl)⟩, fu g i (jFire (g i) (now S).toInt), fun j => ?_, hE S _ g _ hI hI' c (c.fef a) l (by rw [en]; exact w.1) (by rw [en]; exact sl) (Or.inr (Or.inr (Or.inr (Or.inr ⟨i, hi, sl, hd, h3, rfl, a, rfl⟩)))) f⟩
      rw [en]
      by_cases ci : j = i
      · rw [ci, fu_eq]
        show (now S).toInt ≤ _
        omega
      · rw [fu_ne ci]
        exact l j
  obtain ⟨r1, r2, ⟨r3, w, g, l, f⟩, r5⟩ := go_ind G n S0 t hI0 hR0 ⟨CST.rf, ⟨by omega, Or.inl rfl⟩, g0, fun i => by have := hl i; omega, h0⟩ he ht
  exact ⟨r1, r2, r5, r3, w.1, w.2, g, f, l⟩
end GHS
