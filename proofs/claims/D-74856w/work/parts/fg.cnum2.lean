/-! THE COMPONENT reads: numbers and clocks in the picture -/
set_option maxRecDepth 100000
def cls (k : Nat) : Nat := if k = 1 then 9 else if k = 2 then 10 else if k = 3 then 8 else 11
/-- the error e is thrown -/
def RZ {α : Type} (n0 C s : Nat) (h : PH) (e : Nat × Nat) (o : Option (((Nat × Nat) ⊕ α) × PH)) : Prop := ∃ (q : Nat) (h' : PH), o = some (.inl (cls e.1, q), h') ∧ h'.1 q = some (cErr (cls e.1) e.2) ∧ n0 ≤ q ∧ q < pn h' ∧ GR n0 C s h h'
section CNQ
variable {n0 X bA sA sim pa ca ha lc ld len p : Nat} {ns : List (Nat × Nat × Nat)} {le : Int32} {bf : Nat → Nat} {c : CS} {h h' : PH}
theorem RZ.after {α : Type} {C s C' s' : Nat} {e : Nat × Nat} {o : Option (((Nat × Nat) ⊕ α) × PH)} (g : GR n0 C s h h') (r : RZ n0 C' s' h' e o) : RZ n0 (C + C') (s + s') h e o := by
  obtain ⟨q, h2, a1, a2, a3, a4, a5⟩ := r
  exact ⟨q, h2, a1, a2, a3, a4, g.trans a5 (Nat.le_refl _)⟩
theorem RZ.more {α : Type} {C s C' s' : Nat} {e : Nat × Nat} {o : Option (((Nat × Nat) ⊕ α) × PH)} (r : RZ n0 C s h e o) (h1 : C ≤ C') (h2 : s ≤ s') : RZ n0 C' s' h e o := by
  obtain ⟨q, h2', a1, a2, a3, a4, a5⟩ := r
  exact ⟨q, h2', a1, a2, a3, a4, a5.more (Nat.le_refl _) h1 h2⟩
/-- an exception passes on -/
theorem RZ.xo {α β : Type} {C s : Nat} {e : Nat × Nat} {o : Option (((Nat × Nat) ⊕ α) × PH)} {Z : ((Nat × Nat) ⊕ α) → PH → Option (((Nat × Nat) ⊕ β) × PH)} (hb : pbase h ≤ n0) (r : RZ n0 C s h e o) (hZ : ∀ (ci q : Nat) (h1 : PH), Z (.inl (ci, q)) h1 = xo_ h1 ci q := by intros; rfl) : RZ n0 C s h e (cl_ o Z) := by
  obtain ⟨q, h2, a1, a2, a3, a4, a5⟩ := r
  refine ⟨q, h2, ?_, a2, a3, a4, a5⟩
  rw [cl_eq a1, hZ]
  have := a5.base
  exact if_pos (by omega)
/-- a number in the picture -/
theorem q_num {lo hi : Nat} (hlo : lo ≤ 2147483647) (hhi : hi ≤ 2147483647) (h1 : 1 ≤ pcl h) (h2 : 7 ≤ psl h) (hP : PPS n0 X bA sA sim le pa ca ha lc ld bf len ns c p h) :
    (∀ d : Nat × Nat, nmb bf len lo hi p = .inr d → f_X8_number (some pa) (Int32.ofNat lo) (Int32.ofNat hi) h = some (.inr (Int32.ofNat d.1), pP h pa ca ha X d.2) ∧ PPS n0 X bA sA sim le pa ca ha lc ld bf len ns c d.2 (pP h pa ca ha X d.2)) ∧
    (∀ e : Nat × Nat, nmb bf len lo hi p = .inl e → RZ n0 1 7 h e (f_X8_number (some pa) (Int32.ofNat lo) (Int32.ofNat hi) h)) := by
  have hb := hP.pb
  have g := p_number (E := h.2.1) hlo hhi hP.2.1.2.2.2.2.2.1 rfl (by omega) h1 h2 hb.2.2.1 hP.1
  refine ⟨fun d hd => ⟨g.1 d hd, hP.at_ (nmb_ok hb.2.2.2.1 hd).2.2.2⟩, fun e he => ?_⟩
  obtain ⟨q, q1, q2, q3⟩ := g.2 e he
  have ec : 8 + e.1 = cls e.1 := by
    unfold cls
    rcases q3 with q3 | q3 <;> rw [q3] <;> rfl
  rw [ec] at q2
  refine ⟨pn h, _, q2, pn_at, hb.2.1, Nat.lt_succ_self _, ?_⟩
  have g1 : GR n0 0 0 h (pP h pa ca ha X q) := GR.set hP.2.2.2.2.1
  have g2 : GR n0 1 7 (pP h pa ca ha X q) (p_new (pP h pa ca ha X q) (cErr (cls e.1) e.2) 7) := GR.new (by show n0 ≤ pn h; omega) h1 h2
  exact (g1.trans g2 (Nat.le_refl _)).more (Nat.le_refl _) (by omega) (by omega)
theorem set_new {a k : Nat} {e e' x : va_E} (ha : a ≠ pn h) : p_set (p_set (p_new h e k) a x) (pn h) e' = p_set (p_new h e' k) a x := by
  unfold p_set p_new
  refine Prod.ext (funext fun b => ?_) rfl
  by_cases c1 : b = pn h
  · subst c1
    simp [Ne.symm ha]
  · simp [c1]
/-- a clock -/
theorem q_clk (h1 : 2 ≤ pcl h) (h2 : 9 ≤ psl h) (hP : PPS n0 X bA sA sim le pa ca ha lc ld bf len ns c p h) :
    (∀ r o : Nat × Nat, nmb bf len 900 1100 p = .inr r → nmb bf len 0 100000 r.2 = .inr o → ∃ h' : PH, f_X8_clock (some pa) h = some (.inr (some (pn h)), h') ∧ h'.1 (pn h) = some (.inr (3, [.int (Int32.ofNat r.1), .int (Int32.ofNat o.1)])) ∧ PPS n0 X bA sA sim le pa ca ha lc ld bf len ns c o.2 h' ∧ GR n0 1 2 h h' ∧ pn h' = pn h + 1) ∧
    (∀ e : Nat × Nat, nmb bf len 900 1100 p = .inl e → RZ n0 2 9 h e (f_X8_clock (some pa) h)) ∧
    (∀ r e : Nat × Nat, nmb bf len 900 1100 p = .inr r → nmb bf len 0 100000 r.2 = .inl e → RZ n0 2 9 h e (f_X8_clock (some pa) h)) := by
  have hb := hP.pb
  have ea := hP.1.1
  have k1 := q_num (lo := 900) (hi := 1100) (by decide) (by decide) (by omega) (by omega) hP
  have e0 : f_X8_clock (some pa) h = (cl_ (f_X8_number (some pa) (Int32.ofNat 900) (Int32.ofNat 1100) h) fun z9 h1 => match z9 with | .inl (ci9, q9) => (xo_ h1 ci9 q9) | .inr v2 => (nO h1 3 2 [.int 0, .int 0] fun a3 h4 => rv_ h4 (some pa) 7 (cl_ (f_X8_number (some pa) (0 : Int32) (100000 : Int32) h4) fun z9 h5 => match z9 with | .inl (ci9, q9) => (xo_ h5 ci9 q9) | .inr v6 => (cl_ (f_X4_init a3 v2 v6 h5) fun _u h7 => some (.inr (some a3), h7))))) := by
    unfold f_X8_clock
    rw [rv_at ea]
    rfl
  rw [e0]
  have k2 : ∀ r : Nat × Nat, nmb bf len 900 1100 p = .inr r → _ := fun r hr => k1.1 r hr
  have mid : ∀ r : Nat × Nat, nmb bf len 900 1100 p = .inr r → ∃ H : PH, PPS n0 X bA sA sim le pa ca ha lc ld bf len ns c r.2 H ∧ GR n0 1 2 h H ∧ pn H = pn h + 1 ∧ pcl H + 1 = pcl h ∧ psl H + 2 = psl h ∧ H = p_new (pP h pa ca ha X r.2) (.inr (3, [.int 0, .int 0])) 2 := fun r hr => by
    refine ⟨_, (k1.1 r hr).2.grow (h' := p_new (pP h pa ca ha X r.2) (.inr (3, [.int 0, .int 0])) 2) (C := 1) (s := 2) (GR.new (Nat.le_refl _) (by show 1 ≤ pcl h; omega) (by show 2 ≤ psl h; omega)), ?_, rfl, by show pcl h - 1 + 1 = pcl h; omega, by show psl h - 2 + 2 = psl h; omega, rfl⟩
    have g1 : GR n0 0 0 h (pP h pa ca ha X r.2) := GR.set hP.2.2.2.2.1
    have g2 : GR n0 1 2 (pP h pa ca ha X r.2) (p_new (pP h pa ca ha X r.2) (.inr (3, [.int 0, .int 0])) 2) := GR.new (by show n0 ≤ pn h; omega) (by show 1 ≤ pcl h; omega) (by show 2 ≤ psl h; omega)
    exact (g1.trans g2 (Nat.le_refl _)).more (Nat.le_refl _) (by omega) (by omega)
  refine ⟨fun r o hr ho => ?_, fun e he => ?_, fun r e hr he => ?_⟩
  · obtain ⟨H, m1, m2, m3, m4, m5, m6⟩ := mid r hr
    have k3 := q_num (lo := 0) (hi := 100000) (by decide) (by decide) (by omega) (by omega) m1
    rw [cl_eq (k1.1 r hr).1]
    dsimp only
    rw [nO_at (h := pP h pa ca ha X r.2) (by show 1 ≤ pcl h; omega) (by show 2 ≤ psl h; omega), ← m6, rv_at m1.1.1, cl_eq (show f_X8_number (some pa) (0 : Int32) (100000 : Int32) H = _ from (k3.1 o ho).1)]
    dsimp only
    have ep : pn (pP h pa ca ha X r.2) = pn h := rfl
    have hne : pn h ≠ pa := by omega
    have eH : H.1 (pn h) = some (.inr (3, [.int 0, .int 0])) := by rw [m6]; exact pn_at (h := pP h pa ca ha X r.2)
    have eH2 : (pP H pa ca ha X o.2).1 (pn h) = some (.inr (3, [.int 0, .int 0])) := (ps_ne hne).trans eH
    have hbH : pbase (pP H pa ca ha X o.2) ≤ pn h := by
      show pbase H ≤ pn h
      have := m2.base
      omega
    unfold f_X4_init
    rw [ep, pV_at eH2 hbH (Nat.le_of_ble_eq_true rfl), pV_at ps_at hbH (Nat.le_of_ble_eq_true rfl), p_set2, cl_eq rfl]
    have ef : p_set (pP H pa ca ha X o.2) (pn h) (.inr (3, (([Value.int 0, Value.int 0].set 0 (.int (Int32.ofNat r.1))).set 1 (.int (Int32.ofNat o.1))))) = pP (p_new (pP h pa ca ha X r.2) (.inr (3, [.int (Int32.ofNat r.1), .int (Int32.ofNat o.1)])) 2) pa ca ha X o.2 := by
      rw [m6]
      exact set_new (h := pP h pa ca ha X r.2) (by rw [ep]; omega)
    rw [ef]
    have m1' := (k1.1 r hr).2.grow (h' := p_new (pP h pa ca ha X r.2) (.inr (3, [.int (Int32.ofNat r.1), .int (Int32.ofNat o.1)])) 2) (C := 1) (s := 2) (GR.new (Nat.le_refl _) (by show 1 ≤ pcl h; omega) (by show 2 ≤ psl h; omega))
    have ho2 := (nmb_ok (nmb_ok hb.2.2.2.1 hr).2.2.2 ho).2.2.2
    refine ⟨_, rfl, (ps_ne hne).trans (pn_at (h := pP h pa ca ha X r.2)), m1'.at_ ho2, ?_, rfl⟩
    have g1 : GR n0 0 0 h (pP h pa ca ha X r.2) := GR.set hP.2.2.2.2.1
    have g2 : GR n0 1 2 (pP h pa ca ha X r.2) (p_new (pP h pa ca ha X r.2) (.inr (3, [.int (Int32.ofNat r.1), .int (Int32.ofNat o.1)])) 2) := GR.new (by show n0 ≤ pn h; omega) (by show 1 ≤ pcl h; omega) (by show 2 ≤ psl h; omega)
    have g3 := (g1.trans g2 (Nat.le_refl _)).trans (GR.set (n := n0) (a := pa) (e := cPar ca ha X o.2) hP.2.2.2.2.1) (Nat.le_refl _)
    exact g3.more (Nat.le_refl _) (by omega) (by omega)
  · exact (RZ.xo hb.1 (k1.2 e he)).more (by omega) (by omega)
  · obtain ⟨H, m1, m2, m3, m4, m5, m6⟩ := mid r hr
    have k3 := q_num (lo := 0) (hi := 100000) (by decide) (by decide) (by omega) (by omega) m1
    rw [cl_eq (k1.1 r hr).1]
    dsimp only
    rw [nO_at (h := pP h pa ca ha X r.2) (by show 1 ≤ pcl h; omega) (by show 2 ≤ psl h; omega), ← m6, rv_at m1.1.1]
    have hbH : pbase H ≤ n0 := by
      have := m2.base
      omega
    exact (RZ.after m2 (RZ.xo hbH (k3.2 e he))).more (by omega) (by omega)
end CNQ
