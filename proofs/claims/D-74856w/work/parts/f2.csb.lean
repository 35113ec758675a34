/-! THE COMPONENT reads: the builder of a word -/
set_option maxRecDepth 100000
/-- h' grew out of h: nothing below n changed, at most C cells and s slots more -/
def GR (n C s : Nat) (h h' : PH) : Prop := (∀ b : Nat, b < n → h'.1 b = h.1 b) ∧ h'.2.1 = h.2.1 ∧ pn h ≤ pn h' ∧ pn h' ≤ pn h + C ∧ pcl h' + (pn h' - pn h) = pcl h ∧ psl h ≤ psl h' + s ∧ psl h' ≤ psl h
section GRW
variable {n n' C C' s s' : Nat} {h h' h'' : PH}
theorem GR.refl : GR n 0 0 h h := ⟨fun _ _ => rfl, rfl, Nat.le_refl _, Nat.le_refl _, by omega, Nat.le_refl _, Nat.le_refl _⟩
theorem GR.trans (g : GR n C s h h') (g' : GR n' C' s' h' h'') (hn : n ≤ n') : GR n (C + C') (s + s') h h'' := by
  obtain ⟨a1, a2, a3, a4, a5, a6, a7⟩ := g
  obtain ⟨b1, b2, b3, b4, b5, b6, b7⟩ := g'
  exact ⟨fun b hb => (b1 b (by omega)).trans (a1 b hb), b2.trans a2, by omega, by omega, by omega, by omega, by omega⟩
theorem GR.more (g : GR n C s h h') (hn : n' ≤ n) (hC : C ≤ C') (hs : s ≤ s') : GR n' C' s' h h' := by
  obtain ⟨a1, a2, a3, a4, a5, a6, a7⟩ := g
  exact ⟨fun b hb => a1 b (by omega), a2, a3, by omega, a5, by omega, a7⟩
theorem GR.base (g : GR n C s h h') : pbase h' = pbase h := by
  have := g.2.1
  unfold pbase
  rw [this]
theorem GR.set {a : Nat} {e : va_E} (ha : n ≤ a) : GR n 0 0 h (p_set h a e) :=
  ⟨fun b hb => ps_ne (by omega), rfl, Nat.le_refl _, Nat.le_refl _, by show pcl h + (pn h - pn h) = pcl h; omega, Nat.le_refl _, Nat.le_refl _⟩
theorem GR.new {e : va_E} {k : Nat} (hn : n ≤ pn h) (h1 : 1 ≤ pcl h) (h2 : k ≤ psl h) : GR n 1 k h (p_new h e k) :=
  ⟨fun b hb => pn_ne (by omega), rfl, Nat.le_succ _, Nat.le_refl _, by show pcl h - 1 + (pn h + 1 - pn h) = pcl h; omega, by show psl h ≤ psl h - k + k; omega, Nat.sub_le _ _⟩
/-- one and the same cell is set in both -/
theorem GR.both {a : Nat} {e : va_E} (g : GR n C s h h') : GR n C s (p_set h a e) (p_set h' a e) := by
  obtain ⟨a1, a2, a3, a4, a5, a6, a7⟩ := g
  refine ⟨fun b hb => ?_, a2, a3, a4, a5, a6, a7⟩
  by_cases c : b = a
  · rw [c, ps_at, ps_at]
  · rw [ps_ne c, ps_ne c, a1 b hb]
end GRW
theorem sh0 (x : Int32) : x >>> ((0 : Int32) &&& 31) = x := by
  rw [show ((0 : Int32) &&& 31) = 0 from by decide]
  apply Int32.toBitVec_inj.mp
  simp
theorem sl0 (x : Int32) : x <<< ((0 : Int32) &&& 31) = x := by
  rw [show ((0 : Int32) &&& 31) = 0 from by decide]
  apply Int32.toBitVec_inj.mp
  simp
/-- the builder's capacity, its cells and slots after n letters -/
def bC (n : Nat) : Nat := if n ≤ 16 then 16 else if n ≤ 34 then 34 else if n ≤ 70 then 70 else if n ≤ 142 then 142 else if n ≤ 286 then 286 else 574
def bK (n : Nat) : Nat := if n ≤ 16 then 0 else if n ≤ 34 then 1 else if n ≤ 70 then 2 else if n ≤ 142 then 3 else if n ≤ 286 then 4 else 5
def bS (n : Nat) : Nat := if n ≤ 16 then 0 else if n ≤ 34 then 34 else if n ≤ 70 then 104 else if n ≤ 142 then 246 else if n ≤ 286 then 532 else 1106
/-- the builder at sb holds the letters w -/
def SB (h : PH) (n0 sb v : Nat) (w : List Nat) : Prop := h.1 sb = some (.inr (21, [.ref v, .int 0, .int 0, .int (Int32.ofNat w.length)])) ∧
  (∃ g : Nat → Int32, h.1 v = some (.inl (h.2.1.2.1 1, bC w.length, .inl g)) ∧ (∀ i : Nat, i < w.length → g i = Int32.ofNat (w.getD i 0)) ∧ ∀ i : Nat, i < bC w.length → fits .byte (.int (g i)) = true) ∧
  n0 ≤ sb ∧ n0 ≤ v ∧ v ≠ sb ∧ sb < pn h ∧ v < pn h ∧ pbase h ≤ n0 ∧ w.length ≤ 400
section BLD
variable {n0 sb v : Nat} {w : List Nat} {h : PH}
theorem SB.cap (hS : SB h n0 sb v w) : w.length ≤ bC w.length := by
  have := hS.2.2.2.2.2.2.2.2
  unfold bC
  repeat' split
  all_goals omega
theorem pB_0 {β : Type} {r : Option Nat} {ci k : Nat} {K : PH → Option β} : pB h r ci k (0 : Int32) K = pV h r ci k (.int 0) K := if_pos (by decide)
theorem pV_set {β : Type} {b a ci k : Nat} {fs : List Value} {x : Value} {K : PH → Option β} (hb : b ≤ a) (hk : k < fs.length) {h : PH} (e : pbase h = b := by rfl) : pV (p_set h a (.inr (ci, fs))) (some a) ci k x K = K (p_set h a (.inr (ci, fs.set k x))) := by
  rw [pV_at ps_at (show pbase h ≤ a by omega) hk, p_set2]
/-- the builder is made -/
theorem sb_new {β : Type} (e9 : h.2.1.1 9 = .int 1) (hb : pbase h ≤ pn h) (h1 : 2 ≤ pcl h) (h2 : 20 ≤ psl h) :
    ∃ h' : PH, (∀ (K : Nat → PH → Option β), (nO h 21 4 [.null, .int 0, .int 0, .int 0] fun a3 h4 => cl_ (f_J8_init a3 h4) fun _u h5 => K a3 h5) = K (pn h) h') ∧ SB h' (pn h) (pn h) (pn h + 1) [] ∧ GR (pn h) 2 20 h h' := by
  refine ⟨p_set (p_new (p_new h (.inr (21, [.null, .int 0, .int 0, .int 0])) 4) (.inl (h.2.1.2.1 1, 16, .inl fun _ => 0)) 16) (pn h) (.inr (21, [.ref (pn h + 1), .int 0, .int 0, .int 0])), fun K => ?_, ?_, ?_⟩
  · rw [nO_at (by omega) (by omega)]
    unfold f_J8_init f_J7_init_J8 f_J7_init_J8_B38
    rw [show (p_new h (.inr (21, [.null, .int 0, .int 0, .int 0])) 4).2.1.1 9 = .int 1 from e9]
    simp only [asI]
    rw [if_neg (show ¬ (1 : Int32) = 0 by decide), show (16 : Int32) = Int32.ofNat 16 from rfl, nA_at (by decide) (by show 1 ≤ pcl h - 1; omega) (by show 16 ≤ psl h - 4; omega)]
    have e1 : ∀ e : va_E, (p_new (p_new h (.inr (21, [.null, .int 0, .int 0, .int 0])) 4) e 16).1 (pn h) = some (.inr (21, [.null, .int 0, .int 0, .int 0])) := fun e => by
      rw [pn_ne (by show pn h ≠ pn h + 1; omega), pn_at]
    rw [pV_at (e1 _) hb (Nat.le_of_ble_eq_true rfl), pB_0, pV_set (b := pbase h) hb (Nat.le_of_ble_eq_true rfl)]
    rfl
  · refine ⟨ps_at, ⟨fun _ => 0, ?_, fun i hi => absurd hi (Nat.not_lt_zero _), fun i hi => (show fits .byte (.int 0) = true by decide)⟩, Nat.le_refl _, Nat.le_succ _, by omega, ?_, ?_, hb, Nat.zero_le _⟩
    · rw [ps_ne (by omega)]
      exact pn_at
    · show pn h < pn h + 1 + 1
      omega
    · show pn h + 1 < pn h + 1 + 1
      omega
  · have g1 : GR (pn h) 1 4 h (p_new h (.inr (21, [.null, .int 0, .int 0, .int 0])) 4) := GR.new (Nat.le_refl _) (by omega) (by omega)
    have g2 := g1.trans (GR.new (n := pn h) (e := .inl (h.2.1.2.1 1, 16, .inl fun _ => 0)) (k := 16) (by show pn h ≤ pn h + 1; omega) (by show 1 ≤ pcl h - 1; omega) (by show 16 ≤ psl h - 4; omega)) (Nat.le_refl _)
    exact (g2.trans (GR.set (Nat.le_refl _)) (Nat.le_refl _)).more (Nat.le_refl _) (by omega) (by omega)
end BLD
