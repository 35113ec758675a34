/-! THE LAW: the known cells that change (the component's object, its buffer, the row of slots, the answer's row, the twin's seven cells) over known cells that don't -/
set_option maxRecDepth 100000
/-- the cells e i at the addresses W i (i below 11) over Rc -/
def KR (Rc : PM) (W : Nat → Nat) (e : Nat → va_E) : PM := fun b => match (List.range 11).find? (fun i => Nat.beq (W i) b) with
  | some i => some (e i)
  | none => Rc b
def WI11 (W : Nat → Nat) : Prop := ∀ i j : Nat, i < 11 → j < 11 → W i = W j → i = j
section KRS
variable {Rc : PM} {W : Nat → Nat} {e : Nat → va_E}
theorem KR_at (hW : WI11 W) {i : Nat} (hi : i < 11) : KR Rc W e (W i) = some (e i) := by
  unfold KR
  cases hf : (List.range 11).find? (fun j => Nat.beq (W j) (W i)) with
  | none =>
    have := List.find?_eq_none.mp hf i (List.mem_range.mpr hi)
    rw [Nat.beq_refl] at this
    exact absurd rfl this
  | some j =>
    have h1 := List.find?_some hf
    have h2 := List.mem_range.mp (List.mem_of_find?_eq_some hf)
    have := hW j i h2 hi (Nat.eq_of_beq_eq_true h1)
    rw [this]
theorem KR_out {b : Nat} (hb : ∀ i : Nat, i < 11 → b ≠ W i) : KR Rc W e b = Rc b := by
  unfold KR
  have : (List.range 11).find? (fun j => Nat.beq (W j) b) = none := List.find?_eq_none.mpr fun j hj hx => hb j (List.mem_range.mp hj) (Nat.eq_of_beq_eq_true hx).symm
  rw [this]
theorem KR_cases {b : Nat} : (∃ i : Nat, i < 11 ∧ b = W i) ∨ ∀ i : Nat, i < 11 → b ≠ W i := by
  by_cases h : ∃ i : Nat, i < 11 ∧ b = W i
  · exact Or.inl h
  · exact Or.inr fun i hi hb => h ⟨i, hi, hb⟩
theorem KR_set (hW : WI11 W) {i : Nat} {x : va_E} (hi : i < 11) : rU (KR Rc W e) (W i) x = KR Rc W (fu e i x) := by
  funext b
  rcases KR_cases (W := W) (b := b) with ⟨j, hj, rfl⟩ | hb
  · rw [KR_at hW hj]
    by_cases c : j = i
    · subst c
      rw [rU_at, fu_eq]
    · rw [rU_ne (fun hy => c (hW j i hj hi hy)), KR_at hW hj, fu_ne c]
  · rw [rU_ne (hb i hi), KR_out hb, KR_out hb]
theorem KR_core (hc : ∀ i : Nat, i < 11 → Rc (W i) = none) {b : Nat} {x : va_E} (hb : Rc b = some x) : KR Rc W e b = some x ∧ ∀ i : Nat, i < 11 → b ≠ W i := by
  have h1 : ∀ i : Nat, i < 11 → b ≠ W i := fun i hi hy => by
    rw [hy, hc i hi] at hb
    cases hb
  exact ⟨by rw [KR_out h1]; exact hb, h1⟩
end KRS
section KRT
variable {E : PE} {B : Nat × Nat} {F : Nat → Nat} {Rc : PM} {W : Nat → Nat} {e : Nat → va_E} {S Z : SS} {h : PH} {G : Nat → Nat} {ad : Nat → Nat → Nat} {R R' : PM}
theorem SP.kset (hS : SP E B F (KR Rc W e) S h) (hW : WI11 W) {i : Nat} {x : va_E} (hi : i < 11) (hs : softR (KR Rc W e) (e i)) : SP E B F (KR Rc W (fu e i x)) S (p_set h (W i) x) := by
  have := hS.swap (e' := x) (KR_at hW hi) hs
  rw [KR_set hW hi] at this
  exact this
/-- less is known: but all that is used -/
theorem SVP.sub (hv : SVP E R G ad Z) (hs : ∀ (b : Nat) (x : va_E), R' b = some x → R b = some x) (hk : ∀ (y : Nat) (c : va_E), R y = some c → usedE R c → R' y = some c) (ho : ∀ b : Nat, own (s_n Z) G b → R' b = R b) : SVP E R' G ad Z := by
  obtain ⟨v1, v2, v3, v4⟩ := hv
  refine ⟨fun k hk' => ?_, v2, v3.up v4.1 (fun y c hy hc => ?_), v4⟩
  · obtain ⟨a, c, c1, c2⟩ := v1 k hk'
    exact ⟨a, c, by rw [ho _ ⟨k, hk', rfl⟩]; exact c1, c2⟩
  · obtain ⟨y1, y2⟩ := rM_in hy
    refine rM_of (hk y c y1 ?_) y2
    rcases hc with ⟨ci, fs, rfl, h0, h6⟩ | ⟨cl, n, f, q, ci, fs, rfl, hq, hi, h3⟩
    · exact Or.inl ⟨ci, fs, rfl, h0, h6⟩
    · exact Or.inr ⟨cl, n, f, q, ci, fs, rfl, hq, (rM_in hi).1, h3⟩
/-- the twin's addresses -/
def AW (W : Nat → Nat) (a7 : Nat) : Nat → Nat := fun i => if i < 7 then W (4 + i) else a7
/-- the twin's cells -/
def tE (E : PE) (A : Nat → Nat) (T : TS) (i : Nat) : va_E := if i = 0 then cTw A (q_sc T) else if i = 1 then .inl (E.2.1 0, 73136, .inl (q_w T)) else if i = 2 then .inl (E.2.1 0, 400, .inl (q_bf T)) else if i = 3 then .inl (E.2.1 0, 160, .inl (q_rd T)) else if i = 4 then .inl (E.2.1 0, 73136, .inl (q_as T)) else if i = 5 then .inl (E.2.1 0, 146272, .inl (q_kp T)) else .inl (E.2.1 3, 2, .inl (q_ik T))
/-- the contents, with the twin's -/
def eT (E : PE) (A : Nat → Nat) (T : TS) (e : Nat → va_E) : Nat → va_E := fun i => if 4 ≤ i then tE E A T (i - 4) else e i
theorem tE_soft {A : Nat → Nat} {T : TS} {i : Nat} : softR R (tE E A T i) := by
  unfold tE
  split
  · exact Or.inr (Or.inr (Or.inl ⟨6, _, rfl, Or.inr rfl⟩))
  split
  · exact Or.inl ⟨_, _, _, rfl⟩
  split
  · exact Or.inl ⟨_, _, _, rfl⟩
  split
  · exact Or.inl ⟨_, _, _, rfl⟩
  split
  · exact Or.inl ⟨_, _, _, rfl⟩
  split
  · exact Or.inl ⟨_, _, _, rfl⟩
  · exact Or.inl ⟨_, _, _, rfl⟩
theorem tw_sets {A : Nat → Nat} {T : TS} (hE : h.2.1 = E) : tw A T h = p_set (p_set (p_set (p_set (p_set (p_set (p_set h (A 6) (tE E A T 6)) (A 5) (tE E A T 5)) (A 4) (tE E A T 4)) (A 3) (tE E A T 3)) (A 2) (tE E A T 2)) (A 1) (tE E A T 1)) (A 0) (tE E A T 0) := by
  subst hE
  rfl
/-- the twin's cells are written -/
theorem SP.twin {T T' : TS} {A : Nat → Nat} (hS : SP E B F (KR Rc W (eT E A T e)) S h) (hW : WI11 W) (hA : ∀ i : Nat, i < 7 → A i = W (4 + i)) : SP E B F (KR Rc W (eT E A T' e)) S (tw A T' h) := by
  rw [tw_sets hS.base.1, hA 0 (by decide), hA 1 (by decide), hA 2 (by decide), hA 3 (by decide), hA 4 (by decide), hA 5 (by decide), hA 6 (by decide)]
  have t : ∀ (f : Nat → va_E) (i : Nat), i < 7 → f (4 + i) = tE E A T i → softR (KR Rc W f) (f (4 + i)) := fun f i hi hf => by rw [hf]; exact tE_soft
  have e6 := hS.kset hW (i := 4 + 6) (x := tE E A T' 6) (by decide) (t _ 6 (by decide) rfl)
  have e5 := e6.kset hW (i := 4 + 5) (x := tE E A T' 5) (by decide) (t _ 5 (by decide) rfl)
  have e4 := e5.kset hW (i := 4 + 4) (x := tE E A T' 4) (by decide) (t _ 4 (by decide) rfl)
  have e3 := e4.kset hW (i := 4 + 3) (x := tE E A T' 3) (by decide) (t _ 3 (by decide) rfl)
  have e2 := e3.kset hW (i := 4 + 2) (x := tE E A T' 2) (by decide) (t _ 2 (by decide) rfl)
  have e1 := e2.kset hW (i := 4 + 1) (x := tE E A T' 1) (by decide) (t _ 1 (by decide) rfl)
  have e0 := e1.kset hW (i := 4 + 0) (x := tE E A T' 0) (by decide) (t _ 0 (by decide) rfl)
  refine e0.less (fun b x hb => ?_)
  rcases KR_cases (W := W) (b := b) with ⟨j, hj, rfl⟩ | hb'
  · rw [KR_at hW hj] at hb ⊢
    rw [← hb]
    have : j = 0 ∨ j = 1 ∨ j = 2 ∨ j = 3 ∨ j = 4 ∨ j = 5 ∨ j = 6 ∨ j = 7 ∨ j = 8 ∨ j = 9 ∨ j = 10 := by omega
    rcases this with rfl | rfl | rfl | rfl | rfl | rfl | rfl | rfl | rfl | rfl | rfl <;> rfl
  · rw [KR_out hb'] at hb ⊢
    exact hb
end KRT
