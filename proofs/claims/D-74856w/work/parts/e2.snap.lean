/-! THE COMPONENT: snapshots -/
set_option maxRecDepth 100000
section SNP
variable {E : PE} {B : Nat × Nat} {F : Nat → Nat} {R : PM} {S Z : SS} {h : PH} {G : Nat → Nat} {ad : Nat → Nat → Nat} {X bA sA : Nat} {len le : Int32}
/-- a saved simulation is copied, and becomes the main one -/
theorem SP.rest (hS : SP E B F R S h) (hv : SVP E R G ad Z) (hI : Inv (ctS Z S)) (hc : cpF B (ctS Z S)) (hB2 : B.2 < 2 ^ 25) : ∃ (F' : Nat → Nat) (h1 : PH), f_X2_copy (some (G 0)) h = some (some (F' 0), h1) ∧ SP E B F' R (copyS (ctS Z S)) h1 := by
  have hr := hv.rp hS
  have hz : ∀ i : Nat, i < s_n (ctS Z S) → ∀ j : Nat, j = 2 ∨ j = 3 ∨ j = 4 → s_nd (ctS Z S) i j = 0 ∨ s_nd (ctS Z S) i j = 1 := by
    intro i hi j hj
    obtain ⟨-, -, -, n2, n3, n4, -⟩ := hI.2.1 i hi
    rcases hj with rfl | rfl | rfl
    · exact n2
    · exact n3
    · exact n4
  obtain ⟨o, h', e, hr'⟩ := m_copy hr hz hc.1 hc.2 hB2
  refine ⟨gB (pn h) o G, h', e, gB (pn h) o G, ad, _, fun _ _ => rfl, fun b c hb => ?_, hr'⟩
  by_cases co : own (s_n Z) G b
  · unfold KN
    rw [if_pos (show rM R (s_n Z) G b ≠ none ∨ ∃ k : Nat, mR (s_n (ctS Z S)) k ∧ G k = b from Or.inr co)]
    exact (hS.tr hb).1
  · exact KN_in hr (rM_of hb co)
/-- the row of saved simulations: the addresses of the slots -/
def SVR (E : PE) (R : PM) (sA : Nat) (sl : Nat → Option Nat) : Prop := ∃ f : Nat → Option Nat, R sA = some (.inl (E.2.1 6, 2, refs f)) ∧ E.2.2.1 ≤ sA ∧ f 0 = sl 0 ∧ f 1 = sl 1
theorem x_saveP (hS : SP E B F R S h) (hB : fitB B (g_mk S 1 6)) {p : Int32} (hp : ¬ iv p 0 1) : okk (f_X1_saveSnapshot (some X) p h) (XT E B F R 20 S) ∧ okk (f_X1_restoreSnapshot (some X) p h) (XT E B F R 20 S) := by
  unfold f_X1_saveSnapshot f_X1_restoreSnapshot
  exact ⟨x_rng0 hS hB hp (x_on (x_check0 hS hB) (fun q h1 _ => rfl)), x_rng0 hS hB hp (x_on (x_check0 hS hB) (fun q h1 _ => rfl))⟩
theorem x_save (hS : SP E B F R S h) (hX : R X = some (cLL bA len le (F 0) sA)) (hI : Inv S) {sl : Nat → Option Nat} (hr : SVR E R sA sl) (hs0 : sl 0 = none ∨ ∃ (a : Nat) (fs : List Value), sl 0 = some a ∧ R a = some (.inr (1, fs))) {s : Nat} (hs : s < 2) (hc : cpF B S) (hB2 : B.2 < 2 ^ 25) :
    ∃ (G' : Nat → Nat) (ad' : Nat → Nat → Nat) (R' : PM) (h1 : PH) (f' : Nat → Option Nat), f_X1_saveSnapshot (some X) (Int32.ofNat s) h = some (.inr (now S), h1) ∧ SP E B F (rU R' sA (.inl (E.2.1 6, 2, refs f'))) (ctS S (copyS S)) h1 ∧ SVP E R' G' ad' (copyS S) ∧ (∀ (b : Nat) (e : va_E), R b = some e → R' b = some e) ∧ (∀ b : Nat, own (s_n S) G' b → pn h ≤ b) ∧ f' s = some (G' 0) ∧ (∀ u : Nat, u < 2 → u ≠ s → f' u = sl u) := by
  have e0 : ((0 : Int64)).toInt = 0 := by decide
  have e1 : ((1 : Int64)).toInt = 1 := by decide
  have es : (Int32.ofNat s).toInt = (s : Int) := of_i (by omega)
  obtain ⟨f, f1, f2, f3, f4⟩ := hr
  obtain ⟨G', ad', R', h1, q1, q2, q3, q4, q5⟩ := hS.save hI hc hB2
  have hX1 : R' X = some (cLL bA len le (F 0) sA) := q4 _ _ hX
  have g4 : ∀ {β : Type} {K : Option Nat → Option β}, gR h (some X) 0 4 K = K (some sA) := gR_at (hS.tr hX).1 rfl
  have row := q2.tr (q4 _ _ f1)
  have eE : h1.2.1 = E := q2.base.1
  have row' : h1.1 sA = some (.inl (h1.2.1.2.1 6, 2, refs f)) := by rw [eE]; exact row.1
  have bs : pbase h1 ≤ sA := by
    show h1.2.1.2.2.1 ≤ sA
    rw [eE]; exact f2
  obtain ⟨-, c, c1, c2⟩ := q3.1 0 (Or.inl (by decide))
  have csim : ∃ fs, c = .inr (1, fs) := by
    unfold CR at c2
    rw [if_pos rfl] at c2
    exact ⟨_, c2⟩
  obtain ⟨fs, rfl⟩ := csim
  have hv : h1.1 (G' 0) = some (.inr (1, fs)) := (q2.tr c1).1
  refine ⟨G', ad', R', p_set h1 sA (.inl (h1.2.1.2.1 6, 2, refs (va_up f s (some (G' 0))))), va_up f s (some (G' 0)), ?_, ?_, q3, q4, q5, ?_, fun u hu hus => ?_⟩
  · unfold f_X1_saveSnapshot
    rw [cl_eq x_in, e0, e1, Int32.toInt_toInt64, es, if_pos (show (0 : Int) ≤ s ∧ (s : Int) ≤ 1 by omega), cl_eq x_check1]
    dsimp only
    rw [g4, x_sim hS hX, r_sim hS, cl_eq q1, sQ_at row' (inR_of (by decide) hs) bs hv ⟨rfl, by decide⟩, clamp9 (by omega)]
    have hsw := q2.swap (e' := .inl (h1.2.1.2.1 6, 2, refs (va_up f s (some (G' 0))))) (q4 _ _ f1) (Or.inr (Or.inr (Or.inr ⟨_, _, f, rfl, ?_⟩)))
    · have hne : X ≠ sA := fun hy => by
        rw [hy, f1] at hX
        cases hX
      rw [x_sim hsw (by rw [rU_ne hne]; exact hX1), r_scN hsw (by decide) (by decide)]
      rfl
    · rw [f3]
      rcases hs0 with hs0 | ⟨a, gs, ha, hg⟩
      · exact Or.inl hs0
      · exact Or.inr ⟨a, gs, ha, q4 _ _ hg⟩
  · rw [eE]
    refine q2.swap (q4 _ _ f1) (Or.inr (Or.inr (Or.inr ⟨_, _, f, rfl, ?_⟩)))
    rw [f3]
    rcases hs0 with hs0 | ⟨a, gs, ha, hg⟩
    · exact Or.inl hs0
    · exact Or.inr ⟨a, gs, ha, q4 _ _ hg⟩
  · simp [va_up]
  · have hu2 : u = 0 ∨ u = 1 := by omega
    have : va_up f s (some (G' 0)) u = f u := by simp [va_up, hus]
    rw [this]
    rcases hu2 with rfl | rfl
    · exact f3
    · exact f4
theorem x_restore0 (hS : SP E B F R S h) (hX : R X = some (cLL bA len le (F 0) sA)) {sl : Nat → Option Nat} (hr : SVR E R sA sl) {s : Nat} (hs : s < 2) (h0 : sl s = none) : f_X1_restoreSnapshot (some X) (Int32.ofNat s) h = some (.inr (-4), h) := by
  have e0 : ((0 : Int64)).toInt = 0 := by decide
  have e1 : ((1 : Int64)).toInt = 1 := by decide
  have es : (Int32.ofNat s).toInt = (s : Int) := of_i (by omega)
  obtain ⟨f, f1, f2, f3, f4⟩ := hr
  have g4 : ∀ {β : Type} {K : Option Nat → Option β}, gR h (some X) 0 4 K = K (some sA) := gR_at (hS.tr hX).1 rfl
  have eE : h.2.1 = E := hS.base.1
  have row' : h.1 sA = some (.inl (h.2.1.2.1 6, 2, refs f)) := by rw [eE]; exact (hS.tr f1).1
  have bs : pbase h ≤ sA := by
    show h.2.1.2.2.1 ≤ sA
    rw [eE]; exact f2
  have fs : f s = none := by
    have : s = 0 ∨ s = 1 := by omega
    rcases this with rfl | rfl
    · rw [f3, h0]
    · rw [f4, h0]
  unfold f_X1_restoreSnapshot
  rw [cl_eq x_in, e0, e1, Int32.toInt_toInt64, es, if_pos (show (0 : Int) ≤ s ∧ (s : Int) ≤ 1 by omega), cl_eq x_check1]
  dsimp only
  rw [g4, aQ_at row' (inR_of (by decide) hs) bs, clamp9 (by omega), fs, if_pos rfl]
theorem x_restore (hS : SP E B F R S h) (hX : R X = some (cLL bA len le (F 0) sA)) (hXb : E.2.2.1 ≤ X) {sl : Nat → Option Nat} (hr : SVR E R sA sl) {s : Nat} (hs : s < 2) (h0 : sl s = some (G 0)) (hv : SVP E R G ad Z) (hI : Inv (ctS Z S)) (hc : cpF B (ctS Z S)) (hB2 : B.2 < 2 ^ 25) :
    ∃ (F' : Nat → Nat) (h1 : PH), f_X1_restoreSnapshot (some X) (Int32.ofNat s) h = some (.inr (now Z), h1) ∧ SP E B F' (rU R X (cLL bA len le (F' 0) sA)) (copyS (ctS Z S)) h1 := by
  have e0 : ((0 : Int64)).toInt = 0 := by decide
  have e1 : ((1 : Int64)).toInt = 1 := by decide
  have es : (Int32.ofNat s).toInt = (s : Int) := of_i (by omega)
  obtain ⟨f, f1, f2, f3, f4⟩ := hr
  have g4 : ∀ {β : Type} {K : Option Nat → Option β}, gR h (some X) 0 4 K = K (some sA) := gR_at (hS.tr hX).1 rfl
  have eE : h.2.1 = E := hS.base.1
  have row' : h.1 sA = some (.inl (h.2.1.2.1 6, 2, refs f)) := by rw [eE]; exact (hS.tr f1).1
  have bs : pbase h ≤ sA := by
    show h.2.1.2.2.1 ≤ sA
    rw [eE]; exact f2
  have fs : f s = some (G 0) := by
    have : s = 0 ∨ s = 1 := by omega
    rcases this with rfl | rfl
    · rw [f3, h0]
    · rw [f4, h0]
  obtain ⟨F', h1, q1, q2⟩ := hS.rest hv hI hc hB2
  obtain ⟨-, c, c1, c2⟩ := hv.1 0 (Or.inl (by decide))
  have csim : ∃ fs, c = .inr (1, fs) := by
    unfold CR at c2
    rw [if_pos rfl] at c2
    exact ⟨_, c2⟩
  obtain ⟨gs, rfl⟩ := csim
  have hx1 : h1.1 X = some (.inr (0, [.ref bA, .int len, .int le, .ref (F 0), .ref sA])) := (q2.tr hX).1
  have bx : pbase h1 ≤ X := by
    show h1.2.1.2.2.1 ≤ X
    rw [q2.base.1]; exact hXb
  have hsw := q2.swap (e' := cLL bA len le (F' 0) sA) hX (Or.inr (Or.inr (Or.inl ⟨0, _, rfl, Or.inl rfl⟩)))
  refine ⟨F', p_set h1 X (cLL bA len le (F' 0) sA), ?_, hsw⟩
  unfold f_X1_restoreSnapshot
  rw [cl_eq x_in, e0, e1, Int32.toInt_toInt64, es, if_pos (show (0 : Int) ≤ s ∧ (s : Int) ≤ 1 by omega), cl_eq x_check1]
  dsimp only
  rw [g4, aQ_at row' (inR_of (by decide) hs) bs, clamp9 (by omega), fs, if_neg (by simp), g4, aQ_at row' (inR_of (by decide) hs) bs, clamp9 (by omega), fs, rv_at (hS.tr c1).1, cl_eq q1, pV_at hx1 bx (Nat.le_of_ble_eq_true rfl)]
  have ep : p_set h1 X (.inr (0, [Value.ref bA, .int len, .int le, .ref (F 0), .ref sA].set 3 (va_rf (some (F' 0))))) = p_set h1 X (cLL bA len le (F' 0) sA) := rfl
  rw [ep, x_sim hsw rU_at, r_scN hsw (by decide) (by decide)]
  have en : s_sc (copyS (ctS Z S)) 8 = now Z := now_copy
  rw [en]
end SNP
