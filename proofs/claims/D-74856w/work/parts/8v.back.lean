/-! a picture that rests while others are written -/
set_option maxRecDepth 100000
/-- the counters of cells and slots are set -/
def u_ct (S : SS) (c k : Nat) : SS := u_gh S (fu (fu (s_gh S) 0 c) 1 k)
/-- all cells of a picture -/
noncomputable def KN (n : Nat) (G : Nat → Nat) (I : PM) (h : PH) : PM := fun b => @ite (Option va_E) (I b ≠ none ∨ ∃ k : Nat, mR n k ∧ G k = b) (Classical.propDecidable _) (h.1 b) none
section BK
variable {E : PE} {B : Nat × Nat} {G : Nat → Nat} {ad : Nat → Nat → Nat} {I : PM} {S : SS} {h h' : PH}
theorem CR.ct {k c j : Nat} {e : va_E} (hk : mR (s_n S) k) (hc : CR E G ad S k e) : CR E G ad (u_ct S c j) k e := by
  unfold CR at hc ⊢
  by_cases h0 : k = 0
  · rw [if_pos h0] at hc ⊢; exact hc
  rw [if_neg h0] at hc ⊢
  by_cases h6 : k = 6
  · rw [if_pos h6] at hc ⊢; exact hc
  rw [if_neg h6] at hc ⊢
  by_cases h5 : 50 ≤ k
  · rw [if_pos h5] at hc ⊢; exact hc
  rw [if_neg h5] at hc ⊢
  by_cases h7 : k = 7 ∨ k = 8 ∨ k = 9
  · rw [if_pos h7] at hc ⊢; exact hc
  rw [if_neg h7] at hc ⊢
  unfold cL at hc ⊢
  by_cases h1 : k = 1
  · rw [if_pos h1] at hc ⊢; exact hc
  rw [if_neg h1] at hc ⊢
  by_cases h2 : k < 6
  · rw [if_pos h2] at hc ⊢; exact hc
  rw [if_neg h2] at hc ⊢
  have hk2 : k - 10 ≠ 0 ∧ k - 10 ≠ 1 := by unfold mR at hk; omega
  have e1 : s_gh (u_ct S c j) (k - 10) = s_gh S (k - 10) := (fu_ne hk2.2).trans (fu_ne hk2.1)
  rw [e1]
  exact hc
theorem RP.back (hr : RP E B G ad I S h) (hE : h'.2.1 = E) (hk : ∀ (b : Nat) (e : va_E), KN (s_n S) G I h b = some e → h'.1 b = some e ∧ b < pn h') {c k : Nat} (hc : pcl h' + c = B.1) (hs : psl h' + k = B.2) : RP E B G ad I (u_ct S c k) h' := by
  obtain ⟨r1, r2, r3, r4, r5, r6, r7, r8, r9⟩ := hr
  have kI : ∀ (b : Nat) (e : va_E), I b = some e → h'.1 b = some e ∧ b < pn h' := by
    intro b e hb
    refine hk b e ?_
    unfold KN
    rw [if_pos (show I b ≠ none ∨ ∃ k : Nat, mR (s_n S) k ∧ G k = b from Or.inl (by rw [hb]; simp))]
    exact (r2 b e hb).1
  have kG : ∀ (k : Nat) (e : va_E), mR (s_n S) k → h.1 (G k) = some e → h'.1 (G k) = some e ∧ G k < pn h' := by
    intro k e hm he
    refine hk (G k) e ?_
    unfold KN
    rw [if_pos (show I (G k) ≠ none ∨ ∃ j : Nat, mR (s_n S) j ∧ G j = G k from Or.inr ⟨k, hm, rfl⟩)]
    exact he
  refine ⟨hE, kI, fun k hm => ?_, r4, fun k hm => ?_, r6, r7, ?_, ?_⟩
  · obtain ⟨e, a1, a2⟩ := r5 k hm
    exact ⟨(r3 k hm).1, (r3 k hm).2.1, (kG k e hm a1).2⟩
  · obtain ⟨e, a1, a2⟩ := r5 k hm
    exact ⟨e, (kG k e hm a1).1, a2.ct hm⟩
  · show pcl h' + fu (fu (s_gh S) 0 c) 1 k 0 = B.1
    rw [fu_ne (by decide), fu_eq]
    exact hc
  · show psl h' + fu (fu (s_gh S) 0 c) 1 k 1 = B.2
    rw [fu_eq]
    exact hs
end BK
