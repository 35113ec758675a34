/-! KNOWN CELLS that no picture rests on may change -/
set_option maxRecDepth 100000
/-- what a picture rests on: objects but those of the classes 0 and 6, rows that begin with a clock or an Integer -/
def usedE (I : PM) (c : va_E) : Prop := (∃ (ci : Nat) (fs : List Value), c = .inr (ci, fs) ∧ ci ≠ 0 ∧ ci ≠ 6) ∨ ∃ (cl : ClassId) (n : Nat) (f : Nat → Option Nat) (q ci : Nat) (fs : List Value), c = .inl (cl, n, refs f) ∧ f 0 = some q ∧ I q = some (.inr (ci, fs)) ∧ (ci = 3 ∨ ci = 23)
/-- a known cell that may change: rows of ints, of longs; objects of the classes 0 and 6; a row whose first entry is none or a simulation -/
def softR (R : PM) (e : va_E) : Prop := (∃ (cl : ClassId) (n : Nat) (f : Nat → Int32), e = .inl (cl, n, .inl f)) ∨ (∃ (cl : ClassId) (n : Nat) (f : Nat → Int64), e = .inl (cl, n, .inr (.inl f))) ∨ (∃ (ci : Nat) (fs : List Value), e = .inr (ci, fs) ∧ (ci = 0 ∨ ci = 6)) ∨
  ∃ (cl : ClassId) (n : Nat) (f : Nat → Option Nat), e = .inl (cl, n, refs f) ∧ (f 0 = none ∨ ∃ (a : Nat) (fs : List Value), f 0 = some a ∧ R a = some (.inr (1, fs)))
/-- a known cell is set -/
def rU (R : PM) (x : Nat) (e : va_E) : PM := fun b => if b = x then some e else R b
theorem rU_at {R : PM} {x : Nat} {e : va_E} : rU R x e x = some e := if_pos rfl
theorem rU_ne {R : PM} {x b : Nat} {e : va_E} (h : b ≠ x) : rU R x e b = R b := if_neg h
section SWP
variable {E : PE} {B : Nat × Nat} {F : Nat → Nat} {R : PM} {S : SS} {h : PH} {G : Nat → Nat} {ad : Nat → Nat → Nat} {I I' : PM}
theorem softR.nu {e : va_E} (hs : softR R e) (hR : ∀ (b : Nat) (e : va_E), R b = some e → I b = some e) : ¬ usedE I e := by
  intro hu
  rcases hs with ⟨cl, n, f, rfl⟩ | ⟨cl, n, f, rfl⟩ | ⟨ci, fs, rfl, hc⟩ | ⟨cl, n, f, rfl, hf⟩
  · rcases hu with ⟨ci, fs, e, -⟩ | ⟨cl', n', f', q, ci, fs, e, -⟩
    · cases e
    · cases e
  · rcases hu with ⟨ci, fs, e, -⟩ | ⟨cl', n', f', q, ci, fs, e, -⟩
    · cases e
    · cases e
  · rcases hu with ⟨ci', fs', e, h0, h6⟩ | ⟨cl', n', f', q, ci', fs', e, -⟩
    · cases e
      rcases hc with hc | hc
      · exact h0 hc
      · exact h6 hc
    · cases e
  · rcases hu with ⟨ci, fs, e, -⟩ | ⟨cl', n', f', q, ci, fs, e, hq, hi, hc⟩
    · cases e
    · cases e
      rcases hf with hf | ⟨a, gs, hf, ha⟩
      · rw [hf] at hq; cases hq
      · rw [hf] at hq
        cases hq
        rw [hR _ _ ha] at hi
        cases hi
        rcases hc with hc | hc <;> cases hc
theorem ls_used {li j : Nat} {x : va_E} (hx : (lsC E S li)[j]? = some x) : usedE I x := by
  unfold lsC at hx
  refine Or.inl ?_
  split at hx
  · rw [List.getElem?_map] at hx
    cases hm : (s_ms S)[j]? with
    | none => rw [hm] at hx; cases hx
    | some m => rw [hm] at hx; cases hx; exact ⟨_, _, rfl, by decide, by decide⟩
  · split at hx
    · rw [List.getElem?_map] at hx
      cases hm : (s_dl S)[j]? with
      | none => rw [hm] at hx; cases hx
      | some m => rw [hm] at hx; cases hx; exact ⟨_, _, rfl, by decide, by decide⟩
    · split at hx
      · rw [List.getElem?_map] at hx
        cases hm : (s_ou S)[j]? with
        | none => rw [hm] at hx; cases hx
        | some m => rw [hm] at hx; cases hx; exact ⟨_, _, rfl, by decide, by decide⟩
      · rw [List.getElem?_map] at hx
        cases hm : (s_lg S)[j]? with
        | none => rw [hm] at hx; cases hx
        | some m => rw [hm] at hx; cases hx; exact ⟨_, _, rfl, by decide, by decide⟩
theorem IM.up (hn : 1 ≤ s_n S) (hk : ∀ (y : Nat) (c : va_E), I y = some c → usedE I c → I' y = some c) (hi : IM E G ad I S) : IM E G ad I' S := by
  obtain ⟨i1, i2, i3, ⟨md, c, f, a1, a2, a3, a4, a5, a6⟩, ⟨md', c', f', b1, b2, b3, b4, b5, b6⟩, i6, i7, i8⟩ := hi
  have ob : ∀ (y ci : Nat) (fs : List Value), ci ≠ 0 → ci ≠ 6 → I y = some (.inr (ci, fs)) → I' y = some (.inr (ci, fs)) := fun y ci fs h0 h6 hy => hk y _ hy (Or.inl ⟨ci, fs, rfl, h0, h6⟩)
  refine ⟨fun i hi => ⟨ob _ _ _ (by decide) (by decide) (i1 i hi).1, (i1 i hi).2⟩, ⟨ob _ _ _ (by decide) (by decide) i2.1, i2.2⟩, ⟨ob _ _ _ (by decide) (by decide) i3.1, i3.2⟩, ⟨md, c, f, ob _ _ _ (by decide) (by decide) a1, a2, ?_, a4, a5, a6⟩, ⟨md', c', f', ob _ _ _ (by decide) (by decide) b1, b2, ?_, b4, b5, fun i hi => ?_⟩, fun li j x h1 h2 hx => ⟨hk _ _ (i6 li j x h1 h2 hx).1 (ls_used hx), (i6 li j x h1 h2 hx).2⟩, i7, fun i hi => ⟨(i8 i hi).1, ob _ _ _ (by decide) (by decide) (i8 i hi).2⟩⟩
  · exact hk _ _ a3 (Or.inr ⟨_, _, f, _, 3, _, rfl, a6 0 (by omega), (i1 0 (by omega)).1, Or.inl rfl⟩)
  · obtain ⟨q, q1, q2⟩ := b6 0 (by omega)
    exact hk _ _ b3 (Or.inr ⟨_, _, f', q, 23, _, rfl, q1, q2, Or.inr rfl⟩)
  · obtain ⟨q, q1, q2⟩ := b6 i hi
    exact ⟨q, q1, ob _ _ _ (by decide) (by decide) q2⟩
/-- a known cell changes -/
theorem RP.swap {x : Nat} {e e' : va_E} (hr : RP E B G ad I S h) (hx : I x = some e) (hu : ¬ usedE I e) : RP E B G ad (rU I x e') S (p_set h x e') := by
  obtain ⟨r1, r2, r3, r4, r5, r6, r7, r8, r9⟩ := hr
  have ng : ∀ k : Nat, mR (s_n S) k → G k ≠ x := fun k hk hy => by
    have := (r3 k hk).1
    rw [hy, hx] at this
    cases this
  refine ⟨r1, fun b c hb => ?_, fun k hk => ⟨?_, (r3 k hk).2.1, (r3 k hk).2.2⟩, r4, fun k hk => ?_, r6.up r7.1 (fun y c hy hc => ?_), r7, r8, r9⟩
  · by_cases hbx : b = x
    · subst hbx
      rw [rU_at] at hb
      cases hb
      exact ⟨ps_at, (r2 b e hx).2⟩
    · rw [rU_ne hbx] at hb
      rw [ps_ne hbx]
      exact r2 b c hb
  · rw [rU_ne (ng k hk)]
    exact (r3 k hk).1
  · obtain ⟨c, c1, c2⟩ := r5 k hk
    exact ⟨c, by rw [ps_ne (ng k hk)]; exact c1, c2⟩
  · have hyx : y ≠ x := fun hyx => by
      rw [hyx, hx] at hy
      cases hy
      exact hu hc
    rw [rU_ne hyx]
    exact hy
theorem SP.swap {x : Nat} {e e' : va_E} (hS : SP E B F R S h) (hx : R x = some e) (hs : softR R e) : SP E B F (rU R x e') S (p_set h x e') := by
  obtain ⟨G, ad, I, g1, g2, hr⟩ := hS
  refine ⟨G, ad, _, g1, fun b c hb => ?_, hr.swap (g2 x e hx) (hs.nu g2)⟩
  by_cases hbx : b = x
  · subst hbx
    rw [rU_at] at hb ⊢
    exact hb
  · rw [rU_ne hbx] at hb ⊢
    exact g2 b c hb
/-- less is known -/
theorem RP.sub (hr : RP E B G ad I S h) (hs : ∀ (b : Nat) (e : va_E), I' b = some e → I b = some e) (hk : ∀ (y : Nat) (c : va_E), I y = some c → usedE I c → I' y = some c) : RP E B G ad I' S h := by
  obtain ⟨r1, r2, r3, r4, r5, r6, r7, r8, r9⟩ := hr
  refine ⟨r1, fun b c hb => r2 b c (hs b c hb), fun k hk => ⟨?_, (r3 k hk).2.1, (r3 k hk).2.2⟩, r4, r5, r6.up r7.1 hk, r7, r8, r9⟩
  cases hx : I' (G k) with
  | none => rfl
  | some c =>
    have := hs _ _ hx
    rw [(r3 k hk).1] at this
    cases this
end SWP
