/-! SAVED SIMULATIONS: a picture among the known cells -/
set_option maxRecDepth 100000
/-- b is a cell of the picture itself -/
def own (n : Nat) (G : Nat → Nat) (b : Nat) : Prop := ∃ k : Nat, mR n k ∧ G k = b
/-- the known cells but the picture's own -/
noncomputable def rM (R : PM) (n : Nat) (G : Nat → Nat) : PM := fun b => @ite (Option va_E) (own n G b) (Classical.propDecidable _) none (R b)
/-- the simulation S stands at G, all its cells are known -/
def SVP (E : PE) (R : PM) (G : Nat → Nat) (ad : Nat → Nat → Nat) (S : SS) : Prop :=
  (∀ k : Nat, mR (s_n S) k → E.2.2.1 ≤ G k ∧ ∃ e : va_E, R (G k) = some e ∧ CR E G ad S k e) ∧ (∀ j k : Nat, mR (s_n S) j → mR (s_n S) k → G j = G k → j = k) ∧ IM E G ad (rM R (s_n S) G) S ∧ (1 ≤ s_n S ∧ s_n S ≤ 6)
section SVS
variable {E : PE} {B : Nat × Nat} {F : Nat → Nat} {R : PM} {S Z : SS} {h : PH} {G : Nat → Nat} {ad : Nat → Nat → Nat} {I : PM}
theorem rM_in {n b : Nat} {e : va_E} (hb : rM R n G b = some e) : R b = some e ∧ ¬ own n G b := by
  unfold rM at hb
  by_cases c : own n G b
  · rw [if_pos c] at hb; cases hb
  · rw [if_neg c] at hb; exact ⟨hb, c⟩
theorem rM_of {n b : Nat} {e : va_E} (hb : R b = some e) (ho : ¬ own n G b) : rM R n G b = some e := by
  unfold rM
  rw [if_neg ho]; exact hb
theorem rM_own {n k : Nat} (hk : mR n k) : rM R n G (G k) = none := by
  unfold rM
  exact if_pos ⟨k, hk, rfl⟩
theorem IM_ct {c k : Nat} (h : IM E G ad I S) : IM E G ad I (u_ct S c k) := h
/-- beside a picture that knows its cells it is a picture, too -/
theorem SVP.rp (hv : SVP E R G ad Z) (hS : SP E B F R S h) : RP E B G ad (rM R (s_n Z) G) (ctS Z S) h := by
  obtain ⟨v1, v2, v3, v4⟩ := hv
  have rm := hS.room
  refine ⟨hS.base.1, fun b e hb => hS.tr (rM_in hb).1, fun k hk => ⟨rM_own hk, (v1 k hk).1, ?_⟩, v2, fun k hk => ?_, v3, v4, ?_, ?_⟩
  · obtain ⟨-, e, e1, -⟩ := v1 k hk
    exact (hS.tr e1).2
  · obtain ⟨-, e, e1, e2⟩ := v1 k hk
    exact ⟨e, (hS.tr e1).1, e2.ct hk⟩
  · show pcl h + fu (fu (s_gh Z) 0 (s_gh S 0)) 1 (s_gh S 1) 0 = B.1
    rw [fu_ne (by decide), fu_eq]
    exact rm.1
  · show psl h + fu (fu (s_gh Z) 0 (s_gh S 0)) 1 (s_gh S 1) 1 = B.2
    rw [fu_eq]
    exact rm.2
/-- a known cell that isn't its own changes -/
theorem SVP.swap {x : Nat} {e e' : va_E} (hv : SVP E R G ad Z) (hx : R x = some e) (hs : softR R e) (ho : ¬ own (s_n Z) G x) : SVP E (rU R x e') G ad Z := by
  obtain ⟨v1, v2, v3, v4⟩ := hv
  refine ⟨fun k hk => ?_, v2, v3.up v4.1 (fun y c hy hc => ?_), v4⟩
  · obtain ⟨a, c, c1, c2⟩ := v1 k hk
    exact ⟨a, c, by rw [rU_ne (fun hy => ho ⟨k, hk, hy⟩)]; exact c1, c2⟩
  · obtain ⟨y1, y2⟩ := rM_in hy
    have hyx : y ≠ x := fun hyx => by
      rw [hyx, hx] at y1
      cases y1
      -- e is used, but soft
      rcases hc with ⟨ci, fs, rfl, h0, h6⟩ | ⟨cl, n, f, q, ci, fs, rfl, hq, hi, h3⟩
      · rcases hs with ⟨_, _, _, e⟩ | ⟨_, _, _, e⟩ | ⟨ci', fs', e, h7⟩ | ⟨_, _, _, e, _⟩
        · cases e
        · cases e
        · cases e
          rcases h7 with h7 | h7
          · exact h0 h7
          · exact h6 h7
        · cases e
      · rcases hs with ⟨_, _, _, e⟩ | ⟨_, _, _, e⟩ | ⟨ci', fs', e, h7⟩ | ⟨_, _, f', e, hf⟩
        · cases e
        · cases e
        · cases e
        · cases e
          rcases hf with hf | ⟨a, gs, hf, ha⟩
          · rw [hf] at hq; cases hq
          · rw [hf] at hq
            cases hq
            rw [(rM_in hi).1] at ha
            cases ha
            rcases h3 with h3 | h3 <;> cases h3
    exact rM_of (by rw [rU_ne hyx]; exact y1) y2
/-- more is known -/
theorem SVP.more {R' : PM} (hv : SVP E R G ad Z) (hR : ∀ (b : Nat) (e : va_E), R b = some e → R' b = some e) : SVP E R' G ad Z := by
  obtain ⟨v1, v2, v3, v4⟩ := hv
  refine ⟨fun k hk => ?_, v2, v3.up v4.1 (fun y c hy _ => ?_), v4⟩
  · obtain ⟨a, c, c1, c2⟩ := v1 k hk
    exact ⟨a, c, hR _ _ c1, c2⟩
  · obtain ⟨y1, y2⟩ := rM_in hy
    exact rM_of (hR _ _ y1) y2
/-- known cells are added to a picture -/
theorem RP.more {R' : PM} (hr : RP E B G ad I S h) (hI : ∀ (b : Nat) (e : va_E), I b = some e → R' b = some e) (hh : ∀ (b : Nat) (e : va_E), R' b = some e → h.1 b = some e ∧ b < pn h) : RP E B G ad (rM R' (s_n S) G) S h := by
  obtain ⟨r1, r2, r3, r4, r5, r6, r7, r8, r9⟩ := hr
  refine ⟨r1, fun b e hb => hh b e (rM_in hb).1, fun k hk => ⟨rM_own hk, (r3 k hk).2.1, (r3 k hk).2.2⟩, r4, r5, r6.up r7.1 (fun y c hy _ => ?_), r7, r8, r9⟩
  refine rM_of (hI y c hy) (fun ho => ?_)
  obtain ⟨k, hk, hy2⟩ := ho
  rw [← hy2, (r3 k hk).1] at hy
  cases hy
/-- the cells I, and those of a picture at G -/
noncomputable def kA (I : PM) (n : Nat) (G : Nat → Nat) (h : PH) : PM := fun b => @ite (Option va_E) (own n G b) (Classical.propDecidable _) (h.1 b) (I b)
theorem kA_own {n b : Nat} (ho : own n G b) : kA I n G h b = h.1 b := by
  unfold kA
  rw [if_pos ho]
theorem kA_old {n b : Nat} (ho : ¬ own n G b) : kA I n G h b = I b := by
  unfold kA
  rw [if_neg ho]
theorem IM_G {G' : Nat → Nat} (g : ∀ k : Nat, (40 ≤ k ∧ k ≤ 45) ∨ 70 ≤ k → G' k = G k) (hi : IM E G ad I S) : IM E G' ad I S := by
  obtain ⟨i1, i2, i3, ⟨md, c, f, a1, a2, a3, a4, a5, a6⟩, ⟨md', c', f', b1, b2, b3, b4, b5, b6⟩, i6, i7, i8⟩ := hi
  have g40 := g 40 (by decide)
  have g41 := g 41 (by decide)
  have g42 := g 42 (by decide)
  have g43 := g 43 (by decide)
  have g44 := g 44 (by decide)
  have g45 := g 45 (by decide)
  have g7 : ∀ i : Nat, G' (70 + i) = G (70 + i) := fun i => g (70 + i) (Or.inr (by omega))
  refine ⟨fun i hi => by rw [g7]; exact i1 i hi, ?_, by rw [g41]; exact i3, ⟨md, c, f, by rw [g42, g44]; exact a1, by rw [g42]; exact a2, by rw [g44]; exact a3, by rw [g44]; exact a4, a5, fun i hi => by rw [g7]; exact a6 i hi⟩, ⟨md', c', f', by rw [g43, g45]; exact b1, by rw [g43]; exact b2, by rw [g45]; exact b3, by rw [g45]; exact b4, b5, b6⟩, i6, i7, i8⟩
  unfold cCfg at i2 ⊢
  rw [g40, g41, g42, g43]
  exact i2
/-- a copy is made and kept: it is known from now on -/
theorem SP.save (hS : SP E B F R S h) (hI : Inv S) (hc : cpF B S) (hB2 : B.2 < 2 ^ 25) : ∃ (G' : Nat → Nat) (ad' : Nat → Nat → Nat) (R' : PM) (h1 : PH), f_X2_copy (some (F 0)) h = some (some (G' 0), h1) ∧ SP E B F R' (ctS S (copyS S)) h1 ∧ SVP E R' G' ad' (copyS S) ∧ (∀ (b : Nat) (e : va_E), R b = some e → R' b = some e) ∧ (∀ b : Nat, own (s_n S) G' b → pn h ≤ b) := by
  obtain ⟨G, ad, I, g1, g2, hr⟩ := hS
  have hz : ∀ i : Nat, i < s_n S → ∀ j : Nat, j = 2 ∨ j = 3 ∨ j = 4 → s_nd S i j = 0 ∨ s_nd S i j = 1 := by
    intro i hi j hj
    obtain ⟨-, -, -, n2, n3, n4, -⟩ := hI.2.1 i hi
    rcases hj with rfl | rfl | rfl
    · exact n2
    · exact n3
    · exact n4
  obtain ⟨o, h', e, hr'⟩ := m_copy hr hz hc.1 hc.2 hB2
  rw [g1 0 (by decide)] at e
  have hkn := hr'.2.1
  have hrb : RP E B G ad I (ctS S (copyS S)) h' := hr.back hr'.1 (fun b e hb => hkn b e hb) hr'.2.2.2.2.2.2.2.1 hr'.2.2.2.2.2.2.2.2
  obtain ⟨G', hG'⟩ : ∃ G' : Nat → Nat, gB (pn h) o G = G' := ⟨_, rfl⟩
  have gg : ∀ k : Nat, (40 ≤ k ∧ k ≤ 45) ∨ 70 ≤ k → G' k = G k := fun k hk => by
    rw [← hG']
    exact if_neg (by omega)
  rw [hG'] at hr' e
  have hown : ∀ b : Nat, own (s_n S) G' b → pn h ≤ b := by
    rintro b ⟨k, hk, rfl⟩
    rw [← hG']
    unfold gB
    rw [if_pos (by unfold mR at hk; have := hr.2.2.2.2.2.2.1.2; omega)]
    omega
  have oldn : ∀ (b : Nat) (e : va_E), I b = some e → ¬ own (s_n S) G' b := fun b e hb ho => by
    have := hown b ho
    have := (hr.2.1 b e hb).2
    omega
  refine ⟨G', ad, kA I (s_n S) G' h', h', e, ?_, ?_, fun b c hb => ?_, hown⟩
  · refine ⟨G, ad, rM (kA I (s_n S) G' h') (s_n S) G, g1, fun b c hb => ?_, hrb.more (fun b c hb => ?_) (fun b c hb => ?_)⟩
    · refine rM_of hb (fun ho => ?_)
      obtain ⟨k, hk, hy⟩ := ho
      by_cases cw : own (s_n S) G' b
      · have := hown b cw
        have := (hr.2.2.1 k hk).2.2
        omega
      · rw [kA_old cw, ← hy, (hr.2.2.1 k hk).1] at hb
        cases hb
    · rw [kA_old (oldn b c hb)]
      exact hb
    · by_cases cw : own (s_n S) G' b
      · rw [kA_own cw] at hb
        obtain ⟨k, hk, hy⟩ := cw
        exact ⟨hb, by rw [← hy]; exact (hr'.2.2.1 k hk).2.2⟩
      · rw [kA_old cw] at hb
        exact hkn b c (KN_in hr hb)
  · have him : IM E G' ad I (copyS S) := IM_G gg (show IM E G ad I (copyS S) from hr.2.2.2.2.2.1)
    refine ⟨fun k hk => ?_, hr'.2.2.2.1, him.up hr'.2.2.2.2.2.2.1.1 (fun y c hy hu => ?_), hr'.2.2.2.2.2.2.1⟩
    · obtain ⟨c, c1, c2⟩ := hr'.2.2.2.2.1 k hk
      exact ⟨(hr'.2.2.1 k hk).2.1, c, by rw [kA_own (show own (s_n S) G' (G' k) from ⟨k, hk, rfl⟩)]; exact c1, c2⟩
    · exact rM_of (by rw [kA_old (oldn y c hy)]; exact hy) (oldn y c hy)
  · rw [kA_old (oldn b c (g2 b c hb))]
    exact g2 b c hb
end SVS
