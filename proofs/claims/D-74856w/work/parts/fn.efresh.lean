/-! A FRESH SIMULATION whose own cell was made before: its picture -/
set_option maxRecDepth 100000
/-- the simulation's last cell -/
abbrev sim2e (p cfg : Nat) (seed : Int32) : va_E := .inr (1, [.ref cfg, .ref (p + 12), .ref p, .ref (p + 2), .ref (p + 4), .ref (p + 6), .ref (p + 8), .ref (p + 11), .int 0, .int seed, .int 0, .int 0, .int (-4), .int 0, .int 0, .int 0, .int 0, .int 0, .int 0, .int 0, .int 0, .int (-4)])
/-- the heap behind the constructor -/
def eH (h : PH) (a cfg n : Nat) (seed : Int32) (ck : Nat → Nat) (dl : Nat → Int32) : PH := bh (p_set h a (sim2e (pn h) cfg seed)) (blke h n (nrowe h n) ++ ndce h ck dl n) (52 + n + 21 * n)
/-- addresses: the simulation at a, the others from p on -/
def gE (a p : Nat) (F0 : Nat → Nat) : Nat → Nat := fun k => if k = 0 then a else gB p (fun j => off j - 1) F0 k
theorem gE_0 {a p : Nat} {F0 : Nat → Nat} : gE a p F0 0 = a := if_pos rfl
theorem gE_in {a p k : Nat} {F0 : Nat → Nat} (h0 : k ≠ 0) (hk : k < 16 ∨ (50 ≤ k ∧ k < 70)) : gE a p F0 k = p + (off k - 1) := (if_neg h0).trans (gB_in hk)
theorem gE_out {a p k : Nat} {F0 : Nat → Nat} (hk : ¬ (k < 16 ∨ (50 ≤ k ∧ k < 70))) : gE a p F0 k = F0 k := (if_neg (by omega)).trans (gB_out hk)
theorem ndce_get {h : PH} {ck : Nat → Nat} {dl : Nat → Int32} : ∀ (n i : Nat), i < n → (ndce h ck dl n)[2 * i]? = some (node1 (ck i) (dl i) (pn h + 14 + 2 * i)) ∧ (ndce h ck dl n)[2 * i + 1]? = some (arr8 h)
  | 0, i, hi => absurd hi (Nat.not_lt_zero i)
  | n + 1, i, hi => by
    unfold ndce
    by_cases he : i = n
    · subst he
      rw [List.getElem?_append_right (by rw [ndce_len]; omega), List.getElem?_append_right (by rw [ndce_len]; omega), ndce_len]
      rw [show 2 * i - 2 * i = 0 from by omega, show 2 * i + 1 - 2 * i = 1 from by omega]
      exact ⟨rfl, rfl⟩
    · rw [List.getElem?_append_left (by rw [ndce_len]; omega), List.getElem?_append_left (by rw [ndce_len]; omega)]
      exact ndce_get n i (by omega)
section EFR
variable {E : PE} {B : Nat × Nat} {R : PM} {h : PH} {F0 : Nat → Nat} {n a : Nat} {cf : Nat → Int32} {dl ra of : Nat → Int32} {ad : Nat → Nat → Nat} {S : SS}
/-- Simulation.<init> at a cell made before -/
theorem e_sim (hE : h.2.1 = E) (ha0 : h.1 a = some sim0) (ha : a < pn h) (hba : pbase h ≤ a) (hr1 : 100 ≤ pcl h) (hr2 : 2000 ≤ psl h) (hn : n ≤ 6) (hR : KH R h) (hC : CFG E F0 R n cf dl ra of) :
    f_X2_init a (some (F0 40)) h = some ((), eH h a (F0 40) n (cf 8) (fun i => F0 (70 + i)) dl) := by
  obtain ⟨c1, c2, c3, ⟨m1, d1, f1, a1, a2, a3, a4, a5, a6⟩, ⟨m2, d2, f2, b1, b2, b3, b4, b5, b6⟩, c6⟩ := hC
  have hpb : pbase h = E.2.2.1 := by rw [← hE]
  have e3 : E.2.1 4 = h.2.1.2.1 4 := by rw [hE]
  have hcfg : h.1 (F0 40) = some (.inr (2, Value.ref (F0 41) :: .ref (F0 42) :: .ref (F0 43) :: [.int (cf 3), .int (cf 4), .int (cf 5), .int (cf 6), .int (cf 7), .int (cf 8)])) := (hR _ _ c2.1).1
  have nc : F0 40 ≠ a := fun hy => by rw [hy, ha0] at hcfg; cases hcfg
  rw [e_init (n := n) (dls := .null) ha0 ha hba hr1 (by omega) hn hcfg (hR _ _ c2.1).2 (by rw [hpb]; exact c2.2) (hR _ _ a1).1 (hR _ _ a1).2]
  have hz : (fun _ => none : Nat → Option Nat) = nrowe h 0 := by funext j; simp [nrowe]
  rw [hz]
  have hN := e_nodes (h := h) (a := a) (cfg := F0 40) (ck := fun i => F0 (70 + i)) (dl := dl) (k := 52 + n) ha0 ha hba hr1 (by omega) hn hcfg (hR _ _ c2.1).2 (by rw [hpb]; exact c2.2) (hR _ _ a1).1 (hR _ _ a1).2 (by rw [← e3]; exact (hR _ _ a3).1) (hR _ _ a3).2 (by rw [hpb]; exact a4) a5 a6 (fun i hi => ⟨(hR _ _ (c1 i hi).1).2, _, _, (hR _ _ (c1 i hi).1).1⟩)
    (hR _ _ b1).1 (hR _ _ b1).2 (by rw [← e3]; exact (hR _ _ b3).1) (hR _ _ b3).2 (by rw [hpb]; exact b4) b5 (fun i hi => by obtain ⟨q, q1, q2⟩ := b6 i hi; exact ⟨q, q1, (hR _ _ q2).2, (hR _ _ q2).1⟩) n 0 FU (by omega) (by unfold FU; omega)
  have ez : bh (p_set h a (sim1e (pn h) (F0 40))) (blke h n (nrowe h 0) ++ ndce h (fun i => F0 (70 + i)) dl 0) (52 + n + 21 * 0) = bh (p_set h a (sim1e (pn h) (F0 40))) (blke h n (nrowe h 0)) (0 + 3 + 4 + 3 + 2 + 3 + 2 + 3 + 4 + 3 + 16 + 9 + n) := by
    rw [show ndce h (fun i => F0 (70 + i)) dl 0 = [] from rfl, List.append_nil, show 52 + n + 21 * 0 = 0 + 3 + 4 + 3 + 2 + 3 + 2 + 3 + 4 + 3 + 16 + 9 + n from by omega]
  rw [ez] at hN
  rw [show (0 : Int32) = Int32.ofNat 0 from rfl, hN]
  unfold f_X2_init_L106
  have s0 : (bh (p_set h a (sim1e (pn h) (F0 40))) (blke h n (nrowe h n) ++ ndce h (fun i => F0 (70 + i)) dl n) (52 + n + 21 * n)).1 a = some (sim1e (pn h) (F0 40)) := e_at ha
  have s1 : (bh (p_set h a (sim1e (pn h) (F0 40))) (blke h n (nrowe h n) ++ ndce h (fun i => F0 (70 + i)) dl n) (52 + n + 21 * n)).1 (pn h + 12) = some (.inl ((bh (p_set h a (sim1e (pn h) (F0 40))) (blke h n (nrowe h n) ++ ndce h (fun i => F0 (70 + i)) dl n) (52 + n + 21 * n)).2.1.2.1 5, n, refs (nrowe h n))) := bh_at (h := p_set h a (sim1e (pn h) (F0 40))) (i := 12) rfl
  rw [gR_at s0 (v := pn h + 12) rfl, aN_at s1, if_pos (Int32.le_refl _)]
  rw [gIN_at (h := bh _ _ _) (by rw [e_lo (hR _ _ c2.1).2 nc]; exact hcfg) (by rw [bh_base]; show pbase h ≤ _; rw [hpb]; exact c2.2) (v := cf 8) rfl, e_pV ha hba (Nat.le_of_ble_eq_true rfl)]
  rfl
/-- the picture of a block beside its first cell -/
theorem RP_ble {cs : List va_E} {k : Nat} {x : va_E} (hE : h.2.1 = E) (ha : a < pn h) (hba : pbase h ≤ a) (hRa : R a = none) (hR : KH R h) (hn : 1 ≤ s_n S ∧ s_n S ≤ 6) (hx : CR E (gE a (pn h) F0) ad S 0 x)
    (hc : ∀ k : Nat, mR (s_n S) k → k ≠ 0 → ∃ e : va_E, cs[off k - 1]? = some e ∧ CR E (gE a (pn h) F0) ad S k e) (hI : IM E (gE a (pn h) F0) ad R S) (hB1 : pcl h - cs.length + s_gh S 0 = B.1) (hB2 : psl h - k + s_gh S 1 = B.2) : RP E B (gE a (pn h) F0) ad R S (bh (p_set h a x) cs k) := by
  have hE' : E.2.2.1 = pbase h := by rw [← hE]
  have hm : ∀ k : Nat, mR (s_n S) k → k ≠ 0 → gE a (pn h) F0 k = pn h + (off k - 1) := fun k hk h0 => gE_in h0 (by unfold mR at hk; omega)
  have m0 : mR (s_n S) 0 := Or.inl (by decide)
  have o1 : ∀ k : Nat, mR (s_n S) k → k ≠ 0 → 1 ≤ off k := fun k hk h0 => by
    by_cases c : off k = 0
    · exact absurd (off_inj hn.2 hk m0 (by rw [c]; rfl)) h0
    · omega
  refine ⟨hE, fun b e hb' => ?_, fun k hk => ?_, fun j k hj hk he => ?_, fun k hk => ?_, hI, hn, hB1, hB2⟩
  · obtain ⟨g1, g2⟩ := hR b e hb'
    have hne : b ≠ a := fun hy => by rw [hy, hRa] at hb'; cases hb'
    exact ⟨by rw [e_lo g2 hne, g1], by show b < pn h + cs.length; omega⟩
  · by_cases k0 : k = 0
    · rw [k0, gE_0]
      exact ⟨hRa, by omega, by show a < pn h + cs.length; omega⟩
    · obtain ⟨e, c1, c2⟩ := hc k hk k0
      have hl : off k - 1 < cs.length := (List.getElem?_eq_some_iff.mp c1).1
      rw [hm k hk k0]
      refine ⟨?_, by omega, by show pn h + (off k - 1) < pn h + cs.length; omega⟩
      cases hx : R (pn h + (off k - 1)) with
      | none => rfl
      | some e =>
        have := (hR _ _ hx).2
        omega
  · by_cases j0 : j = 0
    · by_cases k0 : k = 0
      · rw [j0, k0]
      · rw [j0, gE_0, hm k hk k0] at he
        omega
    · by_cases k0 : k = 0
      · rw [k0, gE_0, hm j hj j0] at he
        omega
      · rw [hm j hj j0, hm k hk k0] at he
        have := o1 j hj j0
        have := o1 k hk k0
        exact off_inj hn.2 hj hk (by omega)
  · by_cases k0 : k = 0
    · rw [k0, gE_0]
      exact ⟨x, e_at ha, hx⟩
    · obtain ⟨e, c1, c2⟩ := hc k hk k0
      exact ⟨e, by rw [hm k hk k0]; exact bh_at (h := p_set h a x) c1, c2⟩
/-- the picture of the fresh simulation -/
theorem efresh (hE : h.2.1 = E) (ha : a < pn h) (hba : pbase h ≤ a) (hRa : R a = none) (hr1 : 100 ≤ pcl h) (hr2 : 2000 ≤ psl h) (hn : 1 ≤ n ∧ n ≤ 6) (hR : KH R h) (hC : CFG E F0 R n cf dl ra of) (hB1 : pcl h ≤ B.1) (hB2 : psl h ≤ B.2) :
    RP E B (gE a (pn h) F0) ad R (S0 cf n dl ra of (B.1 - pcl h + (13 + 2 * n)) (B.2 - psl h + (52 + n + 21 * n))) (eH h a (F0 40) n (cf 8) (fun i => F0 (70 + i)) dl) := by
  have hpb : pbase h = E.2.2.1 := by rw [← hE]
  have len : (blke h n (nrowe h n) ++ ndce h (fun i => F0 (70 + i)) dl n).length = 13 + 2 * n := by
    rw [List.length_append, ndce_len]
    rfl
  obtain ⟨c1, c2, c3, ⟨m1, d1, f1, a1, a2, a3, a4, a5, a6⟩, ⟨m2, d2, f2, b1, b2, b3, b4, b5, b6⟩, c6⟩ := hC
  have g4 : ∀ k : Nat, 40 ≤ k → k < 46 → gE a (pn h) F0 k = F0 k := fun k k1 k2 => gE_out (by omega)
  have g7 : ∀ i : Nat, gE a (pn h) F0 (70 + i) = F0 (70 + i) := fun i => gE_out (by omega)
  unfold eH
  refine RP_ble hE ha hba hRa hR hn ?_ (fun k hk k0 => ?_) ?_ ?_ ?_
  · have e : sim2e (pn h) (F0 40) (cf 8) = cSim (gE a (pn h) F0) (sc0 (cf 8)) := by
      unfold cSim
      rw [g4 40 (by decide) (by decide)]
      rfl
    rw [e]
    exact CR_r0
  · rcases mR_cases hk with rfl | rfl | ⟨k1, k2⟩ | rfl | k1 | ⟨k1, k2⟩ | ⟨i, k1, rfl⟩ | ⟨i, k1, rfl⟩
    · exact absurd rfl k0
    · refine ⟨_, rfl, ?_⟩
      rw [hE]
      refine CR_r1 (S := S0 cf n dl ra of (B.1 - pcl h + (13 + 2 * n)) (B.2 - psl h + (52 + n + 21 * n))) (fun i hi => ?_)
      have hi' : i < n := hi
      rw [gE_in (by omega) (by omega)]
      unfold nrowe
      rw [if_pos hi']
      unfold off
      rw [if_neg (by omega), if_neg (by omega), if_neg (by omega), if_neg (by omega), if_neg (by omega), if_neg (by omega), if_neg (by omega), if_pos (by omega), show 14 + 2 * (50 + i - 50) - 1 = 13 + 2 * i from by omega, Nat.add_assoc]
    · have : k = 2 ∨ k = 3 ∨ k = 4 ∨ k = 5 := by omega
      rcases this with rfl | rfl | rfl | rfl <;> exact ⟨_, rfl, CR_rl (by decide) (by decide)⟩
    · exact ⟨_, rfl, CR_r6⟩
    · rcases k1 with rfl | rfl | rfl <;> refine ⟨_, rfl, ?_⟩ <;> (try unfold arr8) <;> rw [hE] <;> exact CR_rv (by decide) (fun r hr => rfl)
    · have : k = 12 ∨ k = 13 ∨ k = 14 ∨ k = 15 := by omega
      rcases this with rfl | rfl | rfl | rfl <;> refine ⟨_, rfl, ?_⟩ <;> rw [hE]
      · exact CR_rr (k := 2) (by decide) (by decide) (fun j hj => absurd hj (Nat.not_lt_zero j)) (fun j _ => rfl) (Nat.zero_le _) (Nat.le_of_ble_eq_true rfl) (Nat.le_of_ble_eq_true rfl)
      · exact CR_rr (k := 3) (by decide) (by decide) (fun j hj => absurd hj (Nat.not_lt_zero j)) (fun j _ => rfl) (Nat.zero_le _) (Nat.le_of_ble_eq_true rfl) (Nat.le_of_ble_eq_true rfl)
      · exact CR_rr (k := 4) (by decide) (by decide) (fun j hj => absurd hj (Nat.not_lt_zero j)) (fun j _ => rfl) (Nat.zero_le _) (Nat.le_of_ble_eq_true rfl) (Nat.le_of_ble_eq_true rfl)
      · exact CR_rr (k := 5) (by decide) (by decide) (fun j hj => absurd hj (Nat.not_lt_zero j)) (fun j _ => rfl) (Nat.zero_le _) (Nat.le_of_ble_eq_true rfl) (Nat.le_of_ble_eq_true rfl)
    · have k1' : i < n := k1
      have eo : off (50 + i) = 14 + 2 * i := by
        unfold off
        rw [if_neg (by omega), if_neg (by omega), if_neg (by omega), if_neg (by omega), if_neg (by omega), if_neg (by omega), if_neg (by omega), if_pos (by omega)]
        omega
      have eo6 : off (60 + i) = 15 + 2 * i := by
        unfold off
        rw [if_neg (by omega), if_neg (by omega), if_neg (by omega), if_neg (by omega), if_neg (by omega), if_neg (by omega), if_neg (by omega), if_neg (by omega)]
        omega
      rw [eo, show 14 + 2 * i - 1 = 13 + 2 * i from by omega]
      refine ⟨cNode (gE a (pn h) F0) i (nd0 dl ra of i), ?_, CR_rn (by omega)⟩
      rw [List.getElem?_append_right (show 13 ≤ _ by omega), show 13 + 2 * i - (blke h n (nrowe h n)).length = 2 * i from Nat.add_sub_cancel_left 13 _, (ndce_get n i k1').1]
      unfold cNode
      rw [g7 i, gE_in (by omega) (show 60 + i < 16 ∨ (50 ≤ 60 + i ∧ 60 + i < 70) by omega), eo6, show pn h + (15 + 2 * i - 1) = pn h + 14 + 2 * i from by omega]
      rfl
    · have k1' : i < n := k1
      have eo6 : off (60 + i) = 15 + 2 * i := by
        unfold off
        rw [if_neg (by omega), if_neg (by omega), if_neg (by omega), if_neg (by omega), if_neg (by omega), if_neg (by omega), if_neg (by omega), if_neg (by omega)]
        omega
      rw [eo6, show 15 + 2 * i - 1 = 14 + 2 * i from by omega]
      refine ⟨_, by rw [List.getElem?_append_right (show 13 ≤ _ by omega), show 14 + 2 * i - (blke h n (nrowe h n)).length = 2 * i + 1 from by show 14 + 2 * i - 13 = _; omega]; exact (ndce_get n i k1').2, ?_⟩
      unfold arr8
      rw [hE]
      refine CR_rc (fun r hr => ?_)
      show 0 = nd0 dl ra of i (30 + r)
      unfold nd0
      rw [if_neg (by omega), if_neg (by omega), if_neg (by omega), if_neg (by omega), if_neg (by omega)]
  · refine ⟨fun i hi => ?_, ?_, ?_, ⟨m1, d1, f1, ?_⟩, ⟨m2, d2, f2, ?_⟩, fun li j x h1 h2 hx => ?_, fun li h1 h2 i j hi hj _ => ?_, c6⟩
    · have hi' : i < n := hi
      rw [g7 i]
      unfold S0 nd0
      exact c1 i hi'
    · rw [g4 40 (by decide) (by decide)]
      refine ⟨?_, c2.2⟩
      rw [c2.1]
      unfold cCfg
      rw [g4 41 (by decide) (by decide), g4 42 (by decide) (by decide), g4 43 (by decide) (by decide)]
      rfl
    · rw [g4 41 (by decide) (by decide)]
      exact c3
    · rw [g4 42 (by decide) (by decide), g4 44 (by decide) (by decide)]
      exact ⟨a1, a2, a3, a4, a5, fun i hi => by rw [g7 i]; exact a6 i hi⟩
    · rw [g4 43 (by decide) (by decide), g4 45 (by decide) (by decide)]
      exact ⟨b1, b2, b3, b4, b5, b6⟩
    · have : lsC E (S0 cf n dl ra of (B.1 - pcl h + (13 + 2 * n)) (B.2 - psl h + (52 + n + 21 * n))) li = [] := by
        unfold lsC
        split
        · rfl
        · split
          · rfl
          · split <;> rfl
      rw [this] at hx
      simp at hx
    · have : lsC E (S0 cf n dl ra of (B.1 - pcl h + (13 + 2 * n)) (B.2 - psl h + (52 + n + 21 * n))) li = [] := by
        unfold lsC
        split
        · rfl
        · split
          · rfl
          · split <;> rfl
      rw [this] at hi
      exact absurd hi (Nat.not_lt_zero i)
  · rw [len]
    show pcl h - (13 + 2 * n) + (B.1 - pcl h + (13 + 2 * n)) = B.1
    omega
  · show psl h - (52 + n + 21 * n) + (B.2 - psl h + (52 + n + 21 * n)) = B.2
    omega
end EFR
