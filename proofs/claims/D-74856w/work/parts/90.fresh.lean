/-! A SIMULATION IN A BLOCK of new cells: its picture; a fresh one -/
set_option maxRecDepth 100000
/-- R is known in h -/
def KH (R : PM) (h : PH) : Prop := ∀ (b : Nat) (e : va_E), R b = some e → h.1 b = some e ∧ b < pn h
/-- the addresses of a block at a: the place o k for the role k; the rest as F0 -/
def gB (a : Nat) (o F0 : Nat → Nat) : Nat → Nat := fun k => if k < 16 ∨ (50 ≤ k ∧ k < 70) then a + o k else F0 k
theorem gB_in {a k : Nat} {o F0 : Nat → Nat} (hk : k < 16 ∨ (50 ≤ k ∧ k < 70)) : gB a o F0 k = a + o k := if_pos hk
theorem gB_out {a k : Nat} {o F0 : Nat → Nat} (hk : ¬ (k < 16 ∨ (50 ≤ k ∧ k < 70))) : gB a o F0 k = F0 k := if_neg hk
theorem mR_cases {n k : Nat} (hk : mR n k) : k = 0 ∨ k = 1 ∨ (2 ≤ k ∧ k < 6) ∨ k = 6 ∨ (k = 7 ∨ k = 8 ∨ k = 9) ∨ (12 ≤ k ∧ k < 16) ∨ (∃ i : Nat, i < n ∧ k = 50 + i) ∨ (∃ i : Nat, i < n ∧ k = 60 + i) := by
  unfold mR at hk
  by_cases h5 : 50 ≤ k
  · by_cases h6 : k < 50 + n
    · exact Or.inr (Or.inr (Or.inr (Or.inr (Or.inr (Or.inr (Or.inl ⟨k - 50, by omega, by omega⟩))))))
    · exact Or.inr (Or.inr (Or.inr (Or.inr (Or.inr (Or.inr (Or.inr ⟨k - 60, by omega, by omega⟩))))))
  · omega
section CRI
variable {E : PE} {B : Nat × Nat} {G : Nat → Nat} {ad : Nat → Nat → Nat} {R : PM} {S : SS} {h : PH}
theorem CR_r0 : CR E G ad S 0 (cSim G (s_sc S)) := by
  unfold CR
  rw [if_pos rfl]
theorem CR_r6 : CR E G ad S 6 (cSto G (s_sc S 30)) := by
  unfold CR
  rw [if_neg (by decide), if_pos rfl]
theorem CR_r1 {f : Nat → Option Nat} (hf : ∀ i : Nat, i < s_n S → f i = some (G (50 + i))) : CR E G ad S 1 (.inl (E.2.1 5, s_n S, refs f)) := by
  unfold CR
  rw [if_neg (by decide), if_neg (by decide), if_neg (by decide), if_neg (by decide)]
  unfold cL
  rw [if_pos rfl]
  exact ⟨f, rfl, hf⟩
theorem CR_rl {k : Nat} {md : Int32} (h1 : 2 ≤ k) (h2 : k < 6) : CR E G ad S k (cLst md (G (k + 10)) (lsC E S k).length) := by
  unfold CR
  rw [if_neg (by omega), if_neg (by omega), if_neg (by omega), if_neg (by omega)]
  unfold cL
  rw [if_neg (by omega), if_pos (by omega)]
  exact ⟨md, rfl⟩
theorem CR_rr {k : Nat} {f : Nat → Option Nat} (h1 : 2 ≤ k) (h2 : k < 6) (hf : ∀ j : Nat, j < (lsC E S k).length → f j = some (ad k j)) (hz : ∀ j : Nat, (lsC E S k).length ≤ j → f j = none) (hl : (lsC E S k).length ≤ s_gh S k) (hc : s_gh S k < 2 ^ 30) (hp : 0 < s_gh S k) : CR E G ad S (k + 10) (.inl (E.2.1 4, s_gh S k, refs f)) := by
  unfold CR
  rw [if_neg (by omega), if_neg (by omega), if_neg (by omega), if_neg (by omega)]
  unfold cL
  rw [if_neg (by omega), if_neg (by omega), show k + 10 - 10 = k from by omega]
  exact ⟨f, rfl, hf, hz, hl, hc, hp⟩
theorem CR_rv {k : Nat} {f : Nat → Int32} (hk : k = 7 ∨ k = 8 ∨ k = 9) (hf : ∀ r : Nat, r < arL k → f r = s_ar S (arX k) r) : CR E G ad S k (.inl (E.2.1 0, arL k, .inl f)) := by
  unfold CR
  rw [if_neg (by omega), if_neg (by omega), if_neg (by omega), if_pos hk]
  exact ⟨f, rfl, hf⟩
theorem CR_rn {i : Nat} (hi : i < 6) : CR E G ad S (50 + i) (cNode G i (s_nd S i)) := by
  unfold CR
  rw [if_neg (by omega), if_neg (by omega), if_pos (by omega)]
  unfold cN
  rw [if_pos (by omega), show 50 + i - 50 = i from by omega]
theorem CR_rc {i : Nat} {f : Nat → Int32} (hf : ∀ r : Nat, r < 8 → f r = s_nd S i (30 + r)) : CR E G ad S (60 + i) (.inl (E.2.1 0, 8, .inl f)) := by
  unfold CR
  rw [if_neg (by omega), if_neg (by omega), if_pos (by omega)]
  unfold cN
  rw [if_neg (by omega), show 60 + i - 60 = i from by omega]
  exact ⟨f, rfl, hf⟩
/-- the picture of a block -/
theorem RP_blk {cs : List va_E} {k : Nat} {o F0 : Nat → Nat} (hE : h.2.1 = E) (hb : pbase h ≤ pn h) (hR : KH R h) (hn : 1 ≤ s_n S ∧ s_n S ≤ 6) (hinj : ∀ j k : Nat, mR (s_n S) j → mR (s_n S) k → o j = o k → j = k)
    (hc : ∀ k : Nat, mR (s_n S) k → ∃ e : va_E, cs[o k]? = some e ∧ CR E (gB (pn h) o F0) ad S k e) (hI : IM E (gB (pn h) o F0) ad R S) (hB1 : pcl h - cs.length + s_gh S 0 = B.1) (hB2 : psl h - k + s_gh S 1 = B.2) : RP E B (gB (pn h) o F0) ad R S (bh h cs k) := by
  have hm : ∀ k : Nat, mR (s_n S) k → gB (pn h) o F0 k = pn h + o k := fun k hk => gB_in (by unfold mR at hk; omega)
  refine ⟨hE, fun b e hb' => ?_, fun k hk => ?_, fun j k hj hk he => ?_, fun k hk => ?_, hI, hn, hB1, hB2⟩
  · obtain ⟨g1, g2⟩ := hR b e hb'
    exact ⟨by rw [bh_lo g2, g1], by rw [bh_pn]; omega⟩
  · obtain ⟨e, c1, c2⟩ := hc k hk
    have hl : o k < cs.length := (List.getElem?_eq_some_iff.mp c1).1
    rw [hm k hk]
    refine ⟨?_, ?_, by rw [bh_pn]; omega⟩
    · cases hx : R (pn h + o k) with
      | none => rfl
      | some e =>
        have := (hR _ _ hx).2
        omega
    · have : E.2.2.1 = pbase h := by rw [← hE]
      omega
  · rw [hm j hj, hm k hk] at he
    exact hinj j k hj hk (by omega)
  · obtain ⟨e, c1, c2⟩ := hc k hk
    exact ⟨e, by rw [hm k hk]; exact bh_at c1, c2⟩
end CRI
-- a fresh one
def off (k : Nat) : Nat := if k = 0 then 0 else if k = 1 then 13 else if k < 6 then 2 * k - 3 else if k = 6 then 9 else if k = 7 then 12 else if k < 10 then k + 2 else if k < 16 then 2 * k - 22 else if k < 60 then 14 + 2 * (k - 50) else 15 + 2 * (k - 60)
def mRb (n k : Nat) : Bool := decide (k < 10) || (decide (12 ≤ k) && decide (k < 16)) || (decide (50 ≤ k) && decide (k < 50 + n)) || (decide (60 ≤ k) && decide (k < 60 + n))
theorem mRb_of {n k : Nat} (hn : n ≤ 6) (hk : mR n k) : k < 66 ∧ mRb 6 k = true := by
  unfold mR at hk
  refine ⟨by omega, ?_⟩
  unfold mRb
  simp only [Bool.or_eq_true, Bool.and_eq_true, decide_eq_true_eq]
  omega
theorem off_all : (List.range 66).all (fun j => (List.range 66).all fun k => !(mRb 6 j) || !(mRb 6 k) || !(Nat.beq (off j) (off k)) || Nat.beq j k) = true := by decide +kernel
theorem off_inj {n j k : Nat} (hn : n ≤ 6) (hj : mR n j) (hk : mR n k) (he : off j = off k) : j = k := by
  have h1 := mRb_of hn hj
  have h2 := mRb_of hn hk
  have h3 := List.all_eq_true.mp (List.all_eq_true.mp off_all j (List.mem_range.mpr h1.1)) k (List.mem_range.mpr h2.1)
  rw [h1.2, h2.2, he] at h3
  have h4 : Nat.beq (off k) (off k) = true := Nat.beq_refl _
  rw [h4] at h3
  simp only [Bool.not_true, Bool.false_or] at h3
  exact Nat.eq_of_beq_eq_true h3
def sc0 (seed : Int32) : Nat → Int32 := fun k => if k = 9 then seed else if k = 12 ∨ k = 21 then -4 else 0
def nd0 (dl ra of : Nat → Int32) : Nat → Nat → Int32 := fun i k => if k = 1 then dl i else if k = 2 then 1 else if k = 8 then -4 else if k = 20 then ra i else if k = 21 then of i else 0
def gh0 (c s : Nat) : Nat → Nat := fun k => if k = 0 then c else if k = 1 then s else if k = 2 ∨ k = 5 then 4 else 2
/-- a fresh simulation; c cells and s slots are made so far -/
def S0 (cf : Nat → Int32) (n : Nat) (dl ra of : Nat → Int32) (c s : Nat) : SS := (cf, n, nd0 dl ra of, ([], [], [], []), (fun _ _ => 0), sc0 (cf 8), gh0 c s)
/-- the cells of a fresh simulation; row: the nodes' row -/
def blkN (h : PH) (cfg n : Nat) (seed : Int32) (row : Nat → Option Nat) : List va_E := (.inr (1, [.ref cfg, .ref (pn h + 13), .ref (pn h + 1), .ref (pn h + 3), .ref (pn h + 5), .ref (pn h + 7), .ref (pn h + 9), .ref (pn h + 12), .int 0, .int seed, .int 0, .int 0, .int (-4), .int 0, .int 0, .int 0, .int 0, .int 0, .int 0, .int 0, .int 0, .int (-4)])) :: (blk h cfg n row).tail
theorem ndc_get {h : PH} {ck : Nat → Nat} {dl : Nat → Int32} : ∀ (n i : Nat), i < n → (ndc h ck dl n)[2 * i]? = some (node1 (ck i) (dl i) (pn h + 15 + 2 * i)) ∧ (ndc h ck dl n)[2 * i + 1]? = some (arr8 h)
  | 0, i, hi => absurd hi (Nat.not_lt_zero i)
  | n + 1, i, hi => by
    unfold ndc
    by_cases he : i = n
    · subst he
      rw [List.getElem?_append_right (by rw [ndc_len]; omega), List.getElem?_append_right (by rw [ndc_len]; omega), ndc_len]
      rw [show 2 * i - 2 * i = 0 from by omega, show 2 * i + 1 - 2 * i = 1 from by omega]
      exact ⟨rfl, rfl⟩
    · rw [List.getElem?_append_left (by rw [ndc_len]; omega), List.getElem?_append_left (by rw [ndc_len]; omega)]
      exact ndc_get n i (by omega)
/-- what a new simulation needs to know of its configuration -/
def CFG (E : PE) (F0 : Nat → Nat) (R : PM) (n : Nat) (cf : Nat → Int32) (dl ra of : Nat → Int32) : Prop :=
  (∀ i : Nat, i < n → R (F0 (70 + i)) = some (cClk (ra i) (of i)) ∧ E.2.2.1 ≤ F0 (70 + i)) ∧
  (R (F0 40) = some (cCfg F0 cf) ∧ E.2.2.1 ≤ F0 40) ∧ (R (F0 41) = some (cClk (cf 0) (cf 1)) ∧ E.2.2.1 ≤ F0 41) ∧
  (∃ (md : Int32) (c : Nat) (f : Nat → Option Nat), R (F0 42) = some (cLst md (F0 44) n) ∧ E.2.2.1 ≤ F0 42 ∧ R (F0 44) = some (.inl (E.2.1 4, c, refs f)) ∧ E.2.2.1 ≤ F0 44 ∧ n ≤ c ∧ ∀ i : Nat, i < n → f i = some (F0 (70 + i))) ∧
  (∃ (md : Int32) (c : Nat) (f : Nat → Option Nat), R (F0 43) = some (cLst md (F0 45) n) ∧ E.2.2.1 ≤ F0 43 ∧ R (F0 45) = some (.inl (E.2.1 4, c, refs f)) ∧ E.2.2.1 ≤ F0 45 ∧ n ≤ c ∧ ∀ i : Nat, i < n → ∃ q : Nat, f i = some q ∧ R q = some (cInt (dl i))) ∧
  (∀ i : Nat, i < 9 → E.1 i = .ref (sAd E i) ∧ R (sAd E i) = some (cKnd i))
section FR
variable {E : PE} {B : Nat × Nat} {R : PM} {h : PH} {F0 : Nat → Nat} {n : Nat} {cf : Nat → Int32} {dl ra of : Nat → Int32}
/-- Simulation.<init> -/
theorem b_sim (hE : h.2.1 = E) (hb : pbase h ≤ pn h) (hr1 : 100 ≤ pcl h) (hr2 : 2000 ≤ psl h) (hn : n ≤ 6) (hR : KH R h) (hC : CFG E F0 R n cf dl ra of) :
    f_X2_init (pn h) (some (F0 40)) (bh h [sim0] 22) = some ((), bh h (blkN h (F0 40) n (cf 8) (nrow h n) ++ ndc h (fun i => F0 (70 + i)) dl n) (74 + n + 21 * n)) := by
  obtain ⟨c1, c2, c3, ⟨m1, d1, f1, a1, a2, a3, a4, a5, a6⟩, ⟨m2, d2, f2, b1, b2, b3, b4, b5, b6⟩, c6⟩ := hC
  have hpb : pbase h = E.2.2.1 := by rw [← hE]
  have e3 : E.2.1 4 = h.2.1.2.1 4 := by rw [hE]
  have hcfg : h.1 (F0 40) = some (.inr (2, Value.ref (F0 41) :: .ref (F0 42) :: .ref (F0 43) :: [.int (cf 3), .int (cf 4), .int (cf 5), .int (cf 6), .int (cf 7), .int (cf 8)])) := (hR _ _ c2.1).1
  rw [b_init (n := n) (dls := .null) hb hr1 (by omega) hn hcfg (hR _ _ c2.1).2 (by rw [hpb]; exact c2.2) (hR _ _ a1).1 (hR _ _ a1).2]
  have hz : (fun _ => none : Nat → Option Nat) = nrow h 0 := by funext j; simp [nrow]
  rw [hz]
  have hN := b_nodes (h := h) (cfg := F0 40) (ck := fun i => F0 (70 + i)) (dl := dl) (k := 74 + n) hb hr1 (by omega) hn hcfg (hR _ _ c2.1).2 (by rw [hpb]; exact c2.2) (hR _ _ a1).1 (hR _ _ a1).2 (by rw [← e3]; exact (hR _ _ a3).1) (hR _ _ a3).2 (by rw [hpb]; exact a4) a5 a6 (fun i hi => ⟨(hR _ _ (c1 i hi).1).2, _, _, (hR _ _ (c1 i hi).1).1⟩)
    (hR _ _ b1).1 (hR _ _ b1).2 (by rw [← e3]; exact (hR _ _ b3).1) (hR _ _ b3).2 (by rw [hpb]; exact b4) b5 (fun i hi => by obtain ⟨q, q1, q2⟩ := b6 i hi; exact ⟨q, q1, (hR _ _ q2).2, (hR _ _ q2).1⟩) n 0 FU (by omega) (by unfold FU; omega)
  have ez : bh h (blk h (F0 40) n (nrow h 0) ++ ndc h (fun i => F0 (70 + i)) dl 0) (74 + n + 21 * 0) = bh h (blk h (F0 40) n (nrow h 0)) (22 + 3 + 4 + 3 + 2 + 3 + 2 + 3 + 4 + 3 + 16 + 9 + n) := by
    rw [show ndc h (fun i => F0 (70 + i)) dl 0 = [] from rfl, List.append_nil, show 74 + n + 21 * 0 = 22 + 3 + 4 + 3 + 2 + 3 + 2 + 3 + 4 + 3 + 16 + 9 + n from by omega]
  rw [ez] at hN
  rw [show (0 : Int32) = Int32.ofNat 0 from rfl, hN]
  unfold f_X2_init_L106
  have s0 : (bh h (blk h (F0 40) n (nrow h n) ++ ndc h (fun i => F0 (70 + i)) dl n) (74 + n + 21 * n)).1 (pn h) = some (sim1 (pn h) (F0 40)) := bh_at (i := 0) rfl
  have s1 : (bh h (blk h (F0 40) n (nrow h n) ++ ndc h (fun i => F0 (70 + i)) dl n) (74 + n + 21 * n)).1 (pn h + 13) = some (.inl ((bh h (blk h (F0 40) n (nrow h n) ++ ndc h (fun i => F0 (70 + i)) dl n) (74 + n + 21 * n)).2.1.2.1 5, n, refs (nrow h n))) := bh_at (i := 13) rfl
  rw [gR_at s0 (v := pn h + 13) rfl, aN_at s1, if_pos (Int32.le_refl _)]
  rw [gIN_at (h := bh h _ _) (by rw [bh_lo (hR _ _ c2.1).2]; exact hcfg) (by rw [bh_base, hpb]; exact c2.2) (v := cf 8) rfl, b_pV0 hb rfl (Nat.le_of_ble_eq_true rfl)]
  rfl
/-- the picture of a fresh simulation -/
theorem fresh {ad : Nat → Nat → Nat} (hE : h.2.1 = E) (hb : pbase h ≤ pn h) (hr1 : 100 ≤ pcl h) (hr2 : 2000 ≤ psl h) (hn : 1 ≤ n ∧ n ≤ 6) (hR : KH R h) (hC : CFG E F0 R n cf dl ra of) :
    RP E B (gB (pn h) off F0) ad R (S0 cf n dl ra of (B.1 - pcl h + (14 + 2 * n)) (B.2 - psl h + (74 + n + 21 * n))) (bh h (blkN h (F0 40) n (cf 8) (nrow h n) ++ ndc h (fun i => F0 (70 + i)) dl n) (74 + n + 21 * n)) ∨ B.1 < pcl h ∨ B.2 < psl h := by
  by_cases hB : B.1 < pcl h ∨ B.2 < psl h
  · exact Or.inr hB
  refine Or.inl ?_
  have hpb : pbase h = E.2.2.1 := by rw [← hE]
  have len : (blkN h (F0 40) n (cf 8) (nrow h n) ++ ndc h (fun i => F0 (70 + i)) dl n).length = 14 + 2 * n := by
    rw [List.length_append, ndc_len]
    rfl
  obtain ⟨c1, c2, c3, ⟨m1, d1, f1, a1, a2, a3, a4, a5, a6⟩, ⟨m2, d2, f2, b1, b2, b3, b4, b5, b6⟩, c6⟩ := hC
  have g4 : ∀ k : Nat, 40 ≤ k → k < 46 → gB (pn h) off F0 k = F0 k := fun k k1 k2 => gB_out (by omega)
  have g7 : ∀ i : Nat, gB (pn h) off F0 (70 + i) = F0 (70 + i) := fun i => gB_out (by omega)
  refine RP_blk hE hb hR hn (fun j k hj hk he => off_inj hn.2 hj hk he) (fun k hk => ?_) ?_ ?_ ?_
  · rcases mR_cases hk with rfl | rfl | ⟨k1, k2⟩ | rfl | k1 | ⟨k1, k2⟩ | ⟨i, k1, rfl⟩ | ⟨i, k1, rfl⟩
    · refine ⟨cSim (gB (pn h) off F0) (sc0 (cf 8)), ?_, CR_r0⟩
      unfold cSim
      rw [g4 40 (by decide) (by decide)]
      rfl
    · refine ⟨_, rfl, ?_⟩
      rw [hE]
      refine CR_r1 (S := S0 cf n dl ra of (B.1 - pcl h + (14 + 2 * n)) (B.2 - psl h + (74 + n + 21 * n))) (fun i hi => ?_)
      have hi' : i < n := hi
      rw [gB_in (by omega)]
      unfold nrow
      rw [if_pos hi']
      unfold off
      rw [if_neg (by omega), if_neg (by omega), if_neg (by omega), if_neg (by omega), if_neg (by omega), if_neg (by omega), if_neg (by omega), if_pos (by omega), show 14 + 2 * (50 + i - 50) = 14 + 2 * i from by omega, Nat.add_assoc]
    · have : k = 2 ∨ k = 3 ∨ k = 4 ∨ k = 5 := by omega
      rcases this with rfl | rfl | rfl | rfl <;> exact ⟨_, rfl, CR_rl (by decide) (by decide)⟩
    · exact ⟨_, rfl, CR_r6⟩
    · rcases k1 with rfl | rfl | rfl <;> refine ⟨_, rfl, ?_⟩ <;> (try unfold arr8) <;> rw [hE] <;> exact CR_rv (by decide) (fun r hr => rfl)
    · have : k = 12 ∨ k = 13 ∨ k = 14 ∨ k = 15 := by omega
      rcases this with rfl | rfl | rfl | rfl <;> refine ⟨_, rfl, ?_⟩ <;> rw [hE]
      · exact CR_rr (k := 2) (by decide) (by decide) (fun j hj => absurd hj (Nat.not_lt_zero j)) (fun j _ => rfl) (Nat.zero_le _) (Nat.le_of_ble_eq_true rfl) (Nat.le_of_ble_eq_true rfl)
      · exact CR_rr (k := 3) (by decide) (by decide) (fun j hj => absurd hj (Nat.not_lt_zero j)) (fun j _ => rfl) (Nat.zero_le _) (Nat.le_of_ble_eq_true rfl) (Nat.le_of_ble_eq_true rfl)
      · exact CR_rr (k := 4) (by decide) (by decide) (fun j hj => absurd hj (Nat.not_lt_zero j)) (fun j _ => rfl) (Nat.zero_le _) (Nat.le_of_ble_eq_true rfl) (Nat.le_of_ble_eq_true rfl)
      · exact CR_rr (k := 5) (by decide) (by decide) (fun j hj => absurd hj (Nat.not_lt_zero j)) (fun j _ => rfl) (Nat.zero_le _) (Nat.le_of_ble_eq_true rfl) (Nat.le_of_ble_eq_true rfl)
    · have k1' : i < n := k1
      have eo : off (50 + i) = 14 + 2 * i := by
        unfold off
        rw [if_neg (by omega), if_neg (by omega), if_neg (by omega), if_neg (by omega), if_neg (by omega), if_neg (by omega), if_neg (by omega), if_pos (by omega)]
        omega
      have eo6 : off (60 + i) = 15 + 2 * i := by
        unfold off
        rw [if_neg (by omega), if_neg (by omega), if_neg (by omega), if_neg (by omega), if_neg (by omega), if_neg (by omega), if_neg (by omega), if_neg (by omega)]
        omega
      rw [eo]
      refine ⟨cNode (gB (pn h) off F0) i (nd0 dl ra of i), ?_, CR_rn (by omega)⟩
      rw [List.getElem?_append_right (show 14 ≤ _ by omega), show 14 + 2 * i - (blkN h (F0 40) n (cf 8) (nrow h n)).length = 2 * i from Nat.add_sub_cancel_left 14 _, (ndc_get n i k1').1]
      unfold cNode
      rw [g7 i, gB_in (show 60 + i < 16 ∨ (50 ≤ 60 + i ∧ 60 + i < 70) by omega), eo6, show pn h + (15 + 2 * i) = pn h + 15 + 2 * i from by omega]
      rfl
    · have k1' : i < n := k1
      have eo6 : off (60 + i) = 15 + 2 * i := by
        unfold off
        rw [if_neg (by omega), if_neg (by omega), if_neg (by omega), if_neg (by omega), if_neg (by omega), if_neg (by omega), if_neg (by omega), if_neg (by omega)]
        omega
      rw [eo6]
      refine ⟨_, by rw [List.getElem?_append_right (show 14 ≤ _ by omega), show 15 + 2 * i - (blkN h (F0 40) n (cf 8) (nrow h n)).length = 2 * i + 1 from by show 15 + 2 * i - 14 = _; omega]; exact (ndc_get n i k1').2, ?_⟩
      unfold arr8
      rw [hE]
      refine CR_rc (fun r hr => ?_)
      show 0 = nd0 dl ra of i (30 + r)
      unfold nd0
      rw [if_neg (by omega), if_neg (by omega), if_neg (by omega), if_neg (by omega), if_neg (by omega)]
  · refine ⟨fun i hi => ?_, ?_, ?_, ⟨m1, d1, f1, ?_⟩, ⟨m2, d2, f2, ?_⟩, fun li j x h1 h2 hx => ?_, fun li h1 h2 i j hi hj _ => ?_, c6⟩
    · have hi' : i < n := hi
      rw [g7 i]
      unfold S0 nd0
      exact c1 i hi'
    · rw [g4 40 (by decide) (by decide)]
      refine ⟨?_, c2.2⟩
      rw [c2.1]
      unfold cCfg
      rw [g4 41 (by decide) (by decide), g4 42 (by decide) (by decide), g4 43 (by decide) (by decide)]
      rfl
    · rw [g4 41 (by decide) (by decide)]
      exact c3
    · rw [g4 42 (by decide) (by decide), g4 44 (by decide) (by decide)]
      exact ⟨a1, a2, a3, a4, a5, fun i hi => by rw [g7 i]; exact a6 i hi⟩
    · rw [g4 43 (by decide) (by decide), g4 45 (by decide) (by decide)]
      exact ⟨b1, b2, b3, b4, b5, b6⟩
    · have : lsC E (S0 cf n dl ra of (B.1 - pcl h + (14 + 2 * n)) (B.2 - psl h + (74 + n + 21 * n))) li = [] := by
        unfold lsC
        split
        · rfl
        · split
          · rfl
          · split <;> rfl
      rw [this] at hx
      simp at hx
    · have : lsC E (S0 cf n dl ra of (B.1 - pcl h + (14 + 2 * n)) (B.2 - psl h + (74 + n + 21 * n))) li = [] := by
        unfold lsC
        split
        · rfl
        · split
          · rfl
          · split <;> rfl
      rw [this] at hi
      exact absurd hi (Nat.not_lt_zero i)
  · rw [len]
    show pcl h - (14 + 2 * n) + (B.1 - pcl h + (14 + 2 * n)) = B.1
    omega
  · show psl h - (74 + n + 21 * n) + (B.2 - psl h + (74 + n + 21 * n)) = B.2
    omega
end FR
