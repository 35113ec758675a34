/-! THE COMPONENT reads: statements, the configuration -/
set_option maxRecDepth 100000
/-- what follows a statement -/
def stTl (bf : Nat → Nat) (len f : Nat) (c : CS) (p : Nat) : (Nat × Nat) ⊕ CS :=
  if hb bf len (sk bf len p) = 256 then (if c.2.1.length = 0 then .inl (4, sk bf len p) else .inr c)
  else if hb bf len (sk bf len p) = 59 then sts bf len f c (sk bf len p + 1) else .inl (1, sk bf len p)
theorem sts_T {bf : Nat → Nat} {len f p : Nat} {c : CS} : sts bf len (f + 1) c p = match stm bf len c p with | .inl e => .inl e | .inr d => stTl bf len f d.1 d.2 := rfl
section CER
variable {bf : Nat → Nat} {len p : Nat} {c : CS}
theorem nmb_er {lo hi : Nat} {e : Nat × Nat} (h : nmb bf len lo hi p = .inl e) : e.1 = 1 ∨ e.1 = 2 := by
  unfold nmb at h
  dsimp only at h
  split at h
  · cases h; exact Or.inl rfl
  · split at h
    · cases h
    · cases h; exact Or.inr rfl
theorem rd1_er {k lo hi : Nat} {e : Nat × Nat} (h : rd1 bf len c k lo hi p = .inl e) : e.1 = 1 ∨ e.1 = 2 := by
  unfold rd1 at h
  cases hn : nmb bf len lo hi p with
  | inl e' => rw [hn] at h; cases h; exact nmb_er hn
  | inr x => rw [hn] at h; cases h
theorem rd2_er {k lo hi k' lo' hi' : Nat} {e : Nat × Nat} (h : rd2 bf len c k lo hi k' lo' hi' p = .inl e) : e.1 = 1 ∨ e.1 = 2 := by
  unfold rd2 at h
  cases hn : rd1 bf len c k lo hi p with
  | inl e' => rw [hn] at h; cases h; exact rd1_er hn
  | inr x => rw [hn] at h; exact rd1_er h
theorem rdN_er {e : Nat × Nat} (h : rdN bf len c p = .inl e) : e.1 = 1 ∨ e.1 = 2 := by
  unfold rdN at h
  cases hn : nmb bf len 900 1100 p with
  | inl e' => rw [hn] at h; cases h; exact nmb_er hn
  | inr x =>
    rw [hn] at h
    dsimp only at h
    cases hm : nmb bf len 0 100000 x.2 with
    | inl e' => rw [hm] at h; cases h; exact nmb_er hm
    | inr y =>
      rw [hm] at h
      dsimp only at h
      cases hk : nmb bf len 1 1000 y.2 with
      | inl e' => rw [hk] at h; cases h; exact nmb_er hk
      | inr z => rw [hk] at h; cases h
theorem rdW_er {k : Nat} {e : Nat × Nat} (h : rdW bf len c k p = .inl e) : e.1 = 1 ∨ e.1 = 2 := by
  unfold rdW at h
  split at h
  · exact rd2_er h
  split at h
  · exact rdN_er h
  split at h
  · exact rd2_er h
  split at h
  · exact rd1_er h
  split at h
  · exact rd1_er h
  split at h
  · exact rd1_er h
  · exact rd1_er h
theorem stm_er {e : Nat × Nat} (h : stm bf len c p = .inl e) : 1 ≤ e.1 ∧ e.1 ≤ 3 := by
  unfold stm at h
  dsimp only at h
  obtain ⟨k, hk⟩ : ∃ k, wix bf (sk bf len p) (wds bf len FL (sk bf len p) - sk bf len p) = k := ⟨_, rfl⟩
  rw [hk] at h
  obtain ⟨t, ht⟩ : ∃ t, (if k = 1 then decide (c.2.1.length = 6) else c.2.2 k) = t := ⟨_, rfl⟩
  rw [ht] at h
  by_cases c7 : k = 7
  · rw [if_pos c7] at h
    cases h
    exact ⟨Nat.le_refl _, by show (1 : Nat) ≤ 3; decide⟩
  · rw [if_neg c7] at h
    by_cases ct : t = true
    · rw [if_pos ct] at h
      cases h
      exact ⟨by show (1 : Nat) ≤ 3; decide, Nat.le_refl _⟩
    · rw [if_neg ct] at h
      rcases rdW_er h with e1 | e1 <;> omega
end CER
section CS4
variable {n0 X bA sA sim pa ca ha lc ld len p : Nat} {le : Int32} {bf : Nat → Nat} {c : CS} {h h' : PH}
/-- statements behind the first: they end well, or an error is thrown -/
theorem q_L4 : ∀ (f N : Nat) (c : CS) (p : Nat) (h : PH), len - p < f → f < N → 2 * (len - p) + 20 ≤ pcl h → 18 * (len - p) + 1800 ≤ psl h → PPS n0 X bA sA sim le pa ca ha lc ld bf len c.2.1 c p h →
    (∃ (h' : PH) (c' : CS) (q : Nat), f_X8_statements_L4 N (some pa) h = some (.inr (), h') ∧ PPS n0 X bA sA sim le pa ca ha lc ld bf len c'.2.1 c' q h' ∧ GR n0 (2 * (len - p)) (18 * (len - p)) h h' ∧ stTl bf len f c p = (if c'.2.1.length = 0 then .inl (4, len) else .inr c')) ∨
    (∃ e : Nat × Nat, stTl bf len f c p = .inl e ∧ (1 ≤ e.1 ∧ e.1 ≤ 3) ∧ RZ n0 (2 * (len - p) + 15) (18 * (len - p) + 1800) h e (f_X8_statements_L4 N (some pa) h)) := by
  intro f
  induction f with
  | zero => intro N c p h h1; omega
  | succ f ih =>
    intro N c p h h1 h2 r1 r2 hP
    have hpb := hP.pb
    have hB := hP.1.b2
    have s1 := sk_le (bf := bf) hpb.2.2.2.1
    have nx := p_next hP.1
    cases N with
    | zero => omega
    | succ N =>
      unfold f_X8_statements_L4 stTl
      rw [rv_at hP.1.1, cl_eq nx]
      obtain ⟨q, eq⟩ : ∃ q, sk bf len p = q := ⟨_, rfl⟩
      rw [eq] at s1 ⊢
      have hPq := hP.at_ (q := q) s1.2
      have gq : GR n0 0 0 h (pP h pa ca ha X q) := GR.set hP.2.2.2.2.1
      by_cases ce : q < len
      · have hv := hB.1 q ce
        have ehw : hw bf len q = Int32.ofNat (bf q) := if_pos ce
        have c0 : ¬ hw bf len q < 0 := by
          rw [ehw, show (0 : Int32) = Int32.ofNat 0 from rfl, of_lt (by omega) (by omega)]
          omega
        have e256 : ¬ hb bf len q = 256 := by rw [hb_at ce]; omega
        rw [if_neg c0, if_neg e256, rv_at hPq.1.1, cl_eq (p_here hPq.1)]
        by_cases c59 : hb bf len q = 59
        · rw [if_pos (show hw bf len q = 59 from (hw_eq hB.1 (x := 59) (by decide)).mpr c59), if_pos c59, p_inc hPq.1, pP_pP]
          have hP1 := hP.at_ (q := q + 1) (by omega)
          have g1 : GR n0 0 0 h (pP h pa ca ha X (q + 1)) := GR.set hP.2.2.2.2.1
          obtain ⟨H, hH⟩ : ∃ H, pP h pa ca ha X (q + 1) = H := ⟨_, rfl⟩
          rw [hH] at hP1 g1 ⊢
          have z1 := g1.2.2
          have st := q_stm (by omega) (by omega) hP1
          rw [rv_at hP1.1.1]
          rw [sts_T]
          have hbH := g1.base
          cases hs : stm bf len c (q + 1) with
          | inl e =>
            refine Or.inr ⟨e, rfl, stm_er hs, ?_⟩
            exact (RZ.after g1 (RZ.xo (by omega) (st.2 e hs))).more (by omega) (by omega)
          | inr d =>
            obtain ⟨H2, t1, t2, t3⟩ := st.1 d hs
            have pr := stm_go (by omega) hs
            have z2 := t3.2.2
            rw [cl_eq t1]
            dsimp only
            have gg := g1.trans t3 (Nat.le_refl _)
            rcases ih N d.1 d.2 H2 (by omega) (by omega) (by omega) (by omega) t2 with ⟨h', c', q', u1, u2, u3, u4⟩ | ⟨e, u1, u2, u3⟩
            · exact Or.inl ⟨h', c', q', u1, u2, (gg.trans u3 (Nat.le_refl _)).more (Nat.le_refl _) (by omega) (by omega), u4⟩
            · exact Or.inr ⟨e, u1, u2, (RZ.after gg u3).more (by omega) (by omega)⟩
        · have z1 := gq.2.2
          have hbq := gq.base
          rw [if_neg (show ¬ hw bf len q = 59 from fun hy => c59 ((hw_eq hB.1 (x := 59) (by decide)).mp hy)), if_neg c59]
          refine Or.inr ⟨(1, q), rfl, ⟨Nat.le_refl _, by show (1 : Nat) ≤ 3; decide⟩, ?_⟩
          have ga : ∀ (e : va_E) (k : Nat), (p_new (pP h pa ca ha X q) e k).1 pa = some (cPar ca ha X q) := fun e k => by
            have hlt : pa < pn (pP h pa ca ha X q) := hpb.2.2.1
            exact (pn_ne (Nat.ne_of_lt hlt)).trans ps_at
          have r1' : 1 ≤ pcl (pP h pa ca ha X q) := by omega
          have r2' : 7 ≤ psl (pP h pa ca ha X q) := by omega
          have t := th_X11 (α := Unit) (pos := q) (h := pP h pa ca ha X q) (E := h.2.1) hP.2.1.2.2.2.2.2.1 rfl (show pbase h ≤ pn h by omega) r1' r2'
          rw [nO_at (h := pP h pa ca ha X q) r1' r2'] at t
          rw [nO_at (h := pP h pa ca ha X q) r1' r2', gI_at (ga _ _) rfl]
          refine ⟨pn h, _, t, pn_at (h := pP h pa ca ha X q), hpb.2.1, Nat.lt_succ_self _, ?_⟩
          exact (gq.trans (GR.new (h := pP h pa ca ha X q) (show n0 ≤ pn h by omega) r1' r2') (Nat.le_refl _)).more (Nat.le_refl _) (by omega) (by omega)
      · have eq' : q = len := by omega
        have ehw : hw bf len q = -1 := if_neg ce
        rw [ehw, if_pos (show (-1 : Int32) < 0 by decide), if_pos (hb_none ce)]
        exact Or.inl ⟨_, c, q, rfl, hPq, gq.more (Nat.le_refl _) (by omega) (by omega), by rw [eq']⟩
/-- is there a node? -/
theorem PPS.empty {ns : List (Nat × Nat × Nat)} (hP : PPS n0 X bA sA sim le pa ca ha lc ld bf len ns c p h) : f_J2_isEmpty (some lc) h = some (if ns.length = 0 then 1 else 0, h) ∧ ns.length ≤ 6 := by
  obtain ⟨a1, a2, a3, a4, a5, a6, sv, rc, rd, rh, xs, ys, zs, ws, p1, p2, p3, ⟨⟨m1, q1, -⟩, -⟩, p5, p6, p7, p8, p9, p10, p11, p12, p13⟩ := hP
  refine ⟨?_, p13.2⟩
  unfold f_J2_isEmpty f_J2_isEmpty_B12
  rw [gI_at q1 rfl, p9.1]
  have h6 := p13.2
  by_cases c0 : ns.length = 0
  · rw [if_pos c0, c0, if_pos (show Int32.ofNat 0 = 0 from rfl), rN_at nar01.2]
  · rw [if_neg c0, if_neg (show ¬ Int32.ofNat ns.length = 0 from fun hy => c0 ((of_inj (b := 0) (by omega) (by omega)).mp hy)), rN_at nar01.1]
/-- an error's own exception -/
theorem q_wrap {q : Nat} {e : Nat × Nat} (hE : ENV n0 h) (hn : n0 ≤ pn h) (h1 : 1 ≤ pcl h) (h2 : 6 ≤ psl h) (hq : h.1 q = some (cErr (cls e.1) e.2)) (hq1 : n0 ≤ q) (hq2 : q < pn h) :
    ∃ h' : PH, (nO h 12 6 [.null, .null, .null, .null, .null, .int 0] fun a24 h25 => cl_ (f_X14_init a24 (some q) h25) fun _u h26 => th_ h26 (some a24) fun ci9 q9 => (xo_ h26 ci9 q9 : Option (((Nat × Nat) ⊕ Option Nat) × PH))) = some (.inl (12, pn h), h') ∧ h'.1 (pn h) = some (.inr (12, [.ref q, .null, .null, .null, .null, .int 0])) ∧ h'.1 q = some (cErr (cls e.1) e.2) ∧ GR n0 1 6 h h' := by
  have hb := hE.2.2.2.2.2.2
  refine ⟨_, ?_, pn_at, (pn_ne (by omega)).trans hq, GR.new hn h1 h2⟩
  rw [nO_at h1 h2, cl_eq (i_X14 (E := h.2.1) hE.2.2.2.2.2.1 rfl (by omega))]
  have ee : ∀ e : va_E, (p_new h e 6).1 (pn h) = some e := fun e => pn_at
  unfold th_ cA_
  simp only [ee]
  unfold xo_
  rw [if_pos (show pbase (p_new h _ 6) ≤ pn h by show pbase h ≤ pn h; omega)]
/-- a text is read: the configuration, or its exception -/
theorem q_conf (hl : 2 * len + 30 ≤ pcl h) (hl2 : 18 * len + 3700 ≤ psl h) (hP : PPS n0 X bA sA sim le pa ca ha lc ld bf len [] cs0 0 h) :
    (∃ (h' : PH) (c' : CS) (q : Nat), parse bf len = .inr c' ∧ 1 ≤ c'.2.1.length ∧ f_X8_configuration (some pa) h = some (.inr (some ca), h') ∧ PPS n0 X bA sA sim le pa ca ha lc ld bf len c'.2.1 c' q h' ∧ GR n0 (2 * len + 10) (18 * len + 100) h h') ∨
    (∃ (e : Nat × Nat) (q a : Nat) (h' : PH), parse bf len = .inl e ∧ (1 ≤ e.1 ∧ e.1 ≤ 4) ∧ f_X8_configuration (some pa) h = some (.inl (12, a), h') ∧ h'.1 a = some (.inr (12, [.ref q, .null, .null, .null, .null, .int 0])) ∧ h'.1 q = some (cErr (cls e.1) e.2) ∧ n0 ≤ a ∧ n0 ≤ q ∧ GR n0 (2 * len + 30) (18 * len + 3700) h h') := by
  have hb := hP.pb
  have st := q_stm (c := cs0) (by omega) (by omega) hP
  have hpar : parse bf len = (match stm bf len cs0 0 with | .inl e => .inl e | .inr d => stTl bf len 400 d.1 d.2) := rfl
  rw [hpar]
  unfold f_X8_configuration
  rw [rv_at hP.1.1]
  -- an error among the statements
  have err : ∀ (e : Nat × Nat), (1 ≤ e.1 ∧ e.1 ≤ 3) → RZ n0 (2 * len + 25) (18 * len + 3600) h e (f_X8_statements (some pa) h) → ∃ (q a : Nat) (h' : PH), (cl_ (f_X8_statements (some pa) h) fun z9 h1 => match z9 with | .inl (ci9, q9) => ((if ci9 = 9 then (if pbase h1 ≤ q9 then (nO h1 12 6 [.null, .null, .null, .null, .null, .int 0] fun a24 h25 => cl_ (f_X14_init a24 (some q9) h25) fun _u h26 => th_ h26 (some a24) fun ci9 q9 => xo_ h26 ci9 q9) else none) else (if ci9 = 10 then (if pbase h1 ≤ q9 then (nO h1 12 6 [.null, .null, .null, .null, .null, .int 0] fun a27 h28 => cl_ (f_X14_init a27 (some q9) h28) fun _u h29 => th_ h29 (some a27) fun ci9 q9 => xo_ h29 ci9 q9) else none) else (if ci9 = 8 then (if pbase h1 ≤ q9 then (nO h1 12 6 [.null, .null, .null, .null, .null, .int 0] fun a30 h31 => cl_ (f_X14_init a30 (some q9) h31) fun _u h32 => th_ h32 (some a30) fun ci9 q9 => xo_ h32 ci9 q9) else none) else (if ci9 = 11 then (if pbase h1 ≤ q9 then (nO h1 12 6 [.null, .null, .null, .null, .null, .int 0] fun a33 h34 => cl_ (f_X14_init a33 (some q9) h34) fun _u h35 => th_ h35 (some a33) fun ci9 q9 => xo_ h35 ci9 q9) else none) else none))))) | .inr _u => (gR h1 (some pa) 7 0 fun r2 => gRN h1 r2 2 1 fun r3 => rv_ h1 r3 19 (cl_ (f_J2_isEmpty r3 h1) fun v5 h4 => (if v5 = 0 then (gR h4 (some pa) 7 0 fun r6 => some (.inr r6, h4)) else (nO h4 11 7 [.int 0, .null, .null, .null, .null, .null, .int 0] fun a7 h8 => gR h8 (some pa) 7 3 fun r9 => gIN h8 r9 0 1 fun v10 => cl_ (f_X13_init a7 v10 h8) fun _u h11 => th_ h11 (some a7) fun ci9 q9 => (if ci9 = 9 then (if pbase h11 ≤ q9 then (nO h11 12 6 [.null, .null, .null, .null, .null, .int 0] fun a12 h13 => cl_ (f_X14_init a12 (some q9) h13) fun _u h14 => th_ h14 (some a12) fun ci9 q9 => xo_ h14 ci9 q9) else none) else (if ci9 = 10 then (if pbase h11 ≤ q9 then (nO h11 12 6 [.null, .null, .null, .null, .null, .int 0] fun a15 h16 => cl_ (f_X14_init a15 (some q9) h16) fun _u h17 => th_ h17 (some a15) fun ci9 q9 => xo_ h17 ci9 q9) else none) else (if ci9 = 8 then (if pbase h11 ≤ q9 then (nO h11 12 6 [.null, .null, .null, .null, .null, .int 0] fun a18 h19 => cl_ (f_X14_init a18 (some q9) h19) fun _u h20 => th_ h20 (some a18) fun ci9 q9 => xo_ h20 ci9 q9) else none) else (if ci9 = 11 then (if pbase h11 ≤ q9 then (nO h11 12 6 [.null, .null, .null, .null, .null, .int 0] fun a21 h22 => cl_ (f_X14_init a21 (some q9) h22) fun _u h23 => th_ h23 (some a21) fun ci9 q9 => xo_ h23 ci9 q9) else none) else none))))))))) = some (.inl (12, a), h') ∧ h'.1 a = some (.inr (12, [.ref q, .null, .null, .null, .null, .int 0])) ∧ h'.1 q = some (cErr (cls e.1) e.2) ∧ n0 ≤ a ∧ n0 ≤ q ∧ GR n0 (2 * len + 30) (18 * len + 3700) h h' := fun e he r => by
    obtain ⟨q, H, r1, r2, r3, r4, r5⟩ := r
    have z := r5.2.2
    have hbH := r5.base
    obtain ⟨h', w1, w2, w3, w4⟩ := q_wrap (hP.2.1.gr r5 (Nat.le_refl _)) (by omega) (by omega) (by omega) r2 r3 r4
    refine ⟨q, pn H, h', ?_, w2, w3, by omega, r3, (r5.trans w4 (Nat.le_refl _)).more (Nat.le_refl _) (by omega) (by omega)⟩
    rw [cl_eq r1]
    have hq : pbase H ≤ q := by omega
    have : e.1 = 1 ∨ e.1 = 2 ∨ e.1 = 3 := by omega
    rcases this with e1 | e1 | e1 <;> rw [e1] <;> dsimp only <;> simp only [cls] <;> simp <;> exact ⟨hq, w1⟩
  have mk : ∀ (e : Nat × Nat), (1 ≤ e.1 ∧ e.1 ≤ 3) → RZ n0 (2 * len + 25) (18 * len + 3600) h e (f_X8_statements (some pa) h) → _ := err
  cases hs : stm bf len cs0 0 with
  | inl e =>
    have r : RZ n0 (2 * len + 25) (18 * len + 3600) h e (f_X8_statements (some pa) h) := by
      unfold f_X8_statements
      rw [rv_at hP.1.1]
      exact (RZ.xo hb.1 (st.2 e hs)).more (by omega) (by omega)
    have e3 := stm_er hs
    obtain ⟨q, a, h', w⟩ := mk e e3 r
    exact Or.inr ⟨e, q, a, h', rfl, ⟨e3.1, by omega⟩, w⟩
  | inr d =>
    obtain ⟨H, t1, t2, t3⟩ := st.1 d hs
    have pr := stm_go (by omega) hs
    have z := t3.2.2
    have hbH := t3.base
    rcases q_L4 400 FU d.1 d.2 H (by omega) (by unfold FU; omega) (by omega) (by omega) t2 with ⟨h', c', q', u1, u2, u3, u4⟩ | ⟨e, u1, u2, u3⟩
    · have es : f_X8_statements (some pa) h = some (.inr (), h') := by
        unfold f_X8_statements
        rw [rv_at hP.1.1, cl_eq t1]
        exact u1
      have gg := t3.trans u3 (Nat.le_refl _)
      have zz := gg.2.2
      have hbh := gg.base
      have hb' := u2.pb
      obtain ⟨d1, d2, d3, d4, d5⟩ := u2.conf (β := ((Nat × Nat) ⊕ Option Nat) × PH)
      obtain ⟨i1, i2⟩ := u2.empty
      by_cases c0 : c'.2.1.length = 0
      · rw [if_pos c0] at u4 i1
        have hX := u2.1.2.2.1
        have hE' := u2.2.1
        have lX : X < pn h' := by have := u2.2.2.1; omega
        have r1 : 1 ≤ pcl h' := by omega
        have r2 : 7 ≤ psl h' := by omega
        obtain ⟨h2, w1, w2, w3, w4⟩ := q_wrap (e := (4, len)) (q := pn h') (h := p_new h' (cErr 11 len) 7) (hE'.gr (GR.new (h := h') (n := n0) hb'.2.1 r1 r2) (Nat.le_refl _)) (by show n0 ≤ pn h' + 1; omega) (by show 1 ≤ pcl h' - 1; omega) (by show 6 ≤ psl h' - 7; omega) pn_at hb'.2.1 (Nat.lt_succ_self _)
        refine Or.inr ⟨(4, len), pn h', pn (p_new h' (cErr 11 len) 7), h2, u4, ⟨by show (1 : Nat) ≤ 4; decide, Nat.le_refl _⟩, ?_, w2, w3, by show n0 ≤ pn h' + 1; omega, hb'.2.1, ((gg.trans (GR.new (h := h') (n := n0) hb'.2.1 r1 r2) (Nat.le_refl _)).trans w4 (Nat.le_refl _)).more (Nat.le_refl _) (by omega) (by omega)⟩
        rw [cl_eq es]
        dsimp only
        rw [d1, d2, d4, cl_eq i1, if_neg (show ¬ (1 : Int32) = 0 by decide), nO_at r1 r2]
        rw [gR_at ((pn_ne (Nat.ne_of_lt hb'.2.2.1)).trans u2.1.1) rfl, gIN_at ((pn_ne (Nat.ne_of_lt lX)).trans hX) (by show pbase h' ≤ X; exact u2.1.2.2.2.1) rfl]
        rw [cl_eq (i_X13 (E := h'.2.1) hE'.2.2.2.2.2.1 rfl (by omega))]
        have ee : (p_new h' (cErr 11 len) 7).1 (pn h') = some (cErr 11 len) := pn_at
        have hq : pbase (p_new h' (cErr 11 len) 7) ≤ pn h' := by show pbase h' ≤ pn h'; omega
        unfold th_ cA_
        simp only [ee]
        unfold cErr
        dsimp only
        have hq' : pbase (p_new h' (.inr (11, [.int (Int32.ofNat len), .null, .null, .null, .null, .null, .int 0])) 7) ≤ pn h' := hq
        rw [if_neg (show ¬ (11 : Nat) = 9 by decide), if_neg (show ¬ (11 : Nat) = 10 by decide), if_neg (show ¬ (11 : Nat) = 8 by decide), if_pos (show (11 : Nat) = 11 from rfl), if_pos hq']
        exact w1
      · rw [if_neg c0] at u4 i1
        refine Or.inl ⟨h', c', q', u4, by omega, ?_, u2, gg.more (Nat.le_refl _) (by omega) (by omega)⟩
        rw [cl_eq es]
        dsimp only
        rw [d1, d2, d4, cl_eq i1, if_pos rfl, d1]
    · have r : RZ n0 (2 * len + 25) (18 * len + 3600) h e (f_X8_statements (some pa) h) := by
        unfold f_X8_statements
        rw [rv_at hP.1.1, cl_eq t1]
        exact (RZ.after t3 u3).more (by omega) (by omega)
      obtain ⟨q, a, h', w⟩ := mk e u2 r
      exact Or.inr ⟨e, q, a, h', u1, ⟨u2.1, by omega⟩, w⟩
end CS4
