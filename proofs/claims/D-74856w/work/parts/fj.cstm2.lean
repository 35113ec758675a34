/-! THE COMPONENT reads: a statement -/
set_option maxRecDepth 100000
section CS2
variable {n0 X bA sA sim pa ca ha lc ld len p : Nat} {ns : List (Nat × Nat × Nat)} {le : Int32} {bf : Nat → Nat} {c : CS} {h h' : PH}
theorem PPS.conf {β : Type} (hP : PPS n0 X bA sA sim le pa ca ha lc ld bf len ns c p h) : (∀ Z : Option Nat → Option β, gR h (some pa) 7 0 Z = Z (some ca)) ∧ (∀ Z : Option Nat → Option β, gRN h (some ca) 2 1 Z = Z (some lc)) ∧ (∀ Z : Option Nat → Option β, gRN h (some ca) 2 2 Z = Z (some ld)) ∧ (∀ Z : Option β, rv_ h (some lc) 19 Z = Z) ∧ (∀ Z : Option β, rv_ h (some pa) 7 Z = Z) := by
  obtain ⟨a1, a2, a3, a4, a5, a6, sv, rc, rd, rh, xs, ys, zs, ws, p1, p2, p3, ⟨⟨m1, q1, -⟩, -⟩, -⟩ := hP
  have hb := a2.2.2.2.2.2.2
  exact ⟨fun Z => gR_at a1.1 rfl, fun Z => gRN_at p1 (by omega) rfl, fun Z => gRN_at p1 (by omega) rfl, fun Z => rv_at q1, fun Z => rv_at a1.1⟩
theorem PPS.size (hP : PPS n0 X bA sA sim le pa ca ha lc ld bf len ns c p h) : f_J2_size (some lc) h = some (Int32.ofNat ns.length, h) ∧ ns.length ≤ 6 := by
  obtain ⟨a1, a2, a3, a4, a5, a6, sv, rc, rd, rh, xs, ys, zs, ws, p1, p2, p3, ⟨⟨m1, q1, -⟩, -⟩, p5, p6, p7, p8, p9, p10, p11, p12, p13⟩ := hP
  unfold f_J2_size
  rw [gI_at q1 rfl, p9.1]
  exact ⟨rfl, p13.2⟩
theorem PPS.has {β : Type} {a : Nat} {w : List Nat} (hP : PPS n0 X bA sA sim le pa ca ha lc ld bf len ns c p h) (hS : SWB h a w) : (∀ Z : Option Nat → Option β, gR h (some pa) 7 1 Z = Z (some ha)) ∧ (∀ Z : Option β, rv_ h (some ha) 19 Z = Z) ∧ ∃ ws : List (List Nat), MET ws c ∧ f_J2_contains (some ha) (some a) h = some (if w ∈ ws then 1 else 0, h) := by
  obtain ⟨a1, a2, a3, a4, a5, a6, sv, rc, rd, rh, xs, ys, zs, ws, p1, p2, p3, p4, p5, ⟨⟨m1, q1⟩, -⟩, p7, p8, p9, p10, p11, p12, p13⟩ := hP
  exact ⟨fun Z => gR_at a1.1 rfl, fun Z => rv_at q1.1, ws, p12, p_has a2.2.2.1 q1 hS.stw p11.1.symm (fun i hi => (p11.2 i (by rw [← p11.1]; exact hi)).stw)⟩
theorem p_len {sa u : Nat} {w : List Nat} {x y : Int32} (e9 : h.2.1.1 9 = .int 1) (hS : STR h sa u w x y) : f_J9_length (some sa) h = some (Int32.ofNat w.length, h) := by
  obtain ⟨s1, f, s2, s3⟩ := hS
  unfold f_J9_length f_J9_coder f_J9_coder_B14
  rw [gR_at s1 rfl, aN_at s2, rv_at s1, e9]
  simp only [asI]
  rw [if_neg (show ¬ (1 : Int32) = 0 by decide), gI_at s1 rfl, rN_at nb0.1, cl_eq rfl, sh0]
theorem q_rep {a : Nat} (hP : PPS n0 X bA sA sim le pa ca ha lc ld bf len ns c p h) (h1 : 1 ≤ pcl h) (h2 : 7 ≤ psl h) : RZ n0 1 7 h (3, a) (f_X8_statement_B59 (Int32.ofNat a) h) := by
  have hb := hP.pb
  unfold f_X8_statement_B59
  rw [th_X10 (E := h.2.1) hP.2.1.2.2.2.2.2.1 rfl (by omega) h1 h2]
  exact ⟨pn h, _, rfl, pn_at, hb.2.1, Nat.lt_succ_self _, GR.new hb.2.1 h1 h2⟩
theorem q_unk {a : Nat} (hE : ENV n0 h) (hn : n0 ≤ pn h) (h1 : 1 ≤ pcl h) (h2 : 7 ≤ psl h) : RZ n0 1 7 h (1, a) (f_X8_statement_B270 (some pa) (Int32.ofNat a) (-1) h) := by
  have hb := hE.2.2.2.2.2.2
  unfold f_X8_statement_B270
  rw [if_neg (show ¬ (-1 : Int32) = 0 by decide), if_neg (show ¬ (-1 : Int32) = 1 by decide), if_neg (show ¬ (-1 : Int32) = 2 by decide), if_neg (show ¬ (-1 : Int32) = 3 by decide), if_neg (show ¬ (-1 : Int32) = 4 by decide), if_neg (show ¬ (-1 : Int32) = 5 by decide), if_neg (show ¬ (-1 : Int32) = 6 by decide)]
  rw [th_X11 (E := h.2.1) hE.2.2.2.2.2.1 rfl (by omega) h1 h2]
  exact ⟨pn h, _, rfl, pn_at, hn, Nat.lt_succ_self _, GR.new hn h1 h2⟩
/-- one number -/
theorem q_one {kf lo hi : Nat} (k1 : 3 ≤ kf) (k2 : kf ≤ 8) (hlo : lo ≤ 2147483647) (hhi : hi ≤ 2147483647) (h1 : 1 ≤ pcl h) (h2 : 7 ≤ psl h) (hP : PPS n0 X bA sA sim le pa ca ha lc ld bf len ns c p h) (K : PH → Option (((Nat × Nat) ⊕ Unit) × PH)) :
    (∀ d : CS × Nat, rd1 bf len c kf lo hi p = .inr d → ∃ h' : PH, (gR h (some pa) 7 0 fun r => rv_ h (some pa) 7 (cl_ (f_X8_number (some pa) (Int32.ofNat lo) (Int32.ofNat hi) h) fun z9 h64 => match z9 with | .inl (ci9, q9) => (xo_ h64 ci9 q9) | .inr v => (pV h64 r 2 kf (.int v) K))) = K h' ∧ PPS n0 X bA sA sim le pa ca ha lc ld bf len ns d.1 d.2 h' ∧ GR n0 0 0 h h' ∧ d.1.2 = c.2) ∧
    (∀ e : Nat × Nat, rd1 bf len c kf lo hi p = .inl e → RZ n0 1 7 h e (gR h (some pa) 7 0 fun r => rv_ h (some pa) 7 (cl_ (f_X8_number (some pa) (Int32.ofNat lo) (Int32.ofNat hi) h) fun z9 h64 => match z9 with | .inl (ci9, q9) => (xo_ h64 ci9 q9) | .inr v => (pV h64 r 2 kf (.int v) K)))) := by
  have q := q_put (kf := kf) k1 k2 hlo hhi h1 h2 hP
  unfold rd1
  cases hn : nmb bf len lo hi p with
  | inl e =>
    refine ⟨fun d hd => (by cases hd), fun e' he => ?_⟩
    cases he
    exact q.2 _ hn K
  | inr d =>
    refine ⟨fun d' hd => ?_, fun e' he => by cases he⟩
    cases hd
    obtain ⟨h', q1, q2, q3⟩ := q.1 d hn
    exact ⟨h', q1 K, q2, q3, rfl⟩
/-- what a statement's rest does -/
def BZ (n0 X bA sA sim : Nat) (le : Int32) (pa ca ha lc ld : Nat) (bf : Nat → Nat) (len : Nat) (h : PH) (sp : (Nat × Nat) ⊕ (CS × Nat)) (C s : Nat) (o : Option (((Nat × Nat) ⊕ Unit) × PH)) : Prop :=
  (∀ d : CS × Nat, sp = .inr d → ∃ h' : PH, o = some (.inr (), h') ∧ PPS n0 X bA sA sim le pa ca ha lc ld bf len d.1.2.1 d.1 d.2 h' ∧ GR n0 C s h h') ∧ (∀ e : Nat × Nat, sp = .inl e → RZ n0 C s h e o)
theorem q_k3 {kf lo hi : Nat} (k1 : 3 ≤ kf) (k2 : kf ≤ 8) (hlo : lo ≤ 2147483647) (hhi : hi ≤ 2147483647) (h1 : 1 ≤ pcl h) (h2 : 7 ≤ psl h) (hP : PPS n0 X bA sA sim le pa ca ha lc ld bf len c.2.1 c p h) :
    BZ n0 X bA sA sim le pa ca ha lc ld bf len h (rd1 bf len c kf lo hi p) 4 40 (gR h (some pa) 7 0 fun r => rv_ h (some pa) 7 (cl_ (f_X8_number (some pa) (Int32.ofNat lo) (Int32.ofNat hi) h) fun z9 h64 => match z9 with | .inl (ci9, q9) => (xo_ h64 ci9 q9) | .inr v => (pV h64 r 2 kf (.int v) fun h66 => f_X8_statement_B486 h66))) := by
  have q := q_one k1 k2 hlo hhi h1 h2 hP (fun h66 => f_X8_statement_B486 h66)
  refine ⟨fun d hd => ?_, fun e he => (q.2 e he).more (by omega) (by omega)⟩
  obtain ⟨h', q1, q2, q3, q4⟩ := q.1 d hd
  exact ⟨h', q1, by rw [q4]; exact q2, q3.more (Nat.le_refl _) (by omega) (by omega)⟩
theorem q_b270 {k : Nat} {x2 : Int32} (hk : k < 7) (h6 : k = 1 → c.2.1.length < 6) (h1 : 8 ≤ pcl h) (h2 : 60 ≤ psl h) (hP : PPS n0 X bA sA sim le pa ca ha lc ld bf len c.2.1 c p h) :
    BZ n0 X bA sA sim le pa ca ha lc ld bf len h (rdW bf len c k p) 4 40 (f_X8_statement_B270 (some pa) x2 (Int32.ofNat k) h) := by
  have hb := hP.pb
  have : k = 0 ∨ k = 1 ∨ k = 2 ∨ k = 3 ∨ k = 4 ∨ k = 5 ∨ k = 6 := by omega
  unfold f_X8_statement_B270 rdW
  rcases this with rfl | rfl | rfl | rfl | rfl | rfl | rfl
  · rw [if_pos (show Int32.ofNat 0 = 0 from rfl), if_pos (show (0 : Nat) = 0 from rfl)]
    have q := q_clk (by omega) (by omega) hP
    obtain ⟨c1, c2, c3, c4, c5⟩ := hP.conf (β := ((Nat × Nat) ⊕ Unit) × PH)
    rw [c1, c5]
    unfold rd2 rd1
    cases hn : nmb bf len 900 1100 p with
    | inl e =>
      refine ⟨fun d hd => (by cases hd), fun e' he => ?_⟩
      cases he
      exact (RZ.xo hb.1 (q.2.1 e hn)).more (by omega) (by omega)
    | inr r =>
      dsimp only
      cases ho : nmb bf len 0 100000 r.2 with
      | inl e =>
        refine ⟨fun d hd => (by cases hd), fun e' he => ?_⟩
        cases he
        exact (RZ.xo hb.1 (q.2.2 r e hn ho)).more (by omega) (by omega)
      | inr o =>
        refine ⟨fun d hd => ?_, fun e' he => by cases he⟩
        cases hd
        obtain ⟨H, q1, q2, q3, q4, q5⟩ := q.1 r o hn ho
        obtain ⟨sv, s1, s2, s3⟩ := q3.srv q2 (by omega) (by omega)
        have hbH := q4.base
        refine ⟨_, ?_, s3, ((q4.trans (GR.set s2) (Nat.le_refl _)).more (Nat.le_refl _) (by omega) (by omega))⟩
        rw [cl_eq q1]
        dsimp only
        rw [pV_at s1 (by omega) (Nat.le_of_ble_eq_true rfl)]
        rfl
  · rw [if_neg (show ¬ Int32.ofNat 1 = 0 by decide), if_pos (show Int32.ofNat 1 = 1 from rfl), if_neg (show ¬ (1 : Nat) = 0 by decide), if_pos (show (1 : Nat) = 1 from rfl)]
    have q := q_clk (by omega) (by omega) hP
    obtain ⟨c1, c2, c3, c4, c5⟩ := hP.conf (β := ((Nat × Nat) ⊕ Unit) × PH)
    rw [c1, c2, c5]
    unfold rdN
    cases hn : nmb bf len 900 1100 p with
    | inl e =>
      refine ⟨fun d hd => (by cases hd), fun e' he => ?_⟩
      cases he
      exact (RZ.xo hb.1 (q.2.1 e hn)).more (by omega) (by omega)
    | inr r =>
      dsimp only
      cases ho : nmb bf len 0 100000 r.2 with
      | inl e =>
        refine ⟨fun d hd => (by cases hd), fun e' he => ?_⟩
        cases he
        exact (RZ.xo hb.1 (q.2.2 r e hn ho)).more (by omega) (by omega)
      | inr o =>
        dsimp only
        obtain ⟨H, q1, q2, q3, q4, q5⟩ := q.1 r o hn ho
        have hl := h6 rfl
        have z4 := q4.2.2
        rw [cl_eq q1]
        dsimp only
        cases hd : nmb bf len 1 1000 o.2 with
        | inl e =>
          refine ⟨fun d hd => (by cases hd), fun e' he => ?_⟩
          cases he
          obtain ⟨H2, a1, a2, a3, a4⟩ := q3.addc (dd := 0) hl q2 (by omega) (by omega) (by omega) (by omega)
          have z3 := a3.2.2
          rw [a1, cl_eq a2]
          obtain ⟨d1, d2, d3, d4, d5⟩ := a4.conf (β := ((Nat × Nat) ⊕ Unit) × PH)
          rw [d1, d3, d5]
          have k := q_num (lo := 1) (hi := 1000) (by decide) (by decide) (by omega) (by omega) a4
          have g := q4.trans a3 (Nat.le_refl _)
          have hb2 := g.base
          exact (RZ.after g (RZ.xo (by omega) (k.2 e hd))).more (by omega) (by omega)
        | inr d =>
          refine ⟨fun d' hd' => ?_, fun e' he => by cases he⟩
          cases hd'
          obtain ⟨H2, a1, a2, a3, a4⟩ := q3.addc (dd := d.1) hl q2 (by omega) (by omega) (by omega) (by omega)
          have z3 := a3.2.2
          rw [a1, cl_eq a2]
          obtain ⟨d1, d2, d3, d4, d5⟩ := a4.conf (β := ((Nat × Nat) ⊕ Unit) × PH)
          rw [d1, d3, d5]
          have k := q_num (lo := 1) (hi := 1000) (by decide) (by decide) (by omega) (by omega) a4
          obtain ⟨k1, k2⟩ := k.1 d hd
          rw [cl_eq (show f_X8_number (some pa) (1 : Int32) (1000 : Int32) H2 = _ from k1)]
          dsimp only
          have kb := k2.pb
          have dle := (nmb_ok (nmb_ok (nmb_ok hb.2.2.2.1 hn).2.2.2 ho).2.2.2 hd).2.1
          obtain ⟨H3, hH3⟩ : ∃ H3, pP H2 pa ca ha X d.2 = H3 := ⟨_, rfl⟩
          have z5 : pn H3 = pn H2 ∧ pcl H3 = pcl H2 ∧ psl H3 = psl H2 := by rw [← hH3]; exact ⟨rfl, rfl, rfl⟩
          have g3 : GR n0 0 0 H2 H3 := by rw [← hH3]; exact GR.set hP.2.2.2.2.1
          rw [hH3] at k2 kb ⊢
          have v := p_val (h := H3) (v := d.1) k2.2.1.2.2.2.1 k2.2.1.2.2.2.2.1 (by omega) (by omega) (by omega) (by omega)
          have fin : ∀ (q : Nat) (H4 : PH), f_J17_valueOf (Int32.ofNat d.1) H3 = some (some q, H4) → H4.1 q = some (.inr (23, [.int (Int32.ofNat d.1)])) → q < pn H4 → PPS n0 X bA sA sim le pa ca ha lc ld bf len (c.2.1 ++ [(r.1, o.1, d.1)]) c d.2 H4 → GR n0 1 1 H3 H4 →
              ∃ h' : PH, (cl_ (f_J17_valueOf (Int32.ofNat d.1) H3) fun r52 h51 => rv_ h51 (some ld) 19 (cl_ (f_J2_add (some ld) r52 h51) fun v54 h53 => f_X8_statement_B486 h53)) = some (.inr (), h') ∧ PPS n0 X bA sA sim le pa ca ha lc ld bf len (c_node c r.1 o.1 d.1).2.1 (c_node c r.1 o.1 d.1) d.2 h' ∧ GR n0 4 40 h h' := fun q H4 v1 v2 v3 v4 v5 => by
            have z6 := v5.2.2
            obtain ⟨H5, b1, b2, b3, b4⟩ := v4.addd (r := r.1) (o := o.1) hl v2 v3 (by omega) (by omega)
            rw [cl_eq v1, b1, cl_eq b2]
            refine ⟨H5, rfl, b4, ?_⟩
            have g := (((q4.trans a3 (Nat.le_refl _)).trans g3 (Nat.le_refl _)).trans v5 (Nat.le_refl _)).trans b3 (Nat.le_refl _)
            exact g.more (Nat.le_refl _) (by omega) (by omega)
          by_cases cv : d.1 ≤ 127
          · rw [if_pos cv] at v
            obtain ⟨i1, i2⟩ := k2.2.1.2.1 (d.1 + 128) (by omega)
            refine fin _ H3 v ?_ (by omega) k2 (GR.refl.more (Nat.le_refl _) (by omega) (by omega))
            rw [i2, show (128 : Int32) = Int32.ofNat 128 from rfl, of_sub (by omega), Nat.add_sub_cancel]
          · rw [if_neg cv] at v
            exact fin _ _ v pn_at (Nat.lt_succ_self _) (k2.grow (C := 1) (s := 1) (GR.new (Nat.le_refl _) (by omega) (by omega))) (GR.new (by omega) (by omega) (by omega))
  · rw [if_neg (show ¬ Int32.ofNat 2 = 0 by decide), if_neg (show ¬ Int32.ofNat 2 = 1 by decide), if_pos (show Int32.ofNat 2 = 2 from rfl), if_neg (show ¬ (2 : Nat) = 0 by decide), if_neg (show ¬ (2 : Nat) = 1 by decide), if_pos (show (2 : Nat) = 2 from rfl)]
    have q := q_one (kf := 3) (lo := 100) (hi := 60000) (by decide) (by decide) (by decide) (by decide) (by omega) (by omega) hP (fun h58 => gR h58 (some pa) 7 0 fun r59 => rv_ h58 (some pa) 7 (cl_ (f_X8_number (some pa) (0 : Int32) (100 : Int32) h58) fun z9 h60 => match z9 with | .inl (ci9, q9) => (xo_ h60 ci9 q9) | .inr v61 => (pV h60 r59 2 4 (.int v61) fun h62 => f_X8_statement_B486 h62)))
    unfold rd2
    cases hn : rd1 bf len c 3 100 60000 p with
    | inl e =>
      refine ⟨fun d hd => (by cases hd), fun e' he => ?_⟩
      cases he
      exact (q.2 e hn).more (by omega) (by omega)
    | inr d =>
      obtain ⟨H, q1, q2, q3, q4⟩ := q.1 d hn
      have z3 := q3.2.2
      have e0 := q1
      dsimp only
      have q2' : PPS n0 X bA sA sim le pa ca ha lc ld bf len d.1.2.1 d.1 d.2 H := by rw [q4]; exact q2
      have t := q_k3 (kf := 4) (lo := 0) (hi := 100) (c := d.1) (by decide) (by decide) (by decide) (by decide) (by omega) (by omega) q2'
      refine ⟨fun d' hd' => ?_, fun e he => ?_⟩
      · obtain ⟨h', t1, t2, t3⟩ := t.1 d' hd'
        exact ⟨h', e0.trans t1, t2, (q3.trans t3 (Nat.le_refl _)).more (Nat.le_refl _) (by omega) (by omega)⟩
      · obtain ⟨qq, h2', r1, r2, r3, r4, r5⟩ := t.2 e he
        exact ⟨qq, h2', e0.trans r1, r2, r3, r4, (q3.trans r5 (Nat.le_refl _)).more (Nat.le_refl _) (by omega) (by omega)⟩
  · rw [if_neg (show ¬ Int32.ofNat 3 = 0 by decide), if_neg (show ¬ Int32.ofNat 3 = 1 by decide), if_neg (show ¬ Int32.ofNat 3 = 2 by decide), if_pos (show Int32.ofNat 3 = 3 from rfl), if_neg (show ¬ (3 : Nat) = 0 by decide), if_neg (show ¬ (3 : Nat) = 1 by decide), if_neg (show ¬ (3 : Nat) = 2 by decide), if_pos (show (3 : Nat) = 3 from rfl)]
    exact q_k3 (kf := 5) (lo := 50) (hi := 60000) (by decide) (by decide) (by decide) (by decide) (by omega) (by omega) hP
  · rw [if_neg (show ¬ Int32.ofNat 4 = 0 by decide), if_neg (show ¬ Int32.ofNat 4 = 1 by decide), if_neg (show ¬ Int32.ofNat 4 = 2 by decide), if_neg (show ¬ Int32.ofNat 4 = 3 by decide), if_pos (show Int32.ofNat 4 = 4 from rfl), if_neg (show ¬ (4 : Nat) = 0 by decide), if_neg (show ¬ (4 : Nat) = 1 by decide), if_neg (show ¬ (4 : Nat) = 2 by decide), if_neg (show ¬ (4 : Nat) = 3 by decide), if_pos (show (4 : Nat) = 4 from rfl)]
    exact q_k3 (kf := 6) (lo := 50) (hi := 60000) (by decide) (by decide) (by decide) (by decide) (by omega) (by omega) hP
  · rw [if_neg (show ¬ Int32.ofNat 5 = 0 by decide), if_neg (show ¬ Int32.ofNat 5 = 1 by decide), if_neg (show ¬ Int32.ofNat 5 = 2 by decide), if_neg (show ¬ Int32.ofNat 5 = 3 by decide), if_neg (show ¬ Int32.ofNat 5 = 4 by decide), if_pos (show Int32.ofNat 5 = 5 from rfl), if_neg (show ¬ (5 : Nat) = 0 by decide), if_neg (show ¬ (5 : Nat) = 1 by decide), if_neg (show ¬ (5 : Nat) = 2 by decide), if_neg (show ¬ (5 : Nat) = 3 by decide), if_neg (show ¬ (5 : Nat) = 4 by decide), if_pos (show (5 : Nat) = 5 from rfl)]
    exact q_k3 (kf := 7) (lo := 0) (hi := 1000) (by decide) (by decide) (by decide) (by decide) (by omega) (by omega) hP
  · rw [if_neg (show ¬ Int32.ofNat 6 = 0 by decide), if_neg (show ¬ Int32.ofNat 6 = 1 by decide), if_neg (show ¬ Int32.ofNat 6 = 2 by decide), if_neg (show ¬ Int32.ofNat 6 = 3 by decide), if_neg (show ¬ Int32.ofNat 6 = 4 by decide), if_neg (show ¬ Int32.ofNat 6 = 5 by decide), if_pos (show Int32.ofNat 6 = 6 from rfl), if_neg (show ¬ (6 : Nat) = 0 by decide), if_neg (show ¬ (6 : Nat) = 1 by decide), if_neg (show ¬ (6 : Nat) = 2 by decide), if_neg (show ¬ (6 : Nat) = 3 by decide), if_neg (show ¬ (6 : Nat) = 4 by decide), if_neg (show ¬ (6 : Nat) = 5 by decide)]
    exact q_k3 (kf := 8) (lo := 0) (hi := 2147483647) (by decide) (by decide) (by decide) (by decide) (by omega) (by omega) hP
end CS2
