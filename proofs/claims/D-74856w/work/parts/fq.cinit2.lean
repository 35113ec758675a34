/-! THE COMPONENT: its constructor -/
set_option maxRecDepth 100000
/-- the configuration without a text -/
abbrev csP : CS := c_node cs0 1000 0 10
section CI2
variable {E : PE} {B : Nat × Nat} {h : PH}
/-- the cells ahead of the lists' additions -/
def inC (h : PH) : List va_E := [.inr (0, [.ref (pn h + 1), .int 0, .int 0, .null, .null]), .inl (h.2.1.2.1 1, 400, .inl fun _ => 0), sim0] ++ (cfC h (pn h + 3) ++ [.inr (3, [.int 1000, .int 0])])
/-- what follows -/
def inZ (a0 a4 a1 a5 : Nat) (h7 : PH) : Option (Unit × PH) := cl_ (rv_ h7 (some (a1 + 2)) 19 (cl_ (f_J2_add (some (a1 + 2)) (some a5) h7) fun v9 h8 => gRN h8 (some a1) 2 2 fun r10 => cl_ (f_J17_valueOf (10 : Int32) h8) fun r12 h11 => rv_ h11 r10 19 (cl_ (f_J2_add r10 r12 h11) fun v14 h13 => some ((some a1), h13)))) fun r7 h6 => cl_ (f_X2_init a4 r7 h6) fun _u h8 => pV h8 (some a0) 0 3 (va_rf (some a4)) fun h9 => nA h9 6 (2 : Int32) aNul fun a10 h11 => pV h11 (some a0) 0 4 (va_rf (some a10)) fun h12 => some ((), h12)
theorem in_beg (hb : pbase h ≤ pn h) (h1 : 300 ≤ pcl h) (h2 : 4000 ≤ psl h) : f_X1_init (pn h) (bh h [.inr (0, [.null, .int 0, .int 0, .null, .null])] 5) = inZ (pn h) (pn h + 2) (pn h + 3) (pn h + 9) (bh h (inC h) 450) := by
  unfold f_X1_init
  refine (b_nA (h := h) (m := 400) (t := 1) (cs := [.inr (0, [.null, .int 0, .int 0, .null, .null])]) (k := 5) (by decide) (by show 1 + 1 ≤ _; omega) (by omega)).trans ?_
  refine (b_pV0 (h := h) (cs := [.inr (0, [.null, .int 0, .int 0, .null, .null]), .inl (h.2.1.2.1 1, 400, .inl fun _ => 0)]) (k := 405) hb rfl (Nat.le_of_ble_eq_true rfl)).trans ?_
  refine (b_nO (h := h) (cs := [.inr (0, [.ref (pn h + 1), .int 0, .int 0, .null, .null]), .inl (h.2.1.2.1 1, 400, .inl fun _ => 0)]) (k := 405) (by show 2 + 1 ≤ _; omega) (by omega)).trans ?_
  unfold f_X1_plain
  refine (congrArg (fun o => cl_ o _) (m_nO (β := Option Nat × PH) (h := h) (cs := [.inr (0, [.ref (pn h + 1), .int 0, .int 0, .null, .null]), .inl (h.2.1.2.1 1, 400, .inl fun _ => 0), sim0]) (ds := []) (k := 427) 0 (ci := 2) (N := 9) (fs := [.null, .null, .null, .int 0, .int 0, .int 0, .int 0, .int 0, .int 0]) rfl (by show 3 + 0 + 1 ≤ _; omega) (by omega))).trans ?_
  have e3 := c_conf (h := h) (cs := [.inr (0, [.ref (pn h + 1), .int 0, .int 0, .null, .null]), .inl (h.2.1.2.1 1, 400, .inl fun _ => 0), sim0]) (k := 436) hb (by show 3 + 6 ≤ _; omega) (by omega)
  refine (congrArg (fun o => cl_ o _) (cl_eq e3)).trans ?_
  have a1 : ∀ (ds : List va_E) (k : Nat), (bh h ([.inr (0, [.ref (pn h + 1), .int 0, .int 0, .null, .null]), .inl (h.2.1.2.1 1, 400, .inl fun _ => 0), sim0] ++ (cfC h (pn h + 3) ++ ds)) k).1 (pn h + 3) = some (.inr (2, [.ref (pn h + 3 + 1), .ref (pn h + 3 + 2), .ref (pn h + 3 + 4), .int 5000, .int 20, .int 2000, .int 500, .int 0, .int 1])) := fun ds k => bh_at (h := h) (i := 3) rfl
  have a0 := a1 [] (436 + 2 + 3 + 2 + 3 + 2)
  rw [List.append_nil] at a0
  have b3 : pbase h ≤ pn h + 3 := by omega
  refine (congrArg (fun o => cl_ o _) (gRN_at (β := Option Nat × PH) a0 (by rw [bh_base]; exact b3) (k := 1) rfl)).trans ?_
  refine (congrArg (fun o => cl_ o _) (m_nO (β := Option Nat × PH) (h := h) (cs := [.inr (0, [.ref (pn h + 1), .int 0, .int 0, .null, .null]), .inl (h.2.1.2.1 1, 400, .inl fun _ => 0), sim0]) (ds := cfC h (pn h + 3)) (k := 448) 6 (ci := 3) (N := 2) (fs := [.int 0, .int 0]) rfl (by show 3 + 6 + 1 ≤ _; omega) (by omega))).trans ?_
  unfold f_X4_init
  have c1 : ∀ {β : Type} (v w : Value) (f : Nat) (x : Value) (K : PH → Option β), f < 2 → pV (bh h ([.inr (0, [.ref (pn h + 1), .int 0, .int 0, .null, .null]), .inl (h.2.1.2.1 1, 400, .inl fun _ => 0), sim0] ++ (cfC h (pn h + 3) ++ [.inr (3, [v, w])])) 450) (some (pn h + 9)) 3 f x K = K (bh h ([.inr (0, [.ref (pn h + 1), .int 0, .int 0, .null, .null]), .inl (h.2.1.2.1 1, 400, .inl fun _ => 0), sim0] ++ (cfC h (pn h + 3) ++ [.inr (3, [v, w].set f x)])) 450) := fun v w f x K hf => (b_pV (h := h) (i := 9) (ci := 3) (fs := [v, w]) hb rfl hf).trans rfl
  have c2 : ∀ (K : Unit → PH → Option (Option Nat × PH)), (cl_ (pV (bh h ([.inr (0, [.ref (pn h + 1), .int 0, .int 0, .null, .null]), .inl (h.2.1.2.1 1, 400, .inl fun _ => 0), sim0] ++ (cfC h (pn h + 3) ++ [.inr (3, [.int 0, .int 0])])) 450) (some (pn h + 9)) 3 0 (.int (1000 : Int32)) fun h1 => pV h1 (some (pn h + 9)) 3 1 (.int (0 : Int32)) fun h2 => some ((), h2)) K) = K () (bh h (inC h) 450) := fun K => by
    rw [c1 _ _ _ _ _ (by decide)]
    refine (congrArg (fun o => cl_ o K) (c1 (.int 1000) (.int 0) 1 (.int 0) (fun h2 => some ((), h2)) (by decide))).trans ?_
    rfl
  refine (congrArg (fun o => cl_ o _) (c2 _)).trans ?_
  rfl
theorem x_init (hE : h.2.1 = E) (hV : EVC E) (hb : pbase h ≤ pn h) (hk : ∀ (b : Nat) (e : va_E), b < E.2.2.1 → E.2.2.2 b = some e → h.1 b = some e) (h1 : 300 ≤ pcl h) (h2 : 4000 ≤ psl h) (hB1 : pcl h ≤ B.1) (hB2 : psl h ≤ B.2) :
    ∃ (F : Nat → Nat) (R : PM) (h' : PH) (sA cl sl : Nat), f_X1_init (pn h) (bh h [.inr (0, [.null, .int 0, .int 0, .null, .null])] 5) = some ((), h') ∧ SP E B F R (SC csP cl sl) h' ∧ R (pn h) = some (cLL (pn h + 1) 0 0 (F 0) sA) ∧ R (pn h + 1) = some (.inl (E.2.1 1, 400, .inl fun _ => 0)) ∧ R sA = some (.inl (E.2.1 6, 2, aNul)) ∧ E.2.2.1 ≤ sA ∧ KE E R ∧ B.1 - pcl h ≤ cl ∧ cl ≤ B.1 - pcl h + 60 ∧ B.2 - psl h ≤ sl ∧ sl ≤ B.2 - psl h + 900 := by
  have hp : pbase h = E.2.2.1 := by unfold pbase; rw [hE]
  obtain ⟨v1, v2, v3, v4, v5, v6, v7⟩ := id hV
  rw [in_beg hb h1 h2]
  obtain ⟨H, hH⟩ : ∃ H, bh h (inC h) 450 = H := ⟨_, rfl⟩
  have at_ : ∀ (i : Nat) (e : va_E), (inC h)[i]? = some e → H.1 (pn h + i) = some e := fun i e hi => by rw [← hH]; exact bh_at hi
  have lo : ∀ b : Nat, b < pn h → H.1 b = h.1 b := fun b hb' => by rw [← hH]; exact bh_lo hb'
  have ePn : pn H = pn h + 10 := by rw [← hH]; rfl
  have eE : H.2.1 = h.2.1 := by rw [← hH]; rfl
  have eB : pbase H = pbase h := by unfold pbase; rw [eE]
  have eC : pcl H = pcl h - 10 := by rw [← hH]; rfl
  have eS : psl H = psl h - 450 := by rw [← hH]; rfl
  rw [hH]
  have lq : ∀ l row : Nat, H.1 l = some (cLst 0 row 0) → H.1 row = some (.inl (h.2.1.2.1 4, 2, aNul)) → pn h + 3 ≤ l → pn h + 3 ≤ row → l ≠ row → l < pn H → row < pn H → LQ (pn h + 3) H l row [] := fun l row e1 e2 i1 i2 i3 i4 i5 =>
    ⟨⟨0, e1, ⟨fun _ => none, by rw [eE]; exact e2, fun i hi => absurd hi (Nat.not_lt_zero i)⟩, by omega, by omega, i3, Nat.zero_le _, Nat.zero_le _, i4, i5⟩, i1, i2⟩
  have q1 := lq (pn h + 5) (pn h + 6) (at_ 5 _ rfl) (at_ 6 _ rfl) (by omega) (by omega) (by omega) (by omega) (by omega)
  have q2 := lq (pn h + 7) (pn h + 8) (at_ 7 _ rfl) (at_ 8 _ rfl) (by omega) (by omega) (by omega) (by omega) (by omega)
  have ck : H.1 (pn h + 9) = some (.inr (3, [.int 1000, .int 0])) := at_ 9 _ rfl
  obtain ⟨r1, H2, s1, s2, s3, s4, s5, s6⟩ := q1.add (Nat.zero_le _) (by omega) (by omega) ck (by decide) (by omega) (fun i hi => absurd hi (Nat.not_lt_zero i))
  have z4 := s4.2.2
  have g4 := s4.base
  have q2' : LQ (pn h + 3) H2 (pn h + 7) (pn h + 8) [] := q2.fr (s5 _ (by omega) (by omega) (by omega)) (s5 _ (by omega) (by omega) (by omega)) s4.2.1 z4.1
  have cf2 : H2.1 (pn h + 3) = some (.inr (2, [.ref (pn h + 4), .ref (pn h + 5), .ref (pn h + 7), .int 5000, .int 20, .int 2000, .int 500, .int 0, .int 1])) := (s5 _ (by omega) (by omega) (by omega)).trans (at_ 3 _ rfl)
  have eE2 : H2.2.1 = E := (s4.2.1.trans eE).trans hE
  have lo2 : ∀ b : Nat, b < pn h → H2.1 b = h.1 b := fun b hb' => (s4.1 b (by omega)).trans (lo b hb')
  obtain ⟨t1, t2⟩ : sAd E 1138 < E.2.2.1 ∧ E.2.2.2 (sAd E 1138) = some (.inr (23, [.int (Int32.ofNat 138 - 128)])) := v6 138 (by decide)
  have iv10 : H2.1 (sAd E 1138) = some (.inr (23, [.int (Int32.ofNat 10)])) := by
    rw [lo2 _ (by omega), hk _ _ t1 t2]
    rfl
  have pv := p_val (h := H2) (v := 10) (by rw [eE2]; exact v2) (by rw [eE2]; exact v3) (by decide) (by omega) (by omega) (by omega)
  rw [if_pos (by decide), eE2] at pv
  obtain ⟨r2, H3, w1, w2, w3, w4, w5, w6⟩ := q2'.add (q := sAd E 1138) (Nat.zero_le _) (by omega) (by omega) iv10 (by decide) (by omega) (fun i hi => absurd hi (Nat.not_lt_zero i))
  have y4 := w4.2.2
  have k4 := w4.base
  have r1n : r1 ≠ pn h + 7 ∧ r1 ≠ pn h + 8 ∧ r1 < pn H2 ∧ pn h + 3 ≤ r1 := by
    obtain ⟨⟨mc, l1, l2, l3, l4, l5, l6, l7, l8, l9⟩, l10, l11⟩ := s2
    refine ⟨?_, ?_, l9, l11⟩
    · rcases s3 with s3 | s3 <;> omega
    · rcases s3 with s3 | s3 <;> omega
  have q1' : LQ (pn h + 3) H3 (pn h + 5) r1 [pn h + 9] := s2.fr (w5 _ (by omega) (by omega) (by omega)) (w5 _ r1n.1 r1n.2.1 r1n.2.2.1) w4.2.1 y4.1
  have eE3 : H3.2.1 = E := w4.2.1.trans eE2
  have lo3 : ∀ b : Nat, b < pn h → H3.1 b = h.1 b := fun b hb' => (w4.1 b (by omega)).trans (lo2 b hb')
  have kk : ∀ (i : Nat) (e : va_E), i < 10 → i ≠ 5 → i ≠ 6 → i ≠ 7 → i ≠ 8 → (inC h)[i]? = some e → H3.1 (pn h + i) = some e := fun i e i1 i5 i6 i7 i8 hi => by
    rw [w5 _ (by omega) (by omega) (by omega), s5 _ (by omega) (by omega) (by omega)]
    exact at_ i e hi
  have c3 : H3.1 (pn h + 3) = some (cfP (pn h + 4) (pn h + 5) (pn h + 7) csP.1) := kk 3 _ (by decide) (by decide) (by decide) (by decide) (by decide) rfl
  obtain ⟨F, H4, f0, f1, f2⟩ := ld_sim (B := B) (a := pn h + 2) (n0 := pn h + 3) (c := csP) (ca := pn h + 3) (lc := pn h + 5) (ld := pn h + 7) (sv := pn h + 4) (rc := r1) (rd := r2) (xs := [pn h + 9]) (ys := [sAd E 1138]) eE3 hV (fun b e e1 e2 => by
      rw [lo3 b (by omega)]
      exact hk b e e1 e2) (by omega) ⟨c3, ⟨by omega, by omega⟩, ⟨kk 4 _ (by decide) (by decide) (by decide) (by decide) (by decide) rfl, by omega, by omega⟩, q1', w2, ⟨rfl, fun i hi => by
        have hi0 : i = 0 := by
          have : i < 1 := hi
          omega
        subst hi0
        exact ⟨kk 9 _ (by decide) (by decide) (by decide) (by decide) (by decide) rfl, by show pn h + 3 ≤ pn h + 9; omega, by show pn h + 9 < pn H3; omega⟩⟩, ⟨rfl, fun i hi => by
        have hi0 : i = 0 := by
          have : i < 1 := hi
          omega
        subst hi0
        refine ⟨?_, by show sAd E 1138 < pn H3; omega⟩
        show H3.1 (sAd E 1138) = some (.inr (23, [.int (Int32.ofNat 10)]))
        rw [w4.1 _ (by omega)]
        exact iv10⟩, by decide⟩ (by decide) (kk 2 _ (by decide) (by decide) (by decide) (by decide) (by decide) rfl) (by omega) (by omega) (by omega) (by omega) (by omega) (by omega) (by omega)
  have k0 : allB H3 (pn h + 2) (pn h) = some (.inr (0, [.ref (pn h + 1), .int 0, .int 0, .null, .null])) := by
    rw [allB_at (by omega) (by omega)]
    exact kk 0 _ (by decide) (by decide) (by decide) (by decide) (by decide) rfl
  have k1 : allB H3 (pn h + 2) (pn h + 1) = some (.inl (E.2.1 1, 400, .inl fun _ => 0)) := by
    rw [allB_at (by omega) (by omega), ← hE]
    exact kk 1 _ (by decide) (by decide) (by decide) (by decide) (by decide) rfl
  have bH4 : pbase H4 = pbase h := by
    have := f2.base.1
    unfold pbase
    rw [this, hE]
  have bn4 := f2.base.2.1
  have rm := f2.room
  have e4 : ∀ (x s : Nat), s_gh (SC csP x s) 0 = x ∧ s_gh (SC csP x s) 1 = s := fun x s => ⟨rfl, rfl⟩
  rw [(e4 _ _).1, (e4 _ _).2] at rm
  have en : csP.2.1.length = 1 := rfl
  rw [en] at f2 rm
  obtain ⟨c0, hc0⟩ : ∃ c0, B.1 - pcl H3 + (13 + 2 * 1) = c0 := ⟨_, rfl⟩
  obtain ⟨d0, hd0⟩ : ∃ d0, B.2 - psl H3 + (52 + 1 + 21 * 1) = d0 := ⟨_, rfl⟩
  rw [hc0, hd0] at f2 rm
  have t1' := f2.swap (e' := .inr (0, [.ref (pn h + 1), .int 0, .int 0, .ref (pn h + 2), .null])) k0 (Or.inr (Or.inr (Or.inl ⟨0, _, rfl, Or.inl rfl⟩)))
  obtain ⟨H5, hH5⟩ : ∃ H5, p_set H4 (pn h) (.inr (0, [.ref (pn h + 1), .int 0, .int 0, .ref (pn h + 2), .null])) = H5 := ⟨_, rfl⟩
  rw [hH5] at t1'
  have rm5 := t1'.room
  rw [(e4 _ _).1, (e4 _ _).2] at rm5
  have t2' := t1'.mk (.inl (E.2.1 6, 2, aNul)) 2 (by omega) (by omega)
  have n5 : pn H5 = pn H4 := by rw [← hH5]; rfl
  have l0 : pn h < pn H5 := (t1'.tr rU_at).2
  have hx5 : (fun b => if b = pn H5 then some (Sum.inl (E.2.1 6, 2, aNul) : va_E) else rU (allB H3 (pn h + 2)) (pn h) (.inr (0, [.ref (pn h + 1), .int 0, .int 0, .ref (pn h + 2), .null])) b) (pn h) = some (.inr (0, [.ref (pn h + 1), .int 0, .int 0, .ref (pn h + 2), .null])) := by
    show (if pn h = pn H5 then _ else _) = _
    rw [if_neg (by omega)]
    exact rU_at
  have t3' := t2'.swap (e' := cLL (pn h + 1) 0 0 (F 0) (pn H5)) hx5 (Or.inr (Or.inr (Or.inl ⟨0, _, rfl, Or.inl rfl⟩)))
  have eE5 : H5.2.1 = E := t1'.base.1
  have eg : fu (fu (gh0 c0 d0) 0 (c0 + 1)) 1 (d0 + 2) = gh0 (c0 + 1) (d0 + 2) := by
    funext k
    unfold fu gh0
    by_cases k1 : k = 1
    · subst k1; rfl
    · rw [if_neg k1]
      by_cases k0 : k = 0
      · subst k0; rfl
      · rw [if_neg k0, if_neg k0, if_neg k1, if_neg k0, if_neg k1]
  have eS5 : g_mk (SC csP c0 d0) 1 2 = SC csP (c0 + 1) (d0 + 2) := by
    show u_gh (SC csP c0 d0) (fu (fu (gh0 c0 d0) 0 (c0 + 1)) 1 (d0 + 2)) = _
    rw [eg]
    rfl
  rw [eS5] at t3'
  refine ⟨F, _, _, pn H5, c0 + 1, d0 + 2, ?_, t3', rU_at, ?_, ?_, ?_, fun b e e1 e2 => ?_, by omega, by omega, by omega, by omega⟩
  · unfold inZ
    have g2 : (gRN H2 (some (pn h + 3)) 2 2 : (Option Nat → Option (Option Nat × PH)) → Option (Option Nat × PH)) = fun K => K (some (pn h + 7)) := by
      funext K
      exact gRN_at cf2 (by omega) rfl
    have x1 : (rv_ H (some (pn h + 3 + 2)) 19 (cl_ (f_J2_add (some (pn h + 3 + 2)) (some (pn h + 9)) H) fun v9 h8 => gRN h8 (some (pn h + 3)) 2 2 fun r10 => cl_ (f_J17_valueOf (10 : Int32) h8) fun r12 h11 => rv_ h11 r10 19 (cl_ (f_J2_add r10 r12 h11) fun v14 h13 => some ((some (pn h + 3)), h13)))) = some (some (pn h + 3), H3) := by
      rw [rv_at (at_ 5 _ rfl), cl_eq s1, g2]
      dsimp only
      obtain ⟨⟨mc, l1, -⟩, -⟩ := q2'
      rw [cl_eq (show f_J17_valueOf (10 : Int32) H2 = _ from pv), rv_at l1, cl_eq w1]
    rw [cl_eq x1, cl_eq f1, pV_at (f2.tr k0).1 (by omega) (Nat.le_of_ble_eq_true rfl)]
    have y1 : p_set H4 (pn h) (.inr (0, [Value.ref (pn h + 1), .int 0, .int 0, .null, .null].set 3 (va_rf (some (pn h + 2))))) = H5 := hH5
    rw [y1]
    refine (nA_at (h := H5) (t := 6) (m := 2) (by decide) (by omega) (by omega)).trans ?_
    have y2 : (p_new H5 (.inl (H5.2.1.2.1 6, 2, aNul)) 2).1 (pn h) = some (.inr (0, [.ref (pn h + 1), .int 0, .int 0, .ref (pn h + 2), .null])) := (pn_ne (Nat.ne_of_lt l0)).trans (t1'.tr rU_at).1
    have y3 : pbase (p_new H5 (.inl (H5.2.1.2.1 6, 2, aNul)) 2) ≤ pn h := by
      show pbase H5 ≤ pn h
      unfold pbase
      rw [eE5]
      omega
    rw [pV_at y2 y3 (Nat.le_of_ble_eq_true rfl), f0, eE5]
    rfl
  · rw [rU_ne (by omega)]
    show (if pn h + 1 = pn H5 then _ else _) = _
    have := (t1'.tr (b := pn h + 1) (by rw [rU_ne (by omega)]; exact k1)).2
    rw [if_neg (by omega), rU_ne (by omega)]
    exact k1
  · rw [rU_ne (by omega)]
    exact if_pos rfl
  · have := t1'.base.2.1
    have e5 : pbase H5 = E.2.2.1 := by unfold pbase; rw [eE5]
    omega
  · have hb2 : b < pn h := by omega
    rw [rU_ne (by omega)]
    show (if b = pn H5 then _ else _) = _
    rw [if_neg (by omega), rU_ne (by omega), allB_at (by omega) (by omega), lo3 b hb2]
    exact hk b e e1 e2
end CI2
