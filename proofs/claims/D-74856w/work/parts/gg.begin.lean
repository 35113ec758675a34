/-! THE LAW's beginning: both objects are made; law_ok out of the room -/
set_option maxRecDepth 100000
theorem tx_fit : ∀ k : Nat, k < 7 → ∀ i : Nat, i < 6 → i < (wd k).length → (txB.getD k []).getD i 0 = Int32.ofNat ((wd k).getD i 0) := by decide +kernel
section GG
variable {E : PE} {B : Nat × Nat} {F : Nat → Nat} {R : PM} {S : SS} {h h' : PH}
/-- the heap grows, all new cells are known -/
theorem SP.grownR (hS : SP E B F R S h) (hg : ∀ b : Nat, b < pn h → h'.1 b = h.1 b) (he : h'.2.1 = h.2.1) (hn : pn h ≤ pn h') {c k : Nat} (hc : pcl h' + c = B.1) (hs : psl h' + k = B.2) : SP E B F (fun b => if b < pn h then R b else if b < pn h' then h'.1 b else none) (u_ct S c k) h' := by
  obtain ⟨G, ad, I, g1, g2, hr⟩ := hS
  have hr' : RP E B G ad I (u_ct S c k) h' := hr.back (he.trans hr.1) (fun b e hb => by
    obtain ⟨k1, k2⟩ := KN_KH hr b e hb
    exact ⟨by rw [hg b k2]; exact k1, by omega⟩) hc hs
  have Gl : ∀ k : Nat, mR (s_n S) k → G k < pn h := fun k hk => (hr.2.2.1 k hk).2.2
  have hm := hr'.more (R' := fun b => if b < pn h then I b else if b < pn h' then h'.1 b else none) (fun b e hb => by
    have := (hr.2.1 b e hb).2
    show (if b < pn h then I b else _) = _
    rw [if_pos this]; exact hb) (fun b e hb => by
    by_cases c1 : b < pn h
    · rw [if_pos c1] at hb
      have := hr.2.1 b e hb
      exact ⟨by rw [hg b c1]; exact this.1, by omega⟩
    · rw [if_neg c1] at hb
      by_cases c2 : b < pn h'
      · rw [if_pos c2] at hb
        exact ⟨hb, c2⟩
      · rw [if_neg c2] at hb
        cases hb)
  refine ⟨G, ad, _, g1, fun b e hb => rM_of ?_ (fun ⟨k, hk, hy⟩ => ?_), hm⟩
  · dsimp only at hb ⊢
    by_cases c1 : b < pn h
    · rw [if_pos c1] at hb ⊢
      exact g2 b e hb
    · rw [if_neg c1] at hb ⊢
      exact hb
  · have h1 := Gl k hk
    have h2 := (hr.2.2.1 k hk).1
    rw [hy] at h1 h2
    dsimp only at hb
    rw [if_pos h1] at hb
    rw [g2 b e hb] at h2
    cases h2
theorem PS.evc {b L : Nat} {xs : Nat → Int32} (hP : PS E b L xs) : EVC E := by
  obtain ⟨p1, p2, p3, p4, p5, p6, p7, p8, p9⟩ := hP
  refine ⟨p2, p3, p4, p5, fun k hk => ?_, p8, fun i hi => ?_⟩
  · obtain ⟨v, v1, v2, v3, v4⟩ := p7 k hk
    rw [p6 k hk]
    have tn := tx_num k hk
    refine ⟨v, _, v1, v2, v3, by rw [← tn.1]; exact v4, fun i hi => ?_⟩
    have h6 := tn.2.2
    rw [tn.1] at h6
    exact tx_fit k hk i (by omega) hi
  · obtain ⟨k, k1, k2, k3⟩ := p1 i hi
    have e : sAd E i = k := by
      unfold sAd
      rw [k1]
    rw [e]
    exact ⟨k1, k2, k3⟩
/-- law_ok, if there is room -/
theorem law_ok_of (hR : ROOM) {b L : Nat} {xs : Nat → Int32} (hL : L ≤ 320) (hP : PS E b L xs) : ∃ h1 : PH, f_L_law (some b) (PH0 E) = some (1, h1) := by
  have hb : b = sAd E 50 := hP.2.2.2.2.2.2.2.2.1.symm
  subst hb
  have hV := hP.evc
  obtain ⟨h0, hh0⟩ : ∃ h0, PH0 E = h0 := ⟨_, rfl⟩
  have e0 : h0.2.1 = E := by rw [← hh0]; rfl
  have n0 : pn h0 = E.2.2.1 := by rw [← hh0]; rfl
  have c0 : pcl h0 = 603072 := by rw [← hh0]; rfl
  have s0 : psl h0 = 7125098 := by rw [← hh0]; rfl
  have b0 : pbase h0 = E.2.2.1 := by unfold pbase; rw [e0]
  have k0 : ∀ (a : Nat) (x : va_E), a < E.2.2.1 → E.2.2.2 a = some x → h0.1 a = some x := fun a x h1 h2 => by
    rw [← hh0]
    show (if a < E.2.2.1 then E.2.2.2 a else none) = some x
    rw [if_pos h1]; exact h2
  rw [hh0]
  have B1 : BB.1 = 603072 := rfl
  have B2 : BB.2 = 7125098 := rfl
  obtain ⟨F, R, h1, sA, cl, sl, x1, x2, x3, x4, x5, x6, x7, x8, x9, x10, x11⟩ := x_init (B := BB) (h := h0) e0 hV (by omega) k0 (by omega) (by omega) (by omega) (by omega)
  have rm := x2.room
  have g1 : s_gh (SC csP cl sl) 0 = cl ∧ s_gh (SC csP cl sl) 1 = sl := ⟨rfl, rfl⟩
  rw [g1.1, g1.2] at rm
  have e1 := x2.base.1
  have b1 : pbase h1 = E.2.2.1 := by unfold pbase; rw [e1]
  have bn1 := x2.base.2.1
  have kn : ∀ (a : Nat) (x : va_E), a < E.2.2.1 → E.2.2.2 a = some x → h1.1 a = some x := fun a x q1 q2 => (x2.tr (x7 a x q1 q2)).1
  obtain ⟨T, cs, k, t1, t2, t3, t4, t5, t6, t7, t8, t9, t10⟩ := t_init (h := h1) bn1 (by omega) (by omega) (by rw [e1]; exact hP.2.1) (by rw [e1]; exact hP.2.2.2.2.1 12 (by decide) (by decide)) (fun i hi => by
    obtain ⟨v, v1, v2, v3, v4⟩ := hP.2.2.2.2.2.2.1 i hi
    rw [e1, b1]
    exact ⟨v, v1, v2, kn _ _ v1 v3, kn _ _ v2 v4⟩)
  obtain ⟨h2, hh2⟩ : ∃ h2, tw (tAd (pn h1)) T (bh h1 cs k) = h2 := ⟨_, rfl⟩
  have e2 : h2.2.1 = E := by rw [← hh2]; exact e1
  have n2 : pn h2 = pn h1 + 8 := by rw [← hh2, ← t2]; rfl
  have c2 : pcl h2 = pcl h1 - 8 := by rw [← hh2, ← t2]; rfl
  have s2 : psl h2 = psl h1 - 293131 := by rw [← hh2, ← t3]; rfl
  have tl : ∀ i : Nat, i < 8 → pn h1 ≤ tAd (pn h1) i ∧ tAd (pn h1) i < pn h1 + 8 := fun i hi => by
    have : i = 0 ∨ i = 1 ∨ i = 2 ∨ i = 3 ∨ i = 4 ∨ i = 5 ∨ i = 6 ∨ i = 7 := by omega
    unfold tAd
    rcases this with rfl | rfl | rfl | rfl | rfl | rfl | rfl | rfl <;> simp <;> omega
  have lo2 : ∀ a : Nat, a < pn h1 → h2.1 a = h1.1 a := fun a ha => by
    rw [← hh2, tw_out (fun i hi hy => by have := tl i (by omega); omega), bh_lo ha]
  have TA2 : TA (tAd (pn h1)) h2 := tAd_ta (by unfold pbase; rw [e2]; omega)
  have TA3 : TA (tAd (pn h1)) (bh h1 cs k) := tAd_ta (by show pbase h1 ≤ _; omega)
  -- the answer's row
  obtain ⟨h3, hh3⟩ : ∃ h3, p_new h2 (.inl (h2.2.1.2.1 2, 1, .inr (.inl fun _ => 0))) 1 = h3 := ⟨_, rfl⟩
  have e3 : h3.2.1 = E := by rw [← hh3]; exact e2
  have n3 : pn h3 = pn h1 + 9 := by
    rw [← hh3]
    show pn h2 + 1 = _
    omega
  have c3 : pcl h3 = pcl h1 - 9 := by
    rw [← hh3]
    show pcl h2 - 1 = _
    omega
  have s3 : psl h3 = psl h1 - 293132 := by
    rw [← hh3]
    show psl h2 - 1 = _
    omega
  have ne3 : ∀ a : Nat, a ≠ pn h2 → h3.1 a = h2.1 a := fun a ha => by rw [← hh3]; exact pn_ne ha
  have at3 : h3.1 (pn h2) = some (.inl (E.2.1 2, 1, .inr (.inl fun _ => 0))) := by
    rw [← hh3, ← e2]
    exact pn_at
  have lo3 : ∀ a : Nat, a < pn h1 → h3.1 a = h1.1 a := fun a ha => by rw [ne3 a (by omega), lo2 a ha]
  have hS3 := x2.grownR (h' := h3) (c := cl + 9) (k := sl + 293132) lo3 (e3.trans e1.symm) (by omega) (by omega) (by omega)
  obtain ⟨R3, hR3⟩ : ∃ R3 : PM, (fun a => if a < pn h1 then R a else if a < pn h3 then h3.1 a else none) = R3 := ⟨_, rfl⟩
  rw [hR3] at hS3
  have r3lo : ∀ a : Nat, a < pn h1 → R3 a = R a := fun a ha => by rw [← hR3]; exact if_pos ha
  have r3hi : ∀ a : Nat, pn h1 ≤ a → a < pn h3 → R3 a = h3.1 a := fun a h1' h2' => by
    rw [← hR3]
    show (if a < pn h1 then R a else if a < pn h3 then h3.1 a else none) = _
    rw [if_neg (by omega), if_pos h2']
  have lX := (x2.tr x3).2
  have lB := (x2.tr x4).2
  have lA := (x2.tr x5).2
  have nAX : sA ≠ pn h0 := fun hy => by rw [hy, x3] at x5; cases x5
  have nAB : sA ≠ pn h0 + 1 := fun hy => by
    rw [hy, x4] at x5
    have := (Prod.mk.inj (Prod.mk.inj (Sum.inl.inj (Option.some.inj x5))).2).1
    exact absurd this (by decide)
  -- the addresses
  obtain ⟨W, hW⟩ : ∃ W : Nat → Nat, W = fun i => if i = 0 then pn h0 else if i = 1 then pn h0 + 1 else if i = 2 then sA else if i = 3 then pn h2 else tAd (pn h1) (i - 4) := ⟨_, rfl⟩
  have w0 : W 0 = pn h0 := by rw [hW]; rfl
  have w1 : W 1 = pn h0 + 1 := by rw [hW]; rfl
  have w2 : W 2 = sA := by rw [hW]; rfl
  have w3 : W 3 = pn h2 := by rw [hW]; rfl
  have w4 : ∀ i : Nat, W (4 + i) = tAd (pn h1) i := fun i => by
    rw [hW]
    show (if 4 + i = 0 then _ else if 4 + i = 1 then _ else if 4 + i = 2 then _ else if 4 + i = 3 then _ else tAd (pn h1) (4 + i - 4)) = _
    rw [if_neg (by omega), if_neg (by omega), if_neg (by omega), if_neg (by omega), Nat.add_sub_cancel_left]
  have wc : ∀ i : Nat, i < 11 → i = 0 ∨ i = 1 ∨ i = 2 ∨ i = 3 ∨ ∃ j : Nat, j < 7 ∧ i = 4 + j := fun i hi => by
    by_cases h4 : i < 4
    · omega
    · exact Or.inr (Or.inr (Or.inr (Or.inr ⟨i - 4, by omega, by omega⟩)))
  have hWI : WI11 W := fun i j hi hj he => by
    rcases wc i hi with rfl | rfl | rfl | rfl | ⟨i', i1, rfl⟩ <;> rcases wc j hj with rfl | rfl | rfl | rfl | ⟨j', j1, rfl⟩ <;> (try rw [w0] at he) <;> (try rw [w1] at he) <;> (try rw [w2] at he) <;> (try rw [w3] at he) <;> (try rw [w4] at he) <;> (try rw [w4] at he) <;> (try rfl)
    all_goals (try (have ti := tl i' (by omega))) <;> (try (have tj := tl j' (by omega)))
    all_goals first | omega | skip
    · have := TA2.1 i' j' (by omega) (by omega) he
      rw [this]
  have hA : ∀ i : Nat, i < 8 → AW W (tAd (pn h1) 7) i = tAd (pn h1) i := fun i hi => by
    unfold AW
    by_cases c : i < 7
    · rw [if_pos c, w4]
    · rw [if_neg c, show i = 7 from by omega]
  have hAf : ∀ i : Nat, i < 7 → AW W (tAd (pn h1) 7) i = tAd (pn h1) i := fun i hi => hA i (by omega)
  have hSW : SW E W (tAd (pn h1) 7) L xs := by
    refine ⟨hWI, fun i hi => ?_, ⟨?_, fun i hi hy => ?_⟩, hV, hP, hL⟩
    · rcases wc i hi with rfl | rfl | rfl | rfl | ⟨i', i1, rfl⟩
      · rw [w0]; omega
      · rw [w1]; omega
      · rw [w2]; exact x6
      · rw [w3]; omega
      · rw [w4]
        have := tl i' (by omega)
        omega
    · have := tl 7 (by omega)
      omega
    · have t7' := tl 7 (by omega)
      rcases wc i hi with rfl | rfl | rfl | rfl | ⟨i', i1, rfl⟩
      · rw [w0] at hy; omega
      · rw [w1] at hy; omega
      · rw [w2] at hy; omega
      · rw [w3] at hy; omega
      · rw [w4] at hy
        have := TA2.1 7 i' (by omega) (by omega) hy
        omega
  have eT3 : ∀ i : Nat, i < 7 → h3.1 (tAd (pn h1) i) = some (tE E (AW W (tAd (pn h1) 7)) T i) := fun i hi => by
    have ti := tl i (by omega)
    rw [ne3 _ (by omega), ← hh2]
    have eb : (bh h1 cs k).2.1 = E := e1
    have ec : cTw (AW W (tAd (pn h1) 7)) (q_sc T) = cTw (tAd (pn h1)) (q_sc T) := by
      unfold cTw
      rw [hA 1 (by decide), hA 2 (by decide), hA 3 (by decide), hA 7 (by decide), hA 4 (by decide), hA 5 (by decide), hA 6 (by decide)]
    have : i = 0 ∨ i = 1 ∨ i = 2 ∨ i = 3 ∨ i = 4 ∨ i = 5 ∨ i = 6 := by omega
    rcases this with rfl | rfl | rfl | rfl | rfl | rfl | rfl
    · rw [tw_0]
      exact congrArg some ec.symm
    · rw [tw_1 TA3]; show some (Sum.inl ((bh h1 cs k).2.1.2.1 0, 73136, .inl (q_w T)) : va_E) = _; rw [eb]; rfl
    · rw [tw_2 TA3]; show some (Sum.inl ((bh h1 cs k).2.1.2.1 0, 400, .inl (q_bf T)) : va_E) = _; rw [eb]; rfl
    · rw [tw_3 TA3]; show some (Sum.inl ((bh h1 cs k).2.1.2.1 0, 160, .inl (q_rd T)) : va_E) = _; rw [eb]; rfl
    · rw [tw_4 TA3]; show some (Sum.inl ((bh h1 cs k).2.1.2.1 0, 73136, .inl (q_as T)) : va_E) = _; rw [eb]; rfl
    · rw [tw_5 TA3]; show some (Sum.inl ((bh h1 cs k).2.1.2.1 0, 146272, .inl (q_kp T)) : va_E) = _; rw [eb]; rfl
    · rw [tw_6 TA3]; show some (Sum.inl ((bh h1 cs k).2.1.2.1 3, 2, .inl (q_ik T)) : va_E) = _; rw [eb]; rfl
  have hSP : SP E BB F (KR (cutR R3 W) W (eA E W (tAd (pn h1) 7) T (F 0) 0 0 (fun _ => 0) (fun _ => none) (fun _ => 0))) (u_ct (SC csP cl sl) (cl + 9) (sl + 293132)) h3 := by
    refine hS3.less (KR_le hWI (fun i hi => ?_) (fun a x ha hx => ?_))
    · rcases wc i hi with rfl | rfl | rfl | rfl | ⟨i', i1, rfl⟩
      · rw [eA_lt (by decide), w0, r3lo _ lX, x3]
        unfold eC
        rw [if_pos rfl, w1, w2]
        rfl
      · rw [eA_lt (by decide), w1, r3lo _ lB, x4]
        rfl
      · rw [eA_lt (by decide), w2, r3lo _ lA, x5]
        rfl
      · rw [eA_lt (by decide), w3, r3hi _ (by omega) (by omega), at3]
        rfl
      · have ti := tl i' (by omega)
        rw [eA_t, w4, r3hi _ (by omega) (by omega)]
        exact eT3 i' i1
    · rw [cut_out ha] at hx
      exact hx
  have eg : fu (fu (gh0 cl sl) 0 (cl + 9)) 1 (sl + 293132) = gh0 (cl + 9) (sl + 293132) := by
    funext q
    unfold fu gh0
    by_cases k1 : q = 1
    · subst k1; rfl
    · rw [if_neg k1]
      by_cases k0 : q = 0
      · subst k0; rfl
      · rw [if_neg k0, if_neg k0, if_neg k1, if_neg k0, if_neg k1]
  have eS : u_ct (SC csP cl sl) (cl + 9) (sl + 293132) = SC csP (cl + 9) (sl + 293132) := by
    show u_gh (SC csP cl sl) (fu (fu (gh0 cl sl) 0 (cl + 9)) 1 (sl + 293132)) = _
    rw [eg]
    rfl
  rw [eS] at hSP
  have hCO : CO E W (tAd (pn h1) 7) (fun _ => none) (fun _ => none) (cutR R3 W) := by
    have nW : ∀ a : Nat, a < E.2.2.1 → ∀ i : Nat, i < 11 → a ≠ W i := fun a ha i hi hy => by
      have := hSW.2.1 i hi
      omega
    refine ⟨fun i hi => cut_in hi, fun a x q1 q2 => ?_, ?_, fun s hs => rfl⟩
    · rw [cut_out (nW a q1), r3lo _ (by omega)]
      exact x7 a x q1 q2
    · obtain ⟨⟨f, f1, f2⟩, -⟩ := t4
      have t7' := tl 7 (by omega)
      have e1b : (bh h1 cs k).2.1 = E := e1
      rw [e1b] at f1 f2
      refine ⟨f, ?_, f2⟩
      rw [cut_out hSW.2.2.1.2, r3hi _ (by omega) (by omega), ne3 _ (by omega), ← hh2, tw_out (fun i hi hy => by
        have := TA2.1 7 i (by omega) (by omega) hy
        omega)]
      exact f1
  have hLW : LW E BB W (tAd (pn h1) 7) (SC csP (cl + 9) (sl + 293132)) (fun _ => none) (fun _ => 0) 0 0 h3 := by
    refine ⟨F, cutR R3 W, T, fun _ => 0, fun _ => none, fun _ => 0, hSP, hCO, ⟨Nat.zero_le _, fun i hi => absurd hi (Nat.not_lt_zero i)⟩, ⟨⟨[], (0, 0), t10 _ _⟩, ⟨Nat.zero_le _, t6, fun i hi => absurd hi (Nat.not_lt_zero i)⟩, t7, fun s hs => ?_⟩⟩
    have : s = 0 ∨ s = 1 := by omega
    rcases this with rfl | rfl
    · exact t8
    · exact t9
  have hgo := law_go (E := E) (W := W) (a7 := tAd (pn h1) 7) hSW hR 64 0 (SC csP (cl + 9) (sl + 293132), (fun _ => none), (fun _ => 0), 0, 0) FU h3 (by omega) (by omega) (by unfold FU; omega) ⟨cl + 9, sl + 293132, rfl, by omega, by omega, rfl, rfl⟩ (LJ_SC RGCP (by decide) (by decide) (by omega)) (fun s hs Q hq => by cases hq) hLW e3
  obtain ⟨h9, hgo⟩ := hgo
  refine ⟨h9, ?_⟩
  have z0 : f_L_law (some (sAd E 50)) h0 = f_L_law (some (sAd E 50)) (bh h0 [] 0) := by rw [bh_nil]
  rw [z0]
  unfold f_L_law
  refine (b_nO (h := h0) (cs := []) (k := 0) (by show 0 + 1 ≤ _; omega) (by omega)).trans ?_
  refine (cl_eq x1).trans ?_
  have z1 : ∀ {β : Type} (K : Nat → PH → Option β), nO h1 6 18 [.null, .int 0, .null, .int 0, .int 0, .int 0, .int 0, .int 0, .int 0, .int 0, .null, .null, .int 0, .int 0, .int 0, .null, .null, .null] K = K (pn h1) (bh h1 [tob0] 18) := fun K => by
    have := b_nO (h := h1) (cs := []) (k := 0) (ci := 6) (N := 18) (fs := [.null, .int 0, .null, .int 0, .int 0, .int 0, .int 0, .int 0, .int 0, .int 0, .null, .null, .int 0, .int 0, .int 0, .null, .null, .null]) (K := K) (by show 0 + 1 ≤ _; omega) (by omega)
    rw [bh_nil] at this
    exact this
  refine (z1 _).trans ?_
  refine (cl_eq t1).trans ?_
  rw [hh2]
  refine (nA_at (h := h2) (t := 2) (m := 1) (by decide) (by omega) (by omega)).trans ?_
  rw [hh3]
  rw [hA 0 (by decide), w0, w3] at hgo
  exact hgo
end GG
