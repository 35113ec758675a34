/-! THE COMPONENT reads: the lists in the picture grow -/
set_option maxRecDepth 100000
/-- the cells that stay as they are -/
def KK (h h' : PH) : Prop := ∀ (b : Nat) (e : va_E), h.1 b = some e → kp e → b < pn h → h'.1 b = some e
theorem getD_appN {α : Type} {w : List α} {c d : α} {i : Nat} : (w ++ [c]).getD i d = if i = w.length then c else w.getD i d := by
  by_cases h1 : i < w.length
  · rw [if_neg (by omega), List.getD_eq_getElem?_getD, List.getD_eq_getElem?_getD, List.getElem?_append_left h1]
  · by_cases h2 : i = w.length
    · rw [if_pos h2, h2, List.getD_eq_getElem?_getD, List.getElem?_append_right (Nat.le_refl _), Nat.sub_self]
      rfl
    · rw [if_neg h2, List.getD_eq_getElem?_getD, List.getD_eq_getElem?_getD, List.getElem?_eq_none (by rw [List.length_append]; show w.length + 1 ≤ i; omega), List.getElem?_eq_none (by omega)]
theorem len_app {α : Type} {w : List α} {c : α} : (w ++ [c]).length = w.length + 1 := by rw [List.length_append]; rfl
section CLQ
variable {n0 l row q ci : Nat} {xs : List Nat} {gs : List Value} {h : PH}
theorem LQ.add (hL : LQ n0 h l row xs) (h8 : xs.length ≤ 8) (h1 : 1 ≤ pcl h) (h2 : 13 ≤ psl h) (hq : h.1 q = some (.inr (ci, gs))) (hci : ci ≤ 25 ∧ ci ≠ 19) (hqn : q < pn h)
    (hE : ∀ i : Nat, i < xs.length → ∃ (ci : Nat) (fs : List Value), h.1 (xs.getD i 0) = some (.inr (ci, fs)) ∧ (ci ≤ 25 ∧ ci ≠ 19) ∧ xs.getD i 0 < pn h) :
    ∃ (row' : Nat) (h' : PH), f_J2_add (some l) (some q) h = some (1, h') ∧ LQ n0 h' l row' (xs ++ [q]) ∧ (row' = row ∨ row' = pn h) ∧ GR n0 1 13 h h' ∧ (∀ b : Nat, b ≠ l → b ≠ row → b < pn h → h'.1 b = h.1 b) ∧ KK h h' := by
  obtain ⟨⟨mc, hS⟩, b1, b2⟩ := hL
  have hc := cpL_b (n := xs.length)
  have nl : ∀ {x cj : Nat} {fs : List Value}, h.1 x = some (.inr (cj, fs)) → cj ≠ 19 → x ≠ l := fun e1 e2 hy => by
    rw [hy, hS.1] at e1
    cases e1
    exact e2 rfl
  obtain ⟨row', h', a1, a2, a3, a4, a5⟩ := p_add (n := n0) hS (by omega) (by omega) h1 (by omega) hq hci.1 (nl hq hci.2) hqn (fun i hi => by
    obtain ⟨cj, fs, q1, q2, q3⟩ := hE i hi
    exact ⟨cj, fs, q1, q2.1, q3, nl q1 q2.2⟩) b1 b2
  rw [cpL_up h8] at a2
  refine ⟨row', h', a1, ⟨⟨mc + 1, by rw [len_app]; exact a2⟩, b1, ?_⟩, a3, a4.more (Nat.le_refl _) (by split <;> omega) (by split <;> omega), a5, fun b e e1 e2 e3 => ?_⟩
  · have : pbase h ≤ pn h := by
      have := hS.2.2.1
      have := hS.2.2.2.2.2.2.2.1
      omega
    have := hS.2.2.2.2.2.2.2.1
    rcases a3 with a3 | a3 <;> omega
  · rw [← e1]
    refine a5 b (fun hy => ?_) (fun hy => ?_) e3
    · rw [hy, hS.1] at e1
      cases e1
      rcases e2 with ⟨cj, fs, q1, q2⟩ | ⟨c, n, f, q1⟩
      · cases q1
        omega
      · cases q1
    · obtain ⟨f, r1, -⟩ := hS.2.1
      rw [hy, r1] at e1
      cases e1
      rcases e2 with ⟨cj, fs, q1, q2⟩ | ⟨c, n, f, q1⟩
      · cases q1
      · cases q1
end CLQ
section CLP
variable {n0 X bA sA sim pa ca ha lc ld len p : Nat} {ns : List (Nat × Nat × Nat)} {le : Int32} {bf : Nat → Nat} {c : CS} {h h' : PH}
theorem wd_inj {j k : Nat} (hj : j < 7) (hk : k < 7) (he : wd j = wd k) : j = k := by
  have : ∀ j : Nat, j < 7 → ∀ k : Nat, k < 7 → wd j = wd k → j = k := by decide
  exact this j hj k hk he
theorem MET.met1 {ws : List (List Nat)} (hM : MET ws c) : MET ws (c_met c 1) := by
  refine ⟨hM.1, fun k hk h1 => ?_, hM.2.2⟩
  show wd k ∈ ws ↔ fu c.2.2 1 true k = true
  rw [fu_ne h1]
  exact hM.2.1 k hk h1
theorem MET.met {ws : List (List Nat)} {k : Nat} (hM : MET ws c) (hk : k < 7) (h1 : k ≠ 1) (hf : c.2.2 k = false) : MET (ws ++ [wd k]) (c_met c k) := by
  refine ⟨?_, fun j hj j1 => ?_, fun w hw => ?_⟩
  · rw [len_app, hM.1]
    have : k = 0 ∨ k = 2 ∨ k = 3 ∨ k = 4 ∨ k = 5 ∨ k = 6 := by omega
    unfold cnM c_met
    rcases this with rfl | rfl | rfl | rfl | rfl | rfl <;> simp [fu, hf] <;> omega
  · rw [List.mem_append]
    show _ ↔ fu c.2.2 k true j = true
    by_cases hjk : j = k
    · rw [hjk, fu_eq]
      exact ⟨fun _ => rfl, fun _ => Or.inr (List.mem_singleton.mpr rfl)⟩
    · rw [fu_ne hjk, ← hM.2.1 j hj j1]
      refine ⟨fun hx => ?_, fun hx => Or.inl hx⟩
      rcases hx with hx | hx
      · exact hx
      · exact absurd (wd_inj hj hk (List.mem_singleton.mp hx)) hjk
  · rw [List.mem_append] at hw
    rcases hw with hw | hw
    · exact hM.2.2 w hw
    · exact ⟨k, hk, h1, List.mem_singleton.mp hw⟩
theorem PPS.met1 (hP : PPS n0 X bA sA sim le pa ca ha lc ld bf len ns c p h) : PPS n0 X bA sA sim le pa ca ha lc ld bf len ns (c_met c 1) p h := by
  obtain ⟨a1, a2, a3, a4, a5, a6, sv, rc, rd, rh, xs, ys, zs, ws, p1, p2, p3, p4, p5, p6, p7, p8, p9, p10, p11, p12, p13⟩ := hP
  exact ⟨a1, a2, a3, a4, a5, a6, sv, rc, rd, rh, xs, ys, zs, ws, p1, p2, p3, p4, p5, p6, p7, p8, p9, p10, p11, p12.met1, p13⟩
theorem PPH.kk (hP : PPH X bA sA sim le pa ca ha bf len p h) (e : h'.2.1 = h.2.1) (e1 : h'.1 pa = h.1 pa) (e2 : h'.1 X = h.1 X) (e3 : h'.1 bA = h.1 bA) : PPH X bA sA sim le pa ca ha bf len p h' := by
  obtain ⟨b1, b2, b3, b4, b5, b6, ⟨f, b7, b8⟩, b9, b10⟩ := hP
  have hb : pbase h' = pbase h := by unfold pbase; rw [e]
  exact ⟨e1.trans b1, by omega, e2.trans b3, by omega, b5, b6, ⟨f, by rw [e3, e]; exact b7, b8⟩, by omega, b10⟩
/-- a word is noted -/
theorem PPS.had {a : Nat} {w : List Nat} (hP : PPS n0 X bA sA sim le pa ca ha lc ld bf len ns c p h) (hS : SWB h a w) (h1 : 1 ≤ pcl h) (h2 : 13 ≤ psl h) :
    ∃ h' : PH, f_J2_add (some ha) (some a) h = some (1, h') ∧ GR n0 1 13 h h' ∧ KK h h' ∧ h'.1 pa = h.1 pa ∧ (∀ k : Nat, k < 7 → k ≠ 1 → w = wd k → c.2.2 k = false → PPS n0 X bA sA sim le pa ca ha lc ld bf len ns (c_met c k) p h') := by
  obtain ⟨a1, a2, a3, a4, a5, a6, sv, rc, rd, rh, xs, ys, zs, ws, a7⟩ := hP
  have hlt := a7.lt
  have hne := a7.ne a1.1
  obtain ⟨p1, p2, p3, p4, p5, p6, p7, p8, p9, p10, p11, p12, p13⟩ := a7
  have hz : zs.length ≤ 6 := by
    rw [p11.1, p12.1]
    exact cnM_le
  obtain ⟨u, fs, f, s1, s2, s3, s4, s5, s6, s7⟩ := id hS
  obtain ⟨row', h', g1, g2, g3, g4, g5, g6⟩ := p6.add (by omega) h1 h2 s1 (by decide) s6 (fun i hi => by
    obtain ⟨u', fs', f', t1, t2, t3, t4, t5, t6, t7⟩ := p11.2 i (by rw [← p11.1]; exact hi)
    exact ⟨_, _, t1, by decide, t6⟩)
  have hpa : h'.1 pa = h.1 pa := g5 pa (Ne.symm hne.2.2.2.1) (Ne.symm hne.2.2.2.2.2.2) a6
  refine ⟨h', g1, g4, g6, hpa, fun k hk hk1 hw hm => ?_⟩
  have hn := g4.2.2.1
  have fk : FK h h' := FK.of g6 g4.2.1 hn
  have nca : ca ≠ ha ∧ ca ≠ rh := by
    obtain ⟨⟨m3, q3, ⟨f3, r3, -⟩, -⟩, -⟩ := p6
    refine ⟨fun hy => ?_, fun hy => ?_⟩
    · rw [hy, q3] at p1; cases p1
    · rw [hy, r3] at p1; cases p1
  have nrow : ∀ {l r : Nat} {us : List Nat}, LQ n0 h l r us → l ≠ rh ∧ r ≠ ha := fun ⟨⟨m1, q1, ⟨f1, r1, _⟩, _⟩, _⟩ => by
    obtain ⟨⟨m3, q3, ⟨f3, r3, -⟩, -⟩, -⟩ := p6
    refine ⟨fun hy => ?_, fun hy => ?_⟩
    · rw [hy, r3] at q1; cases q1
    · rw [hy, q3] at r1; cases r1
  have r' : rc ≠ row' ∧ rd ≠ row' := by
    rcases g3 with g3 | g3
    · rw [g3]; exact ⟨p8.2.1, p8.2.2⟩
    · rw [g3]; omega
  refine ⟨a1.kk g4.2.1 hpa (g4.1 _ a3) (g4.1 _ a4), a2.gr g4 (Nat.le_refl _), a3, a4, a5, by omega, sv, rc, rd, row', xs, ys, zs ++ [a], ws ++ [wd k], (g5 ca nca.1 nca.2 p2.2).trans p1, ⟨p2.1, by omega⟩, ⟨fk.1 _ _ _ p3.1 (Or.inl rfl) p3.2.2, p3.2.1, by omega⟩,
    p4.fr (g5 _ p7.2.1 (nrow p4).1 hlt.2.1) (g5 _ (nrow p4).2 p8.2.1 hlt.2.2.2.2.1) g4.2.1 hn, p5.fr (g5 _ p7.2.2 (nrow p5).1 hlt.2.2.1) (g5 _ (nrow p5).2 p8.2.2 hlt.2.2.2.2.2.1) g4.2.1 hn, g2, p7, ⟨p8.1, r'.1, r'.2⟩, p9.fk fk, p10.fk fk, ⟨by rw [len_app, len_app, p11.1], fun i hi => ?_⟩, p12.met hk hk1 hm, p13⟩
  rw [len_app] at hi
  rw [getD_appN, getD_appN, p11.1]
  by_cases ci : i = ws.length
  · rw [if_pos ci, if_pos ci, ← hw]
    exact fk.2.1 _ _ hS
  · rw [if_neg ci, if_neg ci]
    exact fk.2.1 _ _ (p11.2 i (by omega))
/-- a clock is added -/
theorem PPS.addc {a r o dd : Nat} (hP : PPS n0 X bA sA sim le pa ca ha lc ld bf len ns c p h) (hl : ns.length < 6) (hc : h.1 a = some (.inr (3, [.int (Int32.ofNat r), .int (Int32.ofNat o)]))) (i1 : n0 ≤ a) (i2 : a < pn h) (h1 : 1 ≤ pcl h) (h2 : 13 ≤ psl h) :
    ∃ h' : PH, (∀ {β : Type} (Z : Option β), rv_ h (some lc) 19 Z = Z) ∧ f_J2_add (some lc) (some a) h = some (1, h') ∧ GR n0 1 13 h h' ∧ PPS n0 X bA sA sim le pa ca ha lc ld bf len (ns ++ [(r, o, dd)]) c p h' := by
  obtain ⟨a1, a2, a3, a4, a5, a6, sv, rc, rd, rh, xs, ys, zs, ws, a7⟩ := hP
  have hlt := a7.lt
  have hne := a7.ne a1.1
  obtain ⟨p1, p2, p3, p4, p5, p6, p7, p8, p9, p10, p11, p12, p13⟩ := a7
  obtain ⟨row', h', g1, g2, g3, g4, g5, g6⟩ := p4.add (by rw [p9.1]; omega) h1 h2 hc (by decide) i2 (fun i hi => by
    obtain ⟨t1, t2, t3⟩ := p9.2 i (by rw [← p9.1]; exact hi)
    exact ⟨_, _, t1, by decide, t3⟩)
  have hpa : h'.1 pa = h.1 pa := g5 pa (Ne.symm hne.2.1) (Ne.symm hne.2.2.2.2.1) a6
  have hn := g4.2.2.1
  have fk : FK h h' := FK.of g6 g4.2.1 hn
  have nca : ca ≠ lc ∧ ca ≠ rc := by
    obtain ⟨⟨m3, q3, ⟨f3, r3, -⟩, -⟩, -⟩ := p4
    refine ⟨fun hy => ?_, fun hy => ?_⟩
    · rw [hy, q3] at p1; cases p1
    · rw [hy, r3] at p1; cases p1
  have nrow : ∀ {l r : Nat} {us : List Nat}, LQ n0 h l r us → l ≠ rc ∧ r ≠ lc := fun ⟨⟨m1, q1, ⟨f1, r1, _⟩, _⟩, _⟩ => by
    obtain ⟨⟨m3, q3, ⟨f3, r3, -⟩, -⟩, -⟩ := p4
    refine ⟨fun hy => ?_, fun hy => ?_⟩
    · rw [hy, r3] at q1; cases q1
    · rw [hy, q3] at r1; cases r1
  have r' : row' ≠ rd ∧ row' ≠ rh := by
    rcases g3 with g3 | g3
    · rw [g3]; exact ⟨p8.1, p8.2.1⟩
    · rw [g3]; omega
  refine ⟨h', fun Z => ?_, g1, g4, a1.kk g4.2.1 hpa (g4.1 _ a3) (g4.1 _ a4), a2.gr g4 (Nat.le_refl _), a3, a4, a5, by omega, sv, row', rd, rh, xs ++ [a], ys, zs, ws, (g5 ca nca.1 nca.2 p2.2).trans p1, ⟨p2.1, by omega⟩, ⟨fk.1 _ _ _ p3.1 (Or.inl rfl) p3.2.2, p3.2.1, by omega⟩, g2,
    p5.fr (g5 _ (Ne.symm p7.1) (nrow p5).1 hlt.2.2.1) (g5 _ (nrow p5).2 (Ne.symm p8.1) hlt.2.2.2.2.2.1) g4.2.1 hn, p6.fr (g5 _ (Ne.symm p7.2.1) (nrow p6).1 hlt.2.2.2.1) (g5 _ (nrow p6).2 (Ne.symm p8.2.1) hlt.2.2.2.2.2.2) g4.2.1 hn, p7, ⟨r'.1, r'.2, p8.2.2⟩, ⟨by rw [len_app, len_app, p9.1], fun i hi => ?_⟩, p10.fk fk, p11.fk fk, p12, p13.1, by rw [len_app]; omega⟩
  · obtain ⟨⟨m3, q3, -⟩, -⟩ := p4
    exact rv_at q3
  rw [len_app] at hi
  rw [getD_appN, getD_appN, p9.1]
  by_cases ci : i = ns.length
  · rw [if_pos ci, if_pos ci]
    exact ⟨fk.1 _ _ _ hc (Or.inl rfl) i2, i1, by omega⟩
  · rw [if_neg ci, if_neg ci]
    obtain ⟨t1, t2, t3⟩ := p9.2 i (by omega)
    exact ⟨fk.1 _ _ _ t1 (Or.inl rfl) t3, t2, by omega⟩
/-- a delay is added -/
theorem PPS.addd {a r o d : Nat} (hP : PPS n0 X bA sA sim le pa ca ha lc ld bf len ns c p h) (hl : c.2.1.length < 6) (hc : h.1 a = some (.inr (23, [.int (Int32.ofNat d)]))) (i2 : a < pn h) (h1 : 1 ≤ pcl h) (h2 : 13 ≤ psl h) :
    ∃ h' : PH, (∀ {β : Type} (Z : Option β), rv_ h (some ld) 19 Z = Z) ∧ f_J2_add (some ld) (some a) h = some (1, h') ∧ GR n0 1 13 h h' ∧ PPS n0 X bA sA sim le pa ca ha lc ld bf len ns (c_node c r o d) p h' := by
  obtain ⟨a1, a2, a3, a4, a5, a6, sv, rc, rd, rh, xs, ys, zs, ws, a7⟩ := hP
  have hlt := a7.lt
  have hne := a7.ne a1.1
  obtain ⟨p1, p2, p3, p4, p5, p6, p7, p8, p9, p10, p11, p12, p13⟩ := a7
  obtain ⟨row', h', g1, g2, g3, g4, g5, g6⟩ := p5.add (by rw [p10.1]; omega) h1 h2 hc (by decide) i2 (fun i hi => by
    obtain ⟨t1, t3⟩ := p10.2 i (by rw [← p10.1]; exact hi)
    exact ⟨_, _, t1, by decide, t3⟩)
  have hpa : h'.1 pa = h.1 pa := g5 pa (Ne.symm hne.2.2.1) (Ne.symm hne.2.2.2.2.2.1) a6
  have hn := g4.2.2.1
  have fk : FK h h' := FK.of g6 g4.2.1 hn
  have nca : ca ≠ ld ∧ ca ≠ rd := by
    obtain ⟨⟨m3, q3, ⟨f3, r3, -⟩, -⟩, -⟩ := p5
    refine ⟨fun hy => ?_, fun hy => ?_⟩
    · rw [hy, q3] at p1; cases p1
    · rw [hy, r3] at p1; cases p1
  have nrow : ∀ {l r : Nat} {us : List Nat}, LQ n0 h l r us → l ≠ rd ∧ r ≠ ld := fun ⟨⟨m1, q1, ⟨f1, r1, _⟩, _⟩, _⟩ => by
    obtain ⟨⟨m3, q3, ⟨f3, r3, -⟩, -⟩, -⟩ := p5
    refine ⟨fun hy => ?_, fun hy => ?_⟩
    · rw [hy, r3] at q1; cases q1
    · rw [hy, q3] at r1; cases r1
  have r' : rc ≠ row' ∧ row' ≠ rh := by
    rcases g3 with g3 | g3
    · rw [g3]; exact ⟨p8.1, p8.2.2⟩
    · rw [g3]; omega
  have eM : MET ws (c_node c r o d) := p12
  refine ⟨h', fun Z => ?_, g1, g4, a1.kk g4.2.1 hpa (g4.1 _ a3) (g4.1 _ a4), a2.gr g4 (Nat.le_refl _), a3, a4, a5, by omega, sv, rc, row', rh, xs, ys ++ [a], zs, ws, (g5 ca nca.1 nca.2 p2.2).trans p1, ⟨p2.1, by omega⟩, ⟨fk.1 _ _ _ p3.1 (Or.inl rfl) p3.2.2, p3.2.1, by omega⟩,
    p4.fr (g5 _ p7.1 (nrow p4).1 hlt.2.1) (g5 _ (nrow p4).2 p8.1 hlt.2.2.2.2.1) g4.2.1 hn, g2, p6.fr (g5 _ (Ne.symm p7.2.2) (nrow p6).1 hlt.2.2.2.1) (g5 _ (nrow p6).2 (Ne.symm p8.2.2) hlt.2.2.2.2.2.2) g4.2.1 hn, p7, ⟨r'.1, p8.2.1, r'.2⟩, p9.fk fk, ⟨?_, fun i hi => ?_⟩, p11.fk fk, eM, ?_, p13.2⟩
  · obtain ⟨⟨m3, q3, -⟩, -⟩ := p5
    exact rv_at q3
  · show (ys ++ [a]).length = (c.2.1 ++ [(r, o, d)]).length
    rw [len_app, len_app, p10.1]
  · have hi' : i < (c.2.1 ++ [(r, o, d)]).length := hi
    rw [len_app] at hi'
    show h'.1 ((ys ++ [a]).getD i 0) = some (.inr (23, [.int (Int32.ofNat ((c.2.1 ++ [(r, o, d)]).getD i (0, 0, 0)).2.2)])) ∧ _
    rw [getD_appN, getD_appN, p10.1]
    by_cases ci : i = c.2.1.length
    · rw [if_pos ci, if_pos ci]
      exact ⟨fk.1 _ _ _ hc (Or.inr rfl) i2, by omega⟩
    · rw [if_neg ci, if_neg ci]
      obtain ⟨t1, t3⟩ := p10.2 i (by omega)
      exact ⟨fk.1 _ _ _ t1 (Or.inr rfl) t3, by omega⟩
  · show (c.2.1 ++ [(r, o, d)]).length ≤ 6
    rw [len_app]
    omega
end CLP
