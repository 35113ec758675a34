/-! ROOM: the global account over all lineages -/
set_option maxRecDepth 100000
/-- a ledger of a text, or of the start -/
def LGD (L : LG) : Prop := (∃ (c : CS) (cl sl : Nat), LOK L c cl sl) ∨ ∃ cl sl : Nat, lgC L = SC csP cl sl
/-- all lineages are in order; d 0: the main state's, d (i + 1): a slot's -/
def GLN (nl : Nat) (Lam : Nat → LG) (d : Nat → Nat) (S : SS) (Z : Nat → Option SS) : Prop :=
  (∀ l : Nat, l < nl → ACCT (Lam l) ∧ WF (Lam l) ∧ LGD (Lam l)) ∧
  (d 0 < nl ∧ STI (Lam (d 0)) S) ∧ ∀ i : Nat, i < 2 → ∀ Q : SS, Z i = some Q → d (i + 1) < nl ∧ STI (Lam (d (i + 1))) Q
/-- the account after k calls; V: cells used, or more -/
def GA (k V : Nat) (S : SS) (Z : Nat → Option SS) (len : Nat) : Prop := ∃ (nl : Nat) (Lam : Nat → LG) (d : Nat → Nat), GLN nl Lam d S Z ∧ sN nl (fun l => lgA (Lam l)) + len ≤ k ∧
  V + pot S + 60 * (sN nl (fun l => lgA (Lam l)) + len) ≤ sN nl (fun l => lgU (Lam l)) + 100 + 60 * k
section GLS
variable {nl k len len' V V' : Nat} {Lam : Nat → LG} {d d' : Nat → Nat} {S S' : SS} {Z Z' : Nat → Option SS} {L L' : LG} {i : Nat}
theorem sN_upd {n : Nat} {F : Nat → Nat} {i v : Nat} (hi : i < n) : sN n (fu F i v) + F i = sN n F + v := by
  induction n with
  | zero => omega
  | succ n ih =>
    rw [sN_s, sN_s]
    by_cases h : i = n
    · subst h
      have : sN i (fu F i v) = sN i F := sN_eq (fun j hj => fu_ne (by omega))
      rw [this, fu_eq]
      omega
    · have := ih (by omega)
      rw [fu_ne (fun x => h x.symm)]
      omega
theorem fu_map {α β : Type} {F : α → β} {f : Nat → α} {i : Nat} {v : α} : (fun l => F (fu f i v l)) = fu (fun l => F (f l)) i (F v) := by
  funext l
  by_cases c : l = i
  · subst c
    rw [fu_eq, fu_eq]
  · rw [fu_ne c, fu_ne c]
theorem lin_b (h : GLN nl Lam d S Z) (hi : i < nl) (h64 : lgA (Lam i) ≤ 64) : lgU (Lam i) ≤ 9400 * lgA (Lam i) := by
  obtain ⟨a, w, q⟩ := h.1 i hi
  rcases q with ⟨c, cl, sl, q⟩ | ⟨cl, sl, q⟩
  · exact lin_ok a w q h64
  · exact lin_csP a w q h64
/-- cells of a state after k calls -/
theorem GA.b (h : GA k V S Z len) (hk : k ≤ 64) : V + pot S ≤ 100 + 9400 * k := by
  obtain ⟨nl, Lam, d, g, h1, h2⟩ := h
  have e : sN nl (fun l => lgU (Lam l)) ≤ 9400 * sN nl (fun l => lgA (Lam l)) := by
    rw [← sN_mul]
    refine sN_le (fun i hi => lin_b g hi ?_)
    have := sN_pos (n := nl) (F := fun l => lgA (Lam l)) hi
    dsimp only at this
    omega
  omega
theorem GA.len (h : GA k V S Z len) : len ≤ k := by
  obtain ⟨nl, Lam, d, g, h1, h2⟩ := h
  omega
theorem GA.led (h : GA k V S Z len) : ∃ L : LG, ACCT L ∧ WF L ∧ LGD L ∧ STI L S ∧ lgA L ≤ k := by
  obtain ⟨nl, Lam, d, g, h1, h2⟩ := h
  have a := g.1 _ g.2.1.1
  refine ⟨_, a.1, a.2.1, a.2.2, g.2.1.2, ?_⟩
  have := sN_pos (n := nl) (F := fun l => lgA (Lam l)) g.2.1.1
  dsimp only at this
  omega
theorem GA.ledZ (h : GA k V S Z len) {s : Nat} (hs : s < 2) {Q : SS} (hq : Z s = some Q) : ∃ L : LG, ACCT L ∧ WF L ∧ LGD L ∧ STI L Q ∧ lgA L ≤ k := by
  obtain ⟨nl, Lam, d, g, h1, h2⟩ := h
  obtain ⟨b1, b2⟩ := g.2.2 s hs Q hq
  have a := g.1 _ b1
  refine ⟨_, a.1, a.2.1, a.2.2, b2, ?_⟩
  have := sN_pos (n := nl) (F := fun l => lgA (Lam l)) b1
  dsimp only at this
  omega
theorem LGD.up (h : LGD L) (hl : LGle L L') (eB : lgB L' = lgB L) : LGD L' := by
  rcases h with ⟨c, cl, sl, q1, q2, q3, q4, q5, q6⟩ | ⟨cl, sl, q⟩
  · exact Or.inl ⟨c, cl, sl, hl.1.trans q1, q2, q3, q4, q5, by rw [eB]; exact q6⟩
  · exact Or.inr ⟨cl, sl, hl.1.trans q⟩
theorem STI_up {l : Nat} (hl : LGle (Lam i) L') {Q : SS} (h : STI (Lam l) Q) : STI (fu Lam i L' l) Q := by
  by_cases e : l = i
  · subst e
    rw [fu_eq]
    exact h.mono hl
  · rw [fu_ne e]
    exact h
/-- a call that is charged to the lineage i -/
theorem GA_step (g : GLN nl Lam d S Z) (h1 : sN nl (fun l => lgA (Lam l)) + len ≤ k) (h2 : V + pot S + 60 * (sN nl (fun l => lgA (Lam l)) + len) ≤ sN nl (fun l => lgU (Lam l)) + 100 + 60 * k)
    (hi : i < nl) (hl : LGle (Lam i) L') (eB : lgB L' = lgB (Lam i)) (hA : ACCT L') (hW : WF L') (eA : lgA L' = lgA (Lam i) + 1) (hV : V' + pot S' + lgU (Lam i) ≤ V + pot S + lgU L')
    (d0 : d' 0 < nl ∧ STI (fu Lam i L' (d' 0)) S') (dz : ∀ j : Nat, j < 2 → ∀ Q : SS, Z' j = some Q → d' (j + 1) < nl ∧ STI (fu Lam i L' (d' (j + 1))) Q) : GA (k + 1) V' S' Z' len := by
  refine ⟨nl, fu Lam i L', d', ⟨fun l hll => ?_, d0, dz⟩, ?_, ?_⟩
  · by_cases e : l = i
    · subst e
      rw [fu_eq]
      exact ⟨hA, hW, (g.1 l hi).2.2.up hl eB⟩
    · rw [fu_ne e]
      exact g.1 l hll
  · rw [fu_map (F := lgA)]
    have := sN_upd (F := fun l => lgA (Lam l)) (v := lgA L') hi
    dsimp only at this
    omega
  · rw [fu_map (F := lgA), fu_map (F := lgU)]
    have a := sN_upd (F := fun l => lgA (Lam l)) (v := lgA L') hi
    have b := sN_upd (F := fun l => lgU (Lam l)) (v := lgU L') hi
    dsimp only at a b
    omega
/-- a call of the main state's own lineage -/
theorem GA_main (g : GLN nl Lam d S Z) (h1 : sN nl (fun l => lgA (Lam l)) + len ≤ k) (h2 : V + pot S + 60 * (sN nl (fun l => lgA (Lam l)) + len) ≤ sN nl (fun l => lgU (Lam l)) + 100 + 60 * k)
    (hl : LGle (Lam (d 0)) L') (eB : lgB L' = lgB (Lam (d 0))) (hA : ACCT L') (hW : WF L') (eA : lgA L' = lgA (Lam (d 0)) + 1) (hV : V' + pot S' + lgU (Lam (d 0)) ≤ V + pot S + lgU L') (hS : STI L' S') : GA (k + 1) V' S' Z len :=
  GA_step g h1 h2 g.2.1.1 hl eB hA hW eA hV ⟨g.2.1.1, by rw [fu_eq]; exact hS⟩ (fun j hj Q hq => ⟨(g.2.2 j hj Q hq).1, STI_up hl (g.2.2 j hj Q hq).2⟩)
/-- a call that is charged to nobody -/
theorem GA.idle (h : GA k V S Z len) (hS : ∀ L : LG, STI L S → STI L S') (hV : V' + pot S' + 60 * len' ≤ V + pot S + 60 * len + 60) (hl : len' ≤ len + 1) : GA (k + 1) V' S' Z len' := by
  obtain ⟨nl, Lam, d, g, h1, h2⟩ := h
  exact ⟨nl, Lam, d, ⟨g.1, ⟨g.2.1.1, hS _ g.2.1.2⟩, g.2.2⟩, by omega, by omega⟩
/-- the ledger of a text that was just read -/
def LG0 (C : SS) (b u : Nat) : LG := (C, (fun k => if k = 0 then b else if k = 4 then u else 0), (fun _ => 0), (fun _ => 0), (fun _ => 0), (fun _ => 0))
theorem LG0_ok {C : SS} {b u : Nat} (hu : u ≤ 8 * b + 130 * min 1 b) : ACCT (LG0 C b u) ∧ WF (LG0 C b u) := by
  refine ⟨?_, ?_, ?_, fun i => Nat.le_refl _, fun i _ => Nat.zero_le _⟩
  · intro cond Af H a b' eP e0 bm hs hm hb hcd hA j hj
    have ek : sN (s_n C) (fun i => b' j i * 0) = 0 := by
      have : sN (s_n C) (fun i => b' j i * 0) = sN (s_n C) (fun _ => 0) := sN_eq (fun i _ => Nat.mul_zero _)
      rw [this, sN_cs, Nat.mul_zero]
    show 2000 * u + a j + sN (s_n C) (fun i => b' j i * 0) ≤ a (j + 0) + bm * (0 + 0) + 2000 * (0 * (110 + 10 * 0 + eP * (0 + 0) + e0) + 60 * (0 + 0) + 0 * (4 * s_n C * (501 + (0 + 0))) + 8 * b + 130 * min 1 b)
    rw [ek, Nat.zero_mul, Nat.zero_mul, Nat.add_zero j]
    omega
  · show sN (s_n C) (fun _ => 0) ≤ 0 + 0 ∧ sN (s_n C) (fun _ => 0) ≤ 0
    rw [sN_cs, Nat.mul_zero]
    exact ⟨Nat.le_refl _, Nat.le_refl _⟩
  · show sN (s_n C) (fun _ => 0) ≤ 0
    rw [sN_cs, Nat.mul_zero]
    exact Nat.le_refl _
theorem pot_SC {c : CS} {cl sl : Nat} : pot (SC c cl sl) = 0 := by
  unfold pot
  split
  · have : sN (s_n (SC c cl sl)) (fun i => 4 * aqN (SC c cl sl) i) = sN (s_n (SC c cl sl)) (fun _ => 0) := sN_eq (fun i _ => rfl)
    rw [this, sN_cs, Nat.mul_zero]
  · rfl
/-- a fresh simulation -/
theorem STI_SC {c : CS} {cl sl b u : Nat} (hj : LJ (SC c cl sl)) : STI (LG0 (SC c cl sl) b u) (SC c cl sl) := by
  have m0 : ∀ i : Nat, mN (SC c cl sl) i = 0 := fun _ => rfl
  have z3 : ∀ i : Nat, s_nd (SC c cl sl) i 3 = 0 := fun _ => rfl
  have z5 : ∀ i : Nat, s_nd (SC c cl sl) i 5 = 0 := fun _ => rfl
  have z2 : ∀ i : Nat, s_nd (SC c cl sl) i 2 = 1 := fun _ => rfl
  have z8 : ∀ i : Nat, s_nd (SC c cl sl) i 8 = -4 := fun _ => rfl
  have zn : now (SC c cl sl) = 0 := rfl
  have zm : s_ms (SC c cl sl) = [] := rfl
  have zd : s_dl (SC c cl sl) = [] := rfl
  have n0 : nLt [0] 0 6000000 = 0 := by decide
  have nc : ncd (SC c cl sl) = 0 := by
    have : ncd (SC c cl sl) = sN (s_n (SC c cl sl)) (fun _ => 0) := sN_eq (fun i _ => if_pos (z3 i))
    rw [this, sN_cs, Nat.mul_zero]
  refine ⟨CC.rf, hj, fun i hi => ⟨[0], ⟨fun m hm => absurd hm (by rw [zm]; exact List.not_mem_nil), ⟨by rw [z5]; exact List.mem_singleton.mpr rfl, List.mem_singleton.mpr rfl⟩, fun _ => ⟨0, [], [], ⟨List.Perm.nil, List.Pairwise.nil, fun x hx => absurd hx List.not_mem_nil, Or.inl (z8 i), Nat.zero_le _⟩, by rw [zn]; exact Int.le_refl _⟩, fun _ => ⟨0, Or.inl rfl, fun _ => rfl, fun _ => Or.inl (z8 i), ?_, fun _ => ?_⟩⟩, ?_, ?_⟩, fun i hi => ⟨?_, fun _ => ⟨z3 i, m0 i⟩⟩, ?_, fun _ => ⟨fun m hm => absurd hm (by rw [zm]; exact List.not_mem_nil), zd, fun i hi => ⟨z2 i, z5 i, fun _ => m0 i⟩⟩, ?_, Or.inr ⟨fun m hm => absurd hm (by rw [zm]; exact List.not_mem_nil), fun i hi _ => m0 i⟩⟩
  · rw [zn]
    show max 1 (0 + 0) + nLt [0] 0 6000000 ≤ 0 + 1
    rw [n0]
    decide
  · show 0 + 0 ≤ 0 + 1
    decide
  · rw [n0]
    exact Nat.zero_le _
  · intro t ht
    rw [List.mem_singleton.mp ht]
    decide
  · rw [m0]
    exact Nat.zero_le _
  · exact Nat.le_refl _
  · rw [nc]
    exact Nat.zero_le _
/-- a text was read -/
theorem GA.load (h : GA k V S Z len) {c : CS} {cl sl : Nat} (hj : LJ (SC c cl sl)) (hg : RGC c) (hd : dft c) (c1 : 1 ≤ c.2.1.length) (c6 : c.2.1.length ≤ 6) (hc : cst c ≤ len + 1) (hV : V' ≤ V + 2 * len + 60) : GA (k + 1) V' (SC c cl sl) Z 0 := by
  obtain ⟨nl, Lam, d, g, h1, h2⟩ := h
  obtain ⟨k1, k2⟩ := LG0_ok (C := SC c cl sl) (b := len + 1) (u := 2 * len + 60) (by omega)
  have ne : ∀ {l : Nat}, l < nl → l ≠ nl := fun h => by omega
  have sA : sN nl (fun l => lgA (fu Lam nl (LG0 (SC c cl sl) (len + 1) (2 * len + 60)) l)) = sN nl (fun l => lgA (Lam l)) := sN_eq (fun l hl => by rw [fu_ne (ne hl)])
  have sU : sN nl (fun l => lgU (fu Lam nl (LG0 (SC c cl sl) (len + 1) (2 * len + 60)) l)) = sN nl (fun l => lgU (Lam l)) := sN_eq (fun l hl => by rw [fu_ne (ne hl)])
  have eA : lgA (LG0 (SC c cl sl) (len + 1) (2 * len + 60)) = len + 1 := rfl
  have eU : lgU (LG0 (SC c cl sl) (len + 1) (2 * len + 60)) = 2 * len + 60 := rfl
  refine ⟨nl + 1, fu Lam nl (LG0 (SC c cl sl) (len + 1) (2 * len + 60)), fu d 0 nl, ⟨fun l hl => ?_, ⟨?_, ?_⟩, fun i hi Q hq => ?_⟩, ?_, ?_⟩
  · by_cases e : l = nl
    · subst e
      rw [fu_eq]
      exact ⟨k1, k2, Or.inl ⟨c, cl, sl, rfl, hg, hd, c1, c6, hc⟩⟩
    · rw [fu_ne e]
      exact g.1 l (by omega)
  · rw [fu_eq]
    exact Nat.lt_succ_self _
  · rw [fu_eq, fu_eq]
    exact STI_SC hj
  · obtain ⟨b1, b2⟩ := g.2.2 i hi Q hq
    rw [fu_ne (Nat.succ_ne_zero _), fu_ne (ne b1)]
    exact ⟨by omega, b2⟩
  · rw [sN_s, sA, fu_eq, eA]
    omega
  · rw [sN_s, sN_s, sA, sU, fu_eq, eA, eU, pot_SC]
    omega
/-- the start -/
theorem GA_0 {cl sl : Nat} (hc : cl ≤ 100) : GA 0 cl (SC csP cl sl) (fun _ => none) 0 := by
  obtain ⟨k1, k2⟩ := LG0_ok (C := SC csP cl sl) (b := 0) (u := 0) (Nat.zero_le _)
  have hj : LJ (SC csP cl sl) := LJ_SC RGCP (by decide) (by decide) (by omega)
  refine ⟨1, fun _ => LG0 (SC csP cl sl) 0 0, fun _ => 0, ⟨fun l hl => ⟨k1, k2, Or.inr ⟨cl, sl, rfl⟩⟩, ⟨Nat.lt_succ_self _, STI_SC hj⟩, fun i hi Q hq => by cases hq⟩, ?_, ?_⟩
  · show sN 1 (fun _ => 0) + 0 ≤ 0
    exact Nat.le_refl _
  · rw [pot_SC]
    show cl + 0 + 60 * (sN 1 (fun _ => 0) + 0) ≤ sN 1 (fun _ => 0) + 100 + 60 * 0
    have : sN 1 (fun _ => 0) = 0 := rfl
    rw [this]
    omega
end GLS
