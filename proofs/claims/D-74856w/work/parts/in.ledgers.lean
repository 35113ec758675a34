/-! ROOM: a ledger after a call -/
set_option maxRecDepth 100000
section LDG
variable {L : LG} {S S' S0 : SS} {i n : Nat} {t : Int32}
theorem lgA_LG' {N x y u : Nat} {K X P M : Nat → Nat} : lgA (LG' L N x y u K X P M) = lgB L + N + x + y := rfl
/-- what is kept for the next calls -/
theorem pot_le (h : STI L S) : pot S ≤ 4 * s_n (lgC L) * (501 + (lgx L + lgy L)) := by
  unfold pot
  split
  · rename_i hj
    have nn : s_n S = s_n (lgC L) := h.1.2.1
    have : sN (s_n S) (fun i => 4 * aqN S i) ≤ sN (s_n S) (fun _ => 4 * (501 + (lgx L + lgy L))) := sN_le (fun i hi => by
      obtain ⟨Lt, k, -⟩ := h.2.2.1 i hi
      have := SPI_I h.2.1.1 h.2.1.2.1 hi (k.2.2.1 hj)
      dsimp only at this ⊢
      omega)
    rw [sN_cs, nn] at this
    rw [nn]
    have e : 4 * s_n (lgC L) * (501 + (lgx L + lgy L)) = s_n (lgC L) * (4 * (501 + (lgx L + lgy L))) := by rw [Nat.mul_comm 4, Nat.mul_assoc]
    rw [e]
    exact this
  · exact Nat.zero_le _
theorem pot_sam (h : SAM S S') : pot S' = pot S := by
  have e : ∀ i : Nat, aqN S' i = aqN S i := fun i => by
    unfold aqN
    rw [h.2.2.2.1]
  unfold pot
  rw [h.1, h.2.1]
  have : sN (s_n S) (fun i => 4 * aqN S' i) = sN (s_n S) (fun i => 4 * aqN S i) := sN_eq (fun i _ => by rw [e])
  rw [this]
theorem pot_ac (h : AC S S' i) : pot S' ≤ pot S + 4 := by
  obtain ⟨new, m1, m2⟩ := AC_new h
  have z : sN (s_n S) (fun j => (new.map (fmI j)).sum) ≤ 1 := by
    rcases m2 with rfl | ⟨q, rfl, q1⟩
    · have : sN (s_n S) (fun j => (([] : List MG).map (fmI j)).sum) = sN (s_n S) (fun _ => 0) := rfl
      rw [this, sN_cs, Nat.mul_zero]
      exact Nat.zero_le _
    · refine sN_one (i := i) (fun j _ hj => ?_) ?_
      · show fmI j q + 0 = 0
        unfold fmI
        rw [if_neg (fun x => hj (x.1.symm.trans q1))]
      · show fmI i q + 0 ≤ 1
        unfold fmI
        split <;> omega
  have e : sN (s_n S) (fun j => 4 * aqN S' j) = sN (s_n S) (fun j => 4 * aqN S j) + 4 * sN (s_n S) (fun j => (new.map (fmI j)).sum) := by
    rw [← sN_mul, ← sN_add]
    refine sN_eq (fun j _ => ?_)
    unfold aqN
    rw [m1, app_sum]
    omega
  unfold pot
  rw [h.1, h.2.1]
  split
  · rw [e]
    omega
  · exact Nat.zero_le _
/-- a call that is no campaign and sends nothing -/
def LGy (L : LG) (u : Nat) : LG := LG' L (lgN L) (lgx L) (lgy L + 1) u (lgK L) (lgX L) (lgP L) (lgM L)
theorem LGy_le {u : Nat} : LGle L (LGy L u) := ⟨rfl, Nat.le_refl _, Nat.le_succ _, fun _ => Nat.le_refl _, fun _ => Nat.le_refl _, fun _ => Nat.le_refl _, fun _ => Nat.le_refl _⟩
theorem sN_z {n : Nat} {F : Nat → Nat} : sN n (fun i => F i - F i) = 0 := by
  have : sN n (fun i => F i - F i) = sN n (fun _ => 0) := sN_eq (fun i _ => Nat.sub_self _)
  rw [this, sN_cs, Nat.mul_zero]
theorem LGy_ok (hA : ACCT L) (hW : WF L) {w : Nat} (hw : w ≤ 60 + 4 * s_n (lgC L) * (501 + (lgx L + lgy L))) : ACCT (LGy L (lgU L + w)) ∧ WF (LGy L (lgU L + w)) ∧ lgA (LGy L (lgU L + w)) = lgA L + 1 := by
  refine ⟨hA.other (u' := lgU L + w) (j0 := 1) (Nat.le_refl _) ?_ LGy_le ?_ rfl rfl ?_ (Nat.le_refl _) rfl, ?_, ?_⟩
  · rw [Nat.one_mul]
    omega
  · show sN (s_n (lgC L)) (fun i => lgK L i - lgK L i) ≤ 1
    rw [sN_z]
    decide
  · show lgx L + (lgy L + 1) = lgx L + lgy L + 1
    omega
  · obtain ⟨⟨w1, w2⟩, w3, w4, w5⟩ := hW
    refine ⟨⟨?_, w2⟩, ?_, w4, fun i hi => ?_⟩
    · show sN (s_n (lgC L)) (lgX L) ≤ lgx L + (lgy L + 1)
      omega
    · show sN (s_n (lgC L)) (lgP L) ≤ lgy L + 1
      omega
    · have := w5 i hi
      show lgK L i ≤ rmx (lgC L) i * lgN L + (lgx L + (lgy L + 1))
      omega
  · show lgB L + lgN L + lgx L + (lgy L + 1) = lgB L + lgN L + lgx L + lgy L + 1
    omega
theorem sN_dif {n : Nat} {F : Nat → Nat} : sN n (fun j => fu F i (F i + 1) j - F j) ≤ 1 := by
  refine sN_one (i := i) (fun j _ hj => ?_) ?_
  · show fu F i (F i + 1) j - F j = 0
    rw [fu_ne hj, Nat.sub_self]
  · show fu F i (F i + 1) i - F i ≤ 1
    rw [fu_eq]
    omega
theorem fu_up {F : Nat → Nat} (j : Nat) : F j ≤ fu F i (F i + 1) j := by
  by_cases c : j = i
  · subst c
    rw [fu_eq]
    exact Nat.le_succ _
  · rw [fu_ne c]
    exact Nat.le_refl _
theorem fu_up1 {F : Nat → Nat} (j : Nat) : fu F i (F i + 1) j ≤ F j + 1 := by
  by_cases c : j = i
  · subst c
    rw [fu_eq]
    exact Nat.le_refl _
  · rw [fu_ne c]
    exact Nat.le_succ _
/-- a campaign -/
theorem LGc_ok (hA : ACCT L) (hW : WF L) {w : Nat} (hw : w ≤ 60) : ∀ L' : LG, L' = LG' L (lgN L) (lgx L + 1) (lgy L) (lgU L + w) (fu (lgK L) i (lgK L i + 1)) (fu (lgX L) i (lgX L i + 1)) (lgP L) (fu (lgM L) i (lgM L i + 1)) →
    LGle L L' ∧ lgB L' = lgB L ∧ ACCT L' ∧ WF L' ∧ lgA L' = lgA L + 1 ∧ lgU L' = lgU L + w := by
  intro L' e
  have hl : LGle L L' := by
    rw [e]
    exact ⟨rfl, Nat.le_succ _, Nat.le_refl _, fun j => fu_up j, fun j => fu_up j, fun _ => Nat.le_refl _, fun j => fu_up j⟩
  subst e
  refine ⟨hl, rfl, hA.other (u' := lgU L + w) (j0 := 0) (Nat.zero_le _) ?_ hl sN_dif rfl rfl ?_ (Nat.le_refl _) rfl, ?_, ?_, rfl⟩
  · rw [Nat.zero_mul]
    omega
  · show lgx L + 1 + lgy L = lgx L + lgy L + 1
    omega
  · obtain ⟨⟨w1, w2⟩, w3, w4, w5⟩ := hW
    refine ⟨⟨?_, ?_⟩, w3, fun j => Nat.le_trans (w4 j) (fu_up j), fun j hj => ?_⟩
    · have := sN_fu1 (n := s_n (lgC L)) (F := lgX L) (i := i)
      show sN (s_n (lgC L)) (fu (lgX L) i (lgX L i + 1)) ≤ lgx L + 1 + lgy L
      omega
    · have := sN_fu1 (n := s_n (lgC L)) (F := lgM L) (i := i)
      show sN (s_n (lgC L)) (fu (lgM L) i (lgM L i + 1)) ≤ lgx L + 1
      omega
    · have := w5 j hj
      have := fu_up1 (F := lgK L) (i := i) j
      show fu (lgK L) i (lgK L i + 1) j ≤ rmx (lgC L) j * lgN L + (lgx L + 1 + lgy L)
      omega
  · show lgB L + lgN L + (lgx L + 1) + lgy L = lgB L + lgN L + lgx L + lgy L + 1
    omega
/-- another action -/
theorem LGa_ok (hA : ACCT L) (hW : WF L) {w : Nat} (hw : w ≤ 60) : ∀ L' : LG, L' = LG' L (lgN L) (lgx L) (lgy L + 1) (lgU L + w) (fu (lgK L) i (lgK L i + 1)) (fu (lgX L) i (lgX L i + 1)) (fu (lgP L) i (lgP L i + 1)) (lgM L) →
    LGle L L' ∧ lgB L' = lgB L ∧ ACCT L' ∧ WF L' ∧ lgA L' = lgA L + 1 ∧ lgU L' = lgU L + w := by
  intro L' e
  have hl : LGle L L' := by
    rw [e]
    exact ⟨rfl, Nat.le_refl _, Nat.le_succ _, fun j => fu_up j, fun j => fu_up j, fun j => fu_up j, fun _ => Nat.le_refl _⟩
  subst e
  refine ⟨hl, rfl, hA.other (u' := lgU L + w) (j0 := 0) (Nat.zero_le _) ?_ hl sN_dif rfl rfl ?_ (Nat.le_succ _) rfl, ?_, ?_, rfl⟩
  · rw [Nat.zero_mul]
    omega
  · show lgx L + (lgy L + 1) = lgx L + lgy L + 1
    omega
  · obtain ⟨⟨w1, w2⟩, w3, w4, w5⟩ := hW
    refine ⟨⟨?_, w2⟩, ?_, fun j => ?_, fun j hj => ?_⟩
    · have := sN_fu1 (n := s_n (lgC L)) (F := lgX L) (i := i)
      show sN (s_n (lgC L)) (fu (lgX L) i (lgX L i + 1)) ≤ lgx L + (lgy L + 1)
      omega
    · have := sN_fu1 (n := s_n (lgC L)) (F := lgP L) (i := i)
      show sN (s_n (lgC L)) (fu (lgP L) i (lgP L i + 1)) ≤ lgy L + 1
      omega
    · show fu (lgP L) i (lgP L i + 1) j ≤ fu (lgX L) i (lgX L i + 1) j
      have := w4 j
      by_cases c : j = i
      · subst c
        rw [fu_eq, fu_eq]
        omega
      · rw [fu_ne c, fu_ne c]
        exact this
    · have := w5 j hj
      have := fu_up1 (F := lgK L) (i := i) j
      show fu (lgK L) i (lgK L i + 1) j ≤ rmx (lgC L) j * lgN L + (lgx L + (lgy L + 1))
      omega
  · show lgB L + lgN L + lgx L + (lgy L + 1) = lgB L + lgN L + lgx L + lgy L + 1
    omega
/-- the next run's messages -/
theorem msg_ld (hW : WF L) (hG : LGD L) (h64 : lgA L + 1 ≤ 64) (hP : PST L S0) : (s_ms S0).length + (s_dl S0).length + sN (s_n S0) (fun i => 4999 / wayR S0 i + 2) ≤ 5999 := by
  rcases hG with ⟨c, cl, sl, q⟩ | ⟨cl, sl, q⟩
  · exact msg_ok hW q h64 hP
  · exact msg_csP hW q h64 hP
theorem wtN_b (hI : Inv S) : wtN S + 10 * (s_dl S).length ≤ 9 * sN (s_n S) (mN S) + 10 * oN S := by
  have a := (wt_all hI).1
  have b : sN (s_n S) (fun i => 4 * aqN S i + xN S i) ≤ sN (s_n S) (fun i => 9 * mN S i) := sN_le (fun i _ => by
    have := iN_le (S := S) (i := i)
    show 4 * aqN S i + xN S i ≤ 9 * mN S i
    unfold xN
    split <;> omega)
  rw [sN_mul] at b
  omega
/-- messages of all nodes and others are no more than all -/
theorem mN_len (hI : Inv S) : sN (s_n S) (mN S) + oN S ≤ (s_ms S).length + (s_dl S).length := by
  have key : ∀ l : List MG, sN (s_n S) (fun i => (l.map (fmM i)).sum) + (l.map fmO).sum ≤ l.length := by
    intro l
    induction l with
    | nil =>
      have : sN (s_n S) (fun i => (([] : List MG).map (fmM i)).sum) = sN (s_n S) (fun _ => 0) := rfl
      rw [this, sN_cs, Nat.mul_zero]
      exact Nat.le_refl _
    | cons q l ih =>
      have e : sN (s_n S) (fun i => ((q :: l).map (fmM i)).sum) = sN (s_n S) (fun i => fmM i q) + sN (s_n S) (fun i => (l.map (fmM i)).sum) := by
        rw [← sN_add]
        rfl
      rw [e, List.length_cons, List.map_cons, List.sum_cons]
      have b : sN (s_n S) (fun i => fmM i q) + fmO q ≤ 1 := by
        by_cases k : q.1 ≤ 3
        · have z : fmO q = 0 := if_pos k
          have := sN_one (n := s_n S) (F := fun i => fmM i q) (i := q.2.1) (fun j _ hj => if_neg (fun x => hj x.1.symm)) fmM_le
          omega
        · have z : fmO q = 1 := if_neg k
          have : sN (s_n S) (fun i => fmM i q) = sN (s_n S) (fun _ => 0) := sN_eq (fun i _ => if_neg (fun x => k x.2))
          rw [this, sN_cs, Nat.mul_zero, z]
      omega
  have := key (s_ms S)
  unfold oN mN
  omega
/-- a run against the ledger -/
theorem run_led (hA : ACCT L) (hW : WF L) (hG : LGD L) (h64 : lgA L + 1 ≤ 64) (hP : PST L S0) (hb : s_gh S0 0 ≤ 620000) (rn : RN S0 t n) (ht : t.toInt ≤ (now S0).toInt + 5000 ∨ t = nextEvent S0) {adv : Nat} (ha : adv ≤ 1) :
    msB n S0 t ∧ CST S0 (goOn n S0 t) ∧ s_gh (goOn n S0 t) 0 ≤ 900000 ∧ ∃ (w : Nat) (L' : LG), LGle L L' ∧ lgB L' = lgB L ∧ ACCT L' ∧ WF L' ∧ lgA L' = lgA L + 1 ∧ lgU L' = lgU L + w ∧
      (adv = 1 → GH (goOn n S0 t) + pot (goOn n S0 t) + 110 + 10 * lgy L ≤ GH S0 + pot S0 + 10 * oN S0 + w) ∧ (adv = 0 → GH (goOn n S0 t) + 110 + 10 * lgy L ≤ GH S0 + 10 * oN S0 + w) ∧ (adv = 1 → STI L S0 → LJ (goOn n S0 t) → STI L' (goOn n S0 t)) := by
  have hm := msg_ld hW hG h64 hP
  have hP0 := hP
  obtain ⟨p1, ⟨hI, hR⟩, p3, -⟩ := hP
  have b1 := wtN_b hI
  have b2 := mN_len hI
  have b3 := GH_b (S := S0)
  have b4 := hI.2.2.1.2
  obtain ⟨r1, r2, r3, r4, r5, r6, f, F, r, l, A, r7⟩ := run0 hI hR p3 rn ht (by omega) hm
  obtain ⟨S1, hS1⟩ : ∃ S1, goOn n S0 t = S1 := ⟨_, rfl⟩
  rw [hS1] at r1 r2 r4 r5 r6 r7 ⊢
  obtain ⟨xx, sh, q1, q2, q3⟩ := CFB_of (adv := adv) hP0 r7 r1 r4 ha
  have nn : s_n S0 = s_n (lgC L) := p1.2.1
  have h64' : lgx L + lgy L ≤ 64 := by
    unfold lgA at h64
    omega
  obtain ⟨w, hw⟩ : ∃ w, 110 + 10 * lgy L + sN (s_n S0) sh = w := ⟨_, rfl⟩
  refine ⟨r3, r4, r6, w, LG' L (lgN L + 1) (lgx L) (lgy L) (lgU L + w) (fun i => lgK L i + adv * (f i + r i)) (lgX L) (lgP L) (lgM L), ⟨rfl, Nat.le_refl _, Nat.le_refl _, fun i => Nat.le_add_right _ _, fun _ => Nat.le_refl _, fun _ => Nat.le_refl _, fun _ => Nat.le_refl _⟩, rfl,
    hA.time hW h64' q1 (K' := fun i => lgK L i + adv * (f i + r i)) (u' := lgU L + w) (fun i _ => rfl) (by rw [← nn]; omega) rfl rfl rfl rfl rfl rfl rfl rfl, hW.run hI p1 r7 ha, ?_, rfl, fun h1 => ?_, fun h0 => ?_, fun h1 hS hj => ?_⟩
  · show lgB L + (lgN L + 1) + lgx L + lgy L = lgB L + lgN L + lgx L + lgy L + 1
    omega
  · have := q2 h1
    omega
  · have := q3 h0
    omega
  · subst h1
    exact hS.run r4 hj r5 r7
end LDG
