/-! ROOM: an induction over all that happens up to a time -/
set_option maxRecDepth 100000
/-- what is shown of each event: P at rest and among the timers, Q among the messages -/
def GOI (P Q : SS → Prop) (e : Int) : Prop :=
  (∀ S, P S → s_gh S 0 ≤ 900000 ∧ (s_ms S).length + (s_dl S).length ≤ 5999) ∧
  (∀ S, Q S → P S) ∧
  (∀ (S : SS) (t : Int32), Inv S → Rest S → P S → (now S).toInt < t.toInt → t.toInt ≤ e → (t.toInt = e ∨ EV S t.toInt) → (∀ x : Int, EV S x → t.toInt ≤ x) → Inv (pass S t) → Q (pass S t)) ∧
  (∀ S S' : SS, Inv S → Q S → NEF S S' → Inv S' → Q S') ∧
  (∀ (S : SS) (k : Nat) (m : MG), Inv S → Q S → (s_ms S)[k]? = some m → tmJ m = (now S).toInt → AEF S (arrive S k m) k m → Inv (arrive S k m) → Q (arrive S k m)) ∧
  (∀ S S' : SS, Inv S → Q S → DEF S S' → Inv S' → Q S') ∧
  (∀ (S : SS) (i : Nat), Inv S → P S → i < s_n S → due S i = true → s_nd S i 3 = 0 → Inv (u_nd S i 8 (-4)) → P (u_nd S i 8 (-4))) ∧
  ∀ (S : SS) (i : Nat), Inv S → P S → i < s_n S → due S i = true → s_nd S i 3 ≠ 0 → FEF S (acquire S i) i → Inv (acquire S i) → P (acquire S i)
theorem wt_le {S : SS} {m : MG} : wt S m ≤ 9 := by
  have a : cnd S m.2.1 ≤ 4 := by
    unfold cnd
    split
    · exact Nat.le_refl _
    · exact Nat.zero_le _
  have b := fun x => ppd_le (S := S) (i := m.2.1) (x := x)
  have b1 := b (tmJ m + (s_nd S m.2.1 1).toInt)
  have b2 := b (tmJ m)
  unfold wt
  split
  · omega
  · split
    · omega
    · split
      · omega
      · split
        · omega
        · omega
section GIS
variable {P Q : SS → Prop} {e : Int} {S : SS}
theorem gh_near {S' : SS} {c : Nat} (h : GH S' ≤ GH S + c) (hs : s_gh S 0 ≤ 900000) (hc : c ≤ 1000) : s_gh S' 0 ≤ 1000000 := by
  have a := GH_b (S := S)
  have b := GH_b (S := S')
  omega
theorem AEF.gh {S' : SS} {k : Nat} {m : MG} (h : AEF S S' k m) : GH S' ≤ GH S + 9 := by
  obtain ⟨new, -, -, -, g, -⟩ := h
  have := wt_le (S := S) (m := m)
  omega
theorem gi_msgs (h : GOI P Q e) : ∀ (n : Nat) (S : SS), Inv S → Q S → Inv (msgsNow n S) ∧ Q (msgsNow n S)
  | 0, S, hI, hQ => ⟨hI, hQ⟩
  | n + 1, S, hI, hQ => by
    have hb := h.1 S (h.2.1 S hQ)
    unfold msgsNow
    split
    · exact ⟨hI, hQ⟩
    · next q hq =>
      split
      · exact ⟨hI, hQ⟩
      · next hn =>
        have hk : (s_ms S)[q.1]? = some q.2 := fmsg_mem hq
        have t1 : tmJ q.2 ≤ (now S).toInt := by
          rw [Int32.lt_iff_toInt_lt] at hn
          exact Int.not_lt.mp hn
        have t2 : (now S).toInt ≤ tmJ q.2 := (hI.2.2.2.2.1 q.2 (List.mem_of_getElem? hk)).2.2.2.2.1
        have a := arrive_eff hI hk (by omega) t1
        have hI' := Inv_arrive hI hk (gh_near a.gh hb.1 (by decide))
        exact gi_msgs h n _ hI' (h.2.2.2.2.1 S q.1 q.2 hI hQ hk (Int.le_antisymm t1 t2) a hI')
theorem gi_tims (h : GOI P Q e) : ∀ (l : List Nat) (S : SS), Inv S → P S → (∀ i ∈ l, i < s_n S) → Inv (l.foldl timNd S) ∧ P (l.foldl timNd S)
  | [], S, hI, hP, _ => ⟨hI, hP⟩
  | i :: l, S, hI, hP, hl => by
    have hb := h.1 S hP
    have hi := hl i (by simp)
    rw [List.foldl_cons]
    have key : Inv (timNd S i) ∧ P (timNd S i) := by
      unfold timNd
      split
      · next hd =>
        split
        · next h3 =>
          have hI' : Inv (u_nd S i 8 (-4)) := hI.nd (by decide) (fun hi' => (hI.2.1 i hi').timer (Or.inl rfl))
          exact ⟨hI', h.2.2.2.2.2.2.1 S i hI hP hi hd h3 hI'⟩
        · next h3 =>
          have a := FEF_acq hI hi (by omega)
          have hI' := Inv_acquire hI hi (gh_near a.choose_spec.2.2.2.2.2.2.2.2 hb.1 (by decide))
          exact ⟨hI', h.2.2.2.2.2.2.2 S i hI hP hi hd h3 a hI'⟩
      · exact ⟨hI, hP⟩
    exact gi_tims h l _ key.1 key.2 (fun j hj => by rw [n_tim]; exact hl j (by simp [hj]))
theorem gi_happen (h : GOI P Q e) (hI : Inv S) (hQ : Q S) : Inv (happen S) ∧ P (happen S) := by
  rw [happen_eq]
  unfold fin tims
  have n1 : NEF S (changeLinks S) := NEF_links _ _
  have i1 : Inv (changeLinks S) := Inv_links _ _ S hI
  have q1 := h.2.2.2.1 S _ hI hQ n1 i1
  obtain ⟨S1, hS1⟩ : ∃ S1, changeLinks S = S1 := ⟨_, rfl⟩
  rw [hS1] at i1 q1 ⊢
  obtain ⟨i2, q2⟩ := gi_msgs h (s_ms S1).length S1 i1 q1
  obtain ⟨S2, hS2⟩ : ∃ S2, msgsNow (s_ms S1).length S1 = S2 := ⟨_, rfl⟩
  rw [hS2] at i2 q2 ⊢
  have b2 := h.1 S2 (h.2.1 S2 q2)
  have d2 : DEF S2 (delNow ((s_dl S2).length + 1) 0 S2) := DEF_del _ _ (by omega)
  have i3 : Inv (delNow ((s_dl S2).length + 1) 0 S2) := by
    obtain ⟨nw, -, -, d3, -, -, d6⟩ := d2
    have l20 := i2.2.2.2.2.2.2.2.2.2.1
    exact Inv_del _ _ S2 i2 (gh_near (c := 3 * (s_dl S2).length) (by omega) b2.1 (by omega))
  have q3 := h.2.2.2.2.2.1 S2 _ i2 q2 d2 i3
  obtain ⟨S3, hS3⟩ : ∃ S3, delNow ((s_dl S2).length + 1) 0 S2 = S3 := ⟨_, rfl⟩
  rw [hS3] at i3 q3 ⊢
  rw [List.drop_zero]
  exact gi_tims h _ S3 i3 (h.2.1 S3 q3) (fun i hi => List.mem_range.mp hi)
theorem gi_step (h : GOI P Q e) (hI : Inv S) (hR : Rest S) (hP : P S) {t : Int32} (ht : (now S).toInt < t.toInt) (he : t.toInt = e) (ht2 : t.toInt ≤ 5000000) : Inv (step S t) ∧ P (step S t) := by
  obtain ⟨m1, m2, m3⟩ := MO_nextEvent (S := S)
  have kM : ((2147483647 : Int32)).toInt = 2147483647 := by decide
  unfold step
  dsimp only
  by_cases hx : t < nextEvent S
  · rw [if_pos hx]
    rw [Int32.lt_iff_toInt_lt] at hx
    have e1 : mn (nextEvent S) t = t := by
      apply Int32.toInt.inj
      rw [mn_i]
      omega
    rw [e1]
    have hev : ∀ x : Int, EV S x → t.toInt ≤ x := fun x hxx => by have := m1 x hxx; omega
    have hI' := Inv_pass (t := t) hI hR (by omega) ht2 hev
    exact ⟨hI', h.2.1 _ (h.2.2.1 S t hI hR hP ht (Int.le_of_eq he) (Or.inl he) hev hI')⟩
  · rw [if_neg hx]
    rw [Int32.lt_iff_toInt_lt] at hx
    have e1 : mn (nextEvent S) t = nextEvent S := by
      apply Int32.toInt.inj
      rw [mn_i]
      omega
    rw [e1]
    have hevx : EV S (nextEvent S).toInt := by
      rcases m2 with g | g
      · omega
      · exact g
    have hb2 := EV_b hI hR hevx
    have hI1 := Inv_pass (t := nextEvent S) hI hR (by omega) (by omega) m1
    exact gi_happen h hI1 (h.2.2.1 S _ hI hR hP hb2.1 (by omega) (Or.inr hevx) m1 hI1)
/-- the run up to t: P stays, all fits -/
theorem go_ind (h : GOI P Q e) : ∀ (n : Nat) (S : SS) (t : Int32), Inv S → Rest S → P S → t.toInt = e → t.toInt ≤ 5000000 → Inv (goOn n S t) ∧ Rest (goOn n S t) ∧ P (goOn n S t) ∧ msB n S t
  | 0, S, t, hI, hR, hP, _, _ => ⟨hI, hR, hP, trivial⟩
  | n + 1, S, t, hI, hR, hP, he, ht2 => by
    have hb := h.1 S hP
    unfold goOn msB
    by_cases hx : t ≤ now S
    · rw [if_pos hx]
      refine ⟨hI, hR, hP, Or.inl ?_⟩
      obtain ⟨m1, m2, m3⟩ := MO_nextEvent (S := S)
      rw [Int32.le_iff_toInt_le] at hx
      rw [Int32.lt_iff_toInt_lt]
      rcases m2 with g | g
      · have w := hI.2.2.2.1.1.2
        omega
      · have := (EV_b hI hR g).1
        omega
    · rw [if_neg hx]
      rw [Int32.le_iff_toInt_le] at hx
      obtain ⟨i1, p1⟩ := gi_step h hI hR hP (by omega) he ht2
      have b1 := h.1 _ p1
      obtain ⟨-, r1, -⟩ := step_ok hI hR (by omega) ht2 (Nat.le_trans b1.1 (by decide))
      obtain ⟨a1, a2, a3, a4⟩ := go_ind h n (step S t) t i1 r1 p1 he ht2
      exact ⟨a1, a2, a3, Or.inr ⟨by omega, a4⟩⟩
end GIS
