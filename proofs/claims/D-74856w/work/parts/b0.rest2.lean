/-! REST: delayed writes, timers, a step, going on -/
set_option maxRecDepth 100000
section RS2
variable {S : SS}
theorem MX.pl {S' : SS} (h : MX S S') (hm : ∀ m ∈ s_ms S, (now S).toInt < tmJ m) : ∀ m ∈ s_ms S', (now S).toInt < tmJ m := by
  obtain ⟨-, l, e, g, -⟩ := h
  intro m hm'
  rw [e] at hm'
  rcases List.mem_append.mp hm' with q | q
  · exact hm m q
  · exact g m q
theorem MX_acquire {i : Nat} (h : Inv S) (hi : i < s_n S) : MX S (acquire S i) := by
  have h1 := MX_send (k := 0) (l := 1) (a := ndAt S i (now S)) (b := 0) (c := 0) h hi
  rw [acquire_eq]
  obtain ⟨a, l, b⟩ := h1
  exact ⟨a, l, b⟩
/-- delayed writes: those that are due are sent -/
theorem del_rest : ∀ (n k : Nat) (S : SS), Inv S → (s_dl S).length < k + n → (∀ j d, j < k → (s_dl S)[j]? = some d → (now S).toInt < d.2.2.2.2.toInt) → s_gh (delNow n k S) 0 ≤ 1000000 → (∀ m ∈ s_ms S, (now S).toInt < tmJ m) →
    (∀ d ∈ s_dl (delNow n k S), (now S).toInt < d.2.2.2.2.toInt) ∧ (∀ m ∈ s_ms (delNow n k S), (now S).toInt < tmJ m) ∧ s_ou (delNow n k S) = s_ou S ∧ s_sc (delNow n k S) 8 = s_sc S 8 ∧ s_n (delNow n k S) = s_n S := by
  intro n
  induction n with
  | zero =>
    intro k S h h1 h2 hb hm
    refine ⟨fun d hd => ?_, hm, rfl, rfl, rfl⟩
    obtain ⟨j, hj⟩ := List.mem_iff_getElem?.mp (show d ∈ s_dl S from hd)
    have hjl := (List.getElem?_eq_some_iff.mp hj).1
    exact h2 j d (by omega) hj
  | succ n ih =>
    intro k S h h1 h2 hb hm
    unfold delNow at hb ⊢
    cases hk : (s_dl S)[k]? with
    | none =>
      have hkl : (s_dl S).length ≤ k := List.getElem?_eq_none_iff.mp hk
      refine ⟨fun d hd => ?_, hm, rfl, rfl, rfl⟩
      obtain ⟨j, hj⟩ := List.mem_iff_getElem?.mp (show d ∈ s_dl S from hd)
      have hjl := (List.getElem?_eq_some_iff.mp hj).1
      exact h2 j d (by omega) hj
    | some d =>
      have hkl := (List.getElem?_eq_some_iff.mp hk).1
      rw [hk] at hb
      dsimp only at hb ⊢
      by_cases hc : d.2.2.2.2 ≤ now S
      · rw [if_pos hc] at hb ⊢
        have hb1 : s_gh (send (u_dl S ((s_dl S).eraseIdx k)) 4 d.1 3 d.2.1 (Int32.ofNat d.2.2.1) d.2.2.2.1) 0 ≤ 1000000 := Nat.le_trans (gle_del n k).1 hb
        have hD := h.2.2.2.2.2.2.2.1 d (List.mem_of_getElem? hk)
        have hX : MX (u_dl S ((s_dl S).eraseIdx k)) (send (u_dl S ((s_dl S).eraseIdx k)) 4 d.1 3 d.2.1 (Int32.ofNat d.2.2.1) d.2.2.2.1) := MX_send (Inv_er2 h) hD.1
        have hL : LK (u_dl S ((s_dl S).eraseIdx k)) (send (u_dl S ((s_dl S).eraseIdx k)) 4 d.1 3 d.2.1 (Int32.ofNat d.2.2.1) d.2.2.2.1) := LK_send
        have hIn := Inv_delS h hk hb1
        have hnn : s_n (send (u_dl S ((s_dl S).eraseIdx k)) 4 d.1 3 d.2.1 (Int32.ofNat d.2.2.1) d.2.2.2.1) = s_n S := n_send
        obtain ⟨S1, hS1⟩ : ∃ S1 : SS, S1 = send (u_dl S ((s_dl S).eraseIdx k)) 4 d.1 3 d.2.1 (Int32.ofNat d.2.2.1) d.2.2.2.1 := ⟨_, rfl⟩
        rw [← hS1] at hb hX hL hIn hnn ⊢
        have en : (now S1).toInt = (now S).toInt := now_LK (S := u_dl S ((s_dl S).eraseIdx k)) hL
        have ed : s_dl S1 = (s_dl S).eraseIdx k := hL.2.1
        obtain ⟨g1, g2, g3, g4, g5⟩ := ih k S1 hIn (by rw [ed, List.length_eraseIdx_of_lt hkl]; omega) (fun j d' hj hd' => by
          rw [ed, List.getElem?_eraseIdx, if_pos hj] at hd'
          rw [en]
          exact h2 j d' hj hd') hb (by rw [en]; exact hX.pl hm)
        rw [en] at g1 g2
        exact ⟨g1, g2, g3.trans hL.1, g4.trans hL.2.2, g5.trans hnn⟩
      · rw [if_neg hc] at hb ⊢
        refine ih (k + 1) S h (by omega) (fun j d' hj hd' => ?_) hb hm
        by_cases hjk : j = k
        · subst hjk
          rw [hk] at hd'
          cases hd'
          rw [Int32.le_iff_toInt_le] at hc
          omega
        · exact h2 j d' (by omega) hd'
theorem due_false (h : Inv S) {i : Nat} (hi : i < s_n S) (hd : due S i = false) : s_nd S i 2 = 1 → (s_nd S i 5).toInt ≤ (now S).toInt → s_nd S i 8 = -4 ∨ (now S).toInt < (s_nd S i 8).toInt := by
  intro h2 h5
  have hN := h.2.1 i hi
  rcases hN.2.2.2.2.2.2.2.2.2.2.2 with g | g
  · exact Or.inl g
  · refine Or.inr (Int.not_le.mp (fun hx => ?_))
    have : due S i = true := by
      unfold due paused
      have k0 : (0 : Int32) ≤ s_nd S i 8 := by
        rw [Int32.le_iff_toInt_le]
        have : ((0 : Int32)).toInt = 0 := by decide
        omega
      have k1 : s_nd S i 8 ≤ now S := by rw [Int32.le_iff_toInt_le]; exact hx
      have k2 : ¬ now S < s_nd S i 5 := fun hy => by rw [Int32.lt_iff_toInt_lt] at hy; omega
      simp [h2, k0, k1, k2]
    rw [hd] at this
    cases this
theorem due_tim (h : Inv S) {i : Nat} (hi : i < s_n S) : due (timNd S i) i = false := by
  unfold timNd
  by_cases hd : due S i = true
  · rw [if_pos hd]
    by_cases h3 : s_nd S i 3 = 0
    · rw [if_pos h3]
      unfold due
      rw [nd_at]
      simp
    · rw [if_neg h3]
      have e8 : (now S).toInt < (s_nd (acquire S i) i 8).toInt := by
        rw [acquire_eq, nd_ne (Or.inr (by decide)), nd_at, mx_i]
        have k1 : ((1 : Int32)).toInt = 1 := by decide
        have hW := h.2.2.2.1.1
        have e : (now S + 1).toInt = (now S).toInt + 1 := by rw [i_add] <;> rw [k1] <;> omega
        omega
      have en : (now (acquire S i)).toInt = (now S).toInt := now_LK LK_acquire
      unfold due
      have : ¬ s_nd (acquire S i) i 8 ≤ now (acquire S i) := fun hx => by
        rw [Int32.le_iff_toInt_le] at hx
        omega
      simp [this]
  · rw [if_neg hd]
    simpa using hd
theorem tim_oth {i j : Nat} (hij : j ≠ i) : s_nd (timNd S i) j = s_nd S j := by
  unfold timNd
  split
  · split
    · funext k
      exact nd_ne (Or.inl (Ne.symm hij))
    · rw [acquire_eq]
      funext k
      rw [nd_ne (Or.inl (Ne.symm hij)), nd_ne (Or.inl (Ne.symm hij)), cS_send.2.2]
  · rfl
theorem LK_tim {i : Nat} : LK S (timNd S i) := by
  unfold timNd
  split
  · split
    · exact LK_nd
    · exact LK_acquire
  · exact LK.rf
theorem due_oth {i j : Nat} (hij : j ≠ i) : due (timNd S i) j = due S j := by
  have e1 : now (timNd S i) = now S := (LK_tim (S := S) (i := i)).2.2
  unfold due paused
  rw [tim_oth hij, e1]
theorem MX_tim {i : Nat} (h : Inv S) (hi : i < s_n S) : MX S (timNd S i) := by
  unfold timNd
  split
  · split
    · exact MX.rf rfl rfl
    · exact MX_acquire h hi
  · exact MX.rf rfl rfl
theorem tims_rest : ∀ (l : List Nat) (S : SS), Inv S → (∀ i ∈ l, i < s_n S) → s_gh (l.foldl timNd S) 0 ≤ 1000000 → (∀ m ∈ s_ms S, (now S).toInt < tmJ m) → (∀ m ∈ s_ms (l.foldl timNd S), (now S).toInt < tmJ m) ∧ LK S (l.foldl timNd S) ∧ s_n (l.foldl timNd S) = s_n S ∧ ∀ i : Nat, i < s_n S → (due S i = false ∨ i ∈ l) → due (l.foldl timNd S) i = false := by
  intro l
  induction l with
  | nil =>
    intro S h hl hb hm
    refine ⟨hm, LK.rf, rfl, fun i hi hd => ?_⟩
    rcases hd with g | g
    · exact g
    · simp at g
  | cons i l ih =>
    intro S h hl hb hm
    rw [List.foldl_cons] at hb ⊢
    have hi := hl i (by simp)
    have hb1 : s_gh (timNd S i) 0 ≤ 1000000 := Nat.le_trans (gle_tims l).1 hb
    have hI1 := Inv_tim h hi hb1
    have hL := LK_tim (S := S) (i := i)
    have en : (now (timNd S i)).toInt = (now S).toInt := now_LK hL
    have n1 : s_n (timNd S i) = s_n S := n_tim
    obtain ⟨g1, g2, g3, g4⟩ := ih (timNd S i) hI1 (fun j hj => by rw [n1]; exact hl j (by simp [hj])) hb (by rw [en]; exact (MX_tim h hi).pl hm)
    rw [en] at g1
    refine ⟨g1, hL.tr g2, g3.trans n1, fun j hj hd => ?_⟩
    refine g4 j (by rw [n1]; exact hj) ?_
    by_cases hji : j = i
    · subst hji
      exact Or.inl (due_tim h hj)
    · rcases hd with g | g
      · exact Or.inl (by rw [due_oth hji]; exact g)
      · rcases List.mem_cons.mp g with e | e
        · exact absurd e hji
        · exact Or.inr e
theorem links_gh {n k : Nat} : s_gh (links n k S) = s_gh S := gle_links n k
/-- what happens leaves the invariant, and nothing to happen now -/
theorem happen_ok (h : Inv S) (hb : s_gh (happen S) 0 ≤ 1000000) : Inv (happen S) ∧ Rest (happen S) ∧ now (happen S) = now S ∧ hDone S := by
  rw [happen_eq] at hb ⊢
  unfold fin tims at hb ⊢
  have hI1 : Inv (changeLinks S) := Inv_links _ _ S h
  obtain ⟨l1, l2, l3, l4, l5⟩ := links_rest ((s_ou S).length + 1) 0 S (by omega) (fun j o hj _ => absurd hj (Nat.not_lt_zero j))
  obtain ⟨S1, hS1⟩ : ∃ S1 : SS, S1 = changeLinks S := ⟨_, rfl⟩
  have m1 : ∀ o ∈ s_ou S1, o ∈ s_ou S ∧ o.2.2 ≠ now S := by rw [hS1]; exact l1
  have m2 : s_sc S1 = s_sc S := by rw [hS1]; exact l2
  rw [← hS1] at hI1 hb ⊢
  have e1 : now S1 = now S := congrFun m2 8
  obtain ⟨n, hn⟩ : ∃ n : Nat, n = (s_ms S1).length := ⟨_, rfl⟩
  have hdn : dueN S1 ≤ n := by rw [hn]; exact List.countP_le_length
  have hDn : hDone S ↔ mDone n S1 := by unfold hDone; rw [← hS1, ← hn]
  rw [← hn] at hb ⊢
  obtain ⟨S2, hS2⟩ : ∃ S2 : SS, S2 = msgsNow n S1 := ⟨_, rfl⟩
  rw [← hS2] at hb ⊢
  have hb3 : s_gh (delNow ((s_dl S2).length + 1) 0 S2) 0 ≤ 1000000 := Nat.le_trans (gle_tims _).1 hb
  have hb2 : s_gh S2 0 ≤ 1000000 := Nat.le_trans (gle_del _ _).1 hb3
  rw [hS2] at hb2
  have hI2 : Inv S2 := by rw [hS2]; exact Inv_msgs n S1 hI1 hb2
  have hR2 : ∀ m ∈ s_ms S2, (now S1).toInt < tmJ m := by rw [hS2]; exact msgs_rest n S1 hI1 hdn hb2
  have hL2 : LK S1 S2 := by rw [hS2]; exact LK_msgs n
  have hmD : mDone n S1 := mDone_of n S1 hI1 hdn hb2
  have e2 : now S2 = now S1 := hL2.2.2
  obtain ⟨d1, d2, d3, d4, d5⟩ := del_rest ((s_dl S2).length + 1) 0 S2 hI2 (by omega) (fun j d hj _ => absurd hj (Nat.not_lt_zero j)) hb3 (by rw [e2]; exact hR2)
  have hI3 : Inv (delNow ((s_dl S2).length + 1) 0 S2) := Inv_del _ _ S2 hI2 hb3
  obtain ⟨S3, hS3⟩ : ∃ S3 : SS, S3 = delNow ((s_dl S2).length + 1) 0 S2 := ⟨_, rfl⟩
  rw [← hS3] at hb hI3 d1 d2 d3 d4 d5 ⊢
  have e3 : now S3 = now S2 := d4
  rw [List.drop_zero] at hb ⊢
  have hin : ∀ i ∈ List.range (s_n S3), i < s_n S3 := fun i hi => List.mem_range.mp hi
  obtain ⟨t1, t2, t3, t4⟩ := tims_rest (List.range (s_n S3)) S3 hI3 hin hb (by rw [e3]; exact d2)
  have hI4 := Inv_tims (List.range (s_n S3)) S3 hI3 hin hb
  obtain ⟨S4, hS4⟩ : ∃ S4 : SS, S4 = (List.range (s_n S3)).foldl timNd S3 := ⟨_, rfl⟩
  rw [← hS4] at hb t1 t2 t3 t4 hI4 ⊢
  have e4 : now S4 = now S3 := t2.2.2
  have eall : now S4 = now S := by rw [e4, e3, e2, e1]
  refine ⟨hI4, ⟨fun m hm => ?_, fun o ho => ?_, fun d hd => ?_, fun i hi h2 h5 => ?_⟩, eall, hDn.mpr hmD⟩
  · rw [e4]
    exact t1 m hm
  · rw [t2.1, d3, hL2.1] at ho
    have h1 := m1 o ho
    have h2 := (hI1.2.2.2.2.2.2.1 o ho).2.2.1.1
    rw [eall]
    rw [e1] at h2
    have h3 : o.2.2.toInt ≠ (now S).toInt := fun hx => h1.2 (Int32.toInt.inj hx)
    omega
  · rw [t2.2.1] at hd
    rw [e4, e3]
    exact d1 d hd
  · exact due_false hI4 hi (t4 i (by rw [← t3]; exact hi) (Or.inr (List.mem_range.mpr (by rw [← t3]; exact hi)))) h2 h5
theorem passNd_nd {t : Int32} : ∀ (l : List Nat) (q : SS × Int32 × Int32) (j k : Nat), k ≠ 10 → s_nd (l.foldl (passNd t) q).1 j k = s_nd q.1 j k := by
  intro l
  induction l with
  | nil => intro q j k _; rfl
  | cons i l ih =>
    intro q j k hk
    rw [List.foldl_cons, ih _ j k hk, passNd_1, nd_ne (Or.inr (Ne.symm hk))]
theorem pass_ls {t : Int32} : ∀ (l : List Nat) (q : SS × Int32 × Int32), (l.foldl (passNd t) q).1.2.2.2.1 = q.1.2.2.2.1 ∧ s_cf (l.foldl (passNd t) q).1 = s_cf q.1 ∧ s_n (l.foldl (passNd t) q).1 = s_n q.1 ∧ s_gh (l.foldl (passNd t) q).1 = s_gh q.1 := by
  intro l
  induction l with
  | nil => intro q; exact ⟨rfl, rfl, rfl, rfl⟩
  | cons i l ih =>
    intro q
    rw [List.foldl_cons]
    obtain ⟨a, b, c, d⟩ := ih (passNd t q i)
    rw [passNd_1] at a b c d
    exact ⟨a, b, c, d⟩
theorem pass_nd {t : Int32} {j k : Nat} (hk : k ≠ 10) : s_nd (pass S t) j k = s_nd S j k := passNd_nd (List.range (s_n S)) (S, now S, now S) j k hk
theorem pass_l {t : Int32} : (pass S t).2.2.2.1 = S.2.2.2.1 := (pass_ls (t := t) (List.range (s_n S)) (S, now S, now S)).1
theorem pass_now {t : Int32} : now (pass S t) = t := rfl
theorem pass_s {t : Int32} {k : Nat} (hk : k ≠ 8 ∧ k ≠ 16 ∧ k ≠ 17) : s_sc (pass S t) k = s_sc S k := by
  have e := pass_sc (S := S) (t := t) (List.range (s_n S)) (S, now S, now S)
  unfold pass
  dsimp only
  show fu (fu (fu (s_sc ((List.range (s_n S)).foldl (passNd t) (S, now S, now S)).1) 16 _) 17 _) 8 t k = _
  rw [fu_ne hk.1, fu_ne hk.2.2, fu_ne hk.2.1]
  exact congrFun e k
/-- time passes to a moment that nothing comes ahead of -/
theorem Inv_pass {t : Int32} (h : Inv S) (hR : Rest S) (ht : (now S).toInt ≤ t.toInt) (ht2 : t.toInt ≤ 5000000) (hev : ∀ x : Int, EV S x → t.toInt ≤ x) : Inv (pass S t) := by
  obtain ⟨p1, p2, p3, p4⟩ := pass_ls (t := t) (List.range (s_n S)) (S, now S, now S)
  have el : (pass S t).2.2.2.1 = S.2.2.2.1 := pass_l
  have ems : s_ms (pass S t) = s_ms S := congrArg (fun q => q.1) el
  have edl : s_dl (pass S t) = s_dl S := congrArg (fun q => q.2.1) el
  have eou : s_ou (pass S t) = s_ou S := congrArg (fun q => q.2.2.1) el
  have elg : s_lg (pass S t) = s_lg S := congrArg (fun q => q.2.2.2) el
  have ecf : s_cf (pass S t) = s_cf S := p2
  have en : s_n (pass S t) = s_n S := p3
  have egh : s_gh (pass S t) = s_gh S := p4
  have enow : (now (pass S t)).toInt = t.toInt := rfl
  obtain ⟨h1, h2, h3, h4, h5, h6, h7, h8, h9⟩ := h
  refine ⟨by rw [ecf]; exact h1, fun i hi => ?_, by rw [en]; exact h3, ?_, fun m hm => ?_, by rw [ems]; exact h6, fun o ho => ?_, fun d hd => ?_, by rw [eou, edl, elg]; exact h9⟩
  · have hN := h2 i (by rw [← en]; exact hi)
    unfold NI at hN ⊢
    rw [pass_nd (by decide), pass_nd (by decide), pass_nd (by decide), pass_nd (by decide), pass_nd (by decide), pass_nd (by decide), pass_nd (by decide), pass_nd (by decide), pass_nd (by decide), pass_nd (by decide)]
    exact hN
  · obtain ⟨a1, a2, a3, a4, a5, a6, a7, a8, a9⟩ := h4
    unfold WI
    show iv t 0 5000000 ∧ _
    rw [pass_s (by decide), pass_s (by decide), pass_s (by decide), pass_s (by decide), pass_s (by decide), pass_s (by decide), ecf, en, egh]
    exact ⟨⟨by have := a1.1; omega, ht2⟩, a2, a3, a4, a5, a6, a7, a8, a9⟩
  · rw [ems] at hm
    obtain ⟨a1, a2, a3, a4, a5⟩ := h5 m hm
    refine ⟨by rw [en]; exact a1, fun hk => by rw [pass_nd (by decide)]; exact a2 hk, a3, by rw [pass_s (by decide)]; exact a4, ?_, a5.2⟩
    rw [enow]
    exact hev _ (Or.inl (Or.inl (Or.inl (Or.inr ⟨m, hm, rfl⟩))))
  · rw [eou] at ho
    obtain ⟨a1, a2, a3, a4⟩ := h7 o ho
    refine ⟨by rw [en]; exact a1, a2, ⟨?_, a3.2⟩, a4⟩
    rw [enow]
    have := hev _ (Or.inl (Or.inr ⟨o, ho, rfl⟩))
    have hr := hR.2.1 o ho
    unfold oNext at this
    by_cases hf : o.2.1 ≤ now S
    · rw [if_pos hf, if_neg (fun hx => by rw [Int32.le_iff_toInt_le] at hx; omega)] at this
      exact this
    · rw [if_neg hf] at this
      omega
  · rw [edl] at hd
    obtain ⟨a1, a2, a3⟩ := h8 d hd
    refine ⟨by rw [en]; exact a1, a2, ⟨?_, a3.2⟩⟩
    rw [enow]
    exact hev _ (Or.inl (Or.inl (Or.inr ⟨d, hd, rfl⟩)))
/-- nothing comes up to the moment: the rest stays -/
theorem Rest_pass {t : Int32} (h : Inv S) (hR : Rest S) (hev : ∀ x : Int, EV S x → t.toInt < x) : Rest (pass S t) := by
  have el : (pass S t).2.2.2.1 = S.2.2.2.1 := pass_l
  have ems : s_ms (pass S t) = s_ms S := congrArg (fun q => q.1) el
  have edl : s_dl (pass S t) = s_dl S := congrArg (fun q => q.2.1) el
  have eou : s_ou (pass S t) = s_ou S := congrArg (fun q => q.2.2.1) el
  have en : s_n (pass S t) = s_n S := n_pass
  have enow : (now (pass S t)).toInt = t.toInt := rfl
  refine ⟨fun m hm => ?_, fun o ho => ?_, fun d hd => ?_, fun i hi h2 h5 => ?_⟩
  · rw [ems] at hm
    rw [enow]
    exact hev _ (Or.inl (Or.inl (Or.inl (Or.inr ⟨m, hm, rfl⟩))))
  · rw [eou] at ho
    rw [enow]
    have := hev _ (Or.inl (Or.inr ⟨o, ho, rfl⟩))
    have hr := hR.2.1 o ho
    have hO := (h.2.2.2.2.2.2.1 o ho).2.2.2
    unfold oNext at this
    by_cases hf : o.2.1 ≤ now S
    · rw [if_pos hf, if_neg (fun hx => by rw [Int32.le_iff_toInt_le] at hx; omega)] at this
      exact this
    · rw [if_neg hf] at this
      omega
  · rw [edl] at hd
    rw [enow]
    exact hev _ (Or.inl (Or.inl (Or.inr ⟨d, hd, rfl⟩)))
  · rw [pass_nd (by decide)] at h2 h5 ⊢
    rw [enow] at h5 ⊢
    have hi' : i < s_n S := by rw [← en]; exact hi
    have hN := h.2.1 i hi'
    -- it was not paused before, else its pause would end up to t
    have hnp : ¬ paused S i (now S) = true := fun hp => by
      have := hev _ (Or.inr ⟨i, List.mem_range.mpr hi', Or.inl ⟨hp, rfl⟩⟩)
      omega
    by_cases h8 : s_nd S i 8 = -4
    · exact Or.inl h8
    · have h8i : iv (s_nd S i 8) 0 20000000 := by rcases hN.2.2.2.2.2.2.2.2.2.2.2 with g | g; exact absurd g h8; exact g
      refine Or.inr (hev _ (Or.inr ⟨i, List.mem_range.mpr hi', Or.inr ⟨hnp, by rw [h2]; decide, fun hx => ?_, rfl⟩⟩))
      rw [Int32.lt_iff_toInt_lt] at hx
      have k0 : ((0 : Int32)).toInt = 0 := by decide
      omega
/-- a step -/
theorem step_ok {t : Int32} (h : Inv S) (hR : Rest S) (ht : (now S).toInt < t.toInt) (ht2 : t.toInt ≤ 5000000) (hb : s_gh (step S t) 0 ≤ 1000000) : Inv (step S t) ∧ Rest (step S t) ∧ (now S).toInt < (now (step S t)).toInt ∧ (now (step S t)).toInt ≤ t.toInt ∧ sDone S t := by
  obtain ⟨m1, m2, m3⟩ := MO_nextEvent (S := S)
  have kM : ((2147483647 : Int32)).toInt = 2147483647 := by decide
  unfold step at hb ⊢
  unfold sDone
  dsimp only at hb ⊢
  by_cases hx : t < nextEvent S
  · rw [if_pos hx] at hb ⊢
    rw [Int32.lt_iff_toInt_lt] at hx
    have e : mn (nextEvent S) t = t := by
      apply Int32.toInt.inj
      rw [mn_i]
      omega
    rw [e]
    have hev : ∀ x : Int, EV S x → t.toInt < x := fun x hxx => by have := m1 x hxx; omega
    exact ⟨Inv_pass h hR (by omega) ht2 (fun x hxx => by have := hev x hxx; omega), Rest_pass h hR hev, ht, Int.le_refl _, Or.inl (by rw [Int32.lt_iff_toInt_lt]; exact hx)⟩
  · rw [if_neg hx] at hb ⊢
    rw [Int32.lt_iff_toInt_lt] at hx
    have e : mn (nextEvent S) t = nextEvent S := by
      apply Int32.toInt.inj
      rw [mn_i]
      omega
    rw [e] at hb ⊢
    have hevx : EV S (nextEvent S).toInt := by
      rcases m2 with g | g
      · omega
      · exact g
    have hb2 := EV_b h hR hevx
    have hI1 := Inv_pass (t := nextEvent S) h hR (by omega) (by omega) m1
    obtain ⟨k1, k2, k3, k4⟩ := happen_ok hI1 hb
    refine ⟨k1, k2, ?_, ?_, Or.inr k4⟩
    · rw [k3]
      exact hb2.1
    · rw [k3]
      show (nextEvent S).toInt ≤ _
      omega
/-- going on -/
theorem goOn_ok : ∀ (n : Nat) (S : SS) (t : Int32), Inv S → Rest S → t.toInt ≤ 5000000 → (t.toInt - (now S).toInt) ≤ n → s_gh (goOn n S t) 0 ≤ 1000000 → Inv (goOn n S t) ∧ Rest (goOn n S t) ∧ gDone n S t ∧ (now S).toInt ≤ (now (goOn n S t)).toInt ∧ t.toInt ≤ (now (goOn n S t)).toInt := by
  intro n
  induction n with
  | zero =>
    intro S t h hR ht hn hb
    refine ⟨h, hR, ?_, Int.le_refl _, by show t.toInt ≤ (now S).toInt; omega⟩
    unfold gDone
    rw [Int32.le_iff_toInt_le]
    omega
  | succ n ih =>
    intro S t h hR ht hn hb
    unfold goOn at hb ⊢
    unfold gDone
    by_cases hx : t ≤ now S
    · rw [if_pos hx]
      rw [Int32.le_iff_toInt_le] at hx
      exact ⟨h, hR, Or.inl (by rw [Int32.le_iff_toInt_le]; exact hx), Int.le_refl _, hx⟩
    · rw [if_neg hx] at hb ⊢
      rw [Int32.le_iff_toInt_le] at hx
      have hb1 : s_gh (step S t) 0 ≤ 1000000 := Nat.le_trans (gle_goOn n).1 hb
      obtain ⟨a1, a2, a3, a4, a5⟩ := step_ok h hR (by omega) ht hb1
      obtain ⟨b1, b2, b3, b4, b5⟩ := ih (step S t) t a1 a2 ht (by omega) hb
      exact ⟨b1, b2, Or.inr ⟨a5, b3⟩, by omega, b5⟩
end RS2
