/-! THE TWIN: tryWrite -/
set_option maxRecDepth 100000
def nv (x : Int32) : Prop := x ≠ -7
/-- the tried message w is on its way, to arrive at t -/
def TP (w t : Int32) (S : SS) : Prop := GQ nv w S ∧ ∃ m ∈ s_ms S, m.2.2.1 = w ∧ m.1 = 4 ∧ m.2.2.2.2.2.2 = t ∧ m.2.2.2.2.2.1 = -7
/-- it has arrived -/
def TDn (w t o : Int32) (S : SS) : Prop := s_sc S 20 = w ∧ s_sc S 21 = o ∧ now S = t ∧ ∀ m ∈ s_ms S, m.2.2.2.2.2.1 = -7 ∨ m.2.2.1 = w → t.toInt < tmJ m
section TTW
variable {w t o : Int32} {S S' : SS}
theorem seq_inj {l : List MG} (hp : l.Pairwise (fun a b => a.2.2.1 ≠ b.2.2.1)) : ∀ a ∈ l, ∀ b ∈ l, a.2.2.1 = b.2.2.1 → a = b := by
  induction hp with
  | nil => intro a ha; exact absurd ha (by simp)
  | cons h1 _ ih =>
    intro a ha b hb e
    rcases List.mem_cons.mp ha with ha | ha
    · rcases List.mem_cons.mp hb with hb | hb
      · rw [ha, hb]
      · rw [ha] at e; exact absurd e (h1 b hb)
    · rcases List.mem_cons.mp hb with hb | hb
      · rw [hb] at e; exact absurd e.symm (h1 a ha)
      · exact ih a ha b hb e
theorem mem_er {l : List MG} {k : Nat} {m a : MG} (hk : l[k]? = some m) (ha : a ∈ l) (hn : a ≠ m) : a ∈ l.eraseIdx k := by
  have := (erase_perm l k m hk).mem_iff.mp ha
  rcases List.mem_cons.mp this with h | h
  · exact absurd h hn
  · exact h
theorem triv0 {S : SS} : VQ (fun _ => True) S := ⟨fun _ _ => trivial, fun _ => trivial⟩
/-- new messages, and nothing of the watched one -/
theorem TDn_nx (h : TDn w t o S) (hI : Inv S) (hn : NX (fun _ => True) S S') (hx : MX S S') : TDn w t o S' := by
  obtain ⟨h1, h2, h3, h4⟩ := h
  obtain ⟨-, b, c, -⟩ := hn
  obtain ⟨e8, l, el, ht, -⟩ := hx
  have h3' : (now S).toInt = t.toInt := by rw [h3]
  refine ⟨b.trans h1, c.trans h2, (show s_sc S' 8 = t from e8.trans h3), fun m hm hw => ?_⟩
  rw [el, List.mem_append] at hm
  rcases hm with hm | hm
  · exact h4 m hm hw
  · have := ht m hm; omega
theorem TP_nx (h : TP w t S) (hn : NX nv S S') : TP w t S' := by
  obtain ⟨g, m, hm, h2⟩ := h
  refine ⟨GQ_nx g hn, m, ?_, h2⟩
  obtain ⟨-, -, -, l, el, -⟩ := hn
  rw [el, List.mem_append]
  exact Or.inl hm
theorem nv0 : nv 0 := by unfold nv; decide
theorem outA_ne {m : MG} (hm : m.2.2.2.2.2.1 ≠ -7) : outA S m o = o := by
  unfold outA outc
  rw [if_neg hm]
  split <;> rfl
theorem TDn_arrive {m : MG} {k : Nat} (h : TDn w t o S) (hI : Inv S) (hk : (s_ms S)[k]? = some m) (hd : tmJ m ≤ (now S).toInt) (hb : s_gh (arrive S k m) 0 ≤ 1000000) : TDn w t (outA S m o) (arrive S k m) := by
  obtain ⟨h1, h2, h3, h4⟩ := h
  have h3' : (now S).toInt = t.toInt := by rw [h3]
  have hmm := List.mem_of_getElem? hk
  have hne : ¬ (m.2.2.2.2.2.1 = -7 ∨ m.2.2.1 = w) := fun hx => by have := h4 m hmm hx; omega
  obtain ⟨-, b, c, -⟩ := NX_arrive (Q := fun _ => True) (S := S) (k := k) (m := m) triv0 trivial trivial (by rw [h1]; exact fun hx => hne (Or.inr hx))
  obtain ⟨e8, l, el, ht, -⟩ := MX_arrive hI hk hb
  rw [outA_ne (fun hx => hne (Or.inl hx))]
  refine ⟨b.trans h1, c.trans h2, (show s_sc (arrive S k m) 8 = t from e8.trans h3), fun q hq hw => ?_⟩
  rw [el, List.mem_append] at hq
  rcases hq with hq | hq
  · exact h4 q (List.mem_of_mem_eraseIdx hq) hw
  · have := ht q hq; omega
theorem TP_arrive {m : MG} {k : Nat} (h : TP w t S) (hI : Inv S) (hk : (s_ms S)[k]? = some m) (hs : m.2.2.1 ≠ w) : TP w t (arrive S k m) := by
  obtain ⟨g, q, hq, q1, q2⟩ := h
  have hqm : q ≠ m := fun hx => hs (by rw [← hx]; exact q1)
  refine ⟨(GQ_arrive g nv0 hk hs).1, q, ?_, q1, q2⟩
  obtain ⟨-, -, -, l, el, -⟩ := NX_arrive (Q := nv) (S := S) (k := k) (m := m) g.1 nv0 (g.2.2 m (List.mem_of_getElem? hk) hs) (by rw [g.2.1]; exact hs)
  rw [el, List.mem_append]
  exact Or.inl (mem_er hk hq hqm)
theorem watch_20 {m : MG} {v : Int32} : s_sc (watch S m v) 20 = s_sc S 20 := sc_usc (by decide)
theorem watch_21 {m : MG} {v : Int32} (hw : m.2.2.1 = s_sc S 20) : s_sc (watch S m v) 21 = v := by
  unfold watch
  rw [if_pos hw]
  exact fu_eq (f := s_sc S) (k := 21) (v := v)
theorem atSto4 {m : MG} (hk : m.1 = 4) (hw : m.2.2.1 = s_sc S 20) : s_sc (atStorage S m) 20 = s_sc S 20 ∧ s_sc (atStorage S m) 21 = if s_sc S 30 ≤ m.2.2.2.1 then 0 else 1 := by
  unfold atStorage
  dsimp only
  by_cases c : s_sc S 30 ≤ m.2.2.2.1
  · rw [if_pos c, if_pos c, if_neg (by omega)]
    obtain ⟨r, hr⟩ : ∃ r, m.2.2.2.2.1.toNatClampNeg = r := ⟨_, rfl⟩
    rw [hr]
    obtain ⟨y, hy⟩ : ∃ y, s_ar S 1 r + 1 = y := ⟨_, rfl⟩
    rw [hy]
    obtain ⟨S3, h3⟩ : ∃ S3, u_ar (u_ar (u_sc S 30 m.2.2.2.1) 0 r m.2.2.2.2.2.1) 1 r y = S3 := ⟨_, rfl⟩
    have e : ∀ j : Nat, j ≠ 30 → s_sc S3 j = s_sc S j := fun j hj => by rw [← h3]; exact sc_usc (S := S) hj
    rw [h3, sc_send (by decide), sc_send (by decide), watch_20, sc_note2, e 20 (by decide)]
    exact ⟨rfl, watch_21 (by rw [sc_note2, e 20 (by decide)]; exact hw)⟩
  · rw [if_neg c, if_neg c]
    unfold fence
    obtain ⟨S3, h3⟩ : ∃ S3, g_mk S 2 13 = S3 := ⟨_, rfl⟩
    have e : s_sc S3 = s_sc S := by rw [← h3]; rfl
    rw [h3, sc_send (by decide), sc_send (by decide), watch_20, sc_note2, e]
    exact ⟨rfl, watch_21 (by rw [sc_note2, e]; exact hw)⟩
theorem arr4 {m : MG} {k : Nat} (hk : m.1 = 4) (hw : m.2.2.1 = s_sc S 20) : s_sc (arrive S k m) 20 = s_sc S 20 ∧ (lostS S m → s_sc (arrive S k m) 21 = 2) ∧ (¬ lostS S m → s_sc (arrive S k m) 21 = if s_sc S 30 ≤ m.2.2.2.1 then 0 else 1) := by
  have tn : ¬ (toNode m.1 = true) := by rw [hk]; decide
  obtain ⟨S1, h1⟩ : ∃ S1, u_ms S ((s_ms S).eraseIdx k) = S1 := ⟨_, rfl⟩
  have e : s_sc S1 = s_sc S := by rw [← h1]; rfl
  unfold arrive
  dsimp only
  rw [h1]
  by_cases hl : lostS S m
  · rw [if_pos (show s_nd S m.2.1 4 ≠ 0 ∨ (toNode m.1 = true ∧ s_nd S m.2.1 2 = 0) from hl), watch_20]
    have e2 : s_sc (u_sc S1 11 (s_sc S 11 + 1)) 20 = s_sc S 20 := by rw [sc_usc (by decide), e]
    exact ⟨e2, fun _ => watch_21 (by rw [e2]; exact hw), fun hx => absurd hl hx⟩
  · rw [if_neg (show ¬ (s_nd S m.2.1 4 ≠ 0 ∨ (toNode m.1 = true ∧ s_nd S m.2.1 2 = 0)) from hl), if_neg (fun hx => tn hx.1)]
    unfold handle
    rw [if_neg (by omega), if_neg (by omega), if_pos (Or.inl hk)]
    have g := atSto4 (S := S1) (m := m) hk (by rw [e]; exact hw)
    rw [e] at g
    exact ⟨g.1, fun hx => absurd hx hl, fun _ => g.2⟩
/-- the tried message arrives -/
theorem TP_done {m : MG} {k : Nat} (h : TP w t S) (hI : Inv S) (hk : (s_ms S)[k]? = some m) (hs : m.2.2.1 = w) (hd : tmJ m ≤ (now S).toInt) (ht : (now S).toInt ≤ t.toInt) (hb : s_gh (arrive S k m) 0 ≤ 1000000) : TDn w t (outA S m o) (arrive S k m) := by
  obtain ⟨g, q, hq, q1, q2, q3, q4⟩ := h
  have hqm : q = m := seq_inj hI.2.2.2.2.2.1 q hq m (List.mem_of_getElem? hk) (by rw [q1, hs])
  subst hqm
  have et : tmJ q = t.toInt := by unfold tmJ; rw [q3]
  have hnow : now S = t := by apply Int32.toInt.inj; omega
  obtain ⟨e8, l, el, htl, -⟩ := MX_arrive hI hk hb
  have hrest : ∀ x ∈ s_ms (arrive S k q), x.2.2.2.2.2.1 = -7 ∨ x.2.2.1 = w → t.toInt < tmJ x := by
    intro x hx hw
    rw [el, List.mem_append] at hx
    rcases hx with hx | hx
    · have hpw : (q :: (s_ms S).eraseIdx k).Pairwise (fun a b => a.2.2.1 ≠ b.2.2.1) := (erase_perm _ k q hk).pairwise hI.2.2.2.2.2.1 (fun hab => Ne.symm hab)
      have hxw : x.2.2.1 ≠ w := by
        rw [← q1]
        exact Ne.symm ((List.pairwise_cons.mp hpw).1 x hx)
      rcases hw with hw | hw
      · exact absurd hw (g.2.2 x (List.mem_of_mem_eraseIdx hx) hxw)
      · exact absurd hw hxw
    · have := htl x hx; omega
  have h20 : s_sc S 20 = w := g.2.1
  have tn : ¬ (toNode q.1 = true) := by rw [q2]; decide
  have eo : outA S q o = outc S q (-7) o := by
    unfold outA
    rw [if_neg (fun hx => tn hx.1), q4]
  have tt : tTok q = q.2.2.2.1 := by unfold tTok; rw [q2]; rfl
  have g := arr4 (S := S) (m := q) (k := k) q2 (by rw [h20, q1])
  refine ⟨g.1.trans h20, ?_, (show s_sc (arrive S k q) 8 = t from e8.trans hnow), hrest⟩
  rw [eo]
  unfold outc
  rw [if_pos rfl, tt]
  by_cases hl : lostS S q
  · rw [if_pos hl, g.2.1 hl]
  · rw [if_neg hl, g.2.2 hl]
    by_cases c : s_sc S 30 ≤ q.2.2.2.1
    · have c' : ¬ q.2.2.2.1 < s_sc S 30 := by rw [i_le] at c; rw [i_lt]; omega
      rw [if_pos c, if_neg c']
    · have c' : q.2.2.2.1 < s_sc S 30 := by rw [i_le] at c; rw [i_lt]; omega
      rw [if_neg c, if_pos c']
theorem TJ_msgs : ∀ (n : Nat) (S : SS) (o : Int32), Inv S → s_gh (msgsNow n S) 0 ≤ 1000000 → (now S).toInt ≤ t.toInt → TP w t S ∨ TDn w t o S → TP w t (msgsNow n S) ∨ TDn w t (outM n S o) (msgsNow n S) := by
  intro n
  induction n with
  | zero => intro S o _ _ _ h; exact h
  | succ n ih =>
    intro S o hI hb ht h
    unfold msgsNow at hb ⊢
    unfold outM
    cases hq : fmsg (s_ms S) with
    | none => exact h
    | some q =>
      rw [hq] at hb
      dsimp only at hb ⊢
      by_cases c : now S < q.2.2.2.2.2.2.2
      · rw [if_pos c, if_pos c]; exact h
      · rw [if_neg c] at hb
        rw [if_neg c, if_neg c]
        have hj : (s_ms S)[q.1]? = some q.2 := fmsg_mem hq
        have hb1 : s_gh (arrive S q.1 q.2) 0 ≤ 1000000 := Nat.le_trans (gle_msgs n).1 hb
        have hd : tmJ q.2 ≤ (now S).toInt := by
          rw [i_lt] at c
          unfold tmJ
          omega
        have e8 := (MX_arrive hI hj hb1).1
        refine ih _ _ (Inv_arrive hI hj hb1) hb (by show (s_sc (arrive S q.1 q.2) 8).toInt ≤ _; rw [e8]; exact ht) ?_
        rcases h with h | h
        · by_cases hw : q.2.2.2.1 = w
          · exact Or.inr (TP_done h hI hj hw hd ht hb1)
          · have := TP_arrive h hI hj hw
            exact Or.inl this
        · exact Or.inr (TDn_arrive h hI hj hd hb1)
theorem TJ_del : ∀ (n k : Nat) (S : SS), Inv S → s_gh (delNow n k S) 0 ≤ 1000000 → TP w t S ∨ TDn w t o S → TP w t (delNow n k S) ∨ TDn w t o (delNow n k S) := by
  intro n
  induction n with
  | zero => intro k S _ _ h; exact h
  | succ n ih =>
    intro k S hI hb h
    unfold delNow at hb ⊢
    cases hd : (s_dl S)[k]? with
    | none => exact h
    | some d =>
      rw [hd] at hb
      dsimp only at hb ⊢
      by_cases c : d.2.2.2.2 ≤ now S
      · rw [if_pos c] at hb ⊢
        have hdd := List.mem_of_getElem? hd
        have hb1 : s_gh (send (u_dl S ((s_dl S).eraseIdx k)) 4 d.1 3 d.2.1 (Int32.ofNat d.2.2.1) d.2.2.2.1) 0 ≤ 1000000 := Nat.le_trans (gle_del n k).1 hb
        have hI1 : Inv (u_dl S ((s_dl S).eraseIdx k)) := ⟨hI.1, hI.2.1, hI.2.2.1, hI.2.2.2.1, hI.2.2.2.2.1, hI.2.2.2.2.2.1, hI.2.2.2.2.2.2.1, fun d hd => hI.2.2.2.2.2.2.2.1 d (List.mem_of_mem_eraseIdx hd), hI.2.2.2.2.2.2.2.2.1, Nat.le_trans (List.length_eraseIdx_le _ _) hI.2.2.2.2.2.2.2.2.2.1, hI.2.2.2.2.2.2.2.2.2.2⟩
        have hdi := hI.2.2.2.2.2.2.2.1 d hdd
        refine ih k _ (Inv_send hI1 hb1 (by decide) hdi.1 (fun _ => ⟨_, hdi.2.1, rfl⟩) (fun hx => by omega) (fun hx => by omega)) hb ?_
        rcases h with h | h
        · have hv : VQ nv (u_dl S ((s_dl S).eraseIdx k)) := ⟨fun d hd => h.1.1.1 d (List.mem_of_mem_eraseIdx hd), h.1.1.2⟩
          exact Or.inl (TP_nx (S := u_dl S ((s_dl S).eraseIdx k)) ⟨⟨hv, h.1.2⟩, h.2⟩ (NX_send hv (h.1.1.1 d hdd)))
        · exact Or.inr (TDn_nx (S := u_dl S ((s_dl S).eraseIdx k)) h hI1 (NX_send triv0 trivial) (MX_send hI1 hdi.1))
      · rw [if_neg c] at hb ⊢
        exact ih (k + 1) S hI hb h
theorem TJ_tims : ∀ (l : List Nat) (S : SS), Inv S → (∀ i ∈ l, i < s_n S) → s_gh (l.foldl timNd S) 0 ≤ 1000000 → TP w t S ∨ TDn w t o S → TP w t (l.foldl timNd S) ∨ TDn w t o (l.foldl timNd S) := by
  intro l
  induction l with
  | nil => intro S _ _ _ h; exact h
  | cons i l ih =>
    intro S hI hl hb h
    rw [List.foldl_cons] at hb ⊢
    have hi := hl i (by simp)
    have hb1 : s_gh (timNd S i) 0 ≤ 1000000 := Nat.le_trans (gle_tims l).1 hb
    have ns : s_n (timNd S i) = s_n S := st_tim.2.1
    refine ih _ (Inv_tim hI hi hb1) (fun j hj => by rw [ns]; exact hl j (by simp [hj])) hb ?_
    rcases h with h | h
    · exact Or.inl (TP_nx h (NX_tim h.1.1 nv0))
    · exact Or.inr (TDn_nx h hI (NX_tim triv0 trivial) (MX_tim hI hi))
theorem TJ_happen (hI : Inv S) (hb : s_gh (happen S) 0 ≤ 1000000) (ht : (now S).toInt ≤ t.toInt) (h : TP w t S) : TP w t (happen S) ∨ TDn w t (outM (s_ms (changeLinks S)).length (changeLinks S) o) (happen S) := by
  have g := links_rest ((s_ou S).length + 1) 0 S (by omega) (fun j o hj => absurd hj (by omega))
  have hI1 : Inv (changeLinks S) := Inv_links _ _ S hI
  have h1 : TP w t (changeLinks S) := ⟨GQ_links h.1, by
    show ∃ m ∈ s_ms (links ((s_ou S).length + 1) 0 S), _
    rw [g.2.2.1]; exact h.2⟩
  have n1 : now (changeLinks S) = now S := by
    show s_sc (links ((s_ou S).length + 1) 0 S) 8 = _
    rw [g.2.1]
  unfold happen at hb ⊢
  dsimp only at hb ⊢
  have hb3 : s_gh (delNow ((s_dl (msgsNow (s_ms (changeLinks S)).length (changeLinks S))).length + 1) 0 (msgsNow (s_ms (changeLinks S)).length (changeLinks S))) 0 ≤ 1000000 := Nat.le_trans (gle_tims _).1 hb
  have hb2 : s_gh (msgsNow (s_ms (changeLinks S)).length (changeLinks S)) 0 ≤ 1000000 := Nat.le_trans (gle_del _ _).1 hb3
  have hI2 := Inv_msgs _ _ hI1 hb2
  have j2 := TJ_msgs (w := w) (t := t) (s_ms (changeLinks S)).length (changeLinks S) o hI1 hb2 (by rw [n1]; exact ht) (Or.inl h1)
  have j3 := TJ_del _ _ _ hI2 hb3 j2
  refine TJ_tims _ _ (Inv_del _ _ _ hI2 hb3) ?_ hb j3
  intro i hi
  rw [List.mem_range] at hi
  exact hi
/-- the twin's outcome is the watched message's -/
theorem out_goOn (ht2 : t.toInt ≤ 5000000) : ∀ (n : Nat) (S : SS) (o : Int32), TP w t S → Inv S → Rest S → (now S).toInt < t.toInt → t.toInt - (now S).toInt ≤ n → s_gh (goOn n S t) 0 ≤ 1000000 → outG n S t o = s_sc (goOn n S t) 21 := by
  intro n
  induction n with
  | zero => intro S o _ _ _ h1 h2 _; omega
  | succ n ih =>
    intro S o hT hI hR h1 h2 hb
    have hnow : ¬ t ≤ now S := by rw [i_le]; omega
    have gx := next_gt2 hI hR
    have hne : ¬ t < nextEvent S := by
      rw [i_lt]
      obtain ⟨-, m, hm, -, -, m3, -⟩ := hT
      have := (MO_nextEvent (S := S)).1 t.toInt (Or.inl (Or.inl (Or.inl (Or.inr ⟨m, hm, by unfold tmJ; rw [m3]⟩))))
      omega
    have hne' := hne
    rw [i_lt] at hne'
    rw [goOn_step hnow] at hb ⊢
    conv => lhs; unfold outG
    rw [if_neg hne]
    have es := step_next hne
    rw [es] at hb ⊢
    have hb1 : s_gh (step S (nextEvent S)) 0 ≤ 1000000 := Nat.le_trans (gle_goOn n).1 hb
    have ok := step_ok (t := nextEvent S) hI hR gx (by omega) hb1
    have hn1 := now_next hI hR (by omega) hb1
    have hI1 := Inv_pass (t := nextEvent S) hI hR (by omega) (by omega) (MO_nextEvent (S := S)).1
    have hT1 : TP w t (pass S (nextEvent S)) := ⟨GQ_pass hT.1, by
      show ∃ m ∈ (pass S (nextEvent S)).2.2.2.1.1, _
      rw [pass_l]; exact hT.2⟩
    have j := TJ_happen (o := o) hI1 (by rw [← step_hap]; exact hb1) (by rw [pass_now]; omega) hT1
    rw [← step_hap] at j
    rcases j with j | j
    · refine ih _ _ j ok.1 ok.2.1 ?_ (by rw [hn1]; omega) hb
      obtain ⟨-, m, hm, -, -, m3, -⟩ := j
      have := ok.2.1.1 m hm
      rw [m3] at this
      exact this
    · obtain ⟨-, j2, j3, -⟩ := j
      rw [goOn_stop (by rw [j3, i_le]; omega), j2]
      cases n with
      | zero => rfl
      | succ n =>
        unfold outG
        have g2 := next_gt2 ok.1 ok.2.1
        rw [j3] at g2
        rw [if_pos (by rw [i_lt]; exact g2)]
end TTW
