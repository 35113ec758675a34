/-! VALUES: what becomes of a message that is tried -/
set_option maxRecDepth 100000
def VQ (Q : Int32 → Prop) (S : SS) : Prop := (∀ d ∈ s_dl S, Q d.2.2.2.1) ∧ ∀ r : Nat, Q (s_ar S 0 r)
/-- what is watched and its outcome stay; a new message is of good value -/
def NX (Q : Int32 → Prop) (S S' : SS) : Prop := VQ Q S' ∧ s_sc S' 20 = s_sc S 20 ∧ s_sc S' 21 = s_sc S 21 ∧ ∃ l : List MG, s_ms S' = s_ms S ++ l ∧ ∀ q ∈ l, Q q.2.2.2.2.2.1 ∧ q.2.2.1 = s_sc S 10 + 1
section VQS
variable {Q : Int32 → Prop} {S S1 S' : SS}
theorem NX.rf (hv : VQ Q S') (h20 : s_sc S' 20 = s_sc S 20) (h21 : s_sc S' 21 = s_sc S 21) (hm : s_ms S' = s_ms S) : NX Q S S' := ⟨hv, h20, h21, [], by rw [hm, List.append_nil], fun q hq => absurd hq (by simp)⟩
theorem NX.pre (h : NX Q S1 S') (hm : s_ms S1 = s_ms S) (h10 : s_sc S1 10 = s_sc S 10) (h20 : s_sc S1 20 = s_sc S 20) (h21 : s_sc S1 21 = s_sc S 21) : NX Q S S' := by
  obtain ⟨a, b, c, l, d, e⟩ := h
  exact ⟨a, b.trans h20, c.trans h21, l, by rw [d, hm], fun q hq => by rw [← h10]; exact e q hq⟩
theorem ar0_note {k : Nat} {n t : Int32} : s_ar (note S k n t) 0 = s_ar S 0 := by
  have g : ∀ (X : SS) (v : Int32), s_ar (u_ar X 2 k v) 0 = s_ar X 0 := fun X v => fu_ne (f := s_ar X) (j := 2) (k := 0) (v := fu (s_ar X 2) k v) (by decide)
  unfold note
  dsimp only
  rw [g]
  split <;> rfl
theorem ar_send {k n l : Nat} {a b c : Int32} : s_ar (send S k n l a b c) = s_ar S := by
  unfold send
  dsimp only
  split <;> rfl
theorem VQ_note {k : Nat} {n t : Int32} (hv : VQ Q S) : VQ Q (note S k n t) := ⟨by rw [ls_note.2]; exact hv.1, by rw [ar0_note]; exact hv.2⟩
theorem VQ_send {k n l : Nat} {a b c : Int32} (hv : VQ Q S) : VQ Q (send S k n l a b c) := ⟨by rw [LK_send.2.1]; exact hv.1, by rw [ar_send]; exact hv.2⟩
theorem NX_send {k n l : Nat} {a b c : Int32} (hv : VQ Q S) (hc : Q c) : NX Q S (send S k n l a b c) := by
  refine ⟨VQ_send hv, sc_send (by decide), sc_send (by decide), ?_⟩
  unfold send
  dsimp only
  split
  · exact ⟨[(k, n, s_sc S 10 + 1, a, b, c, now S + s_nd S n 1 + jit (lcg (s_sc S 9)) (s_cf S 7))], rfl, fun q hq => by
      rw [List.mem_singleton] at hq
      rw [hq]
      exact ⟨hc, rfl⟩⟩
  · exact ⟨[], (List.append_nil _).symm, fun q hq => absurd hq (by simp)⟩
theorem NX.sc {k : Nat} {v : Int32} (hk : k ≠ 10 ∧ k ≠ 20 ∧ k ≠ 21) (h : NX Q (u_sc S k v) S') : NX Q S S' := h.pre rfl (fu_ne (Ne.symm hk.1)) (fu_ne (Ne.symm hk.2.1)) (fu_ne (Ne.symm hk.2.2))
theorem NX.nt {k : Nat} {n t : Int32} (h : NX Q (note S k n t) S') : NX Q S S' := h.pre ms_note2 (by rw [sc_note2]) (by rw [sc_note2]) (by rw [sc_note2])
theorem VQ.sc {k : Nat} {v : Int32} (hv : VQ Q S) : VQ Q (u_sc S k v) := hv
theorem NX_decide {m : MG} (hv : VQ Q S) (h0 : Q 0) : NX Q S (decide_ S m) := by
  unfold decide_
  dsimp only
  split
  · exact NX.nt (NX_send (VQ_note hv) h0)
  · split
    · exact NX.sc (by decide) (NX.sc (by decide) (NX.nt (NX_send (VQ_note hv.sc.sc) h0)))
    · exact NX.sc (by decide) (NX.sc (by decide) (NX.sc (by decide) (NX.nt (NX_send (VQ_note hv.sc.sc.sc) h0))))
theorem NX.sc2 {k : Nat} {v : Int32} (hk : k ≠ 10 ∧ k ≠ 20 ∧ k ≠ 21) (h : NX Q S S') : NX Q S (u_sc S' k v) := by
  obtain ⟨a, b, c, d⟩ := h
  exact ⟨a, (fu_ne (Ne.symm hk.2.1)).trans b, (fu_ne (Ne.symm hk.2.2)).trans c, d⟩
theorem NX_note {k : Nat} {n t : Int32} (hv : VQ Q S) : NX Q S (note S k n t) := NX.rf (VQ_note hv) (by rw [sc_note2]) (by rw [sc_note2]) ms_note2
theorem NX_id (hv : VQ Q S) : NX Q S S := NX.rf hv rfl rfl rfl
theorem NX_release {m : MG} (hv : VQ Q S) : NX Q S (release S m) := by
  unfold release
  split
  · split
    · exact NX.sc2 (by decide) (NX_id hv)
    · exact NX.sc2 (by decide) (NX_note hv)
  · exact NX_id hv
theorem watch_ne {m : MG} {v : Int32} (hs : m.2.2.1 ≠ s_sc S 20) : watch S m v = S := by
  unfold watch
  rw [if_neg hs]
  exact usc_self rfl
theorem NX_fence {m : MG} (hv : VQ Q S) (h0 : Q 0) (hs : m.2.2.1 ≠ s_sc S 20) : NX Q S (fence S m) := by
  unfold fence
  have hv1 : VQ Q (g_mk S 2 13) := hv
  rw [watch_ne (by rw [sc_note2]; exact hs)]
  exact (NX_send (VQ_note hv1) h0).pre ms_note2 (by rw [sc_note2]; rfl) (by rw [sc_note2]; rfl) (by rw [sc_note2]; rfl)
theorem NX_atStorage {m : MG} (hv : VQ Q S) (h0 : Q 0) (hm : Q m.2.2.2.2.2.1) (hs : m.2.2.1 ≠ s_sc S 20) : NX Q S (atStorage S m) := by
  unfold atStorage
  dsimp only
  split
  · obtain ⟨r, hr⟩ : ∃ r, m.2.2.2.2.1.toNatClampNeg = r := ⟨_, rfl⟩
    rw [hr]
    split
    · exact NX.sc (k := 30) (by decide) (NX_send (S := u_sc S 30 m.2.2.2.1) hv (hv.2 _))
    · obtain ⟨y, hy⟩ : ∃ y, s_ar S 1 r + 1 = y := ⟨_, rfl⟩
      rw [hy]
      obtain ⟨S3, h3⟩ : ∃ S3, u_ar (u_ar (u_sc S 30 m.2.2.2.1) 0 r m.2.2.2.2.2.1) 1 r y = S3 := ⟨_, rfl⟩
      have e : ∀ j : Nat, j ≠ 30 → s_sc S3 j = s_sc S j := fun j hj => by rw [← h3]; exact fu_ne hj
      have em : s_ms S3 = s_ms S := by rw [← h3]; rfl
      have hv1 : VQ Q S3 := by
        rw [← h3]
        refine ⟨hv.1, fun x => ?_⟩
        show Q (fu (s_ar S 0) r m.2.2.2.2.2.1 x)
        unfold fu
        split
        · exact hm
        · exact hv.2 x
      rw [h3, watch_ne (by rw [sc_note2, e 20 (by decide)]; exact hs)]
      exact (NX.nt (NX_send (VQ_note hv1) hm)).pre em (e 10 (by decide)) (e 20 (by decide)) (e 21 (by decide))
  · exact NX_fence hv h0 hs
theorem NX_atNode {m : MG} (hv : VQ Q S) (h0 : Q 0) : NX Q S (atNode S m) := by
  unfold atNode
  dsimp only
  split
  · unfold granted
    dsimp only
    split
    · exact NX_send hv h0
    · split
      · exact NX.rf hv rfl rfl rfl
      · split
        · exact NX.rf hv rfl rfl rfl
        · exact NX.rf hv rfl rfl rfl
  · split
    · split
      · exact NX.rf hv rfl rfl rfl
      · exact NX.rf hv rfl rfl rfl
    · split
      · split
        · exact NX.rf hv rfl rfl rfl
        · exact NX.rf hv rfl rfl rfl
      · split
        · exact NX.rf hv rfl rfl rfl
        · exact NX.rf hv rfl rfl rfl
theorem NX_handle {m : MG} (hv : VQ Q S) (h0 : Q 0) (hm : Q m.2.2.2.2.2.1) (hs : m.2.2.1 ≠ s_sc S 20) : NX Q S (handle S m) := by
  unfold handle
  split
  · exact NX_decide hv h0
  · split
    · exact NX_release hv
    · split
      · exact NX_atStorage hv h0 hm hs
      · exact NX_atNode hv h0
theorem NX_arrive {m : MG} {k : Nat} (hv : VQ Q S) (h0 : Q 0) (hm : Q m.2.2.2.2.2.1) (hs : m.2.2.1 ≠ s_sc S 20) : VQ Q (arrive S k m) ∧ s_sc (arrive S k m) 20 = s_sc S 20 ∧ s_sc (arrive S k m) 21 = s_sc S 21 ∧ ∃ l : List MG, s_ms (arrive S k m) = (s_ms S).eraseIdx k ++ l ∧ ∀ q ∈ l, Q q.2.2.2.2.2.1 ∧ (q.2.2.1 = s_sc S 10 + 1 ∨ q.2.2.1 = m.2.2.1) := by
  unfold arrive
  dsimp only
  split
  · have e20 : s_sc (u_sc (u_ms S ((s_ms S).eraseIdx k)) 11 (s_sc S 11 + 1)) 20 = s_sc S 20 := sc_usc (by decide)
    rw [watch_ne (by rw [e20]; exact hs)]
    exact ⟨hv, e20, sc_usc (by decide), [], (List.append_nil _).symm, fun q hq => absurd hq (by simp)⟩
  · split
    · refine ⟨hv, rfl, rfl, _, rfl, fun q hq => ?_⟩
      rw [List.mem_singleton] at hq
      rw [hq]
      exact ⟨hm, Or.inr rfl⟩
    · obtain ⟨a, b, c, l, d, e⟩ := NX_handle (S := u_ms S ((s_ms S).eraseIdx k)) (m := m) hv h0 hm hs
      exact ⟨a, b, c, l, d, fun q hq => ⟨(e q hq).1, Or.inl (e q hq).2⟩⟩
/-- all values are good, but that of the watched message w -/
def GQ (Q : Int32 → Prop) (w : Int32) (S : SS) : Prop := VQ Q S ∧ s_sc S 20 = w ∧ ∀ m ∈ s_ms S, m.2.2.1 ≠ w → Q m.2.2.2.2.2.1
theorem GQ_arrive {w : Int32} {m : MG} {k : Nat} (h : GQ Q w S) (h0 : Q 0) (hk : (s_ms S)[k]? = some m) (hs : m.2.2.1 ≠ w) : GQ Q w (arrive S k m) ∧ s_sc (arrive S k m) 21 = s_sc S 21 := by
  obtain ⟨a, b, c, l, d, e⟩ := NX_arrive (k := k) h.1 h0 (h.2.2 m (List.mem_of_getElem? hk) hs) (by rw [h.2.1]; exact hs)
  refine ⟨⟨a, b.trans h.2.1, fun q hq hw => ?_⟩, c⟩
  rw [d, List.mem_append] at hq
  rcases hq with hq | hq
  · exact h.2.2 q (List.mem_of_mem_eraseIdx hq) hw
  · exact (e q hq).1
theorem GQ_nx {w : Int32} (h : GQ Q w S) (hn : NX Q S S') : GQ Q w S' := by
  obtain ⟨a, b, c, l, d, e⟩ := hn
  refine ⟨a, b.trans h.2.1, fun q hq hw => ?_⟩
  rw [d, List.mem_append] at hq
  rcases hq with hq | hq
  · exact h.2.2 q hq hw
  · exact (e q hq).1
theorem ar_links : ∀ (n k : Nat) (S : SS), s_ar (links n k S) = s_ar S := by
  intro n
  induction n with
  | zero => intro k S; rfl
  | succ n ih =>
    intro k S
    unfold links
    split
    · rfl
    · dsimp only
      split
      · split
        · rw [ih]; rfl
        · rw [ih]; rfl
      · split
        · rw [ih]; rfl
        · rw [ih]
theorem GQ_links {w : Int32} (h : GQ Q w S) : GQ Q w (changeLinks S) := by
  have g := links_rest ((s_ou S).length + 1) 0 S (by omega) (fun j o hj => absurd hj (by omega))
  unfold changeLinks
  refine ⟨⟨by rw [g.2.2.2.1]; exact h.1.1, by rw [ar_links]; exact h.1.2⟩, by rw [g.2.1]; exact h.2.1, by rw [g.2.2.1]; exact h.2.2⟩
theorem ar_pass {t : Int32} : s_ar (pass S t) = s_ar S := by
  have : ∀ (l : List Nat) (q : SS × Int32 × Int32), s_ar (l.foldl (passNd t) q).1 = s_ar q.1 := by
    intro l
    induction l with
    | nil => intro q; rfl
    | cons i l ih =>
      intro q
      rw [List.foldl_cons, ih]
      unfold passNd
      dsimp only
      split <;> rfl
  exact this (List.range (s_n S)) (S, now S, now S)
theorem GQ_pass {w t : Int32} (h : GQ Q w S) : GQ Q w (pass S t) := by
  have e : (pass S t).2.2.2.1 = S.2.2.2.1 := pass_l
  refine ⟨⟨?_, by rw [ar_pass]; exact h.1.2⟩, by rw [pass_s (by decide)]; exact h.2.1, ?_⟩
  · show ∀ d ∈ (pass S t).2.2.2.1.2.1, _
    rw [e]; exact h.1.1
  · show ∀ m ∈ (pass S t).2.2.2.1.1, _
    rw [e]; exact h.2.2
theorem NX_acquire {i : Nat} (hv : VQ Q S) (h0 : Q 0) : NX Q S (acquire S i) := by
  unfold acquire
  dsimp only
  exact (NX_send (S := u_nd (setTimer S i (ndAt S i (now S) + s_cf S 6)) i 11 (s_nd (setTimer S i (ndAt S i (now S) + s_cf S 6)) i 11 + 1)) hv h0).pre rfl rfl rfl rfl
theorem NX_tim {i : Nat} (hv : VQ Q S) (h0 : Q 0) : NX Q S (timNd S i) := by
  unfold timNd
  split
  · split
    · exact NX.rf hv rfl rfl rfl
    · exact NX_acquire hv h0
  · exact NX.rf hv rfl rfl rfl
theorem GQ_tims {w : Int32} (h0 : Q 0) : ∀ (l : List Nat) (S : SS), GQ Q w S → GQ Q w (l.foldl timNd S) := by
  intro l
  induction l with
  | nil => intro S h; exact h
  | cons i l ih =>
    intro S h
    exact ih _ (GQ_nx h (NX_tim h.1 h0))
theorem GQ_del {w : Int32} : ∀ (n k : Nat) (S : SS), GQ Q w S → GQ Q w (delNow n k S) := by
  intro n
  induction n with
  | zero => intro k S h; exact h
  | succ n ih =>
    intro k S h
    unfold delNow
    cases hd : (s_dl S)[k]? with
    | none => exact h
    | some d =>
      dsimp only
      have hq := h.1.1 d (List.mem_of_getElem? hd)
      split
      · have hv : VQ Q (u_dl S ((s_dl S).eraseIdx k)) := ⟨fun d hd => h.1.1 d (List.mem_of_mem_eraseIdx hd), h.1.2⟩
        exact ih k _ (GQ_nx (S := u_dl S ((s_dl S).eraseIdx k)) ⟨hv, h.2⟩ (NX_send hv hq))
      · exact ih (k + 1) S h
/-- nobody is watched: all values are good -/
theorem GQ_msgs0 (h0 : Q 0) : ∀ (n : Nat) (S : SS), Inv S → s_gh (msgsNow n S) 0 ≤ 1000000 → GQ Q 0 S → GQ Q 0 (msgsNow n S) := by
  intro n
  induction n with
  | zero => intro S _ _ h; exact h
  | succ n ih =>
    intro S hI hb h
    unfold msgsNow at hb ⊢
    cases hq : fmsg (s_ms S) with
    | none => exact h
    | some q =>
      rw [hq] at hb
      dsimp only at hb ⊢
      by_cases c : now S < q.2.2.2.2.2.2.2
      · rw [if_pos c]; exact h
      · rw [if_neg c] at hb ⊢
        have hj : (s_ms S)[q.1]? = some q.2 := fmsg_mem hq
        have hb1 : s_gh (arrive S q.1 q.2) 0 ≤ 1000000 := Nat.le_trans (gle_msgs n).1 hb
        refine ih _ (Inv_arrive hI hj hb1) hb (GQ_arrive h h0 hj ?_).1
        intro hx
        have := (hI.2.2.2.2.1 q.2 (List.mem_of_getElem? hj)).2.2.2.1.1
        rw [hx] at this
        exact absurd this (by decide)
theorem GQ_happen0 (h0 : Q 0) (hI : Inv S) (hb : s_gh (happen S) 0 ≤ 1000000) (h : GQ Q 0 S) : GQ Q 0 (happen S) := by
  unfold happen at hb ⊢
  dsimp only at hb ⊢
  refine GQ_tims h0 _ _ (GQ_del _ _ _ (GQ_msgs0 h0 _ _ (Inv_links _ _ S hI) ?_ (GQ_links h)))
  exact Nat.le_trans (Nat.le_trans (gle_del _ _).1 (gle_tims _).1) hb
theorem GQ_goOn0 (h0 : Q 0) : ∀ (n : Nat) (S : SS) (t : Int32), Inv S → Rest S → t.toInt ≤ 5000000 → s_gh (goOn n S t) 0 ≤ 1000000 → GQ Q 0 S → GQ Q 0 (goOn n S t) := by
  intro n
  induction n with
  | zero => intro S t _ _ _ _ h; exact h
  | succ n ih =>
    intro S t hI hR ht hb h
    by_cases c : t ≤ now S
    · rw [goOn_stop c]; exact h
    · rw [goOn_step c] at hb ⊢
      have hb1 : s_gh (step S t) 0 ≤ 1000000 := Nat.le_trans (gle_goOn n).1 hb
      rw [i_le] at c
      have ok := step_ok (t := t) hI hR (by omega) ht hb1
      refine ih _ t ok.1 ok.2.1 ht hb ?_
      by_cases c2 : t < nextEvent S
      · rw [step_pass c2]; exact GQ_pass h
      · have gx := next_gt2 hI hR
        rw [step_next c2, step_hap] at hb1 ⊢
        rw [i_lt] at c2
        exact GQ_happen0 h0 (Inv_pass hI hR (by omega) (by omega) (MO_nextEvent (S := S)).1) hb1 (GQ_pass h)
end VQS
