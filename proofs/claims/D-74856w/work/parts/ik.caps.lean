/-! SLOTS: the lists' room along a run -/
set_option maxRecDepth 100000
def CAP (S : SS) : Prop := s_gh S 2 ≤ 9100 ∧ s_gh S 3 ≤ 40 ∧ s_gh S 4 ≤ 40 ∧ s_gh S 5 ≤ 400 ∧ (s_lg S).length ≤ 200
def LCP (c : Nat) (S S' : SS) : Prop := (s_ms S').length ≤ (s_ms S).length + c ∧ (s_dl S').length ≤ (s_dl S).length ∧ s_n S' = s_n S ∧ ((s_ms S).length + c ≤ 6061 → CAP S → CAP S')
section CAS
variable {S S' S'' : SS} {c d : Nat}
theorem LCP.rf : LCP 0 S S := ⟨Nat.le_refl _, Nat.le_refl _, rfl, fun _ h => h⟩
theorem LCP.tr (a : LCP c S S') (b : LCP d S' S'') : LCP (c + d) S S'' := ⟨by have := a.1; have := b.1; omega, Nat.le_trans b.2.1 a.2.1, b.2.2.1.trans a.2.2.1, fun h k => b.2.2.2 (by have := a.1; omega) (a.2.2.2 (by omega) k)⟩
theorem LCP.mono (a : LCP c S S') (h : c ≤ d) : LCP d S S' := ⟨by have := a.1; omega, a.2.1, a.2.2.1, fun h k => a.2.2.2 (by omega) k⟩
theorem LCP.of (h1 : s_ms S' = s_ms S) (h2 : s_dl S' = s_dl S) (h3 : s_n S' = s_n S) (h4 : s_gh S' = s_gh S) (h5 : s_lg S' = s_lg S) : LCP 0 S S' := by
  refine ⟨by rw [h1]; exact Nat.le_refl _, by rw [h2]; exact Nat.le_refl _, h3, fun _ h => ?_⟩
  unfold CAP
  rw [h4, h5]
  exact h
theorem gh_mkj {a k j : Nat} (hj : 2 ≤ j) : s_gh (g_mk S a k) j = s_gh S j := by
  show fu (fu (s_gh S) 0 (s_gh S 0 + a)) 1 (s_gh S 1 + k) j = _
  rw [fu_ne (by omega), fu_ne (by omega)]
theorem gh_addj {li sz j : Nat} (hj : 2 ≤ j) : s_gh (g_add S li sz) j = if j = li ∧ sz = s_gh S li then s_gh S li + max 1 (s_gh S li / 2) else s_gh S j := by
  show gg (s_gh S) li sz j = _
  unfold gg
  by_cases e : sz = s_gh S li
  · rw [if_pos e, fu_ne (by omega), fu_ne (by omega)]
    by_cases f : j = li
    · rw [if_pos ⟨f, e⟩, f, fu_eq]
    · rw [if_neg (fun x => f x.1), fu_ne f]
  · rw [if_neg e, if_neg (fun x => e x.2)]
theorem LCP_mk {a k : Nat} : LCP 0 S (g_mk S a k) := by
  refine ⟨Nat.le_refl _, Nat.le_refl _, rfl, fun _ h => ?_⟩
  unfold CAP
  rw [gh_mkj (by omega), gh_mkj (by omega), gh_mkj (by omega), gh_mkj (by omega)]
  exact h
theorem LCP_add2 {sz : Nat} (h : sz ≤ 6060) : LCP 0 S (g_add S 2 sz) := by
  refine ⟨Nat.le_refl _, Nat.le_refl _, rfl, fun _ k => ?_⟩
  obtain ⟨k2, k3, k4, k5, k6⟩ := k
  have e : ∀ j : Nat, 3 ≤ j → s_gh (g_add S 2 sz) j = s_gh S j := fun j hj => by rw [gh_addj (by omega), if_neg (by omega)]
  refine ⟨?_, by rw [e 3 (by omega)]; exact k3, by rw [e 4 (by omega)]; exact k4, by rw [e 5 (by omega)]; exact k5, k6⟩
  rw [gh_addj (by omega)]
  split <;> omega
theorem LCP_sc {k : Nat} {v : Int32} : LCP 0 S (u_sc S k v) := LCP.of rfl rfl rfl rfl rfl
theorem LCP_ar {j k : Nat} {v : Int32} : LCP 0 S (u_ar S j k v) := LCP.of rfl rfl rfl rfl rfl
theorem LCP_watch {m : MG} {i : Int32} : LCP 0 S (watch S m i) := LCP.of rfl rfl rfl rfl rfl
theorem LCP_nd {j k : Nat} {v : Int32} : LCP 0 S (u_nd S j k v) := LCP.of rfl rfl rfl rfl rfl
theorem LCP_tm {i : Nat} {v : Int32} : LCP 0 S (setTimer S i v) := LCP_nd
theorem LCP_lose {i : Nat} : LCP 0 S (lose S i) := LCP.of rfl rfl rfl rfl rfl
theorem LCP_note {k : Nat} {n t : Int32} : LCP 0 S (note S k n t) := by
  have key : ∀ X : SS, (s_lg X).length ≤ 199 → CAP X → CAP (u_lg (g_add (g_mk X 1 4) 5 (s_lg X).length) (s_lg X ++ [(now X, Int32.ofNat k, n, t)])) := fun X hx h => by
    obtain ⟨k2, k3, k4, k5, k6⟩ := h
    have e : ∀ j : Nat, s_gh (u_lg (g_add (g_mk X 1 4) 5 (s_lg X).length) (s_lg X ++ [(now X, Int32.ofNat k, n, t)])) j = s_gh (g_add (g_mk X 1 4) 5 (s_lg X).length) j := fun _ => rfl
    refine ⟨?_, ?_, ?_, ?_, ?_⟩
    · rw [e, gh_addj (by omega), if_neg (by omega), gh_mkj (by omega)]; exact k2
    · rw [e, gh_addj (by omega), if_neg (by omega), gh_mkj (by omega)]; exact k3
    · rw [e, gh_addj (by omega), if_neg (by omega), gh_mkj (by omega)]; exact k4
    · rw [e, gh_addj (by omega), gh_mkj (by omega)]
      split <;> omega
    · show (s_lg X ++ [_]).length ≤ 200
      rw [List.length_append, List.length_singleton]
      omega
  unfold note
  dsimp only
  split
  · rename_i hl
    refine ⟨Nat.le_refl _, Nat.le_refl _, rfl, fun _ h => ?_⟩
    have := key (u_lg S (s_lg S).tail) (by show (s_lg S).tail.length ≤ 199; rw [List.length_tail]; omega) ⟨h.1, h.2.1, h.2.2.1, h.2.2.2.1, by show (s_lg S).tail.length ≤ 200; rw [List.length_tail]; omega⟩
    exact this
  · rename_i hl
    refine ⟨Nat.le_refl _, Nat.le_refl _, rfl, fun _ h => ?_⟩
    exact key S (by have := h.2.2.2.2; omega) h
theorem LCP_send {kind node len : Nat} {a b c : Int32} : LCP 1 S (send S kind node len a b c) := by
  unfold send
  dsimp only
  split
  · refine ⟨?_, Nat.le_refl _, rfl, fun hl h => ?_⟩
    · show (s_ms S ++ [_]).length ≤ _
      rw [List.length_append, List.length_singleton]
      exact Nat.le_refl _
    · have h1 := (LCP_mk (S := S) (a := 1) (k := len)).2.2.2 (by omega) h
      have h2 := (LCP_mk (S := u_sc (u_sc (g_mk S 1 len) 9 (lcg (s_sc S 9))) 10 (s_sc S 10 + 1)) (a := 2) (k := 10)).2.2.2 (by show (s_ms S).length + 0 ≤ _; omega) h1
      exact (LCP_add2 (S := g_mk (u_sc (u_sc (g_mk S 1 len) 9 (lcg (s_sc S 9))) 10 (s_sc S 10 + 1)) 2 10) (sz := (s_ms S).length) (by omega)).2.2.2 (by show (s_ms S).length + 0 ≤ _; omega) h2
  · exact (LCP_mk (S := S) (a := 1) (k := len)).mono (by omega)
theorem LCP_acquire {i : Nat} : LCP 1 S (acquire S i) := by
  unfold acquire
  dsimp only
  exact LCP_send (S := u_nd (setTimer S i (ndAt S i (now S) + s_cf S 6)) i 11 (s_nd (setTimer S i (ndAt S i (now S) + s_cf S 6)) i 11 + 1))
theorem LCP_decide {m : MG} : LCP 1 S (decide_ S m) := by
  unfold decide_
  dsimp only
  split
  · exact (LCP_note.tr LCP_send).mono (by omega)
  · split
    · exact (((LCP_sc.tr LCP_sc).tr LCP_note).tr LCP_send).mono (by omega)
    · exact ((((LCP_sc.tr LCP_sc).tr LCP_sc).tr LCP_note).tr LCP_send).mono (by omega)
theorem LCP_granted {m : MG} : LCP 1 S (granted S m) := by
  unfold granted
  dsimp only
  split
  · exact LCP_send
  · split
    · exact LCP.rf.mono (by omega)
    · split
      · exact ((((LCP_nd.tr LCP_nd).tr LCP_nd).tr LCP_nd).tr LCP_tm).mono (by omega)
      · exact (LCP_nd.tr LCP_tm).mono (by omega)
theorem LCP_atNode {m : MG} : LCP 1 S (atNode S m) := by
  unfold atNode
  dsimp only
  split
  · exact LCP_granted
  · split
    · split
      · exact LCP.rf.mono (by omega)
      · exact LCP_tm.mono (by omega)
    · split
      · split
        · exact LCP_lose.mono (by omega)
        · exact LCP.rf.mono (by omega)
      · split
        · exact (LCP_nd.tr LCP_nd).mono (by omega)
        · exact LCP.rf.mono (by omega)
theorem LCP_release {m : MG} : LCP 1 S (release S m) := by
  unfold release
  split
  · split
    · exact LCP_sc.mono (by omega)
    · exact (LCP_note.tr LCP_sc).mono (by omega)
  · exact LCP.rf.mono (by omega)
theorem LCP_atStorage {m : MG} : LCP 1 S (atStorage S m) := by
  unfold atStorage
  split
  · dsimp only
    split
    · exact (LCP_sc.tr LCP_send).mono (by omega)
    · exact (((((LCP_sc.tr LCP_ar).tr LCP_ar).tr LCP_note).tr LCP_watch).tr LCP_send).mono (by omega)
  · unfold fence
    exact (((LCP_mk.tr LCP_note).tr LCP_watch).tr LCP_send).mono (by omega)
theorem LCP_handle {m : MG} : LCP 1 S (handle S m) := by
  unfold handle
  split
  · exact LCP_decide
  · split
    · exact LCP_release
    · split
      · exact LCP_atStorage
      · exact LCP_atNode
theorem LCP_arrive {m : MG} {k : Nat} (hk : (s_ms S)[k]? = some m) : LCP 0 S (arrive S k m) := by
  obtain ⟨hl, -⟩ := List.getElem?_eq_some_iff.mp hk
  have e : (s_ms (u_ms S ((s_ms S).eraseIdx k))).length + 1 = (s_ms S).length := by
    show ((s_ms S).eraseIdx k).length + 1 = _
    rw [List.length_eraseIdx, if_pos hl]
    omega
  have lift : ∀ X : SS, LCP 1 (u_ms S ((s_ms S).eraseIdx k)) X → LCP 0 S X := fun X h => ⟨by have := h.1; omega, h.2.1, h.2.2.1, fun a b => h.2.2.2 (by omega) b⟩
  unfold arrive
  dsimp only
  split
  · exact lift _ ((LCP_sc.tr LCP_watch).mono (by omega))
  · split
    · apply lift
      refine ⟨?_, Nat.le_refl _, rfl, fun a b => ?_⟩
      · show ((s_ms S).eraseIdx k ++ [_]).length ≤ ((s_ms S).eraseIdx k).length + 1
        rw [List.length_append, List.length_singleton]
        exact Nat.le_refl _
      · have h1 := (LCP_mk (S := u_ms S ((s_ms S).eraseIdx k)) (a := 1) (k := 7)).2.2.2 (by omega) b
        exact (LCP_add2 (S := g_mk (u_ms S ((s_ms S).eraseIdx k)) 1 7) (sz := (s_ms (u_ms S ((s_ms S).eraseIdx k))).length) (by omega)).2.2.2 (by show (s_ms (u_ms S ((s_ms S).eraseIdx k))).length + 0 ≤ _; omega) h1
    · exact lift _ (LCP_handle (S := u_ms S ((s_ms S).eraseIdx k)))
theorem LCP_msgs : ∀ (n : Nat) {S : SS}, LCP 0 S (msgsNow n S)
  | 0, _ => LCP.rf
  | n + 1, S => by
    unfold msgsNow
    split
    · exact LCP.rf
    · next q hq =>
      split
      · exact LCP.rf
      · exact ((LCP_arrive (fmsg_mem hq)).tr (LCP_msgs n)).mono (by omega)
theorem LCP_del : ∀ (n k : Nat) {S : SS}, LCP (s_dl S).length S (delNow n k S)
  | 0, _, _ => LCP.rf.mono (by omega)
  | n + 1, k, S => by
    unfold delNow
    split
    · exact LCP.rf.mono (by omega)
    · next d hd =>
      split
      · obtain ⟨hl, -⟩ := List.getElem?_eq_some_iff.mp hd
        have e : (s_dl (u_dl S ((s_dl S).eraseIdx k))).length + 1 = (s_dl S).length := by
          show ((s_dl S).eraseIdx k).length + 1 = _
          rw [List.length_eraseIdx, if_pos hl]
          omega
        have a := LCP_send (S := u_dl S ((s_dl S).eraseIdx k)) (kind := 4) (node := d.1) (len := 3) (a := d.2.1) (b := Int32.ofNat d.2.2.1) (c := d.2.2.2.1)
        obtain ⟨X, hX⟩ : ∃ X, send (u_dl S ((s_dl S).eraseIdx k)) 4 d.1 3 d.2.1 (Int32.ofNat d.2.2.1) d.2.2.2.1 = X := ⟨_, rfl⟩
        rw [hX] at a ⊢
        have b := LCP_del n k (S := X)
        have hm : (s_ms (u_dl S ((s_dl S).eraseIdx k))).length = (s_ms S).length := rfl
        refine ⟨?_, ?_, b.2.2.1.trans a.2.2.1, fun p q => b.2.2.2 ?_ (a.2.2.2 ?_ q)⟩
        · have := a.1; have := b.1; have := a.2.1; omega
        · have := b.2.1; have := a.2.1; omega
        · have := a.1; have := a.2.1; omega
        · omega
      · exact LCP_del n (k + 1)
theorem LCP_tim {i : Nat} : LCP 1 S (timNd S i) := by
  unfold timNd
  split
  · split
    · exact LCP_nd.mono (by omega)
    · exact LCP_acquire
  · exact LCP.rf.mono (by omega)
theorem LCP_tims : ∀ (l : List Nat) {S : SS}, LCP l.length S (l.foldl timNd S)
  | [], _ => LCP.rf
  | i :: l, S => (LCP_tim.tr (LCP_tims l)).mono (by rw [List.length_cons]; omega)
theorem LCP_happen : LCP ((s_dl S).length + s_n S) S (happen S) := by
  unfold happen
  dsimp only
  have n1 : NEF S (changeLinks S) := NEF_links _ _
  have c1 : LCP 0 S (changeLinks S) := LCP.of n1.2.2.1 n1.2.2.2.1 n1.2.1 n1.2.2.2.2.2.1 n1.2.2.2.2.2.2.1
  obtain ⟨S1, hS1⟩ : ∃ S1, changeLinks S = S1 := ⟨_, rfl⟩
  rw [hS1] at c1 ⊢
  have c2 := c1.tr (LCP_msgs (s_ms S1).length)
  obtain ⟨S2, hS2⟩ : ∃ S2, msgsNow (s_ms S1).length S1 = S2 := ⟨_, rfl⟩
  rw [hS2] at c2 ⊢
  have c3 := c2.tr (LCP_del ((s_dl S2).length + 1) 0)
  obtain ⟨S3, hS3⟩ : ∃ S3, delNow ((s_dl S2).length + 1) 0 S2 = S3 := ⟨_, rfl⟩
  rw [hS3] at c3 ⊢
  have c4 := c3.tr (LCP_tims (List.range (s_n S3)))
  rw [List.length_range] at c4
  exact c4.mono (by have := c2.2.1; have := c3.2.2.1; omega)
theorem pass_mdl {u : Int32} : s_ms (pass S u) = s_ms S ∧ s_dl (pass S u) = s_dl S ∧ s_lg (pass S u) = s_lg S := by
  have l := pass_l (t := u) (S := S)
  refine ⟨?_, ?_, ?_⟩
  · show (pass S u).2.2.2.1.1 = S.2.2.2.1.1
    rw [l]
  · show (pass S u).2.2.2.1.2.1 = S.2.2.2.1.2.1
    rw [l]
  · show (pass S u).2.2.2.1.2.2.2 = S.2.2.2.1.2.2.2
    rw [l]
theorem LCP_step {t : Int32} : LCP ((s_dl S).length + s_n S) S (step S t) := by
  have p : ∀ u : Int32, LCP 0 S (pass S u) := fun u => LCP.of pass_mdl.1 pass_mdl.2.1 n_pass gh_pass pass_mdl.2.2
  unfold step
  dsimp only
  split
  · exact (p _).mono (by omega)
  · have a := p (mn (nextEvent S) t)
    exact (a.tr LCP_happen).mono (by have := a.2.1; have := a.2.2.1; omega)
theorem CAP_goOn : ∀ (n : Nat) {S : SS} {t : Int32}, (s_dl S).length ≤ 50 → s_n S ≤ 6 → msB n S t → CAP S → CAP (goOn n S t)
  | 0, _, _, _, _, _, h => h
  | n + 1, S, t, hd, hn, hm, h => by
    unfold goOn
    split
    · exact h
    · rcases hm with hx | ⟨hl, hm'⟩
      · have e : step S t = pass S t := by
          unfold step
          dsimp only
          rw [if_pos hx]
          have : mn (nextEvent S) t = t := by
            unfold mn
            rw [if_pos hx]
          rw [this]
        have h1 : CAP (pass S t) := by
          unfold CAP
          rw [gh_pass, pass_mdl.2.2]
          exact h
        rw [e]
        cases n with
        | zero => exact h1
        | succ n =>
          unfold goOn
          have : now (pass S t) = t := pass_now
          rw [this, if_pos (Int32.le_refl t)]
          exact h1
      · have a := LCP_step (S := S) (t := t)
        exact CAP_goOn n (Nat.le_trans a.2.1 hd) (by rw [a.2.2.1]; exact hn) hm' (a.2.2.2 (by omega) h)
theorem SL_step {t : Int32} : SL S (step S t) := by
  unfold step
  dsimp only
  split
  · exact SL.of gh_pass
  · exact (SL.of gh_pass).tr SL_happen
theorem SL_goOn : ∀ (n : Nat) {S : SS} {t : Int32}, SL S (goOn n S t)
  | 0, _, _ => SL.rf
  | n + 1, S, t => by
    unfold goOn
    split
    · exact SL.rf
    · exact SL_step.tr (SL_goOn n)
end CAS
