/-! SLOTS: what is made costs at most 7 slots a cell and 3 a place of a list's room -/
set_option maxRecDepth 100000
def cpt (S : SS) : Nat := s_gh S 2 + s_gh S 3 + s_gh S 4 + s_gh S 5
def SL (S S' : SS) : Prop := s_gh S' 1 + 7 * s_gh S 0 + 3 * cpt S ≤ s_gh S 1 + 7 * s_gh S' 0 + 3 * cpt S'
section SLS
variable {S S' S'' : SS}
theorem SL.rf : SL S S := by unfold SL; omega
theorem SL.tr (h : SL S S') (k : SL S' S'') : SL S S'' := by unfold SL at *; omega
theorem SL.of (h : s_gh S' = s_gh S) : SL S S' := by unfold SL cpt; rw [h]; omega
theorem SL_mk {c k : Nat} (h : k ≤ 7 * c) : SL S (g_mk S c k) := by
  have e : ∀ j : Nat, 2 ≤ j → s_gh (g_mk S c k) j = s_gh S j := fun j hj => by
    show fu (fu (s_gh S) 0 (s_gh S 0 + c)) 1 (s_gh S 1 + k) j = _
    rw [fu_ne (by omega), fu_ne (by omega)]
  unfold SL cpt
  rw [gh_mk0, gh_mk1, e 2 (by omega), e 3 (by omega), e 4 (by omega), e 5 (by omega)]
  omega
theorem SL_add {li sz : Nat} (h2 : 2 ≤ li) (h5 : li ≤ 5) : SL S (g_add S li sz) := by
  unfold SL g_add cpt
  show gg (s_gh S) li sz 1 + 7 * s_gh S 0 + 3 * (s_gh S 2 + s_gh S 3 + s_gh S 4 + s_gh S 5) ≤ s_gh S 1 + 7 * gg (s_gh S) li sz 0 + 3 * (gg (s_gh S) li sz 2 + gg (s_gh S) li sz 3 + gg (s_gh S) li sz 4 + gg (s_gh S) li sz 5)
  unfold gg
  split
  · have e1 : ∀ x y z : Nat, fu (fu (fu (s_gh S) li x) 0 y) 1 z 1 = z := fun _ _ _ => fu_eq
    have e0 : ∀ x y z : Nat, fu (fu (fu (s_gh S) li x) 0 y) 1 z 0 = y := fun _ _ _ => by rw [fu_ne (by decide), fu_eq]
    rw [e1, e0]
    have e : ∀ j : Nat, 2 ≤ j → ∀ x y z : Nat, fu (fu (fu (s_gh S) li x) 0 y) 1 z j = if j = li then x else s_gh S j := fun j hj x y z => by
      rw [fu_ne (by omega), fu_ne (by omega)]
      split
      · rename_i c
        subst c
        rw [fu_eq]
      · rename_i c
        rw [fu_ne c]
    rw [e 2 (by omega), e 3 (by omega), e 4 (by omega), e 5 (by omega)]
    have : li = 2 ∨ li = 3 ∨ li = 4 ∨ li = 5 := by omega
    rcases this with rfl | rfl | rfl | rfl <;> simp <;> omega
  · omega
theorem SL_note {k : Nat} {n t : Int32} : SL S (note S k n t) := by
  unfold note
  dsimp only
  split
  · exact ((SL_mk (S := u_lg S (s_lg S).tail) (c := 1) (k := 4) (by decide)).tr (SL_add (by decide) (by decide))).tr SL.rf
  · exact ((SL_mk (S := S) (c := 1) (k := 4) (by decide)).tr (SL_add (by decide) (by decide))).tr SL.rf
theorem SL_send {kind node len : Nat} {a b c : Int32} (h : len ≤ 7) : SL S (send S kind node len a b c) := by
  unfold send
  dsimp only
  split
  · exact (((SL_mk (S := S) (c := 1) (k := len) (by omega)).tr (SL.of rfl)).tr (SL_mk (S := u_sc (u_sc (g_mk S 1 len) 9 (lcg (s_sc S 9))) 10 (s_sc S 10 + 1)) (c := 2) (k := 10) (by decide))).tr (SL_add (by decide) (by decide))
  · exact (SL_mk (S := S) (c := 1) (k := len) (by omega)).tr (SL.of rfl)
theorem SL_sc {k : Nat} {v : Int32} : SL S (u_sc S k v) := SL.of rfl
theorem SL_ar {j k : Nat} {v : Int32} : SL S (u_ar S j k v) := SL.of rfl
theorem SL_watch {m : MG} {i : Int32} : SL S (watch S m i) := SL.of rfl
theorem SL_ws {m : MG} {i : Int32} {k n l : Nat} {a b c : Int32} (h : l ≤ 7) : SL S (send (watch S m i) k n l a b c) := (SL_watch (m := m) (i := i)).tr (SL_send h)
theorem SL_acquire {i : Nat} : SL S (acquire S i) := by
  unfold acquire
  dsimp only
  exact (SL.of (S' := u_nd (setTimer S i (ndAt S i (now S) + s_cf S 6)) i 11 (s_nd (setTimer S i (ndAt S i (now S) + s_cf S 6)) i 11 + 1)) rfl).tr (SL_send (by decide))
theorem SL_decide {m : MG} : SL S (decide_ S m) := by
  unfold decide_
  dsimp only
  split
  · exact SL_note.tr (SL_send (by decide))
  · split
    · exact ((SL_sc.tr SL_sc).tr SL_note).tr (SL_send (by decide))
    · exact (((SL_sc.tr SL_sc).tr SL_sc).tr SL_note).tr (SL_send (by decide))
theorem SL_granted {m : MG} : SL S (granted S m) := by
  unfold granted
  dsimp only
  split
  · exact SL_send (by decide)
  · split
    · exact SL.rf
    · split <;> exact SL.rf
theorem SL_atNode {m : MG} : SL S (atNode S m) := by
  unfold atNode
  dsimp only
  split
  · exact SL_granted
  · split
    · split <;> exact SL.rf
    · split
      · split <;> exact SL.rf
      · split <;> exact SL.rf
theorem SL_release {m : MG} : SL S (release S m) := by
  unfold release
  split
  · split
    · exact SL_sc
    · exact SL_note.tr SL_sc
  · exact SL.rf
theorem SL_atStorage {m : MG} : SL S (atStorage S m) := by
  unfold atStorage
  split
  · dsimp only
    split
    · exact SL_sc.tr (SL_send (by decide))
    · exact (((SL_sc.tr SL_ar).tr SL_ar).tr SL_note).tr (SL_ws (by decide))
  · unfold fence
    exact ((SL_mk (by decide)).tr SL_note).tr (SL_ws (by decide))
theorem SL_handle {m : MG} : SL S (handle S m) := by
  unfold handle
  split
  · exact SL_decide
  · split
    · exact SL_release
    · split
      · exact SL_atStorage
      · exact SL_atNode
theorem SL_arrive {m : MG} {k : Nat} : SL S (arrive S k m) := by
  unfold arrive
  dsimp only
  split
  · exact SL.rf
  · split
    · exact (SL_mk (S := u_ms S ((s_ms S).eraseIdx k)) (by decide)).tr (SL_add (by decide) (by decide))
    · exact SL_handle (S := u_ms S ((s_ms S).eraseIdx k))
theorem SL_msgs : ∀ (n : Nat) {S : SS}, SL S (msgsNow n S)
  | 0, _ => SL.rf
  | n + 1, S => by
    unfold msgsNow
    split
    · exact SL.rf
    · split
      · exact SL.rf
      · exact SL_arrive.tr (SL_msgs n)
theorem SL_dl {l : List DG} : SL S (u_dl S l) := SL.of rfl
theorem SL_del : ∀ (n k : Nat) {S : SS}, SL S (delNow n k S)
  | 0, _, _ => SL.rf
  | n + 1, k, S => by
    unfold delNow
    split
    · exact SL.rf
    · split
      · exact (SL_dl.tr (SL_send (by decide))).tr (SL_del n k)
      · exact SL_del n (k + 1)
theorem SL_tim {i : Nat} : SL S (timNd S i) := by
  unfold timNd
  split
  · split
    · exact SL.rf
    · exact SL_acquire
  · exact SL.rf
theorem SL_tims : ∀ (l : List Nat) {S : SS}, SL S (l.foldl timNd S)
  | [], _ => SL.rf
  | i :: l, S => SL_tim.tr (SL_tims l)
theorem SL_happen : SL S (happen S) := by
  unfold happen changeLinks
  dsimp only
  exact (((SL.of (gle_links _ _)).tr (SL_msgs _)).tr (SL_del _ _)).tr (SL_tims _)
end SLS
