/-! A node that is down has its timer off -/
set_option maxRecDepth 100000
/-- a timer changes only at a node that is up; who is up stays -/
def D2 (S S' : SS) : Prop := s_n S' = s_n S ∧ ∀ i : Nat, s_nd S' i 2 = s_nd S i 2 ∧ (s_nd S i 2 = 0 → s_nd S' i 8 = s_nd S i 8)
def DN (S : SS) : Prop := ∀ i : Nat, i < s_n S → s_nd S i 2 = 0 → s_nd S i 8 = -4
section DNS
variable {S S' S'' : SS}
theorem D2.rf : D2 S S := ⟨rfl, fun _ => ⟨rfl, fun _ => rfl⟩⟩
theorem D2.tr (a : D2 S S') (b : D2 S' S'') : D2 S S'' := ⟨b.1.trans a.1, fun i => ⟨(b.2 i).1.trans (a.2 i).1, fun h => ((b.2 i).2 (by rw [(a.2 i).1]; exact h)).trans ((a.2 i).2 h)⟩⟩
theorem D2.nd (hn : s_n S' = s_n S) (h : s_nd S' = s_nd S) : D2 S S' := ⟨hn, fun i => ⟨by rw [h], fun _ => by rw [h]⟩⟩
theorem D2.cs (h : cS S S') : D2 S S' := D2.nd h.2.1 h.2.2
theorem DN.up (h : DN S) (d : D2 S S') : DN S' := fun i hi h2 => by
  rw [d.1] at hi
  rw [(d.2 i).1] at h2
  rw [(d.2 i).2 h2]
  exact h i hi h2
theorem D2_nd {i k : Nat} {v : Int32} (h2 : k ≠ 2) (h8 : k ≠ 8) : D2 S (u_nd S i k v) := ⟨rfl, fun j => ⟨nd_ne (Or.inr h2), fun _ => nd_ne (Or.inr h8)⟩⟩
theorem D2_tm {i : Nat} {v : Int32} (hu : s_nd S i 2 ≠ 0) : D2 S (u_nd S i 8 v) := ⟨rfl, fun j => ⟨nd_ne (Or.inr (by decide)), fun h => nd_ne (Or.inl (fun hy => hu (by rw [hy]; exact h)))⟩⟩
theorem D2_setTimer {i : Nat} {v : Int32} (hu : s_nd S i 2 ≠ 0) : D2 S (setTimer S i v) := D2_tm hu
theorem D2_send {k n l : Nat} {a b c : Int32} : D2 S (send S k n l a b c) := D2.cs cS_send
theorem D2_note {k : Nat} {n t : Int32} : D2 S (note S k n t) := D2.cs cS_note
theorem D2_sc {k : Nat} {v : Int32} : D2 S (u_sc S k v) := D2.nd rfl rfl
theorem D2_ms {l : List MG} : D2 S (u_ms S l) := D2.nd rfl rfl
theorem D2_dl {l : List DG} : D2 S (u_dl S l) := D2.nd rfl rfl
theorem D2_ou {l : List OG} : D2 S (u_ou S l) := D2.nd rfl rfl
theorem D2_ar {j k : Nat} {v : Int32} : D2 S (u_ar S j k v) := D2.nd rfl rfl
theorem D2_mk {c k : Nat} : D2 S (g_mk S c k) := D2.nd rfl rfl
theorem D2_ga {li sz : Nat} : D2 S (g_add S li sz) := D2.nd rfl rfl
theorem D2_watch {m : MG} {v : Int32} : D2 S (watch S m v) := D2.nd rfl rfl
theorem D2_lose {i : Nat} : D2 S (lose S i) := (D2_nd (by decide) (by decide)).tr (D2_nd (by decide) (by decide))
theorem D2_acquire {i : Nat} (hu : s_nd S i 2 ≠ 0) : D2 S (acquire S i) := by
  unfold acquire
  dsimp only
  exact ((D2_setTimer hu).tr (D2_nd (by decide) (by decide))).tr D2_send
theorem D2_decide {m : MG} : D2 S (decide_ S m) := by
  unfold decide_
  dsimp only
  split
  · exact D2_note.tr D2_send
  · refine D2.tr ?_ D2_send
    refine D2.tr ?_ D2_note
    refine D2.tr ?_ D2_sc
    refine D2.tr ?_ D2_sc
    split
    · exact D2.rf
    · exact D2_sc
theorem D2_release {m : MG} : D2 S (release S m) := by
  unfold release
  split
  · refine D2.tr ?_ D2_sc
    split
    · exact D2.rf
    · exact D2_note
  · exact D2.rf
theorem D2_fence {m : MG} : D2 S (fence S m) := by
  unfold fence
  refine D2.tr ?_ D2_send
  refine D2.tr ?_ D2_watch
  refine D2.tr ?_ D2_note
  exact D2_mk
theorem D2_atStorage {m : MG} : D2 S (atStorage S m) := by
  unfold atStorage
  split
  · dsimp only
    split
    · refine D2.tr ?_ D2_send
      exact D2_sc
    · refine D2.tr ?_ D2_send
      refine D2.tr ?_ D2_watch
      refine D2.tr ?_ D2_note
      refine D2.tr ?_ D2_ar
      refine D2.tr ?_ D2_ar
      exact D2_sc
  · exact D2_fence
theorem D2_granted {m : MG} (hu : s_nd S m.2.1 2 ≠ 0) : D2 S (granted S m) := by
  unfold granted
  dsimp only
  split
  · exact D2_send
  · split
    · exact D2.rf
    · have a : D2 S (if s_nd S m.2.1 6 < m.2.2.2.2.1 then u_nd (u_nd (u_nd S m.2.1 9 0) m.2.1 6 m.2.2.2.2.1) m.2.1 7 (limitOf S m.2.2.2.1) else S) := by
        split
        · exact ((D2_nd (by decide) (by decide)).tr (D2_nd (by decide) (by decide))).tr (D2_nd (by decide) (by decide))
        · exact D2.rf
      have b := a.tr (D2_nd (i := m.2.1) (k := 7) (v := mx (s_nd (if s_nd S m.2.1 6 < m.2.2.2.2.1 then u_nd (u_nd (u_nd S m.2.1 9 0) m.2.1 6 m.2.2.2.2.1) m.2.1 7 (limitOf S m.2.2.2.1) else S) m.2.1 7) (limitOf S m.2.2.2.1)) (by decide) (by decide))
      refine b.tr (D2_setTimer ?_)
      rw [(b.2 _).1]
      exact hu
theorem D2_atNode {m : MG} (hu : s_nd S m.2.1 2 ≠ 0) : D2 S (atNode S m) := by
  unfold atNode
  dsimp only
  split
  · exact D2_granted hu
  · split
    · split
      · exact D2.rf
      · exact D2_setTimer hu
    · split
      · split
        · exact D2_lose
        · exact D2.rf
      · split
        · refine D2.tr ?_ (D2_nd (by omega) (by omega))
          exact D2_nd (by decide) (by decide)
        · exact D2.rf
theorem D2_arrive {m : MG} {k : Nat} : D2 S (arrive S k m) := by
  unfold arrive
  dsimp only
  split
  · refine D2.tr ?_ D2_watch
    refine D2.tr ?_ D2_sc
    exact D2_ms
  · next h1 =>
    split
    · refine D2.tr ?_ D2_ms
      refine D2.tr ?_ D2_ga
      refine D2.tr ?_ D2_mk
      exact D2_ms
    · refine D2.tr (S' := u_ms S ((s_ms S).eraseIdx k)) D2_ms ?_
      unfold handle
      split
      · exact D2_decide
      · split
        · exact D2_release
        · split
          · exact D2_atStorage
          · next k0 k3 k4 =>
            refine D2_atNode (fun hy => h1 (Or.inr ⟨?_, hy⟩))
            unfold toNode
            simp only [Bool.or_eq_true, beq_iff_eq, decide_eq_true_eq]
            omega
theorem D2_msgs : ∀ (n : Nat) {S : SS}, D2 S (msgsNow n S)
  | 0, S => D2.rf
  | n + 1, S => by
    unfold msgsNow
    split
    · exact D2.rf
    · split
      · exact D2.rf
      · exact D2_arrive.tr (D2_msgs n)
theorem D2_del : ∀ (n k : Nat) {S : SS}, D2 S (delNow n k S)
  | 0, _, S => D2.rf
  | n + 1, k, S => by
    unfold delNow
    split
    · exact D2.rf
    · split
      · refine D2.tr ?_ (D2_del n k)
        refine D2.tr ?_ D2_send
        exact D2_dl
      · exact D2_del n (k + 1)
theorem D2_tim {i : Nat} : D2 S (timNd S i) := by
  unfold timNd
  split
  · next h1 =>
    have hu : s_nd S i 2 ≠ 0 := fun hy => by
      unfold due at h1
      rw [hy] at h1
      simp at h1
    split
    · exact D2_tm hu
    · exact D2_acquire hu
  · exact D2.rf
theorem D2_tims : ∀ (l : List Nat) {S : SS}, D2 S (l.foldl timNd S)
  | [], S => D2.rf
  | i :: l, S => D2_tim.tr (D2_tims l)
theorem D2_links : ∀ (n k : Nat) {S : SS}, D2 S (links n k S)
  | 0, _, S => D2.rf
  | n + 1, k, S => by
    unfold links
    split
    · exact D2.rf
    · next o ho =>
      dsimp only
      have a : D2 S (if o.2.1 = now S then u_nd S o.1 4 1 else S) := by
        split
        · exact D2_nd (by decide) (by decide)
        · exact D2.rf
      obtain ⟨S1, hS1⟩ : ∃ S1, (if o.2.1 = now S then u_nd S o.1 4 1 else S) = S1 := ⟨_, rfl⟩
      rw [hS1] at a ⊢
      split
      · refine D2.tr ?_ (D2_links n k)
        refine D2.tr ?_ D2_ou
        refine D2.tr ?_ (D2_nd (by decide) (by decide))
        exact a
      · exact D2.tr a (D2_links n (k + 1))
theorem D2_happen : D2 S (happen S) := by
  unfold happen changeLinks
  dsimp only
  refine D2.tr ?_ (D2_tims _)
  refine D2.tr ?_ (D2_del _ _)
  refine D2.tr ?_ (D2_msgs _)
  exact D2_links _ _
theorem D2_pass {t : Int32} : D2 S (pass S t) := ⟨n_pass, fun i => ⟨pass_nd (t := t) (S := S) (j := i) (k := 2) (by decide), fun _ => pass_nd (t := t) (S := S) (j := i) (k := 8) (by decide)⟩⟩
theorem D2_step {t : Int32} : D2 S (step S t) := by
  unfold step
  dsimp only
  split
  · exact D2_pass
  · exact D2_pass.tr D2_happen
theorem D2_goOn : ∀ (n : Nat) {S : SS} {t : Int32}, D2 S (goOn n S t)
  | 0, S, t => D2.rf
  | n + 1, S, t => by
    unfold goOn
    split
    · exact D2.rf
    · exact D2_step.tr (D2_goOn n)
end DNS
