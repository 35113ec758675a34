/-! the basic invariant, and what grows -/
set_option maxRecDepth 100000
/-- nodes and registers that are named exist; divisors are not 0 -/
def BI (S : SS) : Prop := W1 S ∧ (∀ m ∈ s_ms S, mOK (s_n S) m) ∧ (∀ o ∈ s_ou S, o.1 < s_n S) ∧ ∀ d ∈ s_dl S, d.1 < s_n S ∧ d.2.2.1 < 8
section BIs
variable {S : SS}
theorem BI.nd {i k : Nat} {v : Int32} (h : BI S) (hk : k ≠ 20) : BI (u_nd S i k v) := ⟨h.1.nd hk, h.2⟩
theorem BI.tm {i : Nat} {v : Int32} (h : BI S) : BI (setTimer S i v) := h.nd (by decide)
theorem BI.ms {l : List MG} (h : BI S) (hl : ∀ m ∈ l, mOK (s_n S) m) : BI (u_ms S l) := ⟨h.1, hl, h.2.2⟩
theorem BI_note {k : Nat} {n t : Int32} (h : BI S) : BI (note S k n t) := by
  unfold note
  dsimp only
  split <;> exact h
theorem BI_send {kind node len : Nat} {a b c : Int32} (h : BI S) (hk : kind < 9) (hn : node < s_n S) (hr : 4 ≤ kind ∧ kind ≤ 7 → ∃ r : Nat, r < 8 ∧ b = Int32.ofNat r) : BI (send S kind node len a b c) := by
  unfold send
  dsimp only
  split
  · refine ⟨h.1, fun m hm => ?_, h.2.2⟩
    have hm' : m ∈ s_ms S ++ [(kind, node, s_sc S 10 + 1, a, b, c, now S + s_nd S node 1 + jit (lcg (s_sc S 9)) (s_cf S 7))] := hm
    rcases List.mem_append.mp hm' with h1 | h1
    · exact h.2.1 m h1
    · rw [List.mem_singleton.mp h1]
      exact ⟨hk, hn, hr⟩
  · exact h
theorem BI_sc {k : Nat} {v : Int32} (h : BI S) : BI (u_sc S k v) := h
theorem BI_ar {j k : Nat} {v : Int32} (h : BI S) : BI (u_ar S j k v) := h
theorem BI_mk {c k : Nat} (h : BI S) : BI (g_mk S c k) := h
theorem BI_ga {c k : Nat} (h : BI S) : BI (g_add S c k) := h
theorem BI_watch {m : MG} {i : Int32} (h : BI S) : BI (watch S m i) := h
theorem BI_dl {l : List DG} (h : BI S) (hl : ∀ d ∈ l, d.1 < s_n S ∧ d.2.2.1 < 8) : BI (u_dl S l) := ⟨h.1, h.2.1, h.2.2.1, hl⟩
theorem BI_ou {l : List OG} (h : BI S) (hl : ∀ o ∈ l, o.1 < s_n S) : BI (u_ou S l) := ⟨h.1, h.2.1, hl, h.2.2.2⟩
theorem gle_sc {k : Nat} {v : Int32} : gle S (u_sc S k v) := gle.rf
theorem gle_ar {j k : Nat} {v : Int32} : gle S (u_ar S j k v) := gle.rf
theorem gle_nd {j k : Nat} {v : Int32} : gle S (u_nd S j k v) := gle.rf
theorem gle_dl {l : List DG} : gle S (u_dl S l) := gle.rf
theorem gle_ms {l : List MG} : gle S (u_ms S l) := gle.rf
theorem n_note {k : Nat} {n t : Int32} : s_n (note S k n t) = s_n S := cS_note.2.1
theorem n_watch {m : MG} {i : Int32} : s_n (watch S m i) = s_n S := rfl
theorem n_sc {k : Nat} {v : Int32} : s_n (u_sc S k v) = s_n S := rfl
theorem n_ar {j k : Nat} {v : Int32} : s_n (u_ar S j k v) = s_n S := rfl
theorem n_mk {j k : Nat} : s_n (g_mk S j k) = s_n S := rfl
theorem BI_acquire {i : Nat} (h : BI S) (hi : i < s_n S) : BI (acquire S i) := by
  unfold acquire
  dsimp only
  exact BI_send (BI.nd h.tm (by decide)) (by decide) hi (fun hx => absurd hx.1 (by decide))
theorem BI_decide {m : MG} (h : BI S) (hn : m.2.1 < s_n S) : BI (decide_ S m) := by
  unfold decide_
  dsimp only
  split
  · exact BI_send (BI_note h) (by decide) (by rw [cS_note.2.1]; exact hn) (fun hx => absurd hx.1 (by decide))
  · split
    · exact BI_send (BI_note (BI_sc (BI_sc h))) (by decide) (by rw [n_note, n_sc, n_sc]; exact hn) (fun hx => absurd hx.1 (by decide))
    · exact BI_send (BI_note (BI_sc (BI_sc (BI_sc h)))) (by decide) (by rw [n_note, n_sc, n_sc, n_sc]; exact hn) (fun hx => absurd hx.1 (by decide))
theorem BI_granted {m : MG} (h : BI S) (hn : m.2.1 < s_n S) : BI (granted S m) := by
  unfold granted
  dsimp only
  split
  · exact BI_send h (by decide) hn (fun hx => absurd hx.1 (by decide))
  · split
    · exact h
    · split
      · exact BI.tm (BI.nd (BI.nd (BI.nd (BI.nd h (by decide)) (by decide)) (by decide)) (by decide))
      · exact BI.tm (BI.nd h (by decide))
theorem BI_atNode {m : MG} (h : BI S) (hm : mOK (s_n S) m) (h4 : m.1 = 1 ∨ m.1 = 2 ∨ 6 ≤ m.1) : BI (atNode S m) := by
  unfold atNode
  dsimp only
  split
  · exact BI_granted h hm.2.1
  · split
    · split
      · exact h
      · exact h.tm
    · split
      · split
        · exact BI.nd (BI.nd h (by decide)) (by decide)
        · exact h
      · split
        · exact BI.nd (BI.nd h (by decide)) (by omega)
        · exact h
theorem BI_release {m : MG} (h : BI S) : BI (release S m) := by
  unfold release
  split
  · split
    · exact h
    · exact BI_sc (BI_note h)
  · exact h
theorem BI_atStorage {m : MG} (h : BI S) (hm : mOK (s_n S) m) (hk : m.1 = 4 ∨ m.1 = 5) : BI (atStorage S m) := by
  have h67 : 4 ≤ m.1 ∧ m.1 ≤ 7 := by omega
  obtain ⟨r, r1, r2⟩ := hm.2.2 h67
  unfold atStorage
  split
  · dsimp only
    split
    · exact BI_send (BI_sc h) (by decide) (by rw [n_sc]; exact hm.2.1) (fun _ => ⟨r, r1, r2⟩)
    · exact BI_send (BI_watch (BI_note (BI_ar (BI_ar (BI_sc h))))) (by decide) (by rw [n_watch, n_note, n_ar, n_ar, n_sc]; exact hm.2.1) (fun _ => ⟨r, r1, r2⟩)
  · unfold fence
    exact BI_send (BI_watch (BI_note (BI_mk h))) (by decide) (by rw [n_watch, n_note, n_mk]; exact hm.2.1) (fun hx => absurd hx.2 (by decide))
theorem BI_handle {m : MG} (h : BI S) (hm : mOK (s_n S) m) : BI (handle S m) := by
  have hk := hm.1
  unfold handle
  split
  · exact BI_decide h hm.2.1
  · split
    · exact BI_release h
    · split
      · rename_i h45
        exact BI_atStorage h hm h45
      · exact BI_atNode h hm (by omega)
theorem BI_arrive {m : MG} {k : Nat} (h : BI S) (hm : mOK (s_n S) m) : BI (arrive S k m) := by
  have h1 : BI (u_ms S ((s_ms S).eraseIdx k)) := h.ms fun x hx => h.2.1 x (List.mem_of_mem_eraseIdx hx)
  unfold arrive
  dsimp only
  split
  · exact h1
  · split
    · refine BI.ms (S := g_add (g_mk (u_ms S ((s_ms S).eraseIdx k)) 1 7) 2 (s_ms (u_ms S ((s_ms S).eraseIdx k))).length) h1 fun x hx => ?_
      rcases List.mem_append.mp hx with h2 | h2
      · exact h1.2.1 x h2
      · rw [List.mem_singleton.mp h2]
        exact hm
    · exact BI_handle h1 hm
-- what grows
theorem gle_acquire {i : Nat} : gle S (acquire S i) := by
  unfold acquire
  dsimp only
  exact gle_sendS (S := u_nd (setTimer S i (ndAt S i (now S) + s_cf S 6)) i 11 (s_nd (setTimer S i (ndAt S i (now S) + s_cf S 6)) i 11 + 1))
theorem gle_decide {m : MG} : gle S (decide_ S m) := by
  unfold decide_
  dsimp only
  split
  · exact gle_note.tr gle_sendS
  · split
    · exact ((gle_sc.tr gle_sc).tr gle_note).tr gle_sendS
    · exact (((gle_sc.tr gle_sc).tr gle_sc).tr gle_note).tr gle_sendS
theorem gle_granted {m : MG} : gle S (granted S m) := by
  unfold granted
  dsimp only
  split
  · exact gle_sendS
  · split
    · exact gle.rf
    · split <;> exact gle.rf
theorem gle_atNode {m : MG} : gle S (atNode S m) := by
  unfold atNode
  dsimp only
  split
  · exact gle_granted
  · split
    · split <;> exact gle.rf
    · split
      · split <;> exact gle.rf
      · split <;> exact gle.rf
theorem gle_release {m : MG} : gle S (release S m) := by
  unfold release
  split
  · split
    · exact gle_sc
    · exact gle_note.tr gle_sc
  · exact gle.rf
theorem gle_atStorage {m : MG} : gle S (atStorage S m) := by
  unfold atStorage
  split
  · dsimp only
    split
    · exact gle_sc.tr gle_sendS
    · exact (((gle_sc.tr gle_ar).tr gle_ar).tr gle_note).tr gle_ws
  · unfold fence
    exact (gle_mk.tr gle_note).tr gle_ws
theorem gle_handle {m : MG} : gle S (handle S m) := by
  unfold handle
  split
  · exact gle_decide
  · split
    · exact gle_release
    · split
      · exact gle_atStorage
      · exact gle_atNode
theorem gle_arrive {m : MG} {k : Nat} : gle S (arrive S k m) := by
  unfold arrive
  dsimp only
  split
  · exact gle.rf
  · split
    · exact (gle_mk (S := u_ms S ((s_ms S).eraseIdx k))).tr gle_add
    · exact gle_handle (S := u_ms S ((s_ms S).eraseIdx k))
theorem gle_msgs : ∀ (n : Nat) {S : SS}, gle S (msgsNow n S)
  | 0, _ => gle.rf
  | n + 1, S => by
    unfold msgsNow
    split
    · exact gle.rf
    · split
      · exact gle.rf
      · exact gle_arrive.tr (gle_msgs n)
theorem gle_del : ∀ (n k : Nat) {S : SS}, gle S (delNow n k S)
  | 0, _, _ => gle.rf
  | n + 1, k, S => by
    unfold delNow
    split
    · exact gle.rf
    · split
      · exact (gle_dl.tr gle_sendS).tr (gle_del n k)
      · exact gle_del n (k + 1)
theorem gle_tim {i : Nat} : gle S (timNd S i) := by
  unfold timNd
  split
  · split
    · exact gle.rf
    · exact gle_acquire
  · exact gle.rf
theorem gle_tims : ∀ (l : List Nat) {S : SS}, gle S (l.foldl timNd S)
  | [], _ => gle.rf
  | i :: l, S => gle_tim.tr (gle_tims l)
theorem gle_links : ∀ (n k : Nat) {S : SS}, s_gh (links n k S) = s_gh S
  | 0, _, _ => rfl
  | n + 1, k, S => by
    unfold links
    split
    · rfl
    · dsimp only
      split
      · split
        · exact (gle_links n k).trans rfl
        · exact (gle_links n (k + 1)).trans rfl
      · split
        · exact (gle_links n k).trans rfl
        · exact (gle_links n (k + 1)).trans rfl
theorem gle_happen : gle S (happen S) := by
  unfold happen changeLinks
  dsimp only
  have h0 : gle S (links ((s_ou S).length + 1) 0 S) := by
    unfold gle
    rw [gle_links]
    exact ⟨Nat.le_refl _, Nat.le_refl _⟩
  exact ((h0.tr (gle_msgs _)).tr (gle_del _ _)).tr (gle_tims _)
end BIs
