/-! REST: what a step leaves -/
set_option maxRecDepth 100000
/-- outages, delayed writes and the time stay -/
def LK (S S' : SS) : Prop := s_ou S' = s_ou S ∧ s_dl S' = s_dl S ∧ s_sc S' 8 = s_sc S 8
theorem LK.rf {S : SS} : LK S S := ⟨rfl, rfl, rfl⟩
theorem LK.tr {a b c : SS} (h : LK a b) (g : LK b c) : LK a c := ⟨g.1.trans h.1, g.2.1.trans h.2.1, g.2.2.trans h.2.2⟩
section RST
variable {S : SS}
theorem LK_note {k : Nat} {n t : Int32} : LK S (note S k n t) := ⟨ls_note.1, ls_note.2, by rw [sc_note2]⟩
theorem LK_send {k n l : Nat} {a b c : Int32} : LK S (send S k n l a b c) := by
  unfold send
  dsimp only
  obtain ⟨x, hx⟩ : ∃ x : Int32, lcg (s_sc S 9) = x := ⟨_, rfl⟩
  rw [hx]
  by_cases hc : s_nd S n 4 = 0
  · rw [if_pos hc]
    exact ⟨rfl, rfl, rfl⟩
  · rw [if_neg hc]
    exact ⟨rfl, rfl, rfl⟩
theorem LK_sc {k : Nat} {v : Int32} (hk : k ≠ 8) : LK S (u_sc S k v) := ⟨rfl, rfl, fu_ne (Ne.symm hk)⟩
theorem LK_nd {i k : Nat} {v : Int32} : LK S (u_nd S i k v) := ⟨rfl, rfl, rfl⟩
theorem LK_acquire {i : Nat} : LK S (acquire S i) := by
  unfold acquire setTimer
  exact (LK_nd.tr LK_nd).tr LK_send
theorem LK_decide {m : MG} : LK S (decide_ S m) := by
  unfold decide_
  dsimp only
  by_cases hc : srvAt S < s_sc S 15 ∨ (s_sc S 12 != -4 && decide (srvAt S < s_sc S 13)) = true ∧ s_sc S 12 ≠ Int32.ofNat m.2.1
  · rw [if_pos hc]
    exact LK_note.tr LK_send
  · rw [if_neg hc]
    refine LK.tr ?_ (LK_note.tr LK_send)
    refine LK.tr ?_ ((LK_sc (k := 12) (by decide)).tr (LK_sc (k := 13) (by decide)))
    split
    · exact LK.rf
    · exact LK_sc (by decide)
theorem LK_release {m : MG} : LK S (release S m) := by
  unfold release
  by_cases c1 : m.2.2.2.1 = s_sc S 14
  · rw [if_pos c1]
    refine LK.tr ?_ (LK_sc (by decide))
    by_cases c2 : s_sc S 12 = -4
    · rw [if_pos c2]; exact LK.rf
    · rw [if_neg c2]; exact LK_note
  · rw [if_neg c1]; exact LK.rf
theorem LK_watch {m : MG} {v : Int32} : LK S (watch S m v) := LK_sc (by decide)
theorem LK_ar {j k : Nat} {v : Int32} : LK S (u_ar S j k v) := LK.rf
theorem LK_mk {j k : Nat} : LK S (g_mk S j k) := LK.rf
theorem LK_ms {l : List MG} : LK S (u_ms S l) := LK.rf
theorem LK_fence {m : MG} : LK S (fence S m) := by
  unfold fence
  exact ((LK_mk.tr LK_note).tr LK_watch).tr LK_send
theorem LK_atStorage {m : MG} : LK S (atStorage S m) := by
  unfold atStorage
  dsimp only
  by_cases hc : s_sc S 30 ≤ m.2.2.2.1
  · rw [if_pos hc]
    by_cases h5 : m.1 = 5
    · rw [if_pos h5]
      exact (LK_sc (by decide)).tr LK_send
    · rw [if_neg h5]
      exact (((((LK_sc (by decide)).tr LK_ar).tr LK_ar).tr LK_note).tr LK_watch).tr LK_send
  · rw [if_neg hc]
    exact LK_fence
theorem LK_tm {i : Nat} {v : Int32} : LK S (setTimer S i v) := LK_nd
theorem LK_granted {m : MG} : LK S (granted S m) := by
  unfold granted
  dsimp only
  by_cases hc : s_nd S m.2.1 3 = 0
  · rw [if_pos hc]; exact LK_send
  · rw [if_neg hc]
    by_cases h1 : m.2.2.2.2.1 < s_nd S m.2.1 6
    · rw [if_pos h1]; exact LK.rf
    · rw [if_neg h1]
      refine LK.tr ?_ (LK_nd.tr LK_tm)
      by_cases h2 : s_nd S m.2.1 6 < m.2.2.2.2.1
      · rw [if_pos h2]; exact (LK_nd.tr LK_nd).tr LK_nd
      · rw [if_neg h2]; exact LK.rf
theorem LK_atNode {m : MG} : LK S (atNode S m) := by
  unfold atNode
  dsimp only
  by_cases k1 : m.1 = 1
  · rw [if_pos k1]; exact LK_granted
  rw [if_neg k1]
  by_cases k2 : m.1 = 2
  · rw [if_pos k2]
    split
    · exact LK.rf
    · exact LK_tm
  rw [if_neg k2]
  by_cases k8 : m.1 = 8
  · rw [if_pos k8]
    split
    · exact LK_nd.tr LK_nd
    · exact LK.rf
  rw [if_neg k8]
  split
  · exact LK_nd.tr LK_nd
  · exact LK.rf
theorem LK_handle {m : MG} : LK S (handle S m) := by
  unfold handle
  split
  · exact LK_decide
  · split
    · exact LK_release
    · split
      · exact LK_atStorage
      · exact LK_atNode
theorem LK_arrive {m : MG} {k : Nat} : LK S (arrive S k m) := by
  unfold arrive
  dsimp only
  split
  · exact (LK_ms.tr (LK_sc (by decide))).tr LK_watch
  · split
    · exact LK.rf
    · exact LK_ms.tr LK_handle
theorem LK_msgs : ∀ (n : Nat) {S : SS}, LK S (msgsNow n S) := by
  intro n
  induction n with
  | zero => intro S; exact LK.rf
  | succ n ih =>
    intro S
    unfold msgsNow
    cases hf : fmsg (s_ms S) with
    | none => exact LK.rf
    | some q =>
      dsimp only
      split
      · exact LK.rf
      · exact LK_arrive.tr ih
theorem now_LK {S' : SS} (h : LK S S') : (now S').toInt = (now S).toInt := by show (s_sc S' 8).toInt = _; rw [h.2.2]
theorem msgs_rest : ∀ (n : Nat) (S : SS), Inv S → dueN S ≤ n → s_gh (msgsNow n S) 0 ≤ 1000000 → ∀ m ∈ s_ms (msgsNow n S), (now S).toInt < tmJ m := by
  intro n
  induction n with
  | zero =>
    intro S h hd hb m hm
    have h0 : dueN S = 0 := by omega
    unfold dueN at h0
    rw [List.countP_eq_zero] at h0
    have := h0 m hm
    simp at this
    exact this
  | succ n ih =>
    intro S h hd hb m hm
    unfold msgsNow at hb hm
    cases hf : fmsg (s_ms S) with
    | none =>
      rw [hf] at hm
      rw [fmsg_none hf] at hm
      simp at hm
    | some q =>
      obtain ⟨k, q⟩ := q
      rw [hf] at hb hm
      dsimp only at hb hm
      by_cases hlt : now S < q.2.2.2.2.2.2
      · rw [if_pos hlt] at hm
        have h1 := fmsg_min hf m hm
        rw [Int32.lt_iff_toInt_lt] at hlt
        have h2 : (now S).toInt < tmJ q := hlt
        unfold nlt at h1
        omega
      · rw [if_neg hlt] at hb hm
        have hj := fmsg_mem hf
        have hb1 : s_gh (arrive S k q) 0 ≤ 1000000 := Nat.le_trans (gle_msgs n).1 hb
        have hdu : tmJ q ≤ (now S).toInt := by
          rw [Int32.lt_iff_toInt_lt] at hlt
          show q.2.2.2.2.2.2.toInt ≤ _
          omega
        have hd1 := dueN_arrive h hj hdu hb1
        have := ih _ (Inv_arrive h hj hb1) (by omega) hb m hm
        rw [now_LK (LK_arrive (S := S) (m := q) (k := k))] at this
        exact this
/-- links: what has ended is gone -/
theorem links_rest : ∀ (n k : Nat) (S : SS), (s_ou S).length < k + n → (∀ j o, j < k → (s_ou S)[j]? = some o → o.2.2 ≠ now S) → (∀ o ∈ s_ou (links n k S), o ∈ s_ou S ∧ o.2.2 ≠ now S) ∧ s_sc (links n k S) = s_sc S ∧ s_ms (links n k S) = s_ms S ∧ s_dl (links n k S) = s_dl S ∧ (s_ou (links n k S)).length ≤ (s_ou S).length := by
  intro n
  induction n with
  | zero =>
    intro k S h1 h2
    refine ⟨fun o ho => ⟨ho, ?_⟩, rfl, rfl, rfl, Nat.le_refl _⟩
    obtain ⟨j, hj⟩ := List.mem_iff_getElem?.mp (show o ∈ s_ou S from ho)
    have hjl := (List.getElem?_eq_some_iff.mp hj).1
    exact h2 j o (by omega) hj
  | succ n ih =>
    intro k S h1 h2
    unfold links
    cases hk : (s_ou S)[k]? with
    | none =>
      have hkl : (s_ou S).length ≤ k := List.getElem?_eq_none_iff.mp hk
      refine ⟨fun o ho => ⟨ho, ?_⟩, rfl, rfl, rfl, Nat.le_refl _⟩
      obtain ⟨j, hj⟩ := List.mem_iff_getElem?.mp (show o ∈ s_ou S from ho)
      have hjl := (List.getElem?_eq_some_iff.mp hj).1
      exact h2 j o (by omega) hj
    | some o =>
      have hkl := (List.getElem?_eq_some_iff.mp hk).1
      dsimp only
      obtain ⟨S1, hS1⟩ : ∃ S1 : SS, S1 = if o.2.1 = now S then u_nd S o.1 4 1 else S := ⟨_, rfl⟩
      rw [← hS1]
      have e1 : s_ou S1 = s_ou S := by rw [hS1]; split <;> rfl
      have e2 : s_sc S1 = s_sc S := by rw [hS1]; split <;> rfl
      have e3 : s_ms S1 = s_ms S := by rw [hS1]; split <;> rfl
      have e4 : s_dl S1 = s_dl S := by rw [hS1]; split <;> rfl
      have e5 : now S1 = now S := congrFun e2 8
      by_cases hto : o.2.2 = now S1
      · rw [if_pos hto]
        obtain ⟨g1, g2, g3, g4, g5⟩ := ih k (u_ou (u_nd S1 o.1 4 0) ((s_ou S1).eraseIdx k)) (by
          show ((s_ou S1).eraseIdx k).length < _
          rw [e1, List.length_eraseIdx_of_lt hkl]
          omega) (fun j o' hj ho' => by
            have ho2 : ((s_ou S1).eraseIdx k)[j]? = some o' := ho'
            rw [e1, List.getElem?_eraseIdx, if_pos hj] at ho2
            show o'.2.2 ≠ now S1
            rw [e5]
            exact h2 j o' hj ho2)
        refine ⟨fun o' ho' => ?_, g2.trans e2, g3.trans e3, g4.trans e4, ?_⟩
        · obtain ⟨a1, a2⟩ := g1 o' ho'
          have a3 : o' ∈ s_ou S := by
            have := List.mem_of_mem_eraseIdx (show o' ∈ (s_ou S1).eraseIdx k from a1)
            rw [e1] at this
            exact this
          exact ⟨a3, fun hx => a2 (by rw [hx]; exact e5.symm)⟩
        · have : ((s_ou S1).eraseIdx k).length ≤ (s_ou S).length := by rw [e1]; exact List.length_eraseIdx_le _ _
          exact Nat.le_trans g5 this
      · rw [if_neg hto]
        obtain ⟨g1, g2, g3, g4, g5⟩ := ih (k + 1) S1 (by rw [e1]; omega) (fun j o' hj ho' => by
          rw [e1] at ho'
          rw [e5]
          by_cases hjk : j = k
          · subst hjk
            rw [hk] at ho'
            cases ho'
            rw [e5] at hto
            exact hto
          · exact h2 j o' (by omega) ho')
        refine ⟨fun o' ho' => ?_, g2.trans e2, g3.trans e3, g4.trans e4, by rw [← e1]; exact g5⟩
        obtain ⟨a1, a2⟩ := g1 o' ho'
        exact ⟨by rw [← e1]; exact a1, fun hx => a2 (by rw [hx, e5])⟩
theorem Inv_links : ∀ (n k : Nat) (S : SS), Inv S → Inv (links n k S) := by
  intro n
  induction n with
  | zero => intro k S h; exact h
  | succ n ih =>
    intro k S h
    unfold links
    cases hk : (s_ou S)[k]? with
    | none => exact h
    | some o =>
      dsimp only
      have cutI : ∀ (S0 : SS) (v : Int32), Inv S0 → (v = 0 ∨ v = 1) → Inv (u_nd S0 o.1 4 v) := fun S0 v h0 hv => h0.nd (by decide) (fun hi => by
        obtain ⟨a1, a2, a3, a4, a5, a6, a7⟩ := h0.2.1 o.1 hi
        exact ⟨a1, a2, a3, a4, a5, hv, a7⟩)
      have h1 : Inv (if o.2.1 = now S then u_nd S o.1 4 1 else S) := by
        split
        · exact cutI S 1 h (Or.inr rfl)
        · exact h
      obtain ⟨S1, hS1⟩ : ∃ S1 : SS, S1 = if o.2.1 = now S then u_nd S o.1 4 1 else S := ⟨_, rfl⟩
      rw [← hS1] at h1 ⊢
      split
      · have h2 := cutI S1 0 h1 (Or.inl rfl)
        refine ih k _ ⟨h2.1, h2.2.1, h2.2.2.1, h2.2.2.2.1, h2.2.2.2.2.1, h2.2.2.2.2.2.1, fun o' ho' => h2.2.2.2.2.2.2.1 o' (List.mem_of_mem_eraseIdx ho'), h2.2.2.2.2.2.2.2.1, ?_, h2.2.2.2.2.2.2.2.2.2⟩
        exact Nat.le_trans (List.length_eraseIdx_le _ _) h2.2.2.2.2.2.2.2.2.1
      · exact ih (k + 1) S1 h1
end RST
