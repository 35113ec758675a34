/-! the first message, the next event -/
set_option maxRecDepth 100000
section ML
variable {E : PE} {B : Nat × Nat} {F : Nat → Nat} {R : PM} {S : SS} {h : PH}
theorem FU_big : (2 : Nat) ^ 31 < FU := Nat.le_of_ble_eq_true rfl
theorem ofs (i : Nat) : Int32.ofNat i + 1 = Int32.ofNat (i + 1) := of_add i 1
theorem m_before {a b : Nat} {m q : MG} (e1 : h.1 a = some (cMsg (sAd E) m)) (e2 : h.1 b = some (cMsg (sAd E) q)) : f_X16_isBefore (some a) (some b) h = some (if bef m q then 1 else 0, h) := by
  unfold f_X16_isBefore f_X16_isBefore_B33 f_X16_isBefore_B37 f_X16_isBefore_B38
  rw [gI_at e1 (v := m.2.2.2.2.2.2) rfl, gI_at e2 (v := q.2.2.2.2.2.2) rfl]
  unfold bef
  by_cases c1 : m.2.2.2.2.2.2 < q.2.2.2.2.2.2
  · rw [if_pos c1, rN_at nar01.2]
    simp [c1]
  · rw [if_neg c1, gI_at e1 (v := m.2.2.2.2.2.2) rfl, gI_at e2 (v := q.2.2.2.2.2.2) rfl]
    by_cases c2 : m.2.2.2.2.2.2 = q.2.2.2.2.2.2
    · rw [if_pos c2, gI_at e1 (v := m.2.2.1) rfl, gI_at e2 (v := q.2.2.1) rfl]
      by_cases c3 : q.2.2.1 ≤ m.2.2.1
      · rw [if_pos c3, rN_at nar01.1]
        have : ¬ m.2.2.1 < q.2.2.1 := Int32.not_lt.mpr c3
        simp [c1, this]
      · rw [if_neg c3, rN_at nar01.2]
        have : m.2.2.1 < q.2.2.1 := Int32.not_le.mp c3
        simp [c2, this]
    · rw [if_neg c2, rN_at nar01.1]
      simp [c1, c2]
theorem lsz (hS : SP E B F R S h) {li : Nat} (h1 : 2 ≤ li) (h2 : li < 6) : (lsC E S li).length < 2 ^ 30 := by
  obtain ⟨G, ad, I, g1, g2, hr⟩ := hS
  obtain ⟨-, -, -, f, -, -, -, a7, a8, -⟩ := hr.lst h1 h2
  omega
theorem fmGo_mem {l : List MG} : ∀ {i : Nat} {acc : Option (Nat × MG)} {k : Nat} {m : MG}, fmGo l i acc = some (k, m) → acc = some (k, m) ∨ ∃ j : Nat, k = i + j ∧ l[j]? = some m := by
  induction l with
  | nil => intro i acc k m hx; exact Or.inl hx
  | cons x l ih =>
    intro i acc k m hx
    cases acc with
    | none =>
      rcases ih hx with h1 | ⟨j, h1, h2⟩
      · cases h1
        exact Or.inr ⟨0, rfl, rfl⟩
      · exact Or.inr ⟨j + 1, by omega, h2⟩
    | some f =>
      unfold fmGo at hx
      rcases ih hx with h1 | ⟨j, h1, h2⟩
      · by_cases hb : bef x f.2 = true
        · rw [if_pos hb] at h1
          cases h1
          exact Or.inr ⟨0, rfl, rfl⟩
        · rw [if_neg hb] at h1
          exact Or.inl h1
      · exact Or.inr ⟨j + 1, by omega, h2⟩
theorem fmsg_mem {l : List MG} {k : Nat} {m : MG} (hx : fmsg l = some (k, m)) : l[k]? = some m := by
  rcases fmGo_mem hx with h1 | ⟨j, h1, h2⟩
  · cases h1
  · rw [h1, Nat.zero_add]; exact h2
theorem m_first (hS : SP E B F R S h) : ∃ r : Option Nat, f_X2_firstMessage (some (F 0)) h = some (r, h) ∧ ((fmsg (s_ms S) = none ∧ r = none) ∨ ∃ (k q : Nat) (m : MG), fmsg (s_ms S) = some (k, m) ∧ r = some q ∧ SQ E B F R S h 2 k q ∧ (s_ms S)[k]? = some m) := by
  have hS0 := hS
  have hlen := lsz hS (li := 2) (by decide) (by decide)
  obtain ⟨G, ad, I, g1, g2, hr⟩ := hS
  have hg2 : G 2 = F 2 := g1 2 (Or.inl (by decide))
  have cell : ∀ (i : Nat) (m : MG), (s_ms S)[i]? = some m → h.1 (ad 2 i) = some (cMsg (sAd E) m) := by
    intro i m hi
    have hx : (lsC E S 2)[i]? = some (cMsg (sAd E) m) := by
      show ((s_ms S).map (cMsg (sAd E)))[i]? = _
      rw [List.getElem?_map, hi]; rfl
    exact (hr.2.1 _ _ (hr.2.2.2.2.2.1.2.2.2.2.2.1 2 i _ (by decide) (by decide) hx).1).1
  have get : ∀ i : Nat, i < (s_ms S).length → f_J2_get (some (F 2)) (Int32.ofNat i) h = some (some (ad 2 i), h) := by
    intro i hi
    rw [← hg2]
    exact hr.get (by decide) (by decide) (by rw [len2]; exact hi)
  rw [len2] at hlen
  have loop : ∀ (n i : Nat) (acc : Option (Nat × MG)), i ≤ (s_ms S).length → (s_ms S).length < i + n → (∀ k m, acc = some (k, m) → (s_ms S)[k]? = some m) → f_X2_firstMessage_L4 n (some (F 0)) (acc.map fun q => ad 2 q.1) (Int32.ofNat i) h = some ((fmGo ((s_ms S).drop i) i acc).map (fun q => ad 2 q.1), h) := by
    intro n
    induction n with
    | zero => intro i acc h1 h2; omega
    | succ n ih =>
      intro i acc h1 h2 hacc
      unfold f_X2_firstMessage_L4
      rw [r_ref hS0 (by decide) (by decide), r_lsv hS0 (by decide) (by decide), cl_eq (r_size hS0 (by decide) (by decide)), len2]
      by_cases hi : i = (s_ms S).length
      · rw [if_pos ((of_le (by omega) (by omega)).mpr (by omega)), hi, List.drop_length]
        rfl
      · have hil : i < (s_ms S).length := by omega
        have hm : (s_ms S)[i]? = some ((s_ms S)[i]) := List.getElem?_eq_getElem hil
        rw [if_neg (fun hx => by rw [of_le (by omega) (by omega)] at hx; omega), List.drop_eq_getElem_cons hil]
        cases acc with
        | none =>
          rw [if_pos (show Option.map (fun q : Nat × MG => ad 2 q.1) none = none from rfl)]
          unfold f_X2_firstMessage_B41 f_X2_firstMessage_B55
          rw [r_ref hS0 (by decide) (by decide), r_lsv hS0 (by decide) (by decide), cl_eq (get i hil), kC_at (cell i _ hm), ofs]
          exact ih (i + 1) (some (i, (s_ms S)[i])) (by omega) (by omega) (fun k m hk => by cases hk; exact hm)
        | some f =>
          obtain ⟨k, m⟩ := f
          have hk := hacc k m rfl
          rw [if_neg (by simp)]
          rw [r_ref hS0 (by decide) (by decide), r_lsv hS0 (by decide) (by decide), cl_eq (get i hil), kC_at (cell i _ hm), rv_at (cell i _ hm)]
          have eb := m_before (E := E) (cell i _ hm) (cell k _ hk)
          have eb2 : f_X16_isBefore (some (ad 2 i)) (Option.map (fun q => ad 2 q.1) (some (k, m))) h = some (if bef (s_ms S)[i] m then 1 else 0, h) := eb
          rw [cl_eq eb2]
          unfold fmGo
          by_cases hb : bef (s_ms S)[i] m = true
          · rw [if_pos hb, if_neg (by decide), if_pos hb]
            unfold f_X2_firstMessage_B41 f_X2_firstMessage_B55
            rw [r_ref hS0 (by decide) (by decide), r_lsv hS0 (by decide) (by decide), cl_eq (get i hil), kC_at (cell i _ hm), ofs]
            exact ih (i + 1) (some (i, (s_ms S)[i])) (by omega) (by omega) (fun k m hk => by cases hk; exact hm)
          · rw [if_neg hb, if_pos rfl, if_neg hb]
            unfold f_X2_firstMessage_B55
            rw [ofs]
            exact ih (i + 1) (some (k, m)) (by omega) (by omega) hacc
  have hl := loop FU 0 none (Nat.zero_le _) (by have := FU_big; omega) (fun k m hk => by cases hk)
  refine ⟨_, hl, ?_⟩
  rw [List.drop_zero]
  show (fmsg (s_ms S) = none ∧ (fmsg (s_ms S)).map (fun q => ad 2 q.1) = none) ∨ _
  cases hf : fmsg (s_ms S) with
  | none => exact Or.inl ⟨rfl, rfl⟩
  | some q =>
    obtain ⟨k, m⟩ := q
    have hk := fmsg_mem hf
    refine Or.inr ⟨k, ad 2 k, m, rfl, ?_, ⟨G, ad, I, g1, g2, hr, rfl, ?_⟩, hk⟩
    · show (fmsg (s_ms S)).map (fun q => ad 2 q.1) = _
      rw [hf]; rfl
    · rw [len2]
      exact (List.getElem?_eq_some_iff.mp hk).1
end ML
