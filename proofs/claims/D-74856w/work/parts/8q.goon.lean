/-! the messages' loop, happen, step, going on -/
set_option maxRecDepth 100000
/-- happen's loop ends -/
def hDone (S : SS) : Prop := mDone (s_ms (changeLinks S)).length (changeLinks S)
def sDone (S : SS) (t : Int32) : Prop := t < nextEvent S ∨ hDone (pass S (mn (nextEvent S) t))
/-- going on to t ends after n steps -/
def gDone : Nat → SS → Int32 → Prop
  | 0, s, t => t ≤ now s
  | n + 1, s, t => t ≤ now s ∨ (sDone s t ∧ gDone n (step s t) t)
section MGo
variable {E : PE} {B : Nat × Nat} {F : Nat → Nat} {R : PM}
theorem SQ.to {S : SS} {h : PH} {li k q : Nat} (hS : SQ E B F R S h li k q) : SP E B F R S h := by
  obtain ⟨G, ad, I, g1, g2, hr, -, -⟩ := hS
  exact ⟨G, ad, I, g1, g2, hr⟩
theorem m_msgs (hB2 : B.2 < 2 ^ 25) (hx : EX E) : ∀ (n : Nat) (S : SS) (h : PH) (r : Option Nat), SP E B F R S h → BI S → mDone n S → ((fmsg (s_ms S) = none ∧ r = none) ∨ ∃ (k q : Nat) (m : MG), fmsg (s_ms S) = some (k, m) ∧ r = some q ∧ SQ E B F R S h 2 k q ∧ (s_ms S)[k]? = some m) → fitB B (fin (msgsNow n S)) → ∀ N : Nat, n < N → okk (f_X2_happen_L9 N (some (F 0)) r h) (fun b => SP E B F R (fin (msgsNow n S)) b.2) := by
  intro n
  have FUb := FU_big
  have fine : ∀ {S : SS} {h : PH}, SP E B F R S h → BI S → fitB B (fin S) → okk (f_X2_happen_B37 (some (F 0)) h) (fun b => SP E B F R (fin S) b.2) := by
    intro S h hS hb hf
    have hd := lsz hS (li := 3) (by decide) (by decide)
    rw [len3] at hd
    unfold f_X2_happen_B37
    exact m_del hB2 _ 0 S h hS hb (Nat.zero_le _) (by omega) hf FU (by omega)
  have late : ∀ {S : SS} {h : PH} {k q : Nat} {m : MG} {N : Nat}, SQ E B F R S h 2 k q → (s_ms S)[k]? = some m → BI S → now S < m.2.2.2.2.2.2 → fitB B (fin S) → okk (f_X2_happen_L9 (N + 1) (some (F 0)) (some q) h) (fun b => SP E B F R (fin S) b.2) := by
    intro S h k q m N hS hk hb hl hf
    have hS0 := hS.to
    obtain ⟨x, x1, x2, x3⟩ := hS.sp (by decide) (by decide)
    have ex : x = cMsg (sAd E) m := by
      have h1 : ((s_ms S).map (cMsg (sAd E)))[k]? = some x := x1
      rw [List.getElem?_map, hk] at h1
      exact (Option.some.inj h1).symm
    subst ex
    unfold f_X2_happen_L9
    rw [if_neg (by simp), r_m x3 (m := m) (if_pos rfl) x2 (k := 6) rfl, r_sc hS0 (by decide) (by decide), if_pos hl]
    exact fine hS0 hb hf
  induction n with
  | zero =>
    intro S h r hS hb hd hr hf N hN
    cases N with
    | zero => omega
    | succ N =>
      rcases hr with ⟨f1, rfl⟩ | ⟨k, q, m, f1, rfl, f2, f3⟩
      · unfold f_X2_happen_L9
        rw [if_pos rfl]
        exact fine hS hb hf
      · unfold mDone at hd
        rw [f1] at hd
        exact late f2 f3 hb hd hf
  | succ n ih =>
    intro S h r hS hb hd hr hf N hN
    cases N with
    | zero => omega
    | succ N =>
      unfold msgsNow at hf ⊢
      unfold mDone at hd
      rcases hr with ⟨f1, rfl⟩ | ⟨k, q, m, f1, rfl, f2, f3⟩
      · rw [f1] at hf ⊢
        unfold f_X2_happen_L9
        rw [if_pos rfl]
        exact fine hS hb hf
      · rw [f1] at hf hd ⊢
        dsimp only at hf hd ⊢
        by_cases hl : now S < m.2.2.2.2.2.2
        · rw [if_pos hl] at hf ⊢
          exact late f2 f3 hb hl hf
        · rw [if_neg hl] at hf ⊢
          have hd2 := hd.resolve_left hl
          have hm := hb.2.1 m (List.mem_of_getElem? f3)
          have hfa : fitB B (arrive S k m) := hf.le ((gle_msgs n).tr gle_fin)
          obtain ⟨x, x1, x2, x3⟩ := f2.sp (by decide) (by decide)
          have ex : x = cMsg (sAd E) m := by
            have h1 : ((s_ms S).map (cMsg (sAd E)))[k]? = some x := x1
            rw [List.getElem?_map, f3] at h1
            exact (Option.some.inj h1).symm
          subst ex
          unfold f_X2_happen_L9
          rw [if_neg (by simp), r_m x3 (m := m) (if_pos rfl) x2 (k := 6) rfl, r_sc hS (by decide) (by decide), if_neg hl, r_sim hS]
          refine okk_cl ((m_arrive f2 f3 hb.1 hx hm hfa hB2).mono fun b hb1 => ?_)
          obtain ⟨u, h6⟩ := b
          have s1 : SP E B F R (arrive S k m) h6 := hb1
          show okk (rv_ h6 (some (F 0)) 1 _) _
          obtain ⟨r2, e1, e2⟩ := m_first s1
          rw [r_sim s1, cl_eq e1]
          exact ih _ h6 r2 s1 (BI_arrive hb hm) hd2 e2 hf N (by omega)
theorem m_happen {S : SS} {h : PH} (hS : SP E B F R S h) (hb : BI S) (hx : EX E) (hd : hDone S) (hf : fitB B (happen S)) (hB2 : B.2 < 2 ^ 25) : okk (f_X2_happen (some (F 0)) h) (fun b => SP E B F R (happen S) b.2) := by
  have FUb := FU_big
  have ho := lsz hS (li := 4) (by decide) (by decide)
  rw [len4] at ho
  rw [happen_eq] at hf ⊢
  unfold f_X2_happen
  rw [r_sim hS]
  have h1 : okk (f_X2_changeLinks (some (F 0)) h) (fun b => SP E B F R (changeLinks S) b.2) := m_links hB2 _ 0 S h hS (Nat.zero_le _) (by omega) hb.2.2.1 FU (by omega)
  refine okk_cl (h1.mono fun b hb1 => ?_)
  obtain ⟨u, h2⟩ := b
  have s1 : SP E B F R (changeLinks S) h2 := hb1
  show okk (rv_ h2 (some (F 0)) 1 _) _
  obtain ⟨r, e1, e2⟩ := m_first s1
  rw [r_sim s1, cl_eq e1]
  have hl := lsz s1 (li := 2) (by decide) (by decide)
  rw [len2] at hl
  exact m_msgs hB2 hx _ _ h2 r s1 (BI_links _ _ hb) hd e2 hf FU (by omega)
theorem BI_step {S : SS} {t : Int32} (h : BI S) : BI (step S t) := by
  unfold step
  dsimp only
  split
  · exact BI_pass h
  · exact BI_happen (BI_pass h)
theorem gle_pass {S : SS} {t : Int32} : gle S (pass S t) := by
  unfold gle
  rw [gh_pass]
  exact ⟨Nat.le_refl _, Nat.le_refl _⟩
theorem gle_step {S : SS} {t : Int32} : gle S (step S t) := by
  unfold step
  dsimp only
  split
  · exact gle_pass
  · exact gle_pass.tr gle_happen
theorem gle_goOn : ∀ (n : Nat) {S : SS} {t : Int32}, gle S (goOn n S t)
  | 0, _, _ => gle.rf
  | n + 1, S, t => by
    unfold goOn
    split
    · exact gle.rf
    · exact gle_step.tr (gle_goOn n)
theorem BI_goOn : ∀ (n : Nat) {S : SS} {t : Int32}, BI S → BI (goOn n S t)
  | 0, _, _, h => h
  | n + 1, S, t, h => by
    unfold goOn
    split
    · exact h
    · exact BI_goOn n (BI_step h)
theorem m_step {S : SS} {h : PH} {t : Int32} (hS : SP E B F R S h) (hb : BI S) (hx : EX E) (hd : sDone S t) (hf : fitB B (step S t)) (hB2 : B.2 < 2 ^ 25) : okk (f_X2_step (some (F 0)) t h) (fun b => SP E B F R (step S t) b.2) := by
  unfold f_X2_step f_X2_step_B23
  rw [r_sim hS, cl_eq (m_nextEvent hS), r_sim hS]
  unfold step at hf ⊢
  dsimp only at hf ⊢
  rw [show (if t < nextEvent S then t else nextEvent S) = mn (nextEvent S) t from rfl]
  refine okk_cl ((m_pass hS hb.1).mono fun b hb1 => ?_)
  obtain ⟨u, h3⟩ := b
  have s1 : SP E B F R (pass S (mn (nextEvent S) t)) h3 := hb1
  by_cases hc : t < nextEvent S
  · show okk (if t < nextEvent S then _ else _) _
    rw [if_pos hc, if_pos hc]
    exact ⟨_, rfl, s1⟩
  · show okk (if t < nextEvent S then _ else _) _
    rw [if_neg hc]
    rw [if_neg hc] at hf ⊢
    rw [r_sim s1]
    exact okk_cl ((m_happen s1 (BI_pass hb) hx (hd.resolve_left hc) hf hB2).mono fun b hb2 => ⟨_, rfl, hb2⟩)
theorem m_goOn (hB2 : B.2 < 2 ^ 25) (hx : EX E) : ∀ (n : Nat) (S : SS) (h : PH) (t : Int32), SP E B F R S h → BI S → gDone n S t → fitB B (goOn n S t) → ∀ N : Nat, n < N → okk (f_X2_goOn_L0 N (some (F 0)) t h) (fun b => SP E B F R (goOn n S t) b.2) := by
  intro n
  induction n with
  | zero =>
    intro S h t hS hb hd hf N hN
    cases N with
    | zero => omega
    | succ N =>
      unfold f_X2_goOn_L0
      rw [r_sc hS (by decide) (by decide), if_pos (show t ≤ s_sc S 8 from hd)]
      exact ⟨_, rfl, hS⟩
  | succ n ih =>
    intro S h t hS hb hd hf N hN
    cases N with
    | zero => omega
    | succ N =>
      unfold f_X2_goOn_L0
      unfold goOn at hf ⊢
      rw [r_sc hS (by decide) (by decide)]
      by_cases hc : t ≤ now S
      · rw [if_pos hc, if_pos hc]
        exact ⟨_, rfl, hS⟩
      · rw [if_neg hc]
        rw [if_neg hc] at hf ⊢
        have hd2 := hd.resolve_left hc
        rw [r_sim hS]
        refine okk_cl ((m_step hS hb hx hd2.1 (hf.le (gle_goOn n)) hB2).mono fun b hb1 => ?_)
        exact ih _ _ t hb1 (BI_step hb) hd2.2 hf N (by omega)
end MGo
