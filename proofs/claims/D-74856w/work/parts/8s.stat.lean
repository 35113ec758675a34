/-! what never changes: the configuration, the number of nodes, their clocks and delays -/
set_option maxRecDepth 100000
def stat (S S' : SS) : Prop := s_cf S' = s_cf S ∧ s_n S' = s_n S ∧ ∀ i k : Nat, k = 1 ∨ k = 20 ∨ k = 21 → s_nd S' i k = s_nd S i k
theorem stat.rf {S : SS} : stat S S := ⟨rfl, rfl, fun _ _ _ => rfl⟩
theorem stat.tr {a b c : SS} (h : stat a b) (g : stat b c) : stat a c := ⟨g.1.trans h.1, g.2.1.trans h.2.1, fun i k hk => (g.2.2 i k hk).trans (h.2.2 i k hk)⟩
section ST2
variable {S : SS}
theorem st_sc {k : Nat} {v : Int32} : stat S (u_sc S k v) := stat.rf
theorem st_ar2 {j k : Nat} {v : Int32} : stat S (u_ar S j k v) := stat.rf
theorem st_mk {c k : Nat} : stat S (g_mk S c k) := stat.rf
theorem st_ga {c k : Nat} : stat S (g_add S c k) := stat.rf
theorem st_ms {l : List MG} : stat S (u_ms S l) := stat.rf
theorem st_dl {l : List DG} : stat S (u_dl S l) := stat.rf
theorem st_ou {l : List OG} : stat S (u_ou S l) := stat.rf
theorem st_watch {m : MG} {i : Int32} : stat S (watch S m i) := stat.rf
theorem st_of {S' : SS} (h : cS S S') : stat S S' := ⟨h.1, h.2.1, fun i k _ => by rw [h.2.2]⟩
theorem st_note {k : Nat} {n t : Int32} : stat S (note S k n t) := st_of cS_note
theorem st_send {k n l : Nat} {a b c : Int32} : stat S (send S k n l a b c) := st_of cS_send
theorem st_nd {i k : Nat} {v : Int32} (hk : k ≠ 1 ∧ k ≠ 20 ∧ k ≠ 21) : stat S (u_nd S i k v) := by
  refine ⟨rfl, rfl, fun j k' hk' => ?_⟩
  show fu (s_nd S) i (fu (s_nd S i) k v) j k' = s_nd S j k'
  by_cases h : j = i
  · subst h
    rw [fu_eq, fu_ne (by omega)]
  · rw [fu_ne h]
theorem st_tm {i : Nat} {v : Int32} : stat S (setTimer S i v) := st_nd (by decide)
theorem st_acquire {i : Nat} : stat S (acquire S i) := by
  unfold acquire
  dsimp only
  exact (st_tm.tr (st_nd (by decide))).tr st_send
theorem st_decide {m : MG} : stat S (decide_ S m) := by
  unfold decide_
  dsimp only
  split
  · exact st_note.tr st_send
  · split
    · exact ((st_sc.tr st_sc).tr st_note).tr st_send
    · exact (((st_sc.tr st_sc).tr st_sc).tr st_note).tr st_send
theorem st_granted {m : MG} : stat S (granted S m) := by
  unfold granted
  dsimp only
  split
  · exact st_send
  · split
    · exact stat.rf
    · split
      · exact ((((st_nd (by decide)).tr (st_nd (by decide))).tr (st_nd (by decide))).tr (st_nd (by decide))).tr st_tm
      · exact (st_nd (by decide)).tr st_tm
theorem st_atNode {m : MG} : stat S (atNode S m) := by
  unfold atNode
  dsimp only
  split
  · exact st_granted
  · split
    · split
      · exact stat.rf
      · exact st_tm
    · split
      · split
        · exact (st_nd (by decide)).tr (st_nd (by decide))
        · exact stat.rf
      · split
        · exact (st_nd (by decide)).tr (st_nd (by omega))
        · exact stat.rf
theorem st_release {m : MG} : stat S (release S m) := by
  unfold release
  split
  · split
    · exact st_sc
    · exact st_note.tr st_sc
  · exact stat.rf
theorem st_atStorage {m : MG} : stat S (atStorage S m) := by
  unfold atStorage
  split
  · dsimp only
    split
    · exact st_sc.tr st_send
    · exact ((((st_sc.tr st_ar2).tr st_ar2).tr st_note).tr st_watch).tr st_send
  · unfold fence
    exact ((st_mk.tr st_note).tr st_watch).tr st_send
theorem st_handle {m : MG} : stat S (handle S m) := by
  unfold handle
  split
  · exact st_decide
  · split
    · exact st_release
    · split
      · exact st_atStorage
      · exact st_atNode
theorem st_arrive {m : MG} {k : Nat} : stat S (arrive S k m) := by
  unfold arrive
  dsimp only
  split
  · exact (st_ms.tr st_sc).tr st_watch
  · split
    · exact ((st_ms.tr st_mk).tr st_ga).tr st_ms
    · exact st_ms.tr st_handle
theorem st_msgs : ∀ (n : Nat) {S : SS}, stat S (msgsNow n S)
  | 0, _ => stat.rf
  | n + 1, S => by
    unfold msgsNow
    split
    · exact stat.rf
    · split
      · exact stat.rf
      · exact st_arrive.tr (st_msgs n)
theorem st_del : ∀ (n k : Nat) {S : SS}, stat S (delNow n k S)
  | 0, _, _ => stat.rf
  | n + 1, k, S => by
    unfold delNow
    split
    · exact stat.rf
    · split
      · exact (st_dl.tr st_send).tr (st_del n k)
      · exact st_del n (k + 1)
theorem st_tim {i : Nat} : stat S (timNd S i) := by
  unfold timNd
  split
  · split
    · exact st_nd (by decide)
    · exact st_acquire
  · exact stat.rf
theorem st_timsL : ∀ (l : List Nat) {S : SS}, stat S (l.foldl timNd S)
  | [], _ => stat.rf
  | i :: l, S => st_tim.tr (st_timsL l)
theorem st_links : ∀ (n k : Nat) {S : SS}, stat S (links n k S)
  | 0, _, _ => stat.rf
  | n + 1, k, S => by
    unfold links
    split
    · exact stat.rf
    · rename_i o ho
      dsimp only
      have h1 : stat S (if o.2.1 = now S then u_nd S o.1 4 1 else S) := by
        split
        · exact st_nd (by decide)
        · exact stat.rf
      obtain ⟨S1, hS1⟩ : ∃ S1, (if o.2.1 = now S then u_nd S o.1 4 1 else S) = S1 := ⟨_, rfl⟩
      rw [hS1] at h1 ⊢
      split
      · exact ((h1.tr (st_nd (by decide))).tr st_ou).tr (st_links n k)
      · exact h1.tr (st_links n (k + 1))
theorem st_happen : stat S (happen S) := by
  unfold happen changeLinks
  dsimp only
  exact (((st_links _ _).tr (st_msgs _)).tr (st_del _ _)).tr (st_timsL _)
theorem st_pass {t : Int32} : stat S (pass S t) := by
  unfold pass
  dsimp only
  have : ∀ (l : List Nat) (q : SS × Int32 × Int32), stat q.1 (l.foldl (passNd t) q).1 := by
    intro l
    induction l with
    | nil => intro q; exact stat.rf
    | cons i l ih =>
      intro q
      refine stat.tr ?_ (ih _)
      rw [passNd_1]
      exact st_nd (by decide)
  exact (((this _ (S, now S, now S)).tr st_sc).tr st_sc).tr st_sc
theorem st_step {t : Int32} : stat S (step S t) := by
  unfold step
  dsimp only
  split
  · exact st_pass
  · exact st_pass.tr st_happen
end ST2
section MNL
variable {E : PE} {B : Nat × Nat} {F : Nat → Nat} {R : PM}
theorem gle_nextLead : ∀ (n : Nat) {S : SS} {t old f : Int32}, gle S (nextLead n S t old f).2
  | 0, _, _, _, _ => gle.rf
  | n + 1, S, t, old, f => by
    unfold nextLead
    split
    · exact gle.rf
    · split
      · exact gle_step.tr (gle_nextLead n)
      · exact gle.rf
theorem of_pred {k : Nat} : Int32.ofNat (k + 1) + (-1) = Int32.ofNat k := by
  rw [← ofs k, Int32.add_assoc]
  show Int32.ofNat k + (1 + -1) = _
  rw [show (1 : Int32) + -1 = 0 from by decide]
  exact Int32.add_zero _
theorem m_nextLeadL (hB2 : B.2 < 2 ^ 25) (hx : EX E) : ∀ (n : Nat) (S : SS) (h : PH) (t old f : Int32), SP E B F R S h → BI S → nDone n S t old f → fitB B (nextLead n S t old f).2 → ∀ N : Nat, n < N → okk (f_X2_nextLeader_L8 N (some (F 0)) t old f h) (fun b => b.1 = (nextLead n S t old f).1 ∧ SP E B F R (nextLead n S t old f).2 b.2) := by
  intro n
  induction n with
  | zero =>
    intro S h t old f hS hb hd hf N hN
    cases N with
    | zero => omega
    | succ N =>
      unfold f_X2_nextLeader_L8 f_X2_nextLeader_B79
      rw [r_sc hS (by decide) (by decide)]
      by_cases hc : t ≤ now S
      · rw [if_pos hc]
        exact ⟨_, rfl, rfl, hS⟩
      · rw [if_neg hc, if_neg (hd.resolve_left hc)]
        exact ⟨_, rfl, rfl, hS⟩
  | succ n ih =>
    intro S h t old f hS hb hd hf N hN
    cases N with
    | zero => omega
    | succ N =>
      unfold f_X2_nextLeader_L8 f_X2_nextLeader_B79
      unfold nextLead at hf ⊢
      rw [r_sc hS (by decide) (by decide)]
      by_cases hc : t ≤ now S
      · rw [if_pos hc]
        rw [if_pos hc]
        exact ⟨_, rfl, rfl, hS⟩
      · rw [if_neg hc]
        rw [if_neg hc] at hf ⊢
        by_cases hf4 : f = -4
        · rw [if_pos hf4]
          rw [if_pos hf4] at hf ⊢
          have hd2 := (hd.resolve_left hc).resolve_left (fun hx => hx hf4)
          rw [r_sim hS]
          refine okk_cl ((m_step hS hb hx hd2.1 (hf.le (gle_nextLead n)) hB2).mono fun b hb1 => ?_)
          obtain ⟨u, h4⟩ := b
          have s1 : SP E B F R (step S t) h4 := hb1
          have hbs : BI (step S t) := BI_step hb
          have hn := s1.base.2.2
          have FUb := FU_big
          show okk (gR h4 (some (F 0)) 1 1 _) _
          rw [r_ref s1 (by decide) (by decide), r_n s1]
          have scan : ∀ (k M : Nat) (g : Int32), k ≤ s_n (step S t) → k < M → f_X2_nextLeader_L36 (f_X2_nextLeader_L8 N) M (some (F 0)) t old g (Int32.ofNat k - 1) h4 = f_X2_nextLeader_L8 N (some (F 0)) t old (scanL (step S t) old k g) h4 := by
            intro k
            induction k with
            | zero =>
              intro M g h1 h2
              cases M with
              | zero => omega
              | succ M =>
                unfold f_X2_nextLeader_L36
                rw [if_pos (by decide)]
                rfl
            | succ k ihk =>
              intro M g h1 h2
              cases M with
              | zero => omega
              | succ M =>
                have ek : Int32.ofNat (k + 1) - 1 = Int32.ofNat k := by
                  have := of_sub (a := k + 1) (b := 1) (by omega)
                  exact this
                have ek2 : Int32.ofNat k + (-1) = Int32.ofNat k - 1 := by rw [Int32.sub_eq_add_neg]
                unfold f_X2_nextLeader_L36 f_X2_nextLeader_B70 scanL
                rw [ek, if_neg (show ¬ Int32.ofNat k < 0 by rw [show (0 : Int32) = Int32.ofNat 0 from rfl, of_lt (by omega) (by omega)]; omega), ek2]
                by_cases ho : ((old >>> (Int32.ofNat k &&& 31)) &&& (1 : Int32)) = 0
                · rw [if_pos ho, r_ref s1 (by decide) (by decide), r_nds s1 (by omega), r_sc s1 (by decide) (by decide), r_ndv s1 (by omega), cl_eq (m_leads s1 (by omega) hbs.1)]
                  by_cases hl : leads (step S t) k (now (step S t)) = true
                  · rw [if_pos hl, if_neg (by decide), if_pos ⟨ho, hl⟩]
                    exact ihk M _ (by omega) (by omega)
                  · rw [if_neg hl, if_pos rfl, if_neg (fun hx => hl hx.2)]
                    exact ihk M _ (by omega) (by omega)
                · rw [if_neg ho, if_neg (fun hx => ho hx.1)]
                  exact ihk M _ (by omega) (by omega)
          rw [scan (s_n (step S t)) FU f (Nat.le_refl _) (by omega)]
          exact ih _ h4 t old _ s1 hbs hd2.2 hf N (by omega)
        · rw [if_neg hf4]
          rw [if_neg hf4]
          exact ⟨_, rfl, rfl, hS⟩
end MNL
