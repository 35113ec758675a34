/-! THE TWIN: messagesNow -/
set_option maxRecDepth 100000
/-- the outcome when m arrives -/
noncomputable def outA (S : SS) (m : MG) (o : Int32) : Int32 := @ite Int32 (toNode m.1 = true ∧ paused S m.2.1 (now S) = true ∧ ¬ lostS S m) (Classical.propDecidable _) o (outc S m m.2.2.2.2.2.1 o)
noncomputable def outM : Nat → SS → Int32 → Int32
  | 0, _, o => o
  | n + 1, S, o => match fmsg (s_ms S) with
    | none => o
    | some q => if now S < q.2.2.2.2.2.2.2 then o else outM n (arrive S q.1 q.2) (outA S q.2 o)
theorem pl_lt : ∀ (l : List (Option MG)) (j k : Nat) (a b : MG), (l.filterMap id).Pairwise (fun a b => sq a < sq b) → j < k → l[j]? = some (some a) → l[k]? = some (some b) → sq a < sq b
  | [], j, k, a, b, _, _, h1, _ => by simp at h1
  | x :: l, 0, k + 1, a, b, hp, _, h1, h2 => by
    have : x = some a := by simpa using h1
    subst this
    have h3 : l[k]? = some (some b) := by simpa using h2
    have hp' : (a :: l.filterMap id).Pairwise (fun a b => sq a < sq b) := hp
    exact (List.pairwise_cons.mp hp').1 b (List.mem_filterMap.mpr ⟨some b, List.mem_of_getElem? h3, rfl⟩)
  | x :: l, j + 1, k + 1, a, b, hp, hjk, h1, h2 => by
    have hp' : (l.filterMap id).Pairwise (fun a b => sq a < sq b) := by
      cases x with
      | none => exact hp
      | some q => exact (List.pairwise_cons.mp (show (q :: l.filterMap id).Pairwise (fun a b => sq a < sq b) from hp)).2
    exact pl_lt l j k a b hp' (by omega) (by simpa using h1) (by simpa using h2)
  | x :: l, j, 0, a, b, _, hjk, _, _ => by omega
theorem pl_all : ∀ (l : List (Option MG)), (∀ k : Nat, k < l.length → ∃ q, l[k]? = some (some q)) → (l.filterMap id).map some = l
  | [], _ => rfl
  | x :: l, h => by
    obtain ⟨q, hq⟩ := h 0 (by simp)
    have : x = some q := by simpa using hq
    subst this
    show some q :: (l.filterMap id).map some = some q :: l
    rw [pl_all l (fun k hk => by simpa using h (k + 1) (by simp; omega))]
section TMS
variable {A : Nat → Nat} {T : TS} {h : PH} {ex : Bool × Int32 × Int32} {S : SS} {Pl : List (Option MG)} {w : Nat → Int32}
theorem mem_pl {q : MG} (hp : (Pl.filterMap id).Perm (s_ms S)) : q ∈ s_ms S ↔ ∃ k : Nat, Pl[k]? = some (some q) := by
  rw [← hp.mem_iff, List.mem_filterMap]
  constructor
  · rintro ⟨x, h1, h2⟩
    have : x = some q := h2
    subst this
    exact List.mem_iff_getElem?.mp h1
  · rintro ⟨k, hk⟩
    exact ⟨some q, List.mem_of_getElem? hk, rfl⟩
theorem msgs_id (hm : ∀ m ∈ s_ms S, (now S).toInt < tmI m) : ∀ (n : Nat) (o : Int32), msgsNow n S = S ∧ outM n S o = o := by
  intro n o
  cases n with
  | zero => exact ⟨rfl, rfl⟩
  | succ n =>
    unfold msgsNow outM
    cases hf : fmsg (s_ms S) with
    | none => exact ⟨rfl, rfl⟩
    | some q =>
      obtain ⟨k, m⟩ := q
      have hlt : now S < m.2.2.2.2.2.2 := by
        rw [Int32.lt_iff_toInt_lt]
        exact hm m (List.mem_of_getElem? (fmsg_mem hf))
      dsimp only
      rw [if_pos hlt, if_pos hlt]
      exact ⟨rfl, rfl⟩
/-- the places while the messages that are due arrive: those ahead of x are done -/
def ML (many x : Nat) (S : SS) (Pl : List (Option MG)) : Prop := many ≤ Pl.length ∧ Pl.length ≤ many + x ∧ (∀ (k : Nat) (q : MG), k < x → Pl[k]? = some (some q) → (now S).toInt < tmI q) ∧ (∀ k : Nat, x ≤ k → k < many → ∃ q, Pl[k]? = some (some q)) ∧ ∀ k : Nat, many ≤ k → k < Pl.length → ∃ q, Pl[k]? = some (some q) ∧ (now S).toInt < tmI q
theorem t_msgsL (hA : TA A h) {many : Nat} (hmany : many ≤ 5999) : ∀ (d x N n : Nat) (S : SS) (Pl : List (Option MG)) (T : TS) (fl : Int32), x + d = many → d < N → TR ex S Pl (q_w T) → Inv S → ML many x S Pl → ((fl = 0 ∧ ∀ k : Nat, k < x → ∃ q, Pl[k]? = some (some q)) ∨ fl = 1) → dueN S ≤ n → s_gh (msgsNow n S) 0 ≤ 1000000 →
    ∃ (w' : Nat → Int32) (o : Int32) (L : List MG), f_X7_messagesNow_L12 N (some (A 0)) (Int32.ofNat many) fl (Int32.ofNat x) (tw A T h) = some ((), tw A (x_w (x_sc T 14 o) w') h) ∧ TR ex (msgsNow n S) (L.map some) w' ∧ (ex.1 = true → o = outM n S (q_sc T 14)) := by
  intro d
  induction d with
  | zero =>
    intro x N n S Pl T fl h1 h2 hr hI hM hfl hd hb
    have : x = many := by omega
    subst this
    obtain ⟨m1, m2, m3, m4, m5⟩ := hM
    have hall : ∀ m ∈ s_ms S, (now S).toInt < tmI m := by
      intro m hm
      obtain ⟨k, hk⟩ := (mem_pl hr.2.2.1).mp hm
      have hkl := (List.getElem?_eq_some_iff.mp hk).1
      by_cases hkx : k < x
      · exact m3 k m hkx hk
      · obtain ⟨q, hq, hq2⟩ := m5 k (by omega) hkl
        rw [hk] at hq
        have : m = q := Option.some.inj (Option.some.inj hq)
        rw [this]
        exact hq2
    have hid := msgs_id hall n (q_sc T 14)
    cases N with
    | zero => omega
    | succ N =>
      unfold f_X7_messagesNow_L12 f_X7_messagesNow_B85
      rw [if_pos (Int32.le_refl _), hid.1]
      rcases hfl with ⟨rfl, hf⟩ | rfl
      · rw [if_pos rfl]
        refine ⟨q_w T, q_sc T 14, Pl.filterMap id, by rw [x_sc_self, x_w_self], ?_, fun _ => hid.2.symm⟩
        rw [pl_all Pl (fun k hk => by
          by_cases hkx : k < x
          · exact hf k hkx
          · obtain ⟨q, hq, _⟩ := m5 k (by omega) hk
            exact ⟨q, hq⟩)]
        exact hr
      · rw [if_neg (by decide), t_rv]
        obtain ⟨w', e1, e2⟩ := t_packs hA hr (fun k q hk => (hI.2.2.2.2.1 q ((mem_pl hr.2.2.1).mpr ⟨k, hk⟩)).1.1)
        rw [cl_eq e1]
        exact ⟨w', q_sc T 14, Pl.filterMap id, by rw [x_sc_self], e2, fun _ => hid.2.symm⟩
  | succ d ih =>
    intro x N n S Pl T fl h1 h2 hr hI hM hfl hd hb
    obtain ⟨m1, m2, m3, m4, m5⟩ := hM
    cases N with
    | zero => omega
    | succ N =>
      obtain ⟨q, hq⟩ := m4 x (Nat.le_refl _) (by omega)
      have hqm : q ∈ s_ms S := (mem_pl hr.2.2.1).mpr ⟨x, hq⟩
      have hqI := hI.2.2.2.2.1 q hqm
      have hw := (hr.2.1.2.2 x).1 q hq
      have hxl : x < Pl.length := (List.getElem?_eq_some_iff.mp hq).1
      have a0 : q_w T 0 = now S := hr.1.1.1
      unfold f_X7_messagesNow_L12
      rw [if_neg (fun hy => by rw [of_le (by omega) (by omega)] at hy; omega), t_rW, t_aW hA _ (1136 + 6 * x + 2) (ix6 (x := 2) (c := 2) rfl) (by omega), show 1136 + 6 * x + 2 = 1138 + 6 * x from by omega, hw.2.2.1, t_rW, t_aW hA 0 0 rfl (by decide), a0]
      have nx : Int32.ofNat x + 1 = Int32.ofNat (x + 1) := by rw [show (1 : Int32) = Int32.ofNat 1 from rfl, of_add]
      by_cases hdue : q.2.2.2.2.2.2 = now S
      · -- it arrives
        have hdi : tmI q = (now S).toInt := by show q.2.2.2.2.2.2.toInt = _; rw [hdue]
        have hfm : ∃ j : Nat, fmsg (s_ms S) = some (j, q) := by
          cases hf : fmsg (s_ms S) with
          | none =>
            rw [fmsg_none hf] at hqm
            simp at hqm
          | some r =>
            obtain ⟨j, q'⟩ := r
            have hq'm : q' ∈ s_ms S := List.mem_of_getElem? (fmsg_mem hf)
            have hmin := fmsg_min hf q hqm
            have hq'I := (hI.2.2.2.2.1 q' hq'm).2.2.2.2.1
            have hq't : (now S).toInt ≤ tmJ q' := hq'I
            have hqt : tmJ q = (now S).toInt := hdi
            obtain ⟨k, hk⟩ := (mem_pl hr.2.2.1).mp hq'm
            have hkl := (List.getElem?_eq_some_iff.mp hk).1
            have et : tmJ q' = (now S).toInt ∧ sqJ q' ≤ sqJ q := by unfold nlt at hmin; omega
            have hkx : k = x := by
              by_cases c1 : k < x
              · have := m3 k q' c1 hk
                have e : tmI q' = tmJ q' := rfl
                omega
              · by_cases c2 : k = x
                · exact c2
                · have := pl_lt Pl x k q q' hr.2.2.2 (by omega) hq hk
                  have e1 : sq q = sqJ q := rfl
                  have e2 : sq q' = sqJ q' := rfl
                  omega
            subst hkx
            have : q' = q := Option.some.inj (Option.some.inj (hk.symm.trans hq))
            exact ⟨j, by rw [this]⟩
        obtain ⟨j, hj⟩ := hfm
        have hjm := fmsg_mem hj
        have hnlt : ¬ now S < q.2.2.2.2.2.2 := by rw [hdue]; exact fun hy => Int32.lt_irrefl hy
        have hdpos : 0 < dueN S := by
          unfold dueN
          rw [List.countP_pos_iff]
          exact ⟨q, hqm, decide_eq_true (show tmJ q ≤ (now S).toInt from Int.le_of_eq hdi)⟩
        cases n with
        | zero => omega
        | succ n =>
          have eM : msgsNow (n + 1) S = msgsNow n (arrive S j q) := by
            conv => lhs; unfold msgsNow
            rw [hj]
            dsimp only
            rw [if_neg hnlt]
          have eO : ∀ o : Int32, outM (n + 1) S o = outM n (arrive S j q) (outA S q o) := fun o => by
            conv => lhs; unfold outM
            rw [hj]
            dsimp only
            rw [if_neg hnlt]
          rw [eM] at hb ⊢
          have hb1 : s_gh (arrive S j q) 0 ≤ 1000000 := Nat.le_trans (gle_msgs n).1 hb
          have hI1 := Inv_arrive hI hjm hb1
          have hd1 := dueN_arrive hI hjm (by show tmI q ≤ _; omega) hb1
          have hnow : (now (arrive S j q)).toInt = (now S).toInt := by
            show (s_sc (arrive S j q) 8).toInt = _
            rw [(MX_arrive hI hjm hb1).1]
          rw [if_pos hdue]
          unfold f_X7_messagesNow_B46
          rw [if_neg (by decide), t_rv]
          rcases t_arrives hA hr hI.si (by omega) hq hjm hqI.1 hqI.2.1 with ⟨w', l, e1, e2, e3, e4, e5⟩ | ⟨w', m', e1, e2, e3, e4, e5, e6, e7, e8⟩
          · rw [cl_eq e1, if_neg (by decide)]
            unfold f_X7_messagesNow_B65 f_X7_messagesNow_B70
            rw [nx]
            have hlen : (Pl.set x none ++ l.map some).length = Pl.length + l.length := by simp
            have hML : ML many (x + 1) (arrive S j q) (Pl.set x none ++ l.map some) := by
              refine ⟨by rw [hlen]; omega, by rw [hlen]; omega, fun k r hk hkr => ?_, fun k hk1 hk2 => ?_, fun k hk1 hk2 => ?_⟩
              · rw [hnow]
                rw [List.getElem?_append_left (by simp; omega)] at hkr
                by_cases hkx : k = x
                · subst hkx
                  rw [List.getElem?_set_self hxl] at hkr
                  cases hkr
                · rw [List.getElem?_set_ne (Ne.symm hkx)] at hkr
                  exact m3 k r (by omega) hkr
              · rw [List.getElem?_append_left (by simp; omega), List.getElem?_set_ne (by omega)]
                exact m4 k (by omega) hk2
              · rw [hnow]
                rw [hlen] at hk2
                by_cases hkl : k < Pl.length
                · rw [List.getElem?_append_left (by simp; omega), List.getElem?_set_ne (by omega)]
                  exact m5 k hk1 hkl
                · rw [List.getElem?_append_right (by simp; omega), List.length_set, List.getElem?_map]
                  obtain ⟨r, hr2⟩ : ∃ r, l[k - Pl.length]? = some r := ⟨_, List.getElem?_eq_getElem (by omega)⟩
                  exact ⟨r, by rw [hr2]; rfl, e3 r (List.mem_of_getElem? hr2)⟩
            obtain ⟨w2, o2, L2, g1, g2, g3⟩ := ih (x + 1) N n (arrive S j q) (Pl.set x none ++ l.map some) (x_w (x_sc T 14 (outc S q (q_w T (1141 + 6 * x)) (q_sc T 14))) w') 1 (by omega) (by omega) e2 hI1 hML (Or.inr rfl) (by omega) hb
            refine ⟨w2, o2, L2, ?_, g2, fun he => ?_⟩
            · rw [g1]
              have : fu (fu (q_sc T) 14 (outc S q (q_w T (1141 + 6 * x)) (q_sc T 14))) 14 o2 = fu (q_sc T) 14 o2 := by
                funext k
                by_cases hk : k = 14
                · rw [hk, fu_eq, fu_eq]
                · rw [fu_ne hk, fu_ne hk, fu_ne hk]
              have e0 : x_w (x_sc (x_w (x_sc T 14 (outc S q (q_w T (1141 + 6 * x)) (q_sc T 14))) w') 14 o2) w2 = x_w (x_sc T 14 o2) w2 := by
                show (w2, T.2.1, T.2.2.1, T.2.2.2.1, T.2.2.2.2.1, T.2.2.2.2.2.1, fu (fu (q_sc T) 14 (outc S q (q_w T (1141 + 6 * x)) (q_sc T 14))) 14 o2) = (w2, T.2.1, T.2.2.1, T.2.2.2.1, T.2.2.2.2.1, T.2.2.2.2.2.1, fu (q_sc T) 14 o2)
                rw [this]
              rw [e0]
            · rw [g3 he, eO]
              have e0 : q_sc (x_w (x_sc T 14 (outc S q (q_w T (1141 + 6 * x)) (q_sc T 14))) w') 14 = outc S q (q_w T (1141 + 6 * x)) (q_sc T 14) := by
                show fu (q_sc T) 14 (outc S q (q_w T (1141 + 6 * x)) (q_sc T 14)) 14 = _
                rw [fu_eq]
              rw [e0]
              unfold outA
              rw [if_neg e5, hw.2.2.2.2.2 he]
          · rw [cl_eq e1, if_pos rfl]
            have hlen : (Pl.set x (some m')).length = Pl.length := by simp
            have hnext : ∀ fl' : Int32, ((fl' = 0 ∧ ∀ k : Nat, k < x + 1 → ∃ q, (Pl.set x (some m'))[k]? = some (some q)) ∨ fl' = 1) → ∃ (w2 : Nat → Int32) (o : Int32) (L : List MG), f_X7_messagesNow_L12 N (some (A 0)) (Int32.ofNat many) fl' (Int32.ofNat (x + 1)) (tw A (x_w T w') h) = some ((), tw A (x_w (x_sc T 14 o) w2) h) ∧ TR ex (msgsNow n (arrive S j q)) (L.map some) w2 ∧ (ex.1 = true → o = outM (n + 1) S (q_sc T 14)) := by
              intro fl' hfl'
              have hML : ML many (x + 1) (arrive S j q) (Pl.set x (some m')) := by
                refine ⟨by rw [hlen]; omega, by rw [hlen]; omega, fun k r hk hkr => ?_, fun k hk1 hk2 => ?_, fun k hk1 hk2 => ?_⟩
                · rw [hnow]
                  by_cases hkx : k = x
                  · subst hkx
                    rw [List.getElem?_set_self hxl] at hkr
                    have : m' = r := Option.some.inj (Option.some.inj hkr)
                    rw [← this]
                    exact e3
                  · rw [List.getElem?_set_ne (Ne.symm hkx)] at hkr
                    exact m3 k r (by omega) hkr
                · rw [List.getElem?_set_ne (by omega)]
                  exact m4 k (by omega) hk2
                · rw [hnow]
                  rw [hlen] at hk2
                  rw [List.getElem?_set_ne (by omega)]
                  exact m5 k hk1 hk2
              obtain ⟨w2, o2, L2, g1, g2, g3⟩ := ih (x + 1) N n (arrive S j q) (Pl.set x (some m')) (x_w T w') fl' (by omega) (by omega) e2 hI1 hML hfl' (by omega) hb
              refine ⟨w2, o2, L2, g1, g2, fun he => ?_⟩
              rw [g3 he, eO]
              have e0 : outA S q (q_sc T 14) = q_sc T 14 := by
                unfold outA
                rw [if_pos ⟨e7, e8, e6⟩]
              rw [e0]
              rfl
            unfold f_X7_messagesNow_B61 f_X7_messagesNow_B65 f_X7_messagesNow_B70
            rw [nx]
            rcases hfl with ⟨rfl, hf⟩ | rfl
            · rw [if_pos rfl]
              refine hnext 0 (Or.inl ⟨rfl, fun k hk => ?_⟩)
              by_cases hkx : k = x
              · subst hkx
                exact ⟨m', List.getElem?_set_self hxl⟩
              · rw [List.getElem?_set_ne (Ne.symm hkx)]
                exact hf k (by omega)
            · rw [if_neg (by decide)]
              exact hnext 1 (Or.inr rfl)
      · -- it is for later
        have hlt : (now S).toInt < tmI q := by
          have h3 := hqI.2.2.2.2.1
          have h4 : ¬ q.2.2.2.2.2.2.toInt = (now S).toInt := fun hy => hdue (Int32.toInt.inj hy)
          show (now S).toInt < q.2.2.2.2.2.2.toInt
          omega
        rw [if_neg hdue]
        unfold f_X7_messagesNow_B46
        rw [if_pos rfl]
        have hM' : ML many (x + 1) S Pl := by
          refine ⟨m1, by omega, fun k r hk hkr => ?_, fun k hk1 hk2 => m4 k (by omega) hk2, m5⟩
          by_cases hkx : k = x
          · subst hkx
            have : q = r := Option.some.inj (Option.some.inj (hq.symm.trans hkr))
            rw [← this]
            exact hlt
          · exact m3 k r (by omega) hkr
        unfold f_X7_messagesNow_B61 f_X7_messagesNow_B65 f_X7_messagesNow_B70
        rw [nx]
        rcases hfl with ⟨rfl, hf⟩ | rfl
        · rw [if_pos rfl]
          refine ih (x + 1) N n S Pl T 0 (by omega) (by omega) hr hI hM' (Or.inl ⟨rfl, fun k hk => ?_⟩) hd hb
          by_cases hkx : k = x
          · subst hkx
            exact ⟨q, hq⟩
          · exact hf k (by omega)
        · rw [if_neg (by decide)]
          exact ih (x + 1) N n S Pl T 1 (by omega) (by omega) hr hI hM' (Or.inr rfl) hd hb
/-- messagesNow -/
theorem t_messagesNow (hA : TA A h) {L : List MG} (hr : TR ex S (L.map some) (q_w T)) (hI : Inv S) (hl : L.length ≤ 5999) {n : Nat} (hd : dueN S ≤ n) (hb : s_gh (msgsNow n S) 0 ≤ 1000000) : ∃ (w' : Nat → Int32) (o : Int32) (L' : List MG), f_X7_messagesNow (some (A 0)) (tw A T h) = some ((), tw A (x_w (x_sc T 14 o) w') h) ∧ TR ex (msgsNow n S) (L'.map some) w' ∧ (ex.1 = true → o = outM n S (q_sc T 14)) := by
  unfold f_X7_messagesNow
  have a20 : q_w T 20 = Int32.ofNat L.length := by rw [hr.2.1.1, List.length_map]
  rw [t_rW, t_aW hA 20 20 rfl (by decide), a20, show (0 : Int32) = Int32.ofNat 0 from rfl]
  refine t_msgsL hA hl L.length 0 FU n S (L.map some) T (Int32.ofNat 0) (by omega) (by unfold FU; omega) hr hI ⟨by simp, by simp, fun k q hk _ => absurd hk (Nat.not_lt_zero k), fun k _ hk => ?_, fun k hk1 hk2 => ?_⟩ (Or.inl ⟨rfl, fun k hk => absurd hk (Nat.not_lt_zero k)⟩) hd hb
  · rw [List.getElem?_map]
    exact ⟨_, by rw [List.getElem?_eq_getElem hk]; rfl⟩
  · rw [List.length_map] at hk2
    omega
end TMS
