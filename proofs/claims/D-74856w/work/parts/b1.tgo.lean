/-! THE TWIN: goesTo -/
set_option maxRecDepth 100000
/-- the nodes' counters of ACQUIRE stay -/
def N11 (S S' : SS) : Prop := ∀ i : Nat, s_nd S' i 11 = s_nd S i 11
theorem N11.rf {S : SS} : N11 S S := fun _ => rfl
theorem N11.tr {a b c : SS} (h : N11 a b) (g : N11 b c) : N11 a c := fun i => (g i).trans (h i)
section N1
variable {S : SS}
theorem N11_cS {S' : SS} (h : cS S S') : N11 S S' := fun i => by rw [h.2.2]
theorem N11_note {k : Nat} {n t : Int32} : N11 S (note S k n t) := N11_cS cS_note
theorem N11_send {k n l : Nat} {a b c : Int32} : N11 S (send S k n l a b c) := N11_cS cS_send
theorem N11_nd {i k : Nat} {v : Int32} (hk : k ≠ 11) : N11 S (u_nd S i k v) := fun j => nd_ne (Or.inr hk)
theorem N11_sc {k : Nat} {v : Int32} : N11 S (u_sc S k v) := N11.rf
theorem N11_decide {m : MG} : N11 S (decide_ S m) := by
  unfold decide_
  dsimp only
  by_cases hc : srvAt S < s_sc S 15 ∨ (s_sc S 12 != -4 && decide (srvAt S < s_sc S 13)) = true ∧ s_sc S 12 ≠ Int32.ofNat m.2.1
  · rw [if_pos hc]
    exact N11_note.tr N11_send
  · rw [if_neg hc]
    refine N11.tr ?_ (N11_note.tr N11_send)
    refine N11.tr ?_ ((N11_sc (k := 12)).tr (N11_sc (k := 13)))
    split
    · exact N11.rf
    · exact N11_sc
theorem N11_release {m : MG} : N11 S (release S m) := by
  unfold release
  by_cases c1 : m.2.2.2.1 = s_sc S 14
  · rw [if_pos c1]
    refine N11.tr ?_ N11_sc
    by_cases c2 : s_sc S 12 = -4
    · rw [if_pos c2]; exact N11.rf
    · rw [if_neg c2]; exact N11_note
  · rw [if_neg c1]; exact N11.rf
theorem N11_fence {m : MG} : N11 S (fence S m) := by
  unfold fence
  exact (N11.tr (show N11 S (g_mk S 2 13) from N11.rf) N11_note).tr ((N11_sc (k := 21)).tr N11_send)
theorem N11_atStorage {m : MG} : N11 S (atStorage S m) := by
  unfold atStorage
  dsimp only
  by_cases hc : s_sc S 30 ≤ m.2.2.2.1
  · rw [if_pos hc]
    by_cases h5 : m.1 = 5
    · rw [if_pos h5]
      exact (N11_sc (k := 30)).tr N11_send
    · rw [if_neg h5]
      refine N11.tr ?_ (N11_note.tr ((N11_sc (k := 21)).tr N11_send))
      exact N11.rf
  · rw [if_neg hc]
    exact N11_fence
theorem N11_granted {m : MG} : N11 S (granted S m) := by
  unfold granted setTimer
  dsimp only
  by_cases hc : s_nd S m.2.1 3 = 0
  · rw [if_pos hc]; exact N11_send
  · rw [if_neg hc]
    by_cases h1 : m.2.2.2.2.1 < s_nd S m.2.1 6
    · rw [if_pos h1]; exact N11.rf
    · rw [if_neg h1]
      refine N11.tr ?_ ((N11_nd (by decide)).tr (N11_nd (by decide)))
      by_cases h2 : s_nd S m.2.1 6 < m.2.2.2.2.1
      · rw [if_pos h2]; exact ((N11_nd (by decide)).tr (N11_nd (by decide))).tr (N11_nd (by decide))
      · rw [if_neg h2]; exact N11.rf
theorem N11_atNode {m : MG} : N11 S (atNode S m) := by
  unfold atNode
  dsimp only
  by_cases k1 : m.1 = 1
  · rw [if_pos k1]; exact N11_granted
  rw [if_neg k1]
  by_cases k2 : m.1 = 2
  · rw [if_pos k2]
    split
    · exact N11.rf
    · exact N11_nd (by decide)
  rw [if_neg k2]
  by_cases k8 : m.1 = 8
  · rw [if_pos k8]
    split
    · exact (N11_nd (by decide)).tr (N11_nd (by decide))
    · exact N11.rf
  rw [if_neg k8]
  split
  · exact (N11_nd (by decide)).tr (N11_nd (by omega))
  · exact N11.rf
theorem N11_handle {m : MG} : N11 S (handle S m) := by
  unfold handle
  split
  · exact N11_decide
  · split
    · exact N11_release
    · split
      · exact N11_atStorage
      · exact N11_atNode
theorem N11_arrive {m : MG} {k : Nat} : N11 S (arrive S k m) := by
  unfold arrive
  dsimp only
  split
  · exact N11.rf
  · split
    · exact N11.rf
    · exact N11.tr (show N11 S (u_ms S ((s_ms S).eraseIdx k)) from N11.rf) N11_handle
theorem N11_msgs : ∀ (n : Nat) {S : SS}, N11 S (msgsNow n S) := by
  intro n
  induction n with
  | zero => intro S; exact N11.rf
  | succ n ih =>
    intro S
    unfold msgsNow
    cases hf : fmsg (s_ms S) with
    | none => exact N11.rf
    | some q =>
      dsimp only
      split
      · exact N11.rf
      · exact N11_arrive.tr ih
theorem N11_links : ∀ (n k : Nat) {S : SS}, N11 S (links n k S) := by
  intro n
  induction n with
  | zero => intro k S; exact N11.rf
  | succ n ih =>
    intro k S
    unfold links
    cases hk : (s_ou S)[k]? with
    | none => exact N11.rf
    | some o =>
      dsimp only
      have h1 : N11 S (if o.2.1 = now S then u_nd S o.1 4 1 else S) := by
        split
        · exact N11_nd (by decide)
        · exact N11.rf
      obtain ⟨S1, hS1⟩ : ∃ S1 : SS, S1 = if o.2.1 = now S then u_nd S o.1 4 1 else S := ⟨_, rfl⟩
      rw [← hS1] at h1 ⊢
      refine h1.tr ?_
      split
      · have h2 : N11 S1 (u_nd S1 o.1 4 0) := N11_nd (by decide)
        exact N11.tr (show N11 S1 (u_ou (u_nd S1 o.1 4 0) ((s_ou S1).eraseIdx k)) from h2) (ih k)
      · exact ih (k + 1)
theorem N11_del : ∀ (n k : Nat) {S : SS}, N11 S (delNow n k S) := by
  intro n
  induction n with
  | zero => intro k S; exact N11.rf
  | succ n ih =>
    intro k S
    unfold delNow
    cases hk : (s_dl S)[k]? with
    | none => exact N11.rf
    | some d =>
      dsimp only
      split
      · exact N11.tr (N11.tr (show N11 S (u_dl S ((s_dl S).eraseIdx k)) from N11.rf) N11_send) (ih k)
      · exact ih (k + 1)
end N1
theorem len_msgs : ∀ (n : Nat) (S : SS), Inv S → s_gh (msgsNow n S) 0 ≤ 1000000 → (s_ms (msgsNow n S)).length ≤ (s_ms S).length := by
  intro n
  induction n with
  | zero => intro S _ _; exact Nat.le_refl _
  | succ n ih =>
    intro S h hb
    unfold msgsNow at hb ⊢
    cases hf : fmsg (s_ms S) with
    | none => exact Nat.le_refl _
    | some q =>
      obtain ⟨k, m⟩ := q
      rw [hf] at hb
      dsimp only at hb ⊢
      by_cases hlt : now S < m.2.2.2.2.2.2
      · rw [if_pos hlt]; exact Nat.le_refl _
      · rw [if_neg hlt] at hb ⊢
        have hj := fmsg_mem hf
        have hb1 : s_gh (arrive S k m) 0 ≤ 1000000 := Nat.le_trans (gle_msgs n).1 hb
        have h1 := ih _ (Inv_arrive h hj hb1) hb
        obtain ⟨-, l, e, -, hl⟩ := MX_arrive h hj hb1
        rw [e, List.length_append, List.length_eraseIdx_of_lt (List.getElem?_eq_some_iff.mp hj).1] at h1
        have := (List.getElem?_eq_some_iff.mp hj).1
        omega
theorem usc_self {S : SS} {k : Nat} {x : Int32} (hx : x = s_sc S k) : u_sc S k x = S := by
  have e : fu (s_sc S) k x = s_sc S := by
    funext j
    by_cases hj : j = k
    · rw [hj, fu_eq, hx]
    · rw [fu_ne hj]
  show (S.1, S.2.1, S.2.2.1, S.2.2.2.1, S.2.2.2.2.1, fu (s_sc S) k x, S.2.2.2.2.2.2) = S
  rw [e]
theorem fold_now {S : SS} : ∀ l : List Nat, l.foldl (passNd (now S)) (S, now S, now S) = (S, now S, now S) := by
  intro l
  induction l with
  | nil => rfl
  | cons i l ih =>
    rw [List.foldl_cons]
    have e : passNd (now S) (S, now S, now S) i = (S, now S, now S) := by
      unfold passNd
      dsimp only
      have h1 : mx (now S) (mn (now S) (until_ S i)) = now S := by
        apply Int32.toInt.inj
        rw [mx_i, mn_i]
        omega
      rw [h1, Int32.sub_self, Int32.add_zero, und_self rfl, if_pos (Int32.le_refl _)]
      have h2 : mx (now S) (now S) = now S := by unfold mx; split <;> rfl
      rw [h2]
    rw [e, ih]
theorem pass_self {S : SS} : pass S (now S) = S := by
  unfold pass
  dsimp only
  rw [fold_now]
  dsimp only
  rw [Int32.sub_self, Int32.add_zero, usc_self rfl, Int32.add_zero, usc_self rfl, usc_self rfl]
/-- the twin's run and longest run -/
def RL : Nat → SS → Int32 → Int32 × Int32 → Int32 × Int32
  | 0, S, t, q => (rnW S t q.1, mx q.2 (rnW S t q.1))
  | n + 1, S, t, q => if t < nextEvent S then (rnW S t q.1, mx q.2 (rnW S t q.1)) else RL n (step S t) t (rnW S (nextEvent S) q.1, mx q.2 (rnW S (nextEvent S) q.1))
noncomputable def outG : Nat → SS → Int32 → Int32 → Int32
  | 0, _, _, o => o
  | n + 1, S, t, o => if t < nextEvent S then o else outG n (step S t) t (outM (s_ms (changeLinks (pass S (nextEvent S)))).length (changeLinks (pass S (nextEvent S))) o)
/-- the messages on the way are not too many -/
def msB : Nat → SS → Int32 → Prop
  | 0, _, _ => True
  | n + 1, S, t => t < nextEvent S ∨ ((s_ms S).length ≤ 5999 ∧ msB n (step S t) t)
theorem CN.tr {T T' T'' : TS} {S S' S'' : SS} (h : CN T T' S S') (g : CN T' T'' S' S'') (hn : s_n S' = s_n S) : CN T T'' S S'' := ⟨g.1.trans h.1, fun i hi hc => (g.2 i (by rw [hn]; exact hi) (by rw [h.1]; exact hc)).trans (h.2 i hi hc)⟩
theorem CN.of {T T' : TS} {S S' : SS} (h12 : q_sc T' 12 = q_sc T 12) (h13 : q_sc T' 13 = q_sc T 13) (hn : N11 S S') : CN T T' S S' := ⟨h12, fun i _ _ => by rw [h13, hn i]⟩
section TGO
variable {A : Nat → Nat} {h : PH} {t : Int32}
/-- what the twin does at the time of an event -/
theorem t_event (hA : TA A h) {ex : Bool × Int32 × Int32} {S : SS} {T : TS} {L : List MG} (hr : TR ex S (L.map some) (q_w T)) (hI : Inv S) (hl : L.length ≤ 5999) (hb : s_gh (happen S) 0 ≤ 1000000) {β : Type} (K : Unit → PH → Option β) : ∃ (w' : Nat → Int32) (L' : List MG) (c o : Int32), (cl_ (f_X7_outagesNow (some (A 0)) (tw A T h)) fun _u h5 => rv_ h5 (some (A 0)) 6 (cl_ (f_X7_messagesNow (some (A 0)) h5) fun _u h6 => rv_ h6 (some (A 0)) 6 (cl_ (f_X7_delayedNow (some (A 0)) h6) fun _u h7 => rv_ h7 (some (A 0)) 6 (cl_ (f_X7_timersNow (some (A 0)) h7) K)))) = K () (tw A (x_w (x_sc (x_sc T 14 o) 13 c) w') h) ∧ TR ex (happen S) (L'.map some) w' ∧ CN T (x_w (x_sc (x_sc T 14 o) 13 c) w') S (happen S) ∧ (ex.1 = true → o = outM (s_ms (changeLinks S)).length (changeLinks S) (q_sc T 14)) := by
  rw [happen_eq] at hb ⊢
  unfold fin tims at hb ⊢
  obtain ⟨w1, a1, a2⟩ := t_outagesNow hA hr (fun o ho => (hI.2.2.2.2.2.2.1 o ho).1)
  rw [cl_eq a1, t_rv]
  have hI1 : Inv (changeLinks S) := Inv_links _ _ S hI
  have hN1 : N11 S (changeLinks S) := N11_links _ _
  have n1 : s_n (changeLinks S) = s_n S := (st_links _ _).2.1
  obtain ⟨S1, hS1⟩ : ∃ S1 : SS, S1 = changeLinks S := ⟨_, rfl⟩
  rw [← hS1] at hI1 hN1 n1 hb a2 ⊢
  obtain ⟨n, hn⟩ : ∃ n : Nat, n = (s_ms S1).length := ⟨_, rfl⟩
  rw [← hn] at hb ⊢
  have hdn : dueN S1 ≤ n := by rw [hn]; exact List.countP_le_length
  have hb3 : s_gh (delNow ((s_dl (msgsNow n S1)).length + 1) 0 (msgsNow n S1)) 0 ≤ 1000000 := Nat.le_trans (gle_tims _).1 hb
  have hb2 : s_gh (msgsNow n S1) 0 ≤ 1000000 := Nat.le_trans (gle_del _ _).1 hb3
  have a2' : TR ex S1 (L.map some) (q_w (x_w T w1)) := a2
  obtain ⟨w2, o, L2, b1, b2, b3⟩ := t_messagesNow hA a2' hI1 hl hdn hb2
  rw [cl_eq b1, t_rv]
  have hI2 : Inv (msgsNow n S1) := Inv_msgs n S1 hI1 hb2
  have hN2 : N11 S1 (msgsNow n S1) := N11_msgs n
  have hlen := len_msgs n S1 hI1 hb2
  have n2 : s_n (msgsNow n S1) = s_n S1 := (st_msgs n).2.1
  have hL1 : L.length = (s_ms S1).length := by
    have := a2.2.2.1.length_eq
    rw [List.filterMap_map] at this
    simpa using this
  obtain ⟨S2, hS2⟩ : ∃ S2 : SS, S2 = msgsNow n S1 := ⟨_, rfl⟩
  rw [← hS2] at hI2 hN2 n2 hb hb3 b2 hlen ⊢
  have hL2 : L2.length = (s_ms S2).length := by
    have := b2.2.2.1.length_eq
    rw [List.filterMap_map] at this
    simpa using this
  have hdl20 := hI2.2.2.2.2.2.2.2.2.2.1
  unfold f_X7_delayedNow
  have b2' : TR ex S2 (L2.map some) (q_w (x_w (x_sc (x_w T w1) 14 o) w2)) := b2
  obtain ⟨w3, l3, c1, c2, c3⟩ := t_delL hA ((s_dl S2).length + 1) 0 FU S2 (L2.map some) (x_w (x_sc (x_w T w1) 14 o) w2) b2' hI2 (Nat.zero_le _) (by omega) (by unfold FU; omega) (by rw [List.length_map]; omega) hb3
  rw [cl_eq (show f_X7_delayedNow_L2 FU (some (A 0)) 0 _ = _ from c1), t_rv, x_xw]
  have hI3 : Inv (delNow ((s_dl S2).length + 1) 0 S2) := Inv_del _ _ S2 hI2 hb3
  have hN3 : N11 S2 (delNow ((s_dl S2).length + 1) 0 S2) := N11_del _ _
  have n3 : s_n (delNow ((s_dl S2).length + 1) 0 S2) = s_n S2 := (st_del _ _).2.1
  obtain ⟨S3, hS3⟩ : ∃ S3 : SS, S3 = delNow ((s_dl S2).length + 1) 0 S2 := ⟨_, rfl⟩
  rw [← hS3] at hI3 hN3 n3 hb c2 ⊢
  have h6 := hI3.2.2.1.2
  unfold f_X7_timersNow
  have c2' : TR ex S3 ((L2 ++ l3).map some) (q_w (x_w (x_sc (x_w T w1) 14 o) w3)) := by
    rw [List.map_append]
    exact c2
  obtain ⟨w4, l4, c, d1, d2, d3⟩ := t_timL hA (s_n S3) 0 FU S3 ((L2 ++ l3).map some) (x_w (x_sc (x_w T w1) 14 o) w3) (by omega) (by unfold FU; omega) c2' hI3 (by rw [List.length_map, List.length_append]; omega) hb
  rw [cl_eq (show f_X7_timersNow_L2 FU (some (A 0)) 0 _ = _ from d1)]
  refine ⟨w4, L2 ++ l3 ++ l4, c, o, rfl, ?_, ?_, fun he => ?_⟩
  · rw [List.map_append]
    exact d2
  · have k1 : CN T (x_w (x_sc (x_w T w1) 14 o) w3) S S3 := CN.of (by show fu (q_sc T) 14 o 12 = _; rw [fu_ne (by decide)]) (by show fu (q_sc T) 14 o 13 = _; rw [fu_ne (by decide)]) ((hN1.tr hN2).tr hN3)
    exact k1.tr d3 (by rw [n3, n2, n1])
  · exact b3 he
theorem t_goL (hA : TA A h) (ht2 : t.toInt ≤ 5000000) : ∀ (n N : Nat) (ex : Bool × Int32 × Int32) (S : SS) (T : TS) (L : List MG), n < N → TR ex S (L.map some) (q_w T) → Inv S → Rest S → (now S).toInt ≤ t.toInt → t.toInt - (now S).toInt ≤ n → s_gh (goOn n S t) 0 ≤ 1000000 → msB n S t →
    ∃ (w' : Nat → Int32) (L' : List MG) (c o : Int32), f_X7_goesTo_L5 N (some (A 0)) t (NTs S L) (tw A T h) = some ((), tw A (x_w (x_sc (x_sc T 14 o) 13 c) w') h) ∧ TR (ex.1, RL n S t ex.2) (goOn n S t) (L'.map some) w' ∧ CN T (x_w (x_sc (x_sc T 14 o) 13 c) w') S (goOn n S t) ∧ (ex.1 = true → o = outG n S t (q_sc T 14)) := by
  intro n
  induction n with
  | zero =>
    intro N ex S T L hN hr hI hR ht hn hb hm
    cases N with
    | zero => omega
    | succ N =>
      have hte : t = now S := Int32.toInt.inj (by omega)
      have hP : L.Perm (s_ms S) := by
        have := hr.2.2.1
        rw [List.filterMap_map] at this
        simpa using this
      have hlt : t < NTs S L := by
        rw [Int32.lt_iff_toInt_lt]
        rcases NT_eq hI hR hP with ⟨-, e⟩ | ⟨e, e2, -⟩
        · rw [e]
          have k2 : ((2000000000 : Int32)).toInt = 2000000000 := by decide
          omega
        · rw [e]; omega
      unfold f_X7_goesTo_L5
      rw [if_pos hlt, t_rv]
      obtain ⟨w', k1, k2⟩ := t_passes (t := t) hA hr hI.2.1 hI.2.2.2.1.1 ht
      rw [cl_eq k1]
      refine ⟨w', L, q_sc T 13, q_sc T 14, by rw [x_sc_self, x_sc_self], ?_, ?_, fun _ => rfl⟩
      · rw [show pass S t = S from by rw [hte]; exact pass_self] at k2
        exact k2
      · rw [x_sc_self, x_sc_self]
        exact CN.of rfl rfl N11.rf
  | succ n ih =>
    intro N ex S T L hN hr hI hR ht hn hb hm
    cases N with
    | zero => omega
    | succ N =>
      have hP : L.Perm (s_ms S) := by
        have := hr.2.2.1
        rw [List.filterMap_map] at this
        simpa using this
      have kM : ((2147483647 : Int32)).toInt = 2147483647 := by decide
      have k2 : ((2000000000 : Int32)).toInt = 2000000000 := by decide
      have hiff : t < NTs S L ↔ t < nextEvent S := by
        rw [Int32.lt_iff_toInt_lt, Int32.lt_iff_toInt_lt]
        rcases NT_eq hI hR hP with ⟨e1, e2⟩ | ⟨e, -, -⟩
        · rw [e1, e2]
          omega
        · rw [e]
      unfold f_X7_goesTo_L5 RL outG
      by_cases hlt : t < nextEvent S
      · rw [if_pos (hiff.mpr hlt), if_pos hlt, if_pos hlt, t_rv]
        obtain ⟨w', k1, k2'⟩ := t_passes (t := t) hA hr hI.2.1 hI.2.2.2.1.1 ht
        rw [cl_eq k1]
        have eg : goOn (n + 1) S t = pass S t := by
          unfold goOn
          by_cases hle : t ≤ now S
          · rw [if_pos hle]
            have : t = now S := Int32.toInt.inj (by rw [Int32.le_iff_toInt_le] at hle; omega)
            rw [this, pass_self]
          · rw [if_neg hle]
            have es : step S t = pass S t := by
              unfold step
              dsimp only
              rw [if_pos hlt]
              have : mn (nextEvent S) t = t := by
                apply Int32.toInt.inj
                rw [Int32.lt_iff_toInt_lt] at hlt
                rw [mn_i]
                omega
              rw [this]
            rw [es]
            cases n with
            | zero => rfl
            | succ n =>
              unfold goOn
              rw [if_pos (show t ≤ now (pass S t) from Int32.le_refl _)]
        rw [eg]
        refine ⟨w', L, q_sc T 13, q_sc T 14, by rw [x_sc_self, x_sc_self], k2', ?_, fun _ => rfl⟩
        rw [x_sc_self, x_sc_self]
        exact CN.of rfl rfl (fun i => pass_nd (by decide))
      · rw [if_neg (fun hy => hlt (hiff.mp hy)), if_neg hlt, if_neg hlt, t_rv]
        have hlt' := hlt
        rw [Int32.lt_iff_toInt_lt] at hlt'
        obtain ⟨m1, m2, m3⟩ := MO_nextEvent (S := S)
        have hevx : EV S (nextEvent S).toInt := by
          rcases m2 with g | g
          · omega
          · exact g
        have hb2 := EV_b hI hR hevx
        have hNT : NTs S L = nextEvent S := by
          rcases NT_eq hI hR hP with ⟨e1, e2⟩ | ⟨e, -, -⟩
          · rw [e1, kM] at hlt'
            omega
          · exact e
        rw [hNT]
        have hle : ¬ t ≤ now S := fun hy => by rw [Int32.le_iff_toInt_le] at hy; omega
        have eg : goOn (n + 1) S t = goOn n (step S t) t := by
          conv => lhs; unfold goOn
          rw [if_neg hle]
        rw [eg] at hb ⊢
        have hb1 : s_gh (step S t) 0 ≤ 1000000 := Nat.le_trans (gle_goOn n).1 hb
        have hok := step_ok hI hR (by omega) ht2 hb1
        have es : step S t = happen (pass S (nextEvent S)) := by
          unfold step
          dsimp only
          rw [if_neg hlt]
          have : mn (nextEvent S) t = nextEvent S := by
            apply Int32.toInt.inj
            rw [mn_i]
            omega
          rw [this]
        obtain ⟨w1, k1, k2'⟩ := t_passes (t := nextEvent S) hA hr hI.2.1 hI.2.2.2.1.1 (by omega)
        rw [cl_eq k1, t_rv]
        have hI1 := Inv_pass (t := nextEvent S) hI hR (by omega) (by omega) m1
        have hlen : L.length ≤ 5999 := by
          rw [hP.length_eq]
          rcases hm with hm | hm
          · exact absurd hm hlt
          · exact hm.1
        have hm' : msB n (step S t) t := by
          rcases hm with hm | hm
          · exact absurd hm hlt
          · exact hm.2
        have k2'' : TR (ex.1, rnW S (nextEvent S) ex.2.1, mx ex.2.2 (rnW S (nextEvent S) ex.2.1)) (pass S (nextEvent S)) (L.map some) (q_w (x_w T w1)) := k2'
        obtain ⟨w2, L2, c, o, g1, g2, g3, g4⟩ := t_event hA k2'' hI1 hlen (by rw [← es]; exact hb1) (K := fun _u h8 => rv_ h8 (some (A 0)) 6 (cl_ (f_X7_nextTime (some (A 0)) h8) fun v10 h9 => f_X7_goesTo_L5 N (some (A 0)) t v10 h9))
        rw [g1]
        rw [← es] at g2 g3
        have g2' : TR (ex.1, rnW S (nextEvent S) ex.2.1, mx ex.2.2 (rnW S (nextEvent S) ex.2.1)) (step S t) (L2.map some) (q_w (x_w (x_sc (x_sc (x_w T w1) 14 o) 13 c) w2)) := g2
        rw [t_rv, cl_eq (t_nextTime hA g2' hok.1.2.1 hok.1.2.2.2.1.1)]
        obtain ⟨w3, L3, c3, o3, j1, j2, j3, j4⟩ := ih N _ (step S t) (x_w (x_sc (x_sc (x_w T w1) 14 o) 13 c) w2) L2 (by omega) g2' hok.1 hok.2.1 hok.2.2.2.1 (by have := hok.2.2.1; omega) hb hm'
        have ext : x_w (x_sc (x_sc (x_w (x_sc (x_sc (x_w T w1) 14 o) 13 c) w2) 14 o3) 13 c3) w3 = x_w (x_sc (x_sc T 14 o3) 13 c3) w3 := by
          have e0 : fu (fu (fu (fu (q_sc T) 14 o) 13 c) 14 o3) 13 c3 = fu (fu (q_sc T) 14 o3) 13 c3 := by
            funext k
            by_cases hk : k = 13
            · rw [hk, fu_eq, fu_eq]
            · rw [fu_ne hk, fu_ne hk]
              by_cases hk4 : k = 14
              · rw [hk4, fu_eq, fu_eq]
              · rw [fu_ne hk4, fu_ne hk4, fu_ne hk, fu_ne hk4]
          show (w3, T.2.1, T.2.2.1, T.2.2.2.1, T.2.2.2.2.1, T.2.2.2.2.2.1, fu (fu (fu (fu (q_sc T) 14 o) 13 c) 14 o3) 13 c3) = (w3, T.2.1, T.2.2.1, T.2.2.2.1, T.2.2.2.2.1, T.2.2.2.2.2.1, fu (fu (q_sc T) 14 o3) 13 c3)
          rw [e0]
        rw [ext] at j1 j3
        have nS : s_n (step S t) = s_n S := st_step.2.1
        have np : s_n (pass S (nextEvent S)) = s_n S := n_pass
        have q14 : q_sc (x_w (x_sc (x_sc (x_w T w1) 14 o) 13 c) w2) 14 = o := by
          show fu (fu (q_sc T) 14 o) 13 c 14 = o
          rw [fu_ne (by decide), fu_eq]
        refine ⟨w3, L3, c3, o3, j1, j2, ?_, fun he => ?_⟩
        · have c1 : CN T (x_w T w1) S (pass S (nextEvent S)) := CN.of rfl rfl (fun i => pass_nd (by decide))
          exact (c1.tr g3 np).tr j3 nS
        · rw [j4 he, q14, g4 he]
          rfl
/-- goesTo -/
theorem t_goesTo (hA : TA A h) (ht2 : t.toInt ≤ 5000000) {n : Nat} {ex : Bool × Int32 × Int32} {S : SS} {T : TS} {L : List MG} (hn : n < FU) (hr : TR ex S (L.map some) (q_w T)) (hI : Inv S) (hR : Rest S) (ht : (now S).toInt ≤ t.toInt) (hnt : t.toInt - (now S).toInt ≤ n) (hb : s_gh (goOn n S t) 0 ≤ 1000000) (hm : msB n S t) :
    ∃ (w' : Nat → Int32) (L' : List MG) (c o : Int32), f_X7_goesTo (some (A 0)) t (tw A T h) = some ((), tw A (x_w (x_sc (x_sc T 14 o) 13 c) w') h) ∧ TR (ex.1, RL n S t ex.2) (goOn n S t) (L'.map some) w' ∧ CN T (x_w (x_sc (x_sc T 14 o) 13 c) w') S (goOn n S t) ∧ (ex.1 = true → o = outG n S t (q_sc T 14)) := by
  unfold f_X7_goesTo
  rw [t_rv, cl_eq (t_nextTime hA hr hI.2.1 hI.2.2.2.1.1)]
  exact t_goL hA ht2 n FU ex S T L hn hr hI hR ht hnt hb hm
end TGO
