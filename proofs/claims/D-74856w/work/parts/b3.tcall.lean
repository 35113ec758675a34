/-! THE TWIN's CALLS: campaign, withdraw, crash, restart, pause, setCut; what the calls do (answer, new state) -/
set_option maxRecDepth 100000
def campS (S : SS) (i : Nat) : Int32 × SS := if unab S i < 0 then (unab S i, S) else if s_nd S i 3 = 0 then (1, acquire (u_nd S i 3 1) i) else (0, S)
def withS (S : SS) (i : Nat) : Int32 × SS := if unab S i < 0 then (unab S i, S) else if s_nd S i 3 = 0 then (0, S) else (s_nd S i 6, lose (if s_nd S i 6 ≤ 0 then u_nd (u_nd S i 3 0) i 8 (-4) else send (u_nd (u_nd S i 3 0) i 8 (-4)) 3 i 1 (s_nd S i 6) 0 0) i)
def crashS (S : SS) (i : Nat) : Int32 × SS := if s_nd S i 2 = 0 then (-3, S) else (s_nd S i 6, u_nd (u_nd (u_nd (u_nd (lose (note S 7 (Int32.ofNat i) (s_nd S i 6)) i) i 2 0) i 3 0) i 8 (-4)) i 5 0)
def restS (S : SS) (i : Nat) : Int32 × SS := ((if s_nd S i 2 = 0 then 1 else 0), u_nd S i 2 1)
def pauS (S : SS) (i : Nat) (ms : Int32) : Int32 × SS := if s_nd S i 2 = 0 then (-3, S) else (mx (s_nd S i 5) (now S + ms), u_nd S i 5 (mx (s_nd S i 5) (now S + ms)))
def cutS (S : SS) (i : Nat) (v : Int32) : Int32 × SS := (s_nd S i 4, u_nd S i 4 v)
section TCL
variable {A : Nat → Nat} {h : PH} {T : TS} {ex : Bool × Int32 × Int32} {S : SS} {L : List MG}
theorem isNd_in {i : Nat} (hi : i < s_n S) (h6 : s_n S ≤ 6) : isNd S (Int32.ofNat i) := by
  unfold isNd
  rw [Int32.toInt_ofNat_of_lt (by omega)]
  omega
theorem neg3 : ((-3 : Int32) < 0) ∧ ((-2 : Int32) < 0) ∧ ¬ ((0 : Int32) < 0) := by decide
theorem TC.c13 {T : TS} {code ans v : Int32} {S' : SS} {o : Option (Int32 × PH)} {w' : Nat → Int32} {L' : List MG} {c : Int32} (e : o = some (ans, tw A (x_w (x_sc (x_sc T 1 code) 13 c) w') h)) (hr : TR ex S' (L'.map some) w') : TC A T h ex code ans S' o := by
  refine ⟨w', L', c, ?_, hr⟩
  rw [e]
  have e0 : fu (fu (q_sc T) 1 code) 13 c = fu (fu (q_sc T) 13 c) 1 code := by
    funext k
    by_cases h1 : k = 13
    · rw [h1, fu_eq, fu_ne (by decide), fu_eq]
    · rw [fu_ne h1]
      by_cases h2 : k = 1
      · rw [h2, fu_eq, fu_eq]
      · rw [fu_ne h2, fu_ne h2, fu_ne h1]
  have e1 : x_w (x_sc (x_sc T 1 code) 13 c) w' = x_w (x_sc (x_sc T 13 c) 1 code) w' := by
    show (w', T.2.1, T.2.2.1, T.2.2.2.1, T.2.2.2.2.1, T.2.2.2.2.2.1, fu (fu (q_sc T) 1 code) 13 c) = (w', T.2.1, T.2.2.1, T.2.2.2.1, T.2.2.2.2.1, T.2.2.2.2.2.1, fu (fu (q_sc T) 13 c) 1 code)
    rw [e0]
  rw [e1]
theorem TC.w {T : TS} {code ans : Int32} {S' : SS} {o : Option (Int32 × PH)} {w' : Nat → Int32} {L' : List MG} (e : o = some (ans, tw A (x_w (x_sc T 1 code) w') h)) (hr : TR ex S' (L'.map some) w') : TC A T h ex code ans S' o := ⟨w', L', q_sc T 13, by rw [x_sc_self]; exact e, hr⟩
theorem t_campaign (hA : TA A h) (hr : TR ex S (L.map some) (q_w T)) (hI : Inv S) (hl : L.length < 12000) {i : Nat} (hi : i < s_n S) : TC A T h ex 0 (campS S i).1 (campS S i).2 (f_X7_campaign (some (A 0)) (Int32.ofNat i) (tw A T h)) := by
  have h6 := hI.2.2.1.2
  have hN := hI.2.1 i hi
  have hW := hI.2.2.2.1.1
  have hr0 : TR ex S (L.map some) (q_w (x_sc T 1 0)) := hr
  unfold f_X7_campaign campS
  rw [t_rv, cl_eq ((t_noNd hA hr.1 hI.2.2.1.1).1 (isNd_in hi h6)), if_pos rfl, t_rv, cl_eq (t_refusal hA hr0.1 hN hW hi)]
  rcases unab_c (S := S) (i := i) with e | e | e
  · rw [e, if_neg (show ¬ (-3 : Int32) = 0 by decide), if_pos neg3.1, t_rv, cl_eq (t_refusal hA hr0.1 hN hW hi), e]
    exact TC_q hr
  · rw [e, if_neg (show ¬ (-2 : Int32) = 0 by decide), if_pos neg3.2.1, t_rv, cl_eq (t_refusal hA hr0.1 hN hW hi), e]
    exact TC_q hr
  · rw [e, if_pos rfl, if_neg neg3.2.2, t_rv, cl_eq (t_ofN hA hr0.1 5 5 rfl hi (by decide)), show tnd (s_nd S i) 5 = s_nd S i 3 from rfl]
    rcases hN.2.2.2.2.1 with h3 | h3
    · rw [h3, if_neg (show ¬ (0 : Int32) = 1 by decide), if_pos rfl, t_rv, cl_eq (t_puts hA 5 5 rfl (by omega) (by decide)), t_rv]
      have r1 : TR ex (u_nd S i 3 1) (L.map some) (q_w (x_w (x_sc T 1 0) (upd (q_w (x_sc T 1 0)) (40 + 20 * i + 5) 1))) := hr.nd (k := 3) hi (by decide)
      have hI1 : Inv (u_nd S i 3 1) := hI.nd (by decide) (fun _ => by
        obtain ⟨a1, a2, a3, a4, a5, a6⟩ := hN
        exact ⟨a1, a2, a3, a4, Or.inr rfl, a6⟩)
      obtain ⟨w', l, g1, g2, g3⟩ := t_acquires hA r1 hI1 (by rw [List.length_map]; exact hl) hi
      rw [cl_eq g1]
      rw [← List.map_append] at g2
      exact TC.c13 (v := 0) rfl g2
    · rw [h3, if_pos (show (1 : Int32) = 1 from rfl), if_neg (show ¬ (1 : Int32) = 0 by decide)]
      exact TC_q hr
theorem t_withdraw (hA : TA A h) (hr : TR ex S (L.map some) (q_w T)) (hI : Inv S) (hl : L.length < 12000) {i : Nat} (hi : i < s_n S) : TC A T h ex 0 (withS S i).1 (withS S i).2 (f_X7_withdraw (some (A 0)) (Int32.ofNat i) (tw A T h)) := by
  have h6 := hI.2.2.1.2
  have hN := hI.2.1 i hi
  have hW := hI.2.2.2.1.1
  have hr0 : TR ex S (L.map some) (q_w (x_sc T 1 0)) := hr
  unfold f_X7_withdraw withS
  rw [t_rv, cl_eq ((t_noNd hA hr.1 hI.2.2.1.1).1 (isNd_in hi h6)), if_pos rfl, t_rv, cl_eq (t_refusal hA hr0.1 hN hW hi)]
  rcases unab_c (S := S) (i := i) with e | e | e
  · rw [e, if_neg (show ¬ (-3 : Int32) = 0 by decide), if_pos neg3.1, t_rv, cl_eq (t_refusal hA hr0.1 hN hW hi), e]
    exact TC_q hr
  · rw [e, if_neg (show ¬ (-2 : Int32) = 0 by decide), if_pos neg3.2.1, t_rv, cl_eq (t_refusal hA hr0.1 hN hW hi), e]
    exact TC_q hr
  · rw [e, if_pos rfl, if_neg neg3.2.2, t_rv, cl_eq (t_ofN hA hr0.1 5 5 rfl hi (by decide)), show tnd (s_nd S i) 5 = s_nd S i 3 from rfl]
    by_cases h3 : s_nd S i 3 = 0
    · rw [if_pos h3, if_pos h3]
      exact TC_q hr
    · rw [if_neg h3, if_neg h3, t_rv, cl_eq (t_ofN hA hr0.1 7 7 rfl hi (by decide)), show tnd (s_nd S i) 7 = s_nd S i 6 from rfl]
      -- the end, from any state in which the messages stand
      have fin : ∀ (S1 : SS) (L1 : List MG) (w1 : Nat → Int32) (tok : Int32), TR ex S1 (L1.map some) w1 → i < s_n S1 → TC A T h ex 0 tok (u_nd (u_nd (lose S1 i) i 3 0) i 8 (-4)) (f_X7_withdraw_B56 (some (A 0)) (Int32.ofNat i) tok (tw A (x_w (x_sc T 1 0) w1) h)) := by
        intro S1 L1 w1 tok hr1 hi1
        unfold f_X7_withdraw_B56
        obtain ⟨w2, g1, g2⟩ := t_forgets (T := x_w (x_sc T 1 0) w1) hA hr1 hi1
        rw [t_rv, cl_eq g1, t_rv, cl_eq (t_puts hA 5 5 rfl (by omega) (by decide)), t_rv, cl_eq (t_puts hA 9 9 rfl (by omega) (by decide))]
        have g3 : TR ex (u_nd (lose S1 i) i 3 0) (L1.map some) (upd w2 (40 + 20 * i + 5) 0) := g2.nd (k := 3) hi1 (by decide)
        have g4 : TR ex (u_nd (u_nd (lose S1 i) i 3 0) i 8 (-4)) (L1.map some) (upd (upd w2 (40 + 20 * i + 5) 0) (40 + 20 * i + 9) (-1)) := by
          have hk := g3.1.tm (i := i) (v := -4) hi1
          rw [if_pos rfl] at hk
          exact g3.lo hk (by omega) rfl
        exact TC.w rfl g4
      have key : ∀ S1 : SS, u_nd (u_nd (lose S1 i) i 3 0) i 8 (-4) = lose (u_nd (u_nd S1 i 3 0) i 8 (-4)) i := fun S1 => by
        unfold lose
        rw [und_comm (S := u_nd S1 i 6 0) (a := 9) (b := 3) (by decide), und_comm (S := S1) (a := 6) (b := 3) (by decide), und_comm (S := u_nd (u_nd S1 i 3 0) i 6 0) (a := 9) (b := 8) (by decide), und_comm (S := u_nd S1 i 3 0) (a := 6) (b := 8) (by decide)]
      have h60 := hN.2.2.2.2.2.2.2.2.1
      by_cases ht : s_nd S i 6 = 0
      · rw [if_pos ht]
        have hle : s_nd S i 6 ≤ 0 := by rw [ht]; decide
        rw [if_pos hle, ← key S]
        exact fin S L (q_w T) (s_nd S i 6) hr hi
      · have hle : ¬ s_nd S i 6 ≤ 0 := fun hx => ht (by
          rw [Int32.le_iff_toInt_le] at hx
          apply Int32.toInt.inj
          have k0 : ((0 : Int32)).toInt = 0 := by decide
          omega)
        rw [if_neg ht, if_neg hle, t_rv]
        obtain ⟨w2, Pl2, g1, g2, ⟨l, g3, -⟩, g5⟩ := t_sends (T := x_sc T 1 0) (kind := 3) (node := i) (len := 1) (a := s_nd S i 6) (b := 0) (c := 0) (tok := s_nd S i 6) (num := 0) (val := 0) hA hr0 hI.si (by rw [List.length_map]; exact hl) hi rfl rfl (fun _ => rfl)
        rw [cl_eq (show f_X7_sends (some (A 0)) 2 _ _ _ _ _ = _ from g1)]
        rw [send_nd (by decide), send_nd (by decide), ← key]
        rw [g3, ← List.map_append] at g2
        exact fin _ _ w2 (s_nd S i 6) g2 (by rw [cS_send.2.1]; exact hi)
theorem t_crash (hA : TA A h) (hr : TR ex S (L.map some) (q_w T)) (hI : Inv S) {i : Nat} (hi : i < s_n S) : TC A T h ex 0 (crashS S i).1 (crashS S i).2 (f_X7_crash (some (A 0)) (Int32.ofNat i) (tw A T h)) := by
  have h6 := hI.2.2.1.2
  have hr0 : TR ex S (L.map some) (q_w (x_sc T 1 0)) := hr
  unfold f_X7_crash crashS
  rw [t_rv, cl_eq ((t_noNd hA hr.1 hI.2.2.1.1).1 (isNd_in hi h6)), if_pos rfl, t_rv, cl_eq (t_ofN hA hr0.1 3 3 rfl hi (by decide)), show tnd (s_nd S i) 3 = s_nd S i 2 from rfl]
  by_cases hu : s_nd S i 2 = 0
  · rw [if_pos hu, if_pos hu]
    exact TC_q hr
  · rw [if_neg hu, if_neg hu, t_rv, cl_eq (t_ofN hA hr0.1 7 7 rfl hi (by decide)), show tnd (s_nd S i) 7 = s_nd S i 6 from rfl, t_rv]
    obtain ⟨w1, g1, g2⟩ := hr0.logs hA (kind := 7) (x2 := Int32.ofNat i) (x3 := s_nd S i 6) (by decide)
    rw [cl_eq (show f_X7_logs (some (A 0)) 7 _ _ _ = _ from g1), t_rv]
    obtain ⟨S1, hS1⟩ : ∃ S1 : SS, S1 = note S 7 (Int32.ofNat i) (s_nd S i 6) := ⟨_, rfl⟩
    have n1 : s_n S1 = s_n S := by rw [hS1]; exact cS_note.2.1
    rw [← hS1] at g2 ⊢
    have hi1 : i < s_n S1 := by rw [n1]; exact hi
    obtain ⟨w2, k1, k2⟩ := t_forgets (T := x_w (x_sc T 1 0) w1) hA g2 hi1
    rw [cl_eq k1, t_rv, cl_eq (t_puts hA 3 3 rfl (by omega) (by decide)), t_rv, cl_eq (t_puts hA 9 9 rfl (by omega) (by decide)), t_rv, cl_eq (t_puts hA 4 4 rfl (by omega) (by decide)), t_rv, cl_eq (t_puts hA 5 5 rfl (by omega) (by decide))]
    have r1 : TR ex (u_nd (lose S1 i) i 2 0) (L.map some) (upd w2 (40 + 20 * i + 3) 0) := k2.nd (k := 2) hi1 (by decide)
    have r2 : TR ex (u_nd (u_nd (lose S1 i) i 2 0) i 8 (-4)) (L.map some) (upd (upd w2 (40 + 20 * i + 3) 0) (40 + 20 * i + 9) (-1)) := by
      have hk := r1.1.tm (i := i) (v := -4) hi1
      rw [if_pos rfl] at hk
      exact r1.lo hk (by omega) rfl
    have r3 : TR ex (u_nd (u_nd (u_nd (lose S1 i) i 2 0) i 8 (-4)) i 5 0) (L.map some) (upd (upd (upd w2 (40 + 20 * i + 3) 0) (40 + 20 * i + 9) (-1)) (40 + 20 * i + 4) 0) := r2.nd (k := 5) hi1 (by decide)
    have r4 : TR ex (u_nd (u_nd (u_nd (u_nd (lose S1 i) i 2 0) i 8 (-4)) i 5 0) i 3 0) (L.map some) (upd (upd (upd (upd w2 (40 + 20 * i + 3) 0) (40 + 20 * i + 9) (-1)) (40 + 20 * i + 4) 0) (40 + 20 * i + 5) 0) := r3.nd (k := 3) hi1 (by decide)
    rw [und_comm (S := u_nd (u_nd (lose S1 i) i 2 0) i 8 (-4)) (a := 5) (b := 3) (by decide), und_comm (S := u_nd (lose S1 i) i 2 0) (a := 8) (b := 3) (by decide)] at r4
    exact TC.w rfl r4
theorem t_restart (hA : TA A h) (hr : TR ex S (L.map some) (q_w T)) (hI : Inv S) {i : Nat} (hi : i < s_n S) : TC A T h ex 0 (restS S i).1 (restS S i).2 (f_X7_restart (some (A 0)) (Int32.ofNat i) (tw A T h)) := by
  have h6 := hI.2.2.1.2
  have hN := hI.2.1 i hi
  have hr0 : TR ex S (L.map some) (q_w (x_sc T 1 0)) := hr
  unfold f_X7_restart f_X7_restart_B18 restS
  rw [t_rv, cl_eq ((t_noNd hA hr.1 hI.2.2.1.1).1 (isNd_in hi h6)), if_pos rfl, t_rv, cl_eq (t_ofN hA hr0.1 3 3 rfl hi (by decide)), show tnd (s_nd S i) 3 = s_nd S i 2 from rfl]
  rcases hN.2.2.2.1 with hu | hu
  · rw [hu, if_neg (show ¬ (0 : Int32) = 1 by decide), if_pos rfl, t_rv, cl_eq (t_puts hA 3 3 rfl (by omega) (by decide)), rN_at nar01.2]
    exact TC.w rfl (show TR ex (u_nd S i 2 1) (L.map some) (upd (q_w T) (40 + 20 * i + 3) 1) from hr.nd (k := 2) hi (by decide))
  · rw [hu, if_pos (show (1 : Int32) = 1 from rfl), if_neg (show ¬ (1 : Int32) = 0 by decide), rN_at nar01.1, und_self hu.symm]
    exact TC_q hr
theorem t_pause (hA : TA A h) (hr : TR ex S (L.map some) (q_w T)) (hI : Inv S) {i : Nat} {ms : Int32} (hi : i < s_n S) : (iv ms 1 20000 → TC A T h ex 0 (pauS S i ms).1 (pauS S i ms).2 (f_X7_pause (some (A 0)) (Int32.ofNat i) ms (tw A T h))) ∧ (¬ iv ms 1 20000 → TC A T h ex 2 0 S (f_X7_pause (some (A 0)) (Int32.ofNat i) ms (tw A T h))) := by
  have h6 := hI.2.2.1.2
  have hr0 : TR ex S (L.map some) (q_w (x_sc T 1 0)) := hr
  have a0 : q_w T 0 = now S := hr.1.1.1
  have k1 : ((1 : Int64)).toInt = 1 := by decide
  have k2 : ((20000 : Int64)).toInt = 20000 := by decide
  have q1 : q_sc (x_sc T 1 0) 1 = 0 := by show fu (q_sc T) 1 0 1 = _; rw [fu_eq]
  unfold f_X7_pause f_X7_pause_B26 f_X7_pause_B33
  rw [t_rv, cl_eq ((t_noNd hA hr.1 hI.2.2.1.1).1 (isNd_in hi h6)), if_pos rfl, cl_eq t_in, k1, k2, Int32.toInt_toInt64]
  constructor
  · intro hm
    rw [if_pos (show 1 ≤ ms.toInt ∧ ms.toInt ≤ 20000 from hm), if_neg (by decide), t_rv, cl_eq (t_throws0 rfl q1), if_pos rfl, t_rv, cl_eq (t_ofN hA hr0.1 3 3 rfl hi (by decide)), show tnd (s_nd S i) 3 = s_nd S i 2 from rfl]
    unfold pauS
    by_cases hu : s_nd S i 2 = 0
    · rw [if_pos hu, if_pos hu]
      exact TC_q hr
    · rw [if_neg hu, if_neg hu, t_rv, cl_eq (t_ofN hA hr0.1 4 4 rfl hi (by decide)), show tnd (s_nd S i) 4 = s_nd S i 5 from rfl, t_rW, t_aW hA 0 0 rfl (by decide), q_wsc, a0, t_rv, cl_eq (t_puts hA 4 4 rfl (by omega) (by decide)), t_rv]
      have r1 : TR ex (u_nd S i 5 (mx (s_nd S i 5) (now S + ms))) (L.map some) (q_w (x_w (x_sc T 1 0) (upd (q_w (x_sc T 1 0)) (40 + 20 * i + 4) (mx (s_nd S i 5) (now S + ms))))) := hr.nd (k := 5) hi (by decide)
      have e := t_ofN hA r1.1 4 4 rfl hi (by decide)
      rw [show tnd (s_nd (u_nd S i 5 (mx (s_nd S i 5) (now S + ms))) i) 4 = s_nd (u_nd S i 5 (mx (s_nd S i 5) (now S + ms))) i 5 from rfl, nd_at] at e
      rw [cl_eq (show f_X7_of (some (A 0)) (Int32.ofNat i) 4 (tw A (x_w (x_sc T 1 0) (upd (q_w (x_sc T 1 0)) (40 + 20 * i + 4) (if s_nd S i 5 < now S + ms then now S + ms else s_nd S i 5))) h) = _ from e)]
      exact TC.w rfl r1
  · intro hm
    rw [if_neg (show ¬ (1 ≤ ms.toInt ∧ ms.toInt ≤ 20000) from hm), if_pos rfl, t_rv, cl_eq (t_throws1 hA (by decide) (by decide) q1), if_neg (by decide), x_scsc]
    exact TC_q hr
theorem t_setCut (hA : TA A h) (hr : TR ex S (L.map some) (q_w T)) (hI : Inv S) {i : Nat} {v : Int32} (hi : i < s_n S) (hv : v = 0 ∨ v = 1) : TC A T h ex 0 (cutS S i v).1 (cutS S i v).2 (f_X7_setCut (some (A 0)) (Int32.ofNat i) v (tw A T h)) := by
  have h6 := hI.2.2.1.2
  have hN := hI.2.1 i hi
  have hr0 : TR ex S (L.map some) (q_w (x_sc T 1 0)) := hr
  unfold f_X7_setCut f_X7_setCut_B26 f_X7_setCut_B40 cutS
  rw [t_rv, cl_eq ((t_noNd hA hr.1 hI.2.2.1.1).1 (isNd_in hi h6)), if_pos rfl, t_rv, cl_eq (t_ofN hA hr0.1 6 6 rfl hi (by decide)), show tnd (s_nd S i) 6 = s_nd S i 4 from rfl]
  have r1 : ∀ v : Int32, TR ex (u_nd S i 4 v) (L.map some) (upd (q_w T) (40 + 20 * i + 6) v) := fun v => hr.nd (k := 4) hi (by decide)
  rcases hN.2.2.2.2.2.1 with hc | hc
  · rw [hc, if_neg (show ¬ (0 : Int32) = 1 by decide)]
    rcases hv with rfl | rfl
    · rw [if_pos rfl, t_rv, cl_eq (t_puts hA 6 6 rfl (by omega) (by decide)), rN_at nar01.1]
      exact TC.w rfl (r1 0)
    · rw [if_neg (show ¬ (1 : Int32) = 0 by decide), t_rv, cl_eq (t_puts hA 6 6 rfl (by omega) (by decide)), rN_at nar01.1]
      exact TC.w rfl (r1 1)
  · rw [hc, if_pos (show (1 : Int32) = 1 from rfl)]
    rcases hv with rfl | rfl
    · rw [if_pos rfl, t_rv, cl_eq (t_puts hA 6 6 rfl (by omega) (by decide)), rN_at nar01.2]
      exact TC.w rfl (r1 0)
    · rw [if_neg (show ¬ (1 : Int32) = 0 by decide), t_rv, cl_eq (t_puts hA 6 6 rfl (by omega) (by decide)), rN_at nar01.2]
      exact TC.w rfl (r1 1)
end TCL
