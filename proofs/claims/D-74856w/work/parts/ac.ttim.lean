/-! THE TWIN: acquires, timersNow -/
set_option maxRecDepth 100000
theorem send_nd {S : SS} {i j kind node len : Nat} {v a b c : Int32} (hj : j ≠ 1 ∧ j ≠ 4) : send (u_nd S i j v) kind node len a b c = u_nd (send S kind node len a b c) i j v := by
  have e4 : s_nd (u_nd S i j v) node 4 = s_nd S node 4 := nd_ne (Or.inr hj.2)
  have e1 : s_nd (u_nd S i j v) node 1 = s_nd S node 1 := nd_ne (Or.inr hj.1)
  have f1 : s_sc (u_nd S i j v) = s_sc S := rfl
  have f2 : s_cf (u_nd S i j v) = s_cf S := rfl
  have f3 : s_ms (u_nd S i j v) = s_ms S := rfl
  have f4 : now (u_nd S i j v) = now S := rfl
  unfold send
  dsimp only
  rw [e4, e1, f1, f2, f3, f4]
  obtain ⟨x, hx⟩ : ∃ x : Int32, lcg (s_sc S 9) = x := ⟨_, rfl⟩
  rw [hx]
  obtain ⟨y, hy⟩ : ∃ y : Int32, jit x (s_cf S 7) = y := ⟨_, rfl⟩
  rw [hy]
  obtain ⟨z, hz⟩ : ∃ z : Int32, s_sc S 10 + 1 = z := ⟨_, rfl⟩
  rw [hz]
  obtain ⟨u, hu⟩ : ∃ u : Int32, s_sc S 11 + 1 = u := ⟨_, rfl⟩
  rw [hu]
  obtain ⟨t, ht⟩ : ∃ t : Int32, now S + s_nd S node 1 + y = t := ⟨_, rfl⟩
  rw [ht]
  by_cases hc : s_nd S node 4 = 0
  · rw [if_pos hc, if_pos hc]
    rfl
  · rw [if_neg hc, if_neg hc]
    rfl
theorem acquire_eq {S : SS} {i : Nat} : acquire S i = u_nd (u_nd (send S 0 i 1 (ndAt S i (now S)) 0 0) i 8 (mx (now S + 1) (ndRe S i (ndAt S i (now S) + s_cf S 6)))) i 11 (s_nd S i 11 + 1) := by
  unfold acquire setTimer
  dsimp only
  rw [nd_ne (Or.inr (by decide)), send_nd (by decide), send_nd (by decide)]
section TTM
variable {A : Nat → Nat} {h : PH} {ex : Bool × Int32 × Int32}
theorem t_acquires (hA : TA A h) {S : SS} {Pl : List (Option MG)} {T : TS} (hr : TR ex S Pl (q_w T)) (hI : Inv S) (hl : Pl.length < 12000) {i : Nat} (hi : i < s_n S) : ∃ (w' : Nat → Int32) (l : List MG), f_X7_acquires (some (A 0)) (Int32.ofNat i) (tw A T h) = some ((), tw A (x_w (x_sc T 13 (q_sc T 13 + (if Int32.ofNat i = q_sc T 12 then 1 else 0))) w') h) ∧ TR ex (acquire S i) (Pl ++ l.map some) w' ∧ l.length ≤ 1 := by
  have hN := hI.2.1 i hi
  have hW := hI.2.2.2.1.1
  have hclk := hI.clk hi
  have c6 := hI.1.2.2.2.2.2.1
  have o1 := hN.2.1.1
  have main : ∀ v : Int32, ∃ (w' : Nat → Int32) (l : List MG), f_X7_acquires_B18 (some (A 0)) (Int32.ofNat i) (some (A 0)) (q_sc T 13) v (tw A T h) = some ((), tw A (x_w (x_sc T 13 (q_sc T 13 + v)) w') h) ∧ TR ex (acquire S i) (Pl ++ l.map some) w' ∧ l.length ≤ 1 := by
    intro v
    unfold f_X7_acquires_B18
    rw [t_pV hA (by decide), t_rv]
    have hr1 : TR ex S Pl (q_w (x_sc T 13 (q_sc T 13 + v))) := hr
    rw [cl_eq (t_clock hA hr1.1 hi), t_rv]
    obtain ⟨w2, Pl2, g1, g2, ⟨l, g3, -⟩, g5⟩ := t_sends (T := x_sc T 13 (q_sc T 13 + v)) (kind := 0) (node := i) (len := 1) (a := ndAt S i (now S)) (b := 0) (c := 0) (tok := 0) (num := ndAt S i (now S)) (val := 0) hA hr1 hI.si hl hi rfl rfl (fun _ => rfl)
    rw [cl_eq (show f_X7_sends (some (A 0)) 1 _ _ _ _ _ = _ from g1), t_rv]
    obtain ⟨S2, hS2⟩ : ∃ S2 : SS, S2 = send S 0 i 1 (ndAt S i (now S)) 0 0 := ⟨_, rfl⟩
    have n2 : s_n S2 = s_n S := by rw [hS2]; exact cS_send.2.1
    have d2 : s_nd S2 = s_nd S := by rw [hS2]; exact cS_send.2.2
    have cf2 : s_cf S2 = s_cf S := by rw [hS2]; exact cS_send.1
    have t2 : now S2 = now S := by rw [hS2]; exact sc_send (by decide)
    rw [← hS2] at g2
    have g2' : TR ex S2 Pl2 (q_w (x_w (x_sc T 13 (q_sc T 13 + v)) w2)) := g2
    have hi2 : i < s_n S2 := by rw [n2]; exact hi
    have eclk : ndAt S2 i (now S2) = ndAt S i (now S) := by unfold ndAt; rw [d2, t2]
    have a8 : q_w (x_w (x_sc T 13 (q_sc T 13 + v)) w2) 8 = s_cf S2 6 := g2'.1.1.2.2.2.2.2.2.2.2.1
    rw [cl_eq (t_clock hA g2'.1 hi2), t_rW, t_aW hA 8 8 rfl (by decide), a8, t_rv, eclk, cf2]
    have e1 : (ndAt S i (now S) + s_cf S 6).toInt = (ndAt S i (now S)).toInt + (s_cf S 6).toInt := i_add (by omega) (by omega)
    obtain ⟨w3, k1, k2⟩ := g2'.timer hA (v := ndAt S i (now S) + s_cf S 6) (by rw [d2]; exact hN) (by rw [t2]; exact hW) hi2 (by rw [d2, e1]; omega) (by omega)
    rw [cl_eq k1, x_xw]
    refine ⟨w3, l, rfl, ?_, ?_⟩
    · rw [← g3, acquire_eq, ← hS2]
      have e8 : mx (now S + 1) (ndRe S i (ndAt S i (now S) + s_cf S 6)) = mx (now S2 + 1) (ndRe S2 i (ndAt S i (now S) + s_cf S 6)) := by unfold ndRe; rw [d2, t2]
      rw [e8]
      exact ⟨TWb.n11 k2.1, k2.2⟩
    · rw [g3] at g5
      simp at g5
      omega
  unfold f_X7_acquires
  rw [t_gI (by decide), t_gI (by decide)]
  by_cases hc : Int32.ofNat i = q_sc T 12
  · rw [if_pos hc, if_pos hc]
    exact main 1
  · rw [if_neg hc, if_neg hc]
    exact main 0
theorem Inv_tim {S : SS} {i : Nat} (h : Inv S) (hi : i < s_n S) (hb : s_gh (timNd S i) 0 ≤ 1000000) : Inv (timNd S i) := by
  unfold timNd at hb ⊢
  by_cases hd : due S i = true
  · rw [if_pos hd] at hb ⊢
    by_cases h3 : s_nd S i 3 = 0
    · rw [if_pos h3]
      exact h.nd (by decide) (fun hi' => (h.2.1 i hi').timer (Or.inl rfl))
    · rw [if_neg h3] at hb ⊢
      exact Inv_acquire h hi hb
  · rw [if_neg hd]
    exact h
theorem Inv_tims : ∀ (l : List Nat) (S : SS), Inv S → (∀ i ∈ l, i < s_n S) → s_gh (l.foldl timNd S) 0 ≤ 1000000 → Inv (l.foldl timNd S) := by
  intro l
  induction l with
  | nil => intro S h _ _; exact h
  | cons i l ih =>
    intro S h hl hb
    rw [List.foldl_cons] at hb ⊢
    have h1 := Inv_tim (i := i) h (hl i (by simp)) (Nat.le_trans (gle_tims l).1 hb)
    exact ih _ h1 (fun j hj => by rw [n_tim]; exact hl j (by simp [hj])) hb
/-- the twin's counter keeps up with the node's -/
def CN (T T' : TS) (S S' : SS) : Prop := q_sc T' 12 = q_sc T 12 ∧ ∀ i : Nat, i < s_n S → q_sc T 12 = Int32.ofNat i → q_sc T' 13 - s_nd S' i 11 = q_sc T 13 - s_nd S i 11
theorem nd11_acquire {S : SS} {i j : Nat} : s_nd (acquire S i) j 11 = if j = i then s_nd S i 11 + 1 else s_nd S j 11 := by
  rw [acquire_eq]
  by_cases hj : j = i
  · rw [if_pos hj, hj, nd_at]
  · rw [if_neg hj, nd_ne (Or.inl (Ne.symm hj)), nd_ne (Or.inl (Ne.symm hj)), cS_send.2.2]
theorem sub11 {a b : Int32} : a + 1 - (b + 1) = a - b := by
  rw [Int32.sub_eq_add_neg (a + 1), Int32.neg_add, Int32.sub_eq_add_neg (-b) 1, Int32.add_assoc, Int32.add_comm (-b) (-1), ← Int32.add_assoc 1 (-1) (-b), show (1 : Int32) + -1 = 0 from rfl, Int32.zero_add, ← Int32.sub_eq_add_neg]
theorem t_timL (hA : TA A h) : ∀ (d i N : Nat) (S : SS) (Pl : List (Option MG)) (T : TS), i + d = s_n S → d < N → TR ex S Pl (q_w T) → Inv S → Pl.length + d < 12000 → s_gh (((List.range (s_n S)).drop i).foldl timNd S) 0 ≤ 1000000 → ∃ (w' : Nat → Int32) (l : List MG) (c : Int32), f_X7_timersNow_L2 N (some (A 0)) (Int32.ofNat i) (tw A T h) = some ((), tw A (x_w (x_sc T 13 c) w') h) ∧ TR ex (((List.range (s_n S)).drop i).foldl timNd S) (Pl ++ l.map some) w' ∧ CN T (x_w (x_sc T 13 c) w') S (((List.range (s_n S)).drop i).foldl timNd S) := by
  intro d
  induction d with
  | zero =>
    intro i N S Pl T h1 h2 hr hI hl hb
    cases N with
    | zero => omega
    | succ N =>
      have a2 : q_w T 2 = Int32.ofNat (s_n S) := hr.1.1.2.2.1
      have h6 := hr.1.2.2.2.2.2.2
      unfold f_X7_timersNow_L2
      rw [t_rW, t_aW hA 2 2 rfl (by decide), a2, if_pos (by rw [of_le (by omega) (by omega)]; omega)]
      have e : (List.range (s_n S)).drop i = [] := List.drop_of_length_le (by simp; omega)
      rw [e, List.foldl_nil]
      refine ⟨q_w T, [], q_sc T 13, by rw [x_sc_self, x_w_self], by simpa using hr, ?_⟩
      rw [x_sc_self, x_w_self]
      exact ⟨rfl, fun _ _ _ => rfl⟩
  | succ d ih =>
    intro i N S Pl T h1 h2 hr hI hl hb
    cases N with
    | zero => omega
    | succ N =>
      have a2 : q_w T 2 = Int32.ofNat (s_n S) := hr.1.1.2.2.1
      have a0 : q_w T 0 = now S := hr.1.1.1
      have h6 := hr.1.2.2.2.2.2.2
      have hi : i < s_n S := by omega
      have hN := hI.2.1 i hi
      have hW := hI.2.2.2.1.1
      rw [range_drop hi, List.foldl_cons] at hb ⊢
      have hb1 : s_gh (timNd S i) 0 ≤ 1000000 := Nat.le_trans (gle_tims _).1 hb
      have hI1 := Inv_tim hI hi hb1
      have n1 : s_n (timNd S i) = s_n S := n_tim
      unfold f_X7_timersNow_L2 f_X7_timersNow_B81
      rw [t_rW, t_aW hA 2 2 rfl (by decide), a2, if_neg (fun hy => by rw [of_le (by omega) (by omega)] at hy; omega), t_rv, cl_eq (t_ofN hA hr.1 9 9 rfl hi (by decide)), t_rv, cl_eq (t_ofN hA hr.1 3 3 rfl hi (by decide))]
      rw [show tnd (s_nd S i) 3 = s_nd S i 2 from rfl, show tnd (s_nd S i) 9 = (if s_nd S i 8 = -4 then -1 else s_nd S i 8) from rfl]
      have nx : Int32.ofNat i + 1 = Int32.ofNat (i + 1) := by rw [show (1 : Int32) = Int32.ofNat 1 from rfl, of_add]
      rw [nx]
      -- nothing happens
      have skip : timNd S i = S → ∃ (w' : Nat → Int32) (l : List MG) (c : Int32), f_X7_timersNow_L2 N (some (A 0)) (Int32.ofNat (i + 1)) (tw A T h) = some ((), tw A (x_w (x_sc T 13 c) w') h) ∧ TR ex (((List.range (s_n S)).drop (i + 1)).foldl timNd (timNd S i)) (Pl ++ l.map some) w' ∧ CN T (x_w (x_sc T 13 c) w') S (((List.range (s_n S)).drop (i + 1)).foldl timNd (timNd S i)) := by
        intro e
        rw [e] at hb ⊢
        exact ih (i + 1) N S Pl T (by omega) (by omega) hr hI (by omega) hb
      have nodue : due S i = false → timNd S i = S := fun e => by unfold timNd; rw [e]; rfl
      by_cases hu : s_nd S i 2 = 0
      · rw [if_pos hu]
        exact skip (nodue (by unfold due; rw [hu]; rfl))
      · rw [if_neg hu, t_rv, cl_eq (t_isPaused hA hr.1 hN hW.1 hi)]
        by_cases hpa : paused S i (now S) = true
        · rw [if_pos hpa, if_neg (by decide)]
          exact skip (nodue (by unfold due; rw [hpa]; simp))
        · rw [if_neg hpa, if_pos rfl]
          have hpf : paused S i (now S) = false := by simpa using hpa
          by_cases h8 : s_nd S i 8 = -4
          · rw [if_pos h8, if_pos rfl]
            exact skip (nodue (by unfold due; rw [h8]; simp))
          · have h8i : iv (s_nd S i 8) 0 20000000 := by rcases hN.2.2.2.2.2.2.2.2.2.2.2 with e | e; exact absurd e h8; exact e
            have h8n : ¬ s_nd S i 8 = -1 := fun hx => by
              have : (s_nd S i 8).toInt = -1 := by rw [hx]; decide
              omega
            rw [if_neg h8, if_neg h8n, t_rW, t_aW hA 0 0 rfl (by decide), a0]
            by_cases hle : s_nd S i 8 ≤ now S
            · rw [if_pos hle, t_rv, cl_eq (t_ofN hA hr.1 5 5 rfl hi (by decide)), show tnd (s_nd S i) 5 = s_nd S i 3 from rfl]
              have hdue : due S i = true := by
                unfold due
                rw [hpf]
                have k0 : (0 : Int32) ≤ s_nd S i 8 := by
                  rw [Int32.le_iff_toInt_le]
                  have : ((0 : Int32)).toInt = 0 := by decide
                  omega
                simp [hu, k0, hle]
              rcases hN.2.2.2.2.1 with h3 | h3
              · rw [h3, if_neg (show ¬ (0 : Int32) = 1 by decide), t_rv, cl_eq (t_puts hA 9 9 rfl (by omega) (by decide))]
                have et : timNd S i = u_nd S i 8 (-4) := by unfold timNd; rw [if_pos hdue, if_pos h3]
                rw [et] at hb hI1 n1 ⊢
                have r1 : TR ex (u_nd S i 8 (-4)) Pl (q_w (x_w T (upd (q_w T) (40 + 20 * i + 9) (-1)))) := by
                  have hk := hr.1.tm (i := i) (v := -4) hi
                  rw [if_pos rfl] at hk
                  exact hr.lo hk (by omega) rfl
                obtain ⟨w', l, c, e1, e2, e3⟩ := ih (i + 1) N (u_nd S i 8 (-4)) Pl _ (by rw [n1]; omega) (by omega) r1 hI1 (by omega) (by rw [n1]; exact hb)
                refine ⟨w', l, c, ?_, e2, ?_⟩
                · rw [e1]
                  rfl
                · refine ⟨e3.1, fun j hj hc => ?_⟩
                  have := e3.2 j hj hc
                  rw [nd_ne (S := S) (i := i) (j := j) (a := 8) (b := 11) (Or.inr (by decide))] at this
                  exact this
              · rw [h3, if_pos (show (1 : Int32) = 1 from rfl), t_rv]
                have et : timNd S i = acquire S i := by unfold timNd; rw [if_pos hdue, if_neg (by rw [h3]; decide)]
                rw [et] at hb hI1 n1 ⊢
                obtain ⟨w1, l1, g1, g2, g3⟩ := t_acquires hA hr hI (by omega) hi
                rw [cl_eq g1]
                obtain ⟨w', l, c, e1, e2, e3⟩ := ih (i + 1) N (acquire S i) (Pl ++ l1.map some) (x_w (x_sc T 13 (q_sc T 13 + (if Int32.ofNat i = q_sc T 12 then 1 else 0))) w1) (by rw [n1]; omega) (by omega) g2 hI1 (by simp; omega) (by rw [n1]; exact hb)
                rw [n1] at e2 e3
                have ex1 : x_w (x_sc (x_w (x_sc T 13 (q_sc T 13 + (if Int32.ofNat i = q_sc T 12 then 1 else 0))) w1) 13 c) w' = x_w (x_sc T 13 c) w' := by
                  have e0 : fu (fu (q_sc T) 13 (q_sc T 13 + (if Int32.ofNat i = q_sc T 12 then 1 else 0))) 13 c = fu (q_sc T) 13 c := by
                    funext k
                    by_cases hk : k = 13
                    · rw [hk, fu_eq, fu_eq]
                    · rw [fu_ne hk, fu_ne hk, fu_ne hk]
                  show (w', T.2.1, T.2.2.1, T.2.2.2.1, T.2.2.2.2.1, T.2.2.2.2.2.1, fu (fu (q_sc T) 13 (q_sc T 13 + (if Int32.ofNat i = q_sc T 12 then 1 else 0))) 13 c) = (w', T.2.1, T.2.2.1, T.2.2.2.1, T.2.2.2.2.1, T.2.2.2.2.2.1, fu (q_sc T) 13 c)
                  rw [e0]
                rw [ex1] at e1 e3
                refine ⟨w', l1 ++ l, c, e1, by rw [List.map_append, ← List.append_assoc]; exact e2, ?_⟩
                have q12 : q_sc (x_w (x_sc T 13 (q_sc T 13 + (if Int32.ofNat i = q_sc T 12 then 1 else 0))) w1) 12 = q_sc T 12 := by
                  show fu (q_sc T) 13 (q_sc T 13 + (if Int32.ofNat i = q_sc T 12 then 1 else 0)) 12 = _
                  rw [fu_ne (by decide)]
                have q13 : q_sc (x_w (x_sc T 13 (q_sc T 13 + (if Int32.ofNat i = q_sc T 12 then 1 else 0))) w1) 13 = q_sc T 13 + (if Int32.ofNat i = q_sc T 12 then 1 else 0) := by
                  show fu (q_sc T) 13 (q_sc T 13 + (if Int32.ofNat i = q_sc T 12 then 1 else 0)) 13 = _
                  rw [fu_eq]
                refine ⟨e3.1.trans q12, fun j hj hc => ?_⟩
                have h3' := e3.2 j (by rw [n1]; exact hj) (by rw [q12]; exact hc)
                rw [h3', q13, nd11_acquire]
                by_cases hji : j = i
                · subst hji
                  rw [if_pos hc.symm, if_pos rfl, sub11]
                · rw [if_neg hji, if_neg (fun hx => hji (by
                    rw [hc] at hx
                    exact ((of_inj (by omega) (by omega)).mp hx).symm)), Int32.add_zero]
            · rw [if_neg hle]
              refine skip (nodue ?_)
              unfold due
              simp [hle]
end TTM
