/-! THE TWIN: passes -/
set_option maxRecDepth 100000
theorem NI10 {nd : Nat → Int32} {v : Int32} (h : NI nd) : NI (fu nd 10 v) := h
theorem add_sub3 {a b c : Int32} : (a + b) - c = a + (b - c) := by rw [Int32.sub_eq_add_neg, Int32.sub_eq_add_neg, Int32.add_assoc]
/-- a pass: the run without a leader, the longest one -/
def rnW (S : SS) (t x : Int32) : Int32 := if ((List.range (s_n S)).foldl (passNd t) (S, now S, now S)).2.1 = now S then (x + t) - now S else t - ((List.range (s_n S)).foldl (passNd t) (S, now S, now S)).2.1
section TPS
variable {A : Nat → Nat} {h : PH} {ex : Bool × Int32 × Int32} {Pl : List (Option MG)}
theorem until_nd10 {S : SS} {i j : Nat} {v : Int32} : until_ (u_nd S i 10 v) j = until_ S j := by
  unfold until_ ndRe
  rw [nd_ne (Or.inr (by decide)), nd_ne (Or.inr (by decide)), nd_ne (Or.inr (by decide)), nd_ne (Or.inr (by decide)), nd_ne (Or.inr (by decide))]
theorem until_b {S : SS} {i : Nat} (hN : NI (s_nd S i)) : 0 ≤ (until_ S i).toInt ∧ (until_ S i).toInt ≤ 20000000 := by
  unfold until_
  have k0 : ((0 : Int32)).toInt = 0 := by decide
  split
  · omega
  · split
    · omega
    · have h7 := hN.2.2.2.2.2.2.2.2.2.1
      have o1 := hN.2.1.1
      have := c_re_b (v := s_nd S i 7) hN.1.1 hN.1.2 hN.2.1.1 hN.2.1.2 h7.1 (by omega)
      have t : 0 ≤ (ndRe S i (s_nd S i 7)).toInt ∧ (ndRe S i (s_nd S i 7)).toInt ≤ 2 * max 0 ((s_nd S i 7).toInt - (s_nd S i 21).toInt) + 1 := ⟨this.1, this.2.1⟩
      omega
theorem t_passL (hA : TA A h) {t : Int32} : ∀ (d i N : Nat) (S : SS) (T : TS) (f s : Int32), i + d = s_n S → d < N → TR ex S Pl (q_w T) → (∀ j : Nat, j < s_n S → NI (s_nd S j)) → iv (now S) 0 5000000 → (now S).toInt ≤ s.toInt → s.toInt ≤ f.toInt → (now S).toInt ≤ t.toInt →
    ∃ (w' : Nat → Int32), f_X7_passes_L15 N (some (A 0)) t (now S) f s (Int32.ofNat i) (tw A T h) = some ((), tw A (x_w T w') h) ∧ TR (ex.1, (if (((List.range (s_n S)).drop i).foldl (passNd t) (S, f, s)).2.1 = now S then (ex.2.1 + t) - now S else t - (((List.range (s_n S)).drop i).foldl (passNd t) (S, f, s)).2.1), mx ex.2.2 (if (((List.range (s_n S)).drop i).foldl (passNd t) (S, f, s)).2.1 = now S then (ex.2.1 + t) - now S else t - (((List.range (s_n S)).drop i).foldl (passNd t) (S, f, s)).2.1)) (u_sc (u_sc (u_sc (((List.range (s_n S)).drop i).foldl (passNd t) (S, f, s)).1 16 (s_sc S 16 + ((((List.range (s_n S)).drop i).foldl (passNd t) (S, f, s)).2.2 - now S))) 17 (s_sc S 17 + (t - (((List.range (s_n S)).drop i).foldl (passNd t) (S, f, s)).2.1))) 8 t) Pl w' := by
  intro d
  induction d with
  | zero =>
    intro i N S T f s h1 h2 hr hN hW g1 g2 g3
    cases N with
    | zero => omega
    | succ N =>
      have a2 : q_w T 2 = Int32.ofNat (s_n S) := hr.1.1.2.2.1
      have a17 : q_w T 17 = s_sc S 16 := hr.1.1.2.2.2.2.2.2.2.2.2.2.2.2.2.2.2.2.1
      have a23 : q_w T 23 = s_sc S 17 := hr.1.1.2.2.2.2.2.2.2.2.2.2.2.2.2.2.2.2.2.2.2.2.2.1
      have h6 := hr.1.2.2.2.2.2.2
      have e : (List.range (s_n S)).drop i = [] := List.drop_of_length_le (by simp; omega)
      rw [e, List.foldl_nil]
      dsimp only
      unfold f_X7_passes_L15 f_X7_passes_B152
      rw [t_rW, t_aW hA 2 2 rfl (by decide), a2, if_pos (by rw [of_le (by omega) (by omega)]; omega), t_rW, t_aW hA 17 17 rfl (by decide), a17, t_sW hA 17 17 rfl (by decide), t_rW, t_aW hA 23 23 rfl (by decide), q_xw, upd_ne (show 23 ≠ 17 by decide), a23, t_sW hA 23 23 rfl (by decide), q_xw, x_xw, t_rW, t_rW]
      have r1 : TR ex (u_sc S 16 (s_sc S 16 + (s - now S))) Pl (upd (q_w T) 17 (s_sc S 16 + (s - now S))) := hr.sc (by simp [scM])
      have r2 : TR ex (u_sc (u_sc S 16 (s_sc S 16 + (s - now S))) 17 (s_sc S 17 + (t - f))) Pl (upd (upd (q_w T) 17 (s_sc S 16 + (s - now S))) 23 (s_sc S 17 + (t - f))) := r1.sc (by simp [scM])
      have a33 : q_w T 33 = ex.2.1 := hr.1.1.2.2.2.2.2.2.2.2.2.2.2.2.2.2.2.2.2.2.2.2.2.2.2.1
      have a34 : q_w T 34 = ex.2.2 := hr.1.1.2.2.2.2.2.2.2.2.2.2.2.2.2.2.2.2.2.2.2.2.2.2.2.2
      rw [← a33, ← a34]
      have fin : ∀ y : Int32, TR (ex.1, y, mx (q_w T 34) y) (u_sc (u_sc (u_sc S 16 (s_sc S 16 + (s - now S))) 17 (s_sc S 17 + (t - f))) 8 t) Pl (upd (upd (upd (upd (upd (q_w T) 17 (s_sc S 16 + (s - now S))) 23 (s_sc S 17 + (t - f))) 33 y) 34 (mx (q_w T 34) y)) 0 t) := fun y => by
        have r3 : TR (ex.1, y, ex.2.2) (u_sc (u_sc S 16 (s_sc S 16 + (s - now S))) 17 (s_sc S 17 + (t - f))) Pl (upd (upd (upd (q_w T) 17 (s_sc S 16 + (s - now S))) 23 (s_sc S 17 + (t - f))) 33 y) := ⟨r2.1.rn 33 (Or.inl ⟨rfl, rfl⟩), TMp.keep (ex := (ex.1, y, ex.2.2)) (show TMp (ex.1, y, ex.2.2) Pl _ from r2.2.1) (fun p hp => upd_ne (by omega)), r2.2.2⟩
        have r4 : TR (ex.1, y, mx (q_w T 34) y) (u_sc (u_sc S 16 (s_sc S 16 + (s - now S))) 17 (s_sc S 17 + (t - f))) Pl (upd (upd (upd (upd (q_w T) 17 (s_sc S 16 + (s - now S))) 23 (s_sc S 17 + (t - f))) 33 y) 34 (mx (q_w T 34) y)) := ⟨r3.1.rn 34 (Or.inr ⟨rfl, rfl⟩), TMp.keep (ex := (ex.1, y, mx (q_w T 34) y)) (show TMp (ex.1, y, mx (q_w T 34) y) Pl _ from r3.2.1) (fun p hp => upd_ne (by omega)), r3.2.2⟩
        exact r4.sc (by simp [scM])
      by_cases hc : f = now S
      · rw [if_pos hc, if_pos hc, t_aW hA 33 33 rfl (by decide), q_xw, upd_ne (show 33 ≠ 23 by decide), upd_ne (show 33 ≠ 17 by decide), t_sW hA 33 33 rfl (by decide), t_rW, t_rW, t_aW hA 34 34 rfl (by decide), t_rW, t_aW hA 33 33 rfl (by decide), t_sW hA 34 34 rfl (by decide), t_rW, t_sW hA 0 0 rfl (by decide)]
        exact ⟨_, rfl, fin _⟩
      · rw [if_neg hc, if_neg hc, t_sW hA 33 33 rfl (by decide), t_rW, t_rW, t_aW hA 34 34 rfl (by decide), t_rW, t_aW hA 33 33 rfl (by decide), t_sW hA 34 34 rfl (by decide), t_rW, t_sW hA 0 0 rfl (by decide)]
        exact ⟨_, rfl, fin _⟩
  | succ d ih =>
    intro i N S T f s h1 h2 hr hN hW g1 g2 g3
    cases N with
    | zero => omega
    | succ N =>
      have a2 : q_w T 2 = Int32.ofNat (s_n S) := hr.1.1.2.2.1
      have h6 := hr.1.2.2.2.2.2.2
      have hi : i < s_n S := by omega
      have hNi := hN i hi
      have hub := until_b hNi
      rw [range_drop hi, List.foldl_cons]
      have nx : Int32.ofNat i + 1 = Int32.ofNat (i + 1) := by rw [show (1 : Int32) = Int32.ofNat 1 from rfl, of_add]
      unfold f_X7_passes_L15 f_X7_passes_B91
      rw [t_rW, t_aW hA 2 2 rfl (by decide), a2, if_neg (fun hy => by rw [of_le (by omega) (by omega)] at hy; omega), t_rv, cl_eq (t_leads hA hr.1 hNi hW hi), nx]
      by_cases hl : leads S i (now S) = true
      · rw [if_pos hl, if_neg (show ¬ (1 : Int32) = 0 by decide), t_rv]
        have hlt : (now S).toInt < (until_ S i).toInt := by
          unfold leads at hl
          have := of_decide_eq_true hl
          rw [Int32.lt_iff_toInt_lt] at this
          exact this
        -- it leads: until_ is what the twin takes
        have hz : s_nd S i 6 ≠ 0 := fun hx => by
          have : until_ S i = 0 := by
            unfold until_
            split
            · rfl
            · rw [hx, if_pos (by decide)]
          rw [this] at hlt
          have k0 : ((0 : Int32)).toInt = 0 := by decide
          omega
        have hun : ndRe S i (s_nd S i 7) = until_ S i := by
          unfold until_
          rw [if_neg (fun hx => by
            have : until_ S i = 0 := by unfold until_; rw [if_pos hx]
            rw [this] at hlt
            have k0 : ((0 : Int32)).toInt = 0 := by decide
            omega), if_neg (fun hx => hz (by
              rw [Int32.le_iff_toInt_le] at hx
              apply Int32.toInt.inj
              have := hNi.2.2.2.2.2.2.2.2.1
              have k0 : ((0 : Int32)).toInt = 0 := by decide
              omega))]
        rw [cl_eq (t_endOf hA hr.1 hNi hi hz), hun, t_rv, cl_eq (t_ofN hA hr.1 10 10 rfl hi (by decide)), show tnd (s_nd S i) 10 = s_nd S i 10 from rfl, t_rv, cl_eq (t_puts hA 10 10 rfl (by omega) (by decide))]
        obtain ⟨e, he⟩ : ∃ e : Int32, e = (if until_ S i < t then until_ S i else t) := ⟨_, rfl⟩
        rw [← he]
        have hei : e.toInt = min t.toInt (until_ S i).toInt := by
          rw [he]
          exact mn_i (a := t) (b := until_ S i)
        have hmx : mx (now S) (mn t (until_ S i)) = e := by
          apply Int32.toInt.inj
          rw [mx_i, mn_i, hei]
          omega
        have r1 : TR ex (u_nd S i 10 (s_nd S i 10 + (e - now S))) Pl (q_w (x_w T (upd (q_w T) (40 + 20 * i + 10) ((s_nd S i 10 + e) - now S)))) := by
          rw [add_sub3]
          exact hr.nd (k := 10) hi (by decide)
        have hN1 : ∀ j : Nat, j < s_n (u_nd S i 10 (s_nd S i 10 + (e - now S))) → NI (s_nd (u_nd S i 10 (s_nd S i 10 + (e - now S))) j) := by
          intro j hj
          show NI (fu (s_nd S) i (fu (s_nd S i) 10 (s_nd S i 10 + (e - now S))) j)
          by_cases hji : j = i
          · subst hji
            rw [fu_eq]
            exact NI10 (hN j hj)
          · rw [fu_ne hji]
            exact hN j hj
        have ep : passNd t (S, f, s) i = (u_nd S i 10 (s_nd S i 10 + (e - now S)), (if f < e then e else f), (if s < (if e < f then e else f) then (if e < f then e else f) else s)) := by
          unfold passNd
          dsimp only
          rw [hmx]
          by_cases hef : e ≤ f
          · rw [if_pos hef, if_neg (nle.mp hef)]
            have e1 : (if e < f then e else f) = e := by
              by_cases h3 : e < f
              · rw [if_pos h3]
              · rw [if_neg h3]
                apply Int32.toInt.inj
                rw [Int32.lt_iff_toInt_lt] at h3
                rw [Int32.le_iff_toInt_le] at hef
                omega
            rw [e1]
            rfl
          · have hfe : f < e := by
              rw [Int32.lt_iff_toInt_lt]
              rw [Int32.le_iff_toInt_le] at hef
              omega
            rw [if_neg hef, if_pos hfe]
            have e1 : (if e < f then e else f) = f := if_neg (fun h3 => by
              rw [Int32.lt_iff_toInt_lt] at h3 hfe
              omega)
            rw [e1]
            have e2 : (if s < f then f else s) = f := by
              by_cases h3 : s < f
              · rw [if_pos h3]
              · rw [if_neg h3]
                apply Int32.toInt.inj
                rw [Int32.lt_iff_toInt_lt] at h3
                omega
            rw [e2]
        rw [ep]
        have f1 : (if f < e then e else f).toInt = max f.toInt e.toInt := mx_i (a := f) (b := e)
        have f2 : (if e < f then e else f).toInt = min f.toInt e.toInt := mn_i (a := f) (b := e)
        have f3 : (if s < (if e < f then e else f) then (if e < f then e else f) else s).toInt = max s.toInt (min f.toInt e.toInt) := by
          rw [← f2]
          exact mx_i (a := s) (b := (if e < f then e else f))
        have := ih (i + 1) N (u_nd S i 10 (s_nd S i 10 + (e - now S))) _ (if f < e then e else f) (if s < (if e < f then e else f) then (if e < f then e else f) else s) (by show i + 1 + d = s_n S; omega) (by omega) r1 hN1 hW (by rw [f3]; show (now S).toInt ≤ _; omega) (by rw [f1, f3]; omega) g3
        obtain ⟨w', k1, k2⟩ := this
        rw [x_xw] at k1
        exact ⟨w', k1, k2⟩
      · rw [if_neg hl, if_pos rfl]
        have hge : (until_ S i).toInt ≤ (now S).toInt := by
          unfold leads at hl
          have : ¬ now S < until_ S i := fun hx => hl (decide_eq_true hx)
          rw [Int32.lt_iff_toInt_lt] at this
          omega
        have hmx : mx (now S) (mn t (until_ S i)) = now S := by
          apply Int32.toInt.inj
          rw [mx_i, mn_i]
          omega
        have ep : passNd t (S, f, s) i = (S, f, s) := by
          unfold passNd
          dsimp only
          rw [hmx, Int32.sub_self, Int32.add_zero, und_self rfl, if_pos (by rw [Int32.le_iff_toInt_le]; omega)]
          have : mx s (now S) = s := by
            apply Int32.toInt.inj
            rw [mx_i]
            omega
          rw [this]
        rw [ep]
        exact ih (i + 1) N S T f s (by omega) (by omega) hr hN hW g1 g2 g3
theorem pass_sc {S : SS} {t : Int32} : ∀ (l : List Nat) (q : SS × Int32 × Int32), s_sc (l.foldl (passNd t) q).1 = s_sc q.1 := by
  intro l
  induction l with
  | nil => intro q; rfl
  | cons i l ih =>
    intro q
    rw [List.foldl_cons, ih]
    rw [passNd_1]
    rfl
/-- passes -/
theorem t_passes (hA : TA A h) {S : SS} {T : TS} {t : Int32} (hr : TR ex S Pl (q_w T)) (hN : ∀ j : Nat, j < s_n S → NI (s_nd S j)) (hW : iv (now S) 0 5000000) (ht : (now S).toInt ≤ t.toInt) : ∃ w' : Nat → Int32, f_X7_passes (some (A 0)) t (tw A T h) = some ((), tw A (x_w T w') h) ∧ TR (ex.1, rnW S t ex.2.1, mx ex.2.2 (rnW S t ex.2.1)) (pass S t) Pl w' := by
  have h6 := hr.1.2.2.2.2.2.2
  have a0 : q_w T 0 = now S := hr.1.1.1
  unfold f_X7_passes
  rw [t_rW, t_aW hA 0 0 rfl (by decide), a0, show (0 : Int32) = Int32.ofNat 0 from rfl]
  obtain ⟨w', k1, k2⟩ := t_passL (t := t) hA (s_n S) 0 FU S T (now S) (now S) (by omega) (by unfold FU; omega) hr hN hW (Int.le_refl _) (Int.le_refl _) ht
  rw [List.drop_zero] at k2
  refine ⟨w', k1, ?_⟩
  unfold pass rnW
  dsimp only
  have e := pass_sc (S := S) (t := t) (List.range (s_n S)) (S, now S, now S)
  have e8 : now ((List.range (s_n S)).foldl (passNd t) (S, now S, now S)).1 = now S := congrFun e 8
  rw [e8]
  have e16 : s_sc ((List.range (s_n S)).foldl (passNd t) (S, now S, now S)).1 16 = s_sc S 16 := congrFun e 16
  have e17' : s_sc ((List.range (s_n S)).foldl (passNd t) (S, now S, now S)).1 17 = s_sc S 17 := congrFun e 17
  rw [e16, e17']
  exact k2
end TPS
