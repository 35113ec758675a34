/-! THE TWIN: the storage, the nodes, a message that arrives -/
set_option maxRecDepth 100000
theorem ss_nd {S : SS} {f g : Nat → Nat → Int32} (h : f = g) : ((S.1, S.2.1, f, S.2.2.2) : SS) = (S.1, S.2.1, g, S.2.2.2) := by rw [h]
theorem und_comm {S : SS} {i a b : Nat} {x y : Int32} (hab : a ≠ b) : u_nd (u_nd S i a x) i b y = u_nd (u_nd S i b y) i a x := by
  refine ss_nd (S := S) (funext fun j => ?_)
  show fu (fu (s_nd S) i (fu (s_nd S i) a x)) i (fu (fu (s_nd S) i (fu (s_nd S i) a x) i) b y) j = fu (fu (s_nd S) i (fu (s_nd S i) b y)) i (fu (fu (s_nd S) i (fu (s_nd S i) b y) i) a x) j
  by_cases hj : j = i
  · subst hj
    rw [fu_eq, fu_eq, fu_eq, fu_eq]
    funext k
    by_cases h1 : k = a
    · subst h1
      rw [fu_ne hab, fu_eq, fu_eq]
    · by_cases h2 : k = b
      · subst h2
        rw [fu_eq, fu_ne h1, fu_eq]
      · rw [fu_ne h2, fu_ne h1, fu_ne h1, fu_ne h2]
  · rw [fu_ne hj, fu_ne hj, fu_ne hj, fu_ne hj]
theorem und_und {S : SS} {i a : Nat} {x y : Int32} : u_nd (u_nd S i a x) i a y = u_nd S i a y := by
  refine ss_nd (S := S) (funext fun j => ?_)
  show fu (fu (s_nd S) i (fu (s_nd S i) a x)) i (fu (fu (s_nd S) i (fu (s_nd S i) a x) i) a y) j = fu (s_nd S) i (fu (s_nd S i) a y) j
  by_cases hj : j = i
  · subst hj
    rw [fu_eq, fu_eq, fu_eq]
    funext k
    by_cases h1 : k = a
    · subst h1
      rw [fu_eq, fu_eq]
    · rw [fu_ne h1, fu_ne h1, fu_ne h1]
  · rw [fu_ne hj, fu_ne hj, fu_ne hj]
theorem und_self {S : SS} {i a : Nat} {x : Int32} (hx : x = s_nd S i a) : u_nd S i a x = S := by
  refine ss_nd (S := S) (g := s_nd S) (funext fun j => ?_)
  show fu (s_nd S) i (fu (s_nd S i) a x) j = s_nd S j
  by_cases hj : j = i
  · subst hj
    rw [fu_eq]
    funext k
    by_cases h1 : k = a
    · subst h1
      rw [fu_eq, hx]
    · rw [fu_ne h1]
  · rw [fu_ne hj]
theorem nd_at {S : SS} {i a : Nat} {x : Int32} : s_nd (u_nd S i a x) i a = x := by
  show fu (s_nd S) i (fu (s_nd S i) a x) i a = x
  rw [fu_eq, fu_eq]
theorem nd_ne {S : SS} {i j a b : Nat} {x : Int32} (h : i ≠ j ∨ a ≠ b) : s_nd (u_nd S i a x) j b = s_nd S j b := by
  show fu (s_nd S) i (fu (s_nd S i) a x) j b = _
  by_cases hj : j = i
  · subst hj
    rw [fu_eq, fu_ne (by rcases h with h | h; exact absurd rfl h; exact Ne.symm h)]
  · rw [fu_ne hj]
theorem limit_eq {d b x : Int32} (hd : iv d 100 60000) (hb : iv b 0 100) : x + (d * ((1000 : Int32) - b)) / ((1000 : Int32) + b) = ((x.toInt64) + ((d.toInt64 * ((1000 : Int64) - b.toInt64)) / ((1000 : Int64) + b.toInt64))).toInt32 := by
  rw [Int64.toInt32_add, Int32.toInt32_toInt64]
  congr 1
  apply Int32.toInt.inj
  have k32 : ((1000 : Int32)).toInt = 1000 := by decide
  have k64 : ((1000 : Int64)).toInt = 1000 := by decide
  have e1 : ((1000 : Int32) - b).toInt = 1000 - b.toInt := by rw [i_sub] <;> rw [k32] <;> omega
  have e2 : ((1000 : Int32) + b).toInt = 1000 + b.toInt := by rw [i_add] <;> rw [k32] <;> omega
  have hm := mul_in (a := d.toInt) (b := 1000 - b.toInt) (x := 60000) (y := 1000) (by omega) (by omega) (by omega) (by omega)
  have e3 : (d * ((1000 : Int32) - b)).toInt = d.toInt * (1000 - b.toInt) := by rw [i_mul] <;> rw [e1] <;> omega
  have f1 : ((1000 : Int64) - b.toInt64).toInt = 1000 - b.toInt := by rw [l_sub] <;> rw [k64, Int32.toInt_toInt64] <;> omega
  have f2 : ((1000 : Int64) + b.toInt64).toInt = 1000 + b.toInt := by rw [l_add] <;> rw [k64, Int32.toInt_toInt64] <;> omega
  have f3 : (d.toInt64 * ((1000 : Int64) - b.toInt64)).toInt = d.toInt * (1000 - b.toInt) := by rw [l_mul] <;> rw [f1, Int32.toInt_toInt64] <;> omega
  have f4 : (d.toInt64 * ((1000 : Int64) - b.toInt64) / ((1000 : Int64) + b.toInt64)).toInt = d.toInt * (1000 - b.toInt) / (1000 + b.toInt) := by rw [l_div (by rw [f3]; exact hm.1) (by rw [f2]; omega), f3, f2]
  have q1 : 0 ≤ d.toInt * (1000 - b.toInt) / (1000 + b.toInt) := Int.ediv_nonneg hm.1 (by omega)
  have q2 : d.toInt * (1000 - b.toInt) / (1000 + b.toInt) ≤ d.toInt * (1000 - b.toInt) := Int.ediv_le_self _ hm.1
  rw [i_div (by rw [e3]; exact hm.1) (by rw [e2]; omega), e3, e2, l_int (by rw [f4]; omega) (by rw [f4]; omega), f4]
theorem sc_watch {S : SS} {m : MG} {v : Int32} {j : Nat} (hj : j ≠ 21) : s_sc (watch S m v) j = s_sc S j := by
  unfold watch
  exact fu_ne hj
theorem sc_usc {S : SS} {k j : Nat} {v : Int32} (hj : j ≠ k) : s_sc (u_sc S k v) j = s_sc S j := fu_ne hj
section THD
variable {A : Nat → Nat} {T : TS} {h : PH} {ex : Bool × Int32 × Int32} {S S' : SS} {Pl : List (Option MG)} {w : Nat → Int32}
theorem TWb.reg {r : Nat} {v v' : Int32} (hT : TWb ex S w) (hr : r < 8) (hv : ex.1 = true → v' = v) : TWb ex (u_ar S 0 r v) (upd w (160 + r) v') := by
  have h1 := hT.ar (j := 0) (k := r) (p := 160 + r) (v := v') (Or.inr (Or.inr ⟨rfl, hr, rfl⟩))
  obtain ⟨eb, er⟩ := ex
  cases eb with
  | true =>
    rw [hv rfl] at h1 ⊢
    exact h1
  | false =>
    obtain ⟨g1, g2, ⟨g3, g4, g5⟩, g6⟩ := h1
    exact ⟨g1, g2, ⟨g3, g4, fun _ he _ => absurd (show false = true from he) (by decide)⟩, g6⟩
theorem TWb.cch {i r : Nat} {v v' : Int32} (hT : TWb ex S w) (hi : i < s_n S) (hr : r < 8) (hv : ex.1 = true → v' = v) : TWb ex (u_nd S i (30 + r) v) (upd w (40 + 20 * i + (12 + r)) v') := by
  have h1 := hT.nd (i := i) (k := 30 + r) (v := v') hi ⟨by omega, by omega⟩
  rw [ndP_hi (by omega), show 30 + r - 18 = 12 + r from by omega] at h1
  obtain ⟨eb, er⟩ := ex
  cases eb with
  | true =>
    rw [hv rfl] at h1 ⊢
    exact h1
  | false =>
    obtain ⟨g1, g2, g3⟩ := h1
    refine ⟨g1, fun j c hj hc he => ?_, g3⟩
    have hc12 : c < 12 := by rcases he with he | he; exact he; exact absurd (show false = true from he) (by decide)
    rw [g2 j c hj hc he]
    show tnd (fu (s_nd S) i (fu (s_nd S i) (30 + r) v') j) c = tnd (fu (s_nd S) i (fu (s_nd S i) (30 + r) v) j) c
    by_cases hji : j = i
    · subst hji
      rw [fu_eq, fu_eq, tnd_fu ⟨by omega, by omega⟩ c hc, tnd_fu ⟨by omega, by omega⟩ c hc, ndP_hi (by omega), if_neg (by omega), if_neg (by omega)]
    · rw [fu_ne hji, fu_ne hji]
theorem TR.lo {p : Nat} {v : Int32} (hr : TR ex S Pl w) (hb : TWb ex S' (upd w p v)) (hp : p < 1136 ∧ p ≠ 20) (hm : s_ms S' = s_ms S) : TR ex S' Pl (upd w p v) := hr.to hb (fun q hq => upd_ne (by omega)) hm
theorem TR.nd {i k : Nat} {v : Int32} (hr : TR ex S Pl w) (hi : i < s_n S) (hk : k ≠ 8 ∧ (k = 20 ∨ k = 21 ∨ (1 ≤ k ∧ k ≤ 10) ∨ (30 ≤ k ∧ k < 38))) : TR ex (u_nd S i k v) Pl (upd w (40 + 20 * i + ndP k) v) := by
  have h6 := hr.1.2.2.2.2.2.2
  have hP : ndP k < 20 := by
    unfold ndP
    repeat' (split <;> try omega)
  exact hr.lo (hr.1.nd hi hk) (by omega) rfl
theorem nowT {S' : SS} (h : s_sc S' 8 = s_sc S 8) : (now S').toInt = (now S).toInt := by show (s_sc S' 8).toInt = _; rw [h]
theorem t_fence (hA : TA A h) (hr : TR ex S Pl (q_w T)) (hI : SI S) (hl : Pl.length < 12000) {m : MG} (hn : m.2.1 < s_n S) (hf : m.2.2.2.1 < s_sc S 30) : ∃ (w' : Nat → Int32) (Pl' : List (Option MG)), f_X7_fences (some (A 0)) (Int32.ofNat m.2.1) m.2.2.2.1 (tw A T h) = some (1, tw A (x_w T w') h) ∧ TR ex (fence S m) Pl' w' ∧ Ext (now S).toInt Pl Pl' ∧ Pl'.length ≤ Pl.length + 1 := by
  have a14 : q_w T 14 = s_sc S 30 := hr.1.1.2.2.2.2.2.2.2.2.2.2.2.2.2.2.1
  unfold f_X7_fences
  rw [t_rW, t_aW hA 14 14 rfl (by decide), a14, if_pos hf, t_rv]
  obtain ⟨w1, e1, e2⟩ := hr.logs hA (kind := 5) (x2 := Int32.ofNat m.2.1) (x3 := m.2.2.2.1) (by decide)
  rw [cl_eq (show f_X7_logs (some (A 0)) 5 _ _ _ = _ from e1), t_rv]
  have e2' : TR ex (note (g_mk S 2 13) 5 (Int32.ofNat m.2.1) m.2.2.2.1) Pl w1 := by
    refine e2.to (S' := note (g_mk S 2 13) 5 (Int32.ofNat m.2.1) m.2.2.2.1) ?_ (fun p _ => rfl) (by rw [ms_note, ms_note]; rfl)
    have : TWb ex (note (g_mk S 2 13) 5 (Int32.ofNat m.2.1) m.2.2.2.1) w1 := by
      have h1 := e2.1
      unfold note at h1 ⊢
      dsimp only at h1 ⊢
      by_cases h2 : (s_lg S).length = 200
      · rw [if_pos h2] at h1
        rw [if_pos (show (s_lg (g_mk S 2 13)).length = 200 from h2)]
        exact h1
      · rw [if_neg h2] at h1
        rw [if_neg (show ¬ (s_lg (g_mk S 2 13)).length = 200 from h2)]
        exact h1
    exact this
  have e3 : TR ex (watch (note (g_mk S 2 13) 5 (Int32.ofNat m.2.1) m.2.2.2.1) m 1) Pl w1 := e2'.sc0 (Or.inr (Or.inr rfl))
  have hI3 : SI (watch (note (g_mk S 2 13) 5 (Int32.ofNat m.2.1) m.2.2.2.1) m 1) := (SI.note (S := g_mk S 2 13) hI).wt
  obtain ⟨w2, Pl2, g1, g2, g3, g4⟩ := t_sends (T := x_w T w1) (kind := 8) (node := m.2.1) (len := 1) (a := m.2.2.2.1) (b := 0) (c := 0) (tok := m.2.2.2.1) (num := 0) (val := 0) hA e3 hI3 hl (by show m.2.1 < s_n (note (g_mk S 2 13) 5 (Int32.ofNat m.2.1) m.2.2.2.1); rw [cS_note.2.1]; exact hn) rfl rfl (fun _ => rfl)
  rw [cl_eq (show f_X7_sends (some (A 0)) 9 _ _ _ _ _ = _ from g1), rN_at nar01.2]
  rw [nowT (S := S) (S' := watch (note (g_mk S 2 13) 5 (Int32.ofNat m.2.1) m.2.2.2.1) m 1) (by rw [sc_watch (by decide), sc_note]; rfl)] at g3
  exact ⟨w2, Pl2, rfl, g2, g3, g4⟩
theorem t_seen (hA : TA A h) (hr : TR ex S Pl (q_w T)) {n tok : Int32} (hf : s_sc S 30 ≤ tok) : f_X7_fences (some (A 0)) n tok (tw A T h) = some (0, tw A (x_w T (upd (q_w T) 14 tok)) h) ∧ TR ex (u_sc S 30 tok) Pl (upd (q_w T) 14 tok) := by
  have a14 : q_w T 14 = s_sc S 30 := hr.1.1.2.2.2.2.2.2.2.2.2.2.2.2.2.2.1
  unfold f_X7_fences
  rw [t_rW, t_aW hA 14 14 rfl (by decide), a14, if_neg (nle.mp hf), t_rW, t_sW hA 14 14 rfl (by decide), rN_at nar01.1]
  exact ⟨rfl, hr.sc (by simp [scM])⟩
/-- WRITE and FETCH at the storage -/
theorem t_atStorage (hA : TA A h) (hr : TR ex S Pl (q_w T)) (hI : SI S) (hl : Pl.length < 12000) {m : MG} {r : Nat} {val : Int32} (hn : m.2.1 < s_n S) (hr8 : r < 8) (hm : m.2.2.2.2.1 = Int32.ofNat r) (hv : ex.1 = true → val = m.2.2.2.2.2.1) :
    (m.1 = 4 → TO A T h ex (atStorage S m) (now S).toInt Pl (f_X7_written (some (A 0)) (Int32.ofNat m.2.1) m.2.2.2.1 (Int32.ofNat r) val (tw A T h))) ∧ (m.1 = 5 → TO A T h ex (atStorage S m) (now S).toInt Pl (f_X7_fetched (some (A 0)) (Int32.ofNat m.2.1) m.2.2.2.1 (Int32.ofNat r) (tw A T h))) := by
  have er : (Int32.ofNat r).toNatClampNeg = r := clamp9 (by omega)
  have i160 : (160 : Int32) + Int32.ofNat r = Int32.ofNat (160 + r) := by rw [show (160 : Int32) = Int32.ofNat 160 from rfl, of_add]
  have i168 : (168 : Int32) + Int32.ofNat r = Int32.ofNat (168 + r) := by rw [show (168 : Int32) = Int32.ofNat 168 from rfl, of_add]
  constructor
  · intro h4
    unfold f_X7_written atStorage
    rw [t_rv]
    by_cases hf : s_sc S 30 ≤ m.2.2.2.1
    · obtain ⟨s1, s2⟩ := t_seen hA hr (n := Int32.ofNat m.2.1) hf
      rw [cl_eq s1, if_pos rfl, if_pos hf]
      dsimp only
      rw [if_neg (show ¬ m.1 = 5 by omega), hm, er, t_rW, t_sW hA _ _ i160 (by omega), t_rW, t_aW hA _ _ i168 (by omega), t_sW hA _ _ i168 (by omega), t_rv]
      simp only [q_xw, x_xw]
      have r1 : TR ex (u_ar (u_sc S 30 m.2.2.2.1) 0 r m.2.2.2.2.2.1) Pl (upd (upd (q_w T) 14 m.2.2.2.1) (160 + r) val) := s2.lo (s2.1.reg hr8 hv) (by omega) rfl
      have ev : upd (upd (q_w T) 14 m.2.2.2.1) (160 + r) val (168 + r) = s_ar S 1 r := r1.1.2.2.1.2.1 r hr8
      rw [ev]
      have r2 : TR ex (u_ar (u_ar (u_sc S 30 m.2.2.2.1) 0 r m.2.2.2.2.2.1) 1 r (s_ar S 1 r + 1)) Pl (upd (upd (upd (q_w T) 14 m.2.2.2.1) (160 + r) val) (168 + r) (s_ar S 1 r + 1)) := r1.lo (r1.1.ar (Or.inr (Or.inl ⟨rfl, hr8, rfl⟩))) (by omega) rfl
      obtain ⟨w1, e1, e2⟩ := TR.logs (T := x_w T (upd (upd (upd (q_w T) 14 m.2.2.2.1) (160 + r) val) (168 + r) (s_ar S 1 r + 1))) hA r2 (kind := 6) (x2 := Int32.ofNat m.2.1) (x3 := m.2.2.2.1) (by decide)
      rw [cl_eq (show f_X7_logs (some (A 0)) 6 _ _ _ = _ from e1), t_rv, x_xw]
      obtain ⟨S2, hS2⟩ : ∃ S2 : SS, S2 = u_ar (u_ar (u_sc S 30 m.2.2.2.1) 0 r m.2.2.2.2.2.1) 1 r (s_ar S 1 r + 1) := ⟨_, rfl⟩
      rw [← hS2] at e2 ⊢
      have hI2 : SI S2 := by rw [hS2]; exact ((hI.sc (by decide)).ar).ar
      have n2 : s_n S2 = s_n S := by rw [hS2]; rfl
      have sc2 : s_sc S2 8 = s_sc S 8 := by rw [hS2]; exact sc_usc (S := S) (k := 30) (v := m.2.2.2.1) (by decide)
      have e3 : TR ex (watch (note S2 6 (Int32.ofNat m.2.1) m.2.2.2.1) m 0) Pl w1 := e2.sc0 (Or.inr (Or.inr rfl))
      obtain ⟨w2, Pl2, g1, g2, g3, g4⟩ := t_sends (T := x_w T w1) (kind := 6) (node := m.2.1) (len := 3) (a := m.2.2.2.1) (b := Int32.ofNat r) (c := m.2.2.2.2.2.1) (tok := m.2.2.2.1) (num := Int32.ofNat r) (val := val) hA e3 hI2.note.wt hl (by show m.2.1 < s_n (note S2 6 (Int32.ofNat m.2.1) m.2.2.2.1); rw [cS_note.2.1, n2]; exact hn) rfl rfl hv
      rw [cl_eq (show f_X7_sends (some (A 0)) 7 _ _ _ _ _ = _ from g1)]
      rw [nowT (S := S) (S' := watch (note S2 6 (Int32.ofNat m.2.1) m.2.2.2.1) m 0) (by rw [sc_watch (by decide), sc_note, sc2])] at g3
      exact ⟨w2, Pl2, rfl, g2, g3, g4⟩
    · have hf' : m.2.2.2.1 < s_sc S 30 := by
        rw [Int32.lt_iff_toInt_lt]
        rw [Int32.le_iff_toInt_le] at hf
        omega
      obtain ⟨w', Pl', e1, e2, e3, e4⟩ := t_fence hA hr hI hl hn hf'
      rw [cl_eq e1, if_neg (show ¬ (1 : Int32) = 0 by decide), if_neg hf]
      exact ⟨w', Pl', rfl, e2, e3, e4⟩
  · intro h5
    unfold f_X7_fetched f_X7_fetched_B28 atStorage
    rw [t_rv]
    by_cases hf : s_sc S 30 ≤ m.2.2.2.1
    · obtain ⟨s1, s2⟩ := t_seen hA hr (n := Int32.ofNat m.2.1) hf
      rw [cl_eq s1, if_pos rfl, if_pos hf]
      dsimp only
      rw [if_pos h5, hm, er, t_rW, t_aW hA _ _ i160 (by omega), t_rv, q_xw]
      obtain ⟨w2, Pl2, g1, g2, g3, g4⟩ := t_sends (T := x_w T (upd (q_w T) 14 m.2.2.2.1)) (kind := 7) (node := m.2.1) (len := 3) (a := m.2.2.2.1) (b := Int32.ofNat r) (c := s_ar S 0 r) (tok := m.2.2.2.1) (num := Int32.ofNat r) (val := upd (q_w T) 14 m.2.2.2.1 (160 + r)) hA s2 (hI.sc (by decide)) hl hn rfl rfl (fun he => s2.1.2.2.1.2.2 r he hr8)
      rw [cl_eq (show f_X7_sends (some (A 0)) 8 _ _ _ _ _ = _ from g1)]
      exact ⟨w2, Pl2, rfl, g2, g3, g4⟩
    · have hf' : m.2.2.2.1 < s_sc S 30 := by
        rw [Int32.lt_iff_toInt_lt]
        rw [Int32.le_iff_toInt_le] at hf
        omega
      obtain ⟨w', Pl', e1, e2, e3, e4⟩ := t_fence hA hr hI hl hn hf'
      rw [cl_eq e1, if_neg (show ¬ (1 : Int32) = 0 by decide), if_neg hf]
      exact ⟨w', Pl', rfl, e2, e3, e4⟩
theorem t_forgets (hA : TA A h) (hr : TR ex S Pl (q_w T)) {n : Nat} (hn : n < s_n S) : ∃ w' : Nat → Int32, f_X7_forgets (some (A 0)) (Int32.ofNat n) (tw A T h) = some ((), tw A (x_w T w') h) ∧ TR ex (lose S n) Pl w' := by
  have h6 := hr.1.2.2.2.2.2.2
  unfold f_X7_forgets
  rw [t_rv, cl_eq (t_puts hA 7 7 rfl (by omega) (by decide)), t_rv, cl_eq (t_puts hA 11 11 rfl (by omega) (by decide))]
  have r1 : TR ex (u_nd S n 6 0) Pl (upd (q_w T) (40 + 20 * n + 7) 0) := hr.nd (k := 6) hn (by decide)
  have r2 : TR ex (u_nd (u_nd S n 6 0) n 9 0) Pl (upd (upd (q_w T) (40 + 20 * n + 7) 0) (40 + 20 * n + 11) 0) := r1.nd (k := 9) hn (by decide)
  exact ⟨_, rfl, r2⟩
theorem t_caches (hA : TA A h) (hr : TR ex S Pl (q_w T)) {n r : Nat} {tok val v : Int32} (hn : n < s_n S) (hr8 : r < 8) (hv : ex.1 = true → val = v) : ∃ w' : Nat → Int32, f_X7_caches (some (A 0)) (Int32.ofNat n) tok (Int32.ofNat r) val (tw A T h) = some ((), tw A (x_w T w') h) ∧ TR ex (if s_nd S n 6 = tok then u_nd (u_nd S n 9 (s_nd S n 9 ||| ((1 : Int32) <<< (Int32.ofNat r &&& 31)))) n (30 + r) v else S) Pl w' := by
  have h6 := hr.1.2.2.2.2.2.2
  unfold f_X7_caches
  rw [t_rv, cl_eq (t_ofN hA hr.1 7 7 rfl hn (by decide)), show tnd (s_nd S n) 7 = s_nd S n 6 from rfl]
  by_cases c1 : s_nd S n 6 = tok
  · rw [if_pos c1, if_pos c1, t_rv, cl_eq (t_ofN hA hr.1 11 11 rfl hn (by decide)), show tnd (s_nd S n) 11 = s_nd S n 9 from rfl, t_rv, cl_eq (t_puts hA 11 11 rfl (by omega) (by decide)), t_rv]
    rw [cl_eq (t_puts hA ((12 : Int32) + Int32.ofNat r) (12 + r) (by rw [show (12 : Int32) = Int32.ofNat 12 from rfl, of_add]) (by omega) (by omega))]
    have r1 : TR ex (u_nd S n 9 (s_nd S n 9 ||| ((1 : Int32) <<< (Int32.ofNat r &&& 31)))) Pl (upd (q_w T) (40 + 20 * n + 11) (s_nd S n 9 ||| ((1 : Int32) <<< (Int32.ofNat r &&& 31)))) := hr.nd (k := 9) hn (by decide)
    refine ⟨_, rfl, ?_⟩
    exact r1.lo (r1.1.cch hn hr8 hv) (by omega) rfl
  · rw [if_neg c1, if_neg c1]
    exact ⟨q_w T, rfl, hr⟩
/-- the timer, when DENY arrives or a lease is granted -/
theorem TR.timer (hA : TA A h) (hr : TR ex S Pl (q_w T)) {i : Nat} {v : Int32} (hN : NI (s_nd S i)) (hW : iv (now S) 0 5000000) (hi : i < s_n S) (hv : (s_nd S i 21).toInt ≤ v.toInt) (hv2 : v.toInt ≤ 100000000) : ∃ w' : Nat → Int32, f_X7_setsTimer (some (A 0)) (Int32.ofNat i) v (tw A T h) = some ((), tw A (x_w T w') h) ∧ TR ex (setTimer S i v) Pl w' := by
  have h6 := hr.1.2.2.2.2.2.2
  obtain ⟨x, e1, e2⟩ := t_setsTimer hA hr.1 hN hW hi hv hv2
  exact ⟨_, e1, hr.lo e2 (by omega) rfl⟩
end THD
