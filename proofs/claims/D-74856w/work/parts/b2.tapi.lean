/-! THE TWIN's CALLS: tests of arguments, refusals -/
set_option maxRecDepth 100000
theorem cmp_lt {x y : Int64} : lg_cmp x y < 0 ↔ x.toInt < y.toInt := by
  unfold lg_cmp
  by_cases h1 : x > y
  · rw [if_pos h1]
    have : y.toInt < x.toInt := Int64.lt_iff_toInt_lt.mp h1
    constructor
    · intro h; exact absurd h (by decide)
    · intro h; omega
  · rw [if_neg h1]
    have h1' : ¬ y.toInt < x.toInt := fun hx => h1 (Int64.lt_iff_toInt_lt.mpr hx)
    by_cases h2 : x = y
    · rw [if_pos h2, h2]
      constructor
      · intro h; exact absurd h (by decide)
      · intro h; omega
    · rw [if_neg h2]
      have h3 : x.toInt ≠ y.toInt := fun hx => h2 (Int64.toInt.inj hx)
      constructor
      · intro _; omega
      · intro _; decide
theorem cmp_gt {x y : Int64} : 0 < lg_cmp x y ↔ y.toInt < x.toInt := by
  unfold lg_cmp
  by_cases h1 : x > y
  · rw [if_pos h1]
    have : y.toInt < x.toInt := Int64.lt_iff_toInt_lt.mp h1
    exact ⟨fun _ => this, fun _ => by decide⟩
  · rw [if_neg h1]
    have h1' : ¬ y.toInt < x.toInt := fun hx => h1 (Int64.lt_iff_toInt_lt.mpr hx)
    by_cases h2 : x = y
    · rw [if_pos h2]
      exact ⟨fun h => absurd h (by decide), fun h => absurd h h1'⟩
    · rw [if_neg h2]
      exact ⟨fun h => absurd h (by decide), fun h => absurd h h1'⟩
theorem cmp_eq {x y : Int64} : lg_cmp x y = 0 ↔ x = y := by
  unfold lg_cmp
  by_cases h1 : x > y
  · rw [if_pos h1]
    exact ⟨fun h => absurd h (by decide), fun h => absurd (h ▸ h1) (Int64.lt_irrefl)⟩
  · rw [if_neg h1]
    by_cases h2 : x = y
    · rw [if_pos h2]; exact ⟨fun _ => h2, fun _ => rfl⟩
    · rw [if_neg h2]; exact ⟨fun h => absurd h (by decide), fun h => absurd h h2⟩
theorem t_in {x a b : Int64} {h : PH} : f_X7_in x a b h = some ((if a.toInt ≤ x.toInt ∧ x.toInt ≤ b.toInt then 1 else 0), h) := by
  unfold f_X7_in f_X7_in_B17 f_X7_in_B18
  by_cases h1 : lg_cmp x a < 0
  · rw [if_pos h1, rN_at nar01.1]
    rw [cmp_lt] at h1
    rw [if_neg (by omega)]
  · rw [if_neg h1]
    rw [cmp_lt] at h1
    by_cases h2 : 0 < lg_cmp x b
    · rw [if_pos h2, rN_at nar01.1]
      rw [cmp_gt] at h2
      rw [if_neg (by omega)]
    · rw [if_neg h2, rN_at nar01.2]
      rw [cmp_gt] at h2
      rw [if_pos (by omega)]
theorem fufu {f : Nat → Int32} {k : Nat} {u v : Int32} : fu (fu f k u) k v = fu f k v := by
  funext j
  by_cases hj : j = k
  · rw [hj, fu_eq, fu_eq]
  · rw [fu_ne hj, fu_ne hj, fu_ne hj]
theorem x_scsc {T : TS} {k : Nat} {u v : Int32} : x_sc (x_sc T k u) k v = x_sc T k v := by
  show (T.1, T.2.1, T.2.2.1, T.2.2.2.1, T.2.2.2.2.1, T.2.2.2.2.2.1, fu (fu (q_sc T) k u) k v) = (T.1, T.2.1, T.2.2.1, T.2.2.2.1, T.2.2.2.2.1, T.2.2.2.2.2.1, fu (q_sc T) k v)
  rw [fufu]
section TAP
variable {A : Nat → Nat} {h : PH} {T : TS} {ex : Bool × Int32 × Int32} {S : SS} {Pl : List (Option MG)}
theorem t_throws0 {c code : Int32} (hc : c = 0) (h1 : q_sc T 1 = 0) : f_X7_throwsIf (some (A 0)) c code (tw A T h) = some (0, tw A T h) := by
  unfold f_X7_throwsIf f_X7_throwsIf_B16 f_X7_throwsIf_B28
  rw [t_gI (by decide), if_pos h1, if_pos hc, t_gI (by decide), if_pos h1, rN_at nar01.1]
theorem t_throws1 (hA : TA A h) {c code : Int32} (hc : c ≠ 0) (hcode : code ≠ 0) (h1 : q_sc T 1 = 0) : f_X7_throwsIf (some (A 0)) c code (tw A T h) = some (1, tw A (x_sc T 1 code) h) := by
  unfold f_X7_throwsIf f_X7_throwsIf_B16 f_X7_throwsIf_B28
  rw [t_gI (by decide), if_pos h1, if_neg hc, t_pV hA (by decide), t_gI (by decide)]
  have : q_sc (x_sc T 1 code) 1 = code := by show fu (q_sc T) 1 code 1 = _; rw [fu_eq]
  rw [this, if_neg hcode, rN_at nar01.2]
/-- a node that is there -/
def isNd (S : SS) (p : Int32) : Prop := 0 ≤ p.toInt ∧ p.toInt ≤ (s_n S : Int) - 1
theorem isNd_of {p : Int32} (hp : isNd S p) : ∃ i : Nat, i < s_n S ∧ p = Int32.ofNat i := by
  refine ⟨p.toInt.toNat, ?_, ?_⟩
  · have := hp.1
    have := hp.2
    omega
  · apply Int32.toInt.inj
    have h1 := Int32.toInt_lt p
    have := hp.1
    rw [Int32.toInt_ofNat_of_lt (by omega)]
    omega
theorem t_noNd (hA : TA A h) (hT : TWb ex S (q_w T)) {p : Int32} (hn : 1 ≤ s_n S) : (isNd S p → f_X7_noNode (some (A 0)) p (tw A T h) = some (0, tw A (x_sc T 1 0) h)) ∧ (¬ isNd S p → f_X7_noNode (some (A 0)) p (tw A T h) = some (1, tw A (x_sc T 1 1) h)) := by
  have a2 : q_w T 2 = Int32.ofNat (s_n S) := hT.1.2.2.1
  have h6 := hT.2.2.2.2.2.2
  have e0 : ((0 : Int64)).toInt = 0 := by decide
  have en : ((Int32.ofNat (s_n S) - 1).toInt64).toInt = (s_n S : Int) - 1 := by
    rw [Int32.toInt_toInt64, show (1 : Int32) = Int32.ofNat 1 from rfl, of_sub hn, Int32.toInt_ofNat_of_lt (by omega)]
    omega
  have hq : q_sc (x_sc T 1 0) 1 = 0 := by show fu (q_sc T) 1 0 1 = _; rw [fu_eq]
  unfold f_X7_noNode f_X7_noNode_B29
  rw [t_pV hA (by decide), t_rW, t_aW hA 2 2 rfl (by decide), q_wsc, a2]
  constructor
  · intro hp
    rw [cl_eq t_in, e0, en, Int32.toInt_toInt64, if_pos (show 0 ≤ p.toInt ∧ p.toInt ≤ (s_n S : Int) - 1 from hp), if_neg (by decide), t_rv, cl_eq (t_throws0 rfl hq), rN_at nar01.1]
  · intro hp
    rw [cl_eq t_in, e0, en, Int32.toInt_toInt64, if_neg (show ¬ (0 ≤ p.toInt ∧ p.toInt ≤ (s_n S : Int) - 1) from hp), if_pos rfl, t_rv, cl_eq (t_throws1 hA (by decide) (by decide) hq), rN_at nar01.2, x_scsc]
/-- 0, or why a node cannot act -/
def unab (S : SS) (i : Nat) : Int32 := if s_nd S i 2 = 0 then -3 else if paused S i (now S) = true then -2 else 0
/-- 0, or why it cannot act as a leader -/
def unfi (S : SS) (i : Nat) : Int32 := if unab S i < 0 then unab S i else if leads S i (now S) = true then 0 else -1
theorem unab_c {S : SS} {i : Nat} : unab S i = -3 ∨ unab S i = -2 ∨ unab S i = 0 := by
  unfold unab
  split
  · exact Or.inl rfl
  · split
    · exact Or.inr (Or.inl rfl)
    · exact Or.inr (Or.inr rfl)
theorem t_refusal (hA : TA A h) (hT : TWb ex S (q_w T)) {i : Nat} (hN : NI (s_nd S i)) (hW : iv (now S) 0 5000000) (hi : i < s_n S) : f_X7_refusal (some (A 0)) (Int32.ofNat i) (tw A T h) = some (unab S i, tw A T h) := by
  unfold f_X7_refusal f_X7_refusal_B28 unab
  rw [t_rv, cl_eq (t_ofN hA hT 3 3 rfl hi (by decide)), show tnd (s_nd S i) 3 = s_nd S i 2 from rfl]
  by_cases hu : s_nd S i 2 = 0
  · rw [if_pos hu, if_pos hu]
  · rw [if_neg hu, if_neg hu, t_rv, cl_eq (t_isPaused hA hT hN hW.1 hi)]
    by_cases hp : paused S i (now S) = true
    · rw [if_pos hp, if_pos hp, if_neg (by decide)]
    · rw [if_neg hp, if_neg hp, if_pos rfl]
theorem t_refusalL (hA : TA A h) (hT : TWb ex S (q_w T)) {i : Nat} (hN : NI (s_nd S i)) (hW : iv (now S) 0 5000000) (hi : i < s_n S) : f_X7_refusalOfLeader (some (A 0)) (Int32.ofNat i) (tw A T h) = some (unfi S i, tw A T h) := by
  unfold f_X7_refusalOfLeader f_X7_refusalOfLeader_B29 unfi
  rw [t_rv, cl_eq (t_refusal hA hT hN hW hi)]
  rcases unab_c (S := S) (i := i) with e | e | e
  · rw [e, if_neg (by decide), t_rv, cl_eq (t_refusal hA hT hN hW hi), e, if_pos (by decide)]
  · rw [e, if_neg (by decide), t_rv, cl_eq (t_refusal hA hT hN hW hi), e, if_pos (by decide)]
  · rw [e, if_pos rfl, if_neg (by decide), t_rv, cl_eq (t_leads hA hT hN hW hi)]
    by_cases hl : leads S i (now S) = true
    · rw [if_pos hl, if_pos hl, if_neg (by decide)]
    · rw [if_neg hl, if_neg hl, if_pos rfl]
/-- the twin's answer: thrown, answer, the new state -/
def TC (A : Nat → Nat) (T : TS) (h : PH) (ex : Bool × Int32 × Int32) (code ans : Int32) (S' : SS) (o : Option (Int32 × PH)) : Prop := ∃ (w' : Nat → Int32) (L' : List MG) (c : Int32), o = some (ans, tw A (x_w (x_sc (x_sc T 13 c) 1 code) w') h) ∧ TR ex S' (L'.map some) w'
theorem TC_q {A : Nat → Nat} {T : TS} {h : PH} {ex : Bool × Int32 × Int32} {code ans : Int32} {S : SS} {L : List MG} (hr : TR ex S (L.map some) (q_w T)) : TC A T h ex code ans S (some (ans, tw A (x_sc T 1 code) h)) := ⟨q_w T, L, q_sc T 13, by rw [x_sc_self]; rfl, hr⟩
/-- a world's own number -/
theorem t_own (hA : TA A h) {L : List MG} (hr : TR ex S (L.map some) (q_w T)) (x : Int32) (i : Nat) (hx : x = Int32.ofNat i) (hi : i < 73136) : TC A T h ex 0 (q_w T i) S (f_X7_own (some (A 0)) x (tw A T h)) := by
  unfold f_X7_own
  rw [t_pV hA (by decide), t_rW, t_aW hA x i hx hi]
  exact TC_q hr
/-- a node's number -/
theorem t_ofNode (hA : TA A h) {L : List MG} (hr : TR ex S (L.map some) (q_w T)) (hn : 1 ≤ s_n S) (x : Int32) (c : Nat) (hx : x = Int32.ofNat c) (hc : c < 12) {p : Int32} : (∀ i : Nat, i < s_n S → p = Int32.ofNat i → TC A T h ex 0 (tnd (s_nd S i) c) S (f_X7_ofNode (some (A 0)) p x (tw A T h))) ∧ (¬ isNd S p → TC A T h ex 1 0 S (f_X7_ofNode (some (A 0)) p x (tw A T h))) := by
  have h6 := hr.1.2.2.2.2.2.2
  unfold f_X7_ofNode f_X7_ofNode_B18
  constructor
  · intro i hi hp
    have hnd : isNd S p := by
      rw [hp]
      unfold isNd
      rw [Int32.toInt_ofNat_of_lt (by omega)]
      omega
    have hr0 : TWb ex S (q_w (x_sc T 1 0)) := hr.1
    rw [t_rv, cl_eq ((t_noNd hA hr.1 hn).1 hnd), if_pos rfl, t_rv, hp, cl_eq (t_ofN hA hr0 x c hx hi hc)]
    exact TC_q hr
  · intro hp
    rw [t_rv, cl_eq ((t_noNd hA hr.1 hn).2 hp), if_neg (by decide)]
    exact TC_q hr
end TAP
