/-! THE TWIN: its cells laid over a heap -/
set_option maxRecDepth 100000
/-- w, read, buffer, aside, kept, isKept; the object's ints (1 thrown, 3 length, 4 point, 5 begin, 6 wrong, 7 wrongKind, 8 loadError, 9 met, 12 countedNode, 13 counted, 14 outcome) -/
abbrev TS : Type := (Nat → Int32) × (Nat → Int32) × (Nat → Int32) × (Nat → Int32) × (Nat → Int32) × (Nat → Int32) × (Nat → Int32)
def q_w (T : TS) : Nat → Int32 := T.1
def q_rd (T : TS) : Nat → Int32 := T.2.1
def q_bf (T : TS) : Nat → Int32 := T.2.2.1
def q_as (T : TS) : Nat → Int32 := T.2.2.2.1
def q_kp (T : TS) : Nat → Int32 := T.2.2.2.2.1
def q_ik (T : TS) : Nat → Int32 := T.2.2.2.2.2.1
def q_sc (T : TS) : Nat → Int32 := T.2.2.2.2.2.2
def x_w (T : TS) (f : Nat → Int32) : TS := (f, T.2)
def x_rd (T : TS) (f : Nat → Int32) : TS := (T.1, f, T.2.2)
def x_bf (T : TS) (f : Nat → Int32) : TS := (T.1, T.2.1, f, T.2.2.2)
def x_as (T : TS) (f : Nat → Int32) : TS := (T.1, T.2.1, T.2.2.1, f, T.2.2.2.2)
def x_kp (T : TS) (f : Nat → Int32) : TS := (T.1, T.2.1, T.2.2.1, T.2.2.2.1, f, T.2.2.2.2.2)
def x_ik (T : TS) (f : Nat → Int32) : TS := (T.1, T.2.1, T.2.2.1, T.2.2.2.1, T.2.2.2.2.1, f, T.2.2.2.2.2.2)
def x_sc (T : TS) (k : Nat) (v : Int32) : TS := (T.1, T.2.1, T.2.2.1, T.2.2.2.1, T.2.2.2.2.1, T.2.2.2.2.2.1, fu T.2.2.2.2.2.2 k v)
theorem q_xw {T : TS} {f : Nat → Int32} : q_w (x_w T f) = f := rfl
theorem x_xw {T : TS} {f g : Nat → Int32} : x_w (x_w T f) g = x_w T g := rfl
theorem q_scw {T : TS} {f : Nat → Int32} : q_sc (x_w T f) = q_sc T := rfl
theorem q_wsc {T : TS} {k : Nat} {v : Int32} : q_w (x_sc T k v) = q_w T := rfl
theorem q_scsc {T : TS} {k : Nat} {v : Int32} : q_sc (x_sc T k v) = fu (q_sc T) k v := rfl
theorem x_wsc {T : TS} {k : Nat} {v : Int32} {f : Nat → Int32} : x_w (x_sc T k v) f = x_sc (x_w T f) k v := rfl
theorem x_w_self {T : TS} : x_w T (q_w T) = T := rfl
def cTw (A : Nat → Nat) (sc : Nat → Int32) : va_E := .inr (6, [.ref (A 1), .int (sc 1), .ref (A 2), .int (sc 3), .int (sc 4), .int (sc 5), .int (sc 6), .int (sc 7), .int (sc 8), .int (sc 9), .ref (A 3), .ref (A 7), .int (sc 12), .int (sc 13), .int (sc 14), .ref (A 4), .ref (A 5), .ref (A 6)])
/-- the twin's cells (the object A 0, w A 1, buffer A 2, read A 3, aside A 4, kept A 5, isKept A 6) over h -/
def tw (A : Nat → Nat) (T : TS) (h : PH) : PH := (fun b => if b = A 0 then some (cTw A (q_sc T)) else if b = A 1 then some (.inl (h.2.1.2.1 0, 73136, .inl (q_w T))) else if b = A 2 then some (.inl (h.2.1.2.1 0, 400, .inl (q_bf T))) else if b = A 3 then some (.inl (h.2.1.2.1 0, 160, .inl (q_rd T))) else if b = A 4 then some (.inl (h.2.1.2.1 0, 73136, .inl (q_as T))) else if b = A 5 then some (.inl (h.2.1.2.1 0, 146272, .inl (q_kp T))) else if b = A 6 then some (.inl (h.2.1.2.1 3, 2, .inl (q_ik T))) else h.1 b, h.2)
/-- the addresses differ -/
def TA (A : Nat → Nat) (h : PH) : Prop := (∀ i j : Nat, i < 8 → j < 8 → A i = A j → i = j) ∧ ∀ i : Nat, i < 8 → pbase h ≤ A i
section TWB
variable {A : Nat → Nat} {T : TS} {h : PH} {β : Type}
theorem TA.ne (hA : TA A h) {i j : Nat} (hi : i < 8) (hj : j < 8) (hn : i ≠ j) : A i ≠ A j := fun hx => hn (hA.1 i j hi hj hx)
theorem tw_0 : (tw A T h).1 (A 0) = some (cTw A (q_sc T)) := if_pos rfl
theorem tw_1 (hA : TA A h) : (tw A T h).1 (A 1) = some (.inl ((tw A T h).2.1.2.1 0, 73136, .inl (q_w T))) := by
  show (if A 1 = A 0 then _ else if A 1 = A 1 then _ else _) = _
  rw [if_neg (hA.ne (by decide) (by decide) (by decide)), if_pos rfl]
  rfl
theorem tw_2 (hA : TA A h) : (tw A T h).1 (A 2) = some (.inl ((tw A T h).2.1.2.1 0, 400, .inl (q_bf T))) := by
  show (if A 2 = A 0 then _ else if A 2 = A 1 then _ else if A 2 = A 2 then _ else _) = _
  rw [if_neg (hA.ne (by decide) (by decide) (by decide)), if_neg (hA.ne (by decide) (by decide) (by decide)), if_pos rfl]
  rfl
theorem tw_3 (hA : TA A h) : (tw A T h).1 (A 3) = some (.inl ((tw A T h).2.1.2.1 0, 160, .inl (q_rd T))) := by
  show (if A 3 = A 0 then _ else if A 3 = A 1 then _ else if A 3 = A 2 then _ else if A 3 = A 3 then _ else _) = _
  rw [if_neg (hA.ne (by decide) (by decide) (by decide)), if_neg (hA.ne (by decide) (by decide) (by decide)), if_neg (hA.ne (by decide) (by decide) (by decide)), if_pos rfl]
  rfl
theorem tw_4 (hA : TA A h) : (tw A T h).1 (A 4) = some (.inl ((tw A T h).2.1.2.1 0, 73136, .inl (q_as T))) := by
  show (if A 4 = A 0 then _ else if A 4 = A 1 then _ else if A 4 = A 2 then _ else if A 4 = A 3 then _ else if A 4 = A 4 then _ else _) = _
  rw [if_neg (hA.ne (by decide) (by decide) (by decide)), if_neg (hA.ne (by decide) (by decide) (by decide)), if_neg (hA.ne (by decide) (by decide) (by decide)), if_neg (hA.ne (by decide) (by decide) (by decide)), if_pos rfl]
  rfl
theorem tw_5 (hA : TA A h) : (tw A T h).1 (A 5) = some (.inl ((tw A T h).2.1.2.1 0, 146272, .inl (q_kp T))) := by
  show (if A 5 = A 0 then _ else if A 5 = A 1 then _ else if A 5 = A 2 then _ else if A 5 = A 3 then _ else if A 5 = A 4 then _ else if A 5 = A 5 then _ else _) = _
  rw [if_neg (hA.ne (by decide) (by decide) (by decide)), if_neg (hA.ne (by decide) (by decide) (by decide)), if_neg (hA.ne (by decide) (by decide) (by decide)), if_neg (hA.ne (by decide) (by decide) (by decide)), if_neg (hA.ne (by decide) (by decide) (by decide)), if_pos rfl]
  rfl
theorem tw_6 (hA : TA A h) : (tw A T h).1 (A 6) = some (.inl ((tw A T h).2.1.2.1 3, 2, .inl (q_ik T))) := by
  show (if A 6 = A 0 then _ else if A 6 = A 1 then _ else if A 6 = A 2 then _ else if A 6 = A 3 then _ else if A 6 = A 4 then _ else if A 6 = A 5 then _ else if A 6 = A 6 then _ else _) = _
  rw [if_neg (hA.ne (by decide) (by decide) (by decide)), if_neg (hA.ne (by decide) (by decide) (by decide)), if_neg (hA.ne (by decide) (by decide) (by decide)), if_neg (hA.ne (by decide) (by decide) (by decide)), if_neg (hA.ne (by decide) (by decide) (by decide)), if_neg (hA.ne (by decide) (by decide) (by decide)), if_pos rfl]
  rfl
theorem tw_out {b : Nat} (hb : ∀ i : Nat, i < 7 → b ≠ A i) : (tw A T h).1 b = h.1 b := by
  show (if b = A 0 then _ else if b = A 1 then _ else if b = A 2 then _ else if b = A 3 then _ else if b = A 4 then _ else if b = A 5 then _ else if b = A 6 then _ else h.1 b) = _
  rw [if_neg (hb 0 (by decide)), if_neg (hb 1 (by decide)), if_neg (hb 2 (by decide)), if_neg (hb 3 (by decide)), if_neg (hb 4 (by decide)), if_neg (hb 5 (by decide)), if_neg (hb 6 (by decide))]
theorem tw_b : pbase (tw A T h) = pbase h := rfl
-- writes
theorem ts_0 {sc : Nat → Int32} : p_set (tw A T h) (A 0) (cTw A sc) = tw A (T.1, T.2.1, T.2.2.1, T.2.2.2.1, T.2.2.2.2.1, T.2.2.2.2.2.1, sc) h := by
  unfold p_set tw
  refine Prod.ext (funext fun b => ?_) rfl
  by_cases h0 : b = A 0
  · simp [h0, q_w, q_rd, q_bf, q_as, q_kp, q_ik, q_sc, x_w, x_rd, x_bf, x_as, x_kp, x_ik, x_sc]
  · simp [h0, q_w, q_rd, q_bf, q_as, q_kp, q_ik, q_sc, x_w, x_rd, x_bf, x_as, x_kp, x_ik, x_sc]
theorem ts_1 (hA : TA A h) {f : Nat → Int32} : p_set (tw A T h) (A 1) (.inl ((tw A T h).2.1.2.1 0, 73136, .inl f)) = tw A (x_w T f) h := by
  unfold p_set tw
  refine Prod.ext (funext fun b => ?_) rfl
  by_cases h0 : b = A 1
  · subst h0
    have := hA.ne (i := 1) (j := 0) (by decide) (by decide) (by decide)
    simp [this, q_w, q_rd, q_bf, q_as, q_kp, q_ik, q_sc, x_w, x_rd, x_bf, x_as, x_kp, x_ik, x_sc]
  · simp [h0, q_w, q_rd, q_bf, q_as, q_kp, q_ik, q_sc, x_w, x_rd, x_bf, x_as, x_kp, x_ik, x_sc]
theorem ts_2 (hA : TA A h) {f : Nat → Int32} : p_set (tw A T h) (A 2) (.inl ((tw A T h).2.1.2.1 0, 400, .inl f)) = tw A (x_bf T f) h := by
  unfold p_set tw
  refine Prod.ext (funext fun b => ?_) rfl
  by_cases h0 : b = A 2
  · subst h0
    have a1 := hA.ne (i := 2) (j := 0) (by decide) (by decide) (by decide)
    have a2 := hA.ne (i := 2) (j := 1) (by decide) (by decide) (by decide)
    simp [q_w, q_rd, q_bf, q_as, q_kp, q_ik, q_sc, x_w, x_rd, x_bf, x_as, x_kp, x_ik, x_sc, a1, a2]
  · simp [h0, q_w, q_rd, q_bf, q_as, q_kp, q_ik, q_sc, x_w, x_rd, x_bf, x_as, x_kp, x_ik, x_sc]
theorem ts_3 (hA : TA A h) {f : Nat → Int32} : p_set (tw A T h) (A 3) (.inl ((tw A T h).2.1.2.1 0, 160, .inl f)) = tw A (x_rd T f) h := by
  unfold p_set tw
  refine Prod.ext (funext fun b => ?_) rfl
  by_cases h0 : b = A 3
  · subst h0
    have a1 := hA.ne (i := 3) (j := 0) (by decide) (by decide) (by decide)
    have a2 := hA.ne (i := 3) (j := 1) (by decide) (by decide) (by decide)
    have a3 := hA.ne (i := 3) (j := 2) (by decide) (by decide) (by decide)
    simp [q_w, q_rd, q_bf, q_as, q_kp, q_ik, q_sc, x_w, x_rd, x_bf, x_as, x_kp, x_ik, x_sc, a1, a2, a3]
  · simp [h0, q_w, q_rd, q_bf, q_as, q_kp, q_ik, q_sc, x_w, x_rd, x_bf, x_as, x_kp, x_ik, x_sc]
theorem ts_4 (hA : TA A h) {f : Nat → Int32} : p_set (tw A T h) (A 4) (.inl ((tw A T h).2.1.2.1 0, 73136, .inl f)) = tw A (x_as T f) h := by
  unfold p_set tw
  refine Prod.ext (funext fun b => ?_) rfl
  by_cases h0 : b = A 4
  · subst h0
    have a1 := hA.ne (i := 4) (j := 0) (by decide) (by decide) (by decide)
    have a2 := hA.ne (i := 4) (j := 1) (by decide) (by decide) (by decide)
    have a3 := hA.ne (i := 4) (j := 2) (by decide) (by decide) (by decide)
    have a4 := hA.ne (i := 4) (j := 3) (by decide) (by decide) (by decide)
    simp [q_w, q_rd, q_bf, q_as, q_kp, q_ik, q_sc, x_w, x_rd, x_bf, x_as, x_kp, x_ik, x_sc, a1, a2, a3, a4]
  · simp [h0, q_w, q_rd, q_bf, q_as, q_kp, q_ik, q_sc, x_w, x_rd, x_bf, x_as, x_kp, x_ik, x_sc]
theorem ts_5 (hA : TA A h) {f : Nat → Int32} : p_set (tw A T h) (A 5) (.inl ((tw A T h).2.1.2.1 0, 146272, .inl f)) = tw A (x_kp T f) h := by
  unfold p_set tw
  refine Prod.ext (funext fun b => ?_) rfl
  by_cases h0 : b = A 5
  · subst h0
    have a1 := hA.ne (i := 5) (j := 0) (by decide) (by decide) (by decide)
    have a2 := hA.ne (i := 5) (j := 1) (by decide) (by decide) (by decide)
    have a3 := hA.ne (i := 5) (j := 2) (by decide) (by decide) (by decide)
    have a4 := hA.ne (i := 5) (j := 3) (by decide) (by decide) (by decide)
    have a5 := hA.ne (i := 5) (j := 4) (by decide) (by decide) (by decide)
    simp [q_w, q_rd, q_bf, q_as, q_kp, q_ik, q_sc, x_w, x_rd, x_bf, x_as, x_kp, x_ik, x_sc, a1, a2, a3, a4, a5]
  · simp [h0, q_w, q_rd, q_bf, q_as, q_kp, q_ik, q_sc, x_w, x_rd, x_bf, x_as, x_kp, x_ik, x_sc]
theorem ts_6 (hA : TA A h) {f : Nat → Int32} : p_set (tw A T h) (A 6) (.inl ((tw A T h).2.1.2.1 3, 2, .inl f)) = tw A (x_ik T f) h := by
  unfold p_set tw
  refine Prod.ext (funext fun b => ?_) rfl
  by_cases h0 : b = A 6
  · subst h0
    have a1 := hA.ne (i := 6) (j := 0) (by decide) (by decide) (by decide)
    have a2 := hA.ne (i := 6) (j := 1) (by decide) (by decide) (by decide)
    have a3 := hA.ne (i := 6) (j := 2) (by decide) (by decide) (by decide)
    have a4 := hA.ne (i := 6) (j := 3) (by decide) (by decide) (by decide)
    have a5 := hA.ne (i := 6) (j := 4) (by decide) (by decide) (by decide)
    have a6 := hA.ne (i := 6) (j := 5) (by decide) (by decide) (by decide)
    simp [q_w, q_rd, q_bf, q_as, q_kp, q_ik, q_sc, x_w, x_rd, x_bf, x_as, x_kp, x_ik, x_sc, a1, a2, a3, a4, a5, a6]
  · simp [h0, q_w, q_rd, q_bf, q_as, q_kp, q_ik, q_sc, x_w, x_rd, x_bf, x_as, x_kp, x_ik, x_sc]
-- the steps: references
theorem t_rW {K : Option Nat → Option β} : gR (tw A T h) (some (A 0)) 6 0 K = K (some (A 1)) := gR_at tw_0 rfl
theorem t_rB {K : Option Nat → Option β} : gR (tw A T h) (some (A 0)) 6 2 K = K (some (A 2)) := gR_at tw_0 rfl
theorem t_rR {K : Option Nat → Option β} : gR (tw A T h) (some (A 0)) 6 10 K = K (some (A 3)) := gR_at tw_0 rfl
theorem t_rX {K : Option Nat → Option β} : gR (tw A T h) (some (A 0)) 6 11 K = K (some (A 7)) := gR_at tw_0 rfl
theorem t_rA {K : Option Nat → Option β} : gR (tw A T h) (some (A 0)) 6 15 K = K (some (A 4)) := gR_at tw_0 rfl
theorem t_rK {K : Option Nat → Option β} : gR (tw A T h) (some (A 0)) 6 16 K = K (some (A 5)) := gR_at tw_0 rfl
theorem t_rI {K : Option Nat → Option β} : gR (tw A T h) (some (A 0)) 6 17 K = K (some (A 6)) := gR_at tw_0 rfl
theorem t_rv {X : Option β} : rv_ (tw A T h) (some (A 0)) 6 X = X := rv_at tw_0
theorem cTw_get {sc : Nat → Int32} {k : Nat} (hk : k = 1 ∨ (3 ≤ k ∧ k ≤ 9) ∨ (12 ≤ k ∧ k ≤ 14)) : ∃ fs, cTw A sc = .inr (6, fs) ∧ fs[k]? = some (.int (sc k)) ∧ k < fs.length ∧ ∀ v : Int32, .inr (6, fs.set k (.int v)) = cTw A (fu sc k v) := by
  refine ⟨_, rfl, ?_⟩
  have : k = 1 ∨ k = 3 ∨ k = 4 ∨ k = 5 ∨ k = 6 ∨ k = 7 ∨ k = 8 ∨ k = 9 ∨ k = 12 ∨ k = 13 ∨ k = 14 := by omega
  rcases this with rfl | rfl | rfl | rfl | rfl | rfl | rfl | rfl | rfl | rfl | rfl <;> exact ⟨rfl, Nat.le_of_ble_eq_true rfl, fun v => rfl⟩
theorem t_gI {k : Nat} {K : Int32 → Option β} (hk : k = 1 ∨ (3 ≤ k ∧ k ≤ 9) ∨ (12 ≤ k ∧ k ≤ 14)) : gI (tw A T h) (some (A 0)) 6 k K = K (q_sc T k) := by
  obtain ⟨fs, e1, e2, -, -⟩ := cTw_get (A := A) (sc := q_sc T) hk
  exact gI_at (by rw [tw_0, e1]) e2
theorem t_pV (hA : TA A h) {k : Nat} {v : Int32} {K : PH → Option β} (hk : k = 1 ∨ (3 ≤ k ∧ k ≤ 9) ∨ (12 ≤ k ∧ k ≤ 14)) : pV (tw A T h) (some (A 0)) 6 k (.int v) K = K (tw A (x_sc T k v) h) := by
  obtain ⟨fs, e1, e2, e3, e4⟩ := cTw_get (A := A) (sc := q_sc T) hk
  rw [pV_at (h := tw A T h) (by rw [tw_0, e1]) (hA.2 0 (by decide)) e3, e4 v, ts_0]
  rfl
-- rows: read and write
theorem t_aW (hA : TA A h) (x : Int32) (i : Nat) {K : Int32 → Option β} (hx : x = Int32.ofNat i) (hi : i < 73136) : aI (tw A T h) (some (A 1)) 0 x K = K (q_w T i) := by
  subst hx
  rw [aI_at (tw_1 hA) (inR_of (by decide) hi) (hA.2 1 (by decide)), clamp9 (by omega)]
theorem t_sW (hA : TA A h) (x : Int32) (i : Nat) {v : Int32} {K : PH → Option β} (hx : x = Int32.ofNat i) (hi : i < 73136) : sI (tw A T h) (some (A 1)) 0 x v K = K (tw A (x_w T (upd (q_w T) i v)) h) := by
  subst hx
  rw [sI_at (tw_1 hA) (inR_of (by decide) hi) (hA.2 1 (by decide)), clamp9 (by omega), ts_1 hA]
theorem t_aB (hA : TA A h) (x : Int32) (i : Nat) {K : Int32 → Option β} (hx : x = Int32.ofNat i) (hi : i < 400) : aI (tw A T h) (some (A 2)) 0 x K = K (q_bf T i) := by
  subst hx
  rw [aI_at (tw_2 hA) (inR_of (by decide) hi) (hA.2 2 (by decide)), clamp9 (by omega)]
theorem t_sB (hA : TA A h) (x : Int32) (i : Nat) {v : Int32} {K : PH → Option β} (hx : x = Int32.ofNat i) (hi : i < 400) : sI (tw A T h) (some (A 2)) 0 x v K = K (tw A (x_bf T (upd (q_bf T) i v)) h) := by
  subst hx
  rw [sI_at (tw_2 hA) (inR_of (by decide) hi) (hA.2 2 (by decide)), clamp9 (by omega), ts_2 hA]
theorem t_aR (hA : TA A h) (x : Int32) (i : Nat) {K : Int32 → Option β} (hx : x = Int32.ofNat i) (hi : i < 160) : aI (tw A T h) (some (A 3)) 0 x K = K (q_rd T i) := by
  subst hx
  rw [aI_at (tw_3 hA) (inR_of (by decide) hi) (hA.2 3 (by decide)), clamp9 (by omega)]
theorem t_sR (hA : TA A h) (x : Int32) (i : Nat) {v : Int32} {K : PH → Option β} (hx : x = Int32.ofNat i) (hi : i < 160) : sI (tw A T h) (some (A 3)) 0 x v K = K (tw A (x_rd T (upd (q_rd T) i v)) h) := by
  subst hx
  rw [sI_at (tw_3 hA) (inR_of (by decide) hi) (hA.2 3 (by decide)), clamp9 (by omega), ts_3 hA]
theorem t_nR (hA : TA A h) {K : Int32 → Option β} : aN (tw A T h) (some (A 3)) 0 K = K 160 := aN_at (tw_3 hA)
theorem t_aA (hA : TA A h) (x : Int32) (i : Nat) {K : Int32 → Option β} (hx : x = Int32.ofNat i) (hi : i < 73136) : aI (tw A T h) (some (A 4)) 0 x K = K (q_as T i) := by
  subst hx
  rw [aI_at (tw_4 hA) (inR_of (by decide) hi) (hA.2 4 (by decide)), clamp9 (by omega)]
theorem t_sA (hA : TA A h) (x : Int32) (i : Nat) {v : Int32} {K : PH → Option β} (hx : x = Int32.ofNat i) (hi : i < 73136) : sI (tw A T h) (some (A 4)) 0 x v K = K (tw A (x_as T (upd (q_as T) i v)) h) := by
  subst hx
  rw [sI_at (tw_4 hA) (inR_of (by decide) hi) (hA.2 4 (by decide)), clamp9 (by omega), ts_4 hA]
theorem t_aK (hA : TA A h) (x : Int32) (i : Nat) {K : Int32 → Option β} (hx : x = Int32.ofNat i) (hi : i < 146272) : aI (tw A T h) (some (A 5)) 0 x K = K (q_kp T i) := by
  subst hx
  rw [aI_at (tw_5 hA) (inR_of (by decide) hi) (hA.2 5 (by decide)), clamp9 (by omega)]
theorem t_sK (hA : TA A h) (x : Int32) (i : Nat) {v : Int32} {K : PH → Option β} (hx : x = Int32.ofNat i) (hi : i < 146272) : sI (tw A T h) (some (A 5)) 0 x v K = K (tw A (x_kp T (upd (q_kp T) i v)) h) := by
  subst hx
  rw [sI_at (tw_5 hA) (inR_of (by decide) hi) (hA.2 5 (by decide)), clamp9 (by omega), ts_5 hA]
theorem t_aI (hA : TA A h) (x : Int32) (i : Nat) {K : Int32 → Option β} (hx : x = Int32.ofNat i) (hi : i < 2) : aI (tw A T h) (some (A 6)) 3 x K = K (q_ik T i) := by
  subst hx
  rw [aI_at (tw_6 hA) (inR_of (by decide) hi) (hA.2 6 (by decide)), clamp9 (by omega)]
theorem t_sI (hA : TA A h) (x : Int32) (i : Nat) {v : Int32} {K : PH → Option β} (hx : x = Int32.ofNat i) (hi : i < 2) : sI (tw A T h) (some (A 6)) 3 x v K = K (tw A (x_ik T (upd (q_ik T) i v)) h) := by
  subst hx
  rw [sI_at (tw_6 hA) (inR_of (by decide) hi) (hA.2 6 (by decide)), clamp9 (by omega), ts_6 hA]
-- nodes' numbers
theorem ofm (a b : Nat) : Int32.ofNat a * Int32.ofNat b = Int32.ofNat (a * b) := (Int32.ofNat_mul a b).symm
/-- the place of the node i's number c -/
theorem ixN {i c : Nat} : ((40 : Int32) + ((20 : Int32) * Int32.ofNat i)) + Int32.ofNat c = Int32.ofNat (40 + 20 * i + c) := by
  rw [show (40 : Int32) = Int32.ofNat 40 from rfl, show (20 : Int32) = Int32.ofNat 20 from rfl, ofm, of_add, of_add]
theorem t_of (hA : TA A h) (x : Int32) (c : Nat) {i : Nat} (hx : x = Int32.ofNat c) (hi : i < 6) (hc : c < 20) : f_X7_of (some (A 0)) (Int32.ofNat i) x (tw A T h) = some (q_w T (40 + 20 * i + c), tw A T h) := by
  subst hx
  unfold f_X7_of
  rw [t_rW, t_aW hA _ _ ixN (by omega)]
theorem t_puts (hA : TA A h) (x : Int32) (c : Nat) {i : Nat} {v : Int32} (hx : x = Int32.ofNat c) (hi : i < 6) (hc : c < 20) : f_X7_puts (some (A 0)) (Int32.ofNat i) x v (tw A T h) = some ((), tw A (x_w T (upd (q_w T) (40 + 20 * i + c) v)) h) := by
  subst hx
  unfold f_X7_puts
  rw [t_rW, t_sW hA _ _ ixN (by omega)]
theorem upd_eq {f : Nat → Int32} {i : Nat} {v : Int32} : upd f i v i = v := by unfold upd; exact if_pos rfl
theorem upd_ne {f : Nat → Int32} {i j : Nat} {v : Int32} (hn : j ≠ i) : upd f i v j = f j := by unfold upd; exact if_neg hn
end TWB
