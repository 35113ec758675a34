/-! THE TWIN reads: here, looks, number -/
set_option maxRecDepth 100000
/-- the buffer's text -/
def BFT (T : TS) (bf : Nat → Nat) (len : Nat) : Prop := len ≤ 400 ∧ q_sc T 3 = Int32.ofNat len ∧ ∀ i : Nat, i < len → q_bf T i = Int32.ofNat (bf i) ∧ bf i < 256
theorem q_sne {T : TS} {k j : Nat} {v : Int32} (h : j ≠ k) : q_sc (x_sc T k v) j = q_sc T j := fu_ne h
theorem q_seq {T : TS} {k : Nat} {v : Int32} : q_sc (x_sc T k v) k = v := fu_eq
section TPA
variable {A : Nat → Nat} {h : PH} {bf : Nat → Nat} {len : Nat}
theorem BFT.sc {T : TS} {k : Nat} {v : Int32} (hB : BFT T bf len) (hk : k ≠ 3) : BFT (x_sc T k v) bf len := ⟨hB.1, (fu_ne (Ne.symm hk)).trans hB.2.1, hB.2.2⟩
theorem BFT.rd {T : TS} {f : Nat → Int32} (hB : BFT T bf len) : BFT (x_rd T f) bf len := hB
/-- what here says -/
def hv (bf : Nat → Nat) (len p : Nat) : Int32 := if p < len then Int32.ofNat (bf p) else -4
theorem t_here (hA : TA A h) {T : TS} {p : Nat} (hB : BFT T bf len) (hp : q_sc T 4 = Int32.ofNat p) (hpl : p ≤ len) : f_X7_here (some (A 0)) (tw A T h) = some (hv bf len p, tw A T h) := by
  have h4 := hB.1
  unfold f_X7_here f_X7_here_B25 hv
  rw [t_gI (by decide), t_gI (by decide), hp, hB.2.1]
  by_cases c : p < len
  · rw [if_neg (by rw [of_le (by omega) (by omega)]; omega), t_rB, t_gI (by decide), hp, t_aB hA _ p rfl (by omega), if_pos c, (hB.2.2 p c).1]
  · rw [if_pos (by rw [of_le (by omega) (by omega)]; omega), if_neg c]
theorem of_i {n : Nat} (hn : n < 2147483648) : (Int32.ofNat n).toInt = (n : Int) := Int32.toInt_ofNat_of_lt hn
theorem hv_i (hB : ∀ i : Nat, i < len → bf i < 256) {p : Nat} : (hv bf len p).toInt = if p < len then (bf p : Int) else -4 := by
  unfold hv
  split
  · next c => have := hB p c; rw [of_i (by omega)]
  · rfl
theorem hv_eq (hB : ∀ i : Nat, i < len → bf i < 256) {p x : Nat} (hx : x < 256) : hv bf len p = Int32.ofNat x ↔ hb bf len p = x := by
  unfold hb
  rw [← Int32.toInt_inj, hv_i hB, of_i (by omega)]
  split
  · omega
  · omega
theorem hv_in (hB : ∀ i : Nat, i < len → bf i < 256) {p a b : Nat} (hb2 : b < 256) : ((a : Int) ≤ (hv bf len p).toInt ∧ (hv bf len p).toInt ≤ b) ↔ a ≤ hb bf len p ∧ hb bf len p ≤ b := by
  unfold hb
  rw [hv_i hB]
  split
  · omega
  · omega
theorem x4_self {T : TS} {p : Nat} (hp : q_sc T 4 = Int32.ofNat p) : x_sc T 4 (Int32.ofNat p) = T := by rw [← hp]; exact x_sc_self
theorem x_sc_comm {T : TS} {j k : Nat} {u v : Int32} (hjk : j ≠ k) : x_sc (x_sc T j u) k v = x_sc (x_sc T k v) j u := by
  have e : fu (fu (q_sc T) j u) k v = fu (fu (q_sc T) k v) j u := by
    funext i
    by_cases c : i = k
    · subst c
      rw [fu_eq, fu_ne (Ne.symm hjk), fu_eq]
    · rw [fu_ne c]
      by_cases c2 : i = j
      · subst c2
        rw [fu_eq, fu_eq]
      · rw [fu_ne c2, fu_ne c2, fu_ne c]
  show (T.1, T.2.1, T.2.2.1, T.2.2.2.1, T.2.2.2.2.1, T.2.2.2.2.2.1, fu (fu (q_sc T) j u) k v) = (T.1, T.2.1, T.2.2.1, T.2.2.2.1, T.2.2.2.2.1, T.2.2.2.2.2.1, fu (fu (q_sc T) k v) j u)
  rw [e]
theorem t_looksL (hA : TA A h) : ∀ (f N : Nat) (T : TS) (p : Nat), BFT T bf len → q_sc T 4 = Int32.ofNat p → p ≤ len → len - p < f → f < N → f_X7_looks_L0 N (some (A 0)) (tw A T h) = some ((), tw A (x_sc (x_sc T 4 (Int32.ofNat (skp bf len f p))) 5 (Int32.ofNat (skp bf len f p))) h) := by
  intro f
  induction f with
  | zero => intro N T p _ _ _ h1; omega
  | succ f ih =>
    intro N T p hB hp hpl h1 h2
    have hl := hB.1
    have hB2 : ∀ i : Nat, i < len → bf i < 256 := fun i hi => (hB.2.2 i hi).2
    cases N with
    | zero => omega
    | succ N =>
      unfold f_X7_looks_L0 skp
      rw [t_rv, cl_eq (t_here hA hB hp hpl)]
      by_cases c : hb bf len p = 32
      · rw [if_pos (show hv bf len p = 32 from (hv_eq hB2 (x := 32) (by decide)).mpr c), if_pos c]
        have hlt := hb_lt c (by decide)
        rw [t_gI (by decide), t_pV hA (by decide), hp, show (1 : Int32) = Int32.ofNat 1 from rfl, of_add]
        rw [ih N (x_sc T 4 (Int32.ofNat (p + 1))) (p + 1) (hB.sc (by decide)) q_seq (by omega) (by omega) (by omega), x_scsc]
      · rw [if_neg (show ¬ hv bf len p = 32 from fun hx => c ((hv_eq hB2 (x := 32) (by decide)).mp hx)), if_neg c, t_gI (by decide), t_pV hA (by decide), hp, x4_self hp]
theorem t_looks (hA : TA A h) {T : TS} {p : Nat} (hB : BFT T bf len) (hp : q_sc T 4 = Int32.ofNat p) (hpl : p ≤ len) : f_X7_looks (some (A 0)) (tw A T h) = some ((), tw A (x_sc (x_sc T 4 (Int32.ofNat (sk bf len p))) 5 (Int32.ofNat (sk bf len p))) h) := t_looksL hA FL FU T p hB hp hpl (by have := hB.1; unfold FL; omega) (by unfold FL FU; omega)
/-- reading has failed: the kind k, at the place pos -/
def TE (T T' : TS) (k pos : Nat) : Prop := q_w T' = q_w T ∧ q_bf T' = q_bf T ∧ q_as T' = q_as T ∧ q_kp T' = q_kp T ∧ q_ik T' = q_ik T ∧ (∀ j : Nat, j ≠ 4 → j ≠ 5 → j ≠ 6 → j ≠ 7 → j ≠ 9 → q_sc T' j = q_sc T j) ∧ q_sc T' 7 = Int32.ofNat k ∧ q_sc T' 6 = Int32.ofNat pos ∧ 1 ≤ k ∧ k ≤ 4 ∧ ∃ p : Nat, p ≤ len ∧ q_sc T' 4 = Int32.ofNat p
theorem TE.ne {T T' : TS} {k pos : Nat} (h : TE (len := len) T T' k pos) : ¬ q_sc T' 7 = 0 := by
  rw [h.2.2.2.2.2.2.1]
  have h1 := h.2.2.2.2.2.2.2.2.1
  have h2 := h.2.2.2.2.2.2.2.2.2.1
  intro hx
  have : (Int32.ofNat k).toInt = 0 := by rw [hx]; rfl
  rw [of_i (by omega)] at this
  omega
/-- the relation keeps what failed -/
theorem t_fails (hA : TA A h) {T : TS} {k b : Nat} (h0 : q_sc T 7 = 0) (hb : q_sc T 5 = Int32.ofNat b) : f_X7_fails (some (A 0)) (Int32.ofNat k) (tw A T h) = some ((), tw A (x_sc (x_sc T 7 (Int32.ofNat k)) 6 (Int32.ofNat b)) h) := by
  unfold f_X7_fails
  rw [t_gI (by decide), h0, if_pos rfl, t_pV hA (by decide), t_gI (by decide), t_pV hA (by decide)]
  have : q_sc (x_sc T 7 (Int32.ofNat k)) 5 = Int32.ofNat b := (q_sne (by decide)).trans hb
  rw [this]
theorem t_fails0 {T : TS} {k : Int32} (h0 : ¬ q_sc T 7 = 0) : f_X7_fails (some (A 0)) k (tw A T h) = some ((), tw A T h) := by
  unfold f_X7_fails
  rw [t_gI (by decide), if_neg h0]
theorem t_number0 {T : TS} {lo hi : Int32} (h0 : ¬ q_sc T 7 = 0) : f_X7_number (some (A 0)) lo hi (tw A T h) = some (lo, tw A T h) := by
  unfold f_X7_number
  rw [t_gI (by decide), if_neg h0]
theorem min_dig {v d : Nat} {x y : Int64} {w : Int32} (hx : x.toInt = min 3000000000 (v : Int)) (hd : d ≤ 9) (hy : w.toInt = (d : Int) + 48) (e : y = (if ((((10 : Int64) * x) + (w.toInt64)) - (48 : Int64)) < (3000000000 : Int64) then ((((10 : Int64) * x) + (w.toInt64)) - (48 : Int64)) else (3000000000 : Int64))) : y.toInt = min 3000000000 ((10 * v + d : Nat) : Int) := by
  have k10 : ((10 : Int64)).toInt = 10 := by decide
  have k48 : ((48 : Int64)).toInt = 48 := by decide
  have k3 : ((3000000000 : Int64)).toInt = 3000000000 := by decide
  have e1 : ((10 : Int64) * x).toInt = 10 * x.toInt := by rw [l_mul (by rw [k10]; omega) (by rw [k10]; omega), k10]
  have e2 : ((10 : Int64) * x + w.toInt64).toInt = 10 * x.toInt + w.toInt := by rw [l_add (by rw [e1, Int32.toInt_toInt64]; omega) (by rw [e1, Int32.toInt_toInt64]; omega), e1, Int32.toInt_toInt64]
  have e3 : ((10 : Int64) * x + w.toInt64 - (48 : Int64)).toInt = 10 * x.toInt + w.toInt - 48 := by rw [l_sub (by rw [e2, k48]; omega) (by rw [e2, k48]; omega), e2, k48]
  rw [e]
  split
  · next c =>
    rw [Int64.lt_iff_toInt_lt, e3, k3] at c
    rw [e3]
    omega
  · next c =>
    rw [Int64.lt_iff_toInt_lt, e3, k3] at c
    rw [k3]
    omega
/-- a number, from the first digit on -/
theorem t_numL (hA : TA A h) {lo hi b : Nat} (hlo : lo ≤ 2147483647) (hhi : hi ≤ 2147483647) : ∀ (f N : Nat) (T : TS) (p v : Nat) (x : Int64), BFT T bf len → q_sc T 4 = Int32.ofNat p → q_sc T 5 = Int32.ofNat b → q_sc T 7 = 0 → b ≤ p → p ≤ len → len - p < f → f < N → x.toInt = min 3000000000 (v : Int) →
    ((dgs bf len f p v).2 = b → ∃ (T' : TS) (ans : Int32), f_X7_number_L15 N (some (A 0)) (Int32.ofNat lo) (Int32.ofNat hi) x (tw A T h) = some (ans, tw A T' h) ∧ TE (len := len) T T' 1 b) ∧
    (¬ (dgs bf len f p v).2 = b → ¬ (lo ≤ (dgs bf len f p v).1 ∧ (dgs bf len f p v).1 ≤ hi) → ∃ (T' : TS) (ans : Int32), f_X7_number_L15 N (some (A 0)) (Int32.ofNat lo) (Int32.ofNat hi) x (tw A T h) = some (ans, tw A T' h) ∧ TE (len := len) T T' 2 b) ∧
    (¬ (dgs bf len f p v).2 = b → (lo ≤ (dgs bf len f p v).1 ∧ (dgs bf len f p v).1 ≤ hi) → f_X7_number_L15 N (some (A 0)) (Int32.ofNat lo) (Int32.ofNat hi) x (tw A T h) = some (Int32.ofNat (dgs bf len f p v).1, tw A (x_sc T 4 (Int32.ofNat (dgs bf len f p v).2)) h)) := by
  intro f
  induction f with
  | zero => intro N T p v x _ _ _ _ _ _ h1; omega
  | succ f ih =>
    intro N T p v x hB hp h5 h7 hbp hpl h1 h2 hx
    have hl := hB.1
    have hB2 : ∀ i : Nat, i < len → bf i < 256 := fun i hi => (hB.2.2 i hi).2
    have k48 : ((48 : Int64)).toInt = ((48 : Nat) : Int) := by decide
    have k57 : ((57 : Int64)).toInt = ((57 : Nat) : Int) := by decide
    cases N with
    | zero => omega
    | succ N =>
      unfold f_X7_number_L15 dgs
      rw [t_rv, cl_eq (t_here hA hB hp hpl), cl_eq t_in, k48, k57, Int32.toInt_toInt64]
      by_cases c : 48 ≤ hb bf len p ∧ hb bf len p ≤ 57
      · rw [if_pos ((hv_in hB2 (by decide)).mpr c), if_neg (show ¬ (1 : Int32) = 0 by decide), if_pos c, t_rv, cl_eq (t_here hA hB hp hpl), t_gI (by decide), t_pV hA (by decide), hp, show (1 : Int32) = Int32.ofNat 1 from rfl, of_add]
        have hlt : p < len := hb_lt (x := hb bf len p) rfl (by omega)
        have ehv : (hv bf len p).toInt = ((hb bf len p - 48 : Nat) : Int) + 48 := by
          rw [hv_i hB2, if_pos hlt]
          rw [hb_at hlt] at c ⊢
          omega
        have hx' := min_dig hx (by omega) ehv rfl
        have g := ih N (x_sc T 4 (Int32.ofNat (p + 1))) (p + 1) (10 * v + (hb bf len p - 48)) _ (hB.sc (by decide)) q_seq ((q_sne (by decide)).trans h5) ((q_sne (by decide)).trans h7) (by omega) (by omega) (by omega) (by omega) hx'
        have tes : ∀ (T' : TS) (k : Nat), TE (len := len) (x_sc T 4 (Int32.ofNat (p + 1))) T' k b → TE (len := len) T T' k b := fun T' k ht => by
          obtain ⟨a1, a2, a3, a4, a5, a6, a7⟩ := ht
          exact ⟨a1, a2, a3, a4, a5, fun j j4 j5 j6 j7 j9 => (a6 j j4 j5 j6 j7 j9).trans (fu_ne j4), a7⟩
        refine ⟨fun q => ?_, fun q1 q2 => ?_, fun q1 q2 => ?_⟩
        · obtain ⟨T', ans, u1, u2⟩ := g.1 q
          exact ⟨T', ans, u1, tes T' 1 u2⟩
        · obtain ⟨T', ans, u1, u2⟩ := g.2.1 q1 q2
          exact ⟨T', ans, u1, tes T' 2 u2⟩
        · have := g.2.2 q1 q2
          rw [x_scsc] at this
          exact this
      · rw [if_neg (fun hx => c ((hv_in hB2 (by decide)).mp hx)), if_pos rfl, if_neg c, t_gI (by decide), t_gI (by decide), hp, h5]
        unfold f_X7_number_B102 f_X7_number_B115
        have te : ∀ k : Nat, 1 ≤ k → k ≤ 4 → TE (len := len) T (x_sc (x_sc T 7 (Int32.ofNat k)) 6 (Int32.ofNat b)) k b := fun k k1 k2 => by
          refine ⟨rfl, rfl, rfl, rfl, rfl, fun j j4 j5 j6 j7 j9 => ?_, ?_, ?_, k1, k2, p, hpl, ?_⟩
          · rw [q_sne j6, q_sne j7]
          · rw [q_sne (by decide), q_seq]
          · rw [q_seq]
          · rw [q_sne (by decide), q_sne (by decide), hp]
        have ne7 : ∀ k : Nat, 1 ≤ k → k ≤ 4 → ¬ q_sc (x_sc (x_sc T 7 (Int32.ofNat k)) 6 (Int32.ofNat b)) 7 = 0 := fun k k1 k2 => (te k k1 k2).ne
        refine ⟨fun q => ?_, fun q1 q2 => ?_, fun q1 q2 => ?_⟩
        · dsimp only at q
          rw [if_pos (by rw [q]), t_rv, cl_eq (show f_X7_fails (some (A 0)) 1 _ = _ from t_fails hA (k := 1) h7 h5), t_gI (by decide), if_neg (ne7 1 (by decide) (by decide))]
          exact ⟨_, _, rfl, te 1 (by decide) (by decide)⟩
        · dsimp only at q1 q2
          have hne : ¬ Int32.ofNat p = Int32.ofNat b := fun hy => q1 (by
            have := congrArg Int32.toInt hy
            rw [of_i (by omega), of_i (by omega)] at this
            omega)
          have hin : ¬ ((lo : Int) ≤ x.toInt ∧ x.toInt ≤ (hi : Int)) := by omega
          rw [if_neg hne, cl_eq t_in, Int32.toInt_toInt64, Int32.toInt_toInt64, of_i (by omega), of_i (by omega), if_neg hin, if_pos rfl, t_rv, cl_eq (show f_X7_fails (some (A 0)) 2 _ = _ from t_fails hA (k := 2) h7 h5), t_gI (by decide), if_neg (ne7 2 (by decide) (by decide))]
          exact ⟨_, _, rfl, te 2 (by decide) (by decide)⟩
        · dsimp only at q1 q2
          have hne : ¬ Int32.ofNat p = Int32.ofNat b := fun hy => q1 (by
            have := congrArg Int32.toInt hy
            rw [of_i (by omega), of_i (by omega)] at this
            omega)
          have hin : (lo : Int) ≤ x.toInt ∧ x.toInt ≤ (hi : Int) := by omega
          rw [if_neg hne, cl_eq t_in, Int32.toInt_toInt64, Int32.toInt_toInt64, of_i (by omega), of_i (by omega), if_pos hin, if_neg (show ¬ (1 : Int32) = 0 by decide), t_gI (by decide), h7, if_pos rfl]
          have ex : x.toInt32 = Int32.ofNat v := by
            apply Int32.toInt_inj.mp
            rw [l_int (by omega) (by omega), of_i (by omega)]
            omega
          dsimp only
          rw [ex, x4_self hp]
/-- a number -/
theorem t_number (hA : TA A h) {lo hi : Nat} (hlo : lo ≤ 2147483647) (hhi : hi ≤ 2147483647) {T : TS} {p : Nat} (hB : BFT T bf len) (hp : q_sc T 4 = Int32.ofNat p) (h7 : q_sc T 7 = 0) (hpl : p ≤ len) :
    (∀ (k b : Nat), nmb bf len lo hi p = .inl (k, b) → ∃ (T' : TS) (ans : Int32), f_X7_number (some (A 0)) (Int32.ofNat lo) (Int32.ofNat hi) (tw A T h) = some (ans, tw A T' h) ∧ TE (len := len) T T' k b) ∧
    (∀ d : Nat × Nat, nmb bf len lo hi p = .inr d → f_X7_number (some (A 0)) (Int32.ofNat lo) (Int32.ofNat hi) (tw A T h) = some (Int32.ofNat d.1, tw A (x_sc (x_sc T 4 (Int32.ofNat d.2)) 5 (Int32.ofNat (sk bf len p))) h)) := by
  have hs := sk_le (bf := bf) hpl
  have hl := hB.1
  obtain ⟨q, hq⟩ : ∃ q, sk bf len p = q := ⟨_, rfl⟩
  rw [hq] at hs
  have g := t_numL hA (h := h) (lo := lo) (hi := hi) (b := q) hlo hhi FL FU (x_sc (x_sc T 4 (Int32.ofNat q)) 5 (Int32.ofNat q)) q 0 0 ((hB.sc (by decide)).sc (by decide)) ((q_sne (by decide)).trans q_seq) q_seq ((q_sne (by decide)).trans ((q_sne (by decide)).trans h7)) (Nat.le_refl _) hs.2 (by unfold FL; omega) (by unfold FL FU; omega) (by decide)
  have lk := t_looks hA hB hp hpl
  rw [hq] at lk
  have tes : ∀ (T' : TS) (k : Nat), TE (len := len) (x_sc (x_sc T 4 (Int32.ofNat q)) 5 (Int32.ofNat q)) T' k q → TE (len := len) T T' k q := fun T' k ht => by
    obtain ⟨a1, a2, a3, a4, a5, a6, a7⟩ := ht
    exact ⟨a1, a2, a3, a4, a5, fun j j4 j5 j6 j7 j9 => (a6 j j4 j5 j6 j7 j9).trans ((fu_ne j5).trans (fu_ne j4)), a7⟩
  unfold f_X7_number nmb
  rw [t_gI (by decide), h7, if_pos rfl, t_rv, cl_eq lk, hq]
  dsimp only
  refine ⟨fun k b e => ?_, fun d e => ?_⟩
  · by_cases c : (dgs bf len FL q 0).2 = q
    · rw [if_pos c] at e
      cases e
      obtain ⟨T', ans, u1, u2⟩ := g.1 c
      exact ⟨T', ans, u1, tes T' 1 u2⟩
    · rw [if_neg c] at e
      by_cases c2 : lo ≤ (dgs bf len FL q 0).1 ∧ (dgs bf len FL q 0).1 ≤ hi
      · rw [if_pos c2] at e
        cases e
      · rw [if_neg c2] at e
        cases e
        obtain ⟨T', ans, u1, u2⟩ := g.2.1 c c2
        exact ⟨T', ans, u1, tes T' 2 u2⟩
  · by_cases c : (dgs bf len FL q 0).2 = q
    · rw [if_pos c] at e
      cases e
    · rw [if_neg c] at e
      by_cases c2 : lo ≤ (dgs bf len FL q 0).1 ∧ (dgs bf len FL q 0).1 ≤ hi
      · rw [if_pos c2] at e
        cases e
        have := g.2.2 c c2
        rw [this, x_sc_comm (by decide), x_scsc, x_sc_comm (by decide)]
      · rw [if_neg c2] at e
        cases e
end TPA
