/-! THE TWIN reads: words -/
set_option maxRecDepth 100000
/-- the row of words, and the words -/
def WRD (A : Nat → Nat) (h : PH) : Prop := (∃ f : Nat → Option Nat, h.1 (A 7) = some (.inl (h.2.1.2.1 7, 7, refs f)) ∧ ∀ i : Nat, i < 7 → f i = some (sAd h.2.1 (20 + i))) ∧ h.2.1.1 9 = .int 1 ∧ (h.2.1.1 12 = .null ∨ ∃ q : Nat, h.2.1.1 12 = .ref q) ∧
  ∀ i : Nat, i < 7 → ∃ v : Nat, sAd h.2.1 (20 + i) < pbase h ∧ v < pbase h ∧ h.1 (sAd h.2.1 (20 + i)) = some (.inr (22, [.ref v, .int 0])) ∧ h.1 v = some (.inl (h.2.1.2.1 1, txN.getD i 0, .inl (fun j => (txB.getD i []).getD j 0)))
theorem tx_num : ∀ k : Nat, k < 7 → txN.getD k 0 = (wd k).length ∧ (Int32.ofNat (txN.getD k 0)) >>> ((0 : Int32) &&& 31) = Int32.ofNat (txN.getD k 0) ∧ txN.getD k 0 ≤ 6 := by decide +kernel
theorem tx_chr : ∀ k : Nat, k < 7 → ∀ i : Nat, i < 6 → i < txN.getD k 0 → ((((txB.getD k []).getD i 0 &&& (255 : Int32)).toUInt32 % 65536).toInt32 = Int32.ofNat ((wd k).getD i 0)) ∧ vp_nar .char (Int32.ofNat ((wd k).getD i 0)) = Int32.ofNat ((wd k).getD i 0) ∧ (wd k).getD i 0 < 256 := by decide +kernel
theorem nb0 : vp_nar .byte (0 : Int32) = 0 ∧ vp_nar .boolean (1 : Int32) = 1 := by decide
section TWR
variable {A : Nat → Nat} {h : PH} {bf : Nat → Nat} {len : Nat}
theorem lo_ne (hA : TA A h) {x : Nat} (hx : x < pbase h) : ∀ i : Nat, i < 7 → x ≠ A i := fun i hi => by have := hA.2 i (by omega); omega
theorem t_len (hA : TA A h) (hW : WRD A h) {T : TS} {k : Nat} (hk : k < 7) : f_J9_length (some (sAd h.2.1 (20 + k))) (tw A T h) = some (Int32.ofNat (wd k).length, tw A T h) := by
  obtain ⟨-, w9, -, w⟩ := hW
  obtain ⟨v, v1, v2, v3, v4⟩ := w k hk
  have e1 : (tw A T h).1 (sAd h.2.1 (20 + k)) = some (.inr (22, [.ref v, .int 0])) := by rw [tw_out (lo_ne hA v1)]; exact v3
  have e2 : (tw A T h).1 v = some (.inl ((tw A T h).2.1.2.1 1, txN.getD k 0, .inl (fun j => (txB.getD k []).getD j 0))) := by rw [tw_out (lo_ne hA v2)]; exact v4
  have n := tx_num k hk
  unfold f_J9_length f_J9_coder f_J9_coder_B14
  rw [gR_at e1 rfl, aN_at e2, rv_at e1]
  have e9 : (tw A T h).2.1.1 9 = .int 1 := w9
  rw [e9]
  simp only [asI]
  rw [if_neg (show ¬ (1 : Int32) = 0 by decide), gI_at e1 rfl, rN_at nb0.1]
  show some (Int32.ofNat (txN.getD k 0) >>> ((0 : Int32) &&& 31), _) = _
  rw [n.2.1, n.1]
theorem t_char (hA : TA A h) (hW : WRD A h) {T : TS} {k i : Nat} (hk : k < 7) (hi : i < (wd k).length) : f_J9_charAt (some (sAd h.2.1 (20 + k))) (Int32.ofNat i) (tw A T h) = some (Int32.ofNat ((wd k).getD i 0), tw A T h) := by
  obtain ⟨-, w9, w12, w⟩ := hW
  obtain ⟨v, v1, v2, v3, v4⟩ := w k hk
  have e1 : (tw A T h).1 (sAd h.2.1 (20 + k)) = some (.inr (22, [.ref v, .int 0])) := by rw [tw_out (lo_ne hA v1)]; exact v3
  have e2 : (tw A T h).1 v = some (.inl ((tw A T h).2.1.2.1 1, txN.getD k 0, .inl (fun j => (txB.getD k []).getD j 0))) := by rw [tw_out (lo_ne hA v2)]; exact v4
  have n := tx_num k hk
  rw [← n.1] at hi
  have c := tx_chr k hk i (by omega) hi
  have e9 : (tw A T h).2.1.1 9 = .int 1 := w9
  have e12 : (tw A T h).2.1.1 12 = h.2.1.1 12 := rfl
  unfold f_J9_charAt f_J9_isLatin1 f_J9_isLatin1_B18 f_J15_charAt f_J9_checkIndex f_J14_checkIndex
  rw [rv_at e1, e9]
  simp only [asI]
  rw [if_neg (show ¬ (1 : Int32) = 0 by decide), gI_at e1 rfl, if_pos rfl, rN_at nb0.2]
  rw [cl_eq rfl, if_neg (show ¬ (1 : Int32) = 0 by decide), gR_at e1 rfl, aN_at e2, e12]
  have i1 : ¬ Int32.ofNat i < 0 := by rw [i_lt, of_i (by omega), show ((0 : Int32)).toInt = 0 from rfl]; omega
  have i2 : Int32.ofNat i < Int32.ofNat (txN.getD k 0) := by rw [of_lt (by omega) (by omega)]; exact hi
  have fin : ∀ r : Option Nat, (cl_ (cl_ (cl_ (if Int32.ofNat i < 0 then f_J14_checkIndex_B9 (Int32.ofNat i) (Int32.ofNat (txN.getD k 0)) r (tw A T h) else if Int32.ofNat i < Int32.ofNat (txN.getD k 0) then some (Int32.ofNat i, tw A T h) else f_J14_checkIndex_B9 (Int32.ofNat i) (Int32.ofNat (txN.getD k 0)) r (tw A T h)) fun v3 h2 => some ((), h2)) fun _u h2 => aB h2 (some v) (Int32.ofNat i) fun v3 => rN .char (((v3 &&& (255 : Int32)).toUInt32 % 65536).toInt32) (fun v => v) h2) fun v6 h5 => rN .char v6 (fun v => v) h5) = some (Int32.ofNat ((wd k).getD i 0), tw A T h) := by
    intro r
    rw [if_neg i1, if_pos i2, cl_eq rfl, cl_eq rfl, aB_at e2 (inR_of (by omega) hi), clamp9 (by omega), c.1, rN_at c.2.1, cl_eq rfl, rN_at c.2.1]
  rcases w12 with w12 | ⟨q, w12⟩
  · rw [w12]
    exact fin none
  · rw [w12]
    exact fin (some q)
theorem isW_iff {a n k : Nat} : isW bf a n k = true ↔ n = (wd k).length ∧ ∀ j : Nat, j < n → bf (a + j) = (wd k).getD j 0 := by
  unfold isW
  rw [decide_eq_true_iff]
  constructor
  · intro e
    have el : n = (wd k).length := by rw [← e]; simp
    refine ⟨el, fun j hj => ?_⟩
    rw [← e, List.getD_eq_getElem?_getD, List.getElem?_map, List.getElem?_range hj]
    rfl
  · rintro ⟨e1, e2⟩
    apply List.ext_getElem?
    intro j
    by_cases hj : j < n
    · rw [List.getElem?_map, List.getElem?_range hj]
      show some (bf (a + j)) = _
      rw [e2 j hj, List.getD_eq_getElem?_getD, List.getElem?_eq_getElem (by omega)]
      rfl
    · rw [List.getElem?_eq_none (by simp; omega), List.getElem?_eq_none (by omega)]
/-- the words' row -/
theorem t_wref (hA : TA A h) (hW : WRD A h) {T : TS} {β : Type} {k : Nat} (hk : k < 7) {K : Option Nat → Option β} : aQ (tw A T h) (some (A 7)) 7 (Int32.ofNat k) K = K (some (sAd h.2.1 (20 + k))) := by
  obtain ⟨⟨f, f1, f2⟩, -⟩ := hW
  have e : (tw A T h).1 (A 7) = some (.inl ((tw A T h).2.1.2.1 7, 7, refs f)) := by
    rw [tw_out (fun i hi => hA.ne (by decide) (by omega) (by omega))]
    exact f1
  rw [aQ_at e (inR_of (by decide) hk) (hA.2 7 (by decide)), clamp9 (by omega), f2 k hk]
theorem t_wrv (hA : TA A h) (hW : WRD A h) {T : TS} {β : Type} {k : Nat} (hk : k < 7) {X : Option β} : rv_ (tw A T h) (some (sAd h.2.1 (20 + k))) 22 X = X := by
  obtain ⟨-, -, -, w⟩ := hW
  obtain ⟨v, v1, v2, v3, v4⟩ := w k hk
  exact rv_at (by rw [tw_out (lo_ne hA v1)]; exact v3)
/-- one word's letters, from the place i on -/
theorem t_wL (hA : TA A h) (hW : WRD A h) {T : TS} {k a : Nat} (hk : k < 7) (hB : BFT T bf len) (h5 : q_sc T 5 = Int32.ofNat a) (hal : a + (wd k).length ≤ len) (k36 : Option Nat → Int32 → PH → Option (Int32 × PH)) : ∀ (d i N : Nat), i + d = (wd k).length → d + 1 < N →
    ((∀ j : Nat, i ≤ j → j < (wd k).length → bf (a + j) = (wd k).getD j 0) → f_X7_word_L74 k36 N (some (A 0)) (Int32.ofNat k) 1 (Int32.ofNat i) (tw A T h) = some (Int32.ofNat k, tw A T h)) ∧
    (¬ (∀ j : Nat, i ≤ j → j < (wd k).length → bf (a + j) = (wd k).getD j 0) → f_X7_word_L74 k36 N (some (A 0)) (Int32.ofNat k) 1 (Int32.ofNat i) (tw A T h) = k36 (some (A 0)) (Int32.ofNat (k + 1)) (tw A T h)) := by
  have hl := hB.1
  have n := tx_num k hk
  rw [n.1] at n
  intro d
  induction d with
  | zero =>
    intro i N h1 h2
    cases N with
    | zero => omega
    | succ N =>
      unfold f_X7_word_L74 f_X7_word_B127
      refine ⟨fun _ => ?_, fun hx => absurd (fun j j1 j2 => by omega) hx⟩
      rw [if_neg (show ¬ (1 : Int32) = 0 by decide), t_rX, t_wref hA hW hk, t_wrv hA hW hk, cl_eq (t_len hA hW hk), if_pos (by rw [of_le (by omega) (by omega)]; omega), if_neg (show ¬ (1 : Int32) = 0 by decide)]
  | succ d ih =>
    intro i N h1 h2
    cases N with
    | zero => omega
    | succ N =>
      have c := tx_chr k hk i (by omega) (by rw [(tx_num k hk).1]; omega)
      have hbi := hB.2.2 (a + i) (by omega)
      have g := ih (i + 1) N (by omega) (by omega)
      have e : f_X7_word_L74 k36 (N + 1) (some (A 0)) (Int32.ofNat k) 1 (Int32.ofNat i) (tw A T h) = if bf (a + i) = (wd k).getD i 0 then f_X7_word_L74 k36 N (some (A 0)) (Int32.ofNat k) 1 (Int32.ofNat (i + 1)) (tw A T h) else f_X7_word_L74 k36 N (some (A 0)) (Int32.ofNat k) 0 (Int32.ofNat (i + 1)) (tw A T h) := by
        conv => lhs; unfold f_X7_word_L74 f_X7_word_B127 f_X7_word_B120
        rw [if_neg (show ¬ (1 : Int32) = 0 by decide), t_rX, t_wref hA hW hk, t_wrv hA hW hk, cl_eq (t_len hA hW hk), if_neg (by rw [of_le (by omega) (by omega)]; omega), t_rX, t_wref hA hW hk, t_wrv hA hW hk, cl_eq (t_char hA hW hk (by omega)), t_rB, t_gI (by decide), h5, of_add, t_aB hA _ (a + i) rfl (by omega), hbi.1, show (1 : Int32) = Int32.ofNat 1 from rfl, of_add]
        by_cases ce : bf (a + i) = (wd k).getD i 0
        · rw [if_pos (by rw [ce]), if_pos ce]
        · rw [if_neg (fun hy => ce (by
            have := congrArg Int32.toInt hy
            rw [of_i (by omega), of_i (by omega)] at this
            omega)), if_neg ce]
      rw [e]
      by_cases ce : bf (a + i) = (wd k).getD i 0
      · rw [if_pos ce]
        refine ⟨fun hx => g.1 (fun j j1 j2 => hx j (by omega) j2), fun hx => g.2 (fun hy => hx (fun j j1 j2 => ?_))⟩
        by_cases cj : j = i
        · rw [cj]; exact ce
        · exact hy j (by omega) j2
      · rw [if_neg ce]
        refine ⟨fun hx => absurd (hx i (Nat.le_refl _) (by omega)) ce, fun _ => ?_⟩
        cases N with
        | zero => omega
        | succ N =>
          unfold f_X7_word_L74 f_X7_word_B127
          rw [if_pos rfl, if_pos rfl, show (1 : Int32) = Int32.ofNat 1 from rfl, of_add]
/-- one word -/
theorem t_w1 (hA : TA A h) (hW : WRD A h) {T : TS} {k a b N : Nat} (hk : k < 7) (hB : BFT T bf len) (h5 : q_sc T 5 = Int32.ofNat a) (h4 : q_sc T 4 = Int32.ofNat b) (hab : a ≤ b) (hbl : b ≤ len) : f_X7_word_L36 (N + 1) (some (A 0)) (Int32.ofNat k) (tw A T h) = if isW bf a (b - a) k = true then some (Int32.ofNat k, tw A T h) else f_X7_word_L36 N (some (A 0)) (Int32.ofNat (k + 1)) (tw A T h) := by
  have hl := hB.1
  have n := tx_num k hk
  rw [n.1] at n
  obtain ⟨⟨f, f1, f2⟩, -⟩ := id hW
  have e7 : (tw A T h).1 (A 7) = some (.inl ((tw A T h).2.1.2.1 7, 7, refs f)) := by
    rw [tw_out (fun i hi => hA.ne (by decide) (by omega) (by omega))]
    exact f1
  conv => lhs; unfold f_X7_word_L36 f_X7_word_B71
  have es : Int32.ofNat b - Int32.ofNat a = Int32.ofNat (b - a) := by
    apply Int32.toInt_inj.mp
    rw [i_sub (by rw [of_i (by omega), of_i (by omega)]; omega) (by rw [of_i (by omega), of_i (by omega)]; omega), of_i (by omega), of_i (by omega), of_i (by omega)]
    omega
  rw [t_rX, aN_at e7, if_neg (show ¬ Int32.ofNat 7 ≤ Int32.ofNat k by rw [of_le (by omega) (by omega)]; omega), t_rX, t_wref hA hW hk, t_wrv hA hW hk, cl_eq (t_len hA hW hk), t_gI (by decide), t_gI (by decide), h4, h5, es]
  by_cases c : (wd k).length = b - a
  · rw [if_pos (by rw [c])]
    have g := t_wL hA hW hk hB h5 (by omega) (f_X7_word_L36 N) (wd k).length 0 FU (by omega) (by unfold FU; omega)
    by_cases ci : isW bf a (b - a) k = true
    · rw [if_pos ci]
      have := (isW_iff.mp ci).2
      exact g.1 (fun j _ j2 => this j (by omega))
    · rw [if_neg ci]
      exact g.2 (fun hx => ci (isW_iff.mpr ⟨c.symm, fun j hj => hx j (by omega) (by omega)⟩))
  · rw [if_neg (fun hy => c (by
      have := congrArg Int32.toInt hy
      rw [of_i (by omega), of_i (by omega)] at this
      omega)), if_neg (fun ci => c (isW_iff.mp ci).1.symm)]
    have : FU = (FU - 1) + 1 := by unfold FU; omega
    rw [this]
    unfold f_X7_word_L74 f_X7_word_B127
    rw [if_pos rfl, if_pos rfl, show (1 : Int32) = Int32.ofNat 1 from rfl, of_add]
/-- the word's number -/
def wnr (k : Nat) : Int32 := if k = 7 then -4 else Int32.ofNat k
theorem t_w7 (hA : TA A h) (hW : WRD A h) {T : TS} {a b : Nat} (hB : BFT T bf len) (h5 : q_sc T 5 = Int32.ofNat a) (h4 : q_sc T 4 = Int32.ofNat b) (hab : a ≤ b) (hbl : b ≤ len) : f_X7_word_L36 FU (some (A 0)) 0 (tw A T h) = some (wnr (wix bf a (b - a)), tw A T h) := by
  obtain ⟨⟨f, f1, f2⟩, -⟩ := id hW
  have e7 : (tw A T h).1 (A 7) = some (.inl ((tw A T h).2.1.2.1 7, 7, refs f)) := by
    rw [tw_out (fun i hi => hA.ne (by decide) (by omega) (by omega))]
    exact f1
  have : FU = (FU - 8) + 8 := by unfold FU; omega
  rw [this, show (0 : Int32) = Int32.ofNat 0 from rfl]
  have e8 : f_X7_word_L36 (FU - 8 + 1) (some (A 0)) (Int32.ofNat 7) (tw A T h) = some (-4, tw A T h) := by
    unfold f_X7_word_L36
    rw [t_rX, aN_at e7, if_pos (by rw [of_le (by omega) (by omega)]; omega)]
  rw [t_w1 hA hW (k := 0) (by decide) hB h5 h4 hab hbl, t_w1 hA hW (k := 1) (by decide) hB h5 h4 hab hbl, t_w1 hA hW (k := 2) (by decide) hB h5 h4 hab hbl, t_w1 hA hW (k := 3) (by decide) hB h5 h4 hab hbl, t_w1 hA hW (k := 4) (by decide) hB h5 h4 hab hbl, t_w1 hA hW (k := 5) (by decide) hB h5 h4 hab hbl, t_w1 hA hW (k := 6) (by decide) hB h5 h4 hab hbl, e8]
  unfold wix
  split
  · rfl
  · split
    · rfl
    · split
      · rfl
      · split
        · rfl
        · split
          · rfl
          · split
            · rfl
            · split <;> rfl
theorem t_wordL (hA : TA A h) (hW : WRD A h) {a : Nat} : ∀ (f N : Nat) (T : TS) (p : Nat), BFT T bf len → q_sc T 4 = Int32.ofNat p → q_sc T 5 = Int32.ofNat a → a ≤ p → p ≤ len → len - p < f → f < N → f_X7_word_L4 N (some (A 0)) (tw A T h) = some (wnr (wix bf a (wds bf len f p - a)), tw A (x_sc T 4 (Int32.ofNat (wds bf len f p))) h) := by
  intro f
  induction f with
  | zero => intro N T p _ _ _ _ _ h1; omega
  | succ f ih =>
    intro N T p hB hp h5 hap hpl h1 h2
    have hl := hB.1
    have hB2 : ∀ i : Nat, i < len → bf i < 256 := fun i hi => (hB.2.2 i hi).2
    have k48 : ((97 : Int64)).toInt = ((97 : Nat) : Int) := by decide
    have k57 : ((122 : Int64)).toInt = ((122 : Nat) : Int) := by decide
    cases N with
    | zero => omega
    | succ N =>
      unfold f_X7_word_L4 wds
      rw [t_rv, cl_eq (t_here hA hB hp hpl), cl_eq t_in, k48, k57, Int32.toInt_toInt64]
      by_cases c : 97 ≤ hb bf len p ∧ hb bf len p ≤ 122
      · rw [if_pos ((hv_in hB2 (by decide)).mpr c), if_neg (show ¬ (1 : Int32) = 0 by decide), if_pos c, t_gI (by decide), t_pV hA (by decide), hp, show (1 : Int32) = Int32.ofNat 1 from rfl, of_add]
        have hlt : p < len := hb_lt (x := hb bf len p) rfl (by omega)
        rw [ih N (x_sc T 4 (Int32.ofNat (p + 1))) (p + 1) (hB.sc (by decide)) q_seq ((q_sne (by decide)).trans h5) (by omega) (by omega) (by omega) (by omega), x_scsc]
      · rw [if_neg (fun hx => c ((hv_in hB2 (by decide)).mp hx)), if_pos rfl, if_neg c, t_w7 hA hW hB h5 hp hap hpl, x4_self hp]
theorem t_word (hA : TA A h) (hW : WRD A h) {T : TS} {p : Nat} (hB : BFT T bf len) (hp : q_sc T 4 = Int32.ofNat p) (hpl : p ≤ len) : f_X7_word (some (A 0)) (tw A T h) = some (wnr (wix bf (sk bf len p) (wds bf len FL (sk bf len p) - sk bf len p)), tw A (x_sc (x_sc T 4 (Int32.ofNat (wds bf len FL (sk bf len p)))) 5 (Int32.ofNat (sk bf len p))) h) := by
  have hs := sk_le (bf := bf) hpl
  have hl := hB.1
  unfold f_X7_word
  rw [t_rv, cl_eq (t_looks hA hB hp hpl)]
  rw [t_wordL hA hW (a := sk bf len p) FL FU _ (sk bf len p) ((hB.sc (by decide)).sc (by decide)) ((q_sne (by decide)).trans q_seq) q_seq (Nat.le_refl _) hs.2 (by unfold FL; omega) (by unfold FL FU; omega), x_sc_comm (by decide), x_scsc]
end TWR
