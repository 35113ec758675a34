/-! THE TWIN's CALLS: countInLog, lastEventTime, smallestBound -/
set_option maxRecDepth 100000
def cntS (S : SS) (k nd : Int32) : Int32 := (s_lg S).foldl (fun a e => a + (if e.2.1 = k ∧ e.2.2.1 = nd then 1 else 0)) 0
def lastT (S : SS) (k : Int32) : Nat → Int32
  | 0 => -4
  | j + 1 => if ((s_lg S).getD j (0, 0, 0, 0)).2.1 = k then ((s_lg S).getD j (0, 0, 0, 0)).1 else lastT S k j
def ab_ (x : Int32) : Int32 := if 0 ≤ x then x else 0 - x
def bndS (S : SS) : Int32 := (List.range (s_n S)).foldl (fun a k => if a < ab_ (s_nd S k 20 - 1000) then ab_ (s_nd S k 20 - 1000) else a) (ab_ (s_cf S 0 - 1000))
section TCN
variable {A : Nat → Nat} {h : PH} {T : TS} {ex : Bool × Int32 × Int32} {S : SS} {L : List MG}
theorem t_cntL (hA : TA A h) (hT : TWb ex S (q_w T)) {k nd : Int32} : ∀ (d i N : Nat) (x : Int32), i + d = (s_lg S).length → d < N → f_X7_countInLog_L70 N (some (A 0)) k nd x (Int32.ofNat i) (tw A T h) = some (((s_lg S).drop i).foldl (fun a e => a + (if e.2.1 = k ∧ e.2.2.1 = nd then 1 else 0)) x, tw A T h) := by
  intro d
  have a22 : q_w T 22 = Int32.ofNat (s_lg S).length := hT.1.2.2.2.2.2.2.2.2.2.2.2.2.2.2.2.2.2.2.2.2.1
  have hl : (s_lg S).length ≤ 200 := hT.2.2.2.2.2.1.1
  induction d with
  | zero =>
    intro i N x h1 h2
    cases N with
    | zero => omega
    | succ N =>
      unfold f_X7_countInLog_L70
      rw [t_rW, t_aW hA 22 22 rfl (by decide), a22, if_pos (by rw [of_le (by omega) (by omega)]; omega), List.drop_of_length_le (by omega), List.foldl_nil]
  | succ d ih =>
    intro i N x h1 h2
    cases N with
    | zero => omega
    | succ N =>
      have hi : i < (s_lg S).length := by omega
      obtain ⟨e, he⟩ : ∃ e, (s_lg S)[i]? = some e := ⟨_, List.getElem?_eq_getElem hi⟩
      have hd : (s_lg S).drop i = e :: (s_lg S).drop (i + 1) := by
        rw [List.drop_eq_getElem_cons hi]
        rw [List.getElem?_eq_getElem hi] at he
        rw [Option.some.inj he]
      have he2 := hT.2.2.2.2.2.1.2 i e he
      have e1 : q_w T (336 + 4 * i + 1) = e.2.1 := by rw [← he2.2.1]; congr 1; omega
      have e2 : q_w T (336 + 4 * i + 2) = e.2.2.1 := by rw [← he2.2.2.1]; congr 1; omega
      rw [hd, List.foldl_cons]
      have nx : Int32.ofNat i + 1 = Int32.ofNat (i + 1) := by rw [show (1 : Int32) = Int32.ofNat 1 from rfl, of_add]
      unfold f_X7_countInLog_L70 f_X7_countInLog_B125 f_X7_countInLog_B126
      rw [t_rW, t_aW hA 22 22 rfl (by decide), a22, if_neg (fun hy => by rw [of_le (by omega) (by omega)] at hy; omega), t_rW, t_aW hA _ _ (ix4 (x := 1) (c := 1) rfl) (by omega), e1, nx]
      by_cases c1 : e.2.1 = k
      · rw [if_pos c1, t_rW, t_aW hA _ _ (ix4 (x := 2) (c := 2) rfl) (by omega), e2]
        by_cases c2 : e.2.2.1 = nd
        · rw [if_pos c2, ih (i + 1) N _ (by omega) (by omega), if_pos ⟨c1, c2⟩]
        · rw [if_neg c2, ih (i + 1) N _ (by omega) (by omega), if_neg (fun hy => c2 hy.2)]
      · rw [if_neg c1, ih (i + 1) N _ (by omega) (by omega), if_neg (fun hy => c1 hy.1)]
theorem t_lastL (hA : TA A h) (hT : TWb ex S (q_w T)) {k : Int32} : ∀ (j N : Nat) (x : Int32), x.toInt = (j : Int) - 1 → j ≤ (s_lg S).length → j < N → f_X7_lastEventTime_L42 N (some (A 0)) k x (tw A T h) = some (lastT S k j, tw A T h) := by
  intro j
  have hl : (s_lg S).length ≤ 200 := hT.2.2.2.2.2.1.1
  have z0 : ((0 : Int32)).toInt = 0 := by decide
  have k1 : ((-1 : Int32)).toInt = -1 := by decide
  induction j with
  | zero =>
    intro N x hx hj hN
    cases N with
    | zero => omega
    | succ N =>
      have hlt : x < 0 := by rw [Int32.lt_iff_toInt_lt, z0]; omega
      unfold f_X7_lastEventTime_L42 f_X7_lastEventTime_B70 f_X7_lastEventTime_B91
      rw [if_pos hlt, if_neg (show ¬ (0 : Int32) ≤ x from fun hy => by rw [Int32.le_iff_toInt_le, z0] at hy; omega)]
      rfl
  | succ j ih =>
    intro N x hx hj hN
    cases N with
    | zero => omega
    | succ N =>
      have hi : j < (s_lg S).length := by omega
      have ex' : x = Int32.ofNat j := by
        apply Int32.toInt.inj
        rw [Int32.toInt_ofNat_of_lt (by omega)]
        omega
      obtain ⟨e, he⟩ : ∃ e, (s_lg S)[j]? = some e := ⟨_, List.getElem?_eq_getElem hi⟩
      have he2 := hT.2.2.2.2.2.1.2 j e he
      have e1 : q_w T (336 + 4 * j + 1) = e.2.1 := by rw [← he2.2.1]; congr 1; omega
      have eg : (s_lg S).getD j (0, 0, 0, 0) = e := by rw [List.getD_eq_getElem?_getD, he]; rfl
      have nlt : ¬ x < 0 := fun hy => by rw [Int32.lt_iff_toInt_lt, z0] at hy; omega
      have nle : (0 : Int32) ≤ x := by rw [Int32.le_iff_toInt_le, z0]; omega
      have hx2 : (x + (-1 : Int32)).toInt = (j : Int) - 1 := by
        rw [i_add (by rw [k1]; omega) (by rw [k1]; omega), k1]
        omega
      unfold f_X7_lastEventTime_L42 f_X7_lastEventTime_B70 f_X7_lastEventTime_B91 lastT
      rw [if_neg nlt, if_pos nle, eg]
      by_cases c1 : e.2.1 = k
      · rw [t_rW, ex', t_aW hA _ _ (ix4 (x := 1) (c := 1) rfl) (by omega), e1, if_pos c1, if_pos c1, t_rW, t_aW hA _ _ ix40 (by omega), he2.1]
      · have := ih N _ hx2 (by omega) (by omega)
        rw [t_rW, ex', t_aW hA _ _ (ix4 (x := 1) (c := 1) rfl) (by omega), e1, if_neg c1, if_neg c1, ← ex', this]
theorem t_bndL (hA : TA A h) (hT : TWb ex S (q_w T)) : ∀ (d i N : Nat) (x : Int32), i + d = s_n S → d < N → f_X7_smallestBound_L21 N (some (A 0)) x (Int32.ofNat i) (tw A T h) = some (((List.range (s_n S)).drop i).foldl (fun a k => if a < ab_ (s_nd S k 20 - 1000) then ab_ (s_nd S k 20 - 1000) else a) x, tw A T h) := by
  intro d
  have a2 : q_w T 2 = Int32.ofNat (s_n S) := hT.1.2.2.1
  have h6 := hT.2.2.2.2.2.2
  induction d with
  | zero =>
    intro i N x h1 h2
    cases N with
    | zero => omega
    | succ N =>
      unfold f_X7_smallestBound_L21
      rw [t_rW, t_aW hA 2 2 rfl (by decide), a2, if_pos (by rw [of_le (by omega) (by omega)]; omega), List.drop_of_length_le (by simp; omega), List.foldl_nil]
  | succ d ih =>
    intro i N x h1 h2
    cases N with
    | zero => omega
    | succ N =>
      have hi : i < s_n S := by omega
      rw [range_drop hi, List.foldl_cons]
      have nx : Int32.ofNat i + 1 = Int32.ofNat (i + 1) := by rw [show (1 : Int32) = Int32.ofNat 1 from rfl, of_add]
      unfold f_X7_smallestBound_L21
      rw [t_rW, t_aW hA 2 2 rfl (by decide), a2, if_neg (fun hy => by rw [of_le (by omega) (by omega)] at hy; omega), t_rv, cl_eq (t_ofN hA hT 0 0 rfl hi (by decide)), nx, ih (i + 1) N _ (by omega) (by omega)]
      rfl
theorem t_smallestBound (hA : TA A h) (hr : TR ex S (L.map some) (q_w T)) : TC A T h ex 0 (bndS S) S (f_X7_smallestBound (some (A 0)) (tw A T h)) := by
  have hr0 : TR ex S (L.map some) (q_w (x_sc T 1 0)) := hr
  have h6 := hr.1.2.2.2.2.2.2
  have a3 : q_w T 3 = s_cf S 0 := hr.1.1.2.2.2.1
  have := t_bndL hA hr0.1 (s_n S) 0 FU (ab_ (s_cf S 0 - 1000)) (by omega) (by unfold FU; omega)
  rw [List.drop_zero] at this
  unfold f_X7_smallestBound
  rw [t_pV hA (by decide), t_rW, t_aW hA 3 3 rfl (by decide), q_wsc, a3]
  rw [show f_X7_smallestBound_L21 FU (some (A 0)) (if 0 ≤ s_cf S 0 - 1000 then s_cf S 0 - 1000 else 0 - (s_cf S 0 - 1000)) 0 (tw A (x_sc T 1 0) h) = _ from this]
  exact TC_q hr
theorem t_lastEventTime (hA : TA A h) (hr : TR ex S (L.map some) (q_w T)) {p : Int32} (hp : iv p 1 8) : TC A T h ex 0 (lastT S p (s_lg S).length) S (f_X7_lastEventTime (some (A 0)) p (tw A T h)) := by
  have hr0 : TR ex S (L.map some) (q_w (x_sc T 1 0)) := hr
  have a22 : q_w T 22 = Int32.ofNat (s_lg S).length := hr.1.1.2.2.2.2.2.2.2.2.2.2.2.2.2.2.2.2.2.2.2.2.1
  have hl : (s_lg S).length ≤ 200 := hr.1.2.2.2.2.2.1.1
  have e1 : ((1 : Int64)).toInt = 1 := by decide
  have e8 : ((8 : Int64)).toInt = 8 := by decide
  have k1 : ((1 : Int32)).toInt = 1 := by decide
  have el : (Int32.ofNat (s_lg S).length).toInt = (s_lg S).length := Int32.toInt_ofNat_of_lt (by omega)
  have en : (Int32.ofNat (s_lg S).length - 1).toInt = ((s_lg S).length : Int) - 1 := by rw [i_sub (by rw [el, k1]; omega) (by rw [el, k1]; omega), el, k1]
  unfold f_X7_lastEventTime f_X7_lastEventTime_B23
  rw [t_pV hA (by decide), cl_eq t_in, e1, e8, Int32.toInt_toInt64, if_pos (show 1 ≤ p.toInt ∧ p.toInt ≤ 8 from hp), if_neg (show ¬ (1 : Int32) = 0 by decide), t_rv, cl_eq (t_throws0 rfl q10), if_pos rfl, t_rW, t_aW hA 22 22 rfl (by decide), q_wsc, a22, t_lastL hA hr0.1 (s_lg S).length FU _ en (by omega) (by unfold FU; omega)]
  exact TC_q hr
theorem t_lastEventTime1 (hA : TA A h) (hr : TR ex S (L.map some) (q_w T)) {p : Int32} (hp : ¬ iv p 1 8) : TC A T h ex 1 0 S (f_X7_lastEventTime (some (A 0)) p (tw A T h)) := by
  have e1 : ((1 : Int64)).toInt = 1 := by decide
  have e8 : ((8 : Int64)).toInt = 8 := by decide
  unfold f_X7_lastEventTime f_X7_lastEventTime_B23
  rw [t_pV hA (by decide), cl_eq t_in, e1, e8, Int32.toInt_toInt64, if_neg (show ¬ (1 ≤ p.toInt ∧ p.toInt ≤ 8) from hp), if_pos rfl, t_rv, cl_eq (t_throws1 hA (by decide) (by decide) q10), if_neg (show ¬ (1 : Int32) = 0 by decide), x_scsc]
  exact TC_q hr
theorem t_countInLog (hA : TA A h) (hr : TR ex S (L.map some) (q_w T)) (hn : 1 ≤ s_n S) {k p : Int32} : (¬ (p = -1 ∨ isNd S p) → TC A T h ex 1 0 S (f_X7_countInLog (some (A 0)) k p (tw A T h))) ∧ ((p = -1 ∨ isNd S p) → (¬ iv k 1 8 → TC A T h ex 2 0 S (f_X7_countInLog (some (A 0)) k p (tw A T h))) ∧ (iv k 1 8 → TC A T h ex 0 (cntS S k p) S (f_X7_countInLog (some (A 0)) k p (tw A T h)))) := by
  have hr0 : TR ex S (L.map some) (q_w (x_sc T 1 0)) := hr
  have h6 := hr.1.2.2.2.2.2.2
  have a2 : q_w T 2 = Int32.ofNat (s_n S) := hr.1.1.2.2.1
  have hl : (s_lg S).length ≤ 200 := hr.1.2.2.2.2.2.1.1
  have e1 : ((1 : Int64)).toInt = 1 := by decide
  have e8 : ((8 : Int64)).toInt = 8 := by decide
  have em : ((-1 : Int64)).toInt = -1 := by decide
  have km : ((-1 : Int32)).toInt = -1 := by decide
  have k1 : ((1 : Int32)).toInt = 1 := by decide
  have el : (Int32.ofNat (s_n S)).toInt = s_n S := Int32.toInt_ofNat_of_lt (by omega)
  have en : (Int32.ofNat (s_n S) - 1).toInt = (s_n S : Int) - 1 := by rw [i_sub (by rw [el, k1]; omega) (by rw [el, k1]; omega), el, k1]
  have hc : (p = -1 ∨ isNd S p) ↔ (-1 ≤ p.toInt ∧ p.toInt ≤ (s_n S : Int) - 1) := by
    unfold isNd
    constructor
    · rintro (rfl | h2)
      · rw [km]; omega
      · omega
    · intro h2
      by_cases h3 : p.toInt = -1
      · exact Or.inl (Int32.toInt.inj (h3.trans km.symm))
      · exact Or.inr ⟨by omega, h2.2⟩
  have hcn := t_cntL hA hr0.1 (k := k) (nd := p) (s_lg S).length 0 FU 0 (by omega) (by unfold FU; omega)
  rw [List.drop_zero] at hcn
  unfold f_X7_countInLog f_X7_countInLog_B31 f_X7_countInLog_B56
  rw [t_pV hA (by decide), t_rW, t_aW hA 2 2 rfl (by decide), q_wsc, a2, cl_eq t_in, em, Int32.toInt_toInt64, Int32.toInt_toInt64, en]
  refine ⟨fun hb => ?_, fun hg => ?_⟩
  · rw [if_neg (fun hy => hb (hc.mpr hy)), if_pos rfl, t_rv, cl_eq (t_throws1 hA (by decide) (by decide) q10), if_neg (show ¬ (1 : Int32) = 0 by decide), x_scsc]
    exact TC_q hr
  · rw [if_pos (hc.mp hg), if_neg (show ¬ (1 : Int32) = 0 by decide), t_rv, cl_eq (t_throws0 rfl q10), if_pos rfl, cl_eq t_in, e1, e8, Int32.toInt_toInt64]
    refine ⟨fun hb => ?_, fun hk => ?_⟩
    · rw [if_neg (show ¬ (1 ≤ k.toInt ∧ k.toInt ≤ 8) from hb), if_pos rfl, t_rv, cl_eq (t_throws1 hA (by decide) (by decide) q10), if_neg (show ¬ (1 : Int32) = 0 by decide), x_scsc]
      exact TC_q hr
    · rw [if_pos (show 1 ≤ k.toInt ∧ k.toInt ≤ 8 from hk), if_neg (show ¬ (1 : Int32) = 0 by decide), t_rv, cl_eq (t_throws0 rfl q10), if_pos rfl, show f_X7_countInLog_L70 FU (some (A 0)) k p 0 0 (tw A (x_sc T 1 0) h) = _ from hcn]
      exact TC_q hr
end TCN
