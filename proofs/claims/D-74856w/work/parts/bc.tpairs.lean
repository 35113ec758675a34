/-! THE TWIN's CALLS: overtakingPairs -/
set_option maxRecDepth 100000
def triIn (S : SS) (ma : MG) (l : List MG) (x : Int32) : Int32 := l.foldl (fun x mb => x + (if arrS S ma ≤ arrS S mb then 0 else 1)) x
def tri (S : SS) : List MG → Int32 → Int32
  | [], x => x
  | ma :: l, x => tri S l (triIn S ma l x)
section TPR
variable {A : Nat → Nat} {h : PH} {T : TS} {ex : Bool × Int32 × Int32} {S : SS} {L : List MG}
theorem i_add0 {x : Int32} : x + 0 = x := by
  apply Int32.toBitVec_inj.mp
  simp
theorem pairIn_no {ma : MG} : ∀ (P : List MG) (x : Int32), (∀ mb ∈ P, ¬ ma.2.2.1 < mb.2.2.1) → pairIn S ma P x = x
  | [], x, _ => rfl
  | mb :: P, x, hP => by
    unfold pairIn
    rw [List.foldl_cons, if_neg (fun hy => hP mb (List.mem_cons_self ..) hy.1), i_add0]
    exact pairIn_no P x (fun m hm => hP m (List.mem_cons_of_mem _ hm))
theorem pairIn_yes {ma : MG} : ∀ (P : List MG) (x : Int32), (∀ mb ∈ P, ma.2.2.1 < mb.2.2.1) → pairIn S ma P x = triIn S ma P x
  | [], x, _ => rfl
  | mb :: P, x, hP => by
    have h1 := hP mb (List.mem_cons_self ..)
    have ih := fun y => pairIn_yes P y (fun m hm => hP m (List.mem_cons_of_mem _ hm))
    unfold pairIn triIn
    rw [List.foldl_cons, List.foldl_cons]
    by_cases c : arrS S ma ≤ arrS S mb
    · rw [if_pos c, if_neg (fun hy => by have := hy.2; rw [Int32.lt_iff_toInt_lt] at this; rw [Int32.le_iff_toInt_le] at c; omega)]
      exact ih _
    · rw [if_neg c, if_pos ⟨h1, by rw [Int32.lt_iff_toInt_lt]; rw [Int32.le_iff_toInt_le] at c; omega⟩]
      exact ih _
theorem pairIn_app {ma : MG} {P Q : List MG} {x : Int32} : pairIn S ma (P ++ Q) x = pairIn S ma Q (pairIn S ma P x) := List.foldl_append
theorem tri_eq : ∀ (l P : List MG) (x : Int32), (P ++ l).Pairwise (fun a b => sq a < sq b) → l.foldl (fun x ma => pairIn S ma (P ++ l) x) x = tri S l x
  | [], _, _, _ => rfl
  | ma :: l, P, x, hp => by
    have hp2 := List.pairwise_append.mp hp
    have e : pairIn S ma (P ++ ma :: l) x = triIn S ma l x := by
      rw [pairIn_app, pairIn_no P x (fun mb hb hy => by
        have := hp2.2.2 mb hb ma (List.mem_cons_self ..)
        unfold sq at this
        rw [Int32.lt_iff_toInt_lt] at hy
        omega)]
      have e1 : pairIn S ma (ma :: l) x = pairIn S ma l x := by
        unfold pairIn
        rw [List.foldl_cons, if_neg (fun hy => by have := hy.1; rw [Int32.lt_iff_toInt_lt] at this; omega), i_add0]
      rw [e1]
      refine pairIn_yes l x (fun mb hb => ?_)
      have := (List.pairwise_cons.mp hp2.2.1).1 mb hb
      unfold sq at this
      rw [Int32.lt_iff_toInt_lt]
      exact this
    have e2 : P ++ ma :: l = (P ++ [ma]) ++ l := by simp
    rw [List.foldl_cons, e]
    rw [e2] at hp ⊢
    rw [tri_eq l (P ++ [ma]) _ hp]
    rfl
theorem pairIn_add {ma : MG} : ∀ (P : List MG) (x y : Int32), pairIn S ma P (x + y) = x + pairIn S ma P y
  | [], x, y => rfl
  | mb :: P, x, y => by
    unfold pairIn
    rw [List.foldl_cons, List.foldl_cons, Int32.add_assoc]
    exact pairIn_add P x _
theorem pairIn_perm {ma : MG} {P Q : List MG} {x : Int32} (hp : P.Perm Q) : pairIn S ma P x = pairIn S ma Q x :=
  hp.foldl_eq' (fun a _ b _ z => by rw [Int32.add_assoc, Int32.add_assoc, Int32.add_comm (if ma.2.2.1 < a.2.2.1 ∧ arrS S a < arrS S ma then (1 : Int32) else 0)]) x
theorem pairs_tri (hp : L.Perm (s_ms S)) (hs : L.Pairwise (fun a b => sq a < sq b)) : pairsS S = tri S L 0 := by
  have e1 : pairsS S = (s_ms S).foldl (fun x ma => pairIn S ma L x) 0 := by
    unfold pairsS
    congr 1
    funext x ma
    exact (pairIn_perm hp).symm
  have com : ∀ (a b : MG) (z : Int32), pairIn S b L (pairIn S a L z) = pairIn S a L (pairIn S b L z) := fun a b z => by
    have f1 : ∀ (m : MG) (z : Int32), pairIn S m L z = z + pairIn S m L 0 := fun m z => by rw [← pairIn_add, i_add0]
    rw [f1 b (pairIn S a L z), f1 a z, f1 a (pairIn S b L z), f1 b z, Int32.add_assoc, Int32.add_assoc, Int32.add_comm (pairIn S a L 0)]
  rw [e1, ← hp.foldl_eq' (fun a _ b _ z => com a b z) 0]
  exact tri_eq L [] 0 hs
theorem t_comesAt (hA : TA A h) (hr : TR ex S (L.map some) (q_w T)) (hI : Inv S) {k : Nat} {m : MG} (hk : L[k]? = some m) : f_X7_comesAt (some (A 0)) (Int32.ofNat k) (tw A T h) = some (arrS S m, tw A T h) := by
  have hk2 : k < L.length := by
    rcases Nat.lt_or_ge k L.length with h1 | h1
    · exact h1
    · rw [List.getElem?_eq_none h1] at hk; exact absurd hk (by simp)
  have hl : L.length ≤ 12000 := by have := hr.2.1.2.1; rw [List.length_map] at this; exact this
  have hm0 : m ∈ L := List.mem_of_getElem? hk
  have hm : m ∈ s_ms S := by
    have := hr.2.2.1
    rw [show (L.map some).filterMap id = L from by simp] at this
    exact this.mem_iff.mp hm0
  have hMI := hI.2.2.2.2.1 m hm
  have hmi := hMI.1.2.1
  have hN := hI.2.1 _ hmi
  have tm : TWm ex k m (q_w T) := (hr.2.1.2.2 k).1 m (by rw [List.getElem?_map, hk]; rfl)
  have c1 : q_w T (1136 + 6 * k + 1) = Int32.ofNat m.2.1 := by rw [← tm.2.1]; congr 1; omega
  have c2 : q_w T (1136 + 6 * k + 2) = m.2.2.2.2.2.2 := by rw [← tm.2.2.1]; congr 1; omega
  unfold f_X7_comesAt f_X7_comesAt_B57 arrS
  rw [t_rW, t_aW hA _ _ ix60 (by omega), tm.1, t_rv, cl_eq (t_toNode hMI.1.1)]
  by_cases ct : toNode m.1 = true
  · rw [if_pos ct, if_neg (show ¬ (1 : Int32) = 0 by decide), t_rW, t_aW hA _ _ (ix6 (x := 2) (c := 2) rfl) (by omega), c2, t_rW, t_aW hA _ _ (ix6 (x := 1) (c := 1) rfl) (by omega), c1, t_rv, cl_eq (t_ofN hA hr.1 4 4 rfl hmi (by decide)), show tnd (s_nd S m.2.1) 4 = s_nd S m.2.1 5 from rfl]
    by_cases cp : paused S m.2.1 (now S) = true
    · rw [if_pos (show toNode m.1 = true ∧ paused S m.2.1 (now S) = true from ⟨ct, cp⟩)]
      rfl
    · rw [if_neg (show ¬ (toNode m.1 = true ∧ paused S m.2.1 (now S) = true) from fun hy => cp hy.2)]
      have : ¬ m.2.2.2.2.2.2 < s_nd S m.2.1 5 := fun hy => by
        apply cp
        rw [Int32.lt_iff_toInt_lt] at hy
        have h1 := hMI.2.2.2.2.1
        have h0 := hI.2.2.2.1.1.1
        unfold paused
        have n2 : s_nd S m.2.1 2 ≠ 0 := fun e => by
          have := hN.2.2.2.2.2.2.2.1 e
          rw [this, show ((0 : Int32)).toInt = 0 from by decide] at hy
          omega
        simp only [Bool.and_eq_true, bne_iff_ne, decide_eq_true_eq]
        exact ⟨n2, by rw [Int32.lt_iff_toInt_lt]; omega⟩
      rw [if_neg this]
  · rw [if_neg ct, if_pos rfl, t_rW, t_aW hA _ _ (ix6 (x := 2) (c := 2) rfl) (by omega), c2, if_neg (fun hy => ct hy.1)]
theorem t_prIn (hA : TA A h) (hr : TR ex S (L.map some) (q_w T)) (hI : Inv S) {k9 : Option Nat → Int32 → Int32 → PH → Option (Int32 × PH)} {i : Nat} {ma : MG} (hi : L[i]? = some ma) : ∀ (d j N : Nat) (x : Int32), j + d = L.length → d < N → f_X7_overtakingPairs_L24 k9 N (some (A 0)) x (Int32.ofNat i) (Int32.ofNat j) (tw A T h) = k9 (some (A 0)) (triIn S ma (L.drop j) x) (Int32.ofNat (i + 1)) (tw A T h) := by
  intro d
  have hl : L.length ≤ 12000 := by have := hr.2.1.2.1; rw [List.length_map] at this; exact this
  have a20 : q_w T 20 = Int32.ofNat L.length := by have := hr.2.1.1; rw [List.length_map] at this; exact this
  have nx : ∀ k : Nat, Int32.ofNat k + 1 = Int32.ofNat (k + 1) := fun k => by rw [show (1 : Int32) = Int32.ofNat 1 from rfl, of_add]
  induction d with
  | zero =>
    intro j N x h1 h2
    cases N with
    | zero => omega
    | succ N =>
      unfold f_X7_overtakingPairs_L24
      rw [t_rW, t_aW hA 20 20 rfl (by decide), a20, if_pos (by rw [of_le (by omega) (by omega)]; omega), List.drop_of_length_le (by omega), nx]
      rfl
  | succ d ih =>
    intro j N x h1 h2
    cases N with
    | zero => omega
    | succ N =>
      have hj : j < L.length := by omega
      obtain ⟨mb, hb⟩ : ∃ mb, L[j]? = some mb := ⟨_, List.getElem?_eq_getElem hj⟩
      have hd : L.drop j = mb :: L.drop (j + 1) := by
        rw [List.drop_eq_getElem_cons hj]
        rw [List.getElem?_eq_getElem hj] at hb
        rw [Option.some.inj hb]
      unfold f_X7_overtakingPairs_L24 f_X7_overtakingPairs_B54 triIn
      rw [hd, List.foldl_cons, t_rW, t_aW hA 20 20 rfl (by decide), a20, if_neg (fun hy => by rw [of_le (by omega) (by omega)] at hy; omega), t_rv, cl_eq (t_comesAt hA hr hI hb), t_rv, cl_eq (t_comesAt hA hr hI hi), nx]
      by_cases c : arrS S ma ≤ arrS S mb
      · rw [if_pos c, ih (j + 1) N _ (by omega) (by omega), if_pos c]
        rfl
      · rw [if_neg c, ih (j + 1) N _ (by omega) (by omega), if_neg c]
        rfl
theorem t_prL (hA : TA A h) (hr : TR ex S (L.map some) (q_w T)) (hI : Inv S) : ∀ (d i N : Nat) (x : Int32), i + d = L.length → d < N → f_X7_overtakingPairs_L9 N (some (A 0)) x (Int32.ofNat i) (tw A T h) = some (tri S (L.drop i) x, tw A T h) := by
  intro d
  have hl : L.length ≤ 12000 := by have := hr.2.1.2.1; rw [List.length_map] at this; exact this
  have a20 : q_w T 20 = Int32.ofNat L.length := by have := hr.2.1.1; rw [List.length_map] at this; exact this
  have nx : ∀ k : Nat, Int32.ofNat k + 1 = Int32.ofNat (k + 1) := fun k => by rw [show (1 : Int32) = Int32.ofNat 1 from rfl, of_add]
  induction d with
  | zero =>
    intro i N x h1 h2
    cases N with
    | zero => omega
    | succ N =>
      unfold f_X7_overtakingPairs_L9
      rw [t_rW, t_aW hA 20 20 rfl (by decide), a20, if_pos (by rw [of_le (by omega) (by omega)]; omega), List.drop_of_length_le (by omega)]
      rfl
  | succ d ih =>
    intro i N x h1 h2
    cases N with
    | zero => omega
    | succ N =>
      have hi : i < L.length := by omega
      obtain ⟨ma, hb⟩ : ∃ ma, L[i]? = some ma := ⟨_, List.getElem?_eq_getElem hi⟩
      have hd : L.drop i = ma :: L.drop (i + 1) := by
        rw [List.drop_eq_getElem_cons hi]
        rw [List.getElem?_eq_getElem hi] at hb
        rw [Option.some.inj hb]
      unfold f_X7_overtakingPairs_L9
      rw [hd, t_rW, t_aW hA 20 20 rfl (by decide), a20, if_neg (fun hy => by rw [of_le (by omega) (by omega)] at hy; omega), nx, t_prIn hA hr hI hb (L.length - (i + 1)) (i + 1) FU x (by omega) (by unfold FU; omega), ih (i + 1) N _ (by omega) (by omega)]
      rfl
theorem t_pairs (hA : TA A h) (hr : TR ex S (L.map some) (q_w T)) (hI : Inv S) : TC A T h ex 0 (pairsS S) S (f_X7_overtakingPairs (some (A 0)) (tw A T h)) := by
  have hr0 : TR ex S (L.map some) (q_w (x_sc T 1 0)) := hr
  have hl : L.length ≤ 12000 := by have := hr.2.1.2.1; rw [List.length_map] at this; exact this
  have e : (L.map some).filterMap id = L := by simp
  have hp := hr.2.2.1
  have hs := hr.2.2.2
  rw [e] at hp hs
  have := t_prL hA hr0 hI L.length 0 FU 0 (by omega) (by unfold FU; omega)
  rw [List.drop_zero, ← pairs_tri hp hs] at this
  unfold f_X7_overtakingPairs
  rw [t_pV hA (by decide), show f_X7_overtakingPairs_L9 FU (some (A 0)) 0 0 (tw A (x_sc T 1 0) h) = _ from this]
  exact TC_q hr
end TPR
