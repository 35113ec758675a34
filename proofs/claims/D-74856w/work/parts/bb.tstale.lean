/-! THE TWIN's CALLS: plain getters, staleCaches -/
set_option maxRecDepth 100000
def stalesS (S : SS) : Int32 := (List.range (s_n S)).foldl (fun a k => a ||| (if staleS S k = 0 then 0 else (1 : Int32) <<< (Int32.ofNat k &&& 31))) 0
theorem or_zero {x : Int32} : x ||| 0 = x := by
  apply Int32.toBitVec_inj.mp
  simp
section TST
variable {A : Nat → Nat} {h : PH} {T : TS} {ex : Bool × Int32 × Int32} {S : SS} {L : List MG}
theorem cl_id {o : Option (Int32 × PH)} : cl_ o (fun v h => some (v, h)) = o := by
  cases o with
  | none => rfl
  | some b => rfl
theorem TC.wr {code ans : Int32} {S' : SS} {o : Option (Int32 × PH)} (hc : TC A T h ex code ans S' o) : TC A T h ex code ans S' (rv_ (tw A T h) (some (A 0)) 6 (cl_ o (fun v h => some (v, h)))) := by
  rw [t_rv, cl_id]
  exact hc
theorem t_version (hA : TA A h) (hr : TR ex S (L.map some) (q_w T)) {r : Nat} (hr8 : r < 8) : TC A T h ex 0 (s_ar S 1 r) S (f_X7_version (some (A 0)) (Int32.ofNat r) (tw A T h)) := by
  have := t_regCell hA hr (r := r) (b := 168) (x := 168) rfl (by decide) hr8
  rw [hr.1.2.2.1.2.1 r hr8] at this
  exact this.wr
theorem t_stored (hA : TA A h) (hex : ex.1 = true) (hr : TR ex S (L.map some) (q_w T)) {r : Nat} (hr8 : r < 8) : TC A T h ex 0 (s_ar S 0 r) S (f_X7_stored (some (A 0)) (Int32.ofNat r) (tw A T h)) := by
  have := t_regCell hA hr (r := r) (b := 160) (x := 160) rfl (by decide) hr8
  rw [hr.1.2.2.1.2.2 r hex hr8] at this
  exact this.wr
theorem t_staleL (hA : TA A h) (hex : ex.1 = true) (hT : TWb ex S (q_w T)) {i : Nat} (hi : i < s_n S) : ∀ (d r N : Nat) (x : Int32), r + d = 8 → d < N → (x = 0 ∨ x = 1) → f_X7_isStale_L4 N (some (A 0)) (Int32.ofNat i) x (Int32.ofNat r) (tw A T h) = some (staleL S i d r x, tw A T h) ∧ (staleL S i d r x = 0 ∨ staleL S i d r x = 1) := by
  intro d
  have h6 := hT.2.2.2.2.2.2
  induction d with
  | zero =>
    intro r N x h1 h2 hx
    cases N with
    | zero => omega
    | succ N =>
      refine ⟨?_, hx⟩
      unfold f_X7_isStale_L4 staleL
      rw [show (8 : Int32) = Int32.ofNat 8 from rfl, if_pos (by rw [of_le (by omega) (by omega)]; omega)]
      rcases hx with rfl | rfl
      · rw [rN_at nar01.1]
      · rw [rN_at nar01.2]
  | succ d ih =>
    intro r N x h1 h2 hx
    cases N with
    | zero => omega
    | succ N =>
      have nx : Int32.ofNat r + 1 = Int32.ofNat (r + 1) := by rw [show (1 : Int32) = Int32.ofNat 1 from rfl, of_add]
      have a11 := t_ofN (T := T) hA hT 11 11 rfl hi (by decide)
      rw [show tnd (s_nd S i) 11 = s_nd S i 9 from rfl] at a11
      have a12 : q_w T (40 + 20 * i + (12 + r)) = s_nd S i (30 + r) := by
        have := hT.2.1 i (12 + r) hi (by omega) (Or.inr hex)
        rw [tnd_hi (by omega), show 18 + (12 + r) = 30 + r from by omega] at this
        exact this
      have a60 : q_w T (160 + r) = s_ar S 0 r := hT.2.2.1.2.2 r hex (by omega)
      unfold f_X7_isStale_L4 f_X7_isStale_B51 f_X7_isStale_B55 f_X7_isStale_B56 staleL
      rw [show (8 : Int32) = Int32.ofNat 8 from rfl, if_neg (fun hy => by rw [of_le (by omega) (by omega)] at hy; omega), nx]
      rcases hx with rfl | rfl
      · rw [if_pos rfl, if_pos rfl, t_rv, cl_eq a11]
        by_cases c1 : ((s_nd S i 9 >>> (Int32.ofNat r &&& 31)) &&& (1 : Int32)) = 1
        · rw [if_pos c1, t_rv, cl_eq (t_of hA ((12 : Int32) + Int32.ofNat r) (12 + r) (by rw [show (12 : Int32) = Int32.ofNat 12 from rfl, of_add]) (by omega) (by omega)), a12, t_rW, t_aW hA _ (160 + r) (by rw [show (160 : Int32) = Int32.ofNat 160 from rfl, of_add]) (by omega), a60]
          by_cases c2 : s_nd S i (30 + r) = s_ar S 0 r
          · rw [if_pos c2, if_neg (fun hy => hy.2 c2)]
            exact ih (r + 1) N 0 (by omega) (by omega) (Or.inl rfl)
          · rw [if_neg c2, if_pos ⟨c1, c2⟩]
            exact ih (r + 1) N 1 (by omega) (by omega) (Or.inr rfl)
        · rw [if_neg c1, if_neg (fun hy => c1 hy.1)]
          exact ih (r + 1) N 0 (by omega) (by omega) (Or.inl rfl)
      · rw [if_neg (show ¬ (1 : Int32) = 0 by decide), if_neg (show ¬ (1 : Int32) = 0 by decide)]
        exact ih (r + 1) N 1 (by omega) (by omega) (Or.inr rfl)
theorem t_stalesL (hA : TA A h) (hex : ex.1 = true) (hT : TWb ex S (q_w T)) (hN : ∀ i : Nat, i < s_n S → NI (s_nd S i)) (hW : iv (now S) 0 5000000) : ∀ (d i N : Nat) (x : Int32), i + d = s_n S → d < N → f_X7_staleCaches_L9 N (some (A 0)) x (Int32.ofNat i) (tw A T h) = some (((List.range (s_n S)).drop i).foldl (fun a k => a ||| (if staleS S k = 0 then 0 else (1 : Int32) <<< (Int32.ofNat k &&& 31))) x, tw A T h) := by
  intro d
  have a2 : q_w T 2 = Int32.ofNat (s_n S) := hT.1.2.2.1
  have h6 := hT.2.2.2.2.2.2
  induction d with
  | zero =>
    intro i N x h1 h2
    cases N with
    | zero => omega
    | succ N =>
      unfold f_X7_staleCaches_L9
      rw [t_rW, t_aW hA 2 2 rfl (by decide), a2, if_pos (by rw [of_le (by omega) (by omega)]; omega), List.drop_of_length_le (by simp; omega), List.foldl_nil]
  | succ d ih =>
    intro i N x h1 h2
    cases N with
    | zero => omega
    | succ N =>
      have hi : i < s_n S := by omega
      rw [range_drop hi, List.foldl_cons]
      have nx : Int32.ofNat i + 1 = Int32.ofNat (i + 1) := by rw [show (1 : Int32) = Int32.ofNat 1 from rfl, of_add]
      have hs := (t_staleL hA hex hT hi 8 0 FU 0 (by omega) (by unfold FU; omega) (Or.inl rfl)).1
      have hs2 : f_X7_isStale (some (A 0)) (Int32.ofNat i) (tw A T h) = some (staleL S i 8 0 0, tw A T h) := hs
      unfold f_X7_staleCaches_L9 f_X7_staleCaches_B42 f_X7_staleCaches_B43
      rw [t_rW, t_aW hA 2 2 rfl (by decide), a2, if_neg (fun hy => by rw [of_le (by omega) (by omega)] at hy; omega), t_rv, cl_eq (t_leads hA hT (hN i hi) hW hi), nx]
      by_cases hl : leads S i (now S) = true
      · rw [if_pos hl, if_neg (show ¬ (1 : Int32) = 0 by decide), t_rv, cl_eq hs2]
        by_cases c : staleL S i 8 0 0 = 0
        · have e : staleS S i = 0 := by unfold staleS; rw [if_pos c]
          rw [if_pos c, ih (i + 1) N _ (by omega) (by omega), if_pos e]
        · have e : staleS S i = 1 := by unfold staleS; rw [if_neg c, if_pos hl]
          rw [if_neg c, ih (i + 1) N _ (by omega) (by omega), e, if_neg (show ¬ (1 : Int32) = 0 by decide)]
      · have e : staleS S i = 0 := by unfold staleS; rw [if_neg hl]; split <;> rfl
        rw [if_neg hl, if_pos rfl, ih (i + 1) N _ (by omega) (by omega), if_pos e]
theorem t_staleCaches (hA : TA A h) (hex : ex.1 = true) (hr : TR ex S (L.map some) (q_w T)) (hI : Inv S) : TC A T h ex 0 (stalesS S) S (f_X7_staleCaches (some (A 0)) (tw A T h)) := by
  have hr0 : TR ex S (L.map some) (q_w (x_sc T 1 0)) := hr
  have h6 := hI.2.2.1.2
  have := t_stalesL hA hex hr0.1 hI.2.1 hI.2.2.2.1.1 (s_n S) 0 FU 0 (by omega) (by unfold FU; omega)
  rw [List.drop_zero] at this
  unfold f_X7_staleCaches
  rw [t_pV hA (by decide), show f_X7_staleCaches_L9 FU (some (A 0)) 0 0 (tw A (x_sc T 1 0) h) = _ from this]
  exact TC_q hr
end TST
