/-! THE TWIN: outages, delayed writes -/
set_option maxRecDepth 100000
section TOD
variable {A : Nat → Nat} {T : TS} {h : PH} {ex : Bool × Int32 × Int32} {S S' : SS} {Pl : List (Option MG)} {w w' : Nat → Int32}
theorem TWb.ou {l : List OG} (hT : TWb ex S w) (hw : ∀ p : Nat, p ≠ 35 → ¬ (176 ≤ p ∧ p < 236) → w' p = w p) (h35 : w' 35 = Int32.ofNat l.length) (hl : l.length ≤ 20) (hr : ∀ (k : Nat) (o : OG), l[k]? = some o → w' (176 + 3 * k) = o.2.1 ∧ w' (177 + 3 * k) = o.2.2 ∧ w' (178 + 3 * k) = Int32.ofNat o.1) : TWb ex (u_ou S l) w' := by
  obtain ⟨h1, h2, h3, h4, h5, h6, h7⟩ := hT
  refine ⟨?_, fun i c hi hc he => ?_, ⟨fun k hk => ?_, fun r hr => ?_, fun r he hr => ?_⟩, ⟨hl, hr⟩, ⟨h5.1, fun k d hk => ?_⟩, ⟨h6.1, fun k e hk => ?_⟩, h7⟩
  · unfold TWs at h1 ⊢
    have u : ∀ j : Nat, j < 24 ∨ j = 33 ∨ j = 34 → w' j = w j := fun j hj => hw j (by omega) (by omega)
    rw [u 0 (by decide), u 1 (by decide), u 2 (by decide), u 3 (by decide), u 4 (by decide), u 5 (by decide), u 6 (by decide), u 7 (by decide), u 8 (by decide), u 9 (by decide), u 10 (by decide), u 11 (by decide), u 12 (by decide), u 13 (by decide), u 14 (by decide), u 16 (by decide), u 17 (by decide), u 18 (by decide), u 19 (by decide), u 21 (by decide), u 22 (by decide), u 23 (by decide), u 33 (by decide), u 34 (by decide)]
    obtain ⟨a0, a1, a2, a3, a4, a5, a6, a7, a8, a9, a10, a11, a12, a13, a14, a15, a16, a17, a18, a19, a20, a21, a22⟩ := h1
    exact ⟨a0, a1, a2, a3, a4, a5, a6, a7, a8, a9, a10, a11, a12, a13, a14, a15, a16, a17, a18, a19, a20, a21, h35, a22.2⟩
  · have hi' : i < s_n S := hi
    rw [hw _ (by omega) (by omega)]; exact h2 i c hi hc he
  · rw [hw _ (by omega) (by omega)]; exact h3.1 k hk
  · rw [hw _ (by omega) (by omega)]; exact h3.2.1 r hr
  · rw [hw _ (by omega) (by omega)]; exact h3.2.2 r he hr
  · rw [hw _ (by omega) (by omega), hw _ (by omega) (by omega), hw _ (by omega) (by omega), hw _ (by omega) (by omega), hw _ (by omega) (by omega)]; exact h5.2 k d hk
  · rw [hw _ (by omega) (by omega), hw _ (by omega) (by omega), hw _ (by omega) (by omega), hw _ (by omega) (by omega)]; exact h6.2 k e hk
theorem TWb.dl {l : List DG} (hT : TWb ex S w) (hw : ∀ p : Nat, p ≠ 21 → ¬ (236 ≤ p ∧ p < 336) → w' p = w p) (h21 : w' 21 = Int32.ofNat l.length) (hl : l.length ≤ 20) (hr : ∀ (k : Nat) (d : DG), l[k]? = some d → w' (236 + 5 * k) = d.2.2.2.2 ∧ w' (237 + 5 * k) = Int32.ofNat d.1 ∧ w' (238 + 5 * k) = d.2.1 ∧ w' (239 + 5 * k) = Int32.ofNat d.2.2.1 ∧ w' (240 + 5 * k) = d.2.2.2.1) : TWb ex (u_dl S l) w' := by
  obtain ⟨h1, h2, h3, h4, h5, h6, h7⟩ := hT
  refine ⟨?_, fun i c hi hc he => ?_, ⟨fun k hk => ?_, fun r hr => ?_, fun r he hr => ?_⟩, ⟨h4.1, fun k o hk => ?_⟩, ⟨hl, hr⟩, ⟨h6.1, fun k e hk => ?_⟩, h7⟩
  · unfold TWs at h1 ⊢
    have u : ∀ j : Nat, j < 21 ∨ j = 22 ∨ j = 23 ∨ j = 33 ∨ j = 34 ∨ j = 35 → w' j = w j := fun j hj => hw j (by omega) (by omega)
    rw [u 0 (by decide), u 1 (by decide), u 2 (by decide), u 3 (by decide), u 4 (by decide), u 5 (by decide), u 6 (by decide), u 7 (by decide), u 8 (by decide), u 9 (by decide), u 10 (by decide), u 11 (by decide), u 12 (by decide), u 13 (by decide), u 14 (by decide), u 16 (by decide), u 17 (by decide), u 18 (by decide), u 19 (by decide), u 22 (by decide), u 23 (by decide), u 35 (by decide), u 33 (by decide), u 34 (by decide)]
    obtain ⟨a0, a1, a2, a3, a4, a5, a6, a7, a8, a9, a10, a11, a12, a13, a14, a15, a16, a17, a18, a19, a20, a21, a22⟩ := h1
    exact ⟨a0, a1, a2, a3, a4, a5, a6, a7, a8, a9, a10, a11, a12, a13, a14, a15, a16, a17, a18, h21, a20, a21, a22⟩
  · have hi' : i < s_n S := hi
    rw [hw _ (by omega) (by omega)]; exact h2 i c hi hc he
  · rw [hw _ (by omega) (by omega)]; exact h3.1 k hk
  · rw [hw _ (by omega) (by omega)]; exact h3.2.1 r hr
  · rw [hw _ (by omega) (by omega)]; exact h3.2.2 r he hr
  · have t : k < (s_ou S).length := (List.getElem?_eq_some_iff.mp hk).1
    have l4 : (s_ou S).length ≤ 20 := h4.1
    rw [hw _ (by omega) (by omega), hw _ (by omega) (by omega), hw _ (by omega) (by omega)]; exact h4.2 k o hk
  · rw [hw _ (by omega) (by omega), hw _ (by omega) (by omega), hw _ (by omega) (by omega), hw _ (by omega) (by omega)]; exact h6.2 k e hk
theorem ix3 {n c : Nat} {x : Int32} (hx : x = Int32.ofNat c) : ((176 : Int32) + ((3 : Int32) * Int32.ofNat n)) + x = Int32.ofNat (176 + 3 * n + c) := by
  subst hx
  rw [show (176 : Int32) = Int32.ofNat 176 from rfl, show (3 : Int32) = Int32.ofNat 3 from rfl, ofm, of_add, of_add]
theorem ix30 {n : Nat} : ((176 : Int32) + ((3 : Int32) * Int32.ofNat n)) = Int32.ofNat (176 + 3 * n) := by
  rw [show (176 : Int32) = Int32.ofNat 176 from rfl, show (3 : Int32) = Int32.ofNat 3 from rfl, ofm, of_add]
theorem ix5 {n c : Nat} {x : Int32} (hx : x = Int32.ofNat c) : ((236 : Int32) + ((5 : Int32) * Int32.ofNat n)) + x = Int32.ofNat (236 + 5 * n + c) := by
  subst hx
  rw [show (236 : Int32) = Int32.ofNat 236 from rfl, show (5 : Int32) = Int32.ofNat 5 from rfl, ofm, of_add, of_add]
theorem ix50 {n : Nat} : ((236 : Int32) + ((5 : Int32) * Int32.ofNat n)) = Int32.ofNat (236 + 5 * n) := by
  rw [show (236 : Int32) = Int32.ofNat 236 from rfl, show (5 : Int32) = Int32.ofNat 5 from rfl, ofm, of_add]
theorem t_endL (hA : TA A h) {len : Nat} (h1 : 1 ≤ len) (h2 : len ≤ 20) : ∀ (d i N : Nat) (T : TS), i + d = 176 + 3 * (len - 1) → 176 ≤ i → d < N → q_w T 35 = Int32.ofNat len → f_X7_endsOutage_L8 N (some (A 0)) (Int32.ofNat i) (tw A T h) = some ((), tw A (x_w T (upd (shf (q_w T) i (176 + 3 * (len - 1)) 3) 35 (Int32.ofNat (len - 1)))) h) := by
  intro d
  have e1 : Int32.ofNat len - 1 = Int32.ofNat (len - 1) := by rw [show (1 : Int32) = Int32.ofNat 1 from rfl, of_sub h1]
  induction d with
  | zero =>
    intro i N T g1 g2 g3 g4
    cases N with
    | zero => omega
    | succ N =>
      unfold f_X7_endsOutage_L8
      rw [t_rW, t_aW hA 35 35 rfl (by decide), g4, e1, ix30, if_pos (by rw [of_le (by omega) (by omega)]; omega), t_rW, t_aW hA 35 35 rfl (by decide), g4, e1, t_sW hA 35 35 rfl (by decide)]
      rw [show i = 176 + 3 * (len - 1) from by omega, shf_end]
  | succ d ih =>
    intro i N T g1 g2 g3 g4
    cases N with
    | zero => omega
    | succ N =>
      unfold f_X7_endsOutage_L8
      rw [t_rW, t_aW hA 35 35 rfl (by decide), g4, e1, ix30, if_neg (fun hy => by rw [of_le (by omega) (by omega)] at hy; omega)]
      rw [t_rW, t_rW, t_aW hA _ (i + 3) (by rw [show (3 : Int32) = Int32.ofNat 3 from rfl, of_add]) (by omega), t_sW hA _ i rfl (by omega), show Int32.ofNat i + 1 = Int32.ofNat (i + 1) from by rw [show (1 : Int32) = Int32.ofNat 1 from rfl, of_add]]
      rw [ih (i + 1) N _ (by omega) (by omega) (by omega) (by rw [q_xw, upd_ne (by omega)]; exact g4), q_xw, x_xw, shf_st (by omega)]
theorem get_erase {α : Type} {l : List α} {j k : Nat} {x : α} (h : (l.eraseIdx j)[k]? = some x) : (k < j ∧ l[k]? = some x) ∨ (j ≤ k ∧ l[k + 1]? = some x) := by
  rw [List.getElem?_eraseIdx] at h
  by_cases hk : k < j
  · rw [if_pos hk] at h
    exact Or.inl ⟨hk, h⟩
  · rw [if_neg hk] at h
    exact Or.inr ⟨by omega, h⟩
/-- an outage ends -/
theorem t_endsO (hA : TA A h) (hr : TR ex S Pl (q_w T)) {k : Nat} (hk : k < (s_ou S).length) : ∃ w' : Nat → Int32, f_X7_endsOutage (some (A 0)) (Int32.ofNat k) (tw A T h) = some ((), tw A (x_w T w') h) ∧ TR ex (u_ou S ((s_ou S).eraseIdx k)) Pl w' := by
  have h20 : (s_ou S).length ≤ 20 := hr.1.2.2.2.1.1
  have a35 : q_w T 35 = Int32.ofNat (s_ou S).length := hr.1.1.2.2.2.2.2.2.2.2.2.2.2.2.2.2.2.2.2.2.2.2.2.2.1
  unfold f_X7_endsOutage
  obtain ⟨len, hlen⟩ : ∃ len : Nat, len = (s_ou S).length := ⟨_, rfl⟩
  rw [← hlen] at hk h20 a35
  rw [ix30, t_endL hA (len := len) (by omega) h20 (3 * (len - 1 - k)) (176 + 3 * k) FU T (by omega) (by omega) (by unfold FU; omega) a35]
  refine ⟨_, rfl, ?_⟩
  have he : ((s_ou S).eraseIdx k).length = len - 1 := by rw [List.length_eraseIdx_of_lt (by omega), hlen]
  refine hr.to (hr.1.ou (fun p p1 p2 => ?_) (by rw [upd_eq, he]) (by omega) (fun j o hj => ?_)) (fun p hp => ?_) rfl
  · rw [upd_ne p1]
    unfold shf
    rw [if_neg (by omega)]
  · have u : ∀ p : Nat, p ≠ 35 → upd (shf (q_w T) (176 + 3 * k) (176 + 3 * (len - 1)) 3) 35 (Int32.ofNat (len - 1)) p = if 176 + 3 * k ≤ p ∧ p < 176 + 3 * (len - 1) then q_w T (p + 3) else q_w T p := fun p hp => by
      rw [upd_ne hp]
      rfl
    have hjl : j < ((s_ou S).eraseIdx k).length := (List.getElem?_eq_some_iff.mp hj).1
    rw [he] at hjl
    rw [u _ (by omega), u _ (by omega), u _ (by omega)]
    rcases get_erase hj with ⟨c1, c2⟩ | ⟨c1, c2⟩
    · rw [if_neg (by omega), if_neg (by omega), if_neg (by omega)]
      exact hr.1.2.2.2.1.2 j o c2
    · rw [if_pos (by omega), if_pos (by omega), if_pos (by omega)]
      have := hr.1.2.2.2.1.2 (j + 1) o c2
      rw [show 176 + 3 * j + 3 = 176 + 3 * (j + 1) from by omega, show 177 + 3 * j + 3 = 177 + 3 * (j + 1) from by omega, show 178 + 3 * j + 3 = 178 + 3 * (j + 1) from by omega]
      exact this
  · rw [upd_ne (by omega)]
    unfold shf
    rw [if_neg (by omega)]
theorem t_outL (hA : TA A h) : ∀ (n k N : Nat) (S : SS) (T : TS), TR ex S Pl (q_w T) → (∀ o ∈ s_ou S, o.1 < s_n S) → k ≤ (s_ou S).length → (s_ou S).length < k + n → n ≤ N → ∃ w' : Nat → Int32, f_X7_outagesNow_L2 N (some (A 0)) (Int32.ofNat k) (tw A T h) = some ((), tw A (x_w T w') h) ∧ TR ex (links n k S) Pl w' := by
  intro n
  induction n with
  | zero => intro k N S T hr ho h1 h2 h3; omega
  | succ n ih =>
    intro k N S T hr ho h1 h2 h3
    cases N with
    | zero => omega
    | succ N =>
      have h20 : (s_ou S).length ≤ 20 := hr.1.2.2.2.1.1
      have a35 : q_w T 35 = Int32.ofNat (s_ou S).length := hr.1.1.2.2.2.2.2.2.2.2.2.2.2.2.2.2.2.2.2.2.2.2.2.2.1
      have a0 : q_w T 0 = now S := hr.1.1.1
      have h6 := hr.1.2.2.2.2.2.2
      unfold f_X7_outagesNow_L2 links
      rw [t_rW, t_aW hA 35 35 rfl (by decide), a35]
      by_cases hk : k < (s_ou S).length
      · obtain ⟨o, hoo⟩ : ∃ o, (s_ou S)[k]? = some o := ⟨_, List.getElem?_eq_getElem hk⟩
        rw [hoo]
        dsimp only
        have hon := ho o (List.mem_of_getElem? hoo)
        have hw := hr.1.2.2.2.1.2 k o hoo
        rw [if_neg (fun hy => by rw [of_le (by omega) (by omega)] at hy; omega)]
        rw [t_rW, t_aW hA _ (176 + 3 * k + 2) (ix3 (x := 2) (c := 2) rfl) (by omega), show 176 + 3 * k + 2 = 178 + 3 * k from by omega, hw.2.2, t_rW, t_aW hA _ (176 + 3 * k) ix30 (by omega), hw.1, t_rW, t_aW hA 0 0 rfl (by decide), a0, ix30]
        -- what follows the cut
        have rest : ∀ (S1 : SS) (T1 : TS), TR ex S1 Pl (q_w T1) → s_ou S1 = s_ou S → s_n S1 = s_n S → ∃ w' : Nat → Int32, f_X7_outagesNow_B53 (f_X7_outagesNow_L2 N) (some (A 0)) (Int32.ofNat k) (Int32.ofNat (176 + 3 * k)) (Int32.ofNat o.1) (tw A T1 h) = some ((), tw A (x_w T1 w') h) ∧ TR ex (if o.2.2 = now S1 then links n k (u_ou (u_nd S1 o.1 4 0) ((s_ou S1).eraseIdx k)) else links n (k + 1) S1) Pl w' := by
          intro S1 T1 hr1 e1 e2
          have hw1 := hr1.1.2.2.2.1.2 k o (by rw [e1]; exact hoo)
          have b0 : q_w T1 0 = now S1 := hr1.1.1.1
          unfold f_X7_outagesNow_B53 f_X7_outagesNow_B89
          rw [t_rW, t_aW hA _ (177 + 3 * k) (by rw [show (1 : Int32) = Int32.ofNat 1 from rfl, of_add]; congr 1; omega) (by omega), hw1.2.1, t_rW, t_aW hA 0 0 rfl (by decide), b0]
          by_cases hto : o.2.2 = now S1
          · rw [if_pos hto, if_pos hto, t_rv, cl_eq (t_puts hA 6 6 rfl (by omega) (by decide)), t_rv]
            have r2 : TR ex (u_nd S1 o.1 4 0) Pl (upd (q_w T1) (40 + 20 * o.1 + 6) 0) := hr1.nd (k := 4) (by rw [e2]; exact hon) (by decide)
            obtain ⟨w2, g1, g2⟩ := t_endsO (T := x_w T1 (upd (q_w T1) (40 + 20 * o.1 + 6) 0)) hA r2 (k := k) (by show k < (s_ou S1).length; rw [e1]; exact hk)
            rw [cl_eq g1, x_xw]
            have g2' : TR ex (u_ou (u_nd S1 o.1 4 0) ((s_ou S1).eraseIdx k)) Pl (q_w (x_w T1 w2)) := g2
            have el : (s_ou (u_ou (u_nd S1 o.1 4 0) ((s_ou S1).eraseIdx k))).length = (s_ou S).length - 1 := by
              show ((s_ou S1).eraseIdx k).length = _
              rw [e1, List.length_eraseIdx_of_lt hk]
            obtain ⟨w3, k1, k2⟩ := ih k N _ (x_w T1 w2) g2' (fun o' ho' => by
              have : o' ∈ s_ou S := by
                have := List.mem_of_mem_eraseIdx (show o' ∈ (s_ou S1).eraseIdx k from ho')
                rw [e1] at this
                exact this
              show o'.1 < s_n S1
              rw [e2]
              exact ho o' this) (by rw [el]; omega) (by rw [el]; omega) (by omega)
            rw [k1, x_xw]
            exact ⟨w3, rfl, k2⟩
          · rw [if_neg hto, if_neg hto, show Int32.ofNat k + 1 = Int32.ofNat (k + 1) from by rw [show (1 : Int32) = Int32.ofNat 1 from rfl, of_add]]
            exact ih (k + 1) N S1 T1 hr1 (fun o' ho' => by rw [e2]; rw [e1] at ho'; exact ho o' ho') (by rw [e1]; omega) (by rw [e1]; omega) (by omega)
        by_cases hfr : o.2.1 = now S
        · rw [if_pos hfr, if_pos hfr, t_rv, cl_eq (t_puts hA 6 6 rfl (by omega) (by decide))]
          have r1 : TR ex (u_nd S o.1 4 1) Pl (upd (q_w T) (40 + 20 * o.1 + 6) 1) := hr.nd (k := 4) hon (by decide)
          obtain ⟨w2, g1, g2⟩ := rest (u_nd S o.1 4 1) (x_w T (upd (q_w T) (40 + 20 * o.1 + 6) 1)) r1 rfl rfl
          rw [g1, x_xw]
          exact ⟨w2, rfl, g2⟩
        · rw [if_neg hfr, if_neg hfr]
          exact rest S T hr rfl rfl
      · have : (s_ou S)[k]? = none := List.getElem?_eq_none (by omega)
        rw [this, if_pos (by rw [of_le (by omega) (by omega)]; omega)]
        exact ⟨q_w T, by rw [x_w_self], hr⟩
/-- outagesNow -/
theorem t_outagesNow (hA : TA A h) (hr : TR ex S Pl (q_w T)) (ho : ∀ o ∈ s_ou S, o.1 < s_n S) : ∃ w' : Nat → Int32, f_X7_outagesNow (some (A 0)) (tw A T h) = some ((), tw A (x_w T w') h) ∧ TR ex (changeLinks S) Pl w' := by
  have h20 : (s_ou S).length ≤ 20 := hr.1.2.2.2.1.1
  unfold f_X7_outagesNow changeLinks
  exact t_outL hA ((s_ou S).length + 1) 0 FU S T hr ho (Nat.zero_le _) (by omega) (by unfold FU; omega)
theorem t_dlS (hA : TA A h) {k2 : Option Nat → Int32 → PH → Option (Unit × PH)} {x1 x3 x4 x5 x6 : Int32} {len : Nat} (h1 : 1 ≤ len) (h2 : len ≤ 20) : ∀ (d i N : Nat) (T : TS), i + d = 236 + 5 * (len - 1) → 236 ≤ i → d < N → q_w T 21 = Int32.ofNat len → f_X7_delayedNow_L84 k2 N (some (A 0)) x1 x3 x4 x5 x6 (Int32.ofNat i) (tw A T h) = cl_ (f_X7_sends (some (A 0)) 3 x3 x4 x5 x6 (tw A (x_w T (upd (shf (q_w T) i (236 + 5 * (len - 1)) 5) 21 (Int32.ofNat (len - 1)))) h)) fun _u h20 => k2 (some (A 0)) x1 h20 := by
  intro d
  have e1 : Int32.ofNat len - 1 = Int32.ofNat (len - 1) := by rw [show (1 : Int32) = Int32.ofNat 1 from rfl, of_sub h1]
  induction d with
  | zero =>
    intro i N T g1 g2 g3 g4
    cases N with
    | zero => omega
    | succ N =>
      unfold f_X7_delayedNow_L84
      rw [t_rW, t_aW hA 21 21 rfl (by decide), g4, e1, ix50, if_pos (by rw [of_le (by omega) (by omega)]; omega), t_rW, t_aW hA 21 21 rfl (by decide), g4, e1, t_sW hA 21 21 rfl (by decide), t_rv]
      rw [show i = 236 + 5 * (len - 1) from by omega, shf_end]
  | succ d ih =>
    intro i N T g1 g2 g3 g4
    cases N with
    | zero => omega
    | succ N =>
      unfold f_X7_delayedNow_L84
      rw [t_rW, t_aW hA 21 21 rfl (by decide), g4, e1, ix50, if_neg (fun hy => by rw [of_le (by omega) (by omega)] at hy; omega)]
      rw [t_rW, t_rW, t_aW hA _ (i + 5) (by rw [show (5 : Int32) = Int32.ofNat 5 from rfl, of_add]) (by omega), t_sW hA _ i rfl (by omega), show Int32.ofNat i + 1 = Int32.ofNat (i + 1) from by rw [show (1 : Int32) = Int32.ofNat 1 from rfl, of_add]]
      rw [ih (i + 1) N _ (by omega) (by omega) (by omega) (by rw [q_xw, upd_ne (by omega)]; exact g4), q_xw, x_xw, shf_st (by omega)]
/-- a delayed write goes -/
theorem TR.dlE (hr : TR ex S Pl w) {k : Nat} (hk : k < (s_dl S).length) : TR ex (u_dl S ((s_dl S).eraseIdx k)) Pl (upd (shf w (236 + 5 * k) (236 + 5 * ((s_dl S).length - 1)) 5) 21 (Int32.ofNat ((s_dl S).length - 1))) := by
  have h20 : (s_dl S).length ≤ 20 := hr.1.2.2.2.2.1.1
  obtain ⟨len, hlen⟩ : ∃ len : Nat, len = (s_dl S).length := ⟨_, rfl⟩
  rw [← hlen] at hk h20 ⊢
  have he : ((s_dl S).eraseIdx k).length = len - 1 := by rw [List.length_eraseIdx_of_lt (by omega), hlen]
  refine hr.to (hr.1.dl (fun p p1 p2 => ?_) (by rw [upd_eq, he]) (by omega) (fun j o hj => ?_)) (fun p hp => ?_) rfl
  · rw [upd_ne p1]
    unfold shf
    rw [if_neg (by omega)]
  · have u : ∀ p : Nat, p ≠ 21 → upd (shf w (236 + 5 * k) (236 + 5 * (len - 1)) 5) 21 (Int32.ofNat (len - 1)) p = if 236 + 5 * k ≤ p ∧ p < 236 + 5 * (len - 1) then w (p + 5) else w p := fun p hp => by
      rw [upd_ne hp]
      rfl
    have hjl : j < ((s_dl S).eraseIdx k).length := (List.getElem?_eq_some_iff.mp hj).1
    rw [he] at hjl
    rw [u _ (by omega), u _ (by omega), u _ (by omega), u _ (by omega), u _ (by omega)]
    rcases get_erase hj with ⟨c1, c2⟩ | ⟨c1, c2⟩
    · rw [if_neg (by omega), if_neg (by omega), if_neg (by omega), if_neg (by omega), if_neg (by omega)]
      exact hr.1.2.2.2.2.1.2 j o c2
    · rw [if_pos (by omega), if_pos (by omega), if_pos (by omega), if_pos (by omega), if_pos (by omega)]
      have := hr.1.2.2.2.2.1.2 (j + 1) o c2
      rw [show 236 + 5 * j + 5 = 236 + 5 * (j + 1) from by omega, show 237 + 5 * j + 5 = 237 + 5 * (j + 1) from by omega, show 238 + 5 * j + 5 = 238 + 5 * (j + 1) from by omega, show 239 + 5 * j + 5 = 239 + 5 * (j + 1) from by omega, show 240 + 5 * j + 5 = 240 + 5 * (j + 1) from by omega]
      exact this
  · rw [upd_ne (by omega)]
    unfold shf
    rw [if_neg (by omega)]
end TOD
section IDL
variable {S : SS}
theorem Inv_dl {l : List DG} (h : Inv S) (hl : ∀ d ∈ l, d ∈ s_dl S) (hn : l.length ≤ 20) : Inv (u_dl S l) := ⟨h.1, h.2.1, h.2.2.1, h.2.2.2.1, h.2.2.2.2.1, h.2.2.2.2.2.1, h.2.2.2.2.2.2.1, fun d hd => h.2.2.2.2.2.2.2.1 d (hl d hd), h.2.2.2.2.2.2.2.2.1, hn, h.2.2.2.2.2.2.2.2.2.2⟩
theorem Inv_er2 {k : Nat} (h : Inv S) : Inv (u_dl S ((s_dl S).eraseIdx k)) := Inv_dl h (fun d hd => List.mem_of_mem_eraseIdx hd) (Nat.le_trans (List.length_eraseIdx_le _ _) h.2.2.2.2.2.2.2.2.2.1)
theorem Inv_delS {k : Nat} {d : DG} (h : Inv S) (hd : (s_dl S)[k]? = some d) (hb : s_gh (send (u_dl S ((s_dl S).eraseIdx k)) 4 d.1 3 d.2.1 (Int32.ofNat d.2.2.1) d.2.2.2.1) 0 ≤ 1000000) : Inv (send (u_dl S ((s_dl S).eraseIdx k)) 4 d.1 3 d.2.1 (Int32.ofNat d.2.2.1) d.2.2.2.1) := by
  have hD := h.2.2.2.2.2.2.2.1 d (List.mem_of_getElem? hd)
  exact Inv_send (Inv_er2 h) hb (by decide) hD.1 (fun _ => ⟨d.2.2.1, hD.2.1, rfl⟩) (fun hk => by rcases hk with hk | hk <;> exact absurd hk (by decide)) (fun hk => absurd hk (by decide))
theorem Inv_del : ∀ (n k : Nat) (S : SS), Inv S → s_gh (delNow n k S) 0 ≤ 1000000 → Inv (delNow n k S) := by
  intro n
  induction n with
  | zero => intro k S h _; exact h
  | succ n ih =>
    intro k S h hb
    unfold delNow at hb ⊢
    cases hd : (s_dl S)[k]? with
    | none => exact h
    | some d =>
      rw [hd] at hb
      dsimp only at hb ⊢
      by_cases hc : d.2.2.2.2 ≤ now S
      · rw [if_pos hc] at hb ⊢
        exact ih k _ (Inv_delS h hd (Nat.le_trans (gle_del n k).1 hb)) hb
      · rw [if_neg hc] at hb ⊢
        exact ih (k + 1) S h hb
end IDL
section TDN
variable {A : Nat → Nat} {T : TS} {h : PH} {ex : Bool × Int32 × Int32}
theorem dl_send {S : SS} {k n l : Nat} {a b c : Int32} : s_dl (send S k n l a b c) = s_dl S := by
  unfold send
  dsimp only
  split <;> rfl
theorem t_delL (hA : TA A h) : ∀ (n k N : Nat) (S : SS) (Pl : List (Option MG)) (T : TS), TR ex S Pl (q_w T) → Inv S → k ≤ (s_dl S).length → (s_dl S).length < k + n → n ≤ N → Pl.length + (s_dl S).length < 12000 → s_gh (delNow n k S) 0 ≤ 1000000 → ∃ (w' : Nat → Int32) (l : List MG), f_X7_delayedNow_L2 N (some (A 0)) (Int32.ofNat k) (tw A T h) = some ((), tw A (x_w T w') h) ∧ TR ex (delNow n k S) (Pl ++ l.map some) w' ∧ l.length ≤ (s_dl S).length - k := by
  intro n
  induction n with
  | zero => intro k N S Pl T hr hI h1 h2 h3; omega
  | succ n ih =>
    intro k N S Pl T hr hI h1 h2 h3 hpl hb
    cases N with
    | zero => omega
    | succ N =>
      have h20 : (s_dl S).length ≤ 20 := hr.1.2.2.2.2.1.1
      have a21 : q_w T 21 = Int32.ofNat (s_dl S).length := hr.1.1.2.2.2.2.2.2.2.2.2.2.2.2.2.2.2.2.2.2.2.1
      have a0 : q_w T 0 = now S := hr.1.1.1
      unfold f_X7_delayedNow_L2
      unfold delNow at hb ⊢
      rw [t_rW, t_aW hA 21 21 rfl (by decide), a21]
      by_cases hk : k < (s_dl S).length
      · obtain ⟨d, hdd⟩ : ∃ d, (s_dl S)[k]? = some d := ⟨_, List.getElem?_eq_getElem hk⟩
        rw [hdd] at hb ⊢
        dsimp only at hb ⊢
        have hD := hI.2.2.2.2.2.2.2.1 d (List.mem_of_getElem? hdd)
        obtain ⟨w0, w1, w2, w3, w4⟩ := hr.1.2.2.2.2.1.2 k d hdd
        rw [if_neg (fun hy => by rw [of_le (by omega) (by omega)] at hy; omega)]
        rw [t_rW, t_aW hA _ (236 + 5 * k) ix50 (by omega), w0, t_rW, t_aW hA 0 0 rfl (by decide), a0]
        by_cases hc : d.2.2.2.2 ≤ now S
        · rw [if_pos hc] at hb ⊢
          have heq : d.2.2.2.2 = now S := by
            apply Int32.toInt.inj
            rw [Int32.le_iff_toInt_le] at hc
            have := hD.2.2.1
            omega
          rw [if_pos heq, t_rW, t_aW hA _ (236 + 5 * k + 1) (ix5 (x := 1) (c := 1) rfl) (by omega), show 236 + 5 * k + 1 = 237 + 5 * k from by omega, w1, t_rW, t_aW hA _ (236 + 5 * k + 2) (ix5 (x := 2) (c := 2) rfl) (by omega), show 236 + 5 * k + 2 = 238 + 5 * k from by omega, w2, t_rW, t_aW hA _ (236 + 5 * k + 3) (ix5 (x := 3) (c := 3) rfl) (by omega), show 236 + 5 * k + 3 = 239 + 5 * k from by omega, w3, t_rW, t_aW hA _ (236 + 5 * k + 4) (ix5 (x := 4) (c := 4) rfl) (by omega), show 236 + 5 * k + 4 = 240 + 5 * k from by omega, w4, ix50]
          rw [t_dlS hA (len := (s_dl S).length) (by omega) h20 (5 * ((s_dl S).length - 1 - k)) (236 + 5 * k) FU T (by omega) (by omega) (by unfold FU; omega) a21]
          have r1 := hr.dlE hk
          have hb1 : s_gh (send (u_dl S ((s_dl S).eraseIdx k)) 4 d.1 3 d.2.1 (Int32.ofNat d.2.2.1) d.2.2.2.1) 0 ≤ 1000000 := Nat.le_trans (gle_del n k).1 hb
          obtain ⟨w5, Pl5, g1, g2, ⟨l5, g3, -⟩, g5⟩ := t_sends (T := x_w T (upd (shf (q_w T) (236 + 5 * k) (236 + 5 * ((s_dl S).length - 1)) 5) 21 (Int32.ofNat ((s_dl S).length - 1)))) (kind := 4) (node := d.1) (len := 3) (a := d.2.1) (b := Int32.ofNat d.2.2.1) (c := d.2.2.2.1) (tok := d.2.1) (num := Int32.ofNat d.2.2.1) (val := d.2.2.2.1) hA r1 (Inv_er2 hI).si (by omega) hD.1 rfl rfl (fun _ => rfl)
          rw [cl_eq (show f_X7_sends (some (A 0)) 3 _ _ _ _ _ = _ from g1), x_xw]
          have el : (s_dl (send (u_dl S ((s_dl S).eraseIdx k)) 4 d.1 3 d.2.1 (Int32.ofNat d.2.2.1) d.2.2.2.1)).length = (s_dl S).length - 1 := by
            rw [dl_send]
            show ((s_dl S).eraseIdx k).length = _
            rw [List.length_eraseIdx_of_lt hk]
          have hl5 : l5.length ≤ 1 := by rw [g3] at g5; simp at g5; omega
          rw [g3] at g2
          obtain ⟨w6, l6, k1, k2, k3⟩ := ih k N _ (Pl ++ l5.map some) (x_w T w5) g2 (Inv_delS hI hdd hb1) (by rw [el]; omega) (by rw [el]; omega) (by omega) (by rw [el, List.length_append, List.length_map]; omega) hb
          refine ⟨w6, l5 ++ l6, ?_, ?_, ?_⟩
          · rw [k1, x_xw]
          · rw [List.map_append, ← List.append_assoc]
            exact k2
          · rw [List.length_append]
            rw [el] at k3
            omega
        · rw [if_neg hc] at hb ⊢
          rw [if_neg (fun hy => hc (by rw [hy]; exact Int32.le_refl _)), show Int32.ofNat k + 1 = Int32.ofNat (k + 1) from by rw [show (1 : Int32) = Int32.ofNat 1 from rfl, of_add]]
          obtain ⟨w6, l6, k1, k2, k3⟩ := ih (k + 1) N S Pl T hr hI (by omega) (by omega) (by omega) hpl hb
          exact ⟨w6, l6, k1, k2, by omega⟩
      · have hnn : (s_dl S)[k]? = none := List.getElem?_eq_none (by omega)
        rw [hnn, if_pos (by rw [of_le (by omega) (by omega)]; omega)]
        exact ⟨q_w T, [], by rw [x_w_self], by simpa using hr, by simp⟩
end TDN
