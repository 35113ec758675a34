/-! THE TWIN: the log; lists of the world -/
set_option maxRecDepth 100000
theorem get_app1 {α : Type} {l : List α} {e x : α} {k : Nat} (h : (l ++ [e])[k]? = some x) : (k < l.length ∧ l[k]? = some x) ∨ (k = l.length ∧ x = e) := by
  by_cases hk : k < l.length
  · rw [List.getElem?_append_left hk] at h
    exact Or.inl ⟨hk, h⟩
  · rw [List.getElem?_append_right (by omega)] at h
    by_cases hz : k - l.length = 0
    · rw [hz] at h
      exact Or.inr ⟨by omega, by simpa using h.symm⟩
    · rw [List.getElem?_eq_none (by simp; omega)] at h
      cases h
section TLG
variable {A : Nat → Nat} {T : TS} {h : PH} {ex : Bool × Int32 × Int32} {S S' : SS} {w w' : Nat → Int32}
/-- a list of the world is another one: the log -/
theorem TWb.lg {l : List EG} (hT : TWb ex S w) (hw : ∀ p : Nat, p ≠ 22 → ¬ (336 ≤ p ∧ p < 1136) → w' p = w p) (h22 : w' 22 = Int32.ofNat l.length) (hl : l.length ≤ 200) (hr : ∀ (k : Nat) (e : EG), l[k]? = some e → w' (336 + 4 * k) = e.1 ∧ w' (337 + 4 * k) = e.2.1 ∧ w' (338 + 4 * k) = e.2.2.1 ∧ w' (339 + 4 * k) = e.2.2.2) : TWb ex (u_lg S l) w' := by
  obtain ⟨h1, h2, h3, h4, h5, h6, h7⟩ := hT
  refine ⟨?_, fun i c hi hc he => ?_, ⟨fun k hk => ?_, fun r hr => ?_, fun r he hr => ?_⟩, ⟨h4.1, fun k o hk => ?_⟩, ⟨h5.1, fun k d hk => ?_⟩, ⟨hl, hr⟩, h7⟩
  · unfold TWs at h1 ⊢
    have u : ∀ j : Nat, j < 22 ∨ j = 23 ∨ j = 33 ∨ j = 34 ∨ j = 35 → w' j = w j := fun j hj => hw j (by omega) (by omega)
    rw [u 0 (by decide), u 1 (by decide), u 2 (by decide), u 3 (by decide), u 4 (by decide), u 5 (by decide), u 6 (by decide), u 7 (by decide), u 8 (by decide), u 9 (by decide), u 10 (by decide), u 11 (by decide), u 12 (by decide), u 13 (by decide), u 14 (by decide), u 16 (by decide), u 17 (by decide), u 18 (by decide), u 19 (by decide), u 21 (by decide), u 23 (by decide), u 35 (by decide), u 33 (by decide), u 34 (by decide)]
    obtain ⟨a0, a1, a2, a3, a4, a5, a6, a7, a8, a9, a10, a11, a12, a13, a14, a15, a16, a17, a18, a19, a20, a21, a22⟩ := h1
    exact ⟨a0, a1, a2, a3, a4, a5, a6, a7, a8, a9, a10, a11, a12, a13, a14, a15, a16, a17, a18, a19, h22, a21, a22⟩
  · have hi' : i < s_n S := hi
    rw [hw _ (by omega) (by omega)]; exact h2 i c hi hc he
  · rw [hw _ (by omega) (by omega)]; exact h3.1 k hk
  · rw [hw _ (by omega) (by omega)]; exact h3.2.1 r hr
  · rw [hw _ (by omega) (by omega)]; exact h3.2.2 r he hr
  · have := (List.getElem?_eq_some_iff.mp hk).1
    have l4 : (s_ou S).length ≤ 20 := h4.1
    have t : k < (s_ou S).length := this
    rw [hw _ (by omega) (by omega), hw _ (by omega) (by omega), hw _ (by omega) (by omega)]; exact h4.2 k o hk
  · have := (List.getElem?_eq_some_iff.mp hk).1
    have l4 : (s_dl S).length ≤ 20 := h5.1
    have t : k < (s_dl S).length := this
    rw [hw _ (by omega) (by omega), hw _ (by omega) (by omega), hw _ (by omega) (by omega), hw _ (by omega) (by omega), hw _ (by omega) (by omega)]; exact h5.2 k d hk
theorem ix4 {n c : Nat} {x : Int32} (hx : x = Int32.ofNat c) : ((336 : Int32) + ((4 : Int32) * Int32.ofNat n)) + x = Int32.ofNat (336 + 4 * n + c) := by
  subst hx
  rw [show (336 : Int32) = Int32.ofNat 336 from rfl, show (4 : Int32) = Int32.ofNat 4 from rfl, ofm, of_add, of_add]
theorem ix40 {n : Nat} : ((336 : Int32) + ((4 : Int32) * Int32.ofNat n)) = Int32.ofNat (336 + 4 * n) := by
  rw [show (336 : Int32) = Int32.ofNat 336 from rfl, show (4 : Int32) = Int32.ofNat 4 from rfl, ofm, of_add]
theorem t_logB (hA : TA A h) (hT : TWb ex S (q_w T)) {x1 x2 x3 : Int32} (hn : (s_lg S).length < 200) : ∃ w' : Nat → Int32, f_X7_logs_B72 (some (A 0)) x1 x2 x3 (tw A T h) = some ((), tw A (x_w T w') h) ∧ TWb ex (u_lg S (s_lg S ++ [(now S, x1, x2, x3)])) w' ∧ ∀ p : Nat, p = 20 ∨ 1136 ≤ p → w' p = q_w T p := by
  obtain ⟨n, en⟩ : ∃ n : Nat, n = (s_lg S).length := ⟨_, rfl⟩
  have h22 : q_w T 22 = Int32.ofNat n := by rw [en]; exact hT.1.2.2.2.2.2.2.2.2.2.2.2.2.2.2.2.2.2.2.2.2.1
  have h0 : q_w T 0 = now S := hT.1.1
  unfold f_X7_logs_B72
  rw [t_rW, t_aW hA 22 22 rfl (by decide), h22, t_rW, t_rW, t_aW hA 0 0 rfl (by decide), t_sW hA _ _ ix40 (by omega)]
  rw [t_rW, t_sW hA _ _ (ix4 (x := 1) (c := 1) rfl) (by omega), t_rW, t_sW hA _ _ (ix4 (x := 2) (c := 2) rfl) (by omega), t_rW, t_sW hA _ _ (ix4 (x := 3) (c := 3) rfl) (by omega), t_rW, t_aW hA 22 22 rfl (by decide), t_sW hA 22 22 rfl (by decide)]
  simp only [q_xw, x_xw]
  refine ⟨_, rfl, ?_, fun p hp => ?_⟩
  · refine hT.lg (fun p p1 p2 => ?_) ?_ (by rw [List.length_append, ← en]; simp; omega) (fun k e hk => ?_)
    · rw [upd_ne p1, upd_ne (by omega), upd_ne (by omega), upd_ne (by omega), upd_ne (by omega)]
    · rw [upd_eq, upd_ne (by omega), upd_ne (by omega), upd_ne (by omega), upd_ne (by omega), h22, show (1 : Int32) = Int32.ofNat 1 from rfl, of_add, en]
      simp
    · rcases get_app1 hk with ⟨k1, k2⟩ | ⟨k1, k2⟩
      · have hr := hT.2.2.2.2.2.1.2 k e k2
        rw [← en] at k1
        have u : ∀ p : Nat, p < 336 + 4 * n → p ≠ 22 → upd (upd (upd (upd (upd (q_w T) (336 + 4 * n) (q_w T 0)) (336 + 4 * n + 1) x1) (336 + 4 * n + 2) x2) (336 + 4 * n + 3) x3) 22 (upd (upd (upd (upd (q_w T) (336 + 4 * n) (q_w T 0)) (336 + 4 * n + 1) x1) (336 + 4 * n + 2) x2) (336 + 4 * n + 3) x3 22 + 1) p = q_w T p := fun p p1 p2 => by
          rw [upd_ne p2, upd_ne (by omega), upd_ne (by omega), upd_ne (by omega), upd_ne (by omega)]
        rw [u _ (by omega) (by omega), u _ (by omega) (by omega), u _ (by omega) (by omega), u _ (by omega) (by omega)]
        exact hr
      · rw [← en] at k1
        subst k1
        rw [k2]
        refine ⟨?_, ?_, ?_, ?_⟩
        · rw [upd_ne (by omega), upd_ne (by omega), upd_ne (by omega), upd_ne (by omega), upd_eq, h0]
        · rw [upd_ne (by omega), upd_ne (by omega), upd_ne (by omega), show 337 + 4 * k = 336 + 4 * k + 1 from by omega, upd_eq]
        · rw [upd_ne (by omega), upd_ne (by omega), show 338 + 4 * k = 336 + 4 * k + 2 from by omega, upd_eq]
        · rw [upd_ne (by omega), show 339 + 4 * k = 336 + 4 * k + 3 from by omega, upd_eq]
  · rw [upd_ne (by omega), upd_ne (by omega), upd_ne (by omega), upd_ne (by omega), upd_ne (by omega)]
/-- the row from k on, moved by d, up to e -/
def shf (w : Nat → Int32) (k e d : Nat) : Nat → Int32 := fun p => if k ≤ p ∧ p < e then w (p + d) else w p
theorem shf_step {k e d : Nat} (hk : k < e) (hd : 0 < d) : shf (upd w k (w (k + d))) (k + 1) e d = shf w k e d := by
  funext p
  unfold shf
  by_cases h1 : p = k
  · subst h1
    rw [if_neg (by omega), if_pos (by omega), upd_eq]
  · by_cases h2 : k ≤ p ∧ p < e
    · rw [if_pos (by omega), if_pos h2, upd_ne (by omega)]
    · rw [if_neg (by omega), if_neg h2, upd_ne h1]
theorem shf_end {e d : Nat} : shf w e e d = w := by
  funext p
  unfold shf
  rw [if_neg (by omega)]
theorem t_logL (hA : TA A h) {x1 x2 x3 : Int32} : ∀ (d k N : Nat) (T : TS), k + d = 1132 → 336 ≤ k → d < N → f_X7_logs_L31 N (some (A 0)) x1 x2 x3 (Int32.ofNat k) (tw A T h) = f_X7_logs_B72 (some (A 0)) x1 x2 x3 (tw A (x_w T (upd (shf (q_w T) k 1132 4) 22 (q_w T 22 - 1))) h) := by
  intro d
  induction d with
  | zero =>
    intro k N T h1 h2 h3
    have : k = 1132 := by omega
    subst this
    cases N with
    | zero => omega
    | succ N =>
      unfold f_X7_logs_L31
      rw [if_pos (show (1132 : Int32) ≤ Int32.ofNat 1132 from by decide), t_rW, t_aW hA 22 22 rfl (by decide), t_sW hA 22 22 rfl (by decide), shf_end]
  | succ d ih =>
    intro k N T h1 h2 h3
    cases N with
    | zero => omega
    | succ N =>
      unfold f_X7_logs_L31
      rw [if_neg (show ¬ (1132 : Int32) ≤ Int32.ofNat k from fun hx => by rw [show (1132 : Int32) = Int32.ofNat 1132 from rfl, of_le (by omega) (by omega)] at hx; omega)]
      rw [t_rW, t_rW, t_aW hA _ (k + 4) (by rw [show (4 : Int32) = Int32.ofNat 4 from rfl, of_add]) (by omega), t_sW hA _ k rfl (by omega), show (1 : Int32) = Int32.ofNat 1 from rfl, of_add]
      rw [ih (k + 1) N _ (by omega) (by omega) (by omega)]
      rw [show q_w (x_w T (upd (q_w T) k (q_w T (k + 4)))) = upd (q_w T) k (q_w T (k + 4)) from rfl, shf_step (by omega) (by decide), upd_ne (by omega)]
      rfl
theorem t_logs (hA : TA A h) (hT : TWb ex S (q_w T)) {kind : Nat} {x2 x3 : Int32} (hk : kind < 9) : ∃ w' : Nat → Int32, f_X7_logs (some (A 0)) (Int32.ofNat kind) x2 x3 (tw A T h) = some ((), tw A (x_w T w') h) ∧ TWb ex (note S kind x2 x3) w' ∧ ∀ p : Nat, p = 20 ∨ 1136 ≤ p → w' p = q_w T p := by
  have hl : (s_lg S).length ≤ 200 := hT.2.2.2.2.2.1.1
  have h22 : q_w T 22 = Int32.ofNat (s_lg S).length := hT.1.2.2.2.2.2.2.2.2.2.2.2.2.2.2.2.2.2.2.2.2.1
  unfold f_X7_logs
  rw [t_rW, t_aW hA _ (24 + kind) (by rw [show (24 : Int32) = Int32.ofNat 24 from rfl, of_add]) (by omega), t_sW hA _ (24 + kind) (by rw [show (24 : Int32) = Int32.ofNat 24 from rfl, of_add]) (by omega)]
  rw [t_rW, t_aW hA 22 22 rfl (by decide)]
  have e22 : q_w (x_w T (upd (q_w T) (24 + kind) (q_w T (24 + kind) + 1))) 22 = Int32.ofNat (s_lg S).length := by
    show upd (q_w T) (24 + kind) (q_w T (24 + kind) + 1) 22 = _
    rw [upd_ne (by omega), h22]
  rw [e22]
  have hT1 : TWb ex (u_ar S 2 kind (s_ar S 2 kind + 1)) (upd (q_w T) (24 + kind) (q_w T (24 + kind) + 1)) := by
    rw [hT.2.2.1.1 kind hk]
    exact hT.ar (Or.inl ⟨rfl, hk, rfl⟩)
  unfold note
  dsimp only
  by_cases hx : (s_lg S).length = 200
  · rw [if_pos (show Int32.ofNat (s_lg S).length = 200 by rw [hx]; rfl), if_pos hx]
    rw [show (336 : Int32) = Int32.ofNat 336 from rfl, t_logL hA 796 336 FU _ rfl (Nat.le_refl _) (by unfold FU; omega)]
    have hT2 : TWb ex (u_lg (u_ar S 2 kind (s_ar S 2 kind + 1)) (s_lg S).tail) (upd (shf (upd (q_w T) (24 + kind) (q_w T (24 + kind) + 1)) 336 1132 4) 22 (upd (q_w T) (24 + kind) (q_w T (24 + kind) + 1) 22 - 1)) := by
      refine hT1.lg (fun p p1 p2 => ?_) ?_ (by rw [List.length_tail]; omega) (fun k e hk => ?_)
      · rw [upd_ne p1]
        unfold shf
        rw [if_neg (by omega)]
      · have e23 : upd (q_w T) (24 + kind) (q_w T (24 + kind) + 1) 22 = Int32.ofNat (s_lg S).length := e22
        rw [upd_eq, e23, List.length_tail, show (1 : Int32) = Int32.ofNat 1 from rfl, of_sub (by omega)]
      · have hk1 : k < (s_lg S).tail.length := (List.getElem?_eq_some_iff.mp hk).1
        rw [List.length_tail] at hk1
        rw [List.getElem?_tail] at hk
        have hr := hT1.2.2.2.2.2.1.2 (k + 1) e hk
        have u : ∀ p : Nat, 336 ≤ p → p < 1132 → upd (shf (upd (q_w T) (24 + kind) (q_w T (24 + kind) + 1)) 336 1132 4) 22 (upd (q_w T) (24 + kind) (q_w T (24 + kind) + 1) 22 - 1) p = upd (q_w T) (24 + kind) (q_w T (24 + kind) + 1) (p + 4) := fun p p1 p2 => by
          rw [upd_ne (by omega)]
          unfold shf
          rw [if_pos ⟨p1, p2⟩]
        rw [u _ (by omega) (by omega), u _ (by omega) (by omega), u _ (by omega) (by omega), u _ (by omega) (by omega)]
        rw [show 336 + 4 * k + 4 = 336 + 4 * (k + 1) from by omega, show 337 + 4 * k + 4 = 337 + 4 * (k + 1) from by omega, show 338 + 4 * k + 4 = 338 + 4 * (k + 1) from by omega, show 339 + 4 * k + 4 = 339 + 4 * (k + 1) from by omega]
        exact hr
    obtain ⟨w', e1, e2, e3⟩ := t_logB (x1 := Int32.ofNat kind) (x2 := x2) (x3 := x3) (T := x_w T (upd (shf (upd (q_w T) (24 + kind) (q_w T (24 + kind) + 1)) 336 1132 4) 22 (upd (q_w T) (24 + kind) (q_w T (24 + kind) + 1) 22 - 1))) hA hT2 (by show (s_lg S).tail.length < 200; rw [List.length_tail]; omega)
    refine ⟨w', e1, e2, fun p hp => ?_⟩
    rw [e3 p hp]
    show upd (shf (upd (q_w T) (24 + kind) (q_w T (24 + kind) + 1)) 336 1132 4) 22 _ p = _
    rw [upd_ne (by omega)]
    unfold shf
    rw [if_neg (by omega), upd_ne (by omega)]
  · rw [if_neg (show ¬ Int32.ofNat (s_lg S).length = 200 from fun hy => hx ((of_inj (by omega) (by decide)).mp hy)), if_neg hx]
    obtain ⟨w', e1, e2, e3⟩ := t_logB (x1 := Int32.ofNat kind) (x2 := x2) (x3 := x3) (T := x_w T (upd (q_w T) (24 + kind) (q_w T (24 + kind) + 1))) hA hT1 (by show (s_lg S).length < 200; omega)
    refine ⟨w', e1, e2, fun p hp => ?_⟩
    rw [e3 p hp]
    show upd (q_w T) (24 + kind) _ p = _
    rw [upd_ne (by omega)]
end TLG
