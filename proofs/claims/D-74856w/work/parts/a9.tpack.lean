/-! THE TWIN: packs -/
set_option maxRecDepth 100000
theorem shf_st {w : Nat → Int32} {k e d : Nat} (hk : k < e) : shf (upd w k (w (k + d))) (k + 1) e d = shf w k e d := by
  funext p
  unfold shf
  by_cases h1 : p = k
  · subst h1
    rw [if_neg (by omega), if_pos (by omega), upd_eq]
  · by_cases h2 : k ≤ p ∧ p < e
    · rw [if_pos (by omega), if_pos h2, upd_ne (by omega)]
    · rw [if_neg (by omega), if_neg h2, upd_ne h1]
section TPK
variable {A : Nat → Nat} {T : TS} {h : PH} {ex : Bool × Int32 × Int32} {S : SS} {Pl : List (Option MG)} {w : Nat → Int32}
theorem t_packI (hA : TA A h) {k4 : Option Nat → Int32 → Int32 → PH → Option (Unit × PH)} {l m : Nat} (hlm : l ≤ m) (hm : m < 12000) : ∀ (d k N : Nat) (T : TS), k + d = 6 → d < N → f_X7_packs_L36 k4 N (some (A 0)) (Int32.ofNat l) (Int32.ofNat m) (Int32.ofNat k) (tw A T h) = k4 (some (A 0)) (Int32.ofNat (l + 1)) (Int32.ofNat (m + 1)) (tw A (x_w T (shf (q_w T) (1136 + 6 * l + k) (1136 + 6 * l + 6) (6 * (m - l)))) h) := by
  intro d
  induction d with
  | zero =>
    intro k N T h1 h2
    have : k = 6 := by omega
    subst this
    cases N with
    | zero => omega
    | succ N =>
      unfold f_X7_packs_L36 f_X7_packs_B81
      rw [if_pos (show (6 : Int32) ≤ Int32.ofNat 6 from by decide), shf_end, x_w_self, show (1 : Int32) = Int32.ofNat 1 from rfl, of_add, of_add]
  | succ d ih =>
    intro k N T h1 h2
    cases N with
    | zero => omega
    | succ N =>
      unfold f_X7_packs_L36
      rw [if_neg (show ¬ (6 : Int32) ≤ Int32.ofNat k from fun hx => by rw [show (6 : Int32) = Int32.ofNat 6 from rfl, of_le (by omega) (by omega)] at hx; omega)]
      rw [t_rW, t_rW, t_aW hA _ (1136 + 6 * m + k) (ix6 rfl) (by omega), t_sW hA _ (1136 + 6 * l + k) (ix6 rfl) (by omega), show (1 : Int32) = Int32.ofNat 1 from rfl, of_add]
      rw [ih (k + 1) N _ (by omega) (by omega), q_xw, x_xw]
      rw [show 1136 + 6 * m + k = 1136 + 6 * l + k + 6 * (m - l) from by omega, show 1136 + 6 * l + (k + 1) = 1136 + 6 * l + k + 1 from rfl, shf_st (by omega)]
/-- packing: F stands in the first places, from the place m on nothing has changed -/
def PK (ex : Bool × Int32 × Int32) (Pl : List (Option MG)) (F : List MG) (m : Nat) (w : Nat → Int32) : Prop := (∀ (k : Nat) (f : MG), F[k]? = some f → TWm ex k f w) ∧ (∀ k : Nat, m ≤ k → (∀ q : MG, Pl[k]? = some (some q) → TWm ex k q w) ∧ (Pl[k]? = some none → w (1136 + 6 * k) = 0)) ∧ w 20 = Int32.ofNat Pl.length ∧ Pl.length ≤ 12000 ∧ F.length ≤ m
theorem t_packL (hA : TA A h) (h9 : ∀ (k : Nat) (q : MG), Pl[k]? = some (some q) → q.1 < 9) : ∀ (d m N : Nat) (T : TS) (F : List MG), m + d = Pl.length → d < N → PK ex Pl F m (q_w T) → ∃ w' : Nat → Int32, f_X7_packs_L4 N (some (A 0)) (Int32.ofNat F.length) (Int32.ofNat m) (tw A T h) = some ((), tw A (x_w T w') h) ∧ TMp ex ((F ++ (Pl.drop m).filterMap id).map some) w' ∧ ∀ p : Nat, p < 1136 → p ≠ 20 → w' p = q_w T p := by
  intro d
  induction d with
  | zero =>
    intro m N T F h1 h2 hp
    obtain ⟨p1, p2, p3, p4, p5⟩ := hp
    cases N with
    | zero => omega
    | succ N =>
      unfold f_X7_packs_L4
      rw [t_rW, t_aW hA 20 20 rfl (by decide), p3, if_pos (by rw [of_le (by omega) (by omega)]; omega), t_rW, t_sW hA 20 20 rfl (by decide)]
      refine ⟨_, rfl, ?_, fun p _ hp2 => upd_ne hp2⟩
      rw [List.drop_of_length_le (by omega), List.filterMap_nil, List.append_nil]
      refine ⟨by rw [upd_eq, List.length_map], by rw [List.length_map]; omega, fun k => ⟨fun q hq => ?_, fun hq => ?_⟩⟩
      · rw [List.getElem?_map] at hq
        cases hf : F[k]? with
        | none => rw [hf] at hq; simp at hq
        | some f =>
          rw [hf] at hq
          have : f = q := by simpa using hq
          subst this
          have := p1 k f hf
          unfold TWm at this ⊢
          rw [upd_ne (by omega), upd_ne (by omega), upd_ne (by omega), upd_ne (by omega), upd_ne (by omega), upd_ne (by omega)]
          exact this
      · rw [List.getElem?_map] at hq
        cases hf : F[k]? with
        | none => rw [hf] at hq; simp at hq
        | some f => rw [hf] at hq; simp at hq
  | succ d ih =>
    intro m N T F h1 h2 hp
    obtain ⟨p1, p2, p3, p4, p5⟩ := hp
    cases N with
    | zero => omega
    | succ N =>
      have hml : m < Pl.length := by omega
      obtain ⟨x, hx⟩ : ∃ x, Pl[m]? = some x := ⟨_, List.getElem?_eq_getElem hml⟩
      have hdrop : Pl.drop m = x :: Pl.drop (m + 1) := by
        rw [List.drop_eq_getElem_cons hml]
        congr 1
        exact Option.some.inj ((List.getElem?_eq_getElem hml).symm.trans hx)
      unfold f_X7_packs_L4
      rw [t_rW, t_aW hA 20 20 rfl (by decide), p3, if_neg (fun hy => by rw [of_le (by omega) (by omega)] at hy; omega), t_rW, t_aW hA _ (1136 + 6 * m) ix60 (by omega)]
      cases x with
      | none =>
        rw [(p2 m (Nat.le_refl _)).2 hx, if_pos rfl]
        unfold f_X7_packs_B81
        rw [show (1 : Int32) = Int32.ofNat 1 from rfl, of_add]
        obtain ⟨w', e1, e2, e3⟩ := ih (m + 1) N T F (by omega) (by omega) ⟨p1, fun k hk => p2 k (by omega), p3, p4, by omega⟩
        refine ⟨w', e1, ?_, e3⟩
        rw [hdrop]
        exact e2
      | some q =>
        have hw := (p2 m (Nat.le_refl _)).1 q hx
        have hk9 := h9 m q hx
        have hne : ¬ q_w T (1136 + 6 * m) = 0 := by
          rw [hw.1]
          have : q.1 = 0 ∨ q.1 = 1 ∨ q.1 = 2 ∨ q.1 = 3 ∨ q.1 = 4 ∨ q.1 = 5 ∨ q.1 = 6 ∨ q.1 = 7 ∨ q.1 = 8 := by omega
          rcases this with e | e | e | e | e | e | e | e | e <;> rw [e] <;> decide
        rw [if_neg hne, show (0 : Int32) = Int32.ofNat 0 from rfl, t_packI hA p5 (by omega) 6 0 FU T rfl (by unfold FU; omega), Nat.add_zero]
        obtain ⟨l, hl⟩ : ∃ l : Nat, l = F.length := ⟨_, rfl⟩
        rw [← hl] at p5 ⊢
        have lo : ∀ p : Nat, p < 1136 + 6 * l ∨ 1136 + 6 * l + 6 ≤ p → shf (q_w T) (1136 + 6 * l) (1136 + 6 * l + 6) (6 * (m - l)) p = q_w T p := fun p hp => by
          unfold shf
          rw [if_neg (by omega)]
        have mi : ∀ c : Nat, c < 6 → shf (q_w T) (1136 + 6 * l) (1136 + 6 * l + 6) (6 * (m - l)) (1136 + c + 6 * l) = q_w T (1136 + c + 6 * m) := fun c hc => by
          unfold shf
          rw [if_pos (by omega)]
          congr 1
          omega
        have hp' : PK ex Pl (F ++ [q]) (m + 1) (q_w (x_w T (shf (q_w T) (1136 + 6 * l) (1136 + 6 * l + 6) (6 * (m - l))))) := by
          rw [q_xw]
          refine ⟨fun k f hk => ?_, fun k hk => ⟨fun q' hq' => ?_, fun hq' => ?_⟩, ?_, p4, by rw [List.length_append, ← hl]; simp; omega⟩
          · rcases get_app1 hk with ⟨k1, k2⟩ | ⟨k1, k2⟩
            · rw [← hl] at k1
              have := p1 k f k2
              unfold TWm at this ⊢
              rw [lo _ (by omega), lo _ (by omega), lo _ (by omega), lo _ (by omega), lo _ (by omega), lo _ (by omega)]
              exact this
            · rw [← hl] at k1
              rw [k2, k1]
              unfold TWm at hw ⊢
              rw [mi 0 (by decide), mi 1 (by decide), mi 2 (by decide), mi 3 (by decide), mi 4 (by decide), mi 5 (by decide)]
              exact hw
          · have := (p2 k (by omega)).1 q' hq'
            unfold TWm at this ⊢
            rw [lo _ (by omega), lo _ (by omega), lo _ (by omega), lo _ (by omega), lo _ (by omega), lo _ (by omega)]
            exact this
          · rw [lo _ (by omega)]
            exact (p2 k (by omega)).2 hq'
          · rw [lo _ (by omega)]
            exact p3
        obtain ⟨w', e1, e2, e3⟩ := ih (m + 1) N (x_w T (shf (q_w T) (1136 + 6 * l) (1136 + 6 * l + 6) (6 * (m - l)))) (F ++ [q]) (by omega) (by omega) hp'
        have elen : (F ++ [q]).length = l + 1 := by rw [List.length_append, ← hl]; rfl
        rw [elen, x_xw] at e1
        refine ⟨w', e1, ?_, fun p pp1 pp2 => ?_⟩
        · rw [hdrop]
          rw [List.append_assoc] at e2
          exact e2
        · rw [e3 p pp1 pp2, q_xw, lo _ (by omega)]
/-- packs -/
theorem t_packs (hA : TA A h) (hr : TR ex S Pl (q_w T)) (h9 : ∀ (k : Nat) (q : MG), Pl[k]? = some (some q) → q.1 < 9) : ∃ w' : Nat → Int32, f_X7_packs (some (A 0)) (tw A T h) = some ((), tw A (x_w T w') h) ∧ TR ex S ((Pl.filterMap id).map some) w' := by
  obtain ⟨hT, hm, hp, hs⟩ := hr
  have hl := hm.2.1
  unfold f_X7_packs
  obtain ⟨w', e1, e2, e3⟩ := t_packL (ex := ex) hA h9 Pl.length 0 FU T [] (by omega) (by unfold FU; omega) ⟨fun k f hk => by simp at hk, fun k _ => hm.2.2 k, hm.1, hl, by simp⟩
  have e1' : f_X7_packs_L4 FU (some (A 0)) 0 0 (tw A T h) = some ((), tw A (x_w T w') h) := e1
  refine ⟨w', e1', ?_, ?_, ?_, ?_⟩
  · -- all but the messages is the same
    have key : ∀ p : Nat, p < 1136 → p ≠ 20 → w' p = q_w T p := e3
    obtain ⟨h1, h2, h3, h4, h5, h6, h7⟩ := hT
    refine ⟨?_, fun i c hi hc he => ?_, ⟨fun k hk => ?_, fun r hr => ?_, fun r he hr => ?_⟩, ⟨h4.1, fun k o hk => ?_⟩, ⟨h5.1, fun k d hk => ?_⟩, ⟨h6.1, fun k e hk => ?_⟩, h7⟩
    · unfold TWs at h1 ⊢
      have u : ∀ j : Nat, j < 40 → j ≠ 20 → w' j = q_w T j := fun j hj hj2 => key j (by omega) hj2
      rw [u 0 (by decide) (by decide), u 1 (by decide) (by decide), u 2 (by decide) (by decide), u 3 (by decide) (by decide), u 4 (by decide) (by decide), u 5 (by decide) (by decide), u 6 (by decide) (by decide), u 7 (by decide) (by decide), u 8 (by decide) (by decide), u 9 (by decide) (by decide), u 10 (by decide) (by decide), u 11 (by decide) (by decide), u 12 (by decide) (by decide), u 13 (by decide) (by decide), u 14 (by decide) (by decide), u 16 (by decide) (by decide), u 17 (by decide) (by decide), u 18 (by decide) (by decide), u 19 (by decide) (by decide), u 21 (by decide) (by decide), u 22 (by decide) (by decide), u 23 (by decide) (by decide), u 35 (by decide) (by decide), u 33 (by decide) (by decide), u 34 (by decide) (by decide)]
      exact h1
    · rw [key _ (by omega) (by omega)]; exact h2 i c hi hc he
    · rw [key _ (by omega) (by omega)]; exact h3.1 k hk
    · rw [key _ (by omega) (by omega)]; exact h3.2.1 r hr
    · rw [key _ (by omega) (by omega)]; exact h3.2.2 r he hr
    · have := (List.getElem?_eq_some_iff.mp hk).1
      have l4 : (s_ou S).length ≤ 20 := h4.1
      rw [key _ (by omega) (by omega), key _ (by omega) (by omega), key _ (by omega) (by omega)]; exact h4.2 k o hk
    · have := (List.getElem?_eq_some_iff.mp hk).1
      have l4 : (s_dl S).length ≤ 20 := h5.1
      rw [key _ (by omega) (by omega), key _ (by omega) (by omega), key _ (by omega) (by omega), key _ (by omega) (by omega), key _ (by omega) (by omega)]; exact h5.2 k d hk
    · have := (List.getElem?_eq_some_iff.mp hk).1
      have l4 : (s_lg S).length ≤ 200 := h6.1
      rw [key _ (by omega) (by omega), key _ (by omega) (by omega), key _ (by omega) (by omega), key _ (by omega) (by omega)]; exact h6.2 k e hk
  · simpa using e2
  · have e : ((Pl.filterMap id).map some).filterMap id = Pl.filterMap id := by rw [List.filterMap_map]; simp
    rw [e]
    exact hp
  · have e : ((Pl.filterMap id).map some).filterMap id = Pl.filterMap id := by rw [List.filterMap_map]; simp
    rw [e]
    exact hs
end TPK
