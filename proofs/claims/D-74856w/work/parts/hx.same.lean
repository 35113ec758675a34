/-! ROOM: states that agree in all that matters; what is kept, once more -/
set_option maxRecDepth 100000
/-- the same but for counters -/
def SAM (S S' : SS) : Prop := s_cf S' = s_cf S ∧ s_n S' = s_n S ∧ s_nd S' = s_nd S ∧ s_ms S' = s_ms S ∧ s_dl S' = s_dl S ∧ now S' = now S
/-- the same configuration -/
def CC (S S' : SS) : Prop := s_cf S' = s_cf S ∧ s_n S' = s_n S ∧ ∀ j k : Nat, (k = 1 ∨ k = 20 ∨ k = 21) → s_nd S' j k = s_nd S j k
section SMX
variable {S S' S'' : SS} {i : Nat} {Lt : List Int} {c c' T T' : Nat}
theorem SAM.rf : SAM S S := ⟨rfl, rfl, rfl, rfl, rfl, rfl⟩
theorem SAM.tr (a : SAM S S') (b : SAM S' S'') : SAM S S'' := ⟨b.1.trans a.1, b.2.1.trans a.2.1, b.2.2.1.trans a.2.2.1, b.2.2.2.1.trans a.2.2.2.1, b.2.2.2.2.1.trans a.2.2.2.2.1, b.2.2.2.2.2.trans a.2.2.2.2.2⟩
theorem SAM_copy : SAM S (copyS S) := ⟨rfl, rfl, rfl, rfl, rfl, by
  show fu (fu (s_sc S) 20 0) 21 (-4) 8 = s_sc S 8
  rw [fu_ne (by decide), fu_ne (by decide)]⟩
theorem SAM_ct {S2 : SS} : SAM S (ctS S S2) := ⟨rfl, rfl, rfl, rfl, rfl, rfl⟩
theorem SAM_uct {a b : Nat} : SAM S (u_ct S a b) := ⟨rfl, rfl, rfl, rfl, rfl, rfl⟩
theorem SAM_mk {a b : Nat} : SAM S (g_mk S a b) := ⟨rfl, rfl, rfl, rfl, rfl, rfl⟩
theorem SAM_sc {k : Nat} {v : Int32} (hk : k ≠ 8) : SAM S (u_sc S k v) := ⟨rfl, rfl, rfl, rfl, rfl, fu_ne (Ne.symm hk)⟩
theorem SAM.cst (h : SAM S S') : CST S S' := ⟨h.1, h.2.1, fun j k _ => by rw [h.2.2.1]⟩
theorem CC.rf : CC S S := ⟨rfl, rfl, fun _ _ _ => rfl⟩
theorem CC.tr (a : CC S S') (b : CC S' S'') : CC S S'' := ⟨b.1.trans a.1, b.2.1.trans a.2.1, fun j k h => (b.2.2 j k h).trans (a.2.2 j k h)⟩
theorem CST.cc (h : CST S S') : CC S S' := ⟨h.1, h.2.1, fun j k hk => h.2.2 j k (by omega)⟩
theorem AC.cc (h : AC S S' i) : CC S S' := ⟨h.1, h.2.1, fun j k hk => h.2.2.2.1 j k hk⟩
theorem CC_way (h : CC S S') : way S' i = way S i := by
  unfold way
  rw [h.2.2 i 1 (by decide), h.1]
theorem CC_wR (h : CC S S') : wayR S' i = wayR S i := by
  unfold wayR
  rw [h.2.2 i 20 (by decide), h.1]
theorem CC_wP (h : CC S S') : wayP S' i = wayP S i := by
  unfold wayP
  rw [h.2.2 i 20 (by decide), h.1]
theorem CC_per (h : CC S S') : perN S' i = perN S i := by
  unfold perN
  rw [CC_wP h, h.2.2 i 1 (by decide)]
theorem CC_sp (h : CC S S') : spN S' i = spN S i := by
  unfold spN
  rw [CC_wP h, CC_way h]
theorem SAM_mN (h : SAM S S') : mN S' i = mN S i := by
  unfold mN
  rw [h.2.2.2.1]
theorem SAM.ki (h : SAM S S') (hk : KI S i Lt c T) : KI S' i Lt c T := by
  obtain ⟨h1, h2, h3, h4⟩ := hk
  have hc := h.cst
  obtain ⟨e1, e2, e3, e4, e5, e6⟩ := h
  refine ⟨fun m hm hi => ?_, by rw [e3]; exact h2, fun hj => ?_, fun k => ?_⟩
  · rw [e4] at hm
    obtain ⟨t0, t1, t2, t3⟩ := h1 m hm hi
    unfold tOK
    rw [wayP_cs hc, way_cs hc, ← xT_cs hc, e6]
    exact ⟨t0, t1, t2, t3⟩
  · rw [e1] at hj
    obtain ⟨L, U, V, a, b⟩ := h3 hj
    unfold SPI cI0
    rw [e3, e4, e6]
    exact ⟨L, U, V, a, b⟩
  · rw [way_cs hc, wayR_cs hc] at k
    obtain ⟨f, f1, f2, f3, f4, f5⟩ := h4 k
    unfold k6 at f4 f5 ⊢
    unfold rl6 at f3 ⊢
    rw [way_cs hc, e3, e4, e6]
    exact ⟨f, f1, f2, f3, f4, f5⟩
theorem KI.mono (hk : KI S i Lt c T) (h1 : c ≤ c') (h2 : T ≤ T') : KI S i Lt c' T' := by
  obtain ⟨a, b, d, e⟩ := hk
  refine ⟨a, b, fun hj => ?_, fun k => ?_⟩
  · obtain ⟨L, U, V, ⟨x1, x2, x3, x4, x5⟩, x6⟩ := d hj
    exact ⟨L, U, V, ⟨x1, x2, x3, x4, by omega⟩, x6⟩
  · obtain ⟨f, f1, f2, f3, f4, f5⟩ := e k
    exact ⟨f, f1, f2, f3, by omega, fun np => by have := f5 np; omega⟩
theorem flen : ∀ (U : List Int) (p : Int → Bool), U.length = (U.filter p).length + (U.filter (fun x => !p x)).length
  | [], _ => rfl
  | x :: U, p => by
    have ih := flen U p
    by_cases c : p x = true
    · rw [List.filter_cons_of_pos c, List.filter_cons_of_neg (by simp [c]), List.length_cons, List.length_cons]
      omega
    · rw [List.filter_cons_of_neg c, List.filter_cons_of_pos (by simpa using c), List.length_cons, List.length_cons]
      omega
/-- ACQUIREs on the way, without jitter -/
theorem ap2_len : ∀ (n : Nat) (U : List Int) (a : Int), U.Pairwise ap2 → (∀ x ∈ U, a < x ∧ x ≤ a + 2 * n) → U.length ≤ n
  | 0, [], _, _, _ => Nat.le_refl _
  | 0, x :: U, a, _, h => by
    have := h x (List.mem_cons_self ..)
    omega
  | n + 1, U, a, hp, h => by
    -- the elements up to a + 2 are at most one
    have key : ∀ V : List Int, V.Pairwise ap2 → (∀ x ∈ V, a < x) → (V.filter (fun x => decide (x ≤ a + 2))).length ≤ 1 := by
      intro V
      induction V with
      | nil => intro _ _; exact Nat.zero_le _
      | cons x V ih =>
        intro hp hx
        rw [List.pairwise_cons] at hp
        have ihv := ih hp.2 (fun y hy => hx y (List.mem_cons_of_mem _ hy))
        by_cases c : x ≤ a + 2
        · rw [List.filter_cons_of_pos (by simpa using c), List.length_cons]
          have : V.filter (fun x => decide (x ≤ a + 2)) = [] := by
            rw [List.filter_eq_nil_iff]
            intro y hy hyy
            have h1 := hp.1 y hy
            have h2 := hx x (List.mem_cons_self ..)
            have h3 := hx y (List.mem_cons_of_mem _ hy)
            have h4 : y ≤ a + 2 := by simpa using hyy
            unfold ap2 at h1
            omega
          rw [this]
          exact Nat.le_refl _
        · rw [List.filter_cons_of_neg (by simpa using c)]
          exact ihv
    have k1 := key U hp (fun x hx => (h x hx).1)
    have k2 := ap2_len n (U.filter (fun x => !decide (x ≤ a + 2))) (a + 2) (hp.filter _) (fun x hx => by
      have := List.mem_filter.mp hx
      have h2 := h x this.1
      have h3 : ¬ x ≤ a + 2 := by simpa using this.2
      omega)
    have k3 := flen U (fun x => decide (x ≤ a + 2))
    omega
theorem aqN_len : aqN S i = (aT i (s_ms S)).length := by
  unfold aqN aT
  rw [List.length_map]
  induction s_ms S with
  | nil => rfl
  | cons q l ih =>
    rw [List.map_cons, List.sum_cons, ih]
    by_cases c : q.2.1 = i ∧ q.1 = 0
    · rw [List.filter_cons_of_pos (by simpa using c), List.length_cons, show fmI i q = 1 from if_pos c]
      omega
    · rw [List.filter_cons_of_neg (by simpa using c), show fmI i q = 0 from if_neg c]
      omega
theorem SPI_I (hI : Inv S) (hR : Rest S) (hi : i < s_n S) (h : SPI i c S) : aqN S i ≤ 501 + c := by
  obtain ⟨L, U, V, ⟨a1, a2, a3, a4, a5⟩, b⟩ := h
  have e : aqN S i = U.length + V.length := by
    rw [aqN_len, a1.length_eq, List.length_append]
  have d2 := (hI.2.1 i hi).2.2.1.2
  have k := ap2_len 500 U (now S).toInt a2 (fun x hx => by
    have hm : x ∈ aT i (s_ms S) := a1.mem_iff.mpr (List.mem_append_left _ hx)
    unfold aT at hm
    obtain ⟨q, hq, rfl⟩ := List.mem_map.mp hm
    have h1 : (now S).toInt < tmJ q := hR.1 q (List.mem_filter.mp hq).1
    have h2 := a3 _ hx
    omega)
  omega
end SMX
