/-! ROOM: what a lineage uses: by nodes and options -/
set_option maxRecDepth 100000
section LIN
variable {L : LG} {c : CS} {cl sl n cb : Nat}
theorem sN_ge {n m : Nat} {F : Nat → Nat} (h : ∀ i : Nat, i < n → m ≤ F i) : n * m ≤ sN n F := by
  rw [← sN_cs]
  exact sN_le h
/-- all nodes are in classes of the set ks -/
theorem fin_set {ks : List Nat} (hA : ACCT L) (hn : s_n (lgC L) = n) (h : ∀ i : Nat, i < n → ∃ k ∈ ks, clsOK (lgC L) i (fun _ _ => True) k) (hk : allK n ks (chkC n 1 1 cb 64) = true) (h64 : lgA L ≤ 64) (hcb : cb ≤ lgB L) (hy : 1 ≤ lgx L) : lgU L ≤ 9400 * lgA L := by
  obtain ⟨κ, hκ⟩ : ∃ κ : Nat → Nat, ∀ i : Nat, i < n → κ i ∈ ks ∧ clsOK (lgC L) i (fun _ _ => True) (κ i) := by
    have key : ∀ i : Nat, ∃ k : Nat, i < n → k ∈ ks ∧ clsOK (lgC L) i (fun _ _ => True) k := fun i => by
      by_cases hi : i < n
      · obtain ⟨k, h1, h2⟩ := h i hi
        exact ⟨k, fun _ => ⟨h1, h2⟩⟩
      · exact ⟨0, fun hx => absurd hx hi⟩
    exact Classical.axiomOfChoice key
  refine fin_all (n := n) (cb := cb) (κ := κ) hA hn (fun i hi => (hκ i hi).2) ?_ h64 hcb hy
  refine allK_at n ks _ hk _ (by simp) (fun x hx => ?_)
  obtain ⟨i, hi, rfl⟩ := List.mem_map.mp hx
  exact (hκ i (List.mem_range.mp hi)).1
/-- one node -/
theorem fin_1 {k lo s : Nat} {cond : Nat → Nat → Prop} (hA : ACCT L) (hn : s_n (lgC L) = 1) (hm : ∀ x y x' y' : Nat, x ≤ x' → y ≤ y' → cond x' y' → cond x y) (hc : cond (lgx L) (lgy L)) (h : clsOK (lgC L) 0 cond k) (hk : chkC 1 s lo cb 64 [k] = true) (h64 : lgA L ≤ 64) (hcb : cb ≤ lgB L) (hy : s ≤ lgx L ∨ lgy L = 0) (hlo : lo ≤ lgx L + lgy L) : lgU L ≤ 9400 * lgA L := by
  refine fin_cls (cond := cond) (af := fun _ => true) (κ := fun _ => k) hA hn hm hc (fun i hi _ => ⟨List.mem_singleton.mpr rfl, ?_⟩) (fun _ _ _ => rfl) (fun N => Nat.le_refl _) hk h64 hcb hy hlo (by unfold lgA at h64; omega)
  have : i = 0 := by omega
  rw [this]
  exact h
/-- one node of two is active -/
theorem fin_2s {k i0 : Nat} (hA : ACCT L) (hn : s_n (lgC L) = 2) (hi0 : i0 < 2) (h : clsOK (lgC L) i0 (fun _ _ => True) k) (ho : ∀ i : Nat, i < 2 → i ≠ i0 → lgM L i = 0) (hk : chkC 2 1 1 cb 64 [k] = true) (h64 : lgA L ≤ 64) (hcb : cb ≤ lgB L) (hy : 1 ≤ lgx L) : lgU L ≤ 9400 * lgA L := by
  refine fin_cls (cond := fun _ _ => True) (af := fun i => decide (i = i0)) (κ := fun _ => k) hA hn (fun _ _ _ _ _ _ _ => trivial) trivial (fun i hi ha => ⟨List.mem_singleton.mpr rfl, ?_⟩) (fun i hi hx => ?_) (fun N => ?_) hk h64 hcb (Or.inl hy) (by omega) (by unfold lgA at h64; omega)
  · have : i = i0 := by simpa using ha
    rw [this]
    exact h
  · exact decide_eq_true (Decidable.byContradiction fun hne => hx (ho i hi hne))
  · show sN 2 (fun i => if decide (i = i0) = true then lpa (ctab k) N else 0) ≤ lpa (ctab k) N + 0
    rw [sN2]
    have : i0 = 0 ∨ i0 = 1 := by omega
    rcases this with rfl | rfl
    · rw [if_pos (by decide), if_neg (by decide)]
      exact Nat.le_refl _
    · rw [if_neg (by decide), if_pos (by decide)]
      omega
/-- both of two nodes are active -/
theorem fin_2b {k0 k1 : Nat} (hA : ACCT L) (hn : s_n (lgC L) = 2) (h0 : clsOK (lgC L) 0 (fun _ _ => True) k0) (h1 : clsOK (lgC L) 1 (fun _ _ => True) k1) (hk : chkC 2 2 2 cb 64 [k0, k1] = true) (h64 : lgA L ≤ 64) (hcb : cb ≤ lgB L) (hy : 2 ≤ lgx L) : lgU L ≤ 9400 * lgA L := by
  refine fin_cls (cond := fun _ _ => True) (af := fun _ => true) (κ := fun i => if i = 0 then k0 else k1) hA hn (fun _ _ _ _ _ _ _ => trivial) trivial (fun i hi ha => ?_) (fun i hi hx => rfl) (fun N => ?_) hk h64 hcb (Or.inl hy) (by omega) (by unfold lgA at h64; omega)
  · have : i = 0 ∨ i = 1 := by omega
    rcases this with rfl | rfl
    · exact ⟨List.mem_cons_self .., h0⟩
    · exact ⟨List.mem_cons_of_mem _ (List.mem_singleton.mpr rfl), h1⟩
  · rw [sN2]
    show lpa (ctab k0) N + lpa (ctab k1) N ≤ lpa (ctab k0) N + (lpa (ctab k1) N + 0)
    omega
/-- a pair's plan -/
theorem fin_P {t : List LR} {cond : Nat → Nat → Prop} {H bm lo hi : Nat} (hA : ACCT L) (hn : s_n (lgC L) = 2) (hs : STEPOK (lgC L) cond (fun _ => True) H (lpa t) (fun j _ => lpb t j) 22 0) (hm : ∀ x y x' y' : Nat, x ≤ x' → y ≤ y' → cond x' y' → cond x y) (hc : cond (lgx L) (lgy L)) (hb : ∀ j : Nat, j ≤ H → lpb t j ≤ bm) (hk : chk (lpa t) H bm 22 0 2 2 cb lo hi = true) (h64 : lgA L ≤ 64) (hcb : cb ≤ lgB L) (hy : 2 ≤ lgx L) (hlo : lo ≤ lgx L + lgy L) (hhi : lgx L + lgy L ≤ hi) : lgU L ≤ 9400 * lgA L :=
  fin_of (cond := cond) (Af := fun _ => True) (H := H) (bm := bm) hA hs hm (fun j i hj => hb j hj) hc (fun _ _ _ => trivial) hk hn (Nat.le_refl _) h64 hcb (by omega) hlo hhi
/-- the ledger and the configuration -/
def LOK (L : LG) (c : CS) (cl sl : Nat) : Prop := lgC L = SC c cl sl ∧ RGC c ∧ dft c ∧ 1 ≤ c.2.1.length ∧ c.2.1.length ≤ 6 ∧ cst c ≤ lgB L
/-- A -/
theorem lin_A (hA : ACCT L) (hL : LOK L c cl sl) (h64 : lgA L ≤ 64) (hy : 1 ≤ lgx L) (h6 : c.1 6 = 500) (h5 : c.1 5 = 2000) : lgU L ≤ 9400 * lgA L := by
  obtain ⟨hC, hg, hd, n1, n6, hb⟩ := hL
  have cn := cst_nodes (c := c)
  have bn := sN_ge (n := c.2.1.length) (m := 12) (F := bN c) (fun i hi => bN_12 hg hi)
  obtain ⟨n, hn⟩ : ∃ n, c.2.1.length = n := ⟨_, rfl⟩
  have hn' : s_n (lgC L) = n := by rw [hC]; exact hn
  have k : ∀ i : Nat, i < n → ∃ k ∈ [0, 1], clsOK (lgC L) i (fun _ _ => True) k := fun i hi => by
    rw [hC]
    exact cl_A hg (by omega) h6 h5
  rw [hn] at cn bn n1 n6
  have n5 : n ≤ 5 := by
    unfold lgA at h64
    unfold bN at bn
    omega
  have ok := List.all_eq_true.mp ok_A.1 (n - 1) (List.mem_range.mpr (by omega))
  have e : n - 1 + 1 = n := by omega
  rw [e] at ok
  refine fin_set hA hn' k ok h64 ?_ hy
  unfold bN at bn
  omega
/-- U: any configuration, where few calls are left -/
theorem lin_U (hA : ACCT L) (hL : LOK L c cl sl) (h64 : lgA L ≤ 64) (hy : 1 ≤ lgx L) (hb2 : (c.2.1.length = 1 ∧ 36 ≤ cst c) ∨ (c.2.1.length = 2 ∧ 48 ≤ cst c) ∨ (c.2.1.length = 3 ∧ 52 ≤ cst c) ∨ (c.2.1.length = 4 ∧ 56 ≤ cst c) ∨ (c.2.1.length = 5)) : lgU L ≤ 9400 * lgA L := by
  obtain ⟨hC, hg, hd, n1, n6, hb⟩ := hL
  have cn := cst_nodes (c := c)
  have bn := sN_ge (n := c.2.1.length) (m := 12) (F := bN c) (fun i hi => bN_12 hg hi)
  have k : ∀ i : Nat, i < c.2.1.length → ∃ k ∈ [10, 15], clsOK (lgC L) i (fun _ _ => True) k := fun i hi => by
    rw [hC]
    exact cl_U hg hi
  have hn' : s_n (lgC L) = c.2.1.length := by rw [hC]; rfl
  obtain ⟨u1, u2, u3, u4, u5⟩ := ok_U
  rcases hb2 with ⟨e, q⟩ | ⟨e, q⟩ | ⟨e, q⟩ | ⟨e, q⟩ | e
  · rw [e] at k hn'
    exact fin_set hA hn' k u1 h64 (by omega) hy
  · rw [e] at k hn'
    exact fin_set hA hn' k u2 h64 (by omega) hy
  · rw [e] at k hn'
    exact fin_set hA hn' k u3 h64 (by omega) hy
  · rw [e] at k hn'
    exact fin_set hA hn' k u4 h64 (by omega) hy
  · rw [e] at k hn' bn cn
    refine fin_set hA hn' k u5 h64 ?_ hy
    unfold bN at bn
    omega
end LIN
