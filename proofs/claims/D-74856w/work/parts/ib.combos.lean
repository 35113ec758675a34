/-! ROOM: all nodes in classes, every combination fits -/
set_option maxRecDepth 100000
/-- the classes' tables -/
def ctab (k : Nat) : List LR := if k = 0 then tQS else if k = 1 then tQd else if k = 2 then tSS else if k = 3 then tS5 else if k = 4 then tD3a else if k = 5 then tD3b else if k = 6 then tL6 else if k = 7 then tDpJ0 else if k = 8 then tL6c else if k = 9 then tDca else if k = 10 then tDcJ else if k = 11 then tSSJ else if k = 12 then tD3J else if k = 13 then tD3K else if k = 14 then tDpJ else if k = 15 then tL6J else if k = 16 then tS5n else if k = 17 then tD3n else tD3c
def cE (k : Nat) : Nat := if k = 6 then 784 else if k = 8 then 784 else if k = 15 then 784 else 0
def cH (k : Nat) : Nat := (ctab k).length - 1
def cB (k : Nat) : Nat := lpb (ctab k) (cH k)
def monB (k : Nat) : Bool := (List.range (cH k + 1)).all fun j => Nat.ble (lpb (ctab k) j) (cB k)
theorem mon_all : (List.range 19).all monB = true := by decide +kernel
def clsOK (C : SS) (i : Nat) (cond : Nat → Nat → Prop) (k : Nat) : Prop := k < 19 ∧ NODEOK C i cond (cH k) (lpa (ctab k)) (lpb (ctab k)) 11 (cE k)
def mnH (ks : List Nat) : Nat := ks.foldr (fun k h => min (cH k) h) 64
def mxB (ks : List Nat) : Nat := ks.foldr (fun k b => max (cB k) b) 0
def mxE (ks : List Nat) : Nat := ks.foldr (fun k e => max (cE k) e) 0
def smA (ks : List Nat) (N : Nat) : Nat := (ks.map fun k => lpa (ctab k) N).sum
/-- n nodes of these classes (the active ones), at least s campaigns, lo to hi other calls, cb bytes -/
def chkC (n s lo cb hi : Nat) (ks : List Nat) : Bool := chk (smA ks) (mnH ks) (mxB ks) (n * 11 + mxE ks) (mxE ks * n) n s cb lo hi
def allK : Nat → List Nat → (List Nat → Bool) → Bool
  | 0, _, p => p []
  | n + 1, ks, p => ks.all fun k => allK n ks fun l => p (k :: l)
section CMB
variable {L : LG} {C : SS} {cond : Nat → Nat → Prop} {i k : Nat}
theorem allK_at : ∀ (n : Nat) (ks : List Nat) (p : List Nat → Bool), allK n ks p = true → ∀ l : List Nat, l.length = n → (∀ x ∈ l, x ∈ ks) → p l = true
  | 0, ks, p, h, [], _, _ => h
  | n + 1, ks, p, h, x :: l, hl, hx => by
    unfold allK at h
    have a := List.all_eq_true.mp h x (hx x (List.mem_cons_self ..))
    exact allK_at n ks (fun l => p (x :: l)) a l (by simpa using hl) (fun y hy => hx y (List.mem_cons_of_mem _ hy))
  | 0, _, _, _, _ :: _, hl, _ => by simp at hl
  | _ + 1, _, _, _, [], hl, _ => by simp at hl
theorem mon_at (hk : k < 19) {j : Nat} (hj : j ≤ cH k) : lpb (ctab k) j ≤ cB k := by
  have a := List.all_eq_true.mp mon_all k (List.mem_range.mpr hk)
  exact Nat.le_of_ble_eq_true (List.all_eq_true.mp a j (List.mem_range.mpr (by omega)))
theorem mem_bounds {ks : List Nat} (h : k ∈ ks) : mnH ks ≤ cH k ∧ cB k ≤ mxB ks ∧ cE k ≤ mxE ks := by
  unfold mnH mxB mxE
  induction ks with
  | nil => cases h
  | cons x l ih =>
    rw [List.foldr_cons, List.foldr_cons, List.foldr_cons]
    rcases List.mem_cons.mp h with rfl | h
    · omega
    · have := ih h
      omega
/-- the nodes af are active, in the classes κ; ks: the list of these classes -/
theorem fin_cls {n s lo cb hi : Nat} {κ : Nat → Nat} {af : Nat → Bool} {ks : List Nat} (hA : ACCT L) (hn : s_n (lgC L) = n) (hm : ∀ x y x' y' : Nat, x ≤ x' → y ≤ y' → cond x' y' → cond x y) (hc : cond (lgx L) (lgy L)) (hκ : ∀ i : Nat, i < n → af i = true → κ i ∈ ks ∧ clsOK (lgC L) i cond (κ i)) (hf : ∀ i : Nat, i < n → lgM L i ≠ 0 → af i = true)
    (hs : ∀ N : Nat, sN n (fun i => if af i = true then lpa (ctab (κ i)) N else 0) ≤ smA ks N) (hk : chkC n s lo cb hi ks = true) (h64 : lgA L ≤ 64) (hcb : cb ≤ lgB L) (hy : s ≤ lgx L ∨ lgy L = 0) (hlo : lo ≤ lgx L + lgy L) (hhi : lgx L + lgy L ≤ hi) : lgU L ≤ 9400 * lgA L := by
  obtain ⟨ag, hag⟩ : ∃ ag : Nat → Bool, ∀ i : Nat, ag i = true ↔ (af i = true ∧ i < n) := ⟨fun i => af i && decide (i < n), fun i => by simp⟩
  have P := plan_sum (C := lgC L) (cond := cond) (H := mnH ks) (af := ag) (aa := fun i => lpa (ctab (κ i))) (bb := fun i => lpb (ctab (κ i))) (e1 := 11) (e2 := mxE ks) (fun i hi ha => by
    obtain ⟨k1, k2, k3⟩ := hκ i (by omega) ((hag i).mp ha).1
    obtain ⟨b1, b2, b3⟩ := mem_bounds k1
    exact (k3.low b1).up (Nat.le_refl _) b3)
  rw [hn] at P
  refine fin_of (cond := cond) (Af := fun i => ag i = true) (H := mnH ks) (bm := mxB ks) hA P hm (fun j i hj => ?_) hc (fun i hi hx => (hag i).mpr ⟨hf i (by omega) hx, by omega⟩) hk hn ?_ h64 hcb (by omega) hlo hhi
  · show (if ag i = true then lpb (ctab (κ i)) j else 0) ≤ mxB ks
    by_cases ha : ag i = true
    · rw [if_pos ha]
      obtain ⟨x1, x2⟩ := (hag i).mp ha
      obtain ⟨k1, k2, k3⟩ := hκ i x2 x1
      obtain ⟨b1, b2, b3⟩ := mem_bounds k1
      exact Nat.le_trans (mon_at k2 (Nat.le_trans hj b1)) b2
    · rw [if_neg ha]
      exact Nat.zero_le _
  · show sN n (fun i => if ag i = true then lpa (ctab (κ i)) (lgN L) else 0) ≤ _
    have e : sN n (fun i => if ag i = true then lpa (ctab (κ i)) (lgN L) else 0) = sN n (fun i => if af i = true then lpa (ctab (κ i)) (lgN L) else 0) := sN_eq (fun i hi => by
      by_cases ha : af i = true
      · rw [if_pos ha, if_pos ((hag i).mpr ⟨ha, hi⟩)]
      · rw [if_neg ha, if_neg (fun h => ha ((hag i).mp h).1)])
    rw [e]
    exact hs _
/-- all nodes counted as active -/
theorem fin_all {n cb : Nat} {κ : Nat → Nat} (hA : ACCT L) (hn : s_n (lgC L) = n) (hκ : ∀ i : Nat, i < n → clsOK (lgC L) i (fun _ _ => True) (κ i)) (hk : chkC n 1 1 cb 64 ((List.range n).map κ) = true) (h64 : lgA L ≤ 64) (hcb : cb ≤ lgB L) (hy : 1 ≤ lgx L) : lgU L ≤ 9400 * lgA L := by
  refine fin_cls (cond := fun _ _ => True) (af := fun _ => true) (κ := κ) hA hn (fun _ _ _ _ _ _ _ => trivial) trivial (fun i hi _ => ⟨List.mem_map.mpr ⟨i, List.mem_range.mpr hi, rfl⟩, hκ i hi⟩) (fun _ _ _ => rfl) (fun N => ?_) hk h64 hcb (Or.inl hy) (by omega) (by unfold lgA at h64; omega)
  unfold smA sN
  rw [List.map_map]
  exact Nat.le_refl _
/-- no node is active -/
theorem fin_none {n cb : Nat} (hA : ACCT L) (hn : s_n (lgC L) = n) (hf : ∀ i : Nat, i < n → lgM L i = 0) (hk : chkC n 0 0 cb 64 [] = true) (h64 : lgA L ≤ 64) (hcb : cb ≤ lgB L) : lgU L ≤ 9400 * lgA L := by
  refine fin_cls (cond := fun _ _ => True) (af := fun _ => false) (κ := fun _ => 0) hA hn (fun _ _ _ _ _ _ _ => trivial) trivial (fun i hi h => by cases h) (fun i hi hx => absurd (hf i hi) hx) (fun N => ?_) hk h64 hcb (Or.inl (Nat.zero_le _)) (Nat.zero_le _) (by unfold lgA at h64; omega)
  have : sN n (fun i => if false = true then lpa (ctab 0) N else 0) = sN n (fun _ => 0) := sN_eq (fun i _ => if_neg (by decide))
  rw [this, sN_cs, Nat.mul_zero]
  exact Nat.zero_le _
end CMB
