/-! COPY of a simulation: addAll into an empty list of a block -/
set_option maxRecDepth 100000
def aaK (c0 len : Nat) : Nat := if len ≤ c0 then c0 else c0 + max (len - c0) (c0 / 2)
def aaC (c0 len : Nat) : Nat := if len ≤ c0 then 1 else 2
def aaS (c0 len : Nat) : Nat := if len ≤ c0 then len else len + aaK c0 len
section AA
variable {h : PH} {cs : List va_E} {k : Nat}
theorem set_app {l : List va_E} {i : Nat} {x : va_E} (hi : i < cs.length) : (cs ++ l).set i x = cs.set i x ++ l := List.set_append_left i x hi
theorem get_lt {i : Nat} {x : va_E} (hi : cs[i]? = some x) : i < cs.length := (List.getElem?_eq_some_iff.mp hi).1
/-- the row grows to hold len -/
theorem b_grow {p c0 len : Nat} {md : Int32} (hb : pbase h ≤ pn h) (hp : cs[p]? = some (cLst md (pn h + (p + 1)) 0)) (hq : cs[p + 1]? = some (.inl (h.2.1.2.1 4, c0, refs fun _ => none))) (h0 : 0 < c0) (h04 : c0 ≤ 4) (hlen : c0 < len) (hl2 : len ≤ 50000000) (h1 : cs.length + 1 ≤ pcl h) (h2 : k + aaK c0 len ≤ psl h) :
    f_J2_grow_2 (some (pn h + p)) (Int32.ofNat len) (bh h cs k) = some (some (pn h + cs.length), bh h (cs.set p (cLst md (pn h + cs.length) 0) ++ [.inl (h.2.1.2.1 4, aaK c0 len, refs fun _ => none)]) (k + aaK c0 len)) := by
  have hk : aaK c0 len = c0 + max (len - c0) (c0 / 2) := if_neg (by omega)
  unfold f_J2_grow_2
  have c1 : (bh h cs k).1 (pn h + p) = some (cLst md (pn h + (p + 1)) 0) := bh_at hp
  have c2 : (bh h cs k).1 (pn h + (p + 1)) = some (.inl ((bh h cs k).2.1.2.1 4, c0, refs fun _ => none)) := bh_at hq
  rw [gR_at c1 (v := pn h + (p + 1)) rfl, aN_at c2]
  rw [if_pos (show (0 : Int32) < Int32.ofNat c0 by rw [show (0 : Int32) = Int32.ofNat 0 from rfl, of_lt (by omega) (by omega)]; exact h0)]
  unfold f_J2_grow_2_B20 f_J11_newLength
  rw [of_sub (show c0 ≤ len by omega), of_shr (by omega), of_max (by omega) (by omega), of_add, ← hk]
  have hK : aaK c0 len ≤ 60000000 := by omega
  have d1 : ¬ Int32.ofNat (aaK c0 len) ≤ 0 := by
    rw [show (0 : Int32) = Int32.ofNat 0 from rfl, of_le (by omega) (by omega)]
    omega
  have d2 : ¬ (2147483639 : Int32) < Int32.ofNat (aaK c0 len) := by
    rw [show (2147483639 : Int32) = Int32.ofNat 2147483639 from rfl, of_lt (by omega) (by omega)]
    omega
  rw [if_neg d1, if_neg d2]
  simp only [cl_]
  rw [gR_at c1 (v := pn h + (p + 1)) rfl]
  have hl := get_lt hq
  rw [b_copyOf hb (a := pn h + (p + 1)) (c := c0) (f := fun _ => none) (bh_at hq) (by omega) (by omega) hK (by omega) (fun j _ => Or.inl rfl) h1 h2]
  simp only []
  have e1 : va_cpy (fun _ => none : Nat → Option Nat) (fun _ => none) 0 0 (min (aaK c0 len) c0) = fun _ => none := by
    funext j
    show (if 0 ≤ j ∧ j < 0 + min (aaK c0 len) c0 then none else none) = none
    split <;> rfl
  rw [e1, b_pV hb (show (cs ++ [_])[p]? = _ from by rw [List.getElem?_append_left (by omega)]; exact hp) (Nat.le_of_ble_eq_true rfl), set_app (by omega)]
  rfl
theorem b_addAll {p src e len c c0 : Nat} {m : Int32} {f : Nat → Option Nat} (hb : pbase h ≤ pn h) (hs : h.1 src = some (cLst m e len)) (hsl : src < pn h) (he : h.1 e = some (.inl (h.2.1.2.1 4, c, refs f))) (hel : e < pn h) (heb : pbase h ≤ e) (hlc : len ≤ c) (hc : c < 2 ^ 30) (hl2 : len ≤ 50000000) (hok : ∀ j : Nat, j < len → elH h (f j))
    (hp : cs[p]? = some (cLst 0 (pn h + (p + 1)) 0)) (hq : cs[p + 1]? = some (.inl (h.2.1.2.1 4, c0, refs fun _ => none))) (h0 : 0 < c0) (h04 : c0 ≤ 4) (h1 : cs.length + 2 ≤ pcl h) (h2 : k + aaS c0 len ≤ psl h) :
    ∃ (x : Int32) (cs' : List va_E) (q : Nat) (g : Nat → Option Nat), f_J2_addAll (some (pn h + p)) (some src) (bh h cs k) = some (x, bh h cs' (k + aaS c0 len)) ∧ cs'.length = cs.length + aaC c0 len ∧ cs'[p]? = some (cLst 1 (pn h + q) len) ∧ cs'[q]? = some (.inl (h.2.1.2.1 4, aaK c0 len, refs g)) ∧ (∀ j : Nat, j < len → g j = f j) ∧ (∀ j : Nat, len ≤ j → g j = none) ∧ (q = p + 1 ∨ cs.length ≤ q) ∧ ∀ j : Nat, j ≠ p → j ≠ p + 1 → j < cs.length → cs'[j]? = cs[j]? := by
  have hpl := get_lt hp
  have hql := get_lt hq
  have s1 : ∀ (l : List va_E) (kk : Nat), (bh h l kk).1 src = some (cLst m e len) := fun l kk => by rw [bh_lo hsl]; exact hs
  have s2 : ∀ (l : List va_E) (kk : Nat), (bh h l kk).1 e = some (.inl (h.2.1.2.1 4, c, refs f)) := fun l kk => by rw [bh_lo hel]; exact he
  have hSlen : len ≤ aaS c0 len := by unfold aaS; split <;> omega
  unfold f_J2_addAll f_J2_toArray
  rw [rv_at (s1 _ _), gR_at (s1 _ _) (v := e) rfl, gI_at (s1 _ _) (v := Int32.ofNat len) rfl]
  simp only [cl_]
  rw [b_copyOf hb (a := e) (m := len) (s2 _ _) heb (by omega) (by omega) hc (fun j hj => hok j (by omega)) (by omega) (by omega)]
  simp only []
  rw [Nat.min_eq_left hlc]
  have arr : ∀ (l : List va_E) (kk : Nat), l.length = cs.length → (bh h (l ++ [.inl (h.2.1.2.1 4, len, refs (va_cpy f (fun _ => none) 0 0 len))]) kk).1 (pn h + cs.length) = some (.inl (h.2.1.2.1 4, len, refs (va_cpy f (fun _ => none) 0 0 len))) := fun l kk hl => by rw [← hl]; exact bh_at get_end
  have hp1 : (cs ++ [Sum.inl (h.2.1.2.1 4, len, refs (va_cpy f (fun _ => none) 0 0 len))])[p]? = some (cLst 0 (pn h + (p + 1)) 0) := by rw [List.getElem?_append_left hpl]; exact hp
  rw [gIN_at (h := bh h _ _) (bh_at hp1) (by rw [bh_base]; omega) (v := 0) rfl, b_pV hb hp1 (Nat.le_of_ble_eq_true rfl), set_app hpl]
  rw [show (Sum.inr (19, List.set [Value.int 0, Value.ref (pn h + (p + 1)), Value.int (Int32.ofNat 0)] 0 (Value.int ((0 : Int32) + 1))) : va_E) = cLst 1 (pn h + (p + 1)) 0 from rfl]
  have hl1 : (cs.set p (cLst 1 (pn h + (p + 1)) 0)).length = cs.length := List.length_set
  rw [aN_at (h := bh h _ _) (t := 4) (arr _ _ hl1)]
  have row : ∀ j : Nat, j < len → va_cpy f (fun _ => none) 0 0 len j = f j := fun j hj => by
    show (if 0 ≤ j ∧ j < 0 + len then f (0 + (j - 0)) else none) = f j
    rw [if_pos (by omega)]
    congr 1
    omega
  have row0 : ∀ j : Nat, len ≤ j → va_cpy f (fun _ => none) 0 0 len j = none := fun j hj => by
    show (if 0 ≤ j ∧ j < 0 + len then f (0 + (j - 0)) else none) = none
    rw [if_neg (by omega)]
  have gp : (cs.set p (cLst 1 (pn h + (p + 1)) 0) ++ [Sum.inl (h.2.1.2.1 4, len, refs (va_cpy f (fun _ => none) 0 0 len))])[p]? = some (cLst 1 (pn h + (p + 1)) 0) := by rw [List.getElem?_append_left (by omega), List.getElem?_set_self hpl]
  have gq : (cs.set p (cLst 1 (pn h + (p + 1)) 0) ++ [Sum.inl (h.2.1.2.1 4, len, refs (va_cpy f (fun _ => none) 0 0 len))])[p + 1]? = some (.inl (h.2.1.2.1 4, c0, refs fun _ => none)) := by rw [List.getElem?_append_left (by omega), List.getElem?_set_ne (by omega)]; exact hq
  by_cases z : len = 0
  · subst z
    rw [if_pos (show Int32.ofNat 0 = 0 from rfl)]
    refine ⟨0, _, p + 1, fun _ => none, rN_at nar01.1, ?_, gp, ?_, fun j hj => absurd hj (Nat.not_lt_zero j), fun j _ => rfl, Or.inl rfl, fun j j1 j2 j3 => ?_⟩
    · unfold aaC
      rw [if_pos (Nat.zero_le _)]
      simp
    · rw [show aaK c0 0 = c0 from if_pos (Nat.zero_le _)]
      exact gq
    · rw [List.getElem?_append_left (by omega), List.getElem?_set_ne (Ne.symm j1)]
  · rw [if_neg (show ¬ Int32.ofNat len = 0 from fun hx => z ((of_inj (by omega) (by decide)).mp hx))]
    rw [gR_at (h := bh h _ _) (bh_at gp) (v := pn h + (p + 1)) rfl, aN_at (h := bh h _ _) (t := 4) (bh_at gq), gI_at (h := bh h _ _) (bh_at gp) (v := Int32.ofNat 0) rfl, of_sub (Nat.zero_le _), Nat.sub_zero]
    by_cases hle : len ≤ c0
    · rw [if_pos ((of_le (by omega) (by omega)).mpr hle)]
      unfold f_J2_addAll_B56
      have hS : aaS c0 len = len := if_pos hle
      rw [show (0 : Int32) = Int32.ofNat 0 from rfl, ycQ_at (h := bh h _ _) (a := pn h + cs.length) (b := pn h + (p + 1)) (arr _ _ hl1) (bh_at gq) (by rw [bh_base]; omega) (by rw [bh_base]; omega) (by omega) (by omega) (by decide) (by decide) (by omega) (fun i hi => by rw [Nat.zero_add, row i hi]; exact elH_ok (hok i hi))]
      rw [show ∀ (l : List va_E) (kk : Nat), (bh h l kk).2.1.2.1 4 = h.2.1.2.1 4 from fun _ _ => rfl]
      rw [bh_set (by rw [List.length_append, hl1]; omega), set_app (by rw [hl1]; omega)]
      have gp2 : ∀ y : va_E, ((cs.set p (cLst 1 (pn h + (p + 1)) 0)).set (p + 1) y ++ [Sum.inl (h.2.1.2.1 4, len, refs (va_cpy f (fun _ => none) 0 0 len))])[p]? = some (cLst 1 (pn h + (p + 1)) 0) := fun y => by rw [List.getElem?_append_left (by simp; omega), List.getElem?_set_ne (by omega), List.getElem?_set_self hpl]
      rw [b_pV hb (gp2 _) (Nat.le_of_ble_eq_true rfl), set_app (by simp; omega)]
      rw [of_add, Nat.zero_add]
      rw [hS]
      refine ⟨1, _, p + 1, va_cpy (va_cpy f (fun _ => none) 0 0 len) (fun _ => none) 0 0 len, rN_at nar01.2, ?_, ?_, ?_, fun j hj => ?_, fun j hj => ?_, Or.inl rfl, fun j j1 j2 j3 => ?_⟩
      · unfold aaC
        rw [if_pos hle]
        simp
      · rw [List.getElem?_append_left (by simp; omega), List.getElem?_set_self (by simp; omega)]
        rfl
      · rw [show aaK c0 len = c0 from if_pos hle]
        rw [List.getElem?_append_left (by simp; omega), List.getElem?_set_ne (by omega), List.getElem?_set_self (by simp; omega)]
      · show (if 0 ≤ j ∧ j < 0 + len then va_cpy f (fun _ => none) 0 0 len (0 + (j - 0)) else none) = f j
        rw [if_pos (by omega), show 0 + (j - 0) = j from by omega]
        exact row j hj
      · show (if 0 ≤ j ∧ j < 0 + len then va_cpy f (fun _ => none) 0 0 len (0 + (j - 0)) else none) = none
        rw [if_neg (by omega)]
      · rw [List.getElem?_append_left (by simp; omega), List.getElem?_set_ne (Ne.symm j1), List.getElem?_set_ne (Ne.symm j2), List.getElem?_set_ne (Ne.symm j1)]
    · rw [if_neg (fun hx => hle ((of_le (by omega) (by omega)).mp hx))]
      have hS : aaS c0 len = len + aaK c0 len := if_neg hle
      have hK : c0 ≤ aaK c0 len ∧ len ≤ aaK c0 len := by unfold aaK; rw [if_neg hle]; omega
      have hK2 : aaK c0 len ≤ 60000000 := by unfold aaK; rw [if_neg hle]; omega
      rw [rv_at (h := bh h _ _) (bh_at gp), of_add, Nat.zero_add]
      have hL : (cs.set p (cLst 1 (pn h + (p + 1)) 0) ++ [Sum.inl (h.2.1.2.1 4, len, refs (va_cpy f (fun _ => none) 0 0 len))]).length = cs.length + 1 := by rw [List.length_append, hl1]; rfl
      rw [b_grow hb gp gq h0 h04 (by omega) hl2 (by rw [hL]; omega) (by omega)]
      simp only []
      unfold f_J2_addAll_B56
      rw [hL, set_app (by rw [hl1]; exact hpl), List.set_set, List.append_assoc]
      have hl3 : ∀ y : va_E, (cs.set p y).length = cs.length := fun y => List.length_set
      have arr2 : ∀ (y z : va_E) (kk : Nat), (bh h (cs.set p y ++ ([.inl (h.2.1.2.1 4, len, refs (va_cpy f (fun _ => none) 0 0 len))] ++ [z])) kk).1 (pn h + cs.length) = some (.inl (h.2.1.2.1 4, len, refs (va_cpy f (fun _ => none) 0 0 len))) := fun y z kk => bh_at (i := cs.length) (by rw [← hl3 y]; exact get_end)
      have g1 : ∀ y z : va_E, (cs.set p y ++ ([Sum.inl (h.2.1.2.1 4, len, refs (va_cpy f (fun _ => none) 0 0 len))] ++ [z]))[cs.length + 1]? = some z := fun y z => by rw [← hl3 y]; exact get_end1
      rw [show (0 : Int32) = Int32.ofNat 0 from rfl, ycQ_at (h := bh h _ _) (a := pn h + cs.length) (b := pn h + (cs.length + 1)) (arr2 _ _ _) (bh_at (g1 _ _)) (by rw [bh_base]; omega) (by rw [bh_base]; omega) (by omega) (by omega) (by decide) (by decide) (by omega) (fun i hi => by rw [Nat.zero_add, row i hi]; exact elH_ok (hok i hi))]
      rw [show ∀ (l : List va_E) (kk : Nat), (bh h l kk).2.1.2.1 4 = h.2.1.2.1 4 from fun _ _ => rfl]
      have st : ∀ y z w : va_E, (cs.set p y ++ ([Sum.inl (h.2.1.2.1 4, len, refs (va_cpy f (fun _ => none) 0 0 len))] ++ [z])).set (cs.length + 1) w = cs.set p y ++ [Sum.inl (h.2.1.2.1 4, len, refs (va_cpy f (fun _ => none) 0 0 len)), w] := fun y z w => by rw [← hl3 y]; exact set_end1
      rw [bh_set (by simp), st]
      have gp3 : ∀ (y : va_E) (l : List va_E), (cs.set p y ++ l)[p]? = some y := fun y l => by rw [List.getElem?_append_left (by simp; omega), List.getElem?_set_self hpl]
      rw [b_pV (ci := 19) (fs := [.int 1, .ref (pn h + (cs.length + 1)), .int (Int32.ofNat 0)]) hb (gp3 (cLst 1 (pn h + (cs.length + 1)) 0) _) (Nat.le_of_ble_eq_true rfl), set_app (by simp; omega), List.set_set, of_add, Nat.zero_add]
      rw [hS, show k + (len + aaK c0 len) = k + len + aaK c0 len from (Nat.add_assoc _ _ _).symm]
      refine ⟨1, _, cs.length + 1, va_cpy (va_cpy f (fun _ => none) 0 0 len) (fun _ => none) 0 0 len, rN_at nar01.2, ?_, ?_, ?_, fun j hj => ?_, fun j hj => ?_, Or.inr (by omega), fun j j1 j2 j3 => ?_⟩
      · unfold aaC
        rw [if_neg hle]
        simp
      · exact gp3 _ _
      · exact g1 _ _
      · show (if 0 ≤ j ∧ j < 0 + len then va_cpy f (fun _ => none) 0 0 len (0 + (j - 0)) else none) = f j
        rw [if_pos (by omega), show 0 + (j - 0) = j from by omega]
        exact row j hj
      · show (if 0 ≤ j ∧ j < 0 + len then va_cpy f (fun _ => none) 0 0 len (0 + (j - 0)) else none) = none
        rw [if_neg (by omega)]
      · rw [List.getElem?_append_left (by simp; omega), List.getElem?_set_ne (Ne.symm j1)]
end AA
