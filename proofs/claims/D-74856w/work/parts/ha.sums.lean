/-! ROOM: cells and messages of a run -/
set_option maxRecDepth 100000
/-- a sum over the nodes -/
def sN (n : Nat) (f : Nat → Nat) : Nat := ((List.range n).map f).sum
theorem sN_s {n : Nat} {f : Nat → Nat} : sN (n + 1) f = sN n f + f n := by
  unfold sN
  rw [List.range_succ, List.map_append, List.sum_append]
  simp
theorem sN_le {f f' : Nat → Nat} : ∀ {n : Nat}, (∀ i : Nat, i < n → f i ≤ f' i) → sN n f ≤ sN n f'
  | 0, _ => Nat.le_refl _
  | n + 1, h => by
    rw [sN_s, sN_s]
    have := sN_le (n := n) (fun i hi => h i (by omega))
    have := h n (by omega)
    omega
theorem sN_cs {c : Nat} : ∀ {n : Nat}, sN n (fun _ => c) = n * c
  | 0 => by rw [Nat.zero_mul]; rfl
  | n + 1 => by rw [sN_s, sN_cs, Nat.succ_mul]
theorem sN_eq {f f' : Nat → Nat} : ∀ {n : Nat}, (∀ i : Nat, i < n → f i = f' i) → sN n f = sN n f'
  | 0, _ => rfl
  | n + 1, h => by rw [sN_s, sN_s, sN_eq (n := n) (fun i hi => h i (by omega)), h n (by omega)]
/-- one node's ghosts change -/
theorem sN_fu {F : JG → Nat} {g : Nat → JG} {i : Nat} {r : JG} : ∀ {n : Nat}, i < n → sN n (fun j => F (fu g i r j)) + F (g i) = sN n (fun j => F (g j)) + F r
  | 0, h => absurd h (Nat.not_lt_zero _)
  | n + 1, h => by
    rw [sN_s, sN_s]
    by_cases c : i = n
    · subst c
      rw [fu_eq, sN_eq (f' := fun j => F (g j)) (fun j hj => by rw [fu_ne (by omega)])]
      omega
    · rw [fu_ne (Ne.symm c)]
      have := sN_fu (F := F) (g := g) (r := r) (n := n) (i := i) (by omega)
      omega
/-- cells: a for each fire, c for each ACQUIRE at the server -/
def cG (w : MG → Nat) (a c C0 n : Nat) (S : SS) (g : Nat → JG) : Prop := GH S + ((s_ms S).map w).sum + 10 * (s_dl S).length ≤ C0 + a * sN n (fun j => jF (g j)) + c * sN n (fun j => jA (g j))
/-- messages, and timers set by a GRANT -/
def cM (M0 n : Nat) (S : SS) (g : Nat → JG) : Prop := (s_ms S).length + (s_dl S).length + sN n (fun j => if jf (g j) = 0 then 0 else 1) ≤ M0 + sN n (fun j => jR (g j))
section SMS
variable {S0 S S' : SS} {fo : MG → Nat} {g g' : Nat → JG} {s : Int} {w : MG → Nat} {a c C0 M0 n : Nat}
theorem all_sum {l : List MG} {b : Nat} (h : ∀ q ∈ l, w q ≤ b) : (l.map w).sum ≤ b * l.length := by
  induction l with
  | nil => exact Nat.zero_le _
  | cons x l ih =>
    rw [List.map_cons, List.sum_cons, List.length_cons, Nat.mul_add, Nat.mul_one]
    have := ih (fun q hq => h q (by simp [hq]))
    have := h x (by simp)
    omega
theorem GH_pass {t : Int32} : GH (pass S t) = GH S := GH_same (pass_ls (t := t) (List.range (s_n S)) (S, now S, now S)).2.2.2
theorem cG_step (hI : Inv S) (hn : s_n S = n) (h4 : ∀ q : MG, q.1 = 4 → w q ≤ 7)
    (hA : ∀ (k : Nat) (m : MG), m ∈ s_ms S → AEF S S' k m → ∃ new : List MG, s_ms S' = (s_ms S).eraseIdx k ++ new ∧ GH S' + (new.map w).sum ≤ GH S + w m + (if m.1 = 0 then c else 0))
    (h3 : ∀ i : Nat, i < s_n S → due S i = true → s_nd S i 3 ≠ 0 → 3 ≤ a ∧ ∀ q : MG, q.1 = 0 → q.2.1 = i → (now S).toInt + (s_nd S i 1).toInt ≤ tmJ q → 3 + w q ≤ a)
    (hE : JE s fo S S' g g') (hC : cG w a c C0 n S g) : cG w a c C0 n S' g' := by
  unfold cG at hC ⊢
  rcases hE with ⟨e, b | b⟩ | ⟨e, -, t, rfl, -⟩ | ⟨k, m, hk, hm, -, hl, -, b, d⟩ | ⟨j, hj, hs, hd, -, rfl, e⟩ | ⟨j, hj, hs, hd, hcd, -, b, e⟩
  · rw [e, b.2.2.1, b.2.2.2.1, GH_same b.2.2.2.2.2.1]
    exact hC
  · obtain ⟨nw, b1, b2, b3, b4, -, b6⟩ := b
    have := all_sum (w := w) (b := 7) (fun q hq => h4 q (b2 q hq))
    rw [e, b1, app_sum]
    omega
  · have em : s_ms (pass S t) = s_ms S := congrArg (fun q => q.1) (pass_l (S := S) (t := t))
    have ed : s_dl (pass S t) = s_dl S := congrArg (fun q => q.2.1) (pass_l (S := S) (t := t))
    rw [e, em, ed, GH_pass]
    exact hC
  · have hmem : m ∈ s_ms S := List.mem_of_getElem? hk
    have hi : m.2.1 < n := by
      rw [← hn]
      exact (hI.2.2.2.2.1 m hmem).1.2.1
    obtain ⟨nw, k1, k2⟩ := hA k m hmem b
    have ed : s_dl S' = s_dl S := by
      obtain ⟨-, -, x, -⟩ := b
      exact x.2.2.2.1
    have es := er_sum (f := w) hk
    have key : sN n (fun j => jF (g' j)) = sN n (fun j => jF (g j)) ∧ sN n (fun j => jA (g' j)) = sN n (fun j => jA (g j)) + (if m.1 = 0 then 1 else 0) := by
      have fl : ∀ x : Nat, sN n (fun j => jF (fu g m.2.1 (jFlag (g m.2.1) x) j)) = sN n (fun j => jF (g j)) ∧ sN n (fun j => jA (fu g m.2.1 (jFlag (g m.2.1) x) j)) = sN n (fun j => jA (g j)) := fun x => by
        have q1 := sN_fu (F := jF) (g := g) (r := jFlag (g m.2.1) x) hi
        have q2 := sN_fu (F := jA) (g := g) (r := jFlag (g m.2.1) x) hi
        have z1 : jF (jFlag (g m.2.1) x) = jF (g m.2.1) := rfl
        have z2 : jA (jFlag (g m.2.1) x) = jA (g m.2.1) := rfl
        omega
      rcases d with ⟨-, ⟨k0, e⟩ | ⟨k0, e⟩⟩ | ⟨-, -, -, ⟨k0, -, e⟩ | ⟨k0, -, e⟩⟩
      · have q1 := sN_fu (F := jF) (g := g) (r := jAcq (g m.2.1) (now S).toInt) hi
        have q2 := sN_fu (F := jA) (g := g) (r := jAcq (g m.2.1) (now S).toInt) hi
        have z1 : jF (jAcq (g m.2.1) (now S).toInt) = jF (g m.2.1) := rfl
        have z2 : jA (jAcq (g m.2.1) (now S).toInt) = jA (g m.2.1) + 1 := rfl
        rw [e, if_pos k0]
        omega
      · rw [e, if_neg k0]
        exact ⟨rfl, rfl⟩
      · rw [e, if_neg (by omega)]
        exact fl _
      · rw [e, if_neg (by omega)]
        exact fl _
    rw [key.1, key.2, k1, app_sum, ed]
    by_cases k0 : m.1 = 0
    · rw [if_pos k0, Nat.mul_add c, Nat.mul_one]
      rw [if_pos k0] at k2
      omega
    · rw [if_neg k0, Nat.add_zero]
      rw [if_neg k0] at k2
      omega
  · have fl : sN n (fun j' => jF (fu g j (jFlag (g j) 0) j')) = sN n (fun j' => jF (g j')) ∧ sN n (fun j' => jA (fu g j (jFlag (g j) 0) j')) = sN n (fun j' => jA (g j')) := by
      have q1 := sN_fu (F := jF) (g := g) (r := jFlag (g j) 0) (n := n) (i := j) (by omega)
      have q2 := sN_fu (F := jA) (g := g) (r := jFlag (g j) 0) (n := n) (i := j) (by omega)
      have z1 : jF (jFlag (g j) 0) = jF (g j) := rfl
      have z2 : jA (jFlag (g j) 0) = jA (g j) := rfl
      omega
    have eg : GH (u_nd S j 8 (-4)) = GH S := GH_same rfl
    rw [e, fl.1, fl.2, eg]
    exact hC
  · obtain ⟨nw, b1, b2, -, -, b5, -, -, -, b9⟩ := b
    have f := h3 j hj hd hcd
    have en : 3 + (nw.map w).sum ≤ a := by
      rcases b2 with rfl | ⟨q, rfl, q1, q2, -, q4, -⟩
      · exact f.1
      · rw [sum1]
        exact f.2 q q1 q2 q4
    have q1 := sN_fu (F := jF) (g := g) (r := jFire (g j) (now S).toInt) (n := n) (i := j) (by omega)
    have q2 := sN_fu (F := jA) (g := g) (r := jFire (g j) (now S).toInt) (n := n) (i := j) (by omega)
    have z1 : jF (jFire (g j) (now S).toInt) = jF (g j) + 1 := jF_fire
    have z2 : jA (jFire (g j) (now S).toInt) = jA (g j) := rfl
    have y1 : sN n (fun j' => jF (g' j')) = sN n (fun j' => jF (g j')) + 1 := by rw [e]; omega
    have y2 : sN n (fun j' => jA (g' j')) = sN n (fun j' => jA (g j')) := by rw [e]; omega
    rw [y1, y2, b1, app_sum, b5, Nat.mul_add a, Nat.mul_one]
    omega
theorem cM_step (hI : Inv S) (hn : s_n S = n) (hE : JE s fo S S' g g') (hC : cM M0 n S g) : cM M0 n S' g' := by
  unfold cM at hC ⊢
  rcases hE with ⟨e, b | b⟩ | ⟨e, -, t, rfl, -⟩ | ⟨k, m, hk, hm, -, hl, -, b, d⟩ | ⟨j, hj, hs, hd, -, rfl, e⟩ | ⟨j, hj, hs, hd, hcd, -, b, e⟩
  · rw [e, b.2.2.1, b.2.2.2.1]
    exact hC
  · obtain ⟨nw, b1, b2, b3, b4, -, b6⟩ := b
    rw [e, b1, List.length_append]
    omega
  · have em : s_ms (pass S t) = s_ms S := congrArg (fun q => q.1) (pass_l (S := S) (t := t))
    have ed : s_dl (pass S t) = s_dl S := congrArg (fun q => q.2.1) (pass_l (S := S) (t := t))
    rw [e, em, ed]
    exact hC
  · have hmem : m ∈ s_ms S := List.mem_of_getElem? hk
    have hi : m.2.1 < n := by
      rw [← hn]
      exact (hI.2.2.2.2.1 m hmem).1.2.1
    obtain ⟨nw, b1, b2, b3, -⟩ := b
    have ed : s_dl S' = s_dl S := b2.2.2.2.1
    have el := eraseIdx_lt hk
    have ln : nw.length ≤ 1 := by
      rcases b3 with rfl | ⟨q, rfl, -⟩
      · exact Nat.zero_le _
      · exact Nat.le_refl _
    rw [ed]
    rcases d with ⟨-, ⟨k0, e⟩ | ⟨k0, e⟩⟩ | ⟨d0, -, -, d1⟩
    · have q1 := sN_fu (F := fun r => if jf r = 0 then 0 else 1) (g := g) (r := jAcq (g m.2.1) (now S).toInt) hi
      have q2 := sN_fu (F := jR) (g := g) (r := jAcq (g m.2.1) (now S).toInt) hi
      have z1 : jf (jAcq (g m.2.1) (now S).toInt) = jf (g m.2.1) := rfl
      have z2 : jR (jAcq (g m.2.1) (now S).toInt) = jR (g m.2.1) := rfl
      rw [z1] at q1
      rw [e, b1, List.length_append]
      omega
    · rw [e, b1, List.length_append]
      omega
    · have q1 : ∀ x : Nat, sN n (fun j => if jf (fu g m.2.1 (jFlag (g m.2.1) x) j) = 0 then 0 else 1) ≤ sN n (fun j => if jf (g j) = 0 then 0 else 1) + 1 := fun x => by
        have := sN_fu (F := fun r => if jf r = 0 then 0 else 1) (g := g) (r := jFlag (g m.2.1) x) hi
        have y : (if jf (jFlag (g m.2.1) x) = 0 then 0 else 1) ≤ 1 := by
          split
          · exact Nat.zero_le _
          · exact Nat.le_refl _
        omega
      have q2 : ∀ x : Nat, sN n (fun j => jR (fu g m.2.1 (jFlag (g m.2.1) x) j)) = sN n (fun j => jR (g j)) := fun x => by
        have := sN_fu (F := jR) (g := g) (r := jFlag (g m.2.1) x) hi
        have z2 : jR (jFlag (g m.2.1) x) = jR (g m.2.1) := rfl
        omega
      rw [d0]
      rcases d1 with ⟨k0, -, e⟩ | ⟨k0, -, e⟩
      · have := q1 (fo m)
        have := q2 (fo m)
        rw [e]
        omega
      · have := q1 0
        have := q2 0
        rw [e]
        omega
  · have q1 := sN_fu (F := fun r => if jf r = 0 then 0 else 1) (g := g) (r := jFlag (g j) 0) (n := n) (i := j) (by omega)
    have q2 := sN_fu (F := jR) (g := g) (r := jFlag (g j) 0) (n := n) (i := j) (by omega)
    have z1 : (if jf (jFlag (g j) 0) = 0 then 0 else 1) = 0 := if_pos rfl
    have z2 : jR (jFlag (g j) 0) = jR (g j) := rfl
    rw [z1] at q1
    rw [e]
    show (s_ms S).length + (s_dl S).length + _ ≤ _
    omega
  · obtain ⟨nw, b1, b2, -, -, b5, -⟩ := b
    have ln : nw.length ≤ 1 := by
      rcases b2 with rfl | ⟨q, rfl, -⟩
      · exact Nat.zero_le _
      · exact Nat.le_refl _
    have q1 := sN_fu (F := fun r => if jf r = 0 then 0 else 1) (g := g) (r := jFire (g j) (now S).toInt) (n := n) (i := j) (by omega)
    have q2 := sN_fu (F := jR) (g := g) (r := jFire (g j) (now S).toInt) (n := n) (i := j) (by omega)
    have z1 : (if jf (jFire (g j) (now S).toInt) = 0 then 0 else 1) = 0 := if_pos rfl
    have z2 : jR (jFire (g j) (now S).toInt) = jR (g j) + (if jf (g j) = 0 then 1 else 0) := rfl
    rw [z1] at q1
    rw [e, b1, List.length_append, b5]
    by_cases z : jf (g j) = 0
    · rw [if_pos z] at q1 z2
      omega
    · rw [if_neg z] at q1 z2
      omega
end SMS
