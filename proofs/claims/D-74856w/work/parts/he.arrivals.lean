/-! ROOM: without jitter a node's ACQUIREs come to the server 2 ms apart, but for those of campaign calls -/
set_option maxRecDepth 100000
/-- times of a node's ACQUIREs -/
def aT (i : Nat) (l : List MG) : List Int := (l.filter (fun q => decide (q.2.1 = i ∧ q.1 = 0))).map tmJ
def ap2 (a b : Int) : Prop := a + 2 ≤ b ∨ b + 2 ≤ a
theorem er_perm {m : MG} : ∀ {l : List MG} {k : Nat}, l[k]? = some m → l.Perm (m :: l.eraseIdx k)
  | [], k, h => by simp at h
  | x :: l, 0, h => by
    have : x = m := by simpa using h
    subst this
    rw [List.eraseIdx_cons_zero]
  | x :: l, k + 1, h => by
    rw [List.eraseIdx_cons_succ]
    exact (List.Perm.cons x (er_perm (l := l) (k := k) (by simpa using h))).trans (List.Perm.swap m x _)
theorem aT_app {i : Nat} {l l' : List MG} : aT i (l ++ l') = aT i l ++ aT i l' := by
  unfold aT
  rw [List.filter_append, List.map_append]
theorem aT_perm {i : Nat} {l l' : List MG} (h : l.Perm l') : (aT i l).Perm (aT i l') := (h.filter _).map _
theorem aT_no {i : Nat} {l : List MG} (h : ∀ q ∈ l, ¬ (q.2.1 = i ∧ q.1 = 0)) : aT i l = [] := by
  unfold aT
  rw [List.filter_eq_nil_iff.mpr (fun q hq => by simpa using h q hq)]
  rfl
theorem aT_yes {i : Nat} {q : MG} (h : q.2.1 = i ∧ q.1 = 0) {l : List MG} : aT i (q :: l) = tmJ q :: aT i l := by
  unfold aT
  rw [List.filter_cons_of_pos (by simpa using h), List.map_cons]
theorem aT_skip {i : Nat} {q : MG} (h : ¬ (q.2.1 = i ∧ q.1 = 0)) {l : List MG} : aT i (q :: l) = aT i l := by
  unfold aT
  rw [List.filter_cons_of_neg (by simpa using h)]
/-- what is kept between calls: L: no timer comes within 2 ms of it, no unmarked ACQUIRE comes later than it and the way -/
def cI0 (d : Int) (i c : Nat) (S : SS) (L : Int) (U V : List Int) : Prop := (aT i (s_ms S)).Perm (U ++ V) ∧ U.Pairwise ap2 ∧ (∀ x ∈ U, x ≤ L + d) ∧ (s_nd S i 8 = -4 ∨ L + 2 ≤ (s_nd S i 8).toInt) ∧ V.length ≤ c
/-- in a run that began at s -/
def cI (s d : Int) (i c : Nat) (S : SS) (g : Nat → JG) : Prop := ∃ (L : Int) (U V : List Int) (u w cc : Nat), cI0 d i cc S L U V ∧ cc + w ≤ c ∧ L ≤ jl (g i) ∧ jA (g i) ≤ u + w ∧ (u = 0 ∨ ∃ la : Int, 2 * (u : Int) ≤ la - (s + 1) + 2 ∧ la ≤ (now S).toInt ∧ la ≤ L + d ∧ ∀ x ∈ U, la + 2 ≤ x)
section ARR
variable {S0 S S' : SS} {fo : MG → Nat} {g g' : Nat → JG} {s d : Int} {i c : Nat}
theorem ap2_comm {a b : Int} (h : ap2 a b) : ap2 b a := Or.comm.mp h
/-- an ACQUIRE arrives -/
theorem cI0_take {x : Int} {U V : List Int} {A : List Int} (h : (x :: A).Perm (U ++ V)) (hP : U.Pairwise ap2) : (x ∈ U ∧ A.Perm (U.erase x ++ V) ∧ (∀ y ∈ U.erase x, ap2 x y ∧ y ∈ U) ∧ (U.erase x).Pairwise ap2) ∨ (x ∈ V ∧ A.Perm (U ++ V.erase x)) := by
  have hx : x ∈ U ++ V := h.mem_iff.mp (by simp)
  have he := h.erase x
  rw [List.erase_cons_head] at he
  by_cases c : x ∈ U
  · left
    rw [List.erase_append_left _ c] at he
    have pp : U.Perm (x :: U.erase x) := List.perm_cons_erase c
    have hP2 := (pp.pairwise_iff (R := ap2) (fun h => ap2_comm h)).mp hP
    rw [List.pairwise_cons] at hP2
    exact ⟨c, he, fun y hy => ⟨hP2.1 y hy, List.mem_of_mem_erase hy⟩, hP2.2⟩
  · right
    rw [List.erase_append_right _ c] at he
    rcases List.mem_append.mp hx with q | q
    · exact absurd q c
    · exact ⟨q, he⟩
end ARR
