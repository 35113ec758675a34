/-! ROOM: numbers; what cells cost (the lists' growth is paid ahead) -/
set_option maxRecDepth 100000
/-- a clock's way: at least so long until it shows q more -/
theorem reach_ge {r o t q : Int32} (r1 : 900 ≤ r.toInt) (r2 : r.toInt ≤ 1100) (o1 : 0 ≤ o.toInt) (o2 : o.toInt ≤ 100000) (t1 : 0 ≤ t.toInt) (t2 : t.toInt ≤ 6000000) (q1 : 1 ≤ q.toInt) (q2 : q.toInt ≤ 100000) : t.toInt + 1000 * (q.toInt - 1) / r.toInt + 1 ≤ (c_re r o (c_at r o t + q)).toInt := by
  have ha := c_at_b r1 r2 o1 o2 t1 (by omega)
  have e : (c_at r o t + q).toInt = (c_at r o t).toInt + q.toInt := i_add (by omega) (by omega)
  have hb := c_re_b (v := c_at r o t + q) r1 r2 o1 o2 (by omega) (by omega)
  rw [e] at hb
  obtain ⟨x, hx⟩ : ∃ x, (c_re r o (c_at r o t + q)).toInt = x := ⟨_, rfl⟩
  rw [hx] at hb ⊢
  have hm : max 0 ((c_at r o t).toInt + q.toInt - o.toInt) = (c_at r o t).toInt + q.toInt - o.toInt := by omega
  rw [hm] at hb
  obtain ⟨d, hd⟩ : ∃ d, 1000 * (q.toInt - 1) / r.toInt = d := ⟨_, rfl⟩
  rw [hd]
  have d1 : r.toInt * d ≤ 1000 * (q.toInt - 1) := by
    rw [← hd]
    exact Int.mul_ediv_self_le (by omega)
  refine Int.not_lt.mp (fun hlt => ?_)
  have h2 : r.toInt * x ≤ r.toInt * (t.toInt + d) := Int.mul_le_mul_of_nonneg_left (by omega) (by omega)
  rw [Int.mul_add] at h2
  omega
/-- the lists' capacities, from 1 on -/
def gpT : List Nat := [1, 2, 3, 4, 6, 9, 13, 19, 28, 42, 63, 94, 141, 211, 316, 474, 711, 1066, 1599, 2398, 3597, 5395, 8092]
/-- how often a list of this capacity may still grow -/
def gp (c : Nat) : Nat := gpT.foldl (fun a t => if Nat.blt c t = true then a + 1 else a) 0
theorem gp_all : (List.range 8000).all (fun c => Nat.ble (gp (c + max 1 (c / 2)) + 1) (gp c)) = true := by decide +kernel
theorem gp_up {c : Nat} (h : c < 8000) : gp (c + max 1 (c / 2)) + 1 ≤ gp c := Nat.le_of_ble_eq_true (List.all_eq_true.mp gp_all c (List.mem_range.mpr h))
theorem gp_le {c : Nat} : gp c ≤ 23 := by
  have key : ∀ (l : List Nat) (a : Nat), l.foldl (fun a t => if Nat.blt c t = true then a + 1 else a) a ≤ a + l.length := by
    intro l
    induction l with
    | nil => intro a; exact Nat.le_refl _
    | cons x l ih =>
      intro a
      rw [List.foldl_cons, List.length_cons]
      have := ih (if Nat.blt c x = true then a + 1 else a)
      split at this
      · next h => rw [if_pos h]; omega
      · next h => rw [if_neg h]; omega
  exact key gpT 0
/-- cells made, the growth of the lists of messages and of the log paid ahead -/
def GH (S : SS) : Nat := s_gh S 0 + gp (s_gh S 2) + gp (s_gh S 5)
theorem GH_b {S : SS} : s_gh S 0 ≤ GH S ∧ GH S ≤ s_gh S 0 + 46 := by
  have h1 := gp_le (c := s_gh S 2)
  have h2 := gp_le (c := s_gh S 5)
  unfold GH
  omega
section HC
variable {S : SS}
theorem GH_same {S' : SS} (h : s_gh S' = s_gh S) : GH S' = GH S := by
  unfold GH
  rw [h]
theorem GH_mk {c k : Nat} : GH (g_mk S c k) = GH S + c := by
  unfold GH
  have e0 : s_gh (g_mk S c k) 0 = s_gh S 0 + c := gh_mk0
  have e2 : s_gh (g_mk S c k) 2 = s_gh S 2 := by
    show fu (fu (s_gh S) 0 (s_gh S 0 + c)) 1 (s_gh S 1 + k) 2 = _
    rw [fu_ne (by decide), fu_ne (by decide)]
  have e5 : s_gh (g_mk S c k) 5 = s_gh S 5 := by
    show fu (fu (s_gh S) 0 (s_gh S 0 + c)) 1 (s_gh S 1 + k) 5 = _
    rw [fu_ne (by decide), fu_ne (by decide)]
  rw [e0, e2, e5]
  omega
theorem GH_add {li sz : Nat} (hl : li = 2 ∨ li = 5) (hs : sz < 8000) : GH (g_add S li sz) ≤ GH S := by
  have e : s_gh (g_add S li sz) = gg (s_gh S) li sz := rfl
  unfold GH
  rw [e]
  unfold gg
  by_cases c : sz = s_gh S li
  · rw [if_pos c]
    rcases hl with rfl | rfl
    · rw [fu_ne (by decide), fu_eq, fu_ne (by decide), fu_ne (by decide), fu_eq, fu_ne (by decide), fu_ne (by decide), fu_ne (by decide)]
      have := gp_up (c := s_gh S 2) (by omega)
      omega
    · rw [fu_ne (by decide), fu_eq, fu_ne (by decide), fu_ne (by decide), fu_ne (by decide), fu_ne (by decide), fu_ne (by decide), fu_eq]
      have := gp_up (c := s_gh S 5) (by omega)
      omega
  · rw [if_neg c]
    exact Nat.le_refl _
theorem GH_note {k : Nat} {n t : Int32} (hl : (s_lg S).length ≤ 200) : GH (note S k n t) ≤ GH S + 1 := by
  unfold note
  dsimp only
  have a : ∀ X : SS, s_gh X = s_gh S → (s_lg X).length ≤ 200 → ∀ l : List EG, GH (u_ar (u_lg (g_add (g_mk X 1 4) 5 (s_lg (g_mk X 1 4)).length) l) 2 k (s_ar (u_lg (g_add (g_mk X 1 4) 5 (s_lg (g_mk X 1 4)).length) l) 2 k + 1)) ≤ GH S + 1 := fun X hX hx l => by
    have h1 : GH (u_ar (u_lg (g_add (g_mk X 1 4) 5 (s_lg (g_mk X 1 4)).length) l) 2 k (s_ar (u_lg (g_add (g_mk X 1 4) 5 (s_lg (g_mk X 1 4)).length) l) 2 k + 1)) = GH (g_add (g_mk X 1 4) 5 (s_lg (g_mk X 1 4)).length) := GH_same rfl
    rw [h1]
    have h2 : (s_lg (g_mk X 1 4)).length ≤ 200 := hx
    have h3 := GH_add (S := g_mk X 1 4) (li := 5) (sz := (s_lg (g_mk X 1 4)).length) (Or.inr rfl) (by omega)
    rw [GH_mk, GH_same hX] at h3
    exact h3
  by_cases c : (s_lg S).length = 200
  · rw [if_pos c]
    refine a (u_lg S (s_lg S).tail) rfl ?_ _
    show (s_lg S).tail.length ≤ 200
    rw [List.length_tail]
    omega
  · rw [if_neg c]
    exact a S rfl hl _
theorem snd_ms {k n l : Nat} {a b c : Int32} : s_ms (send S k n l a b c) = if s_nd S n 4 = 0 then s_ms S ++ [mSend S k n a b c] else s_ms S := by
  unfold send mSend
  dsimp only
  obtain ⟨x, hx⟩ : ∃ x, lcg (s_sc S 9) = x := ⟨_, rfl⟩
  rw [hx]
  by_cases c4 : s_nd S n 4 = 0
  · rw [if_pos c4, if_pos c4]
    rfl
  · rw [if_neg c4, if_neg c4]
    rfl
theorem GH_send {k n l : Nat} {a b c : Int32} (hm : (s_ms S).length < 8000) : GH (send S k n l a b c) ≤ GH S + 3 := by
  unfold send
  dsimp only
  obtain ⟨x, hx⟩ : ∃ x, lcg (s_sc S 9) = x := ⟨_, rfl⟩
  obtain ⟨y, hy⟩ : ∃ y, s_sc S 10 + 1 = y := ⟨_, rfl⟩
  rw [hx, hy]
  have e1 : GH (u_sc (u_sc (g_mk S 1 l) 9 x) 10 y) = GH S + 1 := (GH_same (S := g_mk S 1 l) rfl).trans GH_mk
  by_cases c4 : s_nd S n 4 = 0
  · rw [if_pos c4]
    obtain ⟨X, hX⟩ : ∃ X, u_sc (u_sc (g_mk S 1 l) 9 x) 10 y = X := ⟨_, rfl⟩
    rw [hX] at e1 ⊢
    refine Nat.le_trans (Nat.le_of_eq (GH_same (S := g_add (g_mk X 2 10) 2 (s_ms S).length) rfl)) ?_
    have h3 := GH_add (S := g_mk X 2 10) (li := 2) (sz := (s_ms S).length) (Or.inl rfl) hm
    rw [GH_mk, e1] at h3
    exact h3
  · rw [if_neg c4]
    refine Nat.le_trans (Nat.le_of_eq (GH_same (S := u_sc (u_sc (g_mk S 1 l) 9 x) 10 y) rfl)) ?_
    rw [e1]
    omega
end HC
/-- when a new message comes -/
theorem tm_send {S : SS} (hI : Inv S) {k n : Nat} {a b c : Int32} (hn : n < s_n S) : (now S).toInt + (s_nd S n 1).toInt ≤ tmJ (mSend S k n a b c) ∧ tmJ (mSend S k n a b c) ≤ (now S).toInt + (s_nd S n 1).toInt + (s_cf S 7).toInt := by
  have hd := (hI.2.1 n hn).2.2.1
  have hc := hI.1.2.2.2.2.2.2.1
  have hx := lcg_b hI.2.2.2.1.2.1
  have hj := jit_b hx hc.1 hc.2
  have w := hI.2.2.2.1.1
  obtain ⟨j, hj2⟩ : ∃ j, jit (lcg (s_sc S 9)) (s_cf S 7) = j := ⟨_, rfl⟩
  rw [hj2] at hj
  have w1 := w.1
  have w2 := w.2
  have d1 := hd.1
  have d2 := hd.2
  have c2 := hc.2
  have e : tmJ (mSend S k n a b c) = (now S).toInt + (s_nd S n 1).toInt + j.toInt := by
    show (now S + s_nd S n 1 + jit (lcg (s_sc S 9)) (s_cf S 7)).toInt = _
    rw [hj2, i_add (by rw [i_add (by omega) (by omega)]; omega) (by rw [i_add (by omega) (by omega)]; omega), i_add (by omega) (by omega)]
  omega
