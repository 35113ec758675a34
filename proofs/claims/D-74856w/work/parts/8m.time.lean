/-! the next event, time passes -/
set_option maxRecDepth 100000
section MT
variable {E : PE} {B : Nat × Nat} {F : Nat → Nat} {R : PM} {S : SS} {h : PH}
/-- an element of a list, read in place -/
theorem l_at (hS : SP E B F R S h) {li j : Nat} {x : va_E} (h1 : 2 ≤ li) (h2 : li < 6) (hx : (lsC E S li)[j]? = some x) : ∃ q : Nat, f_J2_get (some (F li)) (Int32.ofNat j) h = some (some q, h) ∧ pbase h ≤ q ∧ h.1 q = some x := by
  obtain ⟨q, a1, a2, a3, -⟩ := l_get hS h1 h2 hx
  exact ⟨q, a1, a2, a3⟩
theorem ndNext_at (hS : SP E B F R S h) {i : Nat} {x : Int32} (hi : i < s_n S) {β : Type} (K : Int32 → PH → Option β) : (cl_ (f_X6_isPaused (some (F (50 + i))) (now S) h) fun v25 h24 => (if v25 = 0 then (gIN h24 (some (F (50 + i))) 5 2 fun v26 => (if v26 = 0 then K x h24 else (gIN h24 (some (F (50 + i))) 5 8 fun v27 => (if v27 < 0 then K x h24 else (gIN h24 (some (F (50 + i))) 5 8 fun v28 => K (if v28 < x then v28 else x) h24))))) else (gIN h24 (some (F (50 + i))) 5 5 fun v29 => K (if v29 < x then v29 else x) h24))) = K (ndNext S i x) h := by
  rw [cl_eq (m_paused hS hi)]
  unfold ndNext
  by_cases hp : paused S i (now S) = true
  · rw [if_pos hp, if_neg (by decide), r_ndN hS hi (by decide) (by decide), if_pos hp]
    rfl
  · rw [if_neg hp, if_pos rfl, r_ndN hS hi (by decide) (by decide), if_neg hp]
    by_cases h2 : s_nd S i 2 = 0
    · rw [if_pos h2, if_pos h2]
    · rw [if_neg h2, if_neg h2, r_ndN hS hi (by decide) (by decide), r_ndN hS hi (by decide) (by decide)]
      by_cases h8 : s_nd S i 8 < 0
      · rw [if_pos h8, if_pos h8]
      · rw [if_neg h8, if_neg h8]
        rfl
theorem range_drop {n i : Nat} (h : i < n) : (List.range n).drop i = i :: (List.range n).drop (i + 1) := by
  rw [List.drop_eq_getElem_cons (by simpa using h)]
  simp
theorem m_nextEvent (hS : SP E B F R S h) : f_X2_nextEvent (some (F 0)) h = some (nextEvent S, h) := by
  have hn := hS.base
  have hd := lsz hS (li := 3) (by decide) (by decide)
  have ho := lsz hS (li := 4) (by decide) (by decide)
  rw [len3] at hd
  rw [len4] at ho
  have FUb := FU_big
  have l120 : ∀ (n i : Nat) (x : Int32), i ≤ s_n S → s_n S < i + n → f_X2_nextEvent_L120 n (some (F 0)) x (some (F 1)) (Int32.ofNat (s_n S)) (Int32.ofNat i) h = some (((List.range (s_n S)).drop i).foldl (fun x i => ndNext S i x) x, h) := by
    intro n
    induction n with
    | zero => intro i x h1 h2; omega
    | succ n ih =>
      intro i x h1 h2
      unfold f_X2_nextEvent_L120
      by_cases hi : i = s_n S
      · rw [if_pos ((of_le (by omega) (by omega)).mpr (by omega)), hi, List.drop_eq_nil_of_le (by simp)]
        rfl
      · have hil : i < s_n S := by omega
        rw [if_neg (fun hx => by rw [of_le (by omega) (by omega)] at hx; omega), r_nds hS hil, r_sc hS (by decide) (by decide), r_ndv hS hil]
        unfold f_X2_nextEvent_B184
        rw [range_drop hil]
        refine (ndNext_at hS hil (fun x h9 => f_X2_nextEvent_L120 n (some (F 0)) x (some (F 1)) (Int32.ofNat (s_n S)) (Int32.ofNat i + 1) h9)).trans ?_
        rw [ofs]
        exact ih (i + 1) _ (by omega) (by omega)
  have l64 : ∀ (n i : Nat) (x : Int32), i ≤ (s_ou S).length → (s_ou S).length < i + n → f_X2_nextEvent_L64 n (some (F 0)) x (Int32.ofNat i) h = some ((List.range (s_n S)).foldl (fun x i => ndNext S i x) (((s_ou S).drop i).foldl (fun x o => mn x (oNext o (now S))) x), h) := by
    intro n
    induction n with
    | zero => intro i x h1 h2; omega
    | succ n ih =>
      intro i x h1 h2
      unfold f_X2_nextEvent_L64
      rw [r_ref hS (by decide) (by decide), r_lsv hS (by decide) (by decide), cl_eq (r_size hS (by decide) (by decide)), len4]
      by_cases hi : i = (s_ou S).length
      · rw [if_pos ((of_le (by omega) (by omega)).mpr (by omega)), hi, List.drop_length, r_ref hS (by decide) (by decide), r_n hS]
        have := l120 FU 0 x (Nat.zero_le _) (by omega)
        rw [List.drop_zero] at this
        exact this
      · have hil : i < (s_ou S).length := by omega
        rw [if_neg (fun hx => by rw [of_le (by omega) (by omega)] at hx; omega), List.drop_eq_getElem_cons hil, List.foldl_cons]
        have hx : (lsC E S 4)[i]? = some (cOut ((s_ou S)[i])) := by
          show ((s_ou S).map cOut)[i]? = _
          rw [List.getElem?_map, List.getElem?_eq_getElem hil]; rfl
        obtain ⟨q, a1, a2, a3⟩ := l_at hS (by decide) (by decide) hx
        rw [r_ref hS (by decide) (by decide), r_lsv hS (by decide) (by decide), cl_eq a1, kC_at a3, r_sc hS (by decide) (by decide), rv_at a3]
        have e1 : f_X20_next (some q) (now S) h = some (oNext ((s_ou S)[i]) (now S), h) := by
          unfold f_X20_next f_X20_next_B32 oNext
          rw [gI_at a3 (v := ((s_ou S)[i]).2.1) rfl]
          by_cases c1 : ((s_ou S)[i]).2.1 ≤ now S
          · rw [if_pos c1, if_pos c1, gI_at a3 (v := ((s_ou S)[i]).2.2) rfl]
            by_cases c2 : ((s_ou S)[i]).2.2 ≤ now S
            · rw [if_pos c2, if_pos c2]
            · rw [if_neg c2, if_neg c2, gI_at a3 (v := ((s_ou S)[i]).2.2) rfl]
          · rw [if_neg c1, if_neg c1, gI_at a3 (v := ((s_ou S)[i]).2.1) rfl]
        rw [cl_eq e1, ofs]
        exact ih (i + 1) _ (by omega) (by omega)
  have l22 : ∀ (n i : Nat) (x : Int32), i ≤ (s_dl S).length → (s_dl S).length < i + n → f_X2_nextEvent_L22 n (some (F 0)) x (Int32.ofNat i) h = some ((List.range (s_n S)).foldl (fun x i => ndNext S i x) ((s_ou S).foldl (fun x o => mn x (oNext o (now S))) (((s_dl S).drop i).foldl (fun x d => mn x d.2.2.2.2) x)), h) := by
    intro n
    induction n with
    | zero => intro i x h1 h2; omega
    | succ n ih =>
      intro i x h1 h2
      unfold f_X2_nextEvent_L22
      rw [r_ref hS (by decide) (by decide), r_lsv hS (by decide) (by decide), cl_eq (r_size hS (by decide) (by decide)), len3]
      by_cases hi : i = (s_dl S).length
      · rw [if_pos ((of_le (by omega) (by omega)).mpr (by omega)), hi, List.drop_length]
        have := l64 FU 0 x (Nat.zero_le _) (by omega)
        rw [List.drop_zero] at this
        exact this
      · have hil : i < (s_dl S).length := by omega
        rw [if_neg (fun hx => by rw [of_le (by omega) (by omega)] at hx; omega), List.drop_eq_getElem_cons hil, List.foldl_cons]
        have hx : (lsC E S 3)[i]? = some (cDel ((s_dl S)[i])) := by
          show ((s_dl S).map cDel)[i]? = _
          rw [List.getElem?_map, List.getElem?_eq_getElem hil]; rfl
        obtain ⟨q, a1, a2, a3⟩ := l_at hS (by decide) (by decide) hx
        rw [r_ref hS (by decide) (by decide), r_lsv hS (by decide) (by decide), cl_eq a1, kC_at a3, gIN_at a3 a2 (v := ((s_dl S)[i]).2.2.2.2) rfl, ofs]
        exact ih (i + 1) _ (by omega) (by omega)
  unfold f_X2_nextEvent f_X2_nextEvent_B19 nextEvent
  obtain ⟨r, f1, f2⟩ := m_first hS
  rw [r_sim hS, cl_eq f1]
  rcases f2 with ⟨f3, rfl⟩ | ⟨k, q, m, f3, rfl, f4, f5⟩
  · rw [if_pos rfl, f3]
    have := l22 FU 0 2147483647 (Nat.zero_le _) (by omega)
    rw [List.drop_zero] at this
    exact this
  · rw [if_neg (by simp), f3]
    obtain ⟨x, x1, x2, x3⟩ := f4.sp (by decide) (by decide)
    have ex : x = cMsg (sAd E) m := by
      have h1 : ((s_ms S).map (cMsg (sAd E)))[k]? = some x := x1
      rw [List.getElem?_map, f5] at h1
      exact (Option.some.inj h1).symm
    subst ex
    have := l22 FU 0 m.2.2.2.2.2.2 (Nat.zero_le _) (by omega)
    rw [List.drop_zero] at this
    rw [gIN_at (x3.tr (b := q) (if_pos rfl)).1 (by show h.2.1.2.2.1 ≤ q; rw [hn.1]; exact x2) (v := m.2.2.2.2.2.2) rfl]
    exact this
end MT
