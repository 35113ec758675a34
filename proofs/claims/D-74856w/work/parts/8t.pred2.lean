/-! predictions: the longest gap, a write that is tried, stale caches -/
set_option maxRecDepth 100000
/-- a register whose cached value isn't the stored one -/
def staleL (S : SS) (i : Nat) : Nat → Nat → Int32 → Int32
  | 0, _, x => x
  | n + 1, r, x => staleL S i n (r + 1) (if x = 0 then (if ((s_nd S i 9 >>> (Int32.ofNat r &&& 31)) &&& (1 : Int32)) = 1 ∧ s_nd S i (30 + r) ≠ s_ar S 0 r then 1 else 0) else 1)
def staleS (S : SS) (i : Nat) : Int32 := if staleL S i 8 0 0 = 0 then 0 else if leads S i (now S) = true then 1 else 0
section MP2
variable {E : PE} {B : Nat × Nat} {F : Nat → Nat} {R : PM}
theorem gle_gapG : ∀ (n : Nat) {S : SS} {t lg gap : Int32}, gle S (gapG n S t lg gap).2
  | 0, _, _, _, _ => gle.rf
  | n + 1, S, t, lg, gap => by
    unfold gapG
    split
    · exact gle.rf
    · exact gle_step.tr (gle_gapG n)
theorem m_gap (hB2 : B.2 < 2 ^ 25) (hx : EX E) : ∀ (n : Nat) (S : SS) (h : PH) (t lg gap : Int32), SP E B F R S h → BI S → pDone n S t → fitB B (gapG n S t lg gap).2 → ∀ N : Nat, n < N → okk (f_X2_longestGap_L4 N (some (F 0)) t lg gap h) (fun b => b.1 = (gapG n S t lg gap).1 ∧ SP E B F R (gapG n S t lg gap).2 b.2) := by
  intro n
  induction n with
  | zero =>
    intro S h t lg gap hS hb hd hf N hN
    cases N with
    | zero => omega
    | succ N =>
      unfold f_X2_longestGap_L4
      rw [r_sc hS (by decide) (by decide), if_pos (show t ≤ s_sc S 8 from hd)]
      exact ⟨_, rfl, rfl, hS⟩
  | succ n ih =>
    intro S h t lg gap hS hb hd hf N hN
    cases N with
    | zero => omega
    | succ N =>
      unfold f_X2_longestGap_L4
      unfold gapG at hf ⊢
      rw [r_sc hS (by decide) (by decide)]
      by_cases hc : t ≤ now S
      · rw [if_pos hc]
        rw [if_pos hc]
        exact ⟨_, rfl, rfl, hS⟩
      · rw [if_neg hc]
        rw [if_neg hc] at hf ⊢
        have hd2 := hd.resolve_left hc
        rw [r_sim hS, cl_eq (m_nextEvent hS), r_sim hS, cl_eq (m_lastEnd hS hb.1), r_sc hS (by decide) (by decide), r_sc hS (by decide) (by decide)]
        rw [show (if nextEvent S < t then nextEvent S else t) = mn t (nextEvent S) from rfl]
        rw [show (if lastE S < mn t (nextEvent S) then lastE S else mn t (nextEvent S)) = mn (mn t (nextEvent S)) (lastE S) from rfl]
        have fin2 : ∀ g : Int32, g = gapOf S t gap → okk (f_X2_longestGap_B59 (f_X2_longestGap_L4 N) (some (F 0)) t lg (mn t (nextEvent S)) g h) (fun b => b.1 = (gapG n (step S (mn t (nextEvent S))) t (mx lg (gapOf S t gap)) (gapOf S t gap)).1 ∧ SP E B F R (gapG n (step S (mn t (nextEvent S))) t (mx lg (gapOf S t gap)) (gapOf S t gap)).2 b.2) := by
          intro g hg
          subst hg
          unfold f_X2_longestGap_B59
          rw [r_sim hS]
          refine okk_cl ((m_step hS hb hx hd2.1 (hf.le (gle_gapG n)) hB2).mono fun b hb1 => ?_)
          exact ih _ _ t _ _ hb1 (BI_step hb) hd2.2 hf N (by omega)
        by_cases hl : mn (mn t (nextEvent S)) (lastE S) ≤ now S
        · rw [if_pos (show mn (mn t (nextEvent S)) (lastE S) ≤ s_sc S 8 from hl)]
          exact fin2 _ (by unfold gapOf; rw [if_pos hl])
        · rw [if_neg (show ¬ mn (mn t (nextEvent S)) (lastE S) ≤ s_sc S 8 from hl)]
          exact fin2 _ (by unfold gapOf; rw [if_neg hl])
theorem m_isStale {S : SS} {h : PH} (hS : SP E B F R S h) (hw : W1 S) {i : Nat} (hi : i < s_n S) : f_X2_isStale (some (F 0)) (some (F (50 + i))) h = some (staleS S i, h) := by
  have FUb := FU_big
  have fin2 : ∀ (x : Int32), (if x = 0 then (f_X2_isStale_B75 h) else (gI h (some (F 0)) 1 8 fun v1 => rv_ h (some (F (50 + i))) 5 (cl_ (f_X6_leads (some (F (50 + i))) v1 h) fun v3 h2 => (if v3 = 0 then (f_X2_isStale_B75 h2) else (f_X2_isStale_B76 (1 : Int32) h2))))) = some (if x = 0 then 0 else if leads S i (now S) = true then 1 else 0, h) := by
    intro x
    unfold f_X2_isStale_B75 f_X2_isStale_B76
    by_cases h0 : x = 0
    · rw [if_pos h0, if_pos h0, rN_at nar01.1]
    · rw [if_neg h0, if_neg h0, r_sc hS (by decide) (by decide), r_ndv hS hi, cl_eq (m_leads hS hi hw)]
      by_cases hl : leads S i (now S) = true
      · rw [if_pos hl, if_neg (by decide), rN_at nar01.2]
      · rw [if_neg hl, if_pos rfl, rN_at nar01.1]
  have loop : ∀ (n r N : Nat) (x : Int32), r + n = 8 → n < N → f_X2_isStale_L4 N (some (F 0)) (some (F (50 + i))) x (Int32.ofNat r) h = some (if staleL S i n r x = 0 then 0 else if leads S i (now S) = true then 1 else 0, h) := by
    intro n
    induction n with
    | zero =>
      intro r N x h1 h2
      cases N with
      | zero => omega
      | succ N =>
        have : r = 8 := by omega
        subst this
        unfold f_X2_isStale_L4
        rw [if_pos (by decide)]
        exact fin2 x
    | succ n ih =>
      intro r N x h1 h2
      cases N with
      | zero => omega
      | succ N =>
        have hr : r < 8 := by omega
        unfold f_X2_isStale_L4 staleL
        rw [if_neg (show ¬ (8 : Int32) ≤ Int32.ofNat r from fun hx => by rw [show (8 : Int32) = Int32.ofNat 8 from rfl, of_le (by omega) (by omega)] at hx; omega)]
        unfold f_X2_isStale_B44 f_X2_isStale_B48 f_X2_isStale_B49
        rw [ofs]
        by_cases hx : x = 0
        · rw [if_pos hx, if_pos hx, r_ndN hS hi (by decide) (by decide)]
          by_cases hb : ((s_nd S i 9 >>> (Int32.ofNat r &&& 31)) &&& (1 : Int32)) = 1
          · rw [if_pos hb, r_ndcN hS hi, r_cch hS hi hr, r_ref hS (by decide) (by decide)]
            rw [gRN_at hS.sto.1 hS.sto.2 (v := F 8) rfl, r_arr hS (k := 8) (Or.inr (Or.inl rfl)) hr]
            by_cases he : s_nd S i (30 + r) = s_ar S 0 r
            · rw [if_pos (show s_nd S i (30 + r) = s_ar S (arX 8) r from he), if_neg (show ¬ (((s_nd S i 9 >>> (Int32.ofNat r &&& 31)) &&& (1 : Int32)) = 1 ∧ s_nd S i (30 + r) ≠ s_ar S 0 r) from fun hy => hy.2 he)]
              exact ih (r + 1) N 0 (by omega) (by omega)
            · rw [if_neg (show ¬ s_nd S i (30 + r) = s_ar S (arX 8) r from he), if_pos (show (((s_nd S i 9 >>> (Int32.ofNat r &&& 31)) &&& (1 : Int32)) = 1 ∧ s_nd S i (30 + r) ≠ s_ar S 0 r) from ⟨hb, he⟩)]
              exact ih (r + 1) N 1 (by omega) (by omega)
          · rw [if_neg hb, if_neg (show ¬ (((s_nd S i 9 >>> (Int32.ofNat r &&& 31)) &&& (1 : Int32)) = 1 ∧ s_nd S i (30 + r) ≠ s_ar S 0 r) from fun hy => hb hy.1)]
            exact ih (r + 1) N 0 (by omega) (by omega)
        · rw [if_neg hx, if_neg hx]
          exact ih (r + 1) N 1 (by omega) (by omega)
  unfold f_X2_isStale staleS
  exact loop 8 0 FU 0 (by omega) (by omega)
/-- a write that a node sends now: its answer, and what becomes of the copy -/
def tryW (n : Nat) (S : SS) (i r : Nat) : Int32 × SS :=
  let s1 := send S 4 i 3 (s_nd S i 6) (Int32.ofNat r) 0
  if s_nd S i 4 = 0 then
    let t := now S + s_nd S i 1 + jit (lcg (s_sc S 9)) (s_cf S 7)
    if t ≤ 5000000 then
      let s2 := goOn n (u_sc s1 20 (s_sc s1 10)) t
      (s_sc s2 21, s2)
    else (-5, s1)
  else (2, s1)
def tDone (n : Nat) (S : SS) (i r : Nat) : Prop := s_nd S i 4 = 0 → now S + s_nd S i 1 + jit (lcg (s_sc S 9)) (s_cf S 7) ≤ 5000000 → gDone n (u_sc (send S 4 i 3 (s_nd S i 6) (Int32.ofNat r) 0) 20 (s_sc (send S 4 i 3 (s_nd S i 6) (Int32.ofNat r) 0) 10)) (now S + s_nd S i 1 + jit (lcg (s_sc S 9)) (s_cf S 7))
theorem m_tryW (hB2 : B.2 < 2 ^ 25) (hx : EX E) {n : Nat} {S : SS} {h : PH} {i r : Nat} (hn : n < FU) (hS : SP E B F R S h) (hb : BI S) (hi : i < s_n S) (hr : r < 8) (hd : tDone n S i r) (hf : fitB B (tryW n S i r).2) : okk (f_X2_tryWrite (some (F 0)) (Int32.ofNat i) (Int32.ofNat r) h) (fun b => b.1 = (tryW n S i r).1 ∧ SP E B F R (tryW n S i r).2 b.2) := by
  unfold tryW at hf ⊢
  unfold tDone at hd
  dsimp only at hf ⊢
  obtain ⟨T, hT⟩ : ∃ T, now S + s_nd S i 1 + jit (lcg (s_sc S 9)) (s_cf S 7) = T := ⟨_, rfl⟩
  rw [hT] at hf hd ⊢
  have hls := lsz hS (li := 2) (by decide) (by decide)
  rw [len2] at hls
  have hfs : fitB B (send S 4 i 3 (s_nd S i 6) (Int32.ofNat r) 0) := by
    by_cases c1 : s_nd S i 4 = 0
    · rw [if_pos c1] at hf
      by_cases c2 : T ≤ 5000000
      · rw [if_pos c2] at hf
        exact hf.le (gle_sc.tr (gle_goOn n))
      · rw [if_neg c2] at hf
        exact hf
    · rw [if_neg c1] at hf
      exact hf
  have hbs : BI (send S 4 i 3 (s_nd S i 6) (Int32.ofNat r) 0) := BI_send hb (by decide) hi (fun _ => ⟨r, hr, rfl⟩)
  have ro := roomN hS hfs
  have e2 := fun e => hS.mk e 3 ro.1 ro.2
  unfold f_X2_tryWrite
  rw [r_ref hS (by decide) (by decide), r_lsv hS (by decide) (by decide), cl_eq (r_size hS (by decide) (by decide)), len2, r_kind hS (by decide), nA_3 ro.1 ro.2, r_ref (e2 _) (by decide) (by decide), r_nds (e2 _) hi, r_ndN (e2 _) hi (by decide) (by decide), sI_pn0 hS.base.2.1 (by decide) (by decide), sI_pn1 hS.base.2.1 (by decide) (by decide), sI_pn2 hS.base.2.1 (by decide) (by decide), r_sim (e2 _)]
  refine okk_cl ((m_sendN hS (kind := 4) (len := 3) (a := s_nd S i 6) (b := Int32.ofNat r) (c := 0) hb.1 (by decide) hi (by decide) rfl rfl rfl hfs hB2).mono fun b hb1 => ?_)
  obtain ⟨u, h13⟩ := b
  have s1 : SP E B F R (send S 4 i 3 (s_nd S i 6) (Int32.ofNat r) 0) h13 := hb1
  have hl1 := lsz s1 (li := 2) (by decide) (by decide)
  rw [len2] at hl1
  show okk (gR h13 (some (F 0)) 1 2 _) _
  rw [r_ref s1 (by decide) (by decide), r_lsv s1 (by decide) (by decide), cl_eq (r_size s1 (by decide) (by decide)), len2]
  by_cases c1 : s_nd S i 4 = 0
  · rw [if_pos c1] at hf ⊢
    have em : s_ms (send S 4 i 3 (s_nd S i 6) (Int32.ofNat r) 0) = s_ms S ++ [(4, i, s_sc S 10 + 1, s_nd S i 6, Int32.ofNat r, 0, T)] := by
      unfold send
      dsimp only
      rw [if_pos c1, hT]
      rfl
    have el : (s_ms (send S 4 i 3 (s_nd S i 6) (Int32.ofNat r) 0)).length = (s_ms S).length + 1 := by rw [em]; simp
    rw [if_neg (fun hx => by rw [of_inj (by omega) (by omega)] at hx; omega)]
    have hx2 : (lsC E (send S 4 i 3 (s_nd S i 6) (Int32.ofNat r) 0) 2)[(s_ms S).length]? = some (cMsg (sAd E) (4, i, s_sc S 10 + 1, s_nd S i 6, Int32.ofNat r, 0, T)) := by
      show ((s_ms (send S 4 i 3 (s_nd S i 6) (Int32.ofNat r) 0)).map (cMsg (sAd E)))[(s_ms S).length]? = _
      rw [em, List.getElem?_map, List.getElem?_append_right (Nat.le_refl _)]
      simp
    obtain ⟨q, a1, a2, a3⟩ := l_at s1 (by decide) (by decide) hx2
    rw [r_ref s1 (by decide) (by decide), r_lsv s1 (by decide) (by decide), cl_eq a1, kC_at a3, gIN_at a3 a2 (v := T) rfl]
    by_cases c2 : T ≤ 5000000
    · rw [if_pos c2]
      rw [if_pos c2] at hf ⊢
      rw [r_sc s1 (by decide) (by decide)]
      obtain ⟨h22, b1, b2⟩ := w_sc s1 (k := 20) (v := s_sc (send S 4 i 3 (s_nd S i 6) (Int32.ofNat r) 0) 10) (by decide) (by decide)
      rw [b2, r_sim b1]
      unfold f_X2_goOn
      refine okk_cl ((m_goOn hB2 hx n _ h22 T b1 (BI_sc hbs) (hd c1 c2) hf FU hn).mono fun b9 hb9 => ?_)
      obtain ⟨u, h23⟩ := b9
      have s2 : SP E B F R (goOn n (u_sc (send S 4 i 3 (s_nd S i 6) (Int32.ofNat r) 0) 20 (s_sc (send S 4 i 3 (s_nd S i 6) (Int32.ofNat r) 0) 10)) T) h23 := hb9
      show okk (gI h23 (some (F 0)) 1 21 _) _
      rw [r_sc s2 (by decide) (by decide)]
      exact ⟨_, rfl, rfl, s2⟩
    · rw [if_neg c2]
      rw [if_neg c2]
      exact ⟨_, rfl, rfl, s1⟩
  · rw [if_neg c1]
    have em : s_ms (send S 4 i 3 (s_nd S i 6) (Int32.ofNat r) 0) = s_ms S := by
      unfold send
      dsimp only
      rw [if_neg c1]
      rfl
    rw [if_pos (by rw [em])]
    exact ⟨_, rfl, rfl, s1⟩
end MP2
