/-! time passes, links change -/
set_option maxRecDepth 100000
/-- what passNd does to the state: only led is written -/
theorem passNd_1 {t : Int32} {q : SS × Int32 × Int32} {i : Nat} : (passNd t q i).1 = u_nd q.1 i 10 (s_nd q.1 i 10 + (mx (now q.1) (mn t (until_ q.1 i)) - now q.1)) := by
  unfold passNd
  dsimp only
  split <;> rfl
section MP
variable {E : PE} {B : Nat × Nat} {F : Nat → Nat} {R : PM} {S : SS} {h : PH}
theorem m_pass (hS : SP E B F R S h) (hw : W1 S) {t : Int32} : okk (f_X2_pass (some (F 0)) t h) (fun b => SP E B F R (pass S t) b.2) := by
  have hn := hS.base.2.2
  have FUb := FU_big
  have loop : ∀ (n i : Nat) (q : SS × Int32 × Int32) (h1 : PH), i ≤ s_n S → s_n S < i + n → s_n q.1 = s_n S → W1 q.1 → SP E B F R q.1 h1 → okk (f_X2_pass_L24 n (some (F 0)) t q.2.1 q.2.2 (some (F 1)) (Int32.ofNat (s_n S)) (Int32.ofNat i) h1) (fun b => SP E B F R (let q2 := ((List.range (s_n S)).drop i).foldl (passNd t) q; u_sc (u_sc (u_sc q2.1 16 (s_sc q2.1 16 + (q2.2.2 - now q2.1))) 17 (s_sc q2.1 17 + (t - q2.2.1))) 8 t) b.2) := by
    intro n
    induction n with
    | zero => intro i q h1 g1 g2; omega
    | succ n ih =>
      intro i q h1 g1 g2 hq hwq hs
      unfold f_X2_pass_L24
      by_cases hi : i = s_n S
      · rw [if_pos ((of_le (by omega) (by omega)).mpr (by omega)), hi, List.drop_eq_nil_of_le (by simp)]
        rw [r_sc hs (by decide) (by decide), r_sc hs (by decide) (by decide)]
        obtain ⟨h7, a1, a2⟩ := w_sc hs (k := 16) (v := s_sc q.1 16 + (q.2.2 - now q.1)) (by decide) (by decide)
        rw [a2, r_sc a1 (by decide) (by decide)]
        obtain ⟨h9, b1, b2⟩ := w_sc a1 (k := 17) (v := s_sc q.1 17 + (t - q.2.1)) (by decide) (by decide)
        rw [show Value.int (s_sc (u_sc q.1 16 (s_sc q.1 16 + (q.2.2 - now q.1))) 17 + (t - q.2.1)) = Value.int (s_sc q.1 17 + (t - q.2.1)) from rfl, b2]
        obtain ⟨h10, c1, c2⟩ := w_sc b1 (k := 8) (v := t) (by decide) (by decide)
        rw [c2]
        exact ⟨_, rfl, c1⟩
      · have hil : i < s_n q.1 := by omega
        have hil2 : i < s_n S := by omega
        rw [if_neg (fun hx => by rw [of_le (by omega) (by omega)] at hx; omega), r_nds hs hil, r_sc hs (by decide) (by decide), r_ndv hs hil, cl_eq (m_until hs hil hwq), r_ndN hs hil (by decide) (by decide), r_sc hs (by decide) (by decide)]
        rw [show (if until_ q.1 i < t then until_ q.1 i else t) = mn t (until_ q.1 i) from rfl]
        rw [show (if s_sc q.1 8 < mn t (until_ q.1 i) then mn t (until_ q.1 i) else s_sc q.1 8) = mx (now q.1) (mn t (until_ q.1 i)) from rfl]
        obtain ⟨e, he⟩ : ∃ e, mx (now q.1) (mn t (until_ q.1 i)) = e := ⟨_, rfl⟩
        rw [he]
        obtain ⟨h17, a1, a2⟩ := w_nd hs (k := 10) (v := s_nd q.1 i 10 + (e - s_sc q.1 8)) hil (by decide) (by decide)
        rw [a2, range_drop hil2, List.foldl_cons]
        unfold f_X2_pass_B94
        rw [ofs]
        have e1 : passNd t q i = if e ≤ q.2.1 then (u_nd q.1 i 10 (s_nd q.1 i 10 + (e - now q.1)), q.2.1, mx q.2.2 e) else (u_nd q.1 i 10 (s_nd q.1 i 10 + (e - now q.1)), e, q.2.1) := by
          unfold passNd
          dsimp only
          rw [he]
        rw [e1]
        by_cases hle : e ≤ q.2.1
        · rw [if_pos hle, if_pos hle]
          exact ih (i + 1) (u_nd q.1 i 10 (s_nd q.1 i 10 + (e - now q.1)), q.2.1, mx q.2.2 e) h17 (by omega) (by omega) hq (hwq.nd (by decide)) a1
        · rw [if_neg hle, if_neg hle]
          exact ih (i + 1) (u_nd q.1 i 10 (s_nd q.1 i 10 + (e - now q.1)), e, q.2.1) h17 (by omega) (by omega) hq (hwq.nd (by decide)) a1
  unfold f_X2_pass pass
  rw [r_sc hS (by decide) (by decide), r_sc hS (by decide) (by decide), r_ref hS (by decide) (by decide), r_n hS]
  have := loop FU 0 (S, now S, now S) h (Nat.zero_le _) (by omega) rfl hw hS
  rw [List.drop_zero] at this
  exact this
theorem W1.ou {S : SS} {l : List OG} (hw : W1 S) : W1 (u_ou S l) := hw
theorem m_links (hB2 : B.2 < 2 ^ 25) : ∀ (n k : Nat) (S : SS) (h : PH), SP E B F R S h → k ≤ (s_ou S).length → (s_ou S).length < k + n → (∀ o ∈ s_ou S, o.1 < s_n S) → ∀ N : Nat, n ≤ N → okk (f_X2_changeLinks_L2 N (some (F 0)) (Int32.ofNat k) h) (fun b => SP E B F R (links n k S) b.2) := by
  intro n
  induction n with
  | zero => intro k S h hS h1 h2; omega
  | succ n ih =>
    intro k S h hS h1 h2 hall N hN
    have ho := lsz hS (li := 4) (by decide) (by decide)
    rw [len4] at ho
    cases N with
    | zero => omega
    | succ N =>
      unfold f_X2_changeLinks_L2 links
      rw [r_ref hS (by decide) (by decide), r_lsv hS (by decide) (by decide), cl_eq (r_size hS (by decide) (by decide)), len4]
      by_cases hk : k = (s_ou S).length
      · rw [if_pos ((of_le (by omega) (by omega)).mpr (by omega)), hk, List.getElem?_eq_none (Nat.le_refl _)]
        exact ⟨_, rfl, hS⟩
      · have hkl : k < (s_ou S).length := by omega
        rw [if_neg (fun hx => by rw [of_le (by omega) (by omega)] at hx; omega), List.getElem?_eq_getElem hkl]
        dsimp only
        obtain ⟨o, hoo⟩ : ∃ o, (s_ou S)[k] = o := ⟨_, rfl⟩
        rw [hoo]
        have hon : o.1 < s_n S := hall o (by rw [← hoo]; exact List.getElem_mem _)
        have hx : (lsC E S 4)[k]? = some (cOut o) := by
          show ((s_ou S).map cOut)[k]? = _
          rw [List.getElem?_map, List.getElem?_eq_getElem hkl, hoo]; rfl
        obtain ⟨q, a1, a2, a3, a4⟩ := l_get hS (by decide) (by decide) hx
        have tr : ∀ {S1 : SS} {h1 : PH}, SP E B F (fun b => if b = q then some (cOut o) else R b) S1 h1 → h1.1 q = some (cOut o) ∧ pbase h1 ≤ q := by
          intro S1 h1 hs
          refine ⟨(hs.tr (b := q) (if_pos rfl)).1, ?_⟩
          show h1.2.1.2.2.1 ≤ q
          rw [hs.base.1, ← hS.base.1]
          exact a2
        have back : ∀ {S1 : SS} {h1 : PH}, SP E B F (fun b => if b = q then some (cOut o) else R b) S1 h1 → SP E B F R S1 h1 := by
          intro S1 h1 hs
          refine hs.less fun b e he => ?_
          by_cases hbq : b = q
          · have z1 := (hS.tr he).1
            rw [hbq, a3] at z1
            rw [hbq]
            exact (if_pos rfl).trans z1
          · exact (if_neg hbq).trans he
        obtain ⟨R1, hR1⟩ : ∃ R1 : PM, (fun b => if b = q then some (cOut o) else R b : PM) = R1 := ⟨_, rfl⟩
        rw [hR1] at a4
        rw [hR1] at tr back
        rw [r_ref hS (by decide) (by decide), r_lsv hS (by decide) (by decide), cl_eq a1, kC_at a3, gIN_at a3 a2 (v := o.2.1) rfl, r_sc hS (by decide) (by decide)]
        have tail : ∀ {S1 : SS} {h1 : PH}, SP E B F R1 S1 h1 → s_ou S1 = s_ou S → s_n S1 = s_n S → okk (f_X2_changeLinks_B53 (f_X2_changeLinks_L2 N) (some (F 0)) (Int32.ofNat k) (some q) h1) (fun b => SP E B F R (if o.2.2 = now S1 then links n k (u_ou (u_nd S1 o.1 4 0) ((s_ou S1).eraseIdx k)) else links n (k + 1) S1) b.2) := by
          intro S1 h1 hs hou hnn
          have hon1 : o.1 < s_n S1 := by omega
          unfold f_X2_changeLinks_B53 f_X2_changeLinks_B94
          rw [gIN_at (tr hs).1 (tr hs).2 (v := o.2.2) rfl, r_sc hs (by decide) (by decide)]
          by_cases hc : o.2.2 = now S1
          · rw [if_pos hc, if_pos hc, r_ref hs (by decide) (by decide), gIN_at (tr hs).1 (tr hs).2 (v := Int32.ofNat o.1) rfl, r_nds hs hon1]
            obtain ⟨h18, b1, b2⟩ := w_ndZ hs (k := 4) (v := 0) hon1 (by decide) (by decide) (Or.inl rfl)
            rw [b2, r_ref b1 (by decide) (by decide), r_lsv b1 (by decide) (by decide)]
            refine okk_cl ((l_rem b1 (S' := u_ou (u_nd S1 o.1 4 0) ((s_ou S1).eraseIdx k)) (li := 4) (j := k) ⟨rfl, rfl, rfl, rfl, rfl, rfl⟩ (by decide) (by decide) (by rw [len4]; show k < (s_ou S1).length; rw [hou]; exact hkl) ?_ ?_).mono fun b hb => ?_)
            · show ((s_ou S1).eraseIdx k).map cOut = ((s_ou S1).map cOut).eraseIdx k
              exact map_er _ _ _
            · intro j j1 j2 j3
              have : j = 2 ∨ j = 3 ∨ j = 5 := by omega
              rcases this with rfl | rfl | rfl <;> rfl
            · have hlen : (s_ou (u_ou (u_nd S1 o.1 4 0) ((s_ou S1).eraseIdx k))).length = (s_ou S).length - 1 := by
                show ((s_ou S1).eraseIdx k).length = _
                rw [hou, List.length_eraseIdx_of_lt hkl]
              exact ih k _ _ (back hb) (by omega) (by omega) (fun o' ho' => by
                have h9 : o' ∈ (s_ou S1).eraseIdx k := ho'
                rw [hou] at h9
                show o'.1 < s_n S1
                rw [hnn]
                exact hall o' (List.mem_of_mem_eraseIdx h9)) N (by omega)
          · rw [if_neg hc, if_neg hc, ofs]
            exact ih (k + 1) S1 h1 (back hs) (by rw [hou]; omega) (by rw [hou]; omega) (fun o' ho' => by rw [hou] at ho'; rw [hnn]; exact hall o' ho') N (by omega)
        by_cases hc : o.2.1 = now S
        · rw [if_pos hc]
          rw [if_pos hc]
          rw [r_ref hS (by decide) (by decide), gIN_at a3 a2 (v := Int32.ofNat o.1) rfl, r_nds hS hon]
          obtain ⟨h12, b1, b2⟩ := w_ndZ a4 (k := 4) (v := 1) hon (by decide) (by decide) (Or.inr rfl)
          rw [b2]
          exact tail b1 rfl rfl
        · rw [if_neg hc]
          rw [if_neg hc]
          exact tail a4 rfl rfl
end MP
