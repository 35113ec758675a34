/-! what happens at a time; going on -/
set_option maxRecDepth 100000
/-- the messages' loop is over after n of them -/
def mDone : Nat → SS → Prop
  | 0, s => match fmsg (s_ms s) with
    | none => True
    | some q => now s < q.2.2.2.2.2.2.2
  | n + 1, s => match fmsg (s_ms s) with
    | none => True
    | some q => now s < q.2.2.2.2.2.2.2 ∨ mDone n (arrive s q.1 q.2)
def tims (i : Nat) (S : SS) : SS := ((List.range (s_n S)).drop i).foldl timNd S
def fin (S : SS) : SS := tims 0 (delNow ((s_dl S).length + 1) 0 S)
section BJ
variable {S : SS}
theorem n_send {k n l : Nat} {a b c : Int32} : s_n (send S k n l a b c) = s_n S := cS_send.2.1
theorem n_tim {i : Nat} : s_n (timNd S i) = s_n S := by
  unfold timNd acquire
  dsimp only
  split
  · split
    · rfl
    · rw [n_send]; rfl
  · rfl
theorem BI_tim {i : Nat} (h : BI S) (hi : i < s_n S) : BI (timNd S i) := by
  unfold timNd
  split
  · split
    · exact h.nd (by decide)
    · exact BI_acquire h hi
  · exact h
theorem BI_links : ∀ (n k : Nat) {S : SS}, BI S → BI (links n k S)
  | 0, _, _, h => h
  | n + 1, k, S, h => by
    unfold links
    split
    · exact h
    · rename_i o ho
      dsimp only
      have h1 : BI (if o.2.1 = now S then u_nd S o.1 4 1 else S) := by
        split
        · exact h.nd (by decide)
        · exact h
      obtain ⟨S1, hS1⟩ : ∃ S1, (if o.2.1 = now S then u_nd S o.1 4 1 else S) = S1 := ⟨_, rfl⟩
      rw [hS1] at h1 ⊢
      split
      · exact BI_links n k (BI_ou (h1.nd (by decide)) fun x hx => h1.2.2.1 x (List.mem_of_mem_eraseIdx hx))
      · exact BI_links n (k + 1) h1
theorem BI_passNd {t : Int32} {q : SS × Int32 × Int32} {i : Nat} (h : BI q.1) : BI (passNd t q i).1 := by
  rw [passNd_1]
  exact h.nd (by decide)
theorem BI_pass {t : Int32} (h : BI S) : BI (pass S t) := by
  unfold pass
  dsimp only
  have : ∀ (l : List Nat) (q : SS × Int32 × Int32), BI q.1 → BI (l.foldl (passNd t) q).1 := by
    intro l
    induction l with
    | nil => intro q hq; exact hq
    | cons i l ih => intro q hq; exact ih _ (BI_passNd hq)
  exact BI_sc (BI_sc (BI_sc (this _ (S, now S, now S) h)))
theorem gh_pass {t : Int32} : s_gh (pass S t) = s_gh S := by
  unfold pass
  dsimp only
  have : ∀ (l : List Nat) (q : SS × Int32 × Int32), s_gh (l.foldl (passNd t) q).1 = s_gh q.1 := by
    intro l
    induction l with
    | nil => intro q; rfl
    | cons i l ih =>
      intro q
      refine (ih _).trans ?_
      rw [passNd_1]
      rfl
  exact this _ (S, now S, now S)
theorem n_pass {t : Int32} : s_n (pass S t) = s_n S := by
  unfold pass
  dsimp only
  have : ∀ (l : List Nat) (q : SS × Int32 × Int32), s_n (l.foldl (passNd t) q).1 = s_n q.1 := by
    intro l
    induction l with
    | nil => intro q; rfl
    | cons i l ih =>
      intro q
      refine (ih _).trans ?_
      rw [passNd_1]
      rfl
  exact this _ (S, now S, now S)
theorem BI_msgs : ∀ (n : Nat) {S : SS}, BI S → BI (msgsNow n S)
  | 0, _, h => h
  | n + 1, S, h => by
    unfold msgsNow
    split
    · exact h
    · rename_i q hq
      split
      · exact h
      · exact BI_msgs n (BI_arrive h (h.2.1 q.2 (List.mem_of_getElem? (fmsg_mem hq))))
theorem BI_del : ∀ (n k : Nat) {S : SS}, BI S → BI (delNow n k S)
  | 0, _, _, h => h
  | n + 1, k, S, h => by
    unfold delNow
    split
    · exact h
    · rename_i d hd
      have hd2 := h.2.2.2 d (List.mem_of_getElem? hd)
      split
      · exact BI_del n k (BI_send (BI_dl h fun x hx => h.2.2.2 x (List.mem_of_mem_eraseIdx hx)) (by decide) hd2.1 (fun _ => ⟨_, hd2.2, rfl⟩))
      · exact BI_del n (k + 1) h
theorem BI_timsL : ∀ (l : List Nat) {S : SS}, BI S → (∀ i ∈ l, i < s_n S) → BI (l.foldl timNd S)
  | [], _, h, _ => h
  | i :: l, S, h, hl => BI_timsL l (BI_tim h (hl i List.mem_cons_self)) fun j hj => by rw [n_tim]; exact hl j (List.mem_cons_of_mem _ hj)
theorem BI_fin (h : BI S) : BI (fin S) := by
  unfold fin tims
  refine BI_timsL _ (BI_del _ _ h) fun i hi => ?_
  rw [List.drop_zero] at hi
  exact List.mem_range.mp hi
theorem happen_eq : happen S = fin (msgsNow (s_ms (changeLinks S)).length (changeLinks S)) := by
  unfold happen fin tims
  dsimp only
  rw [List.drop_zero]
theorem BI_happen (h : BI S) : BI (happen S) := by
  rw [happen_eq]
  exact BI_fin (BI_msgs _ (BI_links _ _ h))
theorem gle_fin : gle S (fin S) := (gle_del _ _).tr (gle_tims _)
end BJ
section MHp
variable {E : PE} {B : Nat × Nat} {F : Nat → Nat} {R : PM}
theorem m_tims (hB2 : B.2 < 2 ^ 25) : ∀ (N i : Nat) (S : SS) (h : PH), SP E B F R S h → BI S → i ≤ s_n S → s_n S < i + N → fitB B (tims i S) → okk (f_X2_happen_L134 N (some (F 0)) (Int32.ofNat i) h) (fun b => SP E B F R (tims i S) b.2) := by
  intro N
  induction N with
  | zero => intro i S h hS hb h1 h2; omega
  | succ N ih =>
    intro i S h hS hb h1 h2 hf
    have hn := hS.base.2.2
    unfold f_X2_happen_L134
    rw [r_ref hS (by decide) (by decide), r_n hS]
    by_cases hi : i = s_n S
    · rw [if_pos ((of_le (by omega) (by omega)).mpr (by omega))]
      unfold tims
      rw [List.drop_eq_nil_of_le (by simp; omega)]
      exact ⟨_, rfl, hS⟩
    · have hil : i < s_n S := by omega
      rw [if_neg (fun hx => by rw [of_le (by omega) (by omega)] at hx; omega), r_ref hS (by decide) (by decide), r_nds hS hil, r_sc hS (by decide) (by decide), r_ndv hS hil, cl_eq (m_due hS hil)]
      have e1 : tims i S = tims (i + 1) (timNd S i) := by
        unfold tims
        rw [range_drop hil, List.foldl_cons, n_tim]
      rw [e1] at hf ⊢
      unfold f_X2_happen_B185
      rw [ofs]
      have nx : ∀ {h1 : PH}, SP E B F R (timNd S i) h1 → okk (f_X2_happen_L134 N (some (F 0)) (Int32.ofNat (i + 1)) h1) (fun b => SP E B F R (tims (i + 1) (timNd S i)) b.2) := fun hs => ih (i + 1) _ _ hs (BI_tim hb hil) (by rw [n_tim]; omega) (by rw [n_tim]; omega) hf
      have hf2 : fitB B (timNd S i) := hf.le (gle_tims _)
      unfold timNd at nx hf2 ⊢
      by_cases hd : due S i = true
      · rw [if_pos hd, if_neg (by decide), r_ndN hS hil (by decide) (by decide)]
        rw [if_pos hd] at nx hf2 ⊢
        by_cases hc : s_nd S i 3 = 0
        · rw [if_pos hc]
          rw [if_pos hc] at nx ⊢
          obtain ⟨h39, a1, a2⟩ := w_nd hS (k := 8) (v := -4) hil (by decide) (by decide)
          rw [a2]
          exact nx a1
        · rw [if_neg hc]
          rw [if_neg hc] at nx hf2 ⊢
          rw [r_sim hS]
          exact okk_cl ((m_acquire hS hb.1 hil hf2 hB2).mono fun b hb => nx hb)
      · rw [if_neg hd, if_pos rfl]
        rw [if_neg hd] at nx ⊢
        exact nx hS
theorem m_del (hB2 : B.2 < 2 ^ 25) : ∀ (n k : Nat) (S : SS) (h : PH), SP E B F R S h → BI S → k ≤ (s_dl S).length → (s_dl S).length < k + n → fitB B (tims 0 (delNow n k S)) → ∀ N : Nat, n ≤ N → okk (f_X2_happen_L39 N (some (F 0)) (Int32.ofNat k) h) (fun b => SP E B F R (tims 0 (delNow n k S)) b.2) := by
  intro n
  induction n with
  | zero => intro k S h hS hb h1 h2; omega
  | succ n ih =>
    intro k S h hS hb h1 h2 hf N hN
    have hd := lsz hS (li := 3) (by decide) (by decide)
    rw [len3] at hd
    have hn := hS.base.2.2
    have FUb := FU_big
    cases N with
    | zero => omega
    | succ N =>
      unfold f_X2_happen_L39
      unfold delNow at hf ⊢
      rw [r_ref hS (by decide) (by decide), r_lsv hS (by decide) (by decide), cl_eq (r_size hS (by decide) (by decide)), len3]
      by_cases hk : k = (s_dl S).length
      · rw [List.getElem?_eq_none (by omega)] at hf ⊢
        rw [if_pos ((of_le (by omega) (by omega)).mpr (by omega))]
        exact m_tims hB2 FU 0 S h hS hb (Nat.zero_le _) (by omega) hf
      · have hkl : k < (s_dl S).length := by omega
        rw [List.getElem?_eq_getElem hkl] at hf ⊢
        dsimp only at hf ⊢
        obtain ⟨d, hdd⟩ : ∃ d, (s_dl S)[k] = d := ⟨_, rfl⟩
        rw [hdd] at hf ⊢
        have hdb := hb.2.2.2 d (by rw [← hdd]; exact List.getElem_mem _)
        rw [if_neg (fun hx => by rw [of_le (by omega) (by omega)] at hx; omega)]
        have hx : (lsC E S 3)[k]? = some (cDel d) := by
          show ((s_dl S).map cDel)[k]? = _
          rw [List.getElem?_map, List.getElem?_eq_getElem hkl, hdd]; rfl
        obtain ⟨q, a1, a2, a3, a4⟩ := l_get hS (by decide) (by decide) hx
        rw [r_ref hS (by decide) (by decide), r_lsv hS (by decide) (by decide), cl_eq a1, kC_at a3, gIN_at a3 a2 (v := d.2.2.2.2) rfl, r_sc hS (by decide) (by decide)]
        by_cases hc : d.2.2.2.2 ≤ now S
        · rw [if_pos hc]
          rw [if_pos hc] at hf ⊢
          rw [r_ref hS (by decide) (by decide), r_lsv hS (by decide) (by decide)]
          have back : ∀ {S1 : SS} {h1 : PH}, SP E B F (fun b => if b = q then some (cDel d) else R b) S1 h1 → SP E B F R S1 h1 := by
            intro S1 h1 hs
            refine hs.less fun b e he => ?_
            by_cases hbq : b = q
            · have z1 := (hS.tr he).1
              rw [hbq, a3] at z1
              rw [hbq]
              exact (if_pos rfl).trans z1
            · exact (if_neg hbq).trans he
          have hfs : fitB B (send (u_dl S ((s_dl S).eraseIdx k)) 4 d.1 3 d.2.1 (Int32.ofNat d.2.2.1) d.2.2.2.1) := hf.le ((gle_del n k).tr (gle_tims _))
          refine okk_cl ((l_rem a4 (S' := u_dl S ((s_dl S).eraseIdx k)) (li := 3) (j := k) ⟨rfl, rfl, rfl, rfl, rfl, rfl⟩ (by decide) (by decide) (by rw [len3]; exact hkl) (map_er _ _ _) ?_).mono fun b hb1 => ?_)
          · intro j j1 j2 j3
            have : j = 2 ∨ j = 4 ∨ j = 5 := by omega
            rcases this with rfl | rfl | rfl <;> rfl
          · obtain ⟨u, h18⟩ := b
            have s1 : SP E B F (fun b => if b = q then some (cDel d) else R b) (u_dl S ((s_dl S).eraseIdx k)) h18 := hb1
            show okk (asR (some (h18.2.1.1 4)) _) _
            have ro := roomN s1 hfs
            have hqd : (fun b => if b = q then some (cDel d) else R b : PM) q = some (cDel d) := if_pos rfl
            have qlt := (s1.tr hqd).2
            have hbq : pbase h18 ≤ q := by
              show h18.2.1.2.2.1 ≤ q
              rw [s1.base.1, ← hS.base.1]
              exact a2
            have cq : ∀ e : va_E, (p_new h18 e 3).1 q = some (cDel d) := fun e => by rw [pn_ne (Nat.ne_of_lt qlt)]; exact (s1.tr hqd).1
            have e2 := fun e => s1.mk e 3 ro.1 ro.2
            rw [r_kind s1 (by decide), gIN_at (s1.tr hqd).1 hbq (v := Int32.ofNat d.1) rfl, nA_3 ro.1 ro.2]
            rw [gIN_at (h := p_new h18 _ 3) (cq _) hbq (v := d.2.1) rfl, sI_pn0 s1.base.2.1 (by decide) (by decide), gIN_at (h := p_new h18 _ 3) (cq _) hbq (v := Int32.ofNat d.2.2.1) rfl, sI_pn1 s1.base.2.1 (by decide) (by decide), gIN_at (h := p_new h18 _ 3) (cq _) hbq (v := d.2.2.2.1) rfl, sI_pn2 s1.base.2.1 (by decide) (by decide), r_sim (e2 _)]
            refine okk_cl ((m_sendN s1 (kind := 4) (len := 3) (a := d.2.1) (b := Int32.ofNat d.2.2.1) (c := d.2.2.2.1) hb.1 (by decide) hdb.1 (by decide) rfl rfl rfl hfs hB2).mono fun b9 hb9 => ?_)
            have hbi : BI (send (u_dl S ((s_dl S).eraseIdx k)) 4 d.1 3 d.2.1 (Int32.ofNat d.2.2.1) d.2.2.2.1) := BI_send (BI_dl hb fun x hx => hb.2.2.2 x (List.mem_of_mem_eraseIdx hx)) (by decide) hdb.1 (fun _ => ⟨_, hdb.2, rfl⟩)
            have hlen : (s_dl (send (u_dl S ((s_dl S).eraseIdx k)) 4 d.1 3 d.2.1 (Int32.ofNat d.2.2.1) d.2.2.2.1)).length = (s_dl S).length - 1 := by
              have : s_dl (send (u_dl S ((s_dl S).eraseIdx k)) 4 d.1 3 d.2.1 (Int32.ofNat d.2.2.1) d.2.2.2.1) = (s_dl S).eraseIdx k := by
                unfold send
                dsimp only
                split <;> rfl
              rw [this, List.length_eraseIdx_of_lt hkl]
            exact ih k _ _ (back hb9) hbi (by omega) (by omega) hf N (by omega)
        · rw [if_neg hc]
          rw [if_neg hc] at hf ⊢
          rw [ofs]
          exact ih (k + 1) S h hS hb (by omega) (by omega) hf N (by omega)
end MHp
