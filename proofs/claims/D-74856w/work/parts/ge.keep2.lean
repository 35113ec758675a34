/-! WHAT HOLDS AT REST: every call of the law; fresh simulations -/
set_option maxRecDepth 100000
section KE2
variable {S S' : SS}
theorem LJ.ct {S2 : SS} (h : LJ S) (hg : s_gh S 0 ≤ s_gh S2 0) (hb : s_gh S2 0 ≤ 1000000) : LJ (ctS S S2) := ⟨Inv_ctS h.1 hg hb, h.2.1, h.2.2.1, h.2.2.2⟩
theorem LJ.uct {c k : Nat} (h : LJ S) (hg : s_gh S 0 ≤ c) (hb : c ≤ 1000000) : LJ (u_ct S c k) := by
  have e : s_gh (u_ct S c k) 0 = c := by
    show fu (fu (s_gh S) 0 c) 1 k 0 = _
    rw [fu_ne (by decide), fu_eq]
  obtain ⟨a1, a2, a3, a4, a5⟩ := h.1
  refine ⟨⟨a1, a2, a3, ?_, a5⟩, h.2.1, h.2.2.1, h.2.2.2⟩
  exact WI.up (S := S) (S' := u_ct S c k) a4 rfl rfl (fun k _ => rfl) (by rw [e]; exact hg) (by rw [e]; exact hb)
theorem LJ.copy (h : LJ S) (hb : s_gh (copyS S) 0 ≤ 1000000) : LJ (copyS S) := ⟨Inv_copy h.1 hb, Rest_copy h.2.1, ⟨h.2.2.1.1, rfl, h.2.2.1.2.2⟩, h.2.2.2⟩
theorem LJ.goOn {n : Nat} {t : Int32} (h : LJ S) (hr : RN S t n) (hb : s_gh (goOn n S t) 0 ≤ 1000000) : LJ (goOn n S t) := by
  obtain ⟨g1, g2, g3, g4, g5⟩ := goOn_ok n S t h.1 h.2.1 hr.2.1 hr.2.2 hb
  exact ⟨g1, g2, GQ_goOn0 nv0 n S t h.1 h.2.1 hr.2.1 hb h.2.2.1, h.2.2.2.up (D2_goOn n)⟩
theorem bb1 : BB.1 ≤ 1000000 := by decide
theorem NXS.lj (h : LJ S) (hF : FT S) (hn : NXS S S') : LJ S' ∧ s_gh S 0 ≤ s_gh S' 0 := by
  have f1 : ∀ S' : SS, S' = g_mk S 1 6 ∨ NXa S S' → s_gh S' 0 ≤ 1000000 := fun S' hs => Nat.le_trans (hF.1 S' hs).1 bb1
  rcases hn with rfl | rfl | ha | ⟨t, n, r1, r2, rfl⟩ | ⟨S2, rfl, g1, hp⟩
  · exact ⟨h, Nat.le_refl _⟩
  · exact ⟨h.mk (f1 _ (Or.inl rfl)), gle_mk.1⟩
  · have hb := f1 _ (Or.inr ha)
    rcases ha with rfl | ⟨i, hi, ha⟩
    · exact ⟨h.rsv hb, (gle.tr (b := u_sc (u_sc S 12 (-4)) 15 (srvAt S + s_cf S 3)) gle.rf gle_note).1⟩
    · rcases ha with rfl | rfl | rfl | rfl | ⟨ms, hm, rfl⟩ | ⟨v, hv, rfl⟩ | ⟨ms, du, hm, hd, rfl⟩ | ⟨r, hr, ⟨v, hv, rfl | ⟨ms, hm, rfl⟩⟩ | rfl | rfl⟩
      · refine ⟨h.camp hi hb, ?_⟩
        unfold campS
        split
        · exact Nat.le_refl _
        · split
          · exact (gle.tr (b := u_nd S i 3 1) gle.rf gle_acquire).1
          · exact Nat.le_refl _
      · refine ⟨h.wit hi hb, ?_⟩
        unfold withS
        split
        · exact Nat.le_refl _
        · split
          · exact Nat.le_refl _
          · dsimp only
            split
            · exact Nat.le_refl _
            · exact (gle.tr (b := u_nd (u_nd S i 3 0) i 8 (-4)) gle.rf gle_sendS).1
      · refine ⟨h.cra hi hb, ?_⟩
        unfold crashS
        split
        · exact Nat.le_refl _
        · exact (gle_note (S := S) (k := 7) (n := Int32.ofNat i) (t := s_nd S i 6)).1
      · exact ⟨h.res hi, Nat.le_refl _⟩
      · refine ⟨h.pau hi hm, ?_⟩
        unfold pauS
        split <;> exact Nat.le_refl _
      · exact ⟨h.cut_ hv, Nat.le_refl _⟩
      · refine ⟨h.out hi hm hd hb, ?_⟩
        unfold ouS
        split
        · exact Nat.le_refl _
        · exact (gle.tr gle_mk gle_add).1
      · refine ⟨h.wri hi hr hv hb, ?_⟩
        unfold wrS
        split
        · exact Nat.le_refl _
        · exact gle_sendS.1
      · refine ⟨h.wla hi hr hv hm hb, ?_⟩
        unfold wlS
        split
        · exact Nat.le_refl _
        · split
          · exact Nat.le_refl _
          · exact (gle.tr gle_mk gle_add).1
      · refine ⟨h.fet hi hr hb, ?_⟩
        unfold feS
        split
        · exact Nat.le_refl _
        · exact gle_sendS.1
      · refine ⟨h.rea, ?_⟩
        unfold rdS
        split
        · exact Nat.le_refl _
        · split
          · exact Nat.le_refl _
          · dsimp only
            split <;> exact Nat.le_refl _
  · obtain ⟨o1, o2, o3⟩ := hF.2.2.1 t n r1 r2
    exact ⟨h.goOn r1 o1, (gle_goOn n).1⟩
  · have hg : s_gh S 0 ≤ s_gh S2 0 := Nat.le_trans gle_copy.1 g1.1
    have e : s_gh (ctS S S2) 0 = s_gh S2 0 := by
      show fu (fu (s_gh S) 0 (s_gh S2 0)) 1 (s_gh S2 1) 0 = _
      rw [fu_ne (by decide), fu_eq]
    rw [e]
    refine ⟨h.ct hg ?_, hg⟩
    rcases hp with ⟨S0, t, n, p1, p2, p3, p4⟩ | ⟨i, r, n, p1, p2, p3, p4, rfl⟩
    · exact Nat.le_trans p4.1 (hF.2.2.2.1 S0 t n p1 p2 p3).1
    · exact (hF.2.2.2.2.2 i r n p1 p2 p3 p4).1
/-- the numbers of a text are in their ranges -/
def RGC (c : CS) : Prop := (900 ≤ c.1 0 ∧ c.1 0 ≤ 1100) ∧ c.1 1 ≤ 100000 ∧ (100 ≤ c.1 3 ∧ c.1 3 ≤ 60000) ∧ c.1 4 ≤ 100 ∧ (50 ≤ c.1 5 ∧ c.1 5 ≤ 60000) ∧ (50 ≤ c.1 6 ∧ c.1 6 ≤ 60000) ∧ c.1 7 ≤ 1000 ∧ c.1 8 ≤ 2147483647 ∧ ∀ nd ∈ c.2.1, (900 ≤ nd.1 ∧ nd.1 ≤ 1100) ∧ nd.2.1 ≤ 100000 ∧ 1 ≤ nd.2.2 ∧ nd.2.2 ≤ 1000
theorem nmb_rg {bf : Nat → Nat} {len lo hi p : Nat} {d : Nat × Nat} (h : nmb bf len lo hi p = .inr d) : lo ≤ d.1 ∧ d.1 ≤ hi := by
  unfold nmb at h
  dsimp only at h
  split at h
  · cases h
  · split at h
    · next hx => cases h; exact hx
    · cases h
theorem rd1_rg {bf : Nat → Nat} {len : Nat} {c : CS} {k lo hi p : Nat} {d : CS × Nat} (h : rd1 bf len c k lo hi p = .inr d) : ∃ v : Nat, lo ≤ v ∧ v ≤ hi ∧ d.1 = c_set c k v := by
  unfold rd1 at h
  cases hn : nmb bf len lo hi p with
  | inl e => rw [hn] at h; cases h
  | inr x =>
    rw [hn] at h
    cases h
    have := nmb_rg hn
    exact ⟨x.1, this.1, this.2, rfl⟩
theorem rd2_rg {bf : Nat → Nat} {len : Nat} {c : CS} {k lo hi k' lo' hi' p : Nat} {d : CS × Nat} (h : rd2 bf len c k lo hi k' lo' hi' p = .inr d) : ∃ v v' : Nat, lo ≤ v ∧ v ≤ hi ∧ lo' ≤ v' ∧ v' ≤ hi' ∧ d.1 = c_set (c_set c k v) k' v' := by
  unfold rd2 at h
  cases hn : rd1 bf len c k lo hi p with
  | inl e => rw [hn] at h; cases h
  | inr x =>
    rw [hn] at h
    obtain ⟨v, v1, v2, v3⟩ := rd1_rg hn
    obtain ⟨w, w1, w2, w3⟩ := rd1_rg h
    exact ⟨v, w, v1, v2, w1, w2, by rw [w3, v3]⟩
theorem rdN_rg {bf : Nat → Nat} {len : Nat} {c : CS} {p : Nat} {d : CS × Nat} (h : rdN bf len c p = .inr d) : ∃ r o e : Nat, (900 ≤ r ∧ r ≤ 1100) ∧ o ≤ 100000 ∧ (1 ≤ e ∧ e ≤ 1000) ∧ d.1 = c_node c r o e := by
  unfold rdN at h
  cases hn : nmb bf len 900 1100 p with
  | inl e => rw [hn] at h; cases h
  | inr x =>
    rw [hn] at h
    dsimp only at h
    cases hm : nmb bf len 0 100000 x.2 with
    | inl e => rw [hm] at h; cases h
    | inr y =>
      rw [hm] at h
      dsimp only at h
      cases hk : nmb bf len 1 1000 y.2 with
      | inl e => rw [hk] at h; cases h
      | inr z =>
        rw [hk] at h
        cases h
        exact ⟨x.1, y.1, z.1, nmb_rg hn, (nmb_rg hm).2, nmb_rg hk, rfl⟩
theorem RGC.set {c : CS} {k v : Nat} (h : RGC c) (hk : (k = 0 ∧ 900 ≤ v ∧ v ≤ 1100) ∨ (k = 1 ∧ v ≤ 100000) ∨ (k = 3 ∧ 100 ≤ v ∧ v ≤ 60000) ∨ (k = 4 ∧ v ≤ 100) ∨ ((k = 5 ∨ k = 6) ∧ 50 ≤ v ∧ v ≤ 60000) ∨ (k = 7 ∧ v ≤ 1000) ∨ (k = 8 ∧ v ≤ 2147483647)) : RGC (c_set c k v) := by
  obtain ⟨a0, a1, a3, a4, a5, a6, a7, a8, a9⟩ := h
  have e : ∀ j : Nat, (c_set c k v).1 j = if j = k then v else c.1 j := fun j => rfl
  unfold RGC
  rw [e 0, e 1, e 3, e 4, e 5, e 6, e 7, e 8]
  rcases hk with ⟨rfl, q⟩ | ⟨rfl, q⟩ | ⟨rfl, q⟩ | ⟨rfl, q⟩ | ⟨rfl | rfl, q⟩ | ⟨rfl, q⟩ | ⟨rfl, q⟩
  · exact ⟨q, a1, a3, a4, a5, a6, a7, a8, a9⟩
  · exact ⟨a0, q, a3, a4, a5, a6, a7, a8, a9⟩
  · exact ⟨a0, a1, q, a4, a5, a6, a7, a8, a9⟩
  · exact ⟨a0, a1, a3, q, a5, a6, a7, a8, a9⟩
  · exact ⟨a0, a1, a3, a4, q, a6, a7, a8, a9⟩
  · exact ⟨a0, a1, a3, a4, a5, q, a7, a8, a9⟩
  · exact ⟨a0, a1, a3, a4, a5, a6, q, a8, a9⟩
  · exact ⟨a0, a1, a3, a4, a5, a6, a7, q, a9⟩
theorem RGC.node {c : CS} {r o d : Nat} (h : RGC c) (h1 : 900 ≤ r ∧ r ≤ 1100) (h2 : o ≤ 100000) (h3 : 1 ≤ d ∧ d ≤ 1000) : RGC (c_node c r o d) := by
  obtain ⟨a0, a1, a3, a4, a5, a6, a7, a8, a9⟩ := h
  refine ⟨a0, a1, a3, a4, a5, a6, a7, a8, fun nd hn => ?_⟩
  rcases List.mem_append.mp hn with q | q
  · exact a9 nd q
  · rw [List.mem_singleton.mp q]
    exact ⟨h1, h2, h3⟩
theorem RGC.met {c : CS} {k : Nat} (h : RGC c) : RGC (c_met c k) := h
theorem rdW_rg {bf : Nat → Nat} {len : Nat} {c : CS} {k p : Nat} {d : CS × Nat} (h : RGC c) (hx : rdW bf len c k p = .inr d) : RGC d.1 := by
  unfold rdW at hx
  split at hx
  · obtain ⟨v, w, v1, v2, w1, w2, e⟩ := rd2_rg hx
    rw [e]
    exact (h.set (Or.inl ⟨rfl, v1, v2⟩)).set (Or.inr (Or.inl ⟨rfl, w2⟩))
  split at hx
  · obtain ⟨r, o, e, r1, r2, r3, r4⟩ := rdN_rg hx
    rw [r4]
    exact h.node r1 r2 r3
  split at hx
  · obtain ⟨v, w, v1, v2, w1, w2, e⟩ := rd2_rg hx
    rw [e]
    exact (h.set (Or.inr (Or.inr (Or.inl ⟨rfl, v1, v2⟩)))).set (Or.inr (Or.inr (Or.inr (Or.inl ⟨rfl, w2⟩))))
  split at hx
  · obtain ⟨v, v1, v2, e⟩ := rd1_rg hx
    rw [e]
    exact h.set (Or.inr (Or.inr (Or.inr (Or.inr (Or.inl ⟨Or.inl rfl, v1, v2⟩)))))
  split at hx
  · obtain ⟨v, v1, v2, e⟩ := rd1_rg hx
    rw [e]
    exact h.set (Or.inr (Or.inr (Or.inr (Or.inr (Or.inl ⟨Or.inr rfl, v1, v2⟩)))))
  split at hx
  · obtain ⟨v, v1, v2, e⟩ := rd1_rg hx
    rw [e]
    exact h.set (Or.inr (Or.inr (Or.inr (Or.inr (Or.inr (Or.inl ⟨rfl, v2⟩))))))
  · obtain ⟨v, v1, v2, e⟩ := rd1_rg hx
    rw [e]
    exact h.set (Or.inr (Or.inr (Or.inr (Or.inr (Or.inr (Or.inr ⟨rfl, v2⟩))))))
theorem stm_rg {bf : Nat → Nat} {len : Nat} {c : CS} {p : Nat} {d : CS × Nat} (h : RGC c) (hx : stm bf len c p = .inr d) : RGC d.1 := by
  unfold stm at hx
  dsimp only at hx
  obtain ⟨k, hk⟩ : ∃ k, wix bf (sk bf len p) (wds bf len FL (sk bf len p) - sk bf len p) = k := ⟨_, rfl⟩
  rw [hk] at hx
  obtain ⟨t, ht⟩ : ∃ t, (if k = 1 then decide (c.2.1.length = 6) else c.2.2 k) = t := ⟨_, rfl⟩
  rw [ht] at hx
  by_cases c7 : k = 7
  · rw [if_pos c7] at hx; cases hx
  · rw [if_neg c7] at hx
    by_cases ct : t = true
    · rw [if_pos ct] at hx; cases hx
    · rw [if_neg ct] at hx
      exact rdW_rg (h.met (k := k)) hx
theorem sts_rg {bf : Nat → Nat} {len : Nat} : ∀ (f p : Nat) (c c' : CS), RGC c → sts bf len f c p = .inr c' → RGC c' := by
  intro f
  induction f with
  | zero =>
    intro p c c' h hx
    unfold sts at hx
    cases hx
  | succ f ih =>
    intro p c c' h hx
    rw [sts_T] at hx
    cases hs : stm bf len c p with
    | inl e' => rw [hs] at hx; cases hx
    | inr d =>
      rw [hs] at hx
      have hd := stm_rg h hs
      unfold stTl at hx
      dsimp only at hx
      obtain ⟨q, hq⟩ : ∃ q, sk bf len d.2 = q := ⟨_, rfl⟩
      rw [hq] at hx
      by_cases c1 : hb bf len q = 256
      · rw [if_pos c1] at hx
        by_cases c2 : d.1.2.1.length = 0
        · rw [if_pos c2] at hx; cases hx
        · rw [if_neg c2] at hx
          cases hx
          exact hd
      · rw [if_neg c1] at hx
        by_cases c2 : hb bf len q = 59
        · rw [if_pos c2] at hx
          exact ih _ _ _ hd hx
        · rw [if_neg c2] at hx
          cases hx
theorem RGC0 : RGC cs0 := by
  refine ⟨by decide, by decide, by decide, by decide, by decide, by decide, by decide, by decide, fun nd hn => ?_⟩
  exact absurd hn List.not_mem_nil
theorem parse_rg {bf : Nat → Nat} {len : Nat} {c : CS} (h : parse bf len = .inr c) : RGC c := sts_rg FL 0 cs0 c RGC0 h
theorem RGCP : RGC csP := RGC0.node (by decide) (by decide) (by decide)
theorem iv_of {v lo hi : Nat} (h1 : lo ≤ v) (h2 : v ≤ hi) (h3 : hi < 2 ^ 31) : iv (Int32.ofNat v) lo hi := by
  rw [iv, of_i (by omega)]
  omega
/-- a fresh simulation -/
theorem LJ_SC {c : CS} {cl sl : Nat} (h : RGC c) (h1 : 1 ≤ c.2.1.length) (h6 : c.2.1.length ≤ 6) (hb : cl ≤ 1000000) : LJ (SC c cl sl) := by
  obtain ⟨a0, a1, a3, a4, a5, a6, a7, a8, a9⟩ := h
  refine ⟨⟨⟨iv_of a0.1 a0.2 (by decide), iv_of (Nat.zero_le _) a1 (by decide), iv_of a3.1 a3.2 (by decide), iv_of (Nat.zero_le _) a4 (by decide), iv_of a5.1 a5.2 (by decide), iv_of a6.1 a6.2 (by decide), iv_of (Nat.zero_le _) a7 (by decide), (iv_of (Nat.zero_le _) a8 (by decide)).1⟩, fun i hi => ?_, ⟨h1, h6⟩, ?_, fun m hm => absurd hm List.not_mem_nil, List.Pairwise.nil, fun o ho => absurd ho List.not_mem_nil, fun d hd => absurd hd List.not_mem_nil, Nat.zero_le _, Nat.zero_le _, Nat.zero_le _⟩, ⟨fun m hm => absurd hm List.not_mem_nil, fun o ho => absurd ho List.not_mem_nil, fun d hd => absurd hd List.not_mem_nil, fun i _ _ _ => Or.inl rfl⟩, ⟨⟨fun d hd => absurd hd List.not_mem_nil, fun r => nv0⟩, rfl, fun m hm => absurd hm List.not_mem_nil⟩, fun i _ _ => rfl⟩
  · have hi' : i < c.2.1.length := hi
    have hm : c.2.1.getD i (0, 0, 0) ∈ c.2.1 := by
      rw [List.getD_eq_getElem?_getD, List.getElem?_eq_getElem hi']
      exact List.getElem_mem hi'
    obtain ⟨b1, b2, b3⟩ := a9 _ hm
    exact ⟨iv_of b1.1 b1.2 (by decide), iv_of (Nat.zero_le _) b2 (by decide), iv_of b3.1 b3.2 (by decide), Or.inr rfl, Or.inl rfl, Or.inl rfl, (show iv (0 : Int32) 0 5020000 from by decide), fun _ => rfl, (show (0 : Int) ≤ (0 : Int32).toInt from by decide), (show iv (0 : Int32) 0 7000000 from by decide), fun hy => absurd rfl hy, Or.inl rfl⟩
  · have e0 : s_gh (SC c cl sl) 0 = cl := rfl
    unfold WI
    rw [e0]
    refine ⟨(show iv (0 : Int32) 0 5000000 from by decide), (iv_of (Nat.zero_le _) a8 (by decide)).1, ?_, hb, ?_, Or.inl rfl, (show iv (0 : Int32) 0 7000000 from by decide), fun hy => absurd rfl hy, (show iv (0 : Int32) 0 7000000 from by decide)⟩
    · show iv (0 : Int32) 0 cl
      exact ⟨by decide, by show (0 : Int) ≤ cl; omega⟩
    · show iv (0 : Int32) 0 cl
      exact ⟨by decide, by show (0 : Int) ≤ cl; omega⟩
end KE2
