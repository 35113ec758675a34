/-! THE COMPONENT reads: statements -/
set_option maxRecDepth 100000
section SPG
variable {bf : Nat → Nat} {len p : Nat} {c : CS}
theorem rd1_go {k lo hi : Nat} {d : CS × Nat} (hp : p ≤ len) (h : rd1 bf len c k lo hi p = .inr d) : p < d.2 ∧ d.2 ≤ len := by
  unfold rd1 at h
  cases hn : nmb bf len lo hi p with
  | inl e => rw [hn] at h; cases h
  | inr x =>
    rw [hn] at h
    cases h
    exact (nmb_ok hp hn).2.2
theorem rd2_go {k lo hi k' lo' hi' : Nat} {d : CS × Nat} (hp : p ≤ len) (h : rd2 bf len c k lo hi k' lo' hi' p = .inr d) : p < d.2 ∧ d.2 ≤ len := by
  unfold rd2 at h
  cases hn : rd1 bf len c k lo hi p with
  | inl e => rw [hn] at h; cases h
  | inr x =>
    rw [hn] at h
    have h1 := rd1_go hp hn
    have h2 := rd1_go h1.2 h
    omega
theorem rdN_go {d : CS × Nat} (hp : p ≤ len) (h : rdN bf len c p = .inr d) : p < d.2 ∧ d.2 ≤ len := by
  unfold rdN at h
  cases hn : nmb bf len 900 1100 p with
  | inl e => rw [hn] at h; cases h
  | inr x =>
    rw [hn] at h
    dsimp only at h
    have h1 := nmb_ok hp hn
    cases hm : nmb bf len 0 100000 x.2 with
    | inl e => rw [hm] at h; cases h
    | inr y =>
      rw [hm] at h
      dsimp only at h
      have h2 := nmb_ok h1.2.2.2 hm
      cases hk : nmb bf len 1 1000 y.2 with
      | inl e => rw [hk] at h; cases h
      | inr z =>
        rw [hk] at h
        cases h
        have h3 := nmb_ok h2.2.2.2 hk
        show p < z.2 ∧ z.2 ≤ len
        omega
theorem rdW_go {k : Nat} {d : CS × Nat} (hp : p ≤ len) (h : rdW bf len c k p = .inr d) : p < d.2 ∧ d.2 ≤ len := by
  unfold rdW at h
  repeat' split at h
  all_goals first | exact rd1_go hp h | exact rd2_go hp h | exact rdN_go hp h
theorem wd_len4 {k : Nat} : 4 ≤ (wd k).length := by
  unfold wd
  repeat' split
  all_goals decide
theorem stm_go {d : CS × Nat} (hp : p ≤ len) (h : stm bf len c p = .inr d) : p + 5 ≤ d.2 ∧ d.2 ≤ len := by
  have h1 := sk_le (bf := bf) hp
  unfold stm at h
  dsimp only at h
  obtain ⟨a, ea⟩ : ∃ a, sk bf len p = a := ⟨_, rfl⟩
  rw [ea] at h h1
  have h2 := wds_le (bf := bf) FL a h1.2
  obtain ⟨b, eb⟩ : ∃ b, wds bf len FL a = b := ⟨_, rfl⟩
  rw [eb] at h h2
  obtain ⟨k, k1, k2, k3, k4⟩ := wix_c bf a b
  rw [k1] at h
  by_cases c7 : k = 7
  · rw [if_pos c7] at h; cases h
  · rw [if_neg c7] at h
    obtain ⟨t, ht⟩ : ∃ t, (if k = 1 then decide (c.2.1.length = 6) else c.2.2 k) = t := ⟨_, rfl⟩
    rw [ht] at h
    by_cases ct : t = true
    · rw [if_pos ct] at h; cases h
    · rw [if_neg ct] at h
      have h3 := rdW_go h2.2 h
      have h4 : b - a = (wd k).length := by rw [← k3 (by omega), lts_len]
      have h5 := wd_len4 (k := k)
      omega
end SPG
section CS3
variable {n0 X bA sA sim pa ca ha lc ld len p : Nat} {le : Int32} {bf : Nat → Nat} {c : CS} {h h' : PH}
theorem lts_256 {a b : Nat} (hB : ∀ i : Nat, i < len → bf i < 256) (hb : b ≤ len) : ∀ i : Nat, i < (lts bf a b).length → (lts bf a b).getD i 0 < 256 := fun i hi => by
  rw [lts_len] at hi
  unfold lts
  rw [List.getD_eq_getElem?_getD, List.getElem?_map, List.getElem?_range hi]
  exact hB _ (by omega)
/-- a statement -/
theorem q_stm (h1 : 20 ≤ pcl h) (h2 : 1800 ≤ psl h) (hP : PPS n0 X bA sA sim le pa ca ha lc ld bf len c.2.1 c p h) :
    (∀ d : CS × Nat, stm bf len c p = .inr d → ∃ h' : PH, f_X8_statement (some pa) h = some (.inr (), h') ∧ PPS n0 X bA sA sim le pa ca ha lc ld bf len d.1.2.1 d.1 d.2 h' ∧ GR n0 9 90 h h') ∧ (∀ e : Nat × Nat, stm bf len c p = .inl e → RZ n0 15 1800 h e (f_X8_statement (some pa) h)) := by
  have hb := hP.pb
  have hB := hP.1.b2
  have e9 := hP.2.1.2.2.1
  obtain ⟨sa, u, H, w1, w2, w3, w4, w5, w6, w7, w8⟩ := p_word e9 hP.1 (by omega) hb.2.2.1 (by have := hP.2.2.1; omega) (by have := hP.2.2.2.1; omega) (by omega) (by omega)
  have s1 := sk_le (bf := bf) hb.2.2.2.1
  unfold stm
  dsimp only
  obtain ⟨a, ea⟩ : ∃ a, sk bf len p = a := ⟨_, rfl⟩
  rw [ea] at s1 w2 w8 ⊢
  have s2 := wds_le (bf := bf) FL a s1.2
  obtain ⟨b, eb⟩ : ∃ b, wds bf len FL a = b := ⟨_, rfl⟩
  rw [eb] at s2 w2 w8 ⊢
  obtain ⟨k, k1, k2, k3, k4⟩ := wix_c bf a b
  rw [k1]
  have hPb : PPS n0 X bA sA sim le pa ca ha lc ld bf len c.2.1 c b (pP h pa ca ha X b) := hP.at_ s2.2
  have hPH : PPS n0 X bA sA sim le pa ca ha lc ld bf len c.2.1 c b H := hPb.grow w8
  have g0 : GR n0 0 0 h (pP h pa ca ha X b) := GR.set hP.2.2.2.2.1
  have gH := g0.trans w8 hb.2.1
  have kk : bK (b - a) ≤ 5 ∧ bS (b - a) ≤ 1106 ∧ (b - a ≤ 6 → bK (b - a) = 0 ∧ bS (b - a) = 0) := by
    unfold bK bS
    refine ⟨?_, ?_, fun h6 => ?_⟩
    · repeat' split
      all_goals omega
    · repeat' split
      all_goals omega
    · rw [if_pos (by omega), if_pos (by omega)]
      exact ⟨rfl, rfl⟩
  have zH := gH.2.2
  have hbH := gH.base
  have el : (lts bf a b).length = b - a := lts_len
  have l256 := lts_256 (a := a) hB.1 s2.2
  have hSW : SWB H sa (lts bf a b) := w2.swb w6 w7 l256 (by omega)
  have eH9 := hPH.2.1.2.2.1
  have ex : f_X8_statement (some pa) h = (if (if lts bf a b = wd 1 then (1 : Int32) else 0) = 0 then (gR H (some pa) 7 1 fun r8 => rv_ H r8 19 (cl_ (f_J2_contains r8 (some sa) H) fun v10 h9 => (if v10 = 0 then (f_X8_statement_B68 (some pa) (some sa) (Int32.ofNat a) (if lts bf a b = wd 1 then (1 : Int32) else 0) h9) else (f_X8_statement_B59 (Int32.ofNat a) h9)))) else (gR H (some pa) 7 0 fun r11 => gRN H r11 2 1 fun r12 => rv_ H r12 19 (cl_ (f_J2_size r12 H) fun v14 h13 => (if v14 = (6 : Int32) then (f_X8_statement_B59 (Int32.ofNat a) h13) else (f_X8_statement_B68 (some pa) (some sa) (Int32.ofNat a) (if lts bf a b = wd 1 then (1 : Int32) else 0) h13))))) := by
    unfold f_X8_statement
    have eq1 : f_J9_equals (some sa) (some (sAd H.2.1 28)) H = some (if lts bf a b = wd 1 then 1 else 0, H) := p_equals eH9 hSW.stw (hPH.2.1.word (k := 1) (by decide))
    rw [rv_at hP.1.1, cl_eq w1, gI_at hPH.1.1 rfl, rv_at w2.1, cl_eq (p_len eH9 w2), rv_at w2.1, cl_eq eq1, el, of_sub (by omega), show b - (b - a) = a from by omega]
  rw [ex]
  -- the rest behind the word's note
  have rest : ∀ (H2 : PH), STR H2 sa u (lts bf a b) 0 0 → GR n0 1 13 H H2 → (k < 7 → PPS n0 X bA sA sim le pa ca ha lc ld bf len c.2.1 (c_met c k) b H2) → (k = 1 → c.2.1.length < 6) →
      (∀ d : CS × Nat, (if k = 7 then .inl (1, a) else rdW bf len (c_met c k) k b) = Sum.inr d → ∃ h' : PH, f_X8_statement_B83 (some pa) (some sa) (Int32.ofNat a) H2 = some (.inr (), h') ∧ PPS n0 X bA sA sim le pa ca ha lc ld bf len d.1.2.1 d.1 d.2 h' ∧ GR n0 9 90 h h') ∧ (∀ e : Nat × Nat, (if k = 7 then .inl (1, a) else rdW bf len (c_met c k) k b) = Sum.inl e → RZ n0 15 1800 h e (f_X8_statement_B83 (some pa) (some sa) (Int32.ofNat a) H2)) := fun H2 r1 r2 r3 r4 => by
    have zH2 := r2.2.2
    have hE2 : ENV n0 H2 := hPH.2.1.gr r2 (Nat.le_refl _)
    obtain ⟨hs, hz, sw⟩ := p_sw (pa := pa) (x2 := Int32.ofNat a) (k := k) hE2 r1 (by omega) (by omega) (by omega) (by omega) l256 (by omega) k2 k3 k4
    rw [sw]
    obtain ⟨H3, hH3⟩ : ∃ H3, p_set H2 sa (.inr (22, [.ref u, .int 0, .int hs, .int hz])) = H3 := ⟨_, rfl⟩
    have g3 : GR n0 0 0 H2 H3 := by rw [← hH3]; exact GR.set (by omega)
    have z3 := g3.2.2
    have gg := (gH.trans r2 (Nat.le_refl _)).trans g3 (Nat.le_refl _)
    rw [hH3]
    by_cases c7 : k = 7
    · rw [if_pos c7, if_pos c7]
      refine ⟨fun d hd => (by cases hd), fun e he => ?_⟩
      cases he
      exact (RZ.after gg (q_unk (hE2.gr g3 (Nat.le_refl _)) (by omega) (by omega) (by omega))).more (by omega) (by omega)
    · rw [if_neg c7, if_neg c7]
      have hk : k < 7 := by omega
      have hP3 : PPS n0 X bA sA sim le pa ca ha lc ld bf len (c_met c k).2.1 (c_met c k) b H3 := by
        rw [← hH3]
        exact (r3 hk).hash r1.1 (by omega)
      have q := q_b270 (h := H3) (c := c_met c k) (x2 := Int32.ofNat a) hk r4 (by omega) (by omega) hP3
      refine ⟨fun d hd => ?_, fun e he => ?_⟩
      · obtain ⟨h', q1, q2, q3⟩ := q.1 d hd
        have h6 : b - a ≤ 6 := by
          rw [← el, k3 hk]
          exact wd_len.1
        have k0 := kk.2.2 h6
        exact ⟨h', q1, q2, (gg.trans q3 (Nat.le_refl _)).more (Nat.le_refl _) (by omega) (by omega)⟩
      · exact (RZ.after gg (q.2 e he)).more (by omega) (by omega)
  by_cases c1 : lts bf a b = wd 1
  · have ek : k = 1 := by
      by_cases c7 : k = 7
      · exact absurd c1 (k4 c7 1 (by decide))
      · exact wd_inj (by omega) (by decide) ((k3 (by omega)).symm.trans c1)
    obtain ⟨d1, d2, d3, d4, d5⟩ := hPH.conf (β := ((Nat × Nat) ⊕ Unit) × PH)
    have sz := hPH.size
    rw [if_pos c1, if_neg (show ¬ (1 : Int32) = 0 by decide), d1, d2, d4, cl_eq sz.1, if_neg (show ¬ k = 7 by omega), if_pos ek]
    by_cases c6 : c.2.1.length = 6
    · rw [c6, if_pos (show Int32.ofNat 6 = 6 from rfl), if_pos (by decide)]
      refine ⟨fun d hd => (by cases hd), fun e he => ?_⟩
      cases he
      exact (RZ.after gH (q_rep hPH (by omega) (by omega))).more (by omega) (by omega)
    · have : ¬ Int32.ofNat c.2.1.length = 6 := by
        rw [show (6 : Int32) = Int32.ofNat 6 from rfl, of_inj (by omega) (by omega)]
        exact c6
      rw [if_neg this, if_neg (show ¬ decide (c.2.1.length = 6) = true by rw [decide_eq_true_iff]; exact c6)]
      unfold f_X8_statement_B68
      rw [if_neg (show ¬ (1 : Int32) = 0 by decide)]
      have r := rest H w2 (GR.refl.more (Nat.le_refl _) (by omega) (by omega)) (fun _ => by rw [ek]; exact hPH.met1) (fun _ => by omega)
      rw [if_neg (show ¬ k = 7 by omega)] at r
      exact r
  · have ek : k ≠ 1 := fun hy => c1 (by rw [k3 (by omega), hy])
    obtain ⟨d1, d2, ws, d3, d4⟩ := hPH.has (β := ((Nat × Nat) ⊕ Unit) × PH) hSW
    rw [if_neg c1, if_pos rfl, d1, d2, cl_eq d4, if_neg ek]
    by_cases cw : lts bf a b ∈ ws
    · obtain ⟨j, j1, j2, j3⟩ := d3.2.2 _ cw
      have hk : k < 7 := by
        by_cases c7 : k = 7
        · exact absurd j3 (k4 c7 j j1)
        · omega
      have ej : k = j := wd_inj hk j1 ((k3 hk).symm.trans j3)
      have hm : c.2.2 k = true := (d3.2.1 k hk ek).mp (by rw [← k3 hk]; exact cw)
      rw [if_pos cw, if_neg (show ¬ (1 : Int32) = 0 by decide), if_neg (show ¬ k = 7 by omega), if_pos hm]
      refine ⟨fun d hd => (by cases hd), fun e he => ?_⟩
      cases he
      exact (RZ.after gH (q_rep hPH (by omega) (by omega))).more (by omega) (by omega)
    · rw [if_neg cw, if_pos rfl]
      have hm : k < 7 → c.2.2 k = false := fun hk => by
        cases hc : c.2.2 k with
        | false => rfl
        | true => exact absurd (by rw [k3 hk]; exact (d3.2.1 k hk ek).mpr hc) cw
      unfold f_X8_statement_B68
      obtain ⟨H2, a1, a2, a3, a4, a5⟩ := hPH.had hSW (by omega) (by omega)
      rw [if_pos rfl, d1, d2, cl_eq a1]
      obtain ⟨t1, f, t2, t3⟩ := w2
      have r := rest H2 ⟨a3 _ _ t1 (Or.inl ⟨22, _, rfl, by decide⟩) w6, f, by rw [a2.2.1]; exact a3 _ _ t2 (Or.inr ⟨_, _, _, rfl⟩) w7, t3⟩ a2 (fun hk => a5 k hk ek (k3 hk) (hm hk)) (fun hy => absurd hy ek)
      by_cases c7 : k = 7
      · rw [if_pos c7] at r ⊢
        exact r
      · rw [if_neg c7] at r ⊢
        rw [if_neg (show ¬ c.2.2 k = true by rw [hm (by omega)]; decide)]
        exact r
end CS3
