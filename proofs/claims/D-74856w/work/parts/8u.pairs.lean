/-! overtaking pairs -/
set_option maxRecDepth 100000
def arrS (S : SS) (m : MG) : Int32 := if toNode m.1 = true ∧ paused S m.2.1 (now S) = true then mx m.2.2.2.2.2.2 (s_nd S m.2.1 5) else m.2.2.2.2.2.2
def pairIn (S : SS) (ma : MG) (l : List MG) (x : Int32) : Int32 := l.foldl (fun x mb => x + (if ma.2.2.1 < mb.2.2.1 ∧ arrS S mb < arrS S ma then 1 else 0)) x
def pairsS (S : SS) : Int32 := (s_ms S).foldl (fun x ma => pairIn S ma (s_ms S) x) 0
section MPa
variable {E : PE} {B : Nat × Nat} {F : Nat → Nat} {R : PM} {S : SS} {h : PH}
theorem m_arrS (hS : SP E B F R S h) {q : Nat} {m : MG} (hq : h.1 q = some (cMsg (sAd E) m)) (hq2 : pbase h ≤ q) (hm : mOK (s_n S) m) : f_X2_arrival (some (F 0)) (some q) h = some (arrS S m, h) := by
  have hn := hm.2.1
  unfold f_X2_arrival f_X2_arrival_B45 f_X2_arrival_B49 arrS
  rw [r_ref hS (by decide) (by decide), gIN_at hq hq2 (v := Int32.ofNat m.2.1) rfl, r_nds hS hn, gRN_at hq hq2 (v := sAd E m.1) rfl, r_kv hS hm.1, cl_eq (m_toNode hS hm.1)]
  by_cases ht : toNode m.1 = true
  · rw [if_pos ht, if_neg (by decide), r_sc hS (by decide) (by decide), r_ndv hS hn, cl_eq (m_paused hS hn)]
    by_cases hp : paused S m.2.1 (now S) = true
    · rw [if_pos hp, if_neg (by decide), if_pos ⟨ht, hp⟩, gIN_at hq hq2 (v := m.2.2.2.2.2.2) rfl, r_ndN hS hn (by decide) (by decide)]
      rfl
    · rw [if_neg hp, if_pos rfl, if_neg (fun hx => hp hx.2), gIN_at hq hq2 (v := m.2.2.2.2.2.2) rfl]
  · rw [if_neg ht, if_pos rfl, if_neg (fun hx => ht hx.1), gIN_at hq hq2 (v := m.2.2.2.2.2.2) rfl]
theorem m_pairs (hS : SP E B F R S h) (hb : BI S) : f_X2_overtakingPairs (some (F 0)) h = some (pairsS S, h) := by
  have FUb := FU_big
  have hlen := lsz hS (li := 2) (by decide) (by decide)
  rw [len2] at hlen
  have get : ∀ (i : Nat) (hi : i < (s_ms S).length), ∃ q : Nat, f_J2_get (some (F 2)) (Int32.ofNat i) h = some (some q, h) ∧ pbase h ≤ q ∧ h.1 q = some (cMsg (sAd E) ((s_ms S)[i])) := by
    intro i hi
    refine l_at hS (by decide) (by decide) ?_
    show ((s_ms S).map (cMsg (sAd E)))[i]? = _
    rw [List.getElem?_map, List.getElem?_eq_getElem hi]; rfl
  have ok : ∀ (i : Nat) (hi : i < (s_ms S).length), mOK (s_n S) ((s_ms S)[i]) := fun i hi => hb.2.1 _ (List.getElem_mem hi)
  have inner : ∀ (k4 : Option Nat → Int32 → Int32 → PH → Option (Int32 × PH)) (a : Nat) (ha : a < (s_ms S).length) (n b : Nat) (x : Int32), b ≤ (s_ms S).length → (s_ms S).length < b + n → f_X2_overtakingPairs_L19 k4 n (some (F 0)) x (Int32.ofNat a) (Int32.ofNat b) h = k4 (some (F 0)) (pairIn S ((s_ms S)[a]) ((s_ms S).drop b) x) (Int32.ofNat (a + 1)) h := by
    intro k4 a ha n
    induction n with
    | zero => intro b x h1 h2; omega
    | succ n ih =>
      intro b x h1 h2
      unfold f_X2_overtakingPairs_L19
      rw [r_ref hS (by decide) (by decide), r_lsv hS (by decide) (by decide), cl_eq (r_size hS (by decide) (by decide)), len2]
      by_cases hbl : b = (s_ms S).length
      · rw [if_pos ((of_le (by omega) (by omega)).mpr (by omega)), hbl, List.drop_length, ofs]
        rfl
      · have hbl2 : b < (s_ms S).length := by omega
        obtain ⟨qa, a1, a2, a3⟩ := get a ha
        obtain ⟨qb, b1, b2, b3⟩ := get b hbl2
        rw [if_neg (fun hx => by rw [of_le (by omega) (by omega)] at hx; omega), List.drop_eq_getElem_cons hbl2]
        unfold pairIn
        rw [List.foldl_cons]
        rw [r_ref hS (by decide) (by decide), r_lsv hS (by decide) (by decide), cl_eq a1, kC_at a3, gIN_at a3 a2 (v := ((s_ms S)[a]).2.2.1) rfl, r_ref hS (by decide) (by decide), r_lsv hS (by decide) (by decide), cl_eq b1, kC_at b3, gIN_at b3 b2 (v := ((s_ms S)[b]).2.2.1) rfl]
        unfold f_X2_overtakingPairs_B109 f_X2_overtakingPairs_B110
        rw [ofs]
        by_cases c1 : ((s_ms S)[b]).2.2.1 ≤ ((s_ms S)[a]).2.2.1
        · rw [if_pos c1, if_neg (fun hx => Int32.not_lt.mpr c1 hx.1)]
          exact ih (b + 1) _ (by omega) (by omega)
        · rw [if_neg c1]
          rw [r_ref hS (by decide) (by decide), r_lsv hS (by decide) (by decide), cl_eq a1, kC_at a3, r_sim hS, cl_eq (m_arrS hS a3 a2 (ok a ha)), r_ref hS (by decide) (by decide), r_lsv hS (by decide) (by decide), cl_eq b1, kC_at b3, r_sim hS, cl_eq (m_arrS hS b3 b2 (ok b hbl2))]
          by_cases c2 : arrS S ((s_ms S)[a]) ≤ arrS S ((s_ms S)[b])
          · rw [if_pos c2, if_neg (fun hx => Int32.not_lt.mpr c2 hx.2)]
            exact ih (b + 1) _ (by omega) (by omega)
          · rw [if_neg c2, if_pos ⟨Int32.not_le.mp c1, Int32.not_le.mp c2⟩]
            exact ih (b + 1) _ (by omega) (by omega)
  have outer : ∀ (n a : Nat) (x : Int32), a ≤ (s_ms S).length → (s_ms S).length < a + n → f_X2_overtakingPairs_L4 n (some (F 0)) x (Int32.ofNat a) h = some (((s_ms S).drop a).foldl (fun x ma => pairIn S ma (s_ms S) x) x, h) := by
    intro n
    induction n with
    | zero => intro a x h1 h2; omega
    | succ n ih =>
      intro a x h1 h2
      unfold f_X2_overtakingPairs_L4
      rw [r_ref hS (by decide) (by decide), r_lsv hS (by decide) (by decide), cl_eq (r_size hS (by decide) (by decide)), len2]
      by_cases hal : a = (s_ms S).length
      · rw [if_pos ((of_le (by omega) (by omega)).mpr (by omega)), hal, List.drop_length]
        rfl
      · have hal2 : a < (s_ms S).length := by omega
        rw [if_neg (fun hx => by rw [of_le (by omega) (by omega)] at hx; omega), List.drop_eq_getElem_cons hal2, List.foldl_cons]
        have := inner (f_X2_overtakingPairs_L4 n) a hal2 FU 0 x (Nat.zero_le _) (by omega)
        rw [List.drop_zero] at this
        refine Eq.trans this ?_
        exact ih (a + 1) _ (by omega) (by omega)
  have := outer FU 0 0 (Nat.zero_le _) (by omega)
  rw [List.drop_zero] at this
  exact this
end MPa
