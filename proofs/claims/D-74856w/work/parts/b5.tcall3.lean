/-! THE TWIN's CALLS: planOutage, writeLater -/
set_option maxRecDepth 100000
def wlS (S : SS) (i r : Nat) (v ms : Int32) : Int32 × SS := if unfi S i < 0 then (unfi S i, S) else if (s_dl S).length = 20 then (-5, S) else (s_nd S i 6, u_dl (g_add (g_mk S 1 5) 3 (s_dl S).length) (s_dl S ++ [(i, s_nd S i 6, r, v, now S + ms)]))
section TC3
variable {A : Nat → Nat} {h : PH} {T : TS} {ex : Bool × Int32 × Int32} {S : SS} {L : List MG}
theorem t_planOutage (hA : TA A h) (hr : TR ex S (L.map some) (q_w T)) (hI : Inv S) {i : Nat} {ms du : Int32} (hi : i < s_n S) : (iv ms 1 20000 ∧ iv du 1 20000 → TC A T h ex 0 (ouS S i ms du).1 (ouS S i ms du).2 (f_X7_planOutage (some (A 0)) (Int32.ofNat i) ms du (tw A T h))) ∧ (¬ (iv ms 1 20000 ∧ iv du 1 20000) → TC A T h ex 2 0 S (f_X7_planOutage (some (A 0)) (Int32.ofNat i) ms du (tw A T h))) := by
  have h6 := hI.2.2.1.2
  have a0 : q_w T 0 = now S := hr.1.1.1
  have a35 : q_w T 35 = Int32.ofNat (s_ou S).length := hr.1.1.2.2.2.2.2.2.2.2.2.2.2.2.2.2.2.2.2.2.2.2.2.2.1
  have h20 : (s_ou S).length ≤ 20 := hr.1.2.2.2.1.1
  have k1 : ((1 : Int64)).toInt = 1 := by decide
  have k2 : ((20000 : Int64)).toInt = 20000 := by decide
  have q1 : q_sc (x_sc T 1 0) 1 = 0 := by show fu (q_sc T) 1 0 1 = _; rw [fu_eq]
  have bad : TC A T h ex 2 0 S (f_X7_planOutage_B33 (some (A 0)) (Int32.ofNat i) ms du (some (A 0)) (tw A (x_sc T 1 0) h)) := by
    unfold f_X7_planOutage_B33 f_X7_planOutage_B38 f_X7_planOutage_B45
    rw [t_rv, cl_eq (t_throws1 hA (by decide) (by decide) q1), if_neg (by decide), x_scsc]
    exact TC_q hr
  unfold f_X7_planOutage
  rw [t_rv, cl_eq ((t_noNd hA hr.1 hI.2.2.1.1).1 (isNd_in hi h6)), if_pos rfl, cl_eq t_in, k1, k2, Int32.toInt_toInt64]
  constructor
  · rintro ⟨hm, hd⟩
    rw [if_pos (show 1 ≤ ms.toInt ∧ ms.toInt ≤ 20000 from hm), if_neg (by decide), cl_eq t_in, k1, k2, Int32.toInt_toInt64, if_pos (show 1 ≤ du.toInt ∧ du.toInt ≤ 20000 from hd), if_neg (by decide)]
    unfold f_X7_planOutage_B38 ouS
    rw [t_rv, cl_eq (t_throws0 rfl q1), if_pos rfl, t_rW, t_aW hA 35 35 rfl (by decide), q_wsc, a35]
    obtain ⟨n, hn⟩ : ∃ n : Nat, n = (s_ou S).length := ⟨_, rfl⟩
    rw [← hn] at h20 a35 ⊢
    by_cases hf : n = 20
    · rw [if_pos (show Int32.ofNat n = 20 by rw [hf]; try rfl), if_pos hf]
      exact TC_q hr
    · rw [if_neg (show ¬ Int32.ofNat n = 20 from fun hy => hf ((of_inj (by omega) (by decide)).mp hy)), if_neg hf]
      rw [t_rW, t_aW hA 35 35 rfl (by decide), q_wsc, a35, t_rW, t_rW, t_aW hA 0 0 rfl (by decide), q_wsc, a0, t_sW hA _ _ ix30 (by omega), q_wsc]
      rw [t_rW, t_rW, t_aW hA _ _ ix30 (by omega), q_xw, upd_eq, t_sW hA _ _ (ix3 (x := 1) (c := 1) rfl) (by omega), t_rW, t_sW hA _ _ (ix3 (x := 2) (c := 2) rfl) (by omega), t_rW, t_aW hA 35 35 rfl (by decide), t_sW hA 35 35 rfl (by decide), t_rW, t_aW hA _ _ (ix3 (x := 1) (c := 1) rfl) (by omega)]
      simp only [q_xw, x_xw]
      rw [upd_ne (show 35 ≠ 176 + 3 * n + 2 by omega), upd_ne (show 35 ≠ 176 + 3 * n + 1 by omega), upd_ne (show 35 ≠ 176 + 3 * n by omega), a35]
      rw [upd_ne (show 176 + 3 * n + 1 ≠ 35 by omega), upd_ne (show 176 + 3 * n + 1 ≠ 176 + 3 * n + 2 by omega), upd_eq]
      refine TC.w (L' := L) rfl ?_
      have hlen : (s_ou S ++ [(i, now S + ms, now S + ms + du)]).length = n + 1 := by rw [List.length_append, ← hn]; rfl
      refine hr.to (TWb.ou (S := g_add (g_mk S 1 3) 4 n) hr.1 (fun p p1 p2 => ?_) ?_ (by rw [hlen]; omega) (fun k o hk => ?_)) (fun p hp => ?_) rfl
      · rw [upd_ne p1, upd_ne (by omega), upd_ne (by omega), upd_ne (by omega)]
      · rw [upd_eq, hlen, show (1 : Int32) = Int32.ofNat 1 from rfl, of_add]
      · rcases get_app1 hk with ⟨c1, c2⟩ | ⟨c1, c2⟩
        · rw [← hn] at c1
          have := hr.1.2.2.2.1.2 k o c2
          rw [upd_ne (by omega), upd_ne (by omega), upd_ne (by omega), upd_ne (by omega), upd_ne (by omega), upd_ne (by omega), upd_ne (by omega), upd_ne (by omega), upd_ne (by omega), upd_ne (by omega), upd_ne (by omega), upd_ne (by omega)]
          exact this
        · rw [← hn] at c1
          subst c1
          rw [c2]
          refine ⟨?_, ?_, ?_⟩
          · rw [upd_ne (by omega), upd_ne (by omega), upd_ne (by omega), upd_eq]
          · rw [upd_ne (by omega), upd_ne (by omega), show 177 + 3 * k = 176 + 3 * k + 1 from by omega, upd_eq]
          · rw [upd_ne (by omega), show 178 + 3 * k = 176 + 3 * k + 2 from by omega, upd_eq]
      · rw [upd_ne (by omega), upd_ne (by omega), upd_ne (by omega), upd_ne (by omega)]
  · intro hb
    by_cases hm : 1 ≤ ms.toInt ∧ ms.toInt ≤ 20000
    · rw [if_pos hm, if_neg (by decide), cl_eq t_in, k1, k2, Int32.toInt_toInt64, if_neg (show ¬ (1 ≤ du.toInt ∧ du.toInt ≤ 20000) from fun hd => hb ⟨hm, hd⟩), if_pos rfl]
      exact bad
    · rw [if_neg hm, if_pos rfl]
      exact bad
end TC3
