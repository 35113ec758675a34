/-! THE TWIN's CALLS: writeLater; wrong arguments of write, fetch, read -/
set_option maxRecDepth 100000
section TWL
variable {A : Nat → Nat} {h : PH} {T : TS} {ex : Bool × Int32 × Int32} {S : SS} {L : List MG}
theorem t_writeLater (hA : TA A h) (hr : TR ex S (L.map some) (q_w T)) (hI : Inv S) {i r : Nat} {v ms : Int32} (hi : i < s_n S) (hr8 : r < 8) (hv : iv v 0 999999) (hm : iv ms 1 20000) : TC A T h ex 0 (wlS S i r v ms).1 (wlS S i r v ms).2 (f_X7_writeLater (some (A 0)) (Int32.ofNat i) (Int32.ofNat r) v ms (tw A T h)) := by
  have h6 := hI.2.2.1.2
  have hi6 : i < 6 := by omega
  have hN := hI.2.1 i hi
  have hW := hI.2.2.2.1.1
  have hr0 : TR ex S (L.map some) (q_w (x_sc T 1 0)) := hr
  have a0 : q_w T 0 = now S := hr.1.1.1
  have a21 : q_w T 21 = Int32.ofNat (s_dl S).length := hr.1.1.2.2.2.2.2.2.2.2.2.2.2.2.2.2.2.2.2.2.2.1
  have h20 : (s_dl S).length ≤ 20 := hr.1.2.2.2.2.1.1
  have k1 : ((1 : Int64)).toInt = 1 := by decide
  have k2 : ((20000 : Int64)).toInt = 20000 := by decide
  have a7 : q_w T (40 + 20 * i + 7) = s_nd S i 6 := by
    have e1 := t_ofN (T := T) hA hr.1 7 7 rfl hi (by decide)
    rw [t_of hA 7 7 rfl hi6 (by decide)] at e1
    exact (Prod.mk.inj (Option.some.inj e1)).1
  unfold f_X7_writeLater f_X7_writeLater_B41 wlS
  rw [t_rv, cl_eq ((t_noNd hA hr.1 hI.2.2.1.1).1 (isNd_in hi h6)), if_pos rfl, cl_eq (t_isReg hr8), if_neg (show ¬ (1 : Int32) = 0 by decide), cl_eq t_isVal, if_pos (show 0 ≤ v.toInt ∧ v.toInt ≤ 999999 from hv), if_neg (show ¬ (1 : Int32) = 0 by decide), cl_eq t_in, k1, k2, Int32.toInt_toInt64, if_pos (show 1 ≤ ms.toInt ∧ ms.toInt ≤ 20000 from hm), if_neg (show ¬ (1 : Int32) = 0 by decide), t_rv, cl_eq (t_throws0 rfl q10), if_pos rfl, t_rv, cl_eq (t_refusalL hA hr0.1 hN hW hi)]
  rcases unfi_n (S := S) (i := i) with e | e
  · rw [if_neg (lt_ne e), if_pos e, t_rv, cl_eq (t_refusalL hA hr0.1 hN hW hi)]
    exact TC_q hr
  · rw [e, if_pos rfl, if_neg (show ¬ (0 : Int32) < 0 by decide), t_rW, t_aW hA 21 21 rfl (by decide), q_wsc, a21]
    obtain ⟨n, hn⟩ : ∃ n : Nat, n = (s_dl S).length := ⟨_, rfl⟩
    rw [← hn] at h20 a21 ⊢
    by_cases hf : n = 20
    · rw [if_pos (show Int32.ofNat n = 20 by rw [hf]; try rfl), if_pos hf]
      exact TC_q hr
    · rw [if_neg (show ¬ Int32.ofNat n = 20 from fun hy => hf ((of_inj (by omega) (by decide)).mp hy)), if_neg hf]
      rw [t_rW, t_aW hA 21 21 rfl (by decide), q_wsc, a21, t_rW, t_rW, t_aW hA 0 0 rfl (by decide), q_wsc, a0, t_sW hA _ _ ix50 (by omega), q_wsc]
      rw [t_rW, t_sW hA _ _ (ix5 (x := 1) (c := 1) rfl) (by omega), t_rW, t_rv, cl_eq (t_of hA 7 7 rfl hi6 (by decide)), t_sW hA _ _ (ix5 (x := 2) (c := 2) rfl) (by omega)]
      rw [t_rW, t_sW hA _ _ (ix5 (x := 3) (c := 3) rfl) (by omega), t_rW, t_sW hA _ _ (ix5 (x := 4) (c := 4) rfl) (by omega), t_rW, t_aW hA 21 21 rfl (by decide), t_sW hA 21 21 rfl (by decide), t_rv, cl_eq (t_of hA 7 7 rfl hi6 (by decide))]
      simp only [q_xw, x_xw]
      have u7 : ∀ (f : Nat → Int32) (p : Nat) (x : Int32), (236 ≤ p ∨ p = 21) → upd f p x (40 + 20 * i + 7) = f (40 + 20 * i + 7) := fun f p x hp => upd_ne (by omega)
      have u21 : ∀ (f : Nat → Int32) (p : Nat) (x : Int32), 236 ≤ p → upd f p x 21 = f 21 := fun f p x hp => upd_ne (by omega)
      simp only [u7 _ 21 _ (Or.inr rfl), u7 _ (236 + 5 * n) _ (Or.inl (by omega)), u7 _ (236 + 5 * n + 1) _ (Or.inl (by omega)), u7 _ (236 + 5 * n + 2) _ (Or.inl (by omega)), u7 _ (236 + 5 * n + 3) _ (Or.inl (by omega)), u7 _ (236 + 5 * n + 4) _ (Or.inl (by omega)), u21 _ (236 + 5 * n) _ (by omega), u21 _ (236 + 5 * n + 1) _ (by omega), u21 _ (236 + 5 * n + 2) _ (by omega), u21 _ (236 + 5 * n + 3) _ (by omega), u21 _ (236 + 5 * n + 4) _ (by omega), a7, a21]
      refine TC.w (L' := L) rfl ?_
      have hlen : (s_dl S ++ [(i, s_nd S i 6, r, v, now S + ms)]).length = n + 1 := by rw [List.length_append, ← hn]; rfl
      refine hr.to (TWb.dl (S := g_add (g_mk S 1 5) 3 n) hr.1 (fun p p1 p2 => ?_) ?_ (by rw [hlen]; omega) (fun k d hk => ?_)) (fun p hp => ?_) rfl
      · rw [upd_ne p1, upd_ne (by omega), upd_ne (by omega), upd_ne (by omega), upd_ne (by omega), upd_ne (by omega)]
      · rw [upd_eq, hlen, show (1 : Int32) = Int32.ofNat 1 from rfl, of_add]
      · rcases get_app1 hk with ⟨c1, c2⟩ | ⟨c1, c2⟩
        · rw [← hn] at c1
          have := hr.1.2.2.2.2.1.2 k d c2
          have uu : ∀ (f : Nat → Int32) (p q : Nat) (x : Int32), q < 236 + 5 * n → 236 ≤ q → (236 + 5 * n ≤ p ∨ p = 21) → upd f p x q = f q := fun f p q x hq hq2 hp => upd_ne (by omega)
          have all : ∀ c : Nat, c < 5 → upd (upd (upd (upd (upd (upd (q_w T) (236 + 5 * n) (now S + ms)) (236 + 5 * n + 1) (Int32.ofNat i)) (236 + 5 * n + 2) (s_nd S i 6)) (236 + 5 * n + 3) (Int32.ofNat r)) (236 + 5 * n + 4) v) 21 (Int32.ofNat n + 1) (236 + c + 5 * k) = q_w T (236 + c + 5 * k) := fun c hc => by
            rw [uu _ _ _ _ (by omega) (by omega) (Or.inr rfl), uu _ _ _ _ (by omega) (by omega) (Or.inl (by omega)), uu _ _ _ _ (by omega) (by omega) (Or.inl (by omega)), uu _ _ _ _ (by omega) (by omega) (Or.inl (by omega)), uu _ _ _ _ (by omega) (by omega) (Or.inl (by omega)), uu _ _ _ _ (by omega) (by omega) (Or.inl (by omega))]
          exact ⟨(all 0 (by decide)).trans this.1, (all 1 (by decide)).trans this.2.1, (all 2 (by decide)).trans this.2.2.1, (all 3 (by decide)).trans this.2.2.2.1, (all 4 (by decide)).trans this.2.2.2.2⟩
        · rw [← hn] at c1
          subst c1
          rw [c2]
          refine ⟨?_, ?_, ?_, ?_, ?_⟩
          · rw [upd_ne (by omega), upd_ne (by omega), upd_ne (by omega), upd_ne (by omega), upd_ne (by omega), upd_eq]
          · rw [upd_ne (by omega), upd_ne (by omega), upd_ne (by omega), upd_ne (by omega), show 237 + 5 * k = 236 + 5 * k + 1 from by omega, upd_eq]
          · rw [upd_ne (by omega), upd_ne (by omega), upd_ne (by omega), show 238 + 5 * k = 236 + 5 * k + 2 from by omega, upd_eq]
          · rw [upd_ne (by omega), upd_ne (by omega), show 239 + 5 * k = 236 + 5 * k + 3 from by omega, upd_eq]
          · rw [upd_ne (by omega), show 240 + 5 * k = 236 + 5 * k + 4 from by omega, upd_eq]
      · rw [upd_ne (by omega), upd_ne (by omega), upd_ne (by omega), upd_ne (by omega), upd_ne (by omega), upd_ne (by omega)]
end TWL
