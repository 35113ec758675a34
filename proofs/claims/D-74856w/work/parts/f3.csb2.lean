/-! THE COMPONENT reads: a letter is appended -/
set_option maxRecDepth 100000
/-- the builder with its capacity -/
def SBc (h : PH) (n0 sb v cap : Nat) (w : List Nat) : Prop := h.1 sb = some (.inr (21, [.ref v, .int 0, .int 0, .int (Int32.ofNat w.length)])) ∧
  (∃ g : Nat → Int32, h.1 v = some (.inl (h.2.1.2.1 1, cap, .inl g)) ∧ (∀ i : Nat, i < w.length → g i = Int32.ofNat (w.getD i 0)) ∧ ∀ i : Nat, i < cap → fits .byte (.int (g i)) = true) ∧
  n0 ≤ sb ∧ n0 ≤ v ∧ v ≠ sb ∧ sb < pn h ∧ v < pn h ∧ pbase h ≤ n0 ∧ w.length ≤ 400
theorem let_num : ∀ c : Nat, c < 123 → 97 ≤ c → ((Int32.ofNat c).toUInt32 % 65536).toInt32 = Int32.ofNat c ∧ vp_nar .byte ((Int32.ofNat c).toInt8.toInt32) = Int32.ofNat c ∧ fits .byte (.int (Int32.ofNat c)) = true ∧ ¬ (255 : Int32) < Int32.ofNat c := by decide +kernel
section BL2
variable {n0 sb v : Nat} {w : List Nat} {h : PH}
theorem ycI_fit {β : Type} {a b n0 n1 n t : Nat} {f g : Nat → Int32} {F : Int32 → Bool} {K : PH → Option β} (e : h.1 a = some (.inl (h.2.1.2.1 t, n0, .inl f))) (e' : h.1 b = some (.inl (h.2.1.2.1 t, n1, .inl g))) (hb : pbase h ≤ a) (hb' : pbase h ≤ b) (l1 : n ≤ n0) (l2 : n ≤ n1) (s3 : n < 2 ^ 31) (hF : ∀ i : Nat, i < n → F (f i) = true) :
    ycI h (some a) (0 : Int32) (some b) (0 : Int32) (Int32.ofNat n) t F K = K (p_set h b (.inl (h.2.1.2.1 t, n1, .inl (va_cpy f g 0 0 n)))) := by
  have z : ¬ Int32.ofNat n < 0 := by
    rw [show (0 : Int32) = Int32.ofNat 0 from rfl, of_lt s3 (by omega)]
    omega
  have z0 : (0 : Int32).toNatClampNeg = 0 := by decide
  simp only [ycI, cR_, cA_, e, e', if_true]
  rw [clamp9 s3, z0]
  exact if_pos ⟨by decide, by decide, z, by omega, by omega, hb, hb', List.all_eq_true.mpr fun i hi => by rw [Nat.zero_add]; exact hF i (List.mem_range.mp hi)⟩
theorem new_len {n : Nat} (hn : n ≤ 1000) : f_J11_newLength (Int32.ofNat n) ((Int32.ofNat (n + 1) <<< ((0 : Int32) &&& 31)) - Int32.ofNat n) (Int32.ofNat n + ((2 : Int32) <<< ((0 : Int32) &&& 31))) h = some (Int32.ofNat (n + (n + 2)), h) := by
  unfold f_J11_newLength
  rw [sl0, sl0, of_sub (by omega), show (2 : Int32) = Int32.ofNat 2 from rfl, of_add, if_pos ((of_lt (by omega) (by omega)).mpr (show n + 1 - n < n + 2 by omega)), of_add, if_neg (by rw [show (0 : Int32) = Int32.ofNat 0 from rfl, of_le (by omega) (by omega)]; omega), if_neg (by rw [show (2147483639 : Int32) = Int32.ofNat 2147483639 from rfl, of_lt (by omega) (by omega)]; omega)]
theorem sb_ens (hS : SB h n0 sb v w) (hl : w.length < 400) (h1 : bK (w.length + 1) - bK w.length ≤ pcl h) (h2 : bS (w.length + 1) - bS w.length ≤ psl h) :
    ∃ (v' : Nat) (h' : PH), f_J7_ensureCapacityInternal_J8 (some sb) (Int32.ofNat w.length + (1 : Int32)) h = some ((), h') ∧ SBc h' n0 sb v' (bC (w.length + 1)) w ∧ GR n0 (bK (w.length + 1) - bK w.length) (bS (w.length + 1) - bS w.length) h h' := by
  have hc := hS.cap
  have hS0 := hS
  obtain ⟨a1, ⟨g, a2, a3, a4⟩, a5, a6, a7, a8, a9, a10, a11⟩ := hS
  have hb : bC w.length ≤ 574 := by unfold bC; repeat' split
                                    all_goals omega
  unfold f_J7_ensureCapacityInternal_J8 f_J7_ensureCapacityInternal_J8_B38
  rw [gR_at a1 rfl, aN_at a2, gI_at a1 rfl, sh0, show (1 : Int32) = Int32.ofNat 1 from rfl, of_add]
  by_cases c : w.length + 1 ≤ bC w.length
  · have e : bC (w.length + 1) = bC w.length := by
      unfold bC at c ⊢
      repeat' split at c
      all_goals (repeat' split)
      all_goals omega
    have e2 : Int32.ofNat (w.length + 1) - Int32.ofNat (bC w.length) ≤ 0 := by
      rw [Int32.le_iff_toInt_le, i_sub (by rw [of_i (by omega), of_i (by omega)]; omega) (by rw [of_i (by omega), of_i (by omega)]; omega), of_i (by omega), of_i (by omega)]
      show _ ≤ (0 : Int)
      omega
    rw [if_pos e2]
    refine ⟨v, h, rfl, ?_, GR.refl.more (Nat.le_refl _) (Nat.zero_le _) (Nat.zero_le _)⟩
    rw [e]
    exact hS0
  · have en : bC w.length = w.length := by omega
    have e : bC (w.length + 1) = w.length + (w.length + 2) ∧ bK (w.length + 1) = bK w.length + 1 ∧ bS (w.length + 1) = bS w.length + (w.length + (w.length + 2)) := by
      have : w.length = 16 ∨ w.length = 34 ∨ w.length = 70 ∨ w.length = 142 ∨ w.length = 286 := by
        unfold bC at en
        repeat' split at en
        all_goals omega
      rcases this with c | c | c | c | c <;> rw [c] <;> decide
    rw [en] at a2 a4 ⊢
    obtain ⟨ea, eb, ec⟩ := e
    rw [eb, Nat.add_sub_cancel_left] at h1
    rw [ec, Nat.add_sub_cancel_left] at h2
    rw [ea, eb, ec, Nat.add_sub_cancel_left, Nat.add_sub_cancel_left]
    clear ea eb ec en c hb hc hS0
    obtain ⟨n, hn⟩ : ∃ n, w.length = n := ⟨_, rfl⟩
    rw [hn] at a1 a2 a3 a4 a11 hl h2 ⊢
    have e2 : ¬ Int32.ofNat (n + 1) - Int32.ofNat n ≤ 0 := by
      rw [of_sub (by omega), show (0 : Int32) = Int32.ofNat 0 from rfl, of_le (by omega) (by omega)]
      omega
    rw [if_neg e2, gR_at a1 rfl, rv_at a1]
    have nc : f_J7_newCapacity_J8 (some sb) (Int32.ofNat (n + 1)) h = some (Int32.ofNat (n + (n + 2)), h) := by
      unfold f_J7_newCapacity_J8
      rw [gR_at a1 rfl, aN_at a2, gI_at a1 rfl, gI_at a1 rfl, cl_eq (new_len (by omega)), if_neg (by rw [show (2147483647 : Int32) = Int32.ofNat 2147483647 from rfl, of_inj (by omega) (by omega)]; omega), gI_at a1 rfl, sh0]
    rw [cl_eq nc, gI_at a1 rfl, sl0]
    have cp : f_J13_copyOf (some v) (Int32.ofNat (n + (n + 2))) h = some (some (pn h), p_new h (.inl (h.2.1.2.1 1, n + (n + 2), .inl (va_cpy g (fun _ => 0) 0 0 n))) (n + (n + 2))) := by
      unfold f_J13_copyOf
      rw [aN_at a2, if_neg (by rw [of_inj (by omega) (by omega)]; omega), nA_at (by omega) h1 h2]
      have ev : ∀ (x : va_E) (k : Nat), (p_new h x k).1 v = some (.inl ((p_new h x k).2.1.2.1 1, n, .inl g)) := fun x k => (pn_ne (by omega)).trans a2
      rw [aN_at (ev _ _), if_neg (by rw [of_lt (by omega) (by omega)]; omega), ycI_fit (ev _ _) pn_at (by show pbase h ≤ v; omega) (by show pbase h ≤ pn h; omega) (Nat.le_refl _) (by omega) (by omega) (fun i hi => a4 i hi), ps_pn]
      rfl
    rw [cl_eq cp]
    have e3 : ∀ (x : va_E) (k : Nat), (p_new h x k).1 sb = some (.inr (21, [.ref v, .int 0, .int 0, .int (Int32.ofNat n)])) := fun x k => (pn_ne (by omega)).trans a1
    rw [pV_at (e3 _ _) (by show pbase h ≤ sb; omega) (Nat.le_of_ble_eq_true rfl)]
    refine ⟨pn h, _, rfl, ⟨ps_at.trans (by rw [hn]; rfl), ⟨va_cpy g (fun _ => 0) 0 0 n, ?_, fun i hi => ?_, fun i hi => ?_⟩, a5, by omega, by omega, ?_, ?_, a10, by omega⟩, ?_⟩
    · exact (ps_ne (by omega)).trans pn_at
    · rw [hn] at hi
      rw [cpy_in hi]
      exact a3 i hi
    · by_cases q : i < n
      · rw [cpy_in q]
        exact a4 i q
      · show fits .byte (.int (if 0 ≤ i ∧ i < 0 + n then _ else 0)) = true
        rw [if_neg (by omega)]
        decide
    · show sb < pn h + 1
      omega
    · exact Nat.lt_succ_self _
    · exact ((GR.new (n := n0) (by omega) h1 h2).trans (GR.set a5) (Nat.le_refl _)).more (Nat.le_refl _) (Nat.le_refl _) (Nat.le_refl _)
end BL2
