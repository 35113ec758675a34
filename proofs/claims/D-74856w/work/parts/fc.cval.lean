/-! THE COMPONENT reads: a number as an object -/
set_option maxRecDepth 100000
section CVL
variable {h : PH}
theorem p_val {v : Nat} (e10 : h.2.1.1 10 = .int 127) (e11 : h.2.1.1 11 = .ref (sAd h.2.1 11)) (hv : v ≤ 100000) (hb : pbase h ≤ pn h) (h1 : 1 ≤ pcl h) (h2 : 1 ≤ psl h) :
    f_J17_valueOf (Int32.ofNat v) h = if v ≤ 127 then some (some (sAd h.2.1 (1000 + (v + 128))), h) else some (some (pn h), p_new h (.inr (23, [.int (Int32.ofNat v)])) 1) := by
  unfold f_J17_valueOf f_J17_valueOf_B23 f_J17_init f_J16_init_J17
  have c0 : ¬ Int32.ofNat v < (-128 : Int32) := by
    rw [Int32.lt_iff_toInt_lt, of_i (by omega), show (-128 : Int32).toInt = -128 from by decide]
    omega
  rw [if_neg c0, e10]
  simp only [asI]
  by_cases c : v ≤ 127
  · rw [if_neg (by rw [show (127 : Int32) = Int32.ofNat 127 from rfl, of_lt (by omega) (by omega)]; omega), if_pos c, e11]
    simp only [asR]
    unfold aIC
    rw [show (128 : Int32) = Int32.ofNat 128 from rfl, of_add, if_pos ⟨rfl, inR_9 (by omega) (by omega)⟩, clamp9 (by omega)]
  · rw [if_pos (by rw [show (127 : Int32) = Int32.ofNat 127 from rfl, of_lt (by omega) (by omega)]; omega), if_neg c, nO_at h1 h2]
    rw [cl_eq rfl, pV_pn hb (Nat.le_of_ble_eq_true rfl)]
    rfl
end CVL
