/-! THE LAW: the loop's head, small helps for the calls -/
set_option maxRecDepth 100000
section GH
variable {E : PE} {W : Nat → Nat} {a7 L : Nat} {xs : Nat → Int32} {S : SS} {h : PH} {n j : Nat} {x1 x2 x3 : Option Nat}
theorem law_hd (hW : SW E W a7 L xs) (hE : h.2.1 = E) (hj : 5 * j + 5 ≤ L) : f_L_law_L23 (n + 1) (some (sAd E 50)) x1 x2 x3 (Int32.ofNat (5 * j)) h = selB (xs (5 * j) &&& (63 : Int32)) n (some (sAd E 50)) x1 x2 x3 (Int32.ofNat (5 * j)) h := by
  have hL := hW.2.2.2.2.2
  rw [law_split, san_at hW hE]
  have k5 : ((5 : Int32)).toInt = 5 := by decide
  rw [if_neg, sa_at hW hE (by omega)]
  intro hx
  rw [Int32.lt_iff_toInt_lt, i_sub (by rw [of_i (by omega), k5]; omega) (by rw [of_i (by omega), k5]; omega), of_i (by omega), of_i (by omega), k5] at hx
  omega
theorem law_end (hW : SW E W a7 L xs) (hE : h.2.1 = E) (hj : L < 5 * j + 5) (hj2 : 5 * j ≤ 400) : f_L_law_L23 (n + 1) (some (sAd E 50)) x1 x2 x3 (Int32.ofNat (5 * j)) h = some (1, h) := by
  have hL := hW.2.2.2.2.2
  rw [law_split, san_at hW hE]
  have k5 : ((5 : Int32)).toInt = 5 := by decide
  rw [if_pos]
  · exact rN_at nar01.2
  · rw [Int32.lt_iff_toInt_lt, i_sub (by rw [of_i (by omega), k5]; omega) (by rw [of_i (by omega), k5]; omega), of_i (by omega), of_i (by omega), k5]
    omega
theorem sel_lt (x : Int32) : ∃ c : Nat, c < 64 ∧ (x &&& (63 : Int32)) = Int32.ofNat c := by
  have h1 : ∀ y : BitVec 32, (y &&& 63#32).toNat < 64 := fun y => by
    rw [BitVec.toNat_and]
    exact Nat.lt_of_le_of_lt Nat.and_le_right (by decide)
  refine ⟨(x &&& (63 : Int32)).toBitVec.toNat, h1 x.toBitVec, ?_⟩
  apply Int32.toBitVec_inj.mp
  show (x &&& (63 : Int32)).toBitVec = BitVec.ofNat 32 _
  rw [BitVec.ofNat_toNat]
  simp
theorem regN_of {p : Int32} (hp : iv p 0 7) : ∃ r : Nat, r < 8 ∧ p = Int32.ofNat r := by
  have h1 := hp.1
  have h2 := hp.2
  refine ⟨p.toInt.toNat, by omega, ?_⟩
  apply Int32.toInt_inj.mp
  rw [of_i (by omega)]
  omega
theorem knd_of {p : Int32} (hp : iv p 1 8) : ∃ r : Nat, 1 ≤ r ∧ r ≤ 8 ∧ p = Int32.ofNat r := by
  have h1 := hp.1
  have h2 := hp.2
  refine ⟨p.toInt.toNat, by omega, by omega, ?_⟩
  apply Int32.toInt_inj.mp
  rw [of_i (by omega)]
  omega
theorem log_of {p : Int32} {l : List EG} (h2 : l.length ≤ 200) (hp : 0 ≤ p.toInt ∧ p.toInt ≤ (l.length : Int) - 1) : ∃ (k : Nat) (e : EG), k < l.length ∧ p = Int32.ofNat k ∧ l[k]? = some e := by
  have hk : p.toInt.toNat < l.length := by omega
  refine ⟨p.toInt.toNat, l[p.toInt.toNat], hk, ?_, List.getElem?_eq_getElem hk⟩
  apply Int32.toInt_inj.mp
  rw [of_i (by omega)]
  omega
theorem tr_len {ex : Bool × Int32 × Int32} {LL : List MG} {w : Nat → Int32} (hr : TR ex S (LL.map some) w) : LL.length = (s_ms S).length := by
  have h1 := hr.2.2.1.length_eq
  rw [List.filterMap_map] at h1
  simpa using h1
theorem okk_e {α β : Type} {o : Option (α × β)} {x : α} {h1 : β} {Q : α × β → Prop} (e : o = some (x, h1)) (hq : Q (x, h1)) : okk o Q := ⟨_, e, hq⟩
end GH
section GT
variable {A : Nat → Nat} {h : PH} {ex : Bool × Int32 × Int32} {S : SS} {T : TS} {LL : List MG}
theorem t_nowG (hA : TA A h) (hr : TR ex S (LL.map some) (q_w T)) : TC A T h ex 0 (s_sc S 8) S (f_X7_now (some (A 0)) (tw A T h)) := by
  unfold f_X7_now
  rw [t_pV hA (by decide), t_rW, t_aW hA (0 : Int32) 0 rfl (by decide)]
  rw [show q_w (x_sc T 1 0) 0 = s_sc S 8 from hr.1.1.1]
  exact TC_q hr
theorem t_ncG (hA : TA A h) (hr : TR ex S (LL.map some) (q_w T)) : TC A T h ex 0 (Int32.ofNat (s_n S)) S (f_X7_nodeCount (some (A 0)) (tw A T h)) := by
  unfold f_X7_nodeCount
  rw [t_pV hA (by decide), t_rW, t_aW hA (2 : Int32) 2 rfl (by decide)]
  rw [show q_w (x_sc T 1 0) 2 = Int32.ofNat (s_n S) from hr.1.1.2.2.1]
  exact TC_q hr
theorem t_ownG (hA : TA A h) (hr : TR ex S (LL.map some) (q_w T)) {x v : Int32} {i : Nat} (hx : x = Int32.ofNat i) (hi : i < 73136) (hv : q_w T i = v) : TC A T h ex 0 v S (rv_ (tw A T h) (some (A 0)) 6 (cl_ (f_X7_own (some (A 0)) x (tw A T h)) (fun v h => some (v, h)))) := by
  rw [← hv]
  exact (t_own hA hr x i hx hi).wr
theorem t_msgG (hr : TR ex S (LL.map some) (q_w T)) : q_w T 20 = Int32.ofNat (s_ms S).length := by
  rw [hr.2.1.1, List.length_map, tr_len hr]
end GT
theorem cf0_ne {S : SS} (I : Inv S) : (s_cf S 0).toInt64 ≠ 0 := fun hx => by
  have a := I.1.1.1
  have e : (s_cf S 0).toInt64.toInt = 0 := by rw [hx]; rfl
  rw [Int32.toInt_toInt64] at e
  omega
theorem ite01 {c : Prop} [Decidable c] : (if c then (1 : Int32) else 0) = 0 ∨ (if c then (1 : Int32) else 0) = 1 := by
  split
  · exact Or.inr rfl
  · exact Or.inl rfl
theorem log_G {A : Nat → Nat} {h : PH} {ex : Bool × Int32 × Int32} {S : SS} {T : TS} {x v : Int32} {o : Option (Int32 × PH)} (hv : x = v) (hc : TC A T h ex 0 x S o) : TC A T h ex 0 v S o := hv ▸ hc
