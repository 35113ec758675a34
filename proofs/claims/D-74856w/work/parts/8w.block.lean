/-! A BLOCK of new cells on top of a heap: constructors -/
set_option maxRecDepth 100000
/-- the cells cs, of k slots, stand on top of h -/
def bh (h : PH) (cs : List va_E) (k : Nat) : PH := (fun b => if pn h ≤ b then (match cs[b - pn h]? with | some e => some e | none => h.1 b) else h.1 b, h.2.1, pn h + cs.length, pcl h - cs.length, psl h - k)
section BH
variable {h : PH} {cs : List va_E} {k : Nat}
theorem bh_nil : bh h [] 0 = h := by
  unfold bh
  refine Prod.ext (funext fun b => ?_) rfl
  show (if pn h ≤ b then (match ([] : List va_E)[b - pn h]? with | some e => some e | none => h.1 b) else h.1 b) = h.1 b
  by_cases hb : pn h ≤ b
  · rw [if_pos hb]; simp
  · rw [if_neg hb]
theorem bh_pn : pn (bh h cs k) = pn h + cs.length := rfl
theorem bh_cl : pcl (bh h cs k) = pcl h - cs.length := rfl
theorem bh_sl : psl (bh h cs k) = psl h - k := rfl
theorem bh_E : (bh h cs k).2.1 = h.2.1 := rfl
theorem bh_base : pbase (bh h cs k) = pbase h := rfl
theorem bh_at {i : Nat} {e : va_E} (hi : cs[i]? = some e) : (bh h cs k).1 (pn h + i) = some e := by
  show (if pn h ≤ pn h + i then (match cs[pn h + i - pn h]? with | some e => some e | none => h.1 (pn h + i)) else h.1 (pn h + i)) = some e
  rw [if_pos (Nat.le_add_right _ _), Nat.add_sub_cancel_left, hi]
theorem bh_lo {b : Nat} (hb : b < pn h) : (bh h cs k).1 b = h.1 b := by
  show (if pn h ≤ b then (match cs[b - pn h]? with | some e => some e | none => h.1 b) else h.1 b) = h.1 b
  rw [if_neg (by omega)]
theorem bh_new {e : va_E} {j : Nat} : p_new (bh h cs k) e j = bh h (cs ++ [e]) (k + j) := by
  unfold p_new
  refine Prod.ext (funext fun b => ?_) (Prod.ext rfl (Prod.ext ?_ (Prod.ext ?_ ?_)))
  · show (if b = pn h + cs.length then some e else (if pn h ≤ b then (match cs[b - pn h]? with | some e => some e | none => h.1 b) else h.1 b)) = (if pn h ≤ b then (match (cs ++ [e])[b - pn h]? with | some e => some e | none => h.1 b) else h.1 b)
    by_cases hb : pn h ≤ b
    · rw [if_pos hb, if_pos hb]
      by_cases hl : b = pn h + cs.length
      · rw [if_pos hl, hl, Nat.add_sub_cancel_left]
        simp
      · rw [if_neg hl]
        by_cases hlt : b - pn h < cs.length
        · rw [List.getElem?_append_left hlt]
        · rw [List.getElem?_eq_none (by omega), List.getElem?_eq_none (by simp; omega)]
    · rw [if_neg hb, if_neg hb, if_neg (by omega)]
  · show pn h + cs.length + 1 = pn h + (cs ++ [e]).length
    simp; omega
  · show pcl h - cs.length - 1 = pcl h - (cs ++ [e]).length
    simp; omega
  · show psl h - k - j = psl h - (k + j)
    omega
theorem bh_set {i : Nat} {e : va_E} (hi : i < cs.length) : p_set (bh h cs k) (pn h + i) e = bh h (cs.set i e) k := by
  unfold p_set
  refine Prod.ext (funext fun b => ?_) (Prod.ext rfl (Prod.ext ?_ (Prod.ext ?_ rfl)))
  · show (if b = pn h + i then some e else (if pn h ≤ b then (match cs[b - pn h]? with | some e => some e | none => h.1 b) else h.1 b)) = (if pn h ≤ b then (match (cs.set i e)[b - pn h]? with | some e => some e | none => h.1 b) else h.1 b)
    by_cases hb : pn h ≤ b
    · rw [if_pos hb, if_pos hb]
      by_cases hl : b = pn h + i
      · rw [if_pos hl, hl, Nat.add_sub_cancel_left, List.getElem?_set_self hi]
      · rw [if_neg hl, List.getElem?_set_ne (by omega)]
    · rw [if_neg hb, if_neg hb, if_neg (by omega)]
  · show pn h + cs.length = pn h + (cs.set i e).length
    simp
  · show pcl h - cs.length = pcl h - (cs.set i e).length
    simp
-- the steps on a block
theorem b_nO {β : Type} {ci N : Nat} {fs : List Value} {K : Nat → PH → Option β} (h1 : cs.length + 1 ≤ pcl h) (h2 : k + N ≤ psl h) : nO (bh h cs k) ci N fs K = K (pn h + cs.length) (bh h (cs ++ [.inr (ci, fs)]) (k + N)) := by
  rw [nO_at (by rw [bh_cl]; omega) (by rw [bh_sl]; omega), bh_new]
  rfl
theorem b_nA {β : Type} {t m : Nat} {x : AX} {K : Nat → PH → Option β} (hm : m ≤ 60000000) (h1 : cs.length + 1 ≤ pcl h) (h2 : k + m ≤ psl h) : nA (bh h cs k) t (Int32.ofNat m) x K = K (pn h + cs.length) (bh h (cs ++ [.inl (h.2.1.2.1 t, m, x)]) (k + m)) := by
  rw [nA_at hm (by rw [bh_cl]; omega) (by rw [bh_sl]; omega), bh_new]
  rfl
theorem b_pV {β : Type} {i ci f : Nat} {fs : List Value} {v : Value} {K : PH → Option β} (hb : pbase h ≤ pn h) (hi : cs[i]? = some (.inr (ci, fs))) (hf : f < fs.length) : pV (bh h cs k) (some (pn h + i)) ci f v K = K (bh h (cs.set i (.inr (ci, fs.set f v))) k) := by
  rw [pV_at (bh_at hi) (by rw [bh_base]; omega) hf, bh_set (List.getElem?_eq_some_iff.mp hi).1]
theorem b_sQ {β : Type} {i j t n ci b : Nat} {f : Nat → Option Nat} {gs : List Value} {K : PH → Option β} (hb : pbase h ≤ pn h) (hi : cs[i]? = some (.inl (h.2.1.2.1 t, n, refs f))) (hj : j < n) (hn : n < 2 ^ 31) (hv : (bh h cs k).1 b = some (.inr (ci, gs))) (ho : okQ t ci = true ∧ ci ≤ 25) : sQ (bh h cs k) (some (pn h + i)) t (Int32.ofNat j) (some b) K = K (bh h (cs.set i (.inl (h.2.1.2.1 t, n, refs (va_up f j (some b))))) k) := by
  have e : (bh h cs k).1 (pn h + i) = some (.inl ((bh h cs k).2.1.2.1 t, n, refs f)) := bh_at hi
  rw [sQ_at e (inR_of hn hj) (by rw [bh_base]; omega) hv ho, clamp9 (by omega)]
  rw [show p_set (bh h cs k) (pn h + i) (.inl ((bh h cs k).2.1.2.1 t, n, refs (va_up f j (some b)))) = bh h (cs.set i (.inl (h.2.1.2.1 t, n, refs (va_up f j (some b))))) k from bh_set (List.getElem?_eq_some_iff.mp hi).1]
end BH
