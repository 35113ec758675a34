/-! STAGE 2: the plain functions' steps on known cells -/
set_option maxRecDepth 100000
/-- the function ends, with Q -/
def okk {β : Type} (o : Option β) (Q : β → Prop) : Prop := ∃ b : β, o = some b ∧ Q b
section CQ
variable {β : Type} {h : PH} {a k n t : Nat} {ci : Nat} {fs : List Value} {Q : β → Prop}
theorem okk_some {b : β} (hq : Q b) : okk (some b) Q := ⟨b, rfl, hq⟩
theorem okk.mono {o : Option β} {P : β → Prop} (h : okk o P) (hq : ∀ b, P b → Q b) : okk o Q := by
  obtain ⟨b, h1, h2⟩ := h
  exact ⟨b, h1, hq b h2⟩
theorem okk_cl {α : Type} {o : Option (α × PH)} {K : α → PH → Option β} (hk : okk o (fun b => okk (K b.1 b.2) Q)) : okk (cl_ o K) Q := by
  obtain ⟨⟨x, h1⟩, e, h2⟩ := hk
  rw [e]
  exact h2
theorem cl_eq {α : Type} {o : Option (α × PH)} {x : α} {h1 : PH} {K : α → PH → Option β} (e : o = some (x, h1)) : cl_ o K = K x h1 := by rw [e]; rfl
theorem gI_at {v : Int32} {K : Int32 → Option β} (e : h.1 a = some (.inr (ci, fs))) (hk : fs[k]? = some (.int v)) : gI h (some a) ci k K = K v := by
  simp [gI, cO_, cA_, e, asI, hk]
theorem gIN_at {v : Int32} {K : Int32 → Option β} (e : h.1 a = some (.inr (ci, fs))) (hb : pbase h ≤ a) (hk : fs[k]? = some (.int v)) : gIN h (some a) ci k K = K v := by
  have hb' : h.2.1.2.2.1 ≤ a := hb
  simp [gIN, cO_, cA_, e, asI, hk, hb']
theorem gR_at {v : Nat} {K : Option Nat → Option β} (e : h.1 a = some (.inr (ci, fs))) (hk : fs[k]? = some (.ref v)) : gR h (some a) ci k K = K (some v) := by
  simp [gR, cO_, cA_, e, asR, hk]
theorem gRN_at {v : Nat} {K : Option Nat → Option β} (e : h.1 a = some (.inr (ci, fs))) (hb : pbase h ≤ a) (hk : fs[k]? = some (.ref v)) : gRN h (some a) ci k K = K (some v) := by
  have hb' : h.2.1.2.2.1 ≤ a := hb
  simp [gRN, cO_, cA_, e, asR, hk, hb']
theorem gRz_at {K : Option Nat → Option β} (e : h.1 a = some (.inr (ci, fs))) (hk : fs[k]? = some .null) : gR h (some a) ci k K = K none := by
  simp [gR, cO_, cA_, e, asR, hk]
theorem pV_at {v : Value} {K : PH → Option β} (e : h.1 a = some (.inr (ci, fs))) (hb : pbase h ≤ a) (hk : k < fs.length) : pV h (some a) ci k v K = K (p_set h a (.inr (ci, fs.set k v))) := by
  have hb' : h.2.1.2.2.1 ≤ a := hb
  simp [pV, cO_, cA_, e, hk, hb']
theorem pZ_at {x : Int32} {K : PH → Option β} (hx : x = 0 ∨ x = 1) : pZ h (some a) ci k x K = pV h (some a) ci k (.int x) K := by
  simp [pZ, hx]
theorem rv_at {X : Option β} (e : h.1 a = some (.inr (ci, fs))) : rv_ h (some a) ci X = X := by
  simp [rv_, cO_, cA_, e]
theorem kC_at {X : Option β} (e : h.1 a = some (.inr (ci, fs))) : kC h (some a) ci X = X := by
  simp [kC, e]
theorem aI_at {i : Int32} {f : Nat → Int32} {K : Int32 → Option β} (e : h.1 a = some (.inl (h.2.1.2.1 t, n, .inl f))) (hi : inR i n) (hb : pbase h ≤ a) : aI h (some a) t i K = K (f i.toNatClampNeg) := by
  simp only [aI, cR_, cA_, e, if_true]
  exact if_pos ⟨hi, hb⟩
theorem aB_at {i : Int32} {f : Nat → Int32} {K : Int32 → Option β} (e : h.1 a = some (.inl (h.2.1.2.1 1, n, .inl f))) (hi : inR i n) : aB h (some a) i K = K (f i.toNatClampNeg) := by
  simp only [aB, cR_, cA_, e, if_true]
  exact if_pos hi
theorem aL_at {i : Int32} {f : Nat → Int64} {K : Int64 → Option β} (e : h.1 a = some (.inl (h.2.1.2.1 t, n, .inr (.inl f)))) (hi : inR i n) (hb : pbase h ≤ a) : aL h (some a) t i K = K (f i.toNatClampNeg) := by
  simp only [aL, cR_, cA_, e, if_true]
  exact if_pos ⟨hi, hb⟩
theorem aQ_at {i : Int32} {f : Nat → Option Nat} {K : Option Nat → Option β} (e : h.1 a = some (.inl (h.2.1.2.1 t, n, .inr (.inr (.inr (.inr f)))))) (hi : inR i n) (hb : pbase h ≤ a) : aQ h (some a) t i K = K (f i.toNatClampNeg) := by
  simp only [aQ, cR_, cA_, e, if_true]
  exact if_pos ⟨hi, hb⟩
theorem aN_at {x : AX} {K : Int32 → Option β} (e : h.1 a = some (.inl (h.2.1.2.1 t, n, x))) : aN h (some a) t K = K (Int32.ofNat n) := by
  simp [aN, cR_, cA_, e]
theorem sI_at {i x : Int32} {f : Nat → Int32} {K : PH → Option β} (e : h.1 a = some (.inl (h.2.1.2.1 t, n, .inl f))) (hi : inR i n) (hb : pbase h ≤ a) : sI h (some a) t i x K = K (p_set h a (.inl (h.2.1.2.1 t, n, .inl (upd f i.toNatClampNeg x)))) := by
  simp only [sI, cR_, cA_, e, if_true]
  exact if_pos ⟨hi, hb⟩
theorem sL_at {i : Int32} {x : Int64} {f : Nat → Int64} {K : PH → Option β} (e : h.1 a = some (.inl (h.2.1.2.1 t, n, .inr (.inl f)))) (hi : inR i n) (hb : pbase h ≤ a) : sL h (some a) t i x K = K (p_set h a (.inl (h.2.1.2.1 t, n, .inr (.inl (vp_updL f i.toNatClampNeg x))))) := by
  simp only [sL, cR_, cA_, e, if_true]
  exact if_pos ⟨hi, hb⟩
theorem sQ_at {i : Int32} {b : Nat} {f : Nat → Option Nat} {K : PH → Option β} {gs : List Value} (e : h.1 a = some (.inl (h.2.1.2.1 t, n, .inr (.inr (.inr (.inr f)))))) (hi : inR i n) (hb : pbase h ≤ a) (hv : h.1 b = some (.inr (ci, gs))) (ho : okQ t ci = true ∧ ci ≤ 25) : sQ h (some a) t i (some b) K = K (p_set h a (.inl (h.2.1.2.1 t, n, .inr (.inr (.inr (.inr (va_up f i.toNatClampNeg (some b)))))))) := by
  simp only [sQ, cR_, cA_, e, hv, if_true]
  rw [if_pos ⟨hi, hb⟩, if_pos ho]
theorem sQn_at {i : Int32} {f : Nat → Option Nat} {K : PH → Option β} (e : h.1 a = some (.inl (h.2.1.2.1 t, n, .inr (.inr (.inr (.inr f)))))) (hi : inR i n) (hb : pbase h ≤ a) : sQ h (some a) t i none K = K (p_set h a (.inl (h.2.1.2.1 t, n, .inr (.inr (.inr (.inr (va_up f i.toNatClampNeg none))))))) := by
  simp only [sQ, cR_, cA_, e, if_true]
  rw [if_pos ⟨hi, hb⟩]
theorem nO_at {N : Nat} {K : Nat → PH → Option β} (h1 : 1 ≤ pcl h) (h2 : N ≤ psl h) : nO h ci N fs K = K (pn h) (p_new h (.inr (ci, fs)) N) := by
  have h1' : 1 ≤ h.2.2.2.1 := h1
  have h2' : N ≤ h.2.2.2.2 := h2
  simp only [nO, h1', h2', and_self, if_true]
theorem nA_at {x : AX} {m : Nat} {K : Nat → PH → Option β} (hm : m ≤ 60000000) (h1 : 1 ≤ pcl h) (h2 : m ≤ psl h) : nA h t (Int32.ofNat m) x K = K (pn h) (p_new h (.inl (h.2.1.2.1 t, m, x)) m) := by
  have h1' : 1 ≤ h.2.2.2.1 := h1
  have h2' : m ≤ h.2.2.2.2 := h2
  have e1 : (Int32.ofNat m).toNatClampNeg = m := Int32.toNatClampNeg_ofNat_of_lt (Nat.lt_of_le_of_lt hm (by decide))
  have e2 : ¬ (Int32.ofNat m) < 0 := by
    rw [Int32.lt_iff_toInt_lt, Int32.toInt_ofNat_of_lt (Nat.lt_of_le_of_lt hm (by decide))]
    simp
  simp only [nA, e1, e2, hm, h1', h2', not_false_eq_true, and_self, if_true]
theorem rN_at {α : Type} {ty : FieldType} {v : Int32} {k : Int32 → α} (e : vp_nar ty v = v) : rN ty v k h = some (k v, h) := by
  simp [rN, e]
theorem dvI_at {y : Int32} {K : Option β} (e : y ≠ 0) : dvI y K = K := by simp [dvI, e]
theorem dvL_at {y : Int64} {K : Option β} (e : y ≠ 0) : dvL y K = K := by simp [dvL, e]
end CQ
theorem inR_of {i n : Nat} (hn : n < 2 ^ 31) (hi : i < n) : inR (Int32.ofNat i) n := by
  have h1 : i < 2 ^ 31 := Nat.lt_trans hi hn
  have e1 : (Int32.ofNat i).toNatClampNeg = i := Int32.toNatClampNeg_ofNat_of_lt h1
  intro h
  rcases h with h | h
  · rw [Int32.lt_iff_toInt_lt, Int32.toInt_ofNat_of_lt h1] at h
    simp at h
    omega
  · rw [e1] at h
    omega
theorem clamp9 {i : Nat} (hi : i < 2 ^ 31) : (Int32.ofNat i).toNatClampNeg = i := Int32.toNatClampNeg_ofNat_of_lt hi
/-- heaps' maps -/
theorem ps_at {h : PH} {a : Nat} {e : va_E} : (p_set h a e).1 a = some e := by simp [p_set]
theorem ps_ne {h : PH} {a b : Nat} {e : va_E} (hn : b ≠ a) : (p_set h a e).1 b = h.1 b := by simp [p_set, hn]
theorem pn_at {h : PH} {e : va_E} {k : Nat} : (p_new h e k).1 (pn h) = some e := by simp [p_new]
theorem pn_ne {h : PH} {b : Nat} {e : va_E} {k : Nat} (hn : b ≠ pn h) : (p_new h e k).1 b = h.1 b := by
  have hn' : b ≠ h.2.2.1 := hn
  simp [p_new, hn']
