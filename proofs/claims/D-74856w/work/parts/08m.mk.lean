/-! MONITORS: the cells of the two exceptions whose cause is asked (synchronized getCause) are free -/
def MKf (D : va_G) (c : Cell) : Prop := (c.monitor.owner = none ∧ c.monitor.count = 0) ∨ (c.cls ≠ D.1 12 ∧ c.cls ≠ D.1 16)
def MF (D : va_G) (A : Nat → Prop) (H : Heap) : Prop := ∀ (a : Nat) (c : Cell), A a → H[a]? = some c → MKf D c
def MK (D : va_G) (H H1 : Heap) : Prop := ∀ (a : Nat) (c1 : Cell), H1[a]? = some c1 → MKf D c1 ∨ ∃ c : Cell, H[a]? = some c ∧ c1.monitor = c.monitor ∧ c1.cls = c.cls
theorem MK.mf {D : va_G} {A : Nat → Prop} {H H1 : Heap} (h : MK D H H1) (k : MF D A H) : MF D A H1 := by
  intro a c1 ha hc
  rcases h a c1 hc with h1 | ⟨c, h1, h2, h3⟩
  · exact h1
  · have := k a c ha h1
    unfold MKf at *
    rw [h2, h3]
    exact this
theorem MK.put {D : va_G} {H H1 : Heap} {a : Nat} {c c1 : Cell} (h : H[a]? = some c) (h1 : H1[a]? = some c1) (hm : c1.monitor = c.monitor) (hc : c1.cls = c.cls) (o : ∀ q : Nat, q ≠ a → H1[q]? = H[q]?) : MK D H H1 := by
  intro b d hd
  by_cases hb : b = a
  · subst hb
    rw [h1] at hd
    cases hd
    exact Or.inr ⟨c, h, hm, hc⟩
  · rw [o b hb] at hd
    exact Or.inr ⟨d, hd, rfl, rfl⟩
theorem MK.born {D : va_G} {H H1 : Heap} {c1 : Cell} (h1 : H1[H.size]? = some c1) (hf : MKf D c1) (z : H1.size = H.size + 1) (o : ∀ q : Nat, q < H.size → H1[q]? = H[q]?) : MK D H H1 := by
  intro b d hd
  have hb : b < H1.size := (Array.getElem?_eq_some_iff.mp hd).1
  by_cases hb2 : b = H.size
  · subst hb2
    rw [h1] at hd
    cases hd
    exact Or.inl hf
  · rw [o b (by omega)] at hd
    exact Or.inr ⟨d, hd, rfl, rfl⟩
/-- a cell of class cX was added -/
def MKn (cX : ClassId) (H H1 : Heap) : Prop := ∀ (a : Nat) (c1 : Cell), H1[a]? = some c1 → c1.cls = cX ∨ H[a]? = some c1
theorem MKn.mk {D : va_G} {cX : ClassId} {H H1 : Heap} (h : MKn cX H H1) (h1 : cX ≠ D.1 12) (h2 : cX ≠ D.1 16) : MK D H H1 := by
  intro a c1 hc
  rcases h a c1 hc with h3 | h3
  · exact Or.inl (Or.inr (by rw [h3]; exact ⟨h1, h2⟩))
  · exact Or.inr ⟨c1, h3, rfl, rfl⟩
theorem MK.setc {D : va_G} {H : Heap} {a : Nat} {c c1 : Cell} (h : H[a]? = some c) (hm : c1.monitor = c.monitor) (hc : c1.cls = c.cls) : MK D H (H.setIfInBounds a c1) := by
  have hl : a < H.size := (Array.getElem?_eq_some_iff.mp h).1
  exact MK.put h (by simp [Array.getElem?_setIfInBounds, hl]) hm hc (fun q hq => by simp [Array.getElem?_setIfInBounds, Ne.symm hq])
