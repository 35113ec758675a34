/-! THE TWIN: a row counts by its first 73136 places; what a prediction leaves -/
set_option maxRecDepth 100000
section TCG
variable {A : Nat → Nat} {h : PH} {ex : Bool × Int32 × Int32} {S : SS} {L : List MG} {w w' : Nat → Int32} {Pl : List (Option MG)}
theorem get_len {α : Type} {l : List α} {k : Nat} {x : α} (hx : l[k]? = some x) : k < l.length := (List.getElem?_eq_some_iff.mp hx).1
theorem TWb.cong (hT : TWb ex S w) (hk : ∀ p : Nat, p < 1136 → w' p = w p) : TWb ex S w' := by
  obtain ⟨h1, h2, h3, h4, h5, h6, h7⟩ := hT
  refine ⟨?_, fun i c hi hc he => ?_, ⟨fun k hq => ?_, fun r hr => ?_, fun r he hr => ?_⟩, ⟨h4.1, fun k o hq => ?_⟩, ⟨h5.1, fun k d hq => ?_⟩, ⟨h6.1, fun k e hq => ?_⟩, h7⟩
  · unfold TWs at h1 ⊢
    rw [hk 0 (by decide), hk 1 (by decide), hk 2 (by decide), hk 3 (by decide), hk 4 (by decide), hk 5 (by decide), hk 6 (by decide), hk 7 (by decide), hk 8 (by decide), hk 9 (by decide), hk 10 (by decide), hk 11 (by decide), hk 12 (by decide), hk 13 (by decide), hk 14 (by decide), hk 16 (by decide), hk 17 (by decide), hk 18 (by decide), hk 19 (by decide), hk 21 (by decide), hk 22 (by decide), hk 23 (by decide), hk 35 (by decide), hk 33 (by decide), hk 34 (by decide)]
    exact h1
  · rw [hk _ (by omega)]; exact h2 i c hi hc he
  · rw [hk _ (by omega)]; exact h3.1 k hq
  · rw [hk _ (by omega)]; exact h3.2.1 r hr
  · rw [hk _ (by omega)]; exact h3.2.2 r he hr
  · have := get_len hq
    have := h4.1
    rw [hk _ (by omega), hk _ (by omega), hk _ (by omega)]; exact h4.2 k o hq
  · have := get_len hq
    have := h5.1
    rw [hk _ (by omega), hk _ (by omega), hk _ (by omega), hk _ (by omega), hk _ (by omega)]; exact h5.2 k d hq
  · have := get_len hq
    have := h6.1
    rw [hk _ (by omega), hk _ (by omega), hk _ (by omega), hk _ (by omega)]; exact h6.2 k e hq
theorem TMp.cong (hm : TMp ex Pl w) (hk : ∀ p : Nat, p < 73136 → w' p = w p) : TMp ex Pl w' := by
  refine ⟨by rw [hk 20 (by decide)]; exact hm.1, hm.2.1, fun k => ⟨fun m hx => ?_, fun hx => ?_⟩⟩
  · have := get_len hx
    have := hm.2.1
    have := (hm.2.2 k).1 m hx
    unfold TWm at this ⊢
    rw [hk _ (by omega), hk _ (by omega), hk _ (by omega), hk _ (by omega), hk _ (by omega), hk _ (by omega)]
    exact this
  · have := get_len hx
    have := hm.2.1
    rw [hk _ (by omega)]
    exact (hm.2.2 k).2 hx
theorem TR.cong (hr : TR ex S Pl w) (hk : ∀ p : Nat, p < 73136 → w' p = w p) : TR ex S Pl w' := ⟨hr.1.cong (fun p hp => hk p (by omega)), hr.2.1.cong hk, hr.2.2⟩
end TCG
