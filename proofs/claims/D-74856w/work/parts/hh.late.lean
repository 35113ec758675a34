/-! ROOM: a GRANT comes in time or at a late time of the list -/
set_option maxRecDepth 100000
/-- the longest way there: delay and jitter -/
def way (S : SS) (i : Nat) : Int := (s_nd S i 1).toInt + (s_cf S 7).toInt
/-- a message's time: P the renewal's way, L the longest way there, Lt the late times (the node's own 'paused until' is among them) -/
def tOK (S0 : SS) (i : Nat) (Lt : List Int) (t : Int) (m : MG) : Prop :=
  (m.1 = 0 → tmJ m + wayP S0 i ≤ xT S0 m + way S0 i ∧ tmJ m ≤ t + way S0 i) ∧
  (m.1 = 1 → (tmJ m + wayP S0 i ≤ xT S0 m + 2 * way S0 i ∧ tmJ m ≤ t + way S0 i) ∨ tmJ m ∈ Lt) ∧
  (m.1 = 2 → tmJ m ≤ t + way S0 i ∨ tmJ m ∈ Lt) ∧ (m.1 = 3 → tmJ m ≤ t + way S0 i)
def cLt (S0 : SS) (i : Nat) (Lt : List Int) (S : SS) : Prop := ∀ m ∈ s_ms S, m.2.1 = i → tOK S0 i Lt (now S).toInt m
theorem tOK.up {S0 : SS} {i : Nat} {Lt : List Int} {t t' : Int} {m : MG} (h : tOK S0 i Lt t m) (ht : t ≤ t') : tOK S0 i Lt t' m := by
  obtain ⟨h0, h1, h2, h3⟩ := h
  refine ⟨fun k => ⟨(h0 k).1, by have := (h0 k).2; omega⟩, fun k => ?_, fun k => ?_, fun k => by have := h3 k; omega⟩
  · rcases h1 k with q | q
    · exact Or.inl ⟨q.1, by have := q.2; omega⟩
    · exact Or.inr q
  · rcases h2 k with q | q
    · exact Or.inl (by omega)
    · exact Or.inr q
section LTS
variable {S0 S S' : SS} {fo : MG → Nat} {g g' : Nat → JG} {s : Int} {i : Nat} {Lt : List Int}
theorem cLt_step (hc : CST S0 S) (hI : Inv S) (hL : (s_nd S0 i 5).toInt ∈ Lt) (hE : JE s fo S S' g g') (hC : cLt S0 i Lt S) : cLt S0 i Lt S' := by
  have hn := JE_now hE
  have keep : ∀ m : MG, m ∈ s_ms S → m.2.1 = i → tOK S0 i Lt (now S').toInt m := fun m hm hi => (hC m hm hi).up hn
  have e1 : s_nd S i 1 = s_nd S0 i 1 := hc.ki (by decide)
  have e5 : s_nd S i 5 = s_nd S0 i 5 := hc.ki (by decide)
  have e7 : s_cf S 7 = s_cf S0 7 := by rw [hc.1]
  rcases hE with ⟨e, b | b⟩ | ⟨e, -, t, rfl, -⟩ | ⟨k, m, hk, hm, hs, hl, -, b, b2⟩ | ⟨j, hj', hs, hd, -, rfl, e⟩ | ⟨j, hj', hs, hd, -, -, b, e⟩
  · intro m hm hi
    rw [b.2.2.1] at hm
    exact keep m hm hi
  · obtain ⟨nw, b1, b2, -⟩ := b
    intro m hm hi
    rw [b1] at hm
    rcases List.mem_append.mp hm with q | q
    · exact keep m q hi
    · have := b2 m q
      exact ⟨fun h => by omega, fun h => by omega, fun h => by omega, fun h => by omega⟩
  · intro m hm hi
    have em : s_ms (pass S t) = s_ms S := congrArg (fun q => q.1) (pass_l (S := S) (t := t))
    rw [em] at hm
    exact keep m hm hi
  · have hmem : m ∈ s_ms S := List.mem_of_getElem? hk
    obtain ⟨nw, b1, c2, c3, -⟩ := b
    have en : (now S').toInt = (now S).toInt := by
      have : now S' = now S := c2.2.2.1
      rw [this]
    intro x hx hi
    rw [b1] at hx
    rcases List.mem_append.mp hx with q | q
    · exact keep x (List.mem_of_mem_eraseIdx q) hi
    · rcases c3 with rfl | ⟨q', rfl, hN⟩
      · cases q
      · have ex := List.mem_singleton.mp q
        subst ex
        have h0 := hN.k0
        obtain ⟨n0, h⟩ := hN
        have hi' : m.2.1 = i := by rw [← n0]; exact hi
        rw [hi'] at h
        rw [en]
        rcases h with h | h | h | h
        · obtain ⟨a1, a2, a3, a4, a5⟩ := h
          have a := (hC m hmem hi').1 a1
          rw [e1, e7] at a5
          refine ⟨fun h => absurd h h0, fun h => ?_, fun h => ?_, fun h => by omega⟩
          · have ee := xT_eq (S := S0) n0 (a3 h)
            left
            rw [ee]
            unfold way at a ⊢
            omega
          · left
            unfold way
            omega
        · obtain ⟨a1, a2, -, a4, -⟩ := h
          rw [e5] at a4
          exact ⟨fun h => absurd h h0, fun h => Or.inr (by rw [a4]; exact hL), fun h => Or.inr (by rw [a4]; exact hL), fun h => by omega⟩
        · obtain ⟨a1, a2, -, -, a5⟩ := h
          rw [e1, e7] at a5
          refine ⟨fun h => absurd h h0, fun h => by omega, fun h => by omega, fun h => ?_⟩
          unfold way
          omega
        · exact ⟨fun h => absurd h h0, fun h => by omega, fun h => by omega, fun h => by omega⟩
  · intro m hm hi
    exact keep m hm hi
  · obtain ⟨nw, b1, b2, -, -, -, b6, -⟩ := b
    have en : (now S').toInt = (now S).toInt := by
      have : now S' = now S := b6 8 (Or.inl rfl)
      rw [this]
    intro x hx hi
    rw [b1] at hx
    rcases List.mem_append.mp hx with q | q
    · exact keep x q hi
    · rcases b2 with rfl | ⟨q', rfl, q1, q2, q3, q4, q5⟩
      · cases q
      · have ex := List.mem_singleton.mp q
        subst ex
        refine ⟨fun _ => ?_, fun h => by omega, fun h => by omega, fun h => by omega⟩
        have ji : j = i := q2.symm.trans hi
        subst ji
        have r := renew_ge hI hj'
        rw [wayP_cs hc] at r
        have r2 : (ndRe S j (ndAt S j (now S) + s_cf S 5)).toInt = xT S0 x := by
          rw [xT_cs hc]
          unfold xT
          rw [q2, q3]
        rw [r2] at r
        rw [e1, e7] at q5
        rw [en]
        unfold way
        omega
end LTS
