/-! ROOM: without jitter: the step -/
set_option maxRecDepth 100000
section ARS
variable {S0 S S' : SS} {fo : MG → Nat} {g g' : Nat → JG} {s d : Int} {i c : Nat}
theorem cI.keep (hC : cI s d i c S g) (hp : (aT i (s_ms S')).Perm (aT i (s_ms S))) (ht : ∀ L : Int, L ≤ jl (g i) → (s_nd S i 8 = -4 ∨ L + 2 ≤ (s_nd S i 8).toInt) → (s_nd S' i 8 = -4 ∨ L + 2 ≤ (s_nd S' i 8).toInt)) (hn : (now S).toInt ≤ (now S').toInt) (hl : jl (g' i) = jl (g i)) (ha : jA (g' i) = jA (g i)) : cI s d i c S' g' := by
  obtain ⟨L, U, V, u, w, cc, ⟨a1, a2, a3, a4, a5⟩, b1, b2, b3, b4⟩ := hC
  refine ⟨L, U, V, u, w, cc, ⟨hp.trans a1, a2, a3, ht L b2 a4, a5⟩, b1, by omega, by omega, ?_⟩
  rcases b4 with q | ⟨la, q1, q2, q3, q4⟩
  · exact Or.inl q
  · exact Or.inr ⟨la, q1, by omega, q3, q4⟩
theorem aT_er {m : MG} {k : Nat} {l new : List MG} (hk : l[k]? = some m) (hnew : ∀ q ∈ new, q.1 ≠ 0) : (aT i l).Perm (aT i (m :: (l.eraseIdx k ++ new))) := by
  have e : aT i (l.eraseIdx k ++ new) = aT i (l.eraseIdx k) := by
    rw [aT_app, aT_no (fun q hq h => hnew q hq h.2), List.append_nil]
  have p := aT_perm (i := i) (er_perm hk)
  by_cases h : m.2.1 = i ∧ m.1 = 0
  · rw [aT_yes h] at p
    rw [aT_yes h, e]
    exact p
  · rw [aT_skip h] at p
    rw [aT_skip h, e]
    exact p
theorem cI_step (hI : Inv S) (hj : (s_cf S 7).toInt = 0) (hd1 : (s_nd S i 1).toInt = d) (hE : JE s fo S S' g g') (hC : cI s d i c S g) : cI s d i c S' g' := by
  have hn := JE_now hE
  have tv := hE.tv (i := i)
  have n1 := now1 hI
  rcases hE with ⟨e, b | b⟩ | ⟨e, -, t, rfl, -⟩ | ⟨k, m, hk, hm, hs, hl, -, b, b2⟩ | ⟨j, hj', hs, hd, -, rfl, e⟩ | ⟨j, hj', hs, hd, -, -, b, e⟩
  · refine hC.keep (by rw [b.2.2.1]) (fun L _ h => ?_) hn (by rw [e]) (by rw [e])
    rw [b.2.2.2.2.2.2.2 i 8 (by decide)]
    exact h
  · obtain ⟨nw, b1, b2, -, b4, -⟩ := b
    refine hC.keep ?_ (fun L _ h => ?_) hn (by rw [e]) (by rw [e])
    · rw [b1, aT_app, aT_no (l := nw) (fun q hq h => by have := b2 q hq; omega), List.append_nil]
    · rw [b4.2.2]
      exact h
  · have em : s_ms (pass S t) = s_ms S := congrArg (fun q => q.1) (pass_l (S := S) (t := t))
    refine hC.keep (by rw [em]) (fun L _ h => ?_) hn (by rw [e]) (by rw [e])
    rw [pass_nd (by decide)]
    exact h
  · have hmem : m ∈ s_ms S := List.mem_of_getElem? hk
    obtain ⟨nw, b1, c2, c3, -, c5, -⟩ := b
    have hnew : ∀ q ∈ nw, q.1 ≠ 0 := fun q hq => by
      rcases c3 with rfl | ⟨q', rfl, hN⟩
      · cases hq
      · rw [List.mem_singleton.mp hq]
        exact hN.k0
    have p := aT_er (i := i) hk hnew
    rw [← b1] at p
    by_cases h : m.2.1 = i ∧ m.1 = 0
    · -- an ACQUIRE of the node
      obtain ⟨hi, h0⟩ := h
      subst hi
      rcases b2 with ⟨d1, ⟨-, e⟩ | ⟨k0, -⟩⟩ | ⟨-, -, -, ⟨k0, -⟩ | ⟨k0, -⟩⟩
      · obtain ⟨L, U, V, u, w, cc, ⟨a1, a2, a3, a4, a5⟩, f1, f2, f3, f4⟩ := hC
        have a1' := p.symm.trans a1
        rw [aT_yes ⟨rfl, h0⟩, hm] at a1'
        have ga : jA (g' m.2.1) = jA (g m.2.1) + 1 := by rw [e, fu_eq]; rfl
        have gl' : jl (g' m.2.1) = jl (g m.2.1) := by rw [e, fu_eq]; rfl
        have en : (now S').toInt = (now S).toInt := by
          have : now S' = now S := c2.2.2.1
          rw [this]
        rcases cI0_take a1' a2 with ⟨t1, t2, t3, t4⟩ | ⟨t1, t2⟩
        · refine ⟨L, U.erase (now S).toInt, V, u + 1, w, cc, ⟨t2, t4, fun x hx => a3 x (t3 x hx).2, by rw [d1]; exact a4, a5⟩, f1, by omega, by omega, Or.inr ⟨(now S).toInt, ?_, by omega, a3 _ t1, fun x hx => ?_⟩⟩
          · rcases f4 with q | ⟨la, q1, q2, q3, q4⟩
            · subst q
              omega
            · have := q4 _ t1
              omega
          · have hxA : x ∈ aT m.2.1 (s_ms S) := a1.mem_iff.mpr (List.mem_append_left _ (t3 x hx).2)
            unfold aT at hxA
            obtain ⟨q, hq, rfl⟩ := List.mem_map.mp hxA
            have hq2 := (hI.2.2.2.2.1 q (List.mem_filter.mp hq).1).2.2.2.2.1
            have hq3 : (now S).toInt ≤ tmJ q := hq2
            have := (t3 _ hx).1
            unfold ap2 at this
            omega
        · have lv := List.length_erase_of_mem t1
          have lp : 0 < V.length := List.length_pos_of_mem t1
          refine ⟨L, U, V.erase (now S).toInt, u, w + 1, cc - 1, ⟨t2, a2, a3, by rw [d1]; exact a4, by omega⟩, by omega, by omega, by omega, ?_⟩
          rcases f4 with q | ⟨la, q1, q2, q3, q4⟩
          · exact Or.inl q
          · exact Or.inr ⟨la, q1, by omega, q3, q4⟩
      · exact absurd h0 k0
      · omega
      · omega
    · have p2 : (aT i (s_ms S')).Perm (aT i (s_ms S)) := by
        rw [aT_skip h] at p
        exact p.symm
      rcases tv with ⟨q1, q2⟩ | ⟨-, m', -, -, -, -, q1, q2⟩ | ⟨-, q1, q2⟩ | ⟨q1, q2⟩ | ⟨-, -, -, q1, q2⟩
      · have gg : g' i = g i := by
          rcases b2 with ⟨-, ⟨k0, e⟩ | ⟨-, e⟩⟩ | ⟨-, -, -, ⟨k0, -, e⟩ | ⟨k0, -, e⟩⟩
          · rw [e, fu_ne (fun hx => h ⟨hx.symm, k0⟩)]
          · rw [e]
          · by_cases ci : i = m.2.1
            · rcases q2 with q2 | q2
              · exact q2
              · rw [e, ci, fu_eq] at q2
                have := congrArg jA q2
                have z1 : jA (jFlag (g m.2.1) (fo m)) = jA (g m.2.1) := rfl
                rw [z1] at this
                have z2 : jA (jAcq (g m.2.1) (now S).toInt) = jA (g m.2.1) + 1 := rfl
                omega
            · rw [e, fu_ne ci]
          · by_cases ci : i = m.2.1
            · rcases q2 with q2 | q2
              · exact q2
              · rw [e, ci, fu_eq] at q2
                have := congrArg jA q2
                have z1 : jA (jFlag (g m.2.1) 0) = jA (g m.2.1) := rfl
                rw [z1] at this
                have z2 : jA (jAcq (g m.2.1) (now S).toInt) = jA (g m.2.1) + 1 := rfl
                omega
            · rw [e, fu_ne ci]
        exact hC.keep p2 (fun L _ hx => by rw [q1]; exact hx) hn (by rw [gg]) (by rw [gg])
      · refine hC.keep p2 (fun L hL hx => Or.inr ?_) hn (by rw [q2]; rfl) (by rw [q2]; rfl)
        have l := hl i
        rw [q1, mx_i]
        omega
      · refine hC.keep p2 (fun L hL hx => Or.inr ?_) hn (by rw [q2]; rfl) (by rw [q2]; rfl)
        have l := hl i
        rw [q1, mx_i]
        omega
      · exact hC.keep p2 (fun L _ hx => Or.inl q1) hn (by rw [q2]; rfl) (by rw [q2]; rfl)
      · exfalso
        have l := hl i
        have z : jl (g' i) = (now S).toInt := by rw [q2]; rfl
        have z2 : jl (g' i) = jl (g i) := by
          have fl : ∀ r : JG, jl r = jl (g m.2.1) → jl (fu g m.2.1 r i) = jl (g i) := fun r hr => by
            by_cases ci : i = m.2.1
            · rw [ci, fu_eq]
              exact hr
            · rw [fu_ne ci]
          rcases b2 with ⟨-, ⟨k0, e⟩ | ⟨-, e⟩⟩ | ⟨-, -, -, ⟨k0, -, e⟩ | ⟨k0, -, e⟩⟩
          · rw [e]; exact fl _ rfl
          · rw [e]
          · rw [e]; exact fl _ rfl
          · rw [e]; exact fl _ rfl
        omega
  · by_cases ci : i = j
    · subst ci
      exact hC.keep (List.Perm.refl _) (fun L _ hx => Or.inl nd_at) hn (by rw [e, fu_eq]; rfl) (by rw [e, fu_eq]; rfl)
    · exact hC.keep (List.Perm.refl _) (fun L _ hx => by rw [nd_ne (Or.inl (Ne.symm ci))]; exact hx) hn (by rw [e, fu_ne ci]) (by rw [e, fu_ne ci])
  · obtain ⟨nw, b1, b2, -, -, -, b6, b7, b8, -⟩ := b
    by_cases ci : i = j
    · subst ci
      obtain ⟨d1, d2, d3, d4⟩ := due_b hd
      have ht : s_nd S i 8 ≠ -4 := fun hx => by
        rw [hx] at d3
        exact absurd d3 (by decide)
      have en : (now S').toInt = (now S).toInt := by
        have : now S' = now S := b6 8 (Or.inl rfl)
        rw [this]
      obtain ⟨L, U, V, u, w, cc, ⟨a1, a2, a3, a4, a5⟩, f1, f2, f3, f4⟩ := hC
      have a4' : L + 2 ≤ (s_nd S i 8).toInt := by
        rcases a4 with q | q
        · exact absurd q ht
        · exact q
      have gl' : jl (g' i) = (now S).toInt := by rw [e, fu_eq]; rfl
      have ga : jA (g' i) = jA (g i) := by rw [e, fu_eq]; rfl
      have tt : s_nd S' i 8 = -4 ∨ (now S).toInt + 2 ≤ (s_nd S' i 8).toInt := by
        rw [b8]
        have r := retry_ge hI hj'
        have w45 := (wayR_45 hI hj').1
        right
        omega
      rcases b2 with rfl | ⟨q, rfl, q1, q2, -, q4, q5⟩
      · rw [List.append_nil] at b1
        refine ⟨(now S).toInt, U, V, u, w, cc, ⟨by rw [b1]; exact a1, a2, fun x hx => by have := a3 x hx; omega, tt, a5⟩, f1, by omega, by omega, ?_⟩
        rcases f4 with q | ⟨la, q1, q2, q3, q4⟩
        · exact Or.inl q
        · exact Or.inr ⟨la, q1, by omega, by omega, q4⟩
      · have et : aT i (s_ms S') = aT i (s_ms S) ++ [tmJ q] := by
          rw [b1, aT_app, aT_yes ⟨q2, q1⟩]
          rfl
        refine ⟨(now S).toInt, tmJ q :: U, V, u, w, cc, ⟨?_, ?_, fun x hx => ?_, tt, a5⟩, f1, by omega, by omega, ?_⟩
        · rw [et]
          exact (List.perm_append_comm).trans (List.Perm.cons _ a1)
        · rw [List.pairwise_cons]
          refine ⟨fun x hx => ?_, a2⟩
          have := a3 x hx
          unfold ap2
          omega
        · rcases List.mem_cons.mp hx with rfl | hx
          · omega
          · have := a3 x hx
            omega
        · rcases f4 with z | ⟨la, z1, z2, z3, z4⟩
          · exact Or.inl z
          · refine Or.inr ⟨la, z1, by omega, by omega, fun x hx => ?_⟩
            rcases List.mem_cons.mp hx with rfl | hx
            · omega
            · exact z4 x hx
    · have et : aT i (s_ms S') = aT i (s_ms S) := by
        rw [b1, aT_app, aT_no (l := nw) (fun q hq h => ?_), List.append_nil]
        rcases b2 with rfl | ⟨q', rfl, q1, q2, -⟩
        · cases hq
        · rw [List.mem_singleton.mp hq] at h
          exact ci (h.1.symm.trans q2)
      exact hC.keep (by rw [et]) (fun L _ hx => by rw [b7 i 8 (Or.inl ci)]; exact hx) hn (by rw [e, fu_ne ci]) (by rw [e, fu_ne ci])
end ARS
