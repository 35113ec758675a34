/-! ROOM: L7: from some time on the server grants to one node only -/
set_option maxRecDepth 100000
def HL (S S' : SS) : Prop := s_sc S' 12 = s_sc S 12 ∧ s_sc S' 13 = s_sc S 13
section HLS
variable {S S' S'' : SS} {m : MG}
theorem HL.rf : HL S S := ⟨rfl, rfl⟩
theorem HL.tr (a : HL S S') (b : HL S' S'') : HL S S'' := ⟨b.1.trans a.1, b.2.trans a.2⟩
theorem HL_sc {k : Nat} {v : Int32} (h : k ≠ 12 ∧ k ≠ 13) : HL S (u_sc S k v) := ⟨fu_ne (Ne.symm h.1), fu_ne (Ne.symm h.2)⟩
theorem HL_note {k : Nat} {n t : Int32} : HL S (note S k n t) := ⟨by rw [sc_note2], by rw [sc_note2]⟩
theorem HL_send {k n l : Nat} {a b c : Int32} : HL S (send S k n l a b c) := ⟨sc_send (by decide), sc_send (by decide)⟩
theorem HL_watch {v : Int32} : HL S (watch S m v) := HL_sc (by decide)
theorem HL_nd {i k : Nat} {v : Int32} : HL S (u_nd S i k v) := ⟨rfl, rfl⟩
theorem HL_ar {i k : Nat} {v : Int32} : HL S (u_ar S i k v) := ⟨rfl, rfl⟩
theorem HL_mk {c k : Nat} : HL S (g_mk S c k) := ⟨rfl, rfl⟩
theorem HL_if {c : Prop} [Decidable c] {A B : SS} (a : HL S A) (b : HL S B) : HL S (if c then A else B) := by
  split
  · exact a
  · exact b
theorem HL_granted : HL S (granted S m) := by
  unfold granted
  dsimp only
  refine HL_if HL_send (HL_if HL.rf ?_)
  unfold setTimer
  refine HL.tr ?_ HL_nd
  refine HL.tr ?_ HL_nd
  exact HL_if (HL_nd.tr (HL_nd.tr HL_nd)) HL.rf
theorem HL_atNode : HL S (atNode S m) := by
  unfold atNode
  dsimp only
  refine HL_if HL_granted (HL_if (HL_if HL.rf HL_nd) (HL_if (HL_if (HL_nd.tr HL_nd) HL.rf) (HL_if (HL_nd.tr HL_nd) HL.rf)))
theorem HL_sto : HL S (atStorage S m) := by
  unfold atStorage
  dsimp only
  refine HL_if (HL_if ((HL_sc (by decide)).tr HL_send) ?_) ?_
  · refine HL.tr ?_ HL_send
    refine HL.tr ?_ HL_watch
    refine HL.tr ?_ HL_note
    exact HL.tr (HL.tr (HL_sc (by decide)) HL_ar) HL_ar
  · unfold fence
    refine HL.tr ?_ HL_send
    refine HL.tr ?_ HL_watch
    exact HL.tr HL_mk HL_note
theorem decide_hl : (HL S (decide_ S m) ∧ ∀ q ∈ s_ms (decide_ S m), q.1 = 1 → q ∈ s_ms S) ∨
    (¬ (s_sc S 12 ≠ -4 ∧ (srvAt S).toInt < (s_sc S 13).toInt ∧ s_sc S 12 ≠ Int32.ofNat m.2.1) ∧ s_sc (decide_ S m) 12 = Int32.ofNat m.2.1 ∧ s_sc (decide_ S m) 13 = srvAt S + s_cf S 3) := by
  unfold decide_
  dsimp only
  by_cases c : srvAt S < s_sc S 15 ∨ ((s_sc S 12 != -4 && decide (srvAt S < s_sc S 13)) = true ∧ s_sc S 12 ≠ Int32.ofNat m.2.1)
  · rw [if_pos c]
    refine Or.inl ⟨HL_note.tr HL_send, fun q hq h1 => ?_⟩
    by_cases h4 : s_nd (note S 3 (Int32.ofNat m.2.1) (s_sc S 14)) m.2.1 4 = 0
    · rw [send_ms h4, ms_note2] at hq
      rcases List.mem_append.mp hq with z | z
      · exact z
      · exfalso
        have := List.mem_singleton.mp z
        subst this
        exact absurd (show (2 : Nat) = 1 from h1) (by decide)
    · rw [send_cut h4, ms_note2] at hq
      exact hq
  · rw [if_neg c]
    refine Or.inr ⟨fun h => c (Or.inr ⟨?_, h.2.2⟩), ?_, ?_⟩
    · rw [Bool.and_eq_true]
      exact ⟨by simpa using h.1, by simpa using Int32.lt_iff_toInt_lt.mpr h.2.1⟩
    · refine (sc_send (by decide)).trans ?_
      rw [sc_note2, sc_us2, fu_ne (by decide), sc_us2, fu_eq]
    · refine (sc_send (by decide)).trans ?_
      rw [sc_note2, sc_us2, fu_eq]
theorem arrive_hl {k : Nat} : (m.1 ≠ 0 → m.1 ≠ 3 → HL S (arrive S k m)) ∧ (m.1 = 0 → (HL S (arrive S k m) ∧ ∀ q ∈ s_ms (arrive S k m), q.1 = 1 → q ∈ s_ms S) ∨
    (¬ (s_sc S 12 ≠ -4 ∧ (srvAt S).toInt < (s_sc S 13).toInt ∧ s_sc S 12 ≠ Int32.ofNat m.2.1) ∧ s_sc (arrive S k m) 12 = Int32.ofNat m.2.1 ∧ s_sc (arrive S k m) 13 = srvAt S + s_cf S 3)) := by
  unfold arrive
  dsimp only
  have e : HL S (u_ms S ((s_ms S).eraseIdx k)) := ⟨rfl, rfl⟩
  by_cases c1 : s_nd S m.2.1 4 ≠ 0 ∨ (toNode m.1 = true ∧ s_nd S m.2.1 2 = 0)
  · rw [if_pos c1]
    have h : HL S (watch (u_sc (u_ms S ((s_ms S).eraseIdx k)) 11 (s_sc S 11 + 1)) m 2) := (e.tr (HL_sc (by decide))).tr HL_watch
    exact ⟨fun _ _ => h, fun _ => Or.inl ⟨h, fun q hq _ => List.mem_of_mem_eraseIdx hq⟩⟩
  · rw [if_neg c1]
    by_cases c2 : toNode m.1 = true ∧ paused S m.2.1 (now S) = true
    · rw [if_pos c2]
      refine ⟨fun _ _ => ⟨rfl, rfl⟩, fun h0 => ?_⟩
      rw [h0] at c2
      exact absurd c2.1 (by decide)
    · rw [if_neg c2]
      unfold handle
      refine ⟨fun h0 h3 => ?_, fun h0 => ?_⟩
      · rw [if_neg h0, if_neg h3]
        exact e.tr (HL_if HL_sto HL_atNode)
      · rw [if_pos h0]
        rcases decide_hl (S := u_ms S ((s_ms S).eraseIdx k)) (m := m) with z | z
        · exact Or.inl ⟨e.tr z.1, fun q hq h1 => List.mem_of_mem_eraseIdx (z.2 q hq h1)⟩
        · exact Or.inr z
/-- the server's clock, as it is by default -/
theorem srv_now (h0 : s_cf S 0 = 1000) (h1 : s_cf S 1 = 0) (hI : Inv S) : (srvAt S).toInt = (now S).toInt := by
  have w := hI.2.2.2.1.1
  have k0 : ((1000 : Int32)).toInt = 1000 := by decide
  have k1 : ((0 : Int32)).toInt = 0 := by decide
  have b := c_at_b (r := s_cf S 0) (o := s_cf S 1) (t := now S) (by rw [h0, k0]; omega) (by rw [h0, k0]; omega) (by rw [h1, k1]; omega) (by rw [h1, k1]; omega) w.1 (by have := w.2; omega)
  rw [h0, h1, k0, k1] at b
  unfold srvAt
  rw [h0, h1]
  omega
end HLS
/-- lam: RELEASEs come up to s + lam; home: the node that is granted to from then on (the nodes' number: none yet) -/
def c7 (S0 : SS) (s e lam : Int) (Ls : Nat → List Int) (S : SS) (g : Nat → JG) : Prop :=
  (∀ m ∈ s_ms S, m.1 = 3 → tmJ m ≤ s + lam) ∧
  ∃ home : Nat, (home < s_n S0 → s + lam < (now S).toInt ∧ s_sc S 12 = Int32.ofNat home ∧ e < (s_sc S 13).toInt) ∧
    (∀ m ∈ s_ms S, m.1 = 1 → m.2.1 ≠ home → tmJ m ≤ s + lam + way S0 m.2.1 ∨ tmJ m ∈ Ls m.2.1) ∧
    ∀ j : Nat, j < s_n S0 → j ≠ home → (jf (g j) = 1 → jl (g j) < s + lam + way S0 j) ∧ (jG (g j) = 0 ∨ 2 * (jG (g j) : Int) ≤ lam + way S0 j + 2)
section C7S
variable {S0 S S' : SS} {g g' : Nat → JG} {s e lam : Int} {Ls : Nat → List Int} {sp : Nat → Nat}
theorem JG_flag {r : JG} {x : Nat} : jG (jFlag r x) = jG r := rfl
theorem c7_step (hc : CST S0 S) (hI : Inv S) (hc0 : s_cf S0 0 = 1000) (hc1 : s_cf S0 1 = 0) (hc3 : s_cf S0 3 = 5000) (he : e ≤ s + 5000) (hl0 : 0 ≤ lam) (hcd : ∀ i : Nat, i < s_n S0 → s_nd S0 i 3 ≠ 0) (h5 : ∀ i : Nat, i < s_n S0 → (s_nd S0 i 5).toInt ∈ Ls i) (hw : ∀ i : Nat, i < s_n S0 → 1 ≤ way S0 i)
    (hsp : ∀ i : Nat, i < s_n S0 → 2 ≤ sp i) (hR : ∀ i : Nat, i < s_n S0 → 2 ≤ wayR S0 i) (hA : ∀ i : Nat, i < s_n S0 → cA s (wayR S0 i) (sp i) i S g) (hn' : (now S').toInt ≤ e) (hE : JE s (foL Ls) S S' g g') (hC : c7 S0 s e lam Ls S g) : c7 S0 s e lam Ls S' g' := by
  obtain ⟨C1, home, C2, C3, C4⟩ := hC
  have hn := JE_now hE
  have nn : s_n S = s_n S0 := hc.2.1
  -- messages that stay, holder and expiry stay, ghosts of nodes
  have fin : (∀ m ∈ s_ms S', m ∈ s_ms S ∨ (m.1 ≠ 1 ∧ m.1 ≠ 3) ∨ (m.1 = 1 ∧ tmJ m ∈ Ls m.2.1)) → HL S S' → (∀ j : Nat, j < s_n S0 → j ≠ home → (jf (g' j) = 1 → jl (g' j) < s + lam + way S0 j) ∧ (jG (g' j) = 0 ∨ 2 * (jG (g' j) : Int) ≤ lam + way S0 j + 2)) → c7 S0 s e lam Ls S' g' := fun hm hh hg => by
    refine ⟨fun m h1 h3 => ?_, home, fun hb => ?_, fun m h1 h2 h3 => ?_, hg⟩
    · rcases hm m h1 with q | q | q
      · exact C1 m q h3
      · exact absurd h3 q.2
      · omega
    · obtain ⟨z1, z2, z3⟩ := C2 hb
      exact ⟨by omega, hh.1.trans z2, by rw [hh.2]; exact z3⟩
    · rcases hm m h1 with q | q | q
      · exact C3 m q h2 h3
      · exact absurd h2 q.1
      · exact Or.inr q.2
  have same : ∀ j : Nat, g' j = g j → j < s_n S0 → j ≠ home → (jf (g' j) = 1 → jl (g' j) < s + lam + way S0 j) ∧ (jG (g' j) = 0 ∨ 2 * (jG (g' j) : Int) ≤ lam + way S0 j + 2) := fun j hj h1 h2 => by
    rw [hj]
    exact C4 j h1 h2
  rcases hE with ⟨eg, b | b⟩ | ⟨eg, -, t, rfl, -⟩ | ⟨k, m, hk, hm, hs0, hl, rfl, b, b2⟩ | ⟨j, hj, hs, hd, -, rfl, eg⟩ | ⟨j, hj, hs, hd, -, -, b, eg⟩
  · exact fin (fun m h1 => Or.inl (by rw [← b.2.2.1]; exact h1)) ⟨by rw [b.2.2.2.2.1], by rw [b.2.2.2.2.1]⟩ (fun j => same j (by rw [eg]))
  · obtain ⟨nw, c1, c2, -, -, c5, -⟩ := b
    refine fin (fun m h1 => ?_) ⟨c5 12 (by decide), c5 13 (by decide)⟩ (fun j => same j (by rw [eg]))
    rw [c1] at h1
    rcases List.mem_append.mp h1 with q | q
    · exact Or.inl q
    · have := c2 m q
      exact Or.inr (Or.inl ⟨by omega, by omega⟩)
  · refine fin (fun m h1 => Or.inl ?_) ⟨pass_s (by decide), pass_s (by decide)⟩ (fun j => same j (by rw [eg]))
    have em : s_ms (pass S t) = s_ms S := congrArg (fun q => q.1) (pass_l (S := S) (t := t))
    rw [← em]
    exact h1
  · have hmem : m ∈ s_ms S := List.mem_of_getElem? hk
    have hmi : m.2.1 < s_n S0 := by
      rw [← nn]
      exact (hI.2.2.2.2.1 m hmem).1.2.1
    have e1 : s_nd S m.2.1 1 = s_nd S0 m.2.1 1 := hc.ki (by decide)
    have e3 : s_nd S m.2.1 3 = s_nd S0 m.2.1 3 := hc.ki (by decide)
    have e5 : s_nd S m.2.1 5 = s_nd S0 m.2.1 5 := hc.ki (by decide)
    have e7 : s_cf S 7 = s_cf S0 7 := by rw [hc.1]
    obtain ⟨nw, c1, c2, c3, -⟩ := b
    have en : (now (arrive S k m)).toInt = (now S).toInt := by
      have : now (arrive S k m) = now S := c2.2.2.1
      rw [this]
    obtain ⟨A1, A2⟩ := arrive_hl (S := S) (m := m) (k := k)
    -- the ghosts
    have G : ∀ j : Nat, j < s_n S0 → j ≠ home → (jf (g' j) = 1 → jl (g' j) < s + lam + way S0 j) ∧ (jG (g' j) = 0 ∨ 2 * (jG (g' j) : Int) ≤ lam + way S0 j + 2) := fun j h1 h2 => by
      by_cases cj : j = m.2.1
      · subst cj
        obtain ⟨z1, z2⟩ := C4 m.2.1 h1 h2
        rcases b2 with ⟨-, ⟨k0, eg⟩ | ⟨k0, eg⟩⟩ | ⟨-, -, -, ⟨k1, -, eg⟩ | ⟨k1, -, eg⟩⟩
        · rw [eg, fu_eq]
          exact ⟨z1, z2⟩
        · rw [eg]
          exact ⟨z1, z2⟩
        · rw [eg, fu_eq]
          refine ⟨fun hf => ?_, z2⟩
          show jl (g m.2.1) < _
          have hf' : foL Ls m = 1 := hf
          have l := hl m.2.1
          rcases C3 m hmem k1 h2 with q | q
          · omega
          · unfold foL at hf'
            rw [if_pos q] at hf'
            cases hf'
        · rw [eg, fu_eq]
          exact ⟨fun hf => absurd (show (0 : Nat) = 1 from hf) (by decide), z2⟩
      · refine same j ?_ h1 h2
        rcases b2 with ⟨-, ⟨k0, eg⟩ | ⟨k0, eg⟩⟩ | ⟨-, -, -, ⟨k1, -, eg⟩ | ⟨k1, -, eg⟩⟩
        · rw [eg, fu_ne cj]
        · rw [eg]
        · rw [eg, fu_ne cj]
        · rw [eg, fu_ne cj]
    by_cases m0 : m.1 = 0
    · rcases A2 m0 with ⟨z1, z2⟩ | ⟨z1, z2, z3⟩
      · refine fin (fun x h1 => ?_) z1 G
        by_cases x1 : x.1 = 1
        · exact Or.inl (z2 x h1 x1)
        · rw [c1] at h1
          rcases List.mem_append.mp h1 with q | q
          · exact Or.inl (List.mem_of_mem_eraseIdx q)
          · rcases c3 with rfl | ⟨q', rfl, hN⟩
            · cases q
            · have ex := List.mem_singleton.mp q
              subst ex
              obtain ⟨n0, h⟩ := hN
              refine Or.inr (Or.inl ⟨x1, ?_⟩)
              rcases h with h | h | h | h <;> omega
      · have sn := srv_now (by rw [hc.1]; exact hc0) (by rw [hc.1]; exact hc1) hI
        have k5 : ((5000 : Int32)).toInt = 5000 := by decide
        have w := hI.2.2.2.1.1
        have w1 := w.1
        have w2 := w.2
        have ex : (s_sc (arrive S k m) 13).toInt = (now S).toInt + 5000 := by
          rw [z3, hc.1, hc3, i_add (by rw [sn, k5]; omega) (by rw [sn, k5]; omega), sn, k5]
        -- messages: the new one goes to m's node
        have M : ∀ x ∈ s_ms (arrive S k m), x ∈ s_ms S ∨ (x.2.1 = m.2.1 ∧ x.1 ≠ 3 ∧ tmJ x ≤ (now S).toInt + way S0 m.2.1) := fun x h1 => by
          rw [c1] at h1
          rcases List.mem_append.mp h1 with q | q
          · exact Or.inl (List.mem_of_mem_eraseIdx q)
          · rcases c3 with rfl | ⟨q', rfl, hN⟩
            · cases q
            · have ex := List.mem_singleton.mp q
              subst ex
              obtain ⟨n0, h⟩ := hN
              rcases h with h | h | h | h
              · obtain ⟨a1, a2, a3, a4, a5⟩ := h
                rw [e1, e7] at a5
                exact Or.inr ⟨n0, by omega, by unfold way; omega⟩
              · omega
              · omega
              · omega
        have one : ∀ m' ∈ s_ms (arrive S k m), m'.1 = 3 → tmJ m' ≤ s + lam := fun m' h1 h3 => by
          rcases M m' h1 with q | q
          · exact C1 m' q h3
          · exact absurd h3 q.2.1
        by_cases hb : home < s_n S0
        · -- home stays
          obtain ⟨y1, y2, y3⟩ := C2 hb
          have hh : home = m.2.1 := by
            refine Decidable.byContradiction fun hne => z1 ⟨?_, ?_, ?_⟩
            · rw [y2]
              intro hy
              have := congrArg Int32.toInt hy
              have b6 := hI.2.2.1.2
              rw [of_i (by omega), show ((-4 : Int32)).toInt = -4 from by decide] at this
              omega
            · omega
            · rw [y2]
              intro hy
              have := congrArg Int32.toInt hy
              have b6 := hI.2.2.1.2
              rw [of_i (by omega), of_i (by omega)] at this
              omega
          refine ⟨one, home, fun _ => ⟨by omega, by rw [z2, hh], by omega⟩, fun x h1 h2 h3 => ?_, G⟩
          rcases M x h1 with q | q
          · exact C3 x q h2 h3
          · exact absurd (q.1.trans hh.symm) h3
        · by_cases ht : (now S).toInt ≤ s + lam
          · refine ⟨one, home, fun hy => absurd hy hb, fun x h1 h2 h3 => ?_, G⟩
            rcases M x h1 with q | q
            · exact C3 x q h2 h3
            · left
              have := q.2.2
              rw [q.1]
              omega
          · refine ⟨one, m.2.1, fun _ => ⟨by omega, z2, by omega⟩, fun x h1 h2 h3 => ?_, fun j h1 h2 => G j h1 (by omega)⟩
            rcases M x h1 with q | q
            · refine C3 x q h2 ?_
              have := (hI.2.2.2.2.1 x q).1.2.1
              omega
            · exact absurd q.1 h3
    · by_cases m3 : m.1 = 3
      · -- a RELEASE: no home yet
        have hb : ¬ home < s_n S0 := fun hb => by
          have a := (C2 hb).1
          have b := C1 m hmem m3
          omega
        have M : ∀ x ∈ s_ms (arrive S k m), x ∈ s_ms S := fun x h1 => by
          rw [c1] at h1
          rcases List.mem_append.mp h1 with q | q
          · exact List.mem_of_mem_eraseIdx q
          · rcases c3 with rfl | ⟨q', rfl, hN⟩
            · cases q
            · obtain ⟨n0, h⟩ := hN
              rcases h with h | h | h | h <;> omega
        exact ⟨fun x h1 h3 => C1 x (M x h1) h3, home, fun hy => absurd hy hb, fun x h1 h2 h3 => C3 x (M x h1) h2 h3, G⟩
      · refine fin (fun x h1 => ?_) (A1 m0 m3) G
        rw [c1] at h1
        rcases List.mem_append.mp h1 with q | q
        · exact Or.inl (List.mem_of_mem_eraseIdx q)
        · rcases c3 with rfl | ⟨q', rfl, hN⟩
          · cases q
          · have ex := List.mem_singleton.mp q
            subst ex
            obtain ⟨n0, h⟩ := hN
            rcases h with h | h | h | h
            · omega
            · obtain ⟨a1, a2, -, a4, -⟩ := h
              rw [e5] at a4
              by_cases x1 : x.1 = 1
              · refine Or.inr (Or.inr ⟨x1, ?_⟩)
                rw [a4, n0]
                exact h5 m.2.1 hmi
              · exact Or.inr (Or.inl ⟨x1, by omega⟩)
            · exact absurd (e3.symm.trans h.2.2.1) (hcd m.2.1 hmi)
            · exact Or.inr (Or.inl ⟨by omega, by omega⟩)
  · refine fin (fun m h1 => Or.inl h1) HL_nd (fun i h1 h2 => ?_)
    by_cases ci : i = j
    · subst ci
      rw [eg, fu_eq]
      exact ⟨fun hf => absurd (show (0 : Nat) = 1 from hf) (by decide), (C4 i h1 h2).2⟩
    · exact same i (by rw [eg, fu_ne ci]) h1 h2
  · obtain ⟨nw, c1, c2, -, -, -, c5, -⟩ := b
    refine fin (fun m h1 => ?_) ⟨c5 12 (by decide), c5 13 (by decide)⟩ (fun i h1 h2 => ?_)
    · rw [c1] at h1
      rcases List.mem_append.mp h1 with q | q
      · exact Or.inl q
      · rcases c2 with rfl | ⟨q', rfl, q1, -⟩
        · cases q
        · have ex := List.mem_singleton.mp q
          subst ex
          exact Or.inr (Or.inl ⟨by omega, by omega⟩)
    · by_cases ci : i = j
      · subst ci
        rw [eg, fu_eq]
        refine ⟨fun hf => absurd (show (0 : Nat) = 1 from hf) (by decide), Or.inr ?_⟩
        show 2 * ((jG (g i) + (if jf (g i) = 1 then 1 else 0) : Nat) : Int) ≤ _
        obtain ⟨z1, z2⟩ := C4 i h1 h2
        have w := hw i h1
        by_cases hf : jf (g i) = 1
        · rw [if_pos hf]
          have l := z1 hf
          by_cases f0 : jF (g i) = 0
          · have : jG (g i) = 0 := by
              unfold jF at f0
              omega
            rw [this]
            omega
          · obtain ⟨⟨c, b1, b2⟩, -⟩ := (hA i h1).2 f0
            have m1 := mulge (y := jG (g i)) (hsp i h1)
            rcases b1 with ⟨rfl, q⟩ | ⟨rfl, q⟩ | ⟨rfl, q⟩
            · have := mulge1 (hsp i h1) q
              omega
            · have : wayR S0 i * 1 ≤ wayR S0 i * jR (g i) := Nat.mul_le_mul_left _ q
              omega
            · omega
        · rw [if_neg hf, Nat.add_zero]
          rcases z2 with y | y
          · rw [y]
            omega
          · exact y
      · exact same i (by rw [eg, fu_ne ci]) h1 h2
end C7S
