/-! ROOM: what a prediction begins with -/
set_option maxRecDepth 100000
section STS
variable {L : LG} {S S' : SS} {i j r : Nat} {Lt : List Int} {c T : Nat}
/-- a write is sent: nothing changes for the tokens -/
theorem KI.sil (h : AC S S' i) (h3 : s_nd S' i 3 = s_nd S i 3) (h8 : s_nd S' i 8 = s_nd S i 8) (h5 : s_nd S' i 5 = s_nd S i 5) (hq : ∀ q ∈ s_ms S', q ∈ s_ms S ∨ 4 ≤ q.1) (hm : ∃ new : List MG, s_ms S' = s_ms S ++ new ∧ ∀ q ∈ new, 4 ≤ q.1) (hS : KI S j Lt c T) : KI S' j Lt c T := by
  by_cases hj : j = i
  · subst hj
    have ha := h
    obtain ⟨e1, e2, e3, e4, e5, -⟩ := h
    obtain ⟨new, m1, m2⟩ := hm
    obtain ⟨s1, s2, s3, s4⟩ := hS
    refine ⟨fun m hm hi => ?_, ⟨by rw [h5]; exact s2.1, s2.2⟩, fun hj0 => ?_, fun k => ?_⟩
    · rw [e3]
      rcases hq m hm with q | q
      · exact AC_tOK ha (s1 m q hi) (fun x hx => hx)
      · exact ⟨fun x => by omega, fun x => by omega, fun x => by omega, fun x => by omega⟩
    · rw [e1] at hj0
      obtain ⟨L, U, V, ⟨a1, a2, a3, a4, a5⟩, a6⟩ := s3 hj0
      refine ⟨L, U, V, ⟨?_, a2, ?_, ?_, a5⟩, by rw [e3]; exact a6⟩
      · rw [m1, aT_app, aT_no (l := new) (fun q hq hx => by have := m2 q hq; omega), List.append_nil]
        exact a1
      · rw [e4 j 1 (by decide)]
        exact a3
      · rw [h8]
        exact a4
    · rw [AC_way ha, AC_wR ha] at k
      obtain ⟨f, f1, f2, f3, f4, f5⟩ := s4 k
      have kk : ∀ cc : Nat, cc ≤ 3 → k6 S' j Lt cc = k6 S j Lt cc := fun cc hcc => by
        unfold k6
        rw [m1, app_sum, zero_sum (f := fm6 j Lt cc) (l := new) (fun q hq => if_neg (fun hx => by have := m2 q hq; omega)), Nat.add_zero]
      refine ⟨f, f1, fun h => f2 (by rw [← h3]; exact h), fun hf => ?_, by rw [kk 2 (by decide), e3]; exact f4, fun np => by rw [kk 3 (by decide)]; exact f5 np⟩
      unfold rl6
      rw [h8, h3, AC_way ha]
      rcases f3 hf with q | q | q
      · exact Or.inl q
      · exact Or.inr (Or.inl q)
      · refine Or.inr (Or.inr fun m hm hi => ?_)
        rcases hq m hm with z | z
        · exact q m z hi
        · exact ⟨fun x => by omega, fun x => by omega⟩
  · exact hS.oth h hj
theorem PST_copy (h : STI L S) (hb : s_gh (copyS S) 0 ≤ 1000000) : PST L (copyS S) := h.pst.sam SAM_copy (Inv_copy h.2.1.1 hb) (Rest_copy h.2.1.2.1)
theorem PST_17 (h : STI L S) (hb : s_gh (copyS S) 0 ≤ 1000000) : PST L (u_sc (copyS S) 17 0) := by
  have a := PST_copy h hb
  exact a.sam (SAM_sc (by decide)) (Inv_sc17 a.2.1.1) a.2.1.2
theorem PST_write {X : SS} (a : PST L X) (lj : LJ X) (ho : oN X ≤ lgy L) (hi : i < s_n X) (hr : r < 8) (hl : (s_ms X).length < 8000) {t : Int32} (hb : s_gh (send X 4 i 3 t (Int32.ofNat r) 0) 0 ≤ 1000000) : PST L (send X 4 i 3 t (Int32.ofNat r) 0) := by
  have hI : Inv X := a.2.1.1
  have lx : LJ (send X 4 i 3 t (Int32.ofNat r) 0) := lj.snd hb (by decide) (by decide) hi (fun _ => ⟨r, hr, rfl⟩) nv0
  obtain ⟨w1, w2⟩ := wri_x (S := X) (i := i) (k := 4) (ln := 3) (a := t) (b := Int32.ofNat r) (c := 0) hI hi (by decide) hl
  obtain ⟨nw, n1, n2, -⟩ := snd_x (k := 4) (ln := 3) (a := t) (b := Int32.ofNat r) (c := 0) hI hi hl
  have cs := cS_send (S := X) (k := 4) (n := i) (l := 3) (a := t) (b := Int32.ofNat r) (c := 0)
  clear hb
  obtain ⟨Y, hY⟩ : ∃ Y, send X 4 i 3 t (Int32.ofNat r) 0 = Y := ⟨_, rfl⟩
  rw [hY] at lx w1 w2 n1 cs ⊢
  have k4 : ∀ q ∈ nw, 4 ≤ q.1 := fun q hq => by
    rcases n2 with rfl | ⟨q', rfl, -, q2, -⟩
    · cases hq
    · rw [List.mem_singleton.mp hq]
      omega
  have em : ∀ j : Nat, mN Y j = mN X j := fun j => by
    unfold mN
    rw [n1, app_sum, zero_sum (f := fmM j) (l := nw) (fun q hq => if_neg (fun hx => by have := k4 q hq; omega)), Nat.add_zero]
  obtain ⟨p1, p2, p3, p4, p5, p6, p7⟩ := a
  obtain ⟨x1, x2, x3, x4, -⟩ := w1
  have hq : ∀ q ∈ s_ms Y, q ∈ s_ms X ∨ 4 ≤ q.1 := fun q hq => by
    rw [n1] at hq
    rcases List.mem_append.mp hq with z | z
    · exact Or.inl z
    · exact Or.inr (k4 q z)
  refine ⟨p1.tr x1.cc, ⟨lx.1, lx.2.1⟩, fun j hj => ?_, fun j hj => ?_, fun hy => ?_, fun hc hx hn => ?_, by omega⟩
  · rw [cs.2.1] at hj
    obtain ⟨Lt, k, k'⟩ := p3 j hj
    exact ⟨Lt, KI.sil x1 (by rw [cs.2.2]) (by rw [cs.2.2]) (by rw [cs.2.2]) hq ⟨nw, n1, k4⟩ k, k'⟩
  · rw [cs.2.1] at hj
    rw [em, cs.2.2]
    exact p4 j hj
  · obtain ⟨y1, y2⟩ := p5 hy
    refine ⟨fun m hm => ?_, fun j hj => ?_⟩
    · rcases hq m hm with z | z
      · exact y1 m z
      · omega
    · rw [cs.2.1] at hj
      rw [cs.2.2, em]
      exact y2 j hj
  · intro m hm
    rw [cs.2.1] at hc hn
    rw [cs.2.2] at hc
    rcases hq m hm with z | z
    · exact p6 hc hx hn m z
    · omega
theorem gh_snd {X : SS} {k n l : Nat} {a b c : Int32} : s_gh X 0 ≤ s_gh (send X k n l a b c) 0 := by
  have := (gle_send (S := X) (kind := k) (node := n) (len := l) (a := a) (b := b) (c := c)).1
  have e : s_gh (g_mk X 1 l) 0 = s_gh X 0 + 1 := gh_mk0
  omega
theorem PST_try (h : STI L S) (hb : s_gh (tryC (copyS S) i r 0) 0 ≤ 1000000) (hi : i < s_n S) (hr : r < 8) (hl : (s_ms S).length < 8000) : PST L (tryC (copyS S) i r 0) := by
  have hb' : s_gh (send (copyS S) 4 i 3 (s_nd (copyS S) i 6) (Int32.ofNat r) 0) 0 ≤ 1000000 := hb
  have g1 : s_gh (copyS S) 0 ≤ 1000000 := Nat.le_trans gh_snd hb'
  have b := PST_write (PST_copy h g1) (h.2.1.copy g1) (show oN S ≤ lgy L from h.2.2.2.2.1) hi hr hl hb'
  exact b.sam (SAM_sc (by decide)) (show Inv (u_sc _ 20 _) from b.2.1.1.sc (by decide)) (show Rest (u_sc _ 20 _) from b.2.1.2)
end STS
