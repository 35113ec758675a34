/-! WHAT HOLDS AT REST is kept by every call -/
set_option maxRecDepth 100000
/-- what holds of a simulation at rest -/
def LJ (S : SS) : Prop := Inv S ∧ Rest S ∧ GQ nv 0 S ∧ DN S
theorem LJ.li {S : SS} (h : LJ S) : LI S := ⟨h.1, h.2.1, h.2.2.1.1, fun m hm => h.2.2.1.2.2 m hm (fun hy => by
  have a := (h.1.2.2.2.2.1 m hm).2.2.2.1.1
  rw [hy] at a
  exact absurd a (by decide))⟩
section LJS
variable {S S' : SS}
theorem Rest_nd {i k : Nat} {v : Int32} (hR : Rest S) (h2 : k ≠ 2) (h5 : k ≠ 5) (h8 : k ≠ 8) : Rest (u_nd S i k v) := ⟨hR.1, hR.2.1, hR.2.2.1, fun j hj => by
  rw [nd_ne (Or.inr h2), nd_ne (Or.inr h5), nd_ne (Or.inr h8)]
  exact hR.2.2.2 j hj⟩
theorem GQ_nd {i k : Nat} {v : Int32} (h : GQ nv 0 S) : GQ nv 0 (u_nd S i k v) := h
theorem LJ.nd {i k : Nat} {v : Int32} (h : LJ S) (h2 : k ≠ 2) (h5 : k ≠ 5) (h8 : k ≠ 8) (h21 : k ≠ 21) (hN : i < s_n S → NI (fu (s_nd S i) k v)) : LJ (u_nd S i k v) := ⟨h.1.nd h21 hN, Rest_nd h.2.1 h2 h5 h8, GQ_nd h.2.2.1, h.2.2.2.up (D2_nd h2 h8)⟩
/-- the timer goes off -/
theorem LJ.off {i : Nat} (h : LJ S) : LJ (u_nd S i 8 (-4)) := by
  refine ⟨h.1.nd (by decide) (fun hi => (h.1.2.1 i hi).timer (Or.inl rfl)), ⟨h.2.1.1, h.2.1.2.1, h.2.1.2.2.1, fun j hj => ?_⟩, GQ_nd h.2.2.1, fun j hj h2 => ?_⟩
  · rw [nd_ne (Or.inr (by decide)), nd_ne (Or.inr (by decide))]
    intro h2 h5
    by_cases c : i = j
    · subst c
      exact Or.inl nd_at
    · rw [nd_ne (Or.inl c)]
      exact h.2.1.2.2.2 j hj h2 h5
  · rw [nd_ne (Or.inr (by decide))] at h2
    by_cases c : i = j
    · subst c
      exact nd_at
    · rw [nd_ne (Or.inl c)]
      exact h.2.2.2 j hj h2
theorem LJ.snd {k n l : Nat} {a b c : Int32} (h : LJ S) (hb : s_gh (send S k n l a b c) 0 ≤ 1000000) (hk : k < 9) (hk2 : 2 ≤ k) (hn : n < s_n S) (hr : 4 ≤ k ∧ k ≤ 7 → ∃ r : Nat, r < 8 ∧ b = Int32.ofNat r) (hc : nv c) : LJ (send S k n l a b c) :=
  ⟨Inv_send h.1 hb hk hn hr (fun hx => by omega) (fun hx => by omega), Rest_send h.1 h.2.1 hn, GQ_nx h.2.2.1 (NX_send h.2.2.1.1 hc), h.2.2.2.up D2_send⟩
theorem LJ.not {k : Nat} {n t : Int32} (h : LJ S) (hb : s_gh (note S k n t) 0 ≤ 1000000) : LJ (note S k n t) := by
  refine ⟨Inv_note h.1 hb, ?_, GQ_nx h.2.2.1 (NX_note h.2.2.1.1), h.2.2.2.up D2_note⟩
  have lk := LK_note (S := S) (k := k) (n := n) (t := t)
  have en := now_LK lk
  refine ⟨?_, ?_, ?_, ?_⟩
  · rw [en, ms_note2]; exact h.2.1.1
  · rw [en, lk.1]; exact h.2.1.2.1
  · rw [en, lk.2.1]; exact h.2.1.2.2.1
  · rw [en, cS_note.2.1, cS_note.2.2]; exact h.2.1.2.2.2
theorem LJ.mk {c k : Nat} (h : LJ S) (hb : s_gh (g_mk S c k) 0 ≤ 1000000) : LJ (g_mk S c k) := ⟨Inv_mk h.1 hb, h.2.1, h.2.2.1, h.2.2.2⟩
theorem LJ.acq {i : Nat} (h : LJ S) (hi : i < s_n S) (hu : s_nd S i 2 ≠ 0) (hb : s_gh (acquire S i) 0 ≤ 1000000) : LJ (acquire S i) := by
  have mx := MX_acquire h.1 hi
  have lk := LK_acquire (S := S) (i := i)
  have en := now_LK lk
  have w := h.1.2.2.2.1.1
  refine ⟨Inv_acquire h.1 hi hb, ⟨?_, ?_, ?_, ?_⟩, ?_, h.2.2.2.up (D2_acquire hu)⟩
  · rw [en]; exact mx.pl h.2.1.1
  · rw [en, lk.1]; exact h.2.1.2.1
  · rw [en, lk.2.1]; exact h.2.1.2.2.1
  · rw [en]
    intro j hj
    rw [acquire_eq, nd_ne (Or.inr (by decide)), nd_ne (Or.inr (by decide)), nd_ne (Or.inr (by decide)), nd_ne (Or.inr (by decide)), nd_ne (Or.inr (by decide)), cS_send.2.2]
    have hj' : j < s_n S := by
      have : s_n (acquire S i) = s_n S := (D2_acquire hu).1
      rw [this] at hj
      exact hj
    intro h2 h5
    by_cases c : i = j
    · subst c
      rw [nd_at]
      refine Or.inr ?_
      have k1 : ((1 : Int32)).toInt = 1 := by decide
      have w1 := w.1
      have w2 := w.2
      have e : (now S + 1).toInt = (now S).toInt + 1 := by rw [i_add (by omega) (by omega), k1]
      rw [mx_i, e]
      omega
    · rw [nd_ne (Or.inl c), cS_send.2.2]
      exact h.2.1.2.2.2 j hj' h2 h5
  · rw [acquire_eq]
    exact GQ_nd (GQ_nd (GQ_nx h.2.2.1 (NX_send h.2.2.1.1 nv0)))
theorem unab_up {i : Nat} (h : ¬ unab S i < 0) : s_nd S i 2 ≠ 0 := fun hy => h (by
  unfold unab
  rw [if_pos hy]
  decide)
theorem LJ.camp {i : Nat} (h : LJ S) (hi : i < s_n S) (hb : s_gh (campS S i).2 0 ≤ 1000000) : LJ (campS S i).2 := by
  unfold campS at hb ⊢
  by_cases c1 : unab S i < 0
  · rw [if_pos c1]; exact h
  rw [if_neg c1] at hb ⊢
  by_cases c2 : s_nd S i 3 = 0
  · rw [if_pos c2] at hb ⊢
    have h1 : LJ (u_nd S i 3 1) := h.nd (by decide) (by decide) (by decide) (by decide) (fun hi' => by
      obtain ⟨a1, a2, a3, a4, a5, a6⟩ := h.1.2.1 i hi'
      exact ⟨a1, a2, a3, a4, Or.inr rfl, a6⟩)
    exact h1.acq hi (by rw [nd_ne (Or.inr (by decide))]; exact unab_up c1) hb
  · rw [if_neg c2]; exact h
theorem LJ.los {i : Nat} (h : LJ S) : LJ (lose S i) := by
  unfold lose
  have h1 : LJ (u_nd S i 6 0) := h.nd (by decide) (by decide) (by decide) (by decide) (fun hi' => by
    obtain ⟨a1, a2, a3, a4, a5, a6, a7, a8, a9, a10, a11, a12⟩ := h.1.2.1 i hi'
    exact ⟨a1, a2, a3, a4, a5, a6, a7, a8, show (0 : Int) ≤ (0 : Int32).toInt from by decide, a10, fun hy => absurd rfl hy, a12⟩)
  exact h1.nd (by decide) (by decide) (by decide) (by decide) (fun hi' => h1.1.2.1 i hi')
theorem LJ.wit {i : Nat} (h : LJ S) (hi : i < s_n S) (hb : s_gh (withS S i).2 0 ≤ 1000000) : LJ (withS S i).2 := by
  unfold withS at hb ⊢
  by_cases c1 : unab S i < 0
  · rw [if_pos c1]; exact h
  rw [if_neg c1] at hb ⊢
  by_cases c2 : s_nd S i 3 = 0
  · rw [if_pos c2]; exact h
  rw [if_neg c2] at hb ⊢
  have h1 : LJ (u_nd S i 3 0) := h.nd (by decide) (by decide) (by decide) (by decide) (fun hi' => by
    obtain ⟨a1, a2, a3, a4, a5, a6⟩ := h.1.2.1 i hi'
    exact ⟨a1, a2, a3, a4, Or.inl rfl, a6⟩)
  have h2 : LJ (u_nd (u_nd S i 3 0) i 8 (-4)) := h1.off
  refine LJ.los ?_
  by_cases c3 : s_nd S i 6 ≤ 0
  · rw [if_pos c3]; exact h2
  · rw [if_neg c3] at hb ⊢
    exact h2.snd hb (by decide) (by decide) hi (fun hx => by omega) nv0
theorem LJ.cra {i : Nat} (h : LJ S) (hi : i < s_n S) (hb : s_gh (crashS S i).2 0 ≤ 1000000) : LJ (crashS S i).2 := by
  unfold crashS at hb ⊢
  by_cases c1 : s_nd S i 2 = 0
  · rw [if_pos c1]; exact h
  rw [if_neg c1] at hb ⊢
  have h1 : LJ (lose (note S 7 (Int32.ofNat i) (s_nd S i 6)) i) := (h.not (k := 7) (n := Int32.ofNat i) (t := s_nd S i 6) hb).los
  obtain ⟨S1, hS1⟩ : ∃ S1, lose (note S 7 (Int32.ofNat i) (s_nd S i 6)) i = S1 := ⟨_, rfl⟩
  have hi1 : i < s_n S1 := by
    rw [← hS1]
    show i < s_n (note S 7 (Int32.ofNat i) (s_nd S i 6))
    rw [cS_note.2.1]
    exact hi
  dsimp only at hb ⊢
  rw [hS1] at h1 ⊢
  clear hS1 hb
  -- down, no candidate, the timer off, no pause
  have N := h1.1.2.1 i hi1
  have e : ∀ j : Nat, j ≠ i → ∀ k : Nat, s_nd (u_nd (u_nd (u_nd (u_nd S1 i 2 0) i 3 0) i 8 (-4)) i 5 0) j k = s_nd S1 j k := fun j hj k => by
    rw [nd_ne (Or.inl (Ne.symm hj)), nd_ne (Or.inl (Ne.symm hj)), nd_ne (Or.inl (Ne.symm hj)), nd_ne (Or.inl (Ne.symm hj))]
  have f : s_nd (u_nd (u_nd (u_nd (u_nd S1 i 2 0) i 3 0) i 8 (-4)) i 5 0) i = fu (fu (fu (fu (s_nd S1 i) 2 0) 3 0) 8 (-4)) 5 0 := by
    rw [nd_at2, nd_at2, nd_at2, nd_at2]
  refine ⟨h1.1.of rfl rfl (fun j hj => ?_) (fun j => ?_) rfl (h1.1.2.2.2.1.up rfl rfl (fun _ _ => rfl) (Nat.le_refl _) h1.1.2.2.2.1.2.2.2.1) (Int.le_refl _) (fun m hm => Or.inl hm) h1.1.2.2.2.2.2.1 (fun o ho => ho) h1.1.2.2.2.2.2.2.2.2.1 (fun d hd => hd) h1.1.2.2.2.2.2.2.2.2.2.1 h1.1.2.2.2.2.2.2.2.2.2.2, ⟨h1.2.1.1, h1.2.1.2.1, h1.2.1.2.2.1, fun j hj => ?_⟩, h1.2.2.1, fun j hj => ?_⟩
  · by_cases c : j = i
    · subst c
      rw [f]
      obtain ⟨a1, a2, a3, a4, a5, a6, a7, a8, a9, a10, a11, a12⟩ := N
      exact ⟨a1, a2, a3, Or.inl rfl, Or.inl rfl, a6, ⟨show (0 : Int) ≤ (0 : Int32).toInt from by decide, show (0 : Int32).toInt ≤ 5020000 from by decide⟩, fun _ => rfl, a9, a10, a11, Or.inl rfl⟩
    · have : s_nd (u_nd (u_nd (u_nd (u_nd S1 i 2 0) i 3 0) i 8 (-4)) i 5 0) j = s_nd S1 j := funext (e j c)
      rw [this]
      exact h1.1.2.1 j hj
  · by_cases c : j = i
    · subst c
      rw [f]
      rfl
    · exact e j c 21
  · by_cases c : j = i
    · subst c
      rw [f]
      intro h2
      exact absurd h2 (show ¬ (0 : Int32) = 1 by decide)
    · rw [e j c, e j c, e j c]
      exact h1.2.1.2.2.2 j hj
  · by_cases c : j = i
    · subst c
      rw [f]
      intro _
      rfl
    · rw [e j c, e j c]
      exact h1.2.2.2 j hj
theorem LJ.res {i : Nat} (h : LJ S) (hi : i < s_n S) : LJ (restS S i).2 := by
  unfold restS
  dsimp only
  have N := h.1.2.1 i hi
  refine ⟨h.1.nd (by decide) (fun _ => ?_), ⟨h.2.1.1, h.2.1.2.1, h.2.1.2.2.1, fun j hj => ?_⟩, h.2.2.1, fun j hj => ?_⟩
  · obtain ⟨a1, a2, a3, a4, a5, a6, a7, a8, a9⟩ := N
    exact ⟨a1, a2, a3, Or.inr rfl, a5, a6, a7, fun hy => absurd hy (show ¬ (1 : Int32) = 0 by decide), a9⟩
  · by_cases c : i = j
    · subst c
      rw [nd_at, nd_ne (Or.inr (by decide)), nd_ne (Or.inr (by decide))]
      intro _ h5
      rcases N.2.2.2.1 with n2 | n2
      · exact Or.inl (h.2.2.2 i hi n2)
      · exact h.2.1.2.2.2 i hi n2 h5
    · rw [nd_ne (Or.inl c), nd_ne (Or.inl c), nd_ne (Or.inl c)]
      exact h.2.1.2.2.2 j hj
  · by_cases c : i = j
    · subst c
      rw [nd_at]
      intro hy
      exact absurd hy (by decide)
    · rw [nd_ne (Or.inl c), nd_ne (Or.inl c)]
      exact h.2.2.2 j hj
theorem LJ.pau {i : Nat} {ms : Int32} (h : LJ S) (hi : i < s_n S) (hm : iv ms 1 20000) : LJ (pauS S i ms).2 := by
  unfold pauS
  by_cases c1 : s_nd S i 2 = 0
  · rw [if_pos c1]; exact h
  rw [if_neg c1]
  dsimp only
  have N := h.1.2.1 i hi
  have w := h.1.2.2.2.1.1
  have w1 := w.1
  have w2 := w.2
  have m1 := hm.1
  have m2 := hm.2
  have n5 := N.2.2.2.2.2.2.1
  have e : (now S + ms).toInt = (now S).toInt + ms.toInt := i_add (by omega) (by omega)
  have e2 : (mx (s_nd S i 5) (now S + ms)).toInt = max (s_nd S i 5).toInt ((now S).toInt + ms.toInt) := by rw [mx_i, e]
  obtain ⟨y, hy⟩ : ∃ y, mx (s_nd S i 5) (now S + ms) = y := ⟨_, rfl⟩
  rw [hy] at e2 ⊢
  have n51 := n5.1
  have n52 := n5.2
  refine ⟨h.1.nd (by decide) (fun _ => ?_), ⟨h.2.1.1, h.2.1.2.1, h.2.1.2.2.1, fun j hj => ?_⟩, h.2.2.1, h.2.2.2.up (D2_nd (by decide) (by decide))⟩
  · obtain ⟨a1, a2, a3, a4, a5, a6, a7, a8, a9⟩ := N
    exact ⟨a1, a2, a3, a4, a5, a6, (show iv y 0 5020000 from ⟨by omega, by omega⟩), fun hy => absurd hy c1, a9⟩
  · by_cases c : i = j
    · subst c
      rw [nd_at, nd_ne (Or.inr (by decide)), nd_ne (Or.inr (by decide))]
      intro _ h5
      have h5' : y.toInt ≤ (now S).toInt := h5
      omega
    · rw [nd_ne (Or.inl c), nd_ne (Or.inl c), nd_ne (Or.inl c)]
      exact h.2.1.2.2.2 j hj
theorem LJ.cut_ {i : Nat} {v : Int32} (h : LJ S) (hv : v = 0 ∨ v = 1) : LJ (cutS S i v).2 := by
  unfold cutS
  exact h.nd (by decide) (by decide) (by decide) (by decide) (fun hi' => by
    obtain ⟨a1, a2, a3, a4, a5, a6, a7⟩ := h.1.2.1 i hi'
    exact ⟨a1, a2, a3, a4, a5, hv, a7⟩)
theorem LJ.rsv (h : LJ S) (hb : s_gh (rsvS S).2 0 ≤ 1000000) : LJ (rsvS S).2 := by
  unfold rsvS at hb ⊢
  dsimp only at hb ⊢
  have hs := h.1.srv
  have c0 := h.1.1.2.1
  have c3 := h.1.1.2.2.1
  have hs1 := hs.1
  have hs2 := hs.2
  have c01 := c0.1
  have c31 := c3.1
  have c32 := c3.2
  have e : (srvAt S + s_cf S 3).toInt = (srvAt S).toInt + (s_cf S 3).toInt := i_add (by omega) (by omega)
  obtain ⟨y, hy⟩ : ∃ y, srvAt S + s_cf S 3 = y := ⟨_, rfl⟩
  rw [hy] at hb e ⊢
  refine LJ.not ?_ hb
  obtain ⟨a1, a2, a3, a4, a5, a6, a7, a8, a9⟩ := h.1.2.2.2.1
  refine ⟨h.1.of rfl rfl (fun j hj => h.1.2.1 j hj) (fun j => rfl) rfl ?_ (Int.le_refl _) (fun m hm => Or.inl hm) h.1.2.2.2.2.2.1 (fun o ho => ho) h.1.2.2.2.2.2.2.2.2.1 (fun d hd => hd) h.1.2.2.2.2.2.2.2.2.2.1 h.1.2.2.2.2.2.2.2.2.2.2, h.2.1, h.2.2.1, h.2.2.2⟩
  exact ⟨a1, a2, a3, a4, a5, Or.inl rfl, a7, fun hx => absurd rfl hx, (show iv y 0 7000000 from ⟨by omega, by omega⟩)⟩
theorem nv_of {v : Int32} (hv : iv v 0 999999) : nv v := fun hy => by
  have := hv.1
  rw [hy] at this
  exact absurd this (by decide)
theorem LJ.wri {i r : Nat} {v : Int32} (h : LJ S) (hi : i < s_n S) (hr : r < 8) (hv : iv v 0 999999) (hb : s_gh (wrS S i r v).2 0 ≤ 1000000) : LJ (wrS S i r v).2 := by
  unfold wrS at hb ⊢
  by_cases c1 : unfi S i < 0
  · rw [if_pos c1]; exact h
  rw [if_neg c1] at hb ⊢
  exact h.snd hb (by decide) (by decide) hi (fun _ => ⟨r, hr, rfl⟩) (nv_of hv)
theorem LJ.fet {i r : Nat} (h : LJ S) (hi : i < s_n S) (hr : r < 8) (hb : s_gh (feS S i r).2 0 ≤ 1000000) : LJ (feS S i r).2 := by
  unfold feS at hb ⊢
  by_cases c1 : unfi S i < 0
  · rw [if_pos c1]; exact h
  rw [if_neg c1] at hb ⊢
  exact h.snd hb (by decide) (by decide) hi (fun _ => ⟨r, hr, rfl⟩) nv0
theorem LJ.sc {k : Nat} {v : Int32} (h : LJ S) (hk : k = 18 ∨ k = 19) : LJ (u_sc S k v) := by
  rcases hk with rfl | rfl
  · exact ⟨h.1.sc (by decide), h.2.1, ⟨h.2.2.1.1, h.2.2.1.2.1, h.2.2.1.2.2⟩, h.2.2.2⟩
  · exact ⟨h.1.sc (by decide), h.2.1, ⟨h.2.2.1.1, h.2.2.1.2.1, h.2.2.1.2.2⟩, h.2.2.2⟩
theorem LJ.rea {i r : Nat} (h : LJ S) : LJ (rdS S i r).2 := by
  unfold rdS
  split
  · exact h
  · split
    · exact h
    · dsimp only
      split
      · exact h.sc (Or.inl rfl)
      · exact (h.sc (Or.inl rfl)).sc (Or.inr rfl)
theorem LJ.out {i : Nat} {ms du : Int32} (h : LJ S) (hi : i < s_n S) (hm : iv ms 1 20000) (hd : iv du 1 20000) (hb : s_gh (ouS S i ms du).2 0 ≤ 1000000) : LJ (ouS S i ms du).2 := by
  unfold ouS at hb ⊢
  by_cases c1 : (s_ou S).length = 20
  · rw [if_pos c1]; exact h
  rw [if_neg c1] at hb ⊢
  dsimp only at hb ⊢
  have w := h.1.2.2.2.1.1
  have w1 := w.1
  have w2 := w.2
  have m1 := hm.1
  have m2 := hm.2
  have d1 := hd.1
  have d2 := hd.2
  have e : (now S + ms).toInt = (now S).toInt + ms.toInt := i_add (by omega) (by omega)
  have e2 : (now S + ms + du).toInt = (now S).toInt + ms.toInt + du.toInt := by rw [i_add (by omega) (by omega), e]
  obtain ⟨y, hy⟩ : ∃ y, now S + ms = y := ⟨_, rfl⟩
  rw [hy] at hb e e2 ⊢
  obtain ⟨z, hz⟩ : ∃ z, y + du = z := ⟨_, rfl⟩
  rw [hz] at hb e2 ⊢
  have h2 : LJ (g_add (g_mk S 1 3) 4 (s_ou S).length) := ⟨Inv_ga (Inv_mk h.1 (Nat.le_trans gle_add.1 hb)) (by decide) hb, h.2.1, h.2.2.1, h.2.2.2⟩
  obtain ⟨S1, hS1⟩ : ∃ S1, g_add (g_mk S 1 3) 4 (s_ou S).length = S1 := ⟨_, rfl⟩
  have en : now S1 = now S := by rw [← hS1]; rfl
  have eo : s_ou S1 = s_ou S := by rw [← hS1]; rfl
  have es : s_n S1 = s_n S := by rw [← hS1]; rfl
  rw [hS1] at h2 ⊢
  rw [← eo]
  have lo := h.1.2.2.2.2.2.2.2.2.1
  have OK : OI S1 (i, y, z) := ⟨by rw [es]; exact hi, ⟨by show 0 ≤ y.toInt; omega, by show y.toInt ≤ 5020000; omega⟩, ⟨by rw [en]; show (now S).toInt ≤ z.toInt; omega, by show z.toInt ≤ 5040000; omega⟩, by show y.toInt < z.toInt; omega⟩
  obtain ⟨b1, b2, b3, b4, b5, b6, b7, b8, b9, b10⟩ := h2.1
  refine ⟨⟨b1, b2, b3, b4, b5, b6, fun o ho => ?_, b8, ?_, b10⟩, ⟨h2.2.1.1, fun o ho => ?_, h2.2.1.2.2⟩, h2.2.2.1, h2.2.2.2⟩
  · rcases List.mem_append.mp ho with q | q
    · exact b7 o q
    · rw [List.mem_singleton.mp q]
      exact OK
  · show (s_ou S1 ++ [(i, y, z)]).length ≤ 20
    rw [len_app, eo]
    omega
  · rcases List.mem_append.mp ho with q | q
    · exact h2.2.1.2.1 o q
    · rw [List.mem_singleton.mp q]
      show (now S1).toInt < z.toInt
      rw [en]
      omega
theorem LJ.wla {i r : Nat} {v ms : Int32} (h : LJ S) (hi : i < s_n S) (hr : r < 8) (hv : iv v 0 999999) (hm : iv ms 1 20000) (hb : s_gh (wlS S i r v ms).2 0 ≤ 1000000) : LJ (wlS S i r v ms).2 := by
  unfold wlS at hb ⊢
  by_cases c0 : unfi S i < 0
  · rw [if_pos c0]; exact h
  rw [if_neg c0] at hb ⊢
  by_cases c1 : (s_dl S).length = 20
  · rw [if_pos c1]; exact h
  rw [if_neg c1] at hb ⊢
  dsimp only at hb ⊢
  have w := h.1.2.2.2.1.1
  have w1 := w.1
  have w2 := w.2
  have m1 := hm.1
  have m2 := hm.2
  have e : (now S + ms).toInt = (now S).toInt + ms.toInt := i_add (by omega) (by omega)
  obtain ⟨y, hy⟩ : ∃ y, now S + ms = y := ⟨_, rfl⟩
  rw [hy] at hb e ⊢
  have h2 : LJ (g_add (g_mk S 1 5) 3 (s_dl S).length) := ⟨Inv_ga (Inv_mk h.1 (Nat.le_trans gle_add.1 hb)) (by decide) hb, h.2.1, h.2.2.1, h.2.2.2⟩
  obtain ⟨S1, hS1⟩ : ∃ S1, g_add (g_mk S 1 5) 3 (s_dl S).length = S1 := ⟨_, rfl⟩
  have en : now S1 = now S := by rw [← hS1]; rfl
  have eo : s_dl S1 = s_dl S := by rw [← hS1]; rfl
  have es : s_n S1 = s_n S := by rw [← hS1]; rfl
  obtain ⟨tk, htk⟩ : ∃ tk, s_nd S i 6 = tk := ⟨_, rfl⟩
  rw [hS1] at h2 ⊢
  rw [← eo, htk]
  have lo := h.1.2.2.2.2.2.2.2.2.2.1
  have OK : DI S1 (i, tk, r, v, y) := ⟨by rw [es]; exact hi, hr, ⟨by rw [en]; show (now S).toInt ≤ y.toInt; omega, by show y.toInt ≤ 5020000; omega⟩⟩
  obtain ⟨b1, b2, b3, b4, b5, b6, b7, b8, b9, b10, b11⟩ := h2.1
  refine ⟨⟨b1, b2, b3, b4, b5, b6, b7, fun d hd => ?_, b9, ?_, b11⟩, ⟨h2.2.1.1, h2.2.1.2.1, fun d hd => ?_, h2.2.1.2.2.2⟩, ⟨⟨fun d hd => ?_, h2.2.2.1.1.2⟩, h2.2.2.1.2⟩, h2.2.2.2⟩
  · rcases List.mem_append.mp hd with q | q
    · exact b8 d q
    · rw [List.mem_singleton.mp q]
      exact OK
  · show (s_dl S1 ++ [(i, tk, r, v, y)]).length ≤ 20
    rw [len_app, eo]
    omega
  · rcases List.mem_append.mp hd with q | q
    · exact h2.2.1.2.2.1 d q
    · rw [List.mem_singleton.mp q]
      show (now S1).toInt < y.toInt
      rw [en]
      omega
  · rcases List.mem_append.mp hd with q | q
    · exact h2.2.2.1.1.1 d q
    · rw [List.mem_singleton.mp q]
      exact nv_of hv
end LJS
