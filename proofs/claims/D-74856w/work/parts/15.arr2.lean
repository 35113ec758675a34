/-! ARRAYS' PLACES, over PF -/
set_option maxRecDepth 100000
theorem cst_castable : ∀ ci, ci ≤ 25 → Cond.castable (rcl ci).1 "java/lang/Object" ∈ lw_tbl := by
  intro ci hci
  match ci, hci with
  | 0, _ => exact q2799
  | 1, _ => exact q2797
  | 2, _ => exact q2800
  | 3, _ => exact q2801
  | 4, _ => exact q2806
  | 5, _ => exact q2796
  | 6, _ => exact q2807
  | 7, _ => exact q2808
  | 8, _ => exact q2809
  | 9, _ => exact q2811
  | 10, _ => exact q2812
  | 11, _ => exact q2813
  | 12, _ => exact q2814
  | 13, _ => exact q2816
  | 14, _ => exact q2817
  | 15, _ => exact q2818
  | 16, _ => exact q2819
  | 17, _ => exact q2822
  | 18, _ => exact q2823
  | 19, _ => exact q2802
  | 20, _ => exact q2803
  | 21, _ => exact q2804
  | 22, _ => exact q2798
  | 23, _ => exact q2805
  | 24, _ => exact q2821
  | 25, _ => exact q2815
  | n + 26, h => omega
section JB
variable {Γ : GX} {I : MI} {D : va_G} {h0 : PH} {Q : State → Prop} {h : PH} {pc : Nat} {vs : List (Option Value)} {rest : List Value} {β : Type} {o : β}
theorem tys_at {E : PE} {t : Nat} {ty : FieldType} (h : tyT[t]? = some ty) : (tysOf E)[t]? = some (E.2.1 t, ty) := by
  match t, h with
  | 0, h => cases h; rfl
  | 1, h => cases h; rfl
  | 2, h => cases h; rfl
  | 3, h => cases h; rfl
  | 4, h => cases h; rfl
  | 5, h => cases h; rfl
  | 6, h => cases h; rfl
  | 7, h => cases h; rfl
  | n + 8, h => cases h
/-- an object of h: its cell and class -/
theorem j_recv {s : State} {H : Heap} {locs : List Loc} {a ci : Nat} {fs : List Value} (hWK : WK D h0.2.1 s s.heap) (B : Bd h0 h) (hM : WM D h H) (hS : va_S (pA h0.2.1) s.heap H locs) (he : h.1 a = some (.inr (ci, fs))) : ∃ cell : Cell, H[a]? = some cell ∧ cell.vm.isStatics = false ∧ s.vm.findClass (rcl ci).1 = some cell.cls := by
  by_cases hb : pbase h ≤ a
  · have hP := hM.one hb he
    obtain ⟨q', h1, -⟩ := id (hP 0 _ rfl)
    obtain ⟨cell, g1, g2, g3⟩ := va_recv hWK.1 hP h1 (show [(a, (Sum.inr (ci, fs) : va_E))][0]? = some (a, .inr (ci, fs)) from rfl)
    refine ⟨cell, g1, g2, ?_⟩
    rw [← g3]
    have h1' : clA[ci]? = some q' := h1
    unfold rcl
    rw [h1']
  · have h1 := hM.cst hb he
    have h2 : h0.2.1.2.2.2 a = some (.inr (ci, fs)) := by rw [← B.1]; exact h1
    obtain ⟨cell, g1, g2, g3, -⟩ := (hWK.2.2.1 a _ h2).1.kept hS.2.1
    exact ⟨cell, g1, g2, g3⟩
theorem aI_in {t : Nat} {r : Option Nat} {i : Int32} {K : Int32 → Option β} (hf : aI h r t i K = some o) : ∃ (a n : Nat) (f : Nat → Int32), r = some a ∧ h.1 a = some (.inl (h.2.1.2.1 t, n, .inl f)) ∧ inR i n ∧ pbase h ≤ a ∧ K (f i.toNatClampNeg) = some o := by
  obtain ⟨a, n, x, rfl, he, hf⟩ := cR_in hf
  match x, he, hf with
  | .inl f, he, hf => exact ⟨a, n, f, rfl, he, (if_none hf).1.1, (if_none hf).1.2, (if_none hf).2⟩
  | .inr _, _, hf => cases hf
theorem aB_in {r : Option Nat} {i : Int32} {K : Int32 → Option β} (hf : aB h r i K = some o) : ∃ (a n : Nat) (f : Nat → Int32), r = some a ∧ h.1 a = some (.inl (h.2.1.2.1 1, n, .inl f)) ∧ inR i n ∧ K (f i.toNatClampNeg) = some o := by
  obtain ⟨a, n, x, rfl, he, hf⟩ := cR_in hf
  match x, he, hf with
  | .inl f, he, hf => exact ⟨a, n, f, rfl, he, (if_none hf).1, (if_none hf).2⟩
  | .inr _, _, hf => cases hf
theorem aL_in {t : Nat} {r : Option Nat} {i : Int32} {K : Int64 → Option β} (hf : aL h r t i K = some o) : ∃ (a n : Nat) (f : Nat → Int64), r = some a ∧ h.1 a = some (.inl (h.2.1.2.1 t, n, .inr (.inl f))) ∧ inR i n ∧ pbase h ≤ a ∧ K (f i.toNatClampNeg) = some o := by
  obtain ⟨a, n, x, rfl, he, hf⟩ := cR_in hf
  match x, he, hf with
  | .inr (.inl f), he, hf => exact ⟨a, n, f, rfl, he, (if_none hf).1.1, (if_none hf).1.2, (if_none hf).2⟩
  | .inl _, _, hf => cases hf
  | .inr (.inr _), _, hf => cases hf
theorem aQ_in {t : Nat} {r : Option Nat} {i : Int32} {K : Option Nat → Option β} (hf : aQ h r t i K = some o) : ∃ (a n : Nat) (f : Nat → Option Nat), r = some a ∧ h.1 a = some (.inl (h.2.1.2.1 t, n, .inr (.inr (.inr (.inr f))))) ∧ inR i n ∧ pbase h ≤ a ∧ K (f i.toNatClampNeg) = some o := by
  obtain ⟨a, n, x, rfl, he, hf⟩ := cR_in hf
  match x, he, hf with
  | .inr (.inr (.inr (.inr f))), he, hf => exact ⟨a, n, f, rfl, he, (if_none hf).1.1, (if_none hf).1.2, (if_none hf).2⟩
  | .inl _, _, hf => cases hf
  | .inr (.inl _), _, hf => cases hf
  | .inr (.inr (.inl _)), _, hf => cases hf
  | .inr (.inr (.inr (.inl _))), _, hf => cases hf
theorem sI_in {t : Nat} {r : Option Nat} {i x : Int32} {K : PH → Option β} (hf : sI h r t i x K = some o) : ∃ (a n : Nat) (f : Nat → Int32), r = some a ∧ h.1 a = some (.inl (h.2.1.2.1 t, n, .inl f)) ∧ inR i n ∧ pbase h ≤ a ∧ K (p_set h a (.inl (h.2.1.2.1 t, n, .inl (upd f i.toNatClampNeg x)))) = some o := by
  obtain ⟨a, n, x, rfl, he, hf⟩ := cR_in hf
  match x, he, hf with
  | .inl f, he, hf => exact ⟨a, n, f, rfl, he, (if_none hf).1.1, (if_none hf).1.2, (if_none hf).2⟩
  | .inr _, _, hf => cases hf
theorem sL_in {t : Nat} {r : Option Nat} {i : Int32} {x : Int64} {K : PH → Option β} (hf : sL h r t i x K = some o) : ∃ (a n : Nat) (f : Nat → Int64), r = some a ∧ h.1 a = some (.inl (h.2.1.2.1 t, n, .inr (.inl f))) ∧ inR i n ∧ pbase h ≤ a ∧ K (p_set h a (.inl (h.2.1.2.1 t, n, .inr (.inl (vp_updL f i.toNatClampNeg x))))) = some o := by
  obtain ⟨a, n, x, rfl, he, hf⟩ := cR_in hf
  match x, he, hf with
  | .inr (.inl f), he, hf => exact ⟨a, n, f, rfl, he, (if_none hf).1.1, (if_none hf).1.2, (if_none hf).2⟩
  | .inl _, _, hf => cases hf
  | .inr (.inr _), _, hf => cases hf
theorem j_iald {r : Option Nat} {i : Int32} {K : Int32 → Option β} (hd : decode I.1 pc = .ok (.iaload, 1)) (hf : aI h r 0 i K = some o) (kk : ∀ x : Int32, K x = some o → PF Γ I D h0 Q h (pc + 1) vs (.int x :: rest)) : PF Γ I D h0 Q h pc vs (.int i :: va_rf r :: rest) := by
  obtain ⟨a, n, f, rfl, he, hi, hb, hf⟩ := aI_in hf
  obtain ⟨p, l, e, R, s, m, args, below, meth, c⟩ := Γ
  intro X B ls hl H locs hM hz hS
  obtain ⟨cc, nL, own, rt, xt, fr, lo, nm⟩ := I
  have hWK := X.2.2.2.2.2.2.2.2.2.2.2.2.1
  exact va_iald X.1 X.2.1 hWK.1 (hM.one hb he) 0 0 rfl (by rw [B.1]; rfl) hi hd (kk _ hf X B ls hl H locs hM hz hS)
theorem j_zald {r : Option Nat} {i : Int32} {K : Int32 → Option β} (hd : decode I.1 pc = .ok (.baload, 1)) (hf : aI h r 3 i K = some o) (kk : ∀ x : Int32, K x = some o → PF Γ I D h0 Q h (pc + 1) vs (.int x :: rest)) : PF Γ I D h0 Q h pc vs (.int i :: va_rf r :: rest) := by
  obtain ⟨a, n, f, rfl, he, hi, hb, hf⟩ := aI_in hf
  obtain ⟨p, l, e, R, s, m, args, below, meth, c⟩ := Γ
  intro X B ls hl H locs hM hz hS
  obtain ⟨cc, nL, own, rt, xt, fr, lo, nm⟩ := I
  have hWK := X.2.2.2.2.2.2.2.2.2.2.2.2.1
  exact va_zald X.1 X.2.1 hWK.1 (hM.one hb he) 0 3 rfl (by rw [B.1]; rfl) hi hd (kk _ hf X B ls hl H locs hM hz hS)
theorem j_bald {r : Option Nat} {i : Int32} {K : Int32 → Option β} (hd : decode I.1 pc = .ok (.baload, 1)) (hf : aB h r i K = some o) (kk : ∀ x : Int32, K x = some o → PF Γ I D h0 Q h (pc + 1) vs (.int x :: rest)) : PF Γ I D h0 Q h pc vs (.int i :: va_rf r :: rest) := by
  obtain ⟨a, n, f, rfl, he, hi, hf⟩ := aB_in hf
  obtain ⟨p, l, e, R, s, m, args, below, meth, c⟩ := Γ
  intro X B ls hl H locs hM hz hS
  obtain ⟨cc, nL, own, rt, xt, fr, lo, nm⟩ := I
  have hWK := X.2.2.2.2.2.2.2.2.2.2.2.2.1
  by_cases hb : pbase h ≤ a
  · exact va_bald X.1 X.2.1 hWK.1 (hM.one hb he) 0 1 rfl (by rw [B.1]; rfl) hi hd (kk _ hf X B ls hl H locs hM hz hS)
  · have h1 := hM.cst hb he
    have h2 : h0.2.1.2.2.2 a = some (.inl (h.2.1.2.1 1, n, .inl f)) := by rw [← B.1]; exact h1
    obtain ⟨g1, g2 | g2⟩ := hWK.2.2.1 a _ h2
    · exact va_tb X.1 X.2.1 g2.2 hS hi rfl hd (kk _ hf X B ls hl H locs hM hz hS)
    · rw [B.1] at g2
      exact absurd g2.1.symm g1
theorem j_lald {r : Option Nat} {i : Int32} {K : Int64 → Option β} (hd : decode I.1 pc = .ok (.laload, 1)) (hf : aL h r 2 i K = some o) (kk : ∀ x : Int64, K x = some o → PF Γ I D h0 Q h (pc + 1) vs (.long x :: rest)) : PF Γ I D h0 Q h pc vs (.int i :: va_rf r :: rest) := by
  obtain ⟨a, n, f, rfl, he, hi, hb, hf⟩ := aL_in hf
  obtain ⟨p, l, e, R, s, m, args, below, meth, c⟩ := Γ
  intro X B ls hl H locs hM hz hS
  obtain ⟨cc, nL, own, rt, xt, fr, lo, nm⟩ := I
  have hWK := X.2.2.2.2.2.2.2.2.2.2.2.2.1
  exact va_lald X.1 X.2.1 hWK.1 (hM.one hb he) 0 2 rfl (by rw [B.1]; rfl) hi hd (kk _ hf X B ls hl H locs hM hz hS)
theorem j_aald {t : Nat} {C : String} {r : Option Nat} {i : Int32} {K : Option Nat → Option β} (ht : tyT[t]? = some (.object C)) (hd : decode I.1 pc = .ok (.aaload, 1)) (hf : aQ h r t i K = some o) (kk : ∀ x : Option Nat, K x = some o → PF Γ I D h0 Q h (pc + 1) vs (va_rf x :: rest)) : PF Γ I D h0 Q h pc vs (.int i :: va_rf r :: rest) := by
  obtain ⟨a, n, f, rfl, he, hi, hb, hf⟩ := aQ_in hf
  obtain ⟨p, l, e, R, s, m, args, below, meth, c⟩ := Γ
  intro X B ls hl H locs hM hz hS
  obtain ⟨cc, nL, own, rt, xt, fr, lo, nm⟩ := I
  have hWK := X.2.2.2.2.2.2.2.2.2.2.2.2.1
  exact va_aldq X.1 X.2.1 hWK.1 (hM.one hb he) 0 t rfl (by rw [B.1]; exact tys_at ht) hi hd (kk _ hf X B ls hl H locs hM hz hS)
theorem j_alen {t : Nat} {ty : FieldType} {r : Option Nat} {K : Int32 → Option β} (ht : tyT[t]? = some ty) (hd : decode I.1 pc = .ok (.arraylength, 1)) (hf : aN h r t K = some o) (kk : ∀ x : Int32, K x = some o → PF Γ I D h0 Q h (pc + 1) vs (.int x :: rest)) : PF Γ I D h0 Q h pc vs (va_rf r :: rest) := by
  obtain ⟨a, n, x, rfl, he, hf⟩ := cR_in hf
  obtain ⟨p, l, e, R, s, m, args, below, meth, c⟩ := Γ
  intro X B ls hl H locs hM hz hS
  obtain ⟨cc, nL, own, rt, xt, fr, lo, nm⟩ := I
  have hWK := X.2.2.2.2.2.2.2.2.2.2.2.2.1
  by_cases hb : pbase h ≤ a
  · exact va_alen X.1 X.2.1 hWK.1 (hM.one hb he) 0 t rfl (by rw [B.1]; exact tys_at ht) rfl hd (kk _ hf X B ls hl H locs hM hz hS)
  · have h1 := hM.cst hb he
    have h2 : h0.2.1.2.2.2 a = some (.inl (h.2.1.2.1 t, n, x)) := by rw [← B.1]; exact h1
    have h3 := hWK.2.2.1 a _ h2
    match x, h3 with
    | .inl f, h3 =>
      rcases h3.2 with h3 | h3
      · exact va_tlen X.1 X.2.1 h3.2 hS rfl hd (kk _ hf X B ls hl H locs hM hz hS)
      · exact va_tlen X.1 X.2.1 h3.2 hS rfl hd (kk _ hf X B ls hl H locs hM hz hS)
theorem j_iast {r : Option Nat} {i x : Int32} {K : PH → Option β} (hd : decode I.1 pc = .ok (.iastore, 1)) (hf : sI h r 0 i x K = some o) (kk : ∀ h1 : PH, K h1 = some o → PF Γ I D h0 Q h1 (pc + 1) vs rest) : PF Γ I D h0 Q h pc vs (.int x :: .int i :: va_rf r :: rest) := by
  obtain ⟨a, n, f, rfl, he, hi, hb, hf⟩ := sI_in hf
  obtain ⟨p, l, e, R, s, m, args, below, meth, c⟩ := Γ
  intro X B ls hl H locs hM hz hS
  have X0 := X
  obtain ⟨cc, nL, own, rt, xt, fr, lo, nm⟩ := I
  have hWK := X.2.2.2.2.2.2.2.2.2.2.2.2.1
  obtain ⟨h1, h2, h3, ws, hP, hDD, hw⟩ := id hM
  obtain ⟨q0, hq⟩ := hw.1 a _ hb he
  have hA9 : pA h.2.1 = pA h0.2.1 := by rw [B.1]
  exact vm_iast X.1 X.2.1 hWK.1 hP (hA9 ▸ hDD) hS.self q0 0 hq (by rw [B.1]; rfl) hi hd (fun H1 locs1 hP1 hD1 hS1 hK9 => j_wrote X0 B hl hM hz hS hw hDD hq hP1 hS1 hK9 (kk _ hf))
theorem j_bast {r : Option Nat} {i x : Int32} {K : PH → Option β} (hd : decode I.1 pc = .ok (.bastore, 1)) (hf : sI h r 1 i (vp_nar .byte x) K = some o) (kk : ∀ h1 : PH, K h1 = some o → PF Γ I D h0 Q h1 (pc + 1) vs rest) : PF Γ I D h0 Q h pc vs (.int x :: .int i :: va_rf r :: rest) := by
  obtain ⟨a, n, f, rfl, he, hi, hb, hf⟩ := sI_in hf
  obtain ⟨p, l, e, R, s, m, args, below, meth, c⟩ := Γ
  intro X B ls hl H locs hM hz hS
  have X0 := X
  obtain ⟨cc, nL, own, rt, xt, fr, lo, nm⟩ := I
  have hWK := X.2.2.2.2.2.2.2.2.2.2.2.2.1
  obtain ⟨h1, h2, h3, ws, hP, hDD, hw⟩ := id hM
  obtain ⟨q0, hq⟩ := hw.1 a _ hb he
  have hA9 : pA h.2.1 = pA h0.2.1 := by rw [B.1]
  exact vm_bast X.1 X.2.1 hWK.1 hP (hA9 ▸ hDD) hS.self q0 1 hq (by rw [B.1]; rfl) hi hd (fun H1 locs1 hP1 hD1 hS1 hK9 => j_wrote X0 B hl hM hz hS hw hDD hq hP1 hS1 hK9 (kk _ hf))
theorem j_zast {r : Option Nat} {i x : Int32} {K : PH → Option β} (hd : decode I.1 pc = .ok (.bastore, 1)) (hf : sI h r 3 i (vp_nar .boolean x) K = some o) (kk : ∀ h1 : PH, K h1 = some o → PF Γ I D h0 Q h1 (pc + 1) vs rest) : PF Γ I D h0 Q h pc vs (.int x :: .int i :: va_rf r :: rest) := by
  obtain ⟨a, n, f, rfl, he, hi, hb, hf⟩ := sI_in hf
  obtain ⟨p, l, e, R, s, m, args, below, meth, c⟩ := Γ
  intro X B ls hl H locs hM hz hS
  have X0 := X
  obtain ⟨cc, nL, own, rt, xt, fr, lo, nm⟩ := I
  have hWK := X.2.2.2.2.2.2.2.2.2.2.2.2.1
  obtain ⟨h1, h2, h3, ws, hP, hDD, hw⟩ := id hM
  obtain ⟨q0, hq⟩ := hw.1 a _ hb he
  have hA9 : pA h.2.1 = pA h0.2.1 := by rw [B.1]
  exact vm_zast X.1 X.2.1 hWK.1 hP (hA9 ▸ hDD) hS.self q0 3 hq (by rw [B.1]; rfl) hi hd (fun H1 locs1 hP1 hD1 hS1 hK9 => j_wrote X0 B hl hM hz hS hw hDD hq hP1 hS1 hK9 (kk _ hf))
theorem j_last {r : Option Nat} {i : Int32} {x : Int64} {K : PH → Option β} (hd : decode I.1 pc = .ok (.lastore, 1)) (hf : sL h r 2 i x K = some o) (kk : ∀ h1 : PH, K h1 = some o → PF Γ I D h0 Q h1 (pc + 1) vs rest) : PF Γ I D h0 Q h pc vs (.long x :: .int i :: va_rf r :: rest) := by
  obtain ⟨a, n, f, rfl, he, hi, hb, hf⟩ := sL_in hf
  obtain ⟨p, l, e, R, s, m, args, below, meth, c⟩ := Γ
  intro X B ls hl H locs hM hz hS
  have X0 := X
  obtain ⟨cc, nL, own, rt, xt, fr, lo, nm⟩ := I
  have hWK := X.2.2.2.2.2.2.2.2.2.2.2.2.1
  obtain ⟨h1, h2, h3, ws, hP, hDD, hw⟩ := id hM
  obtain ⟨q0, hq⟩ := hw.1 a _ hb he
  have hA9 : pA h.2.1 = pA h0.2.1 := by rw [B.1]
  exact vm_last X.1 X.2.1 hWK.1 hP (hA9 ▸ hDD) hS.self q0 2 hq (by rw [B.1]; rfl) hi hd (fun H1 locs1 hP1 hD1 hS1 hK9 => j_wrote X0 B hl hM hz hS hw hDD hq hP1 hS1 hK9 (kk _ hf))
end JB
