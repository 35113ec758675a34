/-! REFERENCES' STORES, NEW ROWS OF REFERENCES, CASTS, STATICS, TEXTS, over PF -/
set_option maxRecDepth 100000
/-- a cast to the class ci, or null -/
def kC {β : Type} (h : PH) (r : Option Nat) (ci : Nat) (K : Option β) : Option β := match r with
  | none => K
  | some a => match h.1 a with
    | some (.inr (c, _)) => if c = ci then K else none
    | _ => none
theorem kC_in {β : Type} {h : PH} {r : Option Nat} {ci : Nat} {K : Option β} {o : β} (hf : kC h r ci K = some o) : K = some o ∧ (r = none ∨ ∃ (a : Nat) (fs : List Value), r = some a ∧ h.1 a = some (.inr (ci, fs))) := by
  cases r with
  | none => exact ⟨hf, Or.inl rfl⟩
  | some a =>
    cases he : h.1 a with
    | none => simp [kC, he] at hf
    | some e =>
      cases e with
      | inl _ => simp [kC, he] at hf
      | inr q =>
        obtain ⟨c, fs⟩ := q
        simp only [kC, he] at hf
        obtain ⟨h2, h3⟩ := if_none hf
        subst h2
        exact ⟨h3, Or.inr ⟨a, fs, rfl, he⟩⟩
section JC
variable {Γ : GX} {I : MI} {D : va_G} {h0 : PH} {Q : State → Prop} {h : PH} {pc : Nat} {vs : List (Option Value)} {rest : List Value} {β : Type} {o : β}
theorem sQ_in {t : Nat} {r : Option Nat} {i : Int32} {v : Option Nat} {K : PH → Option β} (hf : sQ h r t i v K = some o) : ∃ (a n : Nat) (f : Nat → Option Nat), r = some a ∧ h.1 a = some (.inl (h.2.1.2.1 t, n, .inr (.inr (.inr (.inr f))))) ∧ inR i n ∧ pbase h ≤ a ∧ (v = none ∨ ∃ (b ci : Nat) (fs : List Value), v = some b ∧ h.1 b = some (.inr (ci, fs)) ∧ okQ t ci = true ∧ ci ≤ 25) ∧ K (p_set h a (.inl (h.2.1.2.1 t, n, .inr (.inr (.inr (.inr (va_up f i.toNatClampNeg v))))))) = some o := by
  obtain ⟨a, n, x, rfl, he, hf⟩ := cR_in hf
  match x, he, hf with
  | .inr (.inr (.inr (.inr f))), he, hf =>
    obtain ⟨hi, hf⟩ := if_none hf
    cases v with
    | none => exact ⟨a, n, f, rfl, he, hi.1, hi.2, Or.inl rfl, hf⟩
    | some b =>
      cases hb : h.1 b with
      | none => simp [hb] at hf
      | some e =>
        cases e with
        | inl _ => simp [hb] at hf
        | inr q =>
          obtain ⟨ci, fs⟩ := q
          simp only [hb] at hf
          obtain ⟨hc, h3⟩ := if_none hf
          exact ⟨a, n, f, rfl, he, hi.1, hi.2, Or.inr ⟨b, ci, fs, rfl, hb, hc.1, hc.2⟩, h3⟩
  | .inl _, _, hf => cases hf
  | .inr (.inl _), _, hf => cases hf
  | .inr (.inr (.inl _)), _, hf => cases hf
  | .inr (.inr (.inr (.inl _))), _, hf => cases hf
/-- of a class that may stand in the array -/
theorem j_any {s : State} {H : Heap} {locs : List Loc} {a ci t : Nat} {fs : List Value} {E : String} (hWK : WK D h0.2.1 s s.heap) (B : Bd h0 h) (hM : WM D h H) (hS : va_S (pA h0.2.1) s.heap H locs) (he : h.1 a = some (.inr (ci, fs))) (ht : tyT[t]? = some (.object E)) (hk : okQ t ci = true) (hci : ci ≤ 25) : va_Any E s H a := by
  obtain ⟨cell, g1, g2, g3⟩ := j_recv hWK B hM hS he
  obtain ⟨kC, hkC, -⟩ := Vm.findClass_spec g3
  refine ⟨cell, g1, g2, ⟨kC, hkC⟩, fun comp hcomp => ?_⟩
  have hsame : ∀ q : vw_C, clA[ci]? = some q → E = q.1 → s.vm.assignable cell.cls comp = true := fun q hq hE => by
    have h1 := (hWK.1.1 ci q hq).2
    have e1 : (rcl ci).1 = q.1 := by unfold rcl; rw [hq]
    rw [e1] at g3
    rw [hE] at hcomp
    have e2 := Option.some.inj (h1.1.symm.trans g3)
    have e3 := Option.some.inj (h1.1.symm.trans hcomp)
    rw [← e2, ← e3]
    exact va_assign h1
  match t, ht, hk with
  | 4, ht, _ =>
    cases ht
    obtain ⟨c1, c2, e1, e2, e3⟩ := Cond.castable_spec (va_Nw.use (A := #[]) rfl (hWK.2.1 _ (cst_castable ci hci) rfl))
    cases Option.some.inj (e1.symm.trans g3)
    cases Option.some.inj (e2.symm.trans hcomp)
    exact e3
  | 5, ht, hk => cases ht; have e9 : ci = 5 := by simpa [okQ] using hk
                 subst e9; exact hsame _ rfl rfl
  | 6, ht, hk => cases ht; have e9 : ci = 1 := by simpa [okQ] using hk
                 subst e9; exact hsame _ rfl rfl
  | 7, ht, hk => cases ht; have e9 : ci = 22 := by simpa [okQ] using hk
                 subst e9; exact hsame _ rfl rfl
  | 0, ht, _ => cases ht
  | 1, ht, _ => cases ht
  | 2, ht, _ => cases ht
  | 3, ht, _ => cases ht
  | n + 8, ht, _ => cases ht
theorem j_aast {t : Nat} {C : String} {r v : Option Nat} {i : Int32} {K : PH → Option β} (ht : tyT[t]? = some (.object C)) (hd : decode I.1 pc = .ok (.aastore, 1)) (hf : sQ h r t i v K = some o) (kk : ∀ h1 : PH, K h1 = some o → PF Γ I D h0 Q h1 (pc + 1) vs rest) : PF Γ I D h0 Q h pc vs (va_rf v :: .int i :: va_rf r :: rest) := by
  obtain ⟨a, n, f, rfl, he, hi, hb, hv, hf⟩ := sQ_in hf
  obtain ⟨p, l, e, R, s, m, args, below, meth, c⟩ := Γ
  intro X B ls hl H locs hM hz hS
  have X0 := X
  obtain ⟨cc, nL, own, rt, xt, fr, lo, nm⟩ := I
  have hWK := X.2.2.2.2.2.2.2.2.2.2.2.2.1
  obtain ⟨h1, h2, h3, ws, hP, hDD, hw⟩ := id hM
  obtain ⟨q0, hq⟩ := hw.1 a _ hb he
  have hA9 : pA h.2.1 = pA h0.2.1 := by rw [B.1]
  rcases hv with rfl | ⟨b, ci, fs, rfl, hbb, hok, hci⟩
  · exact vm_astqN X.1 X.2.1 hWK.1 hP (hA9 ▸ hDD) hS.self q0 t hq (by rw [B.1]; exact tys_at ht) hi hd (fun H1 locs1 hP1 hD1 hS1 hK9 => j_wrote X0 B hl hM hz hS hw hDD hq hP1 hS1 hK9 (kk _ hf))
  · exact vm_astqM X.1 X.2.1 hWK.1 hP (hA9 ▸ hDD) hS.self q0 t hq (by rw [B.1]; exact tys_at ht) (j_any hWK B hM hS hbb ht hok hci) hi hd (fun H1 locs1 hP1 hD1 hS1 hK9 => j_wrote X0 B hl hM hz hS hw hDD hq hP1 hS1 hK9 (kk _ hf))
abbrev aNul : AX := .inr (.inr (.inr (.inr fun _ => none)))
theorem j_nQ {t index : Nat} {C : String} {n : Int32} {K : Nat → PH → Option β} (ht : tyT[t]? = some (.object C)) (hcl : Cond.classLink I.2.2.1 index C ∈ lw_all) (hao : Cond.arrayOver (.object C) ∈ lw_tbl) (hd : decode I.1 pc = .ok (.anewarray index, 3)) (hf : nA h t n aNul K = some o)
    (kk : ∀ (a : Nat) (h1 : PH), K a h1 = some o → PF Γ I D h0 Q h1 (pc + 3) vs (va_rf (some a) :: rest)) : PF Γ I D h0 Q h pc vs (.int n :: rest) := by
  obtain ⟨hb, hf⟩ := if_none hf
  obtain ⟨p, l, e, R, s, m, args, below, meth, c⟩ := Γ
  intro X B ls hl H locs hM hz hS
  have X0 := X
  obtain ⟨cc, nL, own, rt, xt, fr, lo, nm⟩ := I
  have hWK := X.2.2.2.2.2.2.2.2.2.2.2.2.1
  have hRc : R.cells = pcl h0 := X.2.2.2.2.2.2.2.2.2.2.1
  have hRs : R.slots = psl h0 := X.2.2.2.2.2.2.2.2.2.2.2.1
  obtain ⟨h1, h2, h3, ws, hP, hDD, hw⟩ := id hM
  have hDD0 : va_D (pA h0.2.1) ws := by rw [← B.1]; exact hDD
  have hb2 := B.2.1
  have hb3 := B.2.2.1
  have hb4 := B.2.2.2
  have hbase : pbase h ≤ H.size := by rw [h1]; exact h2
  refine vm_newq X.1 X.2.1 X.2.2.2.1 (X.2.2.2.2.1 _ hcl) (hWK.2.1 _ hao rfl) hWK.1 hP hDD0 hS.self (fun q hq => ?_) (N' := n.toNatClampNeg) hb.1 rfl (by omega) ?_ ?_ hd (fun q cA H1 hK1 hP1 hD1 hS1 hK9 => ?_)
  · show h0.2.1.2.2.1 ≤ q
    rw [← B.1]
    exact Nat.le_trans hbase hq
  · have := hb.2.2.1
    simp only [pn, pcl] at *
    omega
  · have := hb.2.2.2
    simp only [psl] at *
    omega
  · have e1 : (tysOf h0.2.1 ++ [(cA, .object C)])[(tysOf h0.2.1).length]? = some (cA, .object C) := by simp
    obtain ⟨-, -, -, -, -, e2⟩ := (hK1.2 _ _ e1).2
    obtain ⟨-, -, -, -, -, e3⟩ := (hWK.1.2 _ _ (tys_at (E := h0.2.1) ht)).2
    have e4 : cA = h.2.1.2.1 t := by
      rw [B.1]
      exact Option.some.inj (e2.symm.trans e3)
    subst e4
    have hA9 : pA h.2.1 = pA h0.2.1 := by rw [B.1]
    exact j_grew X0 B hl hM hz hS hw hP1 (by rw [hA9]; exact hD1) hS1 hK9 hb.2.2.1 hb.2.2.2 (kk _ _ hf)
/-- a cast to the object's own class -/
theorem j_kC {C : String} {T : u_T} {N ci index : Nat} {r : Option Nat} {K : Option β} (hc : clA[ci]? = some (C, T, N)) (hlink : Cond.classLink I.2.2.1 index C ∈ lw_all) (hd : decode I.1 pc = .ok (.checkcast index, 3)) (hf : kC h r ci K = some o) (kk : K = some o → PF Γ I D h0 Q h (pc + 3) vs (va_rf r :: rest)) : PF Γ I D h0 Q h pc vs (va_rf r :: rest) := by
  obtain ⟨hf2, hr⟩ := kC_in hf
  obtain ⟨p, l, e, R, s, m, args, below, meth, c⟩ := Γ
  intro X B ls hl H locs hM hz hS
  obtain ⟨cc, nL, own, rt, xt, fr, lo, nm⟩ := I
  have hWK := X.2.2.2.2.2.2.2.2.2.2.2.2.1
  rcases hr with rfl | ⟨a, fs, rfl, he⟩
  · exact lv_castN X.1 X.2.1 hd (kk hf2 X B ls hl H locs hM hz hS)
  · have h1 := j_recv hWK B hM hS he
    have e1 : (rcl ci).1 = C := by unfold rcl; rw [hc]
    rw [e1] at h1
    exact va_castS X.1 X.2.1 X.2.2.2.1 (X.2.2.2.2.1 _ hlink) (hWK.1.1 ci _ hc).2 h1 hd (kk hf2 X B ls hl H locs hM hz hS)
/-- a cast to another class by the tables -/
theorem j_kY {nm9 : String} {ci index : Nat} {r : Option Nat} {K : Option β} (hca : Cond.castable (rcl ci).1 nm9 ∈ lw_tbl) (hlink : Cond.classLink I.2.2.1 index nm9 ∈ lw_all) (hd : decode I.1 pc = .ok (.checkcast index, 3)) (hf : kC h r ci K = some o) (kk : K = some o → PF Γ I D h0 Q h (pc + 3) vs (va_rf r :: rest)) : PF Γ I D h0 Q h pc vs (va_rf r :: rest) := by
  obtain ⟨hf2, hr⟩ := kC_in hf
  obtain ⟨p, l, e, R, s, m, args, below, meth, c⟩ := Γ
  intro X B ls hl H locs hM hz hS
  obtain ⟨cc, nL, own, rt, xt, fr, lo, nm⟩ := I
  have hWK := X.2.2.2.2.2.2.2.2.2.2.2.2.1
  rcases hr with rfl | ⟨a, fs, rfl, he⟩
  · exact lv_castN X.1 X.2.1 hd (kk hf2 X B ls hl H locs hM hz hS)
  · exact va_castY X.1 X.2.1 X.2.2.2.1 (X.2.2.2.2.1 _ hlink) (hWK.2.1 _ hca rfl) (j_recv hWK B hM hS he) hd (kk hf2 X B ls hl H locs hM hz hS)
/-- a static that is read -/
theorem j_gets {i index : Nat} {C n d : String} (hi : stT[i]? = some (C, n, d)) (hlink : Cond.fieldLink I.2.2.1 index C n d ∈ lw_all) (hd : decode I.1 pc = .ok (.getstatic index, 3)) (kk : PF Γ I D h0 Q h (pc + 3) vs (h.2.1.1 i :: rest)) : PF Γ I D h0 Q h pc vs rest := by
  obtain ⟨p, l, e, R, s, m, args, below, meth, c⟩ := Γ
  intro X B ls hl H locs hM hz hS
  obtain ⟨cc, nL, own, rt, xt, fr, lo, nm⟩ := I
  have hWK := X.2.2.2.2.2.2.2.2.2.2.2.2.1
  exact va_gets X.1 X.2.1 (hWK.2.2.2.1 i _ hi) hS X.2.2.2.1 (X.2.2.2.2.1 _ hlink) (fun _ h9 => h9) hd (by have := kk X B ls hl H locs hM hz hS; rw [B.1] at this; exact this)
theorem j_gsR {i index : Nat} {C n d : String} {K : Option Nat → Option β} (hi : stT[i]? = some (C, n, d)) (hlink : Cond.fieldLink I.2.2.1 index C n d ∈ lw_all) (hd : decode I.1 pc = .ok (.getstatic index, 3)) (hf : asR (some (h.2.1.1 i)) K = some o) (kk : ∀ r : Option Nat, K r = some o → PF Γ I D h0 Q h (pc + 3) vs (va_rf r :: rest)) : PF Γ I D h0 Q h pc vs rest := by
  obtain ⟨r, h1, h2⟩ := asR_in hf
  have h3 := kk r h2
  rw [← Option.some.inj h1] at h3
  exact j_gets hi hlink hd h3
theorem j_gsI {i index : Nat} {C n d : String} {K : Int32 → Option β} (hi : stT[i]? = some (C, n, d)) (hlink : Cond.fieldLink I.2.2.1 index C n d ∈ lw_all) (hd : decode I.1 pc = .ok (.getstatic index, 3)) (hf : asI (some (h.2.1.1 i)) K = some o) (kk : ∀ x : Int32, K x = some o → PF Γ I D h0 Q h (pc + 3) vs (.int x :: rest)) : PF Γ I D h0 Q h pc vs rest := by
  obtain ⟨r, h1, h2⟩ := asI_in hf
  have h3 := kk r h2
  rw [← Option.some.inj h1] at h3
  exact j_gets hi hlink hd h3
/-- a text that is loaded -/
theorem j_ldcS {i index : Nat} {own9 tx : String} (hi : srT[i]? = some (own9, index, tx)) (ho : I.2.2.1 = own9) (hd : decode I.1 pc = .ok (.ldc index, 2)) (kk : PF Γ I D h0 Q h (pc + 2) vs (va_rf (some (sAd h.2.1 (20 + i))) :: rest)) : PF Γ I D h0 Q h pc vs rest := by
  obtain ⟨p, l, e, R, s, m, args, below, meth, c⟩ := Γ
  intro X B ls hl H locs hM hz hS
  obtain ⟨cc, nL, own, rt, xt, fr, lo, nm⟩ := I
  have ho : own = own9 := ho
  subst ho
  have hWK := X.2.2.2.2.2.2.2.2.2.2.2.2.1
  exact va_ldcS X.1 X.2.1 X.2.2.2.1 (hWK.2.2.2.2.1 i _ hi) hd (by have := kk X B ls hl H locs hM hz hS; rw [B.1] at this; exact this)
end JC
