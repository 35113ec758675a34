/-! MORE ROWS: byte[].clone, class objects, the cache of small Integers -/
set_option maxRecDepth 100000
/-- byte[].clone -/
def yC {β : Type} (h : PH) (r : Option Nat) (K : Nat → PH → Option β) : Option β := cR_ h r 1 fun a n x => match x with
  | .inl f => if pbase h ≤ a ∧ 1 ≤ pcl h ∧ n ≤ psl h ∧ (List.range n).all (fun i => fits .byte (.int (f i))) = true then K (pn h) (p_new h (.inl (h.2.1.2.1 1, n, .inl f)) n) else none
  | .inr _ => none
/-- a place of the cache of small Integers -/
def aIC {β : Type} (h : PH) (r : Option Nat) (i : Int32) (K : Option Nat → Option β) : Option β := if r = some (sAd h.2.1 11) ∧ inR i 256 then K (some (sAd h.2.1 (1000 + i.toNatClampNeg))) else none
/-- getClass of an Object[] -/
def gC {β : Type} (h : PH) (r : Option Nat) (K : Option Nat → Option β) : Option β := cR_ h r 4 fun a _ _ => if pbase h ≤ a then K (some (sAd h.2.1 40)) else none
section JS
variable {Γ : GX} {I : MI} {D : va_G} {h0 : PH} {Q : State → Prop} {h : PH} {pc : Nat} {vs : List (Option Value)} {rest : List Value} {β : Type} {o : β}
theorem j_clone {index : Nat} {r : Option Nat} {K : Nat → PH → Option β} (hlk : Cond.methodLink I.2.2.1 index ⟨"[B", "clone", "()Ljava/lang/Object;"⟩ ∈ lw_all) (hsm : Cond.sameMethod "[B" "java/lang/Object" "clone" "()Ljava/lang/Object;" ∈ lw_all) (hnat : Cond.native ⟨"java/lang/Object", "clone", "()Ljava/lang/Object;"⟩ ∈ lw_all) (him : Cond.instanceMethod ⟨"java/lang/Object", "clone", "()Ljava/lang/Object;"⟩ ∈ lw_all) (hsel : Cond.selects "[B" ⟨"[B", "clone", "()Ljava/lang/Object;"⟩ ⟨"java/lang/Object", "clone", "()Ljava/lang/Object;"⟩ ∈ lw_all) (hcl : Cond.castable "[B" "java/lang/Cloneable" ∈ lw_tbl) (hfr : Nat.ble 1 I.2.2.2.2.2.1 = true) (hlo : Nat.ble 24 I.2.2.2.2.2.2.1 = true) (hW : (rest.map fun v => v.category).sum ≤ 8) (hd : decode I.1 pc = .ok (.invokevirtual index, 3)) (hf : yC h r K = some o)
    (kk : ∀ (a : Nat) (h1 : PH), K a h1 = some o → PF Γ I D h0 Q h1 (pc + 3) vs (va_rf (some a) :: rest)) : PF Γ I D h0 Q h pc vs (va_rf r :: rest) := by
  obtain ⟨a, n, x, rfl, he, hf⟩ := cR_in hf
  match x, he, hf with
  | .inr _, _, hf => cases hf
  | .inl f, he, hf =>
    obtain ⟨⟨hb, hb1, hb2, hb3⟩, hf⟩ := if_none hf
    obtain ⟨p, l, e, R, s, m, args, below, meth, c⟩ := Γ
    intro X B ls hl H locs hM hz hS
    have X0 := X
    obtain ⟨cc, nL, own, rt, xt, fr, lo, nm⟩ := I
    have hWK := X.2.2.2.2.2.2.2.2.2.2.2.2.1
    have hts := X.2.2.2.2.1
    have hRf : fr ≤ R.frames := X.2.2.2.2.2.2.2.2.1
    have hRl : lo ≤ R.locals := X.2.2.2.2.2.2.2.2.2.1
    have hRc : R.cells = pcl h0 := X.2.2.2.2.2.2.2.2.2.2.1
    have hRs : R.slots = psl h0 := X.2.2.2.2.2.2.2.2.2.2.2.1
    have hlo : 24 ≤ lo := Nat.le_of_ble_eq_true hlo
    have hfr : 1 ≤ fr := Nat.le_of_ble_eq_true hfr
    obtain ⟨h1, h2, h3, ws, hP, hDD, hw⟩ := id hM
    obtain ⟨q0, hq⟩ := hw.1 a _ hb he
    have hA9 : pA h.2.1 = pA h0.2.1 := by rw [B.1]
    have hb4 := B.2.1
    have hb5 := B.2.2.1
    have hb6 := B.2.2.2
    have hbase : pbase h ≤ H.size := by rw [h1]; exact h2
    have hnmB : s.vm.findClass ("[" ++ FieldType.byte.toString) = some (h0.2.1.2.1 1) := (hWK.1.2 1 _ rfl).2
    refine vm_clone (ad := "[B") (ty := .byte) X.1 X.2.1 (X.2.2.1.trans hl.size.symm) X.2.2.2.1 (hts _ hlk) (hts _ hsm) (hts _ hnat) (hts _ him) (hts _ hsel) (hWK.2.1 _ hcl rfl) hWK.1 hP (hA9 ▸ hDD) hS.self (fun q hq => ?_) q0 1 hq (by rw [B.1]; rfl) (by rw [B.1]; exact hnmB) (fun i v hv => ?_) (by omega) (by omega) ?_ ?_ hd (fun q H1 hK1 hP1 hD1 hS1 hK9 => j_grew X0 B hl hM hz hS hw hP1 (by rw [hA9]; exact hD1) hS1 hK9 hb1 hb2 (kk _ _ hf))
    · show h0.2.1.2.2.1 ≤ q
      rw [← B.1]
      exact Nat.le_trans hbase hq
    · have hi : i < n := by
        have := (Array.getElem?_eq_some_iff.mp hv).1
        rw [show (vp_cell (h.2.1.2.1 1) (n, .inl f)).slots.size = n from arrV_size ..] at this
        exact this
      have h9 : (vp_cell (h.2.1.2.1 1) (n, .inl f)).slots[i]? = some (.int (f i)) := by
        rw [vp_cell_i]
        exact arrV_read _ _ hi
      rw [h9] at hv
      cases hv
      exact List.all_eq_true.mp hb3 i (List.mem_range.mpr hi)
    · simp only [pn, pcl] at *
      omega
    · show psl h0 - psl h + n ≤ R.slots
      simp only [psl] at *
      omega
theorem j_ldcM {index : Nat} (hlink : Cond.classLink I.2.2.1 index "[Ljava/lang/Object;" ∈ lw_all) (hd : decode I.1 pc = .ok (.ldc index, 2)) (kk : PF Γ I D h0 Q h (pc + 2) vs (va_rf (some (sAd h.2.1 40)) :: rest)) : PF Γ I D h0 Q h pc vs rest := by
  obtain ⟨p, l, e, R, s, m, args, below, meth, c⟩ := Γ
  intro X B ls hl H locs hM hz hS
  obtain ⟨cc, nL, own, rt, xt, fr, lo, nm⟩ := I
  have hWK := X.2.2.2.2.2.2.2.2.2.2.2.2.1
  exact va_ldcM X.1 X.2.1 X.2.2.2.1 (X.2.2.2.2.1 _ hlink) hWK.2.2.2.2.2.2.2.2.1 hd (by have := kk X B ls hl H locs hM hz hS; rw [B.1] at this; exact this)
theorem j_gC {index : Nat} {r : Option Nat} {K : Option Nat → Option β} (hlk : Cond.methodLink I.2.2.1 index ⟨"java/lang/Object", "getClass", "()Ljava/lang/Class;"⟩ ∈ lw_all) (hsel : Cond.selects "[Ljava/lang/Object;" ⟨"java/lang/Object", "getClass", "()Ljava/lang/Class;"⟩ ⟨"java/lang/Object", "getClass", "()Ljava/lang/Class;"⟩ ∈ lw_all) (him : Cond.instanceMethod ⟨"java/lang/Object", "getClass", "()Ljava/lang/Class;"⟩ ∈ lw_all) (hnat : Cond.native ⟨"java/lang/Object", "getClass", "()Ljava/lang/Class;"⟩ ∈ lw_all) (hfr : Nat.ble 1 I.2.2.2.2.2.1 = true) (hlo : Nat.ble 24 I.2.2.2.2.2.2.1 = true) (hW : (rest.map fun v => v.category).sum ≤ 8) (hd : decode I.1 pc = .ok (.invokevirtual index, 3)) (hf : gC h r K = some o)
    (kk : ∀ x : Option Nat, K x = some o → PF Γ I D h0 Q h (pc + 3) vs (va_rf x :: rest)) : PF Γ I D h0 Q h pc vs (va_rf r :: rest) := by
  obtain ⟨a, n, x, rfl, he, hf⟩ := cR_in hf
  obtain ⟨hb, hf⟩ := if_none hf
  have k9 := kk _ hf
  obtain ⟨p, l, e, R, s, m, args, below, meth, c⟩ := Γ
  intro X B ls hl H locs hM hz hS
  obtain ⟨cc, nL, own, rt, xt, fr, lo, nm⟩ := I
  have hWK := X.2.2.2.2.2.2.2.2.2.2.2.2.1
  have hts := X.2.2.2.2.1
  have hRf : fr ≤ R.frames := X.2.2.2.2.2.2.2.2.1
  have hRl : lo ≤ R.locals := X.2.2.2.2.2.2.2.2.2.1
  have hlo : 24 ≤ lo := Nat.le_of_ble_eq_true hlo
  have hfr : 1 ≤ fr := Nat.le_of_ble_eq_true hfr
  obtain ⟨-, -, -, -, -, h9⟩ := (hWK.1.2 4 _ rfl).2
  refine va_getC (C := "[Ljava/lang/Object;") X.1 X.2.1 (X.2.2.1.trans hl.size.symm) X.2.2.2.1 (hts _ hlk) (va_Dc.use hWK.2.2.2.2.2.2.2.2.2.1) (hts _ hsel) (hts _ him) (hts _ hnat) hWK.2.2.2.2.2.2.2.2.1 ?_ (by omega) (by omega) hd (by have := k9 X B ls hl H locs hM hz hS; rw [B.1] at this; exact this)
  have hc1 : H[a]? = some (vp_cell (h.2.1.2.1 4) (n, x)) := hM.one hb he 0 _ rfl
  refine ⟨_, hc1, ?_, ?_⟩
  · rcases x with _ | _ | _ | _ | _ <;> rfl
  · have e1 : (vp_cell (h.2.1.2.1 4) (n, x)).cls = h.2.1.2.1 4 := by rcases x with _ | _ | _ | _ | _ <;> rfl
    rw [e1, B.1]
    exact h9
theorem j_aIC {r : Option Nat} {i : Int32} {K : Option Nat → Option β} (hd : decode I.1 pc = .ok (.aaload, 1)) (hf : aIC h r i K = some o) (kk : ∀ x : Option Nat, K x = some o → PF Γ I D h0 Q h (pc + 1) vs (va_rf x :: rest)) : PF Γ I D h0 Q h pc vs (.int i :: va_rf r :: rest) := by
  obtain ⟨⟨hr, hi⟩, hf2⟩ := if_none hf
  subst hr
  have k9 := kk _ hf2
  obtain ⟨p, l, e, R, s, m, args, below, meth, c⟩ := Γ
  intro X B ls hl H locs hM hz hS
  obtain ⟨cc, nL, own, rt, xt, fr, lo, nm⟩ := I
  have hWK := X.2.2.2.2.2.2.2.2.2.2.2.2.1
  have k8 := k9 X B ls hl H locs hM hz hS
  rw [B.1] at k8 ⊢
  exact vb_tq X.1 X.2.1 hWK.2.2.2.2.2.2.2.2.2.2.1.1 hS hi rfl hd k8
end JS
