/-! ARRAYCOPY, over PF -/
set_option maxRecDepth 100000
/-- System.arraycopy of whole numbers of kind t -/
def ycI {β : Type} (h : PH) (r : Option Nat) (sp : Int32) (r2 : Option Nat) (dp n : Int32) (t : Nat) (fitOK : Int32 → Bool) (K : PH → Option β) : Option β := cR_ h r t fun a n0 x => cR_ h r2 t fun b n1 y => match x, y with
  | .inl f, .inl g => if ¬ sp < 0 ∧ ¬ dp < 0 ∧ ¬ n < 0 ∧ sp.toNatClampNeg + n.toNatClampNeg ≤ n0 ∧ dp.toNatClampNeg + n.toNatClampNeg ≤ n1 ∧ pbase h ≤ a ∧ pbase h ≤ b ∧ (List.range n.toNatClampNeg).all (fun i => fitOK (f (sp.toNatClampNeg + i))) = true then K (p_set h b (.inl (h.2.1.2.1 t, n1, .inl (va_cpy f g sp.toNatClampNeg dp.toNatClampNeg n.toNatClampNeg)))) else none
  | _, _ => none
/-- an element that may stand in Object[] -/
def elOK (h : PH) (v : Option Nat) : Bool := match v with
  | none => true
  | some a => match h.1 a with
    | some (.inr (ci, _)) => decide (ci ≤ 25)
    | _ => false
/-- System.arraycopy of references, Object[] to Object[] -/
def ycQ {β : Type} (h : PH) (r : Option Nat) (sp : Int32) (r2 : Option Nat) (dp n : Int32) (K : PH → Option β) : Option β := cR_ h r 4 fun a n0 x => cR_ h r2 4 fun b n1 y => match x, y with
  | .inr (.inr (.inr (.inr f))), .inr (.inr (.inr (.inr g))) => if ¬ sp < 0 ∧ ¬ dp < 0 ∧ ¬ n < 0 ∧ sp.toNatClampNeg + n.toNatClampNeg ≤ n0 ∧ dp.toNatClampNeg + n.toNatClampNeg ≤ n1 ∧ pbase h ≤ a ∧ pbase h ≤ b ∧ (List.range n.toNatClampNeg).all (fun i => elOK h (f (sp.toNatClampNeg + i))) = true then K (p_set h b (.inl (h.2.1.2.1 4, n1, .inr (.inr (.inr (.inr (va_cpy f g sp.toNatClampNeg dp.toNatClampNeg n.toNatClampNeg))))))) else none
  | _, _ => none
section JY
variable {Γ : GX} {I : MI} {D : va_G} {h0 : PH} {Q : State → Prop} {h : PH} {pc : Nat} {vs : List (Option Value)} {rest : List Value} {β : Type} {o : β}
theorem j_ycI {index : Nat} {r r2 : Option Nat} {sp dp n : Int32} {t : Nat} {fitOK : Int32 → Bool} {ty : FieldType} {K : PH → Option β} (ht : tyT[t]? = some ty) (hfit : ∀ x : Int32, fitOK x = true → fits ty (.int x) = true) (hprim : refKind ty = false) (hlk : Cond.methodLink I.2.2.1 index arraycopyName ∈ lw_all) (hnat : Cond.native arraycopyName ∈ lw_all) (hstat : Cond.static arraycopyName ∈ lw_all) (hini : Cond.initialized "java/lang/System" ∈ lw_all) (hfr : Nat.ble 1 I.2.2.2.2.2.1 = true) (hlo : Nat.ble 60 I.2.2.2.2.2.2.1 = true) (hW : (rest.map fun v => v.category).sum ≤ 8) (hd : decode I.1 pc = .ok (.invokestatic index, 3))
    (hf : ycI h r sp r2 dp n t fitOK K = some o) (kk : ∀ h1 : PH, K h1 = some o → PF Γ I D h0 Q h1 (pc + 3) vs rest) : PF Γ I D h0 Q h pc vs (.int n :: .int dp :: va_rf r2 :: .int sp :: va_rf r :: rest) := by
  obtain ⟨a, n0, x, rfl, he, hf⟩ := cR_in hf
  obtain ⟨b, n1, y, rfl, hbb, hf⟩ := cR_in hf
  match x, y, he, hbb, hf with
  | .inl f, .inl g, he, hbb, hf =>
    obtain ⟨⟨g1, g2, g3, g4, g5, g6, g7, g8⟩, hf⟩ := if_none hf
    obtain ⟨p, l, e, R, s, m, args, below, meth, c⟩ := Γ
    intro X B ls hl H locs hM hz hS
    have X0 := X
    obtain ⟨cc, nL, own, rt, xt, fr, lo, nm⟩ := I
    have hWK := X.2.2.2.2.2.2.2.2.2.2.2.2.1
    have hts := X.2.2.2.2.1
    have hRf : fr ≤ R.frames := X.2.2.2.2.2.2.2.2.1
    have hRl : lo ≤ R.locals := X.2.2.2.2.2.2.2.2.2.1
    have hlo : 60 ≤ lo := Nat.le_of_ble_eq_true hlo
    have hfr : 1 ≤ fr := Nat.le_of_ble_eq_true hfr
    obtain ⟨h1, h2, h3, ws, hP, hDD, hw⟩ := id hM
    obtain ⟨q0, hq⟩ := hw.1 a _ g6 he
    obtain ⟨q1, hq1⟩ := hw.1 b _ g7 hbb
    have hA9 : pA h.2.1 = pA h0.2.1 := by rw [B.1]
    refine vm_copyi X.1 X.2.1 (X.2.2.1.trans hl.size.symm) X.2.2.2.1 (hts _ hlk) (hts _ hnat) (hts _ hstat) (hts _ hini) hWK.1 hP (hA9 ▸ hDD) hS.self q0 q1 t t hq hq1 (by rw [B.1]; exact tys_at ht) (by rw [B.1]; exact tys_at ht) hprim g1 g2 g3 g4 g5 (fun i hi => hfit _ (List.all_eq_true.mp g8 i (List.mem_range.mpr hi))) (by omega) ?_ hd (fun H1 locs1 hP1 hD1 hS1 hK9 => j_wrote X0 B hl hM hz hS hw hDD hq1 hP1 hS1 hK9 (kk _ hf))
    have : nativeFrameWords "java/lang/System" "arraycopy" 5 + 11 ≤ 52 := by decide
    omega
  | .inl _, .inr _, _, _, hf => cases hf
  | .inr _, _, _, _, hf => cases hf
theorem j_ycQ {index : Nat} {r r2 : Option Nat} {sp dp n : Int32} {K : PH → Option β} (hlk : Cond.methodLink I.2.2.1 index arraycopyName ∈ lw_all) (hnat : Cond.native arraycopyName ∈ lw_all) (hstat : Cond.static arraycopyName ∈ lw_all) (hini : Cond.initialized "java/lang/System" ∈ lw_all) (hfr : Nat.ble 1 I.2.2.2.2.2.1 = true) (hlo : Nat.ble 60 I.2.2.2.2.2.2.1 = true) (hW : (rest.map fun v => v.category).sum ≤ 8) (hd : decode I.1 pc = .ok (.invokestatic index, 3))
    (hf : ycQ h r sp r2 dp n K = some o) (kk : ∀ h1 : PH, K h1 = some o → PF Γ I D h0 Q h1 (pc + 3) vs rest) : PF Γ I D h0 Q h pc vs (.int n :: .int dp :: va_rf r2 :: .int sp :: va_rf r :: rest) := by
  obtain ⟨a, n0, x, rfl, he, hf⟩ := cR_in hf
  obtain ⟨b, n1, y, rfl, hbb, hf⟩ := cR_in hf
  match x, y, he, hbb, hf with
  | .inr (.inr (.inr (.inr f))), .inr (.inr (.inr (.inr g))), he, hbb, hf =>
    obtain ⟨⟨g1, g2, g3, g4, g5, g6, g7, g8⟩, hf⟩ := if_none hf
    obtain ⟨p, l, e, R, s, m, args, below, meth, c⟩ := Γ
    intro X B ls hl H locs hM hz hS
    have X0 := X
    obtain ⟨cc, nL, own, rt, xt, fr, lo, nm⟩ := I
    have hWK := X.2.2.2.2.2.2.2.2.2.2.2.2.1
    have hts := X.2.2.2.2.1
    have hRf : fr ≤ R.frames := X.2.2.2.2.2.2.2.2.1
    have hRl : lo ≤ R.locals := X.2.2.2.2.2.2.2.2.2.1
    have hlo : 60 ≤ lo := Nat.le_of_ble_eq_true hlo
    have hfr : 1 ≤ fr := Nat.le_of_ble_eq_true hfr
    obtain ⟨h1, h2, h3, ws, hP, hDD, hw⟩ := id hM
    obtain ⟨q0, hq⟩ := hw.1 a _ g6 he
    obtain ⟨q1, hq1⟩ := hw.1 b _ g7 hbb
    have hA9 : pA h.2.1 = pA h0.2.1 := by rw [B.1]
    refine vm_copyA X.1 X.2.1 (X.2.2.1.trans hl.size.symm) X.2.2.2.1 (hts _ hlk) (hts _ hnat) (hts _ hstat) (hts _ hini) hWK.1 hP (hA9 ▸ hDD) hS.self q0 q1 4 4 hq hq1 (by rw [B.1]; exact tys_at rfl) (by rw [B.1]; exact tys_at rfl) g1 g2 g3 g4 g5 (fun i hi y hy => ?_) (by omega) ?_ hd (fun H1 locs1 hP1 hD1 hS1 hK9 => j_wrote X0 B hl hM hz hS hw hDD hq1 hP1 hS1 hK9 (kk _ hf))
    · have h9 := List.all_eq_true.mp g8 i (List.mem_range.mpr hi)
      rw [hy] at h9
      cases he9 : h.1 y with
      | none => simp [elOK, he9] at h9
      | some z =>
        cases z with
        | inl _ => simp [elOK, he9] at h9
        | inr q =>
          obtain ⟨ci, fs⟩ := q
          simp only [elOK, he9, decide_eq_true_eq] at h9
          exact j_any (t := 4) hWK B hM hS he9 rfl rfl h9
    · have : nativeFrameWords "java/lang/System" "arraycopy" 5 + 11 ≤ 52 := by decide
      omega
  | .inl _, _, _, _, hf => cases hf
  | .inr (.inl _), _, _, _, hf => cases hf
  | .inr (.inr (.inl _)), _, _, _, hf => cases hf
  | .inr (.inr (.inr (.inl _))), _, _, _, hf => cases hf
  | .inr (.inr (.inr (.inr _))), .inl _, _, _, hf => cases hf
  | .inr (.inr (.inr (.inr _))), .inr (.inl _), _, _, hf => cases hf
  | .inr (.inr (.inr (.inr _))), .inr (.inr (.inl _)), _, _, hf => cases hf
  | .inr (.inr (.inr (.inr _))), .inr (.inr (.inr (.inl _))), _, _, hf => cases hf
end JY
