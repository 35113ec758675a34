/-! THE SCRIPT: an int array of the start, kept among the statics' values -/
set_option maxRecDepth 100000
section JS
variable {Γ : GX} {I : MI} {D : va_G} {h0 : PH} {Q : State → Prop} {h : PH} {pc : Nat} {vs : List (Option Value)} {rest : List Value} {β : Type} {o : β}
def aS {β : Type} (h : PH) (r : Option Nat) (i : Int32) (K : Int32 → Option β) : Option β := if r = some (sAd h.2.1 50) ∧ inR i (scL h.2.1) then asI (some (h.2.1.1 (2000 + i.toNatClampNeg))) K else none
def aSN {β : Type} (h : PH) (r : Option Nat) (K : Int32 → Option β) : Option β := if r = some (sAd h.2.1 50) then K (Int32.ofNat (scL h.2.1)) else none
theorem j_sald {r : Option Nat} {i : Int32} {K : Int32 → Option β} (hd : decode I.1 pc = .ok (.iaload, 1)) (hf : aS h r i K = some o) (kk : ∀ x : Int32, K x = some o → PF Γ I D h0 Q h (pc + 1) vs (.int x :: rest)) : PF Γ I D h0 Q h pc vs (.int i :: va_rf r :: rest) := by
  obtain ⟨⟨hr, hi⟩, hg⟩ := if_none hf
  clear hf
  subst hr
  cases hv : h.2.1.1 (2000 + i.toNatClampNeg) with
  | int v =>
    rw [hv] at hg
    obtain ⟨p, l, e, R, s, m, args, below, meth, c⟩ := Γ
    intro X B ls hl H locs hM hz hS
    obtain ⟨cc, nL, own, rt, xt, fr, lo, nm⟩ := I
    have hWK := X.2.2.2.2.2.2.2.2.2.2.2.2.1
    have h1 := hWK.2.2.2.2.2.2.2.2.2.2.1.2
    rw [← B.1] at h1
    have k1 := kk _ hg X B ls hl H locs hM hz hS
    exact va_ti X.1 X.2.1 h1 (by rw [B.1]; exact hS) hi hv hd k1
  | _ => rw [hv] at hg; cases hg
theorem j_slen {r : Option Nat} {K : Int32 → Option β} (hd : decode I.1 pc = .ok (.arraylength, 1)) (hf : aSN h r K = some o) (kk : ∀ x : Int32, K x = some o → PF Γ I D h0 Q h (pc + 1) vs (.int x :: rest)) : PF Γ I D h0 Q h pc vs (va_rf r :: rest) := by
  obtain ⟨hr, hg⟩ := if_none hf
  clear hf
  subst hr
  obtain ⟨p, l, e, R, s, m, args, below, meth, c⟩ := Γ
  intro X B ls hl H locs hM hz hS
  obtain ⟨cc, nL, own, rt, xt, fr, lo, nm⟩ := I
  have hWK := X.2.2.2.2.2.2.2.2.2.2.2.2.1
  have h1 := hWK.2.2.2.2.2.2.2.2.2.2.1.2
  rw [← B.1] at h1
  have k1 := kk _ hg X B ls hl H locs hM hz hS
  exact va_tlen X.1 X.2.1 h1 (by rw [B.1]; exact hS) rfl hd k1
end JS
