/-! MORE ROWS: byte fields, casts to byte[], instanceof, the list's modCount -/
set_option maxRecDepth 100000
def pB {β : Type} (h : PH) (r : Option Nat) (ci k : Nat) (x : Int32) (K : PH → Option β) : Option β := if vp_nar .byte x = x ∧ fits .byte (.int x) = true then pV h r ci k (.int x) K else none
theorem pB_in {β : Type} {o : β} {h : PH} {r : Option Nat} {ci k : Nat} {x : Int32} {K : PH → Option β} (hf : pB h r ci k x K = some o) : (vp_nar .byte x = x ∧ fits .byte (.int x) = true) ∧ pV h r ci k (.int x) K = some o := if_none hf
theorem fit_b (x : Int32) (h : vp_nar .byte x = x ∧ fits .byte (.int x) = true) : narrow .byte (.int x) = .int x ∧ fits .byte (.int x) = true := ⟨nar_b x h.1, h.2⟩
/-- a cast to byte[] -/
def kB {β : Type} (h : PH) (r : Option Nat) (K : Option β) : Option β := match r with
  | none => K
  | some a => cR_ h (some a) 1 fun a _ _ => if pbase h ≤ a then K else none
/-- instanceof: of the class ci, or of one that the tables tell apart -/
def iN {β : Type} (h : PH) (r : Option Nat) (ci : Nat) (K : Int32 → Option β) : Option β := match r with
  | none => K 0
  | some a => match h.1 a with
    | some (.inr (c, _)) => if c = ci then K 1 else if ((rcl c).1, (rcl ci).1) ∈ ncT then K 0 else none
    | _ => none
section JM
variable {Γ : GX} {I : MI} {D : va_G} {h0 : PH} {Q : State → Prop} {h : PH} {pc : Nat} {vs : List (Option Value)} {rest : List Value} {β : Type} {o : β}
theorem j_kB {index : Nat} {r : Option Nat} {K : Option β} (hlink : Cond.classLink I.2.2.1 index "[B" ∈ lw_all) (hd : decode I.1 pc = .ok (.checkcast index, 3)) (hf : kB h r K = some o) (kk : K = some o → PF Γ I D h0 Q h (pc + 3) vs (va_rf r :: rest)) : PF Γ I D h0 Q h pc vs (va_rf r :: rest) := by
  cases r with
  | none =>
    obtain ⟨p, l, e, R, s, m, args, below, meth, c⟩ := Γ
    intro X B ls hl H locs hM hz hS
    exact lv_castN X.1 X.2.1 hd (kk hf X B ls hl H locs hM hz hS)
  | some a =>
    obtain ⟨a', n, x, e9, he, hf2⟩ := cR_in (show cR_ h (some a) 1 (fun a _ _ => if pbase h ≤ a then K else none) = some o from hf)
    cases e9
    obtain ⟨hb, hf2⟩ := if_none hf2
    obtain ⟨p, l, e, R, s, m, args, below, meth, c⟩ := Γ
    intro X B ls hl H locs hM hz hS
    obtain ⟨cc, nL, own, rt, xt, fr, lo, nm⟩ := I
    have hWK := X.2.2.2.2.2.2.2.2.2.2.2.2.1
    have h9 : s.vm.findClass ("[" ++ FieldType.byte.toString) = some (h0.2.1.2.1 1) := (hWK.1.2 1 _ rfl).2
    exact va_castA X.1 X.2.1 X.2.2.2.1 (X.2.2.2.2.1 _ hlink) (hM.one hb he) 0 rfl (by rw [B.1]; exact h9) hd (kk hf2 X B ls hl H locs hM hz hS)
theorem j_inst {C : String} {T : u_T} {N ci index : Nat} {r : Option Nat} {K : Int32 → Option β} (hc : clA[ci]? = some (C, T, N)) (hlink : Cond.classLink I.2.2.1 index C ∈ lw_all) (hd : decode I.1 pc = .ok (.instanceof index, 3)) (hf : iN h r ci K = some o) (kk : ∀ x : Int32, K x = some o → PF Γ I D h0 Q h (pc + 3) vs (.int x :: rest)) : PF Γ I D h0 Q h pc vs (va_rf r :: rest) := by
  have e1 : (rcl ci).1 = C := by unfold rcl; rw [hc]
  cases r with
  | none =>
    obtain ⟨p, l, e, R, s, m, args, below, meth, c⟩ := Γ
    intro X B ls hl H locs hM hz hS
    exact lv_instN X.1 X.2.1 hd (kk 0 hf X B ls hl H locs hM hz hS)
  | some a =>
    cases he : h.1 a with
    | none => simp [iN, he] at hf
    | some z =>
      cases z with
      | inl _ => simp [iN, he] at hf
      | inr q =>
        obtain ⟨c9, fs⟩ := q
        simp only [iN, he] at hf
        by_cases h1 : c9 = ci
        · subst h1
          have hf2 := if_t hf rfl
          obtain ⟨p, l, e, R, s, m, args, below, meth, c⟩ := Γ
          intro X B ls hl H locs hM hz hS
          obtain ⟨cc, nL, own, rt, xt, fr, lo, nm⟩ := I
          have hWK := X.2.2.2.2.2.2.2.2.2.2.2.2.1
          have h2 := j_recv hWK B hM hS he
          rw [e1] at h2
          exact va_instS X.1 X.2.1 X.2.2.2.1 (X.2.2.2.2.1 _ hlink) (hWK.1.1 c9 _ hc).2 h2 hd (kk 1 hf2 X B ls hl H locs hM hz hS)
        · have hf2 := if_f hf h1
          obtain ⟨h3, hf3⟩ := if_none hf2
          obtain ⟨p, l, e, R, s, m, args, below, meth, c⟩ := Γ
          intro X B ls hl H locs hM hz hS
          obtain ⟨cc, nL, own, rt, xt, fr, lo, nm⟩ := I
          have hWK := X.2.2.2.2.2.2.2.2.2.2.2.2.1
          have h4 := hWK.2.2.2.2.2.1 _ h3
          rw [e1] at h4
          exact va_instNo X.1 X.2.1 X.2.2.2.1 (X.2.2.2.2.1 _ hlink) h4 (j_recv hWK B hM hS he) hd (kk 0 hf3 X B ls hl H locs hM hz hS)
theorem mod_same {args : Array Value} {s : State} (h : (Cond.sameField "java/util/ArrayList" "java/util/AbstractList" "modCount" "I").before args s = true) : ∀ x, s.fieldFound? "java/util/AbstractList" "modCount" "I" = some x → s.fieldFound? "java/util/ArrayList" "modCount" "I" = some x := by
  intro x hx
  cases hr : s.fieldFound? "java/util/ArrayList" "modCount" "I" with
  | none => simp [Cond.before, Cond.holds, Cond.value, hr] at h
  | some y =>
    obtain ⟨c, k, i, f⟩ := y
    have h1 := Cond.sameField_spec hr h
    exact h1.symm.trans hx
/-- the list's modCount, named by the list's own class -/
theorem j_gIM {index : Nat} {r : Option Nat} {ci k : Nat} {C : String} {T : u_T} {N : Nat} {K : Int32 → Option β} (hc : clA[ci]? = some (C, T, N)) (hin : ∀ w ∈ u_ws C T N, w ∈ lw_all) (hk : Nat.blt k N = true) (hlink : Cond.fieldLink I.2.2.1 index "java/util/ArrayList" "modCount" "I" ∈ lw_all) (hT : T k = ("java/util/AbstractList", "modCount", "I", false)) (hsm : Cond.sameField "java/util/ArrayList" "java/util/AbstractList" "modCount" "I" ∈ lw_all) (hd : decode I.1 pc = .ok (.getfield index, 3)) (hf : gIN h r ci k K = some o)
    (kk : ∀ x : Int32, K x = some o → PF Γ I D h0 Q h (pc + 3) vs (.int x :: rest)) : PF Γ I D h0 Q h pc vs (va_rf r :: rest) := by
  obtain ⟨a, fs, rfl, he, hf⟩ := cO_in hf
  obtain ⟨hb, hf⟩ := if_none hf
  obtain ⟨x, hv, hf⟩ := asI_in hf
  have k9 := kk x hf
  obtain ⟨p, l, e, R, s, m, args, below, meth, c⟩ := Γ
  intro X B ls hl H locs hM hz hS
  obtain ⟨cc, nL, own, rt, xt, fr, lo, nm⟩ := I
  have hWK := X.2.2.2.2.2.2.2.2.2.2.2.2.1
  have hts := X.2.2.2.2.1
  refine va_get (ref := "java/util/ArrayList") X.1 X.2.1 hts hin X.2.2.2.1 hWK.1 (hM.one hb he) 0 rfl hc k (Nat.le_of_ble_eq_true hk) ?_ ?_ hv hd (k9 X B ls hl H locs hM hz hS)
  · rw [hT]; exact hts _ hlink
  · rw [hT]; exact mod_same (hts _ hsm)
theorem j_pVM {index : Nat} {r : Option Nat} {ci k : Nat} {C : String} {T : u_T} {N : Nat} {v : Int32} {K : PH → Option β} (ty0 : Nat → FieldType) (hty : ∀ k, k < N → parseFieldDescriptor (T k).2.2.1 = some (ty0 k)) (hnm : ∀ a, a < N → ∀ b, b < N → a ≠ b → (T a).2.1 ≠ (T b).2.1) (hc : clA[ci]? = some (C, T, N)) (hin : ∀ w ∈ u_ws C T N, w ∈ lw_all) (hk : Nat.blt k N = true) (hlink : Cond.fieldLink I.2.2.1 index "java/util/ArrayList" "modCount" "I" ∈ lw_all) (hT : T k = ("java/util/AbstractList", "modCount", "I", false)) (hsm : Cond.sameField "java/util/ArrayList" "java/util/AbstractList" "modCount" "I" ∈ lw_all) (ht : ty0 k = .int) (hd : decode I.1 pc = .ok (.putfield index, 3)) (hf : pV h r ci k (.int v) K = some o)
    (kk : ∀ h1 : PH, K h1 = some o → PF Γ I D h0 Q h1 (pc + 3) vs rest) : PF Γ I D h0 Q h pc vs (.int v :: va_rf r :: rest) := by
  obtain ⟨a, fs, rfl, he, hf⟩ := cO_in hf
  obtain ⟨hb, hf⟩ := if_none hf
  have k9 := kk _ hf
  obtain ⟨p, l, e, R, s, m, args, below, meth, c⟩ := Γ
  intro X B ls hl H locs hM hz hS
  have X0 := X
  obtain ⟨cc, nL, own, rt, xt, fr, lo, nm⟩ := I
  have hWK := X.2.2.2.2.2.2.2.2.2.2.2.2.1
  have hts := X.2.2.2.2.1
  obtain ⟨h1, h2, h3, ws, hP, hDD, hw⟩ := id hM
  obtain ⟨q0, hq⟩ := hw.1 a _ hb.1 he
  have hDD0 : va_D (pA h0.2.1) ws := by rw [← B.1]; exact hDD
  have hk9 : k < N := Nat.le_of_ble_eq_true hk
  refine vm_put (ref := "java/util/ArrayList") (ty := .int) X.1 X.2.1 hts hin ty0 hty hnm X.2.2.2.1 hWK.1 hP hDD0 hS.self q0 hq hc k hk9 ?_ ?_ (by rw [hT]) ((hty k hk9).trans (congrArg some ht)) rfl rfl hb.2 hd (fun H1 locs1 hP1 hD1 hS1 hK9 => j_wrote X0 B hl hM hz hS hw hDD hq hP1 hS1 hK9 k9)
  · rw [hT]; exact hts _ hlink
  · rw [hT]; exact mod_same (hts _ hsm)
end JM
