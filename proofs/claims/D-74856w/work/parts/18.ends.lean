/-! ANSWERS, STATIC CALLS, CONSTRUCTORS, THROWS, over PF -/
set_option maxRecDepth 100000
/-- an answer of a small kind -/
def rN {α : Type} (ty : FieldType) (v : Int32) (k : Int32 → α) (h : PH) : Option (α × PH) := if vp_nar ty v = v then some (k v, h) else none
section JE
variable {Γ : GX} {I : MI} {D : va_G} {h0 : PH} {Q : State → Prop} {h : PH} {pc : Nat} {vs : List (Option Value)} {rest : List Value} {β : Type} {o : β}
theorem j_end {s t : State} {H : Heap} {locs : List Loc} (B : Bd h0 h) (hM : WM D h H) (hz : slotSum H + psl h ≤ slotSum s.heap + psl h0) (hS : va_S (pA h0.2.1) s.heap H locs) (ht : t.heap = H) : cEnd D h0 h s t := ⟨by rw [ht]; exact hM, B, by rw [ht]; exact hz, hS.F ht⟩
theorem j_iret {v : Int32} (hr : I.2.2.2.1 = some .int) (hd : decode I.1 pc = .ok (.ireturn, 1)) : PF Γ I D h0 (QR Γ D h0 (.inr (some (.int v))) h) h pc vs [.int v] := by
  obtain ⟨p, l, e, R, s, m, args, below, meth, c⟩ := Γ
  intro X B ls hl H locs hM hz hS
  obtain ⟨cc, nL, own, rt, xt, fr, lo, nm⟩ := I
  have hlk := X.2.2.2.2.2.1
  exact W.widen (Nat.sub_le _ _) (Nat.sub_le _ _) (vx_ret (W.iret X.1 X.2.1 (X.2.2.2.2.2.2.1.trans hr) (fun t ht hW => ⟨_, rfl, rfl, j_end B hM hz hS ht⟩) hS.2.2 hd hlk))
theorem j_lret {v : Int64} (hr : I.2.2.2.1 = some .long) (hd : decode I.1 pc = .ok (.lreturn, 1)) : PF Γ I D h0 (QR Γ D h0 (.inr (some (.long v))) h) h pc vs [.long v] := by
  obtain ⟨p, l, e, R, s, m, args, below, meth, c⟩ := Γ
  intro X B ls hl H locs hM hz hS
  obtain ⟨cc, nL, own, rt, xt, fr, lo, nm⟩ := I
  have hlk := X.2.2.2.2.2.1
  exact W.widen (Nat.sub_le _ _) (Nat.sub_le _ _) (vx_ret (W.lret X.1 X.2.1 (X.2.2.2.2.2.2.1.trans hr) (fun t ht hW => ⟨_, rfl, rfl, j_end B hM hz hS ht⟩) hS.2.2 hd hlk))
theorem j_zret {v : Int32} {ty : FieldType} (hr : I.2.2.2.1 = some ty) (hn : narrow ty (.int v) = .int v) (hd : decode I.1 pc = .ok (.ireturn, 1)) : PF Γ I D h0 (QR Γ D h0 (.inr (some (.int v))) h) h pc vs [.int v] := by
  obtain ⟨p, l, e, R, s, m, args, below, meth, c⟩ := Γ
  intro X B ls hl H locs hM hz hS
  obtain ⟨cc, nL, own, rt, xt, fr, lo, nm⟩ := I
  have hlk := X.2.2.2.2.2.1
  exact W.widen (Nat.sub_le _ _) (Nat.sub_le _ _) (vx_ret (W.zret X.1 X.2.1 (X.2.2.2.2.2.2.1.trans hr) hn (fun t ht hW => ⟨_, rfl, rfl, j_end B hM hz hS ht⟩) hS.2.2 hd hlk))
theorem j_vret (hr : I.2.2.2.1 = none) (hd : decode I.1 pc = .ok (.return_, 1)) : PF Γ I D h0 (QR Γ D h0 (.inr none) h) h pc vs [] := by
  obtain ⟨p, l, e, R, s, m, args, below, meth, c⟩ := Γ
  intro X B ls hl H locs hM hz hS
  obtain ⟨cc, nL, own, rt, xt, fr, lo, nm⟩ := I
  have hlk := X.2.2.2.2.2.1
  exact W.widen (Nat.sub_le _ _) (Nat.sub_le _ _) (vx_ret (W.vret X.1 X.2.1 (X.2.2.2.2.2.2.1.trans hr) (fun t ht hW => ⟨_, rfl, rfl, j_end B hM hz hS ht⟩) hS.2.2 hd hlk))
theorem j_aret {r : Option Nat} {ty : FieldType} (hr : I.2.2.2.1 = some ty) (hn : (∃ n, ty = .object n) ∨ ∃ t, ty = .array t) (hd : decode I.1 pc = .ok (.areturn, 1)) : PF Γ I D h0 (QR Γ D h0 (.inr (some (va_rf r))) h) h pc vs [va_rf r] := by
  obtain ⟨p, l, e, R, s, m, args, below, meth, c⟩ := Γ
  intro X B ls hl H locs hM hz hS
  obtain ⟨cc, nL, own, rt, xt, fr, lo, nm⟩ := I
  have hlk := X.2.2.2.2.2.1
  exact W.widen (Nat.sub_le _ _) (Nat.sub_le _ _) (vx_ret (W.aret X.1 X.2.1 (X.2.2.2.2.2.2.1.trans hr) hn (by cases r with | none => exact Or.inl rfl | some a => exact Or.inr ⟨a, rfl⟩) (fun t ht hW => ⟨_, rfl, rfl, j_end B hM hz hS ht⟩) hS.2.2 hd hlk))
/-- an answer of a small kind, with the plain side -/
theorem rN_in {α : Type} {ty : FieldType} {v : Int32} {k : Int32 → α} {x : α × PH} (hf : rN ty v k h = some x) : vp_nar ty v = v ∧ x = (k v, h) := by
  obtain ⟨h1, h2⟩ := if_none hf
  exact ⟨h1, (Option.some.inj h2).symm⟩
/-- invokestatic -/
theorem j_callS {y : MethodName} {cc2 : ByteArray} {nL2 fr2 lo2 : Nat} {rt2 : Option FieldType} {index n : Nat} {As : List Value} {α : Type} {ro : Option (α × PH)} {ov : α → OC} {K : α → PH → Option β}
    (hG : GoodIn lw_all (va_wsS I.2.2.1 index y (ws_ y cc2 nL2 rt2))) (hdy : y.cls ≠ "java/lang/invoke/MethodHandle" ∧ y.cls ≠ "java/lang/invoke/VarHandle" ∧ (parseMethodDescriptor y.desc).map (fun d => d.parameters.length) = some n) (hfr : Nat.ble (fr2 + 1) I.2.2.2.2.2.1 = true) (hlo : Nat.ble (8 + (nL2 + 11) + lo2) I.2.2.2.2.2.2.1 = true) (hn : As.length = n) (hW : (rest.map fun v => v.category).sum ≤ 8) (hd : decode I.1 pc = .ok (.invokestatic index, 3))
    (hct : ∀ (l : Launch), l.stackTraces = false → ∀ (x : α) (h1 : PH), ro = some (x, h1) → CT l D y (ws_ y cc2 nL2 rt2) fr2 lo2 As h (ov x) h1) (hf : cl_ ro K = some o)
    (kk : ∀ (x : α) (h1 : PH) (rv : Option Value), ov x = .inr rv → K x h1 = some o → PF Γ I D h0 Q h1 (pc + 3) vs (rv.toList ++ rest)) (kx : ∀ (x : α) (h1 : PH) (ci q : Nat) (fs : List Value), ov x = .inl (ci, q) → h1.1 q = some (.inr (ci, fs)) → K x h1 = some o → PX Γ I D h0 Q h1 pc vs q) (st0 : List Value) (hst : st0 = As.reverse ++ rest) : PF Γ I D h0 Q h pc vs st0 := by
  obtain ⟨x, h1, rfl, hf⟩ := cl_in hf
  subst hst
  obtain ⟨p, l, e, R, s, m, args, below, meth, c⟩ := Γ
  intro X B ls hl H locs hM hz hS
  have X0 := X
  obtain ⟨cc, nL, own, rt, xt, fr, lo, nm⟩ := I
  have hWK := X.2.2.2.2.2.2.2.2.2.2.2.2.1
  have hRc : R.cells = pcl h0 := X.2.2.2.2.2.2.2.2.2.2.1
  have hRs : R.slots = psl h0 := X.2.2.2.2.2.2.2.2.2.2.2.1
  have hRf : fr ≤ R.frames := X.2.2.2.2.2.2.2.2.1
  have hRl : lo ≤ R.locals := X.2.2.2.2.2.2.2.2.2.1
  refine j_ran rfl X0 B hl hM hz hS (vx_runS (As := As) ⟨X.1, X.2.1, X.2.2.1, X.2.2.2.1, X.2.2.2.2.1⟩ (hct l X.2.2.2.2.2.2.2.2.2.2.2.2.2.2.2.1 x h1 rfl) (va_cwS n X.2.2.2.2.1 hG rfl rfl rfl hdy ⟨Nat.le_trans (Nat.le_of_ble_eq_true hfr) hRf, Nat.le_trans (Nat.le_of_ble_eq_true hlo) hRl⟩) ⟨cPre_blind, j_pre hWK B hM hS⟩ rfl hn hl.size rfl (lv_room hW) hd ?_) (fun rv e => kk x h1 rv e hf) (fun ci q fs e h9 => kx x h1 ci q fs e h9 hf)
  rw [hRc, hRs]
  exact j_left B
/-- invokespecial <init> -/
theorem j_callI {y : MethodName} {cc2 : ByteArray} {nL2 fr2 lo2 : Nat} {index n : Nat} {r : Option Nat} {As : List Value} {α : Type} {ro : Option (α × PH)} {ov : α → OC} {K : α → PH → Option β}
    (hG : GoodIn lw_all (ws_ y cc2 nL2 none)) (hini : Cond.initialized y.cls ∈ lw_all) (hlk : Cond.methodLink I.2.2.1 index y ∈ lw_all) (him : Cond.instanceMethod y ∈ lw_all) (hy1 : y.name = "<init>") (hdy : y.cls ≠ "java/lang/invoke/MethodHandle" ∧ y.cls ≠ "java/lang/invoke/VarHandle" ∧ (parseMethodDescriptor y.desc).map (fun d => d.parameters.length) = some n) (hfr : Nat.ble (fr2 + 1) I.2.2.2.2.2.1 = true) (hlo : Nat.ble (8 + (nL2 + 11) + lo2) I.2.2.2.2.2.2.1 = true) (hn : As.length = n) (hW : (rest.map fun v => v.category).sum ≤ 8) (hd : decode I.1 pc = .ok (.invokespecial index, 3))
    (hct : ∀ (l : Launch), l.stackTraces = false → ∀ (x : α) (h1 : PH), ro = some (x, h1) → CT l D y (ws_ y cc2 nL2 none) fr2 lo2 (va_rf r :: As) h (ov x) h1) (hr : ∃ a, r = some a) (hf : cl_ ro K = some o)
    (kk : ∀ (x : α) (h1 : PH) (rv : Option Value), ov x = .inr rv → K x h1 = some o → PF Γ I D h0 Q h1 (pc + 3) vs (rv.toList ++ rest)) (kx : ∀ (x : α) (h1 : PH) (ci q : Nat) (fs : List Value), ov x = .inl (ci, q) → h1.1 q = some (.inr (ci, fs)) → K x h1 = some o → PX Γ I D h0 Q h1 pc vs q) (st0 : List Value) (hst : st0 = As.reverse ++ va_rf r :: rest) : PF Γ I D h0 Q h pc vs st0 := by
  obtain ⟨a, rfl⟩ := hr
  obtain ⟨x, h1, rfl, hf⟩ := cl_in hf
  subst hst
  obtain ⟨p, l, e, R, s, m, args, below, meth, c⟩ := Γ
  intro X B ls hl H locs hM hz hS
  have X0 := X
  obtain ⟨cc, nL, own, rt, xt, fr, lo, nm⟩ := I
  have hWK := X.2.2.2.2.2.2.2.2.2.2.2.2.1
  have hRc : R.cells = pcl h0 := X.2.2.2.2.2.2.2.2.2.2.1
  have hRs : R.slots = psl h0 := X.2.2.2.2.2.2.2.2.2.2.2.1
  have hRf : fr ≤ R.frames := X.2.2.2.2.2.2.2.2.1
  have hRl : lo ≤ R.locals := X.2.2.2.2.2.2.2.2.2.1
  have hts := X.2.2.2.2.1
  refine j_ran rfl X0 B hl hM hz hS (vx_runI (As := As) (b := a) ⟨X.1, X.2.1, X.2.2.1, X.2.2.2.1, X.2.2.2.2.1⟩ (hct l X.2.2.2.2.2.2.2.2.2.2.2.2.2.2.2.1 x h1 rfl) (cwI n hts hG rfl rfl rfl (hts _ hini) (hts _ hlk) (hts _ him) hy1 hdy ⟨Nat.le_trans (Nat.le_of_ble_eq_true hfr) hRf, Nat.le_trans (Nat.le_of_ble_eq_true hlo) hRl⟩) ⟨cPre_blind, j_pre hWK B hM hS⟩ rfl hn hl.size rfl (lv_room hW) hd ?_) (fun rv e => kk x h1 rv e hf) (fun ci q fs e h9 => kx x h1 ci q fs e h9 hf)
  rw [hRc, hRs]
  exact j_left B
/-- Object.<init> -/
theorem j_objI {index : Nat} {r : Option Nat} (hlk : Cond.methodLink I.2.2.1 index Lib.objectInit ∈ lw_all) (him : Cond.instanceMethod Lib.objectInit ∈ lw_all) (hcode : Cond.code Lib.objectInit ⟨#[0xb1]⟩ 1 none ∈ lw_all) (hfr : Nat.ble 1 I.2.2.2.2.2.1 = true) (hlo : Nat.ble 20 I.2.2.2.2.2.2.1 = true) (hr : ∃ a, r = some a) (hW : (rest.map fun v => v.category).sum ≤ 8) (hd : decode I.1 pc = .ok (.invokespecial index, 3)) (kk : PF Γ I D h0 Q h (pc + 3) vs rest) : PF Γ I D h0 Q h pc vs (va_rf r :: rest) := by
  obtain ⟨a, rfl⟩ := hr
  obtain ⟨p, l, e, R, s, m, args, below, meth, c⟩ := Γ
  intro X B ls hl H locs hM hz hS
  obtain ⟨cc, nL, own, rt, xt, fr, lo, nm⟩ := I
  have hRf : fr ≤ R.frames := X.2.2.2.2.2.2.2.2.1
  have hRl : lo ≤ R.locals := X.2.2.2.2.2.2.2.2.2.1
  have hts := X.2.2.2.2.1
  have hlo : 20 ≤ lo := Nat.le_of_ble_eq_true hlo
  have hfr : 1 ≤ fr := Nat.le_of_ble_eq_true hfr
  refine W.objInit X.1 X.2.1 X.2.2.2.1 (hts _ hlk) (hts _ him) (hts _ hcode) rfl (hl.size.trans X.2.2.1.symm) rfl hd (by omega) ?_ (kk X B ls hl H locs hM hz hS)
  show 2 * 0 + _ + 12 ≤ _
  omega
theorem j_mmax {index : Nat} {x y : Int32} (hlk : Cond.methodLink I.2.2.1 index Lib.Math.max.name ∈ lw_all) (hst : Cond.static Lib.Math.max.name ∈ lw_all) (hini : Cond.initialized "java/lang/Math" ∈ lw_all) (hcode : Cond.code Lib.Math.max.name Lib.Math.max.code 2 (some .int) ∈ lw_all) (hfr : Nat.ble 1 I.2.2.2.2.2.1 = true) (hlo : Nat.ble 24 I.2.2.2.2.2.2.1 = true) (hW : (rest.map fun v => v.category).sum ≤ 8) (hd : decode I.1 pc = .ok (.invokestatic index, 3)) (kk : PF Γ I D h0 Q h (pc + 3) vs (.int (if x < y then y else x) :: rest)) : PF Γ I D h0 Q h pc vs (.int y :: .int x :: rest) := by
  obtain ⟨p, l, e, R, s, m, args, below, meth, c⟩ := Γ
  intro X B ls hl H locs hM hz hS
  obtain ⟨cc, nL, own, rt, xt, fr, lo, nm⟩ := I
  have hRf : fr ≤ R.frames := X.2.2.2.2.2.2.2.2.1
  have hRl : lo ≤ R.locals := X.2.2.2.2.2.2.2.2.2.1
  have hRc : R.cells = pcl h0 := X.2.2.2.2.2.2.2.2.2.2.1
  have hRs : R.slots = psl h0 := X.2.2.2.2.2.2.2.2.2.2.2.1
  have hts := X.2.2.2.2.1
  have hlo : 24 ≤ lo := Nat.le_of_ble_eq_true hlo
  have hfr : 1 ≤ fr := Nat.le_of_ble_eq_true hfr
  exact va_mmax X.1 X.2.1 (X.2.2.1.trans hl.size.symm) X.2.2.2.1 (hts _ hlk) (hts _ hst) (hts _ hini) (hts _ hcode) (by omega) (by omega) (by rw [hRc]; exact Nat.sub_le _ _) (by rw [hRs]; exact Nat.sub_le _ _) hd (kk X B ls hl H locs hM hz hS)
theorem j_mmin {index : Nat} {x y : Int32} (hlk : Cond.methodLink I.2.2.1 index Lib.Math.min.name ∈ lw_all) (hst : Cond.static Lib.Math.min.name ∈ lw_all) (hini : Cond.initialized "java/lang/Math" ∈ lw_all) (hcode : Cond.code Lib.Math.min.name Lib.Math.min.code 2 (some .int) ∈ lw_all) (hfr : Nat.ble 1 I.2.2.2.2.2.1 = true) (hlo : Nat.ble 24 I.2.2.2.2.2.2.1 = true) (hW : (rest.map fun v => v.category).sum ≤ 8) (hd : decode I.1 pc = .ok (.invokestatic index, 3)) (kk : PF Γ I D h0 Q h (pc + 3) vs (.int (if y < x then y else x) :: rest)) : PF Γ I D h0 Q h pc vs (.int y :: .int x :: rest) := by
  obtain ⟨p, l, e, R, s, m, args, below, meth, c⟩ := Γ
  intro X B ls hl H locs hM hz hS
  obtain ⟨cc, nL, own, rt, xt, fr, lo, nm⟩ := I
  have hRf : fr ≤ R.frames := X.2.2.2.2.2.2.2.2.1
  have hRl : lo ≤ R.locals := X.2.2.2.2.2.2.2.2.2.1
  have hRc : R.cells = pcl h0 := X.2.2.2.2.2.2.2.2.2.2.1
  have hRs : R.slots = psl h0 := X.2.2.2.2.2.2.2.2.2.2.2.1
  have hts := X.2.2.2.2.1
  have hlo : 24 ≤ lo := Nat.le_of_ble_eq_true hlo
  have hfr : 1 ≤ fr := Nat.le_of_ble_eq_true hfr
  exact va_mmin X.1 X.2.1 (X.2.2.1.trans hl.size.symm) X.2.2.2.1 (hts _ hlk) (hts _ hst) (hts _ hini) (hts _ hcode) (by omega) (by omega) (by rw [hRc]; exact Nat.sub_le _ _) (by rw [hRs]; exact Nat.sub_le _ _) hd (kk X B ls hl H locs hM hz hS)
theorem j_mabs {index : Nat} {x : Int32} (hlk : Cond.methodLink I.2.2.1 index Lib.Math.abs.name ∈ lw_all) (hst : Cond.static Lib.Math.abs.name ∈ lw_all) (hini : Cond.initialized "java/lang/Math" ∈ lw_all) (hcode : Cond.code Lib.Math.abs.name Lib.Math.abs.code 1 (some .int) ∈ lw_all) (hfr : Nat.ble 1 I.2.2.2.2.2.1 = true) (hlo : Nat.ble 24 I.2.2.2.2.2.2.1 = true) (hW : (rest.map fun v => v.category).sum ≤ 8) (hd : decode I.1 pc = .ok (.invokestatic index, 3)) (kk : PF Γ I D h0 Q h (pc + 3) vs (.int (if 0 ≤ x then x else 0 - x) :: rest)) : PF Γ I D h0 Q h pc vs (.int x :: rest) := by
  obtain ⟨p, l, e, R, s, m, args, below, meth, c⟩ := Γ
  intro X B ls hl H locs hM hz hS
  obtain ⟨cc, nL, own, rt, xt, fr, lo, nm⟩ := I
  have hRf : fr ≤ R.frames := X.2.2.2.2.2.2.2.2.1
  have hRl : lo ≤ R.locals := X.2.2.2.2.2.2.2.2.2.1
  have hRc : R.cells = pcl h0 := X.2.2.2.2.2.2.2.2.2.2.1
  have hRs : R.slots = psl h0 := X.2.2.2.2.2.2.2.2.2.2.2.1
  have hts := X.2.2.2.2.1
  have hlo : 24 ≤ lo := Nat.le_of_ble_eq_true hlo
  have hfr : 1 ≤ fr := Nat.le_of_ble_eq_true hfr
  exact va_mabs X.1 X.2.1 (X.2.2.1.trans hl.size.symm) X.2.2.2.1 (hts _ hlk) (hts _ hst) (hts _ hini) (hts _ hcode) (by omega) (by omega) (by rw [hRc]; exact Nat.sub_le _ _) (by rw [hRs]; exact Nat.sub_le _ _) hd (kk X B ls hl H locs hM hz hS)
theorem j_mmaxl {index : Nat} {x y : Int64} (hlk : Cond.methodLink I.2.2.1 index Lib.MathLoose.max_long.x ∈ lw_all) (hst : Cond.static Lib.MathLoose.max_long.x ∈ lw_all) (hini : Cond.initialized "java/lang/Math" ∈ lw_all) (hcode : Cond.code Lib.MathLoose.max_long.x Lib.MathLoose.max_long.code 4 (some .long) ∈ lw_all) (hfr : Nat.ble 1 I.2.2.2.2.2.1 = true) (hlo : Nat.ble 24 I.2.2.2.2.2.2.1 = true) (hW : (rest.map fun v => v.category).sum ≤ 8) (hd : decode I.1 pc = .ok (.invokestatic index, 3)) (kk : PF Γ I D h0 Q h (pc + 3) vs (.long (if y < x then x else y) :: rest)) : PF Γ I D h0 Q h pc vs (.long y :: .long x :: rest) := by
  obtain ⟨p, l, e, R, s, m, args, below, meth, c⟩ := Γ
  intro X B ls hl H locs hM hz hS
  obtain ⟨cc, nL, own, rt, xt, fr, lo, nm⟩ := I
  have hRf : fr ≤ R.frames := X.2.2.2.2.2.2.2.2.1
  have hRl : lo ≤ R.locals := X.2.2.2.2.2.2.2.2.2.1
  have hRc : R.cells = pcl h0 := X.2.2.2.2.2.2.2.2.2.2.1
  have hRs : R.slots = psl h0 := X.2.2.2.2.2.2.2.2.2.2.2.1
  have hts := X.2.2.2.2.1
  have hlo : 24 ≤ lo := Nat.le_of_ble_eq_true hlo
  have hfr : 1 ≤ fr := Nat.le_of_ble_eq_true hfr
  exact va_mmax_long X.1 X.2.1 (X.2.2.1.trans hl.size.symm) X.2.2.2.1 (hts _ hlk) (hts _ hst) (hts _ hini) (hts _ hcode) (by omega) (by omega) (by rw [hRc]; exact Nat.sub_le _ _) (by rw [hRs]; exact Nat.sub_le _ _) hd (kk X B ls hl H locs hM hz hS)
theorem j_mminl {index : Nat} {x y : Int64} (hlk : Cond.methodLink I.2.2.1 index Lib.MathLoose.min_long.x ∈ lw_all) (hst : Cond.static Lib.MathLoose.min_long.x ∈ lw_all) (hini : Cond.initialized "java/lang/Math" ∈ lw_all) (hcode : Cond.code Lib.MathLoose.min_long.x Lib.MathLoose.min_long.code 4 (some .long) ∈ lw_all) (hfr : Nat.ble 1 I.2.2.2.2.2.1 = true) (hlo : Nat.ble 24 I.2.2.2.2.2.2.1 = true) (hW : (rest.map fun v => v.category).sum ≤ 8) (hd : decode I.1 pc = .ok (.invokestatic index, 3)) (kk : PF Γ I D h0 Q h (pc + 3) vs (.long (if y < x then y else x) :: rest)) : PF Γ I D h0 Q h pc vs (.long y :: .long x :: rest) := by
  obtain ⟨p, l, e, R, s, m, args, below, meth, c⟩ := Γ
  intro X B ls hl H locs hM hz hS
  obtain ⟨cc, nL, own, rt, xt, fr, lo, nm⟩ := I
  have hRf : fr ≤ R.frames := X.2.2.2.2.2.2.2.2.1
  have hRl : lo ≤ R.locals := X.2.2.2.2.2.2.2.2.2.1
  have hRc : R.cells = pcl h0 := X.2.2.2.2.2.2.2.2.2.2.1
  have hRs : R.slots = psl h0 := X.2.2.2.2.2.2.2.2.2.2.2.1
  have hts := X.2.2.2.2.1
  have hlo : 24 ≤ lo := Nat.le_of_ble_eq_true hlo
  have hfr : 1 ≤ fr := Nat.le_of_ble_eq_true hfr
  exact va_mmin_long X.1 X.2.1 (X.2.2.1.trans hl.size.symm) X.2.2.2.1 (hts _ hlk) (hts _ hst) (hts _ hini) (hts _ hcode) (by omega) (by omega) (by rw [hRc]; exact Nat.sub_le _ _) (by rw [hRs]; exact Nat.sub_le _ _) hd (kk X B ls hl H locs hM hz hS)
end JE
theorem cat_i (x : Int32) : (Value.int x).category = 1 := rfl
theorem cat_l (x : Int64) : (Value.long x).category = 2 := rfl
theorem lgl (vs : List Value) : (lg_sl vs).length = (vs.map Value.category).sum := by
  induction vs with
  | nil => rfl
  | cons v vs ih =>
    have h1 : lg_sl (v :: vs) = (if v.category = 2 then [Slot.val v, .second] else [.val v]) ++ lg_sl vs := rfl
    rw [h1, List.length_append, ih, List.map_cons, List.sum_cons]
    rcases lv_cat v with h | h
    · rw [h]; rfl
    · rw [h]; rfl
