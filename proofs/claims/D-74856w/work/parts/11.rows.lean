/-! LOCAL INSTRUCTIONS over PF (printed by mkrows.py) -/
set_option maxRecDepth 100000
section JR
variable {Γ : GX} {I : MI} {D : va_G} {h0 : PH} {Q : State → Prop} {h : PH} {pc : Nat} {vs : List (Option Value)} {rest : List Value}
theorem j_iadd {x y : Int32} (hd : decode I.1 pc = .ok (.iadd, 1)) (k : PF Γ I D h0 Q h (pc + 1) vs (.int (x + y) :: rest)) : PF Γ I D h0 Q h pc vs (.int y :: .int x :: rest) := by
  obtain ⟨p, l, e, R, s, m, args, below, meth, c⟩ := Γ
  obtain ⟨cc, nL, own, rt, xt, fr, lo, nm⟩ := I
  intro X B ls hl H locs hM hz hS
  exact lv_iadd X.1 X.2.1 hd (k X B ls hl H locs hM hz hS)
theorem j_isub {x y : Int32} (hd : decode I.1 pc = .ok (.isub, 1)) (k : PF Γ I D h0 Q h (pc + 1) vs (.int (x - y) :: rest)) : PF Γ I D h0 Q h pc vs (.int y :: .int x :: rest) := by
  obtain ⟨p, l, e, R, s, m, args, below, meth, c⟩ := Γ
  obtain ⟨cc, nL, own, rt, xt, fr, lo, nm⟩ := I
  intro X B ls hl H locs hM hz hS
  exact lv_isub X.1 X.2.1 hd (k X B ls hl H locs hM hz hS)
theorem j_imul {x y : Int32} (hd : decode I.1 pc = .ok (.imul, 1)) (k : PF Γ I D h0 Q h (pc + 1) vs (.int (x * y) :: rest)) : PF Γ I D h0 Q h pc vs (.int y :: .int x :: rest) := by
  obtain ⟨p, l, e, R, s, m, args, below, meth, c⟩ := Γ
  obtain ⟨cc, nL, own, rt, xt, fr, lo, nm⟩ := I
  intro X B ls hl H locs hM hz hS
  exact lv_imul X.1 X.2.1 hd (k X B ls hl H locs hM hz hS)
theorem j_iand {x y : Int32} (hd : decode I.1 pc = .ok (.iand, 1)) (k : PF Γ I D h0 Q h (pc + 1) vs (.int (x &&& y) :: rest)) : PF Γ I D h0 Q h pc vs (.int y :: .int x :: rest) := by
  obtain ⟨p, l, e, R, s, m, args, below, meth, c⟩ := Γ
  obtain ⟨cc, nL, own, rt, xt, fr, lo, nm⟩ := I
  intro X B ls hl H locs hM hz hS
  exact lv_iand X.1 X.2.1 hd (k X B ls hl H locs hM hz hS)
theorem j_ior {x y : Int32} (hd : decode I.1 pc = .ok (.ior, 1)) (k : PF Γ I D h0 Q h (pc + 1) vs (.int (x ||| y) :: rest)) : PF Γ I D h0 Q h pc vs (.int y :: .int x :: rest) := by
  obtain ⟨p, l, e, R, s, m, args, below, meth, c⟩ := Γ
  obtain ⟨cc, nL, own, rt, xt, fr, lo, nm⟩ := I
  intro X B ls hl H locs hM hz hS
  exact lv_ior X.1 X.2.1 hd (k X B ls hl H locs hM hz hS)
theorem j_ixor {x y : Int32} (hd : decode I.1 pc = .ok (.ixor, 1)) (k : PF Γ I D h0 Q h (pc + 1) vs (.int (x ^^^ y) :: rest)) : PF Γ I D h0 Q h pc vs (.int y :: .int x :: rest) := by
  obtain ⟨p, l, e, R, s, m, args, below, meth, c⟩ := Γ
  obtain ⟨cc, nL, own, rt, xt, fr, lo, nm⟩ := I
  intro X B ls hl H locs hM hz hS
  exact lv_ixor X.1 X.2.1 hd (k X B ls hl H locs hM hz hS)
theorem j_ishl {x y : Int32} (hd : decode I.1 pc = .ok (.ishl, 1)) (k : PF Γ I D h0 Q h (pc + 1) vs (.int (x <<< (y &&& 31)) :: rest)) : PF Γ I D h0 Q h pc vs (.int y :: .int x :: rest) := by
  obtain ⟨p, l, e, R, s, m, args, below, meth, c⟩ := Γ
  obtain ⟨cc, nL, own, rt, xt, fr, lo, nm⟩ := I
  intro X B ls hl H locs hM hz hS
  exact lv_ishl X.1 X.2.1 hd (k X B ls hl H locs hM hz hS)
theorem j_ishr {x y : Int32} (hd : decode I.1 pc = .ok (.ishr, 1)) (k : PF Γ I D h0 Q h (pc + 1) vs (.int (x >>> (y &&& 31)) :: rest)) : PF Γ I D h0 Q h pc vs (.int y :: .int x :: rest) := by
  obtain ⟨p, l, e, R, s, m, args, below, meth, c⟩ := Γ
  obtain ⟨cc, nL, own, rt, xt, fr, lo, nm⟩ := I
  intro X B ls hl H locs hM hz hS
  exact lv_ishr X.1 X.2.1 hd (k X B ls hl H locs hM hz hS)
theorem j_ladd {x y : Int64} (hd : decode I.1 pc = .ok (.ladd, 1)) (k : PF Γ I D h0 Q h (pc + 1) vs (.long (x + y) :: rest)) : PF Γ I D h0 Q h pc vs (.long y :: .long x :: rest) := by
  obtain ⟨p, l, e, R, s, m, args, below, meth, c⟩ := Γ
  obtain ⟨cc, nL, own, rt, xt, fr, lo, nm⟩ := I
  intro X B ls hl H locs hM hz hS
  exact lv_ladd X.1 X.2.1 hd (k X B ls hl H locs hM hz hS)
theorem j_lsub {x y : Int64} (hd : decode I.1 pc = .ok (.lsub, 1)) (k : PF Γ I D h0 Q h (pc + 1) vs (.long (x - y) :: rest)) : PF Γ I D h0 Q h pc vs (.long y :: .long x :: rest) := by
  obtain ⟨p, l, e, R, s, m, args, below, meth, c⟩ := Γ
  obtain ⟨cc, nL, own, rt, xt, fr, lo, nm⟩ := I
  intro X B ls hl H locs hM hz hS
  exact lv_lsub X.1 X.2.1 hd (k X B ls hl H locs hM hz hS)
theorem j_lmul {x y : Int64} (hd : decode I.1 pc = .ok (.lmul, 1)) (k : PF Γ I D h0 Q h (pc + 1) vs (.long (x * y) :: rest)) : PF Γ I D h0 Q h pc vs (.long y :: .long x :: rest) := by
  obtain ⟨p, l, e, R, s, m, args, below, meth, c⟩ := Γ
  obtain ⟨cc, nL, own, rt, xt, fr, lo, nm⟩ := I
  intro X B ls hl H locs hM hz hS
  exact lv_lmul X.1 X.2.1 hd (k X B ls hl H locs hM hz hS)
theorem j_lcmp {x y : Int64} (hd : decode I.1 pc = .ok (.lcmp, 1)) (k : PF Γ I D h0 Q h (pc + 1) vs (.int (lg_cmp x y) :: rest)) : PF Γ I D h0 Q h pc vs (.long y :: .long x :: rest) := by
  obtain ⟨p, l, e, R, s, m, args, below, meth, c⟩ := Γ
  obtain ⟨cc, nL, own, rt, xt, fr, lo, nm⟩ := I
  intro X B ls hl H locs hM hz hS
  exact W.lcmp X.1 X.2.1 hd (k X B ls hl H locs hM hz hS)
theorem j_ineg {x : Int32} (hd : decode I.1 pc = .ok (.ineg, 1)) (k : PF Γ I D h0 Q h (pc + 1) vs (.int (-x) :: rest)) : PF Γ I D h0 Q h pc vs (.int x :: rest) := by
  obtain ⟨p, l, e, R, s, m, args, below, meth, c⟩ := Γ
  obtain ⟨cc, nL, own, rt, xt, fr, lo, nm⟩ := I
  intro X B ls hl H locs hM hz hS
  exact lv_ineg X.1 X.2.1 hd (k X B ls hl H locs hM hz hS)
def dvI {β : Type} (y : Int32) (K : Option β) : Option β := if y = 0 then none else K
def dvL {β : Type} (y : Int64) (K : Option β) : Option β := if y = 0 then none else K
theorem dvI_ne {β : Type} {y : Int32} {K : Option β} {o : β} (hf : dvI y K = some o) : ¬ y = 0 ∧ K = some o := by
  unfold dvI at hf
  split at hf
  · cases hf
  · exact ⟨by assumption, hf⟩
theorem dvL_ne {β : Type} {y : Int64} {K : Option β} {o : β} (hf : dvL y K = some o) : ¬ y = 0 ∧ K = some o := by
  unfold dvL at hf
  split at hf
  · cases hf
  · exact ⟨by assumption, hf⟩
theorem j_idiv {x y : Int32} {β : Type} {K : Option β} {o : β} (hd : decode I.1 pc = .ok (.idiv, 1)) (hf : dvI y K = some o) (k : K = some o → PF Γ I D h0 Q h (pc + 1) vs (.int (x / y) :: rest)) : PF Γ I D h0 Q h pc vs (.int y :: .int x :: rest) := by
  obtain ⟨p, l, e, R, s, m, args, below, meth, c⟩ := Γ
  obtain ⟨cc, nL, own, rt, xt, fr, lo, nm⟩ := I
  intro X B ls hl H locs hM hz hS
  exact lv_idiv X.1 X.2.1 hd (dvI_ne hf).1 (k (dvI_ne hf).2 X B ls hl H locs hM hz hS)
theorem j_irem {x y : Int32} {β : Type} {K : Option β} {o : β} (hd : decode I.1 pc = .ok (.irem, 1)) (hf : dvI y K = some o) (k : K = some o → PF Γ I D h0 Q h (pc + 1) vs (.int (x - x / y * y) :: rest)) : PF Γ I D h0 Q h pc vs (.int y :: .int x :: rest) := by
  obtain ⟨p, l, e, R, s, m, args, below, meth, c⟩ := Γ
  obtain ⟨cc, nL, own, rt, xt, fr, lo, nm⟩ := I
  intro X B ls hl H locs hM hz hS
  exact lv_irem X.1 X.2.1 hd (dvI_ne hf).1 (k (dvI_ne hf).2 X B ls hl H locs hM hz hS)
theorem j_ldiv {x y : Int64} {β : Type} {K : Option β} {o : β} (hd : decode I.1 pc = .ok (.ldiv, 1)) (hf : dvL y K = some o) (k : K = some o → PF Γ I D h0 Q h (pc + 1) vs (.long (x / y) :: rest)) : PF Γ I D h0 Q h pc vs (.long y :: .long x :: rest) := by
  obtain ⟨p, l, e, R, s, m, args, below, meth, c⟩ := Γ
  obtain ⟨cc, nL, own, rt, xt, fr, lo, nm⟩ := I
  intro X B ls hl H locs hM hz hS
  exact lv_ldiv X.1 X.2.1 hd (dvL_ne hf).1 (k (dvL_ne hf).2 X B ls hl H locs hM hz hS)
theorem j_lrem {x y : Int64} {β : Type} {K : Option β} {o : β} (hd : decode I.1 pc = .ok (.lrem, 1)) (hf : dvL y K = some o) (k : K = some o → PF Γ I D h0 Q h (pc + 1) vs (.long (x - x / y * y) :: rest)) : PF Γ I D h0 Q h pc vs (.long y :: .long x :: rest) := by
  obtain ⟨p, l, e, R, s, m, args, below, meth, c⟩ := Γ
  obtain ⟨cc, nL, own, rt, xt, fr, lo, nm⟩ := I
  intro X B ls hl H locs hM hz hS
  exact lv_lrem X.1 X.2.1 hd (dvL_ne hf).1 (k (dvL_ne hf).2 X B ls hl H locs hM hz hS)
theorem j_iconst {n : Int} (v : Int32) (hd : decode I.1 pc = .ok (.iconst n, 1)) (hv : Int32.ofInt n = v) (k : PF Γ I D h0 Q h (pc + 1) vs (.int v :: rest)) : PF Γ I D h0 Q h pc vs rest := by
  obtain ⟨p, l, e, R, s, m, args, below, meth, c⟩ := Γ
  obtain ⟨cc, nL, own, rt, xt, fr, lo, nm⟩ := I
  intro X B ls hl H locs hM hz hS
  exact lv_iconst X.1 X.2.1 hd hv (k X B ls hl H locs hM hz hS)
theorem j_bipush {n : Int} (v : Int32) (hd : decode I.1 pc = .ok (.bipush n, 2)) (hv : (Int8.ofInt n).toInt32 = v) (k : PF Γ I D h0 Q h (pc + 2) vs (.int v :: rest)) : PF Γ I D h0 Q h pc vs rest := by
  obtain ⟨p, l, e, R, s, m, args, below, meth, c⟩ := Γ
  obtain ⟨cc, nL, own, rt, xt, fr, lo, nm⟩ := I
  intro X B ls hl H locs hM hz hS
  exact lv_bipush X.1 X.2.1 hd hv (k X B ls hl H locs hM hz hS)
theorem j_sipush {n : Int} (v : Int32) (hd : decode I.1 pc = .ok (.sipush n, 3)) (hv : (Int16.ofInt n).toInt32 = v) (k : PF Γ I D h0 Q h (pc + 3) vs (.int v :: rest)) : PF Γ I D h0 Q h pc vs rest := by
  obtain ⟨p, l, e, R, s, m, args, below, meth, c⟩ := Γ
  obtain ⟨cc, nL, own, rt, xt, fr, lo, nm⟩ := I
  intro X B ls hl H locs hM hz hS
  exact lv_sipush X.1 X.2.1 hd hv (k X B ls hl H locs hM hz hS)
theorem j_lconst {n : Fin 2} (v : Int64) (hd : decode I.1 pc = .ok (.lconst n, 1)) (hv : Int64.ofNat (n : Nat) = v) (k : PF Γ I D h0 Q h (pc + 1) vs (.long v :: rest)) : PF Γ I D h0 Q h pc vs rest := by
  obtain ⟨p, l, e, R, s, m, args, below, meth, c⟩ := Γ
  obtain ⟨cc, nL, own, rt, xt, fr, lo, nm⟩ := I
  intro X B ls hl H locs hM hz hS
  exact lv_lconst X.1 X.2.1 hd hv (k X B ls hl H locs hM hz hS)
theorem j_ldc {index : Nat} {v : Int32} (hw : Cond.constant I.2.2.1 index v ∈ lw_all) (hd : decode I.1 pc = .ok (.ldc index, 2)) (k : PF Γ I D h0 Q h (pc + 2) vs (.int v :: rest)) : PF Γ I D h0 Q h pc vs rest := by
  obtain ⟨p, l, e, R, s, m, args, below, meth, c⟩ := Γ
  obtain ⟨cc, nL, own, rt, xt, fr, lo, nm⟩ := I
  intro X B ls hl H locs hM hz hS
  exact lv_ldc X.1 X.2.1 X.2.2.2.1 (X.2.2.2.2.1 _ hw) hd (k X B ls hl H locs hM hz hS)
theorem j_ldcw {index : Nat} {v : Int32} (hw : Cond.constant I.2.2.1 index v ∈ lw_all) (hd : decode I.1 pc = .ok (.ldc_w index, 3)) (k : PF Γ I D h0 Q h (pc + 3) vs (.int v :: rest)) : PF Γ I D h0 Q h pc vs rest := by
  obtain ⟨p, l, e, R, s, m, args, below, meth, c⟩ := Γ
  obtain ⟨cc, nL, own, rt, xt, fr, lo, nm⟩ := I
  intro X B ls hl H locs hM hz hS
  exact lv_ldcw X.1 X.2.1 X.2.2.2.1 (X.2.2.2.2.1 _ hw) hd (k X B ls hl H locs hM hz hS)
theorem j_ldc2 {index : Nat} {v : Int64} (hw : Cond.constantLong I.2.2.1 index v ∈ lw_all) (hd : decode I.1 pc = .ok (.ldc2_w index, 3)) (k : PF Γ I D h0 Q h (pc + 3) vs (.long v :: rest)) : PF Γ I D h0 Q h pc vs rest := by
  obtain ⟨p, l, e, R, s, m, args, below, meth, c⟩ := Γ
  obtain ⟨cc, nL, own, rt, xt, fr, lo, nm⟩ := I
  intro X B ls hl H locs hM hz hS
  exact lv_ldc2 X.1 X.2.1 X.2.2.2.1 (X.2.2.2.2.1 _ hw) hd (k X B ls hl H locs hM hz hS)
theorem j_aconst_null  (hd : decode I.1 pc = .ok (.aconst_null, 1)) (k : PF Γ I D h0 Q h (pc + 1) vs (va_rf none :: rest)) : PF Γ I D h0 Q h pc vs rest := by
  obtain ⟨p, l, e, R, s, m, args, below, meth, c⟩ := Γ
  obtain ⟨cc, nL, own, rt, xt, fr, lo, nm⟩ := I
  intro X B ls hl H locs hM hz hS
  exact lv_null X.1 X.2.1 hd (k X B ls hl H locs hM hz hS)
theorem j_i2l {x : Int32} (hd : decode I.1 pc = .ok (.i2l, 1)) (k : PF Γ I D h0 Q h (pc + 1) vs (.long (x.toInt64) :: rest)) : PF Γ I D h0 Q h pc vs (.int x :: rest) := by
  obtain ⟨p, l, e, R, s, m, args, below, meth, c⟩ := Γ
  obtain ⟨cc, nL, own, rt, xt, fr, lo, nm⟩ := I
  intro X B ls hl H locs hM hz hS
  exact lv_i2l X.1 X.2.1 hd rfl (k X B ls hl H locs hM hz hS)
theorem j_l2i {x : Int64} (hd : decode I.1 pc = .ok (.l2i, 1)) (k : PF Γ I D h0 Q h (pc + 1) vs (.int (x.toInt32) :: rest)) : PF Γ I D h0 Q h pc vs (.long x :: rest) := by
  obtain ⟨p, l, e, R, s, m, args, below, meth, c⟩ := Γ
  obtain ⟨cc, nL, own, rt, xt, fr, lo, nm⟩ := I
  intro X B ls hl H locs hM hz hS
  exact lv_l2i X.1 X.2.1 hd rfl (k X B ls hl H locs hM hz hS)
theorem j_i2b {x : Int32} (hd : decode I.1 pc = .ok (.i2b, 1)) (k : PF Γ I D h0 Q h (pc + 1) vs (.int (x.toInt8.toInt32) :: rest)) : PF Γ I D h0 Q h pc vs (.int x :: rest) := by
  obtain ⟨p, l, e, R, s, m, args, below, meth, c⟩ := Γ
  obtain ⟨cc, nL, own, rt, xt, fr, lo, nm⟩ := I
  intro X B ls hl H locs hM hz hS
  exact lv_i2b X.1 X.2.1 hd rfl (k X B ls hl H locs hM hz hS)
theorem j_i2c {x : Int32} (hd : decode I.1 pc = .ok (.i2c, 1)) (k : PF Γ I D h0 Q h (pc + 1) vs (.int ((x.toUInt32 % 65536).toInt32) :: rest)) : PF Γ I D h0 Q h pc vs (.int x :: rest) := by
  obtain ⟨p, l, e, R, s, m, args, below, meth, c⟩ := Γ
  obtain ⟨cc, nL, own, rt, xt, fr, lo, nm⟩ := I
  intro X B ls hl H locs hM hz hS
  exact lv_i2c X.1 X.2.1 hd rfl (k X B ls hl H locs hM hz hS)
theorem j_dup {v : Value} (hd : decode I.1 pc = .ok (.dup, 1)) (hc : v.category = 1) (k : PF Γ I D h0 Q h (pc + 1) vs (v :: v :: rest)) : PF Γ I D h0 Q h pc vs (v :: rest) := by
  obtain ⟨p, l, e, R, s, m, args, below, meth, c⟩ := Γ
  obtain ⟨cc, nL, own, rt, xt, fr, lo, nm⟩ := I
  intro X B ls hl H locs hM hz hS
  exact lv_dup X.1 X.2.1 hd hc (k X B ls hl H locs hM hz hS)
theorem j_pop {v : Value} (hd : decode I.1 pc = .ok (.pop, 1)) (hc : v.category = 1) (k : PF Γ I D h0 Q h (pc + 1) vs rest) : PF Γ I D h0 Q h pc vs (v :: rest) := by
  obtain ⟨p, l, e, R, s, m, args, below, meth, c⟩ := Γ
  obtain ⟨cc, nL, own, rt, xt, fr, lo, nm⟩ := I
  intro X B ls hl H locs hM hz hS
  exact lv_pop X.1 X.2.1 hd hc (k X B ls hl H locs hM hz hS)
theorem j_dup_x1 {v w : Value} (hd : decode I.1 pc = .ok (.dup_x1, 1)) (hc : v.category = 1) (hc2 : w.category = 1) (k : PF Γ I D h0 Q h (pc + 1) vs (v :: w :: v :: rest)) : PF Γ I D h0 Q h pc vs (v :: w :: rest) := by
  obtain ⟨p, l, e, R, s, m, args, below, meth, c⟩ := Γ
  obtain ⟨cc, nL, own, rt, xt, fr, lo, nm⟩ := I
  intro X B ls hl H locs hM hz hS
  exact lv_dup_x1 X.1 X.2.1 hd hc hc2 (k X B ls hl H locs hM hz hS)
theorem j_dup2 {v w : Value} (hd : decode I.1 pc = .ok (.dup2, 1)) (hc : v.category = 1) (hc2 : w.category = 1) (k : PF Γ I D h0 Q h (pc + 1) vs (v :: w :: v :: w :: rest)) : PF Γ I D h0 Q h pc vs (v :: w :: rest) := by
  obtain ⟨p, l, e, R, s, m, args, below, meth, c⟩ := Γ
  obtain ⟨cc, nL, own, rt, xt, fr, lo, nm⟩ := I
  intro X B ls hl H locs hM hz hS
  exact lv_dup2_11 X.1 X.2.1 hd hc hc2 (k X B ls hl H locs hM hz hS)
theorem j_iload_n {n : Fin 4} {x : Int32} (i : Nat) (hd : decode I.1 pc = .ok (.iload_n n, 1)) (hi : (n : Nat) = i) (hv : vs[i]? = some (some (.int x))) (k : PF Γ I D h0 Q h (pc + 1) vs (.int x :: rest)) : PF Γ I D h0 Q h pc vs rest := by
  obtain ⟨p, l, e, R, s, m, args, below, meth, c⟩ := Γ
  obtain ⟨cc, nL, own, rt, xt, fr, lo, nm⟩ := I
  intro X B ls hl H locs hM hz hS
  exact lv_iload_n X.1 X.2.1 hd hi (hl.at hv) (k X B ls hl H locs hM hz hS)
theorem j_iload {x : Int32} {i : Nat} (hd : decode I.1 pc = .ok (.iload i, 2)) (hv : vs[i]? = some (some (.int x))) (k : PF Γ I D h0 Q h (pc + 2) vs (.int x :: rest)) : PF Γ I D h0 Q h pc vs rest := by
  obtain ⟨p, l, e, R, s, m, args, below, meth, c⟩ := Γ
  obtain ⟨cc, nL, own, rt, xt, fr, lo, nm⟩ := I
  intro X B ls hl H locs hM hz hS
  exact lv_iload X.1 X.2.1 hd (hl.at hv) (k X B ls hl H locs hM hz hS)
theorem j_lload_n {n : Fin 4} {x : Int64} (i : Nat) (hd : decode I.1 pc = .ok (.lload_n n, 1)) (hi : (n : Nat) = i) (hv : vs[i]? = some (some (.long x))) (k : PF Γ I D h0 Q h (pc + 1) vs (.long x :: rest)) : PF Γ I D h0 Q h pc vs rest := by
  obtain ⟨p, l, e, R, s, m, args, below, meth, c⟩ := Γ
  obtain ⟨cc, nL, own, rt, xt, fr, lo, nm⟩ := I
  intro X B ls hl H locs hM hz hS
  exact lv_lload_n X.1 X.2.1 hd hi (hl.at hv) (k X B ls hl H locs hM hz hS)
theorem j_lload {x : Int64} {i : Nat} (hd : decode I.1 pc = .ok (.lload i, 2)) (hv : vs[i]? = some (some (.long x))) (k : PF Γ I D h0 Q h (pc + 2) vs (.long x :: rest)) : PF Γ I D h0 Q h pc vs rest := by
  obtain ⟨p, l, e, R, s, m, args, below, meth, c⟩ := Γ
  obtain ⟨cc, nL, own, rt, xt, fr, lo, nm⟩ := I
  intro X B ls hl H locs hM hz hS
  exact lv_lload X.1 X.2.1 hd (hl.at hv) (k X B ls hl H locs hM hz hS)
theorem j_aload_n {n : Fin 4} {r : Option Nat} (i : Nat) (hd : decode I.1 pc = .ok (.aload_n n, 1)) (hi : (n : Nat) = i) (hv : vs[i]? = some (some (va_rf r))) (k : PF Γ I D h0 Q h (pc + 1) vs (va_rf r :: rest)) : PF Γ I D h0 Q h pc vs rest := by
  obtain ⟨p, l, e, R, s, m, args, below, meth, c⟩ := Γ
  obtain ⟨cc, nL, own, rt, xt, fr, lo, nm⟩ := I
  intro X B ls hl H locs hM hz hS
  cases r with
  | none => exact lv_aload_nN X.1 X.2.1 hd hi (hl.at hv) (k X B ls hl H locs hM hz hS)
  | some a => exact lv_aload_n X.1 X.2.1 hd hi (hl.at hv) (k X B ls hl H locs hM hz hS)
theorem j_aload {i : Nat} {r : Option Nat} (hd : decode I.1 pc = .ok (.aload i, 2)) (hv : vs[i]? = some (some (va_rf r))) (k : PF Γ I D h0 Q h (pc + 2) vs (va_rf r :: rest)) : PF Γ I D h0 Q h pc vs rest := by
  obtain ⟨p, l, e, R, s, m, args, below, meth, c⟩ := Γ
  obtain ⟨cc, nL, own, rt, xt, fr, lo, nm⟩ := I
  intro X B ls hl H locs hM hz hS
  cases r with
  | none => exact lv_aloadN X.1 X.2.1 hd (hl.at hv) (k X B ls hl H locs hM hz hS)
  | some a => exact lv_aload X.1 X.2.1 hd (hl.at hv) (k X B ls hl H locs hM hz hS)
theorem jLS.put1 {vs : List (Option Value)} {l : List (Nat × Value)} {ls' : Array Slot} {nL i : Nat} {x : Value} (h2 : ∀ (j : Nat) (v : Value), vs[j]? = some (some v) → (j, v) ∈ l) (hc : ∀ w : Value, vs[i - 1]? = some (some w) → w.category = 1) (hh : lv_has ls' nL ((i, x) :: l.filter (fun q => !(q.1 == i) && !(q.1 + 1 == i && q.2.category == 2)))) : jLS (vs.set i (some x)) ls' nL := by
  refine ⟨_, hh, fun j v hj => ?_⟩
  by_cases hji : j = i
  · subst hji
    have hlen : j < (vs.set j (some x)).length := (List.getElem?_eq_some_iff.mp hj).1
    rw [List.length_set] at hlen
    rw [List.getElem?_set_self hlen] at hj
    cases hj
    exact List.mem_cons_self
  · rw [List.getElem?_set_ne (fun q => hji q.symm)] at hj
    refine List.mem_cons_of_mem _ (List.mem_filter.mpr ⟨h2 j v hj, ?_⟩)
    have e1 : (j == i) = false := by simpa using hji
    by_cases h3 : j + 1 = i
    · subst h3
      have := hc v hj
      simp [this]
    · have e2 : (j + 1 == i) = false := by simpa using h3
      simp [e1, e2]
theorem jLS.put2 {vs : List (Option Value)} {l : List (Nat × Value)} {ls' : Array Slot} {nL i : Nat} {x : Value} (h2 : ∀ (j : Nat) (v : Value), vs[j]? = some (some v) → (j, v) ∈ l) (hc : ∀ w : Value, vs[i - 1]? = some (some w) → w.category = 1) (hh : lv_has ls' nL ((i, x) :: l.filter (fun q => !(q.1 == i) && (!(q.1 == i + 1) && !(q.1 + 1 == i && q.2.category == 2))))) : jLS ((vs.set i (some x)).set (i + 1) none) ls' nL := by
  refine ⟨_, hh, fun j v hj => ?_⟩
  by_cases hj1 : j = i + 1
  · subst hj1
    have hlen : i + 1 < ((vs.set i (some x)).set (i + 1) none).length := (List.getElem?_eq_some_iff.mp hj).1
    rw [List.length_set] at hlen
    rw [List.getElem?_set_self hlen] at hj
    cases hj
  · rw [List.getElem?_set_ne (fun q => hj1 q.symm)] at hj
    by_cases hji : j = i
    · subst hji
      have hlen : j < (vs.set j (some x)).length := (List.getElem?_eq_some_iff.mp hj).1
      rw [List.length_set] at hlen
      rw [List.getElem?_set_self hlen] at hj
      cases hj
      exact List.mem_cons_self
    · rw [List.getElem?_set_ne (fun q => hji q.symm)] at hj
      refine List.mem_cons_of_mem _ (List.mem_filter.mpr ⟨h2 j v hj, ?_⟩)
      have e1 : (j == i) = false := by simpa using hji
      have e3 : (j == i + 1) = false := by simpa using hj1
      by_cases h3 : j + 1 = i
      · subst h3
        have := hc v hj
        simp [this]
        omega
      · have e2 : (j + 1 == i) = false := by simpa using h3
        simp [e1, e2, e3]
theorem j_istore_n {n : Fin 4} {x : Int32} (i : Nat) (vs' : List (Option Value)) (hd : decode I.1 pc = .ok (.istore_n n, 1)) (hi : (n : Nat) = i) (hc : ∀ w : Value, vs[i - 1]? = some (some w) → w.category = 1) (hn : Nat.blt i I.2.1 = true) (hv : vs.set i (some (.int x)) = vs') (k : PF Γ I D h0 Q h (pc + 1) vs' rest) : PF Γ I D h0 Q h pc vs (.int x :: rest) := by
  obtain ⟨p, l, e, R, s, m, args, below, meth, c⟩ := Γ
  obtain ⟨cc, nL, own, rt, xt, fr, lo, nm⟩ := I
  intro X B ls hl H locs hM hz hS
  subst hv
  obtain ⟨l9, h1, h2⟩ := hl
  exact lv_istore_n X.1 X.2.1 hd hi h1 (Nat.le_of_ble_eq_true hn) rfl (fun ls' hh => k X B ls' (jLS.put1 h2 hc hh) H locs hM hz hS)
theorem j_istore {i : Nat} {x : Int32} (vs' : List (Option Value)) (hd : decode I.1 pc = .ok (.istore i, 2)) (hc : ∀ w : Value, vs[i - 1]? = some (some w) → w.category = 1) (hn : Nat.blt i I.2.1 = true) (hv : vs.set i (some (.int x)) = vs') (k : PF Γ I D h0 Q h (pc + 2) vs' rest) : PF Γ I D h0 Q h pc vs (.int x :: rest) := by
  obtain ⟨p, l, e, R, s, m, args, below, meth, c⟩ := Γ
  obtain ⟨cc, nL, own, rt, xt, fr, lo, nm⟩ := I
  intro X B ls hl H locs hM hz hS
  subst hv
  obtain ⟨l9, h1, h2⟩ := hl
  exact lv_istore X.1 X.2.1 hd h1 (Nat.le_of_ble_eq_true hn) rfl (fun ls' hh => k X B ls' (jLS.put1 h2 hc hh) H locs hM hz hS)
theorem j_astore_n {n : Fin 4} {r : Option Nat} (i : Nat) (vs' : List (Option Value)) (hd : decode I.1 pc = .ok (.astore_n n, 1)) (hi : (n : Nat) = i) (hc : ∀ w : Value, vs[i - 1]? = some (some w) → w.category = 1) (hn : Nat.blt i I.2.1 = true) (hv : vs.set i (some (va_rf r)) = vs') (k : PF Γ I D h0 Q h (pc + 1) vs' rest) : PF Γ I D h0 Q h pc vs (va_rf r :: rest) := by
  obtain ⟨p, l, e, R, s, m, args, below, meth, c⟩ := Γ
  obtain ⟨cc, nL, own, rt, xt, fr, lo, nm⟩ := I
  intro X B ls hl H locs hM hz hS
  subst hv
  obtain ⟨l9, h1, h2⟩ := hl
  cases r with
  | none => exact lv_astore_nN X.1 X.2.1 hd hi h1 (Nat.le_of_ble_eq_true hn) rfl (fun ls' hh => k X B ls' (jLS.put1 h2 hc hh) H locs hM hz hS)
  | some a => exact lv_astore_n X.1 X.2.1 hd hi h1 (Nat.le_of_ble_eq_true hn) rfl (fun ls' hh => k X B ls' (jLS.put1 h2 hc hh) H locs hM hz hS)
theorem j_astore {i : Nat} {r : Option Nat} (vs' : List (Option Value)) (hd : decode I.1 pc = .ok (.astore i, 2)) (hc : ∀ w : Value, vs[i - 1]? = some (some w) → w.category = 1) (hn : Nat.blt i I.2.1 = true) (hv : vs.set i (some (va_rf r)) = vs') (k : PF Γ I D h0 Q h (pc + 2) vs' rest) : PF Γ I D h0 Q h pc vs (va_rf r :: rest) := by
  obtain ⟨p, l, e, R, s, m, args, below, meth, c⟩ := Γ
  obtain ⟨cc, nL, own, rt, xt, fr, lo, nm⟩ := I
  intro X B ls hl H locs hM hz hS
  subst hv
  obtain ⟨l9, h1, h2⟩ := hl
  cases r with
  | none => exact lv_astoreN X.1 X.2.1 hd h1 (Nat.le_of_ble_eq_true hn) rfl (fun ls' hh => k X B ls' (jLS.put1 h2 hc hh) H locs hM hz hS)
  | some a => exact lv_astore X.1 X.2.1 hd h1 (Nat.le_of_ble_eq_true hn) rfl (fun ls' hh => k X B ls' (jLS.put1 h2 hc hh) H locs hM hz hS)
theorem j_lstore_n {n : Fin 4} {x : Int64} (i : Nat) (vs' : List (Option Value)) (hd : decode I.1 pc = .ok (.lstore_n n, 1)) (hi : (n : Nat) = i) (hc : ∀ w : Value, vs[i - 1]? = some (some w) → w.category = 1) (hn : Nat.blt (i + 1) I.2.1 = true) (hv : (vs.set i (some (.long x))).set (i + 1) none = vs') (k : PF Γ I D h0 Q h (pc + 1) vs' rest) : PF Γ I D h0 Q h pc vs (.long x :: rest) := by
  obtain ⟨p, l, e, R, s, m, args, below, meth, c⟩ := Γ
  obtain ⟨cc, nL, own, rt, xt, fr, lo, nm⟩ := I
  intro X B ls hl H locs hM hz hS
  subst hv
  obtain ⟨l9, h1, h2⟩ := hl
  exact lv_lstore_n X.1 X.2.1 hd hi h1 (Nat.le_of_ble_eq_true hn) rfl (fun ls' hh => k X B ls' (jLS.put2 h2 hc hh) H locs hM hz hS)
theorem j_lstore {i : Nat} {x : Int64} (vs' : List (Option Value)) (hd : decode I.1 pc = .ok (.lstore i, 2)) (hc : ∀ w : Value, vs[i - 1]? = some (some w) → w.category = 1) (hn : Nat.blt (i + 1) I.2.1 = true) (hv : (vs.set i (some (.long x))).set (i + 1) none = vs') (k : PF Γ I D h0 Q h (pc + 2) vs' rest) : PF Γ I D h0 Q h pc vs (.long x :: rest) := by
  obtain ⟨p, l, e, R, s, m, args, below, meth, c⟩ := Γ
  obtain ⟨cc, nL, own, rt, xt, fr, lo, nm⟩ := I
  intro X B ls hl H locs hM hz hS
  subst hv
  obtain ⟨l9, h1, h2⟩ := hl
  exact lv_lstore X.1 X.2.1 hd h1 (Nat.le_of_ble_eq_true hn) rfl (fun ls' hh => k X B ls' (jLS.put2 h2 hc hh) H locs hM hz hS)
theorem j_iinc {i : Nat} {n : Int} {x : Int32} (v : Int32) (vs' : List (Option Value)) (hd : decode I.1 pc = .ok (.iinc i n, 3)) (hx : vs[i]? = some (some (.int x))) (he : x + Int32.ofInt n = v) (hc : ∀ w : Value, vs[i - 1]? = some (some w) → w.category = 1) (hn : Nat.blt i I.2.1 = true) (hv : vs.set i (some (.int v)) = vs') (k : PF Γ I D h0 Q h (pc + 3) vs' rest) : PF Γ I D h0 Q h pc vs rest := by
  obtain ⟨p, l, e, R, s, m, args, below, meth, c⟩ := Γ
  obtain ⟨cc, nL, own, rt, xt, fr, lo, nm⟩ := I
  intro X B ls hl H locs hM hz hS
  subst hv
  obtain ⟨l9, h1, h2⟩ := hl
  obtain ⟨k9, hk9⟩ := List.getElem?_of_mem (h2 _ _ hx)
  exact lv_iinc X.1 X.2.1 hd h1 hk9 he (Nat.le_of_ble_eq_true hn) rfl (fun ls' hh => k X B ls' (jLS.put1 h2 hc hh) H locs hM hz hS)
theorem j_weak (vs' : List (Option Value)) (hs : ∀ (i : Nat) (v : Value), vs'[i]? = some (some v) → vs[i]? = some (some v)) (k : PF Γ I D h0 Q h pc vs' rest) : PF Γ I D h0 Q h pc vs rest := by
  obtain ⟨p, l, e, R, s, m, args, below, meth, c⟩ := Γ
  obtain ⟨cc, nL, own, rt, xt, fr, lo, nm⟩ := I
  intro X B ls hl H locs hM hz hS
  exact k X B ls (hl.sub hs) H locs hM hz hS
theorem j_goto {off : Int} (tgt : Nat) (hd : decode I.1 pc = .ok (.goto off, 3)) (ht : (pc : Int) + off = (tgt : Int)) (k : PF Γ I D h0 Q h tgt vs rest) : PF Γ I D h0 Q h pc vs rest := by
  obtain ⟨p, l, e, R, s, m, args, below, meth, c⟩ := Γ
  obtain ⟨cc, nL, own, rt, xt, fr, lo, nm⟩ := I
  intro X B ls hl H locs hM hz hS
  exact lv_goto X.1 X.2.1 hd ht (k X B ls hl H locs hM hz hS)
theorem if_t {β : Type} {c : Prop} {d : Decidable c} {A B : Option β} {o : Option β} (hf : (if c then A else B) = o) (hc : c) : A = o := by rw [if_pos hc] at hf; exact hf
theorem if_f {β : Type} {c : Prop} {d : Decidable c} {A B : Option β} {o : Option β} (hf : (if c then A else B) = o) (hc : ¬ c) : B = o := by rw [if_neg hc] at hf; exact hf
theorem j_if_eq {x : Int32} {β : Type} {A9 B9 : Option β} {o : Option β} {off : Int} (tgt : Nat) (hd : decode I.1 pc = .ok (.ifCond .eq off, 3)) (ht : (pc : Int) + off = (tgt : Int)) (hf : (if x = 0 then A9 else B9) = o)
    (kt : x = 0 → A9 = o → PF Γ I D h0 Q h tgt vs rest) (kf : ¬ (x = 0) → B9 = o → PF Γ I D h0 Q h (pc + 3) vs rest) : PF Γ I D h0 Q h pc vs (.int x :: rest) := by
  obtain ⟨p, l, e, R, s, m, args, below, meth, c⟩ := Γ
  obtain ⟨cc, nL, own, rt, xt, fr, lo, nm⟩ := I
  intro X B ls hl H locs hM hz hS
  exact lv_if_eq X.1 X.2.1 hd ht (fun c9 => kt c9 (if_t hf c9) X B ls hl H locs hM hz hS) (fun c9 => kf c9 (if_f hf c9) X B ls hl H locs hM hz hS)
theorem j_if_ne {x : Int32} {β : Type} {A9 B9 : Option β} {o : Option β} {off : Int} (tgt : Nat) (hd : decode I.1 pc = .ok (.ifCond .ne off, 3)) (ht : (pc : Int) + off = (tgt : Int)) (hf : (if x = 0 then A9 else B9) = o)
    (kt : ¬ (x = 0) → B9 = o → PF Γ I D h0 Q h tgt vs rest) (kf : x = 0 → A9 = o → PF Γ I D h0 Q h (pc + 3) vs rest) : PF Γ I D h0 Q h pc vs (.int x :: rest) := by
  obtain ⟨p, l, e, R, s, m, args, below, meth, c⟩ := Γ
  obtain ⟨cc, nL, own, rt, xt, fr, lo, nm⟩ := I
  intro X B ls hl H locs hM hz hS
  exact lv_if_ne X.1 X.2.1 hd ht (fun c9 => kt c9 (if_f hf c9) X B ls hl H locs hM hz hS) (fun c9 => kf c9 (if_t hf c9) X B ls hl H locs hM hz hS)
theorem j_if_lt {x : Int32} {β : Type} {A9 B9 : Option β} {o : Option β} {off : Int} (tgt : Nat) (hd : decode I.1 pc = .ok (.ifCond .lt off, 3)) (ht : (pc : Int) + off = (tgt : Int)) (hf : (if x < 0 then A9 else B9) = o)
    (kt : x < 0 → A9 = o → PF Γ I D h0 Q h tgt vs rest) (kf : ¬ (x < 0) → B9 = o → PF Γ I D h0 Q h (pc + 3) vs rest) : PF Γ I D h0 Q h pc vs (.int x :: rest) := by
  obtain ⟨p, l, e, R, s, m, args, below, meth, c⟩ := Γ
  obtain ⟨cc, nL, own, rt, xt, fr, lo, nm⟩ := I
  intro X B ls hl H locs hM hz hS
  exact lv_if_lt X.1 X.2.1 hd ht (fun c9 => kt c9 (if_t hf c9) X B ls hl H locs hM hz hS) (fun c9 => kf c9 (if_f hf c9) X B ls hl H locs hM hz hS)
theorem j_if_ge {x : Int32} {β : Type} {A9 B9 : Option β} {o : Option β} {off : Int} (tgt : Nat) (hd : decode I.1 pc = .ok (.ifCond .ge off, 3)) (ht : (pc : Int) + off = (tgt : Int)) (hf : (if 0 ≤ x then A9 else B9) = o)
    (kt : 0 ≤ x → A9 = o → PF Γ I D h0 Q h tgt vs rest) (kf : ¬ (0 ≤ x) → B9 = o → PF Γ I D h0 Q h (pc + 3) vs rest) : PF Γ I D h0 Q h pc vs (.int x :: rest) := by
  obtain ⟨p, l, e, R, s, m, args, below, meth, c⟩ := Γ
  obtain ⟨cc, nL, own, rt, xt, fr, lo, nm⟩ := I
  intro X B ls hl H locs hM hz hS
  exact lv_if_ge X.1 X.2.1 hd ht (fun c9 => kt c9 (if_t hf c9) X B ls hl H locs hM hz hS) (fun c9 => kf c9 (if_f hf c9) X B ls hl H locs hM hz hS)
theorem j_if_gt {x : Int32} {β : Type} {A9 B9 : Option β} {o : Option β} {off : Int} (tgt : Nat) (hd : decode I.1 pc = .ok (.ifCond .gt off, 3)) (ht : (pc : Int) + off = (tgt : Int)) (hf : (if 0 < x then A9 else B9) = o)
    (kt : 0 < x → A9 = o → PF Γ I D h0 Q h tgt vs rest) (kf : ¬ (0 < x) → B9 = o → PF Γ I D h0 Q h (pc + 3) vs rest) : PF Γ I D h0 Q h pc vs (.int x :: rest) := by
  obtain ⟨p, l, e, R, s, m, args, below, meth, c⟩ := Γ
  obtain ⟨cc, nL, own, rt, xt, fr, lo, nm⟩ := I
  intro X B ls hl H locs hM hz hS
  exact lv_if_gt X.1 X.2.1 hd ht (fun c9 => kt c9 (if_t hf c9) X B ls hl H locs hM hz hS) (fun c9 => kf c9 (if_f hf c9) X B ls hl H locs hM hz hS)
theorem j_if_le {x : Int32} {β : Type} {A9 B9 : Option β} {o : Option β} {off : Int} (tgt : Nat) (hd : decode I.1 pc = .ok (.ifCond .le off, 3)) (ht : (pc : Int) + off = (tgt : Int)) (hf : (if x ≤ 0 then A9 else B9) = o)
    (kt : x ≤ 0 → A9 = o → PF Γ I D h0 Q h tgt vs rest) (kf : ¬ (x ≤ 0) → B9 = o → PF Γ I D h0 Q h (pc + 3) vs rest) : PF Γ I D h0 Q h pc vs (.int x :: rest) := by
  obtain ⟨p, l, e, R, s, m, args, below, meth, c⟩ := Γ
  obtain ⟨cc, nL, own, rt, xt, fr, lo, nm⟩ := I
  intro X B ls hl H locs hM hz hS
  exact lv_if_le X.1 X.2.1 hd ht (fun c9 => kt c9 (if_t hf c9) X B ls hl H locs hM hz hS) (fun c9 => kf c9 (if_f hf c9) X B ls hl H locs hM hz hS)
theorem j_icmp_eq {x y : Int32} {β : Type} {A9 B9 : Option β} {o : Option β} {off : Int} (tgt : Nat) (hd : decode I.1 pc = .ok (.if_icmp .eq off, 3)) (ht : (pc : Int) + off = (tgt : Int)) (hf : (if x = y then A9 else B9) = o)
    (kt : x = y → A9 = o → PF Γ I D h0 Q h tgt vs rest) (kf : ¬ (x = y) → B9 = o → PF Γ I D h0 Q h (pc + 3) vs rest) : PF Γ I D h0 Q h pc vs (.int y :: .int x :: rest) := by
  obtain ⟨p, l, e, R, s, m, args, below, meth, c⟩ := Γ
  obtain ⟨cc, nL, own, rt, xt, fr, lo, nm⟩ := I
  intro X B ls hl H locs hM hz hS
  exact lv_icmp_eq X.1 X.2.1 hd ht (fun c9 => kt c9 (if_t hf c9) X B ls hl H locs hM hz hS) (fun c9 => kf c9 (if_f hf c9) X B ls hl H locs hM hz hS)
theorem j_icmp_ne {x y : Int32} {β : Type} {A9 B9 : Option β} {o : Option β} {off : Int} (tgt : Nat) (hd : decode I.1 pc = .ok (.if_icmp .ne off, 3)) (ht : (pc : Int) + off = (tgt : Int)) (hf : (if x = y then A9 else B9) = o)
    (kt : ¬ (x = y) → B9 = o → PF Γ I D h0 Q h tgt vs rest) (kf : x = y → A9 = o → PF Γ I D h0 Q h (pc + 3) vs rest) : PF Γ I D h0 Q h pc vs (.int y :: .int x :: rest) := by
  obtain ⟨p, l, e, R, s, m, args, below, meth, c⟩ := Γ
  obtain ⟨cc, nL, own, rt, xt, fr, lo, nm⟩ := I
  intro X B ls hl H locs hM hz hS
  exact lv_icmp_ne X.1 X.2.1 hd ht (fun c9 => kt c9 (if_f hf c9) X B ls hl H locs hM hz hS) (fun c9 => kf c9 (if_t hf c9) X B ls hl H locs hM hz hS)
theorem j_icmp_lt {x y : Int32} {β : Type} {A9 B9 : Option β} {o : Option β} {off : Int} (tgt : Nat) (hd : decode I.1 pc = .ok (.if_icmp .lt off, 3)) (ht : (pc : Int) + off = (tgt : Int)) (hf : (if x < y then A9 else B9) = o)
    (kt : x < y → A9 = o → PF Γ I D h0 Q h tgt vs rest) (kf : ¬ (x < y) → B9 = o → PF Γ I D h0 Q h (pc + 3) vs rest) : PF Γ I D h0 Q h pc vs (.int y :: .int x :: rest) := by
  obtain ⟨p, l, e, R, s, m, args, below, meth, c⟩ := Γ
  obtain ⟨cc, nL, own, rt, xt, fr, lo, nm⟩ := I
  intro X B ls hl H locs hM hz hS
  exact lv_icmp_lt X.1 X.2.1 hd ht (fun c9 => kt c9 (if_t hf c9) X B ls hl H locs hM hz hS) (fun c9 => kf c9 (if_f hf c9) X B ls hl H locs hM hz hS)
theorem j_icmp_ge {x y : Int32} {β : Type} {A9 B9 : Option β} {o : Option β} {off : Int} (tgt : Nat) (hd : decode I.1 pc = .ok (.if_icmp .ge off, 3)) (ht : (pc : Int) + off = (tgt : Int)) (hf : (if y ≤ x then A9 else B9) = o)
    (kt : y ≤ x → A9 = o → PF Γ I D h0 Q h tgt vs rest) (kf : ¬ (y ≤ x) → B9 = o → PF Γ I D h0 Q h (pc + 3) vs rest) : PF Γ I D h0 Q h pc vs (.int y :: .int x :: rest) := by
  obtain ⟨p, l, e, R, s, m, args, below, meth, c⟩ := Γ
  obtain ⟨cc, nL, own, rt, xt, fr, lo, nm⟩ := I
  intro X B ls hl H locs hM hz hS
  exact lv_icmp_ge X.1 X.2.1 hd ht (fun c9 => kt c9 (if_t hf c9) X B ls hl H locs hM hz hS) (fun c9 => kf c9 (if_f hf c9) X B ls hl H locs hM hz hS)
theorem j_icmp_gt {x y : Int32} {β : Type} {A9 B9 : Option β} {o : Option β} {off : Int} (tgt : Nat) (hd : decode I.1 pc = .ok (.if_icmp .gt off, 3)) (ht : (pc : Int) + off = (tgt : Int)) (hf : (if y < x then A9 else B9) = o)
    (kt : y < x → A9 = o → PF Γ I D h0 Q h tgt vs rest) (kf : ¬ (y < x) → B9 = o → PF Γ I D h0 Q h (pc + 3) vs rest) : PF Γ I D h0 Q h pc vs (.int y :: .int x :: rest) := by
  obtain ⟨p, l, e, R, s, m, args, below, meth, c⟩ := Γ
  obtain ⟨cc, nL, own, rt, xt, fr, lo, nm⟩ := I
  intro X B ls hl H locs hM hz hS
  exact lv_icmp_gt X.1 X.2.1 hd ht (fun c9 => kt c9 (if_t hf c9) X B ls hl H locs hM hz hS) (fun c9 => kf c9 (if_f hf c9) X B ls hl H locs hM hz hS)
theorem j_icmp_le {x y : Int32} {β : Type} {A9 B9 : Option β} {o : Option β} {off : Int} (tgt : Nat) (hd : decode I.1 pc = .ok (.if_icmp .le off, 3)) (ht : (pc : Int) + off = (tgt : Int)) (hf : (if x ≤ y then A9 else B9) = o)
    (kt : x ≤ y → A9 = o → PF Γ I D h0 Q h tgt vs rest) (kf : ¬ (x ≤ y) → B9 = o → PF Γ I D h0 Q h (pc + 3) vs rest) : PF Γ I D h0 Q h pc vs (.int y :: .int x :: rest) := by
  obtain ⟨p, l, e, R, s, m, args, below, meth, c⟩ := Γ
  obtain ⟨cc, nL, own, rt, xt, fr, lo, nm⟩ := I
  intro X B ls hl H locs hM hz hS
  exact lv_icmp_le X.1 X.2.1 hd ht (fun c9 => kt c9 (if_t hf c9) X B ls hl H locs hM hz hS) (fun c9 => kf c9 (if_f hf c9) X B ls hl H locs hM hz hS)
theorem j_acmp_eq {rx ry : Option Nat} {β : Type} {A9 B9 : Option β} {o : Option β} {off : Int} (tgt : Nat) (hd : decode I.1 pc = .ok (.if_acmp .eq off, 3)) (ht : (pc : Int) + off = (tgt : Int)) (hf : (if rx = ry then A9 else B9) = o)
    (kt : rx = ry → A9 = o → PF Γ I D h0 Q h tgt vs rest) (kf : ¬ (rx = ry) → B9 = o → PF Γ I D h0 Q h (pc + 3) vs rest) : PF Γ I D h0 Q h pc vs (va_rf ry :: va_rf rx :: rest) := by
  obtain ⟨p, l, e, R, s, m, args, below, meth, c⟩ := Γ
  obtain ⟨cc, nL, own, rt, xt, fr, lo, nm⟩ := I
  intro X B ls hl H locs hM hz hS
  exact lv_acmp_eq X.1 X.2.1 hd ht (fun c9 => kt c9 (if_t hf c9) X B ls hl H locs hM hz hS) (fun c9 => kf c9 (if_f hf c9) X B ls hl H locs hM hz hS)
theorem j_acmp_ne {rx ry : Option Nat} {β : Type} {A9 B9 : Option β} {o : Option β} {off : Int} (tgt : Nat) (hd : decode I.1 pc = .ok (.if_acmp .ne off, 3)) (ht : (pc : Int) + off = (tgt : Int)) (hf : (if rx = ry then A9 else B9) = o)
    (kt : ¬ (rx = ry) → B9 = o → PF Γ I D h0 Q h tgt vs rest) (kf : rx = ry → A9 = o → PF Γ I D h0 Q h (pc + 3) vs rest) : PF Γ I D h0 Q h pc vs (va_rf ry :: va_rf rx :: rest) := by
  obtain ⟨p, l, e, R, s, m, args, below, meth, c⟩ := Γ
  obtain ⟨cc, nL, own, rt, xt, fr, lo, nm⟩ := I
  intro X B ls hl H locs hM hz hS
  exact lv_acmp_ne X.1 X.2.1 hd ht (fun c9 => kt c9 (if_f hf c9) X B ls hl H locs hM hz hS) (fun c9 => kf c9 (if_t hf c9) X B ls hl H locs hM hz hS)
theorem j_ifnull {r : Option Nat} {β : Type} {A9 B9 : Option β} {o : Option β} {off : Int} (tgt : Nat) (hd : decode I.1 pc = .ok (.ifnull off, 3)) (ht : (pc : Int) + off = (tgt : Int)) (hf : (if r = none then A9 else B9) = o) (kt : r = none → A9 = o → PF Γ I D h0 Q h tgt vs rest) (kf : ¬ (r = none) → B9 = o → PF Γ I D h0 Q h (pc + 3) vs rest) : PF Γ I D h0 Q h pc vs (va_rf r :: rest) := by
  obtain ⟨p, l, e, R, s, m, args, below, meth, c⟩ := Γ
  obtain ⟨cc, nL, own, rt, xt, fr, lo, nm⟩ := I
  intro X B ls hl H locs hM hz hS
  cases r with
  | none => exact lv_ifnullN X.1 X.2.1 hd ht (kt rfl (if_t hf rfl) X B ls hl H locs hM hz hS)
  | some a => exact lv_ifnull X.1 X.2.1 hd (kf (fun q => by cases q) (if_f hf (fun q => by cases q)) X B ls hl H locs hM hz hS)
theorem j_ifnonnull {r : Option Nat} {β : Type} {A9 B9 : Option β} {o : Option β} {off : Int} (tgt : Nat) (hd : decode I.1 pc = .ok (.ifnonnull off, 3)) (ht : (pc : Int) + off = (tgt : Int)) (hf : (if r = none then A9 else B9) = o) (kt : ¬ (r = none) → B9 = o → PF Γ I D h0 Q h tgt vs rest) (kf : r = none → A9 = o → PF Γ I D h0 Q h (pc + 3) vs rest) : PF Γ I D h0 Q h pc vs (va_rf r :: rest) := by
  obtain ⟨p, l, e, R, s, m, args, below, meth, c⟩ := Γ
  obtain ⟨cc, nL, own, rt, xt, fr, lo, nm⟩ := I
  intro X B ls hl H locs hM hz hS
  cases r with
  | none => exact lv_ifnonnullN X.1 X.2.1 hd (kf rfl (if_t hf rfl) X B ls hl H locs hM hz hS)
  | some a => exact lv_ifnonnull X.1 X.2.1 hd ht (kt (fun q => by cases q) (if_f hf (fun q => by cases q)) X B ls hl H locs hM hz hS)
theorem j_case {x : Int32} (v : Int32) {β : Type} {A9 B9 : Option β} {o : Option β} (hf : (if x = v then A9 else B9) = o) (kt : A9 = o → PF Γ I D h0 Q h pc vs (.int v :: rest)) (kf : ¬ (x = v) → B9 = o → PF Γ I D h0 Q h pc vs (.int x :: rest)) : PF Γ I D h0 Q h pc vs (.int x :: rest) := by
  by_cases h9 : x = v
  · subst h9
    exact kt (if_t hf rfl)
  · exact kf h9 (if_f hf h9)
theorem j_tableIn {dflt lo9 hi9 : Int} {offs : Array Int} {len : Nat} {x : Int32} {off : Int} (tgt : Nat) (hd : decode I.1 pc = .ok (.tableswitch dflt lo9 hi9 offs, len)) (h1 : ¬ x.toInt < lo9) (h2 : ¬ hi9 < x.toInt) (ho : offs[(x.toInt - lo9).toNat]? = some off) (ht : (pc : Int) + off = (tgt : Int)) (k : PF Γ I D h0 Q h tgt vs rest) : PF Γ I D h0 Q h pc vs (.int x :: rest) := by
  obtain ⟨p, l, e, R, s, m, args, below, meth, c⟩ := Γ
  obtain ⟨cc, nL, own, rt, xt, fr, lo, nm⟩ := I
  intro X B ls hl H locs hM hz hS
  exact lv_tableIn X.1 X.2.1 hd h1 h2 ho ht (k X B ls hl H locs hM hz hS)
theorem j_tableOut {dflt lo9 hi9 : Int} {offs : Array Int} {len : Nat} {x : Int32} (tgt : Nat) (hd : decode I.1 pc = .ok (.tableswitch dflt lo9 hi9 offs, len)) (h1 : x.toInt < lo9 ∨ hi9 < x.toInt) (ht : (pc : Int) + dflt = (tgt : Int)) (k : PF Γ I D h0 Q h tgt vs rest) : PF Γ I D h0 Q h pc vs (.int x :: rest) := by
  obtain ⟨p, l, e, R, s, m, args, below, meth, c⟩ := Γ
  obtain ⟨cc, nL, own, rt, xt, fr, lo, nm⟩ := I
  intro X B ls hl H locs hM hz hS
  exact lv_tableOut X.1 X.2.1 hd h1 ht (k X B ls hl H locs hM hz hS)
theorem j_lookup {dflt : Int} {ps : Array (Int × Int)} {len : Nat} {x : Int32} {off : Int} (tgt : Nat) (hd : decode I.1 pc = .ok (.lookupswitch dflt ps, len)) (hp : (ps.toList.zip (ps.toList.drop 1)).all (fun (a, next) => a.1 < next.1) = true) (ho : Op.lookupswitch.offset ps.toList dflt x.toInt = off) (ht : (pc : Int) + off = (tgt : Int)) (k : PF Γ I D h0 Q h tgt vs rest) : PF Γ I D h0 Q h pc vs (.int x :: rest) := by
  obtain ⟨p, l, e, R, s, m, args, below, meth, c⟩ := Γ
  obtain ⟨cc, nL, own, rt, xt, fr, lo, nm⟩ := I
  intro X B ls hl H locs hM hz hS
  exact lv_lookup X.1 X.2.1 hd hp ho ht (k X B ls hl H locs hM hz hS)
end JR
