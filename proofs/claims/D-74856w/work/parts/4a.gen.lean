/-! printed by gen.py: X7_beginsRead X7_readNode X7_takesRead X7_thrown X7_in X7_throwsIf X7_here X7_fails X7_loadError X7_now X7_nodeCount X7_noNode X7_of X7_shows X7_serverShows X7_isPaused X7_timeOf X7_puts X7_endsOutage X7_isToNode X7_logs X7_sends X7_released X7_fences X7_fetched X7_setsTimer X7_forgets X7_caches X7_packs -/
set_option maxRecDepth 100000
abbrev mi_X7_beginsRead : MI := (cX7_beginsRead, 2, RX7, none, [], 0, 0, "beginsRead")
def f_X7_beginsRead_L2 : Nat → Option Nat → Int32 → PH → Option (Unit × PH)
  | 0, _, _, _ => none
  | n + 1, x0, x1, h => gR h x0 6 10 fun r1 => aN h r1 0 fun v2 => (if v2 ≤ x1 then (gR h x0 6 10 fun r3 => sI h r3 0 (1 : Int32) (1 : Int32) fun h4 => gR h4 x0 6 10 fun r5 => sI h4 r5 0 (3 : Int32) (1000 : Int32) fun h6 => gR h6 x0 6 10 fun r7 => sI h6 r7 0 (5 : Int32) (5000 : Int32) fun h8 => gR h8 x0 6 10 fun r9 => sI h8 r9 0 (6 : Int32) (20 : Int32) fun h10 => gR h10 x0 6 10 fun r11 => sI h10 r11 0 (7 : Int32) (2000 : Int32) fun h12 => gR h12 x0 6 10 fun r13 => sI h12 r13 0 (8 : Int32) (500 : Int32) fun h14 => gR h14 x0 6 10 fun r15 => sI h14 r15 0 (10 : Int32) (-4 : Int32) fun h16 => some ((), h16)) else (gR h x0 6 10 fun r17 => sI h r17 0 x1 (0 : Int32) fun h18 => f_X7_beginsRead_L2 n x0 (x1 + (1 : Int32)) h18))
theorem pf_X7_beginsRead_L2 {Γ : GX} {D : va_G} {h0 : PH} {o : Unit × PH} : ∀ (n : Nat) (x0 : Option Nat) (x1 : Int32) (h : PH), f_X7_beginsRead_L2 n x0 x1 h = some o → PF Γ mi_X7_beginsRead D h0 (QR Γ D h0 (ovv o.1) o.2) h 2 [some (va_rf x0), some (.int x1)] [] := by
  intro n
  induction n with
  | zero => intro x0 x1 h hf; cases hf
  | succ n ih =>
    intro x0 x1 h hf
    refine j_iload_n 1 dX7_beginsRead_2 rfl rfl ?_
    refine j_aload_n 0 dX7_beginsRead_3 rfl rfl ?_
    refine j_gR (ci := 6) (k := 10) rfl in_X7 rfl q2212 dX7_beginsRead_4 hf (fun r1 hf => ?_)
    refine j_alen (t := 0) rfl dX7_beginsRead_7 hf (fun v2 hf => ?_)
    refine j_icmp_ge 24 dX7_beginsRead_8 (by decide) hf (fun c_ hf => ?_) (fun c_ hf => ?_)
    · refine j_aload_n 0 dX7_beginsRead_24 rfl rfl ?_
      refine j_gR (ci := 6) (k := 10) rfl in_X7 rfl q2212 dX7_beginsRead_25 hf (fun r3 hf => ?_)
      refine j_iconst (1 : Int32) dX7_beginsRead_28 (by decide) ?_
      refine j_iconst (1 : Int32) dX7_beginsRead_29 (by decide) ?_
      refine j_iast dX7_beginsRead_30 hf (fun h4 hf => ?_)
      refine j_aload_n 0 dX7_beginsRead_31 rfl rfl ?_
      refine j_gR (ci := 6) (k := 10) rfl in_X7 rfl q2212 dX7_beginsRead_32 hf (fun r5 hf => ?_)
      refine j_iconst (3 : Int32) dX7_beginsRead_35 (by decide) ?_
      refine j_sipush (1000 : Int32) dX7_beginsRead_36 (by decide) ?_
      refine j_iast dX7_beginsRead_39 hf (fun h6 hf => ?_)
      refine j_aload_n 0 dX7_beginsRead_40 rfl rfl ?_
      refine j_gR (ci := 6) (k := 10) rfl in_X7 rfl q2212 dX7_beginsRead_41 hf (fun r7 hf => ?_)
      refine j_iconst (5 : Int32) dX7_beginsRead_44 (by decide) ?_
      refine j_sipush (5000 : Int32) dX7_beginsRead_45 (by decide) ?_
      refine j_iast dX7_beginsRead_48 hf (fun h8 hf => ?_)
      refine j_aload_n 0 dX7_beginsRead_49 rfl rfl ?_
      refine j_gR (ci := 6) (k := 10) rfl in_X7 rfl q2212 dX7_beginsRead_50 hf (fun r9 hf => ?_)
      refine j_bipush (6 : Int32) dX7_beginsRead_53 (by decide) ?_
      refine j_bipush (20 : Int32) dX7_beginsRead_55 (by decide) ?_
      refine j_iast dX7_beginsRead_57 hf (fun h10 hf => ?_)
      refine j_aload_n 0 dX7_beginsRead_58 rfl rfl ?_
      refine j_gR (ci := 6) (k := 10) rfl in_X7 rfl q2212 dX7_beginsRead_59 hf (fun r11 hf => ?_)
      refine j_bipush (7 : Int32) dX7_beginsRead_62 (by decide) ?_
      refine j_sipush (2000 : Int32) dX7_beginsRead_64 (by decide) ?_
      refine j_iast dX7_beginsRead_67 hf (fun h12 hf => ?_)
      refine j_aload_n 0 dX7_beginsRead_68 rfl rfl ?_
      refine j_gR (ci := 6) (k := 10) rfl in_X7 rfl q2212 dX7_beginsRead_69 hf (fun r13 hf => ?_)
      refine j_bipush (8 : Int32) dX7_beginsRead_72 (by decide) ?_
      refine j_sipush (500 : Int32) dX7_beginsRead_74 (by decide) ?_
      refine j_iast dX7_beginsRead_77 hf (fun h14 hf => ?_)
      refine j_aload_n 0 dX7_beginsRead_78 rfl rfl ?_
      refine j_gR (ci := 6) (k := 10) rfl in_X7 rfl q2212 dX7_beginsRead_79 hf (fun r15 hf => ?_)
      refine j_bipush (10 : Int32) dX7_beginsRead_82 (by decide) ?_
      refine j_bipush (-4 : Int32) dX7_beginsRead_84 (by decide) ?_
      refine j_iast dX7_beginsRead_86 hf (fun h16 hf => ?_)
      have e9 := Option.some.inj hf
      subst e9
      exact j_vret rfl dX7_beginsRead_87
    · refine j_aload_n 0 dX7_beginsRead_11 rfl rfl ?_
      refine j_gR (ci := 6) (k := 10) rfl in_X7 rfl q2212 dX7_beginsRead_12 hf (fun r17 hf => ?_)
      refine j_iload_n 1 dX7_beginsRead_15 rfl rfl ?_
      refine j_iconst (0 : Int32) dX7_beginsRead_16 (by decide) ?_
      refine j_iast dX7_beginsRead_17 hf (fun h18 hf => ?_)
      refine j_iinc (x1 + (1 : Int32)) [some (va_rf x0), some (.int (x1 + (1 : Int32)))] dX7_beginsRead_18 rfl rfl (cz (va_rf_cat _)) rfl rfl ?_
      refine j_goto 2 dX7_beginsRead_21 (by decide) ?_
      exact ih x0 (x1 + (1 : Int32)) h18 hf
def f_X7_beginsRead (r0 : Option Nat) (h0 : PH) : Option (Unit × PH) := f_X7_beginsRead_L2 FU r0 (0 : Int32) h0
theorem hyS_X7_beginsRead : yX7_beginsRead.cls ≠ "java/lang/invoke/MethodHandle" ∧ yX7_beginsRead.cls ≠ "java/lang/invoke/VarHandle" ∧ (parseMethodDescriptor yX7_beginsRead.desc).map (fun d => d.parameters.length) = some 0 := by decide +kernel
theorem hyV_X7_beginsRead : yX7_beginsRead.cls = RX7 ∧ yX7_beginsRead.cls ≠ "java/lang/invoke/MethodHandle" ∧ yX7_beginsRead.cls ≠ "java/lang/invoke/VarHandle" ∧ (parseMethodDescriptor yX7_beginsRead.desc).map (fun d => d.parameters.length) = some 0 := by decide +kernel
theorem c_X7_beginsRead {D : va_G} (r0 : Option Nat) {h0 : PH} (l : Launch) (hl : l.stackTraces = false) (x : Unit) (h1 : PH) (hf : f_X7_beginsRead r0 h0 = some (x, h1)) : CT l D yX7_beginsRead (ws_ yX7_beginsRead cX7_beginsRead 2 none) 0 0 [va_rf r0] h0 (ovv x) h1 := by
  refine ct_of hl [some (va_rf r0), none] (by decide) (by rw [lgl]; simp [va_rf_cat, cat_i, cat_l]) (by simp [lv_args, vsL, va_rf_cat, cat_i, cat_l]) (fun Γ => ?_)
  obtain ⟨o, ho⟩ : ∃ o : Unit × PH, o = (x, h1) := ⟨_, rfl⟩
  rw [← ho] at hf
  have e1 : x = o.1 := by rw [ho]
  have e2 : h1 = o.2 := by rw [ho]
  subst e1 e2
  clear ho
  show PF Γ mi_X7_beginsRead D h0 (QR Γ D h0 (ovv o.1) o.2) h0 0 [some (va_rf r0), none] []
  unfold f_X7_beginsRead at hf
  refine j_iconst (0 : Int32) dX7_beginsRead_0 (by decide) ?_
  refine j_istore_n 1 [some (va_rf r0), some (.int (0 : Int32))] dX7_beginsRead_1 rfl (cz (va_rf_cat _)) rfl rfl ?_
  exact pf_X7_beginsRead_L2 FU r0 (0 : Int32) h0 hf
abbrev mi_X7_readNode : MI := (cX7_readNode, 5, RX7, none, [], 0, 0, "readNode")
def f_X7_readNode (r0 : Option Nat) (p0 : Int32) (p1 : Int32) (p2 : Int32) (h0 : PH) : Option (Unit × PH) := gR h0 r0 6 10 fun r1 => aI h0 r1 0 (2 : Int32) fun v2 => gR h0 r0 6 10 fun r3 => sI h0 r3 0 (((40 : Int32) + ((20 : Int32) * v2)) + (0 : Int32)) p0 fun h4 => gR h4 r0 6 10 fun r5 => sI h4 r5 0 (((40 : Int32) + ((20 : Int32) * v2)) + (1 : Int32)) p1 fun h6 => gR h6 r0 6 10 fun r7 => sI h6 r7 0 (((40 : Int32) + ((20 : Int32) * v2)) + (2 : Int32)) p2 fun h8 => gR h8 r0 6 10 fun r9 => sI h8 r9 0 (((40 : Int32) + ((20 : Int32) * v2)) + (3 : Int32)) (1 : Int32) fun h10 => gR h10 r0 6 10 fun r11 => sI h10 r11 0 (((40 : Int32) + ((20 : Int32) * v2)) + (9 : Int32)) (-1 : Int32) fun h12 => gR h12 r0 6 10 fun r13 => aI h12 r13 0 (2 : Int32) fun v14 => sI h12 r13 0 (2 : Int32) (v14 + (1 : Int32)) fun h15 => some ((), h15)
theorem hyS_X7_readNode : yX7_readNode.cls ≠ "java/lang/invoke/MethodHandle" ∧ yX7_readNode.cls ≠ "java/lang/invoke/VarHandle" ∧ (parseMethodDescriptor yX7_readNode.desc).map (fun d => d.parameters.length) = some 3 := by decide +kernel
theorem hyV_X7_readNode : yX7_readNode.cls = RX7 ∧ yX7_readNode.cls ≠ "java/lang/invoke/MethodHandle" ∧ yX7_readNode.cls ≠ "java/lang/invoke/VarHandle" ∧ (parseMethodDescriptor yX7_readNode.desc).map (fun d => d.parameters.length) = some 3 := by decide +kernel
theorem c_X7_readNode {D : va_G} (r0 : Option Nat) (p0 : Int32) (p1 : Int32) (p2 : Int32) {h0 : PH} (l : Launch) (hl : l.stackTraces = false) (x : Unit) (h1 : PH) (hf : f_X7_readNode r0 p0 p1 p2 h0 = some (x, h1)) : CT l D yX7_readNode (ws_ yX7_readNode cX7_readNode 5 none) 0 0 [va_rf r0, .int p0, .int p1, .int p2] h0 (ovv x) h1 := by
  refine ct_of hl [some (va_rf r0), some (.int p0), some (.int p1), some (.int p2), none] (by decide) (by rw [lgl]; simp [va_rf_cat, cat_i, cat_l]) (by simp [lv_args, vsL, va_rf_cat, cat_i, cat_l]) (fun Γ => ?_)
  obtain ⟨o, ho⟩ : ∃ o : Unit × PH, o = (x, h1) := ⟨_, rfl⟩
  rw [← ho] at hf
  have e1 : x = o.1 := by rw [ho]
  have e2 : h1 = o.2 := by rw [ho]
  subst e1 e2
  clear ho
  show PF Γ mi_X7_readNode D h0 (QR Γ D h0 (ovv o.1) o.2) h0 0 [some (va_rf r0), some (.int p0), some (.int p1), some (.int p2), none] []
  unfold f_X7_readNode at hf
  refine j_bipush (40 : Int32) dX7_readNode_0 (by decide) ?_
  refine j_bipush (20 : Int32) dX7_readNode_2 (by decide) ?_
  refine j_aload_n 0 dX7_readNode_4 rfl rfl ?_
  refine j_gR (ci := 6) (k := 10) rfl in_X7 rfl q2212 dX7_readNode_5 hf (fun r1 hf => ?_)
  refine j_iconst (2 : Int32) dX7_readNode_8 (by decide) ?_
  refine j_iald dX7_readNode_9 hf (fun v2 hf => ?_)
  refine j_imul dX7_readNode_10 ?_
  refine j_iadd dX7_readNode_11 ?_
  refine j_istore [some (va_rf r0), some (.int p0), some (.int p1), some (.int p2), some (.int ((40 : Int32) + ((20 : Int32) * v2)))] dX7_readNode_12 (cz rfl) rfl rfl ?_
  refine j_aload_n 0 dX7_readNode_14 rfl rfl ?_
  refine j_gR (ci := 6) (k := 10) rfl in_X7 rfl q2212 dX7_readNode_15 hf (fun r3 hf => ?_)
  refine j_iload dX7_readNode_18 rfl ?_
  refine j_iconst (0 : Int32) dX7_readNode_20 (by decide) ?_
  refine j_iadd dX7_readNode_21 ?_
  refine j_iload_n 1 dX7_readNode_22 rfl rfl ?_
  refine j_iast dX7_readNode_23 hf (fun h4 hf => ?_)
  refine j_aload_n 0 dX7_readNode_24 rfl rfl ?_
  refine j_gR (ci := 6) (k := 10) rfl in_X7 rfl q2212 dX7_readNode_25 hf (fun r5 hf => ?_)
  refine j_iload dX7_readNode_28 rfl ?_
  refine j_iconst (1 : Int32) dX7_readNode_30 (by decide) ?_
  refine j_iadd dX7_readNode_31 ?_
  refine j_iload_n 2 dX7_readNode_32 rfl rfl ?_
  refine j_iast dX7_readNode_33 hf (fun h6 hf => ?_)
  refine j_aload_n 0 dX7_readNode_34 rfl rfl ?_
  refine j_gR (ci := 6) (k := 10) rfl in_X7 rfl q2212 dX7_readNode_35 hf (fun r7 hf => ?_)
  refine j_iload dX7_readNode_38 rfl ?_
  refine j_iconst (2 : Int32) dX7_readNode_40 (by decide) ?_
  refine j_iadd dX7_readNode_41 ?_
  refine j_iload_n 3 dX7_readNode_42 rfl rfl ?_
  refine j_iast dX7_readNode_43 hf (fun h8 hf => ?_)
  refine j_aload_n 0 dX7_readNode_44 rfl rfl ?_
  refine j_gR (ci := 6) (k := 10) rfl in_X7 rfl q2212 dX7_readNode_45 hf (fun r9 hf => ?_)
  refine j_iload dX7_readNode_48 rfl ?_
  refine j_iconst (3 : Int32) dX7_readNode_50 (by decide) ?_
  refine j_iadd dX7_readNode_51 ?_
  refine j_iconst (1 : Int32) dX7_readNode_52 (by decide) ?_
  refine j_iast dX7_readNode_53 hf (fun h10 hf => ?_)
  refine j_aload_n 0 dX7_readNode_54 rfl rfl ?_
  refine j_gR (ci := 6) (k := 10) rfl in_X7 rfl q2212 dX7_readNode_55 hf (fun r11 hf => ?_)
  refine j_iload dX7_readNode_58 rfl ?_
  refine j_bipush (9 : Int32) dX7_readNode_60 (by decide) ?_
  refine j_iadd dX7_readNode_62 ?_
  refine j_iconst (-1 : Int32) dX7_readNode_63 (by decide) ?_
  refine j_iast dX7_readNode_64 hf (fun h12 hf => ?_)
  refine j_aload_n 0 dX7_readNode_65 rfl rfl ?_
  refine j_gR (ci := 6) (k := 10) rfl in_X7 rfl q2212 dX7_readNode_66 hf (fun r13 hf => ?_)
  refine j_iconst (2 : Int32) dX7_readNode_69 (by decide) ?_
  refine j_dup2 dX7_readNode_70 rfl (va_rf_cat _) ?_
  refine j_iald dX7_readNode_71 hf (fun v14 hf => ?_)
  refine j_iconst (1 : Int32) dX7_readNode_72 (by decide) ?_
  refine j_iadd dX7_readNode_73 ?_
  refine j_iast dX7_readNode_74 hf (fun h15 hf => ?_)
  have e9 := Option.some.inj hf
  subst e9
  exact j_vret rfl dX7_readNode_75
abbrev mi_X7_takesRead : MI := (cX7_takesRead, 2, RX7, none, [], 0, 0, "takesRead")
def f_X7_takesRead_B32 (k2 : Option Nat → Int32 → PH → Option (Unit × PH)) (x0 : Option Nat) (x1 : Int32) (t0 : Option Nat) (t1 : Int32) (t2 : Int32) (h : PH) : Option (Unit × PH) := sI h t0 0 t1 t2 fun h6 => k2 x0 (x1 + (1 : Int32)) h6
theorem pf_X7_takesRead_B32 {Γ : GX} {D : va_G} {h0 : PH} {o : Unit × PH} (k2 : Option Nat → Int32 → PH → Option (Unit × PH)) (hk2 : ∀ (x0 : Option Nat) (x1 : Int32) (h : PH), k2 x0 x1 h = some o → PF Γ mi_X7_takesRead D h0 (QR Γ D h0 (ovv o.1) o.2) h 2 [some (va_rf x0), some (.int x1)] []) (x0 : Option Nat) (x1 : Int32) (t0 : Option Nat) (t1 : Int32) (t2 : Int32) (h : PH) (hf : f_X7_takesRead_B32 k2 x0 x1 t0 t1 t2 h = some o) : PF Γ mi_X7_takesRead D h0 (QR Γ D h0 (ovv o.1) o.2) h 32 [some (va_rf x0), some (.int x1)] [.int t2, .int t1, va_rf t0] := by
  refine j_iast dX7_takesRead_32 hf (fun h6 hf => ?_)
  refine j_iinc (x1 + (1 : Int32)) [some (va_rf x0), some (.int (x1 + (1 : Int32)))] dX7_takesRead_33 rfl rfl (cz (va_rf_cat _)) rfl rfl ?_
  refine j_goto 2 dX7_takesRead_36 (by decide) ?_
  exact hk2 x0 (x1 + (1 : Int32)) h6 hf
def f_X7_takesRead_L2 : Nat → Option Nat → Int32 → PH → Option (Unit × PH)
  | 0, _, _, _ => none
  | n + 1, x0, x1, h => (if (73136 : Int32) ≤ x1 then (some ((), h)) else (gR h x0 6 0 fun r1 => gR h x0 6 10 fun r2 => aN h r2 0 fun v3 => (if v3 ≤ x1 then (f_X7_takesRead_B32 (f_X7_takesRead_L2 n) x0 x1 r1 x1 (0 : Int32) h) else (gR h x0 6 10 fun r4 => aI h r4 0 x1 fun v5 => f_X7_takesRead_B32 (f_X7_takesRead_L2 n) x0 x1 r1 x1 v5 h))))
theorem pf_X7_takesRead_L2 {Γ : GX} {D : va_G} {h0 : PH} {o : Unit × PH} : ∀ (n : Nat) (x0 : Option Nat) (x1 : Int32) (h : PH), f_X7_takesRead_L2 n x0 x1 h = some o → PF Γ mi_X7_takesRead D h0 (QR Γ D h0 (ovv o.1) o.2) h 2 [some (va_rf x0), some (.int x1)] [] := by
  intro n
  induction n with
  | zero => intro x0 x1 h hf; cases hf
  | succ n ih =>
    intro x0 x1 h hf
    refine j_iload_n 1 dX7_takesRead_2 rfl rfl ?_
    refine j_ldc q2179 dX7_takesRead_3 ?_
    refine j_icmp_ge 39 dX7_takesRead_5 (by decide) hf (fun c_ hf => ?_) (fun c_ hf => ?_)
    · have e9 := Option.some.inj hf
      subst e9
      exact j_vret rfl dX7_takesRead_39
    · refine j_aload_n 0 dX7_takesRead_8 rfl rfl ?_
      refine j_gR (ci := 6) (k := 0) rfl in_X7 rfl q2202 dX7_takesRead_9 hf (fun r1 hf => ?_)
      refine j_iload_n 1 dX7_takesRead_12 rfl rfl ?_
      refine j_iload_n 1 dX7_takesRead_13 rfl rfl ?_
      refine j_aload_n 0 dX7_takesRead_14 rfl rfl ?_
      refine j_gR (ci := 6) (k := 10) rfl in_X7 rfl q2212 dX7_takesRead_15 hf (fun r2 hf => ?_)
      refine j_alen (t := 0) rfl dX7_takesRead_18 hf (fun v3 hf => ?_)
      refine j_icmp_ge 31 dX7_takesRead_19 (by decide) hf (fun c_ hf => ?_) (fun c_ hf => ?_)
      · refine j_iconst (0 : Int32) dX7_takesRead_31 (by decide) ?_
        exact pf_X7_takesRead_B32 (f_X7_takesRead_L2 n) ih x0 x1 r1 x1 (0 : Int32) h hf
      · refine j_aload_n 0 dX7_takesRead_22 rfl rfl ?_
        refine j_gR (ci := 6) (k := 10) rfl in_X7 rfl q2212 dX7_takesRead_23 hf (fun r4 hf => ?_)
        refine j_iload_n 1 dX7_takesRead_26 rfl rfl ?_
        refine j_iald dX7_takesRead_27 hf (fun v5 hf => ?_)
        refine j_goto 32 dX7_takesRead_28 (by decide) ?_
        exact pf_X7_takesRead_B32 (f_X7_takesRead_L2 n) ih x0 x1 r1 x1 v5 h hf
def f_X7_takesRead (r0 : Option Nat) (h0 : PH) : Option (Unit × PH) := f_X7_takesRead_L2 FU r0 (0 : Int32) h0
theorem hyS_X7_takesRead : yX7_takesRead.cls ≠ "java/lang/invoke/MethodHandle" ∧ yX7_takesRead.cls ≠ "java/lang/invoke/VarHandle" ∧ (parseMethodDescriptor yX7_takesRead.desc).map (fun d => d.parameters.length) = some 0 := by decide +kernel
theorem hyV_X7_takesRead : yX7_takesRead.cls = RX7 ∧ yX7_takesRead.cls ≠ "java/lang/invoke/MethodHandle" ∧ yX7_takesRead.cls ≠ "java/lang/invoke/VarHandle" ∧ (parseMethodDescriptor yX7_takesRead.desc).map (fun d => d.parameters.length) = some 0 := by decide +kernel
theorem c_X7_takesRead {D : va_G} (r0 : Option Nat) {h0 : PH} (l : Launch) (hl : l.stackTraces = false) (x : Unit) (h1 : PH) (hf : f_X7_takesRead r0 h0 = some (x, h1)) : CT l D yX7_takesRead (ws_ yX7_takesRead cX7_takesRead 2 none) 0 0 [va_rf r0] h0 (ovv x) h1 := by
  refine ct_of hl [some (va_rf r0), none] (by decide) (by rw [lgl]; simp [va_rf_cat, cat_i, cat_l]) (by simp [lv_args, vsL, va_rf_cat, cat_i, cat_l]) (fun Γ => ?_)
  obtain ⟨o, ho⟩ : ∃ o : Unit × PH, o = (x, h1) := ⟨_, rfl⟩
  rw [← ho] at hf
  have e1 : x = o.1 := by rw [ho]
  have e2 : h1 = o.2 := by rw [ho]
  subst e1 e2
  clear ho
  show PF Γ mi_X7_takesRead D h0 (QR Γ D h0 (ovv o.1) o.2) h0 0 [some (va_rf r0), none] []
  unfold f_X7_takesRead at hf
  refine j_iconst (0 : Int32) dX7_takesRead_0 (by decide) ?_
  refine j_istore_n 1 [some (va_rf r0), some (.int (0 : Int32))] dX7_takesRead_1 rfl (cz (va_rf_cat _)) rfl rfl ?_
  exact pf_X7_takesRead_L2 FU r0 (0 : Int32) h0 hf
abbrev mi_X7_thrown : MI := (cX7_thrown, 1, RX7, (Option.some FieldType.int), [], 0, 0, "thrown")
def f_X7_thrown (r0 : Option Nat) (h0 : PH) : Option (Int32 × PH) := gI h0 r0 6 1 fun v1 => some (v1, h0)
theorem hyS_X7_thrown : yX7_thrown.cls ≠ "java/lang/invoke/MethodHandle" ∧ yX7_thrown.cls ≠ "java/lang/invoke/VarHandle" ∧ (parseMethodDescriptor yX7_thrown.desc).map (fun d => d.parameters.length) = some 0 := by decide +kernel
theorem hyV_X7_thrown : yX7_thrown.cls = RX7 ∧ yX7_thrown.cls ≠ "java/lang/invoke/MethodHandle" ∧ yX7_thrown.cls ≠ "java/lang/invoke/VarHandle" ∧ (parseMethodDescriptor yX7_thrown.desc).map (fun d => d.parameters.length) = some 0 := by decide +kernel
theorem c_X7_thrown {D : va_G} (r0 : Option Nat) {h0 : PH} (l : Launch) (hl : l.stackTraces = false) (x : Int32) (h1 : PH) (hf : f_X7_thrown r0 h0 = some (x, h1)) : CT l D yX7_thrown (ws_ yX7_thrown cX7_thrown 1 (Option.some FieldType.int)) 0 0 [va_rf r0] h0 (ovi x) h1 := by
  refine ct_of hl [some (va_rf r0)] (by decide) (by rw [lgl]; simp [va_rf_cat, cat_i, cat_l]) (by simp [lv_args, vsL, va_rf_cat, cat_i, cat_l]) (fun Γ => ?_)
  obtain ⟨o, ho⟩ : ∃ o : Int32 × PH, o = (x, h1) := ⟨_, rfl⟩
  rw [← ho] at hf
  have e1 : x = o.1 := by rw [ho]
  have e2 : h1 = o.2 := by rw [ho]
  subst e1 e2
  clear ho
  show PF Γ mi_X7_thrown D h0 (QR Γ D h0 (ovi o.1) o.2) h0 0 [some (va_rf r0)] []
  unfold f_X7_thrown at hf
  refine j_aload_n 0 dX7_thrown_0 rfl rfl ?_
  refine j_gI (ci := 6) (k := 1) rfl in_X7 rfl q2203 dX7_thrown_1 hf (fun v1 hf => ?_)
  have e9 := Option.some.inj hf
  subst e9
  exact j_iret rfl dX7_thrown_4
abbrev mi_X7_in : MI := (cX7_in, 6, RX7, (Option.some FieldType.boolean), [], 0, 0, "in")
def f_X7_in_B18 (t0 : Int32) (h : PH) : Option (Int32 × PH) := rN .boolean t0 (fun v => v) h
theorem pf_X7_in_B18 {Γ : GX} {D : va_G} {h0 : PH} {o : Int32 × PH} (t0 : Int32) (h : PH) (hf : f_X7_in_B18 t0 h = some o) : PF Γ mi_X7_in D h0 (QR Γ D h0 (ovi o.1) o.2) h 18 [none, none, none, none, none, none] [.int t0] := by
  obtain ⟨hn9, hf⟩ := rN_in hf
  subst hf
  exact j_zret rfl (nar_z _ hn9) dX7_in_18
def f_X7_in_B17  (h : PH) : Option (Int32 × PH) := f_X7_in_B18 (0 : Int32) h
theorem pf_X7_in_B17 {Γ : GX} {D : va_G} {h0 : PH} {o : Int32 × PH}  (h : PH) (hf : f_X7_in_B17  h = some o) : PF Γ mi_X7_in D h0 (QR Γ D h0 (ovi o.1) o.2) h 17 [none, none, none, none, none, none] [] := by
  refine j_iconst (0 : Int32) dX7_in_17 (by decide) ?_
  exact pf_X7_in_B18 (0 : Int32) h hf
def f_X7_in (p0 : Int64) (p1 : Int64) (p2 : Int64) (h0 : PH) : Option (Int32 × PH) := (if (lg_cmp p0 p1) < 0 then (f_X7_in_B17 h0) else ((if 0 < (lg_cmp p0 p2) then (f_X7_in_B17 h0) else (f_X7_in_B18 (1 : Int32) h0))))
theorem hyS_X7_in : yX7_in.cls ≠ "java/lang/invoke/MethodHandle" ∧ yX7_in.cls ≠ "java/lang/invoke/VarHandle" ∧ (parseMethodDescriptor yX7_in.desc).map (fun d => d.parameters.length) = some 3 := by decide +kernel
theorem c_X7_in {D : va_G} (p0 : Int64) (p1 : Int64) (p2 : Int64) {h0 : PH} (l : Launch) (hl : l.stackTraces = false) (x : Int32) (h1 : PH) (hf : f_X7_in p0 p1 p2 h0 = some (x, h1)) : CT l D yX7_in (ws_ yX7_in cX7_in 6 (Option.some FieldType.boolean)) 0 0 [.long p0, .long p1, .long p2] h0 (ovi x) h1 := by
  refine ct_of hl [some (.long p0), none, some (.long p1), none, some (.long p2), none] (by decide) (Nat.le_of_ble_eq_true rfl) rfl (fun Γ => ?_)
  obtain ⟨o, ho⟩ : ∃ o : Int32 × PH, o = (x, h1) := ⟨_, rfl⟩
  rw [← ho] at hf
  have e1 : x = o.1 := by rw [ho]
  have e2 : h1 = o.2 := by rw [ho]
  subst e1 e2
  clear ho
  show PF Γ mi_X7_in D h0 (QR Γ D h0 (ovi o.1) o.2) h0 0 [some (.long p0), none, some (.long p1), none, some (.long p2), none] []
  unfold f_X7_in at hf
  refine j_lload_n 0 dX7_in_0 rfl rfl ?_
  refine j_lload_n 2 dX7_in_1 rfl rfl ?_
  refine j_lcmp dX7_in_2 ?_
  refine j_if_lt 17 dX7_in_3 (by decide) hf (fun c_ hf => ?_) (fun c_ hf => ?_)
  · refine j_weak [none, none, none, none, none, none] (Wk.s (Wk.k (Wk.s (Wk.k (Wk.s (Wk.k Wk.n)))))) ?_
    exact pf_X7_in_B17  h0 hf
  · refine j_lload_n 0 dX7_in_6 rfl rfl ?_
    refine j_lload dX7_in_7 rfl ?_
    refine j_lcmp dX7_in_9 ?_
    refine j_if_gt 17 dX7_in_10 (by decide) hf (fun c_ hf => ?_) (fun c_ hf => ?_)
    · refine j_weak [none, none, none, none, none, none] (Wk.s (Wk.k (Wk.s (Wk.k (Wk.s (Wk.k Wk.n)))))) ?_
      exact pf_X7_in_B17  h0 hf
    · refine j_iconst (1 : Int32) dX7_in_13 (by decide) ?_
      refine j_goto 18 dX7_in_14 (by decide) ?_
      refine j_weak [none, none, none, none, none, none] (Wk.s (Wk.k (Wk.s (Wk.k (Wk.s (Wk.k Wk.n)))))) ?_
      exact pf_X7_in_B18 (1 : Int32) h0 hf
abbrev mi_X7_throwsIf : MI := (cX7_throwsIf, 3, RX7, (Option.some FieldType.boolean), [], 0, 0, "throwsIf")
def f_X7_throwsIf_B28 (t0 : Int32) (h : PH) : Option (Int32 × PH) := rN .boolean t0 (fun v => v) h
theorem pf_X7_throwsIf_B28 {Γ : GX} {D : va_G} {h0 : PH} {o : Int32 × PH} (t0 : Int32) (h : PH) (hf : f_X7_throwsIf_B28 t0 h = some o) : PF Γ mi_X7_throwsIf D h0 (QR Γ D h0 (ovi o.1) o.2) h 28 [none, none, none] [.int t0] := by
  obtain ⟨hn9, hf⟩ := rN_in hf
  subst hf
  exact j_zret rfl (nar_z _ hn9) dX7_throwsIf_28
def f_X7_throwsIf_B16 (x0 : Option Nat) (h : PH) : Option (Int32 × PH) := gI h x0 6 1 fun v3 => (if v3 = 0 then (f_X7_throwsIf_B28 (0 : Int32) h) else (f_X7_throwsIf_B28 (1 : Int32) h))
theorem pf_X7_throwsIf_B16 {Γ : GX} {D : va_G} {h0 : PH} {o : Int32 × PH} (x0 : Option Nat) (h : PH) (hf : f_X7_throwsIf_B16 x0 h = some o) : PF Γ mi_X7_throwsIf D h0 (QR Γ D h0 (ovi o.1) o.2) h 16 [some (va_rf x0), none, none] [] := by
  refine j_aload_n 0 dX7_throwsIf_16 rfl rfl ?_
  refine j_gI (ci := 6) (k := 1) rfl in_X7 rfl q2203 dX7_throwsIf_17 hf (fun v3 hf => ?_)
  refine j_if_eq 27 dX7_throwsIf_20 (by decide) hf (fun c_ hf => ?_) (fun c_ hf => ?_)
  · refine j_iconst (0 : Int32) dX7_throwsIf_27 (by decide) ?_
    refine j_weak [none, none, none] (Wk.s (Wk.k (Wk.k Wk.n))) ?_
    exact pf_X7_throwsIf_B28 (0 : Int32) h hf
  · refine j_iconst (1 : Int32) dX7_throwsIf_23 (by decide) ?_
    refine j_goto 28 dX7_throwsIf_24 (by decide) ?_
    refine j_weak [none, none, none] (Wk.s (Wk.k (Wk.k Wk.n))) ?_
    exact pf_X7_throwsIf_B28 (1 : Int32) h hf
def f_X7_throwsIf (r0 : Option Nat) (p0 : Int32) (p1 : Int32) (h0 : PH) : Option (Int32 × PH) := gI h0 r0 6 1 fun v1 => (if v1 = 0 then ((if p0 = 0 then (f_X7_throwsIf_B16 r0 h0) else (pV h0 r0 6 1 (.int p1) fun h2 => f_X7_throwsIf_B16 r0 h2))) else (f_X7_throwsIf_B16 r0 h0))
theorem hyS_X7_throwsIf : yX7_throwsIf.cls ≠ "java/lang/invoke/MethodHandle" ∧ yX7_throwsIf.cls ≠ "java/lang/invoke/VarHandle" ∧ (parseMethodDescriptor yX7_throwsIf.desc).map (fun d => d.parameters.length) = some 2 := by decide +kernel
theorem hyV_X7_throwsIf : yX7_throwsIf.cls = RX7 ∧ yX7_throwsIf.cls ≠ "java/lang/invoke/MethodHandle" ∧ yX7_throwsIf.cls ≠ "java/lang/invoke/VarHandle" ∧ (parseMethodDescriptor yX7_throwsIf.desc).map (fun d => d.parameters.length) = some 2 := by decide +kernel
theorem c_X7_throwsIf {D : va_G} (r0 : Option Nat) (p0 : Int32) (p1 : Int32) {h0 : PH} (l : Launch) (hl : l.stackTraces = false) (x : Int32) (h1 : PH) (hf : f_X7_throwsIf r0 p0 p1 h0 = some (x, h1)) : CT l D yX7_throwsIf (ws_ yX7_throwsIf cX7_throwsIf 3 (Option.some FieldType.boolean)) 0 0 [va_rf r0, .int p0, .int p1] h0 (ovi x) h1 := by
  refine ct_of hl [some (va_rf r0), some (.int p0), some (.int p1)] (by decide) (by rw [lgl]; simp [va_rf_cat, cat_i, cat_l]) (by simp [lv_args, vsL, va_rf_cat, cat_i, cat_l]) (fun Γ => ?_)
  obtain ⟨o, ho⟩ : ∃ o : Int32 × PH, o = (x, h1) := ⟨_, rfl⟩
  rw [← ho] at hf
  have e1 : x = o.1 := by rw [ho]
  have e2 : h1 = o.2 := by rw [ho]
  subst e1 e2
  clear ho
  show PF Γ mi_X7_throwsIf D h0 (QR Γ D h0 (ovi o.1) o.2) h0 0 [some (va_rf r0), some (.int p0), some (.int p1)] []
  unfold f_X7_throwsIf at hf
  refine j_aload_n 0 dX7_throwsIf_0 rfl rfl ?_
  refine j_gI (ci := 6) (k := 1) rfl in_X7 rfl q2203 dX7_throwsIf_1 hf (fun v1 hf => ?_)
  refine j_if_ne 16 dX7_throwsIf_4 (by decide) hf (fun c_ hf => ?_) (fun c_ hf => ?_)
  · refine j_weak [some (va_rf r0), none, none] (Wk.k (Wk.s (Wk.s Wk.n))) ?_
    exact pf_X7_throwsIf_B16 r0 h0 hf
  · refine j_iload_n 1 dX7_throwsIf_7 rfl rfl ?_
    refine j_if_eq 16 dX7_throwsIf_8 (by decide) hf (fun c_ hf => ?_) (fun c_ hf => ?_)
    · refine j_weak [some (va_rf r0), none, none] (Wk.k (Wk.s (Wk.s Wk.n))) ?_
      exact pf_X7_throwsIf_B16 r0 h0 hf
    · refine j_aload_n 0 dX7_throwsIf_11 rfl rfl ?_
      refine j_iload_n 2 dX7_throwsIf_12 rfl rfl ?_
      refine j_pV (ci := 6) (k := 1) tyX7 tyX7_ok nmX7 rfl in_X7 rfl q2203 (Or.inl rfl) rfl (fit_i _) dX7_throwsIf_13 hf (fun h2 hf => ?_)
      refine j_weak [some (va_rf r0), none, none] (Wk.k (Wk.s (Wk.s Wk.n))) ?_
      exact pf_X7_throwsIf_B16 r0 h2 hf
abbrev mi_X7_here : MI := (cX7_here, 1, RX7, (Option.some FieldType.int), [], 0, 0, "here")
def f_X7_here_B25 (t0 : Int32) (h : PH) : Option (Int32 × PH) := some (t0, h)
theorem pf_X7_here_B25 {Γ : GX} {D : va_G} {h0 : PH} {o : Int32 × PH} (t0 : Int32) (h : PH) (hf : f_X7_here_B25 t0 h = some o) : PF Γ mi_X7_here D h0 (QR Γ D h0 (ovi o.1) o.2) h 25 [none] [.int t0] := by
  have e9 := Option.some.inj hf
  subst e9
  exact j_iret rfl dX7_here_25
def f_X7_here (r0 : Option Nat) (h0 : PH) : Option (Int32 × PH) := gI h0 r0 6 4 fun v1 => gI h0 r0 6 3 fun v2 => (if v2 ≤ v1 then (f_X7_here_B25 (-4 : Int32) h0) else (gR h0 r0 6 2 fun r3 => gI h0 r0 6 4 fun v4 => aI h0 r3 0 v4 fun v5 => f_X7_here_B25 v5 h0))
theorem hyS_X7_here : yX7_here.cls ≠ "java/lang/invoke/MethodHandle" ∧ yX7_here.cls ≠ "java/lang/invoke/VarHandle" ∧ (parseMethodDescriptor yX7_here.desc).map (fun d => d.parameters.length) = some 0 := by decide +kernel
theorem hyV_X7_here : yX7_here.cls = RX7 ∧ yX7_here.cls ≠ "java/lang/invoke/MethodHandle" ∧ yX7_here.cls ≠ "java/lang/invoke/VarHandle" ∧ (parseMethodDescriptor yX7_here.desc).map (fun d => d.parameters.length) = some 0 := by decide +kernel
theorem c_X7_here {D : va_G} (r0 : Option Nat) {h0 : PH} (l : Launch) (hl : l.stackTraces = false) (x : Int32) (h1 : PH) (hf : f_X7_here r0 h0 = some (x, h1)) : CT l D yX7_here (ws_ yX7_here cX7_here 1 (Option.some FieldType.int)) 0 0 [va_rf r0] h0 (ovi x) h1 := by
  refine ct_of hl [some (va_rf r0)] (by decide) (by rw [lgl]; simp [va_rf_cat, cat_i, cat_l]) (by simp [lv_args, vsL, va_rf_cat, cat_i, cat_l]) (fun Γ => ?_)
  obtain ⟨o, ho⟩ : ∃ o : Int32 × PH, o = (x, h1) := ⟨_, rfl⟩
  rw [← ho] at hf
  have e1 : x = o.1 := by rw [ho]
  have e2 : h1 = o.2 := by rw [ho]
  subst e1 e2
  clear ho
  show PF Γ mi_X7_here D h0 (QR Γ D h0 (ovi o.1) o.2) h0 0 [some (va_rf r0)] []
  unfold f_X7_here at hf
  refine j_aload_n 0 dX7_here_0 rfl rfl ?_
  refine j_gI (ci := 6) (k := 4) rfl in_X7 rfl q2206 dX7_here_1 hf (fun v1 hf => ?_)
  refine j_aload_n 0 dX7_here_4 rfl rfl ?_
  refine j_gI (ci := 6) (k := 3) rfl in_X7 rfl q2205 dX7_here_5 hf (fun v2 hf => ?_)
  refine j_icmp_ge 23 dX7_here_8 (by decide) hf (fun c_ hf => ?_) (fun c_ hf => ?_)
  · refine j_bipush (-4 : Int32) dX7_here_23 (by decide) ?_
    refine j_weak [none] (Wk.s Wk.n) ?_
    exact pf_X7_here_B25 (-4 : Int32) h0 hf
  · refine j_aload_n 0 dX7_here_11 rfl rfl ?_
    refine j_gR (ci := 6) (k := 2) rfl in_X7 rfl q2204 dX7_here_12 hf (fun r3 hf => ?_)
    refine j_aload_n 0 dX7_here_15 rfl rfl ?_
    refine j_gI (ci := 6) (k := 4) rfl in_X7 rfl q2206 dX7_here_16 hf (fun v4 hf => ?_)
    refine j_iald dX7_here_19 hf (fun v5 hf => ?_)
    refine j_goto 25 dX7_here_20 (by decide) ?_
    refine j_weak [none] (Wk.s Wk.n) ?_
    exact pf_X7_here_B25 v5 h0 hf
abbrev mi_X7_fails : MI := (cX7_fails, 2, RX7, none, [], 0, 0, "fails")
def f_X7_fails (r0 : Option Nat) (p0 : Int32) (h0 : PH) : Option (Unit × PH) := gI h0 r0 6 7 fun v1 => (if v1 = 0 then (pV h0 r0 6 7 (.int p0) fun h2 => gI h2 r0 6 5 fun v3 => pV h2 r0 6 6 (.int v3) fun h4 => some ((), h4)) else (some ((), h0)))
theorem hyS_X7_fails : yX7_fails.cls ≠ "java/lang/invoke/MethodHandle" ∧ yX7_fails.cls ≠ "java/lang/invoke/VarHandle" ∧ (parseMethodDescriptor yX7_fails.desc).map (fun d => d.parameters.length) = some 1 := by decide +kernel
theorem hyV_X7_fails : yX7_fails.cls = RX7 ∧ yX7_fails.cls ≠ "java/lang/invoke/MethodHandle" ∧ yX7_fails.cls ≠ "java/lang/invoke/VarHandle" ∧ (parseMethodDescriptor yX7_fails.desc).map (fun d => d.parameters.length) = some 1 := by decide +kernel
theorem c_X7_fails {D : va_G} (r0 : Option Nat) (p0 : Int32) {h0 : PH} (l : Launch) (hl : l.stackTraces = false) (x : Unit) (h1 : PH) (hf : f_X7_fails r0 p0 h0 = some (x, h1)) : CT l D yX7_fails (ws_ yX7_fails cX7_fails 2 none) 0 0 [va_rf r0, .int p0] h0 (ovv x) h1 := by
  refine ct_of hl [some (va_rf r0), some (.int p0)] (by decide) (by rw [lgl]; simp [va_rf_cat, cat_i, cat_l]) (by simp [lv_args, vsL, va_rf_cat, cat_i, cat_l]) (fun Γ => ?_)
  obtain ⟨o, ho⟩ : ∃ o : Unit × PH, o = (x, h1) := ⟨_, rfl⟩
  rw [← ho] at hf
  have e1 : x = o.1 := by rw [ho]
  have e2 : h1 = o.2 := by rw [ho]
  subst e1 e2
  clear ho
  show PF Γ mi_X7_fails D h0 (QR Γ D h0 (ovv o.1) o.2) h0 0 [some (va_rf r0), some (.int p0)] []
  unfold f_X7_fails at hf
  refine j_aload_n 0 dX7_fails_0 rfl rfl ?_
  refine j_gI (ci := 6) (k := 7) rfl in_X7 rfl q2209 dX7_fails_1 hf (fun v1 hf => ?_)
  refine j_if_eq 8 dX7_fails_4 (by decide) hf (fun c_ hf => ?_) (fun c_ hf => ?_)
  · refine j_aload_n 0 dX7_fails_8 rfl rfl ?_
    refine j_iload_n 1 dX7_fails_9 rfl rfl ?_
    refine j_pV (ci := 6) (k := 7) tyX7 tyX7_ok nmX7 rfl in_X7 rfl q2209 (Or.inl rfl) rfl (fit_i _) dX7_fails_10 hf (fun h2 hf => ?_)
    refine j_aload_n 0 dX7_fails_13 rfl rfl ?_
    refine j_aload_n 0 dX7_fails_14 rfl rfl ?_
    refine j_gI (ci := 6) (k := 5) rfl in_X7 rfl q2207 dX7_fails_15 hf (fun v3 hf => ?_)
    refine j_pV (ci := 6) (k := 6) tyX7 tyX7_ok nmX7 rfl in_X7 rfl q2208 (Or.inl rfl) rfl (fit_i _) dX7_fails_18 hf (fun h4 hf => ?_)
    have e9 := Option.some.inj hf
    subst e9
    exact j_vret rfl dX7_fails_21
  · have e9 := Option.some.inj hf
    subst e9
    exact j_vret rfl dX7_fails_7
abbrev mi_X7_loadError : MI := (cX7_loadError, 1, RX7, (Option.some FieldType.int), [], 0, 0, "loadError")
def f_X7_loadError (r0 : Option Nat) (h0 : PH) : Option (Int32 × PH) := pV h0 r0 6 1 (.int (0 : Int32)) fun h1 => gI h1 r0 6 8 fun v2 => some (v2, h1)
theorem hyS_X7_loadError : yX7_loadError.cls ≠ "java/lang/invoke/MethodHandle" ∧ yX7_loadError.cls ≠ "java/lang/invoke/VarHandle" ∧ (parseMethodDescriptor yX7_loadError.desc).map (fun d => d.parameters.length) = some 0 := by decide +kernel
theorem hyV_X7_loadError : yX7_loadError.cls = RX7 ∧ yX7_loadError.cls ≠ "java/lang/invoke/MethodHandle" ∧ yX7_loadError.cls ≠ "java/lang/invoke/VarHandle" ∧ (parseMethodDescriptor yX7_loadError.desc).map (fun d => d.parameters.length) = some 0 := by decide +kernel
theorem c_X7_loadError {D : va_G} (r0 : Option Nat) {h0 : PH} (l : Launch) (hl : l.stackTraces = false) (x : Int32) (h1 : PH) (hf : f_X7_loadError r0 h0 = some (x, h1)) : CT l D yX7_loadError (ws_ yX7_loadError cX7_loadError 1 (Option.some FieldType.int)) 0 0 [va_rf r0] h0 (ovi x) h1 := by
  refine ct_of hl [some (va_rf r0)] (by decide) (by rw [lgl]; simp [va_rf_cat, cat_i, cat_l]) (by simp [lv_args, vsL, va_rf_cat, cat_i, cat_l]) (fun Γ => ?_)
  obtain ⟨o, ho⟩ : ∃ o : Int32 × PH, o = (x, h1) := ⟨_, rfl⟩
  rw [← ho] at hf
  have e1 : x = o.1 := by rw [ho]
  have e2 : h1 = o.2 := by rw [ho]
  subst e1 e2
  clear ho
  show PF Γ mi_X7_loadError D h0 (QR Γ D h0 (ovi o.1) o.2) h0 0 [some (va_rf r0)] []
  unfold f_X7_loadError at hf
  refine j_aload_n 0 dX7_loadError_0 rfl rfl ?_
  refine j_iconst (0 : Int32) dX7_loadError_1 (by decide) ?_
  refine j_pV (ci := 6) (k := 1) tyX7 tyX7_ok nmX7 rfl in_X7 rfl q2203 (Or.inl rfl) rfl (fit_i _) dX7_loadError_2 hf (fun h1 hf => ?_)
  refine j_aload_n 0 dX7_loadError_5 rfl rfl ?_
  refine j_gI (ci := 6) (k := 8) rfl in_X7 rfl q2210 dX7_loadError_6 hf (fun v2 hf => ?_)
  have e9 := Option.some.inj hf
  subst e9
  exact j_iret rfl dX7_loadError_9
abbrev mi_X7_now : MI := (cX7_now, 1, RX7, (Option.some FieldType.int), [], 0, 0, "now")
def f_X7_now (r0 : Option Nat) (h0 : PH) : Option (Int32 × PH) := pV h0 r0 6 1 (.int (0 : Int32)) fun h1 => gR h1 r0 6 0 fun r2 => aI h1 r2 0 (0 : Int32) fun v3 => some (v3, h1)
theorem hyS_X7_now : yX7_now.cls ≠ "java/lang/invoke/MethodHandle" ∧ yX7_now.cls ≠ "java/lang/invoke/VarHandle" ∧ (parseMethodDescriptor yX7_now.desc).map (fun d => d.parameters.length) = some 0 := by decide +kernel
theorem hyV_X7_now : yX7_now.cls = RX7 ∧ yX7_now.cls ≠ "java/lang/invoke/MethodHandle" ∧ yX7_now.cls ≠ "java/lang/invoke/VarHandle" ∧ (parseMethodDescriptor yX7_now.desc).map (fun d => d.parameters.length) = some 0 := by decide +kernel
theorem c_X7_now {D : va_G} (r0 : Option Nat) {h0 : PH} (l : Launch) (hl : l.stackTraces = false) (x : Int32) (h1 : PH) (hf : f_X7_now r0 h0 = some (x, h1)) : CT l D yX7_now (ws_ yX7_now cX7_now 1 (Option.some FieldType.int)) 0 0 [va_rf r0] h0 (ovi x) h1 := by
  refine ct_of hl [some (va_rf r0)] (by decide) (by rw [lgl]; simp [va_rf_cat, cat_i, cat_l]) (by simp [lv_args, vsL, va_rf_cat, cat_i, cat_l]) (fun Γ => ?_)
  obtain ⟨o, ho⟩ : ∃ o : Int32 × PH, o = (x, h1) := ⟨_, rfl⟩
  rw [← ho] at hf
  have e1 : x = o.1 := by rw [ho]
  have e2 : h1 = o.2 := by rw [ho]
  subst e1 e2
  clear ho
  show PF Γ mi_X7_now D h0 (QR Γ D h0 (ovi o.1) o.2) h0 0 [some (va_rf r0)] []
  unfold f_X7_now at hf
  refine j_aload_n 0 dX7_now_0 rfl rfl ?_
  refine j_iconst (0 : Int32) dX7_now_1 (by decide) ?_
  refine j_pV (ci := 6) (k := 1) tyX7 tyX7_ok nmX7 rfl in_X7 rfl q2203 (Or.inl rfl) rfl (fit_i _) dX7_now_2 hf (fun h1 hf => ?_)
  refine j_aload_n 0 dX7_now_5 rfl rfl ?_
  refine j_gR (ci := 6) (k := 0) rfl in_X7 rfl q2202 dX7_now_6 hf (fun r2 hf => ?_)
  refine j_iconst (0 : Int32) dX7_now_9 (by decide) ?_
  refine j_iald dX7_now_10 hf (fun v3 hf => ?_)
  have e9 := Option.some.inj hf
  subst e9
  exact j_iret rfl dX7_now_11
abbrev mi_X7_nodeCount : MI := (cX7_nodeCount, 1, RX7, (Option.some FieldType.int), [], 0, 0, "nodeCount")
def f_X7_nodeCount (r0 : Option Nat) (h0 : PH) : Option (Int32 × PH) := pV h0 r0 6 1 (.int (0 : Int32)) fun h1 => gR h1 r0 6 0 fun r2 => aI h1 r2 0 (2 : Int32) fun v3 => some (v3, h1)
theorem hyS_X7_nodeCount : yX7_nodeCount.cls ≠ "java/lang/invoke/MethodHandle" ∧ yX7_nodeCount.cls ≠ "java/lang/invoke/VarHandle" ∧ (parseMethodDescriptor yX7_nodeCount.desc).map (fun d => d.parameters.length) = some 0 := by decide +kernel
theorem hyV_X7_nodeCount : yX7_nodeCount.cls = RX7 ∧ yX7_nodeCount.cls ≠ "java/lang/invoke/MethodHandle" ∧ yX7_nodeCount.cls ≠ "java/lang/invoke/VarHandle" ∧ (parseMethodDescriptor yX7_nodeCount.desc).map (fun d => d.parameters.length) = some 0 := by decide +kernel
theorem c_X7_nodeCount {D : va_G} (r0 : Option Nat) {h0 : PH} (l : Launch) (hl : l.stackTraces = false) (x : Int32) (h1 : PH) (hf : f_X7_nodeCount r0 h0 = some (x, h1)) : CT l D yX7_nodeCount (ws_ yX7_nodeCount cX7_nodeCount 1 (Option.some FieldType.int)) 0 0 [va_rf r0] h0 (ovi x) h1 := by
  refine ct_of hl [some (va_rf r0)] (by decide) (by rw [lgl]; simp [va_rf_cat, cat_i, cat_l]) (by simp [lv_args, vsL, va_rf_cat, cat_i, cat_l]) (fun Γ => ?_)
  obtain ⟨o, ho⟩ : ∃ o : Int32 × PH, o = (x, h1) := ⟨_, rfl⟩
  rw [← ho] at hf
  have e1 : x = o.1 := by rw [ho]
  have e2 : h1 = o.2 := by rw [ho]
  subst e1 e2
  clear ho
  show PF Γ mi_X7_nodeCount D h0 (QR Γ D h0 (ovi o.1) o.2) h0 0 [some (va_rf r0)] []
  unfold f_X7_nodeCount at hf
  refine j_aload_n 0 dX7_nodeCount_0 rfl rfl ?_
  refine j_iconst (0 : Int32) dX7_nodeCount_1 (by decide) ?_
  refine j_pV (ci := 6) (k := 1) tyX7 tyX7_ok nmX7 rfl in_X7 rfl q2203 (Or.inl rfl) rfl (fit_i _) dX7_nodeCount_2 hf (fun h1 hf => ?_)
  refine j_aload_n 0 dX7_nodeCount_5 rfl rfl ?_
  refine j_gR (ci := 6) (k := 0) rfl in_X7 rfl q2202 dX7_nodeCount_6 hf (fun r2 hf => ?_)
  refine j_iconst (2 : Int32) dX7_nodeCount_9 (by decide) ?_
  refine j_iald dX7_nodeCount_10 hf (fun v3 hf => ?_)
  have e9 := Option.some.inj hf
  subst e9
  exact j_iret rfl dX7_nodeCount_11
theorem kc_X7_68 {Γ : GX} {I : MI} {D : va_G} {h0 : PH} {Q : State → Prop} {h : PH} {pc : Nat} {vs : List (Option Value)} {rest : List Value} {β : Type} {o : β} {p0 : Int64} {p1 : Int64} {p2 : Int64} {K : ((Int32) → PH → Option β)} (hI : I.2.2.1 = RX7) (hfr : Nat.ble 1 I.2.2.2.2.2.1 = true) (hlo : Nat.ble 25 I.2.2.2.2.2.2.1 = true) (hW : (rest.map fun v => v.category).sum ≤ 8) (hd : decode I.1 pc = .ok (.invokestatic 68, 3)) (hf : cl_ (f_X7_in p0 p1 p2 h) K = some o) (kk : ∀ (x : Int32) (h1 : PH), K x h1 = some o → PF Γ I D h0 Q h1 (pc + 3) vs (.int x :: rest)) : PF Γ I D h0 Q h pc vs (.long p2 :: .long p1 :: .long p0 :: rest) := by
  obtain ⟨cc, nL, own, rt, xt, fr, lo, nm⟩ := I
  cases hI
  exact j_cSi (n := 3) (y := yX7_in) (cc2 := cX7_in) (As := [.long p0, .long p1, .long p2]) (lw_S q2267 q2268 q117 q2269) hyS_X7_in hfr hlo rfl hW hd (c_X7_in p0 p1 p2) hf _ rfl kk
theorem kc_X7_72 {Γ : GX} {I : MI} {D : va_G} {h0 : PH} {Q : State → Prop} {h : PH} {pc : Nat} {vs : List (Option Value)} {rest : List Value} {β : Type} {o : β} {r : Option Nat} {p0 : Int32} {p1 : Int32} {K : ((Int32) → PH → Option β)} (hI : I.2.2.1 = RX7) (hfr : Nat.ble 1 I.2.2.2.2.2.1 = true) (hlo : Nat.ble 22 I.2.2.2.2.2.2.1 = true) (hW : (rest.map fun v => v.category).sum ≤ 8) (hd : decode I.1 pc = .ok (.invokevirtual 72, 3)) (hf : rv_ h r 6 (cl_ (f_X7_throwsIf r p0 p1 h) K) = some o) (kk : ∀ (x : Int32) (h1 : PH), K x h1 = some o → PF Γ I D h0 Q h1 (pc + 3) vs (.int x :: rest)) : PF Γ I D h0 Q h pc vs (.int p1 :: .int p0 :: va_rf r :: rest) := by
  obtain ⟨cc, nL, own, rt, xt, fr, lo, nm⟩ := I
  cases hI
  exact j_cVi (n := 2) (y := yX7_throwsIf) (cc2 := cX7_throwsIf) (As := [.int p0, .int p1]) (C := RX7) (ci := 6) rfl (lw_V q2270 q2272 qs37 q117 q2273) hyV_X7_throwsIf hfr hlo rfl hW hd (c_X7_throwsIf r p0 p1) hf _ rfl kk
abbrev mi_X7_noNode : MI := (cX7_noNode, 2, RX7, (Option.some FieldType.boolean), [], 1, 25, "noNode")
def f_X7_noNode_B29 (t0 : Option Nat) (t1 : Int32) (h : PH) : Option (Int32 × PH) := rv_ h t0 6 (cl_ (f_X7_throwsIf t0 t1 (1 : Int32) h) fun v7 h6 => rN .boolean v7 (fun v => v) h6)
theorem pf_X7_noNode_B29 {Γ : GX} {D : va_G} {h0 : PH} {o : Int32 × PH} (t0 : Option Nat) (t1 : Int32) (h : PH) (hf : f_X7_noNode_B29 t0 t1 h = some o) : PF Γ mi_X7_noNode D h0 (QR Γ D h0 (ovi o.1) o.2) h 29 [none, none] [.int t1, va_rf t0] := by
  refine j_iconst (1 : Int32) dX7_noNode_29 (by decide) ?_
  refine kc_X7_72 rfl rfl rfl (by decide) dX7_noNode_30 hf (fun v7 h6 hf => ?_)
  obtain ⟨hn9, hf⟩ := rN_in hf
  subst hf
  exact j_zret rfl (nar_z _ hn9) dX7_noNode_33
def f_X7_noNode (r0 : Option Nat) (p0 : Int32) (h0 : PH) : Option (Int32 × PH) := pV h0 r0 6 1 (.int (0 : Int32)) fun h1 => gR h1 r0 6 0 fun r2 => aI h1 r2 0 (2 : Int32) fun v3 => cl_ (f_X7_in (p0.toInt64) (0 : Int64) ((v3 - (1 : Int32)).toInt64) h1) fun v5 h4 => (if v5 = 0 then (f_X7_noNode_B29 r0 (1 : Int32) h4) else (f_X7_noNode_B29 r0 (0 : Int32) h4))
theorem hyS_X7_noNode : yX7_noNode.cls ≠ "java/lang/invoke/MethodHandle" ∧ yX7_noNode.cls ≠ "java/lang/invoke/VarHandle" ∧ (parseMethodDescriptor yX7_noNode.desc).map (fun d => d.parameters.length) = some 1 := by decide +kernel
theorem hyV_X7_noNode : yX7_noNode.cls = RX7 ∧ yX7_noNode.cls ≠ "java/lang/invoke/MethodHandle" ∧ yX7_noNode.cls ≠ "java/lang/invoke/VarHandle" ∧ (parseMethodDescriptor yX7_noNode.desc).map (fun d => d.parameters.length) = some 1 := by decide +kernel
theorem c_X7_noNode {D : va_G} (r0 : Option Nat) (p0 : Int32) {h0 : PH} (l : Launch) (hl : l.stackTraces = false) (x : Int32) (h1 : PH) (hf : f_X7_noNode r0 p0 h0 = some (x, h1)) : CT l D yX7_noNode (ws_ yX7_noNode cX7_noNode 2 (Option.some FieldType.boolean)) 1 25 [va_rf r0, .int p0] h0 (ovi x) h1 := by
  refine ct_of hl [some (va_rf r0), some (.int p0)] (by decide) (by rw [lgl]; simp [va_rf_cat, cat_i, cat_l]) (by simp [lv_args, vsL, va_rf_cat, cat_i, cat_l]) (fun Γ => ?_)
  obtain ⟨o, ho⟩ : ∃ o : Int32 × PH, o = (x, h1) := ⟨_, rfl⟩
  rw [← ho] at hf
  have e1 : x = o.1 := by rw [ho]
  have e2 : h1 = o.2 := by rw [ho]
  subst e1 e2
  clear ho
  show PF Γ mi_X7_noNode D h0 (QR Γ D h0 (ovi o.1) o.2) h0 0 [some (va_rf r0), some (.int p0)] []
  unfold f_X7_noNode at hf
  refine j_aload_n 0 dX7_noNode_0 rfl rfl ?_
  refine j_iconst (0 : Int32) dX7_noNode_1 (by decide) ?_
  refine j_pV (ci := 6) (k := 1) tyX7 tyX7_ok nmX7 rfl in_X7 rfl q2203 (Or.inl rfl) rfl (fit_i _) dX7_noNode_2 hf (fun h1 hf => ?_)
  refine j_aload_n 0 dX7_noNode_5 rfl rfl ?_
  refine j_iload_n 1 dX7_noNode_6 rfl rfl ?_
  refine j_i2l dX7_noNode_7 ?_
  refine j_lconst (0 : Int64) dX7_noNode_8 (by decide) ?_
  refine j_aload_n 0 dX7_noNode_9 rfl rfl ?_
  refine j_gR (ci := 6) (k := 0) rfl in_X7 rfl q2202 dX7_noNode_10 hf (fun r2 hf => ?_)
  refine j_iconst (2 : Int32) dX7_noNode_13 (by decide) ?_
  refine j_iald dX7_noNode_14 hf (fun v3 hf => ?_)
  refine j_iconst (1 : Int32) dX7_noNode_15 (by decide) ?_
  refine j_isub dX7_noNode_16 ?_
  refine j_i2l dX7_noNode_17 ?_
  refine kc_X7_68 rfl rfl rfl (by simp [va_rf_cat, cat_i, cat_l]) dX7_noNode_18 hf (fun v5 h4 hf => ?_)
  refine j_if_ne 28 dX7_noNode_21 (by decide) hf (fun c_ hf => ?_) (fun c_ hf => ?_)
  · refine j_iconst (0 : Int32) dX7_noNode_28 (by decide) ?_
    refine j_weak [none, none] (Wk.s (Wk.s Wk.n)) ?_
    exact pf_X7_noNode_B29 r0 (0 : Int32) h4 hf
  · refine j_iconst (1 : Int32) dX7_noNode_24 (by decide) ?_
    refine j_goto 29 dX7_noNode_25 (by decide) ?_
    refine j_weak [none, none] (Wk.s (Wk.s Wk.n)) ?_
    exact pf_X7_noNode_B29 r0 (1 : Int32) h4 hf
abbrev mi_X7_of : MI := (cX7_of, 3, RX7, (Option.some FieldType.int), [], 0, 0, "of")
def f_X7_of (r0 : Option Nat) (p0 : Int32) (p1 : Int32) (h0 : PH) : Option (Int32 × PH) := gR h0 r0 6 0 fun r1 => aI h0 r1 0 (((40 : Int32) + ((20 : Int32) * p0)) + p1) fun v2 => some (v2, h0)
theorem hyS_X7_of : yX7_of.cls ≠ "java/lang/invoke/MethodHandle" ∧ yX7_of.cls ≠ "java/lang/invoke/VarHandle" ∧ (parseMethodDescriptor yX7_of.desc).map (fun d => d.parameters.length) = some 2 := by decide +kernel
theorem hyV_X7_of : yX7_of.cls = RX7 ∧ yX7_of.cls ≠ "java/lang/invoke/MethodHandle" ∧ yX7_of.cls ≠ "java/lang/invoke/VarHandle" ∧ (parseMethodDescriptor yX7_of.desc).map (fun d => d.parameters.length) = some 2 := by decide +kernel
theorem c_X7_of {D : va_G} (r0 : Option Nat) (p0 : Int32) (p1 : Int32) {h0 : PH} (l : Launch) (hl : l.stackTraces = false) (x : Int32) (h1 : PH) (hf : f_X7_of r0 p0 p1 h0 = some (x, h1)) : CT l D yX7_of (ws_ yX7_of cX7_of 3 (Option.some FieldType.int)) 0 0 [va_rf r0, .int p0, .int p1] h0 (ovi x) h1 := by
  refine ct_of hl [some (va_rf r0), some (.int p0), some (.int p1)] (by decide) (by rw [lgl]; simp [va_rf_cat, cat_i, cat_l]) (by simp [lv_args, vsL, va_rf_cat, cat_i, cat_l]) (fun Γ => ?_)
  obtain ⟨o, ho⟩ : ∃ o : Int32 × PH, o = (x, h1) := ⟨_, rfl⟩
  rw [← ho] at hf
  have e1 : x = o.1 := by rw [ho]
  have e2 : h1 = o.2 := by rw [ho]
  subst e1 e2
  clear ho
  show PF Γ mi_X7_of D h0 (QR Γ D h0 (ovi o.1) o.2) h0 0 [some (va_rf r0), some (.int p0), some (.int p1)] []
  unfold f_X7_of at hf
  refine j_aload_n 0 dX7_of_0 rfl rfl ?_
  refine j_gR (ci := 6) (k := 0) rfl in_X7 rfl q2202 dX7_of_1 hf (fun r1 hf => ?_)
  refine j_bipush (40 : Int32) dX7_of_4 (by decide) ?_
  refine j_bipush (20 : Int32) dX7_of_6 (by decide) ?_
  refine j_iload_n 1 dX7_of_8 rfl rfl ?_
  refine j_imul dX7_of_9 ?_
  refine j_iadd dX7_of_10 ?_
  refine j_iload_n 2 dX7_of_11 rfl rfl ?_
  refine j_iadd dX7_of_12 ?_
  refine j_iald dX7_of_13 hf (fun v2 hf => ?_)
  have e9 := Option.some.inj hf
  subst e9
  exact j_iret rfl dX7_of_14
abbrev mi_X7_shows : MI := (cX7_shows, 3, RX7, (Option.some FieldType.int), [], 0, 0, "shows")
def f_X7_shows (p0 : Int32) (p1 : Int32) (p2 : Int32) (h0 : PH) : Option (Int32 × PH) := dvL (1000 : Int64) (some ((p1 + ((((p0.toInt64) * (p2.toInt64)) / (1000 : Int64)).toInt32)), h0))
theorem hyS_X7_shows : yX7_shows.cls ≠ "java/lang/invoke/MethodHandle" ∧ yX7_shows.cls ≠ "java/lang/invoke/VarHandle" ∧ (parseMethodDescriptor yX7_shows.desc).map (fun d => d.parameters.length) = some 3 := by decide +kernel
theorem c_X7_shows {D : va_G} (p0 : Int32) (p1 : Int32) (p2 : Int32) {h0 : PH} (l : Launch) (hl : l.stackTraces = false) (x : Int32) (h1 : PH) (hf : f_X7_shows p0 p1 p2 h0 = some (x, h1)) : CT l D yX7_shows (ws_ yX7_shows cX7_shows 3 (Option.some FieldType.int)) 0 0 [.int p0, .int p1, .int p2] h0 (ovi x) h1 := by
  refine ct_of hl [some (.int p0), some (.int p1), some (.int p2)] (by decide) (Nat.le_of_ble_eq_true rfl) rfl (fun Γ => ?_)
  obtain ⟨o, ho⟩ : ∃ o : Int32 × PH, o = (x, h1) := ⟨_, rfl⟩
  rw [← ho] at hf
  have e1 : x = o.1 := by rw [ho]
  have e2 : h1 = o.2 := by rw [ho]
  subst e1 e2
  clear ho
  show PF Γ mi_X7_shows D h0 (QR Γ D h0 (ovi o.1) o.2) h0 0 [some (.int p0), some (.int p1), some (.int p2)] []
  unfold f_X7_shows at hf
  refine j_iload_n 1 dX7_shows_0 rfl rfl ?_
  refine j_iload_n 0 dX7_shows_1 rfl rfl ?_
  refine j_i2l dX7_shows_2 ?_
  refine j_iload_n 2 dX7_shows_3 rfl rfl ?_
  refine j_i2l dX7_shows_4 ?_
  refine j_lmul dX7_shows_5 ?_
  refine j_ldc2 q2359 dX7_shows_6 ?_
  refine j_ldiv dX7_shows_9 hf (fun hf => ?_)
  refine j_l2i dX7_shows_10 ?_
  refine j_iadd dX7_shows_11 ?_
  have e9 := Option.some.inj hf
  subst e9
  exact j_iret rfl dX7_shows_12
theorem kc_X7_155 {Γ : GX} {I : MI} {D : va_G} {h0 : PH} {Q : State → Prop} {h : PH} {pc : Nat} {vs : List (Option Value)} {rest : List Value} {β : Type} {o : β} {p0 : Int32} {p1 : Int32} {p2 : Int32} {K : ((Int32) → PH → Option β)} (hI : I.2.2.1 = RX7) (hfr : Nat.ble 1 I.2.2.2.2.2.1 = true) (hlo : Nat.ble 22 I.2.2.2.2.2.2.1 = true) (hW : (rest.map fun v => v.category).sum ≤ 8) (hd : decode I.1 pc = .ok (.invokestatic 155, 3)) (hf : cl_ (f_X7_shows p0 p1 p2 h) K = some o) (kk : ∀ (x : Int32) (h1 : PH), K x h1 = some o → PF Γ I D h0 Q h1 (pc + 3) vs (.int x :: rest)) : PF Γ I D h0 Q h pc vs (.int p2 :: .int p1 :: .int p0 :: rest) := by
  obtain ⟨cc, nL, own, rt, xt, fr, lo, nm⟩ := I
  cases hI
  exact j_cSi (n := 3) (y := yX7_shows) (cc2 := cX7_shows) (As := [.int p0, .int p1, .int p2]) (lw_S q2356 q2357 q117 q2358) hyS_X7_shows hfr hlo rfl hW hd (c_X7_shows p0 p1 p2) hf _ rfl kk
abbrev mi_X7_serverShows : MI := (cX7_serverShows, 1, RX7, (Option.some FieldType.int), [], 1, 22, "serverShows")
def f_X7_serverShows (r0 : Option Nat) (h0 : PH) : Option (Int32 × PH) := gR h0 r0 6 0 fun r1 => aI h0 r1 0 (3 : Int32) fun v2 => gR h0 r0 6 0 fun r3 => aI h0 r3 0 (4 : Int32) fun v4 => gR h0 r0 6 0 fun r5 => aI h0 r5 0 (0 : Int32) fun v6 => cl_ (f_X7_shows v2 v4 v6 h0) fun v8 h7 => some (v8, h7)
theorem hyS_X7_serverShows : yX7_serverShows.cls ≠ "java/lang/invoke/MethodHandle" ∧ yX7_serverShows.cls ≠ "java/lang/invoke/VarHandle" ∧ (parseMethodDescriptor yX7_serverShows.desc).map (fun d => d.parameters.length) = some 0 := by decide +kernel
theorem hyV_X7_serverShows : yX7_serverShows.cls = RX7 ∧ yX7_serverShows.cls ≠ "java/lang/invoke/MethodHandle" ∧ yX7_serverShows.cls ≠ "java/lang/invoke/VarHandle" ∧ (parseMethodDescriptor yX7_serverShows.desc).map (fun d => d.parameters.length) = some 0 := by decide +kernel
theorem c_X7_serverShows {D : va_G} (r0 : Option Nat) {h0 : PH} (l : Launch) (hl : l.stackTraces = false) (x : Int32) (h1 : PH) (hf : f_X7_serverShows r0 h0 = some (x, h1)) : CT l D yX7_serverShows (ws_ yX7_serverShows cX7_serverShows 1 (Option.some FieldType.int)) 1 22 [va_rf r0] h0 (ovi x) h1 := by
  refine ct_of hl [some (va_rf r0)] (by decide) (by rw [lgl]; simp [va_rf_cat, cat_i, cat_l]) (by simp [lv_args, vsL, va_rf_cat, cat_i, cat_l]) (fun Γ => ?_)
  obtain ⟨o, ho⟩ : ∃ o : Int32 × PH, o = (x, h1) := ⟨_, rfl⟩
  rw [← ho] at hf
  have e1 : x = o.1 := by rw [ho]
  have e2 : h1 = o.2 := by rw [ho]
  subst e1 e2
  clear ho
  show PF Γ mi_X7_serverShows D h0 (QR Γ D h0 (ovi o.1) o.2) h0 0 [some (va_rf r0)] []
  unfold f_X7_serverShows at hf
  refine j_aload_n 0 dX7_serverShows_0 rfl rfl ?_
  refine j_gR (ci := 6) (k := 0) rfl in_X7 rfl q2202 dX7_serverShows_1 hf (fun r1 hf => ?_)
  refine j_iconst (3 : Int32) dX7_serverShows_4 (by decide) ?_
  refine j_iald dX7_serverShows_5 hf (fun v2 hf => ?_)
  refine j_aload_n 0 dX7_serverShows_6 rfl rfl ?_
  refine j_gR (ci := 6) (k := 0) rfl in_X7 rfl q2202 dX7_serverShows_7 hf (fun r3 hf => ?_)
  refine j_iconst (4 : Int32) dX7_serverShows_10 (by decide) ?_
  refine j_iald dX7_serverShows_11 hf (fun v4 hf => ?_)
  refine j_aload_n 0 dX7_serverShows_12 rfl rfl ?_
  refine j_gR (ci := 6) (k := 0) rfl in_X7 rfl q2202 dX7_serverShows_13 hf (fun r5 hf => ?_)
  refine j_iconst (0 : Int32) dX7_serverShows_16 (by decide) ?_
  refine j_iald dX7_serverShows_17 hf (fun v6 hf => ?_)
  refine kc_X7_155 rfl rfl rfl (by decide) dX7_serverShows_18 hf (fun v8 h7 hf => ?_)
  have e9 := Option.some.inj hf
  subst e9
  exact j_iret rfl dX7_serverShows_21
theorem kc_X7_152 {Γ : GX} {I : MI} {D : va_G} {h0 : PH} {Q : State → Prop} {h : PH} {pc : Nat} {vs : List (Option Value)} {rest : List Value} {β : Type} {o : β} {r : Option Nat} {p0 : Int32} {p1 : Int32} {K : ((Int32) → PH → Option β)} (hI : I.2.2.1 = RX7) (hfr : Nat.ble 1 I.2.2.2.2.2.1 = true) (hlo : Nat.ble 22 I.2.2.2.2.2.2.1 = true) (hW : (rest.map fun v => v.category).sum ≤ 8) (hd : decode I.1 pc = .ok (.invokevirtual 152, 3)) (hf : rv_ h r 6 (cl_ (f_X7_of r p0 p1 h) K) = some o) (kk : ∀ (x : Int32) (h1 : PH), K x h1 = some o → PF Γ I D h0 Q h1 (pc + 3) vs (.int x :: rest)) : PF Γ I D h0 Q h pc vs (.int p1 :: .int p0 :: va_rf r :: rest) := by
  obtain ⟨cc, nL, own, rt, xt, fr, lo, nm⟩ := I
  cases hI
  exact j_cVi (n := 2) (y := yX7_of) (cc2 := cX7_of) (As := [.int p0, .int p1]) (C := RX7) (ci := 6) rfl (lw_V q2352 q2354 qs47 q117 q2355) hyV_X7_of hfr hlo rfl hW hd (c_X7_of r p0 p1) hf _ rfl kk
abbrev mi_X7_isPaused : MI := (cX7_isPaused, 2, RX7, (Option.some FieldType.boolean), [], 1, 22, "isPaused")
def f_X7_isPaused_B20 (t0 : Int32) (h : PH) : Option (Int32 × PH) := rN .boolean t0 (fun v => v) h
theorem pf_X7_isPaused_B20 {Γ : GX} {D : va_G} {h0 : PH} {o : Int32 × PH} (t0 : Int32) (h : PH) (hf : f_X7_isPaused_B20 t0 h = some o) : PF Γ mi_X7_isPaused D h0 (QR Γ D h0 (ovi o.1) o.2) h 20 [none, none] [.int t0] := by
  obtain ⟨hn9, hf⟩ := rN_in hf
  subst hf
  exact j_zret rfl (nar_z _ hn9) dX7_isPaused_20
def f_X7_isPaused (r0 : Option Nat) (p0 : Int32) (h0 : PH) : Option (Int32 × PH) := rv_ h0 r0 6 (cl_ (f_X7_of r0 p0 (4 : Int32) h0) fun v2 h1 => gR h1 r0 6 0 fun r3 => aI h1 r3 0 (0 : Int32) fun v4 => (if v2 ≤ v4 then (f_X7_isPaused_B20 (0 : Int32) h1) else (f_X7_isPaused_B20 (1 : Int32) h1)))
theorem hyS_X7_isPaused : yX7_isPaused.cls ≠ "java/lang/invoke/MethodHandle" ∧ yX7_isPaused.cls ≠ "java/lang/invoke/VarHandle" ∧ (parseMethodDescriptor yX7_isPaused.desc).map (fun d => d.parameters.length) = some 1 := by decide +kernel
theorem hyV_X7_isPaused : yX7_isPaused.cls = RX7 ∧ yX7_isPaused.cls ≠ "java/lang/invoke/MethodHandle" ∧ yX7_isPaused.cls ≠ "java/lang/invoke/VarHandle" ∧ (parseMethodDescriptor yX7_isPaused.desc).map (fun d => d.parameters.length) = some 1 := by decide +kernel
theorem c_X7_isPaused {D : va_G} (r0 : Option Nat) (p0 : Int32) {h0 : PH} (l : Launch) (hl : l.stackTraces = false) (x : Int32) (h1 : PH) (hf : f_X7_isPaused r0 p0 h0 = some (x, h1)) : CT l D yX7_isPaused (ws_ yX7_isPaused cX7_isPaused 2 (Option.some FieldType.boolean)) 1 22 [va_rf r0, .int p0] h0 (ovi x) h1 := by
  refine ct_of hl [some (va_rf r0), some (.int p0)] (by decide) (by rw [lgl]; simp [va_rf_cat, cat_i, cat_l]) (by simp [lv_args, vsL, va_rf_cat, cat_i, cat_l]) (fun Γ => ?_)
  obtain ⟨o, ho⟩ : ∃ o : Int32 × PH, o = (x, h1) := ⟨_, rfl⟩
  rw [← ho] at hf
  have e1 : x = o.1 := by rw [ho]
  have e2 : h1 = o.2 := by rw [ho]
  subst e1 e2
  clear ho
  show PF Γ mi_X7_isPaused D h0 (QR Γ D h0 (ovi o.1) o.2) h0 0 [some (va_rf r0), some (.int p0)] []
  unfold f_X7_isPaused at hf
  refine j_aload_n 0 dX7_isPaused_0 rfl rfl ?_
  refine j_iload_n 1 dX7_isPaused_1 rfl rfl ?_
  refine j_iconst (4 : Int32) dX7_isPaused_2 (by decide) ?_
  refine kc_X7_152 rfl rfl rfl (by decide) dX7_isPaused_3 hf (fun v2 h1 hf => ?_)
  refine j_aload_n 0 dX7_isPaused_6 rfl rfl ?_
  refine j_gR (ci := 6) (k := 0) rfl in_X7 rfl q2202 dX7_isPaused_7 hf (fun r3 hf => ?_)
  refine j_iconst (0 : Int32) dX7_isPaused_10 (by decide) ?_
  refine j_iald dX7_isPaused_11 hf (fun v4 hf => ?_)
  refine j_icmp_le 19 dX7_isPaused_12 (by decide) hf (fun c_ hf => ?_) (fun c_ hf => ?_)
  · refine j_iconst (0 : Int32) dX7_isPaused_19 (by decide) ?_
    refine j_weak [none, none] (Wk.s (Wk.s Wk.n)) ?_
    exact pf_X7_isPaused_B20 (0 : Int32) h1 hf
  · refine j_iconst (1 : Int32) dX7_isPaused_15 (by decide) ?_
    refine j_goto 20 dX7_isPaused_16 (by decide) ?_
    refine j_weak [none, none] (Wk.s (Wk.s Wk.n)) ?_
    exact pf_X7_isPaused_B20 (1 : Int32) h1 hf
abbrev mi_X7_timeOf : MI := (cX7_timeOf, 5, RX7, (Option.some FieldType.int), [], 0, 0, "timeOf")
def f_X7_timeOf (p0 : Int32) (p1 : Int32) (p2 : Int32) (h0 : PH) : Option (Int32 × PH) := dvL (p0.toInt64) (some (((((((1000 : Int64) * ((p2 - p1).toInt64)) + (p0.toInt64)) - (1 : Int64)) / (p0.toInt64)).toInt32), h0))
theorem hyS_X7_timeOf : yX7_timeOf.cls ≠ "java/lang/invoke/MethodHandle" ∧ yX7_timeOf.cls ≠ "java/lang/invoke/VarHandle" ∧ (parseMethodDescriptor yX7_timeOf.desc).map (fun d => d.parameters.length) = some 3 := by decide +kernel
theorem c_X7_timeOf {D : va_G} (p0 : Int32) (p1 : Int32) (p2 : Int32) {h0 : PH} (l : Launch) (hl : l.stackTraces = false) (x : Int32) (h1 : PH) (hf : f_X7_timeOf p0 p1 p2 h0 = some (x, h1)) : CT l D yX7_timeOf (ws_ yX7_timeOf cX7_timeOf 5 (Option.some FieldType.int)) 0 0 [.int p0, .int p1, .int p2] h0 (ovi x) h1 := by
  refine ct_of hl [some (.int p0), some (.int p1), some (.int p2), none, none] (by decide) (Nat.le_of_ble_eq_true rfl) rfl (fun Γ => ?_)
  obtain ⟨o, ho⟩ : ∃ o : Int32 × PH, o = (x, h1) := ⟨_, rfl⟩
  rw [← ho] at hf
  have e1 : x = o.1 := by rw [ho]
  have e2 : h1 = o.2 := by rw [ho]
  subst e1 e2
  clear ho
  show PF Γ mi_X7_timeOf D h0 (QR Γ D h0 (ovi o.1) o.2) h0 0 [some (.int p0), some (.int p1), some (.int p2), none, none] []
  unfold f_X7_timeOf at hf
  refine j_ldc2 q2359 dX7_timeOf_0 ?_
  refine j_iload_n 2 dX7_timeOf_3 rfl rfl ?_
  refine j_iload_n 1 dX7_timeOf_4 rfl rfl ?_
  refine j_isub dX7_timeOf_5 ?_
  refine j_i2l dX7_timeOf_6 ?_
  refine j_lmul dX7_timeOf_7 ?_
  refine j_lstore_n 3 [some (.int p0), some (.int p1), some (.int p2), some (.long ((1000 : Int64) * ((p2 - p1).toInt64))), none] dX7_timeOf_8 rfl (cz rfl) rfl rfl ?_
  refine j_lload_n 3 dX7_timeOf_9 rfl rfl ?_
  refine j_iload_n 0 dX7_timeOf_10 rfl rfl ?_
  refine j_i2l dX7_timeOf_11 ?_
  refine j_ladd dX7_timeOf_12 ?_
  refine j_lconst (1 : Int64) dX7_timeOf_13 (by decide) ?_
  refine j_lsub dX7_timeOf_14 ?_
  refine j_iload_n 0 dX7_timeOf_15 rfl rfl ?_
  refine j_i2l dX7_timeOf_16 ?_
  refine j_ldiv dX7_timeOf_17 hf (fun hf => ?_)
  refine j_l2i dX7_timeOf_18 ?_
  have e9 := Option.some.inj hf
  subst e9
  exact j_iret rfl dX7_timeOf_19
abbrev mi_X7_puts : MI := (cX7_puts, 4, RX7, none, [], 0, 0, "puts")
def f_X7_puts (r0 : Option Nat) (p0 : Int32) (p1 : Int32) (p2 : Int32) (h0 : PH) : Option (Unit × PH) := gR h0 r0 6 0 fun r1 => sI h0 r1 0 (((40 : Int32) + ((20 : Int32) * p0)) + p1) p2 fun h2 => some ((), h2)
theorem hyS_X7_puts : yX7_puts.cls ≠ "java/lang/invoke/MethodHandle" ∧ yX7_puts.cls ≠ "java/lang/invoke/VarHandle" ∧ (parseMethodDescriptor yX7_puts.desc).map (fun d => d.parameters.length) = some 3 := by decide +kernel
theorem hyV_X7_puts : yX7_puts.cls = RX7 ∧ yX7_puts.cls ≠ "java/lang/invoke/MethodHandle" ∧ yX7_puts.cls ≠ "java/lang/invoke/VarHandle" ∧ (parseMethodDescriptor yX7_puts.desc).map (fun d => d.parameters.length) = some 3 := by decide +kernel
theorem c_X7_puts {D : va_G} (r0 : Option Nat) (p0 : Int32) (p1 : Int32) (p2 : Int32) {h0 : PH} (l : Launch) (hl : l.stackTraces = false) (x : Unit) (h1 : PH) (hf : f_X7_puts r0 p0 p1 p2 h0 = some (x, h1)) : CT l D yX7_puts (ws_ yX7_puts cX7_puts 4 none) 0 0 [va_rf r0, .int p0, .int p1, .int p2] h0 (ovv x) h1 := by
  refine ct_of hl [some (va_rf r0), some (.int p0), some (.int p1), some (.int p2)] (by decide) (by rw [lgl]; simp [va_rf_cat, cat_i, cat_l]) (by simp [lv_args, vsL, va_rf_cat, cat_i, cat_l]) (fun Γ => ?_)
  obtain ⟨o, ho⟩ : ∃ o : Unit × PH, o = (x, h1) := ⟨_, rfl⟩
  rw [← ho] at hf
  have e1 : x = o.1 := by rw [ho]
  have e2 : h1 = o.2 := by rw [ho]
  subst e1 e2
  clear ho
  show PF Γ mi_X7_puts D h0 (QR Γ D h0 (ovv o.1) o.2) h0 0 [some (va_rf r0), some (.int p0), some (.int p1), some (.int p2)] []
  unfold f_X7_puts at hf
  refine j_aload_n 0 dX7_puts_0 rfl rfl ?_
  refine j_gR (ci := 6) (k := 0) rfl in_X7 rfl q2202 dX7_puts_1 hf (fun r1 hf => ?_)
  refine j_bipush (40 : Int32) dX7_puts_4 (by decide) ?_
  refine j_bipush (20 : Int32) dX7_puts_6 (by decide) ?_
  refine j_iload_n 1 dX7_puts_8 rfl rfl ?_
  refine j_imul dX7_puts_9 ?_
  refine j_iadd dX7_puts_10 ?_
  refine j_iload_n 2 dX7_puts_11 rfl rfl ?_
  refine j_iadd dX7_puts_12 ?_
  refine j_iload_n 3 dX7_puts_13 rfl rfl ?_
  refine j_iast dX7_puts_14 hf (fun h2 hf => ?_)
  have e9 := Option.some.inj hf
  subst e9
  exact j_vret rfl dX7_puts_15
abbrev mi_X7_endsOutage : MI := (cX7_endsOutage, 3, RX7, none, [], 0, 0, "endsOutage")
def f_X7_endsOutage_L8 : Nat → Option Nat → Int32 → PH → Option (Unit × PH)
  | 0, _, _, _ => none
  | n + 1, x0, x2, h => gR h x0 6 0 fun r1 => aI h r1 0 (35 : Int32) fun v2 => (if ((176 : Int32) + ((3 : Int32) * (v2 - (1 : Int32)))) ≤ x2 then (gR h x0 6 0 fun r3 => aI h r3 0 (35 : Int32) fun v4 => sI h r3 0 (35 : Int32) (v4 - (1 : Int32)) fun h5 => some ((), h5)) else (gR h x0 6 0 fun r6 => gR h x0 6 0 fun r7 => aI h r7 0 (x2 + (3 : Int32)) fun v8 => sI h r6 0 x2 v8 fun h9 => f_X7_endsOutage_L8 n x0 (x2 + (1 : Int32)) h9))
theorem pf_X7_endsOutage_L8 {Γ : GX} {D : va_G} {h0 : PH} {o : Unit × PH} : ∀ (n : Nat) (x0 : Option Nat) (x2 : Int32) (h : PH), f_X7_endsOutage_L8 n x0 x2 h = some o → PF Γ mi_X7_endsOutage D h0 (QR Γ D h0 (ovv o.1) o.2) h 8 [some (va_rf x0), none, some (.int x2)] [] := by
  intro n
  induction n with
  | zero => intro x0 x2 h hf; cases hf
  | succ n ih =>
    intro x0 x2 h hf
    refine j_iload_n 2 dX7_endsOutage_8 rfl rfl ?_
    refine j_sipush (176 : Int32) dX7_endsOutage_9 (by decide) ?_
    refine j_iconst (3 : Int32) dX7_endsOutage_12 (by decide) ?_
    refine j_aload_n 0 dX7_endsOutage_13 rfl rfl ?_
    refine j_gR (ci := 6) (k := 0) rfl in_X7 rfl q2202 dX7_endsOutage_14 hf (fun r1 hf => ?_)
    refine j_bipush (35 : Int32) dX7_endsOutage_17 (by decide) ?_
    refine j_iald dX7_endsOutage_19 hf (fun v2 hf => ?_)
    refine j_iconst (1 : Int32) dX7_endsOutage_20 (by decide) ?_
    refine j_isub dX7_endsOutage_21 ?_
    refine j_imul dX7_endsOutage_22 ?_
    refine j_iadd dX7_endsOutage_23 ?_
    refine j_icmp_ge 47 dX7_endsOutage_24 (by decide) hf (fun c_ hf => ?_) (fun c_ hf => ?_)
    · refine j_aload_n 0 dX7_endsOutage_47 rfl rfl ?_
      refine j_gR (ci := 6) (k := 0) rfl in_X7 rfl q2202 dX7_endsOutage_48 hf (fun r3 hf => ?_)
      refine j_bipush (35 : Int32) dX7_endsOutage_51 (by decide) ?_
      refine j_dup2 dX7_endsOutage_53 rfl (va_rf_cat _) ?_
      refine j_iald dX7_endsOutage_54 hf (fun v4 hf => ?_)
      refine j_iconst (1 : Int32) dX7_endsOutage_55 (by decide) ?_
      refine j_isub dX7_endsOutage_56 ?_
      refine j_iast dX7_endsOutage_57 hf (fun h5 hf => ?_)
      have e9 := Option.some.inj hf
      subst e9
      exact j_vret rfl dX7_endsOutage_58
    · refine j_aload_n 0 dX7_endsOutage_27 rfl rfl ?_
      refine j_gR (ci := 6) (k := 0) rfl in_X7 rfl q2202 dX7_endsOutage_28 hf (fun r6 hf => ?_)
      refine j_iload_n 2 dX7_endsOutage_31 rfl rfl ?_
      refine j_aload_n 0 dX7_endsOutage_32 rfl rfl ?_
      refine j_gR (ci := 6) (k := 0) rfl in_X7 rfl q2202 dX7_endsOutage_33 hf (fun r7 hf => ?_)
      refine j_iload_n 2 dX7_endsOutage_36 rfl rfl ?_
      refine j_iconst (3 : Int32) dX7_endsOutage_37 (by decide) ?_
      refine j_iadd dX7_endsOutage_38 ?_
      refine j_iald dX7_endsOutage_39 hf (fun v8 hf => ?_)
      refine j_iast dX7_endsOutage_40 hf (fun h9 hf => ?_)
      refine j_iinc (x2 + (1 : Int32)) [some (va_rf x0), none, some (.int (x2 + (1 : Int32)))] dX7_endsOutage_41 rfl rfl cn' rfl rfl ?_
      refine j_goto 8 dX7_endsOutage_44 (by decide) ?_
      exact ih x0 (x2 + (1 : Int32)) h9 hf
def f_X7_endsOutage (r0 : Option Nat) (p0 : Int32) (h0 : PH) : Option (Unit × PH) := f_X7_endsOutage_L8 FU r0 ((176 : Int32) + ((3 : Int32) * p0)) h0
theorem hyS_X7_endsOutage : yX7_endsOutage.cls ≠ "java/lang/invoke/MethodHandle" ∧ yX7_endsOutage.cls ≠ "java/lang/invoke/VarHandle" ∧ (parseMethodDescriptor yX7_endsOutage.desc).map (fun d => d.parameters.length) = some 1 := by decide +kernel
theorem hyV_X7_endsOutage : yX7_endsOutage.cls = RX7 ∧ yX7_endsOutage.cls ≠ "java/lang/invoke/MethodHandle" ∧ yX7_endsOutage.cls ≠ "java/lang/invoke/VarHandle" ∧ (parseMethodDescriptor yX7_endsOutage.desc).map (fun d => d.parameters.length) = some 1 := by decide +kernel
theorem c_X7_endsOutage {D : va_G} (r0 : Option Nat) (p0 : Int32) {h0 : PH} (l : Launch) (hl : l.stackTraces = false) (x : Unit) (h1 : PH) (hf : f_X7_endsOutage r0 p0 h0 = some (x, h1)) : CT l D yX7_endsOutage (ws_ yX7_endsOutage cX7_endsOutage 3 none) 0 0 [va_rf r0, .int p0] h0 (ovv x) h1 := by
  refine ct_of hl [some (va_rf r0), some (.int p0), none] (by decide) (by rw [lgl]; simp [va_rf_cat, cat_i, cat_l]) (by simp [lv_args, vsL, va_rf_cat, cat_i, cat_l]) (fun Γ => ?_)
  obtain ⟨o, ho⟩ : ∃ o : Unit × PH, o = (x, h1) := ⟨_, rfl⟩
  rw [← ho] at hf
  have e1 : x = o.1 := by rw [ho]
  have e2 : h1 = o.2 := by rw [ho]
  subst e1 e2
  clear ho
  show PF Γ mi_X7_endsOutage D h0 (QR Γ D h0 (ovv o.1) o.2) h0 0 [some (va_rf r0), some (.int p0), none] []
  unfold f_X7_endsOutage at hf
  refine j_sipush (176 : Int32) dX7_endsOutage_0 (by decide) ?_
  refine j_iconst (3 : Int32) dX7_endsOutage_3 (by decide) ?_
  refine j_iload_n 1 dX7_endsOutage_4 rfl rfl ?_
  refine j_imul dX7_endsOutage_5 ?_
  refine j_iadd dX7_endsOutage_6 ?_
  refine j_istore_n 2 [some (va_rf r0), some (.int p0), some (.int ((176 : Int32) + ((3 : Int32) * p0)))] dX7_endsOutage_7 rfl (cz rfl) rfl rfl ?_
  refine j_weak [some (va_rf r0), none, some (.int ((176 : Int32) + ((3 : Int32) * p0)))] (Wk.k (Wk.s (Wk.k Wk.n))) ?_
  exact pf_X7_endsOutage_L8 FU r0 ((176 : Int32) + ((3 : Int32) * p0)) h0 hf
abbrev mi_X7_isToNode : MI := (cX7_isToNode, 2, RX7, (Option.some FieldType.boolean), [], 0, 0, "isToNode")
def f_X7_isToNode_B10 (t0 : Int32) (h : PH) : Option (Int32 × PH) := rN .boolean t0 (fun v => v) h
theorem pf_X7_isToNode_B10 {Γ : GX} {D : va_G} {h0 : PH} {o : Int32 × PH} (t0 : Int32) (h : PH) (hf : f_X7_isToNode_B10 t0 h = some o) : PF Γ mi_X7_isToNode D h0 (QR Γ D h0 (ovi o.1) o.2) h 10 [none, none] [.int t0] := by
  obtain ⟨hn9, hf⟩ := rN_in hf
  subst hf
  exact j_zret rfl (nar_z _ hn9) dX7_isToNode_10
def f_X7_isToNode (r0 : Option Nat) (p0 : Int32) (h0 : PH) : Option (Int32 × PH) := (if p0 < (5 : Int32) then (f_X7_isToNode_B10 (0 : Int32) h0) else (f_X7_isToNode_B10 (1 : Int32) h0))
theorem hyS_X7_isToNode : yX7_isToNode.cls ≠ "java/lang/invoke/MethodHandle" ∧ yX7_isToNode.cls ≠ "java/lang/invoke/VarHandle" ∧ (parseMethodDescriptor yX7_isToNode.desc).map (fun d => d.parameters.length) = some 1 := by decide +kernel
theorem hyV_X7_isToNode : yX7_isToNode.cls = RX7 ∧ yX7_isToNode.cls ≠ "java/lang/invoke/MethodHandle" ∧ yX7_isToNode.cls ≠ "java/lang/invoke/VarHandle" ∧ (parseMethodDescriptor yX7_isToNode.desc).map (fun d => d.parameters.length) = some 1 := by decide +kernel
theorem c_X7_isToNode {D : va_G} (r0 : Option Nat) (p0 : Int32) {h0 : PH} (l : Launch) (hl : l.stackTraces = false) (x : Int32) (h1 : PH) (hf : f_X7_isToNode r0 p0 h0 = some (x, h1)) : CT l D yX7_isToNode (ws_ yX7_isToNode cX7_isToNode 2 (Option.some FieldType.boolean)) 0 0 [va_rf r0, .int p0] h0 (ovi x) h1 := by
  refine ct_of hl [some (va_rf r0), some (.int p0)] (by decide) (by rw [lgl]; simp [va_rf_cat, cat_i, cat_l]) (by simp [lv_args, vsL, va_rf_cat, cat_i, cat_l]) (fun Γ => ?_)
  obtain ⟨o, ho⟩ : ∃ o : Int32 × PH, o = (x, h1) := ⟨_, rfl⟩
  rw [← ho] at hf
  have e1 : x = o.1 := by rw [ho]
  have e2 : h1 = o.2 := by rw [ho]
  subst e1 e2
  clear ho
  show PF Γ mi_X7_isToNode D h0 (QR Γ D h0 (ovi o.1) o.2) h0 0 [some (va_rf r0), some (.int p0)] []
  unfold f_X7_isToNode at hf
  refine j_iload_n 1 dX7_isToNode_0 rfl rfl ?_
  refine j_iconst (5 : Int32) dX7_isToNode_1 (by decide) ?_
  refine j_icmp_lt 9 dX7_isToNode_2 (by decide) hf (fun c_ hf => ?_) (fun c_ hf => ?_)
  · refine j_iconst (0 : Int32) dX7_isToNode_9 (by decide) ?_
    refine j_weak [none, none] (Wk.s (Wk.s Wk.n)) ?_
    exact pf_X7_isToNode_B10 (0 : Int32) h0 hf
  · refine j_iconst (1 : Int32) dX7_isToNode_5 (by decide) ?_
    refine j_goto 10 dX7_isToNode_6 (by decide) ?_
    refine j_weak [none, none] (Wk.s (Wk.s Wk.n)) ?_
    exact pf_X7_isToNode_B10 (1 : Int32) h0 hf
abbrev mi_X7_logs : MI := (cX7_logs, 5, RX7, none, [], 0, 0, "logs")
def f_X7_logs_B72 (x0 : Option Nat) (x1 : Int32) (x2 : Int32) (x3 : Int32) (h : PH) : Option (Unit × PH) := gR h x0 6 0 fun r6 => aI h r6 0 (22 : Int32) fun v7 => gR h x0 6 0 fun r8 => gR h x0 6 0 fun r9 => aI h r9 0 (0 : Int32) fun v10 => sI h r8 0 ((336 : Int32) + ((4 : Int32) * v7)) v10 fun h11 => gR h11 x0 6 0 fun r12 => sI h11 r12 0 (((336 : Int32) + ((4 : Int32) * v7)) + (1 : Int32)) x1 fun h13 => gR h13 x0 6 0 fun r14 => sI h13 r14 0 (((336 : Int32) + ((4 : Int32) * v7)) + (2 : Int32)) x2 fun h15 => gR h15 x0 6 0 fun r16 => sI h15 r16 0 (((336 : Int32) + ((4 : Int32) * v7)) + (3 : Int32)) x3 fun h17 => gR h17 x0 6 0 fun r18 => aI h17 r18 0 (22 : Int32) fun v19 => sI h17 r18 0 (22 : Int32) (v19 + (1 : Int32)) fun h20 => some ((), h20)
theorem pf_X7_logs_B72 {Γ : GX} {D : va_G} {h0 : PH} {o : Unit × PH} (x0 : Option Nat) (x1 : Int32) (x2 : Int32) (x3 : Int32) (h : PH) (hf : f_X7_logs_B72 x0 x1 x2 x3 h = some o) : PF Γ mi_X7_logs D h0 (QR Γ D h0 (ovv o.1) o.2) h 72 [some (va_rf x0), some (.int x1), some (.int x2), some (.int x3), none] [] := by
  refine j_sipush (336 : Int32) dX7_logs_72 (by decide) ?_
  refine j_iconst (4 : Int32) dX7_logs_75 (by decide) ?_
  refine j_aload_n 0 dX7_logs_76 rfl rfl ?_
  refine j_gR (ci := 6) (k := 0) rfl in_X7 rfl q2202 dX7_logs_77 hf (fun r6 hf => ?_)
  refine j_bipush (22 : Int32) dX7_logs_80 (by decide) ?_
  refine j_iald dX7_logs_82 hf (fun v7 hf => ?_)
  refine j_imul dX7_logs_83 ?_
  refine j_iadd dX7_logs_84 ?_
  refine j_istore [some (va_rf x0), some (.int x1), some (.int x2), some (.int x3), some (.int ((336 : Int32) + ((4 : Int32) * v7)))] dX7_logs_85 (cz rfl) rfl rfl ?_
  refine j_aload_n 0 dX7_logs_87 rfl rfl ?_
  refine j_gR (ci := 6) (k := 0) rfl in_X7 rfl q2202 dX7_logs_88 hf (fun r8 hf => ?_)
  refine j_iload dX7_logs_91 rfl ?_
  refine j_aload_n 0 dX7_logs_93 rfl rfl ?_
  refine j_gR (ci := 6) (k := 0) rfl in_X7 rfl q2202 dX7_logs_94 hf (fun r9 hf => ?_)
  refine j_iconst (0 : Int32) dX7_logs_97 (by decide) ?_
  refine j_iald dX7_logs_98 hf (fun v10 hf => ?_)
  refine j_iast dX7_logs_99 hf (fun h11 hf => ?_)
  refine j_aload_n 0 dX7_logs_100 rfl rfl ?_
  refine j_gR (ci := 6) (k := 0) rfl in_X7 rfl q2202 dX7_logs_101 hf (fun r12 hf => ?_)
  refine j_iload dX7_logs_104 rfl ?_
  refine j_iconst (1 : Int32) dX7_logs_106 (by decide) ?_
  refine j_iadd dX7_logs_107 ?_
  refine j_iload_n 1 dX7_logs_108 rfl rfl ?_
  refine j_iast dX7_logs_109 hf (fun h13 hf => ?_)
  refine j_aload_n 0 dX7_logs_110 rfl rfl ?_
  refine j_gR (ci := 6) (k := 0) rfl in_X7 rfl q2202 dX7_logs_111 hf (fun r14 hf => ?_)
  refine j_iload dX7_logs_114 rfl ?_
  refine j_iconst (2 : Int32) dX7_logs_116 (by decide) ?_
  refine j_iadd dX7_logs_117 ?_
  refine j_iload_n 2 dX7_logs_118 rfl rfl ?_
  refine j_iast dX7_logs_119 hf (fun h15 hf => ?_)
  refine j_aload_n 0 dX7_logs_120 rfl rfl ?_
  refine j_gR (ci := 6) (k := 0) rfl in_X7 rfl q2202 dX7_logs_121 hf (fun r16 hf => ?_)
  refine j_iload dX7_logs_124 rfl ?_
  refine j_iconst (3 : Int32) dX7_logs_126 (by decide) ?_
  refine j_iadd dX7_logs_127 ?_
  refine j_iload_n 3 dX7_logs_128 rfl rfl ?_
  refine j_iast dX7_logs_129 hf (fun h17 hf => ?_)
  refine j_aload_n 0 dX7_logs_130 rfl rfl ?_
  refine j_gR (ci := 6) (k := 0) rfl in_X7 rfl q2202 dX7_logs_131 hf (fun r18 hf => ?_)
  refine j_bipush (22 : Int32) dX7_logs_134 (by decide) ?_
  refine j_dup2 dX7_logs_136 rfl (va_rf_cat _) ?_
  refine j_iald dX7_logs_137 hf (fun v19 hf => ?_)
  refine j_iconst (1 : Int32) dX7_logs_138 (by decide) ?_
  refine j_iadd dX7_logs_139 ?_
  refine j_iast dX7_logs_140 hf (fun h20 hf => ?_)
  have e9 := Option.some.inj hf
  subst e9
  exact j_vret rfl dX7_logs_141
def f_X7_logs_L31 : Nat → Option Nat → Int32 → Int32 → Int32 → Int32 → PH → Option (Unit × PH)
  | 0, _, _, _, _, _, _ => none
  | n + 1, x0, x1, x2, x3, x4, h => (if (1132 : Int32) ≤ x4 then (gR h x0 6 0 fun r21 => aI h r21 0 (22 : Int32) fun v22 => sI h r21 0 (22 : Int32) (v22 - (1 : Int32)) fun h23 => f_X7_logs_B72 x0 x1 x2 x3 h23) else (gR h x0 6 0 fun r24 => gR h x0 6 0 fun r25 => aI h r25 0 (x4 + (4 : Int32)) fun v26 => sI h r24 0 x4 v26 fun h27 => f_X7_logs_L31 n x0 x1 x2 x3 (x4 + (1 : Int32)) h27))
theorem pf_X7_logs_L31 {Γ : GX} {D : va_G} {h0 : PH} {o : Unit × PH} : ∀ (n : Nat) (x0 : Option Nat) (x1 : Int32) (x2 : Int32) (x3 : Int32) (x4 : Int32) (h : PH), f_X7_logs_L31 n x0 x1 x2 x3 x4 h = some o → PF Γ mi_X7_logs D h0 (QR Γ D h0 (ovv o.1) o.2) h 31 [some (va_rf x0), some (.int x1), some (.int x2), some (.int x3), some (.int x4)] [] := by
  intro n
  induction n with
  | zero => intro x0 x1 x2 x3 x4 h hf; cases hf
  | succ n ih =>
    intro x0 x1 x2 x3 x4 h hf
    refine j_iload dX7_logs_31 rfl ?_
    refine j_sipush (1132 : Int32) dX7_logs_33 (by decide) ?_
    refine j_icmp_ge 61 dX7_logs_36 (by decide) hf (fun c_ hf => ?_) (fun c_ hf => ?_)
    · refine j_aload_n 0 dX7_logs_61 rfl rfl ?_
      refine j_gR (ci := 6) (k := 0) rfl in_X7 rfl q2202 dX7_logs_62 hf (fun r21 hf => ?_)
      refine j_bipush (22 : Int32) dX7_logs_65 (by decide) ?_
      refine j_dup2 dX7_logs_67 rfl (va_rf_cat _) ?_
      refine j_iald dX7_logs_68 hf (fun v22 hf => ?_)
      refine j_iconst (1 : Int32) dX7_logs_69 (by decide) ?_
      refine j_isub dX7_logs_70 ?_
      refine j_iast dX7_logs_71 hf (fun h23 hf => ?_)
      refine j_weak [some (va_rf x0), some (.int x1), some (.int x2), some (.int x3), none] (Wk.k (Wk.k (Wk.k (Wk.k (Wk.s Wk.n))))) ?_
      exact pf_X7_logs_B72 x0 x1 x2 x3 h23 hf
    · refine j_aload_n 0 dX7_logs_39 rfl rfl ?_
      refine j_gR (ci := 6) (k := 0) rfl in_X7 rfl q2202 dX7_logs_40 hf (fun r24 hf => ?_)
      refine j_iload dX7_logs_43 rfl ?_
      refine j_aload_n 0 dX7_logs_45 rfl rfl ?_
      refine j_gR (ci := 6) (k := 0) rfl in_X7 rfl q2202 dX7_logs_46 hf (fun r25 hf => ?_)
      refine j_iload dX7_logs_49 rfl ?_
      refine j_iconst (4 : Int32) dX7_logs_51 (by decide) ?_
      refine j_iadd dX7_logs_52 ?_
      refine j_iald dX7_logs_53 hf (fun v26 hf => ?_)
      refine j_iast dX7_logs_54 hf (fun h27 hf => ?_)
      refine j_iinc (x4 + (1 : Int32)) [some (va_rf x0), some (.int x1), some (.int x2), some (.int x3), some (.int (x4 + (1 : Int32)))] dX7_logs_55 rfl rfl (cz rfl) rfl rfl ?_
      refine j_goto 31 dX7_logs_58 (by decide) ?_
      exact ih x0 x1 x2 x3 (x4 + (1 : Int32)) h27 hf
def f_X7_logs (r0 : Option Nat) (p0 : Int32) (p1 : Int32) (p2 : Int32) (h0 : PH) : Option (Unit × PH) := gR h0 r0 6 0 fun r1 => aI h0 r1 0 ((24 : Int32) + p0) fun v2 => sI h0 r1 0 ((24 : Int32) + p0) (v2 + (1 : Int32)) fun h3 => gR h3 r0 6 0 fun r4 => aI h3 r4 0 (22 : Int32) fun v5 => (if v5 = (200 : Int32) then (f_X7_logs_L31 FU r0 p0 p1 p2 (336 : Int32) h3) else (f_X7_logs_B72 r0 p0 p1 p2 h3))
theorem hyS_X7_logs : yX7_logs.cls ≠ "java/lang/invoke/MethodHandle" ∧ yX7_logs.cls ≠ "java/lang/invoke/VarHandle" ∧ (parseMethodDescriptor yX7_logs.desc).map (fun d => d.parameters.length) = some 3 := by decide +kernel
theorem hyV_X7_logs : yX7_logs.cls = RX7 ∧ yX7_logs.cls ≠ "java/lang/invoke/MethodHandle" ∧ yX7_logs.cls ≠ "java/lang/invoke/VarHandle" ∧ (parseMethodDescriptor yX7_logs.desc).map (fun d => d.parameters.length) = some 3 := by decide +kernel
theorem c_X7_logs {D : va_G} (r0 : Option Nat) (p0 : Int32) (p1 : Int32) (p2 : Int32) {h0 : PH} (l : Launch) (hl : l.stackTraces = false) (x : Unit) (h1 : PH) (hf : f_X7_logs r0 p0 p1 p2 h0 = some (x, h1)) : CT l D yX7_logs (ws_ yX7_logs cX7_logs 5 none) 0 0 [va_rf r0, .int p0, .int p1, .int p2] h0 (ovv x) h1 := by
  refine ct_of hl [some (va_rf r0), some (.int p0), some (.int p1), some (.int p2), none] (by decide) (by rw [lgl]; simp [va_rf_cat, cat_i, cat_l]) (by simp [lv_args, vsL, va_rf_cat, cat_i, cat_l]) (fun Γ => ?_)
  obtain ⟨o, ho⟩ : ∃ o : Unit × PH, o = (x, h1) := ⟨_, rfl⟩
  rw [← ho] at hf
  have e1 : x = o.1 := by rw [ho]
  have e2 : h1 = o.2 := by rw [ho]
  subst e1 e2
  clear ho
  show PF Γ mi_X7_logs D h0 (QR Γ D h0 (ovv o.1) o.2) h0 0 [some (va_rf r0), some (.int p0), some (.int p1), some (.int p2), none] []
  unfold f_X7_logs at hf
  refine j_aload_n 0 dX7_logs_0 rfl rfl ?_
  refine j_gR (ci := 6) (k := 0) rfl in_X7 rfl q2202 dX7_logs_1 hf (fun r1 hf => ?_)
  refine j_bipush (24 : Int32) dX7_logs_4 (by decide) ?_
  refine j_iload_n 1 dX7_logs_6 rfl rfl ?_
  refine j_iadd dX7_logs_7 ?_
  refine j_dup2 dX7_logs_8 rfl (va_rf_cat _) ?_
  refine j_iald dX7_logs_9 hf (fun v2 hf => ?_)
  refine j_iconst (1 : Int32) dX7_logs_10 (by decide) ?_
  refine j_iadd dX7_logs_11 ?_
  refine j_iast dX7_logs_12 hf (fun h3 hf => ?_)
  refine j_aload_n 0 dX7_logs_13 rfl rfl ?_
  refine j_gR (ci := 6) (k := 0) rfl in_X7 rfl q2202 dX7_logs_14 hf (fun r4 hf => ?_)
  refine j_bipush (22 : Int32) dX7_logs_17 (by decide) ?_
  refine j_iald dX7_logs_19 hf (fun v5 hf => ?_)
  refine j_sipush (200 : Int32) dX7_logs_20 (by decide) ?_
  refine j_icmp_ne 72 dX7_logs_23 (by decide) hf (fun c_ hf => ?_) (fun c_ hf => ?_)
  · exact pf_X7_logs_B72 r0 p0 p1 p2 h3 hf
  · refine j_sipush (336 : Int32) dX7_logs_26 (by decide) ?_
    refine j_istore [some (va_rf r0), some (.int p0), some (.int p1), some (.int p2), some (.int (336 : Int32))] dX7_logs_29 (cz rfl) rfl rfl ?_
    exact pf_X7_logs_L31 FU r0 p0 p1 p2 (336 : Int32) h3 hf
abbrev mi_X7_sends : MI := (cX7_sends, 8, RX7, none, [], 1, 22, "sends")
def f_X7_sends (r0 : Option Nat) (p0 : Int32) (p1 : Int32) (p2 : Int32) (p3 : Int32) (p4 : Int32) (h0 : PH) : Option (Unit × PH) := gR h0 r0 6 0 fun r1 => gR h0 r0 6 0 fun r2 => aI h0 r2 0 (1 : Int32) fun v3 => dvL (2147483648 : Int64) (sI h0 r1 0 (1 : Int32) (((((1103515245 : Int64) * (v3.toInt64)) + (12345 : Int64)) - (((1103515245 : Int64) * (v3.toInt64)) + (12345 : Int64)) / (2147483648 : Int64) * (2147483648 : Int64)).toInt32) fun h4 => gR h4 r0 6 0 fun r5 => aI h4 r5 0 (1 : Int32) fun v6 => dvI (65536 : Int32) (gR h4 r0 6 0 fun r7 => aI h4 r7 0 (9 : Int32) fun v8 => dvI (v8 + (1 : Int32)) (rv_ h4 r0 6 (cl_ (f_X7_of r0 p1 (6 : Int32) h4) fun v10 h9 => (if v10 = (1 : Int32) then (gR h9 r0 6 0 fun r32 => aI h9 r32 0 (16 : Int32) fun v33 => sI h9 r32 0 (16 : Int32) (v33 + (1 : Int32)) fun h34 => some ((), h34)) else (gR h9 r0 6 0 fun r11 => aI h9 r11 0 (20 : Int32) fun v12 => gR h9 r0 6 0 fun r13 => sI h9 r13 0 ((1136 : Int32) + ((6 : Int32) * v12)) p0 fun h14 => gR h14 r0 6 0 fun r15 => sI h14 r15 0 (((1136 : Int32) + ((6 : Int32) * v12)) + (1 : Int32)) p1 fun h16 => gR h16 r0 6 0 fun r17 => gR h16 r0 6 0 fun r18 => aI h16 r18 0 (0 : Int32) fun v19 => rv_ h16 r0 6 (cl_ (f_X7_of r0 p1 (2 : Int32) h16) fun v21 h20 => sI h20 r17 0 (((1136 : Int32) + ((6 : Int32) * v12)) + (2 : Int32)) ((v19 + v21) + ((v6 / (65536 : Int32)) - (v6 / (65536 : Int32)) / (v8 + (1 : Int32)) * (v8 + (1 : Int32)))) fun h22 => gR h22 r0 6 0 fun r23 => sI h22 r23 0 (((1136 : Int32) + ((6 : Int32) * v12)) + (3 : Int32)) p2 fun h24 => gR h24 r0 6 0 fun r25 => sI h24 r25 0 (((1136 : Int32) + ((6 : Int32) * v12)) + (4 : Int32)) p3 fun h26 => gR h26 r0 6 0 fun r27 => sI h26 r27 0 (((1136 : Int32) + ((6 : Int32) * v12)) + (5 : Int32)) p4 fun h28 => gR h28 r0 6 0 fun r29 => aI h28 r29 0 (20 : Int32) fun v30 => sI h28 r29 0 (20 : Int32) (v30 + (1 : Int32)) fun h31 => some ((), h31))))))))
theorem hyS_X7_sends : yX7_sends.cls ≠ "java/lang/invoke/MethodHandle" ∧ yX7_sends.cls ≠ "java/lang/invoke/VarHandle" ∧ (parseMethodDescriptor yX7_sends.desc).map (fun d => d.parameters.length) = some 5 := by decide +kernel
theorem hyV_X7_sends : yX7_sends.cls = RX7 ∧ yX7_sends.cls ≠ "java/lang/invoke/MethodHandle" ∧ yX7_sends.cls ≠ "java/lang/invoke/VarHandle" ∧ (parseMethodDescriptor yX7_sends.desc).map (fun d => d.parameters.length) = some 5 := by decide +kernel
theorem c_X7_sends {D : va_G} (r0 : Option Nat) (p0 : Int32) (p1 : Int32) (p2 : Int32) (p3 : Int32) (p4 : Int32) {h0 : PH} (l : Launch) (hl : l.stackTraces = false) (x : Unit) (h1 : PH) (hf : f_X7_sends r0 p0 p1 p2 p3 p4 h0 = some (x, h1)) : CT l D yX7_sends (ws_ yX7_sends cX7_sends 8 none) 1 22 [va_rf r0, .int p0, .int p1, .int p2, .int p3, .int p4] h0 (ovv x) h1 := by
  refine ct_of hl [some (va_rf r0), some (.int p0), some (.int p1), some (.int p2), some (.int p3), some (.int p4), none, none] (by decide) (by rw [lgl]; simp [va_rf_cat, cat_i, cat_l]) (by simp [lv_args, vsL, va_rf_cat, cat_i, cat_l]) (fun Γ => ?_)
  obtain ⟨o, ho⟩ : ∃ o : Unit × PH, o = (x, h1) := ⟨_, rfl⟩
  rw [← ho] at hf
  have e1 : x = o.1 := by rw [ho]
  have e2 : h1 = o.2 := by rw [ho]
  subst e1 e2
  clear ho
  show PF Γ mi_X7_sends D h0 (QR Γ D h0 (ovv o.1) o.2) h0 0 [some (va_rf r0), some (.int p0), some (.int p1), some (.int p2), some (.int p3), some (.int p4), none, none] []
  unfold f_X7_sends at hf
  refine j_aload_n 0 dX7_sends_0 rfl rfl ?_
  refine j_gR (ci := 6) (k := 0) rfl in_X7 rfl q2202 dX7_sends_1 hf (fun r1 hf => ?_)
  refine j_iconst (1 : Int32) dX7_sends_4 (by decide) ?_
  refine j_ldc2 q2444 dX7_sends_5 ?_
  refine j_aload_n 0 dX7_sends_8 rfl rfl ?_
  refine j_gR (ci := 6) (k := 0) rfl in_X7 rfl q2202 dX7_sends_9 hf (fun r2 hf => ?_)
  refine j_iconst (1 : Int32) dX7_sends_12 (by decide) ?_
  refine j_iald dX7_sends_13 hf (fun v3 hf => ?_)
  refine j_i2l dX7_sends_14 ?_
  refine j_lmul dX7_sends_15 ?_
  refine j_ldc2 q2445 dX7_sends_16 ?_
  refine j_ladd dX7_sends_19 ?_
  refine j_ldc2 q2446 dX7_sends_20 ?_
  refine j_lrem dX7_sends_23 hf (fun hf => ?_)
  refine j_l2i dX7_sends_24 ?_
  refine j_iast dX7_sends_25 hf (fun h4 hf => ?_)
  refine j_aload_n 0 dX7_sends_26 rfl rfl ?_
  refine j_gR (ci := 6) (k := 0) rfl in_X7 rfl q2202 dX7_sends_27 hf (fun r5 hf => ?_)
  refine j_iconst (1 : Int32) dX7_sends_30 (by decide) ?_
  refine j_iald dX7_sends_31 hf (fun v6 hf => ?_)
  refine j_ldc q2447 dX7_sends_32 ?_
  refine j_idiv dX7_sends_34 hf (fun hf => ?_)
  refine j_aload_n 0 dX7_sends_35 rfl rfl ?_
  refine j_gR (ci := 6) (k := 0) rfl in_X7 rfl q2202 dX7_sends_36 hf (fun r7 hf => ?_)
  refine j_bipush (9 : Int32) dX7_sends_39 (by decide) ?_
  refine j_iald dX7_sends_41 hf (fun v8 hf => ?_)
  refine j_iconst (1 : Int32) dX7_sends_42 (by decide) ?_
  refine j_iadd dX7_sends_43 ?_
  refine j_irem dX7_sends_44 hf (fun hf => ?_)
  refine j_istore [some (va_rf r0), some (.int p0), some (.int p1), some (.int p2), some (.int p3), some (.int p4), some (.int ((v6 / (65536 : Int32)) - (v6 / (65536 : Int32)) / (v8 + (1 : Int32)) * (v8 + (1 : Int32)))), none] dX7_sends_45 (cz rfl) rfl rfl ?_
  refine j_aload_n 0 dX7_sends_47 rfl rfl ?_
  refine j_iload_n 2 dX7_sends_48 rfl rfl ?_
  refine j_bipush (6 : Int32) dX7_sends_49 (by decide) ?_
  refine kc_X7_152 rfl rfl rfl (by decide) dX7_sends_51 hf (fun v10 h9 hf => ?_)
  refine j_iconst (1 : Int32) dX7_sends_54 (by decide) ?_
  refine j_icmp_ne 70 dX7_sends_55 (by decide) hf (fun c_ hf => ?_) (fun c_ hf => ?_)
  · refine j_sipush (1136 : Int32) dX7_sends_70 (by decide) ?_
    refine j_bipush (6 : Int32) dX7_sends_73 (by decide) ?_
    refine j_aload_n 0 dX7_sends_75 rfl rfl ?_
    refine j_gR (ci := 6) (k := 0) rfl in_X7 rfl q2202 dX7_sends_76 hf (fun r11 hf => ?_)
    refine j_bipush (20 : Int32) dX7_sends_79 (by decide) ?_
    refine j_iald dX7_sends_81 hf (fun v12 hf => ?_)
    refine j_imul dX7_sends_82 ?_
    refine j_iadd dX7_sends_83 ?_
    refine j_istore [some (va_rf r0), some (.int p0), some (.int p1), some (.int p2), some (.int p3), some (.int p4), some (.int ((v6 / (65536 : Int32)) - (v6 / (65536 : Int32)) / (v8 + (1 : Int32)) * (v8 + (1 : Int32)))), some (.int ((1136 : Int32) + ((6 : Int32) * v12)))] dX7_sends_84 (cz rfl) rfl rfl ?_
    refine j_aload_n 0 dX7_sends_86 rfl rfl ?_
    refine j_gR (ci := 6) (k := 0) rfl in_X7 rfl q2202 dX7_sends_87 hf (fun r13 hf => ?_)
    refine j_iload dX7_sends_90 rfl ?_
    refine j_iload_n 1 dX7_sends_92 rfl rfl ?_
    refine j_iast dX7_sends_93 hf (fun h14 hf => ?_)
    refine j_aload_n 0 dX7_sends_94 rfl rfl ?_
    refine j_gR (ci := 6) (k := 0) rfl in_X7 rfl q2202 dX7_sends_95 hf (fun r15 hf => ?_)
    refine j_iload dX7_sends_98 rfl ?_
    refine j_iconst (1 : Int32) dX7_sends_100 (by decide) ?_
    refine j_iadd dX7_sends_101 ?_
    refine j_iload_n 2 dX7_sends_102 rfl rfl ?_
    refine j_iast dX7_sends_103 hf (fun h16 hf => ?_)
    refine j_aload_n 0 dX7_sends_104 rfl rfl ?_
    refine j_gR (ci := 6) (k := 0) rfl in_X7 rfl q2202 dX7_sends_105 hf (fun r17 hf => ?_)
    refine j_iload dX7_sends_108 rfl ?_
    refine j_iconst (2 : Int32) dX7_sends_110 (by decide) ?_
    refine j_iadd dX7_sends_111 ?_
    refine j_aload_n 0 dX7_sends_112 rfl rfl ?_
    refine j_gR (ci := 6) (k := 0) rfl in_X7 rfl q2202 dX7_sends_113 hf (fun r18 hf => ?_)
    refine j_iconst (0 : Int32) dX7_sends_116 (by decide) ?_
    refine j_iald dX7_sends_117 hf (fun v19 hf => ?_)
    refine j_aload_n 0 dX7_sends_118 rfl rfl ?_
    refine j_iload_n 2 dX7_sends_119 rfl rfl ?_
    refine j_iconst (2 : Int32) dX7_sends_120 (by decide) ?_
    refine kc_X7_152 rfl rfl rfl (by simp [va_rf_cat, cat_i, cat_l]) dX7_sends_121 hf (fun v21 h20 hf => ?_)
    refine j_iadd dX7_sends_124 ?_
    refine j_iload dX7_sends_125 rfl ?_
    refine j_iadd dX7_sends_127 ?_
    refine j_iast dX7_sends_128 hf (fun h22 hf => ?_)
    refine j_aload_n 0 dX7_sends_129 rfl rfl ?_
    refine j_gR (ci := 6) (k := 0) rfl in_X7 rfl q2202 dX7_sends_130 hf (fun r23 hf => ?_)
    refine j_iload dX7_sends_133 rfl ?_
    refine j_iconst (3 : Int32) dX7_sends_135 (by decide) ?_
    refine j_iadd dX7_sends_136 ?_
    refine j_iload_n 3 dX7_sends_137 rfl rfl ?_
    refine j_iast dX7_sends_138 hf (fun h24 hf => ?_)
    refine j_aload_n 0 dX7_sends_139 rfl rfl ?_
    refine j_gR (ci := 6) (k := 0) rfl in_X7 rfl q2202 dX7_sends_140 hf (fun r25 hf => ?_)
    refine j_iload dX7_sends_143 rfl ?_
    refine j_iconst (4 : Int32) dX7_sends_145 (by decide) ?_
    refine j_iadd dX7_sends_146 ?_
    refine j_iload dX7_sends_147 rfl ?_
    refine j_iast dX7_sends_149 hf (fun h26 hf => ?_)
    refine j_aload_n 0 dX7_sends_150 rfl rfl ?_
    refine j_gR (ci := 6) (k := 0) rfl in_X7 rfl q2202 dX7_sends_151 hf (fun r27 hf => ?_)
    refine j_iload dX7_sends_154 rfl ?_
    refine j_iconst (5 : Int32) dX7_sends_156 (by decide) ?_
    refine j_iadd dX7_sends_157 ?_
    refine j_iload dX7_sends_158 rfl ?_
    refine j_iast dX7_sends_160 hf (fun h28 hf => ?_)
    refine j_aload_n 0 dX7_sends_161 rfl rfl ?_
    refine j_gR (ci := 6) (k := 0) rfl in_X7 rfl q2202 dX7_sends_162 hf (fun r29 hf => ?_)
    refine j_bipush (20 : Int32) dX7_sends_165 (by decide) ?_
    refine j_dup2 dX7_sends_167 rfl (va_rf_cat _) ?_
    refine j_iald dX7_sends_168 hf (fun v30 hf => ?_)
    refine j_iconst (1 : Int32) dX7_sends_169 (by decide) ?_
    refine j_iadd dX7_sends_170 ?_
    refine j_iast dX7_sends_171 hf (fun h31 hf => ?_)
    have e9 := Option.some.inj hf
    subst e9
    exact j_vret rfl dX7_sends_172
  · refine j_aload_n 0 dX7_sends_58 rfl rfl ?_
    refine j_gR (ci := 6) (k := 0) rfl in_X7 rfl q2202 dX7_sends_59 hf (fun r32 hf => ?_)
    refine j_bipush (16 : Int32) dX7_sends_62 (by decide) ?_
    refine j_dup2 dX7_sends_64 rfl (va_rf_cat _) ?_
    refine j_iald dX7_sends_65 hf (fun v33 hf => ?_)
    refine j_iconst (1 : Int32) dX7_sends_66 (by decide) ?_
    refine j_iadd dX7_sends_67 ?_
    refine j_iast dX7_sends_68 hf (fun h34 hf => ?_)
    have e9 := Option.some.inj hf
    subst e9
    exact j_vret rfl dX7_sends_69
theorem kc_X7_219 {Γ : GX} {I : MI} {D : va_G} {h0 : PH} {Q : State → Prop} {h : PH} {pc : Nat} {vs : List (Option Value)} {rest : List Value} {β : Type} {o : β} {r : Option Nat} {p0 : Int32} {p1 : Int32} {p2 : Int32} {K : ((Unit) → PH → Option β)} (hI : I.2.2.1 = RX7) (hfr : Nat.ble 1 I.2.2.2.2.2.1 = true) (hlo : Nat.ble 24 I.2.2.2.2.2.2.1 = true) (hW : (rest.map fun v => v.category).sum ≤ 8) (hd : decode I.1 pc = .ok (.invokevirtual 219, 3)) (hf : rv_ h r 6 (cl_ (f_X7_logs r p0 p1 p2 h) K) = some o) (kk : ∀ (x : Unit) (h1 : PH), K x h1 = some o → PF Γ I D h0 Q h1 (pc + 3) vs (rest)) : PF Γ I D h0 Q h pc vs (.int p2 :: .int p1 :: .int p0 :: va_rf r :: rest) := by
  obtain ⟨cc, nL, own, rt, xt, fr, lo, nm⟩ := I
  cases hI
  exact j_cVv (n := 3) (y := yX7_logs) (cc2 := cX7_logs) (As := [.int p0, .int p1, .int p2]) (C := RX7) (ci := 6) rfl (lw_V q2436 q2438 qs63 q117 q2439) hyV_X7_logs hfr hlo rfl hW hd (c_X7_logs r p0 p1 p2) hf _ rfl kk
abbrev mi_X7_released : MI := (cX7_released, 3, RX7, none, [], 1, 24, "released")
def f_X7_released_B23  (h : PH) : Option (Unit × PH) := some ((), h)
theorem pf_X7_released_B23 {Γ : GX} {D : va_G} {h0 : PH} {o : Unit × PH}  (h : PH) (hf : f_X7_released_B23  h = some o) : PF Γ mi_X7_released D h0 (QR Γ D h0 (ovv o.1) o.2) h 23 [none, none, none] [] := by
  have e9 := Option.some.inj hf
  subst e9
  exact j_vret rfl dX7_released_23
def f_X7_released (r0 : Option Nat) (p0 : Int32) (p1 : Int32) (h0 : PH) : Option (Unit × PH) := gR h0 r0 6 0 fun r1 => aI h0 r1 0 (12 : Int32) fun v2 => (if p1 = v2 then (gR h0 r0 6 0 fun r3 => aI h0 r3 0 (10 : Int32) fun v4 => (if v4 = (-4 : Int32) then (f_X7_released_B23 h0) else (gR h0 r0 6 0 fun r5 => sI h0 r5 0 (10 : Int32) (-4 : Int32) fun h6 => rv_ h6 r0 6 (cl_ (f_X7_logs r0 (4 : Int32) p0 p1 h6) fun _u h7 => some ((), h7))))) else (f_X7_released_B23 h0))
theorem hyS_X7_released : yX7_released.cls ≠ "java/lang/invoke/MethodHandle" ∧ yX7_released.cls ≠ "java/lang/invoke/VarHandle" ∧ (parseMethodDescriptor yX7_released.desc).map (fun d => d.parameters.length) = some 2 := by decide +kernel
theorem hyV_X7_released : yX7_released.cls = RX7 ∧ yX7_released.cls ≠ "java/lang/invoke/MethodHandle" ∧ yX7_released.cls ≠ "java/lang/invoke/VarHandle" ∧ (parseMethodDescriptor yX7_released.desc).map (fun d => d.parameters.length) = some 2 := by decide +kernel
theorem c_X7_released {D : va_G} (r0 : Option Nat) (p0 : Int32) (p1 : Int32) {h0 : PH} (l : Launch) (hl : l.stackTraces = false) (x : Unit) (h1 : PH) (hf : f_X7_released r0 p0 p1 h0 = some (x, h1)) : CT l D yX7_released (ws_ yX7_released cX7_released 3 none) 1 24 [va_rf r0, .int p0, .int p1] h0 (ovv x) h1 := by
  refine ct_of hl [some (va_rf r0), some (.int p0), some (.int p1)] (by decide) (by rw [lgl]; simp [va_rf_cat, cat_i, cat_l]) (by simp [lv_args, vsL, va_rf_cat, cat_i, cat_l]) (fun Γ => ?_)
  obtain ⟨o, ho⟩ : ∃ o : Unit × PH, o = (x, h1) := ⟨_, rfl⟩
  rw [← ho] at hf
  have e1 : x = o.1 := by rw [ho]
  have e2 : h1 = o.2 := by rw [ho]
  subst e1 e2
  clear ho
  show PF Γ mi_X7_released D h0 (QR Γ D h0 (ovv o.1) o.2) h0 0 [some (va_rf r0), some (.int p0), some (.int p1)] []
  unfold f_X7_released at hf
  refine j_iload_n 2 dX7_released_0 rfl rfl ?_
  refine j_aload_n 0 dX7_released_1 rfl rfl ?_
  refine j_gR (ci := 6) (k := 0) rfl in_X7 rfl q2202 dX7_released_2 hf (fun r1 hf => ?_)
  refine j_bipush (12 : Int32) dX7_released_5 (by decide) ?_
  refine j_iald dX7_released_7 hf (fun v2 hf => ?_)
  refine j_icmp_ne 23 dX7_released_8 (by decide) hf (fun c_ hf => ?_) (fun c_ hf => ?_)
  · refine j_weak [none, none, none] (Wk.s (Wk.s (Wk.s Wk.n))) ?_
    exact pf_X7_released_B23  h0 hf
  · refine j_aload_n 0 dX7_released_11 rfl rfl ?_
    refine j_gR (ci := 6) (k := 0) rfl in_X7 rfl q2202 dX7_released_12 hf (fun r3 hf => ?_)
    refine j_bipush (10 : Int32) dX7_released_15 (by decide) ?_
    refine j_iald dX7_released_17 hf (fun v4 hf => ?_)
    refine j_bipush (-4 : Int32) dX7_released_18 (by decide) ?_
    refine j_icmp_ne 24 dX7_released_20 (by decide) hf (fun c_ hf => ?_) (fun c_ hf => ?_)
    · refine j_aload_n 0 dX7_released_24 rfl rfl ?_
      refine j_gR (ci := 6) (k := 0) rfl in_X7 rfl q2202 dX7_released_25 hf (fun r5 hf => ?_)
      refine j_bipush (10 : Int32) dX7_released_28 (by decide) ?_
      refine j_bipush (-4 : Int32) dX7_released_30 (by decide) ?_
      refine j_iast dX7_released_32 hf (fun h6 hf => ?_)
      refine j_aload_n 0 dX7_released_33 rfl rfl ?_
      refine j_iconst (4 : Int32) dX7_released_34 (by decide) ?_
      refine j_iload_n 1 dX7_released_35 rfl rfl ?_
      refine j_iload_n 2 dX7_released_36 rfl rfl ?_
      refine kc_X7_219 rfl rfl rfl (by decide) dX7_released_37 hf (fun _u h7 hf => ?_)
      have e9 := Option.some.inj hf
      subst e9
      exact j_vret rfl dX7_released_40
    · refine j_weak [none, none, none] (Wk.s (Wk.s (Wk.s Wk.n))) ?_
      exact pf_X7_released_B23  h0 hf
theorem kc_X7_189 {Γ : GX} {I : MI} {D : va_G} {h0 : PH} {Q : State → Prop} {h : PH} {pc : Nat} {vs : List (Option Value)} {rest : List Value} {β : Type} {o : β} {r : Option Nat} {p0 : Int32} {p1 : Int32} {p2 : Int32} {p3 : Int32} {p4 : Int32} {K : ((Unit) → PH → Option β)} (hI : I.2.2.1 = RX7) (hfr : Nat.ble 2 I.2.2.2.2.2.1 = true) (hlo : Nat.ble 49 I.2.2.2.2.2.2.1 = true) (hW : (rest.map fun v => v.category).sum ≤ 8) (hd : decode I.1 pc = .ok (.invokevirtual 189, 3)) (hf : rv_ h r 6 (cl_ (f_X7_sends r p0 p1 p2 p3 p4 h) K) = some o) (kk : ∀ (x : Unit) (h1 : PH), K x h1 = some o → PF Γ I D h0 Q h1 (pc + 3) vs (rest)) : PF Γ I D h0 Q h pc vs (.int p4 :: .int p3 :: .int p2 :: .int p1 :: .int p0 :: va_rf r :: rest) := by
  obtain ⟨cc, nL, own, rt, xt, fr, lo, nm⟩ := I
  cases hI
  exact j_cVv (n := 5) (y := yX7_sends) (cc2 := cX7_sends) (As := [.int p0, .int p1, .int p2, .int p3, .int p4]) (C := RX7) (ci := 6) rfl (lw_V q2440 q2442 qs64 q117 q2443) hyV_X7_sends hfr hlo rfl hW hd (c_X7_sends r p0 p1 p2 p3 p4) hf _ rfl kk
abbrev mi_X7_fences : MI := (cX7_fences, 3, RX7, (Option.some FieldType.boolean), [], 2, 49, "fences")
def f_X7_fences (r0 : Option Nat) (p0 : Int32) (p1 : Int32) (h0 : PH) : Option (Int32 × PH) := gR h0 r0 6 0 fun r1 => aI h0 r1 0 (14 : Int32) fun v2 => (if p1 < v2 then (rv_ h0 r0 6 (cl_ (f_X7_logs r0 (5 : Int32) p0 p1 h0) fun _u h3 => rv_ h3 r0 6 (cl_ (f_X7_sends r0 (9 : Int32) p0 p1 (0 : Int32) (0 : Int32) h3) fun _u h4 => rN .boolean (1 : Int32) (fun v => v) h4))) else (gR h0 r0 6 0 fun r5 => sI h0 r5 0 (14 : Int32) p1 fun h6 => rN .boolean (0 : Int32) (fun v => v) h6))
theorem hyS_X7_fences : yX7_fences.cls ≠ "java/lang/invoke/MethodHandle" ∧ yX7_fences.cls ≠ "java/lang/invoke/VarHandle" ∧ (parseMethodDescriptor yX7_fences.desc).map (fun d => d.parameters.length) = some 2 := by decide +kernel
theorem hyV_X7_fences : yX7_fences.cls = RX7 ∧ yX7_fences.cls ≠ "java/lang/invoke/MethodHandle" ∧ yX7_fences.cls ≠ "java/lang/invoke/VarHandle" ∧ (parseMethodDescriptor yX7_fences.desc).map (fun d => d.parameters.length) = some 2 := by decide +kernel
theorem c_X7_fences {D : va_G} (r0 : Option Nat) (p0 : Int32) (p1 : Int32) {h0 : PH} (l : Launch) (hl : l.stackTraces = false) (x : Int32) (h1 : PH) (hf : f_X7_fences r0 p0 p1 h0 = some (x, h1)) : CT l D yX7_fences (ws_ yX7_fences cX7_fences 3 (Option.some FieldType.boolean)) 2 49 [va_rf r0, .int p0, .int p1] h0 (ovi x) h1 := by
  refine ct_of hl [some (va_rf r0), some (.int p0), some (.int p1)] (by decide) (by rw [lgl]; simp [va_rf_cat, cat_i, cat_l]) (by simp [lv_args, vsL, va_rf_cat, cat_i, cat_l]) (fun Γ => ?_)
  obtain ⟨o, ho⟩ : ∃ o : Int32 × PH, o = (x, h1) := ⟨_, rfl⟩
  rw [← ho] at hf
  have e1 : x = o.1 := by rw [ho]
  have e2 : h1 = o.2 := by rw [ho]
  subst e1 e2
  clear ho
  show PF Γ mi_X7_fences D h0 (QR Γ D h0 (ovi o.1) o.2) h0 0 [some (va_rf r0), some (.int p0), some (.int p1)] []
  unfold f_X7_fences at hf
  refine j_iload_n 2 dX7_fences_0 rfl rfl ?_
  refine j_aload_n 0 dX7_fences_1 rfl rfl ?_
  refine j_gR (ci := 6) (k := 0) rfl in_X7 rfl q2202 dX7_fences_2 hf (fun r1 hf => ?_)
  refine j_bipush (14 : Int32) dX7_fences_5 (by decide) ?_
  refine j_iald dX7_fences_7 hf (fun v2 hf => ?_)
  refine j_icmp_lt 21 dX7_fences_8 (by decide) hf (fun c_ hf => ?_) (fun c_ hf => ?_)
  · refine j_aload_n 0 dX7_fences_21 rfl rfl ?_
    refine j_iconst (5 : Int32) dX7_fences_22 (by decide) ?_
    refine j_iload_n 1 dX7_fences_23 rfl rfl ?_
    refine j_iload_n 2 dX7_fences_24 rfl rfl ?_
    refine kc_X7_219 rfl rfl rfl (by decide) dX7_fences_25 hf (fun _u h3 hf => ?_)
    refine j_aload_n 0 dX7_fences_28 rfl rfl ?_
    refine j_bipush (9 : Int32) dX7_fences_29 (by decide) ?_
    refine j_iload_n 1 dX7_fences_31 rfl rfl ?_
    refine j_iload_n 2 dX7_fences_32 rfl rfl ?_
    refine j_iconst (0 : Int32) dX7_fences_33 (by decide) ?_
    refine j_iconst (0 : Int32) dX7_fences_34 (by decide) ?_
    refine kc_X7_189 rfl rfl rfl (by decide) dX7_fences_35 hf (fun _u h4 hf => ?_)
    refine j_iconst (1 : Int32) dX7_fences_38 (by decide) ?_
    obtain ⟨hn9, hf⟩ := rN_in hf
    subst hf
    exact j_zret rfl (nar_z _ hn9) dX7_fences_39
  · refine j_aload_n 0 dX7_fences_11 rfl rfl ?_
    refine j_gR (ci := 6) (k := 0) rfl in_X7 rfl q2202 dX7_fences_12 hf (fun r5 hf => ?_)
    refine j_bipush (14 : Int32) dX7_fences_15 (by decide) ?_
    refine j_iload_n 2 dX7_fences_17 rfl rfl ?_
    refine j_iast dX7_fences_18 hf (fun h6 hf => ?_)
    refine j_iconst (0 : Int32) dX7_fences_19 (by decide) ?_
    obtain ⟨hn9, hf⟩ := rN_in hf
    subst hf
    exact j_zret rfl (nar_z _ hn9) dX7_fences_20
theorem kc_X7_222 {Γ : GX} {I : MI} {D : va_G} {h0 : PH} {Q : State → Prop} {h : PH} {pc : Nat} {vs : List (Option Value)} {rest : List Value} {β : Type} {o : β} {r : Option Nat} {p0 : Int32} {p1 : Int32} {K : ((Int32) → PH → Option β)} (hI : I.2.2.1 = RX7) (hfr : Nat.ble 3 I.2.2.2.2.2.1 = true) (hlo : Nat.ble 71 I.2.2.2.2.2.2.1 = true) (hW : (rest.map fun v => v.category).sum ≤ 8) (hd : decode I.1 pc = .ok (.invokevirtual 222, 3)) (hf : rv_ h r 6 (cl_ (f_X7_fences r p0 p1 h) K) = some o) (kk : ∀ (x : Int32) (h1 : PH), K x h1 = some o → PF Γ I D h0 Q h1 (pc + 3) vs (.int x :: rest)) : PF Γ I D h0 Q h pc vs (.int p1 :: .int p0 :: va_rf r :: rest) := by
  obtain ⟨cc, nL, own, rt, xt, fr, lo, nm⟩ := I
  cases hI
  exact j_cVi (n := 2) (y := yX7_fences) (cc2 := cX7_fences) (As := [.int p0, .int p1]) (C := RX7) (ci := 6) rfl (lw_V q2456 q2458 qs67 q117 q2459) hyV_X7_fences hfr hlo rfl hW hd (c_X7_fences r p0 p1) hf _ rfl kk
abbrev mi_X7_fetched : MI := (cX7_fetched, 4, RX7, none, [], 3, 71, "fetched")
def f_X7_fetched_B28  (h : PH) : Option (Unit × PH) := some ((), h)
theorem pf_X7_fetched_B28 {Γ : GX} {D : va_G} {h0 : PH} {o : Unit × PH}  (h : PH) (hf : f_X7_fetched_B28  h = some o) : PF Γ mi_X7_fetched D h0 (QR Γ D h0 (ovv o.1) o.2) h 28 [none, none, none, none] [] := by
  have e9 := Option.some.inj hf
  subst e9
  exact j_vret rfl dX7_fetched_28
def f_X7_fetched (r0 : Option Nat) (p0 : Int32) (p1 : Int32) (p2 : Int32) (h0 : PH) : Option (Unit × PH) := rv_ h0 r0 6 (cl_ (f_X7_fences r0 p0 p1 h0) fun v2 h1 => (if v2 = 0 then (gR h1 r0 6 0 fun r3 => aI h1 r3 0 ((160 : Int32) + p2) fun v4 => rv_ h1 r0 6 (cl_ (f_X7_sends r0 (8 : Int32) p0 p1 p2 v4 h1) fun _u h5 => f_X7_fetched_B28 h5)) else (f_X7_fetched_B28 h1)))
theorem hyS_X7_fetched : yX7_fetched.cls ≠ "java/lang/invoke/MethodHandle" ∧ yX7_fetched.cls ≠ "java/lang/invoke/VarHandle" ∧ (parseMethodDescriptor yX7_fetched.desc).map (fun d => d.parameters.length) = some 3 := by decide +kernel
theorem hyV_X7_fetched : yX7_fetched.cls = RX7 ∧ yX7_fetched.cls ≠ "java/lang/invoke/MethodHandle" ∧ yX7_fetched.cls ≠ "java/lang/invoke/VarHandle" ∧ (parseMethodDescriptor yX7_fetched.desc).map (fun d => d.parameters.length) = some 3 := by decide +kernel
theorem c_X7_fetched {D : va_G} (r0 : Option Nat) (p0 : Int32) (p1 : Int32) (p2 : Int32) {h0 : PH} (l : Launch) (hl : l.stackTraces = false) (x : Unit) (h1 : PH) (hf : f_X7_fetched r0 p0 p1 p2 h0 = some (x, h1)) : CT l D yX7_fetched (ws_ yX7_fetched cX7_fetched 4 none) 3 71 [va_rf r0, .int p0, .int p1, .int p2] h0 (ovv x) h1 := by
  refine ct_of hl [some (va_rf r0), some (.int p0), some (.int p1), some (.int p2)] (by decide) (by rw [lgl]; simp [va_rf_cat, cat_i, cat_l]) (by simp [lv_args, vsL, va_rf_cat, cat_i, cat_l]) (fun Γ => ?_)
  obtain ⟨o, ho⟩ : ∃ o : Unit × PH, o = (x, h1) := ⟨_, rfl⟩
  rw [← ho] at hf
  have e1 : x = o.1 := by rw [ho]
  have e2 : h1 = o.2 := by rw [ho]
  subst e1 e2
  clear ho
  show PF Γ mi_X7_fetched D h0 (QR Γ D h0 (ovv o.1) o.2) h0 0 [some (va_rf r0), some (.int p0), some (.int p1), some (.int p2)] []
  unfold f_X7_fetched at hf
  refine j_aload_n 0 dX7_fetched_0 rfl rfl ?_
  refine j_iload_n 1 dX7_fetched_1 rfl rfl ?_
  refine j_iload_n 2 dX7_fetched_2 rfl rfl ?_
  refine kc_X7_222 rfl rfl rfl (by decide) dX7_fetched_3 hf (fun v2 h1 hf => ?_)
  refine j_if_ne 28 dX7_fetched_6 (by decide) hf (fun c_ hf => ?_) (fun c_ hf => ?_)
  · refine j_weak [none, none, none, none] (Wk.s (Wk.s (Wk.s (Wk.s Wk.n)))) ?_
    exact pf_X7_fetched_B28  h1 hf
  · refine j_aload_n 0 dX7_fetched_9 rfl rfl ?_
    refine j_bipush (8 : Int32) dX7_fetched_10 (by decide) ?_
    refine j_iload_n 1 dX7_fetched_12 rfl rfl ?_
    refine j_iload_n 2 dX7_fetched_13 rfl rfl ?_
    refine j_iload_n 3 dX7_fetched_14 rfl rfl ?_
    refine j_aload_n 0 dX7_fetched_15 rfl rfl ?_
    refine j_gR (ci := 6) (k := 0) rfl in_X7 rfl q2202 dX7_fetched_16 hf (fun r3 hf => ?_)
    refine j_sipush (160 : Int32) dX7_fetched_19 (by decide) ?_
    refine j_iload_n 3 dX7_fetched_22 rfl rfl ?_
    refine j_iadd dX7_fetched_23 ?_
    refine j_iald dX7_fetched_24 hf (fun v4 hf => ?_)
    refine kc_X7_189 rfl rfl rfl (by decide) dX7_fetched_25 hf (fun _u h5 hf => ?_)
    refine j_weak [none, none, none, none] (Wk.s (Wk.s (Wk.s (Wk.s Wk.n)))) ?_
    exact pf_X7_fetched_B28  h5 hf
theorem kc_X7_159 {Γ : GX} {I : MI} {D : va_G} {h0 : PH} {Q : State → Prop} {h : PH} {pc : Nat} {vs : List (Option Value)} {rest : List Value} {β : Type} {o : β} {p0 : Int32} {p1 : Int32} {p2 : Int32} {K : ((Int32) → PH → Option β)} (hI : I.2.2.1 = RX7) (hfr : Nat.ble 1 I.2.2.2.2.2.1 = true) (hlo : Nat.ble 24 I.2.2.2.2.2.2.1 = true) (hW : (rest.map fun v => v.category).sum ≤ 8) (hd : decode I.1 pc = .ok (.invokestatic 159, 3)) (hf : cl_ (f_X7_timeOf p0 p1 p2 h) K = some o) (kk : ∀ (x : Int32) (h1 : PH), K x h1 = some o → PF Γ I D h0 Q h1 (pc + 3) vs (.int x :: rest)) : PF Γ I D h0 Q h pc vs (.int p2 :: .int p1 :: .int p0 :: rest) := by
  obtain ⟨cc, nL, own, rt, xt, fr, lo, nm⟩ := I
  cases hI
  exact j_cSi (n := 3) (y := yX7_timeOf) (cc2 := cX7_timeOf) (As := [.int p0, .int p1, .int p2]) (lw_S q2400 q2401 q117 q2402) hyS_X7_timeOf hfr hlo rfl hW hd (c_X7_timeOf p0 p1 p2) hf _ rfl kk
theorem kc_X7_169 {Γ : GX} {I : MI} {D : va_G} {h0 : PH} {Q : State → Prop} {h : PH} {pc : Nat} {vs : List (Option Value)} {rest : List Value} {β : Type} {o : β} {r : Option Nat} {p0 : Int32} {p1 : Int32} {p2 : Int32} {K : ((Unit) → PH → Option β)} (hI : I.2.2.1 = RX7) (hfr : Nat.ble 1 I.2.2.2.2.2.1 = true) (hlo : Nat.ble 23 I.2.2.2.2.2.2.1 = true) (hW : (rest.map fun v => v.category).sum ≤ 8) (hd : decode I.1 pc = .ok (.invokevirtual 169, 3)) (hf : rv_ h r 6 (cl_ (f_X7_puts r p0 p1 p2 h) K) = some o) (kk : ∀ (x : Unit) (h1 : PH), K x h1 = some o → PF Γ I D h0 Q h1 (pc + 3) vs (rest)) : PF Γ I D h0 Q h pc vs (.int p2 :: .int p1 :: .int p0 :: va_rf r :: rest) := by
  obtain ⟨cc, nL, own, rt, xt, fr, lo, nm⟩ := I
  cases hI
  exact j_cVv (n := 3) (y := yX7_puts) (cc2 := cX7_puts) (As := [.int p0, .int p1, .int p2]) (C := RX7) (ci := 6) rfl (lw_V q2403 q2405 qs55 q117 q2406) hyV_X7_puts hfr hlo rfl hW hd (c_X7_puts r p0 p1 p2) hf _ rfl kk
abbrev mi_X7_setsTimer : MI := (cX7_setsTimer, 3, RX7, none, [], 1, 24, "setsTimer")
def f_X7_setsTimer (r0 : Option Nat) (p0 : Int32) (p1 : Int32) (h0 : PH) : Option (Unit × PH) := gR h0 r0 6 0 fun r1 => aI h0 r1 0 (0 : Int32) fun v2 => rv_ h0 r0 6 (cl_ (f_X7_of r0 p0 (0 : Int32) h0) fun v4 h3 => rv_ h3 r0 6 (cl_ (f_X7_of r0 p0 (1 : Int32) h3) fun v6 h5 => cl_ (f_X7_timeOf v4 v6 p1 h5) fun v8 h7 => rv_ h7 r0 6 (cl_ (f_X7_puts r0 p0 (9 : Int32) (if (v2 + (1 : Int32)) < v8 then v8 else (v2 + (1 : Int32))) h7) fun _u h9 => some ((), h9))))
theorem hyS_X7_setsTimer : yX7_setsTimer.cls ≠ "java/lang/invoke/MethodHandle" ∧ yX7_setsTimer.cls ≠ "java/lang/invoke/VarHandle" ∧ (parseMethodDescriptor yX7_setsTimer.desc).map (fun d => d.parameters.length) = some 2 := by decide +kernel
theorem hyV_X7_setsTimer : yX7_setsTimer.cls = RX7 ∧ yX7_setsTimer.cls ≠ "java/lang/invoke/MethodHandle" ∧ yX7_setsTimer.cls ≠ "java/lang/invoke/VarHandle" ∧ (parseMethodDescriptor yX7_setsTimer.desc).map (fun d => d.parameters.length) = some 2 := by decide +kernel
theorem c_X7_setsTimer {D : va_G} (r0 : Option Nat) (p0 : Int32) (p1 : Int32) {h0 : PH} (l : Launch) (hl : l.stackTraces = false) (x : Unit) (h1 : PH) (hf : f_X7_setsTimer r0 p0 p1 h0 = some (x, h1)) : CT l D yX7_setsTimer (ws_ yX7_setsTimer cX7_setsTimer 3 none) 1 24 [va_rf r0, .int p0, .int p1] h0 (ovv x) h1 := by
  refine ct_of hl [some (va_rf r0), some (.int p0), some (.int p1)] (by decide) (by rw [lgl]; simp [va_rf_cat, cat_i, cat_l]) (by simp [lv_args, vsL, va_rf_cat, cat_i, cat_l]) (fun Γ => ?_)
  obtain ⟨o, ho⟩ : ∃ o : Unit × PH, o = (x, h1) := ⟨_, rfl⟩
  rw [← ho] at hf
  have e1 : x = o.1 := by rw [ho]
  have e2 : h1 = o.2 := by rw [ho]
  subst e1 e2
  clear ho
  show PF Γ mi_X7_setsTimer D h0 (QR Γ D h0 (ovv o.1) o.2) h0 0 [some (va_rf r0), some (.int p0), some (.int p1)] []
  unfold f_X7_setsTimer at hf
  refine j_aload_n 0 dX7_setsTimer_0 rfl rfl ?_
  refine j_iload_n 1 dX7_setsTimer_1 rfl rfl ?_
  refine j_bipush (9 : Int32) dX7_setsTimer_2 (by decide) ?_
  refine j_aload_n 0 dX7_setsTimer_4 rfl rfl ?_
  refine j_gR (ci := 6) (k := 0) rfl in_X7 rfl q2202 dX7_setsTimer_5 hf (fun r1 hf => ?_)
  refine j_iconst (0 : Int32) dX7_setsTimer_8 (by decide) ?_
  refine j_iald dX7_setsTimer_9 hf (fun v2 hf => ?_)
  refine j_iconst (1 : Int32) dX7_setsTimer_10 (by decide) ?_
  refine j_iadd dX7_setsTimer_11 ?_
  refine j_aload_n 0 dX7_setsTimer_12 rfl rfl ?_
  refine j_iload_n 1 dX7_setsTimer_13 rfl rfl ?_
  refine j_iconst (0 : Int32) dX7_setsTimer_14 (by decide) ?_
  refine kc_X7_152 rfl rfl rfl (by simp [va_rf_cat, cat_i, cat_l]) dX7_setsTimer_15 hf (fun v4 h3 hf => ?_)
  refine j_aload_n 0 dX7_setsTimer_18 rfl rfl ?_
  refine j_iload_n 1 dX7_setsTimer_19 rfl rfl ?_
  refine j_iconst (1 : Int32) dX7_setsTimer_20 (by decide) ?_
  refine kc_X7_152 rfl rfl rfl (by simp [va_rf_cat, cat_i, cat_l]) dX7_setsTimer_21 hf (fun v6 h5 hf => ?_)
  refine j_iload_n 2 dX7_setsTimer_24 rfl rfl ?_
  refine kc_X7_159 rfl rfl rfl (by simp [va_rf_cat, cat_i, cat_l]) dX7_setsTimer_25 hf (fun v8 h7 hf => ?_)
  refine j_mmax q2407 q288 q106 q289 rfl rfl (by simp [va_rf_cat, cat_i, cat_l]) dX7_setsTimer_28 ?_
  refine kc_X7_169 rfl rfl rfl (by decide) dX7_setsTimer_31 hf (fun _u h9 hf => ?_)
  have e9 := Option.some.inj hf
  subst e9
  exact j_vret rfl dX7_setsTimer_34
abbrev mi_X7_forgets : MI := (cX7_forgets, 2, RX7, none, [], 1, 23, "forgets")
def f_X7_forgets (r0 : Option Nat) (p0 : Int32) (h0 : PH) : Option (Unit × PH) := rv_ h0 r0 6 (cl_ (f_X7_puts r0 p0 (7 : Int32) (0 : Int32) h0) fun _u h1 => rv_ h1 r0 6 (cl_ (f_X7_puts r0 p0 (11 : Int32) (0 : Int32) h1) fun _u h2 => some ((), h2)))
theorem hyS_X7_forgets : yX7_forgets.cls ≠ "java/lang/invoke/MethodHandle" ∧ yX7_forgets.cls ≠ "java/lang/invoke/VarHandle" ∧ (parseMethodDescriptor yX7_forgets.desc).map (fun d => d.parameters.length) = some 1 := by decide +kernel
theorem hyV_X7_forgets : yX7_forgets.cls = RX7 ∧ yX7_forgets.cls ≠ "java/lang/invoke/MethodHandle" ∧ yX7_forgets.cls ≠ "java/lang/invoke/VarHandle" ∧ (parseMethodDescriptor yX7_forgets.desc).map (fun d => d.parameters.length) = some 1 := by decide +kernel
theorem c_X7_forgets {D : va_G} (r0 : Option Nat) (p0 : Int32) {h0 : PH} (l : Launch) (hl : l.stackTraces = false) (x : Unit) (h1 : PH) (hf : f_X7_forgets r0 p0 h0 = some (x, h1)) : CT l D yX7_forgets (ws_ yX7_forgets cX7_forgets 2 none) 1 23 [va_rf r0, .int p0] h0 (ovv x) h1 := by
  refine ct_of hl [some (va_rf r0), some (.int p0)] (by decide) (by rw [lgl]; simp [va_rf_cat, cat_i, cat_l]) (by simp [lv_args, vsL, va_rf_cat, cat_i, cat_l]) (fun Γ => ?_)
  obtain ⟨o, ho⟩ : ∃ o : Unit × PH, o = (x, h1) := ⟨_, rfl⟩
  rw [← ho] at hf
  have e1 : x = o.1 := by rw [ho]
  have e2 : h1 = o.2 := by rw [ho]
  subst e1 e2
  clear ho
  show PF Γ mi_X7_forgets D h0 (QR Γ D h0 (ovv o.1) o.2) h0 0 [some (va_rf r0), some (.int p0)] []
  unfold f_X7_forgets at hf
  refine j_aload_n 0 dX7_forgets_0 rfl rfl ?_
  refine j_iload_n 1 dX7_forgets_1 rfl rfl ?_
  refine j_bipush (7 : Int32) dX7_forgets_2 (by decide) ?_
  refine j_iconst (0 : Int32) dX7_forgets_4 (by decide) ?_
  refine kc_X7_169 rfl rfl rfl (by decide) dX7_forgets_5 hf (fun _u h1 hf => ?_)
  refine j_aload_n 0 dX7_forgets_8 rfl rfl ?_
  refine j_iload_n 1 dX7_forgets_9 rfl rfl ?_
  refine j_bipush (11 : Int32) dX7_forgets_10 (by decide) ?_
  refine j_iconst (0 : Int32) dX7_forgets_12 (by decide) ?_
  refine kc_X7_169 rfl rfl rfl (by decide) dX7_forgets_13 hf (fun _u h2 hf => ?_)
  have e9 := Option.some.inj hf
  subst e9
  exact j_vret rfl dX7_forgets_16
abbrev mi_X7_caches : MI := (cX7_caches, 5, RX7, none, [], 1, 23, "caches")
def f_X7_caches (r0 : Option Nat) (p0 : Int32) (p1 : Int32) (p2 : Int32) (p3 : Int32) (h0 : PH) : Option (Unit × PH) := rv_ h0 r0 6 (cl_ (f_X7_of r0 p0 (7 : Int32) h0) fun v2 h1 => (if v2 = p1 then (rv_ h1 r0 6 (cl_ (f_X7_of r0 p0 (11 : Int32) h1) fun v4 h3 => rv_ h3 r0 6 (cl_ (f_X7_puts r0 p0 (11 : Int32) (v4 ||| ((1 : Int32) <<< (p2 &&& 31))) h3) fun _u h5 => rv_ h5 r0 6 (cl_ (f_X7_puts r0 p0 ((12 : Int32) + p2) p3 h5) fun _u h6 => some ((), h6))))) else (some ((), h1))))
theorem hyS_X7_caches : yX7_caches.cls ≠ "java/lang/invoke/MethodHandle" ∧ yX7_caches.cls ≠ "java/lang/invoke/VarHandle" ∧ (parseMethodDescriptor yX7_caches.desc).map (fun d => d.parameters.length) = some 4 := by decide +kernel
theorem hyV_X7_caches : yX7_caches.cls = RX7 ∧ yX7_caches.cls ≠ "java/lang/invoke/MethodHandle" ∧ yX7_caches.cls ≠ "java/lang/invoke/VarHandle" ∧ (parseMethodDescriptor yX7_caches.desc).map (fun d => d.parameters.length) = some 4 := by decide +kernel
theorem c_X7_caches {D : va_G} (r0 : Option Nat) (p0 : Int32) (p1 : Int32) (p2 : Int32) (p3 : Int32) {h0 : PH} (l : Launch) (hl : l.stackTraces = false) (x : Unit) (h1 : PH) (hf : f_X7_caches r0 p0 p1 p2 p3 h0 = some (x, h1)) : CT l D yX7_caches (ws_ yX7_caches cX7_caches 5 none) 1 23 [va_rf r0, .int p0, .int p1, .int p2, .int p3] h0 (ovv x) h1 := by
  refine ct_of hl [some (va_rf r0), some (.int p0), some (.int p1), some (.int p2), some (.int p3)] (by decide) (by rw [lgl]; simp [va_rf_cat, cat_i, cat_l]) (by simp [lv_args, vsL, va_rf_cat, cat_i, cat_l]) (fun Γ => ?_)
  obtain ⟨o, ho⟩ : ∃ o : Unit × PH, o = (x, h1) := ⟨_, rfl⟩
  rw [← ho] at hf
  have e1 : x = o.1 := by rw [ho]
  have e2 : h1 = o.2 := by rw [ho]
  subst e1 e2
  clear ho
  show PF Γ mi_X7_caches D h0 (QR Γ D h0 (ovv o.1) o.2) h0 0 [some (va_rf r0), some (.int p0), some (.int p1), some (.int p2), some (.int p3)] []
  unfold f_X7_caches at hf
  refine j_aload_n 0 dX7_caches_0 rfl rfl ?_
  refine j_iload_n 1 dX7_caches_1 rfl rfl ?_
  refine j_bipush (7 : Int32) dX7_caches_2 (by decide) ?_
  refine kc_X7_152 rfl rfl rfl (by decide) dX7_caches_4 hf (fun v2 h1 hf => ?_)
  refine j_iload_n 2 dX7_caches_7 rfl rfl ?_
  refine j_icmp_eq 12 dX7_caches_8 (by decide) hf (fun c_ hf => ?_) (fun c_ hf => ?_)
  · refine j_aload_n 0 dX7_caches_12 rfl rfl ?_
    refine j_iload_n 1 dX7_caches_13 rfl rfl ?_
    refine j_bipush (11 : Int32) dX7_caches_14 (by decide) ?_
    refine j_aload_n 0 dX7_caches_16 rfl rfl ?_
    refine j_iload_n 1 dX7_caches_17 rfl rfl ?_
    refine j_bipush (11 : Int32) dX7_caches_18 (by decide) ?_
    refine kc_X7_152 rfl rfl rfl (by simp [va_rf_cat, cat_i, cat_l]) dX7_caches_20 hf (fun v4 h3 hf => ?_)
    refine j_iconst (1 : Int32) dX7_caches_23 (by decide) ?_
    refine j_iload_n 3 dX7_caches_24 rfl rfl ?_
    refine j_ishl dX7_caches_25 ?_
    refine j_ior dX7_caches_26 ?_
    refine kc_X7_169 rfl rfl rfl (by decide) dX7_caches_27 hf (fun _u h5 hf => ?_)
    refine j_aload_n 0 dX7_caches_30 rfl rfl ?_
    refine j_iload_n 1 dX7_caches_31 rfl rfl ?_
    refine j_bipush (12 : Int32) dX7_caches_32 (by decide) ?_
    refine j_iload_n 3 dX7_caches_34 rfl rfl ?_
    refine j_iadd dX7_caches_35 ?_
    refine j_iload dX7_caches_36 rfl ?_
    refine kc_X7_169 rfl rfl rfl (by decide) dX7_caches_38 hf (fun _u h6 hf => ?_)
    have e9 := Option.some.inj hf
    subst e9
    exact j_vret rfl dX7_caches_41
  · have e9 := Option.some.inj hf
    subst e9
    exact j_vret rfl dX7_caches_11
abbrev mi_X7_packs : MI := (cX7_packs, 4, RX7, none, [], 0, 0, "packs")
def f_X7_packs_B81 (k4 : Option Nat → Int32 → Int32 → PH → Option (Unit × PH)) (x0 : Option Nat) (x1 : Int32) (x2 : Int32) (h : PH) : Option (Unit × PH) := k4 x0 x1 (x2 + (1 : Int32)) h
theorem pf_X7_packs_B81 {Γ : GX} {D : va_G} {h0 : PH} {o : Unit × PH} (k4 : Option Nat → Int32 → Int32 → PH → Option (Unit × PH)) (hk4 : ∀ (x0 : Option Nat) (x1 : Int32) (x2 : Int32) (h : PH), k4 x0 x1 x2 h = some o → PF Γ mi_X7_packs D h0 (QR Γ D h0 (ovv o.1) o.2) h 4 [some (va_rf x0), some (.int x1), some (.int x2), none] []) (x0 : Option Nat) (x1 : Int32) (x2 : Int32) (h : PH) (hf : f_X7_packs_B81 k4 x0 x1 x2 h = some o) : PF Γ mi_X7_packs D h0 (QR Γ D h0 (ovv o.1) o.2) h 81 [some (va_rf x0), some (.int x1), some (.int x2), none] [] := by
  refine j_iinc (x2 + (1 : Int32)) [some (va_rf x0), some (.int x1), some (.int (x2 + (1 : Int32))), none] dX7_packs_81 rfl rfl (cz rfl) rfl rfl ?_
  refine j_goto 4 dX7_packs_84 (by decide) ?_
  exact hk4 x0 x1 (x2 + (1 : Int32)) h hf
def f_X7_packs_L36 (k4 : Option Nat → Int32 → Int32 → PH → Option (Unit × PH)) : Nat → Option Nat → Int32 → Int32 → Int32 → PH → Option (Unit × PH)
  | 0, _, _, _, _, _ => none
  | n + 1, x0, x1, x2, x3, h => (if (6 : Int32) ≤ x3 then (f_X7_packs_B81 k4 x0 (x1 + (1 : Int32)) x2 h) else (gR h x0 6 0 fun r7 => gR h x0 6 0 fun r8 => aI h r8 0 (((1136 : Int32) + ((6 : Int32) * x2)) + x3) fun v9 => sI h r7 0 (((1136 : Int32) + ((6 : Int32) * x1)) + x3) v9 fun h10 => f_X7_packs_L36 k4 n x0 x1 x2 (x3 + (1 : Int32)) h10))
theorem pf_X7_packs_L36 {Γ : GX} {D : va_G} {h0 : PH} {o : Unit × PH} (k4 : Option Nat → Int32 → Int32 → PH → Option (Unit × PH)) (hk4 : ∀ (x0 : Option Nat) (x1 : Int32) (x2 : Int32) (h : PH), k4 x0 x1 x2 h = some o → PF Γ mi_X7_packs D h0 (QR Γ D h0 (ovv o.1) o.2) h 4 [some (va_rf x0), some (.int x1), some (.int x2), none] []) : ∀ (n : Nat) (x0 : Option Nat) (x1 : Int32) (x2 : Int32) (x3 : Int32) (h : PH), f_X7_packs_L36 k4 n x0 x1 x2 x3 h = some o → PF Γ mi_X7_packs D h0 (QR Γ D h0 (ovv o.1) o.2) h 36 [some (va_rf x0), some (.int x1), some (.int x2), some (.int x3)] [] := by
  intro n
  induction n with
  | zero => intro x0 x1 x2 x3 h hf; cases hf
  | succ n ih =>
    intro x0 x1 x2 x3 h hf
    refine j_iload_n 3 dX7_packs_36 rfl rfl ?_
    refine j_bipush (6 : Int32) dX7_packs_37 (by decide) ?_
    refine j_icmp_ge 78 dX7_packs_39 (by decide) hf (fun c_ hf => ?_) (fun c_ hf => ?_)
    · refine j_iinc (x1 + (1 : Int32)) [some (va_rf x0), some (.int (x1 + (1 : Int32))), some (.int x2), some (.int x3)] dX7_packs_78 rfl rfl (cz (va_rf_cat _)) rfl rfl ?_
      refine j_weak [some (va_rf x0), some (.int (x1 + (1 : Int32))), some (.int x2), none] (Wk.k (Wk.k (Wk.k (Wk.s Wk.n)))) ?_
      exact pf_X7_packs_B81 k4 hk4 x0 (x1 + (1 : Int32)) x2 h hf
    · refine j_aload_n 0 dX7_packs_42 rfl rfl ?_
      refine j_gR (ci := 6) (k := 0) rfl in_X7 rfl q2202 dX7_packs_43 hf (fun r7 hf => ?_)
      refine j_sipush (1136 : Int32) dX7_packs_46 (by decide) ?_
      refine j_bipush (6 : Int32) dX7_packs_49 (by decide) ?_
      refine j_iload_n 1 dX7_packs_51 rfl rfl ?_
      refine j_imul dX7_packs_52 ?_
      refine j_iadd dX7_packs_53 ?_
      refine j_iload_n 3 dX7_packs_54 rfl rfl ?_
      refine j_iadd dX7_packs_55 ?_
      refine j_aload_n 0 dX7_packs_56 rfl rfl ?_
      refine j_gR (ci := 6) (k := 0) rfl in_X7 rfl q2202 dX7_packs_57 hf (fun r8 hf => ?_)
      refine j_sipush (1136 : Int32) dX7_packs_60 (by decide) ?_
      refine j_bipush (6 : Int32) dX7_packs_63 (by decide) ?_
      refine j_iload_n 2 dX7_packs_65 rfl rfl ?_
      refine j_imul dX7_packs_66 ?_
      refine j_iadd dX7_packs_67 ?_
      refine j_iload_n 3 dX7_packs_68 rfl rfl ?_
      refine j_iadd dX7_packs_69 ?_
      refine j_iald dX7_packs_70 hf (fun v9 hf => ?_)
      refine j_iast dX7_packs_71 hf (fun h10 hf => ?_)
      refine j_iinc (x3 + (1 : Int32)) [some (va_rf x0), some (.int x1), some (.int x2), some (.int (x3 + (1 : Int32)))] dX7_packs_72 rfl rfl (cz rfl) rfl rfl ?_
      refine j_goto 36 dX7_packs_75 (by decide) ?_
      exact ih x0 x1 x2 (x3 + (1 : Int32)) h10 hf
def f_X7_packs_L4 : Nat → Option Nat → Int32 → Int32 → PH → Option (Unit × PH)
  | 0, _, _, _, _ => none
  | n + 1, x0, x1, x2, h => gR h x0 6 0 fun r1 => aI h r1 0 (20 : Int32) fun v2 => (if v2 ≤ x2 then (gR h x0 6 0 fun r3 => sI h r3 0 (20 : Int32) x1 fun h4 => some ((), h4)) else (gR h x0 6 0 fun r5 => aI h r5 0 ((1136 : Int32) + ((6 : Int32) * x2)) fun v6 => (if v6 = 0 then (f_X7_packs_B81 (f_X7_packs_L4 n) x0 x1 x2 h) else (f_X7_packs_L36 (f_X7_packs_L4 n) FU x0 x1 x2 (0 : Int32) h))))
theorem pf_X7_packs_L4 {Γ : GX} {D : va_G} {h0 : PH} {o : Unit × PH} : ∀ (n : Nat) (x0 : Option Nat) (x1 : Int32) (x2 : Int32) (h : PH), f_X7_packs_L4 n x0 x1 x2 h = some o → PF Γ mi_X7_packs D h0 (QR Γ D h0 (ovv o.1) o.2) h 4 [some (va_rf x0), some (.int x1), some (.int x2), none] [] := by
  intro n
  induction n with
  | zero => intro x0 x1 x2 h hf; cases hf
  | succ n ih =>
    intro x0 x1 x2 h hf
    refine j_iload_n 2 dX7_packs_4 rfl rfl ?_
    refine j_aload_n 0 dX7_packs_5 rfl rfl ?_
    refine j_gR (ci := 6) (k := 0) rfl in_X7 rfl q2202 dX7_packs_6 hf (fun r1 hf => ?_)
    refine j_bipush (20 : Int32) dX7_packs_9 (by decide) ?_
    refine j_iald dX7_packs_11 hf (fun v2 hf => ?_)
    refine j_icmp_ge 87 dX7_packs_12 (by decide) hf (fun c_ hf => ?_) (fun c_ hf => ?_)
    · refine j_aload_n 0 dX7_packs_87 rfl rfl ?_
      refine j_gR (ci := 6) (k := 0) rfl in_X7 rfl q2202 dX7_packs_88 hf (fun r3 hf => ?_)
      refine j_bipush (20 : Int32) dX7_packs_91 (by decide) ?_
      refine j_iload_n 1 dX7_packs_93 rfl rfl ?_
      refine j_iast dX7_packs_94 hf (fun h4 hf => ?_)
      have e9 := Option.some.inj hf
      subst e9
      exact j_vret rfl dX7_packs_95
    · refine j_aload_n 0 dX7_packs_15 rfl rfl ?_
      refine j_gR (ci := 6) (k := 0) rfl in_X7 rfl q2202 dX7_packs_16 hf (fun r5 hf => ?_)
      refine j_sipush (1136 : Int32) dX7_packs_19 (by decide) ?_
      refine j_bipush (6 : Int32) dX7_packs_22 (by decide) ?_
      refine j_iload_n 2 dX7_packs_24 rfl rfl ?_
      refine j_imul dX7_packs_25 ?_
      refine j_iadd dX7_packs_26 ?_
      refine j_iald dX7_packs_27 hf (fun v6 hf => ?_)
      refine j_if_ne 34 dX7_packs_28 (by decide) hf (fun c_ hf => ?_) (fun c_ hf => ?_)
      · refine j_iconst (0 : Int32) dX7_packs_34 (by decide) ?_
        refine j_istore_n 3 [some (va_rf x0), some (.int x1), some (.int x2), some (.int (0 : Int32))] dX7_packs_35 rfl (cz rfl) rfl rfl ?_
        exact pf_X7_packs_L36 (f_X7_packs_L4 n) ih FU x0 x1 x2 (0 : Int32) h hf
      · refine j_goto 81 dX7_packs_31 (by decide) ?_
        exact pf_X7_packs_B81 (f_X7_packs_L4 n) ih x0 x1 x2 h hf
def f_X7_packs (r0 : Option Nat) (h0 : PH) : Option (Unit × PH) := f_X7_packs_L4 FU r0 (0 : Int32) (0 : Int32) h0
theorem hyS_X7_packs : yX7_packs.cls ≠ "java/lang/invoke/MethodHandle" ∧ yX7_packs.cls ≠ "java/lang/invoke/VarHandle" ∧ (parseMethodDescriptor yX7_packs.desc).map (fun d => d.parameters.length) = some 0 := by decide +kernel
theorem hyV_X7_packs : yX7_packs.cls = RX7 ∧ yX7_packs.cls ≠ "java/lang/invoke/MethodHandle" ∧ yX7_packs.cls ≠ "java/lang/invoke/VarHandle" ∧ (parseMethodDescriptor yX7_packs.desc).map (fun d => d.parameters.length) = some 0 := by decide +kernel
theorem c_X7_packs {D : va_G} (r0 : Option Nat) {h0 : PH} (l : Launch) (hl : l.stackTraces = false) (x : Unit) (h1 : PH) (hf : f_X7_packs r0 h0 = some (x, h1)) : CT l D yX7_packs (ws_ yX7_packs cX7_packs 4 none) 0 0 [va_rf r0] h0 (ovv x) h1 := by
  refine ct_of hl [some (va_rf r0), none, none, none] (by decide) (by rw [lgl]; simp [va_rf_cat, cat_i, cat_l]) (by simp [lv_args, vsL, va_rf_cat, cat_i, cat_l]) (fun Γ => ?_)
  obtain ⟨o, ho⟩ : ∃ o : Unit × PH, o = (x, h1) := ⟨_, rfl⟩
  rw [← ho] at hf
  have e1 : x = o.1 := by rw [ho]
  have e2 : h1 = o.2 := by rw [ho]
  subst e1 e2
  clear ho
  show PF Γ mi_X7_packs D h0 (QR Γ D h0 (ovv o.1) o.2) h0 0 [some (va_rf r0), none, none, none] []
  unfold f_X7_packs at hf
  refine j_iconst (0 : Int32) dX7_packs_0 (by decide) ?_
  refine j_istore_n 1 [some (va_rf r0), some (.int (0 : Int32)), none, none] dX7_packs_1 rfl (cz (va_rf_cat _)) rfl rfl ?_
  refine j_iconst (0 : Int32) dX7_packs_2 (by decide) ?_
  refine j_istore_n 2 [some (va_rf r0), some (.int (0 : Int32)), some (.int (0 : Int32)), none] dX7_packs_3 rfl (cz rfl) rfl rfl ?_
  exact pf_X7_packs_L4 FU r0 (0 : Int32) (0 : Int32) h0 hf
