/-! printed by gen.py: X7_delayedNow X7_refusal X7_withdraw X7_crash X7_restart X7_pause X7_setCut X7_planOutage X7_restartServer X7_isRegister X7_isValue X7_registerCell X7_version X7_own X7_holder X7_greatestToken X7_serverEnd X7_graceLeft X7_ofNode X7_timerTime X7_nodeState X7_cached X7_smallestBound X7_comesAt -/
set_option maxRecDepth 100000
abbrev mi_X7_delayedNow : MI := (cX7_delayedNow, 8, RX7, none, [], 2, 49, "delayedNow")
def f_X7_delayedNow_L84 (k2 : Option Nat → Int32 → PH → Option (Unit × PH)) : Nat → Option Nat → Int32 → Int32 → Int32 → Int32 → Int32 → Int32 → PH → Option (Unit × PH)
  | 0, _, _, _, _, _, _, _, _ => none
  | n + 1, x0, x1, x3, x4, x5, x6, x7, h => gR h x0 6 0 fun r15 => aI h r15 0 (21 : Int32) fun v16 => (if ((236 : Int32) + ((5 : Int32) * (v16 - (1 : Int32)))) ≤ x7 then (gR h x0 6 0 fun r17 => aI h r17 0 (21 : Int32) fun v18 => sI h r17 0 (21 : Int32) (v18 - (1 : Int32)) fun h19 => rv_ h19 x0 6 (cl_ (f_X7_sends x0 (3 : Int32) x3 x4 x5 x6 h19) fun _u h20 => k2 x0 x1 h20)) else (gR h x0 6 0 fun r21 => gR h x0 6 0 fun r22 => aI h r22 0 (x7 + (5 : Int32)) fun v23 => sI h r21 0 x7 v23 fun h24 => f_X7_delayedNow_L84 k2 n x0 x1 x3 x4 x5 x6 (x7 + (1 : Int32)) h24))
theorem pf_X7_delayedNow_L84 {Γ : GX} {D : va_G} {h0 : PH} {o : Unit × PH} (k2 : Option Nat → Int32 → PH → Option (Unit × PH)) (hk2 : ∀ (x0 : Option Nat) (x1 : Int32) (h : PH), k2 x0 x1 h = some o → PF Γ mi_X7_delayedNow D h0 (QR Γ D h0 (ovv o.1) o.2) h 2 [some (va_rf x0), some (.int x1), none, none, none, none, none, none] []) : ∀ (n : Nat) (x0 : Option Nat) (x1 : Int32) (x3 : Int32) (x4 : Int32) (x5 : Int32) (x6 : Int32) (x7 : Int32) (h : PH), f_X7_delayedNow_L84 k2 n x0 x1 x3 x4 x5 x6 x7 h = some o → PF Γ mi_X7_delayedNow D h0 (QR Γ D h0 (ovv o.1) o.2) h 84 [some (va_rf x0), some (.int x1), none, some (.int x3), some (.int x4), some (.int x5), some (.int x6), some (.int x7)] [] := by
  intro n
  induction n with
  | zero => intro x0 x1 x3 x4 x5 x6 x7 h hf; cases hf
  | succ n ih =>
    intro x0 x1 x3 x4 x5 x6 x7 h hf
    refine j_iload dX7_delayedNow_84 rfl ?_
    refine j_sipush (236 : Int32) dX7_delayedNow_86 (by decide) ?_
    refine j_iconst (5 : Int32) dX7_delayedNow_89 (by decide) ?_
    refine j_aload_n 0 dX7_delayedNow_90 rfl rfl ?_
    refine j_gR (ci := 6) (k := 0) rfl in_X7 rfl q2202 dX7_delayedNow_91 hf (fun r15 hf => ?_)
    refine j_bipush (21 : Int32) dX7_delayedNow_94 (by decide) ?_
    refine j_iald dX7_delayedNow_96 hf (fun v16 hf => ?_)
    refine j_iconst (1 : Int32) dX7_delayedNow_97 (by decide) ?_
    refine j_isub dX7_delayedNow_98 ?_
    refine j_imul dX7_delayedNow_99 ?_
    refine j_iadd dX7_delayedNow_100 ?_
    refine j_icmp_ge 126 dX7_delayedNow_101 (by decide) hf (fun c_ hf => ?_) (fun c_ hf => ?_)
    · refine j_aload_n 0 dX7_delayedNow_126 rfl rfl ?_
      refine j_gR (ci := 6) (k := 0) rfl in_X7 rfl q2202 dX7_delayedNow_127 hf (fun r17 hf => ?_)
      refine j_bipush (21 : Int32) dX7_delayedNow_130 (by decide) ?_
      refine j_dup2 dX7_delayedNow_132 rfl (va_rf_cat _) ?_
      refine j_iald dX7_delayedNow_133 hf (fun v18 hf => ?_)
      refine j_iconst (1 : Int32) dX7_delayedNow_134 (by decide) ?_
      refine j_isub dX7_delayedNow_135 ?_
      refine j_iast dX7_delayedNow_136 hf (fun h19 hf => ?_)
      refine j_aload_n 0 dX7_delayedNow_137 rfl rfl ?_
      refine j_iconst (3 : Int32) dX7_delayedNow_138 (by decide) ?_
      refine j_iload_n 3 dX7_delayedNow_139 rfl rfl ?_
      refine j_iload dX7_delayedNow_140 rfl ?_
      refine j_iload dX7_delayedNow_142 rfl ?_
      refine j_iload dX7_delayedNow_144 rfl ?_
      refine kc_X7_189 rfl rfl rfl (by decide) dX7_delayedNow_146 hf (fun _u h20 hf => ?_)
      refine j_goto 2 dX7_delayedNow_149 (by decide) ?_
      refine j_weak [some (va_rf x0), some (.int x1), none, none, none, none, none, none] (Wk.k (Wk.k (Wk.k (Wk.s (Wk.s (Wk.s (Wk.s (Wk.s Wk.n)))))))) ?_
      exact hk2 x0 x1 h20 hf
    · refine j_aload_n 0 dX7_delayedNow_104 rfl rfl ?_
      refine j_gR (ci := 6) (k := 0) rfl in_X7 rfl q2202 dX7_delayedNow_105 hf (fun r21 hf => ?_)
      refine j_iload dX7_delayedNow_108 rfl ?_
      refine j_aload_n 0 dX7_delayedNow_110 rfl rfl ?_
      refine j_gR (ci := 6) (k := 0) rfl in_X7 rfl q2202 dX7_delayedNow_111 hf (fun r22 hf => ?_)
      refine j_iload dX7_delayedNow_114 rfl ?_
      refine j_iconst (5 : Int32) dX7_delayedNow_116 (by decide) ?_
      refine j_iadd dX7_delayedNow_117 ?_
      refine j_iald dX7_delayedNow_118 hf (fun v23 hf => ?_)
      refine j_iast dX7_delayedNow_119 hf (fun h24 hf => ?_)
      refine j_iinc (x7 + (1 : Int32)) [some (va_rf x0), some (.int x1), none, some (.int x3), some (.int x4), some (.int x5), some (.int x6), some (.int (x7 + (1 : Int32)))] dX7_delayedNow_120 rfl rfl (cz rfl) rfl rfl ?_
      refine j_goto 84 dX7_delayedNow_123 (by decide) ?_
      exact ih x0 x1 x3 x4 x5 x6 (x7 + (1 : Int32)) h24 hf
def f_X7_delayedNow_L2 : Nat → Option Nat → Int32 → PH → Option (Unit × PH)
  | 0, _, _, _ => none
  | n + 1, x0, x1, h => gR h x0 6 0 fun r1 => aI h r1 0 (21 : Int32) fun v2 => (if v2 ≤ x1 then (some ((), h)) else (gR h x0 6 0 fun r3 => aI h r3 0 ((236 : Int32) + ((5 : Int32) * x1)) fun v4 => gR h x0 6 0 fun r5 => aI h r5 0 (0 : Int32) fun v6 => (if v4 = v6 then (gR h x0 6 0 fun r7 => aI h r7 0 (((236 : Int32) + ((5 : Int32) * x1)) + (1 : Int32)) fun v8 => gR h x0 6 0 fun r9 => aI h r9 0 (((236 : Int32) + ((5 : Int32) * x1)) + (2 : Int32)) fun v10 => gR h x0 6 0 fun r11 => aI h r11 0 (((236 : Int32) + ((5 : Int32) * x1)) + (3 : Int32)) fun v12 => gR h x0 6 0 fun r13 => aI h r13 0 (((236 : Int32) + ((5 : Int32) * x1)) + (4 : Int32)) fun v14 => f_X7_delayedNow_L84 (f_X7_delayedNow_L2 n) FU x0 x1 v8 v10 v12 v14 ((236 : Int32) + ((5 : Int32) * x1)) h) else (f_X7_delayedNow_L2 n x0 (x1 + (1 : Int32)) h))))
theorem pf_X7_delayedNow_L2 {Γ : GX} {D : va_G} {h0 : PH} {o : Unit × PH} : ∀ (n : Nat) (x0 : Option Nat) (x1 : Int32) (h : PH), f_X7_delayedNow_L2 n x0 x1 h = some o → PF Γ mi_X7_delayedNow D h0 (QR Γ D h0 (ovv o.1) o.2) h 2 [some (va_rf x0), some (.int x1), none, none, none, none, none, none] [] := by
  intro n
  induction n with
  | zero => intro x0 x1 h hf; cases hf
  | succ n ih =>
    intro x0 x1 h hf
    refine j_iload_n 1 dX7_delayedNow_2 rfl rfl ?_
    refine j_aload_n 0 dX7_delayedNow_3 rfl rfl ?_
    refine j_gR (ci := 6) (k := 0) rfl in_X7 rfl q2202 dX7_delayedNow_4 hf (fun r1 hf => ?_)
    refine j_bipush (21 : Int32) dX7_delayedNow_7 (by decide) ?_
    refine j_iald dX7_delayedNow_9 hf (fun v2 hf => ?_)
    refine j_icmp_ge 152 dX7_delayedNow_10 (by decide) hf (fun c_ hf => ?_) (fun c_ hf => ?_)
    · have e9 := Option.some.inj hf
      subst e9
      exact j_vret rfl dX7_delayedNow_152
    · refine j_sipush (236 : Int32) dX7_delayedNow_13 (by decide) ?_
      refine j_iconst (5 : Int32) dX7_delayedNow_16 (by decide) ?_
      refine j_iload_n 1 dX7_delayedNow_17 rfl rfl ?_
      refine j_imul dX7_delayedNow_18 ?_
      refine j_iadd dX7_delayedNow_19 ?_
      refine j_istore_n 2 [some (va_rf x0), some (.int x1), some (.int ((236 : Int32) + ((5 : Int32) * x1))), none, none, none, none, none] dX7_delayedNow_20 rfl (cz rfl) rfl rfl ?_
      refine j_aload_n 0 dX7_delayedNow_21 rfl rfl ?_
      refine j_gR (ci := 6) (k := 0) rfl in_X7 rfl q2202 dX7_delayedNow_22 hf (fun r3 hf => ?_)
      refine j_iload_n 2 dX7_delayedNow_25 rfl rfl ?_
      refine j_iald dX7_delayedNow_26 hf (fun v4 hf => ?_)
      refine j_aload_n 0 dX7_delayedNow_27 rfl rfl ?_
      refine j_gR (ci := 6) (k := 0) rfl in_X7 rfl q2202 dX7_delayedNow_28 hf (fun r5 hf => ?_)
      refine j_iconst (0 : Int32) dX7_delayedNow_31 (by decide) ?_
      refine j_iald dX7_delayedNow_32 hf (fun v6 hf => ?_)
      refine j_icmp_eq 42 dX7_delayedNow_33 (by decide) hf (fun c_ hf => ?_) (fun c_ hf => ?_)
      · refine j_aload_n 0 dX7_delayedNow_42 rfl rfl ?_
        refine j_gR (ci := 6) (k := 0) rfl in_X7 rfl q2202 dX7_delayedNow_43 hf (fun r7 hf => ?_)
        refine j_iload_n 2 dX7_delayedNow_46 rfl rfl ?_
        refine j_iconst (1 : Int32) dX7_delayedNow_47 (by decide) ?_
        refine j_iadd dX7_delayedNow_48 ?_
        refine j_iald dX7_delayedNow_49 hf (fun v8 hf => ?_)
        refine j_istore_n 3 [some (va_rf x0), some (.int x1), some (.int ((236 : Int32) + ((5 : Int32) * x1))), some (.int v8), none, none, none, none] dX7_delayedNow_50 rfl (cz rfl) rfl rfl ?_
        refine j_aload_n 0 dX7_delayedNow_51 rfl rfl ?_
        refine j_gR (ci := 6) (k := 0) rfl in_X7 rfl q2202 dX7_delayedNow_52 hf (fun r9 hf => ?_)
        refine j_iload_n 2 dX7_delayedNow_55 rfl rfl ?_
        refine j_iconst (2 : Int32) dX7_delayedNow_56 (by decide) ?_
        refine j_iadd dX7_delayedNow_57 ?_
        refine j_iald dX7_delayedNow_58 hf (fun v10 hf => ?_)
        refine j_istore [some (va_rf x0), some (.int x1), some (.int ((236 : Int32) + ((5 : Int32) * x1))), some (.int v8), some (.int v10), none, none, none] dX7_delayedNow_59 (cz rfl) rfl rfl ?_
        refine j_aload_n 0 dX7_delayedNow_61 rfl rfl ?_
        refine j_gR (ci := 6) (k := 0) rfl in_X7 rfl q2202 dX7_delayedNow_62 hf (fun r11 hf => ?_)
        refine j_iload_n 2 dX7_delayedNow_65 rfl rfl ?_
        refine j_iconst (3 : Int32) dX7_delayedNow_66 (by decide) ?_
        refine j_iadd dX7_delayedNow_67 ?_
        refine j_iald dX7_delayedNow_68 hf (fun v12 hf => ?_)
        refine j_istore [some (va_rf x0), some (.int x1), some (.int ((236 : Int32) + ((5 : Int32) * x1))), some (.int v8), some (.int v10), some (.int v12), none, none] dX7_delayedNow_69 (cz rfl) rfl rfl ?_
        refine j_aload_n 0 dX7_delayedNow_71 rfl rfl ?_
        refine j_gR (ci := 6) (k := 0) rfl in_X7 rfl q2202 dX7_delayedNow_72 hf (fun r13 hf => ?_)
        refine j_iload_n 2 dX7_delayedNow_75 rfl rfl ?_
        refine j_iconst (4 : Int32) dX7_delayedNow_76 (by decide) ?_
        refine j_iadd dX7_delayedNow_77 ?_
        refine j_iald dX7_delayedNow_78 hf (fun v14 hf => ?_)
        refine j_istore [some (va_rf x0), some (.int x1), some (.int ((236 : Int32) + ((5 : Int32) * x1))), some (.int v8), some (.int v10), some (.int v12), some (.int v14), none] dX7_delayedNow_79 (cz rfl) rfl rfl ?_
        refine j_iload_n 2 dX7_delayedNow_81 rfl rfl ?_
        refine j_istore [some (va_rf x0), some (.int x1), some (.int ((236 : Int32) + ((5 : Int32) * x1))), some (.int v8), some (.int v10), some (.int v12), some (.int v14), some (.int ((236 : Int32) + ((5 : Int32) * x1)))] dX7_delayedNow_82 (cz rfl) rfl rfl ?_
        refine j_weak [some (va_rf x0), some (.int x1), none, some (.int v8), some (.int v10), some (.int v12), some (.int v14), some (.int ((236 : Int32) + ((5 : Int32) * x1)))] (Wk.k (Wk.k (Wk.s (Wk.k (Wk.k (Wk.k (Wk.k (Wk.k Wk.n)))))))) ?_
        exact pf_X7_delayedNow_L84 (f_X7_delayedNow_L2 n) ih FU x0 x1 v8 v10 v12 v14 ((236 : Int32) + ((5 : Int32) * x1)) h hf
      · refine j_iinc (x1 + (1 : Int32)) [some (va_rf x0), some (.int (x1 + (1 : Int32))), some (.int ((236 : Int32) + ((5 : Int32) * x1))), none, none, none, none, none] dX7_delayedNow_36 rfl rfl (cz (va_rf_cat _)) rfl rfl ?_
        refine j_goto 2 dX7_delayedNow_39 (by decide) ?_
        refine j_weak [some (va_rf x0), some (.int (x1 + (1 : Int32))), none, none, none, none, none, none] (Wk.k (Wk.k (Wk.s (Wk.k (Wk.k (Wk.k (Wk.k (Wk.k Wk.n)))))))) ?_
        exact ih x0 (x1 + (1 : Int32)) h hf
def f_X7_delayedNow (r0 : Option Nat) (h0 : PH) : Option (Unit × PH) := f_X7_delayedNow_L2 FU r0 (0 : Int32) h0
theorem hyS_X7_delayedNow : yX7_delayedNow.cls ≠ "java/lang/invoke/MethodHandle" ∧ yX7_delayedNow.cls ≠ "java/lang/invoke/VarHandle" ∧ (parseMethodDescriptor yX7_delayedNow.desc).map (fun d => d.parameters.length) = some 0 := by decide +kernel
theorem hyV_X7_delayedNow : yX7_delayedNow.cls = RX7 ∧ yX7_delayedNow.cls ≠ "java/lang/invoke/MethodHandle" ∧ yX7_delayedNow.cls ≠ "java/lang/invoke/VarHandle" ∧ (parseMethodDescriptor yX7_delayedNow.desc).map (fun d => d.parameters.length) = some 0 := by decide +kernel
theorem c_X7_delayedNow {D : va_G} (r0 : Option Nat) {h0 : PH} (l : Launch) (hl : l.stackTraces = false) (x : Unit) (h1 : PH) (hf : f_X7_delayedNow r0 h0 = some (x, h1)) : CT l D yX7_delayedNow (ws_ yX7_delayedNow cX7_delayedNow 8 none) 2 49 [va_rf r0] h0 (ovv x) h1 := by
  refine ct_of hl [some (va_rf r0), none, none, none, none, none, none, none] (by decide) (by rw [lgl]; simp [va_rf_cat, cat_i, cat_l]) (by simp [lv_args, vsL, va_rf_cat, cat_i, cat_l]) (fun Γ => ?_)
  obtain ⟨o, ho⟩ : ∃ o : Unit × PH, o = (x, h1) := ⟨_, rfl⟩
  rw [← ho] at hf
  have e1 : x = o.1 := by rw [ho]
  have e2 : h1 = o.2 := by rw [ho]
  subst e1 e2
  clear ho
  show PF Γ mi_X7_delayedNow D h0 (QR Γ D h0 (ovv o.1) o.2) h0 0 [some (va_rf r0), none, none, none, none, none, none, none] []
  unfold f_X7_delayedNow at hf
  refine j_iconst (0 : Int32) dX7_delayedNow_0 (by decide) ?_
  refine j_istore_n 1 [some (va_rf r0), some (.int (0 : Int32)), none, none, none, none, none, none] dX7_delayedNow_1 rfl (cz (va_rf_cat _)) rfl rfl ?_
  exact pf_X7_delayedNow_L2 FU r0 (0 : Int32) h0 hf
theorem kc_X7_229 {Γ : GX} {I : MI} {D : va_G} {h0 : PH} {Q : State → Prop} {h : PH} {pc : Nat} {vs : List (Option Value)} {rest : List Value} {β : Type} {o : β} {r : Option Nat} {p0 : Int32} {K : ((Int32) → PH → Option β)} (hI : I.2.2.1 = RX7) (hfr : Nat.ble 2 I.2.2.2.2.2.1 = true) (hlo : Nat.ble 43 I.2.2.2.2.2.2.1 = true) (hW : (rest.map fun v => v.category).sum ≤ 8) (hd : decode I.1 pc = .ok (.invokevirtual 229, 3)) (hf : rv_ h r 6 (cl_ (f_X7_isPaused r p0 h) K) = some o) (kk : ∀ (x : Int32) (h1 : PH), K x h1 = some o → PF Γ I D h0 Q h1 (pc + 3) vs (.int x :: rest)) : PF Γ I D h0 Q h pc vs (.int p0 :: va_rf r :: rest) := by
  obtain ⟨cc, nL, own, rt, xt, fr, lo, nm⟩ := I
  cases hI
  exact j_cVi (n := 1) (y := yX7_isPaused) (cc2 := cX7_isPaused) (As := [.int p0]) (C := RX7) (ci := 6) rfl (lw_V q2384 q2386 qs51 q117 q2387) hyV_X7_isPaused hfr hlo rfl hW hd (c_X7_isPaused r p0) hf _ rfl kk
abbrev mi_X7_refusal : MI := (cX7_refusal, 2, RX7, (Option.some FieldType.int), [], 2, 43, "refusal")
def f_X7_refusal_B28 (t0 : Int32) (h : PH) : Option (Int32 × PH) := some (t0, h)
theorem pf_X7_refusal_B28 {Γ : GX} {D : va_G} {h0 : PH} {o : Int32 × PH} (t0 : Int32) (h : PH) (hf : f_X7_refusal_B28 t0 h = some o) : PF Γ mi_X7_refusal D h0 (QR Γ D h0 (ovi o.1) o.2) h 28 [none, none] [.int t0] := by
  have e9 := Option.some.inj hf
  subst e9
  exact j_iret rfl dX7_refusal_28
def f_X7_refusal (r0 : Option Nat) (p0 : Int32) (h0 : PH) : Option (Int32 × PH) := rv_ h0 r0 6 (cl_ (f_X7_of r0 p0 (3 : Int32) h0) fun v2 h1 => (if v2 = 0 then (f_X7_refusal_B28 (-3 : Int32) h1) else (rv_ h1 r0 6 (cl_ (f_X7_isPaused r0 p0 h1) fun v4 h3 => (if v4 = 0 then (f_X7_refusal_B28 (0 : Int32) h3) else (f_X7_refusal_B28 (-2 : Int32) h3))))))
theorem hyS_X7_refusal : yX7_refusal.cls ≠ "java/lang/invoke/MethodHandle" ∧ yX7_refusal.cls ≠ "java/lang/invoke/VarHandle" ∧ (parseMethodDescriptor yX7_refusal.desc).map (fun d => d.parameters.length) = some 1 := by decide +kernel
theorem hyV_X7_refusal : yX7_refusal.cls = RX7 ∧ yX7_refusal.cls ≠ "java/lang/invoke/MethodHandle" ∧ yX7_refusal.cls ≠ "java/lang/invoke/VarHandle" ∧ (parseMethodDescriptor yX7_refusal.desc).map (fun d => d.parameters.length) = some 1 := by decide +kernel
theorem c_X7_refusal {D : va_G} (r0 : Option Nat) (p0 : Int32) {h0 : PH} (l : Launch) (hl : l.stackTraces = false) (x : Int32) (h1 : PH) (hf : f_X7_refusal r0 p0 h0 = some (x, h1)) : CT l D yX7_refusal (ws_ yX7_refusal cX7_refusal 2 (Option.some FieldType.int)) 2 43 [va_rf r0, .int p0] h0 (ovi x) h1 := by
  refine ct_of hl [some (va_rf r0), some (.int p0)] (by decide) (by rw [lgl]; simp [va_rf_cat, cat_i, cat_l]) (by simp [lv_args, vsL, va_rf_cat, cat_i, cat_l]) (fun Γ => ?_)
  obtain ⟨o, ho⟩ : ∃ o : Int32 × PH, o = (x, h1) := ⟨_, rfl⟩
  rw [← ho] at hf
  have e1 : x = o.1 := by rw [ho]
  have e2 : h1 = o.2 := by rw [ho]
  subst e1 e2
  clear ho
  show PF Γ mi_X7_refusal D h0 (QR Γ D h0 (ovi o.1) o.2) h0 0 [some (va_rf r0), some (.int p0)] []
  unfold f_X7_refusal at hf
  refine j_aload_n 0 dX7_refusal_0 rfl rfl ?_
  refine j_iload_n 1 dX7_refusal_1 rfl rfl ?_
  refine j_iconst (3 : Int32) dX7_refusal_2 (by decide) ?_
  refine kc_X7_152 rfl rfl rfl (by decide) dX7_refusal_3 hf (fun v2 h1 hf => ?_)
  refine j_if_ne 14 dX7_refusal_6 (by decide) hf (fun c_ hf => ?_) (fun c_ hf => ?_)
  · refine j_aload_n 0 dX7_refusal_14 rfl rfl ?_
    refine j_iload_n 1 dX7_refusal_15 rfl rfl ?_
    refine kc_X7_229 rfl rfl rfl (by decide) dX7_refusal_16 hf (fun v4 h3 hf => ?_)
    refine j_if_eq 27 dX7_refusal_19 (by decide) hf (fun c_ hf => ?_) (fun c_ hf => ?_)
    · refine j_iconst (0 : Int32) dX7_refusal_27 (by decide) ?_
      refine j_weak [none, none] (Wk.s (Wk.s Wk.n)) ?_
      exact pf_X7_refusal_B28 (0 : Int32) h3 hf
    · refine j_bipush (-2 : Int32) dX7_refusal_22 (by decide) ?_
      refine j_goto 28 dX7_refusal_24 (by decide) ?_
      refine j_weak [none, none] (Wk.s (Wk.s Wk.n)) ?_
      exact pf_X7_refusal_B28 (-2 : Int32) h3 hf
  · refine j_bipush (-3 : Int32) dX7_refusal_9 (by decide) ?_
    refine j_goto 28 dX7_refusal_11 (by decide) ?_
    refine j_weak [none, none] (Wk.s (Wk.s Wk.n)) ?_
    exact pf_X7_refusal_B28 (-3 : Int32) h1 hf
theorem kc_X7_172 {Γ : GX} {I : MI} {D : va_G} {h0 : PH} {Q : State → Prop} {h : PH} {pc : Nat} {vs : List (Option Value)} {rest : List Value} {β : Type} {o : β} {r : Option Nat} {p0 : Int32} {K : ((Int32) → PH → Option β)} (hI : I.2.2.1 = RX7) (hfr : Nat.ble 2 I.2.2.2.2.2.1 = true) (hlo : Nat.ble 46 I.2.2.2.2.2.2.1 = true) (hW : (rest.map fun v => v.category).sum ≤ 8) (hd : decode I.1 pc = .ok (.invokevirtual 172, 3)) (hf : rv_ h r 6 (cl_ (f_X7_noNode r p0 h) K) = some o) (kk : ∀ (x : Int32) (h1 : PH), K x h1 = some o → PF Γ I D h0 Q h1 (pc + 3) vs (.int x :: rest)) : PF Γ I D h0 Q h pc vs (.int p0 :: va_rf r :: rest) := by
  obtain ⟨cc, nL, own, rt, xt, fr, lo, nm⟩ := I
  cases hI
  exact j_cVi (n := 1) (y := yX7_noNode) (cc2 := cX7_noNode) (As := [.int p0]) (C := RX7) (ci := 6) rfl (lw_V q2344 q2346 qs45 q117 q2347) hyV_X7_noNode hfr hlo rfl hW hd (c_X7_noNode r p0) hf _ rfl kk
theorem kc_X7_283 {Γ : GX} {I : MI} {D : va_G} {h0 : PH} {Q : State → Prop} {h : PH} {pc : Nat} {vs : List (Option Value)} {rest : List Value} {β : Type} {o : β} {r : Option Nat} {p0 : Int32} {K : ((Int32) → PH → Option β)} (hI : I.2.2.1 = RX7) (hfr : Nat.ble 3 I.2.2.2.2.2.1 = true) (hlo : Nat.ble 64 I.2.2.2.2.2.2.1 = true) (hW : (rest.map fun v => v.category).sum ≤ 8) (hd : decode I.1 pc = .ok (.invokevirtual 283, 3)) (hf : rv_ h r 6 (cl_ (f_X7_refusal r p0 h) K) = some o) (kk : ∀ (x : Int32) (h1 : PH), K x h1 = some o → PF Γ I D h0 Q h1 (pc + 3) vs (.int x :: rest)) : PF Γ I D h0 Q h pc vs (.int p0 :: va_rf r :: rest) := by
  obtain ⟨cc, nL, own, rt, xt, fr, lo, nm⟩ := I
  cases hI
  exact j_cVi (n := 1) (y := yX7_refusal) (cc2 := cX7_refusal) (As := [.int p0]) (C := RX7) (ci := 6) rfl (lw_V q2504 q2506 qs77 q117 q2507) hyV_X7_refusal hfr hlo rfl hW hd (c_X7_refusal r p0) hf _ rfl kk
theorem kc_X7_213 {Γ : GX} {I : MI} {D : va_G} {h0 : PH} {Q : State → Prop} {h : PH} {pc : Nat} {vs : List (Option Value)} {rest : List Value} {β : Type} {o : β} {r : Option Nat} {p0 : Int32} {K : ((Unit) → PH → Option β)} (hI : I.2.2.1 = RX7) (hfr : Nat.ble 2 I.2.2.2.2.2.1 = true) (hlo : Nat.ble 44 I.2.2.2.2.2.2.1 = true) (hW : (rest.map fun v => v.category).sum ≤ 8) (hd : decode I.1 pc = .ok (.invokevirtual 213, 3)) (hf : rv_ h r 6 (cl_ (f_X7_forgets r p0 h) K) = some o) (kk : ∀ (x : Unit) (h1 : PH), K x h1 = some o → PF Γ I D h0 Q h1 (pc + 3) vs (rest)) : PF Γ I D h0 Q h pc vs (.int p0 :: va_rf r :: rest) := by
  obtain ⟨cc, nL, own, rt, xt, fr, lo, nm⟩ := I
  cases hI
  exact j_cVv (n := 1) (y := yX7_forgets) (cc2 := cX7_forgets) (As := [.int p0]) (C := RX7) (ci := 6) rfl (lw_V q2472 q2474 qs71 q117 q2475) hyV_X7_forgets hfr hlo rfl hW hd (c_X7_forgets r p0) hf _ rfl kk
abbrev mi_X7_withdraw : MI := (cX7_withdraw, 3, RX7, (Option.some FieldType.int), [], 3, 64, "withdraw")
def f_X7_withdraw_B56 (x0 : Option Nat) (x1 : Int32) (x2 : Int32) (h : PH) : Option (Int32 × PH) := rv_ h x0 6 (cl_ (f_X7_forgets x0 x1 h) fun _u h12 => rv_ h12 x0 6 (cl_ (f_X7_puts x0 x1 (5 : Int32) (0 : Int32) h12) fun _u h13 => rv_ h13 x0 6 (cl_ (f_X7_puts x0 x1 (9 : Int32) (-1 : Int32) h13) fun _u h14 => some (x2, h14))))
theorem pf_X7_withdraw_B56 {Γ : GX} {D : va_G} {h0 : PH} {o : Int32 × PH} (x0 : Option Nat) (x1 : Int32) (x2 : Int32) (h : PH) (hf : f_X7_withdraw_B56 x0 x1 x2 h = some o) : PF Γ mi_X7_withdraw D h0 (QR Γ D h0 (ovi o.1) o.2) h 56 [some (va_rf x0), some (.int x1), some (.int x2)] [] := by
  refine j_aload_n 0 dX7_withdraw_56 rfl rfl ?_
  refine j_iload_n 1 dX7_withdraw_57 rfl rfl ?_
  refine kc_X7_213 rfl rfl rfl (by decide) dX7_withdraw_58 hf (fun _u h12 hf => ?_)
  refine j_aload_n 0 dX7_withdraw_61 rfl rfl ?_
  refine j_iload_n 1 dX7_withdraw_62 rfl rfl ?_
  refine j_iconst (5 : Int32) dX7_withdraw_63 (by decide) ?_
  refine j_iconst (0 : Int32) dX7_withdraw_64 (by decide) ?_
  refine kc_X7_169 rfl rfl rfl (by decide) dX7_withdraw_65 hf (fun _u h13 hf => ?_)
  refine j_aload_n 0 dX7_withdraw_68 rfl rfl ?_
  refine j_iload_n 1 dX7_withdraw_69 rfl rfl ?_
  refine j_bipush (9 : Int32) dX7_withdraw_70 (by decide) ?_
  refine j_iconst (-1 : Int32) dX7_withdraw_72 (by decide) ?_
  refine kc_X7_169 rfl rfl rfl (by decide) dX7_withdraw_73 hf (fun _u h14 hf => ?_)
  refine j_iload_n 2 dX7_withdraw_76 rfl rfl ?_
  have e9 := Option.some.inj hf
  subst e9
  exact j_iret rfl dX7_withdraw_77
def f_X7_withdraw (r0 : Option Nat) (p0 : Int32) (h0 : PH) : Option (Int32 × PH) := rv_ h0 r0 6 (cl_ (f_X7_noNode r0 p0 h0) fun v2 h1 => (if v2 = 0 then (rv_ h1 r0 6 (cl_ (f_X7_refusal r0 p0 h1) fun v4 h3 => (if v4 = 0 then (rv_ h3 r0 6 (cl_ (f_X7_of r0 p0 (5 : Int32) h3) fun v6 h5 => (if v6 = 0 then (some ((0 : Int32), h5)) else (rv_ h5 r0 6 (cl_ (f_X7_of r0 p0 (7 : Int32) h5) fun v8 h7 => (if v8 = 0 then (f_X7_withdraw_B56 r0 p0 v8 h7) else (rv_ h7 r0 6 (cl_ (f_X7_sends r0 (2 : Int32) p0 v8 (0 : Int32) (0 : Int32) h7) fun _u h9 => f_X7_withdraw_B56 r0 p0 v8 h9)))))))) else (rv_ h3 r0 6 (cl_ (f_X7_refusal r0 p0 h3) fun v11 h10 => some (v11, h10)))))) else (some ((0 : Int32), h1))))
theorem hyS_X7_withdraw : yX7_withdraw.cls ≠ "java/lang/invoke/MethodHandle" ∧ yX7_withdraw.cls ≠ "java/lang/invoke/VarHandle" ∧ (parseMethodDescriptor yX7_withdraw.desc).map (fun d => d.parameters.length) = some 1 := by decide +kernel
theorem hyV_X7_withdraw : yX7_withdraw.cls = RX7 ∧ yX7_withdraw.cls ≠ "java/lang/invoke/MethodHandle" ∧ yX7_withdraw.cls ≠ "java/lang/invoke/VarHandle" ∧ (parseMethodDescriptor yX7_withdraw.desc).map (fun d => d.parameters.length) = some 1 := by decide +kernel
theorem c_X7_withdraw {D : va_G} (r0 : Option Nat) (p0 : Int32) {h0 : PH} (l : Launch) (hl : l.stackTraces = false) (x : Int32) (h1 : PH) (hf : f_X7_withdraw r0 p0 h0 = some (x, h1)) : CT l D yX7_withdraw (ws_ yX7_withdraw cX7_withdraw 3 (Option.some FieldType.int)) 3 64 [va_rf r0, .int p0] h0 (ovi x) h1 := by
  refine ct_of hl [some (va_rf r0), some (.int p0), none] (by decide) (by rw [lgl]; simp [va_rf_cat, cat_i, cat_l]) (by simp [lv_args, vsL, va_rf_cat, cat_i, cat_l]) (fun Γ => ?_)
  obtain ⟨o, ho⟩ : ∃ o : Int32 × PH, o = (x, h1) := ⟨_, rfl⟩
  rw [← ho] at hf
  have e1 : x = o.1 := by rw [ho]
  have e2 : h1 = o.2 := by rw [ho]
  subst e1 e2
  clear ho
  show PF Γ mi_X7_withdraw D h0 (QR Γ D h0 (ovi o.1) o.2) h0 0 [some (va_rf r0), some (.int p0), none] []
  unfold f_X7_withdraw at hf
  refine j_aload_n 0 dX7_withdraw_0 rfl rfl ?_
  refine j_iload_n 1 dX7_withdraw_1 rfl rfl ?_
  refine kc_X7_172 rfl rfl rfl (by decide) dX7_withdraw_2 hf (fun v2 h1 hf => ?_)
  refine j_if_eq 10 dX7_withdraw_5 (by decide) hf (fun c_ hf => ?_) (fun c_ hf => ?_)
  · refine j_aload_n 0 dX7_withdraw_10 rfl rfl ?_
    refine j_iload_n 1 dX7_withdraw_11 rfl rfl ?_
    refine kc_X7_283 rfl rfl rfl (by decide) dX7_withdraw_12 hf (fun v4 h3 hf => ?_)
    refine j_if_eq 24 dX7_withdraw_15 (by decide) hf (fun c_ hf => ?_) (fun c_ hf => ?_)
    · refine j_aload_n 0 dX7_withdraw_24 rfl rfl ?_
      refine j_iload_n 1 dX7_withdraw_25 rfl rfl ?_
      refine j_iconst (5 : Int32) dX7_withdraw_26 (by decide) ?_
      refine kc_X7_152 rfl rfl rfl (by decide) dX7_withdraw_27 hf (fun v6 h5 hf => ?_)
      refine j_if_ne 35 dX7_withdraw_30 (by decide) hf (fun c_ hf => ?_) (fun c_ hf => ?_)
      · refine j_aload_n 0 dX7_withdraw_35 rfl rfl ?_
        refine j_iload_n 1 dX7_withdraw_36 rfl rfl ?_
        refine j_bipush (7 : Int32) dX7_withdraw_37 (by decide) ?_
        refine kc_X7_152 rfl rfl rfl (by decide) dX7_withdraw_39 hf (fun v8 h7 hf => ?_)
        refine j_istore_n 2 [some (va_rf r0), some (.int p0), some (.int v8)] dX7_withdraw_42 rfl (cz rfl) rfl rfl ?_
        refine j_iload_n 2 dX7_withdraw_43 rfl rfl ?_
        refine j_if_eq 56 dX7_withdraw_44 (by decide) hf (fun c_ hf => ?_) (fun c_ hf => ?_)
        · exact pf_X7_withdraw_B56 r0 p0 v8 h7 hf
        · refine j_aload_n 0 dX7_withdraw_47 rfl rfl ?_
          refine j_iconst (2 : Int32) dX7_withdraw_48 (by decide) ?_
          refine j_iload_n 1 dX7_withdraw_49 rfl rfl ?_
          refine j_iload_n 2 dX7_withdraw_50 rfl rfl ?_
          refine j_iconst (0 : Int32) dX7_withdraw_51 (by decide) ?_
          refine j_iconst (0 : Int32) dX7_withdraw_52 (by decide) ?_
          refine kc_X7_189 rfl rfl rfl (by decide) dX7_withdraw_53 hf (fun _u h9 hf => ?_)
          exact pf_X7_withdraw_B56 r0 p0 v8 h9 hf
      · refine j_iconst (0 : Int32) dX7_withdraw_33 (by decide) ?_
        have e9 := Option.some.inj hf
        subst e9
        exact j_iret rfl dX7_withdraw_34
    · refine j_aload_n 0 dX7_withdraw_18 rfl rfl ?_
      refine j_iload_n 1 dX7_withdraw_19 rfl rfl ?_
      refine kc_X7_283 rfl rfl rfl (by decide) dX7_withdraw_20 hf (fun v11 h10 hf => ?_)
      have e9 := Option.some.inj hf
      subst e9
      exact j_iret rfl dX7_withdraw_23
  · refine j_iconst (0 : Int32) dX7_withdraw_8 (by decide) ?_
    have e9 := Option.some.inj hf
    subst e9
    exact j_iret rfl dX7_withdraw_9
abbrev mi_X7_crash : MI := (cX7_crash, 3, RX7, (Option.some FieldType.int), [], 2, 46, "crash")
def f_X7_crash (r0 : Option Nat) (p0 : Int32) (h0 : PH) : Option (Int32 × PH) := rv_ h0 r0 6 (cl_ (f_X7_noNode r0 p0 h0) fun v2 h1 => (if v2 = 0 then (rv_ h1 r0 6 (cl_ (f_X7_of r0 p0 (3 : Int32) h1) fun v4 h3 => (if v4 = 0 then (some ((-3 : Int32), h3)) else (rv_ h3 r0 6 (cl_ (f_X7_of r0 p0 (7 : Int32) h3) fun v6 h5 => rv_ h5 r0 6 (cl_ (f_X7_logs r0 (7 : Int32) p0 v6 h5) fun _u h7 => rv_ h7 r0 6 (cl_ (f_X7_forgets r0 p0 h7) fun _u h8 => rv_ h8 r0 6 (cl_ (f_X7_puts r0 p0 (3 : Int32) (0 : Int32) h8) fun _u h9 => rv_ h9 r0 6 (cl_ (f_X7_puts r0 p0 (9 : Int32) (-1 : Int32) h9) fun _u h10 => rv_ h10 r0 6 (cl_ (f_X7_puts r0 p0 (4 : Int32) (0 : Int32) h10) fun _u h11 => rv_ h11 r0 6 (cl_ (f_X7_puts r0 p0 (5 : Int32) (0 : Int32) h11) fun _u h12 => some (v6, h12)))))))))))) else (some ((0 : Int32), h1))))
theorem hyS_X7_crash : yX7_crash.cls ≠ "java/lang/invoke/MethodHandle" ∧ yX7_crash.cls ≠ "java/lang/invoke/VarHandle" ∧ (parseMethodDescriptor yX7_crash.desc).map (fun d => d.parameters.length) = some 1 := by decide +kernel
theorem hyV_X7_crash : yX7_crash.cls = RX7 ∧ yX7_crash.cls ≠ "java/lang/invoke/MethodHandle" ∧ yX7_crash.cls ≠ "java/lang/invoke/VarHandle" ∧ (parseMethodDescriptor yX7_crash.desc).map (fun d => d.parameters.length) = some 1 := by decide +kernel
theorem c_X7_crash {D : va_G} (r0 : Option Nat) (p0 : Int32) {h0 : PH} (l : Launch) (hl : l.stackTraces = false) (x : Int32) (h1 : PH) (hf : f_X7_crash r0 p0 h0 = some (x, h1)) : CT l D yX7_crash (ws_ yX7_crash cX7_crash 3 (Option.some FieldType.int)) 2 46 [va_rf r0, .int p0] h0 (ovi x) h1 := by
  refine ct_of hl [some (va_rf r0), some (.int p0), none] (by decide) (by rw [lgl]; simp [va_rf_cat, cat_i, cat_l]) (by simp [lv_args, vsL, va_rf_cat, cat_i, cat_l]) (fun Γ => ?_)
  obtain ⟨o, ho⟩ : ∃ o : Int32 × PH, o = (x, h1) := ⟨_, rfl⟩
  rw [← ho] at hf
  have e1 : x = o.1 := by rw [ho]
  have e2 : h1 = o.2 := by rw [ho]
  subst e1 e2
  clear ho
  show PF Γ mi_X7_crash D h0 (QR Γ D h0 (ovi o.1) o.2) h0 0 [some (va_rf r0), some (.int p0), none] []
  unfold f_X7_crash at hf
  refine j_aload_n 0 dX7_crash_0 rfl rfl ?_
  refine j_iload_n 1 dX7_crash_1 rfl rfl ?_
  refine kc_X7_172 rfl rfl rfl (by decide) dX7_crash_2 hf (fun v2 h1 hf => ?_)
  refine j_if_eq 10 dX7_crash_5 (by decide) hf (fun c_ hf => ?_) (fun c_ hf => ?_)
  · refine j_aload_n 0 dX7_crash_10 rfl rfl ?_
    refine j_iload_n 1 dX7_crash_11 rfl rfl ?_
    refine j_iconst (3 : Int32) dX7_crash_12 (by decide) ?_
    refine kc_X7_152 rfl rfl rfl (by decide) dX7_crash_13 hf (fun v4 h3 hf => ?_)
    refine j_if_ne 22 dX7_crash_16 (by decide) hf (fun c_ hf => ?_) (fun c_ hf => ?_)
    · refine j_aload_n 0 dX7_crash_22 rfl rfl ?_
      refine j_iload_n 1 dX7_crash_23 rfl rfl ?_
      refine j_bipush (7 : Int32) dX7_crash_24 (by decide) ?_
      refine kc_X7_152 rfl rfl rfl (by decide) dX7_crash_26 hf (fun v6 h5 hf => ?_)
      refine j_istore_n 2 [some (va_rf r0), some (.int p0), some (.int v6)] dX7_crash_29 rfl (cz rfl) rfl rfl ?_
      refine j_aload_n 0 dX7_crash_30 rfl rfl ?_
      refine j_bipush (7 : Int32) dX7_crash_31 (by decide) ?_
      refine j_iload_n 1 dX7_crash_33 rfl rfl ?_
      refine j_iload_n 2 dX7_crash_34 rfl rfl ?_
      refine kc_X7_219 rfl rfl rfl (by decide) dX7_crash_35 hf (fun _u h7 hf => ?_)
      refine j_aload_n 0 dX7_crash_38 rfl rfl ?_
      refine j_iload_n 1 dX7_crash_39 rfl rfl ?_
      refine kc_X7_213 rfl rfl rfl (by decide) dX7_crash_40 hf (fun _u h8 hf => ?_)
      refine j_aload_n 0 dX7_crash_43 rfl rfl ?_
      refine j_iload_n 1 dX7_crash_44 rfl rfl ?_
      refine j_iconst (3 : Int32) dX7_crash_45 (by decide) ?_
      refine j_iconst (0 : Int32) dX7_crash_46 (by decide) ?_
      refine kc_X7_169 rfl rfl rfl (by decide) dX7_crash_47 hf (fun _u h9 hf => ?_)
      refine j_aload_n 0 dX7_crash_50 rfl rfl ?_
      refine j_iload_n 1 dX7_crash_51 rfl rfl ?_
      refine j_bipush (9 : Int32) dX7_crash_52 (by decide) ?_
      refine j_iconst (-1 : Int32) dX7_crash_54 (by decide) ?_
      refine kc_X7_169 rfl rfl rfl (by decide) dX7_crash_55 hf (fun _u h10 hf => ?_)
      refine j_aload_n 0 dX7_crash_58 rfl rfl ?_
      refine j_iload_n 1 dX7_crash_59 rfl rfl ?_
      refine j_iconst (4 : Int32) dX7_crash_60 (by decide) ?_
      refine j_iconst (0 : Int32) dX7_crash_61 (by decide) ?_
      refine kc_X7_169 rfl rfl rfl (by decide) dX7_crash_62 hf (fun _u h11 hf => ?_)
      refine j_aload_n 0 dX7_crash_65 rfl rfl ?_
      refine j_iload_n 1 dX7_crash_66 rfl rfl ?_
      refine j_iconst (5 : Int32) dX7_crash_67 (by decide) ?_
      refine j_iconst (0 : Int32) dX7_crash_68 (by decide) ?_
      refine kc_X7_169 rfl rfl rfl (by decide) dX7_crash_69 hf (fun _u h12 hf => ?_)
      refine j_iload_n 2 dX7_crash_72 rfl rfl ?_
      have e9 := Option.some.inj hf
      subst e9
      exact j_iret rfl dX7_crash_73
    · refine j_bipush (-3 : Int32) dX7_crash_19 (by decide) ?_
      have e9 := Option.some.inj hf
      subst e9
      exact j_iret rfl dX7_crash_21
  · refine j_iconst (0 : Int32) dX7_crash_8 (by decide) ?_
    have e9 := Option.some.inj hf
    subst e9
    exact j_iret rfl dX7_crash_9
abbrev mi_X7_restart : MI := (cX7_restart, 2, RX7, (Option.some FieldType.boolean), [], 2, 46, "restart")
def f_X7_restart_B18  (h : PH) : Option (Int32 × PH) := rN .boolean (0 : Int32) (fun v => v) h
theorem pf_X7_restart_B18 {Γ : GX} {D : va_G} {h0 : PH} {o : Int32 × PH}  (h : PH) (hf : f_X7_restart_B18  h = some o) : PF Γ mi_X7_restart D h0 (QR Γ D h0 (ovi o.1) o.2) h 18 [none, none] [] := by
  refine j_iconst (0 : Int32) dX7_restart_18 (by decide) ?_
  obtain ⟨hn9, hf⟩ := rN_in hf
  subst hf
  exact j_zret rfl (nar_z _ hn9) dX7_restart_19
def f_X7_restart (r0 : Option Nat) (p0 : Int32) (h0 : PH) : Option (Int32 × PH) := rv_ h0 r0 6 (cl_ (f_X7_noNode r0 p0 h0) fun v2 h1 => (if v2 = 0 then (rv_ h1 r0 6 (cl_ (f_X7_of r0 p0 (3 : Int32) h1) fun v4 h3 => (if v4 = (1 : Int32) then (f_X7_restart_B18 h3) else (rv_ h3 r0 6 (cl_ (f_X7_puts r0 p0 (3 : Int32) (1 : Int32) h3) fun _u h5 => rN .boolean (1 : Int32) (fun v => v) h5))))) else (f_X7_restart_B18 h1)))
theorem hyS_X7_restart : yX7_restart.cls ≠ "java/lang/invoke/MethodHandle" ∧ yX7_restart.cls ≠ "java/lang/invoke/VarHandle" ∧ (parseMethodDescriptor yX7_restart.desc).map (fun d => d.parameters.length) = some 1 := by decide +kernel
theorem hyV_X7_restart : yX7_restart.cls = RX7 ∧ yX7_restart.cls ≠ "java/lang/invoke/MethodHandle" ∧ yX7_restart.cls ≠ "java/lang/invoke/VarHandle" ∧ (parseMethodDescriptor yX7_restart.desc).map (fun d => d.parameters.length) = some 1 := by decide +kernel
theorem c_X7_restart {D : va_G} (r0 : Option Nat) (p0 : Int32) {h0 : PH} (l : Launch) (hl : l.stackTraces = false) (x : Int32) (h1 : PH) (hf : f_X7_restart r0 p0 h0 = some (x, h1)) : CT l D yX7_restart (ws_ yX7_restart cX7_restart 2 (Option.some FieldType.boolean)) 2 46 [va_rf r0, .int p0] h0 (ovi x) h1 := by
  refine ct_of hl [some (va_rf r0), some (.int p0)] (by decide) (by rw [lgl]; simp [va_rf_cat, cat_i, cat_l]) (by simp [lv_args, vsL, va_rf_cat, cat_i, cat_l]) (fun Γ => ?_)
  obtain ⟨o, ho⟩ : ∃ o : Int32 × PH, o = (x, h1) := ⟨_, rfl⟩
  rw [← ho] at hf
  have e1 : x = o.1 := by rw [ho]
  have e2 : h1 = o.2 := by rw [ho]
  subst e1 e2
  clear ho
  show PF Γ mi_X7_restart D h0 (QR Γ D h0 (ovi o.1) o.2) h0 0 [some (va_rf r0), some (.int p0)] []
  unfold f_X7_restart at hf
  refine j_aload_n 0 dX7_restart_0 rfl rfl ?_
  refine j_iload_n 1 dX7_restart_1 rfl rfl ?_
  refine kc_X7_172 rfl rfl rfl (by decide) dX7_restart_2 hf (fun v2 h1 hf => ?_)
  refine j_if_ne 18 dX7_restart_5 (by decide) hf (fun c_ hf => ?_) (fun c_ hf => ?_)
  · refine j_weak [none, none] (Wk.s (Wk.s Wk.n)) ?_
    exact pf_X7_restart_B18  h1 hf
  · refine j_aload_n 0 dX7_restart_8 rfl rfl ?_
    refine j_iload_n 1 dX7_restart_9 rfl rfl ?_
    refine j_iconst (3 : Int32) dX7_restart_10 (by decide) ?_
    refine kc_X7_152 rfl rfl rfl (by decide) dX7_restart_11 hf (fun v4 h3 hf => ?_)
    refine j_iconst (1 : Int32) dX7_restart_14 (by decide) ?_
    refine j_icmp_ne 20 dX7_restart_15 (by decide) hf (fun c_ hf => ?_) (fun c_ hf => ?_)
    · refine j_aload_n 0 dX7_restart_20 rfl rfl ?_
      refine j_iload_n 1 dX7_restart_21 rfl rfl ?_
      refine j_iconst (3 : Int32) dX7_restart_22 (by decide) ?_
      refine j_iconst (1 : Int32) dX7_restart_23 (by decide) ?_
      refine kc_X7_169 rfl rfl rfl (by decide) dX7_restart_24 hf (fun _u h5 hf => ?_)
      refine j_iconst (1 : Int32) dX7_restart_27 (by decide) ?_
      obtain ⟨hn9, hf⟩ := rN_in hf
      subst hf
      exact j_zret rfl (nar_z _ hn9) dX7_restart_28
    · refine j_weak [none, none] (Wk.s (Wk.s Wk.n)) ?_
      exact pf_X7_restart_B18  h3 hf
abbrev mi_X7_pause : MI := (cX7_pause, 3, RX7, (Option.some FieldType.int), [], 2, 46, "pause")
def f_X7_pause_B33  (h : PH) : Option (Int32 × PH) := some ((0 : Int32), h)
theorem pf_X7_pause_B33 {Γ : GX} {D : va_G} {h0 : PH} {o : Int32 × PH}  (h : PH) (hf : f_X7_pause_B33  h = some o) : PF Γ mi_X7_pause D h0 (QR Γ D h0 (ovi o.1) o.2) h 33 [none, none, none] [] := by
  refine j_iconst (0 : Int32) dX7_pause_33 (by decide) ?_
  have e9 := Option.some.inj hf
  subst e9
  exact j_iret rfl dX7_pause_34
def f_X7_pause_B26 (x0 : Option Nat) (x1 : Int32) (x2 : Int32) (t0 : Option Nat) (t1 : Int32) (h : PH) : Option (Int32 × PH) := rv_ h t0 6 (cl_ (f_X7_throwsIf t0 t1 (2 : Int32) h) fun v6 h5 => (if v6 = 0 then (rv_ h5 x0 6 (cl_ (f_X7_of x0 x1 (3 : Int32) h5) fun v8 h7 => (if v8 = 0 then (some ((-3 : Int32), h7)) else (rv_ h7 x0 6 (cl_ (f_X7_of x0 x1 (4 : Int32) h7) fun v10 h9 => gR h9 x0 6 0 fun r11 => aI h9 r11 0 (0 : Int32) fun v12 => rv_ h9 x0 6 (cl_ (f_X7_puts x0 x1 (4 : Int32) (if v10 < (v12 + x2) then (v12 + x2) else v10) h9) fun _u h13 => rv_ h13 x0 6 (cl_ (f_X7_of x0 x1 (4 : Int32) h13) fun v15 h14 => some (v15, h14)))))))) else (f_X7_pause_B33 h5)))
theorem pf_X7_pause_B26 {Γ : GX} {D : va_G} {h0 : PH} {o : Int32 × PH} (x0 : Option Nat) (x1 : Int32) (x2 : Int32) (t0 : Option Nat) (t1 : Int32) (h : PH) (hf : f_X7_pause_B26 x0 x1 x2 t0 t1 h = some o) : PF Γ mi_X7_pause D h0 (QR Γ D h0 (ovi o.1) o.2) h 26 [some (va_rf x0), some (.int x1), some (.int x2)] [.int t1, va_rf t0] := by
  refine j_iconst (2 : Int32) dX7_pause_26 (by decide) ?_
  refine kc_X7_72 rfl rfl rfl (by decide) dX7_pause_27 hf (fun v6 h5 hf => ?_)
  refine j_if_eq 35 dX7_pause_30 (by decide) hf (fun c_ hf => ?_) (fun c_ hf => ?_)
  · refine j_aload_n 0 dX7_pause_35 rfl rfl ?_
    refine j_iload_n 1 dX7_pause_36 rfl rfl ?_
    refine j_iconst (3 : Int32) dX7_pause_37 (by decide) ?_
    refine kc_X7_152 rfl rfl rfl (by decide) dX7_pause_38 hf (fun v8 h7 hf => ?_)
    refine j_if_ne 47 dX7_pause_41 (by decide) hf (fun c_ hf => ?_) (fun c_ hf => ?_)
    · refine j_aload_n 0 dX7_pause_47 rfl rfl ?_
      refine j_iload_n 1 dX7_pause_48 rfl rfl ?_
      refine j_iconst (4 : Int32) dX7_pause_49 (by decide) ?_
      refine j_aload_n 0 dX7_pause_50 rfl rfl ?_
      refine j_iload_n 1 dX7_pause_51 rfl rfl ?_
      refine j_iconst (4 : Int32) dX7_pause_52 (by decide) ?_
      refine kc_X7_152 rfl rfl rfl (by simp [va_rf_cat, cat_i, cat_l]) dX7_pause_53 hf (fun v10 h9 hf => ?_)
      refine j_aload_n 0 dX7_pause_56 rfl rfl ?_
      refine j_gR (ci := 6) (k := 0) rfl in_X7 rfl q2202 dX7_pause_57 hf (fun r11 hf => ?_)
      refine j_iconst (0 : Int32) dX7_pause_60 (by decide) ?_
      refine j_iald dX7_pause_61 hf (fun v12 hf => ?_)
      refine j_iload_n 2 dX7_pause_62 rfl rfl ?_
      refine j_iadd dX7_pause_63 ?_
      refine j_mmax q2407 q288 q106 q289 rfl rfl (by simp [va_rf_cat, cat_i, cat_l]) dX7_pause_64 ?_
      refine kc_X7_169 rfl rfl rfl (by decide) dX7_pause_67 hf (fun _u h13 hf => ?_)
      refine j_aload_n 0 dX7_pause_70 rfl rfl ?_
      refine j_iload_n 1 dX7_pause_71 rfl rfl ?_
      refine j_iconst (4 : Int32) dX7_pause_72 (by decide) ?_
      refine kc_X7_152 rfl rfl rfl (by decide) dX7_pause_73 hf (fun v15 h14 hf => ?_)
      have e9 := Option.some.inj hf
      subst e9
      exact j_iret rfl dX7_pause_76
    · refine j_bipush (-3 : Int32) dX7_pause_44 (by decide) ?_
      have e9 := Option.some.inj hf
      subst e9
      exact j_iret rfl dX7_pause_46
  · refine j_weak [none, none, none] (Wk.s (Wk.s (Wk.s Wk.n))) ?_
    exact pf_X7_pause_B33  h5 hf
def f_X7_pause (r0 : Option Nat) (p0 : Int32) (p1 : Int32) (h0 : PH) : Option (Int32 × PH) := rv_ h0 r0 6 (cl_ (f_X7_noNode r0 p0 h0) fun v2 h1 => (if v2 = 0 then (cl_ (f_X7_in (p1.toInt64) (1 : Int64) (20000 : Int64) h1) fun v4 h3 => (if v4 = 0 then (f_X7_pause_B26 r0 p0 p1 r0 (1 : Int32) h3) else (f_X7_pause_B26 r0 p0 p1 r0 (0 : Int32) h3))) else (f_X7_pause_B33 h1)))
theorem hyS_X7_pause : yX7_pause.cls ≠ "java/lang/invoke/MethodHandle" ∧ yX7_pause.cls ≠ "java/lang/invoke/VarHandle" ∧ (parseMethodDescriptor yX7_pause.desc).map (fun d => d.parameters.length) = some 2 := by decide +kernel
theorem hyV_X7_pause : yX7_pause.cls = RX7 ∧ yX7_pause.cls ≠ "java/lang/invoke/MethodHandle" ∧ yX7_pause.cls ≠ "java/lang/invoke/VarHandle" ∧ (parseMethodDescriptor yX7_pause.desc).map (fun d => d.parameters.length) = some 2 := by decide +kernel
theorem c_X7_pause {D : va_G} (r0 : Option Nat) (p0 : Int32) (p1 : Int32) {h0 : PH} (l : Launch) (hl : l.stackTraces = false) (x : Int32) (h1 : PH) (hf : f_X7_pause r0 p0 p1 h0 = some (x, h1)) : CT l D yX7_pause (ws_ yX7_pause cX7_pause 3 (Option.some FieldType.int)) 2 46 [va_rf r0, .int p0, .int p1] h0 (ovi x) h1 := by
  refine ct_of hl [some (va_rf r0), some (.int p0), some (.int p1)] (by decide) (by rw [lgl]; simp [va_rf_cat, cat_i, cat_l]) (by simp [lv_args, vsL, va_rf_cat, cat_i, cat_l]) (fun Γ => ?_)
  obtain ⟨o, ho⟩ : ∃ o : Int32 × PH, o = (x, h1) := ⟨_, rfl⟩
  rw [← ho] at hf
  have e1 : x = o.1 := by rw [ho]
  have e2 : h1 = o.2 := by rw [ho]
  subst e1 e2
  clear ho
  show PF Γ mi_X7_pause D h0 (QR Γ D h0 (ovi o.1) o.2) h0 0 [some (va_rf r0), some (.int p0), some (.int p1)] []
  unfold f_X7_pause at hf
  refine j_aload_n 0 dX7_pause_0 rfl rfl ?_
  refine j_iload_n 1 dX7_pause_1 rfl rfl ?_
  refine kc_X7_172 rfl rfl rfl (by decide) dX7_pause_2 hf (fun v2 h1 hf => ?_)
  refine j_if_ne 33 dX7_pause_5 (by decide) hf (fun c_ hf => ?_) (fun c_ hf => ?_)
  · refine j_weak [none, none, none] (Wk.s (Wk.s (Wk.s Wk.n))) ?_
    exact pf_X7_pause_B33  h1 hf
  · refine j_aload_n 0 dX7_pause_8 rfl rfl ?_
    refine j_iload_n 2 dX7_pause_9 rfl rfl ?_
    refine j_i2l dX7_pause_10 ?_
    refine j_lconst (1 : Int64) dX7_pause_11 (by decide) ?_
    refine j_ldc2 q2524 dX7_pause_12 ?_
    refine kc_X7_68 rfl rfl rfl (by simp [va_rf_cat, cat_i, cat_l]) dX7_pause_15 hf (fun v4 h3 hf => ?_)
    refine j_if_ne 25 dX7_pause_18 (by decide) hf (fun c_ hf => ?_) (fun c_ hf => ?_)
    · refine j_iconst (0 : Int32) dX7_pause_25 (by decide) ?_
      exact pf_X7_pause_B26 r0 p0 p1 r0 (0 : Int32) h3 hf
    · refine j_iconst (1 : Int32) dX7_pause_21 (by decide) ?_
      refine j_goto 26 dX7_pause_22 (by decide) ?_
      exact pf_X7_pause_B26 r0 p0 p1 r0 (1 : Int32) h3 hf
abbrev mi_X7_setCut : MI := (cX7_setCut, 4, RX7, (Option.some FieldType.boolean), [], 2, 46, "setCut")
def f_X7_setCut_B40 (x3 : Int32) (t0 : Option Nat) (t1 : Int32) (t2 : Int32) (t3 : Int32) (h : PH) : Option (Int32 × PH) := rv_ h t0 6 (cl_ (f_X7_puts t0 t1 t2 t3 h) fun _u h5 => rN .boolean x3 (fun v => v) h5)
theorem pf_X7_setCut_B40 {Γ : GX} {D : va_G} {h0 : PH} {o : Int32 × PH} (x3 : Int32) (t0 : Option Nat) (t1 : Int32) (t2 : Int32) (t3 : Int32) (h : PH) (hf : f_X7_setCut_B40 x3 t0 t1 t2 t3 h = some o) : PF Γ mi_X7_setCut D h0 (QR Γ D h0 (ovi o.1) o.2) h 40 [none, none, none, some (.int x3)] [.int t3, .int t2, .int t1, va_rf t0] := by
  refine kc_X7_169 rfl rfl rfl (by decide) dX7_setCut_40 hf (fun _u h5 hf => ?_)
  refine j_iload_n 3 dX7_setCut_43 rfl rfl ?_
  obtain ⟨hn9, hf⟩ := rN_in hf
  subst hf
  exact j_zret rfl (nar_z _ hn9) dX7_setCut_44
def f_X7_setCut_B26 (x0 : Option Nat) (x1 : Int32) (x2 : Int32) (t0 : Int32) (h : PH) : Option (Int32 × PH) := (if x2 = 0 then (f_X7_setCut_B40 t0 x0 x1 (6 : Int32) (0 : Int32) h) else (f_X7_setCut_B40 t0 x0 x1 (6 : Int32) (1 : Int32) h))
theorem pf_X7_setCut_B26 {Γ : GX} {D : va_G} {h0 : PH} {o : Int32 × PH} (x0 : Option Nat) (x1 : Int32) (x2 : Int32) (t0 : Int32) (h : PH) (hf : f_X7_setCut_B26 x0 x1 x2 t0 h = some o) : PF Γ mi_X7_setCut D h0 (QR Γ D h0 (ovi o.1) o.2) h 26 [some (va_rf x0), some (.int x1), some (.int x2), none] [.int t0] := by
  refine j_istore_n 3 [some (va_rf x0), some (.int x1), some (.int x2), some (.int t0)] dX7_setCut_26 rfl (cz rfl) rfl rfl ?_
  refine j_aload_n 0 dX7_setCut_27 rfl rfl ?_
  refine j_iload_n 1 dX7_setCut_28 rfl rfl ?_
  refine j_bipush (6 : Int32) dX7_setCut_29 (by decide) ?_
  refine j_iload_n 2 dX7_setCut_31 rfl rfl ?_
  refine j_if_eq 39 dX7_setCut_32 (by decide) hf (fun c_ hf => ?_) (fun c_ hf => ?_)
  · refine j_iconst (0 : Int32) dX7_setCut_39 (by decide) ?_
    refine j_weak [none, none, none, some (.int t0)] (Wk.s (Wk.s (Wk.s (Wk.k Wk.n)))) ?_
    exact pf_X7_setCut_B40 t0 x0 x1 (6 : Int32) (0 : Int32) h hf
  · refine j_iconst (1 : Int32) dX7_setCut_35 (by decide) ?_
    refine j_goto 40 dX7_setCut_36 (by decide) ?_
    refine j_weak [none, none, none, some (.int t0)] (Wk.s (Wk.s (Wk.s (Wk.k Wk.n)))) ?_
    exact pf_X7_setCut_B40 t0 x0 x1 (6 : Int32) (1 : Int32) h hf
def f_X7_setCut (r0 : Option Nat) (p0 : Int32) (p1 : Int32) (h0 : PH) : Option (Int32 × PH) := rv_ h0 r0 6 (cl_ (f_X7_noNode r0 p0 h0) fun v2 h1 => (if v2 = 0 then (rv_ h1 r0 6 (cl_ (f_X7_of r0 p0 (6 : Int32) h1) fun v4 h3 => (if v4 = (1 : Int32) then (f_X7_setCut_B26 r0 p0 p1 (1 : Int32) h3) else (f_X7_setCut_B26 r0 p0 p1 (0 : Int32) h3)))) else (rN .boolean (0 : Int32) (fun v => v) h1)))
theorem hyS_X7_setCut : yX7_setCut.cls ≠ "java/lang/invoke/MethodHandle" ∧ yX7_setCut.cls ≠ "java/lang/invoke/VarHandle" ∧ (parseMethodDescriptor yX7_setCut.desc).map (fun d => d.parameters.length) = some 2 := by decide +kernel
theorem hyV_X7_setCut : yX7_setCut.cls = RX7 ∧ yX7_setCut.cls ≠ "java/lang/invoke/MethodHandle" ∧ yX7_setCut.cls ≠ "java/lang/invoke/VarHandle" ∧ (parseMethodDescriptor yX7_setCut.desc).map (fun d => d.parameters.length) = some 2 := by decide +kernel
theorem c_X7_setCut {D : va_G} (r0 : Option Nat) (p0 : Int32) (p1 : Int32) {h0 : PH} (l : Launch) (hl : l.stackTraces = false) (x : Int32) (h1 : PH) (hf : f_X7_setCut r0 p0 p1 h0 = some (x, h1)) : CT l D yX7_setCut (ws_ yX7_setCut cX7_setCut 4 (Option.some FieldType.boolean)) 2 46 [va_rf r0, .int p0, .int p1] h0 (ovi x) h1 := by
  refine ct_of hl [some (va_rf r0), some (.int p0), some (.int p1), none] (by decide) (by rw [lgl]; simp [va_rf_cat, cat_i, cat_l]) (by simp [lv_args, vsL, va_rf_cat, cat_i, cat_l]) (fun Γ => ?_)
  obtain ⟨o, ho⟩ : ∃ o : Int32 × PH, o = (x, h1) := ⟨_, rfl⟩
  rw [← ho] at hf
  have e1 : x = o.1 := by rw [ho]
  have e2 : h1 = o.2 := by rw [ho]
  subst e1 e2
  clear ho
  show PF Γ mi_X7_setCut D h0 (QR Γ D h0 (ovi o.1) o.2) h0 0 [some (va_rf r0), some (.int p0), some (.int p1), none] []
  unfold f_X7_setCut at hf
  refine j_aload_n 0 dX7_setCut_0 rfl rfl ?_
  refine j_iload_n 1 dX7_setCut_1 rfl rfl ?_
  refine kc_X7_172 rfl rfl rfl (by decide) dX7_setCut_2 hf (fun v2 h1 hf => ?_)
  refine j_if_eq 10 dX7_setCut_5 (by decide) hf (fun c_ hf => ?_) (fun c_ hf => ?_)
  · refine j_aload_n 0 dX7_setCut_10 rfl rfl ?_
    refine j_iload_n 1 dX7_setCut_11 rfl rfl ?_
    refine j_bipush (6 : Int32) dX7_setCut_12 (by decide) ?_
    refine kc_X7_152 rfl rfl rfl (by decide) dX7_setCut_14 hf (fun v4 h3 hf => ?_)
    refine j_iconst (1 : Int32) dX7_setCut_17 (by decide) ?_
    refine j_icmp_ne 25 dX7_setCut_18 (by decide) hf (fun c_ hf => ?_) (fun c_ hf => ?_)
    · refine j_iconst (0 : Int32) dX7_setCut_25 (by decide) ?_
      exact pf_X7_setCut_B26 r0 p0 p1 (0 : Int32) h3 hf
    · refine j_iconst (1 : Int32) dX7_setCut_21 (by decide) ?_
      refine j_goto 26 dX7_setCut_22 (by decide) ?_
      exact pf_X7_setCut_B26 r0 p0 p1 (1 : Int32) h3 hf
  · refine j_iconst (0 : Int32) dX7_setCut_8 (by decide) ?_
    obtain ⟨hn9, hf⟩ := rN_in hf
    subst hf
    exact j_zret rfl (nar_z _ hn9) dX7_setCut_9
abbrev mi_X7_planOutage : MI := (cX7_planOutage, 5, RX7, (Option.some FieldType.int), [], 2, 46, "planOutage")
def f_X7_planOutage_B45  (h : PH) : Option (Int32 × PH) := some ((0 : Int32), h)
theorem pf_X7_planOutage_B45 {Γ : GX} {D : va_G} {h0 : PH} {o : Int32 × PH}  (h : PH) (hf : f_X7_planOutage_B45  h = some o) : PF Γ mi_X7_planOutage D h0 (QR Γ D h0 (ovi o.1) o.2) h 45 [none, none, none, none, none] [] := by
  refine j_iconst (0 : Int32) dX7_planOutage_45 (by decide) ?_
  have e9 := Option.some.inj hf
  subst e9
  exact j_iret rfl dX7_planOutage_46
def f_X7_planOutage_B38 (x0 : Option Nat) (x1 : Int32) (x2 : Int32) (x3 : Int32) (t0 : Option Nat) (t1 : Int32) (h : PH) : Option (Int32 × PH) := rv_ h t0 6 (cl_ (f_X7_throwsIf t0 t1 (2 : Int32) h) fun v8 h7 => (if v8 = 0 then (gR h7 x0 6 0 fun r9 => aI h7 r9 0 (35 : Int32) fun v10 => (if v10 = (20 : Int32) then (some ((-5 : Int32), h7)) else (gR h7 x0 6 0 fun r11 => aI h7 r11 0 (35 : Int32) fun v12 => gR h7 x0 6 0 fun r13 => gR h7 x0 6 0 fun r14 => aI h7 r14 0 (0 : Int32) fun v15 => sI h7 r13 0 ((176 : Int32) + ((3 : Int32) * v12)) (v15 + x2) fun h16 => gR h16 x0 6 0 fun r17 => gR h16 x0 6 0 fun r18 => aI h16 r18 0 ((176 : Int32) + ((3 : Int32) * v12)) fun v19 => sI h16 r17 0 (((176 : Int32) + ((3 : Int32) * v12)) + (1 : Int32)) (v19 + x3) fun h20 => gR h20 x0 6 0 fun r21 => sI h20 r21 0 (((176 : Int32) + ((3 : Int32) * v12)) + (2 : Int32)) x1 fun h22 => gR h22 x0 6 0 fun r23 => aI h22 r23 0 (35 : Int32) fun v24 => sI h22 r23 0 (35 : Int32) (v24 + (1 : Int32)) fun h25 => gR h25 x0 6 0 fun r26 => aI h25 r26 0 (((176 : Int32) + ((3 : Int32) * v12)) + (1 : Int32)) fun v27 => some (v27, h25)))) else (f_X7_planOutage_B45 h7)))
theorem pf_X7_planOutage_B38 {Γ : GX} {D : va_G} {h0 : PH} {o : Int32 × PH} (x0 : Option Nat) (x1 : Int32) (x2 : Int32) (x3 : Int32) (t0 : Option Nat) (t1 : Int32) (h : PH) (hf : f_X7_planOutage_B38 x0 x1 x2 x3 t0 t1 h = some o) : PF Γ mi_X7_planOutage D h0 (QR Γ D h0 (ovi o.1) o.2) h 38 [some (va_rf x0), some (.int x1), some (.int x2), some (.int x3), none] [.int t1, va_rf t0] := by
  refine j_iconst (2 : Int32) dX7_planOutage_38 (by decide) ?_
  refine kc_X7_72 rfl rfl rfl (by decide) dX7_planOutage_39 hf (fun v8 h7 hf => ?_)
  refine j_if_eq 47 dX7_planOutage_42 (by decide) hf (fun c_ hf => ?_) (fun c_ hf => ?_)
  · refine j_aload_n 0 dX7_planOutage_47 rfl rfl ?_
    refine j_gR (ci := 6) (k := 0) rfl in_X7 rfl q2202 dX7_planOutage_48 hf (fun r9 hf => ?_)
    refine j_bipush (35 : Int32) dX7_planOutage_51 (by decide) ?_
    refine j_iald dX7_planOutage_53 hf (fun v10 hf => ?_)
    refine j_bipush (20 : Int32) dX7_planOutage_54 (by decide) ?_
    refine j_icmp_ne 62 dX7_planOutage_56 (by decide) hf (fun c_ hf => ?_) (fun c_ hf => ?_)
    · refine j_sipush (176 : Int32) dX7_planOutage_62 (by decide) ?_
      refine j_iconst (3 : Int32) dX7_planOutage_65 (by decide) ?_
      refine j_aload_n 0 dX7_planOutage_66 rfl rfl ?_
      refine j_gR (ci := 6) (k := 0) rfl in_X7 rfl q2202 dX7_planOutage_67 hf (fun r11 hf => ?_)
      refine j_bipush (35 : Int32) dX7_planOutage_70 (by decide) ?_
      refine j_iald dX7_planOutage_72 hf (fun v12 hf => ?_)
      refine j_imul dX7_planOutage_73 ?_
      refine j_iadd dX7_planOutage_74 ?_
      refine j_istore [some (va_rf x0), some (.int x1), some (.int x2), some (.int x3), some (.int ((176 : Int32) + ((3 : Int32) * v12)))] dX7_planOutage_75 (cz rfl) rfl rfl ?_
      refine j_aload_n 0 dX7_planOutage_77 rfl rfl ?_
      refine j_gR (ci := 6) (k := 0) rfl in_X7 rfl q2202 dX7_planOutage_78 hf (fun r13 hf => ?_)
      refine j_iload dX7_planOutage_81 rfl ?_
      refine j_aload_n 0 dX7_planOutage_83 rfl rfl ?_
      refine j_gR (ci := 6) (k := 0) rfl in_X7 rfl q2202 dX7_planOutage_84 hf (fun r14 hf => ?_)
      refine j_iconst (0 : Int32) dX7_planOutage_87 (by decide) ?_
      refine j_iald dX7_planOutage_88 hf (fun v15 hf => ?_)
      refine j_iload_n 2 dX7_planOutage_89 rfl rfl ?_
      refine j_iadd dX7_planOutage_90 ?_
      refine j_iast dX7_planOutage_91 hf (fun h16 hf => ?_)
      refine j_aload_n 0 dX7_planOutage_92 rfl rfl ?_
      refine j_gR (ci := 6) (k := 0) rfl in_X7 rfl q2202 dX7_planOutage_93 hf (fun r17 hf => ?_)
      refine j_iload dX7_planOutage_96 rfl ?_
      refine j_iconst (1 : Int32) dX7_planOutage_98 (by decide) ?_
      refine j_iadd dX7_planOutage_99 ?_
      refine j_aload_n 0 dX7_planOutage_100 rfl rfl ?_
      refine j_gR (ci := 6) (k := 0) rfl in_X7 rfl q2202 dX7_planOutage_101 hf (fun r18 hf => ?_)
      refine j_iload dX7_planOutage_104 rfl ?_
      refine j_iald dX7_planOutage_106 hf (fun v19 hf => ?_)
      refine j_iload_n 3 dX7_planOutage_107 rfl rfl ?_
      refine j_iadd dX7_planOutage_108 ?_
      refine j_iast dX7_planOutage_109 hf (fun h20 hf => ?_)
      refine j_aload_n 0 dX7_planOutage_110 rfl rfl ?_
      refine j_gR (ci := 6) (k := 0) rfl in_X7 rfl q2202 dX7_planOutage_111 hf (fun r21 hf => ?_)
      refine j_iload dX7_planOutage_114 rfl ?_
      refine j_iconst (2 : Int32) dX7_planOutage_116 (by decide) ?_
      refine j_iadd dX7_planOutage_117 ?_
      refine j_iload_n 1 dX7_planOutage_118 rfl rfl ?_
      refine j_iast dX7_planOutage_119 hf (fun h22 hf => ?_)
      refine j_aload_n 0 dX7_planOutage_120 rfl rfl ?_
      refine j_gR (ci := 6) (k := 0) rfl in_X7 rfl q2202 dX7_planOutage_121 hf (fun r23 hf => ?_)
      refine j_bipush (35 : Int32) dX7_planOutage_124 (by decide) ?_
      refine j_dup2 dX7_planOutage_126 rfl (va_rf_cat _) ?_
      refine j_iald dX7_planOutage_127 hf (fun v24 hf => ?_)
      refine j_iconst (1 : Int32) dX7_planOutage_128 (by decide) ?_
      refine j_iadd dX7_planOutage_129 ?_
      refine j_iast dX7_planOutage_130 hf (fun h25 hf => ?_)
      refine j_aload_n 0 dX7_planOutage_131 rfl rfl ?_
      refine j_gR (ci := 6) (k := 0) rfl in_X7 rfl q2202 dX7_planOutage_132 hf (fun r26 hf => ?_)
      refine j_iload dX7_planOutage_135 rfl ?_
      refine j_iconst (1 : Int32) dX7_planOutage_137 (by decide) ?_
      refine j_iadd dX7_planOutage_138 ?_
      refine j_iald dX7_planOutage_139 hf (fun v27 hf => ?_)
      have e9 := Option.some.inj hf
      subst e9
      exact j_iret rfl dX7_planOutage_140
    · refine j_bipush (-5 : Int32) dX7_planOutage_59 (by decide) ?_
      have e9 := Option.some.inj hf
      subst e9
      exact j_iret rfl dX7_planOutage_61
  · refine j_weak [none, none, none, none, none] (Wk.s (Wk.s (Wk.s (Wk.s (Wk.k Wk.n))))) ?_
    exact pf_X7_planOutage_B45  h7 hf
def f_X7_planOutage_B33 (x0 : Option Nat) (x1 : Int32) (x2 : Int32) (x3 : Int32) (t0 : Option Nat) (h : PH) : Option (Int32 × PH) := f_X7_planOutage_B38 x0 x1 x2 x3 t0 (1 : Int32) h
theorem pf_X7_planOutage_B33 {Γ : GX} {D : va_G} {h0 : PH} {o : Int32 × PH} (x0 : Option Nat) (x1 : Int32) (x2 : Int32) (x3 : Int32) (t0 : Option Nat) (h : PH) (hf : f_X7_planOutage_B33 x0 x1 x2 x3 t0 h = some o) : PF Γ mi_X7_planOutage D h0 (QR Γ D h0 (ovi o.1) o.2) h 33 [some (va_rf x0), some (.int x1), some (.int x2), some (.int x3), none] [va_rf t0] := by
  refine j_iconst (1 : Int32) dX7_planOutage_33 (by decide) ?_
  refine j_goto 38 dX7_planOutage_34 (by decide) ?_
  exact pf_X7_planOutage_B38 x0 x1 x2 x3 t0 (1 : Int32) h hf
def f_X7_planOutage (r0 : Option Nat) (p0 : Int32) (p1 : Int32) (p2 : Int32) (h0 : PH) : Option (Int32 × PH) := rv_ h0 r0 6 (cl_ (f_X7_noNode r0 p0 h0) fun v2 h1 => (if v2 = 0 then (cl_ (f_X7_in (p1.toInt64) (1 : Int64) (20000 : Int64) h1) fun v4 h3 => (if v4 = 0 then (f_X7_planOutage_B33 r0 p0 p1 p2 r0 h3) else (cl_ (f_X7_in (p2.toInt64) (1 : Int64) (20000 : Int64) h3) fun v6 h5 => (if v6 = 0 then (f_X7_planOutage_B33 r0 p0 p1 p2 r0 h5) else (f_X7_planOutage_B38 r0 p0 p1 p2 r0 (0 : Int32) h5))))) else (f_X7_planOutage_B45 h1)))
theorem hyS_X7_planOutage : yX7_planOutage.cls ≠ "java/lang/invoke/MethodHandle" ∧ yX7_planOutage.cls ≠ "java/lang/invoke/VarHandle" ∧ (parseMethodDescriptor yX7_planOutage.desc).map (fun d => d.parameters.length) = some 3 := by decide +kernel
theorem hyV_X7_planOutage : yX7_planOutage.cls = RX7 ∧ yX7_planOutage.cls ≠ "java/lang/invoke/MethodHandle" ∧ yX7_planOutage.cls ≠ "java/lang/invoke/VarHandle" ∧ (parseMethodDescriptor yX7_planOutage.desc).map (fun d => d.parameters.length) = some 3 := by decide +kernel
theorem c_X7_planOutage {D : va_G} (r0 : Option Nat) (p0 : Int32) (p1 : Int32) (p2 : Int32) {h0 : PH} (l : Launch) (hl : l.stackTraces = false) (x : Int32) (h1 : PH) (hf : f_X7_planOutage r0 p0 p1 p2 h0 = some (x, h1)) : CT l D yX7_planOutage (ws_ yX7_planOutage cX7_planOutage 5 (Option.some FieldType.int)) 2 46 [va_rf r0, .int p0, .int p1, .int p2] h0 (ovi x) h1 := by
  refine ct_of hl [some (va_rf r0), some (.int p0), some (.int p1), some (.int p2), none] (by decide) (by rw [lgl]; simp [va_rf_cat, cat_i, cat_l]) (by simp [lv_args, vsL, va_rf_cat, cat_i, cat_l]) (fun Γ => ?_)
  obtain ⟨o, ho⟩ : ∃ o : Int32 × PH, o = (x, h1) := ⟨_, rfl⟩
  rw [← ho] at hf
  have e1 : x = o.1 := by rw [ho]
  have e2 : h1 = o.2 := by rw [ho]
  subst e1 e2
  clear ho
  show PF Γ mi_X7_planOutage D h0 (QR Γ D h0 (ovi o.1) o.2) h0 0 [some (va_rf r0), some (.int p0), some (.int p1), some (.int p2), none] []
  unfold f_X7_planOutage at hf
  refine j_aload_n 0 dX7_planOutage_0 rfl rfl ?_
  refine j_iload_n 1 dX7_planOutage_1 rfl rfl ?_
  refine kc_X7_172 rfl rfl rfl (by decide) dX7_planOutage_2 hf (fun v2 h1 hf => ?_)
  refine j_if_ne 45 dX7_planOutage_5 (by decide) hf (fun c_ hf => ?_) (fun c_ hf => ?_)
  · refine j_weak [none, none, none, none, none] (Wk.s (Wk.s (Wk.s (Wk.s (Wk.k Wk.n))))) ?_
    exact pf_X7_planOutage_B45  h1 hf
  · refine j_aload_n 0 dX7_planOutage_8 rfl rfl ?_
    refine j_iload_n 2 dX7_planOutage_9 rfl rfl ?_
    refine j_i2l dX7_planOutage_10 ?_
    refine j_lconst (1 : Int64) dX7_planOutage_11 (by decide) ?_
    refine j_ldc2 q2524 dX7_planOutage_12 ?_
    refine kc_X7_68 rfl rfl rfl (by simp [va_rf_cat, cat_i, cat_l]) dX7_planOutage_15 hf (fun v4 h3 hf => ?_)
    refine j_if_eq 33 dX7_planOutage_18 (by decide) hf (fun c_ hf => ?_) (fun c_ hf => ?_)
    · exact pf_X7_planOutage_B33 r0 p0 p1 p2 r0 h3 hf
    · refine j_iload_n 3 dX7_planOutage_21 rfl rfl ?_
      refine j_i2l dX7_planOutage_22 ?_
      refine j_lconst (1 : Int64) dX7_planOutage_23 (by decide) ?_
      refine j_ldc2 q2524 dX7_planOutage_24 ?_
      refine kc_X7_68 rfl rfl rfl (by simp [va_rf_cat, cat_i, cat_l]) dX7_planOutage_27 hf (fun v6 h5 hf => ?_)
      refine j_if_ne 37 dX7_planOutage_30 (by decide) hf (fun c_ hf => ?_) (fun c_ hf => ?_)
      · refine j_iconst (0 : Int32) dX7_planOutage_37 (by decide) ?_
        exact pf_X7_planOutage_B38 r0 p0 p1 p2 r0 (0 : Int32) h5 hf
      · exact pf_X7_planOutage_B33 r0 p0 p1 p2 r0 h5 hf
theorem kc_X7_176 {Γ : GX} {I : MI} {D : va_G} {h0 : PH} {Q : State → Prop} {h : PH} {pc : Nat} {vs : List (Option Value)} {rest : List Value} {β : Type} {o : β} {r : Option Nat}  {K : ((Int32) → PH → Option β)} (hI : I.2.2.1 = RX7) (hfr : Nat.ble 2 I.2.2.2.2.2.1 = true) (hlo : Nat.ble 42 I.2.2.2.2.2.2.1 = true) (hW : (rest.map fun v => v.category).sum ≤ 8) (hd : decode I.1 pc = .ok (.invokevirtual 176, 3)) (hf : rv_ h r 6 (cl_ (f_X7_serverShows r h) K) = some o) (kk : ∀ (x : Int32) (h1 : PH), K x h1 = some o → PF Γ I D h0 Q h1 (pc + 3) vs (.int x :: rest)) : PF Γ I D h0 Q h pc vs (va_rf r :: rest) := by
  obtain ⟨cc, nL, own, rt, xt, fr, lo, nm⟩ := I
  cases hI
  exact j_cVi (n := 0) (y := yX7_serverShows) (cc2 := cX7_serverShows) (As := []) (C := RX7) (ci := 6) rfl (lw_V q2364 q2366 qs48 q117 q2367) hyV_X7_serverShows hfr hlo rfl hW hd (c_X7_serverShows r) hf _ rfl kk
abbrev mi_X7_restartServer : MI := (cX7_restartServer, 1, RX7, (Option.some FieldType.int), [], 2, 42, "restartServer")
def f_X7_restartServer (r0 : Option Nat) (h0 : PH) : Option (Int32 × PH) := pV h0 r0 6 1 (.int (0 : Int32)) fun h1 => gR h1 r0 6 0 fun r2 => sI h1 r2 0 (10 : Int32) (-4 : Int32) fun h3 => gR h3 r0 6 0 fun r4 => rv_ h3 r0 6 (cl_ (f_X7_serverShows r0 h3) fun v6 h5 => gR h5 r0 6 0 fun r7 => aI h5 r7 0 (5 : Int32) fun v8 => sI h5 r4 0 (13 : Int32) (v6 + v8) fun h9 => gR h9 r0 6 0 fun r10 => aI h9 r10 0 (12 : Int32) fun v11 => rv_ h9 r0 6 (cl_ (f_X7_logs r0 (8 : Int32) (-1 : Int32) v11 h9) fun _u h12 => gR h12 r0 6 0 fun r13 => aI h12 r13 0 (13 : Int32) fun v14 => some (v14, h12)))
theorem hyS_X7_restartServer : yX7_restartServer.cls ≠ "java/lang/invoke/MethodHandle" ∧ yX7_restartServer.cls ≠ "java/lang/invoke/VarHandle" ∧ (parseMethodDescriptor yX7_restartServer.desc).map (fun d => d.parameters.length) = some 0 := by decide +kernel
theorem hyV_X7_restartServer : yX7_restartServer.cls = RX7 ∧ yX7_restartServer.cls ≠ "java/lang/invoke/MethodHandle" ∧ yX7_restartServer.cls ≠ "java/lang/invoke/VarHandle" ∧ (parseMethodDescriptor yX7_restartServer.desc).map (fun d => d.parameters.length) = some 0 := by decide +kernel
theorem c_X7_restartServer {D : va_G} (r0 : Option Nat) {h0 : PH} (l : Launch) (hl : l.stackTraces = false) (x : Int32) (h1 : PH) (hf : f_X7_restartServer r0 h0 = some (x, h1)) : CT l D yX7_restartServer (ws_ yX7_restartServer cX7_restartServer 1 (Option.some FieldType.int)) 2 42 [va_rf r0] h0 (ovi x) h1 := by
  refine ct_of hl [some (va_rf r0)] (by decide) (by rw [lgl]; simp [va_rf_cat, cat_i, cat_l]) (by simp [lv_args, vsL, va_rf_cat, cat_i, cat_l]) (fun Γ => ?_)
  obtain ⟨o, ho⟩ : ∃ o : Int32 × PH, o = (x, h1) := ⟨_, rfl⟩
  rw [← ho] at hf
  have e1 : x = o.1 := by rw [ho]
  have e2 : h1 = o.2 := by rw [ho]
  subst e1 e2
  clear ho
  show PF Γ mi_X7_restartServer D h0 (QR Γ D h0 (ovi o.1) o.2) h0 0 [some (va_rf r0)] []
  unfold f_X7_restartServer at hf
  refine j_aload_n 0 dX7_restartServer_0 rfl rfl ?_
  refine j_iconst (0 : Int32) dX7_restartServer_1 (by decide) ?_
  refine j_pV (ci := 6) (k := 1) tyX7 tyX7_ok nmX7 rfl in_X7 rfl q2203 (Or.inl rfl) rfl (fit_i _) dX7_restartServer_2 hf (fun h1 hf => ?_)
  refine j_aload_n 0 dX7_restartServer_5 rfl rfl ?_
  refine j_gR (ci := 6) (k := 0) rfl in_X7 rfl q2202 dX7_restartServer_6 hf (fun r2 hf => ?_)
  refine j_bipush (10 : Int32) dX7_restartServer_9 (by decide) ?_
  refine j_bipush (-4 : Int32) dX7_restartServer_11 (by decide) ?_
  refine j_iast dX7_restartServer_13 hf (fun h3 hf => ?_)
  refine j_aload_n 0 dX7_restartServer_14 rfl rfl ?_
  refine j_gR (ci := 6) (k := 0) rfl in_X7 rfl q2202 dX7_restartServer_15 hf (fun r4 hf => ?_)
  refine j_bipush (13 : Int32) dX7_restartServer_18 (by decide) ?_
  refine j_aload_n 0 dX7_restartServer_20 rfl rfl ?_
  refine kc_X7_176 rfl rfl rfl (by simp [va_rf_cat, cat_i, cat_l]) dX7_restartServer_21 hf (fun v6 h5 hf => ?_)
  refine j_aload_n 0 dX7_restartServer_24 rfl rfl ?_
  refine j_gR (ci := 6) (k := 0) rfl in_X7 rfl q2202 dX7_restartServer_25 hf (fun r7 hf => ?_)
  refine j_iconst (5 : Int32) dX7_restartServer_28 (by decide) ?_
  refine j_iald dX7_restartServer_29 hf (fun v8 hf => ?_)
  refine j_iadd dX7_restartServer_30 ?_
  refine j_iast dX7_restartServer_31 hf (fun h9 hf => ?_)
  refine j_aload_n 0 dX7_restartServer_32 rfl rfl ?_
  refine j_bipush (8 : Int32) dX7_restartServer_33 (by decide) ?_
  refine j_iconst (-1 : Int32) dX7_restartServer_35 (by decide) ?_
  refine j_aload_n 0 dX7_restartServer_36 rfl rfl ?_
  refine j_gR (ci := 6) (k := 0) rfl in_X7 rfl q2202 dX7_restartServer_37 hf (fun r10 hf => ?_)
  refine j_bipush (12 : Int32) dX7_restartServer_40 (by decide) ?_
  refine j_iald dX7_restartServer_42 hf (fun v11 hf => ?_)
  refine kc_X7_219 rfl rfl rfl (by decide) dX7_restartServer_43 hf (fun _u h12 hf => ?_)
  refine j_aload_n 0 dX7_restartServer_46 rfl rfl ?_
  refine j_gR (ci := 6) (k := 0) rfl in_X7 rfl q2202 dX7_restartServer_47 hf (fun r13 hf => ?_)
  refine j_bipush (13 : Int32) dX7_restartServer_50 (by decide) ?_
  refine j_iald dX7_restartServer_52 hf (fun v14 hf => ?_)
  have e9 := Option.some.inj hf
  subst e9
  exact j_iret rfl dX7_restartServer_53
abbrev mi_X7_isRegister : MI := (cX7_isRegister, 1, RX7, (Option.some FieldType.boolean), [], 1, 25, "isRegister")
def f_X7_isRegister (p0 : Int32) (h0 : PH) : Option (Int32 × PH) := cl_ (f_X7_in (p0.toInt64) (0 : Int64) (7 : Int64) h0) fun v2 h1 => rN .boolean v2 (fun v => v) h1
theorem hyS_X7_isRegister : yX7_isRegister.cls ≠ "java/lang/invoke/MethodHandle" ∧ yX7_isRegister.cls ≠ "java/lang/invoke/VarHandle" ∧ (parseMethodDescriptor yX7_isRegister.desc).map (fun d => d.parameters.length) = some 1 := by decide +kernel
theorem c_X7_isRegister {D : va_G} (p0 : Int32) {h0 : PH} (l : Launch) (hl : l.stackTraces = false) (x : Int32) (h1 : PH) (hf : f_X7_isRegister p0 h0 = some (x, h1)) : CT l D yX7_isRegister (ws_ yX7_isRegister cX7_isRegister 1 (Option.some FieldType.boolean)) 1 25 [.int p0] h0 (ovi x) h1 := by
  refine ct_of hl [some (.int p0)] (by decide) (Nat.le_of_ble_eq_true rfl) rfl (fun Γ => ?_)
  obtain ⟨o, ho⟩ : ∃ o : Int32 × PH, o = (x, h1) := ⟨_, rfl⟩
  rw [← ho] at hf
  have e1 : x = o.1 := by rw [ho]
  have e2 : h1 = o.2 := by rw [ho]
  subst e1 e2
  clear ho
  show PF Γ mi_X7_isRegister D h0 (QR Γ D h0 (ovi o.1) o.2) h0 0 [some (.int p0)] []
  unfold f_X7_isRegister at hf
  refine j_iload_n 0 dX7_isRegister_0 rfl rfl ?_
  refine j_i2l dX7_isRegister_1 ?_
  refine j_lconst (0 : Int64) dX7_isRegister_2 (by decide) ?_
  refine j_ldc2 q2544 dX7_isRegister_3 ?_
  refine kc_X7_68 rfl rfl rfl (by decide) dX7_isRegister_6 hf (fun v2 h1 hf => ?_)
  obtain ⟨hn9, hf⟩ := rN_in hf
  subst hf
  exact j_zret rfl (nar_z _ hn9) dX7_isRegister_9
abbrev mi_X7_isValue : MI := (cX7_isValue, 1, RX7, (Option.some FieldType.boolean), [], 1, 25, "isValue")
def f_X7_isValue (p0 : Int32) (h0 : PH) : Option (Int32 × PH) := cl_ (f_X7_in (p0.toInt64) (0 : Int64) (999999 : Int64) h0) fun v2 h1 => rN .boolean v2 (fun v => v) h1
theorem hyS_X7_isValue : yX7_isValue.cls ≠ "java/lang/invoke/MethodHandle" ∧ yX7_isValue.cls ≠ "java/lang/invoke/VarHandle" ∧ (parseMethodDescriptor yX7_isValue.desc).map (fun d => d.parameters.length) = some 1 := by decide +kernel
theorem c_X7_isValue {D : va_G} (p0 : Int32) {h0 : PH} (l : Launch) (hl : l.stackTraces = false) (x : Int32) (h1 : PH) (hf : f_X7_isValue p0 h0 = some (x, h1)) : CT l D yX7_isValue (ws_ yX7_isValue cX7_isValue 1 (Option.some FieldType.boolean)) 1 25 [.int p0] h0 (ovi x) h1 := by
  refine ct_of hl [some (.int p0)] (by decide) (Nat.le_of_ble_eq_true rfl) rfl (fun Γ => ?_)
  obtain ⟨o, ho⟩ : ∃ o : Int32 × PH, o = (x, h1) := ⟨_, rfl⟩
  rw [← ho] at hf
  have e1 : x = o.1 := by rw [ho]
  have e2 : h1 = o.2 := by rw [ho]
  subst e1 e2
  clear ho
  show PF Γ mi_X7_isValue D h0 (QR Γ D h0 (ovi o.1) o.2) h0 0 [some (.int p0)] []
  unfold f_X7_isValue at hf
  refine j_iload_n 0 dX7_isValue_0 rfl rfl ?_
  refine j_i2l dX7_isValue_1 ?_
  refine j_lconst (0 : Int64) dX7_isValue_2 (by decide) ?_
  refine j_ldc2 q2548 dX7_isValue_3 ?_
  refine kc_X7_68 rfl rfl rfl (by decide) dX7_isValue_6 hf (fun v2 h1 hf => ?_)
  obtain ⟨hn9, hf⟩ := rN_in hf
  subst hf
  exact j_zret rfl (nar_z _ hn9) dX7_isValue_9
theorem kc_X7_292 {Γ : GX} {I : MI} {D : va_G} {h0 : PH} {Q : State → Prop} {h : PH} {pc : Nat} {vs : List (Option Value)} {rest : List Value} {β : Type} {o : β} {p0 : Int32} {K : ((Int32) → PH → Option β)} (hI : I.2.2.1 = RX7) (hfr : Nat.ble 2 I.2.2.2.2.2.1 = true) (hlo : Nat.ble 45 I.2.2.2.2.2.2.1 = true) (hW : (rest.map fun v => v.category).sum ≤ 8) (hd : decode I.1 pc = .ok (.invokestatic 292, 3)) (hf : cl_ (f_X7_isRegister p0 h) K = some o) (kk : ∀ (x : Int32) (h1 : PH), K x h1 = some o → PF Γ I D h0 Q h1 (pc + 3) vs (.int x :: rest)) : PF Γ I D h0 Q h pc vs (.int p0 :: rest) := by
  obtain ⟨cc, nL, own, rt, xt, fr, lo, nm⟩ := I
  cases hI
  exact j_cSi (n := 1) (y := yX7_isRegister) (cc2 := cX7_isRegister) (As := [.int p0]) (lw_S q2541 q2542 q117 q2543) hyS_X7_isRegister hfr hlo rfl hW hd (c_X7_isRegister p0) hf _ rfl kk
abbrev mi_X7_registerCell : MI := (cX7_registerCell, 3, RX7, (Option.some FieldType.int), [], 2, 45, "registerCell")
def f_X7_registerCell_B37 (t0 : Int32) (h : PH) : Option (Int32 × PH) := some (t0, h)
theorem pf_X7_registerCell_B37 {Γ : GX} {D : va_G} {h0 : PH} {o : Int32 × PH} (t0 : Int32) (h : PH) (hf : f_X7_registerCell_B37 t0 h = some o) : PF Γ mi_X7_registerCell D h0 (QR Γ D h0 (ovi o.1) o.2) h 37 [none, none, none] [.int t0] := by
  have e9 := Option.some.inj hf
  subst e9
  exact j_iret rfl dX7_registerCell_37
def f_X7_registerCell_B18 (x0 : Option Nat) (x1 : Int32) (x2 : Int32) (t0 : Option Nat) (t1 : Int32) (h : PH) : Option (Int32 × PH) := rv_ h t0 6 (cl_ (f_X7_throwsIf t0 t1 (1 : Int32) h) fun v5 h4 => (if v5 = 0 then (gR h4 x0 6 0 fun r6 => aI h4 r6 0 (x2 + x1) fun v7 => f_X7_registerCell_B37 v7 h4) else (f_X7_registerCell_B37 (0 : Int32) h4)))
theorem pf_X7_registerCell_B18 {Γ : GX} {D : va_G} {h0 : PH} {o : Int32 × PH} (x0 : Option Nat) (x1 : Int32) (x2 : Int32) (t0 : Option Nat) (t1 : Int32) (h : PH) (hf : f_X7_registerCell_B18 x0 x1 x2 t0 t1 h = some o) : PF Γ mi_X7_registerCell D h0 (QR Γ D h0 (ovi o.1) o.2) h 18 [some (va_rf x0), some (.int x1), some (.int x2)] [.int t1, va_rf t0] := by
  refine j_iconst (1 : Int32) dX7_registerCell_18 (by decide) ?_
  refine kc_X7_72 rfl rfl rfl (by decide) dX7_registerCell_19 hf (fun v5 h4 hf => ?_)
  refine j_if_eq 29 dX7_registerCell_22 (by decide) hf (fun c_ hf => ?_) (fun c_ hf => ?_)
  · refine j_aload_n 0 dX7_registerCell_29 rfl rfl ?_
    refine j_gR (ci := 6) (k := 0) rfl in_X7 rfl q2202 dX7_registerCell_30 hf (fun r6 hf => ?_)
    refine j_iload_n 2 dX7_registerCell_33 rfl rfl ?_
    refine j_iload_n 1 dX7_registerCell_34 rfl rfl ?_
    refine j_iadd dX7_registerCell_35 ?_
    refine j_iald dX7_registerCell_36 hf (fun v7 hf => ?_)
    refine j_weak [none, none, none] (Wk.s (Wk.s (Wk.s Wk.n))) ?_
    exact pf_X7_registerCell_B37 v7 h4 hf
  · refine j_iconst (0 : Int32) dX7_registerCell_25 (by decide) ?_
    refine j_goto 37 dX7_registerCell_26 (by decide) ?_
    refine j_weak [none, none, none] (Wk.s (Wk.s (Wk.s Wk.n))) ?_
    exact pf_X7_registerCell_B37 (0 : Int32) h4 hf
def f_X7_registerCell (r0 : Option Nat) (p0 : Int32) (p1 : Int32) (h0 : PH) : Option (Int32 × PH) := pV h0 r0 6 1 (.int (0 : Int32)) fun h1 => cl_ (f_X7_isRegister p0 h1) fun v3 h2 => (if v3 = 0 then (f_X7_registerCell_B18 r0 p0 p1 r0 (1 : Int32) h2) else (f_X7_registerCell_B18 r0 p0 p1 r0 (0 : Int32) h2))
theorem hyS_X7_registerCell : yX7_registerCell.cls ≠ "java/lang/invoke/MethodHandle" ∧ yX7_registerCell.cls ≠ "java/lang/invoke/VarHandle" ∧ (parseMethodDescriptor yX7_registerCell.desc).map (fun d => d.parameters.length) = some 2 := by decide +kernel
theorem hyV_X7_registerCell : yX7_registerCell.cls = RX7 ∧ yX7_registerCell.cls ≠ "java/lang/invoke/MethodHandle" ∧ yX7_registerCell.cls ≠ "java/lang/invoke/VarHandle" ∧ (parseMethodDescriptor yX7_registerCell.desc).map (fun d => d.parameters.length) = some 2 := by decide +kernel
theorem c_X7_registerCell {D : va_G} (r0 : Option Nat) (p0 : Int32) (p1 : Int32) {h0 : PH} (l : Launch) (hl : l.stackTraces = false) (x : Int32) (h1 : PH) (hf : f_X7_registerCell r0 p0 p1 h0 = some (x, h1)) : CT l D yX7_registerCell (ws_ yX7_registerCell cX7_registerCell 3 (Option.some FieldType.int)) 2 45 [va_rf r0, .int p0, .int p1] h0 (ovi x) h1 := by
  refine ct_of hl [some (va_rf r0), some (.int p0), some (.int p1)] (by decide) (by rw [lgl]; simp [va_rf_cat, cat_i, cat_l]) (by simp [lv_args, vsL, va_rf_cat, cat_i, cat_l]) (fun Γ => ?_)
  obtain ⟨o, ho⟩ : ∃ o : Int32 × PH, o = (x, h1) := ⟨_, rfl⟩
  rw [← ho] at hf
  have e1 : x = o.1 := by rw [ho]
  have e2 : h1 = o.2 := by rw [ho]
  subst e1 e2
  clear ho
  show PF Γ mi_X7_registerCell D h0 (QR Γ D h0 (ovi o.1) o.2) h0 0 [some (va_rf r0), some (.int p0), some (.int p1)] []
  unfold f_X7_registerCell at hf
  refine j_aload_n 0 dX7_registerCell_0 rfl rfl ?_
  refine j_iconst (0 : Int32) dX7_registerCell_1 (by decide) ?_
  refine j_pV (ci := 6) (k := 1) tyX7 tyX7_ok nmX7 rfl in_X7 rfl q2203 (Or.inl rfl) rfl (fit_i _) dX7_registerCell_2 hf (fun h1 hf => ?_)
  refine j_aload_n 0 dX7_registerCell_5 rfl rfl ?_
  refine j_iload_n 1 dX7_registerCell_6 rfl rfl ?_
  refine kc_X7_292 rfl rfl rfl (by simp [va_rf_cat, cat_i, cat_l]) dX7_registerCell_7 hf (fun v3 h2 hf => ?_)
  refine j_if_ne 17 dX7_registerCell_10 (by decide) hf (fun c_ hf => ?_) (fun c_ hf => ?_)
  · refine j_iconst (0 : Int32) dX7_registerCell_17 (by decide) ?_
    exact pf_X7_registerCell_B18 r0 p0 p1 r0 (0 : Int32) h2 hf
  · refine j_iconst (1 : Int32) dX7_registerCell_13 (by decide) ?_
    refine j_goto 18 dX7_registerCell_14 (by decide) ?_
    exact pf_X7_registerCell_B18 r0 p0 p1 r0 (1 : Int32) h2 hf
theorem kc_X7_301 {Γ : GX} {I : MI} {D : va_G} {h0 : PH} {Q : State → Prop} {h : PH} {pc : Nat} {vs : List (Option Value)} {rest : List Value} {β : Type} {o : β} {r : Option Nat} {p0 : Int32} {p1 : Int32} {K : ((Int32) → PH → Option β)} (hI : I.2.2.1 = RX7) (hfr : Nat.ble 3 I.2.2.2.2.2.1 = true) (hlo : Nat.ble 67 I.2.2.2.2.2.2.1 = true) (hW : (rest.map fun v => v.category).sum ≤ 8) (hd : decode I.1 pc = .ok (.invokevirtual 301, 3)) (hf : rv_ h r 6 (cl_ (f_X7_registerCell r p0 p1 h) K) = some o) (kk : ∀ (x : Int32) (h1 : PH), K x h1 = some o → PF Γ I D h0 Q h1 (pc + 3) vs (.int x :: rest)) : PF Γ I D h0 Q h pc vs (.int p1 :: .int p0 :: va_rf r :: rest) := by
  obtain ⟨cc, nL, own, rt, xt, fr, lo, nm⟩ := I
  cases hI
  exact j_cVi (n := 2) (y := yX7_registerCell) (cc2 := cX7_registerCell) (As := [.int p0, .int p1]) (C := RX7) (ci := 6) rfl (lw_V q2569 q2571 qs79 q117 q2572) hyV_X7_registerCell hfr hlo rfl hW hd (c_X7_registerCell r p0 p1) hf _ rfl kk
abbrev mi_X7_version : MI := (cX7_version, 2, RX7, (Option.some FieldType.int), [], 3, 67, "version")
def f_X7_version (r0 : Option Nat) (p0 : Int32) (h0 : PH) : Option (Int32 × PH) := rv_ h0 r0 6 (cl_ (f_X7_registerCell r0 p0 (168 : Int32) h0) fun v2 h1 => some (v2, h1))
theorem hyS_X7_version : yX7_version.cls ≠ "java/lang/invoke/MethodHandle" ∧ yX7_version.cls ≠ "java/lang/invoke/VarHandle" ∧ (parseMethodDescriptor yX7_version.desc).map (fun d => d.parameters.length) = some 1 := by decide +kernel
theorem hyV_X7_version : yX7_version.cls = RX7 ∧ yX7_version.cls ≠ "java/lang/invoke/MethodHandle" ∧ yX7_version.cls ≠ "java/lang/invoke/VarHandle" ∧ (parseMethodDescriptor yX7_version.desc).map (fun d => d.parameters.length) = some 1 := by decide +kernel
theorem c_X7_version {D : va_G} (r0 : Option Nat) (p0 : Int32) {h0 : PH} (l : Launch) (hl : l.stackTraces = false) (x : Int32) (h1 : PH) (hf : f_X7_version r0 p0 h0 = some (x, h1)) : CT l D yX7_version (ws_ yX7_version cX7_version 2 (Option.some FieldType.int)) 3 67 [va_rf r0, .int p0] h0 (ovi x) h1 := by
  refine ct_of hl [some (va_rf r0), some (.int p0)] (by decide) (by rw [lgl]; simp [va_rf_cat, cat_i, cat_l]) (by simp [lv_args, vsL, va_rf_cat, cat_i, cat_l]) (fun Γ => ?_)
  obtain ⟨o, ho⟩ : ∃ o : Int32 × PH, o = (x, h1) := ⟨_, rfl⟩
  rw [← ho] at hf
  have e1 : x = o.1 := by rw [ho]
  have e2 : h1 = o.2 := by rw [ho]
  subst e1 e2
  clear ho
  show PF Γ mi_X7_version D h0 (QR Γ D h0 (ovi o.1) o.2) h0 0 [some (va_rf r0), some (.int p0)] []
  unfold f_X7_version at hf
  refine j_aload_n 0 dX7_version_0 rfl rfl ?_
  refine j_iload_n 1 dX7_version_1 rfl rfl ?_
  refine j_sipush (168 : Int32) dX7_version_2 (by decide) ?_
  refine kc_X7_301 rfl rfl rfl (by decide) dX7_version_5 hf (fun v2 h1 hf => ?_)
  have e9 := Option.some.inj hf
  subst e9
  exact j_iret rfl dX7_version_8
abbrev mi_X7_own : MI := (cX7_own, 2, RX7, (Option.some FieldType.int), [], 0, 0, "own")
def f_X7_own (r0 : Option Nat) (p0 : Int32) (h0 : PH) : Option (Int32 × PH) := pV h0 r0 6 1 (.int (0 : Int32)) fun h1 => gR h1 r0 6 0 fun r2 => aI h1 r2 0 p0 fun v3 => some (v3, h1)
theorem hyS_X7_own : yX7_own.cls ≠ "java/lang/invoke/MethodHandle" ∧ yX7_own.cls ≠ "java/lang/invoke/VarHandle" ∧ (parseMethodDescriptor yX7_own.desc).map (fun d => d.parameters.length) = some 1 := by decide +kernel
theorem hyV_X7_own : yX7_own.cls = RX7 ∧ yX7_own.cls ≠ "java/lang/invoke/MethodHandle" ∧ yX7_own.cls ≠ "java/lang/invoke/VarHandle" ∧ (parseMethodDescriptor yX7_own.desc).map (fun d => d.parameters.length) = some 1 := by decide +kernel
theorem c_X7_own {D : va_G} (r0 : Option Nat) (p0 : Int32) {h0 : PH} (l : Launch) (hl : l.stackTraces = false) (x : Int32) (h1 : PH) (hf : f_X7_own r0 p0 h0 = some (x, h1)) : CT l D yX7_own (ws_ yX7_own cX7_own 2 (Option.some FieldType.int)) 0 0 [va_rf r0, .int p0] h0 (ovi x) h1 := by
  refine ct_of hl [some (va_rf r0), some (.int p0)] (by decide) (by rw [lgl]; simp [va_rf_cat, cat_i, cat_l]) (by simp [lv_args, vsL, va_rf_cat, cat_i, cat_l]) (fun Γ => ?_)
  obtain ⟨o, ho⟩ : ∃ o : Int32 × PH, o = (x, h1) := ⟨_, rfl⟩
  rw [← ho] at hf
  have e1 : x = o.1 := by rw [ho]
  have e2 : h1 = o.2 := by rw [ho]
  subst e1 e2
  clear ho
  show PF Γ mi_X7_own D h0 (QR Γ D h0 (ovi o.1) o.2) h0 0 [some (va_rf r0), some (.int p0)] []
  unfold f_X7_own at hf
  refine j_aload_n 0 dX7_own_0 rfl rfl ?_
  refine j_iconst (0 : Int32) dX7_own_1 (by decide) ?_
  refine j_pV (ci := 6) (k := 1) tyX7 tyX7_ok nmX7 rfl in_X7 rfl q2203 (Or.inl rfl) rfl (fit_i _) dX7_own_2 hf (fun h1 hf => ?_)
  refine j_aload_n 0 dX7_own_5 rfl rfl ?_
  refine j_gR (ci := 6) (k := 0) rfl in_X7 rfl q2202 dX7_own_6 hf (fun r2 hf => ?_)
  refine j_iload_n 1 dX7_own_9 rfl rfl ?_
  refine j_iald dX7_own_10 hf (fun v3 hf => ?_)
  have e9 := Option.some.inj hf
  subst e9
  exact j_iret rfl dX7_own_11
theorem kc_X7_304 {Γ : GX} {I : MI} {D : va_G} {h0 : PH} {Q : State → Prop} {h : PH} {pc : Nat} {vs : List (Option Value)} {rest : List Value} {β : Type} {o : β} {r : Option Nat} {p0 : Int32} {K : ((Int32) → PH → Option β)} (hI : I.2.2.1 = RX7) (hfr : Nat.ble 1 I.2.2.2.2.2.1 = true) (hlo : Nat.ble 21 I.2.2.2.2.2.2.1 = true) (hW : (rest.map fun v => v.category).sum ≤ 8) (hd : decode I.1 pc = .ok (.invokevirtual 304, 3)) (hf : rv_ h r 6 (cl_ (f_X7_own r p0 h) K) = some o) (kk : ∀ (x : Int32) (h1 : PH), K x h1 = some o → PF Γ I D h0 Q h1 (pc + 3) vs (.int x :: rest)) : PF Γ I D h0 Q h pc vs (.int p0 :: va_rf r :: rest) := by
  obtain ⟨cc, nL, own, rt, xt, fr, lo, nm⟩ := I
  cases hI
  exact j_cVi (n := 1) (y := yX7_own) (cc2 := cX7_own) (As := [.int p0]) (C := RX7) (ci := 6) rfl (lw_V q2581 q2583 qs80 q117 q2584) hyV_X7_own hfr hlo rfl hW hd (c_X7_own r p0) hf _ rfl kk
abbrev mi_X7_holder : MI := (cX7_holder, 1, RX7, (Option.some FieldType.int), [], 1, 21, "holder")
def f_X7_holder (r0 : Option Nat) (h0 : PH) : Option (Int32 × PH) := rv_ h0 r0 6 (cl_ (f_X7_own r0 (10 : Int32) h0) fun v2 h1 => some (v2, h1))
theorem hyS_X7_holder : yX7_holder.cls ≠ "java/lang/invoke/MethodHandle" ∧ yX7_holder.cls ≠ "java/lang/invoke/VarHandle" ∧ (parseMethodDescriptor yX7_holder.desc).map (fun d => d.parameters.length) = some 0 := by decide +kernel
theorem hyV_X7_holder : yX7_holder.cls = RX7 ∧ yX7_holder.cls ≠ "java/lang/invoke/MethodHandle" ∧ yX7_holder.cls ≠ "java/lang/invoke/VarHandle" ∧ (parseMethodDescriptor yX7_holder.desc).map (fun d => d.parameters.length) = some 0 := by decide +kernel
theorem c_X7_holder {D : va_G} (r0 : Option Nat) {h0 : PH} (l : Launch) (hl : l.stackTraces = false) (x : Int32) (h1 : PH) (hf : f_X7_holder r0 h0 = some (x, h1)) : CT l D yX7_holder (ws_ yX7_holder cX7_holder 1 (Option.some FieldType.int)) 1 21 [va_rf r0] h0 (ovi x) h1 := by
  refine ct_of hl [some (va_rf r0)] (by decide) (by rw [lgl]; simp [va_rf_cat, cat_i, cat_l]) (by simp [lv_args, vsL, va_rf_cat, cat_i, cat_l]) (fun Γ => ?_)
  obtain ⟨o, ho⟩ : ∃ o : Int32 × PH, o = (x, h1) := ⟨_, rfl⟩
  rw [← ho] at hf
  have e1 : x = o.1 := by rw [ho]
  have e2 : h1 = o.2 := by rw [ho]
  subst e1 e2
  clear ho
  show PF Γ mi_X7_holder D h0 (QR Γ D h0 (ovi o.1) o.2) h0 0 [some (va_rf r0)] []
  unfold f_X7_holder at hf
  refine j_aload_n 0 dX7_holder_0 rfl rfl ?_
  refine j_bipush (10 : Int32) dX7_holder_1 (by decide) ?_
  refine kc_X7_304 rfl rfl rfl (by decide) dX7_holder_3 hf (fun v2 h1 hf => ?_)
  have e9 := Option.some.inj hf
  subst e9
  exact j_iret rfl dX7_holder_6
abbrev mi_X7_greatestToken : MI := (cX7_greatestToken, 1, RX7, (Option.some FieldType.int), [], 1, 21, "greatestToken")
def f_X7_greatestToken (r0 : Option Nat) (h0 : PH) : Option (Int32 × PH) := rv_ h0 r0 6 (cl_ (f_X7_own r0 (12 : Int32) h0) fun v2 h1 => some (v2, h1))
theorem hyS_X7_greatestToken : yX7_greatestToken.cls ≠ "java/lang/invoke/MethodHandle" ∧ yX7_greatestToken.cls ≠ "java/lang/invoke/VarHandle" ∧ (parseMethodDescriptor yX7_greatestToken.desc).map (fun d => d.parameters.length) = some 0 := by decide +kernel
theorem hyV_X7_greatestToken : yX7_greatestToken.cls = RX7 ∧ yX7_greatestToken.cls ≠ "java/lang/invoke/MethodHandle" ∧ yX7_greatestToken.cls ≠ "java/lang/invoke/VarHandle" ∧ (parseMethodDescriptor yX7_greatestToken.desc).map (fun d => d.parameters.length) = some 0 := by decide +kernel
theorem c_X7_greatestToken {D : va_G} (r0 : Option Nat) {h0 : PH} (l : Launch) (hl : l.stackTraces = false) (x : Int32) (h1 : PH) (hf : f_X7_greatestToken r0 h0 = some (x, h1)) : CT l D yX7_greatestToken (ws_ yX7_greatestToken cX7_greatestToken 1 (Option.some FieldType.int)) 1 21 [va_rf r0] h0 (ovi x) h1 := by
  refine ct_of hl [some (va_rf r0)] (by decide) (by rw [lgl]; simp [va_rf_cat, cat_i, cat_l]) (by simp [lv_args, vsL, va_rf_cat, cat_i, cat_l]) (fun Γ => ?_)
  obtain ⟨o, ho⟩ : ∃ o : Int32 × PH, o = (x, h1) := ⟨_, rfl⟩
  rw [← ho] at hf
  have e1 : x = o.1 := by rw [ho]
  have e2 : h1 = o.2 := by rw [ho]
  subst e1 e2
  clear ho
  show PF Γ mi_X7_greatestToken D h0 (QR Γ D h0 (ovi o.1) o.2) h0 0 [some (va_rf r0)] []
  unfold f_X7_greatestToken at hf
  refine j_aload_n 0 dX7_greatestToken_0 rfl rfl ?_
  refine j_bipush (12 : Int32) dX7_greatestToken_1 (by decide) ?_
  refine kc_X7_304 rfl rfl rfl (by decide) dX7_greatestToken_3 hf (fun v2 h1 hf => ?_)
  have e9 := Option.some.inj hf
  subst e9
  exact j_iret rfl dX7_greatestToken_6
abbrev mi_X7_serverEnd : MI := (cX7_serverEnd, 1, RX7, (Option.some FieldType.int), [], 1, 24, "serverEnd")
def f_X7_serverEnd_B39 (t0 : Int32) (h : PH) : Option (Int32 × PH) := some (t0, h)
theorem pf_X7_serverEnd_B39 {Γ : GX} {D : va_G} {h0 : PH} {o : Int32 × PH} (t0 : Int32) (h : PH) (hf : f_X7_serverEnd_B39 t0 h = some o) : PF Γ mi_X7_serverEnd D h0 (QR Γ D h0 (ovi o.1) o.2) h 39 [none] [.int t0] := by
  have e9 := Option.some.inj hf
  subst e9
  exact j_iret rfl dX7_serverEnd_39
def f_X7_serverEnd (r0 : Option Nat) (h0 : PH) : Option (Int32 × PH) := gR h0 r0 6 0 fun r1 => aI h0 r1 0 (10 : Int32) fun v2 => (if v2 = (-4 : Int32) then (f_X7_serverEnd_B39 (-4 : Int32) h0) else (gR h0 r0 6 0 fun r3 => aI h0 r3 0 (3 : Int32) fun v4 => gR h0 r0 6 0 fun r5 => aI h0 r5 0 (4 : Int32) fun v6 => gR h0 r0 6 0 fun r7 => aI h0 r7 0 (11 : Int32) fun v8 => cl_ (f_X7_timeOf v4 v6 v8 h0) fun v10 h9 => f_X7_serverEnd_B39 v10 h9))
theorem hyS_X7_serverEnd : yX7_serverEnd.cls ≠ "java/lang/invoke/MethodHandle" ∧ yX7_serverEnd.cls ≠ "java/lang/invoke/VarHandle" ∧ (parseMethodDescriptor yX7_serverEnd.desc).map (fun d => d.parameters.length) = some 0 := by decide +kernel
theorem hyV_X7_serverEnd : yX7_serverEnd.cls = RX7 ∧ yX7_serverEnd.cls ≠ "java/lang/invoke/MethodHandle" ∧ yX7_serverEnd.cls ≠ "java/lang/invoke/VarHandle" ∧ (parseMethodDescriptor yX7_serverEnd.desc).map (fun d => d.parameters.length) = some 0 := by decide +kernel
theorem c_X7_serverEnd {D : va_G} (r0 : Option Nat) {h0 : PH} (l : Launch) (hl : l.stackTraces = false) (x : Int32) (h1 : PH) (hf : f_X7_serverEnd r0 h0 = some (x, h1)) : CT l D yX7_serverEnd (ws_ yX7_serverEnd cX7_serverEnd 1 (Option.some FieldType.int)) 1 24 [va_rf r0] h0 (ovi x) h1 := by
  refine ct_of hl [some (va_rf r0)] (by decide) (by rw [lgl]; simp [va_rf_cat, cat_i, cat_l]) (by simp [lv_args, vsL, va_rf_cat, cat_i, cat_l]) (fun Γ => ?_)
  obtain ⟨o, ho⟩ : ∃ o : Int32 × PH, o = (x, h1) := ⟨_, rfl⟩
  rw [← ho] at hf
  have e1 : x = o.1 := by rw [ho]
  have e2 : h1 = o.2 := by rw [ho]
  subst e1 e2
  clear ho
  show PF Γ mi_X7_serverEnd D h0 (QR Γ D h0 (ovi o.1) o.2) h0 0 [some (va_rf r0)] []
  unfold f_X7_serverEnd at hf
  refine j_aload_n 0 dX7_serverEnd_0 rfl rfl ?_
  refine j_gR (ci := 6) (k := 0) rfl in_X7 rfl q2202 dX7_serverEnd_1 hf (fun r1 hf => ?_)
  refine j_bipush (10 : Int32) dX7_serverEnd_4 (by decide) ?_
  refine j_iald dX7_serverEnd_6 hf (fun v2 hf => ?_)
  refine j_bipush (-4 : Int32) dX7_serverEnd_7 (by decide) ?_
  refine j_icmp_ne 17 dX7_serverEnd_9 (by decide) hf (fun c_ hf => ?_) (fun c_ hf => ?_)
  · refine j_aload_n 0 dX7_serverEnd_17 rfl rfl ?_
    refine j_gR (ci := 6) (k := 0) rfl in_X7 rfl q2202 dX7_serverEnd_18 hf (fun r3 hf => ?_)
    refine j_iconst (3 : Int32) dX7_serverEnd_21 (by decide) ?_
    refine j_iald dX7_serverEnd_22 hf (fun v4 hf => ?_)
    refine j_aload_n 0 dX7_serverEnd_23 rfl rfl ?_
    refine j_gR (ci := 6) (k := 0) rfl in_X7 rfl q2202 dX7_serverEnd_24 hf (fun r5 hf => ?_)
    refine j_iconst (4 : Int32) dX7_serverEnd_27 (by decide) ?_
    refine j_iald dX7_serverEnd_28 hf (fun v6 hf => ?_)
    refine j_aload_n 0 dX7_serverEnd_29 rfl rfl ?_
    refine j_gR (ci := 6) (k := 0) rfl in_X7 rfl q2202 dX7_serverEnd_30 hf (fun r7 hf => ?_)
    refine j_bipush (11 : Int32) dX7_serverEnd_33 (by decide) ?_
    refine j_iald dX7_serverEnd_35 hf (fun v8 hf => ?_)
    refine kc_X7_159 rfl rfl rfl (by decide) dX7_serverEnd_36 hf (fun v10 h9 hf => ?_)
    refine j_weak [none] (Wk.s Wk.n) ?_
    exact pf_X7_serverEnd_B39 v10 h9 hf
  · refine j_bipush (-4 : Int32) dX7_serverEnd_12 (by decide) ?_
    refine j_goto 39 dX7_serverEnd_14 (by decide) ?_
    refine j_weak [none] (Wk.s Wk.n) ?_
    exact pf_X7_serverEnd_B39 (-4 : Int32) h0 hf
abbrev mi_X7_graceLeft : MI := (cX7_graceLeft, 1, RX7, (Option.some FieldType.int), [], 2, 42, "graceLeft")
def f_X7_graceLeft (r0 : Option Nat) (h0 : PH) : Option (Int32 × PH) := pV h0 r0 6 1 (.int (0 : Int32)) fun h1 => gR h1 r0 6 0 fun r2 => aI h1 r2 0 (13 : Int32) fun v3 => rv_ h1 r0 6 (cl_ (f_X7_serverShows r0 h1) fun v5 h4 => some ((if (0 : Int32) < (v3 - v5) then (v3 - v5) else (0 : Int32)), h4))
theorem hyS_X7_graceLeft : yX7_graceLeft.cls ≠ "java/lang/invoke/MethodHandle" ∧ yX7_graceLeft.cls ≠ "java/lang/invoke/VarHandle" ∧ (parseMethodDescriptor yX7_graceLeft.desc).map (fun d => d.parameters.length) = some 0 := by decide +kernel
theorem hyV_X7_graceLeft : yX7_graceLeft.cls = RX7 ∧ yX7_graceLeft.cls ≠ "java/lang/invoke/MethodHandle" ∧ yX7_graceLeft.cls ≠ "java/lang/invoke/VarHandle" ∧ (parseMethodDescriptor yX7_graceLeft.desc).map (fun d => d.parameters.length) = some 0 := by decide +kernel
theorem c_X7_graceLeft {D : va_G} (r0 : Option Nat) {h0 : PH} (l : Launch) (hl : l.stackTraces = false) (x : Int32) (h1 : PH) (hf : f_X7_graceLeft r0 h0 = some (x, h1)) : CT l D yX7_graceLeft (ws_ yX7_graceLeft cX7_graceLeft 1 (Option.some FieldType.int)) 2 42 [va_rf r0] h0 (ovi x) h1 := by
  refine ct_of hl [some (va_rf r0)] (by decide) (by rw [lgl]; simp [va_rf_cat, cat_i, cat_l]) (by simp [lv_args, vsL, va_rf_cat, cat_i, cat_l]) (fun Γ => ?_)
  obtain ⟨o, ho⟩ : ∃ o : Int32 × PH, o = (x, h1) := ⟨_, rfl⟩
  rw [← ho] at hf
  have e1 : x = o.1 := by rw [ho]
  have e2 : h1 = o.2 := by rw [ho]
  subst e1 e2
  clear ho
  show PF Γ mi_X7_graceLeft D h0 (QR Γ D h0 (ovi o.1) o.2) h0 0 [some (va_rf r0)] []
  unfold f_X7_graceLeft at hf
  refine j_aload_n 0 dX7_graceLeft_0 rfl rfl ?_
  refine j_iconst (0 : Int32) dX7_graceLeft_1 (by decide) ?_
  refine j_pV (ci := 6) (k := 1) tyX7 tyX7_ok nmX7 rfl in_X7 rfl q2203 (Or.inl rfl) rfl (fit_i _) dX7_graceLeft_2 hf (fun h1 hf => ?_)
  refine j_iconst (0 : Int32) dX7_graceLeft_5 (by decide) ?_
  refine j_aload_n 0 dX7_graceLeft_6 rfl rfl ?_
  refine j_gR (ci := 6) (k := 0) rfl in_X7 rfl q2202 dX7_graceLeft_7 hf (fun r2 hf => ?_)
  refine j_bipush (13 : Int32) dX7_graceLeft_10 (by decide) ?_
  refine j_iald dX7_graceLeft_12 hf (fun v3 hf => ?_)
  refine j_aload_n 0 dX7_graceLeft_13 rfl rfl ?_
  refine kc_X7_176 rfl rfl rfl (by simp [va_rf_cat, cat_i, cat_l]) dX7_graceLeft_14 hf (fun v5 h4 hf => ?_)
  refine j_isub dX7_graceLeft_17 ?_
  refine j_mmax q2407 q288 q106 q289 rfl rfl (by decide) dX7_graceLeft_18 ?_
  have e9 := Option.some.inj hf
  subst e9
  exact j_iret rfl dX7_graceLeft_21
abbrev mi_X7_ofNode : MI := (cX7_ofNode, 3, RX7, (Option.some FieldType.int), [], 2, 46, "ofNode")
def f_X7_ofNode_B18 (t0 : Int32) (h : PH) : Option (Int32 × PH) := some (t0, h)
theorem pf_X7_ofNode_B18 {Γ : GX} {D : va_G} {h0 : PH} {o : Int32 × PH} (t0 : Int32) (h : PH) (hf : f_X7_ofNode_B18 t0 h = some o) : PF Γ mi_X7_ofNode D h0 (QR Γ D h0 (ovi o.1) o.2) h 18 [none, none, none] [.int t0] := by
  have e9 := Option.some.inj hf
  subst e9
  exact j_iret rfl dX7_ofNode_18
def f_X7_ofNode (r0 : Option Nat) (p0 : Int32) (p1 : Int32) (h0 : PH) : Option (Int32 × PH) := rv_ h0 r0 6 (cl_ (f_X7_noNode r0 p0 h0) fun v2 h1 => (if v2 = 0 then (rv_ h1 r0 6 (cl_ (f_X7_of r0 p0 p1 h1) fun v4 h3 => f_X7_ofNode_B18 v4 h3)) else (f_X7_ofNode_B18 (0 : Int32) h1)))
theorem hyS_X7_ofNode : yX7_ofNode.cls ≠ "java/lang/invoke/MethodHandle" ∧ yX7_ofNode.cls ≠ "java/lang/invoke/VarHandle" ∧ (parseMethodDescriptor yX7_ofNode.desc).map (fun d => d.parameters.length) = some 2 := by decide +kernel
theorem hyV_X7_ofNode : yX7_ofNode.cls = RX7 ∧ yX7_ofNode.cls ≠ "java/lang/invoke/MethodHandle" ∧ yX7_ofNode.cls ≠ "java/lang/invoke/VarHandle" ∧ (parseMethodDescriptor yX7_ofNode.desc).map (fun d => d.parameters.length) = some 2 := by decide +kernel
theorem c_X7_ofNode {D : va_G} (r0 : Option Nat) (p0 : Int32) (p1 : Int32) {h0 : PH} (l : Launch) (hl : l.stackTraces = false) (x : Int32) (h1 : PH) (hf : f_X7_ofNode r0 p0 p1 h0 = some (x, h1)) : CT l D yX7_ofNode (ws_ yX7_ofNode cX7_ofNode 3 (Option.some FieldType.int)) 2 46 [va_rf r0, .int p0, .int p1] h0 (ovi x) h1 := by
  refine ct_of hl [some (va_rf r0), some (.int p0), some (.int p1)] (by decide) (by rw [lgl]; simp [va_rf_cat, cat_i, cat_l]) (by simp [lv_args, vsL, va_rf_cat, cat_i, cat_l]) (fun Γ => ?_)
  obtain ⟨o, ho⟩ : ∃ o : Int32 × PH, o = (x, h1) := ⟨_, rfl⟩
  rw [← ho] at hf
  have e1 : x = o.1 := by rw [ho]
  have e2 : h1 = o.2 := by rw [ho]
  subst e1 e2
  clear ho
  show PF Γ mi_X7_ofNode D h0 (QR Γ D h0 (ovi o.1) o.2) h0 0 [some (va_rf r0), some (.int p0), some (.int p1)] []
  unfold f_X7_ofNode at hf
  refine j_aload_n 0 dX7_ofNode_0 rfl rfl ?_
  refine j_iload_n 1 dX7_ofNode_1 rfl rfl ?_
  refine kc_X7_172 rfl rfl rfl (by decide) dX7_ofNode_2 hf (fun v2 h1 hf => ?_)
  refine j_if_eq 12 dX7_ofNode_5 (by decide) hf (fun c_ hf => ?_) (fun c_ hf => ?_)
  · refine j_aload_n 0 dX7_ofNode_12 rfl rfl ?_
    refine j_iload_n 1 dX7_ofNode_13 rfl rfl ?_
    refine j_iload_n 2 dX7_ofNode_14 rfl rfl ?_
    refine kc_X7_152 rfl rfl rfl (by decide) dX7_ofNode_15 hf (fun v4 h3 hf => ?_)
    refine j_weak [none, none, none] (Wk.s (Wk.s (Wk.s Wk.n))) ?_
    exact pf_X7_ofNode_B18 v4 h3 hf
  · refine j_iconst (0 : Int32) dX7_ofNode_8 (by decide) ?_
    refine j_goto 18 dX7_ofNode_9 (by decide) ?_
    refine j_weak [none, none, none] (Wk.s (Wk.s (Wk.s Wk.n))) ?_
    exact pf_X7_ofNode_B18 (0 : Int32) h1 hf
abbrev mi_X7_timerTime : MI := (cX7_timerTime, 2, RX7, (Option.some FieldType.int), [], 2, 46, "timerTime")
def f_X7_timerTime_B33 (t0 : Int32) (h : PH) : Option (Int32 × PH) := some (t0, h)
theorem pf_X7_timerTime_B33 {Γ : GX} {D : va_G} {h0 : PH} {o : Int32 × PH} (t0 : Int32) (h : PH) (hf : f_X7_timerTime_B33 t0 h = some o) : PF Γ mi_X7_timerTime D h0 (QR Γ D h0 (ovi o.1) o.2) h 33 [none, none] [.int t0] := by
  have e9 := Option.some.inj hf
  subst e9
  exact j_iret rfl dX7_timerTime_33
def f_X7_timerTime (r0 : Option Nat) (p0 : Int32) (h0 : PH) : Option (Int32 × PH) := rv_ h0 r0 6 (cl_ (f_X7_noNode r0 p0 h0) fun v2 h1 => (if v2 = 0 then (rv_ h1 r0 6 (cl_ (f_X7_of r0 p0 (9 : Int32) h1) fun v4 h3 => (if v4 = (-1 : Int32) then (f_X7_timerTime_B33 (-4 : Int32) h3) else (rv_ h3 r0 6 (cl_ (f_X7_of r0 p0 (9 : Int32) h3) fun v6 h5 => f_X7_timerTime_B33 v6 h5))))) else (some ((0 : Int32), h1))))
theorem hyS_X7_timerTime : yX7_timerTime.cls ≠ "java/lang/invoke/MethodHandle" ∧ yX7_timerTime.cls ≠ "java/lang/invoke/VarHandle" ∧ (parseMethodDescriptor yX7_timerTime.desc).map (fun d => d.parameters.length) = some 1 := by decide +kernel
theorem hyV_X7_timerTime : yX7_timerTime.cls = RX7 ∧ yX7_timerTime.cls ≠ "java/lang/invoke/MethodHandle" ∧ yX7_timerTime.cls ≠ "java/lang/invoke/VarHandle" ∧ (parseMethodDescriptor yX7_timerTime.desc).map (fun d => d.parameters.length) = some 1 := by decide +kernel
theorem c_X7_timerTime {D : va_G} (r0 : Option Nat) (p0 : Int32) {h0 : PH} (l : Launch) (hl : l.stackTraces = false) (x : Int32) (h1 : PH) (hf : f_X7_timerTime r0 p0 h0 = some (x, h1)) : CT l D yX7_timerTime (ws_ yX7_timerTime cX7_timerTime 2 (Option.some FieldType.int)) 2 46 [va_rf r0, .int p0] h0 (ovi x) h1 := by
  refine ct_of hl [some (va_rf r0), some (.int p0)] (by decide) (by rw [lgl]; simp [va_rf_cat, cat_i, cat_l]) (by simp [lv_args, vsL, va_rf_cat, cat_i, cat_l]) (fun Γ => ?_)
  obtain ⟨o, ho⟩ : ∃ o : Int32 × PH, o = (x, h1) := ⟨_, rfl⟩
  rw [← ho] at hf
  have e1 : x = o.1 := by rw [ho]
  have e2 : h1 = o.2 := by rw [ho]
  subst e1 e2
  clear ho
  show PF Γ mi_X7_timerTime D h0 (QR Γ D h0 (ovi o.1) o.2) h0 0 [some (va_rf r0), some (.int p0)] []
  unfold f_X7_timerTime at hf
  refine j_aload_n 0 dX7_timerTime_0 rfl rfl ?_
  refine j_iload_n 1 dX7_timerTime_1 rfl rfl ?_
  refine kc_X7_172 rfl rfl rfl (by decide) dX7_timerTime_2 hf (fun v2 h1 hf => ?_)
  refine j_if_eq 10 dX7_timerTime_5 (by decide) hf (fun c_ hf => ?_) (fun c_ hf => ?_)
  · refine j_aload_n 0 dX7_timerTime_10 rfl rfl ?_
    refine j_iload_n 1 dX7_timerTime_11 rfl rfl ?_
    refine j_bipush (9 : Int32) dX7_timerTime_12 (by decide) ?_
    refine kc_X7_152 rfl rfl rfl (by decide) dX7_timerTime_14 hf (fun v4 h3 hf => ?_)
    refine j_iconst (-1 : Int32) dX7_timerTime_17 (by decide) ?_
    refine j_icmp_ne 26 dX7_timerTime_18 (by decide) hf (fun c_ hf => ?_) (fun c_ hf => ?_)
    · refine j_aload_n 0 dX7_timerTime_26 rfl rfl ?_
      refine j_iload_n 1 dX7_timerTime_27 rfl rfl ?_
      refine j_bipush (9 : Int32) dX7_timerTime_28 (by decide) ?_
      refine kc_X7_152 rfl rfl rfl (by decide) dX7_timerTime_30 hf (fun v6 h5 hf => ?_)
      refine j_weak [none, none] (Wk.s (Wk.s Wk.n)) ?_
      exact pf_X7_timerTime_B33 v6 h5 hf
    · refine j_bipush (-4 : Int32) dX7_timerTime_21 (by decide) ?_
      refine j_goto 33 dX7_timerTime_23 (by decide) ?_
      refine j_weak [none, none] (Wk.s (Wk.s Wk.n)) ?_
      exact pf_X7_timerTime_B33 (-4 : Int32) h3 hf
  · refine j_iconst (0 : Int32) dX7_timerTime_8 (by decide) ?_
    have e9 := Option.some.inj hf
    subst e9
    exact j_iret rfl dX7_timerTime_9
abbrev mi_X7_nodeState : MI := (cX7_nodeState, 2, RX7, (Option.some FieldType.int), [], 2, 46, "nodeState")
def f_X7_nodeState_B29 (x0 : Option Nat) (x1 : Int32) (t0 : Int32) (t1 : Int32) (h : PH) : Option (Int32 × PH) := rv_ h x0 6 (cl_ (f_X7_of x0 x1 (5 : Int32) h) fun v8 h7 => rv_ h7 x0 6 (cl_ (f_X7_of x0 x1 (6 : Int32) h7) fun v10 h9 => some ((((t0 + t1) + ((4 : Int32) * v8)) + ((8 : Int32) * v10)), h9)))
theorem pf_X7_nodeState_B29 {Γ : GX} {D : va_G} {h0 : PH} {o : Int32 × PH} (x0 : Option Nat) (x1 : Int32) (t0 : Int32) (t1 : Int32) (h : PH) (hf : f_X7_nodeState_B29 x0 x1 t0 t1 h = some o) : PF Γ mi_X7_nodeState D h0 (QR Γ D h0 (ovi o.1) o.2) h 29 [some (va_rf x0), some (.int x1)] [.int t1, .int t0] := by
  refine j_iadd dX7_nodeState_29 ?_
  refine j_iconst (4 : Int32) dX7_nodeState_30 (by decide) ?_
  refine j_aload_n 0 dX7_nodeState_31 rfl rfl ?_
  refine j_iload_n 1 dX7_nodeState_32 rfl rfl ?_
  refine j_iconst (5 : Int32) dX7_nodeState_33 (by decide) ?_
  refine kc_X7_152 rfl rfl rfl (by simp [va_rf_cat, cat_i, cat_l]) dX7_nodeState_34 hf (fun v8 h7 hf => ?_)
  refine j_imul dX7_nodeState_37 ?_
  refine j_iadd dX7_nodeState_38 ?_
  refine j_bipush (8 : Int32) dX7_nodeState_39 (by decide) ?_
  refine j_aload_n 0 dX7_nodeState_41 rfl rfl ?_
  refine j_iload_n 1 dX7_nodeState_42 rfl rfl ?_
  refine j_bipush (6 : Int32) dX7_nodeState_43 (by decide) ?_
  refine kc_X7_152 rfl rfl rfl (by simp [va_rf_cat, cat_i, cat_l]) dX7_nodeState_45 hf (fun v10 h9 hf => ?_)
  refine j_imul dX7_nodeState_48 ?_
  refine j_iadd dX7_nodeState_49 ?_
  have e9 := Option.some.inj hf
  subst e9
  exact j_iret rfl dX7_nodeState_50
def f_X7_nodeState (r0 : Option Nat) (p0 : Int32) (h0 : PH) : Option (Int32 × PH) := rv_ h0 r0 6 (cl_ (f_X7_noNode r0 p0 h0) fun v2 h1 => (if v2 = 0 then (rv_ h1 r0 6 (cl_ (f_X7_of r0 p0 (3 : Int32) h1) fun v4 h3 => rv_ h3 r0 6 (cl_ (f_X7_isPaused r0 p0 h3) fun v6 h5 => (if v6 = 0 then (f_X7_nodeState_B29 r0 p0 v4 (0 : Int32) h5) else (f_X7_nodeState_B29 r0 p0 v4 (2 : Int32) h5))))) else (some ((0 : Int32), h1))))
theorem hyS_X7_nodeState : yX7_nodeState.cls ≠ "java/lang/invoke/MethodHandle" ∧ yX7_nodeState.cls ≠ "java/lang/invoke/VarHandle" ∧ (parseMethodDescriptor yX7_nodeState.desc).map (fun d => d.parameters.length) = some 1 := by decide +kernel
theorem hyV_X7_nodeState : yX7_nodeState.cls = RX7 ∧ yX7_nodeState.cls ≠ "java/lang/invoke/MethodHandle" ∧ yX7_nodeState.cls ≠ "java/lang/invoke/VarHandle" ∧ (parseMethodDescriptor yX7_nodeState.desc).map (fun d => d.parameters.length) = some 1 := by decide +kernel
theorem c_X7_nodeState {D : va_G} (r0 : Option Nat) (p0 : Int32) {h0 : PH} (l : Launch) (hl : l.stackTraces = false) (x : Int32) (h1 : PH) (hf : f_X7_nodeState r0 p0 h0 = some (x, h1)) : CT l D yX7_nodeState (ws_ yX7_nodeState cX7_nodeState 2 (Option.some FieldType.int)) 2 46 [va_rf r0, .int p0] h0 (ovi x) h1 := by
  refine ct_of hl [some (va_rf r0), some (.int p0)] (by decide) (by rw [lgl]; simp [va_rf_cat, cat_i, cat_l]) (by simp [lv_args, vsL, va_rf_cat, cat_i, cat_l]) (fun Γ => ?_)
  obtain ⟨o, ho⟩ : ∃ o : Int32 × PH, o = (x, h1) := ⟨_, rfl⟩
  rw [← ho] at hf
  have e1 : x = o.1 := by rw [ho]
  have e2 : h1 = o.2 := by rw [ho]
  subst e1 e2
  clear ho
  show PF Γ mi_X7_nodeState D h0 (QR Γ D h0 (ovi o.1) o.2) h0 0 [some (va_rf r0), some (.int p0)] []
  unfold f_X7_nodeState at hf
  refine j_aload_n 0 dX7_nodeState_0 rfl rfl ?_
  refine j_iload_n 1 dX7_nodeState_1 rfl rfl ?_
  refine kc_X7_172 rfl rfl rfl (by decide) dX7_nodeState_2 hf (fun v2 h1 hf => ?_)
  refine j_if_eq 10 dX7_nodeState_5 (by decide) hf (fun c_ hf => ?_) (fun c_ hf => ?_)
  · refine j_aload_n 0 dX7_nodeState_10 rfl rfl ?_
    refine j_iload_n 1 dX7_nodeState_11 rfl rfl ?_
    refine j_iconst (3 : Int32) dX7_nodeState_12 (by decide) ?_
    refine kc_X7_152 rfl rfl rfl (by decide) dX7_nodeState_13 hf (fun v4 h3 hf => ?_)
    refine j_aload_n 0 dX7_nodeState_16 rfl rfl ?_
    refine j_iload_n 1 dX7_nodeState_17 rfl rfl ?_
    refine kc_X7_229 rfl rfl rfl (by simp [va_rf_cat, cat_i, cat_l]) dX7_nodeState_18 hf (fun v6 h5 hf => ?_)
    refine j_if_eq 28 dX7_nodeState_21 (by decide) hf (fun c_ hf => ?_) (fun c_ hf => ?_)
    · refine j_iconst (0 : Int32) dX7_nodeState_28 (by decide) ?_
      exact pf_X7_nodeState_B29 r0 p0 v4 (0 : Int32) h5 hf
    · refine j_iconst (2 : Int32) dX7_nodeState_24 (by decide) ?_
      refine j_goto 29 dX7_nodeState_25 (by decide) ?_
      exact pf_X7_nodeState_B29 r0 p0 v4 (2 : Int32) h5 hf
  · refine j_iconst (0 : Int32) dX7_nodeState_8 (by decide) ?_
    have e9 := Option.some.inj hf
    subst e9
    exact j_iret rfl dX7_nodeState_9
theorem kc_X7_313 {Γ : GX} {I : MI} {D : va_G} {h0 : PH} {Q : State → Prop} {h : PH} {pc : Nat} {vs : List (Option Value)} {rest : List Value} {β : Type} {o : β} {r : Option Nat} {p0 : Int32} {p1 : Int32} {K : ((Int32) → PH → Option β)} (hI : I.2.2.1 = RX7) (hfr : Nat.ble 3 I.2.2.2.2.2.1 = true) (hlo : Nat.ble 68 I.2.2.2.2.2.2.1 = true) (hW : (rest.map fun v => v.category).sum ≤ 8) (hd : decode I.1 pc = .ok (.invokevirtual 313, 3)) (hf : rv_ h r 6 (cl_ (f_X7_ofNode r p0 p1 h) K) = some o) (kk : ∀ (x : Int32) (h1 : PH), K x h1 = some o → PF Γ I D h0 Q h1 (pc + 3) vs (.int x :: rest)) : PF Γ I D h0 Q h pc vs (.int p1 :: .int p0 :: va_rf r :: rest) := by
  obtain ⟨cc, nL, own, rt, xt, fr, lo, nm⟩ := I
  cases hI
  exact j_cVi (n := 2) (y := yX7_ofNode) (cc2 := cX7_ofNode) (As := [.int p0, .int p1]) (C := RX7) (ci := 6) rfl (lw_V q2621 q2623 qs83 q117 q2624) hyV_X7_ofNode hfr hlo rfl hW hd (c_X7_ofNode r p0 p1) hf _ rfl kk
abbrev mi_X7_cached : MI := (cX7_cached, 2, RX7, (Option.some FieldType.int), [], 3, 68, "cached")
def f_X7_cached (r0 : Option Nat) (p0 : Int32) (h0 : PH) : Option (Int32 × PH) := rv_ h0 r0 6 (cl_ (f_X7_ofNode r0 p0 (11 : Int32) h0) fun v2 h1 => some (v2, h1))
theorem hyS_X7_cached : yX7_cached.cls ≠ "java/lang/invoke/MethodHandle" ∧ yX7_cached.cls ≠ "java/lang/invoke/VarHandle" ∧ (parseMethodDescriptor yX7_cached.desc).map (fun d => d.parameters.length) = some 1 := by decide +kernel
theorem hyV_X7_cached : yX7_cached.cls = RX7 ∧ yX7_cached.cls ≠ "java/lang/invoke/MethodHandle" ∧ yX7_cached.cls ≠ "java/lang/invoke/VarHandle" ∧ (parseMethodDescriptor yX7_cached.desc).map (fun d => d.parameters.length) = some 1 := by decide +kernel
theorem c_X7_cached {D : va_G} (r0 : Option Nat) (p0 : Int32) {h0 : PH} (l : Launch) (hl : l.stackTraces = false) (x : Int32) (h1 : PH) (hf : f_X7_cached r0 p0 h0 = some (x, h1)) : CT l D yX7_cached (ws_ yX7_cached cX7_cached 2 (Option.some FieldType.int)) 3 68 [va_rf r0, .int p0] h0 (ovi x) h1 := by
  refine ct_of hl [some (va_rf r0), some (.int p0)] (by decide) (by rw [lgl]; simp [va_rf_cat, cat_i, cat_l]) (by simp [lv_args, vsL, va_rf_cat, cat_i, cat_l]) (fun Γ => ?_)
  obtain ⟨o, ho⟩ : ∃ o : Int32 × PH, o = (x, h1) := ⟨_, rfl⟩
  rw [← ho] at hf
  have e1 : x = o.1 := by rw [ho]
  have e2 : h1 = o.2 := by rw [ho]
  subst e1 e2
  clear ho
  show PF Γ mi_X7_cached D h0 (QR Γ D h0 (ovi o.1) o.2) h0 0 [some (va_rf r0), some (.int p0)] []
  unfold f_X7_cached at hf
  refine j_aload_n 0 dX7_cached_0 rfl rfl ?_
  refine j_iload_n 1 dX7_cached_1 rfl rfl ?_
  refine j_bipush (11 : Int32) dX7_cached_2 (by decide) ?_
  refine kc_X7_313 rfl rfl rfl (by decide) dX7_cached_4 hf (fun v2 h1 hf => ?_)
  have e9 := Option.some.inj hf
  subst e9
  exact j_iret rfl dX7_cached_7
abbrev mi_X7_smallestBound : MI := (cX7_smallestBound, 3, RX7, (Option.some FieldType.int), [], 1, 24, "smallestBound")
def f_X7_smallestBound_L21 : Nat → Option Nat → Int32 → Int32 → PH → Option (Int32 × PH)
  | 0, _, _, _, _ => none
  | n + 1, x0, x1, x2, h => gR h x0 6 0 fun r4 => aI h r4 0 (2 : Int32) fun v5 => (if v5 ≤ x2 then (some (x1, h)) else (rv_ h x0 6 (cl_ (f_X7_of x0 x2 (0 : Int32) h) fun v7 h6 => f_X7_smallestBound_L21 n x0 (if x1 < (if 0 ≤ (v7 - (1000 : Int32)) then (v7 - (1000 : Int32)) else 0 - (v7 - (1000 : Int32))) then (if 0 ≤ (v7 - (1000 : Int32)) then (v7 - (1000 : Int32)) else 0 - (v7 - (1000 : Int32))) else x1) (x2 + (1 : Int32)) h6)))
theorem pf_X7_smallestBound_L21 {Γ : GX} {D : va_G} {h0 : PH} {o : Int32 × PH} : ∀ (n : Nat) (x0 : Option Nat) (x1 : Int32) (x2 : Int32) (h : PH), f_X7_smallestBound_L21 n x0 x1 x2 h = some o → PF Γ mi_X7_smallestBound D h0 (QR Γ D h0 (ovi o.1) o.2) h 21 [some (va_rf x0), some (.int x1), some (.int x2)] [] := by
  intro n
  induction n with
  | zero => intro x0 x1 x2 h hf; cases hf
  | succ n ih =>
    intro x0 x1 x2 h hf
    refine j_iload_n 2 dX7_smallestBound_21 rfl rfl ?_
    refine j_aload_n 0 dX7_smallestBound_22 rfl rfl ?_
    refine j_gR (ci := 6) (k := 0) rfl in_X7 rfl q2202 dX7_smallestBound_23 hf (fun r4 hf => ?_)
    refine j_iconst (2 : Int32) dX7_smallestBound_26 (by decide) ?_
    refine j_iald dX7_smallestBound_27 hf (fun v5 hf => ?_)
    refine j_icmp_ge 55 dX7_smallestBound_28 (by decide) hf (fun c_ hf => ?_) (fun c_ hf => ?_)
    · refine j_iload_n 1 dX7_smallestBound_55 rfl rfl ?_
      have e9 := Option.some.inj hf
      subst e9
      exact j_iret rfl dX7_smallestBound_56
    · refine j_iload_n 1 dX7_smallestBound_31 rfl rfl ?_
      refine j_aload_n 0 dX7_smallestBound_32 rfl rfl ?_
      refine j_iload_n 2 dX7_smallestBound_33 rfl rfl ?_
      refine j_iconst (0 : Int32) dX7_smallestBound_34 (by decide) ?_
      refine kc_X7_152 rfl rfl rfl (by simp [va_rf_cat, cat_i, cat_l]) dX7_smallestBound_35 hf (fun v7 h6 hf => ?_)
      refine j_sipush (1000 : Int32) dX7_smallestBound_38 (by decide) ?_
      refine j_isub dX7_smallestBound_41 ?_
      refine j_mabs q2653 q1664 q106 q1665 rfl rfl (by simp [va_rf_cat, cat_i, cat_l]) dX7_smallestBound_42 ?_
      refine j_mmax q2407 q288 q106 q289 rfl rfl (by decide) dX7_smallestBound_45 ?_
      refine j_istore_n 1 [some (va_rf x0), some (.int (if x1 < (if 0 ≤ (v7 - (1000 : Int32)) then (v7 - (1000 : Int32)) else 0 - (v7 - (1000 : Int32))) then (if 0 ≤ (v7 - (1000 : Int32)) then (v7 - (1000 : Int32)) else 0 - (v7 - (1000 : Int32))) else x1)), some (.int x2)] dX7_smallestBound_48 rfl (cz (va_rf_cat _)) rfl rfl ?_
      refine j_iinc (x2 + (1 : Int32)) [some (va_rf x0), some (.int (if x1 < (if 0 ≤ (v7 - (1000 : Int32)) then (v7 - (1000 : Int32)) else 0 - (v7 - (1000 : Int32))) then (if 0 ≤ (v7 - (1000 : Int32)) then (v7 - (1000 : Int32)) else 0 - (v7 - (1000 : Int32))) else x1)), some (.int (x2 + (1 : Int32)))] dX7_smallestBound_49 rfl rfl (cz rfl) rfl rfl ?_
      refine j_goto 21 dX7_smallestBound_52 (by decide) ?_
      exact ih x0 (if x1 < (if 0 ≤ (v7 - (1000 : Int32)) then (v7 - (1000 : Int32)) else 0 - (v7 - (1000 : Int32))) then (if 0 ≤ (v7 - (1000 : Int32)) then (v7 - (1000 : Int32)) else 0 - (v7 - (1000 : Int32))) else x1) (x2 + (1 : Int32)) h6 hf
def f_X7_smallestBound (r0 : Option Nat) (h0 : PH) : Option (Int32 × PH) := pV h0 r0 6 1 (.int (0 : Int32)) fun h1 => gR h1 r0 6 0 fun r2 => aI h1 r2 0 (3 : Int32) fun v3 => f_X7_smallestBound_L21 FU r0 (if 0 ≤ (v3 - (1000 : Int32)) then (v3 - (1000 : Int32)) else 0 - (v3 - (1000 : Int32))) (0 : Int32) h1
theorem hyS_X7_smallestBound : yX7_smallestBound.cls ≠ "java/lang/invoke/MethodHandle" ∧ yX7_smallestBound.cls ≠ "java/lang/invoke/VarHandle" ∧ (parseMethodDescriptor yX7_smallestBound.desc).map (fun d => d.parameters.length) = some 0 := by decide +kernel
theorem hyV_X7_smallestBound : yX7_smallestBound.cls = RX7 ∧ yX7_smallestBound.cls ≠ "java/lang/invoke/MethodHandle" ∧ yX7_smallestBound.cls ≠ "java/lang/invoke/VarHandle" ∧ (parseMethodDescriptor yX7_smallestBound.desc).map (fun d => d.parameters.length) = some 0 := by decide +kernel
theorem c_X7_smallestBound {D : va_G} (r0 : Option Nat) {h0 : PH} (l : Launch) (hl : l.stackTraces = false) (x : Int32) (h1 : PH) (hf : f_X7_smallestBound r0 h0 = some (x, h1)) : CT l D yX7_smallestBound (ws_ yX7_smallestBound cX7_smallestBound 3 (Option.some FieldType.int)) 1 24 [va_rf r0] h0 (ovi x) h1 := by
  refine ct_of hl [some (va_rf r0), none, none] (by decide) (by rw [lgl]; simp [va_rf_cat, cat_i, cat_l]) (by simp [lv_args, vsL, va_rf_cat, cat_i, cat_l]) (fun Γ => ?_)
  obtain ⟨o, ho⟩ : ∃ o : Int32 × PH, o = (x, h1) := ⟨_, rfl⟩
  rw [← ho] at hf
  have e1 : x = o.1 := by rw [ho]
  have e2 : h1 = o.2 := by rw [ho]
  subst e1 e2
  clear ho
  show PF Γ mi_X7_smallestBound D h0 (QR Γ D h0 (ovi o.1) o.2) h0 0 [some (va_rf r0), none, none] []
  unfold f_X7_smallestBound at hf
  refine j_aload_n 0 dX7_smallestBound_0 rfl rfl ?_
  refine j_iconst (0 : Int32) dX7_smallestBound_1 (by decide) ?_
  refine j_pV (ci := 6) (k := 1) tyX7 tyX7_ok nmX7 rfl in_X7 rfl q2203 (Or.inl rfl) rfl (fit_i _) dX7_smallestBound_2 hf (fun h1 hf => ?_)
  refine j_aload_n 0 dX7_smallestBound_5 rfl rfl ?_
  refine j_gR (ci := 6) (k := 0) rfl in_X7 rfl q2202 dX7_smallestBound_6 hf (fun r2 hf => ?_)
  refine j_iconst (3 : Int32) dX7_smallestBound_9 (by decide) ?_
  refine j_iald dX7_smallestBound_10 hf (fun v3 hf => ?_)
  refine j_sipush (1000 : Int32) dX7_smallestBound_11 (by decide) ?_
  refine j_isub dX7_smallestBound_14 ?_
  refine j_mabs q2653 q1664 q106 q1665 rfl rfl (by decide) dX7_smallestBound_15 ?_
  refine j_istore_n 1 [some (va_rf r0), some (.int (if 0 ≤ (v3 - (1000 : Int32)) then (v3 - (1000 : Int32)) else 0 - (v3 - (1000 : Int32)))), none] dX7_smallestBound_18 rfl (cz (va_rf_cat _)) rfl rfl ?_
  refine j_iconst (0 : Int32) dX7_smallestBound_19 (by decide) ?_
  refine j_istore_n 2 [some (va_rf r0), some (.int (if 0 ≤ (v3 - (1000 : Int32)) then (v3 - (1000 : Int32)) else 0 - (v3 - (1000 : Int32)))), some (.int (0 : Int32))] dX7_smallestBound_20 rfl (cz rfl) rfl rfl ?_
  exact pf_X7_smallestBound_L21 FU r0 (if 0 ≤ (v3 - (1000 : Int32)) then (v3 - (1000 : Int32)) else 0 - (v3 - (1000 : Int32))) (0 : Int32) h1 hf
theorem kc_X7_226 {Γ : GX} {I : MI} {D : va_G} {h0 : PH} {Q : State → Prop} {h : PH} {pc : Nat} {vs : List (Option Value)} {rest : List Value} {β : Type} {o : β} {r : Option Nat} {p0 : Int32} {K : ((Int32) → PH → Option β)} (hI : I.2.2.1 = RX7) (hfr : Nat.ble 1 I.2.2.2.2.2.1 = true) (hlo : Nat.ble 21 I.2.2.2.2.2.2.1 = true) (hW : (rest.map fun v => v.category).sum ≤ 8) (hd : decode I.1 pc = .ok (.invokevirtual 226, 3)) (hf : rv_ h r 6 (cl_ (f_X7_isToNode r p0 h) K) = some o) (kk : ∀ (x : Int32) (h1 : PH), K x h1 = some o → PF Γ I D h0 Q h1 (pc + 3) vs (.int x :: rest)) : PF Γ I D h0 Q h pc vs (.int p0 :: va_rf r :: rest) := by
  obtain ⟨cc, nL, own, rt, xt, fr, lo, nm⟩ := I
  cases hI
  exact j_cVi (n := 1) (y := yX7_isToNode) (cc2 := cX7_isToNode) (As := [.int p0]) (C := RX7) (ci := 6) rfl (lw_V q2424 q2426 qs60 q117 q2427) hyV_X7_isToNode hfr hlo rfl hW hd (c_X7_isToNode r p0) hf _ rfl kk
abbrev mi_X7_comesAt : MI := (cX7_comesAt, 3, RX7, (Option.some FieldType.int), [], 1, 24, "comesAt")
def f_X7_comesAt_B57 (t0 : Int32) (h : PH) : Option (Int32 × PH) := some (t0, h)
theorem pf_X7_comesAt_B57 {Γ : GX} {D : va_G} {h0 : PH} {o : Int32 × PH} (t0 : Int32) (h : PH) (hf : f_X7_comesAt_B57 t0 h = some o) : PF Γ mi_X7_comesAt D h0 (QR Γ D h0 (ovi o.1) o.2) h 57 [none, none, none] [.int t0] := by
  have e9 := Option.some.inj hf
  subst e9
  exact j_iret rfl dX7_comesAt_57
def f_X7_comesAt (r0 : Option Nat) (p0 : Int32) (h0 : PH) : Option (Int32 × PH) := gR h0 r0 6 0 fun r1 => aI h0 r1 0 ((1136 : Int32) + ((6 : Int32) * p0)) fun v2 => rv_ h0 r0 6 (cl_ (f_X7_isToNode r0 v2 h0) fun v4 h3 => (if v4 = 0 then (gR h3 r0 6 0 fun r5 => aI h3 r5 0 (((1136 : Int32) + ((6 : Int32) * p0)) + (2 : Int32)) fun v6 => f_X7_comesAt_B57 v6 h3) else (gR h3 r0 6 0 fun r7 => aI h3 r7 0 (((1136 : Int32) + ((6 : Int32) * p0)) + (2 : Int32)) fun v8 => gR h3 r0 6 0 fun r9 => aI h3 r9 0 (((1136 : Int32) + ((6 : Int32) * p0)) + (1 : Int32)) fun v10 => rv_ h3 r0 6 (cl_ (f_X7_of r0 v10 (4 : Int32) h3) fun v12 h11 => f_X7_comesAt_B57 (if v8 < v12 then v12 else v8) h11))))
theorem hyS_X7_comesAt : yX7_comesAt.cls ≠ "java/lang/invoke/MethodHandle" ∧ yX7_comesAt.cls ≠ "java/lang/invoke/VarHandle" ∧ (parseMethodDescriptor yX7_comesAt.desc).map (fun d => d.parameters.length) = some 1 := by decide +kernel
theorem hyV_X7_comesAt : yX7_comesAt.cls = RX7 ∧ yX7_comesAt.cls ≠ "java/lang/invoke/MethodHandle" ∧ yX7_comesAt.cls ≠ "java/lang/invoke/VarHandle" ∧ (parseMethodDescriptor yX7_comesAt.desc).map (fun d => d.parameters.length) = some 1 := by decide +kernel
theorem c_X7_comesAt {D : va_G} (r0 : Option Nat) (p0 : Int32) {h0 : PH} (l : Launch) (hl : l.stackTraces = false) (x : Int32) (h1 : PH) (hf : f_X7_comesAt r0 p0 h0 = some (x, h1)) : CT l D yX7_comesAt (ws_ yX7_comesAt cX7_comesAt 3 (Option.some FieldType.int)) 1 24 [va_rf r0, .int p0] h0 (ovi x) h1 := by
  refine ct_of hl [some (va_rf r0), some (.int p0), none] (by decide) (by rw [lgl]; simp [va_rf_cat, cat_i, cat_l]) (by simp [lv_args, vsL, va_rf_cat, cat_i, cat_l]) (fun Γ => ?_)
  obtain ⟨o, ho⟩ : ∃ o : Int32 × PH, o = (x, h1) := ⟨_, rfl⟩
  rw [← ho] at hf
  have e1 : x = o.1 := by rw [ho]
  have e2 : h1 = o.2 := by rw [ho]
  subst e1 e2
  clear ho
  show PF Γ mi_X7_comesAt D h0 (QR Γ D h0 (ovi o.1) o.2) h0 0 [some (va_rf r0), some (.int p0), none] []
  unfold f_X7_comesAt at hf
  refine j_sipush (1136 : Int32) dX7_comesAt_0 (by decide) ?_
  refine j_bipush (6 : Int32) dX7_comesAt_3 (by decide) ?_
  refine j_iload_n 1 dX7_comesAt_5 rfl rfl ?_
  refine j_imul dX7_comesAt_6 ?_
  refine j_iadd dX7_comesAt_7 ?_
  refine j_istore_n 2 [some (va_rf r0), some (.int p0), some (.int ((1136 : Int32) + ((6 : Int32) * p0)))] dX7_comesAt_8 rfl (cz rfl) rfl rfl ?_
  refine j_aload_n 0 dX7_comesAt_9 rfl rfl ?_
  refine j_aload_n 0 dX7_comesAt_10 rfl rfl ?_
  refine j_gR (ci := 6) (k := 0) rfl in_X7 rfl q2202 dX7_comesAt_11 hf (fun r1 hf => ?_)
  refine j_iload_n 2 dX7_comesAt_14 rfl rfl ?_
  refine j_iald dX7_comesAt_15 hf (fun v2 hf => ?_)
  refine kc_X7_226 rfl rfl rfl (by decide) dX7_comesAt_16 hf (fun v4 h3 hf => ?_)
  refine j_if_eq 49 dX7_comesAt_19 (by decide) hf (fun c_ hf => ?_) (fun c_ hf => ?_)
  · refine j_aload_n 0 dX7_comesAt_49 rfl rfl ?_
    refine j_gR (ci := 6) (k := 0) rfl in_X7 rfl q2202 dX7_comesAt_50 hf (fun r5 hf => ?_)
    refine j_iload_n 2 dX7_comesAt_53 rfl rfl ?_
    refine j_iconst (2 : Int32) dX7_comesAt_54 (by decide) ?_
    refine j_iadd dX7_comesAt_55 ?_
    refine j_iald dX7_comesAt_56 hf (fun v6 hf => ?_)
    refine j_weak [none, none, none] (Wk.s (Wk.s (Wk.s Wk.n))) ?_
    exact pf_X7_comesAt_B57 v6 h3 hf
  · refine j_aload_n 0 dX7_comesAt_22 rfl rfl ?_
    refine j_gR (ci := 6) (k := 0) rfl in_X7 rfl q2202 dX7_comesAt_23 hf (fun r7 hf => ?_)
    refine j_iload_n 2 dX7_comesAt_26 rfl rfl ?_
    refine j_iconst (2 : Int32) dX7_comesAt_27 (by decide) ?_
    refine j_iadd dX7_comesAt_28 ?_
    refine j_iald dX7_comesAt_29 hf (fun v8 hf => ?_)
    refine j_aload_n 0 dX7_comesAt_30 rfl rfl ?_
    refine j_aload_n 0 dX7_comesAt_31 rfl rfl ?_
    refine j_gR (ci := 6) (k := 0) rfl in_X7 rfl q2202 dX7_comesAt_32 hf (fun r9 hf => ?_)
    refine j_iload_n 2 dX7_comesAt_35 rfl rfl ?_
    refine j_iconst (1 : Int32) dX7_comesAt_36 (by decide) ?_
    refine j_iadd dX7_comesAt_37 ?_
    refine j_iald dX7_comesAt_38 hf (fun v10 hf => ?_)
    refine j_iconst (4 : Int32) dX7_comesAt_39 (by decide) ?_
    refine kc_X7_152 rfl rfl rfl (by simp [va_rf_cat, cat_i, cat_l]) dX7_comesAt_40 hf (fun v12 h11 hf => ?_)
    refine j_mmax q2407 q288 q106 q289 rfl rfl (by decide) dX7_comesAt_43 ?_
    refine j_goto 57 dX7_comesAt_46 (by decide) ?_
    refine j_weak [none, none, none] (Wk.s (Wk.s (Wk.s Wk.n))) ?_
    exact pf_X7_comesAt_B57 (if v8 < v12 then v12 else v8) h11 hf
