/-! printed by gen.py: X16_init_2 X17_init X20_next X20_init X21_init X3_init X9_init_X10 X9_init_X11 X9_init_X12 X9_init_X13 X9_position_X10 X9_position_X11 X9_position_X12 X9_position_X13 X10_init X11_init X12_init X13_init X14_init X14_number X14_position X18_init X19_init X19_token X5_see X5_write X16_postponedTo X5_fetch -/
set_option maxRecDepth 100000
abbrev mi_X16_init_2 : MI := (cX16_init_2, 6, RX16, none, [], 1, 20, "<init>")
def f_X16_init_2 (a0 : Nat) (p0 : Option Nat) (p1 : Int32) (p2 : Int32) (p3 : Option Nat) (p4 : Int32) (h0 : PH) : Option (Unit × PH) := pV h0 (some a0) 13 0 (va_rf p0) fun h1 => pV h1 (some a0) 13 1 (.int p1) fun h2 => pV h2 (some a0) 13 2 (.int p2) fun h3 => aI h3 p3 0 (0 : Int32) fun v4 => pV h3 (some a0) 13 3 (.int v4) fun h5 => aI h5 p3 0 (1 : Int32) fun v6 => pV h5 (some a0) 13 4 (.int v6) fun h7 => aI h7 p3 0 (2 : Int32) fun v8 => pV h7 (some a0) 13 5 (.int v8) fun h9 => pV h9 (some a0) 13 6 (.int p4) fun h10 => some ((), h10)
theorem hyS_X16_init_2 : yX16_init_2.cls ≠ "java/lang/invoke/MethodHandle" ∧ yX16_init_2.cls ≠ "java/lang/invoke/VarHandle" ∧ (parseMethodDescriptor yX16_init_2.desc).map (fun d => d.parameters.length) = some 5 := by decide +kernel
theorem c_X16_init_2 {D : va_G} (a0 : Nat) (p0 : Option Nat) (p1 : Int32) (p2 : Int32) (p3 : Option Nat) (p4 : Int32) {h0 : PH} (l : Launch) (hl : l.stackTraces = false) (x : Unit) (h1 : PH) (hf : f_X16_init_2 a0 p0 p1 p2 p3 p4 h0 = some (x, h1)) : CT l D yX16_init_2 (ws_ yX16_init_2 cX16_init_2 6 none) 1 20 [va_rf (some a0), va_rf p0, .int p1, .int p2, va_rf p3, .int p4] h0 (ovv x) h1 := by
  refine ct_of hl [some (va_rf (some a0)), some (va_rf p0), some (.int p1), some (.int p2), some (va_rf p3), some (.int p4)] (by decide) (by rw [lgl]; simp [va_rf_cat, cat_i, cat_l]) (by simp [lv_args, vsL, va_rf_cat, cat_i, cat_l]) (fun Γ => ?_)
  obtain ⟨o, ho⟩ : ∃ o : Unit × PH, o = (x, h1) := ⟨_, rfl⟩
  rw [← ho] at hf
  have e1 : x = o.1 := by rw [ho]
  have e2 : h1 = o.2 := by rw [ho]
  subst e1 e2
  clear ho
  show PF Γ mi_X16_init_2 D h0 (QR Γ D h0 (ovv o.1) o.2) h0 0 [some (va_rf (some a0)), some (va_rf p0), some (.int p1), some (.int p2), some (va_rf p3), some (.int p4)] []
  unfold f_X16_init_2 at hf
  refine j_aload_n 0 dX16_init_2_0 rfl rfl ?_
  refine j_objI q1376 q141 q142 rfl rfl ⟨_, rfl⟩ (by decide) dX16_init_2_1 ?_
  refine j_aload_n 0 dX16_init_2_4 rfl rfl ?_
  refine j_aload_n 1 dX16_init_2_5 rfl rfl ?_
  refine j_pV (ci := 13) (k := 0) tyX16 tyX16_ok nmX16 rfl in_X16 rfl q1377 (Or.inr ⟨rfl, rfl, rfl⟩) rfl (fit_o _ _) dX16_init_2_6 hf (fun h1 hf => ?_)
  refine j_aload_n 0 dX16_init_2_9 rfl rfl ?_
  refine j_iload_n 2 dX16_init_2_10 rfl rfl ?_
  refine j_pV (ci := 13) (k := 1) tyX16 tyX16_ok nmX16 rfl in_X16 rfl q1379 (Or.inr ⟨rfl, rfl, rfl⟩) rfl (fit_i _) dX16_init_2_11 hf (fun h2 hf => ?_)
  refine j_aload_n 0 dX16_init_2_14 rfl rfl ?_
  refine j_iload_n 3 dX16_init_2_15 rfl rfl ?_
  refine j_pV (ci := 13) (k := 2) tyX16 tyX16_ok nmX16 rfl in_X16 rfl q1381 (Or.inr ⟨rfl, rfl, rfl⟩) rfl (fit_i _) dX16_init_2_16 hf (fun h3 hf => ?_)
  refine j_aload_n 0 dX16_init_2_19 rfl rfl ?_
  refine j_aload dX16_init_2_20 rfl ?_
  refine j_iconst (0 : Int32) dX16_init_2_22 (by decide) ?_
  refine j_iald dX16_init_2_23 hf (fun v4 hf => ?_)
  refine j_pV (ci := 13) (k := 3) tyX16 tyX16_ok nmX16 rfl in_X16 rfl q1383 (Or.inr ⟨rfl, rfl, rfl⟩) rfl (fit_i _) dX16_init_2_24 hf (fun h5 hf => ?_)
  refine j_aload_n 0 dX16_init_2_27 rfl rfl ?_
  refine j_aload dX16_init_2_28 rfl ?_
  refine j_iconst (1 : Int32) dX16_init_2_30 (by decide) ?_
  refine j_iald dX16_init_2_31 hf (fun v6 hf => ?_)
  refine j_pV (ci := 13) (k := 4) tyX16 tyX16_ok nmX16 rfl in_X16 rfl q1385 (Or.inr ⟨rfl, rfl, rfl⟩) rfl (fit_i _) dX16_init_2_32 hf (fun h7 hf => ?_)
  refine j_aload_n 0 dX16_init_2_35 rfl rfl ?_
  refine j_aload dX16_init_2_36 rfl ?_
  refine j_iconst (2 : Int32) dX16_init_2_38 (by decide) ?_
  refine j_iald dX16_init_2_39 hf (fun v8 hf => ?_)
  refine j_pV (ci := 13) (k := 5) tyX16 tyX16_ok nmX16 rfl in_X16 rfl q1387 (Or.inr ⟨rfl, rfl, rfl⟩) rfl (fit_i _) dX16_init_2_40 hf (fun h9 hf => ?_)
  refine j_aload_n 0 dX16_init_2_43 rfl rfl ?_
  refine j_iload dX16_init_2_44 rfl ?_
  refine j_pV (ci := 13) (k := 6) tyX16 tyX16_ok nmX16 rfl in_X16 rfl q1389 (Or.inr ⟨rfl, rfl, rfl⟩) rfl (fit_i _) dX16_init_2_46 hf (fun h10 hf => ?_)
  have e9 := Option.some.inj hf
  subst e9
  exact j_vret rfl dX16_init_2_49
abbrev mi_X17_init : MI := (cX17_init, 5, RX17, none, [], 1, 20, "<init>")
def f_X17_init (a0 : Nat) (p0 : Int32) (p1 : Int32) (p2 : Int32) (p3 : Int32) (h0 : PH) : Option (Unit × PH) := pV h0 (some a0) 14 0 (.int p0) fun h1 => pV h1 (some a0) 14 1 (.int p1) fun h2 => pV h2 (some a0) 14 2 (.int p2) fun h3 => pV h3 (some a0) 14 3 (.int p3) fun h4 => some ((), h4)
theorem hyS_X17_init : yX17_init.cls ≠ "java/lang/invoke/MethodHandle" ∧ yX17_init.cls ≠ "java/lang/invoke/VarHandle" ∧ (parseMethodDescriptor yX17_init.desc).map (fun d => d.parameters.length) = some 4 := by decide +kernel
theorem c_X17_init {D : va_G} (a0 : Nat) (p0 : Int32) (p1 : Int32) (p2 : Int32) (p3 : Int32) {h0 : PH} (l : Launch) (hl : l.stackTraces = false) (x : Unit) (h1 : PH) (hf : f_X17_init a0 p0 p1 p2 p3 h0 = some (x, h1)) : CT l D yX17_init (ws_ yX17_init cX17_init 5 none) 1 20 [va_rf (some a0), .int p0, .int p1, .int p2, .int p3] h0 (ovv x) h1 := by
  refine ct_of hl [some (va_rf (some a0)), some (.int p0), some (.int p1), some (.int p2), some (.int p3)] (by decide) (Nat.le_of_ble_eq_true rfl) rfl (fun Γ => ?_)
  obtain ⟨o, ho⟩ : ∃ o : Unit × PH, o = (x, h1) := ⟨_, rfl⟩
  rw [← ho] at hf
  have e1 : x = o.1 := by rw [ho]
  have e2 : h1 = o.2 := by rw [ho]
  subst e1 e2
  clear ho
  show PF Γ mi_X17_init D h0 (QR Γ D h0 (ovv o.1) o.2) h0 0 [some (va_rf (some a0)), some (.int p0), some (.int p1), some (.int p2), some (.int p3)] []
  unfold f_X17_init at hf
  refine j_aload_n 0 dX17_init_0 rfl rfl ?_
  refine j_objI q1434 q141 q142 rfl rfl ⟨_, rfl⟩ (by decide) dX17_init_1 ?_
  refine j_aload_n 0 dX17_init_4 rfl rfl ?_
  refine j_iload_n 1 dX17_init_5 rfl rfl ?_
  refine j_pV (ci := 14) (k := 0) tyX17 tyX17_ok nmX17 rfl in_X17 rfl q1435 (Or.inr ⟨rfl, rfl, rfl⟩) rfl (fit_i _) dX17_init_6 hf (fun h1 hf => ?_)
  refine j_aload_n 0 dX17_init_9 rfl rfl ?_
  refine j_iload_n 2 dX17_init_10 rfl rfl ?_
  refine j_pV (ci := 14) (k := 1) tyX17 tyX17_ok nmX17 rfl in_X17 rfl q1437 (Or.inr ⟨rfl, rfl, rfl⟩) rfl (fit_i _) dX17_init_11 hf (fun h2 hf => ?_)
  refine j_aload_n 0 dX17_init_14 rfl rfl ?_
  refine j_iload_n 3 dX17_init_15 rfl rfl ?_
  refine j_pV (ci := 14) (k := 2) tyX17 tyX17_ok nmX17 rfl in_X17 rfl q1439 (Or.inr ⟨rfl, rfl, rfl⟩) rfl (fit_i _) dX17_init_16 hf (fun h3 hf => ?_)
  refine j_aload_n 0 dX17_init_19 rfl rfl ?_
  refine j_iload dX17_init_20 rfl ?_
  refine j_pV (ci := 14) (k := 3) tyX17 tyX17_ok nmX17 rfl in_X17 rfl q1441 (Or.inr ⟨rfl, rfl, rfl⟩) rfl (fit_i _) dX17_init_22 hf (fun h4 hf => ?_)
  have e9 := Option.some.inj hf
  subst e9
  exact j_vret rfl dX17_init_25
abbrev mi_X20_next : MI := (cX20_next, 2, RX20, (Option.some FieldType.int), [], 0, 0, "next")
def f_X20_next_B32 (t0 : Int32) (h : PH) : Option (Int32 × PH) := some (t0, h)
theorem pf_X20_next_B32 {Γ : GX} {D : va_G} {h0 : PH} {o : Int32 × PH} (t0 : Int32) (h : PH) (hf : f_X20_next_B32 t0 h = some o) : PF Γ mi_X20_next D h0 (QR Γ D h0 (ovi o.1) o.2) h 32 [none, none] [.int t0] := by
  have e9 := Option.some.inj hf
  subst e9
  exact j_iret rfl dX20_next_32
def f_X20_next (r0 : Option Nat) (p0 : Int32) (h0 : PH) : Option (Int32 × PH) := gI h0 r0 17 1 fun v1 => (if v1 ≤ p0 then (gI h0 r0 17 2 fun v2 => (if v2 ≤ p0 then (f_X20_next_B32 (2147483647 : Int32) h0) else (gI h0 r0 17 2 fun v3 => f_X20_next_B32 v3 h0))) else (gI h0 r0 17 1 fun v4 => f_X20_next_B32 v4 h0))
theorem hyS_X20_next : yX20_next.cls ≠ "java/lang/invoke/MethodHandle" ∧ yX20_next.cls ≠ "java/lang/invoke/VarHandle" ∧ (parseMethodDescriptor yX20_next.desc).map (fun d => d.parameters.length) = some 1 := by decide +kernel
theorem hyV_X20_next : yX20_next.cls = RX20 ∧ yX20_next.cls ≠ "java/lang/invoke/MethodHandle" ∧ yX20_next.cls ≠ "java/lang/invoke/VarHandle" ∧ (parseMethodDescriptor yX20_next.desc).map (fun d => d.parameters.length) = some 1 := by decide +kernel
theorem c_X20_next {D : va_G} (r0 : Option Nat) (p0 : Int32) {h0 : PH} (l : Launch) (hl : l.stackTraces = false) (x : Int32) (h1 : PH) (hf : f_X20_next r0 p0 h0 = some (x, h1)) : CT l D yX20_next (ws_ yX20_next cX20_next 2 (Option.some FieldType.int)) 0 0 [va_rf r0, .int p0] h0 (ovi x) h1 := by
  refine ct_of hl [some (va_rf r0), some (.int p0)] (by decide) (by rw [lgl]; simp [va_rf_cat, cat_i, cat_l]) (by simp [lv_args, vsL, va_rf_cat, cat_i, cat_l]) (fun Γ => ?_)
  obtain ⟨o, ho⟩ : ∃ o : Int32 × PH, o = (x, h1) := ⟨_, rfl⟩
  rw [← ho] at hf
  have e1 : x = o.1 := by rw [ho]
  have e2 : h1 = o.2 := by rw [ho]
  subst e1 e2
  clear ho
  show PF Γ mi_X20_next D h0 (QR Γ D h0 (ovi o.1) o.2) h0 0 [some (va_rf r0), some (.int p0)] []
  unfold f_X20_next at hf
  refine j_aload_n 0 dX20_next_0 rfl rfl ?_
  refine j_gI (ci := 17) (k := 1) rfl in_X20 rfl q1832 dX20_next_1 hf (fun v1 hf => ?_)
  refine j_iload_n 1 dX20_next_4 rfl rfl ?_
  refine j_icmp_le 15 dX20_next_5 (by decide) hf (fun c_ hf => ?_) (fun c_ hf => ?_)
  · refine j_aload_n 0 dX20_next_15 rfl rfl ?_
    refine j_gI (ci := 17) (k := 2) rfl in_X20 rfl q1834 dX20_next_16 hf (fun v2 hf => ?_)
    refine j_iload_n 1 dX20_next_19 rfl rfl ?_
    refine j_icmp_le 30 dX20_next_20 (by decide) hf (fun c_ hf => ?_) (fun c_ hf => ?_)
    · refine j_ldc q1279 dX20_next_30 ?_
      refine j_weak [none, none] (Wk.s (Wk.s Wk.n)) ?_
      exact pf_X20_next_B32 (2147483647 : Int32) h0 hf
    · refine j_aload_n 0 dX20_next_23 rfl rfl ?_
      refine j_gI (ci := 17) (k := 2) rfl in_X20 rfl q1834 dX20_next_24 hf (fun v3 hf => ?_)
      refine j_goto 32 dX20_next_27 (by decide) ?_
      refine j_weak [none, none] (Wk.s (Wk.s Wk.n)) ?_
      exact pf_X20_next_B32 v3 h0 hf
  · refine j_aload_n 0 dX20_next_8 rfl rfl ?_
    refine j_gI (ci := 17) (k := 1) rfl in_X20 rfl q1832 dX20_next_9 hf (fun v4 hf => ?_)
    refine j_goto 32 dX20_next_12 (by decide) ?_
    refine j_weak [none, none] (Wk.s (Wk.s Wk.n)) ?_
    exact pf_X20_next_B32 v4 h0 hf
abbrev mi_X20_init : MI := (cX20_init, 4, RX20, none, [], 1, 20, "<init>")
def f_X20_init (a0 : Nat) (p0 : Int32) (p1 : Int32) (p2 : Int32) (h0 : PH) : Option (Unit × PH) := pV h0 (some a0) 17 0 (.int p0) fun h1 => pV h1 (some a0) 17 1 (.int p1) fun h2 => pV h2 (some a0) 17 2 (.int p2) fun h3 => some ((), h3)
theorem hyS_X20_init : yX20_init.cls ≠ "java/lang/invoke/MethodHandle" ∧ yX20_init.cls ≠ "java/lang/invoke/VarHandle" ∧ (parseMethodDescriptor yX20_init.desc).map (fun d => d.parameters.length) = some 3 := by decide +kernel
theorem c_X20_init {D : va_G} (a0 : Nat) (p0 : Int32) (p1 : Int32) (p2 : Int32) {h0 : PH} (l : Launch) (hl : l.stackTraces = false) (x : Unit) (h1 : PH) (hf : f_X20_init a0 p0 p1 p2 h0 = some (x, h1)) : CT l D yX20_init (ws_ yX20_init cX20_init 4 none) 1 20 [va_rf (some a0), .int p0, .int p1, .int p2] h0 (ovv x) h1 := by
  refine ct_of hl [some (va_rf (some a0)), some (.int p0), some (.int p1), some (.int p2)] (by decide) (Nat.le_of_ble_eq_true rfl) rfl (fun Γ => ?_)
  obtain ⟨o, ho⟩ : ∃ o : Unit × PH, o = (x, h1) := ⟨_, rfl⟩
  rw [← ho] at hf
  have e1 : x = o.1 := by rw [ho]
  have e2 : h1 = o.2 := by rw [ho]
  subst e1 e2
  clear ho
  show PF Γ mi_X20_init D h0 (QR Γ D h0 (ovv o.1) o.2) h0 0 [some (va_rf (some a0)), some (.int p0), some (.int p1), some (.int p2)] []
  unfold f_X20_init at hf
  refine j_aload_n 0 dX20_init_0 rfl rfl ?_
  refine j_objI q1829 q141 q142 rfl rfl ⟨_, rfl⟩ (by decide) dX20_init_1 ?_
  refine j_aload_n 0 dX20_init_4 rfl rfl ?_
  refine j_iload_n 1 dX20_init_5 rfl rfl ?_
  refine j_pV (ci := 17) (k := 0) tyX20 tyX20_ok nmX20 rfl in_X20 rfl q1830 (Or.inr ⟨rfl, rfl, rfl⟩) rfl (fit_i _) dX20_init_6 hf (fun h1 hf => ?_)
  refine j_aload_n 0 dX20_init_9 rfl rfl ?_
  refine j_iload_n 2 dX20_init_10 rfl rfl ?_
  refine j_pV (ci := 17) (k := 1) tyX20 tyX20_ok nmX20 rfl in_X20 rfl q1832 (Or.inr ⟨rfl, rfl, rfl⟩) rfl (fit_i _) dX20_init_11 hf (fun h2 hf => ?_)
  refine j_aload_n 0 dX20_init_14 rfl rfl ?_
  refine j_iload_n 3 dX20_init_15 rfl rfl ?_
  refine j_pV (ci := 17) (k := 2) tyX20 tyX20_ok nmX20 rfl in_X20 rfl q1834 (Or.inr ⟨rfl, rfl, rfl⟩) rfl (fit_i _) dX20_init_16 hf (fun h3 hf => ?_)
  have e9 := Option.some.inj hf
  subst e9
  exact j_vret rfl dX20_init_19
abbrev mi_X21_init : MI := (cX21_init, 6, RX21, none, [], 1, 20, "<init>")
def f_X21_init (a0 : Nat) (p0 : Int32) (p1 : Int32) (p2 : Int32) (p3 : Int32) (p4 : Int32) (h0 : PH) : Option (Unit × PH) := pV h0 (some a0) 18 0 (.int p0) fun h1 => pV h1 (some a0) 18 1 (.int p1) fun h2 => pV h2 (some a0) 18 2 (.int p2) fun h3 => pV h3 (some a0) 18 3 (.int p3) fun h4 => pV h4 (some a0) 18 4 (.int p4) fun h5 => some ((), h5)
theorem hyS_X21_init : yX21_init.cls ≠ "java/lang/invoke/MethodHandle" ∧ yX21_init.cls ≠ "java/lang/invoke/VarHandle" ∧ (parseMethodDescriptor yX21_init.desc).map (fun d => d.parameters.length) = some 5 := by decide +kernel
theorem c_X21_init {D : va_G} (a0 : Nat) (p0 : Int32) (p1 : Int32) (p2 : Int32) (p3 : Int32) (p4 : Int32) {h0 : PH} (l : Launch) (hl : l.stackTraces = false) (x : Unit) (h1 : PH) (hf : f_X21_init a0 p0 p1 p2 p3 p4 h0 = some (x, h1)) : CT l D yX21_init (ws_ yX21_init cX21_init 6 none) 1 20 [va_rf (some a0), .int p0, .int p1, .int p2, .int p3, .int p4] h0 (ovv x) h1 := by
  refine ct_of hl [some (va_rf (some a0)), some (.int p0), some (.int p1), some (.int p2), some (.int p3), some (.int p4)] (by decide) (Nat.le_of_ble_eq_true rfl) rfl (fun Γ => ?_)
  obtain ⟨o, ho⟩ : ∃ o : Unit × PH, o = (x, h1) := ⟨_, rfl⟩
  rw [← ho] at hf
  have e1 : x = o.1 := by rw [ho]
  have e2 : h1 = o.2 := by rw [ho]
  subst e1 e2
  clear ho
  show PF Γ mi_X21_init D h0 (QR Γ D h0 (ovv o.1) o.2) h0 0 [some (va_rf (some a0)), some (.int p0), some (.int p1), some (.int p2), some (.int p3), some (.int p4)] []
  unfold f_X21_init at hf
  refine j_aload_n 0 dX21_init_0 rfl rfl ?_
  refine j_objI q1873 q141 q142 rfl rfl ⟨_, rfl⟩ (by decide) dX21_init_1 ?_
  refine j_aload_n 0 dX21_init_4 rfl rfl ?_
  refine j_iload_n 1 dX21_init_5 rfl rfl ?_
  refine j_pV (ci := 18) (k := 0) tyX21 tyX21_ok nmX21 rfl in_X21 rfl q1874 (Or.inr ⟨rfl, rfl, rfl⟩) rfl (fit_i _) dX21_init_6 hf (fun h1 hf => ?_)
  refine j_aload_n 0 dX21_init_9 rfl rfl ?_
  refine j_iload_n 2 dX21_init_10 rfl rfl ?_
  refine j_pV (ci := 18) (k := 1) tyX21 tyX21_ok nmX21 rfl in_X21 rfl q1876 (Or.inr ⟨rfl, rfl, rfl⟩) rfl (fit_i _) dX21_init_11 hf (fun h2 hf => ?_)
  refine j_aload_n 0 dX21_init_14 rfl rfl ?_
  refine j_iload_n 3 dX21_init_15 rfl rfl ?_
  refine j_pV (ci := 18) (k := 2) tyX21 tyX21_ok nmX21 rfl in_X21 rfl q1878 (Or.inr ⟨rfl, rfl, rfl⟩) rfl (fit_i _) dX21_init_16 hf (fun h3 hf => ?_)
  refine j_aload_n 0 dX21_init_19 rfl rfl ?_
  refine j_iload dX21_init_20 rfl ?_
  refine j_pV (ci := 18) (k := 3) tyX21 tyX21_ok nmX21 rfl in_X21 rfl q1880 (Or.inr ⟨rfl, rfl, rfl⟩) rfl (fit_i _) dX21_init_22 hf (fun h4 hf => ?_)
  refine j_aload_n 0 dX21_init_25 rfl rfl ?_
  refine j_iload dX21_init_26 rfl ?_
  refine j_pV (ci := 18) (k := 4) tyX21 tyX21_ok nmX21 rfl in_X21 rfl q1882 (Or.inr ⟨rfl, rfl, rfl⟩) rfl (fit_i _) dX21_init_28 hf (fun h5 hf => ?_)
  have e9 := Option.some.inj hf
  subst e9
  exact j_vret rfl dX21_init_31
theorem kc_X3_9 {Γ : GX} {I : MI} {D : va_G} {h0 : PH} {Q : State → Prop} {h : PH} {pc : Nat} {vs : List (Option Value)} {rest : List Value} {β : Type} {o : β} {a : Nat} {p0 : Int32} {p1 : Int32} {K : ((Unit) → PH → Option β)} (hI : I.2.2.1 = RX3) (hfr : Nat.ble 2 I.2.2.2.2.2.1 = true) (hlo : Nat.ble 42 I.2.2.2.2.2.2.1 = true) (hW : (rest.map fun v => v.category).sum ≤ 8) (hd : decode I.1 pc = .ok (.invokespecial 9, 3)) (hf : cl_ (f_X4_init a p0 p1 h) K = some o) (kk : ∀ (x : Unit) (h1 : PH), K x h1 = some o → PF Γ I D h0 Q h1 (pc + 3) vs (rest)) : PF Γ I D h0 Q h pc vs (.int p1 :: .int p0 :: va_rf (some a) :: rest) := by
  obtain ⟨cc, nL, own, rt, xt, fr, lo, nm⟩ := I
  cases hI
  exact j_cIv (n := 2) (y := yX4_init) (cc2 := cX4_init) (As := [.int p0, .int p1]) (lw_meth q158) q93 q156 q157 rfl hyS_X4_init hfr hlo rfl hW hd (c_X4_init a p0 p1) ⟨_, rfl⟩ hf _ rfl kk
theorem kc_X3_20 {Γ : GX} {I : MI} {D : va_G} {h0 : PH} {Q : State → Prop} {h : PH} {pc : Nat} {vs : List (Option Value)} {rest : List Value} {β : Type} {o : β} {a : Nat} {p0 : Int32} {K : ((Unit) → PH → Option β)} (hI : I.2.2.1 = RX3) (hfr : Nat.ble 4 I.2.2.2.2.2.1 = true) (hlo : Nat.ble 81 I.2.2.2.2.2.2.1 = true) (hW : (rest.map fun v => v.category).sum ≤ 8) (hd : decode I.1 pc = .ok (.invokespecial 20, 3)) (hf : cl_ (f_J2_init a p0 h) K = some o) (kk : ∀ (x : Unit) (h1 : PH), K x h1 = some o → PF Γ I D h0 Q h1 (pc + 3) vs (rest)) : PF Γ I D h0 Q h pc vs (.int p0 :: va_rf (some a) :: rest) := by
  obtain ⟨cc, nL, own, rt, xt, fr, lo, nm⟩ := I
  cases hI
  exact j_cIv (n := 1) (y := yJ2_init) (cc2 := cJ2_init) (As := [.int p0]) (lw_meth q173) q96 q171 q172 rfl hyS_J2_init hfr hlo rfl hW hd (c_J2_init a p0) ⟨_, rfl⟩ hf _ rfl kk
abbrev mi_X3_init : MI := (cX3_init, 1, RX3, none, [], 4, 81, "<init>")
def f_X3_init (a0 : Nat) (h0 : PH) : Option (Unit × PH) := nO h0 3 2 [.int 0, .int 0] fun a1 h2 => cl_ (f_X4_init a1 (1000 : Int32) (0 : Int32) h2) fun _u h3 => pV h3 (some a0) 2 0 (va_rf (some a1)) fun h4 => nO h4 19 3 [.int 0, .null, .int 0] fun a5 h6 => cl_ (f_J2_init a5 (2 : Int32) h6) fun _u h7 => pV h7 (some a0) 2 1 (va_rf (some a5)) fun h8 => nO h8 19 3 [.int 0, .null, .int 0] fun a9 h10 => cl_ (f_J2_init a9 (2 : Int32) h10) fun _u h11 => pV h11 (some a0) 2 2 (va_rf (some a9)) fun h12 => pV h12 (some a0) 2 3 (.int (5000 : Int32)) fun h13 => pV h13 (some a0) 2 4 (.int (20 : Int32)) fun h14 => pV h14 (some a0) 2 5 (.int (2000 : Int32)) fun h15 => pV h15 (some a0) 2 6 (.int (500 : Int32)) fun h16 => pV h16 (some a0) 2 8 (.int (1 : Int32)) fun h17 => some ((), h17)
theorem hyS_X3_init : yX3_init.cls ≠ "java/lang/invoke/MethodHandle" ∧ yX3_init.cls ≠ "java/lang/invoke/VarHandle" ∧ (parseMethodDescriptor yX3_init.desc).map (fun d => d.parameters.length) = some 0 := by decide +kernel
theorem c_X3_init {D : va_G} (a0 : Nat) {h0 : PH} (l : Launch) (hl : l.stackTraces = false) (x : Unit) (h1 : PH) (hf : f_X3_init a0 h0 = some (x, h1)) : CT l D yX3_init (ws_ yX3_init cX3_init 1 none) 4 81 [va_rf (some a0)] h0 (ovv x) h1 := by
  refine ct_of hl [some (va_rf (some a0))] (by decide) (Nat.le_of_ble_eq_true rfl) rfl (fun Γ => ?_)
  obtain ⟨o, ho⟩ : ∃ o : Unit × PH, o = (x, h1) := ⟨_, rfl⟩
  rw [← ho] at hf
  have e1 : x = o.1 := by rw [ho]
  have e2 : h1 = o.2 := by rw [ho]
  subst e1 e2
  clear ho
  show PF Γ mi_X3_init D h0 (QR Γ D h0 (ovv o.1) o.2) h0 0 [some (va_rf (some a0))] []
  unfold f_X3_init at hf
  refine j_aload_n 0 dX3_init_0 rfl rfl ?_
  refine j_objI q153 q141 q142 rfl rfl ⟨_, rfl⟩ (by decide) dX3_init_1 ?_
  refine j_aload_n 0 dX3_init_4 rfl rfl ?_
  refine j_nO (ci := 3) tyX4 tyX4_ok rfl in_X4 q154 q155 q93 (by decide) dX3_init_5 hf (fun a1 h2 hf => ?_)
  refine j_dup dX3_init_8 (va_rf_cat _) ?_
  refine j_sipush (1000 : Int32) dX3_init_9 (by decide) ?_
  refine j_iconst (0 : Int32) dX3_init_12 (by decide) ?_
  refine kc_X3_9 rfl rfl rfl (by simp [va_rf_cat, cat_i, cat_l]) dX3_init_13 hf (fun _u h3 hf => ?_)
  refine j_pV (ci := 2) (k := 0) tyX3 tyX3_ok nmX3 rfl in_X3 rfl q517 (Or.inl rfl) rfl (fit_o _ _) dX3_init_16 hf (fun h4 hf => ?_)
  refine j_aload_n 0 dX3_init_19 rfl rfl ?_
  refine j_nO (ci := 19) tyJ2 tyJ2_ok rfl in_J2 q169 q170 q96 (by decide) dX3_init_20 hf (fun a5 h6 hf => ?_)
  refine j_dup dX3_init_23 (va_rf_cat _) ?_
  refine j_iconst (2 : Int32) dX3_init_24 (by decide) ?_
  refine kc_X3_20 rfl rfl rfl (by simp [va_rf_cat, cat_i, cat_l]) dX3_init_25 hf (fun _u h7 hf => ?_)
  refine j_pV (ci := 2) (k := 1) tyX3 tyX3_ok nmX3 rfl in_X3 rfl q521 (Or.inr ⟨rfl, rfl, rfl⟩) rfl (fit_o _ _) dX3_init_28 hf (fun h8 hf => ?_)
  refine j_aload_n 0 dX3_init_31 rfl rfl ?_
  refine j_nO (ci := 19) tyJ2 tyJ2_ok rfl in_J2 q169 q170 q96 (by decide) dX3_init_32 hf (fun a9 h10 hf => ?_)
  refine j_dup dX3_init_35 (va_rf_cat _) ?_
  refine j_iconst (2 : Int32) dX3_init_36 (by decide) ?_
  refine kc_X3_20 rfl rfl rfl (by simp [va_rf_cat, cat_i, cat_l]) dX3_init_37 hf (fun _u h11 hf => ?_)
  refine j_pV (ci := 2) (k := 2) tyX3 tyX3_ok nmX3 rfl in_X3 rfl q525 (Or.inr ⟨rfl, rfl, rfl⟩) rfl (fit_o _ _) dX3_init_40 hf (fun h12 hf => ?_)
  refine j_aload_n 0 dX3_init_43 rfl rfl ?_
  refine j_sipush (5000 : Int32) dX3_init_44 (by decide) ?_
  refine j_pV (ci := 2) (k := 3) tyX3 tyX3_ok nmX3 rfl in_X3 rfl q529 (Or.inl rfl) rfl (fit_i _) dX3_init_47 hf (fun h13 hf => ?_)
  refine j_aload_n 0 dX3_init_50 rfl rfl ?_
  refine j_bipush (20 : Int32) dX3_init_51 (by decide) ?_
  refine j_pV (ci := 2) (k := 4) tyX3 tyX3_ok nmX3 rfl in_X3 rfl q532 (Or.inl rfl) rfl (fit_i _) dX3_init_53 hf (fun h14 hf => ?_)
  refine j_aload_n 0 dX3_init_56 rfl rfl ?_
  refine j_sipush (2000 : Int32) dX3_init_57 (by decide) ?_
  refine j_pV (ci := 2) (k := 5) tyX3 tyX3_ok nmX3 rfl in_X3 rfl q535 (Or.inl rfl) rfl (fit_i _) dX3_init_60 hf (fun h15 hf => ?_)
  refine j_aload_n 0 dX3_init_63 rfl rfl ?_
  refine j_sipush (500 : Int32) dX3_init_64 (by decide) ?_
  refine j_pV (ci := 2) (k := 6) tyX3 tyX3_ok nmX3 rfl in_X3 rfl q538 (Or.inl rfl) rfl (fit_i _) dX3_init_67 hf (fun h16 hf => ?_)
  refine j_aload_n 0 dX3_init_70 rfl rfl ?_
  refine j_iconst (1 : Int32) dX3_init_71 (by decide) ?_
  refine j_pV (ci := 2) (k := 8) tyX3 tyX3_ok nmX3 rfl in_X3 rfl q543 (Or.inl rfl) rfl (fit_i _) dX3_init_72 hf (fun h17 hf => ?_)
  have e9 := Option.some.inj hf
  subst e9
  exact j_vret rfl dX3_init_75
theorem kc_X9_1_X10 {Γ : GX} {I : MI} {D : va_G} {h0 : PH} {Q : State → Prop} {h : PH} {pc : Nat} {vs : List (Option Value)} {rest : List Value} {β : Type} {o : β} {a : Nat} {p0 : Option Nat} {p1 : Option Nat} {p2 : Int32} {p3 : Int32} {K : ((Unit) → PH → Option β)} (hI : I.2.2.1 = RX9) (hfr : Nat.ble 3 I.2.2.2.2.2.1 = true) (hlo : Nat.ble 68 I.2.2.2.2.2.2.1 = true) (hW : (rest.map fun v => v.category).sum ≤ 8) (hd : decode I.1 pc = .ok (.invokespecial 1, 3)) (hf : cl_ (f_J4_init_2_X10 a p0 p1 p2 p3 h) K = some o) (kk : ∀ (x : Unit) (h1 : PH), K x h1 = some o → PF Γ I D h0 Q h1 (pc + 3) vs (rest)) : PF Γ I D h0 Q h pc vs (.int p3 :: .int p2 :: va_rf p1 :: va_rf p0 :: va_rf (some a) :: rest) := by
  obtain ⟨cc, nL, own, rt, xt, fr, lo, nm⟩ := I
  cases hI
  exact j_cIv (n := 4) (y := yJ4_init_2) (cc2 := cJ4_init_2) (As := [va_rf p0, va_rf p1, .int p2, .int p3]) (lw_meth q1056) q98 q1054 q1055 rfl hyS_J4_init_2_X10 hfr hlo rfl hW hd (c_J4_init_2_X10 a p0 p1 p2 p3) ⟨_, rfl⟩ hf _ rfl kk
abbrev mi_X9_init_X10 : MI := (cX9_init, 2, RX9, none, [], 3, 68, "<init>")
def f_X9_init_X10 (a0 : Nat) (p0 : Int32) (h0 : PH) : Option (Unit × PH) := cl_ (f_J4_init_2_X10 a0 none none (0 : Int32) (0 : Int32) h0) fun _u h1 => pV h1 (some a0) 8 0 (.int p0) fun h2 => some ((), h2)
theorem hyS_X9_init_X10 : yX9_init.cls ≠ "java/lang/invoke/MethodHandle" ∧ yX9_init.cls ≠ "java/lang/invoke/VarHandle" ∧ (parseMethodDescriptor yX9_init.desc).map (fun d => d.parameters.length) = some 1 := by decide +kernel
theorem c_X9_init_X10 {D : va_G} (a0 : Nat) (p0 : Int32) {h0 : PH} (l : Launch) (hl : l.stackTraces = false) (x : Unit) (h1 : PH) (hf : f_X9_init_X10 a0 p0 h0 = some (x, h1)) : CT l D yX9_init (ws_ yX9_init cX9_init 2 none) 3 68 [va_rf (some a0), .int p0] h0 (ovv x) h1 := by
  refine ct_of hl [some (va_rf (some a0)), some (.int p0)] (by decide) (Nat.le_of_ble_eq_true rfl) rfl (fun Γ => ?_)
  obtain ⟨o, ho⟩ : ∃ o : Unit × PH, o = (x, h1) := ⟨_, rfl⟩
  rw [← ho] at hf
  have e1 : x = o.1 := by rw [ho]
  have e2 : h1 = o.2 := by rw [ho]
  subst e1 e2
  clear ho
  show PF Γ mi_X9_init_X10 D h0 (QR Γ D h0 (ovv o.1) o.2) h0 0 [some (va_rf (some a0)), some (.int p0)] []
  unfold f_X9_init_X10 at hf
  refine j_aload_n 0 dX9_init_0 rfl rfl ?_
  refine j_aconst_null dX9_init_1 ?_
  refine j_aconst_null dX9_init_2 ?_
  refine j_iconst (0 : Int32) dX9_init_3 (by decide) ?_
  refine j_iconst (0 : Int32) dX9_init_4 (by decide) ?_
  refine kc_X9_1_X10 rfl rfl rfl (by decide) dX9_init_5 hf (fun _u h1 hf => ?_)
  refine j_aload_n 0 dX9_init_8 rfl rfl ?_
  refine j_iload_n 1 dX9_init_9 rfl rfl ?_
  refine j_pV (ci := 8) (k := 0) tyX10 tyX10_ok nmX10 rfl in_X10 rfl q1060 (Or.inr ⟨rfl, rfl, rfl⟩) rfl (fit_i _) dX9_init_10 hf (fun h2 hf => ?_)
  have e9 := Option.some.inj hf
  subst e9
  exact j_vret rfl dX9_init_13
theorem kc_X9_1_X11 {Γ : GX} {I : MI} {D : va_G} {h0 : PH} {Q : State → Prop} {h : PH} {pc : Nat} {vs : List (Option Value)} {rest : List Value} {β : Type} {o : β} {a : Nat} {p0 : Option Nat} {p1 : Option Nat} {p2 : Int32} {p3 : Int32} {K : ((Unit) → PH → Option β)} (hI : I.2.2.1 = RX9) (hfr : Nat.ble 3 I.2.2.2.2.2.1 = true) (hlo : Nat.ble 68 I.2.2.2.2.2.2.1 = true) (hW : (rest.map fun v => v.category).sum ≤ 8) (hd : decode I.1 pc = .ok (.invokespecial 1, 3)) (hf : cl_ (f_J4_init_2_X11 a p0 p1 p2 p3 h) K = some o) (kk : ∀ (x : Unit) (h1 : PH), K x h1 = some o → PF Γ I D h0 Q h1 (pc + 3) vs (rest)) : PF Γ I D h0 Q h pc vs (.int p3 :: .int p2 :: va_rf p1 :: va_rf p0 :: va_rf (some a) :: rest) := by
  obtain ⟨cc, nL, own, rt, xt, fr, lo, nm⟩ := I
  cases hI
  exact j_cIv (n := 4) (y := yJ4_init_2) (cc2 := cJ4_init_2) (As := [va_rf p0, va_rf p1, .int p2, .int p3]) (lw_meth q1056) q98 q1054 q1055 rfl hyS_J4_init_2_X11 hfr hlo rfl hW hd (c_J4_init_2_X11 a p0 p1 p2 p3) ⟨_, rfl⟩ hf _ rfl kk
abbrev mi_X9_init_X11 : MI := (cX9_init, 2, RX9, none, [], 3, 68, "<init>")
def f_X9_init_X11 (a0 : Nat) (p0 : Int32) (h0 : PH) : Option (Unit × PH) := cl_ (f_J4_init_2_X11 a0 none none (0 : Int32) (0 : Int32) h0) fun _u h1 => pV h1 (some a0) 9 0 (.int p0) fun h2 => some ((), h2)
theorem hyS_X9_init_X11 : yX9_init.cls ≠ "java/lang/invoke/MethodHandle" ∧ yX9_init.cls ≠ "java/lang/invoke/VarHandle" ∧ (parseMethodDescriptor yX9_init.desc).map (fun d => d.parameters.length) = some 1 := by decide +kernel
theorem c_X9_init_X11 {D : va_G} (a0 : Nat) (p0 : Int32) {h0 : PH} (l : Launch) (hl : l.stackTraces = false) (x : Unit) (h1 : PH) (hf : f_X9_init_X11 a0 p0 h0 = some (x, h1)) : CT l D yX9_init (ws_ yX9_init cX9_init 2 none) 3 68 [va_rf (some a0), .int p0] h0 (ovv x) h1 := by
  refine ct_of hl [some (va_rf (some a0)), some (.int p0)] (by decide) (Nat.le_of_ble_eq_true rfl) rfl (fun Γ => ?_)
  obtain ⟨o, ho⟩ : ∃ o : Unit × PH, o = (x, h1) := ⟨_, rfl⟩
  rw [← ho] at hf
  have e1 : x = o.1 := by rw [ho]
  have e2 : h1 = o.2 := by rw [ho]
  subst e1 e2
  clear ho
  show PF Γ mi_X9_init_X11 D h0 (QR Γ D h0 (ovv o.1) o.2) h0 0 [some (va_rf (some a0)), some (.int p0)] []
  unfold f_X9_init_X11 at hf
  refine j_aload_n 0 dX9_init_0 rfl rfl ?_
  refine j_aconst_null dX9_init_1 ?_
  refine j_aconst_null dX9_init_2 ?_
  refine j_iconst (0 : Int32) dX9_init_3 (by decide) ?_
  refine j_iconst (0 : Int32) dX9_init_4 (by decide) ?_
  refine kc_X9_1_X11 rfl rfl rfl (by decide) dX9_init_5 hf (fun _u h1 hf => ?_)
  refine j_aload_n 0 dX9_init_8 rfl rfl ?_
  refine j_iload_n 1 dX9_init_9 rfl rfl ?_
  refine j_pV (ci := 9) (k := 0) tyX11 tyX11_ok nmX11 rfl in_X11 rfl q1060 (Or.inr ⟨rfl, rfl, rfl⟩) rfl (fit_i _) dX9_init_10 hf (fun h2 hf => ?_)
  have e9 := Option.some.inj hf
  subst e9
  exact j_vret rfl dX9_init_13
theorem kc_X9_1_X12 {Γ : GX} {I : MI} {D : va_G} {h0 : PH} {Q : State → Prop} {h : PH} {pc : Nat} {vs : List (Option Value)} {rest : List Value} {β : Type} {o : β} {a : Nat} {p0 : Option Nat} {p1 : Option Nat} {p2 : Int32} {p3 : Int32} {K : ((Unit) → PH → Option β)} (hI : I.2.2.1 = RX9) (hfr : Nat.ble 3 I.2.2.2.2.2.1 = true) (hlo : Nat.ble 68 I.2.2.2.2.2.2.1 = true) (hW : (rest.map fun v => v.category).sum ≤ 8) (hd : decode I.1 pc = .ok (.invokespecial 1, 3)) (hf : cl_ (f_J4_init_2_X12 a p0 p1 p2 p3 h) K = some o) (kk : ∀ (x : Unit) (h1 : PH), K x h1 = some o → PF Γ I D h0 Q h1 (pc + 3) vs (rest)) : PF Γ I D h0 Q h pc vs (.int p3 :: .int p2 :: va_rf p1 :: va_rf p0 :: va_rf (some a) :: rest) := by
  obtain ⟨cc, nL, own, rt, xt, fr, lo, nm⟩ := I
  cases hI
  exact j_cIv (n := 4) (y := yJ4_init_2) (cc2 := cJ4_init_2) (As := [va_rf p0, va_rf p1, .int p2, .int p3]) (lw_meth q1056) q98 q1054 q1055 rfl hyS_J4_init_2_X12 hfr hlo rfl hW hd (c_J4_init_2_X12 a p0 p1 p2 p3) ⟨_, rfl⟩ hf _ rfl kk
abbrev mi_X9_init_X12 : MI := (cX9_init, 2, RX9, none, [], 3, 68, "<init>")
def f_X9_init_X12 (a0 : Nat) (p0 : Int32) (h0 : PH) : Option (Unit × PH) := cl_ (f_J4_init_2_X12 a0 none none (0 : Int32) (0 : Int32) h0) fun _u h1 => pV h1 (some a0) 10 0 (.int p0) fun h2 => some ((), h2)
theorem hyS_X9_init_X12 : yX9_init.cls ≠ "java/lang/invoke/MethodHandle" ∧ yX9_init.cls ≠ "java/lang/invoke/VarHandle" ∧ (parseMethodDescriptor yX9_init.desc).map (fun d => d.parameters.length) = some 1 := by decide +kernel
theorem c_X9_init_X12 {D : va_G} (a0 : Nat) (p0 : Int32) {h0 : PH} (l : Launch) (hl : l.stackTraces = false) (x : Unit) (h1 : PH) (hf : f_X9_init_X12 a0 p0 h0 = some (x, h1)) : CT l D yX9_init (ws_ yX9_init cX9_init 2 none) 3 68 [va_rf (some a0), .int p0] h0 (ovv x) h1 := by
  refine ct_of hl [some (va_rf (some a0)), some (.int p0)] (by decide) (Nat.le_of_ble_eq_true rfl) rfl (fun Γ => ?_)
  obtain ⟨o, ho⟩ : ∃ o : Unit × PH, o = (x, h1) := ⟨_, rfl⟩
  rw [← ho] at hf
  have e1 : x = o.1 := by rw [ho]
  have e2 : h1 = o.2 := by rw [ho]
  subst e1 e2
  clear ho
  show PF Γ mi_X9_init_X12 D h0 (QR Γ D h0 (ovv o.1) o.2) h0 0 [some (va_rf (some a0)), some (.int p0)] []
  unfold f_X9_init_X12 at hf
  refine j_aload_n 0 dX9_init_0 rfl rfl ?_
  refine j_aconst_null dX9_init_1 ?_
  refine j_aconst_null dX9_init_2 ?_
  refine j_iconst (0 : Int32) dX9_init_3 (by decide) ?_
  refine j_iconst (0 : Int32) dX9_init_4 (by decide) ?_
  refine kc_X9_1_X12 rfl rfl rfl (by decide) dX9_init_5 hf (fun _u h1 hf => ?_)
  refine j_aload_n 0 dX9_init_8 rfl rfl ?_
  refine j_iload_n 1 dX9_init_9 rfl rfl ?_
  refine j_pV (ci := 10) (k := 0) tyX12 tyX12_ok nmX12 rfl in_X12 rfl q1060 (Or.inr ⟨rfl, rfl, rfl⟩) rfl (fit_i _) dX9_init_10 hf (fun h2 hf => ?_)
  have e9 := Option.some.inj hf
  subst e9
  exact j_vret rfl dX9_init_13
theorem kc_X9_1_X13 {Γ : GX} {I : MI} {D : va_G} {h0 : PH} {Q : State → Prop} {h : PH} {pc : Nat} {vs : List (Option Value)} {rest : List Value} {β : Type} {o : β} {a : Nat} {p0 : Option Nat} {p1 : Option Nat} {p2 : Int32} {p3 : Int32} {K : ((Unit) → PH → Option β)} (hI : I.2.2.1 = RX9) (hfr : Nat.ble 3 I.2.2.2.2.2.1 = true) (hlo : Nat.ble 68 I.2.2.2.2.2.2.1 = true) (hW : (rest.map fun v => v.category).sum ≤ 8) (hd : decode I.1 pc = .ok (.invokespecial 1, 3)) (hf : cl_ (f_J4_init_2_X13 a p0 p1 p2 p3 h) K = some o) (kk : ∀ (x : Unit) (h1 : PH), K x h1 = some o → PF Γ I D h0 Q h1 (pc + 3) vs (rest)) : PF Γ I D h0 Q h pc vs (.int p3 :: .int p2 :: va_rf p1 :: va_rf p0 :: va_rf (some a) :: rest) := by
  obtain ⟨cc, nL, own, rt, xt, fr, lo, nm⟩ := I
  cases hI
  exact j_cIv (n := 4) (y := yJ4_init_2) (cc2 := cJ4_init_2) (As := [va_rf p0, va_rf p1, .int p2, .int p3]) (lw_meth q1056) q98 q1054 q1055 rfl hyS_J4_init_2_X13 hfr hlo rfl hW hd (c_J4_init_2_X13 a p0 p1 p2 p3) ⟨_, rfl⟩ hf _ rfl kk
abbrev mi_X9_init_X13 : MI := (cX9_init, 2, RX9, none, [], 3, 68, "<init>")
def f_X9_init_X13 (a0 : Nat) (p0 : Int32) (h0 : PH) : Option (Unit × PH) := cl_ (f_J4_init_2_X13 a0 none none (0 : Int32) (0 : Int32) h0) fun _u h1 => pV h1 (some a0) 11 0 (.int p0) fun h2 => some ((), h2)
theorem hyS_X9_init_X13 : yX9_init.cls ≠ "java/lang/invoke/MethodHandle" ∧ yX9_init.cls ≠ "java/lang/invoke/VarHandle" ∧ (parseMethodDescriptor yX9_init.desc).map (fun d => d.parameters.length) = some 1 := by decide +kernel
theorem c_X9_init_X13 {D : va_G} (a0 : Nat) (p0 : Int32) {h0 : PH} (l : Launch) (hl : l.stackTraces = false) (x : Unit) (h1 : PH) (hf : f_X9_init_X13 a0 p0 h0 = some (x, h1)) : CT l D yX9_init (ws_ yX9_init cX9_init 2 none) 3 68 [va_rf (some a0), .int p0] h0 (ovv x) h1 := by
  refine ct_of hl [some (va_rf (some a0)), some (.int p0)] (by decide) (Nat.le_of_ble_eq_true rfl) rfl (fun Γ => ?_)
  obtain ⟨o, ho⟩ : ∃ o : Unit × PH, o = (x, h1) := ⟨_, rfl⟩
  rw [← ho] at hf
  have e1 : x = o.1 := by rw [ho]
  have e2 : h1 = o.2 := by rw [ho]
  subst e1 e2
  clear ho
  show PF Γ mi_X9_init_X13 D h0 (QR Γ D h0 (ovv o.1) o.2) h0 0 [some (va_rf (some a0)), some (.int p0)] []
  unfold f_X9_init_X13 at hf
  refine j_aload_n 0 dX9_init_0 rfl rfl ?_
  refine j_aconst_null dX9_init_1 ?_
  refine j_aconst_null dX9_init_2 ?_
  refine j_iconst (0 : Int32) dX9_init_3 (by decide) ?_
  refine j_iconst (0 : Int32) dX9_init_4 (by decide) ?_
  refine kc_X9_1_X13 rfl rfl rfl (by decide) dX9_init_5 hf (fun _u h1 hf => ?_)
  refine j_aload_n 0 dX9_init_8 rfl rfl ?_
  refine j_iload_n 1 dX9_init_9 rfl rfl ?_
  refine j_pV (ci := 11) (k := 0) tyX13 tyX13_ok nmX13 rfl in_X13 rfl q1060 (Or.inr ⟨rfl, rfl, rfl⟩) rfl (fit_i _) dX9_init_10 hf (fun h2 hf => ?_)
  have e9 := Option.some.inj hf
  subst e9
  exact j_vret rfl dX9_init_13
abbrev mi_X9_position_X10 : MI := (cX9_position, 1, RX9, (Option.some FieldType.int), [], 0, 0, "position")
def f_X9_position_X10 (r0 : Option Nat) (h0 : PH) : Option (Int32 × PH) := gI h0 r0 8 0 fun v1 => some (v1, h0)
theorem hyS_X9_position_X10 : yX9_position.cls ≠ "java/lang/invoke/MethodHandle" ∧ yX9_position.cls ≠ "java/lang/invoke/VarHandle" ∧ (parseMethodDescriptor yX9_position.desc).map (fun d => d.parameters.length) = some 0 := by decide +kernel
theorem hyV_X9_position_X10 : yX9_position.cls = RX9 ∧ yX9_position.cls ≠ "java/lang/invoke/MethodHandle" ∧ yX9_position.cls ≠ "java/lang/invoke/VarHandle" ∧ (parseMethodDescriptor yX9_position.desc).map (fun d => d.parameters.length) = some 0 := by decide +kernel
theorem c_X9_position_X10 {D : va_G} (r0 : Option Nat) {h0 : PH} (l : Launch) (hl : l.stackTraces = false) (x : Int32) (h1 : PH) (hf : f_X9_position_X10 r0 h0 = some (x, h1)) : CT l D yX9_position (ws_ yX9_position cX9_position 1 (Option.some FieldType.int)) 0 0 [va_rf r0] h0 (ovi x) h1 := by
  refine ct_of hl [some (va_rf r0)] (by decide) (by rw [lgl]; simp [va_rf_cat, cat_i, cat_l]) (by simp [lv_args, vsL, va_rf_cat, cat_i, cat_l]) (fun Γ => ?_)
  obtain ⟨o, ho⟩ : ∃ o : Int32 × PH, o = (x, h1) := ⟨_, rfl⟩
  rw [← ho] at hf
  have e1 : x = o.1 := by rw [ho]
  have e2 : h1 = o.2 := by rw [ho]
  subst e1 e2
  clear ho
  show PF Γ mi_X9_position_X10 D h0 (QR Γ D h0 (ovi o.1) o.2) h0 0 [some (va_rf r0)] []
  unfold f_X9_position_X10 at hf
  refine j_aload_n 0 dX9_position_0 rfl rfl ?_
  refine j_gI (ci := 8) (k := 0) rfl in_X10 rfl q1060 dX9_position_1 hf (fun v1 hf => ?_)
  have e9 := Option.some.inj hf
  subst e9
  exact j_iret rfl dX9_position_4
abbrev mi_X9_position_X11 : MI := (cX9_position, 1, RX9, (Option.some FieldType.int), [], 0, 0, "position")
def f_X9_position_X11 (r0 : Option Nat) (h0 : PH) : Option (Int32 × PH) := gI h0 r0 9 0 fun v1 => some (v1, h0)
theorem hyS_X9_position_X11 : yX9_position.cls ≠ "java/lang/invoke/MethodHandle" ∧ yX9_position.cls ≠ "java/lang/invoke/VarHandle" ∧ (parseMethodDescriptor yX9_position.desc).map (fun d => d.parameters.length) = some 0 := by decide +kernel
theorem hyV_X9_position_X11 : yX9_position.cls = RX9 ∧ yX9_position.cls ≠ "java/lang/invoke/MethodHandle" ∧ yX9_position.cls ≠ "java/lang/invoke/VarHandle" ∧ (parseMethodDescriptor yX9_position.desc).map (fun d => d.parameters.length) = some 0 := by decide +kernel
theorem c_X9_position_X11 {D : va_G} (r0 : Option Nat) {h0 : PH} (l : Launch) (hl : l.stackTraces = false) (x : Int32) (h1 : PH) (hf : f_X9_position_X11 r0 h0 = some (x, h1)) : CT l D yX9_position (ws_ yX9_position cX9_position 1 (Option.some FieldType.int)) 0 0 [va_rf r0] h0 (ovi x) h1 := by
  refine ct_of hl [some (va_rf r0)] (by decide) (by rw [lgl]; simp [va_rf_cat, cat_i, cat_l]) (by simp [lv_args, vsL, va_rf_cat, cat_i, cat_l]) (fun Γ => ?_)
  obtain ⟨o, ho⟩ : ∃ o : Int32 × PH, o = (x, h1) := ⟨_, rfl⟩
  rw [← ho] at hf
  have e1 : x = o.1 := by rw [ho]
  have e2 : h1 = o.2 := by rw [ho]
  subst e1 e2
  clear ho
  show PF Γ mi_X9_position_X11 D h0 (QR Γ D h0 (ovi o.1) o.2) h0 0 [some (va_rf r0)] []
  unfold f_X9_position_X11 at hf
  refine j_aload_n 0 dX9_position_0 rfl rfl ?_
  refine j_gI (ci := 9) (k := 0) rfl in_X11 rfl q1060 dX9_position_1 hf (fun v1 hf => ?_)
  have e9 := Option.some.inj hf
  subst e9
  exact j_iret rfl dX9_position_4
abbrev mi_X9_position_X12 : MI := (cX9_position, 1, RX9, (Option.some FieldType.int), [], 0, 0, "position")
def f_X9_position_X12 (r0 : Option Nat) (h0 : PH) : Option (Int32 × PH) := gI h0 r0 10 0 fun v1 => some (v1, h0)
theorem hyS_X9_position_X12 : yX9_position.cls ≠ "java/lang/invoke/MethodHandle" ∧ yX9_position.cls ≠ "java/lang/invoke/VarHandle" ∧ (parseMethodDescriptor yX9_position.desc).map (fun d => d.parameters.length) = some 0 := by decide +kernel
theorem hyV_X9_position_X12 : yX9_position.cls = RX9 ∧ yX9_position.cls ≠ "java/lang/invoke/MethodHandle" ∧ yX9_position.cls ≠ "java/lang/invoke/VarHandle" ∧ (parseMethodDescriptor yX9_position.desc).map (fun d => d.parameters.length) = some 0 := by decide +kernel
theorem c_X9_position_X12 {D : va_G} (r0 : Option Nat) {h0 : PH} (l : Launch) (hl : l.stackTraces = false) (x : Int32) (h1 : PH) (hf : f_X9_position_X12 r0 h0 = some (x, h1)) : CT l D yX9_position (ws_ yX9_position cX9_position 1 (Option.some FieldType.int)) 0 0 [va_rf r0] h0 (ovi x) h1 := by
  refine ct_of hl [some (va_rf r0)] (by decide) (by rw [lgl]; simp [va_rf_cat, cat_i, cat_l]) (by simp [lv_args, vsL, va_rf_cat, cat_i, cat_l]) (fun Γ => ?_)
  obtain ⟨o, ho⟩ : ∃ o : Int32 × PH, o = (x, h1) := ⟨_, rfl⟩
  rw [← ho] at hf
  have e1 : x = o.1 := by rw [ho]
  have e2 : h1 = o.2 := by rw [ho]
  subst e1 e2
  clear ho
  show PF Γ mi_X9_position_X12 D h0 (QR Γ D h0 (ovi o.1) o.2) h0 0 [some (va_rf r0)] []
  unfold f_X9_position_X12 at hf
  refine j_aload_n 0 dX9_position_0 rfl rfl ?_
  refine j_gI (ci := 10) (k := 0) rfl in_X12 rfl q1060 dX9_position_1 hf (fun v1 hf => ?_)
  have e9 := Option.some.inj hf
  subst e9
  exact j_iret rfl dX9_position_4
abbrev mi_X9_position_X13 : MI := (cX9_position, 1, RX9, (Option.some FieldType.int), [], 0, 0, "position")
def f_X9_position_X13 (r0 : Option Nat) (h0 : PH) : Option (Int32 × PH) := gI h0 r0 11 0 fun v1 => some (v1, h0)
theorem hyS_X9_position_X13 : yX9_position.cls ≠ "java/lang/invoke/MethodHandle" ∧ yX9_position.cls ≠ "java/lang/invoke/VarHandle" ∧ (parseMethodDescriptor yX9_position.desc).map (fun d => d.parameters.length) = some 0 := by decide +kernel
theorem hyV_X9_position_X13 : yX9_position.cls = RX9 ∧ yX9_position.cls ≠ "java/lang/invoke/MethodHandle" ∧ yX9_position.cls ≠ "java/lang/invoke/VarHandle" ∧ (parseMethodDescriptor yX9_position.desc).map (fun d => d.parameters.length) = some 0 := by decide +kernel
theorem c_X9_position_X13 {D : va_G} (r0 : Option Nat) {h0 : PH} (l : Launch) (hl : l.stackTraces = false) (x : Int32) (h1 : PH) (hf : f_X9_position_X13 r0 h0 = some (x, h1)) : CT l D yX9_position (ws_ yX9_position cX9_position 1 (Option.some FieldType.int)) 0 0 [va_rf r0] h0 (ovi x) h1 := by
  refine ct_of hl [some (va_rf r0)] (by decide) (by rw [lgl]; simp [va_rf_cat, cat_i, cat_l]) (by simp [lv_args, vsL, va_rf_cat, cat_i, cat_l]) (fun Γ => ?_)
  obtain ⟨o, ho⟩ : ∃ o : Int32 × PH, o = (x, h1) := ⟨_, rfl⟩
  rw [← ho] at hf
  have e1 : x = o.1 := by rw [ho]
  have e2 : h1 = o.2 := by rw [ho]
  subst e1 e2
  clear ho
  show PF Γ mi_X9_position_X13 D h0 (QR Γ D h0 (ovi o.1) o.2) h0 0 [some (va_rf r0)] []
  unfold f_X9_position_X13 at hf
  refine j_aload_n 0 dX9_position_0 rfl rfl ?_
  refine j_gI (ci := 11) (k := 0) rfl in_X13 rfl q1060 dX9_position_1 hf (fun v1 hf => ?_)
  have e9 := Option.some.inj hf
  subst e9
  exact j_iret rfl dX9_position_4
theorem kc_X10_1_X10 {Γ : GX} {I : MI} {D : va_G} {h0 : PH} {Q : State → Prop} {h : PH} {pc : Nat} {vs : List (Option Value)} {rest : List Value} {β : Type} {o : β} {a : Nat} {p0 : Int32} {K : ((Unit) → PH → Option β)} (hI : I.2.2.1 = RX10) (hfr : Nat.ble 4 I.2.2.2.2.2.1 = true) (hlo : Nat.ble 89 I.2.2.2.2.2.2.1 = true) (hW : (rest.map fun v => v.category).sum ≤ 8) (hd : decode I.1 pc = .ok (.invokespecial 1, 3)) (hf : cl_ (f_X9_init_X10 a p0 h) K = some o) (kk : ∀ (x : Unit) (h1 : PH), K x h1 = some o → PF Γ I D h0 Q h1 (pc + 3) vs (rest)) : PF Γ I D h0 Q h pc vs (.int p0 :: va_rf (some a) :: rest) := by
  obtain ⟨cc, nL, own, rt, xt, fr, lo, nm⟩ := I
  cases hI
  exact j_cIv (n := 1) (y := yX9_init) (cc2 := cX9_init) (As := [.int p0]) (lw_meth q1053) q119 q1051 q1052 rfl hyS_X9_init_X10 hfr hlo rfl hW hd (c_X9_init_X10 a p0) ⟨_, rfl⟩ hf _ rfl kk
abbrev mi_X10_init : MI := (cX10_init, 2, RX10, none, [], 4, 89, "<init>")
def f_X10_init (a0 : Nat) (p0 : Int32) (h0 : PH) : Option (Unit × PH) := cl_ (f_X9_init_X10 a0 p0 h0) fun _u h1 => some ((), h1)
theorem hyS_X10_init : yX10_init.cls ≠ "java/lang/invoke/MethodHandle" ∧ yX10_init.cls ≠ "java/lang/invoke/VarHandle" ∧ (parseMethodDescriptor yX10_init.desc).map (fun d => d.parameters.length) = some 1 := by decide +kernel
theorem c_X10_init {D : va_G} (a0 : Nat) (p0 : Int32) {h0 : PH} (l : Launch) (hl : l.stackTraces = false) (x : Unit) (h1 : PH) (hf : f_X10_init a0 p0 h0 = some (x, h1)) : CT l D yX10_init (ws_ yX10_init cX10_init 2 none) 4 89 [va_rf (some a0), .int p0] h0 (ovv x) h1 := by
  refine ct_of hl [some (va_rf (some a0)), some (.int p0)] (by decide) (Nat.le_of_ble_eq_true rfl) rfl (fun Γ => ?_)
  obtain ⟨o, ho⟩ : ∃ o : Unit × PH, o = (x, h1) := ⟨_, rfl⟩
  rw [← ho] at hf
  have e1 : x = o.1 := by rw [ho]
  have e2 : h1 = o.2 := by rw [ho]
  subst e1 e2
  clear ho
  show PF Γ mi_X10_init D h0 (QR Γ D h0 (ovv o.1) o.2) h0 0 [some (va_rf (some a0)), some (.int p0)] []
  unfold f_X10_init at hf
  refine j_aload_n 0 dX10_init_0 rfl rfl ?_
  refine j_iload_n 1 dX10_init_1 rfl rfl ?_
  refine kc_X10_1_X10 rfl rfl rfl (by decide) dX10_init_2 hf (fun _u h1 hf => ?_)
  have e9 := Option.some.inj hf
  subst e9
  exact j_vret rfl dX10_init_5
theorem kc_X11_1_X11 {Γ : GX} {I : MI} {D : va_G} {h0 : PH} {Q : State → Prop} {h : PH} {pc : Nat} {vs : List (Option Value)} {rest : List Value} {β : Type} {o : β} {a : Nat} {p0 : Int32} {K : ((Unit) → PH → Option β)} (hI : I.2.2.1 = RX11) (hfr : Nat.ble 4 I.2.2.2.2.2.1 = true) (hlo : Nat.ble 89 I.2.2.2.2.2.2.1 = true) (hW : (rest.map fun v => v.category).sum ≤ 8) (hd : decode I.1 pc = .ok (.invokespecial 1, 3)) (hf : cl_ (f_X9_init_X11 a p0 h) K = some o) (kk : ∀ (x : Unit) (h1 : PH), K x h1 = some o → PF Γ I D h0 Q h1 (pc + 3) vs (rest)) : PF Γ I D h0 Q h pc vs (.int p0 :: va_rf (some a) :: rest) := by
  obtain ⟨cc, nL, own, rt, xt, fr, lo, nm⟩ := I
  cases hI
  exact j_cIv (n := 1) (y := yX9_init) (cc2 := cX9_init) (As := [.int p0]) (lw_meth q1053) q119 q1155 q1052 rfl hyS_X9_init_X11 hfr hlo rfl hW hd (c_X9_init_X11 a p0) ⟨_, rfl⟩ hf _ rfl kk
abbrev mi_X11_init : MI := (cX11_init, 2, RX11, none, [], 4, 89, "<init>")
def f_X11_init (a0 : Nat) (p0 : Int32) (h0 : PH) : Option (Unit × PH) := cl_ (f_X9_init_X11 a0 p0 h0) fun _u h1 => some ((), h1)
theorem hyS_X11_init : yX11_init.cls ≠ "java/lang/invoke/MethodHandle" ∧ yX11_init.cls ≠ "java/lang/invoke/VarHandle" ∧ (parseMethodDescriptor yX11_init.desc).map (fun d => d.parameters.length) = some 1 := by decide +kernel
theorem c_X11_init {D : va_G} (a0 : Nat) (p0 : Int32) {h0 : PH} (l : Launch) (hl : l.stackTraces = false) (x : Unit) (h1 : PH) (hf : f_X11_init a0 p0 h0 = some (x, h1)) : CT l D yX11_init (ws_ yX11_init cX11_init 2 none) 4 89 [va_rf (some a0), .int p0] h0 (ovv x) h1 := by
  refine ct_of hl [some (va_rf (some a0)), some (.int p0)] (by decide) (Nat.le_of_ble_eq_true rfl) rfl (fun Γ => ?_)
  obtain ⟨o, ho⟩ : ∃ o : Unit × PH, o = (x, h1) := ⟨_, rfl⟩
  rw [← ho] at hf
  have e1 : x = o.1 := by rw [ho]
  have e2 : h1 = o.2 := by rw [ho]
  subst e1 e2
  clear ho
  show PF Γ mi_X11_init D h0 (QR Γ D h0 (ovv o.1) o.2) h0 0 [some (va_rf (some a0)), some (.int p0)] []
  unfold f_X11_init at hf
  refine j_aload_n 0 dX11_init_0 rfl rfl ?_
  refine j_iload_n 1 dX11_init_1 rfl rfl ?_
  refine kc_X11_1_X11 rfl rfl rfl (by decide) dX11_init_2 hf (fun _u h1 hf => ?_)
  have e9 := Option.some.inj hf
  subst e9
  exact j_vret rfl dX11_init_5
theorem kc_X12_1_X12 {Γ : GX} {I : MI} {D : va_G} {h0 : PH} {Q : State → Prop} {h : PH} {pc : Nat} {vs : List (Option Value)} {rest : List Value} {β : Type} {o : β} {a : Nat} {p0 : Int32} {K : ((Unit) → PH → Option β)} (hI : I.2.2.1 = RX12) (hfr : Nat.ble 4 I.2.2.2.2.2.1 = true) (hlo : Nat.ble 89 I.2.2.2.2.2.2.1 = true) (hW : (rest.map fun v => v.category).sum ≤ 8) (hd : decode I.1 pc = .ok (.invokespecial 1, 3)) (hf : cl_ (f_X9_init_X12 a p0 h) K = some o) (kk : ∀ (x : Unit) (h1 : PH), K x h1 = some o → PF Γ I D h0 Q h1 (pc + 3) vs (rest)) : PF Γ I D h0 Q h pc vs (.int p0 :: va_rf (some a) :: rest) := by
  obtain ⟨cc, nL, own, rt, xt, fr, lo, nm⟩ := I
  cases hI
  exact j_cIv (n := 1) (y := yX9_init) (cc2 := cX9_init) (As := [.int p0]) (lw_meth q1053) q119 q1175 q1052 rfl hyS_X9_init_X12 hfr hlo rfl hW hd (c_X9_init_X12 a p0) ⟨_, rfl⟩ hf _ rfl kk
abbrev mi_X12_init : MI := (cX12_init, 2, RX12, none, [], 4, 89, "<init>")
def f_X12_init (a0 : Nat) (p0 : Int32) (h0 : PH) : Option (Unit × PH) := cl_ (f_X9_init_X12 a0 p0 h0) fun _u h1 => some ((), h1)
theorem hyS_X12_init : yX12_init.cls ≠ "java/lang/invoke/MethodHandle" ∧ yX12_init.cls ≠ "java/lang/invoke/VarHandle" ∧ (parseMethodDescriptor yX12_init.desc).map (fun d => d.parameters.length) = some 1 := by decide +kernel
theorem c_X12_init {D : va_G} (a0 : Nat) (p0 : Int32) {h0 : PH} (l : Launch) (hl : l.stackTraces = false) (x : Unit) (h1 : PH) (hf : f_X12_init a0 p0 h0 = some (x, h1)) : CT l D yX12_init (ws_ yX12_init cX12_init 2 none) 4 89 [va_rf (some a0), .int p0] h0 (ovv x) h1 := by
  refine ct_of hl [some (va_rf (some a0)), some (.int p0)] (by decide) (Nat.le_of_ble_eq_true rfl) rfl (fun Γ => ?_)
  obtain ⟨o, ho⟩ : ∃ o : Unit × PH, o = (x, h1) := ⟨_, rfl⟩
  rw [← ho] at hf
  have e1 : x = o.1 := by rw [ho]
  have e2 : h1 = o.2 := by rw [ho]
  subst e1 e2
  clear ho
  show PF Γ mi_X12_init D h0 (QR Γ D h0 (ovv o.1) o.2) h0 0 [some (va_rf (some a0)), some (.int p0)] []
  unfold f_X12_init at hf
  refine j_aload_n 0 dX12_init_0 rfl rfl ?_
  refine j_iload_n 1 dX12_init_1 rfl rfl ?_
  refine kc_X12_1_X12 rfl rfl rfl (by decide) dX12_init_2 hf (fun _u h1 hf => ?_)
  have e9 := Option.some.inj hf
  subst e9
  exact j_vret rfl dX12_init_5
theorem kc_X13_1_X13 {Γ : GX} {I : MI} {D : va_G} {h0 : PH} {Q : State → Prop} {h : PH} {pc : Nat} {vs : List (Option Value)} {rest : List Value} {β : Type} {o : β} {a : Nat} {p0 : Int32} {K : ((Unit) → PH → Option β)} (hI : I.2.2.1 = RX13) (hfr : Nat.ble 4 I.2.2.2.2.2.1 = true) (hlo : Nat.ble 89 I.2.2.2.2.2.2.1 = true) (hW : (rest.map fun v => v.category).sum ≤ 8) (hd : decode I.1 pc = .ok (.invokespecial 1, 3)) (hf : cl_ (f_X9_init_X13 a p0 h) K = some o) (kk : ∀ (x : Unit) (h1 : PH), K x h1 = some o → PF Γ I D h0 Q h1 (pc + 3) vs (rest)) : PF Γ I D h0 Q h pc vs (.int p0 :: va_rf (some a) :: rest) := by
  obtain ⟨cc, nL, own, rt, xt, fr, lo, nm⟩ := I
  cases hI
  exact j_cIv (n := 1) (y := yX9_init) (cc2 := cX9_init) (As := [.int p0]) (lw_meth q1053) q119 q1205 q1052 rfl hyS_X9_init_X13 hfr hlo rfl hW hd (c_X9_init_X13 a p0) ⟨_, rfl⟩ hf _ rfl kk
abbrev mi_X13_init : MI := (cX13_init, 2, RX13, none, [], 4, 89, "<init>")
def f_X13_init (a0 : Nat) (p0 : Int32) (h0 : PH) : Option (Unit × PH) := cl_ (f_X9_init_X13 a0 p0 h0) fun _u h1 => some ((), h1)
theorem hyS_X13_init : yX13_init.cls ≠ "java/lang/invoke/MethodHandle" ∧ yX13_init.cls ≠ "java/lang/invoke/VarHandle" ∧ (parseMethodDescriptor yX13_init.desc).map (fun d => d.parameters.length) = some 1 := by decide +kernel
theorem c_X13_init {D : va_G} (a0 : Nat) (p0 : Int32) {h0 : PH} (l : Launch) (hl : l.stackTraces = false) (x : Unit) (h1 : PH) (hf : f_X13_init a0 p0 h0 = some (x, h1)) : CT l D yX13_init (ws_ yX13_init cX13_init 2 none) 4 89 [va_rf (some a0), .int p0] h0 (ovv x) h1 := by
  refine ct_of hl [some (va_rf (some a0)), some (.int p0)] (by decide) (Nat.le_of_ble_eq_true rfl) rfl (fun Γ => ?_)
  obtain ⟨o, ho⟩ : ∃ o : Unit × PH, o = (x, h1) := ⟨_, rfl⟩
  rw [← ho] at hf
  have e1 : x = o.1 := by rw [ho]
  have e2 : h1 = o.2 := by rw [ho]
  subst e1 e2
  clear ho
  show PF Γ mi_X13_init D h0 (QR Γ D h0 (ovv o.1) o.2) h0 0 [some (va_rf (some a0)), some (.int p0)] []
  unfold f_X13_init at hf
  refine j_aload_n 0 dX13_init_0 rfl rfl ?_
  refine j_iload_n 1 dX13_init_1 rfl rfl ?_
  refine kc_X13_1_X13 rfl rfl rfl (by decide) dX13_init_2 hf (fun _u h1 hf => ?_)
  have e9 := Option.some.inj hf
  subst e9
  exact j_vret rfl dX13_init_5
theorem kc_X14_1_X14 {Γ : GX} {I : MI} {D : va_G} {h0 : PH} {Q : State → Prop} {h : PH} {pc : Nat} {vs : List (Option Value)} {rest : List Value} {β : Type} {o : β} {a : Nat} {p0 : Option Nat} {p1 : Option Nat} {p2 : Int32} {p3 : Int32} {K : ((Unit) → PH → Option β)} (hI : I.2.2.1 = RX14) (hfr : Nat.ble 3 I.2.2.2.2.2.1 = true) (hlo : Nat.ble 68 I.2.2.2.2.2.2.1 = true) (hW : (rest.map fun v => v.category).sum ≤ 8) (hd : decode I.1 pc = .ok (.invokespecial 1, 3)) (hf : cl_ (f_J4_init_2_X14 a p0 p1 p2 p3 h) K = some o) (kk : ∀ (x : Unit) (h1 : PH), K x h1 = some o → PF Γ I D h0 Q h1 (pc + 3) vs (rest)) : PF Γ I D h0 Q h pc vs (.int p3 :: .int p2 :: va_rf p1 :: va_rf p0 :: va_rf (some a) :: rest) := by
  obtain ⟨cc, nL, own, rt, xt, fr, lo, nm⟩ := I
  cases hI
  exact j_cIv (n := 4) (y := yJ4_init_2) (cc2 := cJ4_init_2) (As := [va_rf p0, va_rf p1, .int p2, .int p3]) (lw_meth q1056) q98 q1221 q1055 rfl hyS_J4_init_2_X14 hfr hlo rfl hW hd (c_J4_init_2_X14 a p0 p1 p2 p3) ⟨_, rfl⟩ hf _ rfl kk
abbrev mi_X14_init : MI := (cX14_init, 2, RX14, none, [], 3, 68, "<init>")
def f_X14_init (a0 : Nat) (p0 : Option Nat) (h0 : PH) : Option (Unit × PH) := cl_ (f_J4_init_2_X14 a0 none p0 (0 : Int32) (0 : Int32) h0) fun _u h1 => some ((), h1)
theorem hyS_X14_init : yX14_init.cls ≠ "java/lang/invoke/MethodHandle" ∧ yX14_init.cls ≠ "java/lang/invoke/VarHandle" ∧ (parseMethodDescriptor yX14_init.desc).map (fun d => d.parameters.length) = some 1 := by decide +kernel
theorem c_X14_init {D : va_G} (a0 : Nat) (p0 : Option Nat) {h0 : PH} (l : Launch) (hl : l.stackTraces = false) (x : Unit) (h1 : PH) (hf : f_X14_init a0 p0 h0 = some (x, h1)) : CT l D yX14_init (ws_ yX14_init cX14_init 2 none) 3 68 [va_rf (some a0), va_rf p0] h0 (ovv x) h1 := by
  refine ct_of hl [some (va_rf (some a0)), some (va_rf p0)] (by decide) (by rw [lgl]; simp [va_rf_cat, cat_i, cat_l]) (by simp [lv_args, vsL, va_rf_cat, cat_i, cat_l]) (fun Γ => ?_)
  obtain ⟨o, ho⟩ : ∃ o : Unit × PH, o = (x, h1) := ⟨_, rfl⟩
  rw [← ho] at hf
  have e1 : x = o.1 := by rw [ho]
  have e2 : h1 = o.2 := by rw [ho]
  subst e1 e2
  clear ho
  show PF Γ mi_X14_init D h0 (QR Γ D h0 (ovv o.1) o.2) h0 0 [some (va_rf (some a0)), some (va_rf p0)] []
  unfold f_X14_init at hf
  refine j_aload_n 0 dX14_init_0 rfl rfl ?_
  refine j_aconst_null dX14_init_1 ?_
  refine j_aload_n 1 dX14_init_2 rfl rfl ?_
  refine j_iconst (0 : Int32) dX14_init_3 (by decide) ?_
  refine j_iconst (0 : Int32) dX14_init_4 (by decide) ?_
  refine kc_X14_1_X14 rfl rfl rfl (by decide) dX14_init_5 hf (fun _u h1 hf => ?_)
  have e9 := Option.some.inj hf
  subst e9
  exact j_vret rfl dX14_init_8
abbrev mi_X14_number : MI := (cX14_number, 2, RX14, (Option.some FieldType.int), [], 1, 24, "number")
def f_X14_number_B39 (t0 : Int32) (h : PH) : Option (Int32 × PH) := some (t0, h)
theorem pf_X14_number_B39 {Γ : GX} {D : va_G} {h0 : PH} {o : Int32 × PH} (t0 : Int32) (h : PH) (hf : f_X14_number_B39 t0 h = some o) : PF Γ mi_X14_number D h0 (QR Γ D h0 (ovi o.1) o.2) h 39 [none, none] [.int t0] := by
  have e9 := Option.some.inj hf
  subst e9
  exact j_iret rfl dX14_number_39
def f_X14_number (r0 : Option Nat) (h0 : PH) : Option (Int32 × PH) := cauC h0 r0 12 fun r1 => iN h0 r1 9 fun v2 => (if v2 = 0 then (iN h0 r1 10 fun v3 => (if v3 = 0 then (iN h0 r1 8 fun v4 => (if v4 = 0 then (f_X14_number_B39 (4 : Int32) h0) else (f_X14_number_B39 (3 : Int32) h0))) else (f_X14_number_B39 (2 : Int32) h0))) else (f_X14_number_B39 (1 : Int32) h0))
theorem hyS_X14_number : yX14_number.cls ≠ "java/lang/invoke/MethodHandle" ∧ yX14_number.cls ≠ "java/lang/invoke/VarHandle" ∧ (parseMethodDescriptor yX14_number.desc).map (fun d => d.parameters.length) = some 0 := by decide +kernel
theorem hyV_X14_number : yX14_number.cls = RX14 ∧ yX14_number.cls ≠ "java/lang/invoke/MethodHandle" ∧ yX14_number.cls ≠ "java/lang/invoke/VarHandle" ∧ (parseMethodDescriptor yX14_number.desc).map (fun d => d.parameters.length) = some 0 := by decide +kernel
theorem c_X14_number {D : va_G} (r0 : Option Nat) {h0 : PH} (l : Launch) (hl : l.stackTraces = false) (x : Int32) (h1 : PH) (hf : f_X14_number r0 h0 = some (x, h1)) : CT l D yX14_number (ws_ yX14_number cX14_number 2 (Option.some FieldType.int)) 1 24 [va_rf r0] h0 (ovi x) h1 := by
  refine ct_of hl [some (va_rf r0), none] (by decide) (by rw [lgl]; simp [va_rf_cat, cat_i, cat_l]) (by simp [lv_args, vsL, va_rf_cat, cat_i, cat_l]) (fun Γ => ?_)
  obtain ⟨o, ho⟩ : ∃ o : Int32 × PH, o = (x, h1) := ⟨_, rfl⟩
  rw [← ho] at hf
  have e1 : x = o.1 := by rw [ho]
  have e2 : h1 = o.2 := by rw [ho]
  subst e1 e2
  clear ho
  show PF Γ mi_X14_number D h0 (QR Γ D h0 (ovi o.1) o.2) h0 0 [some (va_rf r0), none] []
  unfold f_X14_number at hf
  refine j_aload_n 0 dX14_number_0 rfl rfl ?_
  refine j_cause (ci := 12) (by decide) rfl rfl in_X14 q1228 q1229 q1232 q1233 q1231 q467 rfl rfl (by decide) dX14_number_1 hf (fun r1 hf => ?_)
  refine j_astore_n 1 [some (va_rf r0), some (va_rf r1)] dX14_number_4 rfl (cz (va_rf_cat _)) rfl rfl ?_
  refine j_aload_n 1 dX14_number_5 rfl rfl ?_
  refine j_inst (ci := 9) rfl q1234 dX14_number_6 hf (fun v2 hf => ?_)
  refine j_if_eq 16 dX14_number_9 (by decide) hf (fun c_ hf => ?_) (fun c_ hf => ?_)
  · refine j_aload_n 1 dX14_number_16 rfl rfl ?_
    refine j_inst (ci := 10) rfl q1235 dX14_number_17 hf (fun v3 hf => ?_)
    refine j_if_eq 27 dX14_number_20 (by decide) hf (fun c_ hf => ?_) (fun c_ hf => ?_)
    · refine j_aload_n 1 dX14_number_27 rfl rfl ?_
      refine j_inst (ci := 8) rfl q1236 dX14_number_28 hf (fun v4 hf => ?_)
      refine j_if_eq 38 dX14_number_31 (by decide) hf (fun c_ hf => ?_) (fun c_ hf => ?_)
      · refine j_iconst (4 : Int32) dX14_number_38 (by decide) ?_
        refine j_weak [none, none] (Wk.s (Wk.s Wk.n)) ?_
        exact pf_X14_number_B39 (4 : Int32) h0 hf
      · refine j_iconst (3 : Int32) dX14_number_34 (by decide) ?_
        refine j_goto 39 dX14_number_35 (by decide) ?_
        refine j_weak [none, none] (Wk.s (Wk.s Wk.n)) ?_
        exact pf_X14_number_B39 (3 : Int32) h0 hf
    · refine j_iconst (2 : Int32) dX14_number_23 (by decide) ?_
      refine j_goto 39 dX14_number_24 (by decide) ?_
      refine j_weak [none, none] (Wk.s (Wk.s Wk.n)) ?_
      exact pf_X14_number_B39 (2 : Int32) h0 hf
  · refine j_iconst (1 : Int32) dX14_number_12 (by decide) ?_
    refine j_goto 39 dX14_number_13 (by decide) ?_
    refine j_weak [none, none] (Wk.s (Wk.s Wk.n)) ?_
    exact pf_X14_number_B39 (1 : Int32) h0 hf
theorem kc_X14_15_X10 {Γ : GX} {I : MI} {D : va_G} {h0 : PH} {Q : State → Prop} {h : PH} {pc : Nat} {vs : List (Option Value)} {rest : List Value} {β : Type} {o : β} {r : Option Nat}  {K : ((Int32) → PH → Option β)} (hI : I.2.2.1 = RX14) (hfr : Nat.ble 1 I.2.2.2.2.2.1 = true) (hlo : Nat.ble 20 I.2.2.2.2.2.2.1 = true) (hW : (rest.map fun v => v.category).sum ≤ 8) (hd : decode I.1 pc = .ok (.invokevirtual 15, 3)) (hf : rv_ h r 8 (cl_ (f_X9_position_X10 r h) K) = some o) (kk : ∀ (x : Int32) (h1 : PH), K x h1 = some o → PF Γ I D h0 Q h1 (pc + 3) vs (.int x :: rest)) : PF Γ I D h0 Q h pc vs (va_rf r :: rest) := by
  obtain ⟨cc, nL, own, rt, xt, fr, lo, nm⟩ := I
  cases hI
  exact j_cUi (n := 0) (y := yX9_position) (cc2 := cX9_position) (As := []) (ci := 8) (x9 := ⟨"LeaderLeases$Located", "position", "()I"⟩) (owner := RX9) (lw_U (C := RX10) q1242 q1244 q1247 q1243 q119 q1249) rfl (by decide +kernel) hfr hlo rfl hW hd (c_X9_position_X10 r) hf _ rfl kk
theorem kc_X14_15_X11 {Γ : GX} {I : MI} {D : va_G} {h0 : PH} {Q : State → Prop} {h : PH} {pc : Nat} {vs : List (Option Value)} {rest : List Value} {β : Type} {o : β} {r : Option Nat}  {K : ((Int32) → PH → Option β)} (hI : I.2.2.1 = RX14) (hfr : Nat.ble 1 I.2.2.2.2.2.1 = true) (hlo : Nat.ble 20 I.2.2.2.2.2.2.1 = true) (hW : (rest.map fun v => v.category).sum ≤ 8) (hd : decode I.1 pc = .ok (.invokevirtual 15, 3)) (hf : rv_ h r 9 (cl_ (f_X9_position_X11 r h) K) = some o) (kk : ∀ (x : Int32) (h1 : PH), K x h1 = some o → PF Γ I D h0 Q h1 (pc + 3) vs (.int x :: rest)) : PF Γ I D h0 Q h pc vs (va_rf r :: rest) := by
  obtain ⟨cc, nL, own, rt, xt, fr, lo, nm⟩ := I
  cases hI
  exact j_cUi (n := 0) (y := yX9_position) (cc2 := cX9_position) (As := []) (ci := 9) (x9 := ⟨"LeaderLeases$Located", "position", "()I"⟩) (owner := RX9) (lw_U (C := RX11) q1242 q1244 q1248 q1243 q119 q1249) rfl (by decide +kernel) hfr hlo rfl hW hd (c_X9_position_X11 r) hf _ rfl kk
theorem kc_X14_15_X12 {Γ : GX} {I : MI} {D : va_G} {h0 : PH} {Q : State → Prop} {h : PH} {pc : Nat} {vs : List (Option Value)} {rest : List Value} {β : Type} {o : β} {r : Option Nat}  {K : ((Int32) → PH → Option β)} (hI : I.2.2.1 = RX14) (hfr : Nat.ble 1 I.2.2.2.2.2.1 = true) (hlo : Nat.ble 20 I.2.2.2.2.2.2.1 = true) (hW : (rest.map fun v => v.category).sum ≤ 8) (hd : decode I.1 pc = .ok (.invokevirtual 15, 3)) (hf : rv_ h r 10 (cl_ (f_X9_position_X12 r h) K) = some o) (kk : ∀ (x : Int32) (h1 : PH), K x h1 = some o → PF Γ I D h0 Q h1 (pc + 3) vs (.int x :: rest)) : PF Γ I D h0 Q h pc vs (va_rf r :: rest) := by
  obtain ⟨cc, nL, own, rt, xt, fr, lo, nm⟩ := I
  cases hI
  exact j_cUi (n := 0) (y := yX9_position) (cc2 := cX9_position) (As := []) (ci := 10) (x9 := ⟨"LeaderLeases$Located", "position", "()I"⟩) (owner := RX9) (lw_U (C := RX12) q1242 q1244 q1246 q1243 q119 q1249) rfl (by decide +kernel) hfr hlo rfl hW hd (c_X9_position_X12 r) hf _ rfl kk
theorem kc_X14_15_X13 {Γ : GX} {I : MI} {D : va_G} {h0 : PH} {Q : State → Prop} {h : PH} {pc : Nat} {vs : List (Option Value)} {rest : List Value} {β : Type} {o : β} {r : Option Nat}  {K : ((Int32) → PH → Option β)} (hI : I.2.2.1 = RX14) (hfr : Nat.ble 1 I.2.2.2.2.2.1 = true) (hlo : Nat.ble 20 I.2.2.2.2.2.2.1 = true) (hW : (rest.map fun v => v.category).sum ≤ 8) (hd : decode I.1 pc = .ok (.invokevirtual 15, 3)) (hf : rv_ h r 11 (cl_ (f_X9_position_X13 r h) K) = some o) (kk : ∀ (x : Int32) (h1 : PH), K x h1 = some o → PF Γ I D h0 Q h1 (pc + 3) vs (.int x :: rest)) : PF Γ I D h0 Q h pc vs (va_rf r :: rest) := by
  obtain ⟨cc, nL, own, rt, xt, fr, lo, nm⟩ := I
  cases hI
  exact j_cUi (n := 0) (y := yX9_position) (cc2 := cX9_position) (As := []) (ci := 11) (x9 := ⟨"LeaderLeases$Located", "position", "()I"⟩) (owner := RX9) (lw_U (C := RX13) q1242 q1244 q1245 q1243 q119 q1249) rfl (by decide +kernel) hfr hlo rfl hW hd (c_X9_position_X13 r) hf _ rfl kk
abbrev mi_X14_position : MI := (cX14_position, 1, RX14, (Option.some FieldType.int), [], 1, 24, "position")
def f_X14_position (r0 : Option Nat) (h0 : PH) : Option (Int32 × PH) := cauC h0 r0 12 fun r1 => kQ4 h0 r1 (kC h0 r1 8 (rv_ h0 r1 8 (cl_ (f_X9_position_X10 r1 h0) fun v3 h2 => some (v3, h2)))) (kC h0 r1 9 (rv_ h0 r1 9 (cl_ (f_X9_position_X11 r1 h0) fun v5 h4 => some (v5, h4)))) (kC h0 r1 10 (rv_ h0 r1 10 (cl_ (f_X9_position_X12 r1 h0) fun v7 h6 => some (v7, h6)))) (kC h0 r1 11 (rv_ h0 r1 11 (cl_ (f_X9_position_X13 r1 h0) fun v9 h8 => some (v9, h8))))
theorem hyS_X14_position : yX14_position.cls ≠ "java/lang/invoke/MethodHandle" ∧ yX14_position.cls ≠ "java/lang/invoke/VarHandle" ∧ (parseMethodDescriptor yX14_position.desc).map (fun d => d.parameters.length) = some 0 := by decide +kernel
theorem hyV_X14_position : yX14_position.cls = RX14 ∧ yX14_position.cls ≠ "java/lang/invoke/MethodHandle" ∧ yX14_position.cls ≠ "java/lang/invoke/VarHandle" ∧ (parseMethodDescriptor yX14_position.desc).map (fun d => d.parameters.length) = some 0 := by decide +kernel
theorem c_X14_position {D : va_G} (r0 : Option Nat) {h0 : PH} (l : Launch) (hl : l.stackTraces = false) (x : Int32) (h1 : PH) (hf : f_X14_position r0 h0 = some (x, h1)) : CT l D yX14_position (ws_ yX14_position cX14_position 1 (Option.some FieldType.int)) 1 24 [va_rf r0] h0 (ovi x) h1 := by
  refine ct_of hl [some (va_rf r0)] (by decide) (by rw [lgl]; simp [va_rf_cat, cat_i, cat_l]) (by simp [lv_args, vsL, va_rf_cat, cat_i, cat_l]) (fun Γ => ?_)
  obtain ⟨o, ho⟩ : ∃ o : Int32 × PH, o = (x, h1) := ⟨_, rfl⟩
  rw [← ho] at hf
  have e1 : x = o.1 := by rw [ho]
  have e2 : h1 = o.2 := by rw [ho]
  subst e1 e2
  clear ho
  show PF Γ mi_X14_position D h0 (QR Γ D h0 (ovi o.1) o.2) h0 0 [some (va_rf r0)] []
  unfold f_X14_position at hf
  refine j_aload_n 0 dX14_position_0 rfl rfl ?_
  refine j_cause (ci := 12) (by decide) rfl rfl in_X14 q1228 q1229 q1232 q1233 q1231 q467 rfl rfl (by decide) dX14_position_1 hf (fun r1 hf => ?_)
  rcases kQ4_in hf with hf | hf | hf | hf
  · refine j_kY (ci := 8) q2794 q1241 dX14_position_4 hf (fun hf => ?_)
    refine kc_X14_15_X10 rfl rfl rfl (by decide) dX14_position_7 hf (fun v3 h2 hf => ?_)
    have e9 := Option.some.inj hf
    subst e9
    exact j_iret rfl dX14_position_10
  · refine j_kY (ci := 9) q2795 q1241 dX14_position_4 hf (fun hf => ?_)
    refine kc_X14_15_X11 rfl rfl rfl (by decide) dX14_position_7 hf (fun v5 h4 hf => ?_)
    have e9 := Option.some.inj hf
    subst e9
    exact j_iret rfl dX14_position_10
  · refine j_kY (ci := 10) q2793 q1241 dX14_position_4 hf (fun hf => ?_)
    refine kc_X14_15_X12 rfl rfl rfl (by decide) dX14_position_7 hf (fun v7 h6 hf => ?_)
    have e9 := Option.some.inj hf
    subst e9
    exact j_iret rfl dX14_position_10
  · refine j_kY (ci := 11) q2792 q1241 dX14_position_4 hf (fun hf => ?_)
    refine kc_X14_15_X13 rfl rfl rfl (by decide) dX14_position_7 hf (fun v9 h8 hf => ?_)
    have e9 := Option.some.inj hf
    subst e9
    exact j_iret rfl dX14_position_10
theorem kc_X18_1_X18 {Γ : GX} {I : MI} {D : va_G} {h0 : PH} {Q : State → Prop} {h : PH} {pc : Nat} {vs : List (Option Value)} {rest : List Value} {β : Type} {o : β} {a : Nat} {p0 : Option Nat} {p1 : Option Nat} {p2 : Int32} {p3 : Int32} {K : ((Unit) → PH → Option β)} (hI : I.2.2.1 = RX18) (hfr : Nat.ble 3 I.2.2.2.2.2.1 = true) (hlo : Nat.ble 68 I.2.2.2.2.2.2.1 = true) (hW : (rest.map fun v => v.category).sum ≤ 8) (hd : decode I.1 pc = .ok (.invokespecial 1, 3)) (hf : cl_ (f_J4_init_2_X18 a p0 p1 p2 p3 h) K = some o) (kk : ∀ (x : Unit) (h1 : PH), K x h1 = some o → PF Γ I D h0 Q h1 (pc + 3) vs (rest)) : PF Γ I D h0 Q h pc vs (.int p3 :: .int p2 :: va_rf p1 :: va_rf p0 :: va_rf (some a) :: rest) := by
  obtain ⟨cc, nL, own, rt, xt, fr, lo, nm⟩ := I
  cases hI
  exact j_cIv (n := 4) (y := yJ4_init_2) (cc2 := cJ4_init_2) (As := [va_rf p0, va_rf p1, .int p2, .int p3]) (lw_meth q1056) q98 q1498 q1055 rfl hyS_J4_init_2_X18 hfr hlo rfl hW hd (c_J4_init_2_X18 a p0 p1 p2 p3) ⟨_, rfl⟩ hf _ rfl kk
abbrev mi_X18_init : MI := (cX18_init, 2, RX18, none, [], 3, 68, "<init>")
def f_X18_init (a0 : Nat) (p0 : Int32) (h0 : PH) : Option (Unit × PH) := cl_ (f_J4_init_2_X18 a0 none none (0 : Int32) (0 : Int32) h0) fun _u h1 => pV h1 (some a0) 15 6 (.int p0) fun h2 => some ((), h2)
theorem hyS_X18_init : yX18_init.cls ≠ "java/lang/invoke/MethodHandle" ∧ yX18_init.cls ≠ "java/lang/invoke/VarHandle" ∧ (parseMethodDescriptor yX18_init.desc).map (fun d => d.parameters.length) = some 1 := by decide +kernel
theorem c_X18_init {D : va_G} (a0 : Nat) (p0 : Int32) {h0 : PH} (l : Launch) (hl : l.stackTraces = false) (x : Unit) (h1 : PH) (hf : f_X18_init a0 p0 h0 = some (x, h1)) : CT l D yX18_init (ws_ yX18_init cX18_init 2 none) 3 68 [va_rf (some a0), .int p0] h0 (ovv x) h1 := by
  refine ct_of hl [some (va_rf (some a0)), some (.int p0)] (by decide) (Nat.le_of_ble_eq_true rfl) rfl (fun Γ => ?_)
  obtain ⟨o, ho⟩ : ∃ o : Unit × PH, o = (x, h1) := ⟨_, rfl⟩
  rw [← ho] at hf
  have e1 : x = o.1 := by rw [ho]
  have e2 : h1 = o.2 := by rw [ho]
  subst e1 e2
  clear ho
  show PF Γ mi_X18_init D h0 (QR Γ D h0 (ovv o.1) o.2) h0 0 [some (va_rf (some a0)), some (.int p0)] []
  unfold f_X18_init at hf
  refine j_aload_n 0 dX18_init_0 rfl rfl ?_
  refine j_aconst_null dX18_init_1 ?_
  refine j_aconst_null dX18_init_2 ?_
  refine j_iconst (0 : Int32) dX18_init_3 (by decide) ?_
  refine j_iconst (0 : Int32) dX18_init_4 (by decide) ?_
  refine kc_X18_1_X18 rfl rfl rfl (by decide) dX18_init_5 hf (fun _u h1 hf => ?_)
  refine j_aload_n 0 dX18_init_8 rfl rfl ?_
  refine j_iload_n 1 dX18_init_9 rfl rfl ?_
  refine j_pV (ci := 15) (k := 6) tyX18 tyX18_ok nmX18 rfl in_X18 rfl q1499 (Or.inr ⟨rfl, rfl, rfl⟩) rfl (fit_i _) dX18_init_10 hf (fun h2 hf => ?_)
  have e9 := Option.some.inj hf
  subst e9
  exact j_vret rfl dX18_init_13
theorem kc_X19_1_X19 {Γ : GX} {I : MI} {D : va_G} {h0 : PH} {Q : State → Prop} {h : PH} {pc : Nat} {vs : List (Option Value)} {rest : List Value} {β : Type} {o : β} {a : Nat} {p0 : Option Nat} {p1 : Option Nat} {p2 : Int32} {p3 : Int32} {K : ((Unit) → PH → Option β)} (hI : I.2.2.1 = RX19) (hfr : Nat.ble 3 I.2.2.2.2.2.1 = true) (hlo : Nat.ble 68 I.2.2.2.2.2.2.1 = true) (hW : (rest.map fun v => v.category).sum ≤ 8) (hd : decode I.1 pc = .ok (.invokespecial 1, 3)) (hf : cl_ (f_J4_init_2_X19 a p0 p1 p2 p3 h) K = some o) (kk : ∀ (x : Unit) (h1 : PH), K x h1 = some o → PF Γ I D h0 Q h1 (pc + 3) vs (rest)) : PF Γ I D h0 Q h pc vs (.int p3 :: .int p2 :: va_rf p1 :: va_rf p0 :: va_rf (some a) :: rest) := by
  obtain ⟨cc, nL, own, rt, xt, fr, lo, nm⟩ := I
  cases hI
  exact j_cIv (n := 4) (y := yJ4_init_2) (cc2 := cJ4_init_2) (As := [va_rf p0, va_rf p1, .int p2, .int p3]) (lw_meth q1056) q98 q1523 q1055 rfl hyS_J4_init_2_X19 hfr hlo rfl hW hd (c_J4_init_2_X19 a p0 p1 p2 p3) ⟨_, rfl⟩ hf _ rfl kk
abbrev mi_X19_init : MI := (cX19_init, 2, RX19, none, [], 3, 68, "<init>")
def f_X19_init (a0 : Nat) (p0 : Option Nat) (h0 : PH) : Option (Unit × PH) := cl_ (f_J4_init_2_X19 a0 none p0 (0 : Int32) (0 : Int32) h0) fun _u h1 => some ((), h1)
theorem hyS_X19_init : yX19_init.cls ≠ "java/lang/invoke/MethodHandle" ∧ yX19_init.cls ≠ "java/lang/invoke/VarHandle" ∧ (parseMethodDescriptor yX19_init.desc).map (fun d => d.parameters.length) = some 1 := by decide +kernel
theorem c_X19_init {D : va_G} (a0 : Nat) (p0 : Option Nat) {h0 : PH} (l : Launch) (hl : l.stackTraces = false) (x : Unit) (h1 : PH) (hf : f_X19_init a0 p0 h0 = some (x, h1)) : CT l D yX19_init (ws_ yX19_init cX19_init 2 none) 3 68 [va_rf (some a0), va_rf p0] h0 (ovv x) h1 := by
  refine ct_of hl [some (va_rf (some a0)), some (va_rf p0)] (by decide) (by rw [lgl]; simp [va_rf_cat, cat_i, cat_l]) (by simp [lv_args, vsL, va_rf_cat, cat_i, cat_l]) (fun Γ => ?_)
  obtain ⟨o, ho⟩ : ∃ o : Unit × PH, o = (x, h1) := ⟨_, rfl⟩
  rw [← ho] at hf
  have e1 : x = o.1 := by rw [ho]
  have e2 : h1 = o.2 := by rw [ho]
  subst e1 e2
  clear ho
  show PF Γ mi_X19_init D h0 (QR Γ D h0 (ovv o.1) o.2) h0 0 [some (va_rf (some a0)), some (va_rf p0)] []
  unfold f_X19_init at hf
  refine j_aload_n 0 dX19_init_0 rfl rfl ?_
  refine j_aconst_null dX19_init_1 ?_
  refine j_aload_n 1 dX19_init_2 rfl rfl ?_
  refine j_iconst (0 : Int32) dX19_init_3 (by decide) ?_
  refine j_iconst (0 : Int32) dX19_init_4 (by decide) ?_
  refine kc_X19_1_X19 rfl rfl rfl (by decide) dX19_init_5 hf (fun _u h1 hf => ?_)
  have e9 := Option.some.inj hf
  subst e9
  exact j_vret rfl dX19_init_8
abbrev mi_X19_token : MI := (cX19_token, 1, RX19, (Option.some FieldType.int), [], 1, 24, "token")
def f_X19_token (r0 : Option Nat) (h0 : PH) : Option (Int32 × PH) := cauC h0 r0 16 fun r1 => kC h0 r1 15 (gIN h0 r1 15 6 fun v2 => some (v2, h0))
theorem hyS_X19_token : yX19_token.cls ≠ "java/lang/invoke/MethodHandle" ∧ yX19_token.cls ≠ "java/lang/invoke/VarHandle" ∧ (parseMethodDescriptor yX19_token.desc).map (fun d => d.parameters.length) = some 0 := by decide +kernel
theorem hyV_X19_token : yX19_token.cls = RX19 ∧ yX19_token.cls ≠ "java/lang/invoke/MethodHandle" ∧ yX19_token.cls ≠ "java/lang/invoke/VarHandle" ∧ (parseMethodDescriptor yX19_token.desc).map (fun d => d.parameters.length) = some 0 := by decide +kernel
theorem c_X19_token {D : va_G} (r0 : Option Nat) {h0 : PH} (l : Launch) (hl : l.stackTraces = false) (x : Int32) (h1 : PH) (hf : f_X19_token r0 h0 = some (x, h1)) : CT l D yX19_token (ws_ yX19_token cX19_token 1 (Option.some FieldType.int)) 1 24 [va_rf r0] h0 (ovi x) h1 := by
  refine ct_of hl [some (va_rf r0)] (by decide) (by rw [lgl]; simp [va_rf_cat, cat_i, cat_l]) (by simp [lv_args, vsL, va_rf_cat, cat_i, cat_l]) (fun Γ => ?_)
  obtain ⟨o, ho⟩ : ∃ o : Int32 × PH, o = (x, h1) := ⟨_, rfl⟩
  rw [← ho] at hf
  have e1 : x = o.1 := by rw [ho]
  have e2 : h1 = o.2 := by rw [ho]
  subst e1 e2
  clear ho
  show PF Γ mi_X19_token D h0 (QR Γ D h0 (ovi o.1) o.2) h0 0 [some (va_rf r0)] []
  unfold f_X19_token at hf
  refine j_aload_n 0 dX19_token_0 rfl rfl ?_
  refine j_cause (ci := 16) (by decide) rfl rfl in_X19 q1530 q1531 q1232 q1233 q1532 q467 rfl rfl (by decide) dX19_token_1 hf (fun r1 hf => ?_)
  refine j_kC (ci := 15) rfl q1533 dX19_token_4 hf (fun hf => ?_)
  refine j_gIN (ci := 15) (k := 6) rfl in_X18 rfl q1500 dX19_token_7 hf (fun v2 hf => ?_)
  have e9 := Option.some.inj hf
  subst e9
  exact j_iret rfl dX19_token_10
theorem kc_X5_24 {Γ : GX} {I : MI} {D : va_G} {h0 : PH} {Q : State → Prop} {h : PH} {pc : Nat} {vs : List (Option Value)} {rest : List Value} {β : Type} {o : β} {a : Nat} {p0 : Int32} {K : ((Unit) → PH → Option β)} (hI : I.2.2.1 = RX5) (hfr : Nat.ble 4 I.2.2.2.2.2.1 = true) (hlo : Nat.ble 89 I.2.2.2.2.2.2.1 = true) (hW : (rest.map fun v => v.category).sum ≤ 8) (hd : decode I.1 pc = .ok (.invokespecial 24, 3)) (hf : cl_ (f_X18_init a p0 h) K = some o) (kk : ∀ (x : Unit) (h1 : PH), K x h1 = some o → PF Γ I D h0 Q h1 (pc + 3) vs (rest)) : PF Γ I D h0 Q h pc vs (.int p0 :: va_rf (some a) :: rest) := by
  obtain ⟨cc, nL, own, rt, xt, fr, lo, nm⟩ := I
  cases hI
  exact j_cIv (n := 1) (y := yX18_init) (cc2 := cX18_init) (As := [.int p0]) (lw_meth q1497) q129 q1495 q1496 rfl hyS_X18_init hfr hlo rfl hW hd (c_X18_init a p0) ⟨_, rfl⟩ hf _ rfl kk
abbrev mi_X5_see : MI := (cX5_see, 2, RX5, none, [], 4, 89, "see")
def f_X5_see (r0 : Option Nat) (p0 : Int32) (h0 : PH) : Option (((Nat × Nat) ⊕ Unit) × PH) := gI h0 r0 4 2 fun v1 => (if v1 ≤ p0 then (pV h0 r0 4 2 (.int p0) fun h2 => some (.inr (), h2)) else (nO h0 15 7 [.null, .null, .null, .null, .null, .int 0, .int 0] fun a3 h4 => cl_ (f_X18_init a3 p0 h4) fun _u h5 => th_ h5 (some a3) fun ci9 q9 => xo_ h5 ci9 q9))
theorem hyS_X5_see : yX5_see.cls ≠ "java/lang/invoke/MethodHandle" ∧ yX5_see.cls ≠ "java/lang/invoke/VarHandle" ∧ (parseMethodDescriptor yX5_see.desc).map (fun d => d.parameters.length) = some 1 := by decide +kernel
theorem hyV_X5_see : yX5_see.cls = RX5 ∧ yX5_see.cls ≠ "java/lang/invoke/MethodHandle" ∧ yX5_see.cls ≠ "java/lang/invoke/VarHandle" ∧ (parseMethodDescriptor yX5_see.desc).map (fun d => d.parameters.length) = some 1 := by decide +kernel
theorem c_X5_see {D : va_G} (r0 : Option Nat) (p0 : Int32) {h0 : PH} (l : Launch) (hl : l.stackTraces = false) (x : ((Nat × Nat) ⊕ Unit)) (h1 : PH) (hf : f_X5_see r0 p0 h0 = some (x, h1)) : CT l D yX5_see (ws_ yX5_see cX5_see 2 none) 4 89 [va_rf r0, .int p0] h0 (oxv x) h1 := by
  refine ct_of hl [some (va_rf r0), some (.int p0)] (by decide) (by rw [lgl]; simp [va_rf_cat, cat_i, cat_l]) (by simp [lv_args, vsL, va_rf_cat, cat_i, cat_l]) (fun Γ => ?_)
  obtain ⟨o, ho⟩ : ∃ o : ((Nat × Nat) ⊕ Unit) × PH, o = (x, h1) := ⟨_, rfl⟩
  rw [← ho] at hf
  have e1 : x = o.1 := by rw [ho]
  have e2 : h1 = o.2 := by rw [ho]
  subst e1 e2
  clear ho
  show PF Γ mi_X5_see D h0 (QR Γ D h0 (oxv o.1) o.2) h0 0 [some (va_rf r0), some (.int p0)] []
  unfold f_X5_see at hf
  refine j_iload_n 1 dX5_see_0 rfl rfl ?_
  refine j_aload_n 0 dX5_see_1 rfl rfl ?_
  refine j_gI (ci := 4) (k := 2) rfl in_X5 rfl q670 dX5_see_2 hf (fun v1 hf => ?_)
  refine j_icmp_ge 17 dX5_see_5 (by decide) hf (fun c_ hf => ?_) (fun c_ hf => ?_)
  · refine j_aload_n 0 dX5_see_17 rfl rfl ?_
    refine j_iload_n 1 dX5_see_18 rfl rfl ?_
    refine j_pV (ci := 4) (k := 2) tyX5 tyX5_ok nmX5 rfl in_X5 rfl q670 (Or.inl rfl) rfl (fit_i _) dX5_see_19 hf (fun h2 hf => ?_)
    have e9 := Option.some.inj hf
    subst e9
    exact j_vret rfl dX5_see_22
  · refine j_nO (ci := 15) tyX18 tyX18_ok rfl in_X18 q1486 q1487 q129 (by decide) dX5_see_8 hf (fun a3 h4 hf => ?_)
    refine j_dup dX5_see_11 (va_rf_cat _) ?_
    refine j_iload_n 1 dX5_see_12 rfl rfl ?_
    refine kc_X5_24 rfl rfl rfl (by simp [va_rf_cat, cat_i, cat_l]) dX5_see_13 hf (fun _u h5 hf => ?_)
    refine j_athrow dX5_see_16 hf (fun ci9 q9 fs9 he9 hf => ?_)
    obtain ⟨hb9, hf⟩ := xo_in hf
    subst hf
    exact j_out (by decide) hb9 he9
theorem kc_X5_27 {Γ : GX} {I : MI} {D : va_G} {h0 : PH} {Q : State → Prop} {h : PH} {pc : Nat} {vs : List (Option Value)} {rest : List Value} {β : Type} {o : β} {r : Option Nat} {p0 : Int32} {K : (((Nat × Nat) ⊕ Unit) → PH → Option β)} (hI : I.2.2.1 = RX5) (hfr : Nat.ble 5 I.2.2.2.2.2.1 = true) (hlo : Nat.ble 110 I.2.2.2.2.2.2.1 = true) (hW : (rest.map fun v => v.category).sum ≤ 8) (hd : decode I.1 pc = .ok (.invokevirtual 27, 3)) (hf : rv_ h r 4 (cl_ (f_X5_see r p0 h) K) = some o) (kk : ∀ (x : Unit) (h1 : PH), K (.inr x) h1 = some o → PF Γ I D h0 Q h1 (pc + 3) vs (rest)) (kx : ∀ (ci q : Nat) (h1 : PH) (fs : List Value), h1.1 q = some (.inr (ci, fs)) → K (.inl (ci, q)) h1 = some o → PX Γ I D h0 Q h1 pc vs q) : PF Γ I D h0 Q h pc vs (.int p0 :: va_rf r :: rest) := by
  obtain ⟨cc, nL, own, rt, xt, fr, lo, nm⟩ := I
  cases hI
  exact j_xVv (n := 1) (y := yX5_see) (cc2 := cX5_see) (As := [.int p0]) (C := RX5) (ci := 4) rfl (lw_V q1482 q1484 qs24 q114 q1485) hyV_X5_see hfr hlo rfl hW hd (c_X5_see r p0) hf _ rfl kk kx
abbrev mi_X5_write : MI := (cX5_write, 4, RX5, none, [], 5, 110, "write")
def f_X5_write (r0 : Option Nat) (p0 : Int32) (p1 : Int32) (p2 : Int32) (h0 : PH) : Option (((Nat × Nat) ⊕ Unit) × PH) := rv_ h0 r0 4 (cl_ (f_X5_see r0 p0 h0) fun z9 h1 => match z9 with | .inl (ci9, q9) => (xo_ h1 ci9 q9) | .inr _u => (gR h1 r0 4 0 fun r2 => sI h1 r2 0 p1 p2 fun h3 => gR h3 r0 4 1 fun r4 => aI h3 r4 0 p1 fun v5 => sI h3 r4 0 p1 (v5 + (1 : Int32)) fun h6 => some (.inr (), h6)))
theorem hyS_X5_write : yX5_write.cls ≠ "java/lang/invoke/MethodHandle" ∧ yX5_write.cls ≠ "java/lang/invoke/VarHandle" ∧ (parseMethodDescriptor yX5_write.desc).map (fun d => d.parameters.length) = some 3 := by decide +kernel
theorem hyV_X5_write : yX5_write.cls = RX5 ∧ yX5_write.cls ≠ "java/lang/invoke/MethodHandle" ∧ yX5_write.cls ≠ "java/lang/invoke/VarHandle" ∧ (parseMethodDescriptor yX5_write.desc).map (fun d => d.parameters.length) = some 3 := by decide +kernel
theorem c_X5_write {D : va_G} (r0 : Option Nat) (p0 : Int32) (p1 : Int32) (p2 : Int32) {h0 : PH} (l : Launch) (hl : l.stackTraces = false) (x : ((Nat × Nat) ⊕ Unit)) (h1 : PH) (hf : f_X5_write r0 p0 p1 p2 h0 = some (x, h1)) : CT l D yX5_write (ws_ yX5_write cX5_write 4 none) 5 110 [va_rf r0, .int p0, .int p1, .int p2] h0 (oxv x) h1 := by
  refine ct_of hl [some (va_rf r0), some (.int p0), some (.int p1), some (.int p2)] (by decide) (by rw [lgl]; simp [va_rf_cat, cat_i, cat_l]) (by simp [lv_args, vsL, va_rf_cat, cat_i, cat_l]) (fun Γ => ?_)
  obtain ⟨o, ho⟩ : ∃ o : ((Nat × Nat) ⊕ Unit) × PH, o = (x, h1) := ⟨_, rfl⟩
  rw [← ho] at hf
  have e1 : x = o.1 := by rw [ho]
  have e2 : h1 = o.2 := by rw [ho]
  subst e1 e2
  clear ho
  show PF Γ mi_X5_write D h0 (QR Γ D h0 (oxv o.1) o.2) h0 0 [some (va_rf r0), some (.int p0), some (.int p1), some (.int p2)] []
  unfold f_X5_write at hf
  refine j_aload_n 0 dX5_write_0 rfl rfl ?_
  refine j_iload_n 1 dX5_write_1 rfl rfl ?_
  refine kc_X5_27 rfl rfl rfl (by decide) dX5_write_2 hf (fun _u h1 hf => ?_) (fun ci9 q9 h1 fs9 he9 hf => ?_)
  · refine j_aload_n 0 dX5_write_5 rfl rfl ?_
    refine j_gR (ci := 4) (k := 0) rfl in_X5 rfl q665 dX5_write_6 hf (fun r2 hf => ?_)
    refine j_iload_n 2 dX5_write_9 rfl rfl ?_
    refine j_iload_n 3 dX5_write_10 rfl rfl ?_
    refine j_iast dX5_write_11 hf (fun h3 hf => ?_)
    refine j_aload_n 0 dX5_write_12 rfl rfl ?_
    refine j_gR (ci := 4) (k := 1) rfl in_X5 rfl q668 dX5_write_13 hf (fun r4 hf => ?_)
    refine j_iload_n 2 dX5_write_16 rfl rfl ?_
    refine j_dup2 dX5_write_17 rfl (va_rf_cat _) ?_
    refine j_iald dX5_write_18 hf (fun v5 hf => ?_)
    refine j_iconst (1 : Int32) dX5_write_19 (by decide) ?_
    refine j_iadd dX5_write_20 ?_
    refine j_iast dX5_write_21 hf (fun h6 hf => ?_)
    have e9 := Option.some.inj hf
    subst e9
    exact j_vret rfl dX5_write_22
  · obtain ⟨hb9, hf⟩ := xo_in hf
    subst hf
    exact j_out (by decide) hb9 he9
theorem kc_X16_32 {Γ : GX} {I : MI} {D : va_G} {h0 : PH} {Q : State → Prop} {h : PH} {pc : Nat} {vs : List (Option Value)} {rest : List Value} {β : Type} {o : β} {a : Nat} {p0 : Option Nat} {p1 : Int32} {K : ((Unit) → PH → Option β)} (hI : I.2.2.1 = RX16) (hfr : Nat.ble 2 I.2.2.2.2.2.1 = true) (hlo : Nat.ble 42 I.2.2.2.2.2.2.1 = true) (hW : (rest.map fun v => v.category).sum ≤ 8) (hd : decode I.1 pc = .ok (.invokespecial 32, 3)) (hf : cl_ (f_X16_init a p0 p1 h) K = some o) (kk : ∀ (x : Unit) (h1 : PH), K x h1 = some o → PF Γ I D h0 Q h1 (pc + 3) vs (rest)) : PF Γ I D h0 Q h pc vs (.int p1 :: va_rf p0 :: va_rf (some a) :: rest) := by
  obtain ⟨cc, nL, own, rt, xt, fr, lo, nm⟩ := I
  cases hI
  exact j_cIv (n := 2) (y := yX16_init) (cc2 := cX16_init) (As := [va_rf p0, .int p1]) (lw_meth q1375) q127 q1373 q1374 rfl hyS_X16_init hfr hlo rfl hW hd (c_X16_init a p0 p1) ⟨_, rfl⟩ hf _ rfl kk
abbrev mi_X16_postponedTo : MI := (cX16_postponedTo, 2, RX16, (Option.some (FieldType.object "LeaderLeases$Message")), [], 2, 42, "postponedTo")
def f_X16_postponedTo (r0 : Option Nat) (p0 : Int32) (h0 : PH) : Option (Option Nat × PH) := nO h0 13 7 [.null, .int 0, .int 0, .int 0, .int 0, .int 0, .int 0] fun a1 h2 => cl_ (f_X16_init a1 r0 p0 h2) fun _u h3 => some ((some a1), h3)
theorem hyS_X16_postponedTo : yX16_postponedTo.cls ≠ "java/lang/invoke/MethodHandle" ∧ yX16_postponedTo.cls ≠ "java/lang/invoke/VarHandle" ∧ (parseMethodDescriptor yX16_postponedTo.desc).map (fun d => d.parameters.length) = some 1 := by decide +kernel
theorem hyV_X16_postponedTo : yX16_postponedTo.cls = RX16 ∧ yX16_postponedTo.cls ≠ "java/lang/invoke/MethodHandle" ∧ yX16_postponedTo.cls ≠ "java/lang/invoke/VarHandle" ∧ (parseMethodDescriptor yX16_postponedTo.desc).map (fun d => d.parameters.length) = some 1 := by decide +kernel
theorem c_X16_postponedTo {D : va_G} (r0 : Option Nat) (p0 : Int32) {h0 : PH} (l : Launch) (hl : l.stackTraces = false) (x : Option Nat) (h1 : PH) (hf : f_X16_postponedTo r0 p0 h0 = some (x, h1)) : CT l D yX16_postponedTo (ws_ yX16_postponedTo cX16_postponedTo 2 (Option.some (FieldType.object "LeaderLeases$Message"))) 2 42 [va_rf r0, .int p0] h0 (ovr x) h1 := by
  refine ct_of hl [some (va_rf r0), some (.int p0)] (by decide) (by rw [lgl]; simp [va_rf_cat, cat_i, cat_l]) (by simp [lv_args, vsL, va_rf_cat, cat_i, cat_l]) (fun Γ => ?_)
  obtain ⟨o, ho⟩ : ∃ o : Option Nat × PH, o = (x, h1) := ⟨_, rfl⟩
  rw [← ho] at hf
  have e1 : x = o.1 := by rw [ho]
  have e2 : h1 = o.2 := by rw [ho]
  subst e1 e2
  clear ho
  show PF Γ mi_X16_postponedTo D h0 (QR Γ D h0 (ovr o.1) o.2) h0 0 [some (va_rf r0), some (.int p0)] []
  unfold f_X16_postponedTo at hf
  refine j_nO (ci := 13) tyX16 tyX16_ok rfl in_X16 q1371 q1372 q127 (by decide) dX16_postponedTo_0 hf (fun a1 h2 hf => ?_)
  refine j_dup dX16_postponedTo_3 (va_rf_cat _) ?_
  refine j_aload_n 0 dX16_postponedTo_4 rfl rfl ?_
  refine j_iload_n 1 dX16_postponedTo_5 rfl rfl ?_
  refine kc_X16_32 rfl rfl rfl (by simp [va_rf_cat, cat_i, cat_l]) dX16_postponedTo_6 hf (fun _u h3 hf => ?_)
  have e9 := Option.some.inj hf
  subst e9
  exact j_aret rfl (Or.inl ⟨_, rfl⟩) dX16_postponedTo_9
abbrev mi_X5_fetch : MI := (cX5_fetch, 3, RX5, (Option.some FieldType.int), [], 5, 110, "fetch")
def f_X5_fetch (r0 : Option Nat) (p0 : Int32) (p1 : Int32) (h0 : PH) : Option (((Nat × Nat) ⊕ Int32) × PH) := rv_ h0 r0 4 (cl_ (f_X5_see r0 p0 h0) fun z9 h1 => match z9 with | .inl (ci9, q9) => (xo_ h1 ci9 q9) | .inr _u => (gR h1 r0 4 0 fun r2 => aI h1 r2 0 p1 fun v3 => some (.inr v3, h1)))
theorem hyS_X5_fetch : yX5_fetch.cls ≠ "java/lang/invoke/MethodHandle" ∧ yX5_fetch.cls ≠ "java/lang/invoke/VarHandle" ∧ (parseMethodDescriptor yX5_fetch.desc).map (fun d => d.parameters.length) = some 2 := by decide +kernel
theorem hyV_X5_fetch : yX5_fetch.cls = RX5 ∧ yX5_fetch.cls ≠ "java/lang/invoke/MethodHandle" ∧ yX5_fetch.cls ≠ "java/lang/invoke/VarHandle" ∧ (parseMethodDescriptor yX5_fetch.desc).map (fun d => d.parameters.length) = some 2 := by decide +kernel
theorem c_X5_fetch {D : va_G} (r0 : Option Nat) (p0 : Int32) (p1 : Int32) {h0 : PH} (l : Launch) (hl : l.stackTraces = false) (x : ((Nat × Nat) ⊕ Int32)) (h1 : PH) (hf : f_X5_fetch r0 p0 p1 h0 = some (x, h1)) : CT l D yX5_fetch (ws_ yX5_fetch cX5_fetch 3 (Option.some FieldType.int)) 5 110 [va_rf r0, .int p0, .int p1] h0 (oxi x) h1 := by
  refine ct_of hl [some (va_rf r0), some (.int p0), some (.int p1)] (by decide) (by rw [lgl]; simp [va_rf_cat, cat_i, cat_l]) (by simp [lv_args, vsL, va_rf_cat, cat_i, cat_l]) (fun Γ => ?_)
  obtain ⟨o, ho⟩ : ∃ o : ((Nat × Nat) ⊕ Int32) × PH, o = (x, h1) := ⟨_, rfl⟩
  rw [← ho] at hf
  have e1 : x = o.1 := by rw [ho]
  have e2 : h1 = o.2 := by rw [ho]
  subst e1 e2
  clear ho
  show PF Γ mi_X5_fetch D h0 (QR Γ D h0 (oxi o.1) o.2) h0 0 [some (va_rf r0), some (.int p0), some (.int p1)] []
  unfold f_X5_fetch at hf
  refine j_aload_n 0 dX5_fetch_0 rfl rfl ?_
  refine j_iload_n 1 dX5_fetch_1 rfl rfl ?_
  refine kc_X5_27 rfl rfl rfl (by decide) dX5_fetch_2 hf (fun _u h1 hf => ?_) (fun ci9 q9 h1 fs9 he9 hf => ?_)
  · refine j_aload_n 0 dX5_fetch_5 rfl rfl ?_
    refine j_gR (ci := 4) (k := 0) rfl in_X5 rfl q665 dX5_fetch_6 hf (fun r2 hf => ?_)
    refine j_iload_n 2 dX5_fetch_9 rfl rfl ?_
    refine j_iald dX5_fetch_10 hf (fun v3 hf => ?_)
    have e9 := Option.some.inj hf
    subst e9
    exact j_iret rfl dX5_fetch_11
  · obtain ⟨hb9, hf⟩ := xo_in hf
    subst hf
    exact j_out (by decide) hb9 he9
