/-! printed by gen.py: X1_advanceToNextEvent X1_advance X1_leaderlessTime X1_tryWrite X1_predictRead X1_acquiresUntil -/
set_option maxRecDepth 100000
theorem kc_X1_113 {Γ : GX} {I : MI} {D : va_G} {h0 : PH} {Q : State → Prop} {h : PH} {pc : Nat} {vs : List (Option Value)} {rest : List Value} {β : Type} {o : β} {r : Option Nat}  {K : ((Int32) → PH → Option β)} (hI : I.2.2.1 = RX1) (hfr : Nat.ble 5 I.2.2.2.2.2.1 = true) (hlo : Nat.ble 112 I.2.2.2.2.2.2.1 = true) (hW : (rest.map fun v => v.category).sum ≤ 8) (hd : decode I.1 pc = .ok (.invokevirtual 113, 3)) (hf : rv_ h r 1 (cl_ (f_X2_nextEvent r h) K) = some o) (kk : ∀ (x : Int32) (h1 : PH), K x h1 = some o → PF Γ I D h0 Q h1 (pc + 3) vs (.int x :: rest)) : PF Γ I D h0 Q h pc vs (va_rf r :: rest) := by
  obtain ⟨cc, nL, own, rt, xt, fr, lo, nm⟩ := I
  cases hI
  exact j_cVi (n := 0) (y := yX2_nextEvent) (cc2 := cX2_nextEvent) (As := []) (C := RX2) (ci := 1) rfl (lw_V q1258 q1259 q1260 q91 q1261) hyV_X2_nextEvent hfr hlo rfl hW hd (c_X2_nextEvent r) hf _ rfl kk
theorem kc_X1_109 {Γ : GX} {I : MI} {D : va_G} {h0 : PH} {Q : State → Prop} {h : PH} {pc : Nat} {vs : List (Option Value)} {rest : List Value} {β : Type} {o : β} {r : Option Nat} {p0 : Int32} {K : ((Unit) → PH → Option β)} (hI : I.2.2.1 = RX1) (hfr : Nat.ble 15 I.2.2.2.2.2.1 = true) (hlo : Nat.ble 371 I.2.2.2.2.2.2.1 = true) (hW : (rest.map fun v => v.category).sum ≤ 8) (hd : decode I.1 pc = .ok (.invokevirtual 109, 3)) (hf : rv_ h r 1 (cl_ (f_X2_goOn r p0 h) K) = some o) (kk : ∀ (x : Unit) (h1 : PH), K x h1 = some o → PF Γ I D h0 Q h1 (pc + 3) vs (rest)) : PF Γ I D h0 Q h pc vs (.int p0 :: va_rf r :: rest) := by
  obtain ⟨cc, nL, own, rt, xt, fr, lo, nm⟩ := I
  cases hI
  exact j_cVv (n := 1) (y := yX2_goOn) (cc2 := cX2_goOn) (As := [.int p0]) (C := RX2) (ci := 1) rfl (lw_V q1286 q1287 q1288 q91 q1289) hyV_X2_goOn hfr hlo rfl hW hd (c_X2_goOn r p0) hf _ rfl kk
abbrev mi_X1_advanceToNextEvent : MI := (cX1_advanceToNextEvent, 2, RX1, (Option.some FieldType.int), [], 15, 371, "advanceToNextEvent")
def f_X1_advanceToNextEvent (r0 : Option Nat) (h0 : PH) : Option (Int32 × PH) := gR h0 r0 0 3 fun r1 => rv_ h0 r1 1 (cl_ (f_X2_nextEvent r1 h0) fun v3 h2 => (if v3 = (2147483647 : Int32) then (some ((-4 : Int32), h2)) else ((if v3 ≤ (5000000 : Int32) then (gR h2 r0 0 3 fun r4 => rv_ h2 r4 1 (cl_ (f_X2_goOn r4 v3 h2) fun _u h5 => gR h5 r0 0 3 fun r6 => gIN h5 r6 1 8 fun v7 => some (v7, h5))) else (some ((-5 : Int32), h2))))))
theorem hyS_X1_advanceToNextEvent : yX1_advanceToNextEvent.cls ≠ "java/lang/invoke/MethodHandle" ∧ yX1_advanceToNextEvent.cls ≠ "java/lang/invoke/VarHandle" ∧ (parseMethodDescriptor yX1_advanceToNextEvent.desc).map (fun d => d.parameters.length) = some 0 := by decide +kernel
theorem hyV_X1_advanceToNextEvent : yX1_advanceToNextEvent.cls = RX1 ∧ yX1_advanceToNextEvent.cls ≠ "java/lang/invoke/MethodHandle" ∧ yX1_advanceToNextEvent.cls ≠ "java/lang/invoke/VarHandle" ∧ (parseMethodDescriptor yX1_advanceToNextEvent.desc).map (fun d => d.parameters.length) = some 0 := by decide +kernel
theorem c_X1_advanceToNextEvent {D : va_G} (r0 : Option Nat) {h0 : PH} (l : Launch) (hl : l.stackTraces = false) (x : Int32) (h1 : PH) (hf : f_X1_advanceToNextEvent r0 h0 = some (x, h1)) : CT l D yX1_advanceToNextEvent (ws_ yX1_advanceToNextEvent cX1_advanceToNextEvent 2 (Option.some FieldType.int)) 15 371 [va_rf r0] h0 (ovi x) h1 := by
  refine ct_of hl [some (va_rf r0), none] (by decide) (by rw [lgl]; simp [va_rf_cat, cat_i, cat_l]) (by simp [lv_args, vsL, va_rf_cat, cat_i, cat_l]) (fun Γ => ?_)
  obtain ⟨o, ho⟩ : ∃ o : Int32 × PH, o = (x, h1) := ⟨_, rfl⟩
  rw [← ho] at hf
  have e1 : x = o.1 := by rw [ho]
  have e2 : h1 = o.2 := by rw [ho]
  subst e1 e2
  clear ho
  show PF Γ mi_X1_advanceToNextEvent D h0 (QR Γ D h0 (ovi o.1) o.2) h0 0 [some (va_rf r0), none] []
  unfold f_X1_advanceToNextEvent at hf
  refine j_aload_n 0 dX1_advanceToNextEvent_0 rfl rfl ?_
  refine j_gR (ci := 0) (k := 3) rfl in_X1 rfl q877 dX1_advanceToNextEvent_1 hf (fun r1 hf => ?_)
  refine kc_X1_113 rfl rfl rfl (by decide) dX1_advanceToNextEvent_4 hf (fun v3 h2 hf => ?_)
  refine j_istore_n 1 [some (va_rf r0), some (.int v3)] dX1_advanceToNextEvent_7 rfl (cz (va_rf_cat _)) rfl rfl ?_
  refine j_iload_n 1 dX1_advanceToNextEvent_8 rfl rfl ?_
  refine j_ldc q1284 dX1_advanceToNextEvent_9 ?_
  refine j_icmp_ne 17 dX1_advanceToNextEvent_11 (by decide) hf (fun c_ hf => ?_) (fun c_ hf => ?_)
  · refine j_iload_n 1 dX1_advanceToNextEvent_17 rfl rfl ?_
    refine j_ldc q1285 dX1_advanceToNextEvent_18 ?_
    refine j_icmp_le 26 dX1_advanceToNextEvent_20 (by decide) hf (fun c_ hf => ?_) (fun c_ hf => ?_)
    · refine j_aload_n 0 dX1_advanceToNextEvent_26 rfl rfl ?_
      refine j_gR (ci := 0) (k := 3) rfl in_X1 rfl q877 dX1_advanceToNextEvent_27 hf (fun r4 hf => ?_)
      refine j_iload_n 1 dX1_advanceToNextEvent_30 rfl rfl ?_
      refine kc_X1_109 rfl rfl rfl (by decide) dX1_advanceToNextEvent_31 hf (fun _u h5 hf => ?_)
      refine j_aload_n 0 dX1_advanceToNextEvent_34 rfl rfl ?_
      refine j_gR (ci := 0) (k := 3) rfl in_X1 rfl q877 dX1_advanceToNextEvent_35 hf (fun r6 hf => ?_)
      refine j_gIN (ci := 1) (k := 8) rfl in_X2 rfl q803 dX1_advanceToNextEvent_38 hf (fun v7 hf => ?_)
      have e9 := Option.some.inj hf
      subst e9
      exact j_iret rfl dX1_advanceToNextEvent_41
    · refine j_bipush (-5 : Int32) dX1_advanceToNextEvent_23 (by decide) ?_
      have e9 := Option.some.inj hf
      subst e9
      exact j_iret rfl dX1_advanceToNextEvent_25
  · refine j_bipush (-4 : Int32) dX1_advanceToNextEvent_14 (by decide) ?_
    have e9 := Option.some.inj hf
    subst e9
    exact j_iret rfl dX1_advanceToNextEvent_16
abbrev mi_X1_advance : MI := (cX1_advance, 2, RX1, (Option.some FieldType.int), [], 15, 371, "advance")
def f_X1_advance (r0 : Option Nat) (p0 : Int32) (h0 : PH) : Option (((Nat × Nat) ⊕ Int32) × PH) := cl_ (f_X1_in (p0.toInt64) (1 : Int64) (5000 : Int64) h0) fun v2 h1 => cl_ (f_X1_check v2 h1) fun z9 h3 => match z9 with | .inl (ci9, q9) => (xo_ h3 ci9 q9) | .inr _u => (gR h3 r0 0 3 fun r4 => gIN h3 r4 1 8 fun v5 => (if (v5 + p0) ≤ (5000000 : Int32) then (gR h3 r0 0 3 fun r6 => gR h3 r0 0 3 fun r7 => gIN h3 r7 1 8 fun v8 => rv_ h3 r6 1 (cl_ (f_X2_goOn r6 (v8 + p0) h3) fun _u h9 => gR h9 r0 0 3 fun r10 => gIN h9 r10 1 8 fun v11 => some (.inr v11, h9))) else (some (.inr (-5 : Int32), h3))))
theorem hyS_X1_advance : yX1_advance.cls ≠ "java/lang/invoke/MethodHandle" ∧ yX1_advance.cls ≠ "java/lang/invoke/VarHandle" ∧ (parseMethodDescriptor yX1_advance.desc).map (fun d => d.parameters.length) = some 1 := by decide +kernel
theorem hyV_X1_advance : yX1_advance.cls = RX1 ∧ yX1_advance.cls ≠ "java/lang/invoke/MethodHandle" ∧ yX1_advance.cls ≠ "java/lang/invoke/VarHandle" ∧ (parseMethodDescriptor yX1_advance.desc).map (fun d => d.parameters.length) = some 1 := by decide +kernel
theorem c_X1_advance {D : va_G} (r0 : Option Nat) (p0 : Int32) {h0 : PH} (l : Launch) (hl : l.stackTraces = false) (x : ((Nat × Nat) ⊕ Int32)) (h1 : PH) (hf : f_X1_advance r0 p0 h0 = some (x, h1)) : CT l D yX1_advance (ws_ yX1_advance cX1_advance 2 (Option.some FieldType.int)) 15 371 [va_rf r0, .int p0] h0 (oxi x) h1 := by
  refine ct_of hl [some (va_rf r0), some (.int p0)] (by decide) (by rw [lgl]; simp [va_rf_cat, cat_i, cat_l]) (by simp [lv_args, vsL, va_rf_cat, cat_i, cat_l]) (fun Γ => ?_)
  obtain ⟨o, ho⟩ : ∃ o : ((Nat × Nat) ⊕ Int32) × PH, o = (x, h1) := ⟨_, rfl⟩
  rw [← ho] at hf
  have e1 : x = o.1 := by rw [ho]
  have e2 : h1 = o.2 := by rw [ho]
  subst e1 e2
  clear ho
  show PF Γ mi_X1_advance D h0 (QR Γ D h0 (oxi o.1) o.2) h0 0 [some (va_rf r0), some (.int p0)] []
  unfold f_X1_advance at hf
  refine j_iload_n 1 dX1_advance_0 rfl rfl ?_
  refine j_i2l dX1_advance_1 ?_
  refine j_lconst (1 : Int64) dX1_advance_2 (by decide) ?_
  refine j_ldc2 q1717 dX1_advance_3 ?_
  refine kc_X1_64 rfl rfl rfl (by decide) dX1_advance_6 hf (fun v2 h1 hf => ?_)
  refine kc_X1_73 rfl rfl rfl (by decide) dX1_advance_9 hf (fun _u h3 hf => ?_) (fun ci9 q9 h3 fs9 he9 hf => ?_)
  · refine j_aload_n 0 dX1_advance_12 rfl rfl ?_
    refine j_gR (ci := 0) (k := 3) rfl in_X1 rfl q877 dX1_advance_13 hf (fun r4 hf => ?_)
    refine j_gIN (ci := 1) (k := 8) rfl in_X2 rfl q803 dX1_advance_16 hf (fun v5 hf => ?_)
    refine j_iload_n 1 dX1_advance_19 rfl rfl ?_
    refine j_iadd dX1_advance_20 ?_
    refine j_ldc q1285 dX1_advance_21 ?_
    refine j_icmp_le 29 dX1_advance_23 (by decide) hf (fun c_ hf => ?_) (fun c_ hf => ?_)
    · refine j_aload_n 0 dX1_advance_29 rfl rfl ?_
      refine j_gR (ci := 0) (k := 3) rfl in_X1 rfl q877 dX1_advance_30 hf (fun r6 hf => ?_)
      refine j_aload_n 0 dX1_advance_33 rfl rfl ?_
      refine j_gR (ci := 0) (k := 3) rfl in_X1 rfl q877 dX1_advance_34 hf (fun r7 hf => ?_)
      refine j_gIN (ci := 1) (k := 8) rfl in_X2 rfl q803 dX1_advance_37 hf (fun v8 hf => ?_)
      refine j_iload_n 1 dX1_advance_40 rfl rfl ?_
      refine j_iadd dX1_advance_41 ?_
      refine kc_X1_109 rfl rfl rfl (by decide) dX1_advance_42 hf (fun _u h9 hf => ?_)
      refine j_aload_n 0 dX1_advance_45 rfl rfl ?_
      refine j_gR (ci := 0) (k := 3) rfl in_X1 rfl q877 dX1_advance_46 hf (fun r10 hf => ?_)
      refine j_gIN (ci := 1) (k := 8) rfl in_X2 rfl q803 dX1_advance_49 hf (fun v11 hf => ?_)
      have e9 := Option.some.inj hf
      subst e9
      exact j_iret rfl dX1_advance_52
    · refine j_bipush (-5 : Int32) dX1_advance_26 (by decide) ?_
      have e9 := Option.some.inj hf
      subst e9
      exact j_iret rfl dX1_advance_28
  · obtain ⟨hb9, hf⟩ := xo_in hf
    subst hf
    exact j_out (by decide) hb9 he9
abbrev mi_X1_leaderlessTime : MI := (cX1_leaderlessTime, 4, RX1, (Option.some FieldType.int), [], 15, 371, "leaderlessTime")
def f_X1_leaderlessTime (r0 : Option Nat) (p0 : Int32) (h0 : PH) : Option (((Nat × Nat) ⊕ Int32) × PH) := cl_ (f_X1_in (p0.toInt64) (1 : Int64) (5000 : Int64) h0) fun v2 h1 => cl_ (f_X1_check v2 h1) fun z9 h3 => match z9 with | .inl (ci9, q9) => (xo_ h3 ci9 q9) | .inr _u => (gR h3 r0 0 3 fun r4 => gIN h3 r4 1 8 fun v5 => (if (v5 + p0) ≤ (5000000 : Int32) then (gR h3 r0 0 3 fun r6 => rv_ h3 r6 1 (cl_ (f_X2_copy r6 h3) fun r8 h7 => pV h7 r8 1 17 (.int (0 : Int32)) fun h9 => rv_ h9 r8 1 (cl_ (f_X2_goOn r8 (v5 + p0) h9) fun _u h10 => gIN h10 r8 1 17 fun v11 => some (.inr v11, h10)))) else (some (.inr (-5 : Int32), h3))))
theorem hyS_X1_leaderlessTime : yX1_leaderlessTime.cls ≠ "java/lang/invoke/MethodHandle" ∧ yX1_leaderlessTime.cls ≠ "java/lang/invoke/VarHandle" ∧ (parseMethodDescriptor yX1_leaderlessTime.desc).map (fun d => d.parameters.length) = some 1 := by decide +kernel
theorem hyV_X1_leaderlessTime : yX1_leaderlessTime.cls = RX1 ∧ yX1_leaderlessTime.cls ≠ "java/lang/invoke/MethodHandle" ∧ yX1_leaderlessTime.cls ≠ "java/lang/invoke/VarHandle" ∧ (parseMethodDescriptor yX1_leaderlessTime.desc).map (fun d => d.parameters.length) = some 1 := by decide +kernel
theorem c_X1_leaderlessTime {D : va_G} (r0 : Option Nat) (p0 : Int32) {h0 : PH} (l : Launch) (hl : l.stackTraces = false) (x : ((Nat × Nat) ⊕ Int32)) (h1 : PH) (hf : f_X1_leaderlessTime r0 p0 h0 = some (x, h1)) : CT l D yX1_leaderlessTime (ws_ yX1_leaderlessTime cX1_leaderlessTime 4 (Option.some FieldType.int)) 15 371 [va_rf r0, .int p0] h0 (oxi x) h1 := by
  refine ct_of hl [some (va_rf r0), some (.int p0), none, none] (by decide) (by rw [lgl]; simp [va_rf_cat, cat_i, cat_l]) (by simp [lv_args, vsL, va_rf_cat, cat_i, cat_l]) (fun Γ => ?_)
  obtain ⟨o, ho⟩ : ∃ o : ((Nat × Nat) ⊕ Int32) × PH, o = (x, h1) := ⟨_, rfl⟩
  rw [← ho] at hf
  have e1 : x = o.1 := by rw [ho]
  have e2 : h1 = o.2 := by rw [ho]
  subst e1 e2
  clear ho
  show PF Γ mi_X1_leaderlessTime D h0 (QR Γ D h0 (oxi o.1) o.2) h0 0 [some (va_rf r0), some (.int p0), none, none] []
  unfold f_X1_leaderlessTime at hf
  refine j_iload_n 1 dX1_leaderlessTime_0 rfl rfl ?_
  refine j_i2l dX1_leaderlessTime_1 ?_
  refine j_lconst (1 : Int64) dX1_leaderlessTime_2 (by decide) ?_
  refine j_ldc2 q1717 dX1_leaderlessTime_3 ?_
  refine kc_X1_64 rfl rfl rfl (by decide) dX1_leaderlessTime_6 hf (fun v2 h1 hf => ?_)
  refine kc_X1_73 rfl rfl rfl (by decide) dX1_leaderlessTime_9 hf (fun _u h3 hf => ?_) (fun ci9 q9 h3 fs9 he9 hf => ?_)
  · refine j_aload_n 0 dX1_leaderlessTime_12 rfl rfl ?_
    refine j_gR (ci := 0) (k := 3) rfl in_X1 rfl q877 dX1_leaderlessTime_13 hf (fun r4 hf => ?_)
    refine j_gIN (ci := 1) (k := 8) rfl in_X2 rfl q803 dX1_leaderlessTime_16 hf (fun v5 hf => ?_)
    refine j_iload_n 1 dX1_leaderlessTime_19 rfl rfl ?_
    refine j_iadd dX1_leaderlessTime_20 ?_
    refine j_istore_n 2 [some (va_rf r0), some (.int p0), some (.int (v5 + p0)), none] dX1_leaderlessTime_21 rfl (cz rfl) rfl rfl ?_
    refine j_iload_n 2 dX1_leaderlessTime_22 rfl rfl ?_
    refine j_ldc q1285 dX1_leaderlessTime_23 ?_
    refine j_icmp_le 31 dX1_leaderlessTime_25 (by decide) hf (fun c_ hf => ?_) (fun c_ hf => ?_)
    · refine j_aload_n 0 dX1_leaderlessTime_31 rfl rfl ?_
      refine j_gR (ci := 0) (k := 3) rfl in_X1 rfl q877 dX1_leaderlessTime_32 hf (fun r6 hf => ?_)
      refine kc_X1_326 rfl rfl rfl (by decide) dX1_leaderlessTime_35 hf (fun r8 h7 hf => ?_)
      refine j_astore_n 3 [some (va_rf r0), some (.int p0), some (.int (v5 + p0)), some (va_rf r8)] dX1_leaderlessTime_38 rfl (cz rfl) rfl rfl ?_
      refine j_aload_n 3 dX1_leaderlessTime_39 rfl rfl ?_
      refine j_iconst (0 : Int32) dX1_leaderlessTime_40 (by decide) ?_
      refine j_pVN (ci := 1) (k := 17) tyX2 tyX2_ok nmX2 rfl in_X2 rfl q819 rfl rfl (fit_i _) dX1_leaderlessTime_41 hf (fun h9 hf => ?_)
      refine j_aload_n 3 dX1_leaderlessTime_44 rfl rfl ?_
      refine j_iload_n 2 dX1_leaderlessTime_45 rfl rfl ?_
      refine kc_X1_109 rfl rfl rfl (by decide) dX1_leaderlessTime_46 hf (fun _u h10 hf => ?_)
      refine j_aload_n 3 dX1_leaderlessTime_49 rfl rfl ?_
      refine j_gIN (ci := 1) (k := 17) rfl in_X2 rfl q819 dX1_leaderlessTime_50 hf (fun v11 hf => ?_)
      have e9 := Option.some.inj hf
      subst e9
      exact j_iret rfl dX1_leaderlessTime_53
    · refine j_bipush (-5 : Int32) dX1_leaderlessTime_28 (by decide) ?_
      have e9 := Option.some.inj hf
      subst e9
      exact j_iret rfl dX1_leaderlessTime_30
  · obtain ⟨hb9, hf⟩ := xo_in hf
    subst hf
    exact j_out (by decide) hb9 he9
theorem kc_X1_358 {Γ : GX} {I : MI} {D : va_G} {h0 : PH} {Q : State → Prop} {h : PH} {pc : Nat} {vs : List (Option Value)} {rest : List Value} {β : Type} {o : β} {r : Option Nat} {p0 : Int32} {p1 : Int32} {K : ((Int32) → PH → Option β)} (hI : I.2.2.1 = RX1) (hfr : Nat.ble 16 I.2.2.2.2.2.1 = true) (hlo : Nat.ble 395 I.2.2.2.2.2.2.1 = true) (hW : (rest.map fun v => v.category).sum ≤ 8) (hd : decode I.1 pc = .ok (.invokevirtual 358, 3)) (hf : rv_ h r 1 (cl_ (f_X2_tryWrite r p0 p1 h) K) = some o) (kk : ∀ (x : Int32) (h1 : PH), K x h1 = some o → PF Γ I D h0 Q h1 (pc + 3) vs (.int x :: rest)) : PF Γ I D h0 Q h pc vs (.int p1 :: .int p0 :: va_rf r :: rest) := by
  obtain ⟨cc, nL, own, rt, xt, fr, lo, nm⟩ := I
  cases hI
  exact j_cVi (n := 2) (y := yX2_tryWrite) (cc2 := cX2_tryWrite) (As := [.int p0, .int p1]) (C := RX2) (ci := 1) rfl (lw_V q2139 q2140 q2141 q91 q2142) hyV_X2_tryWrite hfr hlo rfl hW hd (c_X2_tryWrite r p0 p1) hf _ rfl kk
abbrev mi_X1_tryWrite : MI := (cX1_tryWrite, 4, RX1, (Option.some FieldType.int), [], 16, 395, "tryWrite")
def f_X1_tryWrite_B38 (t0 : Int32) (h : PH) : Option (((Nat × Nat) ⊕ Int32) × PH) := some (.inr t0, h)
theorem pf_X1_tryWrite_B38 {Γ : GX} {D : va_G} {h0 : PH} {o : ((Nat × Nat) ⊕ Int32) × PH} (t0 : Int32) (h : PH) (hf : f_X1_tryWrite_B38 t0 h = some o) : PF Γ mi_X1_tryWrite D h0 (QR Γ D h0 (oxi o.1) o.2) h 38 [none, none, none, none] [.int t0] := by
  have e9 := Option.some.inj hf
  subst e9
  exact j_iret rfl dX1_tryWrite_38
def f_X1_tryWrite (r0 : Option Nat) (p0 : Int32) (p1 : Int32) (h0 : PH) : Option (((Nat × Nat) ⊕ Int32) × PH) := rv_ h0 r0 0 (cl_ (f_X1_node r0 p0 h0) fun z9 h1 => match z9 with | .inl (ci9, q9) => (xo_ h1 ci9 q9) | .inr r2 => (cl_ (f_X1_checkRegister p1 h1) fun z9 h3 => match z9 with | .inl (ci9, q9) => (xo_ h3 ci9 q9) | .inr _u => (rv_ h3 r0 0 (cl_ (f_X1_unfit r0 r2 h3) fun v5 h4 => (if 0 ≤ v5 then (gR h4 r0 0 3 fun r6 => rv_ h4 r6 1 (cl_ (f_X2_copy r6 h4) fun r8 h7 => rv_ h7 r8 1 (cl_ (f_X2_tryWrite r8 p0 p1 h7) fun v10 h9 => f_X1_tryWrite_B38 v10 h9))) else (rv_ h4 r0 0 (cl_ (f_X1_unfit r0 r2 h4) fun v12 h11 => f_X1_tryWrite_B38 v12 h11)))))))
theorem hyS_X1_tryWrite : yX1_tryWrite.cls ≠ "java/lang/invoke/MethodHandle" ∧ yX1_tryWrite.cls ≠ "java/lang/invoke/VarHandle" ∧ (parseMethodDescriptor yX1_tryWrite.desc).map (fun d => d.parameters.length) = some 2 := by decide +kernel
theorem hyV_X1_tryWrite : yX1_tryWrite.cls = RX1 ∧ yX1_tryWrite.cls ≠ "java/lang/invoke/MethodHandle" ∧ yX1_tryWrite.cls ≠ "java/lang/invoke/VarHandle" ∧ (parseMethodDescriptor yX1_tryWrite.desc).map (fun d => d.parameters.length) = some 2 := by decide +kernel
theorem c_X1_tryWrite {D : va_G} (r0 : Option Nat) (p0 : Int32) (p1 : Int32) {h0 : PH} (l : Launch) (hl : l.stackTraces = false) (x : ((Nat × Nat) ⊕ Int32)) (h1 : PH) (hf : f_X1_tryWrite r0 p0 p1 h0 = some (x, h1)) : CT l D yX1_tryWrite (ws_ yX1_tryWrite cX1_tryWrite 4 (Option.some FieldType.int)) 16 395 [va_rf r0, .int p0, .int p1] h0 (oxi x) h1 := by
  refine ct_of hl [some (va_rf r0), some (.int p0), some (.int p1), none] (by decide) (by rw [lgl]; simp [va_rf_cat, cat_i, cat_l]) (by simp [lv_args, vsL, va_rf_cat, cat_i, cat_l]) (fun Γ => ?_)
  obtain ⟨o, ho⟩ : ∃ o : ((Nat × Nat) ⊕ Int32) × PH, o = (x, h1) := ⟨_, rfl⟩
  rw [← ho] at hf
  have e1 : x = o.1 := by rw [ho]
  have e2 : h1 = o.2 := by rw [ho]
  subst e1 e2
  clear ho
  show PF Γ mi_X1_tryWrite D h0 (QR Γ D h0 (oxi o.1) o.2) h0 0 [some (va_rf r0), some (.int p0), some (.int p1), none] []
  unfold f_X1_tryWrite at hf
  refine j_aload_n 0 dX1_tryWrite_0 rfl rfl ?_
  refine j_iload_n 1 dX1_tryWrite_1 rfl rfl ?_
  refine kc_X1_117 rfl rfl rfl (by decide) dX1_tryWrite_2 hf (fun r2 h1 hf => ?_) (fun ci9 q9 h1 fs9 he9 hf => ?_)
  · refine j_astore_n 3 [some (va_rf r0), some (.int p0), some (.int p1), some (va_rf r2)] dX1_tryWrite_5 rfl (cz rfl) rfl rfl ?_
    refine j_iload_n 2 dX1_tryWrite_6 rfl rfl ?_
    refine kc_X1_205 rfl rfl rfl (by decide) dX1_tryWrite_7 hf (fun _u h3 hf => ?_) (fun ci9 q9 h3 fs9 he9 hf => ?_)
    · refine j_aload_n 0 dX1_tryWrite_10 rfl rfl ?_
      refine j_aload_n 3 dX1_tryWrite_11 rfl rfl ?_
      refine kc_X1_210 rfl rfl rfl (by decide) dX1_tryWrite_12 hf (fun v5 h4 hf => ?_)
      refine j_if_ge 26 dX1_tryWrite_15 (by decide) hf (fun c_ hf => ?_) (fun c_ hf => ?_)
      · refine j_aload_n 0 dX1_tryWrite_26 rfl rfl ?_
        refine j_gR (ci := 0) (k := 3) rfl in_X1 rfl q877 dX1_tryWrite_27 hf (fun r6 hf => ?_)
        refine kc_X1_326 rfl rfl rfl (by decide) dX1_tryWrite_30 hf (fun r8 h7 hf => ?_)
        refine j_iload_n 1 dX1_tryWrite_33 rfl rfl ?_
        refine j_iload_n 2 dX1_tryWrite_34 rfl rfl ?_
        refine kc_X1_358 rfl rfl rfl (by decide) dX1_tryWrite_35 hf (fun v10 h9 hf => ?_)
        refine j_weak [none, none, none, none] (Wk.s (Wk.s (Wk.s (Wk.s Wk.n)))) ?_
        exact pf_X1_tryWrite_B38 v10 h9 hf
      · refine j_aload_n 0 dX1_tryWrite_18 rfl rfl ?_
        refine j_aload_n 3 dX1_tryWrite_19 rfl rfl ?_
        refine kc_X1_210 rfl rfl rfl (by decide) dX1_tryWrite_20 hf (fun v12 h11 hf => ?_)
        refine j_goto 38 dX1_tryWrite_23 (by decide) ?_
        refine j_weak [none, none, none, none] (Wk.s (Wk.s (Wk.s (Wk.s Wk.n)))) ?_
        exact pf_X1_tryWrite_B38 v12 h11 hf
    · obtain ⟨hb9, hf⟩ := xo_in hf
      subst hf
      exact j_out (by decide) hb9 he9
  · obtain ⟨hb9, hf⟩ := xo_in hf
    subst hf
    exact j_out (by decide) hb9 he9
abbrev mi_X1_predictRead : MI := (cX1_predictRead, 7, RX1, (Option.some FieldType.int), [], 15, 371, "predictRead")
def f_X1_predictRead_B111 (t0 : Int32) (h : PH) : Option (((Nat × Nat) ⊕ Int32) × PH) := some (.inr t0, h)
theorem pf_X1_predictRead_B111 {Γ : GX} {D : va_G} {h0 : PH} {o : ((Nat × Nat) ⊕ Int32) × PH} (t0 : Int32) (h : PH) (hf : f_X1_predictRead_B111 t0 h = some o) : PF Γ mi_X1_predictRead D h0 (QR Γ D h0 (oxi o.1) o.2) h 111 [none, none, none, none, none, none, none] [.int t0] := by
  have e9 := Option.some.inj hf
  subst e9
  exact j_iret rfl dX1_predictRead_111
def f_X1_predictRead (r0 : Option Nat) (p0 : Int32) (p1 : Int32) (p2 : Int32) (h0 : PH) : Option (((Nat × Nat) ⊕ Int32) × PH) := rv_ h0 r0 0 (cl_ (f_X1_node r0 p0 h0) fun z9 h1 => match z9 with | .inl (ci9, q9) => (xo_ h1 ci9 q9) | .inr r2 => (cl_ (f_X1_checkRegister p1 h1) fun z9 h3 => match z9 with | .inl (ci9, q9) => (xo_ h3 ci9 q9) | .inr _u => (rv_ h3 r0 0 (cl_ (f_X1_until r0 p2 h3) fun z9 h4 => match z9 with | .inl (ci9, q9) => (xo_ h4 ci9 q9) | .inr v5 => ((if 0 ≤ v5 then (gR h4 r0 0 3 fun r6 => rv_ h4 r6 1 (cl_ (f_X2_copy r6 h4) fun r8 h7 => rv_ h7 r8 1 (cl_ (f_X2_goOn r8 v5 h7) fun _u h9 => gRN h9 r8 1 1 fun r10 => aQ h9 r10 5 p0 fun r11 => gIN h9 r11 5 2 fun v12 => (if v12 = 0 then (some (.inr (-3 : Int32), h9)) else (rv_ h9 r11 5 (cl_ (f_X6_isPaused r11 v5 h9) fun v14 h13 => (if v14 = 0 then (rv_ h13 r11 5 (cl_ (f_X6_leads r11 v5 h13) fun v16 h15 => (if v16 = 0 then (some (.inr (-1 : Int32), h15)) else (gIN h15 r11 5 9 fun v17 => (if ((v17 >>> (p1 &&& 31)) &&& (1 : Int32)) = (1 : Int32) then (gRN h15 r11 5 12 fun r18 => aI h15 r18 0 p1 fun v19 => f_X1_predictRead_B111 v19 h15) else (f_X1_predictRead_B111 (-4 : Int32) h15)))))) else (some (.inr (-2 : Int32), h13))))))))) else (some (.inr v5, h4))))))))
theorem hyS_X1_predictRead : yX1_predictRead.cls ≠ "java/lang/invoke/MethodHandle" ∧ yX1_predictRead.cls ≠ "java/lang/invoke/VarHandle" ∧ (parseMethodDescriptor yX1_predictRead.desc).map (fun d => d.parameters.length) = some 3 := by decide +kernel
theorem hyV_X1_predictRead : yX1_predictRead.cls = RX1 ∧ yX1_predictRead.cls ≠ "java/lang/invoke/MethodHandle" ∧ yX1_predictRead.cls ≠ "java/lang/invoke/VarHandle" ∧ (parseMethodDescriptor yX1_predictRead.desc).map (fun d => d.parameters.length) = some 3 := by decide +kernel
theorem c_X1_predictRead {D : va_G} (r0 : Option Nat) (p0 : Int32) (p1 : Int32) (p2 : Int32) {h0 : PH} (l : Launch) (hl : l.stackTraces = false) (x : ((Nat × Nat) ⊕ Int32)) (h1 : PH) (hf : f_X1_predictRead r0 p0 p1 p2 h0 = some (x, h1)) : CT l D yX1_predictRead (ws_ yX1_predictRead cX1_predictRead 7 (Option.some FieldType.int)) 15 371 [va_rf r0, .int p0, .int p1, .int p2] h0 (oxi x) h1 := by
  refine ct_of hl [some (va_rf r0), some (.int p0), some (.int p1), some (.int p2), none, none, none] (by decide) (by rw [lgl]; simp [va_rf_cat, cat_i, cat_l]) (by simp [lv_args, vsL, va_rf_cat, cat_i, cat_l]) (fun Γ => ?_)
  obtain ⟨o, ho⟩ : ∃ o : ((Nat × Nat) ⊕ Int32) × PH, o = (x, h1) := ⟨_, rfl⟩
  rw [← ho] at hf
  have e1 : x = o.1 := by rw [ho]
  have e2 : h1 = o.2 := by rw [ho]
  subst e1 e2
  clear ho
  show PF Γ mi_X1_predictRead D h0 (QR Γ D h0 (oxi o.1) o.2) h0 0 [some (va_rf r0), some (.int p0), some (.int p1), some (.int p2), none, none, none] []
  unfold f_X1_predictRead at hf
  refine j_aload_n 0 dX1_predictRead_0 rfl rfl ?_
  refine j_iload_n 1 dX1_predictRead_1 rfl rfl ?_
  refine kc_X1_117 rfl rfl rfl (by decide) dX1_predictRead_2 hf (fun r2 h1 hf => ?_) (fun ci9 q9 h1 fs9 he9 hf => ?_)
  · refine j_pop dX1_predictRead_5 (va_rf_cat _) ?_
    refine j_iload_n 2 dX1_predictRead_6 rfl rfl ?_
    refine kc_X1_205 rfl rfl rfl (by decide) dX1_predictRead_7 hf (fun _u h3 hf => ?_) (fun ci9 q9 h3 fs9 he9 hf => ?_)
    · refine j_aload_n 0 dX1_predictRead_10 rfl rfl ?_
      refine j_iload_n 3 dX1_predictRead_11 rfl rfl ?_
      refine kc_X1_349 rfl rfl rfl (by decide) dX1_predictRead_12 hf (fun v5 h4 hf => ?_) (fun ci9 q9 h4 fs9 he9 hf => ?_)
      · refine j_istore [some (va_rf r0), some (.int p0), some (.int p1), some (.int p2), some (.int v5), none, none] dX1_predictRead_15 (cz rfl) rfl rfl ?_
        refine j_iload dX1_predictRead_17 rfl ?_
        refine j_if_ge 25 dX1_predictRead_19 (by decide) hf (fun c_ hf => ?_) (fun c_ hf => ?_)
        · refine j_aload_n 0 dX1_predictRead_25 rfl rfl ?_
          refine j_gR (ci := 0) (k := 3) rfl in_X1 rfl q877 dX1_predictRead_26 hf (fun r6 hf => ?_)
          refine kc_X1_326 rfl rfl rfl (by decide) dX1_predictRead_29 hf (fun r8 h7 hf => ?_)
          refine j_astore [some (va_rf r0), some (.int p0), some (.int p1), some (.int p2), some (.int v5), some (va_rf r8), none] dX1_predictRead_32 (cz rfl) rfl rfl ?_
          refine j_aload dX1_predictRead_34 rfl ?_
          refine j_iload dX1_predictRead_36 rfl ?_
          refine kc_X1_109 rfl rfl rfl (by decide) dX1_predictRead_38 hf (fun _u h9 hf => ?_)
          refine j_aload dX1_predictRead_41 rfl ?_
          refine j_gRN (ci := 1) (k := 1) rfl in_X2 rfl q789 dX1_predictRead_43 hf (fun r10 hf => ?_)
          refine j_iload_n 1 dX1_predictRead_46 rfl rfl ?_
          refine j_aald (t := 5) rfl dX1_predictRead_47 hf (fun r11 hf => ?_)
          refine j_astore [some (va_rf r0), some (.int p0), some (.int p1), some (.int p2), some (.int v5), some (va_rf r8), some (va_rf r11)] dX1_predictRead_48 (cz (va_rf_cat _)) rfl rfl ?_
          refine j_aload dX1_predictRead_50 rfl ?_
          refine j_gIN (ci := 5) (k := 2) rfl in_X6 rfl q728 dX1_predictRead_52 hf (fun v12 hf => ?_)
          refine j_if_ne 61 dX1_predictRead_55 (by decide) hf (fun c_ hf => ?_) (fun c_ hf => ?_)
          · refine j_aload dX1_predictRead_61 rfl ?_
            refine j_iload dX1_predictRead_63 rfl ?_
            refine kc_X1_138 rfl rfl rfl (by decide) dX1_predictRead_65 hf (fun v14 h13 hf => ?_)
            refine j_if_eq 74 dX1_predictRead_68 (by decide) hf (fun c_ hf => ?_) (fun c_ hf => ?_)
            · refine j_aload dX1_predictRead_74 rfl ?_
              refine j_iload dX1_predictRead_76 rfl ?_
              refine kc_X1_202 rfl rfl rfl (by decide) dX1_predictRead_78 hf (fun v16 h15 hf => ?_)
              refine j_if_ne 86 dX1_predictRead_81 (by decide) hf (fun c_ hf => ?_) (fun c_ hf => ?_)
              · refine j_aload dX1_predictRead_86 rfl ?_
                refine j_gIN (ci := 5) (k := 9) rfl in_X6 rfl q749 dX1_predictRead_88 hf (fun v17 hf => ?_)
                refine j_iload_n 2 dX1_predictRead_91 rfl rfl ?_
                refine j_ishr dX1_predictRead_92 ?_
                refine j_iconst (1 : Int32) dX1_predictRead_93 (by decide) ?_
                refine j_iand dX1_predictRead_94 ?_
                refine j_iconst (1 : Int32) dX1_predictRead_95 (by decide) ?_
                refine j_icmp_ne 109 dX1_predictRead_96 (by decide) hf (fun c_ hf => ?_) (fun c_ hf => ?_)
                · refine j_bipush (-4 : Int32) dX1_predictRead_109 (by decide) ?_
                  refine j_weak [none, none, none, none, none, none, none] (Wk.s (Wk.s (Wk.s (Wk.s (Wk.s (Wk.s (Wk.s Wk.n))))))) ?_
                  exact pf_X1_predictRead_B111 (-4 : Int32) h15 hf
                · refine j_aload dX1_predictRead_99 rfl ?_
                  refine j_gRN (ci := 5) (k := 12) rfl in_X6 rfl q757 dX1_predictRead_101 hf (fun r18 hf => ?_)
                  refine j_iload_n 2 dX1_predictRead_104 rfl rfl ?_
                  refine j_iald dX1_predictRead_105 hf (fun v19 hf => ?_)
                  refine j_goto 111 dX1_predictRead_106 (by decide) ?_
                  refine j_weak [none, none, none, none, none, none, none] (Wk.s (Wk.s (Wk.s (Wk.s (Wk.s (Wk.s (Wk.s Wk.n))))))) ?_
                  exact pf_X1_predictRead_B111 v19 h15 hf
              · refine j_iconst (-1 : Int32) dX1_predictRead_84 (by decide) ?_
                have e9 := Option.some.inj hf
                subst e9
                exact j_iret rfl dX1_predictRead_85
            · refine j_bipush (-2 : Int32) dX1_predictRead_71 (by decide) ?_
              have e9 := Option.some.inj hf
              subst e9
              exact j_iret rfl dX1_predictRead_73
          · refine j_bipush (-3 : Int32) dX1_predictRead_58 (by decide) ?_
            have e9 := Option.some.inj hf
            subst e9
            exact j_iret rfl dX1_predictRead_60
        · refine j_iload dX1_predictRead_22 rfl ?_
          have e9 := Option.some.inj hf
          subst e9
          exact j_iret rfl dX1_predictRead_24
      · obtain ⟨hb9, hf⟩ := xo_in hf
        subst hf
        exact j_out (by decide) hb9 he9
    · obtain ⟨hb9, hf⟩ := xo_in hf
      subst hf
      exact j_out (by decide) hb9 he9
  · obtain ⟨hb9, hf⟩ := xo_in hf
    subst hf
    exact j_out (by decide) hb9 he9
abbrev mi_X1_acquiresUntil : MI := (cX1_acquiresUntil, 6, RX1, (Option.some FieldType.int), [], 15, 371, "acquiresUntil")
def f_X1_acquiresUntil (r0 : Option Nat) (p0 : Int32) (p1 : Int32) (h0 : PH) : Option (((Nat × Nat) ⊕ Int32) × PH) := rv_ h0 r0 0 (cl_ (f_X1_node r0 p0 h0) fun z9 h1 => match z9 with | .inl (ci9, q9) => (xo_ h1 ci9 q9) | .inr r2 => (rv_ h1 r0 0 (cl_ (f_X1_until r0 p1 h1) fun z9 h3 => match z9 with | .inl (ci9, q9) => (xo_ h3 ci9 q9) | .inr v4 => ((if 0 ≤ v4 then (gR h3 r0 0 3 fun r5 => rv_ h3 r5 1 (cl_ (f_X2_copy r5 h3) fun r7 h6 => rv_ h6 r7 1 (cl_ (f_X2_goOn r7 v4 h6) fun _u h8 => gRN h8 r7 1 1 fun r9 => aQ h8 r9 5 p0 fun r10 => gIN h8 r10 5 11 fun v11 => gIN h8 r2 5 11 fun v12 => some (.inr (v11 - v12), h8)))) else (some (.inr v4, h3)))))))
theorem hyS_X1_acquiresUntil : yX1_acquiresUntil.cls ≠ "java/lang/invoke/MethodHandle" ∧ yX1_acquiresUntil.cls ≠ "java/lang/invoke/VarHandle" ∧ (parseMethodDescriptor yX1_acquiresUntil.desc).map (fun d => d.parameters.length) = some 2 := by decide +kernel
theorem hyV_X1_acquiresUntil : yX1_acquiresUntil.cls = RX1 ∧ yX1_acquiresUntil.cls ≠ "java/lang/invoke/MethodHandle" ∧ yX1_acquiresUntil.cls ≠ "java/lang/invoke/VarHandle" ∧ (parseMethodDescriptor yX1_acquiresUntil.desc).map (fun d => d.parameters.length) = some 2 := by decide +kernel
theorem c_X1_acquiresUntil {D : va_G} (r0 : Option Nat) (p0 : Int32) (p1 : Int32) {h0 : PH} (l : Launch) (hl : l.stackTraces = false) (x : ((Nat × Nat) ⊕ Int32)) (h1 : PH) (hf : f_X1_acquiresUntil r0 p0 p1 h0 = some (x, h1)) : CT l D yX1_acquiresUntil (ws_ yX1_acquiresUntil cX1_acquiresUntil 6 (Option.some FieldType.int)) 15 371 [va_rf r0, .int p0, .int p1] h0 (oxi x) h1 := by
  refine ct_of hl [some (va_rf r0), some (.int p0), some (.int p1), none, none, none] (by decide) (by rw [lgl]; simp [va_rf_cat, cat_i, cat_l]) (by simp [lv_args, vsL, va_rf_cat, cat_i, cat_l]) (fun Γ => ?_)
  obtain ⟨o, ho⟩ : ∃ o : ((Nat × Nat) ⊕ Int32) × PH, o = (x, h1) := ⟨_, rfl⟩
  rw [← ho] at hf
  have e1 : x = o.1 := by rw [ho]
  have e2 : h1 = o.2 := by rw [ho]
  subst e1 e2
  clear ho
  show PF Γ mi_X1_acquiresUntil D h0 (QR Γ D h0 (oxi o.1) o.2) h0 0 [some (va_rf r0), some (.int p0), some (.int p1), none, none, none] []
  unfold f_X1_acquiresUntil at hf
  refine j_aload_n 0 dX1_acquiresUntil_0 rfl rfl ?_
  refine j_iload_n 1 dX1_acquiresUntil_1 rfl rfl ?_
  refine kc_X1_117 rfl rfl rfl (by decide) dX1_acquiresUntil_2 hf (fun r2 h1 hf => ?_) (fun ci9 q9 h1 fs9 he9 hf => ?_)
  · refine j_astore_n 3 [some (va_rf r0), some (.int p0), some (.int p1), some (va_rf r2), none, none] dX1_acquiresUntil_5 rfl (cz rfl) rfl rfl ?_
    refine j_aload_n 0 dX1_acquiresUntil_6 rfl rfl ?_
    refine j_iload_n 2 dX1_acquiresUntil_7 rfl rfl ?_
    refine kc_X1_349 rfl rfl rfl (by decide) dX1_acquiresUntil_8 hf (fun v4 h3 hf => ?_) (fun ci9 q9 h3 fs9 he9 hf => ?_)
    · refine j_istore [some (va_rf r0), some (.int p0), some (.int p1), some (va_rf r2), some (.int v4), none] dX1_acquiresUntil_11 (cz (va_rf_cat _)) rfl rfl ?_
      refine j_iload dX1_acquiresUntil_13 rfl ?_
      refine j_if_ge 21 dX1_acquiresUntil_15 (by decide) hf (fun c_ hf => ?_) (fun c_ hf => ?_)
      · refine j_aload_n 0 dX1_acquiresUntil_21 rfl rfl ?_
        refine j_gR (ci := 0) (k := 3) rfl in_X1 rfl q877 dX1_acquiresUntil_22 hf (fun r5 hf => ?_)
        refine kc_X1_326 rfl rfl rfl (by decide) dX1_acquiresUntil_25 hf (fun r7 h6 hf => ?_)
        refine j_astore [some (va_rf r0), some (.int p0), some (.int p1), some (va_rf r2), some (.int v4), some (va_rf r7)] dX1_acquiresUntil_28 (cz rfl) rfl rfl ?_
        refine j_aload dX1_acquiresUntil_30 rfl ?_
        refine j_iload dX1_acquiresUntil_32 rfl ?_
        refine kc_X1_109 rfl rfl rfl (by decide) dX1_acquiresUntil_34 hf (fun _u h8 hf => ?_)
        refine j_aload dX1_acquiresUntil_37 rfl ?_
        refine j_gRN (ci := 1) (k := 1) rfl in_X2 rfl q789 dX1_acquiresUntil_39 hf (fun r9 hf => ?_)
        refine j_iload_n 1 dX1_acquiresUntil_42 rfl rfl ?_
        refine j_aald (t := 5) rfl dX1_acquiresUntil_43 hf (fun r10 hf => ?_)
        refine j_gIN (ci := 5) (k := 11) rfl in_X6 rfl q755 dX1_acquiresUntil_44 hf (fun v11 hf => ?_)
        refine j_aload_n 3 dX1_acquiresUntil_47 rfl rfl ?_
        refine j_gIN (ci := 5) (k := 11) rfl in_X6 rfl q755 dX1_acquiresUntil_48 hf (fun v12 hf => ?_)
        refine j_isub dX1_acquiresUntil_51 ?_
        have e9 := Option.some.inj hf
        subst e9
        exact j_iret rfl dX1_acquiresUntil_52
      · refine j_iload dX1_acquiresUntil_18 rfl ?_
        have e9 := Option.some.inj hf
        subst e9
        exact j_iret rfl dX1_acquiresUntil_20
    · obtain ⟨hb9, hf⟩ := xo_in hf
      subst hf
      exact j_out (by decide) hb9 he9
  · obtain ⟨hb9, hf⟩ := xo_in hf
    subst hf
    exact j_out (by decide) hb9 he9
