/-! printed by gen.py: X8_next X8_number X1_init X1_overtakingPairs X1_appendByte X1_nodeClock X1_campaign X1_write X1_logTime X2_handle X8_word X8_clock X2_arrive X8_statement -/
set_option maxRecDepth 100000
theorem kc_X8_42 {Γ : GX} {I : MI} {D : va_G} {h0 : PH} {Q : State → Prop} {h : PH} {pc : Nat} {vs : List (Option Value)} {rest : List Value} {β : Type} {o : β} {r : Option Nat}  {K : ((Int32) → PH → Option β)} (hI : I.2.2.1 = RX8) (hfr : Nat.ble 1 I.2.2.2.2.2.1 = true) (hlo : Nat.ble 20 I.2.2.2.2.2.2.1 = true) (hW : (rest.map fun v => v.category).sum ≤ 8) (hd : decode I.1 pc = .ok (.invokevirtual 42, 3)) (hf : rv_ h r 7 (cl_ (f_X8_here r h) K) = some o) (kk : ∀ (x : Int32) (h1 : PH), K x h1 = some o → PF Γ I D h0 Q h1 (pc + 3) vs (.int x :: rest)) : PF Γ I D h0 Q h pc vs (va_rf r :: rest) := by
  obtain ⟨cc, nL, own, rt, xt, fr, lo, nm⟩ := I
  cases hI
  exact j_cVi (n := 0) (y := yX8_here) (cc2 := cX8_here) (As := []) (C := RX8) (ci := 7) rfl (lw_V q942 q944 qs8 q118 q945) hyV_X8_here hfr hlo rfl hW hd (c_X8_here r) hf _ rfl kk
abbrev mi_X8_next : MI := (cX8_next, 1, RX8, (Option.some FieldType.int), [], 1, 20, "next")
def f_X8_next_L0 : Nat → Option Nat → PH → Option (Int32 × PH)
  | 0, _, _ => none
  | n + 1, x0, h => rv_ h x0 7 (cl_ (f_X8_here x0 h) fun v2 h1 => (if v2 = (32 : Int32) then (gI h1 x0 7 2 fun v5 => pV h1 x0 7 2 (.int (v5 + (1 : Int32))) fun h6 => f_X8_next_L0 n x0 h6) else (rv_ h1 x0 7 (cl_ (f_X8_here x0 h1) fun v4 h3 => some (v4, h3)))))
theorem pf_X8_next_L0 {Γ : GX} {D : va_G} {h0 : PH} {o : Int32 × PH} : ∀ (n : Nat) (x0 : Option Nat) (h : PH), f_X8_next_L0 n x0 h = some o → PF Γ mi_X8_next D h0 (QR Γ D h0 (ovi o.1) o.2) h 0 [some (va_rf x0)] [] := by
  intro n
  induction n with
  | zero => intro x0 h hf; cases hf
  | succ n ih =>
    intro x0 h hf
    refine j_aload_n 0 dX8_next_0 rfl rfl ?_
    refine kc_X8_42 rfl rfl rfl (by decide) dX8_next_1 hf (fun v2 h1 hf => ?_)
    refine j_bipush (32 : Int32) dX8_next_4 (by decide) ?_
    refine j_icmp_ne 22 dX8_next_6 (by decide) hf (fun c_ hf => ?_) (fun c_ hf => ?_)
    · refine j_aload_n 0 dX8_next_22 rfl rfl ?_
      refine kc_X8_42 rfl rfl rfl (by decide) dX8_next_23 hf (fun v4 h3 hf => ?_)
      have e9 := Option.some.inj hf
      subst e9
      exact j_iret rfl dX8_next_26
    · refine j_aload_n 0 dX8_next_9 rfl rfl ?_
      refine j_dup dX8_next_10 (va_rf_cat _) ?_
      refine j_gI (ci := 7) (k := 2) rfl in_X8 rfl q907 dX8_next_11 hf (fun v5 hf => ?_)
      refine j_iconst (1 : Int32) dX8_next_14 (by decide) ?_
      refine j_iadd dX8_next_15 ?_
      refine j_pV (ci := 7) (k := 2) tyX8 tyX8_ok nmX8 rfl in_X8 rfl q907 (Or.inl rfl) rfl (fit_i _) dX8_next_16 hf (fun h6 hf => ?_)
      refine j_goto 0 dX8_next_19 (by decide) ?_
      exact ih x0 h6 hf
def f_X8_next (r0 : Option Nat) (h0 : PH) : Option (Int32 × PH) := f_X8_next_L0 FU r0 h0
theorem hyS_X8_next : yX8_next.cls ≠ "java/lang/invoke/MethodHandle" ∧ yX8_next.cls ≠ "java/lang/invoke/VarHandle" ∧ (parseMethodDescriptor yX8_next.desc).map (fun d => d.parameters.length) = some 0 := by decide +kernel
theorem hyV_X8_next : yX8_next.cls = RX8 ∧ yX8_next.cls ≠ "java/lang/invoke/MethodHandle" ∧ yX8_next.cls ≠ "java/lang/invoke/VarHandle" ∧ (parseMethodDescriptor yX8_next.desc).map (fun d => d.parameters.length) = some 0 := by decide +kernel
theorem c_X8_next {D : va_G} (r0 : Option Nat) {h0 : PH} (l : Launch) (hl : l.stackTraces = false) (x : Int32) (h1 : PH) (hf : f_X8_next r0 h0 = some (x, h1)) : CT l D yX8_next (ws_ yX8_next cX8_next 1 (Option.some FieldType.int)) 1 20 [va_rf r0] h0 (ovi x) h1 := by
  refine ct_of hl [some (va_rf r0)] (by decide) (by rw [lgl]; simp [va_rf_cat, cat_i, cat_l]) (by simp [lv_args, vsL, va_rf_cat, cat_i, cat_l]) (fun Γ => ?_)
  obtain ⟨o, ho⟩ : ∃ o : Int32 × PH, o = (x, h1) := ⟨_, rfl⟩
  rw [← ho] at hf
  have e1 : x = o.1 := by rw [ho]
  have e2 : h1 = o.2 := by rw [ho]
  subst e1 e2
  clear ho
  show PF Γ mi_X8_next D h0 (QR Γ D h0 (ovi o.1) o.2) h0 0 [some (va_rf r0)] []
  unfold f_X8_next at hf
  exact pf_X8_next_L0 FU r0 h0 hf
theorem kc_X8_46 {Γ : GX} {I : MI} {D : va_G} {h0 : PH} {Q : State → Prop} {h : PH} {pc : Nat} {vs : List (Option Value)} {rest : List Value} {β : Type} {o : β} {r : Option Nat}  {K : ((Int32) → PH → Option β)} (hI : I.2.2.1 = RX8) (hfr : Nat.ble 2 I.2.2.2.2.2.1 = true) (hlo : Nat.ble 40 I.2.2.2.2.2.2.1 = true) (hW : (rest.map fun v => v.category).sum ≤ 8) (hd : decode I.1 pc = .ok (.invokevirtual 46, 3)) (hf : rv_ h r 7 (cl_ (f_X8_next r h) K) = some o) (kk : ∀ (x : Int32) (h1 : PH), K x h1 = some o → PF Γ I D h0 Q h1 (pc + 3) vs (.int x :: rest)) : PF Γ I D h0 Q h pc vs (va_rf r :: rest) := by
  obtain ⟨cc, nL, own, rt, xt, fr, lo, nm⟩ := I
  cases hI
  exact j_cVi (n := 0) (y := yX8_next) (cc2 := cX8_next) (As := []) (C := RX8) (ci := 7) rfl (lw_V q938 q940 qs7 q118 q941) hyV_X8_next hfr hlo rfl hW hd (c_X8_next r) hf _ rfl kk
theorem kc_X8_56 {Γ : GX} {I : MI} {D : va_G} {h0 : PH} {Q : State → Prop} {h : PH} {pc : Nat} {vs : List (Option Value)} {rest : List Value} {β : Type} {o : β} {p0 : Int64} {p1 : Int64} {p2 : Int64} {K : ((Int32) → PH → Option β)} (hI : I.2.2.1 = RX8) (hfr : Nat.ble 1 I.2.2.2.2.2.1 = true) (hlo : Nat.ble 25 I.2.2.2.2.2.2.1 = true) (hW : (rest.map fun v => v.category).sum ≤ 8) (hd : decode I.1 pc = .ok (.invokestatic 56, 3)) (hf : cl_ (f_X1_in p0 p1 p2 h) K = some o) (kk : ∀ (x : Int32) (h1 : PH), K x h1 = some o → PF Γ I D h0 Q h1 (pc + 3) vs (.int x :: rest)) : PF Γ I D h0 Q h pc vs (.long p2 :: .long p1 :: .long p0 :: rest) := by
  obtain ⟨cc, nL, own, rt, xt, fr, lo, nm⟩ := I
  cases hI
  exact j_cSNi (n := 3) (y := yX1_in) (cc2 := cX1_in) (As := [.long p0, .long p1, .long p2]) (lw_meth q952) q90 q950 q951 hyS_X1_in hfr hlo rfl hW hd (c_X1_in p0 p1 p2) hf _ rfl kk
theorem kc_X8_74 {Γ : GX} {I : MI} {D : va_G} {h0 : PH} {Q : State → Prop} {h : PH} {pc : Nat} {vs : List (Option Value)} {rest : List Value} {β : Type} {o : β} {a : Nat} {p0 : Int32} {K : ((Unit) → PH → Option β)} (hI : I.2.2.1 = RX8) (hfr : Nat.ble 5 I.2.2.2.2.2.1 = true) (hlo : Nat.ble 110 I.2.2.2.2.2.2.1 = true) (hW : (rest.map fun v => v.category).sum ≤ 8) (hd : decode I.1 pc = .ok (.invokespecial 74, 3)) (hf : cl_ (f_X11_init a p0 h) K = some o) (kk : ∀ (x : Unit) (h1 : PH), K x h1 = some o → PF Γ I D h0 Q h1 (pc + 3) vs (rest)) : PF Γ I D h0 Q h pc vs (.int p0 :: va_rf (some a) :: rest) := by
  obtain ⟨cc, nL, own, rt, xt, fr, lo, nm⟩ := I
  cases hI
  exact j_cIv (n := 1) (y := yX11_init) (cc2 := cX11_init) (As := [.int p0]) (lw_meth q1154) q121 q1152 q1153 rfl hyS_X11_init hfr hlo rfl hW hd (c_X11_init a p0) ⟨_, rfl⟩ hf _ rfl kk
theorem kc_X8_87 {Γ : GX} {I : MI} {D : va_G} {h0 : PH} {Q : State → Prop} {h : PH} {pc : Nat} {vs : List (Option Value)} {rest : List Value} {β : Type} {o : β} {a : Nat} {p0 : Int32} {K : ((Unit) → PH → Option β)} (hI : I.2.2.1 = RX8) (hfr : Nat.ble 5 I.2.2.2.2.2.1 = true) (hlo : Nat.ble 110 I.2.2.2.2.2.2.1 = true) (hW : (rest.map fun v => v.category).sum ≤ 8) (hd : decode I.1 pc = .ok (.invokespecial 87, 3)) (hf : cl_ (f_X12_init a p0 h) K = some o) (kk : ∀ (x : Unit) (h1 : PH), K x h1 = some o → PF Γ I D h0 Q h1 (pc + 3) vs (rest)) : PF Γ I D h0 Q h pc vs (.int p0 :: va_rf (some a) :: rest) := by
  obtain ⟨cc, nL, own, rt, xt, fr, lo, nm⟩ := I
  cases hI
  exact j_cIv (n := 1) (y := yX12_init) (cc2 := cX12_init) (As := [.int p0]) (lw_meth q1174) q122 q1172 q1173 rfl hyS_X12_init hfr hlo rfl hW hd (c_X12_init a p0) ⟨_, rfl⟩ hf _ rfl kk
abbrev mi_X8_number : MI := (cX8_number, 6, RX8, (Option.some FieldType.int), [], 5, 110, "number")
def f_X8_number_L37 : Nat → Option Nat → Int32 → Int32 → Int32 → Int64 → PH → Option (((Nat × Nat) ⊕ Int32) × PH)
  | 0, _, _, _, _, _, _ => none
  | n + 1, x0, x1, x2, x3, x4, h => rv_ h x0 7 (cl_ (f_X8_here x0 h) fun v11 h10 => cl_ (f_X1_in (v11.toInt64) (48 : Int64) (57 : Int64) h10) fun v13 h12 => (if v13 = 0 then (cl_ (f_X1_in x4 (x1.toInt64) (x2.toInt64) h12) fun v15 h14 => (if v15 = 0 then (nO h14 10 7 [.int 0, .null, .null, .null, .null, .null, .int 0] fun a16 h17 => cl_ (f_X12_init a16 x3 h17) fun _u h18 => th_ h18 (some a16) fun ci9 q9 => xo_ h18 ci9 q9) else (some (.inr (x4.toInt32), h14)))) else (rv_ h12 x0 7 (cl_ (f_X8_here x0 h12) fun v20 h19 => gI h19 x0 7 2 fun v21 => pV h19 x0 7 2 (.int (v21 + (1 : Int32))) fun h22 => f_X8_number_L37 n x0 x1 x2 x3 (if ((((10 : Int64) * x4) + (v20.toInt64)) - (48 : Int64)) < (10000000000 : Int64) then ((((10 : Int64) * x4) + (v20.toInt64)) - (48 : Int64)) else (10000000000 : Int64)) h22))))
theorem pf_X8_number_L37 {Γ : GX} {D : va_G} {h0 : PH} {o : ((Nat × Nat) ⊕ Int32) × PH} : ∀ (n : Nat) (x0 : Option Nat) (x1 : Int32) (x2 : Int32) (x3 : Int32) (x4 : Int64) (h : PH), f_X8_number_L37 n x0 x1 x2 x3 x4 h = some o → PF Γ mi_X8_number D h0 (QR Γ D h0 (oxi o.1) o.2) h 37 [some (va_rf x0), some (.int x1), some (.int x2), some (.int x3), some (.long x4), none] [] := by
  intro n
  induction n with
  | zero => intro x0 x1 x2 x3 x4 h hf; cases hf
  | succ n ih =>
    intro x0 x1 x2 x3 x4 h hf
    refine j_aload_n 0 dX8_number_37 rfl rfl ?_
    refine kc_X8_42 rfl rfl rfl (by decide) dX8_number_38 hf (fun v11 h10 hf => ?_)
    refine j_i2l dX8_number_41 ?_
    refine j_ldc2 q1142 dX8_number_42 ?_
    refine j_ldc2 q1143 dX8_number_45 ?_
    refine kc_X8_56 rfl rfl rfl (by decide) dX8_number_48 hf (fun v13 h12 hf => ?_)
    refine j_if_eq 91 dX8_number_51 (by decide) hf (fun c_ hf => ?_) (fun c_ hf => ?_)
    · refine j_lload dX8_number_91 rfl ?_
      refine j_iload_n 1 dX8_number_93 rfl rfl ?_
      refine j_i2l dX8_number_94 ?_
      refine j_iload_n 2 dX8_number_95 rfl rfl ?_
      refine j_i2l dX8_number_96 ?_
      refine kc_X8_56 rfl rfl rfl (by decide) dX8_number_97 hf (fun v15 h14 hf => ?_)
      refine j_if_ne 112 dX8_number_100 (by decide) hf (fun c_ hf => ?_) (fun c_ hf => ?_)
      · refine j_lload dX8_number_112 rfl ?_
        refine j_l2i dX8_number_114 ?_
        have e9 := Option.some.inj hf
        subst e9
        exact j_iret rfl dX8_number_115
      · refine j_nO (ci := 10) tyX12 tyX12_ok rfl in_X12 q923 q1164 q122 (by decide) dX8_number_103 hf (fun a16 h17 hf => ?_)
        refine j_dup dX8_number_106 (va_rf_cat _) ?_
        refine j_iload_n 3 dX8_number_107 rfl rfl ?_
        refine kc_X8_87 rfl rfl rfl (by simp [va_rf_cat, cat_i, cat_l]) dX8_number_108 hf (fun _u h18 hf => ?_)
        refine j_athrow dX8_number_111 hf (fun ci9 q9 fs9 he9 hf => ?_)
        obtain ⟨hb9, hf⟩ := xo_in hf
        subst hf
        exact j_out (by decide) hb9 he9
    · refine j_ldc2 q1159 dX8_number_54 ?_
      refine j_ldc2 q1160 dX8_number_57 ?_
      refine j_lload dX8_number_60 rfl ?_
      refine j_lmul dX8_number_62 ?_
      refine j_aload_n 0 dX8_number_63 rfl rfl ?_
      refine kc_X8_42 rfl rfl rfl (by simp [va_rf_cat, cat_i, cat_l]) dX8_number_64 hf (fun v20 h19 hf => ?_)
      refine j_i2l dX8_number_67 ?_
      refine j_ladd dX8_number_68 ?_
      refine j_ldc2 q1142 dX8_number_69 ?_
      refine j_lsub dX8_number_72 ?_
      refine j_mminl q1161 q1162 q106 q1163 rfl rfl (by decide) dX8_number_73 ?_
      refine j_lstore [some (va_rf x0), some (.int x1), some (.int x2), some (.int x3), some (.long (if ((((10 : Int64) * x4) + (v20.toInt64)) - (48 : Int64)) < (10000000000 : Int64) then ((((10 : Int64) * x4) + (v20.toInt64)) - (48 : Int64)) else (10000000000 : Int64))), none] dX8_number_76 (cz rfl) rfl rfl ?_
      refine j_aload_n 0 dX8_number_78 rfl rfl ?_
      refine j_dup dX8_number_79 (va_rf_cat _) ?_
      refine j_gI (ci := 7) (k := 2) rfl in_X8 rfl q907 dX8_number_80 hf (fun v21 hf => ?_)
      refine j_iconst (1 : Int32) dX8_number_83 (by decide) ?_
      refine j_iadd dX8_number_84 ?_
      refine j_pV (ci := 7) (k := 2) tyX8 tyX8_ok nmX8 rfl in_X8 rfl q907 (Or.inl rfl) rfl (fit_i _) dX8_number_85 hf (fun h22 hf => ?_)
      refine j_goto 37 dX8_number_88 (by decide) ?_
      exact ih x0 x1 x2 x3 (if ((((10 : Int64) * x4) + (v20.toInt64)) - (48 : Int64)) < (10000000000 : Int64) then ((((10 : Int64) * x4) + (v20.toInt64)) - (48 : Int64)) else (10000000000 : Int64)) h22 hf
def f_X8_number (r0 : Option Nat) (p0 : Int32) (p1 : Int32) (h0 : PH) : Option (((Nat × Nat) ⊕ Int32) × PH) := rv_ h0 r0 7 (cl_ (f_X8_next r0 h0) fun v2 h1 => cl_ (f_X1_in (v2.toInt64) (48 : Int64) (57 : Int64) h1) fun v4 h3 => (if v4 = 0 then (nO h3 9 7 [.int 0, .null, .null, .null, .null, .null, .int 0] fun a6 h7 => gI h7 r0 7 2 fun v8 => cl_ (f_X11_init a6 v8 h7) fun _u h9 => th_ h9 (some a6) fun ci9 q9 => xo_ h9 ci9 q9) else (gI h3 r0 7 2 fun v5 => f_X8_number_L37 FU r0 p0 p1 v5 (0 : Int64) h3)))
theorem hyS_X8_number : yX8_number.cls ≠ "java/lang/invoke/MethodHandle" ∧ yX8_number.cls ≠ "java/lang/invoke/VarHandle" ∧ (parseMethodDescriptor yX8_number.desc).map (fun d => d.parameters.length) = some 2 := by decide +kernel
theorem hyV_X8_number : yX8_number.cls = RX8 ∧ yX8_number.cls ≠ "java/lang/invoke/MethodHandle" ∧ yX8_number.cls ≠ "java/lang/invoke/VarHandle" ∧ (parseMethodDescriptor yX8_number.desc).map (fun d => d.parameters.length) = some 2 := by decide +kernel
theorem c_X8_number {D : va_G} (r0 : Option Nat) (p0 : Int32) (p1 : Int32) {h0 : PH} (l : Launch) (hl : l.stackTraces = false) (x : ((Nat × Nat) ⊕ Int32)) (h1 : PH) (hf : f_X8_number r0 p0 p1 h0 = some (x, h1)) : CT l D yX8_number (ws_ yX8_number cX8_number 6 (Option.some FieldType.int)) 5 110 [va_rf r0, .int p0, .int p1] h0 (oxi x) h1 := by
  refine ct_of hl [some (va_rf r0), some (.int p0), some (.int p1), none, none, none] (by decide) (by rw [lgl]; simp [va_rf_cat, cat_i, cat_l]) (by simp [lv_args, vsL, va_rf_cat, cat_i, cat_l]) (fun Γ => ?_)
  obtain ⟨o, ho⟩ : ∃ o : ((Nat × Nat) ⊕ Int32) × PH, o = (x, h1) := ⟨_, rfl⟩
  rw [← ho] at hf
  have e1 : x = o.1 := by rw [ho]
  have e2 : h1 = o.2 := by rw [ho]
  subst e1 e2
  clear ho
  show PF Γ mi_X8_number D h0 (QR Γ D h0 (oxi o.1) o.2) h0 0 [some (va_rf r0), some (.int p0), some (.int p1), none, none, none] []
  unfold f_X8_number at hf
  refine j_aload_n 0 dX8_number_0 rfl rfl ?_
  refine kc_X8_46 rfl rfl rfl (by decide) dX8_number_1 hf (fun v2 h1 hf => ?_)
  refine j_i2l dX8_number_4 ?_
  refine j_ldc2 q1142 dX8_number_5 ?_
  refine j_ldc2 q1143 dX8_number_8 ?_
  refine kc_X8_56 rfl rfl rfl (by decide) dX8_number_11 hf (fun v4 h3 hf => ?_)
  refine j_if_ne 29 dX8_number_14 (by decide) hf (fun c_ hf => ?_) (fun c_ hf => ?_)
  · refine j_aload_n 0 dX8_number_29 rfl rfl ?_
    refine j_gI (ci := 7) (k := 2) rfl in_X8 rfl q907 dX8_number_30 hf (fun v5 hf => ?_)
    refine j_istore_n 3 [some (va_rf r0), some (.int p0), some (.int p1), some (.int v5), none, none] dX8_number_33 rfl (cz rfl) rfl rfl ?_
    refine j_lconst (0 : Int64) dX8_number_34 (by decide) ?_
    refine j_lstore [some (va_rf r0), some (.int p0), some (.int p1), some (.int v5), some (.long (0 : Int64)), none] dX8_number_35 (cz rfl) rfl rfl ?_
    exact pf_X8_number_L37 FU r0 p0 p1 v5 (0 : Int64) h3 hf
  · refine j_nO (ci := 9) tyX11 tyX11_ok rfl in_X11 q922 q1144 q121 (by decide) dX8_number_17 hf (fun a6 h7 hf => ?_)
    refine j_dup dX8_number_20 (va_rf_cat _) ?_
    refine j_aload_n 0 dX8_number_21 rfl rfl ?_
    refine j_gI (ci := 7) (k := 2) rfl in_X8 rfl q907 dX8_number_22 hf (fun v8 hf => ?_)
    refine kc_X8_74 rfl rfl rfl (by simp [va_rf_cat, cat_i, cat_l]) dX8_number_25 hf (fun _u h9 hf => ?_)
    refine j_athrow dX8_number_28 hf (fun ci9 q9 fs9 he9 hf => ?_)
    obtain ⟨hb9, hf⟩ := xo_in hf
    subst hf
    exact j_out (by decide) hb9 he9
theorem kc_X1_42 {Γ : GX} {I : MI} {D : va_G} {h0 : PH} {Q : State → Prop} {h : PH} {pc : Nat} {vs : List (Option Value)} {rest : List Value} {β : Type} {o : β}  {K : ((Option Nat) → PH → Option β)} (hI : I.2.2.1 = RX1) (hfr : Nat.ble 8 I.2.2.2.2.2.1 = true) (hlo : Nat.ble 211 I.2.2.2.2.2.2.1 = true) (hW : (rest.map fun v => v.category).sum ≤ 8) (hd : decode I.1 pc = .ok (.invokestatic 42, 3)) (hf : cl_ (f_X1_plain h) K = some o) (kk : ∀ (x : Option Nat) (h1 : PH), K x h1 = some o → PF Γ I D h0 Q h1 (pc + 3) vs (va_rf x :: rest)) : PF Γ I D h0 Q h pc vs (rest) := by
  obtain ⟨cc, nL, own, rt, xt, fr, lo, nm⟩ := I
  cases hI
  exact j_cSr (n := 0) (y := yX1_plain) (cc2 := cX1_plain) (As := []) (lw_S q145 q146 q90 q147) hyS_X1_plain hfr hlo rfl hW hd c_X1_plain hf _ rfl kk
theorem kc_X1_46 {Γ : GX} {I : MI} {D : va_G} {h0 : PH} {Q : State → Prop} {h : PH} {pc : Nat} {vs : List (Option Value)} {rest : List Value} {β : Type} {o : β} {a : Nat} {p0 : Option Nat} {K : ((Unit) → PH → Option β)} (hI : I.2.2.1 = RX1) (hfr : Nat.ble 5 I.2.2.2.2.2.1 = true) (hlo : Nat.ble 103 I.2.2.2.2.2.2.1 = true) (hW : (rest.map fun v => v.category).sum ≤ 8) (hd : decode I.1 pc = .ok (.invokespecial 46, 3)) (hf : cl_ (f_X2_init a p0 h) K = some o) (kk : ∀ (x : Unit) (h1 : PH), K x h1 = some o → PF Γ I D h0 Q h1 (pc + 3) vs (rest)) : PF Γ I D h0 Q h pc vs (va_rf p0 :: va_rf (some a) :: rest) := by
  obtain ⟨cc, nL, own, rt, xt, fr, lo, nm⟩ := I
  cases hI
  exact j_cIv (n := 1) (y := yX2_init) (cc2 := cX2_init) (As := [va_rf p0]) (lw_meth q655) q91 q653 q654 rfl hyS_X2_init hfr hlo rfl hW hd (c_X2_init a p0) ⟨_, rfl⟩ hf _ rfl kk
abbrev mi_X1_init : MI := (cX1_init, 1, RX1, none, [], 8, 211, "<init>")
def f_X1_init (a0 : Nat) (h0 : PH) : Option (Unit × PH) := nA h0 1 (400 : Int32) (.inl fun _ => 0) fun a1 h2 => pV h2 (some a0) 0 0 (va_rf (some a1)) fun h3 => nO h3 1 22 [.null, .null, .null, .null, .null, .null, .null, .null, .int 0, .int 0, .int 0, .int 0, .int 0, .int 0, .int 0, .int 0, .int 0, .int 0, .int 0, .int 0, .int 0, .int 0] fun a4 h5 => cl_ (f_X1_plain h5) fun r7 h6 => cl_ (f_X2_init a4 r7 h6) fun _u h8 => pV h8 (some a0) 0 3 (va_rf (some a4)) fun h9 => nA h9 6 (2 : Int32) aNul fun a10 h11 => pV h11 (some a0) 0 4 (va_rf (some a10)) fun h12 => some ((), h12)
theorem hyS_X1_init : yX1_init.cls ≠ "java/lang/invoke/MethodHandle" ∧ yX1_init.cls ≠ "java/lang/invoke/VarHandle" ∧ (parseMethodDescriptor yX1_init.desc).map (fun d => d.parameters.length) = some 0 := by decide +kernel
theorem c_X1_init {D : va_G} (a0 : Nat) {h0 : PH} (l : Launch) (hl : l.stackTraces = false) (x : Unit) (h1 : PH) (hf : f_X1_init a0 h0 = some (x, h1)) : CT l D yX1_init (ws_ yX1_init cX1_init 1 none) 8 211 [va_rf (some a0)] h0 (ovv x) h1 := by
  refine ct_of hl [some (va_rf (some a0))] (by decide) (Nat.le_of_ble_eq_true rfl) rfl (fun Γ => ?_)
  obtain ⟨o, ho⟩ : ∃ o : Unit × PH, o = (x, h1) := ⟨_, rfl⟩
  rw [← ho] at hf
  have e1 : x = o.1 := by rw [ho]
  have e2 : h1 = o.2 := by rw [ho]
  subst e1 e2
  clear ho
  show PF Γ mi_X1_init D h0 (QR Γ D h0 (ovv o.1) o.2) h0 0 [some (va_rf (some a0))] []
  unfold f_X1_init at hf
  refine j_aload_n 0 dX1_init_0 rfl rfl ?_
  refine j_objI q140 q141 q142 rfl rfl ⟨_, rfl⟩ (by decide) dX1_init_1 ?_
  refine j_aload_n 0 dX1_init_4 rfl rfl ?_
  refine j_sipush (400 : Int32) dX1_init_5 (by decide) ?_
  refine j_nA (t := 1) (atype := .byte) (ty := .byte) rfl (fun _ => rfl) (fun _ _ => rfl) (by decide) (fun _ _ h9 => h9) q168 dX1_init_8 hf (fun a1 h2 hf => ?_)
  refine j_pV (ci := 0) (k := 0) tyX1 tyX1_ok nmX1 rfl in_X1 rfl q873 (Or.inr ⟨rfl, rfl, rfl⟩) rfl (fit_a _ _) dX1_init_10 hf (fun h3 hf => ?_)
  refine j_aload_n 0 dX1_init_13 rfl rfl ?_
  refine j_nO (ci := 1) tyX2 tyX2_ok rfl in_X2 q143 q144 q91 (by decide) dX1_init_14 hf (fun a4 h5 hf => ?_)
  refine j_dup dX1_init_17 (va_rf_cat _) ?_
  refine kc_X1_42 rfl rfl rfl (by simp [va_rf_cat, cat_i, cat_l]) dX1_init_18 hf (fun r7 h6 hf => ?_)
  refine kc_X1_46 rfl rfl rfl (by simp [va_rf_cat, cat_i, cat_l]) dX1_init_21 hf (fun _u h8 hf => ?_)
  refine j_pV (ci := 0) (k := 3) tyX1 tyX1_ok nmX1 rfl in_X1 rfl q877 (Or.inl rfl) rfl (fit_o _ _) dX1_init_24 hf (fun h9 hf => ?_)
  refine j_aload_n 0 dX1_init_27 rfl rfl ?_
  refine j_iconst (2 : Int32) dX1_init_28 (by decide) ?_
  refine j_nQ (t := 6) rfl q143 q871 dX1_init_29 hf (fun a10 h11 hf => ?_)
  refine j_pV (ci := 0) (k := 4) tyX1 tyX1_ok nmX1 rfl in_X1 rfl q878 (Or.inr ⟨rfl, rfl, rfl⟩) rfl (fit_a _ _) dX1_init_32 hf (fun h12 hf => ?_)
  have e9 := Option.some.inj hf
  subst e9
  exact j_vret rfl dX1_init_35
theorem kc_X1_342 {Γ : GX} {I : MI} {D : va_G} {h0 : PH} {Q : State → Prop} {h : PH} {pc : Nat} {vs : List (Option Value)} {rest : List Value} {β : Type} {o : β} {r : Option Nat}  {K : ((Int32) → PH → Option β)} (hI : I.2.2.1 = RX1) (hfr : Nat.ble 4 I.2.2.2.2.2.1 = true) (hlo : Nat.ble 87 I.2.2.2.2.2.2.1 = true) (hW : (rest.map fun v => v.category).sum ≤ 8) (hd : decode I.1 pc = .ok (.invokevirtual 342, 3)) (hf : rv_ h r 1 (cl_ (f_X2_overtakingPairs r h) K) = some o) (kk : ∀ (x : Int32) (h1 : PH), K x h1 = some o → PF Γ I D h0 Q h1 (pc + 3) vs (.int x :: rest)) : PF Γ I D h0 Q h pc vs (va_rf r :: rest) := by
  obtain ⟨cc, nL, own, rt, xt, fr, lo, nm⟩ := I
  cases hI
  exact j_cVi (n := 0) (y := yX2_overtakingPairs) (cc2 := cX2_overtakingPairs) (As := []) (C := RX2) (ci := 1) rfl (lw_V q1670 q1671 q1672 q91 q1673) hyV_X2_overtakingPairs hfr hlo rfl hW hd (c_X2_overtakingPairs r) hf _ rfl kk
abbrev mi_X1_overtakingPairs : MI := (cX1_overtakingPairs, 1, RX1, (Option.some FieldType.int), [], 4, 87, "overtakingPairs")
def f_X1_overtakingPairs (r0 : Option Nat) (h0 : PH) : Option (Int32 × PH) := gR h0 r0 0 3 fun r1 => rv_ h0 r1 1 (cl_ (f_X2_overtakingPairs r1 h0) fun v3 h2 => some (v3, h2))
theorem hyS_X1_overtakingPairs : yX1_overtakingPairs.cls ≠ "java/lang/invoke/MethodHandle" ∧ yX1_overtakingPairs.cls ≠ "java/lang/invoke/VarHandle" ∧ (parseMethodDescriptor yX1_overtakingPairs.desc).map (fun d => d.parameters.length) = some 0 := by decide +kernel
theorem hyV_X1_overtakingPairs : yX1_overtakingPairs.cls = RX1 ∧ yX1_overtakingPairs.cls ≠ "java/lang/invoke/MethodHandle" ∧ yX1_overtakingPairs.cls ≠ "java/lang/invoke/VarHandle" ∧ (parseMethodDescriptor yX1_overtakingPairs.desc).map (fun d => d.parameters.length) = some 0 := by decide +kernel
theorem c_X1_overtakingPairs {D : va_G} (r0 : Option Nat) {h0 : PH} (l : Launch) (hl : l.stackTraces = false) (x : Int32) (h1 : PH) (hf : f_X1_overtakingPairs r0 h0 = some (x, h1)) : CT l D yX1_overtakingPairs (ws_ yX1_overtakingPairs cX1_overtakingPairs 1 (Option.some FieldType.int)) 4 87 [va_rf r0] h0 (ovi x) h1 := by
  refine ct_of hl [some (va_rf r0)] (by decide) (by rw [lgl]; simp [va_rf_cat, cat_i, cat_l]) (by simp [lv_args, vsL, va_rf_cat, cat_i, cat_l]) (fun Γ => ?_)
  obtain ⟨o, ho⟩ : ∃ o : Int32 × PH, o = (x, h1) := ⟨_, rfl⟩
  rw [← ho] at hf
  have e1 : x = o.1 := by rw [ho]
  have e2 : h1 = o.2 := by rw [ho]
  subst e1 e2
  clear ho
  show PF Γ mi_X1_overtakingPairs D h0 (QR Γ D h0 (ovi o.1) o.2) h0 0 [some (va_rf r0)] []
  unfold f_X1_overtakingPairs at hf
  refine j_aload_n 0 dX1_overtakingPairs_0 rfl rfl ?_
  refine j_gR (ci := 0) (k := 3) rfl in_X1 rfl q877 dX1_overtakingPairs_1 hf (fun r1 hf => ?_)
  refine kc_X1_342 rfl rfl rfl (by decide) dX1_overtakingPairs_4 hf (fun v3 h2 hf => ?_)
  have e9 := Option.some.inj hf
  subst e9
  exact j_iret rfl dX1_overtakingPairs_7
abbrev mi_X1_appendByte : MI := (cX1_appendByte, 2, RX1, (Option.some FieldType.int), [], 7, 109, "appendByte")
def f_X1_appendByte (r0 : Option Nat) (p0 : Int32) (h0 : PH) : Option (((Nat × Nat) ⊕ Int32) × PH) := cl_ (f_X1_in (p0.toInt64) (0 : Int64) (255 : Int64) h0) fun v2 h1 => cl_ (f_X1_check v2 h1) fun z9 h3 => match z9 with | .inl (ci9, q9) => (xo_ h3 ci9 q9) | .inr _u => (gI h3 r0 0 1 fun v4 => (if v4 = (400 : Int32) then (some (.inr (-5 : Int32), h3)) else (gR h3 r0 0 0 fun r5 => gI h3 r0 0 1 fun v6 => sI h3 r5 1 v6 (vp_nar .byte (p0.toInt8.toInt32)) fun h7 => gI h7 r0 0 1 fun v8 => pV h7 r0 0 1 (.int (v8 + (1 : Int32))) fun h9 => gI h9 r0 0 1 fun v10 => some (.inr v10, h9))))
theorem hyS_X1_appendByte : yX1_appendByte.cls ≠ "java/lang/invoke/MethodHandle" ∧ yX1_appendByte.cls ≠ "java/lang/invoke/VarHandle" ∧ (parseMethodDescriptor yX1_appendByte.desc).map (fun d => d.parameters.length) = some 1 := by decide +kernel
theorem hyV_X1_appendByte : yX1_appendByte.cls = RX1 ∧ yX1_appendByte.cls ≠ "java/lang/invoke/MethodHandle" ∧ yX1_appendByte.cls ≠ "java/lang/invoke/VarHandle" ∧ (parseMethodDescriptor yX1_appendByte.desc).map (fun d => d.parameters.length) = some 1 := by decide +kernel
theorem c_X1_appendByte {D : va_G} (r0 : Option Nat) (p0 : Int32) {h0 : PH} (l : Launch) (hl : l.stackTraces = false) (x : ((Nat × Nat) ⊕ Int32)) (h1 : PH) (hf : f_X1_appendByte r0 p0 h0 = some (x, h1)) : CT l D yX1_appendByte (ws_ yX1_appendByte cX1_appendByte 2 (Option.some FieldType.int)) 7 109 [va_rf r0, .int p0] h0 (oxi x) h1 := by
  refine ct_of hl [some (va_rf r0), some (.int p0)] (by decide) (by rw [lgl]; simp [va_rf_cat, cat_i, cat_l]) (by simp [lv_args, vsL, va_rf_cat, cat_i, cat_l]) (fun Γ => ?_)
  obtain ⟨o, ho⟩ : ∃ o : ((Nat × Nat) ⊕ Int32) × PH, o = (x, h1) := ⟨_, rfl⟩
  rw [← ho] at hf
  have e1 : x = o.1 := by rw [ho]
  have e2 : h1 = o.2 := by rw [ho]
  subst e1 e2
  clear ho
  show PF Γ mi_X1_appendByte D h0 (QR Γ D h0 (oxi o.1) o.2) h0 0 [some (va_rf r0), some (.int p0)] []
  unfold f_X1_appendByte at hf
  refine j_iload_n 1 dX1_appendByte_0 rfl rfl ?_
  refine j_i2l dX1_appendByte_1 ?_
  refine j_lconst (0 : Int64) dX1_appendByte_2 (by decide) ?_
  refine j_ldc2 q1694 dX1_appendByte_3 ?_
  refine kc_X1_64 rfl rfl rfl (by decide) dX1_appendByte_6 hf (fun v2 h1 hf => ?_)
  refine kc_X1_73 rfl rfl rfl (by decide) dX1_appendByte_9 hf (fun _u h3 hf => ?_) (fun ci9 q9 h3 fs9 he9 hf => ?_)
  · refine j_aload_n 0 dX1_appendByte_12 rfl rfl ?_
    refine j_gI (ci := 0) (k := 1) rfl in_X1 rfl q875 dX1_appendByte_13 hf (fun v4 hf => ?_)
    refine j_sipush (400 : Int32) dX1_appendByte_16 (by decide) ?_
    refine j_icmp_ne 25 dX1_appendByte_19 (by decide) hf (fun c_ hf => ?_) (fun c_ hf => ?_)
    · refine j_aload_n 0 dX1_appendByte_25 rfl rfl ?_
      refine j_gR (ci := 0) (k := 0) rfl in_X1 rfl q873 dX1_appendByte_26 hf (fun r5 hf => ?_)
      refine j_aload_n 0 dX1_appendByte_29 rfl rfl ?_
      refine j_gI (ci := 0) (k := 1) rfl in_X1 rfl q875 dX1_appendByte_30 hf (fun v6 hf => ?_)
      refine j_iload_n 1 dX1_appendByte_33 rfl rfl ?_
      refine j_i2b dX1_appendByte_34 ?_
      refine j_bast dX1_appendByte_35 hf (fun h7 hf => ?_)
      refine j_aload_n 0 dX1_appendByte_36 rfl rfl ?_
      refine j_dup dX1_appendByte_37 (va_rf_cat _) ?_
      refine j_gI (ci := 0) (k := 1) rfl in_X1 rfl q875 dX1_appendByte_38 hf (fun v8 hf => ?_)
      refine j_iconst (1 : Int32) dX1_appendByte_41 (by decide) ?_
      refine j_iadd dX1_appendByte_42 ?_
      refine j_pV (ci := 0) (k := 1) tyX1 tyX1_ok nmX1 rfl in_X1 rfl q875 (Or.inl rfl) rfl (fit_i _) dX1_appendByte_43 hf (fun h9 hf => ?_)
      refine j_aload_n 0 dX1_appendByte_46 rfl rfl ?_
      refine j_gI (ci := 0) (k := 1) rfl in_X1 rfl q875 dX1_appendByte_47 hf (fun v10 hf => ?_)
      have e9 := Option.some.inj hf
      subst e9
      exact j_iret rfl dX1_appendByte_50
    · refine j_bipush (-5 : Int32) dX1_appendByte_22 (by decide) ?_
      have e9 := Option.some.inj hf
      subst e9
      exact j_iret rfl dX1_appendByte_24
  · obtain ⟨hb9, hf⟩ := xo_in hf
    subst hf
    exact j_out (by decide) hb9 he9
abbrev mi_X1_nodeClock : MI := (cX1_nodeClock, 2, RX1, (Option.some FieldType.int), [], 7, 110, "nodeClock")
def f_X1_nodeClock (r0 : Option Nat) (p0 : Int32) (h0 : PH) : Option (((Nat × Nat) ⊕ Int32) × PH) := rv_ h0 r0 0 (cl_ (f_X1_node r0 p0 h0) fun z9 h1 => match z9 with | .inl (ci9, q9) => (xo_ h1 ci9 q9) | .inr r2 => (gRN h1 r2 5 0 fun r3 => gR h1 r0 0 3 fun r4 => gIN h1 r4 1 8 fun v5 => rv_ h1 r3 3 (cl_ (f_X4_at r3 v5 h1) fun v7 h6 => some (.inr v7, h6))))
theorem hyS_X1_nodeClock : yX1_nodeClock.cls ≠ "java/lang/invoke/MethodHandle" ∧ yX1_nodeClock.cls ≠ "java/lang/invoke/VarHandle" ∧ (parseMethodDescriptor yX1_nodeClock.desc).map (fun d => d.parameters.length) = some 1 := by decide +kernel
theorem hyV_X1_nodeClock : yX1_nodeClock.cls = RX1 ∧ yX1_nodeClock.cls ≠ "java/lang/invoke/MethodHandle" ∧ yX1_nodeClock.cls ≠ "java/lang/invoke/VarHandle" ∧ (parseMethodDescriptor yX1_nodeClock.desc).map (fun d => d.parameters.length) = some 1 := by decide +kernel
theorem c_X1_nodeClock {D : va_G} (r0 : Option Nat) (p0 : Int32) {h0 : PH} (l : Launch) (hl : l.stackTraces = false) (x : ((Nat × Nat) ⊕ Int32)) (h1 : PH) (hf : f_X1_nodeClock r0 p0 h0 = some (x, h1)) : CT l D yX1_nodeClock (ws_ yX1_nodeClock cX1_nodeClock 2 (Option.some FieldType.int)) 7 110 [va_rf r0, .int p0] h0 (oxi x) h1 := by
  refine ct_of hl [some (va_rf r0), some (.int p0)] (by decide) (by rw [lgl]; simp [va_rf_cat, cat_i, cat_l]) (by simp [lv_args, vsL, va_rf_cat, cat_i, cat_l]) (fun Γ => ?_)
  obtain ⟨o, ho⟩ : ∃ o : ((Nat × Nat) ⊕ Int32) × PH, o = (x, h1) := ⟨_, rfl⟩
  rw [← ho] at hf
  have e1 : x = o.1 := by rw [ho]
  have e2 : h1 = o.2 := by rw [ho]
  subst e1 e2
  clear ho
  show PF Γ mi_X1_nodeClock D h0 (QR Γ D h0 (oxi o.1) o.2) h0 0 [some (va_rf r0), some (.int p0)] []
  unfold f_X1_nodeClock at hf
  refine j_aload_n 0 dX1_nodeClock_0 rfl rfl ?_
  refine j_iload_n 1 dX1_nodeClock_1 rfl rfl ?_
  refine kc_X1_117 rfl rfl rfl (by decide) dX1_nodeClock_2 hf (fun r2 h1 hf => ?_) (fun ci9 q9 h1 fs9 he9 hf => ?_)
  · refine j_gRN (ci := 5) (k := 0) rfl in_X6 rfl q723 dX1_nodeClock_5 hf (fun r3 hf => ?_)
    refine j_aload_n 0 dX1_nodeClock_8 rfl rfl ?_
    refine j_gR (ci := 0) (k := 3) rfl in_X1 rfl q877 dX1_nodeClock_9 hf (fun r4 hf => ?_)
    refine j_gIN (ci := 1) (k := 8) rfl in_X2 rfl q803 dX1_nodeClock_12 hf (fun v5 hf => ?_)
    refine kc_X1_127 rfl rfl rfl (by decide) dX1_nodeClock_15 hf (fun v7 h6 hf => ?_)
    have e9 := Option.some.inj hf
    subst e9
    exact j_iret rfl dX1_nodeClock_18
  · obtain ⟨hb9, hf⟩ := xo_in hf
    subst hf
    exact j_out (by decide) hb9 he9
theorem kc_X1_149 {Γ : GX} {I : MI} {D : va_G} {h0 : PH} {Q : State → Prop} {h : PH} {pc : Nat} {vs : List (Option Value)} {rest : List Value} {β : Type} {o : β} {r : Option Nat} {p0 : Int32} {K : ((Unit) → PH → Option β)} (hI : I.2.2.1 = RX1) (hfr : Nat.ble 9 I.2.2.2.2.2.1 = true) (hlo : Nat.ble 239 I.2.2.2.2.2.2.1 = true) (hW : (rest.map fun v => v.category).sum ≤ 8) (hd : decode I.1 pc = .ok (.invokevirtual 149, 3)) (hf : rv_ h r 1 (cl_ (f_X2_acquire r p0 h) K) = some o) (kk : ∀ (x : Unit) (h1 : PH), K x h1 = some o → PF Γ I D h0 Q h1 (pc + 3) vs (rest)) : PF Γ I D h0 Q h pc vs (.int p0 :: va_rf r :: rest) := by
  obtain ⟨cc, nL, own, rt, xt, fr, lo, nm⟩ := I
  cases hI
  exact j_cVv (n := 1) (y := yX2_acquire) (cc2 := cX2_acquire) (As := [.int p0]) (C := RX2) (ci := 1) rfl (lw_V q1776 q1568 q1569 q91 q1570) hyV_X2_acquire hfr hlo rfl hW hd (c_X2_acquire r p0) hf _ rfl kk
abbrev mi_X1_campaign : MI := (cX1_campaign, 3, RX1, (Option.some FieldType.int), [], 9, 239, "campaign")
def f_X1_campaign (r0 : Option Nat) (p0 : Int32) (h0 : PH) : Option (((Nat × Nat) ⊕ Int32) × PH) := rv_ h0 r0 0 (cl_ (f_X1_node r0 p0 h0) fun z9 h1 => match z9 with | .inl (ci9, q9) => (xo_ h1 ci9 q9) | .inr r2 => (rv_ h1 r0 0 (cl_ (f_X1_unable r0 r2 h1) fun v4 h3 => (if 0 ≤ v4 then (gIN h3 r2 5 3 fun v5 => (if v5 = 0 then (pZ h3 r2 5 3 (1 : Int32) fun h6 => gR h6 r0 0 3 fun r7 => rv_ h6 r7 1 (cl_ (f_X2_acquire r7 p0 h6) fun _u h8 => some (.inr (1 : Int32), h8))) else (some (.inr (0 : Int32), h3)))) else (rv_ h3 r0 0 (cl_ (f_X1_unable r0 r2 h3) fun v10 h9 => some (.inr v10, h9)))))))
theorem hyS_X1_campaign : yX1_campaign.cls ≠ "java/lang/invoke/MethodHandle" ∧ yX1_campaign.cls ≠ "java/lang/invoke/VarHandle" ∧ (parseMethodDescriptor yX1_campaign.desc).map (fun d => d.parameters.length) = some 1 := by decide +kernel
theorem hyV_X1_campaign : yX1_campaign.cls = RX1 ∧ yX1_campaign.cls ≠ "java/lang/invoke/MethodHandle" ∧ yX1_campaign.cls ≠ "java/lang/invoke/VarHandle" ∧ (parseMethodDescriptor yX1_campaign.desc).map (fun d => d.parameters.length) = some 1 := by decide +kernel
theorem c_X1_campaign {D : va_G} (r0 : Option Nat) (p0 : Int32) {h0 : PH} (l : Launch) (hl : l.stackTraces = false) (x : ((Nat × Nat) ⊕ Int32)) (h1 : PH) (hf : f_X1_campaign r0 p0 h0 = some (x, h1)) : CT l D yX1_campaign (ws_ yX1_campaign cX1_campaign 3 (Option.some FieldType.int)) 9 239 [va_rf r0, .int p0] h0 (oxi x) h1 := by
  refine ct_of hl [some (va_rf r0), some (.int p0), none] (by decide) (by rw [lgl]; simp [va_rf_cat, cat_i, cat_l]) (by simp [lv_args, vsL, va_rf_cat, cat_i, cat_l]) (fun Γ => ?_)
  obtain ⟨o, ho⟩ : ∃ o : ((Nat × Nat) ⊕ Int32) × PH, o = (x, h1) := ⟨_, rfl⟩
  rw [← ho] at hf
  have e1 : x = o.1 := by rw [ho]
  have e2 : h1 = o.2 := by rw [ho]
  subst e1 e2
  clear ho
  show PF Γ mi_X1_campaign D h0 (QR Γ D h0 (oxi o.1) o.2) h0 0 [some (va_rf r0), some (.int p0), none] []
  unfold f_X1_campaign at hf
  refine j_aload_n 0 dX1_campaign_0 rfl rfl ?_
  refine j_iload_n 1 dX1_campaign_1 rfl rfl ?_
  refine kc_X1_117 rfl rfl rfl (by decide) dX1_campaign_2 hf (fun r2 h1 hf => ?_) (fun ci9 q9 h1 fs9 he9 hf => ?_)
  · refine j_astore_n 2 [some (va_rf r0), some (.int p0), some (va_rf r2)] dX1_campaign_5 rfl (cz rfl) rfl rfl ?_
    refine j_aload_n 0 dX1_campaign_6 rfl rfl ?_
    refine j_aload_n 2 dX1_campaign_7 rfl rfl ?_
    refine kc_X1_142 rfl rfl rfl (by decide) dX1_campaign_8 hf (fun v4 h3 hf => ?_)
    refine j_if_ge 20 dX1_campaign_11 (by decide) hf (fun c_ hf => ?_) (fun c_ hf => ?_)
    · refine j_aload_n 2 dX1_campaign_20 rfl rfl ?_
      refine j_gIN (ci := 5) (k := 3) rfl in_X6 rfl q731 dX1_campaign_21 hf (fun v5 hf => ?_)
      refine j_if_eq 29 dX1_campaign_24 (by decide) hf (fun c_ hf => ?_) (fun c_ hf => ?_)
      · refine j_aload_n 2 dX1_campaign_29 rfl rfl ?_
        refine j_iconst (1 : Int32) dX1_campaign_30 (by decide) ?_
        obtain ⟨hz9, hf⟩ := pZ_in hf
        refine j_pVN (ci := 5) (k := 3) tyX6 tyX6_ok nmX6 rfl in_X6 rfl q731 rfl rfl (fit_z _ hz9) dX1_campaign_31 hf (fun h6 hf => ?_)
        refine j_aload_n 0 dX1_campaign_34 rfl rfl ?_
        refine j_gR (ci := 0) (k := 3) rfl in_X1 rfl q877 dX1_campaign_35 hf (fun r7 hf => ?_)
        refine j_iload_n 1 dX1_campaign_38 rfl rfl ?_
        refine kc_X1_149 rfl rfl rfl (by decide) dX1_campaign_39 hf (fun _u h8 hf => ?_)
        refine j_iconst (1 : Int32) dX1_campaign_42 (by decide) ?_
        have e9 := Option.some.inj hf
        subst e9
        exact j_iret rfl dX1_campaign_43
      · refine j_iconst (0 : Int32) dX1_campaign_27 (by decide) ?_
        have e9 := Option.some.inj hf
        subst e9
        exact j_iret rfl dX1_campaign_28
    · refine j_aload_n 0 dX1_campaign_14 rfl rfl ?_
      refine j_aload_n 2 dX1_campaign_15 rfl rfl ?_
      refine kc_X1_142 rfl rfl rfl (by decide) dX1_campaign_16 hf (fun v10 h9 hf => ?_)
      have e9 := Option.some.inj hf
      subst e9
      exact j_iret rfl dX1_campaign_19
  · obtain ⟨hb9, hf⟩ := xo_in hf
    subst hf
    exact j_out (by decide) hb9 he9
abbrev mi_X1_write : MI := (cX1_write, 5, RX1, (Option.some FieldType.int), [], 8, 216, "write")
def f_X1_write (r0 : Option Nat) (p0 : Int32) (p1 : Int32) (p2 : Int32) (h0 : PH) : Option (((Nat × Nat) ⊕ Int32) × PH) := rv_ h0 r0 0 (cl_ (f_X1_node r0 p0 h0) fun z9 h1 => match z9 with | .inl (ci9, q9) => (xo_ h1 ci9 q9) | .inr r2 => (cl_ (f_X1_checkRegister p1 h1) fun z9 h3 => match z9 with | .inl (ci9, q9) => (xo_ h3 ci9 q9) | .inr _u => (cl_ (f_X1_in (p2.toInt64) (0 : Int64) (999999 : Int64) h3) fun v5 h4 => cl_ (f_X1_check v5 h4) fun z9 h6 => match z9 with | .inl (ci9, q9) => (xo_ h6 ci9 q9) | .inr _u => (rv_ h6 r0 0 (cl_ (f_X1_unfit r0 r2 h6) fun v8 h7 => (if 0 ≤ v8 then (gR h7 r0 0 3 fun r9 => asR (some (h7.2.1.1 4)) fun r10 => nA h7 0 (3 : Int32) (.inl fun _ => 0) fun a11 h12 => gIN h12 r2 5 6 fun v13 => sI h12 (some a11) 0 (0 : Int32) v13 fun h14 => sI h14 (some a11) 0 (1 : Int32) p1 fun h15 => sI h15 (some a11) 0 (2 : Int32) p2 fun h16 => rv_ h16 r9 1 (cl_ (f_X2_send r9 r10 p0 (some a11) h16) fun _u h17 => gIN h17 r2 5 6 fun v18 => some (.inr v18, h17))) else (rv_ h7 r0 0 (cl_ (f_X1_unfit r0 r2 h7) fun v20 h19 => some (.inr v20, h19)))))))))
theorem hyS_X1_write : yX1_write.cls ≠ "java/lang/invoke/MethodHandle" ∧ yX1_write.cls ≠ "java/lang/invoke/VarHandle" ∧ (parseMethodDescriptor yX1_write.desc).map (fun d => d.parameters.length) = some 3 := by decide +kernel
theorem hyV_X1_write : yX1_write.cls = RX1 ∧ yX1_write.cls ≠ "java/lang/invoke/MethodHandle" ∧ yX1_write.cls ≠ "java/lang/invoke/VarHandle" ∧ (parseMethodDescriptor yX1_write.desc).map (fun d => d.parameters.length) = some 3 := by decide +kernel
theorem c_X1_write {D : va_G} (r0 : Option Nat) (p0 : Int32) (p1 : Int32) (p2 : Int32) {h0 : PH} (l : Launch) (hl : l.stackTraces = false) (x : ((Nat × Nat) ⊕ Int32)) (h1 : PH) (hf : f_X1_write r0 p0 p1 p2 h0 = some (x, h1)) : CT l D yX1_write (ws_ yX1_write cX1_write 5 (Option.some FieldType.int)) 8 216 [va_rf r0, .int p0, .int p1, .int p2] h0 (oxi x) h1 := by
  refine ct_of hl [some (va_rf r0), some (.int p0), some (.int p1), some (.int p2), none] (by decide) (by rw [lgl]; simp [va_rf_cat, cat_i, cat_l]) (by simp [lv_args, vsL, va_rf_cat, cat_i, cat_l]) (fun Γ => ?_)
  obtain ⟨o, ho⟩ : ∃ o : ((Nat × Nat) ⊕ Int32) × PH, o = (x, h1) := ⟨_, rfl⟩
  rw [← ho] at hf
  have e1 : x = o.1 := by rw [ho]
  have e2 : h1 = o.2 := by rw [ho]
  subst e1 e2
  clear ho
  show PF Γ mi_X1_write D h0 (QR Γ D h0 (oxi o.1) o.2) h0 0 [some (va_rf r0), some (.int p0), some (.int p1), some (.int p2), none] []
  unfold f_X1_write at hf
  refine j_aload_n 0 dX1_write_0 rfl rfl ?_
  refine j_iload_n 1 dX1_write_1 rfl rfl ?_
  refine kc_X1_117 rfl rfl rfl (by decide) dX1_write_2 hf (fun r2 h1 hf => ?_) (fun ci9 q9 h1 fs9 he9 hf => ?_)
  · refine j_astore [some (va_rf r0), some (.int p0), some (.int p1), some (.int p2), some (va_rf r2)] dX1_write_5 (cz rfl) rfl rfl ?_
    refine j_iload_n 2 dX1_write_7 rfl rfl ?_
    refine kc_X1_205 rfl rfl rfl (by decide) dX1_write_8 hf (fun _u h3 hf => ?_) (fun ci9 q9 h3 fs9 he9 hf => ?_)
    · refine j_iload_n 3 dX1_write_11 rfl rfl ?_
      refine j_i2l dX1_write_12 ?_
      refine j_lconst (0 : Int64) dX1_write_13 (by decide) ?_
      refine j_ldc2 q1854 dX1_write_14 ?_
      refine kc_X1_64 rfl rfl rfl (by decide) dX1_write_17 hf (fun v5 h4 hf => ?_)
      refine kc_X1_73 rfl rfl rfl (by decide) dX1_write_20 hf (fun _u h6 hf => ?_) (fun ci9 q9 h6 fs9 he9 hf => ?_)
      · refine j_aload_n 0 dX1_write_23 rfl rfl ?_
        refine j_aload dX1_write_24 rfl ?_
        refine kc_X1_210 rfl rfl rfl (by decide) dX1_write_26 hf (fun v8 h7 hf => ?_)
        refine j_if_ge 39 dX1_write_29 (by decide) hf (fun c_ hf => ?_) (fun c_ hf => ?_)
        · refine j_aload_n 0 dX1_write_39 rfl rfl ?_
          refine j_gR (ci := 0) (k := 3) rfl in_X1 rfl q877 dX1_write_40 hf (fun r9 hf => ?_)
          refine j_gsR (i := 4) rfl q1860 dX1_write_43 hf (fun r10 hf => ?_)
          refine j_iload_n 1 dX1_write_46 rfl rfl ?_
          refine j_iconst (3 : Int32) dX1_write_47 (by decide) ?_
          refine j_nA (t := 0) (atype := .int) (ty := .int) rfl (fun _ => rfl) (fun _ _ => rfl) (by decide) (fun _ _ h9 => h9) q679 dX1_write_48 hf (fun a11 h12 hf => ?_)
          refine j_dup dX1_write_50 (va_rf_cat _) ?_
          refine j_iconst (0 : Int32) dX1_write_51 (by decide) ?_
          refine j_aload dX1_write_52 rfl ?_
          refine j_gIN (ci := 5) (k := 6) rfl in_X6 rfl q740 dX1_write_54 hf (fun v13 hf => ?_)
          refine j_iast dX1_write_57 hf (fun h14 hf => ?_)
          refine j_dup dX1_write_58 (va_rf_cat _) ?_
          refine j_iconst (1 : Int32) dX1_write_59 (by decide) ?_
          refine j_iload_n 2 dX1_write_60 rfl rfl ?_
          refine j_iast dX1_write_61 hf (fun h15 hf => ?_)
          refine j_dup dX1_write_62 (va_rf_cat _) ?_
          refine j_iconst (2 : Int32) dX1_write_63 (by decide) ?_
          refine j_iload_n 3 dX1_write_64 rfl rfl ?_
          refine j_iast dX1_write_65 hf (fun h16 hf => ?_)
          refine kc_X1_164 rfl rfl rfl (by decide) dX1_write_66 hf (fun _u h17 hf => ?_)
          refine j_aload dX1_write_69 rfl ?_
          refine j_gIN (ci := 5) (k := 6) rfl in_X6 rfl q740 dX1_write_71 hf (fun v18 hf => ?_)
          have e9 := Option.some.inj hf
          subst e9
          exact j_iret rfl dX1_write_74
        · refine j_aload_n 0 dX1_write_32 rfl rfl ?_
          refine j_aload dX1_write_33 rfl ?_
          refine kc_X1_210 rfl rfl rfl (by decide) dX1_write_35 hf (fun v20 h19 hf => ?_)
          have e9 := Option.some.inj hf
          subst e9
          exact j_iret rfl dX1_write_38
      · obtain ⟨hb9, hf⟩ := xo_in hf
        subst hf
        exact j_out (by decide) hb9 he9
    · obtain ⟨hb9, hf⟩ := xo_in hf
      subst hf
      exact j_out (by decide) hb9 he9
  · obtain ⟨hb9, hf⟩ := xo_in hf
    subst hf
    exact j_out (by decide) hb9 he9
abbrev mi_X1_logTime : MI := (cX1_logTime, 2, RX1, (Option.some FieldType.int), [], 7, 110, "logTime")
def f_X1_logTime (r0 : Option Nat) (p0 : Int32) (h0 : PH) : Option (((Nat × Nat) ⊕ Int32) × PH) := rv_ h0 r0 0 (cl_ (f_X1_event r0 p0 h0) fun z9 h1 => match z9 with | .inl (ci9, q9) => (xo_ h1 ci9 q9) | .inr r2 => (gIN h1 r2 14 0 fun v3 => some (.inr v3, h1)))
theorem hyS_X1_logTime : yX1_logTime.cls ≠ "java/lang/invoke/MethodHandle" ∧ yX1_logTime.cls ≠ "java/lang/invoke/VarHandle" ∧ (parseMethodDescriptor yX1_logTime.desc).map (fun d => d.parameters.length) = some 1 := by decide +kernel
theorem hyV_X1_logTime : yX1_logTime.cls = RX1 ∧ yX1_logTime.cls ≠ "java/lang/invoke/MethodHandle" ∧ yX1_logTime.cls ≠ "java/lang/invoke/VarHandle" ∧ (parseMethodDescriptor yX1_logTime.desc).map (fun d => d.parameters.length) = some 1 := by decide +kernel
theorem c_X1_logTime {D : va_G} (r0 : Option Nat) (p0 : Int32) {h0 : PH} (l : Launch) (hl : l.stackTraces = false) (x : ((Nat × Nat) ⊕ Int32)) (h1 : PH) (hf : f_X1_logTime r0 p0 h0 = some (x, h1)) : CT l D yX1_logTime (ws_ yX1_logTime cX1_logTime 2 (Option.some FieldType.int)) 7 110 [va_rf r0, .int p0] h0 (oxi x) h1 := by
  refine ct_of hl [some (va_rf r0), some (.int p0)] (by decide) (by rw [lgl]; simp [va_rf_cat, cat_i, cat_l]) (by simp [lv_args, vsL, va_rf_cat, cat_i, cat_l]) (fun Γ => ?_)
  obtain ⟨o, ho⟩ : ∃ o : ((Nat × Nat) ⊕ Int32) × PH, o = (x, h1) := ⟨_, rfl⟩
  rw [← ho] at hf
  have e1 : x = o.1 := by rw [ho]
  have e2 : h1 = o.2 := by rw [ho]
  subst e1 e2
  clear ho
  show PF Γ mi_X1_logTime D h0 (QR Γ D h0 (oxi o.1) o.2) h0 0 [some (va_rf r0), some (.int p0)] []
  unfold f_X1_logTime at hf
  refine j_aload_n 0 dX1_logTime_0 rfl rfl ?_
  refine j_iload_n 1 dX1_logTime_1 rfl rfl ?_
  refine kc_X1_302 rfl rfl rfl (by decide) dX1_logTime_2 hf (fun r2 h1 hf => ?_) (fun ci9 q9 h1 fs9 he9 hf => ?_)
  · refine j_gIN (ci := 14) (k := 0) rfl in_X17 rfl q1436 dX1_logTime_5 hf (fun v3 hf => ?_)
    have e9 := Option.some.inj hf
    subst e9
    exact j_iret rfl dX1_logTime_8
  · obtain ⟨hb9, hf⟩ := xo_in hf
    subst hf
    exact j_out (by decide) hb9 he9
theorem kc_X2_248 {Γ : GX} {I : MI} {D : va_G} {h0 : PH} {Q : State → Prop} {h : PH} {pc : Nat} {vs : List (Option Value)} {rest : List Value} {β : Type} {o : β} {r : Option Nat} {p0 : Option Nat} {K : ((Unit) → PH → Option β)} (hI : I.2.2.1 = RX2) (hfr : Nat.ble 9 I.2.2.2.2.2.1 = true) (hlo : Nat.ble 239 I.2.2.2.2.2.2.1 = true) (hW : (rest.map fun v => v.category).sum ≤ 8) (hd : decode I.1 pc = .ok (.invokevirtual 248, 3)) (hf : rv_ h r 1 (cl_ (f_X2_decide r p0 h) K) = some o) (kk : ∀ (x : Unit) (h1 : PH), K x h1 = some o → PF Γ I D h0 Q h1 (pc + 3) vs (rest)) : PF Γ I D h0 Q h pc vs (va_rf p0 :: va_rf r :: rest) := by
  obtain ⟨cc, nL, own, rt, xt, fr, lo, nm⟩ := I
  cases hI
  exact j_cVv (n := 1) (y := yX2_decide) (cc2 := cX2_decide) (As := [va_rf p0]) (C := RX2) (ci := 1) rfl (lw_V q1413 q1415 qs20 q91 q1416) hyV_X2_decide hfr hlo rfl hW hd (c_X2_decide r p0) hf _ rfl kk
theorem kc_X2_261 {Γ : GX} {I : MI} {D : va_G} {h0 : PH} {Q : State → Prop} {h : PH} {pc : Nat} {vs : List (Option Value)} {rest : List Value} {β : Type} {o : β} {r : Option Nat} {p0 : Option Nat} {p1 : Option Nat} {K : ((Unit) → PH → Option β)} (hI : I.2.2.1 = RX2) (hfr : Nat.ble 10 I.2.2.2.2.2.1 = true) (hlo : Nat.ble 262 I.2.2.2.2.2.2.1 = true) (hW : (rest.map fun v => v.category).sum ≤ 8) (hd : decode I.1 pc = .ok (.invokevirtual 261, 3)) (hf : rv_ h r 1 (cl_ (f_X2_atNode r p0 p1 h) K) = some o) (kk : ∀ (x : Unit) (h1 : PH), K x h1 = some o → PF Γ I D h0 Q h1 (pc + 3) vs (rest)) : PF Γ I D h0 Q h pc vs (va_rf p1 :: va_rf p0 :: va_rf r :: rest) := by
  obtain ⟨cc, nL, own, rt, xt, fr, lo, nm⟩ := I
  cases hI
  exact j_cVv (n := 2) (y := yX2_atNode) (cc2 := cX2_atNode) (As := [va_rf p0, va_rf p1]) (C := RX2) (ci := 1) rfl (lw_V q1536 q1538 qs25 q91 q1539) hyV_X2_atNode hfr hlo rfl hW hd (c_X2_atNode r p0 p1) hf _ rfl kk
theorem kc_X2_258 {Γ : GX} {I : MI} {D : va_G} {h0 : PH} {Q : State → Prop} {h : PH} {pc : Nat} {vs : List (Option Value)} {rest : List Value} {β : Type} {o : β} {r : Option Nat} {p0 : Option Nat} {K : ((Unit) → PH → Option β)} (hI : I.2.2.1 = RX2) (hfr : Nat.ble 10 I.2.2.2.2.2.1 = true) (hlo : Nat.ble 260 I.2.2.2.2.2.2.1 = true) (hW : (rest.map fun v => v.category).sum ≤ 8) (hd : decode I.1 pc = .ok (.invokevirtual 258, 3)) (hf : rv_ h r 1 (cl_ (f_X2_atStorage r p0 h) K) = some o) (kk : ∀ (x : Unit) (h1 : PH), K x h1 = some o → PF Γ I D h0 Q h1 (pc + 3) vs (rest)) : PF Γ I D h0 Q h pc vs (va_rf p0 :: va_rf r :: rest) := by
  obtain ⟨cc, nL, own, rt, xt, fr, lo, nm⟩ := I
  cases hI
  exact j_cVWv (n := 1) (y := yX2_atStorage) (cc2 := cX2_atStorage) (As := [va_rf p0]) (C := RX2) (ci := 1) rfl (lw_VW q1466 q1468 qs22 q91 q1469) hyV_X2_atStorage hfr hlo rfl hW hd (c_X2_atStorage r p0) hf _ rfl kk
abbrev mi_X2_handle : MI := (cX2_handle, 2, RX2, none, [], 10, 262, "handle")
def f_X2_handle_B117  (h : PH) : Option (Unit × PH) := some ((), h)
theorem pf_X2_handle_B117 {Γ : GX} {D : va_G} {h0 : PH} {o : Unit × PH}  (h : PH) (hf : f_X2_handle_B117  h = some o) : PF Γ mi_X2_handle D h0 (QR Γ D h0 (ovv o.1) o.2) h 117 [none, none] [] := by
  have e9 := Option.some.inj hf
  subst e9
  exact j_vret rfl dX2_handle_117
def f_X2_handle_B86 (x0 : Option Nat) (h : PH) : Option (Unit × PH) := pV h x0 1 12 (.int (-4 : Int32)) fun h25 => f_X2_handle_B117 h25
theorem pf_X2_handle_B86 {Γ : GX} {D : va_G} {h0 : PH} {o : Unit × PH} (x0 : Option Nat) (h : PH) (hf : f_X2_handle_B86 x0 h = some o) : PF Γ mi_X2_handle D h0 (QR Γ D h0 (ovv o.1) o.2) h 86 [some (va_rf x0), none] [] := by
  refine j_aload_n 0 dX2_handle_86 rfl rfl ?_
  refine j_bipush (-4 : Int32) dX2_handle_87 (by decide) ?_
  refine j_pV (ci := 1) (k := 12) tyX2 tyX2_ok nmX2 rfl in_X2 rfl q808 (Or.inl rfl) rfl (fit_i _) dX2_handle_89 hf (fun h25 hf => ?_)
  refine j_goto 117 dX2_handle_92 (by decide) ?_
  refine j_weak [none, none] (Wk.s (Wk.k Wk.n)) ?_
  exact pf_X2_handle_B117  h25 hf
def f_X2_handle (r0 : Option Nat) (p0 : Option Nat) (h0 : PH) : Option (Unit × PH) := gRN h0 p0 13 0 fun r1 => rv_ h0 r1 25 (cl_ (f_J19_ordinal_X15 r1 h0) fun v3 h2 => (if v3 = (0 : Int32) then (rv_ h2 r0 1 (cl_ (f_X2_decide r0 p0 h2) fun _u h4 => f_X2_handle_B117 h4)) else (if v3 = (1 : Int32) then (gR h2 r0 1 1 fun r5 => gIN h2 p0 13 1 fun v6 => aQ h2 r5 5 v6 fun r7 => rv_ h2 r0 1 (cl_ (f_X2_atNode r0 p0 r7 h2) fun _u h8 => f_X2_handle_B117 h8)) else (if v3 = (2 : Int32) then (gR h2 r0 1 1 fun r9 => gIN h2 p0 13 1 fun v10 => aQ h2 r9 5 v10 fun r11 => rv_ h2 r0 1 (cl_ (f_X2_atNode r0 p0 r11 h2) fun _u h12 => f_X2_handle_B117 h12)) else (if v3 = (3 : Int32) then (gIN h2 p0 13 3 fun v13 => gI h2 r0 1 14 fun v14 => (if v13 = v14 then (gI h2 r0 1 12 fun v15 => (if v15 = (-4 : Int32) then (f_X2_handle_B86 r0 h2) else (gIN h2 p0 13 1 fun v16 => gIN h2 p0 13 3 fun v17 => rv_ h2 r0 1 (cl_ (f_X2_note r0 (4 : Int32) v16 v17 h2) fun _u h18 => f_X2_handle_B86 r0 h18)))) else (some ((), h2)))) else (if v3 = (4 : Int32) then (rv_ h2 r0 1 (cl_ (f_X2_atStorage r0 p0 h2) fun _u h19 => f_X2_handle_B117 h19)) else (if v3 = (5 : Int32) then (rv_ h2 r0 1 (cl_ (f_X2_atStorage r0 p0 h2) fun _u h20 => f_X2_handle_B117 h20)) else gR h2 r0 1 1 fun r21 => gIN h2 p0 13 1 fun v22 => aQ h2 r21 5 v22 fun r23 => rv_ h2 r0 1 (cl_ (f_X2_atNode r0 p0 r23 h2) fun _u h24 => f_X2_handle_B117 h24))))))))
theorem hyS_X2_handle : yX2_handle.cls ≠ "java/lang/invoke/MethodHandle" ∧ yX2_handle.cls ≠ "java/lang/invoke/VarHandle" ∧ (parseMethodDescriptor yX2_handle.desc).map (fun d => d.parameters.length) = some 1 := by decide +kernel
theorem hyV_X2_handle : yX2_handle.cls = RX2 ∧ yX2_handle.cls ≠ "java/lang/invoke/MethodHandle" ∧ yX2_handle.cls ≠ "java/lang/invoke/VarHandle" ∧ (parseMethodDescriptor yX2_handle.desc).map (fun d => d.parameters.length) = some 1 := by decide +kernel
theorem c_X2_handle {D : va_G} (r0 : Option Nat) (p0 : Option Nat) {h0 : PH} (l : Launch) (hl : l.stackTraces = false) (x : Unit) (h1 : PH) (hf : f_X2_handle r0 p0 h0 = some (x, h1)) : CT l D yX2_handle (ws_ yX2_handle cX2_handle 2 none) 10 262 [va_rf r0, va_rf p0] h0 (ovv x) h1 := by
  refine ct_of hl [some (va_rf r0), some (va_rf p0)] (by decide) (by rw [lgl]; simp [va_rf_cat, cat_i, cat_l]) (by simp [lv_args, vsL, va_rf_cat, cat_i, cat_l]) (fun Γ => ?_)
  obtain ⟨o, ho⟩ : ∃ o : Unit × PH, o = (x, h1) := ⟨_, rfl⟩
  rw [← ho] at hf
  have e1 : x = o.1 := by rw [ho]
  have e2 : h1 = o.2 := by rw [ho]
  subst e1 e2
  clear ho
  show PF Γ mi_X2_handle D h0 (QR Γ D h0 (ovv o.1) o.2) h0 0 [some (va_rf r0), some (va_rf p0)] []
  unfold f_X2_handle at hf
  refine j_aload_n 1 dX2_handle_0 rfl rfl ?_
  refine j_gRN (ci := 13) (k := 0) rfl in_X16 rfl q1378 dX2_handle_1 hf (fun r1 hf => ?_)
  refine kc_X2_245_X15 rfl rfl rfl (by decide) dX2_handle_4 hf (fun v3 h2 hf => ?_)
  refine j_case (0 : Int32) hf (fun hf => ?_) (fun c0 hf => ?_)
  · refine j_tableIn 44 dX2_handle_7 (by decide) (by decide) rfl (by decide) ?_
    refine j_aload_n 0 dX2_handle_44 rfl rfl ?_
    refine j_aload_n 1 dX2_handle_45 rfl rfl ?_
    refine kc_X2_248 rfl rfl rfl (by decide) dX2_handle_46 hf (fun _u h4 hf => ?_)
    refine j_goto 117 dX2_handle_49 (by decide) ?_
    refine j_weak [none, none] (Wk.s (Wk.s Wk.n)) ?_
    exact pf_X2_handle_B117  h4 hf
  refine j_case (1 : Int32) hf (fun hf => ?_) (fun c1 hf => ?_)
  · refine j_tableIn 103 dX2_handle_7 (by decide) (by decide) rfl (by decide) ?_
    refine j_aload_n 0 dX2_handle_103 rfl rfl ?_
    refine j_aload_n 1 dX2_handle_104 rfl rfl ?_
    refine j_aload_n 0 dX2_handle_105 rfl rfl ?_
    refine j_gR (ci := 1) (k := 1) rfl in_X2 rfl q788 dX2_handle_106 hf (fun r5 hf => ?_)
    refine j_aload_n 1 dX2_handle_109 rfl rfl ?_
    refine j_gIN (ci := 13) (k := 1) rfl in_X16 rfl q1380 dX2_handle_110 hf (fun v6 hf => ?_)
    refine j_aald (t := 5) rfl dX2_handle_113 hf (fun r7 hf => ?_)
    refine kc_X2_261 rfl rfl rfl (by decide) dX2_handle_114 hf (fun _u h8 hf => ?_)
    refine j_weak [none, none] (Wk.s (Wk.s Wk.n)) ?_
    exact pf_X2_handle_B117  h8 hf
  refine j_case (2 : Int32) hf (fun hf => ?_) (fun c2 hf => ?_)
  · refine j_tableIn 103 dX2_handle_7 (by decide) (by decide) rfl (by decide) ?_
    refine j_aload_n 0 dX2_handle_103 rfl rfl ?_
    refine j_aload_n 1 dX2_handle_104 rfl rfl ?_
    refine j_aload_n 0 dX2_handle_105 rfl rfl ?_
    refine j_gR (ci := 1) (k := 1) rfl in_X2 rfl q788 dX2_handle_106 hf (fun r9 hf => ?_)
    refine j_aload_n 1 dX2_handle_109 rfl rfl ?_
    refine j_gIN (ci := 13) (k := 1) rfl in_X16 rfl q1380 dX2_handle_110 hf (fun v10 hf => ?_)
    refine j_aald (t := 5) rfl dX2_handle_113 hf (fun r11 hf => ?_)
    refine kc_X2_261 rfl rfl rfl (by decide) dX2_handle_114 hf (fun _u h12 hf => ?_)
    refine j_weak [none, none] (Wk.s (Wk.s Wk.n)) ?_
    exact pf_X2_handle_B117  h12 hf
  refine j_case (3 : Int32) hf (fun hf => ?_) (fun c3 hf => ?_)
  · refine j_tableIn 52 dX2_handle_7 (by decide) (by decide) rfl (by decide) ?_
    refine j_aload_n 1 dX2_handle_52 rfl rfl ?_
    refine j_gIN (ci := 13) (k := 3) rfl in_X16 rfl q1384 dX2_handle_53 hf (fun v13 hf => ?_)
    refine j_aload_n 0 dX2_handle_56 rfl rfl ?_
    refine j_gI (ci := 1) (k := 14) rfl in_X2 rfl q812 dX2_handle_57 hf (fun v14 hf => ?_)
    refine j_icmp_eq 64 dX2_handle_60 (by decide) hf (fun c_ hf => ?_) (fun c_ hf => ?_)
    · refine j_aload_n 0 dX2_handle_64 rfl rfl ?_
      refine j_gI (ci := 1) (k := 12) rfl in_X2 rfl q808 dX2_handle_65 hf (fun v15 hf => ?_)
      refine j_bipush (-4 : Int32) dX2_handle_68 (by decide) ?_
      refine j_icmp_eq 86 dX2_handle_70 (by decide) hf (fun c_ hf => ?_) (fun c_ hf => ?_)
      · refine j_weak [some (va_rf r0), none] (Wk.k (Wk.s Wk.n)) ?_
        exact pf_X2_handle_B86 r0 h2 hf
      · refine j_aload_n 0 dX2_handle_73 rfl rfl ?_
        refine j_iconst (4 : Int32) dX2_handle_74 (by decide) ?_
        refine j_aload_n 1 dX2_handle_75 rfl rfl ?_
        refine j_gIN (ci := 13) (k := 1) rfl in_X16 rfl q1380 dX2_handle_76 hf (fun v16 hf => ?_)
        refine j_aload_n 1 dX2_handle_79 rfl rfl ?_
        refine j_gIN (ci := 13) (k := 3) rfl in_X16 rfl q1384 dX2_handle_80 hf (fun v17 hf => ?_)
        refine kc_X2_254 rfl rfl rfl (by decide) dX2_handle_83 hf (fun _u h18 hf => ?_)
        refine j_weak [some (va_rf r0), none] (Wk.k (Wk.s Wk.n)) ?_
        exact pf_X2_handle_B86 r0 h18 hf
    · have e9 := Option.some.inj hf
      subst e9
      exact j_vret rfl dX2_handle_63
  refine j_case (4 : Int32) hf (fun hf => ?_) (fun c4 hf => ?_)
  · refine j_tableIn 95 dX2_handle_7 (by decide) (by decide) rfl (by decide) ?_
    refine j_aload_n 0 dX2_handle_95 rfl rfl ?_
    refine j_aload_n 1 dX2_handle_96 rfl rfl ?_
    refine kc_X2_258 rfl rfl rfl (by decide) dX2_handle_97 hf (fun _u h19 hf => ?_)
    refine j_goto 117 dX2_handle_100 (by decide) ?_
    refine j_weak [none, none] (Wk.s (Wk.s Wk.n)) ?_
    exact pf_X2_handle_B117  h19 hf
  refine j_case (5 : Int32) hf (fun hf => ?_) (fun c5 hf => ?_)
  · refine j_tableIn 95 dX2_handle_7 (by decide) (by decide) rfl (by decide) ?_
    refine j_aload_n 0 dX2_handle_95 rfl rfl ?_
    refine j_aload_n 1 dX2_handle_96 rfl rfl ?_
    refine kc_X2_258 rfl rfl rfl (by decide) dX2_handle_97 hf (fun _u h20 hf => ?_)
    refine j_goto 117 dX2_handle_100 (by decide) ?_
    refine j_weak [none, none] (Wk.s (Wk.s Wk.n)) ?_
    exact pf_X2_handle_B117  h20 hf
  refine j_tableOut 103 dX2_handle_7 (by have z0 := lv_neT (a := (0)) c0 (by decide); have z1 := lv_neT (a := (1)) c1 (by decide); have z2 := lv_neT (a := (2)) c2 (by decide); have z3 := lv_neT (a := (3)) c3 (by decide); have z4 := lv_neT (a := (4)) c4 (by decide); have z5 := lv_neT (a := (5)) c5 (by decide); omega) (by decide) ?_
  refine j_aload_n 0 dX2_handle_103 rfl rfl ?_
  refine j_aload_n 1 dX2_handle_104 rfl rfl ?_
  refine j_aload_n 0 dX2_handle_105 rfl rfl ?_
  refine j_gR (ci := 1) (k := 1) rfl in_X2 rfl q788 dX2_handle_106 hf (fun r21 hf => ?_)
  refine j_aload_n 1 dX2_handle_109 rfl rfl ?_
  refine j_gIN (ci := 13) (k := 1) rfl in_X16 rfl q1380 dX2_handle_110 hf (fun v22 hf => ?_)
  refine j_aald (t := 5) rfl dX2_handle_113 hf (fun r23 hf => ?_)
  refine kc_X2_261 rfl rfl rfl (by decide) dX2_handle_114 hf (fun _u h24 hf => ?_)
  refine j_weak [none, none] (Wk.s (Wk.s Wk.n)) ?_
  exact pf_X2_handle_B117  h24 hf
theorem kc_X8_51 {Γ : GX} {I : MI} {D : va_G} {h0 : PH} {Q : State → Prop} {h : PH} {pc : Nat} {vs : List (Option Value)} {rest : List Value} {β : Type} {o : β} {a : Nat}  {K : ((Unit) → PH → Option β)} (hI : I.2.2.1 = RX8) (hfr : Nat.ble 3 I.2.2.2.2.2.1 = true) (hlo : Nat.ble 61 I.2.2.2.2.2.2.1 = true) (hW : (rest.map fun v => v.category).sum ≤ 8) (hd : decode I.1 pc = .ok (.invokespecial 51, 3)) (hf : cl_ (f_J8_init a h) K = some o) (kk : ∀ (x : Unit) (h1 : PH), K x h1 = some o → PF Γ I D h0 Q h1 (pc + 3) vs (rest)) : PF Γ I D h0 Q h pc vs (va_rf (some a) :: rest) := by
  obtain ⟨cc, nL, own, rt, xt, fr, lo, nm⟩ := I
  cases hI
  exact j_cIv (n := 0) (y := yJ8_init) (cc2 := cJ8_init) (As := []) (lw_meth q237) q102 q947 q236 rfl hyS_J8_init hfr hlo rfl hW hd (c_J8_init a) ⟨_, rfl⟩ hf _ rfl kk
theorem kc_X8_64 {Γ : GX} {I : MI} {D : va_G} {h0 : PH} {Q : State → Prop} {h : PH} {pc : Nat} {vs : List (Option Value)} {rest : List Value} {β : Type} {o : β} {r : Option Nat}  {K : ((Option Nat) → PH → Option β)} (hI : I.2.2.1 = RX8) (hfr : Nat.ble 6 I.2.2.2.2.2.1 = true) (hlo : Nat.ble 171 I.2.2.2.2.2.2.1 = true) (hW : (rest.map fun v => v.category).sum ≤ 8) (hd : decode I.1 pc = .ok (.invokevirtual 64, 3)) (hf : rv_ h r 21 (cl_ (f_J8_toString r h) K) = some o) (kk : ∀ (x : Option Nat) (h1 : PH), K x h1 = some o → PF Γ I D h0 Q h1 (pc + 3) vs (va_rf x :: rest)) : PF Γ I D h0 Q h pc vs (va_rf r :: rest) := by
  obtain ⟨cc, nL, own, rt, xt, fr, lo, nm⟩ := I
  cases hI
  exact j_cVr (n := 0) (y := yJ8_toString) (cc2 := cJ8_toString) (As := []) (C := RJ8) (ci := 21) rfl (lw_V q973 q411 q412 q102 q413) hyV_J8_toString hfr hlo rfl hW hd (c_J8_toString r) hf _ rfl kk
theorem kc_X8_60 {Γ : GX} {I : MI} {D : va_G} {h0 : PH} {Q : State → Prop} {h : PH} {pc : Nat} {vs : List (Option Value)} {rest : List Value} {β : Type} {o : β} {r : Option Nat} {p0 : Int32} {K : ((Option Nat) → PH → Option β)} (hI : I.2.2.1 = RX8) (hfr : Nat.ble 6 I.2.2.2.2.2.1 = true) (hlo : Nat.ble 146 I.2.2.2.2.2.2.1 = true) (hW : (rest.map fun v => v.category).sum ≤ 8) (hd : decode I.1 pc = .ok (.invokevirtual 60, 3)) (hf : rv_ h r 21 (cl_ (f_J8_append_3 r p0 h) K) = some o) (kk : ∀ (x : Option Nat) (h1 : PH), K x h1 = some o → PF Γ I D h0 Q h1 (pc + 3) vs (va_rf x :: rest)) : PF Γ I D h0 Q h pc vs (.int p0 :: va_rf r :: rest) := by
  obtain ⟨cc, nL, own, rt, xt, fr, lo, nm⟩ := I
  cases hI
  exact j_cVr (n := 1) (y := yJ8_append_3) (cc2 := cJ8_append_3) (As := [.int p0]) (C := RJ8) (ci := 21) rfl (lw_V q953 q954 q955 q102 q956) hyV_J8_append_3 hfr hlo rfl hW hd (c_J8_append_3 r p0) hf _ rfl kk
abbrev mi_X8_word : MI := (cX8_word, 2, RX8, (Option.some (FieldType.object "java/lang/String")), [], 6, 171, "word")
def f_X8_word_L13 : Nat → Option Nat → Option Nat → PH → Option (Option Nat × PH)
  | 0, _, _, _ => none
  | n + 1, x0, x1, h => rv_ h x0 7 (cl_ (f_X8_here x0 h) fun v7 h6 => cl_ (f_X1_in (v7.toInt64) (97 : Int64) (122 : Int64) h6) fun v9 h8 => (if v9 = 0 then (rv_ h8 x1 21 (cl_ (f_J8_toString x1 h8) fun r11 h10 => some (r11, h10))) else (rv_ h8 x0 7 (cl_ (f_X8_here x0 h8) fun v13 h12 => rv_ h12 x1 21 (cl_ (f_J8_append_3 x1 ((v13.toUInt32 % 65536).toInt32) h12) fun r15 h14 => gI h14 x0 7 2 fun v16 => pV h14 x0 7 2 (.int (v16 + (1 : Int32))) fun h17 => f_X8_word_L13 n x0 x1 h17)))))
theorem pf_X8_word_L13 {Γ : GX} {D : va_G} {h0 : PH} {o : Option Nat × PH} : ∀ (n : Nat) (x0 : Option Nat) (x1 : Option Nat) (h : PH), f_X8_word_L13 n x0 x1 h = some o → PF Γ mi_X8_word D h0 (QR Γ D h0 (ovr o.1) o.2) h 13 [some (va_rf x0), some (va_rf x1)] [] := by
  intro n
  induction n with
  | zero => intro x0 x1 h hf; cases hf
  | succ n ih =>
    intro x0 x1 h hf
    refine j_aload_n 0 dX8_word_13 rfl rfl ?_
    refine kc_X8_42 rfl rfl rfl (by decide) dX8_word_14 hf (fun v7 h6 hf => ?_)
    refine j_i2l dX8_word_17 ?_
    refine j_ldc2 q948 dX8_word_18 ?_
    refine j_ldc2 q949 dX8_word_21 ?_
    refine kc_X8_56 rfl rfl rfl (by decide) dX8_word_24 hf (fun v9 h8 hf => ?_)
    refine j_if_eq 53 dX8_word_27 (by decide) hf (fun c_ hf => ?_) (fun c_ hf => ?_)
    · refine j_aload_n 1 dX8_word_53 rfl rfl ?_
      refine kc_X8_64 rfl rfl rfl (by decide) dX8_word_54 hf (fun r11 h10 hf => ?_)
      have e9 := Option.some.inj hf
      subst e9
      exact j_aret rfl (Or.inl ⟨_, rfl⟩) dX8_word_57
    · refine j_aload_n 1 dX8_word_30 rfl rfl ?_
      refine j_aload_n 0 dX8_word_31 rfl rfl ?_
      refine kc_X8_42 rfl rfl rfl (by simp [va_rf_cat, cat_i, cat_l]) dX8_word_32 hf (fun v13 h12 hf => ?_)
      refine j_i2c dX8_word_35 ?_
      refine kc_X8_60 rfl rfl rfl (by decide) dX8_word_36 hf (fun r15 h14 hf => ?_)
      refine j_pop dX8_word_39 (va_rf_cat _) ?_
      refine j_aload_n 0 dX8_word_40 rfl rfl ?_
      refine j_dup dX8_word_41 (va_rf_cat _) ?_
      refine j_gI (ci := 7) (k := 2) rfl in_X8 rfl q907 dX8_word_42 hf (fun v16 hf => ?_)
      refine j_iconst (1 : Int32) dX8_word_45 (by decide) ?_
      refine j_iadd dX8_word_46 ?_
      refine j_pV (ci := 7) (k := 2) tyX8 tyX8_ok nmX8 rfl in_X8 rfl q907 (Or.inl rfl) rfl (fit_i _) dX8_word_47 hf (fun h17 hf => ?_)
      refine j_goto 13 dX8_word_50 (by decide) ?_
      exact ih x0 x1 h17 hf
def f_X8_word (r0 : Option Nat) (h0 : PH) : Option (Option Nat × PH) := rv_ h0 r0 7 (cl_ (f_X8_next r0 h0) fun v2 h1 => nO h1 21 4 [.null, .int 0, .int 0, .int 0] fun a3 h4 => cl_ (f_J8_init a3 h4) fun _u h5 => f_X8_word_L13 FU r0 (some a3) h5)
theorem hyS_X8_word : yX8_word.cls ≠ "java/lang/invoke/MethodHandle" ∧ yX8_word.cls ≠ "java/lang/invoke/VarHandle" ∧ (parseMethodDescriptor yX8_word.desc).map (fun d => d.parameters.length) = some 0 := by decide +kernel
theorem hyV_X8_word : yX8_word.cls = RX8 ∧ yX8_word.cls ≠ "java/lang/invoke/MethodHandle" ∧ yX8_word.cls ≠ "java/lang/invoke/VarHandle" ∧ (parseMethodDescriptor yX8_word.desc).map (fun d => d.parameters.length) = some 0 := by decide +kernel
theorem c_X8_word {D : va_G} (r0 : Option Nat) {h0 : PH} (l : Launch) (hl : l.stackTraces = false) (x : Option Nat) (h1 : PH) (hf : f_X8_word r0 h0 = some (x, h1)) : CT l D yX8_word (ws_ yX8_word cX8_word 2 (Option.some (FieldType.object "java/lang/String"))) 6 171 [va_rf r0] h0 (ovr x) h1 := by
  refine ct_of hl [some (va_rf r0), none] (by decide) (by rw [lgl]; simp [va_rf_cat, cat_i, cat_l]) (by simp [lv_args, vsL, va_rf_cat, cat_i, cat_l]) (fun Γ => ?_)
  obtain ⟨o, ho⟩ : ∃ o : Option Nat × PH, o = (x, h1) := ⟨_, rfl⟩
  rw [← ho] at hf
  have e1 : x = o.1 := by rw [ho]
  have e2 : h1 = o.2 := by rw [ho]
  subst e1 e2
  clear ho
  show PF Γ mi_X8_word D h0 (QR Γ D h0 (ovr o.1) o.2) h0 0 [some (va_rf r0), none] []
  unfold f_X8_word at hf
  refine j_aload_n 0 dX8_word_0 rfl rfl ?_
  refine kc_X8_46 rfl rfl rfl (by decide) dX8_word_1 hf (fun v2 h1 hf => ?_)
  refine j_pop dX8_word_4 rfl ?_
  refine j_nO (ci := 21) tyJ8 tyJ8_ok rfl in_J8 q946 q234 q102 (by decide) dX8_word_5 hf (fun a3 h4 hf => ?_)
  refine j_dup dX8_word_8 (va_rf_cat _) ?_
  refine kc_X8_51 rfl rfl rfl (by simp [va_rf_cat, cat_i, cat_l]) dX8_word_9 hf (fun _u h5 hf => ?_)
  refine j_astore_n 1 [some (va_rf r0), some (va_rf (some a3))] dX8_word_12 rfl (cz (va_rf_cat _)) rfl rfl ?_
  exact pf_X8_word_L13 FU r0 (some a3) h5 hf
theorem kc_X8_143 {Γ : GX} {I : MI} {D : va_G} {h0 : PH} {Q : State → Prop} {h : PH} {pc : Nat} {vs : List (Option Value)} {rest : List Value} {β : Type} {o : β} {r : Option Nat} {p0 : Int32} {p1 : Int32} {K : (((Nat × Nat) ⊕ Int32) → PH → Option β)} (hI : I.2.2.1 = RX8) (hfr : Nat.ble 6 I.2.2.2.2.2.1 = true) (hlo : Nat.ble 135 I.2.2.2.2.2.2.1 = true) (hW : (rest.map fun v => v.category).sum ≤ 8) (hd : decode I.1 pc = .ok (.invokevirtual 143, 3)) (hf : rv_ h r 7 (cl_ (f_X8_number r p0 p1 h) K) = some o) (kk : ∀ (x : Int32) (h1 : PH), K (.inr x) h1 = some o → PF Γ I D h0 Q h1 (pc + 3) vs (.int x :: rest)) (kx : ∀ (ci q : Nat) (h1 : PH) (fs : List Value), h1.1 q = some (.inr (ci, fs)) → K (.inl (ci, q)) h1 = some o → PX Γ I D h0 Q h1 pc vs q) : PF Γ I D h0 Q h pc vs (.int p1 :: .int p0 :: va_rf r :: rest) := by
  obtain ⟨cc, nL, own, rt, xt, fr, lo, nm⟩ := I
  cases hI
  exact j_xVi (n := 2) (y := yX8_number) (cc2 := cX8_number) (As := [.int p0, .int p1]) (C := RX8) (ci := 7) rfl (lw_V q1138 q1140 qs10 q118 q1141) hyV_X8_number hfr hlo rfl hW hd (c_X8_number r p0 p1) hf _ rfl kk kx
theorem kc_X8_173 {Γ : GX} {I : MI} {D : va_G} {h0 : PH} {Q : State → Prop} {h : PH} {pc : Nat} {vs : List (Option Value)} {rest : List Value} {β : Type} {o : β} {a : Nat} {p0 : Int32} {p1 : Int32} {K : ((Unit) → PH → Option β)} (hI : I.2.2.1 = RX8) (hfr : Nat.ble 2 I.2.2.2.2.2.1 = true) (hlo : Nat.ble 42 I.2.2.2.2.2.2.1 = true) (hW : (rest.map fun v => v.category).sum ≤ 8) (hd : decode I.1 pc = .ok (.invokespecial 173, 3)) (hf : cl_ (f_X4_init a p0 p1 h) K = some o) (kk : ∀ (x : Unit) (h1 : PH), K x h1 = some o → PF Γ I D h0 Q h1 (pc + 3) vs (rest)) : PF Γ I D h0 Q h pc vs (.int p1 :: .int p0 :: va_rf (some a) :: rest) := by
  obtain ⟨cc, nL, own, rt, xt, fr, lo, nm⟩ := I
  cases hI
  exact j_cIv (n := 2) (y := yX4_init) (cc2 := cX4_init) (As := [.int p0, .int p1]) (lw_meth q158) q93 q1181 q157 rfl hyS_X4_init hfr hlo rfl hW hd (c_X4_init a p0 p1) ⟨_, rfl⟩ hf _ rfl kk
abbrev mi_X8_clock : MI := (cX8_clock, 2, RX8, (Option.some (FieldType.object "LeaderLeases$Clock")), [], 6, 135, "clock")
def f_X8_clock (r0 : Option Nat) (h0 : PH) : Option (((Nat × Nat) ⊕ Option Nat) × PH) := rv_ h0 r0 7 (cl_ (f_X8_number r0 (900 : Int32) (1100 : Int32) h0) fun z9 h1 => match z9 with | .inl (ci9, q9) => (xo_ h1 ci9 q9) | .inr v2 => (nO h1 3 2 [.int 0, .int 0] fun a3 h4 => rv_ h4 r0 7 (cl_ (f_X8_number r0 (0 : Int32) (100000 : Int32) h4) fun z9 h5 => match z9 with | .inl (ci9, q9) => (xo_ h5 ci9 q9) | .inr v6 => (cl_ (f_X4_init a3 v2 v6 h5) fun _u h7 => some (.inr (some a3), h7)))))
theorem hyS_X8_clock : yX8_clock.cls ≠ "java/lang/invoke/MethodHandle" ∧ yX8_clock.cls ≠ "java/lang/invoke/VarHandle" ∧ (parseMethodDescriptor yX8_clock.desc).map (fun d => d.parameters.length) = some 0 := by decide +kernel
theorem hyV_X8_clock : yX8_clock.cls = RX8 ∧ yX8_clock.cls ≠ "java/lang/invoke/MethodHandle" ∧ yX8_clock.cls ≠ "java/lang/invoke/VarHandle" ∧ (parseMethodDescriptor yX8_clock.desc).map (fun d => d.parameters.length) = some 0 := by decide +kernel
theorem c_X8_clock {D : va_G} (r0 : Option Nat) {h0 : PH} (l : Launch) (hl : l.stackTraces = false) (x : ((Nat × Nat) ⊕ Option Nat)) (h1 : PH) (hf : f_X8_clock r0 h0 = some (x, h1)) : CT l D yX8_clock (ws_ yX8_clock cX8_clock 2 (Option.some (FieldType.object "LeaderLeases$Clock"))) 6 135 [va_rf r0] h0 (oxr x) h1 := by
  refine ct_of hl [some (va_rf r0), none] (by decide) (by rw [lgl]; simp [va_rf_cat, cat_i, cat_l]) (by simp [lv_args, vsL, va_rf_cat, cat_i, cat_l]) (fun Γ => ?_)
  obtain ⟨o, ho⟩ : ∃ o : ((Nat × Nat) ⊕ Option Nat) × PH, o = (x, h1) := ⟨_, rfl⟩
  rw [← ho] at hf
  have e1 : x = o.1 := by rw [ho]
  have e2 : h1 = o.2 := by rw [ho]
  subst e1 e2
  clear ho
  show PF Γ mi_X8_clock D h0 (QR Γ D h0 (oxr o.1) o.2) h0 0 [some (va_rf r0), none] []
  unfold f_X8_clock at hf
  refine j_aload_n 0 dX8_clock_0 rfl rfl ?_
  refine j_sipush (900 : Int32) dX8_clock_1 (by decide) ?_
  refine j_sipush (1100 : Int32) dX8_clock_4 (by decide) ?_
  refine kc_X8_143 rfl rfl rfl (by decide) dX8_clock_7 hf (fun v2 h1 hf => ?_) (fun ci9 q9 h1 fs9 he9 hf => ?_)
  · refine j_istore_n 1 [some (va_rf r0), some (.int v2)] dX8_clock_10 rfl (cz (va_rf_cat _)) rfl rfl ?_
    refine j_nO (ci := 3) tyX4 tyX4_ok rfl in_X4 q1179 q155 q93 (by decide) dX8_clock_11 hf (fun a3 h4 hf => ?_)
    refine j_dup dX8_clock_14 (va_rf_cat _) ?_
    refine j_iload_n 1 dX8_clock_15 rfl rfl ?_
    refine j_aload_n 0 dX8_clock_16 rfl rfl ?_
    refine j_iconst (0 : Int32) dX8_clock_17 (by decide) ?_
    refine j_ldc q1180 dX8_clock_18 ?_
    refine kc_X8_143 rfl rfl rfl (by simp [va_rf_cat, cat_i, cat_l]) dX8_clock_20 hf (fun v6 h5 hf => ?_) (fun ci9 q9 h5 fs9 he9 hf => ?_)
    · refine kc_X8_173 rfl rfl rfl (by simp [va_rf_cat, cat_i, cat_l]) dX8_clock_23 hf (fun _u h7 hf => ?_)
      have e9 := Option.some.inj hf
      subst e9
      exact j_aret rfl (Or.inl ⟨_, rfl⟩) dX8_clock_26
    · obtain ⟨hb9, hf⟩ := xo_in hf
      subst hf
      exact j_out (by decide) hb9 he9
  · obtain ⟨hb9, hf⟩ := xo_in hf
    subst hf
    exact j_out (by decide) hb9 he9
theorem kc_X2_211 {Γ : GX} {I : MI} {D : va_G} {h0 : PH} {Q : State → Prop} {h : PH} {pc : Nat} {vs : List (Option Value)} {rest : List Value} {β : Type} {o : β} {r : Option Nat} {p0 : Option Nat} {K : ((Int32) → PH → Option β)} (hI : I.2.2.1 = RX2) (hfr : Nat.ble 3 I.2.2.2.2.2.1 = true) (hlo : Nat.ble 107 I.2.2.2.2.2.2.1 = true) (hW : (rest.map fun v => v.category).sum ≤ 8) (hd : decode I.1 pc = .ok (.invokeinterface 211 2, 5)) (hf : rv_ h r 19 (cl_ (f_J2_remove_2 r p0 h) K) = some o) (kk : ∀ (x : Int32) (h1 : PH), K x h1 = some o → PF Γ I D h0 Q h1 (pc + 5) vs (.int x :: rest)) : PF Γ I D h0 Q h pc vs (va_rf p0 :: va_rf r :: rest) := by
  obtain ⟨cc, nL, own, rt, xt, fr, lo, nm⟩ := I
  cases hI
  exact j_cFi (n := 1) (y := yJ2_remove_2) (cc2 := cJ2_remove_2) (As := [va_rf p0]) (C := RJ2) (x9 := ⟨"java/util/List", "remove", "(Ljava/lang/Object;)Z"⟩) (ci := 19) rfl (by decide +kernel) (lw_F q1339 q1342 q1344 q96 q1346) (by decide +kernel) hfr hlo rfl hW hd (c_J2_remove_2 r p0) hf _ rfl kk
theorem kc_X2_237 {Γ : GX} {I : MI} {D : va_G} {h0 : PH} {Q : State → Prop} {h : PH} {pc : Nat} {vs : List (Option Value)} {rest : List Value} {β : Type} {o : β} {r : Option Nat} {p0 : Int32} {K : ((Option Nat) → PH → Option β)} (hI : I.2.2.1 = RX2) (hfr : Nat.ble 3 I.2.2.2.2.2.1 = true) (hlo : Nat.ble 63 I.2.2.2.2.2.2.1 = true) (hW : (rest.map fun v => v.category).sum ≤ 8) (hd : decode I.1 pc = .ok (.invokevirtual 237, 3)) (hf : rv_ h r 13 (cl_ (f_X16_postponedTo r p0 h) K) = some o) (kk : ∀ (x : Option Nat) (h1 : PH), K x h1 = some o → PF Γ I D h0 Q h1 (pc + 3) vs (va_rf x :: rest)) : PF Γ I D h0 Q h pc vs (.int p0 :: va_rf r :: rest) := by
  obtain ⟨cc, nL, own, rt, xt, fr, lo, nm⟩ := I
  cases hI
  exact j_cVr (n := 1) (y := yX16_postponedTo) (cc2 := cX16_postponedTo) (As := [.int p0]) (C := RX16) (ci := 13) rfl (lw_V q1367 q1368 q1369 q127 q1370) hyV_X16_postponedTo hfr hlo rfl hW hd (c_X16_postponedTo r p0) hf _ rfl kk
theorem kc_X2_241 {Γ : GX} {I : MI} {D : va_G} {h0 : PH} {Q : State → Prop} {h : PH} {pc : Nat} {vs : List (Option Value)} {rest : List Value} {β : Type} {o : β} {r : Option Nat} {p0 : Option Nat} {K : ((Unit) → PH → Option β)} (hI : I.2.2.1 = RX2) (hfr : Nat.ble 11 I.2.2.2.2.2.1 = true) (hlo : Nat.ble 283 I.2.2.2.2.2.2.1 = true) (hW : (rest.map fun v => v.category).sum ≤ 8) (hd : decode I.1 pc = .ok (.invokevirtual 241, 3)) (hf : rv_ h r 1 (cl_ (f_X2_handle r p0 h) K) = some o) (kk : ∀ (x : Unit) (h1 : PH), K x h1 = some o → PF Γ I D h0 Q h1 (pc + 3) vs (rest)) : PF Γ I D h0 Q h pc vs (va_rf p0 :: va_rf r :: rest) := by
  obtain ⟨cc, nL, own, rt, xt, fr, lo, nm⟩ := I
  cases hI
  exact j_cVv (n := 1) (y := yX2_handle) (cc2 := cX2_handle) (As := [va_rf p0]) (C := RX2) (ci := 1) rfl (lw_V q1408 q1410 qs19 q91 q1411) hyV_X2_handle hfr hlo rfl hW hd (c_X2_handle r p0) hf _ rfl kk
abbrev mi_X2_arrive : MI := (cX2_arrive, 3, RX2, none, [], 11, 283, "arrive")
def f_X2_arrive_B111  (h : PH) : Option (Unit × PH) := some ((), h)
theorem pf_X2_arrive_B111 {Γ : GX} {D : va_G} {h0 : PH} {o : Unit × PH}  (h : PH) (hf : f_X2_arrive_B111  h = some o) : PF Γ mi_X2_arrive D h0 (QR Γ D h0 (ovv o.1) o.2) h 111 [none, none, none] [] := by
  have e9 := Option.some.inj hf
  subst e9
  exact j_vret rfl dX2_arrive_111
def f_X2_arrive_B45 (x0 : Option Nat) (x1 : Option Nat) (h : PH) : Option (Unit × PH) := gI h x0 1 11 fun v12 => pV h x0 1 11 (.int (v12 + (1 : Int32))) fun h13 => rv_ h13 x0 1 (cl_ (f_X2_watch x0 x1 (2 : Int32) h13) fun _u h14 => f_X2_arrive_B111 h14)
theorem pf_X2_arrive_B45 {Γ : GX} {D : va_G} {h0 : PH} {o : Unit × PH} (x0 : Option Nat) (x1 : Option Nat) (h : PH) (hf : f_X2_arrive_B45 x0 x1 h = some o) : PF Γ mi_X2_arrive D h0 (QR Γ D h0 (ovv o.1) o.2) h 45 [some (va_rf x0), some (va_rf x1), none] [] := by
  refine j_aload_n 0 dX2_arrive_45 rfl rfl ?_
  refine j_dup dX2_arrive_46 (va_rf_cat _) ?_
  refine j_gI (ci := 1) (k := 11) rfl in_X2 rfl q806 dX2_arrive_47 hf (fun v12 hf => ?_)
  refine j_iconst (1 : Int32) dX2_arrive_50 (by decide) ?_
  refine j_iadd dX2_arrive_51 ?_
  refine j_pV (ci := 1) (k := 11) tyX2 tyX2_ok nmX2 rfl in_X2 rfl q806 (Or.inl rfl) rfl (fit_i _) dX2_arrive_52 hf (fun h13 hf => ?_)
  refine j_aload_n 0 dX2_arrive_55 rfl rfl ?_
  refine j_aload_n 1 dX2_arrive_56 rfl rfl ?_
  refine j_iconst (2 : Int32) dX2_arrive_57 (by decide) ?_
  refine kc_X2_226 rfl rfl rfl (by decide) dX2_arrive_58 hf (fun _u h14 hf => ?_)
  refine j_goto 111 dX2_arrive_61 (by decide) ?_
  refine j_weak [none, none, none] (Wk.s (Wk.s (Wk.k Wk.n))) ?_
  exact pf_X2_arrive_B111  h14 hf
def f_X2_arrive_B106 (x0 : Option Nat) (x1 : Option Nat) (h : PH) : Option (Unit × PH) := rv_ h x0 1 (cl_ (f_X2_handle x0 x1 h) fun _u h27 => f_X2_arrive_B111 h27)
theorem pf_X2_arrive_B106 {Γ : GX} {D : va_G} {h0 : PH} {o : Unit × PH} (x0 : Option Nat) (x1 : Option Nat) (h : PH) (hf : f_X2_arrive_B106 x0 x1 h = some o) : PF Γ mi_X2_arrive D h0 (QR Γ D h0 (ovv o.1) o.2) h 106 [some (va_rf x0), some (va_rf x1), none] [] := by
  refine j_aload_n 0 dX2_arrive_106 rfl rfl ?_
  refine j_aload_n 1 dX2_arrive_107 rfl rfl ?_
  refine kc_X2_241 rfl rfl rfl (by decide) dX2_arrive_108 hf (fun _u h27 hf => ?_)
  refine j_weak [none, none, none] (Wk.s (Wk.s (Wk.k Wk.n))) ?_
  exact pf_X2_arrive_B111  h27 hf
def f_X2_arrive_B64 (x0 : Option Nat) (x1 : Option Nat) (x2 : Option Nat) (h : PH) : Option (Unit × PH) := gRN h x1 13 0 fun r15 => rv_ h r15 25 (cl_ (f_X15_isToNode r15 h) fun v17 h16 => (if v17 = 0 then (f_X2_arrive_B106 x0 x1 h16) else (gI h16 x0 1 8 fun v18 => rv_ h16 x2 5 (cl_ (f_X6_isPaused x2 v18 h16) fun v20 h19 => (if v20 = 0 then (f_X2_arrive_B106 x0 x1 h19) else (gR h19 x0 1 2 fun r21 => gIN h19 x2 5 5 fun v22 => rv_ h19 x1 13 (cl_ (f_X16_postponedTo x1 v22 h19) fun r24 h23 => rv_ h23 r21 19 (cl_ (f_J2_add r21 r24 h23) fun v26 h25 => f_X2_arrive_B111 h25))))))))
theorem pf_X2_arrive_B64 {Γ : GX} {D : va_G} {h0 : PH} {o : Unit × PH} (x0 : Option Nat) (x1 : Option Nat) (x2 : Option Nat) (h : PH) (hf : f_X2_arrive_B64 x0 x1 x2 h = some o) : PF Γ mi_X2_arrive D h0 (QR Γ D h0 (ovv o.1) o.2) h 64 [some (va_rf x0), some (va_rf x1), some (va_rf x2)] [] := by
  refine j_aload_n 1 dX2_arrive_64 rfl rfl ?_
  refine j_gRN (ci := 13) (k := 0) rfl in_X16 rfl q1378 dX2_arrive_65 hf (fun r15 hf => ?_)
  refine kc_X2_219 rfl rfl rfl (by decide) dX2_arrive_68 hf (fun v17 h16 hf => ?_)
  refine j_if_eq 106 dX2_arrive_71 (by decide) hf (fun c_ hf => ?_) (fun c_ hf => ?_)
  · refine j_weak [some (va_rf x0), some (va_rf x1), none] (Wk.k (Wk.k (Wk.s Wk.n))) ?_
    exact pf_X2_arrive_B106 x0 x1 h16 hf
  · refine j_aload_n 2 dX2_arrive_74 rfl rfl ?_
    refine j_aload_n 0 dX2_arrive_75 rfl rfl ?_
    refine j_gI (ci := 1) (k := 8) rfl in_X2 rfl q802 dX2_arrive_76 hf (fun v18 hf => ?_)
    refine kc_X2_230 rfl rfl rfl (by decide) dX2_arrive_79 hf (fun v20 h19 hf => ?_)
    refine j_if_eq 106 dX2_arrive_82 (by decide) hf (fun c_ hf => ?_) (fun c_ hf => ?_)
    · refine j_weak [some (va_rf x0), some (va_rf x1), none] (Wk.k (Wk.k (Wk.s Wk.n))) ?_
      exact pf_X2_arrive_B106 x0 x1 h19 hf
    · refine j_aload_n 0 dX2_arrive_85 rfl rfl ?_
      refine j_gR (ci := 1) (k := 2) rfl in_X2 rfl q790 dX2_arrive_86 hf (fun r21 hf => ?_)
      refine j_aload_n 1 dX2_arrive_89 rfl rfl ?_
      refine j_aload_n 2 dX2_arrive_90 rfl rfl ?_
      refine j_gIN (ci := 5) (k := 5) rfl in_X6 rfl q736 dX2_arrive_91 hf (fun v22 hf => ?_)
      refine kc_X2_237 rfl rfl rfl (by simp [va_rf_cat, cat_i, cat_l]) dX2_arrive_94 hf (fun r24 h23 hf => ?_)
      refine kc_X2_158 rfl rfl rfl (by decide) dX2_arrive_97 hf (fun v26 h25 hf => ?_)
      refine j_pop dX2_arrive_102 rfl ?_
      refine j_goto 111 dX2_arrive_103 (by decide) ?_
      refine j_weak [none, none, none] (Wk.s (Wk.s (Wk.s Wk.n))) ?_
      exact pf_X2_arrive_B111  h25 hf
def f_X2_arrive (r0 : Option Nat) (p0 : Option Nat) (h0 : PH) : Option (Unit × PH) := gR h0 r0 1 2 fun r1 => rv_ h0 r1 19 (cl_ (f_J2_remove_2 r1 p0 h0) fun v3 h2 => gR h2 r0 1 1 fun r4 => gIN h2 p0 13 1 fun v5 => aQ h2 r4 5 v5 fun r6 => gIN h2 r6 5 4 fun v7 => (if v7 = 0 then (gRN h2 p0 13 0 fun r8 => rv_ h2 r8 25 (cl_ (f_X15_isToNode r8 h2) fun v10 h9 => (if v10 = 0 then (f_X2_arrive_B64 r0 p0 r6 h9) else (gIN h9 r6 5 2 fun v11 => (if v11 = 0 then (f_X2_arrive_B45 r0 p0 h9) else (f_X2_arrive_B64 r0 p0 r6 h9)))))) else (f_X2_arrive_B45 r0 p0 h2)))
theorem hyS_X2_arrive : yX2_arrive.cls ≠ "java/lang/invoke/MethodHandle" ∧ yX2_arrive.cls ≠ "java/lang/invoke/VarHandle" ∧ (parseMethodDescriptor yX2_arrive.desc).map (fun d => d.parameters.length) = some 1 := by decide +kernel
theorem hyV_X2_arrive : yX2_arrive.cls = RX2 ∧ yX2_arrive.cls ≠ "java/lang/invoke/MethodHandle" ∧ yX2_arrive.cls ≠ "java/lang/invoke/VarHandle" ∧ (parseMethodDescriptor yX2_arrive.desc).map (fun d => d.parameters.length) = some 1 := by decide +kernel
theorem c_X2_arrive {D : va_G} (r0 : Option Nat) (p0 : Option Nat) {h0 : PH} (l : Launch) (hl : l.stackTraces = false) (x : Unit) (h1 : PH) (hf : f_X2_arrive r0 p0 h0 = some (x, h1)) : CT l D yX2_arrive (ws_ yX2_arrive cX2_arrive 3 none) 11 283 [va_rf r0, va_rf p0] h0 (ovv x) h1 := by
  refine ct_of hl [some (va_rf r0), some (va_rf p0), none] (by decide) (by rw [lgl]; simp [va_rf_cat, cat_i, cat_l]) (by simp [lv_args, vsL, va_rf_cat, cat_i, cat_l]) (fun Γ => ?_)
  obtain ⟨o, ho⟩ : ∃ o : Unit × PH, o = (x, h1) := ⟨_, rfl⟩
  rw [← ho] at hf
  have e1 : x = o.1 := by rw [ho]
  have e2 : h1 = o.2 := by rw [ho]
  subst e1 e2
  clear ho
  show PF Γ mi_X2_arrive D h0 (QR Γ D h0 (ovv o.1) o.2) h0 0 [some (va_rf r0), some (va_rf p0), none] []
  unfold f_X2_arrive at hf
  refine j_aload_n 0 dX2_arrive_0 rfl rfl ?_
  refine j_gR (ci := 1) (k := 2) rfl in_X2 rfl q790 dX2_arrive_1 hf (fun r1 hf => ?_)
  refine j_aload_n 1 dX2_arrive_4 rfl rfl ?_
  refine kc_X2_211 rfl rfl rfl (by decide) dX2_arrive_5 hf (fun v3 h2 hf => ?_)
  refine j_pop dX2_arrive_10 rfl ?_
  refine j_aload_n 0 dX2_arrive_11 rfl rfl ?_
  refine j_gR (ci := 1) (k := 1) rfl in_X2 rfl q788 dX2_arrive_12 hf (fun r4 hf => ?_)
  refine j_aload_n 1 dX2_arrive_15 rfl rfl ?_
  refine j_gIN (ci := 13) (k := 1) rfl in_X16 rfl q1380 dX2_arrive_16 hf (fun v5 hf => ?_)
  refine j_aald (t := 5) rfl dX2_arrive_19 hf (fun r6 hf => ?_)
  refine j_astore_n 2 [some (va_rf r0), some (va_rf p0), some (va_rf r6)] dX2_arrive_20 rfl (cz (va_rf_cat _)) rfl rfl ?_
  refine j_aload_n 2 dX2_arrive_21 rfl rfl ?_
  refine j_gIN (ci := 5) (k := 4) rfl in_X6 rfl q733 dX2_arrive_22 hf (fun v7 hf => ?_)
  refine j_if_ne 45 dX2_arrive_25 (by decide) hf (fun c_ hf => ?_) (fun c_ hf => ?_)
  · refine j_weak [some (va_rf r0), some (va_rf p0), none] (Wk.k (Wk.k (Wk.s Wk.n))) ?_
    exact pf_X2_arrive_B45 r0 p0 h2 hf
  · refine j_aload_n 1 dX2_arrive_28 rfl rfl ?_
    refine j_gRN (ci := 13) (k := 0) rfl in_X16 rfl q1378 dX2_arrive_29 hf (fun r8 hf => ?_)
    refine kc_X2_219 rfl rfl rfl (by decide) dX2_arrive_32 hf (fun v10 h9 hf => ?_)
    refine j_if_eq 64 dX2_arrive_35 (by decide) hf (fun c_ hf => ?_) (fun c_ hf => ?_)
    · exact pf_X2_arrive_B64 r0 p0 r6 h9 hf
    · refine j_aload_n 2 dX2_arrive_38 rfl rfl ?_
      refine j_gIN (ci := 5) (k := 2) rfl in_X6 rfl q727 dX2_arrive_39 hf (fun v11 hf => ?_)
      refine j_if_ne 64 dX2_arrive_42 (by decide) hf (fun c_ hf => ?_) (fun c_ hf => ?_)
      · exact pf_X2_arrive_B64 r0 p0 r6 h9 hf
      · refine j_weak [some (va_rf r0), some (va_rf p0), none] (Wk.k (Wk.k (Wk.s Wk.n))) ?_
        exact pf_X2_arrive_B45 r0 p0 h9 hf
theorem kc_X8_88 {Γ : GX} {I : MI} {D : va_G} {h0 : PH} {Q : State → Prop} {h : PH} {pc : Nat} {vs : List (Option Value)} {rest : List Value} {β : Type} {o : β} {r : Option Nat}  {K : ((Option Nat) → PH → Option β)} (hI : I.2.2.1 = RX8) (hfr : Nat.ble 7 I.2.2.2.2.2.1 = true) (hlo : Nat.ble 192 I.2.2.2.2.2.2.1 = true) (hW : (rest.map fun v => v.category).sum ≤ 8) (hd : decode I.1 pc = .ok (.invokevirtual 88, 3)) (hf : rv_ h r 7 (cl_ (f_X8_word r h) K) = some o) (kk : ∀ (x : Option Nat) (h1 : PH), K x h1 = some o → PF Γ I D h0 Q h1 (pc + 3) vs (va_rf x :: rest)) : PF Γ I D h0 Q h pc vs (va_rf r :: rest) := by
  obtain ⟨cc, nL, own, rt, xt, fr, lo, nm⟩ := I
  cases hI
  exact j_cVr (n := 0) (y := yX8_word) (cc2 := cX8_word) (As := []) (C := RX8) (ci := 7) rfl (lw_V q934 q936 qs6 q118 q937) hyV_X8_word hfr hlo rfl hW hd (c_X8_word r) hf _ rfl kk
theorem kc_X8_91 {Γ : GX} {I : MI} {D : va_G} {h0 : PH} {Q : State → Prop} {h : PH} {pc : Nat} {vs : List (Option Value)} {rest : List Value} {β : Type} {o : β} {r : Option Nat}  {K : ((Int32) → PH → Option β)} (hI : I.2.2.1 = RX8) (hfr : Nat.ble 2 I.2.2.2.2.2.1 = true) (hlo : Nat.ble 40 I.2.2.2.2.2.2.1 = true) (hW : (rest.map fun v => v.category).sum ≤ 8) (hd : decode I.1 pc = .ok (.invokevirtual 91, 3)) (hf : rv_ h r 22 (cl_ (f_J9_length r h) K) = some o) (kk : ∀ (x : Int32) (h1 : PH), K x h1 = some o → PF Γ I D h0 Q h1 (pc + 3) vs (.int x :: rest)) : PF Γ I D h0 Q h pc vs (va_rf r :: rest) := by
  obtain ⟨cc, nL, own, rt, xt, fr, lo, nm⟩ := I
  cases hI
  exact j_cVi (n := 0) (y := yJ9_length) (cc2 := cJ9_length) (As := []) (C := RJ9) (ci := 22) rfl (lw_V q974 q343 q344 q103 q345) hyV_J9_length hfr hlo rfl hW hd (c_J9_length r) hf _ rfl kk
theorem kc_X8_97 {Γ : GX} {I : MI} {D : va_G} {h0 : PH} {Q : State → Prop} {h : PH} {pc : Nat} {vs : List (Option Value)} {rest : List Value} {β : Type} {o : β} {r : Option Nat} {p0 : Option Nat} {K : ((Int32) → PH → Option β)} (hI : I.2.2.1 = RX8) (hfr : Nat.ble 2 I.2.2.2.2.2.1 = true) (hlo : Nat.ble 44 I.2.2.2.2.2.2.1 = true) (hW : (rest.map fun v => v.category).sum ≤ 8) (hd : decode I.1 pc = .ok (.invokevirtual 97, 3)) (hf : rv_ h r 22 (cl_ (f_J9_equals r p0 h) K) = some o) (kk : ∀ (x : Int32) (h1 : PH), K x h1 = some o → PF Γ I D h0 Q h1 (pc + 3) vs (.int x :: rest)) : PF Γ I D h0 Q h pc vs (va_rf p0 :: va_rf r :: rest) := by
  obtain ⟨cc, nL, own, rt, xt, fr, lo, nm⟩ := I
  cases hI
  exact j_cVi (n := 1) (y := yJ9_equals) (cc2 := cJ9_equals) (As := [va_rf p0]) (C := RJ9) (ci := 22) rfl (lw_V q976 q977 q978 q103 q979) hyV_J9_equals hfr hlo rfl hW hd (c_J9_equals r p0) hf _ rfl kk
theorem kc_X8_109 {Γ : GX} {I : MI} {D : va_G} {h0 : PH} {Q : State → Prop} {h : PH} {pc : Nat} {vs : List (Option Value)} {rest : List Value} {β : Type} {o : β} {r : Option Nat} {p0 : Option Nat} {K : ((Int32) → PH → Option β)} (hI : I.2.2.1 = RX8) (hfr : Nat.ble 5 I.2.2.2.2.2.1 = true) (hlo : Nat.ble 111 I.2.2.2.2.2.2.1 = true) (hW : (rest.map fun v => v.category).sum ≤ 8) (hd : decode I.1 pc = .ok (.invokeinterface 109 2, 5)) (hf : rv_ h r 19 (cl_ (f_J2_contains r p0 h) K) = some o) (kk : ∀ (x : Int32) (h1 : PH), K x h1 = some o → PF Γ I D h0 Q h1 (pc + 5) vs (.int x :: rest)) : PF Γ I D h0 Q h pc vs (va_rf p0 :: va_rf r :: rest) := by
  obtain ⟨cc, nL, own, rt, xt, fr, lo, nm⟩ := I
  cases hI
  exact j_cFi (n := 1) (y := yJ2_contains) (cc2 := cJ2_contains) (As := [va_rf p0]) (C := RJ2) (x9 := ⟨"java/util/List", "contains", "(Ljava/lang/Object;)Z"⟩) (ci := 19) rfl (by decide +kernel) (lw_F q987 q990 q992 q96 q994) (by decide +kernel) hfr hlo rfl hW hd (c_J2_contains r p0) hf _ rfl kk
theorem kc_X8_104 {Γ : GX} {I : MI} {D : va_G} {h0 : PH} {Q : State → Prop} {h : PH} {pc : Nat} {vs : List (Option Value)} {rest : List Value} {β : Type} {o : β} {r : Option Nat}  {K : ((Int32) → PH → Option β)} (hI : I.2.2.1 = RX8) (hfr : Nat.ble 1 I.2.2.2.2.2.1 = true) (hlo : Nat.ble 20 I.2.2.2.2.2.2.1 = true) (hW : (rest.map fun v => v.category).sum ≤ 8) (hd : decode I.1 pc = .ok (.invokeinterface 104 1, 5)) (hf : rv_ h r 19 (cl_ (f_J2_size r h) K) = some o) (kk : ∀ (x : Int32) (h1 : PH), K x h1 = some o → PF Γ I D h0 Q h1 (pc + 5) vs (.int x :: rest)) : PF Γ I D h0 Q h pc vs (va_rf r :: rest) := by
  obtain ⟨cc, nL, own, rt, xt, fr, lo, nm⟩ := I
  cases hI
  exact j_cFi (n := 0) (y := yJ2_size) (cc2 := cJ2_size) (As := []) (C := RJ2) (x9 := ⟨"java/util/List", "size", "()I"⟩) (ci := 19) rfl (by decide +kernel) (lw_F q985 q684 q686 q96 q688) (by decide +kernel) hfr hlo rfl hW hd (c_J2_size r) hf _ rfl kk
theorem kc_X8_115 {Γ : GX} {I : MI} {D : va_G} {h0 : PH} {Q : State → Prop} {h : PH} {pc : Nat} {vs : List (Option Value)} {rest : List Value} {β : Type} {o : β} {r : Option Nat} {p0 : Option Nat} {K : ((Int32) → PH → Option β)} (hI : I.2.2.1 = RX8) (hfr : Nat.ble 7 I.2.2.2.2.2.1 = true) (hlo : Nat.ble 191 I.2.2.2.2.2.2.1 = true) (hW : (rest.map fun v => v.category).sum ≤ 8) (hd : decode I.1 pc = .ok (.invokeinterface 115 2, 5)) (hf : rv_ h r 19 (cl_ (f_J2_add r p0 h) K) = some o) (kk : ∀ (x : Int32) (h1 : PH), K x h1 = some o → PF Γ I D h0 Q h1 (pc + 5) vs (.int x :: rest)) : PF Γ I D h0 Q h pc vs (va_rf p0 :: va_rf r :: rest) := by
  obtain ⟨cc, nL, own, rt, xt, fr, lo, nm⟩ := I
  cases hI
  exact j_cFi (n := 1) (y := yJ2_add) (cc2 := cJ2_add) (As := [va_rf p0]) (C := RJ2) (x9 := ⟨"java/util/List", "add", "(Ljava/lang/Object;)Z"⟩) (ci := 19) rfl (by decide +kernel) (lw_F q1066 q572 q574 q96 q576) (by decide +kernel) hfr hlo rfl hW hd (c_J2_add r p0) hf _ rfl kk
theorem kc_X8_114 {Γ : GX} {I : MI} {D : va_G} {h0 : PH} {Q : State → Prop} {h : PH} {pc : Nat} {vs : List (Option Value)} {rest : List Value} {β : Type} {o : β} {a : Nat} {p0 : Int32} {K : ((Unit) → PH → Option β)} (hI : I.2.2.1 = RX8) (hfr : Nat.ble 5 I.2.2.2.2.2.1 = true) (hlo : Nat.ble 110 I.2.2.2.2.2.2.1 = true) (hW : (rest.map fun v => v.category).sum ≤ 8) (hd : decode I.1 pc = .ok (.invokespecial 114, 3)) (hf : cl_ (f_X10_init a p0 h) K = some o) (kk : ∀ (x : Unit) (h1 : PH), K x h1 = some o → PF Γ I D h0 Q h1 (pc + 3) vs (rest)) : PF Γ I D h0 Q h pc vs (.int p0 :: va_rf (some a) :: rest) := by
  obtain ⟨cc, nL, own, rt, xt, fr, lo, nm⟩ := I
  cases hI
  exact j_cIv (n := 1) (y := yX10_init) (cc2 := cX10_init) (As := [.int p0]) (lw_meth q1050) q120 q1048 q1049 rfl hyS_X10_init hfr hlo rfl hW hd (c_X10_init a p0) ⟨_, rfl⟩ hf _ rfl kk
theorem kc_X8_118 {Γ : GX} {I : MI} {D : va_G} {h0 : PH} {Q : State → Prop} {h : PH} {pc : Nat} {vs : List (Option Value)} {rest : List Value} {β : Type} {o : β} {r : Option Nat}  {K : ((Int32) → PH → Option β)} (hI : I.2.2.1 = RX8) (hfr : Nat.ble 4 I.2.2.2.2.2.1 = true) (hlo : Nat.ble 90 I.2.2.2.2.2.2.1 = true) (hW : (rest.map fun v => v.category).sum ≤ 8) (hd : decode I.1 pc = .ok (.invokevirtual 118, 3)) (hf : rv_ h r 22 (cl_ (f_J9_hashCode r h) K) = some o) (kk : ∀ (x : Int32) (h1 : PH), K x h1 = some o → PF Γ I D h0 Q h1 (pc + 3) vs (.int x :: rest)) : PF Γ I D h0 Q h pc vs (va_rf r :: rest) := by
  obtain ⟨cc, nL, own, rt, xt, fr, lo, nm⟩ := I
  cases hI
  exact j_cVi (n := 0) (y := yJ9_hashCode) (cc2 := cJ9_hashCode) (As := []) (C := RJ9) (ci := 22) rfl (lw_V q1067 q1068 q1069 q103 q1070) hyV_J9_hashCode hfr hlo rfl hW hd (c_J9_hashCode r) hf _ rfl kk
theorem kc_X8_133 {Γ : GX} {I : MI} {D : va_G} {h0 : PH} {Q : State → Prop} {h : PH} {pc : Nat} {vs : List (Option Value)} {rest : List Value} {β : Type} {o : β} {r : Option Nat}  {K : (((Nat × Nat) ⊕ Option Nat) → PH → Option β)} (hI : I.2.2.1 = RX8) (hfr : Nat.ble 7 I.2.2.2.2.2.1 = true) (hlo : Nat.ble 156 I.2.2.2.2.2.2.1 = true) (hW : (rest.map fun v => v.category).sum ≤ 8) (hd : decode I.1 pc = .ok (.invokevirtual 133, 3)) (hf : rv_ h r 7 (cl_ (f_X8_clock r h) K) = some o) (kk : ∀ (x : Option Nat) (h1 : PH), K (.inr x) h1 = some o → PF Γ I D h0 Q h1 (pc + 3) vs (va_rf x :: rest)) (kx : ∀ (ci q : Nat) (h1 : PH) (fs : List Value), h1.1 q = some (.inr (ci, fs)) → K (.inl (ci, q)) h1 = some o → PX Γ I D h0 Q h1 pc vs q) : PF Γ I D h0 Q h pc vs (va_rf r :: rest) := by
  obtain ⟨cc, nL, own, rt, xt, fr, lo, nm⟩ := I
  cases hI
  exact j_xVr (n := 0) (y := yX8_clock) (cc2 := cX8_clock) (As := []) (C := RX8) (ci := 7) rfl (lw_V q1134 q1136 qs9 q118 q1137) hyV_X8_clock hfr hlo rfl hW hd (c_X8_clock r) hf _ rfl kk kx
theorem kc_X8_147 {Γ : GX} {I : MI} {D : va_G} {h0 : PH} {Q : State → Prop} {h : PH} {pc : Nat} {vs : List (Option Value)} {rest : List Value} {β : Type} {o : β} {p0 : Int32} {K : ((Option Nat) → PH → Option β)} (hI : I.2.2.1 = RX8) (hfr : Nat.ble 4 I.2.2.2.2.2.1 = true) (hlo : Nat.ble 81 I.2.2.2.2.2.2.1 = true) (hW : (rest.map fun v => v.category).sum ≤ 8) (hd : decode I.1 pc = .ok (.invokestatic 147, 3)) (hf : cl_ (f_J17_valueOf p0 h) K = some o) (kk : ∀ (x : Option Nat) (h1 : PH), K x h1 = some o → PF Γ I D h0 Q h1 (pc + 3) vs (va_rf x :: rest)) : PF Γ I D h0 Q h pc vs (.int p0 :: rest) := by
  obtain ⟨cc, nL, own, rt, xt, fr, lo, nm⟩ := I
  cases hI
  exact j_cSr (n := 1) (y := yJ17_valueOf) (cc2 := cJ17_valueOf) (As := [.int p0]) (lw_S q1182 q634 q112 q635) hyS_J17_valueOf hfr hlo rfl hW hd (c_J17_valueOf p0) hf _ rfl kk
abbrev mi_X8_statement : MI := (cX8_statement, 6, RX8, none, [], 7, 192, "statement")
def f_X8_statement_B486  (h : PH) : Option (((Nat × Nat) ⊕ Unit) × PH) := some (.inr (), h)
theorem pf_X8_statement_B486 {Γ : GX} {D : va_G} {h0 : PH} {o : ((Nat × Nat) ⊕ Unit) × PH}  (h : PH) (hf : f_X8_statement_B486  h = some o) : PF Γ mi_X8_statement D h0 (QR Γ D h0 (oxv o.1) o.2) h 486 [none, none, none, none, none, none] [] := by
  have e9 := Option.some.inj hf
  subst e9
  exact j_vret rfl dX8_statement_486
def f_X8_statement_B270 (x0 : Option Nat) (x2 : Int32) (x5 : Int32) (h : PH) : Option (((Nat × Nat) ⊕ Unit) × PH) := (if x5 = (0 : Int32) then (gR h x0 7 0 fun r37 => rv_ h x0 7 (cl_ (f_X8_clock x0 h) fun z9 h38 => match z9 with | .inl (ci9, q9) => (xo_ h38 ci9 q9) | .inr r39 => (pV h38 r37 2 0 (va_rf r39) fun h40 => f_X8_statement_B486 h40))) else (if x5 = (1 : Int32) then (gR h x0 7 0 fun r41 => gRN h r41 2 1 fun r42 => rv_ h x0 7 (cl_ (f_X8_clock x0 h) fun z9 h43 => match z9 with | .inl (ci9, q9) => (xo_ h43 ci9 q9) | .inr r44 => (rv_ h43 r42 19 (cl_ (f_J2_add r42 r44 h43) fun v46 h45 => gR h45 x0 7 0 fun r47 => gRN h45 r47 2 2 fun r48 => rv_ h45 x0 7 (cl_ (f_X8_number x0 (1 : Int32) (1000 : Int32) h45) fun z9 h49 => match z9 with | .inl (ci9, q9) => (xo_ h49 ci9 q9) | .inr v50 => (cl_ (f_J17_valueOf v50 h49) fun r52 h51 => rv_ h51 r48 19 (cl_ (f_J2_add r48 r52 h51) fun v54 h53 => f_X8_statement_B486 h53))))))) else (if x5 = (2 : Int32) then (gR h x0 7 0 fun r55 => rv_ h x0 7 (cl_ (f_X8_number x0 (100 : Int32) (60000 : Int32) h) fun z9 h56 => match z9 with | .inl (ci9, q9) => (xo_ h56 ci9 q9) | .inr v57 => (pV h56 r55 2 3 (.int v57) fun h58 => gR h58 x0 7 0 fun r59 => rv_ h58 x0 7 (cl_ (f_X8_number x0 (0 : Int32) (100 : Int32) h58) fun z9 h60 => match z9 with | .inl (ci9, q9) => (xo_ h60 ci9 q9) | .inr v61 => (pV h60 r59 2 4 (.int v61) fun h62 => f_X8_statement_B486 h62))))) else (if x5 = (3 : Int32) then (gR h x0 7 0 fun r63 => rv_ h x0 7 (cl_ (f_X8_number x0 (50 : Int32) (60000 : Int32) h) fun z9 h64 => match z9 with | .inl (ci9, q9) => (xo_ h64 ci9 q9) | .inr v65 => (pV h64 r63 2 5 (.int v65) fun h66 => f_X8_statement_B486 h66))) else (if x5 = (4 : Int32) then (gR h x0 7 0 fun r67 => rv_ h x0 7 (cl_ (f_X8_number x0 (50 : Int32) (60000 : Int32) h) fun z9 h68 => match z9 with | .inl (ci9, q9) => (xo_ h68 ci9 q9) | .inr v69 => (pV h68 r67 2 6 (.int v69) fun h70 => f_X8_statement_B486 h70))) else (if x5 = (5 : Int32) then (gR h x0 7 0 fun r71 => rv_ h x0 7 (cl_ (f_X8_number x0 (0 : Int32) (1000 : Int32) h) fun z9 h72 => match z9 with | .inl (ci9, q9) => (xo_ h72 ci9 q9) | .inr v73 => (pV h72 r71 2 7 (.int v73) fun h74 => f_X8_statement_B486 h74))) else (if x5 = (6 : Int32) then (gR h x0 7 0 fun r75 => rv_ h x0 7 (cl_ (f_X8_number x0 (0 : Int32) (2147483647 : Int32) h) fun z9 h76 => match z9 with | .inl (ci9, q9) => (xo_ h76 ci9 q9) | .inr v77 => (pV h76 r75 2 8 (.int v77) fun h78 => f_X8_statement_B486 h78))) else nO h 9 7 [.int 0, .null, .null, .null, .null, .null, .int 0] fun a79 h80 => cl_ (f_X11_init a79 x2 h80) fun _u h81 => th_ h81 (some a79) fun ci9 q9 => xo_ h81 ci9 q9)))))))
theorem pf_X8_statement_B270 {Γ : GX} {D : va_G} {h0 : PH} {o : ((Nat × Nat) ⊕ Unit) × PH} (x0 : Option Nat) (x2 : Int32) (x5 : Int32) (h : PH) (hf : f_X8_statement_B270 x0 x2 x5 h = some o) : PF Γ mi_X8_statement D h0 (QR Γ D h0 (oxv o.1) o.2) h 270 [some (va_rf x0), none, some (.int x2), none, none, some (.int x5)] [] := by
  refine j_iload dX8_statement_270 rfl ?_
  refine j_case (0 : Int32) hf (fun hf => ?_) (fun c0 hf => ?_)
  · refine j_tableIn 316 dX8_statement_272 (by decide) (by decide) rfl (by decide) ?_
    refine j_aload_n 0 dX8_statement_316 rfl rfl ?_
    refine j_gR (ci := 7) (k := 0) rfl in_X8 rfl q905 dX8_statement_317 hf (fun r37 hf => ?_)
    refine j_aload_n 0 dX8_statement_320 rfl rfl ?_
    refine kc_X8_133 rfl rfl rfl (by simp [va_rf_cat, cat_i, cat_l]) dX8_statement_321 hf (fun r39 h38 hf => ?_) (fun ci9 q9 h38 fs9 he9 hf => ?_)
    · refine j_pVN (ci := 2) (k := 0) tyX3 tyX3_ok nmX3 rfl in_X3 rfl q519 rfl rfl (fit_o _ _) dX8_statement_324 hf (fun h40 hf => ?_)
      refine j_goto 486 dX8_statement_327 (by decide) ?_
      refine j_weak [none, none, none, none, none, none] (Wk.s (Wk.k (Wk.s (Wk.k (Wk.k (Wk.s Wk.n)))))) ?_
      exact pf_X8_statement_B486  h40 hf
    · obtain ⟨hb9, hf⟩ := xo_in hf
      subst hf
      exact j_out (by decide) hb9 he9
  refine j_case (1 : Int32) hf (fun hf => ?_) (fun c1 hf => ?_)
  · refine j_tableIn 330 dX8_statement_272 (by decide) (by decide) rfl (by decide) ?_
    refine j_aload_n 0 dX8_statement_330 rfl rfl ?_
    refine j_gR (ci := 7) (k := 0) rfl in_X8 rfl q905 dX8_statement_331 hf (fun r41 hf => ?_)
    refine j_gRN (ci := 2) (k := 1) rfl in_X3 rfl q524 dX8_statement_334 hf (fun r42 hf => ?_)
    refine j_aload_n 0 dX8_statement_337 rfl rfl ?_
    refine kc_X8_133 rfl rfl rfl (by simp [va_rf_cat, cat_i, cat_l]) dX8_statement_338 hf (fun r44 h43 hf => ?_) (fun ci9 q9 h43 fs9 he9 hf => ?_)
    · refine kc_X8_115 rfl rfl rfl (by decide) dX8_statement_341 hf (fun v46 h45 hf => ?_)
      refine j_pop dX8_statement_346 rfl ?_
      refine j_aload_n 0 dX8_statement_347 rfl rfl ?_
      refine j_gR (ci := 7) (k := 0) rfl in_X8 rfl q905 dX8_statement_348 hf (fun r47 hf => ?_)
      refine j_gRN (ci := 2) (k := 2) rfl in_X3 rfl q528 dX8_statement_351 hf (fun r48 hf => ?_)
      refine j_aload_n 0 dX8_statement_354 rfl rfl ?_
      refine j_iconst (1 : Int32) dX8_statement_355 (by decide) ?_
      refine j_sipush (1000 : Int32) dX8_statement_356 (by decide) ?_
      refine kc_X8_143 rfl rfl rfl (by simp [va_rf_cat, cat_i, cat_l]) dX8_statement_359 hf (fun v50 h49 hf => ?_) (fun ci9 q9 h49 fs9 he9 hf => ?_)
      · refine kc_X8_147 rfl rfl rfl (by simp [va_rf_cat, cat_i, cat_l]) dX8_statement_362 hf (fun r52 h51 hf => ?_)
        refine kc_X8_115 rfl rfl rfl (by decide) dX8_statement_365 hf (fun v54 h53 hf => ?_)
        refine j_pop dX8_statement_370 rfl ?_
        refine j_goto 486 dX8_statement_371 (by decide) ?_
        refine j_weak [none, none, none, none, none, none] (Wk.s (Wk.k (Wk.s (Wk.k (Wk.k (Wk.s Wk.n)))))) ?_
        exact pf_X8_statement_B486  h53 hf
      · obtain ⟨hb9, hf⟩ := xo_in hf
        subst hf
        exact j_out (by decide) hb9 he9
    · obtain ⟨hb9, hf⟩ := xo_in hf
      subst hf
      exact j_out (by decide) hb9 he9
  refine j_case (2 : Int32) hf (fun hf => ?_) (fun c2 hf => ?_)
  · refine j_tableIn 374 dX8_statement_272 (by decide) (by decide) rfl (by decide) ?_
    refine j_aload_n 0 dX8_statement_374 rfl rfl ?_
    refine j_gR (ci := 7) (k := 0) rfl in_X8 rfl q905 dX8_statement_375 hf (fun r55 hf => ?_)
    refine j_aload_n 0 dX8_statement_378 rfl rfl ?_
    refine j_bipush (100 : Int32) dX8_statement_379 (by decide) ?_
    refine j_ldc q1183 dX8_statement_381 ?_
    refine kc_X8_143 rfl rfl rfl (by simp [va_rf_cat, cat_i, cat_l]) dX8_statement_383 hf (fun v57 h56 hf => ?_) (fun ci9 q9 h56 fs9 he9 hf => ?_)
    · refine j_pVN (ci := 2) (k := 3) tyX3 tyX3_ok nmX3 rfl in_X3 rfl q530 rfl rfl (fit_i _) dX8_statement_386 hf (fun h58 hf => ?_)
      refine j_aload_n 0 dX8_statement_389 rfl rfl ?_
      refine j_gR (ci := 7) (k := 0) rfl in_X8 rfl q905 dX8_statement_390 hf (fun r59 hf => ?_)
      refine j_aload_n 0 dX8_statement_393 rfl rfl ?_
      refine j_iconst (0 : Int32) dX8_statement_394 (by decide) ?_
      refine j_bipush (100 : Int32) dX8_statement_395 (by decide) ?_
      refine kc_X8_143 rfl rfl rfl (by simp [va_rf_cat, cat_i, cat_l]) dX8_statement_397 hf (fun v61 h60 hf => ?_) (fun ci9 q9 h60 fs9 he9 hf => ?_)
      · refine j_pVN (ci := 2) (k := 4) tyX3 tyX3_ok nmX3 rfl in_X3 rfl q533 rfl rfl (fit_i _) dX8_statement_400 hf (fun h62 hf => ?_)
        refine j_goto 486 dX8_statement_403 (by decide) ?_
        refine j_weak [none, none, none, none, none, none] (Wk.s (Wk.k (Wk.s (Wk.k (Wk.k (Wk.s Wk.n)))))) ?_
        exact pf_X8_statement_B486  h62 hf
      · obtain ⟨hb9, hf⟩ := xo_in hf
        subst hf
        exact j_out (by decide) hb9 he9
    · obtain ⟨hb9, hf⟩ := xo_in hf
      subst hf
      exact j_out (by decide) hb9 he9
  refine j_case (3 : Int32) hf (fun hf => ?_) (fun c3 hf => ?_)
  · refine j_tableIn 406 dX8_statement_272 (by decide) (by decide) rfl (by decide) ?_
    refine j_aload_n 0 dX8_statement_406 rfl rfl ?_
    refine j_gR (ci := 7) (k := 0) rfl in_X8 rfl q905 dX8_statement_407 hf (fun r63 hf => ?_)
    refine j_aload_n 0 dX8_statement_410 rfl rfl ?_
    refine j_bipush (50 : Int32) dX8_statement_411 (by decide) ?_
    refine j_ldc q1183 dX8_statement_413 ?_
    refine kc_X8_143 rfl rfl rfl (by simp [va_rf_cat, cat_i, cat_l]) dX8_statement_415 hf (fun v65 h64 hf => ?_) (fun ci9 q9 h64 fs9 he9 hf => ?_)
    · refine j_pVN (ci := 2) (k := 5) tyX3 tyX3_ok nmX3 rfl in_X3 rfl q536 rfl rfl (fit_i _) dX8_statement_418 hf (fun h66 hf => ?_)
      refine j_goto 486 dX8_statement_421 (by decide) ?_
      refine j_weak [none, none, none, none, none, none] (Wk.s (Wk.k (Wk.s (Wk.k (Wk.k (Wk.s Wk.n)))))) ?_
      exact pf_X8_statement_B486  h66 hf
    · obtain ⟨hb9, hf⟩ := xo_in hf
      subst hf
      exact j_out (by decide) hb9 he9
  refine j_case (4 : Int32) hf (fun hf => ?_) (fun c4 hf => ?_)
  · refine j_tableIn 424 dX8_statement_272 (by decide) (by decide) rfl (by decide) ?_
    refine j_aload_n 0 dX8_statement_424 rfl rfl ?_
    refine j_gR (ci := 7) (k := 0) rfl in_X8 rfl q905 dX8_statement_425 hf (fun r67 hf => ?_)
    refine j_aload_n 0 dX8_statement_428 rfl rfl ?_
    refine j_bipush (50 : Int32) dX8_statement_429 (by decide) ?_
    refine j_ldc q1183 dX8_statement_431 ?_
    refine kc_X8_143 rfl rfl rfl (by simp [va_rf_cat, cat_i, cat_l]) dX8_statement_433 hf (fun v69 h68 hf => ?_) (fun ci9 q9 h68 fs9 he9 hf => ?_)
    · refine j_pVN (ci := 2) (k := 6) tyX3 tyX3_ok nmX3 rfl in_X3 rfl q540 rfl rfl (fit_i _) dX8_statement_436 hf (fun h70 hf => ?_)
      refine j_goto 486 dX8_statement_439 (by decide) ?_
      refine j_weak [none, none, none, none, none, none] (Wk.s (Wk.k (Wk.s (Wk.k (Wk.k (Wk.s Wk.n)))))) ?_
      exact pf_X8_statement_B486  h70 hf
    · obtain ⟨hb9, hf⟩ := xo_in hf
      subst hf
      exact j_out (by decide) hb9 he9
  refine j_case (5 : Int32) hf (fun hf => ?_) (fun c5 hf => ?_)
  · refine j_tableIn 442 dX8_statement_272 (by decide) (by decide) rfl (by decide) ?_
    refine j_aload_n 0 dX8_statement_442 rfl rfl ?_
    refine j_gR (ci := 7) (k := 0) rfl in_X8 rfl q905 dX8_statement_443 hf (fun r71 hf => ?_)
    refine j_aload_n 0 dX8_statement_446 rfl rfl ?_
    refine j_iconst (0 : Int32) dX8_statement_447 (by decide) ?_
    refine j_sipush (1000 : Int32) dX8_statement_448 (by decide) ?_
    refine kc_X8_143 rfl rfl rfl (by simp [va_rf_cat, cat_i, cat_l]) dX8_statement_451 hf (fun v73 h72 hf => ?_) (fun ci9 q9 h72 fs9 he9 hf => ?_)
    · refine j_pVN (ci := 2) (k := 7) tyX3 tyX3_ok nmX3 rfl in_X3 rfl q542 rfl rfl (fit_i _) dX8_statement_454 hf (fun h74 hf => ?_)
      refine j_goto 486 dX8_statement_457 (by decide) ?_
      refine j_weak [none, none, none, none, none, none] (Wk.s (Wk.k (Wk.s (Wk.k (Wk.k (Wk.s Wk.n)))))) ?_
      exact pf_X8_statement_B486  h74 hf
    · obtain ⟨hb9, hf⟩ := xo_in hf
      subst hf
      exact j_out (by decide) hb9 he9
  refine j_case (6 : Int32) hf (fun hf => ?_) (fun c6 hf => ?_)
  · refine j_tableIn 460 dX8_statement_272 (by decide) (by decide) rfl (by decide) ?_
    refine j_aload_n 0 dX8_statement_460 rfl rfl ?_
    refine j_gR (ci := 7) (k := 0) rfl in_X8 rfl q905 dX8_statement_461 hf (fun r75 hf => ?_)
    refine j_aload_n 0 dX8_statement_464 rfl rfl ?_
    refine j_iconst (0 : Int32) dX8_statement_465 (by decide) ?_
    refine j_ldc q1184 dX8_statement_466 ?_
    refine kc_X8_143 rfl rfl rfl (by simp [va_rf_cat, cat_i, cat_l]) dX8_statement_468 hf (fun v77 h76 hf => ?_) (fun ci9 q9 h76 fs9 he9 hf => ?_)
    · refine j_pVN (ci := 2) (k := 8) tyX3 tyX3_ok nmX3 rfl in_X3 rfl q545 rfl rfl (fit_i _) dX8_statement_471 hf (fun h78 hf => ?_)
      refine j_goto 486 dX8_statement_474 (by decide) ?_
      refine j_weak [none, none, none, none, none, none] (Wk.s (Wk.k (Wk.s (Wk.k (Wk.k (Wk.s Wk.n)))))) ?_
      exact pf_X8_statement_B486  h78 hf
    · obtain ⟨hb9, hf⟩ := xo_in hf
      subst hf
      exact j_out (by decide) hb9 he9
  refine j_tableOut 477 dX8_statement_272 (by have z0 := lv_neT (a := (0)) c0 (by decide); have z1 := lv_neT (a := (1)) c1 (by decide); have z2 := lv_neT (a := (2)) c2 (by decide); have z3 := lv_neT (a := (3)) c3 (by decide); have z4 := lv_neT (a := (4)) c4 (by decide); have z5 := lv_neT (a := (5)) c5 (by decide); have z6 := lv_neT (a := (6)) c6 (by decide); omega) (by decide) ?_
  refine j_nO (ci := 9) tyX11 tyX11_ok rfl in_X11 q922 q1144 q121 (by decide) dX8_statement_477 hf (fun a79 h80 hf => ?_)
  refine j_dup dX8_statement_480 (va_rf_cat _) ?_
  refine j_iload_n 2 dX8_statement_481 rfl rfl ?_
  refine kc_X8_74 rfl rfl rfl (by simp [va_rf_cat, cat_i, cat_l]) dX8_statement_482 hf (fun _u h81 hf => ?_)
  refine j_athrow dX8_statement_485 hf (fun ci9 q9 fs9 he9 hf => ?_)
  obtain ⟨hb9, hf⟩ := xo_in hf
  subst hf
  exact j_out (by decide) hb9 he9
def f_X8_statement_B83 (x0 : Option Nat) (x1 : Option Nat) (x2 : Int32) (h : PH) : Option (((Nat × Nat) ⊕ Unit) × PH) := rv_ h x1 22 (cl_ (f_J9_hashCode x1 h) fun v22 h21 => (if v22 = (-1159737108 : Int32) then (rv_ h21 x1 22 (cl_ (f_J9_equals x1 (some (sAd h21.2.1 32)) h21) fun v24 h23 => (if v24 = 0 then (f_X8_statement_B270 x0 x2 (-1 : Int32) h23) else (f_X8_statement_B270 x0 x2 (5 : Int32) h23)))) else (if v22 = (-905826493 : Int32) then (rv_ h21 x1 22 (cl_ (f_J9_equals x1 (some (sAd h21.2.1 27)) h21) fun v26 h25 => (if v26 = 0 then (f_X8_statement_B270 x0 x2 (-1 : Int32) h25) else (f_X8_statement_B270 x0 x2 (0 : Int32) h25)))) else (if v22 = (3386882 : Int32) then (rv_ h21 x1 22 (cl_ (f_J9_equals x1 (some (sAd h21.2.1 28)) h21) fun v28 h27 => (if v28 = 0 then (f_X8_statement_B270 x0 x2 (-1 : Int32) h27) else (f_X8_statement_B270 x0 x2 (1 : Int32) h27)))) else (if v22 = (3526257 : Int32) then (rv_ h21 x1 22 (cl_ (f_J9_equals x1 (some (sAd h21.2.1 33)) h21) fun v30 h29 => (if v30 = 0 then (f_X8_statement_B270 x0 x2 (-1 : Int32) h29) else (f_X8_statement_B270 x0 x2 (6 : Int32) h29)))) else (if v22 = (102846042 : Int32) then (rv_ h21 x1 22 (cl_ (f_J9_equals x1 (some (sAd h21.2.1 29)) h21) fun v32 h31 => (if v32 = 0 then (f_X8_statement_B270 x0 x2 (-1 : Int32) h31) else (f_X8_statement_B270 x0 x2 (2 : Int32) h31)))) else (if v22 = (108399245 : Int32) then (rv_ h21 x1 22 (cl_ (f_J9_equals x1 (some (sAd h21.2.1 30)) h21) fun v34 h33 => (if v34 = 0 then (f_X8_statement_B270 x0 x2 (-1 : Int32) h33) else (f_X8_statement_B270 x0 x2 (3 : Int32) h33)))) else (if v22 = (108405416 : Int32) then (rv_ h21 x1 22 (cl_ (f_J9_equals x1 (some (sAd h21.2.1 31)) h21) fun v36 h35 => (if v36 = 0 then (f_X8_statement_B270 x0 x2 (-1 : Int32) h35) else (f_X8_statement_B270 x0 x2 (4 : Int32) h35)))) else f_X8_statement_B270 x0 x2 (-1 : Int32) h21))))))))
theorem pf_X8_statement_B83 {Γ : GX} {D : va_G} {h0 : PH} {o : ((Nat × Nat) ⊕ Unit) × PH} (x0 : Option Nat) (x1 : Option Nat) (x2 : Int32) (h : PH) (hf : f_X8_statement_B83 x0 x1 x2 h = some o) : PF Γ mi_X8_statement D h0 (QR Γ D h0 (oxv o.1) o.2) h 83 [some (va_rf x0), some (va_rf x1), some (.int x2), none, none, none] [] := by
  refine j_aload_n 1 dX8_statement_83 rfl rfl ?_
  refine j_astore [some (va_rf x0), some (va_rf x1), some (.int x2), none, some (va_rf x1), none] dX8_statement_84 cn' rfl rfl ?_
  refine j_iconst (-1 : Int32) dX8_statement_86 (by decide) ?_
  refine j_istore [some (va_rf x0), some (va_rf x1), some (.int x2), none, some (va_rf x1), some (.int (-1 : Int32))] dX8_statement_87 (cz (va_rf_cat _)) rfl rfl ?_
  refine j_aload dX8_statement_89 rfl ?_
  refine kc_X8_118 rfl rfl rfl (by decide) dX8_statement_91 hf (fun v22 h21 hf => ?_)
  refine j_case (-1159737108 : Int32) hf (fun hf => ?_) (fun c1159737108m hf => ?_)
  · refine j_lookup (off := 146) 240 dX8_statement_94 (by decide) (by decide +kernel) (by decide) ?_
    refine j_aload dX8_statement_240 rfl ?_
    refine j_ldcS (i := 12) rfl rfl dX8_statement_242 ?_
    refine kc_X8_97 rfl rfl rfl (by decide) dX8_statement_244 hf (fun v24 h23 hf => ?_)
    refine j_if_eq 270 dX8_statement_247 (by decide) hf (fun c_ hf => ?_) (fun c_ hf => ?_)
    · refine j_weak [some (va_rf x0), none, some (.int x2), none, none, some (.int (-1 : Int32))] (Wk.k (Wk.s (Wk.k (Wk.k (Wk.s (Wk.k Wk.n)))))) ?_
      exact pf_X8_statement_B270 x0 x2 (-1 : Int32) h23 hf
    · refine j_iconst (5 : Int32) dX8_statement_250 (by decide) ?_
      refine j_istore [some (va_rf x0), some (va_rf x1), some (.int x2), none, some (va_rf x1), some (.int (5 : Int32))] dX8_statement_251 (cz (va_rf_cat _)) rfl rfl ?_
      refine j_goto 270 dX8_statement_253 (by decide) ?_
      refine j_weak [some (va_rf x0), none, some (.int x2), none, none, some (.int (5 : Int32))] (Wk.k (Wk.s (Wk.k (Wk.k (Wk.s (Wk.k Wk.n)))))) ?_
      exact pf_X8_statement_B270 x0 x2 (5 : Int32) h23 hf
  refine j_case (-905826493 : Int32) hf (fun hf => ?_) (fun c905826493m hf => ?_)
  · refine j_lookup (off := 66) 160 dX8_statement_94 (by decide) (by decide +kernel) (by decide) ?_
    refine j_aload dX8_statement_160 rfl ?_
    refine j_ldcS (i := 7) rfl rfl dX8_statement_162 ?_
    refine kc_X8_97 rfl rfl rfl (by decide) dX8_statement_164 hf (fun v26 h25 hf => ?_)
    refine j_if_eq 270 dX8_statement_167 (by decide) hf (fun c_ hf => ?_) (fun c_ hf => ?_)
    · refine j_weak [some (va_rf x0), none, some (.int x2), none, none, some (.int (-1 : Int32))] (Wk.k (Wk.s (Wk.k (Wk.k (Wk.s (Wk.k Wk.n)))))) ?_
      exact pf_X8_statement_B270 x0 x2 (-1 : Int32) h25 hf
    · refine j_iconst (0 : Int32) dX8_statement_170 (by decide) ?_
      refine j_istore [some (va_rf x0), some (va_rf x1), some (.int x2), none, some (va_rf x1), some (.int (0 : Int32))] dX8_statement_171 (cz (va_rf_cat _)) rfl rfl ?_
      refine j_goto 270 dX8_statement_173 (by decide) ?_
      refine j_weak [some (va_rf x0), none, some (.int x2), none, none, some (.int (0 : Int32))] (Wk.k (Wk.s (Wk.k (Wk.k (Wk.s (Wk.k Wk.n)))))) ?_
      exact pf_X8_statement_B270 x0 x2 (0 : Int32) h25 hf
  refine j_case (3386882 : Int32) hf (fun hf => ?_) (fun c3386882 hf => ?_)
  · refine j_lookup (off := 82) 176 dX8_statement_94 (by decide) (by decide +kernel) (by decide) ?_
    refine j_aload dX8_statement_176 rfl ?_
    refine j_ldcS (i := 8) rfl rfl dX8_statement_178 ?_
    refine kc_X8_97 rfl rfl rfl (by decide) dX8_statement_180 hf (fun v28 h27 hf => ?_)
    refine j_if_eq 270 dX8_statement_183 (by decide) hf (fun c_ hf => ?_) (fun c_ hf => ?_)
    · refine j_weak [some (va_rf x0), none, some (.int x2), none, none, some (.int (-1 : Int32))] (Wk.k (Wk.s (Wk.k (Wk.k (Wk.s (Wk.k Wk.n)))))) ?_
      exact pf_X8_statement_B270 x0 x2 (-1 : Int32) h27 hf
    · refine j_iconst (1 : Int32) dX8_statement_186 (by decide) ?_
      refine j_istore [some (va_rf x0), some (va_rf x1), some (.int x2), none, some (va_rf x1), some (.int (1 : Int32))] dX8_statement_187 (cz (va_rf_cat _)) rfl rfl ?_
      refine j_goto 270 dX8_statement_189 (by decide) ?_
      refine j_weak [some (va_rf x0), none, some (.int x2), none, none, some (.int (1 : Int32))] (Wk.k (Wk.s (Wk.k (Wk.k (Wk.s (Wk.k Wk.n)))))) ?_
      exact pf_X8_statement_B270 x0 x2 (1 : Int32) h27 hf
  refine j_case (3526257 : Int32) hf (fun hf => ?_) (fun c3526257 hf => ?_)
  · refine j_lookup (off := 162) 256 dX8_statement_94 (by decide) (by decide +kernel) (by decide) ?_
    refine j_aload dX8_statement_256 rfl ?_
    refine j_ldcS (i := 13) rfl rfl dX8_statement_258 ?_
    refine kc_X8_97 rfl rfl rfl (by decide) dX8_statement_260 hf (fun v30 h29 hf => ?_)
    refine j_if_eq 270 dX8_statement_263 (by decide) hf (fun c_ hf => ?_) (fun c_ hf => ?_)
    · refine j_weak [some (va_rf x0), none, some (.int x2), none, none, some (.int (-1 : Int32))] (Wk.k (Wk.s (Wk.k (Wk.k (Wk.s (Wk.k Wk.n)))))) ?_
      exact pf_X8_statement_B270 x0 x2 (-1 : Int32) h29 hf
    · refine j_bipush (6 : Int32) dX8_statement_266 (by decide) ?_
      refine j_istore [some (va_rf x0), some (va_rf x1), some (.int x2), none, some (va_rf x1), some (.int (6 : Int32))] dX8_statement_268 (cz (va_rf_cat _)) rfl rfl ?_
      refine j_weak [some (va_rf x0), none, some (.int x2), none, none, some (.int (6 : Int32))] (Wk.k (Wk.s (Wk.k (Wk.k (Wk.s (Wk.k Wk.n)))))) ?_
      exact pf_X8_statement_B270 x0 x2 (6 : Int32) h29 hf
  refine j_case (102846042 : Int32) hf (fun hf => ?_) (fun c102846042 hf => ?_)
  · refine j_lookup (off := 98) 192 dX8_statement_94 (by decide) (by decide +kernel) (by decide) ?_
    refine j_aload dX8_statement_192 rfl ?_
    refine j_ldcS (i := 9) rfl rfl dX8_statement_194 ?_
    refine kc_X8_97 rfl rfl rfl (by decide) dX8_statement_196 hf (fun v32 h31 hf => ?_)
    refine j_if_eq 270 dX8_statement_199 (by decide) hf (fun c_ hf => ?_) (fun c_ hf => ?_)
    · refine j_weak [some (va_rf x0), none, some (.int x2), none, none, some (.int (-1 : Int32))] (Wk.k (Wk.s (Wk.k (Wk.k (Wk.s (Wk.k Wk.n)))))) ?_
      exact pf_X8_statement_B270 x0 x2 (-1 : Int32) h31 hf
    · refine j_iconst (2 : Int32) dX8_statement_202 (by decide) ?_
      refine j_istore [some (va_rf x0), some (va_rf x1), some (.int x2), none, some (va_rf x1), some (.int (2 : Int32))] dX8_statement_203 (cz (va_rf_cat _)) rfl rfl ?_
      refine j_goto 270 dX8_statement_205 (by decide) ?_
      refine j_weak [some (va_rf x0), none, some (.int x2), none, none, some (.int (2 : Int32))] (Wk.k (Wk.s (Wk.k (Wk.k (Wk.s (Wk.k Wk.n)))))) ?_
      exact pf_X8_statement_B270 x0 x2 (2 : Int32) h31 hf
  refine j_case (108399245 : Int32) hf (fun hf => ?_) (fun c108399245 hf => ?_)
  · refine j_lookup (off := 114) 208 dX8_statement_94 (by decide) (by decide +kernel) (by decide) ?_
    refine j_aload dX8_statement_208 rfl ?_
    refine j_ldcS (i := 10) rfl rfl dX8_statement_210 ?_
    refine kc_X8_97 rfl rfl rfl (by decide) dX8_statement_212 hf (fun v34 h33 hf => ?_)
    refine j_if_eq 270 dX8_statement_215 (by decide) hf (fun c_ hf => ?_) (fun c_ hf => ?_)
    · refine j_weak [some (va_rf x0), none, some (.int x2), none, none, some (.int (-1 : Int32))] (Wk.k (Wk.s (Wk.k (Wk.k (Wk.s (Wk.k Wk.n)))))) ?_
      exact pf_X8_statement_B270 x0 x2 (-1 : Int32) h33 hf
    · refine j_iconst (3 : Int32) dX8_statement_218 (by decide) ?_
      refine j_istore [some (va_rf x0), some (va_rf x1), some (.int x2), none, some (va_rf x1), some (.int (3 : Int32))] dX8_statement_219 (cz (va_rf_cat _)) rfl rfl ?_
      refine j_goto 270 dX8_statement_221 (by decide) ?_
      refine j_weak [some (va_rf x0), none, some (.int x2), none, none, some (.int (3 : Int32))] (Wk.k (Wk.s (Wk.k (Wk.k (Wk.s (Wk.k Wk.n)))))) ?_
      exact pf_X8_statement_B270 x0 x2 (3 : Int32) h33 hf
  refine j_case (108405416 : Int32) hf (fun hf => ?_) (fun c108405416 hf => ?_)
  · refine j_lookup (off := 130) 224 dX8_statement_94 (by decide) (by decide +kernel) (by decide) ?_
    refine j_aload dX8_statement_224 rfl ?_
    refine j_ldcS (i := 11) rfl rfl dX8_statement_226 ?_
    refine kc_X8_97 rfl rfl rfl (by decide) dX8_statement_228 hf (fun v36 h35 hf => ?_)
    refine j_if_eq 270 dX8_statement_231 (by decide) hf (fun c_ hf => ?_) (fun c_ hf => ?_)
    · refine j_weak [some (va_rf x0), none, some (.int x2), none, none, some (.int (-1 : Int32))] (Wk.k (Wk.s (Wk.k (Wk.k (Wk.s (Wk.k Wk.n)))))) ?_
      exact pf_X8_statement_B270 x0 x2 (-1 : Int32) h35 hf
    · refine j_iconst (4 : Int32) dX8_statement_234 (by decide) ?_
      refine j_istore [some (va_rf x0), some (va_rf x1), some (.int x2), none, some (va_rf x1), some (.int (4 : Int32))] dX8_statement_235 (cz (va_rf_cat _)) rfl rfl ?_
      refine j_goto 270 dX8_statement_237 (by decide) ?_
      refine j_weak [some (va_rf x0), none, some (.int x2), none, none, some (.int (4 : Int32))] (Wk.k (Wk.s (Wk.k (Wk.k (Wk.s (Wk.k Wk.n)))))) ?_
      exact pf_X8_statement_B270 x0 x2 (4 : Int32) h35 hf
  refine j_lookup (off := 176) 270 dX8_statement_94 (by decide) ((lv_osw c1159737108m (by decide)).trans ((lv_osw c905826493m (by decide)).trans ((lv_osw c3386882 (by decide)).trans ((lv_osw c3526257 (by decide)).trans ((lv_osw c102846042 (by decide)).trans ((lv_osw c108399245 (by decide)).trans ((lv_osw c108405416 (by decide)).trans rfl))))))) (by decide) ?_
  refine j_weak [some (va_rf x0), none, some (.int x2), none, none, some (.int (-1 : Int32))] (Wk.k (Wk.s (Wk.k (Wk.k (Wk.s (Wk.k Wk.n)))))) ?_
  exact pf_X8_statement_B270 x0 x2 (-1 : Int32) h21 hf
def f_X8_statement_B68 (x0 : Option Nat) (x1 : Option Nat) (x2 : Int32) (x3 : Int32) (h : PH) : Option (((Nat × Nat) ⊕ Unit) × PH) := (if x3 = 0 then (gR h x0 7 1 fun r15 => rv_ h r15 19 (cl_ (f_J2_add r15 x1 h) fun v17 h16 => f_X8_statement_B83 x0 x1 x2 h16)) else (f_X8_statement_B83 x0 x1 x2 h))
theorem pf_X8_statement_B68 {Γ : GX} {D : va_G} {h0 : PH} {o : ((Nat × Nat) ⊕ Unit) × PH} (x0 : Option Nat) (x1 : Option Nat) (x2 : Int32) (x3 : Int32) (h : PH) (hf : f_X8_statement_B68 x0 x1 x2 x3 h = some o) : PF Γ mi_X8_statement D h0 (QR Γ D h0 (oxv o.1) o.2) h 68 [some (va_rf x0), some (va_rf x1), some (.int x2), some (.int x3), none, none] [] := by
  refine j_iload_n 3 dX8_statement_68 rfl rfl ?_
  refine j_if_ne 83 dX8_statement_69 (by decide) hf (fun c_ hf => ?_) (fun c_ hf => ?_)
  · refine j_weak [some (va_rf x0), some (va_rf x1), some (.int x2), none, none, none] (Wk.k (Wk.k (Wk.k (Wk.s (Wk.k (Wk.k Wk.n)))))) ?_
    exact pf_X8_statement_B83 x0 x1 x2 h hf
  · refine j_aload_n 0 dX8_statement_72 rfl rfl ?_
    refine j_gR (ci := 7) (k := 1) rfl in_X8 rfl q906 dX8_statement_73 hf (fun r15 hf => ?_)
    refine j_aload_n 1 dX8_statement_76 rfl rfl ?_
    refine kc_X8_115 rfl rfl rfl (by decide) dX8_statement_77 hf (fun v17 h16 hf => ?_)
    refine j_pop dX8_statement_82 rfl ?_
    refine j_weak [some (va_rf x0), some (va_rf x1), some (.int x2), none, none, none] (Wk.k (Wk.k (Wk.k (Wk.s (Wk.k (Wk.k Wk.n)))))) ?_
    exact pf_X8_statement_B83 x0 x1 x2 h16 hf
def f_X8_statement_B59 (x2 : Int32) (h : PH) : Option (((Nat × Nat) ⊕ Unit) × PH) := nO h 8 7 [.int 0, .null, .null, .null, .null, .null, .int 0] fun a18 h19 => cl_ (f_X10_init a18 x2 h19) fun _u h20 => th_ h20 (some a18) fun ci9 q9 => xo_ h20 ci9 q9
theorem pf_X8_statement_B59 {Γ : GX} {D : va_G} {h0 : PH} {o : ((Nat × Nat) ⊕ Unit) × PH} (x2 : Int32) (h : PH) (hf : f_X8_statement_B59 x2 h = some o) : PF Γ mi_X8_statement D h0 (QR Γ D h0 (oxv o.1) o.2) h 59 [none, none, some (.int x2), none, none, none] [] := by
  refine j_nO (ci := 8) tyX10 tyX10_ok rfl in_X10 q924 q1040 q120 (by decide) dX8_statement_59 hf (fun a18 h19 hf => ?_)
  refine j_dup dX8_statement_62 (va_rf_cat _) ?_
  refine j_iload_n 2 dX8_statement_63 rfl rfl ?_
  refine kc_X8_114 rfl rfl rfl (by simp [va_rf_cat, cat_i, cat_l]) dX8_statement_64 hf (fun _u h20 hf => ?_)
  refine j_athrow dX8_statement_67 hf (fun ci9 q9 fs9 he9 hf => ?_)
  obtain ⟨hb9, hf⟩ := xo_in hf
  subst hf
  exact j_out (by decide) hb9 he9
def f_X8_statement (r0 : Option Nat) (h0 : PH) : Option (((Nat × Nat) ⊕ Unit) × PH) := rv_ h0 r0 7 (cl_ (f_X8_word r0 h0) fun r2 h1 => gI h1 r0 7 2 fun v3 => rv_ h1 r2 22 (cl_ (f_J9_length r2 h1) fun v5 h4 => rv_ h4 r2 22 (cl_ (f_J9_equals r2 (some (sAd h4.2.1 28)) h4) fun v7 h6 => (if v7 = 0 then (gR h6 r0 7 1 fun r8 => rv_ h6 r8 19 (cl_ (f_J2_contains r8 r2 h6) fun v10 h9 => (if v10 = 0 then (f_X8_statement_B68 r0 r2 (v3 - v5) v7 h9) else (f_X8_statement_B59 (v3 - v5) h9)))) else (gR h6 r0 7 0 fun r11 => gRN h6 r11 2 1 fun r12 => rv_ h6 r12 19 (cl_ (f_J2_size r12 h6) fun v14 h13 => (if v14 = (6 : Int32) then (f_X8_statement_B59 (v3 - v5) h13) else (f_X8_statement_B68 r0 r2 (v3 - v5) v7 h13))))))))
theorem hyS_X8_statement : yX8_statement.cls ≠ "java/lang/invoke/MethodHandle" ∧ yX8_statement.cls ≠ "java/lang/invoke/VarHandle" ∧ (parseMethodDescriptor yX8_statement.desc).map (fun d => d.parameters.length) = some 0 := by decide +kernel
theorem hyV_X8_statement : yX8_statement.cls = RX8 ∧ yX8_statement.cls ≠ "java/lang/invoke/MethodHandle" ∧ yX8_statement.cls ≠ "java/lang/invoke/VarHandle" ∧ (parseMethodDescriptor yX8_statement.desc).map (fun d => d.parameters.length) = some 0 := by decide +kernel
theorem c_X8_statement {D : va_G} (r0 : Option Nat) {h0 : PH} (l : Launch) (hl : l.stackTraces = false) (x : ((Nat × Nat) ⊕ Unit)) (h1 : PH) (hf : f_X8_statement r0 h0 = some (x, h1)) : CT l D yX8_statement (ws_ yX8_statement cX8_statement 6 none) 7 192 [va_rf r0] h0 (oxv x) h1 := by
  refine ct_of hl [some (va_rf r0), none, none, none, none, none] (by decide) (by rw [lgl]; simp [va_rf_cat, cat_i, cat_l]) (by simp [lv_args, vsL, va_rf_cat, cat_i, cat_l]) (fun Γ => ?_)
  obtain ⟨o, ho⟩ : ∃ o : ((Nat × Nat) ⊕ Unit) × PH, o = (x, h1) := ⟨_, rfl⟩
  rw [← ho] at hf
  have e1 : x = o.1 := by rw [ho]
  have e2 : h1 = o.2 := by rw [ho]
  subst e1 e2
  clear ho
  show PF Γ mi_X8_statement D h0 (QR Γ D h0 (oxv o.1) o.2) h0 0 [some (va_rf r0), none, none, none, none, none] []
  unfold f_X8_statement at hf
  refine j_aload_n 0 dX8_statement_0 rfl rfl ?_
  refine kc_X8_88 rfl rfl rfl (by decide) dX8_statement_1 hf (fun r2 h1 hf => ?_)
  refine j_astore_n 1 [some (va_rf r0), some (va_rf r2), none, none, none, none] dX8_statement_4 rfl (cz (va_rf_cat _)) rfl rfl ?_
  refine j_aload_n 0 dX8_statement_5 rfl rfl ?_
  refine j_gI (ci := 7) (k := 2) rfl in_X8 rfl q907 dX8_statement_6 hf (fun v3 hf => ?_)
  refine j_aload_n 1 dX8_statement_9 rfl rfl ?_
  refine kc_X8_91 rfl rfl rfl (by simp [va_rf_cat, cat_i, cat_l]) dX8_statement_10 hf (fun v5 h4 hf => ?_)
  refine j_isub dX8_statement_13 ?_
  refine j_istore_n 2 [some (va_rf r0), some (va_rf r2), some (.int (v3 - v5)), none, none, none] dX8_statement_14 rfl (cz (va_rf_cat _)) rfl rfl ?_
  refine j_aload_n 1 dX8_statement_15 rfl rfl ?_
  refine j_ldcS (i := 8) rfl rfl dX8_statement_16 ?_
  refine kc_X8_97 rfl rfl rfl (by decide) dX8_statement_18 hf (fun v7 h6 hf => ?_)
  refine j_istore_n 3 [some (va_rf r0), some (va_rf r2), some (.int (v3 - v5)), some (.int v7), none, none] dX8_statement_21 rfl (cz rfl) rfl rfl ?_
  refine j_iload_n 3 dX8_statement_22 rfl rfl ?_
  refine j_if_eq 46 dX8_statement_23 (by decide) hf (fun c_ hf => ?_) (fun c_ hf => ?_)
  · refine j_aload_n 0 dX8_statement_46 rfl rfl ?_
    refine j_gR (ci := 7) (k := 1) rfl in_X8 rfl q906 dX8_statement_47 hf (fun r8 hf => ?_)
    refine j_aload_n 1 dX8_statement_50 rfl rfl ?_
    refine kc_X8_109 rfl rfl rfl (by decide) dX8_statement_51 hf (fun v10 h9 hf => ?_)
    refine j_if_eq 68 dX8_statement_56 (by decide) hf (fun c_ hf => ?_) (fun c_ hf => ?_)
    · exact pf_X8_statement_B68 r0 r2 (v3 - v5) v7 h9 hf
    · refine j_weak [none, none, some (.int (v3 - v5)), none, none, none] (Wk.s (Wk.s (Wk.k (Wk.s (Wk.k (Wk.k Wk.n)))))) ?_
      exact pf_X8_statement_B59 (v3 - v5) h9 hf
  · refine j_aload_n 0 dX8_statement_26 rfl rfl ?_
    refine j_gR (ci := 7) (k := 0) rfl in_X8 rfl q905 dX8_statement_27 hf (fun r11 hf => ?_)
    refine j_gRN (ci := 2) (k := 1) rfl in_X3 rfl q524 dX8_statement_30 hf (fun r12 hf => ?_)
    refine kc_X8_104 rfl rfl rfl (by decide) dX8_statement_33 hf (fun v14 h13 hf => ?_)
    refine j_bipush (6 : Int32) dX8_statement_38 (by decide) ?_
    refine j_icmp_ne 68 dX8_statement_40 (by decide) hf (fun c_ hf => ?_) (fun c_ hf => ?_)
    · exact pf_X8_statement_B68 r0 r2 (v3 - v5) v7 h13 hf
    · refine j_goto 59 dX8_statement_43 (by decide) ?_
      refine j_weak [none, none, some (.int (v3 - v5)), none, none, none] (Wk.s (Wk.s (Wk.k (Wk.s (Wk.k (Wk.k Wk.n)))))) ?_
      exact pf_X8_statement_B59 (v3 - v5) h13 hf
