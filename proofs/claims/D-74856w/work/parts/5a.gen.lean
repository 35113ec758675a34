/-! printed by gen.py: J19_ordinal_X15 X15_isToNode X2_init X2_firstMessage X2_pass X2_changeLinks X2_watch X2_serverClock X2_note X2_send X2_carryOut X2_granted X2_acquire X2_restartServer -/
set_option maxRecDepth 100000
abbrev mi_J19_ordinal_X15 : MI := (cJ19_ordinal, 1, RJ19, (Option.some FieldType.int), [], 0, 0, "ordinal")
def f_J19_ordinal_X15 (r0 : Option Nat) (h0 : PH) : Option (Int32 × PH) := gI h0 r0 25 0 fun v1 => some (v1, h0)
theorem hyS_J19_ordinal_X15 : yJ19_ordinal.cls ≠ "java/lang/invoke/MethodHandle" ∧ yJ19_ordinal.cls ≠ "java/lang/invoke/VarHandle" ∧ (parseMethodDescriptor yJ19_ordinal.desc).map (fun d => d.parameters.length) = some 0 := by decide +kernel
theorem hyV_J19_ordinal_X15 : yJ19_ordinal.cls = RJ19 ∧ yJ19_ordinal.cls ≠ "java/lang/invoke/MethodHandle" ∧ yJ19_ordinal.cls ≠ "java/lang/invoke/VarHandle" ∧ (parseMethodDescriptor yJ19_ordinal.desc).map (fun d => d.parameters.length) = some 0 := by decide +kernel
theorem c_J19_ordinal_X15 {D : va_G} (r0 : Option Nat) {h0 : PH} (l : Launch) (hl : l.stackTraces = false) (x : Int32) (h1 : PH) (hf : f_J19_ordinal_X15 r0 h0 = some (x, h1)) : CT l D yJ19_ordinal (ws_ yJ19_ordinal cJ19_ordinal 1 (Option.some FieldType.int)) 0 0 [va_rf r0] h0 (ovi x) h1 := by
  refine ct_of hl [some (va_rf r0)] (by decide) (by rw [lgl]; simp [va_rf_cat, cat_i, cat_l]) (by simp [lv_args, vsL, va_rf_cat, cat_i, cat_l]) (fun Γ => ?_)
  obtain ⟨o, ho⟩ : ∃ o : Int32 × PH, o = (x, h1) := ⟨_, rfl⟩
  rw [← ho] at hf
  have e1 : x = o.1 := by rw [ho]
  have e2 : h1 = o.2 := by rw [ho]
  subst e1 e2
  clear ho
  show PF Γ mi_J19_ordinal_X15 D h0 (QR Γ D h0 (ovi o.1) o.2) h0 0 [some (va_rf r0)] []
  unfold f_J19_ordinal_X15 at hf
  refine j_aload_n 0 dJ19_ordinal_0 rfl rfl ?_
  refine j_gIK q2838 dJ19_ordinal_1 hf (fun v1 hf => ?_)
  have e9 := Option.some.inj hf
  subst e9
  exact j_iret rfl dJ19_ordinal_4
theorem kc_X15_50_X15 {Γ : GX} {I : MI} {D : va_G} {h0 : PH} {Q : State → Prop} {h : PH} {pc : Nat} {vs : List (Option Value)} {rest : List Value} {β : Type} {o : β} {r : Option Nat}  {K : ((Int32) → PH → Option β)} (hI : I.2.2.1 = RX15) (hfr : Nat.ble 1 I.2.2.2.2.2.1 = true) (hlo : Nat.ble 20 I.2.2.2.2.2.2.1 = true) (hW : (rest.map fun v => v.category).sum ≤ 8) (hd : decode I.1 pc = .ok (.invokevirtual 50, 3)) (hf : rv_ h r 25 (cl_ (f_J19_ordinal_X15 r h) K) = some o) (kk : ∀ (x : Int32) (h1 : PH), K x h1 = some o → PF Γ I D h0 Q h1 (pc + 3) vs (.int x :: rest)) : PF Γ I D h0 Q h pc vs (va_rf r :: rest) := by
  obtain ⟨cc, nL, own, rt, xt, fr, lo, nm⟩ := I
  cases hI
  exact j_cUi (n := 0) (y := yJ19_ordinal) (cc2 := cJ19_ordinal) (As := []) (ci := 25) (x9 := ⟨"LeaderLeases$Kind", "ordinal", "()I"⟩) (owner := RJ19) (lw_U (C := RX15) q1355 q1356 q1358 q1359 q125 q1360) rfl (by decide +kernel) hfr hlo rfl hW hd (c_J19_ordinal_X15 r) hf _ rfl kk
abbrev mi_X15_isToNode : MI := (cX15_isToNode, 1, RX15, (Option.some FieldType.boolean), [], 1, 20, "isToNode")
def f_X15_isToNode_B32 (t0 : Int32) (h : PH) : Option (Int32 × PH) := rN .boolean t0 (fun v => v) h
theorem pf_X15_isToNode_B32 {Γ : GX} {D : va_G} {h0 : PH} {o : Int32 × PH} (t0 : Int32) (h : PH) (hf : f_X15_isToNode_B32 t0 h = some o) : PF Γ mi_X15_isToNode D h0 (QR Γ D h0 (ovi o.1) o.2) h 32 [none] [.int t0] := by
  obtain ⟨hn9, hf⟩ := rN_in hf
  subst hf
  exact j_zret rfl (nar_z _ hn9) dX15_isToNode_32
def f_X15_isToNode_B27  (h : PH) : Option (Int32 × PH) := f_X15_isToNode_B32 (1 : Int32) h
theorem pf_X15_isToNode_B27 {Γ : GX} {D : va_G} {h0 : PH} {o : Int32 × PH}  (h : PH) (hf : f_X15_isToNode_B27  h = some o) : PF Γ mi_X15_isToNode D h0 (QR Γ D h0 (ovi o.1) o.2) h 27 [none] [] := by
  refine j_iconst (1 : Int32) dX15_isToNode_27 (by decide) ?_
  refine j_goto 32 dX15_isToNode_28 (by decide) ?_
  exact pf_X15_isToNode_B32 (1 : Int32) h hf
def f_X15_isToNode (r0 : Option Nat) (h0 : PH) : Option (Int32 × PH) := asR (some (h0.2.1.1 1)) fun r1 => (if r0 = r1 then (f_X15_isToNode_B27 h0) else (asR (some (h0.2.1.1 2)) fun r2 => (if r0 = r2 then (f_X15_isToNode_B27 h0) else (rv_ h0 r0 25 (cl_ (f_J19_ordinal_X15 r0 h0) fun v4 h3 => asR (some (h3.2.1.1 6)) fun r5 => rv_ h3 r5 25 (cl_ (f_J19_ordinal_X15 r5 h3) fun v7 h6 => (if v4 < v7 then (f_X15_isToNode_B32 (0 : Int32) h6) else (f_X15_isToNode_B27 h6))))))))
theorem hyS_X15_isToNode : yX15_isToNode.cls ≠ "java/lang/invoke/MethodHandle" ∧ yX15_isToNode.cls ≠ "java/lang/invoke/VarHandle" ∧ (parseMethodDescriptor yX15_isToNode.desc).map (fun d => d.parameters.length) = some 0 := by decide +kernel
theorem hyV_X15_isToNode : yX15_isToNode.cls = RX15 ∧ yX15_isToNode.cls ≠ "java/lang/invoke/MethodHandle" ∧ yX15_isToNode.cls ≠ "java/lang/invoke/VarHandle" ∧ (parseMethodDescriptor yX15_isToNode.desc).map (fun d => d.parameters.length) = some 0 := by decide +kernel
theorem c_X15_isToNode {D : va_G} (r0 : Option Nat) {h0 : PH} (l : Launch) (hl : l.stackTraces = false) (x : Int32) (h1 : PH) (hf : f_X15_isToNode r0 h0 = some (x, h1)) : CT l D yX15_isToNode (ws_ yX15_isToNode cX15_isToNode 1 (Option.some FieldType.boolean)) 1 20 [va_rf r0] h0 (ovi x) h1 := by
  refine ct_of hl [some (va_rf r0)] (by decide) (by rw [lgl]; simp [va_rf_cat, cat_i, cat_l]) (by simp [lv_args, vsL, va_rf_cat, cat_i, cat_l]) (fun Γ => ?_)
  obtain ⟨o, ho⟩ : ∃ o : Int32 × PH, o = (x, h1) := ⟨_, rfl⟩
  rw [← ho] at hf
  have e1 : x = o.1 := by rw [ho]
  have e2 : h1 = o.2 := by rw [ho]
  subst e1 e2
  clear ho
  show PF Γ mi_X15_isToNode D h0 (QR Γ D h0 (ovi o.1) o.2) h0 0 [some (va_rf r0)] []
  unfold f_X15_isToNode at hf
  refine j_aload_n 0 dX15_isToNode_0 rfl rfl ?_
  refine j_gsR (i := 1) rfl q1351 dX15_isToNode_1 hf (fun r1 hf => ?_)
  refine j_acmp_eq 27 dX15_isToNode_4 (by decide) hf (fun c_ hf => ?_) (fun c_ hf => ?_)
  · refine j_weak [none] (Wk.s Wk.n) ?_
    exact pf_X15_isToNode_B27  h0 hf
  · refine j_aload_n 0 dX15_isToNode_7 rfl rfl ?_
    refine j_gsR (i := 2) rfl q1353 dX15_isToNode_8 hf (fun r2 hf => ?_)
    refine j_acmp_eq 27 dX15_isToNode_11 (by decide) hf (fun c_ hf => ?_) (fun c_ hf => ?_)
    · refine j_weak [none] (Wk.s Wk.n) ?_
      exact pf_X15_isToNode_B27  h0 hf
    · refine j_aload_n 0 dX15_isToNode_14 rfl rfl ?_
      refine kc_X15_50_X15 rfl rfl rfl (by decide) dX15_isToNode_15 hf (fun v4 h3 hf => ?_)
      refine j_gsR (i := 6) rfl q1361 dX15_isToNode_18 hf (fun r5 hf => ?_)
      refine kc_X15_50_X15 rfl rfl rfl (by simp [va_rf_cat, cat_i, cat_l]) dX15_isToNode_21 hf (fun v7 h6 hf => ?_)
      refine j_icmp_lt 31 dX15_isToNode_24 (by decide) hf (fun c_ hf => ?_) (fun c_ hf => ?_)
      · refine j_iconst (0 : Int32) dX15_isToNode_31 (by decide) ?_
        refine j_weak [none] (Wk.s Wk.n) ?_
        exact pf_X15_isToNode_B32 (0 : Int32) h6 hf
      · refine j_weak [none] (Wk.s Wk.n) ?_
        exact pf_X15_isToNode_B27  h6 hf
theorem kc_X2_11 {Γ : GX} {I : MI} {D : va_G} {h0 : PH} {Q : State → Prop} {h : PH} {pc : Nat} {vs : List (Option Value)} {rest : List Value} {β : Type} {o : β} {a : Nat} {p0 : Int32} {K : ((Unit) → PH → Option β)} (hI : I.2.2.1 = RX2) (hfr : Nat.ble 4 I.2.2.2.2.2.1 = true) (hlo : Nat.ble 81 I.2.2.2.2.2.2.1 = true) (hW : (rest.map fun v => v.category).sum ≤ 8) (hd : decode I.1 pc = .ok (.invokespecial 11, 3)) (hf : cl_ (f_J2_init a p0 h) K = some o) (kk : ∀ (x : Unit) (h1 : PH), K x h1 = some o → PF Γ I D h0 Q h1 (pc + 3) vs (rest)) : PF Γ I D h0 Q h pc vs (.int p0 :: va_rf (some a) :: rest) := by
  obtain ⟨cc, nL, own, rt, xt, fr, lo, nm⟩ := I
  cases hI
  exact j_cIv (n := 1) (y := yJ2_init) (cc2 := cJ2_init) (As := [.int p0]) (lw_meth q173) q96 q658 q172 rfl hyS_J2_init hfr hlo rfl hW hd (c_J2_init a p0) ⟨_, rfl⟩ hf _ rfl kk
theorem kc_X2_31 {Γ : GX} {I : MI} {D : va_G} {h0 : PH} {Q : State → Prop} {h : PH} {pc : Nat} {vs : List (Option Value)} {rest : List Value} {β : Type} {o : β} {a : Nat}  {K : ((Unit) → PH → Option β)} (hI : I.2.2.1 = RX2) (hfr : Nat.ble 2 I.2.2.2.2.2.1 = true) (hlo : Nat.ble 40 I.2.2.2.2.2.2.1 = true) (hW : (rest.map fun v => v.category).sum ≤ 8) (hd : decode I.1 pc = .ok (.invokespecial 31, 3)) (hf : cl_ (f_X5_init a h) K = some o) (kk : ∀ (x : Unit) (h1 : PH), K x h1 = some o → PF Γ I D h0 Q h1 (pc + 3) vs (rest)) : PF Γ I D h0 Q h pc vs (va_rf (some a) :: rest) := by
  obtain ⟨cc, nL, own, rt, xt, fr, lo, nm⟩ := I
  cases hI
  exact j_cINv (n := 0) (y := yX5_init) (cc2 := cX5_init) (As := []) (lw_meth q663) q114 q661 q662 rfl hyS_X5_init hfr hlo rfl hW hd (c_X5_init a) hf _ rfl kk
theorem kc_X2_56 {Γ : GX} {I : MI} {D : va_G} {h0 : PH} {Q : State → Prop} {h : PH} {pc : Nat} {vs : List (Option Value)} {rest : List Value} {β : Type} {o : β} {r : Option Nat}  {K : ((Int32) → PH → Option β)} (hI : I.2.2.1 = RX2) (hfr : Nat.ble 1 I.2.2.2.2.2.1 = true) (hlo : Nat.ble 20 I.2.2.2.2.2.2.1 = true) (hW : (rest.map fun v => v.category).sum ≤ 8) (hd : decode I.1 pc = .ok (.invokeinterface 56 1, 5)) (hf : rv_ h r 19 (cl_ (f_J2_size r h) K) = some o) (kk : ∀ (x : Int32) (h1 : PH), K x h1 = some o → PF Γ I D h0 Q h1 (pc + 5) vs (.int x :: rest)) : PF Γ I D h0 Q h pc vs (va_rf r :: rest) := by
  obtain ⟨cc, nL, own, rt, xt, fr, lo, nm⟩ := I
  cases hI
  exact j_cFi (n := 0) (y := yJ2_size) (cc2 := cJ2_size) (As := []) (C := RJ2) (x9 := ⟨"java/util/List", "size", "()I"⟩) (ci := 19) rfl (by decide +kernel) (lw_F q681 q684 q686 q96 q688) (by decide +kernel) hfr hlo rfl hW hd (c_J2_size r) hf _ rfl kk
theorem kc_X2_68 {Γ : GX} {I : MI} {D : va_G} {h0 : PH} {Q : State → Prop} {h : PH} {pc : Nat} {vs : List (Option Value)} {rest : List Value} {β : Type} {o : β} {r : Option Nat} {p0 : Int32} {K : ((Option Nat) → PH → Option β)} (hI : I.2.2.1 = RX2) (hfr : Nat.ble 3 I.2.2.2.2.2.1 = true) (hlo : Nat.ble 64 I.2.2.2.2.2.2.1 = true) (hW : (rest.map fun v => v.category).sum ≤ 8) (hd : decode I.1 pc = .ok (.invokeinterface 68 2, 5)) (hf : rv_ h r 19 (cl_ (f_J2_get r p0 h) K) = some o) (kk : ∀ (x : Option Nat) (h1 : PH), K x h1 = some o → PF Γ I D h0 Q h1 (pc + 5) vs (va_rf x :: rest)) : PF Γ I D h0 Q h pc vs (.int p0 :: va_rf r :: rest) := by
  obtain ⟨cc, nL, own, rt, xt, fr, lo, nm⟩ := I
  cases hI
  exact j_cFr (n := 1) (y := yJ2_get) (cc2 := cJ2_get) (As := [.int p0]) (C := RJ2) (x9 := ⟨"java/util/List", "get", "(I)Ljava/lang/Object;"⟩) (ci := 19) rfl (by decide +kernel) (lw_F q693 q696 q698 q96 q700) (by decide +kernel) hfr hlo rfl hW hd (c_J2_get r p0) hf _ rfl kk
theorem kc_X2_79 {Γ : GX} {I : MI} {D : va_G} {h0 : PH} {Q : State → Prop} {h : PH} {pc : Nat} {vs : List (Option Value)} {rest : List Value} {β : Type} {o : β} {r : Option Nat}  {K : ((Int32) → PH → Option β)} (hI : I.2.2.1 = RX2) (hfr : Nat.ble 1 I.2.2.2.2.2.1 = true) (hlo : Nat.ble 20 I.2.2.2.2.2.2.1 = true) (hW : (rest.map fun v => v.category).sum ≤ 8) (hd : decode I.1 pc = .ok (.invokevirtual 79, 3)) (hf : rv_ h r 23 (cl_ (f_J17_intValue r h) K) = some o) (kk : ∀ (x : Int32) (h1 : PH), K x h1 = some o → PF Γ I D h0 Q h1 (pc + 3) vs (.int x :: rest)) : PF Γ I D h0 Q h pc vs (va_rf r :: rest) := by
  obtain ⟨cc, nL, own, rt, xt, fr, lo, nm⟩ := I
  cases hI
  exact j_cVi (n := 0) (y := yJ17_intValue) (cc2 := cJ17_intValue) (As := []) (C := RJ17) (ci := 23) rfl (lw_V q713 q714 q715 q112 q716) hyV_J17_intValue hfr hlo rfl hW hd (c_J17_intValue r) hf _ rfl kk
theorem kc_X2_82 {Γ : GX} {I : MI} {D : va_G} {h0 : PH} {Q : State → Prop} {h : PH} {pc : Nat} {vs : List (Option Value)} {rest : List Value} {β : Type} {o : β} {a : Nat} {p0 : Option Nat} {p1 : Int32} {K : ((Unit) → PH → Option β)} (hI : I.2.2.1 = RX2) (hfr : Nat.ble 2 I.2.2.2.2.2.1 = true) (hlo : Nat.ble 42 I.2.2.2.2.2.2.1 = true) (hW : (rest.map fun v => v.category).sum ≤ 8) (hd : decode I.1 pc = .ok (.invokespecial 82, 3)) (hf : cl_ (f_X6_init a p0 p1 h) K = some o) (kk : ∀ (x : Unit) (h1 : PH), K x h1 = some o → PF Γ I D h0 Q h1 (pc + 3) vs (rest)) : PF Γ I D h0 Q h pc vs (.int p1 :: va_rf p0 :: va_rf (some a) :: rest) := by
  obtain ⟨cc, nL, own, rt, xt, fr, lo, nm⟩ := I
  cases hI
  exact j_cIv (n := 2) (y := yX6_init) (cc2 := cX6_init) (As := [va_rf p0, .int p1]) (lw_meth q719) q115 q717 q718 rfl hyS_X6_init hfr hlo rfl hW hd (c_X6_init a p0 p1) ⟨_, rfl⟩ hf _ rfl kk
abbrev mi_X2_init : MI := (cX2_init, 3, RX2, none, [], 4, 81, "<init>")
def f_X2_init_L106 : Nat → Option Nat → Option Nat → Int32 → PH → Option (Unit × PH)
  | 0, _, _, _, _ => none
  | n + 1, x0, x1, x2, h => gR h x0 1 1 fun r33 => aN h r33 5 fun v34 => (if v34 ≤ x2 then (gIN h x1 2 8 fun v35 => pV h x0 1 9 (.int v35) fun h36 => some ((), h36)) else (gR h x0 1 1 fun r37 => nO h 5 13 [.null, .int 0, .int 0, .int 0, .int 0, .int 0, .int 0, .int 0, .int 0, .int 0, .int 0, .int 0, .null] fun a38 h39 => gRN h39 x1 2 1 fun r40 => rv_ h39 r40 19 (cl_ (f_J2_get r40 x2 h39) fun r42 h41 => kC h41 r42 3 (gRN h41 x1 2 2 fun r43 => rv_ h41 r43 19 (cl_ (f_J2_get r43 x2 h41) fun r45 h44 => kC h44 r45 23 (rv_ h44 r45 23 (cl_ (f_J17_intValue r45 h44) fun v47 h46 => cl_ (f_X6_init a38 r42 v47 h46) fun _u h48 => sQ h48 r37 5 x2 (some a38) fun h49 => f_X2_init_L106 n x0 x1 (x2 + (1 : Int32)) h49)))))))
theorem pf_X2_init_L106 {Γ : GX} {D : va_G} {h0 : PH} {o : Unit × PH} : ∀ (n : Nat) (x0 : Option Nat) (x1 : Option Nat) (x2 : Int32) (h : PH), f_X2_init_L106 n x0 x1 x2 h = some o → PF Γ mi_X2_init D h0 (QR Γ D h0 (ovv o.1) o.2) h 106 [some (va_rf x0), some (va_rf x1), some (.int x2)] [] := by
  intro n
  induction n with
  | zero => intro x0 x1 x2 h hf; cases hf
  | succ n ih =>
    intro x0 x1 x2 h hf
    refine j_iload_n 2 dX2_init_106 rfl rfl ?_
    refine j_aload_n 0 dX2_init_107 rfl rfl ?_
    refine j_gR (ci := 1) (k := 1) rfl in_X2 rfl q788 dX2_init_108 hf (fun r33 hf => ?_)
    refine j_alen (t := 5) rfl dX2_init_111 hf (fun v34 hf => ?_)
    refine j_icmp_ge 163 dX2_init_112 (by decide) hf (fun c_ hf => ?_) (fun c_ hf => ?_)
    · refine j_aload_n 0 dX2_init_163 rfl rfl ?_
      refine j_aload_n 1 dX2_init_164 rfl rfl ?_
      refine j_gIN (ci := 2) (k := 8) rfl in_X3 rfl q544 dX2_init_165 hf (fun v35 hf => ?_)
      refine j_pV (ci := 1) (k := 9) tyX2 tyX2_ok nmX2 rfl in_X2 rfl q804 (Or.inl rfl) rfl (fit_i _) dX2_init_168 hf (fun h36 hf => ?_)
      have e9 := Option.some.inj hf
      subst e9
      exact j_vret rfl dX2_init_171
    · refine j_aload_n 0 dX2_init_115 rfl rfl ?_
      refine j_gR (ci := 1) (k := 1) rfl in_X2 rfl q788 dX2_init_116 hf (fun r37 hf => ?_)
      refine j_iload_n 2 dX2_init_119 rfl rfl ?_
      refine j_nO (ci := 5) tyX6 tyX6_ok rfl in_X6 q689 q691 q115 (by decide) dX2_init_120 hf (fun a38 h39 hf => ?_)
      refine j_dup dX2_init_123 (va_rf_cat _) ?_
      refine j_aload_n 1 dX2_init_124 rfl rfl ?_
      refine j_gRN (ci := 2) (k := 1) rfl in_X3 rfl q522 dX2_init_125 hf (fun r40 hf => ?_)
      refine j_iload_n 2 dX2_init_128 rfl rfl ?_
      refine kc_X2_68 rfl rfl rfl (by simp [va_rf_cat, cat_i, cat_l]) dX2_init_129 hf (fun r42 h41 hf => ?_)
      refine j_kC (ci := 3) rfl q711 dX2_init_134 hf (fun hf => ?_)
      refine j_aload_n 1 dX2_init_137 rfl rfl ?_
      refine j_gRN (ci := 2) (k := 2) rfl in_X3 rfl q526 dX2_init_138 hf (fun r43 hf => ?_)
      refine j_iload_n 2 dX2_init_141 rfl rfl ?_
      refine kc_X2_68 rfl rfl rfl (by simp [va_rf_cat, cat_i, cat_l]) dX2_init_142 hf (fun r45 h44 hf => ?_)
      refine j_kC (ci := 23) rfl q712 dX2_init_147 hf (fun hf => ?_)
      refine kc_X2_79 rfl rfl rfl (by simp [va_rf_cat, cat_i, cat_l]) dX2_init_150 hf (fun v47 h46 hf => ?_)
      refine kc_X2_82 rfl rfl rfl (by simp [va_rf_cat, cat_i, cat_l]) dX2_init_153 hf (fun _u h48 hf => ?_)
      refine j_aast (t := 5) rfl dX2_init_156 hf (fun h49 hf => ?_)
      refine j_iinc (x2 + (1 : Int32)) [some (va_rf x0), some (va_rf x1), some (.int (x2 + (1 : Int32)))] dX2_init_157 rfl rfl (cz (va_rf_cat _)) rfl rfl ?_
      refine j_goto 106 dX2_init_160 (by decide) ?_
      exact ih x0 x1 (x2 + (1 : Int32)) h49 hf
def f_X2_init (a0 : Nat) (p0 : Option Nat) (h0 : PH) : Option (Unit × PH) := nO h0 19 3 [.int 0, .null, .int 0] fun a1 h2 => cl_ (f_J2_init a1 (4 : Int32) h2) fun _u h3 => pV h3 (some a0) 1 2 (va_rf (some a1)) fun h4 => nO h4 19 3 [.int 0, .null, .int 0] fun a5 h6 => cl_ (f_J2_init a5 (2 : Int32) h6) fun _u h7 => pV h7 (some a0) 1 3 (va_rf (some a5)) fun h8 => nO h8 19 3 [.int 0, .null, .int 0] fun a9 h10 => cl_ (f_J2_init a9 (2 : Int32) h10) fun _u h11 => pV h11 (some a0) 1 4 (va_rf (some a9)) fun h12 => nO h12 19 3 [.int 0, .null, .int 0] fun a13 h14 => cl_ (f_J2_init a13 (4 : Int32) h14) fun _u h15 => pV h15 (some a0) 1 5 (va_rf (some a13)) fun h16 => nO h16 4 3 [.null, .null, .int 0] fun a17 h18 => cl_ (f_X5_init a17 h18) fun _u h19 => pV h19 (some a0) 1 6 (va_rf (some a17)) fun h20 => nA h20 0 (9 : Int32) (.inl fun _ => 0) fun a21 h22 => pV h22 (some a0) 1 7 (va_rf (some a21)) fun h23 => pV h23 (some a0) 1 12 (.int (-4 : Int32)) fun h24 => pV h24 (some a0) 1 21 (.int (-4 : Int32)) fun h25 => pV h25 (some a0) 1 0 (va_rf p0) fun h26 => gRN h26 p0 2 1 fun r27 => rv_ h26 r27 19 (cl_ (f_J2_size r27 h26) fun v29 h28 => nA h28 5 v29 aNul fun a30 h31 => pV h31 (some a0) 1 1 (va_rf (some a30)) fun h32 => f_X2_init_L106 FU (some a0) p0 (0 : Int32) h32)
theorem hyS_X2_init : yX2_init.cls ≠ "java/lang/invoke/MethodHandle" ∧ yX2_init.cls ≠ "java/lang/invoke/VarHandle" ∧ (parseMethodDescriptor yX2_init.desc).map (fun d => d.parameters.length) = some 1 := by decide +kernel
theorem c_X2_init {D : va_G} (a0 : Nat) (p0 : Option Nat) {h0 : PH} (l : Launch) (hl : l.stackTraces = false) (x : Unit) (h1 : PH) (hf : f_X2_init a0 p0 h0 = some (x, h1)) : CT l D yX2_init (ws_ yX2_init cX2_init 3 none) 4 81 [va_rf (some a0), va_rf p0] h0 (ovv x) h1 := by
  refine ct_of hl [some (va_rf (some a0)), some (va_rf p0), none] (by decide) (by rw [lgl]; simp [va_rf_cat, cat_i, cat_l]) (by simp [lv_args, vsL, va_rf_cat, cat_i, cat_l]) (fun Γ => ?_)
  obtain ⟨o, ho⟩ : ∃ o : Unit × PH, o = (x, h1) := ⟨_, rfl⟩
  rw [← ho] at hf
  have e1 : x = o.1 := by rw [ho]
  have e2 : h1 = o.2 := by rw [ho]
  subst e1 e2
  clear ho
  show PF Γ mi_X2_init D h0 (QR Γ D h0 (ovv o.1) o.2) h0 0 [some (va_rf (some a0)), some (va_rf p0), none] []
  unfold f_X2_init at hf
  refine j_aload_n 0 dX2_init_0 rfl rfl ?_
  refine j_objI q656 q141 q142 rfl rfl ⟨_, rfl⟩ (by decide) dX2_init_1 ?_
  refine j_aload_n 0 dX2_init_4 rfl rfl ?_
  refine j_nO (ci := 19) tyJ2 tyJ2_ok rfl in_J2 q657 q170 q96 (by decide) dX2_init_5 hf (fun a1 h2 hf => ?_)
  refine j_dup dX2_init_8 (va_rf_cat _) ?_
  refine j_iconst (4 : Int32) dX2_init_9 (by decide) ?_
  refine kc_X2_11 rfl rfl rfl (by simp [va_rf_cat, cat_i, cat_l]) dX2_init_10 hf (fun _u h3 hf => ?_)
  refine j_pV (ci := 1) (k := 2) tyX2 tyX2_ok nmX2 rfl in_X2 rfl q790 (Or.inr ⟨rfl, rfl, rfl⟩) rfl (fit_o _ _) dX2_init_13 hf (fun h4 hf => ?_)
  refine j_aload_n 0 dX2_init_16 rfl rfl ?_
  refine j_nO (ci := 19) tyJ2 tyJ2_ok rfl in_J2 q657 q170 q96 (by decide) dX2_init_17 hf (fun a5 h6 hf => ?_)
  refine j_dup dX2_init_20 (va_rf_cat _) ?_
  refine j_iconst (2 : Int32) dX2_init_21 (by decide) ?_
  refine kc_X2_11 rfl rfl rfl (by simp [va_rf_cat, cat_i, cat_l]) dX2_init_22 hf (fun _u h7 hf => ?_)
  refine j_pV (ci := 1) (k := 3) tyX2 tyX2_ok nmX2 rfl in_X2 rfl q792 (Or.inr ⟨rfl, rfl, rfl⟩) rfl (fit_o _ _) dX2_init_25 hf (fun h8 hf => ?_)
  refine j_aload_n 0 dX2_init_28 rfl rfl ?_
  refine j_nO (ci := 19) tyJ2 tyJ2_ok rfl in_J2 q657 q170 q96 (by decide) dX2_init_29 hf (fun a9 h10 hf => ?_)
  refine j_dup dX2_init_32 (va_rf_cat _) ?_
  refine j_iconst (2 : Int32) dX2_init_33 (by decide) ?_
  refine kc_X2_11 rfl rfl rfl (by simp [va_rf_cat, cat_i, cat_l]) dX2_init_34 hf (fun _u h11 hf => ?_)
  refine j_pV (ci := 1) (k := 4) tyX2 tyX2_ok nmX2 rfl in_X2 rfl q794 (Or.inr ⟨rfl, rfl, rfl⟩) rfl (fit_o _ _) dX2_init_37 hf (fun h12 hf => ?_)
  refine j_aload_n 0 dX2_init_40 rfl rfl ?_
  refine j_nO (ci := 19) tyJ2 tyJ2_ok rfl in_J2 q657 q170 q96 (by decide) dX2_init_41 hf (fun a13 h14 hf => ?_)
  refine j_dup dX2_init_44 (va_rf_cat _) ?_
  refine j_iconst (4 : Int32) dX2_init_45 (by decide) ?_
  refine kc_X2_11 rfl rfl rfl (by simp [va_rf_cat, cat_i, cat_l]) dX2_init_46 hf (fun _u h15 hf => ?_)
  refine j_pV (ci := 1) (k := 5) tyX2 tyX2_ok nmX2 rfl in_X2 rfl q796 (Or.inr ⟨rfl, rfl, rfl⟩) rfl (fit_o _ _) dX2_init_49 hf (fun h16 hf => ?_)
  refine j_aload_n 0 dX2_init_52 rfl rfl ?_
  refine j_nO (ci := 4) tyX5 tyX5_ok rfl in_X5 q659 q660 q114 (by decide) dX2_init_53 hf (fun a17 h18 hf => ?_)
  refine j_dup dX2_init_56 (va_rf_cat _) ?_
  refine kc_X2_31 rfl rfl rfl (by simp [va_rf_cat, cat_i, cat_l]) dX2_init_57 hf (fun _u h19 hf => ?_)
  refine j_pV (ci := 1) (k := 6) tyX2 tyX2_ok nmX2 rfl in_X2 rfl q798 (Or.inr ⟨rfl, rfl, rfl⟩) rfl (fit_o _ _) dX2_init_60 hf (fun h20 hf => ?_)
  refine j_aload_n 0 dX2_init_63 rfl rfl ?_
  refine j_bipush (9 : Int32) dX2_init_64 (by decide) ?_
  refine j_nA (t := 0) (atype := .int) (ty := .int) rfl (fun _ => rfl) (fun _ _ => rfl) (by decide) (fun _ _ h9 => h9) q679 dX2_init_66 hf (fun a21 h22 hf => ?_)
  refine j_pV (ci := 1) (k := 7) tyX2 tyX2_ok nmX2 rfl in_X2 rfl q800 (Or.inr ⟨rfl, rfl, rfl⟩) rfl (fit_a _ _) dX2_init_68 hf (fun h23 hf => ?_)
  refine j_aload_n 0 dX2_init_71 rfl rfl ?_
  refine j_bipush (-4 : Int32) dX2_init_72 (by decide) ?_
  refine j_pV (ci := 1) (k := 12) tyX2 tyX2_ok nmX2 rfl in_X2 rfl q808 (Or.inl rfl) rfl (fit_i _) dX2_init_74 hf (fun h24 hf => ?_)
  refine j_aload_n 0 dX2_init_77 rfl rfl ?_
  refine j_bipush (-4 : Int32) dX2_init_78 (by decide) ?_
  refine j_pV (ci := 1) (k := 21) tyX2 tyX2_ok nmX2 rfl in_X2 rfl q825 (Or.inl rfl) rfl (fit_i _) dX2_init_80 hf (fun h25 hf => ?_)
  refine j_aload_n 0 dX2_init_83 rfl rfl ?_
  refine j_aload_n 1 dX2_init_84 rfl rfl ?_
  refine j_pV (ci := 1) (k := 0) tyX2 tyX2_ok nmX2 rfl in_X2 rfl q786 (Or.inr ⟨rfl, rfl, rfl⟩) rfl (fit_o _ _) dX2_init_85 hf (fun h26 hf => ?_)
  refine j_aload_n 0 dX2_init_88 rfl rfl ?_
  refine j_aload_n 1 dX2_init_89 rfl rfl ?_
  refine j_gRN (ci := 2) (k := 1) rfl in_X3 rfl q522 dX2_init_90 hf (fun r27 hf => ?_)
  refine kc_X2_56 rfl rfl rfl (by simp [va_rf_cat, cat_i, cat_l]) dX2_init_93 hf (fun v29 h28 hf => ?_)
  refine j_nQ (t := 5) rfl q689 q690 dX2_init_98 hf (fun a30 h31 hf => ?_)
  refine j_pV (ci := 1) (k := 1) tyX2 tyX2_ok nmX2 rfl in_X2 rfl q788 (Or.inr ⟨rfl, rfl, rfl⟩) rfl (fit_a _ _) dX2_init_101 hf (fun h32 hf => ?_)
  refine j_iconst (0 : Int32) dX2_init_104 (by decide) ?_
  refine j_istore_n 2 [some (va_rf (some a0)), some (va_rf p0), some (.int (0 : Int32))] dX2_init_105 rfl (cz (va_rf_cat _)) rfl rfl ?_
  exact pf_X2_init_L106 FU (some a0) p0 (0 : Int32) h32 hf
theorem kc_X2_207 {Γ : GX} {I : MI} {D : va_G} {h0 : PH} {Q : State → Prop} {h : PH} {pc : Nat} {vs : List (Option Value)} {rest : List Value} {β : Type} {o : β} {r : Option Nat} {p0 : Option Nat} {K : ((Int32) → PH → Option β)} (hI : I.2.2.1 = RX2) (hfr : Nat.ble 1 I.2.2.2.2.2.1 = true) (hlo : Nat.ble 21 I.2.2.2.2.2.2.1 = true) (hW : (rest.map fun v => v.category).sum ≤ 8) (hd : decode I.1 pc = .ok (.invokevirtual 207, 3)) (hf : rv_ h r 13 (cl_ (f_X16_isBefore r p0 h) K) = some o) (kk : ∀ (x : Int32) (h1 : PH), K x h1 = some o → PF Γ I D h0 Q h1 (pc + 3) vs (.int x :: rest)) : PF Γ I D h0 Q h pc vs (va_rf p0 :: va_rf r :: rest) := by
  obtain ⟨cc, nL, own, rt, xt, fr, lo, nm⟩ := I
  cases hI
  exact j_cVi (n := 1) (y := yX16_isBefore) (cc2 := cX16_isBefore) (As := [va_rf p0]) (C := RX16) (ci := 13) rfl (lw_V q1267 q1268 q1269 q127 q1270) hyV_X16_isBefore hfr hlo rfl hW hd (c_X16_isBefore r p0) hf _ rfl kk
abbrev mi_X2_firstMessage : MI := (cX2_firstMessage, 3, RX2, (Option.some (FieldType.object "LeaderLeases$Message")), [], 3, 64, "firstMessage")
def f_X2_firstMessage_B55 (k4 : Option Nat → Option Nat → Int32 → PH → Option (Option Nat × PH)) (x0 : Option Nat) (x1 : Option Nat) (x2 : Int32) (h : PH) : Option (Option Nat × PH) := k4 x0 x1 (x2 + (1 : Int32)) h
theorem pf_X2_firstMessage_B55 {Γ : GX} {D : va_G} {h0 : PH} {o : Option Nat × PH} (k4 : Option Nat → Option Nat → Int32 → PH → Option (Option Nat × PH)) (hk4 : ∀ (x0 : Option Nat) (x1 : Option Nat) (x2 : Int32) (h : PH), k4 x0 x1 x2 h = some o → PF Γ mi_X2_firstMessage D h0 (QR Γ D h0 (ovr o.1) o.2) h 4 [some (va_rf x0), some (va_rf x1), some (.int x2)] []) (x0 : Option Nat) (x1 : Option Nat) (x2 : Int32) (h : PH) (hf : f_X2_firstMessage_B55 k4 x0 x1 x2 h = some o) : PF Γ mi_X2_firstMessage D h0 (QR Γ D h0 (ovr o.1) o.2) h 55 [some (va_rf x0), some (va_rf x1), some (.int x2)] [] := by
  refine j_iinc (x2 + (1 : Int32)) [some (va_rf x0), some (va_rf x1), some (.int (x2 + (1 : Int32)))] dX2_firstMessage_55 rfl rfl (cz (va_rf_cat _)) rfl rfl ?_
  refine j_goto 4 dX2_firstMessage_58 (by decide) ?_
  exact hk4 x0 x1 (x2 + (1 : Int32)) h hf
def f_X2_firstMessage_B41 (k4 : Option Nat → Option Nat → Int32 → PH → Option (Option Nat × PH)) (x0 : Option Nat) (x2 : Int32) (h : PH) : Option (Option Nat × PH) := gR h x0 1 2 fun r9 => rv_ h r9 19 (cl_ (f_J2_get r9 x2 h) fun r11 h10 => kC h10 r11 13 (f_X2_firstMessage_B55 k4 x0 r11 x2 h10))
theorem pf_X2_firstMessage_B41 {Γ : GX} {D : va_G} {h0 : PH} {o : Option Nat × PH} (k4 : Option Nat → Option Nat → Int32 → PH → Option (Option Nat × PH)) (hk4 : ∀ (x0 : Option Nat) (x1 : Option Nat) (x2 : Int32) (h : PH), k4 x0 x1 x2 h = some o → PF Γ mi_X2_firstMessage D h0 (QR Γ D h0 (ovr o.1) o.2) h 4 [some (va_rf x0), some (va_rf x1), some (.int x2)] []) (x0 : Option Nat) (x2 : Int32) (h : PH) (hf : f_X2_firstMessage_B41 k4 x0 x2 h = some o) : PF Γ mi_X2_firstMessage D h0 (QR Γ D h0 (ovr o.1) o.2) h 41 [some (va_rf x0), none, some (.int x2)] [] := by
  refine j_aload_n 0 dX2_firstMessage_41 rfl rfl ?_
  refine j_gR (ci := 1) (k := 2) rfl in_X2 rfl q790 dX2_firstMessage_42 hf (fun r9 hf => ?_)
  refine j_iload_n 2 dX2_firstMessage_45 rfl rfl ?_
  refine kc_X2_68 rfl rfl rfl (by decide) dX2_firstMessage_46 hf (fun r11 h10 hf => ?_)
  refine j_kC (ci := 13) rfl q1266 dX2_firstMessage_51 hf (fun hf => ?_)
  refine j_astore_n 1 [some (va_rf x0), some (va_rf r11), some (.int x2)] dX2_firstMessage_54 rfl (cz (va_rf_cat _)) rfl rfl ?_
  exact pf_X2_firstMessage_B55 k4 hk4 x0 r11 x2 h10 hf
def f_X2_firstMessage_L4 : Nat → Option Nat → Option Nat → Int32 → PH → Option (Option Nat × PH)
  | 0, _, _, _, _ => none
  | n + 1, x0, x1, x2, h => gR h x0 1 2 fun r1 => rv_ h r1 19 (cl_ (f_J2_size r1 h) fun v3 h2 => (if v3 ≤ x2 then (some (x1, h2)) else ((if x1 = none then (f_X2_firstMessage_B41 (f_X2_firstMessage_L4 n) x0 x2 h2) else (gR h2 x0 1 2 fun r4 => rv_ h2 r4 19 (cl_ (f_J2_get r4 x2 h2) fun r6 h5 => kC h5 r6 13 (rv_ h5 r6 13 (cl_ (f_X16_isBefore r6 x1 h5) fun v8 h7 => (if v8 = 0 then (f_X2_firstMessage_B55 (f_X2_firstMessage_L4 n) x0 x1 x2 h7) else (f_X2_firstMessage_B41 (f_X2_firstMessage_L4 n) x0 x2 h7))))))))))
theorem pf_X2_firstMessage_L4 {Γ : GX} {D : va_G} {h0 : PH} {o : Option Nat × PH} : ∀ (n : Nat) (x0 : Option Nat) (x1 : Option Nat) (x2 : Int32) (h : PH), f_X2_firstMessage_L4 n x0 x1 x2 h = some o → PF Γ mi_X2_firstMessage D h0 (QR Γ D h0 (ovr o.1) o.2) h 4 [some (va_rf x0), some (va_rf x1), some (.int x2)] [] := by
  intro n
  induction n with
  | zero => intro x0 x1 x2 h hf; cases hf
  | succ n ih =>
    intro x0 x1 x2 h hf
    refine j_iload_n 2 dX2_firstMessage_4 rfl rfl ?_
    refine j_aload_n 0 dX2_firstMessage_5 rfl rfl ?_
    refine j_gR (ci := 1) (k := 2) rfl in_X2 rfl q790 dX2_firstMessage_6 hf (fun r1 hf => ?_)
    refine kc_X2_56 rfl rfl rfl (by simp [va_rf_cat, cat_i, cat_l]) dX2_firstMessage_9 hf (fun v3 h2 hf => ?_)
    refine j_icmp_ge 61 dX2_firstMessage_14 (by decide) hf (fun c_ hf => ?_) (fun c_ hf => ?_)
    · refine j_aload_n 1 dX2_firstMessage_61 rfl rfl ?_
      have e9 := Option.some.inj hf
      subst e9
      exact j_aret rfl (Or.inl ⟨_, rfl⟩) dX2_firstMessage_62
    · refine j_aload_n 1 dX2_firstMessage_17 rfl rfl ?_
      refine j_ifnull 41 dX2_firstMessage_18 (by decide) hf (fun c_ hf => ?_) (fun c_ hf => ?_)
      · refine j_weak [some (va_rf x0), none, some (.int x2)] (Wk.k (Wk.s (Wk.k Wk.n))) ?_
        exact pf_X2_firstMessage_B41 (f_X2_firstMessage_L4 n) ih x0 x2 h2 hf
      · refine j_aload_n 0 dX2_firstMessage_21 rfl rfl ?_
        refine j_gR (ci := 1) (k := 2) rfl in_X2 rfl q790 dX2_firstMessage_22 hf (fun r4 hf => ?_)
        refine j_iload_n 2 dX2_firstMessage_25 rfl rfl ?_
        refine kc_X2_68 rfl rfl rfl (by decide) dX2_firstMessage_26 hf (fun r6 h5 hf => ?_)
        refine j_kC (ci := 13) rfl q1266 dX2_firstMessage_31 hf (fun hf => ?_)
        refine j_aload_n 1 dX2_firstMessage_34 rfl rfl ?_
        refine kc_X2_207 rfl rfl rfl (by decide) dX2_firstMessage_35 hf (fun v8 h7 hf => ?_)
        refine j_if_eq 55 dX2_firstMessage_38 (by decide) hf (fun c_ hf => ?_) (fun c_ hf => ?_)
        · exact pf_X2_firstMessage_B55 (f_X2_firstMessage_L4 n) ih x0 x1 x2 h7 hf
        · refine j_weak [some (va_rf x0), none, some (.int x2)] (Wk.k (Wk.s (Wk.k Wk.n))) ?_
          exact pf_X2_firstMessage_B41 (f_X2_firstMessage_L4 n) ih x0 x2 h7 hf
def f_X2_firstMessage (r0 : Option Nat) (h0 : PH) : Option (Option Nat × PH) := f_X2_firstMessage_L4 FU r0 none (0 : Int32) h0
theorem hyS_X2_firstMessage : yX2_firstMessage.cls ≠ "java/lang/invoke/MethodHandle" ∧ yX2_firstMessage.cls ≠ "java/lang/invoke/VarHandle" ∧ (parseMethodDescriptor yX2_firstMessage.desc).map (fun d => d.parameters.length) = some 0 := by decide +kernel
theorem hyV_X2_firstMessage : yX2_firstMessage.cls = RX2 ∧ yX2_firstMessage.cls ≠ "java/lang/invoke/MethodHandle" ∧ yX2_firstMessage.cls ≠ "java/lang/invoke/VarHandle" ∧ (parseMethodDescriptor yX2_firstMessage.desc).map (fun d => d.parameters.length) = some 0 := by decide +kernel
theorem c_X2_firstMessage {D : va_G} (r0 : Option Nat) {h0 : PH} (l : Launch) (hl : l.stackTraces = false) (x : Option Nat) (h1 : PH) (hf : f_X2_firstMessage r0 h0 = some (x, h1)) : CT l D yX2_firstMessage (ws_ yX2_firstMessage cX2_firstMessage 3 (Option.some (FieldType.object "LeaderLeases$Message"))) 3 64 [va_rf r0] h0 (ovr x) h1 := by
  refine ct_of hl [some (va_rf r0), none, none] (by decide) (by rw [lgl]; simp [va_rf_cat, cat_i, cat_l]) (by simp [lv_args, vsL, va_rf_cat, cat_i, cat_l]) (fun Γ => ?_)
  obtain ⟨o, ho⟩ : ∃ o : Option Nat × PH, o = (x, h1) := ⟨_, rfl⟩
  rw [← ho] at hf
  have e1 : x = o.1 := by rw [ho]
  have e2 : h1 = o.2 := by rw [ho]
  subst e1 e2
  clear ho
  show PF Γ mi_X2_firstMessage D h0 (QR Γ D h0 (ovr o.1) o.2) h0 0 [some (va_rf r0), none, none] []
  unfold f_X2_firstMessage at hf
  refine j_aconst_null dX2_firstMessage_0 ?_
  refine j_astore_n 1 [some (va_rf r0), some (va_rf none), none] dX2_firstMessage_1 rfl (cz (va_rf_cat _)) rfl rfl ?_
  refine j_iconst (0 : Int32) dX2_firstMessage_2 (by decide) ?_
  refine j_istore_n 2 [some (va_rf r0), some (va_rf none), some (.int (0 : Int32))] dX2_firstMessage_3 rfl (cz (va_rf_cat _)) rfl rfl ?_
  exact pf_X2_firstMessage_L4 FU r0 none (0 : Int32) h0 hf
theorem kc_X2_373 {Γ : GX} {I : MI} {D : va_G} {h0 : PH} {Q : State → Prop} {h : PH} {pc : Nat} {vs : List (Option Value)} {rest : List Value} {β : Type} {o : β} {r : Option Nat}  {K : ((Int32) → PH → Option β)} (hI : I.2.2.1 = RX2) (hfr : Nat.ble 3 I.2.2.2.2.2.1 = true) (hlo : Nat.ble 67 I.2.2.2.2.2.2.1 = true) (hW : (rest.map fun v => v.category).sum ≤ 8) (hd : decode I.1 pc = .ok (.invokevirtual 373, 3)) (hf : rv_ h r 5 (cl_ (f_X6_leadsUntil r h) K) = some o) (kk : ∀ (x : Int32) (h1 : PH), K x h1 = some o → PF Γ I D h0 Q h1 (pc + 3) vs (.int x :: rest)) : PF Γ I D h0 Q h pc vs (va_rf r :: rest) := by
  obtain ⟨cc, nL, own, rt, xt, fr, lo, nm⟩ := I
  cases hI
  exact j_cVi (n := 0) (y := yX6_leadsUntil) (cc2 := cX6_leadsUntil) (As := []) (C := RX6) (ci := 5) rfl (lw_V q1299 q1300 q1301 q115 q1302) hyV_X6_leadsUntil hfr hlo rfl hW hd (c_X6_leadsUntil r) hf _ rfl kk
abbrev mi_X2_pass : MI := (cX2_pass, 9, RX2, none, [], 3, 67, "pass")
def f_X2_pass_B94 (k24 : Option Nat → Int32 → Int32 → Int32 → Option Nat → Int32 → Int32 → PH → Option (Unit × PH)) (x0 : Option Nat) (x1 : Int32) (x2 : Int32) (x3 : Int32) (x4 : Option Nat) (x5 : Int32) (x6 : Int32) (h : PH) : Option (Unit × PH) := k24 x0 x1 x2 x3 x4 x5 (x6 + (1 : Int32)) h
theorem pf_X2_pass_B94 {Γ : GX} {D : va_G} {h0 : PH} {o : Unit × PH} (k24 : Option Nat → Int32 → Int32 → Int32 → Option Nat → Int32 → Int32 → PH → Option (Unit × PH)) (hk24 : ∀ (x0 : Option Nat) (x1 : Int32) (x2 : Int32) (x3 : Int32) (x4 : Option Nat) (x5 : Int32) (x6 : Int32) (h : PH), k24 x0 x1 x2 x3 x4 x5 x6 h = some o → PF Γ mi_X2_pass D h0 (QR Γ D h0 (ovv o.1) o.2) h 24 [some (va_rf x0), some (.int x1), some (.int x2), some (.int x3), some (va_rf x4), some (.int x5), some (.int x6), none, none] []) (x0 : Option Nat) (x1 : Int32) (x2 : Int32) (x3 : Int32) (x4 : Option Nat) (x5 : Int32) (x6 : Int32) (h : PH) (hf : f_X2_pass_B94 k24 x0 x1 x2 x3 x4 x5 x6 h = some o) : PF Γ mi_X2_pass D h0 (QR Γ D h0 (ovv o.1) o.2) h 94 [some (va_rf x0), some (.int x1), some (.int x2), some (.int x3), some (va_rf x4), some (.int x5), some (.int x6), none, none] [] := by
  refine j_iinc (x6 + (1 : Int32)) [some (va_rf x0), some (.int x1), some (.int x2), some (.int x3), some (va_rf x4), some (.int x5), some (.int (x6 + (1 : Int32))), none, none] dX2_pass_94 rfl rfl (cz rfl) rfl rfl ?_
  refine j_goto 24 dX2_pass_97 (by decide) ?_
  exact hk24 x0 x1 x2 x3 x4 x5 (x6 + (1 : Int32)) h hf
def f_X2_pass_L24 : Nat → Option Nat → Int32 → Int32 → Int32 → Option Nat → Int32 → Int32 → PH → Option (Unit × PH)
  | 0, _, _, _, _, _, _, _, _ => none
  | n + 1, x0, x1, x2, x3, x4, x5, x6, h => (if x5 ≤ x6 then (gI h x0 1 16 fun v5 => gI h x0 1 8 fun v6 => pV h x0 1 16 (.int (v5 + (x3 - v6))) fun h7 => gI h7 x0 1 17 fun v8 => pV h7 x0 1 17 (.int (v8 + (x1 - x2))) fun h9 => pV h9 x0 1 8 (.int x1) fun h10 => some ((), h10)) else (aQ h x4 5 x6 fun r11 => gI h x0 1 8 fun v12 => rv_ h r11 5 (cl_ (f_X6_leadsUntil r11 h) fun v14 h13 => gIN h13 r11 5 10 fun v15 => gI h13 x0 1 8 fun v16 => pV h13 r11 5 10 (.int (v15 + ((if v12 < (if v14 < x1 then v14 else x1) then (if v14 < x1 then v14 else x1) else v12) - v16))) fun h17 => (if (if v12 < (if v14 < x1 then v14 else x1) then (if v14 < x1 then v14 else x1) else v12) ≤ x2 then (f_X2_pass_B94 (f_X2_pass_L24 n) x0 x1 x2 (if x3 < (if v12 < (if v14 < x1 then v14 else x1) then (if v14 < x1 then v14 else x1) else v12) then (if v12 < (if v14 < x1 then v14 else x1) then (if v14 < x1 then v14 else x1) else v12) else x3) x4 x5 x6 h17) else (f_X2_pass_B94 (f_X2_pass_L24 n) x0 x1 (if v12 < (if v14 < x1 then v14 else x1) then (if v14 < x1 then v14 else x1) else v12) x2 x4 x5 x6 h17)))))
theorem pf_X2_pass_L24 {Γ : GX} {D : va_G} {h0 : PH} {o : Unit × PH} : ∀ (n : Nat) (x0 : Option Nat) (x1 : Int32) (x2 : Int32) (x3 : Int32) (x4 : Option Nat) (x5 : Int32) (x6 : Int32) (h : PH), f_X2_pass_L24 n x0 x1 x2 x3 x4 x5 x6 h = some o → PF Γ mi_X2_pass D h0 (QR Γ D h0 (ovv o.1) o.2) h 24 [some (va_rf x0), some (.int x1), some (.int x2), some (.int x3), some (va_rf x4), some (.int x5), some (.int x6), none, none] [] := by
  intro n
  induction n with
  | zero => intro x0 x1 x2 x3 x4 x5 x6 h hf; cases hf
  | succ n ih =>
    intro x0 x1 x2 x3 x4 x5 x6 h hf
    refine j_iload dX2_pass_24 rfl ?_
    refine j_iload dX2_pass_26 rfl ?_
    refine j_icmp_ge 100 dX2_pass_28 (by decide) hf (fun c_ hf => ?_) (fun c_ hf => ?_)
    · refine j_aload_n 0 dX2_pass_100 rfl rfl ?_
      refine j_dup dX2_pass_101 (va_rf_cat _) ?_
      refine j_gI (ci := 1) (k := 16) rfl in_X2 rfl q816 dX2_pass_102 hf (fun v5 hf => ?_)
      refine j_iload_n 3 dX2_pass_105 rfl rfl ?_
      refine j_aload_n 0 dX2_pass_106 rfl rfl ?_
      refine j_gI (ci := 1) (k := 8) rfl in_X2 rfl q802 dX2_pass_107 hf (fun v6 hf => ?_)
      refine j_isub dX2_pass_110 ?_
      refine j_iadd dX2_pass_111 ?_
      refine j_pV (ci := 1) (k := 16) tyX2 tyX2_ok nmX2 rfl in_X2 rfl q816 (Or.inl rfl) rfl (fit_i _) dX2_pass_112 hf (fun h7 hf => ?_)
      refine j_aload_n 0 dX2_pass_115 rfl rfl ?_
      refine j_dup dX2_pass_116 (va_rf_cat _) ?_
      refine j_gI (ci := 1) (k := 17) rfl in_X2 rfl q818 dX2_pass_117 hf (fun v8 hf => ?_)
      refine j_iload_n 1 dX2_pass_120 rfl rfl ?_
      refine j_iload_n 2 dX2_pass_121 rfl rfl ?_
      refine j_isub dX2_pass_122 ?_
      refine j_iadd dX2_pass_123 ?_
      refine j_pV (ci := 1) (k := 17) tyX2 tyX2_ok nmX2 rfl in_X2 rfl q818 (Or.inl rfl) rfl (fit_i _) dX2_pass_124 hf (fun h9 hf => ?_)
      refine j_aload_n 0 dX2_pass_127 rfl rfl ?_
      refine j_iload_n 1 dX2_pass_128 rfl rfl ?_
      refine j_pV (ci := 1) (k := 8) tyX2 tyX2_ok nmX2 rfl in_X2 rfl q802 (Or.inl rfl) rfl (fit_i _) dX2_pass_129 hf (fun h10 hf => ?_)
      have e9 := Option.some.inj hf
      subst e9
      exact j_vret rfl dX2_pass_132
    · refine j_aload dX2_pass_31 rfl ?_
      refine j_iload dX2_pass_33 rfl ?_
      refine j_aald (t := 5) rfl dX2_pass_35 hf (fun r11 hf => ?_)
      refine j_astore [some (va_rf x0), some (.int x1), some (.int x2), some (.int x3), some (va_rf x4), some (.int x5), some (.int x6), some (va_rf r11), none] dX2_pass_36 (cz rfl) rfl rfl ?_
      refine j_aload_n 0 dX2_pass_38 rfl rfl ?_
      refine j_gI (ci := 1) (k := 8) rfl in_X2 rfl q802 dX2_pass_39 hf (fun v12 hf => ?_)
      refine j_iload_n 1 dX2_pass_42 rfl rfl ?_
      refine j_aload dX2_pass_43 rfl ?_
      refine kc_X2_373 rfl rfl rfl (by simp [va_rf_cat, cat_i, cat_l]) dX2_pass_45 hf (fun v14 h13 hf => ?_)
      refine j_mmin q1273 q306 q106 q307 rfl rfl (by simp [va_rf_cat, cat_i, cat_l]) dX2_pass_48 ?_
      refine j_mmax q1311 q288 q106 q289 rfl rfl (by decide) dX2_pass_51 ?_
      refine j_istore [some (va_rf x0), some (.int x1), some (.int x2), some (.int x3), some (va_rf x4), some (.int x5), some (.int x6), some (va_rf r11), some (.int (if v12 < (if v14 < x1 then v14 else x1) then (if v14 < x1 then v14 else x1) else v12))] dX2_pass_54 (cz (va_rf_cat _)) rfl rfl ?_
      refine j_aload dX2_pass_56 rfl ?_
      refine j_dup dX2_pass_58 (va_rf_cat _) ?_
      refine j_gIN (ci := 5) (k := 10) rfl in_X6 rfl q751 dX2_pass_59 hf (fun v15 hf => ?_)
      refine j_iload dX2_pass_62 rfl ?_
      refine j_aload_n 0 dX2_pass_64 rfl rfl ?_
      refine j_gI (ci := 1) (k := 8) rfl in_X2 rfl q802 dX2_pass_65 hf (fun v16 hf => ?_)
      refine j_isub dX2_pass_68 ?_
      refine j_iadd dX2_pass_69 ?_
      refine j_pVN (ci := 5) (k := 10) tyX6 tyX6_ok nmX6 rfl in_X6 rfl q751 rfl rfl (fit_i _) dX2_pass_70 hf (fun h17 hf => ?_)
      refine j_iload dX2_pass_73 rfl ?_
      refine j_iload_n 2 dX2_pass_75 rfl rfl ?_
      refine j_icmp_le 87 dX2_pass_76 (by decide) hf (fun c_ hf => ?_) (fun c_ hf => ?_)
      · refine j_iload_n 3 dX2_pass_87 rfl rfl ?_
        refine j_iload dX2_pass_88 rfl ?_
        refine j_mmax q1311 q288 q106 q289 rfl rfl (by decide) dX2_pass_90 ?_
        refine j_istore_n 3 [some (va_rf x0), some (.int x1), some (.int x2), some (.int (if x3 < (if v12 < (if v14 < x1 then v14 else x1) then (if v14 < x1 then v14 else x1) else v12) then (if v12 < (if v14 < x1 then v14 else x1) then (if v14 < x1 then v14 else x1) else v12) else x3)), some (va_rf x4), some (.int x5), some (.int x6), some (va_rf r11), some (.int (if v12 < (if v14 < x1 then v14 else x1) then (if v14 < x1 then v14 else x1) else v12))] dX2_pass_93 rfl (cz rfl) rfl rfl ?_
        refine j_weak [some (va_rf x0), some (.int x1), some (.int x2), some (.int (if x3 < (if v12 < (if v14 < x1 then v14 else x1) then (if v14 < x1 then v14 else x1) else v12) then (if v12 < (if v14 < x1 then v14 else x1) then (if v14 < x1 then v14 else x1) else v12) else x3)), some (va_rf x4), some (.int x5), some (.int x6), none, none] (Wk.k (Wk.k (Wk.k (Wk.k (Wk.k (Wk.k (Wk.k (Wk.s (Wk.s Wk.n))))))))) ?_
        exact pf_X2_pass_B94 (f_X2_pass_L24 n) ih x0 x1 x2 (if x3 < (if v12 < (if v14 < x1 then v14 else x1) then (if v14 < x1 then v14 else x1) else v12) then (if v12 < (if v14 < x1 then v14 else x1) then (if v14 < x1 then v14 else x1) else v12) else x3) x4 x5 x6 h17 hf
      · refine j_iload_n 2 dX2_pass_79 rfl rfl ?_
        refine j_istore_n 3 [some (va_rf x0), some (.int x1), some (.int x2), some (.int x2), some (va_rf x4), some (.int x5), some (.int x6), some (va_rf r11), some (.int (if v12 < (if v14 < x1 then v14 else x1) then (if v14 < x1 then v14 else x1) else v12))] dX2_pass_80 rfl (cz rfl) rfl rfl ?_
        refine j_iload dX2_pass_81 rfl ?_
        refine j_istore_n 2 [some (va_rf x0), some (.int x1), some (.int (if v12 < (if v14 < x1 then v14 else x1) then (if v14 < x1 then v14 else x1) else v12)), some (.int x2), some (va_rf x4), some (.int x5), some (.int x6), some (va_rf r11), some (.int (if v12 < (if v14 < x1 then v14 else x1) then (if v14 < x1 then v14 else x1) else v12))] dX2_pass_83 rfl (cz rfl) rfl rfl ?_
        refine j_goto 94 dX2_pass_84 (by decide) ?_
        refine j_weak [some (va_rf x0), some (.int x1), some (.int (if v12 < (if v14 < x1 then v14 else x1) then (if v14 < x1 then v14 else x1) else v12)), some (.int x2), some (va_rf x4), some (.int x5), some (.int x6), none, none] (Wk.k (Wk.k (Wk.k (Wk.k (Wk.k (Wk.k (Wk.k (Wk.s (Wk.s Wk.n))))))))) ?_
        exact pf_X2_pass_B94 (f_X2_pass_L24 n) ih x0 x1 (if v12 < (if v14 < x1 then v14 else x1) then (if v14 < x1 then v14 else x1) else v12) x2 x4 x5 x6 h17 hf
def f_X2_pass (r0 : Option Nat) (p0 : Int32) (h0 : PH) : Option (Unit × PH) := gI h0 r0 1 8 fun v1 => gI h0 r0 1 8 fun v2 => gR h0 r0 1 1 fun r3 => aN h0 r3 5 fun v4 => f_X2_pass_L24 FU r0 p0 v1 v2 r3 v4 (0 : Int32) h0
theorem hyS_X2_pass : yX2_pass.cls ≠ "java/lang/invoke/MethodHandle" ∧ yX2_pass.cls ≠ "java/lang/invoke/VarHandle" ∧ (parseMethodDescriptor yX2_pass.desc).map (fun d => d.parameters.length) = some 1 := by decide +kernel
theorem hyV_X2_pass : yX2_pass.cls = RX2 ∧ yX2_pass.cls ≠ "java/lang/invoke/MethodHandle" ∧ yX2_pass.cls ≠ "java/lang/invoke/VarHandle" ∧ (parseMethodDescriptor yX2_pass.desc).map (fun d => d.parameters.length) = some 1 := by decide +kernel
theorem c_X2_pass {D : va_G} (r0 : Option Nat) (p0 : Int32) {h0 : PH} (l : Launch) (hl : l.stackTraces = false) (x : Unit) (h1 : PH) (hf : f_X2_pass r0 p0 h0 = some (x, h1)) : CT l D yX2_pass (ws_ yX2_pass cX2_pass 9 none) 3 67 [va_rf r0, .int p0] h0 (ovv x) h1 := by
  refine ct_of hl [some (va_rf r0), some (.int p0), none, none, none, none, none, none, none] (by decide) (by rw [lgl]; simp [va_rf_cat, cat_i, cat_l]) (by simp [lv_args, vsL, va_rf_cat, cat_i, cat_l]) (fun Γ => ?_)
  obtain ⟨o, ho⟩ : ∃ o : Unit × PH, o = (x, h1) := ⟨_, rfl⟩
  rw [← ho] at hf
  have e1 : x = o.1 := by rw [ho]
  have e2 : h1 = o.2 := by rw [ho]
  subst e1 e2
  clear ho
  show PF Γ mi_X2_pass D h0 (QR Γ D h0 (ovv o.1) o.2) h0 0 [some (va_rf r0), some (.int p0), none, none, none, none, none, none, none] []
  unfold f_X2_pass at hf
  refine j_aload_n 0 dX2_pass_0 rfl rfl ?_
  refine j_gI (ci := 1) (k := 8) rfl in_X2 rfl q802 dX2_pass_1 hf (fun v1 hf => ?_)
  refine j_istore_n 2 [some (va_rf r0), some (.int p0), some (.int v1), none, none, none, none, none, none] dX2_pass_4 rfl (cz rfl) rfl rfl ?_
  refine j_aload_n 0 dX2_pass_5 rfl rfl ?_
  refine j_gI (ci := 1) (k := 8) rfl in_X2 rfl q802 dX2_pass_6 hf (fun v2 hf => ?_)
  refine j_istore_n 3 [some (va_rf r0), some (.int p0), some (.int v1), some (.int v2), none, none, none, none, none] dX2_pass_9 rfl (cz rfl) rfl rfl ?_
  refine j_aload_n 0 dX2_pass_10 rfl rfl ?_
  refine j_gR (ci := 1) (k := 1) rfl in_X2 rfl q788 dX2_pass_11 hf (fun r3 hf => ?_)
  refine j_astore [some (va_rf r0), some (.int p0), some (.int v1), some (.int v2), some (va_rf r3), none, none, none, none] dX2_pass_14 (cz rfl) rfl rfl ?_
  refine j_aload dX2_pass_16 rfl ?_
  refine j_alen (t := 5) rfl dX2_pass_18 hf (fun v4 hf => ?_)
  refine j_istore [some (va_rf r0), some (.int p0), some (.int v1), some (.int v2), some (va_rf r3), some (.int v4), none, none, none] dX2_pass_19 (cz (va_rf_cat _)) rfl rfl ?_
  refine j_iconst (0 : Int32) dX2_pass_21 (by decide) ?_
  refine j_istore [some (va_rf r0), some (.int p0), some (.int v1), some (.int v2), some (va_rf r3), some (.int v4), some (.int (0 : Int32)), none, none] dX2_pass_22 (cz rfl) rfl rfl ?_
  exact pf_X2_pass_L24 FU r0 p0 v1 v2 r3 v4 (0 : Int32) h0 hf
theorem kc_X2_150 {Γ : GX} {I : MI} {D : va_G} {h0 : PH} {Q : State → Prop} {h : PH} {pc : Nat} {vs : List (Option Value)} {rest : List Value} {β : Type} {o : β} {r : Option Nat} {p0 : Int32} {K : ((Option Nat) → PH → Option β)} (hI : I.2.2.1 = RX2) (hfr : Nat.ble 3 I.2.2.2.2.2.1 = true) (hlo : Nat.ble 106 I.2.2.2.2.2.2.1 = true) (hW : (rest.map fun v => v.category).sum ≤ 8) (hd : decode I.1 pc = .ok (.invokeinterface 150 2, 5)) (hf : rv_ h r 19 (cl_ (f_J2_remove r p0 h) K) = some o) (kk : ∀ (x : Option Nat) (h1 : PH), K x h1 = some o → PF Γ I D h0 Q h1 (pc + 5) vs (va_rf x :: rest)) : PF Γ I D h0 Q h pc vs (.int p0 :: va_rf r :: rest) := by
  obtain ⟨cc, nL, own, rt, xt, fr, lo, nm⟩ := I
  cases hI
  exact j_cFr (n := 1) (y := yJ2_remove) (cc2 := cJ2_remove) (As := [.int p0]) (C := RJ2) (x9 := ⟨"java/util/List", "remove", "(I)Ljava/lang/Object;"⟩) (ci := 19) rfl (by decide +kernel) (lw_F q1321 q1324 q1326 q96 q1328) (by decide +kernel) hfr hlo rfl hW hd (c_J2_remove r p0) hf _ rfl kk
abbrev mi_X2_changeLinks : MI := (cX2_changeLinks, 3, RX2, none, [], 3, 106, "changeLinks")
def f_X2_changeLinks_B94 (k2 : Option Nat → Int32 → PH → Option (Unit × PH)) (x0 : Option Nat) (x1 : Int32) (h : PH) : Option (Unit × PH) := k2 x0 x1 h
theorem pf_X2_changeLinks_B94 {Γ : GX} {D : va_G} {h0 : PH} {o : Unit × PH} (k2 : Option Nat → Int32 → PH → Option (Unit × PH)) (hk2 : ∀ (x0 : Option Nat) (x1 : Int32) (h : PH), k2 x0 x1 h = some o → PF Γ mi_X2_changeLinks D h0 (QR Γ D h0 (ovv o.1) o.2) h 2 [some (va_rf x0), some (.int x1), none] []) (x0 : Option Nat) (x1 : Int32) (h : PH) (hf : f_X2_changeLinks_B94 k2 x0 x1 h = some o) : PF Γ mi_X2_changeLinks D h0 (QR Γ D h0 (ovv o.1) o.2) h 94 [some (va_rf x0), some (.int x1), none] [] := by
  refine j_goto 2 dX2_changeLinks_94 (by decide) ?_
  exact hk2 x0 x1 h hf
def f_X2_changeLinks_B53 (k2 : Option Nat → Int32 → PH → Option (Unit × PH)) (x0 : Option Nat) (x1 : Int32) (x2 : Option Nat) (h : PH) : Option (Unit × PH) := gIN h x2 17 2 fun v13 => gI h x0 1 8 fun v14 => (if v13 = v14 then (gR h x0 1 1 fun r15 => gIN h x2 17 0 fun v16 => aQ h r15 5 v16 fun r17 => pZ h r17 5 4 (0 : Int32) fun h18 => gR h18 x0 1 4 fun r19 => rv_ h18 r19 19 (cl_ (f_J2_remove r19 x1 h18) fun r21 h20 => f_X2_changeLinks_B94 k2 x0 x1 h20)) else (f_X2_changeLinks_B94 k2 x0 (x1 + (1 : Int32)) h))
theorem pf_X2_changeLinks_B53 {Γ : GX} {D : va_G} {h0 : PH} {o : Unit × PH} (k2 : Option Nat → Int32 → PH → Option (Unit × PH)) (hk2 : ∀ (x0 : Option Nat) (x1 : Int32) (h : PH), k2 x0 x1 h = some o → PF Γ mi_X2_changeLinks D h0 (QR Γ D h0 (ovv o.1) o.2) h 2 [some (va_rf x0), some (.int x1), none] []) (x0 : Option Nat) (x1 : Int32) (x2 : Option Nat) (h : PH) (hf : f_X2_changeLinks_B53 k2 x0 x1 x2 h = some o) : PF Γ mi_X2_changeLinks D h0 (QR Γ D h0 (ovv o.1) o.2) h 53 [some (va_rf x0), some (.int x1), some (va_rf x2)] [] := by
  refine j_aload_n 2 dX2_changeLinks_53 rfl rfl ?_
  refine j_gIN (ci := 17) (k := 2) rfl in_X20 rfl q1835 dX2_changeLinks_54 hf (fun v13 hf => ?_)
  refine j_aload_n 0 dX2_changeLinks_57 rfl rfl ?_
  refine j_gI (ci := 1) (k := 8) rfl in_X2 rfl q802 dX2_changeLinks_58 hf (fun v14 hf => ?_)
  refine j_icmp_ne 91 dX2_changeLinks_61 (by decide) hf (fun c_ hf => ?_) (fun c_ hf => ?_)
  · refine j_iinc (x1 + (1 : Int32)) [some (va_rf x0), some (.int (x1 + (1 : Int32))), some (va_rf x2)] dX2_changeLinks_91 rfl rfl (cz (va_rf_cat _)) rfl rfl ?_
    refine j_weak [some (va_rf x0), some (.int (x1 + (1 : Int32))), none] (Wk.k (Wk.k (Wk.s Wk.n))) ?_
    exact pf_X2_changeLinks_B94 k2 hk2 x0 (x1 + (1 : Int32)) h hf
  · refine j_aload_n 0 dX2_changeLinks_64 rfl rfl ?_
    refine j_gR (ci := 1) (k := 1) rfl in_X2 rfl q788 dX2_changeLinks_65 hf (fun r15 hf => ?_)
    refine j_aload_n 2 dX2_changeLinks_68 rfl rfl ?_
    refine j_gIN (ci := 17) (k := 0) rfl in_X20 rfl q1831 dX2_changeLinks_69 hf (fun v16 hf => ?_)
    refine j_aald (t := 5) rfl dX2_changeLinks_72 hf (fun r17 hf => ?_)
    refine j_iconst (0 : Int32) dX2_changeLinks_73 (by decide) ?_
    obtain ⟨hz9, hf⟩ := pZ_in hf
    refine j_pVN (ci := 5) (k := 4) tyX6 tyX6_ok nmX6 rfl in_X6 rfl q733 rfl rfl (fit_z _ hz9) dX2_changeLinks_74 hf (fun h18 hf => ?_)
    refine j_aload_n 0 dX2_changeLinks_77 rfl rfl ?_
    refine j_gR (ci := 1) (k := 4) rfl in_X2 rfl q794 dX2_changeLinks_78 hf (fun r19 hf => ?_)
    refine j_iload_n 1 dX2_changeLinks_81 rfl rfl ?_
    refine kc_X2_150 rfl rfl rfl (by decide) dX2_changeLinks_82 hf (fun r21 h20 hf => ?_)
    refine j_pop dX2_changeLinks_87 (va_rf_cat _) ?_
    refine j_goto 94 dX2_changeLinks_88 (by decide) ?_
    refine j_weak [some (va_rf x0), some (.int x1), none] (Wk.k (Wk.k (Wk.s Wk.n))) ?_
    exact pf_X2_changeLinks_B94 k2 hk2 x0 x1 h20 hf
def f_X2_changeLinks_L2 : Nat → Option Nat → Int32 → PH → Option (Unit × PH)
  | 0, _, _, _ => none
  | n + 1, x0, x1, h => gR h x0 1 4 fun r1 => rv_ h r1 19 (cl_ (f_J2_size r1 h) fun v3 h2 => (if v3 ≤ x1 then (some ((), h2)) else (gR h2 x0 1 4 fun r4 => rv_ h2 r4 19 (cl_ (f_J2_get r4 x1 h2) fun r6 h5 => kC h5 r6 17 (gIN h5 r6 17 1 fun v7 => gI h5 x0 1 8 fun v8 => (if v7 = v8 then (gR h5 x0 1 1 fun r9 => gIN h5 r6 17 0 fun v10 => aQ h5 r9 5 v10 fun r11 => pZ h5 r11 5 4 (1 : Int32) fun h12 => f_X2_changeLinks_B53 (f_X2_changeLinks_L2 n) x0 x1 r6 h12) else (f_X2_changeLinks_B53 (f_X2_changeLinks_L2 n) x0 x1 r6 h5)))))))
theorem pf_X2_changeLinks_L2 {Γ : GX} {D : va_G} {h0 : PH} {o : Unit × PH} : ∀ (n : Nat) (x0 : Option Nat) (x1 : Int32) (h : PH), f_X2_changeLinks_L2 n x0 x1 h = some o → PF Γ mi_X2_changeLinks D h0 (QR Γ D h0 (ovv o.1) o.2) h 2 [some (va_rf x0), some (.int x1), none] [] := by
  intro n
  induction n with
  | zero => intro x0 x1 h hf; cases hf
  | succ n ih =>
    intro x0 x1 h hf
    refine j_iload_n 1 dX2_changeLinks_2 rfl rfl ?_
    refine j_aload_n 0 dX2_changeLinks_3 rfl rfl ?_
    refine j_gR (ci := 1) (k := 4) rfl in_X2 rfl q794 dX2_changeLinks_4 hf (fun r1 hf => ?_)
    refine kc_X2_56 rfl rfl rfl (by simp [va_rf_cat, cat_i, cat_l]) dX2_changeLinks_7 hf (fun v3 h2 hf => ?_)
    refine j_icmp_ge 97 dX2_changeLinks_12 (by decide) hf (fun c_ hf => ?_) (fun c_ hf => ?_)
    · have e9 := Option.some.inj hf
      subst e9
      exact j_vret rfl dX2_changeLinks_97
    · refine j_aload_n 0 dX2_changeLinks_15 rfl rfl ?_
      refine j_gR (ci := 1) (k := 4) rfl in_X2 rfl q794 dX2_changeLinks_16 hf (fun r4 hf => ?_)
      refine j_iload_n 1 dX2_changeLinks_19 rfl rfl ?_
      refine kc_X2_68 rfl rfl rfl (by decide) dX2_changeLinks_20 hf (fun r6 h5 hf => ?_)
      refine j_kC (ci := 17) rfl q1274 dX2_changeLinks_25 hf (fun hf => ?_)
      refine j_astore_n 2 [some (va_rf x0), some (.int x1), some (va_rf r6)] dX2_changeLinks_28 rfl (cz rfl) rfl rfl ?_
      refine j_aload_n 2 dX2_changeLinks_29 rfl rfl ?_
      refine j_gIN (ci := 17) (k := 1) rfl in_X20 rfl q1833 dX2_changeLinks_30 hf (fun v7 hf => ?_)
      refine j_aload_n 0 dX2_changeLinks_33 rfl rfl ?_
      refine j_gI (ci := 1) (k := 8) rfl in_X2 rfl q802 dX2_changeLinks_34 hf (fun v8 hf => ?_)
      refine j_icmp_ne 53 dX2_changeLinks_37 (by decide) hf (fun c_ hf => ?_) (fun c_ hf => ?_)
      · exact pf_X2_changeLinks_B53 (f_X2_changeLinks_L2 n) ih x0 x1 r6 h5 hf
      · refine j_aload_n 0 dX2_changeLinks_40 rfl rfl ?_
        refine j_gR (ci := 1) (k := 1) rfl in_X2 rfl q788 dX2_changeLinks_41 hf (fun r9 hf => ?_)
        refine j_aload_n 2 dX2_changeLinks_44 rfl rfl ?_
        refine j_gIN (ci := 17) (k := 0) rfl in_X20 rfl q1831 dX2_changeLinks_45 hf (fun v10 hf => ?_)
        refine j_aald (t := 5) rfl dX2_changeLinks_48 hf (fun r11 hf => ?_)
        refine j_iconst (1 : Int32) dX2_changeLinks_49 (by decide) ?_
        obtain ⟨hz9, hf⟩ := pZ_in hf
        refine j_pVN (ci := 5) (k := 4) tyX6 tyX6_ok nmX6 rfl in_X6 rfl q733 rfl rfl (fit_z _ hz9) dX2_changeLinks_50 hf (fun h12 hf => ?_)
        exact pf_X2_changeLinks_B53 (f_X2_changeLinks_L2 n) ih x0 x1 r6 h12 hf
def f_X2_changeLinks (r0 : Option Nat) (h0 : PH) : Option (Unit × PH) := f_X2_changeLinks_L2 FU r0 (0 : Int32) h0
theorem hyS_X2_changeLinks : yX2_changeLinks.cls ≠ "java/lang/invoke/MethodHandle" ∧ yX2_changeLinks.cls ≠ "java/lang/invoke/VarHandle" ∧ (parseMethodDescriptor yX2_changeLinks.desc).map (fun d => d.parameters.length) = some 0 := by decide +kernel
theorem hyV_X2_changeLinks : yX2_changeLinks.cls = RX2 ∧ yX2_changeLinks.cls ≠ "java/lang/invoke/MethodHandle" ∧ yX2_changeLinks.cls ≠ "java/lang/invoke/VarHandle" ∧ (parseMethodDescriptor yX2_changeLinks.desc).map (fun d => d.parameters.length) = some 0 := by decide +kernel
theorem c_X2_changeLinks {D : va_G} (r0 : Option Nat) {h0 : PH} (l : Launch) (hl : l.stackTraces = false) (x : Unit) (h1 : PH) (hf : f_X2_changeLinks r0 h0 = some (x, h1)) : CT l D yX2_changeLinks (ws_ yX2_changeLinks cX2_changeLinks 3 none) 3 106 [va_rf r0] h0 (ovv x) h1 := by
  refine ct_of hl [some (va_rf r0), none, none] (by decide) (by rw [lgl]; simp [va_rf_cat, cat_i, cat_l]) (by simp [lv_args, vsL, va_rf_cat, cat_i, cat_l]) (fun Γ => ?_)
  obtain ⟨o, ho⟩ : ∃ o : Unit × PH, o = (x, h1) := ⟨_, rfl⟩
  rw [← ho] at hf
  have e1 : x = o.1 := by rw [ho]
  have e2 : h1 = o.2 := by rw [ho]
  subst e1 e2
  clear ho
  show PF Γ mi_X2_changeLinks D h0 (QR Γ D h0 (ovv o.1) o.2) h0 0 [some (va_rf r0), none, none] []
  unfold f_X2_changeLinks at hf
  refine j_iconst (0 : Int32) dX2_changeLinks_0 (by decide) ?_
  refine j_istore_n 1 [some (va_rf r0), some (.int (0 : Int32)), none] dX2_changeLinks_1 rfl (cz (va_rf_cat _)) rfl rfl ?_
  exact pf_X2_changeLinks_L2 FU r0 (0 : Int32) h0 hf
abbrev mi_X2_watch : MI := (cX2_watch, 3, RX2, none, [], 0, 0, "watch")
def f_X2_watch_B20 (t0 : Option Nat) (t1 : Int32) (h : PH) : Option (Unit × PH) := pV h t0 1 21 (.int t1) fun h4 => some ((), h4)
theorem pf_X2_watch_B20 {Γ : GX} {D : va_G} {h0 : PH} {o : Unit × PH} (t0 : Option Nat) (t1 : Int32) (h : PH) (hf : f_X2_watch_B20 t0 t1 h = some o) : PF Γ mi_X2_watch D h0 (QR Γ D h0 (ovv o.1) o.2) h 20 [none, none, none] [.int t1, va_rf t0] := by
  refine j_pV (ci := 1) (k := 21) tyX2 tyX2_ok nmX2 rfl in_X2 rfl q825 (Or.inl rfl) rfl (fit_i _) dX2_watch_20 hf (fun h4 hf => ?_)
  have e9 := Option.some.inj hf
  subst e9
  exact j_vret rfl dX2_watch_23
def f_X2_watch (r0 : Option Nat) (p0 : Option Nat) (p1 : Int32) (h0 : PH) : Option (Unit × PH) := gIN h0 p0 13 2 fun v1 => gI h0 r0 1 20 fun v2 => (if v1 = v2 then (f_X2_watch_B20 r0 p1 h0) else (gI h0 r0 1 21 fun v3 => f_X2_watch_B20 r0 v3 h0))
theorem hyS_X2_watch : yX2_watch.cls ≠ "java/lang/invoke/MethodHandle" ∧ yX2_watch.cls ≠ "java/lang/invoke/VarHandle" ∧ (parseMethodDescriptor yX2_watch.desc).map (fun d => d.parameters.length) = some 2 := by decide +kernel
theorem hyV_X2_watch : yX2_watch.cls = RX2 ∧ yX2_watch.cls ≠ "java/lang/invoke/MethodHandle" ∧ yX2_watch.cls ≠ "java/lang/invoke/VarHandle" ∧ (parseMethodDescriptor yX2_watch.desc).map (fun d => d.parameters.length) = some 2 := by decide +kernel
theorem c_X2_watch {D : va_G} (r0 : Option Nat) (p0 : Option Nat) (p1 : Int32) {h0 : PH} (l : Launch) (hl : l.stackTraces = false) (x : Unit) (h1 : PH) (hf : f_X2_watch r0 p0 p1 h0 = some (x, h1)) : CT l D yX2_watch (ws_ yX2_watch cX2_watch 3 none) 0 0 [va_rf r0, va_rf p0, .int p1] h0 (ovv x) h1 := by
  refine ct_of hl [some (va_rf r0), some (va_rf p0), some (.int p1)] (by decide) (by rw [lgl]; simp [va_rf_cat, cat_i, cat_l]) (by simp [lv_args, vsL, va_rf_cat, cat_i, cat_l]) (fun Γ => ?_)
  obtain ⟨o, ho⟩ : ∃ o : Unit × PH, o = (x, h1) := ⟨_, rfl⟩
  rw [← ho] at hf
  have e1 : x = o.1 := by rw [ho]
  have e2 : h1 = o.2 := by rw [ho]
  subst e1 e2
  clear ho
  show PF Γ mi_X2_watch D h0 (QR Γ D h0 (ovv o.1) o.2) h0 0 [some (va_rf r0), some (va_rf p0), some (.int p1)] []
  unfold f_X2_watch at hf
  refine j_aload_n 0 dX2_watch_0 rfl rfl ?_
  refine j_aload_n 1 dX2_watch_1 rfl rfl ?_
  refine j_gIN (ci := 13) (k := 2) rfl in_X16 rfl q1382 dX2_watch_2 hf (fun v1 hf => ?_)
  refine j_aload_n 0 dX2_watch_5 rfl rfl ?_
  refine j_gI (ci := 1) (k := 20) rfl in_X2 rfl q824 dX2_watch_6 hf (fun v2 hf => ?_)
  refine j_icmp_ne 16 dX2_watch_9 (by decide) hf (fun c_ hf => ?_) (fun c_ hf => ?_)
  · refine j_aload_n 0 dX2_watch_16 rfl rfl ?_
    refine j_gI (ci := 1) (k := 21) rfl in_X2 rfl q825 dX2_watch_17 hf (fun v3 hf => ?_)
    refine j_weak [none, none, none] (Wk.s (Wk.s (Wk.s Wk.n))) ?_
    exact pf_X2_watch_B20 r0 v3 h0 hf
  · refine j_iload_n 2 dX2_watch_12 rfl rfl ?_
    refine j_goto 20 dX2_watch_13 (by decide) ?_
    refine j_weak [none, none, none] (Wk.s (Wk.s (Wk.s Wk.n))) ?_
    exact pf_X2_watch_B20 r0 p1 h0 hf
theorem kc_X2_146 {Γ : GX} {I : MI} {D : va_G} {h0 : PH} {Q : State → Prop} {h : PH} {pc : Nat} {vs : List (Option Value)} {rest : List Value} {β : Type} {o : β} {r : Option Nat} {p0 : Int32} {K : ((Int32) → PH → Option β)} (hI : I.2.2.1 = RX2) (hfr : Nat.ble 1 I.2.2.2.2.2.1 = true) (hlo : Nat.ble 21 I.2.2.2.2.2.2.1 = true) (hW : (rest.map fun v => v.category).sum ≤ 8) (hd : decode I.1 pc = .ok (.invokevirtual 146, 3)) (hf : rv_ h r 3 (cl_ (f_X4_at r p0 h) K) = some o) (kk : ∀ (x : Int32) (h1 : PH), K x h1 = some o → PF Γ I D h0 Q h1 (pc + 3) vs (.int x :: rest)) : PF Γ I D h0 Q h pc vs (.int p0 :: va_rf r :: rest) := by
  obtain ⟨cc, nL, own, rt, xt, fr, lo, nm⟩ := I
  cases hI
  exact j_cVi (n := 1) (y := yX4_at) (cc2 := cX4_at) (As := [.int p0]) (C := RX4) (ci := 3) rfl (lw_V q1421 q1422 q1423 q93 q1424) hyV_X4_at hfr hlo rfl hW hd (c_X4_at r p0) hf _ rfl kk
abbrev mi_X2_serverClock : MI := (cX2_serverClock, 1, RX2, (Option.some FieldType.int), [], 1, 21, "serverClock")
def f_X2_serverClock (r0 : Option Nat) (h0 : PH) : Option (Int32 × PH) := gR h0 r0 1 0 fun r1 => gRN h0 r1 2 0 fun r2 => gI h0 r0 1 8 fun v3 => rv_ h0 r2 3 (cl_ (f_X4_at r2 v3 h0) fun v5 h4 => some (v5, h4))
theorem hyS_X2_serverClock : yX2_serverClock.cls ≠ "java/lang/invoke/MethodHandle" ∧ yX2_serverClock.cls ≠ "java/lang/invoke/VarHandle" ∧ (parseMethodDescriptor yX2_serverClock.desc).map (fun d => d.parameters.length) = some 0 := by decide +kernel
theorem hyV_X2_serverClock : yX2_serverClock.cls = RX2 ∧ yX2_serverClock.cls ≠ "java/lang/invoke/MethodHandle" ∧ yX2_serverClock.cls ≠ "java/lang/invoke/VarHandle" ∧ (parseMethodDescriptor yX2_serverClock.desc).map (fun d => d.parameters.length) = some 0 := by decide +kernel
theorem c_X2_serverClock {D : va_G} (r0 : Option Nat) {h0 : PH} (l : Launch) (hl : l.stackTraces = false) (x : Int32) (h1 : PH) (hf : f_X2_serverClock r0 h0 = some (x, h1)) : CT l D yX2_serverClock (ws_ yX2_serverClock cX2_serverClock 1 (Option.some FieldType.int)) 1 21 [va_rf r0] h0 (ovi x) h1 := by
  refine ct_of hl [some (va_rf r0)] (by decide) (by rw [lgl]; simp [va_rf_cat, cat_i, cat_l]) (by simp [lv_args, vsL, va_rf_cat, cat_i, cat_l]) (fun Γ => ?_)
  obtain ⟨o, ho⟩ : ∃ o : Int32 × PH, o = (x, h1) := ⟨_, rfl⟩
  rw [← ho] at hf
  have e1 : x = o.1 := by rw [ho]
  have e2 : h1 = o.2 := by rw [ho]
  subst e1 e2
  clear ho
  show PF Γ mi_X2_serverClock D h0 (QR Γ D h0 (ovi o.1) o.2) h0 0 [some (va_rf r0)] []
  unfold f_X2_serverClock at hf
  refine j_aload_n 0 dX2_serverClock_0 rfl rfl ?_
  refine j_gR (ci := 1) (k := 0) rfl in_X2 rfl q786 dX2_serverClock_1 hf (fun r1 hf => ?_)
  refine j_gRN (ci := 2) (k := 0) rfl in_X3 rfl q518 dX2_serverClock_4 hf (fun r2 hf => ?_)
  refine j_aload_n 0 dX2_serverClock_7 rfl rfl ?_
  refine j_gI (ci := 1) (k := 8) rfl in_X2 rfl q802 dX2_serverClock_8 hf (fun v3 hf => ?_)
  refine kc_X2_146 rfl rfl rfl (by decide) dX2_serverClock_11 hf (fun v5 h4 hf => ?_)
  have e9 := Option.some.inj hf
  subst e9
  exact j_iret rfl dX2_serverClock_14
theorem kc_X2_155 {Γ : GX} {I : MI} {D : va_G} {h0 : PH} {Q : State → Prop} {h : PH} {pc : Nat} {vs : List (Option Value)} {rest : List Value} {β : Type} {o : β} {a : Nat} {p0 : Int32} {p1 : Int32} {p2 : Int32} {p3 : Int32} {K : ((Unit) → PH → Option β)} (hI : I.2.2.1 = RX2) (hfr : Nat.ble 2 I.2.2.2.2.2.1 = true) (hlo : Nat.ble 44 I.2.2.2.2.2.2.1 = true) (hW : (rest.map fun v => v.category).sum ≤ 8) (hd : decode I.1 pc = .ok (.invokespecial 155, 3)) (hf : cl_ (f_X17_init a p0 p1 p2 p3 h) K = some o) (kk : ∀ (x : Unit) (h1 : PH), K x h1 = some o → PF Γ I D h0 Q h1 (pc + 3) vs (rest)) : PF Γ I D h0 Q h pc vs (.int p3 :: .int p2 :: .int p1 :: .int p0 :: va_rf (some a) :: rest) := by
  obtain ⟨cc, nL, own, rt, xt, fr, lo, nm⟩ := I
  cases hI
  exact j_cIv (n := 4) (y := yX17_init) (cc2 := cX17_init) (As := [.int p0, .int p1, .int p2, .int p3]) (lw_meth q1433) q128 q1431 q1432 rfl hyS_X17_init hfr hlo rfl hW hd (c_X17_init a p0 p1 p2 p3) ⟨_, rfl⟩ hf _ rfl kk
theorem kc_X2_158 {Γ : GX} {I : MI} {D : va_G} {h0 : PH} {Q : State → Prop} {h : PH} {pc : Nat} {vs : List (Option Value)} {rest : List Value} {β : Type} {o : β} {r : Option Nat} {p0 : Option Nat} {K : ((Int32) → PH → Option β)} (hI : I.2.2.1 = RX2) (hfr : Nat.ble 7 I.2.2.2.2.2.1 = true) (hlo : Nat.ble 191 I.2.2.2.2.2.2.1 = true) (hW : (rest.map fun v => v.category).sum ≤ 8) (hd : decode I.1 pc = .ok (.invokeinterface 158 2, 5)) (hf : rv_ h r 19 (cl_ (f_J2_add r p0 h) K) = some o) (kk : ∀ (x : Int32) (h1 : PH), K x h1 = some o → PF Γ I D h0 Q h1 (pc + 5) vs (.int x :: rest)) : PF Γ I D h0 Q h pc vs (va_rf p0 :: va_rf r :: rest) := by
  obtain ⟨cc, nL, own, rt, xt, fr, lo, nm⟩ := I
  cases hI
  exact j_cFi (n := 1) (y := yJ2_add) (cc2 := cJ2_add) (As := [va_rf p0]) (C := RJ2) (x9 := ⟨"java/util/List", "add", "(Ljava/lang/Object;)Z"⟩) (ci := 19) rfl (by decide +kernel) (lw_F q1407 q572 q574 q96 q576) (by decide +kernel) hfr hlo rfl hW hd (c_J2_add r p0) hf _ rfl kk
abbrev mi_X2_note : MI := (cX2_note, 4, RX2, none, [], 7, 191, "note")
def f_X2_note_B26 (x0 : Option Nat) (x1 : Int32) (x2 : Int32) (x3 : Int32) (h : PH) : Option (Unit × PH) := gR h x0 1 5 fun r7 => nO h 14 4 [.int 0, .int 0, .int 0, .int 0] fun a8 h9 => gI h9 x0 1 8 fun v10 => cl_ (f_X17_init a8 v10 x1 x2 x3 h9) fun _u h11 => rv_ h11 r7 19 (cl_ (f_J2_add r7 (some a8) h11) fun v13 h12 => gR h12 x0 1 7 fun r14 => aI h12 r14 0 x1 fun v15 => sI h12 r14 0 x1 (v15 + (1 : Int32)) fun h16 => some ((), h16))
theorem pf_X2_note_B26 {Γ : GX} {D : va_G} {h0 : PH} {o : Unit × PH} (x0 : Option Nat) (x1 : Int32) (x2 : Int32) (x3 : Int32) (h : PH) (hf : f_X2_note_B26 x0 x1 x2 x3 h = some o) : PF Γ mi_X2_note D h0 (QR Γ D h0 (ovv o.1) o.2) h 26 [some (va_rf x0), some (.int x1), some (.int x2), some (.int x3)] [] := by
  refine j_aload_n 0 dX2_note_26 rfl rfl ?_
  refine j_gR (ci := 1) (k := 5) rfl in_X2 rfl q796 dX2_note_27 hf (fun r7 hf => ?_)
  refine j_nO (ci := 14) tyX17 tyX17_ok rfl in_X17 q1429 q1430 q128 (by decide) dX2_note_30 hf (fun a8 h9 hf => ?_)
  refine j_dup dX2_note_33 (va_rf_cat _) ?_
  refine j_aload_n 0 dX2_note_34 rfl rfl ?_
  refine j_gI (ci := 1) (k := 8) rfl in_X2 rfl q802 dX2_note_35 hf (fun v10 hf => ?_)
  refine j_iload_n 1 dX2_note_38 rfl rfl ?_
  refine j_iload_n 2 dX2_note_39 rfl rfl ?_
  refine j_iload_n 3 dX2_note_40 rfl rfl ?_
  refine kc_X2_155 rfl rfl rfl (by simp [va_rf_cat, cat_i, cat_l]) dX2_note_41 hf (fun _u h11 hf => ?_)
  refine kc_X2_158 rfl rfl rfl (by decide) dX2_note_44 hf (fun v13 h12 hf => ?_)
  refine j_pop dX2_note_49 rfl ?_
  refine j_aload_n 0 dX2_note_50 rfl rfl ?_
  refine j_gR (ci := 1) (k := 7) rfl in_X2 rfl q800 dX2_note_51 hf (fun r14 hf => ?_)
  refine j_iload_n 1 dX2_note_54 rfl rfl ?_
  refine j_dup2 dX2_note_55 rfl (va_rf_cat _) ?_
  refine j_iald dX2_note_56 hf (fun v15 hf => ?_)
  refine j_iconst (1 : Int32) dX2_note_57 (by decide) ?_
  refine j_iadd dX2_note_58 ?_
  refine j_iast dX2_note_59 hf (fun h16 hf => ?_)
  have e9 := Option.some.inj hf
  subst e9
  exact j_vret rfl dX2_note_60
def f_X2_note (r0 : Option Nat) (p0 : Int32) (p1 : Int32) (p2 : Int32) (h0 : PH) : Option (Unit × PH) := gR h0 r0 1 5 fun r1 => rv_ h0 r1 19 (cl_ (f_J2_size r1 h0) fun v3 h2 => (if v3 = (200 : Int32) then (gR h2 r0 1 5 fun r4 => rv_ h2 r4 19 (cl_ (f_J2_remove r4 (0 : Int32) h2) fun r6 h5 => f_X2_note_B26 r0 p0 p1 p2 h5)) else (f_X2_note_B26 r0 p0 p1 p2 h2)))
theorem hyS_X2_note : yX2_note.cls ≠ "java/lang/invoke/MethodHandle" ∧ yX2_note.cls ≠ "java/lang/invoke/VarHandle" ∧ (parseMethodDescriptor yX2_note.desc).map (fun d => d.parameters.length) = some 3 := by decide +kernel
theorem hyV_X2_note : yX2_note.cls = RX2 ∧ yX2_note.cls ≠ "java/lang/invoke/MethodHandle" ∧ yX2_note.cls ≠ "java/lang/invoke/VarHandle" ∧ (parseMethodDescriptor yX2_note.desc).map (fun d => d.parameters.length) = some 3 := by decide +kernel
theorem c_X2_note {D : va_G} (r0 : Option Nat) (p0 : Int32) (p1 : Int32) (p2 : Int32) {h0 : PH} (l : Launch) (hl : l.stackTraces = false) (x : Unit) (h1 : PH) (hf : f_X2_note r0 p0 p1 p2 h0 = some (x, h1)) : CT l D yX2_note (ws_ yX2_note cX2_note 4 none) 7 191 [va_rf r0, .int p0, .int p1, .int p2] h0 (ovv x) h1 := by
  refine ct_of hl [some (va_rf r0), some (.int p0), some (.int p1), some (.int p2)] (by decide) (by rw [lgl]; simp [va_rf_cat, cat_i, cat_l]) (by simp [lv_args, vsL, va_rf_cat, cat_i, cat_l]) (fun Γ => ?_)
  obtain ⟨o, ho⟩ : ∃ o : Unit × PH, o = (x, h1) := ⟨_, rfl⟩
  rw [← ho] at hf
  have e1 : x = o.1 := by rw [ho]
  have e2 : h1 = o.2 := by rw [ho]
  subst e1 e2
  clear ho
  show PF Γ mi_X2_note D h0 (QR Γ D h0 (ovv o.1) o.2) h0 0 [some (va_rf r0), some (.int p0), some (.int p1), some (.int p2)] []
  unfold f_X2_note at hf
  refine j_aload_n 0 dX2_note_0 rfl rfl ?_
  refine j_gR (ci := 1) (k := 5) rfl in_X2 rfl q796 dX2_note_1 hf (fun r1 hf => ?_)
  refine kc_X2_56 rfl rfl rfl (by decide) dX2_note_4 hf (fun v3 h2 hf => ?_)
  refine j_sipush (200 : Int32) dX2_note_9 (by decide) ?_
  refine j_icmp_ne 26 dX2_note_12 (by decide) hf (fun c_ hf => ?_) (fun c_ hf => ?_)
  · exact pf_X2_note_B26 r0 p0 p1 p2 h2 hf
  · refine j_aload_n 0 dX2_note_15 rfl rfl ?_
    refine j_gR (ci := 1) (k := 5) rfl in_X2 rfl q796 dX2_note_16 hf (fun r4 hf => ?_)
    refine j_iconst (0 : Int32) dX2_note_19 (by decide) ?_
    refine kc_X2_150 rfl rfl rfl (by decide) dX2_note_20 hf (fun r6 h5 hf => ?_)
    refine j_pop dX2_note_25 (va_rf_cat _) ?_
    exact pf_X2_note_B26 r0 p0 p1 p2 h5 hf
theorem kc_X2_181 {Γ : GX} {I : MI} {D : va_G} {h0 : PH} {Q : State → Prop} {h : PH} {pc : Nat} {vs : List (Option Value)} {rest : List Value} {β : Type} {o : β} {a : Nat} {p0 : Option Nat} {p1 : Int32} {p2 : Int32} {p3 : Option Nat} {p4 : Int32} {K : ((Unit) → PH → Option β)} (hI : I.2.2.1 = RX2) (hfr : Nat.ble 2 I.2.2.2.2.2.1 = true) (hlo : Nat.ble 45 I.2.2.2.2.2.2.1 = true) (hW : (rest.map fun v => v.category).sum ≤ 8) (hd : decode I.1 pc = .ok (.invokespecial 181, 3)) (hf : cl_ (f_X16_init_2 a p0 p1 p2 p3 p4 h) K = some o) (kk : ∀ (x : Unit) (h1 : PH), K x h1 = some o → PF Γ I D h0 Q h1 (pc + 3) vs (rest)) : PF Γ I D h0 Q h pc vs (.int p4 :: va_rf p3 :: .int p2 :: .int p1 :: va_rf p0 :: va_rf (some a) :: rest) := by
  obtain ⟨cc, nL, own, rt, xt, fr, lo, nm⟩ := I
  cases hI
  exact j_cIv (n := 5) (y := yX16_init_2) (cc2 := cX16_init_2) (As := [va_rf p0, .int p1, .int p2, va_rf p3, .int p4]) (lw_meth q1464) q127 q1462 q1463 rfl hyS_X16_init_2 hfr hlo rfl hW hd (c_X16_init_2 a p0 p1 p2 p3 p4) ⟨_, rfl⟩ hf _ rfl kk
abbrev mi_X2_send : MI := (cX2_send, 6, RX2, none, [], 7, 191, "send")
def f_X2_send (r0 : Option Nat) (p0 : Option Nat) (p1 : Int32) (p2 : Option Nat) (h0 : PH) : Option (Unit × PH) := gI h0 r0 1 9 fun v1 => dvL (2147483648 : Int64) (pV h0 r0 1 9 (.int (((((1103515245 : Int64) * (v1.toInt64)) + (12345 : Int64)) - (((1103515245 : Int64) * (v1.toInt64)) + (12345 : Int64)) / (2147483648 : Int64) * (2147483648 : Int64)).toInt32)) fun h2 => gI h2 r0 1 8 fun v3 => gR h2 r0 1 1 fun r4 => aQ h2 r4 5 p1 fun r5 => gIN h2 r5 5 1 fun v6 => gI h2 r0 1 9 fun v7 => dvI (65536 : Int32) (gR h2 r0 1 0 fun r8 => gIN h2 r8 2 7 fun v9 => dvI (v9 + (1 : Int32)) (gI h2 r0 1 10 fun v10 => pV h2 r0 1 10 (.int (v10 + (1 : Int32))) fun h11 => gR h11 r0 1 1 fun r12 => aQ h11 r12 5 p1 fun r13 => gIN h11 r13 5 4 fun v14 => (if v14 = 0 then (nA h11 0 (3 : Int32) (.inl fun _ => 0) fun a15 h16 => aN h16 p2 0 fun v17 => ycI h16 p2 (0 : Int32) (some a15) (0 : Int32) v17 0 (fun _ => true) fun h18 => gR h18 r0 1 2 fun r19 => nO h18 13 7 [.null, .int 0, .int 0, .int 0, .int 0, .int 0, .int 0] fun a20 h21 => gI h21 r0 1 10 fun v22 => cl_ (f_X16_init_2 a20 p0 p1 v22 (some a15) ((v3 + v6) + ((v7 / (65536 : Int32)) - (v7 / (65536 : Int32)) / (v9 + (1 : Int32)) * (v9 + (1 : Int32)))) h21) fun _u h23 => rv_ h23 r19 19 (cl_ (f_J2_add r19 (some a20) h23) fun v25 h24 => some ((), h24))) else (gI h11 r0 1 11 fun v26 => pV h11 r0 1 11 (.int (v26 + (1 : Int32))) fun h27 => some ((), h27))))))
theorem hyS_X2_send : yX2_send.cls ≠ "java/lang/invoke/MethodHandle" ∧ yX2_send.cls ≠ "java/lang/invoke/VarHandle" ∧ (parseMethodDescriptor yX2_send.desc).map (fun d => d.parameters.length) = some 3 := by decide +kernel
theorem hyV_X2_send : yX2_send.cls = RX2 ∧ yX2_send.cls ≠ "java/lang/invoke/MethodHandle" ∧ yX2_send.cls ≠ "java/lang/invoke/VarHandle" ∧ (parseMethodDescriptor yX2_send.desc).map (fun d => d.parameters.length) = some 3 := by decide +kernel
theorem c_X2_send {D : va_G} (r0 : Option Nat) (p0 : Option Nat) (p1 : Int32) (p2 : Option Nat) {h0 : PH} (l : Launch) (hl : l.stackTraces = false) (x : Unit) (h1 : PH) (hf : f_X2_send r0 p0 p1 p2 h0 = some (x, h1)) : CT l D yX2_send (ws_ yX2_send cX2_send 6 none) 7 191 [va_rf r0, va_rf p0, .int p1, va_rf p2] h0 (ovv x) h1 := by
  refine ct_of hl [some (va_rf r0), some (va_rf p0), some (.int p1), some (va_rf p2), none, none] (by decide) (by rw [lgl]; simp [va_rf_cat, cat_i, cat_l]) (by simp [lv_args, vsL, va_rf_cat, cat_i, cat_l]) (fun Γ => ?_)
  obtain ⟨o, ho⟩ : ∃ o : Unit × PH, o = (x, h1) := ⟨_, rfl⟩
  rw [← ho] at hf
  have e1 : x = o.1 := by rw [ho]
  have e2 : h1 = o.2 := by rw [ho]
  subst e1 e2
  clear ho
  show PF Γ mi_X2_send D h0 (QR Γ D h0 (ovv o.1) o.2) h0 0 [some (va_rf r0), some (va_rf p0), some (.int p1), some (va_rf p2), none, none] []
  unfold f_X2_send at hf
  refine j_aload_n 0 dX2_send_0 rfl rfl ?_
  refine j_ldc2 q1457 dX2_send_1 ?_
  refine j_aload_n 0 dX2_send_4 rfl rfl ?_
  refine j_gI (ci := 1) (k := 9) rfl in_X2 rfl q804 dX2_send_5 hf (fun v1 hf => ?_)
  refine j_i2l dX2_send_8 ?_
  refine j_lmul dX2_send_9 ?_
  refine j_ldc2 q1458 dX2_send_10 ?_
  refine j_ladd dX2_send_13 ?_
  refine j_ldc2 q1459 dX2_send_14 ?_
  refine j_lrem dX2_send_17 hf (fun hf => ?_)
  refine j_l2i dX2_send_18 ?_
  refine j_pV (ci := 1) (k := 9) tyX2 tyX2_ok nmX2 rfl in_X2 rfl q804 (Or.inl rfl) rfl (fit_i _) dX2_send_19 hf (fun h2 hf => ?_)
  refine j_aload_n 0 dX2_send_22 rfl rfl ?_
  refine j_gI (ci := 1) (k := 8) rfl in_X2 rfl q802 dX2_send_23 hf (fun v3 hf => ?_)
  refine j_aload_n 0 dX2_send_26 rfl rfl ?_
  refine j_gR (ci := 1) (k := 1) rfl in_X2 rfl q788 dX2_send_27 hf (fun r4 hf => ?_)
  refine j_iload_n 2 dX2_send_30 rfl rfl ?_
  refine j_aald (t := 5) rfl dX2_send_31 hf (fun r5 hf => ?_)
  refine j_gIN (ci := 5) (k := 1) rfl in_X6 rfl q725 dX2_send_32 hf (fun v6 hf => ?_)
  refine j_iadd dX2_send_35 ?_
  refine j_aload_n 0 dX2_send_36 rfl rfl ?_
  refine j_gI (ci := 1) (k := 9) rfl in_X2 rfl q804 dX2_send_37 hf (fun v7 hf => ?_)
  refine j_ldc q1460 dX2_send_40 ?_
  refine j_idiv dX2_send_42 hf (fun hf => ?_)
  refine j_aload_n 0 dX2_send_43 rfl rfl ?_
  refine j_gR (ci := 1) (k := 0) rfl in_X2 rfl q786 dX2_send_44 hf (fun r8 hf => ?_)
  refine j_gIN (ci := 2) (k := 7) rfl in_X3 rfl q541 dX2_send_47 hf (fun v9 hf => ?_)
  refine j_iconst (1 : Int32) dX2_send_50 (by decide) ?_
  refine j_iadd dX2_send_51 ?_
  refine j_irem dX2_send_52 hf (fun hf => ?_)
  refine j_iadd dX2_send_53 ?_
  refine j_istore [some (va_rf r0), some (va_rf p0), some (.int p1), some (va_rf p2), some (.int ((v3 + v6) + ((v7 / (65536 : Int32)) - (v7 / (65536 : Int32)) / (v9 + (1 : Int32)) * (v9 + (1 : Int32))))), none] dX2_send_54 (cz (va_rf_cat _)) rfl rfl ?_
  refine j_aload_n 0 dX2_send_56 rfl rfl ?_
  refine j_dup dX2_send_57 (va_rf_cat _) ?_
  refine j_gI (ci := 1) (k := 10) rfl in_X2 rfl q805 dX2_send_58 hf (fun v10 hf => ?_)
  refine j_iconst (1 : Int32) dX2_send_61 (by decide) ?_
  refine j_iadd dX2_send_62 ?_
  refine j_pV (ci := 1) (k := 10) tyX2 tyX2_ok nmX2 rfl in_X2 rfl q805 (Or.inl rfl) rfl (fit_i _) dX2_send_63 hf (fun h11 hf => ?_)
  refine j_aload_n 0 dX2_send_66 rfl rfl ?_
  refine j_gR (ci := 1) (k := 1) rfl in_X2 rfl q788 dX2_send_67 hf (fun r12 hf => ?_)
  refine j_iload_n 2 dX2_send_70 rfl rfl ?_
  refine j_aald (t := 5) rfl dX2_send_71 hf (fun r13 hf => ?_)
  refine j_gIN (ci := 5) (k := 4) rfl in_X6 rfl q733 dX2_send_72 hf (fun v14 hf => ?_)
  refine j_if_eq 89 dX2_send_75 (by decide) hf (fun c_ hf => ?_) (fun c_ hf => ?_)
  · refine j_iconst (3 : Int32) dX2_send_89 (by decide) ?_
    refine j_nA (t := 0) (atype := .int) (ty := .int) rfl (fun _ => rfl) (fun _ _ => rfl) (by decide) (fun _ _ h9 => h9) q679 dX2_send_90 hf (fun a15 h16 hf => ?_)
    refine j_astore [some (va_rf r0), some (va_rf p0), some (.int p1), some (va_rf p2), some (.int ((v3 + v6) + ((v7 / (65536 : Int32)) - (v7 / (65536 : Int32)) / (v9 + (1 : Int32)) * (v9 + (1 : Int32))))), some (va_rf (some a15))] dX2_send_92 (cz rfl) rfl rfl ?_
    refine j_aload_n 3 dX2_send_94 rfl rfl ?_
    refine j_iconst (0 : Int32) dX2_send_95 (by decide) ?_
    refine j_aload dX2_send_96 rfl ?_
    refine j_iconst (0 : Int32) dX2_send_98 (by decide) ?_
    refine j_aload_n 3 dX2_send_99 rfl rfl ?_
    refine j_alen (t := 0) rfl dX2_send_100 hf (fun v17 hf => ?_)
    refine j_ycI (t := 0) (ty := .int) rfl (fun _ _ => rfl) rfl q1461 q310 q309 q108 rfl rfl (by decide) dX2_send_101 hf (fun h18 hf => ?_)
    refine j_aload_n 0 dX2_send_104 rfl rfl ?_
    refine j_gR (ci := 1) (k := 2) rfl in_X2 rfl q790 dX2_send_105 hf (fun r19 hf => ?_)
    refine j_nO (ci := 13) tyX16 tyX16_ok rfl in_X16 q1266 q1372 q127 (by decide) dX2_send_108 hf (fun a20 h21 hf => ?_)
    refine j_dup dX2_send_111 (va_rf_cat _) ?_
    refine j_aload_n 1 dX2_send_112 rfl rfl ?_
    refine j_iload_n 2 dX2_send_113 rfl rfl ?_
    refine j_aload_n 0 dX2_send_114 rfl rfl ?_
    refine j_gI (ci := 1) (k := 10) rfl in_X2 rfl q805 dX2_send_115 hf (fun v22 hf => ?_)
    refine j_aload dX2_send_118 rfl ?_
    refine j_iload dX2_send_120 rfl ?_
    refine kc_X2_181 rfl rfl rfl (by simp [va_rf_cat, cat_i, cat_l]) dX2_send_122 hf (fun _u h23 hf => ?_)
    refine kc_X2_158 rfl rfl rfl (by decide) dX2_send_125 hf (fun v25 h24 hf => ?_)
    refine j_pop dX2_send_130 rfl ?_
    have e9 := Option.some.inj hf
    subst e9
    exact j_vret rfl dX2_send_131
  · refine j_aload_n 0 dX2_send_78 rfl rfl ?_
    refine j_dup dX2_send_79 (va_rf_cat _) ?_
    refine j_gI (ci := 1) (k := 11) rfl in_X2 rfl q806 dX2_send_80 hf (fun v26 hf => ?_)
    refine j_iconst (1 : Int32) dX2_send_83 (by decide) ?_
    refine j_iadd dX2_send_84 ?_
    refine j_pV (ci := 1) (k := 11) tyX2 tyX2_ok nmX2 rfl in_X2 rfl q806 (Or.inl rfl) rfl (fit_i _) dX2_send_85 hf (fun h27 hf => ?_)
    have e9 := Option.some.inj hf
    subst e9
    exact j_vret rfl dX2_send_88
theorem kc_X2_304 {Γ : GX} {I : MI} {D : va_G} {h0 : PH} {Q : State → Prop} {h : PH} {pc : Nat} {vs : List (Option Value)} {rest : List Value} {β : Type} {o : β} {r : Option Nat} {p0 : Int32} {p1 : Int32} {p2 : Int32} {K : (((Nat × Nat) ⊕ Unit) → PH → Option β)} (hI : I.2.2.1 = RX2) (hfr : Nat.ble 6 I.2.2.2.2.2.1 = true) (hlo : Nat.ble 133 I.2.2.2.2.2.2.1 = true) (hW : (rest.map fun v => v.category).sum ≤ 8) (hd : decode I.1 pc = .ok (.invokevirtual 304, 3)) (hf : rv_ h r 4 (cl_ (f_X5_write r p0 p1 p2 h) K) = some o) (kk : ∀ (x : Unit) (h1 : PH), K (.inr x) h1 = some o → PF Γ I D h0 Q h1 (pc + 3) vs (rest)) (kx : ∀ (ci q : Nat) (h1 : PH) (fs : List Value), h1.1 q = some (.inr (ci, fs)) → K (.inl (ci, q)) h1 = some o → PX Γ I D h0 Q h1 pc vs q) : PF Γ I D h0 Q h pc vs (.int p2 :: .int p1 :: .int p0 :: va_rf r :: rest) := by
  obtain ⟨cc, nL, own, rt, xt, fr, lo, nm⟩ := I
  cases hI
  exact j_xVv (n := 3) (y := yX5_write) (cc2 := cX5_write) (As := [.int p0, .int p1, .int p2]) (C := RX5) (ci := 4) rfl (lw_V q1507 q1508 q1509 q114 q1510) hyV_X5_write hfr hlo rfl hW hd (c_X5_write r p0 p1 p2) hf _ rfl kk kx
theorem kc_X2_254 {Γ : GX} {I : MI} {D : va_G} {h0 : PH} {Q : State → Prop} {h : PH} {pc : Nat} {vs : List (Option Value)} {rest : List Value} {β : Type} {o : β} {r : Option Nat} {p0 : Int32} {p1 : Int32} {p2 : Int32} {K : ((Unit) → PH → Option β)} (hI : I.2.2.1 = RX2) (hfr : Nat.ble 8 I.2.2.2.2.2.1 = true) (hlo : Nat.ble 214 I.2.2.2.2.2.2.1 = true) (hW : (rest.map fun v => v.category).sum ≤ 8) (hd : decode I.1 pc = .ok (.invokevirtual 254, 3)) (hf : rv_ h r 1 (cl_ (f_X2_note r p0 p1 p2 h) K) = some o) (kk : ∀ (x : Unit) (h1 : PH), K x h1 = some o → PF Γ I D h0 Q h1 (pc + 3) vs (rest)) : PF Γ I D h0 Q h pc vs (.int p2 :: .int p1 :: .int p0 :: va_rf r :: rest) := by
  obtain ⟨cc, nL, own, rt, xt, fr, lo, nm⟩ := I
  cases hI
  exact j_cVv (n := 3) (y := yX2_note) (cc2 := cX2_note) (As := [.int p0, .int p1, .int p2]) (C := RX2) (ci := 1) rfl (lw_V q1425 q1427 qs21 q91 q1428) hyV_X2_note hfr hlo rfl hW hd (c_X2_note r p0 p1 p2) hf _ rfl kk
theorem kc_X2_226 {Γ : GX} {I : MI} {D : va_G} {h0 : PH} {Q : State → Prop} {h : PH} {pc : Nat} {vs : List (Option Value)} {rest : List Value} {β : Type} {o : β} {r : Option Nat} {p0 : Option Nat} {p1 : Int32} {K : ((Unit) → PH → Option β)} (hI : I.2.2.1 = RX2) (hfr : Nat.ble 1 I.2.2.2.2.2.1 = true) (hlo : Nat.ble 22 I.2.2.2.2.2.2.1 = true) (hW : (rest.map fun v => v.category).sum ≤ 8) (hd : decode I.1 pc = .ok (.invokevirtual 226, 3)) (hf : rv_ h r 1 (cl_ (f_X2_watch r p0 p1 h) K) = some o) (kk : ∀ (x : Unit) (h1 : PH), K x h1 = some o → PF Γ I D h0 Q h1 (pc + 3) vs (rest)) : PF Γ I D h0 Q h pc vs (.int p1 :: va_rf p0 :: va_rf r :: rest) := by
  obtain ⟨cc, nL, own, rt, xt, fr, lo, nm⟩ := I
  cases hI
  exact j_cVv (n := 2) (y := yX2_watch) (cc2 := cX2_watch) (As := [va_rf p0, .int p1]) (C := RX2) (ci := 1) rfl (lw_V q1363 q1365 qs18 q91 q1366) hyV_X2_watch hfr hlo rfl hW hd (c_X2_watch r p0 p1) hf _ rfl kk
theorem kc_X2_203 {Γ : GX} {I : MI} {D : va_G} {h0 : PH} {Q : State → Prop} {h : PH} {pc : Nat} {vs : List (Option Value)} {rest : List Value} {β : Type} {o : β} {r : Option Nat} {p0 : Option Nat} {p1 : Int32} {p2 : Option Nat} {K : ((Unit) → PH → Option β)} (hI : I.2.2.1 = RX2) (hfr : Nat.ble 8 I.2.2.2.2.2.1 = true) (hlo : Nat.ble 216 I.2.2.2.2.2.2.1 = true) (hW : (rest.map fun v => v.category).sum ≤ 8) (hd : decode I.1 pc = .ok (.invokevirtual 203, 3)) (hf : rv_ h r 1 (cl_ (f_X2_send r p0 p1 p2 h) K) = some o) (kk : ∀ (x : Unit) (h1 : PH), K x h1 = some o → PF Γ I D h0 Q h1 (pc + 3) vs (rest)) : PF Γ I D h0 Q h pc vs (va_rf p2 :: .int p1 :: va_rf p0 :: va_rf r :: rest) := by
  obtain ⟨cc, nL, own, rt, xt, fr, lo, nm⟩ := I
  cases hI
  exact j_cVv (n := 3) (y := yX2_send) (cc2 := cX2_send) (As := [va_rf p0, .int p1, va_rf p2]) (C := RX2) (ci := 1) rfl (lw_V q1453 q1454 q1455 q91 q1456) hyV_X2_send hfr hlo rfl hW hd (c_X2_send r p0 p1 p2) hf _ rfl kk
theorem kc_X2_312 {Γ : GX} {I : MI} {D : va_G} {h0 : PH} {Q : State → Prop} {h : PH} {pc : Nat} {vs : List (Option Value)} {rest : List Value} {β : Type} {o : β} {a : Nat} {p0 : Option Nat} {K : ((Unit) → PH → Option β)} (hI : I.2.2.1 = RX2) (hfr : Nat.ble 4 I.2.2.2.2.2.1 = true) (hlo : Nat.ble 89 I.2.2.2.2.2.2.1 = true) (hW : (rest.map fun v => v.category).sum ≤ 8) (hd : decode I.1 pc = .ok (.invokespecial 312, 3)) (hf : cl_ (f_X19_init a p0 h) K = some o) (kk : ∀ (x : Unit) (h1 : PH), K x h1 = some o → PF Γ I D h0 Q h1 (pc + 3) vs (rest)) : PF Γ I D h0 Q h pc vs (va_rf p0 :: va_rf (some a) :: rest) := by
  obtain ⟨cc, nL, own, rt, xt, fr, lo, nm⟩ := I
  cases hI
  exact j_cIv (n := 1) (y := yX19_init) (cc2 := cX19_init) (As := [va_rf p0]) (lw_meth q1522) q130 q1520 q1521 rfl hyS_X19_init hfr hlo rfl hW hd (c_X19_init a p0) ⟨_, rfl⟩ hf _ rfl kk
theorem kc_X2_294 {Γ : GX} {I : MI} {D : va_G} {h0 : PH} {Q : State → Prop} {h : PH} {pc : Nat} {vs : List (Option Value)} {rest : List Value} {β : Type} {o : β} {r : Option Nat} {p0 : Int32} {p1 : Int32} {K : (((Nat × Nat) ⊕ Int32) → PH → Option β)} (hI : I.2.2.1 = RX2) (hfr : Nat.ble 6 I.2.2.2.2.2.1 = true) (hlo : Nat.ble 132 I.2.2.2.2.2.2.1 = true) (hW : (rest.map fun v => v.category).sum ≤ 8) (hd : decode I.1 pc = .ok (.invokevirtual 294, 3)) (hf : rv_ h r 4 (cl_ (f_X5_fetch r p0 p1 h) K) = some o) (kk : ∀ (x : Int32) (h1 : PH), K (.inr x) h1 = some o → PF Γ I D h0 Q h1 (pc + 3) vs (.int x :: rest)) (kx : ∀ (ci q : Nat) (h1 : PH) (fs : List Value), h1.1 q = some (.inr (ci, fs)) → K (.inl (ci, q)) h1 = some o → PX Γ I D h0 Q h1 pc vs q) : PF Γ I D h0 Q h pc vs (.int p1 :: .int p0 :: va_rf r :: rest) := by
  obtain ⟨cc, nL, own, rt, xt, fr, lo, nm⟩ := I
  cases hI
  exact j_xVi (n := 2) (y := yX5_fetch) (cc2 := cX5_fetch) (As := [.int p0, .int p1]) (C := RX5) (ci := 4) rfl (lw_V q1478 q1479 q1480 q114 q1481) hyV_X5_fetch hfr hlo rfl hW hd (c_X5_fetch r p0 p1) hf _ rfl kk kx
abbrev mi_X2_carryOut : MI := (cX2_carryOut, 3, RX2, none, tableOf [(0, 135, 138, 310)], 8, 216, "carryOut")
def f_X2_carryOut_B135  (h : PH) : Option (((Nat × Nat) ⊕ Unit) × PH) := some (.inr (), h)
theorem pf_X2_carryOut_B135 {Γ : GX} {D : va_G} {h0 : PH} {o : ((Nat × Nat) ⊕ Unit) × PH}  (h : PH) (hf : f_X2_carryOut_B135  h = some o) : PF Γ mi_X2_carryOut D h0 (QR Γ D h0 (oxv o.1) o.2) h 135 [none, none, none] [] := by
  refine j_goto 148 dX2_carryOut_135 (by decide) ?_
  have e9 := Option.some.inj hf
  subst e9
  exact j_vret rfl dX2_carryOut_148
def f_X2_carryOut (r0 : Option Nat) (p0 : Option Nat) (h0 : PH) : Option (((Nat × Nat) ⊕ Unit) × PH) := gRN h0 p0 13 0 fun r1 => asR (some (h0.2.1.1 5)) fun r2 => (if r1 = r2 then (gR h0 r0 1 6 fun r26 => gIN h0 p0 13 3 fun v27 => gIN h0 p0 13 4 fun v28 => rv_ h0 r26 4 (cl_ (f_X5_fetch r26 v27 v28 h0) fun z9 h29 => match z9 with | .inl (ci9, q9) => ((if ci9 = 15 then (if pbase h29 ≤ q9 then (nO h29 16 6 [.null, .null, .null, .null, .null, .int 0] fun a41 h42 => cl_ (f_X19_init a41 (some q9) h42) fun _u h43 => th_ h43 (some a41) fun ci9 q9 => xo_ h43 ci9 q9) else none) else none)) | .inr v30 => (asR (some (h29.2.1.1 7)) fun r31 => gIN h29 p0 13 1 fun v32 => nA h29 0 (3 : Int32) (.inl fun _ => 0) fun a33 h34 => gIN h34 p0 13 3 fun v35 => sI h34 (some a33) 0 (0 : Int32) v35 fun h36 => gIN h36 p0 13 4 fun v37 => sI h36 (some a33) 0 (1 : Int32) v37 fun h38 => sI h38 (some a33) 0 (2 : Int32) v30 fun h39 => rv_ h39 r0 1 (cl_ (f_X2_send r0 r31 v32 (some a33) h39) fun _u h40 => f_X2_carryOut_B135 h40)))) else (gR h0 r0 1 6 fun r3 => gIN h0 p0 13 3 fun v4 => gIN h0 p0 13 4 fun v5 => gIN h0 p0 13 5 fun v6 => rv_ h0 r3 4 (cl_ (f_X5_write r3 v4 v5 v6 h0) fun z9 h7 => match z9 with | .inl (ci9, q9) => ((if ci9 = 15 then (if pbase h7 ≤ q9 then (nO h7 16 6 [.null, .null, .null, .null, .null, .int 0] fun a23 h24 => cl_ (f_X19_init a23 (some q9) h24) fun _u h25 => th_ h25 (some a23) fun ci9 q9 => xo_ h25 ci9 q9) else none) else none)) | .inr _u => (gIN h7 p0 13 1 fun v8 => gIN h7 p0 13 3 fun v9 => rv_ h7 r0 1 (cl_ (f_X2_note r0 (6 : Int32) v8 v9 h7) fun _u h10 => rv_ h10 r0 1 (cl_ (f_X2_watch r0 p0 (0 : Int32) h10) fun _u h11 => asR (some (h11.2.1.1 6)) fun r12 => gIN h11 p0 13 1 fun v13 => nA h11 0 (3 : Int32) (.inl fun _ => 0) fun a14 h15 => gIN h15 p0 13 3 fun v16 => sI h15 (some a14) 0 (0 : Int32) v16 fun h17 => gIN h17 p0 13 4 fun v18 => sI h17 (some a14) 0 (1 : Int32) v18 fun h19 => gIN h19 p0 13 5 fun v20 => sI h19 (some a14) 0 (2 : Int32) v20 fun h21 => rv_ h21 r0 1 (cl_ (f_X2_send r0 r12 v13 (some a14) h21) fun _u h22 => f_X2_carryOut_B135 h22)))))))
theorem hyS_X2_carryOut : yX2_carryOut.cls ≠ "java/lang/invoke/MethodHandle" ∧ yX2_carryOut.cls ≠ "java/lang/invoke/VarHandle" ∧ (parseMethodDescriptor yX2_carryOut.desc).map (fun d => d.parameters.length) = some 1 := by decide +kernel
theorem hyV_X2_carryOut : yX2_carryOut.cls = RX2 ∧ yX2_carryOut.cls ≠ "java/lang/invoke/MethodHandle" ∧ yX2_carryOut.cls ≠ "java/lang/invoke/VarHandle" ∧ (parseMethodDescriptor yX2_carryOut.desc).map (fun d => d.parameters.length) = some 1 := by decide +kernel
theorem c_X2_carryOut {D : va_G} (r0 : Option Nat) (p0 : Option Nat) {h0 : PH} (l : Launch) (hl : l.stackTraces = false) (x : ((Nat × Nat) ⊕ Unit)) (h1 : PH) (hf : f_X2_carryOut r0 p0 h0 = some (x, h1)) : CT l D yX2_carryOut (wsW_ yX2_carryOut cX2_carryOut 3 none [(0, 135, 138, 310)]) 8 216 [va_rf r0, va_rf p0] h0 (oxv x) h1 := by
  refine ct_ofH hl [some (va_rf r0), some (va_rf p0), none] (by decide) (by rw [lgl]; simp [va_rf_cat, cat_i, cat_l]) (by simp [lv_args, vsL, va_rf_cat, cat_i, cat_l]) (fun Γ => ?_)
  obtain ⟨o, ho⟩ : ∃ o : ((Nat × Nat) ⊕ Unit) × PH, o = (x, h1) := ⟨_, rfl⟩
  rw [← ho] at hf
  have e1 : x = o.1 := by rw [ho]
  have e2 : h1 = o.2 := by rw [ho]
  subst e1 e2
  clear ho
  show PF Γ mi_X2_carryOut D h0 (QR Γ D h0 (oxv o.1) o.2) h0 0 [some (va_rf r0), some (va_rf p0), none] []
  unfold f_X2_carryOut at hf
  refine j_aload_n 1 dX2_carryOut_0 rfl rfl ?_
  refine j_gRN (ci := 13) (k := 0) rfl in_X16 rfl q1378 dX2_carryOut_1 hf (fun r1 hf => ?_)
  refine j_gsR (i := 5) rfl q1476 dX2_carryOut_4 hf (fun r2 hf => ?_)
  refine j_acmp_ne 61 dX2_carryOut_7 (by decide) hf (fun c_ hf => ?_) (fun c_ hf => ?_)
  · refine j_aload_n 0 dX2_carryOut_61 rfl rfl ?_
    refine j_gR (ci := 1) (k := 6) rfl in_X2 rfl q798 dX2_carryOut_62 hf (fun r3 hf => ?_)
    refine j_aload_n 1 dX2_carryOut_65 rfl rfl ?_
    refine j_gIN (ci := 13) (k := 3) rfl in_X16 rfl q1384 dX2_carryOut_66 hf (fun v4 hf => ?_)
    refine j_aload_n 1 dX2_carryOut_69 rfl rfl ?_
    refine j_gIN (ci := 13) (k := 4) rfl in_X16 rfl q1386 dX2_carryOut_70 hf (fun v5 hf => ?_)
    refine j_aload_n 1 dX2_carryOut_73 rfl rfl ?_
    refine j_gIN (ci := 13) (k := 5) rfl in_X16 rfl q1388 dX2_carryOut_74 hf (fun v6 hf => ?_)
    refine kc_X2_304 rfl rfl rfl (by decide) dX2_carryOut_77 hf (fun _u h7 hf => ?_) (fun ci9 q9 h7 fs9 he9 hf => ?_)
    · refine j_aload_n 0 dX2_carryOut_80 rfl rfl ?_
      refine j_bipush (6 : Int32) dX2_carryOut_81 (by decide) ?_
      refine j_aload_n 1 dX2_carryOut_83 rfl rfl ?_
      refine j_gIN (ci := 13) (k := 1) rfl in_X16 rfl q1380 dX2_carryOut_84 hf (fun v8 hf => ?_)
      refine j_aload_n 1 dX2_carryOut_87 rfl rfl ?_
      refine j_gIN (ci := 13) (k := 3) rfl in_X16 rfl q1384 dX2_carryOut_88 hf (fun v9 hf => ?_)
      refine kc_X2_254 rfl rfl rfl (by decide) dX2_carryOut_91 hf (fun _u h10 hf => ?_)
      refine j_aload_n 0 dX2_carryOut_94 rfl rfl ?_
      refine j_aload_n 1 dX2_carryOut_95 rfl rfl ?_
      refine j_iconst (0 : Int32) dX2_carryOut_96 (by decide) ?_
      refine kc_X2_226 rfl rfl rfl (by decide) dX2_carryOut_97 hf (fun _u h11 hf => ?_)
      refine j_aload_n 0 dX2_carryOut_100 rfl rfl ?_
      refine j_gsR (i := 6) rfl q1511 dX2_carryOut_101 hf (fun r12 hf => ?_)
      refine j_aload_n 1 dX2_carryOut_104 rfl rfl ?_
      refine j_gIN (ci := 13) (k := 1) rfl in_X16 rfl q1380 dX2_carryOut_105 hf (fun v13 hf => ?_)
      refine j_iconst (3 : Int32) dX2_carryOut_108 (by decide) ?_
      refine j_nA (t := 0) (atype := .int) (ty := .int) rfl (fun _ => rfl) (fun _ _ => rfl) (by decide) (fun _ _ h9 => h9) q679 dX2_carryOut_109 hf (fun a14 h15 hf => ?_)
      refine j_dup dX2_carryOut_111 (va_rf_cat _) ?_
      refine j_iconst (0 : Int32) dX2_carryOut_112 (by decide) ?_
      refine j_aload_n 1 dX2_carryOut_113 rfl rfl ?_
      refine j_gIN (ci := 13) (k := 3) rfl in_X16 rfl q1384 dX2_carryOut_114 hf (fun v16 hf => ?_)
      refine j_iast dX2_carryOut_117 hf (fun h17 hf => ?_)
      refine j_dup dX2_carryOut_118 (va_rf_cat _) ?_
      refine j_iconst (1 : Int32) dX2_carryOut_119 (by decide) ?_
      refine j_aload_n 1 dX2_carryOut_120 rfl rfl ?_
      refine j_gIN (ci := 13) (k := 4) rfl in_X16 rfl q1386 dX2_carryOut_121 hf (fun v18 hf => ?_)
      refine j_iast dX2_carryOut_124 hf (fun h19 hf => ?_)
      refine j_dup dX2_carryOut_125 (va_rf_cat _) ?_
      refine j_iconst (2 : Int32) dX2_carryOut_126 (by decide) ?_
      refine j_aload_n 1 dX2_carryOut_127 rfl rfl ?_
      refine j_gIN (ci := 13) (k := 5) rfl in_X16 rfl q1388 dX2_carryOut_128 hf (fun v20 hf => ?_)
      refine j_iast dX2_carryOut_131 hf (fun h21 hf => ?_)
      refine kc_X2_203 rfl rfl rfl (by decide) dX2_carryOut_132 hf (fun _u h22 hf => ?_)
      refine j_weak [none, none, none] (Wk.s (Wk.s (Wk.k Wk.n))) ?_
      exact pf_X2_carryOut_B135  h22 hf
    · by_cases x310 : ci9 = 15
      · subst x310
        replace hf := if_t hf rfl
        obtain ⟨hb9, hf⟩ := if_none hf
        refine j_catch (ci := 15) [] ⟨0, 135, 138, 310⟩ [] rfl (fun _ h => absurd h List.not_mem_nil) rfl (by decide) q1475 q1488 hb9 he9 ?_
        refine j_astore_n 2 [some (va_rf r0), some (va_rf p0), some (va_rf (some q9))] dX2_carryOut_138 rfl (cz (va_rf_cat _)) rfl rfl ?_
        refine j_nO (ci := 16) tyX19 tyX19_ok rfl in_X19 q1470 q1512 q130 (by decide) dX2_carryOut_139 hf (fun a23 h24 hf => ?_)
        refine j_dup dX2_carryOut_142 (va_rf_cat _) ?_
        refine j_aload_n 2 dX2_carryOut_143 rfl rfl ?_
        refine kc_X2_312 rfl rfl rfl (by simp [va_rf_cat, cat_i, cat_l]) dX2_carryOut_144 hf (fun _u h25 hf => ?_)
        refine j_athrow dX2_carryOut_147 hf (fun ci9 q9 fs9 he9 hf => ?_)
        obtain ⟨hb9, hf⟩ := xo_in hf
        subst hf
        exact j_out (by decide) hb9 he9
      · replace hf := if_f hf x310
        cases hf
  · refine j_aload_n 0 dX2_carryOut_10 rfl rfl ?_
    refine j_gR (ci := 1) (k := 6) rfl in_X2 rfl q798 dX2_carryOut_11 hf (fun r26 hf => ?_)
    refine j_aload_n 1 dX2_carryOut_14 rfl rfl ?_
    refine j_gIN (ci := 13) (k := 3) rfl in_X16 rfl q1384 dX2_carryOut_15 hf (fun v27 hf => ?_)
    refine j_aload_n 1 dX2_carryOut_18 rfl rfl ?_
    refine j_gIN (ci := 13) (k := 4) rfl in_X16 rfl q1386 dX2_carryOut_19 hf (fun v28 hf => ?_)
    refine kc_X2_294 rfl rfl rfl (by decide) dX2_carryOut_22 hf (fun v30 h29 hf => ?_) (fun ci9 q9 h29 fs9 he9 hf => ?_)
    · refine j_istore_n 2 [some (va_rf r0), some (va_rf p0), some (.int v30)] dX2_carryOut_25 rfl (cz (va_rf_cat _)) rfl rfl ?_
      refine j_aload_n 0 dX2_carryOut_26 rfl rfl ?_
      refine j_gsR (i := 7) rfl q1505 dX2_carryOut_27 hf (fun r31 hf => ?_)
      refine j_aload_n 1 dX2_carryOut_30 rfl rfl ?_
      refine j_gIN (ci := 13) (k := 1) rfl in_X16 rfl q1380 dX2_carryOut_31 hf (fun v32 hf => ?_)
      refine j_iconst (3 : Int32) dX2_carryOut_34 (by decide) ?_
      refine j_nA (t := 0) (atype := .int) (ty := .int) rfl (fun _ => rfl) (fun _ _ => rfl) (by decide) (fun _ _ h9 => h9) q679 dX2_carryOut_35 hf (fun a33 h34 hf => ?_)
      refine j_dup dX2_carryOut_37 (va_rf_cat _) ?_
      refine j_iconst (0 : Int32) dX2_carryOut_38 (by decide) ?_
      refine j_aload_n 1 dX2_carryOut_39 rfl rfl ?_
      refine j_gIN (ci := 13) (k := 3) rfl in_X16 rfl q1384 dX2_carryOut_40 hf (fun v35 hf => ?_)
      refine j_iast dX2_carryOut_43 hf (fun h36 hf => ?_)
      refine j_dup dX2_carryOut_44 (va_rf_cat _) ?_
      refine j_iconst (1 : Int32) dX2_carryOut_45 (by decide) ?_
      refine j_aload_n 1 dX2_carryOut_46 rfl rfl ?_
      refine j_gIN (ci := 13) (k := 4) rfl in_X16 rfl q1386 dX2_carryOut_47 hf (fun v37 hf => ?_)
      refine j_iast dX2_carryOut_50 hf (fun h38 hf => ?_)
      refine j_dup dX2_carryOut_51 (va_rf_cat _) ?_
      refine j_iconst (2 : Int32) dX2_carryOut_52 (by decide) ?_
      refine j_iload_n 2 dX2_carryOut_53 rfl rfl ?_
      refine j_iast dX2_carryOut_54 hf (fun h39 hf => ?_)
      refine kc_X2_203 rfl rfl rfl (by decide) dX2_carryOut_55 hf (fun _u h40 hf => ?_)
      refine j_goto 135 dX2_carryOut_58 (by decide) ?_
      refine j_weak [none, none, none] (Wk.s (Wk.s (Wk.s Wk.n))) ?_
      exact pf_X2_carryOut_B135  h40 hf
    · by_cases x310 : ci9 = 15
      · subst x310
        replace hf := if_t hf rfl
        obtain ⟨hb9, hf⟩ := if_none hf
        refine j_catch (ci := 15) [] ⟨0, 135, 138, 310⟩ [] rfl (fun _ h => absurd h List.not_mem_nil) rfl (by decide) q1475 q1488 hb9 he9 ?_
        refine j_astore_n 2 [some (va_rf r0), some (va_rf p0), some (va_rf (some q9))] dX2_carryOut_138 rfl (cz (va_rf_cat _)) rfl rfl ?_
        refine j_nO (ci := 16) tyX19 tyX19_ok rfl in_X19 q1470 q1512 q130 (by decide) dX2_carryOut_139 hf (fun a41 h42 hf => ?_)
        refine j_dup dX2_carryOut_142 (va_rf_cat _) ?_
        refine j_aload_n 2 dX2_carryOut_143 rfl rfl ?_
        refine kc_X2_312 rfl rfl rfl (by simp [va_rf_cat, cat_i, cat_l]) dX2_carryOut_144 hf (fun _u h43 hf => ?_)
        refine j_athrow dX2_carryOut_147 hf (fun ci9 q9 fs9 he9 hf => ?_)
        obtain ⟨hb9, hf⟩ := xo_in hf
        subst hf
        exact j_out (by decide) hb9 he9
      · replace hf := if_f hf x310
        cases hf
theorem kc_X2_190 {Γ : GX} {I : MI} {D : va_G} {h0 : PH} {Q : State → Prop} {h : PH} {pc : Nat} {vs : List (Option Value)} {rest : List Value} {β : Type} {o : β} {r : Option Nat} {p0 : Int32} {p1 : Int32} {K : ((Unit) → PH → Option β)} (hI : I.2.2.1 = RX2) (hfr : Nat.ble 3 I.2.2.2.2.2.1 = true) (hlo : Nat.ble 69 I.2.2.2.2.2.2.1 = true) (hW : (rest.map fun v => v.category).sum ≤ 8) (hd : decode I.1 pc = .ok (.invokevirtual 190, 3)) (hf : rv_ h r 5 (cl_ (f_X6_setTimer r p0 p1 h) K) = some o) (kk : ∀ (x : Unit) (h1 : PH), K x h1 = some o → PF Γ I D h0 Q h1 (pc + 3) vs (rest)) : PF Γ I D h0 Q h pc vs (.int p1 :: .int p0 :: va_rf r :: rest) := by
  obtain ⟨cc, nL, own, rt, xt, fr, lo, nm⟩ := I
  cases hI
  exact j_cVv (n := 2) (y := yX6_setTimer) (cc2 := cX6_setTimer) (As := [.int p0, .int p1]) (C := RX6) (ci := 5) rfl (lw_V q1547 q1548 q1549 q115 q1550) hyV_X6_setTimer hfr hlo rfl hW hd (c_X6_setTimer r p0 p1) hf _ rfl kk
abbrev mi_X2_granted : MI := (cX2_granted, 5, RX2, none, [], 8, 216, "granted")
def f_X2_granted_B107 (x0 : Option Nat) (x1 : Option Nat) (x2 : Option Nat) (x4 : Int32) (h : PH) : Option (Unit × PH) := gIN h x2 5 7 fun v21 => pV h x2 5 7 (.int (if v21 < x4 then x4 else v21)) fun h22 => gI h22 x0 1 8 fun v23 => gIN h22 x1 13 3 fun v24 => gR h22 x0 1 0 fun r25 => gIN h22 r25 2 5 fun v26 => rv_ h22 x2 5 (cl_ (f_X6_setTimer x2 v23 (v24 + v26) h22) fun _u h27 => some ((), h27))
theorem pf_X2_granted_B107 {Γ : GX} {D : va_G} {h0 : PH} {o : Unit × PH} (x0 : Option Nat) (x1 : Option Nat) (x2 : Option Nat) (x4 : Int32) (h : PH) (hf : f_X2_granted_B107 x0 x1 x2 x4 h = some o) : PF Γ mi_X2_granted D h0 (QR Γ D h0 (ovv o.1) o.2) h 107 [some (va_rf x0), some (va_rf x1), some (va_rf x2), none, some (.int x4)] [] := by
  refine j_aload_n 2 dX2_granted_107 rfl rfl ?_
  refine j_aload_n 2 dX2_granted_108 rfl rfl ?_
  refine j_gIN (ci := 5) (k := 7) rfl in_X6 rfl q742 dX2_granted_109 hf (fun v21 hf => ?_)
  refine j_iload dX2_granted_112 rfl ?_
  refine j_mmax q1311 q288 q106 q289 rfl rfl (by simp [va_rf_cat, cat_i, cat_l]) dX2_granted_114 ?_
  refine j_pVN (ci := 5) (k := 7) tyX6 tyX6_ok nmX6 rfl in_X6 rfl q742 rfl rfl (fit_i _) dX2_granted_117 hf (fun h22 hf => ?_)
  refine j_aload_n 2 dX2_granted_120 rfl rfl ?_
  refine j_aload_n 0 dX2_granted_121 rfl rfl ?_
  refine j_gI (ci := 1) (k := 8) rfl in_X2 rfl q802 dX2_granted_122 hf (fun v23 hf => ?_)
  refine j_aload_n 1 dX2_granted_125 rfl rfl ?_
  refine j_gIN (ci := 13) (k := 3) rfl in_X16 rfl q1384 dX2_granted_126 hf (fun v24 hf => ?_)
  refine j_aload_n 0 dX2_granted_129 rfl rfl ?_
  refine j_gR (ci := 1) (k := 0) rfl in_X2 rfl q786 dX2_granted_130 hf (fun r25 hf => ?_)
  refine j_gIN (ci := 2) (k := 5) rfl in_X3 rfl q537 dX2_granted_133 hf (fun v26 hf => ?_)
  refine j_iadd dX2_granted_136 ?_
  refine kc_X2_190 rfl rfl rfl (by decide) dX2_granted_137 hf (fun _u h27 hf => ?_)
  have e9 := Option.some.inj hf
  subst e9
  exact j_vret rfl dX2_granted_140
def f_X2_granted (r0 : Option Nat) (p0 : Option Nat) (p1 : Option Nat) (h0 : PH) : Option (Unit × PH) := gIN h0 p0 13 4 fun v1 => gIN h0 p1 5 3 fun v2 => (if v2 = 0 then (asR (some (h0.2.1.1 3)) fun r15 => gIN h0 p0 13 1 fun v16 => nA h0 0 (1 : Int32) (.inl fun _ => 0) fun a17 h18 => sI h18 (some a17) 0 (0 : Int32) v1 fun h19 => rv_ h19 r0 1 (cl_ (f_X2_send r0 r15 v16 (some a17) h19) fun _u h20 => some ((), h20))) else (gIN h0 p1 5 6 fun v3 => (if v3 ≤ v1 then (gIN h0 p0 13 3 fun v4 => gR h0 r0 1 0 fun r5 => gIN h0 r5 2 3 fun v6 => gR h0 r0 1 0 fun r7 => gIN h0 r7 2 4 fun v8 => gR h0 r0 1 0 fun r9 => gIN h0 r9 2 4 fun v10 => dvL ((1000 : Int64) + (v10.toInt64)) (gIN h0 p1 5 6 fun v11 => (if v1 ≤ v11 then (f_X2_granted_B107 r0 p0 p1 (((v4.toInt64) + (((v6.toInt64) * ((1000 : Int64) - (v8.toInt64))) / ((1000 : Int64) + (v10.toInt64)))).toInt32) h0) else (pV h0 p1 5 9 (.int (0 : Int32)) fun h12 => pV h12 p1 5 6 (.int v1) fun h13 => pV h13 p1 5 7 (.int (((v4.toInt64) + (((v6.toInt64) * ((1000 : Int64) - (v8.toInt64))) / ((1000 : Int64) + (v10.toInt64)))).toInt32)) fun h14 => f_X2_granted_B107 r0 p0 p1 (((v4.toInt64) + (((v6.toInt64) * ((1000 : Int64) - (v8.toInt64))) / ((1000 : Int64) + (v10.toInt64)))).toInt32) h14)))) else (some ((), h0)))))
theorem hyS_X2_granted : yX2_granted.cls ≠ "java/lang/invoke/MethodHandle" ∧ yX2_granted.cls ≠ "java/lang/invoke/VarHandle" ∧ (parseMethodDescriptor yX2_granted.desc).map (fun d => d.parameters.length) = some 2 := by decide +kernel
theorem hyV_X2_granted : yX2_granted.cls = RX2 ∧ yX2_granted.cls ≠ "java/lang/invoke/MethodHandle" ∧ yX2_granted.cls ≠ "java/lang/invoke/VarHandle" ∧ (parseMethodDescriptor yX2_granted.desc).map (fun d => d.parameters.length) = some 2 := by decide +kernel
theorem c_X2_granted {D : va_G} (r0 : Option Nat) (p0 : Option Nat) (p1 : Option Nat) {h0 : PH} (l : Launch) (hl : l.stackTraces = false) (x : Unit) (h1 : PH) (hf : f_X2_granted r0 p0 p1 h0 = some (x, h1)) : CT l D yX2_granted (ws_ yX2_granted cX2_granted 5 none) 8 216 [va_rf r0, va_rf p0, va_rf p1] h0 (ovv x) h1 := by
  refine ct_of hl [some (va_rf r0), some (va_rf p0), some (va_rf p1), none, none] (by decide) (by rw [lgl]; simp [va_rf_cat, cat_i, cat_l]) (by simp [lv_args, vsL, va_rf_cat, cat_i, cat_l]) (fun Γ => ?_)
  obtain ⟨o, ho⟩ : ∃ o : Unit × PH, o = (x, h1) := ⟨_, rfl⟩
  rw [← ho] at hf
  have e1 : x = o.1 := by rw [ho]
  have e2 : h1 = o.2 := by rw [ho]
  subst e1 e2
  clear ho
  show PF Γ mi_X2_granted D h0 (QR Γ D h0 (ovv o.1) o.2) h0 0 [some (va_rf r0), some (va_rf p0), some (va_rf p1), none, none] []
  unfold f_X2_granted at hf
  refine j_aload_n 1 dX2_granted_0 rfl rfl ?_
  refine j_gIN (ci := 13) (k := 4) rfl in_X16 rfl q1386 dX2_granted_1 hf (fun v1 hf => ?_)
  refine j_istore_n 3 [some (va_rf r0), some (va_rf p0), some (va_rf p1), some (.int v1), none] dX2_granted_4 rfl (cz (va_rf_cat _)) rfl rfl ?_
  refine j_aload_n 2 dX2_granted_5 rfl rfl ?_
  refine j_gIN (ci := 5) (k := 3) rfl in_X6 rfl q730 dX2_granted_6 hf (fun v2 hf => ?_)
  refine j_if_ne 31 dX2_granted_9 (by decide) hf (fun c_ hf => ?_) (fun c_ hf => ?_)
  · refine j_iload_n 3 dX2_granted_31 rfl rfl ?_
    refine j_aload_n 2 dX2_granted_32 rfl rfl ?_
    refine j_gIN (ci := 5) (k := 6) rfl in_X6 rfl q739 dX2_granted_33 hf (fun v3 hf => ?_)
    refine j_icmp_ge 40 dX2_granted_36 (by decide) hf (fun c_ hf => ?_) (fun c_ hf => ?_)
    · refine j_aload_n 1 dX2_granted_40 rfl rfl ?_
      refine j_gIN (ci := 13) (k := 3) rfl in_X16 rfl q1384 dX2_granted_41 hf (fun v4 hf => ?_)
      refine j_i2l dX2_granted_44 ?_
      refine j_aload_n 0 dX2_granted_45 rfl rfl ?_
      refine j_gR (ci := 1) (k := 0) rfl in_X2 rfl q786 dX2_granted_46 hf (fun r5 hf => ?_)
      refine j_gIN (ci := 2) (k := 3) rfl in_X3 rfl q531 dX2_granted_49 hf (fun v6 hf => ?_)
      refine j_i2l dX2_granted_52 ?_
      refine j_ldc2 q1546 dX2_granted_53 ?_
      refine j_aload_n 0 dX2_granted_56 rfl rfl ?_
      refine j_gR (ci := 1) (k := 0) rfl in_X2 rfl q786 dX2_granted_57 hf (fun r7 hf => ?_)
      refine j_gIN (ci := 2) (k := 4) rfl in_X3 rfl q534 dX2_granted_60 hf (fun v8 hf => ?_)
      refine j_i2l dX2_granted_63 ?_
      refine j_lsub dX2_granted_64 ?_
      refine j_lmul dX2_granted_65 ?_
      refine j_ldc2 q1546 dX2_granted_66 ?_
      refine j_aload_n 0 dX2_granted_69 rfl rfl ?_
      refine j_gR (ci := 1) (k := 0) rfl in_X2 rfl q786 dX2_granted_70 hf (fun r9 hf => ?_)
      refine j_gIN (ci := 2) (k := 4) rfl in_X3 rfl q534 dX2_granted_73 hf (fun v10 hf => ?_)
      refine j_i2l dX2_granted_76 ?_
      refine j_ladd dX2_granted_77 ?_
      refine j_ldiv dX2_granted_78 hf (fun hf => ?_)
      refine j_ladd dX2_granted_79 ?_
      refine j_l2i dX2_granted_80 ?_
      refine j_istore [some (va_rf r0), some (va_rf p0), some (va_rf p1), some (.int v1), some (.int (((v4.toInt64) + (((v6.toInt64) * ((1000 : Int64) - (v8.toInt64))) / ((1000 : Int64) + (v10.toInt64)))).toInt32))] dX2_granted_81 (cz rfl) rfl rfl ?_
      refine j_iload_n 3 dX2_granted_83 rfl rfl ?_
      refine j_aload_n 2 dX2_granted_84 rfl rfl ?_
      refine j_gIN (ci := 5) (k := 6) rfl in_X6 rfl q739 dX2_granted_85 hf (fun v11 hf => ?_)
      refine j_icmp_le 107 dX2_granted_88 (by decide) hf (fun c_ hf => ?_) (fun c_ hf => ?_)
      · refine j_weak [some (va_rf r0), some (va_rf p0), some (va_rf p1), none, some (.int (((v4.toInt64) + (((v6.toInt64) * ((1000 : Int64) - (v8.toInt64))) / ((1000 : Int64) + (v10.toInt64)))).toInt32))] (Wk.k (Wk.k (Wk.k (Wk.s (Wk.k Wk.n))))) ?_
        exact pf_X2_granted_B107 r0 p0 p1 (((v4.toInt64) + (((v6.toInt64) * ((1000 : Int64) - (v8.toInt64))) / ((1000 : Int64) + (v10.toInt64)))).toInt32) h0 hf
      · refine j_aload_n 2 dX2_granted_91 rfl rfl ?_
        refine j_iconst (0 : Int32) dX2_granted_92 (by decide) ?_
        refine j_pVN (ci := 5) (k := 9) tyX6 tyX6_ok nmX6 rfl in_X6 rfl q748 rfl rfl (fit_i _) dX2_granted_93 hf (fun h12 hf => ?_)
        refine j_aload_n 2 dX2_granted_96 rfl rfl ?_
        refine j_iload_n 3 dX2_granted_97 rfl rfl ?_
        refine j_pVN (ci := 5) (k := 6) tyX6 tyX6_ok nmX6 rfl in_X6 rfl q739 rfl rfl (fit_i _) dX2_granted_98 hf (fun h13 hf => ?_)
        refine j_aload_n 2 dX2_granted_101 rfl rfl ?_
        refine j_iload dX2_granted_102 rfl ?_
        refine j_pVN (ci := 5) (k := 7) tyX6 tyX6_ok nmX6 rfl in_X6 rfl q742 rfl rfl (fit_i _) dX2_granted_104 hf (fun h14 hf => ?_)
        refine j_weak [some (va_rf r0), some (va_rf p0), some (va_rf p1), none, some (.int (((v4.toInt64) + (((v6.toInt64) * ((1000 : Int64) - (v8.toInt64))) / ((1000 : Int64) + (v10.toInt64)))).toInt32))] (Wk.k (Wk.k (Wk.k (Wk.s (Wk.k Wk.n))))) ?_
        exact pf_X2_granted_B107 r0 p0 p1 (((v4.toInt64) + (((v6.toInt64) * ((1000 : Int64) - (v8.toInt64))) / ((1000 : Int64) + (v10.toInt64)))).toInt32) h14 hf
    · have e9 := Option.some.inj hf
      subst e9
      exact j_vret rfl dX2_granted_39
  · refine j_aload_n 0 dX2_granted_12 rfl rfl ?_
    refine j_gsR (i := 3) rfl q1544 dX2_granted_13 hf (fun r15 hf => ?_)
    refine j_aload_n 1 dX2_granted_16 rfl rfl ?_
    refine j_gIN (ci := 13) (k := 1) rfl in_X16 rfl q1380 dX2_granted_17 hf (fun v16 hf => ?_)
    refine j_iconst (1 : Int32) dX2_granted_20 (by decide) ?_
    refine j_nA (t := 0) (atype := .int) (ty := .int) rfl (fun _ => rfl) (fun _ _ => rfl) (by decide) (fun _ _ h9 => h9) q679 dX2_granted_21 hf (fun a17 h18 hf => ?_)
    refine j_dup dX2_granted_23 (va_rf_cat _) ?_
    refine j_iconst (0 : Int32) dX2_granted_24 (by decide) ?_
    refine j_iload_n 3 dX2_granted_25 rfl rfl ?_
    refine j_iast dX2_granted_26 hf (fun h19 hf => ?_)
    refine kc_X2_203 rfl rfl rfl (by decide) dX2_granted_27 hf (fun _u h20 hf => ?_)
    have e9 := Option.some.inj hf
    subst e9
    exact j_vret rfl dX2_granted_30
abbrev mi_X2_acquire : MI := (cX2_acquire, 4, RX2, none, [], 8, 216, "acquire")
def f_X2_acquire (r0 : Option Nat) (p0 : Int32) (h0 : PH) : Option (Unit × PH) := gR h0 r0 1 1 fun r1 => aQ h0 r1 5 p0 fun r2 => gRN h0 r2 5 0 fun r3 => gI h0 r0 1 8 fun v4 => rv_ h0 r3 3 (cl_ (f_X4_at r3 v4 h0) fun v6 h5 => gI h5 r0 1 8 fun v7 => gR h5 r0 1 0 fun r8 => gIN h5 r8 2 6 fun v9 => rv_ h5 r2 5 (cl_ (f_X6_setTimer r2 v7 (v6 + v9) h5) fun _u h10 => gIN h10 r2 5 11 fun v11 => pV h10 r2 5 11 (.int (v11 + (1 : Int32))) fun h12 => asR (some (h12.2.1.1 0)) fun r13 => nA h12 0 (1 : Int32) (.inl fun _ => 0) fun a14 h15 => sI h15 (some a14) 0 (0 : Int32) v6 fun h16 => rv_ h16 r0 1 (cl_ (f_X2_send r0 r13 p0 (some a14) h16) fun _u h17 => some ((), h17))))
theorem hyS_X2_acquire : yX2_acquire.cls ≠ "java/lang/invoke/MethodHandle" ∧ yX2_acquire.cls ≠ "java/lang/invoke/VarHandle" ∧ (parseMethodDescriptor yX2_acquire.desc).map (fun d => d.parameters.length) = some 1 := by decide +kernel
theorem hyV_X2_acquire : yX2_acquire.cls = RX2 ∧ yX2_acquire.cls ≠ "java/lang/invoke/MethodHandle" ∧ yX2_acquire.cls ≠ "java/lang/invoke/VarHandle" ∧ (parseMethodDescriptor yX2_acquire.desc).map (fun d => d.parameters.length) = some 1 := by decide +kernel
theorem c_X2_acquire {D : va_G} (r0 : Option Nat) (p0 : Int32) {h0 : PH} (l : Launch) (hl : l.stackTraces = false) (x : Unit) (h1 : PH) (hf : f_X2_acquire r0 p0 h0 = some (x, h1)) : CT l D yX2_acquire (ws_ yX2_acquire cX2_acquire 4 none) 8 216 [va_rf r0, .int p0] h0 (ovv x) h1 := by
  refine ct_of hl [some (va_rf r0), some (.int p0), none, none] (by decide) (by rw [lgl]; simp [va_rf_cat, cat_i, cat_l]) (by simp [lv_args, vsL, va_rf_cat, cat_i, cat_l]) (fun Γ => ?_)
  obtain ⟨o, ho⟩ : ∃ o : Unit × PH, o = (x, h1) := ⟨_, rfl⟩
  rw [← ho] at hf
  have e1 : x = o.1 := by rw [ho]
  have e2 : h1 = o.2 := by rw [ho]
  subst e1 e2
  clear ho
  show PF Γ mi_X2_acquire D h0 (QR Γ D h0 (ovv o.1) o.2) h0 0 [some (va_rf r0), some (.int p0), none, none] []
  unfold f_X2_acquire at hf
  refine j_aload_n 0 dX2_acquire_0 rfl rfl ?_
  refine j_gR (ci := 1) (k := 1) rfl in_X2 rfl q788 dX2_acquire_1 hf (fun r1 hf => ?_)
  refine j_iload_n 1 dX2_acquire_4 rfl rfl ?_
  refine j_aald (t := 5) rfl dX2_acquire_5 hf (fun r2 hf => ?_)
  refine j_astore_n 2 [some (va_rf r0), some (.int p0), some (va_rf r2), none] dX2_acquire_6 rfl (cz rfl) rfl rfl ?_
  refine j_aload_n 2 dX2_acquire_7 rfl rfl ?_
  refine j_gRN (ci := 5) (k := 0) rfl in_X6 rfl q722 dX2_acquire_8 hf (fun r3 hf => ?_)
  refine j_aload_n 0 dX2_acquire_11 rfl rfl ?_
  refine j_gI (ci := 1) (k := 8) rfl in_X2 rfl q802 dX2_acquire_12 hf (fun v4 hf => ?_)
  refine kc_X2_146 rfl rfl rfl (by decide) dX2_acquire_15 hf (fun v6 h5 hf => ?_)
  refine j_istore_n 3 [some (va_rf r0), some (.int p0), some (va_rf r2), some (.int v6)] dX2_acquire_18 rfl (cz (va_rf_cat _)) rfl rfl ?_
  refine j_aload_n 2 dX2_acquire_19 rfl rfl ?_
  refine j_aload_n 0 dX2_acquire_20 rfl rfl ?_
  refine j_gI (ci := 1) (k := 8) rfl in_X2 rfl q802 dX2_acquire_21 hf (fun v7 hf => ?_)
  refine j_iload_n 3 dX2_acquire_24 rfl rfl ?_
  refine j_aload_n 0 dX2_acquire_25 rfl rfl ?_
  refine j_gR (ci := 1) (k := 0) rfl in_X2 rfl q786 dX2_acquire_26 hf (fun r8 hf => ?_)
  refine j_gIN (ci := 2) (k := 6) rfl in_X3 rfl q539 dX2_acquire_29 hf (fun v9 hf => ?_)
  refine j_iadd dX2_acquire_32 ?_
  refine kc_X2_190 rfl rfl rfl (by decide) dX2_acquire_33 hf (fun _u h10 hf => ?_)
  refine j_aload_n 2 dX2_acquire_36 rfl rfl ?_
  refine j_dup dX2_acquire_37 (va_rf_cat _) ?_
  refine j_gIN (ci := 5) (k := 11) rfl in_X6 rfl q754 dX2_acquire_38 hf (fun v11 hf => ?_)
  refine j_iconst (1 : Int32) dX2_acquire_41 (by decide) ?_
  refine j_iadd dX2_acquire_42 ?_
  refine j_pVN (ci := 5) (k := 11) tyX6 tyX6_ok nmX6 rfl in_X6 rfl q754 rfl rfl (fit_i _) dX2_acquire_43 hf (fun h12 hf => ?_)
  refine j_aload_n 0 dX2_acquire_46 rfl rfl ?_
  refine j_gsR (i := 0) rfl q1571 dX2_acquire_47 hf (fun r13 hf => ?_)
  refine j_iload_n 1 dX2_acquire_50 rfl rfl ?_
  refine j_iconst (1 : Int32) dX2_acquire_51 (by decide) ?_
  refine j_nA (t := 0) (atype := .int) (ty := .int) rfl (fun _ => rfl) (fun _ _ => rfl) (by decide) (fun _ _ h9 => h9) q679 dX2_acquire_52 hf (fun a14 h15 hf => ?_)
  refine j_dup dX2_acquire_54 (va_rf_cat _) ?_
  refine j_iconst (0 : Int32) dX2_acquire_55 (by decide) ?_
  refine j_iload_n 3 dX2_acquire_56 rfl rfl ?_
  refine j_iast dX2_acquire_57 hf (fun h16 hf => ?_)
  refine kc_X2_203 rfl rfl rfl (by decide) dX2_acquire_58 hf (fun _u h17 hf => ?_)
  have e9 := Option.some.inj hf
  subst e9
  exact j_vret rfl dX2_acquire_61
theorem kc_X2_265 {Γ : GX} {I : MI} {D : va_G} {h0 : PH} {Q : State → Prop} {h : PH} {pc : Nat} {vs : List (Option Value)} {rest : List Value} {β : Type} {o : β} {r : Option Nat}  {K : ((Int32) → PH → Option β)} (hI : I.2.2.1 = RX2) (hfr : Nat.ble 2 I.2.2.2.2.2.1 = true) (hlo : Nat.ble 41 I.2.2.2.2.2.2.1 = true) (hW : (rest.map fun v => v.category).sum ≤ 8) (hd : decode I.1 pc = .ok (.invokevirtual 265, 3)) (hf : rv_ h r 1 (cl_ (f_X2_serverClock r h) K) = some o) (kk : ∀ (x : Int32) (h1 : PH), K x h1 = some o → PF Γ I D h0 Q h1 (pc + 3) vs (.int x :: rest)) : PF Γ I D h0 Q h pc vs (va_rf r :: rest) := by
  obtain ⟨cc, nL, own, rt, xt, fr, lo, nm⟩ := I
  cases hI
  exact j_cVi (n := 0) (y := yX2_serverClock) (cc2 := cX2_serverClock) (As := []) (C := RX2) (ci := 1) rfl (lw_V q1417 q1418 q1419 q91 q1420) hyV_X2_serverClock hfr hlo rfl hW hd (c_X2_serverClock r) hf _ rfl kk
abbrev mi_X2_restartServer : MI := (cX2_restartServer, 1, RX2, (Option.some FieldType.int), [], 8, 214, "restartServer")
def f_X2_restartServer (r0 : Option Nat) (h0 : PH) : Option (Int32 × PH) := pV h0 r0 1 12 (.int (-4 : Int32)) fun h1 => rv_ h1 r0 1 (cl_ (f_X2_serverClock r0 h1) fun v3 h2 => gR h2 r0 1 0 fun r4 => gIN h2 r4 2 3 fun v5 => pV h2 r0 1 15 (.int (v3 + v5)) fun h6 => gI h6 r0 1 14 fun v7 => rv_ h6 r0 1 (cl_ (f_X2_note r0 (8 : Int32) (-1 : Int32) v7 h6) fun _u h8 => gI h8 r0 1 15 fun v9 => some (v9, h8)))
theorem hyS_X2_restartServer : yX2_restartServer.cls ≠ "java/lang/invoke/MethodHandle" ∧ yX2_restartServer.cls ≠ "java/lang/invoke/VarHandle" ∧ (parseMethodDescriptor yX2_restartServer.desc).map (fun d => d.parameters.length) = some 0 := by decide +kernel
theorem hyV_X2_restartServer : yX2_restartServer.cls = RX2 ∧ yX2_restartServer.cls ≠ "java/lang/invoke/MethodHandle" ∧ yX2_restartServer.cls ≠ "java/lang/invoke/VarHandle" ∧ (parseMethodDescriptor yX2_restartServer.desc).map (fun d => d.parameters.length) = some 0 := by decide +kernel
theorem c_X2_restartServer {D : va_G} (r0 : Option Nat) {h0 : PH} (l : Launch) (hl : l.stackTraces = false) (x : Int32) (h1 : PH) (hf : f_X2_restartServer r0 h0 = some (x, h1)) : CT l D yX2_restartServer (ws_ yX2_restartServer cX2_restartServer 1 (Option.some FieldType.int)) 8 214 [va_rf r0] h0 (ovi x) h1 := by
  refine ct_of hl [some (va_rf r0)] (by decide) (by rw [lgl]; simp [va_rf_cat, cat_i, cat_l]) (by simp [lv_args, vsL, va_rf_cat, cat_i, cat_l]) (fun Γ => ?_)
  obtain ⟨o, ho⟩ : ∃ o : Int32 × PH, o = (x, h1) := ⟨_, rfl⟩
  rw [← ho] at hf
  have e1 : x = o.1 := by rw [ho]
  have e2 : h1 = o.2 := by rw [ho]
  subst e1 e2
  clear ho
  show PF Γ mi_X2_restartServer D h0 (QR Γ D h0 (ovi o.1) o.2) h0 0 [some (va_rf r0)] []
  unfold f_X2_restartServer at hf
  refine j_aload_n 0 dX2_restartServer_0 rfl rfl ?_
  refine j_bipush (-4 : Int32) dX2_restartServer_1 (by decide) ?_
  refine j_pV (ci := 1) (k := 12) tyX2 tyX2_ok nmX2 rfl in_X2 rfl q808 (Or.inl rfl) rfl (fit_i _) dX2_restartServer_3 hf (fun h1 hf => ?_)
  refine j_aload_n 0 dX2_restartServer_6 rfl rfl ?_
  refine j_aload_n 0 dX2_restartServer_7 rfl rfl ?_
  refine kc_X2_265 rfl rfl rfl (by simp [va_rf_cat, cat_i, cat_l]) dX2_restartServer_8 hf (fun v3 h2 hf => ?_)
  refine j_aload_n 0 dX2_restartServer_11 rfl rfl ?_
  refine j_gR (ci := 1) (k := 0) rfl in_X2 rfl q786 dX2_restartServer_12 hf (fun r4 hf => ?_)
  refine j_gIN (ci := 2) (k := 3) rfl in_X3 rfl q531 dX2_restartServer_15 hf (fun v5 hf => ?_)
  refine j_iadd dX2_restartServer_18 ?_
  refine j_pV (ci := 1) (k := 15) tyX2 tyX2_ok nmX2 rfl in_X2 rfl q814 (Or.inl rfl) rfl (fit_i _) dX2_restartServer_19 hf (fun h6 hf => ?_)
  refine j_aload_n 0 dX2_restartServer_22 rfl rfl ?_
  refine j_bipush (8 : Int32) dX2_restartServer_23 (by decide) ?_
  refine j_iconst (-1 : Int32) dX2_restartServer_25 (by decide) ?_
  refine j_aload_n 0 dX2_restartServer_26 rfl rfl ?_
  refine j_gI (ci := 1) (k := 14) rfl in_X2 rfl q812 dX2_restartServer_27 hf (fun v7 hf => ?_)
  refine kc_X2_254 rfl rfl rfl (by decide) dX2_restartServer_30 hf (fun _u h8 hf => ?_)
  refine j_aload_n 0 dX2_restartServer_33 rfl rfl ?_
  refine j_gI (ci := 1) (k := 15) rfl in_X2 rfl q814 dX2_restartServer_34 hf (fun v9 hf => ?_)
  have e9 := Option.some.inj hf
  subst e9
  exact j_iret rfl dX2_restartServer_37
