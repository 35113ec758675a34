/-! printed by gen.py: X1_cached X1_event X1_logKind X1_logNode X1_logToken X1_eventCount X1_ledTime X1_leaseLeft X1_countInLog X1_lastEventTime X1_until X1_saveSnapshot X1_restoreSnapshot X2_nextEvent X2_decide X2_atStorage X2_atNode X2_overtakingPairs -/
set_option maxRecDepth 100000
abbrev mi_X1_cached : MI := (cX1_cached, 2, RX1, (Option.some FieldType.int), [], 7, 110, "cached")
def f_X1_cached (r0 : Option Nat) (p0 : Int32) (h0 : PH) : Option (((Nat × Nat) ⊕ Int32) × PH) := rv_ h0 r0 0 (cl_ (f_X1_node r0 p0 h0) fun z9 h1 => match z9 with | .inl (ci9, q9) => (xo_ h1 ci9 q9) | .inr r2 => (gIN h1 r2 5 9 fun v3 => some (.inr v3, h1)))
theorem hyS_X1_cached : yX1_cached.cls ≠ "java/lang/invoke/MethodHandle" ∧ yX1_cached.cls ≠ "java/lang/invoke/VarHandle" ∧ (parseMethodDescriptor yX1_cached.desc).map (fun d => d.parameters.length) = some 1 := by decide +kernel
theorem hyV_X1_cached : yX1_cached.cls = RX1 ∧ yX1_cached.cls ≠ "java/lang/invoke/MethodHandle" ∧ yX1_cached.cls ≠ "java/lang/invoke/VarHandle" ∧ (parseMethodDescriptor yX1_cached.desc).map (fun d => d.parameters.length) = some 1 := by decide +kernel
theorem c_X1_cached {D : va_G} (r0 : Option Nat) (p0 : Int32) {h0 : PH} (l : Launch) (hl : l.stackTraces = false) (x : ((Nat × Nat) ⊕ Int32)) (h1 : PH) (hf : f_X1_cached r0 p0 h0 = some (x, h1)) : CT l D yX1_cached (ws_ yX1_cached cX1_cached 2 (Option.some FieldType.int)) 7 110 [va_rf r0, .int p0] h0 (oxi x) h1 := by
  refine ct_of hl [some (va_rf r0), some (.int p0)] (by decide) (by rw [lgl]; simp [va_rf_cat, cat_i, cat_l]) (by simp [lv_args, vsL, va_rf_cat, cat_i, cat_l]) (fun Γ => ?_)
  obtain ⟨o, ho⟩ : ∃ o : ((Nat × Nat) ⊕ Int32) × PH, o = (x, h1) := ⟨_, rfl⟩
  rw [← ho] at hf
  have e1 : x = o.1 := by rw [ho]
  have e2 : h1 = o.2 := by rw [ho]
  subst e1 e2
  clear ho
  show PF Γ mi_X1_cached D h0 (QR Γ D h0 (oxi o.1) o.2) h0 0 [some (va_rf r0), some (.int p0)] []
  unfold f_X1_cached at hf
  refine j_aload_n 0 dX1_cached_0 rfl rfl ?_
  refine j_iload_n 1 dX1_cached_1 rfl rfl ?_
  refine kc_X1_117 rfl rfl rfl (by decide) dX1_cached_2 hf (fun r2 h1 hf => ?_) (fun ci9 q9 h1 fs9 he9 hf => ?_)
  · refine j_gIN (ci := 5) (k := 9) rfl in_X6 rfl q749 dX1_cached_5 hf (fun v3 hf => ?_)
    have e9 := Option.some.inj hf
    subst e9
    exact j_iret rfl dX1_cached_8
  · obtain ⟨hb9, hf⟩ := xo_in hf
    subst hf
    exact j_out (by decide) hb9 he9
theorem kc_X1_296 {Γ : GX} {I : MI} {D : va_G} {h0 : PH} {Q : State → Prop} {h : PH} {pc : Nat} {vs : List (Option Value)} {rest : List Value} {β : Type} {o : β} {r : Option Nat} {p0 : Int32} {K : ((Option Nat) → PH → Option β)} (hI : I.2.2.1 = RX1) (hfr : Nat.ble 3 I.2.2.2.2.2.1 = true) (hlo : Nat.ble 64 I.2.2.2.2.2.2.1 = true) (hW : (rest.map fun v => v.category).sum ≤ 8) (hd : decode I.1 pc = .ok (.invokeinterface 296 2, 5)) (hf : rv_ h r 19 (cl_ (f_J2_get r p0 h) K) = some o) (kk : ∀ (x : Option Nat) (h1 : PH), K x h1 = some o → PF Γ I D h0 Q h1 (pc + 5) vs (va_rf x :: rest)) : PF Γ I D h0 Q h pc vs (.int p0 :: va_rf r :: rest) := by
  obtain ⟨cc, nL, own, rt, xt, fr, lo, nm⟩ := I
  cases hI
  exact j_cFr (n := 1) (y := yJ2_get) (cc2 := cJ2_get) (As := [.int p0]) (C := RJ2) (x9 := ⟨"java/util/List", "get", "(I)Ljava/lang/Object;"⟩) (ci := 19) rfl (by decide +kernel) (lw_F q1987 q696 q698 q96 q700) (by decide +kernel) hfr hlo rfl hW hd (c_J2_get r p0) hf _ rfl kk
abbrev mi_X1_event : MI := (cX1_event, 2, RX1, (Option.some (FieldType.object "LeaderLeases$Event")), [], 6, 89, "event")
def f_X1_event (r0 : Option Nat) (p0 : Int32) (h0 : PH) : Option (((Nat × Nat) ⊕ Option Nat) × PH) := gR h0 r0 0 3 fun r1 => gRN h0 r1 1 5 fun r2 => rv_ h0 r2 19 (cl_ (f_J2_size r2 h0) fun v4 h3 => cl_ (f_X1_in (p0.toInt64) (0 : Int64) ((v4 - (1 : Int32)).toInt64) h3) fun v6 h5 => (if v6 = 0 then (nO h5 24 6 [] fun a11 h12 => th_ h12 (some a11) fun ci9 q9 => xo_ h12 ci9 q9) else (gR h5 r0 0 3 fun r7 => gRN h5 r7 1 5 fun r8 => rv_ h5 r8 19 (cl_ (f_J2_get r8 p0 h5) fun r10 h9 => kC h9 r10 14 (some (.inr r10, h9))))))
theorem hyS_X1_event : yX1_event.cls ≠ "java/lang/invoke/MethodHandle" ∧ yX1_event.cls ≠ "java/lang/invoke/VarHandle" ∧ (parseMethodDescriptor yX1_event.desc).map (fun d => d.parameters.length) = some 1 := by decide +kernel
theorem hyV_X1_event : yX1_event.cls = RX1 ∧ yX1_event.cls ≠ "java/lang/invoke/MethodHandle" ∧ yX1_event.cls ≠ "java/lang/invoke/VarHandle" ∧ (parseMethodDescriptor yX1_event.desc).map (fun d => d.parameters.length) = some 1 := by decide +kernel
theorem c_X1_event {D : va_G} (r0 : Option Nat) (p0 : Int32) {h0 : PH} (l : Launch) (hl : l.stackTraces = false) (x : ((Nat × Nat) ⊕ Option Nat)) (h1 : PH) (hf : f_X1_event r0 p0 h0 = some (x, h1)) : CT l D yX1_event (ws_ yX1_event cX1_event 2 (Option.some (FieldType.object "LeaderLeases$Event"))) 6 89 [va_rf r0, .int p0] h0 (oxr x) h1 := by
  refine ct_of hl [some (va_rf r0), some (.int p0)] (by decide) (by rw [lgl]; simp [va_rf_cat, cat_i, cat_l]) (by simp [lv_args, vsL, va_rf_cat, cat_i, cat_l]) (fun Γ => ?_)
  obtain ⟨o, ho⟩ : ∃ o : ((Nat × Nat) ⊕ Option Nat) × PH, o = (x, h1) := ⟨_, rfl⟩
  rw [← ho] at hf
  have e1 : x = o.1 := by rw [ho]
  have e2 : h1 = o.2 := by rw [ho]
  subst e1 e2
  clear ho
  show PF Γ mi_X1_event D h0 (QR Γ D h0 (oxr o.1) o.2) h0 0 [some (va_rf r0), some (.int p0)] []
  unfold f_X1_event at hf
  refine j_iload_n 1 dX1_event_0 rfl rfl ?_
  refine j_i2l dX1_event_1 ?_
  refine j_lconst (0 : Int64) dX1_event_2 (by decide) ?_
  refine j_aload_n 0 dX1_event_3 rfl rfl ?_
  refine j_gR (ci := 0) (k := 3) rfl in_X1 rfl q877 dX1_event_4 hf (fun r1 hf => ?_)
  refine j_gRN (ci := 1) (k := 5) rfl in_X2 rfl q797 dX1_event_7 hf (fun r2 hf => ?_)
  refine kc_X1_192 rfl rfl rfl (by simp [va_rf_cat, cat_i, cat_l]) dX1_event_10 hf (fun v4 h3 hf => ?_)
  refine j_iconst (1 : Int32) dX1_event_15 (by decide) ?_
  refine j_isub dX1_event_16 ?_
  refine j_i2l dX1_event_17 ?_
  refine kc_X1_64 rfl rfl rfl (by decide) dX1_event_18 hf (fun v6 h5 hf => ?_)
  refine j_if_ne 32 dX1_event_21 (by decide) hf (fun c_ hf => ?_) (fun c_ hf => ?_)
  · refine j_aload_n 0 dX1_event_32 rfl rfl ?_
    refine j_gR (ci := 0) (k := 3) rfl in_X1 rfl q877 dX1_event_33 hf (fun r7 hf => ?_)
    refine j_gRN (ci := 1) (k := 5) rfl in_X2 rfl q797 dX1_event_36 hf (fun r8 hf => ?_)
    refine j_iload_n 1 dX1_event_39 rfl rfl ?_
    refine kc_X1_296 rfl rfl rfl (by decide) dX1_event_40 hf (fun r10 h9 hf => ?_)
    refine j_kC (ci := 14) rfl q1988 dX1_event_45 hf (fun hf => ?_)
    have e9 := Option.some.inj hf
    subst e9
    exact j_aret rfl (Or.inl ⟨_, rfl⟩) dX1_event_48
  · refine j_make0 (ci := 24) (cls := "java/lang/IndexOutOfBoundsException") (names := ["java/lang/RuntimeException", "java/lang/Exception"]) (by decide +kernel) (by decide +kernel) (by decide +kernel) q1748 q131 at_X1_70 at_X1_70g at_X1_70o rfl rfl rfl (by decide) dX1_event_24 dX1_event_27 dX1_event_28 hf (fun a11 h12 hf => ?_)
    refine j_athrow dX1_event_31 hf (fun ci9 q9 fs9 he9 hf => ?_)
    obtain ⟨hb9, hf⟩ := xo_in hf
    subst hf
    exact j_out (by decide) hb9 he9
theorem kc_X1_302 {Γ : GX} {I : MI} {D : va_G} {h0 : PH} {Q : State → Prop} {h : PH} {pc : Nat} {vs : List (Option Value)} {rest : List Value} {β : Type} {o : β} {r : Option Nat} {p0 : Int32} {K : (((Nat × Nat) ⊕ Option Nat) → PH → Option β)} (hI : I.2.2.1 = RX1) (hfr : Nat.ble 7 I.2.2.2.2.2.1 = true) (hlo : Nat.ble 110 I.2.2.2.2.2.2.1 = true) (hW : (rest.map fun v => v.category).sum ≤ 8) (hd : decode I.1 pc = .ok (.invokevirtual 302, 3)) (hf : rv_ h r 0 (cl_ (f_X1_event r p0 h) K) = some o) (kk : ∀ (x : Option Nat) (h1 : PH), K (.inr x) h1 = some o → PF Γ I D h0 Q h1 (pc + 3) vs (va_rf x :: rest)) (kx : ∀ (ci q : Nat) (h1 : PH) (fs : List Value), h1.1 q = some (.inr (ci, fs)) → K (.inl (ci, q)) h1 = some o → PX Γ I D h0 Q h1 pc vs q) : PF Γ I D h0 Q h pc vs (.int p0 :: va_rf r :: rest) := by
  obtain ⟨cc, nL, own, rt, xt, fr, lo, nm⟩ := I
  cases hI
  exact j_xVr (n := 1) (y := yX1_event) (cc2 := cX1_event) (As := [.int p0]) (C := RX1) (ci := 0) rfl (lw_V q1982 q1984 qs31 q90 q1985) hyV_X1_event hfr hlo rfl hW hd (c_X1_event r p0) hf _ rfl kk kx
abbrev mi_X1_logKind : MI := (cX1_logKind, 2, RX1, (Option.some FieldType.int), [], 7, 110, "logKind")
def f_X1_logKind (r0 : Option Nat) (p0 : Int32) (h0 : PH) : Option (((Nat × Nat) ⊕ Int32) × PH) := rv_ h0 r0 0 (cl_ (f_X1_event r0 p0 h0) fun z9 h1 => match z9 with | .inl (ci9, q9) => (xo_ h1 ci9 q9) | .inr r2 => (gIN h1 r2 14 1 fun v3 => some (.inr v3, h1)))
theorem hyS_X1_logKind : yX1_logKind.cls ≠ "java/lang/invoke/MethodHandle" ∧ yX1_logKind.cls ≠ "java/lang/invoke/VarHandle" ∧ (parseMethodDescriptor yX1_logKind.desc).map (fun d => d.parameters.length) = some 1 := by decide +kernel
theorem hyV_X1_logKind : yX1_logKind.cls = RX1 ∧ yX1_logKind.cls ≠ "java/lang/invoke/MethodHandle" ∧ yX1_logKind.cls ≠ "java/lang/invoke/VarHandle" ∧ (parseMethodDescriptor yX1_logKind.desc).map (fun d => d.parameters.length) = some 1 := by decide +kernel
theorem c_X1_logKind {D : va_G} (r0 : Option Nat) (p0 : Int32) {h0 : PH} (l : Launch) (hl : l.stackTraces = false) (x : ((Nat × Nat) ⊕ Int32)) (h1 : PH) (hf : f_X1_logKind r0 p0 h0 = some (x, h1)) : CT l D yX1_logKind (ws_ yX1_logKind cX1_logKind 2 (Option.some FieldType.int)) 7 110 [va_rf r0, .int p0] h0 (oxi x) h1 := by
  refine ct_of hl [some (va_rf r0), some (.int p0)] (by decide) (by rw [lgl]; simp [va_rf_cat, cat_i, cat_l]) (by simp [lv_args, vsL, va_rf_cat, cat_i, cat_l]) (fun Γ => ?_)
  obtain ⟨o, ho⟩ : ∃ o : ((Nat × Nat) ⊕ Int32) × PH, o = (x, h1) := ⟨_, rfl⟩
  rw [← ho] at hf
  have e1 : x = o.1 := by rw [ho]
  have e2 : h1 = o.2 := by rw [ho]
  subst e1 e2
  clear ho
  show PF Γ mi_X1_logKind D h0 (QR Γ D h0 (oxi o.1) o.2) h0 0 [some (va_rf r0), some (.int p0)] []
  unfold f_X1_logKind at hf
  refine j_aload_n 0 dX1_logKind_0 rfl rfl ?_
  refine j_iload_n 1 dX1_logKind_1 rfl rfl ?_
  refine kc_X1_302 rfl rfl rfl (by decide) dX1_logKind_2 hf (fun r2 h1 hf => ?_) (fun ci9 q9 h1 fs9 he9 hf => ?_)
  · refine j_gIN (ci := 14) (k := 1) rfl in_X17 rfl q1438 dX1_logKind_5 hf (fun v3 hf => ?_)
    have e9 := Option.some.inj hf
    subst e9
    exact j_iret rfl dX1_logKind_8
  · obtain ⟨hb9, hf⟩ := xo_in hf
    subst hf
    exact j_out (by decide) hb9 he9
abbrev mi_X1_logNode : MI := (cX1_logNode, 2, RX1, (Option.some FieldType.int), [], 7, 110, "logNode")
def f_X1_logNode (r0 : Option Nat) (p0 : Int32) (h0 : PH) : Option (((Nat × Nat) ⊕ Int32) × PH) := rv_ h0 r0 0 (cl_ (f_X1_event r0 p0 h0) fun z9 h1 => match z9 with | .inl (ci9, q9) => (xo_ h1 ci9 q9) | .inr r2 => (gIN h1 r2 14 2 fun v3 => some (.inr v3, h1)))
theorem hyS_X1_logNode : yX1_logNode.cls ≠ "java/lang/invoke/MethodHandle" ∧ yX1_logNode.cls ≠ "java/lang/invoke/VarHandle" ∧ (parseMethodDescriptor yX1_logNode.desc).map (fun d => d.parameters.length) = some 1 := by decide +kernel
theorem hyV_X1_logNode : yX1_logNode.cls = RX1 ∧ yX1_logNode.cls ≠ "java/lang/invoke/MethodHandle" ∧ yX1_logNode.cls ≠ "java/lang/invoke/VarHandle" ∧ (parseMethodDescriptor yX1_logNode.desc).map (fun d => d.parameters.length) = some 1 := by decide +kernel
theorem c_X1_logNode {D : va_G} (r0 : Option Nat) (p0 : Int32) {h0 : PH} (l : Launch) (hl : l.stackTraces = false) (x : ((Nat × Nat) ⊕ Int32)) (h1 : PH) (hf : f_X1_logNode r0 p0 h0 = some (x, h1)) : CT l D yX1_logNode (ws_ yX1_logNode cX1_logNode 2 (Option.some FieldType.int)) 7 110 [va_rf r0, .int p0] h0 (oxi x) h1 := by
  refine ct_of hl [some (va_rf r0), some (.int p0)] (by decide) (by rw [lgl]; simp [va_rf_cat, cat_i, cat_l]) (by simp [lv_args, vsL, va_rf_cat, cat_i, cat_l]) (fun Γ => ?_)
  obtain ⟨o, ho⟩ : ∃ o : ((Nat × Nat) ⊕ Int32) × PH, o = (x, h1) := ⟨_, rfl⟩
  rw [← ho] at hf
  have e1 : x = o.1 := by rw [ho]
  have e2 : h1 = o.2 := by rw [ho]
  subst e1 e2
  clear ho
  show PF Γ mi_X1_logNode D h0 (QR Γ D h0 (oxi o.1) o.2) h0 0 [some (va_rf r0), some (.int p0)] []
  unfold f_X1_logNode at hf
  refine j_aload_n 0 dX1_logNode_0 rfl rfl ?_
  refine j_iload_n 1 dX1_logNode_1 rfl rfl ?_
  refine kc_X1_302 rfl rfl rfl (by decide) dX1_logNode_2 hf (fun r2 h1 hf => ?_) (fun ci9 q9 h1 fs9 he9 hf => ?_)
  · refine j_gIN (ci := 14) (k := 2) rfl in_X17 rfl q1440 dX1_logNode_5 hf (fun v3 hf => ?_)
    have e9 := Option.some.inj hf
    subst e9
    exact j_iret rfl dX1_logNode_8
  · obtain ⟨hb9, hf⟩ := xo_in hf
    subst hf
    exact j_out (by decide) hb9 he9
abbrev mi_X1_logToken : MI := (cX1_logToken, 2, RX1, (Option.some FieldType.int), [], 7, 110, "logToken")
def f_X1_logToken (r0 : Option Nat) (p0 : Int32) (h0 : PH) : Option (((Nat × Nat) ⊕ Int32) × PH) := rv_ h0 r0 0 (cl_ (f_X1_event r0 p0 h0) fun z9 h1 => match z9 with | .inl (ci9, q9) => (xo_ h1 ci9 q9) | .inr r2 => (gIN h1 r2 14 3 fun v3 => some (.inr v3, h1)))
theorem hyS_X1_logToken : yX1_logToken.cls ≠ "java/lang/invoke/MethodHandle" ∧ yX1_logToken.cls ≠ "java/lang/invoke/VarHandle" ∧ (parseMethodDescriptor yX1_logToken.desc).map (fun d => d.parameters.length) = some 1 := by decide +kernel
theorem hyV_X1_logToken : yX1_logToken.cls = RX1 ∧ yX1_logToken.cls ≠ "java/lang/invoke/MethodHandle" ∧ yX1_logToken.cls ≠ "java/lang/invoke/VarHandle" ∧ (parseMethodDescriptor yX1_logToken.desc).map (fun d => d.parameters.length) = some 1 := by decide +kernel
theorem c_X1_logToken {D : va_G} (r0 : Option Nat) (p0 : Int32) {h0 : PH} (l : Launch) (hl : l.stackTraces = false) (x : ((Nat × Nat) ⊕ Int32)) (h1 : PH) (hf : f_X1_logToken r0 p0 h0 = some (x, h1)) : CT l D yX1_logToken (ws_ yX1_logToken cX1_logToken 2 (Option.some FieldType.int)) 7 110 [va_rf r0, .int p0] h0 (oxi x) h1 := by
  refine ct_of hl [some (va_rf r0), some (.int p0)] (by decide) (by rw [lgl]; simp [va_rf_cat, cat_i, cat_l]) (by simp [lv_args, vsL, va_rf_cat, cat_i, cat_l]) (fun Γ => ?_)
  obtain ⟨o, ho⟩ : ∃ o : ((Nat × Nat) ⊕ Int32) × PH, o = (x, h1) := ⟨_, rfl⟩
  rw [← ho] at hf
  have e1 : x = o.1 := by rw [ho]
  have e2 : h1 = o.2 := by rw [ho]
  subst e1 e2
  clear ho
  show PF Γ mi_X1_logToken D h0 (QR Γ D h0 (oxi o.1) o.2) h0 0 [some (va_rf r0), some (.int p0)] []
  unfold f_X1_logToken at hf
  refine j_aload_n 0 dX1_logToken_0 rfl rfl ?_
  refine j_iload_n 1 dX1_logToken_1 rfl rfl ?_
  refine kc_X1_302 rfl rfl rfl (by decide) dX1_logToken_2 hf (fun r2 h1 hf => ?_) (fun ci9 q9 h1 fs9 he9 hf => ?_)
  · refine j_gIN (ci := 14) (k := 3) rfl in_X17 rfl q1442 dX1_logToken_5 hf (fun v3 hf => ?_)
    have e9 := Option.some.inj hf
    subst e9
    exact j_iret rfl dX1_logToken_8
  · obtain ⟨hb9, hf⟩ := xo_in hf
    subst hf
    exact j_out (by decide) hb9 he9
abbrev mi_X1_eventCount : MI := (cX1_eventCount, 2, RX1, (Option.some FieldType.int), [], 7, 109, "eventCount")
def f_X1_eventCount (r0 : Option Nat) (p0 : Int32) (h0 : PH) : Option (((Nat × Nat) ⊕ Int32) × PH) := cl_ (f_X1_in (p0.toInt64) (1 : Int64) (8 : Int64) h0) fun v2 h1 => cl_ (f_X1_check v2 h1) fun z9 h3 => match z9 with | .inl (ci9, q9) => (xo_ h3 ci9 q9) | .inr _u => (gR h3 r0 0 3 fun r4 => gRN h3 r4 1 7 fun r5 => aI h3 r5 0 p0 fun v6 => some (.inr v6, h3))
theorem hyS_X1_eventCount : yX1_eventCount.cls ≠ "java/lang/invoke/MethodHandle" ∧ yX1_eventCount.cls ≠ "java/lang/invoke/VarHandle" ∧ (parseMethodDescriptor yX1_eventCount.desc).map (fun d => d.parameters.length) = some 1 := by decide +kernel
theorem hyV_X1_eventCount : yX1_eventCount.cls = RX1 ∧ yX1_eventCount.cls ≠ "java/lang/invoke/MethodHandle" ∧ yX1_eventCount.cls ≠ "java/lang/invoke/VarHandle" ∧ (parseMethodDescriptor yX1_eventCount.desc).map (fun d => d.parameters.length) = some 1 := by decide +kernel
theorem c_X1_eventCount {D : va_G} (r0 : Option Nat) (p0 : Int32) {h0 : PH} (l : Launch) (hl : l.stackTraces = false) (x : ((Nat × Nat) ⊕ Int32)) (h1 : PH) (hf : f_X1_eventCount r0 p0 h0 = some (x, h1)) : CT l D yX1_eventCount (ws_ yX1_eventCount cX1_eventCount 2 (Option.some FieldType.int)) 7 109 [va_rf r0, .int p0] h0 (oxi x) h1 := by
  refine ct_of hl [some (va_rf r0), some (.int p0)] (by decide) (by rw [lgl]; simp [va_rf_cat, cat_i, cat_l]) (by simp [lv_args, vsL, va_rf_cat, cat_i, cat_l]) (fun Γ => ?_)
  obtain ⟨o, ho⟩ : ∃ o : ((Nat × Nat) ⊕ Int32) × PH, o = (x, h1) := ⟨_, rfl⟩
  rw [← ho] at hf
  have e1 : x = o.1 := by rw [ho]
  have e2 : h1 = o.2 := by rw [ho]
  subst e1 e2
  clear ho
  show PF Γ mi_X1_eventCount D h0 (QR Γ D h0 (oxi o.1) o.2) h0 0 [some (va_rf r0), some (.int p0)] []
  unfold f_X1_eventCount at hf
  refine j_iload_n 1 dX1_eventCount_0 rfl rfl ?_
  refine j_i2l dX1_eventCount_1 ?_
  refine j_lconst (1 : Int64) dX1_eventCount_2 (by decide) ?_
  refine j_ldc2 q2017 dX1_eventCount_3 ?_
  refine kc_X1_64 rfl rfl rfl (by decide) dX1_eventCount_6 hf (fun v2 h1 hf => ?_)
  refine kc_X1_73 rfl rfl rfl (by decide) dX1_eventCount_9 hf (fun _u h3 hf => ?_) (fun ci9 q9 h3 fs9 he9 hf => ?_)
  · refine j_aload_n 0 dX1_eventCount_12 rfl rfl ?_
    refine j_gR (ci := 0) (k := 3) rfl in_X1 rfl q877 dX1_eventCount_13 hf (fun r4 hf => ?_)
    refine j_gRN (ci := 1) (k := 7) rfl in_X2 rfl q801 dX1_eventCount_16 hf (fun r5 hf => ?_)
    refine j_iload_n 1 dX1_eventCount_19 rfl rfl ?_
    refine j_iald dX1_eventCount_20 hf (fun v6 hf => ?_)
    have e9 := Option.some.inj hf
    subst e9
    exact j_iret rfl dX1_eventCount_21
  · obtain ⟨hb9, hf⟩ := xo_in hf
    subst hf
    exact j_out (by decide) hb9 he9
abbrev mi_X1_ledTime : MI := (cX1_ledTime, 2, RX1, (Option.some FieldType.int), [], 7, 110, "ledTime")
def f_X1_ledTime (r0 : Option Nat) (p0 : Int32) (h0 : PH) : Option (((Nat × Nat) ⊕ Int32) × PH) := rv_ h0 r0 0 (cl_ (f_X1_node r0 p0 h0) fun z9 h1 => match z9 with | .inl (ci9, q9) => (xo_ h1 ci9 q9) | .inr r2 => (gIN h1 r2 5 10 fun v3 => some (.inr v3, h1)))
theorem hyS_X1_ledTime : yX1_ledTime.cls ≠ "java/lang/invoke/MethodHandle" ∧ yX1_ledTime.cls ≠ "java/lang/invoke/VarHandle" ∧ (parseMethodDescriptor yX1_ledTime.desc).map (fun d => d.parameters.length) = some 1 := by decide +kernel
theorem hyV_X1_ledTime : yX1_ledTime.cls = RX1 ∧ yX1_ledTime.cls ≠ "java/lang/invoke/MethodHandle" ∧ yX1_ledTime.cls ≠ "java/lang/invoke/VarHandle" ∧ (parseMethodDescriptor yX1_ledTime.desc).map (fun d => d.parameters.length) = some 1 := by decide +kernel
theorem c_X1_ledTime {D : va_G} (r0 : Option Nat) (p0 : Int32) {h0 : PH} (l : Launch) (hl : l.stackTraces = false) (x : ((Nat × Nat) ⊕ Int32)) (h1 : PH) (hf : f_X1_ledTime r0 p0 h0 = some (x, h1)) : CT l D yX1_ledTime (ws_ yX1_ledTime cX1_ledTime 2 (Option.some FieldType.int)) 7 110 [va_rf r0, .int p0] h0 (oxi x) h1 := by
  refine ct_of hl [some (va_rf r0), some (.int p0)] (by decide) (by rw [lgl]; simp [va_rf_cat, cat_i, cat_l]) (by simp [lv_args, vsL, va_rf_cat, cat_i, cat_l]) (fun Γ => ?_)
  obtain ⟨o, ho⟩ : ∃ o : ((Nat × Nat) ⊕ Int32) × PH, o = (x, h1) := ⟨_, rfl⟩
  rw [← ho] at hf
  have e1 : x = o.1 := by rw [ho]
  have e2 : h1 = o.2 := by rw [ho]
  subst e1 e2
  clear ho
  show PF Γ mi_X1_ledTime D h0 (QR Γ D h0 (oxi o.1) o.2) h0 0 [some (va_rf r0), some (.int p0)] []
  unfold f_X1_ledTime at hf
  refine j_aload_n 0 dX1_ledTime_0 rfl rfl ?_
  refine j_iload_n 1 dX1_ledTime_1 rfl rfl ?_
  refine kc_X1_117 rfl rfl rfl (by decide) dX1_ledTime_2 hf (fun r2 h1 hf => ?_) (fun ci9 q9 h1 fs9 he9 hf => ?_)
  · refine j_gIN (ci := 5) (k := 10) rfl in_X6 rfl q752 dX1_ledTime_5 hf (fun v3 hf => ?_)
    have e9 := Option.some.inj hf
    subst e9
    exact j_iret rfl dX1_ledTime_8
  · obtain ⟨hb9, hf⟩ := xo_in hf
    subst hf
    exact j_out (by decide) hb9 he9
theorem kc_X1_127 {Γ : GX} {I : MI} {D : va_G} {h0 : PH} {Q : State → Prop} {h : PH} {pc : Nat} {vs : List (Option Value)} {rest : List Value} {β : Type} {o : β} {r : Option Nat} {p0 : Int32} {K : ((Int32) → PH → Option β)} (hI : I.2.2.1 = RX1) (hfr : Nat.ble 1 I.2.2.2.2.2.1 = true) (hlo : Nat.ble 21 I.2.2.2.2.2.2.1 = true) (hW : (rest.map fun v => v.category).sum ≤ 8) (hd : decode I.1 pc = .ok (.invokevirtual 127, 3)) (hf : rv_ h r 3 (cl_ (f_X4_at r p0 h) K) = some o) (kk : ∀ (x : Int32) (h1 : PH), K x h1 = some o → PF Γ I D h0 Q h1 (pc + 3) vs (.int x :: rest)) : PF Γ I D h0 Q h pc vs (.int p0 :: va_rf r :: rest) := by
  obtain ⟨cc, nL, own, rt, xt, fr, lo, nm⟩ := I
  cases hI
  exact j_cVi (n := 1) (y := yX4_at) (cc2 := cX4_at) (As := [.int p0]) (C := RX4) (ci := 3) rfl (lw_V q1763 q1422 q1423 q93 q1424) hyV_X4_at hfr hlo rfl hW hd (c_X4_at r p0) hf _ rfl kk
abbrev mi_X1_leaseLeft : MI := (cX1_leaseLeft, 3, RX1, (Option.some FieldType.int), [], 7, 110, "leaseLeft")
def f_X1_leaseLeft_B47 (t0 : Int32) (h : PH) : Option (((Nat × Nat) ⊕ Int32) × PH) := some (.inr t0, h)
theorem pf_X1_leaseLeft_B47 {Γ : GX} {D : va_G} {h0 : PH} {o : ((Nat × Nat) ⊕ Int32) × PH} (t0 : Int32) (h : PH) (hf : f_X1_leaseLeft_B47 t0 h = some o) : PF Γ mi_X1_leaseLeft D h0 (QR Γ D h0 (oxi o.1) o.2) h 47 [none, none, none] [.int t0] := by
  have e9 := Option.some.inj hf
  subst e9
  exact j_iret rfl dX1_leaseLeft_47
def f_X1_leaseLeft_B46  (h : PH) : Option (((Nat × Nat) ⊕ Int32) × PH) := f_X1_leaseLeft_B47 (0 : Int32) h
theorem pf_X1_leaseLeft_B46 {Γ : GX} {D : va_G} {h0 : PH} {o : ((Nat × Nat) ⊕ Int32) × PH}  (h : PH) (hf : f_X1_leaseLeft_B46  h = some o) : PF Γ mi_X1_leaseLeft D h0 (QR Γ D h0 (oxi o.1) o.2) h 46 [none, none, none] [] := by
  refine j_iconst (0 : Int32) dX1_leaseLeft_46 (by decide) ?_
  exact pf_X1_leaseLeft_B47 (0 : Int32) h hf
def f_X1_leaseLeft (r0 : Option Nat) (p0 : Int32) (h0 : PH) : Option (((Nat × Nat) ⊕ Int32) × PH) := rv_ h0 r0 0 (cl_ (f_X1_node r0 p0 h0) fun z9 h1 => match z9 with | .inl (ci9, q9) => (xo_ h1 ci9 q9) | .inr r2 => (gIN h1 r2 5 2 fun v3 => (if v3 = 0 then (f_X1_leaseLeft_B46 h1) else (gIN h1 r2 5 6 fun v4 => (if v4 ≤ 0 then (f_X1_leaseLeft_B46 h1) else (gIN h1 r2 5 7 fun v5 => gRN h1 r2 5 0 fun r6 => gR h1 r0 0 3 fun r7 => gIN h1 r7 1 8 fun v8 => rv_ h1 r6 3 (cl_ (f_X4_at r6 v8 h1) fun v10 h9 => f_X1_leaseLeft_B47 (if (0 : Int32) < (v5 - v10) then (v5 - v10) else (0 : Int32)) h9)))))))
theorem hyS_X1_leaseLeft : yX1_leaseLeft.cls ≠ "java/lang/invoke/MethodHandle" ∧ yX1_leaseLeft.cls ≠ "java/lang/invoke/VarHandle" ∧ (parseMethodDescriptor yX1_leaseLeft.desc).map (fun d => d.parameters.length) = some 1 := by decide +kernel
theorem hyV_X1_leaseLeft : yX1_leaseLeft.cls = RX1 ∧ yX1_leaseLeft.cls ≠ "java/lang/invoke/MethodHandle" ∧ yX1_leaseLeft.cls ≠ "java/lang/invoke/VarHandle" ∧ (parseMethodDescriptor yX1_leaseLeft.desc).map (fun d => d.parameters.length) = some 1 := by decide +kernel
theorem c_X1_leaseLeft {D : va_G} (r0 : Option Nat) (p0 : Int32) {h0 : PH} (l : Launch) (hl : l.stackTraces = false) (x : ((Nat × Nat) ⊕ Int32)) (h1 : PH) (hf : f_X1_leaseLeft r0 p0 h0 = some (x, h1)) : CT l D yX1_leaseLeft (ws_ yX1_leaseLeft cX1_leaseLeft 3 (Option.some FieldType.int)) 7 110 [va_rf r0, .int p0] h0 (oxi x) h1 := by
  refine ct_of hl [some (va_rf r0), some (.int p0), none] (by decide) (by rw [lgl]; simp [va_rf_cat, cat_i, cat_l]) (by simp [lv_args, vsL, va_rf_cat, cat_i, cat_l]) (fun Γ => ?_)
  obtain ⟨o, ho⟩ : ∃ o : ((Nat × Nat) ⊕ Int32) × PH, o = (x, h1) := ⟨_, rfl⟩
  rw [← ho] at hf
  have e1 : x = o.1 := by rw [ho]
  have e2 : h1 = o.2 := by rw [ho]
  subst e1 e2
  clear ho
  show PF Γ mi_X1_leaseLeft D h0 (QR Γ D h0 (oxi o.1) o.2) h0 0 [some (va_rf r0), some (.int p0), none] []
  unfold f_X1_leaseLeft at hf
  refine j_aload_n 0 dX1_leaseLeft_0 rfl rfl ?_
  refine j_iload_n 1 dX1_leaseLeft_1 rfl rfl ?_
  refine kc_X1_117 rfl rfl rfl (by decide) dX1_leaseLeft_2 hf (fun r2 h1 hf => ?_) (fun ci9 q9 h1 fs9 he9 hf => ?_)
  · refine j_astore_n 2 [some (va_rf r0), some (.int p0), some (va_rf r2)] dX1_leaseLeft_5 rfl (cz rfl) rfl rfl ?_
    refine j_aload_n 2 dX1_leaseLeft_6 rfl rfl ?_
    refine j_gIN (ci := 5) (k := 2) rfl in_X6 rfl q728 dX1_leaseLeft_7 hf (fun v3 hf => ?_)
    refine j_if_eq 46 dX1_leaseLeft_10 (by decide) hf (fun c_ hf => ?_) (fun c_ hf => ?_)
    · refine j_weak [none, none, none] (Wk.s (Wk.s (Wk.s Wk.n))) ?_
      exact pf_X1_leaseLeft_B46  h1 hf
    · refine j_aload_n 2 dX1_leaseLeft_13 rfl rfl ?_
      refine j_gIN (ci := 5) (k := 6) rfl in_X6 rfl q740 dX1_leaseLeft_14 hf (fun v4 hf => ?_)
      refine j_if_le 46 dX1_leaseLeft_17 (by decide) hf (fun c_ hf => ?_) (fun c_ hf => ?_)
      · refine j_weak [none, none, none] (Wk.s (Wk.s (Wk.s Wk.n))) ?_
        exact pf_X1_leaseLeft_B46  h1 hf
      · refine j_iconst (0 : Int32) dX1_leaseLeft_20 (by decide) ?_
        refine j_aload_n 2 dX1_leaseLeft_21 rfl rfl ?_
        refine j_gIN (ci := 5) (k := 7) rfl in_X6 rfl q743 dX1_leaseLeft_22 hf (fun v5 hf => ?_)
        refine j_aload_n 2 dX1_leaseLeft_25 rfl rfl ?_
        refine j_gRN (ci := 5) (k := 0) rfl in_X6 rfl q723 dX1_leaseLeft_26 hf (fun r6 hf => ?_)
        refine j_aload_n 0 dX1_leaseLeft_29 rfl rfl ?_
        refine j_gR (ci := 0) (k := 3) rfl in_X1 rfl q877 dX1_leaseLeft_30 hf (fun r7 hf => ?_)
        refine j_gIN (ci := 1) (k := 8) rfl in_X2 rfl q803 dX1_leaseLeft_33 hf (fun v8 hf => ?_)
        refine kc_X1_127 rfl rfl rfl (by simp [va_rf_cat, cat_i, cat_l]) dX1_leaseLeft_36 hf (fun v10 h9 hf => ?_)
        refine j_isub dX1_leaseLeft_39 ?_
        refine j_mmax q1615 q288 q106 q289 rfl rfl (by decide) dX1_leaseLeft_40 ?_
        refine j_goto 47 dX1_leaseLeft_43 (by decide) ?_
        refine j_weak [none, none, none] (Wk.s (Wk.s (Wk.s Wk.n))) ?_
        exact pf_X1_leaseLeft_B47 (if (0 : Int32) < (v5 - v10) then (v5 - v10) else (0 : Int32)) h9 hf
  · obtain ⟨hb9, hf⟩ := xo_in hf
    subst hf
    exact j_out (by decide) hb9 he9
abbrev mi_X1_countInLog : MI := (cX1_countInLog, 5, RX1, (Option.some FieldType.int), [], 7, 110, "countInLog")
def f_X1_countInLog_B99 (k28 : Option Nat → Int32 → Int32 → Int32 → Int32 → PH → Option (((Nat × Nat) ⊕ Int32) × PH)) (x0 : Option Nat) (x1 : Int32) (x2 : Int32) (x4 : Int32) (t0 : Int32) (t1 : Int32) (h : PH) : Option (((Nat × Nat) ⊕ Int32) × PH) := k28 x0 x1 x2 (t0 + t1) (x4 + (1 : Int32)) h
theorem pf_X1_countInLog_B99 {Γ : GX} {D : va_G} {h0 : PH} {o : ((Nat × Nat) ⊕ Int32) × PH} (k28 : Option Nat → Int32 → Int32 → Int32 → Int32 → PH → Option (((Nat × Nat) ⊕ Int32) × PH)) (hk28 : ∀ (x0 : Option Nat) (x1 : Int32) (x2 : Int32) (x3 : Int32) (x4 : Int32) (h : PH), k28 x0 x1 x2 x3 x4 h = some o → PF Γ mi_X1_countInLog D h0 (QR Γ D h0 (oxi o.1) o.2) h 28 [some (va_rf x0), some (.int x1), some (.int x2), some (.int x3), some (.int x4)] []) (x0 : Option Nat) (x1 : Int32) (x2 : Int32) (x4 : Int32) (t0 : Int32) (t1 : Int32) (h : PH) (hf : f_X1_countInLog_B99 k28 x0 x1 x2 x4 t0 t1 h = some o) : PF Γ mi_X1_countInLog D h0 (QR Γ D h0 (oxi o.1) o.2) h 99 [some (va_rf x0), some (.int x1), some (.int x2), none, some (.int x4)] [.int t1, .int t0] := by
  refine j_iadd dX1_countInLog_99 ?_
  refine j_istore_n 3 [some (va_rf x0), some (.int x1), some (.int x2), some (.int (t0 + t1)), some (.int x4)] dX1_countInLog_100 rfl (cz rfl) rfl rfl ?_
  refine j_iinc (x4 + (1 : Int32)) [some (va_rf x0), some (.int x1), some (.int x2), some (.int (t0 + t1)), some (.int (x4 + (1 : Int32)))] dX1_countInLog_101 rfl rfl (cz rfl) rfl rfl ?_
  refine j_goto 28 dX1_countInLog_104 (by decide) ?_
  exact hk28 x0 x1 x2 (t0 + t1) (x4 + (1 : Int32)) h hf
def f_X1_countInLog_B98 (k28 : Option Nat → Int32 → Int32 → Int32 → Int32 → PH → Option (((Nat × Nat) ⊕ Int32) × PH)) (x0 : Option Nat) (x1 : Int32) (x2 : Int32) (x4 : Int32) (t0 : Int32) (h : PH) : Option (((Nat × Nat) ⊕ Int32) × PH) := f_X1_countInLog_B99 k28 x0 x1 x2 x4 t0 (0 : Int32) h
theorem pf_X1_countInLog_B98 {Γ : GX} {D : va_G} {h0 : PH} {o : ((Nat × Nat) ⊕ Int32) × PH} (k28 : Option Nat → Int32 → Int32 → Int32 → Int32 → PH → Option (((Nat × Nat) ⊕ Int32) × PH)) (hk28 : ∀ (x0 : Option Nat) (x1 : Int32) (x2 : Int32) (x3 : Int32) (x4 : Int32) (h : PH), k28 x0 x1 x2 x3 x4 h = some o → PF Γ mi_X1_countInLog D h0 (QR Γ D h0 (oxi o.1) o.2) h 28 [some (va_rf x0), some (.int x1), some (.int x2), some (.int x3), some (.int x4)] []) (x0 : Option Nat) (x1 : Int32) (x2 : Int32) (x4 : Int32) (t0 : Int32) (h : PH) (hf : f_X1_countInLog_B98 k28 x0 x1 x2 x4 t0 h = some o) : PF Γ mi_X1_countInLog D h0 (QR Γ D h0 (oxi o.1) o.2) h 98 [some (va_rf x0), some (.int x1), some (.int x2), none, some (.int x4)] [.int t0] := by
  refine j_iconst (0 : Int32) dX1_countInLog_98 (by decide) ?_
  exact pf_X1_countInLog_B99 k28 hk28 x0 x1 x2 x4 t0 (0 : Int32) h hf
def f_X1_countInLog_L28 : Nat → Option Nat → Int32 → Int32 → Int32 → Int32 → PH → Option (((Nat × Nat) ⊕ Int32) × PH)
  | 0, _, _, _, _, _, _ => none
  | n + 1, x0, x1, x2, x3, x4, h => gR h x0 0 3 fun r6 => gRN h r6 1 5 fun r7 => rv_ h r7 19 (cl_ (f_J2_size r7 h) fun v9 h8 => (if v9 ≤ x4 then (some (.inr x3, h8)) else (gR h8 x0 0 3 fun r10 => gRN h8 r10 1 5 fun r11 => rv_ h8 r11 19 (cl_ (f_J2_get r11 x4 h8) fun r13 h12 => kC h12 r13 14 (gIN h12 r13 14 1 fun v14 => (if v14 = x1 then (gR h12 x0 0 3 fun r15 => gRN h12 r15 1 5 fun r16 => rv_ h12 r16 19 (cl_ (f_J2_get r16 x4 h12) fun r18 h17 => kC h17 r18 14 (gIN h17 r18 14 2 fun v19 => (if v19 = x2 then (f_X1_countInLog_B99 (f_X1_countInLog_L28 n) x0 x1 x2 x4 x3 (1 : Int32) h17) else (f_X1_countInLog_B98 (f_X1_countInLog_L28 n) x0 x1 x2 x4 x3 h17))))) else (f_X1_countInLog_B98 (f_X1_countInLog_L28 n) x0 x1 x2 x4 x3 h12)))))))
theorem pf_X1_countInLog_L28 {Γ : GX} {D : va_G} {h0 : PH} {o : ((Nat × Nat) ⊕ Int32) × PH} : ∀ (n : Nat) (x0 : Option Nat) (x1 : Int32) (x2 : Int32) (x3 : Int32) (x4 : Int32) (h : PH), f_X1_countInLog_L28 n x0 x1 x2 x3 x4 h = some o → PF Γ mi_X1_countInLog D h0 (QR Γ D h0 (oxi o.1) o.2) h 28 [some (va_rf x0), some (.int x1), some (.int x2), some (.int x3), some (.int x4)] [] := by
  intro n
  induction n with
  | zero => intro x0 x1 x2 x3 x4 h hf; cases hf
  | succ n ih =>
    intro x0 x1 x2 x3 x4 h hf
    refine j_iload dX1_countInLog_28 rfl ?_
    refine j_aload_n 0 dX1_countInLog_30 rfl rfl ?_
    refine j_gR (ci := 0) (k := 3) rfl in_X1 rfl q877 dX1_countInLog_31 hf (fun r6 hf => ?_)
    refine j_gRN (ci := 1) (k := 5) rfl in_X2 rfl q797 dX1_countInLog_34 hf (fun r7 hf => ?_)
    refine kc_X1_192 rfl rfl rfl (by simp [va_rf_cat, cat_i, cat_l]) dX1_countInLog_37 hf (fun v9 h8 hf => ?_)
    refine j_icmp_ge 107 dX1_countInLog_42 (by decide) hf (fun c_ hf => ?_) (fun c_ hf => ?_)
    · refine j_iload_n 3 dX1_countInLog_107 rfl rfl ?_
      have e9 := Option.some.inj hf
      subst e9
      exact j_iret rfl dX1_countInLog_108
    · refine j_iload_n 3 dX1_countInLog_45 rfl rfl ?_
      refine j_aload_n 0 dX1_countInLog_46 rfl rfl ?_
      refine j_gR (ci := 0) (k := 3) rfl in_X1 rfl q877 dX1_countInLog_47 hf (fun r10 hf => ?_)
      refine j_gRN (ci := 1) (k := 5) rfl in_X2 rfl q797 dX1_countInLog_50 hf (fun r11 hf => ?_)
      refine j_iload dX1_countInLog_53 rfl ?_
      refine kc_X1_296 rfl rfl rfl (by simp [va_rf_cat, cat_i, cat_l]) dX1_countInLog_55 hf (fun r13 h12 hf => ?_)
      refine j_kC (ci := 14) rfl q1988 dX1_countInLog_60 hf (fun hf => ?_)
      refine j_gIN (ci := 14) (k := 1) rfl in_X17 rfl q1438 dX1_countInLog_63 hf (fun v14 hf => ?_)
      refine j_iload_n 1 dX1_countInLog_66 rfl rfl ?_
      refine j_icmp_ne 98 dX1_countInLog_67 (by decide) hf (fun c_ hf => ?_) (fun c_ hf => ?_)
      · refine j_weak [some (va_rf x0), some (.int x1), some (.int x2), none, some (.int x4)] (Wk.k (Wk.k (Wk.k (Wk.s (Wk.k Wk.n))))) ?_
        exact pf_X1_countInLog_B98 (f_X1_countInLog_L28 n) ih x0 x1 x2 x4 x3 h12 hf
      · refine j_aload_n 0 dX1_countInLog_70 rfl rfl ?_
        refine j_gR (ci := 0) (k := 3) rfl in_X1 rfl q877 dX1_countInLog_71 hf (fun r15 hf => ?_)
        refine j_gRN (ci := 1) (k := 5) rfl in_X2 rfl q797 dX1_countInLog_74 hf (fun r16 hf => ?_)
        refine j_iload dX1_countInLog_77 rfl ?_
        refine kc_X1_296 rfl rfl rfl (by simp [va_rf_cat, cat_i, cat_l]) dX1_countInLog_79 hf (fun r18 h17 hf => ?_)
        refine j_kC (ci := 14) rfl q1988 dX1_countInLog_84 hf (fun hf => ?_)
        refine j_gIN (ci := 14) (k := 2) rfl in_X17 rfl q1440 dX1_countInLog_87 hf (fun v19 hf => ?_)
        refine j_iload_n 2 dX1_countInLog_90 rfl rfl ?_
        refine j_icmp_ne 98 dX1_countInLog_91 (by decide) hf (fun c_ hf => ?_) (fun c_ hf => ?_)
        · refine j_weak [some (va_rf x0), some (.int x1), some (.int x2), none, some (.int x4)] (Wk.k (Wk.k (Wk.k (Wk.s (Wk.k Wk.n))))) ?_
          exact pf_X1_countInLog_B98 (f_X1_countInLog_L28 n) ih x0 x1 x2 x4 x3 h17 hf
        · refine j_iconst (1 : Int32) dX1_countInLog_94 (by decide) ?_
          refine j_goto 99 dX1_countInLog_95 (by decide) ?_
          refine j_weak [some (va_rf x0), some (.int x1), some (.int x2), none, some (.int x4)] (Wk.k (Wk.k (Wk.k (Wk.s (Wk.k Wk.n))))) ?_
          exact pf_X1_countInLog_B99 (f_X1_countInLog_L28 n) ih x0 x1 x2 x4 x3 (1 : Int32) h17 hf
def f_X1_countInLog_B11 (x0 : Option Nat) (x1 : Int32) (x2 : Int32) (h : PH) : Option (((Nat × Nat) ⊕ Int32) × PH) := cl_ (f_X1_in (x1.toInt64) (1 : Int64) (8 : Int64) h) fun v4 h3 => cl_ (f_X1_check v4 h3) fun z9 h5 => match z9 with | .inl (ci9, q9) => (xo_ h5 ci9 q9) | .inr _u => (f_X1_countInLog_L28 FU x0 x1 x2 (0 : Int32) (0 : Int32) h5)
theorem pf_X1_countInLog_B11 {Γ : GX} {D : va_G} {h0 : PH} {o : ((Nat × Nat) ⊕ Int32) × PH} (x0 : Option Nat) (x1 : Int32) (x2 : Int32) (h : PH) (hf : f_X1_countInLog_B11 x0 x1 x2 h = some o) : PF Γ mi_X1_countInLog D h0 (QR Γ D h0 (oxi o.1) o.2) h 11 [some (va_rf x0), some (.int x1), some (.int x2), none, none] [] := by
  refine j_iload_n 1 dX1_countInLog_11 rfl rfl ?_
  refine j_i2l dX1_countInLog_12 ?_
  refine j_lconst (1 : Int64) dX1_countInLog_13 (by decide) ?_
  refine j_ldc2 q2017 dX1_countInLog_14 ?_
  refine kc_X1_64 rfl rfl rfl (by decide) dX1_countInLog_17 hf (fun v4 h3 hf => ?_)
  refine kc_X1_73 rfl rfl rfl (by decide) dX1_countInLog_20 hf (fun _u h5 hf => ?_) (fun ci9 q9 h5 fs9 he9 hf => ?_)
  · refine j_iconst (0 : Int32) dX1_countInLog_23 (by decide) ?_
    refine j_istore_n 3 [some (va_rf x0), some (.int x1), some (.int x2), some (.int (0 : Int32)), none] dX1_countInLog_24 rfl (cz rfl) rfl rfl ?_
    refine j_iconst (0 : Int32) dX1_countInLog_25 (by decide) ?_
    refine j_istore [some (va_rf x0), some (.int x1), some (.int x2), some (.int (0 : Int32)), some (.int (0 : Int32))] dX1_countInLog_26 (cz rfl) rfl rfl ?_
    exact pf_X1_countInLog_L28 FU x0 x1 x2 (0 : Int32) (0 : Int32) h5 hf
  · obtain ⟨hb9, hf⟩ := xo_in hf
    subst hf
    exact j_out (by decide) hb9 he9
def f_X1_countInLog (r0 : Option Nat) (p0 : Int32) (p1 : Int32) (h0 : PH) : Option (((Nat × Nat) ⊕ Int32) × PH) := (if p1 = (-1 : Int32) then (f_X1_countInLog_B11 r0 p0 p1 h0) else (rv_ h0 r0 0 (cl_ (f_X1_node r0 p1 h0) fun z9 h1 => match z9 with | .inl (ci9, q9) => (xo_ h1 ci9 q9) | .inr r2 => (f_X1_countInLog_B11 r0 p0 p1 h1))))
theorem hyS_X1_countInLog : yX1_countInLog.cls ≠ "java/lang/invoke/MethodHandle" ∧ yX1_countInLog.cls ≠ "java/lang/invoke/VarHandle" ∧ (parseMethodDescriptor yX1_countInLog.desc).map (fun d => d.parameters.length) = some 2 := by decide +kernel
theorem hyV_X1_countInLog : yX1_countInLog.cls = RX1 ∧ yX1_countInLog.cls ≠ "java/lang/invoke/MethodHandle" ∧ yX1_countInLog.cls ≠ "java/lang/invoke/VarHandle" ∧ (parseMethodDescriptor yX1_countInLog.desc).map (fun d => d.parameters.length) = some 2 := by decide +kernel
theorem c_X1_countInLog {D : va_G} (r0 : Option Nat) (p0 : Int32) (p1 : Int32) {h0 : PH} (l : Launch) (hl : l.stackTraces = false) (x : ((Nat × Nat) ⊕ Int32)) (h1 : PH) (hf : f_X1_countInLog r0 p0 p1 h0 = some (x, h1)) : CT l D yX1_countInLog (ws_ yX1_countInLog cX1_countInLog 5 (Option.some FieldType.int)) 7 110 [va_rf r0, .int p0, .int p1] h0 (oxi x) h1 := by
  refine ct_of hl [some (va_rf r0), some (.int p0), some (.int p1), none, none] (by decide) (by rw [lgl]; simp [va_rf_cat, cat_i, cat_l]) (by simp [lv_args, vsL, va_rf_cat, cat_i, cat_l]) (fun Γ => ?_)
  obtain ⟨o, ho⟩ : ∃ o : ((Nat × Nat) ⊕ Int32) × PH, o = (x, h1) := ⟨_, rfl⟩
  rw [← ho] at hf
  have e1 : x = o.1 := by rw [ho]
  have e2 : h1 = o.2 := by rw [ho]
  subst e1 e2
  clear ho
  show PF Γ mi_X1_countInLog D h0 (QR Γ D h0 (oxi o.1) o.2) h0 0 [some (va_rf r0), some (.int p0), some (.int p1), none, none] []
  unfold f_X1_countInLog at hf
  refine j_iload_n 2 dX1_countInLog_0 rfl rfl ?_
  refine j_iconst (-1 : Int32) dX1_countInLog_1 (by decide) ?_
  refine j_icmp_eq 11 dX1_countInLog_2 (by decide) hf (fun c_ hf => ?_) (fun c_ hf => ?_)
  · exact pf_X1_countInLog_B11 r0 p0 p1 h0 hf
  · refine j_aload_n 0 dX1_countInLog_5 rfl rfl ?_
    refine j_iload_n 2 dX1_countInLog_6 rfl rfl ?_
    refine kc_X1_117 rfl rfl rfl (by decide) dX1_countInLog_7 hf (fun r2 h1 hf => ?_) (fun ci9 q9 h1 fs9 he9 hf => ?_)
    · refine j_pop dX1_countInLog_10 (va_rf_cat _) ?_
      exact pf_X1_countInLog_B11 r0 p0 p1 h1 hf
    · obtain ⟨hb9, hf⟩ := xo_in hf
      subst hf
      exact j_out (by decide) hb9 he9
abbrev mi_X1_lastEventTime : MI := (cX1_lastEventTime, 3, RX1, (Option.some FieldType.int), [], 7, 109, "lastEventTime")
def f_X1_lastEventTime_L27 : Nat → Option Nat → Int32 → Int32 → PH → Option (((Nat × Nat) ⊕ Int32) × PH)
  | 0, _, _, _, _ => none
  | n + 1, x0, x1, x2, h => (if x2 < 0 then (some (.inr (-4 : Int32), h)) else (gR h x0 0 3 fun r8 => gRN h r8 1 5 fun r9 => rv_ h r9 19 (cl_ (f_J2_get r9 x2 h) fun r11 h10 => kC h10 r11 14 (gIN h10 r11 14 1 fun v12 => (if v12 = x1 then (gR h10 x0 0 3 fun r13 => gRN h10 r13 1 5 fun r14 => rv_ h10 r14 19 (cl_ (f_J2_get r14 x2 h10) fun r16 h15 => kC h15 r16 14 (gIN h15 r16 14 0 fun v17 => some (.inr v17, h15)))) else (f_X1_lastEventTime_L27 n x0 x1 (x2 + (-1 : Int32)) h10))))))
theorem pf_X1_lastEventTime_L27 {Γ : GX} {D : va_G} {h0 : PH} {o : ((Nat × Nat) ⊕ Int32) × PH} : ∀ (n : Nat) (x0 : Option Nat) (x1 : Int32) (x2 : Int32) (h : PH), f_X1_lastEventTime_L27 n x0 x1 x2 h = some o → PF Γ mi_X1_lastEventTime D h0 (QR Γ D h0 (oxi o.1) o.2) h 27 [some (va_rf x0), some (.int x1), some (.int x2)] [] := by
  intro n
  induction n with
  | zero => intro x0 x1 x2 h hf; cases hf
  | succ n ih =>
    intro x0 x1 x2 h hf
    refine j_iload_n 2 dX1_lastEventTime_27 rfl rfl ?_
    refine j_if_lt 80 dX1_lastEventTime_28 (by decide) hf (fun c_ hf => ?_) (fun c_ hf => ?_)
    · refine j_bipush (-4 : Int32) dX1_lastEventTime_80 (by decide) ?_
      have e9 := Option.some.inj hf
      subst e9
      exact j_iret rfl dX1_lastEventTime_82
    · refine j_aload_n 0 dX1_lastEventTime_31 rfl rfl ?_
      refine j_gR (ci := 0) (k := 3) rfl in_X1 rfl q877 dX1_lastEventTime_32 hf (fun r8 hf => ?_)
      refine j_gRN (ci := 1) (k := 5) rfl in_X2 rfl q797 dX1_lastEventTime_35 hf (fun r9 hf => ?_)
      refine j_iload_n 2 dX1_lastEventTime_38 rfl rfl ?_
      refine kc_X1_296 rfl rfl rfl (by decide) dX1_lastEventTime_39 hf (fun r11 h10 hf => ?_)
      refine j_kC (ci := 14) rfl q1988 dX1_lastEventTime_44 hf (fun hf => ?_)
      refine j_gIN (ci := 14) (k := 1) rfl in_X17 rfl q1438 dX1_lastEventTime_47 hf (fun v12 hf => ?_)
      refine j_iload_n 1 dX1_lastEventTime_50 rfl rfl ?_
      refine j_icmp_ne 74 dX1_lastEventTime_51 (by decide) hf (fun c_ hf => ?_) (fun c_ hf => ?_)
      · refine j_iinc (x2 + (-1 : Int32)) [some (va_rf x0), some (.int x1), some (.int (x2 + (-1 : Int32)))] dX1_lastEventTime_74 rfl rfl (cz rfl) rfl rfl ?_
        refine j_goto 27 dX1_lastEventTime_77 (by decide) ?_
        exact ih x0 x1 (x2 + (-1 : Int32)) h10 hf
      · refine j_aload_n 0 dX1_lastEventTime_54 rfl rfl ?_
        refine j_gR (ci := 0) (k := 3) rfl in_X1 rfl q877 dX1_lastEventTime_55 hf (fun r13 hf => ?_)
        refine j_gRN (ci := 1) (k := 5) rfl in_X2 rfl q797 dX1_lastEventTime_58 hf (fun r14 hf => ?_)
        refine j_iload_n 2 dX1_lastEventTime_61 rfl rfl ?_
        refine kc_X1_296 rfl rfl rfl (by decide) dX1_lastEventTime_62 hf (fun r16 h15 hf => ?_)
        refine j_kC (ci := 14) rfl q1988 dX1_lastEventTime_67 hf (fun hf => ?_)
        refine j_gIN (ci := 14) (k := 0) rfl in_X17 rfl q1436 dX1_lastEventTime_70 hf (fun v17 hf => ?_)
        have e9 := Option.some.inj hf
        subst e9
        exact j_iret rfl dX1_lastEventTime_73
def f_X1_lastEventTime (r0 : Option Nat) (p0 : Int32) (h0 : PH) : Option (((Nat × Nat) ⊕ Int32) × PH) := cl_ (f_X1_in (p0.toInt64) (1 : Int64) (8 : Int64) h0) fun v2 h1 => cl_ (f_X1_check v2 h1) fun z9 h3 => match z9 with | .inl (ci9, q9) => (xo_ h3 ci9 q9) | .inr _u => (gR h3 r0 0 3 fun r4 => gRN h3 r4 1 5 fun r5 => rv_ h3 r5 19 (cl_ (f_J2_size r5 h3) fun v7 h6 => f_X1_lastEventTime_L27 FU r0 p0 (v7 - (1 : Int32)) h6))
theorem hyS_X1_lastEventTime : yX1_lastEventTime.cls ≠ "java/lang/invoke/MethodHandle" ∧ yX1_lastEventTime.cls ≠ "java/lang/invoke/VarHandle" ∧ (parseMethodDescriptor yX1_lastEventTime.desc).map (fun d => d.parameters.length) = some 1 := by decide +kernel
theorem hyV_X1_lastEventTime : yX1_lastEventTime.cls = RX1 ∧ yX1_lastEventTime.cls ≠ "java/lang/invoke/MethodHandle" ∧ yX1_lastEventTime.cls ≠ "java/lang/invoke/VarHandle" ∧ (parseMethodDescriptor yX1_lastEventTime.desc).map (fun d => d.parameters.length) = some 1 := by decide +kernel
theorem c_X1_lastEventTime {D : va_G} (r0 : Option Nat) (p0 : Int32) {h0 : PH} (l : Launch) (hl : l.stackTraces = false) (x : ((Nat × Nat) ⊕ Int32)) (h1 : PH) (hf : f_X1_lastEventTime r0 p0 h0 = some (x, h1)) : CT l D yX1_lastEventTime (ws_ yX1_lastEventTime cX1_lastEventTime 3 (Option.some FieldType.int)) 7 109 [va_rf r0, .int p0] h0 (oxi x) h1 := by
  refine ct_of hl [some (va_rf r0), some (.int p0), none] (by decide) (by rw [lgl]; simp [va_rf_cat, cat_i, cat_l]) (by simp [lv_args, vsL, va_rf_cat, cat_i, cat_l]) (fun Γ => ?_)
  obtain ⟨o, ho⟩ : ∃ o : ((Nat × Nat) ⊕ Int32) × PH, o = (x, h1) := ⟨_, rfl⟩
  rw [← ho] at hf
  have e1 : x = o.1 := by rw [ho]
  have e2 : h1 = o.2 := by rw [ho]
  subst e1 e2
  clear ho
  show PF Γ mi_X1_lastEventTime D h0 (QR Γ D h0 (oxi o.1) o.2) h0 0 [some (va_rf r0), some (.int p0), none] []
  unfold f_X1_lastEventTime at hf
  refine j_iload_n 1 dX1_lastEventTime_0 rfl rfl ?_
  refine j_i2l dX1_lastEventTime_1 ?_
  refine j_lconst (1 : Int64) dX1_lastEventTime_2 (by decide) ?_
  refine j_ldc2 q2017 dX1_lastEventTime_3 ?_
  refine kc_X1_64 rfl rfl rfl (by decide) dX1_lastEventTime_6 hf (fun v2 h1 hf => ?_)
  refine kc_X1_73 rfl rfl rfl (by decide) dX1_lastEventTime_9 hf (fun _u h3 hf => ?_) (fun ci9 q9 h3 fs9 he9 hf => ?_)
  · refine j_aload_n 0 dX1_lastEventTime_12 rfl rfl ?_
    refine j_gR (ci := 0) (k := 3) rfl in_X1 rfl q877 dX1_lastEventTime_13 hf (fun r4 hf => ?_)
    refine j_gRN (ci := 1) (k := 5) rfl in_X2 rfl q797 dX1_lastEventTime_16 hf (fun r5 hf => ?_)
    refine kc_X1_192 rfl rfl rfl (by decide) dX1_lastEventTime_19 hf (fun v7 h6 hf => ?_)
    refine j_iconst (1 : Int32) dX1_lastEventTime_24 (by decide) ?_
    refine j_isub dX1_lastEventTime_25 ?_
    refine j_istore_n 2 [some (va_rf r0), some (.int p0), some (.int (v7 - (1 : Int32)))] dX1_lastEventTime_26 rfl (cz rfl) rfl rfl ?_
    exact pf_X1_lastEventTime_L27 FU r0 p0 (v7 - (1 : Int32)) h6 hf
  · obtain ⟨hb9, hf⟩ := xo_in hf
    subst hf
    exact j_out (by decide) hb9 he9
abbrev mi_X1_until : MI := (cX1_until, 2, RX1, (Option.some FieldType.int), [], 7, 109, "until")
def f_X1_until_B40 (t0 : Int32) (h : PH) : Option (((Nat × Nat) ⊕ Int32) × PH) := some (.inr t0, h)
theorem pf_X1_until_B40 {Γ : GX} {D : va_G} {h0 : PH} {o : ((Nat × Nat) ⊕ Int32) × PH} (t0 : Int32) (h : PH) (hf : f_X1_until_B40 t0 h = some o) : PF Γ mi_X1_until D h0 (QR Γ D h0 (oxi o.1) o.2) h 40 [none, none] [.int t0] := by
  have e9 := Option.some.inj hf
  subst e9
  exact j_iret rfl dX1_until_40
def f_X1_until (r0 : Option Nat) (p0 : Int32) (h0 : PH) : Option (((Nat × Nat) ⊕ Int32) × PH) := cl_ (f_X1_in (p0.toInt64) (1 : Int64) (5000 : Int64) h0) fun v2 h1 => cl_ (f_X1_check v2 h1) fun z9 h3 => match z9 with | .inl (ci9, q9) => (xo_ h3 ci9 q9) | .inr _u => (gR h3 r0 0 3 fun r4 => gIN h3 r4 1 8 fun v5 => (if (v5 + p0) ≤ (5000000 : Int32) then (gR h3 r0 0 3 fun r6 => gIN h3 r6 1 8 fun v7 => f_X1_until_B40 (v7 + p0) h3) else (f_X1_until_B40 (-5 : Int32) h3)))
theorem hyS_X1_until : yX1_until.cls ≠ "java/lang/invoke/MethodHandle" ∧ yX1_until.cls ≠ "java/lang/invoke/VarHandle" ∧ (parseMethodDescriptor yX1_until.desc).map (fun d => d.parameters.length) = some 1 := by decide +kernel
theorem hyV_X1_until : yX1_until.cls = RX1 ∧ yX1_until.cls ≠ "java/lang/invoke/MethodHandle" ∧ yX1_until.cls ≠ "java/lang/invoke/VarHandle" ∧ (parseMethodDescriptor yX1_until.desc).map (fun d => d.parameters.length) = some 1 := by decide +kernel
theorem c_X1_until {D : va_G} (r0 : Option Nat) (p0 : Int32) {h0 : PH} (l : Launch) (hl : l.stackTraces = false) (x : ((Nat × Nat) ⊕ Int32)) (h1 : PH) (hf : f_X1_until r0 p0 h0 = some (x, h1)) : CT l D yX1_until (ws_ yX1_until cX1_until 2 (Option.some FieldType.int)) 7 109 [va_rf r0, .int p0] h0 (oxi x) h1 := by
  refine ct_of hl [some (va_rf r0), some (.int p0)] (by decide) (by rw [lgl]; simp [va_rf_cat, cat_i, cat_l]) (by simp [lv_args, vsL, va_rf_cat, cat_i, cat_l]) (fun Γ => ?_)
  obtain ⟨o, ho⟩ : ∃ o : ((Nat × Nat) ⊕ Int32) × PH, o = (x, h1) := ⟨_, rfl⟩
  rw [← ho] at hf
  have e1 : x = o.1 := by rw [ho]
  have e2 : h1 = o.2 := by rw [ho]
  subst e1 e2
  clear ho
  show PF Γ mi_X1_until D h0 (QR Γ D h0 (oxi o.1) o.2) h0 0 [some (va_rf r0), some (.int p0)] []
  unfold f_X1_until at hf
  refine j_iload_n 1 dX1_until_0 rfl rfl ?_
  refine j_i2l dX1_until_1 ?_
  refine j_lconst (1 : Int64) dX1_until_2 (by decide) ?_
  refine j_ldc2 q1717 dX1_until_3 ?_
  refine kc_X1_64 rfl rfl rfl (by decide) dX1_until_6 hf (fun v2 h1 hf => ?_)
  refine kc_X1_73 rfl rfl rfl (by decide) dX1_until_9 hf (fun _u h3 hf => ?_) (fun ci9 q9 h3 fs9 he9 hf => ?_)
  · refine j_aload_n 0 dX1_until_12 rfl rfl ?_
    refine j_gR (ci := 0) (k := 3) rfl in_X1 rfl q877 dX1_until_13 hf (fun r4 hf => ?_)
    refine j_gIN (ci := 1) (k := 8) rfl in_X2 rfl q803 dX1_until_16 hf (fun v5 hf => ?_)
    refine j_iload_n 1 dX1_until_19 rfl rfl ?_
    refine j_iadd dX1_until_20 ?_
    refine j_ldc q1285 dX1_until_21 ?_
    refine j_icmp_le 31 dX1_until_23 (by decide) hf (fun c_ hf => ?_) (fun c_ hf => ?_)
    · refine j_aload_n 0 dX1_until_31 rfl rfl ?_
      refine j_gR (ci := 0) (k := 3) rfl in_X1 rfl q877 dX1_until_32 hf (fun r6 hf => ?_)
      refine j_gIN (ci := 1) (k := 8) rfl in_X2 rfl q803 dX1_until_35 hf (fun v7 hf => ?_)
      refine j_iload_n 1 dX1_until_38 rfl rfl ?_
      refine j_iadd dX1_until_39 ?_
      refine j_weak [none, none] (Wk.s (Wk.s Wk.n)) ?_
      exact pf_X1_until_B40 (v7 + p0) h3 hf
    · refine j_bipush (-5 : Int32) dX1_until_26 (by decide) ?_
      refine j_goto 40 dX1_until_28 (by decide) ?_
      refine j_weak [none, none] (Wk.s (Wk.s Wk.n)) ?_
      exact pf_X1_until_B40 (-5 : Int32) h3 hf
  · obtain ⟨hb9, hf⟩ := xo_in hf
    subst hf
    exact j_out (by decide) hb9 he9
theorem kc_X1_326 {Γ : GX} {I : MI} {D : va_G} {h0 : PH} {Q : State → Prop} {h : PH} {pc : Nat} {vs : List (Option Value)} {rest : List Value} {β : Type} {o : β} {r : Option Nat}  {K : ((Option Nat) → PH → Option β)} (hI : I.2.2.1 = RX1) (hfr : Nat.ble 6 I.2.2.2.2.2.1 = true) (hlo : Nat.ble 174 I.2.2.2.2.2.2.1 = true) (hW : (rest.map fun v => v.category).sum ≤ 8) (hd : decode I.1 pc = .ok (.invokevirtual 326, 3)) (hf : rv_ h r 1 (cl_ (f_X2_copy r h) K) = some o) (kk : ∀ (x : Option Nat) (h1 : PH), K x h1 = some o → PF Γ I D h0 Q h1 (pc + 3) vs (va_rf x :: rest)) : PF Γ I D h0 Q h pc vs (va_rf r :: rest) := by
  obtain ⟨cc, nL, own, rt, xt, fr, lo, nm⟩ := I
  cases hI
  exact j_cVr (n := 0) (y := yX2_copy) (cc2 := cX2_copy) (As := []) (C := RX2) (ci := 1) rfl (lw_V q2032 q2033 q2034 q91 q2035) hyV_X2_copy hfr hlo rfl hW hd (c_X2_copy r) hf _ rfl kk
abbrev mi_X1_saveSnapshot : MI := (cX1_saveSnapshot, 2, RX1, (Option.some FieldType.int), [], 7, 174, "saveSnapshot")
def f_X1_saveSnapshot (r0 : Option Nat) (p0 : Int32) (h0 : PH) : Option (((Nat × Nat) ⊕ Int32) × PH) := cl_ (f_X1_in (p0.toInt64) (0 : Int64) (1 : Int64) h0) fun v2 h1 => cl_ (f_X1_check v2 h1) fun z9 h3 => match z9 with | .inl (ci9, q9) => (xo_ h3 ci9 q9) | .inr _u => (gR h3 r0 0 4 fun r4 => gR h3 r0 0 3 fun r5 => rv_ h3 r5 1 (cl_ (f_X2_copy r5 h3) fun r7 h6 => sQ h6 r4 6 p0 r7 fun h8 => gR h8 r0 0 3 fun r9 => gIN h8 r9 1 8 fun v10 => some (.inr v10, h8)))
theorem hyS_X1_saveSnapshot : yX1_saveSnapshot.cls ≠ "java/lang/invoke/MethodHandle" ∧ yX1_saveSnapshot.cls ≠ "java/lang/invoke/VarHandle" ∧ (parseMethodDescriptor yX1_saveSnapshot.desc).map (fun d => d.parameters.length) = some 1 := by decide +kernel
theorem hyV_X1_saveSnapshot : yX1_saveSnapshot.cls = RX1 ∧ yX1_saveSnapshot.cls ≠ "java/lang/invoke/MethodHandle" ∧ yX1_saveSnapshot.cls ≠ "java/lang/invoke/VarHandle" ∧ (parseMethodDescriptor yX1_saveSnapshot.desc).map (fun d => d.parameters.length) = some 1 := by decide +kernel
theorem c_X1_saveSnapshot {D : va_G} (r0 : Option Nat) (p0 : Int32) {h0 : PH} (l : Launch) (hl : l.stackTraces = false) (x : ((Nat × Nat) ⊕ Int32)) (h1 : PH) (hf : f_X1_saveSnapshot r0 p0 h0 = some (x, h1)) : CT l D yX1_saveSnapshot (ws_ yX1_saveSnapshot cX1_saveSnapshot 2 (Option.some FieldType.int)) 7 174 [va_rf r0, .int p0] h0 (oxi x) h1 := by
  refine ct_of hl [some (va_rf r0), some (.int p0)] (by decide) (by rw [lgl]; simp [va_rf_cat, cat_i, cat_l]) (by simp [lv_args, vsL, va_rf_cat, cat_i, cat_l]) (fun Γ => ?_)
  obtain ⟨o, ho⟩ : ∃ o : ((Nat × Nat) ⊕ Int32) × PH, o = (x, h1) := ⟨_, rfl⟩
  rw [← ho] at hf
  have e1 : x = o.1 := by rw [ho]
  have e2 : h1 = o.2 := by rw [ho]
  subst e1 e2
  clear ho
  show PF Γ mi_X1_saveSnapshot D h0 (QR Γ D h0 (oxi o.1) o.2) h0 0 [some (va_rf r0), some (.int p0)] []
  unfold f_X1_saveSnapshot at hf
  refine j_iload_n 1 dX1_saveSnapshot_0 rfl rfl ?_
  refine j_i2l dX1_saveSnapshot_1 ?_
  refine j_lconst (0 : Int64) dX1_saveSnapshot_2 (by decide) ?_
  refine j_lconst (1 : Int64) dX1_saveSnapshot_3 (by decide) ?_
  refine kc_X1_64 rfl rfl rfl (by decide) dX1_saveSnapshot_4 hf (fun v2 h1 hf => ?_)
  refine kc_X1_73 rfl rfl rfl (by decide) dX1_saveSnapshot_7 hf (fun _u h3 hf => ?_) (fun ci9 q9 h3 fs9 he9 hf => ?_)
  · refine j_aload_n 0 dX1_saveSnapshot_10 rfl rfl ?_
    refine j_gR (ci := 0) (k := 4) rfl in_X1 rfl q878 dX1_saveSnapshot_11 hf (fun r4 hf => ?_)
    refine j_iload_n 1 dX1_saveSnapshot_14 rfl rfl ?_
    refine j_aload_n 0 dX1_saveSnapshot_15 rfl rfl ?_
    refine j_gR (ci := 0) (k := 3) rfl in_X1 rfl q877 dX1_saveSnapshot_16 hf (fun r5 hf => ?_)
    refine kc_X1_326 rfl rfl rfl (by simp [va_rf_cat, cat_i, cat_l]) dX1_saveSnapshot_19 hf (fun r7 h6 hf => ?_)
    refine j_aast (t := 6) rfl dX1_saveSnapshot_22 hf (fun h8 hf => ?_)
    refine j_aload_n 0 dX1_saveSnapshot_23 rfl rfl ?_
    refine j_gR (ci := 0) (k := 3) rfl in_X1 rfl q877 dX1_saveSnapshot_24 hf (fun r9 hf => ?_)
    refine j_gIN (ci := 1) (k := 8) rfl in_X2 rfl q803 dX1_saveSnapshot_27 hf (fun v10 hf => ?_)
    have e9 := Option.some.inj hf
    subst e9
    exact j_iret rfl dX1_saveSnapshot_30
  · obtain ⟨hb9, hf⟩ := xo_in hf
    subst hf
    exact j_out (by decide) hb9 he9
abbrev mi_X1_restoreSnapshot : MI := (cX1_restoreSnapshot, 2, RX1, (Option.some FieldType.int), [], 7, 174, "restoreSnapshot")
def f_X1_restoreSnapshot (r0 : Option Nat) (p0 : Int32) (h0 : PH) : Option (((Nat × Nat) ⊕ Int32) × PH) := cl_ (f_X1_in (p0.toInt64) (0 : Int64) (1 : Int64) h0) fun v2 h1 => cl_ (f_X1_check v2 h1) fun z9 h3 => match z9 with | .inl (ci9, q9) => (xo_ h3 ci9 q9) | .inr _u => (gR h3 r0 0 4 fun r4 => aQ h3 r4 6 p0 fun r5 => (if r5 = none then (some (.inr (-4 : Int32), h3)) else (gR h3 r0 0 4 fun r6 => aQ h3 r6 6 p0 fun r7 => rv_ h3 r7 1 (cl_ (f_X2_copy r7 h3) fun r9 h8 => pV h8 r0 0 3 (va_rf r9) fun h10 => gR h10 r0 0 3 fun r11 => gIN h10 r11 1 8 fun v12 => some (.inr v12, h10)))))
theorem hyS_X1_restoreSnapshot : yX1_restoreSnapshot.cls ≠ "java/lang/invoke/MethodHandle" ∧ yX1_restoreSnapshot.cls ≠ "java/lang/invoke/VarHandle" ∧ (parseMethodDescriptor yX1_restoreSnapshot.desc).map (fun d => d.parameters.length) = some 1 := by decide +kernel
theorem hyV_X1_restoreSnapshot : yX1_restoreSnapshot.cls = RX1 ∧ yX1_restoreSnapshot.cls ≠ "java/lang/invoke/MethodHandle" ∧ yX1_restoreSnapshot.cls ≠ "java/lang/invoke/VarHandle" ∧ (parseMethodDescriptor yX1_restoreSnapshot.desc).map (fun d => d.parameters.length) = some 1 := by decide +kernel
theorem c_X1_restoreSnapshot {D : va_G} (r0 : Option Nat) (p0 : Int32) {h0 : PH} (l : Launch) (hl : l.stackTraces = false) (x : ((Nat × Nat) ⊕ Int32)) (h1 : PH) (hf : f_X1_restoreSnapshot r0 p0 h0 = some (x, h1)) : CT l D yX1_restoreSnapshot (ws_ yX1_restoreSnapshot cX1_restoreSnapshot 2 (Option.some FieldType.int)) 7 174 [va_rf r0, .int p0] h0 (oxi x) h1 := by
  refine ct_of hl [some (va_rf r0), some (.int p0)] (by decide) (by rw [lgl]; simp [va_rf_cat, cat_i, cat_l]) (by simp [lv_args, vsL, va_rf_cat, cat_i, cat_l]) (fun Γ => ?_)
  obtain ⟨o, ho⟩ : ∃ o : ((Nat × Nat) ⊕ Int32) × PH, o = (x, h1) := ⟨_, rfl⟩
  rw [← ho] at hf
  have e1 : x = o.1 := by rw [ho]
  have e2 : h1 = o.2 := by rw [ho]
  subst e1 e2
  clear ho
  show PF Γ mi_X1_restoreSnapshot D h0 (QR Γ D h0 (oxi o.1) o.2) h0 0 [some (va_rf r0), some (.int p0)] []
  unfold f_X1_restoreSnapshot at hf
  refine j_iload_n 1 dX1_restoreSnapshot_0 rfl rfl ?_
  refine j_i2l dX1_restoreSnapshot_1 ?_
  refine j_lconst (0 : Int64) dX1_restoreSnapshot_2 (by decide) ?_
  refine j_lconst (1 : Int64) dX1_restoreSnapshot_3 (by decide) ?_
  refine kc_X1_64 rfl rfl rfl (by decide) dX1_restoreSnapshot_4 hf (fun v2 h1 hf => ?_)
  refine kc_X1_73 rfl rfl rfl (by decide) dX1_restoreSnapshot_7 hf (fun _u h3 hf => ?_) (fun ci9 q9 h3 fs9 he9 hf => ?_)
  · refine j_aload_n 0 dX1_restoreSnapshot_10 rfl rfl ?_
    refine j_gR (ci := 0) (k := 4) rfl in_X1 rfl q878 dX1_restoreSnapshot_11 hf (fun r4 hf => ?_)
    refine j_iload_n 1 dX1_restoreSnapshot_14 rfl rfl ?_
    refine j_aald (t := 6) rfl dX1_restoreSnapshot_15 hf (fun r5 hf => ?_)
    refine j_ifnonnull 22 dX1_restoreSnapshot_16 (by decide) hf (fun c_ hf => ?_) (fun c_ hf => ?_)
    · refine j_aload_n 0 dX1_restoreSnapshot_22 rfl rfl ?_
      refine j_aload_n 0 dX1_restoreSnapshot_23 rfl rfl ?_
      refine j_gR (ci := 0) (k := 4) rfl in_X1 rfl q878 dX1_restoreSnapshot_24 hf (fun r6 hf => ?_)
      refine j_iload_n 1 dX1_restoreSnapshot_27 rfl rfl ?_
      refine j_aald (t := 6) rfl dX1_restoreSnapshot_28 hf (fun r7 hf => ?_)
      refine kc_X1_326 rfl rfl rfl (by simp [va_rf_cat, cat_i, cat_l]) dX1_restoreSnapshot_29 hf (fun r9 h8 hf => ?_)
      refine j_pV (ci := 0) (k := 3) tyX1 tyX1_ok nmX1 rfl in_X1 rfl q877 (Or.inl rfl) rfl (fit_o _ _) dX1_restoreSnapshot_32 hf (fun h10 hf => ?_)
      refine j_aload_n 0 dX1_restoreSnapshot_35 rfl rfl ?_
      refine j_gR (ci := 0) (k := 3) rfl in_X1 rfl q877 dX1_restoreSnapshot_36 hf (fun r11 hf => ?_)
      refine j_gIN (ci := 1) (k := 8) rfl in_X2 rfl q803 dX1_restoreSnapshot_39 hf (fun v12 hf => ?_)
      have e9 := Option.some.inj hf
      subst e9
      exact j_iret rfl dX1_restoreSnapshot_42
    · refine j_bipush (-4 : Int32) dX1_restoreSnapshot_19 (by decide) ?_
      have e9 := Option.some.inj hf
      subst e9
      exact j_iret rfl dX1_restoreSnapshot_21
  · obtain ⟨hb9, hf⟩ := xo_in hf
    subst hf
    exact j_out (by decide) hb9 he9
theorem kc_X2_351 {Γ : GX} {I : MI} {D : va_G} {h0 : PH} {Q : State → Prop} {h : PH} {pc : Nat} {vs : List (Option Value)} {rest : List Value} {β : Type} {o : β} {r : Option Nat}  {K : ((Option Nat) → PH → Option β)} (hI : I.2.2.1 = RX2) (hfr : Nat.ble 4 I.2.2.2.2.2.1 = true) (hlo : Nat.ble 86 I.2.2.2.2.2.2.1 = true) (hW : (rest.map fun v => v.category).sum ≤ 8) (hd : decode I.1 pc = .ok (.invokevirtual 351, 3)) (hf : rv_ h r 1 (cl_ (f_X2_firstMessage r h) K) = some o) (kk : ∀ (x : Option Nat) (h1 : PH), K x h1 = some o → PF Γ I D h0 Q h1 (pc + 3) vs (va_rf x :: rest)) : PF Γ I D h0 Q h pc vs (va_rf r :: rest) := by
  obtain ⟨cc, nL, own, rt, xt, fr, lo, nm⟩ := I
  cases hI
  exact j_cVr (n := 0) (y := yX2_firstMessage) (cc2 := cX2_firstMessage) (As := []) (C := RX2) (ci := 1) rfl (lw_V q1262 q1264 qs11 q91 q1265) hyV_X2_firstMessage hfr hlo rfl hW hd (c_X2_firstMessage r) hf _ rfl kk
theorem kc_X2_367 {Γ : GX} {I : MI} {D : va_G} {h0 : PH} {Q : State → Prop} {h : PH} {pc : Nat} {vs : List (Option Value)} {rest : List Value} {β : Type} {o : β} {r : Option Nat} {p0 : Int32} {K : ((Int32) → PH → Option β)} (hI : I.2.2.1 = RX2) (hfr : Nat.ble 1 I.2.2.2.2.2.1 = true) (hlo : Nat.ble 21 I.2.2.2.2.2.2.1 = true) (hW : (rest.map fun v => v.category).sum ≤ 8) (hd : decode I.1 pc = .ok (.invokevirtual 367, 3)) (hf : rv_ h r 17 (cl_ (f_X20_next r p0 h) K) = some o) (kk : ∀ (x : Int32) (h1 : PH), K x h1 = some o → PF Γ I D h0 Q h1 (pc + 3) vs (.int x :: rest)) : PF Γ I D h0 Q h pc vs (.int p0 :: va_rf r :: rest) := by
  obtain ⟨cc, nL, own, rt, xt, fr, lo, nm⟩ := I
  cases hI
  exact j_cVi (n := 1) (y := yX20_next) (cc2 := cX20_next) (As := [.int p0]) (C := RX20) (ci := 17) rfl (lw_V q1275 q1276 q1277 q133 q1278) hyV_X20_next hfr hlo rfl hW hd (c_X20_next r p0) hf _ rfl kk
abbrev mi_X2_nextEvent : MI := (cX2_nextEvent, 7, RX2, (Option.some FieldType.int), [], 4, 86, "nextEvent")
def f_X2_nextEvent_B184 (k120 : Option Nat → Int32 → Option Nat → Int32 → Int32 → PH → Option (Int32 × PH)) (x0 : Option Nat) (x2 : Int32) (x3 : Option Nat) (x4 : Int32) (x5 : Int32) (h : PH) : Option (Int32 × PH) := k120 x0 x2 x3 x4 (x5 + (1 : Int32)) h
theorem pf_X2_nextEvent_B184 {Γ : GX} {D : va_G} {h0 : PH} {o : Int32 × PH} (k120 : Option Nat → Int32 → Option Nat → Int32 → Int32 → PH → Option (Int32 × PH)) (hk120 : ∀ (x0 : Option Nat) (x2 : Int32) (x3 : Option Nat) (x4 : Int32) (x5 : Int32) (h : PH), k120 x0 x2 x3 x4 x5 h = some o → PF Γ mi_X2_nextEvent D h0 (QR Γ D h0 (ovi o.1) o.2) h 120 [some (va_rf x0), none, some (.int x2), some (va_rf x3), some (.int x4), some (.int x5), none] []) (x0 : Option Nat) (x2 : Int32) (x3 : Option Nat) (x4 : Int32) (x5 : Int32) (h : PH) (hf : f_X2_nextEvent_B184 k120 x0 x2 x3 x4 x5 h = some o) : PF Γ mi_X2_nextEvent D h0 (QR Γ D h0 (ovi o.1) o.2) h 184 [some (va_rf x0), none, some (.int x2), some (va_rf x3), some (.int x4), some (.int x5), none] [] := by
  refine j_iinc (x5 + (1 : Int32)) [some (va_rf x0), none, some (.int x2), some (va_rf x3), some (.int x4), some (.int (x5 + (1 : Int32))), none] dX2_nextEvent_184 rfl rfl (cz rfl) rfl rfl ?_
  refine j_goto 120 dX2_nextEvent_187 (by decide) ?_
  exact hk120 x0 x2 x3 x4 (x5 + (1 : Int32)) h hf
def f_X2_nextEvent_L120 : Nat → Option Nat → Int32 → Option Nat → Int32 → Int32 → PH → Option (Int32 × PH)
  | 0, _, _, _, _, _, _ => none
  | n + 1, x0, x2, x3, x4, x5, h => (if x4 ≤ x5 then (some (x2, h)) else (aQ h x3 5 x5 fun r22 => gI h x0 1 8 fun v23 => rv_ h r22 5 (cl_ (f_X6_isPaused r22 v23 h) fun v25 h24 => (if v25 = 0 then (gIN h24 r22 5 2 fun v26 => (if v26 = 0 then (f_X2_nextEvent_B184 (f_X2_nextEvent_L120 n) x0 x2 x3 x4 x5 h24) else (gIN h24 r22 5 8 fun v27 => (if v27 < 0 then (f_X2_nextEvent_B184 (f_X2_nextEvent_L120 n) x0 x2 x3 x4 x5 h24) else (gIN h24 r22 5 8 fun v28 => f_X2_nextEvent_B184 (f_X2_nextEvent_L120 n) x0 (if v28 < x2 then v28 else x2) x3 x4 x5 h24))))) else (gIN h24 r22 5 5 fun v29 => f_X2_nextEvent_B184 (f_X2_nextEvent_L120 n) x0 (if v29 < x2 then v29 else x2) x3 x4 x5 h24)))))
theorem pf_X2_nextEvent_L120 {Γ : GX} {D : va_G} {h0 : PH} {o : Int32 × PH} : ∀ (n : Nat) (x0 : Option Nat) (x2 : Int32) (x3 : Option Nat) (x4 : Int32) (x5 : Int32) (h : PH), f_X2_nextEvent_L120 n x0 x2 x3 x4 x5 h = some o → PF Γ mi_X2_nextEvent D h0 (QR Γ D h0 (ovi o.1) o.2) h 120 [some (va_rf x0), none, some (.int x2), some (va_rf x3), some (.int x4), some (.int x5), none] [] := by
  intro n
  induction n with
  | zero => intro x0 x2 x3 x4 x5 h hf; cases hf
  | succ n ih =>
    intro x0 x2 x3 x4 x5 h hf
    refine j_iload dX2_nextEvent_120 rfl ?_
    refine j_iload dX2_nextEvent_122 rfl ?_
    refine j_icmp_ge 190 dX2_nextEvent_124 (by decide) hf (fun c_ hf => ?_) (fun c_ hf => ?_)
    · refine j_iload_n 2 dX2_nextEvent_190 rfl rfl ?_
      have e9 := Option.some.inj hf
      subst e9
      exact j_iret rfl dX2_nextEvent_191
    · refine j_aload_n 3 dX2_nextEvent_127 rfl rfl ?_
      refine j_iload dX2_nextEvent_128 rfl ?_
      refine j_aald (t := 5) rfl dX2_nextEvent_130 hf (fun r22 hf => ?_)
      refine j_astore [some (va_rf x0), none, some (.int x2), some (va_rf x3), some (.int x4), some (.int x5), some (va_rf r22)] dX2_nextEvent_131 (cz rfl) rfl rfl ?_
      refine j_aload dX2_nextEvent_133 rfl ?_
      refine j_aload_n 0 dX2_nextEvent_135 rfl rfl ?_
      refine j_gI (ci := 1) (k := 8) rfl in_X2 rfl q802 dX2_nextEvent_136 hf (fun v23 hf => ?_)
      refine kc_X2_230 rfl rfl rfl (by decide) dX2_nextEvent_139 hf (fun v25 h24 hf => ?_)
      refine j_if_eq 158 dX2_nextEvent_142 (by decide) hf (fun c_ hf => ?_) (fun c_ hf => ?_)
      · refine j_aload dX2_nextEvent_158 rfl ?_
        refine j_gIN (ci := 5) (k := 2) rfl in_X6 rfl q727 dX2_nextEvent_160 hf (fun v26 hf => ?_)
        refine j_if_eq 184 dX2_nextEvent_163 (by decide) hf (fun c_ hf => ?_) (fun c_ hf => ?_)
        · refine j_weak [some (va_rf x0), none, some (.int x2), some (va_rf x3), some (.int x4), some (.int x5), none] (Wk.k (Wk.k (Wk.k (Wk.k (Wk.k (Wk.k (Wk.s Wk.n))))))) ?_
          exact pf_X2_nextEvent_B184 (f_X2_nextEvent_L120 n) ih x0 x2 x3 x4 x5 h24 hf
        · refine j_aload dX2_nextEvent_166 rfl ?_
          refine j_gIN (ci := 5) (k := 8) rfl in_X6 rfl q745 dX2_nextEvent_168 hf (fun v27 hf => ?_)
          refine j_if_lt 184 dX2_nextEvent_171 (by decide) hf (fun c_ hf => ?_) (fun c_ hf => ?_)
          · refine j_weak [some (va_rf x0), none, some (.int x2), some (va_rf x3), some (.int x4), some (.int x5), none] (Wk.k (Wk.k (Wk.k (Wk.k (Wk.k (Wk.k (Wk.s Wk.n))))))) ?_
            exact pf_X2_nextEvent_B184 (f_X2_nextEvent_L120 n) ih x0 x2 x3 x4 x5 h24 hf
          · refine j_iload_n 2 dX2_nextEvent_174 rfl rfl ?_
            refine j_aload dX2_nextEvent_175 rfl ?_
            refine j_gIN (ci := 5) (k := 8) rfl in_X6 rfl q745 dX2_nextEvent_177 hf (fun v28 hf => ?_)
            refine j_mmin q1273 q306 q106 q307 rfl rfl (by decide) dX2_nextEvent_180 ?_
            refine j_istore_n 2 [some (va_rf x0), none, some (.int (if v28 < x2 then v28 else x2)), some (va_rf x3), some (.int x4), some (.int x5), some (va_rf r22)] dX2_nextEvent_183 rfl cn' rfl rfl ?_
            refine j_weak [some (va_rf x0), none, some (.int (if v28 < x2 then v28 else x2)), some (va_rf x3), some (.int x4), some (.int x5), none] (Wk.k (Wk.k (Wk.k (Wk.k (Wk.k (Wk.k (Wk.s Wk.n))))))) ?_
            exact pf_X2_nextEvent_B184 (f_X2_nextEvent_L120 n) ih x0 (if v28 < x2 then v28 else x2) x3 x4 x5 h24 hf
      · refine j_iload_n 2 dX2_nextEvent_145 rfl rfl ?_
        refine j_aload dX2_nextEvent_146 rfl ?_
        refine j_gIN (ci := 5) (k := 5) rfl in_X6 rfl q736 dX2_nextEvent_148 hf (fun v29 hf => ?_)
        refine j_mmin q1273 q306 q106 q307 rfl rfl (by decide) dX2_nextEvent_151 ?_
        refine j_istore_n 2 [some (va_rf x0), none, some (.int (if v29 < x2 then v29 else x2)), some (va_rf x3), some (.int x4), some (.int x5), some (va_rf r22)] dX2_nextEvent_154 rfl cn' rfl rfl ?_
        refine j_goto 184 dX2_nextEvent_155 (by decide) ?_
        refine j_weak [some (va_rf x0), none, some (.int (if v29 < x2 then v29 else x2)), some (va_rf x3), some (.int x4), some (.int x5), none] (Wk.k (Wk.k (Wk.k (Wk.k (Wk.k (Wk.k (Wk.s Wk.n))))))) ?_
        exact pf_X2_nextEvent_B184 (f_X2_nextEvent_L120 n) ih x0 (if v29 < x2 then v29 else x2) x3 x4 x5 h24 hf
def f_X2_nextEvent_L64 : Nat → Option Nat → Int32 → Int32 → PH → Option (Int32 × PH)
  | 0, _, _, _, _ => none
  | n + 1, x0, x2, x3, h => gR h x0 1 4 fun r11 => rv_ h r11 19 (cl_ (f_J2_size r11 h) fun v13 h12 => (if v13 ≤ x3 then (gR h12 x0 1 1 fun r14 => aN h12 r14 5 fun v15 => f_X2_nextEvent_L120 FU x0 x2 r14 v15 (0 : Int32) h12) else (gR h12 x0 1 4 fun r16 => rv_ h12 r16 19 (cl_ (f_J2_get r16 x3 h12) fun r18 h17 => kC h17 r18 17 (gI h17 x0 1 8 fun v19 => rv_ h17 r18 17 (cl_ (f_X20_next r18 v19 h17) fun v21 h20 => f_X2_nextEvent_L64 n x0 (if v21 < x2 then v21 else x2) (x3 + (1 : Int32)) h20))))))
theorem pf_X2_nextEvent_L64 {Γ : GX} {D : va_G} {h0 : PH} {o : Int32 × PH} : ∀ (n : Nat) (x0 : Option Nat) (x2 : Int32) (x3 : Int32) (h : PH), f_X2_nextEvent_L64 n x0 x2 x3 h = some o → PF Γ mi_X2_nextEvent D h0 (QR Γ D h0 (ovi o.1) o.2) h 64 [some (va_rf x0), none, some (.int x2), some (.int x3), none, none, none] [] := by
  intro n
  induction n with
  | zero => intro x0 x2 x3 h hf; cases hf
  | succ n ih =>
    intro x0 x2 x3 h hf
    refine j_iload_n 3 dX2_nextEvent_64 rfl rfl ?_
    refine j_aload_n 0 dX2_nextEvent_65 rfl rfl ?_
    refine j_gR (ci := 1) (k := 4) rfl in_X2 rfl q794 dX2_nextEvent_66 hf (fun r11 hf => ?_)
    refine kc_X2_56 rfl rfl rfl (by simp [va_rf_cat, cat_i, cat_l]) dX2_nextEvent_69 hf (fun v13 h12 hf => ?_)
    refine j_icmp_ge 108 dX2_nextEvent_74 (by decide) hf (fun c_ hf => ?_) (fun c_ hf => ?_)
    · refine j_aload_n 0 dX2_nextEvent_108 rfl rfl ?_
      refine j_gR (ci := 1) (k := 1) rfl in_X2 rfl q788 dX2_nextEvent_109 hf (fun r14 hf => ?_)
      refine j_astore_n 3 [some (va_rf x0), none, some (.int x2), some (va_rf r14), none, none, none] dX2_nextEvent_112 rfl (cz rfl) rfl rfl ?_
      refine j_aload_n 3 dX2_nextEvent_113 rfl rfl ?_
      refine j_alen (t := 5) rfl dX2_nextEvent_114 hf (fun v15 hf => ?_)
      refine j_istore [some (va_rf x0), none, some (.int x2), some (va_rf r14), some (.int v15), none, none] dX2_nextEvent_115 (cz (va_rf_cat _)) rfl rfl ?_
      refine j_iconst (0 : Int32) dX2_nextEvent_117 (by decide) ?_
      refine j_istore [some (va_rf x0), none, some (.int x2), some (va_rf r14), some (.int v15), some (.int (0 : Int32)), none] dX2_nextEvent_118 (cz rfl) rfl rfl ?_
      exact pf_X2_nextEvent_L120 FU x0 x2 r14 v15 (0 : Int32) h12 hf
    · refine j_iload_n 2 dX2_nextEvent_77 rfl rfl ?_
      refine j_aload_n 0 dX2_nextEvent_78 rfl rfl ?_
      refine j_gR (ci := 1) (k := 4) rfl in_X2 rfl q794 dX2_nextEvent_79 hf (fun r16 hf => ?_)
      refine j_iload_n 3 dX2_nextEvent_82 rfl rfl ?_
      refine kc_X2_68 rfl rfl rfl (by simp [va_rf_cat, cat_i, cat_l]) dX2_nextEvent_83 hf (fun r18 h17 hf => ?_)
      refine j_kC (ci := 17) rfl q1274 dX2_nextEvent_88 hf (fun hf => ?_)
      refine j_aload_n 0 dX2_nextEvent_91 rfl rfl ?_
      refine j_gI (ci := 1) (k := 8) rfl in_X2 rfl q802 dX2_nextEvent_92 hf (fun v19 hf => ?_)
      refine kc_X2_367 rfl rfl rfl (by simp [va_rf_cat, cat_i, cat_l]) dX2_nextEvent_95 hf (fun v21 h20 hf => ?_)
      refine j_mmin q1273 q306 q106 q307 rfl rfl (by decide) dX2_nextEvent_98 ?_
      refine j_istore_n 2 [some (va_rf x0), none, some (.int (if v21 < x2 then v21 else x2)), some (.int x3), none, none, none] dX2_nextEvent_101 rfl cn' rfl rfl ?_
      refine j_iinc (x3 + (1 : Int32)) [some (va_rf x0), none, some (.int (if v21 < x2 then v21 else x2)), some (.int (x3 + (1 : Int32))), none, none, none] dX2_nextEvent_102 rfl rfl (cz rfl) rfl rfl ?_
      refine j_goto 64 dX2_nextEvent_105 (by decide) ?_
      exact ih x0 (if v21 < x2 then v21 else x2) (x3 + (1 : Int32)) h20 hf
def f_X2_nextEvent_L22 : Nat → Option Nat → Int32 → Int32 → PH → Option (Int32 × PH)
  | 0, _, _, _, _ => none
  | n + 1, x0, x2, x3, h => gR h x0 1 3 fun r4 => rv_ h r4 19 (cl_ (f_J2_size r4 h) fun v6 h5 => (if v6 ≤ x3 then (f_X2_nextEvent_L64 FU x0 x2 (0 : Int32) h5) else (gR h5 x0 1 3 fun r7 => rv_ h5 r7 19 (cl_ (f_J2_get r7 x3 h5) fun r9 h8 => kC h8 r9 18 (gIN h8 r9 18 4 fun v10 => f_X2_nextEvent_L22 n x0 (if v10 < x2 then v10 else x2) (x3 + (1 : Int32)) h8)))))
theorem pf_X2_nextEvent_L22 {Γ : GX} {D : va_G} {h0 : PH} {o : Int32 × PH} : ∀ (n : Nat) (x0 : Option Nat) (x2 : Int32) (x3 : Int32) (h : PH), f_X2_nextEvent_L22 n x0 x2 x3 h = some o → PF Γ mi_X2_nextEvent D h0 (QR Γ D h0 (ovi o.1) o.2) h 22 [some (va_rf x0), none, some (.int x2), some (.int x3), none, none, none] [] := by
  intro n
  induction n with
  | zero => intro x0 x2 x3 h hf; cases hf
  | succ n ih =>
    intro x0 x2 x3 h hf
    refine j_iload_n 3 dX2_nextEvent_22 rfl rfl ?_
    refine j_aload_n 0 dX2_nextEvent_23 rfl rfl ?_
    refine j_gR (ci := 1) (k := 3) rfl in_X2 rfl q792 dX2_nextEvent_24 hf (fun r4 hf => ?_)
    refine kc_X2_56 rfl rfl rfl (by simp [va_rf_cat, cat_i, cat_l]) dX2_nextEvent_27 hf (fun v6 h5 hf => ?_)
    refine j_icmp_ge 62 dX2_nextEvent_32 (by decide) hf (fun c_ hf => ?_) (fun c_ hf => ?_)
    · refine j_iconst (0 : Int32) dX2_nextEvent_62 (by decide) ?_
      refine j_istore_n 3 [some (va_rf x0), none, some (.int x2), some (.int (0 : Int32)), none, none, none] dX2_nextEvent_63 rfl (cz rfl) rfl rfl ?_
      exact pf_X2_nextEvent_L64 FU x0 x2 (0 : Int32) h5 hf
    · refine j_iload_n 2 dX2_nextEvent_35 rfl rfl ?_
      refine j_aload_n 0 dX2_nextEvent_36 rfl rfl ?_
      refine j_gR (ci := 1) (k := 3) rfl in_X2 rfl q792 dX2_nextEvent_37 hf (fun r7 hf => ?_)
      refine j_iload_n 3 dX2_nextEvent_40 rfl rfl ?_
      refine kc_X2_68 rfl rfl rfl (by simp [va_rf_cat, cat_i, cat_l]) dX2_nextEvent_41 hf (fun r9 h8 hf => ?_)
      refine j_kC (ci := 18) rfl q1272 dX2_nextEvent_46 hf (fun hf => ?_)
      refine j_gIN (ci := 18) (k := 4) rfl in_X21 rfl q1883 dX2_nextEvent_49 hf (fun v10 hf => ?_)
      refine j_mmin q1273 q306 q106 q307 rfl rfl (by decide) dX2_nextEvent_52 ?_
      refine j_istore_n 2 [some (va_rf x0), none, some (.int (if v10 < x2 then v10 else x2)), some (.int x3), none, none, none] dX2_nextEvent_55 rfl cn' rfl rfl ?_
      refine j_iinc (x3 + (1 : Int32)) [some (va_rf x0), none, some (.int (if v10 < x2 then v10 else x2)), some (.int (x3 + (1 : Int32))), none, none, none] dX2_nextEvent_56 rfl rfl (cz rfl) rfl rfl ?_
      refine j_goto 22 dX2_nextEvent_59 (by decide) ?_
      exact ih x0 (if v10 < x2 then v10 else x2) (x3 + (1 : Int32)) h8 hf
def f_X2_nextEvent_B19 (x0 : Option Nat) (t0 : Int32) (h : PH) : Option (Int32 × PH) := f_X2_nextEvent_L22 FU x0 t0 (0 : Int32) h
theorem pf_X2_nextEvent_B19 {Γ : GX} {D : va_G} {h0 : PH} {o : Int32 × PH} (x0 : Option Nat) (t0 : Int32) (h : PH) (hf : f_X2_nextEvent_B19 x0 t0 h = some o) : PF Γ mi_X2_nextEvent D h0 (QR Γ D h0 (ovi o.1) o.2) h 19 [some (va_rf x0), none, none, none, none, none, none] [.int t0] := by
  refine j_istore_n 2 [some (va_rf x0), none, some (.int t0), none, none, none, none] dX2_nextEvent_19 rfl cn' rfl rfl ?_
  refine j_iconst (0 : Int32) dX2_nextEvent_20 (by decide) ?_
  refine j_istore_n 3 [some (va_rf x0), none, some (.int t0), some (.int (0 : Int32)), none, none, none] dX2_nextEvent_21 rfl (cz rfl) rfl rfl ?_
  exact pf_X2_nextEvent_L22 FU x0 t0 (0 : Int32) h hf
def f_X2_nextEvent (r0 : Option Nat) (h0 : PH) : Option (Int32 × PH) := rv_ h0 r0 1 (cl_ (f_X2_firstMessage r0 h0) fun r2 h1 => (if r2 = none then (f_X2_nextEvent_B19 r0 (2147483647 : Int32) h1) else (gIN h1 r2 13 6 fun v3 => f_X2_nextEvent_B19 r0 v3 h1)))
theorem hyS_X2_nextEvent : yX2_nextEvent.cls ≠ "java/lang/invoke/MethodHandle" ∧ yX2_nextEvent.cls ≠ "java/lang/invoke/VarHandle" ∧ (parseMethodDescriptor yX2_nextEvent.desc).map (fun d => d.parameters.length) = some 0 := by decide +kernel
theorem hyV_X2_nextEvent : yX2_nextEvent.cls = RX2 ∧ yX2_nextEvent.cls ≠ "java/lang/invoke/MethodHandle" ∧ yX2_nextEvent.cls ≠ "java/lang/invoke/VarHandle" ∧ (parseMethodDescriptor yX2_nextEvent.desc).map (fun d => d.parameters.length) = some 0 := by decide +kernel
theorem c_X2_nextEvent {D : va_G} (r0 : Option Nat) {h0 : PH} (l : Launch) (hl : l.stackTraces = false) (x : Int32) (h1 : PH) (hf : f_X2_nextEvent r0 h0 = some (x, h1)) : CT l D yX2_nextEvent (ws_ yX2_nextEvent cX2_nextEvent 7 (Option.some FieldType.int)) 4 86 [va_rf r0] h0 (ovi x) h1 := by
  refine ct_of hl [some (va_rf r0), none, none, none, none, none, none] (by decide) (by rw [lgl]; simp [va_rf_cat, cat_i, cat_l]) (by simp [lv_args, vsL, va_rf_cat, cat_i, cat_l]) (fun Γ => ?_)
  obtain ⟨o, ho⟩ : ∃ o : Int32 × PH, o = (x, h1) := ⟨_, rfl⟩
  rw [← ho] at hf
  have e1 : x = o.1 := by rw [ho]
  have e2 : h1 = o.2 := by rw [ho]
  subst e1 e2
  clear ho
  show PF Γ mi_X2_nextEvent D h0 (QR Γ D h0 (ovi o.1) o.2) h0 0 [some (va_rf r0), none, none, none, none, none, none] []
  unfold f_X2_nextEvent at hf
  refine j_aload_n 0 dX2_nextEvent_0 rfl rfl ?_
  refine kc_X2_351 rfl rfl rfl (by decide) dX2_nextEvent_1 hf (fun r2 h1 hf => ?_)
  refine j_astore_n 1 [some (va_rf r0), some (va_rf r2), none, none, none, none, none] dX2_nextEvent_4 rfl (cz (va_rf_cat _)) rfl rfl ?_
  refine j_aload_n 1 dX2_nextEvent_5 rfl rfl ?_
  refine j_ifnonnull 15 dX2_nextEvent_6 (by decide) hf (fun c_ hf => ?_) (fun c_ hf => ?_)
  · refine j_aload_n 1 dX2_nextEvent_15 rfl rfl ?_
    refine j_gIN (ci := 13) (k := 6) rfl in_X16 rfl q1390 dX2_nextEvent_16 hf (fun v3 hf => ?_)
    refine j_weak [some (va_rf r0), none, none, none, none, none, none] (Wk.k (Wk.s (Wk.k (Wk.k (Wk.k (Wk.k (Wk.k Wk.n))))))) ?_
    exact pf_X2_nextEvent_B19 r0 v3 h1 hf
  · refine j_ldcw q1271 dX2_nextEvent_9 ?_
    refine j_goto 19 dX2_nextEvent_12 (by decide) ?_
    refine j_weak [some (va_rf r0), none, none, none, none, none, none] (Wk.k (Wk.s (Wk.k (Wk.k (Wk.k (Wk.k (Wk.k Wk.n))))))) ?_
    exact pf_X2_nextEvent_B19 r0 (2147483647 : Int32) h1 hf
abbrev mi_X2_decide : MI := (cX2_decide, 4, RX2, none, [], 8, 216, "decide")
def f_X2_decide_B51 (x0 : Option Nat) (x1 : Option Nat) (h : PH) : Option (Unit × PH) := gIN h x1 13 1 fun v8 => gI h x0 1 14 fun v9 => rv_ h x0 1 (cl_ (f_X2_note x0 (3 : Int32) v8 v9 h) fun _u h10 => asR (some (h10.2.1.1 2)) fun r11 => gIN h10 x1 13 1 fun v12 => nA h10 0 (0 : Int32) (.inl fun _ => 0) fun a13 h14 => rv_ h14 x0 1 (cl_ (f_X2_send x0 r11 v12 (some a13) h14) fun _u h15 => some ((), h15)))
theorem pf_X2_decide_B51 {Γ : GX} {D : va_G} {h0 : PH} {o : Unit × PH} (x0 : Option Nat) (x1 : Option Nat) (h : PH) (hf : f_X2_decide_B51 x0 x1 h = some o) : PF Γ mi_X2_decide D h0 (QR Γ D h0 (ovv o.1) o.2) h 51 [some (va_rf x0), some (va_rf x1), none, none] [] := by
  refine j_aload_n 0 dX2_decide_51 rfl rfl ?_
  refine j_iconst (3 : Int32) dX2_decide_52 (by decide) ?_
  refine j_aload_n 1 dX2_decide_53 rfl rfl ?_
  refine j_gIN (ci := 13) (k := 1) rfl in_X16 rfl q1380 dX2_decide_54 hf (fun v8 hf => ?_)
  refine j_aload_n 0 dX2_decide_57 rfl rfl ?_
  refine j_gI (ci := 1) (k := 14) rfl in_X2 rfl q812 dX2_decide_58 hf (fun v9 hf => ?_)
  refine kc_X2_254 rfl rfl rfl (by decide) dX2_decide_61 hf (fun _u h10 hf => ?_)
  refine j_aload_n 0 dX2_decide_64 rfl rfl ?_
  refine j_gsR (i := 2) rfl q1452 dX2_decide_65 hf (fun r11 hf => ?_)
  refine j_aload_n 1 dX2_decide_68 rfl rfl ?_
  refine j_gIN (ci := 13) (k := 1) rfl in_X16 rfl q1380 dX2_decide_69 hf (fun v12 hf => ?_)
  refine j_iconst (0 : Int32) dX2_decide_72 (by decide) ?_
  refine j_nA (t := 0) (atype := .int) (ty := .int) rfl (fun _ => rfl) (fun _ _ => rfl) (by decide) (fun _ _ h9 => h9) q679 dX2_decide_73 hf (fun a13 h14 hf => ?_)
  refine kc_X2_203 rfl rfl rfl (by decide) dX2_decide_75 hf (fun _u h15 hf => ?_)
  have e9 := Option.some.inj hf
  subst e9
  exact j_vret rfl dX2_decide_78
def f_X2_decide_B124 (x0 : Option Nat) (x1 : Option Nat) (t0 : Option Nat) (t1 : Int32) (h : PH) : Option (Unit × PH) := gIN h x1 13 1 fun v23 => gI h x0 1 14 fun v24 => rv_ h t0 1 (cl_ (f_X2_note t0 t1 v23 v24 h) fun _u h25 => asR (some (h25.2.1.1 1)) fun r26 => gIN h25 x1 13 1 fun v27 => nA h25 0 (2 : Int32) (.inl fun _ => 0) fun a28 h29 => gIN h29 x1 13 3 fun v30 => sI h29 (some a28) 0 (0 : Int32) v30 fun h31 => gI h31 x0 1 14 fun v32 => sI h31 (some a28) 0 (1 : Int32) v32 fun h33 => rv_ h33 x0 1 (cl_ (f_X2_send x0 r26 v27 (some a28) h33) fun _u h34 => some ((), h34)))
theorem pf_X2_decide_B124 {Γ : GX} {D : va_G} {h0 : PH} {o : Unit × PH} (x0 : Option Nat) (x1 : Option Nat) (t0 : Option Nat) (t1 : Int32) (h : PH) (hf : f_X2_decide_B124 x0 x1 t0 t1 h = some o) : PF Γ mi_X2_decide D h0 (QR Γ D h0 (ovv o.1) o.2) h 124 [some (va_rf x0), some (va_rf x1), none, none] [.int t1, va_rf t0] := by
  refine j_aload_n 1 dX2_decide_124 rfl rfl ?_
  refine j_gIN (ci := 13) (k := 1) rfl in_X16 rfl q1380 dX2_decide_125 hf (fun v23 hf => ?_)
  refine j_aload_n 0 dX2_decide_128 rfl rfl ?_
  refine j_gI (ci := 1) (k := 14) rfl in_X2 rfl q812 dX2_decide_129 hf (fun v24 hf => ?_)
  refine kc_X2_254 rfl rfl rfl (by decide) dX2_decide_132 hf (fun _u h25 hf => ?_)
  refine j_aload_n 0 dX2_decide_135 rfl rfl ?_
  refine j_gsR (i := 1) rfl q1465 dX2_decide_136 hf (fun r26 hf => ?_)
  refine j_aload_n 1 dX2_decide_139 rfl rfl ?_
  refine j_gIN (ci := 13) (k := 1) rfl in_X16 rfl q1380 dX2_decide_140 hf (fun v27 hf => ?_)
  refine j_iconst (2 : Int32) dX2_decide_143 (by decide) ?_
  refine j_nA (t := 0) (atype := .int) (ty := .int) rfl (fun _ => rfl) (fun _ _ => rfl) (by decide) (fun _ _ h9 => h9) q679 dX2_decide_144 hf (fun a28 h29 hf => ?_)
  refine j_dup dX2_decide_146 (va_rf_cat _) ?_
  refine j_iconst (0 : Int32) dX2_decide_147 (by decide) ?_
  refine j_aload_n 1 dX2_decide_148 rfl rfl ?_
  refine j_gIN (ci := 13) (k := 3) rfl in_X16 rfl q1384 dX2_decide_149 hf (fun v30 hf => ?_)
  refine j_iast dX2_decide_152 hf (fun h31 hf => ?_)
  refine j_dup dX2_decide_153 (va_rf_cat _) ?_
  refine j_iconst (1 : Int32) dX2_decide_154 (by decide) ?_
  refine j_aload_n 0 dX2_decide_155 rfl rfl ?_
  refine j_gI (ci := 1) (k := 14) rfl in_X2 rfl q812 dX2_decide_156 hf (fun v32 hf => ?_)
  refine j_iast dX2_decide_159 hf (fun h33 hf => ?_)
  refine kc_X2_203 rfl rfl rfl (by decide) dX2_decide_160 hf (fun _u h34 hf => ?_)
  have e9 := Option.some.inj hf
  subst e9
  exact j_vret rfl dX2_decide_163
def f_X2_decide_B93 (x0 : Option Nat) (x1 : Option Nat) (x2 : Int32) (x3 : Int32) (h : PH) : Option (Unit × PH) := gIN h x1 13 1 fun v18 => pV h x0 1 12 (.int v18) fun h19 => gR h19 x0 1 0 fun r20 => gIN h19 r20 2 3 fun v21 => pV h19 x0 1 13 (.int (x2 + v21)) fun h22 => (if x3 = 0 then (f_X2_decide_B124 x0 x1 x0 (1 : Int32) h22) else (f_X2_decide_B124 x0 x1 x0 (2 : Int32) h22))
theorem pf_X2_decide_B93 {Γ : GX} {D : va_G} {h0 : PH} {o : Unit × PH} (x0 : Option Nat) (x1 : Option Nat) (x2 : Int32) (x3 : Int32) (h : PH) (hf : f_X2_decide_B93 x0 x1 x2 x3 h = some o) : PF Γ mi_X2_decide D h0 (QR Γ D h0 (ovv o.1) o.2) h 93 [some (va_rf x0), some (va_rf x1), some (.int x2), some (.int x3)] [] := by
  refine j_aload_n 0 dX2_decide_93 rfl rfl ?_
  refine j_aload_n 1 dX2_decide_94 rfl rfl ?_
  refine j_gIN (ci := 13) (k := 1) rfl in_X16 rfl q1380 dX2_decide_95 hf (fun v18 hf => ?_)
  refine j_pV (ci := 1) (k := 12) tyX2 tyX2_ok nmX2 rfl in_X2 rfl q808 (Or.inl rfl) rfl (fit_i _) dX2_decide_98 hf (fun h19 hf => ?_)
  refine j_aload_n 0 dX2_decide_101 rfl rfl ?_
  refine j_iload_n 2 dX2_decide_102 rfl rfl ?_
  refine j_aload_n 0 dX2_decide_103 rfl rfl ?_
  refine j_gR (ci := 1) (k := 0) rfl in_X2 rfl q786 dX2_decide_104 hf (fun r20 hf => ?_)
  refine j_gIN (ci := 2) (k := 3) rfl in_X3 rfl q531 dX2_decide_107 hf (fun v21 hf => ?_)
  refine j_iadd dX2_decide_110 ?_
  refine j_pV (ci := 1) (k := 13) tyX2 tyX2_ok nmX2 rfl in_X2 rfl q810 (Or.inl rfl) rfl (fit_i _) dX2_decide_111 hf (fun h22 hf => ?_)
  refine j_aload_n 0 dX2_decide_114 rfl rfl ?_
  refine j_iload_n 3 dX2_decide_115 rfl rfl ?_
  refine j_if_eq 123 dX2_decide_116 (by decide) hf (fun c_ hf => ?_) (fun c_ hf => ?_)
  · refine j_iconst (1 : Int32) dX2_decide_123 (by decide) ?_
    refine j_weak [some (va_rf x0), some (va_rf x1), none, none] (Wk.k (Wk.k (Wk.s (Wk.s Wk.n)))) ?_
    exact pf_X2_decide_B124 x0 x1 x0 (1 : Int32) h22 hf
  · refine j_iconst (2 : Int32) dX2_decide_119 (by decide) ?_
    refine j_goto 124 dX2_decide_120 (by decide) ?_
    refine j_weak [some (va_rf x0), some (va_rf x1), none, none] (Wk.k (Wk.k (Wk.s (Wk.s Wk.n)))) ?_
    exact pf_X2_decide_B124 x0 x1 x0 (2 : Int32) h22 hf
def f_X2_decide_B79 (x0 : Option Nat) (x1 : Option Nat) (x2 : Int32) (x3 : Int32) (h : PH) : Option (Unit × PH) := (if x3 = 0 then (gI h x0 1 14 fun v16 => pV h x0 1 14 (.int (v16 + (1 : Int32))) fun h17 => f_X2_decide_B93 x0 x1 x2 x3 h17) else (f_X2_decide_B93 x0 x1 x2 x3 h))
theorem pf_X2_decide_B79 {Γ : GX} {D : va_G} {h0 : PH} {o : Unit × PH} (x0 : Option Nat) (x1 : Option Nat) (x2 : Int32) (x3 : Int32) (h : PH) (hf : f_X2_decide_B79 x0 x1 x2 x3 h = some o) : PF Γ mi_X2_decide D h0 (QR Γ D h0 (ovv o.1) o.2) h 79 [some (va_rf x0), some (va_rf x1), some (.int x2), some (.int x3)] [] := by
  refine j_iload_n 3 dX2_decide_79 rfl rfl ?_
  refine j_if_ne 93 dX2_decide_80 (by decide) hf (fun c_ hf => ?_) (fun c_ hf => ?_)
  · exact pf_X2_decide_B93 x0 x1 x2 x3 h hf
  · refine j_aload_n 0 dX2_decide_83 rfl rfl ?_
    refine j_dup dX2_decide_84 (va_rf_cat _) ?_
    refine j_gI (ci := 1) (k := 14) rfl in_X2 rfl q812 dX2_decide_85 hf (fun v16 hf => ?_)
    refine j_iconst (1 : Int32) dX2_decide_88 (by decide) ?_
    refine j_iadd dX2_decide_89 ?_
    refine j_pV (ci := 1) (k := 14) tyX2 tyX2_ok nmX2 rfl in_X2 rfl q812 (Or.inl rfl) rfl (fit_i _) dX2_decide_90 hf (fun h17 hf => ?_)
    exact pf_X2_decide_B93 x0 x1 x2 x3 h17 hf
def f_X2_decide_B27 (x0 : Option Nat) (x1 : Option Nat) (x2 : Int32) (t0 : Int32) (h : PH) : Option (Unit × PH) := gI h x0 1 15 fun v5 => (if x2 < v5 then (f_X2_decide_B51 x0 x1 h) else ((if t0 = 0 then (f_X2_decide_B79 x0 x1 x2 t0 h) else (gI h x0 1 12 fun v6 => gIN h x1 13 1 fun v7 => (if v6 = v7 then (f_X2_decide_B79 x0 x1 x2 t0 h) else (f_X2_decide_B51 x0 x1 h))))))
theorem pf_X2_decide_B27 {Γ : GX} {D : va_G} {h0 : PH} {o : Unit × PH} (x0 : Option Nat) (x1 : Option Nat) (x2 : Int32) (t0 : Int32) (h : PH) (hf : f_X2_decide_B27 x0 x1 x2 t0 h = some o) : PF Γ mi_X2_decide D h0 (QR Γ D h0 (ovv o.1) o.2) h 27 [some (va_rf x0), some (va_rf x1), some (.int x2), none] [.int t0] := by
  refine j_istore_n 3 [some (va_rf x0), some (va_rf x1), some (.int x2), some (.int t0)] dX2_decide_27 rfl (cz rfl) rfl rfl ?_
  refine j_iload_n 2 dX2_decide_28 rfl rfl ?_
  refine j_aload_n 0 dX2_decide_29 rfl rfl ?_
  refine j_gI (ci := 1) (k := 15) rfl in_X2 rfl q814 dX2_decide_30 hf (fun v5 hf => ?_)
  refine j_icmp_lt 51 dX2_decide_33 (by decide) hf (fun c_ hf => ?_) (fun c_ hf => ?_)
  · refine j_weak [some (va_rf x0), some (va_rf x1), none, none] (Wk.k (Wk.k (Wk.s (Wk.s Wk.n)))) ?_
    exact pf_X2_decide_B51 x0 x1 h hf
  · refine j_iload_n 3 dX2_decide_36 rfl rfl ?_
    refine j_if_eq 79 dX2_decide_37 (by decide) hf (fun c_ hf => ?_) (fun c_ hf => ?_)
    · exact pf_X2_decide_B79 x0 x1 x2 t0 h hf
    · refine j_aload_n 0 dX2_decide_40 rfl rfl ?_
      refine j_gI (ci := 1) (k := 12) rfl in_X2 rfl q808 dX2_decide_41 hf (fun v6 hf => ?_)
      refine j_aload_n 1 dX2_decide_44 rfl rfl ?_
      refine j_gIN (ci := 13) (k := 1) rfl in_X16 rfl q1380 dX2_decide_45 hf (fun v7 hf => ?_)
      refine j_icmp_eq 79 dX2_decide_48 (by decide) hf (fun c_ hf => ?_) (fun c_ hf => ?_)
      · exact pf_X2_decide_B79 x0 x1 x2 t0 h hf
      · refine j_weak [some (va_rf x0), some (va_rf x1), none, none] (Wk.k (Wk.k (Wk.s (Wk.s Wk.n)))) ?_
        exact pf_X2_decide_B51 x0 x1 h hf
def f_X2_decide_B26 (x0 : Option Nat) (x1 : Option Nat) (x2 : Int32) (h : PH) : Option (Unit × PH) := f_X2_decide_B27 x0 x1 x2 (0 : Int32) h
theorem pf_X2_decide_B26 {Γ : GX} {D : va_G} {h0 : PH} {o : Unit × PH} (x0 : Option Nat) (x1 : Option Nat) (x2 : Int32) (h : PH) (hf : f_X2_decide_B26 x0 x1 x2 h = some o) : PF Γ mi_X2_decide D h0 (QR Γ D h0 (ovv o.1) o.2) h 26 [some (va_rf x0), some (va_rf x1), some (.int x2), none] [] := by
  refine j_iconst (0 : Int32) dX2_decide_26 (by decide) ?_
  exact pf_X2_decide_B27 x0 x1 x2 (0 : Int32) h hf
def f_X2_decide (r0 : Option Nat) (p0 : Option Nat) (h0 : PH) : Option (Unit × PH) := rv_ h0 r0 1 (cl_ (f_X2_serverClock r0 h0) fun v2 h1 => gI h1 r0 1 12 fun v3 => (if v3 = (-4 : Int32) then (f_X2_decide_B26 r0 p0 v2 h1) else (gI h1 r0 1 13 fun v4 => (if v4 ≤ v2 then (f_X2_decide_B26 r0 p0 v2 h1) else (f_X2_decide_B27 r0 p0 v2 (1 : Int32) h1)))))
theorem hyS_X2_decide : yX2_decide.cls ≠ "java/lang/invoke/MethodHandle" ∧ yX2_decide.cls ≠ "java/lang/invoke/VarHandle" ∧ (parseMethodDescriptor yX2_decide.desc).map (fun d => d.parameters.length) = some 1 := by decide +kernel
theorem hyV_X2_decide : yX2_decide.cls = RX2 ∧ yX2_decide.cls ≠ "java/lang/invoke/MethodHandle" ∧ yX2_decide.cls ≠ "java/lang/invoke/VarHandle" ∧ (parseMethodDescriptor yX2_decide.desc).map (fun d => d.parameters.length) = some 1 := by decide +kernel
theorem c_X2_decide {D : va_G} (r0 : Option Nat) (p0 : Option Nat) {h0 : PH} (l : Launch) (hl : l.stackTraces = false) (x : Unit) (h1 : PH) (hf : f_X2_decide r0 p0 h0 = some (x, h1)) : CT l D yX2_decide (ws_ yX2_decide cX2_decide 4 none) 8 216 [va_rf r0, va_rf p0] h0 (ovv x) h1 := by
  refine ct_of hl [some (va_rf r0), some (va_rf p0), none, none] (by decide) (by rw [lgl]; simp [va_rf_cat, cat_i, cat_l]) (by simp [lv_args, vsL, va_rf_cat, cat_i, cat_l]) (fun Γ => ?_)
  obtain ⟨o, ho⟩ : ∃ o : Unit × PH, o = (x, h1) := ⟨_, rfl⟩
  rw [← ho] at hf
  have e1 : x = o.1 := by rw [ho]
  have e2 : h1 = o.2 := by rw [ho]
  subst e1 e2
  clear ho
  show PF Γ mi_X2_decide D h0 (QR Γ D h0 (ovv o.1) o.2) h0 0 [some (va_rf r0), some (va_rf p0), none, none] []
  unfold f_X2_decide at hf
  refine j_aload_n 0 dX2_decide_0 rfl rfl ?_
  refine kc_X2_265 rfl rfl rfl (by decide) dX2_decide_1 hf (fun v2 h1 hf => ?_)
  refine j_istore_n 2 [some (va_rf r0), some (va_rf p0), some (.int v2), none] dX2_decide_4 rfl (cz (va_rf_cat _)) rfl rfl ?_
  refine j_aload_n 0 dX2_decide_5 rfl rfl ?_
  refine j_gI (ci := 1) (k := 12) rfl in_X2 rfl q808 dX2_decide_6 hf (fun v3 hf => ?_)
  refine j_bipush (-4 : Int32) dX2_decide_9 (by decide) ?_
  refine j_icmp_eq 26 dX2_decide_11 (by decide) hf (fun c_ hf => ?_) (fun c_ hf => ?_)
  · exact pf_X2_decide_B26 r0 p0 v2 h1 hf
  · refine j_iload_n 2 dX2_decide_14 rfl rfl ?_
    refine j_aload_n 0 dX2_decide_15 rfl rfl ?_
    refine j_gI (ci := 1) (k := 13) rfl in_X2 rfl q810 dX2_decide_16 hf (fun v4 hf => ?_)
    refine j_icmp_ge 26 dX2_decide_19 (by decide) hf (fun c_ hf => ?_) (fun c_ hf => ?_)
    · exact pf_X2_decide_B26 r0 p0 v2 h1 hf
    · refine j_iconst (1 : Int32) dX2_decide_22 (by decide) ?_
      refine j_goto 27 dX2_decide_23 (by decide) ?_
      exact pf_X2_decide_B27 r0 p0 v2 (1 : Int32) h1 hf
theorem kc_X2_277 {Γ : GX} {I : MI} {D : va_G} {h0 : PH} {Q : State → Prop} {h : PH} {pc : Nat} {vs : List (Option Value)} {rest : List Value} {β : Type} {o : β} {r : Option Nat} {p0 : Option Nat} {K : (((Nat × Nat) ⊕ Unit) → PH → Option β)} (hI : I.2.2.1 = RX2) (hfr : Nat.ble 9 I.2.2.2.2.2.1 = true) (hlo : Nat.ble 238 I.2.2.2.2.2.2.1 = true) (hW : (rest.map fun v => v.category).sum ≤ 8) (hd : decode I.1 pc = .ok (.invokevirtual 277, 3)) (hf : rv_ h r 1 (cl_ (f_X2_carryOut r p0 h) K) = some o) (kk : ∀ (x : Unit) (h1 : PH), K (.inr x) h1 = some o → PF Γ I D h0 Q h1 (pc + 3) vs (rest)) (kx : ∀ (ci q : Nat) (h1 : PH) (fs : List Value), h1.1 q = some (.inr (ci, fs)) → K (.inl (ci, q)) h1 = some o → PX Γ I D h0 Q h1 pc vs q) : PF Γ I D h0 Q h pc vs (va_rf p0 :: va_rf r :: rest) := by
  obtain ⟨cc, nL, own, rt, xt, fr, lo, nm⟩ := I
  cases hI
  exact j_xVWv (n := 1) (y := yX2_carryOut) (cc2 := cX2_carryOut) (As := [va_rf p0]) (C := RX2) (ci := 1) rfl (lw_VW q1471 q1473 qs23 q91 q1474) hyV_X2_carryOut hfr hlo rfl hW hd (c_X2_carryOut r p0) hf _ rfl kk kx
theorem kc_X2_282 {Γ : GX} {I : MI} {D : va_G} {h0 : PH} {Q : State → Prop} {h : PH} {pc : Nat} {vs : List (Option Value)} {rest : List Value} {β : Type} {o : β} {r : Option Nat}  {K : ((Int32) → PH → Option β)} (hI : I.2.2.1 = RX2) (hfr : Nat.ble 2 I.2.2.2.2.2.1 = true) (hlo : Nat.ble 44 I.2.2.2.2.2.2.1 = true) (hW : (rest.map fun v => v.category).sum ≤ 8) (hd : decode I.1 pc = .ok (.invokevirtual 282, 3)) (hf : rv_ h r 16 (cl_ (f_X19_token r h) K) = some o) (kk : ∀ (x : Int32) (h1 : PH), K x h1 = some o → PF Γ I D h0 Q h1 (pc + 3) vs (.int x :: rest)) : PF Γ I D h0 Q h pc vs (va_rf r :: rest) := by
  obtain ⟨cc, nL, own, rt, xt, fr, lo, nm⟩ := I
  cases hI
  exact j_cVi (n := 0) (y := yX19_token) (cc2 := cX19_token) (As := []) (C := RX19) (ci := 16) rfl (lw_V q1526 q1527 q1528 q130 q1529) hyV_X19_token hfr hlo rfl hW hd (c_X19_token r) hf _ rfl kk
abbrev mi_X2_atStorage : MI := (cX2_atStorage, 3, RX2, none, tableOf [(0, 5, 8, 280)], 9, 238, "atStorage")
def f_X2_atStorage (r0 : Option Nat) (p0 : Option Nat) (h0 : PH) : Option (Unit × PH) := rv_ h0 r0 1 (cl_ (f_X2_carryOut r0 p0 h0) fun z9 h1 => match z9 with | .inl (ci9, q9) => ((if ci9 = 16 then (if pbase h1 ≤ q9 then (gIN h1 p0 13 1 fun v2 => rv_ h1 (some q9) 16 (cl_ (f_X19_token (some q9) h1) fun v4 h3 => rv_ h3 r0 1 (cl_ (f_X2_note r0 (5 : Int32) v2 v4 h3) fun _u h5 => rv_ h5 r0 1 (cl_ (f_X2_watch r0 p0 (1 : Int32) h5) fun _u h6 => asR (some (h6.2.1.1 8)) fun r7 => gIN h6 p0 13 1 fun v8 => nA h6 0 (1 : Int32) (.inl fun _ => 0) fun a9 h10 => rv_ h10 (some q9) 16 (cl_ (f_X19_token (some q9) h10) fun v12 h11 => sI h11 (some a9) 0 (0 : Int32) v12 fun h13 => rv_ h13 r0 1 (cl_ (f_X2_send r0 r7 v8 (some a9) h13) fun _u h14 => some ((), h14))))))) else none) else none)) | .inr _u => (some ((), h1)))
theorem hyS_X2_atStorage : yX2_atStorage.cls ≠ "java/lang/invoke/MethodHandle" ∧ yX2_atStorage.cls ≠ "java/lang/invoke/VarHandle" ∧ (parseMethodDescriptor yX2_atStorage.desc).map (fun d => d.parameters.length) = some 1 := by decide +kernel
theorem hyV_X2_atStorage : yX2_atStorage.cls = RX2 ∧ yX2_atStorage.cls ≠ "java/lang/invoke/MethodHandle" ∧ yX2_atStorage.cls ≠ "java/lang/invoke/VarHandle" ∧ (parseMethodDescriptor yX2_atStorage.desc).map (fun d => d.parameters.length) = some 1 := by decide +kernel
theorem c_X2_atStorage {D : va_G} (r0 : Option Nat) (p0 : Option Nat) {h0 : PH} (l : Launch) (hl : l.stackTraces = false) (x : Unit) (h1 : PH) (hf : f_X2_atStorage r0 p0 h0 = some (x, h1)) : CT l D yX2_atStorage (wsW_ yX2_atStorage cX2_atStorage 3 none [(0, 5, 8, 280)]) 9 238 [va_rf r0, va_rf p0] h0 (ovv x) h1 := by
  refine ct_ofH hl [some (va_rf r0), some (va_rf p0), none] (by decide) (by rw [lgl]; simp [va_rf_cat, cat_i, cat_l]) (by simp [lv_args, vsL, va_rf_cat, cat_i, cat_l]) (fun Γ => ?_)
  obtain ⟨o, ho⟩ : ∃ o : Unit × PH, o = (x, h1) := ⟨_, rfl⟩
  rw [← ho] at hf
  have e1 : x = o.1 := by rw [ho]
  have e2 : h1 = o.2 := by rw [ho]
  subst e1 e2
  clear ho
  show PF Γ mi_X2_atStorage D h0 (QR Γ D h0 (ovv o.1) o.2) h0 0 [some (va_rf r0), some (va_rf p0), none] []
  unfold f_X2_atStorage at hf
  refine j_aload_n 0 dX2_atStorage_0 rfl rfl ?_
  refine j_aload_n 1 dX2_atStorage_1 rfl rfl ?_
  refine kc_X2_277 rfl rfl rfl (by decide) dX2_atStorage_2 hf (fun _u h1 hf => ?_) (fun ci9 q9 h1 fs9 he9 hf => ?_)
  · refine j_goto 49 dX2_atStorage_5 (by decide) ?_
    have e9 := Option.some.inj hf
    subst e9
    exact j_vret rfl dX2_atStorage_49
  · by_cases x280 : ci9 = 16
    · subst x280
      replace hf := if_t hf rfl
      obtain ⟨hb9, hf⟩ := if_none hf
      refine j_catch (ci := 16) [] ⟨0, 5, 8, 280⟩ [] rfl (fun _ h => absurd h List.not_mem_nil) rfl (by decide) q1470 q1513 hb9 he9 ?_
      refine j_astore_n 2 [some (va_rf r0), some (va_rf p0), some (va_rf (some q9))] dX2_atStorage_8 rfl (cz (va_rf_cat _)) rfl rfl ?_
      refine j_aload_n 0 dX2_atStorage_9 rfl rfl ?_
      refine j_iconst (5 : Int32) dX2_atStorage_10 (by decide) ?_
      refine j_aload_n 1 dX2_atStorage_11 rfl rfl ?_
      refine j_gIN (ci := 13) (k := 1) rfl in_X16 rfl q1380 dX2_atStorage_12 hf (fun v2 hf => ?_)
      refine j_aload_n 2 dX2_atStorage_15 rfl rfl ?_
      refine kc_X2_282 rfl rfl rfl (by simp [va_rf_cat, cat_i, cat_l]) dX2_atStorage_16 hf (fun v4 h3 hf => ?_)
      refine kc_X2_254 rfl rfl rfl (by decide) dX2_atStorage_19 hf (fun _u h5 hf => ?_)
      refine j_aload_n 0 dX2_atStorage_22 rfl rfl ?_
      refine j_aload_n 1 dX2_atStorage_23 rfl rfl ?_
      refine j_iconst (1 : Int32) dX2_atStorage_24 (by decide) ?_
      refine kc_X2_226 rfl rfl rfl (by decide) dX2_atStorage_25 hf (fun _u h6 hf => ?_)
      refine j_aload_n 0 dX2_atStorage_28 rfl rfl ?_
      refine j_gsR (i := 8) rfl q1534 dX2_atStorage_29 hf (fun r7 hf => ?_)
      refine j_aload_n 1 dX2_atStorage_32 rfl rfl ?_
      refine j_gIN (ci := 13) (k := 1) rfl in_X16 rfl q1380 dX2_atStorage_33 hf (fun v8 hf => ?_)
      refine j_iconst (1 : Int32) dX2_atStorage_36 (by decide) ?_
      refine j_nA (t := 0) (atype := .int) (ty := .int) rfl (fun _ => rfl) (fun _ _ => rfl) (by decide) (fun _ _ h9 => h9) q679 dX2_atStorage_37 hf (fun a9 h10 hf => ?_)
      refine j_dup dX2_atStorage_39 (va_rf_cat _) ?_
      refine j_iconst (0 : Int32) dX2_atStorage_40 (by decide) ?_
      refine j_aload_n 2 dX2_atStorage_41 rfl rfl ?_
      refine kc_X2_282 rfl rfl rfl (by simp [va_rf_cat, cat_i, cat_l]) dX2_atStorage_42 hf (fun v12 h11 hf => ?_)
      refine j_iast dX2_atStorage_45 hf (fun h13 hf => ?_)
      refine kc_X2_203 rfl rfl rfl (by decide) dX2_atStorage_46 hf (fun _u h14 hf => ?_)
      have e9 := Option.some.inj hf
      subst e9
      exact j_vret rfl dX2_atStorage_49
    · replace hf := if_f hf x280
      cases hf
theorem kc_X2_245_X15 {Γ : GX} {I : MI} {D : va_G} {h0 : PH} {Q : State → Prop} {h : PH} {pc : Nat} {vs : List (Option Value)} {rest : List Value} {β : Type} {o : β} {r : Option Nat}  {K : ((Int32) → PH → Option β)} (hI : I.2.2.1 = RX2) (hfr : Nat.ble 1 I.2.2.2.2.2.1 = true) (hlo : Nat.ble 20 I.2.2.2.2.2.2.1 = true) (hW : (rest.map fun v => v.category).sum ≤ 8) (hd : decode I.1 pc = .ok (.invokevirtual 245, 3)) (hf : rv_ h r 25 (cl_ (f_J19_ordinal_X15 r h) K) = some o) (kk : ∀ (x : Int32) (h1 : PH), K x h1 = some o → PF Γ I D h0 Q h1 (pc + 3) vs (.int x :: rest)) : PF Γ I D h0 Q h pc vs (va_rf r :: rest) := by
  obtain ⟨cc, nL, own, rt, xt, fr, lo, nm⟩ := I
  cases hI
  exact j_cUi (n := 0) (y := yJ19_ordinal) (cc2 := cJ19_ordinal) (As := []) (ci := 25) (x9 := ⟨"LeaderLeases$Kind", "ordinal", "()I"⟩) (owner := RJ19) (lw_U (C := RX15) q1412 q1356 q1358 q1359 q125 q1360) rfl (by decide +kernel) hfr hlo rfl hW hd (c_J19_ordinal_X15 r) hf _ rfl kk
theorem kc_X2_315 {Γ : GX} {I : MI} {D : va_G} {h0 : PH} {Q : State → Prop} {h : PH} {pc : Nat} {vs : List (Option Value)} {rest : List Value} {β : Type} {o : β} {r : Option Nat} {p0 : Option Nat} {p1 : Option Nat} {K : ((Unit) → PH → Option β)} (hI : I.2.2.1 = RX2) (hfr : Nat.ble 9 I.2.2.2.2.2.1 = true) (hlo : Nat.ble 240 I.2.2.2.2.2.2.1 = true) (hW : (rest.map fun v => v.category).sum ≤ 8) (hd : decode I.1 pc = .ok (.invokevirtual 315, 3)) (hf : rv_ h r 1 (cl_ (f_X2_granted r p0 p1 h) K) = some o) (kk : ∀ (x : Unit) (h1 : PH), K x h1 = some o → PF Γ I D h0 Q h1 (pc + 3) vs (rest)) : PF Γ I D h0 Q h pc vs (va_rf p1 :: va_rf p0 :: va_rf r :: rest) := by
  obtain ⟨cc, nL, own, rt, xt, fr, lo, nm⟩ := I
  cases hI
  exact j_cVv (n := 2) (y := yX2_granted) (cc2 := cX2_granted) (As := [va_rf p0, va_rf p1]) (C := RX2) (ci := 1) rfl (lw_V q1540 q1542 qs26 q91 q1543) hyV_X2_granted hfr hlo rfl hW hd (c_X2_granted r p0 p1) hf _ rfl kk
theorem kc_X2_323 {Γ : GX} {I : MI} {D : va_G} {h0 : PH} {Q : State → Prop} {h : PH} {pc : Nat} {vs : List (Option Value)} {rest : List Value} {β : Type} {o : β} {r : Option Nat}  {K : ((Unit) → PH → Option β)} (hI : I.2.2.1 = RX2) (hfr : Nat.ble 1 I.2.2.2.2.2.1 = true) (hlo : Nat.ble 20 I.2.2.2.2.2.2.1 = true) (hW : (rest.map fun v => v.category).sum ≤ 8) (hd : decode I.1 pc = .ok (.invokevirtual 323, 3)) (hf : rv_ h r 5 (cl_ (f_X6_loseToken r h) K) = some o) (kk : ∀ (x : Unit) (h1 : PH), K x h1 = some o → PF Γ I D h0 Q h1 (pc + 3) vs (rest)) : PF Γ I D h0 Q h pc vs (va_rf r :: rest) := by
  obtain ⟨cc, nL, own, rt, xt, fr, lo, nm⟩ := I
  cases hI
  exact j_cVv (n := 0) (y := yX6_loseToken) (cc2 := cX6_loseToken) (As := []) (C := RX6) (ci := 5) rfl (lw_V q1552 q1553 q1554 q115 q1555) hyV_X6_loseToken hfr hlo rfl hW hd (c_X6_loseToken r) hf _ rfl kk
theorem kc_X2_326 {Γ : GX} {I : MI} {D : va_G} {h0 : PH} {Q : State → Prop} {h : PH} {pc : Nat} {vs : List (Option Value)} {rest : List Value} {β : Type} {o : β} {r : Option Nat} {p0 : Int32} {p1 : Int32} {K : ((Unit) → PH → Option β)} (hI : I.2.2.1 = RX2) (hfr : Nat.ble 1 I.2.2.2.2.2.1 = true) (hlo : Nat.ble 22 I.2.2.2.2.2.2.1 = true) (hW : (rest.map fun v => v.category).sum ≤ 8) (hd : decode I.1 pc = .ok (.invokevirtual 326, 3)) (hf : rv_ h r 5 (cl_ (f_X6_cache r p0 p1 h) K) = some o) (kk : ∀ (x : Unit) (h1 : PH), K x h1 = some o → PF Γ I D h0 Q h1 (pc + 3) vs (rest)) : PF Γ I D h0 Q h pc vs (.int p1 :: .int p0 :: va_rf r :: rest) := by
  obtain ⟨cc, nL, own, rt, xt, fr, lo, nm⟩ := I
  cases hI
  exact j_cVv (n := 2) (y := yX6_cache) (cc2 := cX6_cache) (As := [.int p0, .int p1]) (C := RX6) (ci := 5) rfl (lw_V q1556 q1557 q1558 q115 q1559) hyV_X6_cache hfr hlo rfl hW hd (c_X6_cache r p0 p1) hf _ rfl kk
abbrev mi_X2_atNode : MI := (cX2_atNode, 3, RX2, none, [], 9, 240, "atNode")
def f_X2_atNode_B127  (h : PH) : Option (Unit × PH) := some ((), h)
theorem pf_X2_atNode_B127 {Γ : GX} {D : va_G} {h0 : PH} {o : Unit × PH}  (h : PH) (hf : f_X2_atNode_B127  h = some o) : PF Γ mi_X2_atNode D h0 (QR Γ D h0 (ovv o.1) o.2) h 127 [none, none, none] [] := by
  have e9 := Option.some.inj hf
  subst e9
  exact j_vret rfl dX2_atNode_127
def f_X2_atNode (r0 : Option Nat) (p0 : Option Nat) (p1 : Option Nat) (h0 : PH) : Option (Unit × PH) := gRN h0 p0 13 0 fun r1 => rv_ h0 r1 25 (cl_ (f_J19_ordinal_X15 r1 h0) fun v3 h2 => (if v3 = (1 : Int32) then (rv_ h2 r0 1 (cl_ (f_X2_granted r0 p0 p1 h2) fun _u h4 => f_X2_atNode_B127 h4)) else (if v3 = (2 : Int32) then (gIN h2 p1 5 3 fun v5 => (if v5 = 0 then (f_X2_atNode_B127 h2) else (gI h2 r0 1 8 fun v6 => gRN h2 p1 5 0 fun r7 => gI h2 r0 1 8 fun v8 => rv_ h2 r7 3 (cl_ (f_X4_at r7 v8 h2) fun v10 h9 => gR h9 r0 1 0 fun r11 => gIN h9 r11 2 6 fun v12 => rv_ h9 p1 5 (cl_ (f_X6_setTimer p1 v6 (v10 + v12) h9) fun _u h13 => f_X2_atNode_B127 h13))))) else (if v3 = (8 : Int32) then (gIN h2 p1 5 6 fun v14 => gIN h2 p0 13 3 fun v15 => (if v14 = v15 then (rv_ h2 p1 5 (cl_ (f_X6_loseToken p1 h2) fun _u h16 => f_X2_atNode_B127 h16)) else (f_X2_atNode_B127 h2))) else gIN h2 p1 5 6 fun v17 => gIN h2 p0 13 3 fun v18 => (if v17 = v18 then (gIN h2 p0 13 4 fun v19 => gIN h2 p0 13 5 fun v20 => rv_ h2 p1 5 (cl_ (f_X6_cache p1 v19 v20 h2) fun _u h21 => f_X2_atNode_B127 h21)) else (f_X2_atNode_B127 h2))))))
theorem hyS_X2_atNode : yX2_atNode.cls ≠ "java/lang/invoke/MethodHandle" ∧ yX2_atNode.cls ≠ "java/lang/invoke/VarHandle" ∧ (parseMethodDescriptor yX2_atNode.desc).map (fun d => d.parameters.length) = some 2 := by decide +kernel
theorem hyV_X2_atNode : yX2_atNode.cls = RX2 ∧ yX2_atNode.cls ≠ "java/lang/invoke/MethodHandle" ∧ yX2_atNode.cls ≠ "java/lang/invoke/VarHandle" ∧ (parseMethodDescriptor yX2_atNode.desc).map (fun d => d.parameters.length) = some 2 := by decide +kernel
theorem c_X2_atNode {D : va_G} (r0 : Option Nat) (p0 : Option Nat) (p1 : Option Nat) {h0 : PH} (l : Launch) (hl : l.stackTraces = false) (x : Unit) (h1 : PH) (hf : f_X2_atNode r0 p0 p1 h0 = some (x, h1)) : CT l D yX2_atNode (ws_ yX2_atNode cX2_atNode 3 none) 9 240 [va_rf r0, va_rf p0, va_rf p1] h0 (ovv x) h1 := by
  refine ct_of hl [some (va_rf r0), some (va_rf p0), some (va_rf p1)] (by decide) (by rw [lgl]; simp [va_rf_cat, cat_i, cat_l]) (by simp [lv_args, vsL, va_rf_cat, cat_i, cat_l]) (fun Γ => ?_)
  obtain ⟨o, ho⟩ : ∃ o : Unit × PH, o = (x, h1) := ⟨_, rfl⟩
  rw [← ho] at hf
  have e1 : x = o.1 := by rw [ho]
  have e2 : h1 = o.2 := by rw [ho]
  subst e1 e2
  clear ho
  show PF Γ mi_X2_atNode D h0 (QR Γ D h0 (ovv o.1) o.2) h0 0 [some (va_rf r0), some (va_rf p0), some (va_rf p1)] []
  unfold f_X2_atNode at hf
  refine j_aload_n 1 dX2_atNode_0 rfl rfl ?_
  refine j_gRN (ci := 13) (k := 0) rfl in_X16 rfl q1378 dX2_atNode_1 hf (fun r1 hf => ?_)
  refine kc_X2_245_X15 rfl rfl rfl (by decide) dX2_atNode_4 hf (fun v3 h2 hf => ?_)
  refine j_case (1 : Int32) hf (fun hf => ?_) (fun c1 hf => ?_)
  · refine j_lookup (off := 33) 40 dX2_atNode_7 (by decide) (by decide +kernel) (by decide) ?_
    refine j_aload_n 0 dX2_atNode_40 rfl rfl ?_
    refine j_aload_n 1 dX2_atNode_41 rfl rfl ?_
    refine j_aload_n 2 dX2_atNode_42 rfl rfl ?_
    refine kc_X2_315 rfl rfl rfl (by decide) dX2_atNode_43 hf (fun _u h4 hf => ?_)
    refine j_goto 127 dX2_atNode_46 (by decide) ?_
    refine j_weak [none, none, none] (Wk.s (Wk.s (Wk.s Wk.n))) ?_
    exact pf_X2_atNode_B127  h4 hf
  refine j_case (2 : Int32) hf (fun hf => ?_) (fun c2 hf => ?_)
  · refine j_lookup (off := 42) 49 dX2_atNode_7 (by decide) (by decide +kernel) (by decide) ?_
    refine j_aload_n 2 dX2_atNode_49 rfl rfl ?_
    refine j_gIN (ci := 5) (k := 3) rfl in_X6 rfl q730 dX2_atNode_50 hf (fun v5 hf => ?_)
    refine j_if_eq 127 dX2_atNode_53 (by decide) hf (fun c_ hf => ?_) (fun c_ hf => ?_)
    · refine j_weak [none, none, none] (Wk.s (Wk.s (Wk.s Wk.n))) ?_
      exact pf_X2_atNode_B127  h2 hf
    · refine j_aload_n 2 dX2_atNode_56 rfl rfl ?_
      refine j_aload_n 0 dX2_atNode_57 rfl rfl ?_
      refine j_gI (ci := 1) (k := 8) rfl in_X2 rfl q802 dX2_atNode_58 hf (fun v6 hf => ?_)
      refine j_aload_n 2 dX2_atNode_61 rfl rfl ?_
      refine j_gRN (ci := 5) (k := 0) rfl in_X6 rfl q722 dX2_atNode_62 hf (fun r7 hf => ?_)
      refine j_aload_n 0 dX2_atNode_65 rfl rfl ?_
      refine j_gI (ci := 1) (k := 8) rfl in_X2 rfl q802 dX2_atNode_66 hf (fun v8 hf => ?_)
      refine kc_X2_146 rfl rfl rfl (by simp [va_rf_cat, cat_i, cat_l]) dX2_atNode_69 hf (fun v10 h9 hf => ?_)
      refine j_aload_n 0 dX2_atNode_72 rfl rfl ?_
      refine j_gR (ci := 1) (k := 0) rfl in_X2 rfl q786 dX2_atNode_73 hf (fun r11 hf => ?_)
      refine j_gIN (ci := 2) (k := 6) rfl in_X3 rfl q539 dX2_atNode_76 hf (fun v12 hf => ?_)
      refine j_iadd dX2_atNode_79 ?_
      refine kc_X2_190 rfl rfl rfl (by decide) dX2_atNode_80 hf (fun _u h13 hf => ?_)
      refine j_goto 127 dX2_atNode_83 (by decide) ?_
      refine j_weak [none, none, none] (Wk.s (Wk.s (Wk.s Wk.n))) ?_
      exact pf_X2_atNode_B127  h13 hf
  refine j_case (8 : Int32) hf (fun hf => ?_) (fun c8 hf => ?_)
  · refine j_lookup (off := 79) 86 dX2_atNode_7 (by decide) (by decide +kernel) (by decide) ?_
    refine j_aload_n 2 dX2_atNode_86 rfl rfl ?_
    refine j_gIN (ci := 5) (k := 6) rfl in_X6 rfl q739 dX2_atNode_87 hf (fun v14 hf => ?_)
    refine j_aload_n 1 dX2_atNode_90 rfl rfl ?_
    refine j_gIN (ci := 13) (k := 3) rfl in_X16 rfl q1384 dX2_atNode_91 hf (fun v15 hf => ?_)
    refine j_icmp_ne 127 dX2_atNode_94 (by decide) hf (fun c_ hf => ?_) (fun c_ hf => ?_)
    · refine j_weak [none, none, none] (Wk.s (Wk.s (Wk.s Wk.n))) ?_
      exact pf_X2_atNode_B127  h2 hf
    · refine j_aload_n 2 dX2_atNode_97 rfl rfl ?_
      refine kc_X2_323 rfl rfl rfl (by decide) dX2_atNode_98 hf (fun _u h16 hf => ?_)
      refine j_goto 127 dX2_atNode_101 (by decide) ?_
      refine j_weak [none, none, none] (Wk.s (Wk.s (Wk.s Wk.n))) ?_
      exact pf_X2_atNode_B127  h16 hf
  refine j_lookup (off := 97) 104 dX2_atNode_7 (by decide) ((lv_osw c1 (by decide)).trans ((lv_osw c2 (by decide)).trans ((lv_osw c8 (by decide)).trans rfl))) (by decide) ?_
  refine j_aload_n 2 dX2_atNode_104 rfl rfl ?_
  refine j_gIN (ci := 5) (k := 6) rfl in_X6 rfl q739 dX2_atNode_105 hf (fun v17 hf => ?_)
  refine j_aload_n 1 dX2_atNode_108 rfl rfl ?_
  refine j_gIN (ci := 13) (k := 3) rfl in_X16 rfl q1384 dX2_atNode_109 hf (fun v18 hf => ?_)
  refine j_icmp_ne 127 dX2_atNode_112 (by decide) hf (fun c_ hf => ?_) (fun c_ hf => ?_)
  · refine j_weak [none, none, none] (Wk.s (Wk.s (Wk.s Wk.n))) ?_
    exact pf_X2_atNode_B127  h2 hf
  · refine j_aload_n 2 dX2_atNode_115 rfl rfl ?_
    refine j_aload_n 1 dX2_atNode_116 rfl rfl ?_
    refine j_gIN (ci := 13) (k := 4) rfl in_X16 rfl q1386 dX2_atNode_117 hf (fun v19 hf => ?_)
    refine j_aload_n 1 dX2_atNode_120 rfl rfl ?_
    refine j_gIN (ci := 13) (k := 5) rfl in_X16 rfl q1388 dX2_atNode_121 hf (fun v20 hf => ?_)
    refine kc_X2_326 rfl rfl rfl (by decide) dX2_atNode_124 hf (fun _u h21 hf => ?_)
    refine j_weak [none, none, none] (Wk.s (Wk.s (Wk.s Wk.n))) ?_
    exact pf_X2_atNode_B127  h21 hf
theorem kc_X2_440 {Γ : GX} {I : MI} {D : va_G} {h0 : PH} {Q : State → Prop} {h : PH} {pc : Nat} {vs : List (Option Value)} {rest : List Value} {β : Type} {o : β} {r : Option Nat} {p0 : Option Nat} {K : ((Int32) → PH → Option β)} (hI : I.2.2.1 = RX2) (hfr : Nat.ble 3 I.2.2.2.2.2.1 = true) (hlo : Nat.ble 62 I.2.2.2.2.2.2.1 = true) (hW : (rest.map fun v => v.category).sum ≤ 8) (hd : decode I.1 pc = .ok (.invokevirtual 440, 3)) (hf : rv_ h r 1 (cl_ (f_X2_arrival r p0 h) K) = some o) (kk : ∀ (x : Int32) (h1 : PH), K x h1 = some o → PF Γ I D h0 Q h1 (pc + 3) vs (.int x :: rest)) : PF Γ I D h0 Q h pc vs (va_rf p0 :: va_rf r :: rest) := by
  obtain ⟨cc, nL, own, rt, xt, fr, lo, nm⟩ := I
  cases hI
  exact j_cVi (n := 1) (y := yX2_arrival) (cc2 := cX2_arrival) (As := [va_rf p0]) (C := RX2) (ci := 1) rfl (lw_V q1674 q1676 qs27 q91 q1677) hyV_X2_arrival hfr hlo rfl hW hd (c_X2_arrival r p0) hf _ rfl kk
abbrev mi_X2_overtakingPairs : MI := (cX2_overtakingPairs, 4, RX2, (Option.some FieldType.int), [], 3, 64, "overtakingPairs")
def f_X2_overtakingPairs_B110 (k4 : Option Nat → Int32 → Int32 → PH → Option (Int32 × PH)) (k19 : Option Nat → Int32 → Int32 → Int32 → PH → Option (Int32 × PH)) (x0 : Option Nat) (x2 : Int32) (x3 : Int32) (t0 : Int32) (t1 : Int32) (h : PH) : Option (Int32 × PH) := k19 x0 (t0 + t1) x2 (x3 + (1 : Int32)) h
theorem pf_X2_overtakingPairs_B110 {Γ : GX} {D : va_G} {h0 : PH} {o : Int32 × PH} (k4 : Option Nat → Int32 → Int32 → PH → Option (Int32 × PH)) (hk4 : ∀ (x0 : Option Nat) (x1 : Int32) (x2 : Int32) (h : PH), k4 x0 x1 x2 h = some o → PF Γ mi_X2_overtakingPairs D h0 (QR Γ D h0 (ovi o.1) o.2) h 4 [some (va_rf x0), some (.int x1), some (.int x2), none] []) (k19 : Option Nat → Int32 → Int32 → Int32 → PH → Option (Int32 × PH)) (hk19 : ∀ (x0 : Option Nat) (x1 : Int32) (x2 : Int32) (x3 : Int32) (h : PH), k19 x0 x1 x2 x3 h = some o → PF Γ mi_X2_overtakingPairs D h0 (QR Γ D h0 (ovi o.1) o.2) h 19 [some (va_rf x0), some (.int x1), some (.int x2), some (.int x3)] []) (x0 : Option Nat) (x2 : Int32) (x3 : Int32) (t0 : Int32) (t1 : Int32) (h : PH) (hf : f_X2_overtakingPairs_B110 k4 k19 x0 x2 x3 t0 t1 h = some o) : PF Γ mi_X2_overtakingPairs D h0 (QR Γ D h0 (ovi o.1) o.2) h 110 [some (va_rf x0), none, some (.int x2), some (.int x3)] [.int t1, .int t0] := by
  refine j_iadd dX2_overtakingPairs_110 ?_
  refine j_istore_n 1 [some (va_rf x0), some (.int (t0 + t1)), some (.int x2), some (.int x3)] dX2_overtakingPairs_111 rfl (cz (va_rf_cat _)) rfl rfl ?_
  refine j_iinc (x3 + (1 : Int32)) [some (va_rf x0), some (.int (t0 + t1)), some (.int x2), some (.int (x3 + (1 : Int32)))] dX2_overtakingPairs_112 rfl rfl (cz rfl) rfl rfl ?_
  refine j_goto 19 dX2_overtakingPairs_115 (by decide) ?_
  exact hk19 x0 (t0 + t1) x2 (x3 + (1 : Int32)) h hf
def f_X2_overtakingPairs_B109 (k4 : Option Nat → Int32 → Int32 → PH → Option (Int32 × PH)) (k19 : Option Nat → Int32 → Int32 → Int32 → PH → Option (Int32 × PH)) (x0 : Option Nat) (x2 : Int32) (x3 : Int32) (t0 : Int32) (h : PH) : Option (Int32 × PH) := f_X2_overtakingPairs_B110 k4 k19 x0 x2 x3 t0 (0 : Int32) h
theorem pf_X2_overtakingPairs_B109 {Γ : GX} {D : va_G} {h0 : PH} {o : Int32 × PH} (k4 : Option Nat → Int32 → Int32 → PH → Option (Int32 × PH)) (hk4 : ∀ (x0 : Option Nat) (x1 : Int32) (x2 : Int32) (h : PH), k4 x0 x1 x2 h = some o → PF Γ mi_X2_overtakingPairs D h0 (QR Γ D h0 (ovi o.1) o.2) h 4 [some (va_rf x0), some (.int x1), some (.int x2), none] []) (k19 : Option Nat → Int32 → Int32 → Int32 → PH → Option (Int32 × PH)) (hk19 : ∀ (x0 : Option Nat) (x1 : Int32) (x2 : Int32) (x3 : Int32) (h : PH), k19 x0 x1 x2 x3 h = some o → PF Γ mi_X2_overtakingPairs D h0 (QR Γ D h0 (ovi o.1) o.2) h 19 [some (va_rf x0), some (.int x1), some (.int x2), some (.int x3)] []) (x0 : Option Nat) (x2 : Int32) (x3 : Int32) (t0 : Int32) (h : PH) (hf : f_X2_overtakingPairs_B109 k4 k19 x0 x2 x3 t0 h = some o) : PF Γ mi_X2_overtakingPairs D h0 (QR Γ D h0 (ovi o.1) o.2) h 109 [some (va_rf x0), none, some (.int x2), some (.int x3)] [.int t0] := by
  refine j_iconst (0 : Int32) dX2_overtakingPairs_109 (by decide) ?_
  exact pf_X2_overtakingPairs_B110 k4 hk4 k19 hk19 x0 x2 x3 t0 (0 : Int32) h hf
def f_X2_overtakingPairs_L19 (k4 : Option Nat → Int32 → Int32 → PH → Option (Int32 × PH)) : Nat → Option Nat → Int32 → Int32 → Int32 → PH → Option (Int32 × PH)
  | 0, _, _, _, _, _ => none
  | n + 1, x0, x1, x2, x3, h => gR h x0 1 2 fun r4 => rv_ h r4 19 (cl_ (f_J2_size r4 h) fun v6 h5 => (if v6 ≤ x3 then (k4 x0 x1 (x2 + (1 : Int32)) h5) else (gR h5 x0 1 2 fun r7 => rv_ h5 r7 19 (cl_ (f_J2_get r7 x2 h5) fun r9 h8 => kC h8 r9 13 (gIN h8 r9 13 2 fun v10 => gR h8 x0 1 2 fun r11 => rv_ h8 r11 19 (cl_ (f_J2_get r11 x3 h8) fun r13 h12 => kC h12 r13 13 (gIN h12 r13 13 2 fun v14 => (if v14 ≤ v10 then (f_X2_overtakingPairs_B109 k4 (f_X2_overtakingPairs_L19 k4 n) x0 x2 x3 x1 h12) else (gR h12 x0 1 2 fun r15 => rv_ h12 r15 19 (cl_ (f_J2_get r15 x2 h12) fun r17 h16 => kC h16 r17 13 (rv_ h16 x0 1 (cl_ (f_X2_arrival x0 r17 h16) fun v19 h18 => gR h18 x0 1 2 fun r20 => rv_ h18 r20 19 (cl_ (f_J2_get r20 x3 h18) fun r22 h21 => kC h21 r22 13 (rv_ h21 x0 1 (cl_ (f_X2_arrival x0 r22 h21) fun v24 h23 => (if v19 ≤ v24 then (f_X2_overtakingPairs_B109 k4 (f_X2_overtakingPairs_L19 k4 n) x0 x2 x3 x1 h23) else (f_X2_overtakingPairs_B110 k4 (f_X2_overtakingPairs_L19 k4 n) x0 x2 x3 x1 (1 : Int32) h23)))))))))))))))))
theorem pf_X2_overtakingPairs_L19 {Γ : GX} {D : va_G} {h0 : PH} {o : Int32 × PH} (k4 : Option Nat → Int32 → Int32 → PH → Option (Int32 × PH)) (hk4 : ∀ (x0 : Option Nat) (x1 : Int32) (x2 : Int32) (h : PH), k4 x0 x1 x2 h = some o → PF Γ mi_X2_overtakingPairs D h0 (QR Γ D h0 (ovi o.1) o.2) h 4 [some (va_rf x0), some (.int x1), some (.int x2), none] []) : ∀ (n : Nat) (x0 : Option Nat) (x1 : Int32) (x2 : Int32) (x3 : Int32) (h : PH), f_X2_overtakingPairs_L19 k4 n x0 x1 x2 x3 h = some o → PF Γ mi_X2_overtakingPairs D h0 (QR Γ D h0 (ovi o.1) o.2) h 19 [some (va_rf x0), some (.int x1), some (.int x2), some (.int x3)] [] := by
  intro n
  induction n with
  | zero => intro x0 x1 x2 x3 h hf; cases hf
  | succ n ih =>
    intro x0 x1 x2 x3 h hf
    refine j_iload_n 3 dX2_overtakingPairs_19 rfl rfl ?_
    refine j_aload_n 0 dX2_overtakingPairs_20 rfl rfl ?_
    refine j_gR (ci := 1) (k := 2) rfl in_X2 rfl q790 dX2_overtakingPairs_21 hf (fun r4 hf => ?_)
    refine kc_X2_56 rfl rfl rfl (by simp [va_rf_cat, cat_i, cat_l]) dX2_overtakingPairs_24 hf (fun v6 h5 hf => ?_)
    refine j_icmp_ge 118 dX2_overtakingPairs_29 (by decide) hf (fun c_ hf => ?_) (fun c_ hf => ?_)
    · refine j_iinc (x2 + (1 : Int32)) [some (va_rf x0), some (.int x1), some (.int (x2 + (1 : Int32))), some (.int x3)] dX2_overtakingPairs_118 rfl rfl (cz rfl) rfl rfl ?_
      refine j_goto 4 dX2_overtakingPairs_121 (by decide) ?_
      refine j_weak [some (va_rf x0), some (.int x1), some (.int (x2 + (1 : Int32))), none] (Wk.k (Wk.k (Wk.k (Wk.s Wk.n)))) ?_
      exact hk4 x0 x1 (x2 + (1 : Int32)) h5 hf
    · refine j_iload_n 1 dX2_overtakingPairs_32 rfl rfl ?_
      refine j_aload_n 0 dX2_overtakingPairs_33 rfl rfl ?_
      refine j_gR (ci := 1) (k := 2) rfl in_X2 rfl q790 dX2_overtakingPairs_34 hf (fun r7 hf => ?_)
      refine j_iload_n 2 dX2_overtakingPairs_37 rfl rfl ?_
      refine kc_X2_68 rfl rfl rfl (by simp [va_rf_cat, cat_i, cat_l]) dX2_overtakingPairs_38 hf (fun r9 h8 hf => ?_)
      refine j_kC (ci := 13) rfl q1266 dX2_overtakingPairs_43 hf (fun hf => ?_)
      refine j_gIN (ci := 13) (k := 2) rfl in_X16 rfl q1382 dX2_overtakingPairs_46 hf (fun v10 hf => ?_)
      refine j_aload_n 0 dX2_overtakingPairs_49 rfl rfl ?_
      refine j_gR (ci := 1) (k := 2) rfl in_X2 rfl q790 dX2_overtakingPairs_50 hf (fun r11 hf => ?_)
      refine j_iload_n 3 dX2_overtakingPairs_53 rfl rfl ?_
      refine kc_X2_68 rfl rfl rfl (by simp [va_rf_cat, cat_i, cat_l]) dX2_overtakingPairs_54 hf (fun r13 h12 hf => ?_)
      refine j_kC (ci := 13) rfl q1266 dX2_overtakingPairs_59 hf (fun hf => ?_)
      refine j_gIN (ci := 13) (k := 2) rfl in_X16 rfl q1382 dX2_overtakingPairs_62 hf (fun v14 hf => ?_)
      refine j_icmp_ge 109 dX2_overtakingPairs_65 (by decide) hf (fun c_ hf => ?_) (fun c_ hf => ?_)
      · refine j_weak [some (va_rf x0), none, some (.int x2), some (.int x3)] (Wk.k (Wk.s (Wk.k (Wk.k Wk.n)))) ?_
        exact pf_X2_overtakingPairs_B109 k4 hk4 (f_X2_overtakingPairs_L19 k4 n) ih x0 x2 x3 x1 h12 hf
      · refine j_aload_n 0 dX2_overtakingPairs_68 rfl rfl ?_
        refine j_aload_n 0 dX2_overtakingPairs_69 rfl rfl ?_
        refine j_gR (ci := 1) (k := 2) rfl in_X2 rfl q790 dX2_overtakingPairs_70 hf (fun r15 hf => ?_)
        refine j_iload_n 2 dX2_overtakingPairs_73 rfl rfl ?_
        refine kc_X2_68 rfl rfl rfl (by simp [va_rf_cat, cat_i, cat_l]) dX2_overtakingPairs_74 hf (fun r17 h16 hf => ?_)
        refine j_kC (ci := 13) rfl q1266 dX2_overtakingPairs_79 hf (fun hf => ?_)
        refine kc_X2_440 rfl rfl rfl (by simp [va_rf_cat, cat_i, cat_l]) dX2_overtakingPairs_82 hf (fun v19 h18 hf => ?_)
        refine j_aload_n 0 dX2_overtakingPairs_85 rfl rfl ?_
        refine j_aload_n 0 dX2_overtakingPairs_86 rfl rfl ?_
        refine j_gR (ci := 1) (k := 2) rfl in_X2 rfl q790 dX2_overtakingPairs_87 hf (fun r20 hf => ?_)
        refine j_iload_n 3 dX2_overtakingPairs_90 rfl rfl ?_
        refine kc_X2_68 rfl rfl rfl (by simp [va_rf_cat, cat_i, cat_l]) dX2_overtakingPairs_91 hf (fun r22 h21 hf => ?_)
        refine j_kC (ci := 13) rfl q1266 dX2_overtakingPairs_96 hf (fun hf => ?_)
        refine kc_X2_440 rfl rfl rfl (by simp [va_rf_cat, cat_i, cat_l]) dX2_overtakingPairs_99 hf (fun v24 h23 hf => ?_)
        refine j_icmp_le 109 dX2_overtakingPairs_102 (by decide) hf (fun c_ hf => ?_) (fun c_ hf => ?_)
        · refine j_weak [some (va_rf x0), none, some (.int x2), some (.int x3)] (Wk.k (Wk.s (Wk.k (Wk.k Wk.n)))) ?_
          exact pf_X2_overtakingPairs_B109 k4 hk4 (f_X2_overtakingPairs_L19 k4 n) ih x0 x2 x3 x1 h23 hf
        · refine j_iconst (1 : Int32) dX2_overtakingPairs_105 (by decide) ?_
          refine j_goto 110 dX2_overtakingPairs_106 (by decide) ?_
          refine j_weak [some (va_rf x0), none, some (.int x2), some (.int x3)] (Wk.k (Wk.s (Wk.k (Wk.k Wk.n)))) ?_
          exact pf_X2_overtakingPairs_B110 k4 hk4 (f_X2_overtakingPairs_L19 k4 n) ih x0 x2 x3 x1 (1 : Int32) h23 hf
def f_X2_overtakingPairs_L4 : Nat → Option Nat → Int32 → Int32 → PH → Option (Int32 × PH)
  | 0, _, _, _, _ => none
  | n + 1, x0, x1, x2, h => gR h x0 1 2 fun r1 => rv_ h r1 19 (cl_ (f_J2_size r1 h) fun v3 h2 => (if v3 ≤ x2 then (some (x1, h2)) else (f_X2_overtakingPairs_L19 (f_X2_overtakingPairs_L4 n) FU x0 x1 x2 (0 : Int32) h2)))
theorem pf_X2_overtakingPairs_L4 {Γ : GX} {D : va_G} {h0 : PH} {o : Int32 × PH} : ∀ (n : Nat) (x0 : Option Nat) (x1 : Int32) (x2 : Int32) (h : PH), f_X2_overtakingPairs_L4 n x0 x1 x2 h = some o → PF Γ mi_X2_overtakingPairs D h0 (QR Γ D h0 (ovi o.1) o.2) h 4 [some (va_rf x0), some (.int x1), some (.int x2), none] [] := by
  intro n
  induction n with
  | zero => intro x0 x1 x2 h hf; cases hf
  | succ n ih =>
    intro x0 x1 x2 h hf
    refine j_iload_n 2 dX2_overtakingPairs_4 rfl rfl ?_
    refine j_aload_n 0 dX2_overtakingPairs_5 rfl rfl ?_
    refine j_gR (ci := 1) (k := 2) rfl in_X2 rfl q790 dX2_overtakingPairs_6 hf (fun r1 hf => ?_)
    refine kc_X2_56 rfl rfl rfl (by simp [va_rf_cat, cat_i, cat_l]) dX2_overtakingPairs_9 hf (fun v3 h2 hf => ?_)
    refine j_icmp_ge 124 dX2_overtakingPairs_14 (by decide) hf (fun c_ hf => ?_) (fun c_ hf => ?_)
    · refine j_iload_n 1 dX2_overtakingPairs_124 rfl rfl ?_
      have e9 := Option.some.inj hf
      subst e9
      exact j_iret rfl dX2_overtakingPairs_125
    · refine j_iconst (0 : Int32) dX2_overtakingPairs_17 (by decide) ?_
      refine j_istore_n 3 [some (va_rf x0), some (.int x1), some (.int x2), some (.int (0 : Int32))] dX2_overtakingPairs_18 rfl (cz rfl) rfl rfl ?_
      exact pf_X2_overtakingPairs_L19 (f_X2_overtakingPairs_L4 n) ih FU x0 x1 x2 (0 : Int32) h2 hf
def f_X2_overtakingPairs (r0 : Option Nat) (h0 : PH) : Option (Int32 × PH) := f_X2_overtakingPairs_L4 FU r0 (0 : Int32) (0 : Int32) h0
theorem hyS_X2_overtakingPairs : yX2_overtakingPairs.cls ≠ "java/lang/invoke/MethodHandle" ∧ yX2_overtakingPairs.cls ≠ "java/lang/invoke/VarHandle" ∧ (parseMethodDescriptor yX2_overtakingPairs.desc).map (fun d => d.parameters.length) = some 0 := by decide +kernel
theorem hyV_X2_overtakingPairs : yX2_overtakingPairs.cls = RX2 ∧ yX2_overtakingPairs.cls ≠ "java/lang/invoke/MethodHandle" ∧ yX2_overtakingPairs.cls ≠ "java/lang/invoke/VarHandle" ∧ (parseMethodDescriptor yX2_overtakingPairs.desc).map (fun d => d.parameters.length) = some 0 := by decide +kernel
theorem c_X2_overtakingPairs {D : va_G} (r0 : Option Nat) {h0 : PH} (l : Launch) (hl : l.stackTraces = false) (x : Int32) (h1 : PH) (hf : f_X2_overtakingPairs r0 h0 = some (x, h1)) : CT l D yX2_overtakingPairs (ws_ yX2_overtakingPairs cX2_overtakingPairs 4 (Option.some FieldType.int)) 3 64 [va_rf r0] h0 (ovi x) h1 := by
  refine ct_of hl [some (va_rf r0), none, none, none] (by decide) (by rw [lgl]; simp [va_rf_cat, cat_i, cat_l]) (by simp [lv_args, vsL, va_rf_cat, cat_i, cat_l]) (fun Γ => ?_)
  obtain ⟨o, ho⟩ : ∃ o : Int32 × PH, o = (x, h1) := ⟨_, rfl⟩
  rw [← ho] at hf
  have e1 : x = o.1 := by rw [ho]
  have e2 : h1 = o.2 := by rw [ho]
  subst e1 e2
  clear ho
  show PF Γ mi_X2_overtakingPairs D h0 (QR Γ D h0 (ovi o.1) o.2) h0 0 [some (va_rf r0), none, none, none] []
  unfold f_X2_overtakingPairs at hf
  refine j_iconst (0 : Int32) dX2_overtakingPairs_0 (by decide) ?_
  refine j_istore_n 1 [some (va_rf r0), some (.int (0 : Int32)), none, none] dX2_overtakingPairs_1 rfl (cz (va_rf_cat _)) rfl rfl ?_
  refine j_iconst (0 : Int32) dX2_overtakingPairs_2 (by decide) ?_
  refine j_istore_n 2 [some (va_rf r0), some (.int (0 : Int32)), some (.int (0 : Int32)), none] dX2_overtakingPairs_3 rfl (cz rfl) rfl rfl ?_
  exact pf_X2_overtakingPairs_L4 FU r0 (0 : Int32) (0 : Int32) h0 hf
