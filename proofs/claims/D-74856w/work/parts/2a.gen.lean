/-! printed by gen.py: J0_init_J2 J1_init_J2 J14_checkIndex J18_checkIndex J16_init_J17 J17_init J17_intValue J11_newLength J11_signedHashCode J11_hashCode_2 J13_copyOf J13_checkLength J13_copyOf_3 J15_canEncode J15_equals J9_coder J9_checkIndex J9_equals J9_isLatin1 J7_init_J8 J7_newCapacity_J8 J7_isLatin1_J8 J7_getValue_J8 J7_length_J8 J8_init J8_length J2_init J2_size J2_elementData J2_indexOfRange J2_isEmpty J2_fastRemove J2_remove_2 J17_valueOf J11_vectorizedHashCode -/
set_option maxRecDepth 100000
abbrev mi_J0_init_J2 : MI := (cJ0_init, 1, RJ0, none, [], 1, 20, "<init>")
def f_J0_init_J2 (a0 : Nat) (h0 : PH) : Option (Unit × PH) := some ((), h0)
theorem hyS_J0_init_J2 : yJ0_init.cls ≠ "java/lang/invoke/MethodHandle" ∧ yJ0_init.cls ≠ "java/lang/invoke/VarHandle" ∧ (parseMethodDescriptor yJ0_init.desc).map (fun d => d.parameters.length) = some 0 := by decide +kernel
theorem c_J0_init_J2 {D : va_G} (a0 : Nat) {h0 : PH} (l : Launch) (hl : l.stackTraces = false) (x : Unit) (h1 : PH) (hf : f_J0_init_J2 a0 h0 = some (x, h1)) : CT l D yJ0_init (ws_ yJ0_init cJ0_init 1 none) 1 20 [va_rf (some a0)] h0 (ovv x) h1 := by
  refine ct_of hl [some (va_rf (some a0))] (by decide) (Nat.le_of_ble_eq_true rfl) rfl (fun Γ => ?_)
  obtain ⟨o, ho⟩ : ∃ o : Unit × PH, o = (x, h1) := ⟨_, rfl⟩
  rw [← ho] at hf
  have e1 : x = o.1 := by rw [ho]
  have e2 : h1 = o.2 := by rw [ho]
  subst e1 e2
  clear ho
  show PF Γ mi_J0_init_J2 D h0 (QR Γ D h0 (ovv o.1) o.2) h0 0 [some (va_rf (some a0))] []
  unfold f_J0_init_J2 at hf
  refine j_aload_n 0 dJ0_init_0 rfl rfl ?_
  refine j_objI q180 q141 q142 rfl rfl ⟨_, rfl⟩ (by decide) dJ0_init_1 ?_
  have e9 := Option.some.inj hf
  subst e9
  exact j_vret rfl dJ0_init_4
theorem kc_J1_1_J2 {Γ : GX} {I : MI} {D : va_G} {h0 : PH} {Q : State → Prop} {h : PH} {pc : Nat} {vs : List (Option Value)} {rest : List Value} {β : Type} {o : β} {a : Nat}  {K : ((Unit) → PH → Option β)} (hI : I.2.2.1 = RJ1) (hfr : Nat.ble 2 I.2.2.2.2.2.1 = true) (hlo : Nat.ble 40 I.2.2.2.2.2.2.1 = true) (hW : (rest.map fun v => v.category).sum ≤ 8) (hd : decode I.1 pc = .ok (.invokespecial 1, 3)) (hf : cl_ (f_J0_init_J2 a h) K = some o) (kk : ∀ (x : Unit) (h1 : PH), K x h1 = some o → PF Γ I D h0 Q h1 (pc + 3) vs (rest)) : PF Γ I D h0 Q h pc vs (va_rf (some a) :: rest) := by
  obtain ⟨cc, nL, own, rt, xt, fr, lo, nm⟩ := I
  cases hI
  exact j_cIv (n := 0) (y := yJ0_init) (cc2 := cJ0_init) (As := []) (lw_meth q179) q94 q177 q178 rfl hyS_J0_init_J2 hfr hlo rfl hW hd (c_J0_init_J2 a) ⟨_, rfl⟩ hf _ rfl kk
abbrev mi_J1_init_J2 : MI := (cJ1_init, 1, RJ1, none, [], 2, 40, "<init>")
def f_J1_init_J2 (a0 : Nat) (h0 : PH) : Option (Unit × PH) := cl_ (f_J0_init_J2 a0 h0) fun _u h1 => pV h1 (some a0) 19 0 (.int (0 : Int32)) fun h2 => some ((), h2)
theorem hyS_J1_init_J2 : yJ1_init.cls ≠ "java/lang/invoke/MethodHandle" ∧ yJ1_init.cls ≠ "java/lang/invoke/VarHandle" ∧ (parseMethodDescriptor yJ1_init.desc).map (fun d => d.parameters.length) = some 0 := by decide +kernel
theorem c_J1_init_J2 {D : va_G} (a0 : Nat) {h0 : PH} (l : Launch) (hl : l.stackTraces = false) (x : Unit) (h1 : PH) (hf : f_J1_init_J2 a0 h0 = some (x, h1)) : CT l D yJ1_init (ws_ yJ1_init cJ1_init 1 none) 2 40 [va_rf (some a0)] h0 (ovv x) h1 := by
  refine ct_of hl [some (va_rf (some a0))] (by decide) (Nat.le_of_ble_eq_true rfl) rfl (fun Γ => ?_)
  obtain ⟨o, ho⟩ : ∃ o : Unit × PH, o = (x, h1) := ⟨_, rfl⟩
  rw [← ho] at hf
  have e1 : x = o.1 := by rw [ho]
  have e2 : h1 = o.2 := by rw [ho]
  subst e1 e2
  clear ho
  show PF Γ mi_J1_init_J2 D h0 (QR Γ D h0 (ovv o.1) o.2) h0 0 [some (va_rf (some a0))] []
  unfold f_J1_init_J2 at hf
  refine j_aload_n 0 dJ1_init_0 rfl rfl ?_
  refine kc_J1_1_J2 rfl rfl rfl (by decide) dJ1_init_1 hf (fun _u h1 hf => ?_)
  refine j_aload_n 0 dJ1_init_4 rfl rfl ?_
  refine j_iconst (0 : Int32) dJ1_init_5 (by decide) ?_
  refine j_pV (ci := 19) (k := 0) tyJ2 tyJ2_ok nmJ2 rfl in_J2 rfl q507 (Or.inl rfl) rfl (fit_i _) dJ1_init_6 hf (fun h2 hf => ?_)
  have e9 := Option.some.inj hf
  subst e9
  exact j_vret rfl dJ1_init_9
abbrev mi_J14_checkIndex : MI := (cJ14_checkIndex, 3, RJ14, (Option.some FieldType.int), [], 0, 0, "checkIndex")
def f_J14_checkIndex_B9 (x0 : Int32) (x1 : Int32) (x2 : Option Nat) (h : PH) : Option (Int32 × PH) := none
theorem pf_J14_checkIndex_B9 {Γ : GX} {D : va_G} {h0 : PH} {o : Int32 × PH} (x0 : Int32) (x1 : Int32) (x2 : Option Nat) (h : PH) (hf : f_J14_checkIndex_B9 x0 x1 x2 h = some o) : PF Γ mi_J14_checkIndex D h0 (QR Γ D h0 (ovi o.1) o.2) h 9 [some (.int x0), some (.int x1), some (va_rf x2)] [] := by
  refine j_aload_n 2 dJ14_checkIndex_9 rfl rfl ?_
  refine j_iload_n 0 dJ14_checkIndex_10 rfl rfl ?_
  refine j_iload_n 1 dJ14_checkIndex_11 rfl rfl ?_
  cases hf
def f_J14_checkIndex (p0 : Int32) (p1 : Int32) (p2 : Option Nat) (h0 : PH) : Option (Int32 × PH) := (if p0 < 0 then (f_J14_checkIndex_B9 p0 p1 p2 h0) else ((if p0 < p1 then (some (p0, h0)) else (f_J14_checkIndex_B9 p0 p1 p2 h0))))
theorem hyS_J14_checkIndex : yJ14_checkIndex.cls ≠ "java/lang/invoke/MethodHandle" ∧ yJ14_checkIndex.cls ≠ "java/lang/invoke/VarHandle" ∧ (parseMethodDescriptor yJ14_checkIndex.desc).map (fun d => d.parameters.length) = some 3 := by decide +kernel
theorem c_J14_checkIndex {D : va_G} (p0 : Int32) (p1 : Int32) (p2 : Option Nat) {h0 : PH} (l : Launch) (hl : l.stackTraces = false) (x : Int32) (h1 : PH) (hf : f_J14_checkIndex p0 p1 p2 h0 = some (x, h1)) : CT l D yJ14_checkIndex (ws_ yJ14_checkIndex cJ14_checkIndex 3 (Option.some FieldType.int)) 0 0 [.int p0, .int p1, va_rf p2] h0 (ovi x) h1 := by
  refine ct_of hl [some (.int p0), some (.int p1), some (va_rf p2)] (by decide) (by rw [lgl]; simp [va_rf_cat, cat_i, cat_l]) (by simp [lv_args, vsL, va_rf_cat, cat_i, cat_l]) (fun Γ => ?_)
  obtain ⟨o, ho⟩ : ∃ o : Int32 × PH, o = (x, h1) := ⟨_, rfl⟩
  rw [← ho] at hf
  have e1 : x = o.1 := by rw [ho]
  have e2 : h1 = o.2 := by rw [ho]
  subst e1 e2
  clear ho
  show PF Γ mi_J14_checkIndex D h0 (QR Γ D h0 (ovi o.1) o.2) h0 0 [some (.int p0), some (.int p1), some (va_rf p2)] []
  unfold f_J14_checkIndex at hf
  refine j_iload_n 0 dJ14_checkIndex_0 rfl rfl ?_
  refine j_if_lt 9 dJ14_checkIndex_1 (by decide) hf (fun c_ hf => ?_) (fun c_ hf => ?_)
  · exact pf_J14_checkIndex_B9 p0 p1 p2 h0 hf
  · refine j_iload_n 0 dJ14_checkIndex_4 rfl rfl ?_
    refine j_iload_n 1 dJ14_checkIndex_5 rfl rfl ?_
    refine j_icmp_lt 16 dJ14_checkIndex_6 (by decide) hf (fun c_ hf => ?_) (fun c_ hf => ?_)
    · refine j_iload_n 0 dJ14_checkIndex_16 rfl rfl ?_
      have e9 := Option.some.inj hf
      subst e9
      exact j_iret rfl dJ14_checkIndex_17
    · exact pf_J14_checkIndex_B9 p0 p1 p2 h0 hf
theorem kc_J18_105 {Γ : GX} {I : MI} {D : va_G} {h0 : PH} {Q : State → Prop} {h : PH} {pc : Nat} {vs : List (Option Value)} {rest : List Value} {β : Type} {o : β} {p0 : Int32} {p1 : Int32} {p2 : Option Nat} {K : ((Int32) → PH → Option β)} (hI : I.2.2.1 = RJ18) (hfr : Nat.ble 1 I.2.2.2.2.2.1 = true) (hlo : Nat.ble 22 I.2.2.2.2.2.2.1 = true) (hW : (rest.map fun v => v.category).sum ≤ 8) (hd : decode I.1 pc = .ok (.invokestatic 105, 3)) (hf : cl_ (f_J14_checkIndex p0 p1 p2 h) K = some o) (kk : ∀ (x : Int32) (h1 : PH), K x h1 = some o → PF Γ I D h0 Q h1 (pc + 3) vs (.int x :: rest)) : PF Γ I D h0 Q h pc vs (va_rf p2 :: .int p1 :: .int p0 :: rest) := by
  obtain ⟨cc, nL, own, rt, xt, fr, lo, nm⟩ := I
  cases hI
  exact j_cSi (n := 3) (y := yJ14_checkIndex) (cc2 := cJ14_checkIndex) (As := [.int p0, .int p1, va_rf p2]) (lw_S q704 q705 q109 q706) hyS_J14_checkIndex hfr hlo rfl hW hd (c_J14_checkIndex p0 p1 p2) hf _ rfl kk
abbrev mi_J18_checkIndex : MI := (cJ18_checkIndex, 2, RJ18, (Option.some FieldType.int), [], 1, 22, "checkIndex")
def f_J18_checkIndex (p0 : Int32) (p1 : Int32) (h0 : PH) : Option (Int32 × PH) := cl_ (f_J14_checkIndex p0 p1 none h0) fun v2 h1 => some (v2, h1)
theorem hyS_J18_checkIndex : yJ18_checkIndex.cls ≠ "java/lang/invoke/MethodHandle" ∧ yJ18_checkIndex.cls ≠ "java/lang/invoke/VarHandle" ∧ (parseMethodDescriptor yJ18_checkIndex.desc).map (fun d => d.parameters.length) = some 2 := by decide +kernel
theorem c_J18_checkIndex {D : va_G} (p0 : Int32) (p1 : Int32) {h0 : PH} (l : Launch) (hl : l.stackTraces = false) (x : Int32) (h1 : PH) (hf : f_J18_checkIndex p0 p1 h0 = some (x, h1)) : CT l D yJ18_checkIndex (ws_ yJ18_checkIndex cJ18_checkIndex 2 (Option.some FieldType.int)) 1 22 [.int p0, .int p1] h0 (ovi x) h1 := by
  refine ct_of hl [some (.int p0), some (.int p1)] (by decide) (Nat.le_of_ble_eq_true rfl) rfl (fun Γ => ?_)
  obtain ⟨o, ho⟩ : ∃ o : Int32 × PH, o = (x, h1) := ⟨_, rfl⟩
  rw [← ho] at hf
  have e1 : x = o.1 := by rw [ho]
  have e2 : h1 = o.2 := by rw [ho]
  subst e1 e2
  clear ho
  show PF Γ mi_J18_checkIndex D h0 (QR Γ D h0 (ovi o.1) o.2) h0 0 [some (.int p0), some (.int p1)] []
  unfold f_J18_checkIndex at hf
  refine j_iload_n 0 dJ18_checkIndex_0 rfl rfl ?_
  refine j_iload_n 1 dJ18_checkIndex_1 rfl rfl ?_
  refine j_aconst_null dJ18_checkIndex_2 ?_
  refine kc_J18_105 rfl rfl rfl (by decide) dJ18_checkIndex_3 hf (fun v2 h1 hf => ?_)
  have e9 := Option.some.inj hf
  subst e9
  exact j_iret rfl dJ18_checkIndex_6
abbrev mi_J16_init_J17 : MI := (cJ16_init, 1, RJ16, none, [], 1, 20, "<init>")
def f_J16_init_J17 (a0 : Nat) (h0 : PH) : Option (Unit × PH) := some ((), h0)
theorem hyS_J16_init_J17 : yJ16_init.cls ≠ "java/lang/invoke/MethodHandle" ∧ yJ16_init.cls ≠ "java/lang/invoke/VarHandle" ∧ (parseMethodDescriptor yJ16_init.desc).map (fun d => d.parameters.length) = some 0 := by decide +kernel
theorem c_J16_init_J17 {D : va_G} (a0 : Nat) {h0 : PH} (l : Launch) (hl : l.stackTraces = false) (x : Unit) (h1 : PH) (hf : f_J16_init_J17 a0 h0 = some (x, h1)) : CT l D yJ16_init (ws_ yJ16_init cJ16_init 1 none) 1 20 [va_rf (some a0)] h0 (ovv x) h1 := by
  refine ct_of hl [some (va_rf (some a0))] (by decide) (Nat.le_of_ble_eq_true rfl) rfl (fun Γ => ?_)
  obtain ⟨o, ho⟩ : ∃ o : Unit × PH, o = (x, h1) := ⟨_, rfl⟩
  rw [← ho] at hf
  have e1 : x = o.1 := by rw [ho]
  have e2 : h1 = o.2 := by rw [ho]
  subst e1 e2
  clear ho
  show PF Γ mi_J16_init_J17 D h0 (QR Γ D h0 (ovv o.1) o.2) h0 0 [some (va_rf (some a0))] []
  unfold f_J16_init_J17 at hf
  refine j_aload_n 0 dJ16_init_0 rfl rfl ?_
  refine j_objI q648 q141 q142 rfl rfl ⟨_, rfl⟩ (by decide) dJ16_init_1 ?_
  have e9 := Option.some.inj hf
  subst e9
  exact j_vret rfl dJ16_init_4
theorem kc_J17_202_J17 {Γ : GX} {I : MI} {D : va_G} {h0 : PH} {Q : State → Prop} {h : PH} {pc : Nat} {vs : List (Option Value)} {rest : List Value} {β : Type} {o : β} {a : Nat}  {K : ((Unit) → PH → Option β)} (hI : I.2.2.1 = RJ17) (hfr : Nat.ble 2 I.2.2.2.2.2.1 = true) (hlo : Nat.ble 40 I.2.2.2.2.2.2.1 = true) (hW : (rest.map fun v => v.category).sum ≤ 8) (hd : decode I.1 pc = .ok (.invokespecial 202, 3)) (hf : cl_ (f_J16_init_J17 a h) K = some o) (kk : ∀ (x : Unit) (h1 : PH), K x h1 = some o → PF Γ I D h0 Q h1 (pc + 3) vs (rest)) : PF Γ I D h0 Q h pc vs (va_rf (some a) :: rest) := by
  obtain ⟨cc, nL, own, rt, xt, fr, lo, nm⟩ := I
  cases hI
  exact j_cIv (n := 0) (y := yJ16_init) (cc2 := cJ16_init) (As := []) (lw_meth q647) q111 q645 q646 rfl hyS_J16_init_J17 hfr hlo rfl hW hd (c_J16_init_J17 a) ⟨_, rfl⟩ hf _ rfl kk
abbrev mi_J17_init : MI := (cJ17_init, 2, RJ17, none, [], 2, 40, "<init>")
def f_J17_init (a0 : Nat) (p0 : Int32) (h0 : PH) : Option (Unit × PH) := cl_ (f_J16_init_J17 a0 h0) fun _u h1 => pV h1 (some a0) 23 0 (.int p0) fun h2 => some ((), h2)
theorem hyS_J17_init : yJ17_init.cls ≠ "java/lang/invoke/MethodHandle" ∧ yJ17_init.cls ≠ "java/lang/invoke/VarHandle" ∧ (parseMethodDescriptor yJ17_init.desc).map (fun d => d.parameters.length) = some 1 := by decide +kernel
theorem c_J17_init {D : va_G} (a0 : Nat) (p0 : Int32) {h0 : PH} (l : Launch) (hl : l.stackTraces = false) (x : Unit) (h1 : PH) (hf : f_J17_init a0 p0 h0 = some (x, h1)) : CT l D yJ17_init (ws_ yJ17_init cJ17_init 2 none) 2 40 [va_rf (some a0), .int p0] h0 (ovv x) h1 := by
  refine ct_of hl [some (va_rf (some a0)), some (.int p0)] (by decide) (Nat.le_of_ble_eq_true rfl) rfl (fun Γ => ?_)
  obtain ⟨o, ho⟩ : ∃ o : Unit × PH, o = (x, h1) := ⟨_, rfl⟩
  rw [← ho] at hf
  have e1 : x = o.1 := by rw [ho]
  have e2 : h1 = o.2 := by rw [ho]
  subst e1 e2
  clear ho
  show PF Γ mi_J17_init D h0 (QR Γ D h0 (ovv o.1) o.2) h0 0 [some (va_rf (some a0)), some (.int p0)] []
  unfold f_J17_init at hf
  refine j_aload_n 0 dJ17_init_0 rfl rfl ?_
  refine kc_J17_202_J17 rfl rfl rfl (by decide) dJ17_init_1 hf (fun _u h1 hf => ?_)
  refine j_aload_n 0 dJ17_init_4 rfl rfl ?_
  refine j_iload_n 1 dJ17_init_5 rfl rfl ?_
  refine j_pV (ci := 23) (k := 0) tyJ17 tyJ17_ok nmJ17 rfl in_J17 rfl q649 (Or.inr ⟨rfl, rfl, rfl⟩) rfl (fit_i _) dJ17_init_6 hf (fun h2 hf => ?_)
  have e9 := Option.some.inj hf
  subst e9
  exact j_vret rfl dJ17_init_9
abbrev mi_J17_intValue : MI := (cJ17_intValue, 1, RJ17, (Option.some FieldType.int), [], 0, 0, "intValue")
def f_J17_intValue (r0 : Option Nat) (h0 : PH) : Option (Int32 × PH) := gI h0 r0 23 0 fun v1 => some (v1, h0)
theorem hyS_J17_intValue : yJ17_intValue.cls ≠ "java/lang/invoke/MethodHandle" ∧ yJ17_intValue.cls ≠ "java/lang/invoke/VarHandle" ∧ (parseMethodDescriptor yJ17_intValue.desc).map (fun d => d.parameters.length) = some 0 := by decide +kernel
theorem hyV_J17_intValue : yJ17_intValue.cls = RJ17 ∧ yJ17_intValue.cls ≠ "java/lang/invoke/MethodHandle" ∧ yJ17_intValue.cls ≠ "java/lang/invoke/VarHandle" ∧ (parseMethodDescriptor yJ17_intValue.desc).map (fun d => d.parameters.length) = some 0 := by decide +kernel
theorem c_J17_intValue {D : va_G} (r0 : Option Nat) {h0 : PH} (l : Launch) (hl : l.stackTraces = false) (x : Int32) (h1 : PH) (hf : f_J17_intValue r0 h0 = some (x, h1)) : CT l D yJ17_intValue (ws_ yJ17_intValue cJ17_intValue 1 (Option.some FieldType.int)) 0 0 [va_rf r0] h0 (ovi x) h1 := by
  refine ct_of hl [some (va_rf r0)] (by decide) (by rw [lgl]; simp [va_rf_cat, cat_i, cat_l]) (by simp [lv_args, vsL, va_rf_cat, cat_i, cat_l]) (fun Γ => ?_)
  obtain ⟨o, ho⟩ : ∃ o : Int32 × PH, o = (x, h1) := ⟨_, rfl⟩
  rw [← ho] at hf
  have e1 : x = o.1 := by rw [ho]
  have e2 : h1 = o.2 := by rw [ho]
  subst e1 e2
  clear ho
  show PF Γ mi_J17_intValue D h0 (QR Γ D h0 (ovi o.1) o.2) h0 0 [some (va_rf r0)] []
  unfold f_J17_intValue at hf
  refine j_aload_n 0 dJ17_intValue_0 rfl rfl ?_
  refine j_gI (ci := 23) (k := 0) rfl in_J17 rfl q649 dJ17_intValue_1 hf (fun v1 hf => ?_)
  have e9 := Option.some.inj hf
  subst e9
  exact j_iret rfl dJ17_intValue_4
abbrev mi_J11_newLength : MI := (cJ11_newLength, 4, RJ11, (Option.some FieldType.int), [], 1, 24, "newLength")
def f_J11_newLength_B21 (x0 : Int32) (x1 : Int32) (h : PH) : Option (Int32 × PH) := none
theorem pf_J11_newLength_B21 {Γ : GX} {D : va_G} {h0 : PH} {o : Int32 × PH} (x0 : Int32) (x1 : Int32) (h : PH) (hf : f_J11_newLength_B21 x0 x1 h = some o) : PF Γ mi_J11_newLength D h0 (QR Γ D h0 (ovi o.1) o.2) h 21 [some (.int x0), some (.int x1), none, none] [] := by
  refine j_iload_n 0 dJ11_newLength_21 rfl rfl ?_
  refine j_iload_n 1 dJ11_newLength_22 rfl rfl ?_
  cases hf
def f_J11_newLength (p0 : Int32) (p1 : Int32) (p2 : Int32) (h0 : PH) : Option (Int32 × PH) := (if (p0 + (if p1 < p2 then p2 else p1)) ≤ (0 : Int32) then (f_J11_newLength_B21 p0 p1 h0) else ((if (2147483639 : Int32) < (p0 + (if p1 < p2 then p2 else p1)) then (f_J11_newLength_B21 p0 p1 h0) else (some ((p0 + (if p1 < p2 then p2 else p1)), h0)))))
theorem hyS_J11_newLength : yJ11_newLength.cls ≠ "java/lang/invoke/MethodHandle" ∧ yJ11_newLength.cls ≠ "java/lang/invoke/VarHandle" ∧ (parseMethodDescriptor yJ11_newLength.desc).map (fun d => d.parameters.length) = some 3 := by decide +kernel
theorem c_J11_newLength {D : va_G} (p0 : Int32) (p1 : Int32) (p2 : Int32) {h0 : PH} (l : Launch) (hl : l.stackTraces = false) (x : Int32) (h1 : PH) (hf : f_J11_newLength p0 p1 p2 h0 = some (x, h1)) : CT l D yJ11_newLength (ws_ yJ11_newLength cJ11_newLength 4 (Option.some FieldType.int)) 1 24 [.int p0, .int p1, .int p2] h0 (ovi x) h1 := by
  refine ct_of hl [some (.int p0), some (.int p1), some (.int p2), none] (by decide) (Nat.le_of_ble_eq_true rfl) rfl (fun Γ => ?_)
  obtain ⟨o, ho⟩ : ∃ o : Int32 × PH, o = (x, h1) := ⟨_, rfl⟩
  rw [← ho] at hf
  have e1 : x = o.1 := by rw [ho]
  have e2 : h1 = o.2 := by rw [ho]
  subst e1 e2
  clear ho
  show PF Γ mi_J11_newLength D h0 (QR Γ D h0 (ovi o.1) o.2) h0 0 [some (.int p0), some (.int p1), some (.int p2), none] []
  unfold f_J11_newLength at hf
  refine j_iload_n 0 dJ11_newLength_0 rfl rfl ?_
  refine j_iload_n 1 dJ11_newLength_1 rfl rfl ?_
  refine j_iload_n 2 dJ11_newLength_2 rfl rfl ?_
  refine j_mmax q287 q288 q106 q289 rfl rfl (by simp [va_rf_cat, cat_i, cat_l]) dJ11_newLength_3 ?_
  refine j_iadd dJ11_newLength_6 ?_
  refine j_istore_n 3 [some (.int p0), some (.int p1), some (.int p2), some (.int (p0 + (if p1 < p2 then p2 else p1)))] dJ11_newLength_7 rfl (cz rfl) rfl rfl ?_
  refine j_iconst (0 : Int32) dJ11_newLength_8 (by decide) ?_
  refine j_iload_n 3 dJ11_newLength_9 rfl rfl ?_
  refine j_icmp_ge 21 dJ11_newLength_10 (by decide) hf (fun c_ hf => ?_) (fun c_ hf => ?_)
  · refine j_weak [some (.int p0), some (.int p1), none, none] (Wk.k (Wk.k (Wk.s (Wk.s Wk.n)))) ?_
    exact pf_J11_newLength_B21 p0 p1 h0 hf
  · refine j_iload_n 3 dJ11_newLength_13 rfl rfl ?_
    refine j_ldc q290 dJ11_newLength_14 ?_
    refine j_icmp_gt 21 dJ11_newLength_16 (by decide) hf (fun c_ hf => ?_) (fun c_ hf => ?_)
    · refine j_weak [some (.int p0), some (.int p1), none, none] (Wk.k (Wk.k (Wk.s (Wk.s Wk.n)))) ?_
      exact pf_J11_newLength_B21 p0 p1 h0 hf
    · refine j_iload_n 3 dJ11_newLength_19 rfl rfl ?_
      have e9 := Option.some.inj hf
      subst e9
      exact j_iret rfl dJ11_newLength_20
abbrev mi_J11_signedHashCode : MI := (cJ11_signedHashCode, 6, RJ11, (Option.some FieldType.int), [], 0, 0, "signedHashCode")
def f_J11_signedHashCode_L8 : Nat → Int32 → Option Nat → Int32 → Int32 → PH → Option (Int32 × PH)
  | 0, _, _, _, _, _ => none
  | n + 1, x0, x1, x4, x5, h => (if x4 ≤ x5 then (some (x0, h)) else (aB h x1 x5 fun v1 => f_J11_signedHashCode_L8 n (((31 : Int32) * x0) + (v1 &&& (255 : Int32))) x1 x4 (x5 + (1 : Int32)) h))
theorem pf_J11_signedHashCode_L8 {Γ : GX} {D : va_G} {h0 : PH} {o : Int32 × PH} : ∀ (n : Nat) (x0 : Int32) (x1 : Option Nat) (x4 : Int32) (x5 : Int32) (h : PH), f_J11_signedHashCode_L8 n x0 x1 x4 x5 h = some o → PF Γ mi_J11_signedHashCode D h0 (QR Γ D h0 (ovi o.1) o.2) h 8 [some (.int x0), some (va_rf x1), none, none, some (.int x4), some (.int x5)] [] := by
  intro n
  induction n with
  | zero => intro x0 x1 x4 x5 h hf; cases hf
  | succ n ih =>
    intro x0 x1 x4 x5 h hf
    refine j_iload dJ11_signedHashCode_8 rfl ?_
    refine j_iload dJ11_signedHashCode_10 rfl ?_
    refine j_icmp_ge 35 dJ11_signedHashCode_12 (by decide) hf (fun c_ hf => ?_) (fun c_ hf => ?_)
    · refine j_iload_n 0 dJ11_signedHashCode_35 rfl rfl ?_
      have e9 := Option.some.inj hf
      subst e9
      exact j_iret rfl dJ11_signedHashCode_36
    · refine j_bipush (31 : Int32) dJ11_signedHashCode_15 (by decide) ?_
      refine j_iload_n 0 dJ11_signedHashCode_17 rfl rfl ?_
      refine j_imul dJ11_signedHashCode_18 ?_
      refine j_aload_n 1 dJ11_signedHashCode_19 rfl rfl ?_
      refine j_iload dJ11_signedHashCode_20 rfl ?_
      refine j_bald dJ11_signedHashCode_22 hf (fun v1 hf => ?_)
      refine j_sipush (255 : Int32) dJ11_signedHashCode_23 (by decide) ?_
      refine j_iand dJ11_signedHashCode_26 ?_
      refine j_iadd dJ11_signedHashCode_27 ?_
      refine j_istore_n 0 [some (.int (((31 : Int32) * x0) + (v1 &&& (255 : Int32)))), some (va_rf x1), none, none, some (.int x4), some (.int x5)] dJ11_signedHashCode_28 rfl (cz rfl) rfl rfl ?_
      refine j_iinc (x5 + (1 : Int32)) [some (.int (((31 : Int32) * x0) + (v1 &&& (255 : Int32)))), some (va_rf x1), none, none, some (.int x4), some (.int (x5 + (1 : Int32)))] dJ11_signedHashCode_29 rfl rfl (cz rfl) rfl rfl ?_
      refine j_goto 8 dJ11_signedHashCode_32 (by decide) ?_
      exact ih (((31 : Int32) * x0) + (v1 &&& (255 : Int32))) x1 x4 (x5 + (1 : Int32)) h hf
def f_J11_signedHashCode (p0 : Int32) (p1 : Option Nat) (p2 : Int32) (p3 : Int32) (h0 : PH) : Option (Int32 × PH) := f_J11_signedHashCode_L8 FU p0 p1 (p2 + p3) p2 h0
theorem hyS_J11_signedHashCode : yJ11_signedHashCode.cls ≠ "java/lang/invoke/MethodHandle" ∧ yJ11_signedHashCode.cls ≠ "java/lang/invoke/VarHandle" ∧ (parseMethodDescriptor yJ11_signedHashCode.desc).map (fun d => d.parameters.length) = some 4 := by decide +kernel
theorem c_J11_signedHashCode {D : va_G} (p0 : Int32) (p1 : Option Nat) (p2 : Int32) (p3 : Int32) {h0 : PH} (l : Launch) (hl : l.stackTraces = false) (x : Int32) (h1 : PH) (hf : f_J11_signedHashCode p0 p1 p2 p3 h0 = some (x, h1)) : CT l D yJ11_signedHashCode (ws_ yJ11_signedHashCode cJ11_signedHashCode 6 (Option.some FieldType.int)) 0 0 [.int p0, va_rf p1, .int p2, .int p3] h0 (ovi x) h1 := by
  refine ct_of hl [some (.int p0), some (va_rf p1), some (.int p2), some (.int p3), none, none] (by decide) (by rw [lgl]; simp [va_rf_cat, cat_i, cat_l]) (by simp [lv_args, vsL, va_rf_cat, cat_i, cat_l]) (fun Γ => ?_)
  obtain ⟨o, ho⟩ : ∃ o : Int32 × PH, o = (x, h1) := ⟨_, rfl⟩
  rw [← ho] at hf
  have e1 : x = o.1 := by rw [ho]
  have e2 : h1 = o.2 := by rw [ho]
  subst e1 e2
  clear ho
  show PF Γ mi_J11_signedHashCode D h0 (QR Γ D h0 (ovi o.1) o.2) h0 0 [some (.int p0), some (va_rf p1), some (.int p2), some (.int p3), none, none] []
  unfold f_J11_signedHashCode at hf
  refine j_iload_n 2 dJ11_signedHashCode_0 rfl rfl ?_
  refine j_iload_n 3 dJ11_signedHashCode_1 rfl rfl ?_
  refine j_iadd dJ11_signedHashCode_2 ?_
  refine j_istore [some (.int p0), some (va_rf p1), some (.int p2), some (.int p3), some (.int (p2 + p3)), none] dJ11_signedHashCode_3 (cz rfl) rfl rfl ?_
  refine j_iload_n 2 dJ11_signedHashCode_5 rfl rfl ?_
  refine j_istore [some (.int p0), some (va_rf p1), some (.int p2), some (.int p3), some (.int (p2 + p3)), some (.int p2)] dJ11_signedHashCode_6 (cz rfl) rfl rfl ?_
  refine j_weak [some (.int p0), some (va_rf p1), none, none, some (.int (p2 + p3)), some (.int p2)] (Wk.k (Wk.k (Wk.s (Wk.s (Wk.k (Wk.k Wk.n)))))) ?_
  exact pf_J11_signedHashCode_L8 FU p0 p1 (p2 + p3) p2 h0 hf
abbrev mi_J11_hashCode_2 : MI := (cJ11_hashCode_2, 6, RJ11, (Option.some FieldType.int), [], 0, 0, "hashCode")
def f_J11_hashCode_2_L8 : Nat → Int32 → Option Nat → Int32 → Int32 → PH → Option (Int32 × PH)
  | 0, _, _, _, _, _ => none
  | n + 1, x0, x1, x4, x5, h => (if x4 ≤ x5 then (some (x0, h)) else (aB h x1 x5 fun v1 => f_J11_hashCode_2_L8 n (((31 : Int32) * x0) + v1) x1 x4 (x5 + (1 : Int32)) h))
theorem pf_J11_hashCode_2_L8 {Γ : GX} {D : va_G} {h0 : PH} {o : Int32 × PH} : ∀ (n : Nat) (x0 : Int32) (x1 : Option Nat) (x4 : Int32) (x5 : Int32) (h : PH), f_J11_hashCode_2_L8 n x0 x1 x4 x5 h = some o → PF Γ mi_J11_hashCode_2 D h0 (QR Γ D h0 (ovi o.1) o.2) h 8 [some (.int x0), some (va_rf x1), none, none, some (.int x4), some (.int x5)] [] := by
  intro n
  induction n with
  | zero => intro x0 x1 x4 x5 h hf; cases hf
  | succ n ih =>
    intro x0 x1 x4 x5 h hf
    refine j_iload dJ11_hashCode_2_8 rfl ?_
    refine j_iload dJ11_hashCode_2_10 rfl ?_
    refine j_icmp_ge 31 dJ11_hashCode_2_12 (by decide) hf (fun c_ hf => ?_) (fun c_ hf => ?_)
    · refine j_iload_n 0 dJ11_hashCode_2_31 rfl rfl ?_
      have e9 := Option.some.inj hf
      subst e9
      exact j_iret rfl dJ11_hashCode_2_32
    · refine j_bipush (31 : Int32) dJ11_hashCode_2_15 (by decide) ?_
      refine j_iload_n 0 dJ11_hashCode_2_17 rfl rfl ?_
      refine j_imul dJ11_hashCode_2_18 ?_
      refine j_aload_n 1 dJ11_hashCode_2_19 rfl rfl ?_
      refine j_iload dJ11_hashCode_2_20 rfl ?_
      refine j_bald dJ11_hashCode_2_22 hf (fun v1 hf => ?_)
      refine j_iadd dJ11_hashCode_2_23 ?_
      refine j_istore_n 0 [some (.int (((31 : Int32) * x0) + v1)), some (va_rf x1), none, none, some (.int x4), some (.int x5)] dJ11_hashCode_2_24 rfl (cz rfl) rfl rfl ?_
      refine j_iinc (x5 + (1 : Int32)) [some (.int (((31 : Int32) * x0) + v1)), some (va_rf x1), none, none, some (.int x4), some (.int (x5 + (1 : Int32)))] dJ11_hashCode_2_25 rfl rfl (cz rfl) rfl rfl ?_
      refine j_goto 8 dJ11_hashCode_2_28 (by decide) ?_
      exact ih (((31 : Int32) * x0) + v1) x1 x4 (x5 + (1 : Int32)) h hf
def f_J11_hashCode_2 (p0 : Int32) (p1 : Option Nat) (p2 : Int32) (p3 : Int32) (h0 : PH) : Option (Int32 × PH) := f_J11_hashCode_2_L8 FU p0 p1 (p2 + p3) p2 h0
theorem hyS_J11_hashCode_2 : yJ11_hashCode_2.cls ≠ "java/lang/invoke/MethodHandle" ∧ yJ11_hashCode_2.cls ≠ "java/lang/invoke/VarHandle" ∧ (parseMethodDescriptor yJ11_hashCode_2.desc).map (fun d => d.parameters.length) = some 4 := by decide +kernel
theorem c_J11_hashCode_2 {D : va_G} (p0 : Int32) (p1 : Option Nat) (p2 : Int32) (p3 : Int32) {h0 : PH} (l : Launch) (hl : l.stackTraces = false) (x : Int32) (h1 : PH) (hf : f_J11_hashCode_2 p0 p1 p2 p3 h0 = some (x, h1)) : CT l D yJ11_hashCode_2 (ws_ yJ11_hashCode_2 cJ11_hashCode_2 6 (Option.some FieldType.int)) 0 0 [.int p0, va_rf p1, .int p2, .int p3] h0 (ovi x) h1 := by
  refine ct_of hl [some (.int p0), some (va_rf p1), some (.int p2), some (.int p3), none, none] (by decide) (by rw [lgl]; simp [va_rf_cat, cat_i, cat_l]) (by simp [lv_args, vsL, va_rf_cat, cat_i, cat_l]) (fun Γ => ?_)
  obtain ⟨o, ho⟩ : ∃ o : Int32 × PH, o = (x, h1) := ⟨_, rfl⟩
  rw [← ho] at hf
  have e1 : x = o.1 := by rw [ho]
  have e2 : h1 = o.2 := by rw [ho]
  subst e1 e2
  clear ho
  show PF Γ mi_J11_hashCode_2 D h0 (QR Γ D h0 (ovi o.1) o.2) h0 0 [some (.int p0), some (va_rf p1), some (.int p2), some (.int p3), none, none] []
  unfold f_J11_hashCode_2 at hf
  refine j_iload_n 2 dJ11_hashCode_2_0 rfl rfl ?_
  refine j_iload_n 3 dJ11_hashCode_2_1 rfl rfl ?_
  refine j_iadd dJ11_hashCode_2_2 ?_
  refine j_istore [some (.int p0), some (va_rf p1), some (.int p2), some (.int p3), some (.int (p2 + p3)), none] dJ11_hashCode_2_3 (cz rfl) rfl rfl ?_
  refine j_iload_n 2 dJ11_hashCode_2_5 rfl rfl ?_
  refine j_istore [some (.int p0), some (va_rf p1), some (.int p2), some (.int p3), some (.int (p2 + p3)), some (.int p2)] dJ11_hashCode_2_6 (cz rfl) rfl rfl ?_
  refine j_weak [some (.int p0), some (va_rf p1), none, none, some (.int (p2 + p3)), some (.int p2)] (Wk.k (Wk.k (Wk.s (Wk.s (Wk.k (Wk.k Wk.n)))))) ?_
  exact pf_J11_hashCode_2_L8 FU p0 p1 (p2 + p3) p2 h0 hf
abbrev mi_J13_copyOf : MI := (cJ13_copyOf, 3, RJ13, (Option.some (FieldType.array FieldType.byte)), [], 1, 60, "copyOf")
def f_J13_copyOf (p0 : Option Nat) (p1 : Int32) (h0 : PH) : Option (Option Nat × PH) := aN h0 p0 1 fun v1 => (if p1 = v1 then (yC h0 p0 fun a6 h7 => kB h7 (some a6) (some ((some a6), h7))) else (nA h0 1 p1 (.inl fun _ => 0) fun a2 h3 => aN h3 p0 1 fun v4 => ycI h3 p0 (0 : Int32) (some a2) (0 : Int32) (if p1 < v4 then p1 else v4) 1 (fun x => fits .byte (.int x)) fun h5 => some ((some a2), h5)))
theorem hyS_J13_copyOf : yJ13_copyOf.cls ≠ "java/lang/invoke/MethodHandle" ∧ yJ13_copyOf.cls ≠ "java/lang/invoke/VarHandle" ∧ (parseMethodDescriptor yJ13_copyOf.desc).map (fun d => d.parameters.length) = some 2 := by decide +kernel
theorem c_J13_copyOf {D : va_G} (p0 : Option Nat) (p1 : Int32) {h0 : PH} (l : Launch) (hl : l.stackTraces = false) (x : Option Nat) (h1 : PH) (hf : f_J13_copyOf p0 p1 h0 = some (x, h1)) : CT l D yJ13_copyOf (ws_ yJ13_copyOf cJ13_copyOf 3 (Option.some (FieldType.array FieldType.byte))) 1 60 [va_rf p0, .int p1] h0 (ovr x) h1 := by
  refine ct_of hl [some (va_rf p0), some (.int p1), none] (by decide) (by rw [lgl]; simp [va_rf_cat, cat_i, cat_l]) (by simp [lv_args, vsL, va_rf_cat, cat_i, cat_l]) (fun Γ => ?_)
  obtain ⟨o, ho⟩ : ∃ o : Option Nat × PH, o = (x, h1) := ⟨_, rfl⟩
  rw [← ho] at hf
  have e1 : x = o.1 := by rw [ho]
  have e2 : h1 = o.2 := by rw [ho]
  subst e1 e2
  clear ho
  show PF Γ mi_J13_copyOf D h0 (QR Γ D h0 (ovr o.1) o.2) h0 0 [some (va_rf p0), some (.int p1), none] []
  unfold f_J13_copyOf at hf
  refine j_iload_n 1 dJ13_copyOf_0 rfl rfl ?_
  refine j_aload_n 0 dJ13_copyOf_1 rfl rfl ?_
  refine j_alen (t := 1) rfl dJ13_copyOf_2 hf (fun v1 hf => ?_)
  refine j_icmp_ne 14 dJ13_copyOf_3 (by decide) hf (fun c_ hf => ?_) (fun c_ hf => ?_)
  · refine j_iload_n 1 dJ13_copyOf_14 rfl rfl ?_
    refine j_nA (t := 1) (atype := .byte) (ty := .byte) rfl (fun _ => rfl) (fun _ _ => rfl) (by decide) (fun _ _ h9 => h9) q168 dJ13_copyOf_15 hf (fun a2 h3 hf => ?_)
    refine j_astore_n 2 [some (va_rf p0), some (.int p1), some (va_rf (some a2))] dJ13_copyOf_17 rfl (cz rfl) rfl rfl ?_
    refine j_aload_n 0 dJ13_copyOf_18 rfl rfl ?_
    refine j_iconst (0 : Int32) dJ13_copyOf_19 (by decide) ?_
    refine j_aload_n 2 dJ13_copyOf_20 rfl rfl ?_
    refine j_iconst (0 : Int32) dJ13_copyOf_21 (by decide) ?_
    refine j_aload_n 0 dJ13_copyOf_22 rfl rfl ?_
    refine j_alen (t := 1) rfl dJ13_copyOf_23 hf (fun v4 hf => ?_)
    refine j_iload_n 1 dJ13_copyOf_24 rfl rfl ?_
    refine j_mmin q305 q306 q106 q307 rfl rfl (by simp [va_rf_cat, cat_i, cat_l]) dJ13_copyOf_25 ?_
    refine j_ycI (t := 1) (ty := .byte) rfl (fun _ h9 => h9) rfl q308 q310 q309 q108 rfl rfl (by decide) dJ13_copyOf_28 hf (fun h5 hf => ?_)
    refine j_aload_n 2 dJ13_copyOf_31 rfl rfl ?_
    have e9 := Option.some.inj hf
    subst e9
    exact j_aret rfl (Or.inr ⟨_, rfl⟩) dJ13_copyOf_32
  · refine j_aload_n 0 dJ13_copyOf_6 rfl rfl ?_
    refine j_clone q298 q299 q300 q301 q302 q303 rfl rfl (by decide) dJ13_copyOf_7 hf (fun a6 h7 hf => ?_)
    refine j_kB q304 dJ13_copyOf_10 hf (fun hf => ?_)
    have e9 := Option.some.inj hf
    subst e9
    exact j_aret rfl (Or.inr ⟨_, rfl⟩) dJ13_copyOf_13
abbrev mi_J13_checkLength : MI := (cJ13_checkLength, 2, RJ13, none, [], 0, 0, "checkLength")
def f_J13_checkLength (p0 : Int32) (p1 : Int32) (h0 : PH) : Option (Unit × PH) := (if p0 ≤ p1 then (some ((), h0)) else (none))
theorem hyS_J13_checkLength : yJ13_checkLength.cls ≠ "java/lang/invoke/MethodHandle" ∧ yJ13_checkLength.cls ≠ "java/lang/invoke/VarHandle" ∧ (parseMethodDescriptor yJ13_checkLength.desc).map (fun d => d.parameters.length) = some 2 := by decide +kernel
theorem c_J13_checkLength {D : va_G} (p0 : Int32) (p1 : Int32) {h0 : PH} (l : Launch) (hl : l.stackTraces = false) (x : Unit) (h1 : PH) (hf : f_J13_checkLength p0 p1 h0 = some (x, h1)) : CT l D yJ13_checkLength (ws_ yJ13_checkLength cJ13_checkLength 2 none) 0 0 [.int p0, .int p1] h0 (ovv x) h1 := by
  refine ct_of hl [some (.int p0), some (.int p1)] (by decide) (Nat.le_of_ble_eq_true rfl) rfl (fun Γ => ?_)
  obtain ⟨o, ho⟩ : ∃ o : Unit × PH, o = (x, h1) := ⟨_, rfl⟩
  rw [← ho] at hf
  have e1 : x = o.1 := by rw [ho]
  have e2 : h1 = o.2 := by rw [ho]
  subst e1 e2
  clear ho
  show PF Γ mi_J13_checkLength D h0 (QR Γ D h0 (ovv o.1) o.2) h0 0 [some (.int p0), some (.int p1)] []
  unfold f_J13_checkLength at hf
  refine j_iload_n 1 dJ13_checkLength_0 rfl rfl ?_
  refine j_iload_n 0 dJ13_checkLength_1 rfl rfl ?_
  refine j_icmp_ge 37 dJ13_checkLength_2 (by decide) hf (fun c_ hf => ?_) (fun c_ hf => ?_)
  · have e9 := Option.some.inj hf
    subst e9
    exact j_vret rfl dJ13_checkLength_37
  · cases hf
abbrev mi_J13_copyOf_3 : MI := (cJ13_copyOf_3, 4, RJ13, (Option.some (FieldType.array (FieldType.object "java/lang/Object"))), [], 1, 60, "copyOf")
def f_J13_copyOf_3_B24 (x0 : Option Nat) (x1 : Int32) (t0 : Option Nat) (h : PH) : Option (Option Nat × PH) := aN h x0 4 fun v3 => ycQ h x0 (0 : Int32) t0 (0 : Int32) (if x1 < v3 then x1 else v3) fun h4 => some (t0, h4)
theorem pf_J13_copyOf_3_B24 {Γ : GX} {D : va_G} {h0 : PH} {o : Option Nat × PH} (x0 : Option Nat) (x1 : Int32) (t0 : Option Nat) (h : PH) (hf : f_J13_copyOf_3_B24 x0 x1 t0 h = some o) : PF Γ mi_J13_copyOf_3 D h0 (QR Γ D h0 (ovr o.1) o.2) h 24 [some (va_rf x0), some (.int x1), none, none] [va_rf t0] := by
  refine j_astore_n 3 [some (va_rf x0), some (.int x1), none, some (va_rf t0)] dJ13_copyOf_3_24 rfl cn' rfl rfl ?_
  refine j_aload_n 0 dJ13_copyOf_3_25 rfl rfl ?_
  refine j_iconst (0 : Int32) dJ13_copyOf_3_26 (by decide) ?_
  refine j_aload_n 3 dJ13_copyOf_3_27 rfl rfl ?_
  refine j_iconst (0 : Int32) dJ13_copyOf_3_28 (by decide) ?_
  refine j_aload_n 0 dJ13_copyOf_3_29 rfl rfl ?_
  refine j_alen (t := 4) rfl dJ13_copyOf_3_30 hf (fun v3 hf => ?_)
  refine j_iload_n 1 dJ13_copyOf_3_31 rfl rfl ?_
  refine j_mmin q305 q306 q106 q307 rfl rfl (by simp [va_rf_cat, cat_i, cat_l]) dJ13_copyOf_3_32 ?_
  refine j_ycQ q308 q310 q309 q108 rfl rfl (by decide) dJ13_copyOf_3_35 hf (fun h4 hf => ?_)
  refine j_aload_n 3 dJ13_copyOf_3_38 rfl rfl ?_
  have e9 := Option.some.inj hf
  subst e9
  exact j_aret rfl (Or.inr ⟨_, rfl⟩) dJ13_copyOf_3_39
def f_J13_copyOf_3 (p0 : Option Nat) (p1 : Int32) (p2 : Option Nat) (h0 : PH) : Option (Option Nat × PH) := (if p2 = (some (sAd h0.2.1 40)) then (nA h0 4 p1 aNul fun a1 h2 => f_J13_copyOf_3_B24 p0 p1 (some a1) h2) else (none))
theorem hyS_J13_copyOf_3 : yJ13_copyOf_3.cls ≠ "java/lang/invoke/MethodHandle" ∧ yJ13_copyOf_3.cls ≠ "java/lang/invoke/VarHandle" ∧ (parseMethodDescriptor yJ13_copyOf_3.desc).map (fun d => d.parameters.length) = some 3 := by decide +kernel
theorem c_J13_copyOf_3 {D : va_G} (p0 : Option Nat) (p1 : Int32) (p2 : Option Nat) {h0 : PH} (l : Launch) (hl : l.stackTraces = false) (x : Option Nat) (h1 : PH) (hf : f_J13_copyOf_3 p0 p1 p2 h0 = some (x, h1)) : CT l D yJ13_copyOf_3 (ws_ yJ13_copyOf_3 cJ13_copyOf_3 4 (Option.some (FieldType.array (FieldType.object "java/lang/Object")))) 1 60 [va_rf p0, .int p1, va_rf p2] h0 (ovr x) h1 := by
  refine ct_of hl [some (va_rf p0), some (.int p1), some (va_rf p2), none] (by decide) (by rw [lgl]; simp [va_rf_cat, cat_i, cat_l]) (by simp [lv_args, vsL, va_rf_cat, cat_i, cat_l]) (fun Γ => ?_)
  obtain ⟨o, ho⟩ : ∃ o : Option Nat × PH, o = (x, h1) := ⟨_, rfl⟩
  rw [← ho] at hf
  have e1 : x = o.1 := by rw [ho]
  have e2 : h1 = o.2 := by rw [ho]
  subst e1 e2
  clear ho
  show PF Γ mi_J13_copyOf_3 D h0 (QR Γ D h0 (ovr o.1) o.2) h0 0 [some (va_rf p0), some (.int p1), some (va_rf p2), none] []
  unfold f_J13_copyOf_3 at hf
  refine j_aload_n 2 dJ13_copyOf_3_0 rfl rfl ?_
  refine j_ldcM q630 dJ13_copyOf_3_1 ?_
  refine j_acmp_ne 13 dJ13_copyOf_3_3 (by decide) hf (fun c_ hf => ?_) (fun c_ hf => ?_)
  · refine j_aload_n 2 dJ13_copyOf_3_13 rfl rfl ?_
    cases hf
  · refine j_iload_n 1 dJ13_copyOf_3_6 rfl rfl ?_
    refine j_nQ (t := 4) rfl q631 q182 dJ13_copyOf_3_7 hf (fun a1 h2 hf => ?_)
    refine j_goto 24 dJ13_copyOf_3_10 (by decide) ?_
    refine j_weak [some (va_rf p0), some (.int p1), none, none] (Wk.k (Wk.k (Wk.s (Wk.k Wk.n)))) ?_
    exact pf_J13_copyOf_3_B24 p0 p1 (some a1) h2 hf
abbrev mi_J15_canEncode : MI := (cJ15_canEncode, 1, RJ15, (Option.some FieldType.boolean), [], 0, 0, "canEncode")
def f_J15_canEncode_B12 (t0 : Int32) (h : PH) : Option (Int32 × PH) := rN .boolean t0 (fun v => v) h
theorem pf_J15_canEncode_B12 {Γ : GX} {D : va_G} {h0 : PH} {o : Int32 × PH} (t0 : Int32) (h : PH) (hf : f_J15_canEncode_B12 t0 h = some o) : PF Γ mi_J15_canEncode D h0 (QR Γ D h0 (ovi o.1) o.2) h 12 [none] [.int t0] := by
  obtain ⟨hn9, hf⟩ := rN_in hf
  subst hf
  exact j_zret rfl (nar_z _ hn9) dJ15_canEncode_12
def f_J15_canEncode (p0 : Int32) (h0 : PH) : Option (Int32 × PH) := (if (255 : Int32) < p0 then (f_J15_canEncode_B12 (0 : Int32) h0) else (f_J15_canEncode_B12 (1 : Int32) h0))
theorem hyS_J15_canEncode : yJ15_canEncode.cls ≠ "java/lang/invoke/MethodHandle" ∧ yJ15_canEncode.cls ≠ "java/lang/invoke/VarHandle" ∧ (parseMethodDescriptor yJ15_canEncode.desc).map (fun d => d.parameters.length) = some 1 := by decide +kernel
theorem c_J15_canEncode {D : va_G} (p0 : Int32) {h0 : PH} (l : Launch) (hl : l.stackTraces = false) (x : Int32) (h1 : PH) (hf : f_J15_canEncode p0 h0 = some (x, h1)) : CT l D yJ15_canEncode (ws_ yJ15_canEncode cJ15_canEncode 1 (Option.some FieldType.boolean)) 0 0 [.int p0] h0 (ovi x) h1 := by
  refine ct_of hl [some (.int p0)] (by decide) (Nat.le_of_ble_eq_true rfl) rfl (fun Γ => ?_)
  obtain ⟨o, ho⟩ : ∃ o : Int32 × PH, o = (x, h1) := ⟨_, rfl⟩
  rw [← ho] at hf
  have e1 : x = o.1 := by rw [ho]
  have e2 : h1 = o.2 := by rw [ho]
  subst e1 e2
  clear ho
  show PF Γ mi_J15_canEncode D h0 (QR Γ D h0 (ovi o.1) o.2) h0 0 [some (.int p0)] []
  unfold f_J15_canEncode at hf
  refine j_iload_n 0 dJ15_canEncode_0 rfl rfl ?_
  refine j_sipush (255 : Int32) dJ15_canEncode_1 (by decide) ?_
  refine j_icmp_gt 11 dJ15_canEncode_4 (by decide) hf (fun c_ hf => ?_) (fun c_ hf => ?_)
  · refine j_iconst (0 : Int32) dJ15_canEncode_11 (by decide) ?_
    refine j_weak [none] (Wk.s Wk.n) ?_
    exact pf_J15_canEncode_B12 (0 : Int32) h0 hf
  · refine j_iconst (1 : Int32) dJ15_canEncode_7 (by decide) ?_
    refine j_goto 12 dJ15_canEncode_8 (by decide) ?_
    refine j_weak [none] (Wk.s Wk.n) ?_
    exact pf_J15_canEncode_B12 (1 : Int32) h0 hf
abbrev mi_J15_equals : MI := (cJ15_equals, 3, RJ15, (Option.some FieldType.boolean), [], 0, 0, "equals")
def f_J15_equals_L9 : Nat → Option Nat → Option Nat → Int32 → PH → Option (Int32 × PH)
  | 0, _, _, _, _ => none
  | n + 1, x0, x1, x2, h => aN h x0 1 fun v3 => (if v3 ≤ x2 then (rN .boolean (1 : Int32) (fun v => v) h) else (aB h x0 x2 fun v4 => aB h x1 x2 fun v5 => (if v4 = v5 then (f_J15_equals_L9 n x0 x1 (x2 + (1 : Int32)) h) else (rN .boolean (0 : Int32) (fun v => v) h))))
theorem pf_J15_equals_L9 {Γ : GX} {D : va_G} {h0 : PH} {o : Int32 × PH} : ∀ (n : Nat) (x0 : Option Nat) (x1 : Option Nat) (x2 : Int32) (h : PH), f_J15_equals_L9 n x0 x1 x2 h = some o → PF Γ mi_J15_equals D h0 (QR Γ D h0 (ovi o.1) o.2) h 9 [some (va_rf x0), some (va_rf x1), some (.int x2)] [] := by
  intro n
  induction n with
  | zero => intro x0 x1 x2 h hf; cases hf
  | succ n ih =>
    intro x0 x1 x2 h hf
    refine j_iload_n 2 dJ15_equals_9 rfl rfl ?_
    refine j_aload_n 0 dJ15_equals_10 rfl rfl ?_
    refine j_alen (t := 1) rfl dJ15_equals_11 hf (fun v3 hf => ?_)
    refine j_icmp_ge 32 dJ15_equals_12 (by decide) hf (fun c_ hf => ?_) (fun c_ hf => ?_)
    · refine j_iconst (1 : Int32) dJ15_equals_32 (by decide) ?_
      obtain ⟨hn9, hf⟩ := rN_in hf
      subst hf
      exact j_zret rfl (nar_z _ hn9) dJ15_equals_33
    · refine j_aload_n 0 dJ15_equals_15 rfl rfl ?_
      refine j_iload_n 2 dJ15_equals_16 rfl rfl ?_
      refine j_bald dJ15_equals_17 hf (fun v4 hf => ?_)
      refine j_aload_n 1 dJ15_equals_18 rfl rfl ?_
      refine j_iload_n 2 dJ15_equals_19 rfl rfl ?_
      refine j_bald dJ15_equals_20 hf (fun v5 hf => ?_)
      refine j_icmp_eq 26 dJ15_equals_21 (by decide) hf (fun c_ hf => ?_) (fun c_ hf => ?_)
      · refine j_iinc (x2 + (1 : Int32)) [some (va_rf x0), some (va_rf x1), some (.int (x2 + (1 : Int32)))] dJ15_equals_26 rfl rfl (cz (va_rf_cat _)) rfl rfl ?_
        refine j_goto 9 dJ15_equals_29 (by decide) ?_
        exact ih x0 x1 (x2 + (1 : Int32)) h hf
      · refine j_iconst (0 : Int32) dJ15_equals_24 (by decide) ?_
        obtain ⟨hn9, hf⟩ := rN_in hf
        subst hf
        exact j_zret rfl (nar_z _ hn9) dJ15_equals_25
def f_J15_equals (p0 : Option Nat) (p1 : Option Nat) (h0 : PH) : Option (Int32 × PH) := aN h0 p0 1 fun v1 => aN h0 p1 1 fun v2 => (if v1 = v2 then (f_J15_equals_L9 FU p0 p1 (0 : Int32) h0) else (rN .boolean (0 : Int32) (fun v => v) h0))
theorem hyS_J15_equals : yJ15_equals.cls ≠ "java/lang/invoke/MethodHandle" ∧ yJ15_equals.cls ≠ "java/lang/invoke/VarHandle" ∧ (parseMethodDescriptor yJ15_equals.desc).map (fun d => d.parameters.length) = some 2 := by decide +kernel
theorem c_J15_equals {D : va_G} (p0 : Option Nat) (p1 : Option Nat) {h0 : PH} (l : Launch) (hl : l.stackTraces = false) (x : Int32) (h1 : PH) (hf : f_J15_equals p0 p1 h0 = some (x, h1)) : CT l D yJ15_equals (ws_ yJ15_equals cJ15_equals 3 (Option.some FieldType.boolean)) 0 0 [va_rf p0, va_rf p1] h0 (ovi x) h1 := by
  refine ct_of hl [some (va_rf p0), some (va_rf p1), none] (by decide) (by rw [lgl]; simp [va_rf_cat, cat_i, cat_l]) (by simp [lv_args, vsL, va_rf_cat, cat_i, cat_l]) (fun Γ => ?_)
  obtain ⟨o, ho⟩ : ∃ o : Int32 × PH, o = (x, h1) := ⟨_, rfl⟩
  rw [← ho] at hf
  have e1 : x = o.1 := by rw [ho]
  have e2 : h1 = o.2 := by rw [ho]
  subst e1 e2
  clear ho
  show PF Γ mi_J15_equals D h0 (QR Γ D h0 (ovi o.1) o.2) h0 0 [some (va_rf p0), some (va_rf p1), none] []
  unfold f_J15_equals at hf
  refine j_aload_n 0 dJ15_equals_0 rfl rfl ?_
  refine j_alen (t := 1) rfl dJ15_equals_1 hf (fun v1 hf => ?_)
  refine j_aload_n 1 dJ15_equals_2 rfl rfl ?_
  refine j_alen (t := 1) rfl dJ15_equals_3 hf (fun v2 hf => ?_)
  refine j_icmp_ne 34 dJ15_equals_4 (by decide) hf (fun c_ hf => ?_) (fun c_ hf => ?_)
  · refine j_iconst (0 : Int32) dJ15_equals_34 (by decide) ?_
    obtain ⟨hn9, hf⟩ := rN_in hf
    subst hf
    exact j_zret rfl (nar_z _ hn9) dJ15_equals_35
  · refine j_iconst (0 : Int32) dJ15_equals_7 (by decide) ?_
    refine j_istore_n 2 [some (va_rf p0), some (va_rf p1), some (.int (0 : Int32))] dJ15_equals_8 rfl (cz (va_rf_cat _)) rfl rfl ?_
    exact pf_J15_equals_L9 FU p0 p1 (0 : Int32) h0 hf
abbrev mi_J9_coder : MI := (cJ9_coder, 1, RJ9, (Option.some FieldType.byte), [], 0, 0, "coder")
def f_J9_coder_B14 (t0 : Int32) (h : PH) : Option (Int32 × PH) := rN .byte t0 (fun v => v) h
theorem pf_J9_coder_B14 {Γ : GX} {D : va_G} {h0 : PH} {o : Int32 × PH} (t0 : Int32) (h : PH) (hf : f_J9_coder_B14 t0 h = some o) : PF Γ mi_J9_coder D h0 (QR Γ D h0 (ovi o.1) o.2) h 14 [none] [.int t0] := by
  obtain ⟨hn9, hf⟩ := rN_in hf
  subst hf
  exact j_zret rfl (nar_b _ hn9) dJ9_coder_14
def f_J9_coder (r0 : Option Nat) (h0 : PH) : Option (Int32 × PH) := asI (some (h0.2.1.1 9)) fun v1 => (if v1 = 0 then (f_J9_coder_B14 (1 : Int32) h0) else (gI h0 r0 22 1 fun v2 => f_J9_coder_B14 v2 h0))
theorem hyS_J9_coder : yJ9_coder.cls ≠ "java/lang/invoke/MethodHandle" ∧ yJ9_coder.cls ≠ "java/lang/invoke/VarHandle" ∧ (parseMethodDescriptor yJ9_coder.desc).map (fun d => d.parameters.length) = some 0 := by decide +kernel
theorem hyV_J9_coder : yJ9_coder.cls = RJ9 ∧ yJ9_coder.cls ≠ "java/lang/invoke/MethodHandle" ∧ yJ9_coder.cls ≠ "java/lang/invoke/VarHandle" ∧ (parseMethodDescriptor yJ9_coder.desc).map (fun d => d.parameters.length) = some 0 := by decide +kernel
theorem c_J9_coder {D : va_G} (r0 : Option Nat) {h0 : PH} (l : Launch) (hl : l.stackTraces = false) (x : Int32) (h1 : PH) (hf : f_J9_coder r0 h0 = some (x, h1)) : CT l D yJ9_coder (ws_ yJ9_coder cJ9_coder 1 (Option.some FieldType.byte)) 0 0 [va_rf r0] h0 (ovi x) h1 := by
  refine ct_of hl [some (va_rf r0)] (by decide) (by rw [lgl]; simp [va_rf_cat, cat_i, cat_l]) (by simp [lv_args, vsL, va_rf_cat, cat_i, cat_l]) (fun Γ => ?_)
  obtain ⟨o, ho⟩ : ∃ o : Int32 × PH, o = (x, h1) := ⟨_, rfl⟩
  rw [← ho] at hf
  have e1 : x = o.1 := by rw [ho]
  have e2 : h1 = o.2 := by rw [ho]
  subst e1 e2
  clear ho
  show PF Γ mi_J9_coder D h0 (QR Γ D h0 (ovi o.1) o.2) h0 0 [some (va_rf r0)] []
  unfold f_J9_coder at hf
  refine j_gsI (i := 9) rfl q350 dJ9_coder_0 hf (fun v1 hf => ?_)
  refine j_if_eq 13 dJ9_coder_3 (by decide) hf (fun c_ hf => ?_) (fun c_ hf => ?_)
  · refine j_iconst (1 : Int32) dJ9_coder_13 (by decide) ?_
    refine j_weak [none] (Wk.s Wk.n) ?_
    exact pf_J9_coder_B14 (1 : Int32) h0 hf
  · refine j_aload_n 0 dJ9_coder_6 rfl rfl ?_
    refine j_gI (ci := 22) (k := 1) rfl in_J9 rfl q492 dJ9_coder_7 hf (fun v2 hf => ?_)
    refine j_goto 14 dJ9_coder_10 (by decide) ?_
    refine j_weak [none] (Wk.s Wk.n) ?_
    exact pf_J9_coder_B14 v2 h0 hf
theorem kc_J9_1059 {Γ : GX} {I : MI} {D : va_G} {h0 : PH} {Q : State → Prop} {h : PH} {pc : Nat} {vs : List (Option Value)} {rest : List Value} {β : Type} {o : β} {p0 : Int32} {p1 : Int32} {p2 : Option Nat} {K : ((Int32) → PH → Option β)} (hI : I.2.2.1 = RJ9) (hfr : Nat.ble 1 I.2.2.2.2.2.1 = true) (hlo : Nat.ble 22 I.2.2.2.2.2.2.1 = true) (hW : (rest.map fun v => v.category).sum ≤ 8) (hd : decode I.1 pc = .ok (.invokestatic 1059, 3)) (hf : cl_ (f_J14_checkIndex p0 p1 p2 h) K = some o) (kk : ∀ (x : Int32) (h1 : PH), K x h1 = some o → PF Γ I D h0 Q h1 (pc + 3) vs (.int x :: rest)) : PF Γ I D h0 Q h pc vs (va_rf p2 :: .int p1 :: .int p0 :: rest) := by
  obtain ⟨cc, nL, own, rt, xt, fr, lo, nm⟩ := I
  cases hI
  exact j_cSi (n := 3) (y := yJ14_checkIndex) (cc2 := cJ14_checkIndex) (As := [.int p0, .int p1, va_rf p2]) (lw_S q972 q705 q109 q706) hyS_J14_checkIndex hfr hlo rfl hW hd (c_J14_checkIndex p0 p1 p2) hf _ rfl kk
abbrev mi_J9_checkIndex : MI := (cJ9_checkIndex, 2, RJ9, none, [], 1, 22, "checkIndex")
def f_J9_checkIndex (p0 : Int32) (p1 : Int32) (h0 : PH) : Option (Unit × PH) := asR (some (h0.2.1.1 12)) fun r1 => cl_ (f_J14_checkIndex p0 p1 r1 h0) fun v3 h2 => some ((), h2)
theorem hyS_J9_checkIndex : yJ9_checkIndex.cls ≠ "java/lang/invoke/MethodHandle" ∧ yJ9_checkIndex.cls ≠ "java/lang/invoke/VarHandle" ∧ (parseMethodDescriptor yJ9_checkIndex.desc).map (fun d => d.parameters.length) = some 2 := by decide +kernel
theorem c_J9_checkIndex {D : va_G} (p0 : Int32) (p1 : Int32) {h0 : PH} (l : Launch) (hl : l.stackTraces = false) (x : Unit) (h1 : PH) (hf : f_J9_checkIndex p0 p1 h0 = some (x, h1)) : CT l D yJ9_checkIndex (ws_ yJ9_checkIndex cJ9_checkIndex 2 none) 1 22 [.int p0, .int p1] h0 (ovv x) h1 := by
  refine ct_of hl [some (.int p0), some (.int p1)] (by decide) (Nat.le_of_ble_eq_true rfl) rfl (fun Γ => ?_)
  obtain ⟨o, ho⟩ : ∃ o : Unit × PH, o = (x, h1) := ⟨_, rfl⟩
  rw [← ho] at hf
  have e1 : x = o.1 := by rw [ho]
  have e2 : h1 = o.2 := by rw [ho]
  subst e1 e2
  clear ho
  show PF Γ mi_J9_checkIndex D h0 (QR Γ D h0 (ovv o.1) o.2) h0 0 [some (.int p0), some (.int p1)] []
  unfold f_J9_checkIndex at hf
  refine j_iload_n 0 dJ9_checkIndex_0 rfl rfl ?_
  refine j_iload_n 1 dJ9_checkIndex_1 rfl rfl ?_
  refine j_gsR (i := 12) rfl q328 dJ9_checkIndex_2 hf (fun r1 hf => ?_)
  refine kc_J9_1059 rfl rfl rfl (by decide) dJ9_checkIndex_5 hf (fun v3 h2 hf => ?_)
  refine j_pop dJ9_checkIndex_8 rfl ?_
  have e9 := Option.some.inj hf
  subst e9
  exact j_vret rfl dJ9_checkIndex_9
theorem kc_J9_541 {Γ : GX} {I : MI} {D : va_G} {h0 : PH} {Q : State → Prop} {h : PH} {pc : Nat} {vs : List (Option Value)} {rest : List Value} {β : Type} {o : β} {p0 : Option Nat} {p1 : Option Nat} {K : ((Int32) → PH → Option β)} (hI : I.2.2.1 = RJ9) (hfr : Nat.ble 1 I.2.2.2.2.2.1 = true) (hlo : Nat.ble 22 I.2.2.2.2.2.2.1 = true) (hW : (rest.map fun v => v.category).sum ≤ 8) (hd : decode I.1 pc = .ok (.invokestatic 541, 3)) (hf : cl_ (f_J15_equals p0 p1 h) K = some o) (kk : ∀ (x : Int32) (h1 : PH), K x h1 = some o → PF Γ I D h0 Q h1 (pc + 3) vs (.int x :: rest)) : PF Γ I D h0 Q h pc vs (va_rf p1 :: va_rf p0 :: rest) := by
  obtain ⟨cc, nL, own, rt, xt, fr, lo, nm⟩ := I
  cases hI
  exact j_cSi (n := 2) (y := yJ15_equals) (cc2 := cJ15_equals) (As := [va_rf p0, va_rf p1]) (lw_S q981 q982 q110 q983) hyS_J15_equals hfr hlo rfl hW hd (c_J15_equals p0 p1) hf _ rfl kk
abbrev mi_J9_equals : MI := (cJ9_equals, 3, RJ9, (Option.some FieldType.boolean), [], 1, 22, "equals")
def f_J9_equals_B55 (t0 : Int32) (h : PH) : Option (Int32 × PH) := rN .boolean t0 (fun v => v) h
theorem pf_J9_equals_B55 {Γ : GX} {D : va_G} {h0 : PH} {o : Int32 × PH} (t0 : Int32) (h : PH) (hf : f_J9_equals_B55 t0 h = some o) : PF Γ mi_J9_equals D h0 (QR Γ D h0 (ovi o.1) o.2) h 55 [none, none, none] [.int t0] := by
  obtain ⟨hn9, hf⟩ := rN_in hf
  subst hf
  exact j_zret rfl (nar_z _ hn9) dJ9_equals_55
def f_J9_equals_B54  (h : PH) : Option (Int32 × PH) := f_J9_equals_B55 (0 : Int32) h
theorem pf_J9_equals_B54 {Γ : GX} {D : va_G} {h0 : PH} {o : Int32 × PH}  (h : PH) (hf : f_J9_equals_B54  h = some o) : PF Γ mi_J9_equals D h0 (QR Γ D h0 (ovi o.1) o.2) h 54 [none, none, none] [] := by
  refine j_iconst (0 : Int32) dJ9_equals_54 (by decide) ?_
  exact pf_J9_equals_B55 (0 : Int32) h hf
def f_J9_equals_B36 (x0 : Option Nat) (x2 : Option Nat) (h : PH) : Option (Int32 × PH) := gR h x0 22 0 fun r5 => gR h x2 22 0 fun r6 => cl_ (f_J15_equals r5 r6 h) fun v8 h7 => (if v8 = 0 then (f_J9_equals_B54 h7) else (f_J9_equals_B55 (1 : Int32) h7))
theorem pf_J9_equals_B36 {Γ : GX} {D : va_G} {h0 : PH} {o : Int32 × PH} (x0 : Option Nat) (x2 : Option Nat) (h : PH) (hf : f_J9_equals_B36 x0 x2 h = some o) : PF Γ mi_J9_equals D h0 (QR Γ D h0 (ovi o.1) o.2) h 36 [some (va_rf x0), none, some (va_rf x2)] [] := by
  refine j_aload_n 0 dJ9_equals_36 rfl rfl ?_
  refine j_gR (ci := 22) (k := 0) rfl in_J9 rfl q491 dJ9_equals_37 hf (fun r5 hf => ?_)
  refine j_aload_n 2 dJ9_equals_40 rfl rfl ?_
  refine j_gR (ci := 22) (k := 0) rfl in_J9 rfl q491 dJ9_equals_41 hf (fun r6 hf => ?_)
  refine kc_J9_541 rfl rfl rfl (by decide) dJ9_equals_44 hf (fun v8 h7 hf => ?_)
  refine j_if_eq 54 dJ9_equals_47 (by decide) hf (fun c_ hf => ?_) (fun c_ hf => ?_)
  · refine j_weak [none, none, none] (Wk.s (Wk.k (Wk.s Wk.n))) ?_
    exact pf_J9_equals_B54  h7 hf
  · refine j_iconst (1 : Int32) dJ9_equals_50 (by decide) ?_
    refine j_goto 55 dJ9_equals_51 (by decide) ?_
    refine j_weak [none, none, none] (Wk.s (Wk.k (Wk.s Wk.n))) ?_
    exact pf_J9_equals_B55 (1 : Int32) h7 hf
def f_J9_equals (r0 : Option Nat) (p0 : Option Nat) (h0 : PH) : Option (Int32 × PH) := (if r0 = p0 then (rN .boolean (1 : Int32) (fun v => v) h0) else (iN h0 p0 22 fun v1 => (if v1 = 0 then (f_J9_equals_B54 h0) else (kC h0 p0 22 (asI (some (h0.2.1.1 9)) fun v2 => (if v2 = 0 then (f_J9_equals_B36 r0 p0 h0) else (gI h0 r0 22 1 fun v3 => gI h0 p0 22 1 fun v4 => (if v3 = v4 then (f_J9_equals_B36 r0 p0 h0) else (f_J9_equals_B54 h0)))))))))
theorem hyS_J9_equals : yJ9_equals.cls ≠ "java/lang/invoke/MethodHandle" ∧ yJ9_equals.cls ≠ "java/lang/invoke/VarHandle" ∧ (parseMethodDescriptor yJ9_equals.desc).map (fun d => d.parameters.length) = some 1 := by decide +kernel
theorem hyV_J9_equals : yJ9_equals.cls = RJ9 ∧ yJ9_equals.cls ≠ "java/lang/invoke/MethodHandle" ∧ yJ9_equals.cls ≠ "java/lang/invoke/VarHandle" ∧ (parseMethodDescriptor yJ9_equals.desc).map (fun d => d.parameters.length) = some 1 := by decide +kernel
theorem c_J9_equals {D : va_G} (r0 : Option Nat) (p0 : Option Nat) {h0 : PH} (l : Launch) (hl : l.stackTraces = false) (x : Int32) (h1 : PH) (hf : f_J9_equals r0 p0 h0 = some (x, h1)) : CT l D yJ9_equals (ws_ yJ9_equals cJ9_equals 3 (Option.some FieldType.boolean)) 1 22 [va_rf r0, va_rf p0] h0 (ovi x) h1 := by
  refine ct_of hl [some (va_rf r0), some (va_rf p0), none] (by decide) (by rw [lgl]; simp [va_rf_cat, cat_i, cat_l]) (by simp [lv_args, vsL, va_rf_cat, cat_i, cat_l]) (fun Γ => ?_)
  obtain ⟨o, ho⟩ : ∃ o : Int32 × PH, o = (x, h1) := ⟨_, rfl⟩
  rw [← ho] at hf
  have e1 : x = o.1 := by rw [ho]
  have e2 : h1 = o.2 := by rw [ho]
  subst e1 e2
  clear ho
  show PF Γ mi_J9_equals D h0 (QR Γ D h0 (ovi o.1) o.2) h0 0 [some (va_rf r0), some (va_rf p0), none] []
  unfold f_J9_equals at hf
  refine j_aload_n 0 dJ9_equals_0 rfl rfl ?_
  refine j_aload_n 1 dJ9_equals_1 rfl rfl ?_
  refine j_acmp_ne 7 dJ9_equals_2 (by decide) hf (fun c_ hf => ?_) (fun c_ hf => ?_)
  · refine j_aload_n 1 dJ9_equals_7 rfl rfl ?_
    refine j_inst (ci := 22) rfl q980 dJ9_equals_8 hf (fun v1 hf => ?_)
    refine j_if_eq 54 dJ9_equals_11 (by decide) hf (fun c_ hf => ?_) (fun c_ hf => ?_)
    · refine j_weak [none, none, none] (Wk.s (Wk.s (Wk.k Wk.n))) ?_
      exact pf_J9_equals_B54  h0 hf
    · refine j_aload_n 1 dJ9_equals_14 rfl rfl ?_
      refine j_kC (ci := 22) rfl q980 dJ9_equals_15 hf (fun hf => ?_)
      refine j_astore_n 2 [some (va_rf r0), some (va_rf p0), some (va_rf p0)] dJ9_equals_18 rfl (cz (va_rf_cat _)) rfl rfl ?_
      refine j_gsI (i := 9) rfl q350 dJ9_equals_19 hf (fun v2 hf => ?_)
      refine j_if_eq 36 dJ9_equals_22 (by decide) hf (fun c_ hf => ?_) (fun c_ hf => ?_)
      · refine j_weak [some (va_rf r0), none, some (va_rf p0)] (Wk.k (Wk.s (Wk.k Wk.n))) ?_
        exact pf_J9_equals_B36 r0 p0 h0 hf
      · refine j_aload_n 0 dJ9_equals_25 rfl rfl ?_
        refine j_gI (ci := 22) (k := 1) rfl in_J9 rfl q492 dJ9_equals_26 hf (fun v3 hf => ?_)
        refine j_aload_n 2 dJ9_equals_29 rfl rfl ?_
        refine j_gI (ci := 22) (k := 1) rfl in_J9 rfl q492 dJ9_equals_30 hf (fun v4 hf => ?_)
        refine j_icmp_ne 54 dJ9_equals_33 (by decide) hf (fun c_ hf => ?_) (fun c_ hf => ?_)
        · refine j_weak [none, none, none] (Wk.s (Wk.s (Wk.s Wk.n))) ?_
          exact pf_J9_equals_B54  h0 hf
        · refine j_weak [some (va_rf r0), none, some (va_rf p0)] (Wk.k (Wk.s (Wk.k Wk.n))) ?_
          exact pf_J9_equals_B36 r0 p0 h0 hf
  · refine j_iconst (1 : Int32) dJ9_equals_5 (by decide) ?_
    obtain ⟨hn9, hf⟩ := rN_in hf
    subst hf
    exact j_zret rfl (nar_z _ hn9) dJ9_equals_6
abbrev mi_J9_isLatin1 : MI := (cJ9_isLatin1, 1, RJ9, (Option.some FieldType.boolean), [], 0, 0, "isLatin1")
def f_J9_isLatin1_B18 (t0 : Int32) (h : PH) : Option (Int32 × PH) := rN .boolean t0 (fun v => v) h
theorem pf_J9_isLatin1_B18 {Γ : GX} {D : va_G} {h0 : PH} {o : Int32 × PH} (t0 : Int32) (h : PH) (hf : f_J9_isLatin1_B18 t0 h = some o) : PF Γ mi_J9_isLatin1 D h0 (QR Γ D h0 (ovi o.1) o.2) h 18 [none] [.int t0] := by
  obtain ⟨hn9, hf⟩ := rN_in hf
  subst hf
  exact j_zret rfl (nar_z _ hn9) dJ9_isLatin1_18
def f_J9_isLatin1_B17  (h : PH) : Option (Int32 × PH) := f_J9_isLatin1_B18 (0 : Int32) h
theorem pf_J9_isLatin1_B17 {Γ : GX} {D : va_G} {h0 : PH} {o : Int32 × PH}  (h : PH) (hf : f_J9_isLatin1_B17  h = some o) : PF Γ mi_J9_isLatin1 D h0 (QR Γ D h0 (ovi o.1) o.2) h 17 [none] [] := by
  refine j_iconst (0 : Int32) dJ9_isLatin1_17 (by decide) ?_
  exact pf_J9_isLatin1_B18 (0 : Int32) h hf
def f_J9_isLatin1 (r0 : Option Nat) (h0 : PH) : Option (Int32 × PH) := asI (some (h0.2.1.1 9)) fun v1 => (if v1 = 0 then (f_J9_isLatin1_B17 h0) else (gI h0 r0 22 1 fun v2 => (if v2 = 0 then (f_J9_isLatin1_B18 (1 : Int32) h0) else (f_J9_isLatin1_B17 h0))))
theorem hyS_J9_isLatin1 : yJ9_isLatin1.cls ≠ "java/lang/invoke/MethodHandle" ∧ yJ9_isLatin1.cls ≠ "java/lang/invoke/VarHandle" ∧ (parseMethodDescriptor yJ9_isLatin1.desc).map (fun d => d.parameters.length) = some 0 := by decide +kernel
theorem hyV_J9_isLatin1 : yJ9_isLatin1.cls = RJ9 ∧ yJ9_isLatin1.cls ≠ "java/lang/invoke/MethodHandle" ∧ yJ9_isLatin1.cls ≠ "java/lang/invoke/VarHandle" ∧ (parseMethodDescriptor yJ9_isLatin1.desc).map (fun d => d.parameters.length) = some 0 := by decide +kernel
theorem c_J9_isLatin1 {D : va_G} (r0 : Option Nat) {h0 : PH} (l : Launch) (hl : l.stackTraces = false) (x : Int32) (h1 : PH) (hf : f_J9_isLatin1 r0 h0 = some (x, h1)) : CT l D yJ9_isLatin1 (ws_ yJ9_isLatin1 cJ9_isLatin1 1 (Option.some FieldType.boolean)) 0 0 [va_rf r0] h0 (ovi x) h1 := by
  refine ct_of hl [some (va_rf r0)] (by decide) (by rw [lgl]; simp [va_rf_cat, cat_i, cat_l]) (by simp [lv_args, vsL, va_rf_cat, cat_i, cat_l]) (fun Γ => ?_)
  obtain ⟨o, ho⟩ : ∃ o : Int32 × PH, o = (x, h1) := ⟨_, rfl⟩
  rw [← ho] at hf
  have e1 : x = o.1 := by rw [ho]
  have e2 : h1 = o.2 := by rw [ho]
  subst e1 e2
  clear ho
  show PF Γ mi_J9_isLatin1 D h0 (QR Γ D h0 (ovi o.1) o.2) h0 0 [some (va_rf r0)] []
  unfold f_J9_isLatin1 at hf
  refine j_gsI (i := 9) rfl q350 dJ9_isLatin1_0 hf (fun v1 hf => ?_)
  refine j_if_eq 17 dJ9_isLatin1_3 (by decide) hf (fun c_ hf => ?_) (fun c_ hf => ?_)
  · refine j_weak [none] (Wk.s Wk.n) ?_
    exact pf_J9_isLatin1_B17  h0 hf
  · refine j_aload_n 0 dJ9_isLatin1_6 rfl rfl ?_
    refine j_gI (ci := 22) (k := 1) rfl in_J9 rfl q492 dJ9_isLatin1_7 hf (fun v2 hf => ?_)
    refine j_if_ne 17 dJ9_isLatin1_10 (by decide) hf (fun c_ hf => ?_) (fun c_ hf => ?_)
    · refine j_weak [none] (Wk.s Wk.n) ?_
      exact pf_J9_isLatin1_B17  h0 hf
    · refine j_iconst (1 : Int32) dJ9_isLatin1_13 (by decide) ?_
      refine j_goto 18 dJ9_isLatin1_14 (by decide) ?_
      refine j_weak [none] (Wk.s Wk.n) ?_
      exact pf_J9_isLatin1_B18 (1 : Int32) h0 hf
abbrev mi_J7_init_J8 : MI := (cJ7_init, 2, RJ7, none, [], 1, 20, "<init>")
def f_J7_init_J8_B38  (h : PH) : Option (Unit × PH) := some ((), h)
theorem pf_J7_init_J8_B38 {Γ : GX} {D : va_G} {h0 : PH} {o : Unit × PH}  (h : PH) (hf : f_J7_init_J8_B38  h = some o) : PF Γ mi_J7_init_J8 D h0 (QR Γ D h0 (ovv o.1) o.2) h 38 [none, none] [] := by
  have e9 := Option.some.inj hf
  subst e9
  exact j_vret rfl dJ7_init_38
def f_J7_init_J8 (a0 : Nat) (p0 : Int32) (h0 : PH) : Option (Unit × PH) := asI (some (h0.2.1.1 9)) fun v1 => (if v1 = 0 then (none) else (nA h0 1 p0 (.inl fun _ => 0) fun a2 h3 => pV h3 (some a0) 21 0 (va_rf (some a2)) fun h4 => pB h4 (some a0) 21 1 (0 : Int32) fun h5 => f_J7_init_J8_B38 h5))
theorem hyS_J7_init_J8 : yJ7_init.cls ≠ "java/lang/invoke/MethodHandle" ∧ yJ7_init.cls ≠ "java/lang/invoke/VarHandle" ∧ (parseMethodDescriptor yJ7_init.desc).map (fun d => d.parameters.length) = some 1 := by decide +kernel
theorem c_J7_init_J8 {D : va_G} (a0 : Nat) (p0 : Int32) {h0 : PH} (l : Launch) (hl : l.stackTraces = false) (x : Unit) (h1 : PH) (hf : f_J7_init_J8 a0 p0 h0 = some (x, h1)) : CT l D yJ7_init (ws_ yJ7_init cJ7_init 2 none) 1 20 [va_rf (some a0), .int p0] h0 (ovv x) h1 := by
  refine ct_of hl [some (va_rf (some a0)), some (.int p0)] (by decide) (Nat.le_of_ble_eq_true rfl) rfl (fun Γ => ?_)
  obtain ⟨o, ho⟩ : ∃ o : Unit × PH, o = (x, h1) := ⟨_, rfl⟩
  rw [← ho] at hf
  have e1 : x = o.1 := by rw [ho]
  have e2 : h1 = o.2 := by rw [ho]
  subst e1 e2
  clear ho
  show PF Γ mi_J7_init_J8 D h0 (QR Γ D h0 (ovv o.1) o.2) h0 0 [some (va_rf (some a0)), some (.int p0)] []
  unfold f_J7_init_J8 at hf
  refine j_aload_n 0 dJ7_init_0 rfl rfl ?_
  refine j_objI q241 q141 q142 rfl rfl ⟨_, rfl⟩ (by decide) dJ7_init_1 ?_
  refine j_gsI (i := 9) rfl q242 dJ7_init_4 hf (fun v1 hf => ?_)
  refine j_if_eq 25 dJ7_init_7 (by decide) hf (fun c_ hf => ?_) (fun c_ hf => ?_)
  · refine j_aload_n 0 dJ7_init_25 rfl rfl ?_
    refine j_iload_n 1 dJ7_init_26 rfl rfl ?_
    cases hf
  · refine j_aload_n 0 dJ7_init_10 rfl rfl ?_
    refine j_iload_n 1 dJ7_init_11 rfl rfl ?_
    refine j_nA (t := 1) (atype := .byte) (ty := .byte) rfl (fun _ => rfl) (fun _ _ => rfl) (by decide) (fun _ _ h9 => h9) q168 dJ7_init_12 hf (fun a2 h3 hf => ?_)
    refine j_pV (ci := 21) (k := 0) tyJ8 tyJ8_ok nmJ8 rfl in_J8 rfl q251 (Or.inl rfl) rfl (fit_a _ _) dJ7_init_14 hf (fun h4 hf => ?_)
    refine j_aload_n 0 dJ7_init_17 rfl rfl ?_
    refine j_iconst (0 : Int32) dJ7_init_18 (by decide) ?_
    obtain ⟨hz9, hf⟩ := pB_in hf
    refine j_pV (ci := 21) (k := 1) tyJ8 tyJ8_ok nmJ8 rfl in_J8 rfl q252 (Or.inl rfl) rfl (fit_b _ hz9) dJ7_init_19 hf (fun h5 hf => ?_)
    refine j_goto 38 dJ7_init_22 (by decide) ?_
    refine j_weak [none, none] (Wk.s (Wk.s Wk.n)) ?_
    exact pf_J7_init_J8_B38  h5 hf
theorem kc_J7_114 {Γ : GX} {I : MI} {D : va_G} {h0 : PH} {Q : State → Prop} {h : PH} {pc : Nat} {vs : List (Option Value)} {rest : List Value} {β : Type} {o : β} {p0 : Int32} {p1 : Int32} {p2 : Int32} {K : ((Int32) → PH → Option β)} (hI : I.2.2.1 = RJ7) (hfr : Nat.ble 2 I.2.2.2.2.2.1 = true) (hlo : Nat.ble 47 I.2.2.2.2.2.2.1 = true) (hW : (rest.map fun v => v.category).sum ≤ 8) (hd : decode I.1 pc = .ok (.invokestatic 114, 3)) (hf : cl_ (f_J11_newLength p0 p1 p2 h) K = some o) (kk : ∀ (x : Int32) (h1 : PH), K x h1 = some o → PF Γ I D h0 Q h1 (pc + 3) vs (.int x :: rest)) : PF Γ I D h0 Q h pc vs (.int p2 :: .int p1 :: .int p0 :: rest) := by
  obtain ⟨cc, nL, own, rt, xt, fr, lo, nm⟩ := I
  cases hI
  exact j_cSi (n := 3) (y := yJ11_newLength) (cc2 := cJ11_newLength) (As := [.int p0, .int p1, .int p2]) (lw_S q284 q285 q105 q286) hyS_J11_newLength hfr hlo rfl hW hd (c_J11_newLength p0 p1 p2) hf _ rfl kk
abbrev mi_J7_newCapacity_J8 : MI := (cJ7_newCapacity, 6, RJ7, (Option.some FieldType.int), [], 2, 47, "newCapacity")
def f_J7_newCapacity_J8 (r0 : Option Nat) (p0 : Int32) (h0 : PH) : Option (Int32 × PH) := gR h0 r0 21 0 fun r1 => aN h0 r1 1 fun v2 => gI h0 r0 21 1 fun v3 => gI h0 r0 21 1 fun v4 => cl_ (f_J11_newLength v2 ((p0 <<< (v3 &&& 31)) - v2) (v2 + ((2 : Int32) <<< (v4 &&& 31))) h0) fun v6 h5 => (if v6 = (2147483647 : Int32) then (none) else (gI h5 r0 21 1 fun v7 => some ((v6 >>> (v7 &&& 31)), h5)))
theorem hyS_J7_newCapacity_J8 : yJ7_newCapacity.cls ≠ "java/lang/invoke/MethodHandle" ∧ yJ7_newCapacity.cls ≠ "java/lang/invoke/VarHandle" ∧ (parseMethodDescriptor yJ7_newCapacity.desc).map (fun d => d.parameters.length) = some 1 := by decide +kernel
theorem hyV_J7_newCapacity_J8 : yJ7_newCapacity.cls = RJ7 ∧ yJ7_newCapacity.cls ≠ "java/lang/invoke/MethodHandle" ∧ yJ7_newCapacity.cls ≠ "java/lang/invoke/VarHandle" ∧ (parseMethodDescriptor yJ7_newCapacity.desc).map (fun d => d.parameters.length) = some 1 := by decide +kernel
theorem c_J7_newCapacity_J8 {D : va_G} (r0 : Option Nat) (p0 : Int32) {h0 : PH} (l : Launch) (hl : l.stackTraces = false) (x : Int32) (h1 : PH) (hf : f_J7_newCapacity_J8 r0 p0 h0 = some (x, h1)) : CT l D yJ7_newCapacity (ws_ yJ7_newCapacity cJ7_newCapacity 6 (Option.some FieldType.int)) 2 47 [va_rf r0, .int p0] h0 (ovi x) h1 := by
  refine ct_of hl [some (va_rf r0), some (.int p0), none, none, none, none] (by decide) (by rw [lgl]; simp [va_rf_cat, cat_i, cat_l]) (by simp [lv_args, vsL, va_rf_cat, cat_i, cat_l]) (fun Γ => ?_)
  obtain ⟨o, ho⟩ : ∃ o : Int32 × PH, o = (x, h1) := ⟨_, rfl⟩
  rw [← ho] at hf
  have e1 : x = o.1 := by rw [ho]
  have e2 : h1 = o.2 := by rw [ho]
  subst e1 e2
  clear ho
  show PF Γ mi_J7_newCapacity_J8 D h0 (QR Γ D h0 (ovi o.1) o.2) h0 0 [some (va_rf r0), some (.int p0), none, none, none, none] []
  unfold f_J7_newCapacity_J8 at hf
  refine j_aload_n 0 dJ7_newCapacity_0 rfl rfl ?_
  refine j_gR (ci := 21) (k := 0) rfl in_J8 rfl q251 dJ7_newCapacity_1 hf (fun r1 hf => ?_)
  refine j_alen (t := 1) rfl dJ7_newCapacity_4 hf (fun v2 hf => ?_)
  refine j_istore_n 2 [some (va_rf r0), some (.int p0), some (.int v2), none, none, none] dJ7_newCapacity_5 rfl (cz rfl) rfl rfl ?_
  refine j_iload_n 1 dJ7_newCapacity_6 rfl rfl ?_
  refine j_aload_n 0 dJ7_newCapacity_7 rfl rfl ?_
  refine j_gI (ci := 21) (k := 1) rfl in_J8 rfl q252 dJ7_newCapacity_8 hf (fun v3 hf => ?_)
  refine j_ishl dJ7_newCapacity_11 ?_
  refine j_istore_n 3 [some (va_rf r0), some (.int p0), some (.int v2), some (.int (p0 <<< (v3 &&& 31))), none, none] dJ7_newCapacity_12 rfl (cz rfl) rfl rfl ?_
  refine j_iload_n 3 dJ7_newCapacity_13 rfl rfl ?_
  refine j_iload_n 2 dJ7_newCapacity_14 rfl rfl ?_
  refine j_isub dJ7_newCapacity_15 ?_
  refine j_istore [some (va_rf r0), some (.int p0), some (.int v2), some (.int (p0 <<< (v3 &&& 31))), some (.int ((p0 <<< (v3 &&& 31)) - v2)), none] dJ7_newCapacity_16 (cz rfl) rfl rfl ?_
  refine j_iload_n 2 dJ7_newCapacity_18 rfl rfl ?_
  refine j_iload dJ7_newCapacity_19 rfl ?_
  refine j_iload_n 2 dJ7_newCapacity_21 rfl rfl ?_
  refine j_iconst (2 : Int32) dJ7_newCapacity_22 (by decide) ?_
  refine j_aload_n 0 dJ7_newCapacity_23 rfl rfl ?_
  refine j_gI (ci := 21) (k := 1) rfl in_J8 rfl q252 dJ7_newCapacity_24 hf (fun v4 hf => ?_)
  refine j_ishl dJ7_newCapacity_27 ?_
  refine j_iadd dJ7_newCapacity_28 ?_
  refine kc_J7_114 rfl rfl rfl (by decide) dJ7_newCapacity_29 hf (fun v6 h5 hf => ?_)
  refine j_istore [some (va_rf r0), some (.int p0), some (.int v2), some (.int (p0 <<< (v3 &&& 31))), some (.int ((p0 <<< (v3 &&& 31)) - v2)), some (.int v6)] dJ7_newCapacity_32 (cz rfl) rfl rfl ?_
  refine j_iload dJ7_newCapacity_34 rfl ?_
  refine j_ldc q294 dJ7_newCapacity_36 ?_
  refine j_icmp_ne 51 dJ7_newCapacity_38 (by decide) hf (fun c_ hf => ?_) (fun c_ hf => ?_)
  · refine j_iload dJ7_newCapacity_51 rfl ?_
    refine j_aload_n 0 dJ7_newCapacity_53 rfl rfl ?_
    refine j_gI (ci := 21) (k := 1) rfl in_J8 rfl q252 dJ7_newCapacity_54 hf (fun v7 hf => ?_)
    refine j_ishr dJ7_newCapacity_57 ?_
    have e9 := Option.some.inj hf
    subst e9
    exact j_iret rfl dJ7_newCapacity_58
  · cases hf
abbrev mi_J7_isLatin1_J8 : MI := (cJ7_isLatin1, 1, RJ7, (Option.some FieldType.boolean), [], 0, 0, "isLatin1")
def f_J7_isLatin1_J8_B18 (t0 : Int32) (h : PH) : Option (Int32 × PH) := rN .boolean t0 (fun v => v) h
theorem pf_J7_isLatin1_J8_B18 {Γ : GX} {D : va_G} {h0 : PH} {o : Int32 × PH} (t0 : Int32) (h : PH) (hf : f_J7_isLatin1_J8_B18 t0 h = some o) : PF Γ mi_J7_isLatin1_J8 D h0 (QR Γ D h0 (ovi o.1) o.2) h 18 [none] [.int t0] := by
  obtain ⟨hn9, hf⟩ := rN_in hf
  subst hf
  exact j_zret rfl (nar_z _ hn9) dJ7_isLatin1_18
def f_J7_isLatin1_J8_B17  (h : PH) : Option (Int32 × PH) := f_J7_isLatin1_J8_B18 (0 : Int32) h
theorem pf_J7_isLatin1_J8_B17 {Γ : GX} {D : va_G} {h0 : PH} {o : Int32 × PH}  (h : PH) (hf : f_J7_isLatin1_J8_B17  h = some o) : PF Γ mi_J7_isLatin1_J8 D h0 (QR Γ D h0 (ovi o.1) o.2) h 17 [none] [] := by
  refine j_iconst (0 : Int32) dJ7_isLatin1_17 (by decide) ?_
  exact pf_J7_isLatin1_J8_B18 (0 : Int32) h hf
def f_J7_isLatin1_J8 (r0 : Option Nat) (h0 : PH) : Option (Int32 × PH) := asI (some (h0.2.1.1 9)) fun v1 => (if v1 = 0 then (f_J7_isLatin1_J8_B17 h0) else (gI h0 r0 21 1 fun v2 => (if v2 = 0 then (f_J7_isLatin1_J8_B18 (1 : Int32) h0) else (f_J7_isLatin1_J8_B17 h0))))
theorem hyS_J7_isLatin1_J8 : yJ7_isLatin1.cls ≠ "java/lang/invoke/MethodHandle" ∧ yJ7_isLatin1.cls ≠ "java/lang/invoke/VarHandle" ∧ (parseMethodDescriptor yJ7_isLatin1.desc).map (fun d => d.parameters.length) = some 0 := by decide +kernel
theorem hyV_J7_isLatin1_J8 : yJ7_isLatin1.cls = RJ7 ∧ yJ7_isLatin1.cls ≠ "java/lang/invoke/MethodHandle" ∧ yJ7_isLatin1.cls ≠ "java/lang/invoke/VarHandle" ∧ (parseMethodDescriptor yJ7_isLatin1.desc).map (fun d => d.parameters.length) = some 0 := by decide +kernel
theorem c_J7_isLatin1_J8 {D : va_G} (r0 : Option Nat) {h0 : PH} (l : Launch) (hl : l.stackTraces = false) (x : Int32) (h1 : PH) (hf : f_J7_isLatin1_J8 r0 h0 = some (x, h1)) : CT l D yJ7_isLatin1 (ws_ yJ7_isLatin1 cJ7_isLatin1 1 (Option.some FieldType.boolean)) 0 0 [va_rf r0] h0 (ovi x) h1 := by
  refine ct_of hl [some (va_rf r0)] (by decide) (by rw [lgl]; simp [va_rf_cat, cat_i, cat_l]) (by simp [lv_args, vsL, va_rf_cat, cat_i, cat_l]) (fun Γ => ?_)
  obtain ⟨o, ho⟩ : ∃ o : Int32 × PH, o = (x, h1) := ⟨_, rfl⟩
  rw [← ho] at hf
  have e1 : x = o.1 := by rw [ho]
  have e2 : h1 = o.2 := by rw [ho]
  subst e1 e2
  clear ho
  show PF Γ mi_J7_isLatin1_J8 D h0 (QR Γ D h0 (ovi o.1) o.2) h0 0 [some (va_rf r0)] []
  unfold f_J7_isLatin1_J8 at hf
  refine j_gsI (i := 9) rfl q242 dJ7_isLatin1_0 hf (fun v1 hf => ?_)
  refine j_if_eq 17 dJ7_isLatin1_3 (by decide) hf (fun c_ hf => ?_) (fun c_ hf => ?_)
  · refine j_weak [none] (Wk.s Wk.n) ?_
    exact pf_J7_isLatin1_J8_B17  h0 hf
  · refine j_aload_n 0 dJ7_isLatin1_6 rfl rfl ?_
    refine j_gI (ci := 21) (k := 1) rfl in_J8 rfl q252 dJ7_isLatin1_7 hf (fun v2 hf => ?_)
    refine j_if_ne 17 dJ7_isLatin1_10 (by decide) hf (fun c_ hf => ?_) (fun c_ hf => ?_)
    · refine j_weak [none] (Wk.s Wk.n) ?_
      exact pf_J7_isLatin1_J8_B17  h0 hf
    · refine j_iconst (1 : Int32) dJ7_isLatin1_13 (by decide) ?_
      refine j_goto 18 dJ7_isLatin1_14 (by decide) ?_
      refine j_weak [none] (Wk.s Wk.n) ?_
      exact pf_J7_isLatin1_J8_B18 (1 : Int32) h0 hf
abbrev mi_J7_getValue_J8 : MI := (cJ7_getValue, 1, RJ7, (Option.some (FieldType.array FieldType.byte)), [], 0, 0, "getValue")
def f_J7_getValue_J8 (r0 : Option Nat) (h0 : PH) : Option (Option Nat × PH) := gR h0 r0 21 0 fun r1 => some (r1, h0)
theorem hyS_J7_getValue_J8 : yJ7_getValue.cls ≠ "java/lang/invoke/MethodHandle" ∧ yJ7_getValue.cls ≠ "java/lang/invoke/VarHandle" ∧ (parseMethodDescriptor yJ7_getValue.desc).map (fun d => d.parameters.length) = some 0 := by decide +kernel
theorem hyV_J7_getValue_J8 : yJ7_getValue.cls = RJ7 ∧ yJ7_getValue.cls ≠ "java/lang/invoke/MethodHandle" ∧ yJ7_getValue.cls ≠ "java/lang/invoke/VarHandle" ∧ (parseMethodDescriptor yJ7_getValue.desc).map (fun d => d.parameters.length) = some 0 := by decide +kernel
theorem c_J7_getValue_J8 {D : va_G} (r0 : Option Nat) {h0 : PH} (l : Launch) (hl : l.stackTraces = false) (x : Option Nat) (h1 : PH) (hf : f_J7_getValue_J8 r0 h0 = some (x, h1)) : CT l D yJ7_getValue (ws_ yJ7_getValue cJ7_getValue 1 (Option.some (FieldType.array FieldType.byte))) 0 0 [va_rf r0] h0 (ovr x) h1 := by
  refine ct_of hl [some (va_rf r0)] (by decide) (by rw [lgl]; simp [va_rf_cat, cat_i, cat_l]) (by simp [lv_args, vsL, va_rf_cat, cat_i, cat_l]) (fun Γ => ?_)
  obtain ⟨o, ho⟩ : ∃ o : Option Nat × PH, o = (x, h1) := ⟨_, rfl⟩
  rw [← ho] at hf
  have e1 : x = o.1 := by rw [ho]
  have e2 : h1 = o.2 := by rw [ho]
  subst e1 e2
  clear ho
  show PF Γ mi_J7_getValue_J8 D h0 (QR Γ D h0 (ovr o.1) o.2) h0 0 [some (va_rf r0)] []
  unfold f_J7_getValue_J8 at hf
  refine j_aload_n 0 dJ7_getValue_0 rfl rfl ?_
  refine j_gR (ci := 21) (k := 0) rfl in_J8 rfl q251 dJ7_getValue_1 hf (fun r1 hf => ?_)
  have e9 := Option.some.inj hf
  subst e9
  exact j_aret rfl (Or.inr ⟨_, rfl⟩) dJ7_getValue_4
abbrev mi_J7_length_J8 : MI := (cJ7_length, 1, RJ7, (Option.some FieldType.int), [], 0, 0, "length")
def f_J7_length_J8 (r0 : Option Nat) (h0 : PH) : Option (Int32 × PH) := gI h0 r0 21 3 fun v1 => some (v1, h0)
theorem hyS_J7_length_J8 : yJ7_length.cls ≠ "java/lang/invoke/MethodHandle" ∧ yJ7_length.cls ≠ "java/lang/invoke/VarHandle" ∧ (parseMethodDescriptor yJ7_length.desc).map (fun d => d.parameters.length) = some 0 := by decide +kernel
theorem hyV_J7_length_J8 : yJ7_length.cls = RJ7 ∧ yJ7_length.cls ≠ "java/lang/invoke/MethodHandle" ∧ yJ7_length.cls ≠ "java/lang/invoke/VarHandle" ∧ (parseMethodDescriptor yJ7_length.desc).map (fun d => d.parameters.length) = some 0 := by decide +kernel
theorem c_J7_length_J8 {D : va_G} (r0 : Option Nat) {h0 : PH} (l : Launch) (hl : l.stackTraces = false) (x : Int32) (h1 : PH) (hf : f_J7_length_J8 r0 h0 = some (x, h1)) : CT l D yJ7_length (ws_ yJ7_length cJ7_length 1 (Option.some FieldType.int)) 0 0 [va_rf r0] h0 (ovi x) h1 := by
  refine ct_of hl [some (va_rf r0)] (by decide) (by rw [lgl]; simp [va_rf_cat, cat_i, cat_l]) (by simp [lv_args, vsL, va_rf_cat, cat_i, cat_l]) (fun Γ => ?_)
  obtain ⟨o, ho⟩ : ∃ o : Int32 × PH, o = (x, h1) := ⟨_, rfl⟩
  rw [← ho] at hf
  have e1 : x = o.1 := by rw [ho]
  have e2 : h1 = o.2 := by rw [ho]
  subst e1 e2
  clear ho
  show PF Γ mi_J7_length_J8 D h0 (QR Γ D h0 (ovi o.1) o.2) h0 0 [some (va_rf r0)] []
  unfold f_J7_length_J8 at hf
  refine j_aload_n 0 dJ7_length_0 rfl rfl ?_
  refine j_gI (ci := 21) (k := 3) rfl in_J8 rfl q254 dJ7_length_1 hf (fun v1 hf => ?_)
  have e9 := Option.some.inj hf
  subst e9
  exact j_iret rfl dJ7_length_4
theorem kc_J8_1_J8 {Γ : GX} {I : MI} {D : va_G} {h0 : PH} {Q : State → Prop} {h : PH} {pc : Nat} {vs : List (Option Value)} {rest : List Value} {β : Type} {o : β} {a : Nat} {p0 : Int32} {K : ((Unit) → PH → Option β)} (hI : I.2.2.1 = RJ8) (hfr : Nat.ble 2 I.2.2.2.2.2.1 = true) (hlo : Nat.ble 41 I.2.2.2.2.2.2.1 = true) (hW : (rest.map fun v => v.category).sum ≤ 8) (hd : decode I.1 pc = .ok (.invokespecial 1, 3)) (hf : cl_ (f_J7_init_J8 a p0 h) K = some o) (kk : ∀ (x : Unit) (h1 : PH), K x h1 = some o → PF Γ I D h0 Q h1 (pc + 3) vs (rest)) : PF Γ I D h0 Q h pc vs (.int p0 :: va_rf (some a) :: rest) := by
  obtain ⟨cc, nL, own, rt, xt, fr, lo, nm⟩ := I
  cases hI
  exact j_cIv (n := 1) (y := yJ7_init) (cc2 := cJ7_init) (As := [.int p0]) (lw_meth q240) q101 q238 q239 rfl hyS_J7_init_J8 hfr hlo rfl hW hd (c_J7_init_J8 a p0) ⟨_, rfl⟩ hf _ rfl kk
abbrev mi_J8_init : MI := (cJ8_init, 1, RJ8, none, [], 2, 41, "<init>")
def f_J8_init (a0 : Nat) (h0 : PH) : Option (Unit × PH) := cl_ (f_J7_init_J8 a0 (16 : Int32) h0) fun _u h1 => some ((), h1)
theorem hyS_J8_init : yJ8_init.cls ≠ "java/lang/invoke/MethodHandle" ∧ yJ8_init.cls ≠ "java/lang/invoke/VarHandle" ∧ (parseMethodDescriptor yJ8_init.desc).map (fun d => d.parameters.length) = some 0 := by decide +kernel
theorem c_J8_init {D : va_G} (a0 : Nat) {h0 : PH} (l : Launch) (hl : l.stackTraces = false) (x : Unit) (h1 : PH) (hf : f_J8_init a0 h0 = some (x, h1)) : CT l D yJ8_init (ws_ yJ8_init cJ8_init 1 none) 2 41 [va_rf (some a0)] h0 (ovv x) h1 := by
  refine ct_of hl [some (va_rf (some a0))] (by decide) (Nat.le_of_ble_eq_true rfl) rfl (fun Γ => ?_)
  obtain ⟨o, ho⟩ : ∃ o : Unit × PH, o = (x, h1) := ⟨_, rfl⟩
  rw [← ho] at hf
  have e1 : x = o.1 := by rw [ho]
  have e2 : h1 = o.2 := by rw [ho]
  subst e1 e2
  clear ho
  show PF Γ mi_J8_init D h0 (QR Γ D h0 (ovv o.1) o.2) h0 0 [some (va_rf (some a0))] []
  unfold f_J8_init at hf
  refine j_aload_n 0 dJ8_init_0 rfl rfl ?_
  refine j_bipush (16 : Int32) dJ8_init_1 (by decide) ?_
  refine kc_J8_1_J8 rfl rfl rfl (by decide) dJ8_init_3 hf (fun _u h1 hf => ?_)
  have e9 := Option.some.inj hf
  subst e9
  exact j_vret rfl dJ8_init_6
theorem kc_J8_343_J8 {Γ : GX} {I : MI} {D : va_G} {h0 : PH} {Q : State → Prop} {h : PH} {pc : Nat} {vs : List (Option Value)} {rest : List Value} {β : Type} {o : β} {r : Option Nat}  {K : ((Int32) → PH → Option β)} (hI : I.2.2.1 = RJ8) (hfr : Nat.ble 1 I.2.2.2.2.2.1 = true) (hlo : Nat.ble 20 I.2.2.2.2.2.2.1 = true) (hW : (rest.map fun v => v.category).sum ≤ 8) (hd : decode I.1 pc = .ok (.invokespecial 343, 3)) (hf : rv_ h r 21 (cl_ (f_J7_length_J8 r h) K) = some o) (kk : ∀ (x : Int32) (h1 : PH), K x h1 = some o → PF Γ I D h0 Q h1 (pc + 3) vs (.int x :: rest)) : PF Γ I D h0 Q h pc vs (va_rf r :: rest) := by
  obtain ⟨cc, nL, own, rt, xt, fr, lo, nm⟩ := I
  cases hI
  exact j_cSUi (n := 0) (y := yJ7_length) (cc2 := cJ7_length) (As := []) (C := RJ8) (ci := 21) rfl (lw_SU q434 q430 q263 q429 q101 q435) (by decide +kernel) hfr hlo rfl hW hd (c_J7_length_J8 r) hf _ rfl kk
abbrev mi_J8_length : MI := (cJ8_length, 1, RJ8, (Option.some FieldType.int), [], 1, 20, "length")
def f_J8_length (r0 : Option Nat) (h0 : PH) : Option (Int32 × PH) := rv_ h0 r0 21 (cl_ (f_J7_length_J8 r0 h0) fun v2 h1 => some (v2, h1))
theorem hyS_J8_length : yJ8_length.cls ≠ "java/lang/invoke/MethodHandle" ∧ yJ8_length.cls ≠ "java/lang/invoke/VarHandle" ∧ (parseMethodDescriptor yJ8_length.desc).map (fun d => d.parameters.length) = some 0 := by decide +kernel
theorem hyV_J8_length : yJ8_length.cls = RJ8 ∧ yJ8_length.cls ≠ "java/lang/invoke/MethodHandle" ∧ yJ8_length.cls ≠ "java/lang/invoke/VarHandle" ∧ (parseMethodDescriptor yJ8_length.desc).map (fun d => d.parameters.length) = some 0 := by decide +kernel
theorem c_J8_length {D : va_G} (r0 : Option Nat) {h0 : PH} (l : Launch) (hl : l.stackTraces = false) (x : Int32) (h1 : PH) (hf : f_J8_length r0 h0 = some (x, h1)) : CT l D yJ8_length (ws_ yJ8_length cJ8_length 1 (Option.some FieldType.int)) 1 20 [va_rf r0] h0 (ovi x) h1 := by
  refine ct_of hl [some (va_rf r0)] (by decide) (by rw [lgl]; simp [va_rf_cat, cat_i, cat_l]) (by simp [lv_args, vsL, va_rf_cat, cat_i, cat_l]) (fun Γ => ?_)
  obtain ⟨o, ho⟩ : ∃ o : Int32 × PH, o = (x, h1) := ⟨_, rfl⟩
  rw [← ho] at hf
  have e1 : x = o.1 := by rw [ho]
  have e2 : h1 = o.2 := by rw [ho]
  subst e1 e2
  clear ho
  show PF Γ mi_J8_length D h0 (QR Γ D h0 (ovi o.1) o.2) h0 0 [some (va_rf r0)] []
  unfold f_J8_length at hf
  refine j_aload_n 0 dJ8_length_0 rfl rfl ?_
  refine kc_J8_343_J8 rfl rfl rfl (by decide) dJ8_length_1 hf (fun v2 h1 hf => ?_)
  have e9 := Option.some.inj hf
  subst e9
  exact j_iret rfl dJ8_length_4
theorem kc_J2_1_J2 {Γ : GX} {I : MI} {D : va_G} {h0 : PH} {Q : State → Prop} {h : PH} {pc : Nat} {vs : List (Option Value)} {rest : List Value} {β : Type} {o : β} {a : Nat}  {K : ((Unit) → PH → Option β)} (hI : I.2.2.1 = RJ2) (hfr : Nat.ble 3 I.2.2.2.2.2.1 = true) (hlo : Nat.ble 60 I.2.2.2.2.2.2.1 = true) (hW : (rest.map fun v => v.category).sum ≤ 8) (hd : decode I.1 pc = .ok (.invokespecial 1, 3)) (hf : cl_ (f_J1_init_J2 a h) K = some o) (kk : ∀ (x : Unit) (h1 : PH), K x h1 = some o → PF Γ I D h0 Q h1 (pc + 3) vs (rest)) : PF Γ I D h0 Q h pc vs (va_rf (some a) :: rest) := by
  obtain ⟨cc, nL, own, rt, xt, fr, lo, nm⟩ := I
  cases hI
  exact j_cIv (n := 0) (y := yJ1_init) (cc2 := cJ1_init) (As := []) (lw_meth q176) q95 q174 q175 rfl hyS_J1_init_J2 hfr hlo rfl hW hd (c_J1_init_J2 a) ⟨_, rfl⟩ hf _ rfl kk
abbrev mi_J2_init : MI := (cJ2_init, 2, RJ2, none, [], 3, 60, "<init>")
def f_J2_init_B60  (h : PH) : Option (Unit × PH) := some ((), h)
theorem pf_J2_init_B60 {Γ : GX} {D : va_G} {h0 : PH} {o : Unit × PH}  (h : PH) (hf : f_J2_init_B60  h = some o) : PF Γ mi_J2_init D h0 (QR Γ D h0 (ovv o.1) o.2) h 60 [none, none] [] := by
  have e9 := Option.some.inj hf
  subst e9
  exact j_vret rfl dJ2_init_60
def f_J2_init (a0 : Nat) (p0 : Int32) (h0 : PH) : Option (Unit × PH) := cl_ (f_J1_init_J2 a0 h0) fun _u h1 => (if p0 ≤ 0 then ((if p0 = 0 then (none) else (none))) else (nA h1 4 p0 aNul fun a2 h3 => pV h3 (some a0) 19 1 (va_rf (some a2)) fun h4 => f_J2_init_B60 h4))
theorem hyS_J2_init : yJ2_init.cls ≠ "java/lang/invoke/MethodHandle" ∧ yJ2_init.cls ≠ "java/lang/invoke/VarHandle" ∧ (parseMethodDescriptor yJ2_init.desc).map (fun d => d.parameters.length) = some 1 := by decide +kernel
theorem c_J2_init {D : va_G} (a0 : Nat) (p0 : Int32) {h0 : PH} (l : Launch) (hl : l.stackTraces = false) (x : Unit) (h1 : PH) (hf : f_J2_init a0 p0 h0 = some (x, h1)) : CT l D yJ2_init (ws_ yJ2_init cJ2_init 2 none) 3 60 [va_rf (some a0), .int p0] h0 (ovv x) h1 := by
  refine ct_of hl [some (va_rf (some a0)), some (.int p0)] (by decide) (Nat.le_of_ble_eq_true rfl) rfl (fun Γ => ?_)
  obtain ⟨o, ho⟩ : ∃ o : Unit × PH, o = (x, h1) := ⟨_, rfl⟩
  rw [← ho] at hf
  have e1 : x = o.1 := by rw [ho]
  have e2 : h1 = o.2 := by rw [ho]
  subst e1 e2
  clear ho
  show PF Γ mi_J2_init D h0 (QR Γ D h0 (ovv o.1) o.2) h0 0 [some (va_rf (some a0)), some (.int p0)] []
  unfold f_J2_init at hf
  refine j_aload_n 0 dJ2_init_0 rfl rfl ?_
  refine kc_J2_1_J2 rfl rfl rfl (by decide) dJ2_init_1 hf (fun _u h1 hf => ?_)
  refine j_iload_n 1 dJ2_init_4 rfl rfl ?_
  refine j_if_le 19 dJ2_init_5 (by decide) hf (fun c_ hf => ?_) (fun c_ hf => ?_)
  · refine j_iload_n 1 dJ2_init_19 rfl rfl ?_
    refine j_if_ne 33 dJ2_init_20 (by decide) hf (fun c_ hf => ?_) (fun c_ hf => ?_)
    · cases hf
    · refine j_aload_n 0 dJ2_init_23 rfl rfl ?_
      cases hf
  · refine j_aload_n 0 dJ2_init_8 rfl rfl ?_
    refine j_iload_n 1 dJ2_init_9 rfl rfl ?_
    refine j_nQ (t := 4) rfl q181 q182 dJ2_init_10 hf (fun a2 h3 hf => ?_)
    refine j_pV (ci := 19) (k := 1) tyJ2 tyJ2_ok nmJ2 rfl in_J2 rfl q505 (Or.inl rfl) rfl (fit_a _ _) dJ2_init_13 hf (fun h4 hf => ?_)
    refine j_goto 60 dJ2_init_16 (by decide) ?_
    refine j_weak [none, none] (Wk.s (Wk.s Wk.n)) ?_
    exact pf_J2_init_B60  h4 hf
abbrev mi_J2_size : MI := (cJ2_size, 1, RJ2, (Option.some FieldType.int), [], 0, 0, "size")
def f_J2_size (r0 : Option Nat) (h0 : PH) : Option (Int32 × PH) := gI h0 r0 19 2 fun v1 => some (v1, h0)
theorem hyS_J2_size : yJ2_size.cls ≠ "java/lang/invoke/MethodHandle" ∧ yJ2_size.cls ≠ "java/lang/invoke/VarHandle" ∧ (parseMethodDescriptor yJ2_size.desc).map (fun d => d.parameters.length) = some 0 := by decide +kernel
theorem hyV_J2_size : yJ2_size.cls = RJ2 ∧ yJ2_size.cls ≠ "java/lang/invoke/MethodHandle" ∧ yJ2_size.cls ≠ "java/lang/invoke/VarHandle" ∧ (parseMethodDescriptor yJ2_size.desc).map (fun d => d.parameters.length) = some 0 := by decide +kernel
theorem c_J2_size {D : va_G} (r0 : Option Nat) {h0 : PH} (l : Launch) (hl : l.stackTraces = false) (x : Int32) (h1 : PH) (hf : f_J2_size r0 h0 = some (x, h1)) : CT l D yJ2_size (ws_ yJ2_size cJ2_size 1 (Option.some FieldType.int)) 0 0 [va_rf r0] h0 (ovi x) h1 := by
  refine ct_of hl [some (va_rf r0)] (by decide) (by rw [lgl]; simp [va_rf_cat, cat_i, cat_l]) (by simp [lv_args, vsL, va_rf_cat, cat_i, cat_l]) (fun Γ => ?_)
  obtain ⟨o, ho⟩ : ∃ o : Int32 × PH, o = (x, h1) := ⟨_, rfl⟩
  rw [← ho] at hf
  have e1 : x = o.1 := by rw [ho]
  have e2 : h1 = o.2 := by rw [ho]
  subst e1 e2
  clear ho
  show PF Γ mi_J2_size D h0 (QR Γ D h0 (ovi o.1) o.2) h0 0 [some (va_rf r0)] []
  unfold f_J2_size at hf
  refine j_aload_n 0 dJ2_size_0 rfl rfl ?_
  refine j_gI (ci := 19) (k := 2) rfl in_J2 rfl q506 dJ2_size_1 hf (fun v1 hf => ?_)
  have e9 := Option.some.inj hf
  subst e9
  exact j_iret rfl dJ2_size_4
abbrev mi_J2_elementData : MI := (cJ2_elementData, 2, RJ2, (Option.some (FieldType.object "java/lang/Object")), [], 0, 0, "elementData")
def f_J2_elementData (r0 : Option Nat) (p0 : Int32) (h0 : PH) : Option (Option Nat × PH) := gR h0 r0 19 1 fun r1 => aQ h0 r1 4 p0 fun r2 => some (r2, h0)
theorem hyS_J2_elementData : yJ2_elementData.cls ≠ "java/lang/invoke/MethodHandle" ∧ yJ2_elementData.cls ≠ "java/lang/invoke/VarHandle" ∧ (parseMethodDescriptor yJ2_elementData.desc).map (fun d => d.parameters.length) = some 1 := by decide +kernel
theorem hyV_J2_elementData : yJ2_elementData.cls = RJ2 ∧ yJ2_elementData.cls ≠ "java/lang/invoke/MethodHandle" ∧ yJ2_elementData.cls ≠ "java/lang/invoke/VarHandle" ∧ (parseMethodDescriptor yJ2_elementData.desc).map (fun d => d.parameters.length) = some 1 := by decide +kernel
theorem c_J2_elementData {D : va_G} (r0 : Option Nat) (p0 : Int32) {h0 : PH} (l : Launch) (hl : l.stackTraces = false) (x : Option Nat) (h1 : PH) (hf : f_J2_elementData r0 p0 h0 = some (x, h1)) : CT l D yJ2_elementData (ws_ yJ2_elementData cJ2_elementData 2 (Option.some (FieldType.object "java/lang/Object"))) 0 0 [va_rf r0, .int p0] h0 (ovr x) h1 := by
  refine ct_of hl [some (va_rf r0), some (.int p0)] (by decide) (by rw [lgl]; simp [va_rf_cat, cat_i, cat_l]) (by simp [lv_args, vsL, va_rf_cat, cat_i, cat_l]) (fun Γ => ?_)
  obtain ⟨o, ho⟩ : ∃ o : Option Nat × PH, o = (x, h1) := ⟨_, rfl⟩
  rw [← ho] at hf
  have e1 : x = o.1 := by rw [ho]
  have e2 : h1 = o.2 := by rw [ho]
  subst e1 e2
  clear ho
  show PF Γ mi_J2_elementData D h0 (QR Γ D h0 (ovr o.1) o.2) h0 0 [some (va_rf r0), some (.int p0)] []
  unfold f_J2_elementData at hf
  refine j_aload_n 0 dJ2_elementData_0 rfl rfl ?_
  refine j_gR (ci := 19) (k := 1) rfl in_J2 rfl q505 dJ2_elementData_1 hf (fun r1 hf => ?_)
  refine j_iload_n 1 dJ2_elementData_4 rfl rfl ?_
  refine j_aald (t := 4) rfl dJ2_elementData_5 hf (fun r2 hf => ?_)
  have e9 := Option.some.inj hf
  subst e9
  exact j_aret rfl (Or.inl ⟨_, rfl⟩) dJ2_elementData_6
theorem kc_J2_93_J9 {Γ : GX} {I : MI} {D : va_G} {h0 : PH} {Q : State → Prop} {h : PH} {pc : Nat} {vs : List (Option Value)} {rest : List Value} {β : Type} {o : β} {r : Option Nat} {p0 : Option Nat} {K : ((Int32) → PH → Option β)} (hI : I.2.2.1 = RJ2) (hfr : Nat.ble 2 I.2.2.2.2.2.1 = true) (hlo : Nat.ble 44 I.2.2.2.2.2.2.1 = true) (hW : (rest.map fun v => v.category).sum ≤ 8) (hd : decode I.1 pc = .ok (.invokevirtual 93, 3)) (hf : rv_ h r 22 (cl_ (f_J9_equals r p0 h) K) = some o) (kk : ∀ (x : Int32) (h1 : PH), K x h1 = some o → PF Γ I D h0 Q h1 (pc + 3) vs (.int x :: rest)) : PF Γ I D h0 Q h pc vs (va_rf p0 :: va_rf r :: rest) := by
  obtain ⟨cc, nL, own, rt, xt, fr, lo, nm⟩ := I
  cases hI
  exact j_cOi (n := 1) (y := yJ9_equals) (cc2 := cJ9_equals) (As := [va_rf p0]) (ci := 22) (x9 := ⟨"java/lang/Object", "equals", "(Ljava/lang/Object;)Z"⟩) (owner := "java/lang/Object") (lw_O (C := RJ9) q1004 q1006 q1005 q1036 q977 q103 q979) q1039 (by decide +kernel) hfr hlo rfl hW hd (c_J9_equals r p0) hf _ rfl kk
abbrev mi_J2_indexOfRange : MI := (cJ2_indexOfRange, 6, RJ2, (Option.some FieldType.int), [], 2, 44, "indexOfRange")
def f_J2_indexOfRange_B69  (h : PH) : Option (Int32 × PH) := some ((-1 : Int32), h)
theorem pf_J2_indexOfRange_B69 {Γ : GX} {D : va_G} {h0 : PH} {o : Int32 × PH}  (h : PH) (hf : f_J2_indexOfRange_B69  h = some o) : PF Γ mi_J2_indexOfRange D h0 (QR Γ D h0 (ovi o.1) o.2) h 69 [none, none, none, none, none, none] [] := by
  refine j_iconst (-1 : Int32) dJ2_indexOfRange_69 (by decide) ?_
  have e9 := Option.some.inj hf
  subst e9
  exact j_iret rfl dJ2_indexOfRange_70
def f_J2_indexOfRange_L42 : Nat → Option Nat → Int32 → Option Nat → Int32 → PH → Option (Int32 × PH)
  | 0, _, _, _, _, _ => none
  | n + 1, x1, x3, x4, x5, h => (if x3 ≤ x5 then (f_J2_indexOfRange_B69  h) else (aQ h x4 4 x5 fun r2 => rv_ h x1 22 (cl_ (f_J9_equals x1 r2 h) fun v4 h3 => (if v4 = 0 then (f_J2_indexOfRange_L42 n x1 x3 x4 (x5 + (1 : Int32)) h3) else (some (x5, h3))))))
theorem pf_J2_indexOfRange_L42 {Γ : GX} {D : va_G} {h0 : PH} {o : Int32 × PH} : ∀ (n : Nat) (x1 : Option Nat) (x3 : Int32) (x4 : Option Nat) (x5 : Int32) (h : PH), f_J2_indexOfRange_L42 n x1 x3 x4 x5 h = some o → PF Γ mi_J2_indexOfRange D h0 (QR Γ D h0 (ovi o.1) o.2) h 42 [none, some (va_rf x1), none, some (.int x3), some (va_rf x4), some (.int x5)] [] := by
  intro n
  induction n with
  | zero => intro x1 x3 x4 x5 h hf; cases hf
  | succ n ih =>
    intro x1 x3 x4 x5 h hf
    refine j_iload dJ2_indexOfRange_42 rfl ?_
    refine j_iload_n 3 dJ2_indexOfRange_44 rfl rfl ?_
    refine j_icmp_ge 69 dJ2_indexOfRange_45 (by decide) hf (fun c_ hf => ?_) (fun c_ hf => ?_)
    · refine j_weak [none, none, none, none, none, none] (Wk.k (Wk.s (Wk.k (Wk.s (Wk.s (Wk.s Wk.n)))))) ?_
      exact pf_J2_indexOfRange_B69  h hf
    · refine j_aload_n 1 dJ2_indexOfRange_48 rfl rfl ?_
      refine j_aload dJ2_indexOfRange_49 rfl ?_
      refine j_iload dJ2_indexOfRange_51 rfl ?_
      refine j_aald (t := 4) rfl dJ2_indexOfRange_53 hf (fun r2 hf => ?_)
      refine kc_J2_93_J9 rfl rfl rfl (by decide) dJ2_indexOfRange_54 hf (fun v4 h3 hf => ?_)
      refine j_if_eq 63 dJ2_indexOfRange_57 (by decide) hf (fun c_ hf => ?_) (fun c_ hf => ?_)
      · refine j_iinc (x5 + (1 : Int32)) [none, some (va_rf x1), none, some (.int x3), some (va_rf x4), some (.int (x5 + (1 : Int32)))] dJ2_indexOfRange_63 rfl rfl (cz (va_rf_cat _)) rfl rfl ?_
        refine j_goto 42 dJ2_indexOfRange_66 (by decide) ?_
        exact ih x1 x3 x4 (x5 + (1 : Int32)) h3 hf
      · refine j_iload dJ2_indexOfRange_60 rfl ?_
        have e9 := Option.some.inj hf
        subst e9
        exact j_iret rfl dJ2_indexOfRange_62
def f_J2_indexOfRange_L13 : Nat → Int32 → Option Nat → Int32 → PH → Option (Int32 × PH)
  | 0, _, _, _, _ => none
  | n + 1, x3, x4, x5, h => (if x3 ≤ x5 then (f_J2_indexOfRange_B69  h) else (aQ h x4 4 x5 fun r5 => (if r5 = none then (some (x5, h)) else (f_J2_indexOfRange_L13 n x3 x4 (x5 + (1 : Int32)) h))))
theorem pf_J2_indexOfRange_L13 {Γ : GX} {D : va_G} {h0 : PH} {o : Int32 × PH} : ∀ (n : Nat) (x3 : Int32) (x4 : Option Nat) (x5 : Int32) (h : PH), f_J2_indexOfRange_L13 n x3 x4 x5 h = some o → PF Γ mi_J2_indexOfRange D h0 (QR Γ D h0 (ovi o.1) o.2) h 13 [none, none, none, some (.int x3), some (va_rf x4), some (.int x5)] [] := by
  intro n
  induction n with
  | zero => intro x3 x4 x5 h hf; cases hf
  | succ n ih =>
    intro x3 x4 x5 h hf
    refine j_iload dJ2_indexOfRange_13 rfl ?_
    refine j_iload_n 3 dJ2_indexOfRange_15 rfl rfl ?_
    refine j_icmp_ge 36 dJ2_indexOfRange_16 (by decide) hf (fun c_ hf => ?_) (fun c_ hf => ?_)
    · refine j_goto 69 dJ2_indexOfRange_36 (by decide) ?_
      refine j_weak [none, none, none, none, none, none] (Wk.k (Wk.k (Wk.k (Wk.s (Wk.s (Wk.s Wk.n)))))) ?_
      exact pf_J2_indexOfRange_B69  h hf
    · refine j_aload dJ2_indexOfRange_19 rfl ?_
      refine j_iload dJ2_indexOfRange_21 rfl ?_
      refine j_aald (t := 4) rfl dJ2_indexOfRange_23 hf (fun r5 hf => ?_)
      refine j_ifnonnull 30 dJ2_indexOfRange_24 (by decide) hf (fun c_ hf => ?_) (fun c_ hf => ?_)
      · refine j_iinc (x5 + (1 : Int32)) [none, none, none, some (.int x3), some (va_rf x4), some (.int (x5 + (1 : Int32)))] dJ2_indexOfRange_30 rfl rfl (cz (va_rf_cat _)) rfl rfl ?_
        refine j_goto 13 dJ2_indexOfRange_33 (by decide) ?_
        exact ih x3 x4 (x5 + (1 : Int32)) h hf
      · refine j_iload dJ2_indexOfRange_27 rfl ?_
        have e9 := Option.some.inj hf
        subst e9
        exact j_iret rfl dJ2_indexOfRange_29
def f_J2_indexOfRange (r0 : Option Nat) (p0 : Option Nat) (p1 : Int32) (p2 : Int32) (h0 : PH) : Option (Int32 × PH) := gR h0 r0 19 1 fun r1 => (if p0 = none then (f_J2_indexOfRange_L13 FU p2 r1 p1 h0) else (f_J2_indexOfRange_L42 FU p0 p2 r1 p1 h0))
theorem hyS_J2_indexOfRange : yJ2_indexOfRange.cls ≠ "java/lang/invoke/MethodHandle" ∧ yJ2_indexOfRange.cls ≠ "java/lang/invoke/VarHandle" ∧ (parseMethodDescriptor yJ2_indexOfRange.desc).map (fun d => d.parameters.length) = some 3 := by decide +kernel
theorem hyV_J2_indexOfRange : yJ2_indexOfRange.cls = RJ2 ∧ yJ2_indexOfRange.cls ≠ "java/lang/invoke/MethodHandle" ∧ yJ2_indexOfRange.cls ≠ "java/lang/invoke/VarHandle" ∧ (parseMethodDescriptor yJ2_indexOfRange.desc).map (fun d => d.parameters.length) = some 3 := by decide +kernel
theorem c_J2_indexOfRange {D : va_G} (r0 : Option Nat) (p0 : Option Nat) (p1 : Int32) (p2 : Int32) {h0 : PH} (l : Launch) (hl : l.stackTraces = false) (x : Int32) (h1 : PH) (hf : f_J2_indexOfRange r0 p0 p1 p2 h0 = some (x, h1)) : CT l D yJ2_indexOfRange (ws_ yJ2_indexOfRange cJ2_indexOfRange 6 (Option.some FieldType.int)) 2 44 [va_rf r0, va_rf p0, .int p1, .int p2] h0 (ovi x) h1 := by
  refine ct_of hl [some (va_rf r0), some (va_rf p0), some (.int p1), some (.int p2), none, none] (by decide) (by rw [lgl]; simp [va_rf_cat, cat_i, cat_l]) (by simp [lv_args, vsL, va_rf_cat, cat_i, cat_l]) (fun Γ => ?_)
  obtain ⟨o, ho⟩ : ∃ o : Int32 × PH, o = (x, h1) := ⟨_, rfl⟩
  rw [← ho] at hf
  have e1 : x = o.1 := by rw [ho]
  have e2 : h1 = o.2 := by rw [ho]
  subst e1 e2
  clear ho
  show PF Γ mi_J2_indexOfRange D h0 (QR Γ D h0 (ovi o.1) o.2) h0 0 [some (va_rf r0), some (va_rf p0), some (.int p1), some (.int p2), none, none] []
  unfold f_J2_indexOfRange at hf
  refine j_aload_n 0 dJ2_indexOfRange_0 rfl rfl ?_
  refine j_gR (ci := 19) (k := 1) rfl in_J2 rfl q505 dJ2_indexOfRange_1 hf (fun r1 hf => ?_)
  refine j_astore [some (va_rf r0), some (va_rf p0), some (.int p1), some (.int p2), some (va_rf r1), none] dJ2_indexOfRange_4 (cz rfl) rfl rfl ?_
  refine j_aload_n 1 dJ2_indexOfRange_6 rfl rfl ?_
  refine j_ifnonnull 39 dJ2_indexOfRange_7 (by decide) hf (fun c_ hf => ?_) (fun c_ hf => ?_)
  · refine j_iload_n 2 dJ2_indexOfRange_39 rfl rfl ?_
    refine j_istore [some (va_rf r0), some (va_rf p0), some (.int p1), some (.int p2), some (va_rf r1), some (.int p1)] dJ2_indexOfRange_40 (cz (va_rf_cat _)) rfl rfl ?_
    refine j_weak [none, some (va_rf p0), none, some (.int p2), some (va_rf r1), some (.int p1)] (Wk.s (Wk.k (Wk.s (Wk.k (Wk.k (Wk.k Wk.n)))))) ?_
    exact pf_J2_indexOfRange_L42 FU p0 p2 r1 p1 h0 hf
  · refine j_iload_n 2 dJ2_indexOfRange_10 rfl rfl ?_
    refine j_istore [some (va_rf r0), some (va_rf p0), some (.int p1), some (.int p2), some (va_rf r1), some (.int p1)] dJ2_indexOfRange_11 (cz (va_rf_cat _)) rfl rfl ?_
    refine j_weak [none, none, none, some (.int p2), some (va_rf r1), some (.int p1)] (Wk.s (Wk.s (Wk.s (Wk.k (Wk.k (Wk.k Wk.n)))))) ?_
    exact pf_J2_indexOfRange_L13 FU p2 r1 p1 h0 hf
abbrev mi_J2_isEmpty : MI := (cJ2_isEmpty, 1, RJ2, (Option.some FieldType.boolean), [], 0, 0, "isEmpty")
def f_J2_isEmpty_B12 (t0 : Int32) (h : PH) : Option (Int32 × PH) := rN .boolean t0 (fun v => v) h
theorem pf_J2_isEmpty_B12 {Γ : GX} {D : va_G} {h0 : PH} {o : Int32 × PH} (t0 : Int32) (h : PH) (hf : f_J2_isEmpty_B12 t0 h = some o) : PF Γ mi_J2_isEmpty D h0 (QR Γ D h0 (ovi o.1) o.2) h 12 [none] [.int t0] := by
  obtain ⟨hn9, hf⟩ := rN_in hf
  subst hf
  exact j_zret rfl (nar_z _ hn9) dJ2_isEmpty_12
def f_J2_isEmpty (r0 : Option Nat) (h0 : PH) : Option (Int32 × PH) := gI h0 r0 19 2 fun v1 => (if v1 = 0 then (f_J2_isEmpty_B12 (1 : Int32) h0) else (f_J2_isEmpty_B12 (0 : Int32) h0))
theorem hyS_J2_isEmpty : yJ2_isEmpty.cls ≠ "java/lang/invoke/MethodHandle" ∧ yJ2_isEmpty.cls ≠ "java/lang/invoke/VarHandle" ∧ (parseMethodDescriptor yJ2_isEmpty.desc).map (fun d => d.parameters.length) = some 0 := by decide +kernel
theorem hyV_J2_isEmpty : yJ2_isEmpty.cls = RJ2 ∧ yJ2_isEmpty.cls ≠ "java/lang/invoke/MethodHandle" ∧ yJ2_isEmpty.cls ≠ "java/lang/invoke/VarHandle" ∧ (parseMethodDescriptor yJ2_isEmpty.desc).map (fun d => d.parameters.length) = some 0 := by decide +kernel
theorem c_J2_isEmpty {D : va_G} (r0 : Option Nat) {h0 : PH} (l : Launch) (hl : l.stackTraces = false) (x : Int32) (h1 : PH) (hf : f_J2_isEmpty r0 h0 = some (x, h1)) : CT l D yJ2_isEmpty (ws_ yJ2_isEmpty cJ2_isEmpty 1 (Option.some FieldType.boolean)) 0 0 [va_rf r0] h0 (ovi x) h1 := by
  refine ct_of hl [some (va_rf r0)] (by decide) (by rw [lgl]; simp [va_rf_cat, cat_i, cat_l]) (by simp [lv_args, vsL, va_rf_cat, cat_i, cat_l]) (fun Γ => ?_)
  obtain ⟨o, ho⟩ : ∃ o : Int32 × PH, o = (x, h1) := ⟨_, rfl⟩
  rw [← ho] at hf
  have e1 : x = o.1 := by rw [ho]
  have e2 : h1 = o.2 := by rw [ho]
  subst e1 e2
  clear ho
  show PF Γ mi_J2_isEmpty D h0 (QR Γ D h0 (ovi o.1) o.2) h0 0 [some (va_rf r0)] []
  unfold f_J2_isEmpty at hf
  refine j_aload_n 0 dJ2_isEmpty_0 rfl rfl ?_
  refine j_gI (ci := 19) (k := 2) rfl in_J2 rfl q506 dJ2_isEmpty_1 hf (fun v1 hf => ?_)
  refine j_if_ne 11 dJ2_isEmpty_4 (by decide) hf (fun c_ hf => ?_) (fun c_ hf => ?_)
  · refine j_iconst (0 : Int32) dJ2_isEmpty_11 (by decide) ?_
    refine j_weak [none] (Wk.s Wk.n) ?_
    exact pf_J2_isEmpty_B12 (0 : Int32) h0 hf
  · refine j_iconst (1 : Int32) dJ2_isEmpty_7 (by decide) ?_
    refine j_goto 12 dJ2_isEmpty_8 (by decide) ?_
    refine j_weak [none] (Wk.s Wk.n) ?_
    exact pf_J2_isEmpty_B12 (1 : Int32) h0 hf
abbrev mi_J2_fastRemove : MI := (cJ2_fastRemove, 4, RJ2, none, [], 1, 60, "fastRemove")
def f_J2_fastRemove_B34 (x0 : Option Nat) (x1 : Option Nat) (x3 : Int32) (h : PH) : Option (Unit × PH) := pV h x0 19 2 (.int x3) fun h5 => sQ h5 x1 4 x3 none fun h6 => some ((), h6)
theorem pf_J2_fastRemove_B34 {Γ : GX} {D : va_G} {h0 : PH} {o : Unit × PH} (x0 : Option Nat) (x1 : Option Nat) (x3 : Int32) (h : PH) (hf : f_J2_fastRemove_B34 x0 x1 x3 h = some o) : PF Γ mi_J2_fastRemove D h0 (QR Γ D h0 (ovv o.1) o.2) h 34 [some (va_rf x0), some (va_rf x1), none, some (.int x3)] [] := by
  refine j_aload_n 1 dJ2_fastRemove_34 rfl rfl ?_
  refine j_aload_n 0 dJ2_fastRemove_35 rfl rfl ?_
  refine j_iload_n 3 dJ2_fastRemove_36 rfl rfl ?_
  refine j_dup_x1 dJ2_fastRemove_37 rfl (va_rf_cat _) ?_
  refine j_pV (ci := 19) (k := 2) tyJ2 tyJ2_ok nmJ2 rfl in_J2 rfl q506 (Or.inl rfl) rfl (fit_i _) dJ2_fastRemove_38 hf (fun h5 hf => ?_)
  refine j_aconst_null dJ2_fastRemove_41 ?_
  refine j_aast (t := 4) rfl dJ2_fastRemove_42 hf (fun h6 hf => ?_)
  have e9 := Option.some.inj hf
  subst e9
  exact j_vret rfl dJ2_fastRemove_43
def f_J2_fastRemove (r0 : Option Nat) (p0 : Option Nat) (p1 : Int32) (h0 : PH) : Option (Unit × PH) := gIN h0 r0 19 0 fun v1 => pV h0 r0 19 0 (.int (v1 + (1 : Int32))) fun h2 => gI h2 r0 19 2 fun v3 => (if (v3 - (1 : Int32)) ≤ p1 then (f_J2_fastRemove_B34 r0 p0 (v3 - (1 : Int32)) h2) else (ycQ h2 p0 (p1 + (1 : Int32)) p0 p1 ((v3 - (1 : Int32)) - p1) fun h4 => f_J2_fastRemove_B34 r0 p0 (v3 - (1 : Int32)) h4))
theorem hyS_J2_fastRemove : yJ2_fastRemove.cls ≠ "java/lang/invoke/MethodHandle" ∧ yJ2_fastRemove.cls ≠ "java/lang/invoke/VarHandle" ∧ (parseMethodDescriptor yJ2_fastRemove.desc).map (fun d => d.parameters.length) = some 2 := by decide +kernel
theorem hyV_J2_fastRemove : yJ2_fastRemove.cls = RJ2 ∧ yJ2_fastRemove.cls ≠ "java/lang/invoke/MethodHandle" ∧ yJ2_fastRemove.cls ≠ "java/lang/invoke/VarHandle" ∧ (parseMethodDescriptor yJ2_fastRemove.desc).map (fun d => d.parameters.length) = some 2 := by decide +kernel
theorem c_J2_fastRemove {D : va_G} (r0 : Option Nat) (p0 : Option Nat) (p1 : Int32) {h0 : PH} (l : Launch) (hl : l.stackTraces = false) (x : Unit) (h1 : PH) (hf : f_J2_fastRemove r0 p0 p1 h0 = some (x, h1)) : CT l D yJ2_fastRemove (ws_ yJ2_fastRemove cJ2_fastRemove 4 none) 1 60 [va_rf r0, va_rf p0, .int p1] h0 (ovv x) h1 := by
  refine ct_of hl [some (va_rf r0), some (va_rf p0), some (.int p1), none] (by decide) (by rw [lgl]; simp [va_rf_cat, cat_i, cat_l]) (by simp [lv_args, vsL, va_rf_cat, cat_i, cat_l]) (fun Γ => ?_)
  obtain ⟨o, ho⟩ : ∃ o : Unit × PH, o = (x, h1) := ⟨_, rfl⟩
  rw [← ho] at hf
  have e1 : x = o.1 := by rw [ho]
  have e2 : h1 = o.2 := by rw [ho]
  subst e1 e2
  clear ho
  show PF Γ mi_J2_fastRemove D h0 (QR Γ D h0 (ovv o.1) o.2) h0 0 [some (va_rf r0), some (va_rf p0), some (.int p1), none] []
  unfold f_J2_fastRemove at hf
  refine j_aload_n 0 dJ2_fastRemove_0 rfl rfl ?_
  refine j_dup dJ2_fastRemove_1 (va_rf_cat _) ?_
  refine j_gIM (ci := 19) (k := 0) rfl in_J2 rfl q508 rfl q509 dJ2_fastRemove_2 hf (fun v1 hf => ?_)
  refine j_iconst (1 : Int32) dJ2_fastRemove_5 (by decide) ?_
  refine j_iadd dJ2_fastRemove_6 ?_
  refine j_pVM (ci := 19) (k := 0) tyJ2 tyJ2_ok nmJ2 rfl in_J2 rfl q508 rfl q509 rfl dJ2_fastRemove_7 hf (fun h2 hf => ?_)
  refine j_aload_n 0 dJ2_fastRemove_10 rfl rfl ?_
  refine j_gI (ci := 19) (k := 2) rfl in_J2 rfl q506 dJ2_fastRemove_11 hf (fun v3 hf => ?_)
  refine j_iconst (1 : Int32) dJ2_fastRemove_14 (by decide) ?_
  refine j_isub dJ2_fastRemove_15 ?_
  refine j_dup dJ2_fastRemove_16 rfl ?_
  refine j_istore_n 3 [some (va_rf r0), some (va_rf p0), some (.int p1), some (.int (v3 - (1 : Int32)))] dJ2_fastRemove_17 rfl (cz rfl) rfl rfl ?_
  refine j_iload_n 2 dJ2_fastRemove_18 rfl rfl ?_
  refine j_icmp_le 34 dJ2_fastRemove_19 (by decide) hf (fun c_ hf => ?_) (fun c_ hf => ?_)
  · refine j_weak [some (va_rf r0), some (va_rf p0), none, some (.int (v3 - (1 : Int32)))] (Wk.k (Wk.k (Wk.s (Wk.k Wk.n)))) ?_
    exact pf_J2_fastRemove_B34 r0 p0 (v3 - (1 : Int32)) h2 hf
  · refine j_aload_n 1 dJ2_fastRemove_22 rfl rfl ?_
    refine j_iload_n 2 dJ2_fastRemove_23 rfl rfl ?_
    refine j_iconst (1 : Int32) dJ2_fastRemove_24 (by decide) ?_
    refine j_iadd dJ2_fastRemove_25 ?_
    refine j_aload_n 1 dJ2_fastRemove_26 rfl rfl ?_
    refine j_iload_n 2 dJ2_fastRemove_27 rfl rfl ?_
    refine j_iload_n 3 dJ2_fastRemove_28 rfl rfl ?_
    refine j_iload_n 2 dJ2_fastRemove_29 rfl rfl ?_
    refine j_isub dJ2_fastRemove_30 ?_
    refine j_ycQ q1333 q310 q309 q108 rfl rfl (by decide) dJ2_fastRemove_31 hf (fun h4 hf => ?_)
    refine j_weak [some (va_rf r0), some (va_rf p0), none, some (.int (v3 - (1 : Int32)))] (Wk.k (Wk.k (Wk.s (Wk.k Wk.n)))) ?_
    exact pf_J2_fastRemove_B34 r0 p0 (v3 - (1 : Int32)) h4 hf
theorem kc_J2_144 {Γ : GX} {I : MI} {D : va_G} {h0 : PH} {Q : State → Prop} {h : PH} {pc : Nat} {vs : List (Option Value)} {rest : List Value} {β : Type} {o : β} {r : Option Nat} {p0 : Option Nat} {p1 : Int32} {K : ((Unit) → PH → Option β)} (hI : I.2.2.1 = RJ2) (hfr : Nat.ble 2 I.2.2.2.2.2.1 = true) (hlo : Nat.ble 83 I.2.2.2.2.2.2.1 = true) (hW : (rest.map fun v => v.category).sum ≤ 8) (hd : decode I.1 pc = .ok (.invokevirtual 144, 3)) (hf : rv_ h r 19 (cl_ (f_J2_fastRemove r p0 p1 h) K) = some o) (kk : ∀ (x : Unit) (h1 : PH), K x h1 = some o → PF Γ I D h0 Q h1 (pc + 3) vs (rest)) : PF Γ I D h0 Q h pc vs (.int p1 :: va_rf p0 :: va_rf r :: rest) := by
  obtain ⟨cc, nL, own, rt, xt, fr, lo, nm⟩ := I
  cases hI
  exact j_cVv (n := 2) (y := yJ2_fastRemove) (cc2 := cJ2_fastRemove) (As := [va_rf p0, .int p1]) (C := RJ2) (ci := 19) rfl (lw_V q1329 q1331 qs16 q96 q1332) hyV_J2_fastRemove hfr hlo rfl hW hd (c_J2_fastRemove r p0 p1) hf _ rfl kk
abbrev mi_J2_remove_2 : MI := (cJ2_remove_2, 5, RJ2, (Option.some FieldType.boolean), [], 2, 83, "remove")
def f_J2_remove_2_B65  (h : PH) : Option (Int32 × PH) := rN .boolean (0 : Int32) (fun v => v) h
theorem pf_J2_remove_2_B65 {Γ : GX} {D : va_G} {h0 : PH} {o : Int32 × PH}  (h : PH) (hf : f_J2_remove_2_B65  h = some o) : PF Γ mi_J2_remove_2 D h0 (QR Γ D h0 (ovi o.1) o.2) h 65 [none, none, none, none, none] [] := by
  refine j_iconst (0 : Int32) dJ2_remove_2_65 (by decide) ?_
  obtain ⟨hn9, hf⟩ := rN_in hf
  subst hf
  exact j_zret rfl (nar_z _ hn9) dJ2_remove_2_66
def f_J2_remove_2_B67 (x0 : Option Nat) (x2 : Option Nat) (x4 : Int32) (h : PH) : Option (Int32 × PH) := rv_ h x0 19 (cl_ (f_J2_fastRemove x0 x2 x4 h) fun _u h6 => rN .boolean (1 : Int32) (fun v => v) h6)
theorem pf_J2_remove_2_B67 {Γ : GX} {D : va_G} {h0 : PH} {o : Int32 × PH} (x0 : Option Nat) (x2 : Option Nat) (x4 : Int32) (h : PH) (hf : f_J2_remove_2_B67 x0 x2 x4 h = some o) : PF Γ mi_J2_remove_2 D h0 (QR Γ D h0 (ovi o.1) o.2) h 67 [some (va_rf x0), none, some (va_rf x2), none, some (.int x4)] [] := by
  refine j_aload_n 0 dJ2_remove_2_67 rfl rfl ?_
  refine j_aload_n 2 dJ2_remove_2_68 rfl rfl ?_
  refine j_iload dJ2_remove_2_69 rfl ?_
  refine kc_J2_144 rfl rfl rfl (by decide) dJ2_remove_2_71 hf (fun _u h6 hf => ?_)
  refine j_iconst (1 : Int32) dJ2_remove_2_74 (by decide) ?_
  obtain ⟨hn9, hf⟩ := rN_in hf
  subst hf
  exact j_zret rfl (nar_z _ hn9) dJ2_remove_2_75
def f_J2_remove_2_L39 : Nat → Option Nat → Option Nat → Option Nat → Int32 → Int32 → PH → Option (Int32 × PH)
  | 0, _, _, _, _, _, _ => none
  | n + 1, x0, x1, x2, x3, x4, h => (if x3 ≤ x4 then (f_J2_remove_2_B65  h) else (aQ h x2 4 x4 fun r3 => oE h x1 13 r3 fun v4 => (if v4 = 0 then (f_J2_remove_2_L39 n x0 x1 x2 x3 (x4 + (1 : Int32)) h) else (f_J2_remove_2_B67 x0 x2 x4 h))))
theorem pf_J2_remove_2_L39 {Γ : GX} {D : va_G} {h0 : PH} {o : Int32 × PH} : ∀ (n : Nat) (x0 : Option Nat) (x1 : Option Nat) (x2 : Option Nat) (x3 : Int32) (x4 : Int32) (h : PH), f_J2_remove_2_L39 n x0 x1 x2 x3 x4 h = some o → PF Γ mi_J2_remove_2 D h0 (QR Γ D h0 (ovi o.1) o.2) h 39 [some (va_rf x0), some (va_rf x1), some (va_rf x2), some (.int x3), some (.int x4)] [] := by
  intro n
  induction n with
  | zero => intro x0 x1 x2 x3 x4 h hf; cases hf
  | succ n ih =>
    intro x0 x1 x2 x3 x4 h hf
    refine j_iload dJ2_remove_2_39 rfl ?_
    refine j_iload_n 3 dJ2_remove_2_41 rfl rfl ?_
    refine j_icmp_ge 65 dJ2_remove_2_42 (by decide) hf (fun c_ hf => ?_) (fun c_ hf => ?_)
    · refine j_weak [none, none, none, none, none] (Wk.s (Wk.s (Wk.s (Wk.s (Wk.s Wk.n))))) ?_
      exact pf_J2_remove_2_B65  h hf
    · refine j_aload_n 1 dJ2_remove_2_45 rfl rfl ?_
      refine j_aload_n 2 dJ2_remove_2_46 rfl rfl ?_
      refine j_iload dJ2_remove_2_47 rfl ?_
      refine j_aald (t := 4) rfl dJ2_remove_2_49 hf (fun r3 hf => ?_)
      refine j_objE (ci := 13) q1004 q1006 q1005 q1039 q1016 rfl rfl (by decide) dJ2_remove_2_50 hf (fun v4 hf => ?_)
      refine j_if_eq 59 dJ2_remove_2_53 (by decide) hf (fun c_ hf => ?_) (fun c_ hf => ?_)
      · refine j_iinc (x4 + (1 : Int32)) [some (va_rf x0), some (va_rf x1), some (va_rf x2), some (.int x3), some (.int (x4 + (1 : Int32)))] dJ2_remove_2_59 rfl rfl (cz rfl) rfl rfl ?_
        refine j_goto 39 dJ2_remove_2_62 (by decide) ?_
        exact ih x0 x1 x2 x3 (x4 + (1 : Int32)) h hf
      · refine j_goto 67 dJ2_remove_2_56 (by decide) ?_
        refine j_weak [some (va_rf x0), none, some (va_rf x2), none, some (.int x4)] (Wk.k (Wk.s (Wk.k (Wk.s (Wk.k Wk.n))))) ?_
        exact pf_J2_remove_2_B67 x0 x2 x4 h hf
def f_J2_remove_2_L17 : Nat → Option Nat → Option Nat → Int32 → Int32 → PH → Option (Int32 × PH)
  | 0, _, _, _, _, _ => none
  | n + 1, x0, x2, x3, x4, h => (if x3 ≤ x4 then (f_J2_remove_2_B65  h) else (aQ h x2 4 x4 fun r5 => (if r5 = none then (f_J2_remove_2_B67 x0 x2 x4 h) else (f_J2_remove_2_L17 n x0 x2 x3 (x4 + (1 : Int32)) h))))
theorem pf_J2_remove_2_L17 {Γ : GX} {D : va_G} {h0 : PH} {o : Int32 × PH} : ∀ (n : Nat) (x0 : Option Nat) (x2 : Option Nat) (x3 : Int32) (x4 : Int32) (h : PH), f_J2_remove_2_L17 n x0 x2 x3 x4 h = some o → PF Γ mi_J2_remove_2 D h0 (QR Γ D h0 (ovi o.1) o.2) h 17 [some (va_rf x0), none, some (va_rf x2), some (.int x3), some (.int x4)] [] := by
  intro n
  induction n with
  | zero => intro x0 x2 x3 x4 h hf; cases hf
  | succ n ih =>
    intro x0 x2 x3 x4 h hf
    refine j_iload dJ2_remove_2_17 rfl ?_
    refine j_iload_n 3 dJ2_remove_2_19 rfl rfl ?_
    refine j_icmp_ge 65 dJ2_remove_2_20 (by decide) hf (fun c_ hf => ?_) (fun c_ hf => ?_)
    · refine j_weak [none, none, none, none, none] (Wk.s (Wk.k (Wk.s (Wk.s (Wk.s Wk.n))))) ?_
      exact pf_J2_remove_2_B65  h hf
    · refine j_aload_n 2 dJ2_remove_2_23 rfl rfl ?_
      refine j_iload dJ2_remove_2_24 rfl ?_
      refine j_aald (t := 4) rfl dJ2_remove_2_26 hf (fun r5 hf => ?_)
      refine j_ifnonnull 33 dJ2_remove_2_27 (by decide) hf (fun c_ hf => ?_) (fun c_ hf => ?_)
      · refine j_iinc (x4 + (1 : Int32)) [some (va_rf x0), none, some (va_rf x2), some (.int x3), some (.int (x4 + (1 : Int32)))] dJ2_remove_2_33 rfl rfl (cz rfl) rfl rfl ?_
        refine j_goto 17 dJ2_remove_2_36 (by decide) ?_
        exact ih x0 x2 x3 (x4 + (1 : Int32)) h hf
      · refine j_goto 67 dJ2_remove_2_30 (by decide) ?_
        refine j_weak [some (va_rf x0), none, some (va_rf x2), none, some (.int x4)] (Wk.k (Wk.k (Wk.k (Wk.s (Wk.k Wk.n))))) ?_
        exact pf_J2_remove_2_B67 x0 x2 x4 h hf
def f_J2_remove_2 (r0 : Option Nat) (p0 : Option Nat) (h0 : PH) : Option (Int32 × PH) := gR h0 r0 19 1 fun r1 => gI h0 r0 19 2 fun v2 => (if p0 = none then (f_J2_remove_2_L17 FU r0 r1 v2 (0 : Int32) h0) else (f_J2_remove_2_L39 FU r0 p0 r1 v2 (0 : Int32) h0))
theorem hyS_J2_remove_2 : yJ2_remove_2.cls ≠ "java/lang/invoke/MethodHandle" ∧ yJ2_remove_2.cls ≠ "java/lang/invoke/VarHandle" ∧ (parseMethodDescriptor yJ2_remove_2.desc).map (fun d => d.parameters.length) = some 1 := by decide +kernel
theorem hyV_J2_remove_2 : yJ2_remove_2.cls = RJ2 ∧ yJ2_remove_2.cls ≠ "java/lang/invoke/MethodHandle" ∧ yJ2_remove_2.cls ≠ "java/lang/invoke/VarHandle" ∧ (parseMethodDescriptor yJ2_remove_2.desc).map (fun d => d.parameters.length) = some 1 := by decide +kernel
theorem c_J2_remove_2 {D : va_G} (r0 : Option Nat) (p0 : Option Nat) {h0 : PH} (l : Launch) (hl : l.stackTraces = false) (x : Int32) (h1 : PH) (hf : f_J2_remove_2 r0 p0 h0 = some (x, h1)) : CT l D yJ2_remove_2 (ws_ yJ2_remove_2 cJ2_remove_2 5 (Option.some FieldType.boolean)) 2 83 [va_rf r0, va_rf p0] h0 (ovi x) h1 := by
  refine ct_of hl [some (va_rf r0), some (va_rf p0), none, none, none] (by decide) (by rw [lgl]; simp [va_rf_cat, cat_i, cat_l]) (by simp [lv_args, vsL, va_rf_cat, cat_i, cat_l]) (fun Γ => ?_)
  obtain ⟨o, ho⟩ : ∃ o : Int32 × PH, o = (x, h1) := ⟨_, rfl⟩
  rw [← ho] at hf
  have e1 : x = o.1 := by rw [ho]
  have e2 : h1 = o.2 := by rw [ho]
  subst e1 e2
  clear ho
  show PF Γ mi_J2_remove_2 D h0 (QR Γ D h0 (ovi o.1) o.2) h0 0 [some (va_rf r0), some (va_rf p0), none, none, none] []
  unfold f_J2_remove_2 at hf
  refine j_aload_n 0 dJ2_remove_2_0 rfl rfl ?_
  refine j_gR (ci := 19) (k := 1) rfl in_J2 rfl q505 dJ2_remove_2_1 hf (fun r1 hf => ?_)
  refine j_astore_n 2 [some (va_rf r0), some (va_rf p0), some (va_rf r1), none, none] dJ2_remove_2_4 rfl (cz (va_rf_cat _)) rfl rfl ?_
  refine j_aload_n 0 dJ2_remove_2_5 rfl rfl ?_
  refine j_gI (ci := 19) (k := 2) rfl in_J2 rfl q506 dJ2_remove_2_6 hf (fun v2 hf => ?_)
  refine j_istore_n 3 [some (va_rf r0), some (va_rf p0), some (va_rf r1), some (.int v2), none] dJ2_remove_2_9 rfl (cz (va_rf_cat _)) rfl rfl ?_
  refine j_iconst (0 : Int32) dJ2_remove_2_10 (by decide) ?_
  refine j_istore [some (va_rf r0), some (va_rf p0), some (va_rf r1), some (.int v2), some (.int (0 : Int32))] dJ2_remove_2_11 (cz rfl) rfl rfl ?_
  refine j_aload_n 1 dJ2_remove_2_13 rfl rfl ?_
  refine j_ifnonnull 39 dJ2_remove_2_14 (by decide) hf (fun c_ hf => ?_) (fun c_ hf => ?_)
  · exact pf_J2_remove_2_L39 FU r0 p0 r1 v2 (0 : Int32) h0 hf
  · refine j_weak [some (va_rf r0), none, some (va_rf r1), some (.int v2), some (.int (0 : Int32))] (Wk.k (Wk.s (Wk.k (Wk.k (Wk.k Wk.n))))) ?_
    exact pf_J2_remove_2_L17 FU r0 r1 v2 (0 : Int32) h0 hf
theorem kc_J17_199 {Γ : GX} {I : MI} {D : va_G} {h0 : PH} {Q : State → Prop} {h : PH} {pc : Nat} {vs : List (Option Value)} {rest : List Value} {β : Type} {o : β} {a : Nat} {p0 : Int32} {K : ((Unit) → PH → Option β)} (hI : I.2.2.1 = RJ17) (hfr : Nat.ble 3 I.2.2.2.2.2.1 = true) (hlo : Nat.ble 61 I.2.2.2.2.2.2.1 = true) (hW : (rest.map fun v => v.category).sum ≤ 8) (hd : decode I.1 pc = .ok (.invokespecial 199, 3)) (hf : cl_ (f_J17_init a p0 h) K = some o) (kk : ∀ (x : Unit) (h1 : PH), K x h1 = some o → PF Γ I D h0 Q h1 (pc + 3) vs (rest)) : PF Γ I D h0 Q h pc vs (.int p0 :: va_rf (some a) :: rest) := by
  obtain ⟨cc, nL, own, rt, xt, fr, lo, nm⟩ := I
  cases hI
  exact j_cIv (n := 1) (y := yJ17_init) (cc2 := cJ17_init) (As := [.int p0]) (lw_meth q644) q112 q642 q643 rfl hyS_J17_init hfr hlo rfl hW hd (c_J17_init a p0) ⟨_, rfl⟩ hf _ rfl kk
abbrev mi_J17_valueOf : MI := (cJ17_valueOf, 1, RJ17, (Option.some (FieldType.object "java/lang/Integer")), [], 3, 61, "valueOf")
def f_J17_valueOf_B23 (x0 : Int32) (h : PH) : Option (Option Nat × PH) := nO h 23 1 [.int 0] fun a4 h5 => cl_ (f_J17_init a4 x0 h5) fun _u h6 => some ((some a4), h6)
theorem pf_J17_valueOf_B23 {Γ : GX} {D : va_G} {h0 : PH} {o : Option Nat × PH} (x0 : Int32) (h : PH) (hf : f_J17_valueOf_B23 x0 h = some o) : PF Γ mi_J17_valueOf D h0 (QR Γ D h0 (ovr o.1) o.2) h 23 [some (.int x0)] [] := by
  refine j_nO (ci := 23) tyJ17 tyJ17_ok rfl in_J17 q640 q641 q112 (by decide) dJ17_valueOf_23 hf (fun a4 h5 hf => ?_)
  refine j_dup dJ17_valueOf_26 (va_rf_cat _) ?_
  refine j_iload_n 0 dJ17_valueOf_27 rfl rfl ?_
  refine kc_J17_199 rfl rfl rfl (by simp [va_rf_cat, cat_i, cat_l]) dJ17_valueOf_28 hf (fun _u h6 hf => ?_)
  have e9 := Option.some.inj hf
  subst e9
  exact j_aret rfl (Or.inl ⟨_, rfl⟩) dJ17_valueOf_31
def f_J17_valueOf (p0 : Int32) (h0 : PH) : Option (Option Nat × PH) := (if p0 < (-128 : Int32) then (f_J17_valueOf_B23 p0 h0) else (asI (some (h0.2.1.1 10)) fun v1 => (if v1 < p0 then (f_J17_valueOf_B23 p0 h0) else (asR (some (h0.2.1.1 11)) fun r2 => aIC h0 r2 (p0 + (128 : Int32)) fun r3 => some (r3, h0)))))
theorem hyS_J17_valueOf : yJ17_valueOf.cls ≠ "java/lang/invoke/MethodHandle" ∧ yJ17_valueOf.cls ≠ "java/lang/invoke/VarHandle" ∧ (parseMethodDescriptor yJ17_valueOf.desc).map (fun d => d.parameters.length) = some 1 := by decide +kernel
theorem c_J17_valueOf {D : va_G} (p0 : Int32) {h0 : PH} (l : Launch) (hl : l.stackTraces = false) (x : Option Nat) (h1 : PH) (hf : f_J17_valueOf p0 h0 = some (x, h1)) : CT l D yJ17_valueOf (ws_ yJ17_valueOf cJ17_valueOf 1 (Option.some (FieldType.object "java/lang/Integer"))) 3 61 [.int p0] h0 (ovr x) h1 := by
  refine ct_of hl [some (.int p0)] (by decide) (Nat.le_of_ble_eq_true rfl) rfl (fun Γ => ?_)
  obtain ⟨o, ho⟩ : ∃ o : Option Nat × PH, o = (x, h1) := ⟨_, rfl⟩
  rw [← ho] at hf
  have e1 : x = o.1 := by rw [ho]
  have e2 : h1 = o.2 := by rw [ho]
  subst e1 e2
  clear ho
  show PF Γ mi_J17_valueOf D h0 (QR Γ D h0 (ovr o.1) o.2) h0 0 [some (.int p0)] []
  unfold f_J17_valueOf at hf
  refine j_iload_n 0 dJ17_valueOf_0 rfl rfl ?_
  refine j_bipush (-128 : Int32) dJ17_valueOf_1 (by decide) ?_
  refine j_icmp_lt 23 dJ17_valueOf_3 (by decide) hf (fun c_ hf => ?_) (fun c_ hf => ?_)
  · exact pf_J17_valueOf_B23 p0 h0 hf
  · refine j_iload_n 0 dJ17_valueOf_6 rfl rfl ?_
    refine j_gsI (i := 10) rfl q636 dJ17_valueOf_7 hf (fun v1 hf => ?_)
    refine j_icmp_gt 23 dJ17_valueOf_10 (by decide) hf (fun c_ hf => ?_) (fun c_ hf => ?_)
    · exact pf_J17_valueOf_B23 p0 h0 hf
    · refine j_gsR (i := 11) rfl q638 dJ17_valueOf_13 hf (fun r2 hf => ?_)
      refine j_iload_n 0 dJ17_valueOf_16 rfl rfl ?_
      refine j_sipush (128 : Int32) dJ17_valueOf_17 (by decide) ?_
      refine j_iadd dJ17_valueOf_20 ?_
      refine j_aIC dJ17_valueOf_21 hf (fun r3 hf => ?_)
      have e9 := Option.some.inj hf
      subst e9
      exact j_aret rfl (Or.inl ⟨_, rfl⟩) dJ17_valueOf_22
theorem kc_J11_62 {Γ : GX} {I : MI} {D : va_G} {h0 : PH} {Q : State → Prop} {h : PH} {pc : Nat} {vs : List (Option Value)} {rest : List Value} {β : Type} {o : β} {p0 : Int32} {p1 : Option Nat} {p2 : Int32} {p3 : Int32} {K : ((Int32) → PH → Option β)} (hI : I.2.2.1 = RJ11) (hfr : Nat.ble 1 I.2.2.2.2.2.1 = true) (hlo : Nat.ble 25 I.2.2.2.2.2.2.1 = true) (hW : (rest.map fun v => v.category).sum ≤ 8) (hd : decode I.1 pc = .ok (.invokestatic 62, 3)) (hf : cl_ (f_J11_signedHashCode p0 p1 p2 p3 h) K = some o) (kk : ∀ (x : Int32) (h1 : PH), K x h1 = some o → PF Γ I D h0 Q h1 (pc + 3) vs (.int x :: rest)) : PF Γ I D h0 Q h pc vs (.int p3 :: .int p2 :: va_rf p1 :: .int p0 :: rest) := by
  obtain ⟨cc, nL, own, rt, xt, fr, lo, nm⟩ := I
  cases hI
  exact j_cSi (n := 4) (y := yJ11_signedHashCode) (cc2 := cJ11_signedHashCode) (As := [.int p0, va_rf p1, .int p2, .int p3]) (lw_S q1082 q1083 q105 q1084) hyS_J11_signedHashCode hfr hlo rfl hW hd (c_J11_signedHashCode p0 p1 p2 p3) hf _ rfl kk
theorem kc_J11_75 {Γ : GX} {I : MI} {D : va_G} {h0 : PH} {Q : State → Prop} {h : PH} {pc : Nat} {vs : List (Option Value)} {rest : List Value} {β : Type} {o : β} {p0 : Int32} {p1 : Option Nat} {p2 : Int32} {p3 : Int32} {K : ((Int32) → PH → Option β)} (hI : I.2.2.1 = RJ11) (hfr : Nat.ble 1 I.2.2.2.2.2.1 = true) (hlo : Nat.ble 25 I.2.2.2.2.2.2.1 = true) (hW : (rest.map fun v => v.category).sum ≤ 8) (hd : decode I.1 pc = .ok (.invokestatic 75, 3)) (hf : cl_ (f_J11_hashCode_2 p0 p1 p2 p3 h) K = some o) (kk : ∀ (x : Int32) (h1 : PH), K x h1 = some o → PF Γ I D h0 Q h1 (pc + 3) vs (.int x :: rest)) : PF Γ I D h0 Q h pc vs (.int p3 :: .int p2 :: va_rf p1 :: .int p0 :: rest) := by
  obtain ⟨cc, nL, own, rt, xt, fr, lo, nm⟩ := I
  cases hI
  exact j_cSi (n := 4) (y := yJ11_hashCode_2) (cc2 := cJ11_hashCode_2) (As := [.int p0, va_rf p1, .int p2, .int p3]) (lw_S q1105 q1106 q105 q1107) hyS_J11_hashCode_2 hfr hlo rfl hW hd (c_J11_hashCode_2 p0 p1 p2 p3) hf _ rfl kk
abbrev mi_J11_vectorizedHashCode : MI := (cJ11_vectorizedHashCode, 5, RJ11, (Option.some FieldType.int), [], 1, 25, "vectorizedHashCode")
def f_J11_vectorizedHashCode_B157 (t0 : Int32) (h : PH) : Option (Int32 × PH) := some (t0, h)
theorem pf_J11_vectorizedHashCode_B157 {Γ : GX} {D : va_G} {h0 : PH} {o : Int32 × PH} (t0 : Int32) (h : PH) (hf : f_J11_vectorizedHashCode_B157 t0 h = some o) : PF Γ mi_J11_vectorizedHashCode D h0 (QR Γ D h0 (ovi o.1) o.2) h 157 [none, none, none, none, none] [.int t0] := by
  have e9 := Option.some.inj hf
  subst e9
  exact j_iret rfl dJ11_vectorizedHashCode_157
def f_J11_vectorizedHashCode (p0 : Option Nat) (p1 : Int32) (p2 : Int32) (p3 : Int32) (p4 : Int32) (h0 : PH) : Option (Int32 × PH) := (if p4 = (4 : Int32) then (kB h0 p0 (cl_ (f_J11_signedHashCode p3 p0 p1 p2 h0) fun v2 h1 => f_J11_vectorizedHashCode_B157 v2 h1)) else (if p4 = (5 : Int32) then (none) else (if p4 = (6 : Int32) then (none) else (if p4 = (7 : Int32) then (none) else (if p4 = (8 : Int32) then (kB h0 p0 (cl_ (f_J11_hashCode_2 p3 p0 p1 p2 h0) fun v4 h3 => f_J11_vectorizedHashCode_B157 v4 h3)) else (if p4 = (9 : Int32) then (none) else (if p4 = (10 : Int32) then (none) else none)))))))
theorem hyS_J11_vectorizedHashCode : yJ11_vectorizedHashCode.cls ≠ "java/lang/invoke/MethodHandle" ∧ yJ11_vectorizedHashCode.cls ≠ "java/lang/invoke/VarHandle" ∧ (parseMethodDescriptor yJ11_vectorizedHashCode.desc).map (fun d => d.parameters.length) = some 5 := by decide +kernel
theorem c_J11_vectorizedHashCode {D : va_G} (p0 : Option Nat) (p1 : Int32) (p2 : Int32) (p3 : Int32) (p4 : Int32) {h0 : PH} (l : Launch) (hl : l.stackTraces = false) (x : Int32) (h1 : PH) (hf : f_J11_vectorizedHashCode p0 p1 p2 p3 p4 h0 = some (x, h1)) : CT l D yJ11_vectorizedHashCode (ws_ yJ11_vectorizedHashCode cJ11_vectorizedHashCode 5 (Option.some FieldType.int)) 1 25 [va_rf p0, .int p1, .int p2, .int p3, .int p4] h0 (ovi x) h1 := by
  refine ct_of hl [some (va_rf p0), some (.int p1), some (.int p2), some (.int p3), some (.int p4)] (by decide) (by rw [lgl]; simp [va_rf_cat, cat_i, cat_l]) (by simp [lv_args, vsL, va_rf_cat, cat_i, cat_l]) (fun Γ => ?_)
  obtain ⟨o, ho⟩ : ∃ o : Int32 × PH, o = (x, h1) := ⟨_, rfl⟩
  rw [← ho] at hf
  have e1 : x = o.1 := by rw [ho]
  have e2 : h1 = o.2 := by rw [ho]
  subst e1 e2
  clear ho
  show PF Γ mi_J11_vectorizedHashCode D h0 (QR Γ D h0 (ovi o.1) o.2) h0 0 [some (va_rf p0), some (.int p1), some (.int p2), some (.int p3), some (.int p4)] []
  unfold f_J11_vectorizedHashCode at hf
  refine j_iload dJ11_vectorizedHashCode_0 rfl ?_
  refine j_case (4 : Int32) hf (fun hf => ?_) (fun c4 hf => ?_)
  · refine j_tableIn 44 dJ11_vectorizedHashCode_2 (by decide) (by decide) rfl (by decide) ?_
    refine j_iload_n 3 dJ11_vectorizedHashCode_44 rfl rfl ?_
    refine j_aload_n 0 dJ11_vectorizedHashCode_45 rfl rfl ?_
    refine j_kB q1081 dJ11_vectorizedHashCode_46 hf (fun hf => ?_)
    refine j_iload_n 1 dJ11_vectorizedHashCode_49 rfl rfl ?_
    refine j_iload_n 2 dJ11_vectorizedHashCode_50 rfl rfl ?_
    refine kc_J11_62 rfl rfl rfl (by decide) dJ11_vectorizedHashCode_51 hf (fun v2 h1 hf => ?_)
    refine j_goto 157 dJ11_vectorizedHashCode_54 (by decide) ?_
    refine j_weak [none, none, none, none, none] (Wk.s (Wk.s (Wk.s (Wk.s (Wk.s Wk.n))))) ?_
    exact pf_J11_vectorizedHashCode_B157 v2 h1 hf
  refine j_case (5 : Int32) hf (fun hf => ?_) (fun c5 hf => ?_)
  · refine j_tableIn 57 dJ11_vectorizedHashCode_2 (by decide) (by decide) rfl (by decide) ?_
    refine j_aload_n 0 dJ11_vectorizedHashCode_57 rfl rfl ?_
    cases hf
  refine j_case (6 : Int32) hf (fun hf => ?_) (fun c6 hf => ?_)
  · refine j_tableIn 129 dJ11_vectorizedHashCode_2 (by decide) (by decide) rfl (by decide) ?_
    cases hf
  refine j_case (7 : Int32) hf (fun hf => ?_) (fun c7 hf => ?_)
  · refine j_tableIn 129 dJ11_vectorizedHashCode_2 (by decide) (by decide) rfl (by decide) ?_
    cases hf
  refine j_case (8 : Int32) hf (fun hf => ?_) (fun c8 hf => ?_)
  · refine j_tableIn 90 dJ11_vectorizedHashCode_2 (by decide) (by decide) rfl (by decide) ?_
    refine j_iload_n 3 dJ11_vectorizedHashCode_90 rfl rfl ?_
    refine j_aload_n 0 dJ11_vectorizedHashCode_91 rfl rfl ?_
    refine j_kB q1081 dJ11_vectorizedHashCode_92 hf (fun hf => ?_)
    refine j_iload_n 1 dJ11_vectorizedHashCode_95 rfl rfl ?_
    refine j_iload_n 2 dJ11_vectorizedHashCode_96 rfl rfl ?_
    refine kc_J11_75 rfl rfl rfl (by decide) dJ11_vectorizedHashCode_97 hf (fun v4 h3 hf => ?_)
    refine j_goto 157 dJ11_vectorizedHashCode_100 (by decide) ?_
    refine j_weak [none, none, none, none, none] (Wk.s (Wk.s (Wk.s (Wk.s (Wk.s Wk.n))))) ?_
    exact pf_J11_vectorizedHashCode_B157 v4 h3 hf
  refine j_case (9 : Int32) hf (fun hf => ?_) (fun c9 hf => ?_)
  · refine j_tableIn 103 dJ11_vectorizedHashCode_2 (by decide) (by decide) rfl (by decide) ?_
    refine j_iload_n 3 dJ11_vectorizedHashCode_103 rfl rfl ?_
    refine j_aload_n 0 dJ11_vectorizedHashCode_104 rfl rfl ?_
    cases hf
  refine j_case (10 : Int32) hf (fun hf => ?_) (fun c10 hf => ?_)
  · refine j_tableIn 116 dJ11_vectorizedHashCode_2 (by decide) (by decide) rfl (by decide) ?_
    refine j_iload_n 3 dJ11_vectorizedHashCode_116 rfl rfl ?_
    refine j_aload_n 0 dJ11_vectorizedHashCode_117 rfl rfl ?_
    cases hf
  refine j_tableOut 129 dJ11_vectorizedHashCode_2 (by have z0 := lv_neT (a := (4)) c4 (by decide); have z1 := lv_neT (a := (5)) c5 (by decide); have z2 := lv_neT (a := (6)) c6 (by decide); have z3 := lv_neT (a := (7)) c7 (by decide); have z4 := lv_neT (a := (8)) c8 (by decide); have z5 := lv_neT (a := (9)) c9 (by decide); have z6 := lv_neT (a := (10)) c10 (by decide); omega) (by decide) ?_
  cases hf
