/-! printed by gen.py: J13_copyOfRangeByte J13_copyOf_2 J15_hashCode J15_charAt J9_length J9_hashCode J9_charAt J7_ensureCapacityInternal_J8 J7_append_3_J8 J8_append_3 J2_grow_2 J2_get J2_indexOf J2_remove J2_toArray J13_copyOfRange J9_init_2 J2_grow J2_contains J2_addAll J9_init J8_toString J2_add_2 J2_add -/
set_option maxRecDepth 100000
theorem kc_J13_343 {Γ : GX} {I : MI} {D : va_G} {h0 : PH} {Q : State → Prop} {h : PH} {pc : Nat} {vs : List (Option Value)} {rest : List Value} {β : Type} {o : β} {p0 : Int32} {p1 : Int32} {K : ((Unit) → PH → Option β)} (hI : I.2.2.1 = RJ13) (hfr : Nat.ble 1 I.2.2.2.2.2.1 = true) (hlo : Nat.ble 21 I.2.2.2.2.2.2.1 = true) (hW : (rest.map fun v => v.category).sum ≤ 8) (hd : decode I.1 pc = .ok (.invokestatic 343, 3)) (hf : cl_ (f_J13_checkLength p0 p1 h) K = some o) (kk : ∀ (x : Unit) (h1 : PH), K x h1 = some o → PF Γ I D h0 Q h1 (pc + 3) vs (rest)) : PF Γ I D h0 Q h pc vs (.int p1 :: .int p0 :: rest) := by
  obtain ⟨cc, nL, own, rt, xt, fr, lo, nm⟩ := I
  cases hI
  exact j_cSv (n := 2) (y := yJ13_checkLength) (cc2 := cJ13_checkLength) (As := [.int p0, .int p1]) (lw_S q443 q444 q107 q445) hyS_J13_checkLength hfr hlo rfl hW hd (c_J13_checkLength p0 p1) hf _ rfl kk
abbrev mi_J13_copyOfRangeByte : MI := (cJ13_copyOfRangeByte, 5, RJ13, (Option.some (FieldType.array FieldType.byte)), [], 1, 60, "copyOfRangeByte")
def f_J13_copyOfRangeByte (p0 : Option Nat) (p1 : Int32) (p2 : Int32) (h0 : PH) : Option (Option Nat × PH) := cl_ (f_J13_checkLength p1 p2 h0) fun _u h1 => nA h1 1 (p2 - p1) (.inl fun _ => 0) fun a2 h3 => aN h3 p0 1 fun v4 => ycI h3 p0 p1 (some a2) (0 : Int32) (if (p2 - p1) < (v4 - p1) then (p2 - p1) else (v4 - p1)) 1 (fun x => fits .byte (.int x)) fun h5 => some ((some a2), h5)
theorem hyS_J13_copyOfRangeByte : yJ13_copyOfRangeByte.cls ≠ "java/lang/invoke/MethodHandle" ∧ yJ13_copyOfRangeByte.cls ≠ "java/lang/invoke/VarHandle" ∧ (parseMethodDescriptor yJ13_copyOfRangeByte.desc).map (fun d => d.parameters.length) = some 3 := by decide +kernel
theorem c_J13_copyOfRangeByte {D : va_G} (p0 : Option Nat) (p1 : Int32) (p2 : Int32) {h0 : PH} (l : Launch) (hl : l.stackTraces = false) (x : Option Nat) (h1 : PH) (hf : f_J13_copyOfRangeByte p0 p1 p2 h0 = some (x, h1)) : CT l D yJ13_copyOfRangeByte (ws_ yJ13_copyOfRangeByte cJ13_copyOfRangeByte 5 (Option.some (FieldType.array FieldType.byte))) 1 60 [va_rf p0, .int p1, .int p2] h0 (ovr x) h1 := by
  refine ct_of hl [some (va_rf p0), some (.int p1), some (.int p2), none, none] (by decide) (by rw [lgl]; simp [va_rf_cat, cat_i, cat_l]) (by simp [lv_args, vsL, va_rf_cat, cat_i, cat_l]) (fun Γ => ?_)
  obtain ⟨o, ho⟩ : ∃ o : Option Nat × PH, o = (x, h1) := ⟨_, rfl⟩
  rw [← ho] at hf
  have e1 : x = o.1 := by rw [ho]
  have e2 : h1 = o.2 := by rw [ho]
  subst e1 e2
  clear ho
  show PF Γ mi_J13_copyOfRangeByte D h0 (QR Γ D h0 (ovr o.1) o.2) h0 0 [some (va_rf p0), some (.int p1), some (.int p2), none, none] []
  unfold f_J13_copyOfRangeByte at hf
  refine j_iload_n 1 dJ13_copyOfRangeByte_0 rfl rfl ?_
  refine j_iload_n 2 dJ13_copyOfRangeByte_1 rfl rfl ?_
  refine kc_J13_343 rfl rfl rfl (by decide) dJ13_copyOfRangeByte_2 hf (fun _u h1 hf => ?_)
  refine j_iload_n 2 dJ13_copyOfRangeByte_5 rfl rfl ?_
  refine j_iload_n 1 dJ13_copyOfRangeByte_6 rfl rfl ?_
  refine j_isub dJ13_copyOfRangeByte_7 ?_
  refine j_istore_n 3 [some (va_rf p0), some (.int p1), some (.int p2), some (.int (p2 - p1)), none] dJ13_copyOfRangeByte_8 rfl (cz rfl) rfl rfl ?_
  refine j_iload_n 3 dJ13_copyOfRangeByte_9 rfl rfl ?_
  refine j_nA (t := 1) (atype := .byte) (ty := .byte) rfl (fun _ => rfl) (fun _ _ => rfl) (by decide) (fun _ _ h9 => h9) q168 dJ13_copyOfRangeByte_10 hf (fun a2 h3 hf => ?_)
  refine j_astore [some (va_rf p0), some (.int p1), some (.int p2), some (.int (p2 - p1)), some (va_rf (some a2))] dJ13_copyOfRangeByte_12 (cz rfl) rfl rfl ?_
  refine j_aload_n 0 dJ13_copyOfRangeByte_14 rfl rfl ?_
  refine j_iload_n 1 dJ13_copyOfRangeByte_15 rfl rfl ?_
  refine j_aload dJ13_copyOfRangeByte_16 rfl ?_
  refine j_iconst (0 : Int32) dJ13_copyOfRangeByte_18 (by decide) ?_
  refine j_aload_n 0 dJ13_copyOfRangeByte_19 rfl rfl ?_
  refine j_alen (t := 1) rfl dJ13_copyOfRangeByte_20 hf (fun v4 hf => ?_)
  refine j_iload_n 1 dJ13_copyOfRangeByte_21 rfl rfl ?_
  refine j_isub dJ13_copyOfRangeByte_22 ?_
  refine j_iload_n 3 dJ13_copyOfRangeByte_23 rfl rfl ?_
  refine j_mmin q305 q306 q106 q307 rfl rfl (by simp [va_rf_cat, cat_i, cat_l]) dJ13_copyOfRangeByte_24 ?_
  refine j_ycI (t := 1) (ty := .byte) rfl (fun _ h9 => h9) rfl q308 q310 q309 q108 rfl rfl (by decide) dJ13_copyOfRangeByte_27 hf (fun h5 hf => ?_)
  refine j_aload dJ13_copyOfRangeByte_30 rfl ?_
  have e9 := Option.some.inj hf
  subst e9
  exact j_aret rfl (Or.inr ⟨_, rfl⟩) dJ13_copyOfRangeByte_32
theorem kc_J13_300 {Γ : GX} {I : MI} {D : va_G} {h0 : PH} {Q : State → Prop} {h : PH} {pc : Nat} {vs : List (Option Value)} {rest : List Value} {β : Type} {o : β} {p0 : Option Nat} {p1 : Int32} {p2 : Option Nat} {K : ((Option Nat) → PH → Option β)} (hI : I.2.2.1 = RJ13) (hfr : Nat.ble 2 I.2.2.2.2.2.1 = true) (hlo : Nat.ble 83 I.2.2.2.2.2.2.1 = true) (hW : (rest.map fun v => v.category).sum ≤ 8) (hd : decode I.1 pc = .ok (.invokestatic 300, 3)) (hf : cl_ (f_J13_copyOf_3 p0 p1 p2 h) K = some o) (kk : ∀ (x : Option Nat) (h1 : PH), K x h1 = some o → PF Γ I D h0 Q h1 (pc + 3) vs (va_rf x :: rest)) : PF Γ I D h0 Q h pc vs (va_rf p2 :: .int p1 :: va_rf p0 :: rest) := by
  obtain ⟨cc, nL, own, rt, xt, fr, lo, nm⟩ := I
  cases hI
  exact j_cSr (n := 3) (y := yJ13_copyOf_3) (cc2 := cJ13_copyOf_3) (As := [va_rf p0, .int p1, va_rf p2]) (lw_S q627 q628 q107 q629) hyS_J13_copyOf_3 hfr hlo rfl hW hd (c_J13_copyOf_3 p0 p1 p2) hf _ rfl kk
abbrev mi_J13_copyOf_2 : MI := (cJ13_copyOf_2, 2, RJ13, (Option.some (FieldType.array (FieldType.object "java/lang/Object"))), [], 2, 83, "copyOf")
def f_J13_copyOf_2 (p0 : Option Nat) (p1 : Int32) (h0 : PH) : Option (Option Nat × PH) := gC h0 p0 fun r1 => cl_ (f_J13_copyOf_3 p0 p1 r1 h0) fun r3 h2 => some (r3, h2)
theorem hyS_J13_copyOf_2 : yJ13_copyOf_2.cls ≠ "java/lang/invoke/MethodHandle" ∧ yJ13_copyOf_2.cls ≠ "java/lang/invoke/VarHandle" ∧ (parseMethodDescriptor yJ13_copyOf_2.desc).map (fun d => d.parameters.length) = some 2 := by decide +kernel
theorem c_J13_copyOf_2 {D : va_G} (p0 : Option Nat) (p1 : Int32) {h0 : PH} (l : Launch) (hl : l.stackTraces = false) (x : Option Nat) (h1 : PH) (hf : f_J13_copyOf_2 p0 p1 h0 = some (x, h1)) : CT l D yJ13_copyOf_2 (ws_ yJ13_copyOf_2 cJ13_copyOf_2 2 (Option.some (FieldType.array (FieldType.object "java/lang/Object")))) 2 83 [va_rf p0, .int p1] h0 (ovr x) h1 := by
  refine ct_of hl [some (va_rf p0), some (.int p1)] (by decide) (by rw [lgl]; simp [va_rf_cat, cat_i, cat_l]) (by simp [lv_args, vsL, va_rf_cat, cat_i, cat_l]) (fun Γ => ?_)
  obtain ⟨o, ho⟩ : ∃ o : Option Nat × PH, o = (x, h1) := ⟨_, rfl⟩
  rw [← ho] at hf
  have e1 : x = o.1 := by rw [ho]
  have e2 : h1 = o.2 := by rw [ho]
  subst e1 e2
  clear ho
  show PF Γ mi_J13_copyOf_2 D h0 (QR Γ D h0 (ovr o.1) o.2) h0 0 [some (va_rf p0), some (.int p1)] []
  unfold f_J13_copyOf_2 at hf
  refine j_aload_n 0 dJ13_copyOf_2_0 rfl rfl ?_
  refine j_iload_n 1 dJ13_copyOf_2_1 rfl rfl ?_
  refine j_aload_n 0 dJ13_copyOf_2_2 rfl rfl ?_
  refine j_gC q595 q2826 q596 q626 rfl rfl (by simp [va_rf_cat, cat_i, cat_l]) dJ13_copyOf_2_3 hf (fun r1 hf => ?_)
  refine kc_J13_300 rfl rfl rfl (by decide) dJ13_copyOf_2_6 hf (fun r3 h2 hf => ?_)
  have e9 := Option.some.inj hf
  subst e9
  exact j_aret rfl (Or.inr ⟨_, rfl⟩) dJ13_copyOf_2_9
theorem kc_J15_84 {Γ : GX} {I : MI} {D : va_G} {h0 : PH} {Q : State → Prop} {h : PH} {pc : Nat} {vs : List (Option Value)} {rest : List Value} {β : Type} {o : β} {p0 : Option Nat} {p1 : Int32} {p2 : Int32} {p3 : Int32} {p4 : Int32} {K : ((Int32) → PH → Option β)} (hI : I.2.2.1 = RJ15) (hfr : Nat.ble 2 I.2.2.2.2.2.1 = true) (hlo : Nat.ble 49 I.2.2.2.2.2.2.1 = true) (hW : (rest.map fun v => v.category).sum ≤ 8) (hd : decode I.1 pc = .ok (.invokestatic 84, 3)) (hf : cl_ (f_J11_vectorizedHashCode p0 p1 p2 p3 p4 h) K = some o) (kk : ∀ (x : Int32) (h1 : PH), K x h1 = some o → PF Γ I D h0 Q h1 (pc + 3) vs (.int x :: rest)) : PF Γ I D h0 Q h pc vs (.int p4 :: .int p3 :: .int p2 :: .int p1 :: va_rf p0 :: rest) := by
  obtain ⟨cc, nL, own, rt, xt, fr, lo, nm⟩ := I
  cases hI
  exact j_cSi (n := 5) (y := yJ11_vectorizedHashCode) (cc2 := cJ11_vectorizedHashCode) (As := [va_rf p0, .int p1, .int p2, .int p3, .int p4]) (lw_S q1078 q1079 q105 q1080) hyS_J11_vectorizedHashCode hfr hlo rfl hW hd (c_J11_vectorizedHashCode p0 p1 p2 p3 p4) hf _ rfl kk
abbrev mi_J15_hashCode : MI := (cJ15_hashCode, 1, RJ15, (Option.some FieldType.int), [], 2, 49, "hashCode")
def f_J15_hashCode_B51 (t0 : Int32) (h : PH) : Option (Int32 × PH) := some (t0, h)
theorem pf_J15_hashCode_B51 {Γ : GX} {D : va_G} {h0 : PH} {o : Int32 × PH} (t0 : Int32) (h : PH) (hf : f_J15_hashCode_B51 t0 h = some o) : PF Γ mi_J15_hashCode D h0 (QR Γ D h0 (ovi o.1) o.2) h 51 [none] [.int t0] := by
  have e9 := Option.some.inj hf
  subst e9
  exact j_iret rfl dJ15_hashCode_51
def f_J15_hashCode (p0 : Option Nat) (h0 : PH) : Option (Int32 × PH) := aN h0 p0 1 fun v1 => (if v1 = (0 : Int32) then (f_J15_hashCode_B51 (0 : Int32) h0) else (if v1 = (1 : Int32) then (aB h0 p0 (0 : Int32) fun v2 => f_J15_hashCode_B51 (v2 &&& (255 : Int32)) h0) else aN h0 p0 1 fun v3 => cl_ (f_J11_vectorizedHashCode p0 (0 : Int32) v3 (0 : Int32) (4 : Int32) h0) fun v5 h4 => f_J15_hashCode_B51 v5 h4))
theorem hyS_J15_hashCode : yJ15_hashCode.cls ≠ "java/lang/invoke/MethodHandle" ∧ yJ15_hashCode.cls ≠ "java/lang/invoke/VarHandle" ∧ (parseMethodDescriptor yJ15_hashCode.desc).map (fun d => d.parameters.length) = some 1 := by decide +kernel
theorem c_J15_hashCode {D : va_G} (p0 : Option Nat) {h0 : PH} (l : Launch) (hl : l.stackTraces = false) (x : Int32) (h1 : PH) (hf : f_J15_hashCode p0 h0 = some (x, h1)) : CT l D yJ15_hashCode (ws_ yJ15_hashCode cJ15_hashCode 1 (Option.some FieldType.int)) 2 49 [va_rf p0] h0 (ovi x) h1 := by
  refine ct_of hl [some (va_rf p0)] (by decide) (by rw [lgl]; simp [va_rf_cat, cat_i, cat_l]) (by simp [lv_args, vsL, va_rf_cat, cat_i, cat_l]) (fun Γ => ?_)
  obtain ⟨o, ho⟩ : ∃ o : Int32 × PH, o = (x, h1) := ⟨_, rfl⟩
  rw [← ho] at hf
  have e1 : x = o.1 := by rw [ho]
  have e2 : h1 = o.2 := by rw [ho]
  subst e1 e2
  clear ho
  show PF Γ mi_J15_hashCode D h0 (QR Γ D h0 (ovi o.1) o.2) h0 0 [some (va_rf p0)] []
  unfold f_J15_hashCode at hf
  refine j_aload_n 0 dJ15_hashCode_0 rfl rfl ?_
  refine j_alen (t := 1) rfl dJ15_hashCode_1 hf (fun v1 hf => ?_)
  refine j_case (0 : Int32) hf (fun hf => ?_) (fun c0 hf => ?_)
  · refine j_lookup (off := 26) 28 dJ15_hashCode_2 (by decide) (by decide +kernel) (by decide) ?_
    refine j_iconst (0 : Int32) dJ15_hashCode_28 (by decide) ?_
    refine j_goto 51 dJ15_hashCode_29 (by decide) ?_
    refine j_weak [none] (Wk.s Wk.n) ?_
    exact pf_J15_hashCode_B51 (0 : Int32) h0 hf
  refine j_case (1 : Int32) hf (fun hf => ?_) (fun c1 hf => ?_)
  · refine j_lookup (off := 30) 32 dJ15_hashCode_2 (by decide) (by decide +kernel) (by decide) ?_
    refine j_aload_n 0 dJ15_hashCode_32 rfl rfl ?_
    refine j_iconst (0 : Int32) dJ15_hashCode_33 (by decide) ?_
    refine j_bald dJ15_hashCode_34 hf (fun v2 hf => ?_)
    refine j_sipush (255 : Int32) dJ15_hashCode_35 (by decide) ?_
    refine j_iand dJ15_hashCode_38 ?_
    refine j_goto 51 dJ15_hashCode_39 (by decide) ?_
    refine j_weak [none] (Wk.s Wk.n) ?_
    exact pf_J15_hashCode_B51 (v2 &&& (255 : Int32)) h0 hf
  refine j_lookup (off := 40) 42 dJ15_hashCode_2 (by decide) ((lv_osw c0 (by decide)).trans ((lv_osw c1 (by decide)).trans rfl)) (by decide) ?_
  refine j_aload_n 0 dJ15_hashCode_42 rfl rfl ?_
  refine j_iconst (0 : Int32) dJ15_hashCode_43 (by decide) ?_
  refine j_aload_n 0 dJ15_hashCode_44 rfl rfl ?_
  refine j_alen (t := 1) rfl dJ15_hashCode_45 hf (fun v3 hf => ?_)
  refine j_iconst (0 : Int32) dJ15_hashCode_46 (by decide) ?_
  refine j_iconst (4 : Int32) dJ15_hashCode_47 (by decide) ?_
  refine kc_J15_84 rfl rfl rfl (by decide) dJ15_hashCode_48 hf (fun v5 h4 hf => ?_)
  refine j_weak [none] (Wk.s Wk.n) ?_
  exact pf_J15_hashCode_B51 v5 h4 hf
theorem kc_J15_9 {Γ : GX} {I : MI} {D : va_G} {h0 : PH} {Q : State → Prop} {h : PH} {pc : Nat} {vs : List (Option Value)} {rest : List Value} {β : Type} {o : β} {p0 : Int32} {p1 : Int32} {K : ((Unit) → PH → Option β)} (hI : I.2.2.1 = RJ15) (hfr : Nat.ble 2 I.2.2.2.2.2.1 = true) (hlo : Nat.ble 43 I.2.2.2.2.2.2.1 = true) (hW : (rest.map fun v => v.category).sum ≤ 8) (hd : decode I.1 pc = .ok (.invokestatic 9, 3)) (hf : cl_ (f_J9_checkIndex p0 p1 h) K = some o) (kk : ∀ (x : Unit) (h1 : PH), K x h1 = some o → PF Γ I D h0 Q h1 (pc + 3) vs (rest)) : PF Γ I D h0 Q h pc vs (.int p1 :: .int p0 :: rest) := by
  obtain ⟨cc, nL, own, rt, xt, fr, lo, nm⟩ := I
  cases hI
  exact j_cSv (n := 2) (y := yJ9_checkIndex) (cc2 := cJ9_checkIndex) (As := [.int p0, .int p1]) (lw_S q2304 q970 q103 q971) hyS_J9_checkIndex hfr hlo rfl hW hd (c_J9_checkIndex p0 p1) hf _ rfl kk
abbrev mi_J15_charAt : MI := (cJ15_charAt, 2, RJ15, (Option.some FieldType.char), [], 2, 43, "charAt")
def f_J15_charAt (p0 : Option Nat) (p1 : Int32) (h0 : PH) : Option (Int32 × PH) := aN h0 p0 1 fun v1 => cl_ (f_J9_checkIndex p1 v1 h0) fun _u h2 => aB h2 p0 p1 fun v3 => rN .char (((v3 &&& (255 : Int32)).toUInt32 % 65536).toInt32) (fun v => v) h2
theorem hyS_J15_charAt : yJ15_charAt.cls ≠ "java/lang/invoke/MethodHandle" ∧ yJ15_charAt.cls ≠ "java/lang/invoke/VarHandle" ∧ (parseMethodDescriptor yJ15_charAt.desc).map (fun d => d.parameters.length) = some 2 := by decide +kernel
theorem c_J15_charAt {D : va_G} (p0 : Option Nat) (p1 : Int32) {h0 : PH} (l : Launch) (hl : l.stackTraces = false) (x : Int32) (h1 : PH) (hf : f_J15_charAt p0 p1 h0 = some (x, h1)) : CT l D yJ15_charAt (ws_ yJ15_charAt cJ15_charAt 2 (Option.some FieldType.char)) 2 43 [va_rf p0, .int p1] h0 (ovi x) h1 := by
  refine ct_of hl [some (va_rf p0), some (.int p1)] (by decide) (by rw [lgl]; simp [va_rf_cat, cat_i, cat_l]) (by simp [lv_args, vsL, va_rf_cat, cat_i, cat_l]) (fun Γ => ?_)
  obtain ⟨o, ho⟩ : ∃ o : Int32 × PH, o = (x, h1) := ⟨_, rfl⟩
  rw [← ho] at hf
  have e1 : x = o.1 := by rw [ho]
  have e2 : h1 = o.2 := by rw [ho]
  subst e1 e2
  clear ho
  show PF Γ mi_J15_charAt D h0 (QR Γ D h0 (ovi o.1) o.2) h0 0 [some (va_rf p0), some (.int p1)] []
  unfold f_J15_charAt at hf
  refine j_iload_n 1 dJ15_charAt_0 rfl rfl ?_
  refine j_aload_n 0 dJ15_charAt_1 rfl rfl ?_
  refine j_alen (t := 1) rfl dJ15_charAt_2 hf (fun v1 hf => ?_)
  refine kc_J15_9 rfl rfl rfl (by decide) dJ15_charAt_3 hf (fun _u h2 hf => ?_)
  refine j_aload_n 0 dJ15_charAt_6 rfl rfl ?_
  refine j_iload_n 1 dJ15_charAt_7 rfl rfl ?_
  refine j_bald dJ15_charAt_8 hf (fun v3 hf => ?_)
  refine j_sipush (255 : Int32) dJ15_charAt_9 (by decide) ?_
  refine j_iand dJ15_charAt_12 ?_
  refine j_i2c dJ15_charAt_13 ?_
  obtain ⟨hn9, hf⟩ := rN_in hf
  subst hf
  exact j_zret rfl (nar_c _ hn9) dJ15_charAt_14
theorem kc_J9_335 {Γ : GX} {I : MI} {D : va_G} {h0 : PH} {Q : State → Prop} {h : PH} {pc : Nat} {vs : List (Option Value)} {rest : List Value} {β : Type} {o : β} {r : Option Nat}  {K : ((Int32) → PH → Option β)} (hI : I.2.2.1 = RJ9) (hfr : Nat.ble 1 I.2.2.2.2.2.1 = true) (hlo : Nat.ble 20 I.2.2.2.2.2.2.1 = true) (hW : (rest.map fun v => v.category).sum ≤ 8) (hd : decode I.1 pc = .ok (.invokevirtual 335, 3)) (hf : rv_ h r 22 (cl_ (f_J9_coder r h) K) = some o) (kk : ∀ (x : Int32) (h1 : PH), K x h1 = some o → PF Γ I D h0 Q h1 (pc + 3) vs (.int x :: rest)) : PF Γ I D h0 Q h pc vs (va_rf r :: rest) := by
  obtain ⟨cc, nL, own, rt, xt, fr, lo, nm⟩ := I
  cases hI
  exact j_cVi (n := 0) (y := yJ9_coder) (cc2 := cJ9_coder) (As := []) (C := RJ9) (ci := 22) rfl (lw_V q346 q347 q348 q103 q349) hyV_J9_coder hfr hlo rfl hW hd (c_J9_coder r) hf _ rfl kk
abbrev mi_J9_length : MI := (cJ9_length, 1, RJ9, (Option.some FieldType.int), [], 1, 20, "length")
def f_J9_length (r0 : Option Nat) (h0 : PH) : Option (Int32 × PH) := gR h0 r0 22 0 fun r1 => aN h0 r1 1 fun v2 => rv_ h0 r0 22 (cl_ (f_J9_coder r0 h0) fun v4 h3 => some ((v2 >>> (v4 &&& 31)), h3))
theorem hyS_J9_length : yJ9_length.cls ≠ "java/lang/invoke/MethodHandle" ∧ yJ9_length.cls ≠ "java/lang/invoke/VarHandle" ∧ (parseMethodDescriptor yJ9_length.desc).map (fun d => d.parameters.length) = some 0 := by decide +kernel
theorem hyV_J9_length : yJ9_length.cls = RJ9 ∧ yJ9_length.cls ≠ "java/lang/invoke/MethodHandle" ∧ yJ9_length.cls ≠ "java/lang/invoke/VarHandle" ∧ (parseMethodDescriptor yJ9_length.desc).map (fun d => d.parameters.length) = some 0 := by decide +kernel
theorem c_J9_length {D : va_G} (r0 : Option Nat) {h0 : PH} (l : Launch) (hl : l.stackTraces = false) (x : Int32) (h1 : PH) (hf : f_J9_length r0 h0 = some (x, h1)) : CT l D yJ9_length (ws_ yJ9_length cJ9_length 1 (Option.some FieldType.int)) 1 20 [va_rf r0] h0 (ovi x) h1 := by
  refine ct_of hl [some (va_rf r0)] (by decide) (by rw [lgl]; simp [va_rf_cat, cat_i, cat_l]) (by simp [lv_args, vsL, va_rf_cat, cat_i, cat_l]) (fun Γ => ?_)
  obtain ⟨o, ho⟩ : ∃ o : Int32 × PH, o = (x, h1) := ⟨_, rfl⟩
  rw [← ho] at hf
  have e1 : x = o.1 := by rw [ho]
  have e2 : h1 = o.2 := by rw [ho]
  subst e1 e2
  clear ho
  show PF Γ mi_J9_length D h0 (QR Γ D h0 (ovi o.1) o.2) h0 0 [some (va_rf r0)] []
  unfold f_J9_length at hf
  refine j_aload_n 0 dJ9_length_0 rfl rfl ?_
  refine j_gR (ci := 22) (k := 0) rfl in_J9 rfl q491 dJ9_length_1 hf (fun r1 hf => ?_)
  refine j_alen (t := 1) rfl dJ9_length_4 hf (fun v2 hf => ?_)
  refine j_aload_n 0 dJ9_length_5 rfl rfl ?_
  refine kc_J9_335 rfl rfl rfl (by simp [va_rf_cat, cat_i, cat_l]) dJ9_length_6 hf (fun v4 h3 hf => ?_)
  refine j_ishr dJ9_length_9 ?_
  have e9 := Option.some.inj hf
  subst e9
  exact j_iret rfl dJ9_length_10
theorem kc_J9_492 {Γ : GX} {I : MI} {D : va_G} {h0 : PH} {Q : State → Prop} {h : PH} {pc : Nat} {vs : List (Option Value)} {rest : List Value} {β : Type} {o : β} {r : Option Nat}  {K : ((Int32) → PH → Option β)} (hI : I.2.2.1 = RJ9) (hfr : Nat.ble 1 I.2.2.2.2.2.1 = true) (hlo : Nat.ble 20 I.2.2.2.2.2.2.1 = true) (hW : (rest.map fun v => v.category).sum ≤ 8) (hd : decode I.1 pc = .ok (.invokevirtual 492, 3)) (hf : rv_ h r 22 (cl_ (f_J9_isLatin1 r h) K) = some o) (kk : ∀ (x : Int32) (h1 : PH), K x h1 = some o → PF Γ I D h0 Q h1 (pc + 3) vs (.int x :: rest)) : PF Γ I D h0 Q h pc vs (va_rf r :: rest) := by
  obtain ⟨cc, nL, own, rt, xt, fr, lo, nm⟩ := I
  cases hI
  exact j_cVi (n := 0) (y := yJ9_isLatin1) (cc2 := cJ9_isLatin1) (As := []) (C := RJ9) (ci := 22) rfl (lw_V q1071 q1072 q1073 q103 q1074) hyV_J9_isLatin1 hfr hlo rfl hW hd (c_J9_isLatin1 r) hf _ rfl kk
theorem kc_J9_628 {Γ : GX} {I : MI} {D : va_G} {h0 : PH} {Q : State → Prop} {h : PH} {pc : Nat} {vs : List (Option Value)} {rest : List Value} {β : Type} {o : β} {p0 : Option Nat} {K : ((Int32) → PH → Option β)} (hI : I.2.2.1 = RJ9) (hfr : Nat.ble 3 I.2.2.2.2.2.1 = true) (hlo : Nat.ble 69 I.2.2.2.2.2.2.1 = true) (hW : (rest.map fun v => v.category).sum ≤ 8) (hd : decode I.1 pc = .ok (.invokestatic 628, 3)) (hf : cl_ (f_J15_hashCode p0 h) K = some o) (kk : ∀ (x : Int32) (h1 : PH), K x h1 = some o → PF Γ I D h0 Q h1 (pc + 3) vs (.int x :: rest)) : PF Γ I D h0 Q h pc vs (va_rf p0 :: rest) := by
  obtain ⟨cc, nL, own, rt, xt, fr, lo, nm⟩ := I
  cases hI
  exact j_cSi (n := 1) (y := yJ15_hashCode) (cc2 := cJ15_hashCode) (As := [va_rf p0]) (lw_S q1075 q1076 q110 q1077) hyS_J15_hashCode hfr hlo rfl hW hd (c_J15_hashCode p0) hf _ rfl kk
abbrev mi_J9_hashCode : MI := (cJ9_hashCode, 2, RJ9, (Option.some FieldType.int), [], 3, 69, "hashCode")
def f_J9_hashCode_B58 (x1 : Int32) (h : PH) : Option (Int32 × PH) := some (x1, h)
theorem pf_J9_hashCode_B58 {Γ : GX} {D : va_G} {h0 : PH} {o : Int32 × PH} (x1 : Int32) (h : PH) (hf : f_J9_hashCode_B58 x1 h = some o) : PF Γ mi_J9_hashCode D h0 (QR Γ D h0 (ovi o.1) o.2) h 58 [none, some (.int x1)] [] := by
  refine j_iload_n 1 dJ9_hashCode_58 rfl rfl ?_
  have e9 := Option.some.inj hf
  subst e9
  exact j_iret rfl dJ9_hashCode_59
def f_J9_hashCode_B40 (x0 : Option Nat) (t0 : Int32) (h : PH) : Option (Int32 × PH) := (if t0 = 0 then (pZ h x0 22 3 (1 : Int32) fun h10 => f_J9_hashCode_B58 t0 h10) else (pV h x0 22 2 (.int t0) fun h9 => f_J9_hashCode_B58 t0 h9))
theorem pf_J9_hashCode_B40 {Γ : GX} {D : va_G} {h0 : PH} {o : Int32 × PH} (x0 : Option Nat) (t0 : Int32) (h : PH) (hf : f_J9_hashCode_B40 x0 t0 h = some o) : PF Γ mi_J9_hashCode D h0 (QR Γ D h0 (ovi o.1) o.2) h 40 [some (va_rf x0), none] [.int t0] := by
  refine j_istore_n 1 [some (va_rf x0), some (.int t0)] dJ9_hashCode_40 rfl (cz (va_rf_cat _)) rfl rfl ?_
  refine j_iload_n 1 dJ9_hashCode_41 rfl rfl ?_
  refine j_if_ne 53 dJ9_hashCode_42 (by decide) hf (fun c_ hf => ?_) (fun c_ hf => ?_)
  · refine j_aload_n 0 dJ9_hashCode_53 rfl rfl ?_
    refine j_iload_n 1 dJ9_hashCode_54 rfl rfl ?_
    refine j_pV (ci := 22) (k := 2) tyJ9 tyJ9_ok nmJ9 rfl in_J9 rfl q493 (Or.inl rfl) rfl (fit_i _) dJ9_hashCode_55 hf (fun h9 hf => ?_)
    refine j_weak [none, some (.int t0)] (Wk.s (Wk.k Wk.n)) ?_
    exact pf_J9_hashCode_B58 t0 h9 hf
  · refine j_aload_n 0 dJ9_hashCode_45 rfl rfl ?_
    refine j_iconst (1 : Int32) dJ9_hashCode_46 (by decide) ?_
    obtain ⟨hz9, hf⟩ := pZ_in hf
    refine j_pV (ci := 22) (k := 3) tyJ9 tyJ9_ok nmJ9 rfl in_J9 rfl q494 (Or.inl rfl) rfl (fit_z _ hz9) dJ9_hashCode_47 hf (fun h10 hf => ?_)
    refine j_goto 58 dJ9_hashCode_50 (by decide) ?_
    refine j_weak [none, some (.int t0)] (Wk.s (Wk.k Wk.n)) ?_
    exact pf_J9_hashCode_B58 t0 h10 hf
def f_J9_hashCode (r0 : Option Nat) (h0 : PH) : Option (Int32 × PH) := gI h0 r0 22 2 fun v1 => (if v1 = 0 then (gI h0 r0 22 3 fun v2 => (if v2 = 0 then (rv_ h0 r0 22 (cl_ (f_J9_isLatin1 r0 h0) fun v4 h3 => (if v4 = 0 then (gR h3 r0 22 0 fun r5 => none) else (gR h3 r0 22 0 fun r6 => cl_ (f_J15_hashCode r6 h3) fun v8 h7 => f_J9_hashCode_B40 r0 v8 h7)))) else (f_J9_hashCode_B58 v1 h0))) else (f_J9_hashCode_B58 v1 h0))
theorem hyS_J9_hashCode : yJ9_hashCode.cls ≠ "java/lang/invoke/MethodHandle" ∧ yJ9_hashCode.cls ≠ "java/lang/invoke/VarHandle" ∧ (parseMethodDescriptor yJ9_hashCode.desc).map (fun d => d.parameters.length) = some 0 := by decide +kernel
theorem hyV_J9_hashCode : yJ9_hashCode.cls = RJ9 ∧ yJ9_hashCode.cls ≠ "java/lang/invoke/MethodHandle" ∧ yJ9_hashCode.cls ≠ "java/lang/invoke/VarHandle" ∧ (parseMethodDescriptor yJ9_hashCode.desc).map (fun d => d.parameters.length) = some 0 := by decide +kernel
theorem c_J9_hashCode {D : va_G} (r0 : Option Nat) {h0 : PH} (l : Launch) (hl : l.stackTraces = false) (x : Int32) (h1 : PH) (hf : f_J9_hashCode r0 h0 = some (x, h1)) : CT l D yJ9_hashCode (ws_ yJ9_hashCode cJ9_hashCode 2 (Option.some FieldType.int)) 3 69 [va_rf r0] h0 (ovi x) h1 := by
  refine ct_of hl [some (va_rf r0), none] (by decide) (by rw [lgl]; simp [va_rf_cat, cat_i, cat_l]) (by simp [lv_args, vsL, va_rf_cat, cat_i, cat_l]) (fun Γ => ?_)
  obtain ⟨o, ho⟩ : ∃ o : Int32 × PH, o = (x, h1) := ⟨_, rfl⟩
  rw [← ho] at hf
  have e1 : x = o.1 := by rw [ho]
  have e2 : h1 = o.2 := by rw [ho]
  subst e1 e2
  clear ho
  show PF Γ mi_J9_hashCode D h0 (QR Γ D h0 (ovi o.1) o.2) h0 0 [some (va_rf r0), none] []
  unfold f_J9_hashCode at hf
  refine j_aload_n 0 dJ9_hashCode_0 rfl rfl ?_
  refine j_gI (ci := 22) (k := 2) rfl in_J9 rfl q493 dJ9_hashCode_1 hf (fun v1 hf => ?_)
  refine j_istore_n 1 [some (va_rf r0), some (.int v1)] dJ9_hashCode_4 rfl (cz (va_rf_cat _)) rfl rfl ?_
  refine j_iload_n 1 dJ9_hashCode_5 rfl rfl ?_
  refine j_if_ne 58 dJ9_hashCode_6 (by decide) hf (fun c_ hf => ?_) (fun c_ hf => ?_)
  · refine j_weak [none, some (.int v1)] (Wk.s (Wk.k Wk.n)) ?_
    exact pf_J9_hashCode_B58 v1 h0 hf
  · refine j_aload_n 0 dJ9_hashCode_9 rfl rfl ?_
    refine j_gI (ci := 22) (k := 3) rfl in_J9 rfl q494 dJ9_hashCode_10 hf (fun v2 hf => ?_)
    refine j_if_ne 58 dJ9_hashCode_13 (by decide) hf (fun c_ hf => ?_) (fun c_ hf => ?_)
    · refine j_weak [none, some (.int v1)] (Wk.s (Wk.k Wk.n)) ?_
      exact pf_J9_hashCode_B58 v1 h0 hf
    · refine j_aload_n 0 dJ9_hashCode_16 rfl rfl ?_
      refine kc_J9_492 rfl rfl rfl (by decide) dJ9_hashCode_17 hf (fun v4 h3 hf => ?_)
      refine j_if_eq 33 dJ9_hashCode_20 (by decide) hf (fun c_ hf => ?_) (fun c_ hf => ?_)
      · refine j_aload_n 0 dJ9_hashCode_33 rfl rfl ?_
        refine j_gR (ci := 22) (k := 0) rfl in_J9 rfl q491 dJ9_hashCode_34 hf (fun r5 hf => ?_)
        cases hf
      · refine j_aload_n 0 dJ9_hashCode_23 rfl rfl ?_
        refine j_gR (ci := 22) (k := 0) rfl in_J9 rfl q491 dJ9_hashCode_24 hf (fun r6 hf => ?_)
        refine kc_J9_628 rfl rfl rfl (by decide) dJ9_hashCode_27 hf (fun v8 h7 hf => ?_)
        refine j_goto 40 dJ9_hashCode_30 (by decide) ?_
        refine j_weak [some (va_rf r0), none] (Wk.k (Wk.s Wk.n)) ?_
        exact pf_J9_hashCode_B40 r0 v8 h7 hf
theorem kc_J9_495 {Γ : GX} {I : MI} {D : va_G} {h0 : PH} {Q : State → Prop} {h : PH} {pc : Nat} {vs : List (Option Value)} {rest : List Value} {β : Type} {o : β} {p0 : Option Nat} {p1 : Int32} {K : ((Int32) → PH → Option β)} (hI : I.2.2.1 = RJ9) (hfr : Nat.ble 3 I.2.2.2.2.2.1 = true) (hlo : Nat.ble 64 I.2.2.2.2.2.2.1 = true) (hW : (rest.map fun v => v.category).sum ≤ 8) (hd : decode I.1 pc = .ok (.invokestatic 495, 3)) (hf : cl_ (f_J15_charAt p0 p1 h) K = some o) (kk : ∀ (x : Int32) (h1 : PH), K x h1 = some o → PF Γ I D h0 Q h1 (pc + 3) vs (.int x :: rest)) : PF Γ I D h0 Q h pc vs (.int p1 :: va_rf p0 :: rest) := by
  obtain ⟨cc, nL, own, rt, xt, fr, lo, nm⟩ := I
  cases hI
  exact j_cSi (n := 2) (y := yJ15_charAt) (cc2 := cJ15_charAt) (As := [va_rf p0, .int p1]) (lw_S q2301 q2302 q110 q2303) hyS_J15_charAt hfr hlo rfl hW hd (c_J15_charAt p0 p1) hf _ rfl kk
abbrev mi_J9_charAt : MI := (cJ9_charAt, 2, RJ9, (Option.some FieldType.char), [], 3, 64, "charAt")
def f_J9_charAt (r0 : Option Nat) (p0 : Int32) (h0 : PH) : Option (Int32 × PH) := rv_ h0 r0 22 (cl_ (f_J9_isLatin1 r0 h0) fun v2 h1 => (if v2 = 0 then (gR h1 r0 22 0 fun r3 => none) else (gR h1 r0 22 0 fun r4 => cl_ (f_J15_charAt r4 p0 h1) fun v6 h5 => rN .char v6 (fun v => v) h5)))
theorem hyS_J9_charAt : yJ9_charAt.cls ≠ "java/lang/invoke/MethodHandle" ∧ yJ9_charAt.cls ≠ "java/lang/invoke/VarHandle" ∧ (parseMethodDescriptor yJ9_charAt.desc).map (fun d => d.parameters.length) = some 1 := by decide +kernel
theorem hyV_J9_charAt : yJ9_charAt.cls = RJ9 ∧ yJ9_charAt.cls ≠ "java/lang/invoke/MethodHandle" ∧ yJ9_charAt.cls ≠ "java/lang/invoke/VarHandle" ∧ (parseMethodDescriptor yJ9_charAt.desc).map (fun d => d.parameters.length) = some 1 := by decide +kernel
theorem c_J9_charAt {D : va_G} (r0 : Option Nat) (p0 : Int32) {h0 : PH} (l : Launch) (hl : l.stackTraces = false) (x : Int32) (h1 : PH) (hf : f_J9_charAt r0 p0 h0 = some (x, h1)) : CT l D yJ9_charAt (ws_ yJ9_charAt cJ9_charAt 2 (Option.some FieldType.char)) 3 64 [va_rf r0, .int p0] h0 (ovi x) h1 := by
  refine ct_of hl [some (va_rf r0), some (.int p0)] (by decide) (by rw [lgl]; simp [va_rf_cat, cat_i, cat_l]) (by simp [lv_args, vsL, va_rf_cat, cat_i, cat_l]) (fun Γ => ?_)
  obtain ⟨o, ho⟩ : ∃ o : Int32 × PH, o = (x, h1) := ⟨_, rfl⟩
  rw [← ho] at hf
  have e1 : x = o.1 := by rw [ho]
  have e2 : h1 = o.2 := by rw [ho]
  subst e1 e2
  clear ho
  show PF Γ mi_J9_charAt D h0 (QR Γ D h0 (ovi o.1) o.2) h0 0 [some (va_rf r0), some (.int p0)] []
  unfold f_J9_charAt at hf
  refine j_aload_n 0 dJ9_charAt_0 rfl rfl ?_
  refine kc_J9_492 rfl rfl rfl (by decide) dJ9_charAt_1 hf (fun v2 h1 hf => ?_)
  refine j_if_eq 16 dJ9_charAt_4 (by decide) hf (fun c_ hf => ?_) (fun c_ hf => ?_)
  · refine j_aload_n 0 dJ9_charAt_16 rfl rfl ?_
    refine j_gR (ci := 22) (k := 0) rfl in_J9 rfl q491 dJ9_charAt_17 hf (fun r3 hf => ?_)
    refine j_iload_n 1 dJ9_charAt_20 rfl rfl ?_
    cases hf
  · refine j_aload_n 0 dJ9_charAt_7 rfl rfl ?_
    refine j_gR (ci := 22) (k := 0) rfl in_J9 rfl q491 dJ9_charAt_8 hf (fun r4 hf => ?_)
    refine j_iload_n 1 dJ9_charAt_11 rfl rfl ?_
    refine kc_J9_495 rfl rfl rfl (by decide) dJ9_charAt_12 hf (fun v6 h5 hf => ?_)
    obtain ⟨hn9, hf⟩ := rN_in hf
    subst hf
    exact j_zret rfl (nar_c _ hn9) dJ9_charAt_15
theorem kc_J7_104_J8 {Γ : GX} {I : MI} {D : va_G} {h0 : PH} {Q : State → Prop} {h : PH} {pc : Nat} {vs : List (Option Value)} {rest : List Value} {β : Type} {o : β} {r : Option Nat} {p0 : Int32} {K : ((Int32) → PH → Option β)} (hI : I.2.2.1 = RJ7) (hfr : Nat.ble 3 I.2.2.2.2.2.1 = true) (hlo : Nat.ble 72 I.2.2.2.2.2.2.1 = true) (hW : (rest.map fun v => v.category).sum ≤ 8) (hd : decode I.1 pc = .ok (.invokevirtual 104, 3)) (hf : rv_ h r 21 (cl_ (f_J7_newCapacity_J8 r p0 h) K) = some o) (kk : ∀ (x : Int32) (h1 : PH), K x h1 = some o → PF Γ I D h0 Q h1 (pc + 3) vs (.int x :: rest)) : PF Γ I D h0 Q h pc vs (.int p0 :: va_rf r :: rest) := by
  obtain ⟨cc, nL, own, rt, xt, fr, lo, nm⟩ := I
  cases hI
  exact j_cUi (n := 1) (y := yJ7_newCapacity) (cc2 := cJ7_newCapacity) (As := [.int p0]) (ci := 21) (x9 := ⟨"java/lang/AbstractStringBuilder", "newCapacity", "(I)I"⟩) (owner := RJ7) (lw_U (C := RJ8) q280 q2785 qm1 q282 q101 q283) rfl (by decide +kernel) hfr hlo rfl hW hd (c_J7_newCapacity_J8 r p0) hf _ rfl kk
theorem kc_J7_108 {Γ : GX} {I : MI} {D : va_G} {h0 : PH} {Q : State → Prop} {h : PH} {pc : Nat} {vs : List (Option Value)} {rest : List Value} {β : Type} {o : β} {p0 : Option Nat} {p1 : Int32} {K : ((Option Nat) → PH → Option β)} (hI : I.2.2.1 = RJ7) (hfr : Nat.ble 2 I.2.2.2.2.2.1 = true) (hlo : Nat.ble 82 I.2.2.2.2.2.2.1 = true) (hW : (rest.map fun v => v.category).sum ≤ 8) (hd : decode I.1 pc = .ok (.invokestatic 108, 3)) (hf : cl_ (f_J13_copyOf p0 p1 h) K = some o) (kk : ∀ (x : Option Nat) (h1 : PH), K x h1 = some o → PF Γ I D h0 Q h1 (pc + 3) vs (va_rf x :: rest)) : PF Γ I D h0 Q h pc vs (.int p1 :: va_rf p0 :: rest) := by
  obtain ⟨cc, nL, own, rt, xt, fr, lo, nm⟩ := I
  cases hI
  exact j_cSr (n := 2) (y := yJ13_copyOf) (cc2 := cJ13_copyOf) (As := [va_rf p0, .int p1]) (lw_S q295 q296 q107 q297) hyS_J13_copyOf hfr hlo rfl hW hd (c_J13_copyOf p0 p1) hf _ rfl kk
abbrev mi_J7_ensureCapacityInternal_J8 : MI := (cJ7_ensureCapacityInternal, 3, RJ7, none, [], 3, 82, "ensureCapacityInternal")
def f_J7_ensureCapacityInternal_J8_B38  (h : PH) : Option (Unit × PH) := some ((), h)
theorem pf_J7_ensureCapacityInternal_J8_B38 {Γ : GX} {D : va_G} {h0 : PH} {o : Unit × PH}  (h : PH) (hf : f_J7_ensureCapacityInternal_J8_B38  h = some o) : PF Γ mi_J7_ensureCapacityInternal_J8 D h0 (QR Γ D h0 (ovv o.1) o.2) h 38 [none, none, none] [] := by
  have e9 := Option.some.inj hf
  subst e9
  exact j_vret rfl dJ7_ensureCapacityInternal_38
def f_J7_ensureCapacityInternal_J8 (r0 : Option Nat) (p0 : Int32) (h0 : PH) : Option (Unit × PH) := gR h0 r0 21 0 fun r1 => aN h0 r1 1 fun v2 => gI h0 r0 21 1 fun v3 => (if (p0 - (v2 >>> (v3 &&& 31))) ≤ 0 then (f_J7_ensureCapacityInternal_J8_B38 h0) else (gR h0 r0 21 0 fun r4 => rv_ h0 r0 21 (cl_ (f_J7_newCapacity_J8 r0 p0 h0) fun v6 h5 => gI h5 r0 21 1 fun v7 => cl_ (f_J13_copyOf r4 (v6 <<< (v7 &&& 31)) h5) fun r9 h8 => pV h8 r0 21 0 (va_rf r9) fun h10 => f_J7_ensureCapacityInternal_J8_B38 h10)))
theorem hyS_J7_ensureCapacityInternal_J8 : yJ7_ensureCapacityInternal.cls ≠ "java/lang/invoke/MethodHandle" ∧ yJ7_ensureCapacityInternal.cls ≠ "java/lang/invoke/VarHandle" ∧ (parseMethodDescriptor yJ7_ensureCapacityInternal.desc).map (fun d => d.parameters.length) = some 1 := by decide +kernel
theorem hyV_J7_ensureCapacityInternal_J8 : yJ7_ensureCapacityInternal.cls = RJ7 ∧ yJ7_ensureCapacityInternal.cls ≠ "java/lang/invoke/MethodHandle" ∧ yJ7_ensureCapacityInternal.cls ≠ "java/lang/invoke/VarHandle" ∧ (parseMethodDescriptor yJ7_ensureCapacityInternal.desc).map (fun d => d.parameters.length) = some 1 := by decide +kernel
theorem c_J7_ensureCapacityInternal_J8 {D : va_G} (r0 : Option Nat) (p0 : Int32) {h0 : PH} (l : Launch) (hl : l.stackTraces = false) (x : Unit) (h1 : PH) (hf : f_J7_ensureCapacityInternal_J8 r0 p0 h0 = some (x, h1)) : CT l D yJ7_ensureCapacityInternal (ws_ yJ7_ensureCapacityInternal cJ7_ensureCapacityInternal 3 none) 3 82 [va_rf r0, .int p0] h0 (ovv x) h1 := by
  refine ct_of hl [some (va_rf r0), some (.int p0), none] (by decide) (by rw [lgl]; simp [va_rf_cat, cat_i, cat_l]) (by simp [lv_args, vsL, va_rf_cat, cat_i, cat_l]) (fun Γ => ?_)
  obtain ⟨o, ho⟩ : ∃ o : Unit × PH, o = (x, h1) := ⟨_, rfl⟩
  rw [← ho] at hf
  have e1 : x = o.1 := by rw [ho]
  have e2 : h1 = o.2 := by rw [ho]
  subst e1 e2
  clear ho
  show PF Γ mi_J7_ensureCapacityInternal_J8 D h0 (QR Γ D h0 (ovv o.1) o.2) h0 0 [some (va_rf r0), some (.int p0), none] []
  unfold f_J7_ensureCapacityInternal_J8 at hf
  refine j_aload_n 0 dJ7_ensureCapacityInternal_0 rfl rfl ?_
  refine j_gR (ci := 21) (k := 0) rfl in_J8 rfl q251 dJ7_ensureCapacityInternal_1 hf (fun r1 hf => ?_)
  refine j_alen (t := 1) rfl dJ7_ensureCapacityInternal_4 hf (fun v2 hf => ?_)
  refine j_aload_n 0 dJ7_ensureCapacityInternal_5 rfl rfl ?_
  refine j_gI (ci := 21) (k := 1) rfl in_J8 rfl q252 dJ7_ensureCapacityInternal_6 hf (fun v3 hf => ?_)
  refine j_ishr dJ7_ensureCapacityInternal_9 ?_
  refine j_istore_n 2 [some (va_rf r0), some (.int p0), some (.int (v2 >>> (v3 &&& 31)))] dJ7_ensureCapacityInternal_10 rfl (cz rfl) rfl rfl ?_
  refine j_iload_n 1 dJ7_ensureCapacityInternal_11 rfl rfl ?_
  refine j_iload_n 2 dJ7_ensureCapacityInternal_12 rfl rfl ?_
  refine j_isub dJ7_ensureCapacityInternal_13 ?_
  refine j_if_le 38 dJ7_ensureCapacityInternal_14 (by decide) hf (fun c_ hf => ?_) (fun c_ hf => ?_)
  · refine j_weak [none, none, none] (Wk.s (Wk.s (Wk.s Wk.n))) ?_
    exact pf_J7_ensureCapacityInternal_J8_B38  h0 hf
  · refine j_aload_n 0 dJ7_ensureCapacityInternal_17 rfl rfl ?_
    refine j_aload_n 0 dJ7_ensureCapacityInternal_18 rfl rfl ?_
    refine j_gR (ci := 21) (k := 0) rfl in_J8 rfl q251 dJ7_ensureCapacityInternal_19 hf (fun r4 hf => ?_)
    refine j_aload_n 0 dJ7_ensureCapacityInternal_22 rfl rfl ?_
    refine j_iload_n 1 dJ7_ensureCapacityInternal_23 rfl rfl ?_
    refine kc_J7_104_J8 rfl rfl rfl (by simp [va_rf_cat, cat_i, cat_l]) dJ7_ensureCapacityInternal_24 hf (fun v6 h5 hf => ?_)
    refine j_aload_n 0 dJ7_ensureCapacityInternal_27 rfl rfl ?_
    refine j_gI (ci := 21) (k := 1) rfl in_J8 rfl q252 dJ7_ensureCapacityInternal_28 hf (fun v7 hf => ?_)
    refine j_ishl dJ7_ensureCapacityInternal_31 ?_
    refine kc_J7_108 rfl rfl rfl (by simp [va_rf_cat, cat_i, cat_l]) dJ7_ensureCapacityInternal_32 hf (fun r9 h8 hf => ?_)
    refine j_pV (ci := 21) (k := 0) tyJ8 tyJ8_ok nmJ8 rfl in_J8 rfl q251 (Or.inl rfl) rfl (fit_a _ _) dJ7_ensureCapacityInternal_35 hf (fun h10 hf => ?_)
    refine j_weak [none, none, none] (Wk.s (Wk.s (Wk.s Wk.n))) ?_
    exact pf_J7_ensureCapacityInternal_J8_B38  h10 hf
theorem kc_J7_100_J8 {Γ : GX} {I : MI} {D : va_G} {h0 : PH} {Q : State → Prop} {h : PH} {pc : Nat} {vs : List (Option Value)} {rest : List Value} {β : Type} {o : β} {r : Option Nat} {p0 : Int32} {K : ((Unit) → PH → Option β)} (hI : I.2.2.1 = RJ7) (hfr : Nat.ble 4 I.2.2.2.2.2.1 = true) (hlo : Nat.ble 104 I.2.2.2.2.2.2.1 = true) (hW : (rest.map fun v => v.category).sum ≤ 8) (hd : decode I.1 pc = .ok (.invokevirtual 100, 3)) (hf : rv_ h r 21 (cl_ (f_J7_ensureCapacityInternal_J8 r p0 h) K) = some o) (kk : ∀ (x : Unit) (h1 : PH), K x h1 = some o → PF Γ I D h0 Q h1 (pc + 3) vs (rest)) : PF Γ I D h0 Q h pc vs (.int p0 :: va_rf r :: rest) := by
  obtain ⟨cc, nL, own, rt, xt, fr, lo, nm⟩ := I
  cases hI
  exact j_cUv (n := 1) (y := yJ7_ensureCapacityInternal) (cc2 := cJ7_ensureCapacityInternal) (As := [.int p0]) (ci := 21) (x9 := ⟨"java/lang/AbstractStringBuilder", "ensureCapacityInternal", "(I)V"⟩) (owner := RJ7) (lw_U (C := RJ8) q276 q2784 qm0 q278 q101 q279) rfl (by decide +kernel) hfr hlo rfl hW hd (c_J7_ensureCapacityInternal_J8 r p0) hf _ rfl kk
theorem kc_J7_83_J8 {Γ : GX} {I : MI} {D : va_G} {h0 : PH} {Q : State → Prop} {h : PH} {pc : Nat} {vs : List (Option Value)} {rest : List Value} {β : Type} {o : β} {r : Option Nat}  {K : ((Int32) → PH → Option β)} (hI : I.2.2.1 = RJ7) (hfr : Nat.ble 1 I.2.2.2.2.2.1 = true) (hlo : Nat.ble 20 I.2.2.2.2.2.2.1 = true) (hW : (rest.map fun v => v.category).sum ≤ 8) (hd : decode I.1 pc = .ok (.invokevirtual 83, 3)) (hf : rv_ h r 21 (cl_ (f_J7_isLatin1_J8 r h) K) = some o) (kk : ∀ (x : Int32) (h1 : PH), K x h1 = some o → PF Γ I D h0 Q h1 (pc + 3) vs (.int x :: rest)) : PF Γ I D h0 Q h pc vs (va_rf r :: rest) := by
  obtain ⟨cc, nL, own, rt, xt, fr, lo, nm⟩ := I
  cases hI
  exact j_cUi (n := 0) (y := yJ7_isLatin1) (cc2 := cJ7_isLatin1) (As := []) (ci := 21) (x9 := ⟨"java/lang/AbstractStringBuilder", "isLatin1", "()Z"⟩) (owner := RJ7) (lw_U (C := RJ8) q311 q313 q314 q312 q101 q315) rfl (by decide +kernel) hfr hlo rfl hW hd (c_J7_isLatin1_J8 r) hf _ rfl kk
theorem kc_J7_191 {Γ : GX} {I : MI} {D : va_G} {h0 : PH} {Q : State → Prop} {h : PH} {pc : Nat} {vs : List (Option Value)} {rest : List Value} {β : Type} {o : β} {p0 : Int32} {K : ((Int32) → PH → Option β)} (hI : I.2.2.1 = RJ7) (hfr : Nat.ble 1 I.2.2.2.2.2.1 = true) (hlo : Nat.ble 20 I.2.2.2.2.2.2.1 = true) (hW : (rest.map fun v => v.category).sum ≤ 8) (hd : decode I.1 pc = .ok (.invokestatic 191, 3)) (hf : cl_ (f_J15_canEncode p0 h) K = some o) (kk : ∀ (x : Int32) (h1 : PH), K x h1 = some o → PF Γ I D h0 Q h1 (pc + 3) vs (.int x :: rest)) : PF Γ I D h0 Q h pc vs (.int p0 :: rest) := by
  obtain ⟨cc, nL, own, rt, xt, fr, lo, nm⟩ := I
  cases hI
  exact j_cSi (n := 1) (y := yJ15_canEncode) (cc2 := cJ15_canEncode) (As := [.int p0]) (lw_S q960 q961 q110 q962) hyS_J15_canEncode hfr hlo rfl hW hd (c_J15_canEncode p0) hf _ rfl kk
abbrev mi_J7_append_3_J8 : MI := (cJ7_append_3, 2, RJ7, (Option.some (FieldType.object "java/lang/AbstractStringBuilder")), [], 4, 104, "append")
def f_J7_append_3_J8_B56 (x0 : Option Nat) (x1 : Int32) (h : PH) : Option (Option Nat × PH) := gR h x0 21 0 fun r13 => gI h x0 21 3 fun v14 => pV h x0 21 3 (.int (v14 + (1 : Int32))) fun h15 => none
theorem pf_J7_append_3_J8_B56 {Γ : GX} {D : va_G} {h0 : PH} {o : Option Nat × PH} (x0 : Option Nat) (x1 : Int32) (h : PH) (hf : f_J7_append_3_J8_B56 x0 x1 h = some o) : PF Γ mi_J7_append_3_J8 D h0 (QR Γ D h0 (ovr o.1) o.2) h 56 [some (va_rf x0), some (.int x1)] [] := by
  refine j_aload_n 0 dJ7_append_3_56 rfl rfl ?_
  refine j_gR (ci := 21) (k := 0) rfl in_J8 rfl q251 dJ7_append_3_57 hf (fun r13 hf => ?_)
  refine j_aload_n 0 dJ7_append_3_60 rfl rfl ?_
  refine j_dup dJ7_append_3_61 (va_rf_cat _) ?_
  refine j_gI (ci := 21) (k := 3) rfl in_J8 rfl q254 dJ7_append_3_62 hf (fun v14 hf => ?_)
  refine j_dup_x1 dJ7_append_3_65 rfl (va_rf_cat _) ?_
  refine j_iconst (1 : Int32) dJ7_append_3_66 (by decide) ?_
  refine j_iadd dJ7_append_3_67 ?_
  refine j_pV (ci := 21) (k := 3) tyJ8 tyJ8_ok nmJ8 rfl in_J8 rfl q254 (Or.inl rfl) rfl (fit_i _) dJ7_append_3_68 hf (fun h15 hf => ?_)
  refine j_iload_n 1 dJ7_append_3_71 rfl rfl ?_
  cases hf
def f_J7_append_3_J8_B45 (x0 : Option Nat) (x1 : Int32) (h : PH) : Option (Option Nat × PH) := rv_ h x0 21 (cl_ (f_J7_isLatin1_J8 x0 h) fun v12 h11 => (if v12 = 0 then (f_J7_append_3_J8_B56 x0 x1 h11) else (none)))
theorem pf_J7_append_3_J8_B45 {Γ : GX} {D : va_G} {h0 : PH} {o : Option Nat × PH} (x0 : Option Nat) (x1 : Int32) (h : PH) (hf : f_J7_append_3_J8_B45 x0 x1 h = some o) : PF Γ mi_J7_append_3_J8 D h0 (QR Γ D h0 (ovr o.1) o.2) h 45 [some (va_rf x0), some (.int x1)] [] := by
  refine j_aload_n 0 dJ7_append_3_45 rfl rfl ?_
  refine kc_J7_83_J8 rfl rfl rfl (by decide) dJ7_append_3_46 hf (fun v12 h11 hf => ?_)
  refine j_if_eq 56 dJ7_append_3_49 (by decide) hf (fun c_ hf => ?_) (fun c_ hf => ?_)
  · exact pf_J7_append_3_J8_B56 x0 x1 h11 hf
  · refine j_aload_n 0 dJ7_append_3_52 rfl rfl ?_
    cases hf
def f_J7_append_3_J8_B75 (x0 : Option Nat) (h : PH) : Option (Option Nat × PH) := some (x0, h)
theorem pf_J7_append_3_J8_B75 {Γ : GX} {D : va_G} {h0 : PH} {o : Option Nat × PH} (x0 : Option Nat) (h : PH) (hf : f_J7_append_3_J8_B75 x0 h = some o) : PF Γ mi_J7_append_3_J8 D h0 (QR Γ D h0 (ovr o.1) o.2) h 75 [some (va_rf x0), none] [] := by
  refine j_aload_n 0 dJ7_append_3_75 rfl rfl ?_
  have e9 := Option.some.inj hf
  subst e9
  exact j_aret rfl (Or.inl ⟨_, rfl⟩) dJ7_append_3_76
def f_J7_append_3_J8 (r0 : Option Nat) (p0 : Int32) (h0 : PH) : Option (Option Nat × PH) := gI h0 r0 21 3 fun v1 => rv_ h0 r0 21 (cl_ (f_J7_ensureCapacityInternal_J8 r0 (v1 + (1 : Int32)) h0) fun _u h2 => rv_ h2 r0 21 (cl_ (f_J7_isLatin1_J8 r0 h2) fun v4 h3 => (if v4 = 0 then (f_J7_append_3_J8_B45 r0 p0 h3) else (cl_ (f_J15_canEncode p0 h3) fun v6 h5 => (if v6 = 0 then (f_J7_append_3_J8_B45 r0 p0 h5) else (gR h5 r0 21 0 fun r7 => gI h5 r0 21 3 fun v8 => pV h5 r0 21 3 (.int (v8 + (1 : Int32))) fun h9 => sI h9 r7 1 v8 (vp_nar .byte (p0.toInt8.toInt32)) fun h10 => f_J7_append_3_J8_B75 r0 h10))))))
theorem hyS_J7_append_3_J8 : yJ7_append_3.cls ≠ "java/lang/invoke/MethodHandle" ∧ yJ7_append_3.cls ≠ "java/lang/invoke/VarHandle" ∧ (parseMethodDescriptor yJ7_append_3.desc).map (fun d => d.parameters.length) = some 1 := by decide +kernel
theorem hyV_J7_append_3_J8 : yJ7_append_3.cls = RJ7 ∧ yJ7_append_3.cls ≠ "java/lang/invoke/MethodHandle" ∧ yJ7_append_3.cls ≠ "java/lang/invoke/VarHandle" ∧ (parseMethodDescriptor yJ7_append_3.desc).map (fun d => d.parameters.length) = some 1 := by decide +kernel
theorem c_J7_append_3_J8 {D : va_G} (r0 : Option Nat) (p0 : Int32) {h0 : PH} (l : Launch) (hl : l.stackTraces = false) (x : Option Nat) (h1 : PH) (hf : f_J7_append_3_J8 r0 p0 h0 = some (x, h1)) : CT l D yJ7_append_3 (ws_ yJ7_append_3 cJ7_append_3 2 (Option.some (FieldType.object "java/lang/AbstractStringBuilder"))) 4 104 [va_rf r0, .int p0] h0 (ovr x) h1 := by
  refine ct_of hl [some (va_rf r0), some (.int p0)] (by decide) (by rw [lgl]; simp [va_rf_cat, cat_i, cat_l]) (by simp [lv_args, vsL, va_rf_cat, cat_i, cat_l]) (fun Γ => ?_)
  obtain ⟨o, ho⟩ : ∃ o : Option Nat × PH, o = (x, h1) := ⟨_, rfl⟩
  rw [← ho] at hf
  have e1 : x = o.1 := by rw [ho]
  have e2 : h1 = o.2 := by rw [ho]
  subst e1 e2
  clear ho
  show PF Γ mi_J7_append_3_J8 D h0 (QR Γ D h0 (ovr o.1) o.2) h0 0 [some (va_rf r0), some (.int p0)] []
  unfold f_J7_append_3_J8 at hf
  refine j_aload_n 0 dJ7_append_3_0 rfl rfl ?_
  refine j_aload_n 0 dJ7_append_3_1 rfl rfl ?_
  refine j_gI (ci := 21) (k := 3) rfl in_J8 rfl q254 dJ7_append_3_2 hf (fun v1 hf => ?_)
  refine j_iconst (1 : Int32) dJ7_append_3_5 (by decide) ?_
  refine j_iadd dJ7_append_3_6 ?_
  refine kc_J7_100_J8 rfl rfl rfl (by decide) dJ7_append_3_7 hf (fun _u h2 hf => ?_)
  refine j_aload_n 0 dJ7_append_3_10 rfl rfl ?_
  refine kc_J7_83_J8 rfl rfl rfl (by decide) dJ7_append_3_11 hf (fun v4 h3 hf => ?_)
  refine j_if_eq 45 dJ7_append_3_14 (by decide) hf (fun c_ hf => ?_) (fun c_ hf => ?_)
  · exact pf_J7_append_3_J8_B45 r0 p0 h3 hf
  · refine j_iload_n 1 dJ7_append_3_17 rfl rfl ?_
    refine kc_J7_191 rfl rfl rfl (by decide) dJ7_append_3_18 hf (fun v6 h5 hf => ?_)
    refine j_if_eq 45 dJ7_append_3_21 (by decide) hf (fun c_ hf => ?_) (fun c_ hf => ?_)
    · exact pf_J7_append_3_J8_B45 r0 p0 h5 hf
    · refine j_aload_n 0 dJ7_append_3_24 rfl rfl ?_
      refine j_gR (ci := 21) (k := 0) rfl in_J8 rfl q251 dJ7_append_3_25 hf (fun r7 hf => ?_)
      refine j_aload_n 0 dJ7_append_3_28 rfl rfl ?_
      refine j_dup dJ7_append_3_29 (va_rf_cat _) ?_
      refine j_gI (ci := 21) (k := 3) rfl in_J8 rfl q254 dJ7_append_3_30 hf (fun v8 hf => ?_)
      refine j_dup_x1 dJ7_append_3_33 rfl (va_rf_cat _) ?_
      refine j_iconst (1 : Int32) dJ7_append_3_34 (by decide) ?_
      refine j_iadd dJ7_append_3_35 ?_
      refine j_pV (ci := 21) (k := 3) tyJ8 tyJ8_ok nmJ8 rfl in_J8 rfl q254 (Or.inl rfl) rfl (fit_i _) dJ7_append_3_36 hf (fun h9 hf => ?_)
      refine j_iload_n 1 dJ7_append_3_39 rfl rfl ?_
      refine j_i2b dJ7_append_3_40 ?_
      refine j_bast dJ7_append_3_41 hf (fun h10 hf => ?_)
      refine j_goto 75 dJ7_append_3_42 (by decide) ?_
      refine j_weak [some (va_rf r0), none] (Wk.k (Wk.s Wk.n)) ?_
      exact pf_J7_append_3_J8_B75 r0 h10 hf
theorem kc_J8_50_J8 {Γ : GX} {I : MI} {D : va_G} {h0 : PH} {Q : State → Prop} {h : PH} {pc : Nat} {vs : List (Option Value)} {rest : List Value} {β : Type} {o : β} {r : Option Nat} {p0 : Int32} {K : ((Option Nat) → PH → Option β)} (hI : I.2.2.1 = RJ8) (hfr : Nat.ble 5 I.2.2.2.2.2.1 = true) (hlo : Nat.ble 125 I.2.2.2.2.2.2.1 = true) (hW : (rest.map fun v => v.category).sum ≤ 8) (hd : decode I.1 pc = .ok (.invokespecial 50, 3)) (hf : rv_ h r 21 (cl_ (f_J7_append_3_J8 r p0 h) K) = some o) (kk : ∀ (x : Option Nat) (h1 : PH), K x h1 = some o → PF Γ I D h0 Q h1 (pc + 3) vs (va_rf x :: rest)) : PF Γ I D h0 Q h pc vs (.int p0 :: va_rf r :: rest) := by
  obtain ⟨cc, nL, own, rt, xt, fr, lo, nm⟩ := I
  cases hI
  exact j_cSUr (n := 1) (y := yJ7_append_3) (cc2 := cJ7_append_3) (As := [.int p0]) (C := RJ8) (ci := 21) rfl (lw_SU q957 q2790 q263 q958 q101 q959) (by decide +kernel) hfr hlo rfl hW hd (c_J7_append_3_J8 r p0) hf _ rfl kk
abbrev mi_J8_append_3 : MI := (cJ8_append_3, 2, RJ8, (Option.some (FieldType.object "java/lang/StringBuilder")), [], 5, 125, "append")
def f_J8_append_3 (r0 : Option Nat) (p0 : Int32) (h0 : PH) : Option (Option Nat × PH) := rv_ h0 r0 21 (cl_ (f_J7_append_3_J8 r0 p0 h0) fun r2 h1 => some (r0, h1))
theorem hyS_J8_append_3 : yJ8_append_3.cls ≠ "java/lang/invoke/MethodHandle" ∧ yJ8_append_3.cls ≠ "java/lang/invoke/VarHandle" ∧ (parseMethodDescriptor yJ8_append_3.desc).map (fun d => d.parameters.length) = some 1 := by decide +kernel
theorem hyV_J8_append_3 : yJ8_append_3.cls = RJ8 ∧ yJ8_append_3.cls ≠ "java/lang/invoke/MethodHandle" ∧ yJ8_append_3.cls ≠ "java/lang/invoke/VarHandle" ∧ (parseMethodDescriptor yJ8_append_3.desc).map (fun d => d.parameters.length) = some 1 := by decide +kernel
theorem c_J8_append_3 {D : va_G} (r0 : Option Nat) (p0 : Int32) {h0 : PH} (l : Launch) (hl : l.stackTraces = false) (x : Option Nat) (h1 : PH) (hf : f_J8_append_3 r0 p0 h0 = some (x, h1)) : CT l D yJ8_append_3 (ws_ yJ8_append_3 cJ8_append_3 2 (Option.some (FieldType.object "java/lang/StringBuilder"))) 5 125 [va_rf r0, .int p0] h0 (ovr x) h1 := by
  refine ct_of hl [some (va_rf r0), some (.int p0)] (by decide) (by rw [lgl]; simp [va_rf_cat, cat_i, cat_l]) (by simp [lv_args, vsL, va_rf_cat, cat_i, cat_l]) (fun Γ => ?_)
  obtain ⟨o, ho⟩ : ∃ o : Option Nat × PH, o = (x, h1) := ⟨_, rfl⟩
  rw [← ho] at hf
  have e1 : x = o.1 := by rw [ho]
  have e2 : h1 = o.2 := by rw [ho]
  subst e1 e2
  clear ho
  show PF Γ mi_J8_append_3 D h0 (QR Γ D h0 (ovr o.1) o.2) h0 0 [some (va_rf r0), some (.int p0)] []
  unfold f_J8_append_3 at hf
  refine j_aload_n 0 dJ8_append_3_0 rfl rfl ?_
  refine j_iload_n 1 dJ8_append_3_1 rfl rfl ?_
  refine kc_J8_50_J8 rfl rfl rfl (by decide) dJ8_append_3_2 hf (fun r2 h1 hf => ?_)
  refine j_pop dJ8_append_3_5 (va_rf_cat _) ?_
  refine j_aload_n 0 dJ8_append_3_6 rfl rfl ?_
  have e9 := Option.some.inj hf
  subst e9
  exact j_aret rfl (Or.inl ⟨_, rfl⟩) dJ8_append_3_7
theorem kc_J2_73 {Γ : GX} {I : MI} {D : va_G} {h0 : PH} {Q : State → Prop} {h : PH} {pc : Nat} {vs : List (Option Value)} {rest : List Value} {β : Type} {o : β} {p0 : Int32} {p1 : Int32} {p2 : Int32} {K : ((Int32) → PH → Option β)} (hI : I.2.2.1 = RJ2) (hfr : Nat.ble 2 I.2.2.2.2.2.1 = true) (hlo : Nat.ble 47 I.2.2.2.2.2.2.1 = true) (hW : (rest.map fun v => v.category).sum ≤ 8) (hd : decode I.1 pc = .ok (.invokestatic 73, 3)) (hf : cl_ (f_J11_newLength p0 p1 p2 h) K = some o) (kk : ∀ (x : Int32) (h1 : PH), K x h1 = some o → PF Γ I D h0 Q h1 (pc + 3) vs (.int x :: rest)) : PF Γ I D h0 Q h pc vs (.int p2 :: .int p1 :: .int p0 :: rest) := by
  obtain ⟨cc, nL, own, rt, xt, fr, lo, nm⟩ := I
  cases hI
  exact j_cSi (n := 3) (y := yJ11_newLength) (cc2 := cJ11_newLength) (As := [.int p0, .int p1, .int p2]) (lw_S q591 q285 q105 q286) hyS_J11_newLength hfr hlo rfl hW hd (c_J11_newLength p0 p1 p2) hf _ rfl kk
theorem kc_J2_66 {Γ : GX} {I : MI} {D : va_G} {h0 : PH} {Q : State → Prop} {h : PH} {pc : Nat} {vs : List (Option Value)} {rest : List Value} {β : Type} {o : β} {p0 : Option Nat} {p1 : Int32} {K : ((Option Nat) → PH → Option β)} (hI : I.2.2.1 = RJ2) (hfr : Nat.ble 3 I.2.2.2.2.2.1 = true) (hlo : Nat.ble 104 I.2.2.2.2.2.2.1 = true) (hW : (rest.map fun v => v.category).sum ≤ 8) (hd : decode I.1 pc = .ok (.invokestatic 66, 3)) (hf : cl_ (f_J13_copyOf_2 p0 p1 h) K = some o) (kk : ∀ (x : Option Nat) (h1 : PH), K x h1 = some o → PF Γ I D h0 Q h1 (pc + 3) vs (va_rf x :: rest)) : PF Γ I D h0 Q h pc vs (.int p1 :: va_rf p0 :: rest) := by
  obtain ⟨cc, nL, own, rt, xt, fr, lo, nm⟩ := I
  cases hI
  exact j_cSr (n := 2) (y := yJ13_copyOf_2) (cc2 := cJ13_copyOf_2) (As := [va_rf p0, .int p1]) (lw_S q592 q593 q107 q594) hyS_J13_copyOf_2 hfr hlo rfl hW hd (c_J13_copyOf_2 p0 p1) hf _ rfl kk
abbrev mi_J2_grow_2 : MI := (cJ2_grow_2, 4, RJ2, (Option.some (FieldType.array (FieldType.object "java/lang/Object"))), [], 3, 104, "grow")
def f_J2_grow_2_B20 (x0 : Option Nat) (x1 : Int32) (x2 : Int32) (h : PH) : Option (Option Nat × PH) := cl_ (f_J11_newLength x2 (x1 - x2) (x2 >>> ((1 : Int32) &&& 31)) h) fun v5 h4 => gR h4 x0 19 1 fun r6 => cl_ (f_J13_copyOf_2 r6 v5 h4) fun r8 h7 => pV h7 x0 19 1 (va_rf r8) fun h9 => some (r8, h9)
theorem pf_J2_grow_2_B20 {Γ : GX} {D : va_G} {h0 : PH} {o : Option Nat × PH} (x0 : Option Nat) (x1 : Int32) (x2 : Int32) (h : PH) (hf : f_J2_grow_2_B20 x0 x1 x2 h = some o) : PF Γ mi_J2_grow_2 D h0 (QR Γ D h0 (ovr o.1) o.2) h 20 [some (va_rf x0), some (.int x1), some (.int x2), none] [] := by
  refine j_iload_n 2 dJ2_grow_2_20 rfl rfl ?_
  refine j_iload_n 1 dJ2_grow_2_21 rfl rfl ?_
  refine j_iload_n 2 dJ2_grow_2_22 rfl rfl ?_
  refine j_isub dJ2_grow_2_23 ?_
  refine j_iload_n 2 dJ2_grow_2_24 rfl rfl ?_
  refine j_iconst (1 : Int32) dJ2_grow_2_25 (by decide) ?_
  refine j_ishr dJ2_grow_2_26 ?_
  refine kc_J2_73 rfl rfl rfl (by decide) dJ2_grow_2_27 hf (fun v5 h4 hf => ?_)
  refine j_istore_n 3 [some (va_rf x0), some (.int x1), some (.int x2), some (.int v5)] dJ2_grow_2_30 rfl (cz rfl) rfl rfl ?_
  refine j_aload_n 0 dJ2_grow_2_31 rfl rfl ?_
  refine j_aload_n 0 dJ2_grow_2_32 rfl rfl ?_
  refine j_gR (ci := 19) (k := 1) rfl in_J2 rfl q505 dJ2_grow_2_33 hf (fun r6 hf => ?_)
  refine j_iload_n 3 dJ2_grow_2_36 rfl rfl ?_
  refine kc_J2_66 rfl rfl rfl (by simp [va_rf_cat, cat_i, cat_l]) dJ2_grow_2_37 hf (fun r8 h7 hf => ?_)
  refine j_dup_x1 dJ2_grow_2_40 (va_rf_cat _) (va_rf_cat _) ?_
  refine j_pV (ci := 19) (k := 1) tyJ2 tyJ2_ok nmJ2 rfl in_J2 rfl q505 (Or.inl rfl) rfl (fit_a _ _) dJ2_grow_2_41 hf (fun h9 hf => ?_)
  have e9 := Option.some.inj hf
  subst e9
  exact j_aret rfl (Or.inr ⟨_, rfl⟩) dJ2_grow_2_44
def f_J2_grow_2 (r0 : Option Nat) (p0 : Int32) (h0 : PH) : Option (Option Nat × PH) := gR h0 r0 19 1 fun r1 => aN h0 r1 4 fun v2 => (if 0 < v2 then (f_J2_grow_2_B20 r0 p0 v2 h0) else (gR h0 r0 19 1 fun r3 => none))
theorem hyS_J2_grow_2 : yJ2_grow_2.cls ≠ "java/lang/invoke/MethodHandle" ∧ yJ2_grow_2.cls ≠ "java/lang/invoke/VarHandle" ∧ (parseMethodDescriptor yJ2_grow_2.desc).map (fun d => d.parameters.length) = some 1 := by decide +kernel
theorem hyV_J2_grow_2 : yJ2_grow_2.cls = RJ2 ∧ yJ2_grow_2.cls ≠ "java/lang/invoke/MethodHandle" ∧ yJ2_grow_2.cls ≠ "java/lang/invoke/VarHandle" ∧ (parseMethodDescriptor yJ2_grow_2.desc).map (fun d => d.parameters.length) = some 1 := by decide +kernel
theorem c_J2_grow_2 {D : va_G} (r0 : Option Nat) (p0 : Int32) {h0 : PH} (l : Launch) (hl : l.stackTraces = false) (x : Option Nat) (h1 : PH) (hf : f_J2_grow_2 r0 p0 h0 = some (x, h1)) : CT l D yJ2_grow_2 (ws_ yJ2_grow_2 cJ2_grow_2 4 (Option.some (FieldType.array (FieldType.object "java/lang/Object")))) 3 104 [va_rf r0, .int p0] h0 (ovr x) h1 := by
  refine ct_of hl [some (va_rf r0), some (.int p0), none, none] (by decide) (by rw [lgl]; simp [va_rf_cat, cat_i, cat_l]) (by simp [lv_args, vsL, va_rf_cat, cat_i, cat_l]) (fun Γ => ?_)
  obtain ⟨o, ho⟩ : ∃ o : Option Nat × PH, o = (x, h1) := ⟨_, rfl⟩
  rw [← ho] at hf
  have e1 : x = o.1 := by rw [ho]
  have e2 : h1 = o.2 := by rw [ho]
  subst e1 e2
  clear ho
  show PF Γ mi_J2_grow_2 D h0 (QR Γ D h0 (ovr o.1) o.2) h0 0 [some (va_rf r0), some (.int p0), none, none] []
  unfold f_J2_grow_2 at hf
  refine j_aload_n 0 dJ2_grow_2_0 rfl rfl ?_
  refine j_gR (ci := 19) (k := 1) rfl in_J2 rfl q505 dJ2_grow_2_1 hf (fun r1 hf => ?_)
  refine j_alen (t := 4) rfl dJ2_grow_2_4 hf (fun v2 hf => ?_)
  refine j_istore_n 2 [some (va_rf r0), some (.int p0), some (.int v2), none] dJ2_grow_2_5 rfl (cz rfl) rfl rfl ?_
  refine j_iload_n 2 dJ2_grow_2_6 rfl rfl ?_
  refine j_if_gt 20 dJ2_grow_2_7 (by decide) hf (fun c_ hf => ?_) (fun c_ hf => ?_)
  · exact pf_J2_grow_2_B20 r0 p0 v2 h0 hf
  · refine j_aload_n 0 dJ2_grow_2_10 rfl rfl ?_
    refine j_gR (ci := 19) (k := 1) rfl in_J2 rfl q505 dJ2_grow_2_11 hf (fun r3 hf => ?_)
    cases hf
theorem kc_J2_118 {Γ : GX} {I : MI} {D : va_G} {h0 : PH} {Q : State → Prop} {h : PH} {pc : Nat} {vs : List (Option Value)} {rest : List Value} {β : Type} {o : β} {p0 : Int32} {p1 : Int32} {K : ((Int32) → PH → Option β)} (hI : I.2.2.1 = RJ2) (hfr : Nat.ble 2 I.2.2.2.2.2.1 = true) (hlo : Nat.ble 43 I.2.2.2.2.2.2.1 = true) (hW : (rest.map fun v => v.category).sum ≤ 8) (hd : decode I.1 pc = .ok (.invokestatic 118, 3)) (hf : cl_ (f_J18_checkIndex p0 p1 h) K = some o) (kk : ∀ (x : Int32) (h1 : PH), K x h1 = some o → PF Γ I D h0 Q h1 (pc + 3) vs (.int x :: rest)) : PF Γ I D h0 Q h pc vs (.int p1 :: .int p0 :: rest) := by
  obtain ⟨cc, nL, own, rt, xt, fr, lo, nm⟩ := I
  cases hI
  exact j_cSi (n := 2) (y := yJ18_checkIndex) (cc2 := cJ18_checkIndex) (As := [.int p0, .int p1]) (lw_S q701 q702 q116 q703) hyS_J18_checkIndex hfr hlo rfl hW hd (c_J18_checkIndex p0 p1) hf _ rfl kk
theorem kc_J2_123 {Γ : GX} {I : MI} {D : va_G} {h0 : PH} {Q : State → Prop} {h : PH} {pc : Nat} {vs : List (Option Value)} {rest : List Value} {β : Type} {o : β} {r : Option Nat} {p0 : Int32} {K : ((Option Nat) → PH → Option β)} (hI : I.2.2.1 = RJ2) (hfr : Nat.ble 1 I.2.2.2.2.2.1 = true) (hlo : Nat.ble 21 I.2.2.2.2.2.2.1 = true) (hW : (rest.map fun v => v.category).sum ≤ 8) (hd : decode I.1 pc = .ok (.invokevirtual 123, 3)) (hf : rv_ h r 19 (cl_ (f_J2_elementData r p0 h) K) = some o) (kk : ∀ (x : Option Nat) (h1 : PH), K x h1 = some o → PF Γ I D h0 Q h1 (pc + 3) vs (va_rf x :: rest)) : PF Γ I D h0 Q h pc vs (.int p0 :: va_rf r :: rest) := by
  obtain ⟨cc, nL, own, rt, xt, fr, lo, nm⟩ := I
  cases hI
  exact j_cVr (n := 1) (y := yJ2_elementData) (cc2 := cJ2_elementData) (As := [.int p0]) (C := RJ2) (ci := 19) rfl (lw_V q707 q708 q709 q96 q710) hyV_J2_elementData hfr hlo rfl hW hd (c_J2_elementData r p0) hf _ rfl kk
abbrev mi_J2_get : MI := (cJ2_get, 2, RJ2, (Option.some (FieldType.object "java/lang/Object")), [], 2, 43, "get")
def f_J2_get (r0 : Option Nat) (p0 : Int32) (h0 : PH) : Option (Option Nat × PH) := gI h0 r0 19 2 fun v1 => cl_ (f_J18_checkIndex p0 v1 h0) fun v3 h2 => rv_ h2 r0 19 (cl_ (f_J2_elementData r0 p0 h2) fun r5 h4 => some (r5, h4))
theorem hyS_J2_get : yJ2_get.cls ≠ "java/lang/invoke/MethodHandle" ∧ yJ2_get.cls ≠ "java/lang/invoke/VarHandle" ∧ (parseMethodDescriptor yJ2_get.desc).map (fun d => d.parameters.length) = some 1 := by decide +kernel
theorem hyV_J2_get : yJ2_get.cls = RJ2 ∧ yJ2_get.cls ≠ "java/lang/invoke/MethodHandle" ∧ yJ2_get.cls ≠ "java/lang/invoke/VarHandle" ∧ (parseMethodDescriptor yJ2_get.desc).map (fun d => d.parameters.length) = some 1 := by decide +kernel
theorem c_J2_get {D : va_G} (r0 : Option Nat) (p0 : Int32) {h0 : PH} (l : Launch) (hl : l.stackTraces = false) (x : Option Nat) (h1 : PH) (hf : f_J2_get r0 p0 h0 = some (x, h1)) : CT l D yJ2_get (ws_ yJ2_get cJ2_get 2 (Option.some (FieldType.object "java/lang/Object"))) 2 43 [va_rf r0, .int p0] h0 (ovr x) h1 := by
  refine ct_of hl [some (va_rf r0), some (.int p0)] (by decide) (by rw [lgl]; simp [va_rf_cat, cat_i, cat_l]) (by simp [lv_args, vsL, va_rf_cat, cat_i, cat_l]) (fun Γ => ?_)
  obtain ⟨o, ho⟩ : ∃ o : Option Nat × PH, o = (x, h1) := ⟨_, rfl⟩
  rw [← ho] at hf
  have e1 : x = o.1 := by rw [ho]
  have e2 : h1 = o.2 := by rw [ho]
  subst e1 e2
  clear ho
  show PF Γ mi_J2_get D h0 (QR Γ D h0 (ovr o.1) o.2) h0 0 [some (va_rf r0), some (.int p0)] []
  unfold f_J2_get at hf
  refine j_iload_n 1 dJ2_get_0 rfl rfl ?_
  refine j_aload_n 0 dJ2_get_1 rfl rfl ?_
  refine j_gI (ci := 19) (k := 2) rfl in_J2 rfl q506 dJ2_get_2 hf (fun v1 hf => ?_)
  refine kc_J2_118 rfl rfl rfl (by decide) dJ2_get_5 hf (fun v3 h2 hf => ?_)
  refine j_pop dJ2_get_8 rfl ?_
  refine j_aload_n 0 dJ2_get_9 rfl rfl ?_
  refine j_iload_n 1 dJ2_get_10 rfl rfl ?_
  refine kc_J2_123 rfl rfl rfl (by decide) dJ2_get_11 hf (fun r5 h4 hf => ?_)
  have e9 := Option.some.inj hf
  subst e9
  exact j_aret rfl (Or.inl ⟨_, rfl⟩) dJ2_get_14
theorem kc_J2_89 {Γ : GX} {I : MI} {D : va_G} {h0 : PH} {Q : State → Prop} {h : PH} {pc : Nat} {vs : List (Option Value)} {rest : List Value} {β : Type} {o : β} {r : Option Nat} {p0 : Option Nat} {p1 : Int32} {p2 : Int32} {K : ((Int32) → PH → Option β)} (hI : I.2.2.1 = RJ2) (hfr : Nat.ble 3 I.2.2.2.2.2.1 = true) (hlo : Nat.ble 69 I.2.2.2.2.2.2.1 = true) (hW : (rest.map fun v => v.category).sum ≤ 8) (hd : decode I.1 pc = .ok (.invokevirtual 89, 3)) (hf : rv_ h r 19 (cl_ (f_J2_indexOfRange r p0 p1 p2 h) K) = some o) (kk : ∀ (x : Int32) (h1 : PH), K x h1 = some o → PF Γ I D h0 Q h1 (pc + 3) vs (.int x :: rest)) : PF Γ I D h0 Q h pc vs (.int p2 :: .int p1 :: va_rf p0 :: va_rf r :: rest) := by
  obtain ⟨cc, nL, own, rt, xt, fr, lo, nm⟩ := I
  cases hI
  exact j_cVi (n := 3) (y := yJ2_indexOfRange) (cc2 := cJ2_indexOfRange) (As := [va_rf p0, .int p1, .int p2]) (C := RJ2) (ci := 19) rfl (lw_V q999 q1000 q1001 q96 q1002) hyV_J2_indexOfRange hfr hlo rfl hW hd (c_J2_indexOfRange r p0 p1 p2) hf _ rfl kk
abbrev mi_J2_indexOf : MI := (cJ2_indexOf, 2, RJ2, (Option.some FieldType.int), [], 3, 69, "indexOf")
def f_J2_indexOf (r0 : Option Nat) (p0 : Option Nat) (h0 : PH) : Option (Int32 × PH) := gI h0 r0 19 2 fun v1 => rv_ h0 r0 19 (cl_ (f_J2_indexOfRange r0 p0 (0 : Int32) v1 h0) fun v3 h2 => some (v3, h2))
theorem hyS_J2_indexOf : yJ2_indexOf.cls ≠ "java/lang/invoke/MethodHandle" ∧ yJ2_indexOf.cls ≠ "java/lang/invoke/VarHandle" ∧ (parseMethodDescriptor yJ2_indexOf.desc).map (fun d => d.parameters.length) = some 1 := by decide +kernel
theorem hyV_J2_indexOf : yJ2_indexOf.cls = RJ2 ∧ yJ2_indexOf.cls ≠ "java/lang/invoke/MethodHandle" ∧ yJ2_indexOf.cls ≠ "java/lang/invoke/VarHandle" ∧ (parseMethodDescriptor yJ2_indexOf.desc).map (fun d => d.parameters.length) = some 1 := by decide +kernel
theorem c_J2_indexOf {D : va_G} (r0 : Option Nat) (p0 : Option Nat) {h0 : PH} (l : Launch) (hl : l.stackTraces = false) (x : Int32) (h1 : PH) (hf : f_J2_indexOf r0 p0 h0 = some (x, h1)) : CT l D yJ2_indexOf (ws_ yJ2_indexOf cJ2_indexOf 2 (Option.some FieldType.int)) 3 69 [va_rf r0, va_rf p0] h0 (ovi x) h1 := by
  refine ct_of hl [some (va_rf r0), some (va_rf p0)] (by decide) (by rw [lgl]; simp [va_rf_cat, cat_i, cat_l]) (by simp [lv_args, vsL, va_rf_cat, cat_i, cat_l]) (fun Γ => ?_)
  obtain ⟨o, ho⟩ : ∃ o : Int32 × PH, o = (x, h1) := ⟨_, rfl⟩
  rw [← ho] at hf
  have e1 : x = o.1 := by rw [ho]
  have e2 : h1 = o.2 := by rw [ho]
  subst e1 e2
  clear ho
  show PF Γ mi_J2_indexOf D h0 (QR Γ D h0 (ovi o.1) o.2) h0 0 [some (va_rf r0), some (va_rf p0)] []
  unfold f_J2_indexOf at hf
  refine j_aload_n 0 dJ2_indexOf_0 rfl rfl ?_
  refine j_aload_n 1 dJ2_indexOf_1 rfl rfl ?_
  refine j_iconst (0 : Int32) dJ2_indexOf_2 (by decide) ?_
  refine j_aload_n 0 dJ2_indexOf_3 rfl rfl ?_
  refine j_gI (ci := 19) (k := 2) rfl in_J2 rfl q506 dJ2_indexOf_4 hf (fun v1 hf => ?_)
  refine kc_J2_89 rfl rfl rfl (by decide) dJ2_indexOf_7 hf (fun v3 h2 hf => ?_)
  have e9 := Option.some.inj hf
  subst e9
  exact j_iret rfl dJ2_indexOf_10
abbrev mi_J2_remove : MI := (cJ2_remove, 4, RJ2, (Option.some (FieldType.object "java/lang/Object")), [], 2, 83, "remove")
def f_J2_remove (r0 : Option Nat) (p0 : Int32) (h0 : PH) : Option (Option Nat × PH) := gI h0 r0 19 2 fun v1 => cl_ (f_J18_checkIndex p0 v1 h0) fun v3 h2 => gR h2 r0 19 1 fun r4 => aQ h2 r4 4 p0 fun r5 => rv_ h2 r0 19 (cl_ (f_J2_fastRemove r0 r4 p0 h2) fun _u h6 => some (r5, h6))
theorem hyS_J2_remove : yJ2_remove.cls ≠ "java/lang/invoke/MethodHandle" ∧ yJ2_remove.cls ≠ "java/lang/invoke/VarHandle" ∧ (parseMethodDescriptor yJ2_remove.desc).map (fun d => d.parameters.length) = some 1 := by decide +kernel
theorem hyV_J2_remove : yJ2_remove.cls = RJ2 ∧ yJ2_remove.cls ≠ "java/lang/invoke/MethodHandle" ∧ yJ2_remove.cls ≠ "java/lang/invoke/VarHandle" ∧ (parseMethodDescriptor yJ2_remove.desc).map (fun d => d.parameters.length) = some 1 := by decide +kernel
theorem c_J2_remove {D : va_G} (r0 : Option Nat) (p0 : Int32) {h0 : PH} (l : Launch) (hl : l.stackTraces = false) (x : Option Nat) (h1 : PH) (hf : f_J2_remove r0 p0 h0 = some (x, h1)) : CT l D yJ2_remove (ws_ yJ2_remove cJ2_remove 4 (Option.some (FieldType.object "java/lang/Object"))) 2 83 [va_rf r0, .int p0] h0 (ovr x) h1 := by
  refine ct_of hl [some (va_rf r0), some (.int p0), none, none] (by decide) (by rw [lgl]; simp [va_rf_cat, cat_i, cat_l]) (by simp [lv_args, vsL, va_rf_cat, cat_i, cat_l]) (fun Γ => ?_)
  obtain ⟨o, ho⟩ : ∃ o : Option Nat × PH, o = (x, h1) := ⟨_, rfl⟩
  rw [← ho] at hf
  have e1 : x = o.1 := by rw [ho]
  have e2 : h1 = o.2 := by rw [ho]
  subst e1 e2
  clear ho
  show PF Γ mi_J2_remove D h0 (QR Γ D h0 (ovr o.1) o.2) h0 0 [some (va_rf r0), some (.int p0), none, none] []
  unfold f_J2_remove at hf
  refine j_iload_n 1 dJ2_remove_0 rfl rfl ?_
  refine j_aload_n 0 dJ2_remove_1 rfl rfl ?_
  refine j_gI (ci := 19) (k := 2) rfl in_J2 rfl q506 dJ2_remove_2 hf (fun v1 hf => ?_)
  refine kc_J2_118 rfl rfl rfl (by decide) dJ2_remove_5 hf (fun v3 h2 hf => ?_)
  refine j_pop dJ2_remove_8 rfl ?_
  refine j_aload_n 0 dJ2_remove_9 rfl rfl ?_
  refine j_gR (ci := 19) (k := 1) rfl in_J2 rfl q505 dJ2_remove_10 hf (fun r4 hf => ?_)
  refine j_astore_n 2 [some (va_rf r0), some (.int p0), some (va_rf r4), none] dJ2_remove_13 rfl (cz rfl) rfl rfl ?_
  refine j_aload_n 2 dJ2_remove_14 rfl rfl ?_
  refine j_iload_n 1 dJ2_remove_15 rfl rfl ?_
  refine j_aald (t := 4) rfl dJ2_remove_16 hf (fun r5 hf => ?_)
  refine j_astore_n 3 [some (va_rf r0), some (.int p0), some (va_rf r4), some (va_rf r5)] dJ2_remove_17 rfl (cz (va_rf_cat _)) rfl rfl ?_
  refine j_aload_n 0 dJ2_remove_18 rfl rfl ?_
  refine j_aload_n 2 dJ2_remove_19 rfl rfl ?_
  refine j_iload_n 1 dJ2_remove_20 rfl rfl ?_
  refine kc_J2_144 rfl rfl rfl (by decide) dJ2_remove_21 hf (fun _u h6 hf => ?_)
  refine j_aload_n 3 dJ2_remove_24 rfl rfl ?_
  have e9 := Option.some.inj hf
  subst e9
  exact j_aret rfl (Or.inl ⟨_, rfl⟩) dJ2_remove_25
abbrev mi_J2_toArray : MI := (cJ2_toArray, 1, RJ2, (Option.some (FieldType.array (FieldType.object "java/lang/Object"))), [], 3, 104, "toArray")
def f_J2_toArray (r0 : Option Nat) (h0 : PH) : Option (Option Nat × PH) := gR h0 r0 19 1 fun r1 => gI h0 r0 19 2 fun v2 => cl_ (f_J13_copyOf_2 r1 v2 h0) fun r4 h3 => some (r4, h3)
theorem hyS_J2_toArray : yJ2_toArray.cls ≠ "java/lang/invoke/MethodHandle" ∧ yJ2_toArray.cls ≠ "java/lang/invoke/VarHandle" ∧ (parseMethodDescriptor yJ2_toArray.desc).map (fun d => d.parameters.length) = some 0 := by decide +kernel
theorem hyV_J2_toArray : yJ2_toArray.cls = RJ2 ∧ yJ2_toArray.cls ≠ "java/lang/invoke/MethodHandle" ∧ yJ2_toArray.cls ≠ "java/lang/invoke/VarHandle" ∧ (parseMethodDescriptor yJ2_toArray.desc).map (fun d => d.parameters.length) = some 0 := by decide +kernel
theorem c_J2_toArray {D : va_G} (r0 : Option Nat) {h0 : PH} (l : Launch) (hl : l.stackTraces = false) (x : Option Nat) (h1 : PH) (hf : f_J2_toArray r0 h0 = some (x, h1)) : CT l D yJ2_toArray (ws_ yJ2_toArray cJ2_toArray 1 (Option.some (FieldType.array (FieldType.object "java/lang/Object")))) 3 104 [va_rf r0] h0 (ovr x) h1 := by
  refine ct_of hl [some (va_rf r0)] (by decide) (by rw [lgl]; simp [va_rf_cat, cat_i, cat_l]) (by simp [lv_args, vsL, va_rf_cat, cat_i, cat_l]) (fun Γ => ?_)
  obtain ⟨o, ho⟩ : ∃ o : Option Nat × PH, o = (x, h1) := ⟨_, rfl⟩
  rw [← ho] at hf
  have e1 : x = o.1 := by rw [ho]
  have e2 : h1 = o.2 := by rw [ho]
  subst e1 e2
  clear ho
  show PF Γ mi_J2_toArray D h0 (QR Γ D h0 (ovr o.1) o.2) h0 0 [some (va_rf r0)] []
  unfold f_J2_toArray at hf
  refine j_aload_n 0 dJ2_toArray_0 rfl rfl ?_
  refine j_gR (ci := 19) (k := 1) rfl in_J2 rfl q505 dJ2_toArray_1 hf (fun r1 hf => ?_)
  refine j_aload_n 0 dJ2_toArray_4 rfl rfl ?_
  refine j_gI (ci := 19) (k := 2) rfl in_J2 rfl q506 dJ2_toArray_5 hf (fun v2 hf => ?_)
  refine kc_J2_66 rfl rfl rfl (by decide) dJ2_toArray_8 hf (fun r4 h3 hf => ?_)
  have e9 := Option.some.inj hf
  subst e9
  exact j_aret rfl (Or.inr ⟨_, rfl⟩) dJ2_toArray_11
theorem kc_J13_339 {Γ : GX} {I : MI} {D : va_G} {h0 : PH} {Q : State → Prop} {h : PH} {pc : Nat} {vs : List (Option Value)} {rest : List Value} {β : Type} {o : β} {p0 : Option Nat} {p1 : Int32} {p2 : Int32} {K : ((Option Nat) → PH → Option β)} (hI : I.2.2.1 = RJ13) (hfr : Nat.ble 2 I.2.2.2.2.2.1 = true) (hlo : Nat.ble 84 I.2.2.2.2.2.2.1 = true) (hW : (rest.map fun v => v.category).sum ≤ 8) (hd : decode I.1 pc = .ok (.invokestatic 339, 3)) (hf : cl_ (f_J13_copyOfRangeByte p0 p1 p2 h) K = some o) (kk : ∀ (x : Option Nat) (h1 : PH), K x h1 = some o → PF Γ I D h0 Q h1 (pc + 3) vs (va_rf x :: rest)) : PF Γ I D h0 Q h pc vs (.int p2 :: .int p1 :: va_rf p0 :: rest) := by
  obtain ⟨cc, nL, own, rt, xt, fr, lo, nm⟩ := I
  cases hI
  exact j_cSr (n := 3) (y := yJ13_copyOfRangeByte) (cc2 := cJ13_copyOfRangeByte) (As := [va_rf p0, .int p1, .int p2]) (lw_S q440 q441 q107 q442) hyS_J13_copyOfRangeByte hfr hlo rfl hW hd (c_J13_copyOfRangeByte p0 p1 p2) hf _ rfl kk
abbrev mi_J13_copyOfRange : MI := (cJ13_copyOfRange, 3, RJ13, (Option.some (FieldType.array FieldType.byte)), [], 2, 84, "copyOfRange")
def f_J13_copyOfRange_B10 (x0 : Option Nat) (x1 : Int32) (x2 : Int32) (h : PH) : Option (Option Nat × PH) := cl_ (f_J13_copyOfRangeByte x0 x1 x2 h) fun r5 h4 => some (r5, h4)
theorem pf_J13_copyOfRange_B10 {Γ : GX} {D : va_G} {h0 : PH} {o : Option Nat × PH} (x0 : Option Nat) (x1 : Int32) (x2 : Int32) (h : PH) (hf : f_J13_copyOfRange_B10 x0 x1 x2 h = some o) : PF Γ mi_J13_copyOfRange D h0 (QR Γ D h0 (ovr o.1) o.2) h 10 [some (va_rf x0), some (.int x1), some (.int x2)] [] := by
  refine j_aload_n 0 dJ13_copyOfRange_10 rfl rfl ?_
  refine j_iload_n 1 dJ13_copyOfRange_11 rfl rfl ?_
  refine j_iload_n 2 dJ13_copyOfRange_12 rfl rfl ?_
  refine kc_J13_339 rfl rfl rfl (by decide) dJ13_copyOfRange_13 hf (fun r5 h4 hf => ?_)
  have e9 := Option.some.inj hf
  subst e9
  exact j_aret rfl (Or.inr ⟨_, rfl⟩) dJ13_copyOfRange_16
def f_J13_copyOfRange (p0 : Option Nat) (p1 : Int32) (p2 : Int32) (h0 : PH) : Option (Option Nat × PH) := (if p1 = 0 then (aN h0 p0 1 fun v1 => (if p2 = v1 then (yC h0 p0 fun a2 h3 => kB h3 (some a2) (some ((some a2), h3))) else (f_J13_copyOfRange_B10 p0 p1 p2 h0))) else (f_J13_copyOfRange_B10 p0 p1 p2 h0))
theorem hyS_J13_copyOfRange : yJ13_copyOfRange.cls ≠ "java/lang/invoke/MethodHandle" ∧ yJ13_copyOfRange.cls ≠ "java/lang/invoke/VarHandle" ∧ (parseMethodDescriptor yJ13_copyOfRange.desc).map (fun d => d.parameters.length) = some 3 := by decide +kernel
theorem c_J13_copyOfRange {D : va_G} (p0 : Option Nat) (p1 : Int32) (p2 : Int32) {h0 : PH} (l : Launch) (hl : l.stackTraces = false) (x : Option Nat) (h1 : PH) (hf : f_J13_copyOfRange p0 p1 p2 h0 = some (x, h1)) : CT l D yJ13_copyOfRange (ws_ yJ13_copyOfRange cJ13_copyOfRange 3 (Option.some (FieldType.array FieldType.byte))) 2 84 [va_rf p0, .int p1, .int p2] h0 (ovr x) h1 := by
  refine ct_of hl [some (va_rf p0), some (.int p1), some (.int p2)] (by decide) (by rw [lgl]; simp [va_rf_cat, cat_i, cat_l]) (by simp [lv_args, vsL, va_rf_cat, cat_i, cat_l]) (fun Γ => ?_)
  obtain ⟨o, ho⟩ : ∃ o : Option Nat × PH, o = (x, h1) := ⟨_, rfl⟩
  rw [← ho] at hf
  have e1 : x = o.1 := by rw [ho]
  have e2 : h1 = o.2 := by rw [ho]
  subst e1 e2
  clear ho
  show PF Γ mi_J13_copyOfRange D h0 (QR Γ D h0 (ovr o.1) o.2) h0 0 [some (va_rf p0), some (.int p1), some (.int p2)] []
  unfold f_J13_copyOfRange at hf
  refine j_iload_n 1 dJ13_copyOfRange_0 rfl rfl ?_
  refine j_if_ne 10 dJ13_copyOfRange_1 (by decide) hf (fun c_ hf => ?_) (fun c_ hf => ?_)
  · exact pf_J13_copyOfRange_B10 p0 p1 p2 h0 hf
  · refine j_iload_n 2 dJ13_copyOfRange_4 rfl rfl ?_
    refine j_aload_n 0 dJ13_copyOfRange_5 rfl rfl ?_
    refine j_alen (t := 1) rfl dJ13_copyOfRange_6 hf (fun v1 hf => ?_)
    refine j_icmp_eq 17 dJ13_copyOfRange_7 (by decide) hf (fun c_ hf => ?_) (fun c_ hf => ?_)
    · refine j_aload_n 0 dJ13_copyOfRange_17 rfl rfl ?_
      refine j_clone q298 q299 q300 q301 q302 q303 rfl rfl (by decide) dJ13_copyOfRange_18 hf (fun a2 h3 hf => ?_)
      refine j_kB q304 dJ13_copyOfRange_21 hf (fun hf => ?_)
      have e9 := Option.some.inj hf
      subst e9
      exact j_aret rfl (Or.inr ⟨_, rfl⟩) dJ13_copyOfRange_24
    · exact pf_J13_copyOfRange_B10 p0 p1 p2 h0 hf
theorem kc_J9_552_J8 {Γ : GX} {I : MI} {D : va_G} {h0 : PH} {Q : State → Prop} {h : PH} {pc : Nat} {vs : List (Option Value)} {rest : List Value} {β : Type} {o : β} {r : Option Nat}  {K : ((Option Nat) → PH → Option β)} (hI : I.2.2.1 = RJ9) (hfr : Nat.ble 1 I.2.2.2.2.2.1 = true) (hlo : Nat.ble 20 I.2.2.2.2.2.2.1 = true) (hW : (rest.map fun v => v.category).sum ≤ 8) (hd : decode I.1 pc = .ok (.invokevirtual 552, 3)) (hf : rv_ h r 21 (cl_ (f_J7_getValue_J8 r h) K) = some o) (kk : ∀ (x : Option Nat) (h1 : PH), K x h1 = some o → PF Γ I D h0 Q h1 (pc + 3) vs (va_rf x :: rest)) : PF Γ I D h0 Q h pc vs (va_rf r :: rest) := by
  obtain ⟨cc, nL, own, rt, xt, fr, lo, nm⟩ := I
  cases hI
  exact j_cUr (n := 0) (y := yJ7_getValue) (cc2 := cJ7_getValue) (As := []) (ci := 21) (x9 := ⟨"java/lang/AbstractStringBuilder", "getValue", "()[B"⟩) (owner := RJ7) (lw_U (C := RJ8) q423 q425 q426 q424 q101 q427) rfl (by decide +kernel) hfr hlo rfl hW hd (c_J7_getValue_J8 r) hf _ rfl kk
theorem kc_J9_549_J8 {Γ : GX} {I : MI} {D : va_G} {h0 : PH} {Q : State → Prop} {h : PH} {pc : Nat} {vs : List (Option Value)} {rest : List Value} {β : Type} {o : β} {r : Option Nat}  {K : ((Int32) → PH → Option β)} (hI : I.2.2.1 = RJ9) (hfr : Nat.ble 2 I.2.2.2.2.2.1 = true) (hlo : Nat.ble 40 I.2.2.2.2.2.2.1 = true) (hW : (rest.map fun v => v.category).sum ≤ 8) (hd : decode I.1 pc = .ok (.invokevirtual 549, 3)) (hf : rv_ h r 21 (cl_ (f_J8_length r h) K) = some o) (kk : ∀ (x : Int32) (h1 : PH), K x h1 = some o → PF Γ I D h0 Q h1 (pc + 3) vs (.int x :: rest)) : PF Γ I D h0 Q h pc vs (va_rf r :: rest) := by
  obtain ⟨cc, nL, own, rt, xt, fr, lo, nm⟩ := I
  cases hI
  exact j_cOi (n := 0) (y := yJ8_length) (cc2 := cJ8_length) (As := []) (ci := 21) (x9 := ⟨"java/lang/AbstractStringBuilder", "length", "()I"⟩) (owner := "java/lang/AbstractStringBuilder") (lw_O (C := RJ8) q428 q430 q429 q431 q432 q102 q433) q435 (by decide +kernel) hfr hlo rfl hW hd (c_J8_length r) hf _ rfl kk
theorem kc_J9_1047_J8 {Γ : GX} {I : MI} {D : va_G} {h0 : PH} {Q : State → Prop} {h : PH} {pc : Nat} {vs : List (Option Value)} {rest : List Value} {β : Type} {o : β} {r : Option Nat}  {K : ((Int32) → PH → Option β)} (hI : I.2.2.1 = RJ9) (hfr : Nat.ble 1 I.2.2.2.2.2.1 = true) (hlo : Nat.ble 20 I.2.2.2.2.2.2.1 = true) (hW : (rest.map fun v => v.category).sum ≤ 8) (hd : decode I.1 pc = .ok (.invokevirtual 1047, 3)) (hf : rv_ h r 21 (cl_ (f_J7_isLatin1_J8 r h) K) = some o) (kk : ∀ (x : Int32) (h1 : PH), K x h1 = some o → PF Γ I D h0 Q h1 (pc + 3) vs (.int x :: rest)) : PF Γ I D h0 Q h pc vs (va_rf r :: rest) := by
  obtain ⟨cc, nL, own, rt, xt, fr, lo, nm⟩ := I
  cases hI
  exact j_cUi (n := 0) (y := yJ7_isLatin1) (cc2 := cJ7_isLatin1) (As := []) (ci := 21) (x9 := ⟨"java/lang/AbstractStringBuilder", "isLatin1", "()Z"⟩) (owner := RJ7) (lw_U (C := RJ8) q436 q313 q314 q312 q101 q315) rfl (by decide +kernel) hfr hlo rfl hW hd (c_J7_isLatin1_J8 r) hf _ rfl kk
theorem kc_J9_54 {Γ : GX} {I : MI} {D : va_G} {h0 : PH} {Q : State → Prop} {h : PH} {pc : Nat} {vs : List (Option Value)} {rest : List Value} {β : Type} {o : β} {p0 : Option Nat} {p1 : Int32} {p2 : Int32} {K : ((Option Nat) → PH → Option β)} (hI : I.2.2.1 = RJ9) (hfr : Nat.ble 3 I.2.2.2.2.2.1 = true) (hlo : Nat.ble 106 I.2.2.2.2.2.2.1 = true) (hW : (rest.map fun v => v.category).sum ≤ 8) (hd : decode I.1 pc = .ok (.invokestatic 54, 3)) (hf : cl_ (f_J13_copyOfRange p0 p1 p2 h) K = some o) (kk : ∀ (x : Option Nat) (h1 : PH), K x h1 = some o → PF Γ I D h0 Q h1 (pc + 3) vs (va_rf x :: rest)) : PF Γ I D h0 Q h pc vs (.int p2 :: .int p1 :: va_rf p0 :: rest) := by
  obtain ⟨cc, nL, own, rt, xt, fr, lo, nm⟩ := I
  cases hI
  exact j_cSr (n := 3) (y := yJ13_copyOfRange) (cc2 := cJ13_copyOfRange) (As := [va_rf p0, .int p1, .int p2]) (lw_S q437 q438 q107 q439) hyS_J13_copyOfRange hfr hlo rfl hW hd (c_J13_copyOfRange p0 p1 p2) hf _ rfl kk
abbrev mi_J9_init_2 : MI := (cJ9_init_2, 5, RJ9, none, [], 3, 106, "<init>")
def f_J9_init_2_B97  (h : PH) : Option (Unit × PH) := some ((), h)
theorem pf_J9_init_2_B97 {Γ : GX} {D : va_G} {h0 : PH} {o : Unit × PH}  (h : PH) (hf : f_J9_init_2_B97  h = some o) : PF Γ mi_J9_init_2 D h0 (QR Γ D h0 (ovv o.1) o.2) h 97 [none, none, none, none, none] [] := by
  have e9 := Option.some.inj hf
  subst e9
  exact j_vret rfl dJ9_init_2_97
def f_J9_init_2_B79 (x0 : Option Nat) (x3 : Option Nat) (x4 : Int32) (h : PH) : Option (Unit × PH) := pB h x0 22 1 (1 : Int32) fun h13 => cl_ (f_J13_copyOfRange x3 (0 : Int32) (x4 <<< ((1 : Int32) &&& 31)) h13) fun r15 h14 => pV h14 x0 22 0 (va_rf r15) fun h16 => f_J9_init_2_B97 h16
theorem pf_J9_init_2_B79 {Γ : GX} {D : va_G} {h0 : PH} {o : Unit × PH} (x0 : Option Nat) (x3 : Option Nat) (x4 : Int32) (h : PH) (hf : f_J9_init_2_B79 x0 x3 x4 h = some o) : PF Γ mi_J9_init_2 D h0 (QR Γ D h0 (ovv o.1) o.2) h 79 [some (va_rf x0), none, none, some (va_rf x3), some (.int x4)] [] := by
  refine j_aload_n 0 dJ9_init_2_79 rfl rfl ?_
  refine j_iconst (1 : Int32) dJ9_init_2_80 (by decide) ?_
  obtain ⟨hz9, hf⟩ := pB_in hf
  refine j_pV (ci := 22) (k := 1) tyJ9 tyJ9_ok nmJ9 rfl in_J9 rfl q492 (Or.inr ⟨rfl, rfl, rfl⟩) rfl (fit_b _ hz9) dJ9_init_2_81 hf (fun h13 hf => ?_)
  refine j_aload_n 0 dJ9_init_2_84 rfl rfl ?_
  refine j_aload_n 3 dJ9_init_2_85 rfl rfl ?_
  refine j_iconst (0 : Int32) dJ9_init_2_86 (by decide) ?_
  refine j_iload dJ9_init_2_87 rfl ?_
  refine j_iconst (1 : Int32) dJ9_init_2_89 (by decide) ?_
  refine j_ishl dJ9_init_2_90 ?_
  refine kc_J9_54 rfl rfl rfl (by simp [va_rf_cat, cat_i, cat_l]) dJ9_init_2_91 hf (fun r15 h14 hf => ?_)
  refine j_pV (ci := 22) (k := 0) tyJ9 tyJ9_ok nmJ9 rfl in_J9 rfl q491 (Or.inr ⟨rfl, rfl, rfl⟩) rfl (fit_a _ _) dJ9_init_2_94 hf (fun h16 hf => ?_)
  refine j_weak [none, none, none, none, none] (Wk.s (Wk.k (Wk.k (Wk.s (Wk.s Wk.n))))) ?_
  exact pf_J9_init_2_B97  h16 hf
def f_J9_init_2 (a0 : Nat) (p0 : Option Nat) (p1 : Option Nat) (h0 : PH) : Option (Unit × PH) := rv_ h0 p0 21 (cl_ (f_J7_getValue_J8 p0 h0) fun r2 h1 => rv_ h1 p0 21 (cl_ (f_J8_length p0 h1) fun v4 h3 => rv_ h3 p0 21 (cl_ (f_J7_isLatin1_J8 p0 h3) fun v6 h5 => (if v6 = 0 then (asI (some (h5.2.1.1 9)) fun v7 => (if v7 = 0 then (f_J9_init_2_B79 (some a0) r2 v4 h5) else (gI h5 p0 21 2 fun v8 => (if v8 = 0 then (f_J9_init_2_B79 (some a0) r2 v4 h5) else (none))))) else (pB h5 (some a0) 22 1 (0 : Int32) fun h9 => cl_ (f_J13_copyOfRange r2 (0 : Int32) v4 h9) fun r11 h10 => pV h10 (some a0) 22 0 (va_rf r11) fun h12 => f_J9_init_2_B97 h12)))))
theorem hyS_J9_init_2 : yJ9_init_2.cls ≠ "java/lang/invoke/MethodHandle" ∧ yJ9_init_2.cls ≠ "java/lang/invoke/VarHandle" ∧ (parseMethodDescriptor yJ9_init_2.desc).map (fun d => d.parameters.length) = some 2 := by decide +kernel
theorem c_J9_init_2 {D : va_G} (a0 : Nat) (p0 : Option Nat) (p1 : Option Nat) {h0 : PH} (l : Launch) (hl : l.stackTraces = false) (x : Unit) (h1 : PH) (hf : f_J9_init_2 a0 p0 p1 h0 = some (x, h1)) : CT l D yJ9_init_2 (ws_ yJ9_init_2 cJ9_init_2 5 none) 3 106 [va_rf (some a0), va_rf p0, va_rf p1] h0 (ovv x) h1 := by
  refine ct_of hl [some (va_rf (some a0)), some (va_rf p0), some (va_rf p1), none, none] (by decide) (by rw [lgl]; simp [va_rf_cat, cat_i, cat_l]) (by simp [lv_args, vsL, va_rf_cat, cat_i, cat_l]) (fun Γ => ?_)
  obtain ⟨o, ho⟩ : ∃ o : Unit × PH, o = (x, h1) := ⟨_, rfl⟩
  rw [← ho] at hf
  have e1 : x = o.1 := by rw [ho]
  have e2 : h1 = o.2 := by rw [ho]
  subst e1 e2
  clear ho
  show PF Γ mi_J9_init_2 D h0 (QR Γ D h0 (ovv o.1) o.2) h0 0 [some (va_rf (some a0)), some (va_rf p0), some (va_rf p1), none, none] []
  unfold f_J9_init_2 at hf
  refine j_aload_n 0 dJ9_init_2_0 rfl rfl ?_
  refine j_objI q422 q141 q142 rfl rfl ⟨_, rfl⟩ (by decide) dJ9_init_2_1 ?_
  refine j_aload_n 1 dJ9_init_2_4 rfl rfl ?_
  refine kc_J9_552_J8 rfl rfl rfl (by decide) dJ9_init_2_5 hf (fun r2 h1 hf => ?_)
  refine j_astore_n 3 [some (va_rf (some a0)), some (va_rf p0), some (va_rf p1), some (va_rf r2), none] dJ9_init_2_8 rfl (cz (va_rf_cat _)) rfl rfl ?_
  refine j_aload_n 1 dJ9_init_2_9 rfl rfl ?_
  refine kc_J9_549_J8 rfl rfl rfl (by decide) dJ9_init_2_10 hf (fun v4 h3 hf => ?_)
  refine j_istore [some (va_rf (some a0)), some (va_rf p0), some (va_rf p1), some (va_rf r2), some (.int v4)] dJ9_init_2_13 (cz (va_rf_cat _)) rfl rfl ?_
  refine j_aload_n 1 dJ9_init_2_15 rfl rfl ?_
  refine kc_J9_1047_J8 rfl rfl rfl (by decide) dJ9_init_2_16 hf (fun v6 h5 hf => ?_)
  refine j_if_eq 41 dJ9_init_2_19 (by decide) hf (fun c_ hf => ?_) (fun c_ hf => ?_)
  · refine j_gsI (i := 9) rfl q350 dJ9_init_2_41 hf (fun v7 hf => ?_)
    refine j_if_eq 79 dJ9_init_2_44 (by decide) hf (fun c_ hf => ?_) (fun c_ hf => ?_)
    · refine j_weak [some (va_rf (some a0)), none, none, some (va_rf r2), some (.int v4)] (Wk.k (Wk.s (Wk.s (Wk.k (Wk.k Wk.n))))) ?_
      exact pf_J9_init_2_B79 (some a0) r2 v4 h5 hf
    · refine j_aload_n 1 dJ9_init_2_47 rfl rfl ?_
      refine j_gI (ci := 21) (k := 2) rfl in_J8 rfl q253 dJ9_init_2_48 hf (fun v8 hf => ?_)
      refine j_if_eq 79 dJ9_init_2_51 (by decide) hf (fun c_ hf => ?_) (fun c_ hf => ?_)
      · refine j_weak [some (va_rf (some a0)), none, none, some (va_rf r2), some (.int v4)] (Wk.k (Wk.s (Wk.s (Wk.k (Wk.k Wk.n))))) ?_
        exact pf_J9_init_2_B79 (some a0) r2 v4 h5 hf
      · refine j_aload_n 0 dJ9_init_2_54 rfl rfl ?_
        refine j_aload_n 3 dJ9_init_2_55 rfl rfl ?_
        refine j_iconst (0 : Int32) dJ9_init_2_56 (by decide) ?_
        refine j_iload dJ9_init_2_57 rfl ?_
        cases hf
  · refine j_aload_n 0 dJ9_init_2_22 rfl rfl ?_
    refine j_iconst (0 : Int32) dJ9_init_2_23 (by decide) ?_
    obtain ⟨hz9, hf⟩ := pB_in hf
    refine j_pV (ci := 22) (k := 1) tyJ9 tyJ9_ok nmJ9 rfl in_J9 rfl q492 (Or.inr ⟨rfl, rfl, rfl⟩) rfl (fit_b _ hz9) dJ9_init_2_24 hf (fun h9 hf => ?_)
    refine j_aload_n 0 dJ9_init_2_27 rfl rfl ?_
    refine j_aload_n 3 dJ9_init_2_28 rfl rfl ?_
    refine j_iconst (0 : Int32) dJ9_init_2_29 (by decide) ?_
    refine j_iload dJ9_init_2_30 rfl ?_
    refine kc_J9_54 rfl rfl rfl (by simp [va_rf_cat, cat_i, cat_l]) dJ9_init_2_32 hf (fun r11 h10 hf => ?_)
    refine j_pV (ci := 22) (k := 0) tyJ9 tyJ9_ok nmJ9 rfl in_J9 rfl q491 (Or.inr ⟨rfl, rfl, rfl⟩) rfl (fit_a _ _) dJ9_init_2_35 hf (fun h12 hf => ?_)
    refine j_goto 97 dJ9_init_2_38 (by decide) ?_
    refine j_weak [none, none, none, none, none] (Wk.s (Wk.s (Wk.s (Wk.s (Wk.s Wk.n))))) ?_
    exact pf_J9_init_2_B97  h12 hf
theorem kc_J2_69 {Γ : GX} {I : MI} {D : va_G} {h0 : PH} {Q : State → Prop} {h : PH} {pc : Nat} {vs : List (Option Value)} {rest : List Value} {β : Type} {o : β} {r : Option Nat} {p0 : Int32} {K : ((Option Nat) → PH → Option β)} (hI : I.2.2.1 = RJ2) (hfr : Nat.ble 4 I.2.2.2.2.2.1 = true) (hlo : Nat.ble 127 I.2.2.2.2.2.2.1 = true) (hW : (rest.map fun v => v.category).sum ≤ 8) (hd : decode I.1 pc = .ok (.invokevirtual 69, 3)) (hf : rv_ h r 19 (cl_ (f_J2_grow_2 r p0 h) K) = some o) (kk : ∀ (x : Option Nat) (h1 : PH), K x h1 = some o → PF Γ I D h0 Q h1 (pc + 3) vs (va_rf x :: rest)) : PF Γ I D h0 Q h pc vs (.int p0 :: va_rf r :: rest) := by
  obtain ⟨cc, nL, own, rt, xt, fr, lo, nm⟩ := I
  cases hI
  exact j_cVr (n := 1) (y := yJ2_grow_2) (cc2 := cJ2_grow_2) (As := [.int p0]) (C := RJ2) (ci := 19) rfl (lw_V q585 q587 qs3 q96 q588) hyV_J2_grow_2 hfr hlo rfl hW hd (c_J2_grow_2 r p0) hf _ rfl kk
abbrev mi_J2_grow : MI := (cJ2_grow, 1, RJ2, (Option.some (FieldType.array (FieldType.object "java/lang/Object"))), [], 4, 127, "grow")
def f_J2_grow (r0 : Option Nat) (h0 : PH) : Option (Option Nat × PH) := gI h0 r0 19 2 fun v1 => rv_ h0 r0 19 (cl_ (f_J2_grow_2 r0 (v1 + (1 : Int32)) h0) fun r3 h2 => some (r3, h2))
theorem hyS_J2_grow : yJ2_grow.cls ≠ "java/lang/invoke/MethodHandle" ∧ yJ2_grow.cls ≠ "java/lang/invoke/VarHandle" ∧ (parseMethodDescriptor yJ2_grow.desc).map (fun d => d.parameters.length) = some 0 := by decide +kernel
theorem hyV_J2_grow : yJ2_grow.cls = RJ2 ∧ yJ2_grow.cls ≠ "java/lang/invoke/MethodHandle" ∧ yJ2_grow.cls ≠ "java/lang/invoke/VarHandle" ∧ (parseMethodDescriptor yJ2_grow.desc).map (fun d => d.parameters.length) = some 0 := by decide +kernel
theorem c_J2_grow {D : va_G} (r0 : Option Nat) {h0 : PH} (l : Launch) (hl : l.stackTraces = false) (x : Option Nat) (h1 : PH) (hf : f_J2_grow r0 h0 = some (x, h1)) : CT l D yJ2_grow (ws_ yJ2_grow cJ2_grow 1 (Option.some (FieldType.array (FieldType.object "java/lang/Object")))) 4 127 [va_rf r0] h0 (ovr x) h1 := by
  refine ct_of hl [some (va_rf r0)] (by decide) (by rw [lgl]; simp [va_rf_cat, cat_i, cat_l]) (by simp [lv_args, vsL, va_rf_cat, cat_i, cat_l]) (fun Γ => ?_)
  obtain ⟨o, ho⟩ : ∃ o : Option Nat × PH, o = (x, h1) := ⟨_, rfl⟩
  rw [← ho] at hf
  have e1 : x = o.1 := by rw [ho]
  have e2 : h1 = o.2 := by rw [ho]
  subst e1 e2
  clear ho
  show PF Γ mi_J2_grow D h0 (QR Γ D h0 (ovr o.1) o.2) h0 0 [some (va_rf r0)] []
  unfold f_J2_grow at hf
  refine j_aload_n 0 dJ2_grow_0 rfl rfl ?_
  refine j_aload_n 0 dJ2_grow_1 rfl rfl ?_
  refine j_gI (ci := 19) (k := 2) rfl in_J2 rfl q506 dJ2_grow_2 hf (fun v1 hf => ?_)
  refine j_iconst (1 : Int32) dJ2_grow_5 (by decide) ?_
  refine j_iadd dJ2_grow_6 ?_
  refine kc_J2_69 rfl rfl rfl (by decide) dJ2_grow_7 hf (fun r3 h2 hf => ?_)
  have e9 := Option.some.inj hf
  subst e9
  exact j_aret rfl (Or.inr ⟨_, rfl⟩) dJ2_grow_10
theorem kc_J2_85 {Γ : GX} {I : MI} {D : va_G} {h0 : PH} {Q : State → Prop} {h : PH} {pc : Nat} {vs : List (Option Value)} {rest : List Value} {β : Type} {o : β} {r : Option Nat} {p0 : Option Nat} {K : ((Int32) → PH → Option β)} (hI : I.2.2.1 = RJ2) (hfr : Nat.ble 4 I.2.2.2.2.2.1 = true) (hlo : Nat.ble 90 I.2.2.2.2.2.2.1 = true) (hW : (rest.map fun v => v.category).sum ≤ 8) (hd : decode I.1 pc = .ok (.invokevirtual 85, 3)) (hf : rv_ h r 19 (cl_ (f_J2_indexOf r p0 h) K) = some o) (kk : ∀ (x : Int32) (h1 : PH), K x h1 = some o → PF Γ I D h0 Q h1 (pc + 3) vs (.int x :: rest)) : PF Γ I D h0 Q h pc vs (va_rf p0 :: va_rf r :: rest) := by
  obtain ⟨cc, nL, own, rt, xt, fr, lo, nm⟩ := I
  cases hI
  exact j_cVi (n := 1) (y := yJ2_indexOf) (cc2 := cJ2_indexOf) (As := [va_rf p0]) (C := RJ2) (ci := 19) rfl (lw_V q995 q996 q997 q96 q998) hyV_J2_indexOf hfr hlo rfl hW hd (c_J2_indexOf r p0) hf _ rfl kk
abbrev mi_J2_contains : MI := (cJ2_contains, 2, RJ2, (Option.some FieldType.boolean), [], 4, 90, "contains")
def f_J2_contains_B13 (t0 : Int32) (h : PH) : Option (Int32 × PH) := rN .boolean t0 (fun v => v) h
theorem pf_J2_contains_B13 {Γ : GX} {D : va_G} {h0 : PH} {o : Int32 × PH} (t0 : Int32) (h : PH) (hf : f_J2_contains_B13 t0 h = some o) : PF Γ mi_J2_contains D h0 (QR Γ D h0 (ovi o.1) o.2) h 13 [none, none] [.int t0] := by
  obtain ⟨hn9, hf⟩ := rN_in hf
  subst hf
  exact j_zret rfl (nar_z _ hn9) dJ2_contains_13
def f_J2_contains (r0 : Option Nat) (p0 : Option Nat) (h0 : PH) : Option (Int32 × PH) := rv_ h0 r0 19 (cl_ (f_J2_indexOf r0 p0 h0) fun v2 h1 => (if v2 < 0 then (f_J2_contains_B13 (0 : Int32) h1) else (f_J2_contains_B13 (1 : Int32) h1)))
theorem hyS_J2_contains : yJ2_contains.cls ≠ "java/lang/invoke/MethodHandle" ∧ yJ2_contains.cls ≠ "java/lang/invoke/VarHandle" ∧ (parseMethodDescriptor yJ2_contains.desc).map (fun d => d.parameters.length) = some 1 := by decide +kernel
theorem hyV_J2_contains : yJ2_contains.cls = RJ2 ∧ yJ2_contains.cls ≠ "java/lang/invoke/MethodHandle" ∧ yJ2_contains.cls ≠ "java/lang/invoke/VarHandle" ∧ (parseMethodDescriptor yJ2_contains.desc).map (fun d => d.parameters.length) = some 1 := by decide +kernel
theorem c_J2_contains {D : va_G} (r0 : Option Nat) (p0 : Option Nat) {h0 : PH} (l : Launch) (hl : l.stackTraces = false) (x : Int32) (h1 : PH) (hf : f_J2_contains r0 p0 h0 = some (x, h1)) : CT l D yJ2_contains (ws_ yJ2_contains cJ2_contains 2 (Option.some FieldType.boolean)) 4 90 [va_rf r0, va_rf p0] h0 (ovi x) h1 := by
  refine ct_of hl [some (va_rf r0), some (va_rf p0)] (by decide) (by rw [lgl]; simp [va_rf_cat, cat_i, cat_l]) (by simp [lv_args, vsL, va_rf_cat, cat_i, cat_l]) (fun Γ => ?_)
  obtain ⟨o, ho⟩ : ∃ o : Int32 × PH, o = (x, h1) := ⟨_, rfl⟩
  rw [← ho] at hf
  have e1 : x = o.1 := by rw [ho]
  have e2 : h1 = o.2 := by rw [ho]
  subst e1 e2
  clear ho
  show PF Γ mi_J2_contains D h0 (QR Γ D h0 (ovi o.1) o.2) h0 0 [some (va_rf r0), some (va_rf p0)] []
  unfold f_J2_contains at hf
  refine j_aload_n 0 dJ2_contains_0 rfl rfl ?_
  refine j_aload_n 1 dJ2_contains_1 rfl rfl ?_
  refine kc_J2_85 rfl rfl rfl (by decide) dJ2_contains_2 hf (fun v2 h1 hf => ?_)
  refine j_if_lt 12 dJ2_contains_5 (by decide) hf (fun c_ hf => ?_) (fun c_ hf => ?_)
  · refine j_iconst (0 : Int32) dJ2_contains_12 (by decide) ?_
    refine j_weak [none, none] (Wk.s (Wk.s Wk.n)) ?_
    exact pf_J2_contains_B13 (0 : Int32) h1 hf
  · refine j_iconst (1 : Int32) dJ2_contains_8 (by decide) ?_
    refine j_goto 13 dJ2_contains_9 (by decide) ?_
    refine j_weak [none, none] (Wk.s (Wk.s Wk.n)) ?_
    exact pf_J2_contains_B13 (1 : Int32) h1 hf
theorem kc_J2_42 {Γ : GX} {I : MI} {D : va_G} {h0 : PH} {Q : State → Prop} {h : PH} {pc : Nat} {vs : List (Option Value)} {rest : List Value} {β : Type} {o : β} {r : Option Nat}  {K : ((Option Nat) → PH → Option β)} (hI : I.2.2.1 = RJ2) (hfr : Nat.ble 4 I.2.2.2.2.2.1 = true) (hlo : Nat.ble 124 I.2.2.2.2.2.2.1 = true) (hW : (rest.map fun v => v.category).sum ≤ 8) (hd : decode I.1 pc = .ok (.invokeinterface 42 1, 5)) (hf : rv_ h r 19 (cl_ (f_J2_toArray r h) K) = some o) (kk : ∀ (x : Option Nat) (h1 : PH), K x h1 = some o → PF Γ I D h0 Q h1 (pc + 5) vs (va_rf x :: rest)) : PF Γ I D h0 Q h pc vs (va_rf r :: rest) := by
  obtain ⟨cc, nL, own, rt, xt, fr, lo, nm⟩ := I
  cases hI
  exact j_cFr (n := 0) (y := yJ2_toArray) (cc2 := cJ2_toArray) (As := []) (C := RJ2) (x9 := ⟨"java/util/Collection", "toArray", "()[Ljava/lang/Object;"⟩) (ci := 19) rfl (by decide +kernel) (lw_F q2055 q2059 q2061 q96 q2063) (by decide +kernel) hfr hlo rfl hW hd (c_J2_toArray r) hf _ rfl kk
abbrev mi_J2_addAll : MI := (cJ2_addAll, 6, RJ2, (Option.some FieldType.boolean), [], 4, 127, "addAll")
def f_J2_addAll_B56 (x0 : Option Nat) (x2 : Option Nat) (x3 : Int32) (x4 : Option Nat) (x5 : Int32) (h : PH) : Option (Int32 × PH) := ycQ h x2 (0 : Int32) x4 x5 x3 fun h11 => pV h11 x0 19 2 (.int (x5 + x3)) fun h12 => rN .boolean (1 : Int32) (fun v => v) h12
theorem pf_J2_addAll_B56 {Γ : GX} {D : va_G} {h0 : PH} {o : Int32 × PH} (x0 : Option Nat) (x2 : Option Nat) (x3 : Int32) (x4 : Option Nat) (x5 : Int32) (h : PH) (hf : f_J2_addAll_B56 x0 x2 x3 x4 x5 h = some o) : PF Γ mi_J2_addAll D h0 (QR Γ D h0 (ovi o.1) o.2) h 56 [some (va_rf x0), none, some (va_rf x2), some (.int x3), some (va_rf x4), some (.int x5)] [] := by
  refine j_aload_n 2 dJ2_addAll_56 rfl rfl ?_
  refine j_iconst (0 : Int32) dJ2_addAll_57 (by decide) ?_
  refine j_aload dJ2_addAll_58 rfl ?_
  refine j_iload dJ2_addAll_60 rfl ?_
  refine j_iload_n 3 dJ2_addAll_62 rfl rfl ?_
  refine j_ycQ q1333 q310 q309 q108 rfl rfl (by decide) dJ2_addAll_63 hf (fun h11 hf => ?_)
  refine j_aload_n 0 dJ2_addAll_66 rfl rfl ?_
  refine j_iload dJ2_addAll_67 rfl ?_
  refine j_iload_n 3 dJ2_addAll_69 rfl rfl ?_
  refine j_iadd dJ2_addAll_70 ?_
  refine j_pV (ci := 19) (k := 2) tyJ2 tyJ2_ok nmJ2 rfl in_J2 rfl q506 (Or.inl rfl) rfl (fit_i _) dJ2_addAll_71 hf (fun h12 hf => ?_)
  refine j_iconst (1 : Int32) dJ2_addAll_74 (by decide) ?_
  obtain ⟨hn9, hf⟩ := rN_in hf
  subst hf
  exact j_zret rfl (nar_z _ hn9) dJ2_addAll_75
def f_J2_addAll (r0 : Option Nat) (p0 : Option Nat) (h0 : PH) : Option (Int32 × PH) := rv_ h0 p0 19 (cl_ (f_J2_toArray p0 h0) fun r2 h1 => gIN h1 r0 19 0 fun v3 => pV h1 r0 19 0 (.int (v3 + (1 : Int32))) fun h4 => aN h4 r2 4 fun v5 => (if v5 = 0 then (rN .boolean (0 : Int32) (fun v => v) h4) else (gR h4 r0 19 1 fun r6 => aN h4 r6 4 fun v7 => gI h4 r0 19 2 fun v8 => (if v5 ≤ (v7 - v8) then (f_J2_addAll_B56 r0 r2 v5 r6 v8 h4) else (rv_ h4 r0 19 (cl_ (f_J2_grow_2 r0 (v8 + v5) h4) fun r10 h9 => f_J2_addAll_B56 r0 r2 v5 r10 v8 h9))))))
theorem hyS_J2_addAll : yJ2_addAll.cls ≠ "java/lang/invoke/MethodHandle" ∧ yJ2_addAll.cls ≠ "java/lang/invoke/VarHandle" ∧ (parseMethodDescriptor yJ2_addAll.desc).map (fun d => d.parameters.length) = some 1 := by decide +kernel
theorem hyV_J2_addAll : yJ2_addAll.cls = RJ2 ∧ yJ2_addAll.cls ≠ "java/lang/invoke/MethodHandle" ∧ yJ2_addAll.cls ≠ "java/lang/invoke/VarHandle" ∧ (parseMethodDescriptor yJ2_addAll.desc).map (fun d => d.parameters.length) = some 1 := by decide +kernel
theorem c_J2_addAll {D : va_G} (r0 : Option Nat) (p0 : Option Nat) {h0 : PH} (l : Launch) (hl : l.stackTraces = false) (x : Int32) (h1 : PH) (hf : f_J2_addAll r0 p0 h0 = some (x, h1)) : CT l D yJ2_addAll (ws_ yJ2_addAll cJ2_addAll 6 (Option.some FieldType.boolean)) 4 127 [va_rf r0, va_rf p0] h0 (ovi x) h1 := by
  refine ct_of hl [some (va_rf r0), some (va_rf p0), none, none, none, none] (by decide) (by rw [lgl]; simp [va_rf_cat, cat_i, cat_l]) (by simp [lv_args, vsL, va_rf_cat, cat_i, cat_l]) (fun Γ => ?_)
  obtain ⟨o, ho⟩ : ∃ o : Int32 × PH, o = (x, h1) := ⟨_, rfl⟩
  rw [← ho] at hf
  have e1 : x = o.1 := by rw [ho]
  have e2 : h1 = o.2 := by rw [ho]
  subst e1 e2
  clear ho
  show PF Γ mi_J2_addAll D h0 (QR Γ D h0 (ovi o.1) o.2) h0 0 [some (va_rf r0), some (va_rf p0), none, none, none, none] []
  unfold f_J2_addAll at hf
  refine j_aload_n 1 dJ2_addAll_0 rfl rfl ?_
  refine kc_J2_42 rfl rfl rfl (by decide) dJ2_addAll_1 hf (fun r2 h1 hf => ?_)
  refine j_astore_n 2 [some (va_rf r0), some (va_rf p0), some (va_rf r2), none, none, none] dJ2_addAll_6 rfl (cz (va_rf_cat _)) rfl rfl ?_
  refine j_aload_n 0 dJ2_addAll_7 rfl rfl ?_
  refine j_dup dJ2_addAll_8 (va_rf_cat _) ?_
  refine j_gIM (ci := 19) (k := 0) rfl in_J2 rfl q508 rfl q509 dJ2_addAll_9 hf (fun v3 hf => ?_)
  refine j_iconst (1 : Int32) dJ2_addAll_12 (by decide) ?_
  refine j_iadd dJ2_addAll_13 ?_
  refine j_pVM (ci := 19) (k := 0) tyJ2 tyJ2_ok nmJ2 rfl in_J2 rfl q508 rfl q509 rfl dJ2_addAll_14 hf (fun h4 hf => ?_)
  refine j_aload_n 2 dJ2_addAll_17 rfl rfl ?_
  refine j_alen (t := 4) rfl dJ2_addAll_18 hf (fun v5 hf => ?_)
  refine j_istore_n 3 [some (va_rf r0), some (va_rf p0), some (va_rf r2), some (.int v5), none, none] dJ2_addAll_19 rfl (cz (va_rf_cat _)) rfl rfl ?_
  refine j_iload_n 3 dJ2_addAll_20 rfl rfl ?_
  refine j_if_ne 26 dJ2_addAll_21 (by decide) hf (fun c_ hf => ?_) (fun c_ hf => ?_)
  · refine j_iload_n 3 dJ2_addAll_26 rfl rfl ?_
    refine j_aload_n 0 dJ2_addAll_27 rfl rfl ?_
    refine j_gR (ci := 19) (k := 1) rfl in_J2 rfl q505 dJ2_addAll_28 hf (fun r6 hf => ?_)
    refine j_dup dJ2_addAll_31 (va_rf_cat _) ?_
    refine j_astore [some (va_rf r0), some (va_rf p0), some (va_rf r2), some (.int v5), some (va_rf r6), none] dJ2_addAll_32 (cz rfl) rfl rfl ?_
    refine j_alen (t := 4) rfl dJ2_addAll_34 hf (fun v7 hf => ?_)
    refine j_aload_n 0 dJ2_addAll_35 rfl rfl ?_
    refine j_gI (ci := 19) (k := 2) rfl in_J2 rfl q506 dJ2_addAll_36 hf (fun v8 hf => ?_)
    refine j_dup dJ2_addAll_39 rfl ?_
    refine j_istore [some (va_rf r0), some (va_rf p0), some (va_rf r2), some (.int v5), some (va_rf r6), some (.int v8)] dJ2_addAll_40 (cz (va_rf_cat _)) rfl rfl ?_
    refine j_isub dJ2_addAll_42 ?_
    refine j_icmp_le 56 dJ2_addAll_43 (by decide) hf (fun c_ hf => ?_) (fun c_ hf => ?_)
    · refine j_weak [some (va_rf r0), none, some (va_rf r2), some (.int v5), some (va_rf r6), some (.int v8)] (Wk.k (Wk.s (Wk.k (Wk.k (Wk.k (Wk.k Wk.n)))))) ?_
      exact pf_J2_addAll_B56 r0 r2 v5 r6 v8 h4 hf
    · refine j_aload_n 0 dJ2_addAll_46 rfl rfl ?_
      refine j_iload dJ2_addAll_47 rfl ?_
      refine j_iload_n 3 dJ2_addAll_49 rfl rfl ?_
      refine j_iadd dJ2_addAll_50 ?_
      refine kc_J2_69 rfl rfl rfl (by decide) dJ2_addAll_51 hf (fun r10 h9 hf => ?_)
      refine j_astore [some (va_rf r0), some (va_rf p0), some (va_rf r2), some (.int v5), some (va_rf r10), some (.int v8)] dJ2_addAll_54 (cz rfl) rfl rfl ?_
      refine j_weak [some (va_rf r0), none, some (va_rf r2), some (.int v5), some (va_rf r10), some (.int v8)] (Wk.k (Wk.s (Wk.k (Wk.k (Wk.k (Wk.k Wk.n)))))) ?_
      exact pf_J2_addAll_B56 r0 r2 v5 r10 v8 h9 hf
  · refine j_iconst (0 : Int32) dJ2_addAll_24 (by decide) ?_
    obtain ⟨hn9, hf⟩ := rN_in hf
    subst hf
    exact j_zret rfl (nar_z _ hn9) dJ2_addAll_25
theorem kc_J9_489 {Γ : GX} {I : MI} {D : va_G} {h0 : PH} {Q : State → Prop} {h : PH} {pc : Nat} {vs : List (Option Value)} {rest : List Value} {β : Type} {o : β} {a : Nat} {p0 : Option Nat} {p1 : Option Nat} {K : ((Unit) → PH → Option β)} (hI : I.2.2.1 = RJ9) (hfr : Nat.ble 4 I.2.2.2.2.2.1 = true) (hlo : Nat.ble 130 I.2.2.2.2.2.2.1 = true) (hW : (rest.map fun v => v.category).sum ≤ 8) (hd : decode I.1 pc = .ok (.invokespecial 489, 3)) (hf : cl_ (f_J9_init_2 a p0 p1 h) K = some o) (kk : ∀ (x : Unit) (h1 : PH), K x h1 = some o → PF Γ I D h0 Q h1 (pc + 3) vs (rest)) : PF Γ I D h0 Q h pc vs (va_rf p1 :: va_rf p0 :: va_rf (some a) :: rest) := by
  obtain ⟨cc, nL, own, rt, xt, fr, lo, nm⟩ := I
  cases hI
  exact j_cIv (n := 2) (y := yJ9_init_2) (cc2 := cJ9_init_2) (As := [va_rf p0, va_rf p1]) (lw_meth q421) q103 q419 q420 rfl hyS_J9_init_2 hfr hlo rfl hW hd (c_J9_init_2 a p0 p1) ⟨_, rfl⟩ hf _ rfl kk
abbrev mi_J9_init : MI := (cJ9_init, 2, RJ9, none, [], 4, 130, "<init>")
def f_J9_init (a0 : Nat) (p0 : Option Nat) (h0 : PH) : Option (Unit × PH) := cl_ (f_J9_init_2 a0 p0 none h0) fun _u h1 => some ((), h1)
theorem hyS_J9_init : yJ9_init.cls ≠ "java/lang/invoke/MethodHandle" ∧ yJ9_init.cls ≠ "java/lang/invoke/VarHandle" ∧ (parseMethodDescriptor yJ9_init.desc).map (fun d => d.parameters.length) = some 1 := by decide +kernel
theorem c_J9_init {D : va_G} (a0 : Nat) (p0 : Option Nat) {h0 : PH} (l : Launch) (hl : l.stackTraces = false) (x : Unit) (h1 : PH) (hf : f_J9_init a0 p0 h0 = some (x, h1)) : CT l D yJ9_init (ws_ yJ9_init cJ9_init 2 none) 4 130 [va_rf (some a0), va_rf p0] h0 (ovv x) h1 := by
  refine ct_of hl [some (va_rf (some a0)), some (va_rf p0)] (by decide) (by rw [lgl]; simp [va_rf_cat, cat_i, cat_l]) (by simp [lv_args, vsL, va_rf_cat, cat_i, cat_l]) (fun Γ => ?_)
  obtain ⟨o, ho⟩ : ∃ o : Unit × PH, o = (x, h1) := ⟨_, rfl⟩
  rw [← ho] at hf
  have e1 : x = o.1 := by rw [ho]
  have e2 : h1 = o.2 := by rw [ho]
  subst e1 e2
  clear ho
  show PF Γ mi_J9_init D h0 (QR Γ D h0 (ovv o.1) o.2) h0 0 [some (va_rf (some a0)), some (va_rf p0)] []
  unfold f_J9_init at hf
  refine j_aload_n 0 dJ9_init_0 rfl rfl ?_
  refine j_aload_n 1 dJ9_init_1 rfl rfl ?_
  refine j_aconst_null dJ9_init_2 ?_
  refine kc_J9_489 rfl rfl rfl (by decide) dJ9_init_3 hf (fun _u h1 hf => ?_)
  have e9 := Option.some.inj hf
  subst e9
  exact j_vret rfl dJ9_init_6
theorem kc_J8_137 {Γ : GX} {I : MI} {D : va_G} {h0 : PH} {Q : State → Prop} {h : PH} {pc : Nat} {vs : List (Option Value)} {rest : List Value} {β : Type} {o : β} {a : Nat} {p0 : Option Nat} {K : ((Unit) → PH → Option β)} (hI : I.2.2.1 = RJ8) (hfr : Nat.ble 5 I.2.2.2.2.2.1 = true) (hlo : Nat.ble 151 I.2.2.2.2.2.2.1 = true) (hW : (rest.map fun v => v.category).sum ≤ 8) (hd : decode I.1 pc = .ok (.invokespecial 137, 3)) (hf : cl_ (f_J9_init a p0 h) K = some o) (kk : ∀ (x : Unit) (h1 : PH), K x h1 = some o → PF Γ I D h0 Q h1 (pc + 3) vs (rest)) : PF Γ I D h0 Q h pc vs (va_rf p0 :: va_rf (some a) :: rest) := by
  obtain ⟨cc, nL, own, rt, xt, fr, lo, nm⟩ := I
  cases hI
  exact j_cIv (n := 1) (y := yJ9_init) (cc2 := cJ9_init) (As := [va_rf p0]) (lw_meth q418) q103 q416 q417 rfl hyS_J9_init hfr hlo rfl hW hd (c_J9_init a p0) ⟨_, rfl⟩ hf _ rfl kk
abbrev mi_J8_toString : MI := (cJ8_toString, 1, RJ8, (Option.some (FieldType.object "java/lang/String")), [], 5, 151, "toString")
def f_J8_toString (r0 : Option Nat) (h0 : PH) : Option (Option Nat × PH) := nO h0 22 4 [.null, .int 0, .int 0, .int 0] fun a1 h2 => cl_ (f_J9_init a1 r0 h2) fun _u h3 => some ((some a1), h3)
theorem hyS_J8_toString : yJ8_toString.cls ≠ "java/lang/invoke/MethodHandle" ∧ yJ8_toString.cls ≠ "java/lang/invoke/VarHandle" ∧ (parseMethodDescriptor yJ8_toString.desc).map (fun d => d.parameters.length) = some 0 := by decide +kernel
theorem hyV_J8_toString : yJ8_toString.cls = RJ8 ∧ yJ8_toString.cls ≠ "java/lang/invoke/MethodHandle" ∧ yJ8_toString.cls ≠ "java/lang/invoke/VarHandle" ∧ (parseMethodDescriptor yJ8_toString.desc).map (fun d => d.parameters.length) = some 0 := by decide +kernel
theorem c_J8_toString {D : va_G} (r0 : Option Nat) {h0 : PH} (l : Launch) (hl : l.stackTraces = false) (x : Option Nat) (h1 : PH) (hf : f_J8_toString r0 h0 = some (x, h1)) : CT l D yJ8_toString (ws_ yJ8_toString cJ8_toString 1 (Option.some (FieldType.object "java/lang/String"))) 5 151 [va_rf r0] h0 (ovr x) h1 := by
  refine ct_of hl [some (va_rf r0)] (by decide) (by rw [lgl]; simp [va_rf_cat, cat_i, cat_l]) (by simp [lv_args, vsL, va_rf_cat, cat_i, cat_l]) (fun Γ => ?_)
  obtain ⟨o, ho⟩ : ∃ o : Option Nat × PH, o = (x, h1) := ⟨_, rfl⟩
  rw [← ho] at hf
  have e1 : x = o.1 := by rw [ho]
  have e2 : h1 = o.2 := by rw [ho]
  subst e1 e2
  clear ho
  show PF Γ mi_J8_toString D h0 (QR Γ D h0 (ovr o.1) o.2) h0 0 [some (va_rf r0)] []
  unfold f_J8_toString at hf
  refine j_nO (ci := 22) tyJ9 tyJ9_ok rfl in_J9 q414 q415 q103 (by decide) dJ8_toString_0 hf (fun a1 h2 hf => ?_)
  refine j_dup dJ8_toString_3 (va_rf_cat _) ?_
  refine j_aload_n 0 dJ8_toString_4 rfl rfl ?_
  refine kc_J8_137 rfl rfl rfl (by simp [va_rf_cat, cat_i, cat_l]) dJ8_toString_5 hf (fun _u h3 hf => ?_)
  have e9 := Option.some.inj hf
  subst e9
  exact j_aret rfl (Or.inl ⟨_, rfl⟩) dJ8_toString_8
theorem kc_J2_129 {Γ : GX} {I : MI} {D : va_G} {h0 : PH} {Q : State → Prop} {h : PH} {pc : Nat} {vs : List (Option Value)} {rest : List Value} {β : Type} {o : β} {r : Option Nat}  {K : ((Option Nat) → PH → Option β)} (hI : I.2.2.1 = RJ2) (hfr : Nat.ble 5 I.2.2.2.2.2.1 = true) (hlo : Nat.ble 147 I.2.2.2.2.2.2.1 = true) (hW : (rest.map fun v => v.category).sum ≤ 8) (hd : decode I.1 pc = .ok (.invokevirtual 129, 3)) (hf : rv_ h r 19 (cl_ (f_J2_grow r h) K) = some o) (kk : ∀ (x : Option Nat) (h1 : PH), K x h1 = some o → PF Γ I D h0 Q h1 (pc + 3) vs (va_rf x :: rest)) : PF Γ I D h0 Q h pc vs (va_rf r :: rest) := by
  obtain ⟨cc, nL, own, rt, xt, fr, lo, nm⟩ := I
  cases hI
  exact j_cVr (n := 0) (y := yJ2_grow) (cc2 := cJ2_grow) (As := []) (C := RJ2) (ci := 19) rfl (lw_V q581 q583 qs2 q96 q584) hyV_J2_grow hfr hlo rfl hW hd (c_J2_grow r) hf _ rfl kk
abbrev mi_J2_add_2 : MI := (cJ2_add_2, 4, RJ2, none, [], 5, 147, "add")
def f_J2_add_2_B11 (x0 : Option Nat) (x1 : Option Nat) (x2 : Option Nat) (x3 : Int32) (h : PH) : Option (Unit × PH) := sQ h x2 4 x3 x1 fun h4 => pV h4 x0 19 2 (.int (x3 + (1 : Int32))) fun h5 => some ((), h5)
theorem pf_J2_add_2_B11 {Γ : GX} {D : va_G} {h0 : PH} {o : Unit × PH} (x0 : Option Nat) (x1 : Option Nat) (x2 : Option Nat) (x3 : Int32) (h : PH) (hf : f_J2_add_2_B11 x0 x1 x2 x3 h = some o) : PF Γ mi_J2_add_2 D h0 (QR Γ D h0 (ovv o.1) o.2) h 11 [some (va_rf x0), some (va_rf x1), some (va_rf x2), some (.int x3)] [] := by
  refine j_aload_n 2 dJ2_add_2_11 rfl rfl ?_
  refine j_iload_n 3 dJ2_add_2_12 rfl rfl ?_
  refine j_aload_n 1 dJ2_add_2_13 rfl rfl ?_
  refine j_aast (t := 4) rfl dJ2_add_2_14 hf (fun h4 hf => ?_)
  refine j_aload_n 0 dJ2_add_2_15 rfl rfl ?_
  refine j_iload_n 3 dJ2_add_2_16 rfl rfl ?_
  refine j_iconst (1 : Int32) dJ2_add_2_17 (by decide) ?_
  refine j_iadd dJ2_add_2_18 ?_
  refine j_pV (ci := 19) (k := 2) tyJ2 tyJ2_ok nmJ2 rfl in_J2 rfl q506 (Or.inl rfl) rfl (fit_i _) dJ2_add_2_19 hf (fun h5 hf => ?_)
  have e9 := Option.some.inj hf
  subst e9
  exact j_vret rfl dJ2_add_2_22
def f_J2_add_2 (r0 : Option Nat) (p0 : Option Nat) (p1 : Option Nat) (p2 : Int32) (h0 : PH) : Option (Unit × PH) := aN h0 p1 4 fun v1 => (if p2 = v1 then (rv_ h0 r0 19 (cl_ (f_J2_grow r0 h0) fun r3 h2 => f_J2_add_2_B11 r0 p0 r3 p2 h2)) else (f_J2_add_2_B11 r0 p0 p1 p2 h0))
theorem hyS_J2_add_2 : yJ2_add_2.cls ≠ "java/lang/invoke/MethodHandle" ∧ yJ2_add_2.cls ≠ "java/lang/invoke/VarHandle" ∧ (parseMethodDescriptor yJ2_add_2.desc).map (fun d => d.parameters.length) = some 3 := by decide +kernel
theorem hyV_J2_add_2 : yJ2_add_2.cls = RJ2 ∧ yJ2_add_2.cls ≠ "java/lang/invoke/MethodHandle" ∧ yJ2_add_2.cls ≠ "java/lang/invoke/VarHandle" ∧ (parseMethodDescriptor yJ2_add_2.desc).map (fun d => d.parameters.length) = some 3 := by decide +kernel
theorem c_J2_add_2 {D : va_G} (r0 : Option Nat) (p0 : Option Nat) (p1 : Option Nat) (p2 : Int32) {h0 : PH} (l : Launch) (hl : l.stackTraces = false) (x : Unit) (h1 : PH) (hf : f_J2_add_2 r0 p0 p1 p2 h0 = some (x, h1)) : CT l D yJ2_add_2 (ws_ yJ2_add_2 cJ2_add_2 4 none) 5 147 [va_rf r0, va_rf p0, va_rf p1, .int p2] h0 (ovv x) h1 := by
  refine ct_of hl [some (va_rf r0), some (va_rf p0), some (va_rf p1), some (.int p2)] (by decide) (by rw [lgl]; simp [va_rf_cat, cat_i, cat_l]) (by simp [lv_args, vsL, va_rf_cat, cat_i, cat_l]) (fun Γ => ?_)
  obtain ⟨o, ho⟩ : ∃ o : Unit × PH, o = (x, h1) := ⟨_, rfl⟩
  rw [← ho] at hf
  have e1 : x = o.1 := by rw [ho]
  have e2 : h1 = o.2 := by rw [ho]
  subst e1 e2
  clear ho
  show PF Γ mi_J2_add_2 D h0 (QR Γ D h0 (ovv o.1) o.2) h0 0 [some (va_rf r0), some (va_rf p0), some (va_rf p1), some (.int p2)] []
  unfold f_J2_add_2 at hf
  refine j_iload_n 3 dJ2_add_2_0 rfl rfl ?_
  refine j_aload_n 2 dJ2_add_2_1 rfl rfl ?_
  refine j_alen (t := 4) rfl dJ2_add_2_2 hf (fun v1 hf => ?_)
  refine j_icmp_ne 11 dJ2_add_2_3 (by decide) hf (fun c_ hf => ?_) (fun c_ hf => ?_)
  · exact pf_J2_add_2_B11 r0 p0 p1 p2 h0 hf
  · refine j_aload_n 0 dJ2_add_2_6 rfl rfl ?_
    refine kc_J2_129 rfl rfl rfl (by decide) dJ2_add_2_7 hf (fun r3 h2 hf => ?_)
    refine j_astore_n 2 [some (va_rf r0), some (va_rf p0), some (va_rf r3), some (.int p2)] dJ2_add_2_10 rfl (cz (va_rf_cat _)) rfl rfl ?_
    exact pf_J2_add_2_B11 r0 p0 r3 p2 h2 hf
theorem kc_J2_131 {Γ : GX} {I : MI} {D : va_G} {h0 : PH} {Q : State → Prop} {h : PH} {pc : Nat} {vs : List (Option Value)} {rest : List Value} {β : Type} {o : β} {r : Option Nat} {p0 : Option Nat} {p1 : Option Nat} {p2 : Int32} {K : ((Unit) → PH → Option β)} (hI : I.2.2.1 = RJ2) (hfr : Nat.ble 6 I.2.2.2.2.2.1 = true) (hlo : Nat.ble 170 I.2.2.2.2.2.2.1 = true) (hW : (rest.map fun v => v.category).sum ≤ 8) (hd : decode I.1 pc = .ok (.invokevirtual 131, 3)) (hf : rv_ h r 19 (cl_ (f_J2_add_2 r p0 p1 p2 h) K) = some o) (kk : ∀ (x : Unit) (h1 : PH), K x h1 = some o → PF Γ I D h0 Q h1 (pc + 3) vs (rest)) : PF Γ I D h0 Q h pc vs (.int p2 :: va_rf p1 :: va_rf p0 :: va_rf r :: rest) := by
  obtain ⟨cc, nL, own, rt, xt, fr, lo, nm⟩ := I
  cases hI
  exact j_cVv (n := 3) (y := yJ2_add_2) (cc2 := cJ2_add_2) (As := [va_rf p0, va_rf p1, .int p2]) (C := RJ2) (ci := 19) rfl (lw_V q577 q579 qs1 q96 q580) hyV_J2_add_2 hfr hlo rfl hW hd (c_J2_add_2 r p0 p1 p2) hf _ rfl kk
abbrev mi_J2_add : MI := (cJ2_add, 2, RJ2, (Option.some FieldType.boolean), [], 6, 170, "add")
def f_J2_add (r0 : Option Nat) (p0 : Option Nat) (h0 : PH) : Option (Int32 × PH) := gIN h0 r0 19 0 fun v1 => pV h0 r0 19 0 (.int (v1 + (1 : Int32))) fun h2 => gR h2 r0 19 1 fun r3 => gI h2 r0 19 2 fun v4 => rv_ h2 r0 19 (cl_ (f_J2_add_2 r0 p0 r3 v4 h2) fun _u h5 => rN .boolean (1 : Int32) (fun v => v) h5)
theorem hyS_J2_add : yJ2_add.cls ≠ "java/lang/invoke/MethodHandle" ∧ yJ2_add.cls ≠ "java/lang/invoke/VarHandle" ∧ (parseMethodDescriptor yJ2_add.desc).map (fun d => d.parameters.length) = some 1 := by decide +kernel
theorem hyV_J2_add : yJ2_add.cls = RJ2 ∧ yJ2_add.cls ≠ "java/lang/invoke/MethodHandle" ∧ yJ2_add.cls ≠ "java/lang/invoke/VarHandle" ∧ (parseMethodDescriptor yJ2_add.desc).map (fun d => d.parameters.length) = some 1 := by decide +kernel
theorem c_J2_add {D : va_G} (r0 : Option Nat) (p0 : Option Nat) {h0 : PH} (l : Launch) (hl : l.stackTraces = false) (x : Int32) (h1 : PH) (hf : f_J2_add r0 p0 h0 = some (x, h1)) : CT l D yJ2_add (ws_ yJ2_add cJ2_add 2 (Option.some FieldType.boolean)) 6 170 [va_rf r0, va_rf p0] h0 (ovi x) h1 := by
  refine ct_of hl [some (va_rf r0), some (va_rf p0)] (by decide) (by rw [lgl]; simp [va_rf_cat, cat_i, cat_l]) (by simp [lv_args, vsL, va_rf_cat, cat_i, cat_l]) (fun Γ => ?_)
  obtain ⟨o, ho⟩ : ∃ o : Int32 × PH, o = (x, h1) := ⟨_, rfl⟩
  rw [← ho] at hf
  have e1 : x = o.1 := by rw [ho]
  have e2 : h1 = o.2 := by rw [ho]
  subst e1 e2
  clear ho
  show PF Γ mi_J2_add D h0 (QR Γ D h0 (ovi o.1) o.2) h0 0 [some (va_rf r0), some (va_rf p0)] []
  unfold f_J2_add at hf
  refine j_aload_n 0 dJ2_add_0 rfl rfl ?_
  refine j_dup dJ2_add_1 (va_rf_cat _) ?_
  refine j_gIM (ci := 19) (k := 0) rfl in_J2 rfl q508 rfl q509 dJ2_add_2 hf (fun v1 hf => ?_)
  refine j_iconst (1 : Int32) dJ2_add_5 (by decide) ?_
  refine j_iadd dJ2_add_6 ?_
  refine j_pVM (ci := 19) (k := 0) tyJ2 tyJ2_ok nmJ2 rfl in_J2 rfl q508 rfl q509 rfl dJ2_add_7 hf (fun h2 hf => ?_)
  refine j_aload_n 0 dJ2_add_10 rfl rfl ?_
  refine j_aload_n 1 dJ2_add_11 rfl rfl ?_
  refine j_aload_n 0 dJ2_add_12 rfl rfl ?_
  refine j_gR (ci := 19) (k := 1) rfl in_J2 rfl q505 dJ2_add_13 hf (fun r3 hf => ?_)
  refine j_aload_n 0 dJ2_add_16 rfl rfl ?_
  refine j_gI (ci := 19) (k := 2) rfl in_J2 rfl q506 dJ2_add_17 hf (fun v4 hf => ?_)
  refine kc_J2_131 rfl rfl rfl (by decide) dJ2_add_20 hf (fun _u h5 hf => ?_)
  refine j_iconst (1 : Int32) dJ2_add_23 (by decide) ?_
  obtain ⟨hn9, hf⟩ := rN_in hf
  subst hf
  exact j_zret rfl (nar_z _ hn9) dJ2_add_24
