/-! printed by gen.py: X7_read X7_stored X7_storageToken X7_serverExpiryTime X7_isLeading X7_leadersNow X7_token X7_nodeExpiryTime X7_margin X7_leaseLeft X7_overtakingPairs X7_staleCaches X7_logTime X7_word X7_nodeClock X7_passes X7_handles -/
set_option maxRecDepth 100000
abbrev mi_X7_read : MI := (cX7_read, 4, RX7, (Option.some FieldType.int), [], 4, 85, "read")
def f_X7_read_B28  (h : PH) : Option (Int32 × PH) := some ((0 : Int32), h)
theorem pf_X7_read_B28 {Γ : GX} {D : va_G} {h0 : PH} {o : Int32 × PH}  (h : PH) (hf : f_X7_read_B28  h = some o) : PF Γ mi_X7_read D h0 (QR Γ D h0 (ovi o.1) o.2) h 28 [none, none, none, none] [] := by
  refine j_iconst (0 : Int32) dX7_read_28 (by decide) ?_
  have e9 := Option.some.inj hf
  subst e9
  exact j_iret rfl dX7_read_29
def f_X7_read_B107 (x3 : Int32) (h : PH) : Option (Int32 × PH) := some (x3, h)
theorem pf_X7_read_B107 {Γ : GX} {D : va_G} {h0 : PH} {o : Int32 × PH} (x3 : Int32) (h : PH) (hf : f_X7_read_B107 x3 h = some o) : PF Γ mi_X7_read D h0 (QR Γ D h0 (ovi o.1) o.2) h 107 [none, none, none, some (.int x3)] [] := by
  refine j_iload_n 3 dX7_read_107 rfl rfl ?_
  have e9 := Option.some.inj hf
  subst e9
  exact j_iret rfl dX7_read_108
def f_X7_read_B21 (x0 : Option Nat) (x1 : Int32) (x2 : Int32) (t0 : Option Nat) (t1 : Int32) (h : PH) : Option (Int32 × PH) := rv_ h t0 6 (cl_ (f_X7_throwsIf t0 t1 (2 : Int32) h) fun v6 h5 => (if v6 = 0 then (rv_ h5 x0 6 (cl_ (f_X7_refusalOfLeader x0 x1 h5) fun v8 h7 => (if v8 = 0 then (rv_ h7 x0 6 (cl_ (f_X7_of x0 x1 (11 : Int32) h7) fun v10 h9 => (if ((v10 >>> (x2 &&& 31)) &&& (1 : Int32)) = 0 then (some ((-4 : Int32), h9)) else (rv_ h9 x0 6 (cl_ (f_X7_of x0 x1 ((12 : Int32) + x2) h9) fun v12 h11 => gR h11 x0 6 0 fun r13 => aI h11 r13 0 (18 : Int32) fun v14 => sI h11 r13 0 (18 : Int32) (v14 + (1 : Int32)) fun h15 => gR h15 x0 6 0 fun r16 => aI h15 r16 0 ((160 : Int32) + x2) fun v17 => (if v12 = v17 then (f_X7_read_B107 v12 h15) else (gR h15 x0 6 0 fun r18 => aI h15 r18 0 (19 : Int32) fun v19 => sI h15 r18 0 (19 : Int32) (v19 + (1 : Int32)) fun h20 => f_X7_read_B107 v12 h20))))))) else (rv_ h7 x0 6 (cl_ (f_X7_refusalOfLeader x0 x1 h7) fun v22 h21 => some (v22, h21)))))) else (f_X7_read_B28 h5)))
theorem pf_X7_read_B21 {Γ : GX} {D : va_G} {h0 : PH} {o : Int32 × PH} (x0 : Option Nat) (x1 : Int32) (x2 : Int32) (t0 : Option Nat) (t1 : Int32) (h : PH) (hf : f_X7_read_B21 x0 x1 x2 t0 t1 h = some o) : PF Γ mi_X7_read D h0 (QR Γ D h0 (ovi o.1) o.2) h 21 [some (va_rf x0), some (.int x1), some (.int x2), none] [.int t1, va_rf t0] := by
  refine j_iconst (2 : Int32) dX7_read_21 (by decide) ?_
  refine kc_X7_72 rfl rfl rfl (by decide) dX7_read_22 hf (fun v6 h5 hf => ?_)
  refine j_if_eq 30 dX7_read_25 (by decide) hf (fun c_ hf => ?_) (fun c_ hf => ?_)
  · refine j_aload_n 0 dX7_read_30 rfl rfl ?_
    refine j_iload_n 1 dX7_read_31 rfl rfl ?_
    refine kc_X7_298 rfl rfl rfl (by decide) dX7_read_32 hf (fun v8 h7 hf => ?_)
    refine j_if_eq 44 dX7_read_35 (by decide) hf (fun c_ hf => ?_) (fun c_ hf => ?_)
    · refine j_aload_n 0 dX7_read_44 rfl rfl ?_
      refine j_iload_n 1 dX7_read_45 rfl rfl ?_
      refine j_bipush (11 : Int32) dX7_read_46 (by decide) ?_
      refine kc_X7_152 rfl rfl rfl (by decide) dX7_read_48 hf (fun v10 h9 hf => ?_)
      refine j_iload_n 2 dX7_read_51 rfl rfl ?_
      refine j_ishr dX7_read_52 ?_
      refine j_iconst (1 : Int32) dX7_read_53 (by decide) ?_
      refine j_iand dX7_read_54 ?_
      refine j_if_ne 61 dX7_read_55 (by decide) hf (fun c_ hf => ?_) (fun c_ hf => ?_)
      · refine j_aload_n 0 dX7_read_61 rfl rfl ?_
        refine j_iload_n 1 dX7_read_62 rfl rfl ?_
        refine j_bipush (12 : Int32) dX7_read_63 (by decide) ?_
        refine j_iload_n 2 dX7_read_65 rfl rfl ?_
        refine j_iadd dX7_read_66 ?_
        refine kc_X7_152 rfl rfl rfl (by decide) dX7_read_67 hf (fun v12 h11 hf => ?_)
        refine j_istore_n 3 [some (va_rf x0), some (.int x1), some (.int x2), some (.int v12)] dX7_read_70 rfl (cz rfl) rfl rfl ?_
        refine j_aload_n 0 dX7_read_71 rfl rfl ?_
        refine j_gR (ci := 6) (k := 0) rfl in_X7 rfl q2202 dX7_read_72 hf (fun r13 hf => ?_)
        refine j_bipush (18 : Int32) dX7_read_75 (by decide) ?_
        refine j_dup2 dX7_read_77 rfl (va_rf_cat _) ?_
        refine j_iald dX7_read_78 hf (fun v14 hf => ?_)
        refine j_iconst (1 : Int32) dX7_read_79 (by decide) ?_
        refine j_iadd dX7_read_80 ?_
        refine j_iast dX7_read_81 hf (fun h15 hf => ?_)
        refine j_iload_n 3 dX7_read_82 rfl rfl ?_
        refine j_aload_n 0 dX7_read_83 rfl rfl ?_
        refine j_gR (ci := 6) (k := 0) rfl in_X7 rfl q2202 dX7_read_84 hf (fun r16 hf => ?_)
        refine j_sipush (160 : Int32) dX7_read_87 (by decide) ?_
        refine j_iload_n 2 dX7_read_90 rfl rfl ?_
        refine j_iadd dX7_read_91 ?_
        refine j_iald dX7_read_92 hf (fun v17 hf => ?_)
        refine j_icmp_eq 107 dX7_read_93 (by decide) hf (fun c_ hf => ?_) (fun c_ hf => ?_)
        · refine j_weak [none, none, none, some (.int v12)] (Wk.s (Wk.s (Wk.s (Wk.k Wk.n)))) ?_
          exact pf_X7_read_B107 v12 h15 hf
        · refine j_aload_n 0 dX7_read_96 rfl rfl ?_
          refine j_gR (ci := 6) (k := 0) rfl in_X7 rfl q2202 dX7_read_97 hf (fun r18 hf => ?_)
          refine j_bipush (19 : Int32) dX7_read_100 (by decide) ?_
          refine j_dup2 dX7_read_102 rfl (va_rf_cat _) ?_
          refine j_iald dX7_read_103 hf (fun v19 hf => ?_)
          refine j_iconst (1 : Int32) dX7_read_104 (by decide) ?_
          refine j_iadd dX7_read_105 ?_
          refine j_iast dX7_read_106 hf (fun h20 hf => ?_)
          refine j_weak [none, none, none, some (.int v12)] (Wk.s (Wk.s (Wk.s (Wk.k Wk.n)))) ?_
          exact pf_X7_read_B107 v12 h20 hf
      · refine j_bipush (-4 : Int32) dX7_read_58 (by decide) ?_
        have e9 := Option.some.inj hf
        subst e9
        exact j_iret rfl dX7_read_60
    · refine j_aload_n 0 dX7_read_38 rfl rfl ?_
      refine j_iload_n 1 dX7_read_39 rfl rfl ?_
      refine kc_X7_298 rfl rfl rfl (by decide) dX7_read_40 hf (fun v22 h21 hf => ?_)
      have e9 := Option.some.inj hf
      subst e9
      exact j_iret rfl dX7_read_43
  · refine j_weak [none, none, none, none] (Wk.s (Wk.s (Wk.s (Wk.k Wk.n)))) ?_
    exact pf_X7_read_B28  h5 hf
def f_X7_read (r0 : Option Nat) (p0 : Int32) (p1 : Int32) (h0 : PH) : Option (Int32 × PH) := rv_ h0 r0 6 (cl_ (f_X7_noNode r0 p0 h0) fun v2 h1 => (if v2 = 0 then (cl_ (f_X7_isRegister p1 h1) fun v4 h3 => (if v4 = 0 then (f_X7_read_B21 r0 p0 p1 r0 (1 : Int32) h3) else (f_X7_read_B21 r0 p0 p1 r0 (0 : Int32) h3))) else (f_X7_read_B28 h1)))
theorem hyS_X7_read : yX7_read.cls ≠ "java/lang/invoke/MethodHandle" ∧ yX7_read.cls ≠ "java/lang/invoke/VarHandle" ∧ (parseMethodDescriptor yX7_read.desc).map (fun d => d.parameters.length) = some 2 := by decide +kernel
theorem hyV_X7_read : yX7_read.cls = RX7 ∧ yX7_read.cls ≠ "java/lang/invoke/MethodHandle" ∧ yX7_read.cls ≠ "java/lang/invoke/VarHandle" ∧ (parseMethodDescriptor yX7_read.desc).map (fun d => d.parameters.length) = some 2 := by decide +kernel
theorem c_X7_read {D : va_G} (r0 : Option Nat) (p0 : Int32) (p1 : Int32) {h0 : PH} (l : Launch) (hl : l.stackTraces = false) (x : Int32) (h1 : PH) (hf : f_X7_read r0 p0 p1 h0 = some (x, h1)) : CT l D yX7_read (ws_ yX7_read cX7_read 4 (Option.some FieldType.int)) 4 85 [va_rf r0, .int p0, .int p1] h0 (ovi x) h1 := by
  refine ct_of hl [some (va_rf r0), some (.int p0), some (.int p1), none] (by decide) (by rw [lgl]; simp [va_rf_cat, cat_i, cat_l]) (by simp [lv_args, vsL, va_rf_cat, cat_i, cat_l]) (fun Γ => ?_)
  obtain ⟨o, ho⟩ : ∃ o : Int32 × PH, o = (x, h1) := ⟨_, rfl⟩
  rw [← ho] at hf
  have e1 : x = o.1 := by rw [ho]
  have e2 : h1 = o.2 := by rw [ho]
  subst e1 e2
  clear ho
  show PF Γ mi_X7_read D h0 (QR Γ D h0 (ovi o.1) o.2) h0 0 [some (va_rf r0), some (.int p0), some (.int p1), none] []
  unfold f_X7_read at hf
  refine j_aload_n 0 dX7_read_0 rfl rfl ?_
  refine j_iload_n 1 dX7_read_1 rfl rfl ?_
  refine kc_X7_172 rfl rfl rfl (by decide) dX7_read_2 hf (fun v2 h1 hf => ?_)
  refine j_if_ne 28 dX7_read_5 (by decide) hf (fun c_ hf => ?_) (fun c_ hf => ?_)
  · refine j_weak [none, none, none, none] (Wk.s (Wk.s (Wk.s (Wk.k Wk.n)))) ?_
    exact pf_X7_read_B28  h1 hf
  · refine j_aload_n 0 dX7_read_8 rfl rfl ?_
    refine j_iload_n 2 dX7_read_9 rfl rfl ?_
    refine kc_X7_292 rfl rfl rfl (by simp [va_rf_cat, cat_i, cat_l]) dX7_read_10 hf (fun v4 h3 hf => ?_)
    refine j_if_ne 20 dX7_read_13 (by decide) hf (fun c_ hf => ?_) (fun c_ hf => ?_)
    · refine j_iconst (0 : Int32) dX7_read_20 (by decide) ?_
      exact pf_X7_read_B21 r0 p0 p1 r0 (0 : Int32) h3 hf
    · refine j_iconst (1 : Int32) dX7_read_16 (by decide) ?_
      refine j_goto 21 dX7_read_17 (by decide) ?_
      exact pf_X7_read_B21 r0 p0 p1 r0 (1 : Int32) h3 hf
abbrev mi_X7_stored : MI := (cX7_stored, 2, RX7, (Option.some FieldType.int), [], 3, 67, "stored")
def f_X7_stored (r0 : Option Nat) (p0 : Int32) (h0 : PH) : Option (Int32 × PH) := rv_ h0 r0 6 (cl_ (f_X7_registerCell r0 p0 (160 : Int32) h0) fun v2 h1 => some (v2, h1))
theorem hyS_X7_stored : yX7_stored.cls ≠ "java/lang/invoke/MethodHandle" ∧ yX7_stored.cls ≠ "java/lang/invoke/VarHandle" ∧ (parseMethodDescriptor yX7_stored.desc).map (fun d => d.parameters.length) = some 1 := by decide +kernel
theorem hyV_X7_stored : yX7_stored.cls = RX7 ∧ yX7_stored.cls ≠ "java/lang/invoke/MethodHandle" ∧ yX7_stored.cls ≠ "java/lang/invoke/VarHandle" ∧ (parseMethodDescriptor yX7_stored.desc).map (fun d => d.parameters.length) = some 1 := by decide +kernel
theorem c_X7_stored {D : va_G} (r0 : Option Nat) (p0 : Int32) {h0 : PH} (l : Launch) (hl : l.stackTraces = false) (x : Int32) (h1 : PH) (hf : f_X7_stored r0 p0 h0 = some (x, h1)) : CT l D yX7_stored (ws_ yX7_stored cX7_stored 2 (Option.some FieldType.int)) 3 67 [va_rf r0, .int p0] h0 (ovi x) h1 := by
  refine ct_of hl [some (va_rf r0), some (.int p0)] (by decide) (by rw [lgl]; simp [va_rf_cat, cat_i, cat_l]) (by simp [lv_args, vsL, va_rf_cat, cat_i, cat_l]) (fun Γ => ?_)
  obtain ⟨o, ho⟩ : ∃ o : Int32 × PH, o = (x, h1) := ⟨_, rfl⟩
  rw [← ho] at hf
  have e1 : x = o.1 := by rw [ho]
  have e2 : h1 = o.2 := by rw [ho]
  subst e1 e2
  clear ho
  show PF Γ mi_X7_stored D h0 (QR Γ D h0 (ovi o.1) o.2) h0 0 [some (va_rf r0), some (.int p0)] []
  unfold f_X7_stored at hf
  refine j_aload_n 0 dX7_stored_0 rfl rfl ?_
  refine j_iload_n 1 dX7_stored_1 rfl rfl ?_
  refine j_sipush (160 : Int32) dX7_stored_2 (by decide) ?_
  refine kc_X7_301 rfl rfl rfl (by decide) dX7_stored_5 hf (fun v2 h1 hf => ?_)
  have e9 := Option.some.inj hf
  subst e9
  exact j_iret rfl dX7_stored_8
abbrev mi_X7_storageToken : MI := (cX7_storageToken, 1, RX7, (Option.some FieldType.int), [], 1, 21, "storageToken")
def f_X7_storageToken (r0 : Option Nat) (h0 : PH) : Option (Int32 × PH) := rv_ h0 r0 6 (cl_ (f_X7_own r0 (14 : Int32) h0) fun v2 h1 => some (v2, h1))
theorem hyS_X7_storageToken : yX7_storageToken.cls ≠ "java/lang/invoke/MethodHandle" ∧ yX7_storageToken.cls ≠ "java/lang/invoke/VarHandle" ∧ (parseMethodDescriptor yX7_storageToken.desc).map (fun d => d.parameters.length) = some 0 := by decide +kernel
theorem hyV_X7_storageToken : yX7_storageToken.cls = RX7 ∧ yX7_storageToken.cls ≠ "java/lang/invoke/MethodHandle" ∧ yX7_storageToken.cls ≠ "java/lang/invoke/VarHandle" ∧ (parseMethodDescriptor yX7_storageToken.desc).map (fun d => d.parameters.length) = some 0 := by decide +kernel
theorem c_X7_storageToken {D : va_G} (r0 : Option Nat) {h0 : PH} (l : Launch) (hl : l.stackTraces = false) (x : Int32) (h1 : PH) (hf : f_X7_storageToken r0 h0 = some (x, h1)) : CT l D yX7_storageToken (ws_ yX7_storageToken cX7_storageToken 1 (Option.some FieldType.int)) 1 21 [va_rf r0] h0 (ovi x) h1 := by
  refine ct_of hl [some (va_rf r0)] (by decide) (by rw [lgl]; simp [va_rf_cat, cat_i, cat_l]) (by simp [lv_args, vsL, va_rf_cat, cat_i, cat_l]) (fun Γ => ?_)
  obtain ⟨o, ho⟩ : ∃ o : Int32 × PH, o = (x, h1) := ⟨_, rfl⟩
  rw [← ho] at hf
  have e1 : x = o.1 := by rw [ho]
  have e2 : h1 = o.2 := by rw [ho]
  subst e1 e2
  clear ho
  show PF Γ mi_X7_storageToken D h0 (QR Γ D h0 (ovi o.1) o.2) h0 0 [some (va_rf r0)] []
  unfold f_X7_storageToken at hf
  refine j_aload_n 0 dX7_storageToken_0 rfl rfl ?_
  refine j_bipush (14 : Int32) dX7_storageToken_1 (by decide) ?_
  refine kc_X7_304 rfl rfl rfl (by decide) dX7_storageToken_3 hf (fun v2 h1 hf => ?_)
  have e9 := Option.some.inj hf
  subst e9
  exact j_iret rfl dX7_storageToken_6
theorem kc_X7_307 {Γ : GX} {I : MI} {D : va_G} {h0 : PH} {Q : State → Prop} {h : PH} {pc : Nat} {vs : List (Option Value)} {rest : List Value} {β : Type} {o : β} {r : Option Nat}  {K : ((Int32) → PH → Option β)} (hI : I.2.2.1 = RX7) (hfr : Nat.ble 2 I.2.2.2.2.2.1 = true) (hlo : Nat.ble 44 I.2.2.2.2.2.2.1 = true) (hW : (rest.map fun v => v.category).sum ≤ 8) (hd : decode I.1 pc = .ok (.invokevirtual 307, 3)) (hf : rv_ h r 6 (cl_ (f_X7_serverEnd r h) K) = some o) (kk : ∀ (x : Int32) (h1 : PH), K x h1 = some o → PF Γ I D h0 Q h1 (pc + 3) vs (.int x :: rest)) : PF Γ I D h0 Q h pc vs (va_rf r :: rest) := by
  obtain ⟨cc, nL, own, rt, xt, fr, lo, nm⟩ := I
  cases hI
  exact j_cVi (n := 0) (y := yX7_serverEnd) (cc2 := cX7_serverEnd) (As := []) (C := RX7) (ci := 6) rfl (lw_V q2597 q2599 qs81 q117 q2600) hyV_X7_serverEnd hfr hlo rfl hW hd (c_X7_serverEnd r) hf _ rfl kk
abbrev mi_X7_serverExpiryTime : MI := (cX7_serverExpiryTime, 1, RX7, (Option.some FieldType.int), [], 2, 44, "serverExpiryTime")
def f_X7_serverExpiryTime (r0 : Option Nat) (h0 : PH) : Option (Int32 × PH) := pV h0 r0 6 1 (.int (0 : Int32)) fun h1 => rv_ h1 r0 6 (cl_ (f_X7_serverEnd r0 h1) fun v3 h2 => some (v3, h2))
theorem hyS_X7_serverExpiryTime : yX7_serverExpiryTime.cls ≠ "java/lang/invoke/MethodHandle" ∧ yX7_serverExpiryTime.cls ≠ "java/lang/invoke/VarHandle" ∧ (parseMethodDescriptor yX7_serverExpiryTime.desc).map (fun d => d.parameters.length) = some 0 := by decide +kernel
theorem hyV_X7_serverExpiryTime : yX7_serverExpiryTime.cls = RX7 ∧ yX7_serverExpiryTime.cls ≠ "java/lang/invoke/MethodHandle" ∧ yX7_serverExpiryTime.cls ≠ "java/lang/invoke/VarHandle" ∧ (parseMethodDescriptor yX7_serverExpiryTime.desc).map (fun d => d.parameters.length) = some 0 := by decide +kernel
theorem c_X7_serverExpiryTime {D : va_G} (r0 : Option Nat) {h0 : PH} (l : Launch) (hl : l.stackTraces = false) (x : Int32) (h1 : PH) (hf : f_X7_serverExpiryTime r0 h0 = some (x, h1)) : CT l D yX7_serverExpiryTime (ws_ yX7_serverExpiryTime cX7_serverExpiryTime 1 (Option.some FieldType.int)) 2 44 [va_rf r0] h0 (ovi x) h1 := by
  refine ct_of hl [some (va_rf r0)] (by decide) (by rw [lgl]; simp [va_rf_cat, cat_i, cat_l]) (by simp [lv_args, vsL, va_rf_cat, cat_i, cat_l]) (fun Γ => ?_)
  obtain ⟨o, ho⟩ : ∃ o : Int32 × PH, o = (x, h1) := ⟨_, rfl⟩
  rw [← ho] at hf
  have e1 : x = o.1 := by rw [ho]
  have e2 : h1 = o.2 := by rw [ho]
  subst e1 e2
  clear ho
  show PF Γ mi_X7_serverExpiryTime D h0 (QR Γ D h0 (ovi o.1) o.2) h0 0 [some (va_rf r0)] []
  unfold f_X7_serverExpiryTime at hf
  refine j_aload_n 0 dX7_serverExpiryTime_0 rfl rfl ?_
  refine j_iconst (0 : Int32) dX7_serverExpiryTime_1 (by decide) ?_
  refine j_pV (ci := 6) (k := 1) tyX7 tyX7_ok nmX7 rfl in_X7 rfl q2203 (Or.inl rfl) rfl (fit_i _) dX7_serverExpiryTime_2 hf (fun h1 hf => ?_)
  refine j_aload_n 0 dX7_serverExpiryTime_5 rfl rfl ?_
  refine kc_X7_307 rfl rfl rfl (by decide) dX7_serverExpiryTime_6 hf (fun v3 h2 hf => ?_)
  have e9 := Option.some.inj hf
  subst e9
  exact j_iret rfl dX7_serverExpiryTime_9
abbrev mi_X7_isLeading : MI := (cX7_isLeading, 2, RX7, (Option.some FieldType.boolean), [], 3, 64, "isLeading")
def f_X7_isLeading_B21 (t0 : Int32) (h : PH) : Option (Int32 × PH) := rN .boolean t0 (fun v => v) h
theorem pf_X7_isLeading_B21 {Γ : GX} {D : va_G} {h0 : PH} {o : Int32 × PH} (t0 : Int32) (h : PH) (hf : f_X7_isLeading_B21 t0 h = some o) : PF Γ mi_X7_isLeading D h0 (QR Γ D h0 (ovi o.1) o.2) h 21 [none, none] [.int t0] := by
  obtain ⟨hn9, hf⟩ := rN_in hf
  subst hf
  exact j_zret rfl (nar_z _ hn9) dX7_isLeading_21
def f_X7_isLeading_B20  (h : PH) : Option (Int32 × PH) := f_X7_isLeading_B21 (0 : Int32) h
theorem pf_X7_isLeading_B20 {Γ : GX} {D : va_G} {h0 : PH} {o : Int32 × PH}  (h : PH) (hf : f_X7_isLeading_B20  h = some o) : PF Γ mi_X7_isLeading D h0 (QR Γ D h0 (ovi o.1) o.2) h 20 [none, none] [] := by
  refine j_iconst (0 : Int32) dX7_isLeading_20 (by decide) ?_
  exact pf_X7_isLeading_B21 (0 : Int32) h hf
def f_X7_isLeading (r0 : Option Nat) (p0 : Int32) (h0 : PH) : Option (Int32 × PH) := rv_ h0 r0 6 (cl_ (f_X7_noNode r0 p0 h0) fun v2 h1 => (if v2 = 0 then (rv_ h1 r0 6 (cl_ (f_X7_leads r0 p0 h1) fun v4 h3 => (if v4 = 0 then (f_X7_isLeading_B20 h3) else (f_X7_isLeading_B21 (1 : Int32) h3)))) else (f_X7_isLeading_B20 h1)))
theorem hyS_X7_isLeading : yX7_isLeading.cls ≠ "java/lang/invoke/MethodHandle" ∧ yX7_isLeading.cls ≠ "java/lang/invoke/VarHandle" ∧ (parseMethodDescriptor yX7_isLeading.desc).map (fun d => d.parameters.length) = some 1 := by decide +kernel
theorem hyV_X7_isLeading : yX7_isLeading.cls = RX7 ∧ yX7_isLeading.cls ≠ "java/lang/invoke/MethodHandle" ∧ yX7_isLeading.cls ≠ "java/lang/invoke/VarHandle" ∧ (parseMethodDescriptor yX7_isLeading.desc).map (fun d => d.parameters.length) = some 1 := by decide +kernel
theorem c_X7_isLeading {D : va_G} (r0 : Option Nat) (p0 : Int32) {h0 : PH} (l : Launch) (hl : l.stackTraces = false) (x : Int32) (h1 : PH) (hf : f_X7_isLeading r0 p0 h0 = some (x, h1)) : CT l D yX7_isLeading (ws_ yX7_isLeading cX7_isLeading 2 (Option.some FieldType.boolean)) 3 64 [va_rf r0, .int p0] h0 (ovi x) h1 := by
  refine ct_of hl [some (va_rf r0), some (.int p0)] (by decide) (by rw [lgl]; simp [va_rf_cat, cat_i, cat_l]) (by simp [lv_args, vsL, va_rf_cat, cat_i, cat_l]) (fun Γ => ?_)
  obtain ⟨o, ho⟩ : ∃ o : Int32 × PH, o = (x, h1) := ⟨_, rfl⟩
  rw [← ho] at hf
  have e1 : x = o.1 := by rw [ho]
  have e2 : h1 = o.2 := by rw [ho]
  subst e1 e2
  clear ho
  show PF Γ mi_X7_isLeading D h0 (QR Γ D h0 (ovi o.1) o.2) h0 0 [some (va_rf r0), some (.int p0)] []
  unfold f_X7_isLeading at hf
  refine j_aload_n 0 dX7_isLeading_0 rfl rfl ?_
  refine j_iload_n 1 dX7_isLeading_1 rfl rfl ?_
  refine kc_X7_172 rfl rfl rfl (by decide) dX7_isLeading_2 hf (fun v2 h1 hf => ?_)
  refine j_if_ne 20 dX7_isLeading_5 (by decide) hf (fun c_ hf => ?_) (fun c_ hf => ?_)
  · refine j_weak [none, none] (Wk.s (Wk.s Wk.n)) ?_
    exact pf_X7_isLeading_B20  h1 hf
  · refine j_aload_n 0 dX7_isLeading_8 rfl rfl ?_
    refine j_iload_n 1 dX7_isLeading_9 rfl rfl ?_
    refine kc_X7_253 rfl rfl rfl (by decide) dX7_isLeading_10 hf (fun v4 h3 hf => ?_)
    refine j_if_eq 20 dX7_isLeading_13 (by decide) hf (fun c_ hf => ?_) (fun c_ hf => ?_)
    · refine j_weak [none, none] (Wk.s (Wk.s Wk.n)) ?_
      exact pf_X7_isLeading_B20  h3 hf
    · refine j_iconst (1 : Int32) dX7_isLeading_16 (by decide) ?_
      refine j_goto 21 dX7_isLeading_17 (by decide) ?_
      refine j_weak [none, none] (Wk.s (Wk.s Wk.n)) ?_
      exact pf_X7_isLeading_B21 (1 : Int32) h3 hf
abbrev mi_X7_leadersNow : MI := (cX7_leadersNow, 3, RX7, (Option.some FieldType.int), [], 3, 64, "leadersNow")
def f_X7_leadersNow_B30 (k4 : Option Nat → Int32 → Int32 → PH → Option (Int32 × PH)) (x0 : Option Nat) (x2 : Int32) (t0 : Int32) (t1 : Int32) (h : PH) : Option (Int32 × PH) := k4 x0 (t0 ||| t1) (x2 + (1 : Int32)) h
theorem pf_X7_leadersNow_B30 {Γ : GX} {D : va_G} {h0 : PH} {o : Int32 × PH} (k4 : Option Nat → Int32 → Int32 → PH → Option (Int32 × PH)) (hk4 : ∀ (x0 : Option Nat) (x1 : Int32) (x2 : Int32) (h : PH), k4 x0 x1 x2 h = some o → PF Γ mi_X7_leadersNow D h0 (QR Γ D h0 (ovi o.1) o.2) h 4 [some (va_rf x0), some (.int x1), some (.int x2)] []) (x0 : Option Nat) (x2 : Int32) (t0 : Int32) (t1 : Int32) (h : PH) (hf : f_X7_leadersNow_B30 k4 x0 x2 t0 t1 h = some o) : PF Γ mi_X7_leadersNow D h0 (QR Γ D h0 (ovi o.1) o.2) h 30 [some (va_rf x0), none, some (.int x2)] [.int t1, .int t0] := by
  refine j_ior dX7_leadersNow_30 ?_
  refine j_istore_n 1 [some (va_rf x0), some (.int (t0 ||| t1)), some (.int x2)] dX7_leadersNow_31 rfl (cz (va_rf_cat _)) rfl rfl ?_
  refine j_iinc (x2 + (1 : Int32)) [some (va_rf x0), some (.int (t0 ||| t1)), some (.int (x2 + (1 : Int32)))] dX7_leadersNow_32 rfl rfl (cz rfl) rfl rfl ?_
  refine j_goto 4 dX7_leadersNow_35 (by decide) ?_
  exact hk4 x0 (t0 ||| t1) (x2 + (1 : Int32)) h hf
def f_X7_leadersNow_L4 : Nat → Option Nat → Int32 → Int32 → PH → Option (Int32 × PH)
  | 0, _, _, _, _ => none
  | n + 1, x0, x1, x2, h => gR h x0 6 0 fun r1 => aI h r1 0 (2 : Int32) fun v2 => (if v2 ≤ x2 then (some (x1, h)) else (rv_ h x0 6 (cl_ (f_X7_leads x0 x2 h) fun v4 h3 => (if v4 = 0 then (f_X7_leadersNow_B30 (f_X7_leadersNow_L4 n) x0 x2 x1 (0 : Int32) h3) else (f_X7_leadersNow_B30 (f_X7_leadersNow_L4 n) x0 x2 x1 ((1 : Int32) <<< (x2 &&& 31)) h3)))))
theorem pf_X7_leadersNow_L4 {Γ : GX} {D : va_G} {h0 : PH} {o : Int32 × PH} : ∀ (n : Nat) (x0 : Option Nat) (x1 : Int32) (x2 : Int32) (h : PH), f_X7_leadersNow_L4 n x0 x1 x2 h = some o → PF Γ mi_X7_leadersNow D h0 (QR Γ D h0 (ovi o.1) o.2) h 4 [some (va_rf x0), some (.int x1), some (.int x2)] [] := by
  intro n
  induction n with
  | zero => intro x0 x1 x2 h hf; cases hf
  | succ n ih =>
    intro x0 x1 x2 h hf
    refine j_iload_n 2 dX7_leadersNow_4 rfl rfl ?_
    refine j_aload_n 0 dX7_leadersNow_5 rfl rfl ?_
    refine j_gR (ci := 6) (k := 0) rfl in_X7 rfl q2202 dX7_leadersNow_6 hf (fun r1 hf => ?_)
    refine j_iconst (2 : Int32) dX7_leadersNow_9 (by decide) ?_
    refine j_iald dX7_leadersNow_10 hf (fun v2 hf => ?_)
    refine j_icmp_ge 38 dX7_leadersNow_11 (by decide) hf (fun c_ hf => ?_) (fun c_ hf => ?_)
    · refine j_iload_n 1 dX7_leadersNow_38 rfl rfl ?_
      have e9 := Option.some.inj hf
      subst e9
      exact j_iret rfl dX7_leadersNow_39
    · refine j_iload_n 1 dX7_leadersNow_14 rfl rfl ?_
      refine j_aload_n 0 dX7_leadersNow_15 rfl rfl ?_
      refine j_iload_n 2 dX7_leadersNow_16 rfl rfl ?_
      refine kc_X7_253 rfl rfl rfl (by simp [va_rf_cat, cat_i, cat_l]) dX7_leadersNow_17 hf (fun v4 h3 hf => ?_)
      refine j_if_eq 29 dX7_leadersNow_20 (by decide) hf (fun c_ hf => ?_) (fun c_ hf => ?_)
      · refine j_iconst (0 : Int32) dX7_leadersNow_29 (by decide) ?_
        refine j_weak [some (va_rf x0), none, some (.int x2)] (Wk.k (Wk.s (Wk.k Wk.n))) ?_
        exact pf_X7_leadersNow_B30 (f_X7_leadersNow_L4 n) ih x0 x2 x1 (0 : Int32) h3 hf
      · refine j_iconst (1 : Int32) dX7_leadersNow_23 (by decide) ?_
        refine j_iload_n 2 dX7_leadersNow_24 rfl rfl ?_
        refine j_ishl dX7_leadersNow_25 ?_
        refine j_goto 30 dX7_leadersNow_26 (by decide) ?_
        refine j_weak [some (va_rf x0), none, some (.int x2)] (Wk.k (Wk.s (Wk.k Wk.n))) ?_
        exact pf_X7_leadersNow_B30 (f_X7_leadersNow_L4 n) ih x0 x2 x1 ((1 : Int32) <<< (x2 &&& 31)) h3 hf
def f_X7_leadersNow (r0 : Option Nat) (h0 : PH) : Option (Int32 × PH) := f_X7_leadersNow_L4 FU r0 (0 : Int32) (0 : Int32) h0
theorem hyS_X7_leadersNow : yX7_leadersNow.cls ≠ "java/lang/invoke/MethodHandle" ∧ yX7_leadersNow.cls ≠ "java/lang/invoke/VarHandle" ∧ (parseMethodDescriptor yX7_leadersNow.desc).map (fun d => d.parameters.length) = some 0 := by decide +kernel
theorem hyV_X7_leadersNow : yX7_leadersNow.cls = RX7 ∧ yX7_leadersNow.cls ≠ "java/lang/invoke/MethodHandle" ∧ yX7_leadersNow.cls ≠ "java/lang/invoke/VarHandle" ∧ (parseMethodDescriptor yX7_leadersNow.desc).map (fun d => d.parameters.length) = some 0 := by decide +kernel
theorem c_X7_leadersNow {D : va_G} (r0 : Option Nat) {h0 : PH} (l : Launch) (hl : l.stackTraces = false) (x : Int32) (h1 : PH) (hf : f_X7_leadersNow r0 h0 = some (x, h1)) : CT l D yX7_leadersNow (ws_ yX7_leadersNow cX7_leadersNow 3 (Option.some FieldType.int)) 3 64 [va_rf r0] h0 (ovi x) h1 := by
  refine ct_of hl [some (va_rf r0), none, none] (by decide) (by rw [lgl]; simp [va_rf_cat, cat_i, cat_l]) (by simp [lv_args, vsL, va_rf_cat, cat_i, cat_l]) (fun Γ => ?_)
  obtain ⟨o, ho⟩ : ∃ o : Int32 × PH, o = (x, h1) := ⟨_, rfl⟩
  rw [← ho] at hf
  have e1 : x = o.1 := by rw [ho]
  have e2 : h1 = o.2 := by rw [ho]
  subst e1 e2
  clear ho
  show PF Γ mi_X7_leadersNow D h0 (QR Γ D h0 (ovi o.1) o.2) h0 0 [some (va_rf r0), none, none] []
  unfold f_X7_leadersNow at hf
  refine j_iconst (0 : Int32) dX7_leadersNow_0 (by decide) ?_
  refine j_istore_n 1 [some (va_rf r0), some (.int (0 : Int32)), none] dX7_leadersNow_1 rfl (cz (va_rf_cat _)) rfl rfl ?_
  refine j_iconst (0 : Int32) dX7_leadersNow_2 (by decide) ?_
  refine j_istore_n 2 [some (va_rf r0), some (.int (0 : Int32)), some (.int (0 : Int32))] dX7_leadersNow_3 rfl (cz rfl) rfl rfl ?_
  exact pf_X7_leadersNow_L4 FU r0 (0 : Int32) (0 : Int32) h0 hf
abbrev mi_X7_token : MI := (cX7_token, 2, RX7, (Option.some FieldType.int), [], 3, 68, "token")
def f_X7_token (r0 : Option Nat) (p0 : Int32) (h0 : PH) : Option (Int32 × PH) := rv_ h0 r0 6 (cl_ (f_X7_ofNode r0 p0 (7 : Int32) h0) fun v2 h1 => some (v2, h1))
theorem hyS_X7_token : yX7_token.cls ≠ "java/lang/invoke/MethodHandle" ∧ yX7_token.cls ≠ "java/lang/invoke/VarHandle" ∧ (parseMethodDescriptor yX7_token.desc).map (fun d => d.parameters.length) = some 1 := by decide +kernel
theorem hyV_X7_token : yX7_token.cls = RX7 ∧ yX7_token.cls ≠ "java/lang/invoke/MethodHandle" ∧ yX7_token.cls ≠ "java/lang/invoke/VarHandle" ∧ (parseMethodDescriptor yX7_token.desc).map (fun d => d.parameters.length) = some 1 := by decide +kernel
theorem c_X7_token {D : va_G} (r0 : Option Nat) (p0 : Int32) {h0 : PH} (l : Launch) (hl : l.stackTraces = false) (x : Int32) (h1 : PH) (hf : f_X7_token r0 p0 h0 = some (x, h1)) : CT l D yX7_token (ws_ yX7_token cX7_token 2 (Option.some FieldType.int)) 3 68 [va_rf r0, .int p0] h0 (ovi x) h1 := by
  refine ct_of hl [some (va_rf r0), some (.int p0)] (by decide) (by rw [lgl]; simp [va_rf_cat, cat_i, cat_l]) (by simp [lv_args, vsL, va_rf_cat, cat_i, cat_l]) (fun Γ => ?_)
  obtain ⟨o, ho⟩ : ∃ o : Int32 × PH, o = (x, h1) := ⟨_, rfl⟩
  rw [← ho] at hf
  have e1 : x = o.1 := by rw [ho]
  have e2 : h1 = o.2 := by rw [ho]
  subst e1 e2
  clear ho
  show PF Γ mi_X7_token D h0 (QR Γ D h0 (ovi o.1) o.2) h0 0 [some (va_rf r0), some (.int p0)] []
  unfold f_X7_token at hf
  refine j_aload_n 0 dX7_token_0 rfl rfl ?_
  refine j_iload_n 1 dX7_token_1 rfl rfl ?_
  refine j_bipush (7 : Int32) dX7_token_2 (by decide) ?_
  refine kc_X7_313 rfl rfl rfl (by decide) dX7_token_4 hf (fun v2 h1 hf => ?_)
  have e9 := Option.some.inj hf
  subst e9
  exact j_iret rfl dX7_token_7
theorem kc_X7_256 {Γ : GX} {I : MI} {D : va_G} {h0 : PH} {Q : State → Prop} {h : PH} {pc : Nat} {vs : List (Option Value)} {rest : List Value} {β : Type} {o : β} {r : Option Nat} {p0 : Int32} {K : ((Int32) → PH → Option β)} (hI : I.2.2.1 = RX7) (hfr : Nat.ble 2 I.2.2.2.2.2.1 = true) (hlo : Nat.ble 45 I.2.2.2.2.2.2.1 = true) (hW : (rest.map fun v => v.category).sum ≤ 8) (hd : decode I.1 pc = .ok (.invokevirtual 256, 3)) (hf : rv_ h r 6 (cl_ (f_X7_endOf r p0 h) K) = some o) (kk : ∀ (x : Int32) (h1 : PH), K x h1 = some o → PF Γ I D h0 Q h1 (pc + 3) vs (.int x :: rest)) : PF Γ I D h0 Q h pc vs (.int p0 :: va_rf r :: rest) := by
  obtain ⟨cc, nL, own, rt, xt, fr, lo, nm⟩ := I
  cases hI
  exact j_cVi (n := 1) (y := yX7_endOf) (cc2 := cX7_endOf) (As := [.int p0]) (C := RX7) (ci := 6) rfl (lw_V q2396 q2398 qs54 q117 q2399) hyV_X7_endOf hfr hlo rfl hW hd (c_X7_endOf r p0) hf _ rfl kk
abbrev mi_X7_nodeExpiryTime : MI := (cX7_nodeExpiryTime, 2, RX7, (Option.some FieldType.int), [], 2, 46, "nodeExpiryTime")
def f_X7_nodeExpiryTime_B30 (t0 : Int32) (h : PH) : Option (Int32 × PH) := some (t0, h)
theorem pf_X7_nodeExpiryTime_B30 {Γ : GX} {D : va_G} {h0 : PH} {o : Int32 × PH} (t0 : Int32) (h : PH) (hf : f_X7_nodeExpiryTime_B30 t0 h = some o) : PF Γ mi_X7_nodeExpiryTime D h0 (QR Γ D h0 (ovi o.1) o.2) h 30 [none, none] [.int t0] := by
  have e9 := Option.some.inj hf
  subst e9
  exact j_iret rfl dX7_nodeExpiryTime_30
def f_X7_nodeExpiryTime (r0 : Option Nat) (p0 : Int32) (h0 : PH) : Option (Int32 × PH) := rv_ h0 r0 6 (cl_ (f_X7_noNode r0 p0 h0) fun v2 h1 => (if v2 = 0 then (rv_ h1 r0 6 (cl_ (f_X7_of r0 p0 (7 : Int32) h1) fun v4 h3 => (if v4 = 0 then (f_X7_nodeExpiryTime_B30 (-4 : Int32) h3) else (rv_ h3 r0 6 (cl_ (f_X7_endOf r0 p0 h3) fun v6 h5 => f_X7_nodeExpiryTime_B30 v6 h5))))) else (some ((0 : Int32), h1))))
theorem hyS_X7_nodeExpiryTime : yX7_nodeExpiryTime.cls ≠ "java/lang/invoke/MethodHandle" ∧ yX7_nodeExpiryTime.cls ≠ "java/lang/invoke/VarHandle" ∧ (parseMethodDescriptor yX7_nodeExpiryTime.desc).map (fun d => d.parameters.length) = some 1 := by decide +kernel
theorem hyV_X7_nodeExpiryTime : yX7_nodeExpiryTime.cls = RX7 ∧ yX7_nodeExpiryTime.cls ≠ "java/lang/invoke/MethodHandle" ∧ yX7_nodeExpiryTime.cls ≠ "java/lang/invoke/VarHandle" ∧ (parseMethodDescriptor yX7_nodeExpiryTime.desc).map (fun d => d.parameters.length) = some 1 := by decide +kernel
theorem c_X7_nodeExpiryTime {D : va_G} (r0 : Option Nat) (p0 : Int32) {h0 : PH} (l : Launch) (hl : l.stackTraces = false) (x : Int32) (h1 : PH) (hf : f_X7_nodeExpiryTime r0 p0 h0 = some (x, h1)) : CT l D yX7_nodeExpiryTime (ws_ yX7_nodeExpiryTime cX7_nodeExpiryTime 2 (Option.some FieldType.int)) 2 46 [va_rf r0, .int p0] h0 (ovi x) h1 := by
  refine ct_of hl [some (va_rf r0), some (.int p0)] (by decide) (by rw [lgl]; simp [va_rf_cat, cat_i, cat_l]) (by simp [lv_args, vsL, va_rf_cat, cat_i, cat_l]) (fun Γ => ?_)
  obtain ⟨o, ho⟩ : ∃ o : Int32 × PH, o = (x, h1) := ⟨_, rfl⟩
  rw [← ho] at hf
  have e1 : x = o.1 := by rw [ho]
  have e2 : h1 = o.2 := by rw [ho]
  subst e1 e2
  clear ho
  show PF Γ mi_X7_nodeExpiryTime D h0 (QR Γ D h0 (ovi o.1) o.2) h0 0 [some (va_rf r0), some (.int p0)] []
  unfold f_X7_nodeExpiryTime at hf
  refine j_aload_n 0 dX7_nodeExpiryTime_0 rfl rfl ?_
  refine j_iload_n 1 dX7_nodeExpiryTime_1 rfl rfl ?_
  refine kc_X7_172 rfl rfl rfl (by decide) dX7_nodeExpiryTime_2 hf (fun v2 h1 hf => ?_)
  refine j_if_eq 10 dX7_nodeExpiryTime_5 (by decide) hf (fun c_ hf => ?_) (fun c_ hf => ?_)
  · refine j_aload_n 0 dX7_nodeExpiryTime_10 rfl rfl ?_
    refine j_iload_n 1 dX7_nodeExpiryTime_11 rfl rfl ?_
    refine j_bipush (7 : Int32) dX7_nodeExpiryTime_12 (by decide) ?_
    refine kc_X7_152 rfl rfl rfl (by decide) dX7_nodeExpiryTime_14 hf (fun v4 h3 hf => ?_)
    refine j_if_ne 25 dX7_nodeExpiryTime_17 (by decide) hf (fun c_ hf => ?_) (fun c_ hf => ?_)
    · refine j_aload_n 0 dX7_nodeExpiryTime_25 rfl rfl ?_
      refine j_iload_n 1 dX7_nodeExpiryTime_26 rfl rfl ?_
      refine kc_X7_256 rfl rfl rfl (by decide) dX7_nodeExpiryTime_27 hf (fun v6 h5 hf => ?_)
      refine j_weak [none, none] (Wk.s (Wk.s Wk.n)) ?_
      exact pf_X7_nodeExpiryTime_B30 v6 h5 hf
    · refine j_bipush (-4 : Int32) dX7_nodeExpiryTime_20 (by decide) ?_
      refine j_goto 30 dX7_nodeExpiryTime_22 (by decide) ?_
      refine j_weak [none, none] (Wk.s (Wk.s Wk.n)) ?_
      exact pf_X7_nodeExpiryTime_B30 (-4 : Int32) h3 hf
  · refine j_iconst (0 : Int32) dX7_nodeExpiryTime_8 (by decide) ?_
    have e9 := Option.some.inj hf
    subst e9
    exact j_iret rfl dX7_nodeExpiryTime_9
abbrev mi_X7_margin : MI := (cX7_margin, 2, RX7, (Option.some FieldType.int), [], 2, 46, "margin")
def f_X7_margin_B62 (t0 : Int32) (h : PH) : Option (Int32 × PH) := some (t0, h)
theorem pf_X7_margin_B62 {Γ : GX} {D : va_G} {h0 : PH} {o : Int32 × PH} (t0 : Int32) (h : PH) (hf : f_X7_margin_B62 t0 h = some o) : PF Γ mi_X7_margin D h0 (QR Γ D h0 (ovi o.1) o.2) h 62 [none, none] [.int t0] := by
  have e9 := Option.some.inj hf
  subst e9
  exact j_iret rfl dX7_margin_62
def f_X7_margin_B48  (h : PH) : Option (Int32 × PH) := f_X7_margin_B62 (0 : Int32) h
theorem pf_X7_margin_B48 {Γ : GX} {D : va_G} {h0 : PH} {o : Int32 × PH}  (h : PH) (hf : f_X7_margin_B48  h = some o) : PF Γ mi_X7_margin D h0 (QR Γ D h0 (ovi o.1) o.2) h 48 [none, none] [] := by
  refine j_iconst (0 : Int32) dX7_margin_48 (by decide) ?_
  refine j_goto 62 dX7_margin_49 (by decide) ?_
  exact pf_X7_margin_B62 (0 : Int32) h hf
def f_X7_margin (r0 : Option Nat) (p0 : Int32) (h0 : PH) : Option (Int32 × PH) := rv_ h0 r0 6 (cl_ (f_X7_noNode r0 p0 h0) fun v2 h1 => (if v2 = 0 then (gR h1 r0 6 0 fun r3 => aI h1 r3 0 (10 : Int32) fun v4 => (if v4 = p0 then (rv_ h1 r0 6 (cl_ (f_X7_of r0 p0 (7 : Int32) h1) fun v6 h5 => gR h5 r0 6 0 fun r7 => aI h5 r7 0 (12 : Int32) fun v8 => (if v6 = v8 then (rv_ h5 r0 6 (cl_ (f_X7_of r0 p0 (7 : Int32) h5) fun v10 h9 => (if v10 = 0 then (f_X7_margin_B48 h9) else (rv_ h9 r0 6 (cl_ (f_X7_serverEnd r0 h9) fun v12 h11 => rv_ h11 r0 6 (cl_ (f_X7_endOf r0 p0 h11) fun v14 h13 => f_X7_margin_B62 (v12 - v14) h13)))))) else (f_X7_margin_B48 h5)))) else (f_X7_margin_B48 h1))) else (some ((0 : Int32), h1))))
theorem hyS_X7_margin : yX7_margin.cls ≠ "java/lang/invoke/MethodHandle" ∧ yX7_margin.cls ≠ "java/lang/invoke/VarHandle" ∧ (parseMethodDescriptor yX7_margin.desc).map (fun d => d.parameters.length) = some 1 := by decide +kernel
theorem hyV_X7_margin : yX7_margin.cls = RX7 ∧ yX7_margin.cls ≠ "java/lang/invoke/MethodHandle" ∧ yX7_margin.cls ≠ "java/lang/invoke/VarHandle" ∧ (parseMethodDescriptor yX7_margin.desc).map (fun d => d.parameters.length) = some 1 := by decide +kernel
theorem c_X7_margin {D : va_G} (r0 : Option Nat) (p0 : Int32) {h0 : PH} (l : Launch) (hl : l.stackTraces = false) (x : Int32) (h1 : PH) (hf : f_X7_margin r0 p0 h0 = some (x, h1)) : CT l D yX7_margin (ws_ yX7_margin cX7_margin 2 (Option.some FieldType.int)) 2 46 [va_rf r0, .int p0] h0 (ovi x) h1 := by
  refine ct_of hl [some (va_rf r0), some (.int p0)] (by decide) (by rw [lgl]; simp [va_rf_cat, cat_i, cat_l]) (by simp [lv_args, vsL, va_rf_cat, cat_i, cat_l]) (fun Γ => ?_)
  obtain ⟨o, ho⟩ : ∃ o : Int32 × PH, o = (x, h1) := ⟨_, rfl⟩
  rw [← ho] at hf
  have e1 : x = o.1 := by rw [ho]
  have e2 : h1 = o.2 := by rw [ho]
  subst e1 e2
  clear ho
  show PF Γ mi_X7_margin D h0 (QR Γ D h0 (ovi o.1) o.2) h0 0 [some (va_rf r0), some (.int p0)] []
  unfold f_X7_margin at hf
  refine j_aload_n 0 dX7_margin_0 rfl rfl ?_
  refine j_iload_n 1 dX7_margin_1 rfl rfl ?_
  refine kc_X7_172 rfl rfl rfl (by decide) dX7_margin_2 hf (fun v2 h1 hf => ?_)
  refine j_if_eq 10 dX7_margin_5 (by decide) hf (fun c_ hf => ?_) (fun c_ hf => ?_)
  · refine j_aload_n 0 dX7_margin_10 rfl rfl ?_
    refine j_gR (ci := 6) (k := 0) rfl in_X7 rfl q2202 dX7_margin_11 hf (fun r3 hf => ?_)
    refine j_bipush (10 : Int32) dX7_margin_14 (by decide) ?_
    refine j_iald dX7_margin_16 hf (fun v4 hf => ?_)
    refine j_iload_n 1 dX7_margin_17 rfl rfl ?_
    refine j_icmp_ne 48 dX7_margin_18 (by decide) hf (fun c_ hf => ?_) (fun c_ hf => ?_)
    · refine j_weak [none, none] (Wk.s (Wk.s Wk.n)) ?_
      exact pf_X7_margin_B48  h1 hf
    · refine j_aload_n 0 dX7_margin_21 rfl rfl ?_
      refine j_iload_n 1 dX7_margin_22 rfl rfl ?_
      refine j_bipush (7 : Int32) dX7_margin_23 (by decide) ?_
      refine kc_X7_152 rfl rfl rfl (by decide) dX7_margin_25 hf (fun v6 h5 hf => ?_)
      refine j_aload_n 0 dX7_margin_28 rfl rfl ?_
      refine j_gR (ci := 6) (k := 0) rfl in_X7 rfl q2202 dX7_margin_29 hf (fun r7 hf => ?_)
      refine j_bipush (12 : Int32) dX7_margin_32 (by decide) ?_
      refine j_iald dX7_margin_34 hf (fun v8 hf => ?_)
      refine j_icmp_ne 48 dX7_margin_35 (by decide) hf (fun c_ hf => ?_) (fun c_ hf => ?_)
      · refine j_weak [none, none] (Wk.s (Wk.s Wk.n)) ?_
        exact pf_X7_margin_B48  h5 hf
      · refine j_aload_n 0 dX7_margin_38 rfl rfl ?_
        refine j_iload_n 1 dX7_margin_39 rfl rfl ?_
        refine j_bipush (7 : Int32) dX7_margin_40 (by decide) ?_
        refine kc_X7_152 rfl rfl rfl (by decide) dX7_margin_42 hf (fun v10 h9 hf => ?_)
        refine j_if_ne 52 dX7_margin_45 (by decide) hf (fun c_ hf => ?_) (fun c_ hf => ?_)
        · refine j_aload_n 0 dX7_margin_52 rfl rfl ?_
          refine kc_X7_307 rfl rfl rfl (by decide) dX7_margin_53 hf (fun v12 h11 hf => ?_)
          refine j_aload_n 0 dX7_margin_56 rfl rfl ?_
          refine j_iload_n 1 dX7_margin_57 rfl rfl ?_
          refine kc_X7_256 rfl rfl rfl (by simp [va_rf_cat, cat_i, cat_l]) dX7_margin_58 hf (fun v14 h13 hf => ?_)
          refine j_isub dX7_margin_61 ?_
          refine j_weak [none, none] (Wk.s (Wk.s Wk.n)) ?_
          exact pf_X7_margin_B62 (v12 - v14) h13 hf
        · refine j_weak [none, none] (Wk.s (Wk.s Wk.n)) ?_
          exact pf_X7_margin_B48  h9 hf
  · refine j_iconst (0 : Int32) dX7_margin_8 (by decide) ?_
    have e9 := Option.some.inj hf
    subst e9
    exact j_iret rfl dX7_margin_9
abbrev mi_X7_leaseLeft : MI := (cX7_leaseLeft, 2, RX7, (Option.some FieldType.int), [], 2, 46, "leaseLeft")
def f_X7_leaseLeft_B50 (t0 : Int32) (h : PH) : Option (Int32 × PH) := some (t0, h)
theorem pf_X7_leaseLeft_B50 {Γ : GX} {D : va_G} {h0 : PH} {o : Int32 × PH} (t0 : Int32) (h : PH) (hf : f_X7_leaseLeft_B50 t0 h = some o) : PF Γ mi_X7_leaseLeft D h0 (QR Γ D h0 (ovi o.1) o.2) h 50 [none, none] [.int t0] := by
  have e9 := Option.some.inj hf
  subst e9
  exact j_iret rfl dX7_leaseLeft_50
def f_X7_leaseLeft_B29  (h : PH) : Option (Int32 × PH) := f_X7_leaseLeft_B50 (0 : Int32) h
theorem pf_X7_leaseLeft_B29 {Γ : GX} {D : va_G} {h0 : PH} {o : Int32 × PH}  (h : PH) (hf : f_X7_leaseLeft_B29  h = some o) : PF Γ mi_X7_leaseLeft D h0 (QR Γ D h0 (ovi o.1) o.2) h 29 [none, none] [] := by
  refine j_iconst (0 : Int32) dX7_leaseLeft_29 (by decide) ?_
  refine j_goto 50 dX7_leaseLeft_30 (by decide) ?_
  exact pf_X7_leaseLeft_B50 (0 : Int32) h hf
def f_X7_leaseLeft (r0 : Option Nat) (p0 : Int32) (h0 : PH) : Option (Int32 × PH) := rv_ h0 r0 6 (cl_ (f_X7_noNode r0 p0 h0) fun v2 h1 => (if v2 = 0 then (rv_ h1 r0 6 (cl_ (f_X7_of r0 p0 (3 : Int32) h1) fun v4 h3 => (if v4 = 0 then (f_X7_leaseLeft_B29 h3) else (rv_ h3 r0 6 (cl_ (f_X7_of r0 p0 (7 : Int32) h3) fun v6 h5 => (if v6 = 0 then (f_X7_leaseLeft_B29 h5) else (rv_ h5 r0 6 (cl_ (f_X7_of r0 p0 (8 : Int32) h5) fun v8 h7 => rv_ h7 r0 6 (cl_ (f_X7_clock r0 p0 h7) fun v10 h9 => f_X7_leaseLeft_B50 (if (0 : Int32) < (v8 - v10) then (v8 - v10) else (0 : Int32)) h9))))))))) else (some ((0 : Int32), h1))))
theorem hyS_X7_leaseLeft : yX7_leaseLeft.cls ≠ "java/lang/invoke/MethodHandle" ∧ yX7_leaseLeft.cls ≠ "java/lang/invoke/VarHandle" ∧ (parseMethodDescriptor yX7_leaseLeft.desc).map (fun d => d.parameters.length) = some 1 := by decide +kernel
theorem hyV_X7_leaseLeft : yX7_leaseLeft.cls = RX7 ∧ yX7_leaseLeft.cls ≠ "java/lang/invoke/MethodHandle" ∧ yX7_leaseLeft.cls ≠ "java/lang/invoke/VarHandle" ∧ (parseMethodDescriptor yX7_leaseLeft.desc).map (fun d => d.parameters.length) = some 1 := by decide +kernel
theorem c_X7_leaseLeft {D : va_G} (r0 : Option Nat) (p0 : Int32) {h0 : PH} (l : Launch) (hl : l.stackTraces = false) (x : Int32) (h1 : PH) (hf : f_X7_leaseLeft r0 p0 h0 = some (x, h1)) : CT l D yX7_leaseLeft (ws_ yX7_leaseLeft cX7_leaseLeft 2 (Option.some FieldType.int)) 2 46 [va_rf r0, .int p0] h0 (ovi x) h1 := by
  refine ct_of hl [some (va_rf r0), some (.int p0)] (by decide) (by rw [lgl]; simp [va_rf_cat, cat_i, cat_l]) (by simp [lv_args, vsL, va_rf_cat, cat_i, cat_l]) (fun Γ => ?_)
  obtain ⟨o, ho⟩ : ∃ o : Int32 × PH, o = (x, h1) := ⟨_, rfl⟩
  rw [← ho] at hf
  have e1 : x = o.1 := by rw [ho]
  have e2 : h1 = o.2 := by rw [ho]
  subst e1 e2
  clear ho
  show PF Γ mi_X7_leaseLeft D h0 (QR Γ D h0 (ovi o.1) o.2) h0 0 [some (va_rf r0), some (.int p0)] []
  unfold f_X7_leaseLeft at hf
  refine j_aload_n 0 dX7_leaseLeft_0 rfl rfl ?_
  refine j_iload_n 1 dX7_leaseLeft_1 rfl rfl ?_
  refine kc_X7_172 rfl rfl rfl (by decide) dX7_leaseLeft_2 hf (fun v2 h1 hf => ?_)
  refine j_if_eq 10 dX7_leaseLeft_5 (by decide) hf (fun c_ hf => ?_) (fun c_ hf => ?_)
  · refine j_aload_n 0 dX7_leaseLeft_10 rfl rfl ?_
    refine j_iload_n 1 dX7_leaseLeft_11 rfl rfl ?_
    refine j_iconst (3 : Int32) dX7_leaseLeft_12 (by decide) ?_
    refine kc_X7_152 rfl rfl rfl (by decide) dX7_leaseLeft_13 hf (fun v4 h3 hf => ?_)
    refine j_if_eq 29 dX7_leaseLeft_16 (by decide) hf (fun c_ hf => ?_) (fun c_ hf => ?_)
    · refine j_weak [none, none] (Wk.s (Wk.s Wk.n)) ?_
      exact pf_X7_leaseLeft_B29  h3 hf
    · refine j_aload_n 0 dX7_leaseLeft_19 rfl rfl ?_
      refine j_iload_n 1 dX7_leaseLeft_20 rfl rfl ?_
      refine j_bipush (7 : Int32) dX7_leaseLeft_21 (by decide) ?_
      refine kc_X7_152 rfl rfl rfl (by decide) dX7_leaseLeft_23 hf (fun v6 h5 hf => ?_)
      refine j_if_ne 33 dX7_leaseLeft_26 (by decide) hf (fun c_ hf => ?_) (fun c_ hf => ?_)
      · refine j_iconst (0 : Int32) dX7_leaseLeft_33 (by decide) ?_
        refine j_aload_n 0 dX7_leaseLeft_34 rfl rfl ?_
        refine j_iload_n 1 dX7_leaseLeft_35 rfl rfl ?_
        refine j_bipush (8 : Int32) dX7_leaseLeft_36 (by decide) ?_
        refine kc_X7_152 rfl rfl rfl (by simp [va_rf_cat, cat_i, cat_l]) dX7_leaseLeft_38 hf (fun v8 h7 hf => ?_)
        refine j_aload_n 0 dX7_leaseLeft_41 rfl rfl ?_
        refine j_iload_n 1 dX7_leaseLeft_42 rfl rfl ?_
        refine kc_X7_162 rfl rfl rfl (by simp [va_rf_cat, cat_i, cat_l]) dX7_leaseLeft_43 hf (fun v10 h9 hf => ?_)
        refine j_isub dX7_leaseLeft_46 ?_
        refine j_mmax q2407 q288 q106 q289 rfl rfl (by decide) dX7_leaseLeft_47 ?_
        refine j_weak [none, none] (Wk.s (Wk.s Wk.n)) ?_
        exact pf_X7_leaseLeft_B50 (if (0 : Int32) < (v8 - v10) then (v8 - v10) else (0 : Int32)) h9 hf
      · refine j_weak [none, none] (Wk.s (Wk.s Wk.n)) ?_
        exact pf_X7_leaseLeft_B29  h5 hf
  · refine j_iconst (0 : Int32) dX7_leaseLeft_8 (by decide) ?_
    have e9 := Option.some.inj hf
    subst e9
    exact j_iret rfl dX7_leaseLeft_9
theorem kc_X7_319 {Γ : GX} {I : MI} {D : va_G} {h0 : PH} {Q : State → Prop} {h : PH} {pc : Nat} {vs : List (Option Value)} {rest : List Value} {β : Type} {o : β} {r : Option Nat} {p0 : Int32} {K : ((Int32) → PH → Option β)} (hI : I.2.2.1 = RX7) (hfr : Nat.ble 2 I.2.2.2.2.2.1 = true) (hlo : Nat.ble 46 I.2.2.2.2.2.2.1 = true) (hW : (rest.map fun v => v.category).sum ≤ 8) (hd : decode I.1 pc = .ok (.invokevirtual 319, 3)) (hf : rv_ h r 6 (cl_ (f_X7_comesAt r p0 h) K) = some o) (kk : ∀ (x : Int32) (h1 : PH), K x h1 = some o → PF Γ I D h0 Q h1 (pc + 3) vs (.int x :: rest)) : PF Γ I D h0 Q h pc vs (.int p0 :: va_rf r :: rest) := by
  obtain ⟨cc, nL, own, rt, xt, fr, lo, nm⟩ := I
  cases hI
  exact j_cVi (n := 1) (y := yX7_comesAt) (cc2 := cX7_comesAt) (As := [.int p0]) (C := RX7) (ci := 6) rfl (lw_V q2658 q2660 qs84 q117 q2661) hyV_X7_comesAt hfr hlo rfl hW hd (c_X7_comesAt r p0) hf _ rfl kk
abbrev mi_X7_overtakingPairs : MI := (cX7_overtakingPairs, 4, RX7, (Option.some FieldType.int), [], 2, 46, "overtakingPairs")
def f_X7_overtakingPairs_B54 (k9 : Option Nat → Int32 → Int32 → PH → Option (Int32 × PH)) (k24 : Option Nat → Int32 → Int32 → Int32 → PH → Option (Int32 × PH)) (x0 : Option Nat) (x2 : Int32) (x3 : Int32) (t0 : Int32) (t1 : Int32) (h : PH) : Option (Int32 × PH) := k24 x0 (t0 + t1) x2 (x3 + (1 : Int32)) h
theorem pf_X7_overtakingPairs_B54 {Γ : GX} {D : va_G} {h0 : PH} {o : Int32 × PH} (k9 : Option Nat → Int32 → Int32 → PH → Option (Int32 × PH)) (hk9 : ∀ (x0 : Option Nat) (x1 : Int32) (x2 : Int32) (h : PH), k9 x0 x1 x2 h = some o → PF Γ mi_X7_overtakingPairs D h0 (QR Γ D h0 (ovi o.1) o.2) h 9 [some (va_rf x0), some (.int x1), some (.int x2), none] []) (k24 : Option Nat → Int32 → Int32 → Int32 → PH → Option (Int32 × PH)) (hk24 : ∀ (x0 : Option Nat) (x1 : Int32) (x2 : Int32) (x3 : Int32) (h : PH), k24 x0 x1 x2 x3 h = some o → PF Γ mi_X7_overtakingPairs D h0 (QR Γ D h0 (ovi o.1) o.2) h 24 [some (va_rf x0), some (.int x1), some (.int x2), some (.int x3)] []) (x0 : Option Nat) (x2 : Int32) (x3 : Int32) (t0 : Int32) (t1 : Int32) (h : PH) (hf : f_X7_overtakingPairs_B54 k9 k24 x0 x2 x3 t0 t1 h = some o) : PF Γ mi_X7_overtakingPairs D h0 (QR Γ D h0 (ovi o.1) o.2) h 54 [some (va_rf x0), none, some (.int x2), some (.int x3)] [.int t1, .int t0] := by
  refine j_iadd dX7_overtakingPairs_54 ?_
  refine j_istore_n 1 [some (va_rf x0), some (.int (t0 + t1)), some (.int x2), some (.int x3)] dX7_overtakingPairs_55 rfl (cz (va_rf_cat _)) rfl rfl ?_
  refine j_iinc (x3 + (1 : Int32)) [some (va_rf x0), some (.int (t0 + t1)), some (.int x2), some (.int (x3 + (1 : Int32)))] dX7_overtakingPairs_56 rfl rfl (cz rfl) rfl rfl ?_
  refine j_goto 24 dX7_overtakingPairs_59 (by decide) ?_
  exact hk24 x0 (t0 + t1) x2 (x3 + (1 : Int32)) h hf
def f_X7_overtakingPairs_L24 (k9 : Option Nat → Int32 → Int32 → PH → Option (Int32 × PH)) : Nat → Option Nat → Int32 → Int32 → Int32 → PH → Option (Int32 × PH)
  | 0, _, _, _, _, _ => none
  | n + 1, x0, x1, x2, x3, h => gR h x0 6 0 fun r4 => aI h r4 0 (20 : Int32) fun v5 => (if v5 ≤ x3 then (k9 x0 x1 (x2 + (1 : Int32)) h) else (rv_ h x0 6 (cl_ (f_X7_comesAt x0 x3 h) fun v7 h6 => rv_ h6 x0 6 (cl_ (f_X7_comesAt x0 x2 h6) fun v9 h8 => (if v9 ≤ v7 then (f_X7_overtakingPairs_B54 k9 (f_X7_overtakingPairs_L24 k9 n) x0 x2 x3 x1 (0 : Int32) h8) else (f_X7_overtakingPairs_B54 k9 (f_X7_overtakingPairs_L24 k9 n) x0 x2 x3 x1 (1 : Int32) h8))))))
theorem pf_X7_overtakingPairs_L24 {Γ : GX} {D : va_G} {h0 : PH} {o : Int32 × PH} (k9 : Option Nat → Int32 → Int32 → PH → Option (Int32 × PH)) (hk9 : ∀ (x0 : Option Nat) (x1 : Int32) (x2 : Int32) (h : PH), k9 x0 x1 x2 h = some o → PF Γ mi_X7_overtakingPairs D h0 (QR Γ D h0 (ovi o.1) o.2) h 9 [some (va_rf x0), some (.int x1), some (.int x2), none] []) : ∀ (n : Nat) (x0 : Option Nat) (x1 : Int32) (x2 : Int32) (x3 : Int32) (h : PH), f_X7_overtakingPairs_L24 k9 n x0 x1 x2 x3 h = some o → PF Γ mi_X7_overtakingPairs D h0 (QR Γ D h0 (ovi o.1) o.2) h 24 [some (va_rf x0), some (.int x1), some (.int x2), some (.int x3)] [] := by
  intro n
  induction n with
  | zero => intro x0 x1 x2 x3 h hf; cases hf
  | succ n ih =>
    intro x0 x1 x2 x3 h hf
    refine j_iload_n 3 dX7_overtakingPairs_24 rfl rfl ?_
    refine j_aload_n 0 dX7_overtakingPairs_25 rfl rfl ?_
    refine j_gR (ci := 6) (k := 0) rfl in_X7 rfl q2202 dX7_overtakingPairs_26 hf (fun r4 hf => ?_)
    refine j_bipush (20 : Int32) dX7_overtakingPairs_29 (by decide) ?_
    refine j_iald dX7_overtakingPairs_31 hf (fun v5 hf => ?_)
    refine j_icmp_ge 62 dX7_overtakingPairs_32 (by decide) hf (fun c_ hf => ?_) (fun c_ hf => ?_)
    · refine j_iinc (x2 + (1 : Int32)) [some (va_rf x0), some (.int x1), some (.int (x2 + (1 : Int32))), some (.int x3)] dX7_overtakingPairs_62 rfl rfl (cz rfl) rfl rfl ?_
      refine j_goto 9 dX7_overtakingPairs_65 (by decide) ?_
      refine j_weak [some (va_rf x0), some (.int x1), some (.int (x2 + (1 : Int32))), none] (Wk.k (Wk.k (Wk.k (Wk.s Wk.n)))) ?_
      exact hk9 x0 x1 (x2 + (1 : Int32)) h hf
    · refine j_iload_n 1 dX7_overtakingPairs_35 rfl rfl ?_
      refine j_aload_n 0 dX7_overtakingPairs_36 rfl rfl ?_
      refine j_iload_n 3 dX7_overtakingPairs_37 rfl rfl ?_
      refine kc_X7_319 rfl rfl rfl (by simp [va_rf_cat, cat_i, cat_l]) dX7_overtakingPairs_38 hf (fun v7 h6 hf => ?_)
      refine j_aload_n 0 dX7_overtakingPairs_41 rfl rfl ?_
      refine j_iload_n 2 dX7_overtakingPairs_42 rfl rfl ?_
      refine kc_X7_319 rfl rfl rfl (by simp [va_rf_cat, cat_i, cat_l]) dX7_overtakingPairs_43 hf (fun v9 h8 hf => ?_)
      refine j_icmp_ge 53 dX7_overtakingPairs_46 (by decide) hf (fun c_ hf => ?_) (fun c_ hf => ?_)
      · refine j_iconst (0 : Int32) dX7_overtakingPairs_53 (by decide) ?_
        refine j_weak [some (va_rf x0), none, some (.int x2), some (.int x3)] (Wk.k (Wk.s (Wk.k (Wk.k Wk.n)))) ?_
        exact pf_X7_overtakingPairs_B54 k9 hk9 (f_X7_overtakingPairs_L24 k9 n) ih x0 x2 x3 x1 (0 : Int32) h8 hf
      · refine j_iconst (1 : Int32) dX7_overtakingPairs_49 (by decide) ?_
        refine j_goto 54 dX7_overtakingPairs_50 (by decide) ?_
        refine j_weak [some (va_rf x0), none, some (.int x2), some (.int x3)] (Wk.k (Wk.s (Wk.k (Wk.k Wk.n)))) ?_
        exact pf_X7_overtakingPairs_B54 k9 hk9 (f_X7_overtakingPairs_L24 k9 n) ih x0 x2 x3 x1 (1 : Int32) h8 hf
def f_X7_overtakingPairs_L9 : Nat → Option Nat → Int32 → Int32 → PH → Option (Int32 × PH)
  | 0, _, _, _, _ => none
  | n + 1, x0, x1, x2, h => gR h x0 6 0 fun r2 => aI h r2 0 (20 : Int32) fun v3 => (if v3 ≤ x2 then (some (x1, h)) else (f_X7_overtakingPairs_L24 (f_X7_overtakingPairs_L9 n) FU x0 x1 x2 (x2 + (1 : Int32)) h))
theorem pf_X7_overtakingPairs_L9 {Γ : GX} {D : va_G} {h0 : PH} {o : Int32 × PH} : ∀ (n : Nat) (x0 : Option Nat) (x1 : Int32) (x2 : Int32) (h : PH), f_X7_overtakingPairs_L9 n x0 x1 x2 h = some o → PF Γ mi_X7_overtakingPairs D h0 (QR Γ D h0 (ovi o.1) o.2) h 9 [some (va_rf x0), some (.int x1), some (.int x2), none] [] := by
  intro n
  induction n with
  | zero => intro x0 x1 x2 h hf; cases hf
  | succ n ih =>
    intro x0 x1 x2 h hf
    refine j_iload_n 2 dX7_overtakingPairs_9 rfl rfl ?_
    refine j_aload_n 0 dX7_overtakingPairs_10 rfl rfl ?_
    refine j_gR (ci := 6) (k := 0) rfl in_X7 rfl q2202 dX7_overtakingPairs_11 hf (fun r2 hf => ?_)
    refine j_bipush (20 : Int32) dX7_overtakingPairs_14 (by decide) ?_
    refine j_iald dX7_overtakingPairs_16 hf (fun v3 hf => ?_)
    refine j_icmp_ge 68 dX7_overtakingPairs_17 (by decide) hf (fun c_ hf => ?_) (fun c_ hf => ?_)
    · refine j_iload_n 1 dX7_overtakingPairs_68 rfl rfl ?_
      have e9 := Option.some.inj hf
      subst e9
      exact j_iret rfl dX7_overtakingPairs_69
    · refine j_iload_n 2 dX7_overtakingPairs_20 rfl rfl ?_
      refine j_iconst (1 : Int32) dX7_overtakingPairs_21 (by decide) ?_
      refine j_iadd dX7_overtakingPairs_22 ?_
      refine j_istore_n 3 [some (va_rf x0), some (.int x1), some (.int x2), some (.int (x2 + (1 : Int32)))] dX7_overtakingPairs_23 rfl (cz rfl) rfl rfl ?_
      exact pf_X7_overtakingPairs_L24 (f_X7_overtakingPairs_L9 n) ih FU x0 x1 x2 (x2 + (1 : Int32)) h hf
def f_X7_overtakingPairs (r0 : Option Nat) (h0 : PH) : Option (Int32 × PH) := pV h0 r0 6 1 (.int (0 : Int32)) fun h1 => f_X7_overtakingPairs_L9 FU r0 (0 : Int32) (0 : Int32) h1
theorem hyS_X7_overtakingPairs : yX7_overtakingPairs.cls ≠ "java/lang/invoke/MethodHandle" ∧ yX7_overtakingPairs.cls ≠ "java/lang/invoke/VarHandle" ∧ (parseMethodDescriptor yX7_overtakingPairs.desc).map (fun d => d.parameters.length) = some 0 := by decide +kernel
theorem hyV_X7_overtakingPairs : yX7_overtakingPairs.cls = RX7 ∧ yX7_overtakingPairs.cls ≠ "java/lang/invoke/MethodHandle" ∧ yX7_overtakingPairs.cls ≠ "java/lang/invoke/VarHandle" ∧ (parseMethodDescriptor yX7_overtakingPairs.desc).map (fun d => d.parameters.length) = some 0 := by decide +kernel
theorem c_X7_overtakingPairs {D : va_G} (r0 : Option Nat) {h0 : PH} (l : Launch) (hl : l.stackTraces = false) (x : Int32) (h1 : PH) (hf : f_X7_overtakingPairs r0 h0 = some (x, h1)) : CT l D yX7_overtakingPairs (ws_ yX7_overtakingPairs cX7_overtakingPairs 4 (Option.some FieldType.int)) 2 46 [va_rf r0] h0 (ovi x) h1 := by
  refine ct_of hl [some (va_rf r0), none, none, none] (by decide) (by rw [lgl]; simp [va_rf_cat, cat_i, cat_l]) (by simp [lv_args, vsL, va_rf_cat, cat_i, cat_l]) (fun Γ => ?_)
  obtain ⟨o, ho⟩ : ∃ o : Int32 × PH, o = (x, h1) := ⟨_, rfl⟩
  rw [← ho] at hf
  have e1 : x = o.1 := by rw [ho]
  have e2 : h1 = o.2 := by rw [ho]
  subst e1 e2
  clear ho
  show PF Γ mi_X7_overtakingPairs D h0 (QR Γ D h0 (ovi o.1) o.2) h0 0 [some (va_rf r0), none, none, none] []
  unfold f_X7_overtakingPairs at hf
  refine j_aload_n 0 dX7_overtakingPairs_0 rfl rfl ?_
  refine j_iconst (0 : Int32) dX7_overtakingPairs_1 (by decide) ?_
  refine j_pV (ci := 6) (k := 1) tyX7 tyX7_ok nmX7 rfl in_X7 rfl q2203 (Or.inl rfl) rfl (fit_i _) dX7_overtakingPairs_2 hf (fun h1 hf => ?_)
  refine j_iconst (0 : Int32) dX7_overtakingPairs_5 (by decide) ?_
  refine j_istore_n 1 [some (va_rf r0), some (.int (0 : Int32)), none, none] dX7_overtakingPairs_6 rfl (cz (va_rf_cat _)) rfl rfl ?_
  refine j_iconst (0 : Int32) dX7_overtakingPairs_7 (by decide) ?_
  refine j_istore_n 2 [some (va_rf r0), some (.int (0 : Int32)), some (.int (0 : Int32)), none] dX7_overtakingPairs_8 rfl (cz rfl) rfl rfl ?_
  exact pf_X7_overtakingPairs_L9 FU r0 (0 : Int32) (0 : Int32) h1 hf
theorem kc_X7_322 {Γ : GX} {I : MI} {D : va_G} {h0 : PH} {Q : State → Prop} {h : PH} {pc : Nat} {vs : List (Option Value)} {rest : List Value} {β : Type} {o : β} {r : Option Nat} {p0 : Int32} {K : ((Int32) → PH → Option β)} (hI : I.2.2.1 = RX7) (hfr : Nat.ble 2 I.2.2.2.2.2.1 = true) (hlo : Nat.ble 45 I.2.2.2.2.2.2.1 = true) (hW : (rest.map fun v => v.category).sum ≤ 8) (hd : decode I.1 pc = .ok (.invokevirtual 322, 3)) (hf : rv_ h r 6 (cl_ (f_X7_isStale r p0 h) K) = some o) (kk : ∀ (x : Int32) (h1 : PH), K x h1 = some o → PF Γ I D h0 Q h1 (pc + 3) vs (.int x :: rest)) : PF Γ I D h0 Q h pc vs (.int p0 :: va_rf r :: rest) := by
  obtain ⟨cc, nL, own, rt, xt, fr, lo, nm⟩ := I
  cases hI
  exact j_cVi (n := 1) (y := yX7_isStale) (cc2 := cX7_isStale) (As := [.int p0]) (C := RX7) (ci := 6) rfl (lw_V q2666 q2668 qs85 q117 q2669) hyV_X7_isStale hfr hlo rfl hW hd (c_X7_isStale r p0) hf _ rfl kk
abbrev mi_X7_staleCaches : MI := (cX7_staleCaches, 3, RX7, (Option.some FieldType.int), [], 3, 64, "staleCaches")
def f_X7_staleCaches_B43 (k9 : Option Nat → Int32 → Int32 → PH → Option (Int32 × PH)) (x0 : Option Nat) (x2 : Int32) (t0 : Int32) (t1 : Int32) (h : PH) : Option (Int32 × PH) := k9 x0 (t0 ||| t1) (x2 + (1 : Int32)) h
theorem pf_X7_staleCaches_B43 {Γ : GX} {D : va_G} {h0 : PH} {o : Int32 × PH} (k9 : Option Nat → Int32 → Int32 → PH → Option (Int32 × PH)) (hk9 : ∀ (x0 : Option Nat) (x1 : Int32) (x2 : Int32) (h : PH), k9 x0 x1 x2 h = some o → PF Γ mi_X7_staleCaches D h0 (QR Γ D h0 (ovi o.1) o.2) h 9 [some (va_rf x0), some (.int x1), some (.int x2)] []) (x0 : Option Nat) (x2 : Int32) (t0 : Int32) (t1 : Int32) (h : PH) (hf : f_X7_staleCaches_B43 k9 x0 x2 t0 t1 h = some o) : PF Γ mi_X7_staleCaches D h0 (QR Γ D h0 (ovi o.1) o.2) h 43 [some (va_rf x0), none, some (.int x2)] [.int t1, .int t0] := by
  refine j_ior dX7_staleCaches_43 ?_
  refine j_istore_n 1 [some (va_rf x0), some (.int (t0 ||| t1)), some (.int x2)] dX7_staleCaches_44 rfl (cz (va_rf_cat _)) rfl rfl ?_
  refine j_iinc (x2 + (1 : Int32)) [some (va_rf x0), some (.int (t0 ||| t1)), some (.int (x2 + (1 : Int32)))] dX7_staleCaches_45 rfl rfl (cz rfl) rfl rfl ?_
  refine j_goto 9 dX7_staleCaches_48 (by decide) ?_
  exact hk9 x0 (t0 ||| t1) (x2 + (1 : Int32)) h hf
def f_X7_staleCaches_B42 (k9 : Option Nat → Int32 → Int32 → PH → Option (Int32 × PH)) (x0 : Option Nat) (x2 : Int32) (t0 : Int32) (h : PH) : Option (Int32 × PH) := f_X7_staleCaches_B43 k9 x0 x2 t0 (0 : Int32) h
theorem pf_X7_staleCaches_B42 {Γ : GX} {D : va_G} {h0 : PH} {o : Int32 × PH} (k9 : Option Nat → Int32 → Int32 → PH → Option (Int32 × PH)) (hk9 : ∀ (x0 : Option Nat) (x1 : Int32) (x2 : Int32) (h : PH), k9 x0 x1 x2 h = some o → PF Γ mi_X7_staleCaches D h0 (QR Γ D h0 (ovi o.1) o.2) h 9 [some (va_rf x0), some (.int x1), some (.int x2)] []) (x0 : Option Nat) (x2 : Int32) (t0 : Int32) (h : PH) (hf : f_X7_staleCaches_B42 k9 x0 x2 t0 h = some o) : PF Γ mi_X7_staleCaches D h0 (QR Γ D h0 (ovi o.1) o.2) h 42 [some (va_rf x0), none, some (.int x2)] [.int t0] := by
  refine j_iconst (0 : Int32) dX7_staleCaches_42 (by decide) ?_
  exact pf_X7_staleCaches_B43 k9 hk9 x0 x2 t0 (0 : Int32) h hf
def f_X7_staleCaches_L9 : Nat → Option Nat → Int32 → Int32 → PH → Option (Int32 × PH)
  | 0, _, _, _, _ => none
  | n + 1, x0, x1, x2, h => gR h x0 6 0 fun r2 => aI h r2 0 (2 : Int32) fun v3 => (if v3 ≤ x2 then (some (x1, h)) else (rv_ h x0 6 (cl_ (f_X7_leads x0 x2 h) fun v5 h4 => (if v5 = 0 then (f_X7_staleCaches_B42 (f_X7_staleCaches_L9 n) x0 x2 x1 h4) else (rv_ h4 x0 6 (cl_ (f_X7_isStale x0 x2 h4) fun v7 h6 => (if v7 = 0 then (f_X7_staleCaches_B42 (f_X7_staleCaches_L9 n) x0 x2 x1 h6) else (f_X7_staleCaches_B43 (f_X7_staleCaches_L9 n) x0 x2 x1 ((1 : Int32) <<< (x2 &&& 31)) h6))))))))
theorem pf_X7_staleCaches_L9 {Γ : GX} {D : va_G} {h0 : PH} {o : Int32 × PH} : ∀ (n : Nat) (x0 : Option Nat) (x1 : Int32) (x2 : Int32) (h : PH), f_X7_staleCaches_L9 n x0 x1 x2 h = some o → PF Γ mi_X7_staleCaches D h0 (QR Γ D h0 (ovi o.1) o.2) h 9 [some (va_rf x0), some (.int x1), some (.int x2)] [] := by
  intro n
  induction n with
  | zero => intro x0 x1 x2 h hf; cases hf
  | succ n ih =>
    intro x0 x1 x2 h hf
    refine j_iload_n 2 dX7_staleCaches_9 rfl rfl ?_
    refine j_aload_n 0 dX7_staleCaches_10 rfl rfl ?_
    refine j_gR (ci := 6) (k := 0) rfl in_X7 rfl q2202 dX7_staleCaches_11 hf (fun r2 hf => ?_)
    refine j_iconst (2 : Int32) dX7_staleCaches_14 (by decide) ?_
    refine j_iald dX7_staleCaches_15 hf (fun v3 hf => ?_)
    refine j_icmp_ge 51 dX7_staleCaches_16 (by decide) hf (fun c_ hf => ?_) (fun c_ hf => ?_)
    · refine j_iload_n 1 dX7_staleCaches_51 rfl rfl ?_
      have e9 := Option.some.inj hf
      subst e9
      exact j_iret rfl dX7_staleCaches_52
    · refine j_iload_n 1 dX7_staleCaches_19 rfl rfl ?_
      refine j_aload_n 0 dX7_staleCaches_20 rfl rfl ?_
      refine j_iload_n 2 dX7_staleCaches_21 rfl rfl ?_
      refine kc_X7_253 rfl rfl rfl (by simp [va_rf_cat, cat_i, cat_l]) dX7_staleCaches_22 hf (fun v5 h4 hf => ?_)
      refine j_if_eq 42 dX7_staleCaches_25 (by decide) hf (fun c_ hf => ?_) (fun c_ hf => ?_)
      · refine j_weak [some (va_rf x0), none, some (.int x2)] (Wk.k (Wk.s (Wk.k Wk.n))) ?_
        exact pf_X7_staleCaches_B42 (f_X7_staleCaches_L9 n) ih x0 x2 x1 h4 hf
      · refine j_aload_n 0 dX7_staleCaches_28 rfl rfl ?_
        refine j_iload_n 2 dX7_staleCaches_29 rfl rfl ?_
        refine kc_X7_322 rfl rfl rfl (by simp [va_rf_cat, cat_i, cat_l]) dX7_staleCaches_30 hf (fun v7 h6 hf => ?_)
        refine j_if_eq 42 dX7_staleCaches_33 (by decide) hf (fun c_ hf => ?_) (fun c_ hf => ?_)
        · refine j_weak [some (va_rf x0), none, some (.int x2)] (Wk.k (Wk.s (Wk.k Wk.n))) ?_
          exact pf_X7_staleCaches_B42 (f_X7_staleCaches_L9 n) ih x0 x2 x1 h6 hf
        · refine j_iconst (1 : Int32) dX7_staleCaches_36 (by decide) ?_
          refine j_iload_n 2 dX7_staleCaches_37 rfl rfl ?_
          refine j_ishl dX7_staleCaches_38 ?_
          refine j_goto 43 dX7_staleCaches_39 (by decide) ?_
          refine j_weak [some (va_rf x0), none, some (.int x2)] (Wk.k (Wk.s (Wk.k Wk.n))) ?_
          exact pf_X7_staleCaches_B43 (f_X7_staleCaches_L9 n) ih x0 x2 x1 ((1 : Int32) <<< (x2 &&& 31)) h6 hf
def f_X7_staleCaches (r0 : Option Nat) (h0 : PH) : Option (Int32 × PH) := pV h0 r0 6 1 (.int (0 : Int32)) fun h1 => f_X7_staleCaches_L9 FU r0 (0 : Int32) (0 : Int32) h1
theorem hyS_X7_staleCaches : yX7_staleCaches.cls ≠ "java/lang/invoke/MethodHandle" ∧ yX7_staleCaches.cls ≠ "java/lang/invoke/VarHandle" ∧ (parseMethodDescriptor yX7_staleCaches.desc).map (fun d => d.parameters.length) = some 0 := by decide +kernel
theorem hyV_X7_staleCaches : yX7_staleCaches.cls = RX7 ∧ yX7_staleCaches.cls ≠ "java/lang/invoke/MethodHandle" ∧ yX7_staleCaches.cls ≠ "java/lang/invoke/VarHandle" ∧ (parseMethodDescriptor yX7_staleCaches.desc).map (fun d => d.parameters.length) = some 0 := by decide +kernel
theorem c_X7_staleCaches {D : va_G} (r0 : Option Nat) {h0 : PH} (l : Launch) (hl : l.stackTraces = false) (x : Int32) (h1 : PH) (hf : f_X7_staleCaches r0 h0 = some (x, h1)) : CT l D yX7_staleCaches (ws_ yX7_staleCaches cX7_staleCaches 3 (Option.some FieldType.int)) 3 64 [va_rf r0] h0 (ovi x) h1 := by
  refine ct_of hl [some (va_rf r0), none, none] (by decide) (by rw [lgl]; simp [va_rf_cat, cat_i, cat_l]) (by simp [lv_args, vsL, va_rf_cat, cat_i, cat_l]) (fun Γ => ?_)
  obtain ⟨o, ho⟩ : ∃ o : Int32 × PH, o = (x, h1) := ⟨_, rfl⟩
  rw [← ho] at hf
  have e1 : x = o.1 := by rw [ho]
  have e2 : h1 = o.2 := by rw [ho]
  subst e1 e2
  clear ho
  show PF Γ mi_X7_staleCaches D h0 (QR Γ D h0 (ovi o.1) o.2) h0 0 [some (va_rf r0), none, none] []
  unfold f_X7_staleCaches at hf
  refine j_aload_n 0 dX7_staleCaches_0 rfl rfl ?_
  refine j_iconst (0 : Int32) dX7_staleCaches_1 (by decide) ?_
  refine j_pV (ci := 6) (k := 1) tyX7 tyX7_ok nmX7 rfl in_X7 rfl q2203 (Or.inl rfl) rfl (fit_i _) dX7_staleCaches_2 hf (fun h1 hf => ?_)
  refine j_iconst (0 : Int32) dX7_staleCaches_5 (by decide) ?_
  refine j_istore_n 1 [some (va_rf r0), some (.int (0 : Int32)), none] dX7_staleCaches_6 rfl (cz (va_rf_cat _)) rfl rfl ?_
  refine j_iconst (0 : Int32) dX7_staleCaches_7 (by decide) ?_
  refine j_istore_n 2 [some (va_rf r0), some (.int (0 : Int32)), some (.int (0 : Int32))] dX7_staleCaches_8 rfl (cz rfl) rfl rfl ?_
  exact pf_X7_staleCaches_L9 FU r0 (0 : Int32) (0 : Int32) h1 hf
abbrev mi_X7_logTime : MI := (cX7_logTime, 2, RX7, (Option.some FieldType.int), [], 2, 47, "logTime")
def f_X7_logTime (r0 : Option Nat) (p0 : Int32) (h0 : PH) : Option (Int32 × PH) := rv_ h0 r0 6 (cl_ (f_X7_logCell r0 p0 (0 : Int32) h0) fun v2 h1 => some (v2, h1))
theorem hyS_X7_logTime : yX7_logTime.cls ≠ "java/lang/invoke/MethodHandle" ∧ yX7_logTime.cls ≠ "java/lang/invoke/VarHandle" ∧ (parseMethodDescriptor yX7_logTime.desc).map (fun d => d.parameters.length) = some 1 := by decide +kernel
theorem hyV_X7_logTime : yX7_logTime.cls = RX7 ∧ yX7_logTime.cls ≠ "java/lang/invoke/MethodHandle" ∧ yX7_logTime.cls ≠ "java/lang/invoke/VarHandle" ∧ (parseMethodDescriptor yX7_logTime.desc).map (fun d => d.parameters.length) = some 1 := by decide +kernel
theorem c_X7_logTime {D : va_G} (r0 : Option Nat) (p0 : Int32) {h0 : PH} (l : Launch) (hl : l.stackTraces = false) (x : Int32) (h1 : PH) (hf : f_X7_logTime r0 p0 h0 = some (x, h1)) : CT l D yX7_logTime (ws_ yX7_logTime cX7_logTime 2 (Option.some FieldType.int)) 2 47 [va_rf r0, .int p0] h0 (ovi x) h1 := by
  refine ct_of hl [some (va_rf r0), some (.int p0)] (by decide) (by rw [lgl]; simp [va_rf_cat, cat_i, cat_l]) (by simp [lv_args, vsL, va_rf_cat, cat_i, cat_l]) (fun Γ => ?_)
  obtain ⟨o, ho⟩ : ∃ o : Int32 × PH, o = (x, h1) := ⟨_, rfl⟩
  rw [← ho] at hf
  have e1 : x = o.1 := by rw [ho]
  have e2 : h1 = o.2 := by rw [ho]
  subst e1 e2
  clear ho
  show PF Γ mi_X7_logTime D h0 (QR Γ D h0 (ovi o.1) o.2) h0 0 [some (va_rf r0), some (.int p0)] []
  unfold f_X7_logTime at hf
  refine j_aload_n 0 dX7_logTime_0 rfl rfl ?_
  refine j_iload_n 1 dX7_logTime_1 rfl rfl ?_
  refine j_iconst (0 : Int32) dX7_logTime_2 (by decide) ?_
  refine kc_X7_325 rfl rfl rfl (by decide) dX7_logTime_3 hf (fun v2 h1 hf => ?_)
  have e9 := Option.some.inj hf
  subst e9
  exact j_iret rfl dX7_logTime_6
theorem kc_X7_122 {Γ : GX} {I : MI} {D : va_G} {h0 : PH} {Q : State → Prop} {h : PH} {pc : Nat} {vs : List (Option Value)} {rest : List Value} {β : Type} {o : β} {r : Option Nat}  {K : ((Int32) → PH → Option β)} (hI : I.2.2.1 = RX7) (hfr : Nat.ble 2 I.2.2.2.2.2.1 = true) (hlo : Nat.ble 40 I.2.2.2.2.2.2.1 = true) (hW : (rest.map fun v => v.category).sum ≤ 8) (hd : decode I.1 pc = .ok (.invokevirtual 122, 3)) (hf : rv_ h r 22 (cl_ (f_J9_length r h) K) = some o) (kk : ∀ (x : Int32) (h1 : PH), K x h1 = some o → PF Γ I D h0 Q h1 (pc + 3) vs (.int x :: rest)) : PF Γ I D h0 Q h pc vs (va_rf r :: rest) := by
  obtain ⟨cc, nL, own, rt, xt, fr, lo, nm⟩ := I
  cases hI
  exact j_cVi (n := 0) (y := yJ9_length) (cc2 := cJ9_length) (As := []) (C := RJ9) (ci := 22) rfl (lw_V q2296 q343 q344 q103 q345) hyV_J9_length hfr hlo rfl hW hd (c_J9_length r) hf _ rfl kk
theorem kc_X7_124 {Γ : GX} {I : MI} {D : va_G} {h0 : PH} {Q : State → Prop} {h : PH} {pc : Nat} {vs : List (Option Value)} {rest : List Value} {β : Type} {o : β} {r : Option Nat} {p0 : Int32} {K : ((Int32) → PH → Option β)} (hI : I.2.2.1 = RX7) (hfr : Nat.ble 4 I.2.2.2.2.2.1 = true) (hlo : Nat.ble 85 I.2.2.2.2.2.2.1 = true) (hW : (rest.map fun v => v.category).sum ≤ 8) (hd : decode I.1 pc = .ok (.invokevirtual 124, 3)) (hf : rv_ h r 22 (cl_ (f_J9_charAt r p0 h) K) = some o) (kk : ∀ (x : Int32) (h1 : PH), K x h1 = some o → PF Γ I D h0 Q h1 (pc + 3) vs (.int x :: rest)) : PF Γ I D h0 Q h pc vs (.int p0 :: va_rf r :: rest) := by
  obtain ⟨cc, nL, own, rt, xt, fr, lo, nm⟩ := I
  cases hI
  exact j_cVi (n := 1) (y := yJ9_charAt) (cc2 := cJ9_charAt) (As := [.int p0]) (C := RJ9) (ci := 22) rfl (lw_V q2297 q2298 q2299 q103 q2300) hyV_J9_charAt hfr hlo rfl hW hd (c_J9_charAt r p0) hf _ rfl kk
abbrev mi_X7_word : MI := (cX7_word, 4, RX7, (Option.some FieldType.int), [], 4, 85, "word")
def f_X7_word_B127 (k36 : Option Nat → Int32 → PH → Option (Int32 × PH)) (x0 : Option Nat) (x1 : Int32) (x2 : Int32) (h : PH) : Option (Int32 × PH) := (if x2 = 0 then (k36 x0 (x1 + (1 : Int32)) h) else (some (x1, h)))
theorem pf_X7_word_B127 {Γ : GX} {D : va_G} {h0 : PH} {o : Int32 × PH} (k36 : Option Nat → Int32 → PH → Option (Int32 × PH)) (hk36 : ∀ (x0 : Option Nat) (x1 : Int32) (h : PH), k36 x0 x1 h = some o → PF Γ mi_X7_word D h0 (QR Γ D h0 (ovi o.1) o.2) h 36 [some (va_rf x0), some (.int x1), none, none] []) (x0 : Option Nat) (x1 : Int32) (x2 : Int32) (h : PH) (hf : f_X7_word_B127 k36 x0 x1 x2 h = some o) : PF Γ mi_X7_word D h0 (QR Γ D h0 (ovi o.1) o.2) h 127 [some (va_rf x0), some (.int x1), some (.int x2), none] [] := by
  refine j_iload_n 2 dX7_word_127 rfl rfl ?_
  refine j_if_eq 133 dX7_word_128 (by decide) hf (fun c_ hf => ?_) (fun c_ hf => ?_)
  · refine j_iinc (x1 + (1 : Int32)) [some (va_rf x0), some (.int (x1 + (1 : Int32))), some (.int x2), none] dX7_word_133 rfl rfl (cz (va_rf_cat _)) rfl rfl ?_
    refine j_goto 36 dX7_word_136 (by decide) ?_
    refine j_weak [some (va_rf x0), some (.int (x1 + (1 : Int32))), none, none] (Wk.k (Wk.k (Wk.s (Wk.k Wk.n)))) ?_
    exact hk36 x0 (x1 + (1 : Int32)) h hf
  · refine j_iload_n 1 dX7_word_131 rfl rfl ?_
    have e9 := Option.some.inj hf
    subst e9
    exact j_iret rfl dX7_word_132
def f_X7_word_B120 (k36 : Option Nat → Int32 → PH → Option (Int32 × PH)) (k74 : Option Nat → Int32 → Int32 → Int32 → PH → Option (Int32 × PH)) (x0 : Option Nat) (x1 : Int32) (x3 : Int32) (t0 : Int32) (h : PH) : Option (Int32 × PH) := k74 x0 x1 t0 (x3 + (1 : Int32)) h
theorem pf_X7_word_B120 {Γ : GX} {D : va_G} {h0 : PH} {o : Int32 × PH} (k36 : Option Nat → Int32 → PH → Option (Int32 × PH)) (hk36 : ∀ (x0 : Option Nat) (x1 : Int32) (h : PH), k36 x0 x1 h = some o → PF Γ mi_X7_word D h0 (QR Γ D h0 (ovi o.1) o.2) h 36 [some (va_rf x0), some (.int x1), none, none] []) (k74 : Option Nat → Int32 → Int32 → Int32 → PH → Option (Int32 × PH)) (hk74 : ∀ (x0 : Option Nat) (x1 : Int32) (x2 : Int32) (x3 : Int32) (h : PH), k74 x0 x1 x2 x3 h = some o → PF Γ mi_X7_word D h0 (QR Γ D h0 (ovi o.1) o.2) h 74 [some (va_rf x0), some (.int x1), some (.int x2), some (.int x3)] []) (x0 : Option Nat) (x1 : Int32) (x3 : Int32) (t0 : Int32) (h : PH) (hf : f_X7_word_B120 k36 k74 x0 x1 x3 t0 h = some o) : PF Γ mi_X7_word D h0 (QR Γ D h0 (ovi o.1) o.2) h 120 [some (va_rf x0), some (.int x1), none, some (.int x3)] [.int t0] := by
  refine j_istore_n 2 [some (va_rf x0), some (.int x1), some (.int t0), some (.int x3)] dX7_word_120 rfl (cz rfl) rfl rfl ?_
  refine j_iinc (x3 + (1 : Int32)) [some (va_rf x0), some (.int x1), some (.int t0), some (.int (x3 + (1 : Int32)))] dX7_word_121 rfl rfl (cz rfl) rfl rfl ?_
  refine j_goto 74 dX7_word_124 (by decide) ?_
  exact hk74 x0 x1 t0 (x3 + (1 : Int32)) h hf
def f_X7_word_L74 (k36 : Option Nat → Int32 → PH → Option (Int32 × PH)) : Nat → Option Nat → Int32 → Int32 → Int32 → PH → Option (Int32 × PH)
  | 0, _, _, _, _, _ => none
  | n + 1, x0, x1, x2, x3, h => (if x2 = 0 then (f_X7_word_B127 k36 x0 x1 x2 h) else (gR h x0 6 11 fun r16 => aQ h r16 7 x1 fun r17 => rv_ h r17 22 (cl_ (f_J9_length r17 h) fun v19 h18 => (if v19 ≤ x3 then (f_X7_word_B127 k36 x0 x1 x2 h18) else (gR h18 x0 6 11 fun r20 => aQ h18 r20 7 x1 fun r21 => rv_ h18 r21 22 (cl_ (f_J9_charAt r21 x3 h18) fun v23 h22 => gR h22 x0 6 2 fun r24 => gI h22 x0 6 5 fun v25 => aI h22 r24 0 (v25 + x3) fun v26 => (if v23 = v26 then (f_X7_word_B120 k36 (f_X7_word_L74 k36 n) x0 x1 x3 (1 : Int32) h22) else (f_X7_word_B120 k36 (f_X7_word_L74 k36 n) x0 x1 x3 (0 : Int32) h22))))))))
theorem pf_X7_word_L74 {Γ : GX} {D : va_G} {h0 : PH} {o : Int32 × PH} (k36 : Option Nat → Int32 → PH → Option (Int32 × PH)) (hk36 : ∀ (x0 : Option Nat) (x1 : Int32) (h : PH), k36 x0 x1 h = some o → PF Γ mi_X7_word D h0 (QR Γ D h0 (ovi o.1) o.2) h 36 [some (va_rf x0), some (.int x1), none, none] []) : ∀ (n : Nat) (x0 : Option Nat) (x1 : Int32) (x2 : Int32) (x3 : Int32) (h : PH), f_X7_word_L74 k36 n x0 x1 x2 x3 h = some o → PF Γ mi_X7_word D h0 (QR Γ D h0 (ovi o.1) o.2) h 74 [some (va_rf x0), some (.int x1), some (.int x2), some (.int x3)] [] := by
  intro n
  induction n with
  | zero => intro x0 x1 x2 x3 h hf; cases hf
  | succ n ih =>
    intro x0 x1 x2 x3 h hf
    refine j_iload_n 2 dX7_word_74 rfl rfl ?_
    refine j_if_eq 127 dX7_word_75 (by decide) hf (fun c_ hf => ?_) (fun c_ hf => ?_)
    · refine j_weak [some (va_rf x0), some (.int x1), some (.int x2), none] (Wk.k (Wk.k (Wk.k (Wk.s Wk.n)))) ?_
      exact pf_X7_word_B127 k36 hk36 x0 x1 x2 h hf
    · refine j_iload_n 3 dX7_word_78 rfl rfl ?_
      refine j_aload_n 0 dX7_word_79 rfl rfl ?_
      refine j_gR (ci := 6) (k := 11) rfl in_X7 rfl q2213 dX7_word_80 hf (fun r16 hf => ?_)
      refine j_iload_n 1 dX7_word_83 rfl rfl ?_
      refine j_aald (t := 7) rfl dX7_word_84 hf (fun r17 hf => ?_)
      refine kc_X7_122 rfl rfl rfl (by simp [va_rf_cat, cat_i, cat_l]) dX7_word_85 hf (fun v19 h18 hf => ?_)
      refine j_icmp_ge 127 dX7_word_88 (by decide) hf (fun c_ hf => ?_) (fun c_ hf => ?_)
      · refine j_weak [some (va_rf x0), some (.int x1), some (.int x2), none] (Wk.k (Wk.k (Wk.k (Wk.s Wk.n)))) ?_
        exact pf_X7_word_B127 k36 hk36 x0 x1 x2 h18 hf
      · refine j_aload_n 0 dX7_word_91 rfl rfl ?_
        refine j_gR (ci := 6) (k := 11) rfl in_X7 rfl q2213 dX7_word_92 hf (fun r20 hf => ?_)
        refine j_iload_n 1 dX7_word_95 rfl rfl ?_
        refine j_aald (t := 7) rfl dX7_word_96 hf (fun r21 hf => ?_)
        refine j_iload_n 3 dX7_word_97 rfl rfl ?_
        refine kc_X7_124 rfl rfl rfl (by decide) dX7_word_98 hf (fun v23 h22 hf => ?_)
        refine j_aload_n 0 dX7_word_101 rfl rfl ?_
        refine j_gR (ci := 6) (k := 2) rfl in_X7 rfl q2204 dX7_word_102 hf (fun r24 hf => ?_)
        refine j_aload_n 0 dX7_word_105 rfl rfl ?_
        refine j_gI (ci := 6) (k := 5) rfl in_X7 rfl q2207 dX7_word_106 hf (fun v25 hf => ?_)
        refine j_iload_n 3 dX7_word_109 rfl rfl ?_
        refine j_iadd dX7_word_110 ?_
        refine j_iald dX7_word_111 hf (fun v26 hf => ?_)
        refine j_icmp_ne 119 dX7_word_112 (by decide) hf (fun c_ hf => ?_) (fun c_ hf => ?_)
        · refine j_iconst (0 : Int32) dX7_word_119 (by decide) ?_
          refine j_weak [some (va_rf x0), some (.int x1), none, some (.int x3)] (Wk.k (Wk.k (Wk.s (Wk.k Wk.n)))) ?_
          exact pf_X7_word_B120 k36 hk36 (f_X7_word_L74 k36 n) ih x0 x1 x3 (0 : Int32) h22 hf
        · refine j_iconst (1 : Int32) dX7_word_115 (by decide) ?_
          refine j_goto 120 dX7_word_116 (by decide) ?_
          refine j_weak [some (va_rf x0), some (.int x1), none, some (.int x3)] (Wk.k (Wk.k (Wk.s (Wk.k Wk.n)))) ?_
          exact pf_X7_word_B120 k36 hk36 (f_X7_word_L74 k36 n) ih x0 x1 x3 (1 : Int32) h22 hf
def f_X7_word_B71 (k36 : Option Nat → Int32 → PH → Option (Int32 × PH)) (x0 : Option Nat) (x1 : Int32) (t0 : Int32) (h : PH) : Option (Int32 × PH) := f_X7_word_L74 k36 FU x0 x1 t0 (0 : Int32) h
theorem pf_X7_word_B71 {Γ : GX} {D : va_G} {h0 : PH} {o : Int32 × PH} (k36 : Option Nat → Int32 → PH → Option (Int32 × PH)) (hk36 : ∀ (x0 : Option Nat) (x1 : Int32) (h : PH), k36 x0 x1 h = some o → PF Γ mi_X7_word D h0 (QR Γ D h0 (ovi o.1) o.2) h 36 [some (va_rf x0), some (.int x1), none, none] []) (x0 : Option Nat) (x1 : Int32) (t0 : Int32) (h : PH) (hf : f_X7_word_B71 k36 x0 x1 t0 h = some o) : PF Γ mi_X7_word D h0 (QR Γ D h0 (ovi o.1) o.2) h 71 [some (va_rf x0), some (.int x1), none, none] [.int t0] := by
  refine j_istore_n 2 [some (va_rf x0), some (.int x1), some (.int t0), none] dX7_word_71 rfl (cz rfl) rfl rfl ?_
  refine j_iconst (0 : Int32) dX7_word_72 (by decide) ?_
  refine j_istore_n 3 [some (va_rf x0), some (.int x1), some (.int t0), some (.int (0 : Int32))] dX7_word_73 rfl (cz rfl) rfl rfl ?_
  exact pf_X7_word_L74 k36 hk36 FU x0 x1 t0 (0 : Int32) h hf
def f_X7_word_L36 : Nat → Option Nat → Int32 → PH → Option (Int32 × PH)
  | 0, _, _, _ => none
  | n + 1, x0, x1, h => gR h x0 6 11 fun r8 => aN h r8 7 fun v9 => (if v9 ≤ x1 then (some ((-4 : Int32), h)) else (gR h x0 6 11 fun r10 => aQ h r10 7 x1 fun r11 => rv_ h r11 22 (cl_ (f_J9_length r11 h) fun v13 h12 => gI h12 x0 6 4 fun v14 => gI h12 x0 6 5 fun v15 => (if v13 = (v14 - v15) then (f_X7_word_B71 (f_X7_word_L36 n) x0 x1 (1 : Int32) h12) else (f_X7_word_B71 (f_X7_word_L36 n) x0 x1 (0 : Int32) h12)))))
theorem pf_X7_word_L36 {Γ : GX} {D : va_G} {h0 : PH} {o : Int32 × PH} : ∀ (n : Nat) (x0 : Option Nat) (x1 : Int32) (h : PH), f_X7_word_L36 n x0 x1 h = some o → PF Γ mi_X7_word D h0 (QR Γ D h0 (ovi o.1) o.2) h 36 [some (va_rf x0), some (.int x1), none, none] [] := by
  intro n
  induction n with
  | zero => intro x0 x1 h hf; cases hf
  | succ n ih =>
    intro x0 x1 h hf
    refine j_iload_n 1 dX7_word_36 rfl rfl ?_
    refine j_aload_n 0 dX7_word_37 rfl rfl ?_
    refine j_gR (ci := 6) (k := 11) rfl in_X7 rfl q2213 dX7_word_38 hf (fun r8 hf => ?_)
    refine j_alen (t := 7) rfl dX7_word_41 hf (fun v9 hf => ?_)
    refine j_icmp_ge 139 dX7_word_42 (by decide) hf (fun c_ hf => ?_) (fun c_ hf => ?_)
    · refine j_bipush (-4 : Int32) dX7_word_139 (by decide) ?_
      have e9 := Option.some.inj hf
      subst e9
      exact j_iret rfl dX7_word_141
    · refine j_aload_n 0 dX7_word_45 rfl rfl ?_
      refine j_gR (ci := 6) (k := 11) rfl in_X7 rfl q2213 dX7_word_46 hf (fun r10 hf => ?_)
      refine j_iload_n 1 dX7_word_49 rfl rfl ?_
      refine j_aald (t := 7) rfl dX7_word_50 hf (fun r11 hf => ?_)
      refine kc_X7_122 rfl rfl rfl (by decide) dX7_word_51 hf (fun v13 h12 hf => ?_)
      refine j_aload_n 0 dX7_word_54 rfl rfl ?_
      refine j_gI (ci := 6) (k := 4) rfl in_X7 rfl q2206 dX7_word_55 hf (fun v14 hf => ?_)
      refine j_aload_n 0 dX7_word_58 rfl rfl ?_
      refine j_gI (ci := 6) (k := 5) rfl in_X7 rfl q2207 dX7_word_59 hf (fun v15 hf => ?_)
      refine j_isub dX7_word_62 ?_
      refine j_icmp_ne 70 dX7_word_63 (by decide) hf (fun c_ hf => ?_) (fun c_ hf => ?_)
      · refine j_iconst (0 : Int32) dX7_word_70 (by decide) ?_
        exact pf_X7_word_B71 (f_X7_word_L36 n) ih x0 x1 (0 : Int32) h12 hf
      · refine j_iconst (1 : Int32) dX7_word_66 (by decide) ?_
        refine j_goto 71 dX7_word_67 (by decide) ?_
        exact pf_X7_word_B71 (f_X7_word_L36 n) ih x0 x1 (1 : Int32) h12 hf
def f_X7_word_L4 : Nat → Option Nat → PH → Option (Int32 × PH)
  | 0, _, _ => none
  | n + 1, x0, h => rv_ h x0 6 (cl_ (f_X7_here x0 h) fun v3 h2 => cl_ (f_X7_in (v3.toInt64) (97 : Int64) (122 : Int64) h2) fun v5 h4 => (if v5 = 0 then (f_X7_word_L36 FU x0 (0 : Int32) h4) else (gI h4 x0 6 4 fun v6 => pV h4 x0 6 4 (.int (v6 + (1 : Int32))) fun h7 => f_X7_word_L4 n x0 h7)))
theorem pf_X7_word_L4 {Γ : GX} {D : va_G} {h0 : PH} {o : Int32 × PH} : ∀ (n : Nat) (x0 : Option Nat) (h : PH), f_X7_word_L4 n x0 h = some o → PF Γ mi_X7_word D h0 (QR Γ D h0 (ovi o.1) o.2) h 4 [some (va_rf x0), none, none, none] [] := by
  intro n
  induction n with
  | zero => intro x0 h hf; cases hf
  | succ n ih =>
    intro x0 h hf
    refine j_aload_n 0 dX7_word_4 rfl rfl ?_
    refine kc_X7_84 rfl rfl rfl (by decide) dX7_word_5 hf (fun v3 h2 hf => ?_)
    refine j_i2l dX7_word_8 ?_
    refine j_ldc2 q2294 dX7_word_9 ?_
    refine j_ldc2 q2295 dX7_word_12 ?_
    refine kc_X7_68 rfl rfl rfl (by decide) dX7_word_15 hf (fun v5 h4 hf => ?_)
    refine j_if_eq 34 dX7_word_18 (by decide) hf (fun c_ hf => ?_) (fun c_ hf => ?_)
    · refine j_iconst (0 : Int32) dX7_word_34 (by decide) ?_
      refine j_istore_n 1 [some (va_rf x0), some (.int (0 : Int32)), none, none] dX7_word_35 rfl (cz (va_rf_cat _)) rfl rfl ?_
      exact pf_X7_word_L36 FU x0 (0 : Int32) h4 hf
    · refine j_aload_n 0 dX7_word_21 rfl rfl ?_
      refine j_dup dX7_word_22 (va_rf_cat _) ?_
      refine j_gI (ci := 6) (k := 4) rfl in_X7 rfl q2206 dX7_word_23 hf (fun v6 hf => ?_)
      refine j_iconst (1 : Int32) dX7_word_26 (by decide) ?_
      refine j_iadd dX7_word_27 ?_
      refine j_pV (ci := 6) (k := 4) tyX7 tyX7_ok nmX7 rfl in_X7 rfl q2206 (Or.inl rfl) rfl (fit_i _) dX7_word_28 hf (fun h7 hf => ?_)
      refine j_goto 4 dX7_word_31 (by decide) ?_
      exact ih x0 h7 hf
def f_X7_word (r0 : Option Nat) (h0 : PH) : Option (Int32 × PH) := rv_ h0 r0 6 (cl_ (f_X7_looks r0 h0) fun _u h1 => f_X7_word_L4 FU r0 h1)
theorem hyS_X7_word : yX7_word.cls ≠ "java/lang/invoke/MethodHandle" ∧ yX7_word.cls ≠ "java/lang/invoke/VarHandle" ∧ (parseMethodDescriptor yX7_word.desc).map (fun d => d.parameters.length) = some 0 := by decide +kernel
theorem hyV_X7_word : yX7_word.cls = RX7 ∧ yX7_word.cls ≠ "java/lang/invoke/MethodHandle" ∧ yX7_word.cls ≠ "java/lang/invoke/VarHandle" ∧ (parseMethodDescriptor yX7_word.desc).map (fun d => d.parameters.length) = some 0 := by decide +kernel
theorem c_X7_word {D : va_G} (r0 : Option Nat) {h0 : PH} (l : Launch) (hl : l.stackTraces = false) (x : Int32) (h1 : PH) (hf : f_X7_word r0 h0 = some (x, h1)) : CT l D yX7_word (ws_ yX7_word cX7_word 4 (Option.some FieldType.int)) 4 85 [va_rf r0] h0 (ovi x) h1 := by
  refine ct_of hl [some (va_rf r0), none, none, none] (by decide) (by rw [lgl]; simp [va_rf_cat, cat_i, cat_l]) (by simp [lv_args, vsL, va_rf_cat, cat_i, cat_l]) (fun Γ => ?_)
  obtain ⟨o, ho⟩ : ∃ o : Int32 × PH, o = (x, h1) := ⟨_, rfl⟩
  rw [← ho] at hf
  have e1 : x = o.1 := by rw [ho]
  have e2 : h1 = o.2 := by rw [ho]
  subst e1 e2
  clear ho
  show PF Γ mi_X7_word D h0 (QR Γ D h0 (ovi o.1) o.2) h0 0 [some (va_rf r0), none, none, none] []
  unfold f_X7_word at hf
  refine j_aload_n 0 dX7_word_0 rfl rfl ?_
  refine kc_X7_97 rfl rfl rfl (by decide) dX7_word_1 hf (fun _u h1 hf => ?_)
  exact pf_X7_word_L4 FU r0 h1 hf
abbrev mi_X7_nodeClock : MI := (cX7_nodeClock, 2, RX7, (Option.some FieldType.int), [], 2, 46, "nodeClock")
def f_X7_nodeClock_B17 (t0 : Int32) (h : PH) : Option (Int32 × PH) := some (t0, h)
theorem pf_X7_nodeClock_B17 {Γ : GX} {D : va_G} {h0 : PH} {o : Int32 × PH} (t0 : Int32) (h : PH) (hf : f_X7_nodeClock_B17 t0 h = some o) : PF Γ mi_X7_nodeClock D h0 (QR Γ D h0 (ovi o.1) o.2) h 17 [none, none] [.int t0] := by
  have e9 := Option.some.inj hf
  subst e9
  exact j_iret rfl dX7_nodeClock_17
def f_X7_nodeClock (r0 : Option Nat) (p0 : Int32) (h0 : PH) : Option (Int32 × PH) := rv_ h0 r0 6 (cl_ (f_X7_noNode r0 p0 h0) fun v2 h1 => (if v2 = 0 then (rv_ h1 r0 6 (cl_ (f_X7_clock r0 p0 h1) fun v4 h3 => f_X7_nodeClock_B17 v4 h3)) else (f_X7_nodeClock_B17 (0 : Int32) h1)))
theorem hyS_X7_nodeClock : yX7_nodeClock.cls ≠ "java/lang/invoke/MethodHandle" ∧ yX7_nodeClock.cls ≠ "java/lang/invoke/VarHandle" ∧ (parseMethodDescriptor yX7_nodeClock.desc).map (fun d => d.parameters.length) = some 1 := by decide +kernel
theorem hyV_X7_nodeClock : yX7_nodeClock.cls = RX7 ∧ yX7_nodeClock.cls ≠ "java/lang/invoke/MethodHandle" ∧ yX7_nodeClock.cls ≠ "java/lang/invoke/VarHandle" ∧ (parseMethodDescriptor yX7_nodeClock.desc).map (fun d => d.parameters.length) = some 1 := by decide +kernel
theorem c_X7_nodeClock {D : va_G} (r0 : Option Nat) (p0 : Int32) {h0 : PH} (l : Launch) (hl : l.stackTraces = false) (x : Int32) (h1 : PH) (hf : f_X7_nodeClock r0 p0 h0 = some (x, h1)) : CT l D yX7_nodeClock (ws_ yX7_nodeClock cX7_nodeClock 2 (Option.some FieldType.int)) 2 46 [va_rf r0, .int p0] h0 (ovi x) h1 := by
  refine ct_of hl [some (va_rf r0), some (.int p0)] (by decide) (by rw [lgl]; simp [va_rf_cat, cat_i, cat_l]) (by simp [lv_args, vsL, va_rf_cat, cat_i, cat_l]) (fun Γ => ?_)
  obtain ⟨o, ho⟩ : ∃ o : Int32 × PH, o = (x, h1) := ⟨_, rfl⟩
  rw [← ho] at hf
  have e1 : x = o.1 := by rw [ho]
  have e2 : h1 = o.2 := by rw [ho]
  subst e1 e2
  clear ho
  show PF Γ mi_X7_nodeClock D h0 (QR Γ D h0 (ovi o.1) o.2) h0 0 [some (va_rf r0), some (.int p0)] []
  unfold f_X7_nodeClock at hf
  refine j_aload_n 0 dX7_nodeClock_0 rfl rfl ?_
  refine j_iload_n 1 dX7_nodeClock_1 rfl rfl ?_
  refine kc_X7_172 rfl rfl rfl (by decide) dX7_nodeClock_2 hf (fun v2 h1 hf => ?_)
  refine j_if_eq 12 dX7_nodeClock_5 (by decide) hf (fun c_ hf => ?_) (fun c_ hf => ?_)
  · refine j_aload_n 0 dX7_nodeClock_12 rfl rfl ?_
    refine j_iload_n 1 dX7_nodeClock_13 rfl rfl ?_
    refine kc_X7_162 rfl rfl rfl (by decide) dX7_nodeClock_14 hf (fun v4 h3 hf => ?_)
    refine j_weak [none, none] (Wk.s (Wk.s Wk.n)) ?_
    exact pf_X7_nodeClock_B17 v4 h3 hf
  · refine j_iconst (0 : Int32) dX7_nodeClock_8 (by decide) ?_
    refine j_goto 17 dX7_nodeClock_9 (by decide) ?_
    refine j_weak [none, none] (Wk.s (Wk.s Wk.n)) ?_
    exact pf_X7_nodeClock_B17 (0 : Int32) h1 hf
abbrev mi_X7_passes : MI := (cX7_passes, 7, RX7, none, [], 3, 64, "passes")
def f_X7_passes_B152 (x0 : Option Nat) (x1 : Int32) (t0 : Option Nat) (t1 : Int32) (t2 : Int32) (h : PH) : Option (Unit × PH) := sI h t0 0 t1 t2 fun h21 => gR h21 x0 6 0 fun r22 => gR h21 x0 6 0 fun r23 => aI h21 r23 0 (34 : Int32) fun v24 => gR h21 x0 6 0 fun r25 => aI h21 r25 0 (33 : Int32) fun v26 => sI h21 r22 0 (34 : Int32) (if v24 < v26 then v26 else v24) fun h27 => gR h27 x0 6 0 fun r28 => sI h27 r28 0 (0 : Int32) x1 fun h29 => some ((), h29)
theorem pf_X7_passes_B152 {Γ : GX} {D : va_G} {h0 : PH} {o : Unit × PH} (x0 : Option Nat) (x1 : Int32) (t0 : Option Nat) (t1 : Int32) (t2 : Int32) (h : PH) (hf : f_X7_passes_B152 x0 x1 t0 t1 t2 h = some o) : PF Γ mi_X7_passes D h0 (QR Γ D h0 (ovv o.1) o.2) h 152 [some (va_rf x0), some (.int x1), none, none, none, none, none] [.int t2, .int t1, va_rf t0] := by
  refine j_iast dX7_passes_152 hf (fun h21 hf => ?_)
  refine j_aload_n 0 dX7_passes_153 rfl rfl ?_
  refine j_gR (ci := 6) (k := 0) rfl in_X7 rfl q2202 dX7_passes_154 hf (fun r22 hf => ?_)
  refine j_bipush (34 : Int32) dX7_passes_157 (by decide) ?_
  refine j_aload_n 0 dX7_passes_159 rfl rfl ?_
  refine j_gR (ci := 6) (k := 0) rfl in_X7 rfl q2202 dX7_passes_160 hf (fun r23 hf => ?_)
  refine j_bipush (34 : Int32) dX7_passes_163 (by decide) ?_
  refine j_iald dX7_passes_165 hf (fun v24 hf => ?_)
  refine j_aload_n 0 dX7_passes_166 rfl rfl ?_
  refine j_gR (ci := 6) (k := 0) rfl in_X7 rfl q2202 dX7_passes_167 hf (fun r25 hf => ?_)
  refine j_bipush (33 : Int32) dX7_passes_170 (by decide) ?_
  refine j_iald dX7_passes_172 hf (fun v26 hf => ?_)
  refine j_mmax q2407 q288 q106 q289 rfl rfl (by simp [va_rf_cat, cat_i, cat_l]) dX7_passes_173 ?_
  refine j_iast dX7_passes_176 hf (fun h27 hf => ?_)
  refine j_aload_n 0 dX7_passes_177 rfl rfl ?_
  refine j_gR (ci := 6) (k := 0) rfl in_X7 rfl q2202 dX7_passes_178 hf (fun r28 hf => ?_)
  refine j_iconst (0 : Int32) dX7_passes_181 (by decide) ?_
  refine j_iload_n 1 dX7_passes_182 rfl rfl ?_
  refine j_iast dX7_passes_183 hf (fun h29 hf => ?_)
  have e9 := Option.some.inj hf
  subst e9
  exact j_vret rfl dX7_passes_184
def f_X7_passes_B91 (k15 : Option Nat → Int32 → Int32 → Int32 → Int32 → Int32 → PH → Option (Unit × PH)) (x0 : Option Nat) (x1 : Int32) (x2 : Int32) (x3 : Int32) (x4 : Int32) (x5 : Int32) (h : PH) : Option (Unit × PH) := k15 x0 x1 x2 x3 x4 (x5 + (1 : Int32)) h
theorem pf_X7_passes_B91 {Γ : GX} {D : va_G} {h0 : PH} {o : Unit × PH} (k15 : Option Nat → Int32 → Int32 → Int32 → Int32 → Int32 → PH → Option (Unit × PH)) (hk15 : ∀ (x0 : Option Nat) (x1 : Int32) (x2 : Int32) (x3 : Int32) (x4 : Int32) (x5 : Int32) (h : PH), k15 x0 x1 x2 x3 x4 x5 h = some o → PF Γ mi_X7_passes D h0 (QR Γ D h0 (ovv o.1) o.2) h 15 [some (va_rf x0), some (.int x1), some (.int x2), some (.int x3), some (.int x4), some (.int x5), none] []) (x0 : Option Nat) (x1 : Int32) (x2 : Int32) (x3 : Int32) (x4 : Int32) (x5 : Int32) (h : PH) (hf : f_X7_passes_B91 k15 x0 x1 x2 x3 x4 x5 h = some o) : PF Γ mi_X7_passes D h0 (QR Γ D h0 (ovv o.1) o.2) h 91 [some (va_rf x0), some (.int x1), some (.int x2), some (.int x3), some (.int x4), some (.int x5), none] [] := by
  refine j_iinc (x5 + (1 : Int32)) [some (va_rf x0), some (.int x1), some (.int x2), some (.int x3), some (.int x4), some (.int (x5 + (1 : Int32))), none] dX7_passes_91 rfl rfl (cz rfl) rfl rfl ?_
  refine j_goto 15 dX7_passes_94 (by decide) ?_
  exact hk15 x0 x1 x2 x3 x4 (x5 + (1 : Int32)) h hf
def f_X7_passes_L15 : Nat → Option Nat → Int32 → Int32 → Int32 → Int32 → Int32 → PH → Option (Unit × PH)
  | 0, _, _, _, _, _, _, _ => none
  | n + 1, x0, x1, x2, x3, x4, x5, h => gR h x0 6 0 fun r3 => aI h r3 0 (2 : Int32) fun v4 => (if v4 ≤ x5 then (gR h x0 6 0 fun r5 => aI h r5 0 (17 : Int32) fun v6 => sI h r5 0 (17 : Int32) (v6 + (x4 - x2)) fun h7 => gR h7 x0 6 0 fun r8 => aI h7 r8 0 (23 : Int32) fun v9 => sI h7 r8 0 (23 : Int32) (v9 + (x1 - x3)) fun h10 => gR h10 x0 6 0 fun r11 => (if x3 = x2 then (gR h10 x0 6 0 fun r12 => aI h10 r12 0 (33 : Int32) fun v13 => f_X7_passes_B152 x0 x1 r11 (33 : Int32) ((v13 + x1) - x2) h10) else (f_X7_passes_B152 x0 x1 r11 (33 : Int32) (x1 - x3) h10))) else (rv_ h x0 6 (cl_ (f_X7_leads x0 x5 h) fun v15 h14 => (if v15 = 0 then (f_X7_passes_B91 (f_X7_passes_L15 n) x0 x1 x2 x3 x4 x5 h14) else (rv_ h14 x0 6 (cl_ (f_X7_endOf x0 x5 h14) fun v17 h16 => rv_ h16 x0 6 (cl_ (f_X7_of x0 x5 (10 : Int32) h16) fun v19 h18 => rv_ h18 x0 6 (cl_ (f_X7_puts x0 x5 (10 : Int32) ((v19 + (if v17 < x1 then v17 else x1)) - x2) h18) fun _u h20 => f_X7_passes_B91 (f_X7_passes_L15 n) x0 x1 x2 (if x3 < (if v17 < x1 then v17 else x1) then (if v17 < x1 then v17 else x1) else x3) (if x4 < (if (if v17 < x1 then v17 else x1) < x3 then (if v17 < x1 then v17 else x1) else x3) then (if (if v17 < x1 then v17 else x1) < x3 then (if v17 < x1 then v17 else x1) else x3) else x4) x5 h20))))))))
theorem pf_X7_passes_L15 {Γ : GX} {D : va_G} {h0 : PH} {o : Unit × PH} : ∀ (n : Nat) (x0 : Option Nat) (x1 : Int32) (x2 : Int32) (x3 : Int32) (x4 : Int32) (x5 : Int32) (h : PH), f_X7_passes_L15 n x0 x1 x2 x3 x4 x5 h = some o → PF Γ mi_X7_passes D h0 (QR Γ D h0 (ovv o.1) o.2) h 15 [some (va_rf x0), some (.int x1), some (.int x2), some (.int x3), some (.int x4), some (.int x5), none] [] := by
  intro n
  induction n with
  | zero => intro x0 x1 x2 x3 x4 x5 h hf; cases hf
  | succ n ih =>
    intro x0 x1 x2 x3 x4 x5 h hf
    refine j_iload dX7_passes_15 rfl ?_
    refine j_aload_n 0 dX7_passes_17 rfl rfl ?_
    refine j_gR (ci := 6) (k := 0) rfl in_X7 rfl q2202 dX7_passes_18 hf (fun r3 hf => ?_)
    refine j_iconst (2 : Int32) dX7_passes_21 (by decide) ?_
    refine j_iald dX7_passes_22 hf (fun v4 hf => ?_)
    refine j_icmp_ge 97 dX7_passes_23 (by decide) hf (fun c_ hf => ?_) (fun c_ hf => ?_)
    · refine j_aload_n 0 dX7_passes_97 rfl rfl ?_
      refine j_gR (ci := 6) (k := 0) rfl in_X7 rfl q2202 dX7_passes_98 hf (fun r5 hf => ?_)
      refine j_bipush (17 : Int32) dX7_passes_101 (by decide) ?_
      refine j_dup2 dX7_passes_103 rfl (va_rf_cat _) ?_
      refine j_iald dX7_passes_104 hf (fun v6 hf => ?_)
      refine j_iload dX7_passes_105 rfl ?_
      refine j_iload_n 2 dX7_passes_107 rfl rfl ?_
      refine j_isub dX7_passes_108 ?_
      refine j_iadd dX7_passes_109 ?_
      refine j_iast dX7_passes_110 hf (fun h7 hf => ?_)
      refine j_aload_n 0 dX7_passes_111 rfl rfl ?_
      refine j_gR (ci := 6) (k := 0) rfl in_X7 rfl q2202 dX7_passes_112 hf (fun r8 hf => ?_)
      refine j_bipush (23 : Int32) dX7_passes_115 (by decide) ?_
      refine j_dup2 dX7_passes_117 rfl (va_rf_cat _) ?_
      refine j_iald dX7_passes_118 hf (fun v9 hf => ?_)
      refine j_iload_n 1 dX7_passes_119 rfl rfl ?_
      refine j_iload_n 3 dX7_passes_120 rfl rfl ?_
      refine j_isub dX7_passes_121 ?_
      refine j_iadd dX7_passes_122 ?_
      refine j_iast dX7_passes_123 hf (fun h10 hf => ?_)
      refine j_aload_n 0 dX7_passes_124 rfl rfl ?_
      refine j_gR (ci := 6) (k := 0) rfl in_X7 rfl q2202 dX7_passes_125 hf (fun r11 hf => ?_)
      refine j_bipush (33 : Int32) dX7_passes_128 (by decide) ?_
      refine j_iload_n 3 dX7_passes_130 rfl rfl ?_
      refine j_iload_n 2 dX7_passes_131 rfl rfl ?_
      refine j_icmp_ne 149 dX7_passes_132 (by decide) hf (fun c_ hf => ?_) (fun c_ hf => ?_)
      · refine j_iload_n 1 dX7_passes_149 rfl rfl ?_
        refine j_iload_n 3 dX7_passes_150 rfl rfl ?_
        refine j_isub dX7_passes_151 ?_
        refine j_weak [some (va_rf x0), some (.int x1), none, none, none, none, none] (Wk.k (Wk.k (Wk.s (Wk.s (Wk.s (Wk.s (Wk.k Wk.n))))))) ?_
        exact pf_X7_passes_B152 x0 x1 r11 (33 : Int32) (x1 - x3) h10 hf
      · refine j_aload_n 0 dX7_passes_135 rfl rfl ?_
        refine j_gR (ci := 6) (k := 0) rfl in_X7 rfl q2202 dX7_passes_136 hf (fun r12 hf => ?_)
        refine j_bipush (33 : Int32) dX7_passes_139 (by decide) ?_
        refine j_iald dX7_passes_141 hf (fun v13 hf => ?_)
        refine j_iload_n 1 dX7_passes_142 rfl rfl ?_
        refine j_iadd dX7_passes_143 ?_
        refine j_iload_n 2 dX7_passes_144 rfl rfl ?_
        refine j_isub dX7_passes_145 ?_
        refine j_goto 152 dX7_passes_146 (by decide) ?_
        refine j_weak [some (va_rf x0), some (.int x1), none, none, none, none, none] (Wk.k (Wk.k (Wk.s (Wk.s (Wk.s (Wk.s (Wk.k Wk.n))))))) ?_
        exact pf_X7_passes_B152 x0 x1 r11 (33 : Int32) ((v13 + x1) - x2) h10 hf
    · refine j_aload_n 0 dX7_passes_26 rfl rfl ?_
      refine j_iload dX7_passes_27 rfl ?_
      refine kc_X7_253 rfl rfl rfl (by decide) dX7_passes_29 hf (fun v15 h14 hf => ?_)
      refine j_if_ne 38 dX7_passes_32 (by decide) hf (fun c_ hf => ?_) (fun c_ hf => ?_)
      · refine j_iload_n 1 dX7_passes_38 rfl rfl ?_
        refine j_aload_n 0 dX7_passes_39 rfl rfl ?_
        refine j_iload dX7_passes_40 rfl ?_
        refine kc_X7_256 rfl rfl rfl (by simp [va_rf_cat, cat_i, cat_l]) dX7_passes_42 hf (fun v17 h16 hf => ?_)
        refine j_mmin q2383 q306 q106 q307 rfl rfl (by decide) dX7_passes_45 ?_
        refine j_istore [some (va_rf x0), some (.int x1), some (.int x2), some (.int x3), some (.int x4), some (.int x5), some (.int (if v17 < x1 then v17 else x1))] dX7_passes_48 (cz rfl) rfl rfl ?_
        refine j_aload_n 0 dX7_passes_50 rfl rfl ?_
        refine j_iload dX7_passes_51 rfl ?_
        refine j_bipush (10 : Int32) dX7_passes_53 (by decide) ?_
        refine j_aload_n 0 dX7_passes_55 rfl rfl ?_
        refine j_iload dX7_passes_56 rfl ?_
        refine j_bipush (10 : Int32) dX7_passes_58 (by decide) ?_
        refine kc_X7_152 rfl rfl rfl (by simp [va_rf_cat, cat_i, cat_l]) dX7_passes_60 hf (fun v19 h18 hf => ?_)
        refine j_iload dX7_passes_63 rfl ?_
        refine j_iadd dX7_passes_65 ?_
        refine j_iload_n 2 dX7_passes_66 rfl rfl ?_
        refine j_isub dX7_passes_67 ?_
        refine kc_X7_169 rfl rfl rfl (by decide) dX7_passes_68 hf (fun _u h20 hf => ?_)
        refine j_iload dX7_passes_71 rfl ?_
        refine j_iload_n 3 dX7_passes_73 rfl rfl ?_
        refine j_iload dX7_passes_74 rfl ?_
        refine j_mmin q2383 q306 q106 q307 rfl rfl (by simp [va_rf_cat, cat_i, cat_l]) dX7_passes_76 ?_
        refine j_mmax q2407 q288 q106 q289 rfl rfl (by decide) dX7_passes_79 ?_
        refine j_istore [some (va_rf x0), some (.int x1), some (.int x2), some (.int x3), some (.int (if x4 < (if (if v17 < x1 then v17 else x1) < x3 then (if v17 < x1 then v17 else x1) else x3) then (if (if v17 < x1 then v17 else x1) < x3 then (if v17 < x1 then v17 else x1) else x3) else x4)), some (.int x5), some (.int (if v17 < x1 then v17 else x1))] dX7_passes_82 (cz rfl) rfl rfl ?_
        refine j_iload_n 3 dX7_passes_84 rfl rfl ?_
        refine j_iload dX7_passes_85 rfl ?_
        refine j_mmax q2407 q288 q106 q289 rfl rfl (by decide) dX7_passes_87 ?_
        refine j_istore_n 3 [some (va_rf x0), some (.int x1), some (.int x2), some (.int (if x3 < (if v17 < x1 then v17 else x1) then (if v17 < x1 then v17 else x1) else x3)), some (.int (if x4 < (if (if v17 < x1 then v17 else x1) < x3 then (if v17 < x1 then v17 else x1) else x3) then (if (if v17 < x1 then v17 else x1) < x3 then (if v17 < x1 then v17 else x1) else x3) else x4)), some (.int x5), some (.int (if v17 < x1 then v17 else x1))] dX7_passes_90 rfl (cz rfl) rfl rfl ?_
        refine j_weak [some (va_rf x0), some (.int x1), some (.int x2), some (.int (if x3 < (if v17 < x1 then v17 else x1) then (if v17 < x1 then v17 else x1) else x3)), some (.int (if x4 < (if (if v17 < x1 then v17 else x1) < x3 then (if v17 < x1 then v17 else x1) else x3) then (if (if v17 < x1 then v17 else x1) < x3 then (if v17 < x1 then v17 else x1) else x3) else x4)), some (.int x5), none] (Wk.k (Wk.k (Wk.k (Wk.k (Wk.k (Wk.k (Wk.s Wk.n))))))) ?_
        exact pf_X7_passes_B91 (f_X7_passes_L15 n) ih x0 x1 x2 (if x3 < (if v17 < x1 then v17 else x1) then (if v17 < x1 then v17 else x1) else x3) (if x4 < (if (if v17 < x1 then v17 else x1) < x3 then (if v17 < x1 then v17 else x1) else x3) then (if (if v17 < x1 then v17 else x1) < x3 then (if v17 < x1 then v17 else x1) else x3) else x4) x5 h20 hf
      · refine j_goto 91 dX7_passes_35 (by decide) ?_
        exact pf_X7_passes_B91 (f_X7_passes_L15 n) ih x0 x1 x2 x3 x4 x5 h14 hf
def f_X7_passes (r0 : Option Nat) (p0 : Int32) (h0 : PH) : Option (Unit × PH) := gR h0 r0 6 0 fun r1 => aI h0 r1 0 (0 : Int32) fun v2 => f_X7_passes_L15 FU r0 p0 v2 v2 v2 (0 : Int32) h0
theorem hyS_X7_passes : yX7_passes.cls ≠ "java/lang/invoke/MethodHandle" ∧ yX7_passes.cls ≠ "java/lang/invoke/VarHandle" ∧ (parseMethodDescriptor yX7_passes.desc).map (fun d => d.parameters.length) = some 1 := by decide +kernel
theorem hyV_X7_passes : yX7_passes.cls = RX7 ∧ yX7_passes.cls ≠ "java/lang/invoke/MethodHandle" ∧ yX7_passes.cls ≠ "java/lang/invoke/VarHandle" ∧ (parseMethodDescriptor yX7_passes.desc).map (fun d => d.parameters.length) = some 1 := by decide +kernel
theorem c_X7_passes {D : va_G} (r0 : Option Nat) (p0 : Int32) {h0 : PH} (l : Launch) (hl : l.stackTraces = false) (x : Unit) (h1 : PH) (hf : f_X7_passes r0 p0 h0 = some (x, h1)) : CT l D yX7_passes (ws_ yX7_passes cX7_passes 7 none) 3 64 [va_rf r0, .int p0] h0 (ovv x) h1 := by
  refine ct_of hl [some (va_rf r0), some (.int p0), none, none, none, none, none] (by decide) (by rw [lgl]; simp [va_rf_cat, cat_i, cat_l]) (by simp [lv_args, vsL, va_rf_cat, cat_i, cat_l]) (fun Γ => ?_)
  obtain ⟨o, ho⟩ : ∃ o : Unit × PH, o = (x, h1) := ⟨_, rfl⟩
  rw [← ho] at hf
  have e1 : x = o.1 := by rw [ho]
  have e2 : h1 = o.2 := by rw [ho]
  subst e1 e2
  clear ho
  show PF Γ mi_X7_passes D h0 (QR Γ D h0 (ovv o.1) o.2) h0 0 [some (va_rf r0), some (.int p0), none, none, none, none, none] []
  unfold f_X7_passes at hf
  refine j_aload_n 0 dX7_passes_0 rfl rfl ?_
  refine j_gR (ci := 6) (k := 0) rfl in_X7 rfl q2202 dX7_passes_1 hf (fun r1 hf => ?_)
  refine j_iconst (0 : Int32) dX7_passes_4 (by decide) ?_
  refine j_iald dX7_passes_5 hf (fun v2 hf => ?_)
  refine j_istore_n 2 [some (va_rf r0), some (.int p0), some (.int v2), none, none, none, none] dX7_passes_6 rfl (cz rfl) rfl rfl ?_
  refine j_iload_n 2 dX7_passes_7 rfl rfl ?_
  refine j_istore_n 3 [some (va_rf r0), some (.int p0), some (.int v2), some (.int v2), none, none, none] dX7_passes_8 rfl (cz rfl) rfl rfl ?_
  refine j_iload_n 2 dX7_passes_9 rfl rfl ?_
  refine j_istore [some (va_rf r0), some (.int p0), some (.int v2), some (.int v2), some (.int v2), none, none] dX7_passes_10 (cz rfl) rfl rfl ?_
  refine j_iconst (0 : Int32) dX7_passes_12 (by decide) ?_
  refine j_istore [some (va_rf r0), some (.int p0), some (.int v2), some (.int v2), some (.int v2), some (.int (0 : Int32)), none] dX7_passes_13 (cz rfl) rfl rfl ?_
  exact pf_X7_passes_L15 FU r0 p0 v2 v2 v2 (0 : Int32) h0 hf
theorem kc_X7_197 {Γ : GX} {I : MI} {D : va_G} {h0 : PH} {Q : State → Prop} {h : PH} {pc : Nat} {vs : List (Option Value)} {rest : List Value} {β : Type} {o : β} {r : Option Nat} {p0 : Int32} {p1 : Int32} {K : ((Unit) → PH → Option β)} (hI : I.2.2.1 = RX7) (hfr : Nat.ble 3 I.2.2.2.2.2.1 = true) (hlo : Nat.ble 73 I.2.2.2.2.2.2.1 = true) (hW : (rest.map fun v => v.category).sum ≤ 8) (hd : decode I.1 pc = .ok (.invokevirtual 197, 3)) (hf : rv_ h r 6 (cl_ (f_X7_atServer r p0 p1 h) K) = some o) (kk : ∀ (x : Unit) (h1 : PH), K x h1 = some o → PF Γ I D h0 Q h1 (pc + 3) vs (rest)) : PF Γ I D h0 Q h pc vs (.int p1 :: .int p0 :: va_rf r :: rest) := by
  obtain ⟨cc, nL, own, rt, xt, fr, lo, nm⟩ := I
  cases hI
  exact j_cVv (n := 2) (y := yX7_atServer) (cc2 := cX7_atServer) (As := [.int p0, .int p1]) (C := RX7) (ci := 6) rfl (lw_V q2432 q2434 qs62 q117 q2435) hyV_X7_atServer hfr hlo rfl hW hd (c_X7_atServer r p0 p1) hf _ rfl kk
theorem kc_X7_200 {Γ : GX} {I : MI} {D : va_G} {h0 : PH} {Q : State → Prop} {h : PH} {pc : Nat} {vs : List (Option Value)} {rest : List Value} {β : Type} {o : β} {r : Option Nat} {p0 : Int32} {p1 : Int32} {K : ((Unit) → PH → Option β)} (hI : I.2.2.1 = RX7) (hfr : Nat.ble 2 I.2.2.2.2.2.1 = true) (hlo : Nat.ble 46 I.2.2.2.2.2.2.1 = true) (hW : (rest.map fun v => v.category).sum ≤ 8) (hd : decode I.1 pc = .ok (.invokevirtual 200, 3)) (hf : rv_ h r 6 (cl_ (f_X7_released r p0 p1 h) K) = some o) (kk : ∀ (x : Unit) (h1 : PH), K x h1 = some o → PF Γ I D h0 Q h1 (pc + 3) vs (rest)) : PF Γ I D h0 Q h pc vs (.int p1 :: .int p0 :: va_rf r :: rest) := by
  obtain ⟨cc, nL, own, rt, xt, fr, lo, nm⟩ := I
  cases hI
  exact j_cVv (n := 2) (y := yX7_released) (cc2 := cX7_released) (As := [.int p0, .int p1]) (C := RX7) (ci := 6) rfl (lw_V q2448 q2450 qs65 q117 q2451) hyV_X7_released hfr hlo rfl hW hd (c_X7_released r p0 p1) hf _ rfl kk
theorem kc_X7_203 {Γ : GX} {I : MI} {D : va_G} {h0 : PH} {Q : State → Prop} {h : PH} {pc : Nat} {vs : List (Option Value)} {rest : List Value} {β : Type} {o : β} {r : Option Nat} {p0 : Int32} {p1 : Int32} {p2 : Int32} {p3 : Int32} {K : ((Unit) → PH → Option β)} (hI : I.2.2.1 = RX7) (hfr : Nat.ble 4 I.2.2.2.2.2.1 = true) (hlo : Nat.ble 95 I.2.2.2.2.2.2.1 = true) (hW : (rest.map fun v => v.category).sum ≤ 8) (hd : decode I.1 pc = .ok (.invokevirtual 203, 3)) (hf : rv_ h r 6 (cl_ (f_X7_written r p0 p1 p2 p3 h) K) = some o) (kk : ∀ (x : Unit) (h1 : PH), K x h1 = some o → PF Γ I D h0 Q h1 (pc + 3) vs (rest)) : PF Γ I D h0 Q h pc vs (.int p3 :: .int p2 :: .int p1 :: .int p0 :: va_rf r :: rest) := by
  obtain ⟨cc, nL, own, rt, xt, fr, lo, nm⟩ := I
  cases hI
  exact j_cVv (n := 4) (y := yX7_written) (cc2 := cX7_written) (As := [.int p0, .int p1, .int p2, .int p3]) (C := RX7) (ci := 6) rfl (lw_V q2452 q2454 qs66 q117 q2455) hyV_X7_written hfr hlo rfl hW hd (c_X7_written r p0 p1 p2 p3) hf _ rfl kk
theorem kc_X7_207 {Γ : GX} {I : MI} {D : va_G} {h0 : PH} {Q : State → Prop} {h : PH} {pc : Nat} {vs : List (Option Value)} {rest : List Value} {β : Type} {o : β} {r : Option Nat} {p0 : Int32} {p1 : Int32} {p2 : Int32} {K : ((Unit) → PH → Option β)} (hI : I.2.2.1 = RX7) (hfr : Nat.ble 4 I.2.2.2.2.2.1 = true) (hlo : Nat.ble 94 I.2.2.2.2.2.2.1 = true) (hW : (rest.map fun v => v.category).sum ≤ 8) (hd : decode I.1 pc = .ok (.invokevirtual 207, 3)) (hf : rv_ h r 6 (cl_ (f_X7_fetched r p0 p1 p2 h) K) = some o) (kk : ∀ (x : Unit) (h1 : PH), K x h1 = some o → PF Γ I D h0 Q h1 (pc + 3) vs (rest)) : PF Γ I D h0 Q h pc vs (.int p2 :: .int p1 :: .int p0 :: va_rf r :: rest) := by
  obtain ⟨cc, nL, own, rt, xt, fr, lo, nm⟩ := I
  cases hI
  exact j_cVv (n := 3) (y := yX7_fetched) (cc2 := cX7_fetched) (As := [.int p0, .int p1, .int p2]) (C := RX7) (ci := 6) rfl (lw_V q2460 q2462 qs68 q117 q2463) hyV_X7_fetched hfr hlo rfl hW hd (c_X7_fetched r p0 p1 p2) hf _ rfl kk
theorem kc_X7_210 {Γ : GX} {I : MI} {D : va_G} {h0 : PH} {Q : State → Prop} {h : PH} {pc : Nat} {vs : List (Option Value)} {rest : List Value} {β : Type} {o : β} {r : Option Nat} {p0 : Int32} {p1 : Int32} {p2 : Int32} {K : ((Unit) → PH → Option β)} (hI : I.2.2.1 = RX7) (hfr : Nat.ble 3 I.2.2.2.2.2.1 = true) (hlo : Nat.ble 74 I.2.2.2.2.2.2.1 = true) (hW : (rest.map fun v => v.category).sum ≤ 8) (hd : decode I.1 pc = .ok (.invokevirtual 210, 3)) (hf : rv_ h r 6 (cl_ (f_X7_granted r p0 p1 p2 h) K) = some o) (kk : ∀ (x : Unit) (h1 : PH), K x h1 = some o → PF Γ I D h0 Q h1 (pc + 3) vs (rest)) : PF Γ I D h0 Q h pc vs (.int p2 :: .int p1 :: .int p0 :: va_rf r :: rest) := by
  obtain ⟨cc, nL, own, rt, xt, fr, lo, nm⟩ := I
  cases hI
  exact j_cVv (n := 3) (y := yX7_granted) (cc2 := cX7_granted) (As := [.int p0, .int p1, .int p2]) (C := RX7) (ci := 6) rfl (lw_V q2464 q2466 qs69 q117 q2467) hyV_X7_granted hfr hlo rfl hW hd (c_X7_granted r p0 p1 p2) hf _ rfl kk
theorem kc_X7_216 {Γ : GX} {I : MI} {D : va_G} {h0 : PH} {Q : State → Prop} {h : PH} {pc : Nat} {vs : List (Option Value)} {rest : List Value} {β : Type} {o : β} {r : Option Nat} {p0 : Int32} {p1 : Int32} {p2 : Int32} {p3 : Int32} {K : ((Unit) → PH → Option β)} (hI : I.2.2.1 = RX7) (hfr : Nat.ble 2 I.2.2.2.2.2.1 = true) (hlo : Nat.ble 47 I.2.2.2.2.2.2.1 = true) (hW : (rest.map fun v => v.category).sum ≤ 8) (hd : decode I.1 pc = .ok (.invokevirtual 216, 3)) (hf : rv_ h r 6 (cl_ (f_X7_caches r p0 p1 p2 p3 h) K) = some o) (kk : ∀ (x : Unit) (h1 : PH), K x h1 = some o → PF Γ I D h0 Q h1 (pc + 3) vs (rest)) : PF Γ I D h0 Q h pc vs (.int p3 :: .int p2 :: .int p1 :: .int p0 :: va_rf r :: rest) := by
  obtain ⟨cc, nL, own, rt, xt, fr, lo, nm⟩ := I
  cases hI
  exact j_cVv (n := 4) (y := yX7_caches) (cc2 := cX7_caches) (As := [.int p0, .int p1, .int p2, .int p3]) (C := RX7) (ci := 6) rfl (lw_V q2476 q2478 qs72 q117 q2479) hyV_X7_caches hfr hlo rfl hW hd (c_X7_caches r p0 p1 p2 p3) hf _ rfl kk
abbrev mi_X7_handles : MI := (cX7_handles, 6, RX7, none, [], 4, 95, "handles")
def f_X7_handles_B166  (h : PH) : Option (Unit × PH) := some ((), h)
theorem pf_X7_handles_B166 {Γ : GX} {D : va_G} {h0 : PH} {o : Unit × PH}  (h : PH) (hf : f_X7_handles_B166  h = some o) : PF Γ mi_X7_handles D h0 (QR Γ D h0 (ovv o.1) o.2) h 166 [none, none, none, none, none, none] [] := by
  have e9 := Option.some.inj hf
  subst e9
  exact j_vret rfl dX7_handles_166
def f_X7_handles (r0 : Option Nat) (p0 : Int32) (p1 : Int32) (p2 : Int32) (p3 : Int32) (p4 : Int32) (h0 : PH) : Option (Unit × PH) := (if p0 = (1 : Int32) then (rv_ h0 r0 6 (cl_ (f_X7_atServer r0 p1 p3 h0) fun _u h1 => f_X7_handles_B166 h1)) else (if p0 = (2 : Int32) then (rv_ h0 r0 6 (cl_ (f_X7_released r0 p1 p2 h0) fun _u h2 => f_X7_handles_B166 h2)) else (if p0 = (3 : Int32) then (rv_ h0 r0 6 (cl_ (f_X7_written r0 p1 p2 p3 p4 h0) fun _u h3 => f_X7_handles_B166 h3)) else (if p0 = (4 : Int32) then (rv_ h0 r0 6 (cl_ (f_X7_fetched r0 p1 p2 p3 h0) fun _u h4 => f_X7_handles_B166 h4)) else (if p0 = (5 : Int32) then (rv_ h0 r0 6 (cl_ (f_X7_granted r0 p1 p2 p3 h0) fun _u h5 => f_X7_handles_B166 h5)) else (if p0 = (6 : Int32) then (rv_ h0 r0 6 (cl_ (f_X7_of r0 p1 (5 : Int32) h0) fun v7 h6 => (if v7 = (1 : Int32) then (rv_ h6 r0 6 (cl_ (f_X7_clock r0 p1 h6) fun v9 h8 => gR h8 r0 6 0 fun r10 => aI h8 r10 0 (8 : Int32) fun v11 => rv_ h8 r0 6 (cl_ (f_X7_setsTimer r0 p1 (v9 + v11) h8) fun _u h12 => f_X7_handles_B166 h12))) else (f_X7_handles_B166 h6)))) else (if p0 = (7 : Int32) then (rv_ h0 r0 6 (cl_ (f_X7_caches r0 p1 p2 p3 p4 h0) fun _u h13 => f_X7_handles_B166 h13)) else (if p0 = (8 : Int32) then (rv_ h0 r0 6 (cl_ (f_X7_caches r0 p1 p2 p3 p4 h0) fun _u h14 => f_X7_handles_B166 h14)) else (if p0 = (9 : Int32) then (rv_ h0 r0 6 (cl_ (f_X7_of r0 p1 (7 : Int32) h0) fun v16 h15 => (if v16 = p2 then (rv_ h15 r0 6 (cl_ (f_X7_forgets r0 p1 h15) fun _u h17 => f_X7_handles_B166 h17)) else (f_X7_handles_B166 h15)))) else rv_ h0 r0 6 (cl_ (f_X7_caches r0 p1 p2 p3 p4 h0) fun _u h18 => f_X7_handles_B166 h18))))))))))
theorem hyS_X7_handles : yX7_handles.cls ≠ "java/lang/invoke/MethodHandle" ∧ yX7_handles.cls ≠ "java/lang/invoke/VarHandle" ∧ (parseMethodDescriptor yX7_handles.desc).map (fun d => d.parameters.length) = some 5 := by decide +kernel
theorem hyV_X7_handles : yX7_handles.cls = RX7 ∧ yX7_handles.cls ≠ "java/lang/invoke/MethodHandle" ∧ yX7_handles.cls ≠ "java/lang/invoke/VarHandle" ∧ (parseMethodDescriptor yX7_handles.desc).map (fun d => d.parameters.length) = some 5 := by decide +kernel
theorem c_X7_handles {D : va_G} (r0 : Option Nat) (p0 : Int32) (p1 : Int32) (p2 : Int32) (p3 : Int32) (p4 : Int32) {h0 : PH} (l : Launch) (hl : l.stackTraces = false) (x : Unit) (h1 : PH) (hf : f_X7_handles r0 p0 p1 p2 p3 p4 h0 = some (x, h1)) : CT l D yX7_handles (ws_ yX7_handles cX7_handles 6 none) 4 95 [va_rf r0, .int p0, .int p1, .int p2, .int p3, .int p4] h0 (ovv x) h1 := by
  refine ct_of hl [some (va_rf r0), some (.int p0), some (.int p1), some (.int p2), some (.int p3), some (.int p4)] (by decide) (by rw [lgl]; simp [va_rf_cat, cat_i, cat_l]) (by simp [lv_args, vsL, va_rf_cat, cat_i, cat_l]) (fun Γ => ?_)
  obtain ⟨o, ho⟩ : ∃ o : Unit × PH, o = (x, h1) := ⟨_, rfl⟩
  rw [← ho] at hf
  have e1 : x = o.1 := by rw [ho]
  have e2 : h1 = o.2 := by rw [ho]
  subst e1 e2
  clear ho
  show PF Γ mi_X7_handles D h0 (QR Γ D h0 (ovv o.1) o.2) h0 0 [some (va_rf r0), some (.int p0), some (.int p1), some (.int p2), some (.int p3), some (.int p4)] []
  unfold f_X7_handles at hf
  refine j_iload_n 1 dX7_handles_0 rfl rfl ?_
  refine j_case (1 : Int32) hf (fun hf => ?_) (fun c1 hf => ?_)
  · refine j_tableIn 52 dX7_handles_1 (by decide) (by decide) rfl (by decide) ?_
    refine j_aload_n 0 dX7_handles_52 rfl rfl ?_
    refine j_iload_n 2 dX7_handles_53 rfl rfl ?_
    refine j_iload dX7_handles_54 rfl ?_
    refine kc_X7_197 rfl rfl rfl (by decide) dX7_handles_56 hf (fun _u h1 hf => ?_)
    refine j_goto 166 dX7_handles_59 (by decide) ?_
    refine j_weak [none, none, none, none, none, none] (Wk.s (Wk.s (Wk.s (Wk.s (Wk.s (Wk.s Wk.n)))))) ?_
    exact pf_X7_handles_B166  h1 hf
  refine j_case (2 : Int32) hf (fun hf => ?_) (fun c2 hf => ?_)
  · refine j_tableIn 62 dX7_handles_1 (by decide) (by decide) rfl (by decide) ?_
    refine j_aload_n 0 dX7_handles_62 rfl rfl ?_
    refine j_iload_n 2 dX7_handles_63 rfl rfl ?_
    refine j_iload_n 3 dX7_handles_64 rfl rfl ?_
    refine kc_X7_200 rfl rfl rfl (by decide) dX7_handles_65 hf (fun _u h2 hf => ?_)
    refine j_goto 166 dX7_handles_68 (by decide) ?_
    refine j_weak [none, none, none, none, none, none] (Wk.s (Wk.s (Wk.s (Wk.s (Wk.s (Wk.s Wk.n)))))) ?_
    exact pf_X7_handles_B166  h2 hf
  refine j_case (3 : Int32) hf (fun hf => ?_) (fun c3 hf => ?_)
  · refine j_tableIn 71 dX7_handles_1 (by decide) (by decide) rfl (by decide) ?_
    refine j_aload_n 0 dX7_handles_71 rfl rfl ?_
    refine j_iload_n 2 dX7_handles_72 rfl rfl ?_
    refine j_iload_n 3 dX7_handles_73 rfl rfl ?_
    refine j_iload dX7_handles_74 rfl ?_
    refine j_iload dX7_handles_76 rfl ?_
    refine kc_X7_203 rfl rfl rfl (by decide) dX7_handles_78 hf (fun _u h3 hf => ?_)
    refine j_goto 166 dX7_handles_81 (by decide) ?_
    refine j_weak [none, none, none, none, none, none] (Wk.s (Wk.s (Wk.s (Wk.s (Wk.s (Wk.s Wk.n)))))) ?_
    exact pf_X7_handles_B166  h3 hf
  refine j_case (4 : Int32) hf (fun hf => ?_) (fun c4 hf => ?_)
  · refine j_tableIn 84 dX7_handles_1 (by decide) (by decide) rfl (by decide) ?_
    refine j_aload_n 0 dX7_handles_84 rfl rfl ?_
    refine j_iload_n 2 dX7_handles_85 rfl rfl ?_
    refine j_iload_n 3 dX7_handles_86 rfl rfl ?_
    refine j_iload dX7_handles_87 rfl ?_
    refine kc_X7_207 rfl rfl rfl (by decide) dX7_handles_89 hf (fun _u h4 hf => ?_)
    refine j_goto 166 dX7_handles_92 (by decide) ?_
    refine j_weak [none, none, none, none, none, none] (Wk.s (Wk.s (Wk.s (Wk.s (Wk.s (Wk.s Wk.n)))))) ?_
    exact pf_X7_handles_B166  h4 hf
  refine j_case (5 : Int32) hf (fun hf => ?_) (fun c5 hf => ?_)
  · refine j_tableIn 95 dX7_handles_1 (by decide) (by decide) rfl (by decide) ?_
    refine j_aload_n 0 dX7_handles_95 rfl rfl ?_
    refine j_iload_n 2 dX7_handles_96 rfl rfl ?_
    refine j_iload_n 3 dX7_handles_97 rfl rfl ?_
    refine j_iload dX7_handles_98 rfl ?_
    refine kc_X7_210 rfl rfl rfl (by decide) dX7_handles_100 hf (fun _u h5 hf => ?_)
    refine j_goto 166 dX7_handles_103 (by decide) ?_
    refine j_weak [none, none, none, none, none, none] (Wk.s (Wk.s (Wk.s (Wk.s (Wk.s (Wk.s Wk.n)))))) ?_
    exact pf_X7_handles_B166  h5 hf
  refine j_case (6 : Int32) hf (fun hf => ?_) (fun c6 hf => ?_)
  · refine j_tableIn 106 dX7_handles_1 (by decide) (by decide) rfl (by decide) ?_
    refine j_aload_n 0 dX7_handles_106 rfl rfl ?_
    refine j_iload_n 2 dX7_handles_107 rfl rfl ?_
    refine j_iconst (5 : Int32) dX7_handles_108 (by decide) ?_
    refine kc_X7_152 rfl rfl rfl (by decide) dX7_handles_109 hf (fun v7 h6 hf => ?_)
    refine j_iconst (1 : Int32) dX7_handles_112 (by decide) ?_
    refine j_icmp_ne 166 dX7_handles_113 (by decide) hf (fun c_ hf => ?_) (fun c_ hf => ?_)
    · refine j_weak [none, none, none, none, none, none] (Wk.s (Wk.s (Wk.s (Wk.s (Wk.s (Wk.s Wk.n)))))) ?_
      exact pf_X7_handles_B166  h6 hf
    · refine j_aload_n 0 dX7_handles_116 rfl rfl ?_
      refine j_iload_n 2 dX7_handles_117 rfl rfl ?_
      refine j_aload_n 0 dX7_handles_118 rfl rfl ?_
      refine j_iload_n 2 dX7_handles_119 rfl rfl ?_
      refine kc_X7_162 rfl rfl rfl (by simp [va_rf_cat, cat_i, cat_l]) dX7_handles_120 hf (fun v9 h8 hf => ?_)
      refine j_aload_n 0 dX7_handles_123 rfl rfl ?_
      refine j_gR (ci := 6) (k := 0) rfl in_X7 rfl q2202 dX7_handles_124 hf (fun r10 hf => ?_)
      refine j_bipush (8 : Int32) dX7_handles_127 (by decide) ?_
      refine j_iald dX7_handles_129 hf (fun v11 hf => ?_)
      refine j_iadd dX7_handles_130 ?_
      refine kc_X7_193 rfl rfl rfl (by decide) dX7_handles_131 hf (fun _u h12 hf => ?_)
      refine j_goto 166 dX7_handles_134 (by decide) ?_
      refine j_weak [none, none, none, none, none, none] (Wk.s (Wk.s (Wk.s (Wk.s (Wk.s (Wk.s Wk.n)))))) ?_
      exact pf_X7_handles_B166  h12 hf
  refine j_case (7 : Int32) hf (fun hf => ?_) (fun c7 hf => ?_)
  · refine j_tableIn 156 dX7_handles_1 (by decide) (by decide) rfl (by decide) ?_
    refine j_aload_n 0 dX7_handles_156 rfl rfl ?_
    refine j_iload_n 2 dX7_handles_157 rfl rfl ?_
    refine j_iload_n 3 dX7_handles_158 rfl rfl ?_
    refine j_iload dX7_handles_159 rfl ?_
    refine j_iload dX7_handles_161 rfl ?_
    refine kc_X7_216 rfl rfl rfl (by decide) dX7_handles_163 hf (fun _u h13 hf => ?_)
    refine j_weak [none, none, none, none, none, none] (Wk.s (Wk.s (Wk.s (Wk.s (Wk.s (Wk.s Wk.n)))))) ?_
    exact pf_X7_handles_B166  h13 hf
  refine j_case (8 : Int32) hf (fun hf => ?_) (fun c8 hf => ?_)
  · refine j_tableIn 156 dX7_handles_1 (by decide) (by decide) rfl (by decide) ?_
    refine j_aload_n 0 dX7_handles_156 rfl rfl ?_
    refine j_iload_n 2 dX7_handles_157 rfl rfl ?_
    refine j_iload_n 3 dX7_handles_158 rfl rfl ?_
    refine j_iload dX7_handles_159 rfl ?_
    refine j_iload dX7_handles_161 rfl ?_
    refine kc_X7_216 rfl rfl rfl (by decide) dX7_handles_163 hf (fun _u h14 hf => ?_)
    refine j_weak [none, none, none, none, none, none] (Wk.s (Wk.s (Wk.s (Wk.s (Wk.s (Wk.s Wk.n)))))) ?_
    exact pf_X7_handles_B166  h14 hf
  refine j_case (9 : Int32) hf (fun hf => ?_) (fun c9 hf => ?_)
  · refine j_tableIn 137 dX7_handles_1 (by decide) (by decide) rfl (by decide) ?_
    refine j_aload_n 0 dX7_handles_137 rfl rfl ?_
    refine j_iload_n 2 dX7_handles_138 rfl rfl ?_
    refine j_bipush (7 : Int32) dX7_handles_139 (by decide) ?_
    refine kc_X7_152 rfl rfl rfl (by decide) dX7_handles_141 hf (fun v16 h15 hf => ?_)
    refine j_iload_n 3 dX7_handles_144 rfl rfl ?_
    refine j_icmp_ne 166 dX7_handles_145 (by decide) hf (fun c_ hf => ?_) (fun c_ hf => ?_)
    · refine j_weak [none, none, none, none, none, none] (Wk.s (Wk.s (Wk.s (Wk.s (Wk.s (Wk.s Wk.n)))))) ?_
      exact pf_X7_handles_B166  h15 hf
    · refine j_aload_n 0 dX7_handles_148 rfl rfl ?_
      refine j_iload_n 2 dX7_handles_149 rfl rfl ?_
      refine kc_X7_213 rfl rfl rfl (by decide) dX7_handles_150 hf (fun _u h17 hf => ?_)
      refine j_goto 166 dX7_handles_153 (by decide) ?_
      refine j_weak [none, none, none, none, none, none] (Wk.s (Wk.s (Wk.s (Wk.s (Wk.s (Wk.s Wk.n)))))) ?_
      exact pf_X7_handles_B166  h17 hf
  refine j_tableOut 156 dX7_handles_1 (by have z0 := lv_neT (a := (1)) c1 (by decide); have z1 := lv_neT (a := (2)) c2 (by decide); have z2 := lv_neT (a := (3)) c3 (by decide); have z3 := lv_neT (a := (4)) c4 (by decide); have z4 := lv_neT (a := (5)) c5 (by decide); have z5 := lv_neT (a := (6)) c6 (by decide); have z6 := lv_neT (a := (7)) c7 (by decide); have z7 := lv_neT (a := (8)) c8 (by decide); have z8 := lv_neT (a := (9)) c9 (by decide); omega) (by decide) ?_
  refine j_aload_n 0 dX7_handles_156 rfl rfl ?_
  refine j_iload_n 2 dX7_handles_157 rfl rfl ?_
  refine j_iload_n 3 dX7_handles_158 rfl rfl ?_
  refine j_iload dX7_handles_159 rfl ?_
  refine j_iload dX7_handles_161 rfl ?_
  refine kc_X7_216 rfl rfl rfl (by decide) dX7_handles_163 hf (fun _u h18 hf => ?_)
  refine j_weak [none, none, none, none, none, none] (Wk.s (Wk.s (Wk.s (Wk.s (Wk.s (Wk.s Wk.n)))))) ?_
  exact pf_X7_handles_B166  h18 hf
