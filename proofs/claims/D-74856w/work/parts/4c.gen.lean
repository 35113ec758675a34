/-! printed by gen.py: X7_isStale X7_messagesOnWay X7_delayedWrites X7_messagesLost X7_logSize X7_logCell X7_logKind X7_logNode X7_logToken X7_eventCount X7_countInLog X7_lastEventTime X7_splitTime X7_reads X7_staleReads X7_ledTime X7_putsAside X7_takesBack X7_saveSnapshot X7_restoreSnapshot X7_init X7_appendByte X7_looks X7_number -/
set_option maxRecDepth 100000
abbrev mi_X7_isStale : MI := (cX7_isStale, 4, RX7, (Option.some FieldType.boolean), [], 1, 22, "isStale")
def f_X7_isStale_B56 (k4 : Option Nat → Int32 → Int32 → Int32 → PH → Option (Int32 × PH)) (x0 : Option Nat) (x1 : Int32) (x3 : Int32) (t0 : Int32) (h : PH) : Option (Int32 × PH) := k4 x0 x1 t0 (x3 + (1 : Int32)) h
theorem pf_X7_isStale_B56 {Γ : GX} {D : va_G} {h0 : PH} {o : Int32 × PH} (k4 : Option Nat → Int32 → Int32 → Int32 → PH → Option (Int32 × PH)) (hk4 : ∀ (x0 : Option Nat) (x1 : Int32) (x2 : Int32) (x3 : Int32) (h : PH), k4 x0 x1 x2 x3 h = some o → PF Γ mi_X7_isStale D h0 (QR Γ D h0 (ovi o.1) o.2) h 4 [some (va_rf x0), some (.int x1), some (.int x2), some (.int x3)] []) (x0 : Option Nat) (x1 : Int32) (x3 : Int32) (t0 : Int32) (h : PH) (hf : f_X7_isStale_B56 k4 x0 x1 x3 t0 h = some o) : PF Γ mi_X7_isStale D h0 (QR Γ D h0 (ovi o.1) o.2) h 56 [some (va_rf x0), some (.int x1), none, some (.int x3)] [.int t0] := by
  refine j_istore_n 2 [some (va_rf x0), some (.int x1), some (.int t0), some (.int x3)] dX7_isStale_56 rfl (cz rfl) rfl rfl ?_
  refine j_iinc (x3 + (1 : Int32)) [some (va_rf x0), some (.int x1), some (.int t0), some (.int (x3 + (1 : Int32)))] dX7_isStale_57 rfl rfl (cz rfl) rfl rfl ?_
  refine j_goto 4 dX7_isStale_60 (by decide) ?_
  exact hk4 x0 x1 t0 (x3 + (1 : Int32)) h hf
def f_X7_isStale_B51 (k4 : Option Nat → Int32 → Int32 → Int32 → PH → Option (Int32 × PH)) (x0 : Option Nat) (x1 : Int32) (x3 : Int32) (h : PH) : Option (Int32 × PH) := f_X7_isStale_B56 k4 x0 x1 x3 (1 : Int32) h
theorem pf_X7_isStale_B51 {Γ : GX} {D : va_G} {h0 : PH} {o : Int32 × PH} (k4 : Option Nat → Int32 → Int32 → Int32 → PH → Option (Int32 × PH)) (hk4 : ∀ (x0 : Option Nat) (x1 : Int32) (x2 : Int32) (x3 : Int32) (h : PH), k4 x0 x1 x2 x3 h = some o → PF Γ mi_X7_isStale D h0 (QR Γ D h0 (ovi o.1) o.2) h 4 [some (va_rf x0), some (.int x1), some (.int x2), some (.int x3)] []) (x0 : Option Nat) (x1 : Int32) (x3 : Int32) (h : PH) (hf : f_X7_isStale_B51 k4 x0 x1 x3 h = some o) : PF Γ mi_X7_isStale D h0 (QR Γ D h0 (ovi o.1) o.2) h 51 [some (va_rf x0), some (.int x1), none, some (.int x3)] [] := by
  refine j_iconst (1 : Int32) dX7_isStale_51 (by decide) ?_
  refine j_goto 56 dX7_isStale_52 (by decide) ?_
  exact pf_X7_isStale_B56 k4 hk4 x0 x1 x3 (1 : Int32) h hf
def f_X7_isStale_B55 (k4 : Option Nat → Int32 → Int32 → Int32 → PH → Option (Int32 × PH)) (x0 : Option Nat) (x1 : Int32) (x3 : Int32) (h : PH) : Option (Int32 × PH) := f_X7_isStale_B56 k4 x0 x1 x3 (0 : Int32) h
theorem pf_X7_isStale_B55 {Γ : GX} {D : va_G} {h0 : PH} {o : Int32 × PH} (k4 : Option Nat → Int32 → Int32 → Int32 → PH → Option (Int32 × PH)) (hk4 : ∀ (x0 : Option Nat) (x1 : Int32) (x2 : Int32) (x3 : Int32) (h : PH), k4 x0 x1 x2 x3 h = some o → PF Γ mi_X7_isStale D h0 (QR Γ D h0 (ovi o.1) o.2) h 4 [some (va_rf x0), some (.int x1), some (.int x2), some (.int x3)] []) (x0 : Option Nat) (x1 : Int32) (x3 : Int32) (h : PH) (hf : f_X7_isStale_B55 k4 x0 x1 x3 h = some o) : PF Γ mi_X7_isStale D h0 (QR Γ D h0 (ovi o.1) o.2) h 55 [some (va_rf x0), some (.int x1), none, some (.int x3)] [] := by
  refine j_iconst (0 : Int32) dX7_isStale_55 (by decide) ?_
  exact pf_X7_isStale_B56 k4 hk4 x0 x1 x3 (0 : Int32) h hf
def f_X7_isStale_L4 : Nat → Option Nat → Int32 → Int32 → Int32 → PH → Option (Int32 × PH)
  | 0, _, _, _, _, _ => none
  | n + 1, x0, x1, x2, x3, h => (if (8 : Int32) ≤ x3 then (rN .boolean x2 (fun v => v) h) else ((if x2 = 0 then (rv_ h x0 6 (cl_ (f_X7_of x0 x1 (11 : Int32) h) fun v2 h1 => (if ((v2 >>> (x3 &&& 31)) &&& (1 : Int32)) = (1 : Int32) then (rv_ h1 x0 6 (cl_ (f_X7_of x0 x1 ((12 : Int32) + x3) h1) fun v4 h3 => gR h3 x0 6 0 fun r5 => aI h3 r5 0 ((160 : Int32) + x3) fun v6 => (if v4 = v6 then (f_X7_isStale_B55 (f_X7_isStale_L4 n) x0 x1 x3 h3) else (f_X7_isStale_B51 (f_X7_isStale_L4 n) x0 x1 x3 h3)))) else (f_X7_isStale_B55 (f_X7_isStale_L4 n) x0 x1 x3 h1)))) else (f_X7_isStale_B51 (f_X7_isStale_L4 n) x0 x1 x3 h))))
theorem pf_X7_isStale_L4 {Γ : GX} {D : va_G} {h0 : PH} {o : Int32 × PH} : ∀ (n : Nat) (x0 : Option Nat) (x1 : Int32) (x2 : Int32) (x3 : Int32) (h : PH), f_X7_isStale_L4 n x0 x1 x2 x3 h = some o → PF Γ mi_X7_isStale D h0 (QR Γ D h0 (ovi o.1) o.2) h 4 [some (va_rf x0), some (.int x1), some (.int x2), some (.int x3)] [] := by
  intro n
  induction n with
  | zero => intro x0 x1 x2 x3 h hf; cases hf
  | succ n ih =>
    intro x0 x1 x2 x3 h hf
    refine j_iload_n 3 dX7_isStale_4 rfl rfl ?_
    refine j_bipush (8 : Int32) dX7_isStale_5 (by decide) ?_
    refine j_icmp_ge 63 dX7_isStale_7 (by decide) hf (fun c_ hf => ?_) (fun c_ hf => ?_)
    · refine j_iload_n 2 dX7_isStale_63 rfl rfl ?_
      obtain ⟨hn9, hf⟩ := rN_in hf
      subst hf
      exact j_zret rfl (nar_z _ hn9) dX7_isStale_64
    · refine j_iload_n 2 dX7_isStale_10 rfl rfl ?_
      refine j_if_ne 51 dX7_isStale_11 (by decide) hf (fun c_ hf => ?_) (fun c_ hf => ?_)
      · refine j_weak [some (va_rf x0), some (.int x1), none, some (.int x3)] (Wk.k (Wk.k (Wk.s (Wk.k Wk.n)))) ?_
        exact pf_X7_isStale_B51 (f_X7_isStale_L4 n) ih x0 x1 x3 h hf
      · refine j_aload_n 0 dX7_isStale_14 rfl rfl ?_
        refine j_iload_n 1 dX7_isStale_15 rfl rfl ?_
        refine j_bipush (11 : Int32) dX7_isStale_16 (by decide) ?_
        refine kc_X7_152 rfl rfl rfl (by decide) dX7_isStale_18 hf (fun v2 h1 hf => ?_)
        refine j_iload_n 3 dX7_isStale_21 rfl rfl ?_
        refine j_ishr dX7_isStale_22 ?_
        refine j_iconst (1 : Int32) dX7_isStale_23 (by decide) ?_
        refine j_iand dX7_isStale_24 ?_
        refine j_iconst (1 : Int32) dX7_isStale_25 (by decide) ?_
        refine j_icmp_ne 55 dX7_isStale_26 (by decide) hf (fun c_ hf => ?_) (fun c_ hf => ?_)
        · refine j_weak [some (va_rf x0), some (.int x1), none, some (.int x3)] (Wk.k (Wk.k (Wk.s (Wk.k Wk.n)))) ?_
          exact pf_X7_isStale_B55 (f_X7_isStale_L4 n) ih x0 x1 x3 h1 hf
        · refine j_aload_n 0 dX7_isStale_29 rfl rfl ?_
          refine j_iload_n 1 dX7_isStale_30 rfl rfl ?_
          refine j_bipush (12 : Int32) dX7_isStale_31 (by decide) ?_
          refine j_iload_n 3 dX7_isStale_33 rfl rfl ?_
          refine j_iadd dX7_isStale_34 ?_
          refine kc_X7_152 rfl rfl rfl (by decide) dX7_isStale_35 hf (fun v4 h3 hf => ?_)
          refine j_aload_n 0 dX7_isStale_38 rfl rfl ?_
          refine j_gR (ci := 6) (k := 0) rfl in_X7 rfl q2202 dX7_isStale_39 hf (fun r5 hf => ?_)
          refine j_sipush (160 : Int32) dX7_isStale_42 (by decide) ?_
          refine j_iload_n 3 dX7_isStale_45 rfl rfl ?_
          refine j_iadd dX7_isStale_46 ?_
          refine j_iald dX7_isStale_47 hf (fun v6 hf => ?_)
          refine j_icmp_eq 55 dX7_isStale_48 (by decide) hf (fun c_ hf => ?_) (fun c_ hf => ?_)
          · refine j_weak [some (va_rf x0), some (.int x1), none, some (.int x3)] (Wk.k (Wk.k (Wk.s (Wk.k Wk.n)))) ?_
            exact pf_X7_isStale_B55 (f_X7_isStale_L4 n) ih x0 x1 x3 h3 hf
          · refine j_weak [some (va_rf x0), some (.int x1), none, some (.int x3)] (Wk.k (Wk.k (Wk.s (Wk.k Wk.n)))) ?_
            exact pf_X7_isStale_B51 (f_X7_isStale_L4 n) ih x0 x1 x3 h3 hf
def f_X7_isStale (r0 : Option Nat) (p0 : Int32) (h0 : PH) : Option (Int32 × PH) := f_X7_isStale_L4 FU r0 p0 (0 : Int32) (0 : Int32) h0
theorem hyS_X7_isStale : yX7_isStale.cls ≠ "java/lang/invoke/MethodHandle" ∧ yX7_isStale.cls ≠ "java/lang/invoke/VarHandle" ∧ (parseMethodDescriptor yX7_isStale.desc).map (fun d => d.parameters.length) = some 1 := by decide +kernel
theorem hyV_X7_isStale : yX7_isStale.cls = RX7 ∧ yX7_isStale.cls ≠ "java/lang/invoke/MethodHandle" ∧ yX7_isStale.cls ≠ "java/lang/invoke/VarHandle" ∧ (parseMethodDescriptor yX7_isStale.desc).map (fun d => d.parameters.length) = some 1 := by decide +kernel
theorem c_X7_isStale {D : va_G} (r0 : Option Nat) (p0 : Int32) {h0 : PH} (l : Launch) (hl : l.stackTraces = false) (x : Int32) (h1 : PH) (hf : f_X7_isStale r0 p0 h0 = some (x, h1)) : CT l D yX7_isStale (ws_ yX7_isStale cX7_isStale 4 (Option.some FieldType.boolean)) 1 22 [va_rf r0, .int p0] h0 (ovi x) h1 := by
  refine ct_of hl [some (va_rf r0), some (.int p0), none, none] (by decide) (by rw [lgl]; simp [va_rf_cat, cat_i, cat_l]) (by simp [lv_args, vsL, va_rf_cat, cat_i, cat_l]) (fun Γ => ?_)
  obtain ⟨o, ho⟩ : ∃ o : Int32 × PH, o = (x, h1) := ⟨_, rfl⟩
  rw [← ho] at hf
  have e1 : x = o.1 := by rw [ho]
  have e2 : h1 = o.2 := by rw [ho]
  subst e1 e2
  clear ho
  show PF Γ mi_X7_isStale D h0 (QR Γ D h0 (ovi o.1) o.2) h0 0 [some (va_rf r0), some (.int p0), none, none] []
  unfold f_X7_isStale at hf
  refine j_iconst (0 : Int32) dX7_isStale_0 (by decide) ?_
  refine j_istore_n 2 [some (va_rf r0), some (.int p0), some (.int (0 : Int32)), none] dX7_isStale_1 rfl (cz rfl) rfl rfl ?_
  refine j_iconst (0 : Int32) dX7_isStale_2 (by decide) ?_
  refine j_istore_n 3 [some (va_rf r0), some (.int p0), some (.int (0 : Int32)), some (.int (0 : Int32))] dX7_isStale_3 rfl (cz rfl) rfl rfl ?_
  exact pf_X7_isStale_L4 FU r0 p0 (0 : Int32) (0 : Int32) h0 hf
abbrev mi_X7_messagesOnWay : MI := (cX7_messagesOnWay, 1, RX7, (Option.some FieldType.int), [], 1, 21, "messagesOnWay")
def f_X7_messagesOnWay (r0 : Option Nat) (h0 : PH) : Option (Int32 × PH) := rv_ h0 r0 6 (cl_ (f_X7_own r0 (20 : Int32) h0) fun v2 h1 => some (v2, h1))
theorem hyS_X7_messagesOnWay : yX7_messagesOnWay.cls ≠ "java/lang/invoke/MethodHandle" ∧ yX7_messagesOnWay.cls ≠ "java/lang/invoke/VarHandle" ∧ (parseMethodDescriptor yX7_messagesOnWay.desc).map (fun d => d.parameters.length) = some 0 := by decide +kernel
theorem hyV_X7_messagesOnWay : yX7_messagesOnWay.cls = RX7 ∧ yX7_messagesOnWay.cls ≠ "java/lang/invoke/MethodHandle" ∧ yX7_messagesOnWay.cls ≠ "java/lang/invoke/VarHandle" ∧ (parseMethodDescriptor yX7_messagesOnWay.desc).map (fun d => d.parameters.length) = some 0 := by decide +kernel
theorem c_X7_messagesOnWay {D : va_G} (r0 : Option Nat) {h0 : PH} (l : Launch) (hl : l.stackTraces = false) (x : Int32) (h1 : PH) (hf : f_X7_messagesOnWay r0 h0 = some (x, h1)) : CT l D yX7_messagesOnWay (ws_ yX7_messagesOnWay cX7_messagesOnWay 1 (Option.some FieldType.int)) 1 21 [va_rf r0] h0 (ovi x) h1 := by
  refine ct_of hl [some (va_rf r0)] (by decide) (by rw [lgl]; simp [va_rf_cat, cat_i, cat_l]) (by simp [lv_args, vsL, va_rf_cat, cat_i, cat_l]) (fun Γ => ?_)
  obtain ⟨o, ho⟩ : ∃ o : Int32 × PH, o = (x, h1) := ⟨_, rfl⟩
  rw [← ho] at hf
  have e1 : x = o.1 := by rw [ho]
  have e2 : h1 = o.2 := by rw [ho]
  subst e1 e2
  clear ho
  show PF Γ mi_X7_messagesOnWay D h0 (QR Γ D h0 (ovi o.1) o.2) h0 0 [some (va_rf r0)] []
  unfold f_X7_messagesOnWay at hf
  refine j_aload_n 0 dX7_messagesOnWay_0 rfl rfl ?_
  refine j_bipush (20 : Int32) dX7_messagesOnWay_1 (by decide) ?_
  refine kc_X7_304 rfl rfl rfl (by decide) dX7_messagesOnWay_3 hf (fun v2 h1 hf => ?_)
  have e9 := Option.some.inj hf
  subst e9
  exact j_iret rfl dX7_messagesOnWay_6
abbrev mi_X7_delayedWrites : MI := (cX7_delayedWrites, 1, RX7, (Option.some FieldType.int), [], 1, 21, "delayedWrites")
def f_X7_delayedWrites (r0 : Option Nat) (h0 : PH) : Option (Int32 × PH) := rv_ h0 r0 6 (cl_ (f_X7_own r0 (21 : Int32) h0) fun v2 h1 => some (v2, h1))
theorem hyS_X7_delayedWrites : yX7_delayedWrites.cls ≠ "java/lang/invoke/MethodHandle" ∧ yX7_delayedWrites.cls ≠ "java/lang/invoke/VarHandle" ∧ (parseMethodDescriptor yX7_delayedWrites.desc).map (fun d => d.parameters.length) = some 0 := by decide +kernel
theorem hyV_X7_delayedWrites : yX7_delayedWrites.cls = RX7 ∧ yX7_delayedWrites.cls ≠ "java/lang/invoke/MethodHandle" ∧ yX7_delayedWrites.cls ≠ "java/lang/invoke/VarHandle" ∧ (parseMethodDescriptor yX7_delayedWrites.desc).map (fun d => d.parameters.length) = some 0 := by decide +kernel
theorem c_X7_delayedWrites {D : va_G} (r0 : Option Nat) {h0 : PH} (l : Launch) (hl : l.stackTraces = false) (x : Int32) (h1 : PH) (hf : f_X7_delayedWrites r0 h0 = some (x, h1)) : CT l D yX7_delayedWrites (ws_ yX7_delayedWrites cX7_delayedWrites 1 (Option.some FieldType.int)) 1 21 [va_rf r0] h0 (ovi x) h1 := by
  refine ct_of hl [some (va_rf r0)] (by decide) (by rw [lgl]; simp [va_rf_cat, cat_i, cat_l]) (by simp [lv_args, vsL, va_rf_cat, cat_i, cat_l]) (fun Γ => ?_)
  obtain ⟨o, ho⟩ : ∃ o : Int32 × PH, o = (x, h1) := ⟨_, rfl⟩
  rw [← ho] at hf
  have e1 : x = o.1 := by rw [ho]
  have e2 : h1 = o.2 := by rw [ho]
  subst e1 e2
  clear ho
  show PF Γ mi_X7_delayedWrites D h0 (QR Γ D h0 (ovi o.1) o.2) h0 0 [some (va_rf r0)] []
  unfold f_X7_delayedWrites at hf
  refine j_aload_n 0 dX7_delayedWrites_0 rfl rfl ?_
  refine j_bipush (21 : Int32) dX7_delayedWrites_1 (by decide) ?_
  refine kc_X7_304 rfl rfl rfl (by decide) dX7_delayedWrites_3 hf (fun v2 h1 hf => ?_)
  have e9 := Option.some.inj hf
  subst e9
  exact j_iret rfl dX7_delayedWrites_6
abbrev mi_X7_messagesLost : MI := (cX7_messagesLost, 1, RX7, (Option.some FieldType.int), [], 1, 21, "messagesLost")
def f_X7_messagesLost (r0 : Option Nat) (h0 : PH) : Option (Int32 × PH) := rv_ h0 r0 6 (cl_ (f_X7_own r0 (16 : Int32) h0) fun v2 h1 => some (v2, h1))
theorem hyS_X7_messagesLost : yX7_messagesLost.cls ≠ "java/lang/invoke/MethodHandle" ∧ yX7_messagesLost.cls ≠ "java/lang/invoke/VarHandle" ∧ (parseMethodDescriptor yX7_messagesLost.desc).map (fun d => d.parameters.length) = some 0 := by decide +kernel
theorem hyV_X7_messagesLost : yX7_messagesLost.cls = RX7 ∧ yX7_messagesLost.cls ≠ "java/lang/invoke/MethodHandle" ∧ yX7_messagesLost.cls ≠ "java/lang/invoke/VarHandle" ∧ (parseMethodDescriptor yX7_messagesLost.desc).map (fun d => d.parameters.length) = some 0 := by decide +kernel
theorem c_X7_messagesLost {D : va_G} (r0 : Option Nat) {h0 : PH} (l : Launch) (hl : l.stackTraces = false) (x : Int32) (h1 : PH) (hf : f_X7_messagesLost r0 h0 = some (x, h1)) : CT l D yX7_messagesLost (ws_ yX7_messagesLost cX7_messagesLost 1 (Option.some FieldType.int)) 1 21 [va_rf r0] h0 (ovi x) h1 := by
  refine ct_of hl [some (va_rf r0)] (by decide) (by rw [lgl]; simp [va_rf_cat, cat_i, cat_l]) (by simp [lv_args, vsL, va_rf_cat, cat_i, cat_l]) (fun Γ => ?_)
  obtain ⟨o, ho⟩ : ∃ o : Int32 × PH, o = (x, h1) := ⟨_, rfl⟩
  rw [← ho] at hf
  have e1 : x = o.1 := by rw [ho]
  have e2 : h1 = o.2 := by rw [ho]
  subst e1 e2
  clear ho
  show PF Γ mi_X7_messagesLost D h0 (QR Γ D h0 (ovi o.1) o.2) h0 0 [some (va_rf r0)] []
  unfold f_X7_messagesLost at hf
  refine j_aload_n 0 dX7_messagesLost_0 rfl rfl ?_
  refine j_bipush (16 : Int32) dX7_messagesLost_1 (by decide) ?_
  refine kc_X7_304 rfl rfl rfl (by decide) dX7_messagesLost_3 hf (fun v2 h1 hf => ?_)
  have e9 := Option.some.inj hf
  subst e9
  exact j_iret rfl dX7_messagesLost_6
abbrev mi_X7_logSize : MI := (cX7_logSize, 1, RX7, (Option.some FieldType.int), [], 1, 21, "logSize")
def f_X7_logSize (r0 : Option Nat) (h0 : PH) : Option (Int32 × PH) := rv_ h0 r0 6 (cl_ (f_X7_own r0 (22 : Int32) h0) fun v2 h1 => some (v2, h1))
theorem hyS_X7_logSize : yX7_logSize.cls ≠ "java/lang/invoke/MethodHandle" ∧ yX7_logSize.cls ≠ "java/lang/invoke/VarHandle" ∧ (parseMethodDescriptor yX7_logSize.desc).map (fun d => d.parameters.length) = some 0 := by decide +kernel
theorem hyV_X7_logSize : yX7_logSize.cls = RX7 ∧ yX7_logSize.cls ≠ "java/lang/invoke/MethodHandle" ∧ yX7_logSize.cls ≠ "java/lang/invoke/VarHandle" ∧ (parseMethodDescriptor yX7_logSize.desc).map (fun d => d.parameters.length) = some 0 := by decide +kernel
theorem c_X7_logSize {D : va_G} (r0 : Option Nat) {h0 : PH} (l : Launch) (hl : l.stackTraces = false) (x : Int32) (h1 : PH) (hf : f_X7_logSize r0 h0 = some (x, h1)) : CT l D yX7_logSize (ws_ yX7_logSize cX7_logSize 1 (Option.some FieldType.int)) 1 21 [va_rf r0] h0 (ovi x) h1 := by
  refine ct_of hl [some (va_rf r0)] (by decide) (by rw [lgl]; simp [va_rf_cat, cat_i, cat_l]) (by simp [lv_args, vsL, va_rf_cat, cat_i, cat_l]) (fun Γ => ?_)
  obtain ⟨o, ho⟩ : ∃ o : Int32 × PH, o = (x, h1) := ⟨_, rfl⟩
  rw [← ho] at hf
  have e1 : x = o.1 := by rw [ho]
  have e2 : h1 = o.2 := by rw [ho]
  subst e1 e2
  clear ho
  show PF Γ mi_X7_logSize D h0 (QR Γ D h0 (ovi o.1) o.2) h0 0 [some (va_rf r0)] []
  unfold f_X7_logSize at hf
  refine j_aload_n 0 dX7_logSize_0 rfl rfl ?_
  refine j_bipush (22 : Int32) dX7_logSize_1 (by decide) ?_
  refine kc_X7_304 rfl rfl rfl (by decide) dX7_logSize_3 hf (fun v2 h1 hf => ?_)
  have e9 := Option.some.inj hf
  subst e9
  exact j_iret rfl dX7_logSize_6
abbrev mi_X7_logCell : MI := (cX7_logCell, 3, RX7, (Option.some FieldType.int), [], 1, 25, "logCell")
def f_X7_logCell_B55 (t0 : Int32) (h : PH) : Option (Int32 × PH) := some (t0, h)
theorem pf_X7_logCell_B55 {Γ : GX} {D : va_G} {h0 : PH} {o : Int32 × PH} (t0 : Int32) (h : PH) (hf : f_X7_logCell_B55 t0 h = some o) : PF Γ mi_X7_logCell D h0 (QR Γ D h0 (ovi o.1) o.2) h 55 [none, none, none] [.int t0] := by
  have e9 := Option.some.inj hf
  subst e9
  exact j_iret rfl dX7_logCell_55
def f_X7_logCell_B30 (x0 : Option Nat) (x1 : Int32) (x2 : Int32) (t0 : Option Nat) (t1 : Int32) (h : PH) : Option (Int32 × PH) := rv_ h t0 6 (cl_ (f_X7_throwsIf t0 t1 (1 : Int32) h) fun v7 h6 => (if v7 = 0 then (gR h6 x0 6 0 fun r8 => aI h6 r8 0 (((336 : Int32) + ((4 : Int32) * x1)) + x2) fun v9 => f_X7_logCell_B55 v9 h6) else (f_X7_logCell_B55 (0 : Int32) h6)))
theorem pf_X7_logCell_B30 {Γ : GX} {D : va_G} {h0 : PH} {o : Int32 × PH} (x0 : Option Nat) (x1 : Int32) (x2 : Int32) (t0 : Option Nat) (t1 : Int32) (h : PH) (hf : f_X7_logCell_B30 x0 x1 x2 t0 t1 h = some o) : PF Γ mi_X7_logCell D h0 (QR Γ D h0 (ovi o.1) o.2) h 30 [some (va_rf x0), some (.int x1), some (.int x2)] [.int t1, va_rf t0] := by
  refine j_iconst (1 : Int32) dX7_logCell_30 (by decide) ?_
  refine kc_X7_72 rfl rfl rfl (by decide) dX7_logCell_31 hf (fun v7 h6 hf => ?_)
  refine j_if_eq 41 dX7_logCell_34 (by decide) hf (fun c_ hf => ?_) (fun c_ hf => ?_)
  · refine j_aload_n 0 dX7_logCell_41 rfl rfl ?_
    refine j_gR (ci := 6) (k := 0) rfl in_X7 rfl q2202 dX7_logCell_42 hf (fun r8 hf => ?_)
    refine j_sipush (336 : Int32) dX7_logCell_45 (by decide) ?_
    refine j_iconst (4 : Int32) dX7_logCell_48 (by decide) ?_
    refine j_iload_n 1 dX7_logCell_49 rfl rfl ?_
    refine j_imul dX7_logCell_50 ?_
    refine j_iadd dX7_logCell_51 ?_
    refine j_iload_n 2 dX7_logCell_52 rfl rfl ?_
    refine j_iadd dX7_logCell_53 ?_
    refine j_iald dX7_logCell_54 hf (fun v9 hf => ?_)
    refine j_weak [none, none, none] (Wk.s (Wk.s (Wk.s Wk.n))) ?_
    exact pf_X7_logCell_B55 v9 h6 hf
  · refine j_iconst (0 : Int32) dX7_logCell_37 (by decide) ?_
    refine j_goto 55 dX7_logCell_38 (by decide) ?_
    refine j_weak [none, none, none] (Wk.s (Wk.s (Wk.s Wk.n))) ?_
    exact pf_X7_logCell_B55 (0 : Int32) h6 hf
def f_X7_logCell (r0 : Option Nat) (p0 : Int32) (p1 : Int32) (h0 : PH) : Option (Int32 × PH) := pV h0 r0 6 1 (.int (0 : Int32)) fun h1 => gR h1 r0 6 0 fun r2 => aI h1 r2 0 (22 : Int32) fun v3 => cl_ (f_X7_in (p0.toInt64) (0 : Int64) ((v3 - (1 : Int32)).toInt64) h1) fun v5 h4 => (if v5 = 0 then (f_X7_logCell_B30 r0 p0 p1 r0 (1 : Int32) h4) else (f_X7_logCell_B30 r0 p0 p1 r0 (0 : Int32) h4))
theorem hyS_X7_logCell : yX7_logCell.cls ≠ "java/lang/invoke/MethodHandle" ∧ yX7_logCell.cls ≠ "java/lang/invoke/VarHandle" ∧ (parseMethodDescriptor yX7_logCell.desc).map (fun d => d.parameters.length) = some 2 := by decide +kernel
theorem hyV_X7_logCell : yX7_logCell.cls = RX7 ∧ yX7_logCell.cls ≠ "java/lang/invoke/MethodHandle" ∧ yX7_logCell.cls ≠ "java/lang/invoke/VarHandle" ∧ (parseMethodDescriptor yX7_logCell.desc).map (fun d => d.parameters.length) = some 2 := by decide +kernel
theorem c_X7_logCell {D : va_G} (r0 : Option Nat) (p0 : Int32) (p1 : Int32) {h0 : PH} (l : Launch) (hl : l.stackTraces = false) (x : Int32) (h1 : PH) (hf : f_X7_logCell r0 p0 p1 h0 = some (x, h1)) : CT l D yX7_logCell (ws_ yX7_logCell cX7_logCell 3 (Option.some FieldType.int)) 1 25 [va_rf r0, .int p0, .int p1] h0 (ovi x) h1 := by
  refine ct_of hl [some (va_rf r0), some (.int p0), some (.int p1)] (by decide) (by rw [lgl]; simp [va_rf_cat, cat_i, cat_l]) (by simp [lv_args, vsL, va_rf_cat, cat_i, cat_l]) (fun Γ => ?_)
  obtain ⟨o, ho⟩ : ∃ o : Int32 × PH, o = (x, h1) := ⟨_, rfl⟩
  rw [← ho] at hf
  have e1 : x = o.1 := by rw [ho]
  have e2 : h1 = o.2 := by rw [ho]
  subst e1 e2
  clear ho
  show PF Γ mi_X7_logCell D h0 (QR Γ D h0 (ovi o.1) o.2) h0 0 [some (va_rf r0), some (.int p0), some (.int p1)] []
  unfold f_X7_logCell at hf
  refine j_aload_n 0 dX7_logCell_0 rfl rfl ?_
  refine j_iconst (0 : Int32) dX7_logCell_1 (by decide) ?_
  refine j_pV (ci := 6) (k := 1) tyX7 tyX7_ok nmX7 rfl in_X7 rfl q2203 (Or.inl rfl) rfl (fit_i _) dX7_logCell_2 hf (fun h1 hf => ?_)
  refine j_aload_n 0 dX7_logCell_5 rfl rfl ?_
  refine j_iload_n 1 dX7_logCell_6 rfl rfl ?_
  refine j_i2l dX7_logCell_7 ?_
  refine j_lconst (0 : Int64) dX7_logCell_8 (by decide) ?_
  refine j_aload_n 0 dX7_logCell_9 rfl rfl ?_
  refine j_gR (ci := 6) (k := 0) rfl in_X7 rfl q2202 dX7_logCell_10 hf (fun r2 hf => ?_)
  refine j_bipush (22 : Int32) dX7_logCell_13 (by decide) ?_
  refine j_iald dX7_logCell_15 hf (fun v3 hf => ?_)
  refine j_iconst (1 : Int32) dX7_logCell_16 (by decide) ?_
  refine j_isub dX7_logCell_17 ?_
  refine j_i2l dX7_logCell_18 ?_
  refine kc_X7_68 rfl rfl rfl (by simp [va_rf_cat, cat_i, cat_l]) dX7_logCell_19 hf (fun v5 h4 hf => ?_)
  refine j_if_ne 29 dX7_logCell_22 (by decide) hf (fun c_ hf => ?_) (fun c_ hf => ?_)
  · refine j_iconst (0 : Int32) dX7_logCell_29 (by decide) ?_
    exact pf_X7_logCell_B30 r0 p0 p1 r0 (0 : Int32) h4 hf
  · refine j_iconst (1 : Int32) dX7_logCell_25 (by decide) ?_
    refine j_goto 30 dX7_logCell_26 (by decide) ?_
    exact pf_X7_logCell_B30 r0 p0 p1 r0 (1 : Int32) h4 hf
theorem kc_X7_325 {Γ : GX} {I : MI} {D : va_G} {h0 : PH} {Q : State → Prop} {h : PH} {pc : Nat} {vs : List (Option Value)} {rest : List Value} {β : Type} {o : β} {r : Option Nat} {p0 : Int32} {p1 : Int32} {K : ((Int32) → PH → Option β)} (hI : I.2.2.1 = RX7) (hfr : Nat.ble 2 I.2.2.2.2.2.1 = true) (hlo : Nat.ble 47 I.2.2.2.2.2.2.1 = true) (hW : (rest.map fun v => v.category).sum ≤ 8) (hd : decode I.1 pc = .ok (.invokevirtual 325, 3)) (hf : rv_ h r 6 (cl_ (f_X7_logCell r p0 p1 h) K) = some o) (kk : ∀ (x : Int32) (h1 : PH), K x h1 = some o → PF Γ I D h0 Q h1 (pc + 3) vs (.int x :: rest)) : PF Γ I D h0 Q h pc vs (.int p1 :: .int p0 :: va_rf r :: rest) := by
  obtain ⟨cc, nL, own, rt, xt, fr, lo, nm⟩ := I
  cases hI
  exact j_cVi (n := 2) (y := yX7_logCell) (cc2 := cX7_logCell) (As := [.int p0, .int p1]) (C := RX7) (ci := 6) rfl (lw_V q2690 q2692 qs86 q117 q2693) hyV_X7_logCell hfr hlo rfl hW hd (c_X7_logCell r p0 p1) hf _ rfl kk
abbrev mi_X7_logKind : MI := (cX7_logKind, 2, RX7, (Option.some FieldType.int), [], 2, 47, "logKind")
def f_X7_logKind (r0 : Option Nat) (p0 : Int32) (h0 : PH) : Option (Int32 × PH) := rv_ h0 r0 6 (cl_ (f_X7_logCell r0 p0 (1 : Int32) h0) fun v2 h1 => some (v2, h1))
theorem hyS_X7_logKind : yX7_logKind.cls ≠ "java/lang/invoke/MethodHandle" ∧ yX7_logKind.cls ≠ "java/lang/invoke/VarHandle" ∧ (parseMethodDescriptor yX7_logKind.desc).map (fun d => d.parameters.length) = some 1 := by decide +kernel
theorem hyV_X7_logKind : yX7_logKind.cls = RX7 ∧ yX7_logKind.cls ≠ "java/lang/invoke/MethodHandle" ∧ yX7_logKind.cls ≠ "java/lang/invoke/VarHandle" ∧ (parseMethodDescriptor yX7_logKind.desc).map (fun d => d.parameters.length) = some 1 := by decide +kernel
theorem c_X7_logKind {D : va_G} (r0 : Option Nat) (p0 : Int32) {h0 : PH} (l : Launch) (hl : l.stackTraces = false) (x : Int32) (h1 : PH) (hf : f_X7_logKind r0 p0 h0 = some (x, h1)) : CT l D yX7_logKind (ws_ yX7_logKind cX7_logKind 2 (Option.some FieldType.int)) 2 47 [va_rf r0, .int p0] h0 (ovi x) h1 := by
  refine ct_of hl [some (va_rf r0), some (.int p0)] (by decide) (by rw [lgl]; simp [va_rf_cat, cat_i, cat_l]) (by simp [lv_args, vsL, va_rf_cat, cat_i, cat_l]) (fun Γ => ?_)
  obtain ⟨o, ho⟩ : ∃ o : Int32 × PH, o = (x, h1) := ⟨_, rfl⟩
  rw [← ho] at hf
  have e1 : x = o.1 := by rw [ho]
  have e2 : h1 = o.2 := by rw [ho]
  subst e1 e2
  clear ho
  show PF Γ mi_X7_logKind D h0 (QR Γ D h0 (ovi o.1) o.2) h0 0 [some (va_rf r0), some (.int p0)] []
  unfold f_X7_logKind at hf
  refine j_aload_n 0 dX7_logKind_0 rfl rfl ?_
  refine j_iload_n 1 dX7_logKind_1 rfl rfl ?_
  refine j_iconst (1 : Int32) dX7_logKind_2 (by decide) ?_
  refine kc_X7_325 rfl rfl rfl (by decide) dX7_logKind_3 hf (fun v2 h1 hf => ?_)
  have e9 := Option.some.inj hf
  subst e9
  exact j_iret rfl dX7_logKind_6
abbrev mi_X7_logNode : MI := (cX7_logNode, 2, RX7, (Option.some FieldType.int), [], 2, 47, "logNode")
def f_X7_logNode (r0 : Option Nat) (p0 : Int32) (h0 : PH) : Option (Int32 × PH) := rv_ h0 r0 6 (cl_ (f_X7_logCell r0 p0 (2 : Int32) h0) fun v2 h1 => some (v2, h1))
theorem hyS_X7_logNode : yX7_logNode.cls ≠ "java/lang/invoke/MethodHandle" ∧ yX7_logNode.cls ≠ "java/lang/invoke/VarHandle" ∧ (parseMethodDescriptor yX7_logNode.desc).map (fun d => d.parameters.length) = some 1 := by decide +kernel
theorem hyV_X7_logNode : yX7_logNode.cls = RX7 ∧ yX7_logNode.cls ≠ "java/lang/invoke/MethodHandle" ∧ yX7_logNode.cls ≠ "java/lang/invoke/VarHandle" ∧ (parseMethodDescriptor yX7_logNode.desc).map (fun d => d.parameters.length) = some 1 := by decide +kernel
theorem c_X7_logNode {D : va_G} (r0 : Option Nat) (p0 : Int32) {h0 : PH} (l : Launch) (hl : l.stackTraces = false) (x : Int32) (h1 : PH) (hf : f_X7_logNode r0 p0 h0 = some (x, h1)) : CT l D yX7_logNode (ws_ yX7_logNode cX7_logNode 2 (Option.some FieldType.int)) 2 47 [va_rf r0, .int p0] h0 (ovi x) h1 := by
  refine ct_of hl [some (va_rf r0), some (.int p0)] (by decide) (by rw [lgl]; simp [va_rf_cat, cat_i, cat_l]) (by simp [lv_args, vsL, va_rf_cat, cat_i, cat_l]) (fun Γ => ?_)
  obtain ⟨o, ho⟩ : ∃ o : Int32 × PH, o = (x, h1) := ⟨_, rfl⟩
  rw [← ho] at hf
  have e1 : x = o.1 := by rw [ho]
  have e2 : h1 = o.2 := by rw [ho]
  subst e1 e2
  clear ho
  show PF Γ mi_X7_logNode D h0 (QR Γ D h0 (ovi o.1) o.2) h0 0 [some (va_rf r0), some (.int p0)] []
  unfold f_X7_logNode at hf
  refine j_aload_n 0 dX7_logNode_0 rfl rfl ?_
  refine j_iload_n 1 dX7_logNode_1 rfl rfl ?_
  refine j_iconst (2 : Int32) dX7_logNode_2 (by decide) ?_
  refine kc_X7_325 rfl rfl rfl (by decide) dX7_logNode_3 hf (fun v2 h1 hf => ?_)
  have e9 := Option.some.inj hf
  subst e9
  exact j_iret rfl dX7_logNode_6
abbrev mi_X7_logToken : MI := (cX7_logToken, 2, RX7, (Option.some FieldType.int), [], 2, 47, "logToken")
def f_X7_logToken (r0 : Option Nat) (p0 : Int32) (h0 : PH) : Option (Int32 × PH) := rv_ h0 r0 6 (cl_ (f_X7_logCell r0 p0 (3 : Int32) h0) fun v2 h1 => some (v2, h1))
theorem hyS_X7_logToken : yX7_logToken.cls ≠ "java/lang/invoke/MethodHandle" ∧ yX7_logToken.cls ≠ "java/lang/invoke/VarHandle" ∧ (parseMethodDescriptor yX7_logToken.desc).map (fun d => d.parameters.length) = some 1 := by decide +kernel
theorem hyV_X7_logToken : yX7_logToken.cls = RX7 ∧ yX7_logToken.cls ≠ "java/lang/invoke/MethodHandle" ∧ yX7_logToken.cls ≠ "java/lang/invoke/VarHandle" ∧ (parseMethodDescriptor yX7_logToken.desc).map (fun d => d.parameters.length) = some 1 := by decide +kernel
theorem c_X7_logToken {D : va_G} (r0 : Option Nat) (p0 : Int32) {h0 : PH} (l : Launch) (hl : l.stackTraces = false) (x : Int32) (h1 : PH) (hf : f_X7_logToken r0 p0 h0 = some (x, h1)) : CT l D yX7_logToken (ws_ yX7_logToken cX7_logToken 2 (Option.some FieldType.int)) 2 47 [va_rf r0, .int p0] h0 (ovi x) h1 := by
  refine ct_of hl [some (va_rf r0), some (.int p0)] (by decide) (by rw [lgl]; simp [va_rf_cat, cat_i, cat_l]) (by simp [lv_args, vsL, va_rf_cat, cat_i, cat_l]) (fun Γ => ?_)
  obtain ⟨o, ho⟩ : ∃ o : Int32 × PH, o = (x, h1) := ⟨_, rfl⟩
  rw [← ho] at hf
  have e1 : x = o.1 := by rw [ho]
  have e2 : h1 = o.2 := by rw [ho]
  subst e1 e2
  clear ho
  show PF Γ mi_X7_logToken D h0 (QR Γ D h0 (ovi o.1) o.2) h0 0 [some (va_rf r0), some (.int p0)] []
  unfold f_X7_logToken at hf
  refine j_aload_n 0 dX7_logToken_0 rfl rfl ?_
  refine j_iload_n 1 dX7_logToken_1 rfl rfl ?_
  refine j_iconst (3 : Int32) dX7_logToken_2 (by decide) ?_
  refine kc_X7_325 rfl rfl rfl (by decide) dX7_logToken_3 hf (fun v2 h1 hf => ?_)
  have e9 := Option.some.inj hf
  subst e9
  exact j_iret rfl dX7_logToken_6
abbrev mi_X7_eventCount : MI := (cX7_eventCount, 2, RX7, (Option.some FieldType.int), [], 1, 25, "eventCount")
def f_X7_eventCount_B43 (t0 : Int32) (h : PH) : Option (Int32 × PH) := some (t0, h)
theorem pf_X7_eventCount_B43 {Γ : GX} {D : va_G} {h0 : PH} {o : Int32 × PH} (t0 : Int32) (h : PH) (hf : f_X7_eventCount_B43 t0 h = some o) : PF Γ mi_X7_eventCount D h0 (QR Γ D h0 (ovi o.1) o.2) h 43 [none, none] [.int t0] := by
  have e9 := Option.some.inj hf
  subst e9
  exact j_iret rfl dX7_eventCount_43
def f_X7_eventCount_B23 (x0 : Option Nat) (x1 : Int32) (t0 : Option Nat) (t1 : Int32) (h : PH) : Option (Int32 × PH) := rv_ h t0 6 (cl_ (f_X7_throwsIf t0 t1 (1 : Int32) h) fun v5 h4 => (if v5 = 0 then (gR h4 x0 6 0 fun r6 => aI h4 r6 0 ((24 : Int32) + x1) fun v7 => f_X7_eventCount_B43 v7 h4) else (f_X7_eventCount_B43 (0 : Int32) h4)))
theorem pf_X7_eventCount_B23 {Γ : GX} {D : va_G} {h0 : PH} {o : Int32 × PH} (x0 : Option Nat) (x1 : Int32) (t0 : Option Nat) (t1 : Int32) (h : PH) (hf : f_X7_eventCount_B23 x0 x1 t0 t1 h = some o) : PF Γ mi_X7_eventCount D h0 (QR Γ D h0 (ovi o.1) o.2) h 23 [some (va_rf x0), some (.int x1)] [.int t1, va_rf t0] := by
  refine j_iconst (1 : Int32) dX7_eventCount_23 (by decide) ?_
  refine kc_X7_72 rfl rfl rfl (by decide) dX7_eventCount_24 hf (fun v5 h4 hf => ?_)
  refine j_if_eq 34 dX7_eventCount_27 (by decide) hf (fun c_ hf => ?_) (fun c_ hf => ?_)
  · refine j_aload_n 0 dX7_eventCount_34 rfl rfl ?_
    refine j_gR (ci := 6) (k := 0) rfl in_X7 rfl q2202 dX7_eventCount_35 hf (fun r6 hf => ?_)
    refine j_bipush (24 : Int32) dX7_eventCount_38 (by decide) ?_
    refine j_iload_n 1 dX7_eventCount_40 rfl rfl ?_
    refine j_iadd dX7_eventCount_41 ?_
    refine j_iald dX7_eventCount_42 hf (fun v7 hf => ?_)
    refine j_weak [none, none] (Wk.s (Wk.s Wk.n)) ?_
    exact pf_X7_eventCount_B43 v7 h4 hf
  · refine j_iconst (0 : Int32) dX7_eventCount_30 (by decide) ?_
    refine j_goto 43 dX7_eventCount_31 (by decide) ?_
    refine j_weak [none, none] (Wk.s (Wk.s Wk.n)) ?_
    exact pf_X7_eventCount_B43 (0 : Int32) h4 hf
def f_X7_eventCount (r0 : Option Nat) (p0 : Int32) (h0 : PH) : Option (Int32 × PH) := pV h0 r0 6 1 (.int (0 : Int32)) fun h1 => cl_ (f_X7_in (p0.toInt64) (1 : Int64) (8 : Int64) h1) fun v3 h2 => (if v3 = 0 then (f_X7_eventCount_B23 r0 p0 r0 (1 : Int32) h2) else (f_X7_eventCount_B23 r0 p0 r0 (0 : Int32) h2))
theorem hyS_X7_eventCount : yX7_eventCount.cls ≠ "java/lang/invoke/MethodHandle" ∧ yX7_eventCount.cls ≠ "java/lang/invoke/VarHandle" ∧ (parseMethodDescriptor yX7_eventCount.desc).map (fun d => d.parameters.length) = some 1 := by decide +kernel
theorem hyV_X7_eventCount : yX7_eventCount.cls = RX7 ∧ yX7_eventCount.cls ≠ "java/lang/invoke/MethodHandle" ∧ yX7_eventCount.cls ≠ "java/lang/invoke/VarHandle" ∧ (parseMethodDescriptor yX7_eventCount.desc).map (fun d => d.parameters.length) = some 1 := by decide +kernel
theorem c_X7_eventCount {D : va_G} (r0 : Option Nat) (p0 : Int32) {h0 : PH} (l : Launch) (hl : l.stackTraces = false) (x : Int32) (h1 : PH) (hf : f_X7_eventCount r0 p0 h0 = some (x, h1)) : CT l D yX7_eventCount (ws_ yX7_eventCount cX7_eventCount 2 (Option.some FieldType.int)) 1 25 [va_rf r0, .int p0] h0 (ovi x) h1 := by
  refine ct_of hl [some (va_rf r0), some (.int p0)] (by decide) (by rw [lgl]; simp [va_rf_cat, cat_i, cat_l]) (by simp [lv_args, vsL, va_rf_cat, cat_i, cat_l]) (fun Γ => ?_)
  obtain ⟨o, ho⟩ : ∃ o : Int32 × PH, o = (x, h1) := ⟨_, rfl⟩
  rw [← ho] at hf
  have e1 : x = o.1 := by rw [ho]
  have e2 : h1 = o.2 := by rw [ho]
  subst e1 e2
  clear ho
  show PF Γ mi_X7_eventCount D h0 (QR Γ D h0 (ovi o.1) o.2) h0 0 [some (va_rf r0), some (.int p0)] []
  unfold f_X7_eventCount at hf
  refine j_aload_n 0 dX7_eventCount_0 rfl rfl ?_
  refine j_iconst (0 : Int32) dX7_eventCount_1 (by decide) ?_
  refine j_pV (ci := 6) (k := 1) tyX7 tyX7_ok nmX7 rfl in_X7 rfl q2203 (Or.inl rfl) rfl (fit_i _) dX7_eventCount_2 hf (fun h1 hf => ?_)
  refine j_aload_n 0 dX7_eventCount_5 rfl rfl ?_
  refine j_iload_n 1 dX7_eventCount_6 rfl rfl ?_
  refine j_i2l dX7_eventCount_7 ?_
  refine j_lconst (1 : Int64) dX7_eventCount_8 (by decide) ?_
  refine j_ldc2 q2710 dX7_eventCount_9 ?_
  refine kc_X7_68 rfl rfl rfl (by simp [va_rf_cat, cat_i, cat_l]) dX7_eventCount_12 hf (fun v3 h2 hf => ?_)
  refine j_if_ne 22 dX7_eventCount_15 (by decide) hf (fun c_ hf => ?_) (fun c_ hf => ?_)
  · refine j_iconst (0 : Int32) dX7_eventCount_22 (by decide) ?_
    exact pf_X7_eventCount_B23 r0 p0 r0 (0 : Int32) h2 hf
  · refine j_iconst (1 : Int32) dX7_eventCount_18 (by decide) ?_
    refine j_goto 23 dX7_eventCount_19 (by decide) ?_
    exact pf_X7_eventCount_B23 r0 p0 r0 (1 : Int32) h2 hf
abbrev mi_X7_countInLog : MI := (cX7_countInLog, 5, RX7, (Option.some FieldType.int), [], 1, 25, "countInLog")
def f_X7_countInLog_B63  (h : PH) : Option (Int32 × PH) := some ((0 : Int32), h)
theorem pf_X7_countInLog_B63 {Γ : GX} {D : va_G} {h0 : PH} {o : Int32 × PH}  (h : PH) (hf : f_X7_countInLog_B63  h = some o) : PF Γ mi_X7_countInLog D h0 (QR Γ D h0 (ovi o.1) o.2) h 63 [none, none, none, none, none] [] := by
  refine j_iconst (0 : Int32) dX7_countInLog_63 (by decide) ?_
  have e9 := Option.some.inj hf
  subst e9
  exact j_iret rfl dX7_countInLog_64
def f_X7_countInLog_B126 (k70 : Option Nat → Int32 → Int32 → Int32 → Int32 → PH → Option (Int32 × PH)) (x0 : Option Nat) (x1 : Int32) (x2 : Int32) (x4 : Int32) (t0 : Int32) (t1 : Int32) (h : PH) : Option (Int32 × PH) := k70 x0 x1 x2 (t0 + t1) (x4 + (1 : Int32)) h
theorem pf_X7_countInLog_B126 {Γ : GX} {D : va_G} {h0 : PH} {o : Int32 × PH} (k70 : Option Nat → Int32 → Int32 → Int32 → Int32 → PH → Option (Int32 × PH)) (hk70 : ∀ (x0 : Option Nat) (x1 : Int32) (x2 : Int32) (x3 : Int32) (x4 : Int32) (h : PH), k70 x0 x1 x2 x3 x4 h = some o → PF Γ mi_X7_countInLog D h0 (QR Γ D h0 (ovi o.1) o.2) h 70 [some (va_rf x0), some (.int x1), some (.int x2), some (.int x3), some (.int x4)] []) (x0 : Option Nat) (x1 : Int32) (x2 : Int32) (x4 : Int32) (t0 : Int32) (t1 : Int32) (h : PH) (hf : f_X7_countInLog_B126 k70 x0 x1 x2 x4 t0 t1 h = some o) : PF Γ mi_X7_countInLog D h0 (QR Γ D h0 (ovi o.1) o.2) h 126 [some (va_rf x0), some (.int x1), some (.int x2), none, some (.int x4)] [.int t1, .int t0] := by
  refine j_iadd dX7_countInLog_126 ?_
  refine j_istore_n 3 [some (va_rf x0), some (.int x1), some (.int x2), some (.int (t0 + t1)), some (.int x4)] dX7_countInLog_127 rfl (cz rfl) rfl rfl ?_
  refine j_iinc (x4 + (1 : Int32)) [some (va_rf x0), some (.int x1), some (.int x2), some (.int (t0 + t1)), some (.int (x4 + (1 : Int32)))] dX7_countInLog_128 rfl rfl (cz rfl) rfl rfl ?_
  refine j_goto 70 dX7_countInLog_131 (by decide) ?_
  exact hk70 x0 x1 x2 (t0 + t1) (x4 + (1 : Int32)) h hf
def f_X7_countInLog_B125 (k70 : Option Nat → Int32 → Int32 → Int32 → Int32 → PH → Option (Int32 × PH)) (x0 : Option Nat) (x1 : Int32) (x2 : Int32) (x4 : Int32) (t0 : Int32) (h : PH) : Option (Int32 × PH) := f_X7_countInLog_B126 k70 x0 x1 x2 x4 t0 (0 : Int32) h
theorem pf_X7_countInLog_B125 {Γ : GX} {D : va_G} {h0 : PH} {o : Int32 × PH} (k70 : Option Nat → Int32 → Int32 → Int32 → Int32 → PH → Option (Int32 × PH)) (hk70 : ∀ (x0 : Option Nat) (x1 : Int32) (x2 : Int32) (x3 : Int32) (x4 : Int32) (h : PH), k70 x0 x1 x2 x3 x4 h = some o → PF Γ mi_X7_countInLog D h0 (QR Γ D h0 (ovi o.1) o.2) h 70 [some (va_rf x0), some (.int x1), some (.int x2), some (.int x3), some (.int x4)] []) (x0 : Option Nat) (x1 : Int32) (x2 : Int32) (x4 : Int32) (t0 : Int32) (h : PH) (hf : f_X7_countInLog_B125 k70 x0 x1 x2 x4 t0 h = some o) : PF Γ mi_X7_countInLog D h0 (QR Γ D h0 (ovi o.1) o.2) h 125 [some (va_rf x0), some (.int x1), some (.int x2), none, some (.int x4)] [.int t0] := by
  refine j_iconst (0 : Int32) dX7_countInLog_125 (by decide) ?_
  exact pf_X7_countInLog_B126 k70 hk70 x0 x1 x2 x4 t0 (0 : Int32) h hf
def f_X7_countInLog_L70 : Nat → Option Nat → Int32 → Int32 → Int32 → Int32 → PH → Option (Int32 × PH)
  | 0, _, _, _, _, _, _ => none
  | n + 1, x0, x1, x2, x3, x4, h => gR h x0 6 0 fun r12 => aI h r12 0 (22 : Int32) fun v13 => (if v13 ≤ x4 then (some (x3, h)) else (gR h x0 6 0 fun r14 => aI h r14 0 (((336 : Int32) + ((4 : Int32) * x4)) + (1 : Int32)) fun v15 => (if v15 = x1 then (gR h x0 6 0 fun r16 => aI h r16 0 (((336 : Int32) + ((4 : Int32) * x4)) + (2 : Int32)) fun v17 => (if v17 = x2 then (f_X7_countInLog_B126 (f_X7_countInLog_L70 n) x0 x1 x2 x4 x3 (1 : Int32) h) else (f_X7_countInLog_B125 (f_X7_countInLog_L70 n) x0 x1 x2 x4 x3 h))) else (f_X7_countInLog_B125 (f_X7_countInLog_L70 n) x0 x1 x2 x4 x3 h))))
theorem pf_X7_countInLog_L70 {Γ : GX} {D : va_G} {h0 : PH} {o : Int32 × PH} : ∀ (n : Nat) (x0 : Option Nat) (x1 : Int32) (x2 : Int32) (x3 : Int32) (x4 : Int32) (h : PH), f_X7_countInLog_L70 n x0 x1 x2 x3 x4 h = some o → PF Γ mi_X7_countInLog D h0 (QR Γ D h0 (ovi o.1) o.2) h 70 [some (va_rf x0), some (.int x1), some (.int x2), some (.int x3), some (.int x4)] [] := by
  intro n
  induction n with
  | zero => intro x0 x1 x2 x3 x4 h hf; cases hf
  | succ n ih =>
    intro x0 x1 x2 x3 x4 h hf
    refine j_iload dX7_countInLog_70 rfl ?_
    refine j_aload_n 0 dX7_countInLog_72 rfl rfl ?_
    refine j_gR (ci := 6) (k := 0) rfl in_X7 rfl q2202 dX7_countInLog_73 hf (fun r12 hf => ?_)
    refine j_bipush (22 : Int32) dX7_countInLog_76 (by decide) ?_
    refine j_iald dX7_countInLog_78 hf (fun v13 hf => ?_)
    refine j_icmp_ge 134 dX7_countInLog_79 (by decide) hf (fun c_ hf => ?_) (fun c_ hf => ?_)
    · refine j_iload_n 3 dX7_countInLog_134 rfl rfl ?_
      have e9 := Option.some.inj hf
      subst e9
      exact j_iret rfl dX7_countInLog_135
    · refine j_iload_n 3 dX7_countInLog_82 rfl rfl ?_
      refine j_aload_n 0 dX7_countInLog_83 rfl rfl ?_
      refine j_gR (ci := 6) (k := 0) rfl in_X7 rfl q2202 dX7_countInLog_84 hf (fun r14 hf => ?_)
      refine j_sipush (336 : Int32) dX7_countInLog_87 (by decide) ?_
      refine j_iconst (4 : Int32) dX7_countInLog_90 (by decide) ?_
      refine j_iload dX7_countInLog_91 rfl ?_
      refine j_imul dX7_countInLog_93 ?_
      refine j_iadd dX7_countInLog_94 ?_
      refine j_iconst (1 : Int32) dX7_countInLog_95 (by decide) ?_
      refine j_iadd dX7_countInLog_96 ?_
      refine j_iald dX7_countInLog_97 hf (fun v15 hf => ?_)
      refine j_iload_n 1 dX7_countInLog_98 rfl rfl ?_
      refine j_icmp_ne 125 dX7_countInLog_99 (by decide) hf (fun c_ hf => ?_) (fun c_ hf => ?_)
      · refine j_weak [some (va_rf x0), some (.int x1), some (.int x2), none, some (.int x4)] (Wk.k (Wk.k (Wk.k (Wk.s (Wk.k Wk.n))))) ?_
        exact pf_X7_countInLog_B125 (f_X7_countInLog_L70 n) ih x0 x1 x2 x4 x3 h hf
      · refine j_aload_n 0 dX7_countInLog_102 rfl rfl ?_
        refine j_gR (ci := 6) (k := 0) rfl in_X7 rfl q2202 dX7_countInLog_103 hf (fun r16 hf => ?_)
        refine j_sipush (336 : Int32) dX7_countInLog_106 (by decide) ?_
        refine j_iconst (4 : Int32) dX7_countInLog_109 (by decide) ?_
        refine j_iload dX7_countInLog_110 rfl ?_
        refine j_imul dX7_countInLog_112 ?_
        refine j_iadd dX7_countInLog_113 ?_
        refine j_iconst (2 : Int32) dX7_countInLog_114 (by decide) ?_
        refine j_iadd dX7_countInLog_115 ?_
        refine j_iald dX7_countInLog_116 hf (fun v17 hf => ?_)
        refine j_iload_n 2 dX7_countInLog_117 rfl rfl ?_
        refine j_icmp_ne 125 dX7_countInLog_118 (by decide) hf (fun c_ hf => ?_) (fun c_ hf => ?_)
        · refine j_weak [some (va_rf x0), some (.int x1), some (.int x2), none, some (.int x4)] (Wk.k (Wk.k (Wk.k (Wk.s (Wk.k Wk.n))))) ?_
          exact pf_X7_countInLog_B125 (f_X7_countInLog_L70 n) ih x0 x1 x2 x4 x3 h hf
        · refine j_iconst (1 : Int32) dX7_countInLog_121 (by decide) ?_
          refine j_goto 126 dX7_countInLog_122 (by decide) ?_
          refine j_weak [some (va_rf x0), some (.int x1), some (.int x2), none, some (.int x4)] (Wk.k (Wk.k (Wk.k (Wk.s (Wk.k Wk.n))))) ?_
          exact pf_X7_countInLog_B126 (f_X7_countInLog_L70 n) ih x0 x1 x2 x4 x3 (1 : Int32) h hf
def f_X7_countInLog_B56 (x0 : Option Nat) (x1 : Int32) (x2 : Int32) (t0 : Option Nat) (t1 : Int32) (h : PH) : Option (Int32 × PH) := rv_ h t0 6 (cl_ (f_X7_throwsIf t0 t1 (2 : Int32) h) fun v11 h10 => (if v11 = 0 then (f_X7_countInLog_L70 FU x0 x1 x2 (0 : Int32) (0 : Int32) h10) else (f_X7_countInLog_B63 h10)))
theorem pf_X7_countInLog_B56 {Γ : GX} {D : va_G} {h0 : PH} {o : Int32 × PH} (x0 : Option Nat) (x1 : Int32) (x2 : Int32) (t0 : Option Nat) (t1 : Int32) (h : PH) (hf : f_X7_countInLog_B56 x0 x1 x2 t0 t1 h = some o) : PF Γ mi_X7_countInLog D h0 (QR Γ D h0 (ovi o.1) o.2) h 56 [some (va_rf x0), some (.int x1), some (.int x2), none, none] [.int t1, va_rf t0] := by
  refine j_iconst (2 : Int32) dX7_countInLog_56 (by decide) ?_
  refine kc_X7_72 rfl rfl rfl (by decide) dX7_countInLog_57 hf (fun v11 h10 hf => ?_)
  refine j_if_eq 65 dX7_countInLog_60 (by decide) hf (fun c_ hf => ?_) (fun c_ hf => ?_)
  · refine j_iconst (0 : Int32) dX7_countInLog_65 (by decide) ?_
    refine j_istore_n 3 [some (va_rf x0), some (.int x1), some (.int x2), some (.int (0 : Int32)), none] dX7_countInLog_66 rfl (cz rfl) rfl rfl ?_
    refine j_iconst (0 : Int32) dX7_countInLog_67 (by decide) ?_
    refine j_istore [some (va_rf x0), some (.int x1), some (.int x2), some (.int (0 : Int32)), some (.int (0 : Int32))] dX7_countInLog_68 (cz rfl) rfl rfl ?_
    exact pf_X7_countInLog_L70 FU x0 x1 x2 (0 : Int32) (0 : Int32) h10 hf
  · refine j_weak [none, none, none, none, none] (Wk.s (Wk.s (Wk.s (Wk.k (Wk.k Wk.n))))) ?_
    exact pf_X7_countInLog_B63  h10 hf
def f_X7_countInLog_B31 (x0 : Option Nat) (x1 : Int32) (x2 : Int32) (t0 : Option Nat) (t1 : Int32) (h : PH) : Option (Int32 × PH) := rv_ h t0 6 (cl_ (f_X7_throwsIf t0 t1 (1 : Int32) h) fun v7 h6 => (if v7 = 0 then (cl_ (f_X7_in (x1.toInt64) (1 : Int64) (8 : Int64) h6) fun v9 h8 => (if v9 = 0 then (f_X7_countInLog_B56 x0 x1 x2 x0 (1 : Int32) h8) else (f_X7_countInLog_B56 x0 x1 x2 x0 (0 : Int32) h8))) else (f_X7_countInLog_B63 h6)))
theorem pf_X7_countInLog_B31 {Γ : GX} {D : va_G} {h0 : PH} {o : Int32 × PH} (x0 : Option Nat) (x1 : Int32) (x2 : Int32) (t0 : Option Nat) (t1 : Int32) (h : PH) (hf : f_X7_countInLog_B31 x0 x1 x2 t0 t1 h = some o) : PF Γ mi_X7_countInLog D h0 (QR Γ D h0 (ovi o.1) o.2) h 31 [some (va_rf x0), some (.int x1), some (.int x2), none, none] [.int t1, va_rf t0] := by
  refine j_iconst (1 : Int32) dX7_countInLog_31 (by decide) ?_
  refine kc_X7_72 rfl rfl rfl (by decide) dX7_countInLog_32 hf (fun v7 h6 hf => ?_)
  refine j_if_ne 63 dX7_countInLog_35 (by decide) hf (fun c_ hf => ?_) (fun c_ hf => ?_)
  · refine j_weak [none, none, none, none, none] (Wk.s (Wk.s (Wk.s (Wk.k (Wk.k Wk.n))))) ?_
    exact pf_X7_countInLog_B63  h6 hf
  · refine j_aload_n 0 dX7_countInLog_38 rfl rfl ?_
    refine j_iload_n 1 dX7_countInLog_39 rfl rfl ?_
    refine j_i2l dX7_countInLog_40 ?_
    refine j_lconst (1 : Int64) dX7_countInLog_41 (by decide) ?_
    refine j_ldc2 q2710 dX7_countInLog_42 ?_
    refine kc_X7_68 rfl rfl rfl (by simp [va_rf_cat, cat_i, cat_l]) dX7_countInLog_45 hf (fun v9 h8 hf => ?_)
    refine j_if_ne 55 dX7_countInLog_48 (by decide) hf (fun c_ hf => ?_) (fun c_ hf => ?_)
    · refine j_iconst (0 : Int32) dX7_countInLog_55 (by decide) ?_
      exact pf_X7_countInLog_B56 x0 x1 x2 x0 (0 : Int32) h8 hf
    · refine j_iconst (1 : Int32) dX7_countInLog_51 (by decide) ?_
      refine j_goto 56 dX7_countInLog_52 (by decide) ?_
      exact pf_X7_countInLog_B56 x0 x1 x2 x0 (1 : Int32) h8 hf
def f_X7_countInLog (r0 : Option Nat) (p0 : Int32) (p1 : Int32) (h0 : PH) : Option (Int32 × PH) := pV h0 r0 6 1 (.int (0 : Int32)) fun h1 => gR h1 r0 6 0 fun r2 => aI h1 r2 0 (2 : Int32) fun v3 => cl_ (f_X7_in (p1.toInt64) (-1 : Int64) ((v3 - (1 : Int32)).toInt64) h1) fun v5 h4 => (if v5 = 0 then (f_X7_countInLog_B31 r0 p0 p1 r0 (1 : Int32) h4) else (f_X7_countInLog_B31 r0 p0 p1 r0 (0 : Int32) h4))
theorem hyS_X7_countInLog : yX7_countInLog.cls ≠ "java/lang/invoke/MethodHandle" ∧ yX7_countInLog.cls ≠ "java/lang/invoke/VarHandle" ∧ (parseMethodDescriptor yX7_countInLog.desc).map (fun d => d.parameters.length) = some 2 := by decide +kernel
theorem hyV_X7_countInLog : yX7_countInLog.cls = RX7 ∧ yX7_countInLog.cls ≠ "java/lang/invoke/MethodHandle" ∧ yX7_countInLog.cls ≠ "java/lang/invoke/VarHandle" ∧ (parseMethodDescriptor yX7_countInLog.desc).map (fun d => d.parameters.length) = some 2 := by decide +kernel
theorem c_X7_countInLog {D : va_G} (r0 : Option Nat) (p0 : Int32) (p1 : Int32) {h0 : PH} (l : Launch) (hl : l.stackTraces = false) (x : Int32) (h1 : PH) (hf : f_X7_countInLog r0 p0 p1 h0 = some (x, h1)) : CT l D yX7_countInLog (ws_ yX7_countInLog cX7_countInLog 5 (Option.some FieldType.int)) 1 25 [va_rf r0, .int p0, .int p1] h0 (ovi x) h1 := by
  refine ct_of hl [some (va_rf r0), some (.int p0), some (.int p1), none, none] (by decide) (by rw [lgl]; simp [va_rf_cat, cat_i, cat_l]) (by simp [lv_args, vsL, va_rf_cat, cat_i, cat_l]) (fun Γ => ?_)
  obtain ⟨o, ho⟩ : ∃ o : Int32 × PH, o = (x, h1) := ⟨_, rfl⟩
  rw [← ho] at hf
  have e1 : x = o.1 := by rw [ho]
  have e2 : h1 = o.2 := by rw [ho]
  subst e1 e2
  clear ho
  show PF Γ mi_X7_countInLog D h0 (QR Γ D h0 (ovi o.1) o.2) h0 0 [some (va_rf r0), some (.int p0), some (.int p1), none, none] []
  unfold f_X7_countInLog at hf
  refine j_aload_n 0 dX7_countInLog_0 rfl rfl ?_
  refine j_iconst (0 : Int32) dX7_countInLog_1 (by decide) ?_
  refine j_pV (ci := 6) (k := 1) tyX7 tyX7_ok nmX7 rfl in_X7 rfl q2203 (Or.inl rfl) rfl (fit_i _) dX7_countInLog_2 hf (fun h1 hf => ?_)
  refine j_aload_n 0 dX7_countInLog_5 rfl rfl ?_
  refine j_iload_n 2 dX7_countInLog_6 rfl rfl ?_
  refine j_i2l dX7_countInLog_7 ?_
  refine j_ldc2 q2715 dX7_countInLog_8 ?_
  refine j_aload_n 0 dX7_countInLog_11 rfl rfl ?_
  refine j_gR (ci := 6) (k := 0) rfl in_X7 rfl q2202 dX7_countInLog_12 hf (fun r2 hf => ?_)
  refine j_iconst (2 : Int32) dX7_countInLog_15 (by decide) ?_
  refine j_iald dX7_countInLog_16 hf (fun v3 hf => ?_)
  refine j_iconst (1 : Int32) dX7_countInLog_17 (by decide) ?_
  refine j_isub dX7_countInLog_18 ?_
  refine j_i2l dX7_countInLog_19 ?_
  refine kc_X7_68 rfl rfl rfl (by simp [va_rf_cat, cat_i, cat_l]) dX7_countInLog_20 hf (fun v5 h4 hf => ?_)
  refine j_if_ne 30 dX7_countInLog_23 (by decide) hf (fun c_ hf => ?_) (fun c_ hf => ?_)
  · refine j_iconst (0 : Int32) dX7_countInLog_30 (by decide) ?_
    exact pf_X7_countInLog_B31 r0 p0 p1 r0 (0 : Int32) h4 hf
  · refine j_iconst (1 : Int32) dX7_countInLog_26 (by decide) ?_
    refine j_goto 31 dX7_countInLog_27 (by decide) ?_
    exact pf_X7_countInLog_B31 r0 p0 p1 r0 (1 : Int32) h4 hf
abbrev mi_X7_lastEventTime : MI := (cX7_lastEventTime, 3, RX7, (Option.some FieldType.int), [], 1, 25, "lastEventTime")
def f_X7_lastEventTime_B91 (t0 : Int32) (h : PH) : Option (Int32 × PH) := some (t0, h)
theorem pf_X7_lastEventTime_B91 {Γ : GX} {D : va_G} {h0 : PH} {o : Int32 × PH} (t0 : Int32) (h : PH) (hf : f_X7_lastEventTime_B91 t0 h = some o) : PF Γ mi_X7_lastEventTime D h0 (QR Γ D h0 (ovi o.1) o.2) h 91 [none, none, none] [.int t0] := by
  have e9 := Option.some.inj hf
  subst e9
  exact j_iret rfl dX7_lastEventTime_91
def f_X7_lastEventTime_B70 (x0 : Option Nat) (x2 : Int32) (h : PH) : Option (Int32 × PH) := (if 0 ≤ x2 then (gR h x0 6 0 fun r10 => aI h r10 0 ((336 : Int32) + ((4 : Int32) * x2)) fun v11 => f_X7_lastEventTime_B91 v11 h) else (f_X7_lastEventTime_B91 (-4 : Int32) h))
theorem pf_X7_lastEventTime_B70 {Γ : GX} {D : va_G} {h0 : PH} {o : Int32 × PH} (x0 : Option Nat) (x2 : Int32) (h : PH) (hf : f_X7_lastEventTime_B70 x0 x2 h = some o) : PF Γ mi_X7_lastEventTime D h0 (QR Γ D h0 (ovi o.1) o.2) h 70 [some (va_rf x0), none, some (.int x2)] [] := by
  refine j_iload_n 2 dX7_lastEventTime_70 rfl rfl ?_
  refine j_if_ge 79 dX7_lastEventTime_71 (by decide) hf (fun c_ hf => ?_) (fun c_ hf => ?_)
  · refine j_aload_n 0 dX7_lastEventTime_79 rfl rfl ?_
    refine j_gR (ci := 6) (k := 0) rfl in_X7 rfl q2202 dX7_lastEventTime_80 hf (fun r10 hf => ?_)
    refine j_sipush (336 : Int32) dX7_lastEventTime_83 (by decide) ?_
    refine j_iconst (4 : Int32) dX7_lastEventTime_86 (by decide) ?_
    refine j_iload_n 2 dX7_lastEventTime_87 rfl rfl ?_
    refine j_imul dX7_lastEventTime_88 ?_
    refine j_iadd dX7_lastEventTime_89 ?_
    refine j_iald dX7_lastEventTime_90 hf (fun v11 hf => ?_)
    refine j_weak [none, none, none] (Wk.s (Wk.k (Wk.s Wk.n))) ?_
    exact pf_X7_lastEventTime_B91 v11 h hf
  · refine j_bipush (-4 : Int32) dX7_lastEventTime_74 (by decide) ?_
    refine j_goto 91 dX7_lastEventTime_76 (by decide) ?_
    refine j_weak [none, none, none] (Wk.s (Wk.k (Wk.s Wk.n))) ?_
    exact pf_X7_lastEventTime_B91 (-4 : Int32) h hf
def f_X7_lastEventTime_L42 : Nat → Option Nat → Int32 → Int32 → PH → Option (Int32 × PH)
  | 0, _, _, _, _ => none
  | n + 1, x0, x1, x2, h => (if x2 < 0 then (f_X7_lastEventTime_B70 x0 x2 h) else (gR h x0 6 0 fun r8 => aI h r8 0 (((336 : Int32) + ((4 : Int32) * x2)) + (1 : Int32)) fun v9 => (if v9 = x1 then (f_X7_lastEventTime_B70 x0 x2 h) else (f_X7_lastEventTime_L42 n x0 x1 (x2 + (-1 : Int32)) h))))
theorem pf_X7_lastEventTime_L42 {Γ : GX} {D : va_G} {h0 : PH} {o : Int32 × PH} : ∀ (n : Nat) (x0 : Option Nat) (x1 : Int32) (x2 : Int32) (h : PH), f_X7_lastEventTime_L42 n x0 x1 x2 h = some o → PF Γ mi_X7_lastEventTime D h0 (QR Γ D h0 (ovi o.1) o.2) h 42 [some (va_rf x0), some (.int x1), some (.int x2)] [] := by
  intro n
  induction n with
  | zero => intro x0 x1 x2 h hf; cases hf
  | succ n ih =>
    intro x0 x1 x2 h hf
    refine j_iload_n 2 dX7_lastEventTime_42 rfl rfl ?_
    refine j_if_lt 70 dX7_lastEventTime_43 (by decide) hf (fun c_ hf => ?_) (fun c_ hf => ?_)
    · refine j_weak [some (va_rf x0), none, some (.int x2)] (Wk.k (Wk.s (Wk.k Wk.n))) ?_
      exact pf_X7_lastEventTime_B70 x0 x2 h hf
    · refine j_aload_n 0 dX7_lastEventTime_46 rfl rfl ?_
      refine j_gR (ci := 6) (k := 0) rfl in_X7 rfl q2202 dX7_lastEventTime_47 hf (fun r8 hf => ?_)
      refine j_sipush (336 : Int32) dX7_lastEventTime_50 (by decide) ?_
      refine j_iconst (4 : Int32) dX7_lastEventTime_53 (by decide) ?_
      refine j_iload_n 2 dX7_lastEventTime_54 rfl rfl ?_
      refine j_imul dX7_lastEventTime_55 ?_
      refine j_iadd dX7_lastEventTime_56 ?_
      refine j_iconst (1 : Int32) dX7_lastEventTime_57 (by decide) ?_
      refine j_iadd dX7_lastEventTime_58 ?_
      refine j_iald dX7_lastEventTime_59 hf (fun v9 hf => ?_)
      refine j_iload_n 1 dX7_lastEventTime_60 rfl rfl ?_
      refine j_icmp_eq 70 dX7_lastEventTime_61 (by decide) hf (fun c_ hf => ?_) (fun c_ hf => ?_)
      · refine j_weak [some (va_rf x0), none, some (.int x2)] (Wk.k (Wk.s (Wk.k Wk.n))) ?_
        exact pf_X7_lastEventTime_B70 x0 x2 h hf
      · refine j_iinc (x2 + (-1 : Int32)) [some (va_rf x0), some (.int x1), some (.int (x2 + (-1 : Int32)))] dX7_lastEventTime_64 rfl rfl (cz rfl) rfl rfl ?_
        refine j_goto 42 dX7_lastEventTime_67 (by decide) ?_
        exact ih x0 x1 (x2 + (-1 : Int32)) h hf
def f_X7_lastEventTime_B23 (x0 : Option Nat) (x1 : Int32) (t0 : Option Nat) (t1 : Int32) (h : PH) : Option (Int32 × PH) := rv_ h t0 6 (cl_ (f_X7_throwsIf t0 t1 (1 : Int32) h) fun v5 h4 => (if v5 = 0 then (gR h4 x0 6 0 fun r6 => aI h4 r6 0 (22 : Int32) fun v7 => f_X7_lastEventTime_L42 FU x0 x1 (v7 - (1 : Int32)) h4) else (some ((0 : Int32), h4))))
theorem pf_X7_lastEventTime_B23 {Γ : GX} {D : va_G} {h0 : PH} {o : Int32 × PH} (x0 : Option Nat) (x1 : Int32) (t0 : Option Nat) (t1 : Int32) (h : PH) (hf : f_X7_lastEventTime_B23 x0 x1 t0 t1 h = some o) : PF Γ mi_X7_lastEventTime D h0 (QR Γ D h0 (ovi o.1) o.2) h 23 [some (va_rf x0), some (.int x1), none] [.int t1, va_rf t0] := by
  refine j_iconst (1 : Int32) dX7_lastEventTime_23 (by decide) ?_
  refine kc_X7_72 rfl rfl rfl (by decide) dX7_lastEventTime_24 hf (fun v5 h4 hf => ?_)
  refine j_if_eq 32 dX7_lastEventTime_27 (by decide) hf (fun c_ hf => ?_) (fun c_ hf => ?_)
  · refine j_aload_n 0 dX7_lastEventTime_32 rfl rfl ?_
    refine j_gR (ci := 6) (k := 0) rfl in_X7 rfl q2202 dX7_lastEventTime_33 hf (fun r6 hf => ?_)
    refine j_bipush (22 : Int32) dX7_lastEventTime_36 (by decide) ?_
    refine j_iald dX7_lastEventTime_38 hf (fun v7 hf => ?_)
    refine j_iconst (1 : Int32) dX7_lastEventTime_39 (by decide) ?_
    refine j_isub dX7_lastEventTime_40 ?_
    refine j_istore_n 2 [some (va_rf x0), some (.int x1), some (.int (v7 - (1 : Int32)))] dX7_lastEventTime_41 rfl (cz rfl) rfl rfl ?_
    exact pf_X7_lastEventTime_L42 FU x0 x1 (v7 - (1 : Int32)) h4 hf
  · refine j_iconst (0 : Int32) dX7_lastEventTime_30 (by decide) ?_
    have e9 := Option.some.inj hf
    subst e9
    exact j_iret rfl dX7_lastEventTime_31
def f_X7_lastEventTime (r0 : Option Nat) (p0 : Int32) (h0 : PH) : Option (Int32 × PH) := pV h0 r0 6 1 (.int (0 : Int32)) fun h1 => cl_ (f_X7_in (p0.toInt64) (1 : Int64) (8 : Int64) h1) fun v3 h2 => (if v3 = 0 then (f_X7_lastEventTime_B23 r0 p0 r0 (1 : Int32) h2) else (f_X7_lastEventTime_B23 r0 p0 r0 (0 : Int32) h2))
theorem hyS_X7_lastEventTime : yX7_lastEventTime.cls ≠ "java/lang/invoke/MethodHandle" ∧ yX7_lastEventTime.cls ≠ "java/lang/invoke/VarHandle" ∧ (parseMethodDescriptor yX7_lastEventTime.desc).map (fun d => d.parameters.length) = some 1 := by decide +kernel
theorem hyV_X7_lastEventTime : yX7_lastEventTime.cls = RX7 ∧ yX7_lastEventTime.cls ≠ "java/lang/invoke/MethodHandle" ∧ yX7_lastEventTime.cls ≠ "java/lang/invoke/VarHandle" ∧ (parseMethodDescriptor yX7_lastEventTime.desc).map (fun d => d.parameters.length) = some 1 := by decide +kernel
theorem c_X7_lastEventTime {D : va_G} (r0 : Option Nat) (p0 : Int32) {h0 : PH} (l : Launch) (hl : l.stackTraces = false) (x : Int32) (h1 : PH) (hf : f_X7_lastEventTime r0 p0 h0 = some (x, h1)) : CT l D yX7_lastEventTime (ws_ yX7_lastEventTime cX7_lastEventTime 3 (Option.some FieldType.int)) 1 25 [va_rf r0, .int p0] h0 (ovi x) h1 := by
  refine ct_of hl [some (va_rf r0), some (.int p0), none] (by decide) (by rw [lgl]; simp [va_rf_cat, cat_i, cat_l]) (by simp [lv_args, vsL, va_rf_cat, cat_i, cat_l]) (fun Γ => ?_)
  obtain ⟨o, ho⟩ : ∃ o : Int32 × PH, o = (x, h1) := ⟨_, rfl⟩
  rw [← ho] at hf
  have e1 : x = o.1 := by rw [ho]
  have e2 : h1 = o.2 := by rw [ho]
  subst e1 e2
  clear ho
  show PF Γ mi_X7_lastEventTime D h0 (QR Γ D h0 (ovi o.1) o.2) h0 0 [some (va_rf r0), some (.int p0), none] []
  unfold f_X7_lastEventTime at hf
  refine j_aload_n 0 dX7_lastEventTime_0 rfl rfl ?_
  refine j_iconst (0 : Int32) dX7_lastEventTime_1 (by decide) ?_
  refine j_pV (ci := 6) (k := 1) tyX7 tyX7_ok nmX7 rfl in_X7 rfl q2203 (Or.inl rfl) rfl (fit_i _) dX7_lastEventTime_2 hf (fun h1 hf => ?_)
  refine j_aload_n 0 dX7_lastEventTime_5 rfl rfl ?_
  refine j_iload_n 1 dX7_lastEventTime_6 rfl rfl ?_
  refine j_i2l dX7_lastEventTime_7 ?_
  refine j_lconst (1 : Int64) dX7_lastEventTime_8 (by decide) ?_
  refine j_ldc2 q2710 dX7_lastEventTime_9 ?_
  refine kc_X7_68 rfl rfl rfl (by simp [va_rf_cat, cat_i, cat_l]) dX7_lastEventTime_12 hf (fun v3 h2 hf => ?_)
  refine j_if_ne 22 dX7_lastEventTime_15 (by decide) hf (fun c_ hf => ?_) (fun c_ hf => ?_)
  · refine j_iconst (0 : Int32) dX7_lastEventTime_22 (by decide) ?_
    exact pf_X7_lastEventTime_B23 r0 p0 r0 (0 : Int32) h2 hf
  · refine j_iconst (1 : Int32) dX7_lastEventTime_18 (by decide) ?_
    refine j_goto 23 dX7_lastEventTime_19 (by decide) ?_
    exact pf_X7_lastEventTime_B23 r0 p0 r0 (1 : Int32) h2 hf
abbrev mi_X7_splitTime : MI := (cX7_splitTime, 1, RX7, (Option.some FieldType.int), [], 1, 21, "splitTime")
def f_X7_splitTime (r0 : Option Nat) (h0 : PH) : Option (Int32 × PH) := rv_ h0 r0 6 (cl_ (f_X7_own r0 (17 : Int32) h0) fun v2 h1 => some (v2, h1))
theorem hyS_X7_splitTime : yX7_splitTime.cls ≠ "java/lang/invoke/MethodHandle" ∧ yX7_splitTime.cls ≠ "java/lang/invoke/VarHandle" ∧ (parseMethodDescriptor yX7_splitTime.desc).map (fun d => d.parameters.length) = some 0 := by decide +kernel
theorem hyV_X7_splitTime : yX7_splitTime.cls = RX7 ∧ yX7_splitTime.cls ≠ "java/lang/invoke/MethodHandle" ∧ yX7_splitTime.cls ≠ "java/lang/invoke/VarHandle" ∧ (parseMethodDescriptor yX7_splitTime.desc).map (fun d => d.parameters.length) = some 0 := by decide +kernel
theorem c_X7_splitTime {D : va_G} (r0 : Option Nat) {h0 : PH} (l : Launch) (hl : l.stackTraces = false) (x : Int32) (h1 : PH) (hf : f_X7_splitTime r0 h0 = some (x, h1)) : CT l D yX7_splitTime (ws_ yX7_splitTime cX7_splitTime 1 (Option.some FieldType.int)) 1 21 [va_rf r0] h0 (ovi x) h1 := by
  refine ct_of hl [some (va_rf r0)] (by decide) (by rw [lgl]; simp [va_rf_cat, cat_i, cat_l]) (by simp [lv_args, vsL, va_rf_cat, cat_i, cat_l]) (fun Γ => ?_)
  obtain ⟨o, ho⟩ : ∃ o : Int32 × PH, o = (x, h1) := ⟨_, rfl⟩
  rw [← ho] at hf
  have e1 : x = o.1 := by rw [ho]
  have e2 : h1 = o.2 := by rw [ho]
  subst e1 e2
  clear ho
  show PF Γ mi_X7_splitTime D h0 (QR Γ D h0 (ovi o.1) o.2) h0 0 [some (va_rf r0)] []
  unfold f_X7_splitTime at hf
  refine j_aload_n 0 dX7_splitTime_0 rfl rfl ?_
  refine j_bipush (17 : Int32) dX7_splitTime_1 (by decide) ?_
  refine kc_X7_304 rfl rfl rfl (by decide) dX7_splitTime_3 hf (fun v2 h1 hf => ?_)
  have e9 := Option.some.inj hf
  subst e9
  exact j_iret rfl dX7_splitTime_6
abbrev mi_X7_reads : MI := (cX7_reads, 1, RX7, (Option.some FieldType.int), [], 1, 21, "reads")
def f_X7_reads (r0 : Option Nat) (h0 : PH) : Option (Int32 × PH) := rv_ h0 r0 6 (cl_ (f_X7_own r0 (18 : Int32) h0) fun v2 h1 => some (v2, h1))
theorem hyS_X7_reads : yX7_reads.cls ≠ "java/lang/invoke/MethodHandle" ∧ yX7_reads.cls ≠ "java/lang/invoke/VarHandle" ∧ (parseMethodDescriptor yX7_reads.desc).map (fun d => d.parameters.length) = some 0 := by decide +kernel
theorem hyV_X7_reads : yX7_reads.cls = RX7 ∧ yX7_reads.cls ≠ "java/lang/invoke/MethodHandle" ∧ yX7_reads.cls ≠ "java/lang/invoke/VarHandle" ∧ (parseMethodDescriptor yX7_reads.desc).map (fun d => d.parameters.length) = some 0 := by decide +kernel
theorem c_X7_reads {D : va_G} (r0 : Option Nat) {h0 : PH} (l : Launch) (hl : l.stackTraces = false) (x : Int32) (h1 : PH) (hf : f_X7_reads r0 h0 = some (x, h1)) : CT l D yX7_reads (ws_ yX7_reads cX7_reads 1 (Option.some FieldType.int)) 1 21 [va_rf r0] h0 (ovi x) h1 := by
  refine ct_of hl [some (va_rf r0)] (by decide) (by rw [lgl]; simp [va_rf_cat, cat_i, cat_l]) (by simp [lv_args, vsL, va_rf_cat, cat_i, cat_l]) (fun Γ => ?_)
  obtain ⟨o, ho⟩ : ∃ o : Int32 × PH, o = (x, h1) := ⟨_, rfl⟩
  rw [← ho] at hf
  have e1 : x = o.1 := by rw [ho]
  have e2 : h1 = o.2 := by rw [ho]
  subst e1 e2
  clear ho
  show PF Γ mi_X7_reads D h0 (QR Γ D h0 (ovi o.1) o.2) h0 0 [some (va_rf r0)] []
  unfold f_X7_reads at hf
  refine j_aload_n 0 dX7_reads_0 rfl rfl ?_
  refine j_bipush (18 : Int32) dX7_reads_1 (by decide) ?_
  refine kc_X7_304 rfl rfl rfl (by decide) dX7_reads_3 hf (fun v2 h1 hf => ?_)
  have e9 := Option.some.inj hf
  subst e9
  exact j_iret rfl dX7_reads_6
abbrev mi_X7_staleReads : MI := (cX7_staleReads, 1, RX7, (Option.some FieldType.int), [], 1, 21, "staleReads")
def f_X7_staleReads (r0 : Option Nat) (h0 : PH) : Option (Int32 × PH) := rv_ h0 r0 6 (cl_ (f_X7_own r0 (19 : Int32) h0) fun v2 h1 => some (v2, h1))
theorem hyS_X7_staleReads : yX7_staleReads.cls ≠ "java/lang/invoke/MethodHandle" ∧ yX7_staleReads.cls ≠ "java/lang/invoke/VarHandle" ∧ (parseMethodDescriptor yX7_staleReads.desc).map (fun d => d.parameters.length) = some 0 := by decide +kernel
theorem hyV_X7_staleReads : yX7_staleReads.cls = RX7 ∧ yX7_staleReads.cls ≠ "java/lang/invoke/MethodHandle" ∧ yX7_staleReads.cls ≠ "java/lang/invoke/VarHandle" ∧ (parseMethodDescriptor yX7_staleReads.desc).map (fun d => d.parameters.length) = some 0 := by decide +kernel
theorem c_X7_staleReads {D : va_G} (r0 : Option Nat) {h0 : PH} (l : Launch) (hl : l.stackTraces = false) (x : Int32) (h1 : PH) (hf : f_X7_staleReads r0 h0 = some (x, h1)) : CT l D yX7_staleReads (ws_ yX7_staleReads cX7_staleReads 1 (Option.some FieldType.int)) 1 21 [va_rf r0] h0 (ovi x) h1 := by
  refine ct_of hl [some (va_rf r0)] (by decide) (by rw [lgl]; simp [va_rf_cat, cat_i, cat_l]) (by simp [lv_args, vsL, va_rf_cat, cat_i, cat_l]) (fun Γ => ?_)
  obtain ⟨o, ho⟩ : ∃ o : Int32 × PH, o = (x, h1) := ⟨_, rfl⟩
  rw [← ho] at hf
  have e1 : x = o.1 := by rw [ho]
  have e2 : h1 = o.2 := by rw [ho]
  subst e1 e2
  clear ho
  show PF Γ mi_X7_staleReads D h0 (QR Γ D h0 (ovi o.1) o.2) h0 0 [some (va_rf r0)] []
  unfold f_X7_staleReads at hf
  refine j_aload_n 0 dX7_staleReads_0 rfl rfl ?_
  refine j_bipush (19 : Int32) dX7_staleReads_1 (by decide) ?_
  refine kc_X7_304 rfl rfl rfl (by decide) dX7_staleReads_3 hf (fun v2 h1 hf => ?_)
  have e9 := Option.some.inj hf
  subst e9
  exact j_iret rfl dX7_staleReads_6
abbrev mi_X7_ledTime : MI := (cX7_ledTime, 2, RX7, (Option.some FieldType.int), [], 3, 68, "ledTime")
def f_X7_ledTime (r0 : Option Nat) (p0 : Int32) (h0 : PH) : Option (Int32 × PH) := rv_ h0 r0 6 (cl_ (f_X7_ofNode r0 p0 (10 : Int32) h0) fun v2 h1 => some (v2, h1))
theorem hyS_X7_ledTime : yX7_ledTime.cls ≠ "java/lang/invoke/MethodHandle" ∧ yX7_ledTime.cls ≠ "java/lang/invoke/VarHandle" ∧ (parseMethodDescriptor yX7_ledTime.desc).map (fun d => d.parameters.length) = some 1 := by decide +kernel
theorem hyV_X7_ledTime : yX7_ledTime.cls = RX7 ∧ yX7_ledTime.cls ≠ "java/lang/invoke/MethodHandle" ∧ yX7_ledTime.cls ≠ "java/lang/invoke/VarHandle" ∧ (parseMethodDescriptor yX7_ledTime.desc).map (fun d => d.parameters.length) = some 1 := by decide +kernel
theorem c_X7_ledTime {D : va_G} (r0 : Option Nat) (p0 : Int32) {h0 : PH} (l : Launch) (hl : l.stackTraces = false) (x : Int32) (h1 : PH) (hf : f_X7_ledTime r0 p0 h0 = some (x, h1)) : CT l D yX7_ledTime (ws_ yX7_ledTime cX7_ledTime 2 (Option.some FieldType.int)) 3 68 [va_rf r0, .int p0] h0 (ovi x) h1 := by
  refine ct_of hl [some (va_rf r0), some (.int p0)] (by decide) (by rw [lgl]; simp [va_rf_cat, cat_i, cat_l]) (by simp [lv_args, vsL, va_rf_cat, cat_i, cat_l]) (fun Γ => ?_)
  obtain ⟨o, ho⟩ : ∃ o : Int32 × PH, o = (x, h1) := ⟨_, rfl⟩
  rw [← ho] at hf
  have e1 : x = o.1 := by rw [ho]
  have e2 : h1 = o.2 := by rw [ho]
  subst e1 e2
  clear ho
  show PF Γ mi_X7_ledTime D h0 (QR Γ D h0 (ovi o.1) o.2) h0 0 [some (va_rf r0), some (.int p0)] []
  unfold f_X7_ledTime at hf
  refine j_aload_n 0 dX7_ledTime_0 rfl rfl ?_
  refine j_iload_n 1 dX7_ledTime_1 rfl rfl ?_
  refine j_bipush (10 : Int32) dX7_ledTime_2 (by decide) ?_
  refine kc_X7_313 rfl rfl rfl (by decide) dX7_ledTime_4 hf (fun v2 h1 hf => ?_)
  have e9 := Option.some.inj hf
  subst e9
  exact j_iret rfl dX7_ledTime_7
abbrev mi_X7_putsAside : MI := (cX7_putsAside, 2, RX7, none, [], 0, 0, "putsAside")
def f_X7_putsAside_L2 : Nat → Option Nat → Int32 → PH → Option (Unit × PH)
  | 0, _, _, _ => none
  | n + 1, x0, x1, h => (if (73136 : Int32) ≤ x1 then (some ((), h)) else (gR h x0 6 15 fun r1 => gR h x0 6 0 fun r2 => aI h r2 0 x1 fun v3 => sI h r1 0 x1 v3 fun h4 => f_X7_putsAside_L2 n x0 (x1 + (1 : Int32)) h4))
theorem pf_X7_putsAside_L2 {Γ : GX} {D : va_G} {h0 : PH} {o : Unit × PH} : ∀ (n : Nat) (x0 : Option Nat) (x1 : Int32) (h : PH), f_X7_putsAside_L2 n x0 x1 h = some o → PF Γ mi_X7_putsAside D h0 (QR Γ D h0 (ovv o.1) o.2) h 2 [some (va_rf x0), some (.int x1)] [] := by
  intro n
  induction n with
  | zero => intro x0 x1 h hf; cases hf
  | succ n ih =>
    intro x0 x1 h hf
    refine j_iload_n 1 dX7_putsAside_2 rfl rfl ?_
    refine j_ldc q2179 dX7_putsAside_3 ?_
    refine j_icmp_ge 26 dX7_putsAside_5 (by decide) hf (fun c_ hf => ?_) (fun c_ hf => ?_)
    · have e9 := Option.some.inj hf
      subst e9
      exact j_vret rfl dX7_putsAside_26
    · refine j_aload_n 0 dX7_putsAside_8 rfl rfl ?_
      refine j_gR (ci := 6) (k := 15) rfl in_X7 rfl q2217 dX7_putsAside_9 hf (fun r1 hf => ?_)
      refine j_iload_n 1 dX7_putsAside_12 rfl rfl ?_
      refine j_aload_n 0 dX7_putsAside_13 rfl rfl ?_
      refine j_gR (ci := 6) (k := 0) rfl in_X7 rfl q2202 dX7_putsAside_14 hf (fun r2 hf => ?_)
      refine j_iload_n 1 dX7_putsAside_17 rfl rfl ?_
      refine j_iald dX7_putsAside_18 hf (fun v3 hf => ?_)
      refine j_iast dX7_putsAside_19 hf (fun h4 hf => ?_)
      refine j_iinc (x1 + (1 : Int32)) [some (va_rf x0), some (.int (x1 + (1 : Int32)))] dX7_putsAside_20 rfl rfl (cz (va_rf_cat _)) rfl rfl ?_
      refine j_goto 2 dX7_putsAside_23 (by decide) ?_
      exact ih x0 (x1 + (1 : Int32)) h4 hf
def f_X7_putsAside (r0 : Option Nat) (h0 : PH) : Option (Unit × PH) := f_X7_putsAside_L2 FU r0 (0 : Int32) h0
theorem hyS_X7_putsAside : yX7_putsAside.cls ≠ "java/lang/invoke/MethodHandle" ∧ yX7_putsAside.cls ≠ "java/lang/invoke/VarHandle" ∧ (parseMethodDescriptor yX7_putsAside.desc).map (fun d => d.parameters.length) = some 0 := by decide +kernel
theorem hyV_X7_putsAside : yX7_putsAside.cls = RX7 ∧ yX7_putsAside.cls ≠ "java/lang/invoke/MethodHandle" ∧ yX7_putsAside.cls ≠ "java/lang/invoke/VarHandle" ∧ (parseMethodDescriptor yX7_putsAside.desc).map (fun d => d.parameters.length) = some 0 := by decide +kernel
theorem c_X7_putsAside {D : va_G} (r0 : Option Nat) {h0 : PH} (l : Launch) (hl : l.stackTraces = false) (x : Unit) (h1 : PH) (hf : f_X7_putsAside r0 h0 = some (x, h1)) : CT l D yX7_putsAside (ws_ yX7_putsAside cX7_putsAside 2 none) 0 0 [va_rf r0] h0 (ovv x) h1 := by
  refine ct_of hl [some (va_rf r0), none] (by decide) (by rw [lgl]; simp [va_rf_cat, cat_i, cat_l]) (by simp [lv_args, vsL, va_rf_cat, cat_i, cat_l]) (fun Γ => ?_)
  obtain ⟨o, ho⟩ : ∃ o : Unit × PH, o = (x, h1) := ⟨_, rfl⟩
  rw [← ho] at hf
  have e1 : x = o.1 := by rw [ho]
  have e2 : h1 = o.2 := by rw [ho]
  subst e1 e2
  clear ho
  show PF Γ mi_X7_putsAside D h0 (QR Γ D h0 (ovv o.1) o.2) h0 0 [some (va_rf r0), none] []
  unfold f_X7_putsAside at hf
  refine j_iconst (0 : Int32) dX7_putsAside_0 (by decide) ?_
  refine j_istore_n 1 [some (va_rf r0), some (.int (0 : Int32))] dX7_putsAside_1 rfl (cz (va_rf_cat _)) rfl rfl ?_
  exact pf_X7_putsAside_L2 FU r0 (0 : Int32) h0 hf
abbrev mi_X7_takesBack : MI := (cX7_takesBack, 2, RX7, none, [], 0, 0, "takesBack")
def f_X7_takesBack_L2 : Nat → Option Nat → Int32 → PH → Option (Unit × PH)
  | 0, _, _, _ => none
  | n + 1, x0, x1, h => (if (73136 : Int32) ≤ x1 then (some ((), h)) else (gR h x0 6 0 fun r1 => gR h x0 6 15 fun r2 => aI h r2 0 x1 fun v3 => sI h r1 0 x1 v3 fun h4 => f_X7_takesBack_L2 n x0 (x1 + (1 : Int32)) h4))
theorem pf_X7_takesBack_L2 {Γ : GX} {D : va_G} {h0 : PH} {o : Unit × PH} : ∀ (n : Nat) (x0 : Option Nat) (x1 : Int32) (h : PH), f_X7_takesBack_L2 n x0 x1 h = some o → PF Γ mi_X7_takesBack D h0 (QR Γ D h0 (ovv o.1) o.2) h 2 [some (va_rf x0), some (.int x1)] [] := by
  intro n
  induction n with
  | zero => intro x0 x1 h hf; cases hf
  | succ n ih =>
    intro x0 x1 h hf
    refine j_iload_n 1 dX7_takesBack_2 rfl rfl ?_
    refine j_ldc q2179 dX7_takesBack_3 ?_
    refine j_icmp_ge 26 dX7_takesBack_5 (by decide) hf (fun c_ hf => ?_) (fun c_ hf => ?_)
    · have e9 := Option.some.inj hf
      subst e9
      exact j_vret rfl dX7_takesBack_26
    · refine j_aload_n 0 dX7_takesBack_8 rfl rfl ?_
      refine j_gR (ci := 6) (k := 0) rfl in_X7 rfl q2202 dX7_takesBack_9 hf (fun r1 hf => ?_)
      refine j_iload_n 1 dX7_takesBack_12 rfl rfl ?_
      refine j_aload_n 0 dX7_takesBack_13 rfl rfl ?_
      refine j_gR (ci := 6) (k := 15) rfl in_X7 rfl q2217 dX7_takesBack_14 hf (fun r2 hf => ?_)
      refine j_iload_n 1 dX7_takesBack_17 rfl rfl ?_
      refine j_iald dX7_takesBack_18 hf (fun v3 hf => ?_)
      refine j_iast dX7_takesBack_19 hf (fun h4 hf => ?_)
      refine j_iinc (x1 + (1 : Int32)) [some (va_rf x0), some (.int (x1 + (1 : Int32)))] dX7_takesBack_20 rfl rfl (cz (va_rf_cat _)) rfl rfl ?_
      refine j_goto 2 dX7_takesBack_23 (by decide) ?_
      exact ih x0 (x1 + (1 : Int32)) h4 hf
def f_X7_takesBack (r0 : Option Nat) (h0 : PH) : Option (Unit × PH) := f_X7_takesBack_L2 FU r0 (0 : Int32) h0
theorem hyS_X7_takesBack : yX7_takesBack.cls ≠ "java/lang/invoke/MethodHandle" ∧ yX7_takesBack.cls ≠ "java/lang/invoke/VarHandle" ∧ (parseMethodDescriptor yX7_takesBack.desc).map (fun d => d.parameters.length) = some 0 := by decide +kernel
theorem hyV_X7_takesBack : yX7_takesBack.cls = RX7 ∧ yX7_takesBack.cls ≠ "java/lang/invoke/MethodHandle" ∧ yX7_takesBack.cls ≠ "java/lang/invoke/VarHandle" ∧ (parseMethodDescriptor yX7_takesBack.desc).map (fun d => d.parameters.length) = some 0 := by decide +kernel
theorem c_X7_takesBack {D : va_G} (r0 : Option Nat) {h0 : PH} (l : Launch) (hl : l.stackTraces = false) (x : Unit) (h1 : PH) (hf : f_X7_takesBack r0 h0 = some (x, h1)) : CT l D yX7_takesBack (ws_ yX7_takesBack cX7_takesBack 2 none) 0 0 [va_rf r0] h0 (ovv x) h1 := by
  refine ct_of hl [some (va_rf r0), none] (by decide) (by rw [lgl]; simp [va_rf_cat, cat_i, cat_l]) (by simp [lv_args, vsL, va_rf_cat, cat_i, cat_l]) (fun Γ => ?_)
  obtain ⟨o, ho⟩ : ∃ o : Unit × PH, o = (x, h1) := ⟨_, rfl⟩
  rw [← ho] at hf
  have e1 : x = o.1 := by rw [ho]
  have e2 : h1 = o.2 := by rw [ho]
  subst e1 e2
  clear ho
  show PF Γ mi_X7_takesBack D h0 (QR Γ D h0 (ovv o.1) o.2) h0 0 [some (va_rf r0), none] []
  unfold f_X7_takesBack at hf
  refine j_iconst (0 : Int32) dX7_takesBack_0 (by decide) ?_
  refine j_istore_n 1 [some (va_rf r0), some (.int (0 : Int32))] dX7_takesBack_1 rfl (cz (va_rf_cat _)) rfl rfl ?_
  exact pf_X7_takesBack_L2 FU r0 (0 : Int32) h0 hf
abbrev mi_X7_saveSnapshot : MI := (cX7_saveSnapshot, 3, RX7, (Option.some FieldType.int), [], 1, 25, "saveSnapshot")
def f_X7_saveSnapshot_L32 : Nat → Option Nat → Int32 → Int32 → PH → Option (Int32 × PH)
  | 0, _, _, _, _ => none
  | n + 1, x0, x1, x2, h => (if (73136 : Int32) ≤ x2 then (gR h x0 6 17 fun r6 => sI h r6 3 x1 (vp_nar .boolean (1 : Int32)) fun h7 => gR h7 x0 6 0 fun r8 => aI h7 r8 0 (0 : Int32) fun v9 => some (v9, h7)) else (gR h x0 6 16 fun r10 => gR h x0 6 0 fun r11 => aI h r11 0 x2 fun v12 => sI h r10 0 (((73136 : Int32) * x1) + x2) v12 fun h13 => f_X7_saveSnapshot_L32 n x0 x1 (x2 + (1 : Int32)) h13))
theorem pf_X7_saveSnapshot_L32 {Γ : GX} {D : va_G} {h0 : PH} {o : Int32 × PH} : ∀ (n : Nat) (x0 : Option Nat) (x1 : Int32) (x2 : Int32) (h : PH), f_X7_saveSnapshot_L32 n x0 x1 x2 h = some o → PF Γ mi_X7_saveSnapshot D h0 (QR Γ D h0 (ovi o.1) o.2) h 32 [some (va_rf x0), some (.int x1), some (.int x2)] [] := by
  intro n
  induction n with
  | zero => intro x0 x1 x2 h hf; cases hf
  | succ n ih =>
    intro x0 x1 x2 h hf
    refine j_iload_n 2 dX7_saveSnapshot_32 rfl rfl ?_
    refine j_ldc q2179 dX7_saveSnapshot_33 ?_
    refine j_icmp_ge 61 dX7_saveSnapshot_35 (by decide) hf (fun c_ hf => ?_) (fun c_ hf => ?_)
    · refine j_aload_n 0 dX7_saveSnapshot_61 rfl rfl ?_
      refine j_gR (ci := 6) (k := 17) rfl in_X7 rfl q2219 dX7_saveSnapshot_62 hf (fun r6 hf => ?_)
      refine j_iload_n 1 dX7_saveSnapshot_65 rfl rfl ?_
      refine j_iconst (1 : Int32) dX7_saveSnapshot_66 (by decide) ?_
      refine j_zast dX7_saveSnapshot_67 hf (fun h7 hf => ?_)
      refine j_aload_n 0 dX7_saveSnapshot_68 rfl rfl ?_
      refine j_gR (ci := 6) (k := 0) rfl in_X7 rfl q2202 dX7_saveSnapshot_69 hf (fun r8 hf => ?_)
      refine j_iconst (0 : Int32) dX7_saveSnapshot_72 (by decide) ?_
      refine j_iald dX7_saveSnapshot_73 hf (fun v9 hf => ?_)
      have e9 := Option.some.inj hf
      subst e9
      exact j_iret rfl dX7_saveSnapshot_74
    · refine j_aload_n 0 dX7_saveSnapshot_38 rfl rfl ?_
      refine j_gR (ci := 6) (k := 16) rfl in_X7 rfl q2218 dX7_saveSnapshot_39 hf (fun r10 hf => ?_)
      refine j_ldc q2179 dX7_saveSnapshot_42 ?_
      refine j_iload_n 1 dX7_saveSnapshot_44 rfl rfl ?_
      refine j_imul dX7_saveSnapshot_45 ?_
      refine j_iload_n 2 dX7_saveSnapshot_46 rfl rfl ?_
      refine j_iadd dX7_saveSnapshot_47 ?_
      refine j_aload_n 0 dX7_saveSnapshot_48 rfl rfl ?_
      refine j_gR (ci := 6) (k := 0) rfl in_X7 rfl q2202 dX7_saveSnapshot_49 hf (fun r11 hf => ?_)
      refine j_iload_n 2 dX7_saveSnapshot_52 rfl rfl ?_
      refine j_iald dX7_saveSnapshot_53 hf (fun v12 hf => ?_)
      refine j_iast dX7_saveSnapshot_54 hf (fun h13 hf => ?_)
      refine j_iinc (x2 + (1 : Int32)) [some (va_rf x0), some (.int x1), some (.int (x2 + (1 : Int32)))] dX7_saveSnapshot_55 rfl rfl (cz rfl) rfl rfl ?_
      refine j_goto 32 dX7_saveSnapshot_58 (by decide) ?_
      exact ih x0 x1 (x2 + (1 : Int32)) h13 hf
def f_X7_saveSnapshot_B21 (x0 : Option Nat) (x1 : Int32) (t0 : Option Nat) (t1 : Int32) (h : PH) : Option (Int32 × PH) := rv_ h t0 6 (cl_ (f_X7_throwsIf t0 t1 (1 : Int32) h) fun v5 h4 => (if v5 = 0 then (f_X7_saveSnapshot_L32 FU x0 x1 (0 : Int32) h4) else (some ((0 : Int32), h4))))
theorem pf_X7_saveSnapshot_B21 {Γ : GX} {D : va_G} {h0 : PH} {o : Int32 × PH} (x0 : Option Nat) (x1 : Int32) (t0 : Option Nat) (t1 : Int32) (h : PH) (hf : f_X7_saveSnapshot_B21 x0 x1 t0 t1 h = some o) : PF Γ mi_X7_saveSnapshot D h0 (QR Γ D h0 (ovi o.1) o.2) h 21 [some (va_rf x0), some (.int x1), none] [.int t1, va_rf t0] := by
  refine j_iconst (1 : Int32) dX7_saveSnapshot_21 (by decide) ?_
  refine kc_X7_72 rfl rfl rfl (by decide) dX7_saveSnapshot_22 hf (fun v5 h4 hf => ?_)
  refine j_if_eq 30 dX7_saveSnapshot_25 (by decide) hf (fun c_ hf => ?_) (fun c_ hf => ?_)
  · refine j_iconst (0 : Int32) dX7_saveSnapshot_30 (by decide) ?_
    refine j_istore_n 2 [some (va_rf x0), some (.int x1), some (.int (0 : Int32))] dX7_saveSnapshot_31 rfl (cz rfl) rfl rfl ?_
    exact pf_X7_saveSnapshot_L32 FU x0 x1 (0 : Int32) h4 hf
  · refine j_iconst (0 : Int32) dX7_saveSnapshot_28 (by decide) ?_
    have e9 := Option.some.inj hf
    subst e9
    exact j_iret rfl dX7_saveSnapshot_29
def f_X7_saveSnapshot (r0 : Option Nat) (p0 : Int32) (h0 : PH) : Option (Int32 × PH) := pV h0 r0 6 1 (.int (0 : Int32)) fun h1 => cl_ (f_X7_in (p0.toInt64) (0 : Int64) (1 : Int64) h1) fun v3 h2 => (if v3 = 0 then (f_X7_saveSnapshot_B21 r0 p0 r0 (1 : Int32) h2) else (f_X7_saveSnapshot_B21 r0 p0 r0 (0 : Int32) h2))
theorem hyS_X7_saveSnapshot : yX7_saveSnapshot.cls ≠ "java/lang/invoke/MethodHandle" ∧ yX7_saveSnapshot.cls ≠ "java/lang/invoke/VarHandle" ∧ (parseMethodDescriptor yX7_saveSnapshot.desc).map (fun d => d.parameters.length) = some 1 := by decide +kernel
theorem hyV_X7_saveSnapshot : yX7_saveSnapshot.cls = RX7 ∧ yX7_saveSnapshot.cls ≠ "java/lang/invoke/MethodHandle" ∧ yX7_saveSnapshot.cls ≠ "java/lang/invoke/VarHandle" ∧ (parseMethodDescriptor yX7_saveSnapshot.desc).map (fun d => d.parameters.length) = some 1 := by decide +kernel
theorem c_X7_saveSnapshot {D : va_G} (r0 : Option Nat) (p0 : Int32) {h0 : PH} (l : Launch) (hl : l.stackTraces = false) (x : Int32) (h1 : PH) (hf : f_X7_saveSnapshot r0 p0 h0 = some (x, h1)) : CT l D yX7_saveSnapshot (ws_ yX7_saveSnapshot cX7_saveSnapshot 3 (Option.some FieldType.int)) 1 25 [va_rf r0, .int p0] h0 (ovi x) h1 := by
  refine ct_of hl [some (va_rf r0), some (.int p0), none] (by decide) (by rw [lgl]; simp [va_rf_cat, cat_i, cat_l]) (by simp [lv_args, vsL, va_rf_cat, cat_i, cat_l]) (fun Γ => ?_)
  obtain ⟨o, ho⟩ : ∃ o : Int32 × PH, o = (x, h1) := ⟨_, rfl⟩
  rw [← ho] at hf
  have e1 : x = o.1 := by rw [ho]
  have e2 : h1 = o.2 := by rw [ho]
  subst e1 e2
  clear ho
  show PF Γ mi_X7_saveSnapshot D h0 (QR Γ D h0 (ovi o.1) o.2) h0 0 [some (va_rf r0), some (.int p0), none] []
  unfold f_X7_saveSnapshot at hf
  refine j_aload_n 0 dX7_saveSnapshot_0 rfl rfl ?_
  refine j_iconst (0 : Int32) dX7_saveSnapshot_1 (by decide) ?_
  refine j_pV (ci := 6) (k := 1) tyX7 tyX7_ok nmX7 rfl in_X7 rfl q2203 (Or.inl rfl) rfl (fit_i _) dX7_saveSnapshot_2 hf (fun h1 hf => ?_)
  refine j_aload_n 0 dX7_saveSnapshot_5 rfl rfl ?_
  refine j_iload_n 1 dX7_saveSnapshot_6 rfl rfl ?_
  refine j_i2l dX7_saveSnapshot_7 ?_
  refine j_lconst (0 : Int64) dX7_saveSnapshot_8 (by decide) ?_
  refine j_lconst (1 : Int64) dX7_saveSnapshot_9 (by decide) ?_
  refine kc_X7_68 rfl rfl rfl (by simp [va_rf_cat, cat_i, cat_l]) dX7_saveSnapshot_10 hf (fun v3 h2 hf => ?_)
  refine j_if_ne 20 dX7_saveSnapshot_13 (by decide) hf (fun c_ hf => ?_) (fun c_ hf => ?_)
  · refine j_iconst (0 : Int32) dX7_saveSnapshot_20 (by decide) ?_
    exact pf_X7_saveSnapshot_B21 r0 p0 r0 (0 : Int32) h2 hf
  · refine j_iconst (1 : Int32) dX7_saveSnapshot_16 (by decide) ?_
    refine j_goto 21 dX7_saveSnapshot_17 (by decide) ?_
    exact pf_X7_saveSnapshot_B21 r0 p0 r0 (1 : Int32) h2 hf
abbrev mi_X7_restoreSnapshot : MI := (cX7_restoreSnapshot, 3, RX7, (Option.some FieldType.int), [], 1, 25, "restoreSnapshot")
def f_X7_restoreSnapshot_L44 : Nat → Option Nat → Int32 → Int32 → PH → Option (Int32 × PH)
  | 0, _, _, _, _ => none
  | n + 1, x0, x1, x2, h => (if (73136 : Int32) ≤ x2 then (gR h x0 6 0 fun r8 => aI h r8 0 (0 : Int32) fun v9 => some (v9, h)) else (gR h x0 6 0 fun r10 => gR h x0 6 16 fun r11 => aI h r11 0 (((73136 : Int32) * x1) + x2) fun v12 => sI h r10 0 x2 v12 fun h13 => f_X7_restoreSnapshot_L44 n x0 x1 (x2 + (1 : Int32)) h13))
theorem pf_X7_restoreSnapshot_L44 {Γ : GX} {D : va_G} {h0 : PH} {o : Int32 × PH} : ∀ (n : Nat) (x0 : Option Nat) (x1 : Int32) (x2 : Int32) (h : PH), f_X7_restoreSnapshot_L44 n x0 x1 x2 h = some o → PF Γ mi_X7_restoreSnapshot D h0 (QR Γ D h0 (ovi o.1) o.2) h 44 [some (va_rf x0), some (.int x1), some (.int x2)] [] := by
  intro n
  induction n with
  | zero => intro x0 x1 x2 h hf; cases hf
  | succ n ih =>
    intro x0 x1 x2 h hf
    refine j_iload_n 2 dX7_restoreSnapshot_44 rfl rfl ?_
    refine j_ldc q2179 dX7_restoreSnapshot_45 ?_
    refine j_icmp_ge 73 dX7_restoreSnapshot_47 (by decide) hf (fun c_ hf => ?_) (fun c_ hf => ?_)
    · refine j_aload_n 0 dX7_restoreSnapshot_73 rfl rfl ?_
      refine j_gR (ci := 6) (k := 0) rfl in_X7 rfl q2202 dX7_restoreSnapshot_74 hf (fun r8 hf => ?_)
      refine j_iconst (0 : Int32) dX7_restoreSnapshot_77 (by decide) ?_
      refine j_iald dX7_restoreSnapshot_78 hf (fun v9 hf => ?_)
      have e9 := Option.some.inj hf
      subst e9
      exact j_iret rfl dX7_restoreSnapshot_79
    · refine j_aload_n 0 dX7_restoreSnapshot_50 rfl rfl ?_
      refine j_gR (ci := 6) (k := 0) rfl in_X7 rfl q2202 dX7_restoreSnapshot_51 hf (fun r10 hf => ?_)
      refine j_iload_n 2 dX7_restoreSnapshot_54 rfl rfl ?_
      refine j_aload_n 0 dX7_restoreSnapshot_55 rfl rfl ?_
      refine j_gR (ci := 6) (k := 16) rfl in_X7 rfl q2218 dX7_restoreSnapshot_56 hf (fun r11 hf => ?_)
      refine j_ldc q2179 dX7_restoreSnapshot_59 ?_
      refine j_iload_n 1 dX7_restoreSnapshot_61 rfl rfl ?_
      refine j_imul dX7_restoreSnapshot_62 ?_
      refine j_iload_n 2 dX7_restoreSnapshot_63 rfl rfl ?_
      refine j_iadd dX7_restoreSnapshot_64 ?_
      refine j_iald dX7_restoreSnapshot_65 hf (fun v12 hf => ?_)
      refine j_iast dX7_restoreSnapshot_66 hf (fun h13 hf => ?_)
      refine j_iinc (x2 + (1 : Int32)) [some (va_rf x0), some (.int x1), some (.int (x2 + (1 : Int32)))] dX7_restoreSnapshot_67 rfl rfl (cz rfl) rfl rfl ?_
      refine j_goto 44 dX7_restoreSnapshot_70 (by decide) ?_
      exact ih x0 x1 (x2 + (1 : Int32)) h13 hf
def f_X7_restoreSnapshot_B21 (x0 : Option Nat) (x1 : Int32) (t0 : Option Nat) (t1 : Int32) (h : PH) : Option (Int32 × PH) := rv_ h t0 6 (cl_ (f_X7_throwsIf t0 t1 (1 : Int32) h) fun v5 h4 => (if v5 = 0 then (gR h4 x0 6 17 fun r6 => aI h4 r6 3 x1 fun v7 => (if v7 = 0 then (some ((-4 : Int32), h4)) else (f_X7_restoreSnapshot_L44 FU x0 x1 (0 : Int32) h4))) else (some ((0 : Int32), h4))))
theorem pf_X7_restoreSnapshot_B21 {Γ : GX} {D : va_G} {h0 : PH} {o : Int32 × PH} (x0 : Option Nat) (x1 : Int32) (t0 : Option Nat) (t1 : Int32) (h : PH) (hf : f_X7_restoreSnapshot_B21 x0 x1 t0 t1 h = some o) : PF Γ mi_X7_restoreSnapshot D h0 (QR Γ D h0 (ovi o.1) o.2) h 21 [some (va_rf x0), some (.int x1), none] [.int t1, va_rf t0] := by
  refine j_iconst (1 : Int32) dX7_restoreSnapshot_21 (by decide) ?_
  refine kc_X7_72 rfl rfl rfl (by decide) dX7_restoreSnapshot_22 hf (fun v5 h4 hf => ?_)
  refine j_if_eq 30 dX7_restoreSnapshot_25 (by decide) hf (fun c_ hf => ?_) (fun c_ hf => ?_)
  · refine j_aload_n 0 dX7_restoreSnapshot_30 rfl rfl ?_
    refine j_gR (ci := 6) (k := 17) rfl in_X7 rfl q2219 dX7_restoreSnapshot_31 hf (fun r6 hf => ?_)
    refine j_iload_n 1 dX7_restoreSnapshot_34 rfl rfl ?_
    refine j_zald dX7_restoreSnapshot_35 hf (fun v7 hf => ?_)
    refine j_if_ne 42 dX7_restoreSnapshot_36 (by decide) hf (fun c_ hf => ?_) (fun c_ hf => ?_)
    · refine j_iconst (0 : Int32) dX7_restoreSnapshot_42 (by decide) ?_
      refine j_istore_n 2 [some (va_rf x0), some (.int x1), some (.int (0 : Int32))] dX7_restoreSnapshot_43 rfl (cz rfl) rfl rfl ?_
      exact pf_X7_restoreSnapshot_L44 FU x0 x1 (0 : Int32) h4 hf
    · refine j_bipush (-4 : Int32) dX7_restoreSnapshot_39 (by decide) ?_
      have e9 := Option.some.inj hf
      subst e9
      exact j_iret rfl dX7_restoreSnapshot_41
  · refine j_iconst (0 : Int32) dX7_restoreSnapshot_28 (by decide) ?_
    have e9 := Option.some.inj hf
    subst e9
    exact j_iret rfl dX7_restoreSnapshot_29
def f_X7_restoreSnapshot (r0 : Option Nat) (p0 : Int32) (h0 : PH) : Option (Int32 × PH) := pV h0 r0 6 1 (.int (0 : Int32)) fun h1 => cl_ (f_X7_in (p0.toInt64) (0 : Int64) (1 : Int64) h1) fun v3 h2 => (if v3 = 0 then (f_X7_restoreSnapshot_B21 r0 p0 r0 (1 : Int32) h2) else (f_X7_restoreSnapshot_B21 r0 p0 r0 (0 : Int32) h2))
theorem hyS_X7_restoreSnapshot : yX7_restoreSnapshot.cls ≠ "java/lang/invoke/MethodHandle" ∧ yX7_restoreSnapshot.cls ≠ "java/lang/invoke/VarHandle" ∧ (parseMethodDescriptor yX7_restoreSnapshot.desc).map (fun d => d.parameters.length) = some 1 := by decide +kernel
theorem hyV_X7_restoreSnapshot : yX7_restoreSnapshot.cls = RX7 ∧ yX7_restoreSnapshot.cls ≠ "java/lang/invoke/MethodHandle" ∧ yX7_restoreSnapshot.cls ≠ "java/lang/invoke/VarHandle" ∧ (parseMethodDescriptor yX7_restoreSnapshot.desc).map (fun d => d.parameters.length) = some 1 := by decide +kernel
theorem c_X7_restoreSnapshot {D : va_G} (r0 : Option Nat) (p0 : Int32) {h0 : PH} (l : Launch) (hl : l.stackTraces = false) (x : Int32) (h1 : PH) (hf : f_X7_restoreSnapshot r0 p0 h0 = some (x, h1)) : CT l D yX7_restoreSnapshot (ws_ yX7_restoreSnapshot cX7_restoreSnapshot 3 (Option.some FieldType.int)) 1 25 [va_rf r0, .int p0] h0 (ovi x) h1 := by
  refine ct_of hl [some (va_rf r0), some (.int p0), none] (by decide) (by rw [lgl]; simp [va_rf_cat, cat_i, cat_l]) (by simp [lv_args, vsL, va_rf_cat, cat_i, cat_l]) (fun Γ => ?_)
  obtain ⟨o, ho⟩ : ∃ o : Int32 × PH, o = (x, h1) := ⟨_, rfl⟩
  rw [← ho] at hf
  have e1 : x = o.1 := by rw [ho]
  have e2 : h1 = o.2 := by rw [ho]
  subst e1 e2
  clear ho
  show PF Γ mi_X7_restoreSnapshot D h0 (QR Γ D h0 (ovi o.1) o.2) h0 0 [some (va_rf r0), some (.int p0), none] []
  unfold f_X7_restoreSnapshot at hf
  refine j_aload_n 0 dX7_restoreSnapshot_0 rfl rfl ?_
  refine j_iconst (0 : Int32) dX7_restoreSnapshot_1 (by decide) ?_
  refine j_pV (ci := 6) (k := 1) tyX7 tyX7_ok nmX7 rfl in_X7 rfl q2203 (Or.inl rfl) rfl (fit_i _) dX7_restoreSnapshot_2 hf (fun h1 hf => ?_)
  refine j_aload_n 0 dX7_restoreSnapshot_5 rfl rfl ?_
  refine j_iload_n 1 dX7_restoreSnapshot_6 rfl rfl ?_
  refine j_i2l dX7_restoreSnapshot_7 ?_
  refine j_lconst (0 : Int64) dX7_restoreSnapshot_8 (by decide) ?_
  refine j_lconst (1 : Int64) dX7_restoreSnapshot_9 (by decide) ?_
  refine kc_X7_68 rfl rfl rfl (by simp [va_rf_cat, cat_i, cat_l]) dX7_restoreSnapshot_10 hf (fun v3 h2 hf => ?_)
  refine j_if_ne 20 dX7_restoreSnapshot_13 (by decide) hf (fun c_ hf => ?_) (fun c_ hf => ?_)
  · refine j_iconst (0 : Int32) dX7_restoreSnapshot_20 (by decide) ?_
    exact pf_X7_restoreSnapshot_B21 r0 p0 r0 (0 : Int32) h2 hf
  · refine j_iconst (1 : Int32) dX7_restoreSnapshot_16 (by decide) ?_
    refine j_goto 21 dX7_restoreSnapshot_17 (by decide) ?_
    exact pf_X7_restoreSnapshot_B21 r0 p0 r0 (1 : Int32) h2 hf
theorem kc_X7_55 {Γ : GX} {I : MI} {D : va_G} {h0 : PH} {Q : State → Prop} {h : PH} {pc : Nat} {vs : List (Option Value)} {rest : List Value} {β : Type} {o : β} {r : Option Nat}  {K : ((Unit) → PH → Option β)} (hI : I.2.2.1 = RX7) (hfr : Nat.ble 1 I.2.2.2.2.2.1 = true) (hlo : Nat.ble 21 I.2.2.2.2.2.2.1 = true) (hW : (rest.map fun v => v.category).sum ≤ 8) (hd : decode I.1 pc = .ok (.invokevirtual 55, 3)) (hf : rv_ h r 6 (cl_ (f_X7_beginsRead r h) K) = some o) (kk : ∀ (x : Unit) (h1 : PH), K x h1 = some o → PF Γ I D h0 Q h1 (pc + 3) vs (rest)) : PF Γ I D h0 Q h pc vs (va_rf r :: rest) := by
  obtain ⟨cc, nL, own, rt, xt, fr, lo, nm⟩ := I
  cases hI
  exact j_cVv (n := 0) (y := yX7_beginsRead) (cc2 := cX7_beginsRead) (As := []) (C := RX7) (ci := 6) rfl (lw_V q2190 q2192 qs34 q117 q2193) hyV_X7_beginsRead hfr hlo rfl hW hd (c_X7_beginsRead r) hf _ rfl kk
theorem kc_X7_58 {Γ : GX} {I : MI} {D : va_G} {h0 : PH} {Q : State → Prop} {h : PH} {pc : Nat} {vs : List (Option Value)} {rest : List Value} {β : Type} {o : β} {r : Option Nat} {p0 : Int32} {p1 : Int32} {p2 : Int32} {K : ((Unit) → PH → Option β)} (hI : I.2.2.1 = RX7) (hfr : Nat.ble 1 I.2.2.2.2.2.1 = true) (hlo : Nat.ble 24 I.2.2.2.2.2.2.1 = true) (hW : (rest.map fun v => v.category).sum ≤ 8) (hd : decode I.1 pc = .ok (.invokevirtual 58, 3)) (hf : rv_ h r 6 (cl_ (f_X7_readNode r p0 p1 p2 h) K) = some o) (kk : ∀ (x : Unit) (h1 : PH), K x h1 = some o → PF Γ I D h0 Q h1 (pc + 3) vs (rest)) : PF Γ I D h0 Q h pc vs (.int p2 :: .int p1 :: .int p0 :: va_rf r :: rest) := by
  obtain ⟨cc, nL, own, rt, xt, fr, lo, nm⟩ := I
  cases hI
  exact j_cVv (n := 3) (y := yX7_readNode) (cc2 := cX7_readNode) (As := [.int p0, .int p1, .int p2]) (C := RX7) (ci := 6) rfl (lw_V q2194 q2196 qs35 q117 q2197) hyV_X7_readNode hfr hlo rfl hW hd (c_X7_readNode r p0 p1 p2) hf _ rfl kk
theorem kc_X7_62 {Γ : GX} {I : MI} {D : va_G} {h0 : PH} {Q : State → Prop} {h : PH} {pc : Nat} {vs : List (Option Value)} {rest : List Value} {β : Type} {o : β} {r : Option Nat}  {K : ((Unit) → PH → Option β)} (hI : I.2.2.1 = RX7) (hfr : Nat.ble 1 I.2.2.2.2.2.1 = true) (hlo : Nat.ble 21 I.2.2.2.2.2.2.1 = true) (hW : (rest.map fun v => v.category).sum ≤ 8) (hd : decode I.1 pc = .ok (.invokevirtual 62, 3)) (hf : rv_ h r 6 (cl_ (f_X7_takesRead r h) K) = some o) (kk : ∀ (x : Unit) (h1 : PH), K x h1 = some o → PF Γ I D h0 Q h1 (pc + 3) vs (rest)) : PF Γ I D h0 Q h pc vs (va_rf r :: rest) := by
  obtain ⟨cc, nL, own, rt, xt, fr, lo, nm⟩ := I
  cases hI
  exact j_cVv (n := 0) (y := yX7_takesRead) (cc2 := cX7_takesRead) (As := []) (C := RX7) (ci := 6) rfl (lw_V q2198 q2200 qs36 q117 q2201) hyV_X7_takesRead hfr hlo rfl hW hd (c_X7_takesRead r) hf _ rfl kk
abbrev mi_X7_init : MI := (cX7_init, 1, RX7, none, [], 1, 24, "<init>")
def f_X7_init (a0 : Nat) (h0 : PH) : Option (Unit × PH) := nA h0 0 (73136 : Int32) (.inl fun _ => 0) fun a1 h2 => pV h2 (some a0) 6 0 (va_rf (some a1)) fun h3 => nA h3 0 (400 : Int32) (.inl fun _ => 0) fun a4 h5 => pV h5 (some a0) 6 2 (va_rf (some a4)) fun h6 => nA h6 0 (160 : Int32) (.inl fun _ => 0) fun a7 h8 => pV h8 (some a0) 6 10 (va_rf (some a7)) fun h9 => nA h9 7 (7 : Int32) aNul fun a10 h11 => sQ h11 (some a10) 7 (0 : Int32) (some (sAd h11.2.1 20)) fun h12 => sQ h12 (some a10) 7 (1 : Int32) (some (sAd h12.2.1 21)) fun h13 => sQ h13 (some a10) 7 (2 : Int32) (some (sAd h13.2.1 22)) fun h14 => sQ h14 (some a10) 7 (3 : Int32) (some (sAd h14.2.1 23)) fun h15 => sQ h15 (some a10) 7 (4 : Int32) (some (sAd h15.2.1 24)) fun h16 => sQ h16 (some a10) 7 (5 : Int32) (some (sAd h16.2.1 25)) fun h17 => sQ h17 (some a10) 7 (6 : Int32) (some (sAd h17.2.1 26)) fun h18 => pV h18 (some a0) 6 11 (va_rf (some a10)) fun h19 => pV h19 (some a0) 6 12 (.int (-4 : Int32)) fun h20 => nA h20 0 (73136 : Int32) (.inl fun _ => 0) fun a21 h22 => pV h22 (some a0) 6 15 (va_rf (some a21)) fun h23 => nA h23 0 (146272 : Int32) (.inl fun _ => 0) fun a24 h25 => pV h25 (some a0) 6 16 (va_rf (some a24)) fun h26 => nA h26 3 (2 : Int32) (.inl fun _ => 0) fun a27 h28 => pV h28 (some a0) 6 17 (va_rf (some a27)) fun h29 => rv_ h29 (some a0) 6 (cl_ (f_X7_beginsRead (some a0) h29) fun _u h30 => rv_ h30 (some a0) 6 (cl_ (f_X7_readNode (some a0) (1000 : Int32) (0 : Int32) (10 : Int32) h30) fun _u h31 => rv_ h31 (some a0) 6 (cl_ (f_X7_takesRead (some a0) h31) fun _u h32 => some ((), h32))))
theorem hyS_X7_init : yX7_init.cls ≠ "java/lang/invoke/MethodHandle" ∧ yX7_init.cls ≠ "java/lang/invoke/VarHandle" ∧ (parseMethodDescriptor yX7_init.desc).map (fun d => d.parameters.length) = some 0 := by decide +kernel
theorem c_X7_init {D : va_G} (a0 : Nat) {h0 : PH} (l : Launch) (hl : l.stackTraces = false) (x : Unit) (h1 : PH) (hf : f_X7_init a0 h0 = some (x, h1)) : CT l D yX7_init (ws_ yX7_init cX7_init 1 none) 1 24 [va_rf (some a0)] h0 (ovv x) h1 := by
  refine ct_of hl [some (va_rf (some a0))] (by decide) (Nat.le_of_ble_eq_true rfl) rfl (fun Γ => ?_)
  obtain ⟨o, ho⟩ : ∃ o : Unit × PH, o = (x, h1) := ⟨_, rfl⟩
  rw [← ho] at hf
  have e1 : x = o.1 := by rw [ho]
  have e2 : h1 = o.2 := by rw [ho]
  subst e1 e2
  clear ho
  show PF Γ mi_X7_init D h0 (QR Γ D h0 (ovv o.1) o.2) h0 0 [some (va_rf (some a0))] []
  unfold f_X7_init at hf
  refine j_aload_n 0 dX7_init_0 rfl rfl ?_
  refine j_objI q2178 q141 q142 rfl rfl ⟨_, rfl⟩ (by decide) dX7_init_1 ?_
  refine j_aload_n 0 dX7_init_4 rfl rfl ?_
  refine j_ldc q2179 dX7_init_5 ?_
  refine j_nA (t := 0) (atype := .int) (ty := .int) rfl (fun _ => rfl) (fun _ _ => rfl) (by decide) (fun _ _ h9 => h9) q679 dX7_init_7 hf (fun a1 h2 hf => ?_)
  refine j_pV (ci := 6) (k := 0) tyX7 tyX7_ok nmX7 rfl in_X7 rfl q2202 (Or.inr ⟨rfl, rfl, rfl⟩) rfl (fit_a _ _) dX7_init_9 hf (fun h3 hf => ?_)
  refine j_aload_n 0 dX7_init_12 rfl rfl ?_
  refine j_sipush (400 : Int32) dX7_init_13 (by decide) ?_
  refine j_nA (t := 0) (atype := .int) (ty := .int) rfl (fun _ => rfl) (fun _ _ => rfl) (by decide) (fun _ _ h9 => h9) q679 dX7_init_16 hf (fun a4 h5 hf => ?_)
  refine j_pV (ci := 6) (k := 2) tyX7 tyX7_ok nmX7 rfl in_X7 rfl q2204 (Or.inr ⟨rfl, rfl, rfl⟩) rfl (fit_a _ _) dX7_init_18 hf (fun h6 hf => ?_)
  refine j_aload_n 0 dX7_init_21 rfl rfl ?_
  refine j_sipush (160 : Int32) dX7_init_22 (by decide) ?_
  refine j_nA (t := 0) (atype := .int) (ty := .int) rfl (fun _ => rfl) (fun _ _ => rfl) (by decide) (fun _ _ h9 => h9) q679 dX7_init_25 hf (fun a7 h8 hf => ?_)
  refine j_pV (ci := 6) (k := 10) tyX7 tyX7_ok nmX7 rfl in_X7 rfl q2212 (Or.inr ⟨rfl, rfl, rfl⟩) rfl (fit_a _ _) dX7_init_27 hf (fun h9 hf => ?_)
  refine j_aload_n 0 dX7_init_30 rfl rfl ?_
  refine j_bipush (7 : Int32) dX7_init_31 (by decide) ?_
  refine j_nQ (t := 7) rfl q2180 q2181 dX7_init_33 hf (fun a10 h11 hf => ?_)
  refine j_dup dX7_init_36 (va_rf_cat _) ?_
  refine j_iconst (0 : Int32) dX7_init_37 (by decide) ?_
  refine j_ldcS (i := 0) rfl rfl dX7_init_38 ?_
  refine j_aast (t := 7) rfl dX7_init_40 hf (fun h12 hf => ?_)
  refine j_dup dX7_init_41 (va_rf_cat _) ?_
  refine j_iconst (1 : Int32) dX7_init_42 (by decide) ?_
  refine j_ldcS (i := 1) rfl rfl dX7_init_43 ?_
  refine j_aast (t := 7) rfl dX7_init_45 hf (fun h13 hf => ?_)
  refine j_dup dX7_init_46 (va_rf_cat _) ?_
  refine j_iconst (2 : Int32) dX7_init_47 (by decide) ?_
  refine j_ldcS (i := 2) rfl rfl dX7_init_48 ?_
  refine j_aast (t := 7) rfl dX7_init_50 hf (fun h14 hf => ?_)
  refine j_dup dX7_init_51 (va_rf_cat _) ?_
  refine j_iconst (3 : Int32) dX7_init_52 (by decide) ?_
  refine j_ldcS (i := 3) rfl rfl dX7_init_53 ?_
  refine j_aast (t := 7) rfl dX7_init_55 hf (fun h15 hf => ?_)
  refine j_dup dX7_init_56 (va_rf_cat _) ?_
  refine j_iconst (4 : Int32) dX7_init_57 (by decide) ?_
  refine j_ldcS (i := 4) rfl rfl dX7_init_58 ?_
  refine j_aast (t := 7) rfl dX7_init_60 hf (fun h16 hf => ?_)
  refine j_dup dX7_init_61 (va_rf_cat _) ?_
  refine j_iconst (5 : Int32) dX7_init_62 (by decide) ?_
  refine j_ldcS (i := 5) rfl rfl dX7_init_63 ?_
  refine j_aast (t := 7) rfl dX7_init_65 hf (fun h17 hf => ?_)
  refine j_dup dX7_init_66 (va_rf_cat _) ?_
  refine j_bipush (6 : Int32) dX7_init_67 (by decide) ?_
  refine j_ldcS (i := 6) rfl rfl dX7_init_69 ?_
  refine j_aast (t := 7) rfl dX7_init_71 hf (fun h18 hf => ?_)
  refine j_pV (ci := 6) (k := 11) tyX7 tyX7_ok nmX7 rfl in_X7 rfl q2213 (Or.inr ⟨rfl, rfl, rfl⟩) rfl (fit_a _ _) dX7_init_72 hf (fun h19 hf => ?_)
  refine j_aload_n 0 dX7_init_75 rfl rfl ?_
  refine j_bipush (-4 : Int32) dX7_init_76 (by decide) ?_
  refine j_pV (ci := 6) (k := 12) tyX7 tyX7_ok nmX7 rfl in_X7 rfl q2214 (Or.inl rfl) rfl (fit_i _) dX7_init_78 hf (fun h20 hf => ?_)
  refine j_aload_n 0 dX7_init_81 rfl rfl ?_
  refine j_ldc q2179 dX7_init_82 ?_
  refine j_nA (t := 0) (atype := .int) (ty := .int) rfl (fun _ => rfl) (fun _ _ => rfl) (by decide) (fun _ _ h9 => h9) q679 dX7_init_84 hf (fun a21 h22 hf => ?_)
  refine j_pV (ci := 6) (k := 15) tyX7 tyX7_ok nmX7 rfl in_X7 rfl q2217 (Or.inr ⟨rfl, rfl, rfl⟩) rfl (fit_a _ _) dX7_init_86 hf (fun h23 hf => ?_)
  refine j_aload_n 0 dX7_init_89 rfl rfl ?_
  refine j_ldc q2189 dX7_init_90 ?_
  refine j_nA (t := 0) (atype := .int) (ty := .int) rfl (fun _ => rfl) (fun _ _ => rfl) (by decide) (fun _ _ h9 => h9) q679 dX7_init_92 hf (fun a24 h25 hf => ?_)
  refine j_pV (ci := 6) (k := 16) tyX7 tyX7_ok nmX7 rfl in_X7 rfl q2218 (Or.inr ⟨rfl, rfl, rfl⟩) rfl (fit_a _ _) dX7_init_94 hf (fun h26 hf => ?_)
  refine j_aload_n 0 dX7_init_97 rfl rfl ?_
  refine j_iconst (2 : Int32) dX7_init_98 (by decide) ?_
  refine j_nA (t := 3) (atype := .boolean) (ty := .boolean) rfl (fun _ => rfl) (fun _ _ => rfl) (by decide) (fun _ _ h9 => h9) q2257 dX7_init_99 hf (fun a27 h28 hf => ?_)
  refine j_pV (ci := 6) (k := 17) tyX7 tyX7_ok nmX7 rfl in_X7 rfl q2219 (Or.inr ⟨rfl, rfl, rfl⟩) rfl (fit_a _ _) dX7_init_101 hf (fun h29 hf => ?_)
  refine j_aload_n 0 dX7_init_104 rfl rfl ?_
  refine kc_X7_55 rfl rfl rfl (by decide) dX7_init_105 hf (fun _u h30 hf => ?_)
  refine j_aload_n 0 dX7_init_108 rfl rfl ?_
  refine j_sipush (1000 : Int32) dX7_init_109 (by decide) ?_
  refine j_iconst (0 : Int32) dX7_init_112 (by decide) ?_
  refine j_bipush (10 : Int32) dX7_init_113 (by decide) ?_
  refine kc_X7_58 rfl rfl rfl (by decide) dX7_init_115 hf (fun _u h31 hf => ?_)
  refine j_aload_n 0 dX7_init_118 rfl rfl ?_
  refine kc_X7_62 rfl rfl rfl (by decide) dX7_init_119 hf (fun _u h32 hf => ?_)
  have e9 := Option.some.inj hf
  subst e9
  exact j_vret rfl dX7_init_122
abbrev mi_X7_appendByte : MI := (cX7_appendByte, 2, RX7, (Option.some FieldType.int), [], 1, 25, "appendByte")
def f_X7_appendByte_B23 (x0 : Option Nat) (x1 : Int32) (t0 : Option Nat) (t1 : Int32) (h : PH) : Option (Int32 × PH) := rv_ h t0 6 (cl_ (f_X7_throwsIf t0 t1 (1 : Int32) h) fun v5 h4 => (if v5 = 0 then (gI h4 x0 6 3 fun v6 => (if v6 = (400 : Int32) then (some ((-5 : Int32), h4)) else (gR h4 x0 6 2 fun r7 => gI h4 x0 6 3 fun v8 => sI h4 r7 0 v8 x1 fun h9 => gI h9 x0 6 3 fun v10 => pV h9 x0 6 3 (.int (v10 + (1 : Int32))) fun h11 => gI h11 x0 6 3 fun v12 => some (v12, h11)))) else (some ((0 : Int32), h4))))
theorem pf_X7_appendByte_B23 {Γ : GX} {D : va_G} {h0 : PH} {o : Int32 × PH} (x0 : Option Nat) (x1 : Int32) (t0 : Option Nat) (t1 : Int32) (h : PH) (hf : f_X7_appendByte_B23 x0 x1 t0 t1 h = some o) : PF Γ mi_X7_appendByte D h0 (QR Γ D h0 (ovi o.1) o.2) h 23 [some (va_rf x0), some (.int x1)] [.int t1, va_rf t0] := by
  refine j_iconst (1 : Int32) dX7_appendByte_23 (by decide) ?_
  refine kc_X7_72 rfl rfl rfl (by decide) dX7_appendByte_24 hf (fun v5 h4 hf => ?_)
  refine j_if_eq 32 dX7_appendByte_27 (by decide) hf (fun c_ hf => ?_) (fun c_ hf => ?_)
  · refine j_aload_n 0 dX7_appendByte_32 rfl rfl ?_
    refine j_gI (ci := 6) (k := 3) rfl in_X7 rfl q2205 dX7_appendByte_33 hf (fun v6 hf => ?_)
    refine j_sipush (400 : Int32) dX7_appendByte_36 (by decide) ?_
    refine j_icmp_ne 45 dX7_appendByte_39 (by decide) hf (fun c_ hf => ?_) (fun c_ hf => ?_)
    · refine j_aload_n 0 dX7_appendByte_45 rfl rfl ?_
      refine j_gR (ci := 6) (k := 2) rfl in_X7 rfl q2204 dX7_appendByte_46 hf (fun r7 hf => ?_)
      refine j_aload_n 0 dX7_appendByte_49 rfl rfl ?_
      refine j_gI (ci := 6) (k := 3) rfl in_X7 rfl q2205 dX7_appendByte_50 hf (fun v8 hf => ?_)
      refine j_iload_n 1 dX7_appendByte_53 rfl rfl ?_
      refine j_iast dX7_appendByte_54 hf (fun h9 hf => ?_)
      refine j_aload_n 0 dX7_appendByte_55 rfl rfl ?_
      refine j_dup dX7_appendByte_56 (va_rf_cat _) ?_
      refine j_gI (ci := 6) (k := 3) rfl in_X7 rfl q2205 dX7_appendByte_57 hf (fun v10 hf => ?_)
      refine j_iconst (1 : Int32) dX7_appendByte_60 (by decide) ?_
      refine j_iadd dX7_appendByte_61 ?_
      refine j_pV (ci := 6) (k := 3) tyX7 tyX7_ok nmX7 rfl in_X7 rfl q2205 (Or.inl rfl) rfl (fit_i _) dX7_appendByte_62 hf (fun h11 hf => ?_)
      refine j_aload_n 0 dX7_appendByte_65 rfl rfl ?_
      refine j_gI (ci := 6) (k := 3) rfl in_X7 rfl q2205 dX7_appendByte_66 hf (fun v12 hf => ?_)
      have e9 := Option.some.inj hf
      subst e9
      exact j_iret rfl dX7_appendByte_69
    · refine j_bipush (-5 : Int32) dX7_appendByte_42 (by decide) ?_
      have e9 := Option.some.inj hf
      subst e9
      exact j_iret rfl dX7_appendByte_44
  · refine j_iconst (0 : Int32) dX7_appendByte_30 (by decide) ?_
    have e9 := Option.some.inj hf
    subst e9
    exact j_iret rfl dX7_appendByte_31
def f_X7_appendByte (r0 : Option Nat) (p0 : Int32) (h0 : PH) : Option (Int32 × PH) := pV h0 r0 6 1 (.int (0 : Int32)) fun h1 => cl_ (f_X7_in (p0.toInt64) (0 : Int64) (255 : Int64) h1) fun v3 h2 => (if v3 = 0 then (f_X7_appendByte_B23 r0 p0 r0 (1 : Int32) h2) else (f_X7_appendByte_B23 r0 p0 r0 (0 : Int32) h2))
theorem hyS_X7_appendByte : yX7_appendByte.cls ≠ "java/lang/invoke/MethodHandle" ∧ yX7_appendByte.cls ≠ "java/lang/invoke/VarHandle" ∧ (parseMethodDescriptor yX7_appendByte.desc).map (fun d => d.parameters.length) = some 1 := by decide +kernel
theorem hyV_X7_appendByte : yX7_appendByte.cls = RX7 ∧ yX7_appendByte.cls ≠ "java/lang/invoke/MethodHandle" ∧ yX7_appendByte.cls ≠ "java/lang/invoke/VarHandle" ∧ (parseMethodDescriptor yX7_appendByte.desc).map (fun d => d.parameters.length) = some 1 := by decide +kernel
theorem c_X7_appendByte {D : va_G} (r0 : Option Nat) (p0 : Int32) {h0 : PH} (l : Launch) (hl : l.stackTraces = false) (x : Int32) (h1 : PH) (hf : f_X7_appendByte r0 p0 h0 = some (x, h1)) : CT l D yX7_appendByte (ws_ yX7_appendByte cX7_appendByte 2 (Option.some FieldType.int)) 1 25 [va_rf r0, .int p0] h0 (ovi x) h1 := by
  refine ct_of hl [some (va_rf r0), some (.int p0)] (by decide) (by rw [lgl]; simp [va_rf_cat, cat_i, cat_l]) (by simp [lv_args, vsL, va_rf_cat, cat_i, cat_l]) (fun Γ => ?_)
  obtain ⟨o, ho⟩ : ∃ o : Int32 × PH, o = (x, h1) := ⟨_, rfl⟩
  rw [← ho] at hf
  have e1 : x = o.1 := by rw [ho]
  have e2 : h1 = o.2 := by rw [ho]
  subst e1 e2
  clear ho
  show PF Γ mi_X7_appendByte D h0 (QR Γ D h0 (ovi o.1) o.2) h0 0 [some (va_rf r0), some (.int p0)] []
  unfold f_X7_appendByte at hf
  refine j_aload_n 0 dX7_appendByte_0 rfl rfl ?_
  refine j_iconst (0 : Int32) dX7_appendByte_1 (by decide) ?_
  refine j_pV (ci := 6) (k := 1) tyX7 tyX7_ok nmX7 rfl in_X7 rfl q2203 (Or.inl rfl) rfl (fit_i _) dX7_appendByte_2 hf (fun h1 hf => ?_)
  refine j_aload_n 0 dX7_appendByte_5 rfl rfl ?_
  refine j_iload_n 1 dX7_appendByte_6 rfl rfl ?_
  refine j_i2l dX7_appendByte_7 ?_
  refine j_lconst (0 : Int64) dX7_appendByte_8 (by decide) ?_
  refine j_ldc2 q2266 dX7_appendByte_9 ?_
  refine kc_X7_68 rfl rfl rfl (by simp [va_rf_cat, cat_i, cat_l]) dX7_appendByte_12 hf (fun v3 h2 hf => ?_)
  refine j_if_ne 22 dX7_appendByte_15 (by decide) hf (fun c_ hf => ?_) (fun c_ hf => ?_)
  · refine j_iconst (0 : Int32) dX7_appendByte_22 (by decide) ?_
    exact pf_X7_appendByte_B23 r0 p0 r0 (0 : Int32) h2 hf
  · refine j_iconst (1 : Int32) dX7_appendByte_18 (by decide) ?_
    refine j_goto 23 dX7_appendByte_19 (by decide) ?_
    exact pf_X7_appendByte_B23 r0 p0 r0 (1 : Int32) h2 hf
theorem kc_X7_84 {Γ : GX} {I : MI} {D : va_G} {h0 : PH} {Q : State → Prop} {h : PH} {pc : Nat} {vs : List (Option Value)} {rest : List Value} {β : Type} {o : β} {r : Option Nat}  {K : ((Int32) → PH → Option β)} (hI : I.2.2.1 = RX7) (hfr : Nat.ble 1 I.2.2.2.2.2.1 = true) (hlo : Nat.ble 20 I.2.2.2.2.2.2.1 = true) (hW : (rest.map fun v => v.category).sum ≤ 8) (hd : decode I.1 pc = .ok (.invokevirtual 84, 3)) (hf : rv_ h r 6 (cl_ (f_X7_here r h) K) = some o) (kk : ∀ (x : Int32) (h1 : PH), K x h1 = some o → PF Γ I D h0 Q h1 (pc + 3) vs (.int x :: rest)) : PF Γ I D h0 Q h pc vs (va_rf r :: rest) := by
  obtain ⟨cc, nL, own, rt, xt, fr, lo, nm⟩ := I
  cases hI
  exact j_cVi (n := 0) (y := yX7_here) (cc2 := cX7_here) (As := []) (C := RX7) (ci := 6) rfl (lw_V q2290 q2292 qs41 q117 q2293) hyV_X7_here hfr hlo rfl hW hd (c_X7_here r) hf _ rfl kk
abbrev mi_X7_looks : MI := (cX7_looks, 1, RX7, none, [], 1, 20, "looks")
def f_X7_looks_L0 : Nat → Option Nat → PH → Option (Unit × PH)
  | 0, _, _ => none
  | n + 1, x0, h => rv_ h x0 6 (cl_ (f_X7_here x0 h) fun v2 h1 => (if v2 = (32 : Int32) then (gI h1 x0 6 4 fun v5 => pV h1 x0 6 4 (.int (v5 + (1 : Int32))) fun h6 => f_X7_looks_L0 n x0 h6) else (gI h1 x0 6 4 fun v3 => pV h1 x0 6 5 (.int v3) fun h4 => some ((), h4))))
theorem pf_X7_looks_L0 {Γ : GX} {D : va_G} {h0 : PH} {o : Unit × PH} : ∀ (n : Nat) (x0 : Option Nat) (h : PH), f_X7_looks_L0 n x0 h = some o → PF Γ mi_X7_looks D h0 (QR Γ D h0 (ovv o.1) o.2) h 0 [some (va_rf x0)] [] := by
  intro n
  induction n with
  | zero => intro x0 h hf; cases hf
  | succ n ih =>
    intro x0 h hf
    refine j_aload_n 0 dX7_looks_0 rfl rfl ?_
    refine kc_X7_84 rfl rfl rfl (by decide) dX7_looks_1 hf (fun v2 h1 hf => ?_)
    refine j_bipush (32 : Int32) dX7_looks_4 (by decide) ?_
    refine j_icmp_ne 22 dX7_looks_6 (by decide) hf (fun c_ hf => ?_) (fun c_ hf => ?_)
    · refine j_aload_n 0 dX7_looks_22 rfl rfl ?_
      refine j_aload_n 0 dX7_looks_23 rfl rfl ?_
      refine j_gI (ci := 6) (k := 4) rfl in_X7 rfl q2206 dX7_looks_24 hf (fun v3 hf => ?_)
      refine j_pV (ci := 6) (k := 5) tyX7 tyX7_ok nmX7 rfl in_X7 rfl q2207 (Or.inl rfl) rfl (fit_i _) dX7_looks_27 hf (fun h4 hf => ?_)
      have e9 := Option.some.inj hf
      subst e9
      exact j_vret rfl dX7_looks_30
    · refine j_aload_n 0 dX7_looks_9 rfl rfl ?_
      refine j_dup dX7_looks_10 (va_rf_cat _) ?_
      refine j_gI (ci := 6) (k := 4) rfl in_X7 rfl q2206 dX7_looks_11 hf (fun v5 hf => ?_)
      refine j_iconst (1 : Int32) dX7_looks_14 (by decide) ?_
      refine j_iadd dX7_looks_15 ?_
      refine j_pV (ci := 6) (k := 4) tyX7 tyX7_ok nmX7 rfl in_X7 rfl q2206 (Or.inl rfl) rfl (fit_i _) dX7_looks_16 hf (fun h6 hf => ?_)
      refine j_goto 0 dX7_looks_19 (by decide) ?_
      exact ih x0 h6 hf
def f_X7_looks (r0 : Option Nat) (h0 : PH) : Option (Unit × PH) := f_X7_looks_L0 FU r0 h0
theorem hyS_X7_looks : yX7_looks.cls ≠ "java/lang/invoke/MethodHandle" ∧ yX7_looks.cls ≠ "java/lang/invoke/VarHandle" ∧ (parseMethodDescriptor yX7_looks.desc).map (fun d => d.parameters.length) = some 0 := by decide +kernel
theorem hyV_X7_looks : yX7_looks.cls = RX7 ∧ yX7_looks.cls ≠ "java/lang/invoke/MethodHandle" ∧ yX7_looks.cls ≠ "java/lang/invoke/VarHandle" ∧ (parseMethodDescriptor yX7_looks.desc).map (fun d => d.parameters.length) = some 0 := by decide +kernel
theorem c_X7_looks {D : va_G} (r0 : Option Nat) {h0 : PH} (l : Launch) (hl : l.stackTraces = false) (x : Unit) (h1 : PH) (hf : f_X7_looks r0 h0 = some (x, h1)) : CT l D yX7_looks (ws_ yX7_looks cX7_looks 1 none) 1 20 [va_rf r0] h0 (ovv x) h1 := by
  refine ct_of hl [some (va_rf r0)] (by decide) (by rw [lgl]; simp [va_rf_cat, cat_i, cat_l]) (by simp [lv_args, vsL, va_rf_cat, cat_i, cat_l]) (fun Γ => ?_)
  obtain ⟨o, ho⟩ : ∃ o : Unit × PH, o = (x, h1) := ⟨_, rfl⟩
  rw [← ho] at hf
  have e1 : x = o.1 := by rw [ho]
  have e2 : h1 = o.2 := by rw [ho]
  subst e1 e2
  clear ho
  show PF Γ mi_X7_looks D h0 (QR Γ D h0 (ovv o.1) o.2) h0 0 [some (va_rf r0)] []
  unfold f_X7_looks at hf
  exact pf_X7_looks_L0 FU r0 h0 hf
theorem kc_X7_97 {Γ : GX} {I : MI} {D : va_G} {h0 : PH} {Q : State → Prop} {h : PH} {pc : Nat} {vs : List (Option Value)} {rest : List Value} {β : Type} {o : β} {r : Option Nat}  {K : ((Unit) → PH → Option β)} (hI : I.2.2.1 = RX7) (hfr : Nat.ble 2 I.2.2.2.2.2.1 = true) (hlo : Nat.ble 40 I.2.2.2.2.2.2.1 = true) (hW : (rest.map fun v => v.category).sum ≤ 8) (hd : decode I.1 pc = .ok (.invokevirtual 97, 3)) (hf : rv_ h r 6 (cl_ (f_X7_looks r h) K) = some o) (kk : ∀ (x : Unit) (h1 : PH), K x h1 = some o → PF Γ I D h0 Q h1 (pc + 3) vs (rest)) : PF Γ I D h0 Q h pc vs (va_rf r :: rest) := by
  obtain ⟨cc, nL, own, rt, xt, fr, lo, nm⟩ := I
  cases hI
  exact j_cVv (n := 0) (y := yX7_looks) (cc2 := cX7_looks) (As := []) (C := RX7) (ci := 6) rfl (lw_V q2286 q2288 qs40 q117 q2289) hyV_X7_looks hfr hlo rfl hW hd (c_X7_looks r) hf _ rfl kk
theorem kc_X7_114 {Γ : GX} {I : MI} {D : va_G} {h0 : PH} {Q : State → Prop} {h : PH} {pc : Nat} {vs : List (Option Value)} {rest : List Value} {β : Type} {o : β} {r : Option Nat} {p0 : Int32} {K : ((Unit) → PH → Option β)} (hI : I.2.2.1 = RX7) (hfr : Nat.ble 1 I.2.2.2.2.2.1 = true) (hlo : Nat.ble 21 I.2.2.2.2.2.2.1 = true) (hW : (rest.map fun v => v.category).sum ≤ 8) (hd : decode I.1 pc = .ok (.invokevirtual 114, 3)) (hf : rv_ h r 6 (cl_ (f_X7_fails r p0 h) K) = some o) (kk : ∀ (x : Unit) (h1 : PH), K x h1 = some o → PF Γ I D h0 Q h1 (pc + 3) vs (rest)) : PF Γ I D h0 Q h pc vs (.int p0 :: va_rf r :: rest) := by
  obtain ⟨cc, nL, own, rt, xt, fr, lo, nm⟩ := I
  cases hI
  exact j_cVv (n := 1) (y := yX7_fails) (cc2 := cX7_fails) (As := [.int p0]) (C := RX7) (ci := 6) rfl (lw_V q2308 q2310 qs42 q117 q2311) hyV_X7_fails hfr hlo rfl hW hd (c_X7_fails r p0) hf _ rfl kk
abbrev mi_X7_number : MI := (cX7_number, 5, RX7, (Option.some FieldType.int), [], 2, 40, "number")
def f_X7_number_B115 (t0 : Int32) (h : PH) : Option (Int32 × PH) := some (t0, h)
theorem pf_X7_number_B115 {Γ : GX} {D : va_G} {h0 : PH} {o : Int32 × PH} (t0 : Int32) (h : PH) (hf : f_X7_number_B115 t0 h = some o) : PF Γ mi_X7_number D h0 (QR Γ D h0 (ovi o.1) o.2) h 115 [none, none, none, none, none] [.int t0] := by
  have e9 := Option.some.inj hf
  subst e9
  exact j_iret rfl dX7_number_115
def f_X7_number_B102 (x0 : Option Nat) (x1 : Int32) (x3 : Int64) (h : PH) : Option (Int32 × PH) := gI h x0 6 7 fun v17 => (if v17 = 0 then (f_X7_number_B115 (x3.toInt32) h) else (f_X7_number_B115 x1 h))
theorem pf_X7_number_B102 {Γ : GX} {D : va_G} {h0 : PH} {o : Int32 × PH} (x0 : Option Nat) (x1 : Int32) (x3 : Int64) (h : PH) (hf : f_X7_number_B102 x0 x1 x3 h = some o) : PF Γ mi_X7_number D h0 (QR Γ D h0 (ovi o.1) o.2) h 102 [some (va_rf x0), some (.int x1), none, some (.long x3), none] [] := by
  refine j_aload_n 0 dX7_number_102 rfl rfl ?_
  refine j_gI (ci := 6) (k := 7) rfl in_X7 rfl q2209 dX7_number_103 hf (fun v17 hf => ?_)
  refine j_if_ne 114 dX7_number_106 (by decide) hf (fun c_ hf => ?_) (fun c_ hf => ?_)
  · refine j_iload_n 1 dX7_number_114 rfl rfl ?_
    refine j_weak [none, none, none, none, none] (Wk.s (Wk.s (Wk.k (Wk.s (Wk.k Wk.n))))) ?_
    exact pf_X7_number_B115 x1 h hf
  · refine j_lload_n 3 dX7_number_109 rfl rfl ?_
    refine j_l2i dX7_number_110 ?_
    refine j_goto 115 dX7_number_111 (by decide) ?_
    refine j_weak [none, none, none, none, none] (Wk.s (Wk.s (Wk.k (Wk.s (Wk.k Wk.n))))) ?_
    exact pf_X7_number_B115 (x3.toInt32) h hf
def f_X7_number_L15 : Nat → Option Nat → Int32 → Int32 → Int64 → PH → Option (Int32 × PH)
  | 0, _, _, _, _, _ => none
  | n + 1, x0, x1, x2, x3, h => rv_ h x0 6 (cl_ (f_X7_here x0 h) fun v4 h3 => cl_ (f_X7_in (v4.toInt64) (48 : Int64) (57 : Int64) h3) fun v6 h5 => (if v6 = 0 then (gI h5 x0 6 4 fun v7 => gI h5 x0 6 5 fun v8 => (if v7 = v8 then (rv_ h5 x0 6 (cl_ (f_X7_fails x0 (1 : Int32) h5) fun _u h12 => f_X7_number_B102 x0 x1 x3 h12)) else (cl_ (f_X7_in x3 (x1.toInt64) (x2.toInt64) h5) fun v10 h9 => (if v10 = 0 then (rv_ h9 x0 6 (cl_ (f_X7_fails x0 (2 : Int32) h9) fun _u h11 => f_X7_number_B102 x0 x1 x3 h11)) else (f_X7_number_B102 x0 x1 x3 h9))))) else (rv_ h5 x0 6 (cl_ (f_X7_here x0 h5) fun v14 h13 => gI h13 x0 6 4 fun v15 => pV h13 x0 6 4 (.int (v15 + (1 : Int32))) fun h16 => f_X7_number_L15 n x0 x1 x2 (if ((((10 : Int64) * x3) + (v14.toInt64)) - (48 : Int64)) < (3000000000 : Int64) then ((((10 : Int64) * x3) + (v14.toInt64)) - (48 : Int64)) else (3000000000 : Int64)) h16))))
theorem pf_X7_number_L15 {Γ : GX} {D : va_G} {h0 : PH} {o : Int32 × PH} : ∀ (n : Nat) (x0 : Option Nat) (x1 : Int32) (x2 : Int32) (x3 : Int64) (h : PH), f_X7_number_L15 n x0 x1 x2 x3 h = some o → PF Γ mi_X7_number D h0 (QR Γ D h0 (ovi o.1) o.2) h 15 [some (va_rf x0), some (.int x1), some (.int x2), some (.long x3), none] [] := by
  intro n
  induction n with
  | zero => intro x0 x1 x2 x3 h hf; cases hf
  | succ n ih =>
    intro x0 x1 x2 x3 h hf
    refine j_aload_n 0 dX7_number_15 rfl rfl ?_
    refine kc_X7_84 rfl rfl rfl (by decide) dX7_number_16 hf (fun v4 h3 hf => ?_)
    refine j_i2l dX7_number_19 ?_
    refine j_ldc2 q2316 dX7_number_20 ?_
    refine j_ldc2 q2317 dX7_number_23 ?_
    refine kc_X7_68 rfl rfl rfl (by decide) dX7_number_26 hf (fun v6 h5 hf => ?_)
    refine j_if_eq 67 dX7_number_29 (by decide) hf (fun c_ hf => ?_) (fun c_ hf => ?_)
    · refine j_aload_n 0 dX7_number_67 rfl rfl ?_
      refine j_gI (ci := 6) (k := 4) rfl in_X7 rfl q2206 dX7_number_68 hf (fun v7 hf => ?_)
      refine j_aload_n 0 dX7_number_71 rfl rfl ?_
      refine j_gI (ci := 6) (k := 5) rfl in_X7 rfl q2207 dX7_number_72 hf (fun v8 hf => ?_)
      refine j_icmp_ne 86 dX7_number_75 (by decide) hf (fun c_ hf => ?_) (fun c_ hf => ?_)
      · refine j_lload_n 3 dX7_number_86 rfl rfl ?_
        refine j_iload_n 1 dX7_number_87 rfl rfl ?_
        refine j_i2l dX7_number_88 ?_
        refine j_iload_n 2 dX7_number_89 rfl rfl ?_
        refine j_i2l dX7_number_90 ?_
        refine kc_X7_68 rfl rfl rfl (by decide) dX7_number_91 hf (fun v10 h9 hf => ?_)
        refine j_if_ne 102 dX7_number_94 (by decide) hf (fun c_ hf => ?_) (fun c_ hf => ?_)
        · refine j_weak [some (va_rf x0), some (.int x1), none, some (.long x3), none] (Wk.k (Wk.k (Wk.s (Wk.k (Wk.k Wk.n))))) ?_
          exact pf_X7_number_B102 x0 x1 x3 h9 hf
        · refine j_aload_n 0 dX7_number_97 rfl rfl ?_
          refine j_iconst (2 : Int32) dX7_number_98 (by decide) ?_
          refine kc_X7_114 rfl rfl rfl (by decide) dX7_number_99 hf (fun _u h11 hf => ?_)
          refine j_weak [some (va_rf x0), some (.int x1), none, some (.long x3), none] (Wk.k (Wk.k (Wk.s (Wk.k (Wk.k Wk.n))))) ?_
          exact pf_X7_number_B102 x0 x1 x3 h11 hf
      · refine j_aload_n 0 dX7_number_78 rfl rfl ?_
        refine j_iconst (1 : Int32) dX7_number_79 (by decide) ?_
        refine kc_X7_114 rfl rfl rfl (by decide) dX7_number_80 hf (fun _u h12 hf => ?_)
        refine j_goto 102 dX7_number_83 (by decide) ?_
        refine j_weak [some (va_rf x0), some (.int x1), none, some (.long x3), none] (Wk.k (Wk.k (Wk.s (Wk.k (Wk.k Wk.n))))) ?_
        exact pf_X7_number_B102 x0 x1 x3 h12 hf
    · refine j_ldc2 q2318 dX7_number_32 ?_
      refine j_ldc2 q2319 dX7_number_35 ?_
      refine j_lload_n 3 dX7_number_38 rfl rfl ?_
      refine j_lmul dX7_number_39 ?_
      refine j_aload_n 0 dX7_number_40 rfl rfl ?_
      refine kc_X7_84 rfl rfl rfl (by simp [va_rf_cat, cat_i, cat_l]) dX7_number_41 hf (fun v14 h13 hf => ?_)
      refine j_i2l dX7_number_44 ?_
      refine j_ladd dX7_number_45 ?_
      refine j_ldc2 q2316 dX7_number_46 ?_
      refine j_lsub dX7_number_49 ?_
      refine j_mminl q2320 q1162 q106 q1163 rfl rfl (by decide) dX7_number_50 ?_
      refine j_lstore_n 3 [some (va_rf x0), some (.int x1), some (.int x2), some (.long (if ((((10 : Int64) * x3) + (v14.toInt64)) - (48 : Int64)) < (3000000000 : Int64) then ((((10 : Int64) * x3) + (v14.toInt64)) - (48 : Int64)) else (3000000000 : Int64))), none] dX7_number_53 rfl (cz rfl) rfl rfl ?_
      refine j_aload_n 0 dX7_number_54 rfl rfl ?_
      refine j_dup dX7_number_55 (va_rf_cat _) ?_
      refine j_gI (ci := 6) (k := 4) rfl in_X7 rfl q2206 dX7_number_56 hf (fun v15 hf => ?_)
      refine j_iconst (1 : Int32) dX7_number_59 (by decide) ?_
      refine j_iadd dX7_number_60 ?_
      refine j_pV (ci := 6) (k := 4) tyX7 tyX7_ok nmX7 rfl in_X7 rfl q2206 (Or.inl rfl) rfl (fit_i _) dX7_number_61 hf (fun h16 hf => ?_)
      refine j_goto 15 dX7_number_64 (by decide) ?_
      exact ih x0 x1 x2 (if ((((10 : Int64) * x3) + (v14.toInt64)) - (48 : Int64)) < (3000000000 : Int64) then ((((10 : Int64) * x3) + (v14.toInt64)) - (48 : Int64)) else (3000000000 : Int64)) h16 hf
def f_X7_number (r0 : Option Nat) (p0 : Int32) (p1 : Int32) (h0 : PH) : Option (Int32 × PH) := gI h0 r0 6 7 fun v1 => (if v1 = 0 then (rv_ h0 r0 6 (cl_ (f_X7_looks r0 h0) fun _u h2 => f_X7_number_L15 FU r0 p0 p1 (0 : Int64) h2)) else (some (p0, h0)))
theorem hyS_X7_number : yX7_number.cls ≠ "java/lang/invoke/MethodHandle" ∧ yX7_number.cls ≠ "java/lang/invoke/VarHandle" ∧ (parseMethodDescriptor yX7_number.desc).map (fun d => d.parameters.length) = some 2 := by decide +kernel
theorem hyV_X7_number : yX7_number.cls = RX7 ∧ yX7_number.cls ≠ "java/lang/invoke/MethodHandle" ∧ yX7_number.cls ≠ "java/lang/invoke/VarHandle" ∧ (parseMethodDescriptor yX7_number.desc).map (fun d => d.parameters.length) = some 2 := by decide +kernel
theorem c_X7_number {D : va_G} (r0 : Option Nat) (p0 : Int32) (p1 : Int32) {h0 : PH} (l : Launch) (hl : l.stackTraces = false) (x : Int32) (h1 : PH) (hf : f_X7_number r0 p0 p1 h0 = some (x, h1)) : CT l D yX7_number (ws_ yX7_number cX7_number 5 (Option.some FieldType.int)) 2 40 [va_rf r0, .int p0, .int p1] h0 (ovi x) h1 := by
  refine ct_of hl [some (va_rf r0), some (.int p0), some (.int p1), none, none] (by decide) (by rw [lgl]; simp [va_rf_cat, cat_i, cat_l]) (by simp [lv_args, vsL, va_rf_cat, cat_i, cat_l]) (fun Γ => ?_)
  obtain ⟨o, ho⟩ : ∃ o : Int32 × PH, o = (x, h1) := ⟨_, rfl⟩
  rw [← ho] at hf
  have e1 : x = o.1 := by rw [ho]
  have e2 : h1 = o.2 := by rw [ho]
  subst e1 e2
  clear ho
  show PF Γ mi_X7_number D h0 (QR Γ D h0 (ovi o.1) o.2) h0 0 [some (va_rf r0), some (.int p0), some (.int p1), none, none] []
  unfold f_X7_number at hf
  refine j_aload_n 0 dX7_number_0 rfl rfl ?_
  refine j_gI (ci := 6) (k := 7) rfl in_X7 rfl q2209 dX7_number_1 hf (fun v1 hf => ?_)
  refine j_if_eq 9 dX7_number_4 (by decide) hf (fun c_ hf => ?_) (fun c_ hf => ?_)
  · refine j_aload_n 0 dX7_number_9 rfl rfl ?_
    refine kc_X7_97 rfl rfl rfl (by decide) dX7_number_10 hf (fun _u h2 hf => ?_)
    refine j_lconst (0 : Int64) dX7_number_13 (by decide) ?_
    refine j_lstore_n 3 [some (va_rf r0), some (.int p0), some (.int p1), some (.long (0 : Int64)), none] dX7_number_14 rfl (cz rfl) rfl rfl ?_
    exact pf_X7_number_L15 FU r0 p0 p1 (0 : Int64) h2 hf
  · refine j_iload_n 1 dX7_number_7 rfl rfl ?_
    have e9 := Option.some.inj hf
    subst e9
    exact j_iret rfl dX7_number_8
