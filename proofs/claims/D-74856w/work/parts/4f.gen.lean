/-! printed by gen.py: X7_timersNow X7_write X7_leaders X7_readStatement X7_arrives X7_load X7_messagesNow X7_goesTo X7_advanceToNextEvent X7_nextLeader -/
set_option maxRecDepth 100000
abbrev mi_X7_timersNow : MI := (cX7_timersNow, 3, RX7, none, [], 3, 70, "timersNow")
def f_X7_timersNow_B81 (k2 : Option Nat → Int32 → PH → Option (Unit × PH)) (x0 : Option Nat) (x1 : Int32) (h : PH) : Option (Unit × PH) := k2 x0 (x1 + (1 : Int32)) h
theorem pf_X7_timersNow_B81 {Γ : GX} {D : va_G} {h0 : PH} {o : Unit × PH} (k2 : Option Nat → Int32 → PH → Option (Unit × PH)) (hk2 : ∀ (x0 : Option Nat) (x1 : Int32) (h : PH), k2 x0 x1 h = some o → PF Γ mi_X7_timersNow D h0 (QR Γ D h0 (ovv o.1) o.2) h 2 [some (va_rf x0), some (.int x1), none] []) (x0 : Option Nat) (x1 : Int32) (h : PH) (hf : f_X7_timersNow_B81 k2 x0 x1 h = some o) : PF Γ mi_X7_timersNow D h0 (QR Γ D h0 (ovv o.1) o.2) h 81 [some (va_rf x0), some (.int x1), none] [] := by
  refine j_iinc (x1 + (1 : Int32)) [some (va_rf x0), some (.int (x1 + (1 : Int32))), none] dX7_timersNow_81 rfl rfl (cz (va_rf_cat _)) rfl rfl ?_
  refine j_goto 2 dX7_timersNow_84 (by decide) ?_
  exact hk2 x0 (x1 + (1 : Int32)) h hf
def f_X7_timersNow_L2 : Nat → Option Nat → Int32 → PH → Option (Unit × PH)
  | 0, _, _, _ => none
  | n + 1, x0, x1, h => gR h x0 6 0 fun r1 => aI h r1 0 (2 : Int32) fun v2 => (if v2 ≤ x1 then (some ((), h)) else (rv_ h x0 6 (cl_ (f_X7_of x0 x1 (9 : Int32) h) fun v4 h3 => rv_ h3 x0 6 (cl_ (f_X7_of x0 x1 (3 : Int32) h3) fun v6 h5 => (if v6 = 0 then (f_X7_timersNow_B81 (f_X7_timersNow_L2 n) x0 x1 h5) else (rv_ h5 x0 6 (cl_ (f_X7_isPaused x0 x1 h5) fun v8 h7 => (if v8 = 0 then ((if v4 = (-1 : Int32) then (f_X7_timersNow_B81 (f_X7_timersNow_L2 n) x0 x1 h7) else (gR h7 x0 6 0 fun r9 => aI h7 r9 0 (0 : Int32) fun v10 => (if v4 ≤ v10 then (rv_ h7 x0 6 (cl_ (f_X7_of x0 x1 (5 : Int32) h7) fun v12 h11 => (if v12 = (1 : Int32) then (rv_ h11 x0 6 (cl_ (f_X7_acquires x0 x1 h11) fun _u h14 => f_X7_timersNow_B81 (f_X7_timersNow_L2 n) x0 x1 h14)) else (rv_ h11 x0 6 (cl_ (f_X7_puts x0 x1 (9 : Int32) (-1 : Int32) h11) fun _u h13 => f_X7_timersNow_B81 (f_X7_timersNow_L2 n) x0 x1 h13))))) else (f_X7_timersNow_B81 (f_X7_timersNow_L2 n) x0 x1 h7))))) else (f_X7_timersNow_B81 (f_X7_timersNow_L2 n) x0 x1 h7)))))))))
theorem pf_X7_timersNow_L2 {Γ : GX} {D : va_G} {h0 : PH} {o : Unit × PH} : ∀ (n : Nat) (x0 : Option Nat) (x1 : Int32) (h : PH), f_X7_timersNow_L2 n x0 x1 h = some o → PF Γ mi_X7_timersNow D h0 (QR Γ D h0 (ovv o.1) o.2) h 2 [some (va_rf x0), some (.int x1), none] [] := by
  intro n
  induction n with
  | zero => intro x0 x1 h hf; cases hf
  | succ n ih =>
    intro x0 x1 h hf
    refine j_iload_n 1 dX7_timersNow_2 rfl rfl ?_
    refine j_aload_n 0 dX7_timersNow_3 rfl rfl ?_
    refine j_gR (ci := 6) (k := 0) rfl in_X7 rfl q2202 dX7_timersNow_4 hf (fun r1 hf => ?_)
    refine j_iconst (2 : Int32) dX7_timersNow_7 (by decide) ?_
    refine j_iald dX7_timersNow_8 hf (fun v2 hf => ?_)
    refine j_icmp_ge 87 dX7_timersNow_9 (by decide) hf (fun c_ hf => ?_) (fun c_ hf => ?_)
    · have e9 := Option.some.inj hf
      subst e9
      exact j_vret rfl dX7_timersNow_87
    · refine j_aload_n 0 dX7_timersNow_12 rfl rfl ?_
      refine j_iload_n 1 dX7_timersNow_13 rfl rfl ?_
      refine j_bipush (9 : Int32) dX7_timersNow_14 (by decide) ?_
      refine kc_X7_152 rfl rfl rfl (by decide) dX7_timersNow_16 hf (fun v4 h3 hf => ?_)
      refine j_istore_n 2 [some (va_rf x0), some (.int x1), some (.int v4)] dX7_timersNow_19 rfl (cz rfl) rfl rfl ?_
      refine j_aload_n 0 dX7_timersNow_20 rfl rfl ?_
      refine j_iload_n 1 dX7_timersNow_21 rfl rfl ?_
      refine j_iconst (3 : Int32) dX7_timersNow_22 (by decide) ?_
      refine kc_X7_152 rfl rfl rfl (by decide) dX7_timersNow_23 hf (fun v6 h5 hf => ?_)
      refine j_if_eq 81 dX7_timersNow_26 (by decide) hf (fun c_ hf => ?_) (fun c_ hf => ?_)
      · refine j_weak [some (va_rf x0), some (.int x1), none] (Wk.k (Wk.k (Wk.s Wk.n))) ?_
        exact pf_X7_timersNow_B81 (f_X7_timersNow_L2 n) ih x0 x1 h5 hf
      · refine j_aload_n 0 dX7_timersNow_29 rfl rfl ?_
        refine j_iload_n 1 dX7_timersNow_30 rfl rfl ?_
        refine kc_X7_229 rfl rfl rfl (by decide) dX7_timersNow_31 hf (fun v8 h7 hf => ?_)
        refine j_if_ne 81 dX7_timersNow_34 (by decide) hf (fun c_ hf => ?_) (fun c_ hf => ?_)
        · refine j_weak [some (va_rf x0), some (.int x1), none] (Wk.k (Wk.k (Wk.s Wk.n))) ?_
          exact pf_X7_timersNow_B81 (f_X7_timersNow_L2 n) ih x0 x1 h7 hf
        · refine j_iload_n 2 dX7_timersNow_37 rfl rfl ?_
          refine j_iconst (-1 : Int32) dX7_timersNow_38 (by decide) ?_
          refine j_icmp_eq 81 dX7_timersNow_39 (by decide) hf (fun c_ hf => ?_) (fun c_ hf => ?_)
          · refine j_weak [some (va_rf x0), some (.int x1), none] (Wk.k (Wk.k (Wk.s Wk.n))) ?_
            exact pf_X7_timersNow_B81 (f_X7_timersNow_L2 n) ih x0 x1 h7 hf
          · refine j_iload_n 2 dX7_timersNow_42 rfl rfl ?_
            refine j_aload_n 0 dX7_timersNow_43 rfl rfl ?_
            refine j_gR (ci := 6) (k := 0) rfl in_X7 rfl q2202 dX7_timersNow_44 hf (fun r9 hf => ?_)
            refine j_iconst (0 : Int32) dX7_timersNow_47 (by decide) ?_
            refine j_iald dX7_timersNow_48 hf (fun v10 hf => ?_)
            refine j_icmp_le 55 dX7_timersNow_49 (by decide) hf (fun c_ hf => ?_) (fun c_ hf => ?_)
            · refine j_aload_n 0 dX7_timersNow_55 rfl rfl ?_
              refine j_iload_n 1 dX7_timersNow_56 rfl rfl ?_
              refine j_iconst (5 : Int32) dX7_timersNow_57 (by decide) ?_
              refine kc_X7_152 rfl rfl rfl (by decide) dX7_timersNow_58 hf (fun v12 h11 hf => ?_)
              refine j_iconst (1 : Int32) dX7_timersNow_61 (by decide) ?_
              refine j_icmp_ne 73 dX7_timersNow_62 (by decide) hf (fun c_ hf => ?_) (fun c_ hf => ?_)
              · refine j_aload_n 0 dX7_timersNow_73 rfl rfl ?_
                refine j_iload_n 1 dX7_timersNow_74 rfl rfl ?_
                refine j_bipush (9 : Int32) dX7_timersNow_75 (by decide) ?_
                refine j_iconst (-1 : Int32) dX7_timersNow_77 (by decide) ?_
                refine kc_X7_169 rfl rfl rfl (by decide) dX7_timersNow_78 hf (fun _u h13 hf => ?_)
                refine j_weak [some (va_rf x0), some (.int x1), none] (Wk.k (Wk.k (Wk.s Wk.n))) ?_
                exact pf_X7_timersNow_B81 (f_X7_timersNow_L2 n) ih x0 x1 h13 hf
              · refine j_aload_n 0 dX7_timersNow_65 rfl rfl ?_
                refine j_iload_n 1 dX7_timersNow_66 rfl rfl ?_
                refine kc_X7_247 rfl rfl rfl (by decide) dX7_timersNow_67 hf (fun _u h14 hf => ?_)
                refine j_goto 81 dX7_timersNow_70 (by decide) ?_
                refine j_weak [some (va_rf x0), some (.int x1), none] (Wk.k (Wk.k (Wk.s Wk.n))) ?_
                exact pf_X7_timersNow_B81 (f_X7_timersNow_L2 n) ih x0 x1 h14 hf
            · refine j_goto 81 dX7_timersNow_52 (by decide) ?_
              refine j_weak [some (va_rf x0), some (.int x1), none] (Wk.k (Wk.k (Wk.s Wk.n))) ?_
              exact pf_X7_timersNow_B81 (f_X7_timersNow_L2 n) ih x0 x1 h7 hf
def f_X7_timersNow (r0 : Option Nat) (h0 : PH) : Option (Unit × PH) := f_X7_timersNow_L2 FU r0 (0 : Int32) h0
theorem hyS_X7_timersNow : yX7_timersNow.cls ≠ "java/lang/invoke/MethodHandle" ∧ yX7_timersNow.cls ≠ "java/lang/invoke/VarHandle" ∧ (parseMethodDescriptor yX7_timersNow.desc).map (fun d => d.parameters.length) = some 0 := by decide +kernel
theorem hyV_X7_timersNow : yX7_timersNow.cls = RX7 ∧ yX7_timersNow.cls ≠ "java/lang/invoke/MethodHandle" ∧ yX7_timersNow.cls ≠ "java/lang/invoke/VarHandle" ∧ (parseMethodDescriptor yX7_timersNow.desc).map (fun d => d.parameters.length) = some 0 := by decide +kernel
theorem c_X7_timersNow {D : va_G} (r0 : Option Nat) {h0 : PH} (l : Launch) (hl : l.stackTraces = false) (x : Unit) (h1 : PH) (hf : f_X7_timersNow r0 h0 = some (x, h1)) : CT l D yX7_timersNow (ws_ yX7_timersNow cX7_timersNow 3 none) 3 70 [va_rf r0] h0 (ovv x) h1 := by
  refine ct_of hl [some (va_rf r0), none, none] (by decide) (by rw [lgl]; simp [va_rf_cat, cat_i, cat_l]) (by simp [lv_args, vsL, va_rf_cat, cat_i, cat_l]) (fun Γ => ?_)
  obtain ⟨o, ho⟩ : ∃ o : Unit × PH, o = (x, h1) := ⟨_, rfl⟩
  rw [← ho] at hf
  have e1 : x = o.1 := by rw [ho]
  have e2 : h1 = o.2 := by rw [ho]
  subst e1 e2
  clear ho
  show PF Γ mi_X7_timersNow D h0 (QR Γ D h0 (ovv o.1) o.2) h0 0 [some (va_rf r0), none, none] []
  unfold f_X7_timersNow at hf
  refine j_iconst (0 : Int32) dX7_timersNow_0 (by decide) ?_
  refine j_istore_n 1 [some (va_rf r0), some (.int (0 : Int32)), none] dX7_timersNow_1 rfl (cz (va_rf_cat _)) rfl rfl ?_
  exact pf_X7_timersNow_L2 FU r0 (0 : Int32) h0 hf
abbrev mi_X7_write : MI := (cX7_write, 4, RX7, (Option.some FieldType.int), [], 4, 85, "write")
def f_X7_write_B35  (h : PH) : Option (Int32 × PH) := some ((0 : Int32), h)
theorem pf_X7_write_B35 {Γ : GX} {D : va_G} {h0 : PH} {o : Int32 × PH}  (h : PH) (hf : f_X7_write_B35  h = some o) : PF Γ mi_X7_write D h0 (QR Γ D h0 (ovi o.1) o.2) h 35 [none, none, none, none] [] := by
  refine j_iconst (0 : Int32) dX7_write_35 (by decide) ?_
  have e9 := Option.some.inj hf
  subst e9
  exact j_iret rfl dX7_write_36
def f_X7_write_B28 (x0 : Option Nat) (x1 : Int32) (x2 : Int32) (x3 : Int32) (t0 : Option Nat) (t1 : Int32) (h : PH) : Option (Int32 × PH) := rv_ h t0 6 (cl_ (f_X7_throwsIf t0 t1 (2 : Int32) h) fun v8 h7 => (if v8 = 0 then (rv_ h7 x0 6 (cl_ (f_X7_refusalOfLeader x0 x1 h7) fun v10 h9 => (if v10 = 0 then (rv_ h9 x0 6 (cl_ (f_X7_of x0 x1 (7 : Int32) h9) fun v12 h11 => rv_ h11 x0 6 (cl_ (f_X7_sends x0 (3 : Int32) x1 v12 x2 x3 h11) fun _u h13 => rv_ h13 x0 6 (cl_ (f_X7_of x0 x1 (7 : Int32) h13) fun v15 h14 => some (v15, h14))))) else (rv_ h9 x0 6 (cl_ (f_X7_refusalOfLeader x0 x1 h9) fun v17 h16 => some (v17, h16)))))) else (f_X7_write_B35 h7)))
theorem pf_X7_write_B28 {Γ : GX} {D : va_G} {h0 : PH} {o : Int32 × PH} (x0 : Option Nat) (x1 : Int32) (x2 : Int32) (x3 : Int32) (t0 : Option Nat) (t1 : Int32) (h : PH) (hf : f_X7_write_B28 x0 x1 x2 x3 t0 t1 h = some o) : PF Γ mi_X7_write D h0 (QR Γ D h0 (ovi o.1) o.2) h 28 [some (va_rf x0), some (.int x1), some (.int x2), some (.int x3)] [.int t1, va_rf t0] := by
  refine j_iconst (2 : Int32) dX7_write_28 (by decide) ?_
  refine kc_X7_72 rfl rfl rfl (by decide) dX7_write_29 hf (fun v8 h7 hf => ?_)
  refine j_if_eq 37 dX7_write_32 (by decide) hf (fun c_ hf => ?_) (fun c_ hf => ?_)
  · refine j_aload_n 0 dX7_write_37 rfl rfl ?_
    refine j_iload_n 1 dX7_write_38 rfl rfl ?_
    refine kc_X7_298 rfl rfl rfl (by decide) dX7_write_39 hf (fun v10 h9 hf => ?_)
    refine j_if_eq 51 dX7_write_42 (by decide) hf (fun c_ hf => ?_) (fun c_ hf => ?_)
    · refine j_aload_n 0 dX7_write_51 rfl rfl ?_
      refine j_iconst (3 : Int32) dX7_write_52 (by decide) ?_
      refine j_iload_n 1 dX7_write_53 rfl rfl ?_
      refine j_aload_n 0 dX7_write_54 rfl rfl ?_
      refine j_iload_n 1 dX7_write_55 rfl rfl ?_
      refine j_bipush (7 : Int32) dX7_write_56 (by decide) ?_
      refine kc_X7_152 rfl rfl rfl (by simp [va_rf_cat, cat_i, cat_l]) dX7_write_58 hf (fun v12 h11 hf => ?_)
      refine j_iload_n 2 dX7_write_61 rfl rfl ?_
      refine j_iload_n 3 dX7_write_62 rfl rfl ?_
      refine kc_X7_189 rfl rfl rfl (by decide) dX7_write_63 hf (fun _u h13 hf => ?_)
      refine j_aload_n 0 dX7_write_66 rfl rfl ?_
      refine j_iload_n 1 dX7_write_67 rfl rfl ?_
      refine j_bipush (7 : Int32) dX7_write_68 (by decide) ?_
      refine kc_X7_152 rfl rfl rfl (by decide) dX7_write_70 hf (fun v15 h14 hf => ?_)
      have e9 := Option.some.inj hf
      subst e9
      exact j_iret rfl dX7_write_73
    · refine j_aload_n 0 dX7_write_45 rfl rfl ?_
      refine j_iload_n 1 dX7_write_46 rfl rfl ?_
      refine kc_X7_298 rfl rfl rfl (by decide) dX7_write_47 hf (fun v17 h16 hf => ?_)
      have e9 := Option.some.inj hf
      subst e9
      exact j_iret rfl dX7_write_50
  · refine j_weak [none, none, none, none] (Wk.s (Wk.s (Wk.s (Wk.s Wk.n)))) ?_
    exact pf_X7_write_B35  h7 hf
def f_X7_write_B23 (x0 : Option Nat) (x1 : Int32) (x2 : Int32) (x3 : Int32) (t0 : Option Nat) (h : PH) : Option (Int32 × PH) := f_X7_write_B28 x0 x1 x2 x3 t0 (1 : Int32) h
theorem pf_X7_write_B23 {Γ : GX} {D : va_G} {h0 : PH} {o : Int32 × PH} (x0 : Option Nat) (x1 : Int32) (x2 : Int32) (x3 : Int32) (t0 : Option Nat) (h : PH) (hf : f_X7_write_B23 x0 x1 x2 x3 t0 h = some o) : PF Γ mi_X7_write D h0 (QR Γ D h0 (ovi o.1) o.2) h 23 [some (va_rf x0), some (.int x1), some (.int x2), some (.int x3)] [va_rf t0] := by
  refine j_iconst (1 : Int32) dX7_write_23 (by decide) ?_
  refine j_goto 28 dX7_write_24 (by decide) ?_
  exact pf_X7_write_B28 x0 x1 x2 x3 t0 (1 : Int32) h hf
def f_X7_write (r0 : Option Nat) (p0 : Int32) (p1 : Int32) (p2 : Int32) (h0 : PH) : Option (Int32 × PH) := rv_ h0 r0 6 (cl_ (f_X7_noNode r0 p0 h0) fun v2 h1 => (if v2 = 0 then (cl_ (f_X7_isRegister p1 h1) fun v4 h3 => (if v4 = 0 then (f_X7_write_B23 r0 p0 p1 p2 r0 h3) else (cl_ (f_X7_isValue p2 h3) fun v6 h5 => (if v6 = 0 then (f_X7_write_B23 r0 p0 p1 p2 r0 h5) else (f_X7_write_B28 r0 p0 p1 p2 r0 (0 : Int32) h5))))) else (f_X7_write_B35 h1)))
theorem hyS_X7_write : yX7_write.cls ≠ "java/lang/invoke/MethodHandle" ∧ yX7_write.cls ≠ "java/lang/invoke/VarHandle" ∧ (parseMethodDescriptor yX7_write.desc).map (fun d => d.parameters.length) = some 3 := by decide +kernel
theorem hyV_X7_write : yX7_write.cls = RX7 ∧ yX7_write.cls ≠ "java/lang/invoke/MethodHandle" ∧ yX7_write.cls ≠ "java/lang/invoke/VarHandle" ∧ (parseMethodDescriptor yX7_write.desc).map (fun d => d.parameters.length) = some 3 := by decide +kernel
theorem c_X7_write {D : va_G} (r0 : Option Nat) (p0 : Int32) (p1 : Int32) (p2 : Int32) {h0 : PH} (l : Launch) (hl : l.stackTraces = false) (x : Int32) (h1 : PH) (hf : f_X7_write r0 p0 p1 p2 h0 = some (x, h1)) : CT l D yX7_write (ws_ yX7_write cX7_write 4 (Option.some FieldType.int)) 4 85 [va_rf r0, .int p0, .int p1, .int p2] h0 (ovi x) h1 := by
  refine ct_of hl [some (va_rf r0), some (.int p0), some (.int p1), some (.int p2)] (by decide) (by rw [lgl]; simp [va_rf_cat, cat_i, cat_l]) (by simp [lv_args, vsL, va_rf_cat, cat_i, cat_l]) (fun Γ => ?_)
  obtain ⟨o, ho⟩ : ∃ o : Int32 × PH, o = (x, h1) := ⟨_, rfl⟩
  rw [← ho] at hf
  have e1 : x = o.1 := by rw [ho]
  have e2 : h1 = o.2 := by rw [ho]
  subst e1 e2
  clear ho
  show PF Γ mi_X7_write D h0 (QR Γ D h0 (ovi o.1) o.2) h0 0 [some (va_rf r0), some (.int p0), some (.int p1), some (.int p2)] []
  unfold f_X7_write at hf
  refine j_aload_n 0 dX7_write_0 rfl rfl ?_
  refine j_iload_n 1 dX7_write_1 rfl rfl ?_
  refine kc_X7_172 rfl rfl rfl (by decide) dX7_write_2 hf (fun v2 h1 hf => ?_)
  refine j_if_ne 35 dX7_write_5 (by decide) hf (fun c_ hf => ?_) (fun c_ hf => ?_)
  · refine j_weak [none, none, none, none] (Wk.s (Wk.s (Wk.s (Wk.s Wk.n)))) ?_
    exact pf_X7_write_B35  h1 hf
  · refine j_aload_n 0 dX7_write_8 rfl rfl ?_
    refine j_iload_n 2 dX7_write_9 rfl rfl ?_
    refine kc_X7_292 rfl rfl rfl (by simp [va_rf_cat, cat_i, cat_l]) dX7_write_10 hf (fun v4 h3 hf => ?_)
    refine j_if_eq 23 dX7_write_13 (by decide) hf (fun c_ hf => ?_) (fun c_ hf => ?_)
    · exact pf_X7_write_B23 r0 p0 p1 p2 r0 h3 hf
    · refine j_iload_n 3 dX7_write_16 rfl rfl ?_
      refine kc_X7_295 rfl rfl rfl (by simp [va_rf_cat, cat_i, cat_l]) dX7_write_17 hf (fun v6 h5 hf => ?_)
      refine j_if_ne 27 dX7_write_20 (by decide) hf (fun c_ hf => ?_) (fun c_ hf => ?_)
      · refine j_iconst (0 : Int32) dX7_write_27 (by decide) ?_
        exact pf_X7_write_B28 r0 p0 p1 p2 r0 (0 : Int32) h5 hf
      · exact pf_X7_write_B23 r0 p0 p1 p2 r0 h5 hf
theorem kc_X7_310 {Γ : GX} {I : MI} {D : va_G} {h0 : PH} {Q : State → Prop} {h : PH} {pc : Nat} {vs : List (Option Value)} {rest : List Value} {β : Type} {o : β} {r : Option Nat}  {K : ((Int32) → PH → Option β)} (hI : I.2.2.1 = RX7) (hfr : Nat.ble 4 I.2.2.2.2.2.1 = true) (hlo : Nat.ble 86 I.2.2.2.2.2.2.1 = true) (hW : (rest.map fun v => v.category).sum ≤ 8) (hd : decode I.1 pc = .ok (.invokevirtual 310, 3)) (hf : rv_ h r 6 (cl_ (f_X7_leadersNow r h) K) = some o) (kk : ∀ (x : Int32) (h1 : PH), K x h1 = some o → PF Γ I D h0 Q h1 (pc + 3) vs (.int x :: rest)) : PF Γ I D h0 Q h pc vs (va_rf r :: rest) := by
  obtain ⟨cc, nL, own, rt, xt, fr, lo, nm⟩ := I
  cases hI
  exact j_cVi (n := 0) (y := yX7_leadersNow) (cc2 := cX7_leadersNow) (As := []) (C := RX7) (ci := 6) rfl (lw_V q2613 q2615 qs82 q117 q2616) hyV_X7_leadersNow hfr hlo rfl hW hd (c_X7_leadersNow r) hf _ rfl kk
abbrev mi_X7_leaders : MI := (cX7_leaders, 1, RX7, (Option.some FieldType.int), [], 4, 86, "leaders")
def f_X7_leaders (r0 : Option Nat) (h0 : PH) : Option (Int32 × PH) := pV h0 r0 6 1 (.int (0 : Int32)) fun h1 => rv_ h1 r0 6 (cl_ (f_X7_leadersNow r0 h1) fun v3 h2 => some (v3, h2))
theorem hyS_X7_leaders : yX7_leaders.cls ≠ "java/lang/invoke/MethodHandle" ∧ yX7_leaders.cls ≠ "java/lang/invoke/VarHandle" ∧ (parseMethodDescriptor yX7_leaders.desc).map (fun d => d.parameters.length) = some 0 := by decide +kernel
theorem hyV_X7_leaders : yX7_leaders.cls = RX7 ∧ yX7_leaders.cls ≠ "java/lang/invoke/MethodHandle" ∧ yX7_leaders.cls ≠ "java/lang/invoke/VarHandle" ∧ (parseMethodDescriptor yX7_leaders.desc).map (fun d => d.parameters.length) = some 0 := by decide +kernel
theorem c_X7_leaders {D : va_G} (r0 : Option Nat) {h0 : PH} (l : Launch) (hl : l.stackTraces = false) (x : Int32) (h1 : PH) (hf : f_X7_leaders r0 h0 = some (x, h1)) : CT l D yX7_leaders (ws_ yX7_leaders cX7_leaders 1 (Option.some FieldType.int)) 4 86 [va_rf r0] h0 (ovi x) h1 := by
  refine ct_of hl [some (va_rf r0)] (by decide) (by rw [lgl]; simp [va_rf_cat, cat_i, cat_l]) (by simp [lv_args, vsL, va_rf_cat, cat_i, cat_l]) (fun Γ => ?_)
  obtain ⟨o, ho⟩ : ∃ o : Int32 × PH, o = (x, h1) := ⟨_, rfl⟩
  rw [← ho] at hf
  have e1 : x = o.1 := by rw [ho]
  have e2 : h1 = o.2 := by rw [ho]
  subst e1 e2
  clear ho
  show PF Γ mi_X7_leaders D h0 (QR Γ D h0 (ovi o.1) o.2) h0 0 [some (va_rf r0)] []
  unfold f_X7_leaders at hf
  refine j_aload_n 0 dX7_leaders_0 rfl rfl ?_
  refine j_iconst (0 : Int32) dX7_leaders_1 (by decide) ?_
  refine j_pV (ci := 6) (k := 1) tyX7 tyX7_ok nmX7 rfl in_X7 rfl q2203 (Or.inl rfl) rfl (fit_i _) dX7_leaders_2 hf (fun h1 hf => ?_)
  refine j_aload_n 0 dX7_leaders_5 rfl rfl ?_
  refine kc_X7_310 rfl rfl rfl (by decide) dX7_leaders_6 hf (fun v3 h2 hf => ?_)
  have e9 := Option.some.inj hf
  subst e9
  exact j_iret rfl dX7_leaders_9
theorem kc_X7_128 {Γ : GX} {I : MI} {D : va_G} {h0 : PH} {Q : State → Prop} {h : PH} {pc : Nat} {vs : List (Option Value)} {rest : List Value} {β : Type} {o : β} {r : Option Nat}  {K : ((Int32) → PH → Option β)} (hI : I.2.2.1 = RX7) (hfr : Nat.ble 5 I.2.2.2.2.2.1 = true) (hlo : Nat.ble 108 I.2.2.2.2.2.2.1 = true) (hW : (rest.map fun v => v.category).sum ≤ 8) (hd : decode I.1 pc = .ok (.invokevirtual 128, 3)) (hf : rv_ h r 6 (cl_ (f_X7_word r h) K) = some o) (kk : ∀ (x : Int32) (h1 : PH), K x h1 = some o → PF Γ I D h0 Q h1 (pc + 3) vs (.int x :: rest)) : PF Γ I D h0 Q h pc vs (va_rf r :: rest) := by
  obtain ⟨cc, nL, own, rt, xt, fr, lo, nm⟩ := I
  cases hI
  exact j_cVi (n := 0) (y := yX7_word) (cc2 := cX7_word) (As := []) (C := RX7) (ci := 6) rfl (lw_V q2282 q2284 qs39 q117 q2285) hyV_X7_word hfr hlo rfl hW hd (c_X7_word r) hf _ rfl kk
theorem kc_X7_139 {Γ : GX} {I : MI} {D : va_G} {h0 : PH} {Q : State → Prop} {h : PH} {pc : Nat} {vs : List (Option Value)} {rest : List Value} {β : Type} {o : β} {r : Option Nat}  {K : ((Unit) → PH → Option β)} (hI : I.2.2.1 = RX7) (hfr : Nat.ble 4 I.2.2.2.2.2.1 = true) (hlo : Nat.ble 87 I.2.2.2.2.2.2.1 = true) (hW : (rest.map fun v => v.category).sum ≤ 8) (hd : decode I.1 pc = .ok (.invokevirtual 139, 3)) (hf : rv_ h r 6 (cl_ (f_X7_readNodeHere r h) K) = some o) (kk : ∀ (x : Unit) (h1 : PH), K x h1 = some o → PF Γ I D h0 Q h1 (pc + 3) vs (rest)) : PF Γ I D h0 Q h pc vs (va_rf r :: rest) := by
  obtain ⟨cc, nL, own, rt, xt, fr, lo, nm⟩ := I
  cases hI
  exact j_cVv (n := 0) (y := yX7_readNodeHere) (cc2 := cX7_readNodeHere) (As := []) (C := RX7) (ci := 6) rfl (lw_V q2322 q2324 qs44 q117 q2325) hyV_X7_readNodeHere hfr hlo rfl hW hd (c_X7_readNodeHere r) hf _ rfl kk
abbrev mi_X7_readStatement : MI := (cX7_readStatement, 2, RX7, none, [], 5, 108, "readStatement")
def f_X7_readStatement_B249  (h : PH) : Option (Unit × PH) := some ((), h)
theorem pf_X7_readStatement_B249 {Γ : GX} {D : va_G} {h0 : PH} {o : Unit × PH}  (h : PH) (hf : f_X7_readStatement_B249  h = some o) : PF Γ mi_X7_readStatement D h0 (QR Γ D h0 (ovv o.1) o.2) h 249 [none, none] [] := by
  have e9 := Option.some.inj hf
  subst e9
  exact j_vret rfl dX7_readStatement_249
def f_X7_readStatement_B53 (x0 : Option Nat) (x1 : Int32) (h : PH) : Option (Unit × PH) := gI h x0 6 7 fun v7 => (if v7 = 0 then (gI h x0 6 9 fun v8 => pV h x0 6 9 (.int (v8 ||| ((1 : Int32) <<< (x1 &&& 31)))) fun h9 => (if x1 = (0 : Int32) then (gR h9 x0 6 10 fun r10 => rv_ h9 x0 6 (cl_ (f_X7_number x0 (900 : Int32) (1100 : Int32) h9) fun v12 h11 => sI h11 r10 0 (3 : Int32) v12 fun h13 => gR h13 x0 6 10 fun r14 => rv_ h13 x0 6 (cl_ (f_X7_number x0 (0 : Int32) (100000 : Int32) h13) fun v16 h15 => sI h15 r14 0 (4 : Int32) v16 fun h17 => f_X7_readStatement_B249 h17))) else (if x1 = (1 : Int32) then (rv_ h9 x0 6 (cl_ (f_X7_readNodeHere x0 h9) fun _u h18 => f_X7_readStatement_B249 h18)) else (if x1 = (2 : Int32) then (gR h9 x0 6 10 fun r19 => rv_ h9 x0 6 (cl_ (f_X7_number x0 (100 : Int32) (60000 : Int32) h9) fun v21 h20 => sI h20 r19 0 (5 : Int32) v21 fun h22 => gR h22 x0 6 10 fun r23 => rv_ h22 x0 6 (cl_ (f_X7_number x0 (0 : Int32) (100 : Int32) h22) fun v25 h24 => sI h24 r23 0 (6 : Int32) v25 fun h26 => f_X7_readStatement_B249 h26))) else (if x1 = (3 : Int32) then (gR h9 x0 6 10 fun r27 => rv_ h9 x0 6 (cl_ (f_X7_number x0 (50 : Int32) (60000 : Int32) h9) fun v29 h28 => sI h28 r27 0 (7 : Int32) v29 fun h30 => f_X7_readStatement_B249 h30)) else (if x1 = (4 : Int32) then (gR h9 x0 6 10 fun r31 => rv_ h9 x0 6 (cl_ (f_X7_number x0 (50 : Int32) (60000 : Int32) h9) fun v33 h32 => sI h32 r31 0 (8 : Int32) v33 fun h34 => f_X7_readStatement_B249 h34)) else (if x1 = (5 : Int32) then (gR h9 x0 6 10 fun r35 => rv_ h9 x0 6 (cl_ (f_X7_number x0 (0 : Int32) (1000 : Int32) h9) fun v37 h36 => sI h36 r35 0 (9 : Int32) v37 fun h38 => f_X7_readStatement_B249 h38)) else gR h9 x0 6 10 fun r39 => rv_ h9 x0 6 (cl_ (f_X7_number x0 (0 : Int32) (2147483647 : Int32) h9) fun v41 h40 => sI h40 r39 0 (1 : Int32) v41 fun h42 => f_X7_readStatement_B249 h42)))))))) else (some ((), h)))
theorem pf_X7_readStatement_B53 {Γ : GX} {D : va_G} {h0 : PH} {o : Unit × PH} (x0 : Option Nat) (x1 : Int32) (h : PH) (hf : f_X7_readStatement_B53 x0 x1 h = some o) : PF Γ mi_X7_readStatement D h0 (QR Γ D h0 (ovv o.1) o.2) h 53 [some (va_rf x0), some (.int x1)] [] := by
  refine j_aload_n 0 dX7_readStatement_53 rfl rfl ?_
  refine j_gI (ci := 6) (k := 7) rfl in_X7 rfl q2209 dX7_readStatement_54 hf (fun v7 hf => ?_)
  refine j_if_eq 61 dX7_readStatement_57 (by decide) hf (fun c_ hf => ?_) (fun c_ hf => ?_)
  · refine j_aload_n 0 dX7_readStatement_61 rfl rfl ?_
    refine j_dup dX7_readStatement_62 (va_rf_cat _) ?_
    refine j_gI (ci := 6) (k := 9) rfl in_X7 rfl q2211 dX7_readStatement_63 hf (fun v8 hf => ?_)
    refine j_iconst (1 : Int32) dX7_readStatement_66 (by decide) ?_
    refine j_iload_n 1 dX7_readStatement_67 rfl rfl ?_
    refine j_ishl dX7_readStatement_68 ?_
    refine j_ior dX7_readStatement_69 ?_
    refine j_pV (ci := 6) (k := 9) tyX7 tyX7_ok nmX7 rfl in_X7 rfl q2211 (Or.inl rfl) rfl (fit_i _) dX7_readStatement_70 hf (fun h9 hf => ?_)
    refine j_iload_n 1 dX7_readStatement_73 rfl rfl ?_
    refine j_case (0 : Int32) hf (fun hf => ?_) (fun c0 hf => ?_)
    · refine j_tableIn 112 dX7_readStatement_74 (by decide) (by decide) rfl (by decide) ?_
      refine j_aload_n 0 dX7_readStatement_112 rfl rfl ?_
      refine j_gR (ci := 6) (k := 10) rfl in_X7 rfl q2212 dX7_readStatement_113 hf (fun r10 hf => ?_)
      refine j_iconst (3 : Int32) dX7_readStatement_116 (by decide) ?_
      refine j_aload_n 0 dX7_readStatement_117 rfl rfl ?_
      refine j_sipush (900 : Int32) dX7_readStatement_118 (by decide) ?_
      refine j_sipush (1100 : Int32) dX7_readStatement_121 (by decide) ?_
      refine kc_X7_134 rfl rfl rfl (by simp [va_rf_cat, cat_i, cat_l]) dX7_readStatement_124 hf (fun v12 h11 hf => ?_)
      refine j_iast dX7_readStatement_127 hf (fun h13 hf => ?_)
      refine j_aload_n 0 dX7_readStatement_128 rfl rfl ?_
      refine j_gR (ci := 6) (k := 10) rfl in_X7 rfl q2212 dX7_readStatement_129 hf (fun r14 hf => ?_)
      refine j_iconst (4 : Int32) dX7_readStatement_132 (by decide) ?_
      refine j_aload_n 0 dX7_readStatement_133 rfl rfl ?_
      refine j_iconst (0 : Int32) dX7_readStatement_134 (by decide) ?_
      refine j_ldc q2321 dX7_readStatement_135 ?_
      refine kc_X7_134 rfl rfl rfl (by simp [va_rf_cat, cat_i, cat_l]) dX7_readStatement_137 hf (fun v16 h15 hf => ?_)
      refine j_iast dX7_readStatement_140 hf (fun h17 hf => ?_)
      refine j_goto 249 dX7_readStatement_141 (by decide) ?_
      refine j_weak [none, none] (Wk.s (Wk.s Wk.n)) ?_
      exact pf_X7_readStatement_B249  h17 hf
    refine j_case (1 : Int32) hf (fun hf => ?_) (fun c1 hf => ?_)
    · refine j_tableIn 144 dX7_readStatement_74 (by decide) (by decide) rfl (by decide) ?_
      refine j_aload_n 0 dX7_readStatement_144 rfl rfl ?_
      refine kc_X7_139 rfl rfl rfl (by decide) dX7_readStatement_145 hf (fun _u h18 hf => ?_)
      refine j_goto 249 dX7_readStatement_148 (by decide) ?_
      refine j_weak [none, none] (Wk.s (Wk.s Wk.n)) ?_
      exact pf_X7_readStatement_B249  h18 hf
    refine j_case (2 : Int32) hf (fun hf => ?_) (fun c2 hf => ?_)
    · refine j_tableIn 151 dX7_readStatement_74 (by decide) (by decide) rfl (by decide) ?_
      refine j_aload_n 0 dX7_readStatement_151 rfl rfl ?_
      refine j_gR (ci := 6) (k := 10) rfl in_X7 rfl q2212 dX7_readStatement_152 hf (fun r19 hf => ?_)
      refine j_iconst (5 : Int32) dX7_readStatement_155 (by decide) ?_
      refine j_aload_n 0 dX7_readStatement_156 rfl rfl ?_
      refine j_bipush (100 : Int32) dX7_readStatement_157 (by decide) ?_
      refine j_ldc q2326 dX7_readStatement_159 ?_
      refine kc_X7_134 rfl rfl rfl (by simp [va_rf_cat, cat_i, cat_l]) dX7_readStatement_161 hf (fun v21 h20 hf => ?_)
      refine j_iast dX7_readStatement_164 hf (fun h22 hf => ?_)
      refine j_aload_n 0 dX7_readStatement_165 rfl rfl ?_
      refine j_gR (ci := 6) (k := 10) rfl in_X7 rfl q2212 dX7_readStatement_166 hf (fun r23 hf => ?_)
      refine j_bipush (6 : Int32) dX7_readStatement_169 (by decide) ?_
      refine j_aload_n 0 dX7_readStatement_171 rfl rfl ?_
      refine j_iconst (0 : Int32) dX7_readStatement_172 (by decide) ?_
      refine j_bipush (100 : Int32) dX7_readStatement_173 (by decide) ?_
      refine kc_X7_134 rfl rfl rfl (by simp [va_rf_cat, cat_i, cat_l]) dX7_readStatement_175 hf (fun v25 h24 hf => ?_)
      refine j_iast dX7_readStatement_178 hf (fun h26 hf => ?_)
      refine j_goto 249 dX7_readStatement_179 (by decide) ?_
      refine j_weak [none, none] (Wk.s (Wk.s Wk.n)) ?_
      exact pf_X7_readStatement_B249  h26 hf
    refine j_case (3 : Int32) hf (fun hf => ?_) (fun c3 hf => ?_)
    · refine j_tableIn 182 dX7_readStatement_74 (by decide) (by decide) rfl (by decide) ?_
      refine j_aload_n 0 dX7_readStatement_182 rfl rfl ?_
      refine j_gR (ci := 6) (k := 10) rfl in_X7 rfl q2212 dX7_readStatement_183 hf (fun r27 hf => ?_)
      refine j_bipush (7 : Int32) dX7_readStatement_186 (by decide) ?_
      refine j_aload_n 0 dX7_readStatement_188 rfl rfl ?_
      refine j_bipush (50 : Int32) dX7_readStatement_189 (by decide) ?_
      refine j_ldc q2326 dX7_readStatement_191 ?_
      refine kc_X7_134 rfl rfl rfl (by simp [va_rf_cat, cat_i, cat_l]) dX7_readStatement_193 hf (fun v29 h28 hf => ?_)
      refine j_iast dX7_readStatement_196 hf (fun h30 hf => ?_)
      refine j_goto 249 dX7_readStatement_197 (by decide) ?_
      refine j_weak [none, none] (Wk.s (Wk.s Wk.n)) ?_
      exact pf_X7_readStatement_B249  h30 hf
    refine j_case (4 : Int32) hf (fun hf => ?_) (fun c4 hf => ?_)
    · refine j_tableIn 200 dX7_readStatement_74 (by decide) (by decide) rfl (by decide) ?_
      refine j_aload_n 0 dX7_readStatement_200 rfl rfl ?_
      refine j_gR (ci := 6) (k := 10) rfl in_X7 rfl q2212 dX7_readStatement_201 hf (fun r31 hf => ?_)
      refine j_bipush (8 : Int32) dX7_readStatement_204 (by decide) ?_
      refine j_aload_n 0 dX7_readStatement_206 rfl rfl ?_
      refine j_bipush (50 : Int32) dX7_readStatement_207 (by decide) ?_
      refine j_ldc q2326 dX7_readStatement_209 ?_
      refine kc_X7_134 rfl rfl rfl (by simp [va_rf_cat, cat_i, cat_l]) dX7_readStatement_211 hf (fun v33 h32 hf => ?_)
      refine j_iast dX7_readStatement_214 hf (fun h34 hf => ?_)
      refine j_goto 249 dX7_readStatement_215 (by decide) ?_
      refine j_weak [none, none] (Wk.s (Wk.s Wk.n)) ?_
      exact pf_X7_readStatement_B249  h34 hf
    refine j_case (5 : Int32) hf (fun hf => ?_) (fun c5 hf => ?_)
    · refine j_tableIn 218 dX7_readStatement_74 (by decide) (by decide) rfl (by decide) ?_
      refine j_aload_n 0 dX7_readStatement_218 rfl rfl ?_
      refine j_gR (ci := 6) (k := 10) rfl in_X7 rfl q2212 dX7_readStatement_219 hf (fun r35 hf => ?_)
      refine j_bipush (9 : Int32) dX7_readStatement_222 (by decide) ?_
      refine j_aload_n 0 dX7_readStatement_224 rfl rfl ?_
      refine j_iconst (0 : Int32) dX7_readStatement_225 (by decide) ?_
      refine j_sipush (1000 : Int32) dX7_readStatement_226 (by decide) ?_
      refine kc_X7_134 rfl rfl rfl (by simp [va_rf_cat, cat_i, cat_l]) dX7_readStatement_229 hf (fun v37 h36 hf => ?_)
      refine j_iast dX7_readStatement_232 hf (fun h38 hf => ?_)
      refine j_goto 249 dX7_readStatement_233 (by decide) ?_
      refine j_weak [none, none] (Wk.s (Wk.s Wk.n)) ?_
      exact pf_X7_readStatement_B249  h38 hf
    refine j_tableOut 236 dX7_readStatement_74 (by have z0 := lv_neT (a := (0)) c0 (by decide); have z1 := lv_neT (a := (1)) c1 (by decide); have z2 := lv_neT (a := (2)) c2 (by decide); have z3 := lv_neT (a := (3)) c3 (by decide); have z4 := lv_neT (a := (4)) c4 (by decide); have z5 := lv_neT (a := (5)) c5 (by decide); omega) (by decide) ?_
    refine j_aload_n 0 dX7_readStatement_236 rfl rfl ?_
    refine j_gR (ci := 6) (k := 10) rfl in_X7 rfl q2212 dX7_readStatement_237 hf (fun r39 hf => ?_)
    refine j_iconst (1 : Int32) dX7_readStatement_240 (by decide) ?_
    refine j_aload_n 0 dX7_readStatement_241 rfl rfl ?_
    refine j_iconst (0 : Int32) dX7_readStatement_242 (by decide) ?_
    refine j_ldc q2327 dX7_readStatement_243 ?_
    refine kc_X7_134 rfl rfl rfl (by simp [va_rf_cat, cat_i, cat_l]) dX7_readStatement_245 hf (fun v41 h40 hf => ?_)
    refine j_iast dX7_readStatement_248 hf (fun h42 hf => ?_)
    refine j_weak [none, none] (Wk.s (Wk.s Wk.n)) ?_
    exact pf_X7_readStatement_B249  h42 hf
  · have e9 := Option.some.inj hf
    subst e9
    exact j_vret rfl dX7_readStatement_60
def f_X7_readStatement_B48 (x0 : Option Nat) (x1 : Int32) (h : PH) : Option (Unit × PH) := rv_ h x0 6 (cl_ (f_X7_fails x0 (3 : Int32) h) fun _u h43 => f_X7_readStatement_B53 x0 x1 h43)
theorem pf_X7_readStatement_B48 {Γ : GX} {D : va_G} {h0 : PH} {o : Unit × PH} (x0 : Option Nat) (x1 : Int32) (h : PH) (hf : f_X7_readStatement_B48 x0 x1 h = some o) : PF Γ mi_X7_readStatement D h0 (QR Γ D h0 (ovv o.1) o.2) h 48 [some (va_rf x0), some (.int x1)] [] := by
  refine j_aload_n 0 dX7_readStatement_48 rfl rfl ?_
  refine j_iconst (3 : Int32) dX7_readStatement_49 (by decide) ?_
  refine kc_X7_114 rfl rfl rfl (by decide) dX7_readStatement_50 hf (fun _u h43 hf => ?_)
  exact pf_X7_readStatement_B53 x0 x1 h43 hf
def f_X7_readStatement (r0 : Option Nat) (h0 : PH) : Option (Unit × PH) := rv_ h0 r0 6 (cl_ (f_X7_word r0 h0) fun v2 h1 => (if 0 ≤ v2 then ((if v2 = (1 : Int32) then (gR h1 r0 6 10 fun r4 => aI h1 r4 0 (2 : Int32) fun v5 => (if v5 = (6 : Int32) then (f_X7_readStatement_B48 r0 v2 h1) else (f_X7_readStatement_B53 r0 v2 h1))) else (gI h1 r0 6 9 fun v3 => (if ((v3 >>> (v2 &&& 31)) &&& (1 : Int32)) = (1 : Int32) then (f_X7_readStatement_B48 r0 v2 h1) else (f_X7_readStatement_B53 r0 v2 h1))))) else (rv_ h1 r0 6 (cl_ (f_X7_fails r0 (1 : Int32) h1) fun _u h6 => f_X7_readStatement_B53 r0 v2 h6))))
theorem hyS_X7_readStatement : yX7_readStatement.cls ≠ "java/lang/invoke/MethodHandle" ∧ yX7_readStatement.cls ≠ "java/lang/invoke/VarHandle" ∧ (parseMethodDescriptor yX7_readStatement.desc).map (fun d => d.parameters.length) = some 0 := by decide +kernel
theorem hyV_X7_readStatement : yX7_readStatement.cls = RX7 ∧ yX7_readStatement.cls ≠ "java/lang/invoke/MethodHandle" ∧ yX7_readStatement.cls ≠ "java/lang/invoke/VarHandle" ∧ (parseMethodDescriptor yX7_readStatement.desc).map (fun d => d.parameters.length) = some 0 := by decide +kernel
theorem c_X7_readStatement {D : va_G} (r0 : Option Nat) {h0 : PH} (l : Launch) (hl : l.stackTraces = false) (x : Unit) (h1 : PH) (hf : f_X7_readStatement r0 h0 = some (x, h1)) : CT l D yX7_readStatement (ws_ yX7_readStatement cX7_readStatement 2 none) 5 108 [va_rf r0] h0 (ovv x) h1 := by
  refine ct_of hl [some (va_rf r0), none] (by decide) (by rw [lgl]; simp [va_rf_cat, cat_i, cat_l]) (by simp [lv_args, vsL, va_rf_cat, cat_i, cat_l]) (fun Γ => ?_)
  obtain ⟨o, ho⟩ : ∃ o : Unit × PH, o = (x, h1) := ⟨_, rfl⟩
  rw [← ho] at hf
  have e1 : x = o.1 := by rw [ho]
  have e2 : h1 = o.2 := by rw [ho]
  subst e1 e2
  clear ho
  show PF Γ mi_X7_readStatement D h0 (QR Γ D h0 (ovv o.1) o.2) h0 0 [some (va_rf r0), none] []
  unfold f_X7_readStatement at hf
  refine j_aload_n 0 dX7_readStatement_0 rfl rfl ?_
  refine kc_X7_128 rfl rfl rfl (by decide) dX7_readStatement_1 hf (fun v2 h1 hf => ?_)
  refine j_istore_n 1 [some (va_rf r0), some (.int v2)] dX7_readStatement_4 rfl (cz (va_rf_cat _)) rfl rfl ?_
  refine j_iload_n 1 dX7_readStatement_5 rfl rfl ?_
  refine j_if_ge 17 dX7_readStatement_6 (by decide) hf (fun c_ hf => ?_) (fun c_ hf => ?_)
  · refine j_iload_n 1 dX7_readStatement_17 rfl rfl ?_
    refine j_iconst (1 : Int32) dX7_readStatement_18 (by decide) ?_
    refine j_icmp_ne 36 dX7_readStatement_19 (by decide) hf (fun c_ hf => ?_) (fun c_ hf => ?_)
    · refine j_aload_n 0 dX7_readStatement_36 rfl rfl ?_
      refine j_gI (ci := 6) (k := 9) rfl in_X7 rfl q2211 dX7_readStatement_37 hf (fun v3 hf => ?_)
      refine j_iload_n 1 dX7_readStatement_40 rfl rfl ?_
      refine j_ishr dX7_readStatement_41 ?_
      refine j_iconst (1 : Int32) dX7_readStatement_42 (by decide) ?_
      refine j_iand dX7_readStatement_43 ?_
      refine j_iconst (1 : Int32) dX7_readStatement_44 (by decide) ?_
      refine j_icmp_ne 53 dX7_readStatement_45 (by decide) hf (fun c_ hf => ?_) (fun c_ hf => ?_)
      · exact pf_X7_readStatement_B53 r0 v2 h1 hf
      · exact pf_X7_readStatement_B48 r0 v2 h1 hf
    · refine j_aload_n 0 dX7_readStatement_22 rfl rfl ?_
      refine j_gR (ci := 6) (k := 10) rfl in_X7 rfl q2212 dX7_readStatement_23 hf (fun r4 hf => ?_)
      refine j_iconst (2 : Int32) dX7_readStatement_26 (by decide) ?_
      refine j_iald dX7_readStatement_27 hf (fun v5 hf => ?_)
      refine j_bipush (6 : Int32) dX7_readStatement_28 (by decide) ?_
      refine j_icmp_ne 53 dX7_readStatement_30 (by decide) hf (fun c_ hf => ?_) (fun c_ hf => ?_)
      · exact pf_X7_readStatement_B53 r0 v2 h1 hf
      · refine j_goto 48 dX7_readStatement_33 (by decide) ?_
        exact pf_X7_readStatement_B48 r0 v2 h1 hf
  · refine j_aload_n 0 dX7_readStatement_9 rfl rfl ?_
    refine j_iconst (1 : Int32) dX7_readStatement_10 (by decide) ?_
    refine kc_X7_114 rfl rfl rfl (by decide) dX7_readStatement_11 hf (fun _u h6 hf => ?_)
    refine j_goto 53 dX7_readStatement_14 (by decide) ?_
    exact pf_X7_readStatement_B53 r0 v2 h6 hf
theorem kc_X7_235 {Γ : GX} {I : MI} {D : va_G} {h0 : PH} {Q : State → Prop} {h : PH} {pc : Nat} {vs : List (Option Value)} {rest : List Value} {β : Type} {o : β} {r : Option Nat} {p0 : Int32} {p1 : Int32} {p2 : Int32} {p3 : Int32} {p4 : Int32} {K : ((Unit) → PH → Option β)} (hI : I.2.2.1 = RX7) (hfr : Nat.ble 5 I.2.2.2.2.2.1 = true) (hlo : Nat.ble 120 I.2.2.2.2.2.2.1 = true) (hW : (rest.map fun v => v.category).sum ≤ 8) (hd : decode I.1 pc = .ok (.invokevirtual 235, 3)) (hf : rv_ h r 6 (cl_ (f_X7_handles r p0 p1 p2 p3 p4 h) K) = some o) (kk : ∀ (x : Unit) (h1 : PH), K x h1 = some o → PF Γ I D h0 Q h1 (pc + 3) vs (rest)) : PF Γ I D h0 Q h pc vs (.int p4 :: .int p3 :: .int p2 :: .int p1 :: .int p0 :: va_rf r :: rest) := by
  obtain ⟨cc, nL, own, rt, xt, fr, lo, nm⟩ := I
  cases hI
  exact j_cVv (n := 5) (y := yX7_handles) (cc2 := cX7_handles) (As := [.int p0, .int p1, .int p2, .int p3, .int p4]) (C := RX7) (ci := 6) rfl (lw_V q2428 q2430 qs61 q117 q2431) hyV_X7_handles hfr hlo rfl hW hd (c_X7_handles r p0 p1 p2 p3 p4) hf _ rfl kk
abbrev mi_X7_arrives : MI := (cX7_arrives, 9, RX7, (Option.some FieldType.boolean), [], 5, 120, "arrives")
def f_X7_arrives_B208  (h : PH) : Option (Int32 × PH) := rN .boolean (1 : Int32) (fun v => v) h
theorem pf_X7_arrives_B208 {Γ : GX} {D : va_G} {h0 : PH} {o : Int32 × PH}  (h : PH) (hf : f_X7_arrives_B208  h = some o) : PF Γ mi_X7_arrives D h0 (QR Γ D h0 (ovi o.1) o.2) h 208 [none, none, none, none, none, none, none, none, none] [] := by
  refine j_iconst (1 : Int32) dX7_arrives_208 (by decide) ?_
  obtain ⟨hn9, hf⟩ := rN_in hf
  subst hf
  exact j_zret rfl (nar_z _ hn9) dX7_arrives_209
def f_X7_arrives_B176 (x0 : Option Nat) (x3 : Int32) (x4 : Int32) (x5 : Int32) (x6 : Int32) (x7 : Int32) (x8 : Int32) (h : PH) : Option (Int32 × PH) := (if x8 = 0 then (rv_ h x0 6 (cl_ (f_X7_handles x0 x3 x4 x5 x6 x7 h) fun _u h29 => f_X7_arrives_B208 h29)) else (gR h x0 6 0 fun r30 => aI h r30 0 (16 : Int32) fun v31 => sI h r30 0 (16 : Int32) (v31 + (1 : Int32)) fun h32 => f_X7_arrives_B208 h32))
theorem pf_X7_arrives_B176 {Γ : GX} {D : va_G} {h0 : PH} {o : Int32 × PH} (x0 : Option Nat) (x3 : Int32) (x4 : Int32) (x5 : Int32) (x6 : Int32) (x7 : Int32) (x8 : Int32) (h : PH) (hf : f_X7_arrives_B176 x0 x3 x4 x5 x6 x7 x8 h = some o) : PF Γ mi_X7_arrives D h0 (QR Γ D h0 (ovi o.1) o.2) h 176 [some (va_rf x0), none, none, some (.int x3), some (.int x4), some (.int x5), some (.int x6), some (.int x7), some (.int x8)] [] := by
  refine j_iload dX7_arrives_176 rfl ?_
  refine j_if_eq 195 dX7_arrives_178 (by decide) hf (fun c_ hf => ?_) (fun c_ hf => ?_)
  · refine j_aload_n 0 dX7_arrives_195 rfl rfl ?_
    refine j_iload_n 3 dX7_arrives_196 rfl rfl ?_
    refine j_iload dX7_arrives_197 rfl ?_
    refine j_iload dX7_arrives_199 rfl ?_
    refine j_iload dX7_arrives_201 rfl ?_
    refine j_iload dX7_arrives_203 rfl ?_
    refine kc_X7_235 rfl rfl rfl (by decide) dX7_arrives_205 hf (fun _u h29 hf => ?_)
    refine j_weak [none, none, none, none, none, none, none, none, none] (Wk.s (Wk.k (Wk.k (Wk.s (Wk.s (Wk.s (Wk.s (Wk.s (Wk.s Wk.n))))))))) ?_
    exact pf_X7_arrives_B208  h29 hf
  · refine j_aload_n 0 dX7_arrives_181 rfl rfl ?_
    refine j_gR (ci := 6) (k := 0) rfl in_X7 rfl q2202 dX7_arrives_182 hf (fun r30 hf => ?_)
    refine j_bipush (16 : Int32) dX7_arrives_185 (by decide) ?_
    refine j_dup2 dX7_arrives_187 rfl (va_rf_cat _) ?_
    refine j_iald dX7_arrives_188 hf (fun v31 hf => ?_)
    refine j_iconst (1 : Int32) dX7_arrives_189 (by decide) ?_
    refine j_iadd dX7_arrives_190 ?_
    refine j_iast dX7_arrives_191 hf (fun h32 hf => ?_)
    refine j_goto 208 dX7_arrives_192 (by decide) ?_
    refine j_weak [none, none, none, none, none, none, none, none, none] (Wk.s (Wk.k (Wk.k (Wk.s (Wk.s (Wk.s (Wk.s (Wk.s (Wk.s Wk.n))))))))) ?_
    exact pf_X7_arrives_B208  h32 hf
def f_X7_arrives_B173 (x0 : Option Nat) (x3 : Int32) (x4 : Int32) (x5 : Int32) (x6 : Int32) (x7 : Int32) (x8 : Int32) (t0 : Option Nat) (t1 : Int32) (h : PH) : Option (Int32 × PH) := pV h t0 6 14 (.int t1) fun h33 => f_X7_arrives_B176 x0 x3 x4 x5 x6 x7 x8 h33
theorem pf_X7_arrives_B173 {Γ : GX} {D : va_G} {h0 : PH} {o : Int32 × PH} (x0 : Option Nat) (x3 : Int32) (x4 : Int32) (x5 : Int32) (x6 : Int32) (x7 : Int32) (x8 : Int32) (t0 : Option Nat) (t1 : Int32) (h : PH) (hf : f_X7_arrives_B173 x0 x3 x4 x5 x6 x7 x8 t0 t1 h = some o) : PF Γ mi_X7_arrives D h0 (QR Γ D h0 (ovi o.1) o.2) h 173 [some (va_rf x0), none, none, some (.int x3), some (.int x4), some (.int x5), some (.int x6), some (.int x7), some (.int x8)] [.int t1, va_rf t0] := by
  refine j_pV (ci := 6) (k := 14) tyX7 tyX7_ok nmX7 rfl in_X7 rfl q2216 (Or.inl rfl) rfl (fit_i _) dX7_arrives_173 hf (fun h33 hf => ?_)
  exact pf_X7_arrives_B176 x0 x3 x4 x5 x6 x7 x8 h33 hf
def f_X7_arrives_B132 (x0 : Option Nat) (x2 : Int32) (x3 : Int32) (x4 : Int32) (x5 : Int32) (x6 : Int32) (x7 : Int32) (x8 : Int32) (h : PH) : Option (Int32 × PH) := gR h x0 6 0 fun r25 => sI h r25 0 x2 (0 : Int32) fun h26 => (if x7 = (-7 : Int32) then ((if x8 = 0 then (gR h26 x0 6 0 fun r27 => aI h26 r27 0 (14 : Int32) fun v28 => (if v28 ≤ x5 then (f_X7_arrives_B173 x0 x3 x4 x5 x6 x7 x8 x0 (0 : Int32) h26) else (f_X7_arrives_B173 x0 x3 x4 x5 x6 x7 x8 x0 (1 : Int32) h26))) else (f_X7_arrives_B173 x0 x3 x4 x5 x6 x7 x8 x0 (2 : Int32) h26))) else (f_X7_arrives_B176 x0 x3 x4 x5 x6 x7 x8 h26))
theorem pf_X7_arrives_B132 {Γ : GX} {D : va_G} {h0 : PH} {o : Int32 × PH} (x0 : Option Nat) (x2 : Int32) (x3 : Int32) (x4 : Int32) (x5 : Int32) (x6 : Int32) (x7 : Int32) (x8 : Int32) (h : PH) (hf : f_X7_arrives_B132 x0 x2 x3 x4 x5 x6 x7 x8 h = some o) : PF Γ mi_X7_arrives D h0 (QR Γ D h0 (ovi o.1) o.2) h 132 [some (va_rf x0), none, some (.int x2), some (.int x3), some (.int x4), some (.int x5), some (.int x6), some (.int x7), some (.int x8)] [] := by
  refine j_aload_n 0 dX7_arrives_132 rfl rfl ?_
  refine j_gR (ci := 6) (k := 0) rfl in_X7 rfl q2202 dX7_arrives_133 hf (fun r25 hf => ?_)
  refine j_iload_n 2 dX7_arrives_136 rfl rfl ?_
  refine j_iconst (0 : Int32) dX7_arrives_137 (by decide) ?_
  refine j_iast dX7_arrives_138 hf (fun h26 hf => ?_)
  refine j_iload dX7_arrives_139 rfl ?_
  refine j_bipush (-7 : Int32) dX7_arrives_141 (by decide) ?_
  refine j_icmp_ne 176 dX7_arrives_143 (by decide) hf (fun c_ hf => ?_) (fun c_ hf => ?_)
  · refine j_weak [some (va_rf x0), none, none, some (.int x3), some (.int x4), some (.int x5), some (.int x6), some (.int x7), some (.int x8)] (Wk.k (Wk.k (Wk.s (Wk.k (Wk.k (Wk.k (Wk.k (Wk.k (Wk.k Wk.n))))))))) ?_
    exact pf_X7_arrives_B176 x0 x3 x4 x5 x6 x7 x8 h26 hf
  · refine j_aload_n 0 dX7_arrives_146 rfl rfl ?_
    refine j_iload dX7_arrives_147 rfl ?_
    refine j_if_eq 156 dX7_arrives_149 (by decide) hf (fun c_ hf => ?_) (fun c_ hf => ?_)
    · refine j_iload dX7_arrives_156 rfl ?_
      refine j_aload_n 0 dX7_arrives_158 rfl rfl ?_
      refine j_gR (ci := 6) (k := 0) rfl in_X7 rfl q2202 dX7_arrives_159 hf (fun r27 hf => ?_)
      refine j_bipush (14 : Int32) dX7_arrives_162 (by decide) ?_
      refine j_iald dX7_arrives_164 hf (fun v28 hf => ?_)
      refine j_icmp_ge 172 dX7_arrives_165 (by decide) hf (fun c_ hf => ?_) (fun c_ hf => ?_)
      · refine j_iconst (0 : Int32) dX7_arrives_172 (by decide) ?_
        refine j_weak [some (va_rf x0), none, none, some (.int x3), some (.int x4), some (.int x5), some (.int x6), some (.int x7), some (.int x8)] (Wk.k (Wk.k (Wk.s (Wk.k (Wk.k (Wk.k (Wk.k (Wk.k (Wk.k Wk.n))))))))) ?_
        exact pf_X7_arrives_B173 x0 x3 x4 x5 x6 x7 x8 x0 (0 : Int32) h26 hf
      · refine j_iconst (1 : Int32) dX7_arrives_168 (by decide) ?_
        refine j_goto 173 dX7_arrives_169 (by decide) ?_
        refine j_weak [some (va_rf x0), none, none, some (.int x3), some (.int x4), some (.int x5), some (.int x6), some (.int x7), some (.int x8)] (Wk.k (Wk.k (Wk.s (Wk.k (Wk.k (Wk.k (Wk.k (Wk.k (Wk.k Wk.n))))))))) ?_
        exact pf_X7_arrives_B173 x0 x3 x4 x5 x6 x7 x8 x0 (1 : Int32) h26 hf
    · refine j_iconst (2 : Int32) dX7_arrives_152 (by decide) ?_
      refine j_goto 173 dX7_arrives_153 (by decide) ?_
      refine j_weak [some (va_rf x0), none, none, some (.int x3), some (.int x4), some (.int x5), some (.int x6), some (.int x7), some (.int x8)] (Wk.k (Wk.k (Wk.s (Wk.k (Wk.k (Wk.k (Wk.k (Wk.k (Wk.k Wk.n))))))))) ?_
      exact pf_X7_arrives_B173 x0 x3 x4 x5 x6 x7 x8 x0 (2 : Int32) h26 hf
def f_X7_arrives_B91 (x0 : Option Nat) (x2 : Int32) (x3 : Int32) (x4 : Int32) (x5 : Int32) (x6 : Int32) (x7 : Int32) (t0 : Int32) (h : PH) : Option (Int32 × PH) := (if t0 = 0 then (rv_ h x0 6 (cl_ (f_X7_isToNode x0 x3 h) fun v18 h17 => (if v18 = 0 then (f_X7_arrives_B132 x0 x2 x3 x4 x5 x6 x7 t0 h17) else (rv_ h17 x0 6 (cl_ (f_X7_isPaused x0 x4 h17) fun v20 h19 => (if v20 = 0 then (f_X7_arrives_B132 x0 x2 x3 x4 x5 x6 x7 t0 h19) else (gR h19 x0 6 0 fun r21 => rv_ h19 x0 6 (cl_ (f_X7_of x0 x4 (4 : Int32) h19) fun v23 h22 => sI h22 r21 0 (x2 + (2 : Int32)) v23 fun h24 => rN .boolean (0 : Int32) (fun v => v) h24)))))))) else (f_X7_arrives_B132 x0 x2 x3 x4 x5 x6 x7 t0 h))
theorem pf_X7_arrives_B91 {Γ : GX} {D : va_G} {h0 : PH} {o : Int32 × PH} (x0 : Option Nat) (x2 : Int32) (x3 : Int32) (x4 : Int32) (x5 : Int32) (x6 : Int32) (x7 : Int32) (t0 : Int32) (h : PH) (hf : f_X7_arrives_B91 x0 x2 x3 x4 x5 x6 x7 t0 h = some o) : PF Γ mi_X7_arrives D h0 (QR Γ D h0 (ovi o.1) o.2) h 91 [some (va_rf x0), none, some (.int x2), some (.int x3), some (.int x4), some (.int x5), some (.int x6), some (.int x7), none] [.int t0] := by
  refine j_istore [some (va_rf x0), none, some (.int x2), some (.int x3), some (.int x4), some (.int x5), some (.int x6), some (.int x7), some (.int t0)] dX7_arrives_91 (cz rfl) rfl rfl ?_
  refine j_iload dX7_arrives_93 rfl ?_
  refine j_if_ne 132 dX7_arrives_95 (by decide) hf (fun c_ hf => ?_) (fun c_ hf => ?_)
  · exact pf_X7_arrives_B132 x0 x2 x3 x4 x5 x6 x7 t0 h hf
  · refine j_aload_n 0 dX7_arrives_98 rfl rfl ?_
    refine j_iload_n 3 dX7_arrives_99 rfl rfl ?_
    refine kc_X7_226 rfl rfl rfl (by decide) dX7_arrives_100 hf (fun v18 h17 hf => ?_)
    refine j_if_eq 132 dX7_arrives_103 (by decide) hf (fun c_ hf => ?_) (fun c_ hf => ?_)
    · exact pf_X7_arrives_B132 x0 x2 x3 x4 x5 x6 x7 t0 h17 hf
    · refine j_aload_n 0 dX7_arrives_106 rfl rfl ?_
      refine j_iload dX7_arrives_107 rfl ?_
      refine kc_X7_229 rfl rfl rfl (by decide) dX7_arrives_109 hf (fun v20 h19 hf => ?_)
      refine j_if_eq 132 dX7_arrives_112 (by decide) hf (fun c_ hf => ?_) (fun c_ hf => ?_)
      · exact pf_X7_arrives_B132 x0 x2 x3 x4 x5 x6 x7 t0 h19 hf
      · refine j_aload_n 0 dX7_arrives_115 rfl rfl ?_
        refine j_gR (ci := 6) (k := 0) rfl in_X7 rfl q2202 dX7_arrives_116 hf (fun r21 hf => ?_)
        refine j_iload_n 2 dX7_arrives_119 rfl rfl ?_
        refine j_iconst (2 : Int32) dX7_arrives_120 (by decide) ?_
        refine j_iadd dX7_arrives_121 ?_
        refine j_aload_n 0 dX7_arrives_122 rfl rfl ?_
        refine j_iload dX7_arrives_123 rfl ?_
        refine j_iconst (4 : Int32) dX7_arrives_125 (by decide) ?_
        refine kc_X7_152 rfl rfl rfl (by simp [va_rf_cat, cat_i, cat_l]) dX7_arrives_126 hf (fun v23 h22 hf => ?_)
        refine j_iast dX7_arrives_129 hf (fun h24 hf => ?_)
        refine j_iconst (0 : Int32) dX7_arrives_130 (by decide) ?_
        obtain ⟨hn9, hf⟩ := rN_in hf
        subst hf
        exact j_zret rfl (nar_z _ hn9) dX7_arrives_131
def f_X7_arrives_B86 (x0 : Option Nat) (x2 : Int32) (x3 : Int32) (x4 : Int32) (x5 : Int32) (x6 : Int32) (x7 : Int32) (h : PH) : Option (Int32 × PH) := f_X7_arrives_B91 x0 x2 x3 x4 x5 x6 x7 (1 : Int32) h
theorem pf_X7_arrives_B86 {Γ : GX} {D : va_G} {h0 : PH} {o : Int32 × PH} (x0 : Option Nat) (x2 : Int32) (x3 : Int32) (x4 : Int32) (x5 : Int32) (x6 : Int32) (x7 : Int32) (h : PH) (hf : f_X7_arrives_B86 x0 x2 x3 x4 x5 x6 x7 h = some o) : PF Γ mi_X7_arrives D h0 (QR Γ D h0 (ovi o.1) o.2) h 86 [some (va_rf x0), none, some (.int x2), some (.int x3), some (.int x4), some (.int x5), some (.int x6), some (.int x7), none] [] := by
  refine j_iconst (1 : Int32) dX7_arrives_86 (by decide) ?_
  refine j_goto 91 dX7_arrives_87 (by decide) ?_
  exact pf_X7_arrives_B91 x0 x2 x3 x4 x5 x6 x7 (1 : Int32) h hf
def f_X7_arrives_B90 (x0 : Option Nat) (x2 : Int32) (x3 : Int32) (x4 : Int32) (x5 : Int32) (x6 : Int32) (x7 : Int32) (h : PH) : Option (Int32 × PH) := f_X7_arrives_B91 x0 x2 x3 x4 x5 x6 x7 (0 : Int32) h
theorem pf_X7_arrives_B90 {Γ : GX} {D : va_G} {h0 : PH} {o : Int32 × PH} (x0 : Option Nat) (x2 : Int32) (x3 : Int32) (x4 : Int32) (x5 : Int32) (x6 : Int32) (x7 : Int32) (h : PH) (hf : f_X7_arrives_B90 x0 x2 x3 x4 x5 x6 x7 h = some o) : PF Γ mi_X7_arrives D h0 (QR Γ D h0 (ovi o.1) o.2) h 90 [some (va_rf x0), none, some (.int x2), some (.int x3), some (.int x4), some (.int x5), some (.int x6), some (.int x7), none] [] := by
  refine j_iconst (0 : Int32) dX7_arrives_90 (by decide) ?_
  exact pf_X7_arrives_B91 x0 x2 x3 x4 x5 x6 x7 (0 : Int32) h hf
def f_X7_arrives (r0 : Option Nat) (p0 : Int32) (h0 : PH) : Option (Int32 × PH) := gR h0 r0 6 0 fun r1 => aI h0 r1 0 ((1136 : Int32) + ((6 : Int32) * p0)) fun v2 => gR h0 r0 6 0 fun r3 => aI h0 r3 0 (((1136 : Int32) + ((6 : Int32) * p0)) + (1 : Int32)) fun v4 => gR h0 r0 6 0 fun r5 => aI h0 r5 0 (((1136 : Int32) + ((6 : Int32) * p0)) + (3 : Int32)) fun v6 => gR h0 r0 6 0 fun r7 => aI h0 r7 0 (((1136 : Int32) + ((6 : Int32) * p0)) + (4 : Int32)) fun v8 => gR h0 r0 6 0 fun r9 => aI h0 r9 0 (((1136 : Int32) + ((6 : Int32) * p0)) + (5 : Int32)) fun v10 => rv_ h0 r0 6 (cl_ (f_X7_of r0 v4 (6 : Int32) h0) fun v12 h11 => (if v12 = (1 : Int32) then (f_X7_arrives_B86 r0 ((1136 : Int32) + ((6 : Int32) * p0)) v2 v4 v6 v8 v10 h11) else (rv_ h11 r0 6 (cl_ (f_X7_isToNode r0 v2 h11) fun v14 h13 => (if v14 = 0 then (f_X7_arrives_B90 r0 ((1136 : Int32) + ((6 : Int32) * p0)) v2 v4 v6 v8 v10 h13) else (rv_ h13 r0 6 (cl_ (f_X7_of r0 v4 (3 : Int32) h13) fun v16 h15 => (if v16 = 0 then (f_X7_arrives_B86 r0 ((1136 : Int32) + ((6 : Int32) * p0)) v2 v4 v6 v8 v10 h15) else (f_X7_arrives_B90 r0 ((1136 : Int32) + ((6 : Int32) * p0)) v2 v4 v6 v8 v10 h15)))))))))
theorem hyS_X7_arrives : yX7_arrives.cls ≠ "java/lang/invoke/MethodHandle" ∧ yX7_arrives.cls ≠ "java/lang/invoke/VarHandle" ∧ (parseMethodDescriptor yX7_arrives.desc).map (fun d => d.parameters.length) = some 1 := by decide +kernel
theorem hyV_X7_arrives : yX7_arrives.cls = RX7 ∧ yX7_arrives.cls ≠ "java/lang/invoke/MethodHandle" ∧ yX7_arrives.cls ≠ "java/lang/invoke/VarHandle" ∧ (parseMethodDescriptor yX7_arrives.desc).map (fun d => d.parameters.length) = some 1 := by decide +kernel
theorem c_X7_arrives {D : va_G} (r0 : Option Nat) (p0 : Int32) {h0 : PH} (l : Launch) (hl : l.stackTraces = false) (x : Int32) (h1 : PH) (hf : f_X7_arrives r0 p0 h0 = some (x, h1)) : CT l D yX7_arrives (ws_ yX7_arrives cX7_arrives 9 (Option.some FieldType.boolean)) 5 120 [va_rf r0, .int p0] h0 (ovi x) h1 := by
  refine ct_of hl [some (va_rf r0), some (.int p0), none, none, none, none, none, none, none] (by decide) (by rw [lgl]; simp [va_rf_cat, cat_i, cat_l]) (by simp [lv_args, vsL, va_rf_cat, cat_i, cat_l]) (fun Γ => ?_)
  obtain ⟨o, ho⟩ : ∃ o : Int32 × PH, o = (x, h1) := ⟨_, rfl⟩
  rw [← ho] at hf
  have e1 : x = o.1 := by rw [ho]
  have e2 : h1 = o.2 := by rw [ho]
  subst e1 e2
  clear ho
  show PF Γ mi_X7_arrives D h0 (QR Γ D h0 (ovi o.1) o.2) h0 0 [some (va_rf r0), some (.int p0), none, none, none, none, none, none, none] []
  unfold f_X7_arrives at hf
  refine j_sipush (1136 : Int32) dX7_arrives_0 (by decide) ?_
  refine j_bipush (6 : Int32) dX7_arrives_3 (by decide) ?_
  refine j_iload_n 1 dX7_arrives_5 rfl rfl ?_
  refine j_imul dX7_arrives_6 ?_
  refine j_iadd dX7_arrives_7 ?_
  refine j_istore_n 2 [some (va_rf r0), some (.int p0), some (.int ((1136 : Int32) + ((6 : Int32) * p0))), none, none, none, none, none, none] dX7_arrives_8 rfl (cz rfl) rfl rfl ?_
  refine j_aload_n 0 dX7_arrives_9 rfl rfl ?_
  refine j_gR (ci := 6) (k := 0) rfl in_X7 rfl q2202 dX7_arrives_10 hf (fun r1 hf => ?_)
  refine j_iload_n 2 dX7_arrives_13 rfl rfl ?_
  refine j_iald dX7_arrives_14 hf (fun v2 hf => ?_)
  refine j_istore_n 3 [some (va_rf r0), some (.int p0), some (.int ((1136 : Int32) + ((6 : Int32) * p0))), some (.int v2), none, none, none, none, none] dX7_arrives_15 rfl (cz rfl) rfl rfl ?_
  refine j_aload_n 0 dX7_arrives_16 rfl rfl ?_
  refine j_gR (ci := 6) (k := 0) rfl in_X7 rfl q2202 dX7_arrives_17 hf (fun r3 hf => ?_)
  refine j_iload_n 2 dX7_arrives_20 rfl rfl ?_
  refine j_iconst (1 : Int32) dX7_arrives_21 (by decide) ?_
  refine j_iadd dX7_arrives_22 ?_
  refine j_iald dX7_arrives_23 hf (fun v4 hf => ?_)
  refine j_istore [some (va_rf r0), some (.int p0), some (.int ((1136 : Int32) + ((6 : Int32) * p0))), some (.int v2), some (.int v4), none, none, none, none] dX7_arrives_24 (cz rfl) rfl rfl ?_
  refine j_aload_n 0 dX7_arrives_26 rfl rfl ?_
  refine j_gR (ci := 6) (k := 0) rfl in_X7 rfl q2202 dX7_arrives_27 hf (fun r5 hf => ?_)
  refine j_iload_n 2 dX7_arrives_30 rfl rfl ?_
  refine j_iconst (3 : Int32) dX7_arrives_31 (by decide) ?_
  refine j_iadd dX7_arrives_32 ?_
  refine j_iald dX7_arrives_33 hf (fun v6 hf => ?_)
  refine j_istore [some (va_rf r0), some (.int p0), some (.int ((1136 : Int32) + ((6 : Int32) * p0))), some (.int v2), some (.int v4), some (.int v6), none, none, none] dX7_arrives_34 (cz rfl) rfl rfl ?_
  refine j_aload_n 0 dX7_arrives_36 rfl rfl ?_
  refine j_gR (ci := 6) (k := 0) rfl in_X7 rfl q2202 dX7_arrives_37 hf (fun r7 hf => ?_)
  refine j_iload_n 2 dX7_arrives_40 rfl rfl ?_
  refine j_iconst (4 : Int32) dX7_arrives_41 (by decide) ?_
  refine j_iadd dX7_arrives_42 ?_
  refine j_iald dX7_arrives_43 hf (fun v8 hf => ?_)
  refine j_istore [some (va_rf r0), some (.int p0), some (.int ((1136 : Int32) + ((6 : Int32) * p0))), some (.int v2), some (.int v4), some (.int v6), some (.int v8), none, none] dX7_arrives_44 (cz rfl) rfl rfl ?_
  refine j_aload_n 0 dX7_arrives_46 rfl rfl ?_
  refine j_gR (ci := 6) (k := 0) rfl in_X7 rfl q2202 dX7_arrives_47 hf (fun r9 hf => ?_)
  refine j_iload_n 2 dX7_arrives_50 rfl rfl ?_
  refine j_iconst (5 : Int32) dX7_arrives_51 (by decide) ?_
  refine j_iadd dX7_arrives_52 ?_
  refine j_iald dX7_arrives_53 hf (fun v10 hf => ?_)
  refine j_istore [some (va_rf r0), some (.int p0), some (.int ((1136 : Int32) + ((6 : Int32) * p0))), some (.int v2), some (.int v4), some (.int v6), some (.int v8), some (.int v10), none] dX7_arrives_54 (cz rfl) rfl rfl ?_
  refine j_aload_n 0 dX7_arrives_56 rfl rfl ?_
  refine j_iload dX7_arrives_57 rfl ?_
  refine j_bipush (6 : Int32) dX7_arrives_59 (by decide) ?_
  refine kc_X7_152 rfl rfl rfl (by decide) dX7_arrives_61 hf (fun v12 h11 hf => ?_)
  refine j_iconst (1 : Int32) dX7_arrives_64 (by decide) ?_
  refine j_icmp_eq 86 dX7_arrives_65 (by decide) hf (fun c_ hf => ?_) (fun c_ hf => ?_)
  · refine j_weak [some (va_rf r0), none, some (.int ((1136 : Int32) + ((6 : Int32) * p0))), some (.int v2), some (.int v4), some (.int v6), some (.int v8), some (.int v10), none] (Wk.k (Wk.s (Wk.k (Wk.k (Wk.k (Wk.k (Wk.k (Wk.k (Wk.k Wk.n))))))))) ?_
    exact pf_X7_arrives_B86 r0 ((1136 : Int32) + ((6 : Int32) * p0)) v2 v4 v6 v8 v10 h11 hf
  · refine j_aload_n 0 dX7_arrives_68 rfl rfl ?_
    refine j_iload_n 3 dX7_arrives_69 rfl rfl ?_
    refine kc_X7_226 rfl rfl rfl (by decide) dX7_arrives_70 hf (fun v14 h13 hf => ?_)
    refine j_if_eq 90 dX7_arrives_73 (by decide) hf (fun c_ hf => ?_) (fun c_ hf => ?_)
    · refine j_weak [some (va_rf r0), none, some (.int ((1136 : Int32) + ((6 : Int32) * p0))), some (.int v2), some (.int v4), some (.int v6), some (.int v8), some (.int v10), none] (Wk.k (Wk.s (Wk.k (Wk.k (Wk.k (Wk.k (Wk.k (Wk.k (Wk.k Wk.n))))))))) ?_
      exact pf_X7_arrives_B90 r0 ((1136 : Int32) + ((6 : Int32) * p0)) v2 v4 v6 v8 v10 h13 hf
    · refine j_aload_n 0 dX7_arrives_76 rfl rfl ?_
      refine j_iload dX7_arrives_77 rfl ?_
      refine j_iconst (3 : Int32) dX7_arrives_79 (by decide) ?_
      refine kc_X7_152 rfl rfl rfl (by decide) dX7_arrives_80 hf (fun v16 h15 hf => ?_)
      refine j_if_ne 90 dX7_arrives_83 (by decide) hf (fun c_ hf => ?_) (fun c_ hf => ?_)
      · refine j_weak [some (va_rf r0), none, some (.int ((1136 : Int32) + ((6 : Int32) * p0))), some (.int v2), some (.int v4), some (.int v6), some (.int v8), some (.int v10), none] (Wk.k (Wk.s (Wk.k (Wk.k (Wk.k (Wk.k (Wk.k (Wk.k (Wk.k Wk.n))))))))) ?_
        exact pf_X7_arrives_B90 r0 ((1136 : Int32) + ((6 : Int32) * p0)) v2 v4 v6 v8 v10 h15 hf
      · refine j_weak [some (va_rf r0), none, some (.int ((1136 : Int32) + ((6 : Int32) * p0))), some (.int v2), some (.int v4), some (.int v6), some (.int v8), some (.int v10), none] (Wk.k (Wk.s (Wk.k (Wk.k (Wk.k (Wk.k (Wk.k (Wk.k (Wk.k Wk.n))))))))) ?_
        exact pf_X7_arrives_B86 r0 ((1136 : Int32) + ((6 : Int32) * p0)) v2 v4 v6 v8 v10 h15 hf
theorem kc_X7_144 {Γ : GX} {I : MI} {D : va_G} {h0 : PH} {Q : State → Prop} {h : PH} {pc : Nat} {vs : List (Option Value)} {rest : List Value} {β : Type} {o : β} {r : Option Nat}  {K : ((Unit) → PH → Option β)} (hI : I.2.2.1 = RX7) (hfr : Nat.ble 6 I.2.2.2.2.2.1 = true) (hlo : Nat.ble 129 I.2.2.2.2.2.2.1 = true) (hW : (rest.map fun v => v.category).sum ≤ 8) (hd : decode I.1 pc = .ok (.invokevirtual 144, 3)) (hf : rv_ h r 6 (cl_ (f_X7_readStatement r h) K) = some o) (kk : ∀ (x : Unit) (h1 : PH), K x h1 = some o → PF Γ I D h0 Q h1 (pc + 3) vs (rest)) : PF Γ I D h0 Q h pc vs (va_rf r :: rest) := by
  obtain ⟨cc, nL, own, rt, xt, fr, lo, nm⟩ := I
  cases hI
  exact j_cVv (n := 0) (y := yX7_readStatement) (cc2 := cX7_readStatement) (As := []) (C := RX7) (ci := 6) rfl (lw_V q2278 q2280 qs38 q117 q2281) hyV_X7_readStatement hfr hlo rfl hW hd (c_X7_readStatement r) hf _ rfl kk
abbrev mi_X7_load : MI := (cX7_load, 2, RX7, (Option.some FieldType.int), [], 6, 129, "load")
def f_X7_load_B119 (x0 : Option Nat) (h : PH) : Option (Int32 × PH) := pV h x0 6 3 (.int (0 : Int32)) fun h21 => gI h21 x0 6 7 fun v22 => pV h21 x0 6 8 (.int v22) fun h23 => gI h23 x0 6 7 fun v24 => (if v24 = 0 then (rv_ h23 x0 6 (cl_ (f_X7_takesRead x0 h23) fun _u h25 => gR h25 x0 6 0 fun r26 => aI h25 r26 0 (2 : Int32) fun v27 => some (v27, h25))) else (gI h23 x0 6 6 fun v28 => some (((-100 : Int32) - v28), h23)))
theorem pf_X7_load_B119 {Γ : GX} {D : va_G} {h0 : PH} {o : Int32 × PH} (x0 : Option Nat) (h : PH) (hf : f_X7_load_B119 x0 h = some o) : PF Γ mi_X7_load D h0 (QR Γ D h0 (ovi o.1) o.2) h 119 [some (va_rf x0), none] [] := by
  refine j_aload_n 0 dX7_load_119 rfl rfl ?_
  refine j_iconst (0 : Int32) dX7_load_120 (by decide) ?_
  refine j_pV (ci := 6) (k := 3) tyX7 tyX7_ok nmX7 rfl in_X7 rfl q2205 (Or.inl rfl) rfl (fit_i _) dX7_load_121 hf (fun h21 hf => ?_)
  refine j_aload_n 0 dX7_load_124 rfl rfl ?_
  refine j_aload_n 0 dX7_load_125 rfl rfl ?_
  refine j_gI (ci := 6) (k := 7) rfl in_X7 rfl q2209 dX7_load_126 hf (fun v22 hf => ?_)
  refine j_pV (ci := 6) (k := 8) tyX7 tyX7_ok nmX7 rfl in_X7 rfl q2210 (Or.inl rfl) rfl (fit_i _) dX7_load_129 hf (fun h23 hf => ?_)
  refine j_aload_n 0 dX7_load_132 rfl rfl ?_
  refine j_gI (ci := 6) (k := 7) rfl in_X7 rfl q2209 dX7_load_133 hf (fun v24 hf => ?_)
  refine j_if_eq 147 dX7_load_136 (by decide) hf (fun c_ hf => ?_) (fun c_ hf => ?_)
  · refine j_aload_n 0 dX7_load_147 rfl rfl ?_
    refine kc_X7_62 rfl rfl rfl (by decide) dX7_load_148 hf (fun _u h25 hf => ?_)
    refine j_aload_n 0 dX7_load_151 rfl rfl ?_
    refine j_gR (ci := 6) (k := 0) rfl in_X7 rfl q2202 dX7_load_152 hf (fun r26 hf => ?_)
    refine j_iconst (2 : Int32) dX7_load_155 (by decide) ?_
    refine j_iald dX7_load_156 hf (fun v27 hf => ?_)
    have e9 := Option.some.inj hf
    subst e9
    exact j_iret rfl dX7_load_157
  · refine j_bipush (-100 : Int32) dX7_load_139 (by decide) ?_
    refine j_aload_n 0 dX7_load_141 rfl rfl ?_
    refine j_gI (ci := 6) (k := 6) rfl in_X7 rfl q2208 dX7_load_142 hf (fun v28 hf => ?_)
    refine j_isub dX7_load_145 ?_
    have e9 := Option.some.inj hf
    subst e9
    exact j_iret rfl dX7_load_146
def f_X7_load_B98 (x0 : Option Nat) (h : PH) : Option (Int32 × PH) := gI h x0 6 7 fun v17 => (if v17 = 0 then (gR h x0 6 10 fun r18 => aI h r18 0 (2 : Int32) fun v19 => (if v19 = 0 then (rv_ h x0 6 (cl_ (f_X7_fails x0 (4 : Int32) h) fun _u h20 => f_X7_load_B119 x0 h20)) else (f_X7_load_B119 x0 h))) else (f_X7_load_B119 x0 h))
theorem pf_X7_load_B98 {Γ : GX} {D : va_G} {h0 : PH} {o : Int32 × PH} (x0 : Option Nat) (h : PH) (hf : f_X7_load_B98 x0 h = some o) : PF Γ mi_X7_load D h0 (QR Γ D h0 (ovi o.1) o.2) h 98 [some (va_rf x0), none] [] := by
  refine j_aload_n 0 dX7_load_98 rfl rfl ?_
  refine j_gI (ci := 6) (k := 7) rfl in_X7 rfl q2209 dX7_load_99 hf (fun v17 hf => ?_)
  refine j_if_ne 119 dX7_load_102 (by decide) hf (fun c_ hf => ?_) (fun c_ hf => ?_)
  · exact pf_X7_load_B119 x0 h hf
  · refine j_aload_n 0 dX7_load_105 rfl rfl ?_
    refine j_gR (ci := 6) (k := 10) rfl in_X7 rfl q2212 dX7_load_106 hf (fun r18 hf => ?_)
    refine j_iconst (2 : Int32) dX7_load_109 (by decide) ?_
    refine j_iald dX7_load_110 hf (fun v19 hf => ?_)
    refine j_if_ne 119 dX7_load_111 (by decide) hf (fun c_ hf => ?_) (fun c_ hf => ?_)
    · exact pf_X7_load_B119 x0 h hf
    · refine j_aload_n 0 dX7_load_114 rfl rfl ?_
      refine j_iconst (4 : Int32) dX7_load_115 (by decide) ?_
      refine kc_X7_114 rfl rfl rfl (by decide) dX7_load_116 hf (fun _u h20 hf => ?_)
      exact pf_X7_load_B119 x0 h20 hf
def f_X7_load_B77 (x0 : Option Nat) (h : PH) : Option (Int32 × PH) := gI h x0 6 7 fun v11 => (if v11 = 0 then (rv_ h x0 6 (cl_ (f_X7_here x0 h) fun v13 h12 => (if v13 = (-4 : Int32) then (f_X7_load_B98 x0 h12) else (rv_ h12 x0 6 (cl_ (f_X7_fails x0 (1 : Int32) h12) fun _u h14 => f_X7_load_B98 x0 h14))))) else (f_X7_load_B98 x0 h))
theorem pf_X7_load_B77 {Γ : GX} {D : va_G} {h0 : PH} {o : Int32 × PH} (x0 : Option Nat) (h : PH) (hf : f_X7_load_B77 x0 h = some o) : PF Γ mi_X7_load D h0 (QR Γ D h0 (ovi o.1) o.2) h 77 [some (va_rf x0), none] [] := by
  refine j_aload_n 0 dX7_load_77 rfl rfl ?_
  refine j_gI (ci := 6) (k := 7) rfl in_X7 rfl q2209 dX7_load_78 hf (fun v11 hf => ?_)
  refine j_if_ne 98 dX7_load_81 (by decide) hf (fun c_ hf => ?_) (fun c_ hf => ?_)
  · exact pf_X7_load_B98 x0 h hf
  · refine j_aload_n 0 dX7_load_84 rfl rfl ?_
    refine kc_X7_84 rfl rfl rfl (by decide) dX7_load_85 hf (fun v13 h12 hf => ?_)
    refine j_bipush (-4 : Int32) dX7_load_88 (by decide) ?_
    refine j_icmp_eq 98 dX7_load_90 (by decide) hf (fun c_ hf => ?_) (fun c_ hf => ?_)
    · exact pf_X7_load_B98 x0 h12 hf
    · refine j_aload_n 0 dX7_load_93 rfl rfl ?_
      refine j_iconst (1 : Int32) dX7_load_94 (by decide) ?_
      refine kc_X7_114 rfl rfl rfl (by decide) dX7_load_95 hf (fun _u h14 hf => ?_)
      exact pf_X7_load_B98 x0 h14 hf
def f_X7_load_B59 (k26 : Option Nat → Int32 → PH → Option (Int32 × PH)) (x0 : Option Nat) (t0 : Int32) (h : PH) : Option (Int32 × PH) := (if t0 = 0 then (k26 x0 t0 h) else (gI h x0 6 4 fun v15 => pV h x0 6 4 (.int (v15 + (1 : Int32))) fun h16 => k26 x0 t0 h16))
theorem pf_X7_load_B59 {Γ : GX} {D : va_G} {h0 : PH} {o : Int32 × PH} (k26 : Option Nat → Int32 → PH → Option (Int32 × PH)) (hk26 : ∀ (x0 : Option Nat) (x1 : Int32) (h : PH), k26 x0 x1 h = some o → PF Γ mi_X7_load D h0 (QR Γ D h0 (ovi o.1) o.2) h 26 [some (va_rf x0), some (.int x1)] []) (x0 : Option Nat) (t0 : Int32) (h : PH) (hf : f_X7_load_B59 k26 x0 t0 h = some o) : PF Γ mi_X7_load D h0 (QR Γ D h0 (ovi o.1) o.2) h 59 [some (va_rf x0), none] [.int t0] := by
  refine j_istore_n 1 [some (va_rf x0), some (.int t0)] dX7_load_59 rfl (cz (va_rf_cat _)) rfl rfl ?_
  refine j_iload_n 1 dX7_load_60 rfl rfl ?_
  refine j_if_eq 26 dX7_load_61 (by decide) hf (fun c_ hf => ?_) (fun c_ hf => ?_)
  · exact hk26 x0 t0 h hf
  · refine j_aload_n 0 dX7_load_64 rfl rfl ?_
    refine j_dup dX7_load_65 (va_rf_cat _) ?_
    refine j_gI (ci := 6) (k := 4) rfl in_X7 rfl q2206 dX7_load_66 hf (fun v15 hf => ?_)
    refine j_iconst (1 : Int32) dX7_load_69 (by decide) ?_
    refine j_iadd dX7_load_70 ?_
    refine j_pV (ci := 6) (k := 4) tyX7 tyX7_ok nmX7 rfl in_X7 rfl q2206 (Or.inl rfl) rfl (fit_i _) dX7_load_71 hf (fun h16 hf => ?_)
    refine j_goto 26 dX7_load_74 (by decide) ?_
    exact hk26 x0 t0 h16 hf
def f_X7_load_L26 : Nat → Option Nat → Int32 → PH → Option (Int32 × PH)
  | 0, _, _, _ => none
  | n + 1, x0, x1, h => (if x1 = 0 then (f_X7_load_B77 x0 h) else (gI h x0 6 7 fun v6 => (if v6 = 0 then (rv_ h x0 6 (cl_ (f_X7_readStatement x0 h) fun _u h7 => rv_ h7 x0 6 (cl_ (f_X7_looks x0 h7) fun _u h8 => rv_ h8 x0 6 (cl_ (f_X7_here x0 h8) fun v10 h9 => (if v10 = (59 : Int32) then (f_X7_load_B59 (f_X7_load_L26 n) x0 (1 : Int32) h9) else (f_X7_load_B59 (f_X7_load_L26 n) x0 (0 : Int32) h9)))))) else (f_X7_load_B77 x0 h))))
theorem pf_X7_load_L26 {Γ : GX} {D : va_G} {h0 : PH} {o : Int32 × PH} : ∀ (n : Nat) (x0 : Option Nat) (x1 : Int32) (h : PH), f_X7_load_L26 n x0 x1 h = some o → PF Γ mi_X7_load D h0 (QR Γ D h0 (ovi o.1) o.2) h 26 [some (va_rf x0), some (.int x1)] [] := by
  intro n
  induction n with
  | zero => intro x0 x1 h hf; cases hf
  | succ n ih =>
    intro x0 x1 h hf
    refine j_iload_n 1 dX7_load_26 rfl rfl ?_
    refine j_if_eq 77 dX7_load_27 (by decide) hf (fun c_ hf => ?_) (fun c_ hf => ?_)
    · refine j_weak [some (va_rf x0), none] (Wk.k (Wk.s Wk.n)) ?_
      exact pf_X7_load_B77 x0 h hf
    · refine j_aload_n 0 dX7_load_30 rfl rfl ?_
      refine j_gI (ci := 6) (k := 7) rfl in_X7 rfl q2209 dX7_load_31 hf (fun v6 hf => ?_)
      refine j_if_ne 77 dX7_load_34 (by decide) hf (fun c_ hf => ?_) (fun c_ hf => ?_)
      · refine j_weak [some (va_rf x0), none] (Wk.k (Wk.s Wk.n)) ?_
        exact pf_X7_load_B77 x0 h hf
      · refine j_aload_n 0 dX7_load_37 rfl rfl ?_
        refine kc_X7_144 rfl rfl rfl (by decide) dX7_load_38 hf (fun _u h7 hf => ?_)
        refine j_aload_n 0 dX7_load_41 rfl rfl ?_
        refine kc_X7_97 rfl rfl rfl (by decide) dX7_load_42 hf (fun _u h8 hf => ?_)
        refine j_aload_n 0 dX7_load_45 rfl rfl ?_
        refine kc_X7_84 rfl rfl rfl (by decide) dX7_load_46 hf (fun v10 h9 hf => ?_)
        refine j_bipush (59 : Int32) dX7_load_49 (by decide) ?_
        refine j_icmp_ne 58 dX7_load_51 (by decide) hf (fun c_ hf => ?_) (fun c_ hf => ?_)
        · refine j_iconst (0 : Int32) dX7_load_58 (by decide) ?_
          refine j_weak [some (va_rf x0), none] (Wk.k (Wk.s Wk.n)) ?_
          exact pf_X7_load_B59 (f_X7_load_L26 n) ih x0 (0 : Int32) h9 hf
        · refine j_iconst (1 : Int32) dX7_load_54 (by decide) ?_
          refine j_goto 59 dX7_load_55 (by decide) ?_
          refine j_weak [some (va_rf x0), none] (Wk.k (Wk.s Wk.n)) ?_
          exact pf_X7_load_B59 (f_X7_load_L26 n) ih x0 (1 : Int32) h9 hf
def f_X7_load (r0 : Option Nat) (h0 : PH) : Option (Int32 × PH) := pV h0 r0 6 1 (.int (0 : Int32)) fun h1 => rv_ h1 r0 6 (cl_ (f_X7_beginsRead r0 h1) fun _u h2 => pV h2 r0 6 4 (.int (0 : Int32)) fun h3 => pV h3 r0 6 7 (.int (0 : Int32)) fun h4 => pV h4 r0 6 9 (.int (0 : Int32)) fun h5 => f_X7_load_L26 FU r0 (1 : Int32) h5)
theorem hyS_X7_load : yX7_load.cls ≠ "java/lang/invoke/MethodHandle" ∧ yX7_load.cls ≠ "java/lang/invoke/VarHandle" ∧ (parseMethodDescriptor yX7_load.desc).map (fun d => d.parameters.length) = some 0 := by decide +kernel
theorem hyV_X7_load : yX7_load.cls = RX7 ∧ yX7_load.cls ≠ "java/lang/invoke/MethodHandle" ∧ yX7_load.cls ≠ "java/lang/invoke/VarHandle" ∧ (parseMethodDescriptor yX7_load.desc).map (fun d => d.parameters.length) = some 0 := by decide +kernel
theorem c_X7_load {D : va_G} (r0 : Option Nat) {h0 : PH} (l : Launch) (hl : l.stackTraces = false) (x : Int32) (h1 : PH) (hf : f_X7_load r0 h0 = some (x, h1)) : CT l D yX7_load (ws_ yX7_load cX7_load 2 (Option.some FieldType.int)) 6 129 [va_rf r0] h0 (ovi x) h1 := by
  refine ct_of hl [some (va_rf r0), none] (by decide) (by rw [lgl]; simp [va_rf_cat, cat_i, cat_l]) (by simp [lv_args, vsL, va_rf_cat, cat_i, cat_l]) (fun Γ => ?_)
  obtain ⟨o, ho⟩ : ∃ o : Int32 × PH, o = (x, h1) := ⟨_, rfl⟩
  rw [← ho] at hf
  have e1 : x = o.1 := by rw [ho]
  have e2 : h1 = o.2 := by rw [ho]
  subst e1 e2
  clear ho
  show PF Γ mi_X7_load D h0 (QR Γ D h0 (ovi o.1) o.2) h0 0 [some (va_rf r0), none] []
  unfold f_X7_load at hf
  refine j_aload_n 0 dX7_load_0 rfl rfl ?_
  refine j_iconst (0 : Int32) dX7_load_1 (by decide) ?_
  refine j_pV (ci := 6) (k := 1) tyX7 tyX7_ok nmX7 rfl in_X7 rfl q2203 (Or.inl rfl) rfl (fit_i _) dX7_load_2 hf (fun h1 hf => ?_)
  refine j_aload_n 0 dX7_load_5 rfl rfl ?_
  refine kc_X7_55 rfl rfl rfl (by decide) dX7_load_6 hf (fun _u h2 hf => ?_)
  refine j_aload_n 0 dX7_load_9 rfl rfl ?_
  refine j_iconst (0 : Int32) dX7_load_10 (by decide) ?_
  refine j_pV (ci := 6) (k := 4) tyX7 tyX7_ok nmX7 rfl in_X7 rfl q2206 (Or.inl rfl) rfl (fit_i _) dX7_load_11 hf (fun h3 hf => ?_)
  refine j_aload_n 0 dX7_load_14 rfl rfl ?_
  refine j_iconst (0 : Int32) dX7_load_15 (by decide) ?_
  refine j_pV (ci := 6) (k := 7) tyX7 tyX7_ok nmX7 rfl in_X7 rfl q2209 (Or.inl rfl) rfl (fit_i _) dX7_load_16 hf (fun h4 hf => ?_)
  refine j_aload_n 0 dX7_load_19 rfl rfl ?_
  refine j_iconst (0 : Int32) dX7_load_20 (by decide) ?_
  refine j_pV (ci := 6) (k := 9) tyX7 tyX7_ok nmX7 rfl in_X7 rfl q2211 (Or.inl rfl) rfl (fit_i _) dX7_load_21 hf (fun h5 hf => ?_)
  refine j_iconst (1 : Int32) dX7_load_24 (by decide) ?_
  refine j_istore_n 1 [some (va_rf r0), some (.int (1 : Int32))] dX7_load_25 rfl (cz (va_rf_cat _)) rfl rfl ?_
  exact pf_X7_load_L26 FU r0 (1 : Int32) h5 hf
theorem kc_X7_241 {Γ : GX} {I : MI} {D : va_G} {h0 : PH} {Q : State → Prop} {h : PH} {pc : Nat} {vs : List (Option Value)} {rest : List Value} {β : Type} {o : β} {r : Option Nat}  {K : ((Unit) → PH → Option β)} (hI : I.2.2.1 = RX7) (hfr : Nat.ble 1 I.2.2.2.2.2.1 = true) (hlo : Nat.ble 23 I.2.2.2.2.2.2.1 = true) (hW : (rest.map fun v => v.category).sum ≤ 8) (hd : decode I.1 pc = .ok (.invokevirtual 241, 3)) (hf : rv_ h r 6 (cl_ (f_X7_packs r h) K) = some o) (kk : ∀ (x : Unit) (h1 : PH), K x h1 = some o → PF Γ I D h0 Q h1 (pc + 3) vs (rest)) : PF Γ I D h0 Q h pc vs (va_rf r :: rest) := by
  obtain ⟨cc, nL, own, rt, xt, fr, lo, nm⟩ := I
  cases hI
  exact j_cVv (n := 0) (y := yX7_packs) (cc2 := cX7_packs) (As := []) (C := RX7) (ci := 6) rfl (lw_V q2480 q2482 qs73 q117 q2483) hyV_X7_packs hfr hlo rfl hW hd (c_X7_packs r) hf _ rfl kk
theorem kc_X7_238 {Γ : GX} {I : MI} {D : va_G} {h0 : PH} {Q : State → Prop} {h : PH} {pc : Nat} {vs : List (Option Value)} {rest : List Value} {β : Type} {o : β} {r : Option Nat} {p0 : Int32} {K : ((Int32) → PH → Option β)} (hI : I.2.2.1 = RX7) (hfr : Nat.ble 6 I.2.2.2.2.2.1 = true) (hlo : Nat.ble 148 I.2.2.2.2.2.2.1 = true) (hW : (rest.map fun v => v.category).sum ≤ 8) (hd : decode I.1 pc = .ok (.invokevirtual 238, 3)) (hf : rv_ h r 6 (cl_ (f_X7_arrives r p0 h) K) = some o) (kk : ∀ (x : Int32) (h1 : PH), K x h1 = some o → PF Γ I D h0 Q h1 (pc + 3) vs (.int x :: rest)) : PF Γ I D h0 Q h pc vs (.int p0 :: va_rf r :: rest) := by
  obtain ⟨cc, nL, own, rt, xt, fr, lo, nm⟩ := I
  cases hI
  exact j_cVi (n := 1) (y := yX7_arrives) (cc2 := cX7_arrives) (As := [.int p0]) (C := RX7) (ci := 6) rfl (lw_V q2420 q2422 qs59 q117 q2423) hyV_X7_arrives hfr hlo rfl hW hd (c_X7_arrives r p0) hf _ rfl kk
abbrev mi_X7_messagesNow : MI := (cX7_messagesNow, 5, RX7, none, [], 6, 148, "messagesNow")
def f_X7_messagesNow_B85  (h : PH) : Option (Unit × PH) := some ((), h)
theorem pf_X7_messagesNow_B85 {Γ : GX} {D : va_G} {h0 : PH} {o : Unit × PH}  (h : PH) (hf : f_X7_messagesNow_B85  h = some o) : PF Γ mi_X7_messagesNow D h0 (QR Γ D h0 (ovv o.1) o.2) h 85 [none, none, none, none, none] [] := by
  have e9 := Option.some.inj hf
  subst e9
  exact j_vret rfl dX7_messagesNow_85
def f_X7_messagesNow_B70 (k12 : Option Nat → Int32 → Int32 → Int32 → PH → Option (Unit × PH)) (x0 : Option Nat) (x1 : Int32) (x3 : Int32) (t0 : Int32) (h : PH) : Option (Unit × PH) := k12 x0 x1 t0 (x3 + (1 : Int32)) h
theorem pf_X7_messagesNow_B70 {Γ : GX} {D : va_G} {h0 : PH} {o : Unit × PH} (k12 : Option Nat → Int32 → Int32 → Int32 → PH → Option (Unit × PH)) (hk12 : ∀ (x0 : Option Nat) (x1 : Int32) (x2 : Int32) (x3 : Int32) (h : PH), k12 x0 x1 x2 x3 h = some o → PF Γ mi_X7_messagesNow D h0 (QR Γ D h0 (ovv o.1) o.2) h 12 [some (va_rf x0), some (.int x1), some (.int x2), some (.int x3), none] []) (x0 : Option Nat) (x1 : Int32) (x3 : Int32) (t0 : Int32) (h : PH) (hf : f_X7_messagesNow_B70 k12 x0 x1 x3 t0 h = some o) : PF Γ mi_X7_messagesNow D h0 (QR Γ D h0 (ovv o.1) o.2) h 70 [some (va_rf x0), some (.int x1), none, some (.int x3), none] [.int t0] := by
  refine j_istore_n 2 [some (va_rf x0), some (.int x1), some (.int t0), some (.int x3), none] dX7_messagesNow_70 rfl (cz rfl) rfl rfl ?_
  refine j_iinc (x3 + (1 : Int32)) [some (va_rf x0), some (.int x1), some (.int t0), some (.int (x3 + (1 : Int32))), none] dX7_messagesNow_71 rfl rfl (cz rfl) rfl rfl ?_
  refine j_goto 12 dX7_messagesNow_74 (by decide) ?_
  exact hk12 x0 x1 t0 (x3 + (1 : Int32)) h hf
def f_X7_messagesNow_B65 (k12 : Option Nat → Int32 → Int32 → Int32 → PH → Option (Unit × PH)) (x0 : Option Nat) (x1 : Int32) (x3 : Int32) (h : PH) : Option (Unit × PH) := f_X7_messagesNow_B70 k12 x0 x1 x3 (1 : Int32) h
theorem pf_X7_messagesNow_B65 {Γ : GX} {D : va_G} {h0 : PH} {o : Unit × PH} (k12 : Option Nat → Int32 → Int32 → Int32 → PH → Option (Unit × PH)) (hk12 : ∀ (x0 : Option Nat) (x1 : Int32) (x2 : Int32) (x3 : Int32) (h : PH), k12 x0 x1 x2 x3 h = some o → PF Γ mi_X7_messagesNow D h0 (QR Γ D h0 (ovv o.1) o.2) h 12 [some (va_rf x0), some (.int x1), some (.int x2), some (.int x3), none] []) (x0 : Option Nat) (x1 : Int32) (x3 : Int32) (h : PH) (hf : f_X7_messagesNow_B65 k12 x0 x1 x3 h = some o) : PF Γ mi_X7_messagesNow D h0 (QR Γ D h0 (ovv o.1) o.2) h 65 [some (va_rf x0), some (.int x1), none, some (.int x3), none] [] := by
  refine j_iconst (1 : Int32) dX7_messagesNow_65 (by decide) ?_
  refine j_goto 70 dX7_messagesNow_66 (by decide) ?_
  exact pf_X7_messagesNow_B70 k12 hk12 x0 x1 x3 (1 : Int32) h hf
def f_X7_messagesNow_B61 (k12 : Option Nat → Int32 → Int32 → Int32 → PH → Option (Unit × PH)) (x0 : Option Nat) (x1 : Int32) (x2 : Int32) (x3 : Int32) (h : PH) : Option (Unit × PH) := (if x2 = 0 then (f_X7_messagesNow_B70 k12 x0 x1 x3 (0 : Int32) h) else (f_X7_messagesNow_B65 k12 x0 x1 x3 h))
theorem pf_X7_messagesNow_B61 {Γ : GX} {D : va_G} {h0 : PH} {o : Unit × PH} (k12 : Option Nat → Int32 → Int32 → Int32 → PH → Option (Unit × PH)) (hk12 : ∀ (x0 : Option Nat) (x1 : Int32) (x2 : Int32) (x3 : Int32) (h : PH), k12 x0 x1 x2 x3 h = some o → PF Γ mi_X7_messagesNow D h0 (QR Γ D h0 (ovv o.1) o.2) h 12 [some (va_rf x0), some (.int x1), some (.int x2), some (.int x3), none] []) (x0 : Option Nat) (x1 : Int32) (x2 : Int32) (x3 : Int32) (h : PH) (hf : f_X7_messagesNow_B61 k12 x0 x1 x2 x3 h = some o) : PF Γ mi_X7_messagesNow D h0 (QR Γ D h0 (ovv o.1) o.2) h 61 [some (va_rf x0), some (.int x1), some (.int x2), some (.int x3), none] [] := by
  refine j_iload_n 2 dX7_messagesNow_61 rfl rfl ?_
  refine j_if_eq 69 dX7_messagesNow_62 (by decide) hf (fun c_ hf => ?_) (fun c_ hf => ?_)
  · refine j_iconst (0 : Int32) dX7_messagesNow_69 (by decide) ?_
    refine j_weak [some (va_rf x0), some (.int x1), none, some (.int x3), none] (Wk.k (Wk.k (Wk.s (Wk.k (Wk.k Wk.n))))) ?_
    exact pf_X7_messagesNow_B70 k12 hk12 x0 x1 x3 (0 : Int32) h hf
  · refine j_weak [some (va_rf x0), some (.int x1), none, some (.int x3), none] (Wk.k (Wk.k (Wk.s (Wk.k (Wk.k Wk.n))))) ?_
    exact pf_X7_messagesNow_B65 k12 hk12 x0 x1 x3 h hf
def f_X7_messagesNow_B46 (k12 : Option Nat → Int32 → Int32 → Int32 → PH → Option (Unit × PH)) (x0 : Option Nat) (x1 : Int32) (x2 : Int32) (x3 : Int32) (t0 : Int32) (h : PH) : Option (Unit × PH) := (if t0 = 0 then (f_X7_messagesNow_B61 k12 x0 x1 x2 x3 h) else (rv_ h x0 6 (cl_ (f_X7_arrives x0 x3 h) fun v9 h8 => (if v9 = 0 then (f_X7_messagesNow_B61 k12 x0 x1 x2 x3 h8) else (f_X7_messagesNow_B65 k12 x0 x1 x3 h8)))))
theorem pf_X7_messagesNow_B46 {Γ : GX} {D : va_G} {h0 : PH} {o : Unit × PH} (k12 : Option Nat → Int32 → Int32 → Int32 → PH → Option (Unit × PH)) (hk12 : ∀ (x0 : Option Nat) (x1 : Int32) (x2 : Int32) (x3 : Int32) (h : PH), k12 x0 x1 x2 x3 h = some o → PF Γ mi_X7_messagesNow D h0 (QR Γ D h0 (ovv o.1) o.2) h 12 [some (va_rf x0), some (.int x1), some (.int x2), some (.int x3), none] []) (x0 : Option Nat) (x1 : Int32) (x2 : Int32) (x3 : Int32) (t0 : Int32) (h : PH) (hf : f_X7_messagesNow_B46 k12 x0 x1 x2 x3 t0 h = some o) : PF Γ mi_X7_messagesNow D h0 (QR Γ D h0 (ovv o.1) o.2) h 46 [some (va_rf x0), some (.int x1), some (.int x2), some (.int x3), none] [.int t0] := by
  refine j_istore [some (va_rf x0), some (.int x1), some (.int x2), some (.int x3), some (.int t0)] dX7_messagesNow_46 (cz rfl) rfl rfl ?_
  refine j_iload dX7_messagesNow_48 rfl ?_
  refine j_if_eq 61 dX7_messagesNow_50 (by decide) hf (fun c_ hf => ?_) (fun c_ hf => ?_)
  · refine j_weak [some (va_rf x0), some (.int x1), some (.int x2), some (.int x3), none] (Wk.k (Wk.k (Wk.k (Wk.k (Wk.s Wk.n))))) ?_
    exact pf_X7_messagesNow_B61 k12 hk12 x0 x1 x2 x3 h hf
  · refine j_aload_n 0 dX7_messagesNow_53 rfl rfl ?_
    refine j_iload_n 3 dX7_messagesNow_54 rfl rfl ?_
    refine kc_X7_238 rfl rfl rfl (by decide) dX7_messagesNow_55 hf (fun v9 h8 hf => ?_)
    refine j_if_ne 65 dX7_messagesNow_58 (by decide) hf (fun c_ hf => ?_) (fun c_ hf => ?_)
    · refine j_weak [some (va_rf x0), some (.int x1), none, some (.int x3), none] (Wk.k (Wk.k (Wk.s (Wk.k (Wk.s Wk.n))))) ?_
      exact pf_X7_messagesNow_B65 k12 hk12 x0 x1 x3 h8 hf
    · refine j_weak [some (va_rf x0), some (.int x1), some (.int x2), some (.int x3), none] (Wk.k (Wk.k (Wk.k (Wk.k (Wk.s Wk.n))))) ?_
      exact pf_X7_messagesNow_B61 k12 hk12 x0 x1 x2 x3 h8 hf
def f_X7_messagesNow_L12 : Nat → Option Nat → Int32 → Int32 → Int32 → PH → Option (Unit × PH)
  | 0, _, _, _, _, _ => none
  | n + 1, x0, x1, x2, x3, h => (if x1 ≤ x3 then ((if x2 = 0 then (f_X7_messagesNow_B85  h) else (rv_ h x0 6 (cl_ (f_X7_packs x0 h) fun _u h3 => f_X7_messagesNow_B85  h3)))) else (gR h x0 6 0 fun r4 => aI h r4 0 (((1136 : Int32) + ((6 : Int32) * x3)) + (2 : Int32)) fun v5 => gR h x0 6 0 fun r6 => aI h r6 0 (0 : Int32) fun v7 => (if v5 = v7 then (f_X7_messagesNow_B46 (f_X7_messagesNow_L12 n) x0 x1 x2 x3 (1 : Int32) h) else (f_X7_messagesNow_B46 (f_X7_messagesNow_L12 n) x0 x1 x2 x3 (0 : Int32) h))))
theorem pf_X7_messagesNow_L12 {Γ : GX} {D : va_G} {h0 : PH} {o : Unit × PH} : ∀ (n : Nat) (x0 : Option Nat) (x1 : Int32) (x2 : Int32) (x3 : Int32) (h : PH), f_X7_messagesNow_L12 n x0 x1 x2 x3 h = some o → PF Γ mi_X7_messagesNow D h0 (QR Γ D h0 (ovv o.1) o.2) h 12 [some (va_rf x0), some (.int x1), some (.int x2), some (.int x3), none] [] := by
  intro n
  induction n with
  | zero => intro x0 x1 x2 x3 h hf; cases hf
  | succ n ih =>
    intro x0 x1 x2 x3 h hf
    refine j_iload_n 3 dX7_messagesNow_12 rfl rfl ?_
    refine j_iload_n 1 dX7_messagesNow_13 rfl rfl ?_
    refine j_icmp_ge 77 dX7_messagesNow_14 (by decide) hf (fun c_ hf => ?_) (fun c_ hf => ?_)
    · refine j_iload_n 2 dX7_messagesNow_77 rfl rfl ?_
      refine j_if_eq 85 dX7_messagesNow_78 (by decide) hf (fun c_ hf => ?_) (fun c_ hf => ?_)
      · refine j_weak [none, none, none, none, none] (Wk.s (Wk.s (Wk.s (Wk.s (Wk.k Wk.n))))) ?_
        exact pf_X7_messagesNow_B85  h hf
      · refine j_aload_n 0 dX7_messagesNow_81 rfl rfl ?_
        refine kc_X7_241 rfl rfl rfl (by decide) dX7_messagesNow_82 hf (fun _u h3 hf => ?_)
        refine j_weak [none, none, none, none, none] (Wk.s (Wk.s (Wk.s (Wk.s (Wk.k Wk.n))))) ?_
        exact pf_X7_messagesNow_B85  h3 hf
    · refine j_aload_n 0 dX7_messagesNow_17 rfl rfl ?_
      refine j_gR (ci := 6) (k := 0) rfl in_X7 rfl q2202 dX7_messagesNow_18 hf (fun r4 hf => ?_)
      refine j_sipush (1136 : Int32) dX7_messagesNow_21 (by decide) ?_
      refine j_bipush (6 : Int32) dX7_messagesNow_24 (by decide) ?_
      refine j_iload_n 3 dX7_messagesNow_26 rfl rfl ?_
      refine j_imul dX7_messagesNow_27 ?_
      refine j_iadd dX7_messagesNow_28 ?_
      refine j_iconst (2 : Int32) dX7_messagesNow_29 (by decide) ?_
      refine j_iadd dX7_messagesNow_30 ?_
      refine j_iald dX7_messagesNow_31 hf (fun v5 hf => ?_)
      refine j_aload_n 0 dX7_messagesNow_32 rfl rfl ?_
      refine j_gR (ci := 6) (k := 0) rfl in_X7 rfl q2202 dX7_messagesNow_33 hf (fun r6 hf => ?_)
      refine j_iconst (0 : Int32) dX7_messagesNow_36 (by decide) ?_
      refine j_iald dX7_messagesNow_37 hf (fun v7 hf => ?_)
      refine j_icmp_ne 45 dX7_messagesNow_38 (by decide) hf (fun c_ hf => ?_) (fun c_ hf => ?_)
      · refine j_iconst (0 : Int32) dX7_messagesNow_45 (by decide) ?_
        exact pf_X7_messagesNow_B46 (f_X7_messagesNow_L12 n) ih x0 x1 x2 x3 (0 : Int32) h hf
      · refine j_iconst (1 : Int32) dX7_messagesNow_41 (by decide) ?_
        refine j_goto 46 dX7_messagesNow_42 (by decide) ?_
        exact pf_X7_messagesNow_B46 (f_X7_messagesNow_L12 n) ih x0 x1 x2 x3 (1 : Int32) h hf
def f_X7_messagesNow (r0 : Option Nat) (h0 : PH) : Option (Unit × PH) := gR h0 r0 6 0 fun r1 => aI h0 r1 0 (20 : Int32) fun v2 => f_X7_messagesNow_L12 FU r0 v2 (0 : Int32) (0 : Int32) h0
theorem hyS_X7_messagesNow : yX7_messagesNow.cls ≠ "java/lang/invoke/MethodHandle" ∧ yX7_messagesNow.cls ≠ "java/lang/invoke/VarHandle" ∧ (parseMethodDescriptor yX7_messagesNow.desc).map (fun d => d.parameters.length) = some 0 := by decide +kernel
theorem hyV_X7_messagesNow : yX7_messagesNow.cls = RX7 ∧ yX7_messagesNow.cls ≠ "java/lang/invoke/MethodHandle" ∧ yX7_messagesNow.cls ≠ "java/lang/invoke/VarHandle" ∧ (parseMethodDescriptor yX7_messagesNow.desc).map (fun d => d.parameters.length) = some 0 := by decide +kernel
theorem c_X7_messagesNow {D : va_G} (r0 : Option Nat) {h0 : PH} (l : Launch) (hl : l.stackTraces = false) (x : Unit) (h1 : PH) (hf : f_X7_messagesNow r0 h0 = some (x, h1)) : CT l D yX7_messagesNow (ws_ yX7_messagesNow cX7_messagesNow 5 none) 6 148 [va_rf r0] h0 (ovv x) h1 := by
  refine ct_of hl [some (va_rf r0), none, none, none, none] (by decide) (by rw [lgl]; simp [va_rf_cat, cat_i, cat_l]) (by simp [lv_args, vsL, va_rf_cat, cat_i, cat_l]) (fun Γ => ?_)
  obtain ⟨o, ho⟩ : ∃ o : Unit × PH, o = (x, h1) := ⟨_, rfl⟩
  rw [← ho] at hf
  have e1 : x = o.1 := by rw [ho]
  have e2 : h1 = o.2 := by rw [ho]
  subst e1 e2
  clear ho
  show PF Γ mi_X7_messagesNow D h0 (QR Γ D h0 (ovv o.1) o.2) h0 0 [some (va_rf r0), none, none, none, none] []
  unfold f_X7_messagesNow at hf
  refine j_aload_n 0 dX7_messagesNow_0 rfl rfl ?_
  refine j_gR (ci := 6) (k := 0) rfl in_X7 rfl q2202 dX7_messagesNow_1 hf (fun r1 hf => ?_)
  refine j_bipush (20 : Int32) dX7_messagesNow_4 (by decide) ?_
  refine j_iald dX7_messagesNow_6 hf (fun v2 hf => ?_)
  refine j_istore_n 1 [some (va_rf r0), some (.int v2), none, none, none] dX7_messagesNow_7 rfl (cz (va_rf_cat _)) rfl rfl ?_
  refine j_iconst (0 : Int32) dX7_messagesNow_8 (by decide) ?_
  refine j_istore_n 2 [some (va_rf r0), some (.int v2), some (.int (0 : Int32)), none, none] dX7_messagesNow_9 rfl (cz rfl) rfl rfl ?_
  refine j_iconst (0 : Int32) dX7_messagesNow_10 (by decide) ?_
  refine j_istore_n 3 [some (va_rf r0), some (.int v2), some (.int (0 : Int32)), some (.int (0 : Int32)), none] dX7_messagesNow_11 rfl (cz rfl) rfl rfl ?_
  exact pf_X7_messagesNow_L12 FU r0 v2 (0 : Int32) (0 : Int32) h0 hf
theorem kc_X7_259 {Γ : GX} {I : MI} {D : va_G} {h0 : PH} {Q : State → Prop} {h : PH} {pc : Nat} {vs : List (Option Value)} {rest : List Value} {β : Type} {o : β} {r : Option Nat}  {K : ((Int32) → PH → Option β)} (hI : I.2.2.1 = RX7) (hfr : Nat.ble 3 I.2.2.2.2.2.1 = true) (hlo : Nat.ble 65 I.2.2.2.2.2.2.1 = true) (hW : (rest.map fun v => v.category).sum ≤ 8) (hd : decode I.1 pc = .ok (.invokevirtual 259, 3)) (hf : rv_ h r 6 (cl_ (f_X7_nextTime r h) K) = some o) (kk : ∀ (x : Int32) (h1 : PH), K x h1 = some o → PF Γ I D h0 Q h1 (pc + 3) vs (.int x :: rest)) : PF Γ I D h0 Q h pc vs (va_rf r :: rest) := by
  obtain ⟨cc, nL, own, rt, xt, fr, lo, nm⟩ := I
  cases hI
  exact j_cVi (n := 0) (y := yX7_nextTime) (cc2 := cX7_nextTime) (As := []) (C := RX7) (ci := 6) rfl (lw_V q2378 q2380 qs50 q117 q2381) hyV_X7_nextTime hfr hlo rfl hW hd (c_X7_nextTime r) hf _ rfl kk
theorem kc_X7_262 {Γ : GX} {I : MI} {D : va_G} {h0 : PH} {Q : State → Prop} {h : PH} {pc : Nat} {vs : List (Option Value)} {rest : List Value} {β : Type} {o : β} {r : Option Nat} {p0 : Int32} {K : ((Unit) → PH → Option β)} (hI : I.2.2.1 = RX7) (hfr : Nat.ble 4 I.2.2.2.2.2.1 = true) (hlo : Nat.ble 90 I.2.2.2.2.2.2.1 = true) (hW : (rest.map fun v => v.category).sum ≤ 8) (hd : decode I.1 pc = .ok (.invokevirtual 262, 3)) (hf : rv_ h r 6 (cl_ (f_X7_passes r p0 h) K) = some o) (kk : ∀ (x : Unit) (h1 : PH), K x h1 = some o → PF Γ I D h0 Q h1 (pc + 3) vs (rest)) : PF Γ I D h0 Q h pc vs (.int p0 :: va_rf r :: rest) := by
  obtain ⟨cc, nL, own, rt, xt, fr, lo, nm⟩ := I
  cases hI
  exact j_cVv (n := 1) (y := yX7_passes) (cc2 := cX7_passes) (As := [.int p0]) (C := RX7) (ci := 6) rfl (lw_V q2388 q2390 qs52 q117 q2391) hyV_X7_passes hfr hlo rfl hW hd (c_X7_passes r p0) hf _ rfl kk
theorem kc_X7_265 {Γ : GX} {I : MI} {D : va_G} {h0 : PH} {Q : State → Prop} {h : PH} {pc : Nat} {vs : List (Option Value)} {rest : List Value} {β : Type} {o : β} {r : Option Nat}  {K : ((Unit) → PH → Option β)} (hI : I.2.2.1 = RX7) (hfr : Nat.ble 2 I.2.2.2.2.2.1 = true) (hlo : Nat.ble 46 I.2.2.2.2.2.2.1 = true) (hW : (rest.map fun v => v.category).sum ≤ 8) (hd : decode I.1 pc = .ok (.invokevirtual 265, 3)) (hf : rv_ h r 6 (cl_ (f_X7_outagesNow r h) K) = some o) (kk : ∀ (x : Unit) (h1 : PH), K x h1 = some o → PF Γ I D h0 Q h1 (pc + 3) vs (rest)) : PF Γ I D h0 Q h pc vs (va_rf r :: rest) := by
  obtain ⟨cc, nL, own, rt, xt, fr, lo, nm⟩ := I
  cases hI
  exact j_cVv (n := 0) (y := yX7_outagesNow) (cc2 := cX7_outagesNow) (As := []) (C := RX7) (ci := 6) rfl (lw_V q2408 q2410 qs56 q117 q2411) hyV_X7_outagesNow hfr hlo rfl hW hd (c_X7_outagesNow r) hf _ rfl kk
theorem kc_X7_268 {Γ : GX} {I : MI} {D : va_G} {h0 : PH} {Q : State → Prop} {h : PH} {pc : Nat} {vs : List (Option Value)} {rest : List Value} {β : Type} {o : β} {r : Option Nat}  {K : ((Unit) → PH → Option β)} (hI : I.2.2.1 = RX7) (hfr : Nat.ble 7 I.2.2.2.2.2.1 = true) (hlo : Nat.ble 172 I.2.2.2.2.2.2.1 = true) (hW : (rest.map fun v => v.category).sum ≤ 8) (hd : decode I.1 pc = .ok (.invokevirtual 268, 3)) (hf : rv_ h r 6 (cl_ (f_X7_messagesNow r h) K) = some o) (kk : ∀ (x : Unit) (h1 : PH), K x h1 = some o → PF Γ I D h0 Q h1 (pc + 3) vs (rest)) : PF Γ I D h0 Q h pc vs (va_rf r :: rest) := by
  obtain ⟨cc, nL, own, rt, xt, fr, lo, nm⟩ := I
  cases hI
  exact j_cVv (n := 0) (y := yX7_messagesNow) (cc2 := cX7_messagesNow) (As := []) (C := RX7) (ci := 6) rfl (lw_V q2416 q2418 qs58 q117 q2419) hyV_X7_messagesNow hfr hlo rfl hW hd (c_X7_messagesNow r) hf _ rfl kk
theorem kc_X7_271 {Γ : GX} {I : MI} {D : va_G} {h0 : PH} {Q : State → Prop} {h : PH} {pc : Nat} {vs : List (Option Value)} {rest : List Value} {β : Type} {o : β} {r : Option Nat}  {K : ((Unit) → PH → Option β)} (hI : I.2.2.1 = RX7) (hfr : Nat.ble 3 I.2.2.2.2.2.1 = true) (hlo : Nat.ble 76 I.2.2.2.2.2.2.1 = true) (hW : (rest.map fun v => v.category).sum ≤ 8) (hd : decode I.1 pc = .ok (.invokevirtual 271, 3)) (hf : rv_ h r 6 (cl_ (f_X7_delayedNow r h) K) = some o) (kk : ∀ (x : Unit) (h1 : PH), K x h1 = some o → PF Γ I D h0 Q h1 (pc + 3) vs (rest)) : PF Γ I D h0 Q h pc vs (va_rf r :: rest) := by
  obtain ⟨cc, nL, own, rt, xt, fr, lo, nm⟩ := I
  cases hI
  exact j_cVv (n := 0) (y := yX7_delayedNow) (cc2 := cX7_delayedNow) (As := []) (C := RX7) (ci := 6) rfl (lw_V q2484 q2486 qs74 q117 q2487) hyV_X7_delayedNow hfr hlo rfl hW hd (c_X7_delayedNow r) hf _ rfl kk
theorem kc_X7_274 {Γ : GX} {I : MI} {D : va_G} {h0 : PH} {Q : State → Prop} {h : PH} {pc : Nat} {vs : List (Option Value)} {rest : List Value} {β : Type} {o : β} {r : Option Nat}  {K : ((Unit) → PH → Option β)} (hI : I.2.2.1 = RX7) (hfr : Nat.ble 4 I.2.2.2.2.2.1 = true) (hlo : Nat.ble 92 I.2.2.2.2.2.2.1 = true) (hW : (rest.map fun v => v.category).sum ≤ 8) (hd : decode I.1 pc = .ok (.invokevirtual 274, 3)) (hf : rv_ h r 6 (cl_ (f_X7_timersNow r h) K) = some o) (kk : ∀ (x : Unit) (h1 : PH), K x h1 = some o → PF Γ I D h0 Q h1 (pc + 3) vs (rest)) : PF Γ I D h0 Q h pc vs (va_rf r :: rest) := by
  obtain ⟨cc, nL, own, rt, xt, fr, lo, nm⟩ := I
  cases hI
  exact j_cVv (n := 0) (y := yX7_timersNow) (cc2 := cX7_timersNow) (As := []) (C := RX7) (ci := 6) rfl (lw_V q2488 q2490 qs75 q117 q2491) hyV_X7_timersNow hfr hlo rfl hW hd (c_X7_timersNow r) hf _ rfl kk
abbrev mi_X7_goesTo : MI := (cX7_goesTo, 3, RX7, none, [], 7, 172, "goesTo")
def f_X7_goesTo_L5 : Nat → Option Nat → Int32 → Int32 → PH → Option (Unit × PH)
  | 0, _, _, _, _ => none
  | n + 1, x0, x1, x2, h => (if x1 < x2 then (rv_ h x0 6 (cl_ (f_X7_passes x0 x1 h) fun _u h3 => some ((), h3))) else (rv_ h x0 6 (cl_ (f_X7_passes x0 x2 h) fun _u h4 => rv_ h4 x0 6 (cl_ (f_X7_outagesNow x0 h4) fun _u h5 => rv_ h5 x0 6 (cl_ (f_X7_messagesNow x0 h5) fun _u h6 => rv_ h6 x0 6 (cl_ (f_X7_delayedNow x0 h6) fun _u h7 => rv_ h7 x0 6 (cl_ (f_X7_timersNow x0 h7) fun _u h8 => rv_ h8 x0 6 (cl_ (f_X7_nextTime x0 h8) fun v10 h9 => f_X7_goesTo_L5 n x0 x1 v10 h9))))))))
theorem pf_X7_goesTo_L5 {Γ : GX} {D : va_G} {h0 : PH} {o : Unit × PH} : ∀ (n : Nat) (x0 : Option Nat) (x1 : Int32) (x2 : Int32) (h : PH), f_X7_goesTo_L5 n x0 x1 x2 h = some o → PF Γ mi_X7_goesTo D h0 (QR Γ D h0 (ovv o.1) o.2) h 5 [some (va_rf x0), some (.int x1), some (.int x2)] [] := by
  intro n
  induction n with
  | zero => intro x0 x1 x2 h hf; cases hf
  | succ n ih =>
    intro x0 x1 x2 h hf
    refine j_iload_n 2 dX7_goesTo_5 rfl rfl ?_
    refine j_iload_n 1 dX7_goesTo_6 rfl rfl ?_
    refine j_icmp_gt 39 dX7_goesTo_7 (by decide) hf (fun c_ hf => ?_) (fun c_ hf => ?_)
    · refine j_aload_n 0 dX7_goesTo_39 rfl rfl ?_
      refine j_iload_n 1 dX7_goesTo_40 rfl rfl ?_
      refine kc_X7_262 rfl rfl rfl (by decide) dX7_goesTo_41 hf (fun _u h3 hf => ?_)
      have e9 := Option.some.inj hf
      subst e9
      exact j_vret rfl dX7_goesTo_44
    · refine j_aload_n 0 dX7_goesTo_10 rfl rfl ?_
      refine j_iload_n 2 dX7_goesTo_11 rfl rfl ?_
      refine kc_X7_262 rfl rfl rfl (by decide) dX7_goesTo_12 hf (fun _u h4 hf => ?_)
      refine j_aload_n 0 dX7_goesTo_15 rfl rfl ?_
      refine kc_X7_265 rfl rfl rfl (by decide) dX7_goesTo_16 hf (fun _u h5 hf => ?_)
      refine j_aload_n 0 dX7_goesTo_19 rfl rfl ?_
      refine kc_X7_268 rfl rfl rfl (by decide) dX7_goesTo_20 hf (fun _u h6 hf => ?_)
      refine j_aload_n 0 dX7_goesTo_23 rfl rfl ?_
      refine kc_X7_271 rfl rfl rfl (by decide) dX7_goesTo_24 hf (fun _u h7 hf => ?_)
      refine j_aload_n 0 dX7_goesTo_27 rfl rfl ?_
      refine kc_X7_274 rfl rfl rfl (by decide) dX7_goesTo_28 hf (fun _u h8 hf => ?_)
      refine j_aload_n 0 dX7_goesTo_31 rfl rfl ?_
      refine kc_X7_259 rfl rfl rfl (by decide) dX7_goesTo_32 hf (fun v10 h9 hf => ?_)
      refine j_istore_n 2 [some (va_rf x0), some (.int x1), some (.int v10)] dX7_goesTo_35 rfl (cz rfl) rfl rfl ?_
      refine j_goto 5 dX7_goesTo_36 (by decide) ?_
      exact ih x0 x1 v10 h9 hf
def f_X7_goesTo (r0 : Option Nat) (p0 : Int32) (h0 : PH) : Option (Unit × PH) := rv_ h0 r0 6 (cl_ (f_X7_nextTime r0 h0) fun v2 h1 => f_X7_goesTo_L5 FU r0 p0 v2 h1)
theorem hyS_X7_goesTo : yX7_goesTo.cls ≠ "java/lang/invoke/MethodHandle" ∧ yX7_goesTo.cls ≠ "java/lang/invoke/VarHandle" ∧ (parseMethodDescriptor yX7_goesTo.desc).map (fun d => d.parameters.length) = some 1 := by decide +kernel
theorem hyV_X7_goesTo : yX7_goesTo.cls = RX7 ∧ yX7_goesTo.cls ≠ "java/lang/invoke/MethodHandle" ∧ yX7_goesTo.cls ≠ "java/lang/invoke/VarHandle" ∧ (parseMethodDescriptor yX7_goesTo.desc).map (fun d => d.parameters.length) = some 1 := by decide +kernel
theorem c_X7_goesTo {D : va_G} (r0 : Option Nat) (p0 : Int32) {h0 : PH} (l : Launch) (hl : l.stackTraces = false) (x : Unit) (h1 : PH) (hf : f_X7_goesTo r0 p0 h0 = some (x, h1)) : CT l D yX7_goesTo (ws_ yX7_goesTo cX7_goesTo 3 none) 7 172 [va_rf r0, .int p0] h0 (ovv x) h1 := by
  refine ct_of hl [some (va_rf r0), some (.int p0), none] (by decide) (by rw [lgl]; simp [va_rf_cat, cat_i, cat_l]) (by simp [lv_args, vsL, va_rf_cat, cat_i, cat_l]) (fun Γ => ?_)
  obtain ⟨o, ho⟩ : ∃ o : Unit × PH, o = (x, h1) := ⟨_, rfl⟩
  rw [← ho] at hf
  have e1 : x = o.1 := by rw [ho]
  have e2 : h1 = o.2 := by rw [ho]
  subst e1 e2
  clear ho
  show PF Γ mi_X7_goesTo D h0 (QR Γ D h0 (ovv o.1) o.2) h0 0 [some (va_rf r0), some (.int p0), none] []
  unfold f_X7_goesTo at hf
  refine j_aload_n 0 dX7_goesTo_0 rfl rfl ?_
  refine kc_X7_259 rfl rfl rfl (by decide) dX7_goesTo_1 hf (fun v2 h1 hf => ?_)
  refine j_istore_n 2 [some (va_rf r0), some (.int p0), some (.int v2)] dX7_goesTo_4 rfl (cz rfl) rfl rfl ?_
  exact pf_X7_goesTo_L5 FU r0 p0 v2 h1 hf
theorem kc_X7_280 {Γ : GX} {I : MI} {D : va_G} {h0 : PH} {Q : State → Prop} {h : PH} {pc : Nat} {vs : List (Option Value)} {rest : List Value} {β : Type} {o : β} {r : Option Nat} {p0 : Int32} {K : ((Unit) → PH → Option β)} (hI : I.2.2.1 = RX7) (hfr : Nat.ble 8 I.2.2.2.2.2.1 = true) (hlo : Nat.ble 194 I.2.2.2.2.2.2.1 = true) (hW : (rest.map fun v => v.category).sum ≤ 8) (hd : decode I.1 pc = .ok (.invokevirtual 280, 3)) (hf : rv_ h r 6 (cl_ (f_X7_goesTo r p0 h) K) = some o) (kk : ∀ (x : Unit) (h1 : PH), K x h1 = some o → PF Γ I D h0 Q h1 (pc + 3) vs (rest)) : PF Γ I D h0 Q h pc vs (.int p0 :: va_rf r :: rest) := by
  obtain ⟨cc, nL, own, rt, xt, fr, lo, nm⟩ := I
  cases hI
  exact j_cVv (n := 1) (y := yX7_goesTo) (cc2 := cX7_goesTo) (As := [.int p0]) (C := RX7) (ci := 6) rfl (lw_V q2374 q2376 qs49 q117 q2377) hyV_X7_goesTo hfr hlo rfl hW hd (c_X7_goesTo r p0) hf _ rfl kk
abbrev mi_X7_advanceToNextEvent : MI := (cX7_advanceToNextEvent, 2, RX7, (Option.some FieldType.int), [], 8, 194, "advanceToNextEvent")
def f_X7_advanceToNextEvent (r0 : Option Nat) (h0 : PH) : Option (Int32 × PH) := pV h0 r0 6 1 (.int (0 : Int32)) fun h1 => rv_ h1 r0 6 (cl_ (f_X7_nextTime r0 h1) fun v3 h2 => (if v3 = (2000000000 : Int32) then (some ((-4 : Int32), h2)) else ((if v3 ≤ (5000000 : Int32) then (rv_ h2 r0 6 (cl_ (f_X7_goesTo r0 v3 h2) fun _u h4 => some (v3, h4))) else (some ((-5 : Int32), h2))))))
theorem hyS_X7_advanceToNextEvent : yX7_advanceToNextEvent.cls ≠ "java/lang/invoke/MethodHandle" ∧ yX7_advanceToNextEvent.cls ≠ "java/lang/invoke/VarHandle" ∧ (parseMethodDescriptor yX7_advanceToNextEvent.desc).map (fun d => d.parameters.length) = some 0 := by decide +kernel
theorem hyV_X7_advanceToNextEvent : yX7_advanceToNextEvent.cls = RX7 ∧ yX7_advanceToNextEvent.cls ≠ "java/lang/invoke/MethodHandle" ∧ yX7_advanceToNextEvent.cls ≠ "java/lang/invoke/VarHandle" ∧ (parseMethodDescriptor yX7_advanceToNextEvent.desc).map (fun d => d.parameters.length) = some 0 := by decide +kernel
theorem c_X7_advanceToNextEvent {D : va_G} (r0 : Option Nat) {h0 : PH} (l : Launch) (hl : l.stackTraces = false) (x : Int32) (h1 : PH) (hf : f_X7_advanceToNextEvent r0 h0 = some (x, h1)) : CT l D yX7_advanceToNextEvent (ws_ yX7_advanceToNextEvent cX7_advanceToNextEvent 2 (Option.some FieldType.int)) 8 194 [va_rf r0] h0 (ovi x) h1 := by
  refine ct_of hl [some (va_rf r0), none] (by decide) (by rw [lgl]; simp [va_rf_cat, cat_i, cat_l]) (by simp [lv_args, vsL, va_rf_cat, cat_i, cat_l]) (fun Γ => ?_)
  obtain ⟨o, ho⟩ : ∃ o : Int32 × PH, o = (x, h1) := ⟨_, rfl⟩
  rw [← ho] at hf
  have e1 : x = o.1 := by rw [ho]
  have e2 : h1 = o.2 := by rw [ho]
  subst e1 e2
  clear ho
  show PF Γ mi_X7_advanceToNextEvent D h0 (QR Γ D h0 (ovi o.1) o.2) h0 0 [some (va_rf r0), none] []
  unfold f_X7_advanceToNextEvent at hf
  refine j_aload_n 0 dX7_advanceToNextEvent_0 rfl rfl ?_
  refine j_iconst (0 : Int32) dX7_advanceToNextEvent_1 (by decide) ?_
  refine j_pV (ci := 6) (k := 1) tyX7 tyX7_ok nmX7 rfl in_X7 rfl q2203 (Or.inl rfl) rfl (fit_i _) dX7_advanceToNextEvent_2 hf (fun h1 hf => ?_)
  refine j_aload_n 0 dX7_advanceToNextEvent_5 rfl rfl ?_
  refine kc_X7_259 rfl rfl rfl (by decide) dX7_advanceToNextEvent_6 hf (fun v3 h2 hf => ?_)
  refine j_istore_n 1 [some (va_rf r0), some (.int v3)] dX7_advanceToNextEvent_9 rfl (cz (va_rf_cat _)) rfl rfl ?_
  refine j_iload_n 1 dX7_advanceToNextEvent_10 rfl rfl ?_
  refine j_ldc q2382 dX7_advanceToNextEvent_11 ?_
  refine j_icmp_ne 19 dX7_advanceToNextEvent_13 (by decide) hf (fun c_ hf => ?_) (fun c_ hf => ?_)
  · refine j_iload_n 1 dX7_advanceToNextEvent_19 rfl rfl ?_
    refine j_ldcw q2373 dX7_advanceToNextEvent_20 ?_
    refine j_icmp_le 29 dX7_advanceToNextEvent_23 (by decide) hf (fun c_ hf => ?_) (fun c_ hf => ?_)
    · refine j_aload_n 0 dX7_advanceToNextEvent_29 rfl rfl ?_
      refine j_iload_n 1 dX7_advanceToNextEvent_30 rfl rfl ?_
      refine kc_X7_280 rfl rfl rfl (by decide) dX7_advanceToNextEvent_31 hf (fun _u h4 hf => ?_)
      refine j_iload_n 1 dX7_advanceToNextEvent_34 rfl rfl ?_
      have e9 := Option.some.inj hf
      subst e9
      exact j_iret rfl dX7_advanceToNextEvent_35
    · refine j_bipush (-5 : Int32) dX7_advanceToNextEvent_26 (by decide) ?_
      have e9 := Option.some.inj hf
      subst e9
      exact j_iret rfl dX7_advanceToNextEvent_28
  · refine j_bipush (-4 : Int32) dX7_advanceToNextEvent_16 (by decide) ?_
    have e9 := Option.some.inj hf
    subst e9
    exact j_iret rfl dX7_advanceToNextEvent_18
theorem kc_X7_332 {Γ : GX} {I : MI} {D : va_G} {h0 : PH} {Q : State → Prop} {h : PH} {pc : Nat} {vs : List (Option Value)} {rest : List Value} {β : Type} {o : β} {r : Option Nat}  {K : ((Unit) → PH → Option β)} (hI : I.2.2.1 = RX7) (hfr : Nat.ble 1 I.2.2.2.2.2.1 = true) (hlo : Nat.ble 21 I.2.2.2.2.2.2.1 = true) (hW : (rest.map fun v => v.category).sum ≤ 8) (hd : decode I.1 pc = .ok (.invokevirtual 332, 3)) (hf : rv_ h r 6 (cl_ (f_X7_putsAside r h) K) = some o) (kk : ∀ (x : Unit) (h1 : PH), K x h1 = some o → PF Γ I D h0 Q h1 (pc + 3) vs (rest)) : PF Γ I D h0 Q h pc vs (va_rf r :: rest) := by
  obtain ⟨cc, nL, own, rt, xt, fr, lo, nm⟩ := I
  cases hI
  exact j_cVv (n := 0) (y := yX7_putsAside) (cc2 := cX7_putsAside) (As := []) (C := RX7) (ci := 6) rfl (lw_V q2740 q2742 qs87 q117 q2743) hyV_X7_putsAside hfr hlo rfl hW hd (c_X7_putsAside r) hf _ rfl kk
theorem kc_X7_335 {Γ : GX} {I : MI} {D : va_G} {h0 : PH} {Q : State → Prop} {h : PH} {pc : Nat} {vs : List (Option Value)} {rest : List Value} {β : Type} {o : β} {r : Option Nat}  {K : ((Unit) → PH → Option β)} (hI : I.2.2.1 = RX7) (hfr : Nat.ble 1 I.2.2.2.2.2.1 = true) (hlo : Nat.ble 21 I.2.2.2.2.2.2.1 = true) (hW : (rest.map fun v => v.category).sum ≤ 8) (hd : decode I.1 pc = .ok (.invokevirtual 335, 3)) (hf : rv_ h r 6 (cl_ (f_X7_takesBack r h) K) = some o) (kk : ∀ (x : Unit) (h1 : PH), K x h1 = some o → PF Γ I D h0 Q h1 (pc + 3) vs (rest)) : PF Γ I D h0 Q h pc vs (va_rf r :: rest) := by
  obtain ⟨cc, nL, own, rt, xt, fr, lo, nm⟩ := I
  cases hI
  exact j_cVv (n := 0) (y := yX7_takesBack) (cc2 := cX7_takesBack) (As := []) (C := RX7) (ci := 6) rfl (lw_V q2744 q2746 qs88 q117 q2747) hyV_X7_takesBack hfr hlo rfl hW hd (c_X7_takesBack r) hf _ rfl kk
abbrev mi_X7_nextLeader : MI := (cX7_nextLeader, 7, RX7, (Option.some FieldType.int), [], 8, 194, "nextLeader")
def f_X7_nextLeader_B149 (t0 : Int32) (h : PH) : Option (Int32 × PH) := some (t0, h)
theorem pf_X7_nextLeader_B149 {Γ : GX} {D : va_G} {h0 : PH} {o : Int32 × PH} (t0 : Int32) (h : PH) (hf : f_X7_nextLeader_B149 t0 h = some o) : PF Γ mi_X7_nextLeader D h0 (QR Γ D h0 (ovi o.1) o.2) h 149 [none, none, none, none, none, none, none] [.int t0] := by
  have e9 := Option.some.inj hf
  subst e9
  exact j_iret rfl dX7_nextLeader_149
def f_X7_nextLeader_B135 (x6 : Int32) (h : PH) : Option (Int32 × PH) := (if x6 = (6 : Int32) then (f_X7_nextLeader_B149 (-4 : Int32) h) else (f_X7_nextLeader_B149 x6 h))
theorem pf_X7_nextLeader_B135 {Γ : GX} {D : va_G} {h0 : PH} {o : Int32 × PH} (x6 : Int32) (h : PH) (hf : f_X7_nextLeader_B135 x6 h = some o) : PF Γ mi_X7_nextLeader D h0 (QR Γ D h0 (ovi o.1) o.2) h 135 [none, none, none, none, none, none, some (.int x6)] [] := by
  refine j_iload dX7_nextLeader_135 rfl ?_
  refine j_bipush (6 : Int32) dX7_nextLeader_137 (by decide) ?_
  refine j_icmp_ne 147 dX7_nextLeader_139 (by decide) hf (fun c_ hf => ?_) (fun c_ hf => ?_)
  · refine j_iload dX7_nextLeader_147 rfl ?_
    refine j_weak [none, none, none, none, none, none, none] (Wk.k (Wk.k (Wk.k (Wk.k (Wk.k (Wk.k (Wk.s Wk.n))))))) ?_
    exact pf_X7_nextLeader_B149 x6 h hf
  · refine j_bipush (-4 : Int32) dX7_nextLeader_142 (by decide) ?_
    refine j_goto 149 dX7_nextLeader_144 (by decide) ?_
    refine j_weak [none, none, none, none, none, none, none] (Wk.k (Wk.k (Wk.k (Wk.k (Wk.k (Wk.k (Wk.s Wk.n))))))) ?_
    exact pf_X7_nextLeader_B149 (-4 : Int32) h hf
def f_X7_nextLeader_L112 : Nat → Int32 → Int32 → PH → Option (Int32 × PH)
  | 0, _, _, _ => none
  | n + 1, x5, x6, h => (if (6 : Int32) ≤ x6 then (f_X7_nextLeader_B135 x6 h) else ((if ((x5 >>> (x6 &&& 31)) &&& (1 : Int32)) = 0 then (f_X7_nextLeader_L112 n x5 (x6 + (1 : Int32)) h) else (f_X7_nextLeader_B135 x6 h))))
theorem pf_X7_nextLeader_L112 {Γ : GX} {D : va_G} {h0 : PH} {o : Int32 × PH} : ∀ (n : Nat) (x5 : Int32) (x6 : Int32) (h : PH), f_X7_nextLeader_L112 n x5 x6 h = some o → PF Γ mi_X7_nextLeader D h0 (QR Γ D h0 (ovi o.1) o.2) h 112 [none, none, none, none, none, some (.int x5), some (.int x6)] [] := by
  intro n
  induction n with
  | zero => intro x5 x6 h hf; cases hf
  | succ n ih =>
    intro x5 x6 h hf
    refine j_iload dX7_nextLeader_112 rfl ?_
    refine j_bipush (6 : Int32) dX7_nextLeader_114 (by decide) ?_
    refine j_icmp_ge 135 dX7_nextLeader_116 (by decide) hf (fun c_ hf => ?_) (fun c_ hf => ?_)
    · refine j_weak [none, none, none, none, none, none, some (.int x6)] (Wk.k (Wk.k (Wk.k (Wk.k (Wk.k (Wk.s (Wk.k Wk.n))))))) ?_
      exact pf_X7_nextLeader_B135 x6 h hf
    · refine j_iload dX7_nextLeader_119 rfl ?_
      refine j_iload dX7_nextLeader_121 rfl ?_
      refine j_ishr dX7_nextLeader_123 ?_
      refine j_iconst (1 : Int32) dX7_nextLeader_124 (by decide) ?_
      refine j_iand dX7_nextLeader_125 ?_
      refine j_if_ne 135 dX7_nextLeader_126 (by decide) hf (fun c_ hf => ?_) (fun c_ hf => ?_)
      · refine j_weak [none, none, none, none, none, none, some (.int x6)] (Wk.k (Wk.k (Wk.k (Wk.k (Wk.k (Wk.s (Wk.k Wk.n))))))) ?_
        exact pf_X7_nextLeader_B135 x6 h hf
      · refine j_iinc (x6 + (1 : Int32)) [none, none, none, none, none, some (.int x5), some (.int (x6 + (1 : Int32)))] dX7_nextLeader_129 rfl rfl (cz rfl) rfl rfl ?_
        refine j_goto 112 dX7_nextLeader_132 (by decide) ?_
        exact ih x5 (x6 + (1 : Int32)) h hf
def f_X7_nextLeader_B105 (x0 : Option Nat) (x5 : Int32) (h : PH) : Option (Int32 × PH) := rv_ h x0 6 (cl_ (f_X7_takesBack x0 h) fun _u h18 => f_X7_nextLeader_L112 FU x5 (0 : Int32) h18)
theorem pf_X7_nextLeader_B105 {Γ : GX} {D : va_G} {h0 : PH} {o : Int32 × PH} (x0 : Option Nat) (x5 : Int32) (h : PH) (hf : f_X7_nextLeader_B105 x0 x5 h = some o) : PF Γ mi_X7_nextLeader D h0 (QR Γ D h0 (ovi o.1) o.2) h 105 [some (va_rf x0), none, none, none, none, some (.int x5), none] [] := by
  refine j_aload_n 0 dX7_nextLeader_105 rfl rfl ?_
  refine kc_X7_335 rfl rfl rfl (by decide) dX7_nextLeader_106 hf (fun _u h18 hf => ?_)
  refine j_iconst (0 : Int32) dX7_nextLeader_109 (by decide) ?_
  refine j_istore [some (va_rf x0), none, none, none, none, some (.int x5), some (.int (0 : Int32))] dX7_nextLeader_110 (cz rfl) rfl rfl ?_
  refine j_weak [none, none, none, none, none, some (.int x5), some (.int (0 : Int32))] (Wk.s (Wk.k (Wk.k (Wk.k (Wk.k (Wk.k (Wk.k Wk.n))))))) ?_
  exact pf_X7_nextLeader_L112 FU x5 (0 : Int32) h18 hf
def f_X7_nextLeader_L69 : Nat → Option Nat → Int32 → Int32 → Int32 → Int32 → PH → Option (Int32 × PH)
  | 0, _, _, _, _, _, _ => none
  | n + 1, x0, x2, x3, x4, x5, h => (if x5 = 0 then ((if x2 < x4 then (f_X7_nextLeader_B105 x0 x5 h) else (rv_ h x0 6 (cl_ (f_X7_goesTo x0 x4 h) fun _u h13 => rv_ h13 x0 6 (cl_ (f_X7_leadersNow x0 h13) fun v15 h14 => rv_ h14 x0 6 (cl_ (f_X7_nextTime x0 h14) fun v17 h16 => f_X7_nextLeader_L69 n x0 x2 x3 v17 (v15 &&& (x3 ^^^ (-1 : Int32))) h16)))))) else (f_X7_nextLeader_B105 x0 x5 h))
theorem pf_X7_nextLeader_L69 {Γ : GX} {D : va_G} {h0 : PH} {o : Int32 × PH} : ∀ (n : Nat) (x0 : Option Nat) (x2 : Int32) (x3 : Int32) (x4 : Int32) (x5 : Int32) (h : PH), f_X7_nextLeader_L69 n x0 x2 x3 x4 x5 h = some o → PF Γ mi_X7_nextLeader D h0 (QR Γ D h0 (ovi o.1) o.2) h 69 [some (va_rf x0), none, some (.int x2), some (.int x3), some (.int x4), some (.int x5), none] [] := by
  intro n
  induction n with
  | zero => intro x0 x2 x3 x4 x5 h hf; cases hf
  | succ n ih =>
    intro x0 x2 x3 x4 x5 h hf
    refine j_iload dX7_nextLeader_69 rfl ?_
    refine j_if_ne 105 dX7_nextLeader_71 (by decide) hf (fun c_ hf => ?_) (fun c_ hf => ?_)
    · refine j_weak [some (va_rf x0), none, none, none, none, some (.int x5), none] (Wk.k (Wk.k (Wk.s (Wk.s (Wk.s (Wk.k (Wk.k Wk.n))))))) ?_
      exact pf_X7_nextLeader_B105 x0 x5 h hf
    · refine j_iload dX7_nextLeader_74 rfl ?_
      refine j_iload_n 2 dX7_nextLeader_76 rfl rfl ?_
      refine j_icmp_gt 105 dX7_nextLeader_77 (by decide) hf (fun c_ hf => ?_) (fun c_ hf => ?_)
      · refine j_weak [some (va_rf x0), none, none, none, none, some (.int x5), none] (Wk.k (Wk.k (Wk.s (Wk.s (Wk.s (Wk.k (Wk.k Wk.n))))))) ?_
        exact pf_X7_nextLeader_B105 x0 x5 h hf
      · refine j_aload_n 0 dX7_nextLeader_80 rfl rfl ?_
        refine j_iload dX7_nextLeader_81 rfl ?_
        refine kc_X7_280 rfl rfl rfl (by decide) dX7_nextLeader_83 hf (fun _u h13 hf => ?_)
        refine j_aload_n 0 dX7_nextLeader_86 rfl rfl ?_
        refine kc_X7_310 rfl rfl rfl (by decide) dX7_nextLeader_87 hf (fun v15 h14 hf => ?_)
        refine j_iload_n 3 dX7_nextLeader_90 rfl rfl ?_
        refine j_iconst (-1 : Int32) dX7_nextLeader_91 (by decide) ?_
        refine j_ixor dX7_nextLeader_92 ?_
        refine j_iand dX7_nextLeader_93 ?_
        refine j_istore [some (va_rf x0), none, some (.int x2), some (.int x3), some (.int x4), some (.int (v15 &&& (x3 ^^^ (-1 : Int32)))), none] dX7_nextLeader_94 (cz rfl) rfl rfl ?_
        refine j_aload_n 0 dX7_nextLeader_96 rfl rfl ?_
        refine kc_X7_259 rfl rfl rfl (by decide) dX7_nextLeader_97 hf (fun v17 h16 hf => ?_)
        refine j_istore [some (va_rf x0), none, some (.int x2), some (.int x3), some (.int v17), some (.int (v15 &&& (x3 ^^^ (-1 : Int32)))), none] dX7_nextLeader_100 (cz rfl) rfl rfl ?_
        refine j_goto 69 dX7_nextLeader_102 (by decide) ?_
        exact ih x0 x2 x3 v17 (v15 &&& (x3 ^^^ (-1 : Int32))) h16 hf
def f_X7_nextLeader_B23 (x0 : Option Nat) (x1 : Int32) (t0 : Option Nat) (t1 : Int32) (h : PH) : Option (Int32 × PH) := rv_ h t0 6 (cl_ (f_X7_throwsIf t0 t1 (1 : Int32) h) fun v5 h4 => (if v5 = 0 then (gR h4 x0 6 0 fun r6 => aI h4 r6 0 (0 : Int32) fun v7 => (if (v7 + x1) ≤ (5000000 : Int32) then (rv_ h4 x0 6 (cl_ (f_X7_putsAside x0 h4) fun _u h8 => rv_ h8 x0 6 (cl_ (f_X7_leadersNow x0 h8) fun v10 h9 => rv_ h9 x0 6 (cl_ (f_X7_nextTime x0 h9) fun v12 h11 => f_X7_nextLeader_L69 FU x0 (v7 + x1) v10 v12 (0 : Int32) h11)))) else (some ((-5 : Int32), h4)))) else (some ((0 : Int32), h4))))
theorem pf_X7_nextLeader_B23 {Γ : GX} {D : va_G} {h0 : PH} {o : Int32 × PH} (x0 : Option Nat) (x1 : Int32) (t0 : Option Nat) (t1 : Int32) (h : PH) (hf : f_X7_nextLeader_B23 x0 x1 t0 t1 h = some o) : PF Γ mi_X7_nextLeader D h0 (QR Γ D h0 (ovi o.1) o.2) h 23 [some (va_rf x0), some (.int x1), none, none, none, none, none] [.int t1, va_rf t0] := by
  refine j_iconst (1 : Int32) dX7_nextLeader_23 (by decide) ?_
  refine kc_X7_72 rfl rfl rfl (by decide) dX7_nextLeader_24 hf (fun v5 h4 hf => ?_)
  refine j_if_eq 32 dX7_nextLeader_27 (by decide) hf (fun c_ hf => ?_) (fun c_ hf => ?_)
  · refine j_aload_n 0 dX7_nextLeader_32 rfl rfl ?_
    refine j_gR (ci := 6) (k := 0) rfl in_X7 rfl q2202 dX7_nextLeader_33 hf (fun r6 hf => ?_)
    refine j_iconst (0 : Int32) dX7_nextLeader_36 (by decide) ?_
    refine j_iald dX7_nextLeader_37 hf (fun v7 hf => ?_)
    refine j_iload_n 1 dX7_nextLeader_38 rfl rfl ?_
    refine j_iadd dX7_nextLeader_39 ?_
    refine j_istore_n 2 [some (va_rf x0), some (.int x1), some (.int (v7 + x1)), none, none, none, none] dX7_nextLeader_40 rfl (cz rfl) rfl rfl ?_
    refine j_iload_n 2 dX7_nextLeader_41 rfl rfl ?_
    refine j_ldcw q2373 dX7_nextLeader_42 ?_
    refine j_icmp_le 51 dX7_nextLeader_45 (by decide) hf (fun c_ hf => ?_) (fun c_ hf => ?_)
    · refine j_aload_n 0 dX7_nextLeader_51 rfl rfl ?_
      refine kc_X7_332 rfl rfl rfl (by decide) dX7_nextLeader_52 hf (fun _u h8 hf => ?_)
      refine j_aload_n 0 dX7_nextLeader_55 rfl rfl ?_
      refine kc_X7_310 rfl rfl rfl (by decide) dX7_nextLeader_56 hf (fun v10 h9 hf => ?_)
      refine j_istore_n 3 [some (va_rf x0), some (.int x1), some (.int (v7 + x1)), some (.int v10), none, none, none] dX7_nextLeader_59 rfl (cz rfl) rfl rfl ?_
      refine j_aload_n 0 dX7_nextLeader_60 rfl rfl ?_
      refine kc_X7_259 rfl rfl rfl (by decide) dX7_nextLeader_61 hf (fun v12 h11 hf => ?_)
      refine j_istore [some (va_rf x0), some (.int x1), some (.int (v7 + x1)), some (.int v10), some (.int v12), none, none] dX7_nextLeader_64 (cz rfl) rfl rfl ?_
      refine j_iconst (0 : Int32) dX7_nextLeader_66 (by decide) ?_
      refine j_istore [some (va_rf x0), some (.int x1), some (.int (v7 + x1)), some (.int v10), some (.int v12), some (.int (0 : Int32)), none] dX7_nextLeader_67 (cz rfl) rfl rfl ?_
      refine j_weak [some (va_rf x0), none, some (.int (v7 + x1)), some (.int v10), some (.int v12), some (.int (0 : Int32)), none] (Wk.k (Wk.s (Wk.k (Wk.k (Wk.k (Wk.k (Wk.k Wk.n))))))) ?_
      exact pf_X7_nextLeader_L69 FU x0 (v7 + x1) v10 v12 (0 : Int32) h11 hf
    · refine j_bipush (-5 : Int32) dX7_nextLeader_48 (by decide) ?_
      have e9 := Option.some.inj hf
      subst e9
      exact j_iret rfl dX7_nextLeader_50
  · refine j_iconst (0 : Int32) dX7_nextLeader_30 (by decide) ?_
    have e9 := Option.some.inj hf
    subst e9
    exact j_iret rfl dX7_nextLeader_31
def f_X7_nextLeader (r0 : Option Nat) (p0 : Int32) (h0 : PH) : Option (Int32 × PH) := pV h0 r0 6 1 (.int (0 : Int32)) fun h1 => cl_ (f_X7_in (p0.toInt64) (1 : Int64) (5000 : Int64) h1) fun v3 h2 => (if v3 = 0 then (f_X7_nextLeader_B23 r0 p0 r0 (1 : Int32) h2) else (f_X7_nextLeader_B23 r0 p0 r0 (0 : Int32) h2))
theorem hyS_X7_nextLeader : yX7_nextLeader.cls ≠ "java/lang/invoke/MethodHandle" ∧ yX7_nextLeader.cls ≠ "java/lang/invoke/VarHandle" ∧ (parseMethodDescriptor yX7_nextLeader.desc).map (fun d => d.parameters.length) = some 1 := by decide +kernel
theorem hyV_X7_nextLeader : yX7_nextLeader.cls = RX7 ∧ yX7_nextLeader.cls ≠ "java/lang/invoke/MethodHandle" ∧ yX7_nextLeader.cls ≠ "java/lang/invoke/VarHandle" ∧ (parseMethodDescriptor yX7_nextLeader.desc).map (fun d => d.parameters.length) = some 1 := by decide +kernel
theorem c_X7_nextLeader {D : va_G} (r0 : Option Nat) (p0 : Int32) {h0 : PH} (l : Launch) (hl : l.stackTraces = false) (x : Int32) (h1 : PH) (hf : f_X7_nextLeader r0 p0 h0 = some (x, h1)) : CT l D yX7_nextLeader (ws_ yX7_nextLeader cX7_nextLeader 7 (Option.some FieldType.int)) 8 194 [va_rf r0, .int p0] h0 (ovi x) h1 := by
  refine ct_of hl [some (va_rf r0), some (.int p0), none, none, none, none, none] (by decide) (by rw [lgl]; simp [va_rf_cat, cat_i, cat_l]) (by simp [lv_args, vsL, va_rf_cat, cat_i, cat_l]) (fun Γ => ?_)
  obtain ⟨o, ho⟩ : ∃ o : Int32 × PH, o = (x, h1) := ⟨_, rfl⟩
  rw [← ho] at hf
  have e1 : x = o.1 := by rw [ho]
  have e2 : h1 = o.2 := by rw [ho]
  subst e1 e2
  clear ho
  show PF Γ mi_X7_nextLeader D h0 (QR Γ D h0 (ovi o.1) o.2) h0 0 [some (va_rf r0), some (.int p0), none, none, none, none, none] []
  unfold f_X7_nextLeader at hf
  refine j_aload_n 0 dX7_nextLeader_0 rfl rfl ?_
  refine j_iconst (0 : Int32) dX7_nextLeader_1 (by decide) ?_
  refine j_pV (ci := 6) (k := 1) tyX7 tyX7_ok nmX7 rfl in_X7 rfl q2203 (Or.inl rfl) rfl (fit_i _) dX7_nextLeader_2 hf (fun h1 hf => ?_)
  refine j_aload_n 0 dX7_nextLeader_5 rfl rfl ?_
  refine j_iload_n 1 dX7_nextLeader_6 rfl rfl ?_
  refine j_i2l dX7_nextLeader_7 ?_
  refine j_lconst (1 : Int64) dX7_nextLeader_8 (by decide) ?_
  refine j_ldc2 q2372 dX7_nextLeader_9 ?_
  refine kc_X7_68 rfl rfl rfl (by simp [va_rf_cat, cat_i, cat_l]) dX7_nextLeader_12 hf (fun v3 h2 hf => ?_)
  refine j_if_ne 22 dX7_nextLeader_15 (by decide) hf (fun c_ hf => ?_) (fun c_ hf => ?_)
  · refine j_iconst (0 : Int32) dX7_nextLeader_22 (by decide) ?_
    exact pf_X7_nextLeader_B23 r0 p0 r0 (0 : Int32) h2 hf
  · refine j_iconst (1 : Int32) dX7_nextLeader_18 (by decide) ?_
    refine j_goto 23 dX7_nextLeader_19 (by decide) ?_
    exact pf_X7_nextLeader_B23 r0 p0 r0 (1 : Int32) h2 hf
