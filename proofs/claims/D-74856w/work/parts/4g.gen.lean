/-! printed by gen.py: X7_leaderlessTime X7_timeUntilLeader X7_longestLeaderless X7_acquiresUntil X7_tryWrite X7_predictRead X7_advance -/
set_option maxRecDepth 100000
abbrev mi_X7_leaderlessTime : MI := (cX7_leaderlessTime, 4, RX7, (Option.some FieldType.int), [], 8, 194, "leaderlessTime")
def f_X7_leaderlessTime_B23 (x0 : Option Nat) (x1 : Int32) (t0 : Option Nat) (t1 : Int32) (h : PH) : Option (Int32 × PH) := rv_ h t0 6 (cl_ (f_X7_throwsIf t0 t1 (1 : Int32) h) fun v5 h4 => (if v5 = 0 then (gR h4 x0 6 0 fun r6 => aI h4 r6 0 (0 : Int32) fun v7 => (if (v7 + x1) ≤ (5000000 : Int32) then (rv_ h4 x0 6 (cl_ (f_X7_putsAside x0 h4) fun _u h8 => gR h8 x0 6 0 fun r9 => sI h8 r9 0 (23 : Int32) (0 : Int32) fun h10 => rv_ h10 x0 6 (cl_ (f_X7_goesTo x0 (v7 + x1) h10) fun _u h11 => gR h11 x0 6 0 fun r12 => aI h11 r12 0 (23 : Int32) fun v13 => rv_ h11 x0 6 (cl_ (f_X7_takesBack x0 h11) fun _u h14 => some (v13, h14))))) else (some ((-5 : Int32), h4)))) else (some ((0 : Int32), h4))))
theorem pf_X7_leaderlessTime_B23 {Γ : GX} {D : va_G} {h0 : PH} {o : Int32 × PH} (x0 : Option Nat) (x1 : Int32) (t0 : Option Nat) (t1 : Int32) (h : PH) (hf : f_X7_leaderlessTime_B23 x0 x1 t0 t1 h = some o) : PF Γ mi_X7_leaderlessTime D h0 (QR Γ D h0 (ovi o.1) o.2) h 23 [some (va_rf x0), some (.int x1), none, none] [.int t1, va_rf t0] := by
  refine j_iconst (1 : Int32) dX7_leaderlessTime_23 (by decide) ?_
  refine kc_X7_72 rfl rfl rfl (by decide) dX7_leaderlessTime_24 hf (fun v5 h4 hf => ?_)
  refine j_if_eq 32 dX7_leaderlessTime_27 (by decide) hf (fun c_ hf => ?_) (fun c_ hf => ?_)
  · refine j_aload_n 0 dX7_leaderlessTime_32 rfl rfl ?_
    refine j_gR (ci := 6) (k := 0) rfl in_X7 rfl q2202 dX7_leaderlessTime_33 hf (fun r6 hf => ?_)
    refine j_iconst (0 : Int32) dX7_leaderlessTime_36 (by decide) ?_
    refine j_iald dX7_leaderlessTime_37 hf (fun v7 hf => ?_)
    refine j_iload_n 1 dX7_leaderlessTime_38 rfl rfl ?_
    refine j_iadd dX7_leaderlessTime_39 ?_
    refine j_istore_n 2 [some (va_rf x0), some (.int x1), some (.int (v7 + x1)), none] dX7_leaderlessTime_40 rfl (cz rfl) rfl rfl ?_
    refine j_iload_n 2 dX7_leaderlessTime_41 rfl rfl ?_
    refine j_ldcw q2373 dX7_leaderlessTime_42 ?_
    refine j_icmp_le 51 dX7_leaderlessTime_45 (by decide) hf (fun c_ hf => ?_) (fun c_ hf => ?_)
    · refine j_aload_n 0 dX7_leaderlessTime_51 rfl rfl ?_
      refine kc_X7_332 rfl rfl rfl (by decide) dX7_leaderlessTime_52 hf (fun _u h8 hf => ?_)
      refine j_aload_n 0 dX7_leaderlessTime_55 rfl rfl ?_
      refine j_gR (ci := 6) (k := 0) rfl in_X7 rfl q2202 dX7_leaderlessTime_56 hf (fun r9 hf => ?_)
      refine j_bipush (23 : Int32) dX7_leaderlessTime_59 (by decide) ?_
      refine j_iconst (0 : Int32) dX7_leaderlessTime_61 (by decide) ?_
      refine j_iast dX7_leaderlessTime_62 hf (fun h10 hf => ?_)
      refine j_aload_n 0 dX7_leaderlessTime_63 rfl rfl ?_
      refine j_iload_n 2 dX7_leaderlessTime_64 rfl rfl ?_
      refine kc_X7_280 rfl rfl rfl (by decide) dX7_leaderlessTime_65 hf (fun _u h11 hf => ?_)
      refine j_aload_n 0 dX7_leaderlessTime_68 rfl rfl ?_
      refine j_gR (ci := 6) (k := 0) rfl in_X7 rfl q2202 dX7_leaderlessTime_69 hf (fun r12 hf => ?_)
      refine j_bipush (23 : Int32) dX7_leaderlessTime_72 (by decide) ?_
      refine j_iald dX7_leaderlessTime_74 hf (fun v13 hf => ?_)
      refine j_istore_n 3 [some (va_rf x0), some (.int x1), some (.int (v7 + x1)), some (.int v13)] dX7_leaderlessTime_75 rfl (cz rfl) rfl rfl ?_
      refine j_aload_n 0 dX7_leaderlessTime_76 rfl rfl ?_
      refine kc_X7_335 rfl rfl rfl (by decide) dX7_leaderlessTime_77 hf (fun _u h14 hf => ?_)
      refine j_iload_n 3 dX7_leaderlessTime_80 rfl rfl ?_
      have e9 := Option.some.inj hf
      subst e9
      exact j_iret rfl dX7_leaderlessTime_81
    · refine j_bipush (-5 : Int32) dX7_leaderlessTime_48 (by decide) ?_
      have e9 := Option.some.inj hf
      subst e9
      exact j_iret rfl dX7_leaderlessTime_50
  · refine j_iconst (0 : Int32) dX7_leaderlessTime_30 (by decide) ?_
    have e9 := Option.some.inj hf
    subst e9
    exact j_iret rfl dX7_leaderlessTime_31
def f_X7_leaderlessTime (r0 : Option Nat) (p0 : Int32) (h0 : PH) : Option (Int32 × PH) := pV h0 r0 6 1 (.int (0 : Int32)) fun h1 => cl_ (f_X7_in (p0.toInt64) (1 : Int64) (5000 : Int64) h1) fun v3 h2 => (if v3 = 0 then (f_X7_leaderlessTime_B23 r0 p0 r0 (1 : Int32) h2) else (f_X7_leaderlessTime_B23 r0 p0 r0 (0 : Int32) h2))
theorem hyS_X7_leaderlessTime : yX7_leaderlessTime.cls ≠ "java/lang/invoke/MethodHandle" ∧ yX7_leaderlessTime.cls ≠ "java/lang/invoke/VarHandle" ∧ (parseMethodDescriptor yX7_leaderlessTime.desc).map (fun d => d.parameters.length) = some 1 := by decide +kernel
theorem hyV_X7_leaderlessTime : yX7_leaderlessTime.cls = RX7 ∧ yX7_leaderlessTime.cls ≠ "java/lang/invoke/MethodHandle" ∧ yX7_leaderlessTime.cls ≠ "java/lang/invoke/VarHandle" ∧ (parseMethodDescriptor yX7_leaderlessTime.desc).map (fun d => d.parameters.length) = some 1 := by decide +kernel
theorem c_X7_leaderlessTime {D : va_G} (r0 : Option Nat) (p0 : Int32) {h0 : PH} (l : Launch) (hl : l.stackTraces = false) (x : Int32) (h1 : PH) (hf : f_X7_leaderlessTime r0 p0 h0 = some (x, h1)) : CT l D yX7_leaderlessTime (ws_ yX7_leaderlessTime cX7_leaderlessTime 4 (Option.some FieldType.int)) 8 194 [va_rf r0, .int p0] h0 (ovi x) h1 := by
  refine ct_of hl [some (va_rf r0), some (.int p0), none, none] (by decide) (by rw [lgl]; simp [va_rf_cat, cat_i, cat_l]) (by simp [lv_args, vsL, va_rf_cat, cat_i, cat_l]) (fun Γ => ?_)
  obtain ⟨o, ho⟩ : ∃ o : Int32 × PH, o = (x, h1) := ⟨_, rfl⟩
  rw [← ho] at hf
  have e1 : x = o.1 := by rw [ho]
  have e2 : h1 = o.2 := by rw [ho]
  subst e1 e2
  clear ho
  show PF Γ mi_X7_leaderlessTime D h0 (QR Γ D h0 (ovi o.1) o.2) h0 0 [some (va_rf r0), some (.int p0), none, none] []
  unfold f_X7_leaderlessTime at hf
  refine j_aload_n 0 dX7_leaderlessTime_0 rfl rfl ?_
  refine j_iconst (0 : Int32) dX7_leaderlessTime_1 (by decide) ?_
  refine j_pV (ci := 6) (k := 1) tyX7 tyX7_ok nmX7 rfl in_X7 rfl q2203 (Or.inl rfl) rfl (fit_i _) dX7_leaderlessTime_2 hf (fun h1 hf => ?_)
  refine j_aload_n 0 dX7_leaderlessTime_5 rfl rfl ?_
  refine j_iload_n 1 dX7_leaderlessTime_6 rfl rfl ?_
  refine j_i2l dX7_leaderlessTime_7 ?_
  refine j_lconst (1 : Int64) dX7_leaderlessTime_8 (by decide) ?_
  refine j_ldc2 q2372 dX7_leaderlessTime_9 ?_
  refine kc_X7_68 rfl rfl rfl (by simp [va_rf_cat, cat_i, cat_l]) dX7_leaderlessTime_12 hf (fun v3 h2 hf => ?_)
  refine j_if_ne 22 dX7_leaderlessTime_15 (by decide) hf (fun c_ hf => ?_) (fun c_ hf => ?_)
  · refine j_iconst (0 : Int32) dX7_leaderlessTime_22 (by decide) ?_
    exact pf_X7_leaderlessTime_B23 r0 p0 r0 (0 : Int32) h2 hf
  · refine j_iconst (1 : Int32) dX7_leaderlessTime_18 (by decide) ?_
    refine j_goto 23 dX7_leaderlessTime_19 (by decide) ?_
    exact pf_X7_leaderlessTime_B23 r0 p0 r0 (1 : Int32) h2 hf
abbrev mi_X7_timeUntilLeader : MI := (cX7_timeUntilLeader, 7, RX7, (Option.some FieldType.int), [], 8, 194, "timeUntilLeader")
def f_X7_timeUntilLeader_B33  (h : PH) : Option (Int32 × PH) := some ((0 : Int32), h)
theorem pf_X7_timeUntilLeader_B33 {Γ : GX} {D : va_G} {h0 : PH} {o : Int32 × PH}  (h : PH) (hf : f_X7_timeUntilLeader_B33  h = some o) : PF Γ mi_X7_timeUntilLeader D h0 (QR Γ D h0 (ovi o.1) o.2) h 33 [none, none, none, none, none, none, none] [] := by
  refine j_iconst (0 : Int32) dX7_timeUntilLeader_33 (by decide) ?_
  have e9 := Option.some.inj hf
  subst e9
  exact j_iret rfl dX7_timeUntilLeader_34
def f_X7_timeUntilLeader_B119 (x0 : Option Nat) (t0 : Int32) (h : PH) : Option (Int32 × PH) := rv_ h x0 6 (cl_ (f_X7_takesBack x0 h) fun _u h21 => some (t0, h21))
theorem pf_X7_timeUntilLeader_B119 {Γ : GX} {D : va_G} {h0 : PH} {o : Int32 × PH} (x0 : Option Nat) (t0 : Int32) (h : PH) (hf : f_X7_timeUntilLeader_B119 x0 t0 h = some o) : PF Γ mi_X7_timeUntilLeader D h0 (QR Γ D h0 (ovi o.1) o.2) h 119 [some (va_rf x0), none, none, none, none, none, none] [.int t0] := by
  refine j_istore [some (va_rf x0), none, none, none, none, none, some (.int t0)] dX7_timeUntilLeader_119 cn' rfl rfl ?_
  refine j_aload_n 0 dX7_timeUntilLeader_121 rfl rfl ?_
  refine kc_X7_335 rfl rfl rfl (by decide) dX7_timeUntilLeader_122 hf (fun _u h21 hf => ?_)
  refine j_iload dX7_timeUntilLeader_125 rfl ?_
  have e9 := Option.some.inj hf
  subst e9
  exact j_iret rfl dX7_timeUntilLeader_127
def f_X7_timeUntilLeader_B98 (x0 : Option Nat) (x1 : Int32) (x3 : Int32) (h : PH) : Option (Int32 × PH) := rv_ h x0 6 (cl_ (f_X7_leads x0 x1 h) fun v18 h17 => (if v18 = 0 then (f_X7_timeUntilLeader_B119 x0 (-4 : Int32) h17) else (gR h17 x0 6 0 fun r19 => aI h17 r19 0 (0 : Int32) fun v20 => f_X7_timeUntilLeader_B119 x0 (v20 - x3) h17)))
theorem pf_X7_timeUntilLeader_B98 {Γ : GX} {D : va_G} {h0 : PH} {o : Int32 × PH} (x0 : Option Nat) (x1 : Int32) (x3 : Int32) (h : PH) (hf : f_X7_timeUntilLeader_B98 x0 x1 x3 h = some o) : PF Γ mi_X7_timeUntilLeader D h0 (QR Γ D h0 (ovi o.1) o.2) h 98 [some (va_rf x0), some (.int x1), none, some (.int x3), none, none, none] [] := by
  refine j_aload_n 0 dX7_timeUntilLeader_98 rfl rfl ?_
  refine j_iload_n 1 dX7_timeUntilLeader_99 rfl rfl ?_
  refine kc_X7_253 rfl rfl rfl (by decide) dX7_timeUntilLeader_100 hf (fun v18 h17 hf => ?_)
  refine j_if_eq 117 dX7_timeUntilLeader_103 (by decide) hf (fun c_ hf => ?_) (fun c_ hf => ?_)
  · refine j_bipush (-4 : Int32) dX7_timeUntilLeader_117 (by decide) ?_
    refine j_weak [some (va_rf x0), none, none, none, none, none, none] (Wk.k (Wk.s (Wk.k (Wk.s (Wk.k (Wk.k (Wk.k Wk.n))))))) ?_
    exact pf_X7_timeUntilLeader_B119 x0 (-4 : Int32) h17 hf
  · refine j_aload_n 0 dX7_timeUntilLeader_106 rfl rfl ?_
    refine j_gR (ci := 6) (k := 0) rfl in_X7 rfl q2202 dX7_timeUntilLeader_107 hf (fun r19 hf => ?_)
    refine j_iconst (0 : Int32) dX7_timeUntilLeader_110 (by decide) ?_
    refine j_iald dX7_timeUntilLeader_111 hf (fun v20 hf => ?_)
    refine j_iload_n 3 dX7_timeUntilLeader_112 rfl rfl ?_
    refine j_isub dX7_timeUntilLeader_113 ?_
    refine j_goto 119 dX7_timeUntilLeader_114 (by decide) ?_
    refine j_weak [some (va_rf x0), none, none, none, none, none, none] (Wk.k (Wk.s (Wk.k (Wk.s (Wk.k (Wk.k (Wk.k Wk.n))))))) ?_
    exact pf_X7_timeUntilLeader_B119 x0 (v20 - x3) h17 hf
def f_X7_timeUntilLeader_L68 : Nat → Option Nat → Int32 → Int32 → Int32 → Int32 → PH → Option (Int32 × PH)
  | 0, _, _, _, _, _, _ => none
  | n + 1, x0, x1, x3, x4, x5, h => rv_ h x0 6 (cl_ (f_X7_leads x0 x1 h) fun v13 h12 => (if v13 = 0 then ((if x4 < x5 then (f_X7_timeUntilLeader_B98 x0 x1 x3 h12) else (rv_ h12 x0 6 (cl_ (f_X7_goesTo x0 x5 h12) fun _u h14 => rv_ h14 x0 6 (cl_ (f_X7_nextTime x0 h14) fun v16 h15 => f_X7_timeUntilLeader_L68 n x0 x1 x3 x4 v16 h15))))) else (f_X7_timeUntilLeader_B98 x0 x1 x3 h12)))
theorem pf_X7_timeUntilLeader_L68 {Γ : GX} {D : va_G} {h0 : PH} {o : Int32 × PH} : ∀ (n : Nat) (x0 : Option Nat) (x1 : Int32) (x3 : Int32) (x4 : Int32) (x5 : Int32) (h : PH), f_X7_timeUntilLeader_L68 n x0 x1 x3 x4 x5 h = some o → PF Γ mi_X7_timeUntilLeader D h0 (QR Γ D h0 (ovi o.1) o.2) h 68 [some (va_rf x0), some (.int x1), none, some (.int x3), some (.int x4), some (.int x5), none] [] := by
  intro n
  induction n with
  | zero => intro x0 x1 x3 x4 x5 h hf; cases hf
  | succ n ih =>
    intro x0 x1 x3 x4 x5 h hf
    refine j_aload_n 0 dX7_timeUntilLeader_68 rfl rfl ?_
    refine j_iload_n 1 dX7_timeUntilLeader_69 rfl rfl ?_
    refine kc_X7_253 rfl rfl rfl (by decide) dX7_timeUntilLeader_70 hf (fun v13 h12 hf => ?_)
    refine j_if_ne 98 dX7_timeUntilLeader_73 (by decide) hf (fun c_ hf => ?_) (fun c_ hf => ?_)
    · refine j_weak [some (va_rf x0), some (.int x1), none, some (.int x3), none, none, none] (Wk.k (Wk.k (Wk.k (Wk.k (Wk.s (Wk.s (Wk.k Wk.n))))))) ?_
      exact pf_X7_timeUntilLeader_B98 x0 x1 x3 h12 hf
    · refine j_iload dX7_timeUntilLeader_76 rfl ?_
      refine j_iload dX7_timeUntilLeader_78 rfl ?_
      refine j_icmp_gt 98 dX7_timeUntilLeader_80 (by decide) hf (fun c_ hf => ?_) (fun c_ hf => ?_)
      · refine j_weak [some (va_rf x0), some (.int x1), none, some (.int x3), none, none, none] (Wk.k (Wk.k (Wk.k (Wk.k (Wk.s (Wk.s (Wk.k Wk.n))))))) ?_
        exact pf_X7_timeUntilLeader_B98 x0 x1 x3 h12 hf
      · refine j_aload_n 0 dX7_timeUntilLeader_83 rfl rfl ?_
        refine j_iload dX7_timeUntilLeader_84 rfl ?_
        refine kc_X7_280 rfl rfl rfl (by decide) dX7_timeUntilLeader_86 hf (fun _u h14 hf => ?_)
        refine j_aload_n 0 dX7_timeUntilLeader_89 rfl rfl ?_
        refine kc_X7_259 rfl rfl rfl (by decide) dX7_timeUntilLeader_90 hf (fun v16 h15 hf => ?_)
        refine j_istore [some (va_rf x0), some (.int x1), none, some (.int x3), some (.int x4), some (.int v16), none] dX7_timeUntilLeader_93 (cz rfl) rfl rfl ?_
        refine j_goto 68 dX7_timeUntilLeader_95 (by decide) ?_
        exact ih x0 x1 x3 x4 v16 h15 hf
def f_X7_timeUntilLeader_B26 (x0 : Option Nat) (x1 : Int32) (x2 : Int32) (t0 : Option Nat) (t1 : Int32) (h : PH) : Option (Int32 × PH) := rv_ h t0 6 (cl_ (f_X7_throwsIf t0 t1 (2 : Int32) h) fun v6 h5 => (if v6 = 0 then (gR h5 x0 6 0 fun r7 => aI h5 r7 0 (0 : Int32) fun v8 => (if (v8 + x2) ≤ (5000000 : Int32) then (rv_ h5 x0 6 (cl_ (f_X7_putsAside x0 h5) fun _u h9 => rv_ h9 x0 6 (cl_ (f_X7_nextTime x0 h9) fun v11 h10 => f_X7_timeUntilLeader_L68 FU x0 x1 v8 (v8 + x2) v11 h10))) else (some ((-5 : Int32), h5)))) else (f_X7_timeUntilLeader_B33 h5)))
theorem pf_X7_timeUntilLeader_B26 {Γ : GX} {D : va_G} {h0 : PH} {o : Int32 × PH} (x0 : Option Nat) (x1 : Int32) (x2 : Int32) (t0 : Option Nat) (t1 : Int32) (h : PH) (hf : f_X7_timeUntilLeader_B26 x0 x1 x2 t0 t1 h = some o) : PF Γ mi_X7_timeUntilLeader D h0 (QR Γ D h0 (ovi o.1) o.2) h 26 [some (va_rf x0), some (.int x1), some (.int x2), none, none, none, none] [.int t1, va_rf t0] := by
  refine j_iconst (2 : Int32) dX7_timeUntilLeader_26 (by decide) ?_
  refine kc_X7_72 rfl rfl rfl (by decide) dX7_timeUntilLeader_27 hf (fun v6 h5 hf => ?_)
  refine j_if_eq 35 dX7_timeUntilLeader_30 (by decide) hf (fun c_ hf => ?_) (fun c_ hf => ?_)
  · refine j_aload_n 0 dX7_timeUntilLeader_35 rfl rfl ?_
    refine j_gR (ci := 6) (k := 0) rfl in_X7 rfl q2202 dX7_timeUntilLeader_36 hf (fun r7 hf => ?_)
    refine j_iconst (0 : Int32) dX7_timeUntilLeader_39 (by decide) ?_
    refine j_iald dX7_timeUntilLeader_40 hf (fun v8 hf => ?_)
    refine j_istore_n 3 [some (va_rf x0), some (.int x1), some (.int x2), some (.int v8), none, none, none] dX7_timeUntilLeader_41 rfl (cz rfl) rfl rfl ?_
    refine j_iload_n 3 dX7_timeUntilLeader_42 rfl rfl ?_
    refine j_iload_n 2 dX7_timeUntilLeader_43 rfl rfl ?_
    refine j_iadd dX7_timeUntilLeader_44 ?_
    refine j_istore [some (va_rf x0), some (.int x1), some (.int x2), some (.int v8), some (.int (v8 + x2)), none, none] dX7_timeUntilLeader_45 (cz rfl) rfl rfl ?_
    refine j_iload dX7_timeUntilLeader_47 rfl ?_
    refine j_ldcw q2373 dX7_timeUntilLeader_49 ?_
    refine j_icmp_le 58 dX7_timeUntilLeader_52 (by decide) hf (fun c_ hf => ?_) (fun c_ hf => ?_)
    · refine j_aload_n 0 dX7_timeUntilLeader_58 rfl rfl ?_
      refine kc_X7_332 rfl rfl rfl (by decide) dX7_timeUntilLeader_59 hf (fun _u h9 hf => ?_)
      refine j_aload_n 0 dX7_timeUntilLeader_62 rfl rfl ?_
      refine kc_X7_259 rfl rfl rfl (by decide) dX7_timeUntilLeader_63 hf (fun v11 h10 hf => ?_)
      refine j_istore [some (va_rf x0), some (.int x1), some (.int x2), some (.int v8), some (.int (v8 + x2)), some (.int v11), none] dX7_timeUntilLeader_66 (cz rfl) rfl rfl ?_
      refine j_weak [some (va_rf x0), some (.int x1), none, some (.int v8), some (.int (v8 + x2)), some (.int v11), none] (Wk.k (Wk.k (Wk.s (Wk.k (Wk.k (Wk.k (Wk.k Wk.n))))))) ?_
      exact pf_X7_timeUntilLeader_L68 FU x0 x1 v8 (v8 + x2) v11 h10 hf
    · refine j_bipush (-5 : Int32) dX7_timeUntilLeader_55 (by decide) ?_
      have e9 := Option.some.inj hf
      subst e9
      exact j_iret rfl dX7_timeUntilLeader_57
  · refine j_weak [none, none, none, none, none, none, none] (Wk.s (Wk.s (Wk.s (Wk.k (Wk.k (Wk.k (Wk.k Wk.n))))))) ?_
    exact pf_X7_timeUntilLeader_B33  h5 hf
def f_X7_timeUntilLeader (r0 : Option Nat) (p0 : Int32) (p1 : Int32) (h0 : PH) : Option (Int32 × PH) := rv_ h0 r0 6 (cl_ (f_X7_noNode r0 p0 h0) fun v2 h1 => (if v2 = 0 then (cl_ (f_X7_in (p1.toInt64) (1 : Int64) (5000 : Int64) h1) fun v4 h3 => (if v4 = 0 then (f_X7_timeUntilLeader_B26 r0 p0 p1 r0 (1 : Int32) h3) else (f_X7_timeUntilLeader_B26 r0 p0 p1 r0 (0 : Int32) h3))) else (f_X7_timeUntilLeader_B33 h1)))
theorem hyS_X7_timeUntilLeader : yX7_timeUntilLeader.cls ≠ "java/lang/invoke/MethodHandle" ∧ yX7_timeUntilLeader.cls ≠ "java/lang/invoke/VarHandle" ∧ (parseMethodDescriptor yX7_timeUntilLeader.desc).map (fun d => d.parameters.length) = some 2 := by decide +kernel
theorem hyV_X7_timeUntilLeader : yX7_timeUntilLeader.cls = RX7 ∧ yX7_timeUntilLeader.cls ≠ "java/lang/invoke/MethodHandle" ∧ yX7_timeUntilLeader.cls ≠ "java/lang/invoke/VarHandle" ∧ (parseMethodDescriptor yX7_timeUntilLeader.desc).map (fun d => d.parameters.length) = some 2 := by decide +kernel
theorem c_X7_timeUntilLeader {D : va_G} (r0 : Option Nat) (p0 : Int32) (p1 : Int32) {h0 : PH} (l : Launch) (hl : l.stackTraces = false) (x : Int32) (h1 : PH) (hf : f_X7_timeUntilLeader r0 p0 p1 h0 = some (x, h1)) : CT l D yX7_timeUntilLeader (ws_ yX7_timeUntilLeader cX7_timeUntilLeader 7 (Option.some FieldType.int)) 8 194 [va_rf r0, .int p0, .int p1] h0 (ovi x) h1 := by
  refine ct_of hl [some (va_rf r0), some (.int p0), some (.int p1), none, none, none, none] (by decide) (by rw [lgl]; simp [va_rf_cat, cat_i, cat_l]) (by simp [lv_args, vsL, va_rf_cat, cat_i, cat_l]) (fun Γ => ?_)
  obtain ⟨o, ho⟩ : ∃ o : Int32 × PH, o = (x, h1) := ⟨_, rfl⟩
  rw [← ho] at hf
  have e1 : x = o.1 := by rw [ho]
  have e2 : h1 = o.2 := by rw [ho]
  subst e1 e2
  clear ho
  show PF Γ mi_X7_timeUntilLeader D h0 (QR Γ D h0 (ovi o.1) o.2) h0 0 [some (va_rf r0), some (.int p0), some (.int p1), none, none, none, none] []
  unfold f_X7_timeUntilLeader at hf
  refine j_aload_n 0 dX7_timeUntilLeader_0 rfl rfl ?_
  refine j_iload_n 1 dX7_timeUntilLeader_1 rfl rfl ?_
  refine kc_X7_172 rfl rfl rfl (by decide) dX7_timeUntilLeader_2 hf (fun v2 h1 hf => ?_)
  refine j_if_ne 33 dX7_timeUntilLeader_5 (by decide) hf (fun c_ hf => ?_) (fun c_ hf => ?_)
  · refine j_weak [none, none, none, none, none, none, none] (Wk.s (Wk.s (Wk.s (Wk.k (Wk.k (Wk.k (Wk.k Wk.n))))))) ?_
    exact pf_X7_timeUntilLeader_B33  h1 hf
  · refine j_aload_n 0 dX7_timeUntilLeader_8 rfl rfl ?_
    refine j_iload_n 2 dX7_timeUntilLeader_9 rfl rfl ?_
    refine j_i2l dX7_timeUntilLeader_10 ?_
    refine j_lconst (1 : Int64) dX7_timeUntilLeader_11 (by decide) ?_
    refine j_ldc2 q2372 dX7_timeUntilLeader_12 ?_
    refine kc_X7_68 rfl rfl rfl (by simp [va_rf_cat, cat_i, cat_l]) dX7_timeUntilLeader_15 hf (fun v4 h3 hf => ?_)
    refine j_if_ne 25 dX7_timeUntilLeader_18 (by decide) hf (fun c_ hf => ?_) (fun c_ hf => ?_)
    · refine j_iconst (0 : Int32) dX7_timeUntilLeader_25 (by decide) ?_
      exact pf_X7_timeUntilLeader_B26 r0 p0 p1 r0 (0 : Int32) h3 hf
    · refine j_iconst (1 : Int32) dX7_timeUntilLeader_21 (by decide) ?_
      refine j_goto 26 dX7_timeUntilLeader_22 (by decide) ?_
      exact pf_X7_timeUntilLeader_B26 r0 p0 p1 r0 (1 : Int32) h3 hf
abbrev mi_X7_longestLeaderless : MI := (cX7_longestLeaderless, 4, RX7, (Option.some FieldType.int), [], 8, 194, "longestLeaderless")
def f_X7_longestLeaderless_B23 (x0 : Option Nat) (x1 : Int32) (t0 : Option Nat) (t1 : Int32) (h : PH) : Option (Int32 × PH) := rv_ h t0 6 (cl_ (f_X7_throwsIf t0 t1 (1 : Int32) h) fun v5 h4 => (if v5 = 0 then (gR h4 x0 6 0 fun r6 => aI h4 r6 0 (0 : Int32) fun v7 => (if (v7 + x1) ≤ (5000000 : Int32) then (rv_ h4 x0 6 (cl_ (f_X7_putsAside x0 h4) fun _u h8 => gR h8 x0 6 0 fun r9 => sI h8 r9 0 (33 : Int32) (0 : Int32) fun h10 => gR h10 x0 6 0 fun r11 => sI h10 r11 0 (34 : Int32) (0 : Int32) fun h12 => rv_ h12 x0 6 (cl_ (f_X7_goesTo x0 (v7 + x1) h12) fun _u h13 => gR h13 x0 6 0 fun r14 => aI h13 r14 0 (34 : Int32) fun v15 => rv_ h13 x0 6 (cl_ (f_X7_takesBack x0 h13) fun _u h16 => some (v15, h16))))) else (some ((-5 : Int32), h4)))) else (some ((0 : Int32), h4))))
theorem pf_X7_longestLeaderless_B23 {Γ : GX} {D : va_G} {h0 : PH} {o : Int32 × PH} (x0 : Option Nat) (x1 : Int32) (t0 : Option Nat) (t1 : Int32) (h : PH) (hf : f_X7_longestLeaderless_B23 x0 x1 t0 t1 h = some o) : PF Γ mi_X7_longestLeaderless D h0 (QR Γ D h0 (ovi o.1) o.2) h 23 [some (va_rf x0), some (.int x1), none, none] [.int t1, va_rf t0] := by
  refine j_iconst (1 : Int32) dX7_longestLeaderless_23 (by decide) ?_
  refine kc_X7_72 rfl rfl rfl (by decide) dX7_longestLeaderless_24 hf (fun v5 h4 hf => ?_)
  refine j_if_eq 32 dX7_longestLeaderless_27 (by decide) hf (fun c_ hf => ?_) (fun c_ hf => ?_)
  · refine j_aload_n 0 dX7_longestLeaderless_32 rfl rfl ?_
    refine j_gR (ci := 6) (k := 0) rfl in_X7 rfl q2202 dX7_longestLeaderless_33 hf (fun r6 hf => ?_)
    refine j_iconst (0 : Int32) dX7_longestLeaderless_36 (by decide) ?_
    refine j_iald dX7_longestLeaderless_37 hf (fun v7 hf => ?_)
    refine j_iload_n 1 dX7_longestLeaderless_38 rfl rfl ?_
    refine j_iadd dX7_longestLeaderless_39 ?_
    refine j_istore_n 2 [some (va_rf x0), some (.int x1), some (.int (v7 + x1)), none] dX7_longestLeaderless_40 rfl (cz rfl) rfl rfl ?_
    refine j_iload_n 2 dX7_longestLeaderless_41 rfl rfl ?_
    refine j_ldcw q2373 dX7_longestLeaderless_42 ?_
    refine j_icmp_le 51 dX7_longestLeaderless_45 (by decide) hf (fun c_ hf => ?_) (fun c_ hf => ?_)
    · refine j_aload_n 0 dX7_longestLeaderless_51 rfl rfl ?_
      refine kc_X7_332 rfl rfl rfl (by decide) dX7_longestLeaderless_52 hf (fun _u h8 hf => ?_)
      refine j_aload_n 0 dX7_longestLeaderless_55 rfl rfl ?_
      refine j_gR (ci := 6) (k := 0) rfl in_X7 rfl q2202 dX7_longestLeaderless_56 hf (fun r9 hf => ?_)
      refine j_bipush (33 : Int32) dX7_longestLeaderless_59 (by decide) ?_
      refine j_iconst (0 : Int32) dX7_longestLeaderless_61 (by decide) ?_
      refine j_iast dX7_longestLeaderless_62 hf (fun h10 hf => ?_)
      refine j_aload_n 0 dX7_longestLeaderless_63 rfl rfl ?_
      refine j_gR (ci := 6) (k := 0) rfl in_X7 rfl q2202 dX7_longestLeaderless_64 hf (fun r11 hf => ?_)
      refine j_bipush (34 : Int32) dX7_longestLeaderless_67 (by decide) ?_
      refine j_iconst (0 : Int32) dX7_longestLeaderless_69 (by decide) ?_
      refine j_iast dX7_longestLeaderless_70 hf (fun h12 hf => ?_)
      refine j_aload_n 0 dX7_longestLeaderless_71 rfl rfl ?_
      refine j_iload_n 2 dX7_longestLeaderless_72 rfl rfl ?_
      refine kc_X7_280 rfl rfl rfl (by decide) dX7_longestLeaderless_73 hf (fun _u h13 hf => ?_)
      refine j_aload_n 0 dX7_longestLeaderless_76 rfl rfl ?_
      refine j_gR (ci := 6) (k := 0) rfl in_X7 rfl q2202 dX7_longestLeaderless_77 hf (fun r14 hf => ?_)
      refine j_bipush (34 : Int32) dX7_longestLeaderless_80 (by decide) ?_
      refine j_iald dX7_longestLeaderless_82 hf (fun v15 hf => ?_)
      refine j_istore_n 3 [some (va_rf x0), some (.int x1), some (.int (v7 + x1)), some (.int v15)] dX7_longestLeaderless_83 rfl (cz rfl) rfl rfl ?_
      refine j_aload_n 0 dX7_longestLeaderless_84 rfl rfl ?_
      refine kc_X7_335 rfl rfl rfl (by decide) dX7_longestLeaderless_85 hf (fun _u h16 hf => ?_)
      refine j_iload_n 3 dX7_longestLeaderless_88 rfl rfl ?_
      have e9 := Option.some.inj hf
      subst e9
      exact j_iret rfl dX7_longestLeaderless_89
    · refine j_bipush (-5 : Int32) dX7_longestLeaderless_48 (by decide) ?_
      have e9 := Option.some.inj hf
      subst e9
      exact j_iret rfl dX7_longestLeaderless_50
  · refine j_iconst (0 : Int32) dX7_longestLeaderless_30 (by decide) ?_
    have e9 := Option.some.inj hf
    subst e9
    exact j_iret rfl dX7_longestLeaderless_31
def f_X7_longestLeaderless (r0 : Option Nat) (p0 : Int32) (h0 : PH) : Option (Int32 × PH) := pV h0 r0 6 1 (.int (0 : Int32)) fun h1 => cl_ (f_X7_in (p0.toInt64) (1 : Int64) (5000 : Int64) h1) fun v3 h2 => (if v3 = 0 then (f_X7_longestLeaderless_B23 r0 p0 r0 (1 : Int32) h2) else (f_X7_longestLeaderless_B23 r0 p0 r0 (0 : Int32) h2))
theorem hyS_X7_longestLeaderless : yX7_longestLeaderless.cls ≠ "java/lang/invoke/MethodHandle" ∧ yX7_longestLeaderless.cls ≠ "java/lang/invoke/VarHandle" ∧ (parseMethodDescriptor yX7_longestLeaderless.desc).map (fun d => d.parameters.length) = some 1 := by decide +kernel
theorem hyV_X7_longestLeaderless : yX7_longestLeaderless.cls = RX7 ∧ yX7_longestLeaderless.cls ≠ "java/lang/invoke/MethodHandle" ∧ yX7_longestLeaderless.cls ≠ "java/lang/invoke/VarHandle" ∧ (parseMethodDescriptor yX7_longestLeaderless.desc).map (fun d => d.parameters.length) = some 1 := by decide +kernel
theorem c_X7_longestLeaderless {D : va_G} (r0 : Option Nat) (p0 : Int32) {h0 : PH} (l : Launch) (hl : l.stackTraces = false) (x : Int32) (h1 : PH) (hf : f_X7_longestLeaderless r0 p0 h0 = some (x, h1)) : CT l D yX7_longestLeaderless (ws_ yX7_longestLeaderless cX7_longestLeaderless 4 (Option.some FieldType.int)) 8 194 [va_rf r0, .int p0] h0 (ovi x) h1 := by
  refine ct_of hl [some (va_rf r0), some (.int p0), none, none] (by decide) (by rw [lgl]; simp [va_rf_cat, cat_i, cat_l]) (by simp [lv_args, vsL, va_rf_cat, cat_i, cat_l]) (fun Γ => ?_)
  obtain ⟨o, ho⟩ : ∃ o : Int32 × PH, o = (x, h1) := ⟨_, rfl⟩
  rw [← ho] at hf
  have e1 : x = o.1 := by rw [ho]
  have e2 : h1 = o.2 := by rw [ho]
  subst e1 e2
  clear ho
  show PF Γ mi_X7_longestLeaderless D h0 (QR Γ D h0 (ovi o.1) o.2) h0 0 [some (va_rf r0), some (.int p0), none, none] []
  unfold f_X7_longestLeaderless at hf
  refine j_aload_n 0 dX7_longestLeaderless_0 rfl rfl ?_
  refine j_iconst (0 : Int32) dX7_longestLeaderless_1 (by decide) ?_
  refine j_pV (ci := 6) (k := 1) tyX7 tyX7_ok nmX7 rfl in_X7 rfl q2203 (Or.inl rfl) rfl (fit_i _) dX7_longestLeaderless_2 hf (fun h1 hf => ?_)
  refine j_aload_n 0 dX7_longestLeaderless_5 rfl rfl ?_
  refine j_iload_n 1 dX7_longestLeaderless_6 rfl rfl ?_
  refine j_i2l dX7_longestLeaderless_7 ?_
  refine j_lconst (1 : Int64) dX7_longestLeaderless_8 (by decide) ?_
  refine j_ldc2 q2372 dX7_longestLeaderless_9 ?_
  refine kc_X7_68 rfl rfl rfl (by simp [va_rf_cat, cat_i, cat_l]) dX7_longestLeaderless_12 hf (fun v3 h2 hf => ?_)
  refine j_if_ne 22 dX7_longestLeaderless_15 (by decide) hf (fun c_ hf => ?_) (fun c_ hf => ?_)
  · refine j_iconst (0 : Int32) dX7_longestLeaderless_22 (by decide) ?_
    exact pf_X7_longestLeaderless_B23 r0 p0 r0 (0 : Int32) h2 hf
  · refine j_iconst (1 : Int32) dX7_longestLeaderless_18 (by decide) ?_
    refine j_goto 23 dX7_longestLeaderless_19 (by decide) ?_
    exact pf_X7_longestLeaderless_B23 r0 p0 r0 (1 : Int32) h2 hf
abbrev mi_X7_acquiresUntil : MI := (cX7_acquiresUntil, 4, RX7, (Option.some FieldType.int), [], 8, 194, "acquiresUntil")
def f_X7_acquiresUntil_B33  (h : PH) : Option (Int32 × PH) := some ((0 : Int32), h)
theorem pf_X7_acquiresUntil_B33 {Γ : GX} {D : va_G} {h0 : PH} {o : Int32 × PH}  (h : PH) (hf : f_X7_acquiresUntil_B33  h = some o) : PF Γ mi_X7_acquiresUntil D h0 (QR Γ D h0 (ovi o.1) o.2) h 33 [none, none, none, none] [] := by
  refine j_iconst (0 : Int32) dX7_acquiresUntil_33 (by decide) ?_
  have e9 := Option.some.inj hf
  subst e9
  exact j_iret rfl dX7_acquiresUntil_34
def f_X7_acquiresUntil_B26 (x0 : Option Nat) (x1 : Int32) (x2 : Int32) (t0 : Option Nat) (t1 : Int32) (h : PH) : Option (Int32 × PH) := rv_ h t0 6 (cl_ (f_X7_throwsIf t0 t1 (2 : Int32) h) fun v6 h5 => (if v6 = 0 then (gR h5 x0 6 0 fun r7 => aI h5 r7 0 (0 : Int32) fun v8 => (if (v8 + x2) ≤ (5000000 : Int32) then (rv_ h5 x0 6 (cl_ (f_X7_putsAside x0 h5) fun _u h9 => pV h9 x0 6 12 (.int x1) fun h10 => pV h10 x0 6 13 (.int (0 : Int32)) fun h11 => rv_ h11 x0 6 (cl_ (f_X7_goesTo x0 (v8 + x2) h11) fun _u h12 => pV h12 x0 6 12 (.int (-4 : Int32)) fun h13 => rv_ h13 x0 6 (cl_ (f_X7_takesBack x0 h13) fun _u h14 => gI h14 x0 6 13 fun v15 => some (v15, h14))))) else (some ((-5 : Int32), h5)))) else (f_X7_acquiresUntil_B33 h5)))
theorem pf_X7_acquiresUntil_B26 {Γ : GX} {D : va_G} {h0 : PH} {o : Int32 × PH} (x0 : Option Nat) (x1 : Int32) (x2 : Int32) (t0 : Option Nat) (t1 : Int32) (h : PH) (hf : f_X7_acquiresUntil_B26 x0 x1 x2 t0 t1 h = some o) : PF Γ mi_X7_acquiresUntil D h0 (QR Γ D h0 (ovi o.1) o.2) h 26 [some (va_rf x0), some (.int x1), some (.int x2), none] [.int t1, va_rf t0] := by
  refine j_iconst (2 : Int32) dX7_acquiresUntil_26 (by decide) ?_
  refine kc_X7_72 rfl rfl rfl (by decide) dX7_acquiresUntil_27 hf (fun v6 h5 hf => ?_)
  refine j_if_eq 35 dX7_acquiresUntil_30 (by decide) hf (fun c_ hf => ?_) (fun c_ hf => ?_)
  · refine j_aload_n 0 dX7_acquiresUntil_35 rfl rfl ?_
    refine j_gR (ci := 6) (k := 0) rfl in_X7 rfl q2202 dX7_acquiresUntil_36 hf (fun r7 hf => ?_)
    refine j_iconst (0 : Int32) dX7_acquiresUntil_39 (by decide) ?_
    refine j_iald dX7_acquiresUntil_40 hf (fun v8 hf => ?_)
    refine j_iload_n 2 dX7_acquiresUntil_41 rfl rfl ?_
    refine j_iadd dX7_acquiresUntil_42 ?_
    refine j_istore_n 3 [some (va_rf x0), some (.int x1), some (.int x2), some (.int (v8 + x2))] dX7_acquiresUntil_43 rfl (cz rfl) rfl rfl ?_
    refine j_iload_n 3 dX7_acquiresUntil_44 rfl rfl ?_
    refine j_ldcw q2373 dX7_acquiresUntil_45 ?_
    refine j_icmp_le 54 dX7_acquiresUntil_48 (by decide) hf (fun c_ hf => ?_) (fun c_ hf => ?_)
    · refine j_aload_n 0 dX7_acquiresUntil_54 rfl rfl ?_
      refine kc_X7_332 rfl rfl rfl (by decide) dX7_acquiresUntil_55 hf (fun _u h9 hf => ?_)
      refine j_aload_n 0 dX7_acquiresUntil_58 rfl rfl ?_
      refine j_iload_n 1 dX7_acquiresUntil_59 rfl rfl ?_
      refine j_pV (ci := 6) (k := 12) tyX7 tyX7_ok nmX7 rfl in_X7 rfl q2214 (Or.inl rfl) rfl (fit_i _) dX7_acquiresUntil_60 hf (fun h10 hf => ?_)
      refine j_aload_n 0 dX7_acquiresUntil_63 rfl rfl ?_
      refine j_iconst (0 : Int32) dX7_acquiresUntil_64 (by decide) ?_
      refine j_pV (ci := 6) (k := 13) tyX7 tyX7_ok nmX7 rfl in_X7 rfl q2215 (Or.inl rfl) rfl (fit_i _) dX7_acquiresUntil_65 hf (fun h11 hf => ?_)
      refine j_aload_n 0 dX7_acquiresUntil_68 rfl rfl ?_
      refine j_iload_n 3 dX7_acquiresUntil_69 rfl rfl ?_
      refine kc_X7_280 rfl rfl rfl (by decide) dX7_acquiresUntil_70 hf (fun _u h12 hf => ?_)
      refine j_aload_n 0 dX7_acquiresUntil_73 rfl rfl ?_
      refine j_bipush (-4 : Int32) dX7_acquiresUntil_74 (by decide) ?_
      refine j_pV (ci := 6) (k := 12) tyX7 tyX7_ok nmX7 rfl in_X7 rfl q2214 (Or.inl rfl) rfl (fit_i _) dX7_acquiresUntil_76 hf (fun h13 hf => ?_)
      refine j_aload_n 0 dX7_acquiresUntil_79 rfl rfl ?_
      refine kc_X7_335 rfl rfl rfl (by decide) dX7_acquiresUntil_80 hf (fun _u h14 hf => ?_)
      refine j_aload_n 0 dX7_acquiresUntil_83 rfl rfl ?_
      refine j_gI (ci := 6) (k := 13) rfl in_X7 rfl q2215 dX7_acquiresUntil_84 hf (fun v15 hf => ?_)
      have e9 := Option.some.inj hf
      subst e9
      exact j_iret rfl dX7_acquiresUntil_87
    · refine j_bipush (-5 : Int32) dX7_acquiresUntil_51 (by decide) ?_
      have e9 := Option.some.inj hf
      subst e9
      exact j_iret rfl dX7_acquiresUntil_53
  · refine j_weak [none, none, none, none] (Wk.s (Wk.s (Wk.s (Wk.k Wk.n)))) ?_
    exact pf_X7_acquiresUntil_B33  h5 hf
def f_X7_acquiresUntil (r0 : Option Nat) (p0 : Int32) (p1 : Int32) (h0 : PH) : Option (Int32 × PH) := rv_ h0 r0 6 (cl_ (f_X7_noNode r0 p0 h0) fun v2 h1 => (if v2 = 0 then (cl_ (f_X7_in (p1.toInt64) (1 : Int64) (5000 : Int64) h1) fun v4 h3 => (if v4 = 0 then (f_X7_acquiresUntil_B26 r0 p0 p1 r0 (1 : Int32) h3) else (f_X7_acquiresUntil_B26 r0 p0 p1 r0 (0 : Int32) h3))) else (f_X7_acquiresUntil_B33 h1)))
theorem hyS_X7_acquiresUntil : yX7_acquiresUntil.cls ≠ "java/lang/invoke/MethodHandle" ∧ yX7_acquiresUntil.cls ≠ "java/lang/invoke/VarHandle" ∧ (parseMethodDescriptor yX7_acquiresUntil.desc).map (fun d => d.parameters.length) = some 2 := by decide +kernel
theorem hyV_X7_acquiresUntil : yX7_acquiresUntil.cls = RX7 ∧ yX7_acquiresUntil.cls ≠ "java/lang/invoke/MethodHandle" ∧ yX7_acquiresUntil.cls ≠ "java/lang/invoke/VarHandle" ∧ (parseMethodDescriptor yX7_acquiresUntil.desc).map (fun d => d.parameters.length) = some 2 := by decide +kernel
theorem c_X7_acquiresUntil {D : va_G} (r0 : Option Nat) (p0 : Int32) (p1 : Int32) {h0 : PH} (l : Launch) (hl : l.stackTraces = false) (x : Int32) (h1 : PH) (hf : f_X7_acquiresUntil r0 p0 p1 h0 = some (x, h1)) : CT l D yX7_acquiresUntil (ws_ yX7_acquiresUntil cX7_acquiresUntil 4 (Option.some FieldType.int)) 8 194 [va_rf r0, .int p0, .int p1] h0 (ovi x) h1 := by
  refine ct_of hl [some (va_rf r0), some (.int p0), some (.int p1), none] (by decide) (by rw [lgl]; simp [va_rf_cat, cat_i, cat_l]) (by simp [lv_args, vsL, va_rf_cat, cat_i, cat_l]) (fun Γ => ?_)
  obtain ⟨o, ho⟩ : ∃ o : Int32 × PH, o = (x, h1) := ⟨_, rfl⟩
  rw [← ho] at hf
  have e1 : x = o.1 := by rw [ho]
  have e2 : h1 = o.2 := by rw [ho]
  subst e1 e2
  clear ho
  show PF Γ mi_X7_acquiresUntil D h0 (QR Γ D h0 (ovi o.1) o.2) h0 0 [some (va_rf r0), some (.int p0), some (.int p1), none] []
  unfold f_X7_acquiresUntil at hf
  refine j_aload_n 0 dX7_acquiresUntil_0 rfl rfl ?_
  refine j_iload_n 1 dX7_acquiresUntil_1 rfl rfl ?_
  refine kc_X7_172 rfl rfl rfl (by decide) dX7_acquiresUntil_2 hf (fun v2 h1 hf => ?_)
  refine j_if_ne 33 dX7_acquiresUntil_5 (by decide) hf (fun c_ hf => ?_) (fun c_ hf => ?_)
  · refine j_weak [none, none, none, none] (Wk.s (Wk.s (Wk.s (Wk.k Wk.n)))) ?_
    exact pf_X7_acquiresUntil_B33  h1 hf
  · refine j_aload_n 0 dX7_acquiresUntil_8 rfl rfl ?_
    refine j_iload_n 2 dX7_acquiresUntil_9 rfl rfl ?_
    refine j_i2l dX7_acquiresUntil_10 ?_
    refine j_lconst (1 : Int64) dX7_acquiresUntil_11 (by decide) ?_
    refine j_ldc2 q2372 dX7_acquiresUntil_12 ?_
    refine kc_X7_68 rfl rfl rfl (by simp [va_rf_cat, cat_i, cat_l]) dX7_acquiresUntil_15 hf (fun v4 h3 hf => ?_)
    refine j_if_ne 25 dX7_acquiresUntil_18 (by decide) hf (fun c_ hf => ?_) (fun c_ hf => ?_)
    · refine j_iconst (0 : Int32) dX7_acquiresUntil_25 (by decide) ?_
      exact pf_X7_acquiresUntil_B26 r0 p0 p1 r0 (0 : Int32) h3 hf
    · refine j_iconst (1 : Int32) dX7_acquiresUntil_21 (by decide) ?_
      refine j_goto 26 dX7_acquiresUntil_22 (by decide) ?_
      exact pf_X7_acquiresUntil_B26 r0 p0 p1 r0 (1 : Int32) h3 hf
abbrev mi_X7_tryWrite : MI := (cX7_tryWrite, 5, RX7, (Option.some FieldType.int), [], 8, 194, "tryWrite")
def f_X7_tryWrite_B28  (h : PH) : Option (Int32 × PH) := some ((0 : Int32), h)
theorem pf_X7_tryWrite_B28 {Γ : GX} {D : va_G} {h0 : PH} {o : Int32 × PH}  (h : PH) (hf : f_X7_tryWrite_B28  h = some o) : PF Γ mi_X7_tryWrite D h0 (QR Γ D h0 (ovi o.1) o.2) h 28 [none, none, none, none, none] [] := by
  refine j_iconst (0 : Int32) dX7_tryWrite_28 (by decide) ?_
  have e9 := Option.some.inj hf
  subst e9
  exact j_iret rfl dX7_tryWrite_29
def f_X7_tryWrite_B145 (x0 : Option Nat) (h : PH) : Option (Int32 × PH) := rv_ h x0 6 (cl_ (f_X7_takesBack x0 h) fun _u h24 => gI h24 x0 6 14 fun v25 => some (v25, h24))
theorem pf_X7_tryWrite_B145 {Γ : GX} {D : va_G} {h0 : PH} {o : Int32 × PH} (x0 : Option Nat) (h : PH) (hf : f_X7_tryWrite_B145 x0 h = some o) : PF Γ mi_X7_tryWrite D h0 (QR Γ D h0 (ovi o.1) o.2) h 145 [some (va_rf x0), none, none, none, none] [] := by
  refine j_aload_n 0 dX7_tryWrite_145 rfl rfl ?_
  refine kc_X7_335 rfl rfl rfl (by decide) dX7_tryWrite_146 hf (fun _u h24 hf => ?_)
  refine j_aload_n 0 dX7_tryWrite_149 rfl rfl ?_
  refine j_gI (ci := 6) (k := 14) rfl in_X7 rfl q2216 dX7_tryWrite_150 hf (fun v25 hf => ?_)
  have e9 := Option.some.inj hf
  subst e9
  exact j_iret rfl dX7_tryWrite_153
def f_X7_tryWrite_B131 (x0 : Option Nat) (x4 : Int32) (h : PH) : Option (Int32 × PH) := (if x4 ≤ (5000000 : Int32) then (f_X7_tryWrite_B145 x0 h) else (pV h x0 6 14 (.int (-5 : Int32)) fun h23 => f_X7_tryWrite_B145 x0 h23))
theorem pf_X7_tryWrite_B131 {Γ : GX} {D : va_G} {h0 : PH} {o : Int32 × PH} (x0 : Option Nat) (x4 : Int32) (h : PH) (hf : f_X7_tryWrite_B131 x0 x4 h = some o) : PF Γ mi_X7_tryWrite D h0 (QR Γ D h0 (ovi o.1) o.2) h 131 [some (va_rf x0), none, none, none, some (.int x4)] [] := by
  refine j_iload dX7_tryWrite_131 rfl ?_
  refine j_ldcw q2373 dX7_tryWrite_133 ?_
  refine j_icmp_le 145 dX7_tryWrite_136 (by decide) hf (fun c_ hf => ?_) (fun c_ hf => ?_)
  · refine j_weak [some (va_rf x0), none, none, none, none] (Wk.k (Wk.k (Wk.k (Wk.k (Wk.s Wk.n))))) ?_
    exact pf_X7_tryWrite_B145 x0 h hf
  · refine j_aload_n 0 dX7_tryWrite_139 rfl rfl ?_
    refine j_bipush (-5 : Int32) dX7_tryWrite_140 (by decide) ?_
    refine j_pV (ci := 6) (k := 14) tyX7 tyX7_ok nmX7 rfl in_X7 rfl q2216 (Or.inl rfl) rfl (fit_i _) dX7_tryWrite_142 hf (fun h23 hf => ?_)
    refine j_weak [some (va_rf x0), none, none, none, none] (Wk.k (Wk.k (Wk.k (Wk.k (Wk.s Wk.n))))) ?_
    exact pf_X7_tryWrite_B145 x0 h23 hf
def f_X7_tryWrite_B103 (x0 : Option Nat) (t0 : Int32) (h : PH) : Option (Int32 × PH) := pV h x0 6 14 (.int (2 : Int32)) fun h21 => (if t0 = (-4 : Int32) then (f_X7_tryWrite_B131 x0 t0 h21) else ((if (5000000 : Int32) < t0 then (f_X7_tryWrite_B131 x0 t0 h21) else (rv_ h21 x0 6 (cl_ (f_X7_goesTo x0 t0 h21) fun _u h22 => f_X7_tryWrite_B131 x0 t0 h22)))))
theorem pf_X7_tryWrite_B103 {Γ : GX} {D : va_G} {h0 : PH} {o : Int32 × PH} (x0 : Option Nat) (t0 : Int32) (h : PH) (hf : f_X7_tryWrite_B103 x0 t0 h = some o) : PF Γ mi_X7_tryWrite D h0 (QR Γ D h0 (ovi o.1) o.2) h 103 [some (va_rf x0), none, none, none, none] [.int t0] := by
  refine j_istore [some (va_rf x0), none, none, none, some (.int t0)] dX7_tryWrite_103 cn' rfl rfl ?_
  refine j_aload_n 0 dX7_tryWrite_105 rfl rfl ?_
  refine j_iconst (2 : Int32) dX7_tryWrite_106 (by decide) ?_
  refine j_pV (ci := 6) (k := 14) tyX7 tyX7_ok nmX7 rfl in_X7 rfl q2216 (Or.inl rfl) rfl (fit_i _) dX7_tryWrite_107 hf (fun h21 hf => ?_)
  refine j_iload dX7_tryWrite_110 rfl ?_
  refine j_bipush (-4 : Int32) dX7_tryWrite_112 (by decide) ?_
  refine j_icmp_eq 131 dX7_tryWrite_114 (by decide) hf (fun c_ hf => ?_) (fun c_ hf => ?_)
  · exact pf_X7_tryWrite_B131 x0 t0 h21 hf
  · refine j_iload dX7_tryWrite_117 rfl ?_
    refine j_ldcw q2373 dX7_tryWrite_119 ?_
    refine j_icmp_gt 131 dX7_tryWrite_122 (by decide) hf (fun c_ hf => ?_) (fun c_ hf => ?_)
    · exact pf_X7_tryWrite_B131 x0 t0 h21 hf
    · refine j_aload_n 0 dX7_tryWrite_125 rfl rfl ?_
      refine j_iload dX7_tryWrite_126 rfl ?_
      refine kc_X7_280 rfl rfl rfl (by decide) dX7_tryWrite_128 hf (fun _u h22 hf => ?_)
      exact pf_X7_tryWrite_B131 x0 t0 h22 hf
def f_X7_tryWrite_B21 (x0 : Option Nat) (x1 : Int32) (x2 : Int32) (t0 : Option Nat) (t1 : Int32) (h : PH) : Option (Int32 × PH) := rv_ h t0 6 (cl_ (f_X7_throwsIf t0 t1 (2 : Int32) h) fun v6 h5 => (if v6 = 0 then (rv_ h5 x0 6 (cl_ (f_X7_refusalOfLeader x0 x1 h5) fun v8 h7 => (if v8 = 0 then (rv_ h7 x0 6 (cl_ (f_X7_putsAside x0 h7) fun _u h9 => gR h9 x0 6 0 fun r10 => aI h9 r10 0 (20 : Int32) fun v11 => rv_ h9 x0 6 (cl_ (f_X7_of x0 x1 (7 : Int32) h9) fun v13 h12 => rv_ h12 x0 6 (cl_ (f_X7_sends x0 (3 : Int32) x1 v13 x2 (-7 : Int32) h12) fun _u h14 => gR h14 x0 6 0 fun r15 => aI h14 r15 0 (20 : Int32) fun v16 => (if v16 ≤ v11 then (f_X7_tryWrite_B103 x0 (-4 : Int32) h14) else (gR h14 x0 6 0 fun r17 => aI h14 r17 0 (((1136 : Int32) + ((6 : Int32) * v11)) + (2 : Int32)) fun v18 => f_X7_tryWrite_B103 x0 v18 h14)))))) else (rv_ h7 x0 6 (cl_ (f_X7_refusalOfLeader x0 x1 h7) fun v20 h19 => some (v20, h19)))))) else (f_X7_tryWrite_B28 h5)))
theorem pf_X7_tryWrite_B21 {Γ : GX} {D : va_G} {h0 : PH} {o : Int32 × PH} (x0 : Option Nat) (x1 : Int32) (x2 : Int32) (t0 : Option Nat) (t1 : Int32) (h : PH) (hf : f_X7_tryWrite_B21 x0 x1 x2 t0 t1 h = some o) : PF Γ mi_X7_tryWrite D h0 (QR Γ D h0 (ovi o.1) o.2) h 21 [some (va_rf x0), some (.int x1), some (.int x2), none, none] [.int t1, va_rf t0] := by
  refine j_iconst (2 : Int32) dX7_tryWrite_21 (by decide) ?_
  refine kc_X7_72 rfl rfl rfl (by decide) dX7_tryWrite_22 hf (fun v6 h5 hf => ?_)
  refine j_if_eq 30 dX7_tryWrite_25 (by decide) hf (fun c_ hf => ?_) (fun c_ hf => ?_)
  · refine j_aload_n 0 dX7_tryWrite_30 rfl rfl ?_
    refine j_iload_n 1 dX7_tryWrite_31 rfl rfl ?_
    refine kc_X7_298 rfl rfl rfl (by decide) dX7_tryWrite_32 hf (fun v8 h7 hf => ?_)
    refine j_if_eq 44 dX7_tryWrite_35 (by decide) hf (fun c_ hf => ?_) (fun c_ hf => ?_)
    · refine j_aload_n 0 dX7_tryWrite_44 rfl rfl ?_
      refine kc_X7_332 rfl rfl rfl (by decide) dX7_tryWrite_45 hf (fun _u h9 hf => ?_)
      refine j_aload_n 0 dX7_tryWrite_48 rfl rfl ?_
      refine j_gR (ci := 6) (k := 0) rfl in_X7 rfl q2202 dX7_tryWrite_49 hf (fun r10 hf => ?_)
      refine j_bipush (20 : Int32) dX7_tryWrite_52 (by decide) ?_
      refine j_iald dX7_tryWrite_54 hf (fun v11 hf => ?_)
      refine j_istore_n 3 [some (va_rf x0), some (.int x1), some (.int x2), some (.int v11), none] dX7_tryWrite_55 rfl (cz rfl) rfl rfl ?_
      refine j_aload_n 0 dX7_tryWrite_56 rfl rfl ?_
      refine j_iconst (3 : Int32) dX7_tryWrite_57 (by decide) ?_
      refine j_iload_n 1 dX7_tryWrite_58 rfl rfl ?_
      refine j_aload_n 0 dX7_tryWrite_59 rfl rfl ?_
      refine j_iload_n 1 dX7_tryWrite_60 rfl rfl ?_
      refine j_bipush (7 : Int32) dX7_tryWrite_61 (by decide) ?_
      refine kc_X7_152 rfl rfl rfl (by simp [va_rf_cat, cat_i, cat_l]) dX7_tryWrite_63 hf (fun v13 h12 hf => ?_)
      refine j_iload_n 2 dX7_tryWrite_66 rfl rfl ?_
      refine j_bipush (-7 : Int32) dX7_tryWrite_67 (by decide) ?_
      refine kc_X7_189 rfl rfl rfl (by decide) dX7_tryWrite_69 hf (fun _u h14 hf => ?_)
      refine j_aload_n 0 dX7_tryWrite_72 rfl rfl ?_
      refine j_gR (ci := 6) (k := 0) rfl in_X7 rfl q2202 dX7_tryWrite_73 hf (fun r15 hf => ?_)
      refine j_bipush (20 : Int32) dX7_tryWrite_76 (by decide) ?_
      refine j_iald dX7_tryWrite_78 hf (fun v16 hf => ?_)
      refine j_iload_n 3 dX7_tryWrite_79 rfl rfl ?_
      refine j_icmp_le 101 dX7_tryWrite_80 (by decide) hf (fun c_ hf => ?_) (fun c_ hf => ?_)
      · refine j_bipush (-4 : Int32) dX7_tryWrite_101 (by decide) ?_
        refine j_weak [some (va_rf x0), none, none, none, none] (Wk.k (Wk.s (Wk.s (Wk.s (Wk.k Wk.n))))) ?_
        exact pf_X7_tryWrite_B103 x0 (-4 : Int32) h14 hf
      · refine j_aload_n 0 dX7_tryWrite_83 rfl rfl ?_
        refine j_gR (ci := 6) (k := 0) rfl in_X7 rfl q2202 dX7_tryWrite_84 hf (fun r17 hf => ?_)
        refine j_sipush (1136 : Int32) dX7_tryWrite_87 (by decide) ?_
        refine j_bipush (6 : Int32) dX7_tryWrite_90 (by decide) ?_
        refine j_iload_n 3 dX7_tryWrite_92 rfl rfl ?_
        refine j_imul dX7_tryWrite_93 ?_
        refine j_iadd dX7_tryWrite_94 ?_
        refine j_iconst (2 : Int32) dX7_tryWrite_95 (by decide) ?_
        refine j_iadd dX7_tryWrite_96 ?_
        refine j_iald dX7_tryWrite_97 hf (fun v18 hf => ?_)
        refine j_goto 103 dX7_tryWrite_98 (by decide) ?_
        refine j_weak [some (va_rf x0), none, none, none, none] (Wk.k (Wk.s (Wk.s (Wk.s (Wk.k Wk.n))))) ?_
        exact pf_X7_tryWrite_B103 x0 v18 h14 hf
    · refine j_aload_n 0 dX7_tryWrite_38 rfl rfl ?_
      refine j_iload_n 1 dX7_tryWrite_39 rfl rfl ?_
      refine kc_X7_298 rfl rfl rfl (by decide) dX7_tryWrite_40 hf (fun v20 h19 hf => ?_)
      have e9 := Option.some.inj hf
      subst e9
      exact j_iret rfl dX7_tryWrite_43
  · refine j_weak [none, none, none, none, none] (Wk.s (Wk.s (Wk.s (Wk.k (Wk.k Wk.n))))) ?_
    exact pf_X7_tryWrite_B28  h5 hf
def f_X7_tryWrite (r0 : Option Nat) (p0 : Int32) (p1 : Int32) (h0 : PH) : Option (Int32 × PH) := rv_ h0 r0 6 (cl_ (f_X7_noNode r0 p0 h0) fun v2 h1 => (if v2 = 0 then (cl_ (f_X7_isRegister p1 h1) fun v4 h3 => (if v4 = 0 then (f_X7_tryWrite_B21 r0 p0 p1 r0 (1 : Int32) h3) else (f_X7_tryWrite_B21 r0 p0 p1 r0 (0 : Int32) h3))) else (f_X7_tryWrite_B28 h1)))
theorem hyS_X7_tryWrite : yX7_tryWrite.cls ≠ "java/lang/invoke/MethodHandle" ∧ yX7_tryWrite.cls ≠ "java/lang/invoke/VarHandle" ∧ (parseMethodDescriptor yX7_tryWrite.desc).map (fun d => d.parameters.length) = some 2 := by decide +kernel
theorem hyV_X7_tryWrite : yX7_tryWrite.cls = RX7 ∧ yX7_tryWrite.cls ≠ "java/lang/invoke/MethodHandle" ∧ yX7_tryWrite.cls ≠ "java/lang/invoke/VarHandle" ∧ (parseMethodDescriptor yX7_tryWrite.desc).map (fun d => d.parameters.length) = some 2 := by decide +kernel
theorem c_X7_tryWrite {D : va_G} (r0 : Option Nat) (p0 : Int32) (p1 : Int32) {h0 : PH} (l : Launch) (hl : l.stackTraces = false) (x : Int32) (h1 : PH) (hf : f_X7_tryWrite r0 p0 p1 h0 = some (x, h1)) : CT l D yX7_tryWrite (ws_ yX7_tryWrite cX7_tryWrite 5 (Option.some FieldType.int)) 8 194 [va_rf r0, .int p0, .int p1] h0 (ovi x) h1 := by
  refine ct_of hl [some (va_rf r0), some (.int p0), some (.int p1), none, none] (by decide) (by rw [lgl]; simp [va_rf_cat, cat_i, cat_l]) (by simp [lv_args, vsL, va_rf_cat, cat_i, cat_l]) (fun Γ => ?_)
  obtain ⟨o, ho⟩ : ∃ o : Int32 × PH, o = (x, h1) := ⟨_, rfl⟩
  rw [← ho] at hf
  have e1 : x = o.1 := by rw [ho]
  have e2 : h1 = o.2 := by rw [ho]
  subst e1 e2
  clear ho
  show PF Γ mi_X7_tryWrite D h0 (QR Γ D h0 (ovi o.1) o.2) h0 0 [some (va_rf r0), some (.int p0), some (.int p1), none, none] []
  unfold f_X7_tryWrite at hf
  refine j_aload_n 0 dX7_tryWrite_0 rfl rfl ?_
  refine j_iload_n 1 dX7_tryWrite_1 rfl rfl ?_
  refine kc_X7_172 rfl rfl rfl (by decide) dX7_tryWrite_2 hf (fun v2 h1 hf => ?_)
  refine j_if_ne 28 dX7_tryWrite_5 (by decide) hf (fun c_ hf => ?_) (fun c_ hf => ?_)
  · refine j_weak [none, none, none, none, none] (Wk.s (Wk.s (Wk.s (Wk.k (Wk.k Wk.n))))) ?_
    exact pf_X7_tryWrite_B28  h1 hf
  · refine j_aload_n 0 dX7_tryWrite_8 rfl rfl ?_
    refine j_iload_n 2 dX7_tryWrite_9 rfl rfl ?_
    refine kc_X7_292 rfl rfl rfl (by simp [va_rf_cat, cat_i, cat_l]) dX7_tryWrite_10 hf (fun v4 h3 hf => ?_)
    refine j_if_ne 20 dX7_tryWrite_13 (by decide) hf (fun c_ hf => ?_) (fun c_ hf => ?_)
    · refine j_iconst (0 : Int32) dX7_tryWrite_20 (by decide) ?_
      exact pf_X7_tryWrite_B21 r0 p0 p1 r0 (0 : Int32) h3 hf
    · refine j_iconst (1 : Int32) dX7_tryWrite_16 (by decide) ?_
      refine j_goto 21 dX7_tryWrite_17 (by decide) ?_
      exact pf_X7_tryWrite_B21 r0 p0 p1 r0 (1 : Int32) h3 hf
abbrev mi_X7_predictRead : MI := (cX7_predictRead, 6, RX7, (Option.some FieldType.int), [], 8, 194, "predictRead")
def f_X7_predictRead_B40  (h : PH) : Option (Int32 × PH) := some ((0 : Int32), h)
theorem pf_X7_predictRead_B40 {Γ : GX} {D : va_G} {h0 : PH} {o : Int32 × PH}  (h : PH) (hf : f_X7_predictRead_B40  h = some o) : PF Γ mi_X7_predictRead D h0 (QR Γ D h0 (ovi o.1) o.2) h 40 [none, none, none, none, none, none] [] := by
  refine j_iconst (0 : Int32) dX7_predictRead_40 (by decide) ?_
  have e9 := Option.some.inj hf
  subst e9
  exact j_iret rfl dX7_predictRead_41
def f_X7_predictRead_B115 (x0 : Option Nat) (x5 : Int32) (h : PH) : Option (Int32 × PH) := rv_ h x0 6 (cl_ (f_X7_takesBack x0 h) fun _u h19 => some (x5, h19))
theorem pf_X7_predictRead_B115 {Γ : GX} {D : va_G} {h0 : PH} {o : Int32 × PH} (x0 : Option Nat) (x5 : Int32) (h : PH) (hf : f_X7_predictRead_B115 x0 x5 h = some o) : PF Γ mi_X7_predictRead D h0 (QR Γ D h0 (ovi o.1) o.2) h 115 [some (va_rf x0), none, none, none, none, some (.int x5)] [] := by
  refine j_aload_n 0 dX7_predictRead_115 rfl rfl ?_
  refine kc_X7_335 rfl rfl rfl (by decide) dX7_predictRead_116 hf (fun _u h19 hf => ?_)
  refine j_iload dX7_predictRead_119 rfl ?_
  have e9 := Option.some.inj hf
  subst e9
  exact j_iret rfl dX7_predictRead_121
def f_X7_predictRead_B113 (x0 : Option Nat) (t0 : Int32) (h : PH) : Option (Int32 × PH) := f_X7_predictRead_B115 x0 t0 h
theorem pf_X7_predictRead_B113 {Γ : GX} {D : va_G} {h0 : PH} {o : Int32 × PH} (x0 : Option Nat) (t0 : Int32) (h : PH) (hf : f_X7_predictRead_B113 x0 t0 h = some o) : PF Γ mi_X7_predictRead D h0 (QR Γ D h0 (ovi o.1) o.2) h 113 [some (va_rf x0), none, none, none, none, none] [.int t0] := by
  refine j_istore [some (va_rf x0), none, none, none, none, some (.int t0)] dX7_predictRead_113 cn' rfl rfl ?_
  exact pf_X7_predictRead_B115 x0 t0 h hf
def f_X7_predictRead_B33 (x0 : Option Nat) (x1 : Int32) (x2 : Int32) (x3 : Int32) (t0 : Option Nat) (t1 : Int32) (h : PH) : Option (Int32 × PH) := rv_ h t0 6 (cl_ (f_X7_throwsIf t0 t1 (2 : Int32) h) fun v8 h7 => (if v8 = 0 then (gR h7 x0 6 0 fun r9 => aI h7 r9 0 (0 : Int32) fun v10 => (if (v10 + x3) ≤ (5000000 : Int32) then (rv_ h7 x0 6 (cl_ (f_X7_putsAside x0 h7) fun _u h11 => rv_ h11 x0 6 (cl_ (f_X7_goesTo x0 (v10 + x3) h11) fun _u h12 => rv_ h12 x0 6 (cl_ (f_X7_refusalOfLeader x0 x1 h12) fun v14 h13 => (if v14 = 0 then (rv_ h13 x0 6 (cl_ (f_X7_of x0 x1 (11 : Int32) h13) fun v16 h15 => (if ((v16 >>> (x2 &&& 31)) &&& (1 : Int32)) = 0 then (f_X7_predictRead_B113 x0 (-4 : Int32) h15) else (rv_ h15 x0 6 (cl_ (f_X7_of x0 x1 ((12 : Int32) + x2) h15) fun v18 h17 => f_X7_predictRead_B113 x0 v18 h17))))) else (f_X7_predictRead_B115 x0 v14 h13)))))) else (some ((-5 : Int32), h7)))) else (f_X7_predictRead_B40 h7)))
theorem pf_X7_predictRead_B33 {Γ : GX} {D : va_G} {h0 : PH} {o : Int32 × PH} (x0 : Option Nat) (x1 : Int32) (x2 : Int32) (x3 : Int32) (t0 : Option Nat) (t1 : Int32) (h : PH) (hf : f_X7_predictRead_B33 x0 x1 x2 x3 t0 t1 h = some o) : PF Γ mi_X7_predictRead D h0 (QR Γ D h0 (ovi o.1) o.2) h 33 [some (va_rf x0), some (.int x1), some (.int x2), some (.int x3), none, none] [.int t1, va_rf t0] := by
  refine j_iconst (2 : Int32) dX7_predictRead_33 (by decide) ?_
  refine kc_X7_72 rfl rfl rfl (by decide) dX7_predictRead_34 hf (fun v8 h7 hf => ?_)
  refine j_if_eq 42 dX7_predictRead_37 (by decide) hf (fun c_ hf => ?_) (fun c_ hf => ?_)
  · refine j_aload_n 0 dX7_predictRead_42 rfl rfl ?_
    refine j_gR (ci := 6) (k := 0) rfl in_X7 rfl q2202 dX7_predictRead_43 hf (fun r9 hf => ?_)
    refine j_iconst (0 : Int32) dX7_predictRead_46 (by decide) ?_
    refine j_iald dX7_predictRead_47 hf (fun v10 hf => ?_)
    refine j_iload_n 3 dX7_predictRead_48 rfl rfl ?_
    refine j_iadd dX7_predictRead_49 ?_
    refine j_istore [some (va_rf x0), some (.int x1), some (.int x2), some (.int x3), some (.int (v10 + x3)), none] dX7_predictRead_50 (cz rfl) rfl rfl ?_
    refine j_iload dX7_predictRead_52 rfl ?_
    refine j_ldcw q2373 dX7_predictRead_54 ?_
    refine j_icmp_le 63 dX7_predictRead_57 (by decide) hf (fun c_ hf => ?_) (fun c_ hf => ?_)
    · refine j_aload_n 0 dX7_predictRead_63 rfl rfl ?_
      refine kc_X7_332 rfl rfl rfl (by decide) dX7_predictRead_64 hf (fun _u h11 hf => ?_)
      refine j_aload_n 0 dX7_predictRead_67 rfl rfl ?_
      refine j_iload dX7_predictRead_68 rfl ?_
      refine kc_X7_280 rfl rfl rfl (by decide) dX7_predictRead_70 hf (fun _u h12 hf => ?_)
      refine j_aload_n 0 dX7_predictRead_73 rfl rfl ?_
      refine j_iload_n 1 dX7_predictRead_74 rfl rfl ?_
      refine kc_X7_298 rfl rfl rfl (by decide) dX7_predictRead_75 hf (fun v14 h13 hf => ?_)
      refine j_istore [some (va_rf x0), some (.int x1), some (.int x2), some (.int x3), some (.int (v10 + x3)), some (.int v14)] dX7_predictRead_78 (cz rfl) rfl rfl ?_
      refine j_iload dX7_predictRead_80 rfl ?_
      refine j_if_ne 115 dX7_predictRead_82 (by decide) hf (fun c_ hf => ?_) (fun c_ hf => ?_)
      · refine j_weak [some (va_rf x0), none, none, none, none, some (.int v14)] (Wk.k (Wk.s (Wk.s (Wk.s (Wk.s (Wk.k Wk.n)))))) ?_
        exact pf_X7_predictRead_B115 x0 v14 h13 hf
      · refine j_aload_n 0 dX7_predictRead_85 rfl rfl ?_
        refine j_iload_n 1 dX7_predictRead_86 rfl rfl ?_
        refine j_bipush (11 : Int32) dX7_predictRead_87 (by decide) ?_
        refine kc_X7_152 rfl rfl rfl (by decide) dX7_predictRead_89 hf (fun v16 h15 hf => ?_)
        refine j_iload_n 2 dX7_predictRead_92 rfl rfl ?_
        refine j_ishr dX7_predictRead_93 ?_
        refine j_iconst (1 : Int32) dX7_predictRead_94 (by decide) ?_
        refine j_iand dX7_predictRead_95 ?_
        refine j_if_ne 104 dX7_predictRead_96 (by decide) hf (fun c_ hf => ?_) (fun c_ hf => ?_)
        · refine j_aload_n 0 dX7_predictRead_104 rfl rfl ?_
          refine j_iload_n 1 dX7_predictRead_105 rfl rfl ?_
          refine j_bipush (12 : Int32) dX7_predictRead_106 (by decide) ?_
          refine j_iload_n 2 dX7_predictRead_108 rfl rfl ?_
          refine j_iadd dX7_predictRead_109 ?_
          refine kc_X7_152 rfl rfl rfl (by decide) dX7_predictRead_110 hf (fun v18 h17 hf => ?_)
          refine j_weak [some (va_rf x0), none, none, none, none, none] (Wk.k (Wk.s (Wk.s (Wk.s (Wk.s (Wk.s Wk.n)))))) ?_
          exact pf_X7_predictRead_B113 x0 v18 h17 hf
        · refine j_bipush (-4 : Int32) dX7_predictRead_99 (by decide) ?_
          refine j_goto 113 dX7_predictRead_101 (by decide) ?_
          refine j_weak [some (va_rf x0), none, none, none, none, none] (Wk.k (Wk.s (Wk.s (Wk.s (Wk.s (Wk.s Wk.n)))))) ?_
          exact pf_X7_predictRead_B113 x0 (-4 : Int32) h15 hf
    · refine j_bipush (-5 : Int32) dX7_predictRead_60 (by decide) ?_
      have e9 := Option.some.inj hf
      subst e9
      exact j_iret rfl dX7_predictRead_62
  · refine j_weak [none, none, none, none, none, none] (Wk.s (Wk.s (Wk.s (Wk.s (Wk.k (Wk.k Wk.n)))))) ?_
    exact pf_X7_predictRead_B40  h7 hf
def f_X7_predictRead_B28 (x0 : Option Nat) (x1 : Int32) (x2 : Int32) (x3 : Int32) (t0 : Option Nat) (h : PH) : Option (Int32 × PH) := f_X7_predictRead_B33 x0 x1 x2 x3 t0 (1 : Int32) h
theorem pf_X7_predictRead_B28 {Γ : GX} {D : va_G} {h0 : PH} {o : Int32 × PH} (x0 : Option Nat) (x1 : Int32) (x2 : Int32) (x3 : Int32) (t0 : Option Nat) (h : PH) (hf : f_X7_predictRead_B28 x0 x1 x2 x3 t0 h = some o) : PF Γ mi_X7_predictRead D h0 (QR Γ D h0 (ovi o.1) o.2) h 28 [some (va_rf x0), some (.int x1), some (.int x2), some (.int x3), none, none] [va_rf t0] := by
  refine j_iconst (1 : Int32) dX7_predictRead_28 (by decide) ?_
  refine j_goto 33 dX7_predictRead_29 (by decide) ?_
  exact pf_X7_predictRead_B33 x0 x1 x2 x3 t0 (1 : Int32) h hf
def f_X7_predictRead (r0 : Option Nat) (p0 : Int32) (p1 : Int32) (p2 : Int32) (h0 : PH) : Option (Int32 × PH) := rv_ h0 r0 6 (cl_ (f_X7_noNode r0 p0 h0) fun v2 h1 => (if v2 = 0 then (cl_ (f_X7_isRegister p1 h1) fun v4 h3 => (if v4 = 0 then (f_X7_predictRead_B28 r0 p0 p1 p2 r0 h3) else (cl_ (f_X7_in (p2.toInt64) (1 : Int64) (5000 : Int64) h3) fun v6 h5 => (if v6 = 0 then (f_X7_predictRead_B28 r0 p0 p1 p2 r0 h5) else (f_X7_predictRead_B33 r0 p0 p1 p2 r0 (0 : Int32) h5))))) else (f_X7_predictRead_B40 h1)))
theorem hyS_X7_predictRead : yX7_predictRead.cls ≠ "java/lang/invoke/MethodHandle" ∧ yX7_predictRead.cls ≠ "java/lang/invoke/VarHandle" ∧ (parseMethodDescriptor yX7_predictRead.desc).map (fun d => d.parameters.length) = some 3 := by decide +kernel
theorem hyV_X7_predictRead : yX7_predictRead.cls = RX7 ∧ yX7_predictRead.cls ≠ "java/lang/invoke/MethodHandle" ∧ yX7_predictRead.cls ≠ "java/lang/invoke/VarHandle" ∧ (parseMethodDescriptor yX7_predictRead.desc).map (fun d => d.parameters.length) = some 3 := by decide +kernel
theorem c_X7_predictRead {D : va_G} (r0 : Option Nat) (p0 : Int32) (p1 : Int32) (p2 : Int32) {h0 : PH} (l : Launch) (hl : l.stackTraces = false) (x : Int32) (h1 : PH) (hf : f_X7_predictRead r0 p0 p1 p2 h0 = some (x, h1)) : CT l D yX7_predictRead (ws_ yX7_predictRead cX7_predictRead 6 (Option.some FieldType.int)) 8 194 [va_rf r0, .int p0, .int p1, .int p2] h0 (ovi x) h1 := by
  refine ct_of hl [some (va_rf r0), some (.int p0), some (.int p1), some (.int p2), none, none] (by decide) (by rw [lgl]; simp [va_rf_cat, cat_i, cat_l]) (by simp [lv_args, vsL, va_rf_cat, cat_i, cat_l]) (fun Γ => ?_)
  obtain ⟨o, ho⟩ : ∃ o : Int32 × PH, o = (x, h1) := ⟨_, rfl⟩
  rw [← ho] at hf
  have e1 : x = o.1 := by rw [ho]
  have e2 : h1 = o.2 := by rw [ho]
  subst e1 e2
  clear ho
  show PF Γ mi_X7_predictRead D h0 (QR Γ D h0 (ovi o.1) o.2) h0 0 [some (va_rf r0), some (.int p0), some (.int p1), some (.int p2), none, none] []
  unfold f_X7_predictRead at hf
  refine j_aload_n 0 dX7_predictRead_0 rfl rfl ?_
  refine j_iload_n 1 dX7_predictRead_1 rfl rfl ?_
  refine kc_X7_172 rfl rfl rfl (by decide) dX7_predictRead_2 hf (fun v2 h1 hf => ?_)
  refine j_if_ne 40 dX7_predictRead_5 (by decide) hf (fun c_ hf => ?_) (fun c_ hf => ?_)
  · refine j_weak [none, none, none, none, none, none] (Wk.s (Wk.s (Wk.s (Wk.s (Wk.k (Wk.k Wk.n)))))) ?_
    exact pf_X7_predictRead_B40  h1 hf
  · refine j_aload_n 0 dX7_predictRead_8 rfl rfl ?_
    refine j_iload_n 2 dX7_predictRead_9 rfl rfl ?_
    refine kc_X7_292 rfl rfl rfl (by simp [va_rf_cat, cat_i, cat_l]) dX7_predictRead_10 hf (fun v4 h3 hf => ?_)
    refine j_if_eq 28 dX7_predictRead_13 (by decide) hf (fun c_ hf => ?_) (fun c_ hf => ?_)
    · exact pf_X7_predictRead_B28 r0 p0 p1 p2 r0 h3 hf
    · refine j_iload_n 3 dX7_predictRead_16 rfl rfl ?_
      refine j_i2l dX7_predictRead_17 ?_
      refine j_lconst (1 : Int64) dX7_predictRead_18 (by decide) ?_
      refine j_ldc2 q2372 dX7_predictRead_19 ?_
      refine kc_X7_68 rfl rfl rfl (by simp [va_rf_cat, cat_i, cat_l]) dX7_predictRead_22 hf (fun v6 h5 hf => ?_)
      refine j_if_ne 32 dX7_predictRead_25 (by decide) hf (fun c_ hf => ?_) (fun c_ hf => ?_)
      · refine j_iconst (0 : Int32) dX7_predictRead_32 (by decide) ?_
        exact pf_X7_predictRead_B33 r0 p0 p1 p2 r0 (0 : Int32) h5 hf
      · exact pf_X7_predictRead_B28 r0 p0 p1 p2 r0 h5 hf
abbrev mi_X7_advance : MI := (cX7_advance, 2, RX7, (Option.some FieldType.int), [], 8, 194, "advance")
def f_X7_advance_B23 (x0 : Option Nat) (x1 : Int32) (t0 : Option Nat) (t1 : Int32) (h : PH) : Option (Int32 × PH) := rv_ h t0 6 (cl_ (f_X7_throwsIf t0 t1 (1 : Int32) h) fun v5 h4 => (if v5 = 0 then (gR h4 x0 6 0 fun r6 => aI h4 r6 0 (0 : Int32) fun v7 => (if (v7 + x1) ≤ (5000000 : Int32) then (gR h4 x0 6 0 fun r8 => aI h4 r8 0 (0 : Int32) fun v9 => rv_ h4 x0 6 (cl_ (f_X7_goesTo x0 (v9 + x1) h4) fun _u h10 => gR h10 x0 6 0 fun r11 => aI h10 r11 0 (0 : Int32) fun v12 => some (v12, h10))) else (some ((-5 : Int32), h4)))) else (some ((0 : Int32), h4))))
theorem pf_X7_advance_B23 {Γ : GX} {D : va_G} {h0 : PH} {o : Int32 × PH} (x0 : Option Nat) (x1 : Int32) (t0 : Option Nat) (t1 : Int32) (h : PH) (hf : f_X7_advance_B23 x0 x1 t0 t1 h = some o) : PF Γ mi_X7_advance D h0 (QR Γ D h0 (ovi o.1) o.2) h 23 [some (va_rf x0), some (.int x1)] [.int t1, va_rf t0] := by
  refine j_iconst (1 : Int32) dX7_advance_23 (by decide) ?_
  refine kc_X7_72 rfl rfl rfl (by decide) dX7_advance_24 hf (fun v5 h4 hf => ?_)
  refine j_if_eq 32 dX7_advance_27 (by decide) hf (fun c_ hf => ?_) (fun c_ hf => ?_)
  · refine j_aload_n 0 dX7_advance_32 rfl rfl ?_
    refine j_gR (ci := 6) (k := 0) rfl in_X7 rfl q2202 dX7_advance_33 hf (fun r6 hf => ?_)
    refine j_iconst (0 : Int32) dX7_advance_36 (by decide) ?_
    refine j_iald dX7_advance_37 hf (fun v7 hf => ?_)
    refine j_iload_n 1 dX7_advance_38 rfl rfl ?_
    refine j_iadd dX7_advance_39 ?_
    refine j_ldcw q2373 dX7_advance_40 ?_
    refine j_icmp_le 49 dX7_advance_43 (by decide) hf (fun c_ hf => ?_) (fun c_ hf => ?_)
    · refine j_aload_n 0 dX7_advance_49 rfl rfl ?_
      refine j_aload_n 0 dX7_advance_50 rfl rfl ?_
      refine j_gR (ci := 6) (k := 0) rfl in_X7 rfl q2202 dX7_advance_51 hf (fun r8 hf => ?_)
      refine j_iconst (0 : Int32) dX7_advance_54 (by decide) ?_
      refine j_iald dX7_advance_55 hf (fun v9 hf => ?_)
      refine j_iload_n 1 dX7_advance_56 rfl rfl ?_
      refine j_iadd dX7_advance_57 ?_
      refine kc_X7_280 rfl rfl rfl (by decide) dX7_advance_58 hf (fun _u h10 hf => ?_)
      refine j_aload_n 0 dX7_advance_61 rfl rfl ?_
      refine j_gR (ci := 6) (k := 0) rfl in_X7 rfl q2202 dX7_advance_62 hf (fun r11 hf => ?_)
      refine j_iconst (0 : Int32) dX7_advance_65 (by decide) ?_
      refine j_iald dX7_advance_66 hf (fun v12 hf => ?_)
      have e9 := Option.some.inj hf
      subst e9
      exact j_iret rfl dX7_advance_67
    · refine j_bipush (-5 : Int32) dX7_advance_46 (by decide) ?_
      have e9 := Option.some.inj hf
      subst e9
      exact j_iret rfl dX7_advance_48
  · refine j_iconst (0 : Int32) dX7_advance_30 (by decide) ?_
    have e9 := Option.some.inj hf
    subst e9
    exact j_iret rfl dX7_advance_31
def f_X7_advance (r0 : Option Nat) (p0 : Int32) (h0 : PH) : Option (Int32 × PH) := pV h0 r0 6 1 (.int (0 : Int32)) fun h1 => cl_ (f_X7_in (p0.toInt64) (1 : Int64) (5000 : Int64) h1) fun v3 h2 => (if v3 = 0 then (f_X7_advance_B23 r0 p0 r0 (1 : Int32) h2) else (f_X7_advance_B23 r0 p0 r0 (0 : Int32) h2))
theorem hyS_X7_advance : yX7_advance.cls ≠ "java/lang/invoke/MethodHandle" ∧ yX7_advance.cls ≠ "java/lang/invoke/VarHandle" ∧ (parseMethodDescriptor yX7_advance.desc).map (fun d => d.parameters.length) = some 1 := by decide +kernel
theorem hyV_X7_advance : yX7_advance.cls = RX7 ∧ yX7_advance.cls ≠ "java/lang/invoke/MethodHandle" ∧ yX7_advance.cls ≠ "java/lang/invoke/VarHandle" ∧ (parseMethodDescriptor yX7_advance.desc).map (fun d => d.parameters.length) = some 1 := by decide +kernel
theorem c_X7_advance {D : va_G} (r0 : Option Nat) (p0 : Int32) {h0 : PH} (l : Launch) (hl : l.stackTraces = false) (x : Int32) (h1 : PH) (hf : f_X7_advance r0 p0 h0 = some (x, h1)) : CT l D yX7_advance (ws_ yX7_advance cX7_advance 2 (Option.some FieldType.int)) 8 194 [va_rf r0, .int p0] h0 (ovi x) h1 := by
  refine ct_of hl [some (va_rf r0), some (.int p0)] (by decide) (by rw [lgl]; simp [va_rf_cat, cat_i, cat_l]) (by simp [lv_args, vsL, va_rf_cat, cat_i, cat_l]) (fun Γ => ?_)
  obtain ⟨o, ho⟩ : ∃ o : Int32 × PH, o = (x, h1) := ⟨_, rfl⟩
  rw [← ho] at hf
  have e1 : x = o.1 := by rw [ho]
  have e2 : h1 = o.2 := by rw [ho]
  subst e1 e2
  clear ho
  show PF Γ mi_X7_advance D h0 (QR Γ D h0 (ovi o.1) o.2) h0 0 [some (va_rf r0), some (.int p0)] []
  unfold f_X7_advance at hf
  refine j_aload_n 0 dX7_advance_0 rfl rfl ?_
  refine j_iconst (0 : Int32) dX7_advance_1 (by decide) ?_
  refine j_pV (ci := 6) (k := 1) tyX7 tyX7_ok nmX7 rfl in_X7 rfl q2203 (Or.inl rfl) rfl (fit_i _) dX7_advance_2 hf (fun h1 hf => ?_)
  refine j_aload_n 0 dX7_advance_5 rfl rfl ?_
  refine j_iload_n 1 dX7_advance_6 rfl rfl ?_
  refine j_i2l dX7_advance_7 ?_
  refine j_lconst (1 : Int64) dX7_advance_8 (by decide) ?_
  refine j_ldc2 q2372 dX7_advance_9 ?_
  refine kc_X7_68 rfl rfl rfl (by simp [va_rf_cat, cat_i, cat_l]) dX7_advance_12 hf (fun v3 h2 hf => ?_)
  refine j_if_ne 22 dX7_advance_15 (by decide) hf (fun c_ hf => ?_) (fun c_ hf => ?_)
  · refine j_iconst (0 : Int32) dX7_advance_22 (by decide) ?_
    exact pf_X7_advance_B23 r0 p0 r0 (0 : Int32) h2 hf
  · refine j_iconst (1 : Int32) dX7_advance_18 (by decide) ?_
    refine j_goto 23 dX7_advance_19 (by decide) ?_
    exact pf_X7_advance_B23 r0 p0 r0 (1 : Int32) h2 hf
