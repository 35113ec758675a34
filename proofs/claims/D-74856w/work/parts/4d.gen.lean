/-! printed by gen.py: X7_readNodeHere X7_clock X7_serverClock X7_nextTime X7_leads X7_endOf X7_outagesNow X7_atServer X7_written X7_granted X7_acquires X7_campaign X7_refusalOfLeader X7_writeLater X7_fetch -/
set_option maxRecDepth 100000
theorem kc_X7_134 {Γ : GX} {I : MI} {D : va_G} {h0 : PH} {Q : State → Prop} {h : PH} {pc : Nat} {vs : List (Option Value)} {rest : List Value} {β : Type} {o : β} {r : Option Nat} {p0 : Int32} {p1 : Int32} {K : ((Int32) → PH → Option β)} (hI : I.2.2.1 = RX7) (hfr : Nat.ble 3 I.2.2.2.2.2.1 = true) (hlo : Nat.ble 64 I.2.2.2.2.2.2.1 = true) (hW : (rest.map fun v => v.category).sum ≤ 8) (hd : decode I.1 pc = .ok (.invokevirtual 134, 3)) (hf : rv_ h r 6 (cl_ (f_X7_number r p0 p1 h) K) = some o) (kk : ∀ (x : Int32) (h1 : PH), K x h1 = some o → PF Γ I D h0 Q h1 (pc + 3) vs (.int x :: rest)) : PF Γ I D h0 Q h pc vs (.int p1 :: .int p0 :: va_rf r :: rest) := by
  obtain ⟨cc, nL, own, rt, xt, fr, lo, nm⟩ := I
  cases hI
  exact j_cVi (n := 2) (y := yX7_number) (cc2 := cX7_number) (As := [.int p0, .int p1]) (C := RX7) (ci := 6) rfl (lw_V q2312 q2314 qs43 q117 q2315) hyV_X7_number hfr hlo rfl hW hd (c_X7_number r p0 p1) hf _ rfl kk
abbrev mi_X7_readNodeHere : MI := (cX7_readNodeHere, 4, RX7, none, [], 3, 64, "readNodeHere")
def f_X7_readNodeHere_B42  (h : PH) : Option (Unit × PH) := some ((), h)
theorem pf_X7_readNodeHere_B42 {Γ : GX} {D : va_G} {h0 : PH} {o : Unit × PH}  (h : PH) (hf : f_X7_readNodeHere_B42  h = some o) : PF Γ mi_X7_readNodeHere D h0 (QR Γ D h0 (ovv o.1) o.2) h 42 [none, none, none, none] [] := by
  have e9 := Option.some.inj hf
  subst e9
  exact j_vret rfl dX7_readNodeHere_42
def f_X7_readNodeHere (r0 : Option Nat) (h0 : PH) : Option (Unit × PH) := rv_ h0 r0 6 (cl_ (f_X7_number r0 (900 : Int32) (1100 : Int32) h0) fun v2 h1 => rv_ h1 r0 6 (cl_ (f_X7_number r0 (0 : Int32) (100000 : Int32) h1) fun v4 h3 => rv_ h3 r0 6 (cl_ (f_X7_number r0 (1 : Int32) (1000 : Int32) h3) fun v6 h5 => gI h5 r0 6 7 fun v7 => (if v7 = 0 then (rv_ h5 r0 6 (cl_ (f_X7_readNode r0 v2 v4 v6 h5) fun _u h8 => f_X7_readNodeHere_B42 h8)) else (f_X7_readNodeHere_B42 h5)))))
theorem hyS_X7_readNodeHere : yX7_readNodeHere.cls ≠ "java/lang/invoke/MethodHandle" ∧ yX7_readNodeHere.cls ≠ "java/lang/invoke/VarHandle" ∧ (parseMethodDescriptor yX7_readNodeHere.desc).map (fun d => d.parameters.length) = some 0 := by decide +kernel
theorem hyV_X7_readNodeHere : yX7_readNodeHere.cls = RX7 ∧ yX7_readNodeHere.cls ≠ "java/lang/invoke/MethodHandle" ∧ yX7_readNodeHere.cls ≠ "java/lang/invoke/VarHandle" ∧ (parseMethodDescriptor yX7_readNodeHere.desc).map (fun d => d.parameters.length) = some 0 := by decide +kernel
theorem c_X7_readNodeHere {D : va_G} (r0 : Option Nat) {h0 : PH} (l : Launch) (hl : l.stackTraces = false) (x : Unit) (h1 : PH) (hf : f_X7_readNodeHere r0 h0 = some (x, h1)) : CT l D yX7_readNodeHere (ws_ yX7_readNodeHere cX7_readNodeHere 4 none) 3 64 [va_rf r0] h0 (ovv x) h1 := by
  refine ct_of hl [some (va_rf r0), none, none, none] (by decide) (by rw [lgl]; simp [va_rf_cat, cat_i, cat_l]) (by simp [lv_args, vsL, va_rf_cat, cat_i, cat_l]) (fun Γ => ?_)
  obtain ⟨o, ho⟩ : ∃ o : Unit × PH, o = (x, h1) := ⟨_, rfl⟩
  rw [← ho] at hf
  have e1 : x = o.1 := by rw [ho]
  have e2 : h1 = o.2 := by rw [ho]
  subst e1 e2
  clear ho
  show PF Γ mi_X7_readNodeHere D h0 (QR Γ D h0 (ovv o.1) o.2) h0 0 [some (va_rf r0), none, none, none] []
  unfold f_X7_readNodeHere at hf
  refine j_aload_n 0 dX7_readNodeHere_0 rfl rfl ?_
  refine j_sipush (900 : Int32) dX7_readNodeHere_1 (by decide) ?_
  refine j_sipush (1100 : Int32) dX7_readNodeHere_4 (by decide) ?_
  refine kc_X7_134 rfl rfl rfl (by decide) dX7_readNodeHere_7 hf (fun v2 h1 hf => ?_)
  refine j_istore_n 1 [some (va_rf r0), some (.int v2), none, none] dX7_readNodeHere_10 rfl (cz (va_rf_cat _)) rfl rfl ?_
  refine j_aload_n 0 dX7_readNodeHere_11 rfl rfl ?_
  refine j_iconst (0 : Int32) dX7_readNodeHere_12 (by decide) ?_
  refine j_ldc q2321 dX7_readNodeHere_13 ?_
  refine kc_X7_134 rfl rfl rfl (by decide) dX7_readNodeHere_15 hf (fun v4 h3 hf => ?_)
  refine j_istore_n 2 [some (va_rf r0), some (.int v2), some (.int v4), none] dX7_readNodeHere_18 rfl (cz rfl) rfl rfl ?_
  refine j_aload_n 0 dX7_readNodeHere_19 rfl rfl ?_
  refine j_iconst (1 : Int32) dX7_readNodeHere_20 (by decide) ?_
  refine j_sipush (1000 : Int32) dX7_readNodeHere_21 (by decide) ?_
  refine kc_X7_134 rfl rfl rfl (by decide) dX7_readNodeHere_24 hf (fun v6 h5 hf => ?_)
  refine j_istore_n 3 [some (va_rf r0), some (.int v2), some (.int v4), some (.int v6)] dX7_readNodeHere_27 rfl (cz rfl) rfl rfl ?_
  refine j_aload_n 0 dX7_readNodeHere_28 rfl rfl ?_
  refine j_gI (ci := 6) (k := 7) rfl in_X7 rfl q2209 dX7_readNodeHere_29 hf (fun v7 hf => ?_)
  refine j_if_ne 42 dX7_readNodeHere_32 (by decide) hf (fun c_ hf => ?_) (fun c_ hf => ?_)
  · refine j_weak [none, none, none, none] (Wk.s (Wk.s (Wk.s (Wk.s Wk.n)))) ?_
    exact pf_X7_readNodeHere_B42  h5 hf
  · refine j_aload_n 0 dX7_readNodeHere_35 rfl rfl ?_
    refine j_iload_n 1 dX7_readNodeHere_36 rfl rfl ?_
    refine j_iload_n 2 dX7_readNodeHere_37 rfl rfl ?_
    refine j_iload_n 3 dX7_readNodeHere_38 rfl rfl ?_
    refine kc_X7_58 rfl rfl rfl (by decide) dX7_readNodeHere_39 hf (fun _u h8 hf => ?_)
    refine j_weak [none, none, none, none] (Wk.s (Wk.s (Wk.s (Wk.s Wk.n)))) ?_
    exact pf_X7_readNodeHere_B42  h8 hf
abbrev mi_X7_clock : MI := (cX7_clock, 2, RX7, (Option.some FieldType.int), [], 1, 22, "clock")
def f_X7_clock (r0 : Option Nat) (p0 : Int32) (h0 : PH) : Option (Int32 × PH) := rv_ h0 r0 6 (cl_ (f_X7_of r0 p0 (0 : Int32) h0) fun v2 h1 => rv_ h1 r0 6 (cl_ (f_X7_of r0 p0 (1 : Int32) h1) fun v4 h3 => gR h3 r0 6 0 fun r5 => aI h3 r5 0 (0 : Int32) fun v6 => cl_ (f_X7_shows v2 v4 v6 h3) fun v8 h7 => some (v8, h7)))
theorem hyS_X7_clock : yX7_clock.cls ≠ "java/lang/invoke/MethodHandle" ∧ yX7_clock.cls ≠ "java/lang/invoke/VarHandle" ∧ (parseMethodDescriptor yX7_clock.desc).map (fun d => d.parameters.length) = some 1 := by decide +kernel
theorem hyV_X7_clock : yX7_clock.cls = RX7 ∧ yX7_clock.cls ≠ "java/lang/invoke/MethodHandle" ∧ yX7_clock.cls ≠ "java/lang/invoke/VarHandle" ∧ (parseMethodDescriptor yX7_clock.desc).map (fun d => d.parameters.length) = some 1 := by decide +kernel
theorem c_X7_clock {D : va_G} (r0 : Option Nat) (p0 : Int32) {h0 : PH} (l : Launch) (hl : l.stackTraces = false) (x : Int32) (h1 : PH) (hf : f_X7_clock r0 p0 h0 = some (x, h1)) : CT l D yX7_clock (ws_ yX7_clock cX7_clock 2 (Option.some FieldType.int)) 1 22 [va_rf r0, .int p0] h0 (ovi x) h1 := by
  refine ct_of hl [some (va_rf r0), some (.int p0)] (by decide) (by rw [lgl]; simp [va_rf_cat, cat_i, cat_l]) (by simp [lv_args, vsL, va_rf_cat, cat_i, cat_l]) (fun Γ => ?_)
  obtain ⟨o, ho⟩ : ∃ o : Int32 × PH, o = (x, h1) := ⟨_, rfl⟩
  rw [← ho] at hf
  have e1 : x = o.1 := by rw [ho]
  have e2 : h1 = o.2 := by rw [ho]
  subst e1 e2
  clear ho
  show PF Γ mi_X7_clock D h0 (QR Γ D h0 (ovi o.1) o.2) h0 0 [some (va_rf r0), some (.int p0)] []
  unfold f_X7_clock at hf
  refine j_aload_n 0 dX7_clock_0 rfl rfl ?_
  refine j_iload_n 1 dX7_clock_1 rfl rfl ?_
  refine j_iconst (0 : Int32) dX7_clock_2 (by decide) ?_
  refine kc_X7_152 rfl rfl rfl (by decide) dX7_clock_3 hf (fun v2 h1 hf => ?_)
  refine j_aload_n 0 dX7_clock_6 rfl rfl ?_
  refine j_iload_n 1 dX7_clock_7 rfl rfl ?_
  refine j_iconst (1 : Int32) dX7_clock_8 (by decide) ?_
  refine kc_X7_152 rfl rfl rfl (by simp [va_rf_cat, cat_i, cat_l]) dX7_clock_9 hf (fun v4 h3 hf => ?_)
  refine j_aload_n 0 dX7_clock_12 rfl rfl ?_
  refine j_gR (ci := 6) (k := 0) rfl in_X7 rfl q2202 dX7_clock_13 hf (fun r5 hf => ?_)
  refine j_iconst (0 : Int32) dX7_clock_16 (by decide) ?_
  refine j_iald dX7_clock_17 hf (fun v6 hf => ?_)
  refine kc_X7_155 rfl rfl rfl (by decide) dX7_clock_18 hf (fun v8 h7 hf => ?_)
  have e9 := Option.some.inj hf
  subst e9
  exact j_iret rfl dX7_clock_21
abbrev mi_X7_serverClock : MI := (cX7_serverClock, 1, RX7, (Option.some FieldType.int), [], 2, 42, "serverClock")
def f_X7_serverClock (r0 : Option Nat) (h0 : PH) : Option (Int32 × PH) := pV h0 r0 6 1 (.int (0 : Int32)) fun h1 => rv_ h1 r0 6 (cl_ (f_X7_serverShows r0 h1) fun v3 h2 => some (v3, h2))
theorem hyS_X7_serverClock : yX7_serverClock.cls ≠ "java/lang/invoke/MethodHandle" ∧ yX7_serverClock.cls ≠ "java/lang/invoke/VarHandle" ∧ (parseMethodDescriptor yX7_serverClock.desc).map (fun d => d.parameters.length) = some 0 := by decide +kernel
theorem hyV_X7_serverClock : yX7_serverClock.cls = RX7 ∧ yX7_serverClock.cls ≠ "java/lang/invoke/MethodHandle" ∧ yX7_serverClock.cls ≠ "java/lang/invoke/VarHandle" ∧ (parseMethodDescriptor yX7_serverClock.desc).map (fun d => d.parameters.length) = some 0 := by decide +kernel
theorem c_X7_serverClock {D : va_G} (r0 : Option Nat) {h0 : PH} (l : Launch) (hl : l.stackTraces = false) (x : Int32) (h1 : PH) (hf : f_X7_serverClock r0 h0 = some (x, h1)) : CT l D yX7_serverClock (ws_ yX7_serverClock cX7_serverClock 1 (Option.some FieldType.int)) 2 42 [va_rf r0] h0 (ovi x) h1 := by
  refine ct_of hl [some (va_rf r0)] (by decide) (by rw [lgl]; simp [va_rf_cat, cat_i, cat_l]) (by simp [lv_args, vsL, va_rf_cat, cat_i, cat_l]) (fun Γ => ?_)
  obtain ⟨o, ho⟩ : ∃ o : Int32 × PH, o = (x, h1) := ⟨_, rfl⟩
  rw [← ho] at hf
  have e1 : x = o.1 := by rw [ho]
  have e2 : h1 = o.2 := by rw [ho]
  subst e1 e2
  clear ho
  show PF Γ mi_X7_serverClock D h0 (QR Γ D h0 (ovi o.1) o.2) h0 0 [some (va_rf r0)] []
  unfold f_X7_serverClock at hf
  refine j_aload_n 0 dX7_serverClock_0 rfl rfl ?_
  refine j_iconst (0 : Int32) dX7_serverClock_1 (by decide) ?_
  refine j_pV (ci := 6) (k := 1) tyX7 tyX7_ok nmX7 rfl in_X7 rfl q2203 (Or.inl rfl) rfl (fit_i _) dX7_serverClock_2 hf (fun h1 hf => ?_)
  refine j_aload_n 0 dX7_serverClock_5 rfl rfl ?_
  refine kc_X7_176 rfl rfl rfl (by decide) dX7_serverClock_6 hf (fun v3 h2 hf => ?_)
  have e9 := Option.some.inj hf
  subst e9
  exact j_iret rfl dX7_serverClock_9
abbrev mi_X7_nextTime : MI := (cX7_nextTime, 3, RX7, (Option.some FieldType.int), [], 2, 43, "nextTime")
def f_X7_nextTime_B210 (k143 : Option Nat → Int32 → Int32 → PH → Option (Int32 × PH)) (x0 : Option Nat) (x1 : Int32) (x2 : Int32) (h : PH) : Option (Int32 × PH) := k143 x0 x1 (x2 + (1 : Int32)) h
theorem pf_X7_nextTime_B210 {Γ : GX} {D : va_G} {h0 : PH} {o : Int32 × PH} (k143 : Option Nat → Int32 → Int32 → PH → Option (Int32 × PH)) (hk143 : ∀ (x0 : Option Nat) (x1 : Int32) (x2 : Int32) (h : PH), k143 x0 x1 x2 h = some o → PF Γ mi_X7_nextTime D h0 (QR Γ D h0 (ovi o.1) o.2) h 143 [some (va_rf x0), some (.int x1), some (.int x2)] []) (x0 : Option Nat) (x1 : Int32) (x2 : Int32) (h : PH) (hf : f_X7_nextTime_B210 k143 x0 x1 x2 h = some o) : PF Γ mi_X7_nextTime D h0 (QR Γ D h0 (ovi o.1) o.2) h 210 [some (va_rf x0), some (.int x1), some (.int x2)] [] := by
  refine j_iinc (x2 + (1 : Int32)) [some (va_rf x0), some (.int x1), some (.int (x2 + (1 : Int32)))] dX7_nextTime_210 rfl rfl (cz rfl) rfl rfl ?_
  refine j_goto 143 dX7_nextTime_213 (by decide) ?_
  exact hk143 x0 x1 (x2 + (1 : Int32)) h hf
def f_X7_nextTime_L143 : Nat → Option Nat → Int32 → Int32 → PH → Option (Int32 × PH)
  | 0, _, _, _, _ => none
  | n + 1, x0, x1, x2, h => gR h x0 6 0 fun r16 => aI h r16 0 (2 : Int32) fun v17 => (if v17 ≤ x2 then (some (x1, h)) else (rv_ h x0 6 (cl_ (f_X7_of x0 x2 (3 : Int32) h) fun v19 h18 => (if v19 = 0 then (f_X7_nextTime_B210 (f_X7_nextTime_L143 n) x0 x1 x2 h18) else (rv_ h18 x0 6 (cl_ (f_X7_isPaused x0 x2 h18) fun v21 h20 => (if v21 = 0 then (rv_ h20 x0 6 (cl_ (f_X7_of x0 x2 (9 : Int32) h20) fun v23 h22 => (if v23 = (-1 : Int32) then (f_X7_nextTime_B210 (f_X7_nextTime_L143 n) x0 x1 x2 h22) else (rv_ h22 x0 6 (cl_ (f_X7_of x0 x2 (9 : Int32) h22) fun v25 h24 => f_X7_nextTime_B210 (f_X7_nextTime_L143 n) x0 (if v25 < x1 then v25 else x1) x2 h24))))) else (rv_ h20 x0 6 (cl_ (f_X7_of x0 x2 (4 : Int32) h20) fun v27 h26 => f_X7_nextTime_B210 (f_X7_nextTime_L143 n) x0 (if v27 < x1 then v27 else x1) x2 h26)))))))))
theorem pf_X7_nextTime_L143 {Γ : GX} {D : va_G} {h0 : PH} {o : Int32 × PH} : ∀ (n : Nat) (x0 : Option Nat) (x1 : Int32) (x2 : Int32) (h : PH), f_X7_nextTime_L143 n x0 x1 x2 h = some o → PF Γ mi_X7_nextTime D h0 (QR Γ D h0 (ovi o.1) o.2) h 143 [some (va_rf x0), some (.int x1), some (.int x2)] [] := by
  intro n
  induction n with
  | zero => intro x0 x1 x2 h hf; cases hf
  | succ n ih =>
    intro x0 x1 x2 h hf
    refine j_iload_n 2 dX7_nextTime_143 rfl rfl ?_
    refine j_aload_n 0 dX7_nextTime_144 rfl rfl ?_
    refine j_gR (ci := 6) (k := 0) rfl in_X7 rfl q2202 dX7_nextTime_145 hf (fun r16 hf => ?_)
    refine j_iconst (2 : Int32) dX7_nextTime_148 (by decide) ?_
    refine j_iald dX7_nextTime_149 hf (fun v17 hf => ?_)
    refine j_icmp_ge 216 dX7_nextTime_150 (by decide) hf (fun c_ hf => ?_) (fun c_ hf => ?_)
    · refine j_iload_n 1 dX7_nextTime_216 rfl rfl ?_
      have e9 := Option.some.inj hf
      subst e9
      exact j_iret rfl dX7_nextTime_217
    · refine j_aload_n 0 dX7_nextTime_153 rfl rfl ?_
      refine j_iload_n 2 dX7_nextTime_154 rfl rfl ?_
      refine j_iconst (3 : Int32) dX7_nextTime_155 (by decide) ?_
      refine kc_X7_152 rfl rfl rfl (by decide) dX7_nextTime_156 hf (fun v19 h18 hf => ?_)
      refine j_if_ne 165 dX7_nextTime_159 (by decide) hf (fun c_ hf => ?_) (fun c_ hf => ?_)
      · refine j_aload_n 0 dX7_nextTime_165 rfl rfl ?_
        refine j_iload_n 2 dX7_nextTime_166 rfl rfl ?_
        refine kc_X7_229 rfl rfl rfl (by decide) dX7_nextTime_167 hf (fun v21 h20 hf => ?_)
        refine j_if_eq 187 dX7_nextTime_170 (by decide) hf (fun c_ hf => ?_) (fun c_ hf => ?_)
        · refine j_aload_n 0 dX7_nextTime_187 rfl rfl ?_
          refine j_iload_n 2 dX7_nextTime_188 rfl rfl ?_
          refine j_bipush (9 : Int32) dX7_nextTime_189 (by decide) ?_
          refine kc_X7_152 rfl rfl rfl (by decide) dX7_nextTime_191 hf (fun v23 h22 hf => ?_)
          refine j_iconst (-1 : Int32) dX7_nextTime_194 (by decide) ?_
          refine j_icmp_eq 210 dX7_nextTime_195 (by decide) hf (fun c_ hf => ?_) (fun c_ hf => ?_)
          · exact pf_X7_nextTime_B210 (f_X7_nextTime_L143 n) ih x0 x1 x2 h22 hf
          · refine j_iload_n 1 dX7_nextTime_198 rfl rfl ?_
            refine j_aload_n 0 dX7_nextTime_199 rfl rfl ?_
            refine j_iload_n 2 dX7_nextTime_200 rfl rfl ?_
            refine j_bipush (9 : Int32) dX7_nextTime_201 (by decide) ?_
            refine kc_X7_152 rfl rfl rfl (by simp [va_rf_cat, cat_i, cat_l]) dX7_nextTime_203 hf (fun v25 h24 hf => ?_)
            refine j_mmin q2383 q306 q106 q307 rfl rfl (by decide) dX7_nextTime_206 ?_
            refine j_istore_n 1 [some (va_rf x0), some (.int (if v25 < x1 then v25 else x1)), some (.int x2)] dX7_nextTime_209 rfl (cz (va_rf_cat _)) rfl rfl ?_
            exact pf_X7_nextTime_B210 (f_X7_nextTime_L143 n) ih x0 (if v25 < x1 then v25 else x1) x2 h24 hf
        · refine j_iload_n 1 dX7_nextTime_173 rfl rfl ?_
          refine j_aload_n 0 dX7_nextTime_174 rfl rfl ?_
          refine j_iload_n 2 dX7_nextTime_175 rfl rfl ?_
          refine j_iconst (4 : Int32) dX7_nextTime_176 (by decide) ?_
          refine kc_X7_152 rfl rfl rfl (by simp [va_rf_cat, cat_i, cat_l]) dX7_nextTime_177 hf (fun v27 h26 hf => ?_)
          refine j_mmin q2383 q306 q106 q307 rfl rfl (by decide) dX7_nextTime_180 ?_
          refine j_istore_n 1 [some (va_rf x0), some (.int (if v27 < x1 then v27 else x1)), some (.int x2)] dX7_nextTime_183 rfl (cz (va_rf_cat _)) rfl rfl ?_
          refine j_goto 210 dX7_nextTime_184 (by decide) ?_
          exact pf_X7_nextTime_B210 (f_X7_nextTime_L143 n) ih x0 (if v27 < x1 then v27 else x1) x2 h26 hf
      · refine j_goto 210 dX7_nextTime_162 (by decide) ?_
        exact pf_X7_nextTime_B210 (f_X7_nextTime_L143 n) ih x0 x1 x2 h18 hf
def f_X7_nextTime_B129 (k80 : Option Nat → Int32 → Int32 → PH → Option (Int32 × PH)) (x0 : Option Nat) (x2 : Int32) (t0 : Int32) (t1 : Option Nat) (t2 : Int32) (t3 : Int32) (h : PH) : Option (Int32 × PH) := aI h t1 0 (t2 + t3) fun v28 => k80 x0 (if v28 < t0 then v28 else t0) (x2 + (1 : Int32)) h
theorem pf_X7_nextTime_B129 {Γ : GX} {D : va_G} {h0 : PH} {o : Int32 × PH} (k80 : Option Nat → Int32 → Int32 → PH → Option (Int32 × PH)) (hk80 : ∀ (x0 : Option Nat) (x1 : Int32) (x2 : Int32) (h : PH), k80 x0 x1 x2 h = some o → PF Γ mi_X7_nextTime D h0 (QR Γ D h0 (ovi o.1) o.2) h 80 [some (va_rf x0), some (.int x1), some (.int x2)] []) (x0 : Option Nat) (x2 : Int32) (t0 : Int32) (t1 : Option Nat) (t2 : Int32) (t3 : Int32) (h : PH) (hf : f_X7_nextTime_B129 k80 x0 x2 t0 t1 t2 t3 h = some o) : PF Γ mi_X7_nextTime D h0 (QR Γ D h0 (ovi o.1) o.2) h 129 [some (va_rf x0), none, some (.int x2)] [.int t3, .int t2, va_rf t1, .int t0] := by
  refine j_iadd dX7_nextTime_129 ?_
  refine j_iald dX7_nextTime_130 hf (fun v28 hf => ?_)
  refine j_mmin q2383 q306 q106 q307 rfl rfl (by decide) dX7_nextTime_131 ?_
  refine j_istore_n 1 [some (va_rf x0), some (.int (if v28 < t0 then v28 else t0)), some (.int x2)] dX7_nextTime_134 rfl (cz (va_rf_cat _)) rfl rfl ?_
  refine j_iinc (x2 + (1 : Int32)) [some (va_rf x0), some (.int (if v28 < t0 then v28 else t0)), some (.int (x2 + (1 : Int32)))] dX7_nextTime_135 rfl rfl (cz rfl) rfl rfl ?_
  refine j_goto 80 dX7_nextTime_138 (by decide) ?_
  exact hk80 x0 (if v28 < t0 then v28 else t0) (x2 + (1 : Int32)) h hf
def f_X7_nextTime_L80 : Nat → Option Nat → Int32 → Int32 → PH → Option (Int32 × PH)
  | 0, _, _, _, _ => none
  | n + 1, x0, x1, x2, h => gR h x0 6 0 fun r9 => aI h r9 0 (35 : Int32) fun v10 => (if v10 ≤ x2 then (f_X7_nextTime_L143 FU x0 x1 (0 : Int32) h) else (gR h x0 6 0 fun r11 => gR h x0 6 0 fun r12 => aI h r12 0 ((176 : Int32) + ((3 : Int32) * x2)) fun v13 => gR h x0 6 0 fun r14 => aI h r14 0 (0 : Int32) fun v15 => (if v13 ≤ v15 then (f_X7_nextTime_B129 (f_X7_nextTime_L80 n) x0 x2 x1 r11 ((176 : Int32) + ((3 : Int32) * x2)) (1 : Int32) h) else (f_X7_nextTime_B129 (f_X7_nextTime_L80 n) x0 x2 x1 r11 ((176 : Int32) + ((3 : Int32) * x2)) (0 : Int32) h))))
theorem pf_X7_nextTime_L80 {Γ : GX} {D : va_G} {h0 : PH} {o : Int32 × PH} : ∀ (n : Nat) (x0 : Option Nat) (x1 : Int32) (x2 : Int32) (h : PH), f_X7_nextTime_L80 n x0 x1 x2 h = some o → PF Γ mi_X7_nextTime D h0 (QR Γ D h0 (ovi o.1) o.2) h 80 [some (va_rf x0), some (.int x1), some (.int x2)] [] := by
  intro n
  induction n with
  | zero => intro x0 x1 x2 h hf; cases hf
  | succ n ih =>
    intro x0 x1 x2 h hf
    refine j_iload_n 2 dX7_nextTime_80 rfl rfl ?_
    refine j_aload_n 0 dX7_nextTime_81 rfl rfl ?_
    refine j_gR (ci := 6) (k := 0) rfl in_X7 rfl q2202 dX7_nextTime_82 hf (fun r9 hf => ?_)
    refine j_bipush (35 : Int32) dX7_nextTime_85 (by decide) ?_
    refine j_iald dX7_nextTime_87 hf (fun v10 hf => ?_)
    refine j_icmp_ge 141 dX7_nextTime_88 (by decide) hf (fun c_ hf => ?_) (fun c_ hf => ?_)
    · refine j_iconst (0 : Int32) dX7_nextTime_141 (by decide) ?_
      refine j_istore_n 2 [some (va_rf x0), some (.int x1), some (.int (0 : Int32))] dX7_nextTime_142 rfl (cz rfl) rfl rfl ?_
      exact pf_X7_nextTime_L143 FU x0 x1 (0 : Int32) h hf
    · refine j_iload_n 1 dX7_nextTime_91 rfl rfl ?_
      refine j_aload_n 0 dX7_nextTime_92 rfl rfl ?_
      refine j_gR (ci := 6) (k := 0) rfl in_X7 rfl q2202 dX7_nextTime_93 hf (fun r11 hf => ?_)
      refine j_sipush (176 : Int32) dX7_nextTime_96 (by decide) ?_
      refine j_iconst (3 : Int32) dX7_nextTime_99 (by decide) ?_
      refine j_iload_n 2 dX7_nextTime_100 rfl rfl ?_
      refine j_imul dX7_nextTime_101 ?_
      refine j_iadd dX7_nextTime_102 ?_
      refine j_aload_n 0 dX7_nextTime_103 rfl rfl ?_
      refine j_gR (ci := 6) (k := 0) rfl in_X7 rfl q2202 dX7_nextTime_104 hf (fun r12 hf => ?_)
      refine j_sipush (176 : Int32) dX7_nextTime_107 (by decide) ?_
      refine j_iconst (3 : Int32) dX7_nextTime_110 (by decide) ?_
      refine j_iload_n 2 dX7_nextTime_111 rfl rfl ?_
      refine j_imul dX7_nextTime_112 ?_
      refine j_iadd dX7_nextTime_113 ?_
      refine j_iald dX7_nextTime_114 hf (fun v13 hf => ?_)
      refine j_aload_n 0 dX7_nextTime_115 rfl rfl ?_
      refine j_gR (ci := 6) (k := 0) rfl in_X7 rfl q2202 dX7_nextTime_116 hf (fun r14 hf => ?_)
      refine j_iconst (0 : Int32) dX7_nextTime_119 (by decide) ?_
      refine j_iald dX7_nextTime_120 hf (fun v15 hf => ?_)
      refine j_icmp_le 128 dX7_nextTime_121 (by decide) hf (fun c_ hf => ?_) (fun c_ hf => ?_)
      · refine j_iconst (1 : Int32) dX7_nextTime_128 (by decide) ?_
        refine j_weak [some (va_rf x0), none, some (.int x2)] (Wk.k (Wk.s (Wk.k Wk.n))) ?_
        exact pf_X7_nextTime_B129 (f_X7_nextTime_L80 n) ih x0 x2 x1 r11 ((176 : Int32) + ((3 : Int32) * x2)) (1 : Int32) h hf
      · refine j_iconst (0 : Int32) dX7_nextTime_124 (by decide) ?_
        refine j_goto 129 dX7_nextTime_125 (by decide) ?_
        refine j_weak [some (va_rf x0), none, some (.int x2)] (Wk.k (Wk.s (Wk.k Wk.n))) ?_
        exact pf_X7_nextTime_B129 (f_X7_nextTime_L80 n) ih x0 x2 x1 r11 ((176 : Int32) + ((3 : Int32) * x2)) (0 : Int32) h hf
def f_X7_nextTime_L44 : Nat → Option Nat → Int32 → Int32 → PH → Option (Int32 × PH)
  | 0, _, _, _, _ => none
  | n + 1, x0, x1, x2, h => gR h x0 6 0 fun r5 => aI h r5 0 (21 : Int32) fun v6 => (if v6 ≤ x2 then (f_X7_nextTime_L80 FU x0 x1 (0 : Int32) h) else (gR h x0 6 0 fun r7 => aI h r7 0 ((236 : Int32) + ((5 : Int32) * x2)) fun v8 => f_X7_nextTime_L44 n x0 (if v8 < x1 then v8 else x1) (x2 + (1 : Int32)) h))
theorem pf_X7_nextTime_L44 {Γ : GX} {D : va_G} {h0 : PH} {o : Int32 × PH} : ∀ (n : Nat) (x0 : Option Nat) (x1 : Int32) (x2 : Int32) (h : PH), f_X7_nextTime_L44 n x0 x1 x2 h = some o → PF Γ mi_X7_nextTime D h0 (QR Γ D h0 (ovi o.1) o.2) h 44 [some (va_rf x0), some (.int x1), some (.int x2)] [] := by
  intro n
  induction n with
  | zero => intro x0 x1 x2 h hf; cases hf
  | succ n ih =>
    intro x0 x1 x2 h hf
    refine j_iload_n 2 dX7_nextTime_44 rfl rfl ?_
    refine j_aload_n 0 dX7_nextTime_45 rfl rfl ?_
    refine j_gR (ci := 6) (k := 0) rfl in_X7 rfl q2202 dX7_nextTime_46 hf (fun r5 hf => ?_)
    refine j_bipush (21 : Int32) dX7_nextTime_49 (by decide) ?_
    refine j_iald dX7_nextTime_51 hf (fun v6 hf => ?_)
    refine j_icmp_ge 78 dX7_nextTime_52 (by decide) hf (fun c_ hf => ?_) (fun c_ hf => ?_)
    · refine j_iconst (0 : Int32) dX7_nextTime_78 (by decide) ?_
      refine j_istore_n 2 [some (va_rf x0), some (.int x1), some (.int (0 : Int32))] dX7_nextTime_79 rfl (cz rfl) rfl rfl ?_
      exact pf_X7_nextTime_L80 FU x0 x1 (0 : Int32) h hf
    · refine j_iload_n 1 dX7_nextTime_55 rfl rfl ?_
      refine j_aload_n 0 dX7_nextTime_56 rfl rfl ?_
      refine j_gR (ci := 6) (k := 0) rfl in_X7 rfl q2202 dX7_nextTime_57 hf (fun r7 hf => ?_)
      refine j_sipush (236 : Int32) dX7_nextTime_60 (by decide) ?_
      refine j_iconst (5 : Int32) dX7_nextTime_63 (by decide) ?_
      refine j_iload_n 2 dX7_nextTime_64 rfl rfl ?_
      refine j_imul dX7_nextTime_65 ?_
      refine j_iadd dX7_nextTime_66 ?_
      refine j_iald dX7_nextTime_67 hf (fun v8 hf => ?_)
      refine j_mmin q2383 q306 q106 q307 rfl rfl (by decide) dX7_nextTime_68 ?_
      refine j_istore_n 1 [some (va_rf x0), some (.int (if v8 < x1 then v8 else x1)), some (.int x2)] dX7_nextTime_71 rfl (cz (va_rf_cat _)) rfl rfl ?_
      refine j_iinc (x2 + (1 : Int32)) [some (va_rf x0), some (.int (if v8 < x1 then v8 else x1)), some (.int (x2 + (1 : Int32)))] dX7_nextTime_72 rfl rfl (cz rfl) rfl rfl ?_
      refine j_goto 44 dX7_nextTime_75 (by decide) ?_
      exact ih x0 (if v8 < x1 then v8 else x1) (x2 + (1 : Int32)) h hf
def f_X7_nextTime_L5 : Nat → Option Nat → Int32 → Int32 → PH → Option (Int32 × PH)
  | 0, _, _, _, _ => none
  | n + 1, x0, x1, x2, h => gR h x0 6 0 fun r1 => aI h r1 0 (20 : Int32) fun v2 => (if v2 ≤ x2 then (f_X7_nextTime_L44 FU x0 x1 (0 : Int32) h) else (gR h x0 6 0 fun r3 => aI h r3 0 (((1136 : Int32) + ((6 : Int32) * x2)) + (2 : Int32)) fun v4 => f_X7_nextTime_L5 n x0 (if v4 < x1 then v4 else x1) (x2 + (1 : Int32)) h))
theorem pf_X7_nextTime_L5 {Γ : GX} {D : va_G} {h0 : PH} {o : Int32 × PH} : ∀ (n : Nat) (x0 : Option Nat) (x1 : Int32) (x2 : Int32) (h : PH), f_X7_nextTime_L5 n x0 x1 x2 h = some o → PF Γ mi_X7_nextTime D h0 (QR Γ D h0 (ovi o.1) o.2) h 5 [some (va_rf x0), some (.int x1), some (.int x2)] [] := by
  intro n
  induction n with
  | zero => intro x0 x1 x2 h hf; cases hf
  | succ n ih =>
    intro x0 x1 x2 h hf
    refine j_iload_n 2 dX7_nextTime_5 rfl rfl ?_
    refine j_aload_n 0 dX7_nextTime_6 rfl rfl ?_
    refine j_gR (ci := 6) (k := 0) rfl in_X7 rfl q2202 dX7_nextTime_7 hf (fun r1 hf => ?_)
    refine j_bipush (20 : Int32) dX7_nextTime_10 (by decide) ?_
    refine j_iald dX7_nextTime_12 hf (fun v2 hf => ?_)
    refine j_icmp_ge 42 dX7_nextTime_13 (by decide) hf (fun c_ hf => ?_) (fun c_ hf => ?_)
    · refine j_iconst (0 : Int32) dX7_nextTime_42 (by decide) ?_
      refine j_istore_n 2 [some (va_rf x0), some (.int x1), some (.int (0 : Int32))] dX7_nextTime_43 rfl (cz rfl) rfl rfl ?_
      exact pf_X7_nextTime_L44 FU x0 x1 (0 : Int32) h hf
    · refine j_iload_n 1 dX7_nextTime_16 rfl rfl ?_
      refine j_aload_n 0 dX7_nextTime_17 rfl rfl ?_
      refine j_gR (ci := 6) (k := 0) rfl in_X7 rfl q2202 dX7_nextTime_18 hf (fun r3 hf => ?_)
      refine j_sipush (1136 : Int32) dX7_nextTime_21 (by decide) ?_
      refine j_bipush (6 : Int32) dX7_nextTime_24 (by decide) ?_
      refine j_iload_n 2 dX7_nextTime_26 rfl rfl ?_
      refine j_imul dX7_nextTime_27 ?_
      refine j_iadd dX7_nextTime_28 ?_
      refine j_iconst (2 : Int32) dX7_nextTime_29 (by decide) ?_
      refine j_iadd dX7_nextTime_30 ?_
      refine j_iald dX7_nextTime_31 hf (fun v4 hf => ?_)
      refine j_mmin q2383 q306 q106 q307 rfl rfl (by decide) dX7_nextTime_32 ?_
      refine j_istore_n 1 [some (va_rf x0), some (.int (if v4 < x1 then v4 else x1)), some (.int x2)] dX7_nextTime_35 rfl (cz (va_rf_cat _)) rfl rfl ?_
      refine j_iinc (x2 + (1 : Int32)) [some (va_rf x0), some (.int (if v4 < x1 then v4 else x1)), some (.int (x2 + (1 : Int32)))] dX7_nextTime_36 rfl rfl (cz rfl) rfl rfl ?_
      refine j_goto 5 dX7_nextTime_39 (by decide) ?_
      exact ih x0 (if v4 < x1 then v4 else x1) (x2 + (1 : Int32)) h hf
def f_X7_nextTime (r0 : Option Nat) (h0 : PH) : Option (Int32 × PH) := f_X7_nextTime_L5 FU r0 (2000000000 : Int32) (0 : Int32) h0
theorem hyS_X7_nextTime : yX7_nextTime.cls ≠ "java/lang/invoke/MethodHandle" ∧ yX7_nextTime.cls ≠ "java/lang/invoke/VarHandle" ∧ (parseMethodDescriptor yX7_nextTime.desc).map (fun d => d.parameters.length) = some 0 := by decide +kernel
theorem hyV_X7_nextTime : yX7_nextTime.cls = RX7 ∧ yX7_nextTime.cls ≠ "java/lang/invoke/MethodHandle" ∧ yX7_nextTime.cls ≠ "java/lang/invoke/VarHandle" ∧ (parseMethodDescriptor yX7_nextTime.desc).map (fun d => d.parameters.length) = some 0 := by decide +kernel
theorem c_X7_nextTime {D : va_G} (r0 : Option Nat) {h0 : PH} (l : Launch) (hl : l.stackTraces = false) (x : Int32) (h1 : PH) (hf : f_X7_nextTime r0 h0 = some (x, h1)) : CT l D yX7_nextTime (ws_ yX7_nextTime cX7_nextTime 3 (Option.some FieldType.int)) 2 43 [va_rf r0] h0 (ovi x) h1 := by
  refine ct_of hl [some (va_rf r0), none, none] (by decide) (by rw [lgl]; simp [va_rf_cat, cat_i, cat_l]) (by simp [lv_args, vsL, va_rf_cat, cat_i, cat_l]) (fun Γ => ?_)
  obtain ⟨o, ho⟩ : ∃ o : Int32 × PH, o = (x, h1) := ⟨_, rfl⟩
  rw [← ho] at hf
  have e1 : x = o.1 := by rw [ho]
  have e2 : h1 = o.2 := by rw [ho]
  subst e1 e2
  clear ho
  show PF Γ mi_X7_nextTime D h0 (QR Γ D h0 (ovi o.1) o.2) h0 0 [some (va_rf r0), none, none] []
  unfold f_X7_nextTime at hf
  refine j_ldc q2382 dX7_nextTime_0 ?_
  refine j_istore_n 1 [some (va_rf r0), some (.int (2000000000 : Int32)), none] dX7_nextTime_2 rfl (cz (va_rf_cat _)) rfl rfl ?_
  refine j_iconst (0 : Int32) dX7_nextTime_3 (by decide) ?_
  refine j_istore_n 2 [some (va_rf r0), some (.int (2000000000 : Int32)), some (.int (0 : Int32))] dX7_nextTime_4 rfl (cz rfl) rfl rfl ?_
  exact pf_X7_nextTime_L5 FU r0 (2000000000 : Int32) (0 : Int32) h0 hf
theorem kc_X7_162 {Γ : GX} {I : MI} {D : va_G} {h0 : PH} {Q : State → Prop} {h : PH} {pc : Nat} {vs : List (Option Value)} {rest : List Value} {β : Type} {o : β} {r : Option Nat} {p0 : Int32} {K : ((Int32) → PH → Option β)} (hI : I.2.2.1 = RX7) (hfr : Nat.ble 2 I.2.2.2.2.2.1 = true) (hlo : Nat.ble 43 I.2.2.2.2.2.2.1 = true) (hW : (rest.map fun v => v.category).sum ≤ 8) (hd : decode I.1 pc = .ok (.invokevirtual 162, 3)) (hf : rv_ h r 6 (cl_ (f_X7_clock r p0 h) K) = some o) (kk : ∀ (x : Int32) (h1 : PH), K x h1 = some o → PF Γ I D h0 Q h1 (pc + 3) vs (.int x :: rest)) : PF Γ I D h0 Q h pc vs (.int p0 :: va_rf r :: rest) := by
  obtain ⟨cc, nL, own, rt, xt, fr, lo, nm⟩ := I
  cases hI
  exact j_cVi (n := 1) (y := yX7_clock) (cc2 := cX7_clock) (As := [.int p0]) (C := RX7) (ci := 6) rfl (lw_V q2348 q2350 qs46 q117 q2351) hyV_X7_clock hfr hlo rfl hW hd (c_X7_clock r p0) hf _ rfl kk
abbrev mi_X7_leads : MI := (cX7_leads, 2, RX7, (Option.some FieldType.boolean), [], 2, 43, "leads")
def f_X7_leads_B40 (t0 : Int32) (h : PH) : Option (Int32 × PH) := rN .boolean t0 (fun v => v) h
theorem pf_X7_leads_B40 {Γ : GX} {D : va_G} {h0 : PH} {o : Int32 × PH} (t0 : Int32) (h : PH) (hf : f_X7_leads_B40 t0 h = some o) : PF Γ mi_X7_leads D h0 (QR Γ D h0 (ovi o.1) o.2) h 40 [none, none] [.int t0] := by
  obtain ⟨hn9, hf⟩ := rN_in hf
  subst hf
  exact j_zret rfl (nar_z _ hn9) dX7_leads_40
def f_X7_leads_B39  (h : PH) : Option (Int32 × PH) := f_X7_leads_B40 (0 : Int32) h
theorem pf_X7_leads_B39 {Γ : GX} {D : va_G} {h0 : PH} {o : Int32 × PH}  (h : PH) (hf : f_X7_leads_B39  h = some o) : PF Γ mi_X7_leads D h0 (QR Γ D h0 (ovi o.1) o.2) h 39 [none, none] [] := by
  refine j_iconst (0 : Int32) dX7_leads_39 (by decide) ?_
  exact pf_X7_leads_B40 (0 : Int32) h hf
def f_X7_leads (r0 : Option Nat) (p0 : Int32) (h0 : PH) : Option (Int32 × PH) := rv_ h0 r0 6 (cl_ (f_X7_of r0 p0 (3 : Int32) h0) fun v2 h1 => (if v2 = (1 : Int32) then (rv_ h1 r0 6 (cl_ (f_X7_of r0 p0 (7 : Int32) h1) fun v4 h3 => (if v4 = 0 then (f_X7_leads_B39 h3) else (rv_ h3 r0 6 (cl_ (f_X7_clock r0 p0 h3) fun v6 h5 => rv_ h5 r0 6 (cl_ (f_X7_of r0 p0 (8 : Int32) h5) fun v8 h7 => (if v8 ≤ v6 then (f_X7_leads_B39 h7) else (f_X7_leads_B40 (1 : Int32) h7)))))))) else (f_X7_leads_B39 h1)))
theorem hyS_X7_leads : yX7_leads.cls ≠ "java/lang/invoke/MethodHandle" ∧ yX7_leads.cls ≠ "java/lang/invoke/VarHandle" ∧ (parseMethodDescriptor yX7_leads.desc).map (fun d => d.parameters.length) = some 1 := by decide +kernel
theorem hyV_X7_leads : yX7_leads.cls = RX7 ∧ yX7_leads.cls ≠ "java/lang/invoke/MethodHandle" ∧ yX7_leads.cls ≠ "java/lang/invoke/VarHandle" ∧ (parseMethodDescriptor yX7_leads.desc).map (fun d => d.parameters.length) = some 1 := by decide +kernel
theorem c_X7_leads {D : va_G} (r0 : Option Nat) (p0 : Int32) {h0 : PH} (l : Launch) (hl : l.stackTraces = false) (x : Int32) (h1 : PH) (hf : f_X7_leads r0 p0 h0 = some (x, h1)) : CT l D yX7_leads (ws_ yX7_leads cX7_leads 2 (Option.some FieldType.boolean)) 2 43 [va_rf r0, .int p0] h0 (ovi x) h1 := by
  refine ct_of hl [some (va_rf r0), some (.int p0)] (by decide) (by rw [lgl]; simp [va_rf_cat, cat_i, cat_l]) (by simp [lv_args, vsL, va_rf_cat, cat_i, cat_l]) (fun Γ => ?_)
  obtain ⟨o, ho⟩ : ∃ o : Int32 × PH, o = (x, h1) := ⟨_, rfl⟩
  rw [← ho] at hf
  have e1 : x = o.1 := by rw [ho]
  have e2 : h1 = o.2 := by rw [ho]
  subst e1 e2
  clear ho
  show PF Γ mi_X7_leads D h0 (QR Γ D h0 (ovi o.1) o.2) h0 0 [some (va_rf r0), some (.int p0)] []
  unfold f_X7_leads at hf
  refine j_aload_n 0 dX7_leads_0 rfl rfl ?_
  refine j_iload_n 1 dX7_leads_1 rfl rfl ?_
  refine j_iconst (3 : Int32) dX7_leads_2 (by decide) ?_
  refine kc_X7_152 rfl rfl rfl (by decide) dX7_leads_3 hf (fun v2 h1 hf => ?_)
  refine j_iconst (1 : Int32) dX7_leads_6 (by decide) ?_
  refine j_icmp_ne 39 dX7_leads_7 (by decide) hf (fun c_ hf => ?_) (fun c_ hf => ?_)
  · refine j_weak [none, none] (Wk.s (Wk.s Wk.n)) ?_
    exact pf_X7_leads_B39  h1 hf
  · refine j_aload_n 0 dX7_leads_10 rfl rfl ?_
    refine j_iload_n 1 dX7_leads_11 rfl rfl ?_
    refine j_bipush (7 : Int32) dX7_leads_12 (by decide) ?_
    refine kc_X7_152 rfl rfl rfl (by decide) dX7_leads_14 hf (fun v4 h3 hf => ?_)
    refine j_if_eq 39 dX7_leads_17 (by decide) hf (fun c_ hf => ?_) (fun c_ hf => ?_)
    · refine j_weak [none, none] (Wk.s (Wk.s Wk.n)) ?_
      exact pf_X7_leads_B39  h3 hf
    · refine j_aload_n 0 dX7_leads_20 rfl rfl ?_
      refine j_iload_n 1 dX7_leads_21 rfl rfl ?_
      refine kc_X7_162 rfl rfl rfl (by decide) dX7_leads_22 hf (fun v6 h5 hf => ?_)
      refine j_aload_n 0 dX7_leads_25 rfl rfl ?_
      refine j_iload_n 1 dX7_leads_26 rfl rfl ?_
      refine j_bipush (8 : Int32) dX7_leads_27 (by decide) ?_
      refine kc_X7_152 rfl rfl rfl (by simp [va_rf_cat, cat_i, cat_l]) dX7_leads_29 hf (fun v8 h7 hf => ?_)
      refine j_icmp_ge 39 dX7_leads_32 (by decide) hf (fun c_ hf => ?_) (fun c_ hf => ?_)
      · refine j_weak [none, none] (Wk.s (Wk.s Wk.n)) ?_
        exact pf_X7_leads_B39  h7 hf
      · refine j_iconst (1 : Int32) dX7_leads_35 (by decide) ?_
        refine j_goto 40 dX7_leads_36 (by decide) ?_
        refine j_weak [none, none] (Wk.s (Wk.s Wk.n)) ?_
        exact pf_X7_leads_B40 (1 : Int32) h7 hf
abbrev mi_X7_endOf : MI := (cX7_endOf, 2, RX7, (Option.some FieldType.int), [], 1, 24, "endOf")
def f_X7_endOf (r0 : Option Nat) (p0 : Int32) (h0 : PH) : Option (Int32 × PH) := rv_ h0 r0 6 (cl_ (f_X7_of r0 p0 (0 : Int32) h0) fun v2 h1 => rv_ h1 r0 6 (cl_ (f_X7_of r0 p0 (1 : Int32) h1) fun v4 h3 => rv_ h3 r0 6 (cl_ (f_X7_of r0 p0 (8 : Int32) h3) fun v6 h5 => cl_ (f_X7_timeOf v2 v4 v6 h5) fun v8 h7 => some (v8, h7))))
theorem hyS_X7_endOf : yX7_endOf.cls ≠ "java/lang/invoke/MethodHandle" ∧ yX7_endOf.cls ≠ "java/lang/invoke/VarHandle" ∧ (parseMethodDescriptor yX7_endOf.desc).map (fun d => d.parameters.length) = some 1 := by decide +kernel
theorem hyV_X7_endOf : yX7_endOf.cls = RX7 ∧ yX7_endOf.cls ≠ "java/lang/invoke/MethodHandle" ∧ yX7_endOf.cls ≠ "java/lang/invoke/VarHandle" ∧ (parseMethodDescriptor yX7_endOf.desc).map (fun d => d.parameters.length) = some 1 := by decide +kernel
theorem c_X7_endOf {D : va_G} (r0 : Option Nat) (p0 : Int32) {h0 : PH} (l : Launch) (hl : l.stackTraces = false) (x : Int32) (h1 : PH) (hf : f_X7_endOf r0 p0 h0 = some (x, h1)) : CT l D yX7_endOf (ws_ yX7_endOf cX7_endOf 2 (Option.some FieldType.int)) 1 24 [va_rf r0, .int p0] h0 (ovi x) h1 := by
  refine ct_of hl [some (va_rf r0), some (.int p0)] (by decide) (by rw [lgl]; simp [va_rf_cat, cat_i, cat_l]) (by simp [lv_args, vsL, va_rf_cat, cat_i, cat_l]) (fun Γ => ?_)
  obtain ⟨o, ho⟩ : ∃ o : Int32 × PH, o = (x, h1) := ⟨_, rfl⟩
  rw [← ho] at hf
  have e1 : x = o.1 := by rw [ho]
  have e2 : h1 = o.2 := by rw [ho]
  subst e1 e2
  clear ho
  show PF Γ mi_X7_endOf D h0 (QR Γ D h0 (ovi o.1) o.2) h0 0 [some (va_rf r0), some (.int p0)] []
  unfold f_X7_endOf at hf
  refine j_aload_n 0 dX7_endOf_0 rfl rfl ?_
  refine j_iload_n 1 dX7_endOf_1 rfl rfl ?_
  refine j_iconst (0 : Int32) dX7_endOf_2 (by decide) ?_
  refine kc_X7_152 rfl rfl rfl (by decide) dX7_endOf_3 hf (fun v2 h1 hf => ?_)
  refine j_aload_n 0 dX7_endOf_6 rfl rfl ?_
  refine j_iload_n 1 dX7_endOf_7 rfl rfl ?_
  refine j_iconst (1 : Int32) dX7_endOf_8 (by decide) ?_
  refine kc_X7_152 rfl rfl rfl (by simp [va_rf_cat, cat_i, cat_l]) dX7_endOf_9 hf (fun v4 h3 hf => ?_)
  refine j_aload_n 0 dX7_endOf_12 rfl rfl ?_
  refine j_iload_n 1 dX7_endOf_13 rfl rfl ?_
  refine j_bipush (8 : Int32) dX7_endOf_14 (by decide) ?_
  refine kc_X7_152 rfl rfl rfl (by simp [va_rf_cat, cat_i, cat_l]) dX7_endOf_16 hf (fun v6 h5 hf => ?_)
  refine kc_X7_159 rfl rfl rfl (by decide) dX7_endOf_19 hf (fun v8 h7 hf => ?_)
  have e9 := Option.some.inj hf
  subst e9
  exact j_iret rfl dX7_endOf_22
theorem kc_X7_244 {Γ : GX} {I : MI} {D : va_G} {h0 : PH} {Q : State → Prop} {h : PH} {pc : Nat} {vs : List (Option Value)} {rest : List Value} {β : Type} {o : β} {r : Option Nat} {p0 : Int32} {K : ((Unit) → PH → Option β)} (hI : I.2.2.1 = RX7) (hfr : Nat.ble 1 I.2.2.2.2.2.1 = true) (hlo : Nat.ble 22 I.2.2.2.2.2.2.1 = true) (hW : (rest.map fun v => v.category).sum ≤ 8) (hd : decode I.1 pc = .ok (.invokevirtual 244, 3)) (hf : rv_ h r 6 (cl_ (f_X7_endsOutage r p0 h) K) = some o) (kk : ∀ (x : Unit) (h1 : PH), K x h1 = some o → PF Γ I D h0 Q h1 (pc + 3) vs (rest)) : PF Γ I D h0 Q h pc vs (.int p0 :: va_rf r :: rest) := by
  obtain ⟨cc, nL, own, rt, xt, fr, lo, nm⟩ := I
  cases hI
  exact j_cVv (n := 1) (y := yX7_endsOutage) (cc2 := cX7_endsOutage) (As := [.int p0]) (C := RX7) (ci := 6) rfl (lw_V q2412 q2414 qs57 q117 q2415) hyV_X7_endsOutage hfr hlo rfl hW hd (c_X7_endsOutage r p0) hf _ rfl kk
abbrev mi_X7_outagesNow : MI := (cX7_outagesNow, 4, RX7, none, [], 1, 23, "outagesNow")
def f_X7_outagesNow_B89 (k2 : Option Nat → Int32 → PH → Option (Unit × PH)) (x0 : Option Nat) (x1 : Int32) (h : PH) : Option (Unit × PH) := k2 x0 x1 h
theorem pf_X7_outagesNow_B89 {Γ : GX} {D : va_G} {h0 : PH} {o : Unit × PH} (k2 : Option Nat → Int32 → PH → Option (Unit × PH)) (hk2 : ∀ (x0 : Option Nat) (x1 : Int32) (h : PH), k2 x0 x1 h = some o → PF Γ mi_X7_outagesNow D h0 (QR Γ D h0 (ovv o.1) o.2) h 2 [some (va_rf x0), some (.int x1), none, none] []) (x0 : Option Nat) (x1 : Int32) (h : PH) (hf : f_X7_outagesNow_B89 k2 x0 x1 h = some o) : PF Γ mi_X7_outagesNow D h0 (QR Γ D h0 (ovv o.1) o.2) h 89 [some (va_rf x0), some (.int x1), none, none] [] := by
  refine j_goto 2 dX7_outagesNow_89 (by decide) ?_
  exact hk2 x0 x1 h hf
def f_X7_outagesNow_B53 (k2 : Option Nat → Int32 → PH → Option (Unit × PH)) (x0 : Option Nat) (x1 : Int32) (x2 : Int32) (x3 : Int32) (h : PH) : Option (Unit × PH) := gR h x0 6 0 fun r10 => aI h r10 0 (x2 + (1 : Int32)) fun v11 => gR h x0 6 0 fun r12 => aI h r12 0 (0 : Int32) fun v13 => (if v11 = v13 then (rv_ h x0 6 (cl_ (f_X7_puts x0 x3 (6 : Int32) (0 : Int32) h) fun _u h14 => rv_ h14 x0 6 (cl_ (f_X7_endsOutage x0 x1 h14) fun _u h15 => f_X7_outagesNow_B89 k2 x0 x1 h15))) else (f_X7_outagesNow_B89 k2 x0 (x1 + (1 : Int32)) h))
theorem pf_X7_outagesNow_B53 {Γ : GX} {D : va_G} {h0 : PH} {o : Unit × PH} (k2 : Option Nat → Int32 → PH → Option (Unit × PH)) (hk2 : ∀ (x0 : Option Nat) (x1 : Int32) (h : PH), k2 x0 x1 h = some o → PF Γ mi_X7_outagesNow D h0 (QR Γ D h0 (ovv o.1) o.2) h 2 [some (va_rf x0), some (.int x1), none, none] []) (x0 : Option Nat) (x1 : Int32) (x2 : Int32) (x3 : Int32) (h : PH) (hf : f_X7_outagesNow_B53 k2 x0 x1 x2 x3 h = some o) : PF Γ mi_X7_outagesNow D h0 (QR Γ D h0 (ovv o.1) o.2) h 53 [some (va_rf x0), some (.int x1), some (.int x2), some (.int x3)] [] := by
  refine j_aload_n 0 dX7_outagesNow_53 rfl rfl ?_
  refine j_gR (ci := 6) (k := 0) rfl in_X7 rfl q2202 dX7_outagesNow_54 hf (fun r10 hf => ?_)
  refine j_iload_n 2 dX7_outagesNow_57 rfl rfl ?_
  refine j_iconst (1 : Int32) dX7_outagesNow_58 (by decide) ?_
  refine j_iadd dX7_outagesNow_59 ?_
  refine j_iald dX7_outagesNow_60 hf (fun v11 hf => ?_)
  refine j_aload_n 0 dX7_outagesNow_61 rfl rfl ?_
  refine j_gR (ci := 6) (k := 0) rfl in_X7 rfl q2202 dX7_outagesNow_62 hf (fun r12 hf => ?_)
  refine j_iconst (0 : Int32) dX7_outagesNow_65 (by decide) ?_
  refine j_iald dX7_outagesNow_66 hf (fun v13 hf => ?_)
  refine j_icmp_ne 86 dX7_outagesNow_67 (by decide) hf (fun c_ hf => ?_) (fun c_ hf => ?_)
  · refine j_iinc (x1 + (1 : Int32)) [some (va_rf x0), some (.int (x1 + (1 : Int32))), some (.int x2), some (.int x3)] dX7_outagesNow_86 rfl rfl (cz (va_rf_cat _)) rfl rfl ?_
    refine j_weak [some (va_rf x0), some (.int (x1 + (1 : Int32))), none, none] (Wk.k (Wk.k (Wk.s (Wk.s Wk.n)))) ?_
    exact pf_X7_outagesNow_B89 k2 hk2 x0 (x1 + (1 : Int32)) h hf
  · refine j_aload_n 0 dX7_outagesNow_70 rfl rfl ?_
    refine j_iload_n 3 dX7_outagesNow_71 rfl rfl ?_
    refine j_bipush (6 : Int32) dX7_outagesNow_72 (by decide) ?_
    refine j_iconst (0 : Int32) dX7_outagesNow_74 (by decide) ?_
    refine kc_X7_169 rfl rfl rfl (by decide) dX7_outagesNow_75 hf (fun _u h14 hf => ?_)
    refine j_aload_n 0 dX7_outagesNow_78 rfl rfl ?_
    refine j_iload_n 1 dX7_outagesNow_79 rfl rfl ?_
    refine kc_X7_244 rfl rfl rfl (by decide) dX7_outagesNow_80 hf (fun _u h15 hf => ?_)
    refine j_goto 89 dX7_outagesNow_83 (by decide) ?_
    refine j_weak [some (va_rf x0), some (.int x1), none, none] (Wk.k (Wk.k (Wk.s (Wk.s Wk.n)))) ?_
    exact pf_X7_outagesNow_B89 k2 hk2 x0 x1 h15 hf
def f_X7_outagesNow_L2 : Nat → Option Nat → Int32 → PH → Option (Unit × PH)
  | 0, _, _, _ => none
  | n + 1, x0, x1, h => gR h x0 6 0 fun r1 => aI h r1 0 (35 : Int32) fun v2 => (if v2 ≤ x1 then (some ((), h)) else (gR h x0 6 0 fun r3 => aI h r3 0 (((176 : Int32) + ((3 : Int32) * x1)) + (2 : Int32)) fun v4 => gR h x0 6 0 fun r5 => aI h r5 0 ((176 : Int32) + ((3 : Int32) * x1)) fun v6 => gR h x0 6 0 fun r7 => aI h r7 0 (0 : Int32) fun v8 => (if v6 = v8 then (rv_ h x0 6 (cl_ (f_X7_puts x0 v4 (6 : Int32) (1 : Int32) h) fun _u h9 => f_X7_outagesNow_B53 (f_X7_outagesNow_L2 n) x0 x1 ((176 : Int32) + ((3 : Int32) * x1)) v4 h9)) else (f_X7_outagesNow_B53 (f_X7_outagesNow_L2 n) x0 x1 ((176 : Int32) + ((3 : Int32) * x1)) v4 h))))
theorem pf_X7_outagesNow_L2 {Γ : GX} {D : va_G} {h0 : PH} {o : Unit × PH} : ∀ (n : Nat) (x0 : Option Nat) (x1 : Int32) (h : PH), f_X7_outagesNow_L2 n x0 x1 h = some o → PF Γ mi_X7_outagesNow D h0 (QR Γ D h0 (ovv o.1) o.2) h 2 [some (va_rf x0), some (.int x1), none, none] [] := by
  intro n
  induction n with
  | zero => intro x0 x1 h hf; cases hf
  | succ n ih =>
    intro x0 x1 h hf
    refine j_iload_n 1 dX7_outagesNow_2 rfl rfl ?_
    refine j_aload_n 0 dX7_outagesNow_3 rfl rfl ?_
    refine j_gR (ci := 6) (k := 0) rfl in_X7 rfl q2202 dX7_outagesNow_4 hf (fun r1 hf => ?_)
    refine j_bipush (35 : Int32) dX7_outagesNow_7 (by decide) ?_
    refine j_iald dX7_outagesNow_9 hf (fun v2 hf => ?_)
    refine j_icmp_ge 92 dX7_outagesNow_10 (by decide) hf (fun c_ hf => ?_) (fun c_ hf => ?_)
    · have e9 := Option.some.inj hf
      subst e9
      exact j_vret rfl dX7_outagesNow_92
    · refine j_sipush (176 : Int32) dX7_outagesNow_13 (by decide) ?_
      refine j_iconst (3 : Int32) dX7_outagesNow_16 (by decide) ?_
      refine j_iload_n 1 dX7_outagesNow_17 rfl rfl ?_
      refine j_imul dX7_outagesNow_18 ?_
      refine j_iadd dX7_outagesNow_19 ?_
      refine j_istore_n 2 [some (va_rf x0), some (.int x1), some (.int ((176 : Int32) + ((3 : Int32) * x1))), none] dX7_outagesNow_20 rfl (cz rfl) rfl rfl ?_
      refine j_aload_n 0 dX7_outagesNow_21 rfl rfl ?_
      refine j_gR (ci := 6) (k := 0) rfl in_X7 rfl q2202 dX7_outagesNow_22 hf (fun r3 hf => ?_)
      refine j_iload_n 2 dX7_outagesNow_25 rfl rfl ?_
      refine j_iconst (2 : Int32) dX7_outagesNow_26 (by decide) ?_
      refine j_iadd dX7_outagesNow_27 ?_
      refine j_iald dX7_outagesNow_28 hf (fun v4 hf => ?_)
      refine j_istore_n 3 [some (va_rf x0), some (.int x1), some (.int ((176 : Int32) + ((3 : Int32) * x1))), some (.int v4)] dX7_outagesNow_29 rfl (cz rfl) rfl rfl ?_
      refine j_aload_n 0 dX7_outagesNow_30 rfl rfl ?_
      refine j_gR (ci := 6) (k := 0) rfl in_X7 rfl q2202 dX7_outagesNow_31 hf (fun r5 hf => ?_)
      refine j_iload_n 2 dX7_outagesNow_34 rfl rfl ?_
      refine j_iald dX7_outagesNow_35 hf (fun v6 hf => ?_)
      refine j_aload_n 0 dX7_outagesNow_36 rfl rfl ?_
      refine j_gR (ci := 6) (k := 0) rfl in_X7 rfl q2202 dX7_outagesNow_37 hf (fun r7 hf => ?_)
      refine j_iconst (0 : Int32) dX7_outagesNow_40 (by decide) ?_
      refine j_iald dX7_outagesNow_41 hf (fun v8 hf => ?_)
      refine j_icmp_ne 53 dX7_outagesNow_42 (by decide) hf (fun c_ hf => ?_) (fun c_ hf => ?_)
      · exact pf_X7_outagesNow_B53 (f_X7_outagesNow_L2 n) ih x0 x1 ((176 : Int32) + ((3 : Int32) * x1)) v4 h hf
      · refine j_aload_n 0 dX7_outagesNow_45 rfl rfl ?_
        refine j_iload_n 3 dX7_outagesNow_46 rfl rfl ?_
        refine j_bipush (6 : Int32) dX7_outagesNow_47 (by decide) ?_
        refine j_iconst (1 : Int32) dX7_outagesNow_49 (by decide) ?_
        refine kc_X7_169 rfl rfl rfl (by decide) dX7_outagesNow_50 hf (fun _u h9 hf => ?_)
        exact pf_X7_outagesNow_B53 (f_X7_outagesNow_L2 n) ih x0 x1 ((176 : Int32) + ((3 : Int32) * x1)) v4 h9 hf
def f_X7_outagesNow (r0 : Option Nat) (h0 : PH) : Option (Unit × PH) := f_X7_outagesNow_L2 FU r0 (0 : Int32) h0
theorem hyS_X7_outagesNow : yX7_outagesNow.cls ≠ "java/lang/invoke/MethodHandle" ∧ yX7_outagesNow.cls ≠ "java/lang/invoke/VarHandle" ∧ (parseMethodDescriptor yX7_outagesNow.desc).map (fun d => d.parameters.length) = some 0 := by decide +kernel
theorem hyV_X7_outagesNow : yX7_outagesNow.cls = RX7 ∧ yX7_outagesNow.cls ≠ "java/lang/invoke/MethodHandle" ∧ yX7_outagesNow.cls ≠ "java/lang/invoke/VarHandle" ∧ (parseMethodDescriptor yX7_outagesNow.desc).map (fun d => d.parameters.length) = some 0 := by decide +kernel
theorem c_X7_outagesNow {D : va_G} (r0 : Option Nat) {h0 : PH} (l : Launch) (hl : l.stackTraces = false) (x : Unit) (h1 : PH) (hf : f_X7_outagesNow r0 h0 = some (x, h1)) : CT l D yX7_outagesNow (ws_ yX7_outagesNow cX7_outagesNow 4 none) 1 23 [va_rf r0] h0 (ovv x) h1 := by
  refine ct_of hl [some (va_rf r0), none, none, none] (by decide) (by rw [lgl]; simp [va_rf_cat, cat_i, cat_l]) (by simp [lv_args, vsL, va_rf_cat, cat_i, cat_l]) (fun Γ => ?_)
  obtain ⟨o, ho⟩ : ∃ o : Unit × PH, o = (x, h1) := ⟨_, rfl⟩
  rw [← ho] at hf
  have e1 : x = o.1 := by rw [ho]
  have e2 : h1 = o.2 := by rw [ho]
  subst e1 e2
  clear ho
  show PF Γ mi_X7_outagesNow D h0 (QR Γ D h0 (ovv o.1) o.2) h0 0 [some (va_rf r0), none, none, none] []
  unfold f_X7_outagesNow at hf
  refine j_iconst (0 : Int32) dX7_outagesNow_0 (by decide) ?_
  refine j_istore_n 1 [some (va_rf r0), some (.int (0 : Int32)), none, none] dX7_outagesNow_1 rfl (cz (va_rf_cat _)) rfl rfl ?_
  exact pf_X7_outagesNow_L2 FU r0 (0 : Int32) h0 hf
abbrev mi_X7_atServer : MI := (cX7_atServer, 5, RX7, none, [], 2, 49, "atServer")
def f_X7_atServer_B50 (x0 : Option Nat) (x1 : Int32) (h : PH) : Option (Unit × PH) := gR h x0 6 0 fun r11 => aI h r11 0 (12 : Int32) fun v12 => rv_ h x0 6 (cl_ (f_X7_logs x0 (3 : Int32) x1 v12 h) fun _u h13 => rv_ h13 x0 6 (cl_ (f_X7_sends x0 (6 : Int32) x1 (0 : Int32) (0 : Int32) (0 : Int32) h13) fun _u h14 => some ((), h14)))
theorem pf_X7_atServer_B50 {Γ : GX} {D : va_G} {h0 : PH} {o : Unit × PH} (x0 : Option Nat) (x1 : Int32) (h : PH) (hf : f_X7_atServer_B50 x0 x1 h = some o) : PF Γ mi_X7_atServer D h0 (QR Γ D h0 (ovv o.1) o.2) h 50 [some (va_rf x0), some (.int x1), none, none, none] [] := by
  refine j_aload_n 0 dX7_atServer_50 rfl rfl ?_
  refine j_iconst (3 : Int32) dX7_atServer_51 (by decide) ?_
  refine j_iload_n 1 dX7_atServer_52 rfl rfl ?_
  refine j_aload_n 0 dX7_atServer_53 rfl rfl ?_
  refine j_gR (ci := 6) (k := 0) rfl in_X7 rfl q2202 dX7_atServer_54 hf (fun r11 hf => ?_)
  refine j_bipush (12 : Int32) dX7_atServer_57 (by decide) ?_
  refine j_iald dX7_atServer_59 hf (fun v12 hf => ?_)
  refine kc_X7_219 rfl rfl rfl (by decide) dX7_atServer_60 hf (fun _u h13 hf => ?_)
  refine j_aload_n 0 dX7_atServer_63 rfl rfl ?_
  refine j_bipush (6 : Int32) dX7_atServer_64 (by decide) ?_
  refine j_iload_n 1 dX7_atServer_66 rfl rfl ?_
  refine j_iconst (0 : Int32) dX7_atServer_67 (by decide) ?_
  refine j_iconst (0 : Int32) dX7_atServer_68 (by decide) ?_
  refine j_iconst (0 : Int32) dX7_atServer_69 (by decide) ?_
  refine kc_X7_189 rfl rfl rfl (by decide) dX7_atServer_70 hf (fun _u h14 hf => ?_)
  have e9 := Option.some.inj hf
  subst e9
  exact j_vret rfl dX7_atServer_73
def f_X7_atServer_B153 (x0 : Option Nat) (x1 : Int32) (x2 : Int32) (t0 : Option Nat) (t1 : Int32) (h : PH) : Option (Unit × PH) := gR h x0 6 0 fun r28 => aI h r28 0 (12 : Int32) fun v29 => rv_ h t0 6 (cl_ (f_X7_logs t0 t1 x1 v29 h) fun _u h30 => gR h30 x0 6 0 fun r31 => aI h30 r31 0 (12 : Int32) fun v32 => rv_ h30 x0 6 (cl_ (f_X7_sends x0 (5 : Int32) x1 v32 x2 (0 : Int32) h30) fun _u h33 => some ((), h33)))
theorem pf_X7_atServer_B153 {Γ : GX} {D : va_G} {h0 : PH} {o : Unit × PH} (x0 : Option Nat) (x1 : Int32) (x2 : Int32) (t0 : Option Nat) (t1 : Int32) (h : PH) (hf : f_X7_atServer_B153 x0 x1 x2 t0 t1 h = some o) : PF Γ mi_X7_atServer D h0 (QR Γ D h0 (ovv o.1) o.2) h 153 [some (va_rf x0), some (.int x1), some (.int x2), none, none] [.int t1, va_rf t0] := by
  refine j_iload_n 1 dX7_atServer_153 rfl rfl ?_
  refine j_aload_n 0 dX7_atServer_154 rfl rfl ?_
  refine j_gR (ci := 6) (k := 0) rfl in_X7 rfl q2202 dX7_atServer_155 hf (fun r28 hf => ?_)
  refine j_bipush (12 : Int32) dX7_atServer_158 (by decide) ?_
  refine j_iald dX7_atServer_160 hf (fun v29 hf => ?_)
  refine kc_X7_219 rfl rfl rfl (by decide) dX7_atServer_161 hf (fun _u h30 hf => ?_)
  refine j_aload_n 0 dX7_atServer_164 rfl rfl ?_
  refine j_iconst (5 : Int32) dX7_atServer_165 (by decide) ?_
  refine j_iload_n 1 dX7_atServer_166 rfl rfl ?_
  refine j_aload_n 0 dX7_atServer_167 rfl rfl ?_
  refine j_gR (ci := 6) (k := 0) rfl in_X7 rfl q2202 dX7_atServer_168 hf (fun r31 hf => ?_)
  refine j_bipush (12 : Int32) dX7_atServer_171 (by decide) ?_
  refine j_iald dX7_atServer_173 hf (fun v32 hf => ?_)
  refine j_iload_n 2 dX7_atServer_174 rfl rfl ?_
  refine j_iconst (0 : Int32) dX7_atServer_175 (by decide) ?_
  refine kc_X7_189 rfl rfl rfl (by decide) dX7_atServer_176 hf (fun _u h33 hf => ?_)
  have e9 := Option.some.inj hf
  subst e9
  exact j_vret rfl dX7_atServer_179
def f_X7_atServer_B119 (x0 : Option Nat) (x1 : Int32) (x2 : Int32) (x3 : Int32) (x4 : Int32) (h : PH) : Option (Unit × PH) := gR h x0 6 0 fun r22 => sI h r22 0 (10 : Int32) x1 fun h23 => gR h23 x0 6 0 fun r24 => gR h23 x0 6 0 fun r25 => aI h23 r25 0 (5 : Int32) fun v26 => sI h23 r24 0 (11 : Int32) (x3 + v26) fun h27 => (if x4 = 0 then (f_X7_atServer_B153 x0 x1 x2 x0 (2 : Int32) h27) else (f_X7_atServer_B153 x0 x1 x2 x0 (1 : Int32) h27))
theorem pf_X7_atServer_B119 {Γ : GX} {D : va_G} {h0 : PH} {o : Unit × PH} (x0 : Option Nat) (x1 : Int32) (x2 : Int32) (x3 : Int32) (x4 : Int32) (h : PH) (hf : f_X7_atServer_B119 x0 x1 x2 x3 x4 h = some o) : PF Γ mi_X7_atServer D h0 (QR Γ D h0 (ovv o.1) o.2) h 119 [some (va_rf x0), some (.int x1), some (.int x2), some (.int x3), some (.int x4)] [] := by
  refine j_aload_n 0 dX7_atServer_119 rfl rfl ?_
  refine j_gR (ci := 6) (k := 0) rfl in_X7 rfl q2202 dX7_atServer_120 hf (fun r22 hf => ?_)
  refine j_bipush (10 : Int32) dX7_atServer_123 (by decide) ?_
  refine j_iload_n 1 dX7_atServer_125 rfl rfl ?_
  refine j_iast dX7_atServer_126 hf (fun h23 hf => ?_)
  refine j_aload_n 0 dX7_atServer_127 rfl rfl ?_
  refine j_gR (ci := 6) (k := 0) rfl in_X7 rfl q2202 dX7_atServer_128 hf (fun r24 hf => ?_)
  refine j_bipush (11 : Int32) dX7_atServer_131 (by decide) ?_
  refine j_iload_n 3 dX7_atServer_133 rfl rfl ?_
  refine j_aload_n 0 dX7_atServer_134 rfl rfl ?_
  refine j_gR (ci := 6) (k := 0) rfl in_X7 rfl q2202 dX7_atServer_135 hf (fun r25 hf => ?_)
  refine j_iconst (5 : Int32) dX7_atServer_138 (by decide) ?_
  refine j_iald dX7_atServer_139 hf (fun v26 hf => ?_)
  refine j_iadd dX7_atServer_140 ?_
  refine j_iast dX7_atServer_141 hf (fun h27 hf => ?_)
  refine j_aload_n 0 dX7_atServer_142 rfl rfl ?_
  refine j_iload dX7_atServer_143 rfl ?_
  refine j_if_eq 152 dX7_atServer_145 (by decide) hf (fun c_ hf => ?_) (fun c_ hf => ?_)
  · refine j_iconst (2 : Int32) dX7_atServer_152 (by decide) ?_
    refine j_weak [some (va_rf x0), some (.int x1), some (.int x2), none, none] (Wk.k (Wk.k (Wk.k (Wk.s (Wk.s Wk.n))))) ?_
    exact pf_X7_atServer_B153 x0 x1 x2 x0 (2 : Int32) h27 hf
  · refine j_iconst (1 : Int32) dX7_atServer_148 (by decide) ?_
    refine j_goto 153 dX7_atServer_149 (by decide) ?_
    refine j_weak [some (va_rf x0), some (.int x1), some (.int x2), none, none] (Wk.k (Wk.k (Wk.k (Wk.s (Wk.s Wk.n))))) ?_
    exact pf_X7_atServer_B153 x0 x1 x2 x0 (1 : Int32) h27 hf
def f_X7_atServer_B101 (x0 : Option Nat) (x1 : Int32) (x2 : Int32) (x3 : Int32) (t0 : Int32) (h : PH) : Option (Unit × PH) := (if t0 = 0 then (f_X7_atServer_B119 x0 x1 x2 x3 t0 h) else (gR h x0 6 0 fun r19 => aI h r19 0 (12 : Int32) fun v20 => sI h r19 0 (12 : Int32) (v20 + (1 : Int32)) fun h21 => f_X7_atServer_B119 x0 x1 x2 x3 t0 h21))
theorem pf_X7_atServer_B101 {Γ : GX} {D : va_G} {h0 : PH} {o : Unit × PH} (x0 : Option Nat) (x1 : Int32) (x2 : Int32) (x3 : Int32) (t0 : Int32) (h : PH) (hf : f_X7_atServer_B101 x0 x1 x2 x3 t0 h = some o) : PF Γ mi_X7_atServer D h0 (QR Γ D h0 (ovv o.1) o.2) h 101 [some (va_rf x0), some (.int x1), some (.int x2), some (.int x3), none] [.int t0] := by
  refine j_istore [some (va_rf x0), some (.int x1), some (.int x2), some (.int x3), some (.int t0)] dX7_atServer_101 (cz rfl) rfl rfl ?_
  refine j_iload dX7_atServer_103 rfl ?_
  refine j_if_eq 119 dX7_atServer_105 (by decide) hf (fun c_ hf => ?_) (fun c_ hf => ?_)
  · exact pf_X7_atServer_B119 x0 x1 x2 x3 t0 h hf
  · refine j_aload_n 0 dX7_atServer_108 rfl rfl ?_
    refine j_gR (ci := 6) (k := 0) rfl in_X7 rfl q2202 dX7_atServer_109 hf (fun r19 hf => ?_)
    refine j_bipush (12 : Int32) dX7_atServer_112 (by decide) ?_
    refine j_dup2 dX7_atServer_114 rfl (va_rf_cat _) ?_
    refine j_iald dX7_atServer_115 hf (fun v20 hf => ?_)
    refine j_iconst (1 : Int32) dX7_atServer_116 (by decide) ?_
    refine j_iadd dX7_atServer_117 ?_
    refine j_iast dX7_atServer_118 hf (fun h21 hf => ?_)
    exact pf_X7_atServer_B119 x0 x1 x2 x3 t0 h21 hf
def f_X7_atServer_B96 (x0 : Option Nat) (x1 : Int32) (x2 : Int32) (x3 : Int32) (h : PH) : Option (Unit × PH) := f_X7_atServer_B101 x0 x1 x2 x3 (1 : Int32) h
theorem pf_X7_atServer_B96 {Γ : GX} {D : va_G} {h0 : PH} {o : Unit × PH} (x0 : Option Nat) (x1 : Int32) (x2 : Int32) (x3 : Int32) (h : PH) (hf : f_X7_atServer_B96 x0 x1 x2 x3 h = some o) : PF Γ mi_X7_atServer D h0 (QR Γ D h0 (ovv o.1) o.2) h 96 [some (va_rf x0), some (.int x1), some (.int x2), some (.int x3), none] [] := by
  refine j_iconst (1 : Int32) dX7_atServer_96 (by decide) ?_
  refine j_goto 101 dX7_atServer_97 (by decide) ?_
  exact pf_X7_atServer_B101 x0 x1 x2 x3 (1 : Int32) h hf
def f_X7_atServer_B74 (x0 : Option Nat) (x1 : Int32) (x2 : Int32) (x3 : Int32) (h : PH) : Option (Unit × PH) := gR h x0 6 0 fun r15 => aI h r15 0 (10 : Int32) fun v16 => (if v16 = x1 then (gR h x0 6 0 fun r17 => aI h r17 0 (11 : Int32) fun v18 => (if x3 < v18 then (f_X7_atServer_B101 x0 x1 x2 x3 (0 : Int32) h) else (f_X7_atServer_B96 x0 x1 x2 x3 h))) else (f_X7_atServer_B96 x0 x1 x2 x3 h))
theorem pf_X7_atServer_B74 {Γ : GX} {D : va_G} {h0 : PH} {o : Unit × PH} (x0 : Option Nat) (x1 : Int32) (x2 : Int32) (x3 : Int32) (h : PH) (hf : f_X7_atServer_B74 x0 x1 x2 x3 h = some o) : PF Γ mi_X7_atServer D h0 (QR Γ D h0 (ovv o.1) o.2) h 74 [some (va_rf x0), some (.int x1), some (.int x2), some (.int x3), none] [] := by
  refine j_aload_n 0 dX7_atServer_74 rfl rfl ?_
  refine j_gR (ci := 6) (k := 0) rfl in_X7 rfl q2202 dX7_atServer_75 hf (fun r15 hf => ?_)
  refine j_bipush (10 : Int32) dX7_atServer_78 (by decide) ?_
  refine j_iald dX7_atServer_80 hf (fun v16 hf => ?_)
  refine j_iload_n 1 dX7_atServer_81 rfl rfl ?_
  refine j_icmp_ne 96 dX7_atServer_82 (by decide) hf (fun c_ hf => ?_) (fun c_ hf => ?_)
  · exact pf_X7_atServer_B96 x0 x1 x2 x3 h hf
  · refine j_iload_n 3 dX7_atServer_85 rfl rfl ?_
    refine j_aload_n 0 dX7_atServer_86 rfl rfl ?_
    refine j_gR (ci := 6) (k := 0) rfl in_X7 rfl q2202 dX7_atServer_87 hf (fun r17 hf => ?_)
    refine j_bipush (11 : Int32) dX7_atServer_90 (by decide) ?_
    refine j_iald dX7_atServer_92 hf (fun v18 hf => ?_)
    refine j_icmp_lt 100 dX7_atServer_93 (by decide) hf (fun c_ hf => ?_) (fun c_ hf => ?_)
    · refine j_iconst (0 : Int32) dX7_atServer_100 (by decide) ?_
      exact pf_X7_atServer_B101 x0 x1 x2 x3 (0 : Int32) h hf
    · exact pf_X7_atServer_B96 x0 x1 x2 x3 h hf
def f_X7_atServer (r0 : Option Nat) (p0 : Int32) (p1 : Int32) (h0 : PH) : Option (Unit × PH) := rv_ h0 r0 6 (cl_ (f_X7_serverShows r0 h0) fun v2 h1 => gR h1 r0 6 0 fun r3 => aI h1 r3 0 (13 : Int32) fun v4 => (if v2 < v4 then (f_X7_atServer_B50 r0 p0 h1) else (gR h1 r0 6 0 fun r5 => aI h1 r5 0 (10 : Int32) fun v6 => (if v6 = (-4 : Int32) then (f_X7_atServer_B74 r0 p0 p1 v2 h1) else (gR h1 r0 6 0 fun r7 => aI h1 r7 0 (10 : Int32) fun v8 => (if v8 = p0 then (f_X7_atServer_B74 r0 p0 p1 v2 h1) else (gR h1 r0 6 0 fun r9 => aI h1 r9 0 (11 : Int32) fun v10 => (if v10 ≤ v2 then (f_X7_atServer_B74 r0 p0 p1 v2 h1) else (f_X7_atServer_B50 r0 p0 h1)))))))))
theorem hyS_X7_atServer : yX7_atServer.cls ≠ "java/lang/invoke/MethodHandle" ∧ yX7_atServer.cls ≠ "java/lang/invoke/VarHandle" ∧ (parseMethodDescriptor yX7_atServer.desc).map (fun d => d.parameters.length) = some 2 := by decide +kernel
theorem hyV_X7_atServer : yX7_atServer.cls = RX7 ∧ yX7_atServer.cls ≠ "java/lang/invoke/MethodHandle" ∧ yX7_atServer.cls ≠ "java/lang/invoke/VarHandle" ∧ (parseMethodDescriptor yX7_atServer.desc).map (fun d => d.parameters.length) = some 2 := by decide +kernel
theorem c_X7_atServer {D : va_G} (r0 : Option Nat) (p0 : Int32) (p1 : Int32) {h0 : PH} (l : Launch) (hl : l.stackTraces = false) (x : Unit) (h1 : PH) (hf : f_X7_atServer r0 p0 p1 h0 = some (x, h1)) : CT l D yX7_atServer (ws_ yX7_atServer cX7_atServer 5 none) 2 49 [va_rf r0, .int p0, .int p1] h0 (ovv x) h1 := by
  refine ct_of hl [some (va_rf r0), some (.int p0), some (.int p1), none, none] (by decide) (by rw [lgl]; simp [va_rf_cat, cat_i, cat_l]) (by simp [lv_args, vsL, va_rf_cat, cat_i, cat_l]) (fun Γ => ?_)
  obtain ⟨o, ho⟩ : ∃ o : Unit × PH, o = (x, h1) := ⟨_, rfl⟩
  rw [← ho] at hf
  have e1 : x = o.1 := by rw [ho]
  have e2 : h1 = o.2 := by rw [ho]
  subst e1 e2
  clear ho
  show PF Γ mi_X7_atServer D h0 (QR Γ D h0 (ovv o.1) o.2) h0 0 [some (va_rf r0), some (.int p0), some (.int p1), none, none] []
  unfold f_X7_atServer at hf
  refine j_aload_n 0 dX7_atServer_0 rfl rfl ?_
  refine kc_X7_176 rfl rfl rfl (by decide) dX7_atServer_1 hf (fun v2 h1 hf => ?_)
  refine j_istore_n 3 [some (va_rf r0), some (.int p0), some (.int p1), some (.int v2), none] dX7_atServer_4 rfl (cz rfl) rfl rfl ?_
  refine j_iload_n 3 dX7_atServer_5 rfl rfl ?_
  refine j_aload_n 0 dX7_atServer_6 rfl rfl ?_
  refine j_gR (ci := 6) (k := 0) rfl in_X7 rfl q2202 dX7_atServer_7 hf (fun r3 hf => ?_)
  refine j_bipush (13 : Int32) dX7_atServer_10 (by decide) ?_
  refine j_iald dX7_atServer_12 hf (fun v4 hf => ?_)
  refine j_icmp_lt 50 dX7_atServer_13 (by decide) hf (fun c_ hf => ?_) (fun c_ hf => ?_)
  · refine j_weak [some (va_rf r0), some (.int p0), none, none, none] (Wk.k (Wk.k (Wk.s (Wk.s (Wk.k Wk.n))))) ?_
    exact pf_X7_atServer_B50 r0 p0 h1 hf
  · refine j_aload_n 0 dX7_atServer_16 rfl rfl ?_
    refine j_gR (ci := 6) (k := 0) rfl in_X7 rfl q2202 dX7_atServer_17 hf (fun r5 hf => ?_)
    refine j_bipush (10 : Int32) dX7_atServer_20 (by decide) ?_
    refine j_iald dX7_atServer_22 hf (fun v6 hf => ?_)
    refine j_bipush (-4 : Int32) dX7_atServer_23 (by decide) ?_
    refine j_icmp_eq 74 dX7_atServer_25 (by decide) hf (fun c_ hf => ?_) (fun c_ hf => ?_)
    · exact pf_X7_atServer_B74 r0 p0 p1 v2 h1 hf
    · refine j_aload_n 0 dX7_atServer_28 rfl rfl ?_
      refine j_gR (ci := 6) (k := 0) rfl in_X7 rfl q2202 dX7_atServer_29 hf (fun r7 hf => ?_)
      refine j_bipush (10 : Int32) dX7_atServer_32 (by decide) ?_
      refine j_iald dX7_atServer_34 hf (fun v8 hf => ?_)
      refine j_iload_n 1 dX7_atServer_35 rfl rfl ?_
      refine j_icmp_eq 74 dX7_atServer_36 (by decide) hf (fun c_ hf => ?_) (fun c_ hf => ?_)
      · exact pf_X7_atServer_B74 r0 p0 p1 v2 h1 hf
      · refine j_iload_n 3 dX7_atServer_39 rfl rfl ?_
        refine j_aload_n 0 dX7_atServer_40 rfl rfl ?_
        refine j_gR (ci := 6) (k := 0) rfl in_X7 rfl q2202 dX7_atServer_41 hf (fun r9 hf => ?_)
        refine j_bipush (11 : Int32) dX7_atServer_44 (by decide) ?_
        refine j_iald dX7_atServer_46 hf (fun v10 hf => ?_)
        refine j_icmp_ge 74 dX7_atServer_47 (by decide) hf (fun c_ hf => ?_) (fun c_ hf => ?_)
        · exact pf_X7_atServer_B74 r0 p0 p1 v2 h1 hf
        · refine j_weak [some (va_rf r0), some (.int p0), none, none, none] (Wk.k (Wk.k (Wk.s (Wk.s (Wk.k Wk.n))))) ?_
          exact pf_X7_atServer_B50 r0 p0 h1 hf
abbrev mi_X7_written : MI := (cX7_written, 5, RX7, none, [], 3, 71, "written")
def f_X7_written (r0 : Option Nat) (p0 : Int32) (p1 : Int32) (p2 : Int32) (p3 : Int32) (h0 : PH) : Option (Unit × PH) := rv_ h0 r0 6 (cl_ (f_X7_fences r0 p0 p1 h0) fun v2 h1 => (if v2 = 0 then (gR h1 r0 6 0 fun r3 => sI h1 r3 0 ((160 : Int32) + p2) p3 fun h4 => gR h4 r0 6 0 fun r5 => aI h4 r5 0 ((168 : Int32) + p2) fun v6 => sI h4 r5 0 ((168 : Int32) + p2) (v6 + (1 : Int32)) fun h7 => rv_ h7 r0 6 (cl_ (f_X7_logs r0 (6 : Int32) p0 p1 h7) fun _u h8 => rv_ h8 r0 6 (cl_ (f_X7_sends r0 (7 : Int32) p0 p1 p2 p3 h8) fun _u h9 => some ((), h9)))) else (some ((), h1))))
theorem hyS_X7_written : yX7_written.cls ≠ "java/lang/invoke/MethodHandle" ∧ yX7_written.cls ≠ "java/lang/invoke/VarHandle" ∧ (parseMethodDescriptor yX7_written.desc).map (fun d => d.parameters.length) = some 4 := by decide +kernel
theorem hyV_X7_written : yX7_written.cls = RX7 ∧ yX7_written.cls ≠ "java/lang/invoke/MethodHandle" ∧ yX7_written.cls ≠ "java/lang/invoke/VarHandle" ∧ (parseMethodDescriptor yX7_written.desc).map (fun d => d.parameters.length) = some 4 := by decide +kernel
theorem c_X7_written {D : va_G} (r0 : Option Nat) (p0 : Int32) (p1 : Int32) (p2 : Int32) (p3 : Int32) {h0 : PH} (l : Launch) (hl : l.stackTraces = false) (x : Unit) (h1 : PH) (hf : f_X7_written r0 p0 p1 p2 p3 h0 = some (x, h1)) : CT l D yX7_written (ws_ yX7_written cX7_written 5 none) 3 71 [va_rf r0, .int p0, .int p1, .int p2, .int p3] h0 (ovv x) h1 := by
  refine ct_of hl [some (va_rf r0), some (.int p0), some (.int p1), some (.int p2), some (.int p3)] (by decide) (by rw [lgl]; simp [va_rf_cat, cat_i, cat_l]) (by simp [lv_args, vsL, va_rf_cat, cat_i, cat_l]) (fun Γ => ?_)
  obtain ⟨o, ho⟩ : ∃ o : Unit × PH, o = (x, h1) := ⟨_, rfl⟩
  rw [← ho] at hf
  have e1 : x = o.1 := by rw [ho]
  have e2 : h1 = o.2 := by rw [ho]
  subst e1 e2
  clear ho
  show PF Γ mi_X7_written D h0 (QR Γ D h0 (ovv o.1) o.2) h0 0 [some (va_rf r0), some (.int p0), some (.int p1), some (.int p2), some (.int p3)] []
  unfold f_X7_written at hf
  refine j_aload_n 0 dX7_written_0 rfl rfl ?_
  refine j_iload_n 1 dX7_written_1 rfl rfl ?_
  refine j_iload_n 2 dX7_written_2 rfl rfl ?_
  refine kc_X7_222 rfl rfl rfl (by decide) dX7_written_3 hf (fun v2 h1 hf => ?_)
  refine j_if_eq 10 dX7_written_6 (by decide) hf (fun c_ hf => ?_) (fun c_ hf => ?_)
  · refine j_aload_n 0 dX7_written_10 rfl rfl ?_
    refine j_gR (ci := 6) (k := 0) rfl in_X7 rfl q2202 dX7_written_11 hf (fun r3 hf => ?_)
    refine j_sipush (160 : Int32) dX7_written_14 (by decide) ?_
    refine j_iload_n 3 dX7_written_17 rfl rfl ?_
    refine j_iadd dX7_written_18 ?_
    refine j_iload dX7_written_19 rfl ?_
    refine j_iast dX7_written_21 hf (fun h4 hf => ?_)
    refine j_aload_n 0 dX7_written_22 rfl rfl ?_
    refine j_gR (ci := 6) (k := 0) rfl in_X7 rfl q2202 dX7_written_23 hf (fun r5 hf => ?_)
    refine j_sipush (168 : Int32) dX7_written_26 (by decide) ?_
    refine j_iload_n 3 dX7_written_29 rfl rfl ?_
    refine j_iadd dX7_written_30 ?_
    refine j_dup2 dX7_written_31 rfl (va_rf_cat _) ?_
    refine j_iald dX7_written_32 hf (fun v6 hf => ?_)
    refine j_iconst (1 : Int32) dX7_written_33 (by decide) ?_
    refine j_iadd dX7_written_34 ?_
    refine j_iast dX7_written_35 hf (fun h7 hf => ?_)
    refine j_aload_n 0 dX7_written_36 rfl rfl ?_
    refine j_bipush (6 : Int32) dX7_written_37 (by decide) ?_
    refine j_iload_n 1 dX7_written_39 rfl rfl ?_
    refine j_iload_n 2 dX7_written_40 rfl rfl ?_
    refine kc_X7_219 rfl rfl rfl (by decide) dX7_written_41 hf (fun _u h8 hf => ?_)
    refine j_aload_n 0 dX7_written_44 rfl rfl ?_
    refine j_bipush (7 : Int32) dX7_written_45 (by decide) ?_
    refine j_iload_n 1 dX7_written_47 rfl rfl ?_
    refine j_iload_n 2 dX7_written_48 rfl rfl ?_
    refine j_iload_n 3 dX7_written_49 rfl rfl ?_
    refine j_iload dX7_written_50 rfl ?_
    refine kc_X7_189 rfl rfl rfl (by decide) dX7_written_52 hf (fun _u h9 hf => ?_)
    have e9 := Option.some.inj hf
    subst e9
    exact j_vret rfl dX7_written_55
  · have e9 := Option.some.inj hf
    subst e9
    exact j_vret rfl dX7_written_9
theorem kc_X7_193 {Γ : GX} {I : MI} {D : va_G} {h0 : PH} {Q : State → Prop} {h : PH} {pc : Nat} {vs : List (Option Value)} {rest : List Value} {β : Type} {o : β} {r : Option Nat} {p0 : Int32} {p1 : Int32} {K : ((Unit) → PH → Option β)} (hI : I.2.2.1 = RX7) (hfr : Nat.ble 2 I.2.2.2.2.2.1 = true) (hlo : Nat.ble 46 I.2.2.2.2.2.2.1 = true) (hW : (rest.map fun v => v.category).sum ≤ 8) (hd : decode I.1 pc = .ok (.invokevirtual 193, 3)) (hf : rv_ h r 6 (cl_ (f_X7_setsTimer r p0 p1 h) K) = some o) (kk : ∀ (x : Unit) (h1 : PH), K x h1 = some o → PF Γ I D h0 Q h1 (pc + 3) vs (rest)) : PF Γ I D h0 Q h pc vs (.int p1 :: .int p0 :: va_rf r :: rest) := by
  obtain ⟨cc, nL, own, rt, xt, fr, lo, nm⟩ := I
  cases hI
  exact j_cVv (n := 2) (y := yX7_setsTimer) (cc2 := cX7_setsTimer) (As := [.int p0, .int p1]) (C := RX7) (ci := 6) rfl (lw_V q2468 q2470 qs70 q117 q2471) hyV_X7_setsTimer hfr hlo rfl hW hd (c_X7_setsTimer r p0 p1) hf _ rfl kk
abbrev mi_X7_granted : MI := (cX7_granted, 6, RX7, none, [], 2, 49, "granted")
def f_X7_granted_B122 (x0 : Option Nat) (x1 : Int32) (x2 : Int32) (x3 : Int32) (h : PH) : Option (Unit × PH) := rv_ h x0 6 (cl_ (f_X7_puts x0 x1 (7 : Int32) x2 h) fun _u h18 => gR h18 x0 6 0 fun r19 => aI h18 r19 0 (7 : Int32) fun v20 => rv_ h18 x0 6 (cl_ (f_X7_setsTimer x0 x1 (x3 + v20) h18) fun _u h21 => some ((), h21)))
theorem pf_X7_granted_B122 {Γ : GX} {D : va_G} {h0 : PH} {o : Unit × PH} (x0 : Option Nat) (x1 : Int32) (x2 : Int32) (x3 : Int32) (h : PH) (hf : f_X7_granted_B122 x0 x1 x2 x3 h = some o) : PF Γ mi_X7_granted D h0 (QR Γ D h0 (ovv o.1) o.2) h 122 [some (va_rf x0), some (.int x1), some (.int x2), some (.int x3), none, none] [] := by
  refine j_aload_n 0 dX7_granted_122 rfl rfl ?_
  refine j_iload_n 1 dX7_granted_123 rfl rfl ?_
  refine j_bipush (7 : Int32) dX7_granted_124 (by decide) ?_
  refine j_iload_n 2 dX7_granted_126 rfl rfl ?_
  refine kc_X7_169 rfl rfl rfl (by decide) dX7_granted_127 hf (fun _u h18 hf => ?_)
  refine j_aload_n 0 dX7_granted_130 rfl rfl ?_
  refine j_iload_n 1 dX7_granted_131 rfl rfl ?_
  refine j_iload_n 3 dX7_granted_132 rfl rfl ?_
  refine j_aload_n 0 dX7_granted_133 rfl rfl ?_
  refine j_gR (ci := 6) (k := 0) rfl in_X7 rfl q2202 dX7_granted_134 hf (fun r19 hf => ?_)
  refine j_bipush (7 : Int32) dX7_granted_137 (by decide) ?_
  refine j_iald dX7_granted_139 hf (fun v20 hf => ?_)
  refine j_iadd dX7_granted_140 ?_
  refine kc_X7_193 rfl rfl rfl (by decide) dX7_granted_141 hf (fun _u h21 hf => ?_)
  have e9 := Option.some.inj hf
  subst e9
  exact j_vret rfl dX7_granted_144
def f_X7_granted_B113 (x0 : Option Nat) (x1 : Int32) (x2 : Int32) (x3 : Int32) (x4 : Int32) (h : PH) : Option (Unit × PH) := rv_ h x0 6 (cl_ (f_X7_puts x0 x1 (8 : Int32) x4 h) fun _u h17 => f_X7_granted_B122 x0 x1 x2 x3 h17)
theorem pf_X7_granted_B113 {Γ : GX} {D : va_G} {h0 : PH} {o : Unit × PH} (x0 : Option Nat) (x1 : Int32) (x2 : Int32) (x3 : Int32) (x4 : Int32) (h : PH) (hf : f_X7_granted_B113 x0 x1 x2 x3 x4 h = some o) : PF Γ mi_X7_granted D h0 (QR Γ D h0 (ovv o.1) o.2) h 113 [some (va_rf x0), some (.int x1), some (.int x2), some (.int x3), some (.int x4), none] [] := by
  refine j_aload_n 0 dX7_granted_113 rfl rfl ?_
  refine j_iload_n 1 dX7_granted_114 rfl rfl ?_
  refine j_bipush (8 : Int32) dX7_granted_115 (by decide) ?_
  refine j_iload dX7_granted_117 rfl ?_
  refine kc_X7_169 rfl rfl rfl (by decide) dX7_granted_119 hf (fun _u h17 hf => ?_)
  refine j_weak [some (va_rf x0), some (.int x1), some (.int x2), some (.int x3), none, none] (Wk.k (Wk.k (Wk.k (Wk.k (Wk.s (Wk.k Wk.n)))))) ?_
  exact pf_X7_granted_B122 x0 x1 x2 x3 h17 hf
def f_X7_granted_B96 (x0 : Option Nat) (x1 : Int32) (x2 : Int32) (x3 : Int32) (x4 : Int32) (x5 : Int32) (h : PH) : Option (Unit × PH) := (if x5 = 0 then (rv_ h x0 6 (cl_ (f_X7_of x0 x1 (8 : Int32) h) fun v16 h15 => (if x4 ≤ v16 then (f_X7_granted_B122 x0 x1 x2 x3 h15) else (f_X7_granted_B113 x0 x1 x2 x3 x4 h15)))) else (f_X7_granted_B113 x0 x1 x2 x3 x4 h))
theorem pf_X7_granted_B96 {Γ : GX} {D : va_G} {h0 : PH} {o : Unit × PH} (x0 : Option Nat) (x1 : Int32) (x2 : Int32) (x3 : Int32) (x4 : Int32) (x5 : Int32) (h : PH) (hf : f_X7_granted_B96 x0 x1 x2 x3 x4 x5 h = some o) : PF Γ mi_X7_granted D h0 (QR Γ D h0 (ovv o.1) o.2) h 96 [some (va_rf x0), some (.int x1), some (.int x2), some (.int x3), some (.int x4), some (.int x5)] [] := by
  refine j_iload dX7_granted_96 rfl ?_
  refine j_if_ne 113 dX7_granted_98 (by decide) hf (fun c_ hf => ?_) (fun c_ hf => ?_)
  · refine j_weak [some (va_rf x0), some (.int x1), some (.int x2), some (.int x3), some (.int x4), none] (Wk.k (Wk.k (Wk.k (Wk.k (Wk.k (Wk.s Wk.n)))))) ?_
    exact pf_X7_granted_B113 x0 x1 x2 x3 x4 h hf
  · refine j_iload dX7_granted_101 rfl ?_
    refine j_aload_n 0 dX7_granted_103 rfl rfl ?_
    refine j_iload_n 1 dX7_granted_104 rfl rfl ?_
    refine j_bipush (8 : Int32) dX7_granted_105 (by decide) ?_
    refine kc_X7_152 rfl rfl rfl (by simp [va_rf_cat, cat_i, cat_l]) dX7_granted_107 hf (fun v16 h15 hf => ?_)
    refine j_icmp_le 122 dX7_granted_110 (by decide) hf (fun c_ hf => ?_) (fun c_ hf => ?_)
    · refine j_weak [some (va_rf x0), some (.int x1), some (.int x2), some (.int x3), none, none] (Wk.k (Wk.k (Wk.k (Wk.k (Wk.s (Wk.s Wk.n)))))) ?_
      exact pf_X7_granted_B122 x0 x1 x2 x3 h15 hf
    · refine j_weak [some (va_rf x0), some (.int x1), some (.int x2), some (.int x3), some (.int x4), none] (Wk.k (Wk.k (Wk.k (Wk.k (Wk.k (Wk.s Wk.n)))))) ?_
      exact pf_X7_granted_B113 x0 x1 x2 x3 x4 h15 hf
def f_X7_granted_B81 (x0 : Option Nat) (x1 : Int32) (x2 : Int32) (x3 : Int32) (x4 : Int32) (t0 : Int32) (h : PH) : Option (Unit × PH) := (if t0 = 0 then (f_X7_granted_B96 x0 x1 x2 x3 x4 t0 h) else (rv_ h x0 6 (cl_ (f_X7_puts x0 x1 (11 : Int32) (0 : Int32) h) fun _u h14 => f_X7_granted_B96 x0 x1 x2 x3 x4 t0 h14)))
theorem pf_X7_granted_B81 {Γ : GX} {D : va_G} {h0 : PH} {o : Unit × PH} (x0 : Option Nat) (x1 : Int32) (x2 : Int32) (x3 : Int32) (x4 : Int32) (t0 : Int32) (h : PH) (hf : f_X7_granted_B81 x0 x1 x2 x3 x4 t0 h = some o) : PF Γ mi_X7_granted D h0 (QR Γ D h0 (ovv o.1) o.2) h 81 [some (va_rf x0), some (.int x1), some (.int x2), some (.int x3), some (.int x4), none] [.int t0] := by
  refine j_istore [some (va_rf x0), some (.int x1), some (.int x2), some (.int x3), some (.int x4), some (.int t0)] dX7_granted_81 (cz rfl) rfl rfl ?_
  refine j_iload dX7_granted_83 rfl ?_
  refine j_if_eq 96 dX7_granted_85 (by decide) hf (fun c_ hf => ?_) (fun c_ hf => ?_)
  · exact pf_X7_granted_B96 x0 x1 x2 x3 x4 t0 h hf
  · refine j_aload_n 0 dX7_granted_88 rfl rfl ?_
    refine j_iload_n 1 dX7_granted_89 rfl rfl ?_
    refine j_bipush (11 : Int32) dX7_granted_90 (by decide) ?_
    refine j_iconst (0 : Int32) dX7_granted_92 (by decide) ?_
    refine kc_X7_169 rfl rfl rfl (by decide) dX7_granted_93 hf (fun _u h14 hf => ?_)
    exact pf_X7_granted_B96 x0 x1 x2 x3 x4 t0 h14 hf
def f_X7_granted (r0 : Option Nat) (p0 : Int32) (p1 : Int32) (p2 : Int32) (h0 : PH) : Option (Unit × PH) := rv_ h0 r0 6 (cl_ (f_X7_of r0 p0 (5 : Int32) h0) fun v2 h1 => (if v2 = 0 then (rv_ h1 r0 6 (cl_ (f_X7_sends r0 (2 : Int32) p0 p1 (0 : Int32) (0 : Int32) h1) fun _u h13 => some ((), h13))) else (rv_ h1 r0 6 (cl_ (f_X7_of r0 p0 (7 : Int32) h1) fun v4 h3 => (if v4 ≤ p1 then (gR h3 r0 6 0 fun r5 => aI h3 r5 0 (5 : Int32) fun v6 => gR h3 r0 6 0 fun r7 => aI h3 r7 0 (6 : Int32) fun v8 => gR h3 r0 6 0 fun r9 => aI h3 r9 0 (6 : Int32) fun v10 => dvI ((1000 : Int32) + v10) (rv_ h3 r0 6 (cl_ (f_X7_of r0 p0 (7 : Int32) h3) fun v12 h11 => (if p1 ≤ v12 then (f_X7_granted_B81 r0 p0 p1 p2 (p2 + ((v6 * ((1000 : Int32) - v8)) / ((1000 : Int32) + v10))) (0 : Int32) h11) else (f_X7_granted_B81 r0 p0 p1 p2 (p2 + ((v6 * ((1000 : Int32) - v8)) / ((1000 : Int32) + v10))) (1 : Int32) h11))))) else (some ((), h3)))))))
theorem hyS_X7_granted : yX7_granted.cls ≠ "java/lang/invoke/MethodHandle" ∧ yX7_granted.cls ≠ "java/lang/invoke/VarHandle" ∧ (parseMethodDescriptor yX7_granted.desc).map (fun d => d.parameters.length) = some 3 := by decide +kernel
theorem hyV_X7_granted : yX7_granted.cls = RX7 ∧ yX7_granted.cls ≠ "java/lang/invoke/MethodHandle" ∧ yX7_granted.cls ≠ "java/lang/invoke/VarHandle" ∧ (parseMethodDescriptor yX7_granted.desc).map (fun d => d.parameters.length) = some 3 := by decide +kernel
theorem c_X7_granted {D : va_G} (r0 : Option Nat) (p0 : Int32) (p1 : Int32) (p2 : Int32) {h0 : PH} (l : Launch) (hl : l.stackTraces = false) (x : Unit) (h1 : PH) (hf : f_X7_granted r0 p0 p1 p2 h0 = some (x, h1)) : CT l D yX7_granted (ws_ yX7_granted cX7_granted 6 none) 2 49 [va_rf r0, .int p0, .int p1, .int p2] h0 (ovv x) h1 := by
  refine ct_of hl [some (va_rf r0), some (.int p0), some (.int p1), some (.int p2), none, none] (by decide) (by rw [lgl]; simp [va_rf_cat, cat_i, cat_l]) (by simp [lv_args, vsL, va_rf_cat, cat_i, cat_l]) (fun Γ => ?_)
  obtain ⟨o, ho⟩ : ∃ o : Unit × PH, o = (x, h1) := ⟨_, rfl⟩
  rw [← ho] at hf
  have e1 : x = o.1 := by rw [ho]
  have e2 : h1 = o.2 := by rw [ho]
  subst e1 e2
  clear ho
  show PF Γ mi_X7_granted D h0 (QR Γ D h0 (ovv o.1) o.2) h0 0 [some (va_rf r0), some (.int p0), some (.int p1), some (.int p2), none, none] []
  unfold f_X7_granted at hf
  refine j_aload_n 0 dX7_granted_0 rfl rfl ?_
  refine j_iload_n 1 dX7_granted_1 rfl rfl ?_
  refine j_iconst (5 : Int32) dX7_granted_2 (by decide) ?_
  refine kc_X7_152 rfl rfl rfl (by decide) dX7_granted_3 hf (fun v2 h1 hf => ?_)
  refine j_if_ne 19 dX7_granted_6 (by decide) hf (fun c_ hf => ?_) (fun c_ hf => ?_)
  · refine j_iload_n 2 dX7_granted_19 rfl rfl ?_
    refine j_aload_n 0 dX7_granted_20 rfl rfl ?_
    refine j_iload_n 1 dX7_granted_21 rfl rfl ?_
    refine j_bipush (7 : Int32) dX7_granted_22 (by decide) ?_
    refine kc_X7_152 rfl rfl rfl (by simp [va_rf_cat, cat_i, cat_l]) dX7_granted_24 hf (fun v4 h3 hf => ?_)
    refine j_icmp_ge 31 dX7_granted_27 (by decide) hf (fun c_ hf => ?_) (fun c_ hf => ?_)
    · refine j_iload_n 3 dX7_granted_31 rfl rfl ?_
      refine j_aload_n 0 dX7_granted_32 rfl rfl ?_
      refine j_gR (ci := 6) (k := 0) rfl in_X7 rfl q2202 dX7_granted_33 hf (fun r5 hf => ?_)
      refine j_iconst (5 : Int32) dX7_granted_36 (by decide) ?_
      refine j_iald dX7_granted_37 hf (fun v6 hf => ?_)
      refine j_sipush (1000 : Int32) dX7_granted_38 (by decide) ?_
      refine j_aload_n 0 dX7_granted_41 rfl rfl ?_
      refine j_gR (ci := 6) (k := 0) rfl in_X7 rfl q2202 dX7_granted_42 hf (fun r7 hf => ?_)
      refine j_bipush (6 : Int32) dX7_granted_45 (by decide) ?_
      refine j_iald dX7_granted_47 hf (fun v8 hf => ?_)
      refine j_isub dX7_granted_48 ?_
      refine j_imul dX7_granted_49 ?_
      refine j_sipush (1000 : Int32) dX7_granted_50 (by decide) ?_
      refine j_aload_n 0 dX7_granted_53 rfl rfl ?_
      refine j_gR (ci := 6) (k := 0) rfl in_X7 rfl q2202 dX7_granted_54 hf (fun r9 hf => ?_)
      refine j_bipush (6 : Int32) dX7_granted_57 (by decide) ?_
      refine j_iald dX7_granted_59 hf (fun v10 hf => ?_)
      refine j_iadd dX7_granted_60 ?_
      refine j_idiv dX7_granted_61 hf (fun hf => ?_)
      refine j_iadd dX7_granted_62 ?_
      refine j_istore [some (va_rf r0), some (.int p0), some (.int p1), some (.int p2), some (.int (p2 + ((v6 * ((1000 : Int32) - v8)) / ((1000 : Int32) + v10)))), none] dX7_granted_63 (cz rfl) rfl rfl ?_
      refine j_iload_n 2 dX7_granted_65 rfl rfl ?_
      refine j_aload_n 0 dX7_granted_66 rfl rfl ?_
      refine j_iload_n 1 dX7_granted_67 rfl rfl ?_
      refine j_bipush (7 : Int32) dX7_granted_68 (by decide) ?_
      refine kc_X7_152 rfl rfl rfl (by simp [va_rf_cat, cat_i, cat_l]) dX7_granted_70 hf (fun v12 h11 hf => ?_)
      refine j_icmp_le 80 dX7_granted_73 (by decide) hf (fun c_ hf => ?_) (fun c_ hf => ?_)
      · refine j_iconst (0 : Int32) dX7_granted_80 (by decide) ?_
        exact pf_X7_granted_B81 r0 p0 p1 p2 (p2 + ((v6 * ((1000 : Int32) - v8)) / ((1000 : Int32) + v10))) (0 : Int32) h11 hf
      · refine j_iconst (1 : Int32) dX7_granted_76 (by decide) ?_
        refine j_goto 81 dX7_granted_77 (by decide) ?_
        exact pf_X7_granted_B81 r0 p0 p1 p2 (p2 + ((v6 * ((1000 : Int32) - v8)) / ((1000 : Int32) + v10))) (1 : Int32) h11 hf
    · have e9 := Option.some.inj hf
      subst e9
      exact j_vret rfl dX7_granted_30
  · refine j_aload_n 0 dX7_granted_9 rfl rfl ?_
    refine j_iconst (2 : Int32) dX7_granted_10 (by decide) ?_
    refine j_iload_n 1 dX7_granted_11 rfl rfl ?_
    refine j_iload_n 2 dX7_granted_12 rfl rfl ?_
    refine j_iconst (0 : Int32) dX7_granted_13 (by decide) ?_
    refine j_iconst (0 : Int32) dX7_granted_14 (by decide) ?_
    refine kc_X7_189 rfl rfl rfl (by decide) dX7_granted_15 hf (fun _u h13 hf => ?_)
    have e9 := Option.some.inj hf
    subst e9
    exact j_vret rfl dX7_granted_18
abbrev mi_X7_acquires : MI := (cX7_acquires, 2, RX7, none, [], 2, 49, "acquires")
def f_X7_acquires_B18 (x0 : Option Nat) (x1 : Int32) (t0 : Option Nat) (t1 : Int32) (t2 : Int32) (h : PH) : Option (Unit × PH) := pV h t0 6 13 (.int (t1 + t2)) fun h3 => rv_ h3 x0 6 (cl_ (f_X7_clock x0 x1 h3) fun v5 h4 => rv_ h4 x0 6 (cl_ (f_X7_sends x0 (1 : Int32) x1 (0 : Int32) v5 (0 : Int32) h4) fun _u h6 => rv_ h6 x0 6 (cl_ (f_X7_clock x0 x1 h6) fun v8 h7 => gR h7 x0 6 0 fun r9 => aI h7 r9 0 (8 : Int32) fun v10 => rv_ h7 x0 6 (cl_ (f_X7_setsTimer x0 x1 (v8 + v10) h7) fun _u h11 => some ((), h11)))))
theorem pf_X7_acquires_B18 {Γ : GX} {D : va_G} {h0 : PH} {o : Unit × PH} (x0 : Option Nat) (x1 : Int32) (t0 : Option Nat) (t1 : Int32) (t2 : Int32) (h : PH) (hf : f_X7_acquires_B18 x0 x1 t0 t1 t2 h = some o) : PF Γ mi_X7_acquires D h0 (QR Γ D h0 (ovv o.1) o.2) h 18 [some (va_rf x0), some (.int x1)] [.int t2, .int t1, va_rf t0] := by
  refine j_iadd dX7_acquires_18 ?_
  refine j_pV (ci := 6) (k := 13) tyX7 tyX7_ok nmX7 rfl in_X7 rfl q2215 (Or.inl rfl) rfl (fit_i _) dX7_acquires_19 hf (fun h3 hf => ?_)
  refine j_aload_n 0 dX7_acquires_22 rfl rfl ?_
  refine j_iconst (1 : Int32) dX7_acquires_23 (by decide) ?_
  refine j_iload_n 1 dX7_acquires_24 rfl rfl ?_
  refine j_iconst (0 : Int32) dX7_acquires_25 (by decide) ?_
  refine j_aload_n 0 dX7_acquires_26 rfl rfl ?_
  refine j_iload_n 1 dX7_acquires_27 rfl rfl ?_
  refine kc_X7_162 rfl rfl rfl (by simp [va_rf_cat, cat_i, cat_l]) dX7_acquires_28 hf (fun v5 h4 hf => ?_)
  refine j_iconst (0 : Int32) dX7_acquires_31 (by decide) ?_
  refine kc_X7_189 rfl rfl rfl (by decide) dX7_acquires_32 hf (fun _u h6 hf => ?_)
  refine j_aload_n 0 dX7_acquires_35 rfl rfl ?_
  refine j_iload_n 1 dX7_acquires_36 rfl rfl ?_
  refine j_aload_n 0 dX7_acquires_37 rfl rfl ?_
  refine j_iload_n 1 dX7_acquires_38 rfl rfl ?_
  refine kc_X7_162 rfl rfl rfl (by simp [va_rf_cat, cat_i, cat_l]) dX7_acquires_39 hf (fun v8 h7 hf => ?_)
  refine j_aload_n 0 dX7_acquires_42 rfl rfl ?_
  refine j_gR (ci := 6) (k := 0) rfl in_X7 rfl q2202 dX7_acquires_43 hf (fun r9 hf => ?_)
  refine j_bipush (8 : Int32) dX7_acquires_46 (by decide) ?_
  refine j_iald dX7_acquires_48 hf (fun v10 hf => ?_)
  refine j_iadd dX7_acquires_49 ?_
  refine kc_X7_193 rfl rfl rfl (by decide) dX7_acquires_50 hf (fun _u h11 hf => ?_)
  have e9 := Option.some.inj hf
  subst e9
  exact j_vret rfl dX7_acquires_53
def f_X7_acquires (r0 : Option Nat) (p0 : Int32) (h0 : PH) : Option (Unit × PH) := gI h0 r0 6 13 fun v1 => gI h0 r0 6 12 fun v2 => (if p0 = v2 then (f_X7_acquires_B18 r0 p0 r0 v1 (1 : Int32) h0) else (f_X7_acquires_B18 r0 p0 r0 v1 (0 : Int32) h0))
theorem hyS_X7_acquires : yX7_acquires.cls ≠ "java/lang/invoke/MethodHandle" ∧ yX7_acquires.cls ≠ "java/lang/invoke/VarHandle" ∧ (parseMethodDescriptor yX7_acquires.desc).map (fun d => d.parameters.length) = some 1 := by decide +kernel
theorem hyV_X7_acquires : yX7_acquires.cls = RX7 ∧ yX7_acquires.cls ≠ "java/lang/invoke/MethodHandle" ∧ yX7_acquires.cls ≠ "java/lang/invoke/VarHandle" ∧ (parseMethodDescriptor yX7_acquires.desc).map (fun d => d.parameters.length) = some 1 := by decide +kernel
theorem c_X7_acquires {D : va_G} (r0 : Option Nat) (p0 : Int32) {h0 : PH} (l : Launch) (hl : l.stackTraces = false) (x : Unit) (h1 : PH) (hf : f_X7_acquires r0 p0 h0 = some (x, h1)) : CT l D yX7_acquires (ws_ yX7_acquires cX7_acquires 2 none) 2 49 [va_rf r0, .int p0] h0 (ovv x) h1 := by
  refine ct_of hl [some (va_rf r0), some (.int p0)] (by decide) (by rw [lgl]; simp [va_rf_cat, cat_i, cat_l]) (by simp [lv_args, vsL, va_rf_cat, cat_i, cat_l]) (fun Γ => ?_)
  obtain ⟨o, ho⟩ : ∃ o : Unit × PH, o = (x, h1) := ⟨_, rfl⟩
  rw [← ho] at hf
  have e1 : x = o.1 := by rw [ho]
  have e2 : h1 = o.2 := by rw [ho]
  subst e1 e2
  clear ho
  show PF Γ mi_X7_acquires D h0 (QR Γ D h0 (ovv o.1) o.2) h0 0 [some (va_rf r0), some (.int p0)] []
  unfold f_X7_acquires at hf
  refine j_aload_n 0 dX7_acquires_0 rfl rfl ?_
  refine j_dup dX7_acquires_1 (va_rf_cat _) ?_
  refine j_gI (ci := 6) (k := 13) rfl in_X7 rfl q2215 dX7_acquires_2 hf (fun v1 hf => ?_)
  refine j_iload_n 1 dX7_acquires_5 rfl rfl ?_
  refine j_aload_n 0 dX7_acquires_6 rfl rfl ?_
  refine j_gI (ci := 6) (k := 12) rfl in_X7 rfl q2214 dX7_acquires_7 hf (fun v2 hf => ?_)
  refine j_icmp_ne 17 dX7_acquires_10 (by decide) hf (fun c_ hf => ?_) (fun c_ hf => ?_)
  · refine j_iconst (0 : Int32) dX7_acquires_17 (by decide) ?_
    exact pf_X7_acquires_B18 r0 p0 r0 v1 (0 : Int32) h0 hf
  · refine j_iconst (1 : Int32) dX7_acquires_13 (by decide) ?_
    refine j_goto 18 dX7_acquires_14 (by decide) ?_
    exact pf_X7_acquires_B18 r0 p0 r0 v1 (1 : Int32) h0 hf
theorem kc_X7_247 {Γ : GX} {I : MI} {D : va_G} {h0 : PH} {Q : State → Prop} {h : PH} {pc : Nat} {vs : List (Option Value)} {rest : List Value} {β : Type} {o : β} {r : Option Nat} {p0 : Int32} {K : ((Unit) → PH → Option β)} (hI : I.2.2.1 = RX7) (hfr : Nat.ble 3 I.2.2.2.2.2.1 = true) (hlo : Nat.ble 70 I.2.2.2.2.2.2.1 = true) (hW : (rest.map fun v => v.category).sum ≤ 8) (hd : decode I.1 pc = .ok (.invokevirtual 247, 3)) (hf : rv_ h r 6 (cl_ (f_X7_acquires r p0 h) K) = some o) (kk : ∀ (x : Unit) (h1 : PH), K x h1 = some o → PF Γ I D h0 Q h1 (pc + 3) vs (rest)) : PF Γ I D h0 Q h pc vs (.int p0 :: va_rf r :: rest) := by
  obtain ⟨cc, nL, own, rt, xt, fr, lo, nm⟩ := I
  cases hI
  exact j_cVv (n := 1) (y := yX7_acquires) (cc2 := cX7_acquires) (As := [.int p0]) (C := RX7) (ci := 6) rfl (lw_V q2492 q2494 qs76 q117 q2495) hyV_X7_acquires hfr hlo rfl hW hd (c_X7_acquires r p0) hf _ rfl kk
abbrev mi_X7_campaign : MI := (cX7_campaign, 2, RX7, (Option.some FieldType.int), [], 3, 70, "campaign")
def f_X7_campaign (r0 : Option Nat) (p0 : Int32) (h0 : PH) : Option (Int32 × PH) := rv_ h0 r0 6 (cl_ (f_X7_noNode r0 p0 h0) fun v2 h1 => (if v2 = 0 then (rv_ h1 r0 6 (cl_ (f_X7_refusal r0 p0 h1) fun v4 h3 => (if v4 = 0 then (rv_ h3 r0 6 (cl_ (f_X7_of r0 p0 (5 : Int32) h3) fun v6 h5 => (if v6 = (1 : Int32) then (some ((0 : Int32), h5)) else (rv_ h5 r0 6 (cl_ (f_X7_puts r0 p0 (5 : Int32) (1 : Int32) h5) fun _u h7 => rv_ h7 r0 6 (cl_ (f_X7_acquires r0 p0 h7) fun _u h8 => some ((1 : Int32), h8))))))) else (rv_ h3 r0 6 (cl_ (f_X7_refusal r0 p0 h3) fun v10 h9 => some (v10, h9)))))) else (some ((0 : Int32), h1))))
theorem hyS_X7_campaign : yX7_campaign.cls ≠ "java/lang/invoke/MethodHandle" ∧ yX7_campaign.cls ≠ "java/lang/invoke/VarHandle" ∧ (parseMethodDescriptor yX7_campaign.desc).map (fun d => d.parameters.length) = some 1 := by decide +kernel
theorem hyV_X7_campaign : yX7_campaign.cls = RX7 ∧ yX7_campaign.cls ≠ "java/lang/invoke/MethodHandle" ∧ yX7_campaign.cls ≠ "java/lang/invoke/VarHandle" ∧ (parseMethodDescriptor yX7_campaign.desc).map (fun d => d.parameters.length) = some 1 := by decide +kernel
theorem c_X7_campaign {D : va_G} (r0 : Option Nat) (p0 : Int32) {h0 : PH} (l : Launch) (hl : l.stackTraces = false) (x : Int32) (h1 : PH) (hf : f_X7_campaign r0 p0 h0 = some (x, h1)) : CT l D yX7_campaign (ws_ yX7_campaign cX7_campaign 2 (Option.some FieldType.int)) 3 70 [va_rf r0, .int p0] h0 (ovi x) h1 := by
  refine ct_of hl [some (va_rf r0), some (.int p0)] (by decide) (by rw [lgl]; simp [va_rf_cat, cat_i, cat_l]) (by simp [lv_args, vsL, va_rf_cat, cat_i, cat_l]) (fun Γ => ?_)
  obtain ⟨o, ho⟩ : ∃ o : Int32 × PH, o = (x, h1) := ⟨_, rfl⟩
  rw [← ho] at hf
  have e1 : x = o.1 := by rw [ho]
  have e2 : h1 = o.2 := by rw [ho]
  subst e1 e2
  clear ho
  show PF Γ mi_X7_campaign D h0 (QR Γ D h0 (ovi o.1) o.2) h0 0 [some (va_rf r0), some (.int p0)] []
  unfold f_X7_campaign at hf
  refine j_aload_n 0 dX7_campaign_0 rfl rfl ?_
  refine j_iload_n 1 dX7_campaign_1 rfl rfl ?_
  refine kc_X7_172 rfl rfl rfl (by decide) dX7_campaign_2 hf (fun v2 h1 hf => ?_)
  refine j_if_eq 10 dX7_campaign_5 (by decide) hf (fun c_ hf => ?_) (fun c_ hf => ?_)
  · refine j_aload_n 0 dX7_campaign_10 rfl rfl ?_
    refine j_iload_n 1 dX7_campaign_11 rfl rfl ?_
    refine kc_X7_283 rfl rfl rfl (by decide) dX7_campaign_12 hf (fun v4 h3 hf => ?_)
    refine j_if_eq 24 dX7_campaign_15 (by decide) hf (fun c_ hf => ?_) (fun c_ hf => ?_)
    · refine j_aload_n 0 dX7_campaign_24 rfl rfl ?_
      refine j_iload_n 1 dX7_campaign_25 rfl rfl ?_
      refine j_iconst (5 : Int32) dX7_campaign_26 (by decide) ?_
      refine kc_X7_152 rfl rfl rfl (by decide) dX7_campaign_27 hf (fun v6 h5 hf => ?_)
      refine j_iconst (1 : Int32) dX7_campaign_30 (by decide) ?_
      refine j_icmp_ne 36 dX7_campaign_31 (by decide) hf (fun c_ hf => ?_) (fun c_ hf => ?_)
      · refine j_aload_n 0 dX7_campaign_36 rfl rfl ?_
        refine j_iload_n 1 dX7_campaign_37 rfl rfl ?_
        refine j_iconst (5 : Int32) dX7_campaign_38 (by decide) ?_
        refine j_iconst (1 : Int32) dX7_campaign_39 (by decide) ?_
        refine kc_X7_169 rfl rfl rfl (by decide) dX7_campaign_40 hf (fun _u h7 hf => ?_)
        refine j_aload_n 0 dX7_campaign_43 rfl rfl ?_
        refine j_iload_n 1 dX7_campaign_44 rfl rfl ?_
        refine kc_X7_247 rfl rfl rfl (by decide) dX7_campaign_45 hf (fun _u h8 hf => ?_)
        refine j_iconst (1 : Int32) dX7_campaign_48 (by decide) ?_
        have e9 := Option.some.inj hf
        subst e9
        exact j_iret rfl dX7_campaign_49
      · refine j_iconst (0 : Int32) dX7_campaign_34 (by decide) ?_
        have e9 := Option.some.inj hf
        subst e9
        exact j_iret rfl dX7_campaign_35
    · refine j_aload_n 0 dX7_campaign_18 rfl rfl ?_
      refine j_iload_n 1 dX7_campaign_19 rfl rfl ?_
      refine kc_X7_283 rfl rfl rfl (by decide) dX7_campaign_20 hf (fun v10 h9 hf => ?_)
      have e9 := Option.some.inj hf
      subst e9
      exact j_iret rfl dX7_campaign_23
  · refine j_iconst (0 : Int32) dX7_campaign_8 (by decide) ?_
    have e9 := Option.some.inj hf
    subst e9
    exact j_iret rfl dX7_campaign_9
theorem kc_X7_253 {Γ : GX} {I : MI} {D : va_G} {h0 : PH} {Q : State → Prop} {h : PH} {pc : Nat} {vs : List (Option Value)} {rest : List Value} {β : Type} {o : β} {r : Option Nat} {p0 : Int32} {K : ((Int32) → PH → Option β)} (hI : I.2.2.1 = RX7) (hfr : Nat.ble 3 I.2.2.2.2.2.1 = true) (hlo : Nat.ble 64 I.2.2.2.2.2.2.1 = true) (hW : (rest.map fun v => v.category).sum ≤ 8) (hd : decode I.1 pc = .ok (.invokevirtual 253, 3)) (hf : rv_ h r 6 (cl_ (f_X7_leads r p0 h) K) = some o) (kk : ∀ (x : Int32) (h1 : PH), K x h1 = some o → PF Γ I D h0 Q h1 (pc + 3) vs (.int x :: rest)) : PF Γ I D h0 Q h pc vs (.int p0 :: va_rf r :: rest) := by
  obtain ⟨cc, nL, own, rt, xt, fr, lo, nm⟩ := I
  cases hI
  exact j_cVi (n := 1) (y := yX7_leads) (cc2 := cX7_leads) (As := [.int p0]) (C := RX7) (ci := 6) rfl (lw_V q2392 q2394 qs53 q117 q2395) hyV_X7_leads hfr hlo rfl hW hd (c_X7_leads r p0) hf _ rfl kk
abbrev mi_X7_refusalOfLeader : MI := (cX7_refusalOfLeader, 2, RX7, (Option.some FieldType.int), [], 3, 64, "refusalOfLeader")
def f_X7_refusalOfLeader_B29 (t0 : Int32) (h : PH) : Option (Int32 × PH) := some (t0, h)
theorem pf_X7_refusalOfLeader_B29 {Γ : GX} {D : va_G} {h0 : PH} {o : Int32 × PH} (t0 : Int32) (h : PH) (hf : f_X7_refusalOfLeader_B29 t0 h = some o) : PF Γ mi_X7_refusalOfLeader D h0 (QR Γ D h0 (ovi o.1) o.2) h 29 [none, none] [.int t0] := by
  have e9 := Option.some.inj hf
  subst e9
  exact j_iret rfl dX7_refusalOfLeader_29
def f_X7_refusalOfLeader (r0 : Option Nat) (p0 : Int32) (h0 : PH) : Option (Int32 × PH) := rv_ h0 r0 6 (cl_ (f_X7_refusal r0 p0 h0) fun v2 h1 => (if v2 = 0 then (rv_ h1 r0 6 (cl_ (f_X7_leads r0 p0 h1) fun v4 h3 => (if v4 = 0 then (f_X7_refusalOfLeader_B29 (-1 : Int32) h3) else (f_X7_refusalOfLeader_B29 (0 : Int32) h3)))) else (rv_ h1 r0 6 (cl_ (f_X7_refusal r0 p0 h1) fun v6 h5 => f_X7_refusalOfLeader_B29 v6 h5))))
theorem hyS_X7_refusalOfLeader : yX7_refusalOfLeader.cls ≠ "java/lang/invoke/MethodHandle" ∧ yX7_refusalOfLeader.cls ≠ "java/lang/invoke/VarHandle" ∧ (parseMethodDescriptor yX7_refusalOfLeader.desc).map (fun d => d.parameters.length) = some 1 := by decide +kernel
theorem hyV_X7_refusalOfLeader : yX7_refusalOfLeader.cls = RX7 ∧ yX7_refusalOfLeader.cls ≠ "java/lang/invoke/MethodHandle" ∧ yX7_refusalOfLeader.cls ≠ "java/lang/invoke/VarHandle" ∧ (parseMethodDescriptor yX7_refusalOfLeader.desc).map (fun d => d.parameters.length) = some 1 := by decide +kernel
theorem c_X7_refusalOfLeader {D : va_G} (r0 : Option Nat) (p0 : Int32) {h0 : PH} (l : Launch) (hl : l.stackTraces = false) (x : Int32) (h1 : PH) (hf : f_X7_refusalOfLeader r0 p0 h0 = some (x, h1)) : CT l D yX7_refusalOfLeader (ws_ yX7_refusalOfLeader cX7_refusalOfLeader 2 (Option.some FieldType.int)) 3 64 [va_rf r0, .int p0] h0 (ovi x) h1 := by
  refine ct_of hl [some (va_rf r0), some (.int p0)] (by decide) (by rw [lgl]; simp [va_rf_cat, cat_i, cat_l]) (by simp [lv_args, vsL, va_rf_cat, cat_i, cat_l]) (fun Γ => ?_)
  obtain ⟨o, ho⟩ : ∃ o : Int32 × PH, o = (x, h1) := ⟨_, rfl⟩
  rw [← ho] at hf
  have e1 : x = o.1 := by rw [ho]
  have e2 : h1 = o.2 := by rw [ho]
  subst e1 e2
  clear ho
  show PF Γ mi_X7_refusalOfLeader D h0 (QR Γ D h0 (ovi o.1) o.2) h0 0 [some (va_rf r0), some (.int p0)] []
  unfold f_X7_refusalOfLeader at hf
  refine j_aload_n 0 dX7_refusalOfLeader_0 rfl rfl ?_
  refine j_iload_n 1 dX7_refusalOfLeader_1 rfl rfl ?_
  refine kc_X7_283 rfl rfl rfl (by decide) dX7_refusalOfLeader_2 hf (fun v2 h1 hf => ?_)
  refine j_if_eq 16 dX7_refusalOfLeader_5 (by decide) hf (fun c_ hf => ?_) (fun c_ hf => ?_)
  · refine j_aload_n 0 dX7_refusalOfLeader_16 rfl rfl ?_
    refine j_iload_n 1 dX7_refusalOfLeader_17 rfl rfl ?_
    refine kc_X7_253 rfl rfl rfl (by decide) dX7_refusalOfLeader_18 hf (fun v4 h3 hf => ?_)
    refine j_if_eq 28 dX7_refusalOfLeader_21 (by decide) hf (fun c_ hf => ?_) (fun c_ hf => ?_)
    · refine j_iconst (-1 : Int32) dX7_refusalOfLeader_28 (by decide) ?_
      refine j_weak [none, none] (Wk.s (Wk.s Wk.n)) ?_
      exact pf_X7_refusalOfLeader_B29 (-1 : Int32) h3 hf
    · refine j_iconst (0 : Int32) dX7_refusalOfLeader_24 (by decide) ?_
      refine j_goto 29 dX7_refusalOfLeader_25 (by decide) ?_
      refine j_weak [none, none] (Wk.s (Wk.s Wk.n)) ?_
      exact pf_X7_refusalOfLeader_B29 (0 : Int32) h3 hf
  · refine j_aload_n 0 dX7_refusalOfLeader_8 rfl rfl ?_
    refine j_iload_n 1 dX7_refusalOfLeader_9 rfl rfl ?_
    refine kc_X7_283 rfl rfl rfl (by decide) dX7_refusalOfLeader_10 hf (fun v6 h5 hf => ?_)
    refine j_goto 29 dX7_refusalOfLeader_13 (by decide) ?_
    refine j_weak [none, none] (Wk.s (Wk.s Wk.n)) ?_
    exact pf_X7_refusalOfLeader_B29 v6 h5 hf
theorem kc_X7_295 {Γ : GX} {I : MI} {D : va_G} {h0 : PH} {Q : State → Prop} {h : PH} {pc : Nat} {vs : List (Option Value)} {rest : List Value} {β : Type} {o : β} {p0 : Int32} {K : ((Int32) → PH → Option β)} (hI : I.2.2.1 = RX7) (hfr : Nat.ble 2 I.2.2.2.2.2.1 = true) (hlo : Nat.ble 45 I.2.2.2.2.2.2.1 = true) (hW : (rest.map fun v => v.category).sum ≤ 8) (hd : decode I.1 pc = .ok (.invokestatic 295, 3)) (hf : cl_ (f_X7_isValue p0 h) K = some o) (kk : ∀ (x : Int32) (h1 : PH), K x h1 = some o → PF Γ I D h0 Q h1 (pc + 3) vs (.int x :: rest)) : PF Γ I D h0 Q h pc vs (.int p0 :: rest) := by
  obtain ⟨cc, nL, own, rt, xt, fr, lo, nm⟩ := I
  cases hI
  exact j_cSi (n := 1) (y := yX7_isValue) (cc2 := cX7_isValue) (As := [.int p0]) (lw_S q2545 q2546 q117 q2547) hyS_X7_isValue hfr hlo rfl hW hd (c_X7_isValue p0) hf _ rfl kk
theorem kc_X7_298 {Γ : GX} {I : MI} {D : va_G} {h0 : PH} {Q : State → Prop} {h : PH} {pc : Nat} {vs : List (Option Value)} {rest : List Value} {β : Type} {o : β} {r : Option Nat} {p0 : Int32} {K : ((Int32) → PH → Option β)} (hI : I.2.2.1 = RX7) (hfr : Nat.ble 4 I.2.2.2.2.2.1 = true) (hlo : Nat.ble 85 I.2.2.2.2.2.2.1 = true) (hW : (rest.map fun v => v.category).sum ≤ 8) (hd : decode I.1 pc = .ok (.invokevirtual 298, 3)) (hf : rv_ h r 6 (cl_ (f_X7_refusalOfLeader r p0 h) K) = some o) (kk : ∀ (x : Int32) (h1 : PH), K x h1 = some o → PF Γ I D h0 Q h1 (pc + 3) vs (.int x :: rest)) : PF Γ I D h0 Q h pc vs (.int p0 :: va_rf r :: rest) := by
  obtain ⟨cc, nL, own, rt, xt, fr, lo, nm⟩ := I
  cases hI
  exact j_cVi (n := 1) (y := yX7_refusalOfLeader) (cc2 := cX7_refusalOfLeader) (As := [.int p0]) (C := RX7) (ci := 6) rfl (lw_V q2549 q2551 qs78 q117 q2552) hyV_X7_refusalOfLeader hfr hlo rfl hW hd (c_X7_refusalOfLeader r p0) hf _ rfl kk
abbrev mi_X7_writeLater : MI := (cX7_writeLater, 6, RX7, (Option.some FieldType.int), [], 4, 85, "writeLater")
def f_X7_writeLater_B48  (h : PH) : Option (Int32 × PH) := some ((0 : Int32), h)
theorem pf_X7_writeLater_B48 {Γ : GX} {D : va_G} {h0 : PH} {o : Int32 × PH}  (h : PH) (hf : f_X7_writeLater_B48  h = some o) : PF Γ mi_X7_writeLater D h0 (QR Γ D h0 (ovi o.1) o.2) h 48 [none, none, none, none, none, none] [] := by
  refine j_iconst (0 : Int32) dX7_writeLater_48 (by decide) ?_
  have e9 := Option.some.inj hf
  subst e9
  exact j_iret rfl dX7_writeLater_49
def f_X7_writeLater_B41 (x0 : Option Nat) (x1 : Int32) (x2 : Int32) (x3 : Int32) (x4 : Int32) (t0 : Option Nat) (t1 : Int32) (h : PH) : Option (Int32 × PH) := rv_ h t0 6 (cl_ (f_X7_throwsIf t0 t1 (2 : Int32) h) fun v10 h9 => (if v10 = 0 then (rv_ h9 x0 6 (cl_ (f_X7_refusalOfLeader x0 x1 h9) fun v12 h11 => (if v12 = 0 then (gR h11 x0 6 0 fun r13 => aI h11 r13 0 (21 : Int32) fun v14 => (if v14 = (20 : Int32) then (some ((-5 : Int32), h11)) else (gR h11 x0 6 0 fun r15 => aI h11 r15 0 (21 : Int32) fun v16 => gR h11 x0 6 0 fun r17 => gR h11 x0 6 0 fun r18 => aI h11 r18 0 (0 : Int32) fun v19 => sI h11 r17 0 ((236 : Int32) + ((5 : Int32) * v16)) (v19 + x4) fun h20 => gR h20 x0 6 0 fun r21 => sI h20 r21 0 (((236 : Int32) + ((5 : Int32) * v16)) + (1 : Int32)) x1 fun h22 => gR h22 x0 6 0 fun r23 => rv_ h22 x0 6 (cl_ (f_X7_of x0 x1 (7 : Int32) h22) fun v25 h24 => sI h24 r23 0 (((236 : Int32) + ((5 : Int32) * v16)) + (2 : Int32)) v25 fun h26 => gR h26 x0 6 0 fun r27 => sI h26 r27 0 (((236 : Int32) + ((5 : Int32) * v16)) + (3 : Int32)) x2 fun h28 => gR h28 x0 6 0 fun r29 => sI h28 r29 0 (((236 : Int32) + ((5 : Int32) * v16)) + (4 : Int32)) x3 fun h30 => gR h30 x0 6 0 fun r31 => aI h30 r31 0 (21 : Int32) fun v32 => sI h30 r31 0 (21 : Int32) (v32 + (1 : Int32)) fun h33 => rv_ h33 x0 6 (cl_ (f_X7_of x0 x1 (7 : Int32) h33) fun v35 h34 => some (v35, h34)))))) else (rv_ h11 x0 6 (cl_ (f_X7_refusalOfLeader x0 x1 h11) fun v37 h36 => some (v37, h36)))))) else (f_X7_writeLater_B48 h9)))
theorem pf_X7_writeLater_B41 {Γ : GX} {D : va_G} {h0 : PH} {o : Int32 × PH} (x0 : Option Nat) (x1 : Int32) (x2 : Int32) (x3 : Int32) (x4 : Int32) (t0 : Option Nat) (t1 : Int32) (h : PH) (hf : f_X7_writeLater_B41 x0 x1 x2 x3 x4 t0 t1 h = some o) : PF Γ mi_X7_writeLater D h0 (QR Γ D h0 (ovi o.1) o.2) h 41 [some (va_rf x0), some (.int x1), some (.int x2), some (.int x3), some (.int x4), none] [.int t1, va_rf t0] := by
  refine j_iconst (2 : Int32) dX7_writeLater_41 (by decide) ?_
  refine kc_X7_72 rfl rfl rfl (by decide) dX7_writeLater_42 hf (fun v10 h9 hf => ?_)
  refine j_if_eq 50 dX7_writeLater_45 (by decide) hf (fun c_ hf => ?_) (fun c_ hf => ?_)
  · refine j_aload_n 0 dX7_writeLater_50 rfl rfl ?_
    refine j_iload_n 1 dX7_writeLater_51 rfl rfl ?_
    refine kc_X7_298 rfl rfl rfl (by decide) dX7_writeLater_52 hf (fun v12 h11 hf => ?_)
    refine j_if_eq 64 dX7_writeLater_55 (by decide) hf (fun c_ hf => ?_) (fun c_ hf => ?_)
    · refine j_aload_n 0 dX7_writeLater_64 rfl rfl ?_
      refine j_gR (ci := 6) (k := 0) rfl in_X7 rfl q2202 dX7_writeLater_65 hf (fun r13 hf => ?_)
      refine j_bipush (21 : Int32) dX7_writeLater_68 (by decide) ?_
      refine j_iald dX7_writeLater_70 hf (fun v14 hf => ?_)
      refine j_bipush (20 : Int32) dX7_writeLater_71 (by decide) ?_
      refine j_icmp_ne 79 dX7_writeLater_73 (by decide) hf (fun c_ hf => ?_) (fun c_ hf => ?_)
      · refine j_sipush (236 : Int32) dX7_writeLater_79 (by decide) ?_
        refine j_iconst (5 : Int32) dX7_writeLater_82 (by decide) ?_
        refine j_aload_n 0 dX7_writeLater_83 rfl rfl ?_
        refine j_gR (ci := 6) (k := 0) rfl in_X7 rfl q2202 dX7_writeLater_84 hf (fun r15 hf => ?_)
        refine j_bipush (21 : Int32) dX7_writeLater_87 (by decide) ?_
        refine j_iald dX7_writeLater_89 hf (fun v16 hf => ?_)
        refine j_imul dX7_writeLater_90 ?_
        refine j_iadd dX7_writeLater_91 ?_
        refine j_istore [some (va_rf x0), some (.int x1), some (.int x2), some (.int x3), some (.int x4), some (.int ((236 : Int32) + ((5 : Int32) * v16)))] dX7_writeLater_92 (cz rfl) rfl rfl ?_
        refine j_aload_n 0 dX7_writeLater_94 rfl rfl ?_
        refine j_gR (ci := 6) (k := 0) rfl in_X7 rfl q2202 dX7_writeLater_95 hf (fun r17 hf => ?_)
        refine j_iload dX7_writeLater_98 rfl ?_
        refine j_aload_n 0 dX7_writeLater_100 rfl rfl ?_
        refine j_gR (ci := 6) (k := 0) rfl in_X7 rfl q2202 dX7_writeLater_101 hf (fun r18 hf => ?_)
        refine j_iconst (0 : Int32) dX7_writeLater_104 (by decide) ?_
        refine j_iald dX7_writeLater_105 hf (fun v19 hf => ?_)
        refine j_iload dX7_writeLater_106 rfl ?_
        refine j_iadd dX7_writeLater_108 ?_
        refine j_iast dX7_writeLater_109 hf (fun h20 hf => ?_)
        refine j_aload_n 0 dX7_writeLater_110 rfl rfl ?_
        refine j_gR (ci := 6) (k := 0) rfl in_X7 rfl q2202 dX7_writeLater_111 hf (fun r21 hf => ?_)
        refine j_iload dX7_writeLater_114 rfl ?_
        refine j_iconst (1 : Int32) dX7_writeLater_116 (by decide) ?_
        refine j_iadd dX7_writeLater_117 ?_
        refine j_iload_n 1 dX7_writeLater_118 rfl rfl ?_
        refine j_iast dX7_writeLater_119 hf (fun h22 hf => ?_)
        refine j_aload_n 0 dX7_writeLater_120 rfl rfl ?_
        refine j_gR (ci := 6) (k := 0) rfl in_X7 rfl q2202 dX7_writeLater_121 hf (fun r23 hf => ?_)
        refine j_iload dX7_writeLater_124 rfl ?_
        refine j_iconst (2 : Int32) dX7_writeLater_126 (by decide) ?_
        refine j_iadd dX7_writeLater_127 ?_
        refine j_aload_n 0 dX7_writeLater_128 rfl rfl ?_
        refine j_iload_n 1 dX7_writeLater_129 rfl rfl ?_
        refine j_bipush (7 : Int32) dX7_writeLater_130 (by decide) ?_
        refine kc_X7_152 rfl rfl rfl (by simp [va_rf_cat, cat_i, cat_l]) dX7_writeLater_132 hf (fun v25 h24 hf => ?_)
        refine j_iast dX7_writeLater_135 hf (fun h26 hf => ?_)
        refine j_aload_n 0 dX7_writeLater_136 rfl rfl ?_
        refine j_gR (ci := 6) (k := 0) rfl in_X7 rfl q2202 dX7_writeLater_137 hf (fun r27 hf => ?_)
        refine j_iload dX7_writeLater_140 rfl ?_
        refine j_iconst (3 : Int32) dX7_writeLater_142 (by decide) ?_
        refine j_iadd dX7_writeLater_143 ?_
        refine j_iload_n 2 dX7_writeLater_144 rfl rfl ?_
        refine j_iast dX7_writeLater_145 hf (fun h28 hf => ?_)
        refine j_aload_n 0 dX7_writeLater_146 rfl rfl ?_
        refine j_gR (ci := 6) (k := 0) rfl in_X7 rfl q2202 dX7_writeLater_147 hf (fun r29 hf => ?_)
        refine j_iload dX7_writeLater_150 rfl ?_
        refine j_iconst (4 : Int32) dX7_writeLater_152 (by decide) ?_
        refine j_iadd dX7_writeLater_153 ?_
        refine j_iload_n 3 dX7_writeLater_154 rfl rfl ?_
        refine j_iast dX7_writeLater_155 hf (fun h30 hf => ?_)
        refine j_aload_n 0 dX7_writeLater_156 rfl rfl ?_
        refine j_gR (ci := 6) (k := 0) rfl in_X7 rfl q2202 dX7_writeLater_157 hf (fun r31 hf => ?_)
        refine j_bipush (21 : Int32) dX7_writeLater_160 (by decide) ?_
        refine j_dup2 dX7_writeLater_162 rfl (va_rf_cat _) ?_
        refine j_iald dX7_writeLater_163 hf (fun v32 hf => ?_)
        refine j_iconst (1 : Int32) dX7_writeLater_164 (by decide) ?_
        refine j_iadd dX7_writeLater_165 ?_
        refine j_iast dX7_writeLater_166 hf (fun h33 hf => ?_)
        refine j_aload_n 0 dX7_writeLater_167 rfl rfl ?_
        refine j_iload_n 1 dX7_writeLater_168 rfl rfl ?_
        refine j_bipush (7 : Int32) dX7_writeLater_169 (by decide) ?_
        refine kc_X7_152 rfl rfl rfl (by decide) dX7_writeLater_171 hf (fun v35 h34 hf => ?_)
        have e9 := Option.some.inj hf
        subst e9
        exact j_iret rfl dX7_writeLater_174
      · refine j_bipush (-5 : Int32) dX7_writeLater_76 (by decide) ?_
        have e9 := Option.some.inj hf
        subst e9
        exact j_iret rfl dX7_writeLater_78
    · refine j_aload_n 0 dX7_writeLater_58 rfl rfl ?_
      refine j_iload_n 1 dX7_writeLater_59 rfl rfl ?_
      refine kc_X7_298 rfl rfl rfl (by decide) dX7_writeLater_60 hf (fun v37 h36 hf => ?_)
      have e9 := Option.some.inj hf
      subst e9
      exact j_iret rfl dX7_writeLater_63
  · refine j_weak [none, none, none, none, none, none] (Wk.s (Wk.s (Wk.s (Wk.s (Wk.s (Wk.k Wk.n)))))) ?_
    exact pf_X7_writeLater_B48  h9 hf
def f_X7_writeLater_B36 (x0 : Option Nat) (x1 : Int32) (x2 : Int32) (x3 : Int32) (x4 : Int32) (t0 : Option Nat) (h : PH) : Option (Int32 × PH) := f_X7_writeLater_B41 x0 x1 x2 x3 x4 t0 (1 : Int32) h
theorem pf_X7_writeLater_B36 {Γ : GX} {D : va_G} {h0 : PH} {o : Int32 × PH} (x0 : Option Nat) (x1 : Int32) (x2 : Int32) (x3 : Int32) (x4 : Int32) (t0 : Option Nat) (h : PH) (hf : f_X7_writeLater_B36 x0 x1 x2 x3 x4 t0 h = some o) : PF Γ mi_X7_writeLater D h0 (QR Γ D h0 (ovi o.1) o.2) h 36 [some (va_rf x0), some (.int x1), some (.int x2), some (.int x3), some (.int x4), none] [va_rf t0] := by
  refine j_iconst (1 : Int32) dX7_writeLater_36 (by decide) ?_
  refine j_goto 41 dX7_writeLater_37 (by decide) ?_
  exact pf_X7_writeLater_B41 x0 x1 x2 x3 x4 t0 (1 : Int32) h hf
def f_X7_writeLater (r0 : Option Nat) (p0 : Int32) (p1 : Int32) (p2 : Int32) (p3 : Int32) (h0 : PH) : Option (Int32 × PH) := rv_ h0 r0 6 (cl_ (f_X7_noNode r0 p0 h0) fun v2 h1 => (if v2 = 0 then (cl_ (f_X7_isRegister p1 h1) fun v4 h3 => (if v4 = 0 then (f_X7_writeLater_B36 r0 p0 p1 p2 p3 r0 h3) else (cl_ (f_X7_isValue p2 h3) fun v6 h5 => (if v6 = 0 then (f_X7_writeLater_B36 r0 p0 p1 p2 p3 r0 h5) else (cl_ (f_X7_in (p3.toInt64) (1 : Int64) (20000 : Int64) h5) fun v8 h7 => (if v8 = 0 then (f_X7_writeLater_B36 r0 p0 p1 p2 p3 r0 h7) else (f_X7_writeLater_B41 r0 p0 p1 p2 p3 r0 (0 : Int32) h7))))))) else (f_X7_writeLater_B48 h1)))
theorem hyS_X7_writeLater : yX7_writeLater.cls ≠ "java/lang/invoke/MethodHandle" ∧ yX7_writeLater.cls ≠ "java/lang/invoke/VarHandle" ∧ (parseMethodDescriptor yX7_writeLater.desc).map (fun d => d.parameters.length) = some 4 := by decide +kernel
theorem hyV_X7_writeLater : yX7_writeLater.cls = RX7 ∧ yX7_writeLater.cls ≠ "java/lang/invoke/MethodHandle" ∧ yX7_writeLater.cls ≠ "java/lang/invoke/VarHandle" ∧ (parseMethodDescriptor yX7_writeLater.desc).map (fun d => d.parameters.length) = some 4 := by decide +kernel
theorem c_X7_writeLater {D : va_G} (r0 : Option Nat) (p0 : Int32) (p1 : Int32) (p2 : Int32) (p3 : Int32) {h0 : PH} (l : Launch) (hl : l.stackTraces = false) (x : Int32) (h1 : PH) (hf : f_X7_writeLater r0 p0 p1 p2 p3 h0 = some (x, h1)) : CT l D yX7_writeLater (ws_ yX7_writeLater cX7_writeLater 6 (Option.some FieldType.int)) 4 85 [va_rf r0, .int p0, .int p1, .int p2, .int p3] h0 (ovi x) h1 := by
  refine ct_of hl [some (va_rf r0), some (.int p0), some (.int p1), some (.int p2), some (.int p3), none] (by decide) (by rw [lgl]; simp [va_rf_cat, cat_i, cat_l]) (by simp [lv_args, vsL, va_rf_cat, cat_i, cat_l]) (fun Γ => ?_)
  obtain ⟨o, ho⟩ : ∃ o : Int32 × PH, o = (x, h1) := ⟨_, rfl⟩
  rw [← ho] at hf
  have e1 : x = o.1 := by rw [ho]
  have e2 : h1 = o.2 := by rw [ho]
  subst e1 e2
  clear ho
  show PF Γ mi_X7_writeLater D h0 (QR Γ D h0 (ovi o.1) o.2) h0 0 [some (va_rf r0), some (.int p0), some (.int p1), some (.int p2), some (.int p3), none] []
  unfold f_X7_writeLater at hf
  refine j_aload_n 0 dX7_writeLater_0 rfl rfl ?_
  refine j_iload_n 1 dX7_writeLater_1 rfl rfl ?_
  refine kc_X7_172 rfl rfl rfl (by decide) dX7_writeLater_2 hf (fun v2 h1 hf => ?_)
  refine j_if_ne 48 dX7_writeLater_5 (by decide) hf (fun c_ hf => ?_) (fun c_ hf => ?_)
  · refine j_weak [none, none, none, none, none, none] (Wk.s (Wk.s (Wk.s (Wk.s (Wk.s (Wk.k Wk.n)))))) ?_
    exact pf_X7_writeLater_B48  h1 hf
  · refine j_aload_n 0 dX7_writeLater_8 rfl rfl ?_
    refine j_iload_n 2 dX7_writeLater_9 rfl rfl ?_
    refine kc_X7_292 rfl rfl rfl (by simp [va_rf_cat, cat_i, cat_l]) dX7_writeLater_10 hf (fun v4 h3 hf => ?_)
    refine j_if_eq 36 dX7_writeLater_13 (by decide) hf (fun c_ hf => ?_) (fun c_ hf => ?_)
    · exact pf_X7_writeLater_B36 r0 p0 p1 p2 p3 r0 h3 hf
    · refine j_iload_n 3 dX7_writeLater_16 rfl rfl ?_
      refine kc_X7_295 rfl rfl rfl (by simp [va_rf_cat, cat_i, cat_l]) dX7_writeLater_17 hf (fun v6 h5 hf => ?_)
      refine j_if_eq 36 dX7_writeLater_20 (by decide) hf (fun c_ hf => ?_) (fun c_ hf => ?_)
      · exact pf_X7_writeLater_B36 r0 p0 p1 p2 p3 r0 h5 hf
      · refine j_iload dX7_writeLater_23 rfl ?_
        refine j_i2l dX7_writeLater_25 ?_
        refine j_lconst (1 : Int64) dX7_writeLater_26 (by decide) ?_
        refine j_ldc2 q2524 dX7_writeLater_27 ?_
        refine kc_X7_68 rfl rfl rfl (by simp [va_rf_cat, cat_i, cat_l]) dX7_writeLater_30 hf (fun v8 h7 hf => ?_)
        refine j_if_ne 40 dX7_writeLater_33 (by decide) hf (fun c_ hf => ?_) (fun c_ hf => ?_)
        · refine j_iconst (0 : Int32) dX7_writeLater_40 (by decide) ?_
          exact pf_X7_writeLater_B41 r0 p0 p1 p2 p3 r0 (0 : Int32) h7 hf
        · exact pf_X7_writeLater_B36 r0 p0 p1 p2 p3 r0 h7 hf
abbrev mi_X7_fetch : MI := (cX7_fetch, 3, RX7, (Option.some FieldType.int), [], 4, 85, "fetch")
def f_X7_fetch_B28  (h : PH) : Option (Int32 × PH) := some ((0 : Int32), h)
theorem pf_X7_fetch_B28 {Γ : GX} {D : va_G} {h0 : PH} {o : Int32 × PH}  (h : PH) (hf : f_X7_fetch_B28  h = some o) : PF Γ mi_X7_fetch D h0 (QR Γ D h0 (ovi o.1) o.2) h 28 [none, none, none] [] := by
  refine j_iconst (0 : Int32) dX7_fetch_28 (by decide) ?_
  have e9 := Option.some.inj hf
  subst e9
  exact j_iret rfl dX7_fetch_29
def f_X7_fetch_B21 (x0 : Option Nat) (x1 : Int32) (x2 : Int32) (t0 : Option Nat) (t1 : Int32) (h : PH) : Option (Int32 × PH) := rv_ h t0 6 (cl_ (f_X7_throwsIf t0 t1 (2 : Int32) h) fun v6 h5 => (if v6 = 0 then (rv_ h5 x0 6 (cl_ (f_X7_refusalOfLeader x0 x1 h5) fun v8 h7 => (if v8 = 0 then (rv_ h7 x0 6 (cl_ (f_X7_of x0 x1 (7 : Int32) h7) fun v10 h9 => rv_ h9 x0 6 (cl_ (f_X7_sends x0 (4 : Int32) x1 v10 x2 (0 : Int32) h9) fun _u h11 => rv_ h11 x0 6 (cl_ (f_X7_of x0 x1 (7 : Int32) h11) fun v13 h12 => some (v13, h12))))) else (rv_ h7 x0 6 (cl_ (f_X7_refusalOfLeader x0 x1 h7) fun v15 h14 => some (v15, h14)))))) else (f_X7_fetch_B28 h5)))
theorem pf_X7_fetch_B21 {Γ : GX} {D : va_G} {h0 : PH} {o : Int32 × PH} (x0 : Option Nat) (x1 : Int32) (x2 : Int32) (t0 : Option Nat) (t1 : Int32) (h : PH) (hf : f_X7_fetch_B21 x0 x1 x2 t0 t1 h = some o) : PF Γ mi_X7_fetch D h0 (QR Γ D h0 (ovi o.1) o.2) h 21 [some (va_rf x0), some (.int x1), some (.int x2)] [.int t1, va_rf t0] := by
  refine j_iconst (2 : Int32) dX7_fetch_21 (by decide) ?_
  refine kc_X7_72 rfl rfl rfl (by decide) dX7_fetch_22 hf (fun v6 h5 hf => ?_)
  refine j_if_eq 30 dX7_fetch_25 (by decide) hf (fun c_ hf => ?_) (fun c_ hf => ?_)
  · refine j_aload_n 0 dX7_fetch_30 rfl rfl ?_
    refine j_iload_n 1 dX7_fetch_31 rfl rfl ?_
    refine kc_X7_298 rfl rfl rfl (by decide) dX7_fetch_32 hf (fun v8 h7 hf => ?_)
    refine j_if_eq 44 dX7_fetch_35 (by decide) hf (fun c_ hf => ?_) (fun c_ hf => ?_)
    · refine j_aload_n 0 dX7_fetch_44 rfl rfl ?_
      refine j_iconst (4 : Int32) dX7_fetch_45 (by decide) ?_
      refine j_iload_n 1 dX7_fetch_46 rfl rfl ?_
      refine j_aload_n 0 dX7_fetch_47 rfl rfl ?_
      refine j_iload_n 1 dX7_fetch_48 rfl rfl ?_
      refine j_bipush (7 : Int32) dX7_fetch_49 (by decide) ?_
      refine kc_X7_152 rfl rfl rfl (by simp [va_rf_cat, cat_i, cat_l]) dX7_fetch_51 hf (fun v10 h9 hf => ?_)
      refine j_iload_n 2 dX7_fetch_54 rfl rfl ?_
      refine j_iconst (0 : Int32) dX7_fetch_55 (by decide) ?_
      refine kc_X7_189 rfl rfl rfl (by decide) dX7_fetch_56 hf (fun _u h11 hf => ?_)
      refine j_aload_n 0 dX7_fetch_59 rfl rfl ?_
      refine j_iload_n 1 dX7_fetch_60 rfl rfl ?_
      refine j_bipush (7 : Int32) dX7_fetch_61 (by decide) ?_
      refine kc_X7_152 rfl rfl rfl (by decide) dX7_fetch_63 hf (fun v13 h12 hf => ?_)
      have e9 := Option.some.inj hf
      subst e9
      exact j_iret rfl dX7_fetch_66
    · refine j_aload_n 0 dX7_fetch_38 rfl rfl ?_
      refine j_iload_n 1 dX7_fetch_39 rfl rfl ?_
      refine kc_X7_298 rfl rfl rfl (by decide) dX7_fetch_40 hf (fun v15 h14 hf => ?_)
      have e9 := Option.some.inj hf
      subst e9
      exact j_iret rfl dX7_fetch_43
  · refine j_weak [none, none, none] (Wk.s (Wk.s (Wk.s Wk.n))) ?_
    exact pf_X7_fetch_B28  h5 hf
def f_X7_fetch (r0 : Option Nat) (p0 : Int32) (p1 : Int32) (h0 : PH) : Option (Int32 × PH) := rv_ h0 r0 6 (cl_ (f_X7_noNode r0 p0 h0) fun v2 h1 => (if v2 = 0 then (cl_ (f_X7_isRegister p1 h1) fun v4 h3 => (if v4 = 0 then (f_X7_fetch_B21 r0 p0 p1 r0 (1 : Int32) h3) else (f_X7_fetch_B21 r0 p0 p1 r0 (0 : Int32) h3))) else (f_X7_fetch_B28 h1)))
theorem hyS_X7_fetch : yX7_fetch.cls ≠ "java/lang/invoke/MethodHandle" ∧ yX7_fetch.cls ≠ "java/lang/invoke/VarHandle" ∧ (parseMethodDescriptor yX7_fetch.desc).map (fun d => d.parameters.length) = some 2 := by decide +kernel
theorem hyV_X7_fetch : yX7_fetch.cls = RX7 ∧ yX7_fetch.cls ≠ "java/lang/invoke/MethodHandle" ∧ yX7_fetch.cls ≠ "java/lang/invoke/VarHandle" ∧ (parseMethodDescriptor yX7_fetch.desc).map (fun d => d.parameters.length) = some 2 := by decide +kernel
theorem c_X7_fetch {D : va_G} (r0 : Option Nat) (p0 : Int32) (p1 : Int32) {h0 : PH} (l : Launch) (hl : l.stackTraces = false) (x : Int32) (h1 : PH) (hf : f_X7_fetch r0 p0 p1 h0 = some (x, h1)) : CT l D yX7_fetch (ws_ yX7_fetch cX7_fetch 3 (Option.some FieldType.int)) 4 85 [va_rf r0, .int p0, .int p1] h0 (ovi x) h1 := by
  refine ct_of hl [some (va_rf r0), some (.int p0), some (.int p1)] (by decide) (by rw [lgl]; simp [va_rf_cat, cat_i, cat_l]) (by simp [lv_args, vsL, va_rf_cat, cat_i, cat_l]) (fun Γ => ?_)
  obtain ⟨o, ho⟩ : ∃ o : Int32 × PH, o = (x, h1) := ⟨_, rfl⟩
  rw [← ho] at hf
  have e1 : x = o.1 := by rw [ho]
  have e2 : h1 = o.2 := by rw [ho]
  subst e1 e2
  clear ho
  show PF Γ mi_X7_fetch D h0 (QR Γ D h0 (ovi o.1) o.2) h0 0 [some (va_rf r0), some (.int p0), some (.int p1)] []
  unfold f_X7_fetch at hf
  refine j_aload_n 0 dX7_fetch_0 rfl rfl ?_
  refine j_iload_n 1 dX7_fetch_1 rfl rfl ?_
  refine kc_X7_172 rfl rfl rfl (by decide) dX7_fetch_2 hf (fun v2 h1 hf => ?_)
  refine j_if_ne 28 dX7_fetch_5 (by decide) hf (fun c_ hf => ?_) (fun c_ hf => ?_)
  · refine j_weak [none, none, none] (Wk.s (Wk.s (Wk.s Wk.n))) ?_
    exact pf_X7_fetch_B28  h1 hf
  · refine j_aload_n 0 dX7_fetch_8 rfl rfl ?_
    refine j_iload_n 2 dX7_fetch_9 rfl rfl ?_
    refine kc_X7_292 rfl rfl rfl (by simp [va_rf_cat, cat_i, cat_l]) dX7_fetch_10 hf (fun v4 h3 hf => ?_)
    refine j_if_ne 20 dX7_fetch_13 (by decide) hf (fun c_ hf => ?_) (fun c_ hf => ?_)
    · refine j_iconst (0 : Int32) dX7_fetch_20 (by decide) ?_
      exact pf_X7_fetch_B21 r0 p0 p1 r0 (0 : Int32) h3 hf
    · refine j_iconst (1 : Int32) dX7_fetch_16 (by decide) ?_
      refine j_goto 21 dX7_fetch_17 (by decide) ?_
      exact pf_X7_fetch_B21 r0 p0 p1 r0 (1 : Int32) h3 hf
