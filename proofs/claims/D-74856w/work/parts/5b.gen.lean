/-! printed by gen.py: X2_leaders X2_arrival X2_isStale X2_copy X2_lastEnd X8_init X8_here X1_plain X1_in X1_loadError X1_now X1_nodeCount X1_serverClock X1_restartServer X1_storageToken X1_holder X1_greatestToken X1_serverExpiryTime X1_graceLeft X1_leaders X1_messagesOnWay X1_delayedWrites X1_messagesLost X1_logSize X1_splitTime X1_reads X1_staleReads X1_smallestBound -/
set_option maxRecDepth 100000
theorem kc_X2_424 {Γ : GX} {I : MI} {D : va_G} {h0 : PH} {Q : State → Prop} {h : PH} {pc : Nat} {vs : List (Option Value)} {rest : List Value} {β : Type} {o : β} {r : Option Nat} {p0 : Int32} {K : ((Int32) → PH → Option β)} (hI : I.2.2.1 = RX2) (hfr : Nat.ble 4 I.2.2.2.2.2.1 = true) (hlo : Nat.ble 88 I.2.2.2.2.2.2.1 = true) (hW : (rest.map fun v => v.category).sum ≤ 8) (hd : decode I.1 pc = .ok (.invokevirtual 424, 3)) (hf : rv_ h r 5 (cl_ (f_X6_leads r p0 h) K) = some o) (kk : ∀ (x : Int32) (h1 : PH), K x h1 = some o → PF Γ I D h0 Q h1 (pc + 3) vs (.int x :: rest)) : PF Γ I D h0 Q h pc vs (.int p0 :: va_rf r :: rest) := by
  obtain ⟨cc, nL, own, rt, xt, fr, lo, nm⟩ := I
  cases hI
  exact j_cVi (n := 1) (y := yX6_leads) (cc2 := cX6_leads) (As := [.int p0]) (C := RX6) (ci := 5) rfl (lw_V q1624 q1625 q1626 q115 q1627) hyV_X6_leads hfr hlo rfl hW hd (c_X6_leads r p0) hf _ rfl kk
abbrev mi_X2_leaders : MI := (cX2_leaders, 3, RX2, (Option.some FieldType.int), [], 4, 88, "leaders")
def f_X2_leaders_B37 (k4 : Option Nat → Int32 → Int32 → PH → Option (Int32 × PH)) (x0 : Option Nat) (x2 : Int32) (t0 : Int32) (t1 : Int32) (h : PH) : Option (Int32 × PH) := k4 x0 (t0 ||| t1) (x2 + (1 : Int32)) h
theorem pf_X2_leaders_B37 {Γ : GX} {D : va_G} {h0 : PH} {o : Int32 × PH} (k4 : Option Nat → Int32 → Int32 → PH → Option (Int32 × PH)) (hk4 : ∀ (x0 : Option Nat) (x1 : Int32) (x2 : Int32) (h : PH), k4 x0 x1 x2 h = some o → PF Γ mi_X2_leaders D h0 (QR Γ D h0 (ovi o.1) o.2) h 4 [some (va_rf x0), some (.int x1), some (.int x2)] []) (x0 : Option Nat) (x2 : Int32) (t0 : Int32) (t1 : Int32) (h : PH) (hf : f_X2_leaders_B37 k4 x0 x2 t0 t1 h = some o) : PF Γ mi_X2_leaders D h0 (QR Γ D h0 (ovi o.1) o.2) h 37 [some (va_rf x0), none, some (.int x2)] [.int t1, .int t0] := by
  refine j_ior dX2_leaders_37 ?_
  refine j_istore_n 1 [some (va_rf x0), some (.int (t0 ||| t1)), some (.int x2)] dX2_leaders_38 rfl (cz (va_rf_cat _)) rfl rfl ?_
  refine j_iinc (x2 + (1 : Int32)) [some (va_rf x0), some (.int (t0 ||| t1)), some (.int (x2 + (1 : Int32)))] dX2_leaders_39 rfl rfl (cz rfl) rfl rfl ?_
  refine j_goto 4 dX2_leaders_42 (by decide) ?_
  exact hk4 x0 (t0 ||| t1) (x2 + (1 : Int32)) h hf
def f_X2_leaders_L4 : Nat → Option Nat → Int32 → Int32 → PH → Option (Int32 × PH)
  | 0, _, _, _, _ => none
  | n + 1, x0, x1, x2, h => gR h x0 1 1 fun r1 => aN h r1 5 fun v2 => (if v2 ≤ x2 then (some (x1, h)) else (gR h x0 1 1 fun r3 => aQ h r3 5 x2 fun r4 => gI h x0 1 8 fun v5 => rv_ h r4 5 (cl_ (f_X6_leads r4 v5 h) fun v7 h6 => (if v7 = 0 then (f_X2_leaders_B37 (f_X2_leaders_L4 n) x0 x2 x1 (0 : Int32) h6) else (f_X2_leaders_B37 (f_X2_leaders_L4 n) x0 x2 x1 ((1 : Int32) <<< (x2 &&& 31)) h6)))))
theorem pf_X2_leaders_L4 {Γ : GX} {D : va_G} {h0 : PH} {o : Int32 × PH} : ∀ (n : Nat) (x0 : Option Nat) (x1 : Int32) (x2 : Int32) (h : PH), f_X2_leaders_L4 n x0 x1 x2 h = some o → PF Γ mi_X2_leaders D h0 (QR Γ D h0 (ovi o.1) o.2) h 4 [some (va_rf x0), some (.int x1), some (.int x2)] [] := by
  intro n
  induction n with
  | zero => intro x0 x1 x2 h hf; cases hf
  | succ n ih =>
    intro x0 x1 x2 h hf
    refine j_iload_n 2 dX2_leaders_4 rfl rfl ?_
    refine j_aload_n 0 dX2_leaders_5 rfl rfl ?_
    refine j_gR (ci := 1) (k := 1) rfl in_X2 rfl q788 dX2_leaders_6 hf (fun r1 hf => ?_)
    refine j_alen (t := 5) rfl dX2_leaders_9 hf (fun v2 hf => ?_)
    refine j_icmp_ge 45 dX2_leaders_10 (by decide) hf (fun c_ hf => ?_) (fun c_ hf => ?_)
    · refine j_iload_n 1 dX2_leaders_45 rfl rfl ?_
      have e9 := Option.some.inj hf
      subst e9
      exact j_iret rfl dX2_leaders_46
    · refine j_iload_n 1 dX2_leaders_13 rfl rfl ?_
      refine j_aload_n 0 dX2_leaders_14 rfl rfl ?_
      refine j_gR (ci := 1) (k := 1) rfl in_X2 rfl q788 dX2_leaders_15 hf (fun r3 hf => ?_)
      refine j_iload_n 2 dX2_leaders_18 rfl rfl ?_
      refine j_aald (t := 5) rfl dX2_leaders_19 hf (fun r4 hf => ?_)
      refine j_aload_n 0 dX2_leaders_20 rfl rfl ?_
      refine j_gI (ci := 1) (k := 8) rfl in_X2 rfl q802 dX2_leaders_21 hf (fun v5 hf => ?_)
      refine kc_X2_424 rfl rfl rfl (by simp [va_rf_cat, cat_i, cat_l]) dX2_leaders_24 hf (fun v7 h6 hf => ?_)
      refine j_if_eq 36 dX2_leaders_27 (by decide) hf (fun c_ hf => ?_) (fun c_ hf => ?_)
      · refine j_iconst (0 : Int32) dX2_leaders_36 (by decide) ?_
        refine j_weak [some (va_rf x0), none, some (.int x2)] (Wk.k (Wk.s (Wk.k Wk.n))) ?_
        exact pf_X2_leaders_B37 (f_X2_leaders_L4 n) ih x0 x2 x1 (0 : Int32) h6 hf
      · refine j_iconst (1 : Int32) dX2_leaders_30 (by decide) ?_
        refine j_iload_n 2 dX2_leaders_31 rfl rfl ?_
        refine j_ishl dX2_leaders_32 ?_
        refine j_goto 37 dX2_leaders_33 (by decide) ?_
        refine j_weak [some (va_rf x0), none, some (.int x2)] (Wk.k (Wk.s (Wk.k Wk.n))) ?_
        exact pf_X2_leaders_B37 (f_X2_leaders_L4 n) ih x0 x2 x1 ((1 : Int32) <<< (x2 &&& 31)) h6 hf
def f_X2_leaders (r0 : Option Nat) (h0 : PH) : Option (Int32 × PH) := f_X2_leaders_L4 FU r0 (0 : Int32) (0 : Int32) h0
theorem hyS_X2_leaders : yX2_leaders.cls ≠ "java/lang/invoke/MethodHandle" ∧ yX2_leaders.cls ≠ "java/lang/invoke/VarHandle" ∧ (parseMethodDescriptor yX2_leaders.desc).map (fun d => d.parameters.length) = some 0 := by decide +kernel
theorem hyV_X2_leaders : yX2_leaders.cls = RX2 ∧ yX2_leaders.cls ≠ "java/lang/invoke/MethodHandle" ∧ yX2_leaders.cls ≠ "java/lang/invoke/VarHandle" ∧ (parseMethodDescriptor yX2_leaders.desc).map (fun d => d.parameters.length) = some 0 := by decide +kernel
theorem c_X2_leaders {D : va_G} (r0 : Option Nat) {h0 : PH} (l : Launch) (hl : l.stackTraces = false) (x : Int32) (h1 : PH) (hf : f_X2_leaders r0 h0 = some (x, h1)) : CT l D yX2_leaders (ws_ yX2_leaders cX2_leaders 3 (Option.some FieldType.int)) 4 88 [va_rf r0] h0 (ovi x) h1 := by
  refine ct_of hl [some (va_rf r0), none, none] (by decide) (by rw [lgl]; simp [va_rf_cat, cat_i, cat_l]) (by simp [lv_args, vsL, va_rf_cat, cat_i, cat_l]) (fun Γ => ?_)
  obtain ⟨o, ho⟩ : ∃ o : Int32 × PH, o = (x, h1) := ⟨_, rfl⟩
  rw [← ho] at hf
  have e1 : x = o.1 := by rw [ho]
  have e2 : h1 = o.2 := by rw [ho]
  subst e1 e2
  clear ho
  show PF Γ mi_X2_leaders D h0 (QR Γ D h0 (ovi o.1) o.2) h0 0 [some (va_rf r0), none, none] []
  unfold f_X2_leaders at hf
  refine j_iconst (0 : Int32) dX2_leaders_0 (by decide) ?_
  refine j_istore_n 1 [some (va_rf r0), some (.int (0 : Int32)), none] dX2_leaders_1 rfl (cz (va_rf_cat _)) rfl rfl ?_
  refine j_iconst (0 : Int32) dX2_leaders_2 (by decide) ?_
  refine j_istore_n 2 [some (va_rf r0), some (.int (0 : Int32)), some (.int (0 : Int32))] dX2_leaders_3 rfl (cz rfl) rfl rfl ?_
  exact pf_X2_leaders_L4 FU r0 (0 : Int32) (0 : Int32) h0 hf
theorem kc_X2_219 {Γ : GX} {I : MI} {D : va_G} {h0 : PH} {Q : State → Prop} {h : PH} {pc : Nat} {vs : List (Option Value)} {rest : List Value} {β : Type} {o : β} {r : Option Nat}  {K : ((Int32) → PH → Option β)} (hI : I.2.2.1 = RX2) (hfr : Nat.ble 2 I.2.2.2.2.2.1 = true) (hlo : Nat.ble 40 I.2.2.2.2.2.2.1 = true) (hW : (rest.map fun v => v.category).sum ≤ 8) (hd : decode I.1 pc = .ok (.invokevirtual 219, 3)) (hf : rv_ h r 25 (cl_ (f_X15_isToNode r h) K) = some o) (kk : ∀ (x : Int32) (h1 : PH), K x h1 = some o → PF Γ I D h0 Q h1 (pc + 3) vs (.int x :: rest)) : PF Γ I D h0 Q h pc vs (va_rf r :: rest) := by
  obtain ⟨cc, nL, own, rt, xt, fr, lo, nm⟩ := I
  cases hI
  exact j_cKi (n := 0) (y := yX15_isToNode) (cc2 := cX15_isToNode) (As := []) (C := RX15) (ci := 25) rfl (lw_V q1347 q1348 q1349 q126 q1350) hyV_X15_isToNode hfr hlo rfl hW hd (c_X15_isToNode r) hf _ rfl kk
theorem kc_X2_230 {Γ : GX} {I : MI} {D : va_G} {h0 : PH} {Q : State → Prop} {h : PH} {pc : Nat} {vs : List (Option Value)} {rest : List Value} {β : Type} {o : β} {r : Option Nat} {p0 : Int32} {K : ((Int32) → PH → Option β)} (hI : I.2.2.1 = RX2) (hfr : Nat.ble 1 I.2.2.2.2.2.1 = true) (hlo : Nat.ble 21 I.2.2.2.2.2.2.1 = true) (hW : (rest.map fun v => v.category).sum ≤ 8) (hd : decode I.1 pc = .ok (.invokevirtual 230, 3)) (hf : rv_ h r 5 (cl_ (f_X6_isPaused r p0 h) K) = some o) (kk : ∀ (x : Int32) (h1 : PH), K x h1 = some o → PF Γ I D h0 Q h1 (pc + 3) vs (.int x :: rest)) : PF Γ I D h0 Q h pc vs (.int p0 :: va_rf r :: rest) := by
  obtain ⟨cc, nL, own, rt, xt, fr, lo, nm⟩ := I
  cases hI
  exact j_cVi (n := 1) (y := yX6_isPaused) (cc2 := cX6_isPaused) (As := [.int p0]) (C := RX6) (ci := 5) rfl (lw_V q1280 q1281 q1282 q115 q1283) hyV_X6_isPaused hfr hlo rfl hW hd (c_X6_isPaused r p0) hf _ rfl kk
abbrev mi_X2_arrival : MI := (cX2_arrival, 3, RX2, (Option.some FieldType.int), [], 2, 40, "arrival")
def f_X2_arrival_B49 (t0 : Int32) (h : PH) : Option (Int32 × PH) := some (t0, h)
theorem pf_X2_arrival_B49 {Γ : GX} {D : va_G} {h0 : PH} {o : Int32 × PH} (t0 : Int32) (h : PH) (hf : f_X2_arrival_B49 t0 h = some o) : PF Γ mi_X2_arrival D h0 (QR Γ D h0 (ovi o.1) o.2) h 49 [none, none, none] [.int t0] := by
  have e9 := Option.some.inj hf
  subst e9
  exact j_iret rfl dX2_arrival_49
def f_X2_arrival_B45 (x1 : Option Nat) (h : PH) : Option (Int32 × PH) := gIN h x1 13 6 fun v12 => f_X2_arrival_B49 v12 h
theorem pf_X2_arrival_B45 {Γ : GX} {D : va_G} {h0 : PH} {o : Int32 × PH} (x1 : Option Nat) (h : PH) (hf : f_X2_arrival_B45 x1 h = some o) : PF Γ mi_X2_arrival D h0 (QR Γ D h0 (ovi o.1) o.2) h 45 [none, some (va_rf x1), none] [] := by
  refine j_aload_n 1 dX2_arrival_45 rfl rfl ?_
  refine j_gIN (ci := 13) (k := 6) rfl in_X16 rfl q1390 dX2_arrival_46 hf (fun v12 hf => ?_)
  refine j_weak [none, none, none] (Wk.k (Wk.s (Wk.k Wk.n))) ?_
  exact pf_X2_arrival_B49 v12 h hf
def f_X2_arrival (r0 : Option Nat) (p0 : Option Nat) (h0 : PH) : Option (Int32 × PH) := gR h0 r0 1 1 fun r1 => gIN h0 p0 13 1 fun v2 => aQ h0 r1 5 v2 fun r3 => gRN h0 p0 13 0 fun r4 => rv_ h0 r4 25 (cl_ (f_X15_isToNode r4 h0) fun v6 h5 => (if v6 = 0 then (f_X2_arrival_B45 p0 h5) else (gI h5 r0 1 8 fun v7 => rv_ h5 r3 5 (cl_ (f_X6_isPaused r3 v7 h5) fun v9 h8 => (if v9 = 0 then (f_X2_arrival_B45 p0 h8) else (gIN h8 p0 13 6 fun v10 => gIN h8 r3 5 5 fun v11 => f_X2_arrival_B49 (if v10 < v11 then v11 else v10) h8))))))
theorem hyS_X2_arrival : yX2_arrival.cls ≠ "java/lang/invoke/MethodHandle" ∧ yX2_arrival.cls ≠ "java/lang/invoke/VarHandle" ∧ (parseMethodDescriptor yX2_arrival.desc).map (fun d => d.parameters.length) = some 1 := by decide +kernel
theorem hyV_X2_arrival : yX2_arrival.cls = RX2 ∧ yX2_arrival.cls ≠ "java/lang/invoke/MethodHandle" ∧ yX2_arrival.cls ≠ "java/lang/invoke/VarHandle" ∧ (parseMethodDescriptor yX2_arrival.desc).map (fun d => d.parameters.length) = some 1 := by decide +kernel
theorem c_X2_arrival {D : va_G} (r0 : Option Nat) (p0 : Option Nat) {h0 : PH} (l : Launch) (hl : l.stackTraces = false) (x : Int32) (h1 : PH) (hf : f_X2_arrival r0 p0 h0 = some (x, h1)) : CT l D yX2_arrival (ws_ yX2_arrival cX2_arrival 3 (Option.some FieldType.int)) 2 40 [va_rf r0, va_rf p0] h0 (ovi x) h1 := by
  refine ct_of hl [some (va_rf r0), some (va_rf p0), none] (by decide) (by rw [lgl]; simp [va_rf_cat, cat_i, cat_l]) (by simp [lv_args, vsL, va_rf_cat, cat_i, cat_l]) (fun Γ => ?_)
  obtain ⟨o, ho⟩ : ∃ o : Int32 × PH, o = (x, h1) := ⟨_, rfl⟩
  rw [← ho] at hf
  have e1 : x = o.1 := by rw [ho]
  have e2 : h1 = o.2 := by rw [ho]
  subst e1 e2
  clear ho
  show PF Γ mi_X2_arrival D h0 (QR Γ D h0 (ovi o.1) o.2) h0 0 [some (va_rf r0), some (va_rf p0), none] []
  unfold f_X2_arrival at hf
  refine j_aload_n 0 dX2_arrival_0 rfl rfl ?_
  refine j_gR (ci := 1) (k := 1) rfl in_X2 rfl q788 dX2_arrival_1 hf (fun r1 hf => ?_)
  refine j_aload_n 1 dX2_arrival_4 rfl rfl ?_
  refine j_gIN (ci := 13) (k := 1) rfl in_X16 rfl q1380 dX2_arrival_5 hf (fun v2 hf => ?_)
  refine j_aald (t := 5) rfl dX2_arrival_8 hf (fun r3 hf => ?_)
  refine j_astore_n 2 [some (va_rf r0), some (va_rf p0), some (va_rf r3)] dX2_arrival_9 rfl (cz (va_rf_cat _)) rfl rfl ?_
  refine j_aload_n 1 dX2_arrival_10 rfl rfl ?_
  refine j_gRN (ci := 13) (k := 0) rfl in_X16 rfl q1378 dX2_arrival_11 hf (fun r4 hf => ?_)
  refine kc_X2_219 rfl rfl rfl (by decide) dX2_arrival_14 hf (fun v6 h5 hf => ?_)
  refine j_if_eq 45 dX2_arrival_17 (by decide) hf (fun c_ hf => ?_) (fun c_ hf => ?_)
  · refine j_weak [none, some (va_rf p0), none] (Wk.s (Wk.k (Wk.s Wk.n))) ?_
    exact pf_X2_arrival_B45 p0 h5 hf
  · refine j_aload_n 2 dX2_arrival_20 rfl rfl ?_
    refine j_aload_n 0 dX2_arrival_21 rfl rfl ?_
    refine j_gI (ci := 1) (k := 8) rfl in_X2 rfl q802 dX2_arrival_22 hf (fun v7 hf => ?_)
    refine kc_X2_230 rfl rfl rfl (by decide) dX2_arrival_25 hf (fun v9 h8 hf => ?_)
    refine j_if_eq 45 dX2_arrival_28 (by decide) hf (fun c_ hf => ?_) (fun c_ hf => ?_)
    · refine j_weak [none, some (va_rf p0), none] (Wk.s (Wk.k (Wk.s Wk.n))) ?_
      exact pf_X2_arrival_B45 p0 h8 hf
    · refine j_aload_n 1 dX2_arrival_31 rfl rfl ?_
      refine j_gIN (ci := 13) (k := 6) rfl in_X16 rfl q1390 dX2_arrival_32 hf (fun v10 hf => ?_)
      refine j_aload_n 2 dX2_arrival_35 rfl rfl ?_
      refine j_gIN (ci := 5) (k := 5) rfl in_X6 rfl q736 dX2_arrival_36 hf (fun v11 hf => ?_)
      refine j_mmax q1311 q288 q106 q289 rfl rfl (by decide) dX2_arrival_39 ?_
      refine j_goto 49 dX2_arrival_42 (by decide) ?_
      refine j_weak [none, none, none] (Wk.s (Wk.s (Wk.s Wk.n))) ?_
      exact pf_X2_arrival_B49 (if v10 < v11 then v11 else v10) h8 hf
abbrev mi_X2_isStale : MI := (cX2_isStale, 4, RX2, (Option.some FieldType.boolean), [], 4, 88, "isStale")
def f_X2_isStale_B76 (t0 : Int32) (h : PH) : Option (Int32 × PH) := rN .boolean t0 (fun v => v) h
theorem pf_X2_isStale_B76 {Γ : GX} {D : va_G} {h0 : PH} {o : Int32 × PH} (t0 : Int32) (h : PH) (hf : f_X2_isStale_B76 t0 h = some o) : PF Γ mi_X2_isStale D h0 (QR Γ D h0 (ovi o.1) o.2) h 76 [none, none, none, none] [.int t0] := by
  obtain ⟨hn9, hf⟩ := rN_in hf
  subst hf
  exact j_zret rfl (nar_z _ hn9) dX2_isStale_76
def f_X2_isStale_B75  (h : PH) : Option (Int32 × PH) := f_X2_isStale_B76 (0 : Int32) h
theorem pf_X2_isStale_B75 {Γ : GX} {D : va_G} {h0 : PH} {o : Int32 × PH}  (h : PH) (hf : f_X2_isStale_B75  h = some o) : PF Γ mi_X2_isStale D h0 (QR Γ D h0 (ovi o.1) o.2) h 75 [none, none, none, none] [] := by
  refine j_iconst (0 : Int32) dX2_isStale_75 (by decide) ?_
  exact pf_X2_isStale_B76 (0 : Int32) h hf
def f_X2_isStale_B49 (k4 : Option Nat → Option Nat → Int32 → Int32 → PH → Option (Int32 × PH)) (x0 : Option Nat) (x1 : Option Nat) (x3 : Int32) (t0 : Int32) (h : PH) : Option (Int32 × PH) := k4 x0 x1 t0 (x3 + (1 : Int32)) h
theorem pf_X2_isStale_B49 {Γ : GX} {D : va_G} {h0 : PH} {o : Int32 × PH} (k4 : Option Nat → Option Nat → Int32 → Int32 → PH → Option (Int32 × PH)) (hk4 : ∀ (x0 : Option Nat) (x1 : Option Nat) (x2 : Int32) (x3 : Int32) (h : PH), k4 x0 x1 x2 x3 h = some o → PF Γ mi_X2_isStale D h0 (QR Γ D h0 (ovi o.1) o.2) h 4 [some (va_rf x0), some (va_rf x1), some (.int x2), some (.int x3)] []) (x0 : Option Nat) (x1 : Option Nat) (x3 : Int32) (t0 : Int32) (h : PH) (hf : f_X2_isStale_B49 k4 x0 x1 x3 t0 h = some o) : PF Γ mi_X2_isStale D h0 (QR Γ D h0 (ovi o.1) o.2) h 49 [some (va_rf x0), some (va_rf x1), none, some (.int x3)] [.int t0] := by
  refine j_istore_n 2 [some (va_rf x0), some (va_rf x1), some (.int t0), some (.int x3)] dX2_isStale_49 rfl (cz (va_rf_cat _)) rfl rfl ?_
  refine j_iinc (x3 + (1 : Int32)) [some (va_rf x0), some (va_rf x1), some (.int t0), some (.int (x3 + (1 : Int32)))] dX2_isStale_50 rfl rfl (cz rfl) rfl rfl ?_
  refine j_goto 4 dX2_isStale_53 (by decide) ?_
  exact hk4 x0 x1 t0 (x3 + (1 : Int32)) h hf
def f_X2_isStale_B44 (k4 : Option Nat → Option Nat → Int32 → Int32 → PH → Option (Int32 × PH)) (x0 : Option Nat) (x1 : Option Nat) (x3 : Int32) (h : PH) : Option (Int32 × PH) := f_X2_isStale_B49 k4 x0 x1 x3 (1 : Int32) h
theorem pf_X2_isStale_B44 {Γ : GX} {D : va_G} {h0 : PH} {o : Int32 × PH} (k4 : Option Nat → Option Nat → Int32 → Int32 → PH → Option (Int32 × PH)) (hk4 : ∀ (x0 : Option Nat) (x1 : Option Nat) (x2 : Int32) (x3 : Int32) (h : PH), k4 x0 x1 x2 x3 h = some o → PF Γ mi_X2_isStale D h0 (QR Γ D h0 (ovi o.1) o.2) h 4 [some (va_rf x0), some (va_rf x1), some (.int x2), some (.int x3)] []) (x0 : Option Nat) (x1 : Option Nat) (x3 : Int32) (h : PH) (hf : f_X2_isStale_B44 k4 x0 x1 x3 h = some o) : PF Γ mi_X2_isStale D h0 (QR Γ D h0 (ovi o.1) o.2) h 44 [some (va_rf x0), some (va_rf x1), none, some (.int x3)] [] := by
  refine j_iconst (1 : Int32) dX2_isStale_44 (by decide) ?_
  refine j_goto 49 dX2_isStale_45 (by decide) ?_
  exact pf_X2_isStale_B49 k4 hk4 x0 x1 x3 (1 : Int32) h hf
def f_X2_isStale_B48 (k4 : Option Nat → Option Nat → Int32 → Int32 → PH → Option (Int32 × PH)) (x0 : Option Nat) (x1 : Option Nat) (x3 : Int32) (h : PH) : Option (Int32 × PH) := f_X2_isStale_B49 k4 x0 x1 x3 (0 : Int32) h
theorem pf_X2_isStale_B48 {Γ : GX} {D : va_G} {h0 : PH} {o : Int32 × PH} (k4 : Option Nat → Option Nat → Int32 → Int32 → PH → Option (Int32 × PH)) (hk4 : ∀ (x0 : Option Nat) (x1 : Option Nat) (x2 : Int32) (x3 : Int32) (h : PH), k4 x0 x1 x2 x3 h = some o → PF Γ mi_X2_isStale D h0 (QR Γ D h0 (ovi o.1) o.2) h 4 [some (va_rf x0), some (va_rf x1), some (.int x2), some (.int x3)] []) (x0 : Option Nat) (x1 : Option Nat) (x3 : Int32) (h : PH) (hf : f_X2_isStale_B48 k4 x0 x1 x3 h = some o) : PF Γ mi_X2_isStale D h0 (QR Γ D h0 (ovi o.1) o.2) h 48 [some (va_rf x0), some (va_rf x1), none, some (.int x3)] [] := by
  refine j_iconst (0 : Int32) dX2_isStale_48 (by decide) ?_
  exact pf_X2_isStale_B49 k4 hk4 x0 x1 x3 (0 : Int32) h hf
def f_X2_isStale_L4 : Nat → Option Nat → Option Nat → Int32 → Int32 → PH → Option (Int32 × PH)
  | 0, _, _, _, _, _ => none
  | n + 1, x0, x1, x2, x3, h => (if (8 : Int32) ≤ x3 then ((if x2 = 0 then (f_X2_isStale_B75  h) else (gI h x0 1 8 fun v1 => rv_ h x1 5 (cl_ (f_X6_leads x1 v1 h) fun v3 h2 => (if v3 = 0 then (f_X2_isStale_B75  h2) else (f_X2_isStale_B76 (1 : Int32) h2)))))) else ((if x2 = 0 then (gIN h x1 5 9 fun v4 => (if ((v4 >>> (x3 &&& 31)) &&& (1 : Int32)) = (1 : Int32) then (gRN h x1 5 12 fun r5 => aI h r5 0 x3 fun v6 => gR h x0 1 6 fun r7 => gRN h r7 4 0 fun r8 => aI h r8 0 x3 fun v9 => (if v6 = v9 then (f_X2_isStale_B48 (f_X2_isStale_L4 n) x0 x1 x3 h) else (f_X2_isStale_B44 (f_X2_isStale_L4 n) x0 x1 x3 h))) else (f_X2_isStale_B48 (f_X2_isStale_L4 n) x0 x1 x3 h))) else (f_X2_isStale_B44 (f_X2_isStale_L4 n) x0 x1 x3 h))))
theorem pf_X2_isStale_L4 {Γ : GX} {D : va_G} {h0 : PH} {o : Int32 × PH} : ∀ (n : Nat) (x0 : Option Nat) (x1 : Option Nat) (x2 : Int32) (x3 : Int32) (h : PH), f_X2_isStale_L4 n x0 x1 x2 x3 h = some o → PF Γ mi_X2_isStale D h0 (QR Γ D h0 (ovi o.1) o.2) h 4 [some (va_rf x0), some (va_rf x1), some (.int x2), some (.int x3)] [] := by
  intro n
  induction n with
  | zero => intro x0 x1 x2 x3 h hf; cases hf
  | succ n ih =>
    intro x0 x1 x2 x3 h hf
    refine j_iload_n 3 dX2_isStale_4 rfl rfl ?_
    refine j_bipush (8 : Int32) dX2_isStale_5 (by decide) ?_
    refine j_icmp_ge 56 dX2_isStale_7 (by decide) hf (fun c_ hf => ?_) (fun c_ hf => ?_)
    · refine j_iload_n 2 dX2_isStale_56 rfl rfl ?_
      refine j_if_eq 75 dX2_isStale_57 (by decide) hf (fun c_ hf => ?_) (fun c_ hf => ?_)
      · refine j_weak [none, none, none, none] (Wk.s (Wk.s (Wk.s (Wk.s Wk.n)))) ?_
        exact pf_X2_isStale_B75  h hf
      · refine j_aload_n 1 dX2_isStale_60 rfl rfl ?_
        refine j_aload_n 0 dX2_isStale_61 rfl rfl ?_
        refine j_gI (ci := 1) (k := 8) rfl in_X2 rfl q802 dX2_isStale_62 hf (fun v1 hf => ?_)
        refine kc_X2_424 rfl rfl rfl (by decide) dX2_isStale_65 hf (fun v3 h2 hf => ?_)
        refine j_if_eq 75 dX2_isStale_68 (by decide) hf (fun c_ hf => ?_) (fun c_ hf => ?_)
        · refine j_weak [none, none, none, none] (Wk.s (Wk.s (Wk.s (Wk.s Wk.n)))) ?_
          exact pf_X2_isStale_B75  h2 hf
        · refine j_iconst (1 : Int32) dX2_isStale_71 (by decide) ?_
          refine j_goto 76 dX2_isStale_72 (by decide) ?_
          refine j_weak [none, none, none, none] (Wk.s (Wk.s (Wk.s (Wk.s Wk.n)))) ?_
          exact pf_X2_isStale_B76 (1 : Int32) h2 hf
    · refine j_iload_n 2 dX2_isStale_10 rfl rfl ?_
      refine j_if_ne 44 dX2_isStale_11 (by decide) hf (fun c_ hf => ?_) (fun c_ hf => ?_)
      · refine j_weak [some (va_rf x0), some (va_rf x1), none, some (.int x3)] (Wk.k (Wk.k (Wk.s (Wk.k Wk.n)))) ?_
        exact pf_X2_isStale_B44 (f_X2_isStale_L4 n) ih x0 x1 x3 h hf
      · refine j_aload_n 1 dX2_isStale_14 rfl rfl ?_
        refine j_gIN (ci := 5) (k := 9) rfl in_X6 rfl q748 dX2_isStale_15 hf (fun v4 hf => ?_)
        refine j_iload_n 3 dX2_isStale_18 rfl rfl ?_
        refine j_ishr dX2_isStale_19 ?_
        refine j_iconst (1 : Int32) dX2_isStale_20 (by decide) ?_
        refine j_iand dX2_isStale_21 ?_
        refine j_iconst (1 : Int32) dX2_isStale_22 (by decide) ?_
        refine j_icmp_ne 48 dX2_isStale_23 (by decide) hf (fun c_ hf => ?_) (fun c_ hf => ?_)
        · refine j_weak [some (va_rf x0), some (va_rf x1), none, some (.int x3)] (Wk.k (Wk.k (Wk.s (Wk.k Wk.n)))) ?_
          exact pf_X2_isStale_B48 (f_X2_isStale_L4 n) ih x0 x1 x3 h hf
        · refine j_aload_n 1 dX2_isStale_26 rfl rfl ?_
          refine j_gRN (ci := 5) (k := 12) rfl in_X6 rfl q758 dX2_isStale_27 hf (fun r5 hf => ?_)
          refine j_iload_n 3 dX2_isStale_30 rfl rfl ?_
          refine j_iald dX2_isStale_31 hf (fun v6 hf => ?_)
          refine j_aload_n 0 dX2_isStale_32 rfl rfl ?_
          refine j_gR (ci := 1) (k := 6) rfl in_X2 rfl q798 dX2_isStale_33 hf (fun r7 hf => ?_)
          refine j_gRN (ci := 4) (k := 0) rfl in_X5 rfl q667 dX2_isStale_36 hf (fun r8 hf => ?_)
          refine j_iload_n 3 dX2_isStale_39 rfl rfl ?_
          refine j_iald dX2_isStale_40 hf (fun v9 hf => ?_)
          refine j_icmp_eq 48 dX2_isStale_41 (by decide) hf (fun c_ hf => ?_) (fun c_ hf => ?_)
          · refine j_weak [some (va_rf x0), some (va_rf x1), none, some (.int x3)] (Wk.k (Wk.k (Wk.s (Wk.k Wk.n)))) ?_
            exact pf_X2_isStale_B48 (f_X2_isStale_L4 n) ih x0 x1 x3 h hf
          · refine j_weak [some (va_rf x0), some (va_rf x1), none, some (.int x3)] (Wk.k (Wk.k (Wk.s (Wk.k Wk.n)))) ?_
            exact pf_X2_isStale_B44 (f_X2_isStale_L4 n) ih x0 x1 x3 h hf
def f_X2_isStale (r0 : Option Nat) (p0 : Option Nat) (h0 : PH) : Option (Int32 × PH) := f_X2_isStale_L4 FU r0 p0 (0 : Int32) (0 : Int32) h0
theorem hyS_X2_isStale : yX2_isStale.cls ≠ "java/lang/invoke/MethodHandle" ∧ yX2_isStale.cls ≠ "java/lang/invoke/VarHandle" ∧ (parseMethodDescriptor yX2_isStale.desc).map (fun d => d.parameters.length) = some 1 := by decide +kernel
theorem hyV_X2_isStale : yX2_isStale.cls = RX2 ∧ yX2_isStale.cls ≠ "java/lang/invoke/MethodHandle" ∧ yX2_isStale.cls ≠ "java/lang/invoke/VarHandle" ∧ (parseMethodDescriptor yX2_isStale.desc).map (fun d => d.parameters.length) = some 1 := by decide +kernel
theorem c_X2_isStale {D : va_G} (r0 : Option Nat) (p0 : Option Nat) {h0 : PH} (l : Launch) (hl : l.stackTraces = false) (x : Int32) (h1 : PH) (hf : f_X2_isStale r0 p0 h0 = some (x, h1)) : CT l D yX2_isStale (ws_ yX2_isStale cX2_isStale 4 (Option.some FieldType.boolean)) 4 88 [va_rf r0, va_rf p0] h0 (ovi x) h1 := by
  refine ct_of hl [some (va_rf r0), some (va_rf p0), none, none] (by decide) (by rw [lgl]; simp [va_rf_cat, cat_i, cat_l]) (by simp [lv_args, vsL, va_rf_cat, cat_i, cat_l]) (fun Γ => ?_)
  obtain ⟨o, ho⟩ : ∃ o : Int32 × PH, o = (x, h1) := ⟨_, rfl⟩
  rw [← ho] at hf
  have e1 : x = o.1 := by rw [ho]
  have e2 : h1 = o.2 := by rw [ho]
  subst e1 e2
  clear ho
  show PF Γ mi_X2_isStale D h0 (QR Γ D h0 (ovi o.1) o.2) h0 0 [some (va_rf r0), some (va_rf p0), none, none] []
  unfold f_X2_isStale at hf
  refine j_iconst (0 : Int32) dX2_isStale_0 (by decide) ?_
  refine j_istore_n 2 [some (va_rf r0), some (va_rf p0), some (.int (0 : Int32)), none] dX2_isStale_1 rfl (cz (va_rf_cat _)) rfl rfl ?_
  refine j_iconst (0 : Int32) dX2_isStale_2 (by decide) ?_
  refine j_istore_n 3 [some (va_rf r0), some (va_rf p0), some (.int (0 : Int32)), some (.int (0 : Int32))] dX2_isStale_3 rfl (cz rfl) rfl rfl ?_
  exact pf_X2_isStale_L4 FU r0 p0 (0 : Int32) (0 : Int32) h0 hf
theorem kc_X2_91 {Γ : GX} {I : MI} {D : va_G} {h0 : PH} {Q : State → Prop} {h : PH} {pc : Nat} {vs : List (Option Value)} {rest : List Value} {β : Type} {o : β} {a : Nat} {p0 : Option Nat} {K : ((Unit) → PH → Option β)} (hI : I.2.2.1 = RX2) (hfr : Nat.ble 5 I.2.2.2.2.2.1 = true) (hlo : Nat.ble 103 I.2.2.2.2.2.2.1 = true) (hW : (rest.map fun v => v.category).sum ≤ 8) (hd : decode I.1 pc = .ok (.invokespecial 91, 3)) (hf : cl_ (f_X2_init a p0 h) K = some o) (kk : ∀ (x : Unit) (h1 : PH), K x h1 = some o → PF Γ I D h0 Q h1 (pc + 3) vs (rest)) : PF Γ I D h0 Q h pc vs (va_rf p0 :: va_rf (some a) :: rest) := by
  obtain ⟨cc, nL, own, rt, xt, fr, lo, nm⟩ := I
  cases hI
  exact j_cIv (n := 1) (y := yX2_init) (cc2 := cX2_init) (As := [va_rf p0]) (lw_meth q655) q91 q2037 q654 rfl hyS_X2_init hfr hlo rfl hW hd (c_X2_init a p0) ⟨_, rfl⟩ hf _ rfl kk
theorem kc_X2_98 {Γ : GX} {I : MI} {D : va_G} {h0 : PH} {Q : State → Prop} {h : PH} {pc : Nat} {vs : List (Option Value)} {rest : List Value} {β : Type} {o : β} {r : Option Nat} {p0 : Option Nat} {K : ((Int32) → PH → Option β)} (hI : I.2.2.1 = RX2) (hfr : Nat.ble 5 I.2.2.2.2.2.1 = true) (hlo : Nat.ble 152 I.2.2.2.2.2.2.1 = true) (hW : (rest.map fun v => v.category).sum ≤ 8) (hd : decode I.1 pc = .ok (.invokeinterface 98 2, 5)) (hf : rv_ h r 19 (cl_ (f_J2_addAll r p0 h) K) = some o) (kk : ∀ (x : Int32) (h1 : PH), K x h1 = some o → PF Γ I D h0 Q h1 (pc + 5) vs (.int x :: rest)) : PF Γ I D h0 Q h pc vs (va_rf p0 :: va_rf r :: rest) := by
  obtain ⟨cc, nL, own, rt, xt, fr, lo, nm⟩ := I
  cases hI
  exact j_cFi (n := 1) (y := yJ2_addAll) (cc2 := cJ2_addAll) (As := [va_rf p0]) (C := RJ2) (x9 := ⟨"java/util/List", "addAll", "(Ljava/util/Collection;)Z"⟩) (ci := 19) rfl (by decide +kernel) (lw_F q2046 q2049 q2051 q96 q2053) (by decide +kernel) hfr hlo rfl hW hd (c_J2_addAll r p0) hf _ rfl kk
theorem kc_X2_102 {Γ : GX} {I : MI} {D : va_G} {h0 : PH} {Q : State → Prop} {h : PH} {pc : Nat} {vs : List (Option Value)} {rest : List Value} {β : Type} {o : β} {r : Option Nat} {p0 : Option Nat} {K : ((Unit) → PH → Option β)} (hI : I.2.2.1 = RX2) (hfr : Nat.ble 2 I.2.2.2.2.2.1 = true) (hlo : Nat.ble 81 I.2.2.2.2.2.2.1 = true) (hW : (rest.map fun v => v.category).sum ≤ 8) (hd : decode I.1 pc = .ok (.invokevirtual 102, 3)) (hf : rv_ h r 4 (cl_ (f_X5_copyFrom r p0 h) K) = some o) (kk : ∀ (x : Unit) (h1 : PH), K x h1 = some o → PF Γ I D h0 Q h1 (pc + 3) vs (rest)) : PF Γ I D h0 Q h pc vs (va_rf p0 :: va_rf r :: rest) := by
  obtain ⟨cc, nL, own, rt, xt, fr, lo, nm⟩ := I
  cases hI
  exact j_cVv (n := 1) (y := yX5_copyFrom) (cc2 := cX5_copyFrom) (As := [va_rf p0]) (C := RX5) (ci := 4) rfl (lw_V q2064 q2065 q2066 q114 q2067) hyV_X5_copyFrom hfr hlo rfl hW hd (c_X5_copyFrom r p0) hf _ rfl kk
theorem kc_X2_94 {Γ : GX} {I : MI} {D : va_G} {h0 : PH} {Q : State → Prop} {h : PH} {pc : Nat} {vs : List (Option Value)} {rest : List Value} {β : Type} {o : β} {r : Option Nat}  {K : ((Option Nat) → PH → Option β)} (hI : I.2.2.1 = RX2) (hfr : Nat.ble 3 I.2.2.2.2.2.1 = true) (hlo : Nat.ble 81 I.2.2.2.2.2.2.1 = true) (hW : (rest.map fun v => v.category).sum ≤ 8) (hd : decode I.1 pc = .ok (.invokevirtual 94, 3)) (hf : rv_ h r 5 (cl_ (f_X6_copy r h) K) = some o) (kk : ∀ (x : Option Nat) (h1 : PH), K x h1 = some o → PF Γ I D h0 Q h1 (pc + 3) vs (va_rf x :: rest)) : PF Γ I D h0 Q h pc vs (va_rf r :: rest) := by
  obtain ⟨cc, nL, own, rt, xt, fr, lo, nm⟩ := I
  cases hI
  exact j_cVr (n := 0) (y := yX6_copy) (cc2 := cX6_copy) (As := []) (C := RX6) (ci := 5) rfl (lw_V q2038 q2039 q2040 q115 q2041) hyV_X6_copy hfr hlo rfl hW hd (c_X6_copy r) hf _ rfl kk
abbrev mi_X2_copy : MI := (cX2_copy, 3, RX2, (Option.some (FieldType.object "LeaderLeases$Simulation")), [], 5, 152, "copy")
def f_X2_copy_L14 : Nat → Option Nat → Option Nat → Int32 → PH → Option (Option Nat × PH)
  | 0, _, _, _, _ => none
  | n + 1, x0, x1, x2, h => gR h x0 1 1 fun r5 => aN h r5 5 fun v6 => (if v6 ≤ x2 then (gR h x1 1 2 fun r7 => gR h x0 1 2 fun r8 => rv_ h r7 19 (cl_ (f_J2_addAll r7 r8 h) fun v10 h9 => gR h9 x1 1 3 fun r11 => gR h9 x0 1 3 fun r12 => rv_ h9 r11 19 (cl_ (f_J2_addAll r11 r12 h9) fun v14 h13 => gR h13 x1 1 4 fun r15 => gR h13 x0 1 4 fun r16 => rv_ h13 r15 19 (cl_ (f_J2_addAll r15 r16 h13) fun v18 h17 => gR h17 x1 1 5 fun r19 => gR h17 x0 1 5 fun r20 => rv_ h17 r19 19 (cl_ (f_J2_addAll r19 r20 h17) fun v22 h21 => gR h21 x1 1 6 fun r23 => gR h21 x0 1 6 fun r24 => rv_ h21 r23 4 (cl_ (f_X5_copyFrom r23 r24 h21) fun _u h25 => gR h25 x0 1 7 fun r26 => gR h25 x1 1 7 fun r27 => ycI h25 r26 (0 : Int32) r27 (0 : Int32) (9 : Int32) 0 (fun _ => true) fun h28 => gI h28 x0 1 8 fun v29 => pV h28 x1 1 8 (.int v29) fun h30 => gI h30 x0 1 9 fun v31 => pV h30 x1 1 9 (.int v31) fun h32 => gI h32 x0 1 10 fun v33 => pV h32 x1 1 10 (.int v33) fun h34 => gI h34 x0 1 11 fun v35 => pV h34 x1 1 11 (.int v35) fun h36 => gI h36 x0 1 12 fun v37 => pV h36 x1 1 12 (.int v37) fun h38 => gI h38 x0 1 13 fun v39 => pV h38 x1 1 13 (.int v39) fun h40 => gI h40 x0 1 14 fun v41 => pV h40 x1 1 14 (.int v41) fun h42 => gI h42 x0 1 15 fun v43 => pV h42 x1 1 15 (.int v43) fun h44 => gI h44 x0 1 16 fun v45 => pV h44 x1 1 16 (.int v45) fun h46 => gI h46 x0 1 17 fun v47 => pV h46 x1 1 17 (.int v47) fun h48 => gI h48 x0 1 18 fun v49 => pV h48 x1 1 18 (.int v49) fun h50 => gI h50 x0 1 19 fun v51 => pV h50 x1 1 19 (.int v51) fun h52 => some (x1, h52))))))) else (gR h x1 1 1 fun r53 => gR h x0 1 1 fun r54 => aQ h r54 5 x2 fun r55 => rv_ h r55 5 (cl_ (f_X6_copy r55 h) fun r57 h56 => sQ h56 r53 5 x2 r57 fun h58 => f_X2_copy_L14 n x0 x1 (x2 + (1 : Int32)) h58)))
theorem pf_X2_copy_L14 {Γ : GX} {D : va_G} {h0 : PH} {o : Option Nat × PH} : ∀ (n : Nat) (x0 : Option Nat) (x1 : Option Nat) (x2 : Int32) (h : PH), f_X2_copy_L14 n x0 x1 x2 h = some o → PF Γ mi_X2_copy D h0 (QR Γ D h0 (ovr o.1) o.2) h 14 [some (va_rf x0), some (va_rf x1), some (.int x2)] [] := by
  intro n
  induction n with
  | zero => intro x0 x1 x2 h hf; cases hf
  | succ n ih =>
    intro x0 x1 x2 h hf
    refine j_iload_n 2 dX2_copy_14 rfl rfl ?_
    refine j_aload_n 0 dX2_copy_15 rfl rfl ?_
    refine j_gR (ci := 1) (k := 1) rfl in_X2 rfl q788 dX2_copy_16 hf (fun r5 hf => ?_)
    refine j_alen (t := 5) rfl dX2_copy_19 hf (fun v6 hf => ?_)
    refine j_icmp_ge 44 dX2_copy_20 (by decide) hf (fun c_ hf => ?_) (fun c_ hf => ?_)
    · refine j_aload_n 1 dX2_copy_44 rfl rfl ?_
      refine j_gR (ci := 1) (k := 2) rfl in_X2 rfl q790 dX2_copy_45 hf (fun r7 hf => ?_)
      refine j_aload_n 0 dX2_copy_48 rfl rfl ?_
      refine j_gR (ci := 1) (k := 2) rfl in_X2 rfl q790 dX2_copy_49 hf (fun r8 hf => ?_)
      refine kc_X2_98 rfl rfl rfl (by decide) dX2_copy_52 hf (fun v10 h9 hf => ?_)
      refine j_pop dX2_copy_57 rfl ?_
      refine j_aload_n 1 dX2_copy_58 rfl rfl ?_
      refine j_gR (ci := 1) (k := 3) rfl in_X2 rfl q792 dX2_copy_59 hf (fun r11 hf => ?_)
      refine j_aload_n 0 dX2_copy_62 rfl rfl ?_
      refine j_gR (ci := 1) (k := 3) rfl in_X2 rfl q792 dX2_copy_63 hf (fun r12 hf => ?_)
      refine kc_X2_98 rfl rfl rfl (by decide) dX2_copy_66 hf (fun v14 h13 hf => ?_)
      refine j_pop dX2_copy_71 rfl ?_
      refine j_aload_n 1 dX2_copy_72 rfl rfl ?_
      refine j_gR (ci := 1) (k := 4) rfl in_X2 rfl q794 dX2_copy_73 hf (fun r15 hf => ?_)
      refine j_aload_n 0 dX2_copy_76 rfl rfl ?_
      refine j_gR (ci := 1) (k := 4) rfl in_X2 rfl q794 dX2_copy_77 hf (fun r16 hf => ?_)
      refine kc_X2_98 rfl rfl rfl (by decide) dX2_copy_80 hf (fun v18 h17 hf => ?_)
      refine j_pop dX2_copy_85 rfl ?_
      refine j_aload_n 1 dX2_copy_86 rfl rfl ?_
      refine j_gR (ci := 1) (k := 5) rfl in_X2 rfl q796 dX2_copy_87 hf (fun r19 hf => ?_)
      refine j_aload_n 0 dX2_copy_90 rfl rfl ?_
      refine j_gR (ci := 1) (k := 5) rfl in_X2 rfl q796 dX2_copy_91 hf (fun r20 hf => ?_)
      refine kc_X2_98 rfl rfl rfl (by decide) dX2_copy_94 hf (fun v22 h21 hf => ?_)
      refine j_pop dX2_copy_99 rfl ?_
      refine j_aload_n 1 dX2_copy_100 rfl rfl ?_
      refine j_gR (ci := 1) (k := 6) rfl in_X2 rfl q798 dX2_copy_101 hf (fun r23 hf => ?_)
      refine j_aload_n 0 dX2_copy_104 rfl rfl ?_
      refine j_gR (ci := 1) (k := 6) rfl in_X2 rfl q798 dX2_copy_105 hf (fun r24 hf => ?_)
      refine kc_X2_102 rfl rfl rfl (by decide) dX2_copy_108 hf (fun _u h25 hf => ?_)
      refine j_aload_n 0 dX2_copy_111 rfl rfl ?_
      refine j_gR (ci := 1) (k := 7) rfl in_X2 rfl q800 dX2_copy_112 hf (fun r26 hf => ?_)
      refine j_iconst (0 : Int32) dX2_copy_115 (by decide) ?_
      refine j_aload_n 1 dX2_copy_116 rfl rfl ?_
      refine j_gR (ci := 1) (k := 7) rfl in_X2 rfl q800 dX2_copy_117 hf (fun r27 hf => ?_)
      refine j_iconst (0 : Int32) dX2_copy_120 (by decide) ?_
      refine j_bipush (9 : Int32) dX2_copy_121 (by decide) ?_
      refine j_ycI (t := 0) (ty := .int) rfl (fun _ _ => rfl) rfl q1461 q310 q309 q108 rfl rfl (by decide) dX2_copy_123 hf (fun h28 hf => ?_)
      refine j_aload_n 1 dX2_copy_126 rfl rfl ?_
      refine j_aload_n 0 dX2_copy_127 rfl rfl ?_
      refine j_gI (ci := 1) (k := 8) rfl in_X2 rfl q802 dX2_copy_128 hf (fun v29 hf => ?_)
      refine j_pV (ci := 1) (k := 8) tyX2 tyX2_ok nmX2 rfl in_X2 rfl q802 (Or.inl rfl) rfl (fit_i _) dX2_copy_131 hf (fun h30 hf => ?_)
      refine j_aload_n 1 dX2_copy_134 rfl rfl ?_
      refine j_aload_n 0 dX2_copy_135 rfl rfl ?_
      refine j_gI (ci := 1) (k := 9) rfl in_X2 rfl q804 dX2_copy_136 hf (fun v31 hf => ?_)
      refine j_pV (ci := 1) (k := 9) tyX2 tyX2_ok nmX2 rfl in_X2 rfl q804 (Or.inl rfl) rfl (fit_i _) dX2_copy_139 hf (fun h32 hf => ?_)
      refine j_aload_n 1 dX2_copy_142 rfl rfl ?_
      refine j_aload_n 0 dX2_copy_143 rfl rfl ?_
      refine j_gI (ci := 1) (k := 10) rfl in_X2 rfl q805 dX2_copy_144 hf (fun v33 hf => ?_)
      refine j_pV (ci := 1) (k := 10) tyX2 tyX2_ok nmX2 rfl in_X2 rfl q805 (Or.inl rfl) rfl (fit_i _) dX2_copy_147 hf (fun h34 hf => ?_)
      refine j_aload_n 1 dX2_copy_150 rfl rfl ?_
      refine j_aload_n 0 dX2_copy_151 rfl rfl ?_
      refine j_gI (ci := 1) (k := 11) rfl in_X2 rfl q806 dX2_copy_152 hf (fun v35 hf => ?_)
      refine j_pV (ci := 1) (k := 11) tyX2 tyX2_ok nmX2 rfl in_X2 rfl q806 (Or.inl rfl) rfl (fit_i _) dX2_copy_155 hf (fun h36 hf => ?_)
      refine j_aload_n 1 dX2_copy_158 rfl rfl ?_
      refine j_aload_n 0 dX2_copy_159 rfl rfl ?_
      refine j_gI (ci := 1) (k := 12) rfl in_X2 rfl q808 dX2_copy_160 hf (fun v37 hf => ?_)
      refine j_pV (ci := 1) (k := 12) tyX2 tyX2_ok nmX2 rfl in_X2 rfl q808 (Or.inl rfl) rfl (fit_i _) dX2_copy_163 hf (fun h38 hf => ?_)
      refine j_aload_n 1 dX2_copy_166 rfl rfl ?_
      refine j_aload_n 0 dX2_copy_167 rfl rfl ?_
      refine j_gI (ci := 1) (k := 13) rfl in_X2 rfl q810 dX2_copy_168 hf (fun v39 hf => ?_)
      refine j_pV (ci := 1) (k := 13) tyX2 tyX2_ok nmX2 rfl in_X2 rfl q810 (Or.inl rfl) rfl (fit_i _) dX2_copy_171 hf (fun h40 hf => ?_)
      refine j_aload_n 1 dX2_copy_174 rfl rfl ?_
      refine j_aload_n 0 dX2_copy_175 rfl rfl ?_
      refine j_gI (ci := 1) (k := 14) rfl in_X2 rfl q812 dX2_copy_176 hf (fun v41 hf => ?_)
      refine j_pV (ci := 1) (k := 14) tyX2 tyX2_ok nmX2 rfl in_X2 rfl q812 (Or.inl rfl) rfl (fit_i _) dX2_copy_179 hf (fun h42 hf => ?_)
      refine j_aload_n 1 dX2_copy_182 rfl rfl ?_
      refine j_aload_n 0 dX2_copy_183 rfl rfl ?_
      refine j_gI (ci := 1) (k := 15) rfl in_X2 rfl q814 dX2_copy_184 hf (fun v43 hf => ?_)
      refine j_pV (ci := 1) (k := 15) tyX2 tyX2_ok nmX2 rfl in_X2 rfl q814 (Or.inl rfl) rfl (fit_i _) dX2_copy_187 hf (fun h44 hf => ?_)
      refine j_aload_n 1 dX2_copy_190 rfl rfl ?_
      refine j_aload_n 0 dX2_copy_191 rfl rfl ?_
      refine j_gI (ci := 1) (k := 16) rfl in_X2 rfl q816 dX2_copy_192 hf (fun v45 hf => ?_)
      refine j_pV (ci := 1) (k := 16) tyX2 tyX2_ok nmX2 rfl in_X2 rfl q816 (Or.inl rfl) rfl (fit_i _) dX2_copy_195 hf (fun h46 hf => ?_)
      refine j_aload_n 1 dX2_copy_198 rfl rfl ?_
      refine j_aload_n 0 dX2_copy_199 rfl rfl ?_
      refine j_gI (ci := 1) (k := 17) rfl in_X2 rfl q818 dX2_copy_200 hf (fun v47 hf => ?_)
      refine j_pV (ci := 1) (k := 17) tyX2 tyX2_ok nmX2 rfl in_X2 rfl q818 (Or.inl rfl) rfl (fit_i _) dX2_copy_203 hf (fun h48 hf => ?_)
      refine j_aload_n 1 dX2_copy_206 rfl rfl ?_
      refine j_aload_n 0 dX2_copy_207 rfl rfl ?_
      refine j_gI (ci := 1) (k := 18) rfl in_X2 rfl q820 dX2_copy_208 hf (fun v49 hf => ?_)
      refine j_pV (ci := 1) (k := 18) tyX2 tyX2_ok nmX2 rfl in_X2 rfl q820 (Or.inl rfl) rfl (fit_i _) dX2_copy_211 hf (fun h50 hf => ?_)
      refine j_aload_n 1 dX2_copy_214 rfl rfl ?_
      refine j_aload_n 0 dX2_copy_215 rfl rfl ?_
      refine j_gI (ci := 1) (k := 19) rfl in_X2 rfl q822 dX2_copy_216 hf (fun v51 hf => ?_)
      refine j_pV (ci := 1) (k := 19) tyX2 tyX2_ok nmX2 rfl in_X2 rfl q822 (Or.inl rfl) rfl (fit_i _) dX2_copy_219 hf (fun h52 hf => ?_)
      refine j_aload_n 1 dX2_copy_222 rfl rfl ?_
      have e9 := Option.some.inj hf
      subst e9
      exact j_aret rfl (Or.inl ⟨_, rfl⟩) dX2_copy_223
    · refine j_aload_n 1 dX2_copy_23 rfl rfl ?_
      refine j_gR (ci := 1) (k := 1) rfl in_X2 rfl q788 dX2_copy_24 hf (fun r53 hf => ?_)
      refine j_iload_n 2 dX2_copy_27 rfl rfl ?_
      refine j_aload_n 0 dX2_copy_28 rfl rfl ?_
      refine j_gR (ci := 1) (k := 1) rfl in_X2 rfl q788 dX2_copy_29 hf (fun r54 hf => ?_)
      refine j_iload_n 2 dX2_copy_32 rfl rfl ?_
      refine j_aald (t := 5) rfl dX2_copy_33 hf (fun r55 hf => ?_)
      refine kc_X2_94 rfl rfl rfl (by simp [va_rf_cat, cat_i, cat_l]) dX2_copy_34 hf (fun r57 h56 hf => ?_)
      refine j_aast (t := 5) rfl dX2_copy_37 hf (fun h58 hf => ?_)
      refine j_iinc (x2 + (1 : Int32)) [some (va_rf x0), some (va_rf x1), some (.int (x2 + (1 : Int32)))] dX2_copy_38 rfl rfl (cz (va_rf_cat _)) rfl rfl ?_
      refine j_goto 14 dX2_copy_41 (by decide) ?_
      exact ih x0 x1 (x2 + (1 : Int32)) h58 hf
def f_X2_copy (r0 : Option Nat) (h0 : PH) : Option (Option Nat × PH) := nO h0 1 22 [.null, .null, .null, .null, .null, .null, .null, .null, .int 0, .int 0, .int 0, .int 0, .int 0, .int 0, .int 0, .int 0, .int 0, .int 0, .int 0, .int 0, .int 0, .int 0] fun a1 h2 => gR h2 r0 1 0 fun r3 => cl_ (f_X2_init a1 r3 h2) fun _u h4 => f_X2_copy_L14 FU r0 (some a1) (0 : Int32) h4
theorem hyS_X2_copy : yX2_copy.cls ≠ "java/lang/invoke/MethodHandle" ∧ yX2_copy.cls ≠ "java/lang/invoke/VarHandle" ∧ (parseMethodDescriptor yX2_copy.desc).map (fun d => d.parameters.length) = some 0 := by decide +kernel
theorem hyV_X2_copy : yX2_copy.cls = RX2 ∧ yX2_copy.cls ≠ "java/lang/invoke/MethodHandle" ∧ yX2_copy.cls ≠ "java/lang/invoke/VarHandle" ∧ (parseMethodDescriptor yX2_copy.desc).map (fun d => d.parameters.length) = some 0 := by decide +kernel
theorem c_X2_copy {D : va_G} (r0 : Option Nat) {h0 : PH} (l : Launch) (hl : l.stackTraces = false) (x : Option Nat) (h1 : PH) (hf : f_X2_copy r0 h0 = some (x, h1)) : CT l D yX2_copy (ws_ yX2_copy cX2_copy 3 (Option.some (FieldType.object "LeaderLeases$Simulation"))) 5 152 [va_rf r0] h0 (ovr x) h1 := by
  refine ct_of hl [some (va_rf r0), none, none] (by decide) (by rw [lgl]; simp [va_rf_cat, cat_i, cat_l]) (by simp [lv_args, vsL, va_rf_cat, cat_i, cat_l]) (fun Γ => ?_)
  obtain ⟨o, ho⟩ : ∃ o : Option Nat × PH, o = (x, h1) := ⟨_, rfl⟩
  rw [← ho] at hf
  have e1 : x = o.1 := by rw [ho]
  have e2 : h1 = o.2 := by rw [ho]
  subst e1 e2
  clear ho
  show PF Γ mi_X2_copy D h0 (QR Γ D h0 (ovr o.1) o.2) h0 0 [some (va_rf r0), none, none] []
  unfold f_X2_copy at hf
  refine j_nO (ci := 1) tyX2 tyX2_ok rfl in_X2 q2036 q144 q91 (by decide) dX2_copy_0 hf (fun a1 h2 hf => ?_)
  refine j_dup dX2_copy_3 (va_rf_cat _) ?_
  refine j_aload_n 0 dX2_copy_4 rfl rfl ?_
  refine j_gR (ci := 1) (k := 0) rfl in_X2 rfl q786 dX2_copy_5 hf (fun r3 hf => ?_)
  refine kc_X2_91 rfl rfl rfl (by simp [va_rf_cat, cat_i, cat_l]) dX2_copy_8 hf (fun _u h4 hf => ?_)
  refine j_astore_n 1 [some (va_rf r0), some (va_rf (some a1)), none] dX2_copy_11 rfl (cz (va_rf_cat _)) rfl rfl ?_
  refine j_iconst (0 : Int32) dX2_copy_12 (by decide) ?_
  refine j_istore_n 2 [some (va_rf r0), some (va_rf (some a1)), some (.int (0 : Int32))] dX2_copy_13 rfl (cz (va_rf_cat _)) rfl rfl ?_
  exact pf_X2_copy_L14 FU r0 (some a1) (0 : Int32) h4 hf
abbrev mi_X2_lastEnd : MI := (cX2_lastEnd, 6, RX2, (Option.some FieldType.int), [], 3, 67, "lastEnd")
def f_X2_lastEnd_L16 : Nat → Int32 → Option Nat → Int32 → Int32 → PH → Option (Int32 × PH)
  | 0, _, _, _, _, _ => none
  | n + 1, x1, x2, x3, x4, h => (if x3 ≤ x4 then (some (x1, h)) else (aQ h x2 5 x4 fun r4 => rv_ h r4 5 (cl_ (f_X6_leadsUntil r4 h) fun v6 h5 => f_X2_lastEnd_L16 n (if x1 < v6 then v6 else x1) x2 x3 (x4 + (1 : Int32)) h5)))
theorem pf_X2_lastEnd_L16 {Γ : GX} {D : va_G} {h0 : PH} {o : Int32 × PH} : ∀ (n : Nat) (x1 : Int32) (x2 : Option Nat) (x3 : Int32) (x4 : Int32) (h : PH), f_X2_lastEnd_L16 n x1 x2 x3 x4 h = some o → PF Γ mi_X2_lastEnd D h0 (QR Γ D h0 (ovi o.1) o.2) h 16 [none, some (.int x1), some (va_rf x2), some (.int x3), some (.int x4), none] [] := by
  intro n
  induction n with
  | zero => intro x1 x2 x3 x4 h hf; cases hf
  | succ n ih =>
    intro x1 x2 x3 x4 h hf
    refine j_iload dX2_lastEnd_16 rfl ?_
    refine j_iload_n 3 dX2_lastEnd_18 rfl rfl ?_
    refine j_icmp_ge 44 dX2_lastEnd_19 (by decide) hf (fun c_ hf => ?_) (fun c_ hf => ?_)
    · refine j_iload_n 1 dX2_lastEnd_44 rfl rfl ?_
      have e9 := Option.some.inj hf
      subst e9
      exact j_iret rfl dX2_lastEnd_45
    · refine j_aload_n 2 dX2_lastEnd_22 rfl rfl ?_
      refine j_iload dX2_lastEnd_23 rfl ?_
      refine j_aald (t := 5) rfl dX2_lastEnd_25 hf (fun r4 hf => ?_)
      refine j_astore [none, some (.int x1), some (va_rf x2), some (.int x3), some (.int x4), some (va_rf r4)] dX2_lastEnd_26 (cz rfl) rfl rfl ?_
      refine j_iload_n 1 dX2_lastEnd_28 rfl rfl ?_
      refine j_aload dX2_lastEnd_29 rfl ?_
      refine kc_X2_373 rfl rfl rfl (by simp [va_rf_cat, cat_i, cat_l]) dX2_lastEnd_31 hf (fun v6 h5 hf => ?_)
      refine j_mmax q1311 q288 q106 q289 rfl rfl (by decide) dX2_lastEnd_34 ?_
      refine j_istore_n 1 [none, some (.int (if x1 < v6 then v6 else x1)), some (va_rf x2), some (.int x3), some (.int x4), some (va_rf r4)] dX2_lastEnd_37 rfl cn' rfl rfl ?_
      refine j_iinc (x4 + (1 : Int32)) [none, some (.int (if x1 < v6 then v6 else x1)), some (va_rf x2), some (.int x3), some (.int (x4 + (1 : Int32))), some (va_rf r4)] dX2_lastEnd_38 rfl rfl (cz rfl) rfl rfl ?_
      refine j_goto 16 dX2_lastEnd_41 (by decide) ?_
      refine j_weak [none, some (.int (if x1 < v6 then v6 else x1)), some (va_rf x2), some (.int x3), some (.int (x4 + (1 : Int32))), none] (Wk.k (Wk.k (Wk.k (Wk.k (Wk.k (Wk.s Wk.n)))))) ?_
      exact ih (if x1 < v6 then v6 else x1) x2 x3 (x4 + (1 : Int32)) h5 hf
def f_X2_lastEnd (r0 : Option Nat) (h0 : PH) : Option (Int32 × PH) := gI h0 r0 1 8 fun v1 => gR h0 r0 1 1 fun r2 => aN h0 r2 5 fun v3 => f_X2_lastEnd_L16 FU v1 r2 v3 (0 : Int32) h0
theorem hyS_X2_lastEnd : yX2_lastEnd.cls ≠ "java/lang/invoke/MethodHandle" ∧ yX2_lastEnd.cls ≠ "java/lang/invoke/VarHandle" ∧ (parseMethodDescriptor yX2_lastEnd.desc).map (fun d => d.parameters.length) = some 0 := by decide +kernel
theorem hyV_X2_lastEnd : yX2_lastEnd.cls = RX2 ∧ yX2_lastEnd.cls ≠ "java/lang/invoke/MethodHandle" ∧ yX2_lastEnd.cls ≠ "java/lang/invoke/VarHandle" ∧ (parseMethodDescriptor yX2_lastEnd.desc).map (fun d => d.parameters.length) = some 0 := by decide +kernel
theorem c_X2_lastEnd {D : va_G} (r0 : Option Nat) {h0 : PH} (l : Launch) (hl : l.stackTraces = false) (x : Int32) (h1 : PH) (hf : f_X2_lastEnd r0 h0 = some (x, h1)) : CT l D yX2_lastEnd (ws_ yX2_lastEnd cX2_lastEnd 6 (Option.some FieldType.int)) 3 67 [va_rf r0] h0 (ovi x) h1 := by
  refine ct_of hl [some (va_rf r0), none, none, none, none, none] (by decide) (by rw [lgl]; simp [va_rf_cat, cat_i, cat_l]) (by simp [lv_args, vsL, va_rf_cat, cat_i, cat_l]) (fun Γ => ?_)
  obtain ⟨o, ho⟩ : ∃ o : Int32 × PH, o = (x, h1) := ⟨_, rfl⟩
  rw [← ho] at hf
  have e1 : x = o.1 := by rw [ho]
  have e2 : h1 = o.2 := by rw [ho]
  subst e1 e2
  clear ho
  show PF Γ mi_X2_lastEnd D h0 (QR Γ D h0 (ovi o.1) o.2) h0 0 [some (va_rf r0), none, none, none, none, none] []
  unfold f_X2_lastEnd at hf
  refine j_aload_n 0 dX2_lastEnd_0 rfl rfl ?_
  refine j_gI (ci := 1) (k := 8) rfl in_X2 rfl q802 dX2_lastEnd_1 hf (fun v1 hf => ?_)
  refine j_istore_n 1 [some (va_rf r0), some (.int v1), none, none, none, none] dX2_lastEnd_4 rfl (cz (va_rf_cat _)) rfl rfl ?_
  refine j_aload_n 0 dX2_lastEnd_5 rfl rfl ?_
  refine j_gR (ci := 1) (k := 1) rfl in_X2 rfl q788 dX2_lastEnd_6 hf (fun r2 hf => ?_)
  refine j_astore_n 2 [some (va_rf r0), some (.int v1), some (va_rf r2), none, none, none] dX2_lastEnd_9 rfl (cz rfl) rfl rfl ?_
  refine j_aload_n 2 dX2_lastEnd_10 rfl rfl ?_
  refine j_alen (t := 5) rfl dX2_lastEnd_11 hf (fun v3 hf => ?_)
  refine j_istore_n 3 [some (va_rf r0), some (.int v1), some (va_rf r2), some (.int v3), none, none] dX2_lastEnd_12 rfl (cz (va_rf_cat _)) rfl rfl ?_
  refine j_iconst (0 : Int32) dX2_lastEnd_13 (by decide) ?_
  refine j_istore [some (va_rf r0), some (.int v1), some (va_rf r2), some (.int v3), some (.int (0 : Int32)), none] dX2_lastEnd_14 (cz rfl) rfl rfl ?_
  refine j_weak [none, some (.int v1), some (va_rf r2), some (.int v3), some (.int (0 : Int32)), none] (Wk.s (Wk.k (Wk.k (Wk.k (Wk.k (Wk.k Wk.n)))))) ?_
  exact pf_X2_lastEnd_L16 FU v1 r2 v3 (0 : Int32) h0 hf
theorem kc_X8_17 {Γ : GX} {I : MI} {D : va_G} {h0 : PH} {Q : State → Prop} {h : PH} {pc : Nat} {vs : List (Option Value)} {rest : List Value} {β : Type} {o : β} {a : Nat}  {K : ((Unit) → PH → Option β)} (hI : I.2.2.1 = RX8) (hfr : Nat.ble 5 I.2.2.2.2.2.1 = true) (hlo : Nat.ble 101 I.2.2.2.2.2.2.1 = true) (hW : (rest.map fun v => v.category).sum ≤ 8) (hd : decode I.1 pc = .ok (.invokespecial 17, 3)) (hf : cl_ (f_X3_init a h) K = some o) (kk : ∀ (x : Unit) (h1 : PH), K x h1 = some o → PF Γ I D h0 Q h1 (pc + 3) vs (rest)) : PF Γ I D h0 Q h pc vs (va_rf (some a) :: rest) := by
  obtain ⟨cc, nL, own, rt, xt, fr, lo, nm⟩ := I
  cases hI
  exact j_cINv (n := 0) (y := yX3_init) (cc2 := cX3_init) (As := []) (lw_meth q152) q92 q902 q151 rfl hyS_X3_init hfr hlo rfl hW hd (c_X3_init a) hf _ rfl kk
theorem kc_X8_24 {Γ : GX} {I : MI} {D : va_G} {h0 : PH} {Q : State → Prop} {h : PH} {pc : Nat} {vs : List (Option Value)} {rest : List Value} {β : Type} {o : β} {a : Nat} {p0 : Int32} {K : ((Unit) → PH → Option β)} (hI : I.2.2.1 = RX8) (hfr : Nat.ble 4 I.2.2.2.2.2.1 = true) (hlo : Nat.ble 81 I.2.2.2.2.2.2.1 = true) (hW : (rest.map fun v => v.category).sum ≤ 8) (hd : decode I.1 pc = .ok (.invokespecial 24, 3)) (hf : cl_ (f_J2_init a p0 h) K = some o) (kk : ∀ (x : Unit) (h1 : PH), K x h1 = some o → PF Γ I D h0 Q h1 (pc + 3) vs (rest)) : PF Γ I D h0 Q h pc vs (.int p0 :: va_rf (some a) :: rest) := by
  obtain ⟨cc, nL, own, rt, xt, fr, lo, nm⟩ := I
  cases hI
  exact j_cIv (n := 1) (y := yJ2_init) (cc2 := cJ2_init) (As := [.int p0]) (lw_meth q173) q96 q904 q172 rfl hyS_J2_init hfr hlo rfl hW hd (c_J2_init a p0) ⟨_, rfl⟩ hf _ rfl kk
abbrev mi_X8_init : MI := (cX8_init, 2, RX8, none, [], 5, 101, "<init>")
def f_X8_init (a0 : Nat) (p0 : Option Nat) (h0 : PH) : Option (Unit × PH) := pV h0 (some a0) 7 3 (va_rf p0) fun h1 => nO h1 2 9 [.null, .null, .null, .int 0, .int 0, .int 0, .int 0, .int 0, .int 0] fun a2 h3 => cl_ (f_X3_init a2 h3) fun _u h4 => pV h4 (some a0) 7 0 (va_rf (some a2)) fun h5 => nO h5 19 3 [.int 0, .null, .int 0] fun a6 h7 => cl_ (f_J2_init a6 (2 : Int32) h7) fun _u h8 => pV h8 (some a0) 7 1 (va_rf (some a6)) fun h9 => some ((), h9)
theorem hyS_X8_init : yX8_init.cls ≠ "java/lang/invoke/MethodHandle" ∧ yX8_init.cls ≠ "java/lang/invoke/VarHandle" ∧ (parseMethodDescriptor yX8_init.desc).map (fun d => d.parameters.length) = some 1 := by decide +kernel
theorem c_X8_init {D : va_G} (a0 : Nat) (p0 : Option Nat) {h0 : PH} (l : Launch) (hl : l.stackTraces = false) (x : Unit) (h1 : PH) (hf : f_X8_init a0 p0 h0 = some (x, h1)) : CT l D yX8_init (ws_ yX8_init cX8_init 2 none) 5 101 [va_rf (some a0), va_rf p0] h0 (ovv x) h1 := by
  refine ct_of hl [some (va_rf (some a0)), some (va_rf p0)] (by decide) (by rw [lgl]; simp [va_rf_cat, cat_i, cat_l]) (by simp [lv_args, vsL, va_rf_cat, cat_i, cat_l]) (fun Γ => ?_)
  obtain ⟨o, ho⟩ : ∃ o : Unit × PH, o = (x, h1) := ⟨_, rfl⟩
  rw [← ho] at hf
  have e1 : x = o.1 := by rw [ho]
  have e2 : h1 = o.2 := by rw [ho]
  subst e1 e2
  clear ho
  show PF Γ mi_X8_init D h0 (QR Γ D h0 (ovv o.1) o.2) h0 0 [some (va_rf (some a0)), some (va_rf p0)] []
  unfold f_X8_init at hf
  refine j_aload_n 0 dX8_init_0 rfl rfl ?_
  refine j_aload_n 1 dX8_init_1 rfl rfl ?_
  refine j_pV (ci := 7) (k := 3) tyX8 tyX8_ok nmX8 rfl in_X8 rfl q908 (Or.inr ⟨rfl, rfl, rfl⟩) rfl (fit_o _ _) dX8_init_2 hf (fun h1 hf => ?_)
  refine j_aload_n 0 dX8_init_5 rfl rfl ?_
  refine j_objI q900 q141 q142 rfl rfl ⟨_, rfl⟩ (by decide) dX8_init_6 ?_
  refine j_aload_n 0 dX8_init_9 rfl rfl ?_
  refine j_nO (ci := 2) tyX3 tyX3_ok rfl in_X3 q901 q149 q92 (by decide) dX8_init_10 hf (fun a2 h3 hf => ?_)
  refine j_dup dX8_init_13 (va_rf_cat _) ?_
  refine kc_X8_17 rfl rfl rfl (by simp [va_rf_cat, cat_i, cat_l]) dX8_init_14 hf (fun _u h4 hf => ?_)
  refine j_pV (ci := 7) (k := 0) tyX8 tyX8_ok nmX8 rfl in_X8 rfl q905 (Or.inr ⟨rfl, rfl, rfl⟩) rfl (fit_o _ _) dX8_init_17 hf (fun h5 hf => ?_)
  refine j_aload_n 0 dX8_init_20 rfl rfl ?_
  refine j_nO (ci := 19) tyJ2 tyJ2_ok rfl in_J2 q903 q170 q96 (by decide) dX8_init_21 hf (fun a6 h7 hf => ?_)
  refine j_dup dX8_init_24 (va_rf_cat _) ?_
  refine j_iconst (2 : Int32) dX8_init_25 (by decide) ?_
  refine kc_X8_24 rfl rfl rfl (by simp [va_rf_cat, cat_i, cat_l]) dX8_init_26 hf (fun _u h8 hf => ?_)
  refine j_pV (ci := 7) (k := 1) tyX8 tyX8_ok nmX8 rfl in_X8 rfl q906 (Or.inr ⟨rfl, rfl, rfl⟩) rfl (fit_o _ _) dX8_init_29 hf (fun h9 hf => ?_)
  have e9 := Option.some.inj hf
  subst e9
  exact j_vret rfl dX8_init_32
abbrev mi_X8_here : MI := (cX8_here, 1, RX8, (Option.some FieldType.int), [], 0, 0, "here")
def f_X8_here_B34 (t0 : Int32) (h : PH) : Option (Int32 × PH) := some (t0, h)
theorem pf_X8_here_B34 {Γ : GX} {D : va_G} {h0 : PH} {o : Int32 × PH} (t0 : Int32) (h : PH) (hf : f_X8_here_B34 t0 h = some o) : PF Γ mi_X8_here D h0 (QR Γ D h0 (ovi o.1) o.2) h 34 [none] [.int t0] := by
  have e9 := Option.some.inj hf
  subst e9
  exact j_iret rfl dX8_here_34
def f_X8_here (r0 : Option Nat) (h0 : PH) : Option (Int32 × PH) := gI h0 r0 7 2 fun v1 => gR h0 r0 7 3 fun r2 => gIN h0 r2 0 1 fun v3 => (if v3 ≤ v1 then (f_X8_here_B34 (-1 : Int32) h0) else (gR h0 r0 7 3 fun r4 => gRN h0 r4 0 0 fun r5 => gI h0 r0 7 2 fun v6 => aB h0 r5 v6 fun v7 => f_X8_here_B34 (v7 &&& (255 : Int32)) h0))
theorem hyS_X8_here : yX8_here.cls ≠ "java/lang/invoke/MethodHandle" ∧ yX8_here.cls ≠ "java/lang/invoke/VarHandle" ∧ (parseMethodDescriptor yX8_here.desc).map (fun d => d.parameters.length) = some 0 := by decide +kernel
theorem hyV_X8_here : yX8_here.cls = RX8 ∧ yX8_here.cls ≠ "java/lang/invoke/MethodHandle" ∧ yX8_here.cls ≠ "java/lang/invoke/VarHandle" ∧ (parseMethodDescriptor yX8_here.desc).map (fun d => d.parameters.length) = some 0 := by decide +kernel
theorem c_X8_here {D : va_G} (r0 : Option Nat) {h0 : PH} (l : Launch) (hl : l.stackTraces = false) (x : Int32) (h1 : PH) (hf : f_X8_here r0 h0 = some (x, h1)) : CT l D yX8_here (ws_ yX8_here cX8_here 1 (Option.some FieldType.int)) 0 0 [va_rf r0] h0 (ovi x) h1 := by
  refine ct_of hl [some (va_rf r0)] (by decide) (by rw [lgl]; simp [va_rf_cat, cat_i, cat_l]) (by simp [lv_args, vsL, va_rf_cat, cat_i, cat_l]) (fun Γ => ?_)
  obtain ⟨o, ho⟩ : ∃ o : Int32 × PH, o = (x, h1) := ⟨_, rfl⟩
  rw [← ho] at hf
  have e1 : x = o.1 := by rw [ho]
  have e2 : h1 = o.2 := by rw [ho]
  subst e1 e2
  clear ho
  show PF Γ mi_X8_here D h0 (QR Γ D h0 (ovi o.1) o.2) h0 0 [some (va_rf r0)] []
  unfold f_X8_here at hf
  refine j_aload_n 0 dX8_here_0 rfl rfl ?_
  refine j_gI (ci := 7) (k := 2) rfl in_X8 rfl q907 dX8_here_1 hf (fun v1 hf => ?_)
  refine j_aload_n 0 dX8_here_4 rfl rfl ?_
  refine j_gR (ci := 7) (k := 3) rfl in_X8 rfl q908 dX8_here_5 hf (fun r2 hf => ?_)
  refine j_gIN (ci := 0) (k := 1) rfl in_X1 rfl q874 dX8_here_8 hf (fun v3 hf => ?_)
  refine j_icmp_ge 33 dX8_here_11 (by decide) hf (fun c_ hf => ?_) (fun c_ hf => ?_)
  · refine j_iconst (-1 : Int32) dX8_here_33 (by decide) ?_
    refine j_weak [none] (Wk.s Wk.n) ?_
    exact pf_X8_here_B34 (-1 : Int32) h0 hf
  · refine j_aload_n 0 dX8_here_14 rfl rfl ?_
    refine j_gR (ci := 7) (k := 3) rfl in_X8 rfl q908 dX8_here_15 hf (fun r4 hf => ?_)
    refine j_gRN (ci := 0) (k := 0) rfl in_X1 rfl q872 dX8_here_18 hf (fun r5 hf => ?_)
    refine j_aload_n 0 dX8_here_21 rfl rfl ?_
    refine j_gI (ci := 7) (k := 2) rfl in_X8 rfl q907 dX8_here_22 hf (fun v6 hf => ?_)
    refine j_bald dX8_here_25 hf (fun v7 hf => ?_)
    refine j_sipush (255 : Int32) dX8_here_26 (by decide) ?_
    refine j_iand dX8_here_29 ?_
    refine j_goto 34 dX8_here_30 (by decide) ?_
    refine j_weak [none] (Wk.s Wk.n) ?_
    exact pf_X8_here_B34 (v7 &&& (255 : Int32)) h0 hf
theorem kc_X1_3 {Γ : GX} {I : MI} {D : va_G} {h0 : PH} {Q : State → Prop} {h : PH} {pc : Nat} {vs : List (Option Value)} {rest : List Value} {β : Type} {o : β} {a : Nat}  {K : ((Unit) → PH → Option β)} (hI : I.2.2.1 = RX1) (hfr : Nat.ble 5 I.2.2.2.2.2.1 = true) (hlo : Nat.ble 101 I.2.2.2.2.2.2.1 = true) (hW : (rest.map fun v => v.category).sum ≤ 8) (hd : decode I.1 pc = .ok (.invokespecial 3, 3)) (hf : cl_ (f_X3_init a h) K = some o) (kk : ∀ (x : Unit) (h1 : PH), K x h1 = some o → PF Γ I D h0 Q h1 (pc + 3) vs (rest)) : PF Γ I D h0 Q h pc vs (va_rf (some a) :: rest) := by
  obtain ⟨cc, nL, own, rt, xt, fr, lo, nm⟩ := I
  cases hI
  exact j_cINv (n := 0) (y := yX3_init) (cc2 := cX3_init) (As := []) (lw_meth q152) q92 q150 q151 rfl hyS_X3_init hfr hlo rfl hW hd (c_X3_init a) hf _ rfl kk
theorem kc_X1_13 {Γ : GX} {I : MI} {D : va_G} {h0 : PH} {Q : State → Prop} {h : PH} {pc : Nat} {vs : List (Option Value)} {rest : List Value} {β : Type} {o : β} {a : Nat} {p0 : Int32} {p1 : Int32} {K : ((Unit) → PH → Option β)} (hI : I.2.2.1 = RX1) (hfr : Nat.ble 2 I.2.2.2.2.2.1 = true) (hlo : Nat.ble 42 I.2.2.2.2.2.2.1 = true) (hW : (rest.map fun v => v.category).sum ≤ 8) (hd : decode I.1 pc = .ok (.invokespecial 13, 3)) (hf : cl_ (f_X4_init a p0 p1 h) K = some o) (kk : ∀ (x : Unit) (h1 : PH), K x h1 = some o → PF Γ I D h0 Q h1 (pc + 3) vs (rest)) : PF Γ I D h0 Q h pc vs (.int p1 :: .int p0 :: va_rf (some a) :: rest) := by
  obtain ⟨cc, nL, own, rt, xt, fr, lo, nm⟩ := I
  cases hI
  exact j_cIv (n := 2) (y := yX4_init) (cc2 := cX4_init) (As := [.int p0, .int p1]) (lw_meth q158) q93 q566 q157 rfl hyS_X4_init hfr hlo rfl hW hd (c_X4_init a p0 p1) ⟨_, rfl⟩ hf _ rfl kk
theorem kc_X1_16 {Γ : GX} {I : MI} {D : va_G} {h0 : PH} {Q : State → Prop} {h : PH} {pc : Nat} {vs : List (Option Value)} {rest : List Value} {β : Type} {o : β} {r : Option Nat} {p0 : Option Nat} {K : ((Int32) → PH → Option β)} (hI : I.2.2.1 = RX1) (hfr : Nat.ble 7 I.2.2.2.2.2.1 = true) (hlo : Nat.ble 191 I.2.2.2.2.2.2.1 = true) (hW : (rest.map fun v => v.category).sum ≤ 8) (hd : decode I.1 pc = .ok (.invokeinterface 16 2, 5)) (hf : rv_ h r 19 (cl_ (f_J2_add r p0 h) K) = some o) (kk : ∀ (x : Int32) (h1 : PH), K x h1 = some o → PF Γ I D h0 Q h1 (pc + 5) vs (.int x :: rest)) : PF Γ I D h0 Q h pc vs (va_rf p0 :: va_rf r :: rest) := by
  obtain ⟨cc, nL, own, rt, xt, fr, lo, nm⟩ := I
  cases hI
  exact j_cFi (n := 1) (y := yJ2_add) (cc2 := cJ2_add) (As := [va_rf p0]) (C := RJ2) (x9 := ⟨"java/util/List", "add", "(Ljava/lang/Object;)Z"⟩) (ci := 19) rfl (by decide +kernel) (lw_F q568 q572 q574 q96 q576) (by decide +kernel) hfr hlo rfl hW hd (c_J2_add r p0) hf _ rfl kk
theorem kc_X1_25 {Γ : GX} {I : MI} {D : va_G} {h0 : PH} {Q : State → Prop} {h : PH} {pc : Nat} {vs : List (Option Value)} {rest : List Value} {β : Type} {o : β} {p0 : Int32} {K : ((Option Nat) → PH → Option β)} (hI : I.2.2.1 = RX1) (hfr : Nat.ble 4 I.2.2.2.2.2.1 = true) (hlo : Nat.ble 81 I.2.2.2.2.2.2.1 = true) (hW : (rest.map fun v => v.category).sum ≤ 8) (hd : decode I.1 pc = .ok (.invokestatic 25, 3)) (hf : cl_ (f_J17_valueOf p0 h) K = some o) (kk : ∀ (x : Option Nat) (h1 : PH), K x h1 = some o → PF Γ I D h0 Q h1 (pc + 3) vs (va_rf x :: rest)) : PF Γ I D h0 Q h pc vs (.int p0 :: rest) := by
  obtain ⟨cc, nL, own, rt, xt, fr, lo, nm⟩ := I
  cases hI
  exact j_cSr (n := 1) (y := yJ17_valueOf) (cc2 := cJ17_valueOf) (As := [.int p0]) (lw_S q633 q634 q112 q635) hyS_J17_valueOf hfr hlo rfl hW hd (c_J17_valueOf p0) hf _ rfl kk
abbrev mi_X1_plain : MI := (cX1_plain, 1, RX1, (Option.some (FieldType.object "LeaderLeases$Configuration")), [], 7, 191, "plain")
def f_X1_plain (h0 : PH) : Option (Option Nat × PH) := nO h0 2 9 [.null, .null, .null, .int 0, .int 0, .int 0, .int 0, .int 0, .int 0] fun a1 h2 => cl_ (f_X3_init a1 h2) fun _u h3 => gRN h3 (some a1) 2 1 fun r4 => nO h3 3 2 [.int 0, .int 0] fun a5 h6 => cl_ (f_X4_init a5 (1000 : Int32) (0 : Int32) h6) fun _u h7 => rv_ h7 r4 19 (cl_ (f_J2_add r4 (some a5) h7) fun v9 h8 => gRN h8 (some a1) 2 2 fun r10 => cl_ (f_J17_valueOf (10 : Int32) h8) fun r12 h11 => rv_ h11 r10 19 (cl_ (f_J2_add r10 r12 h11) fun v14 h13 => some ((some a1), h13)))
theorem hyS_X1_plain : yX1_plain.cls ≠ "java/lang/invoke/MethodHandle" ∧ yX1_plain.cls ≠ "java/lang/invoke/VarHandle" ∧ (parseMethodDescriptor yX1_plain.desc).map (fun d => d.parameters.length) = some 0 := by decide +kernel
theorem c_X1_plain {D : va_G} {h0 : PH} (l : Launch) (hl : l.stackTraces = false) (x : Option Nat) (h1 : PH) (hf : f_X1_plain  h0 = some (x, h1)) : CT l D yX1_plain (ws_ yX1_plain cX1_plain 1 (Option.some (FieldType.object "LeaderLeases$Configuration"))) 7 191 [] h0 (ovr x) h1 := by
  refine ct_of hl [none] (by decide) (Nat.zero_le _) rfl (fun Γ => ?_)
  obtain ⟨o, ho⟩ : ∃ o : Option Nat × PH, o = (x, h1) := ⟨_, rfl⟩
  rw [← ho] at hf
  have e1 : x = o.1 := by rw [ho]
  have e2 : h1 = o.2 := by rw [ho]
  subst e1 e2
  clear ho
  show PF Γ mi_X1_plain D h0 (QR Γ D h0 (ovr o.1) o.2) h0 0 [none] []
  unfold f_X1_plain at hf
  refine j_nO (ci := 2) tyX3 tyX3_ok rfl in_X3 q148 q149 q92 (by decide) dX1_plain_0 hf (fun a1 h2 hf => ?_)
  refine j_dup dX1_plain_3 (va_rf_cat _) ?_
  refine kc_X1_3 rfl rfl rfl (by simp [va_rf_cat, cat_i, cat_l]) dX1_plain_4 hf (fun _u h3 hf => ?_)
  refine j_astore_n 0 [some (va_rf (some a1))] dX1_plain_7 rfl cn' rfl rfl ?_
  refine j_aload_n 0 dX1_plain_8 rfl rfl ?_
  refine j_gRN (ci := 2) (k := 1) rfl in_X3 rfl q523 dX1_plain_9 hf (fun r4 hf => ?_)
  refine j_nO (ci := 3) tyX4 tyX4_ok rfl in_X4 q565 q155 q93 (by decide) dX1_plain_12 hf (fun a5 h6 hf => ?_)
  refine j_dup dX1_plain_15 (va_rf_cat _) ?_
  refine j_sipush (1000 : Int32) dX1_plain_16 (by decide) ?_
  refine j_iconst (0 : Int32) dX1_plain_19 (by decide) ?_
  refine kc_X1_13 rfl rfl rfl (by simp [va_rf_cat, cat_i, cat_l]) dX1_plain_20 hf (fun _u h7 hf => ?_)
  refine kc_X1_16 rfl rfl rfl (by decide) dX1_plain_23 hf (fun v9 h8 hf => ?_)
  refine j_pop dX1_plain_28 rfl ?_
  refine j_aload_n 0 dX1_plain_29 rfl rfl ?_
  refine j_gRN (ci := 2) (k := 2) rfl in_X3 rfl q527 dX1_plain_30 hf (fun r10 hf => ?_)
  refine j_bipush (10 : Int32) dX1_plain_33 (by decide) ?_
  refine kc_X1_25 rfl rfl rfl (by simp [va_rf_cat, cat_i, cat_l]) dX1_plain_35 hf (fun r12 h11 hf => ?_)
  refine kc_X1_16 rfl rfl rfl (by decide) dX1_plain_38 hf (fun v14 h13 hf => ?_)
  refine j_pop dX1_plain_43 rfl ?_
  refine j_aload_n 0 dX1_plain_44 rfl rfl ?_
  have e9 := Option.some.inj hf
  subst e9
  exact j_aret rfl (Or.inl ⟨_, rfl⟩) dX1_plain_45
abbrev mi_X1_in : MI := (cX1_in, 6, RX1, (Option.some FieldType.boolean), [], 0, 0, "in")
def f_X1_in_B18 (t0 : Int32) (h : PH) : Option (Int32 × PH) := rN .boolean t0 (fun v => v) h
theorem pf_X1_in_B18 {Γ : GX} {D : va_G} {h0 : PH} {o : Int32 × PH} (t0 : Int32) (h : PH) (hf : f_X1_in_B18 t0 h = some o) : PF Γ mi_X1_in D h0 (QR Γ D h0 (ovi o.1) o.2) h 18 [none, none, none, none, none, none] [.int t0] := by
  obtain ⟨hn9, hf⟩ := rN_in hf
  subst hf
  exact j_zret rfl (nar_z _ hn9) dX1_in_18
def f_X1_in_B17  (h : PH) : Option (Int32 × PH) := f_X1_in_B18 (0 : Int32) h
theorem pf_X1_in_B17 {Γ : GX} {D : va_G} {h0 : PH} {o : Int32 × PH}  (h : PH) (hf : f_X1_in_B17  h = some o) : PF Γ mi_X1_in D h0 (QR Γ D h0 (ovi o.1) o.2) h 17 [none, none, none, none, none, none] [] := by
  refine j_iconst (0 : Int32) dX1_in_17 (by decide) ?_
  exact pf_X1_in_B18 (0 : Int32) h hf
def f_X1_in (p0 : Int64) (p1 : Int64) (p2 : Int64) (h0 : PH) : Option (Int32 × PH) := (if (lg_cmp p0 p1) < 0 then (f_X1_in_B17 h0) else ((if 0 < (lg_cmp p0 p2) then (f_X1_in_B17 h0) else (f_X1_in_B18 (1 : Int32) h0))))
theorem hyS_X1_in : yX1_in.cls ≠ "java/lang/invoke/MethodHandle" ∧ yX1_in.cls ≠ "java/lang/invoke/VarHandle" ∧ (parseMethodDescriptor yX1_in.desc).map (fun d => d.parameters.length) = some 3 := by decide +kernel
theorem c_X1_in {D : va_G} (p0 : Int64) (p1 : Int64) (p2 : Int64) {h0 : PH} (l : Launch) (hl : l.stackTraces = false) (x : Int32) (h1 : PH) (hf : f_X1_in p0 p1 p2 h0 = some (x, h1)) : CT l D yX1_in (ws_ yX1_in cX1_in 6 (Option.some FieldType.boolean)) 0 0 [.long p0, .long p1, .long p2] h0 (ovi x) h1 := by
  refine ct_of hl [some (.long p0), none, some (.long p1), none, some (.long p2), none] (by decide) (Nat.le_of_ble_eq_true rfl) rfl (fun Γ => ?_)
  obtain ⟨o, ho⟩ : ∃ o : Int32 × PH, o = (x, h1) := ⟨_, rfl⟩
  rw [← ho] at hf
  have e1 : x = o.1 := by rw [ho]
  have e2 : h1 = o.2 := by rw [ho]
  subst e1 e2
  clear ho
  show PF Γ mi_X1_in D h0 (QR Γ D h0 (ovi o.1) o.2) h0 0 [some (.long p0), none, some (.long p1), none, some (.long p2), none] []
  unfold f_X1_in at hf
  refine j_lload_n 0 dX1_in_0 rfl rfl ?_
  refine j_lload_n 2 dX1_in_1 rfl rfl ?_
  refine j_lcmp dX1_in_2 ?_
  refine j_if_lt 17 dX1_in_3 (by decide) hf (fun c_ hf => ?_) (fun c_ hf => ?_)
  · refine j_weak [none, none, none, none, none, none] (Wk.s (Wk.k (Wk.s (Wk.k (Wk.s (Wk.k Wk.n)))))) ?_
    exact pf_X1_in_B17  h0 hf
  · refine j_lload_n 0 dX1_in_6 rfl rfl ?_
    refine j_lload dX1_in_7 rfl ?_
    refine j_lcmp dX1_in_9 ?_
    refine j_if_gt 17 dX1_in_10 (by decide) hf (fun c_ hf => ?_) (fun c_ hf => ?_)
    · refine j_weak [none, none, none, none, none, none] (Wk.s (Wk.k (Wk.s (Wk.k (Wk.s (Wk.k Wk.n)))))) ?_
      exact pf_X1_in_B17  h0 hf
    · refine j_iconst (1 : Int32) dX1_in_13 (by decide) ?_
      refine j_goto 18 dX1_in_14 (by decide) ?_
      refine j_weak [none, none, none, none, none, none] (Wk.s (Wk.k (Wk.s (Wk.k (Wk.s (Wk.k Wk.n)))))) ?_
      exact pf_X1_in_B18 (1 : Int32) h0 hf
abbrev mi_X1_loadError : MI := (cX1_loadError, 1, RX1, (Option.some FieldType.int), [], 0, 0, "loadError")
def f_X1_loadError (r0 : Option Nat) (h0 : PH) : Option (Int32 × PH) := gI h0 r0 0 2 fun v1 => some (v1, h0)
theorem hyS_X1_loadError : yX1_loadError.cls ≠ "java/lang/invoke/MethodHandle" ∧ yX1_loadError.cls ≠ "java/lang/invoke/VarHandle" ∧ (parseMethodDescriptor yX1_loadError.desc).map (fun d => d.parameters.length) = some 0 := by decide +kernel
theorem hyV_X1_loadError : yX1_loadError.cls = RX1 ∧ yX1_loadError.cls ≠ "java/lang/invoke/MethodHandle" ∧ yX1_loadError.cls ≠ "java/lang/invoke/VarHandle" ∧ (parseMethodDescriptor yX1_loadError.desc).map (fun d => d.parameters.length) = some 0 := by decide +kernel
theorem c_X1_loadError {D : va_G} (r0 : Option Nat) {h0 : PH} (l : Launch) (hl : l.stackTraces = false) (x : Int32) (h1 : PH) (hf : f_X1_loadError r0 h0 = some (x, h1)) : CT l D yX1_loadError (ws_ yX1_loadError cX1_loadError 1 (Option.some FieldType.int)) 0 0 [va_rf r0] h0 (ovi x) h1 := by
  refine ct_of hl [some (va_rf r0)] (by decide) (by rw [lgl]; simp [va_rf_cat, cat_i, cat_l]) (by simp [lv_args, vsL, va_rf_cat, cat_i, cat_l]) (fun Γ => ?_)
  obtain ⟨o, ho⟩ : ∃ o : Int32 × PH, o = (x, h1) := ⟨_, rfl⟩
  rw [← ho] at hf
  have e1 : x = o.1 := by rw [ho]
  have e2 : h1 = o.2 := by rw [ho]
  subst e1 e2
  clear ho
  show PF Γ mi_X1_loadError D h0 (QR Γ D h0 (ovi o.1) o.2) h0 0 [some (va_rf r0)] []
  unfold f_X1_loadError at hf
  refine j_aload_n 0 dX1_loadError_0 rfl rfl ?_
  refine j_gI (ci := 0) (k := 2) rfl in_X1 rfl q876 dX1_loadError_1 hf (fun v1 hf => ?_)
  have e9 := Option.some.inj hf
  subst e9
  exact j_iret rfl dX1_loadError_4
abbrev mi_X1_now : MI := (cX1_now, 1, RX1, (Option.some FieldType.int), [], 0, 0, "now")
def f_X1_now (r0 : Option Nat) (h0 : PH) : Option (Int32 × PH) := gR h0 r0 0 3 fun r1 => gIN h0 r1 1 8 fun v2 => some (v2, h0)
theorem hyS_X1_now : yX1_now.cls ≠ "java/lang/invoke/MethodHandle" ∧ yX1_now.cls ≠ "java/lang/invoke/VarHandle" ∧ (parseMethodDescriptor yX1_now.desc).map (fun d => d.parameters.length) = some 0 := by decide +kernel
theorem hyV_X1_now : yX1_now.cls = RX1 ∧ yX1_now.cls ≠ "java/lang/invoke/MethodHandle" ∧ yX1_now.cls ≠ "java/lang/invoke/VarHandle" ∧ (parseMethodDescriptor yX1_now.desc).map (fun d => d.parameters.length) = some 0 := by decide +kernel
theorem c_X1_now {D : va_G} (r0 : Option Nat) {h0 : PH} (l : Launch) (hl : l.stackTraces = false) (x : Int32) (h1 : PH) (hf : f_X1_now r0 h0 = some (x, h1)) : CT l D yX1_now (ws_ yX1_now cX1_now 1 (Option.some FieldType.int)) 0 0 [va_rf r0] h0 (ovi x) h1 := by
  refine ct_of hl [some (va_rf r0)] (by decide) (by rw [lgl]; simp [va_rf_cat, cat_i, cat_l]) (by simp [lv_args, vsL, va_rf_cat, cat_i, cat_l]) (fun Γ => ?_)
  obtain ⟨o, ho⟩ : ∃ o : Int32 × PH, o = (x, h1) := ⟨_, rfl⟩
  rw [← ho] at hf
  have e1 : x = o.1 := by rw [ho]
  have e2 : h1 = o.2 := by rw [ho]
  subst e1 e2
  clear ho
  show PF Γ mi_X1_now D h0 (QR Γ D h0 (ovi o.1) o.2) h0 0 [some (va_rf r0)] []
  unfold f_X1_now at hf
  refine j_aload_n 0 dX1_now_0 rfl rfl ?_
  refine j_gR (ci := 0) (k := 3) rfl in_X1 rfl q877 dX1_now_1 hf (fun r1 hf => ?_)
  refine j_gIN (ci := 1) (k := 8) rfl in_X2 rfl q803 dX1_now_4 hf (fun v2 hf => ?_)
  have e9 := Option.some.inj hf
  subst e9
  exact j_iret rfl dX1_now_7
abbrev mi_X1_nodeCount : MI := (cX1_nodeCount, 1, RX1, (Option.some FieldType.int), [], 0, 0, "nodeCount")
def f_X1_nodeCount (r0 : Option Nat) (h0 : PH) : Option (Int32 × PH) := gR h0 r0 0 3 fun r1 => gRN h0 r1 1 1 fun r2 => aN h0 r2 5 fun v3 => some (v3, h0)
theorem hyS_X1_nodeCount : yX1_nodeCount.cls ≠ "java/lang/invoke/MethodHandle" ∧ yX1_nodeCount.cls ≠ "java/lang/invoke/VarHandle" ∧ (parseMethodDescriptor yX1_nodeCount.desc).map (fun d => d.parameters.length) = some 0 := by decide +kernel
theorem hyV_X1_nodeCount : yX1_nodeCount.cls = RX1 ∧ yX1_nodeCount.cls ≠ "java/lang/invoke/MethodHandle" ∧ yX1_nodeCount.cls ≠ "java/lang/invoke/VarHandle" ∧ (parseMethodDescriptor yX1_nodeCount.desc).map (fun d => d.parameters.length) = some 0 := by decide +kernel
theorem c_X1_nodeCount {D : va_G} (r0 : Option Nat) {h0 : PH} (l : Launch) (hl : l.stackTraces = false) (x : Int32) (h1 : PH) (hf : f_X1_nodeCount r0 h0 = some (x, h1)) : CT l D yX1_nodeCount (ws_ yX1_nodeCount cX1_nodeCount 1 (Option.some FieldType.int)) 0 0 [va_rf r0] h0 (ovi x) h1 := by
  refine ct_of hl [some (va_rf r0)] (by decide) (by rw [lgl]; simp [va_rf_cat, cat_i, cat_l]) (by simp [lv_args, vsL, va_rf_cat, cat_i, cat_l]) (fun Γ => ?_)
  obtain ⟨o, ho⟩ : ∃ o : Int32 × PH, o = (x, h1) := ⟨_, rfl⟩
  rw [← ho] at hf
  have e1 : x = o.1 := by rw [ho]
  have e2 : h1 = o.2 := by rw [ho]
  subst e1 e2
  clear ho
  show PF Γ mi_X1_nodeCount D h0 (QR Γ D h0 (ovi o.1) o.2) h0 0 [some (va_rf r0)] []
  unfold f_X1_nodeCount at hf
  refine j_aload_n 0 dX1_nodeCount_0 rfl rfl ?_
  refine j_gR (ci := 0) (k := 3) rfl in_X1 rfl q877 dX1_nodeCount_1 hf (fun r1 hf => ?_)
  refine j_gRN (ci := 1) (k := 1) rfl in_X2 rfl q789 dX1_nodeCount_4 hf (fun r2 hf => ?_)
  refine j_alen (t := 5) rfl dX1_nodeCount_7 hf (fun v3 hf => ?_)
  have e9 := Option.some.inj hf
  subst e9
  exact j_iret rfl dX1_nodeCount_8
theorem kc_X1_131 {Γ : GX} {I : MI} {D : va_G} {h0 : PH} {Q : State → Prop} {h : PH} {pc : Nat} {vs : List (Option Value)} {rest : List Value} {β : Type} {o : β} {r : Option Nat}  {K : ((Int32) → PH → Option β)} (hI : I.2.2.1 = RX1) (hfr : Nat.ble 2 I.2.2.2.2.2.1 = true) (hlo : Nat.ble 41 I.2.2.2.2.2.2.1 = true) (hW : (rest.map fun v => v.category).sum ≤ 8) (hd : decode I.1 pc = .ok (.invokevirtual 131, 3)) (hf : rv_ h r 1 (cl_ (f_X2_serverClock r h) K) = some o) (kk : ∀ (x : Int32) (h1 : PH), K x h1 = some o → PF Γ I D h0 Q h1 (pc + 3) vs (.int x :: rest)) : PF Γ I D h0 Q h pc vs (va_rf r :: rest) := by
  obtain ⟨cc, nL, own, rt, xt, fr, lo, nm⟩ := I
  cases hI
  exact j_cVi (n := 0) (y := yX2_serverClock) (cc2 := cX2_serverClock) (As := []) (C := RX2) (ci := 1) rfl (lw_V q1585 q1418 q1419 q91 q1420) hyV_X2_serverClock hfr hlo rfl hW hd (c_X2_serverClock r) hf _ rfl kk
abbrev mi_X1_serverClock : MI := (cX1_serverClock, 1, RX1, (Option.some FieldType.int), [], 2, 41, "serverClock")
def f_X1_serverClock (r0 : Option Nat) (h0 : PH) : Option (Int32 × PH) := gR h0 r0 0 3 fun r1 => rv_ h0 r1 1 (cl_ (f_X2_serverClock r1 h0) fun v3 h2 => some (v3, h2))
theorem hyS_X1_serverClock : yX1_serverClock.cls ≠ "java/lang/invoke/MethodHandle" ∧ yX1_serverClock.cls ≠ "java/lang/invoke/VarHandle" ∧ (parseMethodDescriptor yX1_serverClock.desc).map (fun d => d.parameters.length) = some 0 := by decide +kernel
theorem hyV_X1_serverClock : yX1_serverClock.cls = RX1 ∧ yX1_serverClock.cls ≠ "java/lang/invoke/MethodHandle" ∧ yX1_serverClock.cls ≠ "java/lang/invoke/VarHandle" ∧ (parseMethodDescriptor yX1_serverClock.desc).map (fun d => d.parameters.length) = some 0 := by decide +kernel
theorem c_X1_serverClock {D : va_G} (r0 : Option Nat) {h0 : PH} (l : Launch) (hl : l.stackTraces = false) (x : Int32) (h1 : PH) (hf : f_X1_serverClock r0 h0 = some (x, h1)) : CT l D yX1_serverClock (ws_ yX1_serverClock cX1_serverClock 1 (Option.some FieldType.int)) 2 41 [va_rf r0] h0 (ovi x) h1 := by
  refine ct_of hl [some (va_rf r0)] (by decide) (by rw [lgl]; simp [va_rf_cat, cat_i, cat_l]) (by simp [lv_args, vsL, va_rf_cat, cat_i, cat_l]) (fun Γ => ?_)
  obtain ⟨o, ho⟩ : ∃ o : Int32 × PH, o = (x, h1) := ⟨_, rfl⟩
  rw [← ho] at hf
  have e1 : x = o.1 := by rw [ho]
  have e2 : h1 = o.2 := by rw [ho]
  subst e1 e2
  clear ho
  show PF Γ mi_X1_serverClock D h0 (QR Γ D h0 (ovi o.1) o.2) h0 0 [some (va_rf r0)] []
  unfold f_X1_serverClock at hf
  refine j_aload_n 0 dX1_serverClock_0 rfl rfl ?_
  refine j_gR (ci := 0) (k := 3) rfl in_X1 rfl q877 dX1_serverClock_1 hf (fun r1 hf => ?_)
  refine kc_X1_131 rfl rfl rfl (by decide) dX1_serverClock_4 hf (fun v3 h2 hf => ?_)
  have e9 := Option.some.inj hf
  subst e9
  exact j_iret rfl dX1_serverClock_7
theorem kc_X1_199 {Γ : GX} {I : MI} {D : va_G} {h0 : PH} {Q : State → Prop} {h : PH} {pc : Nat} {vs : List (Option Value)} {rest : List Value} {β : Type} {o : β} {r : Option Nat}  {K : ((Int32) → PH → Option β)} (hI : I.2.2.1 = RX1) (hfr : Nat.ble 9 I.2.2.2.2.2.1 = true) (hlo : Nat.ble 234 I.2.2.2.2.2.2.1 = true) (hW : (rest.map fun v => v.category).sum ≤ 8) (hd : decode I.1 pc = .ok (.invokevirtual 199, 3)) (hf : rv_ h r 1 (cl_ (f_X2_restartServer r h) K) = some o) (kk : ∀ (x : Int32) (h1 : PH), K x h1 = some o → PF Γ I D h0 Q h1 (pc + 3) vs (.int x :: rest)) : PF Γ I D h0 Q h pc vs (va_rf r :: rest) := by
  obtain ⟨cc, nL, own, rt, xt, fr, lo, nm⟩ := I
  cases hI
  exact j_cVi (n := 0) (y := yX2_restartServer) (cc2 := cX2_restartServer) (As := []) (C := RX2) (ci := 1) rfl (lw_V q1590 q1591 q1592 q91 q1593) hyV_X2_restartServer hfr hlo rfl hW hd (c_X2_restartServer r) hf _ rfl kk
abbrev mi_X1_restartServer : MI := (cX1_restartServer, 1, RX1, (Option.some FieldType.int), [], 9, 234, "restartServer")
def f_X1_restartServer (r0 : Option Nat) (h0 : PH) : Option (Int32 × PH) := gR h0 r0 0 3 fun r1 => rv_ h0 r1 1 (cl_ (f_X2_restartServer r1 h0) fun v3 h2 => some (v3, h2))
theorem hyS_X1_restartServer : yX1_restartServer.cls ≠ "java/lang/invoke/MethodHandle" ∧ yX1_restartServer.cls ≠ "java/lang/invoke/VarHandle" ∧ (parseMethodDescriptor yX1_restartServer.desc).map (fun d => d.parameters.length) = some 0 := by decide +kernel
theorem hyV_X1_restartServer : yX1_restartServer.cls = RX1 ∧ yX1_restartServer.cls ≠ "java/lang/invoke/MethodHandle" ∧ yX1_restartServer.cls ≠ "java/lang/invoke/VarHandle" ∧ (parseMethodDescriptor yX1_restartServer.desc).map (fun d => d.parameters.length) = some 0 := by decide +kernel
theorem c_X1_restartServer {D : va_G} (r0 : Option Nat) {h0 : PH} (l : Launch) (hl : l.stackTraces = false) (x : Int32) (h1 : PH) (hf : f_X1_restartServer r0 h0 = some (x, h1)) : CT l D yX1_restartServer (ws_ yX1_restartServer cX1_restartServer 1 (Option.some FieldType.int)) 9 234 [va_rf r0] h0 (ovi x) h1 := by
  refine ct_of hl [some (va_rf r0)] (by decide) (by rw [lgl]; simp [va_rf_cat, cat_i, cat_l]) (by simp [lv_args, vsL, va_rf_cat, cat_i, cat_l]) (fun Γ => ?_)
  obtain ⟨o, ho⟩ : ∃ o : Int32 × PH, o = (x, h1) := ⟨_, rfl⟩
  rw [← ho] at hf
  have e1 : x = o.1 := by rw [ho]
  have e2 : h1 = o.2 := by rw [ho]
  subst e1 e2
  clear ho
  show PF Γ mi_X1_restartServer D h0 (QR Γ D h0 (ovi o.1) o.2) h0 0 [some (va_rf r0)] []
  unfold f_X1_restartServer at hf
  refine j_aload_n 0 dX1_restartServer_0 rfl rfl ?_
  refine j_gR (ci := 0) (k := 3) rfl in_X1 rfl q877 dX1_restartServer_1 hf (fun r1 hf => ?_)
  refine kc_X1_199 rfl rfl rfl (by decide) dX1_restartServer_4 hf (fun v3 h2 hf => ?_)
  have e9 := Option.some.inj hf
  subst e9
  exact j_iret rfl dX1_restartServer_7
abbrev mi_X1_storageToken : MI := (cX1_storageToken, 1, RX1, (Option.some FieldType.int), [], 0, 0, "storageToken")
def f_X1_storageToken (r0 : Option Nat) (h0 : PH) : Option (Int32 × PH) := gR h0 r0 0 3 fun r1 => gRN h0 r1 1 6 fun r2 => gIN h0 r2 4 2 fun v3 => some (v3, h0)
theorem hyS_X1_storageToken : yX1_storageToken.cls ≠ "java/lang/invoke/MethodHandle" ∧ yX1_storageToken.cls ≠ "java/lang/invoke/VarHandle" ∧ (parseMethodDescriptor yX1_storageToken.desc).map (fun d => d.parameters.length) = some 0 := by decide +kernel
theorem hyV_X1_storageToken : yX1_storageToken.cls = RX1 ∧ yX1_storageToken.cls ≠ "java/lang/invoke/MethodHandle" ∧ yX1_storageToken.cls ≠ "java/lang/invoke/VarHandle" ∧ (parseMethodDescriptor yX1_storageToken.desc).map (fun d => d.parameters.length) = some 0 := by decide +kernel
theorem c_X1_storageToken {D : va_G} (r0 : Option Nat) {h0 : PH} (l : Launch) (hl : l.stackTraces = false) (x : Int32) (h1 : PH) (hf : f_X1_storageToken r0 h0 = some (x, h1)) : CT l D yX1_storageToken (ws_ yX1_storageToken cX1_storageToken 1 (Option.some FieldType.int)) 0 0 [va_rf r0] h0 (ovi x) h1 := by
  refine ct_of hl [some (va_rf r0)] (by decide) (by rw [lgl]; simp [va_rf_cat, cat_i, cat_l]) (by simp [lv_args, vsL, va_rf_cat, cat_i, cat_l]) (fun Γ => ?_)
  obtain ⟨o, ho⟩ : ∃ o : Int32 × PH, o = (x, h1) := ⟨_, rfl⟩
  rw [← ho] at hf
  have e1 : x = o.1 := by rw [ho]
  have e2 : h1 = o.2 := by rw [ho]
  subst e1 e2
  clear ho
  show PF Γ mi_X1_storageToken D h0 (QR Γ D h0 (ovi o.1) o.2) h0 0 [some (va_rf r0)] []
  unfold f_X1_storageToken at hf
  refine j_aload_n 0 dX1_storageToken_0 rfl rfl ?_
  refine j_gR (ci := 0) (k := 3) rfl in_X1 rfl q877 dX1_storageToken_1 hf (fun r1 hf => ?_)
  refine j_gRN (ci := 1) (k := 6) rfl in_X2 rfl q799 dX1_storageToken_4 hf (fun r2 hf => ?_)
  refine j_gIN (ci := 4) (k := 2) rfl in_X5 rfl q671 dX1_storageToken_7 hf (fun v3 hf => ?_)
  have e9 := Option.some.inj hf
  subst e9
  exact j_iret rfl dX1_storageToken_10
abbrev mi_X1_holder : MI := (cX1_holder, 1, RX1, (Option.some FieldType.int), [], 0, 0, "holder")
def f_X1_holder (r0 : Option Nat) (h0 : PH) : Option (Int32 × PH) := gR h0 r0 0 3 fun r1 => gIN h0 r1 1 12 fun v2 => some (v2, h0)
theorem hyS_X1_holder : yX1_holder.cls ≠ "java/lang/invoke/MethodHandle" ∧ yX1_holder.cls ≠ "java/lang/invoke/VarHandle" ∧ (parseMethodDescriptor yX1_holder.desc).map (fun d => d.parameters.length) = some 0 := by decide +kernel
theorem hyV_X1_holder : yX1_holder.cls = RX1 ∧ yX1_holder.cls ≠ "java/lang/invoke/MethodHandle" ∧ yX1_holder.cls ≠ "java/lang/invoke/VarHandle" ∧ (parseMethodDescriptor yX1_holder.desc).map (fun d => d.parameters.length) = some 0 := by decide +kernel
theorem c_X1_holder {D : va_G} (r0 : Option Nat) {h0 : PH} (l : Launch) (hl : l.stackTraces = false) (x : Int32) (h1 : PH) (hf : f_X1_holder r0 h0 = some (x, h1)) : CT l D yX1_holder (ws_ yX1_holder cX1_holder 1 (Option.some FieldType.int)) 0 0 [va_rf r0] h0 (ovi x) h1 := by
  refine ct_of hl [some (va_rf r0)] (by decide) (by rw [lgl]; simp [va_rf_cat, cat_i, cat_l]) (by simp [lv_args, vsL, va_rf_cat, cat_i, cat_l]) (fun Γ => ?_)
  obtain ⟨o, ho⟩ : ∃ o : Int32 × PH, o = (x, h1) := ⟨_, rfl⟩
  rw [← ho] at hf
  have e1 : x = o.1 := by rw [ho]
  have e2 : h1 = o.2 := by rw [ho]
  subst e1 e2
  clear ho
  show PF Γ mi_X1_holder D h0 (QR Γ D h0 (ovi o.1) o.2) h0 0 [some (va_rf r0)] []
  unfold f_X1_holder at hf
  refine j_aload_n 0 dX1_holder_0 rfl rfl ?_
  refine j_gR (ci := 0) (k := 3) rfl in_X1 rfl q877 dX1_holder_1 hf (fun r1 hf => ?_)
  refine j_gIN (ci := 1) (k := 12) rfl in_X2 rfl q809 dX1_holder_4 hf (fun v2 hf => ?_)
  have e9 := Option.some.inj hf
  subst e9
  exact j_iret rfl dX1_holder_7
abbrev mi_X1_greatestToken : MI := (cX1_greatestToken, 1, RX1, (Option.some FieldType.int), [], 0, 0, "greatestToken")
def f_X1_greatestToken (r0 : Option Nat) (h0 : PH) : Option (Int32 × PH) := gR h0 r0 0 3 fun r1 => gIN h0 r1 1 14 fun v2 => some (v2, h0)
theorem hyS_X1_greatestToken : yX1_greatestToken.cls ≠ "java/lang/invoke/MethodHandle" ∧ yX1_greatestToken.cls ≠ "java/lang/invoke/VarHandle" ∧ (parseMethodDescriptor yX1_greatestToken.desc).map (fun d => d.parameters.length) = some 0 := by decide +kernel
theorem hyV_X1_greatestToken : yX1_greatestToken.cls = RX1 ∧ yX1_greatestToken.cls ≠ "java/lang/invoke/MethodHandle" ∧ yX1_greatestToken.cls ≠ "java/lang/invoke/VarHandle" ∧ (parseMethodDescriptor yX1_greatestToken.desc).map (fun d => d.parameters.length) = some 0 := by decide +kernel
theorem c_X1_greatestToken {D : va_G} (r0 : Option Nat) {h0 : PH} (l : Launch) (hl : l.stackTraces = false) (x : Int32) (h1 : PH) (hf : f_X1_greatestToken r0 h0 = some (x, h1)) : CT l D yX1_greatestToken (ws_ yX1_greatestToken cX1_greatestToken 1 (Option.some FieldType.int)) 0 0 [va_rf r0] h0 (ovi x) h1 := by
  refine ct_of hl [some (va_rf r0)] (by decide) (by rw [lgl]; simp [va_rf_cat, cat_i, cat_l]) (by simp [lv_args, vsL, va_rf_cat, cat_i, cat_l]) (fun Γ => ?_)
  obtain ⟨o, ho⟩ : ∃ o : Int32 × PH, o = (x, h1) := ⟨_, rfl⟩
  rw [← ho] at hf
  have e1 : x = o.1 := by rw [ho]
  have e2 : h1 = o.2 := by rw [ho]
  subst e1 e2
  clear ho
  show PF Γ mi_X1_greatestToken D h0 (QR Γ D h0 (ovi o.1) o.2) h0 0 [some (va_rf r0)] []
  unfold f_X1_greatestToken at hf
  refine j_aload_n 0 dX1_greatestToken_0 rfl rfl ?_
  refine j_gR (ci := 0) (k := 3) rfl in_X1 rfl q877 dX1_greatestToken_1 hf (fun r1 hf => ?_)
  refine j_gIN (ci := 1) (k := 14) rfl in_X2 rfl q813 dX1_greatestToken_4 hf (fun v2 hf => ?_)
  have e9 := Option.some.inj hf
  subst e9
  exact j_iret rfl dX1_greatestToken_7
theorem kc_X1_269 {Γ : GX} {I : MI} {D : va_G} {h0 : PH} {Q : State → Prop} {h : PH} {pc : Nat} {vs : List (Option Value)} {rest : List Value} {β : Type} {o : β} {r : Option Nat} {p0 : Int32} {K : ((Int32) → PH → Option β)} (hI : I.2.2.1 = RX1) (hfr : Nat.ble 2 I.2.2.2.2.2.1 = true) (hlo : Nat.ble 47 I.2.2.2.2.2.2.1 = true) (hW : (rest.map fun v => v.category).sum ≤ 8) (hd : decode I.1 pc = .ok (.invokevirtual 269, 3)) (hf : rv_ h r 3 (cl_ (f_X4_reaches r p0 h) K) = some o) (kk : ∀ (x : Int32) (h1 : PH), K x h1 = some o → PF Γ I D h0 Q h1 (pc + 3) vs (.int x :: rest)) : PF Γ I D h0 Q h pc vs (.int p0 :: va_rf r :: rest) := by
  obtain ⟨cc, nL, own, rt, xt, fr, lo, nm⟩ := I
  cases hI
  exact j_cVi (n := 1) (y := yX4_reaches) (cc2 := cX4_reaches) (As := [.int p0]) (C := RX4) (ci := 3) rfl (lw_V q1610 q1304 q1305 q93 q1306) hyV_X4_reaches hfr hlo rfl hW hd (c_X4_reaches r p0) hf _ rfl kk
abbrev mi_X1_serverExpiryTime : MI := (cX1_serverExpiryTime, 1, RX1, (Option.some FieldType.int), [], 2, 47, "serverExpiryTime")
def f_X1_serverExpiryTime_B37 (t0 : Int32) (h : PH) : Option (Int32 × PH) := some (t0, h)
theorem pf_X1_serverExpiryTime_B37 {Γ : GX} {D : va_G} {h0 : PH} {o : Int32 × PH} (t0 : Int32) (h : PH) (hf : f_X1_serverExpiryTime_B37 t0 h = some o) : PF Γ mi_X1_serverExpiryTime D h0 (QR Γ D h0 (ovi o.1) o.2) h 37 [none] [.int t0] := by
  have e9 := Option.some.inj hf
  subst e9
  exact j_iret rfl dX1_serverExpiryTime_37
def f_X1_serverExpiryTime (r0 : Option Nat) (h0 : PH) : Option (Int32 × PH) := gR h0 r0 0 3 fun r1 => gIN h0 r1 1 12 fun v2 => (if v2 = (-4 : Int32) then (f_X1_serverExpiryTime_B37 (-4 : Int32) h0) else (gR h0 r0 0 3 fun r3 => gRN h0 r3 1 0 fun r4 => gRN h0 r4 2 0 fun r5 => gR h0 r0 0 3 fun r6 => gIN h0 r6 1 13 fun v7 => rv_ h0 r5 3 (cl_ (f_X4_reaches r5 v7 h0) fun v9 h8 => f_X1_serverExpiryTime_B37 v9 h8)))
theorem hyS_X1_serverExpiryTime : yX1_serverExpiryTime.cls ≠ "java/lang/invoke/MethodHandle" ∧ yX1_serverExpiryTime.cls ≠ "java/lang/invoke/VarHandle" ∧ (parseMethodDescriptor yX1_serverExpiryTime.desc).map (fun d => d.parameters.length) = some 0 := by decide +kernel
theorem hyV_X1_serverExpiryTime : yX1_serverExpiryTime.cls = RX1 ∧ yX1_serverExpiryTime.cls ≠ "java/lang/invoke/MethodHandle" ∧ yX1_serverExpiryTime.cls ≠ "java/lang/invoke/VarHandle" ∧ (parseMethodDescriptor yX1_serverExpiryTime.desc).map (fun d => d.parameters.length) = some 0 := by decide +kernel
theorem c_X1_serverExpiryTime {D : va_G} (r0 : Option Nat) {h0 : PH} (l : Launch) (hl : l.stackTraces = false) (x : Int32) (h1 : PH) (hf : f_X1_serverExpiryTime r0 h0 = some (x, h1)) : CT l D yX1_serverExpiryTime (ws_ yX1_serverExpiryTime cX1_serverExpiryTime 1 (Option.some FieldType.int)) 2 47 [va_rf r0] h0 (ovi x) h1 := by
  refine ct_of hl [some (va_rf r0)] (by decide) (by rw [lgl]; simp [va_rf_cat, cat_i, cat_l]) (by simp [lv_args, vsL, va_rf_cat, cat_i, cat_l]) (fun Γ => ?_)
  obtain ⟨o, ho⟩ : ∃ o : Int32 × PH, o = (x, h1) := ⟨_, rfl⟩
  rw [← ho] at hf
  have e1 : x = o.1 := by rw [ho]
  have e2 : h1 = o.2 := by rw [ho]
  subst e1 e2
  clear ho
  show PF Γ mi_X1_serverExpiryTime D h0 (QR Γ D h0 (ovi o.1) o.2) h0 0 [some (va_rf r0)] []
  unfold f_X1_serverExpiryTime at hf
  refine j_aload_n 0 dX1_serverExpiryTime_0 rfl rfl ?_
  refine j_gR (ci := 0) (k := 3) rfl in_X1 rfl q877 dX1_serverExpiryTime_1 hf (fun r1 hf => ?_)
  refine j_gIN (ci := 1) (k := 12) rfl in_X2 rfl q809 dX1_serverExpiryTime_4 hf (fun v2 hf => ?_)
  refine j_bipush (-4 : Int32) dX1_serverExpiryTime_7 (by decide) ?_
  refine j_icmp_ne 17 dX1_serverExpiryTime_9 (by decide) hf (fun c_ hf => ?_) (fun c_ hf => ?_)
  · refine j_aload_n 0 dX1_serverExpiryTime_17 rfl rfl ?_
    refine j_gR (ci := 0) (k := 3) rfl in_X1 rfl q877 dX1_serverExpiryTime_18 hf (fun r3 hf => ?_)
    refine j_gRN (ci := 1) (k := 0) rfl in_X2 rfl q787 dX1_serverExpiryTime_21 hf (fun r4 hf => ?_)
    refine j_gRN (ci := 2) (k := 0) rfl in_X3 rfl q520 dX1_serverExpiryTime_24 hf (fun r5 hf => ?_)
    refine j_aload_n 0 dX1_serverExpiryTime_27 rfl rfl ?_
    refine j_gR (ci := 0) (k := 3) rfl in_X1 rfl q877 dX1_serverExpiryTime_28 hf (fun r6 hf => ?_)
    refine j_gIN (ci := 1) (k := 13) rfl in_X2 rfl q811 dX1_serverExpiryTime_31 hf (fun v7 hf => ?_)
    refine kc_X1_269 rfl rfl rfl (by decide) dX1_serverExpiryTime_34 hf (fun v9 h8 hf => ?_)
    refine j_weak [none] (Wk.s Wk.n) ?_
    exact pf_X1_serverExpiryTime_B37 v9 h8 hf
  · refine j_bipush (-4 : Int32) dX1_serverExpiryTime_12 (by decide) ?_
    refine j_goto 37 dX1_serverExpiryTime_14 (by decide) ?_
    refine j_weak [none] (Wk.s Wk.n) ?_
    exact pf_X1_serverExpiryTime_B37 (-4 : Int32) h0 hf
abbrev mi_X1_graceLeft : MI := (cX1_graceLeft, 1, RX1, (Option.some FieldType.int), [], 2, 41, "graceLeft")
def f_X1_graceLeft (r0 : Option Nat) (h0 : PH) : Option (Int32 × PH) := gR h0 r0 0 3 fun r1 => gIN h0 r1 1 15 fun v2 => gR h0 r0 0 3 fun r3 => rv_ h0 r3 1 (cl_ (f_X2_serverClock r3 h0) fun v5 h4 => some ((if (0 : Int32) < (v2 - v5) then (v2 - v5) else (0 : Int32)), h4))
theorem hyS_X1_graceLeft : yX1_graceLeft.cls ≠ "java/lang/invoke/MethodHandle" ∧ yX1_graceLeft.cls ≠ "java/lang/invoke/VarHandle" ∧ (parseMethodDescriptor yX1_graceLeft.desc).map (fun d => d.parameters.length) = some 0 := by decide +kernel
theorem hyV_X1_graceLeft : yX1_graceLeft.cls = RX1 ∧ yX1_graceLeft.cls ≠ "java/lang/invoke/MethodHandle" ∧ yX1_graceLeft.cls ≠ "java/lang/invoke/VarHandle" ∧ (parseMethodDescriptor yX1_graceLeft.desc).map (fun d => d.parameters.length) = some 0 := by decide +kernel
theorem c_X1_graceLeft {D : va_G} (r0 : Option Nat) {h0 : PH} (l : Launch) (hl : l.stackTraces = false) (x : Int32) (h1 : PH) (hf : f_X1_graceLeft r0 h0 = some (x, h1)) : CT l D yX1_graceLeft (ws_ yX1_graceLeft cX1_graceLeft 1 (Option.some FieldType.int)) 2 41 [va_rf r0] h0 (ovi x) h1 := by
  refine ct_of hl [some (va_rf r0)] (by decide) (by rw [lgl]; simp [va_rf_cat, cat_i, cat_l]) (by simp [lv_args, vsL, va_rf_cat, cat_i, cat_l]) (fun Γ => ?_)
  obtain ⟨o, ho⟩ : ∃ o : Int32 × PH, o = (x, h1) := ⟨_, rfl⟩
  rw [← ho] at hf
  have e1 : x = o.1 := by rw [ho]
  have e2 : h1 = o.2 := by rw [ho]
  subst e1 e2
  clear ho
  show PF Γ mi_X1_graceLeft D h0 (QR Γ D h0 (ovi o.1) o.2) h0 0 [some (va_rf r0)] []
  unfold f_X1_graceLeft at hf
  refine j_iconst (0 : Int32) dX1_graceLeft_0 (by decide) ?_
  refine j_aload_n 0 dX1_graceLeft_1 rfl rfl ?_
  refine j_gR (ci := 0) (k := 3) rfl in_X1 rfl q877 dX1_graceLeft_2 hf (fun r1 hf => ?_)
  refine j_gIN (ci := 1) (k := 15) rfl in_X2 rfl q815 dX1_graceLeft_5 hf (fun v2 hf => ?_)
  refine j_aload_n 0 dX1_graceLeft_8 rfl rfl ?_
  refine j_gR (ci := 0) (k := 3) rfl in_X1 rfl q877 dX1_graceLeft_9 hf (fun r3 hf => ?_)
  refine kc_X1_131 rfl rfl rfl (by simp [va_rf_cat, cat_i, cat_l]) dX1_graceLeft_12 hf (fun v5 h4 hf => ?_)
  refine j_isub dX1_graceLeft_15 ?_
  refine j_mmax q1615 q288 q106 q289 rfl rfl (by decide) dX1_graceLeft_16 ?_
  have e9 := Option.some.inj hf
  subst e9
  exact j_iret rfl dX1_graceLeft_19
theorem kc_X1_275 {Γ : GX} {I : MI} {D : va_G} {h0 : PH} {Q : State → Prop} {h : PH} {pc : Nat} {vs : List (Option Value)} {rest : List Value} {β : Type} {o : β} {r : Option Nat}  {K : ((Int32) → PH → Option β)} (hI : I.2.2.1 = RX1) (hfr : Nat.ble 5 I.2.2.2.2.2.1 = true) (hlo : Nat.ble 110 I.2.2.2.2.2.2.1 = true) (hW : (rest.map fun v => v.category).sum ≤ 8) (hd : decode I.1 pc = .ok (.invokevirtual 275, 3)) (hf : rv_ h r 1 (cl_ (f_X2_leaders r h) K) = some o) (kk : ∀ (x : Int32) (h1 : PH), K x h1 = some o → PF Γ I D h0 Q h1 (pc + 3) vs (.int x :: rest)) : PF Γ I D h0 Q h pc vs (va_rf r :: rest) := by
  obtain ⟨cc, nL, own, rt, xt, fr, lo, nm⟩ := I
  cases hI
  exact j_cVi (n := 0) (y := yX2_leaders) (cc2 := cX2_leaders) (As := []) (C := RX2) (ci := 1) rfl (lw_V q1620 q1621 q1622 q91 q1623) hyV_X2_leaders hfr hlo rfl hW hd (c_X2_leaders r) hf _ rfl kk
abbrev mi_X1_leaders : MI := (cX1_leaders, 1, RX1, (Option.some FieldType.int), [], 5, 110, "leaders")
def f_X1_leaders (r0 : Option Nat) (h0 : PH) : Option (Int32 × PH) := gR h0 r0 0 3 fun r1 => rv_ h0 r1 1 (cl_ (f_X2_leaders r1 h0) fun v3 h2 => some (v3, h2))
theorem hyS_X1_leaders : yX1_leaders.cls ≠ "java/lang/invoke/MethodHandle" ∧ yX1_leaders.cls ≠ "java/lang/invoke/VarHandle" ∧ (parseMethodDescriptor yX1_leaders.desc).map (fun d => d.parameters.length) = some 0 := by decide +kernel
theorem hyV_X1_leaders : yX1_leaders.cls = RX1 ∧ yX1_leaders.cls ≠ "java/lang/invoke/MethodHandle" ∧ yX1_leaders.cls ≠ "java/lang/invoke/VarHandle" ∧ (parseMethodDescriptor yX1_leaders.desc).map (fun d => d.parameters.length) = some 0 := by decide +kernel
theorem c_X1_leaders {D : va_G} (r0 : Option Nat) {h0 : PH} (l : Launch) (hl : l.stackTraces = false) (x : Int32) (h1 : PH) (hf : f_X1_leaders r0 h0 = some (x, h1)) : CT l D yX1_leaders (ws_ yX1_leaders cX1_leaders 1 (Option.some FieldType.int)) 5 110 [va_rf r0] h0 (ovi x) h1 := by
  refine ct_of hl [some (va_rf r0)] (by decide) (by rw [lgl]; simp [va_rf_cat, cat_i, cat_l]) (by simp [lv_args, vsL, va_rf_cat, cat_i, cat_l]) (fun Γ => ?_)
  obtain ⟨o, ho⟩ : ∃ o : Int32 × PH, o = (x, h1) := ⟨_, rfl⟩
  rw [← ho] at hf
  have e1 : x = o.1 := by rw [ho]
  have e2 : h1 = o.2 := by rw [ho]
  subst e1 e2
  clear ho
  show PF Γ mi_X1_leaders D h0 (QR Γ D h0 (ovi o.1) o.2) h0 0 [some (va_rf r0)] []
  unfold f_X1_leaders at hf
  refine j_aload_n 0 dX1_leaders_0 rfl rfl ?_
  refine j_gR (ci := 0) (k := 3) rfl in_X1 rfl q877 dX1_leaders_1 hf (fun r1 hf => ?_)
  refine kc_X1_275 rfl rfl rfl (by decide) dX1_leaders_4 hf (fun v3 h2 hf => ?_)
  have e9 := Option.some.inj hf
  subst e9
  exact j_iret rfl dX1_leaders_7
theorem kc_X1_192 {Γ : GX} {I : MI} {D : va_G} {h0 : PH} {Q : State → Prop} {h : PH} {pc : Nat} {vs : List (Option Value)} {rest : List Value} {β : Type} {o : β} {r : Option Nat}  {K : ((Int32) → PH → Option β)} (hI : I.2.2.1 = RX1) (hfr : Nat.ble 1 I.2.2.2.2.2.1 = true) (hlo : Nat.ble 20 I.2.2.2.2.2.2.1 = true) (hW : (rest.map fun v => v.category).sum ≤ 8) (hd : decode I.1 pc = .ok (.invokeinterface 192 1, 5)) (hf : rv_ h r 19 (cl_ (f_J2_size r h) K) = some o) (kk : ∀ (x : Int32) (h1 : PH), K x h1 = some o → PF Γ I D h0 Q h1 (pc + 5) vs (.int x :: rest)) : PF Γ I D h0 Q h pc vs (va_rf r :: rest) := by
  obtain ⟨cc, nL, own, rt, xt, fr, lo, nm⟩ := I
  cases hI
  exact j_cFi (n := 0) (y := yJ2_size) (cc2 := cJ2_size) (As := []) (C := RJ2) (x9 := ⟨"java/util/List", "size", "()I"⟩) (ci := 19) rfl (by decide +kernel) (lw_F q1634 q684 q686 q96 q688) (by decide +kernel) hfr hlo rfl hW hd (c_J2_size r) hf _ rfl kk
abbrev mi_X1_messagesOnWay : MI := (cX1_messagesOnWay, 1, RX1, (Option.some FieldType.int), [], 1, 20, "messagesOnWay")
def f_X1_messagesOnWay (r0 : Option Nat) (h0 : PH) : Option (Int32 × PH) := gR h0 r0 0 3 fun r1 => gRN h0 r1 1 2 fun r2 => rv_ h0 r2 19 (cl_ (f_J2_size r2 h0) fun v4 h3 => some (v4, h3))
theorem hyS_X1_messagesOnWay : yX1_messagesOnWay.cls ≠ "java/lang/invoke/MethodHandle" ∧ yX1_messagesOnWay.cls ≠ "java/lang/invoke/VarHandle" ∧ (parseMethodDescriptor yX1_messagesOnWay.desc).map (fun d => d.parameters.length) = some 0 := by decide +kernel
theorem hyV_X1_messagesOnWay : yX1_messagesOnWay.cls = RX1 ∧ yX1_messagesOnWay.cls ≠ "java/lang/invoke/MethodHandle" ∧ yX1_messagesOnWay.cls ≠ "java/lang/invoke/VarHandle" ∧ (parseMethodDescriptor yX1_messagesOnWay.desc).map (fun d => d.parameters.length) = some 0 := by decide +kernel
theorem c_X1_messagesOnWay {D : va_G} (r0 : Option Nat) {h0 : PH} (l : Launch) (hl : l.stackTraces = false) (x : Int32) (h1 : PH) (hf : f_X1_messagesOnWay r0 h0 = some (x, h1)) : CT l D yX1_messagesOnWay (ws_ yX1_messagesOnWay cX1_messagesOnWay 1 (Option.some FieldType.int)) 1 20 [va_rf r0] h0 (ovi x) h1 := by
  refine ct_of hl [some (va_rf r0)] (by decide) (by rw [lgl]; simp [va_rf_cat, cat_i, cat_l]) (by simp [lv_args, vsL, va_rf_cat, cat_i, cat_l]) (fun Γ => ?_)
  obtain ⟨o, ho⟩ : ∃ o : Int32 × PH, o = (x, h1) := ⟨_, rfl⟩
  rw [← ho] at hf
  have e1 : x = o.1 := by rw [ho]
  have e2 : h1 = o.2 := by rw [ho]
  subst e1 e2
  clear ho
  show PF Γ mi_X1_messagesOnWay D h0 (QR Γ D h0 (ovi o.1) o.2) h0 0 [some (va_rf r0)] []
  unfold f_X1_messagesOnWay at hf
  refine j_aload_n 0 dX1_messagesOnWay_0 rfl rfl ?_
  refine j_gR (ci := 0) (k := 3) rfl in_X1 rfl q877 dX1_messagesOnWay_1 hf (fun r1 hf => ?_)
  refine j_gRN (ci := 1) (k := 2) rfl in_X2 rfl q791 dX1_messagesOnWay_4 hf (fun r2 hf => ?_)
  refine kc_X1_192 rfl rfl rfl (by decide) dX1_messagesOnWay_7 hf (fun v4 h3 hf => ?_)
  have e9 := Option.some.inj hf
  subst e9
  exact j_iret rfl dX1_messagesOnWay_12
abbrev mi_X1_delayedWrites : MI := (cX1_delayedWrites, 1, RX1, (Option.some FieldType.int), [], 1, 20, "delayedWrites")
def f_X1_delayedWrites (r0 : Option Nat) (h0 : PH) : Option (Int32 × PH) := gR h0 r0 0 3 fun r1 => gRN h0 r1 1 3 fun r2 => rv_ h0 r2 19 (cl_ (f_J2_size r2 h0) fun v4 h3 => some (v4, h3))
theorem hyS_X1_delayedWrites : yX1_delayedWrites.cls ≠ "java/lang/invoke/MethodHandle" ∧ yX1_delayedWrites.cls ≠ "java/lang/invoke/VarHandle" ∧ (parseMethodDescriptor yX1_delayedWrites.desc).map (fun d => d.parameters.length) = some 0 := by decide +kernel
theorem hyV_X1_delayedWrites : yX1_delayedWrites.cls = RX1 ∧ yX1_delayedWrites.cls ≠ "java/lang/invoke/MethodHandle" ∧ yX1_delayedWrites.cls ≠ "java/lang/invoke/VarHandle" ∧ (parseMethodDescriptor yX1_delayedWrites.desc).map (fun d => d.parameters.length) = some 0 := by decide +kernel
theorem c_X1_delayedWrites {D : va_G} (r0 : Option Nat) {h0 : PH} (l : Launch) (hl : l.stackTraces = false) (x : Int32) (h1 : PH) (hf : f_X1_delayedWrites r0 h0 = some (x, h1)) : CT l D yX1_delayedWrites (ws_ yX1_delayedWrites cX1_delayedWrites 1 (Option.some FieldType.int)) 1 20 [va_rf r0] h0 (ovi x) h1 := by
  refine ct_of hl [some (va_rf r0)] (by decide) (by rw [lgl]; simp [va_rf_cat, cat_i, cat_l]) (by simp [lv_args, vsL, va_rf_cat, cat_i, cat_l]) (fun Γ => ?_)
  obtain ⟨o, ho⟩ : ∃ o : Int32 × PH, o = (x, h1) := ⟨_, rfl⟩
  rw [← ho] at hf
  have e1 : x = o.1 := by rw [ho]
  have e2 : h1 = o.2 := by rw [ho]
  subst e1 e2
  clear ho
  show PF Γ mi_X1_delayedWrites D h0 (QR Γ D h0 (ovi o.1) o.2) h0 0 [some (va_rf r0)] []
  unfold f_X1_delayedWrites at hf
  refine j_aload_n 0 dX1_delayedWrites_0 rfl rfl ?_
  refine j_gR (ci := 0) (k := 3) rfl in_X1 rfl q877 dX1_delayedWrites_1 hf (fun r1 hf => ?_)
  refine j_gRN (ci := 1) (k := 3) rfl in_X2 rfl q793 dX1_delayedWrites_4 hf (fun r2 hf => ?_)
  refine kc_X1_192 rfl rfl rfl (by decide) dX1_delayedWrites_7 hf (fun v4 h3 hf => ?_)
  have e9 := Option.some.inj hf
  subst e9
  exact j_iret rfl dX1_delayedWrites_12
abbrev mi_X1_messagesLost : MI := (cX1_messagesLost, 1, RX1, (Option.some FieldType.int), [], 0, 0, "messagesLost")
def f_X1_messagesLost (r0 : Option Nat) (h0 : PH) : Option (Int32 × PH) := gR h0 r0 0 3 fun r1 => gIN h0 r1 1 11 fun v2 => some (v2, h0)
theorem hyS_X1_messagesLost : yX1_messagesLost.cls ≠ "java/lang/invoke/MethodHandle" ∧ yX1_messagesLost.cls ≠ "java/lang/invoke/VarHandle" ∧ (parseMethodDescriptor yX1_messagesLost.desc).map (fun d => d.parameters.length) = some 0 := by decide +kernel
theorem hyV_X1_messagesLost : yX1_messagesLost.cls = RX1 ∧ yX1_messagesLost.cls ≠ "java/lang/invoke/MethodHandle" ∧ yX1_messagesLost.cls ≠ "java/lang/invoke/VarHandle" ∧ (parseMethodDescriptor yX1_messagesLost.desc).map (fun d => d.parameters.length) = some 0 := by decide +kernel
theorem c_X1_messagesLost {D : va_G} (r0 : Option Nat) {h0 : PH} (l : Launch) (hl : l.stackTraces = false) (x : Int32) (h1 : PH) (hf : f_X1_messagesLost r0 h0 = some (x, h1)) : CT l D yX1_messagesLost (ws_ yX1_messagesLost cX1_messagesLost 1 (Option.some FieldType.int)) 0 0 [va_rf r0] h0 (ovi x) h1 := by
  refine ct_of hl [some (va_rf r0)] (by decide) (by rw [lgl]; simp [va_rf_cat, cat_i, cat_l]) (by simp [lv_args, vsL, va_rf_cat, cat_i, cat_l]) (fun Γ => ?_)
  obtain ⟨o, ho⟩ : ∃ o : Int32 × PH, o = (x, h1) := ⟨_, rfl⟩
  rw [← ho] at hf
  have e1 : x = o.1 := by rw [ho]
  have e2 : h1 = o.2 := by rw [ho]
  subst e1 e2
  clear ho
  show PF Γ mi_X1_messagesLost D h0 (QR Γ D h0 (ovi o.1) o.2) h0 0 [some (va_rf r0)] []
  unfold f_X1_messagesLost at hf
  refine j_aload_n 0 dX1_messagesLost_0 rfl rfl ?_
  refine j_gR (ci := 0) (k := 3) rfl in_X1 rfl q877 dX1_messagesLost_1 hf (fun r1 hf => ?_)
  refine j_gIN (ci := 1) (k := 11) rfl in_X2 rfl q807 dX1_messagesLost_4 hf (fun v2 hf => ?_)
  have e9 := Option.some.inj hf
  subst e9
  exact j_iret rfl dX1_messagesLost_7
abbrev mi_X1_logSize : MI := (cX1_logSize, 1, RX1, (Option.some FieldType.int), [], 1, 20, "logSize")
def f_X1_logSize (r0 : Option Nat) (h0 : PH) : Option (Int32 × PH) := gR h0 r0 0 3 fun r1 => gRN h0 r1 1 5 fun r2 => rv_ h0 r2 19 (cl_ (f_J2_size r2 h0) fun v4 h3 => some (v4, h3))
theorem hyS_X1_logSize : yX1_logSize.cls ≠ "java/lang/invoke/MethodHandle" ∧ yX1_logSize.cls ≠ "java/lang/invoke/VarHandle" ∧ (parseMethodDescriptor yX1_logSize.desc).map (fun d => d.parameters.length) = some 0 := by decide +kernel
theorem hyV_X1_logSize : yX1_logSize.cls = RX1 ∧ yX1_logSize.cls ≠ "java/lang/invoke/MethodHandle" ∧ yX1_logSize.cls ≠ "java/lang/invoke/VarHandle" ∧ (parseMethodDescriptor yX1_logSize.desc).map (fun d => d.parameters.length) = some 0 := by decide +kernel
theorem c_X1_logSize {D : va_G} (r0 : Option Nat) {h0 : PH} (l : Launch) (hl : l.stackTraces = false) (x : Int32) (h1 : PH) (hf : f_X1_logSize r0 h0 = some (x, h1)) : CT l D yX1_logSize (ws_ yX1_logSize cX1_logSize 1 (Option.some FieldType.int)) 1 20 [va_rf r0] h0 (ovi x) h1 := by
  refine ct_of hl [some (va_rf r0)] (by decide) (by rw [lgl]; simp [va_rf_cat, cat_i, cat_l]) (by simp [lv_args, vsL, va_rf_cat, cat_i, cat_l]) (fun Γ => ?_)
  obtain ⟨o, ho⟩ : ∃ o : Int32 × PH, o = (x, h1) := ⟨_, rfl⟩
  rw [← ho] at hf
  have e1 : x = o.1 := by rw [ho]
  have e2 : h1 = o.2 := by rw [ho]
  subst e1 e2
  clear ho
  show PF Γ mi_X1_logSize D h0 (QR Γ D h0 (ovi o.1) o.2) h0 0 [some (va_rf r0)] []
  unfold f_X1_logSize at hf
  refine j_aload_n 0 dX1_logSize_0 rfl rfl ?_
  refine j_gR (ci := 0) (k := 3) rfl in_X1 rfl q877 dX1_logSize_1 hf (fun r1 hf => ?_)
  refine j_gRN (ci := 1) (k := 5) rfl in_X2 rfl q797 dX1_logSize_4 hf (fun r2 hf => ?_)
  refine kc_X1_192 rfl rfl rfl (by decide) dX1_logSize_7 hf (fun v4 h3 hf => ?_)
  have e9 := Option.some.inj hf
  subst e9
  exact j_iret rfl dX1_logSize_12
abbrev mi_X1_splitTime : MI := (cX1_splitTime, 1, RX1, (Option.some FieldType.int), [], 0, 0, "splitTime")
def f_X1_splitTime (r0 : Option Nat) (h0 : PH) : Option (Int32 × PH) := gR h0 r0 0 3 fun r1 => gIN h0 r1 1 16 fun v2 => some (v2, h0)
theorem hyS_X1_splitTime : yX1_splitTime.cls ≠ "java/lang/invoke/MethodHandle" ∧ yX1_splitTime.cls ≠ "java/lang/invoke/VarHandle" ∧ (parseMethodDescriptor yX1_splitTime.desc).map (fun d => d.parameters.length) = some 0 := by decide +kernel
theorem hyV_X1_splitTime : yX1_splitTime.cls = RX1 ∧ yX1_splitTime.cls ≠ "java/lang/invoke/MethodHandle" ∧ yX1_splitTime.cls ≠ "java/lang/invoke/VarHandle" ∧ (parseMethodDescriptor yX1_splitTime.desc).map (fun d => d.parameters.length) = some 0 := by decide +kernel
theorem c_X1_splitTime {D : va_G} (r0 : Option Nat) {h0 : PH} (l : Launch) (hl : l.stackTraces = false) (x : Int32) (h1 : PH) (hf : f_X1_splitTime r0 h0 = some (x, h1)) : CT l D yX1_splitTime (ws_ yX1_splitTime cX1_splitTime 1 (Option.some FieldType.int)) 0 0 [va_rf r0] h0 (ovi x) h1 := by
  refine ct_of hl [some (va_rf r0)] (by decide) (by rw [lgl]; simp [va_rf_cat, cat_i, cat_l]) (by simp [lv_args, vsL, va_rf_cat, cat_i, cat_l]) (fun Γ => ?_)
  obtain ⟨o, ho⟩ : ∃ o : Int32 × PH, o = (x, h1) := ⟨_, rfl⟩
  rw [← ho] at hf
  have e1 : x = o.1 := by rw [ho]
  have e2 : h1 = o.2 := by rw [ho]
  subst e1 e2
  clear ho
  show PF Γ mi_X1_splitTime D h0 (QR Γ D h0 (ovi o.1) o.2) h0 0 [some (va_rf r0)] []
  unfold f_X1_splitTime at hf
  refine j_aload_n 0 dX1_splitTime_0 rfl rfl ?_
  refine j_gR (ci := 0) (k := 3) rfl in_X1 rfl q877 dX1_splitTime_1 hf (fun r1 hf => ?_)
  refine j_gIN (ci := 1) (k := 16) rfl in_X2 rfl q817 dX1_splitTime_4 hf (fun v2 hf => ?_)
  have e9 := Option.some.inj hf
  subst e9
  exact j_iret rfl dX1_splitTime_7
abbrev mi_X1_reads : MI := (cX1_reads, 1, RX1, (Option.some FieldType.int), [], 0, 0, "reads")
def f_X1_reads (r0 : Option Nat) (h0 : PH) : Option (Int32 × PH) := gR h0 r0 0 3 fun r1 => gIN h0 r1 1 18 fun v2 => some (v2, h0)
theorem hyS_X1_reads : yX1_reads.cls ≠ "java/lang/invoke/MethodHandle" ∧ yX1_reads.cls ≠ "java/lang/invoke/VarHandle" ∧ (parseMethodDescriptor yX1_reads.desc).map (fun d => d.parameters.length) = some 0 := by decide +kernel
theorem hyV_X1_reads : yX1_reads.cls = RX1 ∧ yX1_reads.cls ≠ "java/lang/invoke/MethodHandle" ∧ yX1_reads.cls ≠ "java/lang/invoke/VarHandle" ∧ (parseMethodDescriptor yX1_reads.desc).map (fun d => d.parameters.length) = some 0 := by decide +kernel
theorem c_X1_reads {D : va_G} (r0 : Option Nat) {h0 : PH} (l : Launch) (hl : l.stackTraces = false) (x : Int32) (h1 : PH) (hf : f_X1_reads r0 h0 = some (x, h1)) : CT l D yX1_reads (ws_ yX1_reads cX1_reads 1 (Option.some FieldType.int)) 0 0 [va_rf r0] h0 (ovi x) h1 := by
  refine ct_of hl [some (va_rf r0)] (by decide) (by rw [lgl]; simp [va_rf_cat, cat_i, cat_l]) (by simp [lv_args, vsL, va_rf_cat, cat_i, cat_l]) (fun Γ => ?_)
  obtain ⟨o, ho⟩ : ∃ o : Int32 × PH, o = (x, h1) := ⟨_, rfl⟩
  rw [← ho] at hf
  have e1 : x = o.1 := by rw [ho]
  have e2 : h1 = o.2 := by rw [ho]
  subst e1 e2
  clear ho
  show PF Γ mi_X1_reads D h0 (QR Γ D h0 (ovi o.1) o.2) h0 0 [some (va_rf r0)] []
  unfold f_X1_reads at hf
  refine j_aload_n 0 dX1_reads_0 rfl rfl ?_
  refine j_gR (ci := 0) (k := 3) rfl in_X1 rfl q877 dX1_reads_1 hf (fun r1 hf => ?_)
  refine j_gIN (ci := 1) (k := 18) rfl in_X2 rfl q821 dX1_reads_4 hf (fun v2 hf => ?_)
  have e9 := Option.some.inj hf
  subst e9
  exact j_iret rfl dX1_reads_7
abbrev mi_X1_staleReads : MI := (cX1_staleReads, 1, RX1, (Option.some FieldType.int), [], 0, 0, "staleReads")
def f_X1_staleReads (r0 : Option Nat) (h0 : PH) : Option (Int32 × PH) := gR h0 r0 0 3 fun r1 => gIN h0 r1 1 19 fun v2 => some (v2, h0)
theorem hyS_X1_staleReads : yX1_staleReads.cls ≠ "java/lang/invoke/MethodHandle" ∧ yX1_staleReads.cls ≠ "java/lang/invoke/VarHandle" ∧ (parseMethodDescriptor yX1_staleReads.desc).map (fun d => d.parameters.length) = some 0 := by decide +kernel
theorem hyV_X1_staleReads : yX1_staleReads.cls = RX1 ∧ yX1_staleReads.cls ≠ "java/lang/invoke/MethodHandle" ∧ yX1_staleReads.cls ≠ "java/lang/invoke/VarHandle" ∧ (parseMethodDescriptor yX1_staleReads.desc).map (fun d => d.parameters.length) = some 0 := by decide +kernel
theorem c_X1_staleReads {D : va_G} (r0 : Option Nat) {h0 : PH} (l : Launch) (hl : l.stackTraces = false) (x : Int32) (h1 : PH) (hf : f_X1_staleReads r0 h0 = some (x, h1)) : CT l D yX1_staleReads (ws_ yX1_staleReads cX1_staleReads 1 (Option.some FieldType.int)) 0 0 [va_rf r0] h0 (ovi x) h1 := by
  refine ct_of hl [some (va_rf r0)] (by decide) (by rw [lgl]; simp [va_rf_cat, cat_i, cat_l]) (by simp [lv_args, vsL, va_rf_cat, cat_i, cat_l]) (fun Γ => ?_)
  obtain ⟨o, ho⟩ : ∃ o : Int32 × PH, o = (x, h1) := ⟨_, rfl⟩
  rw [← ho] at hf
  have e1 : x = o.1 := by rw [ho]
  have e2 : h1 = o.2 := by rw [ho]
  subst e1 e2
  clear ho
  show PF Γ mi_X1_staleReads D h0 (QR Γ D h0 (ovi o.1) o.2) h0 0 [some (va_rf r0)] []
  unfold f_X1_staleReads at hf
  refine j_aload_n 0 dX1_staleReads_0 rfl rfl ?_
  refine j_gR (ci := 0) (k := 3) rfl in_X1 rfl q877 dX1_staleReads_1 hf (fun r1 hf => ?_)
  refine j_gIN (ci := 1) (k := 19) rfl in_X2 rfl q823 dX1_staleReads_4 hf (fun v2 hf => ?_)
  have e9 := Option.some.inj hf
  subst e9
  exact j_iret rfl dX1_staleReads_7
abbrev mi_X1_smallestBound : MI := (cX1_smallestBound, 6, RX1, (Option.some FieldType.int), [], 1, 24, "smallestBound")
def f_X1_smallestBound_L35 : Nat → Int32 → Option Nat → Int32 → Int32 → PH → Option (Int32 × PH)
  | 0, _, _, _, _, _ => none
  | n + 1, x1, x2, x3, x4, h => (if x3 ≤ x4 then (some (x1, h)) else (aQ h x2 5 x4 fun r8 => gRN h r8 5 0 fun r9 => gIN h r9 3 0 fun v10 => f_X1_smallestBound_L35 n (if x1 < (if 0 ≤ (v10 - (1000 : Int32)) then (v10 - (1000 : Int32)) else 0 - (v10 - (1000 : Int32))) then (if 0 ≤ (v10 - (1000 : Int32)) then (v10 - (1000 : Int32)) else 0 - (v10 - (1000 : Int32))) else x1) x2 x3 (x4 + (1 : Int32)) h))
theorem pf_X1_smallestBound_L35 {Γ : GX} {D : va_G} {h0 : PH} {o : Int32 × PH} : ∀ (n : Nat) (x1 : Int32) (x2 : Option Nat) (x3 : Int32) (x4 : Int32) (h : PH), f_X1_smallestBound_L35 n x1 x2 x3 x4 h = some o → PF Γ mi_X1_smallestBound D h0 (QR Γ D h0 (ovi o.1) o.2) h 35 [none, some (.int x1), some (va_rf x2), some (.int x3), some (.int x4), none] [] := by
  intro n
  induction n with
  | zero => intro x1 x2 x3 x4 h hf; cases hf
  | succ n ih =>
    intro x1 x2 x3 x4 h hf
    refine j_iload dX1_smallestBound_35 rfl ?_
    refine j_iload_n 3 dX1_smallestBound_37 rfl rfl ?_
    refine j_icmp_ge 73 dX1_smallestBound_38 (by decide) hf (fun c_ hf => ?_) (fun c_ hf => ?_)
    · refine j_iload_n 1 dX1_smallestBound_73 rfl rfl ?_
      have e9 := Option.some.inj hf
      subst e9
      exact j_iret rfl dX1_smallestBound_74
    · refine j_aload_n 2 dX1_smallestBound_41 rfl rfl ?_
      refine j_iload dX1_smallestBound_42 rfl ?_
      refine j_aald (t := 5) rfl dX1_smallestBound_44 hf (fun r8 hf => ?_)
      refine j_astore [none, some (.int x1), some (va_rf x2), some (.int x3), some (.int x4), some (va_rf r8)] dX1_smallestBound_45 (cz rfl) rfl rfl ?_
      refine j_iload_n 1 dX1_smallestBound_47 rfl rfl ?_
      refine j_aload dX1_smallestBound_48 rfl ?_
      refine j_gRN (ci := 5) (k := 0) rfl in_X6 rfl q723 dX1_smallestBound_50 hf (fun r9 hf => ?_)
      refine j_gIN (ci := 3) (k := 0) rfl in_X4 rfl q161 dX1_smallestBound_53 hf (fun v10 hf => ?_)
      refine j_sipush (1000 : Int32) dX1_smallestBound_56 (by decide) ?_
      refine j_isub dX1_smallestBound_59 ?_
      refine j_mabs q1663 q1664 q106 q1665 rfl rfl (by simp [va_rf_cat, cat_i, cat_l]) dX1_smallestBound_60 ?_
      refine j_mmax q1615 q288 q106 q289 rfl rfl (by decide) dX1_smallestBound_63 ?_
      refine j_istore_n 1 [none, some (.int (if x1 < (if 0 ≤ (v10 - (1000 : Int32)) then (v10 - (1000 : Int32)) else 0 - (v10 - (1000 : Int32))) then (if 0 ≤ (v10 - (1000 : Int32)) then (v10 - (1000 : Int32)) else 0 - (v10 - (1000 : Int32))) else x1)), some (va_rf x2), some (.int x3), some (.int x4), some (va_rf r8)] dX1_smallestBound_66 rfl cn' rfl rfl ?_
      refine j_iinc (x4 + (1 : Int32)) [none, some (.int (if x1 < (if 0 ≤ (v10 - (1000 : Int32)) then (v10 - (1000 : Int32)) else 0 - (v10 - (1000 : Int32))) then (if 0 ≤ (v10 - (1000 : Int32)) then (v10 - (1000 : Int32)) else 0 - (v10 - (1000 : Int32))) else x1)), some (va_rf x2), some (.int x3), some (.int (x4 + (1 : Int32))), some (va_rf r8)] dX1_smallestBound_67 rfl rfl (cz rfl) rfl rfl ?_
      refine j_goto 35 dX1_smallestBound_70 (by decide) ?_
      refine j_weak [none, some (.int (if x1 < (if 0 ≤ (v10 - (1000 : Int32)) then (v10 - (1000 : Int32)) else 0 - (v10 - (1000 : Int32))) then (if 0 ≤ (v10 - (1000 : Int32)) then (v10 - (1000 : Int32)) else 0 - (v10 - (1000 : Int32))) else x1)), some (va_rf x2), some (.int x3), some (.int (x4 + (1 : Int32))), none] (Wk.k (Wk.k (Wk.k (Wk.k (Wk.k (Wk.s Wk.n)))))) ?_
      exact ih (if x1 < (if 0 ≤ (v10 - (1000 : Int32)) then (v10 - (1000 : Int32)) else 0 - (v10 - (1000 : Int32))) then (if 0 ≤ (v10 - (1000 : Int32)) then (v10 - (1000 : Int32)) else 0 - (v10 - (1000 : Int32))) else x1) x2 x3 (x4 + (1 : Int32)) h hf
def f_X1_smallestBound (r0 : Option Nat) (h0 : PH) : Option (Int32 × PH) := gR h0 r0 0 3 fun r1 => gRN h0 r1 1 0 fun r2 => gRN h0 r2 2 0 fun r3 => gIN h0 r3 3 0 fun v4 => gR h0 r0 0 3 fun r5 => gRN h0 r5 1 1 fun r6 => aN h0 r6 5 fun v7 => f_X1_smallestBound_L35 FU (if 0 ≤ (v4 - (1000 : Int32)) then (v4 - (1000 : Int32)) else 0 - (v4 - (1000 : Int32))) r6 v7 (0 : Int32) h0
theorem hyS_X1_smallestBound : yX1_smallestBound.cls ≠ "java/lang/invoke/MethodHandle" ∧ yX1_smallestBound.cls ≠ "java/lang/invoke/VarHandle" ∧ (parseMethodDescriptor yX1_smallestBound.desc).map (fun d => d.parameters.length) = some 0 := by decide +kernel
theorem hyV_X1_smallestBound : yX1_smallestBound.cls = RX1 ∧ yX1_smallestBound.cls ≠ "java/lang/invoke/MethodHandle" ∧ yX1_smallestBound.cls ≠ "java/lang/invoke/VarHandle" ∧ (parseMethodDescriptor yX1_smallestBound.desc).map (fun d => d.parameters.length) = some 0 := by decide +kernel
theorem c_X1_smallestBound {D : va_G} (r0 : Option Nat) {h0 : PH} (l : Launch) (hl : l.stackTraces = false) (x : Int32) (h1 : PH) (hf : f_X1_smallestBound r0 h0 = some (x, h1)) : CT l D yX1_smallestBound (ws_ yX1_smallestBound cX1_smallestBound 6 (Option.some FieldType.int)) 1 24 [va_rf r0] h0 (ovi x) h1 := by
  refine ct_of hl [some (va_rf r0), none, none, none, none, none] (by decide) (by rw [lgl]; simp [va_rf_cat, cat_i, cat_l]) (by simp [lv_args, vsL, va_rf_cat, cat_i, cat_l]) (fun Γ => ?_)
  obtain ⟨o, ho⟩ : ∃ o : Int32 × PH, o = (x, h1) := ⟨_, rfl⟩
  rw [← ho] at hf
  have e1 : x = o.1 := by rw [ho]
  have e2 : h1 = o.2 := by rw [ho]
  subst e1 e2
  clear ho
  show PF Γ mi_X1_smallestBound D h0 (QR Γ D h0 (ovi o.1) o.2) h0 0 [some (va_rf r0), none, none, none, none, none] []
  unfold f_X1_smallestBound at hf
  refine j_aload_n 0 dX1_smallestBound_0 rfl rfl ?_
  refine j_gR (ci := 0) (k := 3) rfl in_X1 rfl q877 dX1_smallestBound_1 hf (fun r1 hf => ?_)
  refine j_gRN (ci := 1) (k := 0) rfl in_X2 rfl q787 dX1_smallestBound_4 hf (fun r2 hf => ?_)
  refine j_gRN (ci := 2) (k := 0) rfl in_X3 rfl q520 dX1_smallestBound_7 hf (fun r3 hf => ?_)
  refine j_gIN (ci := 3) (k := 0) rfl in_X4 rfl q161 dX1_smallestBound_10 hf (fun v4 hf => ?_)
  refine j_sipush (1000 : Int32) dX1_smallestBound_13 (by decide) ?_
  refine j_isub dX1_smallestBound_16 ?_
  refine j_mabs q1663 q1664 q106 q1665 rfl rfl (by decide) dX1_smallestBound_17 ?_
  refine j_istore_n 1 [some (va_rf r0), some (.int (if 0 ≤ (v4 - (1000 : Int32)) then (v4 - (1000 : Int32)) else 0 - (v4 - (1000 : Int32)))), none, none, none, none] dX1_smallestBound_20 rfl (cz (va_rf_cat _)) rfl rfl ?_
  refine j_aload_n 0 dX1_smallestBound_21 rfl rfl ?_
  refine j_gR (ci := 0) (k := 3) rfl in_X1 rfl q877 dX1_smallestBound_22 hf (fun r5 hf => ?_)
  refine j_gRN (ci := 1) (k := 1) rfl in_X2 rfl q789 dX1_smallestBound_25 hf (fun r6 hf => ?_)
  refine j_astore_n 2 [some (va_rf r0), some (.int (if 0 ≤ (v4 - (1000 : Int32)) then (v4 - (1000 : Int32)) else 0 - (v4 - (1000 : Int32)))), some (va_rf r6), none, none, none] dX1_smallestBound_28 rfl (cz rfl) rfl rfl ?_
  refine j_aload_n 2 dX1_smallestBound_29 rfl rfl ?_
  refine j_alen (t := 5) rfl dX1_smallestBound_30 hf (fun v7 hf => ?_)
  refine j_istore_n 3 [some (va_rf r0), some (.int (if 0 ≤ (v4 - (1000 : Int32)) then (v4 - (1000 : Int32)) else 0 - (v4 - (1000 : Int32)))), some (va_rf r6), some (.int v7), none, none] dX1_smallestBound_31 rfl (cz (va_rf_cat _)) rfl rfl ?_
  refine j_iconst (0 : Int32) dX1_smallestBound_32 (by decide) ?_
  refine j_istore [some (va_rf r0), some (.int (if 0 ≤ (v4 - (1000 : Int32)) then (v4 - (1000 : Int32)) else 0 - (v4 - (1000 : Int32)))), some (va_rf r6), some (.int v7), some (.int (0 : Int32)), none] dX1_smallestBound_33 (cz rfl) rfl rfl ?_
  refine j_weak [none, some (.int (if 0 ≤ (v4 - (1000 : Int32)) then (v4 - (1000 : Int32)) else 0 - (v4 - (1000 : Int32)))), some (va_rf r6), some (.int v7), some (.int (0 : Int32)), none] (Wk.s (Wk.k (Wk.k (Wk.k (Wk.k (Wk.k Wk.n)))))) ?_
  exact pf_X1_smallestBound_L35 FU (if 0 ≤ (v4 - (1000 : Int32)) then (v4 - (1000 : Int32)) else 0 - (v4 - (1000 : Int32))) r6 v7 (0 : Int32) h0 hf
