/-! printed by gen.py: X1_staleCaches X1_check X1_node X1_unable X1_withdraw X1_crash X1_restart X1_pause X1_setCut X1_planOutage X1_checkRegister X1_unfit X1_writeLater X1_fetch X1_read X1_stored X1_version X1_isLeading X1_token X1_nodeExpiryTime X1_margin X1_timerTime X1_nodeState -/
set_option maxRecDepth 100000
theorem kc_X1_345 {Γ : GX} {I : MI} {D : va_G} {h0 : PH} {Q : State → Prop} {h : PH} {pc : Nat} {vs : List (Option Value)} {rest : List Value} {β : Type} {o : β} {r : Option Nat} {p0 : Option Nat} {K : ((Int32) → PH → Option β)} (hI : I.2.2.1 = RX1) (hfr : Nat.ble 5 I.2.2.2.2.2.1 = true) (hlo : Nat.ble 111 I.2.2.2.2.2.2.1 = true) (hW : (rest.map fun v => v.category).sum ≤ 8) (hd : decode I.1 pc = .ok (.invokevirtual 345, 3)) (hf : rv_ h r 1 (cl_ (f_X2_isStale r p0 h) K) = some o) (kk : ∀ (x : Int32) (h1 : PH), K x h1 = some o → PF Γ I D h0 Q h1 (pc + 3) vs (.int x :: rest)) : PF Γ I D h0 Q h pc vs (va_rf p0 :: va_rf r :: rest) := by
  obtain ⟨cc, nL, own, rt, xt, fr, lo, nm⟩ := I
  cases hI
  exact j_cVi (n := 1) (y := yX2_isStale) (cc2 := cX2_isStale) (As := [va_rf p0]) (C := RX2) (ci := 1) rfl (lw_V q1682 q1683 q1684 q91 q1685) hyV_X2_isStale hfr hlo rfl hW hd (c_X2_isStale r p0) hf _ rfl kk
abbrev mi_X1_staleCaches : MI := (cX1_staleCaches, 3, RX1, (Option.some FieldType.int), [], 5, 111, "staleCaches")
def f_X1_staleCaches_B43 (k4 : Option Nat → Int32 → Int32 → PH → Option (Int32 × PH)) (x0 : Option Nat) (x2 : Int32) (t0 : Int32) (t1 : Int32) (h : PH) : Option (Int32 × PH) := k4 x0 (t0 ||| t1) (x2 + (1 : Int32)) h
theorem pf_X1_staleCaches_B43 {Γ : GX} {D : va_G} {h0 : PH} {o : Int32 × PH} (k4 : Option Nat → Int32 → Int32 → PH → Option (Int32 × PH)) (hk4 : ∀ (x0 : Option Nat) (x1 : Int32) (x2 : Int32) (h : PH), k4 x0 x1 x2 h = some o → PF Γ mi_X1_staleCaches D h0 (QR Γ D h0 (ovi o.1) o.2) h 4 [some (va_rf x0), some (.int x1), some (.int x2)] []) (x0 : Option Nat) (x2 : Int32) (t0 : Int32) (t1 : Int32) (h : PH) (hf : f_X1_staleCaches_B43 k4 x0 x2 t0 t1 h = some o) : PF Γ mi_X1_staleCaches D h0 (QR Γ D h0 (ovi o.1) o.2) h 43 [some (va_rf x0), none, some (.int x2)] [.int t1, .int t0] := by
  refine j_ior dX1_staleCaches_43 ?_
  refine j_istore_n 1 [some (va_rf x0), some (.int (t0 ||| t1)), some (.int x2)] dX1_staleCaches_44 rfl (cz (va_rf_cat _)) rfl rfl ?_
  refine j_iinc (x2 + (1 : Int32)) [some (va_rf x0), some (.int (t0 ||| t1)), some (.int (x2 + (1 : Int32)))] dX1_staleCaches_45 rfl rfl (cz rfl) rfl rfl ?_
  refine j_goto 4 dX1_staleCaches_48 (by decide) ?_
  exact hk4 x0 (t0 ||| t1) (x2 + (1 : Int32)) h hf
def f_X1_staleCaches_L4 : Nat → Option Nat → Int32 → Int32 → PH → Option (Int32 × PH)
  | 0, _, _, _, _ => none
  | n + 1, x0, x1, x2, h => gR h x0 0 3 fun r1 => gRN h r1 1 1 fun r2 => aN h r2 5 fun v3 => (if v3 ≤ x2 then (some (x1, h)) else (gR h x0 0 3 fun r4 => gR h x0 0 3 fun r5 => gRN h r5 1 1 fun r6 => aQ h r6 5 x2 fun r7 => rv_ h r4 1 (cl_ (f_X2_isStale r4 r7 h) fun v9 h8 => (if v9 = 0 then (f_X1_staleCaches_B43 (f_X1_staleCaches_L4 n) x0 x2 x1 (0 : Int32) h8) else (f_X1_staleCaches_B43 (f_X1_staleCaches_L4 n) x0 x2 x1 ((1 : Int32) <<< (x2 &&& 31)) h8)))))
theorem pf_X1_staleCaches_L4 {Γ : GX} {D : va_G} {h0 : PH} {o : Int32 × PH} : ∀ (n : Nat) (x0 : Option Nat) (x1 : Int32) (x2 : Int32) (h : PH), f_X1_staleCaches_L4 n x0 x1 x2 h = some o → PF Γ mi_X1_staleCaches D h0 (QR Γ D h0 (ovi o.1) o.2) h 4 [some (va_rf x0), some (.int x1), some (.int x2)] [] := by
  intro n
  induction n with
  | zero => intro x0 x1 x2 h hf; cases hf
  | succ n ih =>
    intro x0 x1 x2 h hf
    refine j_iload_n 2 dX1_staleCaches_4 rfl rfl ?_
    refine j_aload_n 0 dX1_staleCaches_5 rfl rfl ?_
    refine j_gR (ci := 0) (k := 3) rfl in_X1 rfl q877 dX1_staleCaches_6 hf (fun r1 hf => ?_)
    refine j_gRN (ci := 1) (k := 1) rfl in_X2 rfl q789 dX1_staleCaches_9 hf (fun r2 hf => ?_)
    refine j_alen (t := 5) rfl dX1_staleCaches_12 hf (fun v3 hf => ?_)
    refine j_icmp_ge 51 dX1_staleCaches_13 (by decide) hf (fun c_ hf => ?_) (fun c_ hf => ?_)
    · refine j_iload_n 1 dX1_staleCaches_51 rfl rfl ?_
      have e9 := Option.some.inj hf
      subst e9
      exact j_iret rfl dX1_staleCaches_52
    · refine j_iload_n 1 dX1_staleCaches_16 rfl rfl ?_
      refine j_aload_n 0 dX1_staleCaches_17 rfl rfl ?_
      refine j_gR (ci := 0) (k := 3) rfl in_X1 rfl q877 dX1_staleCaches_18 hf (fun r4 hf => ?_)
      refine j_aload_n 0 dX1_staleCaches_21 rfl rfl ?_
      refine j_gR (ci := 0) (k := 3) rfl in_X1 rfl q877 dX1_staleCaches_22 hf (fun r5 hf => ?_)
      refine j_gRN (ci := 1) (k := 1) rfl in_X2 rfl q789 dX1_staleCaches_25 hf (fun r6 hf => ?_)
      refine j_iload_n 2 dX1_staleCaches_28 rfl rfl ?_
      refine j_aald (t := 5) rfl dX1_staleCaches_29 hf (fun r7 hf => ?_)
      refine kc_X1_345 rfl rfl rfl (by simp [va_rf_cat, cat_i, cat_l]) dX1_staleCaches_30 hf (fun v9 h8 hf => ?_)
      refine j_if_eq 42 dX1_staleCaches_33 (by decide) hf (fun c_ hf => ?_) (fun c_ hf => ?_)
      · refine j_iconst (0 : Int32) dX1_staleCaches_42 (by decide) ?_
        refine j_weak [some (va_rf x0), none, some (.int x2)] (Wk.k (Wk.s (Wk.k Wk.n))) ?_
        exact pf_X1_staleCaches_B43 (f_X1_staleCaches_L4 n) ih x0 x2 x1 (0 : Int32) h8 hf
      · refine j_iconst (1 : Int32) dX1_staleCaches_36 (by decide) ?_
        refine j_iload_n 2 dX1_staleCaches_37 rfl rfl ?_
        refine j_ishl dX1_staleCaches_38 ?_
        refine j_goto 43 dX1_staleCaches_39 (by decide) ?_
        refine j_weak [some (va_rf x0), none, some (.int x2)] (Wk.k (Wk.s (Wk.k Wk.n))) ?_
        exact pf_X1_staleCaches_B43 (f_X1_staleCaches_L4 n) ih x0 x2 x1 ((1 : Int32) <<< (x2 &&& 31)) h8 hf
def f_X1_staleCaches (r0 : Option Nat) (h0 : PH) : Option (Int32 × PH) := f_X1_staleCaches_L4 FU r0 (0 : Int32) (0 : Int32) h0
theorem hyS_X1_staleCaches : yX1_staleCaches.cls ≠ "java/lang/invoke/MethodHandle" ∧ yX1_staleCaches.cls ≠ "java/lang/invoke/VarHandle" ∧ (parseMethodDescriptor yX1_staleCaches.desc).map (fun d => d.parameters.length) = some 0 := by decide +kernel
theorem hyV_X1_staleCaches : yX1_staleCaches.cls = RX1 ∧ yX1_staleCaches.cls ≠ "java/lang/invoke/MethodHandle" ∧ yX1_staleCaches.cls ≠ "java/lang/invoke/VarHandle" ∧ (parseMethodDescriptor yX1_staleCaches.desc).map (fun d => d.parameters.length) = some 0 := by decide +kernel
theorem c_X1_staleCaches {D : va_G} (r0 : Option Nat) {h0 : PH} (l : Launch) (hl : l.stackTraces = false) (x : Int32) (h1 : PH) (hf : f_X1_staleCaches r0 h0 = some (x, h1)) : CT l D yX1_staleCaches (ws_ yX1_staleCaches cX1_staleCaches 3 (Option.some FieldType.int)) 5 111 [va_rf r0] h0 (ovi x) h1 := by
  refine ct_of hl [some (va_rf r0), none, none] (by decide) (by rw [lgl]; simp [va_rf_cat, cat_i, cat_l]) (by simp [lv_args, vsL, va_rf_cat, cat_i, cat_l]) (fun Γ => ?_)
  obtain ⟨o, ho⟩ : ∃ o : Int32 × PH, o = (x, h1) := ⟨_, rfl⟩
  rw [← ho] at hf
  have e1 : x = o.1 := by rw [ho]
  have e2 : h1 = o.2 := by rw [ho]
  subst e1 e2
  clear ho
  show PF Γ mi_X1_staleCaches D h0 (QR Γ D h0 (ovi o.1) o.2) h0 0 [some (va_rf r0), none, none] []
  unfold f_X1_staleCaches at hf
  refine j_iconst (0 : Int32) dX1_staleCaches_0 (by decide) ?_
  refine j_istore_n 1 [some (va_rf r0), some (.int (0 : Int32)), none] dX1_staleCaches_1 rfl (cz (va_rf_cat _)) rfl rfl ?_
  refine j_iconst (0 : Int32) dX1_staleCaches_2 (by decide) ?_
  refine j_istore_n 2 [some (va_rf r0), some (.int (0 : Int32)), some (.int (0 : Int32))] dX1_staleCaches_3 rfl (cz rfl) rfl rfl ?_
  exact pf_X1_staleCaches_L4 FU r0 (0 : Int32) (0 : Int32) h0 hf
theorem at_X1_59 : ∀ w ∈ vx_at0 RX1 59 "java/lang/IllegalArgumentException" ["java/lang/RuntimeException", "java/lang/Exception"], w ∈ lw_tbl := jw_in _ [97, 207, 216, 227, 230, 232, 208, 209, 141, 142, 210, 215, 228, 467, 197, 468, 199, 469, 201, 211, 213, 203, 1701, 1702, 1703, 1704, 188, 1704, 1705, 1706, 1707, 190, 1707, 1708, 1709, 208, 192, 1700, 186, 187, 194, 195, 196, 198, 200, 202, 465, 205, 204] (by decide +kernel)
theorem at_X1_59g : (vx_at0 RX1 59 "java/lang/IllegalArgumentException" ["java/lang/RuntimeException", "java/lang/Exception"]).all (fun w => goodWord w || (nwK w && w.onTables)) = true := by decide +kernel
theorem at_X1_59o : ∀ w ∈ Cond.classLink RX1 57 "java/lang/IllegalArgumentException" :: Cond.initialized "java/lang/IllegalArgumentException" :: vx_at0 RX1 59 "java/lang/IllegalArgumentException" ["java/lang/RuntimeException", "java/lang/Exception"], vx_ot w = true := by decide +kernel
abbrev mi_X1_check : MI := (cX1_check, 1, RX1, none, [], 6, 89, "check")
def f_X1_check (p0 : Int32) (h0 : PH) : Option (((Nat × Nat) ⊕ Unit) × PH) := (if p0 = 0 then (nO h0 20 6 [] fun a1 h2 => th_ h2 (some a1) fun ci9 q9 => xo_ h2 ci9 q9) else (some (.inr (), h0)))
theorem hyS_X1_check : yX1_check.cls ≠ "java/lang/invoke/MethodHandle" ∧ yX1_check.cls ≠ "java/lang/invoke/VarHandle" ∧ (parseMethodDescriptor yX1_check.desc).map (fun d => d.parameters.length) = some 1 := by decide +kernel
theorem c_X1_check {D : va_G} (p0 : Int32) {h0 : PH} (l : Launch) (hl : l.stackTraces = false) (x : ((Nat × Nat) ⊕ Unit)) (h1 : PH) (hf : f_X1_check p0 h0 = some (x, h1)) : CT l D yX1_check (ws_ yX1_check cX1_check 1 none) 6 89 [.int p0] h0 (oxv x) h1 := by
  refine ct_of hl [some (.int p0)] (by decide) (Nat.le_of_ble_eq_true rfl) rfl (fun Γ => ?_)
  obtain ⟨o, ho⟩ : ∃ o : ((Nat × Nat) ⊕ Unit) × PH, o = (x, h1) := ⟨_, rfl⟩
  rw [← ho] at hf
  have e1 : x = o.1 := by rw [ho]
  have e2 : h1 = o.2 := by rw [ho]
  subst e1 e2
  clear ho
  show PF Γ mi_X1_check D h0 (QR Γ D h0 (oxv o.1) o.2) h0 0 [some (.int p0)] []
  unfold f_X1_check at hf
  refine j_iload_n 0 dX1_check_0 rfl rfl ?_
  refine j_if_ne 12 dX1_check_1 (by decide) hf (fun c_ hf => ?_) (fun c_ hf => ?_)
  · have e9 := Option.some.inj hf
    subst e9
    exact j_vret rfl dX1_check_12
  · refine j_make0 (ci := 20) (cls := "java/lang/IllegalArgumentException") (names := ["java/lang/RuntimeException", "java/lang/Exception"]) (by decide +kernel) (by decide +kernel) (by decide +kernel) q1699 q100 at_X1_59 at_X1_59g at_X1_59o rfl rfl rfl (by decide) dX1_check_4 dX1_check_7 dX1_check_8 hf (fun a1 h2 hf => ?_)
    refine j_athrow dX1_check_11 hf (fun ci9 q9 fs9 he9 hf => ?_)
    obtain ⟨hb9, hf⟩ := xo_in hf
    subst hf
    exact j_out (by decide) hb9 he9
theorem kc_X1_64 {Γ : GX} {I : MI} {D : va_G} {h0 : PH} {Q : State → Prop} {h : PH} {pc : Nat} {vs : List (Option Value)} {rest : List Value} {β : Type} {o : β} {p0 : Int64} {p1 : Int64} {p2 : Int64} {K : ((Int32) → PH → Option β)} (hI : I.2.2.1 = RX1) (hfr : Nat.ble 1 I.2.2.2.2.2.1 = true) (hlo : Nat.ble 25 I.2.2.2.2.2.2.1 = true) (hW : (rest.map fun v => v.category).sum ≤ 8) (hd : decode I.1 pc = .ok (.invokestatic 64, 3)) (hf : cl_ (f_X1_in p0 p1 p2 h) K = some o) (kk : ∀ (x : Int32) (h1 : PH), K x h1 = some o → PF Γ I D h0 Q h1 (pc + 3) vs (.int x :: rest)) : PF Γ I D h0 Q h pc vs (.long p2 :: .long p1 :: .long p0 :: rest) := by
  obtain ⟨cc, nL, own, rt, xt, fr, lo, nm⟩ := I
  cases hI
  exact j_cSi (n := 3) (y := yX1_in) (cc2 := cX1_in) (As := [.long p0, .long p1, .long p2]) (lw_S q1695 q951 q90 q952) hyS_X1_in hfr hlo rfl hW hd (c_X1_in p0 p1 p2) hf _ rfl kk
theorem at_X1_70 : ∀ w ∈ vx_at0 RX1 70 "java/lang/IndexOutOfBoundsException" ["java/lang/RuntimeException", "java/lang/Exception"], w ∈ lw_tbl := jw_in _ [97, 207, 216, 227, 230, 232, 208, 209, 141, 142, 210, 215, 228, 467, 197, 468, 199, 469, 201, 211, 213, 203, 1758, 1759, 1760, 1704, 188, 1704, 1705, 1706, 1707, 190, 1707, 1708, 1709, 208, 192, 1757, 1749, 1750, 1751, 226, 1752, 1753, 1754, 1755, 465, 205, 1756] (by decide +kernel)
theorem at_X1_70g : (vx_at0 RX1 70 "java/lang/IndexOutOfBoundsException" ["java/lang/RuntimeException", "java/lang/Exception"]).all (fun w => goodWord w || (nwK w && w.onTables)) = true := by decide +kernel
theorem at_X1_70o : ∀ w ∈ Cond.classLink RX1 68 "java/lang/IndexOutOfBoundsException" :: Cond.initialized "java/lang/IndexOutOfBoundsException" :: vx_at0 RX1 70 "java/lang/IndexOutOfBoundsException" ["java/lang/RuntimeException", "java/lang/Exception"], vx_ot w = true := by decide +kernel
abbrev mi_X1_node : MI := (cX1_node, 2, RX1, (Option.some (FieldType.object "LeaderLeases$Node")), [], 6, 89, "node")
def f_X1_node (r0 : Option Nat) (p0 : Int32) (h0 : PH) : Option (((Nat × Nat) ⊕ Option Nat) × PH) := gR h0 r0 0 3 fun r1 => gRN h0 r1 1 1 fun r2 => aN h0 r2 5 fun v3 => cl_ (f_X1_in (p0.toInt64) (0 : Int64) ((v3 - (1 : Int32)).toInt64) h0) fun v5 h4 => (if v5 = 0 then (nO h4 24 6 [] fun a9 h10 => th_ h10 (some a9) fun ci9 q9 => xo_ h10 ci9 q9) else (gR h4 r0 0 3 fun r6 => gRN h4 r6 1 1 fun r7 => aQ h4 r7 5 p0 fun r8 => some (.inr r8, h4)))
theorem hyS_X1_node : yX1_node.cls ≠ "java/lang/invoke/MethodHandle" ∧ yX1_node.cls ≠ "java/lang/invoke/VarHandle" ∧ (parseMethodDescriptor yX1_node.desc).map (fun d => d.parameters.length) = some 1 := by decide +kernel
theorem hyV_X1_node : yX1_node.cls = RX1 ∧ yX1_node.cls ≠ "java/lang/invoke/MethodHandle" ∧ yX1_node.cls ≠ "java/lang/invoke/VarHandle" ∧ (parseMethodDescriptor yX1_node.desc).map (fun d => d.parameters.length) = some 1 := by decide +kernel
theorem c_X1_node {D : va_G} (r0 : Option Nat) (p0 : Int32) {h0 : PH} (l : Launch) (hl : l.stackTraces = false) (x : ((Nat × Nat) ⊕ Option Nat)) (h1 : PH) (hf : f_X1_node r0 p0 h0 = some (x, h1)) : CT l D yX1_node (ws_ yX1_node cX1_node 2 (Option.some (FieldType.object "LeaderLeases$Node"))) 6 89 [va_rf r0, .int p0] h0 (oxr x) h1 := by
  refine ct_of hl [some (va_rf r0), some (.int p0)] (by decide) (by rw [lgl]; simp [va_rf_cat, cat_i, cat_l]) (by simp [lv_args, vsL, va_rf_cat, cat_i, cat_l]) (fun Γ => ?_)
  obtain ⟨o, ho⟩ : ∃ o : ((Nat × Nat) ⊕ Option Nat) × PH, o = (x, h1) := ⟨_, rfl⟩
  rw [← ho] at hf
  have e1 : x = o.1 := by rw [ho]
  have e2 : h1 = o.2 := by rw [ho]
  subst e1 e2
  clear ho
  show PF Γ mi_X1_node D h0 (QR Γ D h0 (oxr o.1) o.2) h0 0 [some (va_rf r0), some (.int p0)] []
  unfold f_X1_node at hf
  refine j_iload_n 1 dX1_node_0 rfl rfl ?_
  refine j_i2l dX1_node_1 ?_
  refine j_lconst (0 : Int64) dX1_node_2 (by decide) ?_
  refine j_aload_n 0 dX1_node_3 rfl rfl ?_
  refine j_gR (ci := 0) (k := 3) rfl in_X1 rfl q877 dX1_node_4 hf (fun r1 hf => ?_)
  refine j_gRN (ci := 1) (k := 1) rfl in_X2 rfl q789 dX1_node_7 hf (fun r2 hf => ?_)
  refine j_alen (t := 5) rfl dX1_node_10 hf (fun v3 hf => ?_)
  refine j_iconst (1 : Int32) dX1_node_11 (by decide) ?_
  refine j_isub dX1_node_12 ?_
  refine j_i2l dX1_node_13 ?_
  refine kc_X1_64 rfl rfl rfl (by decide) dX1_node_14 hf (fun v5 h4 hf => ?_)
  refine j_if_ne 28 dX1_node_17 (by decide) hf (fun c_ hf => ?_) (fun c_ hf => ?_)
  · refine j_aload_n 0 dX1_node_28 rfl rfl ?_
    refine j_gR (ci := 0) (k := 3) rfl in_X1 rfl q877 dX1_node_29 hf (fun r6 hf => ?_)
    refine j_gRN (ci := 1) (k := 1) rfl in_X2 rfl q789 dX1_node_32 hf (fun r7 hf => ?_)
    refine j_iload_n 1 dX1_node_35 rfl rfl ?_
    refine j_aald (t := 5) rfl dX1_node_36 hf (fun r8 hf => ?_)
    have e9 := Option.some.inj hf
    subst e9
    exact j_aret rfl (Or.inl ⟨_, rfl⟩) dX1_node_37
  · refine j_make0 (ci := 24) (cls := "java/lang/IndexOutOfBoundsException") (names := ["java/lang/RuntimeException", "java/lang/Exception"]) (by decide +kernel) (by decide +kernel) (by decide +kernel) q1748 q131 at_X1_70 at_X1_70g at_X1_70o rfl rfl rfl (by decide) dX1_node_20 dX1_node_23 dX1_node_24 hf (fun a9 h10 hf => ?_)
    refine j_athrow dX1_node_27 hf (fun ci9 q9 fs9 he9 hf => ?_)
    obtain ⟨hb9, hf⟩ := xo_in hf
    subst hf
    exact j_out (by decide) hb9 he9
theorem kc_X1_138 {Γ : GX} {I : MI} {D : va_G} {h0 : PH} {Q : State → Prop} {h : PH} {pc : Nat} {vs : List (Option Value)} {rest : List Value} {β : Type} {o : β} {r : Option Nat} {p0 : Int32} {K : ((Int32) → PH → Option β)} (hI : I.2.2.1 = RX1) (hfr : Nat.ble 1 I.2.2.2.2.2.1 = true) (hlo : Nat.ble 21 I.2.2.2.2.2.2.1 = true) (hW : (rest.map fun v => v.category).sum ≤ 8) (hd : decode I.1 pc = .ok (.invokevirtual 138, 3)) (hf : rv_ h r 5 (cl_ (f_X6_isPaused r p0 h) K) = some o) (kk : ∀ (x : Int32) (h1 : PH), K x h1 = some o → PF Γ I D h0 Q h1 (pc + 3) vs (.int x :: rest)) : PF Γ I D h0 Q h pc vs (.int p0 :: va_rf r :: rest) := by
  obtain ⟨cc, nL, own, rt, xt, fr, lo, nm⟩ := I
  cases hI
  exact j_cVi (n := 1) (y := yX6_isPaused) (cc2 := cX6_isPaused) (As := [.int p0]) (C := RX6) (ci := 5) rfl (lw_V q1775 q1281 q1282 q115 q1283) hyV_X6_isPaused hfr hlo rfl hW hd (c_X6_isPaused r p0) hf _ rfl kk
abbrev mi_X1_unable : MI := (cX1_unable, 2, RX1, (Option.some FieldType.int), [], 1, 21, "unable")
def f_X1_unable_B32 (t0 : Int32) (h : PH) : Option (Int32 × PH) := some (t0, h)
theorem pf_X1_unable_B32 {Γ : GX} {D : va_G} {h0 : PH} {o : Int32 × PH} (t0 : Int32) (h : PH) (hf : f_X1_unable_B32 t0 h = some o) : PF Γ mi_X1_unable D h0 (QR Γ D h0 (ovi o.1) o.2) h 32 [none, none] [.int t0] := by
  have e9 := Option.some.inj hf
  subst e9
  exact j_iret rfl dX1_unable_32
def f_X1_unable (r0 : Option Nat) (p0 : Option Nat) (h0 : PH) : Option (Int32 × PH) := gIN h0 p0 5 2 fun v1 => (if v1 = 0 then (f_X1_unable_B32 (-3 : Int32) h0) else (gR h0 r0 0 3 fun r2 => gIN h0 r2 1 8 fun v3 => rv_ h0 p0 5 (cl_ (f_X6_isPaused p0 v3 h0) fun v5 h4 => (if v5 = 0 then (f_X1_unable_B32 (0 : Int32) h4) else (f_X1_unable_B32 (-2 : Int32) h4)))))
theorem hyS_X1_unable : yX1_unable.cls ≠ "java/lang/invoke/MethodHandle" ∧ yX1_unable.cls ≠ "java/lang/invoke/VarHandle" ∧ (parseMethodDescriptor yX1_unable.desc).map (fun d => d.parameters.length) = some 1 := by decide +kernel
theorem hyV_X1_unable : yX1_unable.cls = RX1 ∧ yX1_unable.cls ≠ "java/lang/invoke/MethodHandle" ∧ yX1_unable.cls ≠ "java/lang/invoke/VarHandle" ∧ (parseMethodDescriptor yX1_unable.desc).map (fun d => d.parameters.length) = some 1 := by decide +kernel
theorem c_X1_unable {D : va_G} (r0 : Option Nat) (p0 : Option Nat) {h0 : PH} (l : Launch) (hl : l.stackTraces = false) (x : Int32) (h1 : PH) (hf : f_X1_unable r0 p0 h0 = some (x, h1)) : CT l D yX1_unable (ws_ yX1_unable cX1_unable 2 (Option.some FieldType.int)) 1 21 [va_rf r0, va_rf p0] h0 (ovi x) h1 := by
  refine ct_of hl [some (va_rf r0), some (va_rf p0)] (by decide) (by rw [lgl]; simp [va_rf_cat, cat_i, cat_l]) (by simp [lv_args, vsL, va_rf_cat, cat_i, cat_l]) (fun Γ => ?_)
  obtain ⟨o, ho⟩ : ∃ o : Int32 × PH, o = (x, h1) := ⟨_, rfl⟩
  rw [← ho] at hf
  have e1 : x = o.1 := by rw [ho]
  have e2 : h1 = o.2 := by rw [ho]
  subst e1 e2
  clear ho
  show PF Γ mi_X1_unable D h0 (QR Γ D h0 (ovi o.1) o.2) h0 0 [some (va_rf r0), some (va_rf p0)] []
  unfold f_X1_unable at hf
  refine j_aload_n 1 dX1_unable_0 rfl rfl ?_
  refine j_gIN (ci := 5) (k := 2) rfl in_X6 rfl q728 dX1_unable_1 hf (fun v1 hf => ?_)
  refine j_if_ne 12 dX1_unable_4 (by decide) hf (fun c_ hf => ?_) (fun c_ hf => ?_)
  · refine j_aload_n 1 dX1_unable_12 rfl rfl ?_
    refine j_aload_n 0 dX1_unable_13 rfl rfl ?_
    refine j_gR (ci := 0) (k := 3) rfl in_X1 rfl q877 dX1_unable_14 hf (fun r2 hf => ?_)
    refine j_gIN (ci := 1) (k := 8) rfl in_X2 rfl q803 dX1_unable_17 hf (fun v3 hf => ?_)
    refine kc_X1_138 rfl rfl rfl (by decide) dX1_unable_20 hf (fun v5 h4 hf => ?_)
    refine j_if_eq 31 dX1_unable_23 (by decide) hf (fun c_ hf => ?_) (fun c_ hf => ?_)
    · refine j_iconst (0 : Int32) dX1_unable_31 (by decide) ?_
      refine j_weak [none, none] (Wk.s (Wk.s Wk.n)) ?_
      exact pf_X1_unable_B32 (0 : Int32) h4 hf
    · refine j_bipush (-2 : Int32) dX1_unable_26 (by decide) ?_
      refine j_goto 32 dX1_unable_28 (by decide) ?_
      refine j_weak [none, none] (Wk.s (Wk.s Wk.n)) ?_
      exact pf_X1_unable_B32 (-2 : Int32) h4 hf
  · refine j_bipush (-3 : Int32) dX1_unable_7 (by decide) ?_
    refine j_goto 32 dX1_unable_9 (by decide) ?_
    refine j_weak [none, none] (Wk.s (Wk.s Wk.n)) ?_
    exact pf_X1_unable_B32 (-3 : Int32) h0 hf
theorem kc_X1_117 {Γ : GX} {I : MI} {D : va_G} {h0 : PH} {Q : State → Prop} {h : PH} {pc : Nat} {vs : List (Option Value)} {rest : List Value} {β : Type} {o : β} {r : Option Nat} {p0 : Int32} {K : (((Nat × Nat) ⊕ Option Nat) → PH → Option β)} (hI : I.2.2.1 = RX1) (hfr : Nat.ble 7 I.2.2.2.2.2.1 = true) (hlo : Nat.ble 110 I.2.2.2.2.2.2.1 = true) (hW : (rest.map fun v => v.category).sum ≤ 8) (hd : decode I.1 pc = .ok (.invokevirtual 117, 3)) (hf : rv_ h r 0 (cl_ (f_X1_node r p0 h) K) = some o) (kk : ∀ (x : Option Nat) (h1 : PH), K (.inr x) h1 = some o → PF Γ I D h0 Q h1 (pc + 3) vs (va_rf x :: rest)) (kx : ∀ (ci q : Nat) (h1 : PH) (fs : List Value), h1.1 q = some (.inr (ci, fs)) → K (.inl (ci, q)) h1 = some o → PX Γ I D h0 Q h1 pc vs q) : PF Γ I D h0 Q h pc vs (.int p0 :: va_rf r :: rest) := by
  obtain ⟨cc, nL, own, rt, xt, fr, lo, nm⟩ := I
  cases hI
  exact j_xVr (n := 1) (y := yX1_node) (cc2 := cX1_node) (As := [.int p0]) (C := RX1) (ci := 0) rfl (lw_V q1744 q1746 qs28 q90 q1747) hyV_X1_node hfr hlo rfl hW hd (c_X1_node r p0) hf _ rfl kk kx
theorem kc_X1_142 {Γ : GX} {I : MI} {D : va_G} {h0 : PH} {Q : State → Prop} {h : PH} {pc : Nat} {vs : List (Option Value)} {rest : List Value} {β : Type} {o : β} {r : Option Nat} {p0 : Option Nat} {K : ((Int32) → PH → Option β)} (hI : I.2.2.1 = RX1) (hfr : Nat.ble 2 I.2.2.2.2.2.1 = true) (hlo : Nat.ble 42 I.2.2.2.2.2.2.1 = true) (hW : (rest.map fun v => v.category).sum ≤ 8) (hd : decode I.1 pc = .ok (.invokevirtual 142, 3)) (hf : rv_ h r 0 (cl_ (f_X1_unable r p0 h) K) = some o) (kk : ∀ (x : Int32) (h1 : PH), K x h1 = some o → PF Γ I D h0 Q h1 (pc + 3) vs (.int x :: rest)) : PF Γ I D h0 Q h pc vs (va_rf p0 :: va_rf r :: rest) := by
  obtain ⟨cc, nL, own, rt, xt, fr, lo, nm⟩ := I
  cases hI
  exact j_cVi (n := 1) (y := yX1_unable) (cc2 := cX1_unable) (As := [va_rf p0]) (C := RX1) (ci := 0) rfl (lw_V q1771 q1773 qs29 q90 q1774) hyV_X1_unable hfr hlo rfl hW hd (c_X1_unable r p0) hf _ rfl kk
theorem kc_X1_164 {Γ : GX} {I : MI} {D : va_G} {h0 : PH} {Q : State → Prop} {h : PH} {pc : Nat} {vs : List (Option Value)} {rest : List Value} {β : Type} {o : β} {r : Option Nat} {p0 : Option Nat} {p1 : Int32} {p2 : Option Nat} {K : ((Unit) → PH → Option β)} (hI : I.2.2.1 = RX1) (hfr : Nat.ble 8 I.2.2.2.2.2.1 = true) (hlo : Nat.ble 216 I.2.2.2.2.2.2.1 = true) (hW : (rest.map fun v => v.category).sum ≤ 8) (hd : decode I.1 pc = .ok (.invokevirtual 164, 3)) (hf : rv_ h r 1 (cl_ (f_X2_send r p0 p1 p2 h) K) = some o) (kk : ∀ (x : Unit) (h1 : PH), K x h1 = some o → PF Γ I D h0 Q h1 (pc + 3) vs (rest)) : PF Γ I D h0 Q h pc vs (va_rf p2 :: .int p1 :: va_rf p0 :: va_rf r :: rest) := by
  obtain ⟨cc, nL, own, rt, xt, fr, lo, nm⟩ := I
  cases hI
  exact j_cVv (n := 3) (y := yX2_send) (cc2 := cX2_send) (As := [va_rf p0, .int p1, va_rf p2]) (C := RX2) (ci := 1) rfl (lw_V q1785 q1454 q1455 q91 q1456) hyV_X2_send hfr hlo rfl hW hd (c_X2_send r p0 p1 p2) hf _ rfl kk
theorem kc_X1_168 {Γ : GX} {I : MI} {D : va_G} {h0 : PH} {Q : State → Prop} {h : PH} {pc : Nat} {vs : List (Option Value)} {rest : List Value} {β : Type} {o : β} {r : Option Nat}  {K : ((Unit) → PH → Option β)} (hI : I.2.2.1 = RX1) (hfr : Nat.ble 1 I.2.2.2.2.2.1 = true) (hlo : Nat.ble 20 I.2.2.2.2.2.2.1 = true) (hW : (rest.map fun v => v.category).sum ≤ 8) (hd : decode I.1 pc = .ok (.invokevirtual 168, 3)) (hf : rv_ h r 5 (cl_ (f_X6_loseToken r h) K) = some o) (kk : ∀ (x : Unit) (h1 : PH), K x h1 = some o → PF Γ I D h0 Q h1 (pc + 3) vs (rest)) : PF Γ I D h0 Q h pc vs (va_rf r :: rest) := by
  obtain ⟨cc, nL, own, rt, xt, fr, lo, nm⟩ := I
  cases hI
  exact j_cVv (n := 0) (y := yX6_loseToken) (cc2 := cX6_loseToken) (As := []) (C := RX6) (ci := 5) rfl (lw_V q1786 q1553 q1554 q115 q1555) hyV_X6_loseToken hfr hlo rfl hW hd (c_X6_loseToken r) hf _ rfl kk
abbrev mi_X1_withdraw : MI := (cX1_withdraw, 4, RX1, (Option.some FieldType.int), [], 8, 216, "withdraw")
def f_X1_withdraw_B67 (x2 : Option Nat) (x3 : Int32) (h : PH) : Option (((Nat × Nat) ⊕ Int32) × PH) := rv_ h x2 5 (cl_ (f_X6_loseToken x2 h) fun _u h17 => some (.inr x3, h17))
theorem pf_X1_withdraw_B67 {Γ : GX} {D : va_G} {h0 : PH} {o : ((Nat × Nat) ⊕ Int32) × PH} (x2 : Option Nat) (x3 : Int32) (h : PH) (hf : f_X1_withdraw_B67 x2 x3 h = some o) : PF Γ mi_X1_withdraw D h0 (QR Γ D h0 (oxi o.1) o.2) h 67 [none, none, some (va_rf x2), some (.int x3)] [] := by
  refine j_aload_n 2 dX1_withdraw_67 rfl rfl ?_
  refine kc_X1_168 rfl rfl rfl (by decide) dX1_withdraw_68 hf (fun _u h17 hf => ?_)
  refine j_iload_n 3 dX1_withdraw_71 rfl rfl ?_
  have e9 := Option.some.inj hf
  subst e9
  exact j_iret rfl dX1_withdraw_72
def f_X1_withdraw (r0 : Option Nat) (p0 : Int32) (h0 : PH) : Option (((Nat × Nat) ⊕ Int32) × PH) := rv_ h0 r0 0 (cl_ (f_X1_node r0 p0 h0) fun z9 h1 => match z9 with | .inl (ci9, q9) => (xo_ h1 ci9 q9) | .inr r2 => (rv_ h1 r0 0 (cl_ (f_X1_unable r0 r2 h1) fun v4 h3 => (if 0 ≤ v4 then (gIN h3 r2 5 3 fun v5 => (if v5 = 0 then (some (.inr (0 : Int32), h3)) else (gIN h3 r2 5 6 fun v6 => pZ h3 r2 5 3 (0 : Int32) fun h7 => pV h7 r2 5 8 (.int (-4 : Int32)) fun h8 => (if v6 ≤ 0 then (f_X1_withdraw_B67 r2 v6 h8) else (gR h8 r0 0 3 fun r9 => asR (some (h8.2.1.1 3)) fun r10 => nA h8 0 (1 : Int32) (.inl fun _ => 0) fun a11 h12 => sI h12 (some a11) 0 (0 : Int32) v6 fun h13 => rv_ h13 r9 1 (cl_ (f_X2_send r9 r10 p0 (some a11) h13) fun _u h14 => f_X1_withdraw_B67 r2 v6 h14)))))) else (rv_ h3 r0 0 (cl_ (f_X1_unable r0 r2 h3) fun v16 h15 => some (.inr v16, h15)))))))
theorem hyS_X1_withdraw : yX1_withdraw.cls ≠ "java/lang/invoke/MethodHandle" ∧ yX1_withdraw.cls ≠ "java/lang/invoke/VarHandle" ∧ (parseMethodDescriptor yX1_withdraw.desc).map (fun d => d.parameters.length) = some 1 := by decide +kernel
theorem hyV_X1_withdraw : yX1_withdraw.cls = RX1 ∧ yX1_withdraw.cls ≠ "java/lang/invoke/MethodHandle" ∧ yX1_withdraw.cls ≠ "java/lang/invoke/VarHandle" ∧ (parseMethodDescriptor yX1_withdraw.desc).map (fun d => d.parameters.length) = some 1 := by decide +kernel
theorem c_X1_withdraw {D : va_G} (r0 : Option Nat) (p0 : Int32) {h0 : PH} (l : Launch) (hl : l.stackTraces = false) (x : ((Nat × Nat) ⊕ Int32)) (h1 : PH) (hf : f_X1_withdraw r0 p0 h0 = some (x, h1)) : CT l D yX1_withdraw (ws_ yX1_withdraw cX1_withdraw 4 (Option.some FieldType.int)) 8 216 [va_rf r0, .int p0] h0 (oxi x) h1 := by
  refine ct_of hl [some (va_rf r0), some (.int p0), none, none] (by decide) (by rw [lgl]; simp [va_rf_cat, cat_i, cat_l]) (by simp [lv_args, vsL, va_rf_cat, cat_i, cat_l]) (fun Γ => ?_)
  obtain ⟨o, ho⟩ : ∃ o : ((Nat × Nat) ⊕ Int32) × PH, o = (x, h1) := ⟨_, rfl⟩
  rw [← ho] at hf
  have e1 : x = o.1 := by rw [ho]
  have e2 : h1 = o.2 := by rw [ho]
  subst e1 e2
  clear ho
  show PF Γ mi_X1_withdraw D h0 (QR Γ D h0 (oxi o.1) o.2) h0 0 [some (va_rf r0), some (.int p0), none, none] []
  unfold f_X1_withdraw at hf
  refine j_aload_n 0 dX1_withdraw_0 rfl rfl ?_
  refine j_iload_n 1 dX1_withdraw_1 rfl rfl ?_
  refine kc_X1_117 rfl rfl rfl (by decide) dX1_withdraw_2 hf (fun r2 h1 hf => ?_) (fun ci9 q9 h1 fs9 he9 hf => ?_)
  · refine j_astore_n 2 [some (va_rf r0), some (.int p0), some (va_rf r2), none] dX1_withdraw_5 rfl (cz rfl) rfl rfl ?_
    refine j_aload_n 0 dX1_withdraw_6 rfl rfl ?_
    refine j_aload_n 2 dX1_withdraw_7 rfl rfl ?_
    refine kc_X1_142 rfl rfl rfl (by decide) dX1_withdraw_8 hf (fun v4 h3 hf => ?_)
    refine j_if_ge 20 dX1_withdraw_11 (by decide) hf (fun c_ hf => ?_) (fun c_ hf => ?_)
    · refine j_aload_n 2 dX1_withdraw_20 rfl rfl ?_
      refine j_gIN (ci := 5) (k := 3) rfl in_X6 rfl q731 dX1_withdraw_21 hf (fun v5 hf => ?_)
      refine j_if_ne 29 dX1_withdraw_24 (by decide) hf (fun c_ hf => ?_) (fun c_ hf => ?_)
      · refine j_aload_n 2 dX1_withdraw_29 rfl rfl ?_
        refine j_gIN (ci := 5) (k := 6) rfl in_X6 rfl q740 dX1_withdraw_30 hf (fun v6 hf => ?_)
        refine j_istore_n 3 [some (va_rf r0), some (.int p0), some (va_rf r2), some (.int v6)] dX1_withdraw_33 rfl (cz (va_rf_cat _)) rfl rfl ?_
        refine j_aload_n 2 dX1_withdraw_34 rfl rfl ?_
        refine j_iconst (0 : Int32) dX1_withdraw_35 (by decide) ?_
        obtain ⟨hz9, hf⟩ := pZ_in hf
        refine j_pVN (ci := 5) (k := 3) tyX6 tyX6_ok nmX6 rfl in_X6 rfl q731 rfl rfl (fit_z _ hz9) dX1_withdraw_36 hf (fun h7 hf => ?_)
        refine j_aload_n 2 dX1_withdraw_39 rfl rfl ?_
        refine j_bipush (-4 : Int32) dX1_withdraw_40 (by decide) ?_
        refine j_pVN (ci := 5) (k := 8) tyX6 tyX6_ok nmX6 rfl in_X6 rfl q746 rfl rfl (fit_i _) dX1_withdraw_42 hf (fun h8 hf => ?_)
        refine j_iload_n 3 dX1_withdraw_45 rfl rfl ?_
        refine j_if_le 67 dX1_withdraw_46 (by decide) hf (fun c_ hf => ?_) (fun c_ hf => ?_)
        · refine j_weak [none, none, some (va_rf r2), some (.int v6)] (Wk.s (Wk.s (Wk.k (Wk.k Wk.n)))) ?_
          exact pf_X1_withdraw_B67 r2 v6 h8 hf
        · refine j_aload_n 0 dX1_withdraw_49 rfl rfl ?_
          refine j_gR (ci := 0) (k := 3) rfl in_X1 rfl q877 dX1_withdraw_50 hf (fun r9 hf => ?_)
          refine j_gsR (i := 3) rfl q1784 dX1_withdraw_53 hf (fun r10 hf => ?_)
          refine j_iload_n 1 dX1_withdraw_56 rfl rfl ?_
          refine j_iconst (1 : Int32) dX1_withdraw_57 (by decide) ?_
          refine j_nA (t := 0) (atype := .int) (ty := .int) rfl (fun _ => rfl) (fun _ _ => rfl) (by decide) (fun _ _ h9 => h9) q679 dX1_withdraw_58 hf (fun a11 h12 hf => ?_)
          refine j_dup dX1_withdraw_60 (va_rf_cat _) ?_
          refine j_iconst (0 : Int32) dX1_withdraw_61 (by decide) ?_
          refine j_iload_n 3 dX1_withdraw_62 rfl rfl ?_
          refine j_iast dX1_withdraw_63 hf (fun h13 hf => ?_)
          refine kc_X1_164 rfl rfl rfl (by decide) dX1_withdraw_64 hf (fun _u h14 hf => ?_)
          refine j_weak [none, none, some (va_rf r2), some (.int v6)] (Wk.s (Wk.s (Wk.k (Wk.k Wk.n)))) ?_
          exact pf_X1_withdraw_B67 r2 v6 h14 hf
      · refine j_iconst (0 : Int32) dX1_withdraw_27 (by decide) ?_
        have e9 := Option.some.inj hf
        subst e9
        exact j_iret rfl dX1_withdraw_28
    · refine j_aload_n 0 dX1_withdraw_14 rfl rfl ?_
      refine j_aload_n 2 dX1_withdraw_15 rfl rfl ?_
      refine kc_X1_142 rfl rfl rfl (by decide) dX1_withdraw_16 hf (fun v16 h15 hf => ?_)
      have e9 := Option.some.inj hf
      subst e9
      exact j_iret rfl dX1_withdraw_19
  · obtain ⟨hb9, hf⟩ := xo_in hf
    subst hf
    exact j_out (by decide) hb9 he9
theorem kc_X1_171 {Γ : GX} {I : MI} {D : va_G} {h0 : PH} {Q : State → Prop} {h : PH} {pc : Nat} {vs : List (Option Value)} {rest : List Value} {β : Type} {o : β} {r : Option Nat} {p0 : Int32} {p1 : Int32} {p2 : Int32} {K : ((Unit) → PH → Option β)} (hI : I.2.2.1 = RX1) (hfr : Nat.ble 8 I.2.2.2.2.2.1 = true) (hlo : Nat.ble 214 I.2.2.2.2.2.2.1 = true) (hW : (rest.map fun v => v.category).sum ≤ 8) (hd : decode I.1 pc = .ok (.invokevirtual 171, 3)) (hf : rv_ h r 1 (cl_ (f_X2_note r p0 p1 p2 h) K) = some o) (kk : ∀ (x : Unit) (h1 : PH), K x h1 = some o → PF Γ I D h0 Q h1 (pc + 3) vs (rest)) : PF Γ I D h0 Q h pc vs (.int p2 :: .int p1 :: .int p0 :: va_rf r :: rest) := by
  obtain ⟨cc, nL, own, rt, xt, fr, lo, nm⟩ := I
  cases hI
  exact j_cVNv (n := 3) (y := yX2_note) (cc2 := cX2_note) (As := [.int p0, .int p1, .int p2]) (C := RX2) (ci := 1) rfl (lw_meth q1428) q91 q1794 q1427 qs21 hyS_X2_note hfr hlo rfl hW hd (c_X2_note r p0 p1 p2) hf _ rfl kk
abbrev mi_X1_crash : MI := (cX1_crash, 4, RX1, (Option.some FieldType.int), [], 8, 214, "crash")
def f_X1_crash (r0 : Option Nat) (p0 : Int32) (h0 : PH) : Option (((Nat × Nat) ⊕ Int32) × PH) := rv_ h0 r0 0 (cl_ (f_X1_node r0 p0 h0) fun z9 h1 => match z9 with | .inl (ci9, q9) => (xo_ h1 ci9 q9) | .inr r2 => (gIN h1 r2 5 2 fun v3 => (if v3 = 0 then (some (.inr (-3 : Int32), h1)) else (gIN h1 r2 5 6 fun v4 => gR h1 r0 0 3 fun r5 => rv_ h1 r5 1 (cl_ (f_X2_note r5 (7 : Int32) p0 v4 h1) fun _u h6 => rv_ h6 r2 5 (cl_ (f_X6_loseToken r2 h6) fun _u h7 => pZ h7 r2 5 2 (0 : Int32) fun h8 => pZ h8 r2 5 3 (0 : Int32) fun h9 => pV h9 r2 5 8 (.int (-4 : Int32)) fun h10 => pV h10 r2 5 5 (.int (0 : Int32)) fun h11 => some (.inr v4, h11)))))))
theorem hyS_X1_crash : yX1_crash.cls ≠ "java/lang/invoke/MethodHandle" ∧ yX1_crash.cls ≠ "java/lang/invoke/VarHandle" ∧ (parseMethodDescriptor yX1_crash.desc).map (fun d => d.parameters.length) = some 1 := by decide +kernel
theorem hyV_X1_crash : yX1_crash.cls = RX1 ∧ yX1_crash.cls ≠ "java/lang/invoke/MethodHandle" ∧ yX1_crash.cls ≠ "java/lang/invoke/VarHandle" ∧ (parseMethodDescriptor yX1_crash.desc).map (fun d => d.parameters.length) = some 1 := by decide +kernel
theorem c_X1_crash {D : va_G} (r0 : Option Nat) (p0 : Int32) {h0 : PH} (l : Launch) (hl : l.stackTraces = false) (x : ((Nat × Nat) ⊕ Int32)) (h1 : PH) (hf : f_X1_crash r0 p0 h0 = some (x, h1)) : CT l D yX1_crash (ws_ yX1_crash cX1_crash 4 (Option.some FieldType.int)) 8 214 [va_rf r0, .int p0] h0 (oxi x) h1 := by
  refine ct_of hl [some (va_rf r0), some (.int p0), none, none] (by decide) (by rw [lgl]; simp [va_rf_cat, cat_i, cat_l]) (by simp [lv_args, vsL, va_rf_cat, cat_i, cat_l]) (fun Γ => ?_)
  obtain ⟨o, ho⟩ : ∃ o : ((Nat × Nat) ⊕ Int32) × PH, o = (x, h1) := ⟨_, rfl⟩
  rw [← ho] at hf
  have e1 : x = o.1 := by rw [ho]
  have e2 : h1 = o.2 := by rw [ho]
  subst e1 e2
  clear ho
  show PF Γ mi_X1_crash D h0 (QR Γ D h0 (oxi o.1) o.2) h0 0 [some (va_rf r0), some (.int p0), none, none] []
  unfold f_X1_crash at hf
  refine j_aload_n 0 dX1_crash_0 rfl rfl ?_
  refine j_iload_n 1 dX1_crash_1 rfl rfl ?_
  refine kc_X1_117 rfl rfl rfl (by decide) dX1_crash_2 hf (fun r2 h1 hf => ?_) (fun ci9 q9 h1 fs9 he9 hf => ?_)
  · refine j_astore_n 2 [some (va_rf r0), some (.int p0), some (va_rf r2), none] dX1_crash_5 rfl (cz rfl) rfl rfl ?_
    refine j_aload_n 2 dX1_crash_6 rfl rfl ?_
    refine j_gIN (ci := 5) (k := 2) rfl in_X6 rfl q728 dX1_crash_7 hf (fun v3 hf => ?_)
    refine j_if_ne 16 dX1_crash_10 (by decide) hf (fun c_ hf => ?_) (fun c_ hf => ?_)
    · refine j_aload_n 2 dX1_crash_16 rfl rfl ?_
      refine j_gIN (ci := 5) (k := 6) rfl in_X6 rfl q740 dX1_crash_17 hf (fun v4 hf => ?_)
      refine j_istore_n 3 [some (va_rf r0), some (.int p0), some (va_rf r2), some (.int v4)] dX1_crash_20 rfl (cz (va_rf_cat _)) rfl rfl ?_
      refine j_aload_n 0 dX1_crash_21 rfl rfl ?_
      refine j_gR (ci := 0) (k := 3) rfl in_X1 rfl q877 dX1_crash_22 hf (fun r5 hf => ?_)
      refine j_bipush (7 : Int32) dX1_crash_25 (by decide) ?_
      refine j_iload_n 1 dX1_crash_27 rfl rfl ?_
      refine j_iload_n 3 dX1_crash_28 rfl rfl ?_
      refine kc_X1_171 rfl rfl rfl (by decide) dX1_crash_29 hf (fun _u h6 hf => ?_)
      refine j_aload_n 2 dX1_crash_32 rfl rfl ?_
      refine kc_X1_168 rfl rfl rfl (by decide) dX1_crash_33 hf (fun _u h7 hf => ?_)
      refine j_aload_n 2 dX1_crash_36 rfl rfl ?_
      refine j_iconst (0 : Int32) dX1_crash_37 (by decide) ?_
      obtain ⟨hz9, hf⟩ := pZ_in hf
      refine j_pVN (ci := 5) (k := 2) tyX6 tyX6_ok nmX6 rfl in_X6 rfl q728 rfl rfl (fit_z _ hz9) dX1_crash_38 hf (fun h8 hf => ?_)
      refine j_aload_n 2 dX1_crash_41 rfl rfl ?_
      refine j_iconst (0 : Int32) dX1_crash_42 (by decide) ?_
      obtain ⟨hz9, hf⟩ := pZ_in hf
      refine j_pVN (ci := 5) (k := 3) tyX6 tyX6_ok nmX6 rfl in_X6 rfl q731 rfl rfl (fit_z _ hz9) dX1_crash_43 hf (fun h9 hf => ?_)
      refine j_aload_n 2 dX1_crash_46 rfl rfl ?_
      refine j_bipush (-4 : Int32) dX1_crash_47 (by decide) ?_
      refine j_pVN (ci := 5) (k := 8) tyX6 tyX6_ok nmX6 rfl in_X6 rfl q746 rfl rfl (fit_i _) dX1_crash_49 hf (fun h10 hf => ?_)
      refine j_aload_n 2 dX1_crash_52 rfl rfl ?_
      refine j_iconst (0 : Int32) dX1_crash_53 (by decide) ?_
      refine j_pVN (ci := 5) (k := 5) tyX6 tyX6_ok nmX6 rfl in_X6 rfl q737 rfl rfl (fit_i _) dX1_crash_54 hf (fun h11 hf => ?_)
      refine j_iload_n 3 dX1_crash_57 rfl rfl ?_
      have e9 := Option.some.inj hf
      subst e9
      exact j_iret rfl dX1_crash_58
    · refine j_bipush (-3 : Int32) dX1_crash_13 (by decide) ?_
      have e9 := Option.some.inj hf
      subst e9
      exact j_iret rfl dX1_crash_15
  · obtain ⟨hb9, hf⟩ := xo_in hf
    subst hf
    exact j_out (by decide) hb9 he9
abbrev mi_X1_restart : MI := (cX1_restart, 4, RX1, (Option.some FieldType.boolean), [], 7, 110, "restart")
def f_X1_restart_B25 (t0 : Int32) (h : PH) : Option (((Nat × Nat) ⊕ Int32) × PH) := rN .boolean t0 (fun v => .inr v) h
theorem pf_X1_restart_B25 {Γ : GX} {D : va_G} {h0 : PH} {o : ((Nat × Nat) ⊕ Int32) × PH} (t0 : Int32) (h : PH) (hf : f_X1_restart_B25 t0 h = some o) : PF Γ mi_X1_restart D h0 (QR Γ D h0 (oxi o.1) o.2) h 25 [none, none, none, none] [.int t0] := by
  obtain ⟨hn9, hf⟩ := rN_in hf
  subst hf
  exact j_zret rfl (nar_z _ hn9) dX1_restart_25
def f_X1_restart (r0 : Option Nat) (p0 : Int32) (h0 : PH) : Option (((Nat × Nat) ⊕ Int32) × PH) := rv_ h0 r0 0 (cl_ (f_X1_node r0 p0 h0) fun z9 h1 => match z9 with | .inl (ci9, q9) => (xo_ h1 ci9 q9) | .inr r2 => (gIN h1 r2 5 2 fun v3 => pZ h1 r2 5 2 (1 : Int32) fun h4 => (if v3 = 0 then (f_X1_restart_B25 (1 : Int32) h4) else (f_X1_restart_B25 (0 : Int32) h4))))
theorem hyS_X1_restart : yX1_restart.cls ≠ "java/lang/invoke/MethodHandle" ∧ yX1_restart.cls ≠ "java/lang/invoke/VarHandle" ∧ (parseMethodDescriptor yX1_restart.desc).map (fun d => d.parameters.length) = some 1 := by decide +kernel
theorem hyV_X1_restart : yX1_restart.cls = RX1 ∧ yX1_restart.cls ≠ "java/lang/invoke/MethodHandle" ∧ yX1_restart.cls ≠ "java/lang/invoke/VarHandle" ∧ (parseMethodDescriptor yX1_restart.desc).map (fun d => d.parameters.length) = some 1 := by decide +kernel
theorem c_X1_restart {D : va_G} (r0 : Option Nat) (p0 : Int32) {h0 : PH} (l : Launch) (hl : l.stackTraces = false) (x : ((Nat × Nat) ⊕ Int32)) (h1 : PH) (hf : f_X1_restart r0 p0 h0 = some (x, h1)) : CT l D yX1_restart (ws_ yX1_restart cX1_restart 4 (Option.some FieldType.boolean)) 7 110 [va_rf r0, .int p0] h0 (oxi x) h1 := by
  refine ct_of hl [some (va_rf r0), some (.int p0), none, none] (by decide) (by rw [lgl]; simp [va_rf_cat, cat_i, cat_l]) (by simp [lv_args, vsL, va_rf_cat, cat_i, cat_l]) (fun Γ => ?_)
  obtain ⟨o, ho⟩ : ∃ o : ((Nat × Nat) ⊕ Int32) × PH, o = (x, h1) := ⟨_, rfl⟩
  rw [← ho] at hf
  have e1 : x = o.1 := by rw [ho]
  have e2 : h1 = o.2 := by rw [ho]
  subst e1 e2
  clear ho
  show PF Γ mi_X1_restart D h0 (QR Γ D h0 (oxi o.1) o.2) h0 0 [some (va_rf r0), some (.int p0), none, none] []
  unfold f_X1_restart at hf
  refine j_aload_n 0 dX1_restart_0 rfl rfl ?_
  refine j_iload_n 1 dX1_restart_1 rfl rfl ?_
  refine kc_X1_117 rfl rfl rfl (by decide) dX1_restart_2 hf (fun r2 h1 hf => ?_) (fun ci9 q9 h1 fs9 he9 hf => ?_)
  · refine j_astore_n 2 [some (va_rf r0), some (.int p0), some (va_rf r2), none] dX1_restart_5 rfl (cz rfl) rfl rfl ?_
    refine j_aload_n 2 dX1_restart_6 rfl rfl ?_
    refine j_gIN (ci := 5) (k := 2) rfl in_X6 rfl q728 dX1_restart_7 hf (fun v3 hf => ?_)
    refine j_istore_n 3 [some (va_rf r0), some (.int p0), some (va_rf r2), some (.int v3)] dX1_restart_10 rfl (cz (va_rf_cat _)) rfl rfl ?_
    refine j_aload_n 2 dX1_restart_11 rfl rfl ?_
    refine j_iconst (1 : Int32) dX1_restart_12 (by decide) ?_
    obtain ⟨hz9, hf⟩ := pZ_in hf
    refine j_pVN (ci := 5) (k := 2) tyX6 tyX6_ok nmX6 rfl in_X6 rfl q728 rfl rfl (fit_z _ hz9) dX1_restart_13 hf (fun h4 hf => ?_)
    refine j_iload_n 3 dX1_restart_16 rfl rfl ?_
    refine j_if_ne 24 dX1_restart_17 (by decide) hf (fun c_ hf => ?_) (fun c_ hf => ?_)
    · refine j_iconst (0 : Int32) dX1_restart_24 (by decide) ?_
      refine j_weak [none, none, none, none] (Wk.s (Wk.s (Wk.s (Wk.s Wk.n)))) ?_
      exact pf_X1_restart_B25 (0 : Int32) h4 hf
    · refine j_iconst (1 : Int32) dX1_restart_20 (by decide) ?_
      refine j_goto 25 dX1_restart_21 (by decide) ?_
      refine j_weak [none, none, none, none] (Wk.s (Wk.s (Wk.s (Wk.s Wk.n)))) ?_
      exact pf_X1_restart_B25 (1 : Int32) h4 hf
  · obtain ⟨hb9, hf⟩ := xo_in hf
    subst hf
    exact j_out (by decide) hb9 he9
theorem kc_X1_73 {Γ : GX} {I : MI} {D : va_G} {h0 : PH} {Q : State → Prop} {h : PH} {pc : Nat} {vs : List (Option Value)} {rest : List Value} {β : Type} {o : β} {p0 : Int32} {K : (((Nat × Nat) ⊕ Unit) → PH → Option β)} (hI : I.2.2.1 = RX1) (hfr : Nat.ble 7 I.2.2.2.2.2.1 = true) (hlo : Nat.ble 109 I.2.2.2.2.2.2.1 = true) (hW : (rest.map fun v => v.category).sum ≤ 8) (hd : decode I.1 pc = .ok (.invokestatic 73, 3)) (hf : cl_ (f_X1_check p0 h) K = some o) (kk : ∀ (x : Unit) (h1 : PH), K (.inr x) h1 = some o → PF Γ I D h0 Q h1 (pc + 3) vs (rest)) (kx : ∀ (ci q : Nat) (h1 : PH) (fs : List Value), h1.1 q = some (.inr (ci, fs)) → K (.inl (ci, q)) h1 = some o → PX Γ I D h0 Q h1 pc vs q) : PF Γ I D h0 Q h pc vs (.int p0 :: rest) := by
  obtain ⟨cc, nL, own, rt, xt, fr, lo, nm⟩ := I
  cases hI
  exact j_xSv (n := 1) (y := yX1_check) (cc2 := cX1_check) (As := [.int p0]) (lw_S q1696 q1697 q90 q1698) hyS_X1_check hfr hlo rfl hW hd (c_X1_check p0) hf _ rfl kk kx
abbrev mi_X1_pause : MI := (cX1_pause, 4, RX1, (Option.some FieldType.int), [], 7, 110, "pause")
def f_X1_pause (r0 : Option Nat) (p0 : Int32) (p1 : Int32) (h0 : PH) : Option (((Nat × Nat) ⊕ Int32) × PH) := rv_ h0 r0 0 (cl_ (f_X1_node r0 p0 h0) fun z9 h1 => match z9 with | .inl (ci9, q9) => (xo_ h1 ci9 q9) | .inr r2 => (cl_ (f_X1_in (p1.toInt64) (1 : Int64) (20000 : Int64) h1) fun v4 h3 => cl_ (f_X1_check v4 h3) fun z9 h5 => match z9 with | .inl (ci9, q9) => (xo_ h5 ci9 q9) | .inr _u => (gIN h5 r2 5 2 fun v6 => (if v6 = 0 then (some (.inr (-3 : Int32), h5)) else (gIN h5 r2 5 5 fun v7 => gR h5 r0 0 3 fun r8 => gIN h5 r8 1 8 fun v9 => pV h5 r2 5 5 (.int (if v7 < (v9 + p1) then (v9 + p1) else v7)) fun h10 => gIN h10 r2 5 5 fun v11 => some (.inr v11, h10))))))
theorem hyS_X1_pause : yX1_pause.cls ≠ "java/lang/invoke/MethodHandle" ∧ yX1_pause.cls ≠ "java/lang/invoke/VarHandle" ∧ (parseMethodDescriptor yX1_pause.desc).map (fun d => d.parameters.length) = some 2 := by decide +kernel
theorem hyV_X1_pause : yX1_pause.cls = RX1 ∧ yX1_pause.cls ≠ "java/lang/invoke/MethodHandle" ∧ yX1_pause.cls ≠ "java/lang/invoke/VarHandle" ∧ (parseMethodDescriptor yX1_pause.desc).map (fun d => d.parameters.length) = some 2 := by decide +kernel
theorem c_X1_pause {D : va_G} (r0 : Option Nat) (p0 : Int32) (p1 : Int32) {h0 : PH} (l : Launch) (hl : l.stackTraces = false) (x : ((Nat × Nat) ⊕ Int32)) (h1 : PH) (hf : f_X1_pause r0 p0 p1 h0 = some (x, h1)) : CT l D yX1_pause (ws_ yX1_pause cX1_pause 4 (Option.some FieldType.int)) 7 110 [va_rf r0, .int p0, .int p1] h0 (oxi x) h1 := by
  refine ct_of hl [some (va_rf r0), some (.int p0), some (.int p1), none] (by decide) (by rw [lgl]; simp [va_rf_cat, cat_i, cat_l]) (by simp [lv_args, vsL, va_rf_cat, cat_i, cat_l]) (fun Γ => ?_)
  obtain ⟨o, ho⟩ : ∃ o : ((Nat × Nat) ⊕ Int32) × PH, o = (x, h1) := ⟨_, rfl⟩
  rw [← ho] at hf
  have e1 : x = o.1 := by rw [ho]
  have e2 : h1 = o.2 := by rw [ho]
  subst e1 e2
  clear ho
  show PF Γ mi_X1_pause D h0 (QR Γ D h0 (oxi o.1) o.2) h0 0 [some (va_rf r0), some (.int p0), some (.int p1), none] []
  unfold f_X1_pause at hf
  refine j_aload_n 0 dX1_pause_0 rfl rfl ?_
  refine j_iload_n 1 dX1_pause_1 rfl rfl ?_
  refine kc_X1_117 rfl rfl rfl (by decide) dX1_pause_2 hf (fun r2 h1 hf => ?_) (fun ci9 q9 h1 fs9 he9 hf => ?_)
  · refine j_astore_n 3 [some (va_rf r0), some (.int p0), some (.int p1), some (va_rf r2)] dX1_pause_5 rfl (cz rfl) rfl rfl ?_
    refine j_iload_n 2 dX1_pause_6 rfl rfl ?_
    refine j_i2l dX1_pause_7 ?_
    refine j_lconst (1 : Int64) dX1_pause_8 (by decide) ?_
    refine j_ldc2 q1809 dX1_pause_9 ?_
    refine kc_X1_64 rfl rfl rfl (by decide) dX1_pause_12 hf (fun v4 h3 hf => ?_)
    refine kc_X1_73 rfl rfl rfl (by decide) dX1_pause_15 hf (fun _u h5 hf => ?_) (fun ci9 q9 h5 fs9 he9 hf => ?_)
    · refine j_aload_n 3 dX1_pause_18 rfl rfl ?_
      refine j_gIN (ci := 5) (k := 2) rfl in_X6 rfl q728 dX1_pause_19 hf (fun v6 hf => ?_)
      refine j_if_ne 28 dX1_pause_22 (by decide) hf (fun c_ hf => ?_) (fun c_ hf => ?_)
      · refine j_aload_n 3 dX1_pause_28 rfl rfl ?_
        refine j_aload_n 3 dX1_pause_29 rfl rfl ?_
        refine j_gIN (ci := 5) (k := 5) rfl in_X6 rfl q737 dX1_pause_30 hf (fun v7 hf => ?_)
        refine j_aload_n 0 dX1_pause_33 rfl rfl ?_
        refine j_gR (ci := 0) (k := 3) rfl in_X1 rfl q877 dX1_pause_34 hf (fun r8 hf => ?_)
        refine j_gIN (ci := 1) (k := 8) rfl in_X2 rfl q803 dX1_pause_37 hf (fun v9 hf => ?_)
        refine j_iload_n 2 dX1_pause_40 rfl rfl ?_
        refine j_iadd dX1_pause_41 ?_
        refine j_mmax q1615 q288 q106 q289 rfl rfl (by simp [va_rf_cat, cat_i, cat_l]) dX1_pause_42 ?_
        refine j_pVN (ci := 5) (k := 5) tyX6 tyX6_ok nmX6 rfl in_X6 rfl q737 rfl rfl (fit_i _) dX1_pause_45 hf (fun h10 hf => ?_)
        refine j_aload_n 3 dX1_pause_48 rfl rfl ?_
        refine j_gIN (ci := 5) (k := 5) rfl in_X6 rfl q737 dX1_pause_49 hf (fun v11 hf => ?_)
        have e9 := Option.some.inj hf
        subst e9
        exact j_iret rfl dX1_pause_52
      · refine j_bipush (-3 : Int32) dX1_pause_25 (by decide) ?_
        have e9 := Option.some.inj hf
        subst e9
        exact j_iret rfl dX1_pause_27
    · obtain ⟨hb9, hf⟩ := xo_in hf
      subst hf
      exact j_out (by decide) hb9 he9
  · obtain ⟨hb9, hf⟩ := xo_in hf
    subst hf
    exact j_out (by decide) hb9 he9
abbrev mi_X1_setCut : MI := (cX1_setCut, 5, RX1, (Option.some FieldType.boolean), [], 7, 110, "setCut")
def f_X1_setCut (r0 : Option Nat) (p0 : Int32) (p1 : Int32) (h0 : PH) : Option (((Nat × Nat) ⊕ Int32) × PH) := rv_ h0 r0 0 (cl_ (f_X1_node r0 p0 h0) fun z9 h1 => match z9 with | .inl (ci9, q9) => (xo_ h1 ci9 q9) | .inr r2 => (gIN h1 r2 5 4 fun v3 => pZ h1 r2 5 4 p1 fun h4 => rN .boolean v3 (fun v => .inr v) h4))
theorem hyS_X1_setCut : yX1_setCut.cls ≠ "java/lang/invoke/MethodHandle" ∧ yX1_setCut.cls ≠ "java/lang/invoke/VarHandle" ∧ (parseMethodDescriptor yX1_setCut.desc).map (fun d => d.parameters.length) = some 2 := by decide +kernel
theorem hyV_X1_setCut : yX1_setCut.cls = RX1 ∧ yX1_setCut.cls ≠ "java/lang/invoke/MethodHandle" ∧ yX1_setCut.cls ≠ "java/lang/invoke/VarHandle" ∧ (parseMethodDescriptor yX1_setCut.desc).map (fun d => d.parameters.length) = some 2 := by decide +kernel
theorem c_X1_setCut {D : va_G} (r0 : Option Nat) (p0 : Int32) (p1 : Int32) {h0 : PH} (l : Launch) (hl : l.stackTraces = false) (x : ((Nat × Nat) ⊕ Int32)) (h1 : PH) (hf : f_X1_setCut r0 p0 p1 h0 = some (x, h1)) : CT l D yX1_setCut (ws_ yX1_setCut cX1_setCut 5 (Option.some FieldType.boolean)) 7 110 [va_rf r0, .int p0, .int p1] h0 (oxi x) h1 := by
  refine ct_of hl [some (va_rf r0), some (.int p0), some (.int p1), none, none] (by decide) (by rw [lgl]; simp [va_rf_cat, cat_i, cat_l]) (by simp [lv_args, vsL, va_rf_cat, cat_i, cat_l]) (fun Γ => ?_)
  obtain ⟨o, ho⟩ : ∃ o : ((Nat × Nat) ⊕ Int32) × PH, o = (x, h1) := ⟨_, rfl⟩
  rw [← ho] at hf
  have e1 : x = o.1 := by rw [ho]
  have e2 : h1 = o.2 := by rw [ho]
  subst e1 e2
  clear ho
  show PF Γ mi_X1_setCut D h0 (QR Γ D h0 (oxi o.1) o.2) h0 0 [some (va_rf r0), some (.int p0), some (.int p1), none, none] []
  unfold f_X1_setCut at hf
  refine j_aload_n 0 dX1_setCut_0 rfl rfl ?_
  refine j_iload_n 1 dX1_setCut_1 rfl rfl ?_
  refine kc_X1_117 rfl rfl rfl (by decide) dX1_setCut_2 hf (fun r2 h1 hf => ?_) (fun ci9 q9 h1 fs9 he9 hf => ?_)
  · refine j_astore_n 3 [some (va_rf r0), some (.int p0), some (.int p1), some (va_rf r2), none] dX1_setCut_5 rfl (cz rfl) rfl rfl ?_
    refine j_aload_n 3 dX1_setCut_6 rfl rfl ?_
    refine j_gIN (ci := 5) (k := 4) rfl in_X6 rfl q734 dX1_setCut_7 hf (fun v3 hf => ?_)
    refine j_istore [some (va_rf r0), some (.int p0), some (.int p1), some (va_rf r2), some (.int v3)] dX1_setCut_10 (cz (va_rf_cat _)) rfl rfl ?_
    refine j_aload_n 3 dX1_setCut_12 rfl rfl ?_
    refine j_iload_n 2 dX1_setCut_13 rfl rfl ?_
    obtain ⟨hz9, hf⟩ := pZ_in hf
    refine j_pVN (ci := 5) (k := 4) tyX6 tyX6_ok nmX6 rfl in_X6 rfl q734 rfl rfl (fit_z _ hz9) dX1_setCut_14 hf (fun h4 hf => ?_)
    refine j_iload dX1_setCut_17 rfl ?_
    obtain ⟨hn9, hf⟩ := rN_in hf
    subst hf
    exact j_zret rfl (nar_z _ hn9) dX1_setCut_19
  · obtain ⟨hb9, hf⟩ := xo_in hf
    subst hf
    exact j_out (by decide) hb9 he9
theorem kc_X1_197 {Γ : GX} {I : MI} {D : va_G} {h0 : PH} {Q : State → Prop} {h : PH} {pc : Nat} {vs : List (Option Value)} {rest : List Value} {β : Type} {o : β} {a : Nat} {p0 : Int32} {p1 : Int32} {p2 : Int32} {K : ((Unit) → PH → Option β)} (hI : I.2.2.1 = RX1) (hfr : Nat.ble 2 I.2.2.2.2.2.1 = true) (hlo : Nat.ble 43 I.2.2.2.2.2.2.1 = true) (hW : (rest.map fun v => v.category).sum ≤ 8) (hd : decode I.1 pc = .ok (.invokespecial 197, 3)) (hf : cl_ (f_X20_init a p0 p1 p2 h) K = some o) (kk : ∀ (x : Unit) (h1 : PH), K x h1 = some o → PF Γ I D h0 Q h1 (pc + 3) vs (rest)) : PF Γ I D h0 Q h pc vs (.int p2 :: .int p1 :: .int p0 :: va_rf (some a) :: rest) := by
  obtain ⟨cc, nL, own, rt, xt, fr, lo, nm⟩ := I
  cases hI
  exact j_cIv (n := 3) (y := yX20_init) (cc2 := cX20_init) (As := [.int p0, .int p1, .int p2]) (lw_meth q1828) q133 q1826 q1827 rfl hyS_X20_init hfr hlo rfl hW hd (c_X20_init a p0 p1 p2) ⟨_, rfl⟩ hf _ rfl kk
abbrev mi_X1_planOutage : MI := (cX1_planOutage, 5, RX1, (Option.some FieldType.int), [], 7, 191, "planOutage")
def f_X1_planOutage_B35 (x0 : Option Nat) (x1 : Int32) (x2 : Int32) (x3 : Int32) (t0 : Int32) (h : PH) : Option (((Nat × Nat) ⊕ Int32) × PH) := cl_ (f_X1_check t0 h) fun z9 h7 => match z9 with | .inl (ci9, q9) => (xo_ h7 ci9 q9) | .inr _u => (gR h7 x0 0 3 fun r8 => gRN h7 r8 1 4 fun r9 => rv_ h7 r9 19 (cl_ (f_J2_size r9 h7) fun v11 h10 => (if v11 = (20 : Int32) then (some (.inr (-5 : Int32), h10)) else (gR h10 x0 0 3 fun r12 => gIN h10 r12 1 8 fun v13 => gR h10 x0 0 3 fun r14 => gRN h10 r14 1 4 fun r15 => nO h10 17 3 [.int 0, .int 0, .int 0] fun a16 h17 => cl_ (f_X20_init a16 x1 (v13 + x2) ((v13 + x2) + x3) h17) fun _u h18 => rv_ h18 r15 19 (cl_ (f_J2_add r15 (some a16) h18) fun v20 h19 => some (.inr ((v13 + x2) + x3), h19))))))
theorem pf_X1_planOutage_B35 {Γ : GX} {D : va_G} {h0 : PH} {o : ((Nat × Nat) ⊕ Int32) × PH} (x0 : Option Nat) (x1 : Int32) (x2 : Int32) (x3 : Int32) (t0 : Int32) (h : PH) (hf : f_X1_planOutage_B35 x0 x1 x2 x3 t0 h = some o) : PF Γ mi_X1_planOutage D h0 (QR Γ D h0 (oxi o.1) o.2) h 35 [some (va_rf x0), some (.int x1), some (.int x2), some (.int x3), none] [.int t0] := by
  refine kc_X1_73 rfl rfl rfl (by decide) dX1_planOutage_35 hf (fun _u h7 hf => ?_) (fun ci9 q9 h7 fs9 he9 hf => ?_)
  · refine j_aload_n 0 dX1_planOutage_38 rfl rfl ?_
    refine j_gR (ci := 0) (k := 3) rfl in_X1 rfl q877 dX1_planOutage_39 hf (fun r8 hf => ?_)
    refine j_gRN (ci := 1) (k := 4) rfl in_X2 rfl q795 dX1_planOutage_42 hf (fun r9 hf => ?_)
    refine kc_X1_192 rfl rfl rfl (by decide) dX1_planOutage_45 hf (fun v11 h10 hf => ?_)
    refine j_bipush (20 : Int32) dX1_planOutage_50 (by decide) ?_
    refine j_icmp_ne 58 dX1_planOutage_52 (by decide) hf (fun c_ hf => ?_) (fun c_ hf => ?_)
    · refine j_aload_n 0 dX1_planOutage_58 rfl rfl ?_
      refine j_gR (ci := 0) (k := 3) rfl in_X1 rfl q877 dX1_planOutage_59 hf (fun r12 hf => ?_)
      refine j_gIN (ci := 1) (k := 8) rfl in_X2 rfl q803 dX1_planOutage_62 hf (fun v13 hf => ?_)
      refine j_iload_n 2 dX1_planOutage_65 rfl rfl ?_
      refine j_iadd dX1_planOutage_66 ?_
      refine j_istore [some (va_rf x0), some (.int x1), some (.int x2), some (.int x3), some (.int (v13 + x2))] dX1_planOutage_67 (cz rfl) rfl rfl ?_
      refine j_aload_n 0 dX1_planOutage_69 rfl rfl ?_
      refine j_gR (ci := 0) (k := 3) rfl in_X1 rfl q877 dX1_planOutage_70 hf (fun r14 hf => ?_)
      refine j_gRN (ci := 1) (k := 4) rfl in_X2 rfl q795 dX1_planOutage_73 hf (fun r15 hf => ?_)
      refine j_nO (ci := 17) tyX20 tyX20_ok rfl in_X20 q1824 q1825 q133 (by decide) dX1_planOutage_76 hf (fun a16 h17 hf => ?_)
      refine j_dup dX1_planOutage_79 (va_rf_cat _) ?_
      refine j_iload_n 1 dX1_planOutage_80 rfl rfl ?_
      refine j_iload dX1_planOutage_81 rfl ?_
      refine j_iload dX1_planOutage_83 rfl ?_
      refine j_iload_n 3 dX1_planOutage_85 rfl rfl ?_
      refine j_iadd dX1_planOutage_86 ?_
      refine kc_X1_197 rfl rfl rfl (by simp [va_rf_cat, cat_i, cat_l]) dX1_planOutage_87 hf (fun _u h18 hf => ?_)
      refine kc_X1_16 rfl rfl rfl (by decide) dX1_planOutage_90 hf (fun v20 h19 hf => ?_)
      refine j_pop dX1_planOutage_95 rfl ?_
      refine j_iload dX1_planOutage_96 rfl ?_
      refine j_iload_n 3 dX1_planOutage_98 rfl rfl ?_
      refine j_iadd dX1_planOutage_99 ?_
      have e9 := Option.some.inj hf
      subst e9
      exact j_iret rfl dX1_planOutage_100
    · refine j_bipush (-5 : Int32) dX1_planOutage_55 (by decide) ?_
      have e9 := Option.some.inj hf
      subst e9
      exact j_iret rfl dX1_planOutage_57
  · obtain ⟨hb9, hf⟩ := xo_in hf
    subst hf
    exact j_out (by decide) hb9 he9
def f_X1_planOutage_B34 (x0 : Option Nat) (x1 : Int32) (x2 : Int32) (x3 : Int32) (h : PH) : Option (((Nat × Nat) ⊕ Int32) × PH) := f_X1_planOutage_B35 x0 x1 x2 x3 (0 : Int32) h
theorem pf_X1_planOutage_B34 {Γ : GX} {D : va_G} {h0 : PH} {o : ((Nat × Nat) ⊕ Int32) × PH} (x0 : Option Nat) (x1 : Int32) (x2 : Int32) (x3 : Int32) (h : PH) (hf : f_X1_planOutage_B34 x0 x1 x2 x3 h = some o) : PF Γ mi_X1_planOutage D h0 (QR Γ D h0 (oxi o.1) o.2) h 34 [some (va_rf x0), some (.int x1), some (.int x2), some (.int x3), none] [] := by
  refine j_iconst (0 : Int32) dX1_planOutage_34 (by decide) ?_
  exact pf_X1_planOutage_B35 x0 x1 x2 x3 (0 : Int32) h hf
def f_X1_planOutage (r0 : Option Nat) (p0 : Int32) (p1 : Int32) (p2 : Int32) (h0 : PH) : Option (((Nat × Nat) ⊕ Int32) × PH) := rv_ h0 r0 0 (cl_ (f_X1_node r0 p0 h0) fun z9 h1 => match z9 with | .inl (ci9, q9) => (xo_ h1 ci9 q9) | .inr r2 => (cl_ (f_X1_in (p1.toInt64) (1 : Int64) (20000 : Int64) h1) fun v4 h3 => (if v4 = 0 then (f_X1_planOutage_B34 r0 p0 p1 p2 h3) else (cl_ (f_X1_in (p2.toInt64) (1 : Int64) (20000 : Int64) h3) fun v6 h5 => (if v6 = 0 then (f_X1_planOutage_B34 r0 p0 p1 p2 h5) else (f_X1_planOutage_B35 r0 p0 p1 p2 (1 : Int32) h5))))))
theorem hyS_X1_planOutage : yX1_planOutage.cls ≠ "java/lang/invoke/MethodHandle" ∧ yX1_planOutage.cls ≠ "java/lang/invoke/VarHandle" ∧ (parseMethodDescriptor yX1_planOutage.desc).map (fun d => d.parameters.length) = some 3 := by decide +kernel
theorem hyV_X1_planOutage : yX1_planOutage.cls = RX1 ∧ yX1_planOutage.cls ≠ "java/lang/invoke/MethodHandle" ∧ yX1_planOutage.cls ≠ "java/lang/invoke/VarHandle" ∧ (parseMethodDescriptor yX1_planOutage.desc).map (fun d => d.parameters.length) = some 3 := by decide +kernel
theorem c_X1_planOutage {D : va_G} (r0 : Option Nat) (p0 : Int32) (p1 : Int32) (p2 : Int32) {h0 : PH} (l : Launch) (hl : l.stackTraces = false) (x : ((Nat × Nat) ⊕ Int32)) (h1 : PH) (hf : f_X1_planOutage r0 p0 p1 p2 h0 = some (x, h1)) : CT l D yX1_planOutage (ws_ yX1_planOutage cX1_planOutage 5 (Option.some FieldType.int)) 7 191 [va_rf r0, .int p0, .int p1, .int p2] h0 (oxi x) h1 := by
  refine ct_of hl [some (va_rf r0), some (.int p0), some (.int p1), some (.int p2), none] (by decide) (by rw [lgl]; simp [va_rf_cat, cat_i, cat_l]) (by simp [lv_args, vsL, va_rf_cat, cat_i, cat_l]) (fun Γ => ?_)
  obtain ⟨o, ho⟩ : ∃ o : ((Nat × Nat) ⊕ Int32) × PH, o = (x, h1) := ⟨_, rfl⟩
  rw [← ho] at hf
  have e1 : x = o.1 := by rw [ho]
  have e2 : h1 = o.2 := by rw [ho]
  subst e1 e2
  clear ho
  show PF Γ mi_X1_planOutage D h0 (QR Γ D h0 (oxi o.1) o.2) h0 0 [some (va_rf r0), some (.int p0), some (.int p1), some (.int p2), none] []
  unfold f_X1_planOutage at hf
  refine j_aload_n 0 dX1_planOutage_0 rfl rfl ?_
  refine j_iload_n 1 dX1_planOutage_1 rfl rfl ?_
  refine kc_X1_117 rfl rfl rfl (by decide) dX1_planOutage_2 hf (fun r2 h1 hf => ?_) (fun ci9 q9 h1 fs9 he9 hf => ?_)
  · refine j_pop dX1_planOutage_5 (va_rf_cat _) ?_
    refine j_iload_n 2 dX1_planOutage_6 rfl rfl ?_
    refine j_i2l dX1_planOutage_7 ?_
    refine j_lconst (1 : Int64) dX1_planOutage_8 (by decide) ?_
    refine j_ldc2 q1809 dX1_planOutage_9 ?_
    refine kc_X1_64 rfl rfl rfl (by decide) dX1_planOutage_12 hf (fun v4 h3 hf => ?_)
    refine j_if_eq 34 dX1_planOutage_15 (by decide) hf (fun c_ hf => ?_) (fun c_ hf => ?_)
    · exact pf_X1_planOutage_B34 r0 p0 p1 p2 h3 hf
    · refine j_iload_n 3 dX1_planOutage_18 rfl rfl ?_
      refine j_i2l dX1_planOutage_19 ?_
      refine j_lconst (1 : Int64) dX1_planOutage_20 (by decide) ?_
      refine j_ldc2 q1809 dX1_planOutage_21 ?_
      refine kc_X1_64 rfl rfl rfl (by decide) dX1_planOutage_24 hf (fun v6 h5 hf => ?_)
      refine j_if_eq 34 dX1_planOutage_27 (by decide) hf (fun c_ hf => ?_) (fun c_ hf => ?_)
      · exact pf_X1_planOutage_B34 r0 p0 p1 p2 h5 hf
      · refine j_iconst (1 : Int32) dX1_planOutage_30 (by decide) ?_
        refine j_goto 35 dX1_planOutage_31 (by decide) ?_
        exact pf_X1_planOutage_B35 r0 p0 p1 p2 (1 : Int32) h5 hf
  · obtain ⟨hb9, hf⟩ := xo_in hf
    subst hf
    exact j_out (by decide) hb9 he9
abbrev mi_X1_checkRegister : MI := (cX1_checkRegister, 1, RX1, none, [], 7, 109, "checkRegister")
def f_X1_checkRegister (p0 : Int32) (h0 : PH) : Option (((Nat × Nat) ⊕ Unit) × PH) := cl_ (f_X1_in (p0.toInt64) (0 : Int64) (7 : Int64) h0) fun v2 h1 => cl_ (f_X1_check v2 h1) fun z9 h3 => match z9 with | .inl (ci9, q9) => (xo_ h3 ci9 q9) | .inr _u => (some (.inr (), h3))
theorem hyS_X1_checkRegister : yX1_checkRegister.cls ≠ "java/lang/invoke/MethodHandle" ∧ yX1_checkRegister.cls ≠ "java/lang/invoke/VarHandle" ∧ (parseMethodDescriptor yX1_checkRegister.desc).map (fun d => d.parameters.length) = some 1 := by decide +kernel
theorem c_X1_checkRegister {D : va_G} (p0 : Int32) {h0 : PH} (l : Launch) (hl : l.stackTraces = false) (x : ((Nat × Nat) ⊕ Unit)) (h1 : PH) (hf : f_X1_checkRegister p0 h0 = some (x, h1)) : CT l D yX1_checkRegister (ws_ yX1_checkRegister cX1_checkRegister 1 none) 7 109 [.int p0] h0 (oxv x) h1 := by
  refine ct_of hl [some (.int p0)] (by decide) (Nat.le_of_ble_eq_true rfl) rfl (fun Γ => ?_)
  obtain ⟨o, ho⟩ : ∃ o : ((Nat × Nat) ⊕ Unit) × PH, o = (x, h1) := ⟨_, rfl⟩
  rw [← ho] at hf
  have e1 : x = o.1 := by rw [ho]
  have e2 : h1 = o.2 := by rw [ho]
  subst e1 e2
  clear ho
  show PF Γ mi_X1_checkRegister D h0 (QR Γ D h0 (oxv o.1) o.2) h0 0 [some (.int p0)] []
  unfold f_X1_checkRegister at hf
  refine j_iload_n 0 dX1_checkRegister_0 rfl rfl ?_
  refine j_i2l dX1_checkRegister_1 ?_
  refine j_lconst (0 : Int64) dX1_checkRegister_2 (by decide) ?_
  refine j_ldc2 q1853 dX1_checkRegister_3 ?_
  refine kc_X1_64 rfl rfl rfl (by decide) dX1_checkRegister_6 hf (fun v2 h1 hf => ?_)
  refine kc_X1_73 rfl rfl rfl (by decide) dX1_checkRegister_9 hf (fun _u h3 hf => ?_) (fun ci9 q9 h3 fs9 he9 hf => ?_)
  · have e9 := Option.some.inj hf
    subst e9
    exact j_vret rfl dX1_checkRegister_12
  · obtain ⟨hb9, hf⟩ := xo_in hf
    subst hf
    exact j_out (by decide) hb9 he9
theorem kc_X1_202 {Γ : GX} {I : MI} {D : va_G} {h0 : PH} {Q : State → Prop} {h : PH} {pc : Nat} {vs : List (Option Value)} {rest : List Value} {β : Type} {o : β} {r : Option Nat} {p0 : Int32} {K : ((Int32) → PH → Option β)} (hI : I.2.2.1 = RX1) (hfr : Nat.ble 4 I.2.2.2.2.2.1 = true) (hlo : Nat.ble 88 I.2.2.2.2.2.2.1 = true) (hW : (rest.map fun v => v.category).sum ≤ 8) (hd : decode I.1 pc = .ok (.invokevirtual 202, 3)) (hf : rv_ h r 5 (cl_ (f_X6_leads r p0 h) K) = some o) (kk : ∀ (x : Int32) (h1 : PH), K x h1 = some o → PF Γ I D h0 Q h1 (pc + 3) vs (.int x :: rest)) : PF Γ I D h0 Q h pc vs (.int p0 :: va_rf r :: rest) := by
  obtain ⟨cc, nL, own, rt, xt, fr, lo, nm⟩ := I
  cases hI
  exact j_cVi (n := 1) (y := yX6_leads) (cc2 := cX6_leads) (As := [.int p0]) (C := RX6) (ci := 5) rfl (lw_V q1859 q1625 q1626 q115 q1627) hyV_X6_leads hfr hlo rfl hW hd (c_X6_leads r p0) hf _ rfl kk
abbrev mi_X1_unfit : MI := (cX1_unfit, 2, RX1, (Option.some FieldType.int), [], 4, 88, "unfit")
def f_X1_unfit_B35 (t0 : Int32) (h : PH) : Option (Int32 × PH) := some (t0, h)
theorem pf_X1_unfit_B35 {Γ : GX} {D : va_G} {h0 : PH} {o : Int32 × PH} (t0 : Int32) (h : PH) (hf : f_X1_unfit_B35 t0 h = some o) : PF Γ mi_X1_unfit D h0 (QR Γ D h0 (ovi o.1) o.2) h 35 [none, none] [.int t0] := by
  have e9 := Option.some.inj hf
  subst e9
  exact j_iret rfl dX1_unfit_35
def f_X1_unfit (r0 : Option Nat) (p0 : Option Nat) (h0 : PH) : Option (Int32 × PH) := rv_ h0 r0 0 (cl_ (f_X1_unable r0 p0 h0) fun v2 h1 => (if 0 ≤ v2 then (gR h1 r0 0 3 fun r3 => gIN h1 r3 1 8 fun v4 => rv_ h1 p0 5 (cl_ (f_X6_leads p0 v4 h1) fun v6 h5 => (if v6 = 0 then (f_X1_unfit_B35 (-1 : Int32) h5) else (f_X1_unfit_B35 (0 : Int32) h5)))) else (rv_ h1 r0 0 (cl_ (f_X1_unable r0 p0 h1) fun v8 h7 => f_X1_unfit_B35 v8 h7))))
theorem hyS_X1_unfit : yX1_unfit.cls ≠ "java/lang/invoke/MethodHandle" ∧ yX1_unfit.cls ≠ "java/lang/invoke/VarHandle" ∧ (parseMethodDescriptor yX1_unfit.desc).map (fun d => d.parameters.length) = some 1 := by decide +kernel
theorem hyV_X1_unfit : yX1_unfit.cls = RX1 ∧ yX1_unfit.cls ≠ "java/lang/invoke/MethodHandle" ∧ yX1_unfit.cls ≠ "java/lang/invoke/VarHandle" ∧ (parseMethodDescriptor yX1_unfit.desc).map (fun d => d.parameters.length) = some 1 := by decide +kernel
theorem c_X1_unfit {D : va_G} (r0 : Option Nat) (p0 : Option Nat) {h0 : PH} (l : Launch) (hl : l.stackTraces = false) (x : Int32) (h1 : PH) (hf : f_X1_unfit r0 p0 h0 = some (x, h1)) : CT l D yX1_unfit (ws_ yX1_unfit cX1_unfit 2 (Option.some FieldType.int)) 4 88 [va_rf r0, va_rf p0] h0 (ovi x) h1 := by
  refine ct_of hl [some (va_rf r0), some (va_rf p0)] (by decide) (by rw [lgl]; simp [va_rf_cat, cat_i, cat_l]) (by simp [lv_args, vsL, va_rf_cat, cat_i, cat_l]) (fun Γ => ?_)
  obtain ⟨o, ho⟩ : ∃ o : Int32 × PH, o = (x, h1) := ⟨_, rfl⟩
  rw [← ho] at hf
  have e1 : x = o.1 := by rw [ho]
  have e2 : h1 = o.2 := by rw [ho]
  subst e1 e2
  clear ho
  show PF Γ mi_X1_unfit D h0 (QR Γ D h0 (ovi o.1) o.2) h0 0 [some (va_rf r0), some (va_rf p0)] []
  unfold f_X1_unfit at hf
  refine j_aload_n 0 dX1_unfit_0 rfl rfl ?_
  refine j_aload_n 1 dX1_unfit_1 rfl rfl ?_
  refine kc_X1_142 rfl rfl rfl (by decide) dX1_unfit_2 hf (fun v2 h1 hf => ?_)
  refine j_if_ge 16 dX1_unfit_5 (by decide) hf (fun c_ hf => ?_) (fun c_ hf => ?_)
  · refine j_aload_n 1 dX1_unfit_16 rfl rfl ?_
    refine j_aload_n 0 dX1_unfit_17 rfl rfl ?_
    refine j_gR (ci := 0) (k := 3) rfl in_X1 rfl q877 dX1_unfit_18 hf (fun r3 hf => ?_)
    refine j_gIN (ci := 1) (k := 8) rfl in_X2 rfl q803 dX1_unfit_21 hf (fun v4 hf => ?_)
    refine kc_X1_202 rfl rfl rfl (by decide) dX1_unfit_24 hf (fun v6 h5 hf => ?_)
    refine j_if_eq 34 dX1_unfit_27 (by decide) hf (fun c_ hf => ?_) (fun c_ hf => ?_)
    · refine j_iconst (-1 : Int32) dX1_unfit_34 (by decide) ?_
      refine j_weak [none, none] (Wk.s (Wk.s Wk.n)) ?_
      exact pf_X1_unfit_B35 (-1 : Int32) h5 hf
    · refine j_iconst (0 : Int32) dX1_unfit_30 (by decide) ?_
      refine j_goto 35 dX1_unfit_31 (by decide) ?_
      refine j_weak [none, none] (Wk.s (Wk.s Wk.n)) ?_
      exact pf_X1_unfit_B35 (0 : Int32) h5 hf
  · refine j_aload_n 0 dX1_unfit_8 rfl rfl ?_
    refine j_aload_n 1 dX1_unfit_9 rfl rfl ?_
    refine kc_X1_142 rfl rfl rfl (by decide) dX1_unfit_10 hf (fun v8 h7 hf => ?_)
    refine j_goto 35 dX1_unfit_13 (by decide) ?_
    refine j_weak [none, none] (Wk.s (Wk.s Wk.n)) ?_
    exact pf_X1_unfit_B35 v8 h7 hf
theorem kc_X1_205 {Γ : GX} {I : MI} {D : va_G} {h0 : PH} {Q : State → Prop} {h : PH} {pc : Nat} {vs : List (Option Value)} {rest : List Value} {β : Type} {o : β} {p0 : Int32} {K : (((Nat × Nat) ⊕ Unit) → PH → Option β)} (hI : I.2.2.1 = RX1) (hfr : Nat.ble 8 I.2.2.2.2.2.1 = true) (hlo : Nat.ble 129 I.2.2.2.2.2.2.1 = true) (hW : (rest.map fun v => v.category).sum ≤ 8) (hd : decode I.1 pc = .ok (.invokestatic 205, 3)) (hf : cl_ (f_X1_checkRegister p0 h) K = some o) (kk : ∀ (x : Unit) (h1 : PH), K (.inr x) h1 = some o → PF Γ I D h0 Q h1 (pc + 3) vs (rest)) (kx : ∀ (ci q : Nat) (h1 : PH) (fs : List Value), h1.1 q = some (.inr (ci, fs)) → K (.inl (ci, q)) h1 = some o → PX Γ I D h0 Q h1 pc vs q) : PF Γ I D h0 Q h pc vs (.int p0 :: rest) := by
  obtain ⟨cc, nL, own, rt, xt, fr, lo, nm⟩ := I
  cases hI
  exact j_xSv (n := 1) (y := yX1_checkRegister) (cc2 := cX1_checkRegister) (As := [.int p0]) (lw_S q1850 q1851 q90 q1852) hyS_X1_checkRegister hfr hlo rfl hW hd (c_X1_checkRegister p0) hf _ rfl kk kx
theorem kc_X1_210 {Γ : GX} {I : MI} {D : va_G} {h0 : PH} {Q : State → Prop} {h : PH} {pc : Nat} {vs : List (Option Value)} {rest : List Value} {β : Type} {o : β} {r : Option Nat} {p0 : Option Nat} {K : ((Int32) → PH → Option β)} (hI : I.2.2.1 = RX1) (hfr : Nat.ble 5 I.2.2.2.2.2.1 = true) (hlo : Nat.ble 109 I.2.2.2.2.2.2.1 = true) (hW : (rest.map fun v => v.category).sum ≤ 8) (hd : decode I.1 pc = .ok (.invokevirtual 210, 3)) (hf : rv_ h r 0 (cl_ (f_X1_unfit r p0 h) K) = some o) (kk : ∀ (x : Int32) (h1 : PH), K x h1 = some o → PF Γ I D h0 Q h1 (pc + 3) vs (.int x :: rest)) : PF Γ I D h0 Q h pc vs (va_rf p0 :: va_rf r :: rest) := by
  obtain ⟨cc, nL, own, rt, xt, fr, lo, nm⟩ := I
  cases hI
  exact j_cVi (n := 1) (y := yX1_unfit) (cc2 := cX1_unfit) (As := [va_rf p0]) (C := RX1) (ci := 0) rfl (lw_V q1855 q1857 qs30 q90 q1858) hyV_X1_unfit hfr hlo rfl hW hd (c_X1_unfit r p0) hf _ rfl kk
theorem kc_X1_221 {Γ : GX} {I : MI} {D : va_G} {h0 : PH} {Q : State → Prop} {h : PH} {pc : Nat} {vs : List (Option Value)} {rest : List Value} {β : Type} {o : β} {a : Nat} {p0 : Int32} {p1 : Int32} {p2 : Int32} {p3 : Int32} {p4 : Int32} {K : ((Unit) → PH → Option β)} (hI : I.2.2.1 = RX1) (hfr : Nat.ble 2 I.2.2.2.2.2.1 = true) (hlo : Nat.ble 45 I.2.2.2.2.2.2.1 = true) (hW : (rest.map fun v => v.category).sum ≤ 8) (hd : decode I.1 pc = .ok (.invokespecial 221, 3)) (hf : cl_ (f_X21_init a p0 p1 p2 p3 p4 h) K = some o) (kk : ∀ (x : Unit) (h1 : PH), K x h1 = some o → PF Γ I D h0 Q h1 (pc + 3) vs (rest)) : PF Γ I D h0 Q h pc vs (.int p4 :: .int p3 :: .int p2 :: .int p1 :: .int p0 :: va_rf (some a) :: rest) := by
  obtain ⟨cc, nL, own, rt, xt, fr, lo, nm⟩ := I
  cases hI
  exact j_cIv (n := 5) (y := yX21_init) (cc2 := cX21_init) (As := [.int p0, .int p1, .int p2, .int p3, .int p4]) (lw_meth q1872) q134 q1870 q1871 rfl hyS_X21_init hfr hlo rfl hW hd (c_X21_init a p0 p1 p2 p3 p4) ⟨_, rfl⟩ hf _ rfl kk
abbrev mi_X1_writeLater : MI := (cX1_writeLater, 6, RX1, (Option.some FieldType.int), [], 8, 191, "writeLater")
def f_X1_writeLater_B41 (x0 : Option Nat) (x1 : Int32) (x2 : Int32) (x3 : Int32) (x4 : Int32) (x5 : Option Nat) (t0 : Int32) (h : PH) : Option (((Nat × Nat) ⊕ Int32) × PH) := cl_ (f_X1_check t0 h) fun z9 h8 => match z9 with | .inl (ci9, q9) => (xo_ h8 ci9 q9) | .inr _u => (rv_ h8 x0 0 (cl_ (f_X1_unfit x0 x5 h8) fun v10 h9 => (if 0 ≤ v10 then (gR h9 x0 0 3 fun r11 => gRN h9 r11 1 3 fun r12 => rv_ h9 r12 19 (cl_ (f_J2_size r12 h9) fun v14 h13 => (if v14 = (20 : Int32) then (some (.inr (-5 : Int32), h13)) else (gR h13 x0 0 3 fun r15 => gRN h13 r15 1 3 fun r16 => nO h13 18 5 [.int 0, .int 0, .int 0, .int 0, .int 0] fun a17 h18 => gIN h18 x5 5 6 fun v19 => gR h18 x0 0 3 fun r20 => gIN h18 r20 1 8 fun v21 => cl_ (f_X21_init a17 x1 v19 x2 x3 (v21 + x4) h18) fun _u h22 => rv_ h22 r16 19 (cl_ (f_J2_add r16 (some a17) h22) fun v24 h23 => gIN h23 x5 5 6 fun v25 => some (.inr v25, h23)))))) else (rv_ h9 x0 0 (cl_ (f_X1_unfit x0 x5 h9) fun v27 h26 => some (.inr v27, h26))))))
theorem pf_X1_writeLater_B41 {Γ : GX} {D : va_G} {h0 : PH} {o : ((Nat × Nat) ⊕ Int32) × PH} (x0 : Option Nat) (x1 : Int32) (x2 : Int32) (x3 : Int32) (x4 : Int32) (x5 : Option Nat) (t0 : Int32) (h : PH) (hf : f_X1_writeLater_B41 x0 x1 x2 x3 x4 x5 t0 h = some o) : PF Γ mi_X1_writeLater D h0 (QR Γ D h0 (oxi o.1) o.2) h 41 [some (va_rf x0), some (.int x1), some (.int x2), some (.int x3), some (.int x4), some (va_rf x5)] [.int t0] := by
  refine kc_X1_73 rfl rfl rfl (by decide) dX1_writeLater_41 hf (fun _u h8 hf => ?_) (fun ci9 q9 h8 fs9 he9 hf => ?_)
  · refine j_aload_n 0 dX1_writeLater_44 rfl rfl ?_
    refine j_aload dX1_writeLater_45 rfl ?_
    refine kc_X1_210 rfl rfl rfl (by decide) dX1_writeLater_47 hf (fun v10 h9 hf => ?_)
    refine j_if_ge 60 dX1_writeLater_50 (by decide) hf (fun c_ hf => ?_) (fun c_ hf => ?_)
    · refine j_aload_n 0 dX1_writeLater_60 rfl rfl ?_
      refine j_gR (ci := 0) (k := 3) rfl in_X1 rfl q877 dX1_writeLater_61 hf (fun r11 hf => ?_)
      refine j_gRN (ci := 1) (k := 3) rfl in_X2 rfl q793 dX1_writeLater_64 hf (fun r12 hf => ?_)
      refine kc_X1_192 rfl rfl rfl (by decide) dX1_writeLater_67 hf (fun v14 h13 hf => ?_)
      refine j_bipush (20 : Int32) dX1_writeLater_72 (by decide) ?_
      refine j_icmp_ne 80 dX1_writeLater_74 (by decide) hf (fun c_ hf => ?_) (fun c_ hf => ?_)
      · refine j_aload_n 0 dX1_writeLater_80 rfl rfl ?_
        refine j_gR (ci := 0) (k := 3) rfl in_X1 rfl q877 dX1_writeLater_81 hf (fun r15 hf => ?_)
        refine j_gRN (ci := 1) (k := 3) rfl in_X2 rfl q793 dX1_writeLater_84 hf (fun r16 hf => ?_)
        refine j_nO (ci := 18) tyX21 tyX21_ok rfl in_X21 q1868 q1869 q134 (by decide) dX1_writeLater_87 hf (fun a17 h18 hf => ?_)
        refine j_dup dX1_writeLater_90 (va_rf_cat _) ?_
        refine j_iload_n 1 dX1_writeLater_91 rfl rfl ?_
        refine j_aload dX1_writeLater_92 rfl ?_
        refine j_gIN (ci := 5) (k := 6) rfl in_X6 rfl q740 dX1_writeLater_94 hf (fun v19 hf => ?_)
        refine j_iload_n 2 dX1_writeLater_97 rfl rfl ?_
        refine j_iload_n 3 dX1_writeLater_98 rfl rfl ?_
        refine j_aload_n 0 dX1_writeLater_99 rfl rfl ?_
        refine j_gR (ci := 0) (k := 3) rfl in_X1 rfl q877 dX1_writeLater_100 hf (fun r20 hf => ?_)
        refine j_gIN (ci := 1) (k := 8) rfl in_X2 rfl q803 dX1_writeLater_103 hf (fun v21 hf => ?_)
        refine j_iload dX1_writeLater_106 rfl ?_
        refine j_iadd dX1_writeLater_108 ?_
        refine kc_X1_221 rfl rfl rfl (by simp [va_rf_cat, cat_i, cat_l]) dX1_writeLater_109 hf (fun _u h22 hf => ?_)
        refine kc_X1_16 rfl rfl rfl (by decide) dX1_writeLater_112 hf (fun v24 h23 hf => ?_)
        refine j_pop dX1_writeLater_117 rfl ?_
        refine j_aload dX1_writeLater_118 rfl ?_
        refine j_gIN (ci := 5) (k := 6) rfl in_X6 rfl q740 dX1_writeLater_120 hf (fun v25 hf => ?_)
        have e9 := Option.some.inj hf
        subst e9
        exact j_iret rfl dX1_writeLater_123
      · refine j_bipush (-5 : Int32) dX1_writeLater_77 (by decide) ?_
        have e9 := Option.some.inj hf
        subst e9
        exact j_iret rfl dX1_writeLater_79
    · refine j_aload_n 0 dX1_writeLater_53 rfl rfl ?_
      refine j_aload dX1_writeLater_54 rfl ?_
      refine kc_X1_210 rfl rfl rfl (by decide) dX1_writeLater_56 hf (fun v27 h26 hf => ?_)
      have e9 := Option.some.inj hf
      subst e9
      exact j_iret rfl dX1_writeLater_59
  · obtain ⟨hb9, hf⟩ := xo_in hf
    subst hf
    exact j_out (by decide) hb9 he9
def f_X1_writeLater_B40 (x0 : Option Nat) (x1 : Int32) (x2 : Int32) (x3 : Int32) (x4 : Int32) (x5 : Option Nat) (h : PH) : Option (((Nat × Nat) ⊕ Int32) × PH) := f_X1_writeLater_B41 x0 x1 x2 x3 x4 x5 (0 : Int32) h
theorem pf_X1_writeLater_B40 {Γ : GX} {D : va_G} {h0 : PH} {o : ((Nat × Nat) ⊕ Int32) × PH} (x0 : Option Nat) (x1 : Int32) (x2 : Int32) (x3 : Int32) (x4 : Int32) (x5 : Option Nat) (h : PH) (hf : f_X1_writeLater_B40 x0 x1 x2 x3 x4 x5 h = some o) : PF Γ mi_X1_writeLater D h0 (QR Γ D h0 (oxi o.1) o.2) h 40 [some (va_rf x0), some (.int x1), some (.int x2), some (.int x3), some (.int x4), some (va_rf x5)] [] := by
  refine j_iconst (0 : Int32) dX1_writeLater_40 (by decide) ?_
  exact pf_X1_writeLater_B41 x0 x1 x2 x3 x4 x5 (0 : Int32) h hf
def f_X1_writeLater (r0 : Option Nat) (p0 : Int32) (p1 : Int32) (p2 : Int32) (p3 : Int32) (h0 : PH) : Option (((Nat × Nat) ⊕ Int32) × PH) := rv_ h0 r0 0 (cl_ (f_X1_node r0 p0 h0) fun z9 h1 => match z9 with | .inl (ci9, q9) => (xo_ h1 ci9 q9) | .inr r2 => (cl_ (f_X1_checkRegister p1 h1) fun z9 h3 => match z9 with | .inl (ci9, q9) => (xo_ h3 ci9 q9) | .inr _u => (cl_ (f_X1_in (p2.toInt64) (0 : Int64) (999999 : Int64) h3) fun v5 h4 => (if v5 = 0 then (f_X1_writeLater_B40 r0 p0 p1 p2 p3 r2 h4) else (cl_ (f_X1_in (p3.toInt64) (1 : Int64) (20000 : Int64) h4) fun v7 h6 => (if v7 = 0 then (f_X1_writeLater_B40 r0 p0 p1 p2 p3 r2 h6) else (f_X1_writeLater_B41 r0 p0 p1 p2 p3 r2 (1 : Int32) h6)))))))
theorem hyS_X1_writeLater : yX1_writeLater.cls ≠ "java/lang/invoke/MethodHandle" ∧ yX1_writeLater.cls ≠ "java/lang/invoke/VarHandle" ∧ (parseMethodDescriptor yX1_writeLater.desc).map (fun d => d.parameters.length) = some 4 := by decide +kernel
theorem hyV_X1_writeLater : yX1_writeLater.cls = RX1 ∧ yX1_writeLater.cls ≠ "java/lang/invoke/MethodHandle" ∧ yX1_writeLater.cls ≠ "java/lang/invoke/VarHandle" ∧ (parseMethodDescriptor yX1_writeLater.desc).map (fun d => d.parameters.length) = some 4 := by decide +kernel
theorem c_X1_writeLater {D : va_G} (r0 : Option Nat) (p0 : Int32) (p1 : Int32) (p2 : Int32) (p3 : Int32) {h0 : PH} (l : Launch) (hl : l.stackTraces = false) (x : ((Nat × Nat) ⊕ Int32)) (h1 : PH) (hf : f_X1_writeLater r0 p0 p1 p2 p3 h0 = some (x, h1)) : CT l D yX1_writeLater (ws_ yX1_writeLater cX1_writeLater 6 (Option.some FieldType.int)) 8 191 [va_rf r0, .int p0, .int p1, .int p2, .int p3] h0 (oxi x) h1 := by
  refine ct_of hl [some (va_rf r0), some (.int p0), some (.int p1), some (.int p2), some (.int p3), none] (by decide) (by rw [lgl]; simp [va_rf_cat, cat_i, cat_l]) (by simp [lv_args, vsL, va_rf_cat, cat_i, cat_l]) (fun Γ => ?_)
  obtain ⟨o, ho⟩ : ∃ o : ((Nat × Nat) ⊕ Int32) × PH, o = (x, h1) := ⟨_, rfl⟩
  rw [← ho] at hf
  have e1 : x = o.1 := by rw [ho]
  have e2 : h1 = o.2 := by rw [ho]
  subst e1 e2
  clear ho
  show PF Γ mi_X1_writeLater D h0 (QR Γ D h0 (oxi o.1) o.2) h0 0 [some (va_rf r0), some (.int p0), some (.int p1), some (.int p2), some (.int p3), none] []
  unfold f_X1_writeLater at hf
  refine j_aload_n 0 dX1_writeLater_0 rfl rfl ?_
  refine j_iload_n 1 dX1_writeLater_1 rfl rfl ?_
  refine kc_X1_117 rfl rfl rfl (by decide) dX1_writeLater_2 hf (fun r2 h1 hf => ?_) (fun ci9 q9 h1 fs9 he9 hf => ?_)
  · refine j_astore [some (va_rf r0), some (.int p0), some (.int p1), some (.int p2), some (.int p3), some (va_rf r2)] dX1_writeLater_5 (cz rfl) rfl rfl ?_
    refine j_iload_n 2 dX1_writeLater_7 rfl rfl ?_
    refine kc_X1_205 rfl rfl rfl (by decide) dX1_writeLater_8 hf (fun _u h3 hf => ?_) (fun ci9 q9 h3 fs9 he9 hf => ?_)
    · refine j_iload_n 3 dX1_writeLater_11 rfl rfl ?_
      refine j_i2l dX1_writeLater_12 ?_
      refine j_lconst (0 : Int64) dX1_writeLater_13 (by decide) ?_
      refine j_ldc2 q1854 dX1_writeLater_14 ?_
      refine kc_X1_64 rfl rfl rfl (by decide) dX1_writeLater_17 hf (fun v5 h4 hf => ?_)
      refine j_if_eq 40 dX1_writeLater_20 (by decide) hf (fun c_ hf => ?_) (fun c_ hf => ?_)
      · exact pf_X1_writeLater_B40 r0 p0 p1 p2 p3 r2 h4 hf
      · refine j_iload dX1_writeLater_23 rfl ?_
        refine j_i2l dX1_writeLater_25 ?_
        refine j_lconst (1 : Int64) dX1_writeLater_26 (by decide) ?_
        refine j_ldc2 q1809 dX1_writeLater_27 ?_
        refine kc_X1_64 rfl rfl rfl (by decide) dX1_writeLater_30 hf (fun v7 h6 hf => ?_)
        refine j_if_eq 40 dX1_writeLater_33 (by decide) hf (fun c_ hf => ?_) (fun c_ hf => ?_)
        · exact pf_X1_writeLater_B40 r0 p0 p1 p2 p3 r2 h6 hf
        · refine j_iconst (1 : Int32) dX1_writeLater_36 (by decide) ?_
          refine j_goto 41 dX1_writeLater_37 (by decide) ?_
          exact pf_X1_writeLater_B41 r0 p0 p1 p2 p3 r2 (1 : Int32) h6 hf
    · obtain ⟨hb9, hf⟩ := xo_in hf
      subst hf
      exact j_out (by decide) hb9 he9
  · obtain ⟨hb9, hf⟩ := xo_in hf
    subst hf
    exact j_out (by decide) hb9 he9
abbrev mi_X1_fetch : MI := (cX1_fetch, 4, RX1, (Option.some FieldType.int), [], 8, 216, "fetch")
def f_X1_fetch (r0 : Option Nat) (p0 : Int32) (p1 : Int32) (h0 : PH) : Option (((Nat × Nat) ⊕ Int32) × PH) := rv_ h0 r0 0 (cl_ (f_X1_node r0 p0 h0) fun z9 h1 => match z9 with | .inl (ci9, q9) => (xo_ h1 ci9 q9) | .inr r2 => (cl_ (f_X1_checkRegister p1 h1) fun z9 h3 => match z9 with | .inl (ci9, q9) => (xo_ h3 ci9 q9) | .inr _u => (rv_ h3 r0 0 (cl_ (f_X1_unfit r0 r2 h3) fun v5 h4 => (if 0 ≤ v5 then (gR h4 r0 0 3 fun r6 => asR (some (h4.2.1.1 5)) fun r7 => nA h4 0 (2 : Int32) (.inl fun _ => 0) fun a8 h9 => gIN h9 r2 5 6 fun v10 => sI h9 (some a8) 0 (0 : Int32) v10 fun h11 => sI h11 (some a8) 0 (1 : Int32) p1 fun h12 => rv_ h12 r6 1 (cl_ (f_X2_send r6 r7 p0 (some a8) h12) fun _u h13 => gIN h13 r2 5 6 fun v14 => some (.inr v14, h13))) else (rv_ h4 r0 0 (cl_ (f_X1_unfit r0 r2 h4) fun v16 h15 => some (.inr v16, h15))))))))
theorem hyS_X1_fetch : yX1_fetch.cls ≠ "java/lang/invoke/MethodHandle" ∧ yX1_fetch.cls ≠ "java/lang/invoke/VarHandle" ∧ (parseMethodDescriptor yX1_fetch.desc).map (fun d => d.parameters.length) = some 2 := by decide +kernel
theorem hyV_X1_fetch : yX1_fetch.cls = RX1 ∧ yX1_fetch.cls ≠ "java/lang/invoke/MethodHandle" ∧ yX1_fetch.cls ≠ "java/lang/invoke/VarHandle" ∧ (parseMethodDescriptor yX1_fetch.desc).map (fun d => d.parameters.length) = some 2 := by decide +kernel
theorem c_X1_fetch {D : va_G} (r0 : Option Nat) (p0 : Int32) (p1 : Int32) {h0 : PH} (l : Launch) (hl : l.stackTraces = false) (x : ((Nat × Nat) ⊕ Int32)) (h1 : PH) (hf : f_X1_fetch r0 p0 p1 h0 = some (x, h1)) : CT l D yX1_fetch (ws_ yX1_fetch cX1_fetch 4 (Option.some FieldType.int)) 8 216 [va_rf r0, .int p0, .int p1] h0 (oxi x) h1 := by
  refine ct_of hl [some (va_rf r0), some (.int p0), some (.int p1), none] (by decide) (by rw [lgl]; simp [va_rf_cat, cat_i, cat_l]) (by simp [lv_args, vsL, va_rf_cat, cat_i, cat_l]) (fun Γ => ?_)
  obtain ⟨o, ho⟩ : ∃ o : ((Nat × Nat) ⊕ Int32) × PH, o = (x, h1) := ⟨_, rfl⟩
  rw [← ho] at hf
  have e1 : x = o.1 := by rw [ho]
  have e2 : h1 = o.2 := by rw [ho]
  subst e1 e2
  clear ho
  show PF Γ mi_X1_fetch D h0 (QR Γ D h0 (oxi o.1) o.2) h0 0 [some (va_rf r0), some (.int p0), some (.int p1), none] []
  unfold f_X1_fetch at hf
  refine j_aload_n 0 dX1_fetch_0 rfl rfl ?_
  refine j_iload_n 1 dX1_fetch_1 rfl rfl ?_
  refine kc_X1_117 rfl rfl rfl (by decide) dX1_fetch_2 hf (fun r2 h1 hf => ?_) (fun ci9 q9 h1 fs9 he9 hf => ?_)
  · refine j_astore_n 3 [some (va_rf r0), some (.int p0), some (.int p1), some (va_rf r2)] dX1_fetch_5 rfl (cz rfl) rfl rfl ?_
    refine j_iload_n 2 dX1_fetch_6 rfl rfl ?_
    refine kc_X1_205 rfl rfl rfl (by decide) dX1_fetch_7 hf (fun _u h3 hf => ?_) (fun ci9 q9 h3 fs9 he9 hf => ?_)
    · refine j_aload_n 0 dX1_fetch_10 rfl rfl ?_
      refine j_aload_n 3 dX1_fetch_11 rfl rfl ?_
      refine kc_X1_210 rfl rfl rfl (by decide) dX1_fetch_12 hf (fun v5 h4 hf => ?_)
      refine j_if_ge 24 dX1_fetch_15 (by decide) hf (fun c_ hf => ?_) (fun c_ hf => ?_)
      · refine j_aload_n 0 dX1_fetch_24 rfl rfl ?_
        refine j_gR (ci := 0) (k := 3) rfl in_X1 rfl q877 dX1_fetch_25 hf (fun r6 hf => ?_)
        refine j_gsR (i := 5) rfl q1902 dX1_fetch_28 hf (fun r7 hf => ?_)
        refine j_iload_n 1 dX1_fetch_31 rfl rfl ?_
        refine j_iconst (2 : Int32) dX1_fetch_32 (by decide) ?_
        refine j_nA (t := 0) (atype := .int) (ty := .int) rfl (fun _ => rfl) (fun _ _ => rfl) (by decide) (fun _ _ h9 => h9) q679 dX1_fetch_33 hf (fun a8 h9 hf => ?_)
        refine j_dup dX1_fetch_35 (va_rf_cat _) ?_
        refine j_iconst (0 : Int32) dX1_fetch_36 (by decide) ?_
        refine j_aload_n 3 dX1_fetch_37 rfl rfl ?_
        refine j_gIN (ci := 5) (k := 6) rfl in_X6 rfl q740 dX1_fetch_38 hf (fun v10 hf => ?_)
        refine j_iast dX1_fetch_41 hf (fun h11 hf => ?_)
        refine j_dup dX1_fetch_42 (va_rf_cat _) ?_
        refine j_iconst (1 : Int32) dX1_fetch_43 (by decide) ?_
        refine j_iload_n 2 dX1_fetch_44 rfl rfl ?_
        refine j_iast dX1_fetch_45 hf (fun h12 hf => ?_)
        refine kc_X1_164 rfl rfl rfl (by decide) dX1_fetch_46 hf (fun _u h13 hf => ?_)
        refine j_aload_n 3 dX1_fetch_49 rfl rfl ?_
        refine j_gIN (ci := 5) (k := 6) rfl in_X6 rfl q740 dX1_fetch_50 hf (fun v14 hf => ?_)
        have e9 := Option.some.inj hf
        subst e9
        exact j_iret rfl dX1_fetch_53
      · refine j_aload_n 0 dX1_fetch_18 rfl rfl ?_
        refine j_aload_n 3 dX1_fetch_19 rfl rfl ?_
        refine kc_X1_210 rfl rfl rfl (by decide) dX1_fetch_20 hf (fun v16 h15 hf => ?_)
        have e9 := Option.some.inj hf
        subst e9
        exact j_iret rfl dX1_fetch_23
    · obtain ⟨hb9, hf⟩ := xo_in hf
      subst hf
      exact j_out (by decide) hb9 he9
  · obtain ⟨hb9, hf⟩ := xo_in hf
    subst hf
    exact j_out (by decide) hb9 he9
abbrev mi_X1_read : MI := (cX1_read, 4, RX1, (Option.some FieldType.int), [], 8, 129, "read")
def f_X1_read_B85 (x2 : Int32) (x3 : Option Nat) (h : PH) : Option (((Nat × Nat) ⊕ Int32) × PH) := gRN h x3 5 12 fun r21 => aI h r21 0 x2 fun v22 => some (.inr v22, h)
theorem pf_X1_read_B85 {Γ : GX} {D : va_G} {h0 : PH} {o : ((Nat × Nat) ⊕ Int32) × PH} (x2 : Int32) (x3 : Option Nat) (h : PH) (hf : f_X1_read_B85 x2 x3 h = some o) : PF Γ mi_X1_read D h0 (QR Γ D h0 (oxi o.1) o.2) h 85 [none, none, some (.int x2), some (va_rf x3)] [] := by
  refine j_aload_n 3 dX1_read_85 rfl rfl ?_
  refine j_gRN (ci := 5) (k := 12) rfl in_X6 rfl q757 dX1_read_86 hf (fun r21 hf => ?_)
  refine j_iload_n 2 dX1_read_89 rfl rfl ?_
  refine j_iald dX1_read_90 hf (fun v22 hf => ?_)
  have e9 := Option.some.inj hf
  subst e9
  exact j_iret rfl dX1_read_91
def f_X1_read (r0 : Option Nat) (p0 : Int32) (p1 : Int32) (h0 : PH) : Option (((Nat × Nat) ⊕ Int32) × PH) := rv_ h0 r0 0 (cl_ (f_X1_node r0 p0 h0) fun z9 h1 => match z9 with | .inl (ci9, q9) => (xo_ h1 ci9 q9) | .inr r2 => (cl_ (f_X1_checkRegister p1 h1) fun z9 h3 => match z9 with | .inl (ci9, q9) => (xo_ h3 ci9 q9) | .inr _u => (rv_ h3 r0 0 (cl_ (f_X1_unfit r0 r2 h3) fun v5 h4 => (if 0 ≤ v5 then (gIN h4 r2 5 9 fun v6 => (if ((v6 >>> (p1 &&& 31)) &&& (1 : Int32)) = 0 then (some (.inr (-4 : Int32), h4)) else (gR h4 r0 0 3 fun r7 => gIN h4 r7 1 18 fun v8 => pV h4 r7 1 18 (.int (v8 + (1 : Int32))) fun h9 => gRN h9 r2 5 12 fun r10 => aI h9 r10 0 p1 fun v11 => gR h9 r0 0 3 fun r12 => gRN h9 r12 1 6 fun r13 => gRN h9 r13 4 0 fun r14 => aI h9 r14 0 p1 fun v15 => (if v11 = v15 then (f_X1_read_B85 p1 r2 h9) else (gR h9 r0 0 3 fun r16 => gIN h9 r16 1 19 fun v17 => pV h9 r16 1 19 (.int (v17 + (1 : Int32))) fun h18 => f_X1_read_B85 p1 r2 h18))))) else (rv_ h4 r0 0 (cl_ (f_X1_unfit r0 r2 h4) fun v20 h19 => some (.inr v20, h19))))))))
theorem hyS_X1_read : yX1_read.cls ≠ "java/lang/invoke/MethodHandle" ∧ yX1_read.cls ≠ "java/lang/invoke/VarHandle" ∧ (parseMethodDescriptor yX1_read.desc).map (fun d => d.parameters.length) = some 2 := by decide +kernel
theorem hyV_X1_read : yX1_read.cls = RX1 ∧ yX1_read.cls ≠ "java/lang/invoke/MethodHandle" ∧ yX1_read.cls ≠ "java/lang/invoke/VarHandle" ∧ (parseMethodDescriptor yX1_read.desc).map (fun d => d.parameters.length) = some 2 := by decide +kernel
theorem c_X1_read {D : va_G} (r0 : Option Nat) (p0 : Int32) (p1 : Int32) {h0 : PH} (l : Launch) (hl : l.stackTraces = false) (x : ((Nat × Nat) ⊕ Int32)) (h1 : PH) (hf : f_X1_read r0 p0 p1 h0 = some (x, h1)) : CT l D yX1_read (ws_ yX1_read cX1_read 4 (Option.some FieldType.int)) 8 129 [va_rf r0, .int p0, .int p1] h0 (oxi x) h1 := by
  refine ct_of hl [some (va_rf r0), some (.int p0), some (.int p1), none] (by decide) (by rw [lgl]; simp [va_rf_cat, cat_i, cat_l]) (by simp [lv_args, vsL, va_rf_cat, cat_i, cat_l]) (fun Γ => ?_)
  obtain ⟨o, ho⟩ : ∃ o : ((Nat × Nat) ⊕ Int32) × PH, o = (x, h1) := ⟨_, rfl⟩
  rw [← ho] at hf
  have e1 : x = o.1 := by rw [ho]
  have e2 : h1 = o.2 := by rw [ho]
  subst e1 e2
  clear ho
  show PF Γ mi_X1_read D h0 (QR Γ D h0 (oxi o.1) o.2) h0 0 [some (va_rf r0), some (.int p0), some (.int p1), none] []
  unfold f_X1_read at hf
  refine j_aload_n 0 dX1_read_0 rfl rfl ?_
  refine j_iload_n 1 dX1_read_1 rfl rfl ?_
  refine kc_X1_117 rfl rfl rfl (by decide) dX1_read_2 hf (fun r2 h1 hf => ?_) (fun ci9 q9 h1 fs9 he9 hf => ?_)
  · refine j_astore_n 3 [some (va_rf r0), some (.int p0), some (.int p1), some (va_rf r2)] dX1_read_5 rfl (cz rfl) rfl rfl ?_
    refine j_iload_n 2 dX1_read_6 rfl rfl ?_
    refine kc_X1_205 rfl rfl rfl (by decide) dX1_read_7 hf (fun _u h3 hf => ?_) (fun ci9 q9 h3 fs9 he9 hf => ?_)
    · refine j_aload_n 0 dX1_read_10 rfl rfl ?_
      refine j_aload_n 3 dX1_read_11 rfl rfl ?_
      refine kc_X1_210 rfl rfl rfl (by decide) dX1_read_12 hf (fun v5 h4 hf => ?_)
      refine j_if_ge 24 dX1_read_15 (by decide) hf (fun c_ hf => ?_) (fun c_ hf => ?_)
      · refine j_aload_n 3 dX1_read_24 rfl rfl ?_
        refine j_gIN (ci := 5) (k := 9) rfl in_X6 rfl q749 dX1_read_25 hf (fun v6 hf => ?_)
        refine j_iload_n 2 dX1_read_28 rfl rfl ?_
        refine j_ishr dX1_read_29 ?_
        refine j_iconst (1 : Int32) dX1_read_30 (by decide) ?_
        refine j_iand dX1_read_31 ?_
        refine j_if_ne 38 dX1_read_32 (by decide) hf (fun c_ hf => ?_) (fun c_ hf => ?_)
        · refine j_aload_n 0 dX1_read_38 rfl rfl ?_
          refine j_gR (ci := 0) (k := 3) rfl in_X1 rfl q877 dX1_read_39 hf (fun r7 hf => ?_)
          refine j_dup dX1_read_42 (va_rf_cat _) ?_
          refine j_gIN (ci := 1) (k := 18) rfl in_X2 rfl q821 dX1_read_43 hf (fun v8 hf => ?_)
          refine j_iconst (1 : Int32) dX1_read_46 (by decide) ?_
          refine j_iadd dX1_read_47 ?_
          refine j_pVN (ci := 1) (k := 18) tyX2 tyX2_ok nmX2 rfl in_X2 rfl q821 rfl rfl (fit_i _) dX1_read_48 hf (fun h9 hf => ?_)
          refine j_aload_n 3 dX1_read_51 rfl rfl ?_
          refine j_gRN (ci := 5) (k := 12) rfl in_X6 rfl q757 dX1_read_52 hf (fun r10 hf => ?_)
          refine j_iload_n 2 dX1_read_55 rfl rfl ?_
          refine j_iald dX1_read_56 hf (fun v11 hf => ?_)
          refine j_aload_n 0 dX1_read_57 rfl rfl ?_
          refine j_gR (ci := 0) (k := 3) rfl in_X1 rfl q877 dX1_read_58 hf (fun r12 hf => ?_)
          refine j_gRN (ci := 1) (k := 6) rfl in_X2 rfl q799 dX1_read_61 hf (fun r13 hf => ?_)
          refine j_gRN (ci := 4) (k := 0) rfl in_X5 rfl q666 dX1_read_64 hf (fun r14 hf => ?_)
          refine j_iload_n 2 dX1_read_67 rfl rfl ?_
          refine j_iald dX1_read_68 hf (fun v15 hf => ?_)
          refine j_icmp_eq 85 dX1_read_69 (by decide) hf (fun c_ hf => ?_) (fun c_ hf => ?_)
          · refine j_weak [none, none, some (.int p1), some (va_rf r2)] (Wk.s (Wk.s (Wk.k (Wk.k Wk.n)))) ?_
            exact pf_X1_read_B85 p1 r2 h9 hf
          · refine j_aload_n 0 dX1_read_72 rfl rfl ?_
            refine j_gR (ci := 0) (k := 3) rfl in_X1 rfl q877 dX1_read_73 hf (fun r16 hf => ?_)
            refine j_dup dX1_read_76 (va_rf_cat _) ?_
            refine j_gIN (ci := 1) (k := 19) rfl in_X2 rfl q823 dX1_read_77 hf (fun v17 hf => ?_)
            refine j_iconst (1 : Int32) dX1_read_80 (by decide) ?_
            refine j_iadd dX1_read_81 ?_
            refine j_pVN (ci := 1) (k := 19) tyX2 tyX2_ok nmX2 rfl in_X2 rfl q823 rfl rfl (fit_i _) dX1_read_82 hf (fun h18 hf => ?_)
            refine j_weak [none, none, some (.int p1), some (va_rf r2)] (Wk.s (Wk.s (Wk.k (Wk.k Wk.n)))) ?_
            exact pf_X1_read_B85 p1 r2 h18 hf
        · refine j_bipush (-4 : Int32) dX1_read_35 (by decide) ?_
          have e9 := Option.some.inj hf
          subst e9
          exact j_iret rfl dX1_read_37
      · refine j_aload_n 0 dX1_read_18 rfl rfl ?_
        refine j_aload_n 3 dX1_read_19 rfl rfl ?_
        refine kc_X1_210 rfl rfl rfl (by decide) dX1_read_20 hf (fun v20 h19 hf => ?_)
        have e9 := Option.some.inj hf
        subst e9
        exact j_iret rfl dX1_read_23
    · obtain ⟨hb9, hf⟩ := xo_in hf
      subst hf
      exact j_out (by decide) hb9 he9
  · obtain ⟨hb9, hf⟩ := xo_in hf
    subst hf
    exact j_out (by decide) hb9 he9
abbrev mi_X1_stored : MI := (cX1_stored, 2, RX1, (Option.some FieldType.int), [], 8, 129, "stored")
def f_X1_stored (r0 : Option Nat) (p0 : Int32) (h0 : PH) : Option (((Nat × Nat) ⊕ Int32) × PH) := cl_ (f_X1_checkRegister p0 h0) fun z9 h1 => match z9 with | .inl (ci9, q9) => (xo_ h1 ci9 q9) | .inr _u => (gR h1 r0 0 3 fun r2 => gRN h1 r2 1 6 fun r3 => gRN h1 r3 4 0 fun r4 => aI h1 r4 0 p0 fun v5 => some (.inr v5, h1))
theorem hyS_X1_stored : yX1_stored.cls ≠ "java/lang/invoke/MethodHandle" ∧ yX1_stored.cls ≠ "java/lang/invoke/VarHandle" ∧ (parseMethodDescriptor yX1_stored.desc).map (fun d => d.parameters.length) = some 1 := by decide +kernel
theorem hyV_X1_stored : yX1_stored.cls = RX1 ∧ yX1_stored.cls ≠ "java/lang/invoke/MethodHandle" ∧ yX1_stored.cls ≠ "java/lang/invoke/VarHandle" ∧ (parseMethodDescriptor yX1_stored.desc).map (fun d => d.parameters.length) = some 1 := by decide +kernel
theorem c_X1_stored {D : va_G} (r0 : Option Nat) (p0 : Int32) {h0 : PH} (l : Launch) (hl : l.stackTraces = false) (x : ((Nat × Nat) ⊕ Int32)) (h1 : PH) (hf : f_X1_stored r0 p0 h0 = some (x, h1)) : CT l D yX1_stored (ws_ yX1_stored cX1_stored 2 (Option.some FieldType.int)) 8 129 [va_rf r0, .int p0] h0 (oxi x) h1 := by
  refine ct_of hl [some (va_rf r0), some (.int p0)] (by decide) (by rw [lgl]; simp [va_rf_cat, cat_i, cat_l]) (by simp [lv_args, vsL, va_rf_cat, cat_i, cat_l]) (fun Γ => ?_)
  obtain ⟨o, ho⟩ : ∃ o : ((Nat × Nat) ⊕ Int32) × PH, o = (x, h1) := ⟨_, rfl⟩
  rw [← ho] at hf
  have e1 : x = o.1 := by rw [ho]
  have e2 : h1 = o.2 := by rw [ho]
  subst e1 e2
  clear ho
  show PF Γ mi_X1_stored D h0 (QR Γ D h0 (oxi o.1) o.2) h0 0 [some (va_rf r0), some (.int p0)] []
  unfold f_X1_stored at hf
  refine j_iload_n 1 dX1_stored_0 rfl rfl ?_
  refine kc_X1_205 rfl rfl rfl (by decide) dX1_stored_1 hf (fun _u h1 hf => ?_) (fun ci9 q9 h1 fs9 he9 hf => ?_)
  · refine j_aload_n 0 dX1_stored_4 rfl rfl ?_
    refine j_gR (ci := 0) (k := 3) rfl in_X1 rfl q877 dX1_stored_5 hf (fun r2 hf => ?_)
    refine j_gRN (ci := 1) (k := 6) rfl in_X2 rfl q799 dX1_stored_8 hf (fun r3 hf => ?_)
    refine j_gRN (ci := 4) (k := 0) rfl in_X5 rfl q666 dX1_stored_11 hf (fun r4 hf => ?_)
    refine j_iload_n 1 dX1_stored_14 rfl rfl ?_
    refine j_iald dX1_stored_15 hf (fun v5 hf => ?_)
    have e9 := Option.some.inj hf
    subst e9
    exact j_iret rfl dX1_stored_16
  · obtain ⟨hb9, hf⟩ := xo_in hf
    subst hf
    exact j_out (by decide) hb9 he9
abbrev mi_X1_version : MI := (cX1_version, 2, RX1, (Option.some FieldType.int), [], 8, 129, "version")
def f_X1_version (r0 : Option Nat) (p0 : Int32) (h0 : PH) : Option (((Nat × Nat) ⊕ Int32) × PH) := cl_ (f_X1_checkRegister p0 h0) fun z9 h1 => match z9 with | .inl (ci9, q9) => (xo_ h1 ci9 q9) | .inr _u => (gR h1 r0 0 3 fun r2 => gRN h1 r2 1 6 fun r3 => gRN h1 r3 4 1 fun r4 => aI h1 r4 0 p0 fun v5 => some (.inr v5, h1))
theorem hyS_X1_version : yX1_version.cls ≠ "java/lang/invoke/MethodHandle" ∧ yX1_version.cls ≠ "java/lang/invoke/VarHandle" ∧ (parseMethodDescriptor yX1_version.desc).map (fun d => d.parameters.length) = some 1 := by decide +kernel
theorem hyV_X1_version : yX1_version.cls = RX1 ∧ yX1_version.cls ≠ "java/lang/invoke/MethodHandle" ∧ yX1_version.cls ≠ "java/lang/invoke/VarHandle" ∧ (parseMethodDescriptor yX1_version.desc).map (fun d => d.parameters.length) = some 1 := by decide +kernel
theorem c_X1_version {D : va_G} (r0 : Option Nat) (p0 : Int32) {h0 : PH} (l : Launch) (hl : l.stackTraces = false) (x : ((Nat × Nat) ⊕ Int32)) (h1 : PH) (hf : f_X1_version r0 p0 h0 = some (x, h1)) : CT l D yX1_version (ws_ yX1_version cX1_version 2 (Option.some FieldType.int)) 8 129 [va_rf r0, .int p0] h0 (oxi x) h1 := by
  refine ct_of hl [some (va_rf r0), some (.int p0)] (by decide) (by rw [lgl]; simp [va_rf_cat, cat_i, cat_l]) (by simp [lv_args, vsL, va_rf_cat, cat_i, cat_l]) (fun Γ => ?_)
  obtain ⟨o, ho⟩ : ∃ o : ((Nat × Nat) ⊕ Int32) × PH, o = (x, h1) := ⟨_, rfl⟩
  rw [← ho] at hf
  have e1 : x = o.1 := by rw [ho]
  have e2 : h1 = o.2 := by rw [ho]
  subst e1 e2
  clear ho
  show PF Γ mi_X1_version D h0 (QR Γ D h0 (oxi o.1) o.2) h0 0 [some (va_rf r0), some (.int p0)] []
  unfold f_X1_version at hf
  refine j_iload_n 1 dX1_version_0 rfl rfl ?_
  refine kc_X1_205 rfl rfl rfl (by decide) dX1_version_1 hf (fun _u h1 hf => ?_) (fun ci9 q9 h1 fs9 he9 hf => ?_)
  · refine j_aload_n 0 dX1_version_4 rfl rfl ?_
    refine j_gR (ci := 0) (k := 3) rfl in_X1 rfl q877 dX1_version_5 hf (fun r2 hf => ?_)
    refine j_gRN (ci := 1) (k := 6) rfl in_X2 rfl q799 dX1_version_8 hf (fun r3 hf => ?_)
    refine j_gRN (ci := 4) (k := 1) rfl in_X5 rfl q669 dX1_version_11 hf (fun r4 hf => ?_)
    refine j_iload_n 1 dX1_version_14 rfl rfl ?_
    refine j_iald dX1_version_15 hf (fun v5 hf => ?_)
    have e9 := Option.some.inj hf
    subst e9
    exact j_iret rfl dX1_version_16
  · obtain ⟨hb9, hf⟩ := xo_in hf
    subst hf
    exact j_out (by decide) hb9 he9
abbrev mi_X1_isLeading : MI := (cX1_isLeading, 2, RX1, (Option.some FieldType.boolean), [], 7, 110, "isLeading")
def f_X1_isLeading (r0 : Option Nat) (p0 : Int32) (h0 : PH) : Option (((Nat × Nat) ⊕ Int32) × PH) := rv_ h0 r0 0 (cl_ (f_X1_node r0 p0 h0) fun z9 h1 => match z9 with | .inl (ci9, q9) => (xo_ h1 ci9 q9) | .inr r2 => (gR h1 r0 0 3 fun r3 => gIN h1 r3 1 8 fun v4 => rv_ h1 r2 5 (cl_ (f_X6_leads r2 v4 h1) fun v6 h5 => rN .boolean v6 (fun v => .inr v) h5)))
theorem hyS_X1_isLeading : yX1_isLeading.cls ≠ "java/lang/invoke/MethodHandle" ∧ yX1_isLeading.cls ≠ "java/lang/invoke/VarHandle" ∧ (parseMethodDescriptor yX1_isLeading.desc).map (fun d => d.parameters.length) = some 1 := by decide +kernel
theorem hyV_X1_isLeading : yX1_isLeading.cls = RX1 ∧ yX1_isLeading.cls ≠ "java/lang/invoke/MethodHandle" ∧ yX1_isLeading.cls ≠ "java/lang/invoke/VarHandle" ∧ (parseMethodDescriptor yX1_isLeading.desc).map (fun d => d.parameters.length) = some 1 := by decide +kernel
theorem c_X1_isLeading {D : va_G} (r0 : Option Nat) (p0 : Int32) {h0 : PH} (l : Launch) (hl : l.stackTraces = false) (x : ((Nat × Nat) ⊕ Int32)) (h1 : PH) (hf : f_X1_isLeading r0 p0 h0 = some (x, h1)) : CT l D yX1_isLeading (ws_ yX1_isLeading cX1_isLeading 2 (Option.some FieldType.boolean)) 7 110 [va_rf r0, .int p0] h0 (oxi x) h1 := by
  refine ct_of hl [some (va_rf r0), some (.int p0)] (by decide) (by rw [lgl]; simp [va_rf_cat, cat_i, cat_l]) (by simp [lv_args, vsL, va_rf_cat, cat_i, cat_l]) (fun Γ => ?_)
  obtain ⟨o, ho⟩ : ∃ o : ((Nat × Nat) ⊕ Int32) × PH, o = (x, h1) := ⟨_, rfl⟩
  rw [← ho] at hf
  have e1 : x = o.1 := by rw [ho]
  have e2 : h1 = o.2 := by rw [ho]
  subst e1 e2
  clear ho
  show PF Γ mi_X1_isLeading D h0 (QR Γ D h0 (oxi o.1) o.2) h0 0 [some (va_rf r0), some (.int p0)] []
  unfold f_X1_isLeading at hf
  refine j_aload_n 0 dX1_isLeading_0 rfl rfl ?_
  refine j_iload_n 1 dX1_isLeading_1 rfl rfl ?_
  refine kc_X1_117 rfl rfl rfl (by decide) dX1_isLeading_2 hf (fun r2 h1 hf => ?_) (fun ci9 q9 h1 fs9 he9 hf => ?_)
  · refine j_aload_n 0 dX1_isLeading_5 rfl rfl ?_
    refine j_gR (ci := 0) (k := 3) rfl in_X1 rfl q877 dX1_isLeading_6 hf (fun r3 hf => ?_)
    refine j_gIN (ci := 1) (k := 8) rfl in_X2 rfl q803 dX1_isLeading_9 hf (fun v4 hf => ?_)
    refine kc_X1_202 rfl rfl rfl (by decide) dX1_isLeading_12 hf (fun v6 h5 hf => ?_)
    obtain ⟨hn9, hf⟩ := rN_in hf
    subst hf
    exact j_zret rfl (nar_z _ hn9) dX1_isLeading_15
  · obtain ⟨hb9, hf⟩ := xo_in hf
    subst hf
    exact j_out (by decide) hb9 he9
abbrev mi_X1_token : MI := (cX1_token, 2, RX1, (Option.some FieldType.int), [], 7, 110, "token")
def f_X1_token (r0 : Option Nat) (p0 : Int32) (h0 : PH) : Option (((Nat × Nat) ⊕ Int32) × PH) := rv_ h0 r0 0 (cl_ (f_X1_node r0 p0 h0) fun z9 h1 => match z9 with | .inl (ci9, q9) => (xo_ h1 ci9 q9) | .inr r2 => (gIN h1 r2 5 6 fun v3 => some (.inr v3, h1)))
theorem hyS_X1_token : yX1_token.cls ≠ "java/lang/invoke/MethodHandle" ∧ yX1_token.cls ≠ "java/lang/invoke/VarHandle" ∧ (parseMethodDescriptor yX1_token.desc).map (fun d => d.parameters.length) = some 1 := by decide +kernel
theorem hyV_X1_token : yX1_token.cls = RX1 ∧ yX1_token.cls ≠ "java/lang/invoke/MethodHandle" ∧ yX1_token.cls ≠ "java/lang/invoke/VarHandle" ∧ (parseMethodDescriptor yX1_token.desc).map (fun d => d.parameters.length) = some 1 := by decide +kernel
theorem c_X1_token {D : va_G} (r0 : Option Nat) (p0 : Int32) {h0 : PH} (l : Launch) (hl : l.stackTraces = false) (x : ((Nat × Nat) ⊕ Int32)) (h1 : PH) (hf : f_X1_token r0 p0 h0 = some (x, h1)) : CT l D yX1_token (ws_ yX1_token cX1_token 2 (Option.some FieldType.int)) 7 110 [va_rf r0, .int p0] h0 (oxi x) h1 := by
  refine ct_of hl [some (va_rf r0), some (.int p0)] (by decide) (by rw [lgl]; simp [va_rf_cat, cat_i, cat_l]) (by simp [lv_args, vsL, va_rf_cat, cat_i, cat_l]) (fun Γ => ?_)
  obtain ⟨o, ho⟩ : ∃ o : ((Nat × Nat) ⊕ Int32) × PH, o = (x, h1) := ⟨_, rfl⟩
  rw [← ho] at hf
  have e1 : x = o.1 := by rw [ho]
  have e2 : h1 = o.2 := by rw [ho]
  subst e1 e2
  clear ho
  show PF Γ mi_X1_token D h0 (QR Γ D h0 (oxi o.1) o.2) h0 0 [some (va_rf r0), some (.int p0)] []
  unfold f_X1_token at hf
  refine j_aload_n 0 dX1_token_0 rfl rfl ?_
  refine j_iload_n 1 dX1_token_1 rfl rfl ?_
  refine kc_X1_117 rfl rfl rfl (by decide) dX1_token_2 hf (fun r2 h1 hf => ?_) (fun ci9 q9 h1 fs9 he9 hf => ?_)
  · refine j_gIN (ci := 5) (k := 6) rfl in_X6 rfl q740 dX1_token_5 hf (fun v3 hf => ?_)
    have e9 := Option.some.inj hf
    subst e9
    exact j_iret rfl dX1_token_8
  · obtain ⟨hb9, hf⟩ := xo_in hf
    subst hf
    exact j_out (by decide) hb9 he9
abbrev mi_X1_nodeExpiryTime : MI := (cX1_nodeExpiryTime, 3, RX1, (Option.some FieldType.int), [], 7, 110, "nodeExpiryTime")
def f_X1_nodeExpiryTime_B29 (t0 : Int32) (h : PH) : Option (((Nat × Nat) ⊕ Int32) × PH) := some (.inr t0, h)
theorem pf_X1_nodeExpiryTime_B29 {Γ : GX} {D : va_G} {h0 : PH} {o : ((Nat × Nat) ⊕ Int32) × PH} (t0 : Int32) (h : PH) (hf : f_X1_nodeExpiryTime_B29 t0 h = some o) : PF Γ mi_X1_nodeExpiryTime D h0 (QR Γ D h0 (oxi o.1) o.2) h 29 [none, none, none] [.int t0] := by
  have e9 := Option.some.inj hf
  subst e9
  exact j_iret rfl dX1_nodeExpiryTime_29
def f_X1_nodeExpiryTime (r0 : Option Nat) (p0 : Int32) (h0 : PH) : Option (((Nat × Nat) ⊕ Int32) × PH) := rv_ h0 r0 0 (cl_ (f_X1_node r0 p0 h0) fun z9 h1 => match z9 with | .inl (ci9, q9) => (xo_ h1 ci9 q9) | .inr r2 => (gIN h1 r2 5 6 fun v3 => (if v3 = 0 then (f_X1_nodeExpiryTime_B29 (-4 : Int32) h1) else (gRN h1 r2 5 0 fun r4 => gIN h1 r2 5 7 fun v5 => rv_ h1 r4 3 (cl_ (f_X4_reaches r4 v5 h1) fun v7 h6 => f_X1_nodeExpiryTime_B29 v7 h6)))))
theorem hyS_X1_nodeExpiryTime : yX1_nodeExpiryTime.cls ≠ "java/lang/invoke/MethodHandle" ∧ yX1_nodeExpiryTime.cls ≠ "java/lang/invoke/VarHandle" ∧ (parseMethodDescriptor yX1_nodeExpiryTime.desc).map (fun d => d.parameters.length) = some 1 := by decide +kernel
theorem hyV_X1_nodeExpiryTime : yX1_nodeExpiryTime.cls = RX1 ∧ yX1_nodeExpiryTime.cls ≠ "java/lang/invoke/MethodHandle" ∧ yX1_nodeExpiryTime.cls ≠ "java/lang/invoke/VarHandle" ∧ (parseMethodDescriptor yX1_nodeExpiryTime.desc).map (fun d => d.parameters.length) = some 1 := by decide +kernel
theorem c_X1_nodeExpiryTime {D : va_G} (r0 : Option Nat) (p0 : Int32) {h0 : PH} (l : Launch) (hl : l.stackTraces = false) (x : ((Nat × Nat) ⊕ Int32)) (h1 : PH) (hf : f_X1_nodeExpiryTime r0 p0 h0 = some (x, h1)) : CT l D yX1_nodeExpiryTime (ws_ yX1_nodeExpiryTime cX1_nodeExpiryTime 3 (Option.some FieldType.int)) 7 110 [va_rf r0, .int p0] h0 (oxi x) h1 := by
  refine ct_of hl [some (va_rf r0), some (.int p0), none] (by decide) (by rw [lgl]; simp [va_rf_cat, cat_i, cat_l]) (by simp [lv_args, vsL, va_rf_cat, cat_i, cat_l]) (fun Γ => ?_)
  obtain ⟨o, ho⟩ : ∃ o : ((Nat × Nat) ⊕ Int32) × PH, o = (x, h1) := ⟨_, rfl⟩
  rw [← ho] at hf
  have e1 : x = o.1 := by rw [ho]
  have e2 : h1 = o.2 := by rw [ho]
  subst e1 e2
  clear ho
  show PF Γ mi_X1_nodeExpiryTime D h0 (QR Γ D h0 (oxi o.1) o.2) h0 0 [some (va_rf r0), some (.int p0), none] []
  unfold f_X1_nodeExpiryTime at hf
  refine j_aload_n 0 dX1_nodeExpiryTime_0 rfl rfl ?_
  refine j_iload_n 1 dX1_nodeExpiryTime_1 rfl rfl ?_
  refine kc_X1_117 rfl rfl rfl (by decide) dX1_nodeExpiryTime_2 hf (fun r2 h1 hf => ?_) (fun ci9 q9 h1 fs9 he9 hf => ?_)
  · refine j_astore_n 2 [some (va_rf r0), some (.int p0), some (va_rf r2)] dX1_nodeExpiryTime_5 rfl (cz rfl) rfl rfl ?_
    refine j_aload_n 2 dX1_nodeExpiryTime_6 rfl rfl ?_
    refine j_gIN (ci := 5) (k := 6) rfl in_X6 rfl q740 dX1_nodeExpiryTime_7 hf (fun v3 hf => ?_)
    refine j_if_ne 18 dX1_nodeExpiryTime_10 (by decide) hf (fun c_ hf => ?_) (fun c_ hf => ?_)
    · refine j_aload_n 2 dX1_nodeExpiryTime_18 rfl rfl ?_
      refine j_gRN (ci := 5) (k := 0) rfl in_X6 rfl q723 dX1_nodeExpiryTime_19 hf (fun r4 hf => ?_)
      refine j_aload_n 2 dX1_nodeExpiryTime_22 rfl rfl ?_
      refine j_gIN (ci := 5) (k := 7) rfl in_X6 rfl q743 dX1_nodeExpiryTime_23 hf (fun v5 hf => ?_)
      refine kc_X1_269 rfl rfl rfl (by decide) dX1_nodeExpiryTime_26 hf (fun v7 h6 hf => ?_)
      refine j_weak [none, none, none] (Wk.s (Wk.s (Wk.s Wk.n))) ?_
      exact pf_X1_nodeExpiryTime_B29 v7 h6 hf
    · refine j_bipush (-4 : Int32) dX1_nodeExpiryTime_13 (by decide) ?_
      refine j_goto 29 dX1_nodeExpiryTime_15 (by decide) ?_
      refine j_weak [none, none, none] (Wk.s (Wk.s (Wk.s Wk.n))) ?_
      exact pf_X1_nodeExpiryTime_B29 (-4 : Int32) h1 hf
  · obtain ⟨hb9, hf⟩ := xo_in hf
    subst hf
    exact j_out (by decide) hb9 he9
theorem kc_X1_281 {Γ : GX} {I : MI} {D : va_G} {h0 : PH} {Q : State → Prop} {h : PH} {pc : Nat} {vs : List (Option Value)} {rest : List Value} {β : Type} {o : β} {r : Option Nat}  {K : ((Int32) → PH → Option β)} (hI : I.2.2.1 = RX1) (hfr : Nat.ble 3 I.2.2.2.2.2.1 = true) (hlo : Nat.ble 67 I.2.2.2.2.2.2.1 = true) (hW : (rest.map fun v => v.category).sum ≤ 8) (hd : decode I.1 pc = .ok (.invokevirtual 281, 3)) (hf : rv_ h r 0 (cl_ (f_X1_serverExpiryTime r h) K) = some o) (kk : ∀ (x : Int32) (h1 : PH), K x h1 = some o → PF Γ I D h0 Q h1 (pc + 3) vs (.int x :: rest)) : PF Γ I D h0 Q h pc vs (va_rf r :: rest) := by
  obtain ⟨cc, nL, own, rt, xt, fr, lo, nm⟩ := I
  cases hI
  exact j_cVi (n := 0) (y := yX1_serverExpiryTime) (cc2 := cX1_serverExpiryTime) (As := []) (C := RX1) (ci := 0) rfl (lw_V q1952 q1607 q1608 q90 q1609) hyV_X1_serverExpiryTime hfr hlo rfl hW hd (c_X1_serverExpiryTime r) hf _ rfl kk
theorem kc_X1_284 {Γ : GX} {I : MI} {D : va_G} {h0 : PH} {Q : State → Prop} {h : PH} {pc : Nat} {vs : List (Option Value)} {rest : List Value} {β : Type} {o : β} {r : Option Nat} {p0 : Int32} {K : (((Nat × Nat) ⊕ Int32) → PH → Option β)} (hI : I.2.2.1 = RX1) (hfr : Nat.ble 8 I.2.2.2.2.2.1 = true) (hlo : Nat.ble 132 I.2.2.2.2.2.2.1 = true) (hW : (rest.map fun v => v.category).sum ≤ 8) (hd : decode I.1 pc = .ok (.invokevirtual 284, 3)) (hf : rv_ h r 0 (cl_ (f_X1_nodeExpiryTime r p0 h) K) = some o) (kk : ∀ (x : Int32) (h1 : PH), K (.inr x) h1 = some o → PF Γ I D h0 Q h1 (pc + 3) vs (.int x :: rest)) (kx : ∀ (ci q : Nat) (h1 : PH) (fs : List Value), h1.1 q = some (.inr (ci, fs)) → K (.inl (ci, q)) h1 = some o → PX Γ I D h0 Q h1 pc vs q) : PF Γ I D h0 Q h pc vs (.int p0 :: va_rf r :: rest) := by
  obtain ⟨cc, nL, own, rt, xt, fr, lo, nm⟩ := I
  cases hI
  exact j_xVi (n := 1) (y := yX1_nodeExpiryTime) (cc2 := cX1_nodeExpiryTime) (As := [.int p0]) (C := RX1) (ci := 0) rfl (lw_V q1953 q1942 q1943 q90 q1944) hyV_X1_nodeExpiryTime hfr hlo rfl hW hd (c_X1_nodeExpiryTime r p0) hf _ rfl kk kx
abbrev mi_X1_margin : MI := (cX1_margin, 3, RX1, (Option.some FieldType.int), [], 8, 132, "margin")
def f_X1_margin_B38  (h : PH) : Option (((Nat × Nat) ⊕ Int32) × PH) := some (.inr (0 : Int32), h)
theorem pf_X1_margin_B38 {Γ : GX} {D : va_G} {h0 : PH} {o : ((Nat × Nat) ⊕ Int32) × PH}  (h : PH) (hf : f_X1_margin_B38  h = some o) : PF Γ mi_X1_margin D h0 (QR Γ D h0 (oxi o.1) o.2) h 38 [none, none, none] [] := by
  refine j_iconst (0 : Int32) dX1_margin_38 (by decide) ?_
  have e9 := Option.some.inj hf
  subst e9
  exact j_iret rfl dX1_margin_39
def f_X1_margin (r0 : Option Nat) (p0 : Int32) (h0 : PH) : Option (((Nat × Nat) ⊕ Int32) × PH) := rv_ h0 r0 0 (cl_ (f_X1_node r0 p0 h0) fun z9 h1 => match z9 with | .inl (ci9, q9) => (xo_ h1 ci9 q9) | .inr r2 => (gR h1 r0 0 3 fun r3 => gIN h1 r3 1 12 fun v4 => (if v4 = p0 then (gIN h1 r2 5 6 fun v5 => (if v5 = 0 then (f_X1_margin_B38 h1) else (gIN h1 r2 5 6 fun v6 => gR h1 r0 0 3 fun r7 => gIN h1 r7 1 14 fun v8 => (if v6 = v8 then (rv_ h1 r0 0 (cl_ (f_X1_serverExpiryTime r0 h1) fun v10 h9 => rv_ h9 r0 0 (cl_ (f_X1_nodeExpiryTime r0 p0 h9) fun z9 h11 => match z9 with | .inl (ci9, q9) => (xo_ h11 ci9 q9) | .inr v12 => (some (.inr (v10 - v12), h11))))) else (f_X1_margin_B38 h1))))) else (f_X1_margin_B38 h1))))
theorem hyS_X1_margin : yX1_margin.cls ≠ "java/lang/invoke/MethodHandle" ∧ yX1_margin.cls ≠ "java/lang/invoke/VarHandle" ∧ (parseMethodDescriptor yX1_margin.desc).map (fun d => d.parameters.length) = some 1 := by decide +kernel
theorem hyV_X1_margin : yX1_margin.cls = RX1 ∧ yX1_margin.cls ≠ "java/lang/invoke/MethodHandle" ∧ yX1_margin.cls ≠ "java/lang/invoke/VarHandle" ∧ (parseMethodDescriptor yX1_margin.desc).map (fun d => d.parameters.length) = some 1 := by decide +kernel
theorem c_X1_margin {D : va_G} (r0 : Option Nat) (p0 : Int32) {h0 : PH} (l : Launch) (hl : l.stackTraces = false) (x : ((Nat × Nat) ⊕ Int32)) (h1 : PH) (hf : f_X1_margin r0 p0 h0 = some (x, h1)) : CT l D yX1_margin (ws_ yX1_margin cX1_margin 3 (Option.some FieldType.int)) 8 132 [va_rf r0, .int p0] h0 (oxi x) h1 := by
  refine ct_of hl [some (va_rf r0), some (.int p0), none] (by decide) (by rw [lgl]; simp [va_rf_cat, cat_i, cat_l]) (by simp [lv_args, vsL, va_rf_cat, cat_i, cat_l]) (fun Γ => ?_)
  obtain ⟨o, ho⟩ : ∃ o : ((Nat × Nat) ⊕ Int32) × PH, o = (x, h1) := ⟨_, rfl⟩
  rw [← ho] at hf
  have e1 : x = o.1 := by rw [ho]
  have e2 : h1 = o.2 := by rw [ho]
  subst e1 e2
  clear ho
  show PF Γ mi_X1_margin D h0 (QR Γ D h0 (oxi o.1) o.2) h0 0 [some (va_rf r0), some (.int p0), none] []
  unfold f_X1_margin at hf
  refine j_aload_n 0 dX1_margin_0 rfl rfl ?_
  refine j_iload_n 1 dX1_margin_1 rfl rfl ?_
  refine kc_X1_117 rfl rfl rfl (by decide) dX1_margin_2 hf (fun r2 h1 hf => ?_) (fun ci9 q9 h1 fs9 he9 hf => ?_)
  · refine j_astore_n 2 [some (va_rf r0), some (.int p0), some (va_rf r2)] dX1_margin_5 rfl (cz rfl) rfl rfl ?_
    refine j_aload_n 0 dX1_margin_6 rfl rfl ?_
    refine j_gR (ci := 0) (k := 3) rfl in_X1 rfl q877 dX1_margin_7 hf (fun r3 hf => ?_)
    refine j_gIN (ci := 1) (k := 12) rfl in_X2 rfl q809 dX1_margin_10 hf (fun v4 hf => ?_)
    refine j_iload_n 1 dX1_margin_13 rfl rfl ?_
    refine j_icmp_ne 38 dX1_margin_14 (by decide) hf (fun c_ hf => ?_) (fun c_ hf => ?_)
    · refine j_weak [none, none, none] (Wk.s (Wk.s (Wk.s Wk.n))) ?_
      exact pf_X1_margin_B38  h1 hf
    · refine j_aload_n 2 dX1_margin_17 rfl rfl ?_
      refine j_gIN (ci := 5) (k := 6) rfl in_X6 rfl q740 dX1_margin_18 hf (fun v5 hf => ?_)
      refine j_if_eq 38 dX1_margin_21 (by decide) hf (fun c_ hf => ?_) (fun c_ hf => ?_)
      · refine j_weak [none, none, none] (Wk.s (Wk.s (Wk.s Wk.n))) ?_
        exact pf_X1_margin_B38  h1 hf
      · refine j_aload_n 2 dX1_margin_24 rfl rfl ?_
        refine j_gIN (ci := 5) (k := 6) rfl in_X6 rfl q740 dX1_margin_25 hf (fun v6 hf => ?_)
        refine j_aload_n 0 dX1_margin_28 rfl rfl ?_
        refine j_gR (ci := 0) (k := 3) rfl in_X1 rfl q877 dX1_margin_29 hf (fun r7 hf => ?_)
        refine j_gIN (ci := 1) (k := 14) rfl in_X2 rfl q813 dX1_margin_32 hf (fun v8 hf => ?_)
        refine j_icmp_eq 40 dX1_margin_35 (by decide) hf (fun c_ hf => ?_) (fun c_ hf => ?_)
        · refine j_aload_n 0 dX1_margin_40 rfl rfl ?_
          refine kc_X1_281 rfl rfl rfl (by decide) dX1_margin_41 hf (fun v10 h9 hf => ?_)
          refine j_aload_n 0 dX1_margin_44 rfl rfl ?_
          refine j_iload_n 1 dX1_margin_45 rfl rfl ?_
          refine kc_X1_284 rfl rfl rfl (by simp [va_rf_cat, cat_i, cat_l]) dX1_margin_46 hf (fun v12 h11 hf => ?_) (fun ci9 q9 h11 fs9 he9 hf => ?_)
          · refine j_isub dX1_margin_49 ?_
            have e9 := Option.some.inj hf
            subst e9
            exact j_iret rfl dX1_margin_50
          · obtain ⟨hb9, hf⟩ := xo_in hf
            subst hf
            exact j_out (by decide) hb9 he9
        · refine j_weak [none, none, none] (Wk.s (Wk.s (Wk.s Wk.n))) ?_
          exact pf_X1_margin_B38  h1 hf
  · obtain ⟨hb9, hf⟩ := xo_in hf
    subst hf
    exact j_out (by decide) hb9 he9
abbrev mi_X1_timerTime : MI := (cX1_timerTime, 2, RX1, (Option.some FieldType.int), [], 7, 110, "timerTime")
def f_X1_timerTime (r0 : Option Nat) (p0 : Int32) (h0 : PH) : Option (((Nat × Nat) ⊕ Int32) × PH) := rv_ h0 r0 0 (cl_ (f_X1_node r0 p0 h0) fun z9 h1 => match z9 with | .inl (ci9, q9) => (xo_ h1 ci9 q9) | .inr r2 => (gIN h1 r2 5 8 fun v3 => some (.inr v3, h1)))
theorem hyS_X1_timerTime : yX1_timerTime.cls ≠ "java/lang/invoke/MethodHandle" ∧ yX1_timerTime.cls ≠ "java/lang/invoke/VarHandle" ∧ (parseMethodDescriptor yX1_timerTime.desc).map (fun d => d.parameters.length) = some 1 := by decide +kernel
theorem hyV_X1_timerTime : yX1_timerTime.cls = RX1 ∧ yX1_timerTime.cls ≠ "java/lang/invoke/MethodHandle" ∧ yX1_timerTime.cls ≠ "java/lang/invoke/VarHandle" ∧ (parseMethodDescriptor yX1_timerTime.desc).map (fun d => d.parameters.length) = some 1 := by decide +kernel
theorem c_X1_timerTime {D : va_G} (r0 : Option Nat) (p0 : Int32) {h0 : PH} (l : Launch) (hl : l.stackTraces = false) (x : ((Nat × Nat) ⊕ Int32)) (h1 : PH) (hf : f_X1_timerTime r0 p0 h0 = some (x, h1)) : CT l D yX1_timerTime (ws_ yX1_timerTime cX1_timerTime 2 (Option.some FieldType.int)) 7 110 [va_rf r0, .int p0] h0 (oxi x) h1 := by
  refine ct_of hl [some (va_rf r0), some (.int p0)] (by decide) (by rw [lgl]; simp [va_rf_cat, cat_i, cat_l]) (by simp [lv_args, vsL, va_rf_cat, cat_i, cat_l]) (fun Γ => ?_)
  obtain ⟨o, ho⟩ : ∃ o : ((Nat × Nat) ⊕ Int32) × PH, o = (x, h1) := ⟨_, rfl⟩
  rw [← ho] at hf
  have e1 : x = o.1 := by rw [ho]
  have e2 : h1 = o.2 := by rw [ho]
  subst e1 e2
  clear ho
  show PF Γ mi_X1_timerTime D h0 (QR Γ D h0 (oxi o.1) o.2) h0 0 [some (va_rf r0), some (.int p0)] []
  unfold f_X1_timerTime at hf
  refine j_aload_n 0 dX1_timerTime_0 rfl rfl ?_
  refine j_iload_n 1 dX1_timerTime_1 rfl rfl ?_
  refine kc_X1_117 rfl rfl rfl (by decide) dX1_timerTime_2 hf (fun r2 h1 hf => ?_) (fun ci9 q9 h1 fs9 he9 hf => ?_)
  · refine j_gIN (ci := 5) (k := 8) rfl in_X6 rfl q746 dX1_timerTime_5 hf (fun v3 hf => ?_)
    have e9 := Option.some.inj hf
    subst e9
    exact j_iret rfl dX1_timerTime_8
  · obtain ⟨hb9, hf⟩ := xo_in hf
    subst hf
    exact j_out (by decide) hb9 he9
abbrev mi_X1_nodeState : MI := (cX1_nodeState, 3, RX1, (Option.some FieldType.int), [], 7, 110, "nodeState")
def f_X1_nodeState_B64 (t0 : Int32) (t1 : Int32) (h : PH) : Option (((Nat × Nat) ⊕ Int32) × PH) := some (.inr (t0 + t1), h)
theorem pf_X1_nodeState_B64 {Γ : GX} {D : va_G} {h0 : PH} {o : ((Nat × Nat) ⊕ Int32) × PH} (t0 : Int32) (t1 : Int32) (h : PH) (hf : f_X1_nodeState_B64 t0 t1 h = some o) : PF Γ mi_X1_nodeState D h0 (QR Γ D h0 (oxi o.1) o.2) h 64 [none, none, none] [.int t1, .int t0] := by
  refine j_iadd dX1_nodeState_64 ?_
  have e9 := Option.some.inj hf
  subst e9
  exact j_iret rfl dX1_nodeState_65
def f_X1_nodeState_B50 (x2 : Option Nat) (t0 : Int32) (t1 : Int32) (h : PH) : Option (((Nat × Nat) ⊕ Int32) × PH) := gIN h x2 5 4 fun v9 => (if v9 = 0 then (f_X1_nodeState_B64 (t0 + t1) (0 : Int32) h) else (f_X1_nodeState_B64 (t0 + t1) (8 : Int32) h))
theorem pf_X1_nodeState_B50 {Γ : GX} {D : va_G} {h0 : PH} {o : ((Nat × Nat) ⊕ Int32) × PH} (x2 : Option Nat) (t0 : Int32) (t1 : Int32) (h : PH) (hf : f_X1_nodeState_B50 x2 t0 t1 h = some o) : PF Γ mi_X1_nodeState D h0 (QR Γ D h0 (oxi o.1) o.2) h 50 [none, none, some (va_rf x2)] [.int t1, .int t0] := by
  refine j_iadd dX1_nodeState_50 ?_
  refine j_aload_n 2 dX1_nodeState_51 rfl rfl ?_
  refine j_gIN (ci := 5) (k := 4) rfl in_X6 rfl q734 dX1_nodeState_52 hf (fun v9 hf => ?_)
  refine j_if_eq 63 dX1_nodeState_55 (by decide) hf (fun c_ hf => ?_) (fun c_ hf => ?_)
  · refine j_iconst (0 : Int32) dX1_nodeState_63 (by decide) ?_
    refine j_weak [none, none, none] (Wk.k (Wk.k (Wk.s Wk.n))) ?_
    exact pf_X1_nodeState_B64 (t0 + t1) (0 : Int32) h hf
  · refine j_bipush (8 : Int32) dX1_nodeState_58 (by decide) ?_
    refine j_goto 64 dX1_nodeState_60 (by decide) ?_
    refine j_weak [none, none, none] (Wk.k (Wk.k (Wk.s Wk.n))) ?_
    exact pf_X1_nodeState_B64 (t0 + t1) (8 : Int32) h hf
def f_X1_nodeState_B37 (x2 : Option Nat) (t0 : Int32) (t1 : Int32) (h : PH) : Option (((Nat × Nat) ⊕ Int32) × PH) := gIN h x2 5 3 fun v8 => (if v8 = 0 then (f_X1_nodeState_B50 x2 (t0 + t1) (0 : Int32) h) else (f_X1_nodeState_B50 x2 (t0 + t1) (4 : Int32) h))
theorem pf_X1_nodeState_B37 {Γ : GX} {D : va_G} {h0 : PH} {o : ((Nat × Nat) ⊕ Int32) × PH} (x2 : Option Nat) (t0 : Int32) (t1 : Int32) (h : PH) (hf : f_X1_nodeState_B37 x2 t0 t1 h = some o) : PF Γ mi_X1_nodeState D h0 (QR Γ D h0 (oxi o.1) o.2) h 37 [none, none, some (va_rf x2)] [.int t1, .int t0] := by
  refine j_iadd dX1_nodeState_37 ?_
  refine j_aload_n 2 dX1_nodeState_38 rfl rfl ?_
  refine j_gIN (ci := 5) (k := 3) rfl in_X6 rfl q731 dX1_nodeState_39 hf (fun v8 hf => ?_)
  refine j_if_eq 49 dX1_nodeState_42 (by decide) hf (fun c_ hf => ?_) (fun c_ hf => ?_)
  · refine j_iconst (0 : Int32) dX1_nodeState_49 (by decide) ?_
    exact pf_X1_nodeState_B50 x2 (t0 + t1) (0 : Int32) h hf
  · refine j_iconst (4 : Int32) dX1_nodeState_45 (by decide) ?_
    refine j_goto 50 dX1_nodeState_46 (by decide) ?_
    exact pf_X1_nodeState_B50 x2 (t0 + t1) (4 : Int32) h hf
def f_X1_nodeState_B18 (x0 : Option Nat) (x2 : Option Nat) (t0 : Int32) (h : PH) : Option (((Nat × Nat) ⊕ Int32) × PH) := gR h x0 0 3 fun r4 => gIN h r4 1 8 fun v5 => rv_ h x2 5 (cl_ (f_X6_isPaused x2 v5 h) fun v7 h6 => (if v7 = 0 then (f_X1_nodeState_B37 x2 t0 (0 : Int32) h6) else (f_X1_nodeState_B37 x2 t0 (2 : Int32) h6)))
theorem pf_X1_nodeState_B18 {Γ : GX} {D : va_G} {h0 : PH} {o : ((Nat × Nat) ⊕ Int32) × PH} (x0 : Option Nat) (x2 : Option Nat) (t0 : Int32) (h : PH) (hf : f_X1_nodeState_B18 x0 x2 t0 h = some o) : PF Γ mi_X1_nodeState D h0 (QR Γ D h0 (oxi o.1) o.2) h 18 [some (va_rf x0), none, some (va_rf x2)] [.int t0] := by
  refine j_aload_n 2 dX1_nodeState_18 rfl rfl ?_
  refine j_aload_n 0 dX1_nodeState_19 rfl rfl ?_
  refine j_gR (ci := 0) (k := 3) rfl in_X1 rfl q877 dX1_nodeState_20 hf (fun r4 hf => ?_)
  refine j_gIN (ci := 1) (k := 8) rfl in_X2 rfl q803 dX1_nodeState_23 hf (fun v5 hf => ?_)
  refine kc_X1_138 rfl rfl rfl (by simp [va_rf_cat, cat_i, cat_l]) dX1_nodeState_26 hf (fun v7 h6 hf => ?_)
  refine j_if_eq 36 dX1_nodeState_29 (by decide) hf (fun c_ hf => ?_) (fun c_ hf => ?_)
  · refine j_iconst (0 : Int32) dX1_nodeState_36 (by decide) ?_
    refine j_weak [none, none, some (va_rf x2)] (Wk.s (Wk.k (Wk.k Wk.n))) ?_
    exact pf_X1_nodeState_B37 x2 t0 (0 : Int32) h6 hf
  · refine j_iconst (2 : Int32) dX1_nodeState_32 (by decide) ?_
    refine j_goto 37 dX1_nodeState_33 (by decide) ?_
    refine j_weak [none, none, some (va_rf x2)] (Wk.s (Wk.k (Wk.k Wk.n))) ?_
    exact pf_X1_nodeState_B37 x2 t0 (2 : Int32) h6 hf
def f_X1_nodeState (r0 : Option Nat) (p0 : Int32) (h0 : PH) : Option (((Nat × Nat) ⊕ Int32) × PH) := rv_ h0 r0 0 (cl_ (f_X1_node r0 p0 h0) fun z9 h1 => match z9 with | .inl (ci9, q9) => (xo_ h1 ci9 q9) | .inr r2 => (gIN h1 r2 5 2 fun v3 => (if v3 = 0 then (f_X1_nodeState_B18 r0 r2 (0 : Int32) h1) else (f_X1_nodeState_B18 r0 r2 (1 : Int32) h1))))
theorem hyS_X1_nodeState : yX1_nodeState.cls ≠ "java/lang/invoke/MethodHandle" ∧ yX1_nodeState.cls ≠ "java/lang/invoke/VarHandle" ∧ (parseMethodDescriptor yX1_nodeState.desc).map (fun d => d.parameters.length) = some 1 := by decide +kernel
theorem hyV_X1_nodeState : yX1_nodeState.cls = RX1 ∧ yX1_nodeState.cls ≠ "java/lang/invoke/MethodHandle" ∧ yX1_nodeState.cls ≠ "java/lang/invoke/VarHandle" ∧ (parseMethodDescriptor yX1_nodeState.desc).map (fun d => d.parameters.length) = some 1 := by decide +kernel
theorem c_X1_nodeState {D : va_G} (r0 : Option Nat) (p0 : Int32) {h0 : PH} (l : Launch) (hl : l.stackTraces = false) (x : ((Nat × Nat) ⊕ Int32)) (h1 : PH) (hf : f_X1_nodeState r0 p0 h0 = some (x, h1)) : CT l D yX1_nodeState (ws_ yX1_nodeState cX1_nodeState 3 (Option.some FieldType.int)) 7 110 [va_rf r0, .int p0] h0 (oxi x) h1 := by
  refine ct_of hl [some (va_rf r0), some (.int p0), none] (by decide) (by rw [lgl]; simp [va_rf_cat, cat_i, cat_l]) (by simp [lv_args, vsL, va_rf_cat, cat_i, cat_l]) (fun Γ => ?_)
  obtain ⟨o, ho⟩ : ∃ o : ((Nat × Nat) ⊕ Int32) × PH, o = (x, h1) := ⟨_, rfl⟩
  rw [← ho] at hf
  have e1 : x = o.1 := by rw [ho]
  have e2 : h1 = o.2 := by rw [ho]
  subst e1 e2
  clear ho
  show PF Γ mi_X1_nodeState D h0 (QR Γ D h0 (oxi o.1) o.2) h0 0 [some (va_rf r0), some (.int p0), none] []
  unfold f_X1_nodeState at hf
  refine j_aload_n 0 dX1_nodeState_0 rfl rfl ?_
  refine j_iload_n 1 dX1_nodeState_1 rfl rfl ?_
  refine kc_X1_117 rfl rfl rfl (by decide) dX1_nodeState_2 hf (fun r2 h1 hf => ?_) (fun ci9 q9 h1 fs9 he9 hf => ?_)
  · refine j_astore_n 2 [some (va_rf r0), some (.int p0), some (va_rf r2)] dX1_nodeState_5 rfl (cz rfl) rfl rfl ?_
    refine j_aload_n 2 dX1_nodeState_6 rfl rfl ?_
    refine j_gIN (ci := 5) (k := 2) rfl in_X6 rfl q728 dX1_nodeState_7 hf (fun v3 hf => ?_)
    refine j_if_eq 17 dX1_nodeState_10 (by decide) hf (fun c_ hf => ?_) (fun c_ hf => ?_)
    · refine j_iconst (0 : Int32) dX1_nodeState_17 (by decide) ?_
      refine j_weak [some (va_rf r0), none, some (va_rf r2)] (Wk.k (Wk.s (Wk.k Wk.n))) ?_
      exact pf_X1_nodeState_B18 r0 r2 (0 : Int32) h1 hf
    · refine j_iconst (1 : Int32) dX1_nodeState_13 (by decide) ?_
      refine j_goto 18 dX1_nodeState_14 (by decide) ?_
      refine j_weak [some (va_rf r0), none, some (va_rf r2)] (Wk.k (Wk.s (Wk.k Wk.n))) ?_
      exact pf_X1_nodeState_B18 r0 r2 (1 : Int32) h1 hf
  · obtain ⟨hb9, hf⟩ := xo_in hf
    subst hf
    exact j_out (by decide) hb9 he9
