/-! printed by gen.py: X0_appendByte X0_advance X0_nodeClock X0_campaign X0_withdraw X0_crash X0_restart X0_pause X0_setCut X0_planOutage X0_write X0_writeLater X0_fetch X0_read X0_stored X0_version X0_isLeading X0_token X0_nodeExpiryTime X0_margin X0_timerTime X0_nodeState X0_cached X0_logTime X0_logKind X0_logNode -/
set_option maxRecDepth 100000
theorem kc_X0_7 {Γ : GX} {I : MI} {D : va_G} {h0 : PH} {Q : State → Prop} {h : PH} {pc : Nat} {vs : List (Option Value)} {rest : List Value} {β : Type} {o : β} {r : Option Nat} {p0 : Int32} {K : (((Nat × Nat) ⊕ Int32) → PH → Option β)} (hI : I.2.2.1 = RX0) (hfr : Nat.ble 8 I.2.2.2.2.2.1 = true) (hlo : Nat.ble 130 I.2.2.2.2.2.2.1 = true) (hW : (rest.map fun v => v.category).sum ≤ 8) (hd : decode I.1 pc = .ok (.invokevirtual 7, 3)) (hf : rv_ h r 0 (cl_ (f_X1_appendByte r p0 h) K) = some o) (kk : ∀ (x : Int32) (h1 : PH), K (.inr x) h1 = some o → PF Γ I D h0 Q h1 (pc + 3) vs (.int x :: rest)) (kx : ∀ (ci q : Nat) (h1 : PH) (fs : List Value), h1.1 q = some (.inr (ci, fs)) → K (.inl (ci, q)) h1 = some o → PX Γ I D h0 Q h1 pc vs q) : PF Γ I D h0 Q h pc vs (.int p0 :: va_rf r :: rest) := by
  obtain ⟨cc, nL, own, rt, xt, fr, lo, nm⟩ := I
  cases hI
  exact j_xVi (n := 1) (y := yX1_appendByte) (cc2 := cX1_appendByte) (As := [.int p0]) (C := RX1) (ci := 0) rfl (lw_V q1690 q1691 q1692 q90 q1693) hyV_X1_appendByte hfr hlo rfl hW hd (c_X1_appendByte r p0) hf _ rfl kk kx
abbrev mi_X0_appendByte : MI := (cX0_appendByte, 4, RX0, (Option.some FieldType.int), tableOf [(0, 9, 12, 13)], 8, 130, "appendByte")
def f_X0_appendByte (p0 : Option Nat) (p1 : Int32) (p2 : Option Nat) (h0 : PH) : Option (Int32 × PH) := rv_ h0 p0 0 (cl_ (f_X1_appendByte p0 p1 h0) fun z9 h1 => match z9 with | .inl (ci9, q9) => ((if ci9 = 20 then (if pbase h1 ≤ q9 then (some ((1 : Int32), h1)) else none) else none)) | .inr v2 => (sL h1 p2 2 (0 : Int32) (v2.toInt64) fun h3 => some ((0 : Int32), h3)))
theorem hyS_X0_appendByte : yX0_appendByte.cls ≠ "java/lang/invoke/MethodHandle" ∧ yX0_appendByte.cls ≠ "java/lang/invoke/VarHandle" ∧ (parseMethodDescriptor yX0_appendByte.desc).map (fun d => d.parameters.length) = some 3 := by decide +kernel
theorem c_X0_appendByte {D : va_G} (p0 : Option Nat) (p1 : Int32) (p2 : Option Nat) {h0 : PH} (l : Launch) (hl : l.stackTraces = false) (x : Int32) (h1 : PH) (hf : f_X0_appendByte p0 p1 p2 h0 = some (x, h1)) : CT l D yX0_appendByte (wsW_ yX0_appendByte cX0_appendByte 4 (Option.some FieldType.int) [(0, 9, 12, 13)]) 8 130 [va_rf p0, .int p1, va_rf p2] h0 (ovi x) h1 := by
  refine ct_ofH hl [some (va_rf p0), some (.int p1), some (va_rf p2), none] (by decide) (by rw [lgl]; simp [va_rf_cat, cat_i, cat_l]) (by simp [lv_args, vsL, va_rf_cat, cat_i, cat_l]) (fun Γ => ?_)
  obtain ⟨o, ho⟩ : ∃ o : Int32 × PH, o = (x, h1) := ⟨_, rfl⟩
  rw [← ho] at hf
  have e1 : x = o.1 := by rw [ho]
  have e2 : h1 = o.2 := by rw [ho]
  subst e1 e2
  clear ho
  show PF Γ mi_X0_appendByte D h0 (QR Γ D h0 (ovi o.1) o.2) h0 0 [some (va_rf p0), some (.int p1), some (va_rf p2), none] []
  unfold f_X0_appendByte at hf
  refine j_aload_n 2 dX0_appendByte_0 rfl rfl ?_
  refine j_iconst (0 : Int32) dX0_appendByte_1 (by decide) ?_
  refine j_aload_n 0 dX0_appendByte_2 rfl rfl ?_
  refine j_iload_n 1 dX0_appendByte_3 rfl rfl ?_
  refine kc_X0_7 rfl rfl rfl (by simp [va_rf_cat, cat_i, cat_l]) dX0_appendByte_4 hf (fun v2 h1 hf => ?_) (fun ci9 q9 h1 fs9 he9 hf => ?_)
  · refine j_i2l dX0_appendByte_7 ?_
    refine j_last dX0_appendByte_8 hf (fun h3 hf => ?_)
    refine j_goto 15 dX0_appendByte_9 (by decide) ?_
    refine j_iconst (0 : Int32) dX0_appendByte_15 (by decide) ?_
    have e9 := Option.some.inj hf
    subst e9
    exact j_iret rfl dX0_appendByte_16
  · by_cases x13 : ci9 = 20
    · subst x13
      replace hf := if_t hf rfl
      obtain ⟨hb9, hf⟩ := if_none hf
      refine j_catch (ci := 20) [] ⟨0, 9, 12, 13⟩ [] rfl (fun _ h => absurd h List.not_mem_nil) rfl (by decide) q1689 q187 hb9 he9 ?_
      refine j_astore_n 3 [some (va_rf p0), some (.int p1), some (va_rf p2), some (va_rf (some q9))] dX0_appendByte_12 rfl (cz (va_rf_cat _)) rfl rfl ?_
      refine j_iconst (1 : Int32) dX0_appendByte_13 (by decide) ?_
      have e9 := Option.some.inj hf
      subst e9
      exact j_iret rfl dX0_appendByte_14
    · replace hf := if_f hf x13
      cases hf
theorem kc_X0_15 {Γ : GX} {I : MI} {D : va_G} {h0 : PH} {Q : State → Prop} {h : PH} {pc : Nat} {vs : List (Option Value)} {rest : List Value} {β : Type} {o : β} {r : Option Nat} {p0 : Int32} {K : (((Nat × Nat) ⊕ Int32) → PH → Option β)} (hI : I.2.2.1 = RX0) (hfr : Nat.ble 16 I.2.2.2.2.2.1 = true) (hlo : Nat.ble 392 I.2.2.2.2.2.2.1 = true) (hW : (rest.map fun v => v.category).sum ≤ 8) (hd : decode I.1 pc = .ok (.invokevirtual 15, 3)) (hf : rv_ h r 0 (cl_ (f_X1_advance r p0 h) K) = some o) (kk : ∀ (x : Int32) (h1 : PH), K (.inr x) h1 = some o → PF Γ I D h0 Q h1 (pc + 3) vs (.int x :: rest)) (kx : ∀ (ci q : Nat) (h1 : PH) (fs : List Value), h1.1 q = some (.inr (ci, fs)) → K (.inl (ci, q)) h1 = some o → PX Γ I D h0 Q h1 pc vs q) : PF Γ I D h0 Q h pc vs (.int p0 :: va_rf r :: rest) := by
  obtain ⟨cc, nL, own, rt, xt, fr, lo, nm⟩ := I
  cases hI
  exact j_xVi (n := 1) (y := yX1_advance) (cc2 := cX1_advance) (As := [.int p0]) (C := RX1) (ci := 0) rfl (lw_V q1713 q1714 q1715 q90 q1716) hyV_X1_advance hfr hlo rfl hW hd (c_X1_advance r p0) hf _ rfl kk kx
abbrev mi_X0_advance : MI := (cX0_advance, 4, RX0, (Option.some FieldType.int), tableOf [(0, 9, 12, 13)], 16, 392, "advance")
def f_X0_advance (p0 : Option Nat) (p1 : Int32) (p2 : Option Nat) (h0 : PH) : Option (Int32 × PH) := rv_ h0 p0 0 (cl_ (f_X1_advance p0 p1 h0) fun z9 h1 => match z9 with | .inl (ci9, q9) => ((if ci9 = 20 then (if pbase h1 ≤ q9 then (some ((1 : Int32), h1)) else none) else none)) | .inr v2 => (sL h1 p2 2 (0 : Int32) (v2.toInt64) fun h3 => some ((0 : Int32), h3)))
theorem hyS_X0_advance : yX0_advance.cls ≠ "java/lang/invoke/MethodHandle" ∧ yX0_advance.cls ≠ "java/lang/invoke/VarHandle" ∧ (parseMethodDescriptor yX0_advance.desc).map (fun d => d.parameters.length) = some 3 := by decide +kernel
theorem c_X0_advance {D : va_G} (p0 : Option Nat) (p1 : Int32) (p2 : Option Nat) {h0 : PH} (l : Launch) (hl : l.stackTraces = false) (x : Int32) (h1 : PH) (hf : f_X0_advance p0 p1 p2 h0 = some (x, h1)) : CT l D yX0_advance (wsW_ yX0_advance cX0_advance 4 (Option.some FieldType.int) [(0, 9, 12, 13)]) 16 392 [va_rf p0, .int p1, va_rf p2] h0 (ovi x) h1 := by
  refine ct_ofH hl [some (va_rf p0), some (.int p1), some (va_rf p2), none] (by decide) (by rw [lgl]; simp [va_rf_cat, cat_i, cat_l]) (by simp [lv_args, vsL, va_rf_cat, cat_i, cat_l]) (fun Γ => ?_)
  obtain ⟨o, ho⟩ : ∃ o : Int32 × PH, o = (x, h1) := ⟨_, rfl⟩
  rw [← ho] at hf
  have e1 : x = o.1 := by rw [ho]
  have e2 : h1 = o.2 := by rw [ho]
  subst e1 e2
  clear ho
  show PF Γ mi_X0_advance D h0 (QR Γ D h0 (ovi o.1) o.2) h0 0 [some (va_rf p0), some (.int p1), some (va_rf p2), none] []
  unfold f_X0_advance at hf
  refine j_aload_n 2 dX0_advance_0 rfl rfl ?_
  refine j_iconst (0 : Int32) dX0_advance_1 (by decide) ?_
  refine j_aload_n 0 dX0_advance_2 rfl rfl ?_
  refine j_iload_n 1 dX0_advance_3 rfl rfl ?_
  refine kc_X0_15 rfl rfl rfl (by simp [va_rf_cat, cat_i, cat_l]) dX0_advance_4 hf (fun v2 h1 hf => ?_) (fun ci9 q9 h1 fs9 he9 hf => ?_)
  · refine j_i2l dX0_advance_7 ?_
    refine j_last dX0_advance_8 hf (fun h3 hf => ?_)
    refine j_goto 15 dX0_advance_9 (by decide) ?_
    refine j_iconst (0 : Int32) dX0_advance_15 (by decide) ?_
    have e9 := Option.some.inj hf
    subst e9
    exact j_iret rfl dX0_advance_16
  · by_cases x13 : ci9 = 20
    · subst x13
      replace hf := if_t hf rfl
      obtain ⟨hb9, hf⟩ := if_none hf
      refine j_catch (ci := 20) [] ⟨0, 9, 12, 13⟩ [] rfl (fun _ h => absurd h List.not_mem_nil) rfl (by decide) q1689 q187 hb9 he9 ?_
      refine j_astore_n 3 [some (va_rf p0), some (.int p1), some (va_rf p2), some (va_rf (some q9))] dX0_advance_12 rfl (cz (va_rf_cat _)) rfl rfl ?_
      refine j_iconst (1 : Int32) dX0_advance_13 (by decide) ?_
      have e9 := Option.some.inj hf
      subst e9
      exact j_iret rfl dX0_advance_14
    · replace hf := if_f hf x13
      cases hf
theorem kc_X0_18 {Γ : GX} {I : MI} {D : va_G} {h0 : PH} {Q : State → Prop} {h : PH} {pc : Nat} {vs : List (Option Value)} {rest : List Value} {β : Type} {o : β} {r : Option Nat} {p0 : Int32} {K : (((Nat × Nat) ⊕ Int32) → PH → Option β)} (hI : I.2.2.1 = RX0) (hfr : Nat.ble 8 I.2.2.2.2.2.1 = true) (hlo : Nat.ble 131 I.2.2.2.2.2.2.1 = true) (hW : (rest.map fun v => v.category).sum ≤ 8) (hd : decode I.1 pc = .ok (.invokevirtual 18, 3)) (hf : rv_ h r 0 (cl_ (f_X1_nodeClock r p0 h) K) = some o) (kk : ∀ (x : Int32) (h1 : PH), K (.inr x) h1 = some o → PF Γ I D h0 Q h1 (pc + 3) vs (.int x :: rest)) (kx : ∀ (ci q : Nat) (h1 : PH) (fs : List Value), h1.1 q = some (.inr (ci, fs)) → K (.inl (ci, q)) h1 = some o → PX Γ I D h0 Q h1 pc vs q) : PF Γ I D h0 Q h pc vs (.int p0 :: va_rf r :: rest) := by
  obtain ⟨cc, nL, own, rt, xt, fr, lo, nm⟩ := I
  cases hI
  exact j_xVi (n := 1) (y := yX1_nodeClock) (cc2 := cX1_nodeClock) (As := [.int p0]) (C := RX1) (ci := 0) rfl (lw_V q1740 q1741 q1742 q90 q1743) hyV_X1_nodeClock hfr hlo rfl hW hd (c_X1_nodeClock r p0) hf _ rfl kk kx
abbrev mi_X0_nodeClock : MI := (cX0_nodeClock, 4, RX0, (Option.some FieldType.int), tableOf [(0, 9, 12, 21)], 8, 131, "nodeClock")
def f_X0_nodeClock (p0 : Option Nat) (p1 : Int32) (p2 : Option Nat) (h0 : PH) : Option (Int32 × PH) := rv_ h0 p0 0 (cl_ (f_X1_nodeClock p0 p1 h0) fun z9 h1 => match z9 with | .inl (ci9, q9) => ((if ci9 = 24 then (if pbase h1 ≤ q9 then (some ((1 : Int32), h1)) else none) else none)) | .inr v2 => (sL h1 p2 2 (0 : Int32) (v2.toInt64) fun h3 => some ((0 : Int32), h3)))
theorem hyS_X0_nodeClock : yX0_nodeClock.cls ≠ "java/lang/invoke/MethodHandle" ∧ yX0_nodeClock.cls ≠ "java/lang/invoke/VarHandle" ∧ (parseMethodDescriptor yX0_nodeClock.desc).map (fun d => d.parameters.length) = some 3 := by decide +kernel
theorem c_X0_nodeClock {D : va_G} (p0 : Option Nat) (p1 : Int32) (p2 : Option Nat) {h0 : PH} (l : Launch) (hl : l.stackTraces = false) (x : Int32) (h1 : PH) (hf : f_X0_nodeClock p0 p1 p2 h0 = some (x, h1)) : CT l D yX0_nodeClock (wsW_ yX0_nodeClock cX0_nodeClock 4 (Option.some FieldType.int) [(0, 9, 12, 21)]) 8 131 [va_rf p0, .int p1, va_rf p2] h0 (ovi x) h1 := by
  refine ct_ofH hl [some (va_rf p0), some (.int p1), some (va_rf p2), none] (by decide) (by rw [lgl]; simp [va_rf_cat, cat_i, cat_l]) (by simp [lv_args, vsL, va_rf_cat, cat_i, cat_l]) (fun Γ => ?_)
  obtain ⟨o, ho⟩ : ∃ o : Int32 × PH, o = (x, h1) := ⟨_, rfl⟩
  rw [← ho] at hf
  have e1 : x = o.1 := by rw [ho]
  have e2 : h1 = o.2 := by rw [ho]
  subst e1 e2
  clear ho
  show PF Γ mi_X0_nodeClock D h0 (QR Γ D h0 (ovi o.1) o.2) h0 0 [some (va_rf p0), some (.int p1), some (va_rf p2), none] []
  unfold f_X0_nodeClock at hf
  refine j_aload_n 2 dX0_nodeClock_0 rfl rfl ?_
  refine j_iconst (0 : Int32) dX0_nodeClock_1 (by decide) ?_
  refine j_aload_n 0 dX0_nodeClock_2 rfl rfl ?_
  refine j_iload_n 1 dX0_nodeClock_3 rfl rfl ?_
  refine kc_X0_18 rfl rfl rfl (by simp [va_rf_cat, cat_i, cat_l]) dX0_nodeClock_4 hf (fun v2 h1 hf => ?_) (fun ci9 q9 h1 fs9 he9 hf => ?_)
  · refine j_i2l dX0_nodeClock_7 ?_
    refine j_last dX0_nodeClock_8 hf (fun h3 hf => ?_)
    refine j_goto 15 dX0_nodeClock_9 (by decide) ?_
    refine j_iconst (0 : Int32) dX0_nodeClock_15 (by decide) ?_
    have e9 := Option.some.inj hf
    subst e9
    exact j_iret rfl dX0_nodeClock_16
  · by_cases x21 : ci9 = 24
    · subst x21
      replace hf := if_t hf rfl
      obtain ⟨hb9, hf⟩ := if_none hf
      refine j_catch (ci := 24) [] ⟨0, 9, 12, 21⟩ [] rfl (fun _ h => absurd h List.not_mem_nil) rfl (by decide) q1721 q1750 hb9 he9 ?_
      refine j_astore_n 3 [some (va_rf p0), some (.int p1), some (va_rf p2), some (va_rf (some q9))] dX0_nodeClock_12 rfl (cz (va_rf_cat _)) rfl rfl ?_
      refine j_iconst (1 : Int32) dX0_nodeClock_13 (by decide) ?_
      have e9 := Option.some.inj hf
      subst e9
      exact j_iret rfl dX0_nodeClock_14
    · replace hf := if_f hf x21
      cases hf
theorem kc_X0_23 {Γ : GX} {I : MI} {D : va_G} {h0 : PH} {Q : State → Prop} {h : PH} {pc : Nat} {vs : List (Option Value)} {rest : List Value} {β : Type} {o : β} {r : Option Nat} {p0 : Int32} {K : (((Nat × Nat) ⊕ Int32) → PH → Option β)} (hI : I.2.2.1 = RX0) (hfr : Nat.ble 10 I.2.2.2.2.2.1 = true) (hlo : Nat.ble 261 I.2.2.2.2.2.2.1 = true) (hW : (rest.map fun v => v.category).sum ≤ 8) (hd : decode I.1 pc = .ok (.invokevirtual 23, 3)) (hf : rv_ h r 0 (cl_ (f_X1_campaign r p0 h) K) = some o) (kk : ∀ (x : Int32) (h1 : PH), K (.inr x) h1 = some o → PF Γ I D h0 Q h1 (pc + 3) vs (.int x :: rest)) (kx : ∀ (ci q : Nat) (h1 : PH) (fs : List Value), h1.1 q = some (.inr (ci, fs)) → K (.inl (ci, q)) h1 = some o → PX Γ I D h0 Q h1 pc vs q) : PF Γ I D h0 Q h pc vs (.int p0 :: va_rf r :: rest) := by
  obtain ⟨cc, nL, own, rt, xt, fr, lo, nm⟩ := I
  cases hI
  exact j_xVi (n := 1) (y := yX1_campaign) (cc2 := cX1_campaign) (As := [.int p0]) (C := RX1) (ci := 0) rfl (lw_V q1767 q1768 q1769 q90 q1770) hyV_X1_campaign hfr hlo rfl hW hd (c_X1_campaign r p0) hf _ rfl kk kx
abbrev mi_X0_campaign : MI := (cX0_campaign, 4, RX0, (Option.some FieldType.int), tableOf [(0, 9, 12, 21)], 10, 261, "campaign")
def f_X0_campaign (p0 : Option Nat) (p1 : Int32) (p2 : Option Nat) (h0 : PH) : Option (Int32 × PH) := rv_ h0 p0 0 (cl_ (f_X1_campaign p0 p1 h0) fun z9 h1 => match z9 with | .inl (ci9, q9) => ((if ci9 = 24 then (if pbase h1 ≤ q9 then (some ((1 : Int32), h1)) else none) else none)) | .inr v2 => (sL h1 p2 2 (0 : Int32) (v2.toInt64) fun h3 => some ((0 : Int32), h3)))
theorem hyS_X0_campaign : yX0_campaign.cls ≠ "java/lang/invoke/MethodHandle" ∧ yX0_campaign.cls ≠ "java/lang/invoke/VarHandle" ∧ (parseMethodDescriptor yX0_campaign.desc).map (fun d => d.parameters.length) = some 3 := by decide +kernel
theorem c_X0_campaign {D : va_G} (p0 : Option Nat) (p1 : Int32) (p2 : Option Nat) {h0 : PH} (l : Launch) (hl : l.stackTraces = false) (x : Int32) (h1 : PH) (hf : f_X0_campaign p0 p1 p2 h0 = some (x, h1)) : CT l D yX0_campaign (wsW_ yX0_campaign cX0_campaign 4 (Option.some FieldType.int) [(0, 9, 12, 21)]) 10 261 [va_rf p0, .int p1, va_rf p2] h0 (ovi x) h1 := by
  refine ct_ofH hl [some (va_rf p0), some (.int p1), some (va_rf p2), none] (by decide) (by rw [lgl]; simp [va_rf_cat, cat_i, cat_l]) (by simp [lv_args, vsL, va_rf_cat, cat_i, cat_l]) (fun Γ => ?_)
  obtain ⟨o, ho⟩ : ∃ o : Int32 × PH, o = (x, h1) := ⟨_, rfl⟩
  rw [← ho] at hf
  have e1 : x = o.1 := by rw [ho]
  have e2 : h1 = o.2 := by rw [ho]
  subst e1 e2
  clear ho
  show PF Γ mi_X0_campaign D h0 (QR Γ D h0 (ovi o.1) o.2) h0 0 [some (va_rf p0), some (.int p1), some (va_rf p2), none] []
  unfold f_X0_campaign at hf
  refine j_aload_n 2 dX0_campaign_0 rfl rfl ?_
  refine j_iconst (0 : Int32) dX0_campaign_1 (by decide) ?_
  refine j_aload_n 0 dX0_campaign_2 rfl rfl ?_
  refine j_iload_n 1 dX0_campaign_3 rfl rfl ?_
  refine kc_X0_23 rfl rfl rfl (by simp [va_rf_cat, cat_i, cat_l]) dX0_campaign_4 hf (fun v2 h1 hf => ?_) (fun ci9 q9 h1 fs9 he9 hf => ?_)
  · refine j_i2l dX0_campaign_7 ?_
    refine j_last dX0_campaign_8 hf (fun h3 hf => ?_)
    refine j_goto 15 dX0_campaign_9 (by decide) ?_
    refine j_iconst (0 : Int32) dX0_campaign_15 (by decide) ?_
    have e9 := Option.some.inj hf
    subst e9
    exact j_iret rfl dX0_campaign_16
  · by_cases x21 : ci9 = 24
    · subst x21
      replace hf := if_t hf rfl
      obtain ⟨hb9, hf⟩ := if_none hf
      refine j_catch (ci := 24) [] ⟨0, 9, 12, 21⟩ [] rfl (fun _ h => absurd h List.not_mem_nil) rfl (by decide) q1721 q1750 hb9 he9 ?_
      refine j_astore_n 3 [some (va_rf p0), some (.int p1), some (va_rf p2), some (va_rf (some q9))] dX0_campaign_12 rfl (cz (va_rf_cat _)) rfl rfl ?_
      refine j_iconst (1 : Int32) dX0_campaign_13 (by decide) ?_
      have e9 := Option.some.inj hf
      subst e9
      exact j_iret rfl dX0_campaign_14
    · replace hf := if_f hf x21
      cases hf
theorem kc_X0_26 {Γ : GX} {I : MI} {D : va_G} {h0 : PH} {Q : State → Prop} {h : PH} {pc : Nat} {vs : List (Option Value)} {rest : List Value} {β : Type} {o : β} {r : Option Nat} {p0 : Int32} {K : (((Nat × Nat) ⊕ Int32) → PH → Option β)} (hI : I.2.2.1 = RX0) (hfr : Nat.ble 9 I.2.2.2.2.2.1 = true) (hlo : Nat.ble 239 I.2.2.2.2.2.2.1 = true) (hW : (rest.map fun v => v.category).sum ≤ 8) (hd : decode I.1 pc = .ok (.invokevirtual 26, 3)) (hf : rv_ h r 0 (cl_ (f_X1_withdraw r p0 h) K) = some o) (kk : ∀ (x : Int32) (h1 : PH), K (.inr x) h1 = some o → PF Γ I D h0 Q h1 (pc + 3) vs (.int x :: rest)) (kx : ∀ (ci q : Nat) (h1 : PH) (fs : List Value), h1.1 q = some (.inr (ci, fs)) → K (.inl (ci, q)) h1 = some o → PX Γ I D h0 Q h1 pc vs q) : PF Γ I D h0 Q h pc vs (.int p0 :: va_rf r :: rest) := by
  obtain ⟨cc, nL, own, rt, xt, fr, lo, nm⟩ := I
  cases hI
  exact j_xVi (n := 1) (y := yX1_withdraw) (cc2 := cX1_withdraw) (As := [.int p0]) (C := RX1) (ci := 0) rfl (lw_V q1780 q1781 q1782 q90 q1783) hyV_X1_withdraw hfr hlo rfl hW hd (c_X1_withdraw r p0) hf _ rfl kk kx
abbrev mi_X0_withdraw : MI := (cX0_withdraw, 4, RX0, (Option.some FieldType.int), tableOf [(0, 9, 12, 21)], 9, 239, "withdraw")
def f_X0_withdraw (p0 : Option Nat) (p1 : Int32) (p2 : Option Nat) (h0 : PH) : Option (Int32 × PH) := rv_ h0 p0 0 (cl_ (f_X1_withdraw p0 p1 h0) fun z9 h1 => match z9 with | .inl (ci9, q9) => ((if ci9 = 24 then (if pbase h1 ≤ q9 then (some ((1 : Int32), h1)) else none) else none)) | .inr v2 => (sL h1 p2 2 (0 : Int32) (v2.toInt64) fun h3 => some ((0 : Int32), h3)))
theorem hyS_X0_withdraw : yX0_withdraw.cls ≠ "java/lang/invoke/MethodHandle" ∧ yX0_withdraw.cls ≠ "java/lang/invoke/VarHandle" ∧ (parseMethodDescriptor yX0_withdraw.desc).map (fun d => d.parameters.length) = some 3 := by decide +kernel
theorem c_X0_withdraw {D : va_G} (p0 : Option Nat) (p1 : Int32) (p2 : Option Nat) {h0 : PH} (l : Launch) (hl : l.stackTraces = false) (x : Int32) (h1 : PH) (hf : f_X0_withdraw p0 p1 p2 h0 = some (x, h1)) : CT l D yX0_withdraw (wsW_ yX0_withdraw cX0_withdraw 4 (Option.some FieldType.int) [(0, 9, 12, 21)]) 9 239 [va_rf p0, .int p1, va_rf p2] h0 (ovi x) h1 := by
  refine ct_ofH hl [some (va_rf p0), some (.int p1), some (va_rf p2), none] (by decide) (by rw [lgl]; simp [va_rf_cat, cat_i, cat_l]) (by simp [lv_args, vsL, va_rf_cat, cat_i, cat_l]) (fun Γ => ?_)
  obtain ⟨o, ho⟩ : ∃ o : Int32 × PH, o = (x, h1) := ⟨_, rfl⟩
  rw [← ho] at hf
  have e1 : x = o.1 := by rw [ho]
  have e2 : h1 = o.2 := by rw [ho]
  subst e1 e2
  clear ho
  show PF Γ mi_X0_withdraw D h0 (QR Γ D h0 (ovi o.1) o.2) h0 0 [some (va_rf p0), some (.int p1), some (va_rf p2), none] []
  unfold f_X0_withdraw at hf
  refine j_aload_n 2 dX0_withdraw_0 rfl rfl ?_
  refine j_iconst (0 : Int32) dX0_withdraw_1 (by decide) ?_
  refine j_aload_n 0 dX0_withdraw_2 rfl rfl ?_
  refine j_iload_n 1 dX0_withdraw_3 rfl rfl ?_
  refine kc_X0_26 rfl rfl rfl (by simp [va_rf_cat, cat_i, cat_l]) dX0_withdraw_4 hf (fun v2 h1 hf => ?_) (fun ci9 q9 h1 fs9 he9 hf => ?_)
  · refine j_i2l dX0_withdraw_7 ?_
    refine j_last dX0_withdraw_8 hf (fun h3 hf => ?_)
    refine j_goto 15 dX0_withdraw_9 (by decide) ?_
    refine j_iconst (0 : Int32) dX0_withdraw_15 (by decide) ?_
    have e9 := Option.some.inj hf
    subst e9
    exact j_iret rfl dX0_withdraw_16
  · by_cases x21 : ci9 = 24
    · subst x21
      replace hf := if_t hf rfl
      obtain ⟨hb9, hf⟩ := if_none hf
      refine j_catch (ci := 24) [] ⟨0, 9, 12, 21⟩ [] rfl (fun _ h => absurd h List.not_mem_nil) rfl (by decide) q1721 q1750 hb9 he9 ?_
      refine j_astore_n 3 [some (va_rf p0), some (.int p1), some (va_rf p2), some (va_rf (some q9))] dX0_withdraw_12 rfl (cz (va_rf_cat _)) rfl rfl ?_
      refine j_iconst (1 : Int32) dX0_withdraw_13 (by decide) ?_
      have e9 := Option.some.inj hf
      subst e9
      exact j_iret rfl dX0_withdraw_14
    · replace hf := if_f hf x21
      cases hf
theorem kc_X0_29 {Γ : GX} {I : MI} {D : va_G} {h0 : PH} {Q : State → Prop} {h : PH} {pc : Nat} {vs : List (Option Value)} {rest : List Value} {β : Type} {o : β} {r : Option Nat} {p0 : Int32} {K : (((Nat × Nat) ⊕ Int32) → PH → Option β)} (hI : I.2.2.1 = RX0) (hfr : Nat.ble 9 I.2.2.2.2.2.1 = true) (hlo : Nat.ble 237 I.2.2.2.2.2.2.1 = true) (hW : (rest.map fun v => v.category).sum ≤ 8) (hd : decode I.1 pc = .ok (.invokevirtual 29, 3)) (hf : rv_ h r 0 (cl_ (f_X1_crash r p0 h) K) = some o) (kk : ∀ (x : Int32) (h1 : PH), K (.inr x) h1 = some o → PF Γ I D h0 Q h1 (pc + 3) vs (.int x :: rest)) (kx : ∀ (ci q : Nat) (h1 : PH) (fs : List Value), h1.1 q = some (.inr (ci, fs)) → K (.inl (ci, q)) h1 = some o → PX Γ I D h0 Q h1 pc vs q) : PF Γ I D h0 Q h pc vs (.int p0 :: va_rf r :: rest) := by
  obtain ⟨cc, nL, own, rt, xt, fr, lo, nm⟩ := I
  cases hI
  exact j_xVi (n := 1) (y := yX1_crash) (cc2 := cX1_crash) (As := [.int p0]) (C := RX1) (ci := 0) rfl (lw_V q1790 q1791 q1792 q90 q1793) hyV_X1_crash hfr hlo rfl hW hd (c_X1_crash r p0) hf _ rfl kk kx
abbrev mi_X0_crash : MI := (cX0_crash, 4, RX0, (Option.some FieldType.int), tableOf [(0, 9, 12, 21)], 9, 237, "crash")
def f_X0_crash (p0 : Option Nat) (p1 : Int32) (p2 : Option Nat) (h0 : PH) : Option (Int32 × PH) := rv_ h0 p0 0 (cl_ (f_X1_crash p0 p1 h0) fun z9 h1 => match z9 with | .inl (ci9, q9) => ((if ci9 = 24 then (if pbase h1 ≤ q9 then (some ((1 : Int32), h1)) else none) else none)) | .inr v2 => (sL h1 p2 2 (0 : Int32) (v2.toInt64) fun h3 => some ((0 : Int32), h3)))
theorem hyS_X0_crash : yX0_crash.cls ≠ "java/lang/invoke/MethodHandle" ∧ yX0_crash.cls ≠ "java/lang/invoke/VarHandle" ∧ (parseMethodDescriptor yX0_crash.desc).map (fun d => d.parameters.length) = some 3 := by decide +kernel
theorem c_X0_crash {D : va_G} (p0 : Option Nat) (p1 : Int32) (p2 : Option Nat) {h0 : PH} (l : Launch) (hl : l.stackTraces = false) (x : Int32) (h1 : PH) (hf : f_X0_crash p0 p1 p2 h0 = some (x, h1)) : CT l D yX0_crash (wsW_ yX0_crash cX0_crash 4 (Option.some FieldType.int) [(0, 9, 12, 21)]) 9 237 [va_rf p0, .int p1, va_rf p2] h0 (ovi x) h1 := by
  refine ct_ofH hl [some (va_rf p0), some (.int p1), some (va_rf p2), none] (by decide) (by rw [lgl]; simp [va_rf_cat, cat_i, cat_l]) (by simp [lv_args, vsL, va_rf_cat, cat_i, cat_l]) (fun Γ => ?_)
  obtain ⟨o, ho⟩ : ∃ o : Int32 × PH, o = (x, h1) := ⟨_, rfl⟩
  rw [← ho] at hf
  have e1 : x = o.1 := by rw [ho]
  have e2 : h1 = o.2 := by rw [ho]
  subst e1 e2
  clear ho
  show PF Γ mi_X0_crash D h0 (QR Γ D h0 (ovi o.1) o.2) h0 0 [some (va_rf p0), some (.int p1), some (va_rf p2), none] []
  unfold f_X0_crash at hf
  refine j_aload_n 2 dX0_crash_0 rfl rfl ?_
  refine j_iconst (0 : Int32) dX0_crash_1 (by decide) ?_
  refine j_aload_n 0 dX0_crash_2 rfl rfl ?_
  refine j_iload_n 1 dX0_crash_3 rfl rfl ?_
  refine kc_X0_29 rfl rfl rfl (by simp [va_rf_cat, cat_i, cat_l]) dX0_crash_4 hf (fun v2 h1 hf => ?_) (fun ci9 q9 h1 fs9 he9 hf => ?_)
  · refine j_i2l dX0_crash_7 ?_
    refine j_last dX0_crash_8 hf (fun h3 hf => ?_)
    refine j_goto 15 dX0_crash_9 (by decide) ?_
    refine j_iconst (0 : Int32) dX0_crash_15 (by decide) ?_
    have e9 := Option.some.inj hf
    subst e9
    exact j_iret rfl dX0_crash_16
  · by_cases x21 : ci9 = 24
    · subst x21
      replace hf := if_t hf rfl
      obtain ⟨hb9, hf⟩ := if_none hf
      refine j_catch (ci := 24) [] ⟨0, 9, 12, 21⟩ [] rfl (fun _ h => absurd h List.not_mem_nil) rfl (by decide) q1721 q1750 hb9 he9 ?_
      refine j_astore_n 3 [some (va_rf p0), some (.int p1), some (va_rf p2), some (va_rf (some q9))] dX0_crash_12 rfl (cz (va_rf_cat _)) rfl rfl ?_
      refine j_iconst (1 : Int32) dX0_crash_13 (by decide) ?_
      have e9 := Option.some.inj hf
      subst e9
      exact j_iret rfl dX0_crash_14
    · replace hf := if_f hf x21
      cases hf
theorem kc_X0_32 {Γ : GX} {I : MI} {D : va_G} {h0 : PH} {Q : State → Prop} {h : PH} {pc : Nat} {vs : List (Option Value)} {rest : List Value} {β : Type} {o : β} {r : Option Nat} {p0 : Int32} {K : (((Nat × Nat) ⊕ Int32) → PH → Option β)} (hI : I.2.2.1 = RX0) (hfr : Nat.ble 8 I.2.2.2.2.2.1 = true) (hlo : Nat.ble 133 I.2.2.2.2.2.2.1 = true) (hW : (rest.map fun v => v.category).sum ≤ 8) (hd : decode I.1 pc = .ok (.invokevirtual 32, 3)) (hf : rv_ h r 0 (cl_ (f_X1_restart r p0 h) K) = some o) (kk : ∀ (x : Int32) (h1 : PH), K (.inr x) h1 = some o → PF Γ I D h0 Q h1 (pc + 3) vs (.int x :: rest)) (kx : ∀ (ci q : Nat) (h1 : PH) (fs : List Value), h1.1 q = some (.inr (ci, fs)) → K (.inl (ci, q)) h1 = some o → PX Γ I D h0 Q h1 pc vs q) : PF Γ I D h0 Q h pc vs (.int p0 :: va_rf r :: rest) := by
  obtain ⟨cc, nL, own, rt, xt, fr, lo, nm⟩ := I
  cases hI
  exact j_xVi (n := 1) (y := yX1_restart) (cc2 := cX1_restart) (As := [.int p0]) (C := RX1) (ci := 0) rfl (lw_V q1798 q1799 q1800 q90 q1801) hyV_X1_restart hfr hlo rfl hW hd (c_X1_restart r p0) hf _ rfl kk kx
abbrev mi_X0_restart : MI := (cX0_restart, 4, RX0, (Option.some FieldType.int), tableOf [(0, 16, 19, 21)], 8, 133, "restart")
def f_X0_restart_B15 (t0 : Option Nat) (t1 : Int32) (t2 : Int64) (h : PH) : Option (Int32 × PH) := sL h t0 2 t1 t2 fun h3 => some ((0 : Int32), h3)
theorem pf_X0_restart_B15 {Γ : GX} {D : va_G} {h0 : PH} {o : Int32 × PH} (t0 : Option Nat) (t1 : Int32) (t2 : Int64) (h : PH) (hf : f_X0_restart_B15 t0 t1 t2 h = some o) : PF Γ mi_X0_restart D h0 (QR Γ D h0 (ovi o.1) o.2) h 15 [none, none, none, none] [.long t2, .int t1, va_rf t0] := by
  refine j_last dX0_restart_15 hf (fun h3 hf => ?_)
  refine j_goto 22 dX0_restart_16 (by decide) ?_
  refine j_iconst (0 : Int32) dX0_restart_22 (by decide) ?_
  have e9 := Option.some.inj hf
  subst e9
  exact j_iret rfl dX0_restart_23
def f_X0_restart (p0 : Option Nat) (p1 : Int32) (p2 : Option Nat) (h0 : PH) : Option (Int32 × PH) := rv_ h0 p0 0 (cl_ (f_X1_restart p0 p1 h0) fun z9 h1 => match z9 with | .inl (ci9, q9) => ((if ci9 = 24 then (if pbase h1 ≤ q9 then (some ((1 : Int32), h1)) else none) else none)) | .inr v2 => ((if v2 = 0 then (f_X0_restart_B15 p2 (0 : Int32) (0 : Int64) h1) else (f_X0_restart_B15 p2 (0 : Int32) (1 : Int64) h1))))
theorem hyS_X0_restart : yX0_restart.cls ≠ "java/lang/invoke/MethodHandle" ∧ yX0_restart.cls ≠ "java/lang/invoke/VarHandle" ∧ (parseMethodDescriptor yX0_restart.desc).map (fun d => d.parameters.length) = some 3 := by decide +kernel
theorem c_X0_restart {D : va_G} (p0 : Option Nat) (p1 : Int32) (p2 : Option Nat) {h0 : PH} (l : Launch) (hl : l.stackTraces = false) (x : Int32) (h1 : PH) (hf : f_X0_restart p0 p1 p2 h0 = some (x, h1)) : CT l D yX0_restart (wsW_ yX0_restart cX0_restart 4 (Option.some FieldType.int) [(0, 16, 19, 21)]) 8 133 [va_rf p0, .int p1, va_rf p2] h0 (ovi x) h1 := by
  refine ct_ofH hl [some (va_rf p0), some (.int p1), some (va_rf p2), none] (by decide) (by rw [lgl]; simp [va_rf_cat, cat_i, cat_l]) (by simp [lv_args, vsL, va_rf_cat, cat_i, cat_l]) (fun Γ => ?_)
  obtain ⟨o, ho⟩ : ∃ o : Int32 × PH, o = (x, h1) := ⟨_, rfl⟩
  rw [← ho] at hf
  have e1 : x = o.1 := by rw [ho]
  have e2 : h1 = o.2 := by rw [ho]
  subst e1 e2
  clear ho
  show PF Γ mi_X0_restart D h0 (QR Γ D h0 (ovi o.1) o.2) h0 0 [some (va_rf p0), some (.int p1), some (va_rf p2), none] []
  unfold f_X0_restart at hf
  refine j_aload_n 2 dX0_restart_0 rfl rfl ?_
  refine j_iconst (0 : Int32) dX0_restart_1 (by decide) ?_
  refine j_aload_n 0 dX0_restart_2 rfl rfl ?_
  refine j_iload_n 1 dX0_restart_3 rfl rfl ?_
  refine kc_X0_32 rfl rfl rfl (by simp [va_rf_cat, cat_i, cat_l]) dX0_restart_4 hf (fun v2 h1 hf => ?_) (fun ci9 q9 h1 fs9 he9 hf => ?_)
  · refine j_if_eq 14 dX0_restart_7 (by decide) hf (fun c_ hf => ?_) (fun c_ hf => ?_)
    · refine j_lconst (0 : Int64) dX0_restart_14 (by decide) ?_
      refine j_weak [none, none, none, none] (Wk.s (Wk.s (Wk.s (Wk.k Wk.n)))) ?_
      exact pf_X0_restart_B15 p2 (0 : Int32) (0 : Int64) h1 hf
    · refine j_lconst (1 : Int64) dX0_restart_10 (by decide) ?_
      refine j_goto 15 dX0_restart_11 (by decide) ?_
      refine j_weak [none, none, none, none] (Wk.s (Wk.s (Wk.s (Wk.k Wk.n)))) ?_
      exact pf_X0_restart_B15 p2 (0 : Int32) (1 : Int64) h1 hf
  · by_cases x21 : ci9 = 24
    · subst x21
      replace hf := if_t hf rfl
      obtain ⟨hb9, hf⟩ := if_none hf
      refine j_catch (ci := 24) [] ⟨0, 16, 19, 21⟩ [] rfl (fun _ h => absurd h List.not_mem_nil) rfl (by decide) q1721 q1750 hb9 he9 ?_
      refine j_astore_n 3 [some (va_rf p0), some (.int p1), some (va_rf p2), some (va_rf (some q9))] dX0_restart_19 rfl (cz (va_rf_cat _)) rfl rfl ?_
      refine j_iconst (1 : Int32) dX0_restart_20 (by decide) ?_
      have e9 := Option.some.inj hf
      subst e9
      exact j_iret rfl dX0_restart_21
    · replace hf := if_f hf x21
      cases hf
theorem kc_X0_36 {Γ : GX} {I : MI} {D : va_G} {h0 : PH} {Q : State → Prop} {h : PH} {pc : Nat} {vs : List (Option Value)} {rest : List Value} {β : Type} {o : β} {r : Option Nat} {p0 : Int32} {p1 : Int32} {K : (((Nat × Nat) ⊕ Int32) → PH → Option β)} (hI : I.2.2.1 = RX0) (hfr : Nat.ble 8 I.2.2.2.2.2.1 = true) (hlo : Nat.ble 133 I.2.2.2.2.2.2.1 = true) (hW : (rest.map fun v => v.category).sum ≤ 8) (hd : decode I.1 pc = .ok (.invokevirtual 36, 3)) (hf : rv_ h r 0 (cl_ (f_X1_pause r p0 p1 h) K) = some o) (kk : ∀ (x : Int32) (h1 : PH), K (.inr x) h1 = some o → PF Γ I D h0 Q h1 (pc + 3) vs (.int x :: rest)) (kx : ∀ (ci q : Nat) (h1 : PH) (fs : List Value), h1.1 q = some (.inr (ci, fs)) → K (.inl (ci, q)) h1 = some o → PX Γ I D h0 Q h1 pc vs q) : PF Γ I D h0 Q h pc vs (.int p1 :: .int p0 :: va_rf r :: rest) := by
  obtain ⟨cc, nL, own, rt, xt, fr, lo, nm⟩ := I
  cases hI
  exact j_xVi (n := 2) (y := yX1_pause) (cc2 := cX1_pause) (As := [.int p0, .int p1]) (C := RX1) (ci := 0) rfl (lw_V q1805 q1806 q1807 q90 q1808) hyV_X1_pause hfr hlo rfl hW hd (c_X1_pause r p0 p1) hf _ rfl kk kx
abbrev mi_X0_pause : MI := (cX0_pause, 5, RX0, (Option.some FieldType.int), tableOf [(0, 10, 13, 21), (0, 10, 17, 13)], 8, 133, "pause")
def f_X0_pause (p0 : Option Nat) (p1 : Int32) (p2 : Int32) (p3 : Option Nat) (h0 : PH) : Option (Int32 × PH) := rv_ h0 p0 0 (cl_ (f_X1_pause p0 p1 p2 h0) fun z9 h1 => match z9 with | .inl (ci9, q9) => ((if ci9 = 24 then (if pbase h1 ≤ q9 then (some ((1 : Int32), h1)) else none) else (if ci9 = 20 then (if pbase h1 ≤ q9 then (some ((2 : Int32), h1)) else none) else none))) | .inr v2 => (sL h1 p3 2 (0 : Int32) (v2.toInt64) fun h3 => some ((0 : Int32), h3)))
theorem hyS_X0_pause : yX0_pause.cls ≠ "java/lang/invoke/MethodHandle" ∧ yX0_pause.cls ≠ "java/lang/invoke/VarHandle" ∧ (parseMethodDescriptor yX0_pause.desc).map (fun d => d.parameters.length) = some 4 := by decide +kernel
theorem c_X0_pause {D : va_G} (p0 : Option Nat) (p1 : Int32) (p2 : Int32) (p3 : Option Nat) {h0 : PH} (l : Launch) (hl : l.stackTraces = false) (x : Int32) (h1 : PH) (hf : f_X0_pause p0 p1 p2 p3 h0 = some (x, h1)) : CT l D yX0_pause (wsW_ yX0_pause cX0_pause 5 (Option.some FieldType.int) [(0, 10, 13, 21), (0, 10, 17, 13)]) 8 133 [va_rf p0, .int p1, .int p2, va_rf p3] h0 (ovi x) h1 := by
  refine ct_ofH hl [some (va_rf p0), some (.int p1), some (.int p2), some (va_rf p3), none] (by decide) (by rw [lgl]; simp [va_rf_cat, cat_i, cat_l]) (by simp [lv_args, vsL, va_rf_cat, cat_i, cat_l]) (fun Γ => ?_)
  obtain ⟨o, ho⟩ : ∃ o : Int32 × PH, o = (x, h1) := ⟨_, rfl⟩
  rw [← ho] at hf
  have e1 : x = o.1 := by rw [ho]
  have e2 : h1 = o.2 := by rw [ho]
  subst e1 e2
  clear ho
  show PF Γ mi_X0_pause D h0 (QR Γ D h0 (ovi o.1) o.2) h0 0 [some (va_rf p0), some (.int p1), some (.int p2), some (va_rf p3), none] []
  unfold f_X0_pause at hf
  refine j_aload_n 3 dX0_pause_0 rfl rfl ?_
  refine j_iconst (0 : Int32) dX0_pause_1 (by decide) ?_
  refine j_aload_n 0 dX0_pause_2 rfl rfl ?_
  refine j_iload_n 1 dX0_pause_3 rfl rfl ?_
  refine j_iload_n 2 dX0_pause_4 rfl rfl ?_
  refine kc_X0_36 rfl rfl rfl (by simp [va_rf_cat, cat_i, cat_l]) dX0_pause_5 hf (fun v2 h1 hf => ?_) (fun ci9 q9 h1 fs9 he9 hf => ?_)
  · refine j_i2l dX0_pause_8 ?_
    refine j_last dX0_pause_9 hf (fun h3 hf => ?_)
    refine j_goto 21 dX0_pause_10 (by decide) ?_
    refine j_iconst (0 : Int32) dX0_pause_21 (by decide) ?_
    have e9 := Option.some.inj hf
    subst e9
    exact j_iret rfl dX0_pause_22
  · by_cases x21 : ci9 = 24
    · subst x21
      replace hf := if_t hf rfl
      obtain ⟨hb9, hf⟩ := if_none hf
      refine j_catch (ci := 24) [] ⟨0, 10, 13, 21⟩ [⟨0, 10, 17, 13⟩] rfl (fun _ h => absurd h List.not_mem_nil) rfl (by decide) q1721 q1750 hb9 he9 ?_
      refine j_astore [some (va_rf p0), some (.int p1), some (.int p2), some (va_rf p3), some (va_rf (some q9))] dX0_pause_13 (cz (va_rf_cat _)) rfl rfl ?_
      refine j_iconst (1 : Int32) dX0_pause_15 (by decide) ?_
      have e9 := Option.some.inj hf
      subst e9
      exact j_iret rfl dX0_pause_16
    · replace hf := if_f hf x21
      by_cases x13 : ci9 = 20
      · subst x13
        replace hf := if_t hf rfl
        obtain ⟨hb9, hf⟩ := if_none hf
        refine j_catch (ci := 20) [⟨0, 10, 13, 21⟩] ⟨0, 10, 17, 13⟩ [] rfl (List.forall_mem_cons.mpr ⟨Or.inr ⟨by decide, _, q1721, by decide +kernel⟩, fun _ h => absurd h List.not_mem_nil⟩) rfl (by decide) q1689 q187 hb9 he9 ?_
        refine j_astore [some (va_rf p0), some (.int p1), some (.int p2), some (va_rf p3), some (va_rf (some q9))] dX0_pause_17 (cz (va_rf_cat _)) rfl rfl ?_
        refine j_iconst (2 : Int32) dX0_pause_19 (by decide) ?_
        have e9 := Option.some.inj hf
        subst e9
        exact j_iret rfl dX0_pause_20
      · replace hf := if_f hf x13
        cases hf
theorem kc_X0_40 {Γ : GX} {I : MI} {D : va_G} {h0 : PH} {Q : State → Prop} {h : PH} {pc : Nat} {vs : List (Option Value)} {rest : List Value} {β : Type} {o : β} {r : Option Nat} {p0 : Int32} {p1 : Int32} {K : (((Nat × Nat) ⊕ Int32) → PH → Option β)} (hI : I.2.2.1 = RX0) (hfr : Nat.ble 8 I.2.2.2.2.2.1 = true) (hlo : Nat.ble 134 I.2.2.2.2.2.2.1 = true) (hW : (rest.map fun v => v.category).sum ≤ 8) (hd : decode I.1 pc = .ok (.invokevirtual 40, 3)) (hf : rv_ h r 0 (cl_ (f_X1_setCut r p0 p1 h) K) = some o) (kk : ∀ (x : Int32) (h1 : PH), K (.inr x) h1 = some o → PF Γ I D h0 Q h1 (pc + 3) vs (.int x :: rest)) (kx : ∀ (ci q : Nat) (h1 : PH) (fs : List Value), h1.1 q = some (.inr (ci, fs)) → K (.inl (ci, q)) h1 = some o → PX Γ I D h0 Q h1 pc vs q) : PF Γ I D h0 Q h pc vs (.int p1 :: .int p0 :: va_rf r :: rest) := by
  obtain ⟨cc, nL, own, rt, xt, fr, lo, nm⟩ := I
  cases hI
  exact j_xVi (n := 2) (y := yX1_setCut) (cc2 := cX1_setCut) (As := [.int p0, .int p1]) (C := RX1) (ci := 0) rfl (lw_V q1813 q1814 q1815 q90 q1816) hyV_X1_setCut hfr hlo rfl hW hd (c_X1_setCut r p0 p1) hf _ rfl kk kx
abbrev mi_X0_setCut : MI := (cX0_setCut, 5, RX0, (Option.some FieldType.int), tableOf [(0, 17, 20, 21)], 8, 134, "setCut")
def f_X0_setCut_B16 (t0 : Option Nat) (t1 : Int32) (t2 : Int64) (h : PH) : Option (Int32 × PH) := sL h t0 2 t1 t2 fun h3 => some ((0 : Int32), h3)
theorem pf_X0_setCut_B16 {Γ : GX} {D : va_G} {h0 : PH} {o : Int32 × PH} (t0 : Option Nat) (t1 : Int32) (t2 : Int64) (h : PH) (hf : f_X0_setCut_B16 t0 t1 t2 h = some o) : PF Γ mi_X0_setCut D h0 (QR Γ D h0 (ovi o.1) o.2) h 16 [none, none, none, none, none] [.long t2, .int t1, va_rf t0] := by
  refine j_last dX0_setCut_16 hf (fun h3 hf => ?_)
  refine j_goto 24 dX0_setCut_17 (by decide) ?_
  refine j_iconst (0 : Int32) dX0_setCut_24 (by decide) ?_
  have e9 := Option.some.inj hf
  subst e9
  exact j_iret rfl dX0_setCut_25
def f_X0_setCut (p0 : Option Nat) (p1 : Int32) (p2 : Int32) (p3 : Option Nat) (h0 : PH) : Option (Int32 × PH) := rv_ h0 p0 0 (cl_ (f_X1_setCut p0 p1 p2 h0) fun z9 h1 => match z9 with | .inl (ci9, q9) => ((if ci9 = 24 then (if pbase h1 ≤ q9 then (some ((1 : Int32), h1)) else none) else none)) | .inr v2 => ((if v2 = 0 then (f_X0_setCut_B16 p3 (0 : Int32) (0 : Int64) h1) else (f_X0_setCut_B16 p3 (0 : Int32) (1 : Int64) h1))))
theorem hyS_X0_setCut : yX0_setCut.cls ≠ "java/lang/invoke/MethodHandle" ∧ yX0_setCut.cls ≠ "java/lang/invoke/VarHandle" ∧ (parseMethodDescriptor yX0_setCut.desc).map (fun d => d.parameters.length) = some 4 := by decide +kernel
theorem c_X0_setCut {D : va_G} (p0 : Option Nat) (p1 : Int32) (p2 : Int32) (p3 : Option Nat) {h0 : PH} (l : Launch) (hl : l.stackTraces = false) (x : Int32) (h1 : PH) (hf : f_X0_setCut p0 p1 p2 p3 h0 = some (x, h1)) : CT l D yX0_setCut (wsW_ yX0_setCut cX0_setCut 5 (Option.some FieldType.int) [(0, 17, 20, 21)]) 8 134 [va_rf p0, .int p1, .int p2, va_rf p3] h0 (ovi x) h1 := by
  refine ct_ofH hl [some (va_rf p0), some (.int p1), some (.int p2), some (va_rf p3), none] (by decide) (by rw [lgl]; simp [va_rf_cat, cat_i, cat_l]) (by simp [lv_args, vsL, va_rf_cat, cat_i, cat_l]) (fun Γ => ?_)
  obtain ⟨o, ho⟩ : ∃ o : Int32 × PH, o = (x, h1) := ⟨_, rfl⟩
  rw [← ho] at hf
  have e1 : x = o.1 := by rw [ho]
  have e2 : h1 = o.2 := by rw [ho]
  subst e1 e2
  clear ho
  show PF Γ mi_X0_setCut D h0 (QR Γ D h0 (ovi o.1) o.2) h0 0 [some (va_rf p0), some (.int p1), some (.int p2), some (va_rf p3), none] []
  unfold f_X0_setCut at hf
  refine j_aload_n 3 dX0_setCut_0 rfl rfl ?_
  refine j_iconst (0 : Int32) dX0_setCut_1 (by decide) ?_
  refine j_aload_n 0 dX0_setCut_2 rfl rfl ?_
  refine j_iload_n 1 dX0_setCut_3 rfl rfl ?_
  refine j_iload_n 2 dX0_setCut_4 rfl rfl ?_
  refine kc_X0_40 rfl rfl rfl (by simp [va_rf_cat, cat_i, cat_l]) dX0_setCut_5 hf (fun v2 h1 hf => ?_) (fun ci9 q9 h1 fs9 he9 hf => ?_)
  · refine j_if_eq 15 dX0_setCut_8 (by decide) hf (fun c_ hf => ?_) (fun c_ hf => ?_)
    · refine j_lconst (0 : Int64) dX0_setCut_15 (by decide) ?_
      refine j_weak [none, none, none, none, none] (Wk.s (Wk.s (Wk.s (Wk.s (Wk.k Wk.n))))) ?_
      exact pf_X0_setCut_B16 p3 (0 : Int32) (0 : Int64) h1 hf
    · refine j_lconst (1 : Int64) dX0_setCut_11 (by decide) ?_
      refine j_goto 16 dX0_setCut_12 (by decide) ?_
      refine j_weak [none, none, none, none, none] (Wk.s (Wk.s (Wk.s (Wk.s (Wk.k Wk.n))))) ?_
      exact pf_X0_setCut_B16 p3 (0 : Int32) (1 : Int64) h1 hf
  · by_cases x21 : ci9 = 24
    · subst x21
      replace hf := if_t hf rfl
      obtain ⟨hb9, hf⟩ := if_none hf
      refine j_catch (ci := 24) [] ⟨0, 17, 20, 21⟩ [] rfl (fun _ h => absurd h List.not_mem_nil) rfl (by decide) q1721 q1750 hb9 he9 ?_
      refine j_astore [some (va_rf p0), some (.int p1), some (.int p2), some (va_rf p3), some (va_rf (some q9))] dX0_setCut_20 (cz (va_rf_cat _)) rfl rfl ?_
      refine j_iconst (1 : Int32) dX0_setCut_22 (by decide) ?_
      have e9 := Option.some.inj hf
      subst e9
      exact j_iret rfl dX0_setCut_23
    · replace hf := if_f hf x21
      cases hf
theorem kc_X0_44 {Γ : GX} {I : MI} {D : va_G} {h0 : PH} {Q : State → Prop} {h : PH} {pc : Nat} {vs : List (Option Value)} {rest : List Value} {β : Type} {o : β} {r : Option Nat} {p0 : Int32} {p1 : Int32} {p2 : Int32} {K : (((Nat × Nat) ⊕ Int32) → PH → Option β)} (hI : I.2.2.1 = RX0) (hfr : Nat.ble 8 I.2.2.2.2.2.1 = true) (hlo : Nat.ble 215 I.2.2.2.2.2.2.1 = true) (hW : (rest.map fun v => v.category).sum ≤ 8) (hd : decode I.1 pc = .ok (.invokevirtual 44, 3)) (hf : rv_ h r 0 (cl_ (f_X1_planOutage r p0 p1 p2 h) K) = some o) (kk : ∀ (x : Int32) (h1 : PH), K (.inr x) h1 = some o → PF Γ I D h0 Q h1 (pc + 3) vs (.int x :: rest)) (kx : ∀ (ci q : Nat) (h1 : PH) (fs : List Value), h1.1 q = some (.inr (ci, fs)) → K (.inl (ci, q)) h1 = some o → PX Γ I D h0 Q h1 pc vs q) : PF Γ I D h0 Q h pc vs (.int p2 :: .int p1 :: .int p0 :: va_rf r :: rest) := by
  obtain ⟨cc, nL, own, rt, xt, fr, lo, nm⟩ := I
  cases hI
  exact j_xVi (n := 3) (y := yX1_planOutage) (cc2 := cX1_planOutage) (As := [.int p0, .int p1, .int p2]) (C := RX1) (ci := 0) rfl (lw_V q1820 q1821 q1822 q90 q1823) hyV_X1_planOutage hfr hlo rfl hW hd (c_X1_planOutage r p0 p1 p2) hf _ rfl kk kx
abbrev mi_X0_planOutage : MI := (cX0_planOutage, 6, RX0, (Option.some FieldType.int), tableOf [(0, 12, 15, 21), (0, 12, 19, 13)], 8, 215, "planOutage")
def f_X0_planOutage (p0 : Option Nat) (p1 : Int32) (p2 : Int32) (p3 : Int32) (p4 : Option Nat) (h0 : PH) : Option (Int32 × PH) := rv_ h0 p0 0 (cl_ (f_X1_planOutage p0 p1 p2 p3 h0) fun z9 h1 => match z9 with | .inl (ci9, q9) => ((if ci9 = 24 then (if pbase h1 ≤ q9 then (some ((1 : Int32), h1)) else none) else (if ci9 = 20 then (if pbase h1 ≤ q9 then (some ((2 : Int32), h1)) else none) else none))) | .inr v2 => (sL h1 p4 2 (0 : Int32) (v2.toInt64) fun h3 => some ((0 : Int32), h3)))
theorem hyS_X0_planOutage : yX0_planOutage.cls ≠ "java/lang/invoke/MethodHandle" ∧ yX0_planOutage.cls ≠ "java/lang/invoke/VarHandle" ∧ (parseMethodDescriptor yX0_planOutage.desc).map (fun d => d.parameters.length) = some 5 := by decide +kernel
theorem c_X0_planOutage {D : va_G} (p0 : Option Nat) (p1 : Int32) (p2 : Int32) (p3 : Int32) (p4 : Option Nat) {h0 : PH} (l : Launch) (hl : l.stackTraces = false) (x : Int32) (h1 : PH) (hf : f_X0_planOutage p0 p1 p2 p3 p4 h0 = some (x, h1)) : CT l D yX0_planOutage (wsW_ yX0_planOutage cX0_planOutage 6 (Option.some FieldType.int) [(0, 12, 15, 21), (0, 12, 19, 13)]) 8 215 [va_rf p0, .int p1, .int p2, .int p3, va_rf p4] h0 (ovi x) h1 := by
  refine ct_ofH hl [some (va_rf p0), some (.int p1), some (.int p2), some (.int p3), some (va_rf p4), none] (by decide) (by rw [lgl]; simp [va_rf_cat, cat_i, cat_l]) (by simp [lv_args, vsL, va_rf_cat, cat_i, cat_l]) (fun Γ => ?_)
  obtain ⟨o, ho⟩ : ∃ o : Int32 × PH, o = (x, h1) := ⟨_, rfl⟩
  rw [← ho] at hf
  have e1 : x = o.1 := by rw [ho]
  have e2 : h1 = o.2 := by rw [ho]
  subst e1 e2
  clear ho
  show PF Γ mi_X0_planOutage D h0 (QR Γ D h0 (ovi o.1) o.2) h0 0 [some (va_rf p0), some (.int p1), some (.int p2), some (.int p3), some (va_rf p4), none] []
  unfold f_X0_planOutage at hf
  refine j_aload dX0_planOutage_0 rfl ?_
  refine j_iconst (0 : Int32) dX0_planOutage_2 (by decide) ?_
  refine j_aload_n 0 dX0_planOutage_3 rfl rfl ?_
  refine j_iload_n 1 dX0_planOutage_4 rfl rfl ?_
  refine j_iload_n 2 dX0_planOutage_5 rfl rfl ?_
  refine j_iload_n 3 dX0_planOutage_6 rfl rfl ?_
  refine kc_X0_44 rfl rfl rfl (by simp [va_rf_cat, cat_i, cat_l]) dX0_planOutage_7 hf (fun v2 h1 hf => ?_) (fun ci9 q9 h1 fs9 he9 hf => ?_)
  · refine j_i2l dX0_planOutage_10 ?_
    refine j_last dX0_planOutage_11 hf (fun h3 hf => ?_)
    refine j_goto 23 dX0_planOutage_12 (by decide) ?_
    refine j_iconst (0 : Int32) dX0_planOutage_23 (by decide) ?_
    have e9 := Option.some.inj hf
    subst e9
    exact j_iret rfl dX0_planOutage_24
  · by_cases x21 : ci9 = 24
    · subst x21
      replace hf := if_t hf rfl
      obtain ⟨hb9, hf⟩ := if_none hf
      refine j_catch (ci := 24) [] ⟨0, 12, 15, 21⟩ [⟨0, 12, 19, 13⟩] rfl (fun _ h => absurd h List.not_mem_nil) rfl (by decide) q1721 q1750 hb9 he9 ?_
      refine j_astore [some (va_rf p0), some (.int p1), some (.int p2), some (.int p3), some (va_rf p4), some (va_rf (some q9))] dX0_planOutage_15 (cz (va_rf_cat _)) rfl rfl ?_
      refine j_iconst (1 : Int32) dX0_planOutage_17 (by decide) ?_
      have e9 := Option.some.inj hf
      subst e9
      exact j_iret rfl dX0_planOutage_18
    · replace hf := if_f hf x21
      by_cases x13 : ci9 = 20
      · subst x13
        replace hf := if_t hf rfl
        obtain ⟨hb9, hf⟩ := if_none hf
        refine j_catch (ci := 20) [⟨0, 12, 15, 21⟩] ⟨0, 12, 19, 13⟩ [] rfl (List.forall_mem_cons.mpr ⟨Or.inr ⟨by decide, _, q1721, by decide +kernel⟩, fun _ h => absurd h List.not_mem_nil⟩) rfl (by decide) q1689 q187 hb9 he9 ?_
        refine j_astore [some (va_rf p0), some (.int p1), some (.int p2), some (.int p3), some (va_rf p4), some (va_rf (some q9))] dX0_planOutage_19 (cz (va_rf_cat _)) rfl rfl ?_
        refine j_iconst (2 : Int32) dX0_planOutage_21 (by decide) ?_
        have e9 := Option.some.inj hf
        subst e9
        exact j_iret rfl dX0_planOutage_22
      · replace hf := if_f hf x13
        cases hf
theorem kc_X0_48 {Γ : GX} {I : MI} {D : va_G} {h0 : PH} {Q : State → Prop} {h : PH} {pc : Nat} {vs : List (Option Value)} {rest : List Value} {β : Type} {o : β} {r : Option Nat} {p0 : Int32} {p1 : Int32} {p2 : Int32} {K : (((Nat × Nat) ⊕ Int32) → PH → Option β)} (hI : I.2.2.1 = RX0) (hfr : Nat.ble 9 I.2.2.2.2.2.1 = true) (hlo : Nat.ble 240 I.2.2.2.2.2.2.1 = true) (hW : (rest.map fun v => v.category).sum ≤ 8) (hd : decode I.1 pc = .ok (.invokevirtual 48, 3)) (hf : rv_ h r 0 (cl_ (f_X1_write r p0 p1 p2 h) K) = some o) (kk : ∀ (x : Int32) (h1 : PH), K (.inr x) h1 = some o → PF Γ I D h0 Q h1 (pc + 3) vs (.int x :: rest)) (kx : ∀ (ci q : Nat) (h1 : PH) (fs : List Value), h1.1 q = some (.inr (ci, fs)) → K (.inl (ci, q)) h1 = some o → PX Γ I D h0 Q h1 pc vs q) : PF Γ I D h0 Q h pc vs (.int p2 :: .int p1 :: .int p0 :: va_rf r :: rest) := by
  obtain ⟨cc, nL, own, rt, xt, fr, lo, nm⟩ := I
  cases hI
  exact j_xVi (n := 3) (y := yX1_write) (cc2 := cX1_write) (As := [.int p0, .int p1, .int p2]) (C := RX1) (ci := 0) rfl (lw_V q1846 q1847 q1848 q90 q1849) hyV_X1_write hfr hlo rfl hW hd (c_X1_write r p0 p1 p2) hf _ rfl kk kx
abbrev mi_X0_write : MI := (cX0_write, 6, RX0, (Option.some FieldType.int), tableOf [(0, 12, 15, 21), (0, 12, 19, 13)], 9, 240, "write")
def f_X0_write (p0 : Option Nat) (p1 : Int32) (p2 : Int32) (p3 : Int32) (p4 : Option Nat) (h0 : PH) : Option (Int32 × PH) := rv_ h0 p0 0 (cl_ (f_X1_write p0 p1 p2 p3 h0) fun z9 h1 => match z9 with | .inl (ci9, q9) => ((if ci9 = 24 then (if pbase h1 ≤ q9 then (some ((1 : Int32), h1)) else none) else (if ci9 = 20 then (if pbase h1 ≤ q9 then (some ((2 : Int32), h1)) else none) else none))) | .inr v2 => (sL h1 p4 2 (0 : Int32) (v2.toInt64) fun h3 => some ((0 : Int32), h3)))
theorem hyS_X0_write : yX0_write.cls ≠ "java/lang/invoke/MethodHandle" ∧ yX0_write.cls ≠ "java/lang/invoke/VarHandle" ∧ (parseMethodDescriptor yX0_write.desc).map (fun d => d.parameters.length) = some 5 := by decide +kernel
theorem c_X0_write {D : va_G} (p0 : Option Nat) (p1 : Int32) (p2 : Int32) (p3 : Int32) (p4 : Option Nat) {h0 : PH} (l : Launch) (hl : l.stackTraces = false) (x : Int32) (h1 : PH) (hf : f_X0_write p0 p1 p2 p3 p4 h0 = some (x, h1)) : CT l D yX0_write (wsW_ yX0_write cX0_write 6 (Option.some FieldType.int) [(0, 12, 15, 21), (0, 12, 19, 13)]) 9 240 [va_rf p0, .int p1, .int p2, .int p3, va_rf p4] h0 (ovi x) h1 := by
  refine ct_ofH hl [some (va_rf p0), some (.int p1), some (.int p2), some (.int p3), some (va_rf p4), none] (by decide) (by rw [lgl]; simp [va_rf_cat, cat_i, cat_l]) (by simp [lv_args, vsL, va_rf_cat, cat_i, cat_l]) (fun Γ => ?_)
  obtain ⟨o, ho⟩ : ∃ o : Int32 × PH, o = (x, h1) := ⟨_, rfl⟩
  rw [← ho] at hf
  have e1 : x = o.1 := by rw [ho]
  have e2 : h1 = o.2 := by rw [ho]
  subst e1 e2
  clear ho
  show PF Γ mi_X0_write D h0 (QR Γ D h0 (ovi o.1) o.2) h0 0 [some (va_rf p0), some (.int p1), some (.int p2), some (.int p3), some (va_rf p4), none] []
  unfold f_X0_write at hf
  refine j_aload dX0_write_0 rfl ?_
  refine j_iconst (0 : Int32) dX0_write_2 (by decide) ?_
  refine j_aload_n 0 dX0_write_3 rfl rfl ?_
  refine j_iload_n 1 dX0_write_4 rfl rfl ?_
  refine j_iload_n 2 dX0_write_5 rfl rfl ?_
  refine j_iload_n 3 dX0_write_6 rfl rfl ?_
  refine kc_X0_48 rfl rfl rfl (by simp [va_rf_cat, cat_i, cat_l]) dX0_write_7 hf (fun v2 h1 hf => ?_) (fun ci9 q9 h1 fs9 he9 hf => ?_)
  · refine j_i2l dX0_write_10 ?_
    refine j_last dX0_write_11 hf (fun h3 hf => ?_)
    refine j_goto 23 dX0_write_12 (by decide) ?_
    refine j_iconst (0 : Int32) dX0_write_23 (by decide) ?_
    have e9 := Option.some.inj hf
    subst e9
    exact j_iret rfl dX0_write_24
  · by_cases x21 : ci9 = 24
    · subst x21
      replace hf := if_t hf rfl
      obtain ⟨hb9, hf⟩ := if_none hf
      refine j_catch (ci := 24) [] ⟨0, 12, 15, 21⟩ [⟨0, 12, 19, 13⟩] rfl (fun _ h => absurd h List.not_mem_nil) rfl (by decide) q1721 q1750 hb9 he9 ?_
      refine j_astore [some (va_rf p0), some (.int p1), some (.int p2), some (.int p3), some (va_rf p4), some (va_rf (some q9))] dX0_write_15 (cz (va_rf_cat _)) rfl rfl ?_
      refine j_iconst (1 : Int32) dX0_write_17 (by decide) ?_
      have e9 := Option.some.inj hf
      subst e9
      exact j_iret rfl dX0_write_18
    · replace hf := if_f hf x21
      by_cases x13 : ci9 = 20
      · subst x13
        replace hf := if_t hf rfl
        obtain ⟨hb9, hf⟩ := if_none hf
        refine j_catch (ci := 20) [⟨0, 12, 15, 21⟩] ⟨0, 12, 19, 13⟩ [] rfl (List.forall_mem_cons.mpr ⟨Or.inr ⟨by decide, _, q1721, by decide +kernel⟩, fun _ h => absurd h List.not_mem_nil⟩) rfl (by decide) q1689 q187 hb9 he9 ?_
        refine j_astore [some (va_rf p0), some (.int p1), some (.int p2), some (.int p3), some (va_rf p4), some (va_rf (some q9))] dX0_write_19 (cz (va_rf_cat _)) rfl rfl ?_
        refine j_iconst (2 : Int32) dX0_write_21 (by decide) ?_
        have e9 := Option.some.inj hf
        subst e9
        exact j_iret rfl dX0_write_22
      · replace hf := if_f hf x13
        cases hf
theorem kc_X0_51 {Γ : GX} {I : MI} {D : va_G} {h0 : PH} {Q : State → Prop} {h : PH} {pc : Nat} {vs : List (Option Value)} {rest : List Value} {β : Type} {o : β} {r : Option Nat} {p0 : Int32} {p1 : Int32} {p2 : Int32} {p3 : Int32} {K : (((Nat × Nat) ⊕ Int32) → PH → Option β)} (hI : I.2.2.1 = RX0) (hfr : Nat.ble 9 I.2.2.2.2.2.1 = true) (hlo : Nat.ble 216 I.2.2.2.2.2.2.1 = true) (hW : (rest.map fun v => v.category).sum ≤ 8) (hd : decode I.1 pc = .ok (.invokevirtual 51, 3)) (hf : rv_ h r 0 (cl_ (f_X1_writeLater r p0 p1 p2 p3 h) K) = some o) (kk : ∀ (x : Int32) (h1 : PH), K (.inr x) h1 = some o → PF Γ I D h0 Q h1 (pc + 3) vs (.int x :: rest)) (kx : ∀ (ci q : Nat) (h1 : PH) (fs : List Value), h1.1 q = some (.inr (ci, fs)) → K (.inl (ci, q)) h1 = some o → PX Γ I D h0 Q h1 pc vs q) : PF Γ I D h0 Q h pc vs (.int p3 :: .int p2 :: .int p1 :: .int p0 :: va_rf r :: rest) := by
  obtain ⟨cc, nL, own, rt, xt, fr, lo, nm⟩ := I
  cases hI
  exact j_xVi (n := 4) (y := yX1_writeLater) (cc2 := cX1_writeLater) (As := [.int p0, .int p1, .int p2, .int p3]) (C := RX1) (ci := 0) rfl (lw_V q1864 q1865 q1866 q90 q1867) hyV_X1_writeLater hfr hlo rfl hW hd (c_X1_writeLater r p0 p1 p2 p3) hf _ rfl kk kx
abbrev mi_X0_writeLater : MI := (cX0_writeLater, 7, RX0, (Option.some FieldType.int), tableOf [(0, 14, 17, 21), (0, 14, 21, 13)], 9, 216, "writeLater")
def f_X0_writeLater (p0 : Option Nat) (p1 : Int32) (p2 : Int32) (p3 : Int32) (p4 : Int32) (p5 : Option Nat) (h0 : PH) : Option (Int32 × PH) := rv_ h0 p0 0 (cl_ (f_X1_writeLater p0 p1 p2 p3 p4 h0) fun z9 h1 => match z9 with | .inl (ci9, q9) => ((if ci9 = 24 then (if pbase h1 ≤ q9 then (some ((1 : Int32), h1)) else none) else (if ci9 = 20 then (if pbase h1 ≤ q9 then (some ((2 : Int32), h1)) else none) else none))) | .inr v2 => (sL h1 p5 2 (0 : Int32) (v2.toInt64) fun h3 => some ((0 : Int32), h3)))
theorem hyS_X0_writeLater : yX0_writeLater.cls ≠ "java/lang/invoke/MethodHandle" ∧ yX0_writeLater.cls ≠ "java/lang/invoke/VarHandle" ∧ (parseMethodDescriptor yX0_writeLater.desc).map (fun d => d.parameters.length) = some 6 := by decide +kernel
theorem c_X0_writeLater {D : va_G} (p0 : Option Nat) (p1 : Int32) (p2 : Int32) (p3 : Int32) (p4 : Int32) (p5 : Option Nat) {h0 : PH} (l : Launch) (hl : l.stackTraces = false) (x : Int32) (h1 : PH) (hf : f_X0_writeLater p0 p1 p2 p3 p4 p5 h0 = some (x, h1)) : CT l D yX0_writeLater (wsW_ yX0_writeLater cX0_writeLater 7 (Option.some FieldType.int) [(0, 14, 17, 21), (0, 14, 21, 13)]) 9 216 [va_rf p0, .int p1, .int p2, .int p3, .int p4, va_rf p5] h0 (ovi x) h1 := by
  refine ct_ofH hl [some (va_rf p0), some (.int p1), some (.int p2), some (.int p3), some (.int p4), some (va_rf p5), none] (by decide) (by rw [lgl]; simp [va_rf_cat, cat_i, cat_l]) (by simp [lv_args, vsL, va_rf_cat, cat_i, cat_l]) (fun Γ => ?_)
  obtain ⟨o, ho⟩ : ∃ o : Int32 × PH, o = (x, h1) := ⟨_, rfl⟩
  rw [← ho] at hf
  have e1 : x = o.1 := by rw [ho]
  have e2 : h1 = o.2 := by rw [ho]
  subst e1 e2
  clear ho
  show PF Γ mi_X0_writeLater D h0 (QR Γ D h0 (ovi o.1) o.2) h0 0 [some (va_rf p0), some (.int p1), some (.int p2), some (.int p3), some (.int p4), some (va_rf p5), none] []
  unfold f_X0_writeLater at hf
  refine j_aload dX0_writeLater_0 rfl ?_
  refine j_iconst (0 : Int32) dX0_writeLater_2 (by decide) ?_
  refine j_aload_n 0 dX0_writeLater_3 rfl rfl ?_
  refine j_iload_n 1 dX0_writeLater_4 rfl rfl ?_
  refine j_iload_n 2 dX0_writeLater_5 rfl rfl ?_
  refine j_iload_n 3 dX0_writeLater_6 rfl rfl ?_
  refine j_iload dX0_writeLater_7 rfl ?_
  refine kc_X0_51 rfl rfl rfl (by simp [va_rf_cat, cat_i, cat_l]) dX0_writeLater_9 hf (fun v2 h1 hf => ?_) (fun ci9 q9 h1 fs9 he9 hf => ?_)
  · refine j_i2l dX0_writeLater_12 ?_
    refine j_last dX0_writeLater_13 hf (fun h3 hf => ?_)
    refine j_goto 25 dX0_writeLater_14 (by decide) ?_
    refine j_iconst (0 : Int32) dX0_writeLater_25 (by decide) ?_
    have e9 := Option.some.inj hf
    subst e9
    exact j_iret rfl dX0_writeLater_26
  · by_cases x21 : ci9 = 24
    · subst x21
      replace hf := if_t hf rfl
      obtain ⟨hb9, hf⟩ := if_none hf
      refine j_catch (ci := 24) [] ⟨0, 14, 17, 21⟩ [⟨0, 14, 21, 13⟩] rfl (fun _ h => absurd h List.not_mem_nil) rfl (by decide) q1721 q1750 hb9 he9 ?_
      refine j_astore [some (va_rf p0), some (.int p1), some (.int p2), some (.int p3), some (.int p4), some (va_rf p5), some (va_rf (some q9))] dX0_writeLater_17 (cz (va_rf_cat _)) rfl rfl ?_
      refine j_iconst (1 : Int32) dX0_writeLater_19 (by decide) ?_
      have e9 := Option.some.inj hf
      subst e9
      exact j_iret rfl dX0_writeLater_20
    · replace hf := if_f hf x21
      by_cases x13 : ci9 = 20
      · subst x13
        replace hf := if_t hf rfl
        obtain ⟨hb9, hf⟩ := if_none hf
        refine j_catch (ci := 20) [⟨0, 14, 17, 21⟩] ⟨0, 14, 21, 13⟩ [] rfl (List.forall_mem_cons.mpr ⟨Or.inr ⟨by decide, _, q1721, by decide +kernel⟩, fun _ h => absurd h List.not_mem_nil⟩) rfl (by decide) q1689 q187 hb9 he9 ?_
        refine j_astore [some (va_rf p0), some (.int p1), some (.int p2), some (.int p3), some (.int p4), some (va_rf p5), some (va_rf (some q9))] dX0_writeLater_21 (cz (va_rf_cat _)) rfl rfl ?_
        refine j_iconst (2 : Int32) dX0_writeLater_23 (by decide) ?_
        have e9 := Option.some.inj hf
        subst e9
        exact j_iret rfl dX0_writeLater_24
      · replace hf := if_f hf x13
        cases hf
theorem kc_X0_55 {Γ : GX} {I : MI} {D : va_G} {h0 : PH} {Q : State → Prop} {h : PH} {pc : Nat} {vs : List (Option Value)} {rest : List Value} {β : Type} {o : β} {r : Option Nat} {p0 : Int32} {p1 : Int32} {K : (((Nat × Nat) ⊕ Int32) → PH → Option β)} (hI : I.2.2.1 = RX0) (hfr : Nat.ble 9 I.2.2.2.2.2.1 = true) (hlo : Nat.ble 239 I.2.2.2.2.2.2.1 = true) (hW : (rest.map fun v => v.category).sum ≤ 8) (hd : decode I.1 pc = .ok (.invokevirtual 55, 3)) (hf : rv_ h r 0 (cl_ (f_X1_fetch r p0 p1 h) K) = some o) (kk : ∀ (x : Int32) (h1 : PH), K (.inr x) h1 = some o → PF Γ I D h0 Q h1 (pc + 3) vs (.int x :: rest)) (kx : ∀ (ci q : Nat) (h1 : PH) (fs : List Value), h1.1 q = some (.inr (ci, fs)) → K (.inl (ci, q)) h1 = some o → PX Γ I D h0 Q h1 pc vs q) : PF Γ I D h0 Q h pc vs (.int p1 :: .int p0 :: va_rf r :: rest) := by
  obtain ⟨cc, nL, own, rt, xt, fr, lo, nm⟩ := I
  cases hI
  exact j_xVi (n := 2) (y := yX1_fetch) (cc2 := cX1_fetch) (As := [.int p0, .int p1]) (C := RX1) (ci := 0) rfl (lw_V q1898 q1899 q1900 q90 q1901) hyV_X1_fetch hfr hlo rfl hW hd (c_X1_fetch r p0 p1) hf _ rfl kk kx
abbrev mi_X0_fetch : MI := (cX0_fetch, 5, RX0, (Option.some FieldType.int), tableOf [(0, 10, 13, 21), (0, 10, 17, 13)], 9, 239, "fetch")
def f_X0_fetch (p0 : Option Nat) (p1 : Int32) (p2 : Int32) (p3 : Option Nat) (h0 : PH) : Option (Int32 × PH) := rv_ h0 p0 0 (cl_ (f_X1_fetch p0 p1 p2 h0) fun z9 h1 => match z9 with | .inl (ci9, q9) => ((if ci9 = 24 then (if pbase h1 ≤ q9 then (some ((1 : Int32), h1)) else none) else (if ci9 = 20 then (if pbase h1 ≤ q9 then (some ((2 : Int32), h1)) else none) else none))) | .inr v2 => (sL h1 p3 2 (0 : Int32) (v2.toInt64) fun h3 => some ((0 : Int32), h3)))
theorem hyS_X0_fetch : yX0_fetch.cls ≠ "java/lang/invoke/MethodHandle" ∧ yX0_fetch.cls ≠ "java/lang/invoke/VarHandle" ∧ (parseMethodDescriptor yX0_fetch.desc).map (fun d => d.parameters.length) = some 4 := by decide +kernel
theorem c_X0_fetch {D : va_G} (p0 : Option Nat) (p1 : Int32) (p2 : Int32) (p3 : Option Nat) {h0 : PH} (l : Launch) (hl : l.stackTraces = false) (x : Int32) (h1 : PH) (hf : f_X0_fetch p0 p1 p2 p3 h0 = some (x, h1)) : CT l D yX0_fetch (wsW_ yX0_fetch cX0_fetch 5 (Option.some FieldType.int) [(0, 10, 13, 21), (0, 10, 17, 13)]) 9 239 [va_rf p0, .int p1, .int p2, va_rf p3] h0 (ovi x) h1 := by
  refine ct_ofH hl [some (va_rf p0), some (.int p1), some (.int p2), some (va_rf p3), none] (by decide) (by rw [lgl]; simp [va_rf_cat, cat_i, cat_l]) (by simp [lv_args, vsL, va_rf_cat, cat_i, cat_l]) (fun Γ => ?_)
  obtain ⟨o, ho⟩ : ∃ o : Int32 × PH, o = (x, h1) := ⟨_, rfl⟩
  rw [← ho] at hf
  have e1 : x = o.1 := by rw [ho]
  have e2 : h1 = o.2 := by rw [ho]
  subst e1 e2
  clear ho
  show PF Γ mi_X0_fetch D h0 (QR Γ D h0 (ovi o.1) o.2) h0 0 [some (va_rf p0), some (.int p1), some (.int p2), some (va_rf p3), none] []
  unfold f_X0_fetch at hf
  refine j_aload_n 3 dX0_fetch_0 rfl rfl ?_
  refine j_iconst (0 : Int32) dX0_fetch_1 (by decide) ?_
  refine j_aload_n 0 dX0_fetch_2 rfl rfl ?_
  refine j_iload_n 1 dX0_fetch_3 rfl rfl ?_
  refine j_iload_n 2 dX0_fetch_4 rfl rfl ?_
  refine kc_X0_55 rfl rfl rfl (by simp [va_rf_cat, cat_i, cat_l]) dX0_fetch_5 hf (fun v2 h1 hf => ?_) (fun ci9 q9 h1 fs9 he9 hf => ?_)
  · refine j_i2l dX0_fetch_8 ?_
    refine j_last dX0_fetch_9 hf (fun h3 hf => ?_)
    refine j_goto 21 dX0_fetch_10 (by decide) ?_
    refine j_iconst (0 : Int32) dX0_fetch_21 (by decide) ?_
    have e9 := Option.some.inj hf
    subst e9
    exact j_iret rfl dX0_fetch_22
  · by_cases x21 : ci9 = 24
    · subst x21
      replace hf := if_t hf rfl
      obtain ⟨hb9, hf⟩ := if_none hf
      refine j_catch (ci := 24) [] ⟨0, 10, 13, 21⟩ [⟨0, 10, 17, 13⟩] rfl (fun _ h => absurd h List.not_mem_nil) rfl (by decide) q1721 q1750 hb9 he9 ?_
      refine j_astore [some (va_rf p0), some (.int p1), some (.int p2), some (va_rf p3), some (va_rf (some q9))] dX0_fetch_13 (cz (va_rf_cat _)) rfl rfl ?_
      refine j_iconst (1 : Int32) dX0_fetch_15 (by decide) ?_
      have e9 := Option.some.inj hf
      subst e9
      exact j_iret rfl dX0_fetch_16
    · replace hf := if_f hf x21
      by_cases x13 : ci9 = 20
      · subst x13
        replace hf := if_t hf rfl
        obtain ⟨hb9, hf⟩ := if_none hf
        refine j_catch (ci := 20) [⟨0, 10, 13, 21⟩] ⟨0, 10, 17, 13⟩ [] rfl (List.forall_mem_cons.mpr ⟨Or.inr ⟨by decide, _, q1721, by decide +kernel⟩, fun _ h => absurd h List.not_mem_nil⟩) rfl (by decide) q1689 q187 hb9 he9 ?_
        refine j_astore [some (va_rf p0), some (.int p1), some (.int p2), some (va_rf p3), some (va_rf (some q9))] dX0_fetch_17 (cz (va_rf_cat _)) rfl rfl ?_
        refine j_iconst (2 : Int32) dX0_fetch_19 (by decide) ?_
        have e9 := Option.some.inj hf
        subst e9
        exact j_iret rfl dX0_fetch_20
      · replace hf := if_f hf x13
        cases hf
theorem kc_X0_58 {Γ : GX} {I : MI} {D : va_G} {h0 : PH} {Q : State → Prop} {h : PH} {pc : Nat} {vs : List (Option Value)} {rest : List Value} {β : Type} {o : β} {r : Option Nat} {p0 : Int32} {p1 : Int32} {K : (((Nat × Nat) ⊕ Int32) → PH → Option β)} (hI : I.2.2.1 = RX0) (hfr : Nat.ble 9 I.2.2.2.2.2.1 = true) (hlo : Nat.ble 152 I.2.2.2.2.2.2.1 = true) (hW : (rest.map fun v => v.category).sum ≤ 8) (hd : decode I.1 pc = .ok (.invokevirtual 58, 3)) (hf : rv_ h r 0 (cl_ (f_X1_read r p0 p1 h) K) = some o) (kk : ∀ (x : Int32) (h1 : PH), K (.inr x) h1 = some o → PF Γ I D h0 Q h1 (pc + 3) vs (.int x :: rest)) (kx : ∀ (ci q : Nat) (h1 : PH) (fs : List Value), h1.1 q = some (.inr (ci, fs)) → K (.inl (ci, q)) h1 = some o → PX Γ I D h0 Q h1 pc vs q) : PF Γ I D h0 Q h pc vs (.int p1 :: .int p0 :: va_rf r :: rest) := by
  obtain ⟨cc, nL, own, rt, xt, fr, lo, nm⟩ := I
  cases hI
  exact j_xVi (n := 2) (y := yX1_read) (cc2 := cX1_read) (As := [.int p0, .int p1]) (C := RX1) (ci := 0) rfl (lw_V q1906 q1907 q1908 q90 q1909) hyV_X1_read hfr hlo rfl hW hd (c_X1_read r p0 p1) hf _ rfl kk kx
abbrev mi_X0_read : MI := (cX0_read, 5, RX0, (Option.some FieldType.int), tableOf [(0, 10, 13, 21), (0, 10, 17, 13)], 9, 152, "read")
def f_X0_read (p0 : Option Nat) (p1 : Int32) (p2 : Int32) (p3 : Option Nat) (h0 : PH) : Option (Int32 × PH) := rv_ h0 p0 0 (cl_ (f_X1_read p0 p1 p2 h0) fun z9 h1 => match z9 with | .inl (ci9, q9) => ((if ci9 = 24 then (if pbase h1 ≤ q9 then (some ((1 : Int32), h1)) else none) else (if ci9 = 20 then (if pbase h1 ≤ q9 then (some ((2 : Int32), h1)) else none) else none))) | .inr v2 => (sL h1 p3 2 (0 : Int32) (v2.toInt64) fun h3 => some ((0 : Int32), h3)))
theorem hyS_X0_read : yX0_read.cls ≠ "java/lang/invoke/MethodHandle" ∧ yX0_read.cls ≠ "java/lang/invoke/VarHandle" ∧ (parseMethodDescriptor yX0_read.desc).map (fun d => d.parameters.length) = some 4 := by decide +kernel
theorem c_X0_read {D : va_G} (p0 : Option Nat) (p1 : Int32) (p2 : Int32) (p3 : Option Nat) {h0 : PH} (l : Launch) (hl : l.stackTraces = false) (x : Int32) (h1 : PH) (hf : f_X0_read p0 p1 p2 p3 h0 = some (x, h1)) : CT l D yX0_read (wsW_ yX0_read cX0_read 5 (Option.some FieldType.int) [(0, 10, 13, 21), (0, 10, 17, 13)]) 9 152 [va_rf p0, .int p1, .int p2, va_rf p3] h0 (ovi x) h1 := by
  refine ct_ofH hl [some (va_rf p0), some (.int p1), some (.int p2), some (va_rf p3), none] (by decide) (by rw [lgl]; simp [va_rf_cat, cat_i, cat_l]) (by simp [lv_args, vsL, va_rf_cat, cat_i, cat_l]) (fun Γ => ?_)
  obtain ⟨o, ho⟩ : ∃ o : Int32 × PH, o = (x, h1) := ⟨_, rfl⟩
  rw [← ho] at hf
  have e1 : x = o.1 := by rw [ho]
  have e2 : h1 = o.2 := by rw [ho]
  subst e1 e2
  clear ho
  show PF Γ mi_X0_read D h0 (QR Γ D h0 (ovi o.1) o.2) h0 0 [some (va_rf p0), some (.int p1), some (.int p2), some (va_rf p3), none] []
  unfold f_X0_read at hf
  refine j_aload_n 3 dX0_read_0 rfl rfl ?_
  refine j_iconst (0 : Int32) dX0_read_1 (by decide) ?_
  refine j_aload_n 0 dX0_read_2 rfl rfl ?_
  refine j_iload_n 1 dX0_read_3 rfl rfl ?_
  refine j_iload_n 2 dX0_read_4 rfl rfl ?_
  refine kc_X0_58 rfl rfl rfl (by simp [va_rf_cat, cat_i, cat_l]) dX0_read_5 hf (fun v2 h1 hf => ?_) (fun ci9 q9 h1 fs9 he9 hf => ?_)
  · refine j_i2l dX0_read_8 ?_
    refine j_last dX0_read_9 hf (fun h3 hf => ?_)
    refine j_goto 21 dX0_read_10 (by decide) ?_
    refine j_iconst (0 : Int32) dX0_read_21 (by decide) ?_
    have e9 := Option.some.inj hf
    subst e9
    exact j_iret rfl dX0_read_22
  · by_cases x21 : ci9 = 24
    · subst x21
      replace hf := if_t hf rfl
      obtain ⟨hb9, hf⟩ := if_none hf
      refine j_catch (ci := 24) [] ⟨0, 10, 13, 21⟩ [⟨0, 10, 17, 13⟩] rfl (fun _ h => absurd h List.not_mem_nil) rfl (by decide) q1721 q1750 hb9 he9 ?_
      refine j_astore [some (va_rf p0), some (.int p1), some (.int p2), some (va_rf p3), some (va_rf (some q9))] dX0_read_13 (cz (va_rf_cat _)) rfl rfl ?_
      refine j_iconst (1 : Int32) dX0_read_15 (by decide) ?_
      have e9 := Option.some.inj hf
      subst e9
      exact j_iret rfl dX0_read_16
    · replace hf := if_f hf x21
      by_cases x13 : ci9 = 20
      · subst x13
        replace hf := if_t hf rfl
        obtain ⟨hb9, hf⟩ := if_none hf
        refine j_catch (ci := 20) [⟨0, 10, 13, 21⟩] ⟨0, 10, 17, 13⟩ [] rfl (List.forall_mem_cons.mpr ⟨Or.inr ⟨by decide, _, q1721, by decide +kernel⟩, fun _ h => absurd h List.not_mem_nil⟩) rfl (by decide) q1689 q187 hb9 he9 ?_
        refine j_astore [some (va_rf p0), some (.int p1), some (.int p2), some (va_rf p3), some (va_rf (some q9))] dX0_read_17 (cz (va_rf_cat _)) rfl rfl ?_
        refine j_iconst (2 : Int32) dX0_read_19 (by decide) ?_
        have e9 := Option.some.inj hf
        subst e9
        exact j_iret rfl dX0_read_20
      · replace hf := if_f hf x13
        cases hf
theorem kc_X0_61 {Γ : GX} {I : MI} {D : va_G} {h0 : PH} {Q : State → Prop} {h : PH} {pc : Nat} {vs : List (Option Value)} {rest : List Value} {β : Type} {o : β} {r : Option Nat} {p0 : Int32} {K : (((Nat × Nat) ⊕ Int32) → PH → Option β)} (hI : I.2.2.1 = RX0) (hfr : Nat.ble 9 I.2.2.2.2.2.1 = true) (hlo : Nat.ble 150 I.2.2.2.2.2.2.1 = true) (hW : (rest.map fun v => v.category).sum ≤ 8) (hd : decode I.1 pc = .ok (.invokevirtual 61, 3)) (hf : rv_ h r 0 (cl_ (f_X1_stored r p0 h) K) = some o) (kk : ∀ (x : Int32) (h1 : PH), K (.inr x) h1 = some o → PF Γ I D h0 Q h1 (pc + 3) vs (.int x :: rest)) (kx : ∀ (ci q : Nat) (h1 : PH) (fs : List Value), h1.1 q = some (.inr (ci, fs)) → K (.inl (ci, q)) h1 = some o → PX Γ I D h0 Q h1 pc vs q) : PF Γ I D h0 Q h pc vs (.int p0 :: va_rf r :: rest) := by
  obtain ⟨cc, nL, own, rt, xt, fr, lo, nm⟩ := I
  cases hI
  exact j_xVi (n := 1) (y := yX1_stored) (cc2 := cX1_stored) (As := [.int p0]) (C := RX1) (ci := 0) rfl (lw_V q1913 q1914 q1915 q90 q1916) hyV_X1_stored hfr hlo rfl hW hd (c_X1_stored r p0) hf _ rfl kk kx
abbrev mi_X0_stored : MI := (cX0_stored, 4, RX0, (Option.some FieldType.int), tableOf [(0, 9, 12, 13)], 9, 150, "stored")
def f_X0_stored (p0 : Option Nat) (p1 : Int32) (p2 : Option Nat) (h0 : PH) : Option (Int32 × PH) := rv_ h0 p0 0 (cl_ (f_X1_stored p0 p1 h0) fun z9 h1 => match z9 with | .inl (ci9, q9) => ((if ci9 = 20 then (if pbase h1 ≤ q9 then (some ((1 : Int32), h1)) else none) else none)) | .inr v2 => (sL h1 p2 2 (0 : Int32) (v2.toInt64) fun h3 => some ((0 : Int32), h3)))
theorem hyS_X0_stored : yX0_stored.cls ≠ "java/lang/invoke/MethodHandle" ∧ yX0_stored.cls ≠ "java/lang/invoke/VarHandle" ∧ (parseMethodDescriptor yX0_stored.desc).map (fun d => d.parameters.length) = some 3 := by decide +kernel
theorem c_X0_stored {D : va_G} (p0 : Option Nat) (p1 : Int32) (p2 : Option Nat) {h0 : PH} (l : Launch) (hl : l.stackTraces = false) (x : Int32) (h1 : PH) (hf : f_X0_stored p0 p1 p2 h0 = some (x, h1)) : CT l D yX0_stored (wsW_ yX0_stored cX0_stored 4 (Option.some FieldType.int) [(0, 9, 12, 13)]) 9 150 [va_rf p0, .int p1, va_rf p2] h0 (ovi x) h1 := by
  refine ct_ofH hl [some (va_rf p0), some (.int p1), some (va_rf p2), none] (by decide) (by rw [lgl]; simp [va_rf_cat, cat_i, cat_l]) (by simp [lv_args, vsL, va_rf_cat, cat_i, cat_l]) (fun Γ => ?_)
  obtain ⟨o, ho⟩ : ∃ o : Int32 × PH, o = (x, h1) := ⟨_, rfl⟩
  rw [← ho] at hf
  have e1 : x = o.1 := by rw [ho]
  have e2 : h1 = o.2 := by rw [ho]
  subst e1 e2
  clear ho
  show PF Γ mi_X0_stored D h0 (QR Γ D h0 (ovi o.1) o.2) h0 0 [some (va_rf p0), some (.int p1), some (va_rf p2), none] []
  unfold f_X0_stored at hf
  refine j_aload_n 2 dX0_stored_0 rfl rfl ?_
  refine j_iconst (0 : Int32) dX0_stored_1 (by decide) ?_
  refine j_aload_n 0 dX0_stored_2 rfl rfl ?_
  refine j_iload_n 1 dX0_stored_3 rfl rfl ?_
  refine kc_X0_61 rfl rfl rfl (by simp [va_rf_cat, cat_i, cat_l]) dX0_stored_4 hf (fun v2 h1 hf => ?_) (fun ci9 q9 h1 fs9 he9 hf => ?_)
  · refine j_i2l dX0_stored_7 ?_
    refine j_last dX0_stored_8 hf (fun h3 hf => ?_)
    refine j_goto 15 dX0_stored_9 (by decide) ?_
    refine j_iconst (0 : Int32) dX0_stored_15 (by decide) ?_
    have e9 := Option.some.inj hf
    subst e9
    exact j_iret rfl dX0_stored_16
  · by_cases x13 : ci9 = 20
    · subst x13
      replace hf := if_t hf rfl
      obtain ⟨hb9, hf⟩ := if_none hf
      refine j_catch (ci := 20) [] ⟨0, 9, 12, 13⟩ [] rfl (fun _ h => absurd h List.not_mem_nil) rfl (by decide) q1689 q187 hb9 he9 ?_
      refine j_astore_n 3 [some (va_rf p0), some (.int p1), some (va_rf p2), some (va_rf (some q9))] dX0_stored_12 rfl (cz (va_rf_cat _)) rfl rfl ?_
      refine j_iconst (1 : Int32) dX0_stored_13 (by decide) ?_
      have e9 := Option.some.inj hf
      subst e9
      exact j_iret rfl dX0_stored_14
    · replace hf := if_f hf x13
      cases hf
theorem kc_X0_64 {Γ : GX} {I : MI} {D : va_G} {h0 : PH} {Q : State → Prop} {h : PH} {pc : Nat} {vs : List (Option Value)} {rest : List Value} {β : Type} {o : β} {r : Option Nat} {p0 : Int32} {K : (((Nat × Nat) ⊕ Int32) → PH → Option β)} (hI : I.2.2.1 = RX0) (hfr : Nat.ble 9 I.2.2.2.2.2.1 = true) (hlo : Nat.ble 150 I.2.2.2.2.2.2.1 = true) (hW : (rest.map fun v => v.category).sum ≤ 8) (hd : decode I.1 pc = .ok (.invokevirtual 64, 3)) (hf : rv_ h r 0 (cl_ (f_X1_version r p0 h) K) = some o) (kk : ∀ (x : Int32) (h1 : PH), K (.inr x) h1 = some o → PF Γ I D h0 Q h1 (pc + 3) vs (.int x :: rest)) (kx : ∀ (ci q : Nat) (h1 : PH) (fs : List Value), h1.1 q = some (.inr (ci, fs)) → K (.inl (ci, q)) h1 = some o → PX Γ I D h0 Q h1 pc vs q) : PF Γ I D h0 Q h pc vs (.int p0 :: va_rf r :: rest) := by
  obtain ⟨cc, nL, own, rt, xt, fr, lo, nm⟩ := I
  cases hI
  exact j_xVi (n := 1) (y := yX1_version) (cc2 := cX1_version) (As := [.int p0]) (C := RX1) (ci := 0) rfl (lw_V q1920 q1921 q1922 q90 q1923) hyV_X1_version hfr hlo rfl hW hd (c_X1_version r p0) hf _ rfl kk kx
abbrev mi_X0_version : MI := (cX0_version, 4, RX0, (Option.some FieldType.int), tableOf [(0, 9, 12, 13)], 9, 150, "version")
def f_X0_version (p0 : Option Nat) (p1 : Int32) (p2 : Option Nat) (h0 : PH) : Option (Int32 × PH) := rv_ h0 p0 0 (cl_ (f_X1_version p0 p1 h0) fun z9 h1 => match z9 with | .inl (ci9, q9) => ((if ci9 = 20 then (if pbase h1 ≤ q9 then (some ((1 : Int32), h1)) else none) else none)) | .inr v2 => (sL h1 p2 2 (0 : Int32) (v2.toInt64) fun h3 => some ((0 : Int32), h3)))
theorem hyS_X0_version : yX0_version.cls ≠ "java/lang/invoke/MethodHandle" ∧ yX0_version.cls ≠ "java/lang/invoke/VarHandle" ∧ (parseMethodDescriptor yX0_version.desc).map (fun d => d.parameters.length) = some 3 := by decide +kernel
theorem c_X0_version {D : va_G} (p0 : Option Nat) (p1 : Int32) (p2 : Option Nat) {h0 : PH} (l : Launch) (hl : l.stackTraces = false) (x : Int32) (h1 : PH) (hf : f_X0_version p0 p1 p2 h0 = some (x, h1)) : CT l D yX0_version (wsW_ yX0_version cX0_version 4 (Option.some FieldType.int) [(0, 9, 12, 13)]) 9 150 [va_rf p0, .int p1, va_rf p2] h0 (ovi x) h1 := by
  refine ct_ofH hl [some (va_rf p0), some (.int p1), some (va_rf p2), none] (by decide) (by rw [lgl]; simp [va_rf_cat, cat_i, cat_l]) (by simp [lv_args, vsL, va_rf_cat, cat_i, cat_l]) (fun Γ => ?_)
  obtain ⟨o, ho⟩ : ∃ o : Int32 × PH, o = (x, h1) := ⟨_, rfl⟩
  rw [← ho] at hf
  have e1 : x = o.1 := by rw [ho]
  have e2 : h1 = o.2 := by rw [ho]
  subst e1 e2
  clear ho
  show PF Γ mi_X0_version D h0 (QR Γ D h0 (ovi o.1) o.2) h0 0 [some (va_rf p0), some (.int p1), some (va_rf p2), none] []
  unfold f_X0_version at hf
  refine j_aload_n 2 dX0_version_0 rfl rfl ?_
  refine j_iconst (0 : Int32) dX0_version_1 (by decide) ?_
  refine j_aload_n 0 dX0_version_2 rfl rfl ?_
  refine j_iload_n 1 dX0_version_3 rfl rfl ?_
  refine kc_X0_64 rfl rfl rfl (by simp [va_rf_cat, cat_i, cat_l]) dX0_version_4 hf (fun v2 h1 hf => ?_) (fun ci9 q9 h1 fs9 he9 hf => ?_)
  · refine j_i2l dX0_version_7 ?_
    refine j_last dX0_version_8 hf (fun h3 hf => ?_)
    refine j_goto 15 dX0_version_9 (by decide) ?_
    refine j_iconst (0 : Int32) dX0_version_15 (by decide) ?_
    have e9 := Option.some.inj hf
    subst e9
    exact j_iret rfl dX0_version_16
  · by_cases x13 : ci9 = 20
    · subst x13
      replace hf := if_t hf rfl
      obtain ⟨hb9, hf⟩ := if_none hf
      refine j_catch (ci := 20) [] ⟨0, 9, 12, 13⟩ [] rfl (fun _ h => absurd h List.not_mem_nil) rfl (by decide) q1689 q187 hb9 he9 ?_
      refine j_astore_n 3 [some (va_rf p0), some (.int p1), some (va_rf p2), some (va_rf (some q9))] dX0_version_12 rfl (cz (va_rf_cat _)) rfl rfl ?_
      refine j_iconst (1 : Int32) dX0_version_13 (by decide) ?_
      have e9 := Option.some.inj hf
      subst e9
      exact j_iret rfl dX0_version_14
    · replace hf := if_f hf x13
      cases hf
theorem kc_X0_67 {Γ : GX} {I : MI} {D : va_G} {h0 : PH} {Q : State → Prop} {h : PH} {pc : Nat} {vs : List (Option Value)} {rest : List Value} {β : Type} {o : β} {r : Option Nat} {p0 : Int32} {K : (((Nat × Nat) ⊕ Int32) → PH → Option β)} (hI : I.2.2.1 = RX0) (hfr : Nat.ble 8 I.2.2.2.2.2.1 = true) (hlo : Nat.ble 131 I.2.2.2.2.2.2.1 = true) (hW : (rest.map fun v => v.category).sum ≤ 8) (hd : decode I.1 pc = .ok (.invokevirtual 67, 3)) (hf : rv_ h r 0 (cl_ (f_X1_isLeading r p0 h) K) = some o) (kk : ∀ (x : Int32) (h1 : PH), K (.inr x) h1 = some o → PF Γ I D h0 Q h1 (pc + 3) vs (.int x :: rest)) (kx : ∀ (ci q : Nat) (h1 : PH) (fs : List Value), h1.1 q = some (.inr (ci, fs)) → K (.inl (ci, q)) h1 = some o → PX Γ I D h0 Q h1 pc vs q) : PF Γ I D h0 Q h pc vs (.int p0 :: va_rf r :: rest) := by
  obtain ⟨cc, nL, own, rt, xt, fr, lo, nm⟩ := I
  cases hI
  exact j_xVi (n := 1) (y := yX1_isLeading) (cc2 := cX1_isLeading) (As := [.int p0]) (C := RX1) (ci := 0) rfl (lw_V q1927 q1928 q1929 q90 q1930) hyV_X1_isLeading hfr hlo rfl hW hd (c_X1_isLeading r p0) hf _ rfl kk kx
abbrev mi_X0_isLeading : MI := (cX0_isLeading, 4, RX0, (Option.some FieldType.int), tableOf [(0, 16, 19, 21)], 8, 131, "isLeading")
def f_X0_isLeading_B15 (t0 : Option Nat) (t1 : Int32) (t2 : Int64) (h : PH) : Option (Int32 × PH) := sL h t0 2 t1 t2 fun h3 => some ((0 : Int32), h3)
theorem pf_X0_isLeading_B15 {Γ : GX} {D : va_G} {h0 : PH} {o : Int32 × PH} (t0 : Option Nat) (t1 : Int32) (t2 : Int64) (h : PH) (hf : f_X0_isLeading_B15 t0 t1 t2 h = some o) : PF Γ mi_X0_isLeading D h0 (QR Γ D h0 (ovi o.1) o.2) h 15 [none, none, none, none] [.long t2, .int t1, va_rf t0] := by
  refine j_last dX0_isLeading_15 hf (fun h3 hf => ?_)
  refine j_goto 22 dX0_isLeading_16 (by decide) ?_
  refine j_iconst (0 : Int32) dX0_isLeading_22 (by decide) ?_
  have e9 := Option.some.inj hf
  subst e9
  exact j_iret rfl dX0_isLeading_23
def f_X0_isLeading (p0 : Option Nat) (p1 : Int32) (p2 : Option Nat) (h0 : PH) : Option (Int32 × PH) := rv_ h0 p0 0 (cl_ (f_X1_isLeading p0 p1 h0) fun z9 h1 => match z9 with | .inl (ci9, q9) => ((if ci9 = 24 then (if pbase h1 ≤ q9 then (some ((1 : Int32), h1)) else none) else none)) | .inr v2 => ((if v2 = 0 then (f_X0_isLeading_B15 p2 (0 : Int32) (0 : Int64) h1) else (f_X0_isLeading_B15 p2 (0 : Int32) (1 : Int64) h1))))
theorem hyS_X0_isLeading : yX0_isLeading.cls ≠ "java/lang/invoke/MethodHandle" ∧ yX0_isLeading.cls ≠ "java/lang/invoke/VarHandle" ∧ (parseMethodDescriptor yX0_isLeading.desc).map (fun d => d.parameters.length) = some 3 := by decide +kernel
theorem c_X0_isLeading {D : va_G} (p0 : Option Nat) (p1 : Int32) (p2 : Option Nat) {h0 : PH} (l : Launch) (hl : l.stackTraces = false) (x : Int32) (h1 : PH) (hf : f_X0_isLeading p0 p1 p2 h0 = some (x, h1)) : CT l D yX0_isLeading (wsW_ yX0_isLeading cX0_isLeading 4 (Option.some FieldType.int) [(0, 16, 19, 21)]) 8 131 [va_rf p0, .int p1, va_rf p2] h0 (ovi x) h1 := by
  refine ct_ofH hl [some (va_rf p0), some (.int p1), some (va_rf p2), none] (by decide) (by rw [lgl]; simp [va_rf_cat, cat_i, cat_l]) (by simp [lv_args, vsL, va_rf_cat, cat_i, cat_l]) (fun Γ => ?_)
  obtain ⟨o, ho⟩ : ∃ o : Int32 × PH, o = (x, h1) := ⟨_, rfl⟩
  rw [← ho] at hf
  have e1 : x = o.1 := by rw [ho]
  have e2 : h1 = o.2 := by rw [ho]
  subst e1 e2
  clear ho
  show PF Γ mi_X0_isLeading D h0 (QR Γ D h0 (ovi o.1) o.2) h0 0 [some (va_rf p0), some (.int p1), some (va_rf p2), none] []
  unfold f_X0_isLeading at hf
  refine j_aload_n 2 dX0_isLeading_0 rfl rfl ?_
  refine j_iconst (0 : Int32) dX0_isLeading_1 (by decide) ?_
  refine j_aload_n 0 dX0_isLeading_2 rfl rfl ?_
  refine j_iload_n 1 dX0_isLeading_3 rfl rfl ?_
  refine kc_X0_67 rfl rfl rfl (by simp [va_rf_cat, cat_i, cat_l]) dX0_isLeading_4 hf (fun v2 h1 hf => ?_) (fun ci9 q9 h1 fs9 he9 hf => ?_)
  · refine j_if_eq 14 dX0_isLeading_7 (by decide) hf (fun c_ hf => ?_) (fun c_ hf => ?_)
    · refine j_lconst (0 : Int64) dX0_isLeading_14 (by decide) ?_
      refine j_weak [none, none, none, none] (Wk.s (Wk.s (Wk.s (Wk.k Wk.n)))) ?_
      exact pf_X0_isLeading_B15 p2 (0 : Int32) (0 : Int64) h1 hf
    · refine j_lconst (1 : Int64) dX0_isLeading_10 (by decide) ?_
      refine j_goto 15 dX0_isLeading_11 (by decide) ?_
      refine j_weak [none, none, none, none] (Wk.s (Wk.s (Wk.s (Wk.k Wk.n)))) ?_
      exact pf_X0_isLeading_B15 p2 (0 : Int32) (1 : Int64) h1 hf
  · by_cases x21 : ci9 = 24
    · subst x21
      replace hf := if_t hf rfl
      obtain ⟨hb9, hf⟩ := if_none hf
      refine j_catch (ci := 24) [] ⟨0, 16, 19, 21⟩ [] rfl (fun _ h => absurd h List.not_mem_nil) rfl (by decide) q1721 q1750 hb9 he9 ?_
      refine j_astore_n 3 [some (va_rf p0), some (.int p1), some (va_rf p2), some (va_rf (some q9))] dX0_isLeading_19 rfl (cz (va_rf_cat _)) rfl rfl ?_
      refine j_iconst (1 : Int32) dX0_isLeading_20 (by decide) ?_
      have e9 := Option.some.inj hf
      subst e9
      exact j_iret rfl dX0_isLeading_21
    · replace hf := if_f hf x21
      cases hf
theorem kc_X0_70 {Γ : GX} {I : MI} {D : va_G} {h0 : PH} {Q : State → Prop} {h : PH} {pc : Nat} {vs : List (Option Value)} {rest : List Value} {β : Type} {o : β} {r : Option Nat} {p0 : Int32} {K : (((Nat × Nat) ⊕ Int32) → PH → Option β)} (hI : I.2.2.1 = RX0) (hfr : Nat.ble 8 I.2.2.2.2.2.1 = true) (hlo : Nat.ble 131 I.2.2.2.2.2.2.1 = true) (hW : (rest.map fun v => v.category).sum ≤ 8) (hd : decode I.1 pc = .ok (.invokevirtual 70, 3)) (hf : rv_ h r 0 (cl_ (f_X1_token r p0 h) K) = some o) (kk : ∀ (x : Int32) (h1 : PH), K (.inr x) h1 = some o → PF Γ I D h0 Q h1 (pc + 3) vs (.int x :: rest)) (kx : ∀ (ci q : Nat) (h1 : PH) (fs : List Value), h1.1 q = some (.inr (ci, fs)) → K (.inl (ci, q)) h1 = some o → PX Γ I D h0 Q h1 pc vs q) : PF Γ I D h0 Q h pc vs (.int p0 :: va_rf r :: rest) := by
  obtain ⟨cc, nL, own, rt, xt, fr, lo, nm⟩ := I
  cases hI
  exact j_xVi (n := 1) (y := yX1_token) (cc2 := cX1_token) (As := [.int p0]) (C := RX1) (ci := 0) rfl (lw_V q1934 q1935 q1936 q90 q1937) hyV_X1_token hfr hlo rfl hW hd (c_X1_token r p0) hf _ rfl kk kx
abbrev mi_X0_token : MI := (cX0_token, 4, RX0, (Option.some FieldType.int), tableOf [(0, 9, 12, 21)], 8, 131, "token")
def f_X0_token (p0 : Option Nat) (p1 : Int32) (p2 : Option Nat) (h0 : PH) : Option (Int32 × PH) := rv_ h0 p0 0 (cl_ (f_X1_token p0 p1 h0) fun z9 h1 => match z9 with | .inl (ci9, q9) => ((if ci9 = 24 then (if pbase h1 ≤ q9 then (some ((1 : Int32), h1)) else none) else none)) | .inr v2 => (sL h1 p2 2 (0 : Int32) (v2.toInt64) fun h3 => some ((0 : Int32), h3)))
theorem hyS_X0_token : yX0_token.cls ≠ "java/lang/invoke/MethodHandle" ∧ yX0_token.cls ≠ "java/lang/invoke/VarHandle" ∧ (parseMethodDescriptor yX0_token.desc).map (fun d => d.parameters.length) = some 3 := by decide +kernel
theorem c_X0_token {D : va_G} (p0 : Option Nat) (p1 : Int32) (p2 : Option Nat) {h0 : PH} (l : Launch) (hl : l.stackTraces = false) (x : Int32) (h1 : PH) (hf : f_X0_token p0 p1 p2 h0 = some (x, h1)) : CT l D yX0_token (wsW_ yX0_token cX0_token 4 (Option.some FieldType.int) [(0, 9, 12, 21)]) 8 131 [va_rf p0, .int p1, va_rf p2] h0 (ovi x) h1 := by
  refine ct_ofH hl [some (va_rf p0), some (.int p1), some (va_rf p2), none] (by decide) (by rw [lgl]; simp [va_rf_cat, cat_i, cat_l]) (by simp [lv_args, vsL, va_rf_cat, cat_i, cat_l]) (fun Γ => ?_)
  obtain ⟨o, ho⟩ : ∃ o : Int32 × PH, o = (x, h1) := ⟨_, rfl⟩
  rw [← ho] at hf
  have e1 : x = o.1 := by rw [ho]
  have e2 : h1 = o.2 := by rw [ho]
  subst e1 e2
  clear ho
  show PF Γ mi_X0_token D h0 (QR Γ D h0 (ovi o.1) o.2) h0 0 [some (va_rf p0), some (.int p1), some (va_rf p2), none] []
  unfold f_X0_token at hf
  refine j_aload_n 2 dX0_token_0 rfl rfl ?_
  refine j_iconst (0 : Int32) dX0_token_1 (by decide) ?_
  refine j_aload_n 0 dX0_token_2 rfl rfl ?_
  refine j_iload_n 1 dX0_token_3 rfl rfl ?_
  refine kc_X0_70 rfl rfl rfl (by simp [va_rf_cat, cat_i, cat_l]) dX0_token_4 hf (fun v2 h1 hf => ?_) (fun ci9 q9 h1 fs9 he9 hf => ?_)
  · refine j_i2l dX0_token_7 ?_
    refine j_last dX0_token_8 hf (fun h3 hf => ?_)
    refine j_goto 15 dX0_token_9 (by decide) ?_
    refine j_iconst (0 : Int32) dX0_token_15 (by decide) ?_
    have e9 := Option.some.inj hf
    subst e9
    exact j_iret rfl dX0_token_16
  · by_cases x21 : ci9 = 24
    · subst x21
      replace hf := if_t hf rfl
      obtain ⟨hb9, hf⟩ := if_none hf
      refine j_catch (ci := 24) [] ⟨0, 9, 12, 21⟩ [] rfl (fun _ h => absurd h List.not_mem_nil) rfl (by decide) q1721 q1750 hb9 he9 ?_
      refine j_astore_n 3 [some (va_rf p0), some (.int p1), some (va_rf p2), some (va_rf (some q9))] dX0_token_12 rfl (cz (va_rf_cat _)) rfl rfl ?_
      refine j_iconst (1 : Int32) dX0_token_13 (by decide) ?_
      have e9 := Option.some.inj hf
      subst e9
      exact j_iret rfl dX0_token_14
    · replace hf := if_f hf x21
      cases hf
theorem kc_X0_73 {Γ : GX} {I : MI} {D : va_G} {h0 : PH} {Q : State → Prop} {h : PH} {pc : Nat} {vs : List (Option Value)} {rest : List Value} {β : Type} {o : β} {r : Option Nat} {p0 : Int32} {K : (((Nat × Nat) ⊕ Int32) → PH → Option β)} (hI : I.2.2.1 = RX0) (hfr : Nat.ble 8 I.2.2.2.2.2.1 = true) (hlo : Nat.ble 132 I.2.2.2.2.2.2.1 = true) (hW : (rest.map fun v => v.category).sum ≤ 8) (hd : decode I.1 pc = .ok (.invokevirtual 73, 3)) (hf : rv_ h r 0 (cl_ (f_X1_nodeExpiryTime r p0 h) K) = some o) (kk : ∀ (x : Int32) (h1 : PH), K (.inr x) h1 = some o → PF Γ I D h0 Q h1 (pc + 3) vs (.int x :: rest)) (kx : ∀ (ci q : Nat) (h1 : PH) (fs : List Value), h1.1 q = some (.inr (ci, fs)) → K (.inl (ci, q)) h1 = some o → PX Γ I D h0 Q h1 pc vs q) : PF Γ I D h0 Q h pc vs (.int p0 :: va_rf r :: rest) := by
  obtain ⟨cc, nL, own, rt, xt, fr, lo, nm⟩ := I
  cases hI
  exact j_xVi (n := 1) (y := yX1_nodeExpiryTime) (cc2 := cX1_nodeExpiryTime) (As := [.int p0]) (C := RX1) (ci := 0) rfl (lw_V q1941 q1942 q1943 q90 q1944) hyV_X1_nodeExpiryTime hfr hlo rfl hW hd (c_X1_nodeExpiryTime r p0) hf _ rfl kk kx
abbrev mi_X0_nodeExpiryTime : MI := (cX0_nodeExpiryTime, 4, RX0, (Option.some FieldType.int), tableOf [(0, 9, 12, 21)], 8, 132, "nodeExpiryTime")
def f_X0_nodeExpiryTime (p0 : Option Nat) (p1 : Int32) (p2 : Option Nat) (h0 : PH) : Option (Int32 × PH) := rv_ h0 p0 0 (cl_ (f_X1_nodeExpiryTime p0 p1 h0) fun z9 h1 => match z9 with | .inl (ci9, q9) => ((if ci9 = 24 then (if pbase h1 ≤ q9 then (some ((1 : Int32), h1)) else none) else none)) | .inr v2 => (sL h1 p2 2 (0 : Int32) (v2.toInt64) fun h3 => some ((0 : Int32), h3)))
theorem hyS_X0_nodeExpiryTime : yX0_nodeExpiryTime.cls ≠ "java/lang/invoke/MethodHandle" ∧ yX0_nodeExpiryTime.cls ≠ "java/lang/invoke/VarHandle" ∧ (parseMethodDescriptor yX0_nodeExpiryTime.desc).map (fun d => d.parameters.length) = some 3 := by decide +kernel
theorem c_X0_nodeExpiryTime {D : va_G} (p0 : Option Nat) (p1 : Int32) (p2 : Option Nat) {h0 : PH} (l : Launch) (hl : l.stackTraces = false) (x : Int32) (h1 : PH) (hf : f_X0_nodeExpiryTime p0 p1 p2 h0 = some (x, h1)) : CT l D yX0_nodeExpiryTime (wsW_ yX0_nodeExpiryTime cX0_nodeExpiryTime 4 (Option.some FieldType.int) [(0, 9, 12, 21)]) 8 132 [va_rf p0, .int p1, va_rf p2] h0 (ovi x) h1 := by
  refine ct_ofH hl [some (va_rf p0), some (.int p1), some (va_rf p2), none] (by decide) (by rw [lgl]; simp [va_rf_cat, cat_i, cat_l]) (by simp [lv_args, vsL, va_rf_cat, cat_i, cat_l]) (fun Γ => ?_)
  obtain ⟨o, ho⟩ : ∃ o : Int32 × PH, o = (x, h1) := ⟨_, rfl⟩
  rw [← ho] at hf
  have e1 : x = o.1 := by rw [ho]
  have e2 : h1 = o.2 := by rw [ho]
  subst e1 e2
  clear ho
  show PF Γ mi_X0_nodeExpiryTime D h0 (QR Γ D h0 (ovi o.1) o.2) h0 0 [some (va_rf p0), some (.int p1), some (va_rf p2), none] []
  unfold f_X0_nodeExpiryTime at hf
  refine j_aload_n 2 dX0_nodeExpiryTime_0 rfl rfl ?_
  refine j_iconst (0 : Int32) dX0_nodeExpiryTime_1 (by decide) ?_
  refine j_aload_n 0 dX0_nodeExpiryTime_2 rfl rfl ?_
  refine j_iload_n 1 dX0_nodeExpiryTime_3 rfl rfl ?_
  refine kc_X0_73 rfl rfl rfl (by simp [va_rf_cat, cat_i, cat_l]) dX0_nodeExpiryTime_4 hf (fun v2 h1 hf => ?_) (fun ci9 q9 h1 fs9 he9 hf => ?_)
  · refine j_i2l dX0_nodeExpiryTime_7 ?_
    refine j_last dX0_nodeExpiryTime_8 hf (fun h3 hf => ?_)
    refine j_goto 15 dX0_nodeExpiryTime_9 (by decide) ?_
    refine j_iconst (0 : Int32) dX0_nodeExpiryTime_15 (by decide) ?_
    have e9 := Option.some.inj hf
    subst e9
    exact j_iret rfl dX0_nodeExpiryTime_16
  · by_cases x21 : ci9 = 24
    · subst x21
      replace hf := if_t hf rfl
      obtain ⟨hb9, hf⟩ := if_none hf
      refine j_catch (ci := 24) [] ⟨0, 9, 12, 21⟩ [] rfl (fun _ h => absurd h List.not_mem_nil) rfl (by decide) q1721 q1750 hb9 he9 ?_
      refine j_astore_n 3 [some (va_rf p0), some (.int p1), some (va_rf p2), some (va_rf (some q9))] dX0_nodeExpiryTime_12 rfl (cz (va_rf_cat _)) rfl rfl ?_
      refine j_iconst (1 : Int32) dX0_nodeExpiryTime_13 (by decide) ?_
      have e9 := Option.some.inj hf
      subst e9
      exact j_iret rfl dX0_nodeExpiryTime_14
    · replace hf := if_f hf x21
      cases hf
theorem kc_X0_76 {Γ : GX} {I : MI} {D : va_G} {h0 : PH} {Q : State → Prop} {h : PH} {pc : Nat} {vs : List (Option Value)} {rest : List Value} {β : Type} {o : β} {r : Option Nat} {p0 : Int32} {K : (((Nat × Nat) ⊕ Int32) → PH → Option β)} (hI : I.2.2.1 = RX0) (hfr : Nat.ble 9 I.2.2.2.2.2.1 = true) (hlo : Nat.ble 154 I.2.2.2.2.2.2.1 = true) (hW : (rest.map fun v => v.category).sum ≤ 8) (hd : decode I.1 pc = .ok (.invokevirtual 76, 3)) (hf : rv_ h r 0 (cl_ (f_X1_margin r p0 h) K) = some o) (kk : ∀ (x : Int32) (h1 : PH), K (.inr x) h1 = some o → PF Γ I D h0 Q h1 (pc + 3) vs (.int x :: rest)) (kx : ∀ (ci q : Nat) (h1 : PH) (fs : List Value), h1.1 q = some (.inr (ci, fs)) → K (.inl (ci, q)) h1 = some o → PX Γ I D h0 Q h1 pc vs q) : PF Γ I D h0 Q h pc vs (.int p0 :: va_rf r :: rest) := by
  obtain ⟨cc, nL, own, rt, xt, fr, lo, nm⟩ := I
  cases hI
  exact j_xVi (n := 1) (y := yX1_margin) (cc2 := cX1_margin) (As := [.int p0]) (C := RX1) (ci := 0) rfl (lw_V q1948 q1949 q1950 q90 q1951) hyV_X1_margin hfr hlo rfl hW hd (c_X1_margin r p0) hf _ rfl kk kx
abbrev mi_X0_margin : MI := (cX0_margin, 4, RX0, (Option.some FieldType.int), tableOf [(0, 9, 12, 21)], 9, 154, "margin")
def f_X0_margin (p0 : Option Nat) (p1 : Int32) (p2 : Option Nat) (h0 : PH) : Option (Int32 × PH) := rv_ h0 p0 0 (cl_ (f_X1_margin p0 p1 h0) fun z9 h1 => match z9 with | .inl (ci9, q9) => ((if ci9 = 24 then (if pbase h1 ≤ q9 then (some ((1 : Int32), h1)) else none) else none)) | .inr v2 => (sL h1 p2 2 (0 : Int32) (v2.toInt64) fun h3 => some ((0 : Int32), h3)))
theorem hyS_X0_margin : yX0_margin.cls ≠ "java/lang/invoke/MethodHandle" ∧ yX0_margin.cls ≠ "java/lang/invoke/VarHandle" ∧ (parseMethodDescriptor yX0_margin.desc).map (fun d => d.parameters.length) = some 3 := by decide +kernel
theorem c_X0_margin {D : va_G} (p0 : Option Nat) (p1 : Int32) (p2 : Option Nat) {h0 : PH} (l : Launch) (hl : l.stackTraces = false) (x : Int32) (h1 : PH) (hf : f_X0_margin p0 p1 p2 h0 = some (x, h1)) : CT l D yX0_margin (wsW_ yX0_margin cX0_margin 4 (Option.some FieldType.int) [(0, 9, 12, 21)]) 9 154 [va_rf p0, .int p1, va_rf p2] h0 (ovi x) h1 := by
  refine ct_ofH hl [some (va_rf p0), some (.int p1), some (va_rf p2), none] (by decide) (by rw [lgl]; simp [va_rf_cat, cat_i, cat_l]) (by simp [lv_args, vsL, va_rf_cat, cat_i, cat_l]) (fun Γ => ?_)
  obtain ⟨o, ho⟩ : ∃ o : Int32 × PH, o = (x, h1) := ⟨_, rfl⟩
  rw [← ho] at hf
  have e1 : x = o.1 := by rw [ho]
  have e2 : h1 = o.2 := by rw [ho]
  subst e1 e2
  clear ho
  show PF Γ mi_X0_margin D h0 (QR Γ D h0 (ovi o.1) o.2) h0 0 [some (va_rf p0), some (.int p1), some (va_rf p2), none] []
  unfold f_X0_margin at hf
  refine j_aload_n 2 dX0_margin_0 rfl rfl ?_
  refine j_iconst (0 : Int32) dX0_margin_1 (by decide) ?_
  refine j_aload_n 0 dX0_margin_2 rfl rfl ?_
  refine j_iload_n 1 dX0_margin_3 rfl rfl ?_
  refine kc_X0_76 rfl rfl rfl (by simp [va_rf_cat, cat_i, cat_l]) dX0_margin_4 hf (fun v2 h1 hf => ?_) (fun ci9 q9 h1 fs9 he9 hf => ?_)
  · refine j_i2l dX0_margin_7 ?_
    refine j_last dX0_margin_8 hf (fun h3 hf => ?_)
    refine j_goto 15 dX0_margin_9 (by decide) ?_
    refine j_iconst (0 : Int32) dX0_margin_15 (by decide) ?_
    have e9 := Option.some.inj hf
    subst e9
    exact j_iret rfl dX0_margin_16
  · by_cases x21 : ci9 = 24
    · subst x21
      replace hf := if_t hf rfl
      obtain ⟨hb9, hf⟩ := if_none hf
      refine j_catch (ci := 24) [] ⟨0, 9, 12, 21⟩ [] rfl (fun _ h => absurd h List.not_mem_nil) rfl (by decide) q1721 q1750 hb9 he9 ?_
      refine j_astore_n 3 [some (va_rf p0), some (.int p1), some (va_rf p2), some (va_rf (some q9))] dX0_margin_12 rfl (cz (va_rf_cat _)) rfl rfl ?_
      refine j_iconst (1 : Int32) dX0_margin_13 (by decide) ?_
      have e9 := Option.some.inj hf
      subst e9
      exact j_iret rfl dX0_margin_14
    · replace hf := if_f hf x21
      cases hf
theorem kc_X0_79 {Γ : GX} {I : MI} {D : va_G} {h0 : PH} {Q : State → Prop} {h : PH} {pc : Nat} {vs : List (Option Value)} {rest : List Value} {β : Type} {o : β} {r : Option Nat} {p0 : Int32} {K : (((Nat × Nat) ⊕ Int32) → PH → Option β)} (hI : I.2.2.1 = RX0) (hfr : Nat.ble 8 I.2.2.2.2.2.1 = true) (hlo : Nat.ble 131 I.2.2.2.2.2.2.1 = true) (hW : (rest.map fun v => v.category).sum ≤ 8) (hd : decode I.1 pc = .ok (.invokevirtual 79, 3)) (hf : rv_ h r 0 (cl_ (f_X1_timerTime r p0 h) K) = some o) (kk : ∀ (x : Int32) (h1 : PH), K (.inr x) h1 = some o → PF Γ I D h0 Q h1 (pc + 3) vs (.int x :: rest)) (kx : ∀ (ci q : Nat) (h1 : PH) (fs : List Value), h1.1 q = some (.inr (ci, fs)) → K (.inl (ci, q)) h1 = some o → PX Γ I D h0 Q h1 pc vs q) : PF Γ I D h0 Q h pc vs (.int p0 :: va_rf r :: rest) := by
  obtain ⟨cc, nL, own, rt, xt, fr, lo, nm⟩ := I
  cases hI
  exact j_xVi (n := 1) (y := yX1_timerTime) (cc2 := cX1_timerTime) (As := [.int p0]) (C := RX1) (ci := 0) rfl (lw_V q1957 q1958 q1959 q90 q1960) hyV_X1_timerTime hfr hlo rfl hW hd (c_X1_timerTime r p0) hf _ rfl kk kx
abbrev mi_X0_timerTime : MI := (cX0_timerTime, 4, RX0, (Option.some FieldType.int), tableOf [(0, 9, 12, 21)], 8, 131, "timerTime")
def f_X0_timerTime (p0 : Option Nat) (p1 : Int32) (p2 : Option Nat) (h0 : PH) : Option (Int32 × PH) := rv_ h0 p0 0 (cl_ (f_X1_timerTime p0 p1 h0) fun z9 h1 => match z9 with | .inl (ci9, q9) => ((if ci9 = 24 then (if pbase h1 ≤ q9 then (some ((1 : Int32), h1)) else none) else none)) | .inr v2 => (sL h1 p2 2 (0 : Int32) (v2.toInt64) fun h3 => some ((0 : Int32), h3)))
theorem hyS_X0_timerTime : yX0_timerTime.cls ≠ "java/lang/invoke/MethodHandle" ∧ yX0_timerTime.cls ≠ "java/lang/invoke/VarHandle" ∧ (parseMethodDescriptor yX0_timerTime.desc).map (fun d => d.parameters.length) = some 3 := by decide +kernel
theorem c_X0_timerTime {D : va_G} (p0 : Option Nat) (p1 : Int32) (p2 : Option Nat) {h0 : PH} (l : Launch) (hl : l.stackTraces = false) (x : Int32) (h1 : PH) (hf : f_X0_timerTime p0 p1 p2 h0 = some (x, h1)) : CT l D yX0_timerTime (wsW_ yX0_timerTime cX0_timerTime 4 (Option.some FieldType.int) [(0, 9, 12, 21)]) 8 131 [va_rf p0, .int p1, va_rf p2] h0 (ovi x) h1 := by
  refine ct_ofH hl [some (va_rf p0), some (.int p1), some (va_rf p2), none] (by decide) (by rw [lgl]; simp [va_rf_cat, cat_i, cat_l]) (by simp [lv_args, vsL, va_rf_cat, cat_i, cat_l]) (fun Γ => ?_)
  obtain ⟨o, ho⟩ : ∃ o : Int32 × PH, o = (x, h1) := ⟨_, rfl⟩
  rw [← ho] at hf
  have e1 : x = o.1 := by rw [ho]
  have e2 : h1 = o.2 := by rw [ho]
  subst e1 e2
  clear ho
  show PF Γ mi_X0_timerTime D h0 (QR Γ D h0 (ovi o.1) o.2) h0 0 [some (va_rf p0), some (.int p1), some (va_rf p2), none] []
  unfold f_X0_timerTime at hf
  refine j_aload_n 2 dX0_timerTime_0 rfl rfl ?_
  refine j_iconst (0 : Int32) dX0_timerTime_1 (by decide) ?_
  refine j_aload_n 0 dX0_timerTime_2 rfl rfl ?_
  refine j_iload_n 1 dX0_timerTime_3 rfl rfl ?_
  refine kc_X0_79 rfl rfl rfl (by simp [va_rf_cat, cat_i, cat_l]) dX0_timerTime_4 hf (fun v2 h1 hf => ?_) (fun ci9 q9 h1 fs9 he9 hf => ?_)
  · refine j_i2l dX0_timerTime_7 ?_
    refine j_last dX0_timerTime_8 hf (fun h3 hf => ?_)
    refine j_goto 15 dX0_timerTime_9 (by decide) ?_
    refine j_iconst (0 : Int32) dX0_timerTime_15 (by decide) ?_
    have e9 := Option.some.inj hf
    subst e9
    exact j_iret rfl dX0_timerTime_16
  · by_cases x21 : ci9 = 24
    · subst x21
      replace hf := if_t hf rfl
      obtain ⟨hb9, hf⟩ := if_none hf
      refine j_catch (ci := 24) [] ⟨0, 9, 12, 21⟩ [] rfl (fun _ h => absurd h List.not_mem_nil) rfl (by decide) q1721 q1750 hb9 he9 ?_
      refine j_astore_n 3 [some (va_rf p0), some (.int p1), some (va_rf p2), some (va_rf (some q9))] dX0_timerTime_12 rfl (cz (va_rf_cat _)) rfl rfl ?_
      refine j_iconst (1 : Int32) dX0_timerTime_13 (by decide) ?_
      have e9 := Option.some.inj hf
      subst e9
      exact j_iret rfl dX0_timerTime_14
    · replace hf := if_f hf x21
      cases hf
theorem kc_X0_82 {Γ : GX} {I : MI} {D : va_G} {h0 : PH} {Q : State → Prop} {h : PH} {pc : Nat} {vs : List (Option Value)} {rest : List Value} {β : Type} {o : β} {r : Option Nat} {p0 : Int32} {K : (((Nat × Nat) ⊕ Int32) → PH → Option β)} (hI : I.2.2.1 = RX0) (hfr : Nat.ble 8 I.2.2.2.2.2.1 = true) (hlo : Nat.ble 132 I.2.2.2.2.2.2.1 = true) (hW : (rest.map fun v => v.category).sum ≤ 8) (hd : decode I.1 pc = .ok (.invokevirtual 82, 3)) (hf : rv_ h r 0 (cl_ (f_X1_nodeState r p0 h) K) = some o) (kk : ∀ (x : Int32) (h1 : PH), K (.inr x) h1 = some o → PF Γ I D h0 Q h1 (pc + 3) vs (.int x :: rest)) (kx : ∀ (ci q : Nat) (h1 : PH) (fs : List Value), h1.1 q = some (.inr (ci, fs)) → K (.inl (ci, q)) h1 = some o → PX Γ I D h0 Q h1 pc vs q) : PF Γ I D h0 Q h pc vs (.int p0 :: va_rf r :: rest) := by
  obtain ⟨cc, nL, own, rt, xt, fr, lo, nm⟩ := I
  cases hI
  exact j_xVi (n := 1) (y := yX1_nodeState) (cc2 := cX1_nodeState) (As := [.int p0]) (C := RX1) (ci := 0) rfl (lw_V q1964 q1965 q1966 q90 q1967) hyV_X1_nodeState hfr hlo rfl hW hd (c_X1_nodeState r p0) hf _ rfl kk kx
abbrev mi_X0_nodeState : MI := (cX0_nodeState, 4, RX0, (Option.some FieldType.int), tableOf [(0, 9, 12, 21)], 8, 132, "nodeState")
def f_X0_nodeState (p0 : Option Nat) (p1 : Int32) (p2 : Option Nat) (h0 : PH) : Option (Int32 × PH) := rv_ h0 p0 0 (cl_ (f_X1_nodeState p0 p1 h0) fun z9 h1 => match z9 with | .inl (ci9, q9) => ((if ci9 = 24 then (if pbase h1 ≤ q9 then (some ((1 : Int32), h1)) else none) else none)) | .inr v2 => (sL h1 p2 2 (0 : Int32) (v2.toInt64) fun h3 => some ((0 : Int32), h3)))
theorem hyS_X0_nodeState : yX0_nodeState.cls ≠ "java/lang/invoke/MethodHandle" ∧ yX0_nodeState.cls ≠ "java/lang/invoke/VarHandle" ∧ (parseMethodDescriptor yX0_nodeState.desc).map (fun d => d.parameters.length) = some 3 := by decide +kernel
theorem c_X0_nodeState {D : va_G} (p0 : Option Nat) (p1 : Int32) (p2 : Option Nat) {h0 : PH} (l : Launch) (hl : l.stackTraces = false) (x : Int32) (h1 : PH) (hf : f_X0_nodeState p0 p1 p2 h0 = some (x, h1)) : CT l D yX0_nodeState (wsW_ yX0_nodeState cX0_nodeState 4 (Option.some FieldType.int) [(0, 9, 12, 21)]) 8 132 [va_rf p0, .int p1, va_rf p2] h0 (ovi x) h1 := by
  refine ct_ofH hl [some (va_rf p0), some (.int p1), some (va_rf p2), none] (by decide) (by rw [lgl]; simp [va_rf_cat, cat_i, cat_l]) (by simp [lv_args, vsL, va_rf_cat, cat_i, cat_l]) (fun Γ => ?_)
  obtain ⟨o, ho⟩ : ∃ o : Int32 × PH, o = (x, h1) := ⟨_, rfl⟩
  rw [← ho] at hf
  have e1 : x = o.1 := by rw [ho]
  have e2 : h1 = o.2 := by rw [ho]
  subst e1 e2
  clear ho
  show PF Γ mi_X0_nodeState D h0 (QR Γ D h0 (ovi o.1) o.2) h0 0 [some (va_rf p0), some (.int p1), some (va_rf p2), none] []
  unfold f_X0_nodeState at hf
  refine j_aload_n 2 dX0_nodeState_0 rfl rfl ?_
  refine j_iconst (0 : Int32) dX0_nodeState_1 (by decide) ?_
  refine j_aload_n 0 dX0_nodeState_2 rfl rfl ?_
  refine j_iload_n 1 dX0_nodeState_3 rfl rfl ?_
  refine kc_X0_82 rfl rfl rfl (by simp [va_rf_cat, cat_i, cat_l]) dX0_nodeState_4 hf (fun v2 h1 hf => ?_) (fun ci9 q9 h1 fs9 he9 hf => ?_)
  · refine j_i2l dX0_nodeState_7 ?_
    refine j_last dX0_nodeState_8 hf (fun h3 hf => ?_)
    refine j_goto 15 dX0_nodeState_9 (by decide) ?_
    refine j_iconst (0 : Int32) dX0_nodeState_15 (by decide) ?_
    have e9 := Option.some.inj hf
    subst e9
    exact j_iret rfl dX0_nodeState_16
  · by_cases x21 : ci9 = 24
    · subst x21
      replace hf := if_t hf rfl
      obtain ⟨hb9, hf⟩ := if_none hf
      refine j_catch (ci := 24) [] ⟨0, 9, 12, 21⟩ [] rfl (fun _ h => absurd h List.not_mem_nil) rfl (by decide) q1721 q1750 hb9 he9 ?_
      refine j_astore_n 3 [some (va_rf p0), some (.int p1), some (va_rf p2), some (va_rf (some q9))] dX0_nodeState_12 rfl (cz (va_rf_cat _)) rfl rfl ?_
      refine j_iconst (1 : Int32) dX0_nodeState_13 (by decide) ?_
      have e9 := Option.some.inj hf
      subst e9
      exact j_iret rfl dX0_nodeState_14
    · replace hf := if_f hf x21
      cases hf
theorem kc_X0_85 {Γ : GX} {I : MI} {D : va_G} {h0 : PH} {Q : State → Prop} {h : PH} {pc : Nat} {vs : List (Option Value)} {rest : List Value} {β : Type} {o : β} {r : Option Nat} {p0 : Int32} {K : (((Nat × Nat) ⊕ Int32) → PH → Option β)} (hI : I.2.2.1 = RX0) (hfr : Nat.ble 8 I.2.2.2.2.2.1 = true) (hlo : Nat.ble 131 I.2.2.2.2.2.2.1 = true) (hW : (rest.map fun v => v.category).sum ≤ 8) (hd : decode I.1 pc = .ok (.invokevirtual 85, 3)) (hf : rv_ h r 0 (cl_ (f_X1_cached r p0 h) K) = some o) (kk : ∀ (x : Int32) (h1 : PH), K (.inr x) h1 = some o → PF Γ I D h0 Q h1 (pc + 3) vs (.int x :: rest)) (kx : ∀ (ci q : Nat) (h1 : PH) (fs : List Value), h1.1 q = some (.inr (ci, fs)) → K (.inl (ci, q)) h1 = some o → PX Γ I D h0 Q h1 pc vs q) : PF Γ I D h0 Q h pc vs (.int p0 :: va_rf r :: rest) := by
  obtain ⟨cc, nL, own, rt, xt, fr, lo, nm⟩ := I
  cases hI
  exact j_xVi (n := 1) (y := yX1_cached) (cc2 := cX1_cached) (As := [.int p0]) (C := RX1) (ci := 0) rfl (lw_V q1971 q1972 q1973 q90 q1974) hyV_X1_cached hfr hlo rfl hW hd (c_X1_cached r p0) hf _ rfl kk kx
abbrev mi_X0_cached : MI := (cX0_cached, 4, RX0, (Option.some FieldType.int), tableOf [(0, 9, 12, 21)], 8, 131, "cached")
def f_X0_cached (p0 : Option Nat) (p1 : Int32) (p2 : Option Nat) (h0 : PH) : Option (Int32 × PH) := rv_ h0 p0 0 (cl_ (f_X1_cached p0 p1 h0) fun z9 h1 => match z9 with | .inl (ci9, q9) => ((if ci9 = 24 then (if pbase h1 ≤ q9 then (some ((1 : Int32), h1)) else none) else none)) | .inr v2 => (sL h1 p2 2 (0 : Int32) (v2.toInt64) fun h3 => some ((0 : Int32), h3)))
theorem hyS_X0_cached : yX0_cached.cls ≠ "java/lang/invoke/MethodHandle" ∧ yX0_cached.cls ≠ "java/lang/invoke/VarHandle" ∧ (parseMethodDescriptor yX0_cached.desc).map (fun d => d.parameters.length) = some 3 := by decide +kernel
theorem c_X0_cached {D : va_G} (p0 : Option Nat) (p1 : Int32) (p2 : Option Nat) {h0 : PH} (l : Launch) (hl : l.stackTraces = false) (x : Int32) (h1 : PH) (hf : f_X0_cached p0 p1 p2 h0 = some (x, h1)) : CT l D yX0_cached (wsW_ yX0_cached cX0_cached 4 (Option.some FieldType.int) [(0, 9, 12, 21)]) 8 131 [va_rf p0, .int p1, va_rf p2] h0 (ovi x) h1 := by
  refine ct_ofH hl [some (va_rf p0), some (.int p1), some (va_rf p2), none] (by decide) (by rw [lgl]; simp [va_rf_cat, cat_i, cat_l]) (by simp [lv_args, vsL, va_rf_cat, cat_i, cat_l]) (fun Γ => ?_)
  obtain ⟨o, ho⟩ : ∃ o : Int32 × PH, o = (x, h1) := ⟨_, rfl⟩
  rw [← ho] at hf
  have e1 : x = o.1 := by rw [ho]
  have e2 : h1 = o.2 := by rw [ho]
  subst e1 e2
  clear ho
  show PF Γ mi_X0_cached D h0 (QR Γ D h0 (ovi o.1) o.2) h0 0 [some (va_rf p0), some (.int p1), some (va_rf p2), none] []
  unfold f_X0_cached at hf
  refine j_aload_n 2 dX0_cached_0 rfl rfl ?_
  refine j_iconst (0 : Int32) dX0_cached_1 (by decide) ?_
  refine j_aload_n 0 dX0_cached_2 rfl rfl ?_
  refine j_iload_n 1 dX0_cached_3 rfl rfl ?_
  refine kc_X0_85 rfl rfl rfl (by simp [va_rf_cat, cat_i, cat_l]) dX0_cached_4 hf (fun v2 h1 hf => ?_) (fun ci9 q9 h1 fs9 he9 hf => ?_)
  · refine j_i2l dX0_cached_7 ?_
    refine j_last dX0_cached_8 hf (fun h3 hf => ?_)
    refine j_goto 15 dX0_cached_9 (by decide) ?_
    refine j_iconst (0 : Int32) dX0_cached_15 (by decide) ?_
    have e9 := Option.some.inj hf
    subst e9
    exact j_iret rfl dX0_cached_16
  · by_cases x21 : ci9 = 24
    · subst x21
      replace hf := if_t hf rfl
      obtain ⟨hb9, hf⟩ := if_none hf
      refine j_catch (ci := 24) [] ⟨0, 9, 12, 21⟩ [] rfl (fun _ h => absurd h List.not_mem_nil) rfl (by decide) q1721 q1750 hb9 he9 ?_
      refine j_astore_n 3 [some (va_rf p0), some (.int p1), some (va_rf p2), some (va_rf (some q9))] dX0_cached_12 rfl (cz (va_rf_cat _)) rfl rfl ?_
      refine j_iconst (1 : Int32) dX0_cached_13 (by decide) ?_
      have e9 := Option.some.inj hf
      subst e9
      exact j_iret rfl dX0_cached_14
    · replace hf := if_f hf x21
      cases hf
theorem kc_X0_88 {Γ : GX} {I : MI} {D : va_G} {h0 : PH} {Q : State → Prop} {h : PH} {pc : Nat} {vs : List (Option Value)} {rest : List Value} {β : Type} {o : β} {r : Option Nat} {p0 : Int32} {K : (((Nat × Nat) ⊕ Int32) → PH → Option β)} (hI : I.2.2.1 = RX0) (hfr : Nat.ble 8 I.2.2.2.2.2.1 = true) (hlo : Nat.ble 131 I.2.2.2.2.2.2.1 = true) (hW : (rest.map fun v => v.category).sum ≤ 8) (hd : decode I.1 pc = .ok (.invokevirtual 88, 3)) (hf : rv_ h r 0 (cl_ (f_X1_logTime r p0 h) K) = some o) (kk : ∀ (x : Int32) (h1 : PH), K (.inr x) h1 = some o → PF Γ I D h0 Q h1 (pc + 3) vs (.int x :: rest)) (kx : ∀ (ci q : Nat) (h1 : PH) (fs : List Value), h1.1 q = some (.inr (ci, fs)) → K (.inl (ci, q)) h1 = some o → PX Γ I D h0 Q h1 pc vs q) : PF Γ I D h0 Q h pc vs (.int p0 :: va_rf r :: rest) := by
  obtain ⟨cc, nL, own, rt, xt, fr, lo, nm⟩ := I
  cases hI
  exact j_xVi (n := 1) (y := yX1_logTime) (cc2 := cX1_logTime) (As := [.int p0]) (C := RX1) (ci := 0) rfl (lw_V q1978 q1979 q1980 q90 q1981) hyV_X1_logTime hfr hlo rfl hW hd (c_X1_logTime r p0) hf _ rfl kk kx
abbrev mi_X0_logTime : MI := (cX0_logTime, 4, RX0, (Option.some FieldType.int), tableOf [(0, 9, 12, 21)], 8, 131, "logTime")
def f_X0_logTime (p0 : Option Nat) (p1 : Int32) (p2 : Option Nat) (h0 : PH) : Option (Int32 × PH) := rv_ h0 p0 0 (cl_ (f_X1_logTime p0 p1 h0) fun z9 h1 => match z9 with | .inl (ci9, q9) => ((if ci9 = 24 then (if pbase h1 ≤ q9 then (some ((1 : Int32), h1)) else none) else none)) | .inr v2 => (sL h1 p2 2 (0 : Int32) (v2.toInt64) fun h3 => some ((0 : Int32), h3)))
theorem hyS_X0_logTime : yX0_logTime.cls ≠ "java/lang/invoke/MethodHandle" ∧ yX0_logTime.cls ≠ "java/lang/invoke/VarHandle" ∧ (parseMethodDescriptor yX0_logTime.desc).map (fun d => d.parameters.length) = some 3 := by decide +kernel
theorem c_X0_logTime {D : va_G} (p0 : Option Nat) (p1 : Int32) (p2 : Option Nat) {h0 : PH} (l : Launch) (hl : l.stackTraces = false) (x : Int32) (h1 : PH) (hf : f_X0_logTime p0 p1 p2 h0 = some (x, h1)) : CT l D yX0_logTime (wsW_ yX0_logTime cX0_logTime 4 (Option.some FieldType.int) [(0, 9, 12, 21)]) 8 131 [va_rf p0, .int p1, va_rf p2] h0 (ovi x) h1 := by
  refine ct_ofH hl [some (va_rf p0), some (.int p1), some (va_rf p2), none] (by decide) (by rw [lgl]; simp [va_rf_cat, cat_i, cat_l]) (by simp [lv_args, vsL, va_rf_cat, cat_i, cat_l]) (fun Γ => ?_)
  obtain ⟨o, ho⟩ : ∃ o : Int32 × PH, o = (x, h1) := ⟨_, rfl⟩
  rw [← ho] at hf
  have e1 : x = o.1 := by rw [ho]
  have e2 : h1 = o.2 := by rw [ho]
  subst e1 e2
  clear ho
  show PF Γ mi_X0_logTime D h0 (QR Γ D h0 (ovi o.1) o.2) h0 0 [some (va_rf p0), some (.int p1), some (va_rf p2), none] []
  unfold f_X0_logTime at hf
  refine j_aload_n 2 dX0_logTime_0 rfl rfl ?_
  refine j_iconst (0 : Int32) dX0_logTime_1 (by decide) ?_
  refine j_aload_n 0 dX0_logTime_2 rfl rfl ?_
  refine j_iload_n 1 dX0_logTime_3 rfl rfl ?_
  refine kc_X0_88 rfl rfl rfl (by simp [va_rf_cat, cat_i, cat_l]) dX0_logTime_4 hf (fun v2 h1 hf => ?_) (fun ci9 q9 h1 fs9 he9 hf => ?_)
  · refine j_i2l dX0_logTime_7 ?_
    refine j_last dX0_logTime_8 hf (fun h3 hf => ?_)
    refine j_goto 15 dX0_logTime_9 (by decide) ?_
    refine j_iconst (0 : Int32) dX0_logTime_15 (by decide) ?_
    have e9 := Option.some.inj hf
    subst e9
    exact j_iret rfl dX0_logTime_16
  · by_cases x21 : ci9 = 24
    · subst x21
      replace hf := if_t hf rfl
      obtain ⟨hb9, hf⟩ := if_none hf
      refine j_catch (ci := 24) [] ⟨0, 9, 12, 21⟩ [] rfl (fun _ h => absurd h List.not_mem_nil) rfl (by decide) q1721 q1750 hb9 he9 ?_
      refine j_astore_n 3 [some (va_rf p0), some (.int p1), some (va_rf p2), some (va_rf (some q9))] dX0_logTime_12 rfl (cz (va_rf_cat _)) rfl rfl ?_
      refine j_iconst (1 : Int32) dX0_logTime_13 (by decide) ?_
      have e9 := Option.some.inj hf
      subst e9
      exact j_iret rfl dX0_logTime_14
    · replace hf := if_f hf x21
      cases hf
theorem kc_X0_91 {Γ : GX} {I : MI} {D : va_G} {h0 : PH} {Q : State → Prop} {h : PH} {pc : Nat} {vs : List (Option Value)} {rest : List Value} {β : Type} {o : β} {r : Option Nat} {p0 : Int32} {K : (((Nat × Nat) ⊕ Int32) → PH → Option β)} (hI : I.2.2.1 = RX0) (hfr : Nat.ble 8 I.2.2.2.2.2.1 = true) (hlo : Nat.ble 131 I.2.2.2.2.2.2.1 = true) (hW : (rest.map fun v => v.category).sum ≤ 8) (hd : decode I.1 pc = .ok (.invokevirtual 91, 3)) (hf : rv_ h r 0 (cl_ (f_X1_logKind r p0 h) K) = some o) (kk : ∀ (x : Int32) (h1 : PH), K (.inr x) h1 = some o → PF Γ I D h0 Q h1 (pc + 3) vs (.int x :: rest)) (kx : ∀ (ci q : Nat) (h1 : PH) (fs : List Value), h1.1 q = some (.inr (ci, fs)) → K (.inl (ci, q)) h1 = some o → PX Γ I D h0 Q h1 pc vs q) : PF Γ I D h0 Q h pc vs (.int p0 :: va_rf r :: rest) := by
  obtain ⟨cc, nL, own, rt, xt, fr, lo, nm⟩ := I
  cases hI
  exact j_xVi (n := 1) (y := yX1_logKind) (cc2 := cX1_logKind) (As := [.int p0]) (C := RX1) (ci := 0) rfl (lw_V q1992 q1993 q1994 q90 q1995) hyV_X1_logKind hfr hlo rfl hW hd (c_X1_logKind r p0) hf _ rfl kk kx
abbrev mi_X0_logKind : MI := (cX0_logKind, 4, RX0, (Option.some FieldType.int), tableOf [(0, 9, 12, 21)], 8, 131, "logKind")
def f_X0_logKind (p0 : Option Nat) (p1 : Int32) (p2 : Option Nat) (h0 : PH) : Option (Int32 × PH) := rv_ h0 p0 0 (cl_ (f_X1_logKind p0 p1 h0) fun z9 h1 => match z9 with | .inl (ci9, q9) => ((if ci9 = 24 then (if pbase h1 ≤ q9 then (some ((1 : Int32), h1)) else none) else none)) | .inr v2 => (sL h1 p2 2 (0 : Int32) (v2.toInt64) fun h3 => some ((0 : Int32), h3)))
theorem hyS_X0_logKind : yX0_logKind.cls ≠ "java/lang/invoke/MethodHandle" ∧ yX0_logKind.cls ≠ "java/lang/invoke/VarHandle" ∧ (parseMethodDescriptor yX0_logKind.desc).map (fun d => d.parameters.length) = some 3 := by decide +kernel
theorem c_X0_logKind {D : va_G} (p0 : Option Nat) (p1 : Int32) (p2 : Option Nat) {h0 : PH} (l : Launch) (hl : l.stackTraces = false) (x : Int32) (h1 : PH) (hf : f_X0_logKind p0 p1 p2 h0 = some (x, h1)) : CT l D yX0_logKind (wsW_ yX0_logKind cX0_logKind 4 (Option.some FieldType.int) [(0, 9, 12, 21)]) 8 131 [va_rf p0, .int p1, va_rf p2] h0 (ovi x) h1 := by
  refine ct_ofH hl [some (va_rf p0), some (.int p1), some (va_rf p2), none] (by decide) (by rw [lgl]; simp [va_rf_cat, cat_i, cat_l]) (by simp [lv_args, vsL, va_rf_cat, cat_i, cat_l]) (fun Γ => ?_)
  obtain ⟨o, ho⟩ : ∃ o : Int32 × PH, o = (x, h1) := ⟨_, rfl⟩
  rw [← ho] at hf
  have e1 : x = o.1 := by rw [ho]
  have e2 : h1 = o.2 := by rw [ho]
  subst e1 e2
  clear ho
  show PF Γ mi_X0_logKind D h0 (QR Γ D h0 (ovi o.1) o.2) h0 0 [some (va_rf p0), some (.int p1), some (va_rf p2), none] []
  unfold f_X0_logKind at hf
  refine j_aload_n 2 dX0_logKind_0 rfl rfl ?_
  refine j_iconst (0 : Int32) dX0_logKind_1 (by decide) ?_
  refine j_aload_n 0 dX0_logKind_2 rfl rfl ?_
  refine j_iload_n 1 dX0_logKind_3 rfl rfl ?_
  refine kc_X0_91 rfl rfl rfl (by simp [va_rf_cat, cat_i, cat_l]) dX0_logKind_4 hf (fun v2 h1 hf => ?_) (fun ci9 q9 h1 fs9 he9 hf => ?_)
  · refine j_i2l dX0_logKind_7 ?_
    refine j_last dX0_logKind_8 hf (fun h3 hf => ?_)
    refine j_goto 15 dX0_logKind_9 (by decide) ?_
    refine j_iconst (0 : Int32) dX0_logKind_15 (by decide) ?_
    have e9 := Option.some.inj hf
    subst e9
    exact j_iret rfl dX0_logKind_16
  · by_cases x21 : ci9 = 24
    · subst x21
      replace hf := if_t hf rfl
      obtain ⟨hb9, hf⟩ := if_none hf
      refine j_catch (ci := 24) [] ⟨0, 9, 12, 21⟩ [] rfl (fun _ h => absurd h List.not_mem_nil) rfl (by decide) q1721 q1750 hb9 he9 ?_
      refine j_astore_n 3 [some (va_rf p0), some (.int p1), some (va_rf p2), some (va_rf (some q9))] dX0_logKind_12 rfl (cz (va_rf_cat _)) rfl rfl ?_
      refine j_iconst (1 : Int32) dX0_logKind_13 (by decide) ?_
      have e9 := Option.some.inj hf
      subst e9
      exact j_iret rfl dX0_logKind_14
    · replace hf := if_f hf x21
      cases hf
theorem kc_X0_94 {Γ : GX} {I : MI} {D : va_G} {h0 : PH} {Q : State → Prop} {h : PH} {pc : Nat} {vs : List (Option Value)} {rest : List Value} {β : Type} {o : β} {r : Option Nat} {p0 : Int32} {K : (((Nat × Nat) ⊕ Int32) → PH → Option β)} (hI : I.2.2.1 = RX0) (hfr : Nat.ble 8 I.2.2.2.2.2.1 = true) (hlo : Nat.ble 131 I.2.2.2.2.2.2.1 = true) (hW : (rest.map fun v => v.category).sum ≤ 8) (hd : decode I.1 pc = .ok (.invokevirtual 94, 3)) (hf : rv_ h r 0 (cl_ (f_X1_logNode r p0 h) K) = some o) (kk : ∀ (x : Int32) (h1 : PH), K (.inr x) h1 = some o → PF Γ I D h0 Q h1 (pc + 3) vs (.int x :: rest)) (kx : ∀ (ci q : Nat) (h1 : PH) (fs : List Value), h1.1 q = some (.inr (ci, fs)) → K (.inl (ci, q)) h1 = some o → PX Γ I D h0 Q h1 pc vs q) : PF Γ I D h0 Q h pc vs (.int p0 :: va_rf r :: rest) := by
  obtain ⟨cc, nL, own, rt, xt, fr, lo, nm⟩ := I
  cases hI
  exact j_xVi (n := 1) (y := yX1_logNode) (cc2 := cX1_logNode) (As := [.int p0]) (C := RX1) (ci := 0) rfl (lw_V q1999 q2000 q2001 q90 q2002) hyV_X1_logNode hfr hlo rfl hW hd (c_X1_logNode r p0) hf _ rfl kk kx
abbrev mi_X0_logNode : MI := (cX0_logNode, 4, RX0, (Option.some FieldType.int), tableOf [(0, 9, 12, 21)], 8, 131, "logNode")
def f_X0_logNode (p0 : Option Nat) (p1 : Int32) (p2 : Option Nat) (h0 : PH) : Option (Int32 × PH) := rv_ h0 p0 0 (cl_ (f_X1_logNode p0 p1 h0) fun z9 h1 => match z9 with | .inl (ci9, q9) => ((if ci9 = 24 then (if pbase h1 ≤ q9 then (some ((1 : Int32), h1)) else none) else none)) | .inr v2 => (sL h1 p2 2 (0 : Int32) (v2.toInt64) fun h3 => some ((0 : Int32), h3)))
theorem hyS_X0_logNode : yX0_logNode.cls ≠ "java/lang/invoke/MethodHandle" ∧ yX0_logNode.cls ≠ "java/lang/invoke/VarHandle" ∧ (parseMethodDescriptor yX0_logNode.desc).map (fun d => d.parameters.length) = some 3 := by decide +kernel
theorem c_X0_logNode {D : va_G} (p0 : Option Nat) (p1 : Int32) (p2 : Option Nat) {h0 : PH} (l : Launch) (hl : l.stackTraces = false) (x : Int32) (h1 : PH) (hf : f_X0_logNode p0 p1 p2 h0 = some (x, h1)) : CT l D yX0_logNode (wsW_ yX0_logNode cX0_logNode 4 (Option.some FieldType.int) [(0, 9, 12, 21)]) 8 131 [va_rf p0, .int p1, va_rf p2] h0 (ovi x) h1 := by
  refine ct_ofH hl [some (va_rf p0), some (.int p1), some (va_rf p2), none] (by decide) (by rw [lgl]; simp [va_rf_cat, cat_i, cat_l]) (by simp [lv_args, vsL, va_rf_cat, cat_i, cat_l]) (fun Γ => ?_)
  obtain ⟨o, ho⟩ : ∃ o : Int32 × PH, o = (x, h1) := ⟨_, rfl⟩
  rw [← ho] at hf
  have e1 : x = o.1 := by rw [ho]
  have e2 : h1 = o.2 := by rw [ho]
  subst e1 e2
  clear ho
  show PF Γ mi_X0_logNode D h0 (QR Γ D h0 (ovi o.1) o.2) h0 0 [some (va_rf p0), some (.int p1), some (va_rf p2), none] []
  unfold f_X0_logNode at hf
  refine j_aload_n 2 dX0_logNode_0 rfl rfl ?_
  refine j_iconst (0 : Int32) dX0_logNode_1 (by decide) ?_
  refine j_aload_n 0 dX0_logNode_2 rfl rfl ?_
  refine j_iload_n 1 dX0_logNode_3 rfl rfl ?_
  refine kc_X0_94 rfl rfl rfl (by simp [va_rf_cat, cat_i, cat_l]) dX0_logNode_4 hf (fun v2 h1 hf => ?_) (fun ci9 q9 h1 fs9 he9 hf => ?_)
  · refine j_i2l dX0_logNode_7 ?_
    refine j_last dX0_logNode_8 hf (fun h3 hf => ?_)
    refine j_goto 15 dX0_logNode_9 (by decide) ?_
    refine j_iconst (0 : Int32) dX0_logNode_15 (by decide) ?_
    have e9 := Option.some.inj hf
    subst e9
    exact j_iret rfl dX0_logNode_16
  · by_cases x21 : ci9 = 24
    · subst x21
      replace hf := if_t hf rfl
      obtain ⟨hb9, hf⟩ := if_none hf
      refine j_catch (ci := 24) [] ⟨0, 9, 12, 21⟩ [] rfl (fun _ h => absurd h List.not_mem_nil) rfl (by decide) q1721 q1750 hb9 he9 ?_
      refine j_astore_n 3 [some (va_rf p0), some (.int p1), some (va_rf p2), some (va_rf (some q9))] dX0_logNode_12 rfl (cz (va_rf_cat _)) rfl rfl ?_
      refine j_iconst (1 : Int32) dX0_logNode_13 (by decide) ?_
      have e9 := Option.some.inj hf
      subst e9
      exact j_iret rfl dX0_logNode_14
    · replace hf := if_f hf x21
      cases hf
