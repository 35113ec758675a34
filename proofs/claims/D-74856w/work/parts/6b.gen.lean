/-! printed by gen.py: X0_logToken X0_eventCount X0_ledTime X0_nextLeader X0_leaderlessTime X0_leaseLeft X0_countInLog X0_lastEventTime X0_timeUntilLeader X0_longestLeaderless X0_tryWrite X0_predictRead X0_acquiresUntil X0_saveSnapshot X0_restoreSnapshot -/
set_option maxRecDepth 100000
theorem kc_X0_97 {Γ : GX} {I : MI} {D : va_G} {h0 : PH} {Q : State → Prop} {h : PH} {pc : Nat} {vs : List (Option Value)} {rest : List Value} {β : Type} {o : β} {r : Option Nat} {p0 : Int32} {K : (((Nat × Nat) ⊕ Int32) → PH → Option β)} (hI : I.2.2.1 = RX0) (hfr : Nat.ble 8 I.2.2.2.2.2.1 = true) (hlo : Nat.ble 131 I.2.2.2.2.2.2.1 = true) (hW : (rest.map fun v => v.category).sum ≤ 8) (hd : decode I.1 pc = .ok (.invokevirtual 97, 3)) (hf : rv_ h r 0 (cl_ (f_X1_logToken r p0 h) K) = some o) (kk : ∀ (x : Int32) (h1 : PH), K (.inr x) h1 = some o → PF Γ I D h0 Q h1 (pc + 3) vs (.int x :: rest)) (kx : ∀ (ci q : Nat) (h1 : PH) (fs : List Value), h1.1 q = some (.inr (ci, fs)) → K (.inl (ci, q)) h1 = some o → PX Γ I D h0 Q h1 pc vs q) : PF Γ I D h0 Q h pc vs (.int p0 :: va_rf r :: rest) := by
  obtain ⟨cc, nL, own, rt, xt, fr, lo, nm⟩ := I
  cases hI
  exact j_xVi (n := 1) (y := yX1_logToken) (cc2 := cX1_logToken) (As := [.int p0]) (C := RX1) (ci := 0) rfl (lw_V q2006 q2007 q2008 q90 q2009) hyV_X1_logToken hfr hlo rfl hW hd (c_X1_logToken r p0) hf _ rfl kk kx
abbrev mi_X0_logToken : MI := (cX0_logToken, 4, RX0, (Option.some FieldType.int), tableOf [(0, 9, 12, 21)], 8, 131, "logToken")
def f_X0_logToken (p0 : Option Nat) (p1 : Int32) (p2 : Option Nat) (h0 : PH) : Option (Int32 × PH) := rv_ h0 p0 0 (cl_ (f_X1_logToken p0 p1 h0) fun z9 h1 => match z9 with | .inl (ci9, q9) => ((if ci9 = 24 then (if pbase h1 ≤ q9 then (some ((1 : Int32), h1)) else none) else none)) | .inr v2 => (sL h1 p2 2 (0 : Int32) (v2.toInt64) fun h3 => some ((0 : Int32), h3)))
theorem hyS_X0_logToken : yX0_logToken.cls ≠ "java/lang/invoke/MethodHandle" ∧ yX0_logToken.cls ≠ "java/lang/invoke/VarHandle" ∧ (parseMethodDescriptor yX0_logToken.desc).map (fun d => d.parameters.length) = some 3 := by decide +kernel
theorem c_X0_logToken {D : va_G} (p0 : Option Nat) (p1 : Int32) (p2 : Option Nat) {h0 : PH} (l : Launch) (hl : l.stackTraces = false) (x : Int32) (h1 : PH) (hf : f_X0_logToken p0 p1 p2 h0 = some (x, h1)) : CT l D yX0_logToken (wsW_ yX0_logToken cX0_logToken 4 (Option.some FieldType.int) [(0, 9, 12, 21)]) 8 131 [va_rf p0, .int p1, va_rf p2] h0 (ovi x) h1 := by
  refine ct_ofH hl [some (va_rf p0), some (.int p1), some (va_rf p2), none] (by decide) (by rw [lgl]; simp [va_rf_cat, cat_i, cat_l]) (by simp [lv_args, vsL, va_rf_cat, cat_i, cat_l]) (fun Γ => ?_)
  obtain ⟨o, ho⟩ : ∃ o : Int32 × PH, o = (x, h1) := ⟨_, rfl⟩
  rw [← ho] at hf
  have e1 : x = o.1 := by rw [ho]
  have e2 : h1 = o.2 := by rw [ho]
  subst e1 e2
  clear ho
  show PF Γ mi_X0_logToken D h0 (QR Γ D h0 (ovi o.1) o.2) h0 0 [some (va_rf p0), some (.int p1), some (va_rf p2), none] []
  unfold f_X0_logToken at hf
  refine j_aload_n 2 dX0_logToken_0 rfl rfl ?_
  refine j_iconst (0 : Int32) dX0_logToken_1 (by decide) ?_
  refine j_aload_n 0 dX0_logToken_2 rfl rfl ?_
  refine j_iload_n 1 dX0_logToken_3 rfl rfl ?_
  refine kc_X0_97 rfl rfl rfl (by simp [va_rf_cat, cat_i, cat_l]) dX0_logToken_4 hf (fun v2 h1 hf => ?_) (fun ci9 q9 h1 fs9 he9 hf => ?_)
  · refine j_i2l dX0_logToken_7 ?_
    refine j_last dX0_logToken_8 hf (fun h3 hf => ?_)
    refine j_goto 15 dX0_logToken_9 (by decide) ?_
    refine j_iconst (0 : Int32) dX0_logToken_15 (by decide) ?_
    have e9 := Option.some.inj hf
    subst e9
    exact j_iret rfl dX0_logToken_16
  · by_cases x21 : ci9 = 24
    · subst x21
      replace hf := if_t hf rfl
      obtain ⟨hb9, hf⟩ := if_none hf
      refine j_catch (ci := 24) [] ⟨0, 9, 12, 21⟩ [] rfl (fun _ h => absurd h List.not_mem_nil) rfl (by decide) q1721 q1750 hb9 he9 ?_
      refine j_astore_n 3 [some (va_rf p0), some (.int p1), some (va_rf p2), some (va_rf (some q9))] dX0_logToken_12 rfl (cz (va_rf_cat _)) rfl rfl ?_
      refine j_iconst (1 : Int32) dX0_logToken_13 (by decide) ?_
      have e9 := Option.some.inj hf
      subst e9
      exact j_iret rfl dX0_logToken_14
    · replace hf := if_f hf x21
      cases hf
theorem kc_X0_100 {Γ : GX} {I : MI} {D : va_G} {h0 : PH} {Q : State → Prop} {h : PH} {pc : Nat} {vs : List (Option Value)} {rest : List Value} {β : Type} {o : β} {r : Option Nat} {p0 : Int32} {K : (((Nat × Nat) ⊕ Int32) → PH → Option β)} (hI : I.2.2.1 = RX0) (hfr : Nat.ble 8 I.2.2.2.2.2.1 = true) (hlo : Nat.ble 130 I.2.2.2.2.2.2.1 = true) (hW : (rest.map fun v => v.category).sum ≤ 8) (hd : decode I.1 pc = .ok (.invokevirtual 100, 3)) (hf : rv_ h r 0 (cl_ (f_X1_eventCount r p0 h) K) = some o) (kk : ∀ (x : Int32) (h1 : PH), K (.inr x) h1 = some o → PF Γ I D h0 Q h1 (pc + 3) vs (.int x :: rest)) (kx : ∀ (ci q : Nat) (h1 : PH) (fs : List Value), h1.1 q = some (.inr (ci, fs)) → K (.inl (ci, q)) h1 = some o → PX Γ I D h0 Q h1 pc vs q) : PF Γ I D h0 Q h pc vs (.int p0 :: va_rf r :: rest) := by
  obtain ⟨cc, nL, own, rt, xt, fr, lo, nm⟩ := I
  cases hI
  exact j_xVi (n := 1) (y := yX1_eventCount) (cc2 := cX1_eventCount) (As := [.int p0]) (C := RX1) (ci := 0) rfl (lw_V q2013 q2014 q2015 q90 q2016) hyV_X1_eventCount hfr hlo rfl hW hd (c_X1_eventCount r p0) hf _ rfl kk kx
abbrev mi_X0_eventCount : MI := (cX0_eventCount, 4, RX0, (Option.some FieldType.int), tableOf [(0, 9, 12, 13)], 8, 130, "eventCount")
def f_X0_eventCount (p0 : Option Nat) (p1 : Int32) (p2 : Option Nat) (h0 : PH) : Option (Int32 × PH) := rv_ h0 p0 0 (cl_ (f_X1_eventCount p0 p1 h0) fun z9 h1 => match z9 with | .inl (ci9, q9) => ((if ci9 = 20 then (if pbase h1 ≤ q9 then (some ((1 : Int32), h1)) else none) else none)) | .inr v2 => (sL h1 p2 2 (0 : Int32) (v2.toInt64) fun h3 => some ((0 : Int32), h3)))
theorem hyS_X0_eventCount : yX0_eventCount.cls ≠ "java/lang/invoke/MethodHandle" ∧ yX0_eventCount.cls ≠ "java/lang/invoke/VarHandle" ∧ (parseMethodDescriptor yX0_eventCount.desc).map (fun d => d.parameters.length) = some 3 := by decide +kernel
theorem c_X0_eventCount {D : va_G} (p0 : Option Nat) (p1 : Int32) (p2 : Option Nat) {h0 : PH} (l : Launch) (hl : l.stackTraces = false) (x : Int32) (h1 : PH) (hf : f_X0_eventCount p0 p1 p2 h0 = some (x, h1)) : CT l D yX0_eventCount (wsW_ yX0_eventCount cX0_eventCount 4 (Option.some FieldType.int) [(0, 9, 12, 13)]) 8 130 [va_rf p0, .int p1, va_rf p2] h0 (ovi x) h1 := by
  refine ct_ofH hl [some (va_rf p0), some (.int p1), some (va_rf p2), none] (by decide) (by rw [lgl]; simp [va_rf_cat, cat_i, cat_l]) (by simp [lv_args, vsL, va_rf_cat, cat_i, cat_l]) (fun Γ => ?_)
  obtain ⟨o, ho⟩ : ∃ o : Int32 × PH, o = (x, h1) := ⟨_, rfl⟩
  rw [← ho] at hf
  have e1 : x = o.1 := by rw [ho]
  have e2 : h1 = o.2 := by rw [ho]
  subst e1 e2
  clear ho
  show PF Γ mi_X0_eventCount D h0 (QR Γ D h0 (ovi o.1) o.2) h0 0 [some (va_rf p0), some (.int p1), some (va_rf p2), none] []
  unfold f_X0_eventCount at hf
  refine j_aload_n 2 dX0_eventCount_0 rfl rfl ?_
  refine j_iconst (0 : Int32) dX0_eventCount_1 (by decide) ?_
  refine j_aload_n 0 dX0_eventCount_2 rfl rfl ?_
  refine j_iload_n 1 dX0_eventCount_3 rfl rfl ?_
  refine kc_X0_100 rfl rfl rfl (by simp [va_rf_cat, cat_i, cat_l]) dX0_eventCount_4 hf (fun v2 h1 hf => ?_) (fun ci9 q9 h1 fs9 he9 hf => ?_)
  · refine j_i2l dX0_eventCount_7 ?_
    refine j_last dX0_eventCount_8 hf (fun h3 hf => ?_)
    refine j_goto 15 dX0_eventCount_9 (by decide) ?_
    refine j_iconst (0 : Int32) dX0_eventCount_15 (by decide) ?_
    have e9 := Option.some.inj hf
    subst e9
    exact j_iret rfl dX0_eventCount_16
  · by_cases x13 : ci9 = 20
    · subst x13
      replace hf := if_t hf rfl
      obtain ⟨hb9, hf⟩ := if_none hf
      refine j_catch (ci := 20) [] ⟨0, 9, 12, 13⟩ [] rfl (fun _ h => absurd h List.not_mem_nil) rfl (by decide) q1689 q187 hb9 he9 ?_
      refine j_astore_n 3 [some (va_rf p0), some (.int p1), some (va_rf p2), some (va_rf (some q9))] dX0_eventCount_12 rfl (cz (va_rf_cat _)) rfl rfl ?_
      refine j_iconst (1 : Int32) dX0_eventCount_13 (by decide) ?_
      have e9 := Option.some.inj hf
      subst e9
      exact j_iret rfl dX0_eventCount_14
    · replace hf := if_f hf x13
      cases hf
theorem kc_X0_103 {Γ : GX} {I : MI} {D : va_G} {h0 : PH} {Q : State → Prop} {h : PH} {pc : Nat} {vs : List (Option Value)} {rest : List Value} {β : Type} {o : β} {r : Option Nat} {p0 : Int32} {K : (((Nat × Nat) ⊕ Int32) → PH → Option β)} (hI : I.2.2.1 = RX0) (hfr : Nat.ble 8 I.2.2.2.2.2.1 = true) (hlo : Nat.ble 131 I.2.2.2.2.2.2.1 = true) (hW : (rest.map fun v => v.category).sum ≤ 8) (hd : decode I.1 pc = .ok (.invokevirtual 103, 3)) (hf : rv_ h r 0 (cl_ (f_X1_ledTime r p0 h) K) = some o) (kk : ∀ (x : Int32) (h1 : PH), K (.inr x) h1 = some o → PF Γ I D h0 Q h1 (pc + 3) vs (.int x :: rest)) (kx : ∀ (ci q : Nat) (h1 : PH) (fs : List Value), h1.1 q = some (.inr (ci, fs)) → K (.inl (ci, q)) h1 = some o → PX Γ I D h0 Q h1 pc vs q) : PF Γ I D h0 Q h pc vs (.int p0 :: va_rf r :: rest) := by
  obtain ⟨cc, nL, own, rt, xt, fr, lo, nm⟩ := I
  cases hI
  exact j_xVi (n := 1) (y := yX1_ledTime) (cc2 := cX1_ledTime) (As := [.int p0]) (C := RX1) (ci := 0) rfl (lw_V q2021 q2022 q2023 q90 q2024) hyV_X1_ledTime hfr hlo rfl hW hd (c_X1_ledTime r p0) hf _ rfl kk kx
abbrev mi_X0_ledTime : MI := (cX0_ledTime, 4, RX0, (Option.some FieldType.int), tableOf [(0, 9, 12, 21)], 8, 131, "ledTime")
def f_X0_ledTime (p0 : Option Nat) (p1 : Int32) (p2 : Option Nat) (h0 : PH) : Option (Int32 × PH) := rv_ h0 p0 0 (cl_ (f_X1_ledTime p0 p1 h0) fun z9 h1 => match z9 with | .inl (ci9, q9) => ((if ci9 = 24 then (if pbase h1 ≤ q9 then (some ((1 : Int32), h1)) else none) else none)) | .inr v2 => (sL h1 p2 2 (0 : Int32) (v2.toInt64) fun h3 => some ((0 : Int32), h3)))
theorem hyS_X0_ledTime : yX0_ledTime.cls ≠ "java/lang/invoke/MethodHandle" ∧ yX0_ledTime.cls ≠ "java/lang/invoke/VarHandle" ∧ (parseMethodDescriptor yX0_ledTime.desc).map (fun d => d.parameters.length) = some 3 := by decide +kernel
theorem c_X0_ledTime {D : va_G} (p0 : Option Nat) (p1 : Int32) (p2 : Option Nat) {h0 : PH} (l : Launch) (hl : l.stackTraces = false) (x : Int32) (h1 : PH) (hf : f_X0_ledTime p0 p1 p2 h0 = some (x, h1)) : CT l D yX0_ledTime (wsW_ yX0_ledTime cX0_ledTime 4 (Option.some FieldType.int) [(0, 9, 12, 21)]) 8 131 [va_rf p0, .int p1, va_rf p2] h0 (ovi x) h1 := by
  refine ct_ofH hl [some (va_rf p0), some (.int p1), some (va_rf p2), none] (by decide) (by rw [lgl]; simp [va_rf_cat, cat_i, cat_l]) (by simp [lv_args, vsL, va_rf_cat, cat_i, cat_l]) (fun Γ => ?_)
  obtain ⟨o, ho⟩ : ∃ o : Int32 × PH, o = (x, h1) := ⟨_, rfl⟩
  rw [← ho] at hf
  have e1 : x = o.1 := by rw [ho]
  have e2 : h1 = o.2 := by rw [ho]
  subst e1 e2
  clear ho
  show PF Γ mi_X0_ledTime D h0 (QR Γ D h0 (ovi o.1) o.2) h0 0 [some (va_rf p0), some (.int p1), some (va_rf p2), none] []
  unfold f_X0_ledTime at hf
  refine j_aload_n 2 dX0_ledTime_0 rfl rfl ?_
  refine j_iconst (0 : Int32) dX0_ledTime_1 (by decide) ?_
  refine j_aload_n 0 dX0_ledTime_2 rfl rfl ?_
  refine j_iload_n 1 dX0_ledTime_3 rfl rfl ?_
  refine kc_X0_103 rfl rfl rfl (by simp [va_rf_cat, cat_i, cat_l]) dX0_ledTime_4 hf (fun v2 h1 hf => ?_) (fun ci9 q9 h1 fs9 he9 hf => ?_)
  · refine j_i2l dX0_ledTime_7 ?_
    refine j_last dX0_ledTime_8 hf (fun h3 hf => ?_)
    refine j_goto 15 dX0_ledTime_9 (by decide) ?_
    refine j_iconst (0 : Int32) dX0_ledTime_15 (by decide) ?_
    have e9 := Option.some.inj hf
    subst e9
    exact j_iret rfl dX0_ledTime_16
  · by_cases x21 : ci9 = 24
    · subst x21
      replace hf := if_t hf rfl
      obtain ⟨hb9, hf⟩ := if_none hf
      refine j_catch (ci := 24) [] ⟨0, 9, 12, 21⟩ [] rfl (fun _ h => absurd h List.not_mem_nil) rfl (by decide) q1721 q1750 hb9 he9 ?_
      refine j_astore_n 3 [some (va_rf p0), some (.int p1), some (va_rf p2), some (va_rf (some q9))] dX0_ledTime_12 rfl (cz (va_rf_cat _)) rfl rfl ?_
      refine j_iconst (1 : Int32) dX0_ledTime_13 (by decide) ?_
      have e9 := Option.some.inj hf
      subst e9
      exact j_iret rfl dX0_ledTime_14
    · replace hf := if_f hf x21
      cases hf
theorem kc_X0_106 {Γ : GX} {I : MI} {D : va_G} {h0 : PH} {Q : State → Prop} {h : PH} {pc : Nat} {vs : List (Option Value)} {rest : List Value} {β : Type} {o : β} {r : Option Nat} {p0 : Int32} {K : (((Nat × Nat) ⊕ Int32) → PH → Option β)} (hI : I.2.2.1 = RX0) (hfr : Nat.ble 16 I.2.2.2.2.2.1 = true) (hlo : Nat.ble 396 I.2.2.2.2.2.2.1 = true) (hW : (rest.map fun v => v.category).sum ≤ 8) (hd : decode I.1 pc = .ok (.invokevirtual 106, 3)) (hf : rv_ h r 0 (cl_ (f_X1_nextLeader r p0 h) K) = some o) (kk : ∀ (x : Int32) (h1 : PH), K (.inr x) h1 = some o → PF Γ I D h0 Q h1 (pc + 3) vs (.int x :: rest)) (kx : ∀ (ci q : Nat) (h1 : PH) (fs : List Value), h1.1 q = some (.inr (ci, fs)) → K (.inl (ci, q)) h1 = some o → PX Γ I D h0 Q h1 pc vs q) : PF Γ I D h0 Q h pc vs (.int p0 :: va_rf r :: rest) := by
  obtain ⟨cc, nL, own, rt, xt, fr, lo, nm⟩ := I
  cases hI
  exact j_xVi (n := 1) (y := yX1_nextLeader) (cc2 := cX1_nextLeader) (As := [.int p0]) (C := RX1) (ci := 0) rfl (lw_V q2028 q2029 q2030 q90 q2031) hyV_X1_nextLeader hfr hlo rfl hW hd (c_X1_nextLeader r p0) hf _ rfl kk kx
abbrev mi_X0_nextLeader : MI := (cX0_nextLeader, 4, RX0, (Option.some FieldType.int), tableOf [(0, 9, 12, 13)], 16, 396, "nextLeader")
def f_X0_nextLeader (p0 : Option Nat) (p1 : Int32) (p2 : Option Nat) (h0 : PH) : Option (Int32 × PH) := rv_ h0 p0 0 (cl_ (f_X1_nextLeader p0 p1 h0) fun z9 h1 => match z9 with | .inl (ci9, q9) => ((if ci9 = 20 then (if pbase h1 ≤ q9 then (some ((1 : Int32), h1)) else none) else none)) | .inr v2 => (sL h1 p2 2 (0 : Int32) (v2.toInt64) fun h3 => some ((0 : Int32), h3)))
theorem hyS_X0_nextLeader : yX0_nextLeader.cls ≠ "java/lang/invoke/MethodHandle" ∧ yX0_nextLeader.cls ≠ "java/lang/invoke/VarHandle" ∧ (parseMethodDescriptor yX0_nextLeader.desc).map (fun d => d.parameters.length) = some 3 := by decide +kernel
theorem c_X0_nextLeader {D : va_G} (p0 : Option Nat) (p1 : Int32) (p2 : Option Nat) {h0 : PH} (l : Launch) (hl : l.stackTraces = false) (x : Int32) (h1 : PH) (hf : f_X0_nextLeader p0 p1 p2 h0 = some (x, h1)) : CT l D yX0_nextLeader (wsW_ yX0_nextLeader cX0_nextLeader 4 (Option.some FieldType.int) [(0, 9, 12, 13)]) 16 396 [va_rf p0, .int p1, va_rf p2] h0 (ovi x) h1 := by
  refine ct_ofH hl [some (va_rf p0), some (.int p1), some (va_rf p2), none] (by decide) (by rw [lgl]; simp [va_rf_cat, cat_i, cat_l]) (by simp [lv_args, vsL, va_rf_cat, cat_i, cat_l]) (fun Γ => ?_)
  obtain ⟨o, ho⟩ : ∃ o : Int32 × PH, o = (x, h1) := ⟨_, rfl⟩
  rw [← ho] at hf
  have e1 : x = o.1 := by rw [ho]
  have e2 : h1 = o.2 := by rw [ho]
  subst e1 e2
  clear ho
  show PF Γ mi_X0_nextLeader D h0 (QR Γ D h0 (ovi o.1) o.2) h0 0 [some (va_rf p0), some (.int p1), some (va_rf p2), none] []
  unfold f_X0_nextLeader at hf
  refine j_aload_n 2 dX0_nextLeader_0 rfl rfl ?_
  refine j_iconst (0 : Int32) dX0_nextLeader_1 (by decide) ?_
  refine j_aload_n 0 dX0_nextLeader_2 rfl rfl ?_
  refine j_iload_n 1 dX0_nextLeader_3 rfl rfl ?_
  refine kc_X0_106 rfl rfl rfl (by simp [va_rf_cat, cat_i, cat_l]) dX0_nextLeader_4 hf (fun v2 h1 hf => ?_) (fun ci9 q9 h1 fs9 he9 hf => ?_)
  · refine j_i2l dX0_nextLeader_7 ?_
    refine j_last dX0_nextLeader_8 hf (fun h3 hf => ?_)
    refine j_goto 15 dX0_nextLeader_9 (by decide) ?_
    refine j_iconst (0 : Int32) dX0_nextLeader_15 (by decide) ?_
    have e9 := Option.some.inj hf
    subst e9
    exact j_iret rfl dX0_nextLeader_16
  · by_cases x13 : ci9 = 20
    · subst x13
      replace hf := if_t hf rfl
      obtain ⟨hb9, hf⟩ := if_none hf
      refine j_catch (ci := 20) [] ⟨0, 9, 12, 13⟩ [] rfl (fun _ h => absurd h List.not_mem_nil) rfl (by decide) q1689 q187 hb9 he9 ?_
      refine j_astore_n 3 [some (va_rf p0), some (.int p1), some (va_rf p2), some (va_rf (some q9))] dX0_nextLeader_12 rfl (cz (va_rf_cat _)) rfl rfl ?_
      refine j_iconst (1 : Int32) dX0_nextLeader_13 (by decide) ?_
      have e9 := Option.some.inj hf
      subst e9
      exact j_iret rfl dX0_nextLeader_14
    · replace hf := if_f hf x13
      cases hf
theorem kc_X0_109 {Γ : GX} {I : MI} {D : va_G} {h0 : PH} {Q : State → Prop} {h : PH} {pc : Nat} {vs : List (Option Value)} {rest : List Value} {β : Type} {o : β} {r : Option Nat} {p0 : Int32} {K : (((Nat × Nat) ⊕ Int32) → PH → Option β)} (hI : I.2.2.1 = RX0) (hfr : Nat.ble 16 I.2.2.2.2.2.1 = true) (hlo : Nat.ble 394 I.2.2.2.2.2.2.1 = true) (hW : (rest.map fun v => v.category).sum ≤ 8) (hd : decode I.1 pc = .ok (.invokevirtual 109, 3)) (hf : rv_ h r 0 (cl_ (f_X1_leaderlessTime r p0 h) K) = some o) (kk : ∀ (x : Int32) (h1 : PH), K (.inr x) h1 = some o → PF Γ I D h0 Q h1 (pc + 3) vs (.int x :: rest)) (kx : ∀ (ci q : Nat) (h1 : PH) (fs : List Value), h1.1 q = some (.inr (ci, fs)) → K (.inl (ci, q)) h1 = some o → PX Γ I D h0 Q h1 pc vs q) : PF Γ I D h0 Q h pc vs (.int p0 :: va_rf r :: rest) := by
  obtain ⟨cc, nL, own, rt, xt, fr, lo, nm⟩ := I
  cases hI
  exact j_xVi (n := 1) (y := yX1_leaderlessTime) (cc2 := cX1_leaderlessTime) (As := [.int p0]) (C := RX1) (ci := 0) rfl (lw_V q2077 q2078 q2079 q90 q2080) hyV_X1_leaderlessTime hfr hlo rfl hW hd (c_X1_leaderlessTime r p0) hf _ rfl kk kx
abbrev mi_X0_leaderlessTime : MI := (cX0_leaderlessTime, 4, RX0, (Option.some FieldType.int), tableOf [(0, 9, 12, 13)], 16, 394, "leaderlessTime")
def f_X0_leaderlessTime (p0 : Option Nat) (p1 : Int32) (p2 : Option Nat) (h0 : PH) : Option (Int32 × PH) := rv_ h0 p0 0 (cl_ (f_X1_leaderlessTime p0 p1 h0) fun z9 h1 => match z9 with | .inl (ci9, q9) => ((if ci9 = 20 then (if pbase h1 ≤ q9 then (some ((1 : Int32), h1)) else none) else none)) | .inr v2 => (sL h1 p2 2 (0 : Int32) (v2.toInt64) fun h3 => some ((0 : Int32), h3)))
theorem hyS_X0_leaderlessTime : yX0_leaderlessTime.cls ≠ "java/lang/invoke/MethodHandle" ∧ yX0_leaderlessTime.cls ≠ "java/lang/invoke/VarHandle" ∧ (parseMethodDescriptor yX0_leaderlessTime.desc).map (fun d => d.parameters.length) = some 3 := by decide +kernel
theorem c_X0_leaderlessTime {D : va_G} (p0 : Option Nat) (p1 : Int32) (p2 : Option Nat) {h0 : PH} (l : Launch) (hl : l.stackTraces = false) (x : Int32) (h1 : PH) (hf : f_X0_leaderlessTime p0 p1 p2 h0 = some (x, h1)) : CT l D yX0_leaderlessTime (wsW_ yX0_leaderlessTime cX0_leaderlessTime 4 (Option.some FieldType.int) [(0, 9, 12, 13)]) 16 394 [va_rf p0, .int p1, va_rf p2] h0 (ovi x) h1 := by
  refine ct_ofH hl [some (va_rf p0), some (.int p1), some (va_rf p2), none] (by decide) (by rw [lgl]; simp [va_rf_cat, cat_i, cat_l]) (by simp [lv_args, vsL, va_rf_cat, cat_i, cat_l]) (fun Γ => ?_)
  obtain ⟨o, ho⟩ : ∃ o : Int32 × PH, o = (x, h1) := ⟨_, rfl⟩
  rw [← ho] at hf
  have e1 : x = o.1 := by rw [ho]
  have e2 : h1 = o.2 := by rw [ho]
  subst e1 e2
  clear ho
  show PF Γ mi_X0_leaderlessTime D h0 (QR Γ D h0 (ovi o.1) o.2) h0 0 [some (va_rf p0), some (.int p1), some (va_rf p2), none] []
  unfold f_X0_leaderlessTime at hf
  refine j_aload_n 2 dX0_leaderlessTime_0 rfl rfl ?_
  refine j_iconst (0 : Int32) dX0_leaderlessTime_1 (by decide) ?_
  refine j_aload_n 0 dX0_leaderlessTime_2 rfl rfl ?_
  refine j_iload_n 1 dX0_leaderlessTime_3 rfl rfl ?_
  refine kc_X0_109 rfl rfl rfl (by simp [va_rf_cat, cat_i, cat_l]) dX0_leaderlessTime_4 hf (fun v2 h1 hf => ?_) (fun ci9 q9 h1 fs9 he9 hf => ?_)
  · refine j_i2l dX0_leaderlessTime_7 ?_
    refine j_last dX0_leaderlessTime_8 hf (fun h3 hf => ?_)
    refine j_goto 15 dX0_leaderlessTime_9 (by decide) ?_
    refine j_iconst (0 : Int32) dX0_leaderlessTime_15 (by decide) ?_
    have e9 := Option.some.inj hf
    subst e9
    exact j_iret rfl dX0_leaderlessTime_16
  · by_cases x13 : ci9 = 20
    · subst x13
      replace hf := if_t hf rfl
      obtain ⟨hb9, hf⟩ := if_none hf
      refine j_catch (ci := 20) [] ⟨0, 9, 12, 13⟩ [] rfl (fun _ h => absurd h List.not_mem_nil) rfl (by decide) q1689 q187 hb9 he9 ?_
      refine j_astore_n 3 [some (va_rf p0), some (.int p1), some (va_rf p2), some (va_rf (some q9))] dX0_leaderlessTime_12 rfl (cz (va_rf_cat _)) rfl rfl ?_
      refine j_iconst (1 : Int32) dX0_leaderlessTime_13 (by decide) ?_
      have e9 := Option.some.inj hf
      subst e9
      exact j_iret rfl dX0_leaderlessTime_14
    · replace hf := if_f hf x13
      cases hf
theorem kc_X0_112 {Γ : GX} {I : MI} {D : va_G} {h0 : PH} {Q : State → Prop} {h : PH} {pc : Nat} {vs : List (Option Value)} {rest : List Value} {β : Type} {o : β} {r : Option Nat} {p0 : Int32} {K : (((Nat × Nat) ⊕ Int32) → PH → Option β)} (hI : I.2.2.1 = RX0) (hfr : Nat.ble 8 I.2.2.2.2.2.1 = true) (hlo : Nat.ble 132 I.2.2.2.2.2.2.1 = true) (hW : (rest.map fun v => v.category).sum ≤ 8) (hd : decode I.1 pc = .ok (.invokevirtual 112, 3)) (hf : rv_ h r 0 (cl_ (f_X1_leaseLeft r p0 h) K) = some o) (kk : ∀ (x : Int32) (h1 : PH), K (.inr x) h1 = some o → PF Γ I D h0 Q h1 (pc + 3) vs (.int x :: rest)) (kx : ∀ (ci q : Nat) (h1 : PH) (fs : List Value), h1.1 q = some (.inr (ci, fs)) → K (.inl (ci, q)) h1 = some o → PX Γ I D h0 Q h1 pc vs q) : PF Γ I D h0 Q h pc vs (.int p0 :: va_rf r :: rest) := by
  obtain ⟨cc, nL, own, rt, xt, fr, lo, nm⟩ := I
  cases hI
  exact j_xVi (n := 1) (y := yX1_leaseLeft) (cc2 := cX1_leaseLeft) (As := [.int p0]) (C := RX1) (ci := 0) rfl (lw_V q2084 q2085 q2086 q90 q2087) hyV_X1_leaseLeft hfr hlo rfl hW hd (c_X1_leaseLeft r p0) hf _ rfl kk kx
abbrev mi_X0_leaseLeft : MI := (cX0_leaseLeft, 4, RX0, (Option.some FieldType.int), tableOf [(0, 9, 12, 21)], 8, 132, "leaseLeft")
def f_X0_leaseLeft (p0 : Option Nat) (p1 : Int32) (p2 : Option Nat) (h0 : PH) : Option (Int32 × PH) := rv_ h0 p0 0 (cl_ (f_X1_leaseLeft p0 p1 h0) fun z9 h1 => match z9 with | .inl (ci9, q9) => ((if ci9 = 24 then (if pbase h1 ≤ q9 then (some ((1 : Int32), h1)) else none) else none)) | .inr v2 => (sL h1 p2 2 (0 : Int32) (v2.toInt64) fun h3 => some ((0 : Int32), h3)))
theorem hyS_X0_leaseLeft : yX0_leaseLeft.cls ≠ "java/lang/invoke/MethodHandle" ∧ yX0_leaseLeft.cls ≠ "java/lang/invoke/VarHandle" ∧ (parseMethodDescriptor yX0_leaseLeft.desc).map (fun d => d.parameters.length) = some 3 := by decide +kernel
theorem c_X0_leaseLeft {D : va_G} (p0 : Option Nat) (p1 : Int32) (p2 : Option Nat) {h0 : PH} (l : Launch) (hl : l.stackTraces = false) (x : Int32) (h1 : PH) (hf : f_X0_leaseLeft p0 p1 p2 h0 = some (x, h1)) : CT l D yX0_leaseLeft (wsW_ yX0_leaseLeft cX0_leaseLeft 4 (Option.some FieldType.int) [(0, 9, 12, 21)]) 8 132 [va_rf p0, .int p1, va_rf p2] h0 (ovi x) h1 := by
  refine ct_ofH hl [some (va_rf p0), some (.int p1), some (va_rf p2), none] (by decide) (by rw [lgl]; simp [va_rf_cat, cat_i, cat_l]) (by simp [lv_args, vsL, va_rf_cat, cat_i, cat_l]) (fun Γ => ?_)
  obtain ⟨o, ho⟩ : ∃ o : Int32 × PH, o = (x, h1) := ⟨_, rfl⟩
  rw [← ho] at hf
  have e1 : x = o.1 := by rw [ho]
  have e2 : h1 = o.2 := by rw [ho]
  subst e1 e2
  clear ho
  show PF Γ mi_X0_leaseLeft D h0 (QR Γ D h0 (ovi o.1) o.2) h0 0 [some (va_rf p0), some (.int p1), some (va_rf p2), none] []
  unfold f_X0_leaseLeft at hf
  refine j_aload_n 2 dX0_leaseLeft_0 rfl rfl ?_
  refine j_iconst (0 : Int32) dX0_leaseLeft_1 (by decide) ?_
  refine j_aload_n 0 dX0_leaseLeft_2 rfl rfl ?_
  refine j_iload_n 1 dX0_leaseLeft_3 rfl rfl ?_
  refine kc_X0_112 rfl rfl rfl (by simp [va_rf_cat, cat_i, cat_l]) dX0_leaseLeft_4 hf (fun v2 h1 hf => ?_) (fun ci9 q9 h1 fs9 he9 hf => ?_)
  · refine j_i2l dX0_leaseLeft_7 ?_
    refine j_last dX0_leaseLeft_8 hf (fun h3 hf => ?_)
    refine j_goto 15 dX0_leaseLeft_9 (by decide) ?_
    refine j_iconst (0 : Int32) dX0_leaseLeft_15 (by decide) ?_
    have e9 := Option.some.inj hf
    subst e9
    exact j_iret rfl dX0_leaseLeft_16
  · by_cases x21 : ci9 = 24
    · subst x21
      replace hf := if_t hf rfl
      obtain ⟨hb9, hf⟩ := if_none hf
      refine j_catch (ci := 24) [] ⟨0, 9, 12, 21⟩ [] rfl (fun _ h => absurd h List.not_mem_nil) rfl (by decide) q1721 q1750 hb9 he9 ?_
      refine j_astore_n 3 [some (va_rf p0), some (.int p1), some (va_rf p2), some (va_rf (some q9))] dX0_leaseLeft_12 rfl (cz (va_rf_cat _)) rfl rfl ?_
      refine j_iconst (1 : Int32) dX0_leaseLeft_13 (by decide) ?_
      have e9 := Option.some.inj hf
      subst e9
      exact j_iret rfl dX0_leaseLeft_14
    · replace hf := if_f hf x21
      cases hf
theorem kc_X0_115 {Γ : GX} {I : MI} {D : va_G} {h0 : PH} {Q : State → Prop} {h : PH} {pc : Nat} {vs : List (Option Value)} {rest : List Value} {β : Type} {o : β} {r : Option Nat} {p0 : Int32} {p1 : Int32} {K : (((Nat × Nat) ⊕ Int32) → PH → Option β)} (hI : I.2.2.1 = RX0) (hfr : Nat.ble 8 I.2.2.2.2.2.1 = true) (hlo : Nat.ble 134 I.2.2.2.2.2.2.1 = true) (hW : (rest.map fun v => v.category).sum ≤ 8) (hd : decode I.1 pc = .ok (.invokevirtual 115, 3)) (hf : rv_ h r 0 (cl_ (f_X1_countInLog r p0 p1 h) K) = some o) (kk : ∀ (x : Int32) (h1 : PH), K (.inr x) h1 = some o → PF Γ I D h0 Q h1 (pc + 3) vs (.int x :: rest)) (kx : ∀ (ci q : Nat) (h1 : PH) (fs : List Value), h1.1 q = some (.inr (ci, fs)) → K (.inl (ci, q)) h1 = some o → PX Γ I D h0 Q h1 pc vs q) : PF Γ I D h0 Q h pc vs (.int p1 :: .int p0 :: va_rf r :: rest) := by
  obtain ⟨cc, nL, own, rt, xt, fr, lo, nm⟩ := I
  cases hI
  exact j_xVi (n := 2) (y := yX1_countInLog) (cc2 := cX1_countInLog) (As := [.int p0, .int p1]) (C := RX1) (ci := 0) rfl (lw_V q2091 q2092 q2093 q90 q2094) hyV_X1_countInLog hfr hlo rfl hW hd (c_X1_countInLog r p0 p1) hf _ rfl kk kx
abbrev mi_X0_countInLog : MI := (cX0_countInLog, 5, RX0, (Option.some FieldType.int), tableOf [(0, 10, 13, 21), (0, 10, 17, 13)], 8, 134, "countInLog")
def f_X0_countInLog (p0 : Option Nat) (p1 : Int32) (p2 : Int32) (p3 : Option Nat) (h0 : PH) : Option (Int32 × PH) := rv_ h0 p0 0 (cl_ (f_X1_countInLog p0 p1 p2 h0) fun z9 h1 => match z9 with | .inl (ci9, q9) => ((if ci9 = 24 then (if pbase h1 ≤ q9 then (some ((1 : Int32), h1)) else none) else (if ci9 = 20 then (if pbase h1 ≤ q9 then (some ((2 : Int32), h1)) else none) else none))) | .inr v2 => (sL h1 p3 2 (0 : Int32) (v2.toInt64) fun h3 => some ((0 : Int32), h3)))
theorem hyS_X0_countInLog : yX0_countInLog.cls ≠ "java/lang/invoke/MethodHandle" ∧ yX0_countInLog.cls ≠ "java/lang/invoke/VarHandle" ∧ (parseMethodDescriptor yX0_countInLog.desc).map (fun d => d.parameters.length) = some 4 := by decide +kernel
theorem c_X0_countInLog {D : va_G} (p0 : Option Nat) (p1 : Int32) (p2 : Int32) (p3 : Option Nat) {h0 : PH} (l : Launch) (hl : l.stackTraces = false) (x : Int32) (h1 : PH) (hf : f_X0_countInLog p0 p1 p2 p3 h0 = some (x, h1)) : CT l D yX0_countInLog (wsW_ yX0_countInLog cX0_countInLog 5 (Option.some FieldType.int) [(0, 10, 13, 21), (0, 10, 17, 13)]) 8 134 [va_rf p0, .int p1, .int p2, va_rf p3] h0 (ovi x) h1 := by
  refine ct_ofH hl [some (va_rf p0), some (.int p1), some (.int p2), some (va_rf p3), none] (by decide) (by rw [lgl]; simp [va_rf_cat, cat_i, cat_l]) (by simp [lv_args, vsL, va_rf_cat, cat_i, cat_l]) (fun Γ => ?_)
  obtain ⟨o, ho⟩ : ∃ o : Int32 × PH, o = (x, h1) := ⟨_, rfl⟩
  rw [← ho] at hf
  have e1 : x = o.1 := by rw [ho]
  have e2 : h1 = o.2 := by rw [ho]
  subst e1 e2
  clear ho
  show PF Γ mi_X0_countInLog D h0 (QR Γ D h0 (ovi o.1) o.2) h0 0 [some (va_rf p0), some (.int p1), some (.int p2), some (va_rf p3), none] []
  unfold f_X0_countInLog at hf
  refine j_aload_n 3 dX0_countInLog_0 rfl rfl ?_
  refine j_iconst (0 : Int32) dX0_countInLog_1 (by decide) ?_
  refine j_aload_n 0 dX0_countInLog_2 rfl rfl ?_
  refine j_iload_n 1 dX0_countInLog_3 rfl rfl ?_
  refine j_iload_n 2 dX0_countInLog_4 rfl rfl ?_
  refine kc_X0_115 rfl rfl rfl (by simp [va_rf_cat, cat_i, cat_l]) dX0_countInLog_5 hf (fun v2 h1 hf => ?_) (fun ci9 q9 h1 fs9 he9 hf => ?_)
  · refine j_i2l dX0_countInLog_8 ?_
    refine j_last dX0_countInLog_9 hf (fun h3 hf => ?_)
    refine j_goto 21 dX0_countInLog_10 (by decide) ?_
    refine j_iconst (0 : Int32) dX0_countInLog_21 (by decide) ?_
    have e9 := Option.some.inj hf
    subst e9
    exact j_iret rfl dX0_countInLog_22
  · by_cases x21 : ci9 = 24
    · subst x21
      replace hf := if_t hf rfl
      obtain ⟨hb9, hf⟩ := if_none hf
      refine j_catch (ci := 24) [] ⟨0, 10, 13, 21⟩ [⟨0, 10, 17, 13⟩] rfl (fun _ h => absurd h List.not_mem_nil) rfl (by decide) q1721 q1750 hb9 he9 ?_
      refine j_astore [some (va_rf p0), some (.int p1), some (.int p2), some (va_rf p3), some (va_rf (some q9))] dX0_countInLog_13 (cz (va_rf_cat _)) rfl rfl ?_
      refine j_iconst (1 : Int32) dX0_countInLog_15 (by decide) ?_
      have e9 := Option.some.inj hf
      subst e9
      exact j_iret rfl dX0_countInLog_16
    · replace hf := if_f hf x21
      by_cases x13 : ci9 = 20
      · subst x13
        replace hf := if_t hf rfl
        obtain ⟨hb9, hf⟩ := if_none hf
        refine j_catch (ci := 20) [⟨0, 10, 13, 21⟩] ⟨0, 10, 17, 13⟩ [] rfl (List.forall_mem_cons.mpr ⟨Or.inr ⟨by decide, _, q1721, by decide +kernel⟩, fun _ h => absurd h List.not_mem_nil⟩) rfl (by decide) q1689 q187 hb9 he9 ?_
        refine j_astore [some (va_rf p0), some (.int p1), some (.int p2), some (va_rf p3), some (va_rf (some q9))] dX0_countInLog_17 (cz (va_rf_cat _)) rfl rfl ?_
        refine j_iconst (2 : Int32) dX0_countInLog_19 (by decide) ?_
        have e9 := Option.some.inj hf
        subst e9
        exact j_iret rfl dX0_countInLog_20
      · replace hf := if_f hf x13
        cases hf
theorem kc_X0_118 {Γ : GX} {I : MI} {D : va_G} {h0 : PH} {Q : State → Prop} {h : PH} {pc : Nat} {vs : List (Option Value)} {rest : List Value} {β : Type} {o : β} {r : Option Nat} {p0 : Int32} {K : (((Nat × Nat) ⊕ Int32) → PH → Option β)} (hI : I.2.2.1 = RX0) (hfr : Nat.ble 8 I.2.2.2.2.2.1 = true) (hlo : Nat.ble 131 I.2.2.2.2.2.2.1 = true) (hW : (rest.map fun v => v.category).sum ≤ 8) (hd : decode I.1 pc = .ok (.invokevirtual 118, 3)) (hf : rv_ h r 0 (cl_ (f_X1_lastEventTime r p0 h) K) = some o) (kk : ∀ (x : Int32) (h1 : PH), K (.inr x) h1 = some o → PF Γ I D h0 Q h1 (pc + 3) vs (.int x :: rest)) (kx : ∀ (ci q : Nat) (h1 : PH) (fs : List Value), h1.1 q = some (.inr (ci, fs)) → K (.inl (ci, q)) h1 = some o → PX Γ I D h0 Q h1 pc vs q) : PF Γ I D h0 Q h pc vs (.int p0 :: va_rf r :: rest) := by
  obtain ⟨cc, nL, own, rt, xt, fr, lo, nm⟩ := I
  cases hI
  exact j_xVi (n := 1) (y := yX1_lastEventTime) (cc2 := cX1_lastEventTime) (As := [.int p0]) (C := RX1) (ci := 0) rfl (lw_V q2098 q2099 q2100 q90 q2101) hyV_X1_lastEventTime hfr hlo rfl hW hd (c_X1_lastEventTime r p0) hf _ rfl kk kx
abbrev mi_X0_lastEventTime : MI := (cX0_lastEventTime, 4, RX0, (Option.some FieldType.int), tableOf [(0, 9, 12, 13)], 8, 131, "lastEventTime")
def f_X0_lastEventTime (p0 : Option Nat) (p1 : Int32) (p2 : Option Nat) (h0 : PH) : Option (Int32 × PH) := rv_ h0 p0 0 (cl_ (f_X1_lastEventTime p0 p1 h0) fun z9 h1 => match z9 with | .inl (ci9, q9) => ((if ci9 = 20 then (if pbase h1 ≤ q9 then (some ((1 : Int32), h1)) else none) else none)) | .inr v2 => (sL h1 p2 2 (0 : Int32) (v2.toInt64) fun h3 => some ((0 : Int32), h3)))
theorem hyS_X0_lastEventTime : yX0_lastEventTime.cls ≠ "java/lang/invoke/MethodHandle" ∧ yX0_lastEventTime.cls ≠ "java/lang/invoke/VarHandle" ∧ (parseMethodDescriptor yX0_lastEventTime.desc).map (fun d => d.parameters.length) = some 3 := by decide +kernel
theorem c_X0_lastEventTime {D : va_G} (p0 : Option Nat) (p1 : Int32) (p2 : Option Nat) {h0 : PH} (l : Launch) (hl : l.stackTraces = false) (x : Int32) (h1 : PH) (hf : f_X0_lastEventTime p0 p1 p2 h0 = some (x, h1)) : CT l D yX0_lastEventTime (wsW_ yX0_lastEventTime cX0_lastEventTime 4 (Option.some FieldType.int) [(0, 9, 12, 13)]) 8 131 [va_rf p0, .int p1, va_rf p2] h0 (ovi x) h1 := by
  refine ct_ofH hl [some (va_rf p0), some (.int p1), some (va_rf p2), none] (by decide) (by rw [lgl]; simp [va_rf_cat, cat_i, cat_l]) (by simp [lv_args, vsL, va_rf_cat, cat_i, cat_l]) (fun Γ => ?_)
  obtain ⟨o, ho⟩ : ∃ o : Int32 × PH, o = (x, h1) := ⟨_, rfl⟩
  rw [← ho] at hf
  have e1 : x = o.1 := by rw [ho]
  have e2 : h1 = o.2 := by rw [ho]
  subst e1 e2
  clear ho
  show PF Γ mi_X0_lastEventTime D h0 (QR Γ D h0 (ovi o.1) o.2) h0 0 [some (va_rf p0), some (.int p1), some (va_rf p2), none] []
  unfold f_X0_lastEventTime at hf
  refine j_aload_n 2 dX0_lastEventTime_0 rfl rfl ?_
  refine j_iconst (0 : Int32) dX0_lastEventTime_1 (by decide) ?_
  refine j_aload_n 0 dX0_lastEventTime_2 rfl rfl ?_
  refine j_iload_n 1 dX0_lastEventTime_3 rfl rfl ?_
  refine kc_X0_118 rfl rfl rfl (by simp [va_rf_cat, cat_i, cat_l]) dX0_lastEventTime_4 hf (fun v2 h1 hf => ?_) (fun ci9 q9 h1 fs9 he9 hf => ?_)
  · refine j_i2l dX0_lastEventTime_7 ?_
    refine j_last dX0_lastEventTime_8 hf (fun h3 hf => ?_)
    refine j_goto 15 dX0_lastEventTime_9 (by decide) ?_
    refine j_iconst (0 : Int32) dX0_lastEventTime_15 (by decide) ?_
    have e9 := Option.some.inj hf
    subst e9
    exact j_iret rfl dX0_lastEventTime_16
  · by_cases x13 : ci9 = 20
    · subst x13
      replace hf := if_t hf rfl
      obtain ⟨hb9, hf⟩ := if_none hf
      refine j_catch (ci := 20) [] ⟨0, 9, 12, 13⟩ [] rfl (fun _ h => absurd h List.not_mem_nil) rfl (by decide) q1689 q187 hb9 he9 ?_
      refine j_astore_n 3 [some (va_rf p0), some (.int p1), some (va_rf p2), some (va_rf (some q9))] dX0_lastEventTime_12 rfl (cz (va_rf_cat _)) rfl rfl ?_
      refine j_iconst (1 : Int32) dX0_lastEventTime_13 (by decide) ?_
      have e9 := Option.some.inj hf
      subst e9
      exact j_iret rfl dX0_lastEventTime_14
    · replace hf := if_f hf x13
      cases hf
theorem kc_X0_121 {Γ : GX} {I : MI} {D : va_G} {h0 : PH} {Q : State → Prop} {h : PH} {pc : Nat} {vs : List (Option Value)} {rest : List Value} {β : Type} {o : β} {r : Option Nat} {p0 : Int32} {p1 : Int32} {K : (((Nat × Nat) ⊕ Int32) → PH → Option β)} (hI : I.2.2.1 = RX0) (hfr : Nat.ble 16 I.2.2.2.2.2.1 = true) (hlo : Nat.ble 396 I.2.2.2.2.2.2.1 = true) (hW : (rest.map fun v => v.category).sum ≤ 8) (hd : decode I.1 pc = .ok (.invokevirtual 121, 3)) (hf : rv_ h r 0 (cl_ (f_X1_timeUntilLeader r p0 p1 h) K) = some o) (kk : ∀ (x : Int32) (h1 : PH), K (.inr x) h1 = some o → PF Γ I D h0 Q h1 (pc + 3) vs (.int x :: rest)) (kx : ∀ (ci q : Nat) (h1 : PH) (fs : List Value), h1.1 q = some (.inr (ci, fs)) → K (.inl (ci, q)) h1 = some o → PX Γ I D h0 Q h1 pc vs q) : PF Γ I D h0 Q h pc vs (.int p1 :: .int p0 :: va_rf r :: rest) := by
  obtain ⟨cc, nL, own, rt, xt, fr, lo, nm⟩ := I
  cases hI
  exact j_xVi (n := 2) (y := yX1_timeUntilLeader) (cc2 := cX1_timeUntilLeader) (As := [.int p0, .int p1]) (C := RX1) (ci := 0) rfl (lw_V q2105 q2106 q2107 q90 q2108) hyV_X1_timeUntilLeader hfr hlo rfl hW hd (c_X1_timeUntilLeader r p0 p1) hf _ rfl kk kx
abbrev mi_X0_timeUntilLeader : MI := (cX0_timeUntilLeader, 5, RX0, (Option.some FieldType.int), tableOf [(0, 10, 13, 21), (0, 10, 17, 13)], 16, 396, "timeUntilLeader")
def f_X0_timeUntilLeader (p0 : Option Nat) (p1 : Int32) (p2 : Int32) (p3 : Option Nat) (h0 : PH) : Option (Int32 × PH) := rv_ h0 p0 0 (cl_ (f_X1_timeUntilLeader p0 p1 p2 h0) fun z9 h1 => match z9 with | .inl (ci9, q9) => ((if ci9 = 24 then (if pbase h1 ≤ q9 then (some ((1 : Int32), h1)) else none) else (if ci9 = 20 then (if pbase h1 ≤ q9 then (some ((2 : Int32), h1)) else none) else none))) | .inr v2 => (sL h1 p3 2 (0 : Int32) (v2.toInt64) fun h3 => some ((0 : Int32), h3)))
theorem hyS_X0_timeUntilLeader : yX0_timeUntilLeader.cls ≠ "java/lang/invoke/MethodHandle" ∧ yX0_timeUntilLeader.cls ≠ "java/lang/invoke/VarHandle" ∧ (parseMethodDescriptor yX0_timeUntilLeader.desc).map (fun d => d.parameters.length) = some 4 := by decide +kernel
theorem c_X0_timeUntilLeader {D : va_G} (p0 : Option Nat) (p1 : Int32) (p2 : Int32) (p3 : Option Nat) {h0 : PH} (l : Launch) (hl : l.stackTraces = false) (x : Int32) (h1 : PH) (hf : f_X0_timeUntilLeader p0 p1 p2 p3 h0 = some (x, h1)) : CT l D yX0_timeUntilLeader (wsW_ yX0_timeUntilLeader cX0_timeUntilLeader 5 (Option.some FieldType.int) [(0, 10, 13, 21), (0, 10, 17, 13)]) 16 396 [va_rf p0, .int p1, .int p2, va_rf p3] h0 (ovi x) h1 := by
  refine ct_ofH hl [some (va_rf p0), some (.int p1), some (.int p2), some (va_rf p3), none] (by decide) (by rw [lgl]; simp [va_rf_cat, cat_i, cat_l]) (by simp [lv_args, vsL, va_rf_cat, cat_i, cat_l]) (fun Γ => ?_)
  obtain ⟨o, ho⟩ : ∃ o : Int32 × PH, o = (x, h1) := ⟨_, rfl⟩
  rw [← ho] at hf
  have e1 : x = o.1 := by rw [ho]
  have e2 : h1 = o.2 := by rw [ho]
  subst e1 e2
  clear ho
  show PF Γ mi_X0_timeUntilLeader D h0 (QR Γ D h0 (ovi o.1) o.2) h0 0 [some (va_rf p0), some (.int p1), some (.int p2), some (va_rf p3), none] []
  unfold f_X0_timeUntilLeader at hf
  refine j_aload_n 3 dX0_timeUntilLeader_0 rfl rfl ?_
  refine j_iconst (0 : Int32) dX0_timeUntilLeader_1 (by decide) ?_
  refine j_aload_n 0 dX0_timeUntilLeader_2 rfl rfl ?_
  refine j_iload_n 1 dX0_timeUntilLeader_3 rfl rfl ?_
  refine j_iload_n 2 dX0_timeUntilLeader_4 rfl rfl ?_
  refine kc_X0_121 rfl rfl rfl (by simp [va_rf_cat, cat_i, cat_l]) dX0_timeUntilLeader_5 hf (fun v2 h1 hf => ?_) (fun ci9 q9 h1 fs9 he9 hf => ?_)
  · refine j_i2l dX0_timeUntilLeader_8 ?_
    refine j_last dX0_timeUntilLeader_9 hf (fun h3 hf => ?_)
    refine j_goto 21 dX0_timeUntilLeader_10 (by decide) ?_
    refine j_iconst (0 : Int32) dX0_timeUntilLeader_21 (by decide) ?_
    have e9 := Option.some.inj hf
    subst e9
    exact j_iret rfl dX0_timeUntilLeader_22
  · by_cases x21 : ci9 = 24
    · subst x21
      replace hf := if_t hf rfl
      obtain ⟨hb9, hf⟩ := if_none hf
      refine j_catch (ci := 24) [] ⟨0, 10, 13, 21⟩ [⟨0, 10, 17, 13⟩] rfl (fun _ h => absurd h List.not_mem_nil) rfl (by decide) q1721 q1750 hb9 he9 ?_
      refine j_astore [some (va_rf p0), some (.int p1), some (.int p2), some (va_rf p3), some (va_rf (some q9))] dX0_timeUntilLeader_13 (cz (va_rf_cat _)) rfl rfl ?_
      refine j_iconst (1 : Int32) dX0_timeUntilLeader_15 (by decide) ?_
      have e9 := Option.some.inj hf
      subst e9
      exact j_iret rfl dX0_timeUntilLeader_16
    · replace hf := if_f hf x21
      by_cases x13 : ci9 = 20
      · subst x13
        replace hf := if_t hf rfl
        obtain ⟨hb9, hf⟩ := if_none hf
        refine j_catch (ci := 20) [⟨0, 10, 13, 21⟩] ⟨0, 10, 17, 13⟩ [] rfl (List.forall_mem_cons.mpr ⟨Or.inr ⟨by decide, _, q1721, by decide +kernel⟩, fun _ h => absurd h List.not_mem_nil⟩) rfl (by decide) q1689 q187 hb9 he9 ?_
        refine j_astore [some (va_rf p0), some (.int p1), some (.int p2), some (va_rf p3), some (va_rf (some q9))] dX0_timeUntilLeader_17 (cz (va_rf_cat _)) rfl rfl ?_
        refine j_iconst (2 : Int32) dX0_timeUntilLeader_19 (by decide) ?_
        have e9 := Option.some.inj hf
        subst e9
        exact j_iret rfl dX0_timeUntilLeader_20
      · replace hf := if_f hf x13
        cases hf
theorem kc_X0_124 {Γ : GX} {I : MI} {D : va_G} {h0 : PH} {Q : State → Prop} {h : PH} {pc : Nat} {vs : List (Option Value)} {rest : List Value} {β : Type} {o : β} {r : Option Nat} {p0 : Int32} {K : (((Nat × Nat) ⊕ Int32) → PH → Option β)} (hI : I.2.2.1 = RX0) (hfr : Nat.ble 16 I.2.2.2.2.2.1 = true) (hlo : Nat.ble 397 I.2.2.2.2.2.2.1 = true) (hW : (rest.map fun v => v.category).sum ≤ 8) (hd : decode I.1 pc = .ok (.invokevirtual 124, 3)) (hf : rv_ h r 0 (cl_ (f_X1_longestLeaderless r p0 h) K) = some o) (kk : ∀ (x : Int32) (h1 : PH), K (.inr x) h1 = some o → PF Γ I D h0 Q h1 (pc + 3) vs (.int x :: rest)) (kx : ∀ (ci q : Nat) (h1 : PH) (fs : List Value), h1.1 q = some (.inr (ci, fs)) → K (.inl (ci, q)) h1 = some o → PX Γ I D h0 Q h1 pc vs q) : PF Γ I D h0 Q h pc vs (.int p0 :: va_rf r :: rest) := by
  obtain ⟨cc, nL, own, rt, xt, fr, lo, nm⟩ := I
  cases hI
  exact j_xVi (n := 1) (y := yX1_longestLeaderless) (cc2 := cX1_longestLeaderless) (As := [.int p0]) (C := RX1) (ci := 0) rfl (lw_V q2120 q2121 q2122 q90 q2123) hyV_X1_longestLeaderless hfr hlo rfl hW hd (c_X1_longestLeaderless r p0) hf _ rfl kk kx
abbrev mi_X0_longestLeaderless : MI := (cX0_longestLeaderless, 4, RX0, (Option.some FieldType.int), tableOf [(0, 9, 12, 13)], 16, 397, "longestLeaderless")
def f_X0_longestLeaderless (p0 : Option Nat) (p1 : Int32) (p2 : Option Nat) (h0 : PH) : Option (Int32 × PH) := rv_ h0 p0 0 (cl_ (f_X1_longestLeaderless p0 p1 h0) fun z9 h1 => match z9 with | .inl (ci9, q9) => ((if ci9 = 20 then (if pbase h1 ≤ q9 then (some ((1 : Int32), h1)) else none) else none)) | .inr v2 => (sL h1 p2 2 (0 : Int32) (v2.toInt64) fun h3 => some ((0 : Int32), h3)))
theorem hyS_X0_longestLeaderless : yX0_longestLeaderless.cls ≠ "java/lang/invoke/MethodHandle" ∧ yX0_longestLeaderless.cls ≠ "java/lang/invoke/VarHandle" ∧ (parseMethodDescriptor yX0_longestLeaderless.desc).map (fun d => d.parameters.length) = some 3 := by decide +kernel
theorem c_X0_longestLeaderless {D : va_G} (p0 : Option Nat) (p1 : Int32) (p2 : Option Nat) {h0 : PH} (l : Launch) (hl : l.stackTraces = false) (x : Int32) (h1 : PH) (hf : f_X0_longestLeaderless p0 p1 p2 h0 = some (x, h1)) : CT l D yX0_longestLeaderless (wsW_ yX0_longestLeaderless cX0_longestLeaderless 4 (Option.some FieldType.int) [(0, 9, 12, 13)]) 16 397 [va_rf p0, .int p1, va_rf p2] h0 (ovi x) h1 := by
  refine ct_ofH hl [some (va_rf p0), some (.int p1), some (va_rf p2), none] (by decide) (by rw [lgl]; simp [va_rf_cat, cat_i, cat_l]) (by simp [lv_args, vsL, va_rf_cat, cat_i, cat_l]) (fun Γ => ?_)
  obtain ⟨o, ho⟩ : ∃ o : Int32 × PH, o = (x, h1) := ⟨_, rfl⟩
  rw [← ho] at hf
  have e1 : x = o.1 := by rw [ho]
  have e2 : h1 = o.2 := by rw [ho]
  subst e1 e2
  clear ho
  show PF Γ mi_X0_longestLeaderless D h0 (QR Γ D h0 (ovi o.1) o.2) h0 0 [some (va_rf p0), some (.int p1), some (va_rf p2), none] []
  unfold f_X0_longestLeaderless at hf
  refine j_aload_n 2 dX0_longestLeaderless_0 rfl rfl ?_
  refine j_iconst (0 : Int32) dX0_longestLeaderless_1 (by decide) ?_
  refine j_aload_n 0 dX0_longestLeaderless_2 rfl rfl ?_
  refine j_iload_n 1 dX0_longestLeaderless_3 rfl rfl ?_
  refine kc_X0_124 rfl rfl rfl (by simp [va_rf_cat, cat_i, cat_l]) dX0_longestLeaderless_4 hf (fun v2 h1 hf => ?_) (fun ci9 q9 h1 fs9 he9 hf => ?_)
  · refine j_i2l dX0_longestLeaderless_7 ?_
    refine j_last dX0_longestLeaderless_8 hf (fun h3 hf => ?_)
    refine j_goto 15 dX0_longestLeaderless_9 (by decide) ?_
    refine j_iconst (0 : Int32) dX0_longestLeaderless_15 (by decide) ?_
    have e9 := Option.some.inj hf
    subst e9
    exact j_iret rfl dX0_longestLeaderless_16
  · by_cases x13 : ci9 = 20
    · subst x13
      replace hf := if_t hf rfl
      obtain ⟨hb9, hf⟩ := if_none hf
      refine j_catch (ci := 20) [] ⟨0, 9, 12, 13⟩ [] rfl (fun _ h => absurd h List.not_mem_nil) rfl (by decide) q1689 q187 hb9 he9 ?_
      refine j_astore_n 3 [some (va_rf p0), some (.int p1), some (va_rf p2), some (va_rf (some q9))] dX0_longestLeaderless_12 rfl (cz (va_rf_cat _)) rfl rfl ?_
      refine j_iconst (1 : Int32) dX0_longestLeaderless_13 (by decide) ?_
      have e9 := Option.some.inj hf
      subst e9
      exact j_iret rfl dX0_longestLeaderless_14
    · replace hf := if_f hf x13
      cases hf
theorem kc_X0_127 {Γ : GX} {I : MI} {D : va_G} {h0 : PH} {Q : State → Prop} {h : PH} {pc : Nat} {vs : List (Option Value)} {rest : List Value} {β : Type} {o : β} {r : Option Nat} {p0 : Int32} {p1 : Int32} {K : (((Nat × Nat) ⊕ Int32) → PH → Option β)} (hI : I.2.2.1 = RX0) (hfr : Nat.ble 17 I.2.2.2.2.2.1 = true) (hlo : Nat.ble 418 I.2.2.2.2.2.2.1 = true) (hW : (rest.map fun v => v.category).sum ≤ 8) (hd : decode I.1 pc = .ok (.invokevirtual 127, 3)) (hf : rv_ h r 0 (cl_ (f_X1_tryWrite r p0 p1 h) K) = some o) (kk : ∀ (x : Int32) (h1 : PH), K (.inr x) h1 = some o → PF Γ I D h0 Q h1 (pc + 3) vs (.int x :: rest)) (kx : ∀ (ci q : Nat) (h1 : PH) (fs : List Value), h1.1 q = some (.inr (ci, fs)) → K (.inl (ci, q)) h1 = some o → PX Γ I D h0 Q h1 pc vs q) : PF Γ I D h0 Q h pc vs (.int p1 :: .int p0 :: va_rf r :: rest) := by
  obtain ⟨cc, nL, own, rt, xt, fr, lo, nm⟩ := I
  cases hI
  exact j_xVi (n := 2) (y := yX1_tryWrite) (cc2 := cX1_tryWrite) (As := [.int p0, .int p1]) (C := RX1) (ci := 0) rfl (lw_V q2135 q2136 q2137 q90 q2138) hyV_X1_tryWrite hfr hlo rfl hW hd (c_X1_tryWrite r p0 p1) hf _ rfl kk kx
abbrev mi_X0_tryWrite : MI := (cX0_tryWrite, 5, RX0, (Option.some FieldType.int), tableOf [(0, 10, 13, 21), (0, 10, 17, 13)], 17, 418, "tryWrite")
def f_X0_tryWrite (p0 : Option Nat) (p1 : Int32) (p2 : Int32) (p3 : Option Nat) (h0 : PH) : Option (Int32 × PH) := rv_ h0 p0 0 (cl_ (f_X1_tryWrite p0 p1 p2 h0) fun z9 h1 => match z9 with | .inl (ci9, q9) => ((if ci9 = 24 then (if pbase h1 ≤ q9 then (some ((1 : Int32), h1)) else none) else (if ci9 = 20 then (if pbase h1 ≤ q9 then (some ((2 : Int32), h1)) else none) else none))) | .inr v2 => (sL h1 p3 2 (0 : Int32) (v2.toInt64) fun h3 => some ((0 : Int32), h3)))
theorem hyS_X0_tryWrite : yX0_tryWrite.cls ≠ "java/lang/invoke/MethodHandle" ∧ yX0_tryWrite.cls ≠ "java/lang/invoke/VarHandle" ∧ (parseMethodDescriptor yX0_tryWrite.desc).map (fun d => d.parameters.length) = some 4 := by decide +kernel
theorem c_X0_tryWrite {D : va_G} (p0 : Option Nat) (p1 : Int32) (p2 : Int32) (p3 : Option Nat) {h0 : PH} (l : Launch) (hl : l.stackTraces = false) (x : Int32) (h1 : PH) (hf : f_X0_tryWrite p0 p1 p2 p3 h0 = some (x, h1)) : CT l D yX0_tryWrite (wsW_ yX0_tryWrite cX0_tryWrite 5 (Option.some FieldType.int) [(0, 10, 13, 21), (0, 10, 17, 13)]) 17 418 [va_rf p0, .int p1, .int p2, va_rf p3] h0 (ovi x) h1 := by
  refine ct_ofH hl [some (va_rf p0), some (.int p1), some (.int p2), some (va_rf p3), none] (by decide) (by rw [lgl]; simp [va_rf_cat, cat_i, cat_l]) (by simp [lv_args, vsL, va_rf_cat, cat_i, cat_l]) (fun Γ => ?_)
  obtain ⟨o, ho⟩ : ∃ o : Int32 × PH, o = (x, h1) := ⟨_, rfl⟩
  rw [← ho] at hf
  have e1 : x = o.1 := by rw [ho]
  have e2 : h1 = o.2 := by rw [ho]
  subst e1 e2
  clear ho
  show PF Γ mi_X0_tryWrite D h0 (QR Γ D h0 (ovi o.1) o.2) h0 0 [some (va_rf p0), some (.int p1), some (.int p2), some (va_rf p3), none] []
  unfold f_X0_tryWrite at hf
  refine j_aload_n 3 dX0_tryWrite_0 rfl rfl ?_
  refine j_iconst (0 : Int32) dX0_tryWrite_1 (by decide) ?_
  refine j_aload_n 0 dX0_tryWrite_2 rfl rfl ?_
  refine j_iload_n 1 dX0_tryWrite_3 rfl rfl ?_
  refine j_iload_n 2 dX0_tryWrite_4 rfl rfl ?_
  refine kc_X0_127 rfl rfl rfl (by simp [va_rf_cat, cat_i, cat_l]) dX0_tryWrite_5 hf (fun v2 h1 hf => ?_) (fun ci9 q9 h1 fs9 he9 hf => ?_)
  · refine j_i2l dX0_tryWrite_8 ?_
    refine j_last dX0_tryWrite_9 hf (fun h3 hf => ?_)
    refine j_goto 21 dX0_tryWrite_10 (by decide) ?_
    refine j_iconst (0 : Int32) dX0_tryWrite_21 (by decide) ?_
    have e9 := Option.some.inj hf
    subst e9
    exact j_iret rfl dX0_tryWrite_22
  · by_cases x21 : ci9 = 24
    · subst x21
      replace hf := if_t hf rfl
      obtain ⟨hb9, hf⟩ := if_none hf
      refine j_catch (ci := 24) [] ⟨0, 10, 13, 21⟩ [⟨0, 10, 17, 13⟩] rfl (fun _ h => absurd h List.not_mem_nil) rfl (by decide) q1721 q1750 hb9 he9 ?_
      refine j_astore [some (va_rf p0), some (.int p1), some (.int p2), some (va_rf p3), some (va_rf (some q9))] dX0_tryWrite_13 (cz (va_rf_cat _)) rfl rfl ?_
      refine j_iconst (1 : Int32) dX0_tryWrite_15 (by decide) ?_
      have e9 := Option.some.inj hf
      subst e9
      exact j_iret rfl dX0_tryWrite_16
    · replace hf := if_f hf x21
      by_cases x13 : ci9 = 20
      · subst x13
        replace hf := if_t hf rfl
        obtain ⟨hb9, hf⟩ := if_none hf
        refine j_catch (ci := 20) [⟨0, 10, 13, 21⟩] ⟨0, 10, 17, 13⟩ [] rfl (List.forall_mem_cons.mpr ⟨Or.inr ⟨by decide, _, q1721, by decide +kernel⟩, fun _ h => absurd h List.not_mem_nil⟩) rfl (by decide) q1689 q187 hb9 he9 ?_
        refine j_astore [some (va_rf p0), some (.int p1), some (.int p2), some (va_rf p3), some (va_rf (some q9))] dX0_tryWrite_17 (cz (va_rf_cat _)) rfl rfl ?_
        refine j_iconst (2 : Int32) dX0_tryWrite_19 (by decide) ?_
        have e9 := Option.some.inj hf
        subst e9
        exact j_iret rfl dX0_tryWrite_20
      · replace hf := if_f hf x13
        cases hf
theorem kc_X0_130 {Γ : GX} {I : MI} {D : va_G} {h0 : PH} {Q : State → Prop} {h : PH} {pc : Nat} {vs : List (Option Value)} {rest : List Value} {β : Type} {o : β} {r : Option Nat} {p0 : Int32} {p1 : Int32} {p2 : Int32} {K : (((Nat × Nat) ⊕ Int32) → PH → Option β)} (hI : I.2.2.1 = RX0) (hfr : Nat.ble 16 I.2.2.2.2.2.1 = true) (hlo : Nat.ble 397 I.2.2.2.2.2.2.1 = true) (hW : (rest.map fun v => v.category).sum ≤ 8) (hd : decode I.1 pc = .ok (.invokevirtual 130, 3)) (hf : rv_ h r 0 (cl_ (f_X1_predictRead r p0 p1 p2 h) K) = some o) (kk : ∀ (x : Int32) (h1 : PH), K (.inr x) h1 = some o → PF Γ I D h0 Q h1 (pc + 3) vs (.int x :: rest)) (kx : ∀ (ci q : Nat) (h1 : PH) (fs : List Value), h1.1 q = some (.inr (ci, fs)) → K (.inl (ci, q)) h1 = some o → PX Γ I D h0 Q h1 pc vs q) : PF Γ I D h0 Q h pc vs (.int p2 :: .int p1 :: .int p0 :: va_rf r :: rest) := by
  obtain ⟨cc, nL, own, rt, xt, fr, lo, nm⟩ := I
  cases hI
  exact j_xVi (n := 3) (y := yX1_predictRead) (cc2 := cX1_predictRead) (As := [.int p0, .int p1, .int p2]) (C := RX1) (ci := 0) rfl (lw_V q2148 q2149 q2150 q90 q2151) hyV_X1_predictRead hfr hlo rfl hW hd (c_X1_predictRead r p0 p1 p2) hf _ rfl kk kx
abbrev mi_X0_predictRead : MI := (cX0_predictRead, 6, RX0, (Option.some FieldType.int), tableOf [(0, 12, 15, 21), (0, 12, 19, 13)], 16, 397, "predictRead")
def f_X0_predictRead (p0 : Option Nat) (p1 : Int32) (p2 : Int32) (p3 : Int32) (p4 : Option Nat) (h0 : PH) : Option (Int32 × PH) := rv_ h0 p0 0 (cl_ (f_X1_predictRead p0 p1 p2 p3 h0) fun z9 h1 => match z9 with | .inl (ci9, q9) => ((if ci9 = 24 then (if pbase h1 ≤ q9 then (some ((1 : Int32), h1)) else none) else (if ci9 = 20 then (if pbase h1 ≤ q9 then (some ((2 : Int32), h1)) else none) else none))) | .inr v2 => (sL h1 p4 2 (0 : Int32) (v2.toInt64) fun h3 => some ((0 : Int32), h3)))
theorem hyS_X0_predictRead : yX0_predictRead.cls ≠ "java/lang/invoke/MethodHandle" ∧ yX0_predictRead.cls ≠ "java/lang/invoke/VarHandle" ∧ (parseMethodDescriptor yX0_predictRead.desc).map (fun d => d.parameters.length) = some 5 := by decide +kernel
theorem c_X0_predictRead {D : va_G} (p0 : Option Nat) (p1 : Int32) (p2 : Int32) (p3 : Int32) (p4 : Option Nat) {h0 : PH} (l : Launch) (hl : l.stackTraces = false) (x : Int32) (h1 : PH) (hf : f_X0_predictRead p0 p1 p2 p3 p4 h0 = some (x, h1)) : CT l D yX0_predictRead (wsW_ yX0_predictRead cX0_predictRead 6 (Option.some FieldType.int) [(0, 12, 15, 21), (0, 12, 19, 13)]) 16 397 [va_rf p0, .int p1, .int p2, .int p3, va_rf p4] h0 (ovi x) h1 := by
  refine ct_ofH hl [some (va_rf p0), some (.int p1), some (.int p2), some (.int p3), some (va_rf p4), none] (by decide) (by rw [lgl]; simp [va_rf_cat, cat_i, cat_l]) (by simp [lv_args, vsL, va_rf_cat, cat_i, cat_l]) (fun Γ => ?_)
  obtain ⟨o, ho⟩ : ∃ o : Int32 × PH, o = (x, h1) := ⟨_, rfl⟩
  rw [← ho] at hf
  have e1 : x = o.1 := by rw [ho]
  have e2 : h1 = o.2 := by rw [ho]
  subst e1 e2
  clear ho
  show PF Γ mi_X0_predictRead D h0 (QR Γ D h0 (ovi o.1) o.2) h0 0 [some (va_rf p0), some (.int p1), some (.int p2), some (.int p3), some (va_rf p4), none] []
  unfold f_X0_predictRead at hf
  refine j_aload dX0_predictRead_0 rfl ?_
  refine j_iconst (0 : Int32) dX0_predictRead_2 (by decide) ?_
  refine j_aload_n 0 dX0_predictRead_3 rfl rfl ?_
  refine j_iload_n 1 dX0_predictRead_4 rfl rfl ?_
  refine j_iload_n 2 dX0_predictRead_5 rfl rfl ?_
  refine j_iload_n 3 dX0_predictRead_6 rfl rfl ?_
  refine kc_X0_130 rfl rfl rfl (by simp [va_rf_cat, cat_i, cat_l]) dX0_predictRead_7 hf (fun v2 h1 hf => ?_) (fun ci9 q9 h1 fs9 he9 hf => ?_)
  · refine j_i2l dX0_predictRead_10 ?_
    refine j_last dX0_predictRead_11 hf (fun h3 hf => ?_)
    refine j_goto 23 dX0_predictRead_12 (by decide) ?_
    refine j_iconst (0 : Int32) dX0_predictRead_23 (by decide) ?_
    have e9 := Option.some.inj hf
    subst e9
    exact j_iret rfl dX0_predictRead_24
  · by_cases x21 : ci9 = 24
    · subst x21
      replace hf := if_t hf rfl
      obtain ⟨hb9, hf⟩ := if_none hf
      refine j_catch (ci := 24) [] ⟨0, 12, 15, 21⟩ [⟨0, 12, 19, 13⟩] rfl (fun _ h => absurd h List.not_mem_nil) rfl (by decide) q1721 q1750 hb9 he9 ?_
      refine j_astore [some (va_rf p0), some (.int p1), some (.int p2), some (.int p3), some (va_rf p4), some (va_rf (some q9))] dX0_predictRead_15 (cz (va_rf_cat _)) rfl rfl ?_
      refine j_iconst (1 : Int32) dX0_predictRead_17 (by decide) ?_
      have e9 := Option.some.inj hf
      subst e9
      exact j_iret rfl dX0_predictRead_18
    · replace hf := if_f hf x21
      by_cases x13 : ci9 = 20
      · subst x13
        replace hf := if_t hf rfl
        obtain ⟨hb9, hf⟩ := if_none hf
        refine j_catch (ci := 20) [⟨0, 12, 15, 21⟩] ⟨0, 12, 19, 13⟩ [] rfl (List.forall_mem_cons.mpr ⟨Or.inr ⟨by decide, _, q1721, by decide +kernel⟩, fun _ h => absurd h List.not_mem_nil⟩) rfl (by decide) q1689 q187 hb9 he9 ?_
        refine j_astore [some (va_rf p0), some (.int p1), some (.int p2), some (.int p3), some (va_rf p4), some (va_rf (some q9))] dX0_predictRead_19 (cz (va_rf_cat _)) rfl rfl ?_
        refine j_iconst (2 : Int32) dX0_predictRead_21 (by decide) ?_
        have e9 := Option.some.inj hf
        subst e9
        exact j_iret rfl dX0_predictRead_22
      · replace hf := if_f hf x13
        cases hf
theorem kc_X0_133 {Γ : GX} {I : MI} {D : va_G} {h0 : PH} {Q : State → Prop} {h : PH} {pc : Nat} {vs : List (Option Value)} {rest : List Value} {β : Type} {o : β} {r : Option Nat} {p0 : Int32} {p1 : Int32} {K : (((Nat × Nat) ⊕ Int32) → PH → Option β)} (hI : I.2.2.1 = RX0) (hfr : Nat.ble 16 I.2.2.2.2.2.1 = true) (hlo : Nat.ble 396 I.2.2.2.2.2.2.1 = true) (hW : (rest.map fun v => v.category).sum ≤ 8) (hd : decode I.1 pc = .ok (.invokevirtual 133, 3)) (hf : rv_ h r 0 (cl_ (f_X1_acquiresUntil r p0 p1 h) K) = some o) (kk : ∀ (x : Int32) (h1 : PH), K (.inr x) h1 = some o → PF Γ I D h0 Q h1 (pc + 3) vs (.int x :: rest)) (kx : ∀ (ci q : Nat) (h1 : PH) (fs : List Value), h1.1 q = some (.inr (ci, fs)) → K (.inl (ci, q)) h1 = some o → PX Γ I D h0 Q h1 pc vs q) : PF Γ I D h0 Q h pc vs (.int p1 :: .int p0 :: va_rf r :: rest) := by
  obtain ⟨cc, nL, own, rt, xt, fr, lo, nm⟩ := I
  cases hI
  exact j_xVi (n := 2) (y := yX1_acquiresUntil) (cc2 := cX1_acquiresUntil) (As := [.int p0, .int p1]) (C := RX1) (ci := 0) rfl (lw_V q2155 q2156 q2157 q90 q2158) hyV_X1_acquiresUntil hfr hlo rfl hW hd (c_X1_acquiresUntil r p0 p1) hf _ rfl kk kx
abbrev mi_X0_acquiresUntil : MI := (cX0_acquiresUntil, 5, RX0, (Option.some FieldType.int), tableOf [(0, 10, 13, 21), (0, 10, 17, 13)], 16, 396, "acquiresUntil")
def f_X0_acquiresUntil (p0 : Option Nat) (p1 : Int32) (p2 : Int32) (p3 : Option Nat) (h0 : PH) : Option (Int32 × PH) := rv_ h0 p0 0 (cl_ (f_X1_acquiresUntil p0 p1 p2 h0) fun z9 h1 => match z9 with | .inl (ci9, q9) => ((if ci9 = 24 then (if pbase h1 ≤ q9 then (some ((1 : Int32), h1)) else none) else (if ci9 = 20 then (if pbase h1 ≤ q9 then (some ((2 : Int32), h1)) else none) else none))) | .inr v2 => (sL h1 p3 2 (0 : Int32) (v2.toInt64) fun h3 => some ((0 : Int32), h3)))
theorem hyS_X0_acquiresUntil : yX0_acquiresUntil.cls ≠ "java/lang/invoke/MethodHandle" ∧ yX0_acquiresUntil.cls ≠ "java/lang/invoke/VarHandle" ∧ (parseMethodDescriptor yX0_acquiresUntil.desc).map (fun d => d.parameters.length) = some 4 := by decide +kernel
theorem c_X0_acquiresUntil {D : va_G} (p0 : Option Nat) (p1 : Int32) (p2 : Int32) (p3 : Option Nat) {h0 : PH} (l : Launch) (hl : l.stackTraces = false) (x : Int32) (h1 : PH) (hf : f_X0_acquiresUntil p0 p1 p2 p3 h0 = some (x, h1)) : CT l D yX0_acquiresUntil (wsW_ yX0_acquiresUntil cX0_acquiresUntil 5 (Option.some FieldType.int) [(0, 10, 13, 21), (0, 10, 17, 13)]) 16 396 [va_rf p0, .int p1, .int p2, va_rf p3] h0 (ovi x) h1 := by
  refine ct_ofH hl [some (va_rf p0), some (.int p1), some (.int p2), some (va_rf p3), none] (by decide) (by rw [lgl]; simp [va_rf_cat, cat_i, cat_l]) (by simp [lv_args, vsL, va_rf_cat, cat_i, cat_l]) (fun Γ => ?_)
  obtain ⟨o, ho⟩ : ∃ o : Int32 × PH, o = (x, h1) := ⟨_, rfl⟩
  rw [← ho] at hf
  have e1 : x = o.1 := by rw [ho]
  have e2 : h1 = o.2 := by rw [ho]
  subst e1 e2
  clear ho
  show PF Γ mi_X0_acquiresUntil D h0 (QR Γ D h0 (ovi o.1) o.2) h0 0 [some (va_rf p0), some (.int p1), some (.int p2), some (va_rf p3), none] []
  unfold f_X0_acquiresUntil at hf
  refine j_aload_n 3 dX0_acquiresUntil_0 rfl rfl ?_
  refine j_iconst (0 : Int32) dX0_acquiresUntil_1 (by decide) ?_
  refine j_aload_n 0 dX0_acquiresUntil_2 rfl rfl ?_
  refine j_iload_n 1 dX0_acquiresUntil_3 rfl rfl ?_
  refine j_iload_n 2 dX0_acquiresUntil_4 rfl rfl ?_
  refine kc_X0_133 rfl rfl rfl (by simp [va_rf_cat, cat_i, cat_l]) dX0_acquiresUntil_5 hf (fun v2 h1 hf => ?_) (fun ci9 q9 h1 fs9 he9 hf => ?_)
  · refine j_i2l dX0_acquiresUntil_8 ?_
    refine j_last dX0_acquiresUntil_9 hf (fun h3 hf => ?_)
    refine j_goto 21 dX0_acquiresUntil_10 (by decide) ?_
    refine j_iconst (0 : Int32) dX0_acquiresUntil_21 (by decide) ?_
    have e9 := Option.some.inj hf
    subst e9
    exact j_iret rfl dX0_acquiresUntil_22
  · by_cases x21 : ci9 = 24
    · subst x21
      replace hf := if_t hf rfl
      obtain ⟨hb9, hf⟩ := if_none hf
      refine j_catch (ci := 24) [] ⟨0, 10, 13, 21⟩ [⟨0, 10, 17, 13⟩] rfl (fun _ h => absurd h List.not_mem_nil) rfl (by decide) q1721 q1750 hb9 he9 ?_
      refine j_astore [some (va_rf p0), some (.int p1), some (.int p2), some (va_rf p3), some (va_rf (some q9))] dX0_acquiresUntil_13 (cz (va_rf_cat _)) rfl rfl ?_
      refine j_iconst (1 : Int32) dX0_acquiresUntil_15 (by decide) ?_
      have e9 := Option.some.inj hf
      subst e9
      exact j_iret rfl dX0_acquiresUntil_16
    · replace hf := if_f hf x21
      by_cases x13 : ci9 = 20
      · subst x13
        replace hf := if_t hf rfl
        obtain ⟨hb9, hf⟩ := if_none hf
        refine j_catch (ci := 20) [⟨0, 10, 13, 21⟩] ⟨0, 10, 17, 13⟩ [] rfl (List.forall_mem_cons.mpr ⟨Or.inr ⟨by decide, _, q1721, by decide +kernel⟩, fun _ h => absurd h List.not_mem_nil⟩) rfl (by decide) q1689 q187 hb9 he9 ?_
        refine j_astore [some (va_rf p0), some (.int p1), some (.int p2), some (va_rf p3), some (va_rf (some q9))] dX0_acquiresUntil_17 (cz (va_rf_cat _)) rfl rfl ?_
        refine j_iconst (2 : Int32) dX0_acquiresUntil_19 (by decide) ?_
        have e9 := Option.some.inj hf
        subst e9
        exact j_iret rfl dX0_acquiresUntil_20
      · replace hf := if_f hf x13
        cases hf
theorem kc_X0_136 {Γ : GX} {I : MI} {D : va_G} {h0 : PH} {Q : State → Prop} {h : PH} {pc : Nat} {vs : List (Option Value)} {rest : List Value} {β : Type} {o : β} {r : Option Nat} {p0 : Int32} {K : (((Nat × Nat) ⊕ Int32) → PH → Option β)} (hI : I.2.2.1 = RX0) (hfr : Nat.ble 8 I.2.2.2.2.2.1 = true) (hlo : Nat.ble 195 I.2.2.2.2.2.2.1 = true) (hW : (rest.map fun v => v.category).sum ≤ 8) (hd : decode I.1 pc = .ok (.invokevirtual 136, 3)) (hf : rv_ h r 0 (cl_ (f_X1_saveSnapshot r p0 h) K) = some o) (kk : ∀ (x : Int32) (h1 : PH), K (.inr x) h1 = some o → PF Γ I D h0 Q h1 (pc + 3) vs (.int x :: rest)) (kx : ∀ (ci q : Nat) (h1 : PH) (fs : List Value), h1.1 q = some (.inr (ci, fs)) → K (.inl (ci, q)) h1 = some o → PX Γ I D h0 Q h1 pc vs q) : PF Γ I D h0 Q h pc vs (.int p0 :: va_rf r :: rest) := by
  obtain ⟨cc, nL, own, rt, xt, fr, lo, nm⟩ := I
  cases hI
  exact j_xVi (n := 1) (y := yX1_saveSnapshot) (cc2 := cX1_saveSnapshot) (As := [.int p0]) (C := RX1) (ci := 0) rfl (lw_V q2162 q2163 q2164 q90 q2165) hyV_X1_saveSnapshot hfr hlo rfl hW hd (c_X1_saveSnapshot r p0) hf _ rfl kk kx
abbrev mi_X0_saveSnapshot : MI := (cX0_saveSnapshot, 4, RX0, (Option.some FieldType.int), tableOf [(0, 9, 12, 13)], 8, 195, "saveSnapshot")
def f_X0_saveSnapshot (p0 : Option Nat) (p1 : Int32) (p2 : Option Nat) (h0 : PH) : Option (Int32 × PH) := rv_ h0 p0 0 (cl_ (f_X1_saveSnapshot p0 p1 h0) fun z9 h1 => match z9 with | .inl (ci9, q9) => ((if ci9 = 20 then (if pbase h1 ≤ q9 then (some ((1 : Int32), h1)) else none) else none)) | .inr v2 => (sL h1 p2 2 (0 : Int32) (v2.toInt64) fun h3 => some ((0 : Int32), h3)))
theorem hyS_X0_saveSnapshot : yX0_saveSnapshot.cls ≠ "java/lang/invoke/MethodHandle" ∧ yX0_saveSnapshot.cls ≠ "java/lang/invoke/VarHandle" ∧ (parseMethodDescriptor yX0_saveSnapshot.desc).map (fun d => d.parameters.length) = some 3 := by decide +kernel
theorem c_X0_saveSnapshot {D : va_G} (p0 : Option Nat) (p1 : Int32) (p2 : Option Nat) {h0 : PH} (l : Launch) (hl : l.stackTraces = false) (x : Int32) (h1 : PH) (hf : f_X0_saveSnapshot p0 p1 p2 h0 = some (x, h1)) : CT l D yX0_saveSnapshot (wsW_ yX0_saveSnapshot cX0_saveSnapshot 4 (Option.some FieldType.int) [(0, 9, 12, 13)]) 8 195 [va_rf p0, .int p1, va_rf p2] h0 (ovi x) h1 := by
  refine ct_ofH hl [some (va_rf p0), some (.int p1), some (va_rf p2), none] (by decide) (by rw [lgl]; simp [va_rf_cat, cat_i, cat_l]) (by simp [lv_args, vsL, va_rf_cat, cat_i, cat_l]) (fun Γ => ?_)
  obtain ⟨o, ho⟩ : ∃ o : Int32 × PH, o = (x, h1) := ⟨_, rfl⟩
  rw [← ho] at hf
  have e1 : x = o.1 := by rw [ho]
  have e2 : h1 = o.2 := by rw [ho]
  subst e1 e2
  clear ho
  show PF Γ mi_X0_saveSnapshot D h0 (QR Γ D h0 (ovi o.1) o.2) h0 0 [some (va_rf p0), some (.int p1), some (va_rf p2), none] []
  unfold f_X0_saveSnapshot at hf
  refine j_aload_n 2 dX0_saveSnapshot_0 rfl rfl ?_
  refine j_iconst (0 : Int32) dX0_saveSnapshot_1 (by decide) ?_
  refine j_aload_n 0 dX0_saveSnapshot_2 rfl rfl ?_
  refine j_iload_n 1 dX0_saveSnapshot_3 rfl rfl ?_
  refine kc_X0_136 rfl rfl rfl (by simp [va_rf_cat, cat_i, cat_l]) dX0_saveSnapshot_4 hf (fun v2 h1 hf => ?_) (fun ci9 q9 h1 fs9 he9 hf => ?_)
  · refine j_i2l dX0_saveSnapshot_7 ?_
    refine j_last dX0_saveSnapshot_8 hf (fun h3 hf => ?_)
    refine j_goto 15 dX0_saveSnapshot_9 (by decide) ?_
    refine j_iconst (0 : Int32) dX0_saveSnapshot_15 (by decide) ?_
    have e9 := Option.some.inj hf
    subst e9
    exact j_iret rfl dX0_saveSnapshot_16
  · by_cases x13 : ci9 = 20
    · subst x13
      replace hf := if_t hf rfl
      obtain ⟨hb9, hf⟩ := if_none hf
      refine j_catch (ci := 20) [] ⟨0, 9, 12, 13⟩ [] rfl (fun _ h => absurd h List.not_mem_nil) rfl (by decide) q1689 q187 hb9 he9 ?_
      refine j_astore_n 3 [some (va_rf p0), some (.int p1), some (va_rf p2), some (va_rf (some q9))] dX0_saveSnapshot_12 rfl (cz (va_rf_cat _)) rfl rfl ?_
      refine j_iconst (1 : Int32) dX0_saveSnapshot_13 (by decide) ?_
      have e9 := Option.some.inj hf
      subst e9
      exact j_iret rfl dX0_saveSnapshot_14
    · replace hf := if_f hf x13
      cases hf
theorem kc_X0_139 {Γ : GX} {I : MI} {D : va_G} {h0 : PH} {Q : State → Prop} {h : PH} {pc : Nat} {vs : List (Option Value)} {rest : List Value} {β : Type} {o : β} {r : Option Nat} {p0 : Int32} {K : (((Nat × Nat) ⊕ Int32) → PH → Option β)} (hI : I.2.2.1 = RX0) (hfr : Nat.ble 8 I.2.2.2.2.2.1 = true) (hlo : Nat.ble 195 I.2.2.2.2.2.2.1 = true) (hW : (rest.map fun v => v.category).sum ≤ 8) (hd : decode I.1 pc = .ok (.invokevirtual 139, 3)) (hf : rv_ h r 0 (cl_ (f_X1_restoreSnapshot r p0 h) K) = some o) (kk : ∀ (x : Int32) (h1 : PH), K (.inr x) h1 = some o → PF Γ I D h0 Q h1 (pc + 3) vs (.int x :: rest)) (kx : ∀ (ci q : Nat) (h1 : PH) (fs : List Value), h1.1 q = some (.inr (ci, fs)) → K (.inl (ci, q)) h1 = some o → PX Γ I D h0 Q h1 pc vs q) : PF Γ I D h0 Q h pc vs (.int p0 :: va_rf r :: rest) := by
  obtain ⟨cc, nL, own, rt, xt, fr, lo, nm⟩ := I
  cases hI
  exact j_xVi (n := 1) (y := yX1_restoreSnapshot) (cc2 := cX1_restoreSnapshot) (As := [.int p0]) (C := RX1) (ci := 0) rfl (lw_V q2169 q2170 q2171 q90 q2172) hyV_X1_restoreSnapshot hfr hlo rfl hW hd (c_X1_restoreSnapshot r p0) hf _ rfl kk kx
abbrev mi_X0_restoreSnapshot : MI := (cX0_restoreSnapshot, 4, RX0, (Option.some FieldType.int), tableOf [(0, 9, 12, 13)], 8, 195, "restoreSnapshot")
def f_X0_restoreSnapshot (p0 : Option Nat) (p1 : Int32) (p2 : Option Nat) (h0 : PH) : Option (Int32 × PH) := rv_ h0 p0 0 (cl_ (f_X1_restoreSnapshot p0 p1 h0) fun z9 h1 => match z9 with | .inl (ci9, q9) => ((if ci9 = 20 then (if pbase h1 ≤ q9 then (some ((1 : Int32), h1)) else none) else none)) | .inr v2 => (sL h1 p2 2 (0 : Int32) (v2.toInt64) fun h3 => some ((0 : Int32), h3)))
theorem hyS_X0_restoreSnapshot : yX0_restoreSnapshot.cls ≠ "java/lang/invoke/MethodHandle" ∧ yX0_restoreSnapshot.cls ≠ "java/lang/invoke/VarHandle" ∧ (parseMethodDescriptor yX0_restoreSnapshot.desc).map (fun d => d.parameters.length) = some 3 := by decide +kernel
theorem c_X0_restoreSnapshot {D : va_G} (p0 : Option Nat) (p1 : Int32) (p2 : Option Nat) {h0 : PH} (l : Launch) (hl : l.stackTraces = false) (x : Int32) (h1 : PH) (hf : f_X0_restoreSnapshot p0 p1 p2 h0 = some (x, h1)) : CT l D yX0_restoreSnapshot (wsW_ yX0_restoreSnapshot cX0_restoreSnapshot 4 (Option.some FieldType.int) [(0, 9, 12, 13)]) 8 195 [va_rf p0, .int p1, va_rf p2] h0 (ovi x) h1 := by
  refine ct_ofH hl [some (va_rf p0), some (.int p1), some (va_rf p2), none] (by decide) (by rw [lgl]; simp [va_rf_cat, cat_i, cat_l]) (by simp [lv_args, vsL, va_rf_cat, cat_i, cat_l]) (fun Γ => ?_)
  obtain ⟨o, ho⟩ : ∃ o : Int32 × PH, o = (x, h1) := ⟨_, rfl⟩
  rw [← ho] at hf
  have e1 : x = o.1 := by rw [ho]
  have e2 : h1 = o.2 := by rw [ho]
  subst e1 e2
  clear ho
  show PF Γ mi_X0_restoreSnapshot D h0 (QR Γ D h0 (ovi o.1) o.2) h0 0 [some (va_rf p0), some (.int p1), some (va_rf p2), none] []
  unfold f_X0_restoreSnapshot at hf
  refine j_aload_n 2 dX0_restoreSnapshot_0 rfl rfl ?_
  refine j_iconst (0 : Int32) dX0_restoreSnapshot_1 (by decide) ?_
  refine j_aload_n 0 dX0_restoreSnapshot_2 rfl rfl ?_
  refine j_iload_n 1 dX0_restoreSnapshot_3 rfl rfl ?_
  refine kc_X0_139 rfl rfl rfl (by simp [va_rf_cat, cat_i, cat_l]) dX0_restoreSnapshot_4 hf (fun v2 h1 hf => ?_) (fun ci9 q9 h1 fs9 he9 hf => ?_)
  · refine j_i2l dX0_restoreSnapshot_7 ?_
    refine j_last dX0_restoreSnapshot_8 hf (fun h3 hf => ?_)
    refine j_goto 15 dX0_restoreSnapshot_9 (by decide) ?_
    refine j_iconst (0 : Int32) dX0_restoreSnapshot_15 (by decide) ?_
    have e9 := Option.some.inj hf
    subst e9
    exact j_iret rfl dX0_restoreSnapshot_16
  · by_cases x13 : ci9 = 20
    · subst x13
      replace hf := if_t hf rfl
      obtain ⟨hb9, hf⟩ := if_none hf
      refine j_catch (ci := 20) [] ⟨0, 9, 12, 13⟩ [] rfl (fun _ h => absurd h List.not_mem_nil) rfl (by decide) q1689 q187 hb9 he9 ?_
      refine j_astore_n 3 [some (va_rf p0), some (.int p1), some (va_rf p2), some (va_rf (some q9))] dX0_restoreSnapshot_12 rfl (cz (va_rf_cat _)) rfl rfl ?_
      refine j_iconst (1 : Int32) dX0_restoreSnapshot_13 (by decide) ?_
      have e9 := Option.some.inj hf
      subst e9
      exact j_iret rfl dX0_restoreSnapshot_14
    · replace hf := if_f hf x13
      cases hf
