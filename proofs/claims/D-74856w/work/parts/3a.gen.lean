/-! printed by gen.py: J3_init_3_X10 J3_init_3_X11 J3_init_3_X12 J3_init_3_X13 J3_init_3_X14 J3_init_3_X18 J3_init_3_X19 J4_init_2_X10 J4_init_2_X11 J4_init_2_X12 J4_init_2_X13 J4_init_2_X14 J4_init_2_X18 J4_init_2_X19 X4_init X4_reaches X4_at X5_init X5_copyFrom X6_init X6_isPaused X6_leadsUntil X6_setTimer X6_loseToken X6_cache X6_isDue X6_leads X6_copy X16_isBefore X16_init -/
set_option maxRecDepth 100000
abbrev mi_J3_init_3_X10 : MI := (cJ3_init_3, 5, RJ3, none, [], 1, 20, "<init>")
def f_J3_init_3_X10_B60  (h : PH) : Option (Unit × PH) := some ((), h)
theorem pf_J3_init_3_X10_B60 {Γ : GX} {D : va_G} {h0 : PH} {o : Unit × PH}  (h : PH) (hf : f_J3_init_3_X10_B60  h = some o) : PF Γ mi_J3_init_3_X10 D h0 (QR Γ D h0 (ovv o.1) o.2) h 60 [none, none, none, none, none] [] := by
  have e9 := Option.some.inj hf
  subst e9
  exact j_vret rfl dJ3_init_3_60
def f_J3_init_3_X10_B41 (x0 : Option Nat) (x1 : Option Nat) (x2 : Option Nat) (x3 : Int32) (h : PH) : Option (Unit × PH) := pV h x0 8 4 (va_rf x1) fun h7 => pV h7 x0 8 1 (va_rf x2) fun h8 => (if x3 = 0 then (pV h8 x0 8 3 (va_rf none) fun h9 => f_J3_init_3_X10_B60 h9) else (f_J3_init_3_X10_B60 h8))
theorem pf_J3_init_3_X10_B41 {Γ : GX} {D : va_G} {h0 : PH} {o : Unit × PH} (x0 : Option Nat) (x1 : Option Nat) (x2 : Option Nat) (x3 : Int32) (h : PH) (hf : f_J3_init_3_X10_B41 x0 x1 x2 x3 h = some o) : PF Γ mi_J3_init_3_X10 D h0 (QR Γ D h0 (ovv o.1) o.2) h 41 [some (va_rf x0), some (va_rf x1), some (va_rf x2), some (.int x3), none] [] := by
  refine j_aload_n 0 dJ3_init_3_41 rfl rfl ?_
  refine j_aload_n 1 dJ3_init_3_42 rfl rfl ?_
  refine j_pV (ci := 8) (k := 4) tyX10 tyX10_ok nmX10 rfl in_X10 rfl q466 (Or.inl rfl) rfl (fit_o _ _) dJ3_init_3_43 hf (fun h7 hf => ?_)
  refine j_aload_n 0 dJ3_init_3_46 rfl rfl ?_
  refine j_aload_n 2 dJ3_init_3_47 rfl rfl ?_
  refine j_pV (ci := 8) (k := 1) tyX10 tyX10_ok nmX10 rfl in_X10 rfl q467 (Or.inl rfl) rfl (fit_o _ _) dJ3_init_3_48 hf (fun h8 hf => ?_)
  refine j_iload_n 3 dJ3_init_3_51 rfl rfl ?_
  refine j_if_ne 60 dJ3_init_3_52 (by decide) hf (fun c_ hf => ?_) (fun c_ hf => ?_)
  · refine j_weak [none, none, none, none, none] (Wk.s (Wk.s (Wk.s (Wk.s (Wk.k Wk.n))))) ?_
    exact pf_J3_init_3_X10_B60  h8 hf
  · refine j_aload_n 0 dJ3_init_3_55 rfl rfl ?_
    refine j_aconst_null dJ3_init_3_56 ?_
    refine j_pV (ci := 8) (k := 3) tyX10 tyX10_ok nmX10 rfl in_X10 rfl q469 (Or.inl rfl) rfl (fit_o _ _) dJ3_init_3_57 hf (fun h9 hf => ?_)
    refine j_weak [none, none, none, none, none] (Wk.s (Wk.s (Wk.s (Wk.s (Wk.k Wk.n))))) ?_
    exact pf_J3_init_3_X10_B60  h9 hf
def f_J3_init_3_X10 (a0 : Nat) (p0 : Option Nat) (p1 : Option Nat) (p2 : Int32) (p3 : Int32) (h0 : PH) : Option (Unit × PH) := pV h0 (some a0) 8 1 (va_rf (some a0)) fun h1 => asR (some (h1.2.1.1 13)) fun r2 => pV h1 (some a0) 8 2 (va_rf r2) fun h3 => asR (some (h3.2.1.1 14)) fun r4 => pV h3 (some a0) 8 3 (va_rf r4) fun h5 => (if p3 = 0 then (pV h5 (some a0) 8 2 (va_rf none) fun h6 => f_J3_init_3_X10_B41 (some a0) p0 p1 p2 h6) else (none))
theorem hyS_J3_init_3_X10 : yJ3_init_3.cls ≠ "java/lang/invoke/MethodHandle" ∧ yJ3_init_3.cls ≠ "java/lang/invoke/VarHandle" ∧ (parseMethodDescriptor yJ3_init_3.desc).map (fun d => d.parameters.length) = some 4 := by decide +kernel
theorem c_J3_init_3_X10 {D : va_G} (a0 : Nat) (p0 : Option Nat) (p1 : Option Nat) (p2 : Int32) (p3 : Int32) {h0 : PH} (l : Launch) (hl : l.stackTraces = false) (x : Unit) (h1 : PH) (hf : f_J3_init_3_X10 a0 p0 p1 p2 p3 h0 = some (x, h1)) : CT l D yJ3_init_3 (ws_ yJ3_init_3 cJ3_init_3 5 none) 1 20 [va_rf (some a0), va_rf p0, va_rf p1, .int p2, .int p3] h0 (ovv x) h1 := by
  refine ct_of hl [some (va_rf (some a0)), some (va_rf p0), some (va_rf p1), some (.int p2), some (.int p3)] (by decide) (by rw [lgl]; simp [va_rf_cat, cat_i, cat_l]) (by simp [lv_args, vsL, va_rf_cat, cat_i, cat_l]) (fun Γ => ?_)
  obtain ⟨o, ho⟩ : ∃ o : Unit × PH, o = (x, h1) := ⟨_, rfl⟩
  rw [← ho] at hf
  have e1 : x = o.1 := by rw [ho]
  have e2 : h1 = o.2 := by rw [ho]
  subst e1 e2
  clear ho
  show PF Γ mi_J3_init_3_X10 D h0 (QR Γ D h0 (ovv o.1) o.2) h0 0 [some (va_rf (some a0)), some (va_rf p0), some (va_rf p1), some (.int p2), some (.int p3)] []
  unfold f_J3_init_3_X10 at hf
  refine j_aload_n 0 dJ3_init_3_0 rfl rfl ?_
  refine j_objI q210 q141 q142 rfl rfl ⟨_, rfl⟩ (by decide) dJ3_init_3_1 ?_
  refine j_aload_n 0 dJ3_init_3_4 rfl rfl ?_
  refine j_aload_n 0 dJ3_init_3_5 rfl rfl ?_
  refine j_pV (ci := 8) (k := 1) tyX10 tyX10_ok nmX10 rfl in_X10 rfl q467 (Or.inl rfl) rfl (fit_o _ _) dJ3_init_3_6 hf (fun h1 hf => ?_)
  refine j_aload_n 0 dJ3_init_3_9 rfl rfl ?_
  refine j_gsR (i := 13) rfl q211 dJ3_init_3_10 hf (fun r2 hf => ?_)
  refine j_pV (ci := 8) (k := 2) tyX10 tyX10_ok nmX10 rfl in_X10 rfl q468 (Or.inl rfl) rfl (fit_a _ _) dJ3_init_3_13 hf (fun h3 hf => ?_)
  refine j_aload_n 0 dJ3_init_3_16 rfl rfl ?_
  refine j_gsR (i := 14) rfl q213 dJ3_init_3_17 hf (fun r4 hf => ?_)
  refine j_pV (ci := 8) (k := 3) tyX10 tyX10_ok nmX10 rfl in_X10 rfl q469 (Or.inl rfl) rfl (fit_o _ _) dJ3_init_3_20 hf (fun h5 hf => ?_)
  refine j_iload dJ3_init_3_23 rfl ?_
  refine j_if_eq 36 dJ3_init_3_25 (by decide) hf (fun c_ hf => ?_) (fun c_ hf => ?_)
  · refine j_aload_n 0 dJ3_init_3_36 rfl rfl ?_
    refine j_aconst_null dJ3_init_3_37 ?_
    refine j_pV (ci := 8) (k := 2) tyX10 tyX10_ok nmX10 rfl in_X10 rfl q468 (Or.inl rfl) rfl (fit_a _ _) dJ3_init_3_38 hf (fun h6 hf => ?_)
    refine j_weak [some (va_rf (some a0)), some (va_rf p0), some (va_rf p1), some (.int p2), none] (Wk.k (Wk.k (Wk.k (Wk.k (Wk.s Wk.n))))) ?_
    exact pf_J3_init_3_X10_B41 (some a0) p0 p1 p2 h6 hf
  · refine j_aload_n 0 dJ3_init_3_28 rfl rfl ?_
    cases hf
abbrev mi_J3_init_3_X11 : MI := (cJ3_init_3, 5, RJ3, none, [], 1, 20, "<init>")
def f_J3_init_3_X11_B60  (h : PH) : Option (Unit × PH) := some ((), h)
theorem pf_J3_init_3_X11_B60 {Γ : GX} {D : va_G} {h0 : PH} {o : Unit × PH}  (h : PH) (hf : f_J3_init_3_X11_B60  h = some o) : PF Γ mi_J3_init_3_X11 D h0 (QR Γ D h0 (ovv o.1) o.2) h 60 [none, none, none, none, none] [] := by
  have e9 := Option.some.inj hf
  subst e9
  exact j_vret rfl dJ3_init_3_60
def f_J3_init_3_X11_B41 (x0 : Option Nat) (x1 : Option Nat) (x2 : Option Nat) (x3 : Int32) (h : PH) : Option (Unit × PH) := pV h x0 9 4 (va_rf x1) fun h7 => pV h7 x0 9 1 (va_rf x2) fun h8 => (if x3 = 0 then (pV h8 x0 9 3 (va_rf none) fun h9 => f_J3_init_3_X11_B60 h9) else (f_J3_init_3_X11_B60 h8))
theorem pf_J3_init_3_X11_B41 {Γ : GX} {D : va_G} {h0 : PH} {o : Unit × PH} (x0 : Option Nat) (x1 : Option Nat) (x2 : Option Nat) (x3 : Int32) (h : PH) (hf : f_J3_init_3_X11_B41 x0 x1 x2 x3 h = some o) : PF Γ mi_J3_init_3_X11 D h0 (QR Γ D h0 (ovv o.1) o.2) h 41 [some (va_rf x0), some (va_rf x1), some (va_rf x2), some (.int x3), none] [] := by
  refine j_aload_n 0 dJ3_init_3_41 rfl rfl ?_
  refine j_aload_n 1 dJ3_init_3_42 rfl rfl ?_
  refine j_pV (ci := 9) (k := 4) tyX11 tyX11_ok nmX11 rfl in_X11 rfl q466 (Or.inl rfl) rfl (fit_o _ _) dJ3_init_3_43 hf (fun h7 hf => ?_)
  refine j_aload_n 0 dJ3_init_3_46 rfl rfl ?_
  refine j_aload_n 2 dJ3_init_3_47 rfl rfl ?_
  refine j_pV (ci := 9) (k := 1) tyX11 tyX11_ok nmX11 rfl in_X11 rfl q467 (Or.inl rfl) rfl (fit_o _ _) dJ3_init_3_48 hf (fun h8 hf => ?_)
  refine j_iload_n 3 dJ3_init_3_51 rfl rfl ?_
  refine j_if_ne 60 dJ3_init_3_52 (by decide) hf (fun c_ hf => ?_) (fun c_ hf => ?_)
  · refine j_weak [none, none, none, none, none] (Wk.s (Wk.s (Wk.s (Wk.s (Wk.k Wk.n))))) ?_
    exact pf_J3_init_3_X11_B60  h8 hf
  · refine j_aload_n 0 dJ3_init_3_55 rfl rfl ?_
    refine j_aconst_null dJ3_init_3_56 ?_
    refine j_pV (ci := 9) (k := 3) tyX11 tyX11_ok nmX11 rfl in_X11 rfl q469 (Or.inl rfl) rfl (fit_o _ _) dJ3_init_3_57 hf (fun h9 hf => ?_)
    refine j_weak [none, none, none, none, none] (Wk.s (Wk.s (Wk.s (Wk.s (Wk.k Wk.n))))) ?_
    exact pf_J3_init_3_X11_B60  h9 hf
def f_J3_init_3_X11 (a0 : Nat) (p0 : Option Nat) (p1 : Option Nat) (p2 : Int32) (p3 : Int32) (h0 : PH) : Option (Unit × PH) := pV h0 (some a0) 9 1 (va_rf (some a0)) fun h1 => asR (some (h1.2.1.1 13)) fun r2 => pV h1 (some a0) 9 2 (va_rf r2) fun h3 => asR (some (h3.2.1.1 14)) fun r4 => pV h3 (some a0) 9 3 (va_rf r4) fun h5 => (if p3 = 0 then (pV h5 (some a0) 9 2 (va_rf none) fun h6 => f_J3_init_3_X11_B41 (some a0) p0 p1 p2 h6) else (none))
theorem hyS_J3_init_3_X11 : yJ3_init_3.cls ≠ "java/lang/invoke/MethodHandle" ∧ yJ3_init_3.cls ≠ "java/lang/invoke/VarHandle" ∧ (parseMethodDescriptor yJ3_init_3.desc).map (fun d => d.parameters.length) = some 4 := by decide +kernel
theorem c_J3_init_3_X11 {D : va_G} (a0 : Nat) (p0 : Option Nat) (p1 : Option Nat) (p2 : Int32) (p3 : Int32) {h0 : PH} (l : Launch) (hl : l.stackTraces = false) (x : Unit) (h1 : PH) (hf : f_J3_init_3_X11 a0 p0 p1 p2 p3 h0 = some (x, h1)) : CT l D yJ3_init_3 (ws_ yJ3_init_3 cJ3_init_3 5 none) 1 20 [va_rf (some a0), va_rf p0, va_rf p1, .int p2, .int p3] h0 (ovv x) h1 := by
  refine ct_of hl [some (va_rf (some a0)), some (va_rf p0), some (va_rf p1), some (.int p2), some (.int p3)] (by decide) (by rw [lgl]; simp [va_rf_cat, cat_i, cat_l]) (by simp [lv_args, vsL, va_rf_cat, cat_i, cat_l]) (fun Γ => ?_)
  obtain ⟨o, ho⟩ : ∃ o : Unit × PH, o = (x, h1) := ⟨_, rfl⟩
  rw [← ho] at hf
  have e1 : x = o.1 := by rw [ho]
  have e2 : h1 = o.2 := by rw [ho]
  subst e1 e2
  clear ho
  show PF Γ mi_J3_init_3_X11 D h0 (QR Γ D h0 (ovv o.1) o.2) h0 0 [some (va_rf (some a0)), some (va_rf p0), some (va_rf p1), some (.int p2), some (.int p3)] []
  unfold f_J3_init_3_X11 at hf
  refine j_aload_n 0 dJ3_init_3_0 rfl rfl ?_
  refine j_objI q210 q141 q142 rfl rfl ⟨_, rfl⟩ (by decide) dJ3_init_3_1 ?_
  refine j_aload_n 0 dJ3_init_3_4 rfl rfl ?_
  refine j_aload_n 0 dJ3_init_3_5 rfl rfl ?_
  refine j_pV (ci := 9) (k := 1) tyX11 tyX11_ok nmX11 rfl in_X11 rfl q467 (Or.inl rfl) rfl (fit_o _ _) dJ3_init_3_6 hf (fun h1 hf => ?_)
  refine j_aload_n 0 dJ3_init_3_9 rfl rfl ?_
  refine j_gsR (i := 13) rfl q211 dJ3_init_3_10 hf (fun r2 hf => ?_)
  refine j_pV (ci := 9) (k := 2) tyX11 tyX11_ok nmX11 rfl in_X11 rfl q468 (Or.inl rfl) rfl (fit_a _ _) dJ3_init_3_13 hf (fun h3 hf => ?_)
  refine j_aload_n 0 dJ3_init_3_16 rfl rfl ?_
  refine j_gsR (i := 14) rfl q213 dJ3_init_3_17 hf (fun r4 hf => ?_)
  refine j_pV (ci := 9) (k := 3) tyX11 tyX11_ok nmX11 rfl in_X11 rfl q469 (Or.inl rfl) rfl (fit_o _ _) dJ3_init_3_20 hf (fun h5 hf => ?_)
  refine j_iload dJ3_init_3_23 rfl ?_
  refine j_if_eq 36 dJ3_init_3_25 (by decide) hf (fun c_ hf => ?_) (fun c_ hf => ?_)
  · refine j_aload_n 0 dJ3_init_3_36 rfl rfl ?_
    refine j_aconst_null dJ3_init_3_37 ?_
    refine j_pV (ci := 9) (k := 2) tyX11 tyX11_ok nmX11 rfl in_X11 rfl q468 (Or.inl rfl) rfl (fit_a _ _) dJ3_init_3_38 hf (fun h6 hf => ?_)
    refine j_weak [some (va_rf (some a0)), some (va_rf p0), some (va_rf p1), some (.int p2), none] (Wk.k (Wk.k (Wk.k (Wk.k (Wk.s Wk.n))))) ?_
    exact pf_J3_init_3_X11_B41 (some a0) p0 p1 p2 h6 hf
  · refine j_aload_n 0 dJ3_init_3_28 rfl rfl ?_
    cases hf
abbrev mi_J3_init_3_X12 : MI := (cJ3_init_3, 5, RJ3, none, [], 1, 20, "<init>")
def f_J3_init_3_X12_B60  (h : PH) : Option (Unit × PH) := some ((), h)
theorem pf_J3_init_3_X12_B60 {Γ : GX} {D : va_G} {h0 : PH} {o : Unit × PH}  (h : PH) (hf : f_J3_init_3_X12_B60  h = some o) : PF Γ mi_J3_init_3_X12 D h0 (QR Γ D h0 (ovv o.1) o.2) h 60 [none, none, none, none, none] [] := by
  have e9 := Option.some.inj hf
  subst e9
  exact j_vret rfl dJ3_init_3_60
def f_J3_init_3_X12_B41 (x0 : Option Nat) (x1 : Option Nat) (x2 : Option Nat) (x3 : Int32) (h : PH) : Option (Unit × PH) := pV h x0 10 4 (va_rf x1) fun h7 => pV h7 x0 10 1 (va_rf x2) fun h8 => (if x3 = 0 then (pV h8 x0 10 3 (va_rf none) fun h9 => f_J3_init_3_X12_B60 h9) else (f_J3_init_3_X12_B60 h8))
theorem pf_J3_init_3_X12_B41 {Γ : GX} {D : va_G} {h0 : PH} {o : Unit × PH} (x0 : Option Nat) (x1 : Option Nat) (x2 : Option Nat) (x3 : Int32) (h : PH) (hf : f_J3_init_3_X12_B41 x0 x1 x2 x3 h = some o) : PF Γ mi_J3_init_3_X12 D h0 (QR Γ D h0 (ovv o.1) o.2) h 41 [some (va_rf x0), some (va_rf x1), some (va_rf x2), some (.int x3), none] [] := by
  refine j_aload_n 0 dJ3_init_3_41 rfl rfl ?_
  refine j_aload_n 1 dJ3_init_3_42 rfl rfl ?_
  refine j_pV (ci := 10) (k := 4) tyX12 tyX12_ok nmX12 rfl in_X12 rfl q466 (Or.inl rfl) rfl (fit_o _ _) dJ3_init_3_43 hf (fun h7 hf => ?_)
  refine j_aload_n 0 dJ3_init_3_46 rfl rfl ?_
  refine j_aload_n 2 dJ3_init_3_47 rfl rfl ?_
  refine j_pV (ci := 10) (k := 1) tyX12 tyX12_ok nmX12 rfl in_X12 rfl q467 (Or.inl rfl) rfl (fit_o _ _) dJ3_init_3_48 hf (fun h8 hf => ?_)
  refine j_iload_n 3 dJ3_init_3_51 rfl rfl ?_
  refine j_if_ne 60 dJ3_init_3_52 (by decide) hf (fun c_ hf => ?_) (fun c_ hf => ?_)
  · refine j_weak [none, none, none, none, none] (Wk.s (Wk.s (Wk.s (Wk.s (Wk.k Wk.n))))) ?_
    exact pf_J3_init_3_X12_B60  h8 hf
  · refine j_aload_n 0 dJ3_init_3_55 rfl rfl ?_
    refine j_aconst_null dJ3_init_3_56 ?_
    refine j_pV (ci := 10) (k := 3) tyX12 tyX12_ok nmX12 rfl in_X12 rfl q469 (Or.inl rfl) rfl (fit_o _ _) dJ3_init_3_57 hf (fun h9 hf => ?_)
    refine j_weak [none, none, none, none, none] (Wk.s (Wk.s (Wk.s (Wk.s (Wk.k Wk.n))))) ?_
    exact pf_J3_init_3_X12_B60  h9 hf
def f_J3_init_3_X12 (a0 : Nat) (p0 : Option Nat) (p1 : Option Nat) (p2 : Int32) (p3 : Int32) (h0 : PH) : Option (Unit × PH) := pV h0 (some a0) 10 1 (va_rf (some a0)) fun h1 => asR (some (h1.2.1.1 13)) fun r2 => pV h1 (some a0) 10 2 (va_rf r2) fun h3 => asR (some (h3.2.1.1 14)) fun r4 => pV h3 (some a0) 10 3 (va_rf r4) fun h5 => (if p3 = 0 then (pV h5 (some a0) 10 2 (va_rf none) fun h6 => f_J3_init_3_X12_B41 (some a0) p0 p1 p2 h6) else (none))
theorem hyS_J3_init_3_X12 : yJ3_init_3.cls ≠ "java/lang/invoke/MethodHandle" ∧ yJ3_init_3.cls ≠ "java/lang/invoke/VarHandle" ∧ (parseMethodDescriptor yJ3_init_3.desc).map (fun d => d.parameters.length) = some 4 := by decide +kernel
theorem c_J3_init_3_X12 {D : va_G} (a0 : Nat) (p0 : Option Nat) (p1 : Option Nat) (p2 : Int32) (p3 : Int32) {h0 : PH} (l : Launch) (hl : l.stackTraces = false) (x : Unit) (h1 : PH) (hf : f_J3_init_3_X12 a0 p0 p1 p2 p3 h0 = some (x, h1)) : CT l D yJ3_init_3 (ws_ yJ3_init_3 cJ3_init_3 5 none) 1 20 [va_rf (some a0), va_rf p0, va_rf p1, .int p2, .int p3] h0 (ovv x) h1 := by
  refine ct_of hl [some (va_rf (some a0)), some (va_rf p0), some (va_rf p1), some (.int p2), some (.int p3)] (by decide) (by rw [lgl]; simp [va_rf_cat, cat_i, cat_l]) (by simp [lv_args, vsL, va_rf_cat, cat_i, cat_l]) (fun Γ => ?_)
  obtain ⟨o, ho⟩ : ∃ o : Unit × PH, o = (x, h1) := ⟨_, rfl⟩
  rw [← ho] at hf
  have e1 : x = o.1 := by rw [ho]
  have e2 : h1 = o.2 := by rw [ho]
  subst e1 e2
  clear ho
  show PF Γ mi_J3_init_3_X12 D h0 (QR Γ D h0 (ovv o.1) o.2) h0 0 [some (va_rf (some a0)), some (va_rf p0), some (va_rf p1), some (.int p2), some (.int p3)] []
  unfold f_J3_init_3_X12 at hf
  refine j_aload_n 0 dJ3_init_3_0 rfl rfl ?_
  refine j_objI q210 q141 q142 rfl rfl ⟨_, rfl⟩ (by decide) dJ3_init_3_1 ?_
  refine j_aload_n 0 dJ3_init_3_4 rfl rfl ?_
  refine j_aload_n 0 dJ3_init_3_5 rfl rfl ?_
  refine j_pV (ci := 10) (k := 1) tyX12 tyX12_ok nmX12 rfl in_X12 rfl q467 (Or.inl rfl) rfl (fit_o _ _) dJ3_init_3_6 hf (fun h1 hf => ?_)
  refine j_aload_n 0 dJ3_init_3_9 rfl rfl ?_
  refine j_gsR (i := 13) rfl q211 dJ3_init_3_10 hf (fun r2 hf => ?_)
  refine j_pV (ci := 10) (k := 2) tyX12 tyX12_ok nmX12 rfl in_X12 rfl q468 (Or.inl rfl) rfl (fit_a _ _) dJ3_init_3_13 hf (fun h3 hf => ?_)
  refine j_aload_n 0 dJ3_init_3_16 rfl rfl ?_
  refine j_gsR (i := 14) rfl q213 dJ3_init_3_17 hf (fun r4 hf => ?_)
  refine j_pV (ci := 10) (k := 3) tyX12 tyX12_ok nmX12 rfl in_X12 rfl q469 (Or.inl rfl) rfl (fit_o _ _) dJ3_init_3_20 hf (fun h5 hf => ?_)
  refine j_iload dJ3_init_3_23 rfl ?_
  refine j_if_eq 36 dJ3_init_3_25 (by decide) hf (fun c_ hf => ?_) (fun c_ hf => ?_)
  · refine j_aload_n 0 dJ3_init_3_36 rfl rfl ?_
    refine j_aconst_null dJ3_init_3_37 ?_
    refine j_pV (ci := 10) (k := 2) tyX12 tyX12_ok nmX12 rfl in_X12 rfl q468 (Or.inl rfl) rfl (fit_a _ _) dJ3_init_3_38 hf (fun h6 hf => ?_)
    refine j_weak [some (va_rf (some a0)), some (va_rf p0), some (va_rf p1), some (.int p2), none] (Wk.k (Wk.k (Wk.k (Wk.k (Wk.s Wk.n))))) ?_
    exact pf_J3_init_3_X12_B41 (some a0) p0 p1 p2 h6 hf
  · refine j_aload_n 0 dJ3_init_3_28 rfl rfl ?_
    cases hf
abbrev mi_J3_init_3_X13 : MI := (cJ3_init_3, 5, RJ3, none, [], 1, 20, "<init>")
def f_J3_init_3_X13_B60  (h : PH) : Option (Unit × PH) := some ((), h)
theorem pf_J3_init_3_X13_B60 {Γ : GX} {D : va_G} {h0 : PH} {o : Unit × PH}  (h : PH) (hf : f_J3_init_3_X13_B60  h = some o) : PF Γ mi_J3_init_3_X13 D h0 (QR Γ D h0 (ovv o.1) o.2) h 60 [none, none, none, none, none] [] := by
  have e9 := Option.some.inj hf
  subst e9
  exact j_vret rfl dJ3_init_3_60
def f_J3_init_3_X13_B41 (x0 : Option Nat) (x1 : Option Nat) (x2 : Option Nat) (x3 : Int32) (h : PH) : Option (Unit × PH) := pV h x0 11 4 (va_rf x1) fun h7 => pV h7 x0 11 1 (va_rf x2) fun h8 => (if x3 = 0 then (pV h8 x0 11 3 (va_rf none) fun h9 => f_J3_init_3_X13_B60 h9) else (f_J3_init_3_X13_B60 h8))
theorem pf_J3_init_3_X13_B41 {Γ : GX} {D : va_G} {h0 : PH} {o : Unit × PH} (x0 : Option Nat) (x1 : Option Nat) (x2 : Option Nat) (x3 : Int32) (h : PH) (hf : f_J3_init_3_X13_B41 x0 x1 x2 x3 h = some o) : PF Γ mi_J3_init_3_X13 D h0 (QR Γ D h0 (ovv o.1) o.2) h 41 [some (va_rf x0), some (va_rf x1), some (va_rf x2), some (.int x3), none] [] := by
  refine j_aload_n 0 dJ3_init_3_41 rfl rfl ?_
  refine j_aload_n 1 dJ3_init_3_42 rfl rfl ?_
  refine j_pV (ci := 11) (k := 4) tyX13 tyX13_ok nmX13 rfl in_X13 rfl q466 (Or.inl rfl) rfl (fit_o _ _) dJ3_init_3_43 hf (fun h7 hf => ?_)
  refine j_aload_n 0 dJ3_init_3_46 rfl rfl ?_
  refine j_aload_n 2 dJ3_init_3_47 rfl rfl ?_
  refine j_pV (ci := 11) (k := 1) tyX13 tyX13_ok nmX13 rfl in_X13 rfl q467 (Or.inl rfl) rfl (fit_o _ _) dJ3_init_3_48 hf (fun h8 hf => ?_)
  refine j_iload_n 3 dJ3_init_3_51 rfl rfl ?_
  refine j_if_ne 60 dJ3_init_3_52 (by decide) hf (fun c_ hf => ?_) (fun c_ hf => ?_)
  · refine j_weak [none, none, none, none, none] (Wk.s (Wk.s (Wk.s (Wk.s (Wk.k Wk.n))))) ?_
    exact pf_J3_init_3_X13_B60  h8 hf
  · refine j_aload_n 0 dJ3_init_3_55 rfl rfl ?_
    refine j_aconst_null dJ3_init_3_56 ?_
    refine j_pV (ci := 11) (k := 3) tyX13 tyX13_ok nmX13 rfl in_X13 rfl q469 (Or.inl rfl) rfl (fit_o _ _) dJ3_init_3_57 hf (fun h9 hf => ?_)
    refine j_weak [none, none, none, none, none] (Wk.s (Wk.s (Wk.s (Wk.s (Wk.k Wk.n))))) ?_
    exact pf_J3_init_3_X13_B60  h9 hf
def f_J3_init_3_X13 (a0 : Nat) (p0 : Option Nat) (p1 : Option Nat) (p2 : Int32) (p3 : Int32) (h0 : PH) : Option (Unit × PH) := pV h0 (some a0) 11 1 (va_rf (some a0)) fun h1 => asR (some (h1.2.1.1 13)) fun r2 => pV h1 (some a0) 11 2 (va_rf r2) fun h3 => asR (some (h3.2.1.1 14)) fun r4 => pV h3 (some a0) 11 3 (va_rf r4) fun h5 => (if p3 = 0 then (pV h5 (some a0) 11 2 (va_rf none) fun h6 => f_J3_init_3_X13_B41 (some a0) p0 p1 p2 h6) else (none))
theorem hyS_J3_init_3_X13 : yJ3_init_3.cls ≠ "java/lang/invoke/MethodHandle" ∧ yJ3_init_3.cls ≠ "java/lang/invoke/VarHandle" ∧ (parseMethodDescriptor yJ3_init_3.desc).map (fun d => d.parameters.length) = some 4 := by decide +kernel
theorem c_J3_init_3_X13 {D : va_G} (a0 : Nat) (p0 : Option Nat) (p1 : Option Nat) (p2 : Int32) (p3 : Int32) {h0 : PH} (l : Launch) (hl : l.stackTraces = false) (x : Unit) (h1 : PH) (hf : f_J3_init_3_X13 a0 p0 p1 p2 p3 h0 = some (x, h1)) : CT l D yJ3_init_3 (ws_ yJ3_init_3 cJ3_init_3 5 none) 1 20 [va_rf (some a0), va_rf p0, va_rf p1, .int p2, .int p3] h0 (ovv x) h1 := by
  refine ct_of hl [some (va_rf (some a0)), some (va_rf p0), some (va_rf p1), some (.int p2), some (.int p3)] (by decide) (by rw [lgl]; simp [va_rf_cat, cat_i, cat_l]) (by simp [lv_args, vsL, va_rf_cat, cat_i, cat_l]) (fun Γ => ?_)
  obtain ⟨o, ho⟩ : ∃ o : Unit × PH, o = (x, h1) := ⟨_, rfl⟩
  rw [← ho] at hf
  have e1 : x = o.1 := by rw [ho]
  have e2 : h1 = o.2 := by rw [ho]
  subst e1 e2
  clear ho
  show PF Γ mi_J3_init_3_X13 D h0 (QR Γ D h0 (ovv o.1) o.2) h0 0 [some (va_rf (some a0)), some (va_rf p0), some (va_rf p1), some (.int p2), some (.int p3)] []
  unfold f_J3_init_3_X13 at hf
  refine j_aload_n 0 dJ3_init_3_0 rfl rfl ?_
  refine j_objI q210 q141 q142 rfl rfl ⟨_, rfl⟩ (by decide) dJ3_init_3_1 ?_
  refine j_aload_n 0 dJ3_init_3_4 rfl rfl ?_
  refine j_aload_n 0 dJ3_init_3_5 rfl rfl ?_
  refine j_pV (ci := 11) (k := 1) tyX13 tyX13_ok nmX13 rfl in_X13 rfl q467 (Or.inl rfl) rfl (fit_o _ _) dJ3_init_3_6 hf (fun h1 hf => ?_)
  refine j_aload_n 0 dJ3_init_3_9 rfl rfl ?_
  refine j_gsR (i := 13) rfl q211 dJ3_init_3_10 hf (fun r2 hf => ?_)
  refine j_pV (ci := 11) (k := 2) tyX13 tyX13_ok nmX13 rfl in_X13 rfl q468 (Or.inl rfl) rfl (fit_a _ _) dJ3_init_3_13 hf (fun h3 hf => ?_)
  refine j_aload_n 0 dJ3_init_3_16 rfl rfl ?_
  refine j_gsR (i := 14) rfl q213 dJ3_init_3_17 hf (fun r4 hf => ?_)
  refine j_pV (ci := 11) (k := 3) tyX13 tyX13_ok nmX13 rfl in_X13 rfl q469 (Or.inl rfl) rfl (fit_o _ _) dJ3_init_3_20 hf (fun h5 hf => ?_)
  refine j_iload dJ3_init_3_23 rfl ?_
  refine j_if_eq 36 dJ3_init_3_25 (by decide) hf (fun c_ hf => ?_) (fun c_ hf => ?_)
  · refine j_aload_n 0 dJ3_init_3_36 rfl rfl ?_
    refine j_aconst_null dJ3_init_3_37 ?_
    refine j_pV (ci := 11) (k := 2) tyX13 tyX13_ok nmX13 rfl in_X13 rfl q468 (Or.inl rfl) rfl (fit_a _ _) dJ3_init_3_38 hf (fun h6 hf => ?_)
    refine j_weak [some (va_rf (some a0)), some (va_rf p0), some (va_rf p1), some (.int p2), none] (Wk.k (Wk.k (Wk.k (Wk.k (Wk.s Wk.n))))) ?_
    exact pf_J3_init_3_X13_B41 (some a0) p0 p1 p2 h6 hf
  · refine j_aload_n 0 dJ3_init_3_28 rfl rfl ?_
    cases hf
abbrev mi_J3_init_3_X14 : MI := (cJ3_init_3, 5, RJ3, none, [], 1, 20, "<init>")
def f_J3_init_3_X14_B60  (h : PH) : Option (Unit × PH) := some ((), h)
theorem pf_J3_init_3_X14_B60 {Γ : GX} {D : va_G} {h0 : PH} {o : Unit × PH}  (h : PH) (hf : f_J3_init_3_X14_B60  h = some o) : PF Γ mi_J3_init_3_X14 D h0 (QR Γ D h0 (ovv o.1) o.2) h 60 [none, none, none, none, none] [] := by
  have e9 := Option.some.inj hf
  subst e9
  exact j_vret rfl dJ3_init_3_60
def f_J3_init_3_X14_B41 (x0 : Option Nat) (x1 : Option Nat) (x2 : Option Nat) (x3 : Int32) (h : PH) : Option (Unit × PH) := pV h x0 12 3 (va_rf x1) fun h7 => pV h7 x0 12 0 (va_rf x2) fun h8 => (if x3 = 0 then (pV h8 x0 12 2 (va_rf none) fun h9 => f_J3_init_3_X14_B60 h9) else (f_J3_init_3_X14_B60 h8))
theorem pf_J3_init_3_X14_B41 {Γ : GX} {D : va_G} {h0 : PH} {o : Unit × PH} (x0 : Option Nat) (x1 : Option Nat) (x2 : Option Nat) (x3 : Int32) (h : PH) (hf : f_J3_init_3_X14_B41 x0 x1 x2 x3 h = some o) : PF Γ mi_J3_init_3_X14 D h0 (QR Γ D h0 (ovv o.1) o.2) h 41 [some (va_rf x0), some (va_rf x1), some (va_rf x2), some (.int x3), none] [] := by
  refine j_aload_n 0 dJ3_init_3_41 rfl rfl ?_
  refine j_aload_n 1 dJ3_init_3_42 rfl rfl ?_
  refine j_pV (ci := 12) (k := 3) tyX14 tyX14_ok nmX14 rfl in_X14 rfl q466 (Or.inl rfl) rfl (fit_o _ _) dJ3_init_3_43 hf (fun h7 hf => ?_)
  refine j_aload_n 0 dJ3_init_3_46 rfl rfl ?_
  refine j_aload_n 2 dJ3_init_3_47 rfl rfl ?_
  refine j_pV (ci := 12) (k := 0) tyX14 tyX14_ok nmX14 rfl in_X14 rfl q467 (Or.inl rfl) rfl (fit_o _ _) dJ3_init_3_48 hf (fun h8 hf => ?_)
  refine j_iload_n 3 dJ3_init_3_51 rfl rfl ?_
  refine j_if_ne 60 dJ3_init_3_52 (by decide) hf (fun c_ hf => ?_) (fun c_ hf => ?_)
  · refine j_weak [none, none, none, none, none] (Wk.s (Wk.s (Wk.s (Wk.s (Wk.k Wk.n))))) ?_
    exact pf_J3_init_3_X14_B60  h8 hf
  · refine j_aload_n 0 dJ3_init_3_55 rfl rfl ?_
    refine j_aconst_null dJ3_init_3_56 ?_
    refine j_pV (ci := 12) (k := 2) tyX14 tyX14_ok nmX14 rfl in_X14 rfl q469 (Or.inl rfl) rfl (fit_o _ _) dJ3_init_3_57 hf (fun h9 hf => ?_)
    refine j_weak [none, none, none, none, none] (Wk.s (Wk.s (Wk.s (Wk.s (Wk.k Wk.n))))) ?_
    exact pf_J3_init_3_X14_B60  h9 hf
def f_J3_init_3_X14 (a0 : Nat) (p0 : Option Nat) (p1 : Option Nat) (p2 : Int32) (p3 : Int32) (h0 : PH) : Option (Unit × PH) := pV h0 (some a0) 12 0 (va_rf (some a0)) fun h1 => asR (some (h1.2.1.1 13)) fun r2 => pV h1 (some a0) 12 1 (va_rf r2) fun h3 => asR (some (h3.2.1.1 14)) fun r4 => pV h3 (some a0) 12 2 (va_rf r4) fun h5 => (if p3 = 0 then (pV h5 (some a0) 12 1 (va_rf none) fun h6 => f_J3_init_3_X14_B41 (some a0) p0 p1 p2 h6) else (none))
theorem hyS_J3_init_3_X14 : yJ3_init_3.cls ≠ "java/lang/invoke/MethodHandle" ∧ yJ3_init_3.cls ≠ "java/lang/invoke/VarHandle" ∧ (parseMethodDescriptor yJ3_init_3.desc).map (fun d => d.parameters.length) = some 4 := by decide +kernel
theorem c_J3_init_3_X14 {D : va_G} (a0 : Nat) (p0 : Option Nat) (p1 : Option Nat) (p2 : Int32) (p3 : Int32) {h0 : PH} (l : Launch) (hl : l.stackTraces = false) (x : Unit) (h1 : PH) (hf : f_J3_init_3_X14 a0 p0 p1 p2 p3 h0 = some (x, h1)) : CT l D yJ3_init_3 (ws_ yJ3_init_3 cJ3_init_3 5 none) 1 20 [va_rf (some a0), va_rf p0, va_rf p1, .int p2, .int p3] h0 (ovv x) h1 := by
  refine ct_of hl [some (va_rf (some a0)), some (va_rf p0), some (va_rf p1), some (.int p2), some (.int p3)] (by decide) (by rw [lgl]; simp [va_rf_cat, cat_i, cat_l]) (by simp [lv_args, vsL, va_rf_cat, cat_i, cat_l]) (fun Γ => ?_)
  obtain ⟨o, ho⟩ : ∃ o : Unit × PH, o = (x, h1) := ⟨_, rfl⟩
  rw [← ho] at hf
  have e1 : x = o.1 := by rw [ho]
  have e2 : h1 = o.2 := by rw [ho]
  subst e1 e2
  clear ho
  show PF Γ mi_J3_init_3_X14 D h0 (QR Γ D h0 (ovv o.1) o.2) h0 0 [some (va_rf (some a0)), some (va_rf p0), some (va_rf p1), some (.int p2), some (.int p3)] []
  unfold f_J3_init_3_X14 at hf
  refine j_aload_n 0 dJ3_init_3_0 rfl rfl ?_
  refine j_objI q210 q141 q142 rfl rfl ⟨_, rfl⟩ (by decide) dJ3_init_3_1 ?_
  refine j_aload_n 0 dJ3_init_3_4 rfl rfl ?_
  refine j_aload_n 0 dJ3_init_3_5 rfl rfl ?_
  refine j_pV (ci := 12) (k := 0) tyX14 tyX14_ok nmX14 rfl in_X14 rfl q467 (Or.inl rfl) rfl (fit_o _ _) dJ3_init_3_6 hf (fun h1 hf => ?_)
  refine j_aload_n 0 dJ3_init_3_9 rfl rfl ?_
  refine j_gsR (i := 13) rfl q211 dJ3_init_3_10 hf (fun r2 hf => ?_)
  refine j_pV (ci := 12) (k := 1) tyX14 tyX14_ok nmX14 rfl in_X14 rfl q468 (Or.inl rfl) rfl (fit_a _ _) dJ3_init_3_13 hf (fun h3 hf => ?_)
  refine j_aload_n 0 dJ3_init_3_16 rfl rfl ?_
  refine j_gsR (i := 14) rfl q213 dJ3_init_3_17 hf (fun r4 hf => ?_)
  refine j_pV (ci := 12) (k := 2) tyX14 tyX14_ok nmX14 rfl in_X14 rfl q469 (Or.inl rfl) rfl (fit_o _ _) dJ3_init_3_20 hf (fun h5 hf => ?_)
  refine j_iload dJ3_init_3_23 rfl ?_
  refine j_if_eq 36 dJ3_init_3_25 (by decide) hf (fun c_ hf => ?_) (fun c_ hf => ?_)
  · refine j_aload_n 0 dJ3_init_3_36 rfl rfl ?_
    refine j_aconst_null dJ3_init_3_37 ?_
    refine j_pV (ci := 12) (k := 1) tyX14 tyX14_ok nmX14 rfl in_X14 rfl q468 (Or.inl rfl) rfl (fit_a _ _) dJ3_init_3_38 hf (fun h6 hf => ?_)
    refine j_weak [some (va_rf (some a0)), some (va_rf p0), some (va_rf p1), some (.int p2), none] (Wk.k (Wk.k (Wk.k (Wk.k (Wk.s Wk.n))))) ?_
    exact pf_J3_init_3_X14_B41 (some a0) p0 p1 p2 h6 hf
  · refine j_aload_n 0 dJ3_init_3_28 rfl rfl ?_
    cases hf
abbrev mi_J3_init_3_X18 : MI := (cJ3_init_3, 5, RJ3, none, [], 1, 20, "<init>")
def f_J3_init_3_X18_B60  (h : PH) : Option (Unit × PH) := some ((), h)
theorem pf_J3_init_3_X18_B60 {Γ : GX} {D : va_G} {h0 : PH} {o : Unit × PH}  (h : PH) (hf : f_J3_init_3_X18_B60  h = some o) : PF Γ mi_J3_init_3_X18 D h0 (QR Γ D h0 (ovv o.1) o.2) h 60 [none, none, none, none, none] [] := by
  have e9 := Option.some.inj hf
  subst e9
  exact j_vret rfl dJ3_init_3_60
def f_J3_init_3_X18_B41 (x0 : Option Nat) (x1 : Option Nat) (x2 : Option Nat) (x3 : Int32) (h : PH) : Option (Unit × PH) := pV h x0 15 3 (va_rf x1) fun h7 => pV h7 x0 15 0 (va_rf x2) fun h8 => (if x3 = 0 then (pV h8 x0 15 2 (va_rf none) fun h9 => f_J3_init_3_X18_B60 h9) else (f_J3_init_3_X18_B60 h8))
theorem pf_J3_init_3_X18_B41 {Γ : GX} {D : va_G} {h0 : PH} {o : Unit × PH} (x0 : Option Nat) (x1 : Option Nat) (x2 : Option Nat) (x3 : Int32) (h : PH) (hf : f_J3_init_3_X18_B41 x0 x1 x2 x3 h = some o) : PF Γ mi_J3_init_3_X18 D h0 (QR Γ D h0 (ovv o.1) o.2) h 41 [some (va_rf x0), some (va_rf x1), some (va_rf x2), some (.int x3), none] [] := by
  refine j_aload_n 0 dJ3_init_3_41 rfl rfl ?_
  refine j_aload_n 1 dJ3_init_3_42 rfl rfl ?_
  refine j_pV (ci := 15) (k := 3) tyX18 tyX18_ok nmX18 rfl in_X18 rfl q466 (Or.inl rfl) rfl (fit_o _ _) dJ3_init_3_43 hf (fun h7 hf => ?_)
  refine j_aload_n 0 dJ3_init_3_46 rfl rfl ?_
  refine j_aload_n 2 dJ3_init_3_47 rfl rfl ?_
  refine j_pV (ci := 15) (k := 0) tyX18 tyX18_ok nmX18 rfl in_X18 rfl q467 (Or.inl rfl) rfl (fit_o _ _) dJ3_init_3_48 hf (fun h8 hf => ?_)
  refine j_iload_n 3 dJ3_init_3_51 rfl rfl ?_
  refine j_if_ne 60 dJ3_init_3_52 (by decide) hf (fun c_ hf => ?_) (fun c_ hf => ?_)
  · refine j_weak [none, none, none, none, none] (Wk.s (Wk.s (Wk.s (Wk.s (Wk.k Wk.n))))) ?_
    exact pf_J3_init_3_X18_B60  h8 hf
  · refine j_aload_n 0 dJ3_init_3_55 rfl rfl ?_
    refine j_aconst_null dJ3_init_3_56 ?_
    refine j_pV (ci := 15) (k := 2) tyX18 tyX18_ok nmX18 rfl in_X18 rfl q469 (Or.inl rfl) rfl (fit_o _ _) dJ3_init_3_57 hf (fun h9 hf => ?_)
    refine j_weak [none, none, none, none, none] (Wk.s (Wk.s (Wk.s (Wk.s (Wk.k Wk.n))))) ?_
    exact pf_J3_init_3_X18_B60  h9 hf
def f_J3_init_3_X18 (a0 : Nat) (p0 : Option Nat) (p1 : Option Nat) (p2 : Int32) (p3 : Int32) (h0 : PH) : Option (Unit × PH) := pV h0 (some a0) 15 0 (va_rf (some a0)) fun h1 => asR (some (h1.2.1.1 13)) fun r2 => pV h1 (some a0) 15 1 (va_rf r2) fun h3 => asR (some (h3.2.1.1 14)) fun r4 => pV h3 (some a0) 15 2 (va_rf r4) fun h5 => (if p3 = 0 then (pV h5 (some a0) 15 1 (va_rf none) fun h6 => f_J3_init_3_X18_B41 (some a0) p0 p1 p2 h6) else (none))
theorem hyS_J3_init_3_X18 : yJ3_init_3.cls ≠ "java/lang/invoke/MethodHandle" ∧ yJ3_init_3.cls ≠ "java/lang/invoke/VarHandle" ∧ (parseMethodDescriptor yJ3_init_3.desc).map (fun d => d.parameters.length) = some 4 := by decide +kernel
theorem c_J3_init_3_X18 {D : va_G} (a0 : Nat) (p0 : Option Nat) (p1 : Option Nat) (p2 : Int32) (p3 : Int32) {h0 : PH} (l : Launch) (hl : l.stackTraces = false) (x : Unit) (h1 : PH) (hf : f_J3_init_3_X18 a0 p0 p1 p2 p3 h0 = some (x, h1)) : CT l D yJ3_init_3 (ws_ yJ3_init_3 cJ3_init_3 5 none) 1 20 [va_rf (some a0), va_rf p0, va_rf p1, .int p2, .int p3] h0 (ovv x) h1 := by
  refine ct_of hl [some (va_rf (some a0)), some (va_rf p0), some (va_rf p1), some (.int p2), some (.int p3)] (by decide) (by rw [lgl]; simp [va_rf_cat, cat_i, cat_l]) (by simp [lv_args, vsL, va_rf_cat, cat_i, cat_l]) (fun Γ => ?_)
  obtain ⟨o, ho⟩ : ∃ o : Unit × PH, o = (x, h1) := ⟨_, rfl⟩
  rw [← ho] at hf
  have e1 : x = o.1 := by rw [ho]
  have e2 : h1 = o.2 := by rw [ho]
  subst e1 e2
  clear ho
  show PF Γ mi_J3_init_3_X18 D h0 (QR Γ D h0 (ovv o.1) o.2) h0 0 [some (va_rf (some a0)), some (va_rf p0), some (va_rf p1), some (.int p2), some (.int p3)] []
  unfold f_J3_init_3_X18 at hf
  refine j_aload_n 0 dJ3_init_3_0 rfl rfl ?_
  refine j_objI q210 q141 q142 rfl rfl ⟨_, rfl⟩ (by decide) dJ3_init_3_1 ?_
  refine j_aload_n 0 dJ3_init_3_4 rfl rfl ?_
  refine j_aload_n 0 dJ3_init_3_5 rfl rfl ?_
  refine j_pV (ci := 15) (k := 0) tyX18 tyX18_ok nmX18 rfl in_X18 rfl q467 (Or.inl rfl) rfl (fit_o _ _) dJ3_init_3_6 hf (fun h1 hf => ?_)
  refine j_aload_n 0 dJ3_init_3_9 rfl rfl ?_
  refine j_gsR (i := 13) rfl q211 dJ3_init_3_10 hf (fun r2 hf => ?_)
  refine j_pV (ci := 15) (k := 1) tyX18 tyX18_ok nmX18 rfl in_X18 rfl q468 (Or.inl rfl) rfl (fit_a _ _) dJ3_init_3_13 hf (fun h3 hf => ?_)
  refine j_aload_n 0 dJ3_init_3_16 rfl rfl ?_
  refine j_gsR (i := 14) rfl q213 dJ3_init_3_17 hf (fun r4 hf => ?_)
  refine j_pV (ci := 15) (k := 2) tyX18 tyX18_ok nmX18 rfl in_X18 rfl q469 (Or.inl rfl) rfl (fit_o _ _) dJ3_init_3_20 hf (fun h5 hf => ?_)
  refine j_iload dJ3_init_3_23 rfl ?_
  refine j_if_eq 36 dJ3_init_3_25 (by decide) hf (fun c_ hf => ?_) (fun c_ hf => ?_)
  · refine j_aload_n 0 dJ3_init_3_36 rfl rfl ?_
    refine j_aconst_null dJ3_init_3_37 ?_
    refine j_pV (ci := 15) (k := 1) tyX18 tyX18_ok nmX18 rfl in_X18 rfl q468 (Or.inl rfl) rfl (fit_a _ _) dJ3_init_3_38 hf (fun h6 hf => ?_)
    refine j_weak [some (va_rf (some a0)), some (va_rf p0), some (va_rf p1), some (.int p2), none] (Wk.k (Wk.k (Wk.k (Wk.k (Wk.s Wk.n))))) ?_
    exact pf_J3_init_3_X18_B41 (some a0) p0 p1 p2 h6 hf
  · refine j_aload_n 0 dJ3_init_3_28 rfl rfl ?_
    cases hf
abbrev mi_J3_init_3_X19 : MI := (cJ3_init_3, 5, RJ3, none, [], 1, 20, "<init>")
def f_J3_init_3_X19_B60  (h : PH) : Option (Unit × PH) := some ((), h)
theorem pf_J3_init_3_X19_B60 {Γ : GX} {D : va_G} {h0 : PH} {o : Unit × PH}  (h : PH) (hf : f_J3_init_3_X19_B60  h = some o) : PF Γ mi_J3_init_3_X19 D h0 (QR Γ D h0 (ovv o.1) o.2) h 60 [none, none, none, none, none] [] := by
  have e9 := Option.some.inj hf
  subst e9
  exact j_vret rfl dJ3_init_3_60
def f_J3_init_3_X19_B41 (x0 : Option Nat) (x1 : Option Nat) (x2 : Option Nat) (x3 : Int32) (h : PH) : Option (Unit × PH) := pV h x0 16 3 (va_rf x1) fun h7 => pV h7 x0 16 0 (va_rf x2) fun h8 => (if x3 = 0 then (pV h8 x0 16 2 (va_rf none) fun h9 => f_J3_init_3_X19_B60 h9) else (f_J3_init_3_X19_B60 h8))
theorem pf_J3_init_3_X19_B41 {Γ : GX} {D : va_G} {h0 : PH} {o : Unit × PH} (x0 : Option Nat) (x1 : Option Nat) (x2 : Option Nat) (x3 : Int32) (h : PH) (hf : f_J3_init_3_X19_B41 x0 x1 x2 x3 h = some o) : PF Γ mi_J3_init_3_X19 D h0 (QR Γ D h0 (ovv o.1) o.2) h 41 [some (va_rf x0), some (va_rf x1), some (va_rf x2), some (.int x3), none] [] := by
  refine j_aload_n 0 dJ3_init_3_41 rfl rfl ?_
  refine j_aload_n 1 dJ3_init_3_42 rfl rfl ?_
  refine j_pV (ci := 16) (k := 3) tyX19 tyX19_ok nmX19 rfl in_X19 rfl q466 (Or.inl rfl) rfl (fit_o _ _) dJ3_init_3_43 hf (fun h7 hf => ?_)
  refine j_aload_n 0 dJ3_init_3_46 rfl rfl ?_
  refine j_aload_n 2 dJ3_init_3_47 rfl rfl ?_
  refine j_pV (ci := 16) (k := 0) tyX19 tyX19_ok nmX19 rfl in_X19 rfl q467 (Or.inl rfl) rfl (fit_o _ _) dJ3_init_3_48 hf (fun h8 hf => ?_)
  refine j_iload_n 3 dJ3_init_3_51 rfl rfl ?_
  refine j_if_ne 60 dJ3_init_3_52 (by decide) hf (fun c_ hf => ?_) (fun c_ hf => ?_)
  · refine j_weak [none, none, none, none, none] (Wk.s (Wk.s (Wk.s (Wk.s (Wk.k Wk.n))))) ?_
    exact pf_J3_init_3_X19_B60  h8 hf
  · refine j_aload_n 0 dJ3_init_3_55 rfl rfl ?_
    refine j_aconst_null dJ3_init_3_56 ?_
    refine j_pV (ci := 16) (k := 2) tyX19 tyX19_ok nmX19 rfl in_X19 rfl q469 (Or.inl rfl) rfl (fit_o _ _) dJ3_init_3_57 hf (fun h9 hf => ?_)
    refine j_weak [none, none, none, none, none] (Wk.s (Wk.s (Wk.s (Wk.s (Wk.k Wk.n))))) ?_
    exact pf_J3_init_3_X19_B60  h9 hf
def f_J3_init_3_X19 (a0 : Nat) (p0 : Option Nat) (p1 : Option Nat) (p2 : Int32) (p3 : Int32) (h0 : PH) : Option (Unit × PH) := pV h0 (some a0) 16 0 (va_rf (some a0)) fun h1 => asR (some (h1.2.1.1 13)) fun r2 => pV h1 (some a0) 16 1 (va_rf r2) fun h3 => asR (some (h3.2.1.1 14)) fun r4 => pV h3 (some a0) 16 2 (va_rf r4) fun h5 => (if p3 = 0 then (pV h5 (some a0) 16 1 (va_rf none) fun h6 => f_J3_init_3_X19_B41 (some a0) p0 p1 p2 h6) else (none))
theorem hyS_J3_init_3_X19 : yJ3_init_3.cls ≠ "java/lang/invoke/MethodHandle" ∧ yJ3_init_3.cls ≠ "java/lang/invoke/VarHandle" ∧ (parseMethodDescriptor yJ3_init_3.desc).map (fun d => d.parameters.length) = some 4 := by decide +kernel
theorem c_J3_init_3_X19 {D : va_G} (a0 : Nat) (p0 : Option Nat) (p1 : Option Nat) (p2 : Int32) (p3 : Int32) {h0 : PH} (l : Launch) (hl : l.stackTraces = false) (x : Unit) (h1 : PH) (hf : f_J3_init_3_X19 a0 p0 p1 p2 p3 h0 = some (x, h1)) : CT l D yJ3_init_3 (ws_ yJ3_init_3 cJ3_init_3 5 none) 1 20 [va_rf (some a0), va_rf p0, va_rf p1, .int p2, .int p3] h0 (ovv x) h1 := by
  refine ct_of hl [some (va_rf (some a0)), some (va_rf p0), some (va_rf p1), some (.int p2), some (.int p3)] (by decide) (by rw [lgl]; simp [va_rf_cat, cat_i, cat_l]) (by simp [lv_args, vsL, va_rf_cat, cat_i, cat_l]) (fun Γ => ?_)
  obtain ⟨o, ho⟩ : ∃ o : Unit × PH, o = (x, h1) := ⟨_, rfl⟩
  rw [← ho] at hf
  have e1 : x = o.1 := by rw [ho]
  have e2 : h1 = o.2 := by rw [ho]
  subst e1 e2
  clear ho
  show PF Γ mi_J3_init_3_X19 D h0 (QR Γ D h0 (ovv o.1) o.2) h0 0 [some (va_rf (some a0)), some (va_rf p0), some (va_rf p1), some (.int p2), some (.int p3)] []
  unfold f_J3_init_3_X19 at hf
  refine j_aload_n 0 dJ3_init_3_0 rfl rfl ?_
  refine j_objI q210 q141 q142 rfl rfl ⟨_, rfl⟩ (by decide) dJ3_init_3_1 ?_
  refine j_aload_n 0 dJ3_init_3_4 rfl rfl ?_
  refine j_aload_n 0 dJ3_init_3_5 rfl rfl ?_
  refine j_pV (ci := 16) (k := 0) tyX19 tyX19_ok nmX19 rfl in_X19 rfl q467 (Or.inl rfl) rfl (fit_o _ _) dJ3_init_3_6 hf (fun h1 hf => ?_)
  refine j_aload_n 0 dJ3_init_3_9 rfl rfl ?_
  refine j_gsR (i := 13) rfl q211 dJ3_init_3_10 hf (fun r2 hf => ?_)
  refine j_pV (ci := 16) (k := 1) tyX19 tyX19_ok nmX19 rfl in_X19 rfl q468 (Or.inl rfl) rfl (fit_a _ _) dJ3_init_3_13 hf (fun h3 hf => ?_)
  refine j_aload_n 0 dJ3_init_3_16 rfl rfl ?_
  refine j_gsR (i := 14) rfl q213 dJ3_init_3_17 hf (fun r4 hf => ?_)
  refine j_pV (ci := 16) (k := 2) tyX19 tyX19_ok nmX19 rfl in_X19 rfl q469 (Or.inl rfl) rfl (fit_o _ _) dJ3_init_3_20 hf (fun h5 hf => ?_)
  refine j_iload dJ3_init_3_23 rfl ?_
  refine j_if_eq 36 dJ3_init_3_25 (by decide) hf (fun c_ hf => ?_) (fun c_ hf => ?_)
  · refine j_aload_n 0 dJ3_init_3_36 rfl rfl ?_
    refine j_aconst_null dJ3_init_3_37 ?_
    refine j_pV (ci := 16) (k := 1) tyX19 tyX19_ok nmX19 rfl in_X19 rfl q468 (Or.inl rfl) rfl (fit_a _ _) dJ3_init_3_38 hf (fun h6 hf => ?_)
    refine j_weak [some (va_rf (some a0)), some (va_rf p0), some (va_rf p1), some (.int p2), none] (Wk.k (Wk.k (Wk.k (Wk.k (Wk.s Wk.n))))) ?_
    exact pf_J3_init_3_X19_B41 (some a0) p0 p1 p2 h6 hf
  · refine j_aload_n 0 dJ3_init_3_28 rfl rfl ?_
    cases hf
theorem kc_J4_16_X10 {Γ : GX} {I : MI} {D : va_G} {h0 : PH} {Q : State → Prop} {h : PH} {pc : Nat} {vs : List (Option Value)} {rest : List Value} {β : Type} {o : β} {a : Nat} {p0 : Option Nat} {p1 : Option Nat} {p2 : Int32} {p3 : Int32} {K : ((Unit) → PH → Option β)} (hI : I.2.2.1 = RJ4) (hfr : Nat.ble 2 I.2.2.2.2.2.1 = true) (hlo : Nat.ble 44 I.2.2.2.2.2.2.1 = true) (hW : (rest.map fun v => v.category).sum ≤ 8) (hd : decode I.1 pc = .ok (.invokespecial 16, 3)) (hf : cl_ (f_J3_init_3_X10 a p0 p1 p2 p3 h) K = some o) (kk : ∀ (x : Unit) (h1 : PH), K x h1 = some o → PF Γ I D h0 Q h1 (pc + 3) vs (rest)) : PF Γ I D h0 Q h pc vs (.int p3 :: .int p2 :: va_rf p1 :: va_rf p0 :: va_rf (some a) :: rest) := by
  obtain ⟨cc, nL, own, rt, xt, fr, lo, nm⟩ := I
  cases hI
  exact j_cIv (n := 4) (y := yJ3_init_3) (cc2 := cJ3_init_3) (As := [va_rf p0, va_rf p1, .int p2, .int p3]) (lw_meth q1059) q97 q1057 q1058 rfl hyS_J3_init_3_X10 hfr hlo rfl hW hd (c_J3_init_3_X10 a p0 p1 p2 p3) ⟨_, rfl⟩ hf _ rfl kk
abbrev mi_J4_init_2_X10 : MI := (cJ4_init_2, 5, RJ4, none, [], 2, 44, "<init>")
def f_J4_init_2_X10 (a0 : Nat) (p0 : Option Nat) (p1 : Option Nat) (p2 : Int32) (p3 : Int32) (h0 : PH) : Option (Unit × PH) := cl_ (f_J3_init_3_X10 a0 p0 p1 p2 p3 h0) fun _u h1 => some ((), h1)
theorem hyS_J4_init_2_X10 : yJ4_init_2.cls ≠ "java/lang/invoke/MethodHandle" ∧ yJ4_init_2.cls ≠ "java/lang/invoke/VarHandle" ∧ (parseMethodDescriptor yJ4_init_2.desc).map (fun d => d.parameters.length) = some 4 := by decide +kernel
theorem c_J4_init_2_X10 {D : va_G} (a0 : Nat) (p0 : Option Nat) (p1 : Option Nat) (p2 : Int32) (p3 : Int32) {h0 : PH} (l : Launch) (hl : l.stackTraces = false) (x : Unit) (h1 : PH) (hf : f_J4_init_2_X10 a0 p0 p1 p2 p3 h0 = some (x, h1)) : CT l D yJ4_init_2 (ws_ yJ4_init_2 cJ4_init_2 5 none) 2 44 [va_rf (some a0), va_rf p0, va_rf p1, .int p2, .int p3] h0 (ovv x) h1 := by
  refine ct_of hl [some (va_rf (some a0)), some (va_rf p0), some (va_rf p1), some (.int p2), some (.int p3)] (by decide) (by rw [lgl]; simp [va_rf_cat, cat_i, cat_l]) (by simp [lv_args, vsL, va_rf_cat, cat_i, cat_l]) (fun Γ => ?_)
  obtain ⟨o, ho⟩ : ∃ o : Unit × PH, o = (x, h1) := ⟨_, rfl⟩
  rw [← ho] at hf
  have e1 : x = o.1 := by rw [ho]
  have e2 : h1 = o.2 := by rw [ho]
  subst e1 e2
  clear ho
  show PF Γ mi_J4_init_2_X10 D h0 (QR Γ D h0 (ovv o.1) o.2) h0 0 [some (va_rf (some a0)), some (va_rf p0), some (va_rf p1), some (.int p2), some (.int p3)] []
  unfold f_J4_init_2_X10 at hf
  refine j_aload_n 0 dJ4_init_2_0 rfl rfl ?_
  refine j_aload_n 1 dJ4_init_2_1 rfl rfl ?_
  refine j_aload_n 2 dJ4_init_2_2 rfl rfl ?_
  refine j_iload_n 3 dJ4_init_2_3 rfl rfl ?_
  refine j_iload dJ4_init_2_4 rfl ?_
  refine kc_J4_16_X10 rfl rfl rfl (by decide) dJ4_init_2_6 hf (fun _u h1 hf => ?_)
  have e9 := Option.some.inj hf
  subst e9
  exact j_vret rfl dJ4_init_2_9
theorem kc_J4_16_X11 {Γ : GX} {I : MI} {D : va_G} {h0 : PH} {Q : State → Prop} {h : PH} {pc : Nat} {vs : List (Option Value)} {rest : List Value} {β : Type} {o : β} {a : Nat} {p0 : Option Nat} {p1 : Option Nat} {p2 : Int32} {p3 : Int32} {K : ((Unit) → PH → Option β)} (hI : I.2.2.1 = RJ4) (hfr : Nat.ble 2 I.2.2.2.2.2.1 = true) (hlo : Nat.ble 44 I.2.2.2.2.2.2.1 = true) (hW : (rest.map fun v => v.category).sum ≤ 8) (hd : decode I.1 pc = .ok (.invokespecial 16, 3)) (hf : cl_ (f_J3_init_3_X11 a p0 p1 p2 p3 h) K = some o) (kk : ∀ (x : Unit) (h1 : PH), K x h1 = some o → PF Γ I D h0 Q h1 (pc + 3) vs (rest)) : PF Γ I D h0 Q h pc vs (.int p3 :: .int p2 :: va_rf p1 :: va_rf p0 :: va_rf (some a) :: rest) := by
  obtain ⟨cc, nL, own, rt, xt, fr, lo, nm⟩ := I
  cases hI
  exact j_cIv (n := 4) (y := yJ3_init_3) (cc2 := cJ3_init_3) (As := [va_rf p0, va_rf p1, .int p2, .int p3]) (lw_meth q1059) q97 q1057 q1058 rfl hyS_J3_init_3_X11 hfr hlo rfl hW hd (c_J3_init_3_X11 a p0 p1 p2 p3) ⟨_, rfl⟩ hf _ rfl kk
abbrev mi_J4_init_2_X11 : MI := (cJ4_init_2, 5, RJ4, none, [], 2, 44, "<init>")
def f_J4_init_2_X11 (a0 : Nat) (p0 : Option Nat) (p1 : Option Nat) (p2 : Int32) (p3 : Int32) (h0 : PH) : Option (Unit × PH) := cl_ (f_J3_init_3_X11 a0 p0 p1 p2 p3 h0) fun _u h1 => some ((), h1)
theorem hyS_J4_init_2_X11 : yJ4_init_2.cls ≠ "java/lang/invoke/MethodHandle" ∧ yJ4_init_2.cls ≠ "java/lang/invoke/VarHandle" ∧ (parseMethodDescriptor yJ4_init_2.desc).map (fun d => d.parameters.length) = some 4 := by decide +kernel
theorem c_J4_init_2_X11 {D : va_G} (a0 : Nat) (p0 : Option Nat) (p1 : Option Nat) (p2 : Int32) (p3 : Int32) {h0 : PH} (l : Launch) (hl : l.stackTraces = false) (x : Unit) (h1 : PH) (hf : f_J4_init_2_X11 a0 p0 p1 p2 p3 h0 = some (x, h1)) : CT l D yJ4_init_2 (ws_ yJ4_init_2 cJ4_init_2 5 none) 2 44 [va_rf (some a0), va_rf p0, va_rf p1, .int p2, .int p3] h0 (ovv x) h1 := by
  refine ct_of hl [some (va_rf (some a0)), some (va_rf p0), some (va_rf p1), some (.int p2), some (.int p3)] (by decide) (by rw [lgl]; simp [va_rf_cat, cat_i, cat_l]) (by simp [lv_args, vsL, va_rf_cat, cat_i, cat_l]) (fun Γ => ?_)
  obtain ⟨o, ho⟩ : ∃ o : Unit × PH, o = (x, h1) := ⟨_, rfl⟩
  rw [← ho] at hf
  have e1 : x = o.1 := by rw [ho]
  have e2 : h1 = o.2 := by rw [ho]
  subst e1 e2
  clear ho
  show PF Γ mi_J4_init_2_X11 D h0 (QR Γ D h0 (ovv o.1) o.2) h0 0 [some (va_rf (some a0)), some (va_rf p0), some (va_rf p1), some (.int p2), some (.int p3)] []
  unfold f_J4_init_2_X11 at hf
  refine j_aload_n 0 dJ4_init_2_0 rfl rfl ?_
  refine j_aload_n 1 dJ4_init_2_1 rfl rfl ?_
  refine j_aload_n 2 dJ4_init_2_2 rfl rfl ?_
  refine j_iload_n 3 dJ4_init_2_3 rfl rfl ?_
  refine j_iload dJ4_init_2_4 rfl ?_
  refine kc_J4_16_X11 rfl rfl rfl (by decide) dJ4_init_2_6 hf (fun _u h1 hf => ?_)
  have e9 := Option.some.inj hf
  subst e9
  exact j_vret rfl dJ4_init_2_9
theorem kc_J4_16_X12 {Γ : GX} {I : MI} {D : va_G} {h0 : PH} {Q : State → Prop} {h : PH} {pc : Nat} {vs : List (Option Value)} {rest : List Value} {β : Type} {o : β} {a : Nat} {p0 : Option Nat} {p1 : Option Nat} {p2 : Int32} {p3 : Int32} {K : ((Unit) → PH → Option β)} (hI : I.2.2.1 = RJ4) (hfr : Nat.ble 2 I.2.2.2.2.2.1 = true) (hlo : Nat.ble 44 I.2.2.2.2.2.2.1 = true) (hW : (rest.map fun v => v.category).sum ≤ 8) (hd : decode I.1 pc = .ok (.invokespecial 16, 3)) (hf : cl_ (f_J3_init_3_X12 a p0 p1 p2 p3 h) K = some o) (kk : ∀ (x : Unit) (h1 : PH), K x h1 = some o → PF Γ I D h0 Q h1 (pc + 3) vs (rest)) : PF Γ I D h0 Q h pc vs (.int p3 :: .int p2 :: va_rf p1 :: va_rf p0 :: va_rf (some a) :: rest) := by
  obtain ⟨cc, nL, own, rt, xt, fr, lo, nm⟩ := I
  cases hI
  exact j_cIv (n := 4) (y := yJ3_init_3) (cc2 := cJ3_init_3) (As := [va_rf p0, va_rf p1, .int p2, .int p3]) (lw_meth q1059) q97 q1057 q1058 rfl hyS_J3_init_3_X12 hfr hlo rfl hW hd (c_J3_init_3_X12 a p0 p1 p2 p3) ⟨_, rfl⟩ hf _ rfl kk
abbrev mi_J4_init_2_X12 : MI := (cJ4_init_2, 5, RJ4, none, [], 2, 44, "<init>")
def f_J4_init_2_X12 (a0 : Nat) (p0 : Option Nat) (p1 : Option Nat) (p2 : Int32) (p3 : Int32) (h0 : PH) : Option (Unit × PH) := cl_ (f_J3_init_3_X12 a0 p0 p1 p2 p3 h0) fun _u h1 => some ((), h1)
theorem hyS_J4_init_2_X12 : yJ4_init_2.cls ≠ "java/lang/invoke/MethodHandle" ∧ yJ4_init_2.cls ≠ "java/lang/invoke/VarHandle" ∧ (parseMethodDescriptor yJ4_init_2.desc).map (fun d => d.parameters.length) = some 4 := by decide +kernel
theorem c_J4_init_2_X12 {D : va_G} (a0 : Nat) (p0 : Option Nat) (p1 : Option Nat) (p2 : Int32) (p3 : Int32) {h0 : PH} (l : Launch) (hl : l.stackTraces = false) (x : Unit) (h1 : PH) (hf : f_J4_init_2_X12 a0 p0 p1 p2 p3 h0 = some (x, h1)) : CT l D yJ4_init_2 (ws_ yJ4_init_2 cJ4_init_2 5 none) 2 44 [va_rf (some a0), va_rf p0, va_rf p1, .int p2, .int p3] h0 (ovv x) h1 := by
  refine ct_of hl [some (va_rf (some a0)), some (va_rf p0), some (va_rf p1), some (.int p2), some (.int p3)] (by decide) (by rw [lgl]; simp [va_rf_cat, cat_i, cat_l]) (by simp [lv_args, vsL, va_rf_cat, cat_i, cat_l]) (fun Γ => ?_)
  obtain ⟨o, ho⟩ : ∃ o : Unit × PH, o = (x, h1) := ⟨_, rfl⟩
  rw [← ho] at hf
  have e1 : x = o.1 := by rw [ho]
  have e2 : h1 = o.2 := by rw [ho]
  subst e1 e2
  clear ho
  show PF Γ mi_J4_init_2_X12 D h0 (QR Γ D h0 (ovv o.1) o.2) h0 0 [some (va_rf (some a0)), some (va_rf p0), some (va_rf p1), some (.int p2), some (.int p3)] []
  unfold f_J4_init_2_X12 at hf
  refine j_aload_n 0 dJ4_init_2_0 rfl rfl ?_
  refine j_aload_n 1 dJ4_init_2_1 rfl rfl ?_
  refine j_aload_n 2 dJ4_init_2_2 rfl rfl ?_
  refine j_iload_n 3 dJ4_init_2_3 rfl rfl ?_
  refine j_iload dJ4_init_2_4 rfl ?_
  refine kc_J4_16_X12 rfl rfl rfl (by decide) dJ4_init_2_6 hf (fun _u h1 hf => ?_)
  have e9 := Option.some.inj hf
  subst e9
  exact j_vret rfl dJ4_init_2_9
theorem kc_J4_16_X13 {Γ : GX} {I : MI} {D : va_G} {h0 : PH} {Q : State → Prop} {h : PH} {pc : Nat} {vs : List (Option Value)} {rest : List Value} {β : Type} {o : β} {a : Nat} {p0 : Option Nat} {p1 : Option Nat} {p2 : Int32} {p3 : Int32} {K : ((Unit) → PH → Option β)} (hI : I.2.2.1 = RJ4) (hfr : Nat.ble 2 I.2.2.2.2.2.1 = true) (hlo : Nat.ble 44 I.2.2.2.2.2.2.1 = true) (hW : (rest.map fun v => v.category).sum ≤ 8) (hd : decode I.1 pc = .ok (.invokespecial 16, 3)) (hf : cl_ (f_J3_init_3_X13 a p0 p1 p2 p3 h) K = some o) (kk : ∀ (x : Unit) (h1 : PH), K x h1 = some o → PF Γ I D h0 Q h1 (pc + 3) vs (rest)) : PF Γ I D h0 Q h pc vs (.int p3 :: .int p2 :: va_rf p1 :: va_rf p0 :: va_rf (some a) :: rest) := by
  obtain ⟨cc, nL, own, rt, xt, fr, lo, nm⟩ := I
  cases hI
  exact j_cIv (n := 4) (y := yJ3_init_3) (cc2 := cJ3_init_3) (As := [va_rf p0, va_rf p1, .int p2, .int p3]) (lw_meth q1059) q97 q1057 q1058 rfl hyS_J3_init_3_X13 hfr hlo rfl hW hd (c_J3_init_3_X13 a p0 p1 p2 p3) ⟨_, rfl⟩ hf _ rfl kk
abbrev mi_J4_init_2_X13 : MI := (cJ4_init_2, 5, RJ4, none, [], 2, 44, "<init>")
def f_J4_init_2_X13 (a0 : Nat) (p0 : Option Nat) (p1 : Option Nat) (p2 : Int32) (p3 : Int32) (h0 : PH) : Option (Unit × PH) := cl_ (f_J3_init_3_X13 a0 p0 p1 p2 p3 h0) fun _u h1 => some ((), h1)
theorem hyS_J4_init_2_X13 : yJ4_init_2.cls ≠ "java/lang/invoke/MethodHandle" ∧ yJ4_init_2.cls ≠ "java/lang/invoke/VarHandle" ∧ (parseMethodDescriptor yJ4_init_2.desc).map (fun d => d.parameters.length) = some 4 := by decide +kernel
theorem c_J4_init_2_X13 {D : va_G} (a0 : Nat) (p0 : Option Nat) (p1 : Option Nat) (p2 : Int32) (p3 : Int32) {h0 : PH} (l : Launch) (hl : l.stackTraces = false) (x : Unit) (h1 : PH) (hf : f_J4_init_2_X13 a0 p0 p1 p2 p3 h0 = some (x, h1)) : CT l D yJ4_init_2 (ws_ yJ4_init_2 cJ4_init_2 5 none) 2 44 [va_rf (some a0), va_rf p0, va_rf p1, .int p2, .int p3] h0 (ovv x) h1 := by
  refine ct_of hl [some (va_rf (some a0)), some (va_rf p0), some (va_rf p1), some (.int p2), some (.int p3)] (by decide) (by rw [lgl]; simp [va_rf_cat, cat_i, cat_l]) (by simp [lv_args, vsL, va_rf_cat, cat_i, cat_l]) (fun Γ => ?_)
  obtain ⟨o, ho⟩ : ∃ o : Unit × PH, o = (x, h1) := ⟨_, rfl⟩
  rw [← ho] at hf
  have e1 : x = o.1 := by rw [ho]
  have e2 : h1 = o.2 := by rw [ho]
  subst e1 e2
  clear ho
  show PF Γ mi_J4_init_2_X13 D h0 (QR Γ D h0 (ovv o.1) o.2) h0 0 [some (va_rf (some a0)), some (va_rf p0), some (va_rf p1), some (.int p2), some (.int p3)] []
  unfold f_J4_init_2_X13 at hf
  refine j_aload_n 0 dJ4_init_2_0 rfl rfl ?_
  refine j_aload_n 1 dJ4_init_2_1 rfl rfl ?_
  refine j_aload_n 2 dJ4_init_2_2 rfl rfl ?_
  refine j_iload_n 3 dJ4_init_2_3 rfl rfl ?_
  refine j_iload dJ4_init_2_4 rfl ?_
  refine kc_J4_16_X13 rfl rfl rfl (by decide) dJ4_init_2_6 hf (fun _u h1 hf => ?_)
  have e9 := Option.some.inj hf
  subst e9
  exact j_vret rfl dJ4_init_2_9
theorem kc_J4_16_X14 {Γ : GX} {I : MI} {D : va_G} {h0 : PH} {Q : State → Prop} {h : PH} {pc : Nat} {vs : List (Option Value)} {rest : List Value} {β : Type} {o : β} {a : Nat} {p0 : Option Nat} {p1 : Option Nat} {p2 : Int32} {p3 : Int32} {K : ((Unit) → PH → Option β)} (hI : I.2.2.1 = RJ4) (hfr : Nat.ble 2 I.2.2.2.2.2.1 = true) (hlo : Nat.ble 44 I.2.2.2.2.2.2.1 = true) (hW : (rest.map fun v => v.category).sum ≤ 8) (hd : decode I.1 pc = .ok (.invokespecial 16, 3)) (hf : cl_ (f_J3_init_3_X14 a p0 p1 p2 p3 h) K = some o) (kk : ∀ (x : Unit) (h1 : PH), K x h1 = some o → PF Γ I D h0 Q h1 (pc + 3) vs (rest)) : PF Γ I D h0 Q h pc vs (.int p3 :: .int p2 :: va_rf p1 :: va_rf p0 :: va_rf (some a) :: rest) := by
  obtain ⟨cc, nL, own, rt, xt, fr, lo, nm⟩ := I
  cases hI
  exact j_cIv (n := 4) (y := yJ3_init_3) (cc2 := cJ3_init_3) (As := [va_rf p0, va_rf p1, .int p2, .int p3]) (lw_meth q1059) q97 q1057 q1058 rfl hyS_J3_init_3_X14 hfr hlo rfl hW hd (c_J3_init_3_X14 a p0 p1 p2 p3) ⟨_, rfl⟩ hf _ rfl kk
abbrev mi_J4_init_2_X14 : MI := (cJ4_init_2, 5, RJ4, none, [], 2, 44, "<init>")
def f_J4_init_2_X14 (a0 : Nat) (p0 : Option Nat) (p1 : Option Nat) (p2 : Int32) (p3 : Int32) (h0 : PH) : Option (Unit × PH) := cl_ (f_J3_init_3_X14 a0 p0 p1 p2 p3 h0) fun _u h1 => some ((), h1)
theorem hyS_J4_init_2_X14 : yJ4_init_2.cls ≠ "java/lang/invoke/MethodHandle" ∧ yJ4_init_2.cls ≠ "java/lang/invoke/VarHandle" ∧ (parseMethodDescriptor yJ4_init_2.desc).map (fun d => d.parameters.length) = some 4 := by decide +kernel
theorem c_J4_init_2_X14 {D : va_G} (a0 : Nat) (p0 : Option Nat) (p1 : Option Nat) (p2 : Int32) (p3 : Int32) {h0 : PH} (l : Launch) (hl : l.stackTraces = false) (x : Unit) (h1 : PH) (hf : f_J4_init_2_X14 a0 p0 p1 p2 p3 h0 = some (x, h1)) : CT l D yJ4_init_2 (ws_ yJ4_init_2 cJ4_init_2 5 none) 2 44 [va_rf (some a0), va_rf p0, va_rf p1, .int p2, .int p3] h0 (ovv x) h1 := by
  refine ct_of hl [some (va_rf (some a0)), some (va_rf p0), some (va_rf p1), some (.int p2), some (.int p3)] (by decide) (by rw [lgl]; simp [va_rf_cat, cat_i, cat_l]) (by simp [lv_args, vsL, va_rf_cat, cat_i, cat_l]) (fun Γ => ?_)
  obtain ⟨o, ho⟩ : ∃ o : Unit × PH, o = (x, h1) := ⟨_, rfl⟩
  rw [← ho] at hf
  have e1 : x = o.1 := by rw [ho]
  have e2 : h1 = o.2 := by rw [ho]
  subst e1 e2
  clear ho
  show PF Γ mi_J4_init_2_X14 D h0 (QR Γ D h0 (ovv o.1) o.2) h0 0 [some (va_rf (some a0)), some (va_rf p0), some (va_rf p1), some (.int p2), some (.int p3)] []
  unfold f_J4_init_2_X14 at hf
  refine j_aload_n 0 dJ4_init_2_0 rfl rfl ?_
  refine j_aload_n 1 dJ4_init_2_1 rfl rfl ?_
  refine j_aload_n 2 dJ4_init_2_2 rfl rfl ?_
  refine j_iload_n 3 dJ4_init_2_3 rfl rfl ?_
  refine j_iload dJ4_init_2_4 rfl ?_
  refine kc_J4_16_X14 rfl rfl rfl (by decide) dJ4_init_2_6 hf (fun _u h1 hf => ?_)
  have e9 := Option.some.inj hf
  subst e9
  exact j_vret rfl dJ4_init_2_9
theorem kc_J4_16_X18 {Γ : GX} {I : MI} {D : va_G} {h0 : PH} {Q : State → Prop} {h : PH} {pc : Nat} {vs : List (Option Value)} {rest : List Value} {β : Type} {o : β} {a : Nat} {p0 : Option Nat} {p1 : Option Nat} {p2 : Int32} {p3 : Int32} {K : ((Unit) → PH → Option β)} (hI : I.2.2.1 = RJ4) (hfr : Nat.ble 2 I.2.2.2.2.2.1 = true) (hlo : Nat.ble 44 I.2.2.2.2.2.2.1 = true) (hW : (rest.map fun v => v.category).sum ≤ 8) (hd : decode I.1 pc = .ok (.invokespecial 16, 3)) (hf : cl_ (f_J3_init_3_X18 a p0 p1 p2 p3 h) K = some o) (kk : ∀ (x : Unit) (h1 : PH), K x h1 = some o → PF Γ I D h0 Q h1 (pc + 3) vs (rest)) : PF Γ I D h0 Q h pc vs (.int p3 :: .int p2 :: va_rf p1 :: va_rf p0 :: va_rf (some a) :: rest) := by
  obtain ⟨cc, nL, own, rt, xt, fr, lo, nm⟩ := I
  cases hI
  exact j_cIv (n := 4) (y := yJ3_init_3) (cc2 := cJ3_init_3) (As := [va_rf p0, va_rf p1, .int p2, .int p3]) (lw_meth q1059) q97 q1057 q1058 rfl hyS_J3_init_3_X18 hfr hlo rfl hW hd (c_J3_init_3_X18 a p0 p1 p2 p3) ⟨_, rfl⟩ hf _ rfl kk
abbrev mi_J4_init_2_X18 : MI := (cJ4_init_2, 5, RJ4, none, [], 2, 44, "<init>")
def f_J4_init_2_X18 (a0 : Nat) (p0 : Option Nat) (p1 : Option Nat) (p2 : Int32) (p3 : Int32) (h0 : PH) : Option (Unit × PH) := cl_ (f_J3_init_3_X18 a0 p0 p1 p2 p3 h0) fun _u h1 => some ((), h1)
theorem hyS_J4_init_2_X18 : yJ4_init_2.cls ≠ "java/lang/invoke/MethodHandle" ∧ yJ4_init_2.cls ≠ "java/lang/invoke/VarHandle" ∧ (parseMethodDescriptor yJ4_init_2.desc).map (fun d => d.parameters.length) = some 4 := by decide +kernel
theorem c_J4_init_2_X18 {D : va_G} (a0 : Nat) (p0 : Option Nat) (p1 : Option Nat) (p2 : Int32) (p3 : Int32) {h0 : PH} (l : Launch) (hl : l.stackTraces = false) (x : Unit) (h1 : PH) (hf : f_J4_init_2_X18 a0 p0 p1 p2 p3 h0 = some (x, h1)) : CT l D yJ4_init_2 (ws_ yJ4_init_2 cJ4_init_2 5 none) 2 44 [va_rf (some a0), va_rf p0, va_rf p1, .int p2, .int p3] h0 (ovv x) h1 := by
  refine ct_of hl [some (va_rf (some a0)), some (va_rf p0), some (va_rf p1), some (.int p2), some (.int p3)] (by decide) (by rw [lgl]; simp [va_rf_cat, cat_i, cat_l]) (by simp [lv_args, vsL, va_rf_cat, cat_i, cat_l]) (fun Γ => ?_)
  obtain ⟨o, ho⟩ : ∃ o : Unit × PH, o = (x, h1) := ⟨_, rfl⟩
  rw [← ho] at hf
  have e1 : x = o.1 := by rw [ho]
  have e2 : h1 = o.2 := by rw [ho]
  subst e1 e2
  clear ho
  show PF Γ mi_J4_init_2_X18 D h0 (QR Γ D h0 (ovv o.1) o.2) h0 0 [some (va_rf (some a0)), some (va_rf p0), some (va_rf p1), some (.int p2), some (.int p3)] []
  unfold f_J4_init_2_X18 at hf
  refine j_aload_n 0 dJ4_init_2_0 rfl rfl ?_
  refine j_aload_n 1 dJ4_init_2_1 rfl rfl ?_
  refine j_aload_n 2 dJ4_init_2_2 rfl rfl ?_
  refine j_iload_n 3 dJ4_init_2_3 rfl rfl ?_
  refine j_iload dJ4_init_2_4 rfl ?_
  refine kc_J4_16_X18 rfl rfl rfl (by decide) dJ4_init_2_6 hf (fun _u h1 hf => ?_)
  have e9 := Option.some.inj hf
  subst e9
  exact j_vret rfl dJ4_init_2_9
theorem kc_J4_16_X19 {Γ : GX} {I : MI} {D : va_G} {h0 : PH} {Q : State → Prop} {h : PH} {pc : Nat} {vs : List (Option Value)} {rest : List Value} {β : Type} {o : β} {a : Nat} {p0 : Option Nat} {p1 : Option Nat} {p2 : Int32} {p3 : Int32} {K : ((Unit) → PH → Option β)} (hI : I.2.2.1 = RJ4) (hfr : Nat.ble 2 I.2.2.2.2.2.1 = true) (hlo : Nat.ble 44 I.2.2.2.2.2.2.1 = true) (hW : (rest.map fun v => v.category).sum ≤ 8) (hd : decode I.1 pc = .ok (.invokespecial 16, 3)) (hf : cl_ (f_J3_init_3_X19 a p0 p1 p2 p3 h) K = some o) (kk : ∀ (x : Unit) (h1 : PH), K x h1 = some o → PF Γ I D h0 Q h1 (pc + 3) vs (rest)) : PF Γ I D h0 Q h pc vs (.int p3 :: .int p2 :: va_rf p1 :: va_rf p0 :: va_rf (some a) :: rest) := by
  obtain ⟨cc, nL, own, rt, xt, fr, lo, nm⟩ := I
  cases hI
  exact j_cIv (n := 4) (y := yJ3_init_3) (cc2 := cJ3_init_3) (As := [va_rf p0, va_rf p1, .int p2, .int p3]) (lw_meth q1059) q97 q1057 q1058 rfl hyS_J3_init_3_X19 hfr hlo rfl hW hd (c_J3_init_3_X19 a p0 p1 p2 p3) ⟨_, rfl⟩ hf _ rfl kk
abbrev mi_J4_init_2_X19 : MI := (cJ4_init_2, 5, RJ4, none, [], 2, 44, "<init>")
def f_J4_init_2_X19 (a0 : Nat) (p0 : Option Nat) (p1 : Option Nat) (p2 : Int32) (p3 : Int32) (h0 : PH) : Option (Unit × PH) := cl_ (f_J3_init_3_X19 a0 p0 p1 p2 p3 h0) fun _u h1 => some ((), h1)
theorem hyS_J4_init_2_X19 : yJ4_init_2.cls ≠ "java/lang/invoke/MethodHandle" ∧ yJ4_init_2.cls ≠ "java/lang/invoke/VarHandle" ∧ (parseMethodDescriptor yJ4_init_2.desc).map (fun d => d.parameters.length) = some 4 := by decide +kernel
theorem c_J4_init_2_X19 {D : va_G} (a0 : Nat) (p0 : Option Nat) (p1 : Option Nat) (p2 : Int32) (p3 : Int32) {h0 : PH} (l : Launch) (hl : l.stackTraces = false) (x : Unit) (h1 : PH) (hf : f_J4_init_2_X19 a0 p0 p1 p2 p3 h0 = some (x, h1)) : CT l D yJ4_init_2 (ws_ yJ4_init_2 cJ4_init_2 5 none) 2 44 [va_rf (some a0), va_rf p0, va_rf p1, .int p2, .int p3] h0 (ovv x) h1 := by
  refine ct_of hl [some (va_rf (some a0)), some (va_rf p0), some (va_rf p1), some (.int p2), some (.int p3)] (by decide) (by rw [lgl]; simp [va_rf_cat, cat_i, cat_l]) (by simp [lv_args, vsL, va_rf_cat, cat_i, cat_l]) (fun Γ => ?_)
  obtain ⟨o, ho⟩ : ∃ o : Unit × PH, o = (x, h1) := ⟨_, rfl⟩
  rw [← ho] at hf
  have e1 : x = o.1 := by rw [ho]
  have e2 : h1 = o.2 := by rw [ho]
  subst e1 e2
  clear ho
  show PF Γ mi_J4_init_2_X19 D h0 (QR Γ D h0 (ovv o.1) o.2) h0 0 [some (va_rf (some a0)), some (va_rf p0), some (va_rf p1), some (.int p2), some (.int p3)] []
  unfold f_J4_init_2_X19 at hf
  refine j_aload_n 0 dJ4_init_2_0 rfl rfl ?_
  refine j_aload_n 1 dJ4_init_2_1 rfl rfl ?_
  refine j_aload_n 2 dJ4_init_2_2 rfl rfl ?_
  refine j_iload_n 3 dJ4_init_2_3 rfl rfl ?_
  refine j_iload dJ4_init_2_4 rfl ?_
  refine kc_J4_16_X19 rfl rfl rfl (by decide) dJ4_init_2_6 hf (fun _u h1 hf => ?_)
  have e9 := Option.some.inj hf
  subst e9
  exact j_vret rfl dJ4_init_2_9
abbrev mi_X4_init : MI := (cX4_init, 3, RX4, none, [], 1, 20, "<init>")
def f_X4_init (a0 : Nat) (p0 : Int32) (p1 : Int32) (h0 : PH) : Option (Unit × PH) := pV h0 (some a0) 3 0 (.int p0) fun h1 => pV h1 (some a0) 3 1 (.int p1) fun h2 => some ((), h2)
theorem hyS_X4_init : yX4_init.cls ≠ "java/lang/invoke/MethodHandle" ∧ yX4_init.cls ≠ "java/lang/invoke/VarHandle" ∧ (parseMethodDescriptor yX4_init.desc).map (fun d => d.parameters.length) = some 2 := by decide +kernel
theorem c_X4_init {D : va_G} (a0 : Nat) (p0 : Int32) (p1 : Int32) {h0 : PH} (l : Launch) (hl : l.stackTraces = false) (x : Unit) (h1 : PH) (hf : f_X4_init a0 p0 p1 h0 = some (x, h1)) : CT l D yX4_init (ws_ yX4_init cX4_init 3 none) 1 20 [va_rf (some a0), .int p0, .int p1] h0 (ovv x) h1 := by
  refine ct_of hl [some (va_rf (some a0)), some (.int p0), some (.int p1)] (by decide) (Nat.le_of_ble_eq_true rfl) rfl (fun Γ => ?_)
  obtain ⟨o, ho⟩ : ∃ o : Unit × PH, o = (x, h1) := ⟨_, rfl⟩
  rw [← ho] at hf
  have e1 : x = o.1 := by rw [ho]
  have e2 : h1 = o.2 := by rw [ho]
  subst e1 e2
  clear ho
  show PF Γ mi_X4_init D h0 (QR Γ D h0 (ovv o.1) o.2) h0 0 [some (va_rf (some a0)), some (.int p0), some (.int p1)] []
  unfold f_X4_init at hf
  refine j_aload_n 0 dX4_init_0 rfl rfl ?_
  refine j_objI q159 q141 q142 rfl rfl ⟨_, rfl⟩ (by decide) dX4_init_1 ?_
  refine j_aload_n 0 dX4_init_4 rfl rfl ?_
  refine j_iload_n 1 dX4_init_5 rfl rfl ?_
  refine j_pV (ci := 3) (k := 0) tyX4 tyX4_ok nmX4 rfl in_X4 rfl q160 (Or.inr ⟨rfl, rfl, rfl⟩) rfl (fit_i _) dX4_init_6 hf (fun h1 hf => ?_)
  refine j_aload_n 0 dX4_init_9 rfl rfl ?_
  refine j_iload_n 2 dX4_init_10 rfl rfl ?_
  refine j_pV (ci := 3) (k := 1) tyX4 tyX4_ok nmX4 rfl in_X4 rfl q162 (Or.inr ⟨rfl, rfl, rfl⟩) rfl (fit_i _) dX4_init_11 hf (fun h2 hf => ?_)
  have e9 := Option.some.inj hf
  subst e9
  exact j_vret rfl dX4_init_14
abbrev mi_X4_reaches : MI := (cX4_reaches, 4, RX4, (Option.some FieldType.int), [], 1, 24, "reaches")
def f_X4_reaches (r0 : Option Nat) (p0 : Int32) (h0 : PH) : Option (Int32 × PH) := gI h0 r0 3 1 fun v1 => gI h0 r0 3 0 fun v2 => gI h0 r0 3 0 fun v3 => dvL (v3.toInt64) (some (((((((if ((p0.toInt64) - (v1.toInt64)) < (0 : Int64) then (0 : Int64) else ((p0.toInt64) - (v1.toInt64))) * (1000 : Int64)) + (v2.toInt64)) - (1 : Int64)) / (v3.toInt64)).toInt32), h0))
theorem hyS_X4_reaches : yX4_reaches.cls ≠ "java/lang/invoke/MethodHandle" ∧ yX4_reaches.cls ≠ "java/lang/invoke/VarHandle" ∧ (parseMethodDescriptor yX4_reaches.desc).map (fun d => d.parameters.length) = some 1 := by decide +kernel
theorem hyV_X4_reaches : yX4_reaches.cls = RX4 ∧ yX4_reaches.cls ≠ "java/lang/invoke/MethodHandle" ∧ yX4_reaches.cls ≠ "java/lang/invoke/VarHandle" ∧ (parseMethodDescriptor yX4_reaches.desc).map (fun d => d.parameters.length) = some 1 := by decide +kernel
theorem c_X4_reaches {D : va_G} (r0 : Option Nat) (p0 : Int32) {h0 : PH} (l : Launch) (hl : l.stackTraces = false) (x : Int32) (h1 : PH) (hf : f_X4_reaches r0 p0 h0 = some (x, h1)) : CT l D yX4_reaches (ws_ yX4_reaches cX4_reaches 4 (Option.some FieldType.int)) 1 24 [va_rf r0, .int p0] h0 (ovi x) h1 := by
  refine ct_of hl [some (va_rf r0), some (.int p0), none, none] (by decide) (by rw [lgl]; simp [va_rf_cat, cat_i, cat_l]) (by simp [lv_args, vsL, va_rf_cat, cat_i, cat_l]) (fun Γ => ?_)
  obtain ⟨o, ho⟩ : ∃ o : Int32 × PH, o = (x, h1) := ⟨_, rfl⟩
  rw [← ho] at hf
  have e1 : x = o.1 := by rw [ho]
  have e2 : h1 = o.2 := by rw [ho]
  subst e1 e2
  clear ho
  show PF Γ mi_X4_reaches D h0 (QR Γ D h0 (ovi o.1) o.2) h0 0 [some (va_rf r0), some (.int p0), none, none] []
  unfold f_X4_reaches at hf
  refine j_lconst (0 : Int64) dX4_reaches_0 (by decide) ?_
  refine j_iload_n 1 dX4_reaches_1 rfl rfl ?_
  refine j_i2l dX4_reaches_2 ?_
  refine j_aload_n 0 dX4_reaches_3 rfl rfl ?_
  refine j_gI (ci := 3) (k := 1) rfl in_X4 rfl q162 dX4_reaches_4 hf (fun v1 hf => ?_)
  refine j_i2l dX4_reaches_7 ?_
  refine j_lsub dX4_reaches_8 ?_
  refine j_mmaxl q1307 q1308 q106 q1309 rfl rfl (by decide) dX4_reaches_9 ?_
  refine j_lstore_n 2 [some (va_rf r0), some (.int p0), some (.long (if ((p0.toInt64) - (v1.toInt64)) < (0 : Int64) then (0 : Int64) else ((p0.toInt64) - (v1.toInt64)))), none] dX4_reaches_12 rfl (cz rfl) rfl rfl ?_
  refine j_lload_n 2 dX4_reaches_13 rfl rfl ?_
  refine j_ldc2 q1310 dX4_reaches_14 ?_
  refine j_lmul dX4_reaches_17 ?_
  refine j_aload_n 0 dX4_reaches_18 rfl rfl ?_
  refine j_gI (ci := 3) (k := 0) rfl in_X4 rfl q160 dX4_reaches_19 hf (fun v2 hf => ?_)
  refine j_i2l dX4_reaches_22 ?_
  refine j_ladd dX4_reaches_23 ?_
  refine j_lconst (1 : Int64) dX4_reaches_24 (by decide) ?_
  refine j_lsub dX4_reaches_25 ?_
  refine j_aload_n 0 dX4_reaches_26 rfl rfl ?_
  refine j_gI (ci := 3) (k := 0) rfl in_X4 rfl q160 dX4_reaches_27 hf (fun v3 hf => ?_)
  refine j_i2l dX4_reaches_30 ?_
  refine j_ldiv dX4_reaches_31 hf (fun hf => ?_)
  refine j_l2i dX4_reaches_32 ?_
  have e9 := Option.some.inj hf
  subst e9
  exact j_iret rfl dX4_reaches_33
abbrev mi_X4_at : MI := (cX4_at, 2, RX4, (Option.some FieldType.int), [], 0, 0, "at")
def f_X4_at (r0 : Option Nat) (p0 : Int32) (h0 : PH) : Option (Int32 × PH) := gI h0 r0 3 1 fun v1 => gI h0 r0 3 0 fun v2 => dvL (1000 : Int64) (some ((((v1.toInt64) + (((v2.toInt64) * (p0.toInt64)) / (1000 : Int64))).toInt32), h0))
theorem hyS_X4_at : yX4_at.cls ≠ "java/lang/invoke/MethodHandle" ∧ yX4_at.cls ≠ "java/lang/invoke/VarHandle" ∧ (parseMethodDescriptor yX4_at.desc).map (fun d => d.parameters.length) = some 1 := by decide +kernel
theorem hyV_X4_at : yX4_at.cls = RX4 ∧ yX4_at.cls ≠ "java/lang/invoke/MethodHandle" ∧ yX4_at.cls ≠ "java/lang/invoke/VarHandle" ∧ (parseMethodDescriptor yX4_at.desc).map (fun d => d.parameters.length) = some 1 := by decide +kernel
theorem c_X4_at {D : va_G} (r0 : Option Nat) (p0 : Int32) {h0 : PH} (l : Launch) (hl : l.stackTraces = false) (x : Int32) (h1 : PH) (hf : f_X4_at r0 p0 h0 = some (x, h1)) : CT l D yX4_at (ws_ yX4_at cX4_at 2 (Option.some FieldType.int)) 0 0 [va_rf r0, .int p0] h0 (ovi x) h1 := by
  refine ct_of hl [some (va_rf r0), some (.int p0)] (by decide) (by rw [lgl]; simp [va_rf_cat, cat_i, cat_l]) (by simp [lv_args, vsL, va_rf_cat, cat_i, cat_l]) (fun Γ => ?_)
  obtain ⟨o, ho⟩ : ∃ o : Int32 × PH, o = (x, h1) := ⟨_, rfl⟩
  rw [← ho] at hf
  have e1 : x = o.1 := by rw [ho]
  have e2 : h1 = o.2 := by rw [ho]
  subst e1 e2
  clear ho
  show PF Γ mi_X4_at D h0 (QR Γ D h0 (ovi o.1) o.2) h0 0 [some (va_rf r0), some (.int p0)] []
  unfold f_X4_at at hf
  refine j_aload_n 0 dX4_at_0 rfl rfl ?_
  refine j_gI (ci := 3) (k := 1) rfl in_X4 rfl q162 dX4_at_1 hf (fun v1 hf => ?_)
  refine j_i2l dX4_at_4 ?_
  refine j_aload_n 0 dX4_at_5 rfl rfl ?_
  refine j_gI (ci := 3) (k := 0) rfl in_X4 rfl q160 dX4_at_6 hf (fun v2 hf => ?_)
  refine j_i2l dX4_at_9 ?_
  refine j_iload_n 1 dX4_at_10 rfl rfl ?_
  refine j_i2l dX4_at_11 ?_
  refine j_lmul dX4_at_12 ?_
  refine j_ldc2 q1310 dX4_at_13 ?_
  refine j_ldiv dX4_at_16 hf (fun hf => ?_)
  refine j_ladd dX4_at_17 ?_
  refine j_l2i dX4_at_18 ?_
  have e9 := Option.some.inj hf
  subst e9
  exact j_iret rfl dX4_at_19
abbrev mi_X5_init : MI := (cX5_init, 1, RX5, none, [], 1, 20, "<init>")
def f_X5_init (a0 : Nat) (h0 : PH) : Option (Unit × PH) := nA h0 0 (8 : Int32) (.inl fun _ => 0) fun a1 h2 => pV h2 (some a0) 4 0 (va_rf (some a1)) fun h3 => nA h3 0 (8 : Int32) (.inl fun _ => 0) fun a4 h5 => pV h5 (some a0) 4 1 (va_rf (some a4)) fun h6 => some ((), h6)
theorem hyS_X5_init : yX5_init.cls ≠ "java/lang/invoke/MethodHandle" ∧ yX5_init.cls ≠ "java/lang/invoke/VarHandle" ∧ (parseMethodDescriptor yX5_init.desc).map (fun d => d.parameters.length) = some 0 := by decide +kernel
theorem c_X5_init {D : va_G} (a0 : Nat) {h0 : PH} (l : Launch) (hl : l.stackTraces = false) (x : Unit) (h1 : PH) (hf : f_X5_init a0 h0 = some (x, h1)) : CT l D yX5_init (ws_ yX5_init cX5_init 1 none) 1 20 [va_rf (some a0)] h0 (ovv x) h1 := by
  refine ct_of hl [some (va_rf (some a0))] (by decide) (Nat.le_of_ble_eq_true rfl) rfl (fun Γ => ?_)
  obtain ⟨o, ho⟩ : ∃ o : Unit × PH, o = (x, h1) := ⟨_, rfl⟩
  rw [← ho] at hf
  have e1 : x = o.1 := by rw [ho]
  have e2 : h1 = o.2 := by rw [ho]
  subst e1 e2
  clear ho
  show PF Γ mi_X5_init D h0 (QR Γ D h0 (ovv o.1) o.2) h0 0 [some (va_rf (some a0))] []
  unfold f_X5_init at hf
  refine j_aload_n 0 dX5_init_0 rfl rfl ?_
  refine j_objI q664 q141 q142 rfl rfl ⟨_, rfl⟩ (by decide) dX5_init_1 ?_
  refine j_aload_n 0 dX5_init_4 rfl rfl ?_
  refine j_bipush (8 : Int32) dX5_init_5 (by decide) ?_
  refine j_nA (t := 0) (atype := .int) (ty := .int) rfl (fun _ => rfl) (fun _ _ => rfl) (by decide) (fun _ _ h9 => h9) q679 dX5_init_7 hf (fun a1 h2 hf => ?_)
  refine j_pV (ci := 4) (k := 0) tyX5 tyX5_ok nmX5 rfl in_X5 rfl q665 (Or.inr ⟨rfl, rfl, rfl⟩) rfl (fit_a _ _) dX5_init_9 hf (fun h3 hf => ?_)
  refine j_aload_n 0 dX5_init_12 rfl rfl ?_
  refine j_bipush (8 : Int32) dX5_init_13 (by decide) ?_
  refine j_nA (t := 0) (atype := .int) (ty := .int) rfl (fun _ => rfl) (fun _ _ => rfl) (by decide) (fun _ _ h9 => h9) q679 dX5_init_15 hf (fun a4 h5 hf => ?_)
  refine j_pV (ci := 4) (k := 1) tyX5 tyX5_ok nmX5 rfl in_X5 rfl q668 (Or.inr ⟨rfl, rfl, rfl⟩) rfl (fit_a _ _) dX5_init_17 hf (fun h6 hf => ?_)
  have e9 := Option.some.inj hf
  subst e9
  exact j_vret rfl dX5_init_20
abbrev mi_X5_copyFrom : MI := (cX5_copyFrom, 2, RX5, none, [], 1, 60, "copyFrom")
def f_X5_copyFrom (r0 : Option Nat) (p0 : Option Nat) (h0 : PH) : Option (Unit × PH) := gR h0 p0 4 0 fun r1 => gR h0 r0 4 0 fun r2 => ycI h0 r1 (0 : Int32) r2 (0 : Int32) (8 : Int32) 0 (fun _ => true) fun h3 => gR h3 p0 4 1 fun r4 => gR h3 r0 4 1 fun r5 => ycI h3 r4 (0 : Int32) r5 (0 : Int32) (8 : Int32) 0 (fun _ => true) fun h6 => gI h6 p0 4 2 fun v7 => pV h6 r0 4 2 (.int v7) fun h8 => some ((), h8)
theorem hyS_X5_copyFrom : yX5_copyFrom.cls ≠ "java/lang/invoke/MethodHandle" ∧ yX5_copyFrom.cls ≠ "java/lang/invoke/VarHandle" ∧ (parseMethodDescriptor yX5_copyFrom.desc).map (fun d => d.parameters.length) = some 1 := by decide +kernel
theorem hyV_X5_copyFrom : yX5_copyFrom.cls = RX5 ∧ yX5_copyFrom.cls ≠ "java/lang/invoke/MethodHandle" ∧ yX5_copyFrom.cls ≠ "java/lang/invoke/VarHandle" ∧ (parseMethodDescriptor yX5_copyFrom.desc).map (fun d => d.parameters.length) = some 1 := by decide +kernel
theorem c_X5_copyFrom {D : va_G} (r0 : Option Nat) (p0 : Option Nat) {h0 : PH} (l : Launch) (hl : l.stackTraces = false) (x : Unit) (h1 : PH) (hf : f_X5_copyFrom r0 p0 h0 = some (x, h1)) : CT l D yX5_copyFrom (ws_ yX5_copyFrom cX5_copyFrom 2 none) 1 60 [va_rf r0, va_rf p0] h0 (ovv x) h1 := by
  refine ct_of hl [some (va_rf r0), some (va_rf p0)] (by decide) (by rw [lgl]; simp [va_rf_cat, cat_i, cat_l]) (by simp [lv_args, vsL, va_rf_cat, cat_i, cat_l]) (fun Γ => ?_)
  obtain ⟨o, ho⟩ : ∃ o : Unit × PH, o = (x, h1) := ⟨_, rfl⟩
  rw [← ho] at hf
  have e1 : x = o.1 := by rw [ho]
  have e2 : h1 = o.2 := by rw [ho]
  subst e1 e2
  clear ho
  show PF Γ mi_X5_copyFrom D h0 (QR Γ D h0 (ovv o.1) o.2) h0 0 [some (va_rf r0), some (va_rf p0)] []
  unfold f_X5_copyFrom at hf
  refine j_aload_n 1 dX5_copyFrom_0 rfl rfl ?_
  refine j_gR (ci := 4) (k := 0) rfl in_X5 rfl q665 dX5_copyFrom_1 hf (fun r1 hf => ?_)
  refine j_iconst (0 : Int32) dX5_copyFrom_4 (by decide) ?_
  refine j_aload_n 0 dX5_copyFrom_5 rfl rfl ?_
  refine j_gR (ci := 4) (k := 0) rfl in_X5 rfl q665 dX5_copyFrom_6 hf (fun r2 hf => ?_)
  refine j_iconst (0 : Int32) dX5_copyFrom_9 (by decide) ?_
  refine j_bipush (8 : Int32) dX5_copyFrom_10 (by decide) ?_
  refine j_ycI (t := 0) (ty := .int) rfl (fun _ _ => rfl) rfl q2068 q310 q309 q108 rfl rfl (by decide) dX5_copyFrom_12 hf (fun h3 hf => ?_)
  refine j_aload_n 1 dX5_copyFrom_15 rfl rfl ?_
  refine j_gR (ci := 4) (k := 1) rfl in_X5 rfl q668 dX5_copyFrom_16 hf (fun r4 hf => ?_)
  refine j_iconst (0 : Int32) dX5_copyFrom_19 (by decide) ?_
  refine j_aload_n 0 dX5_copyFrom_20 rfl rfl ?_
  refine j_gR (ci := 4) (k := 1) rfl in_X5 rfl q668 dX5_copyFrom_21 hf (fun r5 hf => ?_)
  refine j_iconst (0 : Int32) dX5_copyFrom_24 (by decide) ?_
  refine j_bipush (8 : Int32) dX5_copyFrom_25 (by decide) ?_
  refine j_ycI (t := 0) (ty := .int) rfl (fun _ _ => rfl) rfl q2068 q310 q309 q108 rfl rfl (by decide) dX5_copyFrom_27 hf (fun h6 hf => ?_)
  refine j_aload_n 0 dX5_copyFrom_30 rfl rfl ?_
  refine j_aload_n 1 dX5_copyFrom_31 rfl rfl ?_
  refine j_gI (ci := 4) (k := 2) rfl in_X5 rfl q670 dX5_copyFrom_32 hf (fun v7 hf => ?_)
  refine j_pV (ci := 4) (k := 2) tyX5 tyX5_ok nmX5 rfl in_X5 rfl q670 (Or.inl rfl) rfl (fit_i _) dX5_copyFrom_35 hf (fun h8 hf => ?_)
  have e9 := Option.some.inj hf
  subst e9
  exact j_vret rfl dX5_copyFrom_38
abbrev mi_X6_init : MI := (cX6_init, 3, RX6, none, [], 1, 20, "<init>")
def f_X6_init (a0 : Nat) (p0 : Option Nat) (p1 : Int32) (h0 : PH) : Option (Unit × PH) := pZ h0 (some a0) 5 2 (1 : Int32) fun h1 => pV h1 (some a0) 5 8 (.int (-4 : Int32)) fun h2 => nA h2 0 (8 : Int32) (.inl fun _ => 0) fun a3 h4 => pV h4 (some a0) 5 12 (va_rf (some a3)) fun h5 => pV h5 (some a0) 5 0 (va_rf p0) fun h6 => pV h6 (some a0) 5 1 (.int p1) fun h7 => some ((), h7)
theorem hyS_X6_init : yX6_init.cls ≠ "java/lang/invoke/MethodHandle" ∧ yX6_init.cls ≠ "java/lang/invoke/VarHandle" ∧ (parseMethodDescriptor yX6_init.desc).map (fun d => d.parameters.length) = some 2 := by decide +kernel
theorem c_X6_init {D : va_G} (a0 : Nat) (p0 : Option Nat) (p1 : Int32) {h0 : PH} (l : Launch) (hl : l.stackTraces = false) (x : Unit) (h1 : PH) (hf : f_X6_init a0 p0 p1 h0 = some (x, h1)) : CT l D yX6_init (ws_ yX6_init cX6_init 3 none) 1 20 [va_rf (some a0), va_rf p0, .int p1] h0 (ovv x) h1 := by
  refine ct_of hl [some (va_rf (some a0)), some (va_rf p0), some (.int p1)] (by decide) (by rw [lgl]; simp [va_rf_cat, cat_i, cat_l]) (by simp [lv_args, vsL, va_rf_cat, cat_i, cat_l]) (fun Γ => ?_)
  obtain ⟨o, ho⟩ : ∃ o : Unit × PH, o = (x, h1) := ⟨_, rfl⟩
  rw [← ho] at hf
  have e1 : x = o.1 := by rw [ho]
  have e2 : h1 = o.2 := by rw [ho]
  subst e1 e2
  clear ho
  show PF Γ mi_X6_init D h0 (QR Γ D h0 (ovv o.1) o.2) h0 0 [some (va_rf (some a0)), some (va_rf p0), some (.int p1)] []
  unfold f_X6_init at hf
  refine j_aload_n 0 dX6_init_0 rfl rfl ?_
  refine j_objI q720 q141 q142 rfl rfl ⟨_, rfl⟩ (by decide) dX6_init_1 ?_
  refine j_aload_n 0 dX6_init_4 rfl rfl ?_
  refine j_iconst (1 : Int32) dX6_init_5 (by decide) ?_
  obtain ⟨hz9, hf⟩ := pZ_in hf
  refine j_pV (ci := 5) (k := 2) tyX6 tyX6_ok nmX6 rfl in_X6 rfl q726 (Or.inl rfl) rfl (fit_z _ hz9) dX6_init_6 hf (fun h1 hf => ?_)
  refine j_aload_n 0 dX6_init_9 rfl rfl ?_
  refine j_bipush (-4 : Int32) dX6_init_10 (by decide) ?_
  refine j_pV (ci := 5) (k := 8) tyX6 tyX6_ok nmX6 rfl in_X6 rfl q744 (Or.inl rfl) rfl (fit_i _) dX6_init_12 hf (fun h2 hf => ?_)
  refine j_aload_n 0 dX6_init_15 rfl rfl ?_
  refine j_bipush (8 : Int32) dX6_init_16 (by decide) ?_
  refine j_nA (t := 0) (atype := .int) (ty := .int) rfl (fun _ => rfl) (fun _ _ => rfl) (by decide) (fun _ _ h9 => h9) q679 dX6_init_18 hf (fun a3 h4 hf => ?_)
  refine j_pV (ci := 5) (k := 12) tyX6 tyX6_ok nmX6 rfl in_X6 rfl q756 (Or.inr ⟨rfl, rfl, rfl⟩) rfl (fit_a _ _) dX6_init_20 hf (fun h5 hf => ?_)
  refine j_aload_n 0 dX6_init_23 rfl rfl ?_
  refine j_aload_n 1 dX6_init_24 rfl rfl ?_
  refine j_pV (ci := 5) (k := 0) tyX6 tyX6_ok nmX6 rfl in_X6 rfl q721 (Or.inr ⟨rfl, rfl, rfl⟩) rfl (fit_o _ _) dX6_init_25 hf (fun h6 hf => ?_)
  refine j_aload_n 0 dX6_init_28 rfl rfl ?_
  refine j_iload_n 2 dX6_init_29 rfl rfl ?_
  refine j_pV (ci := 5) (k := 1) tyX6 tyX6_ok nmX6 rfl in_X6 rfl q724 (Or.inr ⟨rfl, rfl, rfl⟩) rfl (fit_i _) dX6_init_30 hf (fun h7 hf => ?_)
  have e9 := Option.some.inj hf
  subst e9
  exact j_vret rfl dX6_init_33
abbrev mi_X6_isPaused : MI := (cX6_isPaused, 2, RX6, (Option.some FieldType.boolean), [], 0, 0, "isPaused")
def f_X6_isPaused_B20 (t0 : Int32) (h : PH) : Option (Int32 × PH) := rN .boolean t0 (fun v => v) h
theorem pf_X6_isPaused_B20 {Γ : GX} {D : va_G} {h0 : PH} {o : Int32 × PH} (t0 : Int32) (h : PH) (hf : f_X6_isPaused_B20 t0 h = some o) : PF Γ mi_X6_isPaused D h0 (QR Γ D h0 (ovi o.1) o.2) h 20 [none, none] [.int t0] := by
  obtain ⟨hn9, hf⟩ := rN_in hf
  subst hf
  exact j_zret rfl (nar_z _ hn9) dX6_isPaused_20
def f_X6_isPaused_B19  (h : PH) : Option (Int32 × PH) := f_X6_isPaused_B20 (0 : Int32) h
theorem pf_X6_isPaused_B19 {Γ : GX} {D : va_G} {h0 : PH} {o : Int32 × PH}  (h : PH) (hf : f_X6_isPaused_B19  h = some o) : PF Γ mi_X6_isPaused D h0 (QR Γ D h0 (ovi o.1) o.2) h 19 [none, none] [] := by
  refine j_iconst (0 : Int32) dX6_isPaused_19 (by decide) ?_
  exact pf_X6_isPaused_B20 (0 : Int32) h hf
def f_X6_isPaused (r0 : Option Nat) (p0 : Int32) (h0 : PH) : Option (Int32 × PH) := gI h0 r0 5 2 fun v1 => (if v1 = 0 then (f_X6_isPaused_B19 h0) else (gI h0 r0 5 5 fun v2 => (if v2 ≤ p0 then (f_X6_isPaused_B19 h0) else (f_X6_isPaused_B20 (1 : Int32) h0))))
theorem hyS_X6_isPaused : yX6_isPaused.cls ≠ "java/lang/invoke/MethodHandle" ∧ yX6_isPaused.cls ≠ "java/lang/invoke/VarHandle" ∧ (parseMethodDescriptor yX6_isPaused.desc).map (fun d => d.parameters.length) = some 1 := by decide +kernel
theorem hyV_X6_isPaused : yX6_isPaused.cls = RX6 ∧ yX6_isPaused.cls ≠ "java/lang/invoke/MethodHandle" ∧ yX6_isPaused.cls ≠ "java/lang/invoke/VarHandle" ∧ (parseMethodDescriptor yX6_isPaused.desc).map (fun d => d.parameters.length) = some 1 := by decide +kernel
theorem c_X6_isPaused {D : va_G} (r0 : Option Nat) (p0 : Int32) {h0 : PH} (l : Launch) (hl : l.stackTraces = false) (x : Int32) (h1 : PH) (hf : f_X6_isPaused r0 p0 h0 = some (x, h1)) : CT l D yX6_isPaused (ws_ yX6_isPaused cX6_isPaused 2 (Option.some FieldType.boolean)) 0 0 [va_rf r0, .int p0] h0 (ovi x) h1 := by
  refine ct_of hl [some (va_rf r0), some (.int p0)] (by decide) (by rw [lgl]; simp [va_rf_cat, cat_i, cat_l]) (by simp [lv_args, vsL, va_rf_cat, cat_i, cat_l]) (fun Γ => ?_)
  obtain ⟨o, ho⟩ : ∃ o : Int32 × PH, o = (x, h1) := ⟨_, rfl⟩
  rw [← ho] at hf
  have e1 : x = o.1 := by rw [ho]
  have e2 : h1 = o.2 := by rw [ho]
  subst e1 e2
  clear ho
  show PF Γ mi_X6_isPaused D h0 (QR Γ D h0 (ovi o.1) o.2) h0 0 [some (va_rf r0), some (.int p0)] []
  unfold f_X6_isPaused at hf
  refine j_aload_n 0 dX6_isPaused_0 rfl rfl ?_
  refine j_gI (ci := 5) (k := 2) rfl in_X6 rfl q726 dX6_isPaused_1 hf (fun v1 hf => ?_)
  refine j_if_eq 19 dX6_isPaused_4 (by decide) hf (fun c_ hf => ?_) (fun c_ hf => ?_)
  · refine j_weak [none, none] (Wk.s (Wk.s Wk.n)) ?_
    exact pf_X6_isPaused_B19  h0 hf
  · refine j_aload_n 0 dX6_isPaused_7 rfl rfl ?_
    refine j_gI (ci := 5) (k := 5) rfl in_X6 rfl q735 dX6_isPaused_8 hf (fun v2 hf => ?_)
    refine j_iload_n 1 dX6_isPaused_11 rfl rfl ?_
    refine j_icmp_le 19 dX6_isPaused_12 (by decide) hf (fun c_ hf => ?_) (fun c_ hf => ?_)
    · refine j_weak [none, none] (Wk.s (Wk.s Wk.n)) ?_
      exact pf_X6_isPaused_B19  h0 hf
    · refine j_iconst (1 : Int32) dX6_isPaused_15 (by decide) ?_
      refine j_goto 20 dX6_isPaused_16 (by decide) ?_
      refine j_weak [none, none] (Wk.s (Wk.s Wk.n)) ?_
      exact pf_X6_isPaused_B20 (1 : Int32) h0 hf
theorem kc_X6_63 {Γ : GX} {I : MI} {D : va_G} {h0 : PH} {Q : State → Prop} {h : PH} {pc : Nat} {vs : List (Option Value)} {rest : List Value} {β : Type} {o : β} {r : Option Nat} {p0 : Int32} {K : ((Int32) → PH → Option β)} (hI : I.2.2.1 = RX6) (hfr : Nat.ble 2 I.2.2.2.2.2.1 = true) (hlo : Nat.ble 47 I.2.2.2.2.2.2.1 = true) (hW : (rest.map fun v => v.category).sum ≤ 8) (hd : decode I.1 pc = .ok (.invokevirtual 63, 3)) (hf : rv_ h r 3 (cl_ (f_X4_reaches r p0 h) K) = some o) (kk : ∀ (x : Int32) (h1 : PH), K x h1 = some o → PF Γ I D h0 Q h1 (pc + 3) vs (.int x :: rest)) : PF Γ I D h0 Q h pc vs (.int p0 :: va_rf r :: rest) := by
  obtain ⟨cc, nL, own, rt, xt, fr, lo, nm⟩ := I
  cases hI
  exact j_cVi (n := 1) (y := yX4_reaches) (cc2 := cX4_reaches) (As := [.int p0]) (C := RX4) (ci := 3) rfl (lw_V q1303 q1304 q1305 q93 q1306) hyV_X4_reaches hfr hlo rfl hW hd (c_X4_reaches r p0) hf _ rfl kk
abbrev mi_X6_leadsUntil : MI := (cX6_leadsUntil, 1, RX6, (Option.some FieldType.int), [], 2, 47, "leadsUntil")
def f_X6_leadsUntil_B29 (t0 : Int32) (h : PH) : Option (Int32 × PH) := some (t0, h)
theorem pf_X6_leadsUntil_B29 {Γ : GX} {D : va_G} {h0 : PH} {o : Int32 × PH} (t0 : Int32) (h : PH) (hf : f_X6_leadsUntil_B29 t0 h = some o) : PF Γ mi_X6_leadsUntil D h0 (QR Γ D h0 (ovi o.1) o.2) h 29 [none] [.int t0] := by
  have e9 := Option.some.inj hf
  subst e9
  exact j_iret rfl dX6_leadsUntil_29
def f_X6_leadsUntil_B28  (h : PH) : Option (Int32 × PH) := f_X6_leadsUntil_B29 (0 : Int32) h
theorem pf_X6_leadsUntil_B28 {Γ : GX} {D : va_G} {h0 : PH} {o : Int32 × PH}  (h : PH) (hf : f_X6_leadsUntil_B28  h = some o) : PF Γ mi_X6_leadsUntil D h0 (QR Γ D h0 (ovi o.1) o.2) h 28 [none] [] := by
  refine j_iconst (0 : Int32) dX6_leadsUntil_28 (by decide) ?_
  exact pf_X6_leadsUntil_B29 (0 : Int32) h hf
def f_X6_leadsUntil (r0 : Option Nat) (h0 : PH) : Option (Int32 × PH) := gI h0 r0 5 2 fun v1 => (if v1 = 0 then (f_X6_leadsUntil_B28 h0) else (gI h0 r0 5 6 fun v2 => (if v2 ≤ 0 then (f_X6_leadsUntil_B28 h0) else (gR h0 r0 5 0 fun r3 => gI h0 r0 5 7 fun v4 => rv_ h0 r3 3 (cl_ (f_X4_reaches r3 v4 h0) fun v6 h5 => f_X6_leadsUntil_B29 v6 h5)))))
theorem hyS_X6_leadsUntil : yX6_leadsUntil.cls ≠ "java/lang/invoke/MethodHandle" ∧ yX6_leadsUntil.cls ≠ "java/lang/invoke/VarHandle" ∧ (parseMethodDescriptor yX6_leadsUntil.desc).map (fun d => d.parameters.length) = some 0 := by decide +kernel
theorem hyV_X6_leadsUntil : yX6_leadsUntil.cls = RX6 ∧ yX6_leadsUntil.cls ≠ "java/lang/invoke/MethodHandle" ∧ yX6_leadsUntil.cls ≠ "java/lang/invoke/VarHandle" ∧ (parseMethodDescriptor yX6_leadsUntil.desc).map (fun d => d.parameters.length) = some 0 := by decide +kernel
theorem c_X6_leadsUntil {D : va_G} (r0 : Option Nat) {h0 : PH} (l : Launch) (hl : l.stackTraces = false) (x : Int32) (h1 : PH) (hf : f_X6_leadsUntil r0 h0 = some (x, h1)) : CT l D yX6_leadsUntil (ws_ yX6_leadsUntil cX6_leadsUntil 1 (Option.some FieldType.int)) 2 47 [va_rf r0] h0 (ovi x) h1 := by
  refine ct_of hl [some (va_rf r0)] (by decide) (by rw [lgl]; simp [va_rf_cat, cat_i, cat_l]) (by simp [lv_args, vsL, va_rf_cat, cat_i, cat_l]) (fun Γ => ?_)
  obtain ⟨o, ho⟩ : ∃ o : Int32 × PH, o = (x, h1) := ⟨_, rfl⟩
  rw [← ho] at hf
  have e1 : x = o.1 := by rw [ho]
  have e2 : h1 = o.2 := by rw [ho]
  subst e1 e2
  clear ho
  show PF Γ mi_X6_leadsUntil D h0 (QR Γ D h0 (ovi o.1) o.2) h0 0 [some (va_rf r0)] []
  unfold f_X6_leadsUntil at hf
  refine j_aload_n 0 dX6_leadsUntil_0 rfl rfl ?_
  refine j_gI (ci := 5) (k := 2) rfl in_X6 rfl q726 dX6_leadsUntil_1 hf (fun v1 hf => ?_)
  refine j_if_eq 28 dX6_leadsUntil_4 (by decide) hf (fun c_ hf => ?_) (fun c_ hf => ?_)
  · refine j_weak [none] (Wk.s Wk.n) ?_
    exact pf_X6_leadsUntil_B28  h0 hf
  · refine j_aload_n 0 dX6_leadsUntil_7 rfl rfl ?_
    refine j_gI (ci := 5) (k := 6) rfl in_X6 rfl q738 dX6_leadsUntil_8 hf (fun v2 hf => ?_)
    refine j_if_le 28 dX6_leadsUntil_11 (by decide) hf (fun c_ hf => ?_) (fun c_ hf => ?_)
    · refine j_weak [none] (Wk.s Wk.n) ?_
      exact pf_X6_leadsUntil_B28  h0 hf
    · refine j_aload_n 0 dX6_leadsUntil_14 rfl rfl ?_
      refine j_gR (ci := 5) (k := 0) rfl in_X6 rfl q721 dX6_leadsUntil_15 hf (fun r3 hf => ?_)
      refine j_aload_n 0 dX6_leadsUntil_18 rfl rfl ?_
      refine j_gI (ci := 5) (k := 7) rfl in_X6 rfl q741 dX6_leadsUntil_19 hf (fun v4 hf => ?_)
      refine kc_X6_63 rfl rfl rfl (by decide) dX6_leadsUntil_22 hf (fun v6 h5 hf => ?_)
      refine j_goto 29 dX6_leadsUntil_25 (by decide) ?_
      refine j_weak [none] (Wk.s Wk.n) ?_
      exact pf_X6_leadsUntil_B29 v6 h5 hf
abbrev mi_X6_setTimer : MI := (cX6_setTimer, 3, RX6, none, [], 2, 47, "setTimer")
def f_X6_setTimer (r0 : Option Nat) (p0 : Int32) (p1 : Int32) (h0 : PH) : Option (Unit × PH) := gR h0 r0 5 0 fun r1 => rv_ h0 r1 3 (cl_ (f_X4_reaches r1 p1 h0) fun v3 h2 => pV h2 r0 5 8 (.int (if (p0 + (1 : Int32)) < v3 then v3 else (p0 + (1 : Int32)))) fun h4 => some ((), h4))
theorem hyS_X6_setTimer : yX6_setTimer.cls ≠ "java/lang/invoke/MethodHandle" ∧ yX6_setTimer.cls ≠ "java/lang/invoke/VarHandle" ∧ (parseMethodDescriptor yX6_setTimer.desc).map (fun d => d.parameters.length) = some 2 := by decide +kernel
theorem hyV_X6_setTimer : yX6_setTimer.cls = RX6 ∧ yX6_setTimer.cls ≠ "java/lang/invoke/MethodHandle" ∧ yX6_setTimer.cls ≠ "java/lang/invoke/VarHandle" ∧ (parseMethodDescriptor yX6_setTimer.desc).map (fun d => d.parameters.length) = some 2 := by decide +kernel
theorem c_X6_setTimer {D : va_G} (r0 : Option Nat) (p0 : Int32) (p1 : Int32) {h0 : PH} (l : Launch) (hl : l.stackTraces = false) (x : Unit) (h1 : PH) (hf : f_X6_setTimer r0 p0 p1 h0 = some (x, h1)) : CT l D yX6_setTimer (ws_ yX6_setTimer cX6_setTimer 3 none) 2 47 [va_rf r0, .int p0, .int p1] h0 (ovv x) h1 := by
  refine ct_of hl [some (va_rf r0), some (.int p0), some (.int p1)] (by decide) (by rw [lgl]; simp [va_rf_cat, cat_i, cat_l]) (by simp [lv_args, vsL, va_rf_cat, cat_i, cat_l]) (fun Γ => ?_)
  obtain ⟨o, ho⟩ : ∃ o : Unit × PH, o = (x, h1) := ⟨_, rfl⟩
  rw [← ho] at hf
  have e1 : x = o.1 := by rw [ho]
  have e2 : h1 = o.2 := by rw [ho]
  subst e1 e2
  clear ho
  show PF Γ mi_X6_setTimer D h0 (QR Γ D h0 (ovv o.1) o.2) h0 0 [some (va_rf r0), some (.int p0), some (.int p1)] []
  unfold f_X6_setTimer at hf
  refine j_aload_n 0 dX6_setTimer_0 rfl rfl ?_
  refine j_iload_n 1 dX6_setTimer_1 rfl rfl ?_
  refine j_iconst (1 : Int32) dX6_setTimer_2 (by decide) ?_
  refine j_iadd dX6_setTimer_3 ?_
  refine j_aload_n 0 dX6_setTimer_4 rfl rfl ?_
  refine j_gR (ci := 5) (k := 0) rfl in_X6 rfl q721 dX6_setTimer_5 hf (fun r1 hf => ?_)
  refine j_iload_n 2 dX6_setTimer_8 rfl rfl ?_
  refine kc_X6_63 rfl rfl rfl (by simp [va_rf_cat, cat_i, cat_l]) dX6_setTimer_9 hf (fun v3 h2 hf => ?_)
  refine j_mmax q1551 q288 q106 q289 rfl rfl (by simp [va_rf_cat, cat_i, cat_l]) dX6_setTimer_12 ?_
  refine j_pV (ci := 5) (k := 8) tyX6 tyX6_ok nmX6 rfl in_X6 rfl q744 (Or.inl rfl) rfl (fit_i _) dX6_setTimer_15 hf (fun h4 hf => ?_)
  have e9 := Option.some.inj hf
  subst e9
  exact j_vret rfl dX6_setTimer_18
abbrev mi_X6_loseToken : MI := (cX6_loseToken, 1, RX6, none, [], 0, 0, "loseToken")
def f_X6_loseToken (r0 : Option Nat) (h0 : PH) : Option (Unit × PH) := pV h0 r0 5 6 (.int (0 : Int32)) fun h1 => pV h1 r0 5 9 (.int (0 : Int32)) fun h2 => some ((), h2)
theorem hyS_X6_loseToken : yX6_loseToken.cls ≠ "java/lang/invoke/MethodHandle" ∧ yX6_loseToken.cls ≠ "java/lang/invoke/VarHandle" ∧ (parseMethodDescriptor yX6_loseToken.desc).map (fun d => d.parameters.length) = some 0 := by decide +kernel
theorem hyV_X6_loseToken : yX6_loseToken.cls = RX6 ∧ yX6_loseToken.cls ≠ "java/lang/invoke/MethodHandle" ∧ yX6_loseToken.cls ≠ "java/lang/invoke/VarHandle" ∧ (parseMethodDescriptor yX6_loseToken.desc).map (fun d => d.parameters.length) = some 0 := by decide +kernel
theorem c_X6_loseToken {D : va_G} (r0 : Option Nat) {h0 : PH} (l : Launch) (hl : l.stackTraces = false) (x : Unit) (h1 : PH) (hf : f_X6_loseToken r0 h0 = some (x, h1)) : CT l D yX6_loseToken (ws_ yX6_loseToken cX6_loseToken 1 none) 0 0 [va_rf r0] h0 (ovv x) h1 := by
  refine ct_of hl [some (va_rf r0)] (by decide) (by rw [lgl]; simp [va_rf_cat, cat_i, cat_l]) (by simp [lv_args, vsL, va_rf_cat, cat_i, cat_l]) (fun Γ => ?_)
  obtain ⟨o, ho⟩ : ∃ o : Unit × PH, o = (x, h1) := ⟨_, rfl⟩
  rw [← ho] at hf
  have e1 : x = o.1 := by rw [ho]
  have e2 : h1 = o.2 := by rw [ho]
  subst e1 e2
  clear ho
  show PF Γ mi_X6_loseToken D h0 (QR Γ D h0 (ovv o.1) o.2) h0 0 [some (va_rf r0)] []
  unfold f_X6_loseToken at hf
  refine j_aload_n 0 dX6_loseToken_0 rfl rfl ?_
  refine j_iconst (0 : Int32) dX6_loseToken_1 (by decide) ?_
  refine j_pV (ci := 5) (k := 6) tyX6 tyX6_ok nmX6 rfl in_X6 rfl q738 (Or.inl rfl) rfl (fit_i _) dX6_loseToken_2 hf (fun h1 hf => ?_)
  refine j_aload_n 0 dX6_loseToken_5 rfl rfl ?_
  refine j_iconst (0 : Int32) dX6_loseToken_6 (by decide) ?_
  refine j_pV (ci := 5) (k := 9) tyX6 tyX6_ok nmX6 rfl in_X6 rfl q747 (Or.inl rfl) rfl (fit_i _) dX6_loseToken_7 hf (fun h2 hf => ?_)
  have e9 := Option.some.inj hf
  subst e9
  exact j_vret rfl dX6_loseToken_10
abbrev mi_X6_cache : MI := (cX6_cache, 3, RX6, none, [], 0, 0, "cache")
def f_X6_cache (r0 : Option Nat) (p0 : Int32) (p1 : Int32) (h0 : PH) : Option (Unit × PH) := gI h0 r0 5 9 fun v1 => pV h0 r0 5 9 (.int (v1 ||| ((1 : Int32) <<< (p0 &&& 31)))) fun h2 => gR h2 r0 5 12 fun r3 => sI h2 r3 0 p0 p1 fun h4 => some ((), h4)
theorem hyS_X6_cache : yX6_cache.cls ≠ "java/lang/invoke/MethodHandle" ∧ yX6_cache.cls ≠ "java/lang/invoke/VarHandle" ∧ (parseMethodDescriptor yX6_cache.desc).map (fun d => d.parameters.length) = some 2 := by decide +kernel
theorem hyV_X6_cache : yX6_cache.cls = RX6 ∧ yX6_cache.cls ≠ "java/lang/invoke/MethodHandle" ∧ yX6_cache.cls ≠ "java/lang/invoke/VarHandle" ∧ (parseMethodDescriptor yX6_cache.desc).map (fun d => d.parameters.length) = some 2 := by decide +kernel
theorem c_X6_cache {D : va_G} (r0 : Option Nat) (p0 : Int32) (p1 : Int32) {h0 : PH} (l : Launch) (hl : l.stackTraces = false) (x : Unit) (h1 : PH) (hf : f_X6_cache r0 p0 p1 h0 = some (x, h1)) : CT l D yX6_cache (ws_ yX6_cache cX6_cache 3 none) 0 0 [va_rf r0, .int p0, .int p1] h0 (ovv x) h1 := by
  refine ct_of hl [some (va_rf r0), some (.int p0), some (.int p1)] (by decide) (by rw [lgl]; simp [va_rf_cat, cat_i, cat_l]) (by simp [lv_args, vsL, va_rf_cat, cat_i, cat_l]) (fun Γ => ?_)
  obtain ⟨o, ho⟩ : ∃ o : Unit × PH, o = (x, h1) := ⟨_, rfl⟩
  rw [← ho] at hf
  have e1 : x = o.1 := by rw [ho]
  have e2 : h1 = o.2 := by rw [ho]
  subst e1 e2
  clear ho
  show PF Γ mi_X6_cache D h0 (QR Γ D h0 (ovv o.1) o.2) h0 0 [some (va_rf r0), some (.int p0), some (.int p1)] []
  unfold f_X6_cache at hf
  refine j_aload_n 0 dX6_cache_0 rfl rfl ?_
  refine j_dup dX6_cache_1 (va_rf_cat _) ?_
  refine j_gI (ci := 5) (k := 9) rfl in_X6 rfl q747 dX6_cache_2 hf (fun v1 hf => ?_)
  refine j_iconst (1 : Int32) dX6_cache_5 (by decide) ?_
  refine j_iload_n 1 dX6_cache_6 rfl rfl ?_
  refine j_ishl dX6_cache_7 ?_
  refine j_ior dX6_cache_8 ?_
  refine j_pV (ci := 5) (k := 9) tyX6 tyX6_ok nmX6 rfl in_X6 rfl q747 (Or.inl rfl) rfl (fit_i _) dX6_cache_9 hf (fun h2 hf => ?_)
  refine j_aload_n 0 dX6_cache_12 rfl rfl ?_
  refine j_gR (ci := 5) (k := 12) rfl in_X6 rfl q756 dX6_cache_13 hf (fun r3 hf => ?_)
  refine j_iload_n 1 dX6_cache_16 rfl rfl ?_
  refine j_iload_n 2 dX6_cache_17 rfl rfl ?_
  refine j_iast dX6_cache_18 hf (fun h4 hf => ?_)
  have e9 := Option.some.inj hf
  subst e9
  exact j_vret rfl dX6_cache_19
theorem kc_X6_79 {Γ : GX} {I : MI} {D : va_G} {h0 : PH} {Q : State → Prop} {h : PH} {pc : Nat} {vs : List (Option Value)} {rest : List Value} {β : Type} {o : β} {r : Option Nat} {p0 : Int32} {K : ((Int32) → PH → Option β)} (hI : I.2.2.1 = RX6) (hfr : Nat.ble 1 I.2.2.2.2.2.1 = true) (hlo : Nat.ble 21 I.2.2.2.2.2.2.1 = true) (hW : (rest.map fun v => v.category).sum ≤ 8) (hd : decode I.1 pc = .ok (.invokevirtual 79, 3)) (hf : rv_ h r 5 (cl_ (f_X6_isPaused r p0 h) K) = some o) (kk : ∀ (x : Int32) (h1 : PH), K x h1 = some o → PF Γ I D h0 Q h1 (pc + 3) vs (.int x :: rest)) : PF Γ I D h0 Q h pc vs (.int p0 :: va_rf r :: rest) := by
  obtain ⟨cc, nL, own, rt, xt, fr, lo, nm⟩ := I
  cases hI
  exact j_cVi (n := 1) (y := yX6_isPaused) (cc2 := cX6_isPaused) (As := [.int p0]) (C := RX6) (ci := 5) rfl (lw_V q1566 q1281 q1282 q115 q1283) hyV_X6_isPaused hfr hlo rfl hW hd (c_X6_isPaused r p0) hf _ rfl kk
abbrev mi_X6_isDue : MI := (cX6_isDue, 2, RX6, (Option.some FieldType.boolean), [], 1, 21, "isDue")
def f_X6_isDue_B35 (t0 : Int32) (h : PH) : Option (Int32 × PH) := rN .boolean t0 (fun v => v) h
theorem pf_X6_isDue_B35 {Γ : GX} {D : va_G} {h0 : PH} {o : Int32 × PH} (t0 : Int32) (h : PH) (hf : f_X6_isDue_B35 t0 h = some o) : PF Γ mi_X6_isDue D h0 (QR Γ D h0 (ovi o.1) o.2) h 35 [none, none] [.int t0] := by
  obtain ⟨hn9, hf⟩ := rN_in hf
  subst hf
  exact j_zret rfl (nar_z _ hn9) dX6_isDue_35
def f_X6_isDue_B34  (h : PH) : Option (Int32 × PH) := f_X6_isDue_B35 (0 : Int32) h
theorem pf_X6_isDue_B34 {Γ : GX} {D : va_G} {h0 : PH} {o : Int32 × PH}  (h : PH) (hf : f_X6_isDue_B34  h = some o) : PF Γ mi_X6_isDue D h0 (QR Γ D h0 (ovi o.1) o.2) h 34 [none, none] [] := by
  refine j_iconst (0 : Int32) dX6_isDue_34 (by decide) ?_
  exact pf_X6_isDue_B35 (0 : Int32) h hf
def f_X6_isDue (r0 : Option Nat) (p0 : Int32) (h0 : PH) : Option (Int32 × PH) := gI h0 r0 5 2 fun v1 => (if v1 = 0 then (f_X6_isDue_B34 h0) else (rv_ h0 r0 5 (cl_ (f_X6_isPaused r0 p0 h0) fun v3 h2 => (if v3 = 0 then (gI h2 r0 5 8 fun v4 => (if v4 < 0 then (f_X6_isDue_B34 h2) else (gI h2 r0 5 8 fun v5 => (if p0 < v5 then (f_X6_isDue_B34 h2) else (f_X6_isDue_B35 (1 : Int32) h2))))) else (f_X6_isDue_B34 h2)))))
theorem hyS_X6_isDue : yX6_isDue.cls ≠ "java/lang/invoke/MethodHandle" ∧ yX6_isDue.cls ≠ "java/lang/invoke/VarHandle" ∧ (parseMethodDescriptor yX6_isDue.desc).map (fun d => d.parameters.length) = some 1 := by decide +kernel
theorem hyV_X6_isDue : yX6_isDue.cls = RX6 ∧ yX6_isDue.cls ≠ "java/lang/invoke/MethodHandle" ∧ yX6_isDue.cls ≠ "java/lang/invoke/VarHandle" ∧ (parseMethodDescriptor yX6_isDue.desc).map (fun d => d.parameters.length) = some 1 := by decide +kernel
theorem c_X6_isDue {D : va_G} (r0 : Option Nat) (p0 : Int32) {h0 : PH} (l : Launch) (hl : l.stackTraces = false) (x : Int32) (h1 : PH) (hf : f_X6_isDue r0 p0 h0 = some (x, h1)) : CT l D yX6_isDue (ws_ yX6_isDue cX6_isDue 2 (Option.some FieldType.boolean)) 1 21 [va_rf r0, .int p0] h0 (ovi x) h1 := by
  refine ct_of hl [some (va_rf r0), some (.int p0)] (by decide) (by rw [lgl]; simp [va_rf_cat, cat_i, cat_l]) (by simp [lv_args, vsL, va_rf_cat, cat_i, cat_l]) (fun Γ => ?_)
  obtain ⟨o, ho⟩ : ∃ o : Int32 × PH, o = (x, h1) := ⟨_, rfl⟩
  rw [← ho] at hf
  have e1 : x = o.1 := by rw [ho]
  have e2 : h1 = o.2 := by rw [ho]
  subst e1 e2
  clear ho
  show PF Γ mi_X6_isDue D h0 (QR Γ D h0 (ovi o.1) o.2) h0 0 [some (va_rf r0), some (.int p0)] []
  unfold f_X6_isDue at hf
  refine j_aload_n 0 dX6_isDue_0 rfl rfl ?_
  refine j_gI (ci := 5) (k := 2) rfl in_X6 rfl q726 dX6_isDue_1 hf (fun v1 hf => ?_)
  refine j_if_eq 34 dX6_isDue_4 (by decide) hf (fun c_ hf => ?_) (fun c_ hf => ?_)
  · refine j_weak [none, none] (Wk.s (Wk.s Wk.n)) ?_
    exact pf_X6_isDue_B34  h0 hf
  · refine j_aload_n 0 dX6_isDue_7 rfl rfl ?_
    refine j_iload_n 1 dX6_isDue_8 rfl rfl ?_
    refine kc_X6_79 rfl rfl rfl (by decide) dX6_isDue_9 hf (fun v3 h2 hf => ?_)
    refine j_if_ne 34 dX6_isDue_12 (by decide) hf (fun c_ hf => ?_) (fun c_ hf => ?_)
    · refine j_weak [none, none] (Wk.s (Wk.s Wk.n)) ?_
      exact pf_X6_isDue_B34  h2 hf
    · refine j_aload_n 0 dX6_isDue_15 rfl rfl ?_
      refine j_gI (ci := 5) (k := 8) rfl in_X6 rfl q744 dX6_isDue_16 hf (fun v4 hf => ?_)
      refine j_if_lt 34 dX6_isDue_19 (by decide) hf (fun c_ hf => ?_) (fun c_ hf => ?_)
      · refine j_weak [none, none] (Wk.s (Wk.s Wk.n)) ?_
        exact pf_X6_isDue_B34  h2 hf
      · refine j_aload_n 0 dX6_isDue_22 rfl rfl ?_
        refine j_gI (ci := 5) (k := 8) rfl in_X6 rfl q744 dX6_isDue_23 hf (fun v5 hf => ?_)
        refine j_iload_n 1 dX6_isDue_26 rfl rfl ?_
        refine j_icmp_gt 34 dX6_isDue_27 (by decide) hf (fun c_ hf => ?_) (fun c_ hf => ?_)
        · refine j_weak [none, none] (Wk.s (Wk.s Wk.n)) ?_
          exact pf_X6_isDue_B34  h2 hf
        · refine j_iconst (1 : Int32) dX6_isDue_30 (by decide) ?_
          refine j_goto 35 dX6_isDue_31 (by decide) ?_
          refine j_weak [none, none] (Wk.s (Wk.s Wk.n)) ?_
          exact pf_X6_isDue_B35 (1 : Int32) h2 hf
theorem kc_X6_69 {Γ : GX} {I : MI} {D : va_G} {h0 : PH} {Q : State → Prop} {h : PH} {pc : Nat} {vs : List (Option Value)} {rest : List Value} {β : Type} {o : β} {r : Option Nat}  {K : ((Int32) → PH → Option β)} (hI : I.2.2.1 = RX6) (hfr : Nat.ble 3 I.2.2.2.2.2.1 = true) (hlo : Nat.ble 67 I.2.2.2.2.2.2.1 = true) (hW : (rest.map fun v => v.category).sum ≤ 8) (hd : decode I.1 pc = .ok (.invokevirtual 69, 3)) (hf : rv_ h r 5 (cl_ (f_X6_leadsUntil r h) K) = some o) (kk : ∀ (x : Int32) (h1 : PH), K x h1 = some o → PF Γ I D h0 Q h1 (pc + 3) vs (.int x :: rest)) : PF Γ I D h0 Q h pc vs (va_rf r :: rest) := by
  obtain ⟨cc, nL, own, rt, xt, fr, lo, nm⟩ := I
  cases hI
  exact j_cVi (n := 0) (y := yX6_leadsUntil) (cc2 := cX6_leadsUntil) (As := []) (C := RX6) (ci := 5) rfl (lw_V q1628 q1300 q1301 q115 q1302) hyV_X6_leadsUntil hfr hlo rfl hW hd (c_X6_leadsUntil r) hf _ rfl kk
abbrev mi_X6_leads : MI := (cX6_leads, 2, RX6, (Option.some FieldType.boolean), [], 3, 67, "leads")
def f_X6_leads_B13 (t0 : Int32) (h : PH) : Option (Int32 × PH) := rN .boolean t0 (fun v => v) h
theorem pf_X6_leads_B13 {Γ : GX} {D : va_G} {h0 : PH} {o : Int32 × PH} (t0 : Int32) (h : PH) (hf : f_X6_leads_B13 t0 h = some o) : PF Γ mi_X6_leads D h0 (QR Γ D h0 (ovi o.1) o.2) h 13 [none, none] [.int t0] := by
  obtain ⟨hn9, hf⟩ := rN_in hf
  subst hf
  exact j_zret rfl (nar_z _ hn9) dX6_leads_13
def f_X6_leads (r0 : Option Nat) (p0 : Int32) (h0 : PH) : Option (Int32 × PH) := rv_ h0 r0 5 (cl_ (f_X6_leadsUntil r0 h0) fun v2 h1 => (if v2 ≤ p0 then (f_X6_leads_B13 (0 : Int32) h1) else (f_X6_leads_B13 (1 : Int32) h1)))
theorem hyS_X6_leads : yX6_leads.cls ≠ "java/lang/invoke/MethodHandle" ∧ yX6_leads.cls ≠ "java/lang/invoke/VarHandle" ∧ (parseMethodDescriptor yX6_leads.desc).map (fun d => d.parameters.length) = some 1 := by decide +kernel
theorem hyV_X6_leads : yX6_leads.cls = RX6 ∧ yX6_leads.cls ≠ "java/lang/invoke/MethodHandle" ∧ yX6_leads.cls ≠ "java/lang/invoke/VarHandle" ∧ (parseMethodDescriptor yX6_leads.desc).map (fun d => d.parameters.length) = some 1 := by decide +kernel
theorem c_X6_leads {D : va_G} (r0 : Option Nat) (p0 : Int32) {h0 : PH} (l : Launch) (hl : l.stackTraces = false) (x : Int32) (h1 : PH) (hf : f_X6_leads r0 p0 h0 = some (x, h1)) : CT l D yX6_leads (ws_ yX6_leads cX6_leads 2 (Option.some FieldType.boolean)) 3 67 [va_rf r0, .int p0] h0 (ovi x) h1 := by
  refine ct_of hl [some (va_rf r0), some (.int p0)] (by decide) (by rw [lgl]; simp [va_rf_cat, cat_i, cat_l]) (by simp [lv_args, vsL, va_rf_cat, cat_i, cat_l]) (fun Γ => ?_)
  obtain ⟨o, ho⟩ : ∃ o : Int32 × PH, o = (x, h1) := ⟨_, rfl⟩
  rw [← ho] at hf
  have e1 : x = o.1 := by rw [ho]
  have e2 : h1 = o.2 := by rw [ho]
  subst e1 e2
  clear ho
  show PF Γ mi_X6_leads D h0 (QR Γ D h0 (ovi o.1) o.2) h0 0 [some (va_rf r0), some (.int p0)] []
  unfold f_X6_leads at hf
  refine j_aload_n 0 dX6_leads_0 rfl rfl ?_
  refine kc_X6_69 rfl rfl rfl (by decide) dX6_leads_1 hf (fun v2 h1 hf => ?_)
  refine j_iload_n 1 dX6_leads_4 rfl rfl ?_
  refine j_icmp_le 12 dX6_leads_5 (by decide) hf (fun c_ hf => ?_) (fun c_ hf => ?_)
  · refine j_iconst (0 : Int32) dX6_leads_12 (by decide) ?_
    refine j_weak [none, none] (Wk.s (Wk.s Wk.n)) ?_
    exact pf_X6_leads_B13 (0 : Int32) h1 hf
  · refine j_iconst (1 : Int32) dX6_leads_8 (by decide) ?_
    refine j_goto 13 dX6_leads_9 (by decide) ?_
    refine j_weak [none, none] (Wk.s (Wk.s Wk.n)) ?_
    exact pf_X6_leads_B13 (1 : Int32) h1 hf
theorem kc_X6_30 {Γ : GX} {I : MI} {D : va_G} {h0 : PH} {Q : State → Prop} {h : PH} {pc : Nat} {vs : List (Option Value)} {rest : List Value} {β : Type} {o : β} {a : Nat} {p0 : Option Nat} {p1 : Int32} {K : ((Unit) → PH → Option β)} (hI : I.2.2.1 = RX6) (hfr : Nat.ble 2 I.2.2.2.2.2.1 = true) (hlo : Nat.ble 42 I.2.2.2.2.2.2.1 = true) (hW : (rest.map fun v => v.category).sum ≤ 8) (hd : decode I.1 pc = .ok (.invokespecial 30, 3)) (hf : cl_ (f_X6_init a p0 p1 h) K = some o) (kk : ∀ (x : Unit) (h1 : PH), K x h1 = some o → PF Γ I D h0 Q h1 (pc + 3) vs (rest)) : PF Γ I D h0 Q h pc vs (.int p1 :: va_rf p0 :: va_rf (some a) :: rest) := by
  obtain ⟨cc, nL, own, rt, xt, fr, lo, nm⟩ := I
  cases hI
  exact j_cIv (n := 2) (y := yX6_init) (cc2 := cX6_init) (As := [va_rf p0, .int p1]) (lw_meth q719) q115 q2043 q718 rfl hyS_X6_init hfr hlo rfl hW hd (c_X6_init a p0 p1) ⟨_, rfl⟩ hf _ rfl kk
abbrev mi_X6_copy : MI := (cX6_copy, 2, RX6, (Option.some (FieldType.object "LeaderLeases$Node")), [], 2, 60, "copy")
def f_X6_copy (r0 : Option Nat) (h0 : PH) : Option (Option Nat × PH) := nO h0 5 13 [.null, .int 0, .int 0, .int 0, .int 0, .int 0, .int 0, .int 0, .int 0, .int 0, .int 0, .int 0, .null] fun a1 h2 => gR h2 r0 5 0 fun r3 => gI h2 r0 5 1 fun v4 => cl_ (f_X6_init a1 r3 v4 h2) fun _u h5 => gI h5 r0 5 2 fun v6 => pZ h5 (some a1) 5 2 v6 fun h7 => gI h7 r0 5 3 fun v8 => pZ h7 (some a1) 5 3 v8 fun h9 => gI h9 r0 5 4 fun v10 => pZ h9 (some a1) 5 4 v10 fun h11 => gI h11 r0 5 5 fun v12 => pV h11 (some a1) 5 5 (.int v12) fun h13 => gI h13 r0 5 6 fun v14 => pV h13 (some a1) 5 6 (.int v14) fun h15 => gI h15 r0 5 7 fun v16 => pV h15 (some a1) 5 7 (.int v16) fun h17 => gI h17 r0 5 8 fun v18 => pV h17 (some a1) 5 8 (.int v18) fun h19 => gI h19 r0 5 9 fun v20 => pV h19 (some a1) 5 9 (.int v20) fun h21 => gI h21 r0 5 10 fun v22 => pV h21 (some a1) 5 10 (.int v22) fun h23 => gI h23 r0 5 11 fun v24 => pV h23 (some a1) 5 11 (.int v24) fun h25 => gR h25 r0 5 12 fun r26 => gR h25 (some a1) 5 12 fun r27 => ycI h25 r26 (0 : Int32) r27 (0 : Int32) (8 : Int32) 0 (fun _ => true) fun h28 => some ((some a1), h28)
theorem hyS_X6_copy : yX6_copy.cls ≠ "java/lang/invoke/MethodHandle" ∧ yX6_copy.cls ≠ "java/lang/invoke/VarHandle" ∧ (parseMethodDescriptor yX6_copy.desc).map (fun d => d.parameters.length) = some 0 := by decide +kernel
theorem hyV_X6_copy : yX6_copy.cls = RX6 ∧ yX6_copy.cls ≠ "java/lang/invoke/MethodHandle" ∧ yX6_copy.cls ≠ "java/lang/invoke/VarHandle" ∧ (parseMethodDescriptor yX6_copy.desc).map (fun d => d.parameters.length) = some 0 := by decide +kernel
theorem c_X6_copy {D : va_G} (r0 : Option Nat) {h0 : PH} (l : Launch) (hl : l.stackTraces = false) (x : Option Nat) (h1 : PH) (hf : f_X6_copy r0 h0 = some (x, h1)) : CT l D yX6_copy (ws_ yX6_copy cX6_copy 2 (Option.some (FieldType.object "LeaderLeases$Node"))) 2 60 [va_rf r0] h0 (ovr x) h1 := by
  refine ct_of hl [some (va_rf r0), none] (by decide) (by rw [lgl]; simp [va_rf_cat, cat_i, cat_l]) (by simp [lv_args, vsL, va_rf_cat, cat_i, cat_l]) (fun Γ => ?_)
  obtain ⟨o, ho⟩ : ∃ o : Option Nat × PH, o = (x, h1) := ⟨_, rfl⟩
  rw [← ho] at hf
  have e1 : x = o.1 := by rw [ho]
  have e2 : h1 = o.2 := by rw [ho]
  subst e1 e2
  clear ho
  show PF Γ mi_X6_copy D h0 (QR Γ D h0 (ovr o.1) o.2) h0 0 [some (va_rf r0), none] []
  unfold f_X6_copy at hf
  refine j_nO (ci := 5) tyX6 tyX6_ok rfl in_X6 q2042 q691 q115 (by decide) dX6_copy_0 hf (fun a1 h2 hf => ?_)
  refine j_dup dX6_copy_3 (va_rf_cat _) ?_
  refine j_aload_n 0 dX6_copy_4 rfl rfl ?_
  refine j_gR (ci := 5) (k := 0) rfl in_X6 rfl q721 dX6_copy_5 hf (fun r3 hf => ?_)
  refine j_aload_n 0 dX6_copy_8 rfl rfl ?_
  refine j_gI (ci := 5) (k := 1) rfl in_X6 rfl q724 dX6_copy_9 hf (fun v4 hf => ?_)
  refine kc_X6_30 rfl rfl rfl (by simp [va_rf_cat, cat_i, cat_l]) dX6_copy_12 hf (fun _u h5 hf => ?_)
  refine j_astore_n 1 [some (va_rf r0), some (va_rf (some a1))] dX6_copy_15 rfl (cz (va_rf_cat _)) rfl rfl ?_
  refine j_aload_n 1 dX6_copy_16 rfl rfl ?_
  refine j_aload_n 0 dX6_copy_17 rfl rfl ?_
  refine j_gI (ci := 5) (k := 2) rfl in_X6 rfl q726 dX6_copy_18 hf (fun v6 hf => ?_)
  obtain ⟨hz9, hf⟩ := pZ_in hf
  refine j_pV (ci := 5) (k := 2) tyX6 tyX6_ok nmX6 rfl in_X6 rfl q726 (Or.inl rfl) rfl (fit_z _ hz9) dX6_copy_21 hf (fun h7 hf => ?_)
  refine j_aload_n 1 dX6_copy_24 rfl rfl ?_
  refine j_aload_n 0 dX6_copy_25 rfl rfl ?_
  refine j_gI (ci := 5) (k := 3) rfl in_X6 rfl q729 dX6_copy_26 hf (fun v8 hf => ?_)
  obtain ⟨hz9, hf⟩ := pZ_in hf
  refine j_pV (ci := 5) (k := 3) tyX6 tyX6_ok nmX6 rfl in_X6 rfl q729 (Or.inl rfl) rfl (fit_z _ hz9) dX6_copy_29 hf (fun h9 hf => ?_)
  refine j_aload_n 1 dX6_copy_32 rfl rfl ?_
  refine j_aload_n 0 dX6_copy_33 rfl rfl ?_
  refine j_gI (ci := 5) (k := 4) rfl in_X6 rfl q732 dX6_copy_34 hf (fun v10 hf => ?_)
  obtain ⟨hz9, hf⟩ := pZ_in hf
  refine j_pV (ci := 5) (k := 4) tyX6 tyX6_ok nmX6 rfl in_X6 rfl q732 (Or.inl rfl) rfl (fit_z _ hz9) dX6_copy_37 hf (fun h11 hf => ?_)
  refine j_aload_n 1 dX6_copy_40 rfl rfl ?_
  refine j_aload_n 0 dX6_copy_41 rfl rfl ?_
  refine j_gI (ci := 5) (k := 5) rfl in_X6 rfl q735 dX6_copy_42 hf (fun v12 hf => ?_)
  refine j_pV (ci := 5) (k := 5) tyX6 tyX6_ok nmX6 rfl in_X6 rfl q735 (Or.inl rfl) rfl (fit_i _) dX6_copy_45 hf (fun h13 hf => ?_)
  refine j_aload_n 1 dX6_copy_48 rfl rfl ?_
  refine j_aload_n 0 dX6_copy_49 rfl rfl ?_
  refine j_gI (ci := 5) (k := 6) rfl in_X6 rfl q738 dX6_copy_50 hf (fun v14 hf => ?_)
  refine j_pV (ci := 5) (k := 6) tyX6 tyX6_ok nmX6 rfl in_X6 rfl q738 (Or.inl rfl) rfl (fit_i _) dX6_copy_53 hf (fun h15 hf => ?_)
  refine j_aload_n 1 dX6_copy_56 rfl rfl ?_
  refine j_aload_n 0 dX6_copy_57 rfl rfl ?_
  refine j_gI (ci := 5) (k := 7) rfl in_X6 rfl q741 dX6_copy_58 hf (fun v16 hf => ?_)
  refine j_pV (ci := 5) (k := 7) tyX6 tyX6_ok nmX6 rfl in_X6 rfl q741 (Or.inl rfl) rfl (fit_i _) dX6_copy_61 hf (fun h17 hf => ?_)
  refine j_aload_n 1 dX6_copy_64 rfl rfl ?_
  refine j_aload_n 0 dX6_copy_65 rfl rfl ?_
  refine j_gI (ci := 5) (k := 8) rfl in_X6 rfl q744 dX6_copy_66 hf (fun v18 hf => ?_)
  refine j_pV (ci := 5) (k := 8) tyX6 tyX6_ok nmX6 rfl in_X6 rfl q744 (Or.inl rfl) rfl (fit_i _) dX6_copy_69 hf (fun h19 hf => ?_)
  refine j_aload_n 1 dX6_copy_72 rfl rfl ?_
  refine j_aload_n 0 dX6_copy_73 rfl rfl ?_
  refine j_gI (ci := 5) (k := 9) rfl in_X6 rfl q747 dX6_copy_74 hf (fun v20 hf => ?_)
  refine j_pV (ci := 5) (k := 9) tyX6 tyX6_ok nmX6 rfl in_X6 rfl q747 (Or.inl rfl) rfl (fit_i _) dX6_copy_77 hf (fun h21 hf => ?_)
  refine j_aload_n 1 dX6_copy_80 rfl rfl ?_
  refine j_aload_n 0 dX6_copy_81 rfl rfl ?_
  refine j_gI (ci := 5) (k := 10) rfl in_X6 rfl q750 dX6_copy_82 hf (fun v22 hf => ?_)
  refine j_pV (ci := 5) (k := 10) tyX6 tyX6_ok nmX6 rfl in_X6 rfl q750 (Or.inl rfl) rfl (fit_i _) dX6_copy_85 hf (fun h23 hf => ?_)
  refine j_aload_n 1 dX6_copy_88 rfl rfl ?_
  refine j_aload_n 0 dX6_copy_89 rfl rfl ?_
  refine j_gI (ci := 5) (k := 11) rfl in_X6 rfl q753 dX6_copy_90 hf (fun v24 hf => ?_)
  refine j_pV (ci := 5) (k := 11) tyX6 tyX6_ok nmX6 rfl in_X6 rfl q753 (Or.inl rfl) rfl (fit_i _) dX6_copy_93 hf (fun h25 hf => ?_)
  refine j_aload_n 0 dX6_copy_96 rfl rfl ?_
  refine j_gR (ci := 5) (k := 12) rfl in_X6 rfl q756 dX6_copy_97 hf (fun r26 hf => ?_)
  refine j_iconst (0 : Int32) dX6_copy_100 (by decide) ?_
  refine j_aload_n 1 dX6_copy_101 rfl rfl ?_
  refine j_gR (ci := 5) (k := 12) rfl in_X6 rfl q756 dX6_copy_102 hf (fun r27 hf => ?_)
  refine j_iconst (0 : Int32) dX6_copy_105 (by decide) ?_
  refine j_bipush (8 : Int32) dX6_copy_106 (by decide) ?_
  refine j_ycI (t := 0) (ty := .int) rfl (fun _ _ => rfl) rfl q2044 q310 q309 q108 rfl rfl (by decide) dX6_copy_108 hf (fun h28 hf => ?_)
  refine j_aload_n 1 dX6_copy_111 rfl rfl ?_
  have e9 := Option.some.inj hf
  subst e9
  exact j_aret rfl (Or.inl ⟨_, rfl⟩) dX6_copy_112
abbrev mi_X16_isBefore : MI := (cX16_isBefore, 2, RX16, (Option.some FieldType.boolean), [], 0, 0, "isBefore")
def f_X16_isBefore_B38 (t0 : Int32) (h : PH) : Option (Int32 × PH) := rN .boolean t0 (fun v => v) h
theorem pf_X16_isBefore_B38 {Γ : GX} {D : va_G} {h0 : PH} {o : Int32 × PH} (t0 : Int32) (h : PH) (hf : f_X16_isBefore_B38 t0 h = some o) : PF Γ mi_X16_isBefore D h0 (QR Γ D h0 (ovi o.1) o.2) h 38 [none, none] [.int t0] := by
  obtain ⟨hn9, hf⟩ := rN_in hf
  subst hf
  exact j_zret rfl (nar_z _ hn9) dX16_isBefore_38
def f_X16_isBefore_B33  (h : PH) : Option (Int32 × PH) := f_X16_isBefore_B38 (1 : Int32) h
theorem pf_X16_isBefore_B33 {Γ : GX} {D : va_G} {h0 : PH} {o : Int32 × PH}  (h : PH) (hf : f_X16_isBefore_B33  h = some o) : PF Γ mi_X16_isBefore D h0 (QR Γ D h0 (ovi o.1) o.2) h 33 [none, none] [] := by
  refine j_iconst (1 : Int32) dX16_isBefore_33 (by decide) ?_
  refine j_goto 38 dX16_isBefore_34 (by decide) ?_
  exact pf_X16_isBefore_B38 (1 : Int32) h hf
def f_X16_isBefore_B37  (h : PH) : Option (Int32 × PH) := f_X16_isBefore_B38 (0 : Int32) h
theorem pf_X16_isBefore_B37 {Γ : GX} {D : va_G} {h0 : PH} {o : Int32 × PH}  (h : PH) (hf : f_X16_isBefore_B37  h = some o) : PF Γ mi_X16_isBefore D h0 (QR Γ D h0 (ovi o.1) o.2) h 37 [none, none] [] := by
  refine j_iconst (0 : Int32) dX16_isBefore_37 (by decide) ?_
  exact pf_X16_isBefore_B38 (0 : Int32) h hf
def f_X16_isBefore (r0 : Option Nat) (p0 : Option Nat) (h0 : PH) : Option (Int32 × PH) := gI h0 r0 13 6 fun v1 => gI h0 p0 13 6 fun v2 => (if v1 < v2 then (f_X16_isBefore_B33 h0) else (gI h0 r0 13 6 fun v3 => gI h0 p0 13 6 fun v4 => (if v3 = v4 then (gI h0 r0 13 2 fun v5 => gI h0 p0 13 2 fun v6 => (if v6 ≤ v5 then (f_X16_isBefore_B37 h0) else (f_X16_isBefore_B33 h0))) else (f_X16_isBefore_B37 h0))))
theorem hyS_X16_isBefore : yX16_isBefore.cls ≠ "java/lang/invoke/MethodHandle" ∧ yX16_isBefore.cls ≠ "java/lang/invoke/VarHandle" ∧ (parseMethodDescriptor yX16_isBefore.desc).map (fun d => d.parameters.length) = some 1 := by decide +kernel
theorem hyV_X16_isBefore : yX16_isBefore.cls = RX16 ∧ yX16_isBefore.cls ≠ "java/lang/invoke/MethodHandle" ∧ yX16_isBefore.cls ≠ "java/lang/invoke/VarHandle" ∧ (parseMethodDescriptor yX16_isBefore.desc).map (fun d => d.parameters.length) = some 1 := by decide +kernel
theorem c_X16_isBefore {D : va_G} (r0 : Option Nat) (p0 : Option Nat) {h0 : PH} (l : Launch) (hl : l.stackTraces = false) (x : Int32) (h1 : PH) (hf : f_X16_isBefore r0 p0 h0 = some (x, h1)) : CT l D yX16_isBefore (ws_ yX16_isBefore cX16_isBefore 2 (Option.some FieldType.boolean)) 0 0 [va_rf r0, va_rf p0] h0 (ovi x) h1 := by
  refine ct_of hl [some (va_rf r0), some (va_rf p0)] (by decide) (by rw [lgl]; simp [va_rf_cat, cat_i, cat_l]) (by simp [lv_args, vsL, va_rf_cat, cat_i, cat_l]) (fun Γ => ?_)
  obtain ⟨o, ho⟩ : ∃ o : Int32 × PH, o = (x, h1) := ⟨_, rfl⟩
  rw [← ho] at hf
  have e1 : x = o.1 := by rw [ho]
  have e2 : h1 = o.2 := by rw [ho]
  subst e1 e2
  clear ho
  show PF Γ mi_X16_isBefore D h0 (QR Γ D h0 (ovi o.1) o.2) h0 0 [some (va_rf r0), some (va_rf p0)] []
  unfold f_X16_isBefore at hf
  refine j_aload_n 0 dX16_isBefore_0 rfl rfl ?_
  refine j_gI (ci := 13) (k := 6) rfl in_X16 rfl q1389 dX16_isBefore_1 hf (fun v1 hf => ?_)
  refine j_aload_n 1 dX16_isBefore_4 rfl rfl ?_
  refine j_gI (ci := 13) (k := 6) rfl in_X16 rfl q1389 dX16_isBefore_5 hf (fun v2 hf => ?_)
  refine j_icmp_lt 33 dX16_isBefore_8 (by decide) hf (fun c_ hf => ?_) (fun c_ hf => ?_)
  · refine j_weak [none, none] (Wk.s (Wk.s Wk.n)) ?_
    exact pf_X16_isBefore_B33  h0 hf
  · refine j_aload_n 0 dX16_isBefore_11 rfl rfl ?_
    refine j_gI (ci := 13) (k := 6) rfl in_X16 rfl q1389 dX16_isBefore_12 hf (fun v3 hf => ?_)
    refine j_aload_n 1 dX16_isBefore_15 rfl rfl ?_
    refine j_gI (ci := 13) (k := 6) rfl in_X16 rfl q1389 dX16_isBefore_16 hf (fun v4 hf => ?_)
    refine j_icmp_ne 37 dX16_isBefore_19 (by decide) hf (fun c_ hf => ?_) (fun c_ hf => ?_)
    · refine j_weak [none, none] (Wk.s (Wk.s Wk.n)) ?_
      exact pf_X16_isBefore_B37  h0 hf
    · refine j_aload_n 0 dX16_isBefore_22 rfl rfl ?_
      refine j_gI (ci := 13) (k := 2) rfl in_X16 rfl q1381 dX16_isBefore_23 hf (fun v5 hf => ?_)
      refine j_aload_n 1 dX16_isBefore_26 rfl rfl ?_
      refine j_gI (ci := 13) (k := 2) rfl in_X16 rfl q1381 dX16_isBefore_27 hf (fun v6 hf => ?_)
      refine j_icmp_ge 37 dX16_isBefore_30 (by decide) hf (fun c_ hf => ?_) (fun c_ hf => ?_)
      · refine j_weak [none, none] (Wk.s (Wk.s Wk.n)) ?_
        exact pf_X16_isBefore_B37  h0 hf
      · refine j_weak [none, none] (Wk.s (Wk.s Wk.n)) ?_
        exact pf_X16_isBefore_B33  h0 hf
abbrev mi_X16_init : MI := (cX16_init, 3, RX16, none, [], 1, 20, "<init>")
def f_X16_init (a0 : Nat) (p0 : Option Nat) (p1 : Int32) (h0 : PH) : Option (Unit × PH) := gR h0 p0 13 0 fun r1 => pV h0 (some a0) 13 0 (va_rf r1) fun h2 => gI h2 p0 13 1 fun v3 => pV h2 (some a0) 13 1 (.int v3) fun h4 => gI h4 p0 13 2 fun v5 => pV h4 (some a0) 13 2 (.int v5) fun h6 => gI h6 p0 13 3 fun v7 => pV h6 (some a0) 13 3 (.int v7) fun h8 => gI h8 p0 13 4 fun v9 => pV h8 (some a0) 13 4 (.int v9) fun h10 => gI h10 p0 13 5 fun v11 => pV h10 (some a0) 13 5 (.int v11) fun h12 => pV h12 (some a0) 13 6 (.int p1) fun h13 => some ((), h13)
theorem hyS_X16_init : yX16_init.cls ≠ "java/lang/invoke/MethodHandle" ∧ yX16_init.cls ≠ "java/lang/invoke/VarHandle" ∧ (parseMethodDescriptor yX16_init.desc).map (fun d => d.parameters.length) = some 2 := by decide +kernel
theorem c_X16_init {D : va_G} (a0 : Nat) (p0 : Option Nat) (p1 : Int32) {h0 : PH} (l : Launch) (hl : l.stackTraces = false) (x : Unit) (h1 : PH) (hf : f_X16_init a0 p0 p1 h0 = some (x, h1)) : CT l D yX16_init (ws_ yX16_init cX16_init 3 none) 1 20 [va_rf (some a0), va_rf p0, .int p1] h0 (ovv x) h1 := by
  refine ct_of hl [some (va_rf (some a0)), some (va_rf p0), some (.int p1)] (by decide) (by rw [lgl]; simp [va_rf_cat, cat_i, cat_l]) (by simp [lv_args, vsL, va_rf_cat, cat_i, cat_l]) (fun Γ => ?_)
  obtain ⟨o, ho⟩ : ∃ o : Unit × PH, o = (x, h1) := ⟨_, rfl⟩
  rw [← ho] at hf
  have e1 : x = o.1 := by rw [ho]
  have e2 : h1 = o.2 := by rw [ho]
  subst e1 e2
  clear ho
  show PF Γ mi_X16_init D h0 (QR Γ D h0 (ovv o.1) o.2) h0 0 [some (va_rf (some a0)), some (va_rf p0), some (.int p1)] []
  unfold f_X16_init at hf
  refine j_aload_n 0 dX16_init_0 rfl rfl ?_
  refine j_objI q1376 q141 q142 rfl rfl ⟨_, rfl⟩ (by decide) dX16_init_1 ?_
  refine j_aload_n 0 dX16_init_4 rfl rfl ?_
  refine j_aload_n 1 dX16_init_5 rfl rfl ?_
  refine j_gR (ci := 13) (k := 0) rfl in_X16 rfl q1377 dX16_init_6 hf (fun r1 hf => ?_)
  refine j_pV (ci := 13) (k := 0) tyX16 tyX16_ok nmX16 rfl in_X16 rfl q1377 (Or.inr ⟨rfl, rfl, rfl⟩) rfl (fit_o _ _) dX16_init_9 hf (fun h2 hf => ?_)
  refine j_aload_n 0 dX16_init_12 rfl rfl ?_
  refine j_aload_n 1 dX16_init_13 rfl rfl ?_
  refine j_gI (ci := 13) (k := 1) rfl in_X16 rfl q1379 dX16_init_14 hf (fun v3 hf => ?_)
  refine j_pV (ci := 13) (k := 1) tyX16 tyX16_ok nmX16 rfl in_X16 rfl q1379 (Or.inr ⟨rfl, rfl, rfl⟩) rfl (fit_i _) dX16_init_17 hf (fun h4 hf => ?_)
  refine j_aload_n 0 dX16_init_20 rfl rfl ?_
  refine j_aload_n 1 dX16_init_21 rfl rfl ?_
  refine j_gI (ci := 13) (k := 2) rfl in_X16 rfl q1381 dX16_init_22 hf (fun v5 hf => ?_)
  refine j_pV (ci := 13) (k := 2) tyX16 tyX16_ok nmX16 rfl in_X16 rfl q1381 (Or.inr ⟨rfl, rfl, rfl⟩) rfl (fit_i _) dX16_init_25 hf (fun h6 hf => ?_)
  refine j_aload_n 0 dX16_init_28 rfl rfl ?_
  refine j_aload_n 1 dX16_init_29 rfl rfl ?_
  refine j_gI (ci := 13) (k := 3) rfl in_X16 rfl q1383 dX16_init_30 hf (fun v7 hf => ?_)
  refine j_pV (ci := 13) (k := 3) tyX16 tyX16_ok nmX16 rfl in_X16 rfl q1383 (Or.inr ⟨rfl, rfl, rfl⟩) rfl (fit_i _) dX16_init_33 hf (fun h8 hf => ?_)
  refine j_aload_n 0 dX16_init_36 rfl rfl ?_
  refine j_aload_n 1 dX16_init_37 rfl rfl ?_
  refine j_gI (ci := 13) (k := 4) rfl in_X16 rfl q1385 dX16_init_38 hf (fun v9 hf => ?_)
  refine j_pV (ci := 13) (k := 4) tyX16 tyX16_ok nmX16 rfl in_X16 rfl q1385 (Or.inr ⟨rfl, rfl, rfl⟩) rfl (fit_i _) dX16_init_41 hf (fun h10 hf => ?_)
  refine j_aload_n 0 dX16_init_44 rfl rfl ?_
  refine j_aload_n 1 dX16_init_45 rfl rfl ?_
  refine j_gI (ci := 13) (k := 5) rfl in_X16 rfl q1387 dX16_init_46 hf (fun v11 hf => ?_)
  refine j_pV (ci := 13) (k := 5) tyX16 tyX16_ok nmX16 rfl in_X16 rfl q1387 (Or.inr ⟨rfl, rfl, rfl⟩) rfl (fit_i _) dX16_init_49 hf (fun h12 hf => ?_)
  refine j_aload_n 0 dX16_init_52 rfl rfl ?_
  refine j_iload_n 2 dX16_init_53 rfl rfl ?_
  refine j_pV (ci := 13) (k := 6) tyX16 tyX16_ok nmX16 rfl in_X16 rfl q1389 (Or.inr ⟨rfl, rfl, rfl⟩) rfl (fit_i _) dX16_init_54 hf (fun h13 hf => ?_)
  have e9 := Option.some.inj hf
  subst e9
  exact j_vret rfl dX16_init_57
