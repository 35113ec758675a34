/-! printed by gen.py: X2_happen X8_statements X2_step X2_nextLeader X2_leadsFrom X2_longestGap X8_configuration X1_load X1_nextLeader X1_timeUntilLeader X1_longestLeaderless X2_goOn X2_tryWrite -/
set_option maxRecDepth 100000
theorem kc_X2_386 {Γ : GX} {I : MI} {D : va_G} {h0 : PH} {Q : State → Prop} {h : PH} {pc : Nat} {vs : List (Option Value)} {rest : List Value} {β : Type} {o : β} {r : Option Nat}  {K : ((Unit) → PH → Option β)} (hI : I.2.2.1 = RX2) (hfr : Nat.ble 4 I.2.2.2.2.2.1 = true) (hlo : Nat.ble 128 I.2.2.2.2.2.2.1 = true) (hW : (rest.map fun v => v.category).sum ≤ 8) (hd : decode I.1 pc = .ok (.invokevirtual 386, 3)) (hf : rv_ h r 1 (cl_ (f_X2_changeLinks r h) K) = some o) (kk : ∀ (x : Unit) (h1 : PH), K x h1 = some o → PF Γ I D h0 Q h1 (pc + 3) vs (rest)) : PF Γ I D h0 Q h pc vs (va_rf r :: rest) := by
  obtain ⟨cc, nL, own, rt, xt, fr, lo, nm⟩ := I
  cases hI
  exact j_cVv (n := 0) (y := yX2_changeLinks) (cc2 := cX2_changeLinks) (As := []) (C := RX2) (ci := 1) rfl (lw_V q1316 q1318 qs15 q91 q1319) hyV_X2_changeLinks hfr hlo rfl hW hd (c_X2_changeLinks r) hf _ rfl kk
theorem kc_X2_389 {Γ : GX} {I : MI} {D : va_G} {h0 : PH} {Q : State → Prop} {h : PH} {pc : Nat} {vs : List (Option Value)} {rest : List Value} {β : Type} {o : β} {r : Option Nat} {p0 : Option Nat} {K : ((Unit) → PH → Option β)} (hI : I.2.2.1 = RX2) (hfr : Nat.ble 12 I.2.2.2.2.2.1 = true) (hlo : Nat.ble 305 I.2.2.2.2.2.2.1 = true) (hW : (rest.map fun v => v.category).sum ≤ 8) (hd : decode I.1 pc = .ok (.invokevirtual 389, 3)) (hf : rv_ h r 1 (cl_ (f_X2_arrive r p0 h) K) = some o) (kk : ∀ (x : Unit) (h1 : PH), K x h1 = some o → PF Γ I D h0 Q h1 (pc + 3) vs (rest)) : PF Γ I D h0 Q h pc vs (va_rf p0 :: va_rf r :: rest) := by
  obtain ⟨cc, nL, own, rt, xt, fr, lo, nm⟩ := I
  cases hI
  exact j_cVv (n := 1) (y := yX2_arrive) (cc2 := cX2_arrive) (As := [va_rf p0]) (C := RX2) (ci := 1) rfl (lw_V q1334 q1336 qs17 q91 q1337) hyV_X2_arrive hfr hlo rfl hW hd (c_X2_arrive r p0) hf _ rfl kk
theorem kc_X2_403 {Γ : GX} {I : MI} {D : va_G} {h0 : PH} {Q : State → Prop} {h : PH} {pc : Nat} {vs : List (Option Value)} {rest : List Value} {β : Type} {o : β} {r : Option Nat} {p0 : Int32} {K : ((Int32) → PH → Option β)} (hI : I.2.2.1 = RX2) (hfr : Nat.ble 2 I.2.2.2.2.2.1 = true) (hlo : Nat.ble 42 I.2.2.2.2.2.2.1 = true) (hW : (rest.map fun v => v.category).sum ≤ 8) (hd : decode I.1 pc = .ok (.invokevirtual 403, 3)) (hf : rv_ h r 5 (cl_ (f_X6_isDue r p0 h) K) = some o) (kk : ∀ (x : Int32) (h1 : PH), K x h1 = some o → PF Γ I D h0 Q h1 (pc + 3) vs (.int x :: rest)) : PF Γ I D h0 Q h pc vs (.int p0 :: va_rf r :: rest) := by
  obtain ⟨cc, nL, own, rt, xt, fr, lo, nm⟩ := I
  cases hI
  exact j_cVi (n := 1) (y := yX6_isDue) (cc2 := cX6_isDue) (As := [.int p0]) (C := RX6) (ci := 5) rfl (lw_V q1562 q1563 q1564 q115 q1565) hyV_X6_isDue hfr hlo rfl hW hd (c_X6_isDue r p0) hf _ rfl kk
theorem kc_X2_406 {Γ : GX} {I : MI} {D : va_G} {h0 : PH} {Q : State → Prop} {h : PH} {pc : Nat} {vs : List (Option Value)} {rest : List Value} {β : Type} {o : β} {r : Option Nat} {p0 : Int32} {K : ((Unit) → PH → Option β)} (hI : I.2.2.1 = RX2) (hfr : Nat.ble 9 I.2.2.2.2.2.1 = true) (hlo : Nat.ble 239 I.2.2.2.2.2.2.1 = true) (hW : (rest.map fun v => v.category).sum ≤ 8) (hd : decode I.1 pc = .ok (.invokevirtual 406, 3)) (hf : rv_ h r 1 (cl_ (f_X2_acquire r p0 h) K) = some o) (kk : ∀ (x : Unit) (h1 : PH), K x h1 = some o → PF Γ I D h0 Q h1 (pc + 3) vs (rest)) : PF Γ I D h0 Q h pc vs (.int p0 :: va_rf r :: rest) := by
  obtain ⟨cc, nL, own, rt, xt, fr, lo, nm⟩ := I
  cases hI
  exact j_cVv (n := 1) (y := yX2_acquire) (cc2 := cX2_acquire) (As := [.int p0]) (C := RX2) (ci := 1) rfl (lw_V q1567 q1568 q1569 q91 q1570) hyV_X2_acquire hfr hlo rfl hW hd (c_X2_acquire r p0) hf _ rfl kk
abbrev mi_X2_happen : MI := (cX2_happen, 4, RX2, none, [], 12, 305, "happen")
def f_X2_happen_B185 (k134 : Option Nat → Int32 → PH → Option (Unit × PH)) (x0 : Option Nat) (x2 : Int32) (h : PH) : Option (Unit × PH) := k134 x0 (x2 + (1 : Int32)) h
theorem pf_X2_happen_B185 {Γ : GX} {D : va_G} {h0 : PH} {o : Unit × PH} (k134 : Option Nat → Int32 → PH → Option (Unit × PH)) (hk134 : ∀ (x0 : Option Nat) (x2 : Int32) (h : PH), k134 x0 x2 h = some o → PF Γ mi_X2_happen D h0 (QR Γ D h0 (ovv o.1) o.2) h 134 [some (va_rf x0), none, some (.int x2), none] []) (x0 : Option Nat) (x2 : Int32) (h : PH) (hf : f_X2_happen_B185 k134 x0 x2 h = some o) : PF Γ mi_X2_happen D h0 (QR Γ D h0 (ovv o.1) o.2) h 185 [some (va_rf x0), none, some (.int x2), none] [] := by
  refine j_iinc (x2 + (1 : Int32)) [some (va_rf x0), none, some (.int (x2 + (1 : Int32))), none] dX2_happen_185 rfl rfl cn' rfl rfl ?_
  refine j_goto 134 dX2_happen_188 (by decide) ?_
  exact hk134 x0 (x2 + (1 : Int32)) h hf
def f_X2_happen_L134 : Nat → Option Nat → Int32 → PH → Option (Unit × PH)
  | 0, _, _, _ => none
  | n + 1, x0, x2, h => gR h x0 1 1 fun r31 => aN h r31 5 fun v32 => (if v32 ≤ x2 then (some ((), h)) else (gR h x0 1 1 fun r33 => aQ h r33 5 x2 fun r34 => gI h x0 1 8 fun v35 => rv_ h r34 5 (cl_ (f_X6_isDue r34 v35 h) fun v37 h36 => (if v37 = 0 then (f_X2_happen_B185 (f_X2_happen_L134 n) x0 x2 h36) else (gIN h36 r34 5 3 fun v38 => (if v38 = 0 then (pV h36 r34 5 8 (.int (-4 : Int32)) fun h39 => f_X2_happen_B185 (f_X2_happen_L134 n) x0 x2 h39) else (rv_ h36 x0 1 (cl_ (f_X2_acquire x0 x2 h36) fun _u h40 => f_X2_happen_B185 (f_X2_happen_L134 n) x0 x2 h40))))))))
theorem pf_X2_happen_L134 {Γ : GX} {D : va_G} {h0 : PH} {o : Unit × PH} : ∀ (n : Nat) (x0 : Option Nat) (x2 : Int32) (h : PH), f_X2_happen_L134 n x0 x2 h = some o → PF Γ mi_X2_happen D h0 (QR Γ D h0 (ovv o.1) o.2) h 134 [some (va_rf x0), none, some (.int x2), none] [] := by
  intro n
  induction n with
  | zero => intro x0 x2 h hf; cases hf
  | succ n ih =>
    intro x0 x2 h hf
    refine j_iload_n 2 dX2_happen_134 rfl rfl ?_
    refine j_aload_n 0 dX2_happen_135 rfl rfl ?_
    refine j_gR (ci := 1) (k := 1) rfl in_X2 rfl q788 dX2_happen_136 hf (fun r31 hf => ?_)
    refine j_alen (t := 5) rfl dX2_happen_139 hf (fun v32 hf => ?_)
    refine j_icmp_ge 191 dX2_happen_140 (by decide) hf (fun c_ hf => ?_) (fun c_ hf => ?_)
    · have e9 := Option.some.inj hf
      subst e9
      exact j_vret rfl dX2_happen_191
    · refine j_aload_n 0 dX2_happen_143 rfl rfl ?_
      refine j_gR (ci := 1) (k := 1) rfl in_X2 rfl q788 dX2_happen_144 hf (fun r33 hf => ?_)
      refine j_iload_n 2 dX2_happen_147 rfl rfl ?_
      refine j_aald (t := 5) rfl dX2_happen_148 hf (fun r34 hf => ?_)
      refine j_astore_n 3 [some (va_rf x0), none, some (.int x2), some (va_rf r34)] dX2_happen_149 rfl (cz rfl) rfl rfl ?_
      refine j_aload_n 3 dX2_happen_150 rfl rfl ?_
      refine j_aload_n 0 dX2_happen_151 rfl rfl ?_
      refine j_gI (ci := 1) (k := 8) rfl in_X2 rfl q802 dX2_happen_152 hf (fun v35 hf => ?_)
      refine kc_X2_403 rfl rfl rfl (by decide) dX2_happen_155 hf (fun v37 h36 hf => ?_)
      refine j_if_ne 164 dX2_happen_158 (by decide) hf (fun c_ hf => ?_) (fun c_ hf => ?_)
      · refine j_aload_n 3 dX2_happen_164 rfl rfl ?_
        refine j_gIN (ci := 5) (k := 3) rfl in_X6 rfl q730 dX2_happen_165 hf (fun v38 hf => ?_)
        refine j_if_eq 179 dX2_happen_168 (by decide) hf (fun c_ hf => ?_) (fun c_ hf => ?_)
        · refine j_aload_n 3 dX2_happen_179 rfl rfl ?_
          refine j_bipush (-4 : Int32) dX2_happen_180 (by decide) ?_
          refine j_pVN (ci := 5) (k := 8) tyX6 tyX6_ok nmX6 rfl in_X6 rfl q745 rfl rfl (fit_i _) dX2_happen_182 hf (fun h39 hf => ?_)
          refine j_weak [some (va_rf x0), none, some (.int x2), none] (Wk.k (Wk.k (Wk.k (Wk.s Wk.n)))) ?_
          exact pf_X2_happen_B185 (f_X2_happen_L134 n) ih x0 x2 h39 hf
        · refine j_aload_n 0 dX2_happen_171 rfl rfl ?_
          refine j_iload_n 2 dX2_happen_172 rfl rfl ?_
          refine kc_X2_406 rfl rfl rfl (by decide) dX2_happen_173 hf (fun _u h40 hf => ?_)
          refine j_goto 185 dX2_happen_176 (by decide) ?_
          refine j_weak [some (va_rf x0), none, some (.int x2), none] (Wk.k (Wk.k (Wk.k (Wk.s Wk.n)))) ?_
          exact pf_X2_happen_B185 (f_X2_happen_L134 n) ih x0 x2 h40 hf
      · refine j_goto 185 dX2_happen_161 (by decide) ?_
        refine j_weak [some (va_rf x0), none, some (.int x2), none] (Wk.k (Wk.k (Wk.k (Wk.s Wk.n)))) ?_
        exact pf_X2_happen_B185 (f_X2_happen_L134 n) ih x0 x2 h36 hf
def f_X2_happen_L39 : Nat → Option Nat → Int32 → PH → Option (Unit × PH)
  | 0, _, _, _ => none
  | n + 1, x0, x1, h => gR h x0 1 3 fun r9 => rv_ h r9 19 (cl_ (f_J2_size r9 h) fun v11 h10 => (if v11 ≤ x1 then (f_X2_happen_L134 FU x0 (0 : Int32) h10) else (gR h10 x0 1 3 fun r12 => rv_ h10 r12 19 (cl_ (f_J2_get r12 x1 h10) fun r14 h13 => kC h13 r14 18 (gIN h13 r14 18 4 fun v15 => gI h13 x0 1 8 fun v16 => (if v15 ≤ v16 then (gR h13 x0 1 3 fun r17 => rv_ h13 r17 19 (cl_ (f_J2_remove r17 x1 h13) fun r19 h18 => asR (some (h18.2.1.1 4)) fun r20 => gIN h18 r14 18 0 fun v21 => nA h18 0 (3 : Int32) (.inl fun _ => 0) fun a22 h23 => gIN h23 r14 18 1 fun v24 => sI h23 (some a22) 0 (0 : Int32) v24 fun h25 => gIN h25 r14 18 2 fun v26 => sI h25 (some a22) 0 (1 : Int32) v26 fun h27 => gIN h27 r14 18 3 fun v28 => sI h27 (some a22) 0 (2 : Int32) v28 fun h29 => rv_ h29 x0 1 (cl_ (f_X2_send x0 r20 v21 (some a22) h29) fun _u h30 => f_X2_happen_L39 n x0 x1 h30))) else (f_X2_happen_L39 n x0 (x1 + (1 : Int32)) h13)))))))
theorem pf_X2_happen_L39 {Γ : GX} {D : va_G} {h0 : PH} {o : Unit × PH} : ∀ (n : Nat) (x0 : Option Nat) (x1 : Int32) (h : PH), f_X2_happen_L39 n x0 x1 h = some o → PF Γ mi_X2_happen D h0 (QR Γ D h0 (ovv o.1) o.2) h 39 [some (va_rf x0), some (.int x1), none, none] [] := by
  intro n
  induction n with
  | zero => intro x0 x1 h hf; cases hf
  | succ n ih =>
    intro x0 x1 h hf
    refine j_iload_n 1 dX2_happen_39 rfl rfl ?_
    refine j_aload_n 0 dX2_happen_40 rfl rfl ?_
    refine j_gR (ci := 1) (k := 3) rfl in_X2 rfl q792 dX2_happen_41 hf (fun r9 hf => ?_)
    refine kc_X2_56 rfl rfl rfl (by simp [va_rf_cat, cat_i, cat_l]) dX2_happen_44 hf (fun v11 h10 hf => ?_)
    refine j_icmp_ge 132 dX2_happen_49 (by decide) hf (fun c_ hf => ?_) (fun c_ hf => ?_)
    · refine j_iconst (0 : Int32) dX2_happen_132 (by decide) ?_
      refine j_istore_n 2 [some (va_rf x0), some (.int x1), some (.int (0 : Int32)), none] dX2_happen_133 rfl (cz rfl) rfl rfl ?_
      refine j_weak [some (va_rf x0), none, some (.int (0 : Int32)), none] (Wk.k (Wk.s (Wk.k (Wk.k Wk.n)))) ?_
      exact pf_X2_happen_L134 FU x0 (0 : Int32) h10 hf
    · refine j_aload_n 0 dX2_happen_52 rfl rfl ?_
      refine j_gR (ci := 1) (k := 3) rfl in_X2 rfl q792 dX2_happen_53 hf (fun r12 hf => ?_)
      refine j_iload_n 1 dX2_happen_56 rfl rfl ?_
      refine kc_X2_68 rfl rfl rfl (by decide) dX2_happen_57 hf (fun r14 h13 hf => ?_)
      refine j_kC (ci := 18) rfl q1272 dX2_happen_62 hf (fun hf => ?_)
      refine j_astore_n 2 [some (va_rf x0), some (.int x1), some (va_rf r14), none] dX2_happen_65 rfl (cz rfl) rfl rfl ?_
      refine j_aload_n 2 dX2_happen_66 rfl rfl ?_
      refine j_gIN (ci := 18) (k := 4) rfl in_X21 rfl q1883 dX2_happen_67 hf (fun v15 hf => ?_)
      refine j_aload_n 0 dX2_happen_70 rfl rfl ?_
      refine j_gI (ci := 1) (k := 8) rfl in_X2 rfl q802 dX2_happen_71 hf (fun v16 hf => ?_)
      refine j_icmp_le 83 dX2_happen_74 (by decide) hf (fun c_ hf => ?_) (fun c_ hf => ?_)
      · refine j_aload_n 0 dX2_happen_83 rfl rfl ?_
        refine j_gR (ci := 1) (k := 3) rfl in_X2 rfl q792 dX2_happen_84 hf (fun r17 hf => ?_)
        refine j_iload_n 1 dX2_happen_87 rfl rfl ?_
        refine kc_X2_150 rfl rfl rfl (by decide) dX2_happen_88 hf (fun r19 h18 hf => ?_)
        refine j_pop dX2_happen_93 (va_rf_cat _) ?_
        refine j_aload_n 0 dX2_happen_94 rfl rfl ?_
        refine j_gsR (i := 4) rfl q1560 dX2_happen_95 hf (fun r20 hf => ?_)
        refine j_aload_n 2 dX2_happen_98 rfl rfl ?_
        refine j_gIN (ci := 18) (k := 0) rfl in_X21 rfl q1875 dX2_happen_99 hf (fun v21 hf => ?_)
        refine j_iconst (3 : Int32) dX2_happen_102 (by decide) ?_
        refine j_nA (t := 0) (atype := .int) (ty := .int) rfl (fun _ => rfl) (fun _ _ => rfl) (by decide) (fun _ _ h9 => h9) q679 dX2_happen_103 hf (fun a22 h23 hf => ?_)
        refine j_dup dX2_happen_105 (va_rf_cat _) ?_
        refine j_iconst (0 : Int32) dX2_happen_106 (by decide) ?_
        refine j_aload_n 2 dX2_happen_107 rfl rfl ?_
        refine j_gIN (ci := 18) (k := 1) rfl in_X21 rfl q1877 dX2_happen_108 hf (fun v24 hf => ?_)
        refine j_iast dX2_happen_111 hf (fun h25 hf => ?_)
        refine j_dup dX2_happen_112 (va_rf_cat _) ?_
        refine j_iconst (1 : Int32) dX2_happen_113 (by decide) ?_
        refine j_aload_n 2 dX2_happen_114 rfl rfl ?_
        refine j_gIN (ci := 18) (k := 2) rfl in_X21 rfl q1879 dX2_happen_115 hf (fun v26 hf => ?_)
        refine j_iast dX2_happen_118 hf (fun h27 hf => ?_)
        refine j_dup dX2_happen_119 (va_rf_cat _) ?_
        refine j_iconst (2 : Int32) dX2_happen_120 (by decide) ?_
        refine j_aload_n 2 dX2_happen_121 rfl rfl ?_
        refine j_gIN (ci := 18) (k := 3) rfl in_X21 rfl q1881 dX2_happen_122 hf (fun v28 hf => ?_)
        refine j_iast dX2_happen_125 hf (fun h29 hf => ?_)
        refine kc_X2_203 rfl rfl rfl (by decide) dX2_happen_126 hf (fun _u h30 hf => ?_)
        refine j_goto 39 dX2_happen_129 (by decide) ?_
        refine j_weak [some (va_rf x0), some (.int x1), none, none] (Wk.k (Wk.k (Wk.s (Wk.k Wk.n)))) ?_
        exact ih x0 x1 h30 hf
      · refine j_iinc (x1 + (1 : Int32)) [some (va_rf x0), some (.int (x1 + (1 : Int32))), some (va_rf r14), none] dX2_happen_77 rfl rfl (cz (va_rf_cat _)) rfl rfl ?_
        refine j_goto 39 dX2_happen_80 (by decide) ?_
        refine j_weak [some (va_rf x0), some (.int (x1 + (1 : Int32))), none, none] (Wk.k (Wk.k (Wk.s (Wk.k Wk.n)))) ?_
        exact ih x0 (x1 + (1 : Int32)) h13 hf
def f_X2_happen_B37 (x0 : Option Nat) (h : PH) : Option (Unit × PH) := f_X2_happen_L39 FU x0 (0 : Int32) h
theorem pf_X2_happen_B37 {Γ : GX} {D : va_G} {h0 : PH} {o : Unit × PH} (x0 : Option Nat) (h : PH) (hf : f_X2_happen_B37 x0 h = some o) : PF Γ mi_X2_happen D h0 (QR Γ D h0 (ovv o.1) o.2) h 37 [some (va_rf x0), none, none, none] [] := by
  refine j_iconst (0 : Int32) dX2_happen_37 (by decide) ?_
  refine j_istore_n 1 [some (va_rf x0), some (.int (0 : Int32)), none, none] dX2_happen_38 rfl (cz (va_rf_cat _)) rfl rfl ?_
  exact pf_X2_happen_L39 FU x0 (0 : Int32) h hf
def f_X2_happen_L9 : Nat → Option Nat → Option Nat → PH → Option (Unit × PH)
  | 0, _, _, _ => none
  | n + 1, x0, x1, h => (if x1 = none then (f_X2_happen_B37 x0 h) else (gIN h x1 13 6 fun v4 => gI h x0 1 8 fun v5 => (if v5 < v4 then (f_X2_happen_B37 x0 h) else (rv_ h x0 1 (cl_ (f_X2_arrive x0 x1 h) fun _u h6 => rv_ h6 x0 1 (cl_ (f_X2_firstMessage x0 h6) fun r8 h7 => f_X2_happen_L9 n x0 r8 h7))))))
theorem pf_X2_happen_L9 {Γ : GX} {D : va_G} {h0 : PH} {o : Unit × PH} : ∀ (n : Nat) (x0 : Option Nat) (x1 : Option Nat) (h : PH), f_X2_happen_L9 n x0 x1 h = some o → PF Γ mi_X2_happen D h0 (QR Γ D h0 (ovv o.1) o.2) h 9 [some (va_rf x0), some (va_rf x1), none, none] [] := by
  intro n
  induction n with
  | zero => intro x0 x1 h hf; cases hf
  | succ n ih =>
    intro x0 x1 h hf
    refine j_aload_n 1 dX2_happen_9 rfl rfl ?_
    refine j_ifnull 37 dX2_happen_10 (by decide) hf (fun c_ hf => ?_) (fun c_ hf => ?_)
    · refine j_weak [some (va_rf x0), none, none, none] (Wk.k (Wk.s (Wk.k (Wk.k Wk.n)))) ?_
      exact pf_X2_happen_B37 x0 h hf
    · refine j_aload_n 1 dX2_happen_13 rfl rfl ?_
      refine j_gIN (ci := 13) (k := 6) rfl in_X16 rfl q1390 dX2_happen_14 hf (fun v4 hf => ?_)
      refine j_aload_n 0 dX2_happen_17 rfl rfl ?_
      refine j_gI (ci := 1) (k := 8) rfl in_X2 rfl q802 dX2_happen_18 hf (fun v5 hf => ?_)
      refine j_icmp_gt 37 dX2_happen_21 (by decide) hf (fun c_ hf => ?_) (fun c_ hf => ?_)
      · refine j_weak [some (va_rf x0), none, none, none] (Wk.k (Wk.s (Wk.k (Wk.k Wk.n)))) ?_
        exact pf_X2_happen_B37 x0 h hf
      · refine j_aload_n 0 dX2_happen_24 rfl rfl ?_
        refine j_aload_n 1 dX2_happen_25 rfl rfl ?_
        refine kc_X2_389 rfl rfl rfl (by decide) dX2_happen_26 hf (fun _u h6 hf => ?_)
        refine j_aload_n 0 dX2_happen_29 rfl rfl ?_
        refine kc_X2_351 rfl rfl rfl (by decide) dX2_happen_30 hf (fun r8 h7 hf => ?_)
        refine j_astore_n 1 [some (va_rf x0), some (va_rf r8), none, none] dX2_happen_33 rfl (cz (va_rf_cat _)) rfl rfl ?_
        refine j_goto 9 dX2_happen_34 (by decide) ?_
        exact ih x0 r8 h7 hf
def f_X2_happen (r0 : Option Nat) (h0 : PH) : Option (Unit × PH) := rv_ h0 r0 1 (cl_ (f_X2_changeLinks r0 h0) fun _u h1 => rv_ h1 r0 1 (cl_ (f_X2_firstMessage r0 h1) fun r3 h2 => f_X2_happen_L9 FU r0 r3 h2))
theorem hyS_X2_happen : yX2_happen.cls ≠ "java/lang/invoke/MethodHandle" ∧ yX2_happen.cls ≠ "java/lang/invoke/VarHandle" ∧ (parseMethodDescriptor yX2_happen.desc).map (fun d => d.parameters.length) = some 0 := by decide +kernel
theorem hyV_X2_happen : yX2_happen.cls = RX2 ∧ yX2_happen.cls ≠ "java/lang/invoke/MethodHandle" ∧ yX2_happen.cls ≠ "java/lang/invoke/VarHandle" ∧ (parseMethodDescriptor yX2_happen.desc).map (fun d => d.parameters.length) = some 0 := by decide +kernel
theorem c_X2_happen {D : va_G} (r0 : Option Nat) {h0 : PH} (l : Launch) (hl : l.stackTraces = false) (x : Unit) (h1 : PH) (hf : f_X2_happen r0 h0 = some (x, h1)) : CT l D yX2_happen (ws_ yX2_happen cX2_happen 4 none) 12 305 [va_rf r0] h0 (ovv x) h1 := by
  refine ct_of hl [some (va_rf r0), none, none, none] (by decide) (by rw [lgl]; simp [va_rf_cat, cat_i, cat_l]) (by simp [lv_args, vsL, va_rf_cat, cat_i, cat_l]) (fun Γ => ?_)
  obtain ⟨o, ho⟩ : ∃ o : Unit × PH, o = (x, h1) := ⟨_, rfl⟩
  rw [← ho] at hf
  have e1 : x = o.1 := by rw [ho]
  have e2 : h1 = o.2 := by rw [ho]
  subst e1 e2
  clear ho
  show PF Γ mi_X2_happen D h0 (QR Γ D h0 (ovv o.1) o.2) h0 0 [some (va_rf r0), none, none, none] []
  unfold f_X2_happen at hf
  refine j_aload_n 0 dX2_happen_0 rfl rfl ?_
  refine kc_X2_386 rfl rfl rfl (by decide) dX2_happen_1 hf (fun _u h1 hf => ?_)
  refine j_aload_n 0 dX2_happen_4 rfl rfl ?_
  refine kc_X2_351 rfl rfl rfl (by decide) dX2_happen_5 hf (fun r3 h2 hf => ?_)
  refine j_astore_n 1 [some (va_rf r0), some (va_rf r3), none, none] dX2_happen_8 rfl (cz (va_rf_cat _)) rfl rfl ?_
  exact pf_X2_happen_L9 FU r0 r3 h2 hf
theorem kc_X8_176 {Γ : GX} {I : MI} {D : va_G} {h0 : PH} {Q : State → Prop} {h : PH} {pc : Nat} {vs : List (Option Value)} {rest : List Value} {β : Type} {o : β} {r : Option Nat}  {K : (((Nat × Nat) ⊕ Unit) → PH → Option β)} (hI : I.2.2.1 = RX8) (hfr : Nat.ble 8 I.2.2.2.2.2.1 = true) (hlo : Nat.ble 217 I.2.2.2.2.2.2.1 = true) (hW : (rest.map fun v => v.category).sum ≤ 8) (hd : decode I.1 pc = .ok (.invokevirtual 176, 3)) (hf : rv_ h r 7 (cl_ (f_X8_statement r h) K) = some o) (kk : ∀ (x : Unit) (h1 : PH), K (.inr x) h1 = some o → PF Γ I D h0 Q h1 (pc + 3) vs (rest)) (kx : ∀ (ci q : Nat) (h1 : PH) (fs : List Value), h1.1 q = some (.inr (ci, fs)) → K (.inl (ci, q)) h1 = some o → PX Γ I D h0 Q h1 pc vs q) : PF Γ I D h0 Q h pc vs (va_rf r :: rest) := by
  obtain ⟨cc, nL, own, rt, xt, fr, lo, nm⟩ := I
  cases hI
  exact j_xVv (n := 0) (y := yX8_statement) (cc2 := cX8_statement) (As := []) (C := RX8) (ci := 7) rfl (lw_V q930 q932 qs5 q118 q933) hyV_X8_statement hfr hlo rfl hW hd (c_X8_statement r) hf _ rfl kk kx
abbrev mi_X8_statements : MI := (cX8_statements, 1, RX8, none, [], 8, 217, "statements")
def f_X8_statements_L4 : Nat → Option Nat → PH → Option (((Nat × Nat) ⊕ Unit) × PH)
  | 0, _, _ => none
  | n + 1, x0, h => rv_ h x0 7 (cl_ (f_X8_next x0 h) fun v3 h2 => (if v3 < 0 then (some (.inr (), h2)) else (rv_ h2 x0 7 (cl_ (f_X8_here x0 h2) fun v5 h4 => (if v5 = (59 : Int32) then (gI h4 x0 7 2 fun v6 => pV h4 x0 7 2 (.int (v6 + (1 : Int32))) fun h7 => rv_ h7 x0 7 (cl_ (f_X8_statement x0 h7) fun z9 h8 => match z9 with | .inl (ci9, q9) => (xo_ h8 ci9 q9) | .inr _u => (f_X8_statements_L4 n x0 h8))) else (nO h4 9 7 [.int 0, .null, .null, .null, .null, .null, .int 0] fun a9 h10 => gI h10 x0 7 2 fun v11 => cl_ (f_X11_init a9 v11 h10) fun _u h12 => th_ h12 (some a9) fun ci9 q9 => xo_ h12 ci9 q9))))))
theorem pf_X8_statements_L4 {Γ : GX} {D : va_G} {h0 : PH} {o : ((Nat × Nat) ⊕ Unit) × PH} : ∀ (n : Nat) (x0 : Option Nat) (h : PH), f_X8_statements_L4 n x0 h = some o → PF Γ mi_X8_statements D h0 (QR Γ D h0 (oxv o.1) o.2) h 4 [some (va_rf x0)] [] := by
  intro n
  induction n with
  | zero => intro x0 h hf; cases hf
  | succ n ih =>
    intro x0 h hf
    refine j_aload_n 0 dX8_statements_4 rfl rfl ?_
    refine kc_X8_46 rfl rfl rfl (by decide) dX8_statements_5 hf (fun v3 h2 hf => ?_)
    refine j_if_lt 49 dX8_statements_8 (by decide) hf (fun c_ hf => ?_) (fun c_ hf => ?_)
    · have e9 := Option.some.inj hf
      subst e9
      exact j_vret rfl dX8_statements_49
    · refine j_aload_n 0 dX8_statements_11 rfl rfl ?_
      refine kc_X8_42 rfl rfl rfl (by decide) dX8_statements_12 hf (fun v5 h4 hf => ?_)
      refine j_bipush (59 : Int32) dX8_statements_15 (by decide) ?_
      refine j_icmp_eq 32 dX8_statements_17 (by decide) hf (fun c_ hf => ?_) (fun c_ hf => ?_)
      · refine j_aload_n 0 dX8_statements_32 rfl rfl ?_
        refine j_dup dX8_statements_33 (va_rf_cat _) ?_
        refine j_gI (ci := 7) (k := 2) rfl in_X8 rfl q907 dX8_statements_34 hf (fun v6 hf => ?_)
        refine j_iconst (1 : Int32) dX8_statements_37 (by decide) ?_
        refine j_iadd dX8_statements_38 ?_
        refine j_pV (ci := 7) (k := 2) tyX8 tyX8_ok nmX8 rfl in_X8 rfl q907 (Or.inl rfl) rfl (fit_i _) dX8_statements_39 hf (fun h7 hf => ?_)
        refine j_aload_n 0 dX8_statements_42 rfl rfl ?_
        refine kc_X8_176 rfl rfl rfl (by decide) dX8_statements_43 hf (fun _u h8 hf => ?_) (fun ci9 q9 h8 fs9 he9 hf => ?_)
        · refine j_goto 4 dX8_statements_46 (by decide) ?_
          exact ih x0 h8 hf
        · obtain ⟨hb9, hf⟩ := xo_in hf
          subst hf
          exact j_out (by decide) hb9 he9
      · refine j_nO (ci := 9) tyX11 tyX11_ok rfl in_X11 q922 q1144 q121 (by decide) dX8_statements_20 hf (fun a9 h10 hf => ?_)
        refine j_dup dX8_statements_23 (va_rf_cat _) ?_
        refine j_aload_n 0 dX8_statements_24 rfl rfl ?_
        refine j_gI (ci := 7) (k := 2) rfl in_X8 rfl q907 dX8_statements_25 hf (fun v11 hf => ?_)
        refine kc_X8_74 rfl rfl rfl (by simp [va_rf_cat, cat_i, cat_l]) dX8_statements_28 hf (fun _u h12 hf => ?_)
        refine j_athrow dX8_statements_31 hf (fun ci9 q9 fs9 he9 hf => ?_)
        obtain ⟨hb9, hf⟩ := xo_in hf
        subst hf
        exact j_out (by decide) hb9 he9
def f_X8_statements (r0 : Option Nat) (h0 : PH) : Option (((Nat × Nat) ⊕ Unit) × PH) := rv_ h0 r0 7 (cl_ (f_X8_statement r0 h0) fun z9 h1 => match z9 with | .inl (ci9, q9) => (xo_ h1 ci9 q9) | .inr _u => (f_X8_statements_L4 FU r0 h1))
theorem hyS_X8_statements : yX8_statements.cls ≠ "java/lang/invoke/MethodHandle" ∧ yX8_statements.cls ≠ "java/lang/invoke/VarHandle" ∧ (parseMethodDescriptor yX8_statements.desc).map (fun d => d.parameters.length) = some 0 := by decide +kernel
theorem hyV_X8_statements : yX8_statements.cls = RX8 ∧ yX8_statements.cls ≠ "java/lang/invoke/MethodHandle" ∧ yX8_statements.cls ≠ "java/lang/invoke/VarHandle" ∧ (parseMethodDescriptor yX8_statements.desc).map (fun d => d.parameters.length) = some 0 := by decide +kernel
theorem c_X8_statements {D : va_G} (r0 : Option Nat) {h0 : PH} (l : Launch) (hl : l.stackTraces = false) (x : ((Nat × Nat) ⊕ Unit)) (h1 : PH) (hf : f_X8_statements r0 h0 = some (x, h1)) : CT l D yX8_statements (ws_ yX8_statements cX8_statements 1 none) 8 217 [va_rf r0] h0 (oxv x) h1 := by
  refine ct_of hl [some (va_rf r0)] (by decide) (by rw [lgl]; simp [va_rf_cat, cat_i, cat_l]) (by simp [lv_args, vsL, va_rf_cat, cat_i, cat_l]) (fun Γ => ?_)
  obtain ⟨o, ho⟩ : ∃ o : ((Nat × Nat) ⊕ Unit) × PH, o = (x, h1) := ⟨_, rfl⟩
  rw [← ho] at hf
  have e1 : x = o.1 := by rw [ho]
  have e2 : h1 = o.2 := by rw [ho]
  subst e1 e2
  clear ho
  show PF Γ mi_X8_statements D h0 (QR Γ D h0 (oxv o.1) o.2) h0 0 [some (va_rf r0)] []
  unfold f_X8_statements at hf
  refine j_aload_n 0 dX8_statements_0 rfl rfl ?_
  refine kc_X8_176 rfl rfl rfl (by decide) dX8_statements_1 hf (fun _u h1 hf => ?_) (fun ci9 q9 h1 fs9 he9 hf => ?_)
  · exact pf_X8_statements_L4 FU r0 h1 hf
  · obtain ⟨hb9, hf⟩ := xo_in hf
    subst hf
    exact j_out (by decide) hb9 he9
theorem kc_X2_412 {Γ : GX} {I : MI} {D : va_G} {h0 : PH} {Q : State → Prop} {h : PH} {pc : Nat} {vs : List (Option Value)} {rest : List Value} {β : Type} {o : β} {r : Option Nat}  {K : ((Int32) → PH → Option β)} (hI : I.2.2.1 = RX2) (hfr : Nat.ble 5 I.2.2.2.2.2.1 = true) (hlo : Nat.ble 112 I.2.2.2.2.2.2.1 = true) (hW : (rest.map fun v => v.category).sum ≤ 8) (hd : decode I.1 pc = .ok (.invokevirtual 412, 3)) (hf : rv_ h r 1 (cl_ (f_X2_nextEvent r h) K) = some o) (kk : ∀ (x : Int32) (h1 : PH), K x h1 = some o → PF Γ I D h0 Q h1 (pc + 3) vs (.int x :: rest)) : PF Γ I D h0 Q h pc vs (va_rf r :: rest) := by
  obtain ⟨cc, nL, own, rt, xt, fr, lo, nm⟩ := I
  cases hI
  exact j_cVi (n := 0) (y := yX2_nextEvent) (cc2 := cX2_nextEvent) (As := []) (C := RX2) (ci := 1) rfl (lw_V q1294 q1259 q1260 q91 q1261) hyV_X2_nextEvent hfr hlo rfl hW hd (c_X2_nextEvent r) hf _ rfl kk
theorem kc_X2_415 {Γ : GX} {I : MI} {D : va_G} {h0 : PH} {Q : State → Prop} {h : PH} {pc : Nat} {vs : List (Option Value)} {rest : List Value} {β : Type} {o : β} {r : Option Nat} {p0 : Int32} {K : ((Unit) → PH → Option β)} (hI : I.2.2.1 = RX2) (hfr : Nat.ble 4 I.2.2.2.2.2.1 = true) (hlo : Nat.ble 95 I.2.2.2.2.2.2.1 = true) (hW : (rest.map fun v => v.category).sum ≤ 8) (hd : decode I.1 pc = .ok (.invokevirtual 415, 3)) (hf : rv_ h r 1 (cl_ (f_X2_pass r p0 h) K) = some o) (kk : ∀ (x : Unit) (h1 : PH), K x h1 = some o → PF Γ I D h0 Q h1 (pc + 3) vs (rest)) : PF Γ I D h0 Q h pc vs (.int p0 :: va_rf r :: rest) := by
  obtain ⟨cc, nL, own, rt, xt, fr, lo, nm⟩ := I
  cases hI
  exact j_cVv (n := 1) (y := yX2_pass) (cc2 := cX2_pass) (As := [.int p0]) (C := RX2) (ci := 1) rfl (lw_V q1295 q1297 qs13 q91 q1298) hyV_X2_pass hfr hlo rfl hW hd (c_X2_pass r p0) hf _ rfl kk
theorem kc_X2_418 {Γ : GX} {I : MI} {D : va_G} {h0 : PH} {Q : State → Prop} {h : PH} {pc : Nat} {vs : List (Option Value)} {rest : List Value} {β : Type} {o : β} {r : Option Nat}  {K : ((Unit) → PH → Option β)} (hI : I.2.2.1 = RX2) (hfr : Nat.ble 13 I.2.2.2.2.2.1 = true) (hlo : Nat.ble 328 I.2.2.2.2.2.2.1 = true) (hW : (rest.map fun v => v.category).sum ≤ 8) (hd : decode I.1 pc = .ok (.invokevirtual 418, 3)) (hf : rv_ h r 1 (cl_ (f_X2_happen r h) K) = some o) (kk : ∀ (x : Unit) (h1 : PH), K x h1 = some o → PF Γ I D h0 Q h1 (pc + 3) vs (rest)) : PF Γ I D h0 Q h pc vs (va_rf r :: rest) := by
  obtain ⟨cc, nL, own, rt, xt, fr, lo, nm⟩ := I
  cases hI
  exact j_cVv (n := 0) (y := yX2_happen) (cc2 := cX2_happen) (As := []) (C := RX2) (ci := 1) rfl (lw_V q1312 q1314 qs14 q91 q1315) hyV_X2_happen hfr hlo rfl hW hd (c_X2_happen r) hf _ rfl kk
abbrev mi_X2_step : MI := (cX2_step, 3, RX2, none, [], 13, 328, "step")
def f_X2_step_B23  (h : PH) : Option (Unit × PH) := some ((), h)
theorem pf_X2_step_B23 {Γ : GX} {D : va_G} {h0 : PH} {o : Unit × PH}  (h : PH) (hf : f_X2_step_B23  h = some o) : PF Γ mi_X2_step D h0 (QR Γ D h0 (ovv o.1) o.2) h 23 [none, none, none] [] := by
  have e9 := Option.some.inj hf
  subst e9
  exact j_vret rfl dX2_step_23
def f_X2_step (r0 : Option Nat) (p0 : Int32) (h0 : PH) : Option (Unit × PH) := rv_ h0 r0 1 (cl_ (f_X2_nextEvent r0 h0) fun v2 h1 => rv_ h1 r0 1 (cl_ (f_X2_pass r0 (if p0 < v2 then p0 else v2) h1) fun _u h3 => (if p0 < v2 then (f_X2_step_B23 h3) else (rv_ h3 r0 1 (cl_ (f_X2_happen r0 h3) fun _u h4 => f_X2_step_B23 h4)))))
theorem hyS_X2_step : yX2_step.cls ≠ "java/lang/invoke/MethodHandle" ∧ yX2_step.cls ≠ "java/lang/invoke/VarHandle" ∧ (parseMethodDescriptor yX2_step.desc).map (fun d => d.parameters.length) = some 1 := by decide +kernel
theorem hyV_X2_step : yX2_step.cls = RX2 ∧ yX2_step.cls ≠ "java/lang/invoke/MethodHandle" ∧ yX2_step.cls ≠ "java/lang/invoke/VarHandle" ∧ (parseMethodDescriptor yX2_step.desc).map (fun d => d.parameters.length) = some 1 := by decide +kernel
theorem c_X2_step {D : va_G} (r0 : Option Nat) (p0 : Int32) {h0 : PH} (l : Launch) (hl : l.stackTraces = false) (x : Unit) (h1 : PH) (hf : f_X2_step r0 p0 h0 = some (x, h1)) : CT l D yX2_step (ws_ yX2_step cX2_step 3 none) 13 328 [va_rf r0, .int p0] h0 (ovv x) h1 := by
  refine ct_of hl [some (va_rf r0), some (.int p0), none] (by decide) (by rw [lgl]; simp [va_rf_cat, cat_i, cat_l]) (by simp [lv_args, vsL, va_rf_cat, cat_i, cat_l]) (fun Γ => ?_)
  obtain ⟨o, ho⟩ : ∃ o : Unit × PH, o = (x, h1) := ⟨_, rfl⟩
  rw [← ho] at hf
  have e1 : x = o.1 := by rw [ho]
  have e2 : h1 = o.2 := by rw [ho]
  subst e1 e2
  clear ho
  show PF Γ mi_X2_step D h0 (QR Γ D h0 (ovv o.1) o.2) h0 0 [some (va_rf r0), some (.int p0), none] []
  unfold f_X2_step at hf
  refine j_aload_n 0 dX2_step_0 rfl rfl ?_
  refine kc_X2_412 rfl rfl rfl (by decide) dX2_step_1 hf (fun v2 h1 hf => ?_)
  refine j_istore_n 2 [some (va_rf r0), some (.int p0), some (.int v2)] dX2_step_4 rfl (cz rfl) rfl rfl ?_
  refine j_aload_n 0 dX2_step_5 rfl rfl ?_
  refine j_iload_n 2 dX2_step_6 rfl rfl ?_
  refine j_iload_n 1 dX2_step_7 rfl rfl ?_
  refine j_mmin q1273 q306 q106 q307 rfl rfl (by simp [va_rf_cat, cat_i, cat_l]) dX2_step_8 ?_
  refine kc_X2_415 rfl rfl rfl (by decide) dX2_step_11 hf (fun _u h3 hf => ?_)
  refine j_iload_n 2 dX2_step_14 rfl rfl ?_
  refine j_iload_n 1 dX2_step_15 rfl rfl ?_
  refine j_icmp_gt 23 dX2_step_16 (by decide) hf (fun c_ hf => ?_) (fun c_ hf => ?_)
  · refine j_weak [none, none, none] (Wk.s (Wk.s (Wk.s Wk.n))) ?_
    exact pf_X2_step_B23  h3 hf
  · refine j_aload_n 0 dX2_step_19 rfl rfl ?_
    refine kc_X2_418 rfl rfl rfl (by decide) dX2_step_20 hf (fun _u h4 hf => ?_)
    refine j_weak [none, none, none] (Wk.s (Wk.s (Wk.s Wk.n))) ?_
    exact pf_X2_step_B23  h4 hf
theorem kc_X2_421 {Γ : GX} {I : MI} {D : va_G} {h0 : PH} {Q : State → Prop} {h : PH} {pc : Nat} {vs : List (Option Value)} {rest : List Value} {β : Type} {o : β} {r : Option Nat}  {K : ((Int32) → PH → Option β)} (hI : I.2.2.1 = RX2) (hfr : Nat.ble 5 I.2.2.2.2.2.1 = true) (hlo : Nat.ble 110 I.2.2.2.2.2.2.1 = true) (hW : (rest.map fun v => v.category).sum ≤ 8) (hd : decode I.1 pc = .ok (.invokevirtual 421, 3)) (hf : rv_ h r 1 (cl_ (f_X2_leaders r h) K) = some o) (kk : ∀ (x : Int32) (h1 : PH), K x h1 = some o → PF Γ I D h0 Q h1 (pc + 3) vs (.int x :: rest)) : PF Γ I D h0 Q h pc vs (va_rf r :: rest) := by
  obtain ⟨cc, nL, own, rt, xt, fr, lo, nm⟩ := I
  cases hI
  exact j_cVi (n := 0) (y := yX2_leaders) (cc2 := cX2_leaders) (As := []) (C := RX2) (ci := 1) rfl (lw_V q2073 q1621 q1622 q91 q1623) hyV_X2_leaders hfr hlo rfl hW hd (c_X2_leaders r) hf _ rfl kk
theorem kc_X2_409 {Γ : GX} {I : MI} {D : va_G} {h0 : PH} {Q : State → Prop} {h : PH} {pc : Nat} {vs : List (Option Value)} {rest : List Value} {β : Type} {o : β} {r : Option Nat} {p0 : Int32} {K : ((Unit) → PH → Option β)} (hI : I.2.2.1 = RX2) (hfr : Nat.ble 14 I.2.2.2.2.2.1 = true) (hlo : Nat.ble 350 I.2.2.2.2.2.2.1 = true) (hW : (rest.map fun v => v.category).sum ≤ 8) (hd : decode I.1 pc = .ok (.invokevirtual 409, 3)) (hf : rv_ h r 1 (cl_ (f_X2_step r p0 h) K) = some o) (kk : ∀ (x : Unit) (h1 : PH), K x h1 = some o → PF Γ I D h0 Q h1 (pc + 3) vs (rest)) : PF Γ I D h0 Q h pc vs (.int p0 :: va_rf r :: rest) := by
  obtain ⟨cc, nL, own, rt, xt, fr, lo, nm⟩ := I
  cases hI
  exact j_cVv (n := 1) (y := yX2_step) (cc2 := cX2_step) (As := [.int p0]) (C := RX2) (ci := 1) rfl (lw_V q1290 q1292 qs12 q91 q1293) hyV_X2_step hfr hlo rfl hW hd (c_X2_step r p0) hf _ rfl kk
abbrev mi_X2_nextLeader : MI := (cX2_nextLeader, 5, RX2, (Option.some FieldType.int), [], 14, 350, "nextLeader")
def f_X2_nextLeader_B79 (x3 : Int32) (h : PH) : Option (Int32 × PH) := some (x3, h)
theorem pf_X2_nextLeader_B79 {Γ : GX} {D : va_G} {h0 : PH} {o : Int32 × PH} (x3 : Int32) (h : PH) (hf : f_X2_nextLeader_B79 x3 h = some o) : PF Γ mi_X2_nextLeader D h0 (QR Γ D h0 (ovi o.1) o.2) h 79 [none, none, none, some (.int x3), none] [] := by
  refine j_iload_n 3 dX2_nextLeader_79 rfl rfl ?_
  have e9 := Option.some.inj hf
  subst e9
  exact j_iret rfl dX2_nextLeader_80
def f_X2_nextLeader_B70 (k8 : Option Nat → Int32 → Int32 → Int32 → PH → Option (Int32 × PH)) (k36 : Option Nat → Int32 → Int32 → Int32 → Int32 → PH → Option (Int32 × PH)) (x0 : Option Nat) (x1 : Int32) (x2 : Int32) (x3 : Int32) (x4 : Int32) (h : PH) : Option (Int32 × PH) := k36 x0 x1 x2 x3 (x4 + (-1 : Int32)) h
theorem pf_X2_nextLeader_B70 {Γ : GX} {D : va_G} {h0 : PH} {o : Int32 × PH} (k8 : Option Nat → Int32 → Int32 → Int32 → PH → Option (Int32 × PH)) (hk8 : ∀ (x0 : Option Nat) (x1 : Int32) (x2 : Int32) (x3 : Int32) (h : PH), k8 x0 x1 x2 x3 h = some o → PF Γ mi_X2_nextLeader D h0 (QR Γ D h0 (ovi o.1) o.2) h 8 [some (va_rf x0), some (.int x1), some (.int x2), some (.int x3), none] []) (k36 : Option Nat → Int32 → Int32 → Int32 → Int32 → PH → Option (Int32 × PH)) (hk36 : ∀ (x0 : Option Nat) (x1 : Int32) (x2 : Int32) (x3 : Int32) (x4 : Int32) (h : PH), k36 x0 x1 x2 x3 x4 h = some o → PF Γ mi_X2_nextLeader D h0 (QR Γ D h0 (ovi o.1) o.2) h 36 [some (va_rf x0), some (.int x1), some (.int x2), some (.int x3), some (.int x4)] []) (x0 : Option Nat) (x1 : Int32) (x2 : Int32) (x3 : Int32) (x4 : Int32) (h : PH) (hf : f_X2_nextLeader_B70 k8 k36 x0 x1 x2 x3 x4 h = some o) : PF Γ mi_X2_nextLeader D h0 (QR Γ D h0 (ovi o.1) o.2) h 70 [some (va_rf x0), some (.int x1), some (.int x2), some (.int x3), some (.int x4)] [] := by
  refine j_iinc (x4 + (-1 : Int32)) [some (va_rf x0), some (.int x1), some (.int x2), some (.int x3), some (.int (x4 + (-1 : Int32)))] dX2_nextLeader_70 rfl rfl (cz rfl) rfl rfl ?_
  refine j_goto 36 dX2_nextLeader_73 (by decide) ?_
  exact hk36 x0 x1 x2 x3 (x4 + (-1 : Int32)) h hf
def f_X2_nextLeader_L36 (k8 : Option Nat → Int32 → Int32 → Int32 → PH → Option (Int32 × PH)) : Nat → Option Nat → Int32 → Int32 → Int32 → Int32 → PH → Option (Int32 × PH)
  | 0, _, _, _, _, _, _ => none
  | n + 1, x0, x1, x2, x3, x4, h => (if x4 < 0 then (k8 x0 x1 x2 x3 h) else ((if ((x2 >>> (x4 &&& 31)) &&& (1 : Int32)) = 0 then (gR h x0 1 1 fun r7 => aQ h r7 5 x4 fun r8 => gI h x0 1 8 fun v9 => rv_ h r8 5 (cl_ (f_X6_leads r8 v9 h) fun v11 h10 => (if v11 = 0 then (f_X2_nextLeader_B70 k8 (f_X2_nextLeader_L36 k8 n) x0 x1 x2 x3 x4 h10) else (f_X2_nextLeader_B70 k8 (f_X2_nextLeader_L36 k8 n) x0 x1 x2 x4 x4 h10)))) else (f_X2_nextLeader_B70 k8 (f_X2_nextLeader_L36 k8 n) x0 x1 x2 x3 x4 h))))
theorem pf_X2_nextLeader_L36 {Γ : GX} {D : va_G} {h0 : PH} {o : Int32 × PH} (k8 : Option Nat → Int32 → Int32 → Int32 → PH → Option (Int32 × PH)) (hk8 : ∀ (x0 : Option Nat) (x1 : Int32) (x2 : Int32) (x3 : Int32) (h : PH), k8 x0 x1 x2 x3 h = some o → PF Γ mi_X2_nextLeader D h0 (QR Γ D h0 (ovi o.1) o.2) h 8 [some (va_rf x0), some (.int x1), some (.int x2), some (.int x3), none] []) : ∀ (n : Nat) (x0 : Option Nat) (x1 : Int32) (x2 : Int32) (x3 : Int32) (x4 : Int32) (h : PH), f_X2_nextLeader_L36 k8 n x0 x1 x2 x3 x4 h = some o → PF Γ mi_X2_nextLeader D h0 (QR Γ D h0 (ovi o.1) o.2) h 36 [some (va_rf x0), some (.int x1), some (.int x2), some (.int x3), some (.int x4)] [] := by
  intro n
  induction n with
  | zero => intro x0 x1 x2 x3 x4 h hf; cases hf
  | succ n ih =>
    intro x0 x1 x2 x3 x4 h hf
    refine j_iload dX2_nextLeader_36 rfl ?_
    refine j_if_lt 76 dX2_nextLeader_38 (by decide) hf (fun c_ hf => ?_) (fun c_ hf => ?_)
    · refine j_goto 8 dX2_nextLeader_76 (by decide) ?_
      refine j_weak [some (va_rf x0), some (.int x1), some (.int x2), some (.int x3), none] (Wk.k (Wk.k (Wk.k (Wk.k (Wk.s Wk.n))))) ?_
      exact hk8 x0 x1 x2 x3 h hf
    · refine j_iload_n 2 dX2_nextLeader_41 rfl rfl ?_
      refine j_iload dX2_nextLeader_42 rfl ?_
      refine j_ishr dX2_nextLeader_44 ?_
      refine j_iconst (1 : Int32) dX2_nextLeader_45 (by decide) ?_
      refine j_iand dX2_nextLeader_46 ?_
      refine j_if_ne 70 dX2_nextLeader_47 (by decide) hf (fun c_ hf => ?_) (fun c_ hf => ?_)
      · exact pf_X2_nextLeader_B70 k8 hk8 (f_X2_nextLeader_L36 k8 n) ih x0 x1 x2 x3 x4 h hf
      · refine j_aload_n 0 dX2_nextLeader_50 rfl rfl ?_
        refine j_gR (ci := 1) (k := 1) rfl in_X2 rfl q788 dX2_nextLeader_51 hf (fun r7 hf => ?_)
        refine j_iload dX2_nextLeader_54 rfl ?_
        refine j_aald (t := 5) rfl dX2_nextLeader_56 hf (fun r8 hf => ?_)
        refine j_aload_n 0 dX2_nextLeader_57 rfl rfl ?_
        refine j_gI (ci := 1) (k := 8) rfl in_X2 rfl q802 dX2_nextLeader_58 hf (fun v9 hf => ?_)
        refine kc_X2_424 rfl rfl rfl (by decide) dX2_nextLeader_61 hf (fun v11 h10 hf => ?_)
        refine j_if_eq 70 dX2_nextLeader_64 (by decide) hf (fun c_ hf => ?_) (fun c_ hf => ?_)
        · exact pf_X2_nextLeader_B70 k8 hk8 (f_X2_nextLeader_L36 k8 n) ih x0 x1 x2 x3 x4 h10 hf
        · refine j_iload dX2_nextLeader_67 rfl ?_
          refine j_istore_n 3 [some (va_rf x0), some (.int x1), some (.int x2), some (.int x4), some (.int x4)] dX2_nextLeader_69 rfl (cz rfl) rfl rfl ?_
          exact pf_X2_nextLeader_B70 k8 hk8 (f_X2_nextLeader_L36 k8 n) ih x0 x1 x2 x4 x4 h10 hf
def f_X2_nextLeader_L8 : Nat → Option Nat → Int32 → Int32 → Int32 → PH → Option (Int32 × PH)
  | 0, _, _, _, _, _ => none
  | n + 1, x0, x1, x2, x3, h => gI h x0 1 8 fun v3 => (if x1 ≤ v3 then (f_X2_nextLeader_B79 x3 h) else ((if x3 = (-4 : Int32) then (rv_ h x0 1 (cl_ (f_X2_step x0 x1 h) fun _u h4 => gR h4 x0 1 1 fun r5 => aN h4 r5 5 fun v6 => f_X2_nextLeader_L36 (f_X2_nextLeader_L8 n) FU x0 x1 x2 x3 (v6 - (1 : Int32)) h4)) else (f_X2_nextLeader_B79 x3 h))))
theorem pf_X2_nextLeader_L8 {Γ : GX} {D : va_G} {h0 : PH} {o : Int32 × PH} : ∀ (n : Nat) (x0 : Option Nat) (x1 : Int32) (x2 : Int32) (x3 : Int32) (h : PH), f_X2_nextLeader_L8 n x0 x1 x2 x3 h = some o → PF Γ mi_X2_nextLeader D h0 (QR Γ D h0 (ovi o.1) o.2) h 8 [some (va_rf x0), some (.int x1), some (.int x2), some (.int x3), none] [] := by
  intro n
  induction n with
  | zero => intro x0 x1 x2 x3 h hf; cases hf
  | succ n ih =>
    intro x0 x1 x2 x3 h hf
    refine j_aload_n 0 dX2_nextLeader_8 rfl rfl ?_
    refine j_gI (ci := 1) (k := 8) rfl in_X2 rfl q802 dX2_nextLeader_9 hf (fun v3 hf => ?_)
    refine j_iload_n 1 dX2_nextLeader_12 rfl rfl ?_
    refine j_icmp_ge 79 dX2_nextLeader_13 (by decide) hf (fun c_ hf => ?_) (fun c_ hf => ?_)
    · refine j_weak [none, none, none, some (.int x3), none] (Wk.s (Wk.s (Wk.s (Wk.k (Wk.k Wk.n))))) ?_
      exact pf_X2_nextLeader_B79 x3 h hf
    · refine j_iload_n 3 dX2_nextLeader_16 rfl rfl ?_
      refine j_bipush (-4 : Int32) dX2_nextLeader_17 (by decide) ?_
      refine j_icmp_ne 79 dX2_nextLeader_19 (by decide) hf (fun c_ hf => ?_) (fun c_ hf => ?_)
      · refine j_weak [none, none, none, some (.int x3), none] (Wk.s (Wk.s (Wk.s (Wk.k (Wk.k Wk.n))))) ?_
        exact pf_X2_nextLeader_B79 x3 h hf
      · refine j_aload_n 0 dX2_nextLeader_22 rfl rfl ?_
        refine j_iload_n 1 dX2_nextLeader_23 rfl rfl ?_
        refine kc_X2_409 rfl rfl rfl (by decide) dX2_nextLeader_24 hf (fun _u h4 hf => ?_)
        refine j_aload_n 0 dX2_nextLeader_27 rfl rfl ?_
        refine j_gR (ci := 1) (k := 1) rfl in_X2 rfl q788 dX2_nextLeader_28 hf (fun r5 hf => ?_)
        refine j_alen (t := 5) rfl dX2_nextLeader_31 hf (fun v6 hf => ?_)
        refine j_iconst (1 : Int32) dX2_nextLeader_32 (by decide) ?_
        refine j_isub dX2_nextLeader_33 ?_
        refine j_istore [some (va_rf x0), some (.int x1), some (.int x2), some (.int x3), some (.int (v6 - (1 : Int32)))] dX2_nextLeader_34 (cz rfl) rfl rfl ?_
        exact pf_X2_nextLeader_L36 (f_X2_nextLeader_L8 n) ih FU x0 x1 x2 x3 (v6 - (1 : Int32)) h4 hf
def f_X2_nextLeader (r0 : Option Nat) (p0 : Int32) (h0 : PH) : Option (Int32 × PH) := rv_ h0 r0 1 (cl_ (f_X2_leaders r0 h0) fun v2 h1 => f_X2_nextLeader_L8 FU r0 p0 v2 (-4 : Int32) h1)
theorem hyS_X2_nextLeader : yX2_nextLeader.cls ≠ "java/lang/invoke/MethodHandle" ∧ yX2_nextLeader.cls ≠ "java/lang/invoke/VarHandle" ∧ (parseMethodDescriptor yX2_nextLeader.desc).map (fun d => d.parameters.length) = some 1 := by decide +kernel
theorem hyV_X2_nextLeader : yX2_nextLeader.cls = RX2 ∧ yX2_nextLeader.cls ≠ "java/lang/invoke/MethodHandle" ∧ yX2_nextLeader.cls ≠ "java/lang/invoke/VarHandle" ∧ (parseMethodDescriptor yX2_nextLeader.desc).map (fun d => d.parameters.length) = some 1 := by decide +kernel
theorem c_X2_nextLeader {D : va_G} (r0 : Option Nat) (p0 : Int32) {h0 : PH} (l : Launch) (hl : l.stackTraces = false) (x : Int32) (h1 : PH) (hf : f_X2_nextLeader r0 p0 h0 = some (x, h1)) : CT l D yX2_nextLeader (ws_ yX2_nextLeader cX2_nextLeader 5 (Option.some FieldType.int)) 14 350 [va_rf r0, .int p0] h0 (ovi x) h1 := by
  refine ct_of hl [some (va_rf r0), some (.int p0), none, none, none] (by decide) (by rw [lgl]; simp [va_rf_cat, cat_i, cat_l]) (by simp [lv_args, vsL, va_rf_cat, cat_i, cat_l]) (fun Γ => ?_)
  obtain ⟨o, ho⟩ : ∃ o : Int32 × PH, o = (x, h1) := ⟨_, rfl⟩
  rw [← ho] at hf
  have e1 : x = o.1 := by rw [ho]
  have e2 : h1 = o.2 := by rw [ho]
  subst e1 e2
  clear ho
  show PF Γ mi_X2_nextLeader D h0 (QR Γ D h0 (ovi o.1) o.2) h0 0 [some (va_rf r0), some (.int p0), none, none, none] []
  unfold f_X2_nextLeader at hf
  refine j_aload_n 0 dX2_nextLeader_0 rfl rfl ?_
  refine kc_X2_421 rfl rfl rfl (by decide) dX2_nextLeader_1 hf (fun v2 h1 hf => ?_)
  refine j_istore_n 2 [some (va_rf r0), some (.int p0), some (.int v2), none, none] dX2_nextLeader_4 rfl (cz rfl) rfl rfl ?_
  refine j_bipush (-4 : Int32) dX2_nextLeader_5 (by decide) ?_
  refine j_istore_n 3 [some (va_rf r0), some (.int p0), some (.int v2), some (.int (-4 : Int32)), none] dX2_nextLeader_7 rfl (cz rfl) rfl rfl ?_
  exact pf_X2_nextLeader_L8 FU r0 p0 v2 (-4 : Int32) h1 hf
abbrev mi_X2_leadsFrom : MI := (cX2_leadsFrom, 3, RX2, (Option.some FieldType.int), [], 14, 350, "leadsFrom")
def f_X2_leadsFrom_B57 (t0 : Int32) (h : PH) : Option (Int32 × PH) := some (t0, h)
theorem pf_X2_leadsFrom_B57 {Γ : GX} {D : va_G} {h0 : PH} {o : Int32 × PH} (t0 : Int32) (h : PH) (hf : f_X2_leadsFrom_B57 t0 h = some o) : PF Γ mi_X2_leadsFrom D h0 (QR Γ D h0 (ovi o.1) o.2) h 57 [none, none, none] [.int t0] := by
  have e9 := Option.some.inj hf
  subst e9
  exact j_iret rfl dX2_leadsFrom_57
def f_X2_leadsFrom_B32 (x0 : Option Nat) (x1 : Int32) (h : PH) : Option (Int32 × PH) := gR h x0 1 1 fun r8 => aQ h r8 5 x1 fun r9 => gI h x0 1 8 fun v10 => rv_ h r9 5 (cl_ (f_X6_leads r9 v10 h) fun v12 h11 => (if v12 = 0 then (f_X2_leadsFrom_B57 (-4 : Int32) h11) else (gI h11 x0 1 8 fun v13 => f_X2_leadsFrom_B57 v13 h11)))
theorem pf_X2_leadsFrom_B32 {Γ : GX} {D : va_G} {h0 : PH} {o : Int32 × PH} (x0 : Option Nat) (x1 : Int32) (h : PH) (hf : f_X2_leadsFrom_B32 x0 x1 h = some o) : PF Γ mi_X2_leadsFrom D h0 (QR Γ D h0 (ovi o.1) o.2) h 32 [some (va_rf x0), some (.int x1), none] [] := by
  refine j_aload_n 0 dX2_leadsFrom_32 rfl rfl ?_
  refine j_gR (ci := 1) (k := 1) rfl in_X2 rfl q788 dX2_leadsFrom_33 hf (fun r8 hf => ?_)
  refine j_iload_n 1 dX2_leadsFrom_36 rfl rfl ?_
  refine j_aald (t := 5) rfl dX2_leadsFrom_37 hf (fun r9 hf => ?_)
  refine j_aload_n 0 dX2_leadsFrom_38 rfl rfl ?_
  refine j_gI (ci := 1) (k := 8) rfl in_X2 rfl q802 dX2_leadsFrom_39 hf (fun v10 hf => ?_)
  refine kc_X2_424 rfl rfl rfl (by decide) dX2_leadsFrom_42 hf (fun v12 h11 hf => ?_)
  refine j_if_eq 55 dX2_leadsFrom_45 (by decide) hf (fun c_ hf => ?_) (fun c_ hf => ?_)
  · refine j_bipush (-4 : Int32) dX2_leadsFrom_55 (by decide) ?_
    refine j_weak [none, none, none] (Wk.s (Wk.s (Wk.k Wk.n))) ?_
    exact pf_X2_leadsFrom_B57 (-4 : Int32) h11 hf
  · refine j_aload_n 0 dX2_leadsFrom_48 rfl rfl ?_
    refine j_gI (ci := 1) (k := 8) rfl in_X2 rfl q802 dX2_leadsFrom_49 hf (fun v13 hf => ?_)
    refine j_goto 57 dX2_leadsFrom_52 (by decide) ?_
    refine j_weak [none, none, none] (Wk.s (Wk.s (Wk.k Wk.n))) ?_
    exact pf_X2_leadsFrom_B57 v13 h11 hf
def f_X2_leadsFrom_L0 : Nat → Option Nat → Int32 → Int32 → PH → Option (Int32 × PH)
  | 0, _, _, _, _ => none
  | n + 1, x0, x1, x2, h => gI h x0 1 8 fun v1 => (if x2 ≤ v1 then (f_X2_leadsFrom_B32 x0 x1 h) else (gR h x0 1 1 fun r2 => aQ h r2 5 x1 fun r3 => gI h x0 1 8 fun v4 => rv_ h r3 5 (cl_ (f_X6_leads r3 v4 h) fun v6 h5 => (if v6 = 0 then (rv_ h5 x0 1 (cl_ (f_X2_step x0 x2 h5) fun _u h7 => f_X2_leadsFrom_L0 n x0 x1 x2 h7)) else (f_X2_leadsFrom_B32 x0 x1 h5)))))
theorem pf_X2_leadsFrom_L0 {Γ : GX} {D : va_G} {h0 : PH} {o : Int32 × PH} : ∀ (n : Nat) (x0 : Option Nat) (x1 : Int32) (x2 : Int32) (h : PH), f_X2_leadsFrom_L0 n x0 x1 x2 h = some o → PF Γ mi_X2_leadsFrom D h0 (QR Γ D h0 (ovi o.1) o.2) h 0 [some (va_rf x0), some (.int x1), some (.int x2)] [] := by
  intro n
  induction n with
  | zero => intro x0 x1 x2 h hf; cases hf
  | succ n ih =>
    intro x0 x1 x2 h hf
    refine j_aload_n 0 dX2_leadsFrom_0 rfl rfl ?_
    refine j_gI (ci := 1) (k := 8) rfl in_X2 rfl q802 dX2_leadsFrom_1 hf (fun v1 hf => ?_)
    refine j_iload_n 2 dX2_leadsFrom_4 rfl rfl ?_
    refine j_icmp_ge 32 dX2_leadsFrom_5 (by decide) hf (fun c_ hf => ?_) (fun c_ hf => ?_)
    · refine j_weak [some (va_rf x0), some (.int x1), none] (Wk.k (Wk.k (Wk.s Wk.n))) ?_
      exact pf_X2_leadsFrom_B32 x0 x1 h hf
    · refine j_aload_n 0 dX2_leadsFrom_8 rfl rfl ?_
      refine j_gR (ci := 1) (k := 1) rfl in_X2 rfl q788 dX2_leadsFrom_9 hf (fun r2 hf => ?_)
      refine j_iload_n 1 dX2_leadsFrom_12 rfl rfl ?_
      refine j_aald (t := 5) rfl dX2_leadsFrom_13 hf (fun r3 hf => ?_)
      refine j_aload_n 0 dX2_leadsFrom_14 rfl rfl ?_
      refine j_gI (ci := 1) (k := 8) rfl in_X2 rfl q802 dX2_leadsFrom_15 hf (fun v4 hf => ?_)
      refine kc_X2_424 rfl rfl rfl (by decide) dX2_leadsFrom_18 hf (fun v6 h5 hf => ?_)
      refine j_if_ne 32 dX2_leadsFrom_21 (by decide) hf (fun c_ hf => ?_) (fun c_ hf => ?_)
      · refine j_weak [some (va_rf x0), some (.int x1), none] (Wk.k (Wk.k (Wk.s Wk.n))) ?_
        exact pf_X2_leadsFrom_B32 x0 x1 h5 hf
      · refine j_aload_n 0 dX2_leadsFrom_24 rfl rfl ?_
        refine j_iload_n 2 dX2_leadsFrom_25 rfl rfl ?_
        refine kc_X2_409 rfl rfl rfl (by decide) dX2_leadsFrom_26 hf (fun _u h7 hf => ?_)
        refine j_goto 0 dX2_leadsFrom_29 (by decide) ?_
        exact ih x0 x1 x2 h7 hf
def f_X2_leadsFrom (r0 : Option Nat) (p0 : Int32) (p1 : Int32) (h0 : PH) : Option (Int32 × PH) := f_X2_leadsFrom_L0 FU r0 p0 p1 h0
theorem hyS_X2_leadsFrom : yX2_leadsFrom.cls ≠ "java/lang/invoke/MethodHandle" ∧ yX2_leadsFrom.cls ≠ "java/lang/invoke/VarHandle" ∧ (parseMethodDescriptor yX2_leadsFrom.desc).map (fun d => d.parameters.length) = some 2 := by decide +kernel
theorem hyV_X2_leadsFrom : yX2_leadsFrom.cls = RX2 ∧ yX2_leadsFrom.cls ≠ "java/lang/invoke/MethodHandle" ∧ yX2_leadsFrom.cls ≠ "java/lang/invoke/VarHandle" ∧ (parseMethodDescriptor yX2_leadsFrom.desc).map (fun d => d.parameters.length) = some 2 := by decide +kernel
theorem c_X2_leadsFrom {D : va_G} (r0 : Option Nat) (p0 : Int32) (p1 : Int32) {h0 : PH} (l : Launch) (hl : l.stackTraces = false) (x : Int32) (h1 : PH) (hf : f_X2_leadsFrom r0 p0 p1 h0 = some (x, h1)) : CT l D yX2_leadsFrom (ws_ yX2_leadsFrom cX2_leadsFrom 3 (Option.some FieldType.int)) 14 350 [va_rf r0, .int p0, .int p1] h0 (ovi x) h1 := by
  refine ct_of hl [some (va_rf r0), some (.int p0), some (.int p1)] (by decide) (by rw [lgl]; simp [va_rf_cat, cat_i, cat_l]) (by simp [lv_args, vsL, va_rf_cat, cat_i, cat_l]) (fun Γ => ?_)
  obtain ⟨o, ho⟩ : ∃ o : Int32 × PH, o = (x, h1) := ⟨_, rfl⟩
  rw [← ho] at hf
  have e1 : x = o.1 := by rw [ho]
  have e2 : h1 = o.2 := by rw [ho]
  subst e1 e2
  clear ho
  show PF Γ mi_X2_leadsFrom D h0 (QR Γ D h0 (ovi o.1) o.2) h0 0 [some (va_rf r0), some (.int p0), some (.int p1)] []
  unfold f_X2_leadsFrom at hf
  exact pf_X2_leadsFrom_L0 FU r0 p0 p1 h0 hf
theorem kc_X2_427 {Γ : GX} {I : MI} {D : va_G} {h0 : PH} {Q : State → Prop} {h : PH} {pc : Nat} {vs : List (Option Value)} {rest : List Value} {β : Type} {o : β} {r : Option Nat}  {K : ((Int32) → PH → Option β)} (hI : I.2.2.1 = RX2) (hfr : Nat.ble 4 I.2.2.2.2.2.1 = true) (hlo : Nat.ble 92 I.2.2.2.2.2.2.1 = true) (hW : (rest.map fun v => v.category).sum ≤ 8) (hd : decode I.1 pc = .ok (.invokevirtual 427, 3)) (hf : rv_ h r 1 (cl_ (f_X2_lastEnd r h) K) = some o) (kk : ∀ (x : Int32) (h1 : PH), K x h1 = some o → PF Γ I D h0 Q h1 (pc + 3) vs (.int x :: rest)) : PF Γ I D h0 Q h pc vs (va_rf r :: rest) := by
  obtain ⟨cc, nL, own, rt, xt, fr, lo, nm⟩ := I
  cases hI
  exact j_cVi (n := 0) (y := yX2_lastEnd) (cc2 := cX2_lastEnd) (As := []) (C := RX2) (ci := 1) rfl (lw_V q2128 q2130 qs33 q91 q2131) hyV_X2_lastEnd hfr hlo rfl hW hd (c_X2_lastEnd r) hf _ rfl kk
abbrev mi_X2_longestGap : MI := (cX2_longestGap, 6, RX2, (Option.some FieldType.int), [], 14, 350, "longestGap")
def f_X2_longestGap_B59 (k4 : Option Nat → Int32 → Int32 → Int32 → PH → Option (Int32 × PH)) (x0 : Option Nat) (x1 : Int32) (x2 : Int32) (x4 : Int32) (t0 : Int32) (h : PH) : Option (Int32 × PH) := rv_ h x0 1 (cl_ (f_X2_step x0 x4 h) fun _u h8 => k4 x0 x1 (if x2 < t0 then t0 else x2) t0 h8)
theorem pf_X2_longestGap_B59 {Γ : GX} {D : va_G} {h0 : PH} {o : Int32 × PH} (k4 : Option Nat → Int32 → Int32 → Int32 → PH → Option (Int32 × PH)) (hk4 : ∀ (x0 : Option Nat) (x1 : Int32) (x2 : Int32) (x3 : Int32) (h : PH), k4 x0 x1 x2 x3 h = some o → PF Γ mi_X2_longestGap D h0 (QR Γ D h0 (ovi o.1) o.2) h 4 [some (va_rf x0), some (.int x1), some (.int x2), some (.int x3), none, none] []) (x0 : Option Nat) (x1 : Int32) (x2 : Int32) (x4 : Int32) (t0 : Int32) (h : PH) (hf : f_X2_longestGap_B59 k4 x0 x1 x2 x4 t0 h = some o) : PF Γ mi_X2_longestGap D h0 (QR Γ D h0 (ovi o.1) o.2) h 59 [some (va_rf x0), some (.int x1), some (.int x2), none, some (.int x4), none] [.int t0] := by
  refine j_istore_n 3 [some (va_rf x0), some (.int x1), some (.int x2), some (.int t0), some (.int x4), none] dX2_longestGap_59 rfl (cz rfl) rfl rfl ?_
  refine j_iload_n 2 dX2_longestGap_60 rfl rfl ?_
  refine j_iload_n 3 dX2_longestGap_61 rfl rfl ?_
  refine j_mmax q1311 q288 q106 q289 rfl rfl (by decide) dX2_longestGap_62 ?_
  refine j_istore_n 2 [some (va_rf x0), some (.int x1), some (.int (if x2 < t0 then t0 else x2)), some (.int t0), some (.int x4), none] dX2_longestGap_65 rfl (cz rfl) rfl rfl ?_
  refine j_aload_n 0 dX2_longestGap_66 rfl rfl ?_
  refine j_iload dX2_longestGap_67 rfl ?_
  refine kc_X2_409 rfl rfl rfl (by decide) dX2_longestGap_69 hf (fun _u h8 hf => ?_)
  refine j_goto 4 dX2_longestGap_72 (by decide) ?_
  refine j_weak [some (va_rf x0), some (.int x1), some (.int (if x2 < t0 then t0 else x2)), some (.int t0), none, none] (Wk.k (Wk.k (Wk.k (Wk.k (Wk.s (Wk.k Wk.n)))))) ?_
  exact hk4 x0 x1 (if x2 < t0 then t0 else x2) t0 h8 hf
def f_X2_longestGap_L4 : Nat → Option Nat → Int32 → Int32 → Int32 → PH → Option (Int32 × PH)
  | 0, _, _, _, _, _ => none
  | n + 1, x0, x1, x2, x3, h => gI h x0 1 8 fun v1 => (if x1 ≤ v1 then (some (x2, h)) else (rv_ h x0 1 (cl_ (f_X2_nextEvent x0 h) fun v3 h2 => rv_ h2 x0 1 (cl_ (f_X2_lastEnd x0 h2) fun v5 h4 => gI h4 x0 1 8 fun v6 => (if (if v5 < (if v3 < x1 then v3 else x1) then v5 else (if v3 < x1 then v3 else x1)) ≤ v6 then (gI h4 x0 1 8 fun v7 => f_X2_longestGap_B59 (f_X2_longestGap_L4 n) x0 x1 x2 (if v3 < x1 then v3 else x1) ((x3 + (if v3 < x1 then v3 else x1)) - v7) h4) else (f_X2_longestGap_B59 (f_X2_longestGap_L4 n) x0 x1 x2 (if v3 < x1 then v3 else x1) ((if v3 < x1 then v3 else x1) - (if v5 < (if v3 < x1 then v3 else x1) then v5 else (if v3 < x1 then v3 else x1))) h4))))))
theorem pf_X2_longestGap_L4 {Γ : GX} {D : va_G} {h0 : PH} {o : Int32 × PH} : ∀ (n : Nat) (x0 : Option Nat) (x1 : Int32) (x2 : Int32) (x3 : Int32) (h : PH), f_X2_longestGap_L4 n x0 x1 x2 x3 h = some o → PF Γ mi_X2_longestGap D h0 (QR Γ D h0 (ovi o.1) o.2) h 4 [some (va_rf x0), some (.int x1), some (.int x2), some (.int x3), none, none] [] := by
  intro n
  induction n with
  | zero => intro x0 x1 x2 x3 h hf; cases hf
  | succ n ih =>
    intro x0 x1 x2 x3 h hf
    refine j_aload_n 0 dX2_longestGap_4 rfl rfl ?_
    refine j_gI (ci := 1) (k := 8) rfl in_X2 rfl q802 dX2_longestGap_5 hf (fun v1 hf => ?_)
    refine j_iload_n 1 dX2_longestGap_8 rfl rfl ?_
    refine j_icmp_ge 75 dX2_longestGap_9 (by decide) hf (fun c_ hf => ?_) (fun c_ hf => ?_)
    · refine j_iload_n 2 dX2_longestGap_75 rfl rfl ?_
      have e9 := Option.some.inj hf
      subst e9
      exact j_iret rfl dX2_longestGap_76
    · refine j_iload_n 1 dX2_longestGap_12 rfl rfl ?_
      refine j_aload_n 0 dX2_longestGap_13 rfl rfl ?_
      refine kc_X2_412 rfl rfl rfl (by simp [va_rf_cat, cat_i, cat_l]) dX2_longestGap_14 hf (fun v3 h2 hf => ?_)
      refine j_mmin q1273 q306 q106 q307 rfl rfl (by decide) dX2_longestGap_17 ?_
      refine j_istore [some (va_rf x0), some (.int x1), some (.int x2), some (.int x3), some (.int (if v3 < x1 then v3 else x1)), none] dX2_longestGap_20 (cz rfl) rfl rfl ?_
      refine j_iload dX2_longestGap_22 rfl ?_
      refine j_aload_n 0 dX2_longestGap_24 rfl rfl ?_
      refine kc_X2_427 rfl rfl rfl (by simp [va_rf_cat, cat_i, cat_l]) dX2_longestGap_25 hf (fun v5 h4 hf => ?_)
      refine j_mmin q1273 q306 q106 q307 rfl rfl (by decide) dX2_longestGap_28 ?_
      refine j_istore [some (va_rf x0), some (.int x1), some (.int x2), some (.int x3), some (.int (if v3 < x1 then v3 else x1)), some (.int (if v5 < (if v3 < x1 then v3 else x1) then v5 else (if v3 < x1 then v3 else x1)))] dX2_longestGap_31 (cz rfl) rfl rfl ?_
      refine j_iload dX2_longestGap_33 rfl ?_
      refine j_aload_n 0 dX2_longestGap_35 rfl rfl ?_
      refine j_gI (ci := 1) (k := 8) rfl in_X2 rfl q802 dX2_longestGap_36 hf (fun v6 hf => ?_)
      refine j_icmp_le 50 dX2_longestGap_39 (by decide) hf (fun c_ hf => ?_) (fun c_ hf => ?_)
      · refine j_iload_n 3 dX2_longestGap_50 rfl rfl ?_
        refine j_iload dX2_longestGap_51 rfl ?_
        refine j_iadd dX2_longestGap_53 ?_
        refine j_aload_n 0 dX2_longestGap_54 rfl rfl ?_
        refine j_gI (ci := 1) (k := 8) rfl in_X2 rfl q802 dX2_longestGap_55 hf (fun v7 hf => ?_)
        refine j_isub dX2_longestGap_58 ?_
        refine j_weak [some (va_rf x0), some (.int x1), some (.int x2), none, some (.int (if v3 < x1 then v3 else x1)), none] (Wk.k (Wk.k (Wk.k (Wk.s (Wk.k (Wk.s Wk.n)))))) ?_
        exact pf_X2_longestGap_B59 (f_X2_longestGap_L4 n) ih x0 x1 x2 (if v3 < x1 then v3 else x1) ((x3 + (if v3 < x1 then v3 else x1)) - v7) h4 hf
      · refine j_iload dX2_longestGap_42 rfl ?_
        refine j_iload dX2_longestGap_44 rfl ?_
        refine j_isub dX2_longestGap_46 ?_
        refine j_goto 59 dX2_longestGap_47 (by decide) ?_
        refine j_weak [some (va_rf x0), some (.int x1), some (.int x2), none, some (.int (if v3 < x1 then v3 else x1)), none] (Wk.k (Wk.k (Wk.k (Wk.s (Wk.k (Wk.s Wk.n)))))) ?_
        exact pf_X2_longestGap_B59 (f_X2_longestGap_L4 n) ih x0 x1 x2 (if v3 < x1 then v3 else x1) ((if v3 < x1 then v3 else x1) - (if v5 < (if v3 < x1 then v3 else x1) then v5 else (if v3 < x1 then v3 else x1))) h4 hf
def f_X2_longestGap (r0 : Option Nat) (p0 : Int32) (h0 : PH) : Option (Int32 × PH) := f_X2_longestGap_L4 FU r0 p0 (0 : Int32) (0 : Int32) h0
theorem hyS_X2_longestGap : yX2_longestGap.cls ≠ "java/lang/invoke/MethodHandle" ∧ yX2_longestGap.cls ≠ "java/lang/invoke/VarHandle" ∧ (parseMethodDescriptor yX2_longestGap.desc).map (fun d => d.parameters.length) = some 1 := by decide +kernel
theorem hyV_X2_longestGap : yX2_longestGap.cls = RX2 ∧ yX2_longestGap.cls ≠ "java/lang/invoke/MethodHandle" ∧ yX2_longestGap.cls ≠ "java/lang/invoke/VarHandle" ∧ (parseMethodDescriptor yX2_longestGap.desc).map (fun d => d.parameters.length) = some 1 := by decide +kernel
theorem c_X2_longestGap {D : va_G} (r0 : Option Nat) (p0 : Int32) {h0 : PH} (l : Launch) (hl : l.stackTraces = false) (x : Int32) (h1 : PH) (hf : f_X2_longestGap r0 p0 h0 = some (x, h1)) : CT l D yX2_longestGap (ws_ yX2_longestGap cX2_longestGap 6 (Option.some FieldType.int)) 14 350 [va_rf r0, .int p0] h0 (ovi x) h1 := by
  refine ct_of hl [some (va_rf r0), some (.int p0), none, none, none, none] (by decide) (by rw [lgl]; simp [va_rf_cat, cat_i, cat_l]) (by simp [lv_args, vsL, va_rf_cat, cat_i, cat_l]) (fun Γ => ?_)
  obtain ⟨o, ho⟩ : ∃ o : Int32 × PH, o = (x, h1) := ⟨_, rfl⟩
  rw [← ho] at hf
  have e1 : x = o.1 := by rw [ho]
  have e2 : h1 = o.2 := by rw [ho]
  subst e1 e2
  clear ho
  show PF Γ mi_X2_longestGap D h0 (QR Γ D h0 (ovi o.1) o.2) h0 0 [some (va_rf r0), some (.int p0), none, none, none, none] []
  unfold f_X2_longestGap at hf
  refine j_iconst (0 : Int32) dX2_longestGap_0 (by decide) ?_
  refine j_istore_n 2 [some (va_rf r0), some (.int p0), some (.int (0 : Int32)), none, none, none] dX2_longestGap_1 rfl (cz rfl) rfl rfl ?_
  refine j_iconst (0 : Int32) dX2_longestGap_2 (by decide) ?_
  refine j_istore_n 3 [some (va_rf r0), some (.int p0), some (.int (0 : Int32)), some (.int (0 : Int32)), none, none] dX2_longestGap_3 rfl (cz rfl) rfl rfl ?_
  exact pf_X2_longestGap_L4 FU r0 p0 (0 : Int32) (0 : Int32) h0 hf
theorem kc_X8_179 {Γ : GX} {I : MI} {D : va_G} {h0 : PH} {Q : State → Prop} {h : PH} {pc : Nat} {vs : List (Option Value)} {rest : List Value} {β : Type} {o : β} {r : Option Nat}  {K : (((Nat × Nat) ⊕ Unit) → PH → Option β)} (hI : I.2.2.1 = RX8) (hfr : Nat.ble 9 I.2.2.2.2.2.1 = true) (hlo : Nat.ble 237 I.2.2.2.2.2.2.1 = true) (hW : (rest.map fun v => v.category).sum ≤ 8) (hd : decode I.1 pc = .ok (.invokevirtual 179, 3)) (hf : rv_ h r 7 (cl_ (f_X8_statements r h) K) = some o) (kk : ∀ (x : Unit) (h1 : PH), K (.inr x) h1 = some o → PF Γ I D h0 Q h1 (pc + 3) vs (rest)) (kx : ∀ (ci q : Nat) (h1 : PH) (fs : List Value), h1.1 q = some (.inr (ci, fs)) → K (.inl (ci, q)) h1 = some o → PX Γ I D h0 Q h1 pc vs q) : PF Γ I D h0 Q h pc vs (va_rf r :: rest) := by
  obtain ⟨cc, nL, own, rt, xt, fr, lo, nm⟩ := I
  cases hI
  exact j_xVv (n := 0) (y := yX8_statements) (cc2 := cX8_statements) (As := []) (C := RX8) (ci := 7) rfl (lw_V q926 q928 qs4 q118 q929) hyV_X8_statements hfr hlo rfl hW hd (c_X8_statements r) hf _ rfl kk kx
theorem kc_X8_182 {Γ : GX} {I : MI} {D : va_G} {h0 : PH} {Q : State → Prop} {h : PH} {pc : Nat} {vs : List (Option Value)} {rest : List Value} {β : Type} {o : β} {r : Option Nat}  {K : ((Int32) → PH → Option β)} (hI : I.2.2.1 = RX8) (hfr : Nat.ble 1 I.2.2.2.2.2.1 = true) (hlo : Nat.ble 20 I.2.2.2.2.2.2.1 = true) (hW : (rest.map fun v => v.category).sum ≤ 8) (hd : decode I.1 pc = .ok (.invokeinterface 182 1, 5)) (hf : rv_ h r 19 (cl_ (f_J2_isEmpty r h) K) = some o) (kk : ∀ (x : Int32) (h1 : PH), K x h1 = some o → PF Γ I D h0 Q h1 (pc + 5) vs (.int x :: rest)) : PF Γ I D h0 Q h pc vs (va_rf r :: rest) := by
  obtain ⟨cc, nL, own, rt, xt, fr, lo, nm⟩ := I
  cases hI
  exact j_cFi (n := 0) (y := yJ2_isEmpty) (cc2 := cJ2_isEmpty) (As := []) (C := RJ2) (x9 := ⟨"java/util/List", "isEmpty", "()Z"⟩) (ci := 19) rfl (by decide +kernel) (lw_F q1186 q1189 q1191 q96 q1193) (by decide +kernel) hfr hlo rfl hW hd (c_J2_isEmpty r) hf _ rfl kk
theorem kc_X8_188 {Γ : GX} {I : MI} {D : va_G} {h0 : PH} {Q : State → Prop} {h : PH} {pc : Nat} {vs : List (Option Value)} {rest : List Value} {β : Type} {o : β} {a : Nat} {p0 : Int32} {K : ((Unit) → PH → Option β)} (hI : I.2.2.1 = RX8) (hfr : Nat.ble 5 I.2.2.2.2.2.1 = true) (hlo : Nat.ble 110 I.2.2.2.2.2.2.1 = true) (hW : (rest.map fun v => v.category).sum ≤ 8) (hd : decode I.1 pc = .ok (.invokespecial 188, 3)) (hf : cl_ (f_X13_init a p0 h) K = some o) (kk : ∀ (x : Unit) (h1 : PH), K x h1 = some o → PF Γ I D h0 Q h1 (pc + 3) vs (rest)) : PF Γ I D h0 Q h pc vs (.int p0 :: va_rf (some a) :: rest) := by
  obtain ⟨cc, nL, own, rt, xt, fr, lo, nm⟩ := I
  cases hI
  exact j_cIv (n := 1) (y := yX13_init) (cc2 := cX13_init) (As := [.int p0]) (lw_meth q1204) q123 q1202 q1203 rfl hyS_X13_init hfr hlo rfl hW hd (c_X13_init a p0) ⟨_, rfl⟩ hf _ rfl kk
theorem kc_X8_191 {Γ : GX} {I : MI} {D : va_G} {h0 : PH} {Q : State → Prop} {h : PH} {pc : Nat} {vs : List (Option Value)} {rest : List Value} {β : Type} {o : β} {a : Nat} {p0 : Option Nat} {K : ((Unit) → PH → Option β)} (hI : I.2.2.1 = RX8) (hfr : Nat.ble 4 I.2.2.2.2.2.1 = true) (hlo : Nat.ble 89 I.2.2.2.2.2.2.1 = true) (hW : (rest.map fun v => v.category).sum ≤ 8) (hd : decode I.1 pc = .ok (.invokespecial 191, 3)) (hf : cl_ (f_X14_init a p0 h) K = some o) (kk : ∀ (x : Unit) (h1 : PH), K x h1 = some o → PF Γ I D h0 Q h1 (pc + 3) vs (rest)) : PF Γ I D h0 Q h pc vs (va_rf p0 :: va_rf (some a) :: rest) := by
  obtain ⟨cc, nL, own, rt, xt, fr, lo, nm⟩ := I
  cases hI
  exact j_cIv (n := 1) (y := yX14_init) (cc2 := cX14_init) (As := [va_rf p0]) (lw_meth q1220) q124 q1218 q1219 rfl hyS_X14_init hfr hlo rfl hW hd (c_X14_init a p0) ⟨_, rfl⟩ hf _ rfl kk
abbrev mi_X8_configuration : MI := (cX8_configuration, 2, RX8, (Option.some (FieldType.object "LeaderLeases$Configuration")), tableOf [(0, 38, 39, 72), (0, 38, 39, 85), (0, 38, 49, 112), (0, 38, 49, 186)], 9, 237, "configuration")
def f_X8_configuration (r0 : Option Nat) (h0 : PH) : Option (((Nat × Nat) ⊕ Option Nat) × PH) := rv_ h0 r0 7 (cl_ (f_X8_statements r0 h0) fun z9 h1 => match z9 with | .inl (ci9, q9) => ((if ci9 = 9 then (if pbase h1 ≤ q9 then (nO h1 12 6 [.null, .null, .null, .null, .null, .int 0] fun a24 h25 => cl_ (f_X14_init a24 (some q9) h25) fun _u h26 => th_ h26 (some a24) fun ci9 q9 => xo_ h26 ci9 q9) else none) else (if ci9 = 10 then (if pbase h1 ≤ q9 then (nO h1 12 6 [.null, .null, .null, .null, .null, .int 0] fun a27 h28 => cl_ (f_X14_init a27 (some q9) h28) fun _u h29 => th_ h29 (some a27) fun ci9 q9 => xo_ h29 ci9 q9) else none) else (if ci9 = 8 then (if pbase h1 ≤ q9 then (nO h1 12 6 [.null, .null, .null, .null, .null, .int 0] fun a30 h31 => cl_ (f_X14_init a30 (some q9) h31) fun _u h32 => th_ h32 (some a30) fun ci9 q9 => xo_ h32 ci9 q9) else none) else (if ci9 = 11 then (if pbase h1 ≤ q9 then (nO h1 12 6 [.null, .null, .null, .null, .null, .int 0] fun a33 h34 => cl_ (f_X14_init a33 (some q9) h34) fun _u h35 => th_ h35 (some a33) fun ci9 q9 => xo_ h35 ci9 q9) else none) else none))))) | .inr _u => (gR h1 r0 7 0 fun r2 => gRN h1 r2 2 1 fun r3 => rv_ h1 r3 19 (cl_ (f_J2_isEmpty r3 h1) fun v5 h4 => (if v5 = 0 then (gR h4 r0 7 0 fun r6 => some (.inr r6, h4)) else (nO h4 11 7 [.int 0, .null, .null, .null, .null, .null, .int 0] fun a7 h8 => gR h8 r0 7 3 fun r9 => gIN h8 r9 0 1 fun v10 => cl_ (f_X13_init a7 v10 h8) fun _u h11 => th_ h11 (some a7) fun ci9 q9 => (if ci9 = 9 then (if pbase h11 ≤ q9 then (nO h11 12 6 [.null, .null, .null, .null, .null, .int 0] fun a12 h13 => cl_ (f_X14_init a12 (some q9) h13) fun _u h14 => th_ h14 (some a12) fun ci9 q9 => xo_ h14 ci9 q9) else none) else (if ci9 = 10 then (if pbase h11 ≤ q9 then (nO h11 12 6 [.null, .null, .null, .null, .null, .int 0] fun a15 h16 => cl_ (f_X14_init a15 (some q9) h16) fun _u h17 => th_ h17 (some a15) fun ci9 q9 => xo_ h17 ci9 q9) else none) else (if ci9 = 8 then (if pbase h11 ≤ q9 then (nO h11 12 6 [.null, .null, .null, .null, .null, .int 0] fun a18 h19 => cl_ (f_X14_init a18 (some q9) h19) fun _u h20 => th_ h20 (some a18) fun ci9 q9 => xo_ h20 ci9 q9) else none) else (if ci9 = 11 then (if pbase h11 ≤ q9 then (nO h11 12 6 [.null, .null, .null, .null, .null, .int 0] fun a21 h22 => cl_ (f_X14_init a21 (some q9) h22) fun _u h23 => th_ h23 (some a21) fun ci9 q9 => xo_ h23 ci9 q9) else none) else none)))))))))
theorem hyS_X8_configuration : yX8_configuration.cls ≠ "java/lang/invoke/MethodHandle" ∧ yX8_configuration.cls ≠ "java/lang/invoke/VarHandle" ∧ (parseMethodDescriptor yX8_configuration.desc).map (fun d => d.parameters.length) = some 0 := by decide +kernel
theorem hyV_X8_configuration : yX8_configuration.cls = RX8 ∧ yX8_configuration.cls ≠ "java/lang/invoke/MethodHandle" ∧ yX8_configuration.cls ≠ "java/lang/invoke/VarHandle" ∧ (parseMethodDescriptor yX8_configuration.desc).map (fun d => d.parameters.length) = some 0 := by decide +kernel
theorem c_X8_configuration {D : va_G} (r0 : Option Nat) {h0 : PH} (l : Launch) (hl : l.stackTraces = false) (x : ((Nat × Nat) ⊕ Option Nat)) (h1 : PH) (hf : f_X8_configuration r0 h0 = some (x, h1)) : CT l D yX8_configuration (wsW_ yX8_configuration cX8_configuration 2 (Option.some (FieldType.object "LeaderLeases$Configuration")) [(0, 38, 39, 72), (0, 38, 39, 85), (0, 38, 49, 112), (0, 38, 49, 186)]) 9 237 [va_rf r0] h0 (oxr x) h1 := by
  refine ct_ofH hl [some (va_rf r0), none] (by decide) (by rw [lgl]; simp [va_rf_cat, cat_i, cat_l]) (by simp [lv_args, vsL, va_rf_cat, cat_i, cat_l]) (fun Γ => ?_)
  obtain ⟨o, ho⟩ : ∃ o : ((Nat × Nat) ⊕ Option Nat) × PH, o = (x, h1) := ⟨_, rfl⟩
  rw [← ho] at hf
  have e1 : x = o.1 := by rw [ho]
  have e2 : h1 = o.2 := by rw [ho]
  subst e1 e2
  clear ho
  show PF Γ mi_X8_configuration D h0 (QR Γ D h0 (oxr o.1) o.2) h0 0 [some (va_rf r0), none] []
  unfold f_X8_configuration at hf
  refine j_aload_n 0 dX8_configuration_0 rfl rfl ?_
  refine kc_X8_179 rfl rfl rfl (by decide) dX8_configuration_1 hf (fun _u h1 hf => ?_) (fun ci9 q9 h1 fs9 he9 hf => ?_)
  · refine j_aload_n 0 dX8_configuration_4 rfl rfl ?_
    refine j_gR (ci := 7) (k := 0) rfl in_X8 rfl q905 dX8_configuration_5 hf (fun r2 hf => ?_)
    refine j_gRN (ci := 2) (k := 1) rfl in_X3 rfl q524 dX8_configuration_8 hf (fun r3 hf => ?_)
    refine kc_X8_182 rfl rfl rfl (by decide) dX8_configuration_11 hf (fun v5 h4 hf => ?_)
    refine j_if_eq 34 dX8_configuration_16 (by decide) hf (fun c_ hf => ?_) (fun c_ hf => ?_)
    · refine j_aload_n 0 dX8_configuration_34 rfl rfl ?_
      refine j_gR (ci := 7) (k := 0) rfl in_X8 rfl q905 dX8_configuration_35 hf (fun r6 hf => ?_)
      have e9 := Option.some.inj hf
      subst e9
      exact j_aret rfl (Or.inl ⟨_, rfl⟩) dX8_configuration_38
    · refine j_nO (ci := 11) tyX13 tyX13_ok rfl in_X13 q925 q1194 q123 (by decide) dX8_configuration_19 hf (fun a7 h8 hf => ?_)
      refine j_dup dX8_configuration_22 (va_rf_cat _) ?_
      refine j_aload_n 0 dX8_configuration_23 rfl rfl ?_
      refine j_gR (ci := 7) (k := 3) rfl in_X8 rfl q908 dX8_configuration_24 hf (fun r9 hf => ?_)
      refine j_gIN (ci := 0) (k := 1) rfl in_X1 rfl q874 dX8_configuration_27 hf (fun v10 hf => ?_)
      refine kc_X8_188 rfl rfl rfl (by simp [va_rf_cat, cat_i, cat_l]) dX8_configuration_30 hf (fun _u h11 hf => ?_)
      refine j_athrow dX8_configuration_33 hf (fun ci9 q9 fs9 he9 hf => ?_)
      by_cases x72 : ci9 = 9
      · subst x72
        replace hf := if_t hf rfl
        obtain ⟨hb9, hf⟩ := if_none hf
        refine j_catch (ci := 9) [] ⟨0, 38, 39, 72⟩ [⟨0, 38, 39, 85⟩, ⟨0, 38, 49, 112⟩, ⟨0, 38, 49, 186⟩] rfl (fun _ h => absurd h List.not_mem_nil) rfl (by decide) q922 q1145 hb9 he9 ?_
        refine j_astore_n 1 [some (va_rf r0), some (va_rf (some q9))] dX8_configuration_39 rfl (cz (va_rf_cat _)) rfl rfl ?_
        refine j_nO (ci := 12) tyX14 tyX14_ok rfl in_X14 q1209 q1210 q124 (by decide) dX8_configuration_40 hf (fun a12 h13 hf => ?_)
        refine j_dup dX8_configuration_43 (va_rf_cat _) ?_
        refine j_aload_n 1 dX8_configuration_44 rfl rfl ?_
        refine kc_X8_191 rfl rfl rfl (by simp [va_rf_cat, cat_i, cat_l]) dX8_configuration_45 hf (fun _u h14 hf => ?_)
        refine j_athrow dX8_configuration_48 hf (fun ci9 q9 fs9 he9 hf => ?_)
        obtain ⟨hb9, hf⟩ := xo_in hf
        subst hf
        exact j_out (by decide) hb9 he9
      · replace hf := if_f hf x72
        by_cases x85 : ci9 = 10
        · subst x85
          replace hf := if_t hf rfl
          obtain ⟨hb9, hf⟩ := if_none hf
          refine j_catch (ci := 10) [⟨0, 38, 39, 72⟩] ⟨0, 38, 39, 85⟩ [⟨0, 38, 49, 112⟩, ⟨0, 38, 49, 186⟩] rfl (List.forall_mem_cons.mpr ⟨Or.inr ⟨by decide, _, q922, by decide +kernel⟩, fun _ h => absurd h List.not_mem_nil⟩) rfl (by decide) q923 q1165 hb9 he9 ?_
          refine j_astore_n 1 [some (va_rf r0), some (va_rf (some q9))] dX8_configuration_39 rfl (cz (va_rf_cat _)) rfl rfl ?_
          refine j_nO (ci := 12) tyX14 tyX14_ok rfl in_X14 q1209 q1210 q124 (by decide) dX8_configuration_40 hf (fun a15 h16 hf => ?_)
          refine j_dup dX8_configuration_43 (va_rf_cat _) ?_
          refine j_aload_n 1 dX8_configuration_44 rfl rfl ?_
          refine kc_X8_191 rfl rfl rfl (by simp [va_rf_cat, cat_i, cat_l]) dX8_configuration_45 hf (fun _u h17 hf => ?_)
          refine j_athrow dX8_configuration_48 hf (fun ci9 q9 fs9 he9 hf => ?_)
          obtain ⟨hb9, hf⟩ := xo_in hf
          subst hf
          exact j_out (by decide) hb9 he9
        · replace hf := if_f hf x85
          by_cases x112 : ci9 = 8
          · subst x112
            replace hf := if_t hf rfl
            obtain ⟨hb9, hf⟩ := if_none hf
            refine j_catch (ci := 8) [⟨0, 38, 39, 72⟩, ⟨0, 38, 39, 85⟩] ⟨0, 38, 49, 112⟩ [⟨0, 38, 49, 186⟩] rfl (List.forall_mem_cons.mpr ⟨Or.inr ⟨by decide, _, q922, by decide +kernel⟩, List.forall_mem_cons.mpr ⟨Or.inr ⟨by decide, _, q923, by decide +kernel⟩, fun _ h => absurd h List.not_mem_nil⟩⟩) rfl (by decide) q924 q1041 hb9 he9 ?_
            refine j_astore_n 1 [some (va_rf r0), some (va_rf (some q9))] dX8_configuration_49 rfl (cz (va_rf_cat _)) rfl rfl ?_
            refine j_nO (ci := 12) tyX14 tyX14_ok rfl in_X14 q1209 q1210 q124 (by decide) dX8_configuration_50 hf (fun a18 h19 hf => ?_)
            refine j_dup dX8_configuration_53 (va_rf_cat _) ?_
            refine j_aload_n 1 dX8_configuration_54 rfl rfl ?_
            refine kc_X8_191 rfl rfl rfl (by simp [va_rf_cat, cat_i, cat_l]) dX8_configuration_55 hf (fun _u h20 hf => ?_)
            refine j_athrow dX8_configuration_58 hf (fun ci9 q9 fs9 he9 hf => ?_)
            obtain ⟨hb9, hf⟩ := xo_in hf
            subst hf
            exact j_out (by decide) hb9 he9
          · replace hf := if_f hf x112
            by_cases x186 : ci9 = 11
            · subst x186
              replace hf := if_t hf rfl
              obtain ⟨hb9, hf⟩ := if_none hf
              refine j_catch (ci := 11) [⟨0, 38, 39, 72⟩, ⟨0, 38, 39, 85⟩, ⟨0, 38, 49, 112⟩] ⟨0, 38, 49, 186⟩ [] rfl (List.forall_mem_cons.mpr ⟨Or.inr ⟨by decide, _, q922, by decide +kernel⟩, List.forall_mem_cons.mpr ⟨Or.inr ⟨by decide, _, q923, by decide +kernel⟩, List.forall_mem_cons.mpr ⟨Or.inr ⟨by decide, _, q924, by decide +kernel⟩, fun _ h => absurd h List.not_mem_nil⟩⟩⟩) rfl (by decide) q925 q1195 hb9 he9 ?_
              refine j_astore_n 1 [some (va_rf r0), some (va_rf (some q9))] dX8_configuration_49 rfl (cz (va_rf_cat _)) rfl rfl ?_
              refine j_nO (ci := 12) tyX14 tyX14_ok rfl in_X14 q1209 q1210 q124 (by decide) dX8_configuration_50 hf (fun a21 h22 hf => ?_)
              refine j_dup dX8_configuration_53 (va_rf_cat _) ?_
              refine j_aload_n 1 dX8_configuration_54 rfl rfl ?_
              refine kc_X8_191 rfl rfl rfl (by simp [va_rf_cat, cat_i, cat_l]) dX8_configuration_55 hf (fun _u h23 hf => ?_)
              refine j_athrow dX8_configuration_58 hf (fun ci9 q9 fs9 he9 hf => ?_)
              obtain ⟨hb9, hf⟩ := xo_in hf
              subst hf
              exact j_out (by decide) hb9 he9
            · replace hf := if_f hf x186
              cases hf
  · by_cases x72 : ci9 = 9
    · subst x72
      replace hf := if_t hf rfl
      obtain ⟨hb9, hf⟩ := if_none hf
      refine j_catch (ci := 9) [] ⟨0, 38, 39, 72⟩ [⟨0, 38, 39, 85⟩, ⟨0, 38, 49, 112⟩, ⟨0, 38, 49, 186⟩] rfl (fun _ h => absurd h List.not_mem_nil) rfl (by decide) q922 q1145 hb9 he9 ?_
      refine j_astore_n 1 [some (va_rf r0), some (va_rf (some q9))] dX8_configuration_39 rfl (cz (va_rf_cat _)) rfl rfl ?_
      refine j_nO (ci := 12) tyX14 tyX14_ok rfl in_X14 q1209 q1210 q124 (by decide) dX8_configuration_40 hf (fun a24 h25 hf => ?_)
      refine j_dup dX8_configuration_43 (va_rf_cat _) ?_
      refine j_aload_n 1 dX8_configuration_44 rfl rfl ?_
      refine kc_X8_191 rfl rfl rfl (by simp [va_rf_cat, cat_i, cat_l]) dX8_configuration_45 hf (fun _u h26 hf => ?_)
      refine j_athrow dX8_configuration_48 hf (fun ci9 q9 fs9 he9 hf => ?_)
      obtain ⟨hb9, hf⟩ := xo_in hf
      subst hf
      exact j_out (by decide) hb9 he9
    · replace hf := if_f hf x72
      by_cases x85 : ci9 = 10
      · subst x85
        replace hf := if_t hf rfl
        obtain ⟨hb9, hf⟩ := if_none hf
        refine j_catch (ci := 10) [⟨0, 38, 39, 72⟩] ⟨0, 38, 39, 85⟩ [⟨0, 38, 49, 112⟩, ⟨0, 38, 49, 186⟩] rfl (List.forall_mem_cons.mpr ⟨Or.inr ⟨by decide, _, q922, by decide +kernel⟩, fun _ h => absurd h List.not_mem_nil⟩) rfl (by decide) q923 q1165 hb9 he9 ?_
        refine j_astore_n 1 [some (va_rf r0), some (va_rf (some q9))] dX8_configuration_39 rfl (cz (va_rf_cat _)) rfl rfl ?_
        refine j_nO (ci := 12) tyX14 tyX14_ok rfl in_X14 q1209 q1210 q124 (by decide) dX8_configuration_40 hf (fun a27 h28 hf => ?_)
        refine j_dup dX8_configuration_43 (va_rf_cat _) ?_
        refine j_aload_n 1 dX8_configuration_44 rfl rfl ?_
        refine kc_X8_191 rfl rfl rfl (by simp [va_rf_cat, cat_i, cat_l]) dX8_configuration_45 hf (fun _u h29 hf => ?_)
        refine j_athrow dX8_configuration_48 hf (fun ci9 q9 fs9 he9 hf => ?_)
        obtain ⟨hb9, hf⟩ := xo_in hf
        subst hf
        exact j_out (by decide) hb9 he9
      · replace hf := if_f hf x85
        by_cases x112 : ci9 = 8
        · subst x112
          replace hf := if_t hf rfl
          obtain ⟨hb9, hf⟩ := if_none hf
          refine j_catch (ci := 8) [⟨0, 38, 39, 72⟩, ⟨0, 38, 39, 85⟩] ⟨0, 38, 49, 112⟩ [⟨0, 38, 49, 186⟩] rfl (List.forall_mem_cons.mpr ⟨Or.inr ⟨by decide, _, q922, by decide +kernel⟩, List.forall_mem_cons.mpr ⟨Or.inr ⟨by decide, _, q923, by decide +kernel⟩, fun _ h => absurd h List.not_mem_nil⟩⟩) rfl (by decide) q924 q1041 hb9 he9 ?_
          refine j_astore_n 1 [some (va_rf r0), some (va_rf (some q9))] dX8_configuration_49 rfl (cz (va_rf_cat _)) rfl rfl ?_
          refine j_nO (ci := 12) tyX14 tyX14_ok rfl in_X14 q1209 q1210 q124 (by decide) dX8_configuration_50 hf (fun a30 h31 hf => ?_)
          refine j_dup dX8_configuration_53 (va_rf_cat _) ?_
          refine j_aload_n 1 dX8_configuration_54 rfl rfl ?_
          refine kc_X8_191 rfl rfl rfl (by simp [va_rf_cat, cat_i, cat_l]) dX8_configuration_55 hf (fun _u h32 hf => ?_)
          refine j_athrow dX8_configuration_58 hf (fun ci9 q9 fs9 he9 hf => ?_)
          obtain ⟨hb9, hf⟩ := xo_in hf
          subst hf
          exact j_out (by decide) hb9 he9
        · replace hf := if_f hf x112
          by_cases x186 : ci9 = 11
          · subst x186
            replace hf := if_t hf rfl
            obtain ⟨hb9, hf⟩ := if_none hf
            refine j_catch (ci := 11) [⟨0, 38, 39, 72⟩, ⟨0, 38, 39, 85⟩, ⟨0, 38, 49, 112⟩] ⟨0, 38, 49, 186⟩ [] rfl (List.forall_mem_cons.mpr ⟨Or.inr ⟨by decide, _, q922, by decide +kernel⟩, List.forall_mem_cons.mpr ⟨Or.inr ⟨by decide, _, q923, by decide +kernel⟩, List.forall_mem_cons.mpr ⟨Or.inr ⟨by decide, _, q924, by decide +kernel⟩, fun _ h => absurd h List.not_mem_nil⟩⟩⟩) rfl (by decide) q925 q1195 hb9 he9 ?_
            refine j_astore_n 1 [some (va_rf r0), some (va_rf (some q9))] dX8_configuration_49 rfl (cz (va_rf_cat _)) rfl rfl ?_
            refine j_nO (ci := 12) tyX14 tyX14_ok rfl in_X14 q1209 q1210 q124 (by decide) dX8_configuration_50 hf (fun a33 h34 hf => ?_)
            refine j_dup dX8_configuration_53 (va_rf_cat _) ?_
            refine j_aload_n 1 dX8_configuration_54 rfl rfl ?_
            refine kc_X8_191 rfl rfl rfl (by simp [va_rf_cat, cat_i, cat_l]) dX8_configuration_55 hf (fun _u h35 hf => ?_)
            refine j_athrow dX8_configuration_58 hf (fun ci9 q9 fs9 he9 hf => ?_)
            obtain ⟨hb9, hf⟩ := xo_in hf
            subst hf
            exact j_out (by decide) hb9 he9
          · replace hf := if_f hf x186
            cases hf
theorem kc_X1_85 {Γ : GX} {I : MI} {D : va_G} {h0 : PH} {Q : State → Prop} {h : PH} {pc : Nat} {vs : List (Option Value)} {rest : List Value} {β : Type} {o : β} {a : Nat} {p0 : Option Nat} {K : ((Unit) → PH → Option β)} (hI : I.2.2.1 = RX1) (hfr : Nat.ble 6 I.2.2.2.2.2.1 = true) (hlo : Nat.ble 122 I.2.2.2.2.2.2.1 = true) (hW : (rest.map fun v => v.category).sum ≤ 8) (hd : decode I.1 pc = .ok (.invokespecial 85, 3)) (hf : cl_ (f_X8_init a p0 h) K = some o) (kk : ∀ (x : Unit) (h1 : PH), K x h1 = some o → PF Γ I D h0 Q h1 (pc + 3) vs (rest)) : PF Γ I D h0 Q h pc vs (va_rf p0 :: va_rf (some a) :: rest) := by
  obtain ⟨cc, nL, own, rt, xt, fr, lo, nm⟩ := I
  cases hI
  exact j_cINv (n := 1) (y := yX8_init) (cc2 := cX8_init) (As := [va_rf p0]) (lw_meth q899) q118 q897 q898 rfl hyS_X8_init hfr hlo rfl hW hd (c_X8_init a p0) hf _ rfl kk
theorem kc_X1_88 {Γ : GX} {I : MI} {D : va_G} {h0 : PH} {Q : State → Prop} {h : PH} {pc : Nat} {vs : List (Option Value)} {rest : List Value} {β : Type} {o : β} {r : Option Nat}  {K : (((Nat × Nat) ⊕ Option Nat) → PH → Option β)} (hI : I.2.2.1 = RX1) (hfr : Nat.ble 10 I.2.2.2.2.2.1 = true) (hlo : Nat.ble 258 I.2.2.2.2.2.2.1 = true) (hW : (rest.map fun v => v.category).sum ≤ 8) (hd : decode I.1 pc = .ok (.invokevirtual 88, 3)) (hf : rv_ h r 7 (cl_ (f_X8_configuration r h) K) = some o) (kk : ∀ (x : Option Nat) (h1 : PH), K (.inr x) h1 = some o → PF Γ I D h0 Q h1 (pc + 3) vs (va_rf x :: rest)) (kx : ∀ (ci q : Nat) (h1 : PH) (fs : List Value), h1.1 q = some (.inr (ci, fs)) → K (.inl (ci, q)) h1 = some o → PX Γ I D h0 Q h1 pc vs q) : PF Γ I D h0 Q h pc vs (va_rf r :: rest) := by
  obtain ⟨cc, nL, own, rt, xt, fr, lo, nm⟩ := I
  cases hI
  exact j_xVWr (n := 0) (y := yX8_configuration) (cc2 := cX8_configuration) (As := []) (C := RX8) (ci := 7) rfl (lw_VW q918 q919 q920 q118 q921) hyV_X8_configuration hfr hlo rfl hW hd (c_X8_configuration r) hf _ rfl kk kx
theorem kc_X1_96 {Γ : GX} {I : MI} {D : va_G} {h0 : PH} {Q : State → Prop} {h : PH} {pc : Nat} {vs : List (Option Value)} {rest : List Value} {β : Type} {o : β} {r : Option Nat}  {K : ((Int32) → PH → Option β)} (hI : I.2.2.1 = RX1) (hfr : Nat.ble 2 I.2.2.2.2.2.1 = true) (hlo : Nat.ble 45 I.2.2.2.2.2.2.1 = true) (hW : (rest.map fun v => v.category).sum ≤ 8) (hd : decode I.1 pc = .ok (.invokevirtual 96, 3)) (hf : rv_ h r 12 (cl_ (f_X14_number r h) K) = some o) (kk : ∀ (x : Int32) (h1 : PH), K x h1 = some o → PF Γ I D h0 Q h1 (pc + 3) vs (.int x :: rest)) : PF Γ I D h0 Q h pc vs (va_rf r :: rest) := by
  obtain ⟨cc, nL, own, rt, xt, fr, lo, nm⟩ := I
  cases hI
  exact j_cVi (n := 0) (y := yX14_number) (cc2 := cX14_number) (As := []) (C := RX14) (ci := 12) rfl (lw_V q1224 q1225 q1226 q124 q1227) hyV_X14_number hfr hlo rfl hW hd (c_X14_number r) hf _ rfl kk
theorem kc_X1_100 {Γ : GX} {I : MI} {D : va_G} {h0 : PH} {Q : State → Prop} {h : PH} {pc : Nat} {vs : List (Option Value)} {rest : List Value} {β : Type} {o : β} {r : Option Nat}  {K : ((Int32) → PH → Option β)} (hI : I.2.2.1 = RX1) (hfr : Nat.ble 2 I.2.2.2.2.2.1 = true) (hlo : Nat.ble 44 I.2.2.2.2.2.2.1 = true) (hW : (rest.map fun v => v.category).sum ≤ 8) (hd : decode I.1 pc = .ok (.invokevirtual 100, 3)) (hf : rv_ h r 12 (cl_ (f_X14_position r h) K) = some o) (kk : ∀ (x : Int32) (h1 : PH), K x h1 = some o → PF Γ I D h0 Q h1 (pc + 3) vs (.int x :: rest)) : PF Γ I D h0 Q h pc vs (va_rf r :: rest) := by
  obtain ⟨cc, nL, own, rt, xt, fr, lo, nm⟩ := I
  cases hI
  exact j_cVi (n := 0) (y := yX14_position) (cc2 := cX14_position) (As := []) (C := RX14) (ci := 12) rfl (lw_V q1237 q1238 q1239 q124 q1240) hyV_X14_position hfr hlo rfl hW hd (c_X14_position r) hf _ rfl kk
abbrev mi_X1_load : MI := (cX1_load, 4, RX1, (Option.some FieldType.int), tableOf [(0, 36, 43, 94), (0, 36, 67, 0), (43, 60, 67, 0)], 10, 258, "load")
def f_X1_load (r0 : Option Nat) (h0 : PH) : Option (Int32 × PH) := nO h0 1 22 [.null, .null, .null, .null, .null, .null, .null, .null, .int 0, .int 0, .int 0, .int 0, .int 0, .int 0, .int 0, .int 0, .int 0, .int 0, .int 0, .int 0, .int 0, .int 0] fun a1 h2 => nO h2 7 4 [.null, .null, .int 0, .null] fun a3 h4 => cl_ (f_X8_init a3 r0 h4) fun _u h5 => rv_ h5 (some a3) 7 (cl_ (f_X8_configuration (some a3) h5) fun z9 h6 => match z9 with | .inl (ci9, q9) => ((if ci9 = 12 then (if pbase h6 ≤ q9 then (rv_ h6 (some q9) 12 (cl_ (f_X14_number (some q9) h6) fun v16 h15 => pV h15 r0 0 2 (.int v16) fun h17 => rv_ h17 (some q9) 12 (cl_ (f_X14_position (some q9) h17) fun v19 h18 => pV h18 r0 0 1 (.int (0 : Int32)) fun h20 => some (((-100 : Int32) - v19), h20)))) else none) else none)) | .inr r7 => (cl_ (f_X2_init a1 r7 h6) fun _u h8 => pV h8 r0 0 3 (va_rf (some a1)) fun h9 => pV h9 r0 0 2 (.int (0 : Int32)) fun h10 => gR h10 r0 0 3 fun r11 => gRN h10 r11 1 1 fun r12 => aN h10 r12 5 fun v13 => pV h10 r0 0 1 (.int (0 : Int32)) fun h14 => some (v13, h14)))
theorem hyS_X1_load : yX1_load.cls ≠ "java/lang/invoke/MethodHandle" ∧ yX1_load.cls ≠ "java/lang/invoke/VarHandle" ∧ (parseMethodDescriptor yX1_load.desc).map (fun d => d.parameters.length) = some 0 := by decide +kernel
theorem hyV_X1_load : yX1_load.cls = RX1 ∧ yX1_load.cls ≠ "java/lang/invoke/MethodHandle" ∧ yX1_load.cls ≠ "java/lang/invoke/VarHandle" ∧ (parseMethodDescriptor yX1_load.desc).map (fun d => d.parameters.length) = some 0 := by decide +kernel
theorem c_X1_load {D : va_G} (r0 : Option Nat) {h0 : PH} (l : Launch) (hl : l.stackTraces = false) (x : Int32) (h1 : PH) (hf : f_X1_load r0 h0 = some (x, h1)) : CT l D yX1_load (wsW_ yX1_load cX1_load 4 (Option.some FieldType.int) [(0, 36, 43, 94), (0, 36, 67, 0), (43, 60, 67, 0)]) 10 258 [va_rf r0] h0 (ovi x) h1 := by
  refine ct_ofH hl [some (va_rf r0), none, none, none] (by decide) (by rw [lgl]; simp [va_rf_cat, cat_i, cat_l]) (by simp [lv_args, vsL, va_rf_cat, cat_i, cat_l]) (fun Γ => ?_)
  obtain ⟨o, ho⟩ : ∃ o : Int32 × PH, o = (x, h1) := ⟨_, rfl⟩
  rw [← ho] at hf
  have e1 : x = o.1 := by rw [ho]
  have e2 : h1 = o.2 := by rw [ho]
  subst e1 e2
  clear ho
  show PF Γ mi_X1_load D h0 (QR Γ D h0 (ovi o.1) o.2) h0 0 [some (va_rf r0), none, none, none] []
  unfold f_X1_load at hf
  refine j_aload_n 0 dX1_load_0 rfl rfl ?_
  refine j_nO (ci := 1) tyX2 tyX2_ok rfl in_X2 q143 q144 q91 (by decide) dX1_load_1 hf (fun a1 h2 hf => ?_)
  refine j_dup dX1_load_4 (va_rf_cat _) ?_
  refine j_nO (ci := 7) tyX8 tyX8_ok rfl in_X8 q895 q896 q118 (by decide) dX1_load_5 hf (fun a3 h4 hf => ?_)
  refine j_dup dX1_load_8 (va_rf_cat _) ?_
  refine j_aload_n 0 dX1_load_9 rfl rfl ?_
  refine kc_X1_85 rfl rfl rfl (by simp [va_rf_cat, cat_i, cat_l]) dX1_load_10 hf (fun _u h5 hf => ?_)
  refine kc_X1_88 rfl rfl rfl (by simp [va_rf_cat, cat_i, cat_l]) dX1_load_13 hf (fun r7 h6 hf => ?_) (fun ci9 q9 h6 fs9 he9 hf => ?_)
  · refine kc_X1_46 rfl rfl rfl (by simp [va_rf_cat, cat_i, cat_l]) dX1_load_16 hf (fun _u h8 hf => ?_)
    refine j_pV (ci := 0) (k := 3) tyX1 tyX1_ok nmX1 rfl in_X1 rfl q877 (Or.inl rfl) rfl (fit_o _ _) dX1_load_19 hf (fun h9 hf => ?_)
    refine j_aload_n 0 dX1_load_22 rfl rfl ?_
    refine j_iconst (0 : Int32) dX1_load_23 (by decide) ?_
    refine j_pV (ci := 0) (k := 2) tyX1 tyX1_ok nmX1 rfl in_X1 rfl q876 (Or.inl rfl) rfl (fit_i _) dX1_load_24 hf (fun h10 hf => ?_)
    refine j_aload_n 0 dX1_load_27 rfl rfl ?_
    refine j_gR (ci := 0) (k := 3) rfl in_X1 rfl q877 dX1_load_28 hf (fun r11 hf => ?_)
    refine j_gRN (ci := 1) (k := 1) rfl in_X2 rfl q789 dX1_load_31 hf (fun r12 hf => ?_)
    refine j_alen (t := 5) rfl dX1_load_34 hf (fun v13 hf => ?_)
    refine j_istore_n 1 [some (va_rf r0), some (.int v13), none, none] dX1_load_35 rfl (cz (va_rf_cat _)) rfl rfl ?_
    refine j_aload_n 0 dX1_load_36 rfl rfl ?_
    refine j_iconst (0 : Int32) dX1_load_37 (by decide) ?_
    refine j_pV (ci := 0) (k := 1) tyX1 tyX1_ok nmX1 rfl in_X1 rfl q875 (Or.inl rfl) rfl (fit_i _) dX1_load_38 hf (fun h14 hf => ?_)
    refine j_iload_n 1 dX1_load_41 rfl rfl ?_
    have e9 := Option.some.inj hf
    subst e9
    exact j_iret rfl dX1_load_42
  · by_cases x94 : ci9 = 12
    · subst x94
      replace hf := if_t hf rfl
      obtain ⟨hb9, hf⟩ := if_none hf
      refine j_catch (ci := 12) [] ⟨0, 36, 43, 94⟩ [⟨0, 36, 67, 0⟩, ⟨43, 60, 67, 0⟩] rfl (fun _ h => absurd h List.not_mem_nil) rfl (by decide) q894 q1211 hb9 he9 ?_
      refine j_astore_n 1 [some (va_rf r0), some (va_rf (some q9)), none, none] dX1_load_43 rfl (cz (va_rf_cat _)) rfl rfl ?_
      refine j_aload_n 0 dX1_load_44 rfl rfl ?_
      refine j_aload_n 1 dX1_load_45 rfl rfl ?_
      refine kc_X1_96 rfl rfl rfl (by simp [va_rf_cat, cat_i, cat_l]) dX1_load_46 hf (fun v16 h15 hf => ?_)
      refine j_pV (ci := 0) (k := 2) tyX1 tyX1_ok nmX1 rfl in_X1 rfl q876 (Or.inl rfl) rfl (fit_i _) dX1_load_49 hf (fun h17 hf => ?_)
      refine j_bipush (-100 : Int32) dX1_load_52 (by decide) ?_
      refine j_aload_n 1 dX1_load_54 rfl rfl ?_
      refine kc_X1_100 rfl rfl rfl (by simp [va_rf_cat, cat_i, cat_l]) dX1_load_55 hf (fun v19 h18 hf => ?_)
      refine j_isub dX1_load_58 ?_
      refine j_istore_n 2 [some (va_rf r0), some (va_rf (some q9)), some (.int ((-100 : Int32) - v19)), none] dX1_load_59 rfl (cz (va_rf_cat _)) rfl rfl ?_
      refine j_aload_n 0 dX1_load_60 rfl rfl ?_
      refine j_iconst (0 : Int32) dX1_load_61 (by decide) ?_
      refine j_pV (ci := 0) (k := 1) tyX1 tyX1_ok nmX1 rfl in_X1 rfl q875 (Or.inl rfl) rfl (fit_i _) dX1_load_62 hf (fun h20 hf => ?_)
      refine j_iload_n 2 dX1_load_65 rfl rfl ?_
      have e9 := Option.some.inj hf
      subst e9
      exact j_iret rfl dX1_load_66
    · replace hf := if_f hf x94
      cases hf
theorem kc_X1_330 {Γ : GX} {I : MI} {D : va_G} {h0 : PH} {Q : State → Prop} {h : PH} {pc : Nat} {vs : List (Option Value)} {rest : List Value} {β : Type} {o : β} {r : Option Nat} {p0 : Int32} {K : ((Int32) → PH → Option β)} (hI : I.2.2.1 = RX1) (hfr : Nat.ble 15 I.2.2.2.2.2.1 = true) (hlo : Nat.ble 374 I.2.2.2.2.2.2.1 = true) (hW : (rest.map fun v => v.category).sum ≤ 8) (hd : decode I.1 pc = .ok (.invokevirtual 330, 3)) (hf : rv_ h r 1 (cl_ (f_X2_nextLeader r p0 h) K) = some o) (kk : ∀ (x : Int32) (h1 : PH), K x h1 = some o → PF Γ I D h0 Q h1 (pc + 3) vs (.int x :: rest)) : PF Γ I D h0 Q h pc vs (.int p0 :: va_rf r :: rest) := by
  obtain ⟨cc, nL, own, rt, xt, fr, lo, nm⟩ := I
  cases hI
  exact j_cVi (n := 1) (y := yX2_nextLeader) (cc2 := cX2_nextLeader) (As := [.int p0]) (C := RX2) (ci := 1) rfl (lw_V q2069 q2070 q2071 q91 q2072) hyV_X2_nextLeader hfr hlo rfl hW hd (c_X2_nextLeader r p0) hf _ rfl kk
abbrev mi_X1_nextLeader : MI := (cX1_nextLeader, 3, RX1, (Option.some FieldType.int), [], 15, 374, "nextLeader")
def f_X1_nextLeader_B44 (t0 : Int32) (h : PH) : Option (((Nat × Nat) ⊕ Int32) × PH) := some (.inr t0, h)
theorem pf_X1_nextLeader_B44 {Γ : GX} {D : va_G} {h0 : PH} {o : ((Nat × Nat) ⊕ Int32) × PH} (t0 : Int32) (h : PH) (hf : f_X1_nextLeader_B44 t0 h = some o) : PF Γ mi_X1_nextLeader D h0 (QR Γ D h0 (oxi o.1) o.2) h 44 [none, none, none] [.int t0] := by
  have e9 := Option.some.inj hf
  subst e9
  exact j_iret rfl dX1_nextLeader_44
def f_X1_nextLeader (r0 : Option Nat) (p0 : Int32) (h0 : PH) : Option (((Nat × Nat) ⊕ Int32) × PH) := cl_ (f_X1_in (p0.toInt64) (1 : Int64) (5000 : Int64) h0) fun v2 h1 => cl_ (f_X1_check v2 h1) fun z9 h3 => match z9 with | .inl (ci9, q9) => (xo_ h3 ci9 q9) | .inr _u => (gR h3 r0 0 3 fun r4 => gIN h3 r4 1 8 fun v5 => (if (v5 + p0) ≤ (5000000 : Int32) then (gR h3 r0 0 3 fun r6 => rv_ h3 r6 1 (cl_ (f_X2_copy r6 h3) fun r8 h7 => rv_ h7 r8 1 (cl_ (f_X2_nextLeader r8 (v5 + p0) h7) fun v10 h9 => f_X1_nextLeader_B44 v10 h9))) else (f_X1_nextLeader_B44 (-5 : Int32) h3)))
theorem hyS_X1_nextLeader : yX1_nextLeader.cls ≠ "java/lang/invoke/MethodHandle" ∧ yX1_nextLeader.cls ≠ "java/lang/invoke/VarHandle" ∧ (parseMethodDescriptor yX1_nextLeader.desc).map (fun d => d.parameters.length) = some 1 := by decide +kernel
theorem hyV_X1_nextLeader : yX1_nextLeader.cls = RX1 ∧ yX1_nextLeader.cls ≠ "java/lang/invoke/MethodHandle" ∧ yX1_nextLeader.cls ≠ "java/lang/invoke/VarHandle" ∧ (parseMethodDescriptor yX1_nextLeader.desc).map (fun d => d.parameters.length) = some 1 := by decide +kernel
theorem c_X1_nextLeader {D : va_G} (r0 : Option Nat) (p0 : Int32) {h0 : PH} (l : Launch) (hl : l.stackTraces = false) (x : ((Nat × Nat) ⊕ Int32)) (h1 : PH) (hf : f_X1_nextLeader r0 p0 h0 = some (x, h1)) : CT l D yX1_nextLeader (ws_ yX1_nextLeader cX1_nextLeader 3 (Option.some FieldType.int)) 15 374 [va_rf r0, .int p0] h0 (oxi x) h1 := by
  refine ct_of hl [some (va_rf r0), some (.int p0), none] (by decide) (by rw [lgl]; simp [va_rf_cat, cat_i, cat_l]) (by simp [lv_args, vsL, va_rf_cat, cat_i, cat_l]) (fun Γ => ?_)
  obtain ⟨o, ho⟩ : ∃ o : ((Nat × Nat) ⊕ Int32) × PH, o = (x, h1) := ⟨_, rfl⟩
  rw [← ho] at hf
  have e1 : x = o.1 := by rw [ho]
  have e2 : h1 = o.2 := by rw [ho]
  subst e1 e2
  clear ho
  show PF Γ mi_X1_nextLeader D h0 (QR Γ D h0 (oxi o.1) o.2) h0 0 [some (va_rf r0), some (.int p0), none] []
  unfold f_X1_nextLeader at hf
  refine j_iload_n 1 dX1_nextLeader_0 rfl rfl ?_
  refine j_i2l dX1_nextLeader_1 ?_
  refine j_lconst (1 : Int64) dX1_nextLeader_2 (by decide) ?_
  refine j_ldc2 q1717 dX1_nextLeader_3 ?_
  refine kc_X1_64 rfl rfl rfl (by decide) dX1_nextLeader_6 hf (fun v2 h1 hf => ?_)
  refine kc_X1_73 rfl rfl rfl (by decide) dX1_nextLeader_9 hf (fun _u h3 hf => ?_) (fun ci9 q9 h3 fs9 he9 hf => ?_)
  · refine j_aload_n 0 dX1_nextLeader_12 rfl rfl ?_
    refine j_gR (ci := 0) (k := 3) rfl in_X1 rfl q877 dX1_nextLeader_13 hf (fun r4 hf => ?_)
    refine j_gIN (ci := 1) (k := 8) rfl in_X2 rfl q803 dX1_nextLeader_16 hf (fun v5 hf => ?_)
    refine j_iload_n 1 dX1_nextLeader_19 rfl rfl ?_
    refine j_iadd dX1_nextLeader_20 ?_
    refine j_istore_n 2 [some (va_rf r0), some (.int p0), some (.int (v5 + p0))] dX1_nextLeader_21 rfl (cz rfl) rfl rfl ?_
    refine j_iload_n 2 dX1_nextLeader_22 rfl rfl ?_
    refine j_ldc q1285 dX1_nextLeader_23 ?_
    refine j_icmp_le 33 dX1_nextLeader_25 (by decide) hf (fun c_ hf => ?_) (fun c_ hf => ?_)
    · refine j_aload_n 0 dX1_nextLeader_33 rfl rfl ?_
      refine j_gR (ci := 0) (k := 3) rfl in_X1 rfl q877 dX1_nextLeader_34 hf (fun r6 hf => ?_)
      refine kc_X1_326 rfl rfl rfl (by decide) dX1_nextLeader_37 hf (fun r8 h7 hf => ?_)
      refine j_iload_n 2 dX1_nextLeader_40 rfl rfl ?_
      refine kc_X1_330 rfl rfl rfl (by decide) dX1_nextLeader_41 hf (fun v10 h9 hf => ?_)
      refine j_weak [none, none, none] (Wk.s (Wk.s (Wk.s Wk.n))) ?_
      exact pf_X1_nextLeader_B44 v10 h9 hf
    · refine j_bipush (-5 : Int32) dX1_nextLeader_28 (by decide) ?_
      refine j_goto 44 dX1_nextLeader_30 (by decide) ?_
      refine j_weak [none, none, none] (Wk.s (Wk.s (Wk.s Wk.n))) ?_
      exact pf_X1_nextLeader_B44 (-5 : Int32) h3 hf
  · obtain ⟨hb9, hf⟩ := xo_in hf
    subst hf
    exact j_out (by decide) hb9 he9
theorem kc_X1_349 {Γ : GX} {I : MI} {D : va_G} {h0 : PH} {Q : State → Prop} {h : PH} {pc : Nat} {vs : List (Option Value)} {rest : List Value} {β : Type} {o : β} {r : Option Nat} {p0 : Int32} {K : (((Nat × Nat) ⊕ Int32) → PH → Option β)} (hI : I.2.2.1 = RX1) (hfr : Nat.ble 8 I.2.2.2.2.2.1 = true) (hlo : Nat.ble 130 I.2.2.2.2.2.2.1 = true) (hW : (rest.map fun v => v.category).sum ≤ 8) (hd : decode I.1 pc = .ok (.invokevirtual 349, 3)) (hf : rv_ h r 0 (cl_ (f_X1_until r p0 h) K) = some o) (kk : ∀ (x : Int32) (h1 : PH), K (.inr x) h1 = some o → PF Γ I D h0 Q h1 (pc + 3) vs (.int x :: rest)) (kx : ∀ (ci q : Nat) (h1 : PH) (fs : List Value), h1.1 q = some (.inr (ci, fs)) → K (.inl (ci, q)) h1 = some o → PX Γ I D h0 Q h1 pc vs q) : PF Γ I D h0 Q h pc vs (.int p0 :: va_rf r :: rest) := by
  obtain ⟨cc, nL, own, rt, xt, fr, lo, nm⟩ := I
  cases hI
  exact j_xVi (n := 1) (y := yX1_until) (cc2 := cX1_until) (As := [.int p0]) (C := RX1) (ci := 0) rfl (lw_V q2109 q2111 qs32 q90 q2112) hyV_X1_until hfr hlo rfl hW hd (c_X1_until r p0) hf _ rfl kk kx
theorem kc_X1_352 {Γ : GX} {I : MI} {D : va_G} {h0 : PH} {Q : State → Prop} {h : PH} {pc : Nat} {vs : List (Option Value)} {rest : List Value} {β : Type} {o : β} {r : Option Nat} {p0 : Int32} {p1 : Int32} {K : ((Int32) → PH → Option β)} (hI : I.2.2.1 = RX1) (hfr : Nat.ble 15 I.2.2.2.2.2.1 = true) (hlo : Nat.ble 372 I.2.2.2.2.2.2.1 = true) (hW : (rest.map fun v => v.category).sum ≤ 8) (hd : decode I.1 pc = .ok (.invokevirtual 352, 3)) (hf : rv_ h r 1 (cl_ (f_X2_leadsFrom r p0 p1 h) K) = some o) (kk : ∀ (x : Int32) (h1 : PH), K x h1 = some o → PF Γ I D h0 Q h1 (pc + 3) vs (.int x :: rest)) : PF Γ I D h0 Q h pc vs (.int p1 :: .int p0 :: va_rf r :: rest) := by
  obtain ⟨cc, nL, own, rt, xt, fr, lo, nm⟩ := I
  cases hI
  exact j_cVi (n := 2) (y := yX2_leadsFrom) (cc2 := cX2_leadsFrom) (As := [.int p0, .int p1]) (C := RX2) (ci := 1) rfl (lw_V q2113 q2114 q2115 q91 q2116) hyV_X2_leadsFrom hfr hlo rfl hW hd (c_X2_leadsFrom r p0 p1) hf _ rfl kk
abbrev mi_X1_timeUntilLeader : MI := (cX1_timeUntilLeader, 5, RX1, (Option.some FieldType.int), [], 15, 372, "timeUntilLeader")
def f_X1_timeUntilLeader_B52 (t0 : Int32) (h : PH) : Option (((Nat × Nat) ⊕ Int32) × PH) := some (.inr t0, h)
theorem pf_X1_timeUntilLeader_B52 {Γ : GX} {D : va_G} {h0 : PH} {o : ((Nat × Nat) ⊕ Int32) × PH} (t0 : Int32) (h : PH) (hf : f_X1_timeUntilLeader_B52 t0 h = some o) : PF Γ mi_X1_timeUntilLeader D h0 (QR Γ D h0 (oxi o.1) o.2) h 52 [none, none, none, none, none] [.int t0] := by
  have e9 := Option.some.inj hf
  subst e9
  exact j_iret rfl dX1_timeUntilLeader_52
def f_X1_timeUntilLeader (r0 : Option Nat) (p0 : Int32) (p1 : Int32) (h0 : PH) : Option (((Nat × Nat) ⊕ Int32) × PH) := rv_ h0 r0 0 (cl_ (f_X1_node r0 p0 h0) fun z9 h1 => match z9 with | .inl (ci9, q9) => (xo_ h1 ci9 q9) | .inr r2 => (rv_ h1 r0 0 (cl_ (f_X1_until r0 p1 h1) fun z9 h3 => match z9 with | .inl (ci9, q9) => (xo_ h3 ci9 q9) | .inr v4 => ((if 0 ≤ v4 then (gR h3 r0 0 3 fun r5 => rv_ h3 r5 1 (cl_ (f_X2_copy r5 h3) fun r7 h6 => rv_ h6 r7 1 (cl_ (f_X2_leadsFrom r7 p0 v4 h6) fun v9 h8 => (if 0 ≤ v9 then (gR h8 r0 0 3 fun r10 => gIN h8 r10 1 8 fun v11 => f_X1_timeUntilLeader_B52 (v9 - v11) h8) else (f_X1_timeUntilLeader_B52 v9 h8))))) else (some (.inr v4, h3)))))))
theorem hyS_X1_timeUntilLeader : yX1_timeUntilLeader.cls ≠ "java/lang/invoke/MethodHandle" ∧ yX1_timeUntilLeader.cls ≠ "java/lang/invoke/VarHandle" ∧ (parseMethodDescriptor yX1_timeUntilLeader.desc).map (fun d => d.parameters.length) = some 2 := by decide +kernel
theorem hyV_X1_timeUntilLeader : yX1_timeUntilLeader.cls = RX1 ∧ yX1_timeUntilLeader.cls ≠ "java/lang/invoke/MethodHandle" ∧ yX1_timeUntilLeader.cls ≠ "java/lang/invoke/VarHandle" ∧ (parseMethodDescriptor yX1_timeUntilLeader.desc).map (fun d => d.parameters.length) = some 2 := by decide +kernel
theorem c_X1_timeUntilLeader {D : va_G} (r0 : Option Nat) (p0 : Int32) (p1 : Int32) {h0 : PH} (l : Launch) (hl : l.stackTraces = false) (x : ((Nat × Nat) ⊕ Int32)) (h1 : PH) (hf : f_X1_timeUntilLeader r0 p0 p1 h0 = some (x, h1)) : CT l D yX1_timeUntilLeader (ws_ yX1_timeUntilLeader cX1_timeUntilLeader 5 (Option.some FieldType.int)) 15 372 [va_rf r0, .int p0, .int p1] h0 (oxi x) h1 := by
  refine ct_of hl [some (va_rf r0), some (.int p0), some (.int p1), none, none] (by decide) (by rw [lgl]; simp [va_rf_cat, cat_i, cat_l]) (by simp [lv_args, vsL, va_rf_cat, cat_i, cat_l]) (fun Γ => ?_)
  obtain ⟨o, ho⟩ : ∃ o : ((Nat × Nat) ⊕ Int32) × PH, o = (x, h1) := ⟨_, rfl⟩
  rw [← ho] at hf
  have e1 : x = o.1 := by rw [ho]
  have e2 : h1 = o.2 := by rw [ho]
  subst e1 e2
  clear ho
  show PF Γ mi_X1_timeUntilLeader D h0 (QR Γ D h0 (oxi o.1) o.2) h0 0 [some (va_rf r0), some (.int p0), some (.int p1), none, none] []
  unfold f_X1_timeUntilLeader at hf
  refine j_aload_n 0 dX1_timeUntilLeader_0 rfl rfl ?_
  refine j_iload_n 1 dX1_timeUntilLeader_1 rfl rfl ?_
  refine kc_X1_117 rfl rfl rfl (by decide) dX1_timeUntilLeader_2 hf (fun r2 h1 hf => ?_) (fun ci9 q9 h1 fs9 he9 hf => ?_)
  · refine j_pop dX1_timeUntilLeader_5 (va_rf_cat _) ?_
    refine j_aload_n 0 dX1_timeUntilLeader_6 rfl rfl ?_
    refine j_iload_n 2 dX1_timeUntilLeader_7 rfl rfl ?_
    refine kc_X1_349 rfl rfl rfl (by decide) dX1_timeUntilLeader_8 hf (fun v4 h3 hf => ?_) (fun ci9 q9 h3 fs9 he9 hf => ?_)
    · refine j_istore_n 3 [some (va_rf r0), some (.int p0), some (.int p1), some (.int v4), none] dX1_timeUntilLeader_11 rfl (cz rfl) rfl rfl ?_
      refine j_iload_n 3 dX1_timeUntilLeader_12 rfl rfl ?_
      refine j_if_ge 18 dX1_timeUntilLeader_13 (by decide) hf (fun c_ hf => ?_) (fun c_ hf => ?_)
      · refine j_aload_n 0 dX1_timeUntilLeader_18 rfl rfl ?_
        refine j_gR (ci := 0) (k := 3) rfl in_X1 rfl q877 dX1_timeUntilLeader_19 hf (fun r5 hf => ?_)
        refine kc_X1_326 rfl rfl rfl (by decide) dX1_timeUntilLeader_22 hf (fun r7 h6 hf => ?_)
        refine j_iload_n 1 dX1_timeUntilLeader_25 rfl rfl ?_
        refine j_iload_n 3 dX1_timeUntilLeader_26 rfl rfl ?_
        refine kc_X1_352 rfl rfl rfl (by decide) dX1_timeUntilLeader_27 hf (fun v9 h8 hf => ?_)
        refine j_istore [some (va_rf r0), some (.int p0), some (.int p1), some (.int v4), some (.int v9)] dX1_timeUntilLeader_30 (cz rfl) rfl rfl ?_
        refine j_iload dX1_timeUntilLeader_32 rfl ?_
        refine j_if_ge 42 dX1_timeUntilLeader_34 (by decide) hf (fun c_ hf => ?_) (fun c_ hf => ?_)
        · refine j_iload dX1_timeUntilLeader_42 rfl ?_
          refine j_aload_n 0 dX1_timeUntilLeader_44 rfl rfl ?_
          refine j_gR (ci := 0) (k := 3) rfl in_X1 rfl q877 dX1_timeUntilLeader_45 hf (fun r10 hf => ?_)
          refine j_gIN (ci := 1) (k := 8) rfl in_X2 rfl q803 dX1_timeUntilLeader_48 hf (fun v11 hf => ?_)
          refine j_isub dX1_timeUntilLeader_51 ?_
          refine j_weak [none, none, none, none, none] (Wk.s (Wk.s (Wk.s (Wk.s (Wk.s Wk.n))))) ?_
          exact pf_X1_timeUntilLeader_B52 (v9 - v11) h8 hf
        · refine j_iload dX1_timeUntilLeader_37 rfl ?_
          refine j_goto 52 dX1_timeUntilLeader_39 (by decide) ?_
          refine j_weak [none, none, none, none, none] (Wk.s (Wk.s (Wk.s (Wk.s (Wk.s Wk.n))))) ?_
          exact pf_X1_timeUntilLeader_B52 v9 h8 hf
      · refine j_iload_n 3 dX1_timeUntilLeader_16 rfl rfl ?_
        have e9 := Option.some.inj hf
        subst e9
        exact j_iret rfl dX1_timeUntilLeader_17
    · obtain ⟨hb9, hf⟩ := xo_in hf
      subst hf
      exact j_out (by decide) hb9 he9
  · obtain ⟨hb9, hf⟩ := xo_in hf
    subst hf
    exact j_out (by decide) hb9 he9
theorem kc_X1_355 {Γ : GX} {I : MI} {D : va_G} {h0 : PH} {Q : State → Prop} {h : PH} {pc : Nat} {vs : List (Option Value)} {rest : List Value} {β : Type} {o : β} {r : Option Nat} {p0 : Int32} {K : ((Int32) → PH → Option β)} (hI : I.2.2.1 = RX1) (hfr : Nat.ble 15 I.2.2.2.2.2.1 = true) (hlo : Nat.ble 375 I.2.2.2.2.2.2.1 = true) (hW : (rest.map fun v => v.category).sum ≤ 8) (hd : decode I.1 pc = .ok (.invokevirtual 355, 3)) (hf : rv_ h r 1 (cl_ (f_X2_longestGap r p0 h) K) = some o) (kk : ∀ (x : Int32) (h1 : PH), K x h1 = some o → PF Γ I D h0 Q h1 (pc + 3) vs (.int x :: rest)) : PF Γ I D h0 Q h pc vs (.int p0 :: va_rf r :: rest) := by
  obtain ⟨cc, nL, own, rt, xt, fr, lo, nm⟩ := I
  cases hI
  exact j_cVi (n := 1) (y := yX2_longestGap) (cc2 := cX2_longestGap) (As := [.int p0]) (C := RX2) (ci := 1) rfl (lw_V q2124 q2125 q2126 q91 q2127) hyV_X2_longestGap hfr hlo rfl hW hd (c_X2_longestGap r p0) hf _ rfl kk
abbrev mi_X1_longestLeaderless : MI := (cX1_longestLeaderless, 3, RX1, (Option.some FieldType.int), [], 15, 375, "longestLeaderless")
def f_X1_longestLeaderless_B25 (t0 : Int32) (h : PH) : Option (((Nat × Nat) ⊕ Int32) × PH) := some (.inr t0, h)
theorem pf_X1_longestLeaderless_B25 {Γ : GX} {D : va_G} {h0 : PH} {o : ((Nat × Nat) ⊕ Int32) × PH} (t0 : Int32) (h : PH) (hf : f_X1_longestLeaderless_B25 t0 h = some o) : PF Γ mi_X1_longestLeaderless D h0 (QR Γ D h0 (oxi o.1) o.2) h 25 [none, none, none] [.int t0] := by
  have e9 := Option.some.inj hf
  subst e9
  exact j_iret rfl dX1_longestLeaderless_25
def f_X1_longestLeaderless (r0 : Option Nat) (p0 : Int32) (h0 : PH) : Option (((Nat × Nat) ⊕ Int32) × PH) := rv_ h0 r0 0 (cl_ (f_X1_until r0 p0 h0) fun z9 h1 => match z9 with | .inl (ci9, q9) => (xo_ h1 ci9 q9) | .inr v2 => ((if 0 ≤ v2 then (gR h1 r0 0 3 fun r3 => rv_ h1 r3 1 (cl_ (f_X2_copy r3 h1) fun r5 h4 => rv_ h4 r5 1 (cl_ (f_X2_longestGap r5 v2 h4) fun v7 h6 => f_X1_longestLeaderless_B25 v7 h6))) else (f_X1_longestLeaderless_B25 v2 h1))))
theorem hyS_X1_longestLeaderless : yX1_longestLeaderless.cls ≠ "java/lang/invoke/MethodHandle" ∧ yX1_longestLeaderless.cls ≠ "java/lang/invoke/VarHandle" ∧ (parseMethodDescriptor yX1_longestLeaderless.desc).map (fun d => d.parameters.length) = some 1 := by decide +kernel
theorem hyV_X1_longestLeaderless : yX1_longestLeaderless.cls = RX1 ∧ yX1_longestLeaderless.cls ≠ "java/lang/invoke/MethodHandle" ∧ yX1_longestLeaderless.cls ≠ "java/lang/invoke/VarHandle" ∧ (parseMethodDescriptor yX1_longestLeaderless.desc).map (fun d => d.parameters.length) = some 1 := by decide +kernel
theorem c_X1_longestLeaderless {D : va_G} (r0 : Option Nat) (p0 : Int32) {h0 : PH} (l : Launch) (hl : l.stackTraces = false) (x : ((Nat × Nat) ⊕ Int32)) (h1 : PH) (hf : f_X1_longestLeaderless r0 p0 h0 = some (x, h1)) : CT l D yX1_longestLeaderless (ws_ yX1_longestLeaderless cX1_longestLeaderless 3 (Option.some FieldType.int)) 15 375 [va_rf r0, .int p0] h0 (oxi x) h1 := by
  refine ct_of hl [some (va_rf r0), some (.int p0), none] (by decide) (by rw [lgl]; simp [va_rf_cat, cat_i, cat_l]) (by simp [lv_args, vsL, va_rf_cat, cat_i, cat_l]) (fun Γ => ?_)
  obtain ⟨o, ho⟩ : ∃ o : ((Nat × Nat) ⊕ Int32) × PH, o = (x, h1) := ⟨_, rfl⟩
  rw [← ho] at hf
  have e1 : x = o.1 := by rw [ho]
  have e2 : h1 = o.2 := by rw [ho]
  subst e1 e2
  clear ho
  show PF Γ mi_X1_longestLeaderless D h0 (QR Γ D h0 (oxi o.1) o.2) h0 0 [some (va_rf r0), some (.int p0), none] []
  unfold f_X1_longestLeaderless at hf
  refine j_aload_n 0 dX1_longestLeaderless_0 rfl rfl ?_
  refine j_iload_n 1 dX1_longestLeaderless_1 rfl rfl ?_
  refine kc_X1_349 rfl rfl rfl (by decide) dX1_longestLeaderless_2 hf (fun v2 h1 hf => ?_) (fun ci9 q9 h1 fs9 he9 hf => ?_)
  · refine j_istore_n 2 [some (va_rf r0), some (.int p0), some (.int v2)] dX1_longestLeaderless_5 rfl (cz rfl) rfl rfl ?_
    refine j_iload_n 2 dX1_longestLeaderless_6 rfl rfl ?_
    refine j_if_ge 14 dX1_longestLeaderless_7 (by decide) hf (fun c_ hf => ?_) (fun c_ hf => ?_)
    · refine j_aload_n 0 dX1_longestLeaderless_14 rfl rfl ?_
      refine j_gR (ci := 0) (k := 3) rfl in_X1 rfl q877 dX1_longestLeaderless_15 hf (fun r3 hf => ?_)
      refine kc_X1_326 rfl rfl rfl (by decide) dX1_longestLeaderless_18 hf (fun r5 h4 hf => ?_)
      refine j_iload_n 2 dX1_longestLeaderless_21 rfl rfl ?_
      refine kc_X1_355 rfl rfl rfl (by decide) dX1_longestLeaderless_22 hf (fun v7 h6 hf => ?_)
      refine j_weak [none, none, none] (Wk.s (Wk.s (Wk.s Wk.n))) ?_
      exact pf_X1_longestLeaderless_B25 v7 h6 hf
    · refine j_iload_n 2 dX1_longestLeaderless_10 rfl rfl ?_
      refine j_goto 25 dX1_longestLeaderless_11 (by decide) ?_
      refine j_weak [none, none, none] (Wk.s (Wk.s (Wk.s Wk.n))) ?_
      exact pf_X1_longestLeaderless_B25 v2 h1 hf
  · obtain ⟨hb9, hf⟩ := xo_in hf
    subst hf
    exact j_out (by decide) hb9 he9
abbrev mi_X2_goOn : MI := (cX2_goOn, 2, RX2, none, [], 14, 350, "goOn")
def f_X2_goOn_L0 : Nat → Option Nat → Int32 → PH → Option (Unit × PH)
  | 0, _, _, _ => none
  | n + 1, x0, x1, h => gI h x0 1 8 fun v1 => (if x1 ≤ v1 then (some ((), h)) else (rv_ h x0 1 (cl_ (f_X2_step x0 x1 h) fun _u h2 => f_X2_goOn_L0 n x0 x1 h2)))
theorem pf_X2_goOn_L0 {Γ : GX} {D : va_G} {h0 : PH} {o : Unit × PH} : ∀ (n : Nat) (x0 : Option Nat) (x1 : Int32) (h : PH), f_X2_goOn_L0 n x0 x1 h = some o → PF Γ mi_X2_goOn D h0 (QR Γ D h0 (ovv o.1) o.2) h 0 [some (va_rf x0), some (.int x1)] [] := by
  intro n
  induction n with
  | zero => intro x0 x1 h hf; cases hf
  | succ n ih =>
    intro x0 x1 h hf
    refine j_aload_n 0 dX2_goOn_0 rfl rfl ?_
    refine j_gI (ci := 1) (k := 8) rfl in_X2 rfl q802 dX2_goOn_1 hf (fun v1 hf => ?_)
    refine j_iload_n 1 dX2_goOn_4 rfl rfl ?_
    refine j_icmp_ge 16 dX2_goOn_5 (by decide) hf (fun c_ hf => ?_) (fun c_ hf => ?_)
    · have e9 := Option.some.inj hf
      subst e9
      exact j_vret rfl dX2_goOn_16
    · refine j_aload_n 0 dX2_goOn_8 rfl rfl ?_
      refine j_iload_n 1 dX2_goOn_9 rfl rfl ?_
      refine kc_X2_409 rfl rfl rfl (by decide) dX2_goOn_10 hf (fun _u h2 hf => ?_)
      refine j_goto 0 dX2_goOn_13 (by decide) ?_
      exact ih x0 x1 h2 hf
def f_X2_goOn (r0 : Option Nat) (p0 : Int32) (h0 : PH) : Option (Unit × PH) := f_X2_goOn_L0 FU r0 p0 h0
theorem hyS_X2_goOn : yX2_goOn.cls ≠ "java/lang/invoke/MethodHandle" ∧ yX2_goOn.cls ≠ "java/lang/invoke/VarHandle" ∧ (parseMethodDescriptor yX2_goOn.desc).map (fun d => d.parameters.length) = some 1 := by decide +kernel
theorem hyV_X2_goOn : yX2_goOn.cls = RX2 ∧ yX2_goOn.cls ≠ "java/lang/invoke/MethodHandle" ∧ yX2_goOn.cls ≠ "java/lang/invoke/VarHandle" ∧ (parseMethodDescriptor yX2_goOn.desc).map (fun d => d.parameters.length) = some 1 := by decide +kernel
theorem c_X2_goOn {D : va_G} (r0 : Option Nat) (p0 : Int32) {h0 : PH} (l : Launch) (hl : l.stackTraces = false) (x : Unit) (h1 : PH) (hf : f_X2_goOn r0 p0 h0 = some (x, h1)) : CT l D yX2_goOn (ws_ yX2_goOn cX2_goOn 2 none) 14 350 [va_rf r0, .int p0] h0 (ovv x) h1 := by
  refine ct_of hl [some (va_rf r0), some (.int p0)] (by decide) (by rw [lgl]; simp [va_rf_cat, cat_i, cat_l]) (by simp [lv_args, vsL, va_rf_cat, cat_i, cat_l]) (fun Γ => ?_)
  obtain ⟨o, ho⟩ : ∃ o : Unit × PH, o = (x, h1) := ⟨_, rfl⟩
  rw [← ho] at hf
  have e1 : x = o.1 := by rw [ho]
  have e2 : h1 = o.2 := by rw [ho]
  subst e1 e2
  clear ho
  show PF Γ mi_X2_goOn D h0 (QR Γ D h0 (ovv o.1) o.2) h0 0 [some (va_rf r0), some (.int p0)] []
  unfold f_X2_goOn at hf
  exact pf_X2_goOn_L0 FU r0 p0 h0 hf
theorem kc_X2_434 {Γ : GX} {I : MI} {D : va_G} {h0 : PH} {Q : State → Prop} {h : PH} {pc : Nat} {vs : List (Option Value)} {rest : List Value} {β : Type} {o : β} {r : Option Nat} {p0 : Int32} {K : ((Unit) → PH → Option β)} (hI : I.2.2.1 = RX2) (hfr : Nat.ble 15 I.2.2.2.2.2.1 = true) (hlo : Nat.ble 371 I.2.2.2.2.2.2.1 = true) (hW : (rest.map fun v => v.category).sum ≤ 8) (hd : decode I.1 pc = .ok (.invokevirtual 434, 3)) (hf : rv_ h r 1 (cl_ (f_X2_goOn r p0 h) K) = some o) (kk : ∀ (x : Unit) (h1 : PH), K x h1 = some o → PF Γ I D h0 Q h1 (pc + 3) vs (rest)) : PF Γ I D h0 Q h pc vs (.int p0 :: va_rf r :: rest) := by
  obtain ⟨cc, nL, own, rt, xt, fr, lo, nm⟩ := I
  cases hI
  exact j_cVv (n := 1) (y := yX2_goOn) (cc2 := cX2_goOn) (As := [.int p0]) (C := RX2) (ci := 1) rfl (lw_V q2144 q1287 q1288 q91 q1289) hyV_X2_goOn hfr hlo rfl hW hd (c_X2_goOn r p0) hf _ rfl kk
abbrev mi_X2_tryWrite : MI := (cX2_tryWrite, 5, RX2, (Option.some FieldType.int), [], 15, 371, "tryWrite")
def f_X2_tryWrite (r0 : Option Nat) (p0 : Int32) (p1 : Int32) (h0 : PH) : Option (Int32 × PH) := gR h0 r0 1 2 fun r1 => rv_ h0 r1 19 (cl_ (f_J2_size r1 h0) fun v3 h2 => asR (some (h2.2.1.1 4)) fun r4 => nA h2 0 (3 : Int32) (.inl fun _ => 0) fun a5 h6 => gR h6 r0 1 1 fun r7 => aQ h6 r7 5 p0 fun r8 => gIN h6 r8 5 6 fun v9 => sI h6 (some a5) 0 (0 : Int32) v9 fun h10 => sI h10 (some a5) 0 (1 : Int32) p1 fun h11 => sI h11 (some a5) 0 (2 : Int32) (0 : Int32) fun h12 => rv_ h12 r0 1 (cl_ (f_X2_send r0 r4 p0 (some a5) h12) fun _u h13 => gR h13 r0 1 2 fun r14 => rv_ h13 r14 19 (cl_ (f_J2_size r14 h13) fun v16 h15 => (if v16 = v3 then (some ((2 : Int32), h15)) else (gR h15 r0 1 2 fun r17 => rv_ h15 r17 19 (cl_ (f_J2_get r17 v3 h15) fun r19 h18 => kC h18 r19 13 (gIN h18 r19 13 6 fun v20 => (if v20 ≤ (5000000 : Int32) then (gI h18 r0 1 10 fun v21 => pV h18 r0 1 20 (.int v21) fun h22 => rv_ h22 r0 1 (cl_ (f_X2_goOn r0 v20 h22) fun _u h23 => gI h23 r0 1 21 fun v24 => some (v24, h23))) else (some ((-5 : Int32), h18))))))))))
theorem hyS_X2_tryWrite : yX2_tryWrite.cls ≠ "java/lang/invoke/MethodHandle" ∧ yX2_tryWrite.cls ≠ "java/lang/invoke/VarHandle" ∧ (parseMethodDescriptor yX2_tryWrite.desc).map (fun d => d.parameters.length) = some 2 := by decide +kernel
theorem hyV_X2_tryWrite : yX2_tryWrite.cls = RX2 ∧ yX2_tryWrite.cls ≠ "java/lang/invoke/MethodHandle" ∧ yX2_tryWrite.cls ≠ "java/lang/invoke/VarHandle" ∧ (parseMethodDescriptor yX2_tryWrite.desc).map (fun d => d.parameters.length) = some 2 := by decide +kernel
theorem c_X2_tryWrite {D : va_G} (r0 : Option Nat) (p0 : Int32) (p1 : Int32) {h0 : PH} (l : Launch) (hl : l.stackTraces = false) (x : Int32) (h1 : PH) (hf : f_X2_tryWrite r0 p0 p1 h0 = some (x, h1)) : CT l D yX2_tryWrite (ws_ yX2_tryWrite cX2_tryWrite 5 (Option.some FieldType.int)) 15 371 [va_rf r0, .int p0, .int p1] h0 (ovi x) h1 := by
  refine ct_of hl [some (va_rf r0), some (.int p0), some (.int p1), none, none] (by decide) (by rw [lgl]; simp [va_rf_cat, cat_i, cat_l]) (by simp [lv_args, vsL, va_rf_cat, cat_i, cat_l]) (fun Γ => ?_)
  obtain ⟨o, ho⟩ : ∃ o : Int32 × PH, o = (x, h1) := ⟨_, rfl⟩
  rw [← ho] at hf
  have e1 : x = o.1 := by rw [ho]
  have e2 : h1 = o.2 := by rw [ho]
  subst e1 e2
  clear ho
  show PF Γ mi_X2_tryWrite D h0 (QR Γ D h0 (ovi o.1) o.2) h0 0 [some (va_rf r0), some (.int p0), some (.int p1), none, none] []
  unfold f_X2_tryWrite at hf
  refine j_aload_n 0 dX2_tryWrite_0 rfl rfl ?_
  refine j_gR (ci := 1) (k := 2) rfl in_X2 rfl q790 dX2_tryWrite_1 hf (fun r1 hf => ?_)
  refine kc_X2_56 rfl rfl rfl (by decide) dX2_tryWrite_4 hf (fun v3 h2 hf => ?_)
  refine j_istore_n 3 [some (va_rf r0), some (.int p0), some (.int p1), some (.int v3), none] dX2_tryWrite_9 rfl (cz rfl) rfl rfl ?_
  refine j_aload_n 0 dX2_tryWrite_10 rfl rfl ?_
  refine j_gsR (i := 4) rfl q1560 dX2_tryWrite_11 hf (fun r4 hf => ?_)
  refine j_iload_n 1 dX2_tryWrite_14 rfl rfl ?_
  refine j_iconst (3 : Int32) dX2_tryWrite_15 (by decide) ?_
  refine j_nA (t := 0) (atype := .int) (ty := .int) rfl (fun _ => rfl) (fun _ _ => rfl) (by decide) (fun _ _ h9 => h9) q679 dX2_tryWrite_16 hf (fun a5 h6 hf => ?_)
  refine j_dup dX2_tryWrite_18 (va_rf_cat _) ?_
  refine j_iconst (0 : Int32) dX2_tryWrite_19 (by decide) ?_
  refine j_aload_n 0 dX2_tryWrite_20 rfl rfl ?_
  refine j_gR (ci := 1) (k := 1) rfl in_X2 rfl q788 dX2_tryWrite_21 hf (fun r7 hf => ?_)
  refine j_iload_n 1 dX2_tryWrite_24 rfl rfl ?_
  refine j_aald (t := 5) rfl dX2_tryWrite_25 hf (fun r8 hf => ?_)
  refine j_gIN (ci := 5) (k := 6) rfl in_X6 rfl q739 dX2_tryWrite_26 hf (fun v9 hf => ?_)
  refine j_iast dX2_tryWrite_29 hf (fun h10 hf => ?_)
  refine j_dup dX2_tryWrite_30 (va_rf_cat _) ?_
  refine j_iconst (1 : Int32) dX2_tryWrite_31 (by decide) ?_
  refine j_iload_n 2 dX2_tryWrite_32 rfl rfl ?_
  refine j_iast dX2_tryWrite_33 hf (fun h11 hf => ?_)
  refine j_dup dX2_tryWrite_34 (va_rf_cat _) ?_
  refine j_iconst (2 : Int32) dX2_tryWrite_35 (by decide) ?_
  refine j_iconst (0 : Int32) dX2_tryWrite_36 (by decide) ?_
  refine j_iast dX2_tryWrite_37 hf (fun h12 hf => ?_)
  refine kc_X2_203 rfl rfl rfl (by decide) dX2_tryWrite_38 hf (fun _u h13 hf => ?_)
  refine j_aload_n 0 dX2_tryWrite_41 rfl rfl ?_
  refine j_gR (ci := 1) (k := 2) rfl in_X2 rfl q790 dX2_tryWrite_42 hf (fun r14 hf => ?_)
  refine kc_X2_56 rfl rfl rfl (by decide) dX2_tryWrite_45 hf (fun v16 h15 hf => ?_)
  refine j_iload_n 3 dX2_tryWrite_50 rfl rfl ?_
  refine j_icmp_ne 56 dX2_tryWrite_51 (by decide) hf (fun c_ hf => ?_) (fun c_ hf => ?_)
  · refine j_aload_n 0 dX2_tryWrite_56 rfl rfl ?_
    refine j_gR (ci := 1) (k := 2) rfl in_X2 rfl q790 dX2_tryWrite_57 hf (fun r17 hf => ?_)
    refine j_iload_n 3 dX2_tryWrite_60 rfl rfl ?_
    refine kc_X2_68 rfl rfl rfl (by decide) dX2_tryWrite_61 hf (fun r19 h18 hf => ?_)
    refine j_kC (ci := 13) rfl q1266 dX2_tryWrite_66 hf (fun hf => ?_)
    refine j_gIN (ci := 13) (k := 6) rfl in_X16 rfl q1390 dX2_tryWrite_69 hf (fun v20 hf => ?_)
    refine j_istore [some (va_rf r0), some (.int p0), some (.int p1), some (.int v3), some (.int v20)] dX2_tryWrite_72 (cz rfl) rfl rfl ?_
    refine j_iload dX2_tryWrite_74 rfl ?_
    refine j_ldcw q2143 dX2_tryWrite_76 ?_
    refine j_icmp_le 85 dX2_tryWrite_79 (by decide) hf (fun c_ hf => ?_) (fun c_ hf => ?_)
    · refine j_aload_n 0 dX2_tryWrite_85 rfl rfl ?_
      refine j_aload_n 0 dX2_tryWrite_86 rfl rfl ?_
      refine j_gI (ci := 1) (k := 10) rfl in_X2 rfl q805 dX2_tryWrite_87 hf (fun v21 hf => ?_)
      refine j_pV (ci := 1) (k := 20) tyX2 tyX2_ok nmX2 rfl in_X2 rfl q824 (Or.inl rfl) rfl (fit_i _) dX2_tryWrite_90 hf (fun h22 hf => ?_)
      refine j_aload_n 0 dX2_tryWrite_93 rfl rfl ?_
      refine j_iload dX2_tryWrite_94 rfl ?_
      refine kc_X2_434 rfl rfl rfl (by decide) dX2_tryWrite_96 hf (fun _u h23 hf => ?_)
      refine j_aload_n 0 dX2_tryWrite_99 rfl rfl ?_
      refine j_gI (ci := 1) (k := 21) rfl in_X2 rfl q825 dX2_tryWrite_100 hf (fun v24 hf => ?_)
      have e9 := Option.some.inj hf
      subst e9
      exact j_iret rfl dX2_tryWrite_103
    · refine j_bipush (-5 : Int32) dX2_tryWrite_82 (by decide) ?_
      have e9 := Option.some.inj hf
      subst e9
      exact j_iret rfl dX2_tryWrite_84
  · refine j_iconst (2 : Int32) dX2_tryWrite_54 (by decide) ?_
    have e9 := Option.some.inj hf
    subst e9
    exact j_iret rfl dX2_tryWrite_55
