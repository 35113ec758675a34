/-! printed by mklaw.py -/
set_option maxRecDepth 100000
theorem kc_X0_142 {Γ : GX} {I : MI} {D : va_G} {h0 : PH} {Q : State → Prop} {h : PH} {pc : Nat} {vs : List (Option Value)} {rest : List Value} {β : Type} {o : β} {a : Nat}  {K : ((Unit) → PH → Option β)} (hI : I.2.2.1 = RX0) (hfr : Nat.ble 9 I.2.2.2.2.2.1 = true) (hlo : Nat.ble 231 I.2.2.2.2.2.2.1 = true) (hW : (rest.map fun v => v.category).sum ≤ 8) (hd : decode I.1 pc = .ok (.invokespecial 142, 3)) (hf : cl_ (f_X1_init a h) K = some o) (kk : ∀ (x : Unit) (h1 : PH), K x h1 = some o → PF Γ I D h0 Q h1 (pc + 3) vs (rest)) : PF Γ I D h0 Q h pc vs (va_rf (some a) :: rest) := by
  obtain ⟨cc, nL, own, rt, xt, fr, lo, nm⟩ := I
  cases hI
  exact j_cIv (n := 0) (y := yX1_init) (cc2 := cX1_init) (As := []) (lw_meth q139) q90 q137 q138 rfl hyS_X1_init hfr hlo rfl hW hd (c_X1_init a) ⟨_, rfl⟩ hf _ rfl kk
theorem kc_X0_145 {Γ : GX} {I : MI} {D : va_G} {h0 : PH} {Q : State → Prop} {h : PH} {pc : Nat} {vs : List (Option Value)} {rest : List Value} {β : Type} {o : β} {a : Nat}  {K : ((Unit) → PH → Option β)} (hI : I.2.2.1 = RX0) (hfr : Nat.ble 2 I.2.2.2.2.2.1 = true) (hlo : Nat.ble 44 I.2.2.2.2.2.2.1 = true) (hW : (rest.map fun v => v.category).sum ≤ 8) (hd : decode I.1 pc = .ok (.invokespecial 145, 3)) (hf : cl_ (f_X7_init a h) K = some o) (kk : ∀ (x : Unit) (h1 : PH), K x h1 = some o → PF Γ I D h0 Q h1 (pc + 3) vs (rest)) : PF Γ I D h0 Q h pc vs (va_rf (some a) :: rest) := by
  obtain ⟨cc, nL, own, rt, xt, fr, lo, nm⟩ := I
  cases hI
  exact j_cIv (n := 0) (y := yX7_init) (cc2 := cX7_init) (As := []) (lw_meth q2177) q117 q2175 q2176 rfl hyS_X7_init hfr hlo rfl hW hd (c_X7_init a) ⟨_, rfl⟩ hf _ rfl kk
theorem kc_X0_146 {Γ : GX} {I : MI} {D : va_G} {h0 : PH} {Q : State → Prop} {h : PH} {pc : Nat} {vs : List (Option Value)} {rest : List Value} {β : Type} {o : β} {p0 : Option Nat} {p1 : Int32} {p2 : Option Nat} {K : ((Int32) → PH → Option β)} (hI : I.2.2.1 = RX0) (hfr : Nat.ble 9 I.2.2.2.2.2.1 = true) (hlo : Nat.ble 153 I.2.2.2.2.2.2.1 = true) (hW : (rest.map fun v => v.category).sum ≤ 8) (hd : decode I.1 pc = .ok (.invokestatic 146, 3)) (hf : cl_ (f_X0_appendByte p0 p1 p2 h) K = some o) (kk : ∀ (x : Int32) (h1 : PH), K x h1 = some o → PF Γ I D h0 Q h1 (pc + 3) vs (.int x :: rest)) : PF Γ I D h0 Q h pc vs (va_rf p2 :: .int p1 :: va_rf p0 :: rest) := by
  obtain ⟨cc, nL, own, rt, xt, fr, lo, nm⟩ := I
  cases hI
  exact j_cSWi (n := 3) (y := yX0_appendByte) (cc2 := cX0_appendByte) (As := [va_rf p0, .int p1, va_rf p2]) (lw_SW q1686 q1687 q89 q1688) hyS_X0_appendByte hfr hlo rfl hW hd (c_X0_appendByte p0 p1 p2) hf _ rfl kk
theorem kc_X0_151 {Γ : GX} {I : MI} {D : va_G} {h0 : PH} {Q : State → Prop} {h : PH} {pc : Nat} {vs : List (Option Value)} {rest : List Value} {β : Type} {o : β} {r : Option Nat} {p0 : Int32} {K : ((Int32) → PH → Option β)} (hI : I.2.2.1 = RX0) (hfr : Nat.ble 2 I.2.2.2.2.2.1 = true) (hlo : Nat.ble 46 I.2.2.2.2.2.2.1 = true) (hW : (rest.map fun v => v.category).sum ≤ 8) (hd : decode I.1 pc = .ok (.invokevirtual 151, 3)) (hf : rv_ h r 6 (cl_ (f_X7_appendByte r p0 h) K) = some o) (kk : ∀ (x : Int32) (h1 : PH), K x h1 = some o → PF Γ I D h0 Q h1 (pc + 3) vs (.int x :: rest)) : PF Γ I D h0 Q h pc vs (.int p0 :: va_rf r :: rest) := by
  obtain ⟨cc, nL, own, rt, xt, fr, lo, nm⟩ := I
  cases hI
  exact j_cVi (n := 1) (y := yX7_appendByte) (cc2 := cX7_appendByte) (As := [.int p0]) (C := RX7) (ci := 6) rfl (lw_V q2262 q2263 q2264 q117 q2265) hyV_X7_appendByte hfr hlo rfl hW hd (c_X7_appendByte r p0) hf _ rfl kk
theorem kc_X0_152 {Γ : GX} {I : MI} {D : va_G} {h0 : PH} {Q : State → Prop} {h : PH} {pc : Nat} {vs : List (Option Value)} {rest : List Value} {β : Type} {o : β} {r : Option Nat}  {K : ((Int32) → PH → Option β)} (hI : I.2.2.1 = RX0) (hfr : Nat.ble 1 I.2.2.2.2.2.1 = true) (hlo : Nat.ble 20 I.2.2.2.2.2.2.1 = true) (hW : (rest.map fun v => v.category).sum ≤ 8) (hd : decode I.1 pc = .ok (.invokevirtual 152, 3)) (hf : rv_ h r 6 (cl_ (f_X7_thrown r h) K) = some o) (kk : ∀ (x : Int32) (h1 : PH), K x h1 = some o → PF Γ I D h0 Q h1 (pc + 3) vs (.int x :: rest)) : PF Γ I D h0 Q h pc vs (va_rf r :: rest) := by
  obtain ⟨cc, nL, own, rt, xt, fr, lo, nm⟩ := I
  cases hI
  exact j_cVi (n := 0) (y := yX7_thrown) (cc2 := cX7_thrown) (As := []) (C := RX7) (ci := 6) rfl (lw_V q2258 q2259 q2260 q117 q2261) hyV_X7_thrown hfr hlo rfl hW hd (c_X7_thrown r) hf _ rfl kk
theorem kc_X0_156 {Γ : GX} {I : MI} {D : va_G} {h0 : PH} {Q : State → Prop} {h : PH} {pc : Nat} {vs : List (Option Value)} {rest : List Value} {β : Type} {o : β} {r : Option Nat}  {K : ((Int32) → PH → Option β)} (hI : I.2.2.1 = RX0) (hfr : Nat.ble 11 I.2.2.2.2.2.1 = true) (hlo : Nat.ble 281 I.2.2.2.2.2.2.1 = true) (hW : (rest.map fun v => v.category).sum ≤ 8) (hd : decode I.1 pc = .ok (.invokevirtual 156, 3)) (hf : rv_ h r 0 (cl_ (f_X1_load r h) K) = some o) (kk : ∀ (x : Int32) (h1 : PH), K x h1 = some o → PF Γ I D h0 Q h1 (pc + 3) vs (.int x :: rest)) : PF Γ I D h0 Q h pc vs (va_rf r :: rest) := by
  obtain ⟨cc, nL, own, rt, xt, fr, lo, nm⟩ := I
  cases hI
  exact j_cVWi (n := 0) (y := yX1_load) (cc2 := cX1_load) (As := []) (C := RX1) (ci := 0) rfl (lw_VW q890 q891 q892 q90 q893) hyV_X1_load hfr hlo rfl hW hd (c_X1_load r) hf _ rfl kk
theorem kc_X0_159 {Γ : GX} {I : MI} {D : va_G} {h0 : PH} {Q : State → Prop} {h : PH} {pc : Nat} {vs : List (Option Value)} {rest : List Value} {β : Type} {o : β} {r : Option Nat}  {K : ((Int32) → PH → Option β)} (hI : I.2.2.1 = RX0) (hfr : Nat.ble 7 I.2.2.2.2.2.1 = true) (hlo : Nat.ble 150 I.2.2.2.2.2.2.1 = true) (hW : (rest.map fun v => v.category).sum ≤ 8) (hd : decode I.1 pc = .ok (.invokevirtual 159, 3)) (hf : rv_ h r 6 (cl_ (f_X7_load r h) K) = some o) (kk : ∀ (x : Int32) (h1 : PH), K x h1 = some o → PF Γ I D h0 Q h1 (pc + 3) vs (.int x :: rest)) : PF Γ I D h0 Q h pc vs (va_rf r :: rest) := by
  obtain ⟨cc, nL, own, rt, xt, fr, lo, nm⟩ := I
  cases hI
  exact j_cVi (n := 0) (y := yX7_load) (cc2 := cX7_load) (As := []) (C := RX7) (ci := 6) rfl (lw_V q2274 q2275 q2276 q117 q2277) hyV_X7_load hfr hlo rfl hW hd (c_X7_load r) hf _ rfl kk
theorem kc_X0_160 {Γ : GX} {I : MI} {D : va_G} {h0 : PH} {Q : State → Prop} {h : PH} {pc : Nat} {vs : List (Option Value)} {rest : List Value} {β : Type} {o : β} {r : Option Nat}  {K : ((Int32) → PH → Option β)} (hI : I.2.2.1 = RX0) (hfr : Nat.ble 1 I.2.2.2.2.2.1 = true) (hlo : Nat.ble 20 I.2.2.2.2.2.2.1 = true) (hW : (rest.map fun v => v.category).sum ≤ 8) (hd : decode I.1 pc = .ok (.invokevirtual 160, 3)) (hf : rv_ h r 0 (cl_ (f_X1_loadError r h) K) = some o) (kk : ∀ (x : Int32) (h1 : PH), K x h1 = some o → PF Γ I D h0 Q h1 (pc + 3) vs (.int x :: rest)) : PF Γ I D h0 Q h pc vs (va_rf r :: rest) := by
  obtain ⟨cc, nL, own, rt, xt, fr, lo, nm⟩ := I
  cases hI
  exact j_cVi (n := 0) (y := yX1_loadError) (cc2 := cX1_loadError) (As := []) (C := RX1) (ci := 0) rfl (lw_V q1250 q1251 q1252 q90 q1253) hyV_X1_loadError hfr hlo rfl hW hd (c_X1_loadError r) hf _ rfl kk
theorem kc_X0_163 {Γ : GX} {I : MI} {D : va_G} {h0 : PH} {Q : State → Prop} {h : PH} {pc : Nat} {vs : List (Option Value)} {rest : List Value} {β : Type} {o : β} {r : Option Nat}  {K : ((Int32) → PH → Option β)} (hI : I.2.2.1 = RX0) (hfr : Nat.ble 1 I.2.2.2.2.2.1 = true) (hlo : Nat.ble 20 I.2.2.2.2.2.2.1 = true) (hW : (rest.map fun v => v.category).sum ≤ 8) (hd : decode I.1 pc = .ok (.invokevirtual 163, 3)) (hf : rv_ h r 6 (cl_ (f_X7_loadError r h) K) = some o) (kk : ∀ (x : Int32) (h1 : PH), K x h1 = some o → PF Γ I D h0 Q h1 (pc + 3) vs (.int x :: rest)) : PF Γ I D h0 Q h pc vs (va_rf r :: rest) := by
  obtain ⟨cc, nL, own, rt, xt, fr, lo, nm⟩ := I
  cases hI
  exact j_cVi (n := 0) (y := yX7_loadError) (cc2 := cX7_loadError) (As := []) (C := RX7) (ci := 6) rfl (lw_V q2328 q2329 q2330 q117 q2331) hyV_X7_loadError hfr hlo rfl hW hd (c_X7_loadError r) hf _ rfl kk
theorem kc_X0_164 {Γ : GX} {I : MI} {D : va_G} {h0 : PH} {Q : State → Prop} {h : PH} {pc : Nat} {vs : List (Option Value)} {rest : List Value} {β : Type} {o : β} {p0 : Option Nat} {p1 : Int32} {p2 : Option Nat} {K : ((Int32) → PH → Option β)} (hI : I.2.2.1 = RX0) (hfr : Nat.ble 17 I.2.2.2.2.2.1 = true) (hlo : Nat.ble 415 I.2.2.2.2.2.2.1 = true) (hW : (rest.map fun v => v.category).sum ≤ 8) (hd : decode I.1 pc = .ok (.invokestatic 164, 3)) (hf : cl_ (f_X0_advance p0 p1 p2 h) K = some o) (kk : ∀ (x : Int32) (h1 : PH), K x h1 = some o → PF Γ I D h0 Q h1 (pc + 3) vs (.int x :: rest)) : PF Γ I D h0 Q h pc vs (va_rf p2 :: .int p1 :: va_rf p0 :: rest) := by
  obtain ⟨cc, nL, own, rt, xt, fr, lo, nm⟩ := I
  cases hI
  exact j_cSWi (n := 3) (y := yX0_advance) (cc2 := cX0_advance) (As := [va_rf p0, .int p1, va_rf p2]) (lw_SW q1710 q1711 q89 q1712) hyS_X0_advance hfr hlo rfl hW hd (c_X0_advance p0 p1 p2) hf _ rfl kk
theorem kc_X0_166 {Γ : GX} {I : MI} {D : va_G} {h0 : PH} {Q : State → Prop} {h : PH} {pc : Nat} {vs : List (Option Value)} {rest : List Value} {β : Type} {o : β} {r : Option Nat} {p0 : Int32} {K : ((Int32) → PH → Option β)} (hI : I.2.2.1 = RX0) (hfr : Nat.ble 9 I.2.2.2.2.2.1 = true) (hlo : Nat.ble 215 I.2.2.2.2.2.2.1 = true) (hW : (rest.map fun v => v.category).sum ≤ 8) (hd : decode I.1 pc = .ok (.invokevirtual 166, 3)) (hf : rv_ h r 6 (cl_ (f_X7_advance r p0 h) K) = some o) (kk : ∀ (x : Int32) (h1 : PH), K x h1 = some o → PF Γ I D h0 Q h1 (pc + 3) vs (.int x :: rest)) : PF Γ I D h0 Q h pc vs (.int p0 :: va_rf r :: rest) := by
  obtain ⟨cc, nL, own, rt, xt, fr, lo, nm⟩ := I
  cases hI
  exact j_cVi (n := 1) (y := yX7_advance) (cc2 := cX7_advance) (As := [.int p0]) (C := RX7) (ci := 6) rfl (lw_V q2368 q2369 q2370 q117 q2371) hyV_X7_advance hfr hlo rfl hW hd (c_X7_advance r p0) hf _ rfl kk
theorem kc_X0_167 {Γ : GX} {I : MI} {D : va_G} {h0 : PH} {Q : State → Prop} {h : PH} {pc : Nat} {vs : List (Option Value)} {rest : List Value} {β : Type} {o : β} {r : Option Nat}  {K : ((Int32) → PH → Option β)} (hI : I.2.2.1 = RX0) (hfr : Nat.ble 16 I.2.2.2.2.2.1 = true) (hlo : Nat.ble 392 I.2.2.2.2.2.2.1 = true) (hW : (rest.map fun v => v.category).sum ≤ 8) (hd : decode I.1 pc = .ok (.invokevirtual 167, 3)) (hf : rv_ h r 0 (cl_ (f_X1_advanceToNextEvent r h) K) = some o) (kk : ∀ (x : Int32) (h1 : PH), K x h1 = some o → PF Γ I D h0 Q h1 (pc + 3) vs (.int x :: rest)) : PF Γ I D h0 Q h pc vs (va_rf r :: rest) := by
  obtain ⟨cc, nL, own, rt, xt, fr, lo, nm⟩ := I
  cases hI
  exact j_cVi (n := 0) (y := yX1_advanceToNextEvent) (cc2 := cX1_advanceToNextEvent) (As := []) (C := RX1) (ci := 0) rfl (lw_V q1254 q1255 q1256 q90 q1257) hyV_X1_advanceToNextEvent hfr hlo rfl hW hd (c_X1_advanceToNextEvent r) hf _ rfl kk
theorem kc_X0_170 {Γ : GX} {I : MI} {D : va_G} {h0 : PH} {Q : State → Prop} {h : PH} {pc : Nat} {vs : List (Option Value)} {rest : List Value} {β : Type} {o : β} {r : Option Nat}  {K : ((Int32) → PH → Option β)} (hI : I.2.2.1 = RX0) (hfr : Nat.ble 9 I.2.2.2.2.2.1 = true) (hlo : Nat.ble 215 I.2.2.2.2.2.2.1 = true) (hW : (rest.map fun v => v.category).sum ≤ 8) (hd : decode I.1 pc = .ok (.invokevirtual 170, 3)) (hf : rv_ h r 6 (cl_ (f_X7_advanceToNextEvent r h) K) = some o) (kk : ∀ (x : Int32) (h1 : PH), K x h1 = some o → PF Γ I D h0 Q h1 (pc + 3) vs (.int x :: rest)) : PF Γ I D h0 Q h pc vs (va_rf r :: rest) := by
  obtain ⟨cc, nL, own, rt, xt, fr, lo, nm⟩ := I
  cases hI
  exact j_cVi (n := 0) (y := yX7_advanceToNextEvent) (cc2 := cX7_advanceToNextEvent) (As := []) (C := RX7) (ci := 6) rfl (lw_V q2496 q2497 q2498 q117 q2499) hyV_X7_advanceToNextEvent hfr hlo rfl hW hd (c_X7_advanceToNextEvent r) hf _ rfl kk
theorem kc_X0_171 {Γ : GX} {I : MI} {D : va_G} {h0 : PH} {Q : State → Prop} {h : PH} {pc : Nat} {vs : List (Option Value)} {rest : List Value} {β : Type} {o : β} {r : Option Nat}  {K : ((Int32) → PH → Option β)} (hI : I.2.2.1 = RX0) (hfr : Nat.ble 1 I.2.2.2.2.2.1 = true) (hlo : Nat.ble 20 I.2.2.2.2.2.2.1 = true) (hW : (rest.map fun v => v.category).sum ≤ 8) (hd : decode I.1 pc = .ok (.invokevirtual 171, 3)) (hf : rv_ h r 0 (cl_ (f_X1_now r h) K) = some o) (kk : ∀ (x : Int32) (h1 : PH), K x h1 = some o → PF Γ I D h0 Q h1 (pc + 3) vs (.int x :: rest)) : PF Γ I D h0 Q h pc vs (va_rf r :: rest) := by
  obtain ⟨cc, nL, own, rt, xt, fr, lo, nm⟩ := I
  cases hI
  exact j_cVi (n := 0) (y := yX1_now) (cc2 := cX1_now) (As := []) (C := RX1) (ci := 0) rfl (lw_V q1573 q1574 q1575 q90 q1576) hyV_X1_now hfr hlo rfl hW hd (c_X1_now r) hf _ rfl kk
theorem kc_X0_174 {Γ : GX} {I : MI} {D : va_G} {h0 : PH} {Q : State → Prop} {h : PH} {pc : Nat} {vs : List (Option Value)} {rest : List Value} {β : Type} {o : β} {r : Option Nat}  {K : ((Int32) → PH → Option β)} (hI : I.2.2.1 = RX0) (hfr : Nat.ble 1 I.2.2.2.2.2.1 = true) (hlo : Nat.ble 20 I.2.2.2.2.2.2.1 = true) (hW : (rest.map fun v => v.category).sum ≤ 8) (hd : decode I.1 pc = .ok (.invokevirtual 174, 3)) (hf : rv_ h r 6 (cl_ (f_X7_now r h) K) = some o) (kk : ∀ (x : Int32) (h1 : PH), K x h1 = some o → PF Γ I D h0 Q h1 (pc + 3) vs (.int x :: rest)) : PF Γ I D h0 Q h pc vs (va_rf r :: rest) := by
  obtain ⟨cc, nL, own, rt, xt, fr, lo, nm⟩ := I
  cases hI
  exact j_cVi (n := 0) (y := yX7_now) (cc2 := cX7_now) (As := []) (C := RX7) (ci := 6) rfl (lw_V q2332 q2333 q2334 q117 q2335) hyV_X7_now hfr hlo rfl hW hd (c_X7_now r) hf _ rfl kk
theorem kc_X0_175 {Γ : GX} {I : MI} {D : va_G} {h0 : PH} {Q : State → Prop} {h : PH} {pc : Nat} {vs : List (Option Value)} {rest : List Value} {β : Type} {o : β} {r : Option Nat}  {K : ((Int32) → PH → Option β)} (hI : I.2.2.1 = RX0) (hfr : Nat.ble 1 I.2.2.2.2.2.1 = true) (hlo : Nat.ble 20 I.2.2.2.2.2.2.1 = true) (hW : (rest.map fun v => v.category).sum ≤ 8) (hd : decode I.1 pc = .ok (.invokevirtual 175, 3)) (hf : rv_ h r 0 (cl_ (f_X1_nodeCount r h) K) = some o) (kk : ∀ (x : Int32) (h1 : PH), K x h1 = some o → PF Γ I D h0 Q h1 (pc + 3) vs (.int x :: rest)) : PF Γ I D h0 Q h pc vs (va_rf r :: rest) := by
  obtain ⟨cc, nL, own, rt, xt, fr, lo, nm⟩ := I
  cases hI
  exact j_cVi (n := 0) (y := yX1_nodeCount) (cc2 := cX1_nodeCount) (As := []) (C := RX1) (ci := 0) rfl (lw_V q1577 q1578 q1579 q90 q1580) hyV_X1_nodeCount hfr hlo rfl hW hd (c_X1_nodeCount r) hf _ rfl kk
theorem kc_X0_178 {Γ : GX} {I : MI} {D : va_G} {h0 : PH} {Q : State → Prop} {h : PH} {pc : Nat} {vs : List (Option Value)} {rest : List Value} {β : Type} {o : β} {r : Option Nat}  {K : ((Int32) → PH → Option β)} (hI : I.2.2.1 = RX0) (hfr : Nat.ble 1 I.2.2.2.2.2.1 = true) (hlo : Nat.ble 20 I.2.2.2.2.2.2.1 = true) (hW : (rest.map fun v => v.category).sum ≤ 8) (hd : decode I.1 pc = .ok (.invokevirtual 178, 3)) (hf : rv_ h r 6 (cl_ (f_X7_nodeCount r h) K) = some o) (kk : ∀ (x : Int32) (h1 : PH), K x h1 = some o → PF Γ I D h0 Q h1 (pc + 3) vs (.int x :: rest)) : PF Γ I D h0 Q h pc vs (va_rf r :: rest) := by
  obtain ⟨cc, nL, own, rt, xt, fr, lo, nm⟩ := I
  cases hI
  exact j_cVi (n := 0) (y := yX7_nodeCount) (cc2 := cX7_nodeCount) (As := []) (C := RX7) (ci := 6) rfl (lw_V q2336 q2337 q2338 q117 q2339) hyV_X7_nodeCount hfr hlo rfl hW hd (c_X7_nodeCount r) hf _ rfl kk
theorem kc_X0_179 {Γ : GX} {I : MI} {D : va_G} {h0 : PH} {Q : State → Prop} {h : PH} {pc : Nat} {vs : List (Option Value)} {rest : List Value} {β : Type} {o : β} {p0 : Option Nat} {p1 : Int32} {p2 : Option Nat} {K : ((Int32) → PH → Option β)} (hI : I.2.2.1 = RX0) (hfr : Nat.ble 9 I.2.2.2.2.2.1 = true) (hlo : Nat.ble 154 I.2.2.2.2.2.2.1 = true) (hW : (rest.map fun v => v.category).sum ≤ 8) (hd : decode I.1 pc = .ok (.invokestatic 179, 3)) (hf : cl_ (f_X0_nodeClock p0 p1 p2 h) K = some o) (kk : ∀ (x : Int32) (h1 : PH), K x h1 = some o → PF Γ I D h0 Q h1 (pc + 3) vs (.int x :: rest)) : PF Γ I D h0 Q h pc vs (va_rf p2 :: .int p1 :: va_rf p0 :: rest) := by
  obtain ⟨cc, nL, own, rt, xt, fr, lo, nm⟩ := I
  cases hI
  exact j_cSWi (n := 3) (y := yX0_nodeClock) (cc2 := cX0_nodeClock) (As := [va_rf p0, .int p1, va_rf p2]) (lw_SW q1718 q1719 q89 q1720) hyS_X0_nodeClock hfr hlo rfl hW hd (c_X0_nodeClock p0 p1 p2) hf _ rfl kk
theorem kc_X0_181 {Γ : GX} {I : MI} {D : va_G} {h0 : PH} {Q : State → Prop} {h : PH} {pc : Nat} {vs : List (Option Value)} {rest : List Value} {β : Type} {o : β} {r : Option Nat} {p0 : Int32} {K : ((Int32) → PH → Option β)} (hI : I.2.2.1 = RX0) (hfr : Nat.ble 3 I.2.2.2.2.2.1 = true) (hlo : Nat.ble 67 I.2.2.2.2.2.2.1 = true) (hW : (rest.map fun v => v.category).sum ≤ 8) (hd : decode I.1 pc = .ok (.invokevirtual 181, 3)) (hf : rv_ h r 6 (cl_ (f_X7_nodeClock r p0 h) K) = some o) (kk : ∀ (x : Int32) (h1 : PH), K x h1 = some o → PF Γ I D h0 Q h1 (pc + 3) vs (.int x :: rest)) : PF Γ I D h0 Q h pc vs (.int p0 :: va_rf r :: rest) := by
  obtain ⟨cc, nL, own, rt, xt, fr, lo, nm⟩ := I
  cases hI
  exact j_cVi (n := 1) (y := yX7_nodeClock) (cc2 := cX7_nodeClock) (As := [.int p0]) (C := RX7) (ci := 6) rfl (lw_V q2340 q2341 q2342 q117 q2343) hyV_X7_nodeClock hfr hlo rfl hW hd (c_X7_nodeClock r p0) hf _ rfl kk
theorem kc_X0_182 {Γ : GX} {I : MI} {D : va_G} {h0 : PH} {Q : State → Prop} {h : PH} {pc : Nat} {vs : List (Option Value)} {rest : List Value} {β : Type} {o : β} {r : Option Nat}  {K : ((Int32) → PH → Option β)} (hI : I.2.2.1 = RX0) (hfr : Nat.ble 3 I.2.2.2.2.2.1 = true) (hlo : Nat.ble 61 I.2.2.2.2.2.2.1 = true) (hW : (rest.map fun v => v.category).sum ≤ 8) (hd : decode I.1 pc = .ok (.invokevirtual 182, 3)) (hf : rv_ h r 0 (cl_ (f_X1_serverClock r h) K) = some o) (kk : ∀ (x : Int32) (h1 : PH), K x h1 = some o → PF Γ I D h0 Q h1 (pc + 3) vs (.int x :: rest)) : PF Γ I D h0 Q h pc vs (va_rf r :: rest) := by
  obtain ⟨cc, nL, own, rt, xt, fr, lo, nm⟩ := I
  cases hI
  exact j_cVi (n := 0) (y := yX1_serverClock) (cc2 := cX1_serverClock) (As := []) (C := RX1) (ci := 0) rfl (lw_V q1581 q1582 q1583 q90 q1584) hyV_X1_serverClock hfr hlo rfl hW hd (c_X1_serverClock r) hf _ rfl kk
theorem kc_X0_185 {Γ : GX} {I : MI} {D : va_G} {h0 : PH} {Q : State → Prop} {h : PH} {pc : Nat} {vs : List (Option Value)} {rest : List Value} {β : Type} {o : β} {r : Option Nat}  {K : ((Int32) → PH → Option β)} (hI : I.2.2.1 = RX0) (hfr : Nat.ble 3 I.2.2.2.2.2.1 = true) (hlo : Nat.ble 62 I.2.2.2.2.2.2.1 = true) (hW : (rest.map fun v => v.category).sum ≤ 8) (hd : decode I.1 pc = .ok (.invokevirtual 185, 3)) (hf : rv_ h r 6 (cl_ (f_X7_serverClock r h) K) = some o) (kk : ∀ (x : Int32) (h1 : PH), K x h1 = some o → PF Γ I D h0 Q h1 (pc + 3) vs (.int x :: rest)) : PF Γ I D h0 Q h pc vs (va_rf r :: rest) := by
  obtain ⟨cc, nL, own, rt, xt, fr, lo, nm⟩ := I
  cases hI
  exact j_cVi (n := 0) (y := yX7_serverClock) (cc2 := cX7_serverClock) (As := []) (C := RX7) (ci := 6) rfl (lw_V q2360 q2361 q2362 q117 q2363) hyV_X7_serverClock hfr hlo rfl hW hd (c_X7_serverClock r) hf _ rfl kk
theorem kc_X0_186 {Γ : GX} {I : MI} {D : va_G} {h0 : PH} {Q : State → Prop} {h : PH} {pc : Nat} {vs : List (Option Value)} {rest : List Value} {β : Type} {o : β} {p0 : Option Nat} {p1 : Int32} {p2 : Option Nat} {K : ((Int32) → PH → Option β)} (hI : I.2.2.1 = RX0) (hfr : Nat.ble 11 I.2.2.2.2.2.1 = true) (hlo : Nat.ble 284 I.2.2.2.2.2.2.1 = true) (hW : (rest.map fun v => v.category).sum ≤ 8) (hd : decode I.1 pc = .ok (.invokestatic 186, 3)) (hf : cl_ (f_X0_campaign p0 p1 p2 h) K = some o) (kk : ∀ (x : Int32) (h1 : PH), K x h1 = some o → PF Γ I D h0 Q h1 (pc + 3) vs (.int x :: rest)) : PF Γ I D h0 Q h pc vs (va_rf p2 :: .int p1 :: va_rf p0 :: rest) := by
  obtain ⟨cc, nL, own, rt, xt, fr, lo, nm⟩ := I
  cases hI
  exact j_cSWi (n := 3) (y := yX0_campaign) (cc2 := cX0_campaign) (As := [va_rf p0, .int p1, va_rf p2]) (lw_SW q1764 q1765 q89 q1766) hyS_X0_campaign hfr hlo rfl hW hd (c_X0_campaign p0 p1 p2) hf _ rfl kk
theorem kc_X0_188 {Γ : GX} {I : MI} {D : va_G} {h0 : PH} {Q : State → Prop} {h : PH} {pc : Nat} {vs : List (Option Value)} {rest : List Value} {β : Type} {o : β} {r : Option Nat} {p0 : Int32} {K : ((Int32) → PH → Option β)} (hI : I.2.2.1 = RX0) (hfr : Nat.ble 4 I.2.2.2.2.2.1 = true) (hlo : Nat.ble 91 I.2.2.2.2.2.2.1 = true) (hW : (rest.map fun v => v.category).sum ≤ 8) (hd : decode I.1 pc = .ok (.invokevirtual 188, 3)) (hf : rv_ h r 6 (cl_ (f_X7_campaign r p0 h) K) = some o) (kk : ∀ (x : Int32) (h1 : PH), K x h1 = some o → PF Γ I D h0 Q h1 (pc + 3) vs (.int x :: rest)) : PF Γ I D h0 Q h pc vs (.int p0 :: va_rf r :: rest) := by
  obtain ⟨cc, nL, own, rt, xt, fr, lo, nm⟩ := I
  cases hI
  exact j_cVi (n := 1) (y := yX7_campaign) (cc2 := cX7_campaign) (As := [.int p0]) (C := RX7) (ci := 6) rfl (lw_V q2500 q2501 q2502 q117 q2503) hyV_X7_campaign hfr hlo rfl hW hd (c_X7_campaign r p0) hf _ rfl kk
theorem kc_X0_189 {Γ : GX} {I : MI} {D : va_G} {h0 : PH} {Q : State → Prop} {h : PH} {pc : Nat} {vs : List (Option Value)} {rest : List Value} {β : Type} {o : β} {p0 : Option Nat} {p1 : Int32} {p2 : Option Nat} {K : ((Int32) → PH → Option β)} (hI : I.2.2.1 = RX0) (hfr : Nat.ble 10 I.2.2.2.2.2.1 = true) (hlo : Nat.ble 262 I.2.2.2.2.2.2.1 = true) (hW : (rest.map fun v => v.category).sum ≤ 8) (hd : decode I.1 pc = .ok (.invokestatic 189, 3)) (hf : cl_ (f_X0_withdraw p0 p1 p2 h) K = some o) (kk : ∀ (x : Int32) (h1 : PH), K x h1 = some o → PF Γ I D h0 Q h1 (pc + 3) vs (.int x :: rest)) : PF Γ I D h0 Q h pc vs (va_rf p2 :: .int p1 :: va_rf p0 :: rest) := by
  obtain ⟨cc, nL, own, rt, xt, fr, lo, nm⟩ := I
  cases hI
  exact j_cSWi (n := 3) (y := yX0_withdraw) (cc2 := cX0_withdraw) (As := [va_rf p0, .int p1, va_rf p2]) (lw_SW q1777 q1778 q89 q1779) hyS_X0_withdraw hfr hlo rfl hW hd (c_X0_withdraw p0 p1 p2) hf _ rfl kk
theorem kc_X0_191 {Γ : GX} {I : MI} {D : va_G} {h0 : PH} {Q : State → Prop} {h : PH} {pc : Nat} {vs : List (Option Value)} {rest : List Value} {β : Type} {o : β} {r : Option Nat} {p0 : Int32} {K : ((Int32) → PH → Option β)} (hI : I.2.2.1 = RX0) (hfr : Nat.ble 4 I.2.2.2.2.2.1 = true) (hlo : Nat.ble 86 I.2.2.2.2.2.2.1 = true) (hW : (rest.map fun v => v.category).sum ≤ 8) (hd : decode I.1 pc = .ok (.invokevirtual 191, 3)) (hf : rv_ h r 6 (cl_ (f_X7_withdraw r p0 h) K) = some o) (kk : ∀ (x : Int32) (h1 : PH), K x h1 = some o → PF Γ I D h0 Q h1 (pc + 3) vs (.int x :: rest)) : PF Γ I D h0 Q h pc vs (.int p0 :: va_rf r :: rest) := by
  obtain ⟨cc, nL, own, rt, xt, fr, lo, nm⟩ := I
  cases hI
  exact j_cVi (n := 1) (y := yX7_withdraw) (cc2 := cX7_withdraw) (As := [.int p0]) (C := RX7) (ci := 6) rfl (lw_V q2508 q2509 q2510 q117 q2511) hyV_X7_withdraw hfr hlo rfl hW hd (c_X7_withdraw r p0) hf _ rfl kk
theorem kc_X0_192 {Γ : GX} {I : MI} {D : va_G} {h0 : PH} {Q : State → Prop} {h : PH} {pc : Nat} {vs : List (Option Value)} {rest : List Value} {β : Type} {o : β} {p0 : Option Nat} {p1 : Int32} {p2 : Option Nat} {K : ((Int32) → PH → Option β)} (hI : I.2.2.1 = RX0) (hfr : Nat.ble 10 I.2.2.2.2.2.1 = true) (hlo : Nat.ble 260 I.2.2.2.2.2.2.1 = true) (hW : (rest.map fun v => v.category).sum ≤ 8) (hd : decode I.1 pc = .ok (.invokestatic 192, 3)) (hf : cl_ (f_X0_crash p0 p1 p2 h) K = some o) (kk : ∀ (x : Int32) (h1 : PH), K x h1 = some o → PF Γ I D h0 Q h1 (pc + 3) vs (.int x :: rest)) : PF Γ I D h0 Q h pc vs (va_rf p2 :: .int p1 :: va_rf p0 :: rest) := by
  obtain ⟨cc, nL, own, rt, xt, fr, lo, nm⟩ := I
  cases hI
  exact j_cSWi (n := 3) (y := yX0_crash) (cc2 := cX0_crash) (As := [va_rf p0, .int p1, va_rf p2]) (lw_SW q1787 q1788 q89 q1789) hyS_X0_crash hfr hlo rfl hW hd (c_X0_crash p0 p1 p2) hf _ rfl kk
theorem kc_X0_194 {Γ : GX} {I : MI} {D : va_G} {h0 : PH} {Q : State → Prop} {h : PH} {pc : Nat} {vs : List (Option Value)} {rest : List Value} {β : Type} {o : β} {r : Option Nat} {p0 : Int32} {K : ((Int32) → PH → Option β)} (hI : I.2.2.1 = RX0) (hfr : Nat.ble 3 I.2.2.2.2.2.1 = true) (hlo : Nat.ble 68 I.2.2.2.2.2.2.1 = true) (hW : (rest.map fun v => v.category).sum ≤ 8) (hd : decode I.1 pc = .ok (.invokevirtual 194, 3)) (hf : rv_ h r 6 (cl_ (f_X7_crash r p0 h) K) = some o) (kk : ∀ (x : Int32) (h1 : PH), K x h1 = some o → PF Γ I D h0 Q h1 (pc + 3) vs (.int x :: rest)) : PF Γ I D h0 Q h pc vs (.int p0 :: va_rf r :: rest) := by
  obtain ⟨cc, nL, own, rt, xt, fr, lo, nm⟩ := I
  cases hI
  exact j_cVi (n := 1) (y := yX7_crash) (cc2 := cX7_crash) (As := [.int p0]) (C := RX7) (ci := 6) rfl (lw_V q2512 q2513 q2514 q117 q2515) hyV_X7_crash hfr hlo rfl hW hd (c_X7_crash r p0) hf _ rfl kk
theorem kc_X0_195 {Γ : GX} {I : MI} {D : va_G} {h0 : PH} {Q : State → Prop} {h : PH} {pc : Nat} {vs : List (Option Value)} {rest : List Value} {β : Type} {o : β} {p0 : Option Nat} {p1 : Int32} {p2 : Option Nat} {K : ((Int32) → PH → Option β)} (hI : I.2.2.1 = RX0) (hfr : Nat.ble 9 I.2.2.2.2.2.1 = true) (hlo : Nat.ble 156 I.2.2.2.2.2.2.1 = true) (hW : (rest.map fun v => v.category).sum ≤ 8) (hd : decode I.1 pc = .ok (.invokestatic 195, 3)) (hf : cl_ (f_X0_restart p0 p1 p2 h) K = some o) (kk : ∀ (x : Int32) (h1 : PH), K x h1 = some o → PF Γ I D h0 Q h1 (pc + 3) vs (.int x :: rest)) : PF Γ I D h0 Q h pc vs (va_rf p2 :: .int p1 :: va_rf p0 :: rest) := by
  obtain ⟨cc, nL, own, rt, xt, fr, lo, nm⟩ := I
  cases hI
  exact j_cSWi (n := 3) (y := yX0_restart) (cc2 := cX0_restart) (As := [va_rf p0, .int p1, va_rf p2]) (lw_SW q1795 q1796 q89 q1797) hyS_X0_restart hfr hlo rfl hW hd (c_X0_restart p0 p1 p2) hf _ rfl kk
theorem kc_X0_197 {Γ : GX} {I : MI} {D : va_G} {h0 : PH} {Q : State → Prop} {h : PH} {pc : Nat} {vs : List (Option Value)} {rest : List Value} {β : Type} {o : β} {r : Option Nat} {p0 : Int32} {K : ((Int32) → PH → Option β)} (hI : I.2.2.1 = RX0) (hfr : Nat.ble 3 I.2.2.2.2.2.1 = true) (hlo : Nat.ble 67 I.2.2.2.2.2.2.1 = true) (hW : (rest.map fun v => v.category).sum ≤ 8) (hd : decode I.1 pc = .ok (.invokevirtual 197, 3)) (hf : rv_ h r 6 (cl_ (f_X7_restart r p0 h) K) = some o) (kk : ∀ (x : Int32) (h1 : PH), K x h1 = some o → PF Γ I D h0 Q h1 (pc + 3) vs (.int x :: rest)) : PF Γ I D h0 Q h pc vs (.int p0 :: va_rf r :: rest) := by
  obtain ⟨cc, nL, own, rt, xt, fr, lo, nm⟩ := I
  cases hI
  exact j_cVi (n := 1) (y := yX7_restart) (cc2 := cX7_restart) (As := [.int p0]) (C := RX7) (ci := 6) rfl (lw_V q2516 q2517 q2518 q117 q2519) hyV_X7_restart hfr hlo rfl hW hd (c_X7_restart r p0) hf _ rfl kk
theorem kc_X0_198 {Γ : GX} {I : MI} {D : va_G} {h0 : PH} {Q : State → Prop} {h : PH} {pc : Nat} {vs : List (Option Value)} {rest : List Value} {β : Type} {o : β} {p0 : Option Nat} {p1 : Int32} {p2 : Int32} {p3 : Option Nat} {K : ((Int32) → PH → Option β)} (hI : I.2.2.1 = RX0) (hfr : Nat.ble 9 I.2.2.2.2.2.1 = true) (hlo : Nat.ble 157 I.2.2.2.2.2.2.1 = true) (hW : (rest.map fun v => v.category).sum ≤ 8) (hd : decode I.1 pc = .ok (.invokestatic 198, 3)) (hf : cl_ (f_X0_pause p0 p1 p2 p3 h) K = some o) (kk : ∀ (x : Int32) (h1 : PH), K x h1 = some o → PF Γ I D h0 Q h1 (pc + 3) vs (.int x :: rest)) : PF Γ I D h0 Q h pc vs (va_rf p3 :: .int p2 :: .int p1 :: va_rf p0 :: rest) := by
  obtain ⟨cc, nL, own, rt, xt, fr, lo, nm⟩ := I
  cases hI
  exact j_cSWi (n := 4) (y := yX0_pause) (cc2 := cX0_pause) (As := [va_rf p0, .int p1, .int p2, va_rf p3]) (lw_SW q1802 q1803 q89 q1804) hyS_X0_pause hfr hlo rfl hW hd (c_X0_pause p0 p1 p2 p3) hf _ rfl kk
theorem kc_X0_201 {Γ : GX} {I : MI} {D : va_G} {h0 : PH} {Q : State → Prop} {h : PH} {pc : Nat} {vs : List (Option Value)} {rest : List Value} {β : Type} {o : β} {r : Option Nat} {p0 : Int32} {p1 : Int32} {K : ((Int32) → PH → Option β)} (hI : I.2.2.1 = RX0) (hfr : Nat.ble 3 I.2.2.2.2.2.1 = true) (hlo : Nat.ble 68 I.2.2.2.2.2.2.1 = true) (hW : (rest.map fun v => v.category).sum ≤ 8) (hd : decode I.1 pc = .ok (.invokevirtual 201, 3)) (hf : rv_ h r 6 (cl_ (f_X7_pause r p0 p1 h) K) = some o) (kk : ∀ (x : Int32) (h1 : PH), K x h1 = some o → PF Γ I D h0 Q h1 (pc + 3) vs (.int x :: rest)) : PF Γ I D h0 Q h pc vs (.int p1 :: .int p0 :: va_rf r :: rest) := by
  obtain ⟨cc, nL, own, rt, xt, fr, lo, nm⟩ := I
  cases hI
  exact j_cVi (n := 2) (y := yX7_pause) (cc2 := cX7_pause) (As := [.int p0, .int p1]) (C := RX7) (ci := 6) rfl (lw_V q2520 q2521 q2522 q117 q2523) hyV_X7_pause hfr hlo rfl hW hd (c_X7_pause r p0 p1) hf _ rfl kk
theorem kc_X0_206 {Γ : GX} {I : MI} {D : va_G} {h0 : PH} {Q : State → Prop} {h : PH} {pc : Nat} {vs : List (Option Value)} {rest : List Value} {β : Type} {o : β} {p0 : Option Nat} {p1 : Int32} {p2 : Int32} {p3 : Int32} {p4 : Option Nat} {K : ((Int32) → PH → Option β)} (hI : I.2.2.1 = RX0) (hfr : Nat.ble 9 I.2.2.2.2.2.1 = true) (hlo : Nat.ble 240 I.2.2.2.2.2.2.1 = true) (hW : (rest.map fun v => v.category).sum ≤ 8) (hd : decode I.1 pc = .ok (.invokestatic 206, 3)) (hf : cl_ (f_X0_planOutage p0 p1 p2 p3 p4 h) K = some o) (kk : ∀ (x : Int32) (h1 : PH), K x h1 = some o → PF Γ I D h0 Q h1 (pc + 3) vs (.int x :: rest)) : PF Γ I D h0 Q h pc vs (va_rf p4 :: .int p3 :: .int p2 :: .int p1 :: va_rf p0 :: rest) := by
  obtain ⟨cc, nL, own, rt, xt, fr, lo, nm⟩ := I
  cases hI
  exact j_cSWi (n := 5) (y := yX0_planOutage) (cc2 := cX0_planOutage) (As := [va_rf p0, .int p1, .int p2, .int p3, va_rf p4]) (lw_SW q1817 q1818 q89 q1819) hyS_X0_planOutage hfr hlo rfl hW hd (c_X0_planOutage p0 p1 p2 p3 p4) hf _ rfl kk
theorem kc_X0_209 {Γ : GX} {I : MI} {D : va_G} {h0 : PH} {Q : State → Prop} {h : PH} {pc : Nat} {vs : List (Option Value)} {rest : List Value} {β : Type} {o : β} {r : Option Nat} {p0 : Int32} {p1 : Int32} {p2 : Int32} {K : ((Int32) → PH → Option β)} (hI : I.2.2.1 = RX0) (hfr : Nat.ble 3 I.2.2.2.2.2.1 = true) (hlo : Nat.ble 70 I.2.2.2.2.2.2.1 = true) (hW : (rest.map fun v => v.category).sum ≤ 8) (hd : decode I.1 pc = .ok (.invokevirtual 209, 3)) (hf : rv_ h r 6 (cl_ (f_X7_planOutage r p0 p1 p2 h) K) = some o) (kk : ∀ (x : Int32) (h1 : PH), K x h1 = some o → PF Γ I D h0 Q h1 (pc + 3) vs (.int x :: rest)) : PF Γ I D h0 Q h pc vs (.int p2 :: .int p1 :: .int p0 :: va_rf r :: rest) := by
  obtain ⟨cc, nL, own, rt, xt, fr, lo, nm⟩ := I
  cases hI
  exact j_cVi (n := 3) (y := yX7_planOutage) (cc2 := cX7_planOutage) (As := [.int p0, .int p1, .int p2]) (C := RX7) (ci := 6) rfl (lw_V q2529 q2530 q2531 q117 q2532) hyV_X7_planOutage hfr hlo rfl hW hd (c_X7_planOutage r p0 p1 p2) hf _ rfl kk
theorem kc_X0_210 {Γ : GX} {I : MI} {D : va_G} {h0 : PH} {Q : State → Prop} {h : PH} {pc : Nat} {vs : List (Option Value)} {rest : List Value} {β : Type} {o : β} {r : Option Nat}  {K : ((Int32) → PH → Option β)} (hI : I.2.2.1 = RX0) (hfr : Nat.ble 10 I.2.2.2.2.2.1 = true) (hlo : Nat.ble 254 I.2.2.2.2.2.2.1 = true) (hW : (rest.map fun v => v.category).sum ≤ 8) (hd : decode I.1 pc = .ok (.invokevirtual 210, 3)) (hf : rv_ h r 0 (cl_ (f_X1_restartServer r h) K) = some o) (kk : ∀ (x : Int32) (h1 : PH), K x h1 = some o → PF Γ I D h0 Q h1 (pc + 3) vs (.int x :: rest)) : PF Γ I D h0 Q h pc vs (va_rf r :: rest) := by
  obtain ⟨cc, nL, own, rt, xt, fr, lo, nm⟩ := I
  cases hI
  exact j_cVi (n := 0) (y := yX1_restartServer) (cc2 := cX1_restartServer) (As := []) (C := RX1) (ci := 0) rfl (lw_V q1586 q1587 q1588 q90 q1589) hyV_X1_restartServer hfr hlo rfl hW hd (c_X1_restartServer r) hf _ rfl kk
theorem kc_X0_213 {Γ : GX} {I : MI} {D : va_G} {h0 : PH} {Q : State → Prop} {h : PH} {pc : Nat} {vs : List (Option Value)} {rest : List Value} {β : Type} {o : β} {r : Option Nat}  {K : ((Int32) → PH → Option β)} (hI : I.2.2.1 = RX0) (hfr : Nat.ble 3 I.2.2.2.2.2.1 = true) (hlo : Nat.ble 62 I.2.2.2.2.2.2.1 = true) (hW : (rest.map fun v => v.category).sum ≤ 8) (hd : decode I.1 pc = .ok (.invokevirtual 213, 3)) (hf : rv_ h r 6 (cl_ (f_X7_restartServer r h) K) = some o) (kk : ∀ (x : Int32) (h1 : PH), K x h1 = some o → PF Γ I D h0 Q h1 (pc + 3) vs (.int x :: rest)) : PF Γ I D h0 Q h pc vs (va_rf r :: rest) := by
  obtain ⟨cc, nL, own, rt, xt, fr, lo, nm⟩ := I
  cases hI
  exact j_cVi (n := 0) (y := yX7_restartServer) (cc2 := cX7_restartServer) (As := []) (C := RX7) (ci := 6) rfl (lw_V q2533 q2534 q2535 q117 q2536) hyV_X7_restartServer hfr hlo rfl hW hd (c_X7_restartServer r) hf _ rfl kk
theorem kc_X0_214 {Γ : GX} {I : MI} {D : va_G} {h0 : PH} {Q : State → Prop} {h : PH} {pc : Nat} {vs : List (Option Value)} {rest : List Value} {β : Type} {o : β} {p0 : Option Nat} {p1 : Int32} {p2 : Int32} {p3 : Int32} {p4 : Option Nat} {K : ((Int32) → PH → Option β)} (hI : I.2.2.1 = RX0) (hfr : Nat.ble 10 I.2.2.2.2.2.1 = true) (hlo : Nat.ble 265 I.2.2.2.2.2.2.1 = true) (hW : (rest.map fun v => v.category).sum ≤ 8) (hd : decode I.1 pc = .ok (.invokestatic 214, 3)) (hf : cl_ (f_X0_write p0 p1 p2 p3 p4 h) K = some o) (kk : ∀ (x : Int32) (h1 : PH), K x h1 = some o → PF Γ I D h0 Q h1 (pc + 3) vs (.int x :: rest)) : PF Γ I D h0 Q h pc vs (va_rf p4 :: .int p3 :: .int p2 :: .int p1 :: va_rf p0 :: rest) := by
  obtain ⟨cc, nL, own, rt, xt, fr, lo, nm⟩ := I
  cases hI
  exact j_cSWi (n := 5) (y := yX0_write) (cc2 := cX0_write) (As := [va_rf p0, .int p1, .int p2, .int p3, va_rf p4]) (lw_SW q1843 q1844 q89 q1845) hyS_X0_write hfr hlo rfl hW hd (c_X0_write p0 p1 p2 p3 p4) hf _ rfl kk
theorem kc_X0_216 {Γ : GX} {I : MI} {D : va_G} {h0 : PH} {Q : State → Prop} {h : PH} {pc : Nat} {vs : List (Option Value)} {rest : List Value} {β : Type} {o : β} {r : Option Nat} {p0 : Int32} {p1 : Int32} {p2 : Int32} {K : ((Int32) → PH → Option β)} (hI : I.2.2.1 = RX0) (hfr : Nat.ble 5 I.2.2.2.2.2.1 = true) (hlo : Nat.ble 108 I.2.2.2.2.2.2.1 = true) (hW : (rest.map fun v => v.category).sum ≤ 8) (hd : decode I.1 pc = .ok (.invokevirtual 216, 3)) (hf : rv_ h r 6 (cl_ (f_X7_write r p0 p1 p2 h) K) = some o) (kk : ∀ (x : Int32) (h1 : PH), K x h1 = some o → PF Γ I D h0 Q h1 (pc + 3) vs (.int x :: rest)) : PF Γ I D h0 Q h pc vs (.int p2 :: .int p1 :: .int p0 :: va_rf r :: rest) := by
  obtain ⟨cc, nL, own, rt, xt, fr, lo, nm⟩ := I
  cases hI
  exact j_cVi (n := 3) (y := yX7_write) (cc2 := cX7_write) (As := [.int p0, .int p1, .int p2]) (C := RX7) (ci := 6) rfl (lw_V q2537 q2538 q2539 q117 q2540) hyV_X7_write hfr hlo rfl hW hd (c_X7_write r p0 p1 p2) hf _ rfl kk
theorem kc_X0_217 {Γ : GX} {I : MI} {D : va_G} {h0 : PH} {Q : State → Prop} {h : PH} {pc : Nat} {vs : List (Option Value)} {rest : List Value} {β : Type} {o : β} {p0 : Option Nat} {p1 : Int32} {p2 : Int32} {p3 : Int32} {p4 : Int32} {p5 : Option Nat} {K : ((Int32) → PH → Option β)} (hI : I.2.2.1 = RX0) (hfr : Nat.ble 10 I.2.2.2.2.2.1 = true) (hlo : Nat.ble 242 I.2.2.2.2.2.2.1 = true) (hW : (rest.map fun v => v.category).sum ≤ 8) (hd : decode I.1 pc = .ok (.invokestatic 217, 3)) (hf : cl_ (f_X0_writeLater p0 p1 p2 p3 p4 p5 h) K = some o) (kk : ∀ (x : Int32) (h1 : PH), K x h1 = some o → PF Γ I D h0 Q h1 (pc + 3) vs (.int x :: rest)) : PF Γ I D h0 Q h pc vs (va_rf p5 :: .int p4 :: .int p3 :: .int p2 :: .int p1 :: va_rf p0 :: rest) := by
  obtain ⟨cc, nL, own, rt, xt, fr, lo, nm⟩ := I
  cases hI
  exact j_cSWi (n := 6) (y := yX0_writeLater) (cc2 := cX0_writeLater) (As := [va_rf p0, .int p1, .int p2, .int p3, .int p4, va_rf p5]) (lw_SW q1861 q1862 q89 q1863) hyS_X0_writeLater hfr hlo rfl hW hd (c_X0_writeLater p0 p1 p2 p3 p4 p5) hf _ rfl kk
theorem kc_X0_220 {Γ : GX} {I : MI} {D : va_G} {h0 : PH} {Q : State → Prop} {h : PH} {pc : Nat} {vs : List (Option Value)} {rest : List Value} {β : Type} {o : β} {r : Option Nat} {p0 : Int32} {p1 : Int32} {p2 : Int32} {p3 : Int32} {K : ((Int32) → PH → Option β)} (hI : I.2.2.1 = RX0) (hfr : Nat.ble 5 I.2.2.2.2.2.1 = true) (hlo : Nat.ble 110 I.2.2.2.2.2.2.1 = true) (hW : (rest.map fun v => v.category).sum ≤ 8) (hd : decode I.1 pc = .ok (.invokevirtual 220, 3)) (hf : rv_ h r 6 (cl_ (f_X7_writeLater r p0 p1 p2 p3 h) K) = some o) (kk : ∀ (x : Int32) (h1 : PH), K x h1 = some o → PF Γ I D h0 Q h1 (pc + 3) vs (.int x :: rest)) : PF Γ I D h0 Q h pc vs (.int p3 :: .int p2 :: .int p1 :: .int p0 :: va_rf r :: rest) := by
  obtain ⟨cc, nL, own, rt, xt, fr, lo, nm⟩ := I
  cases hI
  exact j_cVi (n := 4) (y := yX7_writeLater) (cc2 := cX7_writeLater) (As := [.int p0, .int p1, .int p2, .int p3]) (C := RX7) (ci := 6) rfl (lw_V q2553 q2554 q2555 q117 q2556) hyV_X7_writeLater hfr hlo rfl hW hd (c_X7_writeLater r p0 p1 p2 p3) hf _ rfl kk
theorem kc_X0_221 {Γ : GX} {I : MI} {D : va_G} {h0 : PH} {Q : State → Prop} {h : PH} {pc : Nat} {vs : List (Option Value)} {rest : List Value} {β : Type} {o : β} {p0 : Option Nat} {p1 : Int32} {p2 : Int32} {p3 : Option Nat} {K : ((Int32) → PH → Option β)} (hI : I.2.2.1 = RX0) (hfr : Nat.ble 10 I.2.2.2.2.2.1 = true) (hlo : Nat.ble 263 I.2.2.2.2.2.2.1 = true) (hW : (rest.map fun v => v.category).sum ≤ 8) (hd : decode I.1 pc = .ok (.invokestatic 221, 3)) (hf : cl_ (f_X0_fetch p0 p1 p2 p3 h) K = some o) (kk : ∀ (x : Int32) (h1 : PH), K x h1 = some o → PF Γ I D h0 Q h1 (pc + 3) vs (.int x :: rest)) : PF Γ I D h0 Q h pc vs (va_rf p3 :: .int p2 :: .int p1 :: va_rf p0 :: rest) := by
  obtain ⟨cc, nL, own, rt, xt, fr, lo, nm⟩ := I
  cases hI
  exact j_cSWi (n := 4) (y := yX0_fetch) (cc2 := cX0_fetch) (As := [va_rf p0, .int p1, .int p2, va_rf p3]) (lw_SW q1895 q1896 q89 q1897) hyS_X0_fetch hfr hlo rfl hW hd (c_X0_fetch p0 p1 p2 p3) hf _ rfl kk
theorem kc_X0_223 {Γ : GX} {I : MI} {D : va_G} {h0 : PH} {Q : State → Prop} {h : PH} {pc : Nat} {vs : List (Option Value)} {rest : List Value} {β : Type} {o : β} {r : Option Nat} {p0 : Int32} {p1 : Int32} {K : ((Int32) → PH → Option β)} (hI : I.2.2.1 = RX0) (hfr : Nat.ble 5 I.2.2.2.2.2.1 = true) (hlo : Nat.ble 107 I.2.2.2.2.2.2.1 = true) (hW : (rest.map fun v => v.category).sum ≤ 8) (hd : decode I.1 pc = .ok (.invokevirtual 223, 3)) (hf : rv_ h r 6 (cl_ (f_X7_fetch r p0 p1 h) K) = some o) (kk : ∀ (x : Int32) (h1 : PH), K x h1 = some o → PF Γ I D h0 Q h1 (pc + 3) vs (.int x :: rest)) : PF Γ I D h0 Q h pc vs (.int p1 :: .int p0 :: va_rf r :: rest) := by
  obtain ⟨cc, nL, own, rt, xt, fr, lo, nm⟩ := I
  cases hI
  exact j_cVi (n := 2) (y := yX7_fetch) (cc2 := cX7_fetch) (As := [.int p0, .int p1]) (C := RX7) (ci := 6) rfl (lw_V q2557 q2558 q2559 q117 q2560) hyV_X7_fetch hfr hlo rfl hW hd (c_X7_fetch r p0 p1) hf _ rfl kk
theorem kc_X0_224 {Γ : GX} {I : MI} {D : va_G} {h0 : PH} {Q : State → Prop} {h : PH} {pc : Nat} {vs : List (Option Value)} {rest : List Value} {β : Type} {o : β} {p0 : Option Nat} {p1 : Int32} {p2 : Int32} {p3 : Option Nat} {K : ((Int32) → PH → Option β)} (hI : I.2.2.1 = RX0) (hfr : Nat.ble 10 I.2.2.2.2.2.1 = true) (hlo : Nat.ble 176 I.2.2.2.2.2.2.1 = true) (hW : (rest.map fun v => v.category).sum ≤ 8) (hd : decode I.1 pc = .ok (.invokestatic 224, 3)) (hf : cl_ (f_X0_read p0 p1 p2 p3 h) K = some o) (kk : ∀ (x : Int32) (h1 : PH), K x h1 = some o → PF Γ I D h0 Q h1 (pc + 3) vs (.int x :: rest)) : PF Γ I D h0 Q h pc vs (va_rf p3 :: .int p2 :: .int p1 :: va_rf p0 :: rest) := by
  obtain ⟨cc, nL, own, rt, xt, fr, lo, nm⟩ := I
  cases hI
  exact j_cSWi (n := 4) (y := yX0_read) (cc2 := cX0_read) (As := [va_rf p0, .int p1, .int p2, va_rf p3]) (lw_SW q1903 q1904 q89 q1905) hyS_X0_read hfr hlo rfl hW hd (c_X0_read p0 p1 p2 p3) hf _ rfl kk
theorem kc_X0_226 {Γ : GX} {I : MI} {D : va_G} {h0 : PH} {Q : State → Prop} {h : PH} {pc : Nat} {vs : List (Option Value)} {rest : List Value} {β : Type} {o : β} {r : Option Nat} {p0 : Int32} {p1 : Int32} {K : ((Int32) → PH → Option β)} (hI : I.2.2.1 = RX0) (hfr : Nat.ble 5 I.2.2.2.2.2.1 = true) (hlo : Nat.ble 108 I.2.2.2.2.2.2.1 = true) (hW : (rest.map fun v => v.category).sum ≤ 8) (hd : decode I.1 pc = .ok (.invokevirtual 226, 3)) (hf : rv_ h r 6 (cl_ (f_X7_read r p0 p1 h) K) = some o) (kk : ∀ (x : Int32) (h1 : PH), K x h1 = some o → PF Γ I D h0 Q h1 (pc + 3) vs (.int x :: rest)) : PF Γ I D h0 Q h pc vs (.int p1 :: .int p0 :: va_rf r :: rest) := by
  obtain ⟨cc, nL, own, rt, xt, fr, lo, nm⟩ := I
  cases hI
  exact j_cVi (n := 2) (y := yX7_read) (cc2 := cX7_read) (As := [.int p0, .int p1]) (C := RX7) (ci := 6) rfl (lw_V q2561 q2562 q2563 q117 q2564) hyV_X7_read hfr hlo rfl hW hd (c_X7_read r p0 p1) hf _ rfl kk
theorem kc_X0_227 {Γ : GX} {I : MI} {D : va_G} {h0 : PH} {Q : State → Prop} {h : PH} {pc : Nat} {vs : List (Option Value)} {rest : List Value} {β : Type} {o : β} {p0 : Option Nat} {p1 : Int32} {p2 : Option Nat} {K : ((Int32) → PH → Option β)} (hI : I.2.2.1 = RX0) (hfr : Nat.ble 10 I.2.2.2.2.2.1 = true) (hlo : Nat.ble 173 I.2.2.2.2.2.2.1 = true) (hW : (rest.map fun v => v.category).sum ≤ 8) (hd : decode I.1 pc = .ok (.invokestatic 227, 3)) (hf : cl_ (f_X0_stored p0 p1 p2 h) K = some o) (kk : ∀ (x : Int32) (h1 : PH), K x h1 = some o → PF Γ I D h0 Q h1 (pc + 3) vs (.int x :: rest)) : PF Γ I D h0 Q h pc vs (va_rf p2 :: .int p1 :: va_rf p0 :: rest) := by
  obtain ⟨cc, nL, own, rt, xt, fr, lo, nm⟩ := I
  cases hI
  exact j_cSWi (n := 3) (y := yX0_stored) (cc2 := cX0_stored) (As := [va_rf p0, .int p1, va_rf p2]) (lw_SW q1910 q1911 q89 q1912) hyS_X0_stored hfr hlo rfl hW hd (c_X0_stored p0 p1 p2) hf _ rfl kk
theorem kc_X0_229 {Γ : GX} {I : MI} {D : va_G} {h0 : PH} {Q : State → Prop} {h : PH} {pc : Nat} {vs : List (Option Value)} {rest : List Value} {β : Type} {o : β} {r : Option Nat} {p0 : Int32} {K : ((Int32) → PH → Option β)} (hI : I.2.2.1 = RX0) (hfr : Nat.ble 4 I.2.2.2.2.2.1 = true) (hlo : Nat.ble 88 I.2.2.2.2.2.2.1 = true) (hW : (rest.map fun v => v.category).sum ≤ 8) (hd : decode I.1 pc = .ok (.invokevirtual 229, 3)) (hf : rv_ h r 6 (cl_ (f_X7_stored r p0 h) K) = some o) (kk : ∀ (x : Int32) (h1 : PH), K x h1 = some o → PF Γ I D h0 Q h1 (pc + 3) vs (.int x :: rest)) : PF Γ I D h0 Q h pc vs (.int p0 :: va_rf r :: rest) := by
  obtain ⟨cc, nL, own, rt, xt, fr, lo, nm⟩ := I
  cases hI
  exact j_cVi (n := 1) (y := yX7_stored) (cc2 := cX7_stored) (As := [.int p0]) (C := RX7) (ci := 6) rfl (lw_V q2565 q2566 q2567 q117 q2568) hyV_X7_stored hfr hlo rfl hW hd (c_X7_stored r p0) hf _ rfl kk
theorem kc_X0_230 {Γ : GX} {I : MI} {D : va_G} {h0 : PH} {Q : State → Prop} {h : PH} {pc : Nat} {vs : List (Option Value)} {rest : List Value} {β : Type} {o : β} {p0 : Option Nat} {p1 : Int32} {p2 : Option Nat} {K : ((Int32) → PH → Option β)} (hI : I.2.2.1 = RX0) (hfr : Nat.ble 10 I.2.2.2.2.2.1 = true) (hlo : Nat.ble 173 I.2.2.2.2.2.2.1 = true) (hW : (rest.map fun v => v.category).sum ≤ 8) (hd : decode I.1 pc = .ok (.invokestatic 230, 3)) (hf : cl_ (f_X0_version p0 p1 p2 h) K = some o) (kk : ∀ (x : Int32) (h1 : PH), K x h1 = some o → PF Γ I D h0 Q h1 (pc + 3) vs (.int x :: rest)) : PF Γ I D h0 Q h pc vs (va_rf p2 :: .int p1 :: va_rf p0 :: rest) := by
  obtain ⟨cc, nL, own, rt, xt, fr, lo, nm⟩ := I
  cases hI
  exact j_cSWi (n := 3) (y := yX0_version) (cc2 := cX0_version) (As := [va_rf p0, .int p1, va_rf p2]) (lw_SW q1917 q1918 q89 q1919) hyS_X0_version hfr hlo rfl hW hd (c_X0_version p0 p1 p2) hf _ rfl kk
theorem kc_X0_232 {Γ : GX} {I : MI} {D : va_G} {h0 : PH} {Q : State → Prop} {h : PH} {pc : Nat} {vs : List (Option Value)} {rest : List Value} {β : Type} {o : β} {r : Option Nat} {p0 : Int32} {K : ((Int32) → PH → Option β)} (hI : I.2.2.1 = RX0) (hfr : Nat.ble 4 I.2.2.2.2.2.1 = true) (hlo : Nat.ble 88 I.2.2.2.2.2.2.1 = true) (hW : (rest.map fun v => v.category).sum ≤ 8) (hd : decode I.1 pc = .ok (.invokevirtual 232, 3)) (hf : rv_ h r 6 (cl_ (f_X7_version r p0 h) K) = some o) (kk : ∀ (x : Int32) (h1 : PH), K x h1 = some o → PF Γ I D h0 Q h1 (pc + 3) vs (.int x :: rest)) : PF Γ I D h0 Q h pc vs (.int p0 :: va_rf r :: rest) := by
  obtain ⟨cc, nL, own, rt, xt, fr, lo, nm⟩ := I
  cases hI
  exact j_cVi (n := 1) (y := yX7_version) (cc2 := cX7_version) (As := [.int p0]) (C := RX7) (ci := 6) rfl (lw_V q2573 q2574 q2575 q117 q2576) hyV_X7_version hfr hlo rfl hW hd (c_X7_version r p0) hf _ rfl kk
theorem kc_X0_233 {Γ : GX} {I : MI} {D : va_G} {h0 : PH} {Q : State → Prop} {h : PH} {pc : Nat} {vs : List (Option Value)} {rest : List Value} {β : Type} {o : β} {r : Option Nat}  {K : ((Int32) → PH → Option β)} (hI : I.2.2.1 = RX0) (hfr : Nat.ble 1 I.2.2.2.2.2.1 = true) (hlo : Nat.ble 20 I.2.2.2.2.2.2.1 = true) (hW : (rest.map fun v => v.category).sum ≤ 8) (hd : decode I.1 pc = .ok (.invokevirtual 233, 3)) (hf : rv_ h r 0 (cl_ (f_X1_storageToken r h) K) = some o) (kk : ∀ (x : Int32) (h1 : PH), K x h1 = some o → PF Γ I D h0 Q h1 (pc + 3) vs (.int x :: rest)) : PF Γ I D h0 Q h pc vs (va_rf r :: rest) := by
  obtain ⟨cc, nL, own, rt, xt, fr, lo, nm⟩ := I
  cases hI
  exact j_cVi (n := 0) (y := yX1_storageToken) (cc2 := cX1_storageToken) (As := []) (C := RX1) (ci := 0) rfl (lw_V q1594 q1595 q1596 q90 q1597) hyV_X1_storageToken hfr hlo rfl hW hd (c_X1_storageToken r) hf _ rfl kk
theorem kc_X0_236 {Γ : GX} {I : MI} {D : va_G} {h0 : PH} {Q : State → Prop} {h : PH} {pc : Nat} {vs : List (Option Value)} {rest : List Value} {β : Type} {o : β} {r : Option Nat}  {K : ((Int32) → PH → Option β)} (hI : I.2.2.1 = RX0) (hfr : Nat.ble 2 I.2.2.2.2.2.1 = true) (hlo : Nat.ble 41 I.2.2.2.2.2.2.1 = true) (hW : (rest.map fun v => v.category).sum ≤ 8) (hd : decode I.1 pc = .ok (.invokevirtual 236, 3)) (hf : rv_ h r 6 (cl_ (f_X7_storageToken r h) K) = some o) (kk : ∀ (x : Int32) (h1 : PH), K x h1 = some o → PF Γ I D h0 Q h1 (pc + 3) vs (.int x :: rest)) : PF Γ I D h0 Q h pc vs (va_rf r :: rest) := by
  obtain ⟨cc, nL, own, rt, xt, fr, lo, nm⟩ := I
  cases hI
  exact j_cVi (n := 0) (y := yX7_storageToken) (cc2 := cX7_storageToken) (As := []) (C := RX7) (ci := 6) rfl (lw_V q2577 q2578 q2579 q117 q2580) hyV_X7_storageToken hfr hlo rfl hW hd (c_X7_storageToken r) hf _ rfl kk
theorem kc_X0_237 {Γ : GX} {I : MI} {D : va_G} {h0 : PH} {Q : State → Prop} {h : PH} {pc : Nat} {vs : List (Option Value)} {rest : List Value} {β : Type} {o : β} {r : Option Nat}  {K : ((Int32) → PH → Option β)} (hI : I.2.2.1 = RX0) (hfr : Nat.ble 1 I.2.2.2.2.2.1 = true) (hlo : Nat.ble 20 I.2.2.2.2.2.2.1 = true) (hW : (rest.map fun v => v.category).sum ≤ 8) (hd : decode I.1 pc = .ok (.invokevirtual 237, 3)) (hf : rv_ h r 0 (cl_ (f_X1_holder r h) K) = some o) (kk : ∀ (x : Int32) (h1 : PH), K x h1 = some o → PF Γ I D h0 Q h1 (pc + 3) vs (.int x :: rest)) : PF Γ I D h0 Q h pc vs (va_rf r :: rest) := by
  obtain ⟨cc, nL, own, rt, xt, fr, lo, nm⟩ := I
  cases hI
  exact j_cVi (n := 0) (y := yX1_holder) (cc2 := cX1_holder) (As := []) (C := RX1) (ci := 0) rfl (lw_V q1598 q1599 q1600 q90 q1601) hyV_X1_holder hfr hlo rfl hW hd (c_X1_holder r) hf _ rfl kk
theorem kc_X0_240 {Γ : GX} {I : MI} {D : va_G} {h0 : PH} {Q : State → Prop} {h : PH} {pc : Nat} {vs : List (Option Value)} {rest : List Value} {β : Type} {o : β} {r : Option Nat}  {K : ((Int32) → PH → Option β)} (hI : I.2.2.1 = RX0) (hfr : Nat.ble 2 I.2.2.2.2.2.1 = true) (hlo : Nat.ble 41 I.2.2.2.2.2.2.1 = true) (hW : (rest.map fun v => v.category).sum ≤ 8) (hd : decode I.1 pc = .ok (.invokevirtual 240, 3)) (hf : rv_ h r 6 (cl_ (f_X7_holder r h) K) = some o) (kk : ∀ (x : Int32) (h1 : PH), K x h1 = some o → PF Γ I D h0 Q h1 (pc + 3) vs (.int x :: rest)) : PF Γ I D h0 Q h pc vs (va_rf r :: rest) := by
  obtain ⟨cc, nL, own, rt, xt, fr, lo, nm⟩ := I
  cases hI
  exact j_cVi (n := 0) (y := yX7_holder) (cc2 := cX7_holder) (As := []) (C := RX7) (ci := 6) rfl (lw_V q2585 q2586 q2587 q117 q2588) hyV_X7_holder hfr hlo rfl hW hd (c_X7_holder r) hf _ rfl kk
theorem kc_X0_241 {Γ : GX} {I : MI} {D : va_G} {h0 : PH} {Q : State → Prop} {h : PH} {pc : Nat} {vs : List (Option Value)} {rest : List Value} {β : Type} {o : β} {r : Option Nat}  {K : ((Int32) → PH → Option β)} (hI : I.2.2.1 = RX0) (hfr : Nat.ble 1 I.2.2.2.2.2.1 = true) (hlo : Nat.ble 20 I.2.2.2.2.2.2.1 = true) (hW : (rest.map fun v => v.category).sum ≤ 8) (hd : decode I.1 pc = .ok (.invokevirtual 241, 3)) (hf : rv_ h r 0 (cl_ (f_X1_greatestToken r h) K) = some o) (kk : ∀ (x : Int32) (h1 : PH), K x h1 = some o → PF Γ I D h0 Q h1 (pc + 3) vs (.int x :: rest)) : PF Γ I D h0 Q h pc vs (va_rf r :: rest) := by
  obtain ⟨cc, nL, own, rt, xt, fr, lo, nm⟩ := I
  cases hI
  exact j_cVi (n := 0) (y := yX1_greatestToken) (cc2 := cX1_greatestToken) (As := []) (C := RX1) (ci := 0) rfl (lw_V q1602 q1603 q1604 q90 q1605) hyV_X1_greatestToken hfr hlo rfl hW hd (c_X1_greatestToken r) hf _ rfl kk
theorem kc_X0_244 {Γ : GX} {I : MI} {D : va_G} {h0 : PH} {Q : State → Prop} {h : PH} {pc : Nat} {vs : List (Option Value)} {rest : List Value} {β : Type} {o : β} {r : Option Nat}  {K : ((Int32) → PH → Option β)} (hI : I.2.2.1 = RX0) (hfr : Nat.ble 2 I.2.2.2.2.2.1 = true) (hlo : Nat.ble 41 I.2.2.2.2.2.2.1 = true) (hW : (rest.map fun v => v.category).sum ≤ 8) (hd : decode I.1 pc = .ok (.invokevirtual 244, 3)) (hf : rv_ h r 6 (cl_ (f_X7_greatestToken r h) K) = some o) (kk : ∀ (x : Int32) (h1 : PH), K x h1 = some o → PF Γ I D h0 Q h1 (pc + 3) vs (.int x :: rest)) : PF Γ I D h0 Q h pc vs (va_rf r :: rest) := by
  obtain ⟨cc, nL, own, rt, xt, fr, lo, nm⟩ := I
  cases hI
  exact j_cVi (n := 0) (y := yX7_greatestToken) (cc2 := cX7_greatestToken) (As := []) (C := RX7) (ci := 6) rfl (lw_V q2589 q2590 q2591 q117 q2592) hyV_X7_greatestToken hfr hlo rfl hW hd (c_X7_greatestToken r) hf _ rfl kk
theorem kc_X0_245 {Γ : GX} {I : MI} {D : va_G} {h0 : PH} {Q : State → Prop} {h : PH} {pc : Nat} {vs : List (Option Value)} {rest : List Value} {β : Type} {o : β} {r : Option Nat}  {K : ((Int32) → PH → Option β)} (hI : I.2.2.1 = RX0) (hfr : Nat.ble 3 I.2.2.2.2.2.1 = true) (hlo : Nat.ble 67 I.2.2.2.2.2.2.1 = true) (hW : (rest.map fun v => v.category).sum ≤ 8) (hd : decode I.1 pc = .ok (.invokevirtual 245, 3)) (hf : rv_ h r 0 (cl_ (f_X1_serverExpiryTime r h) K) = some o) (kk : ∀ (x : Int32) (h1 : PH), K x h1 = some o → PF Γ I D h0 Q h1 (pc + 3) vs (.int x :: rest)) : PF Γ I D h0 Q h pc vs (va_rf r :: rest) := by
  obtain ⟨cc, nL, own, rt, xt, fr, lo, nm⟩ := I
  cases hI
  exact j_cVi (n := 0) (y := yX1_serverExpiryTime) (cc2 := cX1_serverExpiryTime) (As := []) (C := RX1) (ci := 0) rfl (lw_V q1606 q1607 q1608 q90 q1609) hyV_X1_serverExpiryTime hfr hlo rfl hW hd (c_X1_serverExpiryTime r) hf _ rfl kk
theorem kc_X0_248 {Γ : GX} {I : MI} {D : va_G} {h0 : PH} {Q : State → Prop} {h : PH} {pc : Nat} {vs : List (Option Value)} {rest : List Value} {β : Type} {o : β} {r : Option Nat}  {K : ((Int32) → PH → Option β)} (hI : I.2.2.1 = RX0) (hfr : Nat.ble 3 I.2.2.2.2.2.1 = true) (hlo : Nat.ble 64 I.2.2.2.2.2.2.1 = true) (hW : (rest.map fun v => v.category).sum ≤ 8) (hd : decode I.1 pc = .ok (.invokevirtual 248, 3)) (hf : rv_ h r 6 (cl_ (f_X7_serverExpiryTime r h) K) = some o) (kk : ∀ (x : Int32) (h1 : PH), K x h1 = some o → PF Γ I D h0 Q h1 (pc + 3) vs (.int x :: rest)) : PF Γ I D h0 Q h pc vs (va_rf r :: rest) := by
  obtain ⟨cc, nL, own, rt, xt, fr, lo, nm⟩ := I
  cases hI
  exact j_cVi (n := 0) (y := yX7_serverExpiryTime) (cc2 := cX7_serverExpiryTime) (As := []) (C := RX7) (ci := 6) rfl (lw_V q2593 q2594 q2595 q117 q2596) hyV_X7_serverExpiryTime hfr hlo rfl hW hd (c_X7_serverExpiryTime r) hf _ rfl kk
theorem kc_X0_249 {Γ : GX} {I : MI} {D : va_G} {h0 : PH} {Q : State → Prop} {h : PH} {pc : Nat} {vs : List (Option Value)} {rest : List Value} {β : Type} {o : β} {r : Option Nat}  {K : ((Int32) → PH → Option β)} (hI : I.2.2.1 = RX0) (hfr : Nat.ble 3 I.2.2.2.2.2.1 = true) (hlo : Nat.ble 61 I.2.2.2.2.2.2.1 = true) (hW : (rest.map fun v => v.category).sum ≤ 8) (hd : decode I.1 pc = .ok (.invokevirtual 249, 3)) (hf : rv_ h r 0 (cl_ (f_X1_graceLeft r h) K) = some o) (kk : ∀ (x : Int32) (h1 : PH), K x h1 = some o → PF Γ I D h0 Q h1 (pc + 3) vs (.int x :: rest)) : PF Γ I D h0 Q h pc vs (va_rf r :: rest) := by
  obtain ⟨cc, nL, own, rt, xt, fr, lo, nm⟩ := I
  cases hI
  exact j_cVi (n := 0) (y := yX1_graceLeft) (cc2 := cX1_graceLeft) (As := []) (C := RX1) (ci := 0) rfl (lw_V q1611 q1612 q1613 q90 q1614) hyV_X1_graceLeft hfr hlo rfl hW hd (c_X1_graceLeft r) hf _ rfl kk
theorem kc_X0_252 {Γ : GX} {I : MI} {D : va_G} {h0 : PH} {Q : State → Prop} {h : PH} {pc : Nat} {vs : List (Option Value)} {rest : List Value} {β : Type} {o : β} {r : Option Nat}  {K : ((Int32) → PH → Option β)} (hI : I.2.2.1 = RX0) (hfr : Nat.ble 3 I.2.2.2.2.2.1 = true) (hlo : Nat.ble 62 I.2.2.2.2.2.2.1 = true) (hW : (rest.map fun v => v.category).sum ≤ 8) (hd : decode I.1 pc = .ok (.invokevirtual 252, 3)) (hf : rv_ h r 6 (cl_ (f_X7_graceLeft r h) K) = some o) (kk : ∀ (x : Int32) (h1 : PH), K x h1 = some o → PF Γ I D h0 Q h1 (pc + 3) vs (.int x :: rest)) : PF Γ I D h0 Q h pc vs (va_rf r :: rest) := by
  obtain ⟨cc, nL, own, rt, xt, fr, lo, nm⟩ := I
  cases hI
  exact j_cVi (n := 0) (y := yX7_graceLeft) (cc2 := cX7_graceLeft) (As := []) (C := RX7) (ci := 6) rfl (lw_V q2601 q2602 q2603 q117 q2604) hyV_X7_graceLeft hfr hlo rfl hW hd (c_X7_graceLeft r) hf _ rfl kk
theorem kc_X0_253 {Γ : GX} {I : MI} {D : va_G} {h0 : PH} {Q : State → Prop} {h : PH} {pc : Nat} {vs : List (Option Value)} {rest : List Value} {β : Type} {o : β} {p0 : Option Nat} {p1 : Int32} {p2 : Option Nat} {K : ((Int32) → PH → Option β)} (hI : I.2.2.1 = RX0) (hfr : Nat.ble 9 I.2.2.2.2.2.1 = true) (hlo : Nat.ble 154 I.2.2.2.2.2.2.1 = true) (hW : (rest.map fun v => v.category).sum ≤ 8) (hd : decode I.1 pc = .ok (.invokestatic 253, 3)) (hf : cl_ (f_X0_isLeading p0 p1 p2 h) K = some o) (kk : ∀ (x : Int32) (h1 : PH), K x h1 = some o → PF Γ I D h0 Q h1 (pc + 3) vs (.int x :: rest)) : PF Γ I D h0 Q h pc vs (va_rf p2 :: .int p1 :: va_rf p0 :: rest) := by
  obtain ⟨cc, nL, own, rt, xt, fr, lo, nm⟩ := I
  cases hI
  exact j_cSWi (n := 3) (y := yX0_isLeading) (cc2 := cX0_isLeading) (As := [va_rf p0, .int p1, va_rf p2]) (lw_SW q1924 q1925 q89 q1926) hyS_X0_isLeading hfr hlo rfl hW hd (c_X0_isLeading p0 p1 p2) hf _ rfl kk
theorem kc_X0_255 {Γ : GX} {I : MI} {D : va_G} {h0 : PH} {Q : State → Prop} {h : PH} {pc : Nat} {vs : List (Option Value)} {rest : List Value} {β : Type} {o : β} {r : Option Nat} {p0 : Int32} {K : ((Int32) → PH → Option β)} (hI : I.2.2.1 = RX0) (hfr : Nat.ble 4 I.2.2.2.2.2.1 = true) (hlo : Nat.ble 85 I.2.2.2.2.2.2.1 = true) (hW : (rest.map fun v => v.category).sum ≤ 8) (hd : decode I.1 pc = .ok (.invokevirtual 255, 3)) (hf : rv_ h r 6 (cl_ (f_X7_isLeading r p0 h) K) = some o) (kk : ∀ (x : Int32) (h1 : PH), K x h1 = some o → PF Γ I D h0 Q h1 (pc + 3) vs (.int x :: rest)) : PF Γ I D h0 Q h pc vs (.int p0 :: va_rf r :: rest) := by
  obtain ⟨cc, nL, own, rt, xt, fr, lo, nm⟩ := I
  cases hI
  exact j_cVi (n := 1) (y := yX7_isLeading) (cc2 := cX7_isLeading) (As := [.int p0]) (C := RX7) (ci := 6) rfl (lw_V q2605 q2606 q2607 q117 q2608) hyV_X7_isLeading hfr hlo rfl hW hd (c_X7_isLeading r p0) hf _ rfl kk
theorem kc_X0_256 {Γ : GX} {I : MI} {D : va_G} {h0 : PH} {Q : State → Prop} {h : PH} {pc : Nat} {vs : List (Option Value)} {rest : List Value} {β : Type} {o : β} {r : Option Nat}  {K : ((Int32) → PH → Option β)} (hI : I.2.2.1 = RX0) (hfr : Nat.ble 6 I.2.2.2.2.2.1 = true) (hlo : Nat.ble 130 I.2.2.2.2.2.2.1 = true) (hW : (rest.map fun v => v.category).sum ≤ 8) (hd : decode I.1 pc = .ok (.invokevirtual 256, 3)) (hf : rv_ h r 0 (cl_ (f_X1_leaders r h) K) = some o) (kk : ∀ (x : Int32) (h1 : PH), K x h1 = some o → PF Γ I D h0 Q h1 (pc + 3) vs (.int x :: rest)) : PF Γ I D h0 Q h pc vs (va_rf r :: rest) := by
  obtain ⟨cc, nL, own, rt, xt, fr, lo, nm⟩ := I
  cases hI
  exact j_cVi (n := 0) (y := yX1_leaders) (cc2 := cX1_leaders) (As := []) (C := RX1) (ci := 0) rfl (lw_V q1616 q1617 q1618 q90 q1619) hyV_X1_leaders hfr hlo rfl hW hd (c_X1_leaders r) hf _ rfl kk
theorem kc_X0_259 {Γ : GX} {I : MI} {D : va_G} {h0 : PH} {Q : State → Prop} {h : PH} {pc : Nat} {vs : List (Option Value)} {rest : List Value} {β : Type} {o : β} {r : Option Nat}  {K : ((Int32) → PH → Option β)} (hI : I.2.2.1 = RX0) (hfr : Nat.ble 5 I.2.2.2.2.2.1 = true) (hlo : Nat.ble 106 I.2.2.2.2.2.2.1 = true) (hW : (rest.map fun v => v.category).sum ≤ 8) (hd : decode I.1 pc = .ok (.invokevirtual 259, 3)) (hf : rv_ h r 6 (cl_ (f_X7_leaders r h) K) = some o) (kk : ∀ (x : Int32) (h1 : PH), K x h1 = some o → PF Γ I D h0 Q h1 (pc + 3) vs (.int x :: rest)) : PF Γ I D h0 Q h pc vs (va_rf r :: rest) := by
  obtain ⟨cc, nL, own, rt, xt, fr, lo, nm⟩ := I
  cases hI
  exact j_cVi (n := 0) (y := yX7_leaders) (cc2 := cX7_leaders) (As := []) (C := RX7) (ci := 6) rfl (lw_V q2609 q2610 q2611 q117 q2612) hyV_X7_leaders hfr hlo rfl hW hd (c_X7_leaders r) hf _ rfl kk
theorem kc_X0_260 {Γ : GX} {I : MI} {D : va_G} {h0 : PH} {Q : State → Prop} {h : PH} {pc : Nat} {vs : List (Option Value)} {rest : List Value} {β : Type} {o : β} {p0 : Option Nat} {p1 : Int32} {p2 : Option Nat} {K : ((Int32) → PH → Option β)} (hI : I.2.2.1 = RX0) (hfr : Nat.ble 9 I.2.2.2.2.2.1 = true) (hlo : Nat.ble 154 I.2.2.2.2.2.2.1 = true) (hW : (rest.map fun v => v.category).sum ≤ 8) (hd : decode I.1 pc = .ok (.invokestatic 260, 3)) (hf : cl_ (f_X0_token p0 p1 p2 h) K = some o) (kk : ∀ (x : Int32) (h1 : PH), K x h1 = some o → PF Γ I D h0 Q h1 (pc + 3) vs (.int x :: rest)) : PF Γ I D h0 Q h pc vs (va_rf p2 :: .int p1 :: va_rf p0 :: rest) := by
  obtain ⟨cc, nL, own, rt, xt, fr, lo, nm⟩ := I
  cases hI
  exact j_cSWi (n := 3) (y := yX0_token) (cc2 := cX0_token) (As := [va_rf p0, .int p1, va_rf p2]) (lw_SW q1931 q1932 q89 q1933) hyS_X0_token hfr hlo rfl hW hd (c_X0_token p0 p1 p2) hf _ rfl kk
theorem kc_X0_262 {Γ : GX} {I : MI} {D : va_G} {h0 : PH} {Q : State → Prop} {h : PH} {pc : Nat} {vs : List (Option Value)} {rest : List Value} {β : Type} {o : β} {r : Option Nat} {p0 : Int32} {K : ((Int32) → PH → Option β)} (hI : I.2.2.1 = RX0) (hfr : Nat.ble 4 I.2.2.2.2.2.1 = true) (hlo : Nat.ble 89 I.2.2.2.2.2.2.1 = true) (hW : (rest.map fun v => v.category).sum ≤ 8) (hd : decode I.1 pc = .ok (.invokevirtual 262, 3)) (hf : rv_ h r 6 (cl_ (f_X7_token r p0 h) K) = some o) (kk : ∀ (x : Int32) (h1 : PH), K x h1 = some o → PF Γ I D h0 Q h1 (pc + 3) vs (.int x :: rest)) : PF Γ I D h0 Q h pc vs (.int p0 :: va_rf r :: rest) := by
  obtain ⟨cc, nL, own, rt, xt, fr, lo, nm⟩ := I
  cases hI
  exact j_cVi (n := 1) (y := yX7_token) (cc2 := cX7_token) (As := [.int p0]) (C := RX7) (ci := 6) rfl (lw_V q2617 q2618 q2619 q117 q2620) hyV_X7_token hfr hlo rfl hW hd (c_X7_token r p0) hf _ rfl kk
theorem kc_X0_263 {Γ : GX} {I : MI} {D : va_G} {h0 : PH} {Q : State → Prop} {h : PH} {pc : Nat} {vs : List (Option Value)} {rest : List Value} {β : Type} {o : β} {p0 : Option Nat} {p1 : Int32} {p2 : Option Nat} {K : ((Int32) → PH → Option β)} (hI : I.2.2.1 = RX0) (hfr : Nat.ble 9 I.2.2.2.2.2.1 = true) (hlo : Nat.ble 155 I.2.2.2.2.2.2.1 = true) (hW : (rest.map fun v => v.category).sum ≤ 8) (hd : decode I.1 pc = .ok (.invokestatic 263, 3)) (hf : cl_ (f_X0_nodeExpiryTime p0 p1 p2 h) K = some o) (kk : ∀ (x : Int32) (h1 : PH), K x h1 = some o → PF Γ I D h0 Q h1 (pc + 3) vs (.int x :: rest)) : PF Γ I D h0 Q h pc vs (va_rf p2 :: .int p1 :: va_rf p0 :: rest) := by
  obtain ⟨cc, nL, own, rt, xt, fr, lo, nm⟩ := I
  cases hI
  exact j_cSWi (n := 3) (y := yX0_nodeExpiryTime) (cc2 := cX0_nodeExpiryTime) (As := [va_rf p0, .int p1, va_rf p2]) (lw_SW q1938 q1939 q89 q1940) hyS_X0_nodeExpiryTime hfr hlo rfl hW hd (c_X0_nodeExpiryTime p0 p1 p2) hf _ rfl kk
theorem kc_X0_265 {Γ : GX} {I : MI} {D : va_G} {h0 : PH} {Q : State → Prop} {h : PH} {pc : Nat} {vs : List (Option Value)} {rest : List Value} {β : Type} {o : β} {r : Option Nat} {p0 : Int32} {K : ((Int32) → PH → Option β)} (hI : I.2.2.1 = RX0) (hfr : Nat.ble 3 I.2.2.2.2.2.1 = true) (hlo : Nat.ble 67 I.2.2.2.2.2.2.1 = true) (hW : (rest.map fun v => v.category).sum ≤ 8) (hd : decode I.1 pc = .ok (.invokevirtual 265, 3)) (hf : rv_ h r 6 (cl_ (f_X7_nodeExpiryTime r p0 h) K) = some o) (kk : ∀ (x : Int32) (h1 : PH), K x h1 = some o → PF Γ I D h0 Q h1 (pc + 3) vs (.int x :: rest)) : PF Γ I D h0 Q h pc vs (.int p0 :: va_rf r :: rest) := by
  obtain ⟨cc, nL, own, rt, xt, fr, lo, nm⟩ := I
  cases hI
  exact j_cVi (n := 1) (y := yX7_nodeExpiryTime) (cc2 := cX7_nodeExpiryTime) (As := [.int p0]) (C := RX7) (ci := 6) rfl (lw_V q2625 q2626 q2627 q117 q2628) hyV_X7_nodeExpiryTime hfr hlo rfl hW hd (c_X7_nodeExpiryTime r p0) hf _ rfl kk
theorem kc_X0_266 {Γ : GX} {I : MI} {D : va_G} {h0 : PH} {Q : State → Prop} {h : PH} {pc : Nat} {vs : List (Option Value)} {rest : List Value} {β : Type} {o : β} {p0 : Option Nat} {p1 : Int32} {p2 : Option Nat} {K : ((Int32) → PH → Option β)} (hI : I.2.2.1 = RX0) (hfr : Nat.ble 10 I.2.2.2.2.2.1 = true) (hlo : Nat.ble 177 I.2.2.2.2.2.2.1 = true) (hW : (rest.map fun v => v.category).sum ≤ 8) (hd : decode I.1 pc = .ok (.invokestatic 266, 3)) (hf : cl_ (f_X0_margin p0 p1 p2 h) K = some o) (kk : ∀ (x : Int32) (h1 : PH), K x h1 = some o → PF Γ I D h0 Q h1 (pc + 3) vs (.int x :: rest)) : PF Γ I D h0 Q h pc vs (va_rf p2 :: .int p1 :: va_rf p0 :: rest) := by
  obtain ⟨cc, nL, own, rt, xt, fr, lo, nm⟩ := I
  cases hI
  exact j_cSWi (n := 3) (y := yX0_margin) (cc2 := cX0_margin) (As := [va_rf p0, .int p1, va_rf p2]) (lw_SW q1945 q1946 q89 q1947) hyS_X0_margin hfr hlo rfl hW hd (c_X0_margin p0 p1 p2) hf _ rfl kk
theorem kc_X0_268 {Γ : GX} {I : MI} {D : va_G} {h0 : PH} {Q : State → Prop} {h : PH} {pc : Nat} {vs : List (Option Value)} {rest : List Value} {β : Type} {o : β} {r : Option Nat} {p0 : Int32} {K : ((Int32) → PH → Option β)} (hI : I.2.2.1 = RX0) (hfr : Nat.ble 3 I.2.2.2.2.2.1 = true) (hlo : Nat.ble 67 I.2.2.2.2.2.2.1 = true) (hW : (rest.map fun v => v.category).sum ≤ 8) (hd : decode I.1 pc = .ok (.invokevirtual 268, 3)) (hf : rv_ h r 6 (cl_ (f_X7_margin r p0 h) K) = some o) (kk : ∀ (x : Int32) (h1 : PH), K x h1 = some o → PF Γ I D h0 Q h1 (pc + 3) vs (.int x :: rest)) : PF Γ I D h0 Q h pc vs (.int p0 :: va_rf r :: rest) := by
  obtain ⟨cc, nL, own, rt, xt, fr, lo, nm⟩ := I
  cases hI
  exact j_cVi (n := 1) (y := yX7_margin) (cc2 := cX7_margin) (As := [.int p0]) (C := RX7) (ci := 6) rfl (lw_V q2629 q2630 q2631 q117 q2632) hyV_X7_margin hfr hlo rfl hW hd (c_X7_margin r p0) hf _ rfl kk
theorem kc_X0_269 {Γ : GX} {I : MI} {D : va_G} {h0 : PH} {Q : State → Prop} {h : PH} {pc : Nat} {vs : List (Option Value)} {rest : List Value} {β : Type} {o : β} {p0 : Option Nat} {p1 : Int32} {p2 : Option Nat} {K : ((Int32) → PH → Option β)} (hI : I.2.2.1 = RX0) (hfr : Nat.ble 9 I.2.2.2.2.2.1 = true) (hlo : Nat.ble 154 I.2.2.2.2.2.2.1 = true) (hW : (rest.map fun v => v.category).sum ≤ 8) (hd : decode I.1 pc = .ok (.invokestatic 269, 3)) (hf : cl_ (f_X0_timerTime p0 p1 p2 h) K = some o) (kk : ∀ (x : Int32) (h1 : PH), K x h1 = some o → PF Γ I D h0 Q h1 (pc + 3) vs (.int x :: rest)) : PF Γ I D h0 Q h pc vs (va_rf p2 :: .int p1 :: va_rf p0 :: rest) := by
  obtain ⟨cc, nL, own, rt, xt, fr, lo, nm⟩ := I
  cases hI
  exact j_cSWi (n := 3) (y := yX0_timerTime) (cc2 := cX0_timerTime) (As := [va_rf p0, .int p1, va_rf p2]) (lw_SW q1954 q1955 q89 q1956) hyS_X0_timerTime hfr hlo rfl hW hd (c_X0_timerTime p0 p1 p2) hf _ rfl kk
theorem kc_X0_271 {Γ : GX} {I : MI} {D : va_G} {h0 : PH} {Q : State → Prop} {h : PH} {pc : Nat} {vs : List (Option Value)} {rest : List Value} {β : Type} {o : β} {r : Option Nat} {p0 : Int32} {K : ((Int32) → PH → Option β)} (hI : I.2.2.1 = RX0) (hfr : Nat.ble 3 I.2.2.2.2.2.1 = true) (hlo : Nat.ble 67 I.2.2.2.2.2.2.1 = true) (hW : (rest.map fun v => v.category).sum ≤ 8) (hd : decode I.1 pc = .ok (.invokevirtual 271, 3)) (hf : rv_ h r 6 (cl_ (f_X7_timerTime r p0 h) K) = some o) (kk : ∀ (x : Int32) (h1 : PH), K x h1 = some o → PF Γ I D h0 Q h1 (pc + 3) vs (.int x :: rest)) : PF Γ I D h0 Q h pc vs (.int p0 :: va_rf r :: rest) := by
  obtain ⟨cc, nL, own, rt, xt, fr, lo, nm⟩ := I
  cases hI
  exact j_cVi (n := 1) (y := yX7_timerTime) (cc2 := cX7_timerTime) (As := [.int p0]) (C := RX7) (ci := 6) rfl (lw_V q2633 q2634 q2635 q117 q2636) hyV_X7_timerTime hfr hlo rfl hW hd (c_X7_timerTime r p0) hf _ rfl kk
theorem kc_X0_272 {Γ : GX} {I : MI} {D : va_G} {h0 : PH} {Q : State → Prop} {h : PH} {pc : Nat} {vs : List (Option Value)} {rest : List Value} {β : Type} {o : β} {p0 : Option Nat} {p1 : Int32} {p2 : Option Nat} {K : ((Int32) → PH → Option β)} (hI : I.2.2.1 = RX0) (hfr : Nat.ble 9 I.2.2.2.2.2.1 = true) (hlo : Nat.ble 155 I.2.2.2.2.2.2.1 = true) (hW : (rest.map fun v => v.category).sum ≤ 8) (hd : decode I.1 pc = .ok (.invokestatic 272, 3)) (hf : cl_ (f_X0_nodeState p0 p1 p2 h) K = some o) (kk : ∀ (x : Int32) (h1 : PH), K x h1 = some o → PF Γ I D h0 Q h1 (pc + 3) vs (.int x :: rest)) : PF Γ I D h0 Q h pc vs (va_rf p2 :: .int p1 :: va_rf p0 :: rest) := by
  obtain ⟨cc, nL, own, rt, xt, fr, lo, nm⟩ := I
  cases hI
  exact j_cSWi (n := 3) (y := yX0_nodeState) (cc2 := cX0_nodeState) (As := [va_rf p0, .int p1, va_rf p2]) (lw_SW q1961 q1962 q89 q1963) hyS_X0_nodeState hfr hlo rfl hW hd (c_X0_nodeState p0 p1 p2) hf _ rfl kk
theorem kc_X0_274 {Γ : GX} {I : MI} {D : va_G} {h0 : PH} {Q : State → Prop} {h : PH} {pc : Nat} {vs : List (Option Value)} {rest : List Value} {β : Type} {o : β} {r : Option Nat} {p0 : Int32} {K : ((Int32) → PH → Option β)} (hI : I.2.2.1 = RX0) (hfr : Nat.ble 3 I.2.2.2.2.2.1 = true) (hlo : Nat.ble 67 I.2.2.2.2.2.2.1 = true) (hW : (rest.map fun v => v.category).sum ≤ 8) (hd : decode I.1 pc = .ok (.invokevirtual 274, 3)) (hf : rv_ h r 6 (cl_ (f_X7_nodeState r p0 h) K) = some o) (kk : ∀ (x : Int32) (h1 : PH), K x h1 = some o → PF Γ I D h0 Q h1 (pc + 3) vs (.int x :: rest)) : PF Γ I D h0 Q h pc vs (.int p0 :: va_rf r :: rest) := by
  obtain ⟨cc, nL, own, rt, xt, fr, lo, nm⟩ := I
  cases hI
  exact j_cVi (n := 1) (y := yX7_nodeState) (cc2 := cX7_nodeState) (As := [.int p0]) (C := RX7) (ci := 6) rfl (lw_V q2637 q2638 q2639 q117 q2640) hyV_X7_nodeState hfr hlo rfl hW hd (c_X7_nodeState r p0) hf _ rfl kk
theorem kc_X0_275 {Γ : GX} {I : MI} {D : va_G} {h0 : PH} {Q : State → Prop} {h : PH} {pc : Nat} {vs : List (Option Value)} {rest : List Value} {β : Type} {o : β} {p0 : Option Nat} {p1 : Int32} {p2 : Option Nat} {K : ((Int32) → PH → Option β)} (hI : I.2.2.1 = RX0) (hfr : Nat.ble 9 I.2.2.2.2.2.1 = true) (hlo : Nat.ble 154 I.2.2.2.2.2.2.1 = true) (hW : (rest.map fun v => v.category).sum ≤ 8) (hd : decode I.1 pc = .ok (.invokestatic 275, 3)) (hf : cl_ (f_X0_cached p0 p1 p2 h) K = some o) (kk : ∀ (x : Int32) (h1 : PH), K x h1 = some o → PF Γ I D h0 Q h1 (pc + 3) vs (.int x :: rest)) : PF Γ I D h0 Q h pc vs (va_rf p2 :: .int p1 :: va_rf p0 :: rest) := by
  obtain ⟨cc, nL, own, rt, xt, fr, lo, nm⟩ := I
  cases hI
  exact j_cSWi (n := 3) (y := yX0_cached) (cc2 := cX0_cached) (As := [va_rf p0, .int p1, va_rf p2]) (lw_SW q1968 q1969 q89 q1970) hyS_X0_cached hfr hlo rfl hW hd (c_X0_cached p0 p1 p2) hf _ rfl kk
theorem kc_X0_277 {Γ : GX} {I : MI} {D : va_G} {h0 : PH} {Q : State → Prop} {h : PH} {pc : Nat} {vs : List (Option Value)} {rest : List Value} {β : Type} {o : β} {r : Option Nat} {p0 : Int32} {K : ((Int32) → PH → Option β)} (hI : I.2.2.1 = RX0) (hfr : Nat.ble 4 I.2.2.2.2.2.1 = true) (hlo : Nat.ble 89 I.2.2.2.2.2.2.1 = true) (hW : (rest.map fun v => v.category).sum ≤ 8) (hd : decode I.1 pc = .ok (.invokevirtual 277, 3)) (hf : rv_ h r 6 (cl_ (f_X7_cached r p0 h) K) = some o) (kk : ∀ (x : Int32) (h1 : PH), K x h1 = some o → PF Γ I D h0 Q h1 (pc + 3) vs (.int x :: rest)) : PF Γ I D h0 Q h pc vs (.int p0 :: va_rf r :: rest) := by
  obtain ⟨cc, nL, own, rt, xt, fr, lo, nm⟩ := I
  cases hI
  exact j_cVi (n := 1) (y := yX7_cached) (cc2 := cX7_cached) (As := [.int p0]) (C := RX7) (ci := 6) rfl (lw_V q2641 q2642 q2643 q117 q2644) hyV_X7_cached hfr hlo rfl hW hd (c_X7_cached r p0) hf _ rfl kk
theorem kc_X0_278 {Γ : GX} {I : MI} {D : va_G} {h0 : PH} {Q : State → Prop} {h : PH} {pc : Nat} {vs : List (Option Value)} {rest : List Value} {β : Type} {o : β} {r : Option Nat}  {K : ((Int32) → PH → Option β)} (hI : I.2.2.1 = RX0) (hfr : Nat.ble 2 I.2.2.2.2.2.1 = true) (hlo : Nat.ble 40 I.2.2.2.2.2.2.1 = true) (hW : (rest.map fun v => v.category).sum ≤ 8) (hd : decode I.1 pc = .ok (.invokevirtual 278, 3)) (hf : rv_ h r 0 (cl_ (f_X1_messagesOnWay r h) K) = some o) (kk : ∀ (x : Int32) (h1 : PH), K x h1 = some o → PF Γ I D h0 Q h1 (pc + 3) vs (.int x :: rest)) : PF Γ I D h0 Q h pc vs (va_rf r :: rest) := by
  obtain ⟨cc, nL, own, rt, xt, fr, lo, nm⟩ := I
  cases hI
  exact j_cVi (n := 0) (y := yX1_messagesOnWay) (cc2 := cX1_messagesOnWay) (As := []) (C := RX1) (ci := 0) rfl (lw_V q1629 q1630 q1631 q90 q1632) hyV_X1_messagesOnWay hfr hlo rfl hW hd (c_X1_messagesOnWay r) hf _ rfl kk
theorem kc_X0_281 {Γ : GX} {I : MI} {D : va_G} {h0 : PH} {Q : State → Prop} {h : PH} {pc : Nat} {vs : List (Option Value)} {rest : List Value} {β : Type} {o : β} {r : Option Nat}  {K : ((Int32) → PH → Option β)} (hI : I.2.2.1 = RX0) (hfr : Nat.ble 2 I.2.2.2.2.2.1 = true) (hlo : Nat.ble 41 I.2.2.2.2.2.2.1 = true) (hW : (rest.map fun v => v.category).sum ≤ 8) (hd : decode I.1 pc = .ok (.invokevirtual 281, 3)) (hf : rv_ h r 6 (cl_ (f_X7_messagesOnWay r h) K) = some o) (kk : ∀ (x : Int32) (h1 : PH), K x h1 = some o → PF Γ I D h0 Q h1 (pc + 3) vs (.int x :: rest)) : PF Γ I D h0 Q h pc vs (va_rf r :: rest) := by
  obtain ⟨cc, nL, own, rt, xt, fr, lo, nm⟩ := I
  cases hI
  exact j_cVi (n := 0) (y := yX7_messagesOnWay) (cc2 := cX7_messagesOnWay) (As := []) (C := RX7) (ci := 6) rfl (lw_V q2670 q2671 q2672 q117 q2673) hyV_X7_messagesOnWay hfr hlo rfl hW hd (c_X7_messagesOnWay r) hf _ rfl kk
theorem kc_X0_282 {Γ : GX} {I : MI} {D : va_G} {h0 : PH} {Q : State → Prop} {h : PH} {pc : Nat} {vs : List (Option Value)} {rest : List Value} {β : Type} {o : β} {r : Option Nat}  {K : ((Int32) → PH → Option β)} (hI : I.2.2.1 = RX0) (hfr : Nat.ble 2 I.2.2.2.2.2.1 = true) (hlo : Nat.ble 40 I.2.2.2.2.2.2.1 = true) (hW : (rest.map fun v => v.category).sum ≤ 8) (hd : decode I.1 pc = .ok (.invokevirtual 282, 3)) (hf : rv_ h r 0 (cl_ (f_X1_delayedWrites r h) K) = some o) (kk : ∀ (x : Int32) (h1 : PH), K x h1 = some o → PF Γ I D h0 Q h1 (pc + 3) vs (.int x :: rest)) : PF Γ I D h0 Q h pc vs (va_rf r :: rest) := by
  obtain ⟨cc, nL, own, rt, xt, fr, lo, nm⟩ := I
  cases hI
  exact j_cVi (n := 0) (y := yX1_delayedWrites) (cc2 := cX1_delayedWrites) (As := []) (C := RX1) (ci := 0) rfl (lw_V q1635 q1636 q1637 q90 q1638) hyV_X1_delayedWrites hfr hlo rfl hW hd (c_X1_delayedWrites r) hf _ rfl kk
theorem kc_X0_285 {Γ : GX} {I : MI} {D : va_G} {h0 : PH} {Q : State → Prop} {h : PH} {pc : Nat} {vs : List (Option Value)} {rest : List Value} {β : Type} {o : β} {r : Option Nat}  {K : ((Int32) → PH → Option β)} (hI : I.2.2.1 = RX0) (hfr : Nat.ble 2 I.2.2.2.2.2.1 = true) (hlo : Nat.ble 41 I.2.2.2.2.2.2.1 = true) (hW : (rest.map fun v => v.category).sum ≤ 8) (hd : decode I.1 pc = .ok (.invokevirtual 285, 3)) (hf : rv_ h r 6 (cl_ (f_X7_delayedWrites r h) K) = some o) (kk : ∀ (x : Int32) (h1 : PH), K x h1 = some o → PF Γ I D h0 Q h1 (pc + 3) vs (.int x :: rest)) : PF Γ I D h0 Q h pc vs (va_rf r :: rest) := by
  obtain ⟨cc, nL, own, rt, xt, fr, lo, nm⟩ := I
  cases hI
  exact j_cVi (n := 0) (y := yX7_delayedWrites) (cc2 := cX7_delayedWrites) (As := []) (C := RX7) (ci := 6) rfl (lw_V q2674 q2675 q2676 q117 q2677) hyV_X7_delayedWrites hfr hlo rfl hW hd (c_X7_delayedWrites r) hf _ rfl kk
theorem kc_X0_286 {Γ : GX} {I : MI} {D : va_G} {h0 : PH} {Q : State → Prop} {h : PH} {pc : Nat} {vs : List (Option Value)} {rest : List Value} {β : Type} {o : β} {r : Option Nat}  {K : ((Int32) → PH → Option β)} (hI : I.2.2.1 = RX0) (hfr : Nat.ble 1 I.2.2.2.2.2.1 = true) (hlo : Nat.ble 20 I.2.2.2.2.2.2.1 = true) (hW : (rest.map fun v => v.category).sum ≤ 8) (hd : decode I.1 pc = .ok (.invokevirtual 286, 3)) (hf : rv_ h r 0 (cl_ (f_X1_messagesLost r h) K) = some o) (kk : ∀ (x : Int32) (h1 : PH), K x h1 = some o → PF Γ I D h0 Q h1 (pc + 3) vs (.int x :: rest)) : PF Γ I D h0 Q h pc vs (va_rf r :: rest) := by
  obtain ⟨cc, nL, own, rt, xt, fr, lo, nm⟩ := I
  cases hI
  exact j_cVi (n := 0) (y := yX1_messagesLost) (cc2 := cX1_messagesLost) (As := []) (C := RX1) (ci := 0) rfl (lw_V q1639 q1640 q1641 q90 q1642) hyV_X1_messagesLost hfr hlo rfl hW hd (c_X1_messagesLost r) hf _ rfl kk
theorem kc_X0_289 {Γ : GX} {I : MI} {D : va_G} {h0 : PH} {Q : State → Prop} {h : PH} {pc : Nat} {vs : List (Option Value)} {rest : List Value} {β : Type} {o : β} {r : Option Nat}  {K : ((Int32) → PH → Option β)} (hI : I.2.2.1 = RX0) (hfr : Nat.ble 2 I.2.2.2.2.2.1 = true) (hlo : Nat.ble 41 I.2.2.2.2.2.2.1 = true) (hW : (rest.map fun v => v.category).sum ≤ 8) (hd : decode I.1 pc = .ok (.invokevirtual 289, 3)) (hf : rv_ h r 6 (cl_ (f_X7_messagesLost r h) K) = some o) (kk : ∀ (x : Int32) (h1 : PH), K x h1 = some o → PF Γ I D h0 Q h1 (pc + 3) vs (.int x :: rest)) : PF Γ I D h0 Q h pc vs (va_rf r :: rest) := by
  obtain ⟨cc, nL, own, rt, xt, fr, lo, nm⟩ := I
  cases hI
  exact j_cVi (n := 0) (y := yX7_messagesLost) (cc2 := cX7_messagesLost) (As := []) (C := RX7) (ci := 6) rfl (lw_V q2678 q2679 q2680 q117 q2681) hyV_X7_messagesLost hfr hlo rfl hW hd (c_X7_messagesLost r) hf _ rfl kk
theorem kc_X0_290 {Γ : GX} {I : MI} {D : va_G} {h0 : PH} {Q : State → Prop} {h : PH} {pc : Nat} {vs : List (Option Value)} {rest : List Value} {β : Type} {o : β} {r : Option Nat}  {K : ((Int32) → PH → Option β)} (hI : I.2.2.1 = RX0) (hfr : Nat.ble 2 I.2.2.2.2.2.1 = true) (hlo : Nat.ble 40 I.2.2.2.2.2.2.1 = true) (hW : (rest.map fun v => v.category).sum ≤ 8) (hd : decode I.1 pc = .ok (.invokevirtual 290, 3)) (hf : rv_ h r 0 (cl_ (f_X1_logSize r h) K) = some o) (kk : ∀ (x : Int32) (h1 : PH), K x h1 = some o → PF Γ I D h0 Q h1 (pc + 3) vs (.int x :: rest)) : PF Γ I D h0 Q h pc vs (va_rf r :: rest) := by
  obtain ⟨cc, nL, own, rt, xt, fr, lo, nm⟩ := I
  cases hI
  exact j_cVi (n := 0) (y := yX1_logSize) (cc2 := cX1_logSize) (As := []) (C := RX1) (ci := 0) rfl (lw_V q1643 q1644 q1645 q90 q1646) hyV_X1_logSize hfr hlo rfl hW hd (c_X1_logSize r) hf _ rfl kk
theorem kc_X0_293 {Γ : GX} {I : MI} {D : va_G} {h0 : PH} {Q : State → Prop} {h : PH} {pc : Nat} {vs : List (Option Value)} {rest : List Value} {β : Type} {o : β} {r : Option Nat}  {K : ((Int32) → PH → Option β)} (hI : I.2.2.1 = RX0) (hfr : Nat.ble 2 I.2.2.2.2.2.1 = true) (hlo : Nat.ble 41 I.2.2.2.2.2.2.1 = true) (hW : (rest.map fun v => v.category).sum ≤ 8) (hd : decode I.1 pc = .ok (.invokevirtual 293, 3)) (hf : rv_ h r 6 (cl_ (f_X7_logSize r h) K) = some o) (kk : ∀ (x : Int32) (h1 : PH), K x h1 = some o → PF Γ I D h0 Q h1 (pc + 3) vs (.int x :: rest)) : PF Γ I D h0 Q h pc vs (va_rf r :: rest) := by
  obtain ⟨cc, nL, own, rt, xt, fr, lo, nm⟩ := I
  cases hI
  exact j_cVi (n := 0) (y := yX7_logSize) (cc2 := cX7_logSize) (As := []) (C := RX7) (ci := 6) rfl (lw_V q2682 q2683 q2684 q117 q2685) hyV_X7_logSize hfr hlo rfl hW hd (c_X7_logSize r) hf _ rfl kk
theorem kc_X0_294 {Γ : GX} {I : MI} {D : va_G} {h0 : PH} {Q : State → Prop} {h : PH} {pc : Nat} {vs : List (Option Value)} {rest : List Value} {β : Type} {o : β} {p0 : Option Nat} {p1 : Int32} {p2 : Option Nat} {K : ((Int32) → PH → Option β)} (hI : I.2.2.1 = RX0) (hfr : Nat.ble 9 I.2.2.2.2.2.1 = true) (hlo : Nat.ble 154 I.2.2.2.2.2.2.1 = true) (hW : (rest.map fun v => v.category).sum ≤ 8) (hd : decode I.1 pc = .ok (.invokestatic 294, 3)) (hf : cl_ (f_X0_logTime p0 p1 p2 h) K = some o) (kk : ∀ (x : Int32) (h1 : PH), K x h1 = some o → PF Γ I D h0 Q h1 (pc + 3) vs (.int x :: rest)) : PF Γ I D h0 Q h pc vs (va_rf p2 :: .int p1 :: va_rf p0 :: rest) := by
  obtain ⟨cc, nL, own, rt, xt, fr, lo, nm⟩ := I
  cases hI
  exact j_cSWi (n := 3) (y := yX0_logTime) (cc2 := cX0_logTime) (As := [va_rf p0, .int p1, va_rf p2]) (lw_SW q1975 q1976 q89 q1977) hyS_X0_logTime hfr hlo rfl hW hd (c_X0_logTime p0 p1 p2) hf _ rfl kk
theorem kc_X0_296 {Γ : GX} {I : MI} {D : va_G} {h0 : PH} {Q : State → Prop} {h : PH} {pc : Nat} {vs : List (Option Value)} {rest : List Value} {β : Type} {o : β} {r : Option Nat} {p0 : Int32} {K : ((Int32) → PH → Option β)} (hI : I.2.2.1 = RX0) (hfr : Nat.ble 3 I.2.2.2.2.2.1 = true) (hlo : Nat.ble 68 I.2.2.2.2.2.2.1 = true) (hW : (rest.map fun v => v.category).sum ≤ 8) (hd : decode I.1 pc = .ok (.invokevirtual 296, 3)) (hf : rv_ h r 6 (cl_ (f_X7_logTime r p0 h) K) = some o) (kk : ∀ (x : Int32) (h1 : PH), K x h1 = some o → PF Γ I D h0 Q h1 (pc + 3) vs (.int x :: rest)) : PF Γ I D h0 Q h pc vs (.int p0 :: va_rf r :: rest) := by
  obtain ⟨cc, nL, own, rt, xt, fr, lo, nm⟩ := I
  cases hI
  exact j_cVi (n := 1) (y := yX7_logTime) (cc2 := cX7_logTime) (As := [.int p0]) (C := RX7) (ci := 6) rfl (lw_V q2686 q2687 q2688 q117 q2689) hyV_X7_logTime hfr hlo rfl hW hd (c_X7_logTime r p0) hf _ rfl kk
theorem kc_X0_297 {Γ : GX} {I : MI} {D : va_G} {h0 : PH} {Q : State → Prop} {h : PH} {pc : Nat} {vs : List (Option Value)} {rest : List Value} {β : Type} {o : β} {p0 : Option Nat} {p1 : Int32} {p2 : Option Nat} {K : ((Int32) → PH → Option β)} (hI : I.2.2.1 = RX0) (hfr : Nat.ble 9 I.2.2.2.2.2.1 = true) (hlo : Nat.ble 154 I.2.2.2.2.2.2.1 = true) (hW : (rest.map fun v => v.category).sum ≤ 8) (hd : decode I.1 pc = .ok (.invokestatic 297, 3)) (hf : cl_ (f_X0_logKind p0 p1 p2 h) K = some o) (kk : ∀ (x : Int32) (h1 : PH), K x h1 = some o → PF Γ I D h0 Q h1 (pc + 3) vs (.int x :: rest)) : PF Γ I D h0 Q h pc vs (va_rf p2 :: .int p1 :: va_rf p0 :: rest) := by
  obtain ⟨cc, nL, own, rt, xt, fr, lo, nm⟩ := I
  cases hI
  exact j_cSWi (n := 3) (y := yX0_logKind) (cc2 := cX0_logKind) (As := [va_rf p0, .int p1, va_rf p2]) (lw_SW q1989 q1990 q89 q1991) hyS_X0_logKind hfr hlo rfl hW hd (c_X0_logKind p0 p1 p2) hf _ rfl kk
theorem kc_X0_299 {Γ : GX} {I : MI} {D : va_G} {h0 : PH} {Q : State → Prop} {h : PH} {pc : Nat} {vs : List (Option Value)} {rest : List Value} {β : Type} {o : β} {r : Option Nat} {p0 : Int32} {K : ((Int32) → PH → Option β)} (hI : I.2.2.1 = RX0) (hfr : Nat.ble 3 I.2.2.2.2.2.1 = true) (hlo : Nat.ble 68 I.2.2.2.2.2.2.1 = true) (hW : (rest.map fun v => v.category).sum ≤ 8) (hd : decode I.1 pc = .ok (.invokevirtual 299, 3)) (hf : rv_ h r 6 (cl_ (f_X7_logKind r p0 h) K) = some o) (kk : ∀ (x : Int32) (h1 : PH), K x h1 = some o → PF Γ I D h0 Q h1 (pc + 3) vs (.int x :: rest)) : PF Γ I D h0 Q h pc vs (.int p0 :: va_rf r :: rest) := by
  obtain ⟨cc, nL, own, rt, xt, fr, lo, nm⟩ := I
  cases hI
  exact j_cVi (n := 1) (y := yX7_logKind) (cc2 := cX7_logKind) (As := [.int p0]) (C := RX7) (ci := 6) rfl (lw_V q2694 q2695 q2696 q117 q2697) hyV_X7_logKind hfr hlo rfl hW hd (c_X7_logKind r p0) hf _ rfl kk
theorem kc_X0_300 {Γ : GX} {I : MI} {D : va_G} {h0 : PH} {Q : State → Prop} {h : PH} {pc : Nat} {vs : List (Option Value)} {rest : List Value} {β : Type} {o : β} {p0 : Option Nat} {p1 : Int32} {p2 : Option Nat} {K : ((Int32) → PH → Option β)} (hI : I.2.2.1 = RX0) (hfr : Nat.ble 9 I.2.2.2.2.2.1 = true) (hlo : Nat.ble 154 I.2.2.2.2.2.2.1 = true) (hW : (rest.map fun v => v.category).sum ≤ 8) (hd : decode I.1 pc = .ok (.invokestatic 300, 3)) (hf : cl_ (f_X0_logNode p0 p1 p2 h) K = some o) (kk : ∀ (x : Int32) (h1 : PH), K x h1 = some o → PF Γ I D h0 Q h1 (pc + 3) vs (.int x :: rest)) : PF Γ I D h0 Q h pc vs (va_rf p2 :: .int p1 :: va_rf p0 :: rest) := by
  obtain ⟨cc, nL, own, rt, xt, fr, lo, nm⟩ := I
  cases hI
  exact j_cSWi (n := 3) (y := yX0_logNode) (cc2 := cX0_logNode) (As := [va_rf p0, .int p1, va_rf p2]) (lw_SW q1996 q1997 q89 q1998) hyS_X0_logNode hfr hlo rfl hW hd (c_X0_logNode p0 p1 p2) hf _ rfl kk
theorem kc_X0_302 {Γ : GX} {I : MI} {D : va_G} {h0 : PH} {Q : State → Prop} {h : PH} {pc : Nat} {vs : List (Option Value)} {rest : List Value} {β : Type} {o : β} {r : Option Nat} {p0 : Int32} {K : ((Int32) → PH → Option β)} (hI : I.2.2.1 = RX0) (hfr : Nat.ble 3 I.2.2.2.2.2.1 = true) (hlo : Nat.ble 68 I.2.2.2.2.2.2.1 = true) (hW : (rest.map fun v => v.category).sum ≤ 8) (hd : decode I.1 pc = .ok (.invokevirtual 302, 3)) (hf : rv_ h r 6 (cl_ (f_X7_logNode r p0 h) K) = some o) (kk : ∀ (x : Int32) (h1 : PH), K x h1 = some o → PF Γ I D h0 Q h1 (pc + 3) vs (.int x :: rest)) : PF Γ I D h0 Q h pc vs (.int p0 :: va_rf r :: rest) := by
  obtain ⟨cc, nL, own, rt, xt, fr, lo, nm⟩ := I
  cases hI
  exact j_cVi (n := 1) (y := yX7_logNode) (cc2 := cX7_logNode) (As := [.int p0]) (C := RX7) (ci := 6) rfl (lw_V q2698 q2699 q2700 q117 q2701) hyV_X7_logNode hfr hlo rfl hW hd (c_X7_logNode r p0) hf _ rfl kk
theorem kc_X0_303 {Γ : GX} {I : MI} {D : va_G} {h0 : PH} {Q : State → Prop} {h : PH} {pc : Nat} {vs : List (Option Value)} {rest : List Value} {β : Type} {o : β} {p0 : Option Nat} {p1 : Int32} {p2 : Option Nat} {K : ((Int32) → PH → Option β)} (hI : I.2.2.1 = RX0) (hfr : Nat.ble 9 I.2.2.2.2.2.1 = true) (hlo : Nat.ble 154 I.2.2.2.2.2.2.1 = true) (hW : (rest.map fun v => v.category).sum ≤ 8) (hd : decode I.1 pc = .ok (.invokestatic 303, 3)) (hf : cl_ (f_X0_logToken p0 p1 p2 h) K = some o) (kk : ∀ (x : Int32) (h1 : PH), K x h1 = some o → PF Γ I D h0 Q h1 (pc + 3) vs (.int x :: rest)) : PF Γ I D h0 Q h pc vs (va_rf p2 :: .int p1 :: va_rf p0 :: rest) := by
  obtain ⟨cc, nL, own, rt, xt, fr, lo, nm⟩ := I
  cases hI
  exact j_cSWi (n := 3) (y := yX0_logToken) (cc2 := cX0_logToken) (As := [va_rf p0, .int p1, va_rf p2]) (lw_SW q2003 q2004 q89 q2005) hyS_X0_logToken hfr hlo rfl hW hd (c_X0_logToken p0 p1 p2) hf _ rfl kk
theorem kc_X0_305 {Γ : GX} {I : MI} {D : va_G} {h0 : PH} {Q : State → Prop} {h : PH} {pc : Nat} {vs : List (Option Value)} {rest : List Value} {β : Type} {o : β} {r : Option Nat} {p0 : Int32} {K : ((Int32) → PH → Option β)} (hI : I.2.2.1 = RX0) (hfr : Nat.ble 3 I.2.2.2.2.2.1 = true) (hlo : Nat.ble 68 I.2.2.2.2.2.2.1 = true) (hW : (rest.map fun v => v.category).sum ≤ 8) (hd : decode I.1 pc = .ok (.invokevirtual 305, 3)) (hf : rv_ h r 6 (cl_ (f_X7_logToken r p0 h) K) = some o) (kk : ∀ (x : Int32) (h1 : PH), K x h1 = some o → PF Γ I D h0 Q h1 (pc + 3) vs (.int x :: rest)) : PF Γ I D h0 Q h pc vs (.int p0 :: va_rf r :: rest) := by
  obtain ⟨cc, nL, own, rt, xt, fr, lo, nm⟩ := I
  cases hI
  exact j_cVi (n := 1) (y := yX7_logToken) (cc2 := cX7_logToken) (As := [.int p0]) (C := RX7) (ci := 6) rfl (lw_V q2702 q2703 q2704 q117 q2705) hyV_X7_logToken hfr hlo rfl hW hd (c_X7_logToken r p0) hf _ rfl kk
theorem kc_X0_306 {Γ : GX} {I : MI} {D : va_G} {h0 : PH} {Q : State → Prop} {h : PH} {pc : Nat} {vs : List (Option Value)} {rest : List Value} {β : Type} {o : β} {p0 : Option Nat} {p1 : Int32} {p2 : Option Nat} {K : ((Int32) → PH → Option β)} (hI : I.2.2.1 = RX0) (hfr : Nat.ble 9 I.2.2.2.2.2.1 = true) (hlo : Nat.ble 153 I.2.2.2.2.2.2.1 = true) (hW : (rest.map fun v => v.category).sum ≤ 8) (hd : decode I.1 pc = .ok (.invokestatic 306, 3)) (hf : cl_ (f_X0_eventCount p0 p1 p2 h) K = some o) (kk : ∀ (x : Int32) (h1 : PH), K x h1 = some o → PF Γ I D h0 Q h1 (pc + 3) vs (.int x :: rest)) : PF Γ I D h0 Q h pc vs (va_rf p2 :: .int p1 :: va_rf p0 :: rest) := by
  obtain ⟨cc, nL, own, rt, xt, fr, lo, nm⟩ := I
  cases hI
  exact j_cSWi (n := 3) (y := yX0_eventCount) (cc2 := cX0_eventCount) (As := [va_rf p0, .int p1, va_rf p2]) (lw_SW q2010 q2011 q89 q2012) hyS_X0_eventCount hfr hlo rfl hW hd (c_X0_eventCount p0 p1 p2) hf _ rfl kk
theorem kc_X0_308 {Γ : GX} {I : MI} {D : va_G} {h0 : PH} {Q : State → Prop} {h : PH} {pc : Nat} {vs : List (Option Value)} {rest : List Value} {β : Type} {o : β} {r : Option Nat} {p0 : Int32} {K : ((Int32) → PH → Option β)} (hI : I.2.2.1 = RX0) (hfr : Nat.ble 2 I.2.2.2.2.2.1 = true) (hlo : Nat.ble 46 I.2.2.2.2.2.2.1 = true) (hW : (rest.map fun v => v.category).sum ≤ 8) (hd : decode I.1 pc = .ok (.invokevirtual 308, 3)) (hf : rv_ h r 6 (cl_ (f_X7_eventCount r p0 h) K) = some o) (kk : ∀ (x : Int32) (h1 : PH), K x h1 = some o → PF Γ I D h0 Q h1 (pc + 3) vs (.int x :: rest)) : PF Γ I D h0 Q h pc vs (.int p0 :: va_rf r :: rest) := by
  obtain ⟨cc, nL, own, rt, xt, fr, lo, nm⟩ := I
  cases hI
  exact j_cVi (n := 1) (y := yX7_eventCount) (cc2 := cX7_eventCount) (As := [.int p0]) (C := RX7) (ci := 6) rfl (lw_V q2706 q2707 q2708 q117 q2709) hyV_X7_eventCount hfr hlo rfl hW hd (c_X7_eventCount r p0) hf _ rfl kk
theorem kc_X0_309 {Γ : GX} {I : MI} {D : va_G} {h0 : PH} {Q : State → Prop} {h : PH} {pc : Nat} {vs : List (Option Value)} {rest : List Value} {β : Type} {o : β} {r : Option Nat}  {K : ((Int32) → PH → Option β)} (hI : I.2.2.1 = RX0) (hfr : Nat.ble 1 I.2.2.2.2.2.1 = true) (hlo : Nat.ble 20 I.2.2.2.2.2.2.1 = true) (hW : (rest.map fun v => v.category).sum ≤ 8) (hd : decode I.1 pc = .ok (.invokevirtual 309, 3)) (hf : rv_ h r 0 (cl_ (f_X1_splitTime r h) K) = some o) (kk : ∀ (x : Int32) (h1 : PH), K x h1 = some o → PF Γ I D h0 Q h1 (pc + 3) vs (.int x :: rest)) : PF Γ I D h0 Q h pc vs (va_rf r :: rest) := by
  obtain ⟨cc, nL, own, rt, xt, fr, lo, nm⟩ := I
  cases hI
  exact j_cVi (n := 0) (y := yX1_splitTime) (cc2 := cX1_splitTime) (As := []) (C := RX1) (ci := 0) rfl (lw_V q1647 q1648 q1649 q90 q1650) hyV_X1_splitTime hfr hlo rfl hW hd (c_X1_splitTime r) hf _ rfl kk
theorem kc_X0_312 {Γ : GX} {I : MI} {D : va_G} {h0 : PH} {Q : State → Prop} {h : PH} {pc : Nat} {vs : List (Option Value)} {rest : List Value} {β : Type} {o : β} {r : Option Nat}  {K : ((Int32) → PH → Option β)} (hI : I.2.2.1 = RX0) (hfr : Nat.ble 2 I.2.2.2.2.2.1 = true) (hlo : Nat.ble 41 I.2.2.2.2.2.2.1 = true) (hW : (rest.map fun v => v.category).sum ≤ 8) (hd : decode I.1 pc = .ok (.invokevirtual 312, 3)) (hf : rv_ h r 6 (cl_ (f_X7_splitTime r h) K) = some o) (kk : ∀ (x : Int32) (h1 : PH), K x h1 = some o → PF Γ I D h0 Q h1 (pc + 3) vs (.int x :: rest)) : PF Γ I D h0 Q h pc vs (va_rf r :: rest) := by
  obtain ⟨cc, nL, own, rt, xt, fr, lo, nm⟩ := I
  cases hI
  exact j_cVi (n := 0) (y := yX7_splitTime) (cc2 := cX7_splitTime) (As := []) (C := RX7) (ci := 6) rfl (lw_V q2720 q2721 q2722 q117 q2723) hyV_X7_splitTime hfr hlo rfl hW hd (c_X7_splitTime r) hf _ rfl kk
theorem kc_X0_313 {Γ : GX} {I : MI} {D : va_G} {h0 : PH} {Q : State → Prop} {h : PH} {pc : Nat} {vs : List (Option Value)} {rest : List Value} {β : Type} {o : β} {r : Option Nat}  {K : ((Int32) → PH → Option β)} (hI : I.2.2.1 = RX0) (hfr : Nat.ble 1 I.2.2.2.2.2.1 = true) (hlo : Nat.ble 20 I.2.2.2.2.2.2.1 = true) (hW : (rest.map fun v => v.category).sum ≤ 8) (hd : decode I.1 pc = .ok (.invokevirtual 313, 3)) (hf : rv_ h r 0 (cl_ (f_X1_reads r h) K) = some o) (kk : ∀ (x : Int32) (h1 : PH), K x h1 = some o → PF Γ I D h0 Q h1 (pc + 3) vs (.int x :: rest)) : PF Γ I D h0 Q h pc vs (va_rf r :: rest) := by
  obtain ⟨cc, nL, own, rt, xt, fr, lo, nm⟩ := I
  cases hI
  exact j_cVi (n := 0) (y := yX1_reads) (cc2 := cX1_reads) (As := []) (C := RX1) (ci := 0) rfl (lw_V q1651 q1652 q1653 q90 q1654) hyV_X1_reads hfr hlo rfl hW hd (c_X1_reads r) hf _ rfl kk
theorem kc_X0_316 {Γ : GX} {I : MI} {D : va_G} {h0 : PH} {Q : State → Prop} {h : PH} {pc : Nat} {vs : List (Option Value)} {rest : List Value} {β : Type} {o : β} {r : Option Nat}  {K : ((Int32) → PH → Option β)} (hI : I.2.2.1 = RX0) (hfr : Nat.ble 2 I.2.2.2.2.2.1 = true) (hlo : Nat.ble 41 I.2.2.2.2.2.2.1 = true) (hW : (rest.map fun v => v.category).sum ≤ 8) (hd : decode I.1 pc = .ok (.invokevirtual 316, 3)) (hf : rv_ h r 6 (cl_ (f_X7_reads r h) K) = some o) (kk : ∀ (x : Int32) (h1 : PH), K x h1 = some o → PF Γ I D h0 Q h1 (pc + 3) vs (.int x :: rest)) : PF Γ I D h0 Q h pc vs (va_rf r :: rest) := by
  obtain ⟨cc, nL, own, rt, xt, fr, lo, nm⟩ := I
  cases hI
  exact j_cVi (n := 0) (y := yX7_reads) (cc2 := cX7_reads) (As := []) (C := RX7) (ci := 6) rfl (lw_V q2724 q2725 q2726 q117 q2727) hyV_X7_reads hfr hlo rfl hW hd (c_X7_reads r) hf _ rfl kk
theorem kc_X0_317 {Γ : GX} {I : MI} {D : va_G} {h0 : PH} {Q : State → Prop} {h : PH} {pc : Nat} {vs : List (Option Value)} {rest : List Value} {β : Type} {o : β} {r : Option Nat}  {K : ((Int32) → PH → Option β)} (hI : I.2.2.1 = RX0) (hfr : Nat.ble 1 I.2.2.2.2.2.1 = true) (hlo : Nat.ble 20 I.2.2.2.2.2.2.1 = true) (hW : (rest.map fun v => v.category).sum ≤ 8) (hd : decode I.1 pc = .ok (.invokevirtual 317, 3)) (hf : rv_ h r 0 (cl_ (f_X1_staleReads r h) K) = some o) (kk : ∀ (x : Int32) (h1 : PH), K x h1 = some o → PF Γ I D h0 Q h1 (pc + 3) vs (.int x :: rest)) : PF Γ I D h0 Q h pc vs (va_rf r :: rest) := by
  obtain ⟨cc, nL, own, rt, xt, fr, lo, nm⟩ := I
  cases hI
  exact j_cVi (n := 0) (y := yX1_staleReads) (cc2 := cX1_staleReads) (As := []) (C := RX1) (ci := 0) rfl (lw_V q1655 q1656 q1657 q90 q1658) hyV_X1_staleReads hfr hlo rfl hW hd (c_X1_staleReads r) hf _ rfl kk
theorem kc_X0_320 {Γ : GX} {I : MI} {D : va_G} {h0 : PH} {Q : State → Prop} {h : PH} {pc : Nat} {vs : List (Option Value)} {rest : List Value} {β : Type} {o : β} {r : Option Nat}  {K : ((Int32) → PH → Option β)} (hI : I.2.2.1 = RX0) (hfr : Nat.ble 2 I.2.2.2.2.2.1 = true) (hlo : Nat.ble 41 I.2.2.2.2.2.2.1 = true) (hW : (rest.map fun v => v.category).sum ≤ 8) (hd : decode I.1 pc = .ok (.invokevirtual 320, 3)) (hf : rv_ h r 6 (cl_ (f_X7_staleReads r h) K) = some o) (kk : ∀ (x : Int32) (h1 : PH), K x h1 = some o → PF Γ I D h0 Q h1 (pc + 3) vs (.int x :: rest)) : PF Γ I D h0 Q h pc vs (va_rf r :: rest) := by
  obtain ⟨cc, nL, own, rt, xt, fr, lo, nm⟩ := I
  cases hI
  exact j_cVi (n := 0) (y := yX7_staleReads) (cc2 := cX7_staleReads) (As := []) (C := RX7) (ci := 6) rfl (lw_V q2728 q2729 q2730 q117 q2731) hyV_X7_staleReads hfr hlo rfl hW hd (c_X7_staleReads r) hf _ rfl kk
theorem kc_X0_321 {Γ : GX} {I : MI} {D : va_G} {h0 : PH} {Q : State → Prop} {h : PH} {pc : Nat} {vs : List (Option Value)} {rest : List Value} {β : Type} {o : β} {p0 : Option Nat} {p1 : Int32} {p2 : Option Nat} {K : ((Int32) → PH → Option β)} (hI : I.2.2.1 = RX0) (hfr : Nat.ble 9 I.2.2.2.2.2.1 = true) (hlo : Nat.ble 154 I.2.2.2.2.2.2.1 = true) (hW : (rest.map fun v => v.category).sum ≤ 8) (hd : decode I.1 pc = .ok (.invokestatic 321, 3)) (hf : cl_ (f_X0_ledTime p0 p1 p2 h) K = some o) (kk : ∀ (x : Int32) (h1 : PH), K x h1 = some o → PF Γ I D h0 Q h1 (pc + 3) vs (.int x :: rest)) : PF Γ I D h0 Q h pc vs (va_rf p2 :: .int p1 :: va_rf p0 :: rest) := by
  obtain ⟨cc, nL, own, rt, xt, fr, lo, nm⟩ := I
  cases hI
  exact j_cSWi (n := 3) (y := yX0_ledTime) (cc2 := cX0_ledTime) (As := [va_rf p0, .int p1, va_rf p2]) (lw_SW q2018 q2019 q89 q2020) hyS_X0_ledTime hfr hlo rfl hW hd (c_X0_ledTime p0 p1 p2) hf _ rfl kk
theorem kc_X0_323 {Γ : GX} {I : MI} {D : va_G} {h0 : PH} {Q : State → Prop} {h : PH} {pc : Nat} {vs : List (Option Value)} {rest : List Value} {β : Type} {o : β} {r : Option Nat} {p0 : Int32} {K : ((Int32) → PH → Option β)} (hI : I.2.2.1 = RX0) (hfr : Nat.ble 4 I.2.2.2.2.2.1 = true) (hlo : Nat.ble 89 I.2.2.2.2.2.2.1 = true) (hW : (rest.map fun v => v.category).sum ≤ 8) (hd : decode I.1 pc = .ok (.invokevirtual 323, 3)) (hf : rv_ h r 6 (cl_ (f_X7_ledTime r p0 h) K) = some o) (kk : ∀ (x : Int32) (h1 : PH), K x h1 = some o → PF Γ I D h0 Q h1 (pc + 3) vs (.int x :: rest)) : PF Γ I D h0 Q h pc vs (.int p0 :: va_rf r :: rest) := by
  obtain ⟨cc, nL, own, rt, xt, fr, lo, nm⟩ := I
  cases hI
  exact j_cVi (n := 1) (y := yX7_ledTime) (cc2 := cX7_ledTime) (As := [.int p0]) (C := RX7) (ci := 6) rfl (lw_V q2732 q2733 q2734 q117 q2735) hyV_X7_ledTime hfr hlo rfl hW hd (c_X7_ledTime r p0) hf _ rfl kk
theorem kc_X0_324 {Γ : GX} {I : MI} {D : va_G} {h0 : PH} {Q : State → Prop} {h : PH} {pc : Nat} {vs : List (Option Value)} {rest : List Value} {β : Type} {o : β} {p0 : Option Nat} {p1 : Int32} {p2 : Option Nat} {K : ((Int32) → PH → Option β)} (hI : I.2.2.1 = RX0) (hfr : Nat.ble 17 I.2.2.2.2.2.1 = true) (hlo : Nat.ble 419 I.2.2.2.2.2.2.1 = true) (hW : (rest.map fun v => v.category).sum ≤ 8) (hd : decode I.1 pc = .ok (.invokestatic 324, 3)) (hf : cl_ (f_X0_nextLeader p0 p1 p2 h) K = some o) (kk : ∀ (x : Int32) (h1 : PH), K x h1 = some o → PF Γ I D h0 Q h1 (pc + 3) vs (.int x :: rest)) : PF Γ I D h0 Q h pc vs (va_rf p2 :: .int p1 :: va_rf p0 :: rest) := by
  obtain ⟨cc, nL, own, rt, xt, fr, lo, nm⟩ := I
  cases hI
  exact j_cSWi (n := 3) (y := yX0_nextLeader) (cc2 := cX0_nextLeader) (As := [va_rf p0, .int p1, va_rf p2]) (lw_SW q2025 q2026 q89 q2027) hyS_X0_nextLeader hfr hlo rfl hW hd (c_X0_nextLeader p0 p1 p2) hf _ rfl kk
theorem kc_X0_326 {Γ : GX} {I : MI} {D : va_G} {h0 : PH} {Q : State → Prop} {h : PH} {pc : Nat} {vs : List (Option Value)} {rest : List Value} {β : Type} {o : β} {r : Option Nat} {p0 : Int32} {K : ((Int32) → PH → Option β)} (hI : I.2.2.1 = RX0) (hfr : Nat.ble 9 I.2.2.2.2.2.1 = true) (hlo : Nat.ble 220 I.2.2.2.2.2.2.1 = true) (hW : (rest.map fun v => v.category).sum ≤ 8) (hd : decode I.1 pc = .ok (.invokevirtual 326, 3)) (hf : rv_ h r 6 (cl_ (f_X7_nextLeader r p0 h) K) = some o) (kk : ∀ (x : Int32) (h1 : PH), K x h1 = some o → PF Γ I D h0 Q h1 (pc + 3) vs (.int x :: rest)) : PF Γ I D h0 Q h pc vs (.int p0 :: va_rf r :: rest) := by
  obtain ⟨cc, nL, own, rt, xt, fr, lo, nm⟩ := I
  cases hI
  exact j_cVi (n := 1) (y := yX7_nextLeader) (cc2 := cX7_nextLeader) (As := [.int p0]) (C := RX7) (ci := 6) rfl (lw_V q2736 q2737 q2738 q117 q2739) hyV_X7_nextLeader hfr hlo rfl hW hd (c_X7_nextLeader r p0) hf _ rfl kk
theorem kc_X0_327 {Γ : GX} {I : MI} {D : va_G} {h0 : PH} {Q : State → Prop} {h : PH} {pc : Nat} {vs : List (Option Value)} {rest : List Value} {β : Type} {o : β} {p0 : Option Nat} {p1 : Int32} {p2 : Option Nat} {K : ((Int32) → PH → Option β)} (hI : I.2.2.1 = RX0) (hfr : Nat.ble 17 I.2.2.2.2.2.1 = true) (hlo : Nat.ble 417 I.2.2.2.2.2.2.1 = true) (hW : (rest.map fun v => v.category).sum ≤ 8) (hd : decode I.1 pc = .ok (.invokestatic 327, 3)) (hf : cl_ (f_X0_leaderlessTime p0 p1 p2 h) K = some o) (kk : ∀ (x : Int32) (h1 : PH), K x h1 = some o → PF Γ I D h0 Q h1 (pc + 3) vs (.int x :: rest)) : PF Γ I D h0 Q h pc vs (va_rf p2 :: .int p1 :: va_rf p0 :: rest) := by
  obtain ⟨cc, nL, own, rt, xt, fr, lo, nm⟩ := I
  cases hI
  exact j_cSWi (n := 3) (y := yX0_leaderlessTime) (cc2 := cX0_leaderlessTime) (As := [va_rf p0, .int p1, va_rf p2]) (lw_SW q2074 q2075 q89 q2076) hyS_X0_leaderlessTime hfr hlo rfl hW hd (c_X0_leaderlessTime p0 p1 p2) hf _ rfl kk
theorem kc_X0_329 {Γ : GX} {I : MI} {D : va_G} {h0 : PH} {Q : State → Prop} {h : PH} {pc : Nat} {vs : List (Option Value)} {rest : List Value} {β : Type} {o : β} {r : Option Nat} {p0 : Int32} {K : ((Int32) → PH → Option β)} (hI : I.2.2.1 = RX0) (hfr : Nat.ble 9 I.2.2.2.2.2.1 = true) (hlo : Nat.ble 217 I.2.2.2.2.2.2.1 = true) (hW : (rest.map fun v => v.category).sum ≤ 8) (hd : decode I.1 pc = .ok (.invokevirtual 329, 3)) (hf : rv_ h r 6 (cl_ (f_X7_leaderlessTime r p0 h) K) = some o) (kk : ∀ (x : Int32) (h1 : PH), K x h1 = some o → PF Γ I D h0 Q h1 (pc + 3) vs (.int x :: rest)) : PF Γ I D h0 Q h pc vs (.int p0 :: va_rf r :: rest) := by
  obtain ⟨cc, nL, own, rt, xt, fr, lo, nm⟩ := I
  cases hI
  exact j_cVi (n := 1) (y := yX7_leaderlessTime) (cc2 := cX7_leaderlessTime) (As := [.int p0]) (C := RX7) (ci := 6) rfl (lw_V q2748 q2749 q2750 q117 q2751) hyV_X7_leaderlessTime hfr hlo rfl hW hd (c_X7_leaderlessTime r p0) hf _ rfl kk
theorem kc_X0_330 {Γ : GX} {I : MI} {D : va_G} {h0 : PH} {Q : State → Prop} {h : PH} {pc : Nat} {vs : List (Option Value)} {rest : List Value} {β : Type} {o : β} {p0 : Option Nat} {p1 : Int32} {p2 : Option Nat} {K : ((Int32) → PH → Option β)} (hI : I.2.2.1 = RX0) (hfr : Nat.ble 9 I.2.2.2.2.2.1 = true) (hlo : Nat.ble 155 I.2.2.2.2.2.2.1 = true) (hW : (rest.map fun v => v.category).sum ≤ 8) (hd : decode I.1 pc = .ok (.invokestatic 330, 3)) (hf : cl_ (f_X0_leaseLeft p0 p1 p2 h) K = some o) (kk : ∀ (x : Int32) (h1 : PH), K x h1 = some o → PF Γ I D h0 Q h1 (pc + 3) vs (.int x :: rest)) : PF Γ I D h0 Q h pc vs (va_rf p2 :: .int p1 :: va_rf p0 :: rest) := by
  obtain ⟨cc, nL, own, rt, xt, fr, lo, nm⟩ := I
  cases hI
  exact j_cSWi (n := 3) (y := yX0_leaseLeft) (cc2 := cX0_leaseLeft) (As := [va_rf p0, .int p1, va_rf p2]) (lw_SW q2081 q2082 q89 q2083) hyS_X0_leaseLeft hfr hlo rfl hW hd (c_X0_leaseLeft p0 p1 p2) hf _ rfl kk
theorem kc_X0_332 {Γ : GX} {I : MI} {D : va_G} {h0 : PH} {Q : State → Prop} {h : PH} {pc : Nat} {vs : List (Option Value)} {rest : List Value} {β : Type} {o : β} {r : Option Nat} {p0 : Int32} {K : ((Int32) → PH → Option β)} (hI : I.2.2.1 = RX0) (hfr : Nat.ble 3 I.2.2.2.2.2.1 = true) (hlo : Nat.ble 67 I.2.2.2.2.2.2.1 = true) (hW : (rest.map fun v => v.category).sum ≤ 8) (hd : decode I.1 pc = .ok (.invokevirtual 332, 3)) (hf : rv_ h r 6 (cl_ (f_X7_leaseLeft r p0 h) K) = some o) (kk : ∀ (x : Int32) (h1 : PH), K x h1 = some o → PF Γ I D h0 Q h1 (pc + 3) vs (.int x :: rest)) : PF Γ I D h0 Q h pc vs (.int p0 :: va_rf r :: rest) := by
  obtain ⟨cc, nL, own, rt, xt, fr, lo, nm⟩ := I
  cases hI
  exact j_cVi (n := 1) (y := yX7_leaseLeft) (cc2 := cX7_leaseLeft) (As := [.int p0]) (C := RX7) (ci := 6) rfl (lw_V q2645 q2646 q2647 q117 q2648) hyV_X7_leaseLeft hfr hlo rfl hW hd (c_X7_leaseLeft r p0) hf _ rfl kk
theorem kc_X0_333 {Γ : GX} {I : MI} {D : va_G} {h0 : PH} {Q : State → Prop} {h : PH} {pc : Nat} {vs : List (Option Value)} {rest : List Value} {β : Type} {o : β} {r : Option Nat}  {K : ((Int32) → PH → Option β)} (hI : I.2.2.1 = RX0) (hfr : Nat.ble 2 I.2.2.2.2.2.1 = true) (hlo : Nat.ble 49 I.2.2.2.2.2.2.1 = true) (hW : (rest.map fun v => v.category).sum ≤ 8) (hd : decode I.1 pc = .ok (.invokevirtual 333, 3)) (hf : rv_ h r 0 (cl_ (f_X1_smallestBound r h) K) = some o) (kk : ∀ (x : Int32) (h1 : PH), K x h1 = some o → PF Γ I D h0 Q h1 (pc + 3) vs (.int x :: rest)) : PF Γ I D h0 Q h pc vs (va_rf r :: rest) := by
  obtain ⟨cc, nL, own, rt, xt, fr, lo, nm⟩ := I
  cases hI
  exact j_cVi (n := 0) (y := yX1_smallestBound) (cc2 := cX1_smallestBound) (As := []) (C := RX1) (ci := 0) rfl (lw_V q1659 q1660 q1661 q90 q1662) hyV_X1_smallestBound hfr hlo rfl hW hd (c_X1_smallestBound r) hf _ rfl kk
theorem kc_X0_336 {Γ : GX} {I : MI} {D : va_G} {h0 : PH} {Q : State → Prop} {h : PH} {pc : Nat} {vs : List (Option Value)} {rest : List Value} {β : Type} {o : β} {r : Option Nat}  {K : ((Int32) → PH → Option β)} (hI : I.2.2.1 = RX0) (hfr : Nat.ble 2 I.2.2.2.2.2.1 = true) (hlo : Nat.ble 46 I.2.2.2.2.2.2.1 = true) (hW : (rest.map fun v => v.category).sum ≤ 8) (hd : decode I.1 pc = .ok (.invokevirtual 336, 3)) (hf : rv_ h r 6 (cl_ (f_X7_smallestBound r h) K) = some o) (kk : ∀ (x : Int32) (h1 : PH), K x h1 = some o → PF Γ I D h0 Q h1 (pc + 3) vs (.int x :: rest)) : PF Γ I D h0 Q h pc vs (va_rf r :: rest) := by
  obtain ⟨cc, nL, own, rt, xt, fr, lo, nm⟩ := I
  cases hI
  exact j_cVi (n := 0) (y := yX7_smallestBound) (cc2 := cX7_smallestBound) (As := []) (C := RX7) (ci := 6) rfl (lw_V q2649 q2650 q2651 q117 q2652) hyV_X7_smallestBound hfr hlo rfl hW hd (c_X7_smallestBound r) hf _ rfl kk
theorem kc_X0_337 {Γ : GX} {I : MI} {D : va_G} {h0 : PH} {Q : State → Prop} {h : PH} {pc : Nat} {vs : List (Option Value)} {rest : List Value} {β : Type} {o : β} {r : Option Nat}  {K : ((Int32) → PH → Option β)} (hI : I.2.2.1 = RX0) (hfr : Nat.ble 5 I.2.2.2.2.2.1 = true) (hlo : Nat.ble 107 I.2.2.2.2.2.2.1 = true) (hW : (rest.map fun v => v.category).sum ≤ 8) (hd : decode I.1 pc = .ok (.invokevirtual 337, 3)) (hf : rv_ h r 0 (cl_ (f_X1_overtakingPairs r h) K) = some o) (kk : ∀ (x : Int32) (h1 : PH), K x h1 = some o → PF Γ I D h0 Q h1 (pc + 3) vs (.int x :: rest)) : PF Γ I D h0 Q h pc vs (va_rf r :: rest) := by
  obtain ⟨cc, nL, own, rt, xt, fr, lo, nm⟩ := I
  cases hI
  exact j_cVi (n := 0) (y := yX1_overtakingPairs) (cc2 := cX1_overtakingPairs) (As := []) (C := RX1) (ci := 0) rfl (lw_V q1666 q1667 q1668 q90 q1669) hyV_X1_overtakingPairs hfr hlo rfl hW hd (c_X1_overtakingPairs r) hf _ rfl kk
theorem kc_X0_340 {Γ : GX} {I : MI} {D : va_G} {h0 : PH} {Q : State → Prop} {h : PH} {pc : Nat} {vs : List (Option Value)} {rest : List Value} {β : Type} {o : β} {r : Option Nat}  {K : ((Int32) → PH → Option β)} (hI : I.2.2.1 = RX0) (hfr : Nat.ble 3 I.2.2.2.2.2.1 = true) (hlo : Nat.ble 69 I.2.2.2.2.2.2.1 = true) (hW : (rest.map fun v => v.category).sum ≤ 8) (hd : decode I.1 pc = .ok (.invokevirtual 340, 3)) (hf : rv_ h r 6 (cl_ (f_X7_overtakingPairs r h) K) = some o) (kk : ∀ (x : Int32) (h1 : PH), K x h1 = some o → PF Γ I D h0 Q h1 (pc + 3) vs (.int x :: rest)) : PF Γ I D h0 Q h pc vs (va_rf r :: rest) := by
  obtain ⟨cc, nL, own, rt, xt, fr, lo, nm⟩ := I
  cases hI
  exact j_cVi (n := 0) (y := yX7_overtakingPairs) (cc2 := cX7_overtakingPairs) (As := []) (C := RX7) (ci := 6) rfl (lw_V q2654 q2655 q2656 q117 q2657) hyV_X7_overtakingPairs hfr hlo rfl hW hd (c_X7_overtakingPairs r) hf _ rfl kk
theorem kc_X0_341 {Γ : GX} {I : MI} {D : va_G} {h0 : PH} {Q : State → Prop} {h : PH} {pc : Nat} {vs : List (Option Value)} {rest : List Value} {β : Type} {o : β} {r : Option Nat}  {K : ((Int32) → PH → Option β)} (hI : I.2.2.1 = RX0) (hfr : Nat.ble 6 I.2.2.2.2.2.1 = true) (hlo : Nat.ble 133 I.2.2.2.2.2.2.1 = true) (hW : (rest.map fun v => v.category).sum ≤ 8) (hd : decode I.1 pc = .ok (.invokevirtual 341, 3)) (hf : rv_ h r 0 (cl_ (f_X1_staleCaches r h) K) = some o) (kk : ∀ (x : Int32) (h1 : PH), K x h1 = some o → PF Γ I D h0 Q h1 (pc + 3) vs (.int x :: rest)) : PF Γ I D h0 Q h pc vs (va_rf r :: rest) := by
  obtain ⟨cc, nL, own, rt, xt, fr, lo, nm⟩ := I
  cases hI
  exact j_cVi (n := 0) (y := yX1_staleCaches) (cc2 := cX1_staleCaches) (As := []) (C := RX1) (ci := 0) rfl (lw_V q1678 q1679 q1680 q90 q1681) hyV_X1_staleCaches hfr hlo rfl hW hd (c_X1_staleCaches r) hf _ rfl kk
theorem kc_X0_344 {Γ : GX} {I : MI} {D : va_G} {h0 : PH} {Q : State → Prop} {h : PH} {pc : Nat} {vs : List (Option Value)} {rest : List Value} {β : Type} {o : β} {r : Option Nat}  {K : ((Int32) → PH → Option β)} (hI : I.2.2.1 = RX0) (hfr : Nat.ble 4 I.2.2.2.2.2.1 = true) (hlo : Nat.ble 86 I.2.2.2.2.2.2.1 = true) (hW : (rest.map fun v => v.category).sum ≤ 8) (hd : decode I.1 pc = .ok (.invokevirtual 344, 3)) (hf : rv_ h r 6 (cl_ (f_X7_staleCaches r h) K) = some o) (kk : ∀ (x : Int32) (h1 : PH), K x h1 = some o → PF Γ I D h0 Q h1 (pc + 3) vs (.int x :: rest)) : PF Γ I D h0 Q h pc vs (va_rf r :: rest) := by
  obtain ⟨cc, nL, own, rt, xt, fr, lo, nm⟩ := I
  cases hI
  exact j_cVi (n := 0) (y := yX7_staleCaches) (cc2 := cX7_staleCaches) (As := []) (C := RX7) (ci := 6) rfl (lw_V q2662 q2663 q2664 q117 q2665) hyV_X7_staleCaches hfr hlo rfl hW hd (c_X7_staleCaches r) hf _ rfl kk
theorem kc_X0_345 {Γ : GX} {I : MI} {D : va_G} {h0 : PH} {Q : State → Prop} {h : PH} {pc : Nat} {vs : List (Option Value)} {rest : List Value} {β : Type} {o : β} {p0 : Option Nat} {p1 : Int32} {p2 : Int32} {p3 : Option Nat} {K : ((Int32) → PH → Option β)} (hI : I.2.2.1 = RX0) (hfr : Nat.ble 9 I.2.2.2.2.2.1 = true) (hlo : Nat.ble 158 I.2.2.2.2.2.2.1 = true) (hW : (rest.map fun v => v.category).sum ≤ 8) (hd : decode I.1 pc = .ok (.invokestatic 345, 3)) (hf : cl_ (f_X0_countInLog p0 p1 p2 p3 h) K = some o) (kk : ∀ (x : Int32) (h1 : PH), K x h1 = some o → PF Γ I D h0 Q h1 (pc + 3) vs (.int x :: rest)) : PF Γ I D h0 Q h pc vs (va_rf p3 :: .int p2 :: .int p1 :: va_rf p0 :: rest) := by
  obtain ⟨cc, nL, own, rt, xt, fr, lo, nm⟩ := I
  cases hI
  exact j_cSWi (n := 4) (y := yX0_countInLog) (cc2 := cX0_countInLog) (As := [va_rf p0, .int p1, .int p2, va_rf p3]) (lw_SW q2088 q2089 q89 q2090) hyS_X0_countInLog hfr hlo rfl hW hd (c_X0_countInLog p0 p1 p2 p3) hf _ rfl kk
theorem kc_X0_347 {Γ : GX} {I : MI} {D : va_G} {h0 : PH} {Q : State → Prop} {h : PH} {pc : Nat} {vs : List (Option Value)} {rest : List Value} {β : Type} {o : β} {r : Option Nat} {p0 : Int32} {p1 : Int32} {K : ((Int32) → PH → Option β)} (hI : I.2.2.1 = RX0) (hfr : Nat.ble 2 I.2.2.2.2.2.1 = true) (hlo : Nat.ble 49 I.2.2.2.2.2.2.1 = true) (hW : (rest.map fun v => v.category).sum ≤ 8) (hd : decode I.1 pc = .ok (.invokevirtual 347, 3)) (hf : rv_ h r 6 (cl_ (f_X7_countInLog r p0 p1 h) K) = some o) (kk : ∀ (x : Int32) (h1 : PH), K x h1 = some o → PF Γ I D h0 Q h1 (pc + 3) vs (.int x :: rest)) : PF Γ I D h0 Q h pc vs (.int p1 :: .int p0 :: va_rf r :: rest) := by
  obtain ⟨cc, nL, own, rt, xt, fr, lo, nm⟩ := I
  cases hI
  exact j_cVi (n := 2) (y := yX7_countInLog) (cc2 := cX7_countInLog) (As := [.int p0, .int p1]) (C := RX7) (ci := 6) rfl (lw_V q2711 q2712 q2713 q117 q2714) hyV_X7_countInLog hfr hlo rfl hW hd (c_X7_countInLog r p0 p1) hf _ rfl kk
theorem kc_X0_348 {Γ : GX} {I : MI} {D : va_G} {h0 : PH} {Q : State → Prop} {h : PH} {pc : Nat} {vs : List (Option Value)} {rest : List Value} {β : Type} {o : β} {p0 : Option Nat} {p1 : Int32} {p2 : Option Nat} {K : ((Int32) → PH → Option β)} (hI : I.2.2.1 = RX0) (hfr : Nat.ble 9 I.2.2.2.2.2.1 = true) (hlo : Nat.ble 154 I.2.2.2.2.2.2.1 = true) (hW : (rest.map fun v => v.category).sum ≤ 8) (hd : decode I.1 pc = .ok (.invokestatic 348, 3)) (hf : cl_ (f_X0_lastEventTime p0 p1 p2 h) K = some o) (kk : ∀ (x : Int32) (h1 : PH), K x h1 = some o → PF Γ I D h0 Q h1 (pc + 3) vs (.int x :: rest)) : PF Γ I D h0 Q h pc vs (va_rf p2 :: .int p1 :: va_rf p0 :: rest) := by
  obtain ⟨cc, nL, own, rt, xt, fr, lo, nm⟩ := I
  cases hI
  exact j_cSWi (n := 3) (y := yX0_lastEventTime) (cc2 := cX0_lastEventTime) (As := [va_rf p0, .int p1, va_rf p2]) (lw_SW q2095 q2096 q89 q2097) hyS_X0_lastEventTime hfr hlo rfl hW hd (c_X0_lastEventTime p0 p1 p2) hf _ rfl kk
theorem kc_X0_350 {Γ : GX} {I : MI} {D : va_G} {h0 : PH} {Q : State → Prop} {h : PH} {pc : Nat} {vs : List (Option Value)} {rest : List Value} {β : Type} {o : β} {r : Option Nat} {p0 : Int32} {K : ((Int32) → PH → Option β)} (hI : I.2.2.1 = RX0) (hfr : Nat.ble 2 I.2.2.2.2.2.1 = true) (hlo : Nat.ble 47 I.2.2.2.2.2.2.1 = true) (hW : (rest.map fun v => v.category).sum ≤ 8) (hd : decode I.1 pc = .ok (.invokevirtual 350, 3)) (hf : rv_ h r 6 (cl_ (f_X7_lastEventTime r p0 h) K) = some o) (kk : ∀ (x : Int32) (h1 : PH), K x h1 = some o → PF Γ I D h0 Q h1 (pc + 3) vs (.int x :: rest)) : PF Γ I D h0 Q h pc vs (.int p0 :: va_rf r :: rest) := by
  obtain ⟨cc, nL, own, rt, xt, fr, lo, nm⟩ := I
  cases hI
  exact j_cVi (n := 1) (y := yX7_lastEventTime) (cc2 := cX7_lastEventTime) (As := [.int p0]) (C := RX7) (ci := 6) rfl (lw_V q2716 q2717 q2718 q117 q2719) hyV_X7_lastEventTime hfr hlo rfl hW hd (c_X7_lastEventTime r p0) hf _ rfl kk
theorem kc_X0_351 {Γ : GX} {I : MI} {D : va_G} {h0 : PH} {Q : State → Prop} {h : PH} {pc : Nat} {vs : List (Option Value)} {rest : List Value} {β : Type} {o : β} {p0 : Option Nat} {p1 : Int32} {p2 : Int32} {p3 : Option Nat} {K : ((Int32) → PH → Option β)} (hI : I.2.2.1 = RX0) (hfr : Nat.ble 17 I.2.2.2.2.2.1 = true) (hlo : Nat.ble 420 I.2.2.2.2.2.2.1 = true) (hW : (rest.map fun v => v.category).sum ≤ 8) (hd : decode I.1 pc = .ok (.invokestatic 351, 3)) (hf : cl_ (f_X0_timeUntilLeader p0 p1 p2 p3 h) K = some o) (kk : ∀ (x : Int32) (h1 : PH), K x h1 = some o → PF Γ I D h0 Q h1 (pc + 3) vs (.int x :: rest)) : PF Γ I D h0 Q h pc vs (va_rf p3 :: .int p2 :: .int p1 :: va_rf p0 :: rest) := by
  obtain ⟨cc, nL, own, rt, xt, fr, lo, nm⟩ := I
  cases hI
  exact j_cSWi (n := 4) (y := yX0_timeUntilLeader) (cc2 := cX0_timeUntilLeader) (As := [va_rf p0, .int p1, .int p2, va_rf p3]) (lw_SW q2102 q2103 q89 q2104) hyS_X0_timeUntilLeader hfr hlo rfl hW hd (c_X0_timeUntilLeader p0 p1 p2 p3) hf _ rfl kk
theorem kc_X0_353 {Γ : GX} {I : MI} {D : va_G} {h0 : PH} {Q : State → Prop} {h : PH} {pc : Nat} {vs : List (Option Value)} {rest : List Value} {β : Type} {o : β} {r : Option Nat} {p0 : Int32} {p1 : Int32} {K : ((Int32) → PH → Option β)} (hI : I.2.2.1 = RX0) (hfr : Nat.ble 9 I.2.2.2.2.2.1 = true) (hlo : Nat.ble 220 I.2.2.2.2.2.2.1 = true) (hW : (rest.map fun v => v.category).sum ≤ 8) (hd : decode I.1 pc = .ok (.invokevirtual 353, 3)) (hf : rv_ h r 6 (cl_ (f_X7_timeUntilLeader r p0 p1 h) K) = some o) (kk : ∀ (x : Int32) (h1 : PH), K x h1 = some o → PF Γ I D h0 Q h1 (pc + 3) vs (.int x :: rest)) : PF Γ I D h0 Q h pc vs (.int p1 :: .int p0 :: va_rf r :: rest) := by
  obtain ⟨cc, nL, own, rt, xt, fr, lo, nm⟩ := I
  cases hI
  exact j_cVi (n := 2) (y := yX7_timeUntilLeader) (cc2 := cX7_timeUntilLeader) (As := [.int p0, .int p1]) (C := RX7) (ci := 6) rfl (lw_V q2752 q2753 q2754 q117 q2755) hyV_X7_timeUntilLeader hfr hlo rfl hW hd (c_X7_timeUntilLeader r p0 p1) hf _ rfl kk
theorem kc_X0_354 {Γ : GX} {I : MI} {D : va_G} {h0 : PH} {Q : State → Prop} {h : PH} {pc : Nat} {vs : List (Option Value)} {rest : List Value} {β : Type} {o : β} {p0 : Option Nat} {p1 : Int32} {p2 : Option Nat} {K : ((Int32) → PH → Option β)} (hI : I.2.2.1 = RX0) (hfr : Nat.ble 17 I.2.2.2.2.2.1 = true) (hlo : Nat.ble 420 I.2.2.2.2.2.2.1 = true) (hW : (rest.map fun v => v.category).sum ≤ 8) (hd : decode I.1 pc = .ok (.invokestatic 354, 3)) (hf : cl_ (f_X0_longestLeaderless p0 p1 p2 h) K = some o) (kk : ∀ (x : Int32) (h1 : PH), K x h1 = some o → PF Γ I D h0 Q h1 (pc + 3) vs (.int x :: rest)) : PF Γ I D h0 Q h pc vs (va_rf p2 :: .int p1 :: va_rf p0 :: rest) := by
  obtain ⟨cc, nL, own, rt, xt, fr, lo, nm⟩ := I
  cases hI
  exact j_cSWi (n := 3) (y := yX0_longestLeaderless) (cc2 := cX0_longestLeaderless) (As := [va_rf p0, .int p1, va_rf p2]) (lw_SW q2117 q2118 q89 q2119) hyS_X0_longestLeaderless hfr hlo rfl hW hd (c_X0_longestLeaderless p0 p1 p2) hf _ rfl kk
theorem kc_X0_356 {Γ : GX} {I : MI} {D : va_G} {h0 : PH} {Q : State → Prop} {h : PH} {pc : Nat} {vs : List (Option Value)} {rest : List Value} {β : Type} {o : β} {r : Option Nat} {p0 : Int32} {K : ((Int32) → PH → Option β)} (hI : I.2.2.1 = RX0) (hfr : Nat.ble 9 I.2.2.2.2.2.1 = true) (hlo : Nat.ble 217 I.2.2.2.2.2.2.1 = true) (hW : (rest.map fun v => v.category).sum ≤ 8) (hd : decode I.1 pc = .ok (.invokevirtual 356, 3)) (hf : rv_ h r 6 (cl_ (f_X7_longestLeaderless r p0 h) K) = some o) (kk : ∀ (x : Int32) (h1 : PH), K x h1 = some o → PF Γ I D h0 Q h1 (pc + 3) vs (.int x :: rest)) : PF Γ I D h0 Q h pc vs (.int p0 :: va_rf r :: rest) := by
  obtain ⟨cc, nL, own, rt, xt, fr, lo, nm⟩ := I
  cases hI
  exact j_cVi (n := 1) (y := yX7_longestLeaderless) (cc2 := cX7_longestLeaderless) (As := [.int p0]) (C := RX7) (ci := 6) rfl (lw_V q2756 q2757 q2758 q117 q2759) hyV_X7_longestLeaderless hfr hlo rfl hW hd (c_X7_longestLeaderless r p0) hf _ rfl kk
theorem kc_X0_357 {Γ : GX} {I : MI} {D : va_G} {h0 : PH} {Q : State → Prop} {h : PH} {pc : Nat} {vs : List (Option Value)} {rest : List Value} {β : Type} {o : β} {p0 : Option Nat} {p1 : Int32} {p2 : Int32} {p3 : Option Nat} {K : ((Int32) → PH → Option β)} (hI : I.2.2.1 = RX0) (hfr : Nat.ble 18 I.2.2.2.2.2.1 = true) (hlo : Nat.ble 442 I.2.2.2.2.2.2.1 = true) (hW : (rest.map fun v => v.category).sum ≤ 8) (hd : decode I.1 pc = .ok (.invokestatic 357, 3)) (hf : cl_ (f_X0_tryWrite p0 p1 p2 p3 h) K = some o) (kk : ∀ (x : Int32) (h1 : PH), K x h1 = some o → PF Γ I D h0 Q h1 (pc + 3) vs (.int x :: rest)) : PF Γ I D h0 Q h pc vs (va_rf p3 :: .int p2 :: .int p1 :: va_rf p0 :: rest) := by
  obtain ⟨cc, nL, own, rt, xt, fr, lo, nm⟩ := I
  cases hI
  exact j_cSWi (n := 4) (y := yX0_tryWrite) (cc2 := cX0_tryWrite) (As := [va_rf p0, .int p1, .int p2, va_rf p3]) (lw_SW q2132 q2133 q89 q2134) hyS_X0_tryWrite hfr hlo rfl hW hd (c_X0_tryWrite p0 p1 p2 p3) hf _ rfl kk
theorem kc_X0_359 {Γ : GX} {I : MI} {D : va_G} {h0 : PH} {Q : State → Prop} {h : PH} {pc : Nat} {vs : List (Option Value)} {rest : List Value} {β : Type} {o : β} {r : Option Nat} {p0 : Int32} {p1 : Int32} {K : ((Int32) → PH → Option β)} (hI : I.2.2.1 = RX0) (hfr : Nat.ble 9 I.2.2.2.2.2.1 = true) (hlo : Nat.ble 218 I.2.2.2.2.2.2.1 = true) (hW : (rest.map fun v => v.category).sum ≤ 8) (hd : decode I.1 pc = .ok (.invokevirtual 359, 3)) (hf : rv_ h r 6 (cl_ (f_X7_tryWrite r p0 p1 h) K) = some o) (kk : ∀ (x : Int32) (h1 : PH), K x h1 = some o → PF Γ I D h0 Q h1 (pc + 3) vs (.int x :: rest)) : PF Γ I D h0 Q h pc vs (.int p1 :: .int p0 :: va_rf r :: rest) := by
  obtain ⟨cc, nL, own, rt, xt, fr, lo, nm⟩ := I
  cases hI
  exact j_cVi (n := 2) (y := yX7_tryWrite) (cc2 := cX7_tryWrite) (As := [.int p0, .int p1]) (C := RX7) (ci := 6) rfl (lw_V q2764 q2765 q2766 q117 q2767) hyV_X7_tryWrite hfr hlo rfl hW hd (c_X7_tryWrite r p0 p1) hf _ rfl kk
theorem kc_X0_360 {Γ : GX} {I : MI} {D : va_G} {h0 : PH} {Q : State → Prop} {h : PH} {pc : Nat} {vs : List (Option Value)} {rest : List Value} {β : Type} {o : β} {p0 : Option Nat} {p1 : Int32} {p2 : Int32} {p3 : Int32} {p4 : Option Nat} {K : ((Int32) → PH → Option β)} (hI : I.2.2.1 = RX0) (hfr : Nat.ble 17 I.2.2.2.2.2.1 = true) (hlo : Nat.ble 422 I.2.2.2.2.2.2.1 = true) (hW : (rest.map fun v => v.category).sum ≤ 8) (hd : decode I.1 pc = .ok (.invokestatic 360, 3)) (hf : cl_ (f_X0_predictRead p0 p1 p2 p3 p4 h) K = some o) (kk : ∀ (x : Int32) (h1 : PH), K x h1 = some o → PF Γ I D h0 Q h1 (pc + 3) vs (.int x :: rest)) : PF Γ I D h0 Q h pc vs (va_rf p4 :: .int p3 :: .int p2 :: .int p1 :: va_rf p0 :: rest) := by
  obtain ⟨cc, nL, own, rt, xt, fr, lo, nm⟩ := I
  cases hI
  exact j_cSWi (n := 5) (y := yX0_predictRead) (cc2 := cX0_predictRead) (As := [va_rf p0, .int p1, .int p2, .int p3, va_rf p4]) (lw_SW q2145 q2146 q89 q2147) hyS_X0_predictRead hfr hlo rfl hW hd (c_X0_predictRead p0 p1 p2 p3 p4) hf _ rfl kk
theorem kc_X0_362 {Γ : GX} {I : MI} {D : va_G} {h0 : PH} {Q : State → Prop} {h : PH} {pc : Nat} {vs : List (Option Value)} {rest : List Value} {β : Type} {o : β} {r : Option Nat} {p0 : Int32} {p1 : Int32} {p2 : Int32} {K : ((Int32) → PH → Option β)} (hI : I.2.2.1 = RX0) (hfr : Nat.ble 9 I.2.2.2.2.2.1 = true) (hlo : Nat.ble 219 I.2.2.2.2.2.2.1 = true) (hW : (rest.map fun v => v.category).sum ≤ 8) (hd : decode I.1 pc = .ok (.invokevirtual 362, 3)) (hf : rv_ h r 6 (cl_ (f_X7_predictRead r p0 p1 p2 h) K) = some o) (kk : ∀ (x : Int32) (h1 : PH), K x h1 = some o → PF Γ I D h0 Q h1 (pc + 3) vs (.int x :: rest)) : PF Γ I D h0 Q h pc vs (.int p2 :: .int p1 :: .int p0 :: va_rf r :: rest) := by
  obtain ⟨cc, nL, own, rt, xt, fr, lo, nm⟩ := I
  cases hI
  exact j_cVi (n := 3) (y := yX7_predictRead) (cc2 := cX7_predictRead) (As := [.int p0, .int p1, .int p2]) (C := RX7) (ci := 6) rfl (lw_V q2768 q2769 q2770 q117 q2771) hyV_X7_predictRead hfr hlo rfl hW hd (c_X7_predictRead r p0 p1 p2) hf _ rfl kk
theorem kc_X0_363 {Γ : GX} {I : MI} {D : va_G} {h0 : PH} {Q : State → Prop} {h : PH} {pc : Nat} {vs : List (Option Value)} {rest : List Value} {β : Type} {o : β} {p0 : Option Nat} {p1 : Int32} {p2 : Int32} {p3 : Option Nat} {K : ((Int32) → PH → Option β)} (hI : I.2.2.1 = RX0) (hfr : Nat.ble 17 I.2.2.2.2.2.1 = true) (hlo : Nat.ble 420 I.2.2.2.2.2.2.1 = true) (hW : (rest.map fun v => v.category).sum ≤ 8) (hd : decode I.1 pc = .ok (.invokestatic 363, 3)) (hf : cl_ (f_X0_acquiresUntil p0 p1 p2 p3 h) K = some o) (kk : ∀ (x : Int32) (h1 : PH), K x h1 = some o → PF Γ I D h0 Q h1 (pc + 3) vs (.int x :: rest)) : PF Γ I D h0 Q h pc vs (va_rf p3 :: .int p2 :: .int p1 :: va_rf p0 :: rest) := by
  obtain ⟨cc, nL, own, rt, xt, fr, lo, nm⟩ := I
  cases hI
  exact j_cSWi (n := 4) (y := yX0_acquiresUntil) (cc2 := cX0_acquiresUntil) (As := [va_rf p0, .int p1, .int p2, va_rf p3]) (lw_SW q2152 q2153 q89 q2154) hyS_X0_acquiresUntil hfr hlo rfl hW hd (c_X0_acquiresUntil p0 p1 p2 p3) hf _ rfl kk
theorem kc_X0_365 {Γ : GX} {I : MI} {D : va_G} {h0 : PH} {Q : State → Prop} {h : PH} {pc : Nat} {vs : List (Option Value)} {rest : List Value} {β : Type} {o : β} {r : Option Nat} {p0 : Int32} {p1 : Int32} {K : ((Int32) → PH → Option β)} (hI : I.2.2.1 = RX0) (hfr : Nat.ble 9 I.2.2.2.2.2.1 = true) (hlo : Nat.ble 217 I.2.2.2.2.2.2.1 = true) (hW : (rest.map fun v => v.category).sum ≤ 8) (hd : decode I.1 pc = .ok (.invokevirtual 365, 3)) (hf : rv_ h r 6 (cl_ (f_X7_acquiresUntil r p0 p1 h) K) = some o) (kk : ∀ (x : Int32) (h1 : PH), K x h1 = some o → PF Γ I D h0 Q h1 (pc + 3) vs (.int x :: rest)) : PF Γ I D h0 Q h pc vs (.int p1 :: .int p0 :: va_rf r :: rest) := by
  obtain ⟨cc, nL, own, rt, xt, fr, lo, nm⟩ := I
  cases hI
  exact j_cVi (n := 2) (y := yX7_acquiresUntil) (cc2 := cX7_acquiresUntil) (As := [.int p0, .int p1]) (C := RX7) (ci := 6) rfl (lw_V q2760 q2761 q2762 q117 q2763) hyV_X7_acquiresUntil hfr hlo rfl hW hd (c_X7_acquiresUntil r p0 p1) hf _ rfl kk
theorem kc_X0_366 {Γ : GX} {I : MI} {D : va_G} {h0 : PH} {Q : State → Prop} {h : PH} {pc : Nat} {vs : List (Option Value)} {rest : List Value} {β : Type} {o : β} {p0 : Option Nat} {p1 : Int32} {p2 : Option Nat} {K : ((Int32) → PH → Option β)} (hI : I.2.2.1 = RX0) (hfr : Nat.ble 9 I.2.2.2.2.2.1 = true) (hlo : Nat.ble 218 I.2.2.2.2.2.2.1 = true) (hW : (rest.map fun v => v.category).sum ≤ 8) (hd : decode I.1 pc = .ok (.invokestatic 366, 3)) (hf : cl_ (f_X0_saveSnapshot p0 p1 p2 h) K = some o) (kk : ∀ (x : Int32) (h1 : PH), K x h1 = some o → PF Γ I D h0 Q h1 (pc + 3) vs (.int x :: rest)) : PF Γ I D h0 Q h pc vs (va_rf p2 :: .int p1 :: va_rf p0 :: rest) := by
  obtain ⟨cc, nL, own, rt, xt, fr, lo, nm⟩ := I
  cases hI
  exact j_cSWi (n := 3) (y := yX0_saveSnapshot) (cc2 := cX0_saveSnapshot) (As := [va_rf p0, .int p1, va_rf p2]) (lw_SW q2159 q2160 q89 q2161) hyS_X0_saveSnapshot hfr hlo rfl hW hd (c_X0_saveSnapshot p0 p1 p2) hf _ rfl kk
theorem kc_X0_368 {Γ : GX} {I : MI} {D : va_G} {h0 : PH} {Q : State → Prop} {h : PH} {pc : Nat} {vs : List (Option Value)} {rest : List Value} {β : Type} {o : β} {r : Option Nat} {p0 : Int32} {K : ((Int32) → PH → Option β)} (hI : I.2.2.1 = RX0) (hfr : Nat.ble 2 I.2.2.2.2.2.1 = true) (hlo : Nat.ble 47 I.2.2.2.2.2.2.1 = true) (hW : (rest.map fun v => v.category).sum ≤ 8) (hd : decode I.1 pc = .ok (.invokevirtual 368, 3)) (hf : rv_ h r 6 (cl_ (f_X7_saveSnapshot r p0 h) K) = some o) (kk : ∀ (x : Int32) (h1 : PH), K x h1 = some o → PF Γ I D h0 Q h1 (pc + 3) vs (.int x :: rest)) : PF Γ I D h0 Q h pc vs (.int p0 :: va_rf r :: rest) := by
  obtain ⟨cc, nL, own, rt, xt, fr, lo, nm⟩ := I
  cases hI
  exact j_cVi (n := 1) (y := yX7_saveSnapshot) (cc2 := cX7_saveSnapshot) (As := [.int p0]) (C := RX7) (ci := 6) rfl (lw_V q2772 q2773 q2774 q117 q2775) hyV_X7_saveSnapshot hfr hlo rfl hW hd (c_X7_saveSnapshot r p0) hf _ rfl kk
theorem kc_X0_369 {Γ : GX} {I : MI} {D : va_G} {h0 : PH} {Q : State → Prop} {h : PH} {pc : Nat} {vs : List (Option Value)} {rest : List Value} {β : Type} {o : β} {p0 : Option Nat} {p1 : Int32} {p2 : Option Nat} {K : ((Int32) → PH → Option β)} (hI : I.2.2.1 = RX0) (hfr : Nat.ble 9 I.2.2.2.2.2.1 = true) (hlo : Nat.ble 218 I.2.2.2.2.2.2.1 = true) (hW : (rest.map fun v => v.category).sum ≤ 8) (hd : decode I.1 pc = .ok (.invokestatic 369, 3)) (hf : cl_ (f_X0_restoreSnapshot p0 p1 p2 h) K = some o) (kk : ∀ (x : Int32) (h1 : PH), K x h1 = some o → PF Γ I D h0 Q h1 (pc + 3) vs (.int x :: rest)) : PF Γ I D h0 Q h pc vs (va_rf p2 :: .int p1 :: va_rf p0 :: rest) := by
  obtain ⟨cc, nL, own, rt, xt, fr, lo, nm⟩ := I
  cases hI
  exact j_cSWi (n := 3) (y := yX0_restoreSnapshot) (cc2 := cX0_restoreSnapshot) (As := [va_rf p0, .int p1, va_rf p2]) (lw_SW q2166 q2167 q89 q2168) hyS_X0_restoreSnapshot hfr hlo rfl hW hd (c_X0_restoreSnapshot p0 p1 p2) hf _ rfl kk
theorem kc_X0_371 {Γ : GX} {I : MI} {D : va_G} {h0 : PH} {Q : State → Prop} {h : PH} {pc : Nat} {vs : List (Option Value)} {rest : List Value} {β : Type} {o : β} {r : Option Nat} {p0 : Int32} {K : ((Int32) → PH → Option β)} (hI : I.2.2.1 = RX0) (hfr : Nat.ble 2 I.2.2.2.2.2.1 = true) (hlo : Nat.ble 47 I.2.2.2.2.2.2.1 = true) (hW : (rest.map fun v => v.category).sum ≤ 8) (hd : decode I.1 pc = .ok (.invokevirtual 371, 3)) (hf : rv_ h r 6 (cl_ (f_X7_restoreSnapshot r p0 h) K) = some o) (kk : ∀ (x : Int32) (h1 : PH), K x h1 = some o → PF Γ I D h0 Q h1 (pc + 3) vs (.int x :: rest)) : PF Γ I D h0 Q h pc vs (.int p0 :: va_rf r :: rest) := by
  obtain ⟨cc, nL, own, rt, xt, fr, lo, nm⟩ := I
  cases hI
  exact j_cVi (n := 1) (y := yX7_restoreSnapshot) (cc2 := cX7_restoreSnapshot) (As := [.int p0]) (C := RX7) (ci := 6) rfl (lw_V q2776 q2777 q2778 q117 q2779) hyV_X7_restoreSnapshot hfr hlo rfl hW hd (c_X7_restoreSnapshot r p0) hf _ rfl kk
theorem kc_X0_202 {Γ : GX} {I : MI} {D : va_G} {h0 : PH} {Q : State → Prop} {h : PH} {pc : Nat} {vs : List (Option Value)} {rest : List Value} {β : Type} {o : β} {p0 : Option Nat} {p1 : Int32} {p2 : Int32} {p3 : Option Nat} {K : ((Int32) → PH → Option β)} (hI : I.2.2.1 = RX0) (hfr : Nat.ble 9 I.2.2.2.2.2.1 = true) (hlo : Nat.ble 158 I.2.2.2.2.2.2.1 = true) (hW : (rest.map fun v => v.category).sum ≤ 8) (hd : decode I.1 pc = .ok (.invokestatic 202, 3)) (hf : cl_ (f_X0_setCut p0 p1 p2 p3 h) K = some o) (kk : ∀ (x : Int32) (h1 : PH), K x h1 = some o → PF Γ I D h0 Q h1 (pc + 3) vs (.int x :: rest)) : PF Γ I D h0 Q h pc vs (va_rf p3 :: .int p2 :: .int p1 :: va_rf p0 :: rest) := by
  obtain ⟨cc, nL, own, rt, xt, fr, lo, nm⟩ := I
  cases hI
  exact j_cSWi (n := 4) (y := yX0_setCut) (cc2 := cX0_setCut) (As := [va_rf p0, .int p1, .int p2, va_rf p3]) (lw_SW q1810 q1811 q89 q1812) hyS_X0_setCut hfr hlo rfl hW hd (c_X0_setCut p0 p1 p2 p3) hf _ rfl kk
theorem kc_X0_205 {Γ : GX} {I : MI} {D : va_G} {h0 : PH} {Q : State → Prop} {h : PH} {pc : Nat} {vs : List (Option Value)} {rest : List Value} {β : Type} {o : β} {r : Option Nat} {p0 : Int32} {p1 : Int32} {K : ((Int32) → PH → Option β)} (hI : I.2.2.1 = RX0) (hfr : Nat.ble 3 I.2.2.2.2.2.1 = true) (hlo : Nat.ble 69 I.2.2.2.2.2.2.1 = true) (hW : (rest.map fun v => v.category).sum ≤ 8) (hd : decode I.1 pc = .ok (.invokevirtual 205, 3)) (hf : rv_ h r 6 (cl_ (f_X7_setCut r p0 p1 h) K) = some o) (kk : ∀ (x : Int32) (h1 : PH), K x h1 = some o → PF Γ I D h0 Q h1 (pc + 3) vs (.int x :: rest)) : PF Γ I D h0 Q h pc vs (.int p1 :: .int p0 :: va_rf r :: rest) := by
  obtain ⟨cc, nL, own, rt, xt, fr, lo, nm⟩ := I
  cases hI
  exact j_cVi (n := 2) (y := yX7_setCut) (cc2 := cX7_setCut) (As := [.int p0, .int p1]) (C := RX7) (ci := 6) rfl (lw_V q2525 q2526 q2527 q117 q2528) hyV_X7_setCut hfr hlo rfl hW hd (c_X7_setCut r p0 p1) hf _ rfl kk
abbrev mi_L_law : MI := (cL_law, 7, RX0, (some .boolean), [], 18, 442, "law")
def f_L_law_B3144 (k23 : Option Nat → Option Nat → Option Nat → Option Nat → Int32 → PH → Option (Int32 × PH)) (x0 : Option Nat) (x1 : Option Nat) (x2 : Option Nat) (x3 : Option Nat) (x4 : Int32) (h : PH) : Option (Int32 × PH) := k23 x0 x1 x2 x3 (x4 + (5 : Int32)) h
theorem pf_L_law_B3144 {Γ : GX} {D : va_G} {h0 : PH} {Q : State → Prop} {o : Int32 × PH} (hQ : QL Γ mi_L_law D h0 Q o) (k23 : Option Nat → Option Nat → Option Nat → Option Nat → Int32 → PH → Option (Int32 × PH)) (hk23 : ∀ (x0 : Option Nat) (x1 : Option Nat) (x2 : Option Nat) (x3 : Option Nat) (x4 : Int32) (h : PH), k23 x0 x1 x2 x3 x4 h = some o → PF Γ mi_L_law D h0 Q h 23 [some (va_rf x0), some (va_rf x1), some (va_rf x2), some (va_rf x3), some (.int x4), none, none] []) (x0 : Option Nat) (x1 : Option Nat) (x2 : Option Nat) (x3 : Option Nat) (x4 : Int32) (h : PH) (hf : f_L_law_B3144 k23 x0 x1 x2 x3 x4 h = some o) : PF Γ mi_L_law D h0 Q h 3144 [some (va_rf x0), some (va_rf x1), some (va_rf x2), some (va_rf x3), some (.int x4), none, none] [] := by
  refine j_iinc (x4 + (5 : Int32)) [some (va_rf x0), some (va_rf x1), some (va_rf x2), some (va_rf x3), some (.int (x4 + (5 : Int32))), none, none] dL_law_3144 rfl rfl (cz (va_rf_cat _)) rfl rfl ?_
  refine j_goto 23 dL_law_3147 (by decide) ?_
  exact hk23 x0 x1 x2 x3 (x4 + (5 : Int32)) h hf
def f_L_law_B361 (k23 : Option Nat → Option Nat → Option Nat → Option Nat → Int32 → PH → Option (Int32 × PH)) (x0 : Option Nat) (x1 : Option Nat) (x2 : Option Nat) (x3 : Option Nat) (x4 : Int32) (h : PH) : Option (Int32 × PH) := f_L_law_B3144 k23 x0 x1 x2 x3 x4 h
theorem pf_L_law_B361 {Γ : GX} {D : va_G} {h0 : PH} {Q : State → Prop} {o : Int32 × PH} (hQ : QL Γ mi_L_law D h0 Q o) (k23 : Option Nat → Option Nat → Option Nat → Option Nat → Int32 → PH → Option (Int32 × PH)) (hk23 : ∀ (x0 : Option Nat) (x1 : Option Nat) (x2 : Option Nat) (x3 : Option Nat) (x4 : Int32) (h : PH), k23 x0 x1 x2 x3 x4 h = some o → PF Γ mi_L_law D h0 Q h 23 [some (va_rf x0), some (va_rf x1), some (va_rf x2), some (va_rf x3), some (.int x4), none, none] []) (x0 : Option Nat) (x1 : Option Nat) (x2 : Option Nat) (x3 : Option Nat) (x4 : Int32) (h : PH) (hf : f_L_law_B361 k23 x0 x1 x2 x3 x4 h = some o) : PF Γ mi_L_law D h0 Q h 361 [some (va_rf x0), some (va_rf x1), some (va_rf x2), some (va_rf x3), some (.int x4), none, none] [] := by
  refine j_goto 3144 dL_law_361 (by decide) ?_
  exact pf_L_law_B3144 hQ k23 hk23 x0 x1 x2 x3 x4 h hf
def f_L_law_B443 (k23 : Option Nat → Option Nat → Option Nat → Option Nat → Int32 → PH → Option (Int32 × PH)) (x0 : Option Nat) (x1 : Option Nat) (x2 : Option Nat) (x3 : Option Nat) (x4 : Int32) (h : PH) : Option (Int32 × PH) := f_L_law_B3144 k23 x0 x1 x2 x3 x4 h
theorem pf_L_law_B443 {Γ : GX} {D : va_G} {h0 : PH} {Q : State → Prop} {o : Int32 × PH} (hQ : QL Γ mi_L_law D h0 Q o) (k23 : Option Nat → Option Nat → Option Nat → Option Nat → Int32 → PH → Option (Int32 × PH)) (hk23 : ∀ (x0 : Option Nat) (x1 : Option Nat) (x2 : Option Nat) (x3 : Option Nat) (x4 : Int32) (h : PH), k23 x0 x1 x2 x3 x4 h = some o → PF Γ mi_L_law D h0 Q h 23 [some (va_rf x0), some (va_rf x1), some (va_rf x2), some (va_rf x3), some (.int x4), none, none] []) (x0 : Option Nat) (x1 : Option Nat) (x2 : Option Nat) (x3 : Option Nat) (x4 : Int32) (h : PH) (hf : f_L_law_B443 k23 x0 x1 x2 x3 x4 h = some o) : PF Γ mi_L_law D h0 Q h 443 [some (va_rf x0), some (va_rf x1), some (va_rf x2), some (va_rf x3), some (.int x4), none, none] [] := by
  refine j_goto 3144 dL_law_443 (by decide) ?_
  exact pf_L_law_B3144 hQ k23 hk23 x0 x1 x2 x3 x4 h hf
def f_L_law_B538 (k23 : Option Nat → Option Nat → Option Nat → Option Nat → Int32 → PH → Option (Int32 × PH)) (x0 : Option Nat) (x1 : Option Nat) (x2 : Option Nat) (x3 : Option Nat) (x4 : Int32) (h : PH) : Option (Int32 × PH) := f_L_law_B3144 k23 x0 x1 x2 x3 x4 h
theorem pf_L_law_B538 {Γ : GX} {D : va_G} {h0 : PH} {Q : State → Prop} {o : Int32 × PH} (hQ : QL Γ mi_L_law D h0 Q o) (k23 : Option Nat → Option Nat → Option Nat → Option Nat → Int32 → PH → Option (Int32 × PH)) (hk23 : ∀ (x0 : Option Nat) (x1 : Option Nat) (x2 : Option Nat) (x3 : Option Nat) (x4 : Int32) (h : PH), k23 x0 x1 x2 x3 x4 h = some o → PF Γ mi_L_law D h0 Q h 23 [some (va_rf x0), some (va_rf x1), some (va_rf x2), some (va_rf x3), some (.int x4), none, none] []) (x0 : Option Nat) (x1 : Option Nat) (x2 : Option Nat) (x3 : Option Nat) (x4 : Int32) (h : PH) (hf : f_L_law_B538 k23 x0 x1 x2 x3 x4 h = some o) : PF Γ mi_L_law D h0 Q h 538 [some (va_rf x0), some (va_rf x1), some (va_rf x2), some (va_rf x3), some (.int x4), none, none] [] := by
  refine j_goto 3144 dL_law_538 (by decide) ?_
  exact pf_L_law_B3144 hQ k23 hk23 x0 x1 x2 x3 x4 h hf
def f_L_law_B607 (k23 : Option Nat → Option Nat → Option Nat → Option Nat → Int32 → PH → Option (Int32 × PH)) (x0 : Option Nat) (x1 : Option Nat) (x2 : Option Nat) (x3 : Option Nat) (x4 : Int32) (h : PH) : Option (Int32 × PH) := f_L_law_B3144 k23 x0 x1 x2 x3 x4 h
theorem pf_L_law_B607 {Γ : GX} {D : va_G} {h0 : PH} {Q : State → Prop} {o : Int32 × PH} (hQ : QL Γ mi_L_law D h0 Q o) (k23 : Option Nat → Option Nat → Option Nat → Option Nat → Int32 → PH → Option (Int32 × PH)) (hk23 : ∀ (x0 : Option Nat) (x1 : Option Nat) (x2 : Option Nat) (x3 : Option Nat) (x4 : Int32) (h : PH), k23 x0 x1 x2 x3 x4 h = some o → PF Γ mi_L_law D h0 Q h 23 [some (va_rf x0), some (va_rf x1), some (va_rf x2), some (va_rf x3), some (.int x4), none, none] []) (x0 : Option Nat) (x1 : Option Nat) (x2 : Option Nat) (x3 : Option Nat) (x4 : Int32) (h : PH) (hf : f_L_law_B607 k23 x0 x1 x2 x3 x4 h = some o) : PF Γ mi_L_law D h0 Q h 607 [some (va_rf x0), some (va_rf x1), some (va_rf x2), some (va_rf x3), some (.int x4), none, none] [] := by
  refine j_goto 3144 dL_law_607 (by decide) ?_
  exact pf_L_law_B3144 hQ k23 hk23 x0 x1 x2 x3 x4 h hf
def f_L_law_B663 (k23 : Option Nat → Option Nat → Option Nat → Option Nat → Int32 → PH → Option (Int32 × PH)) (x0 : Option Nat) (x1 : Option Nat) (x2 : Option Nat) (x3 : Option Nat) (x4 : Int32) (h : PH) : Option (Int32 × PH) := f_L_law_B3144 k23 x0 x1 x2 x3 x4 h
theorem pf_L_law_B663 {Γ : GX} {D : va_G} {h0 : PH} {Q : State → Prop} {o : Int32 × PH} (hQ : QL Γ mi_L_law D h0 Q o) (k23 : Option Nat → Option Nat → Option Nat → Option Nat → Int32 → PH → Option (Int32 × PH)) (hk23 : ∀ (x0 : Option Nat) (x1 : Option Nat) (x2 : Option Nat) (x3 : Option Nat) (x4 : Int32) (h : PH), k23 x0 x1 x2 x3 x4 h = some o → PF Γ mi_L_law D h0 Q h 23 [some (va_rf x0), some (va_rf x1), some (va_rf x2), some (va_rf x3), some (.int x4), none, none] []) (x0 : Option Nat) (x1 : Option Nat) (x2 : Option Nat) (x3 : Option Nat) (x4 : Int32) (h : PH) (hf : f_L_law_B663 k23 x0 x1 x2 x3 x4 h = some o) : PF Γ mi_L_law D h0 Q h 663 [some (va_rf x0), some (va_rf x1), some (va_rf x2), some (va_rf x3), some (.int x4), none, none] [] := by
  refine j_goto 3144 dL_law_663 (by decide) ?_
  exact pf_L_law_B3144 hQ k23 hk23 x0 x1 x2 x3 x4 h hf
def f_L_law_B719 (k23 : Option Nat → Option Nat → Option Nat → Option Nat → Int32 → PH → Option (Int32 × PH)) (x0 : Option Nat) (x1 : Option Nat) (x2 : Option Nat) (x3 : Option Nat) (x4 : Int32) (h : PH) : Option (Int32 × PH) := f_L_law_B3144 k23 x0 x1 x2 x3 x4 h
theorem pf_L_law_B719 {Γ : GX} {D : va_G} {h0 : PH} {Q : State → Prop} {o : Int32 × PH} (hQ : QL Γ mi_L_law D h0 Q o) (k23 : Option Nat → Option Nat → Option Nat → Option Nat → Int32 → PH → Option (Int32 × PH)) (hk23 : ∀ (x0 : Option Nat) (x1 : Option Nat) (x2 : Option Nat) (x3 : Option Nat) (x4 : Int32) (h : PH), k23 x0 x1 x2 x3 x4 h = some o → PF Γ mi_L_law D h0 Q h 23 [some (va_rf x0), some (va_rf x1), some (va_rf x2), some (va_rf x3), some (.int x4), none, none] []) (x0 : Option Nat) (x1 : Option Nat) (x2 : Option Nat) (x3 : Option Nat) (x4 : Int32) (h : PH) (hf : f_L_law_B719 k23 x0 x1 x2 x3 x4 h = some o) : PF Γ mi_L_law D h0 Q h 719 [some (va_rf x0), some (va_rf x1), some (va_rf x2), some (va_rf x3), some (.int x4), none, none] [] := by
  refine j_goto 3144 dL_law_719 (by decide) ?_
  exact pf_L_law_B3144 hQ k23 hk23 x0 x1 x2 x3 x4 h hf
def f_L_law_B782 (k23 : Option Nat → Option Nat → Option Nat → Option Nat → Int32 → PH → Option (Int32 × PH)) (x0 : Option Nat) (x1 : Option Nat) (x2 : Option Nat) (x3 : Option Nat) (x4 : Int32) (h : PH) : Option (Int32 × PH) := f_L_law_B3144 k23 x0 x1 x2 x3 x4 h
theorem pf_L_law_B782 {Γ : GX} {D : va_G} {h0 : PH} {Q : State → Prop} {o : Int32 × PH} (hQ : QL Γ mi_L_law D h0 Q o) (k23 : Option Nat → Option Nat → Option Nat → Option Nat → Int32 → PH → Option (Int32 × PH)) (hk23 : ∀ (x0 : Option Nat) (x1 : Option Nat) (x2 : Option Nat) (x3 : Option Nat) (x4 : Int32) (h : PH), k23 x0 x1 x2 x3 x4 h = some o → PF Γ mi_L_law D h0 Q h 23 [some (va_rf x0), some (va_rf x1), some (va_rf x2), some (va_rf x3), some (.int x4), none, none] []) (x0 : Option Nat) (x1 : Option Nat) (x2 : Option Nat) (x3 : Option Nat) (x4 : Int32) (h : PH) (hf : f_L_law_B782 k23 x0 x1 x2 x3 x4 h = some o) : PF Γ mi_L_law D h0 Q h 782 [some (va_rf x0), some (va_rf x1), some (va_rf x2), some (va_rf x3), some (.int x4), none, none] [] := by
  refine j_goto 3144 dL_law_782 (by decide) ?_
  exact pf_L_law_B3144 hQ k23 hk23 x0 x1 x2 x3 x4 h hf
def f_L_law_B776 (k23 : Option Nat → Option Nat → Option Nat → Option Nat → Int32 → PH → Option (Int32 × PH)) (x0 : Option Nat) (x1 : Option Nat) (x2 : Option Nat) (x3 : Option Nat) (x4 : Int32) (t0 : Int64) (t1 : Int64) (h : PH) : Option (Int32 × PH) := (if (lg_cmp t0 t1) = 0 then (f_L_law_B782 k23 x0 x1 x2 x3 x4 h) else (rN .boolean (0 : Int32) (fun v => v) h))
theorem pf_L_law_B776 {Γ : GX} {D : va_G} {h0 : PH} {Q : State → Prop} {o : Int32 × PH} (hQ : QL Γ mi_L_law D h0 Q o) (k23 : Option Nat → Option Nat → Option Nat → Option Nat → Int32 → PH → Option (Int32 × PH)) (hk23 : ∀ (x0 : Option Nat) (x1 : Option Nat) (x2 : Option Nat) (x3 : Option Nat) (x4 : Int32) (h : PH), k23 x0 x1 x2 x3 x4 h = some o → PF Γ mi_L_law D h0 Q h 23 [some (va_rf x0), some (va_rf x1), some (va_rf x2), some (va_rf x3), some (.int x4), none, none] []) (x0 : Option Nat) (x1 : Option Nat) (x2 : Option Nat) (x3 : Option Nat) (x4 : Int32) (t0 : Int64) (t1 : Int64) (h : PH) (hf : f_L_law_B776 k23 x0 x1 x2 x3 x4 t0 t1 h = some o) : PF Γ mi_L_law D h0 Q h 776 [some (va_rf x0), some (va_rf x1), some (va_rf x2), some (va_rf x3), some (.int x4), none, none] [.long t1, .long t0] := by
  refine j_lcmp dL_law_776 ?_
  refine j_if_eq 782 dL_law_777 (by decide) hf (fun c_ hf => ?_) (fun c_ hf => ?_)
  · exact pf_L_law_B782 hQ k23 hk23 x0 x1 x2 x3 x4 h hf
  · refine j_iconst (0 : Int32) dL_law_780 (by decide) ?_
    obtain ⟨hn9, hf⟩ := rN_in hf
    subst hf
    exact hQ _ _ _ dL_law_781 rfl
def f_L_law_B850 (k23 : Option Nat → Option Nat → Option Nat → Option Nat → Int32 → PH → Option (Int32 × PH)) (x0 : Option Nat) (x1 : Option Nat) (x2 : Option Nat) (x3 : Option Nat) (x4 : Int32) (h : PH) : Option (Int32 × PH) := f_L_law_B3144 k23 x0 x1 x2 x3 x4 h
theorem pf_L_law_B850 {Γ : GX} {D : va_G} {h0 : PH} {Q : State → Prop} {o : Int32 × PH} (hQ : QL Γ mi_L_law D h0 Q o) (k23 : Option Nat → Option Nat → Option Nat → Option Nat → Int32 → PH → Option (Int32 × PH)) (hk23 : ∀ (x0 : Option Nat) (x1 : Option Nat) (x2 : Option Nat) (x3 : Option Nat) (x4 : Int32) (h : PH), k23 x0 x1 x2 x3 x4 h = some o → PF Γ mi_L_law D h0 Q h 23 [some (va_rf x0), some (va_rf x1), some (va_rf x2), some (va_rf x3), some (.int x4), none, none] []) (x0 : Option Nat) (x1 : Option Nat) (x2 : Option Nat) (x3 : Option Nat) (x4 : Int32) (h : PH) (hf : f_L_law_B850 k23 x0 x1 x2 x3 x4 h = some o) : PF Γ mi_L_law D h0 Q h 850 [some (va_rf x0), some (va_rf x1), some (va_rf x2), some (va_rf x3), some (.int x4), none, none] [] := by
  refine j_goto 3144 dL_law_850 (by decide) ?_
  exact pf_L_law_B3144 hQ k23 hk23 x0 x1 x2 x3 x4 h hf
def f_L_law_B941 (k23 : Option Nat → Option Nat → Option Nat → Option Nat → Int32 → PH → Option (Int32 × PH)) (x0 : Option Nat) (x1 : Option Nat) (x2 : Option Nat) (x3 : Option Nat) (x4 : Int32) (h : PH) : Option (Int32 × PH) := f_L_law_B3144 k23 x0 x1 x2 x3 x4 h
theorem pf_L_law_B941 {Γ : GX} {D : va_G} {h0 : PH} {Q : State → Prop} {o : Int32 × PH} (hQ : QL Γ mi_L_law D h0 Q o) (k23 : Option Nat → Option Nat → Option Nat → Option Nat → Int32 → PH → Option (Int32 × PH)) (hk23 : ∀ (x0 : Option Nat) (x1 : Option Nat) (x2 : Option Nat) (x3 : Option Nat) (x4 : Int32) (h : PH), k23 x0 x1 x2 x3 x4 h = some o → PF Γ mi_L_law D h0 Q h 23 [some (va_rf x0), some (va_rf x1), some (va_rf x2), some (va_rf x3), some (.int x4), none, none] []) (x0 : Option Nat) (x1 : Option Nat) (x2 : Option Nat) (x3 : Option Nat) (x4 : Int32) (h : PH) (hf : f_L_law_B941 k23 x0 x1 x2 x3 x4 h = some o) : PF Γ mi_L_law D h0 Q h 941 [some (va_rf x0), some (va_rf x1), some (va_rf x2), some (va_rf x3), some (.int x4), none, none] [] := by
  refine j_goto 3144 dL_law_941 (by decide) ?_
  exact pf_L_law_B3144 hQ k23 hk23 x0 x1 x2 x3 x4 h hf
def f_L_law_B935 (k23 : Option Nat → Option Nat → Option Nat → Option Nat → Int32 → PH → Option (Int32 × PH)) (x0 : Option Nat) (x1 : Option Nat) (x2 : Option Nat) (x3 : Option Nat) (x4 : Int32) (t0 : Int64) (t1 : Int64) (h : PH) : Option (Int32 × PH) := (if (lg_cmp t0 t1) = 0 then (f_L_law_B941 k23 x0 x1 x2 x3 x4 h) else (rN .boolean (0 : Int32) (fun v => v) h))
theorem pf_L_law_B935 {Γ : GX} {D : va_G} {h0 : PH} {Q : State → Prop} {o : Int32 × PH} (hQ : QL Γ mi_L_law D h0 Q o) (k23 : Option Nat → Option Nat → Option Nat → Option Nat → Int32 → PH → Option (Int32 × PH)) (hk23 : ∀ (x0 : Option Nat) (x1 : Option Nat) (x2 : Option Nat) (x3 : Option Nat) (x4 : Int32) (h : PH), k23 x0 x1 x2 x3 x4 h = some o → PF Γ mi_L_law D h0 Q h 23 [some (va_rf x0), some (va_rf x1), some (va_rf x2), some (va_rf x3), some (.int x4), none, none] []) (x0 : Option Nat) (x1 : Option Nat) (x2 : Option Nat) (x3 : Option Nat) (x4 : Int32) (t0 : Int64) (t1 : Int64) (h : PH) (hf : f_L_law_B935 k23 x0 x1 x2 x3 x4 t0 t1 h = some o) : PF Γ mi_L_law D h0 Q h 935 [some (va_rf x0), some (va_rf x1), some (va_rf x2), some (va_rf x3), some (.int x4), none, none] [.long t1, .long t0] := by
  refine j_lcmp dL_law_935 ?_
  refine j_if_eq 941 dL_law_936 (by decide) hf (fun c_ hf => ?_) (fun c_ hf => ?_)
  · exact pf_L_law_B941 hQ k23 hk23 x0 x1 x2 x3 x4 h hf
  · refine j_iconst (0 : Int32) dL_law_939 (by decide) ?_
    obtain ⟨hn9, hf⟩ := rN_in hf
    subst hf
    exact hQ _ _ _ dL_law_940 rfl
def f_L_law_B901 (k23 : Option Nat → Option Nat → Option Nat → Option Nat → Int32 → PH → Option (Int32 × PH)) (x0 : Option Nat) (x1 : Option Nat) (x2 : Option Nat) (x3 : Option Nat) (x4 : Int32) (x5 : Int32) (t0 : Option Nat) (t1 : Int32) (t2 : Int32) (h : PH) : Option (Int32 × PH) := rv_ h t0 6 (cl_ (f_X7_setCut t0 t1 t2 h) fun v502 h501 => rv_ h501 x2 6 (cl_ (f_X7_thrown x2 h501) fun v504 h503 => (if v504 = x5 then ((if x5 = 0 then (aL h503 x3 2 (0 : Int32) fun v505 => (if v502 = 0 then (f_L_law_B935 k23 x0 x1 x2 x3 x4 v505 (0 : Int64) h503) else (f_L_law_B935 k23 x0 x1 x2 x3 x4 v505 (1 : Int64) h503))) else (f_L_law_B941 k23 x0 x1 x2 x3 x4 h503))) else (rN .boolean (0 : Int32) (fun v => v) h503))))
theorem pf_L_law_B901 {Γ : GX} {D : va_G} {h0 : PH} {Q : State → Prop} {o : Int32 × PH} (hQ : QL Γ mi_L_law D h0 Q o) (k23 : Option Nat → Option Nat → Option Nat → Option Nat → Int32 → PH → Option (Int32 × PH)) (hk23 : ∀ (x0 : Option Nat) (x1 : Option Nat) (x2 : Option Nat) (x3 : Option Nat) (x4 : Int32) (h : PH), k23 x0 x1 x2 x3 x4 h = some o → PF Γ mi_L_law D h0 Q h 23 [some (va_rf x0), some (va_rf x1), some (va_rf x2), some (va_rf x3), some (.int x4), none, none] []) (x0 : Option Nat) (x1 : Option Nat) (x2 : Option Nat) (x3 : Option Nat) (x4 : Int32) (x5 : Int32) (t0 : Option Nat) (t1 : Int32) (t2 : Int32) (h : PH) (hf : f_L_law_B901 k23 x0 x1 x2 x3 x4 x5 t0 t1 t2 h = some o) : PF Γ mi_L_law D h0 Q h 901 [some (va_rf x0), some (va_rf x1), some (va_rf x2), some (va_rf x3), some (.int x4), some (.int x5), none] [.int t2, .int t1, va_rf t0] := by
  refine kc_X0_205 rfl rfl rfl (by decide) dL_law_901 hf (fun v502 h501 hf => ?_)
  refine j_istore [some (va_rf x0), some (va_rf x1), some (va_rf x2), some (va_rf x3), some (.int x4), some (.int x5), some (.int v502)] dL_law_904 (cz rfl) rfl rfl ?_
  refine j_aload_n 2 dL_law_906 rfl rfl ?_
  refine kc_X0_152 rfl rfl rfl (by decide) dL_law_907 hf (fun v504 h503 hf => ?_)
  refine j_iload dL_law_910 rfl ?_
  refine j_icmp_eq 917 dL_law_912 (by decide) hf (fun c_ hf => ?_) (fun c_ hf => ?_)
  · refine j_iload dL_law_917 rfl ?_
    refine j_if_ne 941 dL_law_919 (by decide) hf (fun c_ hf => ?_) (fun c_ hf => ?_)
    · refine j_weak [some (va_rf x0), some (va_rf x1), some (va_rf x2), some (va_rf x3), some (.int x4), none, none] (Wk.k (Wk.k (Wk.k (Wk.k (Wk.k (Wk.s (Wk.s Wk.n))))))) ?_
      exact pf_L_law_B941 hQ k23 hk23 x0 x1 x2 x3 x4 h503 hf
    · refine j_aload_n 3 dL_law_922 rfl rfl ?_
      refine j_iconst (0 : Int32) dL_law_923 (by decide) ?_
      refine j_lald dL_law_924 hf (fun v505 hf => ?_)
      refine j_iload dL_law_925 rfl ?_
      refine j_if_eq 934 dL_law_927 (by decide) hf (fun c_ hf => ?_) (fun c_ hf => ?_)
      · refine j_lconst (0 : Int64) dL_law_934 (by decide) ?_
        refine j_weak [some (va_rf x0), some (va_rf x1), some (va_rf x2), some (va_rf x3), some (.int x4), none, none] (Wk.k (Wk.k (Wk.k (Wk.k (Wk.k (Wk.s (Wk.s Wk.n))))))) ?_
        exact pf_L_law_B935 hQ k23 hk23 x0 x1 x2 x3 x4 v505 (0 : Int64) h503 hf
      · refine j_lconst (1 : Int64) dL_law_930 (by decide) ?_
        refine j_goto 935 dL_law_931 (by decide) ?_
        refine j_weak [some (va_rf x0), some (va_rf x1), some (va_rf x2), some (va_rf x3), some (.int x4), none, none] (Wk.k (Wk.k (Wk.k (Wk.k (Wk.k (Wk.s (Wk.s Wk.n))))))) ?_
        exact pf_L_law_B935 hQ k23 hk23 x0 x1 x2 x3 x4 v505 (1 : Int64) h503 hf
  · refine j_iconst (0 : Int32) dL_law_915 (by decide) ?_
    obtain ⟨hn9, hf⟩ := rN_in hf
    subst hf
    exact hQ _ _ _ dL_law_916 rfl
def f_L_law_B874 (k23 : Option Nat → Option Nat → Option Nat → Option Nat → Int32 → PH → Option (Int32 × PH)) (x0 : Option Nat) (x1 : Option Nat) (x2 : Option Nat) (x3 : Option Nat) (x4 : Int32) (t0 : Option Nat) (t1 : Int32) (t2 : Int32) (h : PH) : Option (Int32 × PH) := cl_ (f_X0_setCut t0 t1 t2 x3 h) fun v498 h497 => aS h497 x0 (x4 + (1 : Int32)) fun v499 => aS h497 x0 (x4 + (2 : Int32)) fun v500 => (if v500 = 0 then (f_L_law_B901 k23 x0 x1 x2 x3 x4 v498 x2 v499 (0 : Int32) h497) else (f_L_law_B901 k23 x0 x1 x2 x3 x4 v498 x2 v499 (1 : Int32) h497))
theorem pf_L_law_B874 {Γ : GX} {D : va_G} {h0 : PH} {Q : State → Prop} {o : Int32 × PH} (hQ : QL Γ mi_L_law D h0 Q o) (k23 : Option Nat → Option Nat → Option Nat → Option Nat → Int32 → PH → Option (Int32 × PH)) (hk23 : ∀ (x0 : Option Nat) (x1 : Option Nat) (x2 : Option Nat) (x3 : Option Nat) (x4 : Int32) (h : PH), k23 x0 x1 x2 x3 x4 h = some o → PF Γ mi_L_law D h0 Q h 23 [some (va_rf x0), some (va_rf x1), some (va_rf x2), some (va_rf x3), some (.int x4), none, none] []) (x0 : Option Nat) (x1 : Option Nat) (x2 : Option Nat) (x3 : Option Nat) (x4 : Int32) (t0 : Option Nat) (t1 : Int32) (t2 : Int32) (h : PH) (hf : f_L_law_B874 k23 x0 x1 x2 x3 x4 t0 t1 t2 h = some o) : PF Γ mi_L_law D h0 Q h 874 [some (va_rf x0), some (va_rf x1), some (va_rf x2), some (va_rf x3), some (.int x4), none, none] [.int t2, .int t1, va_rf t0] := by
  refine j_aload_n 3 dL_law_874 rfl rfl ?_
  refine kc_X0_202 rfl rfl rfl (by decide) dL_law_875 hf (fun v498 h497 hf => ?_)
  refine j_istore [some (va_rf x0), some (va_rf x1), some (va_rf x2), some (va_rf x3), some (.int x4), some (.int v498), none] dL_law_878 (cz rfl) rfl rfl ?_
  refine j_aload_n 2 dL_law_880 rfl rfl ?_
  refine j_aload_n 0 dL_law_881 rfl rfl ?_
  refine j_iload dL_law_882 rfl ?_
  refine j_iconst (1 : Int32) dL_law_884 (by decide) ?_
  refine j_iadd dL_law_885 ?_
  refine j_sald dL_law_886 hf (fun v499 hf => ?_)
  refine j_aload_n 0 dL_law_887 rfl rfl ?_
  refine j_iload dL_law_888 rfl ?_
  refine j_iconst (2 : Int32) dL_law_890 (by decide) ?_
  refine j_iadd dL_law_891 ?_
  refine j_sald dL_law_892 hf (fun v500 hf => ?_)
  refine j_if_eq 900 dL_law_893 (by decide) hf (fun c_ hf => ?_) (fun c_ hf => ?_)
  · refine j_iconst (0 : Int32) dL_law_900 (by decide) ?_
    exact pf_L_law_B901 hQ k23 hk23 x0 x1 x2 x3 x4 v498 x2 v499 (0 : Int32) h497 hf
  · refine j_iconst (1 : Int32) dL_law_896 (by decide) ?_
    refine j_goto 901 dL_law_897 (by decide) ?_
    exact pf_L_law_B901 hQ k23 hk23 x0 x1 x2 x3 x4 v498 x2 v499 (1 : Int32) h497 hf
def f_L_law_B1021 (k23 : Option Nat → Option Nat → Option Nat → Option Nat → Int32 → PH → Option (Int32 × PH)) (x0 : Option Nat) (x1 : Option Nat) (x2 : Option Nat) (x3 : Option Nat) (x4 : Int32) (h : PH) : Option (Int32 × PH) := f_L_law_B3144 k23 x0 x1 x2 x3 x4 h
theorem pf_L_law_B1021 {Γ : GX} {D : va_G} {h0 : PH} {Q : State → Prop} {o : Int32 × PH} (hQ : QL Γ mi_L_law D h0 Q o) (k23 : Option Nat → Option Nat → Option Nat → Option Nat → Int32 → PH → Option (Int32 × PH)) (hk23 : ∀ (x0 : Option Nat) (x1 : Option Nat) (x2 : Option Nat) (x3 : Option Nat) (x4 : Int32) (h : PH), k23 x0 x1 x2 x3 x4 h = some o → PF Γ mi_L_law D h0 Q h 23 [some (va_rf x0), some (va_rf x1), some (va_rf x2), some (va_rf x3), some (.int x4), none, none] []) (x0 : Option Nat) (x1 : Option Nat) (x2 : Option Nat) (x3 : Option Nat) (x4 : Int32) (h : PH) (hf : f_L_law_B1021 k23 x0 x1 x2 x3 x4 h = some o) : PF Γ mi_L_law D h0 Q h 1021 [some (va_rf x0), some (va_rf x1), some (va_rf x2), some (va_rf x3), some (.int x4), none, none] [] := by
  refine j_goto 3144 dL_law_1021 (by decide) ?_
  exact pf_L_law_B3144 hQ k23 hk23 x0 x1 x2 x3 x4 h hf
def f_L_law_B1114 (k23 : Option Nat → Option Nat → Option Nat → Option Nat → Int32 → PH → Option (Int32 × PH)) (x0 : Option Nat) (x1 : Option Nat) (x2 : Option Nat) (x3 : Option Nat) (x4 : Int32) (h : PH) : Option (Int32 × PH) := f_L_law_B3144 k23 x0 x1 x2 x3 x4 h
theorem pf_L_law_B1114 {Γ : GX} {D : va_G} {h0 : PH} {Q : State → Prop} {o : Int32 × PH} (hQ : QL Γ mi_L_law D h0 Q o) (k23 : Option Nat → Option Nat → Option Nat → Option Nat → Int32 → PH → Option (Int32 × PH)) (hk23 : ∀ (x0 : Option Nat) (x1 : Option Nat) (x2 : Option Nat) (x3 : Option Nat) (x4 : Int32) (h : PH), k23 x0 x1 x2 x3 x4 h = some o → PF Γ mi_L_law D h0 Q h 23 [some (va_rf x0), some (va_rf x1), some (va_rf x2), some (va_rf x3), some (.int x4), none, none] []) (x0 : Option Nat) (x1 : Option Nat) (x2 : Option Nat) (x3 : Option Nat) (x4 : Int32) (h : PH) (hf : f_L_law_B1114 k23 x0 x1 x2 x3 x4 h = some o) : PF Γ mi_L_law D h0 Q h 1114 [some (va_rf x0), some (va_rf x1), some (va_rf x2), some (va_rf x3), some (.int x4), none, none] [] := by
  refine j_goto 3144 dL_law_1114 (by decide) ?_
  exact pf_L_law_B3144 hQ k23 hk23 x0 x1 x2 x3 x4 h hf
def f_L_law_B1206 (k23 : Option Nat → Option Nat → Option Nat → Option Nat → Int32 → PH → Option (Int32 × PH)) (x0 : Option Nat) (x1 : Option Nat) (x2 : Option Nat) (x3 : Option Nat) (x4 : Int32) (h : PH) : Option (Int32 × PH) := f_L_law_B3144 k23 x0 x1 x2 x3 x4 h
theorem pf_L_law_B1206 {Γ : GX} {D : va_G} {h0 : PH} {Q : State → Prop} {o : Int32 × PH} (hQ : QL Γ mi_L_law D h0 Q o) (k23 : Option Nat → Option Nat → Option Nat → Option Nat → Int32 → PH → Option (Int32 × PH)) (hk23 : ∀ (x0 : Option Nat) (x1 : Option Nat) (x2 : Option Nat) (x3 : Option Nat) (x4 : Int32) (h : PH), k23 x0 x1 x2 x3 x4 h = some o → PF Γ mi_L_law D h0 Q h 23 [some (va_rf x0), some (va_rf x1), some (va_rf x2), some (va_rf x3), some (.int x4), none, none] []) (x0 : Option Nat) (x1 : Option Nat) (x2 : Option Nat) (x3 : Option Nat) (x4 : Int32) (h : PH) (hf : f_L_law_B1206 k23 x0 x1 x2 x3 x4 h = some o) : PF Γ mi_L_law D h0 Q h 1206 [some (va_rf x0), some (va_rf x1), some (va_rf x2), some (va_rf x3), some (.int x4), none, none] [] := by
  refine j_goto 3144 dL_law_1206 (by decide) ?_
  exact pf_L_law_B3144 hQ k23 hk23 x0 x1 x2 x3 x4 h hf
def f_L_law_B1274 (k23 : Option Nat → Option Nat → Option Nat → Option Nat → Int32 → PH → Option (Int32 × PH)) (x0 : Option Nat) (x1 : Option Nat) (x2 : Option Nat) (x3 : Option Nat) (x4 : Int32) (h : PH) : Option (Int32 × PH) := f_L_law_B3144 k23 x0 x1 x2 x3 x4 h
theorem pf_L_law_B1274 {Γ : GX} {D : va_G} {h0 : PH} {Q : State → Prop} {o : Int32 × PH} (hQ : QL Γ mi_L_law D h0 Q o) (k23 : Option Nat → Option Nat → Option Nat → Option Nat → Int32 → PH → Option (Int32 × PH)) (hk23 : ∀ (x0 : Option Nat) (x1 : Option Nat) (x2 : Option Nat) (x3 : Option Nat) (x4 : Int32) (h : PH), k23 x0 x1 x2 x3 x4 h = some o → PF Γ mi_L_law D h0 Q h 23 [some (va_rf x0), some (va_rf x1), some (va_rf x2), some (va_rf x3), some (.int x4), none, none] []) (x0 : Option Nat) (x1 : Option Nat) (x2 : Option Nat) (x3 : Option Nat) (x4 : Int32) (h : PH) (hf : f_L_law_B1274 k23 x0 x1 x2 x3 x4 h = some o) : PF Γ mi_L_law D h0 Q h 1274 [some (va_rf x0), some (va_rf x1), some (va_rf x2), some (va_rf x3), some (.int x4), none, none] [] := by
  refine j_goto 3144 dL_law_1274 (by decide) ?_
  exact pf_L_law_B3144 hQ k23 hk23 x0 x1 x2 x3 x4 h hf
def f_L_law_B1342 (k23 : Option Nat → Option Nat → Option Nat → Option Nat → Int32 → PH → Option (Int32 × PH)) (x0 : Option Nat) (x1 : Option Nat) (x2 : Option Nat) (x3 : Option Nat) (x4 : Int32) (h : PH) : Option (Int32 × PH) := f_L_law_B3144 k23 x0 x1 x2 x3 x4 h
theorem pf_L_law_B1342 {Γ : GX} {D : va_G} {h0 : PH} {Q : State → Prop} {o : Int32 × PH} (hQ : QL Γ mi_L_law D h0 Q o) (k23 : Option Nat → Option Nat → Option Nat → Option Nat → Int32 → PH → Option (Int32 × PH)) (hk23 : ∀ (x0 : Option Nat) (x1 : Option Nat) (x2 : Option Nat) (x3 : Option Nat) (x4 : Int32) (h : PH), k23 x0 x1 x2 x3 x4 h = some o → PF Γ mi_L_law D h0 Q h 23 [some (va_rf x0), some (va_rf x1), some (va_rf x2), some (va_rf x3), some (.int x4), none, none] []) (x0 : Option Nat) (x1 : Option Nat) (x2 : Option Nat) (x3 : Option Nat) (x4 : Int32) (h : PH) (hf : f_L_law_B1342 k23 x0 x1 x2 x3 x4 h = some o) : PF Γ mi_L_law D h0 Q h 1342 [some (va_rf x0), some (va_rf x1), some (va_rf x2), some (va_rf x3), some (.int x4), none, none] [] := by
  refine j_goto 3144 dL_law_1342 (by decide) ?_
  exact pf_L_law_B3144 hQ k23 hk23 x0 x1 x2 x3 x4 h hf
def f_L_law_B1398 (k23 : Option Nat → Option Nat → Option Nat → Option Nat → Int32 → PH → Option (Int32 × PH)) (x0 : Option Nat) (x1 : Option Nat) (x2 : Option Nat) (x3 : Option Nat) (x4 : Int32) (h : PH) : Option (Int32 × PH) := f_L_law_B3144 k23 x0 x1 x2 x3 x4 h
theorem pf_L_law_B1398 {Γ : GX} {D : va_G} {h0 : PH} {Q : State → Prop} {o : Int32 × PH} (hQ : QL Γ mi_L_law D h0 Q o) (k23 : Option Nat → Option Nat → Option Nat → Option Nat → Int32 → PH → Option (Int32 × PH)) (hk23 : ∀ (x0 : Option Nat) (x1 : Option Nat) (x2 : Option Nat) (x3 : Option Nat) (x4 : Int32) (h : PH), k23 x0 x1 x2 x3 x4 h = some o → PF Γ mi_L_law D h0 Q h 23 [some (va_rf x0), some (va_rf x1), some (va_rf x2), some (va_rf x3), some (.int x4), none, none] []) (x0 : Option Nat) (x1 : Option Nat) (x2 : Option Nat) (x3 : Option Nat) (x4 : Int32) (h : PH) (hf : f_L_law_B1398 k23 x0 x1 x2 x3 x4 h = some o) : PF Γ mi_L_law D h0 Q h 1398 [some (va_rf x0), some (va_rf x1), some (va_rf x2), some (va_rf x3), some (.int x4), none, none] [] := by
  refine j_goto 3144 dL_law_1398 (by decide) ?_
  exact pf_L_law_B3144 hQ k23 hk23 x0 x1 x2 x3 x4 h hf
def f_L_law_B1454 (k23 : Option Nat → Option Nat → Option Nat → Option Nat → Int32 → PH → Option (Int32 × PH)) (x0 : Option Nat) (x1 : Option Nat) (x2 : Option Nat) (x3 : Option Nat) (x4 : Int32) (h : PH) : Option (Int32 × PH) := f_L_law_B3144 k23 x0 x1 x2 x3 x4 h
theorem pf_L_law_B1454 {Γ : GX} {D : va_G} {h0 : PH} {Q : State → Prop} {o : Int32 × PH} (hQ : QL Γ mi_L_law D h0 Q o) (k23 : Option Nat → Option Nat → Option Nat → Option Nat → Int32 → PH → Option (Int32 × PH)) (hk23 : ∀ (x0 : Option Nat) (x1 : Option Nat) (x2 : Option Nat) (x3 : Option Nat) (x4 : Int32) (h : PH), k23 x0 x1 x2 x3 x4 h = some o → PF Γ mi_L_law D h0 Q h 23 [some (va_rf x0), some (va_rf x1), some (va_rf x2), some (va_rf x3), some (.int x4), none, none] []) (x0 : Option Nat) (x1 : Option Nat) (x2 : Option Nat) (x3 : Option Nat) (x4 : Int32) (h : PH) (hf : f_L_law_B1454 k23 x0 x1 x2 x3 x4 h = some o) : PF Γ mi_L_law D h0 Q h 1454 [some (va_rf x0), some (va_rf x1), some (va_rf x2), some (va_rf x3), some (.int x4), none, none] [] := by
  refine j_goto 3144 dL_law_1454 (by decide) ?_
  exact pf_L_law_B3144 hQ k23 hk23 x0 x1 x2 x3 x4 h hf
def f_L_law_B1582 (k23 : Option Nat → Option Nat → Option Nat → Option Nat → Int32 → PH → Option (Int32 × PH)) (x0 : Option Nat) (x1 : Option Nat) (x2 : Option Nat) (x3 : Option Nat) (x4 : Int32) (h : PH) : Option (Int32 × PH) := f_L_law_B3144 k23 x0 x1 x2 x3 x4 h
theorem pf_L_law_B1582 {Γ : GX} {D : va_G} {h0 : PH} {Q : State → Prop} {o : Int32 × PH} (hQ : QL Γ mi_L_law D h0 Q o) (k23 : Option Nat → Option Nat → Option Nat → Option Nat → Int32 → PH → Option (Int32 × PH)) (hk23 : ∀ (x0 : Option Nat) (x1 : Option Nat) (x2 : Option Nat) (x3 : Option Nat) (x4 : Int32) (h : PH), k23 x0 x1 x2 x3 x4 h = some o → PF Γ mi_L_law D h0 Q h 23 [some (va_rf x0), some (va_rf x1), some (va_rf x2), some (va_rf x3), some (.int x4), none, none] []) (x0 : Option Nat) (x1 : Option Nat) (x2 : Option Nat) (x3 : Option Nat) (x4 : Int32) (h : PH) (hf : f_L_law_B1582 k23 x0 x1 x2 x3 x4 h = some o) : PF Γ mi_L_law D h0 Q h 1582 [some (va_rf x0), some (va_rf x1), some (va_rf x2), some (va_rf x3), some (.int x4), none, none] [] := by
  refine j_goto 3144 dL_law_1582 (by decide) ?_
  exact pf_L_law_B3144 hQ k23 hk23 x0 x1 x2 x3 x4 h hf
def f_L_law_B1576 (k23 : Option Nat → Option Nat → Option Nat → Option Nat → Int32 → PH → Option (Int32 × PH)) (x0 : Option Nat) (x1 : Option Nat) (x2 : Option Nat) (x3 : Option Nat) (x4 : Int32) (t0 : Int64) (t1 : Int64) (h : PH) : Option (Int32 × PH) := (if (lg_cmp t0 t1) = 0 then (f_L_law_B1582 k23 x0 x1 x2 x3 x4 h) else (rN .boolean (0 : Int32) (fun v => v) h))
theorem pf_L_law_B1576 {Γ : GX} {D : va_G} {h0 : PH} {Q : State → Prop} {o : Int32 × PH} (hQ : QL Γ mi_L_law D h0 Q o) (k23 : Option Nat → Option Nat → Option Nat → Option Nat → Int32 → PH → Option (Int32 × PH)) (hk23 : ∀ (x0 : Option Nat) (x1 : Option Nat) (x2 : Option Nat) (x3 : Option Nat) (x4 : Int32) (h : PH), k23 x0 x1 x2 x3 x4 h = some o → PF Γ mi_L_law D h0 Q h 23 [some (va_rf x0), some (va_rf x1), some (va_rf x2), some (va_rf x3), some (.int x4), none, none] []) (x0 : Option Nat) (x1 : Option Nat) (x2 : Option Nat) (x3 : Option Nat) (x4 : Int32) (t0 : Int64) (t1 : Int64) (h : PH) (hf : f_L_law_B1576 k23 x0 x1 x2 x3 x4 t0 t1 h = some o) : PF Γ mi_L_law D h0 Q h 1576 [some (va_rf x0), some (va_rf x1), some (va_rf x2), some (va_rf x3), some (.int x4), none, none] [.long t1, .long t0] := by
  refine j_lcmp dL_law_1576 ?_
  refine j_if_eq 1582 dL_law_1577 (by decide) hf (fun c_ hf => ?_) (fun c_ hf => ?_)
  · exact pf_L_law_B1582 hQ k23 hk23 x0 x1 x2 x3 x4 h hf
  · refine j_iconst (0 : Int32) dL_law_1580 (by decide) ?_
    obtain ⟨hn9, hf⟩ := rN_in hf
    subst hf
    exact hQ _ _ _ dL_law_1581 rfl
def f_L_law_B1651 (k23 : Option Nat → Option Nat → Option Nat → Option Nat → Int32 → PH → Option (Int32 × PH)) (x0 : Option Nat) (x1 : Option Nat) (x2 : Option Nat) (x3 : Option Nat) (x4 : Int32) (h : PH) : Option (Int32 × PH) := f_L_law_B3144 k23 x0 x1 x2 x3 x4 h
theorem pf_L_law_B1651 {Γ : GX} {D : va_G} {h0 : PH} {Q : State → Prop} {o : Int32 × PH} (hQ : QL Γ mi_L_law D h0 Q o) (k23 : Option Nat → Option Nat → Option Nat → Option Nat → Int32 → PH → Option (Int32 × PH)) (hk23 : ∀ (x0 : Option Nat) (x1 : Option Nat) (x2 : Option Nat) (x3 : Option Nat) (x4 : Int32) (h : PH), k23 x0 x1 x2 x3 x4 h = some o → PF Γ mi_L_law D h0 Q h 23 [some (va_rf x0), some (va_rf x1), some (va_rf x2), some (va_rf x3), some (.int x4), none, none] []) (x0 : Option Nat) (x1 : Option Nat) (x2 : Option Nat) (x3 : Option Nat) (x4 : Int32) (h : PH) (hf : f_L_law_B1651 k23 x0 x1 x2 x3 x4 h = some o) : PF Γ mi_L_law D h0 Q h 1651 [some (va_rf x0), some (va_rf x1), some (va_rf x2), some (va_rf x3), some (.int x4), none, none] [] := by
  refine j_goto 3144 dL_law_1651 (by decide) ?_
  exact pf_L_law_B3144 hQ k23 hk23 x0 x1 x2 x3 x4 h hf
def f_L_law_B1707 (k23 : Option Nat → Option Nat → Option Nat → Option Nat → Int32 → PH → Option (Int32 × PH)) (x0 : Option Nat) (x1 : Option Nat) (x2 : Option Nat) (x3 : Option Nat) (x4 : Int32) (h : PH) : Option (Int32 × PH) := f_L_law_B3144 k23 x0 x1 x2 x3 x4 h
theorem pf_L_law_B1707 {Γ : GX} {D : va_G} {h0 : PH} {Q : State → Prop} {o : Int32 × PH} (hQ : QL Γ mi_L_law D h0 Q o) (k23 : Option Nat → Option Nat → Option Nat → Option Nat → Int32 → PH → Option (Int32 × PH)) (hk23 : ∀ (x0 : Option Nat) (x1 : Option Nat) (x2 : Option Nat) (x3 : Option Nat) (x4 : Int32) (h : PH), k23 x0 x1 x2 x3 x4 h = some o → PF Γ mi_L_law D h0 Q h 23 [some (va_rf x0), some (va_rf x1), some (va_rf x2), some (va_rf x3), some (.int x4), none, none] []) (x0 : Option Nat) (x1 : Option Nat) (x2 : Option Nat) (x3 : Option Nat) (x4 : Int32) (h : PH) (hf : f_L_law_B1707 k23 x0 x1 x2 x3 x4 h = some o) : PF Γ mi_L_law D h0 Q h 1707 [some (va_rf x0), some (va_rf x1), some (va_rf x2), some (va_rf x3), some (.int x4), none, none] [] := by
  refine j_goto 3144 dL_law_1707 (by decide) ?_
  exact pf_L_law_B3144 hQ k23 hk23 x0 x1 x2 x3 x4 h hf
def f_L_law_B1763 (k23 : Option Nat → Option Nat → Option Nat → Option Nat → Int32 → PH → Option (Int32 × PH)) (x0 : Option Nat) (x1 : Option Nat) (x2 : Option Nat) (x3 : Option Nat) (x4 : Int32) (h : PH) : Option (Int32 × PH) := f_L_law_B3144 k23 x0 x1 x2 x3 x4 h
theorem pf_L_law_B1763 {Γ : GX} {D : va_G} {h0 : PH} {Q : State → Prop} {o : Int32 × PH} (hQ : QL Γ mi_L_law D h0 Q o) (k23 : Option Nat → Option Nat → Option Nat → Option Nat → Int32 → PH → Option (Int32 × PH)) (hk23 : ∀ (x0 : Option Nat) (x1 : Option Nat) (x2 : Option Nat) (x3 : Option Nat) (x4 : Int32) (h : PH), k23 x0 x1 x2 x3 x4 h = some o → PF Γ mi_L_law D h0 Q h 23 [some (va_rf x0), some (va_rf x1), some (va_rf x2), some (va_rf x3), some (.int x4), none, none] []) (x0 : Option Nat) (x1 : Option Nat) (x2 : Option Nat) (x3 : Option Nat) (x4 : Int32) (h : PH) (hf : f_L_law_B1763 k23 x0 x1 x2 x3 x4 h = some o) : PF Γ mi_L_law D h0 Q h 1763 [some (va_rf x0), some (va_rf x1), some (va_rf x2), some (va_rf x3), some (.int x4), none, none] [] := by
  refine j_goto 3144 dL_law_1763 (by decide) ?_
  exact pf_L_law_B3144 hQ k23 hk23 x0 x1 x2 x3 x4 h hf
def f_L_law_B1819 (k23 : Option Nat → Option Nat → Option Nat → Option Nat → Int32 → PH → Option (Int32 × PH)) (x0 : Option Nat) (x1 : Option Nat) (x2 : Option Nat) (x3 : Option Nat) (x4 : Int32) (h : PH) : Option (Int32 × PH) := f_L_law_B3144 k23 x0 x1 x2 x3 x4 h
theorem pf_L_law_B1819 {Γ : GX} {D : va_G} {h0 : PH} {Q : State → Prop} {o : Int32 × PH} (hQ : QL Γ mi_L_law D h0 Q o) (k23 : Option Nat → Option Nat → Option Nat → Option Nat → Int32 → PH → Option (Int32 × PH)) (hk23 : ∀ (x0 : Option Nat) (x1 : Option Nat) (x2 : Option Nat) (x3 : Option Nat) (x4 : Int32) (h : PH), k23 x0 x1 x2 x3 x4 h = some o → PF Γ mi_L_law D h0 Q h 23 [some (va_rf x0), some (va_rf x1), some (va_rf x2), some (va_rf x3), some (.int x4), none, none] []) (x0 : Option Nat) (x1 : Option Nat) (x2 : Option Nat) (x3 : Option Nat) (x4 : Int32) (h : PH) (hf : f_L_law_B1819 k23 x0 x1 x2 x3 x4 h = some o) : PF Γ mi_L_law D h0 Q h 1819 [some (va_rf x0), some (va_rf x1), some (va_rf x2), some (va_rf x3), some (.int x4), none, none] [] := by
  refine j_goto 3144 dL_law_1819 (by decide) ?_
  exact pf_L_law_B3144 hQ k23 hk23 x0 x1 x2 x3 x4 h hf
def f_L_law_B1875 (k23 : Option Nat → Option Nat → Option Nat → Option Nat → Int32 → PH → Option (Int32 × PH)) (x0 : Option Nat) (x1 : Option Nat) (x2 : Option Nat) (x3 : Option Nat) (x4 : Int32) (h : PH) : Option (Int32 × PH) := f_L_law_B3144 k23 x0 x1 x2 x3 x4 h
theorem pf_L_law_B1875 {Γ : GX} {D : va_G} {h0 : PH} {Q : State → Prop} {o : Int32 × PH} (hQ : QL Γ mi_L_law D h0 Q o) (k23 : Option Nat → Option Nat → Option Nat → Option Nat → Int32 → PH → Option (Int32 × PH)) (hk23 : ∀ (x0 : Option Nat) (x1 : Option Nat) (x2 : Option Nat) (x3 : Option Nat) (x4 : Int32) (h : PH), k23 x0 x1 x2 x3 x4 h = some o → PF Γ mi_L_law D h0 Q h 23 [some (va_rf x0), some (va_rf x1), some (va_rf x2), some (va_rf x3), some (.int x4), none, none] []) (x0 : Option Nat) (x1 : Option Nat) (x2 : Option Nat) (x3 : Option Nat) (x4 : Int32) (h : PH) (hf : f_L_law_B1875 k23 x0 x1 x2 x3 x4 h = some o) : PF Γ mi_L_law D h0 Q h 1875 [some (va_rf x0), some (va_rf x1), some (va_rf x2), some (va_rf x3), some (.int x4), none, none] [] := by
  refine j_goto 3144 dL_law_1875 (by decide) ?_
  exact pf_L_law_B3144 hQ k23 hk23 x0 x1 x2 x3 x4 h hf
def f_L_law_B1931 (k23 : Option Nat → Option Nat → Option Nat → Option Nat → Int32 → PH → Option (Int32 × PH)) (x0 : Option Nat) (x1 : Option Nat) (x2 : Option Nat) (x3 : Option Nat) (x4 : Int32) (h : PH) : Option (Int32 × PH) := f_L_law_B3144 k23 x0 x1 x2 x3 x4 h
theorem pf_L_law_B1931 {Γ : GX} {D : va_G} {h0 : PH} {Q : State → Prop} {o : Int32 × PH} (hQ : QL Γ mi_L_law D h0 Q o) (k23 : Option Nat → Option Nat → Option Nat → Option Nat → Int32 → PH → Option (Int32 × PH)) (hk23 : ∀ (x0 : Option Nat) (x1 : Option Nat) (x2 : Option Nat) (x3 : Option Nat) (x4 : Int32) (h : PH), k23 x0 x1 x2 x3 x4 h = some o → PF Γ mi_L_law D h0 Q h 23 [some (va_rf x0), some (va_rf x1), some (va_rf x2), some (va_rf x3), some (.int x4), none, none] []) (x0 : Option Nat) (x1 : Option Nat) (x2 : Option Nat) (x3 : Option Nat) (x4 : Int32) (h : PH) (hf : f_L_law_B1931 k23 x0 x1 x2 x3 x4 h = some o) : PF Γ mi_L_law D h0 Q h 1931 [some (va_rf x0), some (va_rf x1), some (va_rf x2), some (va_rf x3), some (.int x4), none, none] [] := by
  refine j_goto 3144 dL_law_1931 (by decide) ?_
  exact pf_L_law_B3144 hQ k23 hk23 x0 x1 x2 x3 x4 h hf
def f_L_law_B2039 (k23 : Option Nat → Option Nat → Option Nat → Option Nat → Int32 → PH → Option (Int32 × PH)) (x0 : Option Nat) (x1 : Option Nat) (x2 : Option Nat) (x3 : Option Nat) (x4 : Int32) (h : PH) : Option (Int32 × PH) := f_L_law_B3144 k23 x0 x1 x2 x3 x4 h
theorem pf_L_law_B2039 {Γ : GX} {D : va_G} {h0 : PH} {Q : State → Prop} {o : Int32 × PH} (hQ : QL Γ mi_L_law D h0 Q o) (k23 : Option Nat → Option Nat → Option Nat → Option Nat → Int32 → PH → Option (Int32 × PH)) (hk23 : ∀ (x0 : Option Nat) (x1 : Option Nat) (x2 : Option Nat) (x3 : Option Nat) (x4 : Int32) (h : PH), k23 x0 x1 x2 x3 x4 h = some o → PF Γ mi_L_law D h0 Q h 23 [some (va_rf x0), some (va_rf x1), some (va_rf x2), some (va_rf x3), some (.int x4), none, none] []) (x0 : Option Nat) (x1 : Option Nat) (x2 : Option Nat) (x3 : Option Nat) (x4 : Int32) (h : PH) (hf : f_L_law_B2039 k23 x0 x1 x2 x3 x4 h = some o) : PF Γ mi_L_law D h0 Q h 2039 [some (va_rf x0), some (va_rf x1), some (va_rf x2), some (va_rf x3), some (.int x4), none, none] [] := by
  refine j_goto 3144 dL_law_2039 (by decide) ?_
  exact pf_L_law_B3144 hQ k23 hk23 x0 x1 x2 x3 x4 h hf
def f_L_law_B2095 (k23 : Option Nat → Option Nat → Option Nat → Option Nat → Int32 → PH → Option (Int32 × PH)) (x0 : Option Nat) (x1 : Option Nat) (x2 : Option Nat) (x3 : Option Nat) (x4 : Int32) (h : PH) : Option (Int32 × PH) := f_L_law_B3144 k23 x0 x1 x2 x3 x4 h
theorem pf_L_law_B2095 {Γ : GX} {D : va_G} {h0 : PH} {Q : State → Prop} {o : Int32 × PH} (hQ : QL Γ mi_L_law D h0 Q o) (k23 : Option Nat → Option Nat → Option Nat → Option Nat → Int32 → PH → Option (Int32 × PH)) (hk23 : ∀ (x0 : Option Nat) (x1 : Option Nat) (x2 : Option Nat) (x3 : Option Nat) (x4 : Int32) (h : PH), k23 x0 x1 x2 x3 x4 h = some o → PF Γ mi_L_law D h0 Q h 23 [some (va_rf x0), some (va_rf x1), some (va_rf x2), some (va_rf x3), some (.int x4), none, none] []) (x0 : Option Nat) (x1 : Option Nat) (x2 : Option Nat) (x3 : Option Nat) (x4 : Int32) (h : PH) (hf : f_L_law_B2095 k23 x0 x1 x2 x3 x4 h = some o) : PF Γ mi_L_law D h0 Q h 2095 [some (va_rf x0), some (va_rf x1), some (va_rf x2), some (va_rf x3), some (.int x4), none, none] [] := by
  refine j_goto 3144 dL_law_2095 (by decide) ?_
  exact pf_L_law_B3144 hQ k23 hk23 x0 x1 x2 x3 x4 h hf
def f_L_law_B2151 (k23 : Option Nat → Option Nat → Option Nat → Option Nat → Int32 → PH → Option (Int32 × PH)) (x0 : Option Nat) (x1 : Option Nat) (x2 : Option Nat) (x3 : Option Nat) (x4 : Int32) (h : PH) : Option (Int32 × PH) := f_L_law_B3144 k23 x0 x1 x2 x3 x4 h
theorem pf_L_law_B2151 {Γ : GX} {D : va_G} {h0 : PH} {Q : State → Prop} {o : Int32 × PH} (hQ : QL Γ mi_L_law D h0 Q o) (k23 : Option Nat → Option Nat → Option Nat → Option Nat → Int32 → PH → Option (Int32 × PH)) (hk23 : ∀ (x0 : Option Nat) (x1 : Option Nat) (x2 : Option Nat) (x3 : Option Nat) (x4 : Int32) (h : PH), k23 x0 x1 x2 x3 x4 h = some o → PF Γ mi_L_law D h0 Q h 23 [some (va_rf x0), some (va_rf x1), some (va_rf x2), some (va_rf x3), some (.int x4), none, none] []) (x0 : Option Nat) (x1 : Option Nat) (x2 : Option Nat) (x3 : Option Nat) (x4 : Int32) (h : PH) (hf : f_L_law_B2151 k23 x0 x1 x2 x3 x4 h = some o) : PF Γ mi_L_law D h0 Q h 2151 [some (va_rf x0), some (va_rf x1), some (va_rf x2), some (va_rf x3), some (.int x4), none, none] [] := by
  refine j_goto 3144 dL_law_2151 (by decide) ?_
  exact pf_L_law_B3144 hQ k23 hk23 x0 x1 x2 x3 x4 h hf
def f_L_law_B2207 (k23 : Option Nat → Option Nat → Option Nat → Option Nat → Int32 → PH → Option (Int32 × PH)) (x0 : Option Nat) (x1 : Option Nat) (x2 : Option Nat) (x3 : Option Nat) (x4 : Int32) (h : PH) : Option (Int32 × PH) := f_L_law_B3144 k23 x0 x1 x2 x3 x4 h
theorem pf_L_law_B2207 {Γ : GX} {D : va_G} {h0 : PH} {Q : State → Prop} {o : Int32 × PH} (hQ : QL Γ mi_L_law D h0 Q o) (k23 : Option Nat → Option Nat → Option Nat → Option Nat → Int32 → PH → Option (Int32 × PH)) (hk23 : ∀ (x0 : Option Nat) (x1 : Option Nat) (x2 : Option Nat) (x3 : Option Nat) (x4 : Int32) (h : PH), k23 x0 x1 x2 x3 x4 h = some o → PF Γ mi_L_law D h0 Q h 23 [some (va_rf x0), some (va_rf x1), some (va_rf x2), some (va_rf x3), some (.int x4), none, none] []) (x0 : Option Nat) (x1 : Option Nat) (x2 : Option Nat) (x3 : Option Nat) (x4 : Int32) (h : PH) (hf : f_L_law_B2207 k23 x0 x1 x2 x3 x4 h = some o) : PF Γ mi_L_law D h0 Q h 2207 [some (va_rf x0), some (va_rf x1), some (va_rf x2), some (va_rf x3), some (.int x4), none, none] [] := by
  refine j_goto 3144 dL_law_2207 (by decide) ?_
  exact pf_L_law_B3144 hQ k23 hk23 x0 x1 x2 x3 x4 h hf
def f_L_law_B2263 (k23 : Option Nat → Option Nat → Option Nat → Option Nat → Int32 → PH → Option (Int32 × PH)) (x0 : Option Nat) (x1 : Option Nat) (x2 : Option Nat) (x3 : Option Nat) (x4 : Int32) (h : PH) : Option (Int32 × PH) := f_L_law_B3144 k23 x0 x1 x2 x3 x4 h
theorem pf_L_law_B2263 {Γ : GX} {D : va_G} {h0 : PH} {Q : State → Prop} {o : Int32 × PH} (hQ : QL Γ mi_L_law D h0 Q o) (k23 : Option Nat → Option Nat → Option Nat → Option Nat → Int32 → PH → Option (Int32 × PH)) (hk23 : ∀ (x0 : Option Nat) (x1 : Option Nat) (x2 : Option Nat) (x3 : Option Nat) (x4 : Int32) (h : PH), k23 x0 x1 x2 x3 x4 h = some o → PF Γ mi_L_law D h0 Q h 23 [some (va_rf x0), some (va_rf x1), some (va_rf x2), some (va_rf x3), some (.int x4), none, none] []) (x0 : Option Nat) (x1 : Option Nat) (x2 : Option Nat) (x3 : Option Nat) (x4 : Int32) (h : PH) (hf : f_L_law_B2263 k23 x0 x1 x2 x3 x4 h = some o) : PF Γ mi_L_law D h0 Q h 2263 [some (va_rf x0), some (va_rf x1), some (va_rf x2), some (va_rf x3), some (.int x4), none, none] [] := by
  refine j_goto 3144 dL_law_2263 (by decide) ?_
  exact pf_L_law_B3144 hQ k23 hk23 x0 x1 x2 x3 x4 h hf
def f_L_law_B2358 (k23 : Option Nat → Option Nat → Option Nat → Option Nat → Int32 → PH → Option (Int32 × PH)) (x0 : Option Nat) (x1 : Option Nat) (x2 : Option Nat) (x3 : Option Nat) (x4 : Int32) (h : PH) : Option (Int32 × PH) := f_L_law_B3144 k23 x0 x1 x2 x3 x4 h
theorem pf_L_law_B2358 {Γ : GX} {D : va_G} {h0 : PH} {Q : State → Prop} {o : Int32 × PH} (hQ : QL Γ mi_L_law D h0 Q o) (k23 : Option Nat → Option Nat → Option Nat → Option Nat → Int32 → PH → Option (Int32 × PH)) (hk23 : ∀ (x0 : Option Nat) (x1 : Option Nat) (x2 : Option Nat) (x3 : Option Nat) (x4 : Int32) (h : PH), k23 x0 x1 x2 x3 x4 h = some o → PF Γ mi_L_law D h0 Q h 23 [some (va_rf x0), some (va_rf x1), some (va_rf x2), some (va_rf x3), some (.int x4), none, none] []) (x0 : Option Nat) (x1 : Option Nat) (x2 : Option Nat) (x3 : Option Nat) (x4 : Int32) (h : PH) (hf : f_L_law_B2358 k23 x0 x1 x2 x3 x4 h = some o) : PF Γ mi_L_law D h0 Q h 2358 [some (va_rf x0), some (va_rf x1), some (va_rf x2), some (va_rf x3), some (.int x4), none, none] [] := by
  refine j_goto 3144 dL_law_2358 (by decide) ?_
  exact pf_L_law_B3144 hQ k23 hk23 x0 x1 x2 x3 x4 h hf
def f_L_law_B2414 (k23 : Option Nat → Option Nat → Option Nat → Option Nat → Int32 → PH → Option (Int32 × PH)) (x0 : Option Nat) (x1 : Option Nat) (x2 : Option Nat) (x3 : Option Nat) (x4 : Int32) (h : PH) : Option (Int32 × PH) := f_L_law_B3144 k23 x0 x1 x2 x3 x4 h
theorem pf_L_law_B2414 {Γ : GX} {D : va_G} {h0 : PH} {Q : State → Prop} {o : Int32 × PH} (hQ : QL Γ mi_L_law D h0 Q o) (k23 : Option Nat → Option Nat → Option Nat → Option Nat → Int32 → PH → Option (Int32 × PH)) (hk23 : ∀ (x0 : Option Nat) (x1 : Option Nat) (x2 : Option Nat) (x3 : Option Nat) (x4 : Int32) (h : PH), k23 x0 x1 x2 x3 x4 h = some o → PF Γ mi_L_law D h0 Q h 23 [some (va_rf x0), some (va_rf x1), some (va_rf x2), some (va_rf x3), some (.int x4), none, none] []) (x0 : Option Nat) (x1 : Option Nat) (x2 : Option Nat) (x3 : Option Nat) (x4 : Int32) (h : PH) (hf : f_L_law_B2414 k23 x0 x1 x2 x3 x4 h = some o) : PF Γ mi_L_law D h0 Q h 2414 [some (va_rf x0), some (va_rf x1), some (va_rf x2), some (va_rf x3), some (.int x4), none, none] [] := by
  refine j_goto 3144 dL_law_2414 (by decide) ?_
  exact pf_L_law_B3144 hQ k23 hk23 x0 x1 x2 x3 x4 h hf
def f_L_law_B2470 (k23 : Option Nat → Option Nat → Option Nat → Option Nat → Int32 → PH → Option (Int32 × PH)) (x0 : Option Nat) (x1 : Option Nat) (x2 : Option Nat) (x3 : Option Nat) (x4 : Int32) (h : PH) : Option (Int32 × PH) := f_L_law_B3144 k23 x0 x1 x2 x3 x4 h
theorem pf_L_law_B2470 {Γ : GX} {D : va_G} {h0 : PH} {Q : State → Prop} {o : Int32 × PH} (hQ : QL Γ mi_L_law D h0 Q o) (k23 : Option Nat → Option Nat → Option Nat → Option Nat → Int32 → PH → Option (Int32 × PH)) (hk23 : ∀ (x0 : Option Nat) (x1 : Option Nat) (x2 : Option Nat) (x3 : Option Nat) (x4 : Int32) (h : PH), k23 x0 x1 x2 x3 x4 h = some o → PF Γ mi_L_law D h0 Q h 23 [some (va_rf x0), some (va_rf x1), some (va_rf x2), some (va_rf x3), some (.int x4), none, none] []) (x0 : Option Nat) (x1 : Option Nat) (x2 : Option Nat) (x3 : Option Nat) (x4 : Int32) (h : PH) (hf : f_L_law_B2470 k23 x0 x1 x2 x3 x4 h = some o) : PF Γ mi_L_law D h0 Q h 2470 [some (va_rf x0), some (va_rf x1), some (va_rf x2), some (va_rf x3), some (.int x4), none, none] [] := by
  refine j_goto 3144 dL_law_2470 (by decide) ?_
  exact pf_L_law_B3144 hQ k23 hk23 x0 x1 x2 x3 x4 h hf
def f_L_law_B2526 (k23 : Option Nat → Option Nat → Option Nat → Option Nat → Int32 → PH → Option (Int32 × PH)) (x0 : Option Nat) (x1 : Option Nat) (x2 : Option Nat) (x3 : Option Nat) (x4 : Int32) (h : PH) : Option (Int32 × PH) := f_L_law_B3144 k23 x0 x1 x2 x3 x4 h
theorem pf_L_law_B2526 {Γ : GX} {D : va_G} {h0 : PH} {Q : State → Prop} {o : Int32 × PH} (hQ : QL Γ mi_L_law D h0 Q o) (k23 : Option Nat → Option Nat → Option Nat → Option Nat → Int32 → PH → Option (Int32 × PH)) (hk23 : ∀ (x0 : Option Nat) (x1 : Option Nat) (x2 : Option Nat) (x3 : Option Nat) (x4 : Int32) (h : PH), k23 x0 x1 x2 x3 x4 h = some o → PF Γ mi_L_law D h0 Q h 23 [some (va_rf x0), some (va_rf x1), some (va_rf x2), some (va_rf x3), some (.int x4), none, none] []) (x0 : Option Nat) (x1 : Option Nat) (x2 : Option Nat) (x3 : Option Nat) (x4 : Int32) (h : PH) (hf : f_L_law_B2526 k23 x0 x1 x2 x3 x4 h = some o) : PF Γ mi_L_law D h0 Q h 2526 [some (va_rf x0), some (va_rf x1), some (va_rf x2), some (va_rf x3), some (.int x4), none, none] [] := by
  refine j_goto 3144 dL_law_2526 (by decide) ?_
  exact pf_L_law_B3144 hQ k23 hk23 x0 x1 x2 x3 x4 h hf
def f_L_law_B2633 (k23 : Option Nat → Option Nat → Option Nat → Option Nat → Int32 → PH → Option (Int32 × PH)) (x0 : Option Nat) (x1 : Option Nat) (x2 : Option Nat) (x3 : Option Nat) (x4 : Int32) (h : PH) : Option (Int32 × PH) := f_L_law_B3144 k23 x0 x1 x2 x3 x4 h
theorem pf_L_law_B2633 {Γ : GX} {D : va_G} {h0 : PH} {Q : State → Prop} {o : Int32 × PH} (hQ : QL Γ mi_L_law D h0 Q o) (k23 : Option Nat → Option Nat → Option Nat → Option Nat → Int32 → PH → Option (Int32 × PH)) (hk23 : ∀ (x0 : Option Nat) (x1 : Option Nat) (x2 : Option Nat) (x3 : Option Nat) (x4 : Int32) (h : PH), k23 x0 x1 x2 x3 x4 h = some o → PF Γ mi_L_law D h0 Q h 23 [some (va_rf x0), some (va_rf x1), some (va_rf x2), some (va_rf x3), some (.int x4), none, none] []) (x0 : Option Nat) (x1 : Option Nat) (x2 : Option Nat) (x3 : Option Nat) (x4 : Int32) (h : PH) (hf : f_L_law_B2633 k23 x0 x1 x2 x3 x4 h = some o) : PF Γ mi_L_law D h0 Q h 2633 [some (va_rf x0), some (va_rf x1), some (va_rf x2), some (va_rf x3), some (.int x4), none, none] [] := by
  refine j_goto 3144 dL_law_2633 (by decide) ?_
  exact pf_L_law_B3144 hQ k23 hk23 x0 x1 x2 x3 x4 h hf
def f_L_law_B2689 (k23 : Option Nat → Option Nat → Option Nat → Option Nat → Int32 → PH → Option (Int32 × PH)) (x0 : Option Nat) (x1 : Option Nat) (x2 : Option Nat) (x3 : Option Nat) (x4 : Int32) (h : PH) : Option (Int32 × PH) := f_L_law_B3144 k23 x0 x1 x2 x3 x4 h
theorem pf_L_law_B2689 {Γ : GX} {D : va_G} {h0 : PH} {Q : State → Prop} {o : Int32 × PH} (hQ : QL Γ mi_L_law D h0 Q o) (k23 : Option Nat → Option Nat → Option Nat → Option Nat → Int32 → PH → Option (Int32 × PH)) (hk23 : ∀ (x0 : Option Nat) (x1 : Option Nat) (x2 : Option Nat) (x3 : Option Nat) (x4 : Int32) (h : PH), k23 x0 x1 x2 x3 x4 h = some o → PF Γ mi_L_law D h0 Q h 23 [some (va_rf x0), some (va_rf x1), some (va_rf x2), some (va_rf x3), some (.int x4), none, none] []) (x0 : Option Nat) (x1 : Option Nat) (x2 : Option Nat) (x3 : Option Nat) (x4 : Int32) (h : PH) (hf : f_L_law_B2689 k23 x0 x1 x2 x3 x4 h = some o) : PF Γ mi_L_law D h0 Q h 2689 [some (va_rf x0), some (va_rf x1), some (va_rf x2), some (va_rf x3), some (.int x4), none, none] [] := by
  refine j_goto 3144 dL_law_2689 (by decide) ?_
  exact pf_L_law_B3144 hQ k23 hk23 x0 x1 x2 x3 x4 h hf
def f_L_law_B2757 (k23 : Option Nat → Option Nat → Option Nat → Option Nat → Int32 → PH → Option (Int32 × PH)) (x0 : Option Nat) (x1 : Option Nat) (x2 : Option Nat) (x3 : Option Nat) (x4 : Int32) (h : PH) : Option (Int32 × PH) := f_L_law_B3144 k23 x0 x1 x2 x3 x4 h
theorem pf_L_law_B2757 {Γ : GX} {D : va_G} {h0 : PH} {Q : State → Prop} {o : Int32 × PH} (hQ : QL Γ mi_L_law D h0 Q o) (k23 : Option Nat → Option Nat → Option Nat → Option Nat → Int32 → PH → Option (Int32 × PH)) (hk23 : ∀ (x0 : Option Nat) (x1 : Option Nat) (x2 : Option Nat) (x3 : Option Nat) (x4 : Int32) (h : PH), k23 x0 x1 x2 x3 x4 h = some o → PF Γ mi_L_law D h0 Q h 23 [some (va_rf x0), some (va_rf x1), some (va_rf x2), some (va_rf x3), some (.int x4), none, none] []) (x0 : Option Nat) (x1 : Option Nat) (x2 : Option Nat) (x3 : Option Nat) (x4 : Int32) (h : PH) (hf : f_L_law_B2757 k23 x0 x1 x2 x3 x4 h = some o) : PF Γ mi_L_law D h0 Q h 2757 [some (va_rf x0), some (va_rf x1), some (va_rf x2), some (va_rf x3), some (.int x4), none, none] [] := by
  refine j_goto 3144 dL_law_2757 (by decide) ?_
  exact pf_L_law_B3144 hQ k23 hk23 x0 x1 x2 x3 x4 h hf
def f_L_law_B2813 (k23 : Option Nat → Option Nat → Option Nat → Option Nat → Int32 → PH → Option (Int32 × PH)) (x0 : Option Nat) (x1 : Option Nat) (x2 : Option Nat) (x3 : Option Nat) (x4 : Int32) (h : PH) : Option (Int32 × PH) := f_L_law_B3144 k23 x0 x1 x2 x3 x4 h
theorem pf_L_law_B2813 {Γ : GX} {D : va_G} {h0 : PH} {Q : State → Prop} {o : Int32 × PH} (hQ : QL Γ mi_L_law D h0 Q o) (k23 : Option Nat → Option Nat → Option Nat → Option Nat → Int32 → PH → Option (Int32 × PH)) (hk23 : ∀ (x0 : Option Nat) (x1 : Option Nat) (x2 : Option Nat) (x3 : Option Nat) (x4 : Int32) (h : PH), k23 x0 x1 x2 x3 x4 h = some o → PF Γ mi_L_law D h0 Q h 23 [some (va_rf x0), some (va_rf x1), some (va_rf x2), some (va_rf x3), some (.int x4), none, none] []) (x0 : Option Nat) (x1 : Option Nat) (x2 : Option Nat) (x3 : Option Nat) (x4 : Int32) (h : PH) (hf : f_L_law_B2813 k23 x0 x1 x2 x3 x4 h = some o) : PF Γ mi_L_law D h0 Q h 2813 [some (va_rf x0), some (va_rf x1), some (va_rf x2), some (va_rf x3), some (.int x4), none, none] [] := by
  refine j_goto 3144 dL_law_2813 (by decide) ?_
  exact pf_L_law_B3144 hQ k23 hk23 x0 x1 x2 x3 x4 h hf
def f_L_law_B2881 (k23 : Option Nat → Option Nat → Option Nat → Option Nat → Int32 → PH → Option (Int32 × PH)) (x0 : Option Nat) (x1 : Option Nat) (x2 : Option Nat) (x3 : Option Nat) (x4 : Int32) (h : PH) : Option (Int32 × PH) := f_L_law_B3144 k23 x0 x1 x2 x3 x4 h
theorem pf_L_law_B2881 {Γ : GX} {D : va_G} {h0 : PH} {Q : State → Prop} {o : Int32 × PH} (hQ : QL Γ mi_L_law D h0 Q o) (k23 : Option Nat → Option Nat → Option Nat → Option Nat → Int32 → PH → Option (Int32 × PH)) (hk23 : ∀ (x0 : Option Nat) (x1 : Option Nat) (x2 : Option Nat) (x3 : Option Nat) (x4 : Int32) (h : PH), k23 x0 x1 x2 x3 x4 h = some o → PF Γ mi_L_law D h0 Q h 23 [some (va_rf x0), some (va_rf x1), some (va_rf x2), some (va_rf x3), some (.int x4), none, none] []) (x0 : Option Nat) (x1 : Option Nat) (x2 : Option Nat) (x3 : Option Nat) (x4 : Int32) (h : PH) (hf : f_L_law_B2881 k23 x0 x1 x2 x3 x4 h = some o) : PF Γ mi_L_law D h0 Q h 2881 [some (va_rf x0), some (va_rf x1), some (va_rf x2), some (va_rf x3), some (.int x4), none, none] [] := by
  refine j_goto 3144 dL_law_2881 (by decide) ?_
  exact pf_L_law_B3144 hQ k23 hk23 x0 x1 x2 x3 x4 h hf
def f_L_law_B2961 (k23 : Option Nat → Option Nat → Option Nat → Option Nat → Int32 → PH → Option (Int32 × PH)) (x0 : Option Nat) (x1 : Option Nat) (x2 : Option Nat) (x3 : Option Nat) (x4 : Int32) (h : PH) : Option (Int32 × PH) := f_L_law_B3144 k23 x0 x1 x2 x3 x4 h
theorem pf_L_law_B2961 {Γ : GX} {D : va_G} {h0 : PH} {Q : State → Prop} {o : Int32 × PH} (hQ : QL Γ mi_L_law D h0 Q o) (k23 : Option Nat → Option Nat → Option Nat → Option Nat → Int32 → PH → Option (Int32 × PH)) (hk23 : ∀ (x0 : Option Nat) (x1 : Option Nat) (x2 : Option Nat) (x3 : Option Nat) (x4 : Int32) (h : PH), k23 x0 x1 x2 x3 x4 h = some o → PF Γ mi_L_law D h0 Q h 23 [some (va_rf x0), some (va_rf x1), some (va_rf x2), some (va_rf x3), some (.int x4), none, none] []) (x0 : Option Nat) (x1 : Option Nat) (x2 : Option Nat) (x3 : Option Nat) (x4 : Int32) (h : PH) (hf : f_L_law_B2961 k23 x0 x1 x2 x3 x4 h = some o) : PF Γ mi_L_law D h0 Q h 2961 [some (va_rf x0), some (va_rf x1), some (va_rf x2), some (va_rf x3), some (.int x4), none, none] [] := by
  refine j_goto 3144 dL_law_2961 (by decide) ?_
  exact pf_L_law_B3144 hQ k23 hk23 x0 x1 x2 x3 x4 h hf
def f_L_law_B3029 (k23 : Option Nat → Option Nat → Option Nat → Option Nat → Int32 → PH → Option (Int32 × PH)) (x0 : Option Nat) (x1 : Option Nat) (x2 : Option Nat) (x3 : Option Nat) (x4 : Int32) (h : PH) : Option (Int32 × PH) := f_L_law_B3144 k23 x0 x1 x2 x3 x4 h
theorem pf_L_law_B3029 {Γ : GX} {D : va_G} {h0 : PH} {Q : State → Prop} {o : Int32 × PH} (hQ : QL Γ mi_L_law D h0 Q o) (k23 : Option Nat → Option Nat → Option Nat → Option Nat → Int32 → PH → Option (Int32 × PH)) (hk23 : ∀ (x0 : Option Nat) (x1 : Option Nat) (x2 : Option Nat) (x3 : Option Nat) (x4 : Int32) (h : PH), k23 x0 x1 x2 x3 x4 h = some o → PF Γ mi_L_law D h0 Q h 23 [some (va_rf x0), some (va_rf x1), some (va_rf x2), some (va_rf x3), some (.int x4), none, none] []) (x0 : Option Nat) (x1 : Option Nat) (x2 : Option Nat) (x3 : Option Nat) (x4 : Int32) (h : PH) (hf : f_L_law_B3029 k23 x0 x1 x2 x3 x4 h = some o) : PF Γ mi_L_law D h0 Q h 3029 [some (va_rf x0), some (va_rf x1), some (va_rf x2), some (va_rf x3), some (.int x4), none, none] [] := by
  refine j_goto 3144 dL_law_3029 (by decide) ?_
  exact pf_L_law_B3144 hQ k23 hk23 x0 x1 x2 x3 x4 h hf
def f_L_law_B3085 (k23 : Option Nat → Option Nat → Option Nat → Option Nat → Int32 → PH → Option (Int32 × PH)) (x0 : Option Nat) (x1 : Option Nat) (x2 : Option Nat) (x3 : Option Nat) (x4 : Int32) (h : PH) : Option (Int32 × PH) := f_L_law_B3144 k23 x0 x1 x2 x3 x4 h
theorem pf_L_law_B3085 {Γ : GX} {D : va_G} {h0 : PH} {Q : State → Prop} {o : Int32 × PH} (hQ : QL Γ mi_L_law D h0 Q o) (k23 : Option Nat → Option Nat → Option Nat → Option Nat → Int32 → PH → Option (Int32 × PH)) (hk23 : ∀ (x0 : Option Nat) (x1 : Option Nat) (x2 : Option Nat) (x3 : Option Nat) (x4 : Int32) (h : PH), k23 x0 x1 x2 x3 x4 h = some o → PF Γ mi_L_law D h0 Q h 23 [some (va_rf x0), some (va_rf x1), some (va_rf x2), some (va_rf x3), some (.int x4), none, none] []) (x0 : Option Nat) (x1 : Option Nat) (x2 : Option Nat) (x3 : Option Nat) (x4 : Int32) (h : PH) (hf : f_L_law_B3085 k23 x0 x1 x2 x3 x4 h = some o) : PF Γ mi_L_law D h0 Q h 3085 [some (va_rf x0), some (va_rf x1), some (va_rf x2), some (va_rf x3), some (.int x4), none, none] [] := by
  refine j_goto 3144 dL_law_3085 (by decide) ?_
  exact pf_L_law_B3144 hQ k23 hk23 x0 x1 x2 x3 x4 h hf
def f_L_law_B3141 (k23 : Option Nat → Option Nat → Option Nat → Option Nat → Int32 → PH → Option (Int32 × PH)) (x0 : Option Nat) (x1 : Option Nat) (x2 : Option Nat) (x3 : Option Nat) (x4 : Int32) (h : PH) : Option (Int32 × PH) := f_L_law_B3144 k23 x0 x1 x2 x3 x4 h
theorem pf_L_law_B3141 {Γ : GX} {D : va_G} {h0 : PH} {Q : State → Prop} {o : Int32 × PH} (hQ : QL Γ mi_L_law D h0 Q o) (k23 : Option Nat → Option Nat → Option Nat → Option Nat → Int32 → PH → Option (Int32 × PH)) (hk23 : ∀ (x0 : Option Nat) (x1 : Option Nat) (x2 : Option Nat) (x3 : Option Nat) (x4 : Int32) (h : PH), k23 x0 x1 x2 x3 x4 h = some o → PF Γ mi_L_law D h0 Q h 23 [some (va_rf x0), some (va_rf x1), some (va_rf x2), some (va_rf x3), some (.int x4), none, none] []) (x0 : Option Nat) (x1 : Option Nat) (x2 : Option Nat) (x3 : Option Nat) (x4 : Int32) (h : PH) (hf : f_L_law_B3141 k23 x0 x1 x2 x3 x4 h = some o) : PF Γ mi_L_law D h0 Q h 3141 [some (va_rf x0), some (va_rf x1), some (va_rf x2), some (va_rf x3), some (.int x4), none, none] [] := by
  refine j_goto 3144 dL_law_3141 (by decide) ?_
  exact pf_L_law_B3144 hQ k23 hk23 x0 x1 x2 x3 x4 h hf
def f_L_law_L23 : Nat → Option Nat → Option Nat → Option Nat → Option Nat → Int32 → PH → Option (Int32 × PH)
  | 0, _, _, _, _, _, _ => none
  | n + 1, x0, x1, x2, x3, x4, h => aSN h x0 fun v9 => (if (v9 - (5 : Int32)) < x4 then (rN .boolean (1 : Int32) (fun v => v) h) else (aS h x0 x4 fun v10 => (if (v10 &&& (63 : Int32)) = (0 : Int32) then (aS h x0 (x4 + (1 : Int32)) fun v11 => cl_ (f_X0_appendByte x1 v11 x3 h) fun v13 h12 => aS h12 x0 (x4 + (1 : Int32)) fun v14 => rv_ h12 x2 6 (cl_ (f_X7_appendByte x2 v14 h12) fun v16 h15 => rv_ h15 x2 6 (cl_ (f_X7_thrown x2 h15) fun v18 h17 => (if v18 = v13 then ((if v13 = 0 then (aL h17 x3 2 (0 : Int32) fun v19 => (if (lg_cmp v19 (v16.toInt64)) = 0 then (f_L_law_B361 (f_L_law_L23 n) x0 x1 x2 x3 x4 h17) else (rN .boolean (0 : Int32) (fun v => v) h17))) else (f_L_law_B361 (f_L_law_L23 n) x0 x1 x2 x3 x4 h17))) else (rN .boolean (0 : Int32) (fun v => v) h17))))) else (if (v10 &&& (63 : Int32)) = (1 : Int32) then (rv_ h x1 0 (cl_ (f_X1_load x1 h) fun v21 h20 => rv_ h20 x2 6 (cl_ (f_X7_load x2 h20) fun v23 h22 => (if v21 = v23 then (f_L_law_B3144 (f_L_law_L23 n) x0 x1 x2 x3 x4 h22) else (rN .boolean (0 : Int32) (fun v => v) h22))))) else (if (v10 &&& (63 : Int32)) = (2 : Int32) then (rv_ h x1 0 (cl_ (f_X1_loadError x1 h) fun v25 h24 => rv_ h24 x2 6 (cl_ (f_X7_loadError x2 h24) fun v27 h26 => (if v25 = v27 then (f_L_law_B3144 (f_L_law_L23 n) x0 x1 x2 x3 x4 h26) else (rN .boolean (0 : Int32) (fun v => v) h26))))) else (if (v10 &&& (63 : Int32)) = (3 : Int32) then (aS h x0 (x4 + (1 : Int32)) fun v28 => cl_ (f_X0_advance x1 v28 x3 h) fun v30 h29 => aS h29 x0 (x4 + (1 : Int32)) fun v31 => rv_ h29 x2 6 (cl_ (f_X7_advance x2 v31 h29) fun v33 h32 => rv_ h32 x2 6 (cl_ (f_X7_thrown x2 h32) fun v35 h34 => (if v35 = v30 then ((if v30 = 0 then (aL h34 x3 2 (0 : Int32) fun v36 => (if (lg_cmp v36 (v33.toInt64)) = 0 then (f_L_law_B443 (f_L_law_L23 n) x0 x1 x2 x3 x4 h34) else (rN .boolean (0 : Int32) (fun v => v) h34))) else (f_L_law_B443 (f_L_law_L23 n) x0 x1 x2 x3 x4 h34))) else (rN .boolean (0 : Int32) (fun v => v) h34))))) else (if (v10 &&& (63 : Int32)) = (4 : Int32) then (rv_ h x1 0 (cl_ (f_X1_advanceToNextEvent x1 h) fun v38 h37 => rv_ h37 x2 6 (cl_ (f_X7_advanceToNextEvent x2 h37) fun v40 h39 => (if v38 = v40 then (f_L_law_B3144 (f_L_law_L23 n) x0 x1 x2 x3 x4 h39) else (rN .boolean (0 : Int32) (fun v => v) h39))))) else (if (v10 &&& (63 : Int32)) = (5 : Int32) then (rv_ h x1 0 (cl_ (f_X1_now x1 h) fun v42 h41 => rv_ h41 x2 6 (cl_ (f_X7_now x2 h41) fun v44 h43 => (if v42 = v44 then (f_L_law_B3144 (f_L_law_L23 n) x0 x1 x2 x3 x4 h43) else (rN .boolean (0 : Int32) (fun v => v) h43))))) else (if (v10 &&& (63 : Int32)) = (6 : Int32) then (rv_ h x1 0 (cl_ (f_X1_nodeCount x1 h) fun v46 h45 => rv_ h45 x2 6 (cl_ (f_X7_nodeCount x2 h45) fun v48 h47 => (if v46 = v48 then (f_L_law_B3144 (f_L_law_L23 n) x0 x1 x2 x3 x4 h47) else (rN .boolean (0 : Int32) (fun v => v) h47))))) else (if (v10 &&& (63 : Int32)) = (7 : Int32) then (aS h x0 (x4 + (1 : Int32)) fun v49 => cl_ (f_X0_nodeClock x1 v49 x3 h) fun v51 h50 => aS h50 x0 (x4 + (1 : Int32)) fun v52 => rv_ h50 x2 6 (cl_ (f_X7_nodeClock x2 v52 h50) fun v54 h53 => rv_ h53 x2 6 (cl_ (f_X7_thrown x2 h53) fun v56 h55 => (if v56 = v51 then ((if v51 = 0 then (aL h55 x3 2 (0 : Int32) fun v57 => (if (lg_cmp v57 (v54.toInt64)) = 0 then (f_L_law_B538 (f_L_law_L23 n) x0 x1 x2 x3 x4 h55) else (rN .boolean (0 : Int32) (fun v => v) h55))) else (f_L_law_B538 (f_L_law_L23 n) x0 x1 x2 x3 x4 h55))) else (rN .boolean (0 : Int32) (fun v => v) h55))))) else (if (v10 &&& (63 : Int32)) = (8 : Int32) then (rv_ h x1 0 (cl_ (f_X1_serverClock x1 h) fun v59 h58 => rv_ h58 x2 6 (cl_ (f_X7_serverClock x2 h58) fun v61 h60 => (if v59 = v61 then (f_L_law_B3144 (f_L_law_L23 n) x0 x1 x2 x3 x4 h60) else (rN .boolean (0 : Int32) (fun v => v) h60))))) else (if (v10 &&& (63 : Int32)) = (9 : Int32) then (aS h x0 (x4 + (1 : Int32)) fun v62 => cl_ (f_X0_campaign x1 v62 x3 h) fun v64 h63 => aS h63 x0 (x4 + (1 : Int32)) fun v65 => rv_ h63 x2 6 (cl_ (f_X7_campaign x2 v65 h63) fun v67 h66 => rv_ h66 x2 6 (cl_ (f_X7_thrown x2 h66) fun v69 h68 => (if v69 = v64 then ((if v64 = 0 then (aL h68 x3 2 (0 : Int32) fun v70 => (if (lg_cmp v70 (v67.toInt64)) = 0 then (f_L_law_B607 (f_L_law_L23 n) x0 x1 x2 x3 x4 h68) else (rN .boolean (0 : Int32) (fun v => v) h68))) else (f_L_law_B607 (f_L_law_L23 n) x0 x1 x2 x3 x4 h68))) else (rN .boolean (0 : Int32) (fun v => v) h68))))) else (if (v10 &&& (63 : Int32)) = (10 : Int32) then (aS h x0 (x4 + (1 : Int32)) fun v71 => cl_ (f_X0_withdraw x1 v71 x3 h) fun v73 h72 => aS h72 x0 (x4 + (1 : Int32)) fun v74 => rv_ h72 x2 6 (cl_ (f_X7_withdraw x2 v74 h72) fun v76 h75 => rv_ h75 x2 6 (cl_ (f_X7_thrown x2 h75) fun v78 h77 => (if v78 = v73 then ((if v73 = 0 then (aL h77 x3 2 (0 : Int32) fun v79 => (if (lg_cmp v79 (v76.toInt64)) = 0 then (f_L_law_B663 (f_L_law_L23 n) x0 x1 x2 x3 x4 h77) else (rN .boolean (0 : Int32) (fun v => v) h77))) else (f_L_law_B663 (f_L_law_L23 n) x0 x1 x2 x3 x4 h77))) else (rN .boolean (0 : Int32) (fun v => v) h77))))) else (if (v10 &&& (63 : Int32)) = (11 : Int32) then (aS h x0 (x4 + (1 : Int32)) fun v80 => cl_ (f_X0_crash x1 v80 x3 h) fun v82 h81 => aS h81 x0 (x4 + (1 : Int32)) fun v83 => rv_ h81 x2 6 (cl_ (f_X7_crash x2 v83 h81) fun v85 h84 => rv_ h84 x2 6 (cl_ (f_X7_thrown x2 h84) fun v87 h86 => (if v87 = v82 then ((if v82 = 0 then (aL h86 x3 2 (0 : Int32) fun v88 => (if (lg_cmp v88 (v85.toInt64)) = 0 then (f_L_law_B719 (f_L_law_L23 n) x0 x1 x2 x3 x4 h86) else (rN .boolean (0 : Int32) (fun v => v) h86))) else (f_L_law_B719 (f_L_law_L23 n) x0 x1 x2 x3 x4 h86))) else (rN .boolean (0 : Int32) (fun v => v) h86))))) else (if (v10 &&& (63 : Int32)) = (12 : Int32) then (aS h x0 (x4 + (1 : Int32)) fun v89 => cl_ (f_X0_restart x1 v89 x3 h) fun v91 h90 => aS h90 x0 (x4 + (1 : Int32)) fun v92 => rv_ h90 x2 6 (cl_ (f_X7_restart x2 v92 h90) fun v94 h93 => rv_ h93 x2 6 (cl_ (f_X7_thrown x2 h93) fun v96 h95 => (if v96 = v91 then ((if v91 = 0 then (aL h95 x3 2 (0 : Int32) fun v97 => (if v94 = 0 then (f_L_law_B776 (f_L_law_L23 n) x0 x1 x2 x3 x4 v97 (0 : Int64) h95) else (f_L_law_B776 (f_L_law_L23 n) x0 x1 x2 x3 x4 v97 (1 : Int64) h95))) else (f_L_law_B782 (f_L_law_L23 n) x0 x1 x2 x3 x4 h95))) else (rN .boolean (0 : Int32) (fun v => v) h95))))) else (if (v10 &&& (63 : Int32)) = (13 : Int32) then (aS h x0 (x4 + (1 : Int32)) fun v98 => aS h x0 (x4 + (2 : Int32)) fun v99 => cl_ (f_X0_pause x1 v98 v99 x3 h) fun v101 h100 => aS h100 x0 (x4 + (1 : Int32)) fun v102 => aS h100 x0 (x4 + (2 : Int32)) fun v103 => rv_ h100 x2 6 (cl_ (f_X7_pause x2 v102 v103 h100) fun v105 h104 => rv_ h104 x2 6 (cl_ (f_X7_thrown x2 h104) fun v107 h106 => (if v107 = v101 then ((if v101 = 0 then (aL h106 x3 2 (0 : Int32) fun v108 => (if (lg_cmp v108 (v105.toInt64)) = 0 then (f_L_law_B850 (f_L_law_L23 n) x0 x1 x2 x3 x4 h106) else (rN .boolean (0 : Int32) (fun v => v) h106))) else (f_L_law_B850 (f_L_law_L23 n) x0 x1 x2 x3 x4 h106))) else (rN .boolean (0 : Int32) (fun v => v) h106))))) else (if (v10 &&& (63 : Int32)) = (14 : Int32) then (aS h x0 (x4 + (1 : Int32)) fun v109 => aS h x0 (x4 + (2 : Int32)) fun v110 => (if v110 = 0 then (f_L_law_B874 (f_L_law_L23 n) x0 x1 x2 x3 x4 x1 v109 (0 : Int32) h) else (f_L_law_B874 (f_L_law_L23 n) x0 x1 x2 x3 x4 x1 v109 (1 : Int32) h))) else (if (v10 &&& (63 : Int32)) = (15 : Int32) then (aS h x0 (x4 + (1 : Int32)) fun v111 => aS h x0 (x4 + (2 : Int32)) fun v112 => aS h x0 (x4 + (3 : Int32)) fun v113 => cl_ (f_X0_planOutage x1 v111 v112 v113 x3 h) fun v115 h114 => aS h114 x0 (x4 + (1 : Int32)) fun v116 => aS h114 x0 (x4 + (2 : Int32)) fun v117 => aS h114 x0 (x4 + (3 : Int32)) fun v118 => rv_ h114 x2 6 (cl_ (f_X7_planOutage x2 v116 v117 v118 h114) fun v120 h119 => rv_ h119 x2 6 (cl_ (f_X7_thrown x2 h119) fun v122 h121 => (if v122 = v115 then ((if v115 = 0 then (aL h121 x3 2 (0 : Int32) fun v123 => (if (lg_cmp v123 (v120.toInt64)) = 0 then (f_L_law_B1021 (f_L_law_L23 n) x0 x1 x2 x3 x4 h121) else (rN .boolean (0 : Int32) (fun v => v) h121))) else (f_L_law_B1021 (f_L_law_L23 n) x0 x1 x2 x3 x4 h121))) else (rN .boolean (0 : Int32) (fun v => v) h121))))) else (if (v10 &&& (63 : Int32)) = (16 : Int32) then (rv_ h x1 0 (cl_ (f_X1_restartServer x1 h) fun v125 h124 => rv_ h124 x2 6 (cl_ (f_X7_restartServer x2 h124) fun v127 h126 => (if v125 = v127 then (f_L_law_B3144 (f_L_law_L23 n) x0 x1 x2 x3 x4 h126) else (rN .boolean (0 : Int32) (fun v => v) h126))))) else (if (v10 &&& (63 : Int32)) = (17 : Int32) then (aS h x0 (x4 + (1 : Int32)) fun v128 => aS h x0 (x4 + (2 : Int32)) fun v129 => aS h x0 (x4 + (3 : Int32)) fun v130 => cl_ (f_X0_write x1 v128 v129 v130 x3 h) fun v132 h131 => aS h131 x0 (x4 + (1 : Int32)) fun v133 => aS h131 x0 (x4 + (2 : Int32)) fun v134 => aS h131 x0 (x4 + (3 : Int32)) fun v135 => rv_ h131 x2 6 (cl_ (f_X7_write x2 v133 v134 v135 h131) fun v137 h136 => rv_ h136 x2 6 (cl_ (f_X7_thrown x2 h136) fun v139 h138 => (if v139 = v132 then ((if v132 = 0 then (aL h138 x3 2 (0 : Int32) fun v140 => (if (lg_cmp v140 (v137.toInt64)) = 0 then (f_L_law_B1114 (f_L_law_L23 n) x0 x1 x2 x3 x4 h138) else (rN .boolean (0 : Int32) (fun v => v) h138))) else (f_L_law_B1114 (f_L_law_L23 n) x0 x1 x2 x3 x4 h138))) else (rN .boolean (0 : Int32) (fun v => v) h138))))) else (if (v10 &&& (63 : Int32)) = (18 : Int32) then (aS h x0 (x4 + (1 : Int32)) fun v141 => aS h x0 (x4 + (2 : Int32)) fun v142 => aS h x0 (x4 + (3 : Int32)) fun v143 => aS h x0 (x4 + (4 : Int32)) fun v144 => cl_ (f_X0_writeLater x1 v141 v142 v143 v144 x3 h) fun v146 h145 => aS h145 x0 (x4 + (1 : Int32)) fun v147 => aS h145 x0 (x4 + (2 : Int32)) fun v148 => aS h145 x0 (x4 + (3 : Int32)) fun v149 => aS h145 x0 (x4 + (4 : Int32)) fun v150 => rv_ h145 x2 6 (cl_ (f_X7_writeLater x2 v147 v148 v149 v150 h145) fun v152 h151 => rv_ h151 x2 6 (cl_ (f_X7_thrown x2 h151) fun v154 h153 => (if v154 = v146 then ((if v146 = 0 then (aL h153 x3 2 (0 : Int32) fun v155 => (if (lg_cmp v155 (v152.toInt64)) = 0 then (f_L_law_B1206 (f_L_law_L23 n) x0 x1 x2 x3 x4 h153) else (rN .boolean (0 : Int32) (fun v => v) h153))) else (f_L_law_B1206 (f_L_law_L23 n) x0 x1 x2 x3 x4 h153))) else (rN .boolean (0 : Int32) (fun v => v) h153))))) else (if (v10 &&& (63 : Int32)) = (19 : Int32) then (aS h x0 (x4 + (1 : Int32)) fun v156 => aS h x0 (x4 + (2 : Int32)) fun v157 => cl_ (f_X0_fetch x1 v156 v157 x3 h) fun v159 h158 => aS h158 x0 (x4 + (1 : Int32)) fun v160 => aS h158 x0 (x4 + (2 : Int32)) fun v161 => rv_ h158 x2 6 (cl_ (f_X7_fetch x2 v160 v161 h158) fun v163 h162 => rv_ h162 x2 6 (cl_ (f_X7_thrown x2 h162) fun v165 h164 => (if v165 = v159 then ((if v159 = 0 then (aL h164 x3 2 (0 : Int32) fun v166 => (if (lg_cmp v166 (v163.toInt64)) = 0 then (f_L_law_B1274 (f_L_law_L23 n) x0 x1 x2 x3 x4 h164) else (rN .boolean (0 : Int32) (fun v => v) h164))) else (f_L_law_B1274 (f_L_law_L23 n) x0 x1 x2 x3 x4 h164))) else (rN .boolean (0 : Int32) (fun v => v) h164))))) else (if (v10 &&& (63 : Int32)) = (20 : Int32) then (aS h x0 (x4 + (1 : Int32)) fun v167 => aS h x0 (x4 + (2 : Int32)) fun v168 => cl_ (f_X0_read x1 v167 v168 x3 h) fun v170 h169 => aS h169 x0 (x4 + (1 : Int32)) fun v171 => aS h169 x0 (x4 + (2 : Int32)) fun v172 => rv_ h169 x2 6 (cl_ (f_X7_read x2 v171 v172 h169) fun v174 h173 => rv_ h173 x2 6 (cl_ (f_X7_thrown x2 h173) fun v176 h175 => (if v176 = v170 then ((if v170 = 0 then (aL h175 x3 2 (0 : Int32) fun v177 => (if (lg_cmp v177 (v174.toInt64)) = 0 then (f_L_law_B1342 (f_L_law_L23 n) x0 x1 x2 x3 x4 h175) else (rN .boolean (0 : Int32) (fun v => v) h175))) else (f_L_law_B1342 (f_L_law_L23 n) x0 x1 x2 x3 x4 h175))) else (rN .boolean (0 : Int32) (fun v => v) h175))))) else (if (v10 &&& (63 : Int32)) = (21 : Int32) then (aS h x0 (x4 + (1 : Int32)) fun v178 => cl_ (f_X0_stored x1 v178 x3 h) fun v180 h179 => aS h179 x0 (x4 + (1 : Int32)) fun v181 => rv_ h179 x2 6 (cl_ (f_X7_stored x2 v181 h179) fun v183 h182 => rv_ h182 x2 6 (cl_ (f_X7_thrown x2 h182) fun v185 h184 => (if v185 = v180 then ((if v180 = 0 then (aL h184 x3 2 (0 : Int32) fun v186 => (if (lg_cmp v186 (v183.toInt64)) = 0 then (f_L_law_B1398 (f_L_law_L23 n) x0 x1 x2 x3 x4 h184) else (rN .boolean (0 : Int32) (fun v => v) h184))) else (f_L_law_B1398 (f_L_law_L23 n) x0 x1 x2 x3 x4 h184))) else (rN .boolean (0 : Int32) (fun v => v) h184))))) else (if (v10 &&& (63 : Int32)) = (22 : Int32) then (aS h x0 (x4 + (1 : Int32)) fun v187 => cl_ (f_X0_version x1 v187 x3 h) fun v189 h188 => aS h188 x0 (x4 + (1 : Int32)) fun v190 => rv_ h188 x2 6 (cl_ (f_X7_version x2 v190 h188) fun v192 h191 => rv_ h191 x2 6 (cl_ (f_X7_thrown x2 h191) fun v194 h193 => (if v194 = v189 then ((if v189 = 0 then (aL h193 x3 2 (0 : Int32) fun v195 => (if (lg_cmp v195 (v192.toInt64)) = 0 then (f_L_law_B1454 (f_L_law_L23 n) x0 x1 x2 x3 x4 h193) else (rN .boolean (0 : Int32) (fun v => v) h193))) else (f_L_law_B1454 (f_L_law_L23 n) x0 x1 x2 x3 x4 h193))) else (rN .boolean (0 : Int32) (fun v => v) h193))))) else (if (v10 &&& (63 : Int32)) = (23 : Int32) then (rv_ h x1 0 (cl_ (f_X1_storageToken x1 h) fun v197 h196 => rv_ h196 x2 6 (cl_ (f_X7_storageToken x2 h196) fun v199 h198 => (if v197 = v199 then (f_L_law_B3144 (f_L_law_L23 n) x0 x1 x2 x3 x4 h198) else (rN .boolean (0 : Int32) (fun v => v) h198))))) else (if (v10 &&& (63 : Int32)) = (24 : Int32) then (rv_ h x1 0 (cl_ (f_X1_holder x1 h) fun v201 h200 => rv_ h200 x2 6 (cl_ (f_X7_holder x2 h200) fun v203 h202 => (if v201 = v203 then (f_L_law_B3144 (f_L_law_L23 n) x0 x1 x2 x3 x4 h202) else (rN .boolean (0 : Int32) (fun v => v) h202))))) else (if (v10 &&& (63 : Int32)) = (25 : Int32) then (rv_ h x1 0 (cl_ (f_X1_greatestToken x1 h) fun v205 h204 => rv_ h204 x2 6 (cl_ (f_X7_greatestToken x2 h204) fun v207 h206 => (if v205 = v207 then (f_L_law_B3144 (f_L_law_L23 n) x0 x1 x2 x3 x4 h206) else (rN .boolean (0 : Int32) (fun v => v) h206))))) else (if (v10 &&& (63 : Int32)) = (26 : Int32) then (rv_ h x1 0 (cl_ (f_X1_serverExpiryTime x1 h) fun v209 h208 => rv_ h208 x2 6 (cl_ (f_X7_serverExpiryTime x2 h208) fun v211 h210 => (if v209 = v211 then (f_L_law_B3144 (f_L_law_L23 n) x0 x1 x2 x3 x4 h210) else (rN .boolean (0 : Int32) (fun v => v) h210))))) else (if (v10 &&& (63 : Int32)) = (27 : Int32) then (rv_ h x1 0 (cl_ (f_X1_graceLeft x1 h) fun v213 h212 => rv_ h212 x2 6 (cl_ (f_X7_graceLeft x2 h212) fun v215 h214 => (if v213 = v215 then (f_L_law_B3144 (f_L_law_L23 n) x0 x1 x2 x3 x4 h214) else (rN .boolean (0 : Int32) (fun v => v) h214))))) else (if (v10 &&& (63 : Int32)) = (28 : Int32) then (aS h x0 (x4 + (1 : Int32)) fun v216 => cl_ (f_X0_isLeading x1 v216 x3 h) fun v218 h217 => aS h217 x0 (x4 + (1 : Int32)) fun v219 => rv_ h217 x2 6 (cl_ (f_X7_isLeading x2 v219 h217) fun v221 h220 => rv_ h220 x2 6 (cl_ (f_X7_thrown x2 h220) fun v223 h222 => (if v223 = v218 then ((if v218 = 0 then (aL h222 x3 2 (0 : Int32) fun v224 => (if v221 = 0 then (f_L_law_B1576 (f_L_law_L23 n) x0 x1 x2 x3 x4 v224 (0 : Int64) h222) else (f_L_law_B1576 (f_L_law_L23 n) x0 x1 x2 x3 x4 v224 (1 : Int64) h222))) else (f_L_law_B1582 (f_L_law_L23 n) x0 x1 x2 x3 x4 h222))) else (rN .boolean (0 : Int32) (fun v => v) h222))))) else (if (v10 &&& (63 : Int32)) = (29 : Int32) then (rv_ h x1 0 (cl_ (f_X1_leaders x1 h) fun v226 h225 => rv_ h225 x2 6 (cl_ (f_X7_leaders x2 h225) fun v228 h227 => (if v226 = v228 then (f_L_law_B3144 (f_L_law_L23 n) x0 x1 x2 x3 x4 h227) else (rN .boolean (0 : Int32) (fun v => v) h227))))) else (if (v10 &&& (63 : Int32)) = (30 : Int32) then (aS h x0 (x4 + (1 : Int32)) fun v229 => cl_ (f_X0_token x1 v229 x3 h) fun v231 h230 => aS h230 x0 (x4 + (1 : Int32)) fun v232 => rv_ h230 x2 6 (cl_ (f_X7_token x2 v232 h230) fun v234 h233 => rv_ h233 x2 6 (cl_ (f_X7_thrown x2 h233) fun v236 h235 => (if v236 = v231 then ((if v231 = 0 then (aL h235 x3 2 (0 : Int32) fun v237 => (if (lg_cmp v237 (v234.toInt64)) = 0 then (f_L_law_B1651 (f_L_law_L23 n) x0 x1 x2 x3 x4 h235) else (rN .boolean (0 : Int32) (fun v => v) h235))) else (f_L_law_B1651 (f_L_law_L23 n) x0 x1 x2 x3 x4 h235))) else (rN .boolean (0 : Int32) (fun v => v) h235))))) else (if (v10 &&& (63 : Int32)) = (31 : Int32) then (aS h x0 (x4 + (1 : Int32)) fun v238 => cl_ (f_X0_nodeExpiryTime x1 v238 x3 h) fun v240 h239 => aS h239 x0 (x4 + (1 : Int32)) fun v241 => rv_ h239 x2 6 (cl_ (f_X7_nodeExpiryTime x2 v241 h239) fun v243 h242 => rv_ h242 x2 6 (cl_ (f_X7_thrown x2 h242) fun v245 h244 => (if v245 = v240 then ((if v240 = 0 then (aL h244 x3 2 (0 : Int32) fun v246 => (if (lg_cmp v246 (v243.toInt64)) = 0 then (f_L_law_B1707 (f_L_law_L23 n) x0 x1 x2 x3 x4 h244) else (rN .boolean (0 : Int32) (fun v => v) h244))) else (f_L_law_B1707 (f_L_law_L23 n) x0 x1 x2 x3 x4 h244))) else (rN .boolean (0 : Int32) (fun v => v) h244))))) else (if (v10 &&& (63 : Int32)) = (32 : Int32) then (aS h x0 (x4 + (1 : Int32)) fun v247 => cl_ (f_X0_margin x1 v247 x3 h) fun v249 h248 => aS h248 x0 (x4 + (1 : Int32)) fun v250 => rv_ h248 x2 6 (cl_ (f_X7_margin x2 v250 h248) fun v252 h251 => rv_ h251 x2 6 (cl_ (f_X7_thrown x2 h251) fun v254 h253 => (if v254 = v249 then ((if v249 = 0 then (aL h253 x3 2 (0 : Int32) fun v255 => (if (lg_cmp v255 (v252.toInt64)) = 0 then (f_L_law_B1763 (f_L_law_L23 n) x0 x1 x2 x3 x4 h253) else (rN .boolean (0 : Int32) (fun v => v) h253))) else (f_L_law_B1763 (f_L_law_L23 n) x0 x1 x2 x3 x4 h253))) else (rN .boolean (0 : Int32) (fun v => v) h253))))) else (if (v10 &&& (63 : Int32)) = (33 : Int32) then (aS h x0 (x4 + (1 : Int32)) fun v256 => cl_ (f_X0_timerTime x1 v256 x3 h) fun v258 h257 => aS h257 x0 (x4 + (1 : Int32)) fun v259 => rv_ h257 x2 6 (cl_ (f_X7_timerTime x2 v259 h257) fun v261 h260 => rv_ h260 x2 6 (cl_ (f_X7_thrown x2 h260) fun v263 h262 => (if v263 = v258 then ((if v258 = 0 then (aL h262 x3 2 (0 : Int32) fun v264 => (if (lg_cmp v264 (v261.toInt64)) = 0 then (f_L_law_B1819 (f_L_law_L23 n) x0 x1 x2 x3 x4 h262) else (rN .boolean (0 : Int32) (fun v => v) h262))) else (f_L_law_B1819 (f_L_law_L23 n) x0 x1 x2 x3 x4 h262))) else (rN .boolean (0 : Int32) (fun v => v) h262))))) else (if (v10 &&& (63 : Int32)) = (34 : Int32) then (aS h x0 (x4 + (1 : Int32)) fun v265 => cl_ (f_X0_nodeState x1 v265 x3 h) fun v267 h266 => aS h266 x0 (x4 + (1 : Int32)) fun v268 => rv_ h266 x2 6 (cl_ (f_X7_nodeState x2 v268 h266) fun v270 h269 => rv_ h269 x2 6 (cl_ (f_X7_thrown x2 h269) fun v272 h271 => (if v272 = v267 then ((if v267 = 0 then (aL h271 x3 2 (0 : Int32) fun v273 => (if (lg_cmp v273 (v270.toInt64)) = 0 then (f_L_law_B1875 (f_L_law_L23 n) x0 x1 x2 x3 x4 h271) else (rN .boolean (0 : Int32) (fun v => v) h271))) else (f_L_law_B1875 (f_L_law_L23 n) x0 x1 x2 x3 x4 h271))) else (rN .boolean (0 : Int32) (fun v => v) h271))))) else (if (v10 &&& (63 : Int32)) = (35 : Int32) then (aS h x0 (x4 + (1 : Int32)) fun v274 => cl_ (f_X0_cached x1 v274 x3 h) fun v276 h275 => aS h275 x0 (x4 + (1 : Int32)) fun v277 => rv_ h275 x2 6 (cl_ (f_X7_cached x2 v277 h275) fun v279 h278 => rv_ h278 x2 6 (cl_ (f_X7_thrown x2 h278) fun v281 h280 => (if v281 = v276 then ((if v276 = 0 then (aL h280 x3 2 (0 : Int32) fun v282 => (if (lg_cmp v282 (v279.toInt64)) = 0 then (f_L_law_B1931 (f_L_law_L23 n) x0 x1 x2 x3 x4 h280) else (rN .boolean (0 : Int32) (fun v => v) h280))) else (f_L_law_B1931 (f_L_law_L23 n) x0 x1 x2 x3 x4 h280))) else (rN .boolean (0 : Int32) (fun v => v) h280))))) else (if (v10 &&& (63 : Int32)) = (36 : Int32) then (rv_ h x1 0 (cl_ (f_X1_messagesOnWay x1 h) fun v284 h283 => rv_ h283 x2 6 (cl_ (f_X7_messagesOnWay x2 h283) fun v286 h285 => (if v284 = v286 then (f_L_law_B3144 (f_L_law_L23 n) x0 x1 x2 x3 x4 h285) else (rN .boolean (0 : Int32) (fun v => v) h285))))) else (if (v10 &&& (63 : Int32)) = (37 : Int32) then (rv_ h x1 0 (cl_ (f_X1_delayedWrites x1 h) fun v288 h287 => rv_ h287 x2 6 (cl_ (f_X7_delayedWrites x2 h287) fun v290 h289 => (if v288 = v290 then (f_L_law_B3144 (f_L_law_L23 n) x0 x1 x2 x3 x4 h289) else (rN .boolean (0 : Int32) (fun v => v) h289))))) else (if (v10 &&& (63 : Int32)) = (38 : Int32) then (rv_ h x1 0 (cl_ (f_X1_messagesLost x1 h) fun v292 h291 => rv_ h291 x2 6 (cl_ (f_X7_messagesLost x2 h291) fun v294 h293 => (if v292 = v294 then (f_L_law_B3144 (f_L_law_L23 n) x0 x1 x2 x3 x4 h293) else (rN .boolean (0 : Int32) (fun v => v) h293))))) else (if (v10 &&& (63 : Int32)) = (39 : Int32) then (rv_ h x1 0 (cl_ (f_X1_logSize x1 h) fun v296 h295 => rv_ h295 x2 6 (cl_ (f_X7_logSize x2 h295) fun v298 h297 => (if v296 = v298 then (f_L_law_B3144 (f_L_law_L23 n) x0 x1 x2 x3 x4 h297) else (rN .boolean (0 : Int32) (fun v => v) h297))))) else (if (v10 &&& (63 : Int32)) = (40 : Int32) then (aS h x0 (x4 + (1 : Int32)) fun v299 => cl_ (f_X0_logTime x1 v299 x3 h) fun v301 h300 => aS h300 x0 (x4 + (1 : Int32)) fun v302 => rv_ h300 x2 6 (cl_ (f_X7_logTime x2 v302 h300) fun v304 h303 => rv_ h303 x2 6 (cl_ (f_X7_thrown x2 h303) fun v306 h305 => (if v306 = v301 then ((if v301 = 0 then (aL h305 x3 2 (0 : Int32) fun v307 => (if (lg_cmp v307 (v304.toInt64)) = 0 then (f_L_law_B2039 (f_L_law_L23 n) x0 x1 x2 x3 x4 h305) else (rN .boolean (0 : Int32) (fun v => v) h305))) else (f_L_law_B2039 (f_L_law_L23 n) x0 x1 x2 x3 x4 h305))) else (rN .boolean (0 : Int32) (fun v => v) h305))))) else (if (v10 &&& (63 : Int32)) = (41 : Int32) then (aS h x0 (x4 + (1 : Int32)) fun v308 => cl_ (f_X0_logKind x1 v308 x3 h) fun v310 h309 => aS h309 x0 (x4 + (1 : Int32)) fun v311 => rv_ h309 x2 6 (cl_ (f_X7_logKind x2 v311 h309) fun v313 h312 => rv_ h312 x2 6 (cl_ (f_X7_thrown x2 h312) fun v315 h314 => (if v315 = v310 then ((if v310 = 0 then (aL h314 x3 2 (0 : Int32) fun v316 => (if (lg_cmp v316 (v313.toInt64)) = 0 then (f_L_law_B2095 (f_L_law_L23 n) x0 x1 x2 x3 x4 h314) else (rN .boolean (0 : Int32) (fun v => v) h314))) else (f_L_law_B2095 (f_L_law_L23 n) x0 x1 x2 x3 x4 h314))) else (rN .boolean (0 : Int32) (fun v => v) h314))))) else (if (v10 &&& (63 : Int32)) = (42 : Int32) then (aS h x0 (x4 + (1 : Int32)) fun v317 => cl_ (f_X0_logNode x1 v317 x3 h) fun v319 h318 => aS h318 x0 (x4 + (1 : Int32)) fun v320 => rv_ h318 x2 6 (cl_ (f_X7_logNode x2 v320 h318) fun v322 h321 => rv_ h321 x2 6 (cl_ (f_X7_thrown x2 h321) fun v324 h323 => (if v324 = v319 then ((if v319 = 0 then (aL h323 x3 2 (0 : Int32) fun v325 => (if (lg_cmp v325 (v322.toInt64)) = 0 then (f_L_law_B2151 (f_L_law_L23 n) x0 x1 x2 x3 x4 h323) else (rN .boolean (0 : Int32) (fun v => v) h323))) else (f_L_law_B2151 (f_L_law_L23 n) x0 x1 x2 x3 x4 h323))) else (rN .boolean (0 : Int32) (fun v => v) h323))))) else (if (v10 &&& (63 : Int32)) = (43 : Int32) then (aS h x0 (x4 + (1 : Int32)) fun v326 => cl_ (f_X0_logToken x1 v326 x3 h) fun v328 h327 => aS h327 x0 (x4 + (1 : Int32)) fun v329 => rv_ h327 x2 6 (cl_ (f_X7_logToken x2 v329 h327) fun v331 h330 => rv_ h330 x2 6 (cl_ (f_X7_thrown x2 h330) fun v333 h332 => (if v333 = v328 then ((if v328 = 0 then (aL h332 x3 2 (0 : Int32) fun v334 => (if (lg_cmp v334 (v331.toInt64)) = 0 then (f_L_law_B2207 (f_L_law_L23 n) x0 x1 x2 x3 x4 h332) else (rN .boolean (0 : Int32) (fun v => v) h332))) else (f_L_law_B2207 (f_L_law_L23 n) x0 x1 x2 x3 x4 h332))) else (rN .boolean (0 : Int32) (fun v => v) h332))))) else (if (v10 &&& (63 : Int32)) = (44 : Int32) then (aS h x0 (x4 + (1 : Int32)) fun v335 => cl_ (f_X0_eventCount x1 v335 x3 h) fun v337 h336 => aS h336 x0 (x4 + (1 : Int32)) fun v338 => rv_ h336 x2 6 (cl_ (f_X7_eventCount x2 v338 h336) fun v340 h339 => rv_ h339 x2 6 (cl_ (f_X7_thrown x2 h339) fun v342 h341 => (if v342 = v337 then ((if v337 = 0 then (aL h341 x3 2 (0 : Int32) fun v343 => (if (lg_cmp v343 (v340.toInt64)) = 0 then (f_L_law_B2263 (f_L_law_L23 n) x0 x1 x2 x3 x4 h341) else (rN .boolean (0 : Int32) (fun v => v) h341))) else (f_L_law_B2263 (f_L_law_L23 n) x0 x1 x2 x3 x4 h341))) else (rN .boolean (0 : Int32) (fun v => v) h341))))) else (if (v10 &&& (63 : Int32)) = (45 : Int32) then (rv_ h x1 0 (cl_ (f_X1_splitTime x1 h) fun v345 h344 => rv_ h344 x2 6 (cl_ (f_X7_splitTime x2 h344) fun v347 h346 => (if v345 = v347 then (f_L_law_B3144 (f_L_law_L23 n) x0 x1 x2 x3 x4 h346) else (rN .boolean (0 : Int32) (fun v => v) h346))))) else (if (v10 &&& (63 : Int32)) = (46 : Int32) then (rv_ h x1 0 (cl_ (f_X1_reads x1 h) fun v349 h348 => rv_ h348 x2 6 (cl_ (f_X7_reads x2 h348) fun v351 h350 => (if v349 = v351 then (f_L_law_B3144 (f_L_law_L23 n) x0 x1 x2 x3 x4 h350) else (rN .boolean (0 : Int32) (fun v => v) h350))))) else (if (v10 &&& (63 : Int32)) = (47 : Int32) then (rv_ h x1 0 (cl_ (f_X1_staleReads x1 h) fun v353 h352 => rv_ h352 x2 6 (cl_ (f_X7_staleReads x2 h352) fun v355 h354 => (if v353 = v355 then (f_L_law_B3144 (f_L_law_L23 n) x0 x1 x2 x3 x4 h354) else (rN .boolean (0 : Int32) (fun v => v) h354))))) else (if (v10 &&& (63 : Int32)) = (48 : Int32) then (aS h x0 (x4 + (1 : Int32)) fun v356 => cl_ (f_X0_ledTime x1 v356 x3 h) fun v358 h357 => aS h357 x0 (x4 + (1 : Int32)) fun v359 => rv_ h357 x2 6 (cl_ (f_X7_ledTime x2 v359 h357) fun v361 h360 => rv_ h360 x2 6 (cl_ (f_X7_thrown x2 h360) fun v363 h362 => (if v363 = v358 then ((if v358 = 0 then (aL h362 x3 2 (0 : Int32) fun v364 => (if (lg_cmp v364 (v361.toInt64)) = 0 then (f_L_law_B2358 (f_L_law_L23 n) x0 x1 x2 x3 x4 h362) else (rN .boolean (0 : Int32) (fun v => v) h362))) else (f_L_law_B2358 (f_L_law_L23 n) x0 x1 x2 x3 x4 h362))) else (rN .boolean (0 : Int32) (fun v => v) h362))))) else (if (v10 &&& (63 : Int32)) = (49 : Int32) then (aS h x0 (x4 + (1 : Int32)) fun v365 => cl_ (f_X0_nextLeader x1 v365 x3 h) fun v367 h366 => aS h366 x0 (x4 + (1 : Int32)) fun v368 => rv_ h366 x2 6 (cl_ (f_X7_nextLeader x2 v368 h366) fun v370 h369 => rv_ h369 x2 6 (cl_ (f_X7_thrown x2 h369) fun v372 h371 => (if v372 = v367 then ((if v367 = 0 then (aL h371 x3 2 (0 : Int32) fun v373 => (if (lg_cmp v373 (v370.toInt64)) = 0 then (f_L_law_B2414 (f_L_law_L23 n) x0 x1 x2 x3 x4 h371) else (rN .boolean (0 : Int32) (fun v => v) h371))) else (f_L_law_B2414 (f_L_law_L23 n) x0 x1 x2 x3 x4 h371))) else (rN .boolean (0 : Int32) (fun v => v) h371))))) else (if (v10 &&& (63 : Int32)) = (50 : Int32) then (aS h x0 (x4 + (1 : Int32)) fun v374 => cl_ (f_X0_leaderlessTime x1 v374 x3 h) fun v376 h375 => aS h375 x0 (x4 + (1 : Int32)) fun v377 => rv_ h375 x2 6 (cl_ (f_X7_leaderlessTime x2 v377 h375) fun v379 h378 => rv_ h378 x2 6 (cl_ (f_X7_thrown x2 h378) fun v381 h380 => (if v381 = v376 then ((if v376 = 0 then (aL h380 x3 2 (0 : Int32) fun v382 => (if (lg_cmp v382 (v379.toInt64)) = 0 then (f_L_law_B2470 (f_L_law_L23 n) x0 x1 x2 x3 x4 h380) else (rN .boolean (0 : Int32) (fun v => v) h380))) else (f_L_law_B2470 (f_L_law_L23 n) x0 x1 x2 x3 x4 h380))) else (rN .boolean (0 : Int32) (fun v => v) h380))))) else (if (v10 &&& (63 : Int32)) = (51 : Int32) then (aS h x0 (x4 + (1 : Int32)) fun v383 => cl_ (f_X0_leaseLeft x1 v383 x3 h) fun v385 h384 => aS h384 x0 (x4 + (1 : Int32)) fun v386 => rv_ h384 x2 6 (cl_ (f_X7_leaseLeft x2 v386 h384) fun v388 h387 => rv_ h387 x2 6 (cl_ (f_X7_thrown x2 h387) fun v390 h389 => (if v390 = v385 then ((if v385 = 0 then (aL h389 x3 2 (0 : Int32) fun v391 => (if (lg_cmp v391 (v388.toInt64)) = 0 then (f_L_law_B2526 (f_L_law_L23 n) x0 x1 x2 x3 x4 h389) else (rN .boolean (0 : Int32) (fun v => v) h389))) else (f_L_law_B2526 (f_L_law_L23 n) x0 x1 x2 x3 x4 h389))) else (rN .boolean (0 : Int32) (fun v => v) h389))))) else (if (v10 &&& (63 : Int32)) = (52 : Int32) then (rv_ h x1 0 (cl_ (f_X1_smallestBound x1 h) fun v393 h392 => rv_ h392 x2 6 (cl_ (f_X7_smallestBound x2 h392) fun v395 h394 => (if v393 = v395 then (f_L_law_B3144 (f_L_law_L23 n) x0 x1 x2 x3 x4 h394) else (rN .boolean (0 : Int32) (fun v => v) h394))))) else (if (v10 &&& (63 : Int32)) = (53 : Int32) then (rv_ h x1 0 (cl_ (f_X1_overtakingPairs x1 h) fun v397 h396 => rv_ h396 x2 6 (cl_ (f_X7_overtakingPairs x2 h396) fun v399 h398 => (if v397 = v399 then (f_L_law_B3144 (f_L_law_L23 n) x0 x1 x2 x3 x4 h398) else (rN .boolean (0 : Int32) (fun v => v) h398))))) else (if (v10 &&& (63 : Int32)) = (54 : Int32) then (rv_ h x1 0 (cl_ (f_X1_staleCaches x1 h) fun v401 h400 => rv_ h400 x2 6 (cl_ (f_X7_staleCaches x2 h400) fun v403 h402 => (if v401 = v403 then (f_L_law_B3144 (f_L_law_L23 n) x0 x1 x2 x3 x4 h402) else (rN .boolean (0 : Int32) (fun v => v) h402))))) else (if (v10 &&& (63 : Int32)) = (55 : Int32) then (aS h x0 (x4 + (1 : Int32)) fun v404 => aS h x0 (x4 + (2 : Int32)) fun v405 => cl_ (f_X0_countInLog x1 v404 v405 x3 h) fun v407 h406 => aS h406 x0 (x4 + (1 : Int32)) fun v408 => aS h406 x0 (x4 + (2 : Int32)) fun v409 => rv_ h406 x2 6 (cl_ (f_X7_countInLog x2 v408 v409 h406) fun v411 h410 => rv_ h410 x2 6 (cl_ (f_X7_thrown x2 h410) fun v413 h412 => (if v413 = v407 then ((if v407 = 0 then (aL h412 x3 2 (0 : Int32) fun v414 => (if (lg_cmp v414 (v411.toInt64)) = 0 then (f_L_law_B2633 (f_L_law_L23 n) x0 x1 x2 x3 x4 h412) else (rN .boolean (0 : Int32) (fun v => v) h412))) else (f_L_law_B2633 (f_L_law_L23 n) x0 x1 x2 x3 x4 h412))) else (rN .boolean (0 : Int32) (fun v => v) h412))))) else (if (v10 &&& (63 : Int32)) = (56 : Int32) then (aS h x0 (x4 + (1 : Int32)) fun v415 => cl_ (f_X0_lastEventTime x1 v415 x3 h) fun v417 h416 => aS h416 x0 (x4 + (1 : Int32)) fun v418 => rv_ h416 x2 6 (cl_ (f_X7_lastEventTime x2 v418 h416) fun v420 h419 => rv_ h419 x2 6 (cl_ (f_X7_thrown x2 h419) fun v422 h421 => (if v422 = v417 then ((if v417 = 0 then (aL h421 x3 2 (0 : Int32) fun v423 => (if (lg_cmp v423 (v420.toInt64)) = 0 then (f_L_law_B2689 (f_L_law_L23 n) x0 x1 x2 x3 x4 h421) else (rN .boolean (0 : Int32) (fun v => v) h421))) else (f_L_law_B2689 (f_L_law_L23 n) x0 x1 x2 x3 x4 h421))) else (rN .boolean (0 : Int32) (fun v => v) h421))))) else (if (v10 &&& (63 : Int32)) = (57 : Int32) then (aS h x0 (x4 + (1 : Int32)) fun v424 => aS h x0 (x4 + (2 : Int32)) fun v425 => cl_ (f_X0_timeUntilLeader x1 v424 v425 x3 h) fun v427 h426 => aS h426 x0 (x4 + (1 : Int32)) fun v428 => aS h426 x0 (x4 + (2 : Int32)) fun v429 => rv_ h426 x2 6 (cl_ (f_X7_timeUntilLeader x2 v428 v429 h426) fun v431 h430 => rv_ h430 x2 6 (cl_ (f_X7_thrown x2 h430) fun v433 h432 => (if v433 = v427 then ((if v427 = 0 then (aL h432 x3 2 (0 : Int32) fun v434 => (if (lg_cmp v434 (v431.toInt64)) = 0 then (f_L_law_B2757 (f_L_law_L23 n) x0 x1 x2 x3 x4 h432) else (rN .boolean (0 : Int32) (fun v => v) h432))) else (f_L_law_B2757 (f_L_law_L23 n) x0 x1 x2 x3 x4 h432))) else (rN .boolean (0 : Int32) (fun v => v) h432))))) else (if (v10 &&& (63 : Int32)) = (58 : Int32) then (aS h x0 (x4 + (1 : Int32)) fun v435 => cl_ (f_X0_longestLeaderless x1 v435 x3 h) fun v437 h436 => aS h436 x0 (x4 + (1 : Int32)) fun v438 => rv_ h436 x2 6 (cl_ (f_X7_longestLeaderless x2 v438 h436) fun v440 h439 => rv_ h439 x2 6 (cl_ (f_X7_thrown x2 h439) fun v442 h441 => (if v442 = v437 then ((if v437 = 0 then (aL h441 x3 2 (0 : Int32) fun v443 => (if (lg_cmp v443 (v440.toInt64)) = 0 then (f_L_law_B2813 (f_L_law_L23 n) x0 x1 x2 x3 x4 h441) else (rN .boolean (0 : Int32) (fun v => v) h441))) else (f_L_law_B2813 (f_L_law_L23 n) x0 x1 x2 x3 x4 h441))) else (rN .boolean (0 : Int32) (fun v => v) h441))))) else (if (v10 &&& (63 : Int32)) = (59 : Int32) then (aS h x0 (x4 + (1 : Int32)) fun v444 => aS h x0 (x4 + (2 : Int32)) fun v445 => cl_ (f_X0_tryWrite x1 v444 v445 x3 h) fun v447 h446 => aS h446 x0 (x4 + (1 : Int32)) fun v448 => aS h446 x0 (x4 + (2 : Int32)) fun v449 => rv_ h446 x2 6 (cl_ (f_X7_tryWrite x2 v448 v449 h446) fun v451 h450 => rv_ h450 x2 6 (cl_ (f_X7_thrown x2 h450) fun v453 h452 => (if v453 = v447 then ((if v447 = 0 then (aL h452 x3 2 (0 : Int32) fun v454 => (if (lg_cmp v454 (v451.toInt64)) = 0 then (f_L_law_B2881 (f_L_law_L23 n) x0 x1 x2 x3 x4 h452) else (rN .boolean (0 : Int32) (fun v => v) h452))) else (f_L_law_B2881 (f_L_law_L23 n) x0 x1 x2 x3 x4 h452))) else (rN .boolean (0 : Int32) (fun v => v) h452))))) else (if (v10 &&& (63 : Int32)) = (60 : Int32) then (aS h x0 (x4 + (1 : Int32)) fun v455 => aS h x0 (x4 + (2 : Int32)) fun v456 => aS h x0 (x4 + (3 : Int32)) fun v457 => cl_ (f_X0_predictRead x1 v455 v456 v457 x3 h) fun v459 h458 => aS h458 x0 (x4 + (1 : Int32)) fun v460 => aS h458 x0 (x4 + (2 : Int32)) fun v461 => aS h458 x0 (x4 + (3 : Int32)) fun v462 => rv_ h458 x2 6 (cl_ (f_X7_predictRead x2 v460 v461 v462 h458) fun v464 h463 => rv_ h463 x2 6 (cl_ (f_X7_thrown x2 h463) fun v466 h465 => (if v466 = v459 then ((if v459 = 0 then (aL h465 x3 2 (0 : Int32) fun v467 => (if (lg_cmp v467 (v464.toInt64)) = 0 then (f_L_law_B2961 (f_L_law_L23 n) x0 x1 x2 x3 x4 h465) else (rN .boolean (0 : Int32) (fun v => v) h465))) else (f_L_law_B2961 (f_L_law_L23 n) x0 x1 x2 x3 x4 h465))) else (rN .boolean (0 : Int32) (fun v => v) h465))))) else (if (v10 &&& (63 : Int32)) = (61 : Int32) then (aS h x0 (x4 + (1 : Int32)) fun v468 => aS h x0 (x4 + (2 : Int32)) fun v469 => cl_ (f_X0_acquiresUntil x1 v468 v469 x3 h) fun v471 h470 => aS h470 x0 (x4 + (1 : Int32)) fun v472 => aS h470 x0 (x4 + (2 : Int32)) fun v473 => rv_ h470 x2 6 (cl_ (f_X7_acquiresUntil x2 v472 v473 h470) fun v475 h474 => rv_ h474 x2 6 (cl_ (f_X7_thrown x2 h474) fun v477 h476 => (if v477 = v471 then ((if v471 = 0 then (aL h476 x3 2 (0 : Int32) fun v478 => (if (lg_cmp v478 (v475.toInt64)) = 0 then (f_L_law_B3029 (f_L_law_L23 n) x0 x1 x2 x3 x4 h476) else (rN .boolean (0 : Int32) (fun v => v) h476))) else (f_L_law_B3029 (f_L_law_L23 n) x0 x1 x2 x3 x4 h476))) else (rN .boolean (0 : Int32) (fun v => v) h476))))) else (if (v10 &&& (63 : Int32)) = (62 : Int32) then (aS h x0 (x4 + (1 : Int32)) fun v479 => cl_ (f_X0_saveSnapshot x1 v479 x3 h) fun v481 h480 => aS h480 x0 (x4 + (1 : Int32)) fun v482 => rv_ h480 x2 6 (cl_ (f_X7_saveSnapshot x2 v482 h480) fun v484 h483 => rv_ h483 x2 6 (cl_ (f_X7_thrown x2 h483) fun v486 h485 => (if v486 = v481 then ((if v481 = 0 then (aL h485 x3 2 (0 : Int32) fun v487 => (if (lg_cmp v487 (v484.toInt64)) = 0 then (f_L_law_B3085 (f_L_law_L23 n) x0 x1 x2 x3 x4 h485) else (rN .boolean (0 : Int32) (fun v => v) h485))) else (f_L_law_B3085 (f_L_law_L23 n) x0 x1 x2 x3 x4 h485))) else (rN .boolean (0 : Int32) (fun v => v) h485))))) else (if (v10 &&& (63 : Int32)) = (63 : Int32) then (aS h x0 (x4 + (1 : Int32)) fun v488 => cl_ (f_X0_restoreSnapshot x1 v488 x3 h) fun v490 h489 => aS h489 x0 (x4 + (1 : Int32)) fun v491 => rv_ h489 x2 6 (cl_ (f_X7_restoreSnapshot x2 v491 h489) fun v493 h492 => rv_ h492 x2 6 (cl_ (f_X7_thrown x2 h492) fun v495 h494 => (if v495 = v490 then ((if v490 = 0 then (aL h494 x3 2 (0 : Int32) fun v496 => (if (lg_cmp v496 (v493.toInt64)) = 0 then (f_L_law_B3141 (f_L_law_L23 n) x0 x1 x2 x3 x4 h494) else (rN .boolean (0 : Int32) (fun v => v) h494))) else (f_L_law_B3141 (f_L_law_L23 n) x0 x1 x2 x3 x4 h494))) else (rN .boolean (0 : Int32) (fun v => v) h494))))) else f_L_law_B3144 (f_L_law_L23 n) x0 x1 x2 x3 x4 h))))))))))))))))))))))))))))))))))))))))))))))))))))))))))))))))))
theorem pf_L_law_L23 {Γ : GX} {D : va_G} {h0 : PH} {Q : State → Prop} {o : Int32 × PH} (hQ : QL Γ mi_L_law D h0 Q o) : ∀ (n : Nat) (x0 : Option Nat) (x1 : Option Nat) (x2 : Option Nat) (x3 : Option Nat) (x4 : Int32) (h : PH), f_L_law_L23 n x0 x1 x2 x3 x4 h = some o → PF Γ mi_L_law D h0 Q h 23 [some (va_rf x0), some (va_rf x1), some (va_rf x2), some (va_rf x3), some (.int x4), none, none] [] := by
  intro n
  induction n with
  | zero => intro x0 x1 x2 x3 x4 h hf; cases hf
  | succ n ih =>
    intro x0 x1 x2 x3 x4 h hf
    refine j_iload dL_law_23 rfl ?_
    refine j_aload_n 0 dL_law_25 rfl rfl ?_
    refine j_slen dL_law_26 hf (fun v9 hf => ?_)
    refine j_iconst (5 : Int32) dL_law_27 (by decide) ?_
    refine j_isub dL_law_28 ?_
    refine j_icmp_gt 3150 dL_law_29 (by decide) hf (fun c_ hf => ?_) (fun c_ hf => ?_)
    · refine j_iconst (1 : Int32) dL_law_3150 (by decide) ?_
      obtain ⟨hn9, hf⟩ := rN_in hf
      subst hf
      exact hQ _ _ _ dL_law_3151 rfl
    · refine j_aload_n 0 dL_law_32 rfl rfl ?_
      refine j_iload dL_law_33 rfl ?_
      refine j_sald dL_law_35 hf (fun v10 hf => ?_)
      refine j_bipush (63 : Int32) dL_law_36 (by decide) ?_
      refine j_iand dL_law_38 ?_
      refine j_case (0 : Int32) hf (fun hf => ?_) (fun c0 hf => ?_)
      · refine j_tableIn 308 dL_law_39 (by decide) (by decide) rfl (by decide) ?_
        refine j_aload_n 1 dL_law_308 rfl rfl ?_
        refine j_aload_n 0 dL_law_309 rfl rfl ?_
        refine j_iload dL_law_310 rfl ?_
        refine j_iconst (1 : Int32) dL_law_312 (by decide) ?_
        refine j_iadd dL_law_313 ?_
        refine j_sald dL_law_314 hf (fun v11 hf => ?_)
        refine j_aload_n 3 dL_law_315 rfl rfl ?_
        refine kc_X0_146 rfl rfl rfl (by decide) dL_law_316 hf (fun v13 h12 hf => ?_)
        refine j_istore [some (va_rf x0), some (va_rf x1), some (va_rf x2), some (va_rf x3), some (.int x4), some (.int v13), none] dL_law_319 (cz rfl) rfl rfl ?_
        refine j_aload_n 2 dL_law_321 rfl rfl ?_
        refine j_aload_n 0 dL_law_322 rfl rfl ?_
        refine j_iload dL_law_323 rfl ?_
        refine j_iconst (1 : Int32) dL_law_325 (by decide) ?_
        refine j_iadd dL_law_326 ?_
        refine j_sald dL_law_327 hf (fun v14 hf => ?_)
        refine kc_X0_151 rfl rfl rfl (by decide) dL_law_328 hf (fun v16 h15 hf => ?_)
        refine j_istore [some (va_rf x0), some (va_rf x1), some (va_rf x2), some (va_rf x3), some (.int x4), some (.int v13), some (.int v16)] dL_law_331 (cz rfl) rfl rfl ?_
        refine j_aload_n 2 dL_law_333 rfl rfl ?_
        refine kc_X0_152 rfl rfl rfl (by decide) dL_law_334 hf (fun v18 h17 hf => ?_)
        refine j_iload dL_law_337 rfl ?_
        refine j_icmp_eq 344 dL_law_339 (by decide) hf (fun c_ hf => ?_) (fun c_ hf => ?_)
        · refine j_iload dL_law_344 rfl ?_
          refine j_if_ne 361 dL_law_346 (by decide) hf (fun c_ hf => ?_) (fun c_ hf => ?_)
          · refine j_weak [some (va_rf x0), some (va_rf x1), some (va_rf x2), some (va_rf x3), some (.int x4), none, none] (Wk.k (Wk.k (Wk.k (Wk.k (Wk.k (Wk.s (Wk.s Wk.n))))))) ?_
            exact pf_L_law_B361 hQ (f_L_law_L23 n) ih x0 x1 x2 x3 x4 h17 hf
          · refine j_aload_n 3 dL_law_349 rfl rfl ?_
            refine j_iconst (0 : Int32) dL_law_350 (by decide) ?_
            refine j_lald dL_law_351 hf (fun v19 hf => ?_)
            refine j_iload dL_law_352 rfl ?_
            refine j_i2l dL_law_354 ?_
            refine j_lcmp dL_law_355 ?_
            refine j_if_eq 361 dL_law_356 (by decide) hf (fun c_ hf => ?_) (fun c_ hf => ?_)
            · refine j_weak [some (va_rf x0), some (va_rf x1), some (va_rf x2), some (va_rf x3), some (.int x4), none, none] (Wk.k (Wk.k (Wk.k (Wk.k (Wk.k (Wk.s (Wk.s Wk.n))))))) ?_
              exact pf_L_law_B361 hQ (f_L_law_L23 n) ih x0 x1 x2 x3 x4 h17 hf
            · refine j_iconst (0 : Int32) dL_law_359 (by decide) ?_
              obtain ⟨hn9, hf⟩ := rN_in hf
              subst hf
              exact hQ _ _ _ dL_law_360 rfl
        · refine j_iconst (0 : Int32) dL_law_342 (by decide) ?_
          obtain ⟨hn9, hf⟩ := rN_in hf
          subst hf
          exact hQ _ _ _ dL_law_343 rfl
      refine j_case (1 : Int32) hf (fun hf => ?_) (fun c1 hf => ?_)
      · refine j_tableIn 364 dL_law_39 (by decide) (by decide) rfl (by decide) ?_
        refine j_aload_n 1 dL_law_364 rfl rfl ?_
        refine kc_X0_156 rfl rfl rfl (by decide) dL_law_365 hf (fun v21 h20 hf => ?_)
        refine j_aload_n 2 dL_law_368 rfl rfl ?_
        refine kc_X0_159 rfl rfl rfl (by simp [va_rf_cat, cat_i, cat_l]) dL_law_369 hf (fun v23 h22 hf => ?_)
        refine j_icmp_eq 3144 dL_law_372 (by decide) hf (fun c_ hf => ?_) (fun c_ hf => ?_)
        · exact pf_L_law_B3144 hQ (f_L_law_L23 n) ih x0 x1 x2 x3 x4 h22 hf
        · refine j_iconst (0 : Int32) dL_law_375 (by decide) ?_
          obtain ⟨hn9, hf⟩ := rN_in hf
          subst hf
          exact hQ _ _ _ dL_law_376 rfl
      refine j_case (2 : Int32) hf (fun hf => ?_) (fun c2 hf => ?_)
      · refine j_tableIn 377 dL_law_39 (by decide) (by decide) rfl (by decide) ?_
        refine j_aload_n 1 dL_law_377 rfl rfl ?_
        refine kc_X0_160 rfl rfl rfl (by decide) dL_law_378 hf (fun v25 h24 hf => ?_)
        refine j_aload_n 2 dL_law_381 rfl rfl ?_
        refine kc_X0_163 rfl rfl rfl (by simp [va_rf_cat, cat_i, cat_l]) dL_law_382 hf (fun v27 h26 hf => ?_)
        refine j_icmp_eq 3144 dL_law_385 (by decide) hf (fun c_ hf => ?_) (fun c_ hf => ?_)
        · exact pf_L_law_B3144 hQ (f_L_law_L23 n) ih x0 x1 x2 x3 x4 h26 hf
        · refine j_iconst (0 : Int32) dL_law_388 (by decide) ?_
          obtain ⟨hn9, hf⟩ := rN_in hf
          subst hf
          exact hQ _ _ _ dL_law_389 rfl
      refine j_case (3 : Int32) hf (fun hf => ?_) (fun c3 hf => ?_)
      · refine j_tableIn 390 dL_law_39 (by decide) (by decide) rfl (by decide) ?_
        refine j_aload_n 1 dL_law_390 rfl rfl ?_
        refine j_aload_n 0 dL_law_391 rfl rfl ?_
        refine j_iload dL_law_392 rfl ?_
        refine j_iconst (1 : Int32) dL_law_394 (by decide) ?_
        refine j_iadd dL_law_395 ?_
        refine j_sald dL_law_396 hf (fun v28 hf => ?_)
        refine j_aload_n 3 dL_law_397 rfl rfl ?_
        refine kc_X0_164 rfl rfl rfl (by decide) dL_law_398 hf (fun v30 h29 hf => ?_)
        refine j_istore [some (va_rf x0), some (va_rf x1), some (va_rf x2), some (va_rf x3), some (.int x4), some (.int v30), none] dL_law_401 (cz rfl) rfl rfl ?_
        refine j_aload_n 2 dL_law_403 rfl rfl ?_
        refine j_aload_n 0 dL_law_404 rfl rfl ?_
        refine j_iload dL_law_405 rfl ?_
        refine j_iconst (1 : Int32) dL_law_407 (by decide) ?_
        refine j_iadd dL_law_408 ?_
        refine j_sald dL_law_409 hf (fun v31 hf => ?_)
        refine kc_X0_166 rfl rfl rfl (by decide) dL_law_410 hf (fun v33 h32 hf => ?_)
        refine j_istore [some (va_rf x0), some (va_rf x1), some (va_rf x2), some (va_rf x3), some (.int x4), some (.int v30), some (.int v33)] dL_law_413 (cz rfl) rfl rfl ?_
        refine j_aload_n 2 dL_law_415 rfl rfl ?_
        refine kc_X0_152 rfl rfl rfl (by decide) dL_law_416 hf (fun v35 h34 hf => ?_)
        refine j_iload dL_law_419 rfl ?_
        refine j_icmp_eq 426 dL_law_421 (by decide) hf (fun c_ hf => ?_) (fun c_ hf => ?_)
        · refine j_iload dL_law_426 rfl ?_
          refine j_if_ne 443 dL_law_428 (by decide) hf (fun c_ hf => ?_) (fun c_ hf => ?_)
          · refine j_weak [some (va_rf x0), some (va_rf x1), some (va_rf x2), some (va_rf x3), some (.int x4), none, none] (Wk.k (Wk.k (Wk.k (Wk.k (Wk.k (Wk.s (Wk.s Wk.n))))))) ?_
            exact pf_L_law_B443 hQ (f_L_law_L23 n) ih x0 x1 x2 x3 x4 h34 hf
          · refine j_aload_n 3 dL_law_431 rfl rfl ?_
            refine j_iconst (0 : Int32) dL_law_432 (by decide) ?_
            refine j_lald dL_law_433 hf (fun v36 hf => ?_)
            refine j_iload dL_law_434 rfl ?_
            refine j_i2l dL_law_436 ?_
            refine j_lcmp dL_law_437 ?_
            refine j_if_eq 443 dL_law_438 (by decide) hf (fun c_ hf => ?_) (fun c_ hf => ?_)
            · refine j_weak [some (va_rf x0), some (va_rf x1), some (va_rf x2), some (va_rf x3), some (.int x4), none, none] (Wk.k (Wk.k (Wk.k (Wk.k (Wk.k (Wk.s (Wk.s Wk.n))))))) ?_
              exact pf_L_law_B443 hQ (f_L_law_L23 n) ih x0 x1 x2 x3 x4 h34 hf
            · refine j_iconst (0 : Int32) dL_law_441 (by decide) ?_
              obtain ⟨hn9, hf⟩ := rN_in hf
              subst hf
              exact hQ _ _ _ dL_law_442 rfl
        · refine j_iconst (0 : Int32) dL_law_424 (by decide) ?_
          obtain ⟨hn9, hf⟩ := rN_in hf
          subst hf
          exact hQ _ _ _ dL_law_425 rfl
      refine j_case (4 : Int32) hf (fun hf => ?_) (fun c4 hf => ?_)
      · refine j_tableIn 446 dL_law_39 (by decide) (by decide) rfl (by decide) ?_
        refine j_aload_n 1 dL_law_446 rfl rfl ?_
        refine kc_X0_167 rfl rfl rfl (by decide) dL_law_447 hf (fun v38 h37 hf => ?_)
        refine j_aload_n 2 dL_law_450 rfl rfl ?_
        refine kc_X0_170 rfl rfl rfl (by simp [va_rf_cat, cat_i, cat_l]) dL_law_451 hf (fun v40 h39 hf => ?_)
        refine j_icmp_eq 3144 dL_law_454 (by decide) hf (fun c_ hf => ?_) (fun c_ hf => ?_)
        · exact pf_L_law_B3144 hQ (f_L_law_L23 n) ih x0 x1 x2 x3 x4 h39 hf
        · refine j_iconst (0 : Int32) dL_law_457 (by decide) ?_
          obtain ⟨hn9, hf⟩ := rN_in hf
          subst hf
          exact hQ _ _ _ dL_law_458 rfl
      refine j_case (5 : Int32) hf (fun hf => ?_) (fun c5 hf => ?_)
      · refine j_tableIn 459 dL_law_39 (by decide) (by decide) rfl (by decide) ?_
        refine j_aload_n 1 dL_law_459 rfl rfl ?_
        refine kc_X0_171 rfl rfl rfl (by decide) dL_law_460 hf (fun v42 h41 hf => ?_)
        refine j_aload_n 2 dL_law_463 rfl rfl ?_
        refine kc_X0_174 rfl rfl rfl (by simp [va_rf_cat, cat_i, cat_l]) dL_law_464 hf (fun v44 h43 hf => ?_)
        refine j_icmp_eq 3144 dL_law_467 (by decide) hf (fun c_ hf => ?_) (fun c_ hf => ?_)
        · exact pf_L_law_B3144 hQ (f_L_law_L23 n) ih x0 x1 x2 x3 x4 h43 hf
        · refine j_iconst (0 : Int32) dL_law_470 (by decide) ?_
          obtain ⟨hn9, hf⟩ := rN_in hf
          subst hf
          exact hQ _ _ _ dL_law_471 rfl
      refine j_case (6 : Int32) hf (fun hf => ?_) (fun c6 hf => ?_)
      · refine j_tableIn 472 dL_law_39 (by decide) (by decide) rfl (by decide) ?_
        refine j_aload_n 1 dL_law_472 rfl rfl ?_
        refine kc_X0_175 rfl rfl rfl (by decide) dL_law_473 hf (fun v46 h45 hf => ?_)
        refine j_aload_n 2 dL_law_476 rfl rfl ?_
        refine kc_X0_178 rfl rfl rfl (by simp [va_rf_cat, cat_i, cat_l]) dL_law_477 hf (fun v48 h47 hf => ?_)
        refine j_icmp_eq 3144 dL_law_480 (by decide) hf (fun c_ hf => ?_) (fun c_ hf => ?_)
        · exact pf_L_law_B3144 hQ (f_L_law_L23 n) ih x0 x1 x2 x3 x4 h47 hf
        · refine j_iconst (0 : Int32) dL_law_483 (by decide) ?_
          obtain ⟨hn9, hf⟩ := rN_in hf
          subst hf
          exact hQ _ _ _ dL_law_484 rfl
      refine j_case (7 : Int32) hf (fun hf => ?_) (fun c7 hf => ?_)
      · refine j_tableIn 485 dL_law_39 (by decide) (by decide) rfl (by decide) ?_
        refine j_aload_n 1 dL_law_485 rfl rfl ?_
        refine j_aload_n 0 dL_law_486 rfl rfl ?_
        refine j_iload dL_law_487 rfl ?_
        refine j_iconst (1 : Int32) dL_law_489 (by decide) ?_
        refine j_iadd dL_law_490 ?_
        refine j_sald dL_law_491 hf (fun v49 hf => ?_)
        refine j_aload_n 3 dL_law_492 rfl rfl ?_
        refine kc_X0_179 rfl rfl rfl (by decide) dL_law_493 hf (fun v51 h50 hf => ?_)
        refine j_istore [some (va_rf x0), some (va_rf x1), some (va_rf x2), some (va_rf x3), some (.int x4), some (.int v51), none] dL_law_496 (cz rfl) rfl rfl ?_
        refine j_aload_n 2 dL_law_498 rfl rfl ?_
        refine j_aload_n 0 dL_law_499 rfl rfl ?_
        refine j_iload dL_law_500 rfl ?_
        refine j_iconst (1 : Int32) dL_law_502 (by decide) ?_
        refine j_iadd dL_law_503 ?_
        refine j_sald dL_law_504 hf (fun v52 hf => ?_)
        refine kc_X0_181 rfl rfl rfl (by decide) dL_law_505 hf (fun v54 h53 hf => ?_)
        refine j_istore [some (va_rf x0), some (va_rf x1), some (va_rf x2), some (va_rf x3), some (.int x4), some (.int v51), some (.int v54)] dL_law_508 (cz rfl) rfl rfl ?_
        refine j_aload_n 2 dL_law_510 rfl rfl ?_
        refine kc_X0_152 rfl rfl rfl (by decide) dL_law_511 hf (fun v56 h55 hf => ?_)
        refine j_iload dL_law_514 rfl ?_
        refine j_icmp_eq 521 dL_law_516 (by decide) hf (fun c_ hf => ?_) (fun c_ hf => ?_)
        · refine j_iload dL_law_521 rfl ?_
          refine j_if_ne 538 dL_law_523 (by decide) hf (fun c_ hf => ?_) (fun c_ hf => ?_)
          · refine j_weak [some (va_rf x0), some (va_rf x1), some (va_rf x2), some (va_rf x3), some (.int x4), none, none] (Wk.k (Wk.k (Wk.k (Wk.k (Wk.k (Wk.s (Wk.s Wk.n))))))) ?_
            exact pf_L_law_B538 hQ (f_L_law_L23 n) ih x0 x1 x2 x3 x4 h55 hf
          · refine j_aload_n 3 dL_law_526 rfl rfl ?_
            refine j_iconst (0 : Int32) dL_law_527 (by decide) ?_
            refine j_lald dL_law_528 hf (fun v57 hf => ?_)
            refine j_iload dL_law_529 rfl ?_
            refine j_i2l dL_law_531 ?_
            refine j_lcmp dL_law_532 ?_
            refine j_if_eq 538 dL_law_533 (by decide) hf (fun c_ hf => ?_) (fun c_ hf => ?_)
            · refine j_weak [some (va_rf x0), some (va_rf x1), some (va_rf x2), some (va_rf x3), some (.int x4), none, none] (Wk.k (Wk.k (Wk.k (Wk.k (Wk.k (Wk.s (Wk.s Wk.n))))))) ?_
              exact pf_L_law_B538 hQ (f_L_law_L23 n) ih x0 x1 x2 x3 x4 h55 hf
            · refine j_iconst (0 : Int32) dL_law_536 (by decide) ?_
              obtain ⟨hn9, hf⟩ := rN_in hf
              subst hf
              exact hQ _ _ _ dL_law_537 rfl
        · refine j_iconst (0 : Int32) dL_law_519 (by decide) ?_
          obtain ⟨hn9, hf⟩ := rN_in hf
          subst hf
          exact hQ _ _ _ dL_law_520 rfl
      refine j_case (8 : Int32) hf (fun hf => ?_) (fun c8 hf => ?_)
      · refine j_tableIn 541 dL_law_39 (by decide) (by decide) rfl (by decide) ?_
        refine j_aload_n 1 dL_law_541 rfl rfl ?_
        refine kc_X0_182 rfl rfl rfl (by decide) dL_law_542 hf (fun v59 h58 hf => ?_)
        refine j_aload_n 2 dL_law_545 rfl rfl ?_
        refine kc_X0_185 rfl rfl rfl (by simp [va_rf_cat, cat_i, cat_l]) dL_law_546 hf (fun v61 h60 hf => ?_)
        refine j_icmp_eq 3144 dL_law_549 (by decide) hf (fun c_ hf => ?_) (fun c_ hf => ?_)
        · exact pf_L_law_B3144 hQ (f_L_law_L23 n) ih x0 x1 x2 x3 x4 h60 hf
        · refine j_iconst (0 : Int32) dL_law_552 (by decide) ?_
          obtain ⟨hn9, hf⟩ := rN_in hf
          subst hf
          exact hQ _ _ _ dL_law_553 rfl
      refine j_case (9 : Int32) hf (fun hf => ?_) (fun c9 hf => ?_)
      · refine j_tableIn 554 dL_law_39 (by decide) (by decide) rfl (by decide) ?_
        refine j_aload_n 1 dL_law_554 rfl rfl ?_
        refine j_aload_n 0 dL_law_555 rfl rfl ?_
        refine j_iload dL_law_556 rfl ?_
        refine j_iconst (1 : Int32) dL_law_558 (by decide) ?_
        refine j_iadd dL_law_559 ?_
        refine j_sald dL_law_560 hf (fun v62 hf => ?_)
        refine j_aload_n 3 dL_law_561 rfl rfl ?_
        refine kc_X0_186 rfl rfl rfl (by decide) dL_law_562 hf (fun v64 h63 hf => ?_)
        refine j_istore [some (va_rf x0), some (va_rf x1), some (va_rf x2), some (va_rf x3), some (.int x4), some (.int v64), none] dL_law_565 (cz rfl) rfl rfl ?_
        refine j_aload_n 2 dL_law_567 rfl rfl ?_
        refine j_aload_n 0 dL_law_568 rfl rfl ?_
        refine j_iload dL_law_569 rfl ?_
        refine j_iconst (1 : Int32) dL_law_571 (by decide) ?_
        refine j_iadd dL_law_572 ?_
        refine j_sald dL_law_573 hf (fun v65 hf => ?_)
        refine kc_X0_188 rfl rfl rfl (by decide) dL_law_574 hf (fun v67 h66 hf => ?_)
        refine j_istore [some (va_rf x0), some (va_rf x1), some (va_rf x2), some (va_rf x3), some (.int x4), some (.int v64), some (.int v67)] dL_law_577 (cz rfl) rfl rfl ?_
        refine j_aload_n 2 dL_law_579 rfl rfl ?_
        refine kc_X0_152 rfl rfl rfl (by decide) dL_law_580 hf (fun v69 h68 hf => ?_)
        refine j_iload dL_law_583 rfl ?_
        refine j_icmp_eq 590 dL_law_585 (by decide) hf (fun c_ hf => ?_) (fun c_ hf => ?_)
        · refine j_iload dL_law_590 rfl ?_
          refine j_if_ne 607 dL_law_592 (by decide) hf (fun c_ hf => ?_) (fun c_ hf => ?_)
          · refine j_weak [some (va_rf x0), some (va_rf x1), some (va_rf x2), some (va_rf x3), some (.int x4), none, none] (Wk.k (Wk.k (Wk.k (Wk.k (Wk.k (Wk.s (Wk.s Wk.n))))))) ?_
            exact pf_L_law_B607 hQ (f_L_law_L23 n) ih x0 x1 x2 x3 x4 h68 hf
          · refine j_aload_n 3 dL_law_595 rfl rfl ?_
            refine j_iconst (0 : Int32) dL_law_596 (by decide) ?_
            refine j_lald dL_law_597 hf (fun v70 hf => ?_)
            refine j_iload dL_law_598 rfl ?_
            refine j_i2l dL_law_600 ?_
            refine j_lcmp dL_law_601 ?_
            refine j_if_eq 607 dL_law_602 (by decide) hf (fun c_ hf => ?_) (fun c_ hf => ?_)
            · refine j_weak [some (va_rf x0), some (va_rf x1), some (va_rf x2), some (va_rf x3), some (.int x4), none, none] (Wk.k (Wk.k (Wk.k (Wk.k (Wk.k (Wk.s (Wk.s Wk.n))))))) ?_
              exact pf_L_law_B607 hQ (f_L_law_L23 n) ih x0 x1 x2 x3 x4 h68 hf
            · refine j_iconst (0 : Int32) dL_law_605 (by decide) ?_
              obtain ⟨hn9, hf⟩ := rN_in hf
              subst hf
              exact hQ _ _ _ dL_law_606 rfl
        · refine j_iconst (0 : Int32) dL_law_588 (by decide) ?_
          obtain ⟨hn9, hf⟩ := rN_in hf
          subst hf
          exact hQ _ _ _ dL_law_589 rfl
      refine j_case (10 : Int32) hf (fun hf => ?_) (fun c10 hf => ?_)
      · refine j_tableIn 610 dL_law_39 (by decide) (by decide) rfl (by decide) ?_
        refine j_aload_n 1 dL_law_610 rfl rfl ?_
        refine j_aload_n 0 dL_law_611 rfl rfl ?_
        refine j_iload dL_law_612 rfl ?_
        refine j_iconst (1 : Int32) dL_law_614 (by decide) ?_
        refine j_iadd dL_law_615 ?_
        refine j_sald dL_law_616 hf (fun v71 hf => ?_)
        refine j_aload_n 3 dL_law_617 rfl rfl ?_
        refine kc_X0_189 rfl rfl rfl (by decide) dL_law_618 hf (fun v73 h72 hf => ?_)
        refine j_istore [some (va_rf x0), some (va_rf x1), some (va_rf x2), some (va_rf x3), some (.int x4), some (.int v73), none] dL_law_621 (cz rfl) rfl rfl ?_
        refine j_aload_n 2 dL_law_623 rfl rfl ?_
        refine j_aload_n 0 dL_law_624 rfl rfl ?_
        refine j_iload dL_law_625 rfl ?_
        refine j_iconst (1 : Int32) dL_law_627 (by decide) ?_
        refine j_iadd dL_law_628 ?_
        refine j_sald dL_law_629 hf (fun v74 hf => ?_)
        refine kc_X0_191 rfl rfl rfl (by decide) dL_law_630 hf (fun v76 h75 hf => ?_)
        refine j_istore [some (va_rf x0), some (va_rf x1), some (va_rf x2), some (va_rf x3), some (.int x4), some (.int v73), some (.int v76)] dL_law_633 (cz rfl) rfl rfl ?_
        refine j_aload_n 2 dL_law_635 rfl rfl ?_
        refine kc_X0_152 rfl rfl rfl (by decide) dL_law_636 hf (fun v78 h77 hf => ?_)
        refine j_iload dL_law_639 rfl ?_
        refine j_icmp_eq 646 dL_law_641 (by decide) hf (fun c_ hf => ?_) (fun c_ hf => ?_)
        · refine j_iload dL_law_646 rfl ?_
          refine j_if_ne 663 dL_law_648 (by decide) hf (fun c_ hf => ?_) (fun c_ hf => ?_)
          · refine j_weak [some (va_rf x0), some (va_rf x1), some (va_rf x2), some (va_rf x3), some (.int x4), none, none] (Wk.k (Wk.k (Wk.k (Wk.k (Wk.k (Wk.s (Wk.s Wk.n))))))) ?_
            exact pf_L_law_B663 hQ (f_L_law_L23 n) ih x0 x1 x2 x3 x4 h77 hf
          · refine j_aload_n 3 dL_law_651 rfl rfl ?_
            refine j_iconst (0 : Int32) dL_law_652 (by decide) ?_
            refine j_lald dL_law_653 hf (fun v79 hf => ?_)
            refine j_iload dL_law_654 rfl ?_
            refine j_i2l dL_law_656 ?_
            refine j_lcmp dL_law_657 ?_
            refine j_if_eq 663 dL_law_658 (by decide) hf (fun c_ hf => ?_) (fun c_ hf => ?_)
            · refine j_weak [some (va_rf x0), some (va_rf x1), some (va_rf x2), some (va_rf x3), some (.int x4), none, none] (Wk.k (Wk.k (Wk.k (Wk.k (Wk.k (Wk.s (Wk.s Wk.n))))))) ?_
              exact pf_L_law_B663 hQ (f_L_law_L23 n) ih x0 x1 x2 x3 x4 h77 hf
            · refine j_iconst (0 : Int32) dL_law_661 (by decide) ?_
              obtain ⟨hn9, hf⟩ := rN_in hf
              subst hf
              exact hQ _ _ _ dL_law_662 rfl
        · refine j_iconst (0 : Int32) dL_law_644 (by decide) ?_
          obtain ⟨hn9, hf⟩ := rN_in hf
          subst hf
          exact hQ _ _ _ dL_law_645 rfl
      refine j_case (11 : Int32) hf (fun hf => ?_) (fun c11 hf => ?_)
      · refine j_tableIn 666 dL_law_39 (by decide) (by decide) rfl (by decide) ?_
        refine j_aload_n 1 dL_law_666 rfl rfl ?_
        refine j_aload_n 0 dL_law_667 rfl rfl ?_
        refine j_iload dL_law_668 rfl ?_
        refine j_iconst (1 : Int32) dL_law_670 (by decide) ?_
        refine j_iadd dL_law_671 ?_
        refine j_sald dL_law_672 hf (fun v80 hf => ?_)
        refine j_aload_n 3 dL_law_673 rfl rfl ?_
        refine kc_X0_192 rfl rfl rfl (by decide) dL_law_674 hf (fun v82 h81 hf => ?_)
        refine j_istore [some (va_rf x0), some (va_rf x1), some (va_rf x2), some (va_rf x3), some (.int x4), some (.int v82), none] dL_law_677 (cz rfl) rfl rfl ?_
        refine j_aload_n 2 dL_law_679 rfl rfl ?_
        refine j_aload_n 0 dL_law_680 rfl rfl ?_
        refine j_iload dL_law_681 rfl ?_
        refine j_iconst (1 : Int32) dL_law_683 (by decide) ?_
        refine j_iadd dL_law_684 ?_
        refine j_sald dL_law_685 hf (fun v83 hf => ?_)
        refine kc_X0_194 rfl rfl rfl (by decide) dL_law_686 hf (fun v85 h84 hf => ?_)
        refine j_istore [some (va_rf x0), some (va_rf x1), some (va_rf x2), some (va_rf x3), some (.int x4), some (.int v82), some (.int v85)] dL_law_689 (cz rfl) rfl rfl ?_
        refine j_aload_n 2 dL_law_691 rfl rfl ?_
        refine kc_X0_152 rfl rfl rfl (by decide) dL_law_692 hf (fun v87 h86 hf => ?_)
        refine j_iload dL_law_695 rfl ?_
        refine j_icmp_eq 702 dL_law_697 (by decide) hf (fun c_ hf => ?_) (fun c_ hf => ?_)
        · refine j_iload dL_law_702 rfl ?_
          refine j_if_ne 719 dL_law_704 (by decide) hf (fun c_ hf => ?_) (fun c_ hf => ?_)
          · refine j_weak [some (va_rf x0), some (va_rf x1), some (va_rf x2), some (va_rf x3), some (.int x4), none, none] (Wk.k (Wk.k (Wk.k (Wk.k (Wk.k (Wk.s (Wk.s Wk.n))))))) ?_
            exact pf_L_law_B719 hQ (f_L_law_L23 n) ih x0 x1 x2 x3 x4 h86 hf
          · refine j_aload_n 3 dL_law_707 rfl rfl ?_
            refine j_iconst (0 : Int32) dL_law_708 (by decide) ?_
            refine j_lald dL_law_709 hf (fun v88 hf => ?_)
            refine j_iload dL_law_710 rfl ?_
            refine j_i2l dL_law_712 ?_
            refine j_lcmp dL_law_713 ?_
            refine j_if_eq 719 dL_law_714 (by decide) hf (fun c_ hf => ?_) (fun c_ hf => ?_)
            · refine j_weak [some (va_rf x0), some (va_rf x1), some (va_rf x2), some (va_rf x3), some (.int x4), none, none] (Wk.k (Wk.k (Wk.k (Wk.k (Wk.k (Wk.s (Wk.s Wk.n))))))) ?_
              exact pf_L_law_B719 hQ (f_L_law_L23 n) ih x0 x1 x2 x3 x4 h86 hf
            · refine j_iconst (0 : Int32) dL_law_717 (by decide) ?_
              obtain ⟨hn9, hf⟩ := rN_in hf
              subst hf
              exact hQ _ _ _ dL_law_718 rfl
        · refine j_iconst (0 : Int32) dL_law_700 (by decide) ?_
          obtain ⟨hn9, hf⟩ := rN_in hf
          subst hf
          exact hQ _ _ _ dL_law_701 rfl
      refine j_case (12 : Int32) hf (fun hf => ?_) (fun c12 hf => ?_)
      · refine j_tableIn 722 dL_law_39 (by decide) (by decide) rfl (by decide) ?_
        refine j_aload_n 1 dL_law_722 rfl rfl ?_
        refine j_aload_n 0 dL_law_723 rfl rfl ?_
        refine j_iload dL_law_724 rfl ?_
        refine j_iconst (1 : Int32) dL_law_726 (by decide) ?_
        refine j_iadd dL_law_727 ?_
        refine j_sald dL_law_728 hf (fun v89 hf => ?_)
        refine j_aload_n 3 dL_law_729 rfl rfl ?_
        refine kc_X0_195 rfl rfl rfl (by decide) dL_law_730 hf (fun v91 h90 hf => ?_)
        refine j_istore [some (va_rf x0), some (va_rf x1), some (va_rf x2), some (va_rf x3), some (.int x4), some (.int v91), none] dL_law_733 (cz rfl) rfl rfl ?_
        refine j_aload_n 2 dL_law_735 rfl rfl ?_
        refine j_aload_n 0 dL_law_736 rfl rfl ?_
        refine j_iload dL_law_737 rfl ?_
        refine j_iconst (1 : Int32) dL_law_739 (by decide) ?_
        refine j_iadd dL_law_740 ?_
        refine j_sald dL_law_741 hf (fun v92 hf => ?_)
        refine kc_X0_197 rfl rfl rfl (by decide) dL_law_742 hf (fun v94 h93 hf => ?_)
        refine j_istore [some (va_rf x0), some (va_rf x1), some (va_rf x2), some (va_rf x3), some (.int x4), some (.int v91), some (.int v94)] dL_law_745 (cz rfl) rfl rfl ?_
        refine j_aload_n 2 dL_law_747 rfl rfl ?_
        refine kc_X0_152 rfl rfl rfl (by decide) dL_law_748 hf (fun v96 h95 hf => ?_)
        refine j_iload dL_law_751 rfl ?_
        refine j_icmp_eq 758 dL_law_753 (by decide) hf (fun c_ hf => ?_) (fun c_ hf => ?_)
        · refine j_iload dL_law_758 rfl ?_
          refine j_if_ne 782 dL_law_760 (by decide) hf (fun c_ hf => ?_) (fun c_ hf => ?_)
          · refine j_weak [some (va_rf x0), some (va_rf x1), some (va_rf x2), some (va_rf x3), some (.int x4), none, none] (Wk.k (Wk.k (Wk.k (Wk.k (Wk.k (Wk.s (Wk.s Wk.n))))))) ?_
            exact pf_L_law_B782 hQ (f_L_law_L23 n) ih x0 x1 x2 x3 x4 h95 hf
          · refine j_aload_n 3 dL_law_763 rfl rfl ?_
            refine j_iconst (0 : Int32) dL_law_764 (by decide) ?_
            refine j_lald dL_law_765 hf (fun v97 hf => ?_)
            refine j_iload dL_law_766 rfl ?_
            refine j_if_eq 775 dL_law_768 (by decide) hf (fun c_ hf => ?_) (fun c_ hf => ?_)
            · refine j_lconst (0 : Int64) dL_law_775 (by decide) ?_
              refine j_weak [some (va_rf x0), some (va_rf x1), some (va_rf x2), some (va_rf x3), some (.int x4), none, none] (Wk.k (Wk.k (Wk.k (Wk.k (Wk.k (Wk.s (Wk.s Wk.n))))))) ?_
              exact pf_L_law_B776 hQ (f_L_law_L23 n) ih x0 x1 x2 x3 x4 v97 (0 : Int64) h95 hf
            · refine j_lconst (1 : Int64) dL_law_771 (by decide) ?_
              refine j_goto 776 dL_law_772 (by decide) ?_
              refine j_weak [some (va_rf x0), some (va_rf x1), some (va_rf x2), some (va_rf x3), some (.int x4), none, none] (Wk.k (Wk.k (Wk.k (Wk.k (Wk.k (Wk.s (Wk.s Wk.n))))))) ?_
              exact pf_L_law_B776 hQ (f_L_law_L23 n) ih x0 x1 x2 x3 x4 v97 (1 : Int64) h95 hf
        · refine j_iconst (0 : Int32) dL_law_756 (by decide) ?_
          obtain ⟨hn9, hf⟩ := rN_in hf
          subst hf
          exact hQ _ _ _ dL_law_757 rfl
      refine j_case (13 : Int32) hf (fun hf => ?_) (fun c13 hf => ?_)
      · refine j_tableIn 785 dL_law_39 (by decide) (by decide) rfl (by decide) ?_
        refine j_aload_n 1 dL_law_785 rfl rfl ?_
        refine j_aload_n 0 dL_law_786 rfl rfl ?_
        refine j_iload dL_law_787 rfl ?_
        refine j_iconst (1 : Int32) dL_law_789 (by decide) ?_
        refine j_iadd dL_law_790 ?_
        refine j_sald dL_law_791 hf (fun v98 hf => ?_)
        refine j_aload_n 0 dL_law_792 rfl rfl ?_
        refine j_iload dL_law_793 rfl ?_
        refine j_iconst (2 : Int32) dL_law_795 (by decide) ?_
        refine j_iadd dL_law_796 ?_
        refine j_sald dL_law_797 hf (fun v99 hf => ?_)
        refine j_aload_n 3 dL_law_798 rfl rfl ?_
        refine kc_X0_198 rfl rfl rfl (by decide) dL_law_799 hf (fun v101 h100 hf => ?_)
        refine j_istore [some (va_rf x0), some (va_rf x1), some (va_rf x2), some (va_rf x3), some (.int x4), some (.int v101), none] dL_law_802 (cz rfl) rfl rfl ?_
        refine j_aload_n 2 dL_law_804 rfl rfl ?_
        refine j_aload_n 0 dL_law_805 rfl rfl ?_
        refine j_iload dL_law_806 rfl ?_
        refine j_iconst (1 : Int32) dL_law_808 (by decide) ?_
        refine j_iadd dL_law_809 ?_
        refine j_sald dL_law_810 hf (fun v102 hf => ?_)
        refine j_aload_n 0 dL_law_811 rfl rfl ?_
        refine j_iload dL_law_812 rfl ?_
        refine j_iconst (2 : Int32) dL_law_814 (by decide) ?_
        refine j_iadd dL_law_815 ?_
        refine j_sald dL_law_816 hf (fun v103 hf => ?_)
        refine kc_X0_201 rfl rfl rfl (by decide) dL_law_817 hf (fun v105 h104 hf => ?_)
        refine j_istore [some (va_rf x0), some (va_rf x1), some (va_rf x2), some (va_rf x3), some (.int x4), some (.int v101), some (.int v105)] dL_law_820 (cz rfl) rfl rfl ?_
        refine j_aload_n 2 dL_law_822 rfl rfl ?_
        refine kc_X0_152 rfl rfl rfl (by decide) dL_law_823 hf (fun v107 h106 hf => ?_)
        refine j_iload dL_law_826 rfl ?_
        refine j_icmp_eq 833 dL_law_828 (by decide) hf (fun c_ hf => ?_) (fun c_ hf => ?_)
        · refine j_iload dL_law_833 rfl ?_
          refine j_if_ne 850 dL_law_835 (by decide) hf (fun c_ hf => ?_) (fun c_ hf => ?_)
          · refine j_weak [some (va_rf x0), some (va_rf x1), some (va_rf x2), some (va_rf x3), some (.int x4), none, none] (Wk.k (Wk.k (Wk.k (Wk.k (Wk.k (Wk.s (Wk.s Wk.n))))))) ?_
            exact pf_L_law_B850 hQ (f_L_law_L23 n) ih x0 x1 x2 x3 x4 h106 hf
          · refine j_aload_n 3 dL_law_838 rfl rfl ?_
            refine j_iconst (0 : Int32) dL_law_839 (by decide) ?_
            refine j_lald dL_law_840 hf (fun v108 hf => ?_)
            refine j_iload dL_law_841 rfl ?_
            refine j_i2l dL_law_843 ?_
            refine j_lcmp dL_law_844 ?_
            refine j_if_eq 850 dL_law_845 (by decide) hf (fun c_ hf => ?_) (fun c_ hf => ?_)
            · refine j_weak [some (va_rf x0), some (va_rf x1), some (va_rf x2), some (va_rf x3), some (.int x4), none, none] (Wk.k (Wk.k (Wk.k (Wk.k (Wk.k (Wk.s (Wk.s Wk.n))))))) ?_
              exact pf_L_law_B850 hQ (f_L_law_L23 n) ih x0 x1 x2 x3 x4 h106 hf
            · refine j_iconst (0 : Int32) dL_law_848 (by decide) ?_
              obtain ⟨hn9, hf⟩ := rN_in hf
              subst hf
              exact hQ _ _ _ dL_law_849 rfl
        · refine j_iconst (0 : Int32) dL_law_831 (by decide) ?_
          obtain ⟨hn9, hf⟩ := rN_in hf
          subst hf
          exact hQ _ _ _ dL_law_832 rfl
      refine j_case (14 : Int32) hf (fun hf => ?_) (fun c14 hf => ?_)
      · refine j_tableIn 853 dL_law_39 (by decide) (by decide) rfl (by decide) ?_
        refine j_aload_n 1 dL_law_853 rfl rfl ?_
        refine j_aload_n 0 dL_law_854 rfl rfl ?_
        refine j_iload dL_law_855 rfl ?_
        refine j_iconst (1 : Int32) dL_law_857 (by decide) ?_
        refine j_iadd dL_law_858 ?_
        refine j_sald dL_law_859 hf (fun v109 hf => ?_)
        refine j_aload_n 0 dL_law_860 rfl rfl ?_
        refine j_iload dL_law_861 rfl ?_
        refine j_iconst (2 : Int32) dL_law_863 (by decide) ?_
        refine j_iadd dL_law_864 ?_
        refine j_sald dL_law_865 hf (fun v110 hf => ?_)
        refine j_if_eq 873 dL_law_866 (by decide) hf (fun c_ hf => ?_) (fun c_ hf => ?_)
        · refine j_iconst (0 : Int32) dL_law_873 (by decide) ?_
          exact pf_L_law_B874 hQ (f_L_law_L23 n) ih x0 x1 x2 x3 x4 x1 v109 (0 : Int32) h hf
        · refine j_iconst (1 : Int32) dL_law_869 (by decide) ?_
          refine j_goto 874 dL_law_870 (by decide) ?_
          exact pf_L_law_B874 hQ (f_L_law_L23 n) ih x0 x1 x2 x3 x4 x1 v109 (1 : Int32) h hf
      refine j_case (15 : Int32) hf (fun hf => ?_) (fun c15 hf => ?_)
      · refine j_tableIn 944 dL_law_39 (by decide) (by decide) rfl (by decide) ?_
        refine j_aload_n 1 dL_law_944 rfl rfl ?_
        refine j_aload_n 0 dL_law_945 rfl rfl ?_
        refine j_iload dL_law_946 rfl ?_
        refine j_iconst (1 : Int32) dL_law_948 (by decide) ?_
        refine j_iadd dL_law_949 ?_
        refine j_sald dL_law_950 hf (fun v111 hf => ?_)
        refine j_aload_n 0 dL_law_951 rfl rfl ?_
        refine j_iload dL_law_952 rfl ?_
        refine j_iconst (2 : Int32) dL_law_954 (by decide) ?_
        refine j_iadd dL_law_955 ?_
        refine j_sald dL_law_956 hf (fun v112 hf => ?_)
        refine j_aload_n 0 dL_law_957 rfl rfl ?_
        refine j_iload dL_law_958 rfl ?_
        refine j_iconst (3 : Int32) dL_law_960 (by decide) ?_
        refine j_iadd dL_law_961 ?_
        refine j_sald dL_law_962 hf (fun v113 hf => ?_)
        refine j_aload_n 3 dL_law_963 rfl rfl ?_
        refine kc_X0_206 rfl rfl rfl (by decide) dL_law_964 hf (fun v115 h114 hf => ?_)
        refine j_istore [some (va_rf x0), some (va_rf x1), some (va_rf x2), some (va_rf x3), some (.int x4), some (.int v115), none] dL_law_967 (cz rfl) rfl rfl ?_
        refine j_aload_n 2 dL_law_969 rfl rfl ?_
        refine j_aload_n 0 dL_law_970 rfl rfl ?_
        refine j_iload dL_law_971 rfl ?_
        refine j_iconst (1 : Int32) dL_law_973 (by decide) ?_
        refine j_iadd dL_law_974 ?_
        refine j_sald dL_law_975 hf (fun v116 hf => ?_)
        refine j_aload_n 0 dL_law_976 rfl rfl ?_
        refine j_iload dL_law_977 rfl ?_
        refine j_iconst (2 : Int32) dL_law_979 (by decide) ?_
        refine j_iadd dL_law_980 ?_
        refine j_sald dL_law_981 hf (fun v117 hf => ?_)
        refine j_aload_n 0 dL_law_982 rfl rfl ?_
        refine j_iload dL_law_983 rfl ?_
        refine j_iconst (3 : Int32) dL_law_985 (by decide) ?_
        refine j_iadd dL_law_986 ?_
        refine j_sald dL_law_987 hf (fun v118 hf => ?_)
        refine kc_X0_209 rfl rfl rfl (by decide) dL_law_988 hf (fun v120 h119 hf => ?_)
        refine j_istore [some (va_rf x0), some (va_rf x1), some (va_rf x2), some (va_rf x3), some (.int x4), some (.int v115), some (.int v120)] dL_law_991 (cz rfl) rfl rfl ?_
        refine j_aload_n 2 dL_law_993 rfl rfl ?_
        refine kc_X0_152 rfl rfl rfl (by decide) dL_law_994 hf (fun v122 h121 hf => ?_)
        refine j_iload dL_law_997 rfl ?_
        refine j_icmp_eq 1004 dL_law_999 (by decide) hf (fun c_ hf => ?_) (fun c_ hf => ?_)
        · refine j_iload dL_law_1004 rfl ?_
          refine j_if_ne 1021 dL_law_1006 (by decide) hf (fun c_ hf => ?_) (fun c_ hf => ?_)
          · refine j_weak [some (va_rf x0), some (va_rf x1), some (va_rf x2), some (va_rf x3), some (.int x4), none, none] (Wk.k (Wk.k (Wk.k (Wk.k (Wk.k (Wk.s (Wk.s Wk.n))))))) ?_
            exact pf_L_law_B1021 hQ (f_L_law_L23 n) ih x0 x1 x2 x3 x4 h121 hf
          · refine j_aload_n 3 dL_law_1009 rfl rfl ?_
            refine j_iconst (0 : Int32) dL_law_1010 (by decide) ?_
            refine j_lald dL_law_1011 hf (fun v123 hf => ?_)
            refine j_iload dL_law_1012 rfl ?_
            refine j_i2l dL_law_1014 ?_
            refine j_lcmp dL_law_1015 ?_
            refine j_if_eq 1021 dL_law_1016 (by decide) hf (fun c_ hf => ?_) (fun c_ hf => ?_)
            · refine j_weak [some (va_rf x0), some (va_rf x1), some (va_rf x2), some (va_rf x3), some (.int x4), none, none] (Wk.k (Wk.k (Wk.k (Wk.k (Wk.k (Wk.s (Wk.s Wk.n))))))) ?_
              exact pf_L_law_B1021 hQ (f_L_law_L23 n) ih x0 x1 x2 x3 x4 h121 hf
            · refine j_iconst (0 : Int32) dL_law_1019 (by decide) ?_
              obtain ⟨hn9, hf⟩ := rN_in hf
              subst hf
              exact hQ _ _ _ dL_law_1020 rfl
        · refine j_iconst (0 : Int32) dL_law_1002 (by decide) ?_
          obtain ⟨hn9, hf⟩ := rN_in hf
          subst hf
          exact hQ _ _ _ dL_law_1003 rfl
      refine j_case (16 : Int32) hf (fun hf => ?_) (fun c16 hf => ?_)
      · refine j_tableIn 1024 dL_law_39 (by decide) (by decide) rfl (by decide) ?_
        refine j_aload_n 1 dL_law_1024 rfl rfl ?_
        refine kc_X0_210 rfl rfl rfl (by decide) dL_law_1025 hf (fun v125 h124 hf => ?_)
        refine j_aload_n 2 dL_law_1028 rfl rfl ?_
        refine kc_X0_213 rfl rfl rfl (by simp [va_rf_cat, cat_i, cat_l]) dL_law_1029 hf (fun v127 h126 hf => ?_)
        refine j_icmp_eq 3144 dL_law_1032 (by decide) hf (fun c_ hf => ?_) (fun c_ hf => ?_)
        · exact pf_L_law_B3144 hQ (f_L_law_L23 n) ih x0 x1 x2 x3 x4 h126 hf
        · refine j_iconst (0 : Int32) dL_law_1035 (by decide) ?_
          obtain ⟨hn9, hf⟩ := rN_in hf
          subst hf
          exact hQ _ _ _ dL_law_1036 rfl
      refine j_case (17 : Int32) hf (fun hf => ?_) (fun c17 hf => ?_)
      · refine j_tableIn 1037 dL_law_39 (by decide) (by decide) rfl (by decide) ?_
        refine j_aload_n 1 dL_law_1037 rfl rfl ?_
        refine j_aload_n 0 dL_law_1038 rfl rfl ?_
        refine j_iload dL_law_1039 rfl ?_
        refine j_iconst (1 : Int32) dL_law_1041 (by decide) ?_
        refine j_iadd dL_law_1042 ?_
        refine j_sald dL_law_1043 hf (fun v128 hf => ?_)
        refine j_aload_n 0 dL_law_1044 rfl rfl ?_
        refine j_iload dL_law_1045 rfl ?_
        refine j_iconst (2 : Int32) dL_law_1047 (by decide) ?_
        refine j_iadd dL_law_1048 ?_
        refine j_sald dL_law_1049 hf (fun v129 hf => ?_)
        refine j_aload_n 0 dL_law_1050 rfl rfl ?_
        refine j_iload dL_law_1051 rfl ?_
        refine j_iconst (3 : Int32) dL_law_1053 (by decide) ?_
        refine j_iadd dL_law_1054 ?_
        refine j_sald dL_law_1055 hf (fun v130 hf => ?_)
        refine j_aload_n 3 dL_law_1056 rfl rfl ?_
        refine kc_X0_214 rfl rfl rfl (by decide) dL_law_1057 hf (fun v132 h131 hf => ?_)
        refine j_istore [some (va_rf x0), some (va_rf x1), some (va_rf x2), some (va_rf x3), some (.int x4), some (.int v132), none] dL_law_1060 (cz rfl) rfl rfl ?_
        refine j_aload_n 2 dL_law_1062 rfl rfl ?_
        refine j_aload_n 0 dL_law_1063 rfl rfl ?_
        refine j_iload dL_law_1064 rfl ?_
        refine j_iconst (1 : Int32) dL_law_1066 (by decide) ?_
        refine j_iadd dL_law_1067 ?_
        refine j_sald dL_law_1068 hf (fun v133 hf => ?_)
        refine j_aload_n 0 dL_law_1069 rfl rfl ?_
        refine j_iload dL_law_1070 rfl ?_
        refine j_iconst (2 : Int32) dL_law_1072 (by decide) ?_
        refine j_iadd dL_law_1073 ?_
        refine j_sald dL_law_1074 hf (fun v134 hf => ?_)
        refine j_aload_n 0 dL_law_1075 rfl rfl ?_
        refine j_iload dL_law_1076 rfl ?_
        refine j_iconst (3 : Int32) dL_law_1078 (by decide) ?_
        refine j_iadd dL_law_1079 ?_
        refine j_sald dL_law_1080 hf (fun v135 hf => ?_)
        refine kc_X0_216 rfl rfl rfl (by decide) dL_law_1081 hf (fun v137 h136 hf => ?_)
        refine j_istore [some (va_rf x0), some (va_rf x1), some (va_rf x2), some (va_rf x3), some (.int x4), some (.int v132), some (.int v137)] dL_law_1084 (cz rfl) rfl rfl ?_
        refine j_aload_n 2 dL_law_1086 rfl rfl ?_
        refine kc_X0_152 rfl rfl rfl (by decide) dL_law_1087 hf (fun v139 h138 hf => ?_)
        refine j_iload dL_law_1090 rfl ?_
        refine j_icmp_eq 1097 dL_law_1092 (by decide) hf (fun c_ hf => ?_) (fun c_ hf => ?_)
        · refine j_iload dL_law_1097 rfl ?_
          refine j_if_ne 1114 dL_law_1099 (by decide) hf (fun c_ hf => ?_) (fun c_ hf => ?_)
          · refine j_weak [some (va_rf x0), some (va_rf x1), some (va_rf x2), some (va_rf x3), some (.int x4), none, none] (Wk.k (Wk.k (Wk.k (Wk.k (Wk.k (Wk.s (Wk.s Wk.n))))))) ?_
            exact pf_L_law_B1114 hQ (f_L_law_L23 n) ih x0 x1 x2 x3 x4 h138 hf
          · refine j_aload_n 3 dL_law_1102 rfl rfl ?_
            refine j_iconst (0 : Int32) dL_law_1103 (by decide) ?_
            refine j_lald dL_law_1104 hf (fun v140 hf => ?_)
            refine j_iload dL_law_1105 rfl ?_
            refine j_i2l dL_law_1107 ?_
            refine j_lcmp dL_law_1108 ?_
            refine j_if_eq 1114 dL_law_1109 (by decide) hf (fun c_ hf => ?_) (fun c_ hf => ?_)
            · refine j_weak [some (va_rf x0), some (va_rf x1), some (va_rf x2), some (va_rf x3), some (.int x4), none, none] (Wk.k (Wk.k (Wk.k (Wk.k (Wk.k (Wk.s (Wk.s Wk.n))))))) ?_
              exact pf_L_law_B1114 hQ (f_L_law_L23 n) ih x0 x1 x2 x3 x4 h138 hf
            · refine j_iconst (0 : Int32) dL_law_1112 (by decide) ?_
              obtain ⟨hn9, hf⟩ := rN_in hf
              subst hf
              exact hQ _ _ _ dL_law_1113 rfl
        · refine j_iconst (0 : Int32) dL_law_1095 (by decide) ?_
          obtain ⟨hn9, hf⟩ := rN_in hf
          subst hf
          exact hQ _ _ _ dL_law_1096 rfl
      refine j_case (18 : Int32) hf (fun hf => ?_) (fun c18 hf => ?_)
      · refine j_tableIn 1117 dL_law_39 (by decide) (by decide) rfl (by decide) ?_
        refine j_aload_n 1 dL_law_1117 rfl rfl ?_
        refine j_aload_n 0 dL_law_1118 rfl rfl ?_
        refine j_iload dL_law_1119 rfl ?_
        refine j_iconst (1 : Int32) dL_law_1121 (by decide) ?_
        refine j_iadd dL_law_1122 ?_
        refine j_sald dL_law_1123 hf (fun v141 hf => ?_)
        refine j_aload_n 0 dL_law_1124 rfl rfl ?_
        refine j_iload dL_law_1125 rfl ?_
        refine j_iconst (2 : Int32) dL_law_1127 (by decide) ?_
        refine j_iadd dL_law_1128 ?_
        refine j_sald dL_law_1129 hf (fun v142 hf => ?_)
        refine j_aload_n 0 dL_law_1130 rfl rfl ?_
        refine j_iload dL_law_1131 rfl ?_
        refine j_iconst (3 : Int32) dL_law_1133 (by decide) ?_
        refine j_iadd dL_law_1134 ?_
        refine j_sald dL_law_1135 hf (fun v143 hf => ?_)
        refine j_aload_n 0 dL_law_1136 rfl rfl ?_
        refine j_iload dL_law_1137 rfl ?_
        refine j_iconst (4 : Int32) dL_law_1139 (by decide) ?_
        refine j_iadd dL_law_1140 ?_
        refine j_sald dL_law_1141 hf (fun v144 hf => ?_)
        refine j_aload_n 3 dL_law_1142 rfl rfl ?_
        refine kc_X0_217 rfl rfl rfl (by decide) dL_law_1143 hf (fun v146 h145 hf => ?_)
        refine j_istore [some (va_rf x0), some (va_rf x1), some (va_rf x2), some (va_rf x3), some (.int x4), some (.int v146), none] dL_law_1146 (cz rfl) rfl rfl ?_
        refine j_aload_n 2 dL_law_1148 rfl rfl ?_
        refine j_aload_n 0 dL_law_1149 rfl rfl ?_
        refine j_iload dL_law_1150 rfl ?_
        refine j_iconst (1 : Int32) dL_law_1152 (by decide) ?_
        refine j_iadd dL_law_1153 ?_
        refine j_sald dL_law_1154 hf (fun v147 hf => ?_)
        refine j_aload_n 0 dL_law_1155 rfl rfl ?_
        refine j_iload dL_law_1156 rfl ?_
        refine j_iconst (2 : Int32) dL_law_1158 (by decide) ?_
        refine j_iadd dL_law_1159 ?_
        refine j_sald dL_law_1160 hf (fun v148 hf => ?_)
        refine j_aload_n 0 dL_law_1161 rfl rfl ?_
        refine j_iload dL_law_1162 rfl ?_
        refine j_iconst (3 : Int32) dL_law_1164 (by decide) ?_
        refine j_iadd dL_law_1165 ?_
        refine j_sald dL_law_1166 hf (fun v149 hf => ?_)
        refine j_aload_n 0 dL_law_1167 rfl rfl ?_
        refine j_iload dL_law_1168 rfl ?_
        refine j_iconst (4 : Int32) dL_law_1170 (by decide) ?_
        refine j_iadd dL_law_1171 ?_
        refine j_sald dL_law_1172 hf (fun v150 hf => ?_)
        refine kc_X0_220 rfl rfl rfl (by decide) dL_law_1173 hf (fun v152 h151 hf => ?_)
        refine j_istore [some (va_rf x0), some (va_rf x1), some (va_rf x2), some (va_rf x3), some (.int x4), some (.int v146), some (.int v152)] dL_law_1176 (cz rfl) rfl rfl ?_
        refine j_aload_n 2 dL_law_1178 rfl rfl ?_
        refine kc_X0_152 rfl rfl rfl (by decide) dL_law_1179 hf (fun v154 h153 hf => ?_)
        refine j_iload dL_law_1182 rfl ?_
        refine j_icmp_eq 1189 dL_law_1184 (by decide) hf (fun c_ hf => ?_) (fun c_ hf => ?_)
        · refine j_iload dL_law_1189 rfl ?_
          refine j_if_ne 1206 dL_law_1191 (by decide) hf (fun c_ hf => ?_) (fun c_ hf => ?_)
          · refine j_weak [some (va_rf x0), some (va_rf x1), some (va_rf x2), some (va_rf x3), some (.int x4), none, none] (Wk.k (Wk.k (Wk.k (Wk.k (Wk.k (Wk.s (Wk.s Wk.n))))))) ?_
            exact pf_L_law_B1206 hQ (f_L_law_L23 n) ih x0 x1 x2 x3 x4 h153 hf
          · refine j_aload_n 3 dL_law_1194 rfl rfl ?_
            refine j_iconst (0 : Int32) dL_law_1195 (by decide) ?_
            refine j_lald dL_law_1196 hf (fun v155 hf => ?_)
            refine j_iload dL_law_1197 rfl ?_
            refine j_i2l dL_law_1199 ?_
            refine j_lcmp dL_law_1200 ?_
            refine j_if_eq 1206 dL_law_1201 (by decide) hf (fun c_ hf => ?_) (fun c_ hf => ?_)
            · refine j_weak [some (va_rf x0), some (va_rf x1), some (va_rf x2), some (va_rf x3), some (.int x4), none, none] (Wk.k (Wk.k (Wk.k (Wk.k (Wk.k (Wk.s (Wk.s Wk.n))))))) ?_
              exact pf_L_law_B1206 hQ (f_L_law_L23 n) ih x0 x1 x2 x3 x4 h153 hf
            · refine j_iconst (0 : Int32) dL_law_1204 (by decide) ?_
              obtain ⟨hn9, hf⟩ := rN_in hf
              subst hf
              exact hQ _ _ _ dL_law_1205 rfl
        · refine j_iconst (0 : Int32) dL_law_1187 (by decide) ?_
          obtain ⟨hn9, hf⟩ := rN_in hf
          subst hf
          exact hQ _ _ _ dL_law_1188 rfl
      refine j_case (19 : Int32) hf (fun hf => ?_) (fun c19 hf => ?_)
      · refine j_tableIn 1209 dL_law_39 (by decide) (by decide) rfl (by decide) ?_
        refine j_aload_n 1 dL_law_1209 rfl rfl ?_
        refine j_aload_n 0 dL_law_1210 rfl rfl ?_
        refine j_iload dL_law_1211 rfl ?_
        refine j_iconst (1 : Int32) dL_law_1213 (by decide) ?_
        refine j_iadd dL_law_1214 ?_
        refine j_sald dL_law_1215 hf (fun v156 hf => ?_)
        refine j_aload_n 0 dL_law_1216 rfl rfl ?_
        refine j_iload dL_law_1217 rfl ?_
        refine j_iconst (2 : Int32) dL_law_1219 (by decide) ?_
        refine j_iadd dL_law_1220 ?_
        refine j_sald dL_law_1221 hf (fun v157 hf => ?_)
        refine j_aload_n 3 dL_law_1222 rfl rfl ?_
        refine kc_X0_221 rfl rfl rfl (by decide) dL_law_1223 hf (fun v159 h158 hf => ?_)
        refine j_istore [some (va_rf x0), some (va_rf x1), some (va_rf x2), some (va_rf x3), some (.int x4), some (.int v159), none] dL_law_1226 (cz rfl) rfl rfl ?_
        refine j_aload_n 2 dL_law_1228 rfl rfl ?_
        refine j_aload_n 0 dL_law_1229 rfl rfl ?_
        refine j_iload dL_law_1230 rfl ?_
        refine j_iconst (1 : Int32) dL_law_1232 (by decide) ?_
        refine j_iadd dL_law_1233 ?_
        refine j_sald dL_law_1234 hf (fun v160 hf => ?_)
        refine j_aload_n 0 dL_law_1235 rfl rfl ?_
        refine j_iload dL_law_1236 rfl ?_
        refine j_iconst (2 : Int32) dL_law_1238 (by decide) ?_
        refine j_iadd dL_law_1239 ?_
        refine j_sald dL_law_1240 hf (fun v161 hf => ?_)
        refine kc_X0_223 rfl rfl rfl (by decide) dL_law_1241 hf (fun v163 h162 hf => ?_)
        refine j_istore [some (va_rf x0), some (va_rf x1), some (va_rf x2), some (va_rf x3), some (.int x4), some (.int v159), some (.int v163)] dL_law_1244 (cz rfl) rfl rfl ?_
        refine j_aload_n 2 dL_law_1246 rfl rfl ?_
        refine kc_X0_152 rfl rfl rfl (by decide) dL_law_1247 hf (fun v165 h164 hf => ?_)
        refine j_iload dL_law_1250 rfl ?_
        refine j_icmp_eq 1257 dL_law_1252 (by decide) hf (fun c_ hf => ?_) (fun c_ hf => ?_)
        · refine j_iload dL_law_1257 rfl ?_
          refine j_if_ne 1274 dL_law_1259 (by decide) hf (fun c_ hf => ?_) (fun c_ hf => ?_)
          · refine j_weak [some (va_rf x0), some (va_rf x1), some (va_rf x2), some (va_rf x3), some (.int x4), none, none] (Wk.k (Wk.k (Wk.k (Wk.k (Wk.k (Wk.s (Wk.s Wk.n))))))) ?_
            exact pf_L_law_B1274 hQ (f_L_law_L23 n) ih x0 x1 x2 x3 x4 h164 hf
          · refine j_aload_n 3 dL_law_1262 rfl rfl ?_
            refine j_iconst (0 : Int32) dL_law_1263 (by decide) ?_
            refine j_lald dL_law_1264 hf (fun v166 hf => ?_)
            refine j_iload dL_law_1265 rfl ?_
            refine j_i2l dL_law_1267 ?_
            refine j_lcmp dL_law_1268 ?_
            refine j_if_eq 1274 dL_law_1269 (by decide) hf (fun c_ hf => ?_) (fun c_ hf => ?_)
            · refine j_weak [some (va_rf x0), some (va_rf x1), some (va_rf x2), some (va_rf x3), some (.int x4), none, none] (Wk.k (Wk.k (Wk.k (Wk.k (Wk.k (Wk.s (Wk.s Wk.n))))))) ?_
              exact pf_L_law_B1274 hQ (f_L_law_L23 n) ih x0 x1 x2 x3 x4 h164 hf
            · refine j_iconst (0 : Int32) dL_law_1272 (by decide) ?_
              obtain ⟨hn9, hf⟩ := rN_in hf
              subst hf
              exact hQ _ _ _ dL_law_1273 rfl
        · refine j_iconst (0 : Int32) dL_law_1255 (by decide) ?_
          obtain ⟨hn9, hf⟩ := rN_in hf
          subst hf
          exact hQ _ _ _ dL_law_1256 rfl
      refine j_case (20 : Int32) hf (fun hf => ?_) (fun c20 hf => ?_)
      · refine j_tableIn 1277 dL_law_39 (by decide) (by decide) rfl (by decide) ?_
        refine j_aload_n 1 dL_law_1277 rfl rfl ?_
        refine j_aload_n 0 dL_law_1278 rfl rfl ?_
        refine j_iload dL_law_1279 rfl ?_
        refine j_iconst (1 : Int32) dL_law_1281 (by decide) ?_
        refine j_iadd dL_law_1282 ?_
        refine j_sald dL_law_1283 hf (fun v167 hf => ?_)
        refine j_aload_n 0 dL_law_1284 rfl rfl ?_
        refine j_iload dL_law_1285 rfl ?_
        refine j_iconst (2 : Int32) dL_law_1287 (by decide) ?_
        refine j_iadd dL_law_1288 ?_
        refine j_sald dL_law_1289 hf (fun v168 hf => ?_)
        refine j_aload_n 3 dL_law_1290 rfl rfl ?_
        refine kc_X0_224 rfl rfl rfl (by decide) dL_law_1291 hf (fun v170 h169 hf => ?_)
        refine j_istore [some (va_rf x0), some (va_rf x1), some (va_rf x2), some (va_rf x3), some (.int x4), some (.int v170), none] dL_law_1294 (cz rfl) rfl rfl ?_
        refine j_aload_n 2 dL_law_1296 rfl rfl ?_
        refine j_aload_n 0 dL_law_1297 rfl rfl ?_
        refine j_iload dL_law_1298 rfl ?_
        refine j_iconst (1 : Int32) dL_law_1300 (by decide) ?_
        refine j_iadd dL_law_1301 ?_
        refine j_sald dL_law_1302 hf (fun v171 hf => ?_)
        refine j_aload_n 0 dL_law_1303 rfl rfl ?_
        refine j_iload dL_law_1304 rfl ?_
        refine j_iconst (2 : Int32) dL_law_1306 (by decide) ?_
        refine j_iadd dL_law_1307 ?_
        refine j_sald dL_law_1308 hf (fun v172 hf => ?_)
        refine kc_X0_226 rfl rfl rfl (by decide) dL_law_1309 hf (fun v174 h173 hf => ?_)
        refine j_istore [some (va_rf x0), some (va_rf x1), some (va_rf x2), some (va_rf x3), some (.int x4), some (.int v170), some (.int v174)] dL_law_1312 (cz rfl) rfl rfl ?_
        refine j_aload_n 2 dL_law_1314 rfl rfl ?_
        refine kc_X0_152 rfl rfl rfl (by decide) dL_law_1315 hf (fun v176 h175 hf => ?_)
        refine j_iload dL_law_1318 rfl ?_
        refine j_icmp_eq 1325 dL_law_1320 (by decide) hf (fun c_ hf => ?_) (fun c_ hf => ?_)
        · refine j_iload dL_law_1325 rfl ?_
          refine j_if_ne 1342 dL_law_1327 (by decide) hf (fun c_ hf => ?_) (fun c_ hf => ?_)
          · refine j_weak [some (va_rf x0), some (va_rf x1), some (va_rf x2), some (va_rf x3), some (.int x4), none, none] (Wk.k (Wk.k (Wk.k (Wk.k (Wk.k (Wk.s (Wk.s Wk.n))))))) ?_
            exact pf_L_law_B1342 hQ (f_L_law_L23 n) ih x0 x1 x2 x3 x4 h175 hf
          · refine j_aload_n 3 dL_law_1330 rfl rfl ?_
            refine j_iconst (0 : Int32) dL_law_1331 (by decide) ?_
            refine j_lald dL_law_1332 hf (fun v177 hf => ?_)
            refine j_iload dL_law_1333 rfl ?_
            refine j_i2l dL_law_1335 ?_
            refine j_lcmp dL_law_1336 ?_
            refine j_if_eq 1342 dL_law_1337 (by decide) hf (fun c_ hf => ?_) (fun c_ hf => ?_)
            · refine j_weak [some (va_rf x0), some (va_rf x1), some (va_rf x2), some (va_rf x3), some (.int x4), none, none] (Wk.k (Wk.k (Wk.k (Wk.k (Wk.k (Wk.s (Wk.s Wk.n))))))) ?_
              exact pf_L_law_B1342 hQ (f_L_law_L23 n) ih x0 x1 x2 x3 x4 h175 hf
            · refine j_iconst (0 : Int32) dL_law_1340 (by decide) ?_
              obtain ⟨hn9, hf⟩ := rN_in hf
              subst hf
              exact hQ _ _ _ dL_law_1341 rfl
        · refine j_iconst (0 : Int32) dL_law_1323 (by decide) ?_
          obtain ⟨hn9, hf⟩ := rN_in hf
          subst hf
          exact hQ _ _ _ dL_law_1324 rfl
      refine j_case (21 : Int32) hf (fun hf => ?_) (fun c21 hf => ?_)
      · refine j_tableIn 1345 dL_law_39 (by decide) (by decide) rfl (by decide) ?_
        refine j_aload_n 1 dL_law_1345 rfl rfl ?_
        refine j_aload_n 0 dL_law_1346 rfl rfl ?_
        refine j_iload dL_law_1347 rfl ?_
        refine j_iconst (1 : Int32) dL_law_1349 (by decide) ?_
        refine j_iadd dL_law_1350 ?_
        refine j_sald dL_law_1351 hf (fun v178 hf => ?_)
        refine j_aload_n 3 dL_law_1352 rfl rfl ?_
        refine kc_X0_227 rfl rfl rfl (by decide) dL_law_1353 hf (fun v180 h179 hf => ?_)
        refine j_istore [some (va_rf x0), some (va_rf x1), some (va_rf x2), some (va_rf x3), some (.int x4), some (.int v180), none] dL_law_1356 (cz rfl) rfl rfl ?_
        refine j_aload_n 2 dL_law_1358 rfl rfl ?_
        refine j_aload_n 0 dL_law_1359 rfl rfl ?_
        refine j_iload dL_law_1360 rfl ?_
        refine j_iconst (1 : Int32) dL_law_1362 (by decide) ?_
        refine j_iadd dL_law_1363 ?_
        refine j_sald dL_law_1364 hf (fun v181 hf => ?_)
        refine kc_X0_229 rfl rfl rfl (by decide) dL_law_1365 hf (fun v183 h182 hf => ?_)
        refine j_istore [some (va_rf x0), some (va_rf x1), some (va_rf x2), some (va_rf x3), some (.int x4), some (.int v180), some (.int v183)] dL_law_1368 (cz rfl) rfl rfl ?_
        refine j_aload_n 2 dL_law_1370 rfl rfl ?_
        refine kc_X0_152 rfl rfl rfl (by decide) dL_law_1371 hf (fun v185 h184 hf => ?_)
        refine j_iload dL_law_1374 rfl ?_
        refine j_icmp_eq 1381 dL_law_1376 (by decide) hf (fun c_ hf => ?_) (fun c_ hf => ?_)
        · refine j_iload dL_law_1381 rfl ?_
          refine j_if_ne 1398 dL_law_1383 (by decide) hf (fun c_ hf => ?_) (fun c_ hf => ?_)
          · refine j_weak [some (va_rf x0), some (va_rf x1), some (va_rf x2), some (va_rf x3), some (.int x4), none, none] (Wk.k (Wk.k (Wk.k (Wk.k (Wk.k (Wk.s (Wk.s Wk.n))))))) ?_
            exact pf_L_law_B1398 hQ (f_L_law_L23 n) ih x0 x1 x2 x3 x4 h184 hf
          · refine j_aload_n 3 dL_law_1386 rfl rfl ?_
            refine j_iconst (0 : Int32) dL_law_1387 (by decide) ?_
            refine j_lald dL_law_1388 hf (fun v186 hf => ?_)
            refine j_iload dL_law_1389 rfl ?_
            refine j_i2l dL_law_1391 ?_
            refine j_lcmp dL_law_1392 ?_
            refine j_if_eq 1398 dL_law_1393 (by decide) hf (fun c_ hf => ?_) (fun c_ hf => ?_)
            · refine j_weak [some (va_rf x0), some (va_rf x1), some (va_rf x2), some (va_rf x3), some (.int x4), none, none] (Wk.k (Wk.k (Wk.k (Wk.k (Wk.k (Wk.s (Wk.s Wk.n))))))) ?_
              exact pf_L_law_B1398 hQ (f_L_law_L23 n) ih x0 x1 x2 x3 x4 h184 hf
            · refine j_iconst (0 : Int32) dL_law_1396 (by decide) ?_
              obtain ⟨hn9, hf⟩ := rN_in hf
              subst hf
              exact hQ _ _ _ dL_law_1397 rfl
        · refine j_iconst (0 : Int32) dL_law_1379 (by decide) ?_
          obtain ⟨hn9, hf⟩ := rN_in hf
          subst hf
          exact hQ _ _ _ dL_law_1380 rfl
      refine j_case (22 : Int32) hf (fun hf => ?_) (fun c22 hf => ?_)
      · refine j_tableIn 1401 dL_law_39 (by decide) (by decide) rfl (by decide) ?_
        refine j_aload_n 1 dL_law_1401 rfl rfl ?_
        refine j_aload_n 0 dL_law_1402 rfl rfl ?_
        refine j_iload dL_law_1403 rfl ?_
        refine j_iconst (1 : Int32) dL_law_1405 (by decide) ?_
        refine j_iadd dL_law_1406 ?_
        refine j_sald dL_law_1407 hf (fun v187 hf => ?_)
        refine j_aload_n 3 dL_law_1408 rfl rfl ?_
        refine kc_X0_230 rfl rfl rfl (by decide) dL_law_1409 hf (fun v189 h188 hf => ?_)
        refine j_istore [some (va_rf x0), some (va_rf x1), some (va_rf x2), some (va_rf x3), some (.int x4), some (.int v189), none] dL_law_1412 (cz rfl) rfl rfl ?_
        refine j_aload_n 2 dL_law_1414 rfl rfl ?_
        refine j_aload_n 0 dL_law_1415 rfl rfl ?_
        refine j_iload dL_law_1416 rfl ?_
        refine j_iconst (1 : Int32) dL_law_1418 (by decide) ?_
        refine j_iadd dL_law_1419 ?_
        refine j_sald dL_law_1420 hf (fun v190 hf => ?_)
        refine kc_X0_232 rfl rfl rfl (by decide) dL_law_1421 hf (fun v192 h191 hf => ?_)
        refine j_istore [some (va_rf x0), some (va_rf x1), some (va_rf x2), some (va_rf x3), some (.int x4), some (.int v189), some (.int v192)] dL_law_1424 (cz rfl) rfl rfl ?_
        refine j_aload_n 2 dL_law_1426 rfl rfl ?_
        refine kc_X0_152 rfl rfl rfl (by decide) dL_law_1427 hf (fun v194 h193 hf => ?_)
        refine j_iload dL_law_1430 rfl ?_
        refine j_icmp_eq 1437 dL_law_1432 (by decide) hf (fun c_ hf => ?_) (fun c_ hf => ?_)
        · refine j_iload dL_law_1437 rfl ?_
          refine j_if_ne 1454 dL_law_1439 (by decide) hf (fun c_ hf => ?_) (fun c_ hf => ?_)
          · refine j_weak [some (va_rf x0), some (va_rf x1), some (va_rf x2), some (va_rf x3), some (.int x4), none, none] (Wk.k (Wk.k (Wk.k (Wk.k (Wk.k (Wk.s (Wk.s Wk.n))))))) ?_
            exact pf_L_law_B1454 hQ (f_L_law_L23 n) ih x0 x1 x2 x3 x4 h193 hf
          · refine j_aload_n 3 dL_law_1442 rfl rfl ?_
            refine j_iconst (0 : Int32) dL_law_1443 (by decide) ?_
            refine j_lald dL_law_1444 hf (fun v195 hf => ?_)
            refine j_iload dL_law_1445 rfl ?_
            refine j_i2l dL_law_1447 ?_
            refine j_lcmp dL_law_1448 ?_
            refine j_if_eq 1454 dL_law_1449 (by decide) hf (fun c_ hf => ?_) (fun c_ hf => ?_)
            · refine j_weak [some (va_rf x0), some (va_rf x1), some (va_rf x2), some (va_rf x3), some (.int x4), none, none] (Wk.k (Wk.k (Wk.k (Wk.k (Wk.k (Wk.s (Wk.s Wk.n))))))) ?_
              exact pf_L_law_B1454 hQ (f_L_law_L23 n) ih x0 x1 x2 x3 x4 h193 hf
            · refine j_iconst (0 : Int32) dL_law_1452 (by decide) ?_
              obtain ⟨hn9, hf⟩ := rN_in hf
              subst hf
              exact hQ _ _ _ dL_law_1453 rfl
        · refine j_iconst (0 : Int32) dL_law_1435 (by decide) ?_
          obtain ⟨hn9, hf⟩ := rN_in hf
          subst hf
          exact hQ _ _ _ dL_law_1436 rfl
      refine j_case (23 : Int32) hf (fun hf => ?_) (fun c23 hf => ?_)
      · refine j_tableIn 1457 dL_law_39 (by decide) (by decide) rfl (by decide) ?_
        refine j_aload_n 1 dL_law_1457 rfl rfl ?_
        refine kc_X0_233 rfl rfl rfl (by decide) dL_law_1458 hf (fun v197 h196 hf => ?_)
        refine j_aload_n 2 dL_law_1461 rfl rfl ?_
        refine kc_X0_236 rfl rfl rfl (by simp [va_rf_cat, cat_i, cat_l]) dL_law_1462 hf (fun v199 h198 hf => ?_)
        refine j_icmp_eq 3144 dL_law_1465 (by decide) hf (fun c_ hf => ?_) (fun c_ hf => ?_)
        · exact pf_L_law_B3144 hQ (f_L_law_L23 n) ih x0 x1 x2 x3 x4 h198 hf
        · refine j_iconst (0 : Int32) dL_law_1468 (by decide) ?_
          obtain ⟨hn9, hf⟩ := rN_in hf
          subst hf
          exact hQ _ _ _ dL_law_1469 rfl
      refine j_case (24 : Int32) hf (fun hf => ?_) (fun c24 hf => ?_)
      · refine j_tableIn 1470 dL_law_39 (by decide) (by decide) rfl (by decide) ?_
        refine j_aload_n 1 dL_law_1470 rfl rfl ?_
        refine kc_X0_237 rfl rfl rfl (by decide) dL_law_1471 hf (fun v201 h200 hf => ?_)
        refine j_aload_n 2 dL_law_1474 rfl rfl ?_
        refine kc_X0_240 rfl rfl rfl (by simp [va_rf_cat, cat_i, cat_l]) dL_law_1475 hf (fun v203 h202 hf => ?_)
        refine j_icmp_eq 3144 dL_law_1478 (by decide) hf (fun c_ hf => ?_) (fun c_ hf => ?_)
        · exact pf_L_law_B3144 hQ (f_L_law_L23 n) ih x0 x1 x2 x3 x4 h202 hf
        · refine j_iconst (0 : Int32) dL_law_1481 (by decide) ?_
          obtain ⟨hn9, hf⟩ := rN_in hf
          subst hf
          exact hQ _ _ _ dL_law_1482 rfl
      refine j_case (25 : Int32) hf (fun hf => ?_) (fun c25 hf => ?_)
      · refine j_tableIn 1483 dL_law_39 (by decide) (by decide) rfl (by decide) ?_
        refine j_aload_n 1 dL_law_1483 rfl rfl ?_
        refine kc_X0_241 rfl rfl rfl (by decide) dL_law_1484 hf (fun v205 h204 hf => ?_)
        refine j_aload_n 2 dL_law_1487 rfl rfl ?_
        refine kc_X0_244 rfl rfl rfl (by simp [va_rf_cat, cat_i, cat_l]) dL_law_1488 hf (fun v207 h206 hf => ?_)
        refine j_icmp_eq 3144 dL_law_1491 (by decide) hf (fun c_ hf => ?_) (fun c_ hf => ?_)
        · exact pf_L_law_B3144 hQ (f_L_law_L23 n) ih x0 x1 x2 x3 x4 h206 hf
        · refine j_iconst (0 : Int32) dL_law_1494 (by decide) ?_
          obtain ⟨hn9, hf⟩ := rN_in hf
          subst hf
          exact hQ _ _ _ dL_law_1495 rfl
      refine j_case (26 : Int32) hf (fun hf => ?_) (fun c26 hf => ?_)
      · refine j_tableIn 1496 dL_law_39 (by decide) (by decide) rfl (by decide) ?_
        refine j_aload_n 1 dL_law_1496 rfl rfl ?_
        refine kc_X0_245 rfl rfl rfl (by decide) dL_law_1497 hf (fun v209 h208 hf => ?_)
        refine j_aload_n 2 dL_law_1500 rfl rfl ?_
        refine kc_X0_248 rfl rfl rfl (by simp [va_rf_cat, cat_i, cat_l]) dL_law_1501 hf (fun v211 h210 hf => ?_)
        refine j_icmp_eq 3144 dL_law_1504 (by decide) hf (fun c_ hf => ?_) (fun c_ hf => ?_)
        · exact pf_L_law_B3144 hQ (f_L_law_L23 n) ih x0 x1 x2 x3 x4 h210 hf
        · refine j_iconst (0 : Int32) dL_law_1507 (by decide) ?_
          obtain ⟨hn9, hf⟩ := rN_in hf
          subst hf
          exact hQ _ _ _ dL_law_1508 rfl
      refine j_case (27 : Int32) hf (fun hf => ?_) (fun c27 hf => ?_)
      · refine j_tableIn 1509 dL_law_39 (by decide) (by decide) rfl (by decide) ?_
        refine j_aload_n 1 dL_law_1509 rfl rfl ?_
        refine kc_X0_249 rfl rfl rfl (by decide) dL_law_1510 hf (fun v213 h212 hf => ?_)
        refine j_aload_n 2 dL_law_1513 rfl rfl ?_
        refine kc_X0_252 rfl rfl rfl (by simp [va_rf_cat, cat_i, cat_l]) dL_law_1514 hf (fun v215 h214 hf => ?_)
        refine j_icmp_eq 3144 dL_law_1517 (by decide) hf (fun c_ hf => ?_) (fun c_ hf => ?_)
        · exact pf_L_law_B3144 hQ (f_L_law_L23 n) ih x0 x1 x2 x3 x4 h214 hf
        · refine j_iconst (0 : Int32) dL_law_1520 (by decide) ?_
          obtain ⟨hn9, hf⟩ := rN_in hf
          subst hf
          exact hQ _ _ _ dL_law_1521 rfl
      refine j_case (28 : Int32) hf (fun hf => ?_) (fun c28 hf => ?_)
      · refine j_tableIn 1522 dL_law_39 (by decide) (by decide) rfl (by decide) ?_
        refine j_aload_n 1 dL_law_1522 rfl rfl ?_
        refine j_aload_n 0 dL_law_1523 rfl rfl ?_
        refine j_iload dL_law_1524 rfl ?_
        refine j_iconst (1 : Int32) dL_law_1526 (by decide) ?_
        refine j_iadd dL_law_1527 ?_
        refine j_sald dL_law_1528 hf (fun v216 hf => ?_)
        refine j_aload_n 3 dL_law_1529 rfl rfl ?_
        refine kc_X0_253 rfl rfl rfl (by decide) dL_law_1530 hf (fun v218 h217 hf => ?_)
        refine j_istore [some (va_rf x0), some (va_rf x1), some (va_rf x2), some (va_rf x3), some (.int x4), some (.int v218), none] dL_law_1533 (cz rfl) rfl rfl ?_
        refine j_aload_n 2 dL_law_1535 rfl rfl ?_
        refine j_aload_n 0 dL_law_1536 rfl rfl ?_
        refine j_iload dL_law_1537 rfl ?_
        refine j_iconst (1 : Int32) dL_law_1539 (by decide) ?_
        refine j_iadd dL_law_1540 ?_
        refine j_sald dL_law_1541 hf (fun v219 hf => ?_)
        refine kc_X0_255 rfl rfl rfl (by decide) dL_law_1542 hf (fun v221 h220 hf => ?_)
        refine j_istore [some (va_rf x0), some (va_rf x1), some (va_rf x2), some (va_rf x3), some (.int x4), some (.int v218), some (.int v221)] dL_law_1545 (cz rfl) rfl rfl ?_
        refine j_aload_n 2 dL_law_1547 rfl rfl ?_
        refine kc_X0_152 rfl rfl rfl (by decide) dL_law_1548 hf (fun v223 h222 hf => ?_)
        refine j_iload dL_law_1551 rfl ?_
        refine j_icmp_eq 1558 dL_law_1553 (by decide) hf (fun c_ hf => ?_) (fun c_ hf => ?_)
        · refine j_iload dL_law_1558 rfl ?_
          refine j_if_ne 1582 dL_law_1560 (by decide) hf (fun c_ hf => ?_) (fun c_ hf => ?_)
          · refine j_weak [some (va_rf x0), some (va_rf x1), some (va_rf x2), some (va_rf x3), some (.int x4), none, none] (Wk.k (Wk.k (Wk.k (Wk.k (Wk.k (Wk.s (Wk.s Wk.n))))))) ?_
            exact pf_L_law_B1582 hQ (f_L_law_L23 n) ih x0 x1 x2 x3 x4 h222 hf
          · refine j_aload_n 3 dL_law_1563 rfl rfl ?_
            refine j_iconst (0 : Int32) dL_law_1564 (by decide) ?_
            refine j_lald dL_law_1565 hf (fun v224 hf => ?_)
            refine j_iload dL_law_1566 rfl ?_
            refine j_if_eq 1575 dL_law_1568 (by decide) hf (fun c_ hf => ?_) (fun c_ hf => ?_)
            · refine j_lconst (0 : Int64) dL_law_1575 (by decide) ?_
              refine j_weak [some (va_rf x0), some (va_rf x1), some (va_rf x2), some (va_rf x3), some (.int x4), none, none] (Wk.k (Wk.k (Wk.k (Wk.k (Wk.k (Wk.s (Wk.s Wk.n))))))) ?_
              exact pf_L_law_B1576 hQ (f_L_law_L23 n) ih x0 x1 x2 x3 x4 v224 (0 : Int64) h222 hf
            · refine j_lconst (1 : Int64) dL_law_1571 (by decide) ?_
              refine j_goto 1576 dL_law_1572 (by decide) ?_
              refine j_weak [some (va_rf x0), some (va_rf x1), some (va_rf x2), some (va_rf x3), some (.int x4), none, none] (Wk.k (Wk.k (Wk.k (Wk.k (Wk.k (Wk.s (Wk.s Wk.n))))))) ?_
              exact pf_L_law_B1576 hQ (f_L_law_L23 n) ih x0 x1 x2 x3 x4 v224 (1 : Int64) h222 hf
        · refine j_iconst (0 : Int32) dL_law_1556 (by decide) ?_
          obtain ⟨hn9, hf⟩ := rN_in hf
          subst hf
          exact hQ _ _ _ dL_law_1557 rfl
      refine j_case (29 : Int32) hf (fun hf => ?_) (fun c29 hf => ?_)
      · refine j_tableIn 1585 dL_law_39 (by decide) (by decide) rfl (by decide) ?_
        refine j_aload_n 1 dL_law_1585 rfl rfl ?_
        refine kc_X0_256 rfl rfl rfl (by decide) dL_law_1586 hf (fun v226 h225 hf => ?_)
        refine j_aload_n 2 dL_law_1589 rfl rfl ?_
        refine kc_X0_259 rfl rfl rfl (by simp [va_rf_cat, cat_i, cat_l]) dL_law_1590 hf (fun v228 h227 hf => ?_)
        refine j_icmp_eq 3144 dL_law_1593 (by decide) hf (fun c_ hf => ?_) (fun c_ hf => ?_)
        · exact pf_L_law_B3144 hQ (f_L_law_L23 n) ih x0 x1 x2 x3 x4 h227 hf
        · refine j_iconst (0 : Int32) dL_law_1596 (by decide) ?_
          obtain ⟨hn9, hf⟩ := rN_in hf
          subst hf
          exact hQ _ _ _ dL_law_1597 rfl
      refine j_case (30 : Int32) hf (fun hf => ?_) (fun c30 hf => ?_)
      · refine j_tableIn 1598 dL_law_39 (by decide) (by decide) rfl (by decide) ?_
        refine j_aload_n 1 dL_law_1598 rfl rfl ?_
        refine j_aload_n 0 dL_law_1599 rfl rfl ?_
        refine j_iload dL_law_1600 rfl ?_
        refine j_iconst (1 : Int32) dL_law_1602 (by decide) ?_
        refine j_iadd dL_law_1603 ?_
        refine j_sald dL_law_1604 hf (fun v229 hf => ?_)
        refine j_aload_n 3 dL_law_1605 rfl rfl ?_
        refine kc_X0_260 rfl rfl rfl (by decide) dL_law_1606 hf (fun v231 h230 hf => ?_)
        refine j_istore [some (va_rf x0), some (va_rf x1), some (va_rf x2), some (va_rf x3), some (.int x4), some (.int v231), none] dL_law_1609 (cz rfl) rfl rfl ?_
        refine j_aload_n 2 dL_law_1611 rfl rfl ?_
        refine j_aload_n 0 dL_law_1612 rfl rfl ?_
        refine j_iload dL_law_1613 rfl ?_
        refine j_iconst (1 : Int32) dL_law_1615 (by decide) ?_
        refine j_iadd dL_law_1616 ?_
        refine j_sald dL_law_1617 hf (fun v232 hf => ?_)
        refine kc_X0_262 rfl rfl rfl (by decide) dL_law_1618 hf (fun v234 h233 hf => ?_)
        refine j_istore [some (va_rf x0), some (va_rf x1), some (va_rf x2), some (va_rf x3), some (.int x4), some (.int v231), some (.int v234)] dL_law_1621 (cz rfl) rfl rfl ?_
        refine j_aload_n 2 dL_law_1623 rfl rfl ?_
        refine kc_X0_152 rfl rfl rfl (by decide) dL_law_1624 hf (fun v236 h235 hf => ?_)
        refine j_iload dL_law_1627 rfl ?_
        refine j_icmp_eq 1634 dL_law_1629 (by decide) hf (fun c_ hf => ?_) (fun c_ hf => ?_)
        · refine j_iload dL_law_1634 rfl ?_
          refine j_if_ne 1651 dL_law_1636 (by decide) hf (fun c_ hf => ?_) (fun c_ hf => ?_)
          · refine j_weak [some (va_rf x0), some (va_rf x1), some (va_rf x2), some (va_rf x3), some (.int x4), none, none] (Wk.k (Wk.k (Wk.k (Wk.k (Wk.k (Wk.s (Wk.s Wk.n))))))) ?_
            exact pf_L_law_B1651 hQ (f_L_law_L23 n) ih x0 x1 x2 x3 x4 h235 hf
          · refine j_aload_n 3 dL_law_1639 rfl rfl ?_
            refine j_iconst (0 : Int32) dL_law_1640 (by decide) ?_
            refine j_lald dL_law_1641 hf (fun v237 hf => ?_)
            refine j_iload dL_law_1642 rfl ?_
            refine j_i2l dL_law_1644 ?_
            refine j_lcmp dL_law_1645 ?_
            refine j_if_eq 1651 dL_law_1646 (by decide) hf (fun c_ hf => ?_) (fun c_ hf => ?_)
            · refine j_weak [some (va_rf x0), some (va_rf x1), some (va_rf x2), some (va_rf x3), some (.int x4), none, none] (Wk.k (Wk.k (Wk.k (Wk.k (Wk.k (Wk.s (Wk.s Wk.n))))))) ?_
              exact pf_L_law_B1651 hQ (f_L_law_L23 n) ih x0 x1 x2 x3 x4 h235 hf
            · refine j_iconst (0 : Int32) dL_law_1649 (by decide) ?_
              obtain ⟨hn9, hf⟩ := rN_in hf
              subst hf
              exact hQ _ _ _ dL_law_1650 rfl
        · refine j_iconst (0 : Int32) dL_law_1632 (by decide) ?_
          obtain ⟨hn9, hf⟩ := rN_in hf
          subst hf
          exact hQ _ _ _ dL_law_1633 rfl
      refine j_case (31 : Int32) hf (fun hf => ?_) (fun c31 hf => ?_)
      · refine j_tableIn 1654 dL_law_39 (by decide) (by decide) rfl (by decide) ?_
        refine j_aload_n 1 dL_law_1654 rfl rfl ?_
        refine j_aload_n 0 dL_law_1655 rfl rfl ?_
        refine j_iload dL_law_1656 rfl ?_
        refine j_iconst (1 : Int32) dL_law_1658 (by decide) ?_
        refine j_iadd dL_law_1659 ?_
        refine j_sald dL_law_1660 hf (fun v238 hf => ?_)
        refine j_aload_n 3 dL_law_1661 rfl rfl ?_
        refine kc_X0_263 rfl rfl rfl (by decide) dL_law_1662 hf (fun v240 h239 hf => ?_)
        refine j_istore [some (va_rf x0), some (va_rf x1), some (va_rf x2), some (va_rf x3), some (.int x4), some (.int v240), none] dL_law_1665 (cz rfl) rfl rfl ?_
        refine j_aload_n 2 dL_law_1667 rfl rfl ?_
        refine j_aload_n 0 dL_law_1668 rfl rfl ?_
        refine j_iload dL_law_1669 rfl ?_
        refine j_iconst (1 : Int32) dL_law_1671 (by decide) ?_
        refine j_iadd dL_law_1672 ?_
        refine j_sald dL_law_1673 hf (fun v241 hf => ?_)
        refine kc_X0_265 rfl rfl rfl (by decide) dL_law_1674 hf (fun v243 h242 hf => ?_)
        refine j_istore [some (va_rf x0), some (va_rf x1), some (va_rf x2), some (va_rf x3), some (.int x4), some (.int v240), some (.int v243)] dL_law_1677 (cz rfl) rfl rfl ?_
        refine j_aload_n 2 dL_law_1679 rfl rfl ?_
        refine kc_X0_152 rfl rfl rfl (by decide) dL_law_1680 hf (fun v245 h244 hf => ?_)
        refine j_iload dL_law_1683 rfl ?_
        refine j_icmp_eq 1690 dL_law_1685 (by decide) hf (fun c_ hf => ?_) (fun c_ hf => ?_)
        · refine j_iload dL_law_1690 rfl ?_
          refine j_if_ne 1707 dL_law_1692 (by decide) hf (fun c_ hf => ?_) (fun c_ hf => ?_)
          · refine j_weak [some (va_rf x0), some (va_rf x1), some (va_rf x2), some (va_rf x3), some (.int x4), none, none] (Wk.k (Wk.k (Wk.k (Wk.k (Wk.k (Wk.s (Wk.s Wk.n))))))) ?_
            exact pf_L_law_B1707 hQ (f_L_law_L23 n) ih x0 x1 x2 x3 x4 h244 hf
          · refine j_aload_n 3 dL_law_1695 rfl rfl ?_
            refine j_iconst (0 : Int32) dL_law_1696 (by decide) ?_
            refine j_lald dL_law_1697 hf (fun v246 hf => ?_)
            refine j_iload dL_law_1698 rfl ?_
            refine j_i2l dL_law_1700 ?_
            refine j_lcmp dL_law_1701 ?_
            refine j_if_eq 1707 dL_law_1702 (by decide) hf (fun c_ hf => ?_) (fun c_ hf => ?_)
            · refine j_weak [some (va_rf x0), some (va_rf x1), some (va_rf x2), some (va_rf x3), some (.int x4), none, none] (Wk.k (Wk.k (Wk.k (Wk.k (Wk.k (Wk.s (Wk.s Wk.n))))))) ?_
              exact pf_L_law_B1707 hQ (f_L_law_L23 n) ih x0 x1 x2 x3 x4 h244 hf
            · refine j_iconst (0 : Int32) dL_law_1705 (by decide) ?_
              obtain ⟨hn9, hf⟩ := rN_in hf
              subst hf
              exact hQ _ _ _ dL_law_1706 rfl
        · refine j_iconst (0 : Int32) dL_law_1688 (by decide) ?_
          obtain ⟨hn9, hf⟩ := rN_in hf
          subst hf
          exact hQ _ _ _ dL_law_1689 rfl
      refine j_case (32 : Int32) hf (fun hf => ?_) (fun c32 hf => ?_)
      · refine j_tableIn 1710 dL_law_39 (by decide) (by decide) rfl (by decide) ?_
        refine j_aload_n 1 dL_law_1710 rfl rfl ?_
        refine j_aload_n 0 dL_law_1711 rfl rfl ?_
        refine j_iload dL_law_1712 rfl ?_
        refine j_iconst (1 : Int32) dL_law_1714 (by decide) ?_
        refine j_iadd dL_law_1715 ?_
        refine j_sald dL_law_1716 hf (fun v247 hf => ?_)
        refine j_aload_n 3 dL_law_1717 rfl rfl ?_
        refine kc_X0_266 rfl rfl rfl (by decide) dL_law_1718 hf (fun v249 h248 hf => ?_)
        refine j_istore [some (va_rf x0), some (va_rf x1), some (va_rf x2), some (va_rf x3), some (.int x4), some (.int v249), none] dL_law_1721 (cz rfl) rfl rfl ?_
        refine j_aload_n 2 dL_law_1723 rfl rfl ?_
        refine j_aload_n 0 dL_law_1724 rfl rfl ?_
        refine j_iload dL_law_1725 rfl ?_
        refine j_iconst (1 : Int32) dL_law_1727 (by decide) ?_
        refine j_iadd dL_law_1728 ?_
        refine j_sald dL_law_1729 hf (fun v250 hf => ?_)
        refine kc_X0_268 rfl rfl rfl (by decide) dL_law_1730 hf (fun v252 h251 hf => ?_)
        refine j_istore [some (va_rf x0), some (va_rf x1), some (va_rf x2), some (va_rf x3), some (.int x4), some (.int v249), some (.int v252)] dL_law_1733 (cz rfl) rfl rfl ?_
        refine j_aload_n 2 dL_law_1735 rfl rfl ?_
        refine kc_X0_152 rfl rfl rfl (by decide) dL_law_1736 hf (fun v254 h253 hf => ?_)
        refine j_iload dL_law_1739 rfl ?_
        refine j_icmp_eq 1746 dL_law_1741 (by decide) hf (fun c_ hf => ?_) (fun c_ hf => ?_)
        · refine j_iload dL_law_1746 rfl ?_
          refine j_if_ne 1763 dL_law_1748 (by decide) hf (fun c_ hf => ?_) (fun c_ hf => ?_)
          · refine j_weak [some (va_rf x0), some (va_rf x1), some (va_rf x2), some (va_rf x3), some (.int x4), none, none] (Wk.k (Wk.k (Wk.k (Wk.k (Wk.k (Wk.s (Wk.s Wk.n))))))) ?_
            exact pf_L_law_B1763 hQ (f_L_law_L23 n) ih x0 x1 x2 x3 x4 h253 hf
          · refine j_aload_n 3 dL_law_1751 rfl rfl ?_
            refine j_iconst (0 : Int32) dL_law_1752 (by decide) ?_
            refine j_lald dL_law_1753 hf (fun v255 hf => ?_)
            refine j_iload dL_law_1754 rfl ?_
            refine j_i2l dL_law_1756 ?_
            refine j_lcmp dL_law_1757 ?_
            refine j_if_eq 1763 dL_law_1758 (by decide) hf (fun c_ hf => ?_) (fun c_ hf => ?_)
            · refine j_weak [some (va_rf x0), some (va_rf x1), some (va_rf x2), some (va_rf x3), some (.int x4), none, none] (Wk.k (Wk.k (Wk.k (Wk.k (Wk.k (Wk.s (Wk.s Wk.n))))))) ?_
              exact pf_L_law_B1763 hQ (f_L_law_L23 n) ih x0 x1 x2 x3 x4 h253 hf
            · refine j_iconst (0 : Int32) dL_law_1761 (by decide) ?_
              obtain ⟨hn9, hf⟩ := rN_in hf
              subst hf
              exact hQ _ _ _ dL_law_1762 rfl
        · refine j_iconst (0 : Int32) dL_law_1744 (by decide) ?_
          obtain ⟨hn9, hf⟩ := rN_in hf
          subst hf
          exact hQ _ _ _ dL_law_1745 rfl
      refine j_case (33 : Int32) hf (fun hf => ?_) (fun c33 hf => ?_)
      · refine j_tableIn 1766 dL_law_39 (by decide) (by decide) rfl (by decide) ?_
        refine j_aload_n 1 dL_law_1766 rfl rfl ?_
        refine j_aload_n 0 dL_law_1767 rfl rfl ?_
        refine j_iload dL_law_1768 rfl ?_
        refine j_iconst (1 : Int32) dL_law_1770 (by decide) ?_
        refine j_iadd dL_law_1771 ?_
        refine j_sald dL_law_1772 hf (fun v256 hf => ?_)
        refine j_aload_n 3 dL_law_1773 rfl rfl ?_
        refine kc_X0_269 rfl rfl rfl (by decide) dL_law_1774 hf (fun v258 h257 hf => ?_)
        refine j_istore [some (va_rf x0), some (va_rf x1), some (va_rf x2), some (va_rf x3), some (.int x4), some (.int v258), none] dL_law_1777 (cz rfl) rfl rfl ?_
        refine j_aload_n 2 dL_law_1779 rfl rfl ?_
        refine j_aload_n 0 dL_law_1780 rfl rfl ?_
        refine j_iload dL_law_1781 rfl ?_
        refine j_iconst (1 : Int32) dL_law_1783 (by decide) ?_
        refine j_iadd dL_law_1784 ?_
        refine j_sald dL_law_1785 hf (fun v259 hf => ?_)
        refine kc_X0_271 rfl rfl rfl (by decide) dL_law_1786 hf (fun v261 h260 hf => ?_)
        refine j_istore [some (va_rf x0), some (va_rf x1), some (va_rf x2), some (va_rf x3), some (.int x4), some (.int v258), some (.int v261)] dL_law_1789 (cz rfl) rfl rfl ?_
        refine j_aload_n 2 dL_law_1791 rfl rfl ?_
        refine kc_X0_152 rfl rfl rfl (by decide) dL_law_1792 hf (fun v263 h262 hf => ?_)
        refine j_iload dL_law_1795 rfl ?_
        refine j_icmp_eq 1802 dL_law_1797 (by decide) hf (fun c_ hf => ?_) (fun c_ hf => ?_)
        · refine j_iload dL_law_1802 rfl ?_
          refine j_if_ne 1819 dL_law_1804 (by decide) hf (fun c_ hf => ?_) (fun c_ hf => ?_)
          · refine j_weak [some (va_rf x0), some (va_rf x1), some (va_rf x2), some (va_rf x3), some (.int x4), none, none] (Wk.k (Wk.k (Wk.k (Wk.k (Wk.k (Wk.s (Wk.s Wk.n))))))) ?_
            exact pf_L_law_B1819 hQ (f_L_law_L23 n) ih x0 x1 x2 x3 x4 h262 hf
          · refine j_aload_n 3 dL_law_1807 rfl rfl ?_
            refine j_iconst (0 : Int32) dL_law_1808 (by decide) ?_
            refine j_lald dL_law_1809 hf (fun v264 hf => ?_)
            refine j_iload dL_law_1810 rfl ?_
            refine j_i2l dL_law_1812 ?_
            refine j_lcmp dL_law_1813 ?_
            refine j_if_eq 1819 dL_law_1814 (by decide) hf (fun c_ hf => ?_) (fun c_ hf => ?_)
            · refine j_weak [some (va_rf x0), some (va_rf x1), some (va_rf x2), some (va_rf x3), some (.int x4), none, none] (Wk.k (Wk.k (Wk.k (Wk.k (Wk.k (Wk.s (Wk.s Wk.n))))))) ?_
              exact pf_L_law_B1819 hQ (f_L_law_L23 n) ih x0 x1 x2 x3 x4 h262 hf
            · refine j_iconst (0 : Int32) dL_law_1817 (by decide) ?_
              obtain ⟨hn9, hf⟩ := rN_in hf
              subst hf
              exact hQ _ _ _ dL_law_1818 rfl
        · refine j_iconst (0 : Int32) dL_law_1800 (by decide) ?_
          obtain ⟨hn9, hf⟩ := rN_in hf
          subst hf
          exact hQ _ _ _ dL_law_1801 rfl
      refine j_case (34 : Int32) hf (fun hf => ?_) (fun c34 hf => ?_)
      · refine j_tableIn 1822 dL_law_39 (by decide) (by decide) rfl (by decide) ?_
        refine j_aload_n 1 dL_law_1822 rfl rfl ?_
        refine j_aload_n 0 dL_law_1823 rfl rfl ?_
        refine j_iload dL_law_1824 rfl ?_
        refine j_iconst (1 : Int32) dL_law_1826 (by decide) ?_
        refine j_iadd dL_law_1827 ?_
        refine j_sald dL_law_1828 hf (fun v265 hf => ?_)
        refine j_aload_n 3 dL_law_1829 rfl rfl ?_
        refine kc_X0_272 rfl rfl rfl (by decide) dL_law_1830 hf (fun v267 h266 hf => ?_)
        refine j_istore [some (va_rf x0), some (va_rf x1), some (va_rf x2), some (va_rf x3), some (.int x4), some (.int v267), none] dL_law_1833 (cz rfl) rfl rfl ?_
        refine j_aload_n 2 dL_law_1835 rfl rfl ?_
        refine j_aload_n 0 dL_law_1836 rfl rfl ?_
        refine j_iload dL_law_1837 rfl ?_
        refine j_iconst (1 : Int32) dL_law_1839 (by decide) ?_
        refine j_iadd dL_law_1840 ?_
        refine j_sald dL_law_1841 hf (fun v268 hf => ?_)
        refine kc_X0_274 rfl rfl rfl (by decide) dL_law_1842 hf (fun v270 h269 hf => ?_)
        refine j_istore [some (va_rf x0), some (va_rf x1), some (va_rf x2), some (va_rf x3), some (.int x4), some (.int v267), some (.int v270)] dL_law_1845 (cz rfl) rfl rfl ?_
        refine j_aload_n 2 dL_law_1847 rfl rfl ?_
        refine kc_X0_152 rfl rfl rfl (by decide) dL_law_1848 hf (fun v272 h271 hf => ?_)
        refine j_iload dL_law_1851 rfl ?_
        refine j_icmp_eq 1858 dL_law_1853 (by decide) hf (fun c_ hf => ?_) (fun c_ hf => ?_)
        · refine j_iload dL_law_1858 rfl ?_
          refine j_if_ne 1875 dL_law_1860 (by decide) hf (fun c_ hf => ?_) (fun c_ hf => ?_)
          · refine j_weak [some (va_rf x0), some (va_rf x1), some (va_rf x2), some (va_rf x3), some (.int x4), none, none] (Wk.k (Wk.k (Wk.k (Wk.k (Wk.k (Wk.s (Wk.s Wk.n))))))) ?_
            exact pf_L_law_B1875 hQ (f_L_law_L23 n) ih x0 x1 x2 x3 x4 h271 hf
          · refine j_aload_n 3 dL_law_1863 rfl rfl ?_
            refine j_iconst (0 : Int32) dL_law_1864 (by decide) ?_
            refine j_lald dL_law_1865 hf (fun v273 hf => ?_)
            refine j_iload dL_law_1866 rfl ?_
            refine j_i2l dL_law_1868 ?_
            refine j_lcmp dL_law_1869 ?_
            refine j_if_eq 1875 dL_law_1870 (by decide) hf (fun c_ hf => ?_) (fun c_ hf => ?_)
            · refine j_weak [some (va_rf x0), some (va_rf x1), some (va_rf x2), some (va_rf x3), some (.int x4), none, none] (Wk.k (Wk.k (Wk.k (Wk.k (Wk.k (Wk.s (Wk.s Wk.n))))))) ?_
              exact pf_L_law_B1875 hQ (f_L_law_L23 n) ih x0 x1 x2 x3 x4 h271 hf
            · refine j_iconst (0 : Int32) dL_law_1873 (by decide) ?_
              obtain ⟨hn9, hf⟩ := rN_in hf
              subst hf
              exact hQ _ _ _ dL_law_1874 rfl
        · refine j_iconst (0 : Int32) dL_law_1856 (by decide) ?_
          obtain ⟨hn9, hf⟩ := rN_in hf
          subst hf
          exact hQ _ _ _ dL_law_1857 rfl
      refine j_case (35 : Int32) hf (fun hf => ?_) (fun c35 hf => ?_)
      · refine j_tableIn 1878 dL_law_39 (by decide) (by decide) rfl (by decide) ?_
        refine j_aload_n 1 dL_law_1878 rfl rfl ?_
        refine j_aload_n 0 dL_law_1879 rfl rfl ?_
        refine j_iload dL_law_1880 rfl ?_
        refine j_iconst (1 : Int32) dL_law_1882 (by decide) ?_
        refine j_iadd dL_law_1883 ?_
        refine j_sald dL_law_1884 hf (fun v274 hf => ?_)
        refine j_aload_n 3 dL_law_1885 rfl rfl ?_
        refine kc_X0_275 rfl rfl rfl (by decide) dL_law_1886 hf (fun v276 h275 hf => ?_)
        refine j_istore [some (va_rf x0), some (va_rf x1), some (va_rf x2), some (va_rf x3), some (.int x4), some (.int v276), none] dL_law_1889 (cz rfl) rfl rfl ?_
        refine j_aload_n 2 dL_law_1891 rfl rfl ?_
        refine j_aload_n 0 dL_law_1892 rfl rfl ?_
        refine j_iload dL_law_1893 rfl ?_
        refine j_iconst (1 : Int32) dL_law_1895 (by decide) ?_
        refine j_iadd dL_law_1896 ?_
        refine j_sald dL_law_1897 hf (fun v277 hf => ?_)
        refine kc_X0_277 rfl rfl rfl (by decide) dL_law_1898 hf (fun v279 h278 hf => ?_)
        refine j_istore [some (va_rf x0), some (va_rf x1), some (va_rf x2), some (va_rf x3), some (.int x4), some (.int v276), some (.int v279)] dL_law_1901 (cz rfl) rfl rfl ?_
        refine j_aload_n 2 dL_law_1903 rfl rfl ?_
        refine kc_X0_152 rfl rfl rfl (by decide) dL_law_1904 hf (fun v281 h280 hf => ?_)
        refine j_iload dL_law_1907 rfl ?_
        refine j_icmp_eq 1914 dL_law_1909 (by decide) hf (fun c_ hf => ?_) (fun c_ hf => ?_)
        · refine j_iload dL_law_1914 rfl ?_
          refine j_if_ne 1931 dL_law_1916 (by decide) hf (fun c_ hf => ?_) (fun c_ hf => ?_)
          · refine j_weak [some (va_rf x0), some (va_rf x1), some (va_rf x2), some (va_rf x3), some (.int x4), none, none] (Wk.k (Wk.k (Wk.k (Wk.k (Wk.k (Wk.s (Wk.s Wk.n))))))) ?_
            exact pf_L_law_B1931 hQ (f_L_law_L23 n) ih x0 x1 x2 x3 x4 h280 hf
          · refine j_aload_n 3 dL_law_1919 rfl rfl ?_
            refine j_iconst (0 : Int32) dL_law_1920 (by decide) ?_
            refine j_lald dL_law_1921 hf (fun v282 hf => ?_)
            refine j_iload dL_law_1922 rfl ?_
            refine j_i2l dL_law_1924 ?_
            refine j_lcmp dL_law_1925 ?_
            refine j_if_eq 1931 dL_law_1926 (by decide) hf (fun c_ hf => ?_) (fun c_ hf => ?_)
            · refine j_weak [some (va_rf x0), some (va_rf x1), some (va_rf x2), some (va_rf x3), some (.int x4), none, none] (Wk.k (Wk.k (Wk.k (Wk.k (Wk.k (Wk.s (Wk.s Wk.n))))))) ?_
              exact pf_L_law_B1931 hQ (f_L_law_L23 n) ih x0 x1 x2 x3 x4 h280 hf
            · refine j_iconst (0 : Int32) dL_law_1929 (by decide) ?_
              obtain ⟨hn9, hf⟩ := rN_in hf
              subst hf
              exact hQ _ _ _ dL_law_1930 rfl
        · refine j_iconst (0 : Int32) dL_law_1912 (by decide) ?_
          obtain ⟨hn9, hf⟩ := rN_in hf
          subst hf
          exact hQ _ _ _ dL_law_1913 rfl
      refine j_case (36 : Int32) hf (fun hf => ?_) (fun c36 hf => ?_)
      · refine j_tableIn 1934 dL_law_39 (by decide) (by decide) rfl (by decide) ?_
        refine j_aload_n 1 dL_law_1934 rfl rfl ?_
        refine kc_X0_278 rfl rfl rfl (by decide) dL_law_1935 hf (fun v284 h283 hf => ?_)
        refine j_aload_n 2 dL_law_1938 rfl rfl ?_
        refine kc_X0_281 rfl rfl rfl (by simp [va_rf_cat, cat_i, cat_l]) dL_law_1939 hf (fun v286 h285 hf => ?_)
        refine j_icmp_eq 3144 dL_law_1942 (by decide) hf (fun c_ hf => ?_) (fun c_ hf => ?_)
        · exact pf_L_law_B3144 hQ (f_L_law_L23 n) ih x0 x1 x2 x3 x4 h285 hf
        · refine j_iconst (0 : Int32) dL_law_1945 (by decide) ?_
          obtain ⟨hn9, hf⟩ := rN_in hf
          subst hf
          exact hQ _ _ _ dL_law_1946 rfl
      refine j_case (37 : Int32) hf (fun hf => ?_) (fun c37 hf => ?_)
      · refine j_tableIn 1947 dL_law_39 (by decide) (by decide) rfl (by decide) ?_
        refine j_aload_n 1 dL_law_1947 rfl rfl ?_
        refine kc_X0_282 rfl rfl rfl (by decide) dL_law_1948 hf (fun v288 h287 hf => ?_)
        refine j_aload_n 2 dL_law_1951 rfl rfl ?_
        refine kc_X0_285 rfl rfl rfl (by simp [va_rf_cat, cat_i, cat_l]) dL_law_1952 hf (fun v290 h289 hf => ?_)
        refine j_icmp_eq 3144 dL_law_1955 (by decide) hf (fun c_ hf => ?_) (fun c_ hf => ?_)
        · exact pf_L_law_B3144 hQ (f_L_law_L23 n) ih x0 x1 x2 x3 x4 h289 hf
        · refine j_iconst (0 : Int32) dL_law_1958 (by decide) ?_
          obtain ⟨hn9, hf⟩ := rN_in hf
          subst hf
          exact hQ _ _ _ dL_law_1959 rfl
      refine j_case (38 : Int32) hf (fun hf => ?_) (fun c38 hf => ?_)
      · refine j_tableIn 1960 dL_law_39 (by decide) (by decide) rfl (by decide) ?_
        refine j_aload_n 1 dL_law_1960 rfl rfl ?_
        refine kc_X0_286 rfl rfl rfl (by decide) dL_law_1961 hf (fun v292 h291 hf => ?_)
        refine j_aload_n 2 dL_law_1964 rfl rfl ?_
        refine kc_X0_289 rfl rfl rfl (by simp [va_rf_cat, cat_i, cat_l]) dL_law_1965 hf (fun v294 h293 hf => ?_)
        refine j_icmp_eq 3144 dL_law_1968 (by decide) hf (fun c_ hf => ?_) (fun c_ hf => ?_)
        · exact pf_L_law_B3144 hQ (f_L_law_L23 n) ih x0 x1 x2 x3 x4 h293 hf
        · refine j_iconst (0 : Int32) dL_law_1971 (by decide) ?_
          obtain ⟨hn9, hf⟩ := rN_in hf
          subst hf
          exact hQ _ _ _ dL_law_1972 rfl
      refine j_case (39 : Int32) hf (fun hf => ?_) (fun c39 hf => ?_)
      · refine j_tableIn 1973 dL_law_39 (by decide) (by decide) rfl (by decide) ?_
        refine j_aload_n 1 dL_law_1973 rfl rfl ?_
        refine kc_X0_290 rfl rfl rfl (by decide) dL_law_1974 hf (fun v296 h295 hf => ?_)
        refine j_aload_n 2 dL_law_1977 rfl rfl ?_
        refine kc_X0_293 rfl rfl rfl (by simp [va_rf_cat, cat_i, cat_l]) dL_law_1978 hf (fun v298 h297 hf => ?_)
        refine j_icmp_eq 3144 dL_law_1981 (by decide) hf (fun c_ hf => ?_) (fun c_ hf => ?_)
        · exact pf_L_law_B3144 hQ (f_L_law_L23 n) ih x0 x1 x2 x3 x4 h297 hf
        · refine j_iconst (0 : Int32) dL_law_1984 (by decide) ?_
          obtain ⟨hn9, hf⟩ := rN_in hf
          subst hf
          exact hQ _ _ _ dL_law_1985 rfl
      refine j_case (40 : Int32) hf (fun hf => ?_) (fun c40 hf => ?_)
      · refine j_tableIn 1986 dL_law_39 (by decide) (by decide) rfl (by decide) ?_
        refine j_aload_n 1 dL_law_1986 rfl rfl ?_
        refine j_aload_n 0 dL_law_1987 rfl rfl ?_
        refine j_iload dL_law_1988 rfl ?_
        refine j_iconst (1 : Int32) dL_law_1990 (by decide) ?_
        refine j_iadd dL_law_1991 ?_
        refine j_sald dL_law_1992 hf (fun v299 hf => ?_)
        refine j_aload_n 3 dL_law_1993 rfl rfl ?_
        refine kc_X0_294 rfl rfl rfl (by decide) dL_law_1994 hf (fun v301 h300 hf => ?_)
        refine j_istore [some (va_rf x0), some (va_rf x1), some (va_rf x2), some (va_rf x3), some (.int x4), some (.int v301), none] dL_law_1997 (cz rfl) rfl rfl ?_
        refine j_aload_n 2 dL_law_1999 rfl rfl ?_
        refine j_aload_n 0 dL_law_2000 rfl rfl ?_
        refine j_iload dL_law_2001 rfl ?_
        refine j_iconst (1 : Int32) dL_law_2003 (by decide) ?_
        refine j_iadd dL_law_2004 ?_
        refine j_sald dL_law_2005 hf (fun v302 hf => ?_)
        refine kc_X0_296 rfl rfl rfl (by decide) dL_law_2006 hf (fun v304 h303 hf => ?_)
        refine j_istore [some (va_rf x0), some (va_rf x1), some (va_rf x2), some (va_rf x3), some (.int x4), some (.int v301), some (.int v304)] dL_law_2009 (cz rfl) rfl rfl ?_
        refine j_aload_n 2 dL_law_2011 rfl rfl ?_
        refine kc_X0_152 rfl rfl rfl (by decide) dL_law_2012 hf (fun v306 h305 hf => ?_)
        refine j_iload dL_law_2015 rfl ?_
        refine j_icmp_eq 2022 dL_law_2017 (by decide) hf (fun c_ hf => ?_) (fun c_ hf => ?_)
        · refine j_iload dL_law_2022 rfl ?_
          refine j_if_ne 2039 dL_law_2024 (by decide) hf (fun c_ hf => ?_) (fun c_ hf => ?_)
          · refine j_weak [some (va_rf x0), some (va_rf x1), some (va_rf x2), some (va_rf x3), some (.int x4), none, none] (Wk.k (Wk.k (Wk.k (Wk.k (Wk.k (Wk.s (Wk.s Wk.n))))))) ?_
            exact pf_L_law_B2039 hQ (f_L_law_L23 n) ih x0 x1 x2 x3 x4 h305 hf
          · refine j_aload_n 3 dL_law_2027 rfl rfl ?_
            refine j_iconst (0 : Int32) dL_law_2028 (by decide) ?_
            refine j_lald dL_law_2029 hf (fun v307 hf => ?_)
            refine j_iload dL_law_2030 rfl ?_
            refine j_i2l dL_law_2032 ?_
            refine j_lcmp dL_law_2033 ?_
            refine j_if_eq 2039 dL_law_2034 (by decide) hf (fun c_ hf => ?_) (fun c_ hf => ?_)
            · refine j_weak [some (va_rf x0), some (va_rf x1), some (va_rf x2), some (va_rf x3), some (.int x4), none, none] (Wk.k (Wk.k (Wk.k (Wk.k (Wk.k (Wk.s (Wk.s Wk.n))))))) ?_
              exact pf_L_law_B2039 hQ (f_L_law_L23 n) ih x0 x1 x2 x3 x4 h305 hf
            · refine j_iconst (0 : Int32) dL_law_2037 (by decide) ?_
              obtain ⟨hn9, hf⟩ := rN_in hf
              subst hf
              exact hQ _ _ _ dL_law_2038 rfl
        · refine j_iconst (0 : Int32) dL_law_2020 (by decide) ?_
          obtain ⟨hn9, hf⟩ := rN_in hf
          subst hf
          exact hQ _ _ _ dL_law_2021 rfl
      refine j_case (41 : Int32) hf (fun hf => ?_) (fun c41 hf => ?_)
      · refine j_tableIn 2042 dL_law_39 (by decide) (by decide) rfl (by decide) ?_
        refine j_aload_n 1 dL_law_2042 rfl rfl ?_
        refine j_aload_n 0 dL_law_2043 rfl rfl ?_
        refine j_iload dL_law_2044 rfl ?_
        refine j_iconst (1 : Int32) dL_law_2046 (by decide) ?_
        refine j_iadd dL_law_2047 ?_
        refine j_sald dL_law_2048 hf (fun v308 hf => ?_)
        refine j_aload_n 3 dL_law_2049 rfl rfl ?_
        refine kc_X0_297 rfl rfl rfl (by decide) dL_law_2050 hf (fun v310 h309 hf => ?_)
        refine j_istore [some (va_rf x0), some (va_rf x1), some (va_rf x2), some (va_rf x3), some (.int x4), some (.int v310), none] dL_law_2053 (cz rfl) rfl rfl ?_
        refine j_aload_n 2 dL_law_2055 rfl rfl ?_
        refine j_aload_n 0 dL_law_2056 rfl rfl ?_
        refine j_iload dL_law_2057 rfl ?_
        refine j_iconst (1 : Int32) dL_law_2059 (by decide) ?_
        refine j_iadd dL_law_2060 ?_
        refine j_sald dL_law_2061 hf (fun v311 hf => ?_)
        refine kc_X0_299 rfl rfl rfl (by decide) dL_law_2062 hf (fun v313 h312 hf => ?_)
        refine j_istore [some (va_rf x0), some (va_rf x1), some (va_rf x2), some (va_rf x3), some (.int x4), some (.int v310), some (.int v313)] dL_law_2065 (cz rfl) rfl rfl ?_
        refine j_aload_n 2 dL_law_2067 rfl rfl ?_
        refine kc_X0_152 rfl rfl rfl (by decide) dL_law_2068 hf (fun v315 h314 hf => ?_)
        refine j_iload dL_law_2071 rfl ?_
        refine j_icmp_eq 2078 dL_law_2073 (by decide) hf (fun c_ hf => ?_) (fun c_ hf => ?_)
        · refine j_iload dL_law_2078 rfl ?_
          refine j_if_ne 2095 dL_law_2080 (by decide) hf (fun c_ hf => ?_) (fun c_ hf => ?_)
          · refine j_weak [some (va_rf x0), some (va_rf x1), some (va_rf x2), some (va_rf x3), some (.int x4), none, none] (Wk.k (Wk.k (Wk.k (Wk.k (Wk.k (Wk.s (Wk.s Wk.n))))))) ?_
            exact pf_L_law_B2095 hQ (f_L_law_L23 n) ih x0 x1 x2 x3 x4 h314 hf
          · refine j_aload_n 3 dL_law_2083 rfl rfl ?_
            refine j_iconst (0 : Int32) dL_law_2084 (by decide) ?_
            refine j_lald dL_law_2085 hf (fun v316 hf => ?_)
            refine j_iload dL_law_2086 rfl ?_
            refine j_i2l dL_law_2088 ?_
            refine j_lcmp dL_law_2089 ?_
            refine j_if_eq 2095 dL_law_2090 (by decide) hf (fun c_ hf => ?_) (fun c_ hf => ?_)
            · refine j_weak [some (va_rf x0), some (va_rf x1), some (va_rf x2), some (va_rf x3), some (.int x4), none, none] (Wk.k (Wk.k (Wk.k (Wk.k (Wk.k (Wk.s (Wk.s Wk.n))))))) ?_
              exact pf_L_law_B2095 hQ (f_L_law_L23 n) ih x0 x1 x2 x3 x4 h314 hf
            · refine j_iconst (0 : Int32) dL_law_2093 (by decide) ?_
              obtain ⟨hn9, hf⟩ := rN_in hf
              subst hf
              exact hQ _ _ _ dL_law_2094 rfl
        · refine j_iconst (0 : Int32) dL_law_2076 (by decide) ?_
          obtain ⟨hn9, hf⟩ := rN_in hf
          subst hf
          exact hQ _ _ _ dL_law_2077 rfl
      refine j_case (42 : Int32) hf (fun hf => ?_) (fun c42 hf => ?_)
      · refine j_tableIn 2098 dL_law_39 (by decide) (by decide) rfl (by decide) ?_
        refine j_aload_n 1 dL_law_2098 rfl rfl ?_
        refine j_aload_n 0 dL_law_2099 rfl rfl ?_
        refine j_iload dL_law_2100 rfl ?_
        refine j_iconst (1 : Int32) dL_law_2102 (by decide) ?_
        refine j_iadd dL_law_2103 ?_
        refine j_sald dL_law_2104 hf (fun v317 hf => ?_)
        refine j_aload_n 3 dL_law_2105 rfl rfl ?_
        refine kc_X0_300 rfl rfl rfl (by decide) dL_law_2106 hf (fun v319 h318 hf => ?_)
        refine j_istore [some (va_rf x0), some (va_rf x1), some (va_rf x2), some (va_rf x3), some (.int x4), some (.int v319), none] dL_law_2109 (cz rfl) rfl rfl ?_
        refine j_aload_n 2 dL_law_2111 rfl rfl ?_
        refine j_aload_n 0 dL_law_2112 rfl rfl ?_
        refine j_iload dL_law_2113 rfl ?_
        refine j_iconst (1 : Int32) dL_law_2115 (by decide) ?_
        refine j_iadd dL_law_2116 ?_
        refine j_sald dL_law_2117 hf (fun v320 hf => ?_)
        refine kc_X0_302 rfl rfl rfl (by decide) dL_law_2118 hf (fun v322 h321 hf => ?_)
        refine j_istore [some (va_rf x0), some (va_rf x1), some (va_rf x2), some (va_rf x3), some (.int x4), some (.int v319), some (.int v322)] dL_law_2121 (cz rfl) rfl rfl ?_
        refine j_aload_n 2 dL_law_2123 rfl rfl ?_
        refine kc_X0_152 rfl rfl rfl (by decide) dL_law_2124 hf (fun v324 h323 hf => ?_)
        refine j_iload dL_law_2127 rfl ?_
        refine j_icmp_eq 2134 dL_law_2129 (by decide) hf (fun c_ hf => ?_) (fun c_ hf => ?_)
        · refine j_iload dL_law_2134 rfl ?_
          refine j_if_ne 2151 dL_law_2136 (by decide) hf (fun c_ hf => ?_) (fun c_ hf => ?_)
          · refine j_weak [some (va_rf x0), some (va_rf x1), some (va_rf x2), some (va_rf x3), some (.int x4), none, none] (Wk.k (Wk.k (Wk.k (Wk.k (Wk.k (Wk.s (Wk.s Wk.n))))))) ?_
            exact pf_L_law_B2151 hQ (f_L_law_L23 n) ih x0 x1 x2 x3 x4 h323 hf
          · refine j_aload_n 3 dL_law_2139 rfl rfl ?_
            refine j_iconst (0 : Int32) dL_law_2140 (by decide) ?_
            refine j_lald dL_law_2141 hf (fun v325 hf => ?_)
            refine j_iload dL_law_2142 rfl ?_
            refine j_i2l dL_law_2144 ?_
            refine j_lcmp dL_law_2145 ?_
            refine j_if_eq 2151 dL_law_2146 (by decide) hf (fun c_ hf => ?_) (fun c_ hf => ?_)
            · refine j_weak [some (va_rf x0), some (va_rf x1), some (va_rf x2), some (va_rf x3), some (.int x4), none, none] (Wk.k (Wk.k (Wk.k (Wk.k (Wk.k (Wk.s (Wk.s Wk.n))))))) ?_
              exact pf_L_law_B2151 hQ (f_L_law_L23 n) ih x0 x1 x2 x3 x4 h323 hf
            · refine j_iconst (0 : Int32) dL_law_2149 (by decide) ?_
              obtain ⟨hn9, hf⟩ := rN_in hf
              subst hf
              exact hQ _ _ _ dL_law_2150 rfl
        · refine j_iconst (0 : Int32) dL_law_2132 (by decide) ?_
          obtain ⟨hn9, hf⟩ := rN_in hf
          subst hf
          exact hQ _ _ _ dL_law_2133 rfl
      refine j_case (43 : Int32) hf (fun hf => ?_) (fun c43 hf => ?_)
      · refine j_tableIn 2154 dL_law_39 (by decide) (by decide) rfl (by decide) ?_
        refine j_aload_n 1 dL_law_2154 rfl rfl ?_
        refine j_aload_n 0 dL_law_2155 rfl rfl ?_
        refine j_iload dL_law_2156 rfl ?_
        refine j_iconst (1 : Int32) dL_law_2158 (by decide) ?_
        refine j_iadd dL_law_2159 ?_
        refine j_sald dL_law_2160 hf (fun v326 hf => ?_)
        refine j_aload_n 3 dL_law_2161 rfl rfl ?_
        refine kc_X0_303 rfl rfl rfl (by decide) dL_law_2162 hf (fun v328 h327 hf => ?_)
        refine j_istore [some (va_rf x0), some (va_rf x1), some (va_rf x2), some (va_rf x3), some (.int x4), some (.int v328), none] dL_law_2165 (cz rfl) rfl rfl ?_
        refine j_aload_n 2 dL_law_2167 rfl rfl ?_
        refine j_aload_n 0 dL_law_2168 rfl rfl ?_
        refine j_iload dL_law_2169 rfl ?_
        refine j_iconst (1 : Int32) dL_law_2171 (by decide) ?_
        refine j_iadd dL_law_2172 ?_
        refine j_sald dL_law_2173 hf (fun v329 hf => ?_)
        refine kc_X0_305 rfl rfl rfl (by decide) dL_law_2174 hf (fun v331 h330 hf => ?_)
        refine j_istore [some (va_rf x0), some (va_rf x1), some (va_rf x2), some (va_rf x3), some (.int x4), some (.int v328), some (.int v331)] dL_law_2177 (cz rfl) rfl rfl ?_
        refine j_aload_n 2 dL_law_2179 rfl rfl ?_
        refine kc_X0_152 rfl rfl rfl (by decide) dL_law_2180 hf (fun v333 h332 hf => ?_)
        refine j_iload dL_law_2183 rfl ?_
        refine j_icmp_eq 2190 dL_law_2185 (by decide) hf (fun c_ hf => ?_) (fun c_ hf => ?_)
        · refine j_iload dL_law_2190 rfl ?_
          refine j_if_ne 2207 dL_law_2192 (by decide) hf (fun c_ hf => ?_) (fun c_ hf => ?_)
          · refine j_weak [some (va_rf x0), some (va_rf x1), some (va_rf x2), some (va_rf x3), some (.int x4), none, none] (Wk.k (Wk.k (Wk.k (Wk.k (Wk.k (Wk.s (Wk.s Wk.n))))))) ?_
            exact pf_L_law_B2207 hQ (f_L_law_L23 n) ih x0 x1 x2 x3 x4 h332 hf
          · refine j_aload_n 3 dL_law_2195 rfl rfl ?_
            refine j_iconst (0 : Int32) dL_law_2196 (by decide) ?_
            refine j_lald dL_law_2197 hf (fun v334 hf => ?_)
            refine j_iload dL_law_2198 rfl ?_
            refine j_i2l dL_law_2200 ?_
            refine j_lcmp dL_law_2201 ?_
            refine j_if_eq 2207 dL_law_2202 (by decide) hf (fun c_ hf => ?_) (fun c_ hf => ?_)
            · refine j_weak [some (va_rf x0), some (va_rf x1), some (va_rf x2), some (va_rf x3), some (.int x4), none, none] (Wk.k (Wk.k (Wk.k (Wk.k (Wk.k (Wk.s (Wk.s Wk.n))))))) ?_
              exact pf_L_law_B2207 hQ (f_L_law_L23 n) ih x0 x1 x2 x3 x4 h332 hf
            · refine j_iconst (0 : Int32) dL_law_2205 (by decide) ?_
              obtain ⟨hn9, hf⟩ := rN_in hf
              subst hf
              exact hQ _ _ _ dL_law_2206 rfl
        · refine j_iconst (0 : Int32) dL_law_2188 (by decide) ?_
          obtain ⟨hn9, hf⟩ := rN_in hf
          subst hf
          exact hQ _ _ _ dL_law_2189 rfl
      refine j_case (44 : Int32) hf (fun hf => ?_) (fun c44 hf => ?_)
      · refine j_tableIn 2210 dL_law_39 (by decide) (by decide) rfl (by decide) ?_
        refine j_aload_n 1 dL_law_2210 rfl rfl ?_
        refine j_aload_n 0 dL_law_2211 rfl rfl ?_
        refine j_iload dL_law_2212 rfl ?_
        refine j_iconst (1 : Int32) dL_law_2214 (by decide) ?_
        refine j_iadd dL_law_2215 ?_
        refine j_sald dL_law_2216 hf (fun v335 hf => ?_)
        refine j_aload_n 3 dL_law_2217 rfl rfl ?_
        refine kc_X0_306 rfl rfl rfl (by decide) dL_law_2218 hf (fun v337 h336 hf => ?_)
        refine j_istore [some (va_rf x0), some (va_rf x1), some (va_rf x2), some (va_rf x3), some (.int x4), some (.int v337), none] dL_law_2221 (cz rfl) rfl rfl ?_
        refine j_aload_n 2 dL_law_2223 rfl rfl ?_
        refine j_aload_n 0 dL_law_2224 rfl rfl ?_
        refine j_iload dL_law_2225 rfl ?_
        refine j_iconst (1 : Int32) dL_law_2227 (by decide) ?_
        refine j_iadd dL_law_2228 ?_
        refine j_sald dL_law_2229 hf (fun v338 hf => ?_)
        refine kc_X0_308 rfl rfl rfl (by decide) dL_law_2230 hf (fun v340 h339 hf => ?_)
        refine j_istore [some (va_rf x0), some (va_rf x1), some (va_rf x2), some (va_rf x3), some (.int x4), some (.int v337), some (.int v340)] dL_law_2233 (cz rfl) rfl rfl ?_
        refine j_aload_n 2 dL_law_2235 rfl rfl ?_
        refine kc_X0_152 rfl rfl rfl (by decide) dL_law_2236 hf (fun v342 h341 hf => ?_)
        refine j_iload dL_law_2239 rfl ?_
        refine j_icmp_eq 2246 dL_law_2241 (by decide) hf (fun c_ hf => ?_) (fun c_ hf => ?_)
        · refine j_iload dL_law_2246 rfl ?_
          refine j_if_ne 2263 dL_law_2248 (by decide) hf (fun c_ hf => ?_) (fun c_ hf => ?_)
          · refine j_weak [some (va_rf x0), some (va_rf x1), some (va_rf x2), some (va_rf x3), some (.int x4), none, none] (Wk.k (Wk.k (Wk.k (Wk.k (Wk.k (Wk.s (Wk.s Wk.n))))))) ?_
            exact pf_L_law_B2263 hQ (f_L_law_L23 n) ih x0 x1 x2 x3 x4 h341 hf
          · refine j_aload_n 3 dL_law_2251 rfl rfl ?_
            refine j_iconst (0 : Int32) dL_law_2252 (by decide) ?_
            refine j_lald dL_law_2253 hf (fun v343 hf => ?_)
            refine j_iload dL_law_2254 rfl ?_
            refine j_i2l dL_law_2256 ?_
            refine j_lcmp dL_law_2257 ?_
            refine j_if_eq 2263 dL_law_2258 (by decide) hf (fun c_ hf => ?_) (fun c_ hf => ?_)
            · refine j_weak [some (va_rf x0), some (va_rf x1), some (va_rf x2), some (va_rf x3), some (.int x4), none, none] (Wk.k (Wk.k (Wk.k (Wk.k (Wk.k (Wk.s (Wk.s Wk.n))))))) ?_
              exact pf_L_law_B2263 hQ (f_L_law_L23 n) ih x0 x1 x2 x3 x4 h341 hf
            · refine j_iconst (0 : Int32) dL_law_2261 (by decide) ?_
              obtain ⟨hn9, hf⟩ := rN_in hf
              subst hf
              exact hQ _ _ _ dL_law_2262 rfl
        · refine j_iconst (0 : Int32) dL_law_2244 (by decide) ?_
          obtain ⟨hn9, hf⟩ := rN_in hf
          subst hf
          exact hQ _ _ _ dL_law_2245 rfl
      refine j_case (45 : Int32) hf (fun hf => ?_) (fun c45 hf => ?_)
      · refine j_tableIn 2266 dL_law_39 (by decide) (by decide) rfl (by decide) ?_
        refine j_aload_n 1 dL_law_2266 rfl rfl ?_
        refine kc_X0_309 rfl rfl rfl (by decide) dL_law_2267 hf (fun v345 h344 hf => ?_)
        refine j_aload_n 2 dL_law_2270 rfl rfl ?_
        refine kc_X0_312 rfl rfl rfl (by simp [va_rf_cat, cat_i, cat_l]) dL_law_2271 hf (fun v347 h346 hf => ?_)
        refine j_icmp_eq 3144 dL_law_2274 (by decide) hf (fun c_ hf => ?_) (fun c_ hf => ?_)
        · exact pf_L_law_B3144 hQ (f_L_law_L23 n) ih x0 x1 x2 x3 x4 h346 hf
        · refine j_iconst (0 : Int32) dL_law_2277 (by decide) ?_
          obtain ⟨hn9, hf⟩ := rN_in hf
          subst hf
          exact hQ _ _ _ dL_law_2278 rfl
      refine j_case (46 : Int32) hf (fun hf => ?_) (fun c46 hf => ?_)
      · refine j_tableIn 2279 dL_law_39 (by decide) (by decide) rfl (by decide) ?_
        refine j_aload_n 1 dL_law_2279 rfl rfl ?_
        refine kc_X0_313 rfl rfl rfl (by decide) dL_law_2280 hf (fun v349 h348 hf => ?_)
        refine j_aload_n 2 dL_law_2283 rfl rfl ?_
        refine kc_X0_316 rfl rfl rfl (by simp [va_rf_cat, cat_i, cat_l]) dL_law_2284 hf (fun v351 h350 hf => ?_)
        refine j_icmp_eq 3144 dL_law_2287 (by decide) hf (fun c_ hf => ?_) (fun c_ hf => ?_)
        · exact pf_L_law_B3144 hQ (f_L_law_L23 n) ih x0 x1 x2 x3 x4 h350 hf
        · refine j_iconst (0 : Int32) dL_law_2290 (by decide) ?_
          obtain ⟨hn9, hf⟩ := rN_in hf
          subst hf
          exact hQ _ _ _ dL_law_2291 rfl
      refine j_case (47 : Int32) hf (fun hf => ?_) (fun c47 hf => ?_)
      · refine j_tableIn 2292 dL_law_39 (by decide) (by decide) rfl (by decide) ?_
        refine j_aload_n 1 dL_law_2292 rfl rfl ?_
        refine kc_X0_317 rfl rfl rfl (by decide) dL_law_2293 hf (fun v353 h352 hf => ?_)
        refine j_aload_n 2 dL_law_2296 rfl rfl ?_
        refine kc_X0_320 rfl rfl rfl (by simp [va_rf_cat, cat_i, cat_l]) dL_law_2297 hf (fun v355 h354 hf => ?_)
        refine j_icmp_eq 3144 dL_law_2300 (by decide) hf (fun c_ hf => ?_) (fun c_ hf => ?_)
        · exact pf_L_law_B3144 hQ (f_L_law_L23 n) ih x0 x1 x2 x3 x4 h354 hf
        · refine j_iconst (0 : Int32) dL_law_2303 (by decide) ?_
          obtain ⟨hn9, hf⟩ := rN_in hf
          subst hf
          exact hQ _ _ _ dL_law_2304 rfl
      refine j_case (48 : Int32) hf (fun hf => ?_) (fun c48 hf => ?_)
      · refine j_tableIn 2305 dL_law_39 (by decide) (by decide) rfl (by decide) ?_
        refine j_aload_n 1 dL_law_2305 rfl rfl ?_
        refine j_aload_n 0 dL_law_2306 rfl rfl ?_
        refine j_iload dL_law_2307 rfl ?_
        refine j_iconst (1 : Int32) dL_law_2309 (by decide) ?_
        refine j_iadd dL_law_2310 ?_
        refine j_sald dL_law_2311 hf (fun v356 hf => ?_)
        refine j_aload_n 3 dL_law_2312 rfl rfl ?_
        refine kc_X0_321 rfl rfl rfl (by decide) dL_law_2313 hf (fun v358 h357 hf => ?_)
        refine j_istore [some (va_rf x0), some (va_rf x1), some (va_rf x2), some (va_rf x3), some (.int x4), some (.int v358), none] dL_law_2316 (cz rfl) rfl rfl ?_
        refine j_aload_n 2 dL_law_2318 rfl rfl ?_
        refine j_aload_n 0 dL_law_2319 rfl rfl ?_
        refine j_iload dL_law_2320 rfl ?_
        refine j_iconst (1 : Int32) dL_law_2322 (by decide) ?_
        refine j_iadd dL_law_2323 ?_
        refine j_sald dL_law_2324 hf (fun v359 hf => ?_)
        refine kc_X0_323 rfl rfl rfl (by decide) dL_law_2325 hf (fun v361 h360 hf => ?_)
        refine j_istore [some (va_rf x0), some (va_rf x1), some (va_rf x2), some (va_rf x3), some (.int x4), some (.int v358), some (.int v361)] dL_law_2328 (cz rfl) rfl rfl ?_
        refine j_aload_n 2 dL_law_2330 rfl rfl ?_
        refine kc_X0_152 rfl rfl rfl (by decide) dL_law_2331 hf (fun v363 h362 hf => ?_)
        refine j_iload dL_law_2334 rfl ?_
        refine j_icmp_eq 2341 dL_law_2336 (by decide) hf (fun c_ hf => ?_) (fun c_ hf => ?_)
        · refine j_iload dL_law_2341 rfl ?_
          refine j_if_ne 2358 dL_law_2343 (by decide) hf (fun c_ hf => ?_) (fun c_ hf => ?_)
          · refine j_weak [some (va_rf x0), some (va_rf x1), some (va_rf x2), some (va_rf x3), some (.int x4), none, none] (Wk.k (Wk.k (Wk.k (Wk.k (Wk.k (Wk.s (Wk.s Wk.n))))))) ?_
            exact pf_L_law_B2358 hQ (f_L_law_L23 n) ih x0 x1 x2 x3 x4 h362 hf
          · refine j_aload_n 3 dL_law_2346 rfl rfl ?_
            refine j_iconst (0 : Int32) dL_law_2347 (by decide) ?_
            refine j_lald dL_law_2348 hf (fun v364 hf => ?_)
            refine j_iload dL_law_2349 rfl ?_
            refine j_i2l dL_law_2351 ?_
            refine j_lcmp dL_law_2352 ?_
            refine j_if_eq 2358 dL_law_2353 (by decide) hf (fun c_ hf => ?_) (fun c_ hf => ?_)
            · refine j_weak [some (va_rf x0), some (va_rf x1), some (va_rf x2), some (va_rf x3), some (.int x4), none, none] (Wk.k (Wk.k (Wk.k (Wk.k (Wk.k (Wk.s (Wk.s Wk.n))))))) ?_
              exact pf_L_law_B2358 hQ (f_L_law_L23 n) ih x0 x1 x2 x3 x4 h362 hf
            · refine j_iconst (0 : Int32) dL_law_2356 (by decide) ?_
              obtain ⟨hn9, hf⟩ := rN_in hf
              subst hf
              exact hQ _ _ _ dL_law_2357 rfl
        · refine j_iconst (0 : Int32) dL_law_2339 (by decide) ?_
          obtain ⟨hn9, hf⟩ := rN_in hf
          subst hf
          exact hQ _ _ _ dL_law_2340 rfl
      refine j_case (49 : Int32) hf (fun hf => ?_) (fun c49 hf => ?_)
      · refine j_tableIn 2361 dL_law_39 (by decide) (by decide) rfl (by decide) ?_
        refine j_aload_n 1 dL_law_2361 rfl rfl ?_
        refine j_aload_n 0 dL_law_2362 rfl rfl ?_
        refine j_iload dL_law_2363 rfl ?_
        refine j_iconst (1 : Int32) dL_law_2365 (by decide) ?_
        refine j_iadd dL_law_2366 ?_
        refine j_sald dL_law_2367 hf (fun v365 hf => ?_)
        refine j_aload_n 3 dL_law_2368 rfl rfl ?_
        refine kc_X0_324 rfl rfl rfl (by decide) dL_law_2369 hf (fun v367 h366 hf => ?_)
        refine j_istore [some (va_rf x0), some (va_rf x1), some (va_rf x2), some (va_rf x3), some (.int x4), some (.int v367), none] dL_law_2372 (cz rfl) rfl rfl ?_
        refine j_aload_n 2 dL_law_2374 rfl rfl ?_
        refine j_aload_n 0 dL_law_2375 rfl rfl ?_
        refine j_iload dL_law_2376 rfl ?_
        refine j_iconst (1 : Int32) dL_law_2378 (by decide) ?_
        refine j_iadd dL_law_2379 ?_
        refine j_sald dL_law_2380 hf (fun v368 hf => ?_)
        refine kc_X0_326 rfl rfl rfl (by decide) dL_law_2381 hf (fun v370 h369 hf => ?_)
        refine j_istore [some (va_rf x0), some (va_rf x1), some (va_rf x2), some (va_rf x3), some (.int x4), some (.int v367), some (.int v370)] dL_law_2384 (cz rfl) rfl rfl ?_
        refine j_aload_n 2 dL_law_2386 rfl rfl ?_
        refine kc_X0_152 rfl rfl rfl (by decide) dL_law_2387 hf (fun v372 h371 hf => ?_)
        refine j_iload dL_law_2390 rfl ?_
        refine j_icmp_eq 2397 dL_law_2392 (by decide) hf (fun c_ hf => ?_) (fun c_ hf => ?_)
        · refine j_iload dL_law_2397 rfl ?_
          refine j_if_ne 2414 dL_law_2399 (by decide) hf (fun c_ hf => ?_) (fun c_ hf => ?_)
          · refine j_weak [some (va_rf x0), some (va_rf x1), some (va_rf x2), some (va_rf x3), some (.int x4), none, none] (Wk.k (Wk.k (Wk.k (Wk.k (Wk.k (Wk.s (Wk.s Wk.n))))))) ?_
            exact pf_L_law_B2414 hQ (f_L_law_L23 n) ih x0 x1 x2 x3 x4 h371 hf
          · refine j_aload_n 3 dL_law_2402 rfl rfl ?_
            refine j_iconst (0 : Int32) dL_law_2403 (by decide) ?_
            refine j_lald dL_law_2404 hf (fun v373 hf => ?_)
            refine j_iload dL_law_2405 rfl ?_
            refine j_i2l dL_law_2407 ?_
            refine j_lcmp dL_law_2408 ?_
            refine j_if_eq 2414 dL_law_2409 (by decide) hf (fun c_ hf => ?_) (fun c_ hf => ?_)
            · refine j_weak [some (va_rf x0), some (va_rf x1), some (va_rf x2), some (va_rf x3), some (.int x4), none, none] (Wk.k (Wk.k (Wk.k (Wk.k (Wk.k (Wk.s (Wk.s Wk.n))))))) ?_
              exact pf_L_law_B2414 hQ (f_L_law_L23 n) ih x0 x1 x2 x3 x4 h371 hf
            · refine j_iconst (0 : Int32) dL_law_2412 (by decide) ?_
              obtain ⟨hn9, hf⟩ := rN_in hf
              subst hf
              exact hQ _ _ _ dL_law_2413 rfl
        · refine j_iconst (0 : Int32) dL_law_2395 (by decide) ?_
          obtain ⟨hn9, hf⟩ := rN_in hf
          subst hf
          exact hQ _ _ _ dL_law_2396 rfl
      refine j_case (50 : Int32) hf (fun hf => ?_) (fun c50 hf => ?_)
      · refine j_tableIn 2417 dL_law_39 (by decide) (by decide) rfl (by decide) ?_
        refine j_aload_n 1 dL_law_2417 rfl rfl ?_
        refine j_aload_n 0 dL_law_2418 rfl rfl ?_
        refine j_iload dL_law_2419 rfl ?_
        refine j_iconst (1 : Int32) dL_law_2421 (by decide) ?_
        refine j_iadd dL_law_2422 ?_
        refine j_sald dL_law_2423 hf (fun v374 hf => ?_)
        refine j_aload_n 3 dL_law_2424 rfl rfl ?_
        refine kc_X0_327 rfl rfl rfl (by decide) dL_law_2425 hf (fun v376 h375 hf => ?_)
        refine j_istore [some (va_rf x0), some (va_rf x1), some (va_rf x2), some (va_rf x3), some (.int x4), some (.int v376), none] dL_law_2428 (cz rfl) rfl rfl ?_
        refine j_aload_n 2 dL_law_2430 rfl rfl ?_
        refine j_aload_n 0 dL_law_2431 rfl rfl ?_
        refine j_iload dL_law_2432 rfl ?_
        refine j_iconst (1 : Int32) dL_law_2434 (by decide) ?_
        refine j_iadd dL_law_2435 ?_
        refine j_sald dL_law_2436 hf (fun v377 hf => ?_)
        refine kc_X0_329 rfl rfl rfl (by decide) dL_law_2437 hf (fun v379 h378 hf => ?_)
        refine j_istore [some (va_rf x0), some (va_rf x1), some (va_rf x2), some (va_rf x3), some (.int x4), some (.int v376), some (.int v379)] dL_law_2440 (cz rfl) rfl rfl ?_
        refine j_aload_n 2 dL_law_2442 rfl rfl ?_
        refine kc_X0_152 rfl rfl rfl (by decide) dL_law_2443 hf (fun v381 h380 hf => ?_)
        refine j_iload dL_law_2446 rfl ?_
        refine j_icmp_eq 2453 dL_law_2448 (by decide) hf (fun c_ hf => ?_) (fun c_ hf => ?_)
        · refine j_iload dL_law_2453 rfl ?_
          refine j_if_ne 2470 dL_law_2455 (by decide) hf (fun c_ hf => ?_) (fun c_ hf => ?_)
          · refine j_weak [some (va_rf x0), some (va_rf x1), some (va_rf x2), some (va_rf x3), some (.int x4), none, none] (Wk.k (Wk.k (Wk.k (Wk.k (Wk.k (Wk.s (Wk.s Wk.n))))))) ?_
            exact pf_L_law_B2470 hQ (f_L_law_L23 n) ih x0 x1 x2 x3 x4 h380 hf
          · refine j_aload_n 3 dL_law_2458 rfl rfl ?_
            refine j_iconst (0 : Int32) dL_law_2459 (by decide) ?_
            refine j_lald dL_law_2460 hf (fun v382 hf => ?_)
            refine j_iload dL_law_2461 rfl ?_
            refine j_i2l dL_law_2463 ?_
            refine j_lcmp dL_law_2464 ?_
            refine j_if_eq 2470 dL_law_2465 (by decide) hf (fun c_ hf => ?_) (fun c_ hf => ?_)
            · refine j_weak [some (va_rf x0), some (va_rf x1), some (va_rf x2), some (va_rf x3), some (.int x4), none, none] (Wk.k (Wk.k (Wk.k (Wk.k (Wk.k (Wk.s (Wk.s Wk.n))))))) ?_
              exact pf_L_law_B2470 hQ (f_L_law_L23 n) ih x0 x1 x2 x3 x4 h380 hf
            · refine j_iconst (0 : Int32) dL_law_2468 (by decide) ?_
              obtain ⟨hn9, hf⟩ := rN_in hf
              subst hf
              exact hQ _ _ _ dL_law_2469 rfl
        · refine j_iconst (0 : Int32) dL_law_2451 (by decide) ?_
          obtain ⟨hn9, hf⟩ := rN_in hf
          subst hf
          exact hQ _ _ _ dL_law_2452 rfl
      refine j_case (51 : Int32) hf (fun hf => ?_) (fun c51 hf => ?_)
      · refine j_tableIn 2473 dL_law_39 (by decide) (by decide) rfl (by decide) ?_
        refine j_aload_n 1 dL_law_2473 rfl rfl ?_
        refine j_aload_n 0 dL_law_2474 rfl rfl ?_
        refine j_iload dL_law_2475 rfl ?_
        refine j_iconst (1 : Int32) dL_law_2477 (by decide) ?_
        refine j_iadd dL_law_2478 ?_
        refine j_sald dL_law_2479 hf (fun v383 hf => ?_)
        refine j_aload_n 3 dL_law_2480 rfl rfl ?_
        refine kc_X0_330 rfl rfl rfl (by decide) dL_law_2481 hf (fun v385 h384 hf => ?_)
        refine j_istore [some (va_rf x0), some (va_rf x1), some (va_rf x2), some (va_rf x3), some (.int x4), some (.int v385), none] dL_law_2484 (cz rfl) rfl rfl ?_
        refine j_aload_n 2 dL_law_2486 rfl rfl ?_
        refine j_aload_n 0 dL_law_2487 rfl rfl ?_
        refine j_iload dL_law_2488 rfl ?_
        refine j_iconst (1 : Int32) dL_law_2490 (by decide) ?_
        refine j_iadd dL_law_2491 ?_
        refine j_sald dL_law_2492 hf (fun v386 hf => ?_)
        refine kc_X0_332 rfl rfl rfl (by decide) dL_law_2493 hf (fun v388 h387 hf => ?_)
        refine j_istore [some (va_rf x0), some (va_rf x1), some (va_rf x2), some (va_rf x3), some (.int x4), some (.int v385), some (.int v388)] dL_law_2496 (cz rfl) rfl rfl ?_
        refine j_aload_n 2 dL_law_2498 rfl rfl ?_
        refine kc_X0_152 rfl rfl rfl (by decide) dL_law_2499 hf (fun v390 h389 hf => ?_)
        refine j_iload dL_law_2502 rfl ?_
        refine j_icmp_eq 2509 dL_law_2504 (by decide) hf (fun c_ hf => ?_) (fun c_ hf => ?_)
        · refine j_iload dL_law_2509 rfl ?_
          refine j_if_ne 2526 dL_law_2511 (by decide) hf (fun c_ hf => ?_) (fun c_ hf => ?_)
          · refine j_weak [some (va_rf x0), some (va_rf x1), some (va_rf x2), some (va_rf x3), some (.int x4), none, none] (Wk.k (Wk.k (Wk.k (Wk.k (Wk.k (Wk.s (Wk.s Wk.n))))))) ?_
            exact pf_L_law_B2526 hQ (f_L_law_L23 n) ih x0 x1 x2 x3 x4 h389 hf
          · refine j_aload_n 3 dL_law_2514 rfl rfl ?_
            refine j_iconst (0 : Int32) dL_law_2515 (by decide) ?_
            refine j_lald dL_law_2516 hf (fun v391 hf => ?_)
            refine j_iload dL_law_2517 rfl ?_
            refine j_i2l dL_law_2519 ?_
            refine j_lcmp dL_law_2520 ?_
            refine j_if_eq 2526 dL_law_2521 (by decide) hf (fun c_ hf => ?_) (fun c_ hf => ?_)
            · refine j_weak [some (va_rf x0), some (va_rf x1), some (va_rf x2), some (va_rf x3), some (.int x4), none, none] (Wk.k (Wk.k (Wk.k (Wk.k (Wk.k (Wk.s (Wk.s Wk.n))))))) ?_
              exact pf_L_law_B2526 hQ (f_L_law_L23 n) ih x0 x1 x2 x3 x4 h389 hf
            · refine j_iconst (0 : Int32) dL_law_2524 (by decide) ?_
              obtain ⟨hn9, hf⟩ := rN_in hf
              subst hf
              exact hQ _ _ _ dL_law_2525 rfl
        · refine j_iconst (0 : Int32) dL_law_2507 (by decide) ?_
          obtain ⟨hn9, hf⟩ := rN_in hf
          subst hf
          exact hQ _ _ _ dL_law_2508 rfl
      refine j_case (52 : Int32) hf (fun hf => ?_) (fun c52 hf => ?_)
      · refine j_tableIn 2529 dL_law_39 (by decide) (by decide) rfl (by decide) ?_
        refine j_aload_n 1 dL_law_2529 rfl rfl ?_
        refine kc_X0_333 rfl rfl rfl (by decide) dL_law_2530 hf (fun v393 h392 hf => ?_)
        refine j_aload_n 2 dL_law_2533 rfl rfl ?_
        refine kc_X0_336 rfl rfl rfl (by simp [va_rf_cat, cat_i, cat_l]) dL_law_2534 hf (fun v395 h394 hf => ?_)
        refine j_icmp_eq 3144 dL_law_2537 (by decide) hf (fun c_ hf => ?_) (fun c_ hf => ?_)
        · exact pf_L_law_B3144 hQ (f_L_law_L23 n) ih x0 x1 x2 x3 x4 h394 hf
        · refine j_iconst (0 : Int32) dL_law_2540 (by decide) ?_
          obtain ⟨hn9, hf⟩ := rN_in hf
          subst hf
          exact hQ _ _ _ dL_law_2541 rfl
      refine j_case (53 : Int32) hf (fun hf => ?_) (fun c53 hf => ?_)
      · refine j_tableIn 2542 dL_law_39 (by decide) (by decide) rfl (by decide) ?_
        refine j_aload_n 1 dL_law_2542 rfl rfl ?_
        refine kc_X0_337 rfl rfl rfl (by decide) dL_law_2543 hf (fun v397 h396 hf => ?_)
        refine j_aload_n 2 dL_law_2546 rfl rfl ?_
        refine kc_X0_340 rfl rfl rfl (by simp [va_rf_cat, cat_i, cat_l]) dL_law_2547 hf (fun v399 h398 hf => ?_)
        refine j_icmp_eq 3144 dL_law_2550 (by decide) hf (fun c_ hf => ?_) (fun c_ hf => ?_)
        · exact pf_L_law_B3144 hQ (f_L_law_L23 n) ih x0 x1 x2 x3 x4 h398 hf
        · refine j_iconst (0 : Int32) dL_law_2553 (by decide) ?_
          obtain ⟨hn9, hf⟩ := rN_in hf
          subst hf
          exact hQ _ _ _ dL_law_2554 rfl
      refine j_case (54 : Int32) hf (fun hf => ?_) (fun c54 hf => ?_)
      · refine j_tableIn 2555 dL_law_39 (by decide) (by decide) rfl (by decide) ?_
        refine j_aload_n 1 dL_law_2555 rfl rfl ?_
        refine kc_X0_341 rfl rfl rfl (by decide) dL_law_2556 hf (fun v401 h400 hf => ?_)
        refine j_aload_n 2 dL_law_2559 rfl rfl ?_
        refine kc_X0_344 rfl rfl rfl (by simp [va_rf_cat, cat_i, cat_l]) dL_law_2560 hf (fun v403 h402 hf => ?_)
        refine j_icmp_eq 3144 dL_law_2563 (by decide) hf (fun c_ hf => ?_) (fun c_ hf => ?_)
        · exact pf_L_law_B3144 hQ (f_L_law_L23 n) ih x0 x1 x2 x3 x4 h402 hf
        · refine j_iconst (0 : Int32) dL_law_2566 (by decide) ?_
          obtain ⟨hn9, hf⟩ := rN_in hf
          subst hf
          exact hQ _ _ _ dL_law_2567 rfl
      refine j_case (55 : Int32) hf (fun hf => ?_) (fun c55 hf => ?_)
      · refine j_tableIn 2568 dL_law_39 (by decide) (by decide) rfl (by decide) ?_
        refine j_aload_n 1 dL_law_2568 rfl rfl ?_
        refine j_aload_n 0 dL_law_2569 rfl rfl ?_
        refine j_iload dL_law_2570 rfl ?_
        refine j_iconst (1 : Int32) dL_law_2572 (by decide) ?_
        refine j_iadd dL_law_2573 ?_
        refine j_sald dL_law_2574 hf (fun v404 hf => ?_)
        refine j_aload_n 0 dL_law_2575 rfl rfl ?_
        refine j_iload dL_law_2576 rfl ?_
        refine j_iconst (2 : Int32) dL_law_2578 (by decide) ?_
        refine j_iadd dL_law_2579 ?_
        refine j_sald dL_law_2580 hf (fun v405 hf => ?_)
        refine j_aload_n 3 dL_law_2581 rfl rfl ?_
        refine kc_X0_345 rfl rfl rfl (by decide) dL_law_2582 hf (fun v407 h406 hf => ?_)
        refine j_istore [some (va_rf x0), some (va_rf x1), some (va_rf x2), some (va_rf x3), some (.int x4), some (.int v407), none] dL_law_2585 (cz rfl) rfl rfl ?_
        refine j_aload_n 2 dL_law_2587 rfl rfl ?_
        refine j_aload_n 0 dL_law_2588 rfl rfl ?_
        refine j_iload dL_law_2589 rfl ?_
        refine j_iconst (1 : Int32) dL_law_2591 (by decide) ?_
        refine j_iadd dL_law_2592 ?_
        refine j_sald dL_law_2593 hf (fun v408 hf => ?_)
        refine j_aload_n 0 dL_law_2594 rfl rfl ?_
        refine j_iload dL_law_2595 rfl ?_
        refine j_iconst (2 : Int32) dL_law_2597 (by decide) ?_
        refine j_iadd dL_law_2598 ?_
        refine j_sald dL_law_2599 hf (fun v409 hf => ?_)
        refine kc_X0_347 rfl rfl rfl (by decide) dL_law_2600 hf (fun v411 h410 hf => ?_)
        refine j_istore [some (va_rf x0), some (va_rf x1), some (va_rf x2), some (va_rf x3), some (.int x4), some (.int v407), some (.int v411)] dL_law_2603 (cz rfl) rfl rfl ?_
        refine j_aload_n 2 dL_law_2605 rfl rfl ?_
        refine kc_X0_152 rfl rfl rfl (by decide) dL_law_2606 hf (fun v413 h412 hf => ?_)
        refine j_iload dL_law_2609 rfl ?_
        refine j_icmp_eq 2616 dL_law_2611 (by decide) hf (fun c_ hf => ?_) (fun c_ hf => ?_)
        · refine j_iload dL_law_2616 rfl ?_
          refine j_if_ne 2633 dL_law_2618 (by decide) hf (fun c_ hf => ?_) (fun c_ hf => ?_)
          · refine j_weak [some (va_rf x0), some (va_rf x1), some (va_rf x2), some (va_rf x3), some (.int x4), none, none] (Wk.k (Wk.k (Wk.k (Wk.k (Wk.k (Wk.s (Wk.s Wk.n))))))) ?_
            exact pf_L_law_B2633 hQ (f_L_law_L23 n) ih x0 x1 x2 x3 x4 h412 hf
          · refine j_aload_n 3 dL_law_2621 rfl rfl ?_
            refine j_iconst (0 : Int32) dL_law_2622 (by decide) ?_
            refine j_lald dL_law_2623 hf (fun v414 hf => ?_)
            refine j_iload dL_law_2624 rfl ?_
            refine j_i2l dL_law_2626 ?_
            refine j_lcmp dL_law_2627 ?_
            refine j_if_eq 2633 dL_law_2628 (by decide) hf (fun c_ hf => ?_) (fun c_ hf => ?_)
            · refine j_weak [some (va_rf x0), some (va_rf x1), some (va_rf x2), some (va_rf x3), some (.int x4), none, none] (Wk.k (Wk.k (Wk.k (Wk.k (Wk.k (Wk.s (Wk.s Wk.n))))))) ?_
              exact pf_L_law_B2633 hQ (f_L_law_L23 n) ih x0 x1 x2 x3 x4 h412 hf
            · refine j_iconst (0 : Int32) dL_law_2631 (by decide) ?_
              obtain ⟨hn9, hf⟩ := rN_in hf
              subst hf
              exact hQ _ _ _ dL_law_2632 rfl
        · refine j_iconst (0 : Int32) dL_law_2614 (by decide) ?_
          obtain ⟨hn9, hf⟩ := rN_in hf
          subst hf
          exact hQ _ _ _ dL_law_2615 rfl
      refine j_case (56 : Int32) hf (fun hf => ?_) (fun c56 hf => ?_)
      · refine j_tableIn 2636 dL_law_39 (by decide) (by decide) rfl (by decide) ?_
        refine j_aload_n 1 dL_law_2636 rfl rfl ?_
        refine j_aload_n 0 dL_law_2637 rfl rfl ?_
        refine j_iload dL_law_2638 rfl ?_
        refine j_iconst (1 : Int32) dL_law_2640 (by decide) ?_
        refine j_iadd dL_law_2641 ?_
        refine j_sald dL_law_2642 hf (fun v415 hf => ?_)
        refine j_aload_n 3 dL_law_2643 rfl rfl ?_
        refine kc_X0_348 rfl rfl rfl (by decide) dL_law_2644 hf (fun v417 h416 hf => ?_)
        refine j_istore [some (va_rf x0), some (va_rf x1), some (va_rf x2), some (va_rf x3), some (.int x4), some (.int v417), none] dL_law_2647 (cz rfl) rfl rfl ?_
        refine j_aload_n 2 dL_law_2649 rfl rfl ?_
        refine j_aload_n 0 dL_law_2650 rfl rfl ?_
        refine j_iload dL_law_2651 rfl ?_
        refine j_iconst (1 : Int32) dL_law_2653 (by decide) ?_
        refine j_iadd dL_law_2654 ?_
        refine j_sald dL_law_2655 hf (fun v418 hf => ?_)
        refine kc_X0_350 rfl rfl rfl (by decide) dL_law_2656 hf (fun v420 h419 hf => ?_)
        refine j_istore [some (va_rf x0), some (va_rf x1), some (va_rf x2), some (va_rf x3), some (.int x4), some (.int v417), some (.int v420)] dL_law_2659 (cz rfl) rfl rfl ?_
        refine j_aload_n 2 dL_law_2661 rfl rfl ?_
        refine kc_X0_152 rfl rfl rfl (by decide) dL_law_2662 hf (fun v422 h421 hf => ?_)
        refine j_iload dL_law_2665 rfl ?_
        refine j_icmp_eq 2672 dL_law_2667 (by decide) hf (fun c_ hf => ?_) (fun c_ hf => ?_)
        · refine j_iload dL_law_2672 rfl ?_
          refine j_if_ne 2689 dL_law_2674 (by decide) hf (fun c_ hf => ?_) (fun c_ hf => ?_)
          · refine j_weak [some (va_rf x0), some (va_rf x1), some (va_rf x2), some (va_rf x3), some (.int x4), none, none] (Wk.k (Wk.k (Wk.k (Wk.k (Wk.k (Wk.s (Wk.s Wk.n))))))) ?_
            exact pf_L_law_B2689 hQ (f_L_law_L23 n) ih x0 x1 x2 x3 x4 h421 hf
          · refine j_aload_n 3 dL_law_2677 rfl rfl ?_
            refine j_iconst (0 : Int32) dL_law_2678 (by decide) ?_
            refine j_lald dL_law_2679 hf (fun v423 hf => ?_)
            refine j_iload dL_law_2680 rfl ?_
            refine j_i2l dL_law_2682 ?_
            refine j_lcmp dL_law_2683 ?_
            refine j_if_eq 2689 dL_law_2684 (by decide) hf (fun c_ hf => ?_) (fun c_ hf => ?_)
            · refine j_weak [some (va_rf x0), some (va_rf x1), some (va_rf x2), some (va_rf x3), some (.int x4), none, none] (Wk.k (Wk.k (Wk.k (Wk.k (Wk.k (Wk.s (Wk.s Wk.n))))))) ?_
              exact pf_L_law_B2689 hQ (f_L_law_L23 n) ih x0 x1 x2 x3 x4 h421 hf
            · refine j_iconst (0 : Int32) dL_law_2687 (by decide) ?_
              obtain ⟨hn9, hf⟩ := rN_in hf
              subst hf
              exact hQ _ _ _ dL_law_2688 rfl
        · refine j_iconst (0 : Int32) dL_law_2670 (by decide) ?_
          obtain ⟨hn9, hf⟩ := rN_in hf
          subst hf
          exact hQ _ _ _ dL_law_2671 rfl
      refine j_case (57 : Int32) hf (fun hf => ?_) (fun c57 hf => ?_)
      · refine j_tableIn 2692 dL_law_39 (by decide) (by decide) rfl (by decide) ?_
        refine j_aload_n 1 dL_law_2692 rfl rfl ?_
        refine j_aload_n 0 dL_law_2693 rfl rfl ?_
        refine j_iload dL_law_2694 rfl ?_
        refine j_iconst (1 : Int32) dL_law_2696 (by decide) ?_
        refine j_iadd dL_law_2697 ?_
        refine j_sald dL_law_2698 hf (fun v424 hf => ?_)
        refine j_aload_n 0 dL_law_2699 rfl rfl ?_
        refine j_iload dL_law_2700 rfl ?_
        refine j_iconst (2 : Int32) dL_law_2702 (by decide) ?_
        refine j_iadd dL_law_2703 ?_
        refine j_sald dL_law_2704 hf (fun v425 hf => ?_)
        refine j_aload_n 3 dL_law_2705 rfl rfl ?_
        refine kc_X0_351 rfl rfl rfl (by decide) dL_law_2706 hf (fun v427 h426 hf => ?_)
        refine j_istore [some (va_rf x0), some (va_rf x1), some (va_rf x2), some (va_rf x3), some (.int x4), some (.int v427), none] dL_law_2709 (cz rfl) rfl rfl ?_
        refine j_aload_n 2 dL_law_2711 rfl rfl ?_
        refine j_aload_n 0 dL_law_2712 rfl rfl ?_
        refine j_iload dL_law_2713 rfl ?_
        refine j_iconst (1 : Int32) dL_law_2715 (by decide) ?_
        refine j_iadd dL_law_2716 ?_
        refine j_sald dL_law_2717 hf (fun v428 hf => ?_)
        refine j_aload_n 0 dL_law_2718 rfl rfl ?_
        refine j_iload dL_law_2719 rfl ?_
        refine j_iconst (2 : Int32) dL_law_2721 (by decide) ?_
        refine j_iadd dL_law_2722 ?_
        refine j_sald dL_law_2723 hf (fun v429 hf => ?_)
        refine kc_X0_353 rfl rfl rfl (by decide) dL_law_2724 hf (fun v431 h430 hf => ?_)
        refine j_istore [some (va_rf x0), some (va_rf x1), some (va_rf x2), some (va_rf x3), some (.int x4), some (.int v427), some (.int v431)] dL_law_2727 (cz rfl) rfl rfl ?_
        refine j_aload_n 2 dL_law_2729 rfl rfl ?_
        refine kc_X0_152 rfl rfl rfl (by decide) dL_law_2730 hf (fun v433 h432 hf => ?_)
        refine j_iload dL_law_2733 rfl ?_
        refine j_icmp_eq 2740 dL_law_2735 (by decide) hf (fun c_ hf => ?_) (fun c_ hf => ?_)
        · refine j_iload dL_law_2740 rfl ?_
          refine j_if_ne 2757 dL_law_2742 (by decide) hf (fun c_ hf => ?_) (fun c_ hf => ?_)
          · refine j_weak [some (va_rf x0), some (va_rf x1), some (va_rf x2), some (va_rf x3), some (.int x4), none, none] (Wk.k (Wk.k (Wk.k (Wk.k (Wk.k (Wk.s (Wk.s Wk.n))))))) ?_
            exact pf_L_law_B2757 hQ (f_L_law_L23 n) ih x0 x1 x2 x3 x4 h432 hf
          · refine j_aload_n 3 dL_law_2745 rfl rfl ?_
            refine j_iconst (0 : Int32) dL_law_2746 (by decide) ?_
            refine j_lald dL_law_2747 hf (fun v434 hf => ?_)
            refine j_iload dL_law_2748 rfl ?_
            refine j_i2l dL_law_2750 ?_
            refine j_lcmp dL_law_2751 ?_
            refine j_if_eq 2757 dL_law_2752 (by decide) hf (fun c_ hf => ?_) (fun c_ hf => ?_)
            · refine j_weak [some (va_rf x0), some (va_rf x1), some (va_rf x2), some (va_rf x3), some (.int x4), none, none] (Wk.k (Wk.k (Wk.k (Wk.k (Wk.k (Wk.s (Wk.s Wk.n))))))) ?_
              exact pf_L_law_B2757 hQ (f_L_law_L23 n) ih x0 x1 x2 x3 x4 h432 hf
            · refine j_iconst (0 : Int32) dL_law_2755 (by decide) ?_
              obtain ⟨hn9, hf⟩ := rN_in hf
              subst hf
              exact hQ _ _ _ dL_law_2756 rfl
        · refine j_iconst (0 : Int32) dL_law_2738 (by decide) ?_
          obtain ⟨hn9, hf⟩ := rN_in hf
          subst hf
          exact hQ _ _ _ dL_law_2739 rfl
      refine j_case (58 : Int32) hf (fun hf => ?_) (fun c58 hf => ?_)
      · refine j_tableIn 2760 dL_law_39 (by decide) (by decide) rfl (by decide) ?_
        refine j_aload_n 1 dL_law_2760 rfl rfl ?_
        refine j_aload_n 0 dL_law_2761 rfl rfl ?_
        refine j_iload dL_law_2762 rfl ?_
        refine j_iconst (1 : Int32) dL_law_2764 (by decide) ?_
        refine j_iadd dL_law_2765 ?_
        refine j_sald dL_law_2766 hf (fun v435 hf => ?_)
        refine j_aload_n 3 dL_law_2767 rfl rfl ?_
        refine kc_X0_354 rfl rfl rfl (by decide) dL_law_2768 hf (fun v437 h436 hf => ?_)
        refine j_istore [some (va_rf x0), some (va_rf x1), some (va_rf x2), some (va_rf x3), some (.int x4), some (.int v437), none] dL_law_2771 (cz rfl) rfl rfl ?_
        refine j_aload_n 2 dL_law_2773 rfl rfl ?_
        refine j_aload_n 0 dL_law_2774 rfl rfl ?_
        refine j_iload dL_law_2775 rfl ?_
        refine j_iconst (1 : Int32) dL_law_2777 (by decide) ?_
        refine j_iadd dL_law_2778 ?_
        refine j_sald dL_law_2779 hf (fun v438 hf => ?_)
        refine kc_X0_356 rfl rfl rfl (by decide) dL_law_2780 hf (fun v440 h439 hf => ?_)
        refine j_istore [some (va_rf x0), some (va_rf x1), some (va_rf x2), some (va_rf x3), some (.int x4), some (.int v437), some (.int v440)] dL_law_2783 (cz rfl) rfl rfl ?_
        refine j_aload_n 2 dL_law_2785 rfl rfl ?_
        refine kc_X0_152 rfl rfl rfl (by decide) dL_law_2786 hf (fun v442 h441 hf => ?_)
        refine j_iload dL_law_2789 rfl ?_
        refine j_icmp_eq 2796 dL_law_2791 (by decide) hf (fun c_ hf => ?_) (fun c_ hf => ?_)
        · refine j_iload dL_law_2796 rfl ?_
          refine j_if_ne 2813 dL_law_2798 (by decide) hf (fun c_ hf => ?_) (fun c_ hf => ?_)
          · refine j_weak [some (va_rf x0), some (va_rf x1), some (va_rf x2), some (va_rf x3), some (.int x4), none, none] (Wk.k (Wk.k (Wk.k (Wk.k (Wk.k (Wk.s (Wk.s Wk.n))))))) ?_
            exact pf_L_law_B2813 hQ (f_L_law_L23 n) ih x0 x1 x2 x3 x4 h441 hf
          · refine j_aload_n 3 dL_law_2801 rfl rfl ?_
            refine j_iconst (0 : Int32) dL_law_2802 (by decide) ?_
            refine j_lald dL_law_2803 hf (fun v443 hf => ?_)
            refine j_iload dL_law_2804 rfl ?_
            refine j_i2l dL_law_2806 ?_
            refine j_lcmp dL_law_2807 ?_
            refine j_if_eq 2813 dL_law_2808 (by decide) hf (fun c_ hf => ?_) (fun c_ hf => ?_)
            · refine j_weak [some (va_rf x0), some (va_rf x1), some (va_rf x2), some (va_rf x3), some (.int x4), none, none] (Wk.k (Wk.k (Wk.k (Wk.k (Wk.k (Wk.s (Wk.s Wk.n))))))) ?_
              exact pf_L_law_B2813 hQ (f_L_law_L23 n) ih x0 x1 x2 x3 x4 h441 hf
            · refine j_iconst (0 : Int32) dL_law_2811 (by decide) ?_
              obtain ⟨hn9, hf⟩ := rN_in hf
              subst hf
              exact hQ _ _ _ dL_law_2812 rfl
        · refine j_iconst (0 : Int32) dL_law_2794 (by decide) ?_
          obtain ⟨hn9, hf⟩ := rN_in hf
          subst hf
          exact hQ _ _ _ dL_law_2795 rfl
      refine j_case (59 : Int32) hf (fun hf => ?_) (fun c59 hf => ?_)
      · refine j_tableIn 2816 dL_law_39 (by decide) (by decide) rfl (by decide) ?_
        refine j_aload_n 1 dL_law_2816 rfl rfl ?_
        refine j_aload_n 0 dL_law_2817 rfl rfl ?_
        refine j_iload dL_law_2818 rfl ?_
        refine j_iconst (1 : Int32) dL_law_2820 (by decide) ?_
        refine j_iadd dL_law_2821 ?_
        refine j_sald dL_law_2822 hf (fun v444 hf => ?_)
        refine j_aload_n 0 dL_law_2823 rfl rfl ?_
        refine j_iload dL_law_2824 rfl ?_
        refine j_iconst (2 : Int32) dL_law_2826 (by decide) ?_
        refine j_iadd dL_law_2827 ?_
        refine j_sald dL_law_2828 hf (fun v445 hf => ?_)
        refine j_aload_n 3 dL_law_2829 rfl rfl ?_
        refine kc_X0_357 rfl rfl rfl (by decide) dL_law_2830 hf (fun v447 h446 hf => ?_)
        refine j_istore [some (va_rf x0), some (va_rf x1), some (va_rf x2), some (va_rf x3), some (.int x4), some (.int v447), none] dL_law_2833 (cz rfl) rfl rfl ?_
        refine j_aload_n 2 dL_law_2835 rfl rfl ?_
        refine j_aload_n 0 dL_law_2836 rfl rfl ?_
        refine j_iload dL_law_2837 rfl ?_
        refine j_iconst (1 : Int32) dL_law_2839 (by decide) ?_
        refine j_iadd dL_law_2840 ?_
        refine j_sald dL_law_2841 hf (fun v448 hf => ?_)
        refine j_aload_n 0 dL_law_2842 rfl rfl ?_
        refine j_iload dL_law_2843 rfl ?_
        refine j_iconst (2 : Int32) dL_law_2845 (by decide) ?_
        refine j_iadd dL_law_2846 ?_
        refine j_sald dL_law_2847 hf (fun v449 hf => ?_)
        refine kc_X0_359 rfl rfl rfl (by decide) dL_law_2848 hf (fun v451 h450 hf => ?_)
        refine j_istore [some (va_rf x0), some (va_rf x1), some (va_rf x2), some (va_rf x3), some (.int x4), some (.int v447), some (.int v451)] dL_law_2851 (cz rfl) rfl rfl ?_
        refine j_aload_n 2 dL_law_2853 rfl rfl ?_
        refine kc_X0_152 rfl rfl rfl (by decide) dL_law_2854 hf (fun v453 h452 hf => ?_)
        refine j_iload dL_law_2857 rfl ?_
        refine j_icmp_eq 2864 dL_law_2859 (by decide) hf (fun c_ hf => ?_) (fun c_ hf => ?_)
        · refine j_iload dL_law_2864 rfl ?_
          refine j_if_ne 2881 dL_law_2866 (by decide) hf (fun c_ hf => ?_) (fun c_ hf => ?_)
          · refine j_weak [some (va_rf x0), some (va_rf x1), some (va_rf x2), some (va_rf x3), some (.int x4), none, none] (Wk.k (Wk.k (Wk.k (Wk.k (Wk.k (Wk.s (Wk.s Wk.n))))))) ?_
            exact pf_L_law_B2881 hQ (f_L_law_L23 n) ih x0 x1 x2 x3 x4 h452 hf
          · refine j_aload_n 3 dL_law_2869 rfl rfl ?_
            refine j_iconst (0 : Int32) dL_law_2870 (by decide) ?_
            refine j_lald dL_law_2871 hf (fun v454 hf => ?_)
            refine j_iload dL_law_2872 rfl ?_
            refine j_i2l dL_law_2874 ?_
            refine j_lcmp dL_law_2875 ?_
            refine j_if_eq 2881 dL_law_2876 (by decide) hf (fun c_ hf => ?_) (fun c_ hf => ?_)
            · refine j_weak [some (va_rf x0), some (va_rf x1), some (va_rf x2), some (va_rf x3), some (.int x4), none, none] (Wk.k (Wk.k (Wk.k (Wk.k (Wk.k (Wk.s (Wk.s Wk.n))))))) ?_
              exact pf_L_law_B2881 hQ (f_L_law_L23 n) ih x0 x1 x2 x3 x4 h452 hf
            · refine j_iconst (0 : Int32) dL_law_2879 (by decide) ?_
              obtain ⟨hn9, hf⟩ := rN_in hf
              subst hf
              exact hQ _ _ _ dL_law_2880 rfl
        · refine j_iconst (0 : Int32) dL_law_2862 (by decide) ?_
          obtain ⟨hn9, hf⟩ := rN_in hf
          subst hf
          exact hQ _ _ _ dL_law_2863 rfl
      refine j_case (60 : Int32) hf (fun hf => ?_) (fun c60 hf => ?_)
      · refine j_tableIn 2884 dL_law_39 (by decide) (by decide) rfl (by decide) ?_
        refine j_aload_n 1 dL_law_2884 rfl rfl ?_
        refine j_aload_n 0 dL_law_2885 rfl rfl ?_
        refine j_iload dL_law_2886 rfl ?_
        refine j_iconst (1 : Int32) dL_law_2888 (by decide) ?_
        refine j_iadd dL_law_2889 ?_
        refine j_sald dL_law_2890 hf (fun v455 hf => ?_)
        refine j_aload_n 0 dL_law_2891 rfl rfl ?_
        refine j_iload dL_law_2892 rfl ?_
        refine j_iconst (2 : Int32) dL_law_2894 (by decide) ?_
        refine j_iadd dL_law_2895 ?_
        refine j_sald dL_law_2896 hf (fun v456 hf => ?_)
        refine j_aload_n 0 dL_law_2897 rfl rfl ?_
        refine j_iload dL_law_2898 rfl ?_
        refine j_iconst (3 : Int32) dL_law_2900 (by decide) ?_
        refine j_iadd dL_law_2901 ?_
        refine j_sald dL_law_2902 hf (fun v457 hf => ?_)
        refine j_aload_n 3 dL_law_2903 rfl rfl ?_
        refine kc_X0_360 rfl rfl rfl (by decide) dL_law_2904 hf (fun v459 h458 hf => ?_)
        refine j_istore [some (va_rf x0), some (va_rf x1), some (va_rf x2), some (va_rf x3), some (.int x4), some (.int v459), none] dL_law_2907 (cz rfl) rfl rfl ?_
        refine j_aload_n 2 dL_law_2909 rfl rfl ?_
        refine j_aload_n 0 dL_law_2910 rfl rfl ?_
        refine j_iload dL_law_2911 rfl ?_
        refine j_iconst (1 : Int32) dL_law_2913 (by decide) ?_
        refine j_iadd dL_law_2914 ?_
        refine j_sald dL_law_2915 hf (fun v460 hf => ?_)
        refine j_aload_n 0 dL_law_2916 rfl rfl ?_
        refine j_iload dL_law_2917 rfl ?_
        refine j_iconst (2 : Int32) dL_law_2919 (by decide) ?_
        refine j_iadd dL_law_2920 ?_
        refine j_sald dL_law_2921 hf (fun v461 hf => ?_)
        refine j_aload_n 0 dL_law_2922 rfl rfl ?_
        refine j_iload dL_law_2923 rfl ?_
        refine j_iconst (3 : Int32) dL_law_2925 (by decide) ?_
        refine j_iadd dL_law_2926 ?_
        refine j_sald dL_law_2927 hf (fun v462 hf => ?_)
        refine kc_X0_362 rfl rfl rfl (by decide) dL_law_2928 hf (fun v464 h463 hf => ?_)
        refine j_istore [some (va_rf x0), some (va_rf x1), some (va_rf x2), some (va_rf x3), some (.int x4), some (.int v459), some (.int v464)] dL_law_2931 (cz rfl) rfl rfl ?_
        refine j_aload_n 2 dL_law_2933 rfl rfl ?_
        refine kc_X0_152 rfl rfl rfl (by decide) dL_law_2934 hf (fun v466 h465 hf => ?_)
        refine j_iload dL_law_2937 rfl ?_
        refine j_icmp_eq 2944 dL_law_2939 (by decide) hf (fun c_ hf => ?_) (fun c_ hf => ?_)
        · refine j_iload dL_law_2944 rfl ?_
          refine j_if_ne 2961 dL_law_2946 (by decide) hf (fun c_ hf => ?_) (fun c_ hf => ?_)
          · refine j_weak [some (va_rf x0), some (va_rf x1), some (va_rf x2), some (va_rf x3), some (.int x4), none, none] (Wk.k (Wk.k (Wk.k (Wk.k (Wk.k (Wk.s (Wk.s Wk.n))))))) ?_
            exact pf_L_law_B2961 hQ (f_L_law_L23 n) ih x0 x1 x2 x3 x4 h465 hf
          · refine j_aload_n 3 dL_law_2949 rfl rfl ?_
            refine j_iconst (0 : Int32) dL_law_2950 (by decide) ?_
            refine j_lald dL_law_2951 hf (fun v467 hf => ?_)
            refine j_iload dL_law_2952 rfl ?_
            refine j_i2l dL_law_2954 ?_
            refine j_lcmp dL_law_2955 ?_
            refine j_if_eq 2961 dL_law_2956 (by decide) hf (fun c_ hf => ?_) (fun c_ hf => ?_)
            · refine j_weak [some (va_rf x0), some (va_rf x1), some (va_rf x2), some (va_rf x3), some (.int x4), none, none] (Wk.k (Wk.k (Wk.k (Wk.k (Wk.k (Wk.s (Wk.s Wk.n))))))) ?_
              exact pf_L_law_B2961 hQ (f_L_law_L23 n) ih x0 x1 x2 x3 x4 h465 hf
            · refine j_iconst (0 : Int32) dL_law_2959 (by decide) ?_
              obtain ⟨hn9, hf⟩ := rN_in hf
              subst hf
              exact hQ _ _ _ dL_law_2960 rfl
        · refine j_iconst (0 : Int32) dL_law_2942 (by decide) ?_
          obtain ⟨hn9, hf⟩ := rN_in hf
          subst hf
          exact hQ _ _ _ dL_law_2943 rfl
      refine j_case (61 : Int32) hf (fun hf => ?_) (fun c61 hf => ?_)
      · refine j_tableIn 2964 dL_law_39 (by decide) (by decide) rfl (by decide) ?_
        refine j_aload_n 1 dL_law_2964 rfl rfl ?_
        refine j_aload_n 0 dL_law_2965 rfl rfl ?_
        refine j_iload dL_law_2966 rfl ?_
        refine j_iconst (1 : Int32) dL_law_2968 (by decide) ?_
        refine j_iadd dL_law_2969 ?_
        refine j_sald dL_law_2970 hf (fun v468 hf => ?_)
        refine j_aload_n 0 dL_law_2971 rfl rfl ?_
        refine j_iload dL_law_2972 rfl ?_
        refine j_iconst (2 : Int32) dL_law_2974 (by decide) ?_
        refine j_iadd dL_law_2975 ?_
        refine j_sald dL_law_2976 hf (fun v469 hf => ?_)
        refine j_aload_n 3 dL_law_2977 rfl rfl ?_
        refine kc_X0_363 rfl rfl rfl (by decide) dL_law_2978 hf (fun v471 h470 hf => ?_)
        refine j_istore [some (va_rf x0), some (va_rf x1), some (va_rf x2), some (va_rf x3), some (.int x4), some (.int v471), none] dL_law_2981 (cz rfl) rfl rfl ?_
        refine j_aload_n 2 dL_law_2983 rfl rfl ?_
        refine j_aload_n 0 dL_law_2984 rfl rfl ?_
        refine j_iload dL_law_2985 rfl ?_
        refine j_iconst (1 : Int32) dL_law_2987 (by decide) ?_
        refine j_iadd dL_law_2988 ?_
        refine j_sald dL_law_2989 hf (fun v472 hf => ?_)
        refine j_aload_n 0 dL_law_2990 rfl rfl ?_
        refine j_iload dL_law_2991 rfl ?_
        refine j_iconst (2 : Int32) dL_law_2993 (by decide) ?_
        refine j_iadd dL_law_2994 ?_
        refine j_sald dL_law_2995 hf (fun v473 hf => ?_)
        refine kc_X0_365 rfl rfl rfl (by decide) dL_law_2996 hf (fun v475 h474 hf => ?_)
        refine j_istore [some (va_rf x0), some (va_rf x1), some (va_rf x2), some (va_rf x3), some (.int x4), some (.int v471), some (.int v475)] dL_law_2999 (cz rfl) rfl rfl ?_
        refine j_aload_n 2 dL_law_3001 rfl rfl ?_
        refine kc_X0_152 rfl rfl rfl (by decide) dL_law_3002 hf (fun v477 h476 hf => ?_)
        refine j_iload dL_law_3005 rfl ?_
        refine j_icmp_eq 3012 dL_law_3007 (by decide) hf (fun c_ hf => ?_) (fun c_ hf => ?_)
        · refine j_iload dL_law_3012 rfl ?_
          refine j_if_ne 3029 dL_law_3014 (by decide) hf (fun c_ hf => ?_) (fun c_ hf => ?_)
          · refine j_weak [some (va_rf x0), some (va_rf x1), some (va_rf x2), some (va_rf x3), some (.int x4), none, none] (Wk.k (Wk.k (Wk.k (Wk.k (Wk.k (Wk.s (Wk.s Wk.n))))))) ?_
            exact pf_L_law_B3029 hQ (f_L_law_L23 n) ih x0 x1 x2 x3 x4 h476 hf
          · refine j_aload_n 3 dL_law_3017 rfl rfl ?_
            refine j_iconst (0 : Int32) dL_law_3018 (by decide) ?_
            refine j_lald dL_law_3019 hf (fun v478 hf => ?_)
            refine j_iload dL_law_3020 rfl ?_
            refine j_i2l dL_law_3022 ?_
            refine j_lcmp dL_law_3023 ?_
            refine j_if_eq 3029 dL_law_3024 (by decide) hf (fun c_ hf => ?_) (fun c_ hf => ?_)
            · refine j_weak [some (va_rf x0), some (va_rf x1), some (va_rf x2), some (va_rf x3), some (.int x4), none, none] (Wk.k (Wk.k (Wk.k (Wk.k (Wk.k (Wk.s (Wk.s Wk.n))))))) ?_
              exact pf_L_law_B3029 hQ (f_L_law_L23 n) ih x0 x1 x2 x3 x4 h476 hf
            · refine j_iconst (0 : Int32) dL_law_3027 (by decide) ?_
              obtain ⟨hn9, hf⟩ := rN_in hf
              subst hf
              exact hQ _ _ _ dL_law_3028 rfl
        · refine j_iconst (0 : Int32) dL_law_3010 (by decide) ?_
          obtain ⟨hn9, hf⟩ := rN_in hf
          subst hf
          exact hQ _ _ _ dL_law_3011 rfl
      refine j_case (62 : Int32) hf (fun hf => ?_) (fun c62 hf => ?_)
      · refine j_tableIn 3032 dL_law_39 (by decide) (by decide) rfl (by decide) ?_
        refine j_aload_n 1 dL_law_3032 rfl rfl ?_
        refine j_aload_n 0 dL_law_3033 rfl rfl ?_
        refine j_iload dL_law_3034 rfl ?_
        refine j_iconst (1 : Int32) dL_law_3036 (by decide) ?_
        refine j_iadd dL_law_3037 ?_
        refine j_sald dL_law_3038 hf (fun v479 hf => ?_)
        refine j_aload_n 3 dL_law_3039 rfl rfl ?_
        refine kc_X0_366 rfl rfl rfl (by decide) dL_law_3040 hf (fun v481 h480 hf => ?_)
        refine j_istore [some (va_rf x0), some (va_rf x1), some (va_rf x2), some (va_rf x3), some (.int x4), some (.int v481), none] dL_law_3043 (cz rfl) rfl rfl ?_
        refine j_aload_n 2 dL_law_3045 rfl rfl ?_
        refine j_aload_n 0 dL_law_3046 rfl rfl ?_
        refine j_iload dL_law_3047 rfl ?_
        refine j_iconst (1 : Int32) dL_law_3049 (by decide) ?_
        refine j_iadd dL_law_3050 ?_
        refine j_sald dL_law_3051 hf (fun v482 hf => ?_)
        refine kc_X0_368 rfl rfl rfl (by decide) dL_law_3052 hf (fun v484 h483 hf => ?_)
        refine j_istore [some (va_rf x0), some (va_rf x1), some (va_rf x2), some (va_rf x3), some (.int x4), some (.int v481), some (.int v484)] dL_law_3055 (cz rfl) rfl rfl ?_
        refine j_aload_n 2 dL_law_3057 rfl rfl ?_
        refine kc_X0_152 rfl rfl rfl (by decide) dL_law_3058 hf (fun v486 h485 hf => ?_)
        refine j_iload dL_law_3061 rfl ?_
        refine j_icmp_eq 3068 dL_law_3063 (by decide) hf (fun c_ hf => ?_) (fun c_ hf => ?_)
        · refine j_iload dL_law_3068 rfl ?_
          refine j_if_ne 3085 dL_law_3070 (by decide) hf (fun c_ hf => ?_) (fun c_ hf => ?_)
          · refine j_weak [some (va_rf x0), some (va_rf x1), some (va_rf x2), some (va_rf x3), some (.int x4), none, none] (Wk.k (Wk.k (Wk.k (Wk.k (Wk.k (Wk.s (Wk.s Wk.n))))))) ?_
            exact pf_L_law_B3085 hQ (f_L_law_L23 n) ih x0 x1 x2 x3 x4 h485 hf
          · refine j_aload_n 3 dL_law_3073 rfl rfl ?_
            refine j_iconst (0 : Int32) dL_law_3074 (by decide) ?_
            refine j_lald dL_law_3075 hf (fun v487 hf => ?_)
            refine j_iload dL_law_3076 rfl ?_
            refine j_i2l dL_law_3078 ?_
            refine j_lcmp dL_law_3079 ?_
            refine j_if_eq 3085 dL_law_3080 (by decide) hf (fun c_ hf => ?_) (fun c_ hf => ?_)
            · refine j_weak [some (va_rf x0), some (va_rf x1), some (va_rf x2), some (va_rf x3), some (.int x4), none, none] (Wk.k (Wk.k (Wk.k (Wk.k (Wk.k (Wk.s (Wk.s Wk.n))))))) ?_
              exact pf_L_law_B3085 hQ (f_L_law_L23 n) ih x0 x1 x2 x3 x4 h485 hf
            · refine j_iconst (0 : Int32) dL_law_3083 (by decide) ?_
              obtain ⟨hn9, hf⟩ := rN_in hf
              subst hf
              exact hQ _ _ _ dL_law_3084 rfl
        · refine j_iconst (0 : Int32) dL_law_3066 (by decide) ?_
          obtain ⟨hn9, hf⟩ := rN_in hf
          subst hf
          exact hQ _ _ _ dL_law_3067 rfl
      refine j_case (63 : Int32) hf (fun hf => ?_) (fun c63 hf => ?_)
      · refine j_tableIn 3088 dL_law_39 (by decide) (by decide) rfl (by decide) ?_
        refine j_aload_n 1 dL_law_3088 rfl rfl ?_
        refine j_aload_n 0 dL_law_3089 rfl rfl ?_
        refine j_iload dL_law_3090 rfl ?_
        refine j_iconst (1 : Int32) dL_law_3092 (by decide) ?_
        refine j_iadd dL_law_3093 ?_
        refine j_sald dL_law_3094 hf (fun v488 hf => ?_)
        refine j_aload_n 3 dL_law_3095 rfl rfl ?_
        refine kc_X0_369 rfl rfl rfl (by decide) dL_law_3096 hf (fun v490 h489 hf => ?_)
        refine j_istore [some (va_rf x0), some (va_rf x1), some (va_rf x2), some (va_rf x3), some (.int x4), some (.int v490), none] dL_law_3099 (cz rfl) rfl rfl ?_
        refine j_aload_n 2 dL_law_3101 rfl rfl ?_
        refine j_aload_n 0 dL_law_3102 rfl rfl ?_
        refine j_iload dL_law_3103 rfl ?_
        refine j_iconst (1 : Int32) dL_law_3105 (by decide) ?_
        refine j_iadd dL_law_3106 ?_
        refine j_sald dL_law_3107 hf (fun v491 hf => ?_)
        refine kc_X0_371 rfl rfl rfl (by decide) dL_law_3108 hf (fun v493 h492 hf => ?_)
        refine j_istore [some (va_rf x0), some (va_rf x1), some (va_rf x2), some (va_rf x3), some (.int x4), some (.int v490), some (.int v493)] dL_law_3111 (cz rfl) rfl rfl ?_
        refine j_aload_n 2 dL_law_3113 rfl rfl ?_
        refine kc_X0_152 rfl rfl rfl (by decide) dL_law_3114 hf (fun v495 h494 hf => ?_)
        refine j_iload dL_law_3117 rfl ?_
        refine j_icmp_eq 3124 dL_law_3119 (by decide) hf (fun c_ hf => ?_) (fun c_ hf => ?_)
        · refine j_iload dL_law_3124 rfl ?_
          refine j_if_ne 3141 dL_law_3126 (by decide) hf (fun c_ hf => ?_) (fun c_ hf => ?_)
          · refine j_weak [some (va_rf x0), some (va_rf x1), some (va_rf x2), some (va_rf x3), some (.int x4), none, none] (Wk.k (Wk.k (Wk.k (Wk.k (Wk.k (Wk.s (Wk.s Wk.n))))))) ?_
            exact pf_L_law_B3141 hQ (f_L_law_L23 n) ih x0 x1 x2 x3 x4 h494 hf
          · refine j_aload_n 3 dL_law_3129 rfl rfl ?_
            refine j_iconst (0 : Int32) dL_law_3130 (by decide) ?_
            refine j_lald dL_law_3131 hf (fun v496 hf => ?_)
            refine j_iload dL_law_3132 rfl ?_
            refine j_i2l dL_law_3134 ?_
            refine j_lcmp dL_law_3135 ?_
            refine j_if_eq 3141 dL_law_3136 (by decide) hf (fun c_ hf => ?_) (fun c_ hf => ?_)
            · refine j_weak [some (va_rf x0), some (va_rf x1), some (va_rf x2), some (va_rf x3), some (.int x4), none, none] (Wk.k (Wk.k (Wk.k (Wk.k (Wk.k (Wk.s (Wk.s Wk.n))))))) ?_
              exact pf_L_law_B3141 hQ (f_L_law_L23 n) ih x0 x1 x2 x3 x4 h494 hf
            · refine j_iconst (0 : Int32) dL_law_3139 (by decide) ?_
              obtain ⟨hn9, hf⟩ := rN_in hf
              subst hf
              exact hQ _ _ _ dL_law_3140 rfl
        · refine j_iconst (0 : Int32) dL_law_3122 (by decide) ?_
          obtain ⟨hn9, hf⟩ := rN_in hf
          subst hf
          exact hQ _ _ _ dL_law_3123 rfl
      refine j_tableOut 3144 dL_law_39 (by have z0 := lv_neT (a := (0)) c0 (by decide); have z1 := lv_neT (a := (1)) c1 (by decide); have z2 := lv_neT (a := (2)) c2 (by decide); have z3 := lv_neT (a := (3)) c3 (by decide); have z4 := lv_neT (a := (4)) c4 (by decide); have z5 := lv_neT (a := (5)) c5 (by decide); have z6 := lv_neT (a := (6)) c6 (by decide); have z7 := lv_neT (a := (7)) c7 (by decide); have z8 := lv_neT (a := (8)) c8 (by decide); have z9 := lv_neT (a := (9)) c9 (by decide); have z10 := lv_neT (a := (10)) c10 (by decide); have z11 := lv_neT (a := (11)) c11 (by decide); have z12 := lv_neT (a := (12)) c12 (by decide); have z13 := lv_neT (a := (13)) c13 (by decide); have z14 := lv_neT (a := (14)) c14 (by decide); have z15 := lv_neT (a := (15)) c15 (by decide); have z16 := lv_neT (a := (16)) c16 (by decide); have z17 := lv_neT (a := (17)) c17 (by decide); have z18 := lv_neT (a := (18)) c18 (by decide); have z19 := lv_neT (a := (19)) c19 (by decide); have z20 := lv_neT (a := (20)) c20 (by decide); have z21 := lv_neT (a := (21)) c21 (by decide); have z22 := lv_neT (a := (22)) c22 (by decide); have z23 := lv_neT (a := (23)) c23 (by decide); have z24 := lv_neT (a := (24)) c24 (by decide); have z25 := lv_neT (a := (25)) c25 (by decide); have z26 := lv_neT (a := (26)) c26 (by decide); have z27 := lv_neT (a := (27)) c27 (by decide); have z28 := lv_neT (a := (28)) c28 (by decide); have z29 := lv_neT (a := (29)) c29 (by decide); have z30 := lv_neT (a := (30)) c30 (by decide); have z31 := lv_neT (a := (31)) c31 (by decide); have z32 := lv_neT (a := (32)) c32 (by decide); have z33 := lv_neT (a := (33)) c33 (by decide); have z34 := lv_neT (a := (34)) c34 (by decide); have z35 := lv_neT (a := (35)) c35 (by decide); have z36 := lv_neT (a := (36)) c36 (by decide); have z37 := lv_neT (a := (37)) c37 (by decide); have z38 := lv_neT (a := (38)) c38 (by decide); have z39 := lv_neT (a := (39)) c39 (by decide); have z40 := lv_neT (a := (40)) c40 (by decide); have z41 := lv_neT (a := (41)) c41 (by decide); have z42 := lv_neT (a := (42)) c42 (by decide); have z43 := lv_neT (a := (43)) c43 (by decide); have z44 := lv_neT (a := (44)) c44 (by decide); have z45 := lv_neT (a := (45)) c45 (by decide); have z46 := lv_neT (a := (46)) c46 (by decide); have z47 := lv_neT (a := (47)) c47 (by decide); have z48 := lv_neT (a := (48)) c48 (by decide); have z49 := lv_neT (a := (49)) c49 (by decide); have z50 := lv_neT (a := (50)) c50 (by decide); have z51 := lv_neT (a := (51)) c51 (by decide); have z52 := lv_neT (a := (52)) c52 (by decide); have z53 := lv_neT (a := (53)) c53 (by decide); have z54 := lv_neT (a := (54)) c54 (by decide); have z55 := lv_neT (a := (55)) c55 (by decide); have z56 := lv_neT (a := (56)) c56 (by decide); have z57 := lv_neT (a := (57)) c57 (by decide); have z58 := lv_neT (a := (58)) c58 (by decide); have z59 := lv_neT (a := (59)) c59 (by decide); have z60 := lv_neT (a := (60)) c60 (by decide); have z61 := lv_neT (a := (61)) c61 (by decide); have z62 := lv_neT (a := (62)) c62 (by decide); have z63 := lv_neT (a := (63)) c63 (by decide); omega) (by decide) ?_
      exact pf_L_law_B3144 hQ (f_L_law_L23 n) ih x0 x1 x2 x3 x4 h hf
def f_L_law (p0 : Option Nat) (h0 : PH) : Option (Int32 × PH) := nO h0 0 5 [.null, .int 0, .int 0, .null, .null] fun a1 h2 => cl_ (f_X1_init a1 h2) fun _u h3 => nO h3 6 18 [.null, .int 0, .null, .int 0, .int 0, .int 0, .int 0, .int 0, .int 0, .int 0, .null, .null, .int 0, .int 0, .int 0, .null, .null, .null] fun a4 h5 => cl_ (f_X7_init a4 h5) fun _u h6 => nA h6 2 (1 : Int32) (.inr (.inl fun _ => 0)) fun a7 h8 => f_L_law_L23 FU p0 (some a1) (some a4) (some a7) (0 : Int32) h8
theorem pf_L_law {Γ : GX} {D : va_G} {h0 : PH} {Q : State → Prop} {o : Int32 × PH} (hQ : QL Γ mi_L_law D h0 Q o) (p0 : Option Nat) (hf : f_L_law p0 h0 = some o) : PF Γ mi_L_law D h0 Q h0 0 [some (va_rf p0), none, none, none, none, none, none] [] := by
  unfold f_L_law at hf
  refine j_nO (ci := 0) tyX1 tyX1_ok rfl in_X1 q135 q136 q90 (by decide) dL_law_0 hf (fun a1 h2 hf => ?_)
  refine j_dup dL_law_3 (va_rf_cat _) ?_
  refine kc_X0_142 rfl rfl rfl (by simp [va_rf_cat, cat_i, cat_l]) dL_law_4 hf (fun _u h3 hf => ?_)
  refine j_astore_n 1 [some (va_rf p0), some (va_rf (some a1)), none, none, none, none, none] dL_law_7 rfl (cz (va_rf_cat _)) rfl rfl ?_
  refine j_nO (ci := 6) tyX7 tyX7_ok rfl in_X7 q2173 q2174 q117 (by decide) dL_law_8 hf (fun a4 h5 hf => ?_)
  refine j_dup dL_law_11 (va_rf_cat _) ?_
  refine kc_X0_145 rfl rfl rfl (by simp [va_rf_cat, cat_i, cat_l]) dL_law_12 hf (fun _u h6 hf => ?_)
  refine j_astore_n 2 [some (va_rf p0), some (va_rf (some a1)), some (va_rf (some a4)), none, none, none, none] dL_law_15 rfl (cz (va_rf_cat _)) rfl rfl ?_
  refine j_iconst (1 : Int32) dL_law_16 (by decide) ?_
  refine j_nA (t := 2) (atype := .long) (ty := .long) rfl (fun _ => rfl) (fun _ _ => rfl) (by decide) (fun _ _ h9 => h9) q2780 dL_law_17 hf (fun a7 h8 hf => ?_)
  refine j_astore_n 3 [some (va_rf p0), some (va_rf (some a1)), some (va_rf (some a4)), some (va_rf (some a7)), none, none, none] dL_law_19 rfl (cz (va_rf_cat _)) rfl rfl ?_
  refine j_iconst (0 : Int32) dL_law_20 (by decide) ?_
  refine j_istore [some (va_rf p0), some (va_rf (some a1)), some (va_rf (some a4)), some (va_rf (some a7)), some (.int (0 : Int32)), none, none] dL_law_21 (cz (va_rf_cat _)) rfl rfl ?_
  exact pf_L_law_L23 hQ FU p0 (some a1) (some a4) (some a7) (0 : Int32) h8 hf
