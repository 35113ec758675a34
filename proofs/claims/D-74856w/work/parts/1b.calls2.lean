/-! CALLS OF NEST MATES, OF INHERITED METHODS, THROUGH INTERFACES; THROWS, HANDLERS (printed by mkrows3.py) -/
set_option maxRecDepth 100000
section JK3
variable {Γ : GX} {I : MI} {D : va_G} {h0 : PH} {Q : State → Prop} {h : PH} {pc : Nat} {vs : List (Option Value)} {rest : List Value} {β : Type} {o : β}
/-- behind a call -/
theorem j_ran5 {p : Program} {l : Launch} {e : Env} {R : Room} {s : State} {m : MethodId} {args : Array Value} {below : List Frame} {meth : Method} {c : Code} {H : Heap} {locs : List Loc} {ls : Array Slot} {st0 : List Value} {a : Array Value} {oc : OC} {h1 : PH} {len : Nat} (hlen : len = 5)
    (X : CX (p, l, e, R, s, m, args, below, meth, c) I D h0) (B : Bd h0 h) (hl : jLS vs ls I.2.1) (hM : WM D h H) (hz : slotSum H + psl h ≤ slotSum s.heap + psl h0) (hS : va_S (pA h0.2.1) s.heap H locs)
    (hr : vx_Run5 p l e R s m args below meth c H locs (pcl h0 - pcl h) (psl h0 - psl h) (pcl h) (psl h) (F0 m pc ls st0) rest (cQ D h h1 oc a) (cXC D h h1 oc) (pA h.2.1))
    (kk : ∀ rv : Option Value, oc = .inr rv → PF (p, l, e, R, s, m, args, below, meth, c) I D h0 Q h1 (pc + 5) vs (rv.toList ++ rest)) (kx : ∀ (ci q : Nat) (fs : List Value), oc = .inl (ci, q) → h1.1 q = some (.inr (ci, fs)) → PX (p, l, e, R, s, m, args, below, meth, c) I D h0 Q h1 pc vs q) : W p l e R s m args below meth c H locs (pcl h0 - pcl h) (psl h0 - psl h) Q (F0 m pc ls st0) := by
  intro T hT X1
  have X0 := X
  obtain ⟨cc, nL, own, rt, xt, fr, lo, nm⟩ := I
  have hn0 : s.heap.size = pn h0 := X.2.2.2.2.2.2.2.2.2.2.2.2.2.1
  have hA9 : pA h.2.1 = pA h0.2.1 := by rw [B.1]
  have tail : ∀ (st₀ t T' : State) (L : List Loc), st₀.heap = H → Stand p l e R s m args below meth c T' (locs ++ L) (pcl h0 - pcl h + pcl h) (psl h0 - psl h + psl h) → (∀ q ∈ L, pA h.2.1 q.base) → T'.heap = t.heap → cEnd D h h1 st₀ t →
      Bd h0 h1 ∧ WM D h1 T'.heap ∧ slotSum T'.heap + psl h1 ≤ slotSum s.heap + psl h0 ∧ va_S (pA h0.2.1) s.heap T'.heap (locs ++ L) ∧ Stand p l e R s m args below meth c T' (locs ++ L) (pcl h0 - pcl h1) (psl h0 - psl h1) := by
    intro st₀ t T' L e0 X' hL e1 ⟨c1, c2, c3, c4⟩
    have hB := B.tr c2
    have hb2 := hB.2.1
    have hb3 := hB.2.2.1
    have hb4 := hB.2.2.2
    rw [← e1] at c1 c3
    rw [e0] at c3
    have hsz := c1.1
    have hsl : slotSum T'.heap + psl h1 ≤ slotSum s.heap + psl h0 := by
      simp only [psl] at *
      omega
    refine ⟨hB, c1, hsl, ?_, stand_tight X' ?_ ?_⟩
    · rw [← hA9] at hS ⊢
      refine ⟨Nat.le_trans hS.1 (by rw [e1, ← e0]; exact c4.1), fun q h1 h2 => ?_, fun q hq => ?_⟩
      · rw [e1, c4.2 q (by rw [e0]; exact Nat.lt_of_lt_of_le h1 hS.1) h2, e0]
        exact hS.2.1 q h1 h2
      · rcases List.mem_append.mp hq with h | h
        · exact hS.2.2 q h
        · exact hL q h
    · simp only [pn, pcl] at *
      omega
    · simp only [psl] at *
      omega
  rcases hr T hT X1 with ⟨v, st₀, t, T', L, e0, X', hL, e1, e2, ⟨rv, hoc, hv, hend⟩, st⟩ | ⟨q, st₀, t, T', L, E, ce, e0, X', hL, e1, e2, ⟨ci, fs, hoc, hE, hfs, hend⟩, hce, hcv, hcl, st⟩
  · obtain ⟨k1, k2, k3, k4, k5⟩ := tail st₀ t T' L e0 X' hL e1 hend
    cases hv
    obtain ⟨t2, a1, b1⟩ := kk _ hoc X0 k1 ls hl T'.heap (locs ++ L) k2 k3 k4 T' rfl k5
    exact ⟨t2, st t2 a1, b1⟩
  · obtain ⟨k1, k2, k3, k4, k5⟩ := tail st₀ t T' L e0 X' hL e1 hend
    obtain ⟨t2, a1, b1⟩ := kx _ _ _ hoc hfs X0 k1 ls hl T'.heap (locs ++ L) k2 k3 k4 rest T' rfl k5
    exact ⟨t2, st.trans a1, b1⟩

theorem j_callVN {y : MethodName} {cc2 : ByteArray} {nL2 fr2 lo2 index n : Nat} {rt2 : Option FieldType} {As : List Value} {host C : String} {T : u_T} {N ci : Nat} {r : Option Nat} {α : Type} {ro : Option (α × PH)} {ov : α → OC} {K : α → PH → Option β} (hc : clA[ci]? = some (C, T, N)) (hG : GoodIn lw_all (ws_ y cc2 nL2 rt2)) (hini : Cond.initialized y.cls ∈ lw_all) (hlk : Cond.methodLinkNest I.2.2.1 index y host ∈ lw_tbl) (him : Cond.instanceMethod y ∈ lw_all) (hsel : Cond.selects C y y ∈ lw_all) (hdy : y.cls ≠ "java/lang/invoke/MethodHandle" ∧ y.cls ≠ "java/lang/invoke/VarHandle" ∧ (parseMethodDescriptor y.desc).map (fun d => d.parameters.length) = some n) (hfr : Nat.ble (fr2 + 1) I.2.2.2.2.2.1 = true) (hlo : Nat.ble (8 + (nL2 + 11) + lo2) I.2.2.2.2.2.2.1 = true) (hn : As.length = n) (hW : (rest.map fun v => v.category).sum ≤ 8) (hd : decode I.1 pc = .ok (.invokevirtual index, 3))
    (hct : ∀ (l : Launch), l.stackTraces = false → ∀ (x : α) (h1 : PH), ro = some (x, h1) → CT l D y (ws_ y cc2 nL2 rt2) fr2 lo2 (va_rf r :: As) h (ov x) h1) (hf : rv_ h r ci (cl_ ro K) = some o)
    (kk : ∀ (x : α) (h1 : PH) (rv : Option Value), ov x = .inr rv → K x h1 = some o → PF Γ I D h0 Q h1 (pc + 3) vs (rv.toList ++ rest)) (kx : ∀ (x : α) (h1 : PH) (ci q : Nat) (fs : List Value), ov x = .inl (ci, q) → h1.1 q = some (.inr (ci, fs)) → K x h1 = some o → PX Γ I D h0 Q h1 pc vs q) (st0 : List Value) (hst : st0 = As.reverse ++ va_rf r :: rest) : PF Γ I D h0 Q h pc vs st0 := by
  obtain ⟨a, fs, rfl, he, hf⟩ := rv_in hf
  obtain ⟨x, h1, rfl, hf⟩ := cl_in hf
  subst hst
  obtain ⟨p, l, e, R, s, m, args, below, meth, c⟩ := Γ
  intro X B ls hl H locs hM hz hS
  have X0 := X
  obtain ⟨cc, nL, own, rt, xt, fr, lo, nm⟩ := I
  have hWK := X.2.2.2.2.2.2.2.2.2.2.2.2.1
  have hRc : R.cells = pcl h0 := X.2.2.2.2.2.2.2.2.2.2.1
  have hRs : R.slots = psl h0 := X.2.2.2.2.2.2.2.2.2.2.2.1
  have hRf : fr ≤ R.frames := X.2.2.2.2.2.2.2.2.1
  have hRl : lo ≤ R.locals := X.2.2.2.2.2.2.2.2.2.1
  have hts := X.2.2.2.2.1
  have hrec := j_recv hWK B hM hS he
  have e1 : (rcl ci).1 = C := by unfold rcl; rw [hc]
  rw [e1] at hrec
  refine j_ran rfl X0 B hl hM hz hS (vx_runVN (As := As) (b := a) ⟨X.1, X.2.1, X.2.2.1, X.2.2.2.1, X.2.2.2.2.1⟩ (hct l X.2.2.2.2.2.2.2.2.2.2.2.2.2.2.2.1 x h1 rfl) ⟨va_cnB n hts hG rfl rfl rfl (hWK.2.1 _ hlk rfl) (hts _ hini) hdy ⟨Nat.le_trans (Nat.le_of_ble_eq_true hfr) hRf, Nat.le_trans (Nat.le_of_ble_eq_true hlo) hRl⟩, hts _ him, hts _ hsel⟩ ⟨cPre_blind, hrec, j_pre hWK B hM hS⟩ rfl hn hl.size rfl (lv_room hW) hd ?_) (fun rv e => kk x h1 rv e hf) (fun ci q fs e h9 => kx x h1 ci q fs e h9 hf)
  rw [hRc, hRs]
  exact j_left B
theorem j_callSN {y : MethodName} {cc2 : ByteArray} {nL2 fr2 lo2 index n : Nat} {rt2 : Option FieldType} {As : List Value} {host : String} {α : Type} {ro : Option (α × PH)} {ov : α → OC} {K : α → PH → Option β} (hG : GoodIn lw_all (ws_ y cc2 nL2 rt2)) (hini : Cond.initialized y.cls ∈ lw_all) (hlk : Cond.methodLinkNest I.2.2.1 index y host ∈ lw_tbl) (hst9 : Cond.static y ∈ lw_all) (hdy : y.cls ≠ "java/lang/invoke/MethodHandle" ∧ y.cls ≠ "java/lang/invoke/VarHandle" ∧ (parseMethodDescriptor y.desc).map (fun d => d.parameters.length) = some n) (hfr : Nat.ble (fr2 + 1) I.2.2.2.2.2.1 = true) (hlo : Nat.ble (8 + (nL2 + 11) + lo2) I.2.2.2.2.2.2.1 = true) (hn : As.length = n) (hW : (rest.map fun v => v.category).sum ≤ 8) (hd : decode I.1 pc = .ok (.invokestatic index, 3))
    (hct : ∀ (l : Launch), l.stackTraces = false → ∀ (x : α) (h1 : PH), ro = some (x, h1) → CT l D y (ws_ y cc2 nL2 rt2) fr2 lo2 As h (ov x) h1) (hf : cl_ ro K = some o)
    (kk : ∀ (x : α) (h1 : PH) (rv : Option Value), ov x = .inr rv → K x h1 = some o → PF Γ I D h0 Q h1 (pc + 3) vs (rv.toList ++ rest)) (kx : ∀ (x : α) (h1 : PH) (ci q : Nat) (fs : List Value), ov x = .inl (ci, q) → h1.1 q = some (.inr (ci, fs)) → K x h1 = some o → PX Γ I D h0 Q h1 pc vs q) (st0 : List Value) (hst : st0 = As.reverse ++ rest) : PF Γ I D h0 Q h pc vs st0 := by
  obtain ⟨x, h1, rfl, hf⟩ := cl_in hf
  subst hst
  obtain ⟨p, l, e, R, s, m, args, below, meth, c⟩ := Γ
  intro X B ls hl H locs hM hz hS
  have X0 := X
  obtain ⟨cc, nL, own, rt, xt, fr, lo, nm⟩ := I
  have hWK := X.2.2.2.2.2.2.2.2.2.2.2.2.1
  have hRc : R.cells = pcl h0 := X.2.2.2.2.2.2.2.2.2.2.1
  have hRs : R.slots = psl h0 := X.2.2.2.2.2.2.2.2.2.2.2.1
  have hRf : fr ≤ R.frames := X.2.2.2.2.2.2.2.2.1
  have hRl : lo ≤ R.locals := X.2.2.2.2.2.2.2.2.2.1
  have hts := X.2.2.2.2.1
  refine j_ran rfl X0 B hl hM hz hS (vx_runSN (As := As) ⟨X.1, X.2.1, X.2.2.1, X.2.2.2.1, X.2.2.2.2.1⟩ (hct l X.2.2.2.2.2.2.2.2.2.2.2.2.2.2.2.1 x h1 rfl) ⟨va_cnB n hts hG rfl rfl rfl (hWK.2.1 _ hlk rfl) (hts _ hini) hdy ⟨Nat.le_trans (Nat.le_of_ble_eq_true hfr) hRf, Nat.le_trans (Nat.le_of_ble_eq_true hlo) hRl⟩, hts _ hst9, trivial⟩ ⟨cPre_blind, j_pre hWK B hM hS⟩ rfl hn hl.size rfl (lv_room hW) hd ?_) (fun rv e => kk x h1 rv e hf) (fun ci q fs e h9 => kx x h1 ci q fs e h9 hf)
  rw [hRc, hRs]
  exact j_left B
theorem j_callIN {y : MethodName} {cc2 : ByteArray} {nL2 fr2 lo2 index n : Nat} {As : List Value} {host : String} {a : Nat} {α : Type} {ro : Option (α × PH)} {ov : α → OC} {K : α → PH → Option β} (hG : GoodIn lw_all (ws_ y cc2 nL2 none)) (hini : Cond.initialized y.cls ∈ lw_all) (hlk : Cond.methodLinkNest I.2.2.1 index y host ∈ lw_tbl) (him : Cond.instanceMethod y ∈ lw_all) (hy1 : y.name = "<init>") (hdy : y.cls ≠ "java/lang/invoke/MethodHandle" ∧ y.cls ≠ "java/lang/invoke/VarHandle" ∧ (parseMethodDescriptor y.desc).map (fun d => d.parameters.length) = some n) (hfr : Nat.ble (fr2 + 1) I.2.2.2.2.2.1 = true) (hlo : Nat.ble (8 + (nL2 + 11) + lo2) I.2.2.2.2.2.2.1 = true) (hn : As.length = n) (hW : (rest.map fun v => v.category).sum ≤ 8) (hd : decode I.1 pc = .ok (.invokespecial index, 3))
    (hct : ∀ (l : Launch), l.stackTraces = false → ∀ (x : α) (h1 : PH), ro = some (x, h1) → CT l D y (ws_ y cc2 nL2 none) fr2 lo2 (va_rf (some a) :: As) h (ov x) h1) (hf : cl_ ro K = some o)
    (kk : ∀ (x : α) (h1 : PH) (rv : Option Value), ov x = .inr rv → K x h1 = some o → PF Γ I D h0 Q h1 (pc + 3) vs (rv.toList ++ rest)) (kx : ∀ (x : α) (h1 : PH) (ci q : Nat) (fs : List Value), ov x = .inl (ci, q) → h1.1 q = some (.inr (ci, fs)) → K x h1 = some o → PX Γ I D h0 Q h1 pc vs q) (st0 : List Value) (hst : st0 = As.reverse ++ va_rf (some a) :: rest) : PF Γ I D h0 Q h pc vs st0 := by
  obtain ⟨x, h1, rfl, hf⟩ := cl_in hf
  subst hst
  obtain ⟨p, l, e, R, s, m, args, below, meth, c⟩ := Γ
  intro X B ls hl H locs hM hz hS
  have X0 := X
  obtain ⟨cc, nL, own, rt, xt, fr, lo, nm⟩ := I
  have hWK := X.2.2.2.2.2.2.2.2.2.2.2.2.1
  have hRc : R.cells = pcl h0 := X.2.2.2.2.2.2.2.2.2.2.1
  have hRs : R.slots = psl h0 := X.2.2.2.2.2.2.2.2.2.2.2.1
  have hRf : fr ≤ R.frames := X.2.2.2.2.2.2.2.2.1
  have hRl : lo ≤ R.locals := X.2.2.2.2.2.2.2.2.2.1
  have hts := X.2.2.2.2.1
  refine j_ran rfl X0 B hl hM hz hS (vx_runIN (As := As) (b := a) ⟨X.1, X.2.1, X.2.2.1, X.2.2.2.1, X.2.2.2.2.1⟩ (hct l X.2.2.2.2.2.2.2.2.2.2.2.2.2.2.2.1 x h1 rfl) ⟨va_cnB n hts hG rfl rfl rfl (hWK.2.1 _ hlk rfl) (hts _ hini) hdy ⟨Nat.le_trans (Nat.le_of_ble_eq_true hfr) hRf, Nat.le_trans (Nat.le_of_ble_eq_true hlo) hRl⟩, hy1, hts _ him⟩ ⟨cPre_blind, j_pre hWK B hM hS⟩ rfl hn hl.size rfl (lv_room hW) hd ?_) (fun rv e => kk x h1 rv e hf) (fun ci q fs e h9 => kx x h1 ci q fs e h9 hf)
  rw [hRc, hRs]
  exact j_left B
theorem j_callU {y : MethodName} {cc2 : ByteArray} {nL2 fr2 lo2 index n : Nat} {rt2 : Option FieldType} {As : List Value} {x9 : MethodName} {owner : String} {ci : Nat} {r : Option Nat} {α : Type} {ro : Option (α × PH)} {ov : α → OC} {K : α → PH → Option β} (hG : GoodIn lw_all (va_wsU I.2.2.1 index (rcl ci).1 owner x9 y (ws_ y cc2 nL2 rt2))) (hyx : y = ⟨owner, x9.name, x9.desc⟩) (hdy : owner ≠ "java/lang/invoke/MethodHandle" ∧ owner ≠ "java/lang/invoke/VarHandle" ∧ (parseMethodDescriptor x9.desc).map (fun d => d.parameters.length) = some n) (hfr : Nat.ble (fr2 + 1) I.2.2.2.2.2.1 = true) (hlo : Nat.ble (8 + (nL2 + 11) + lo2) I.2.2.2.2.2.2.1 = true) (hn : As.length = n) (hW : (rest.map fun v => v.category).sum ≤ 8) (hd : decode I.1 pc = .ok (.invokevirtual index, 3))
    (hct : ∀ (l : Launch), l.stackTraces = false → ∀ (x : α) (h1 : PH), ro = some (x, h1) → CT l D y (ws_ y cc2 nL2 rt2) fr2 lo2 (va_rf r :: As) h (ov x) h1) (hf : rv_ h r ci (cl_ ro K) = some o)
    (kk : ∀ (x : α) (h1 : PH) (rv : Option Value), ov x = .inr rv → K x h1 = some o → PF Γ I D h0 Q h1 (pc + 3) vs (rv.toList ++ rest)) (kx : ∀ (x : α) (h1 : PH) (ci q : Nat) (fs : List Value), ov x = .inl (ci, q) → h1.1 q = some (.inr (ci, fs)) → K x h1 = some o → PX Γ I D h0 Q h1 pc vs q) (st0 : List Value) (hst : st0 = As.reverse ++ va_rf r :: rest) : PF Γ I D h0 Q h pc vs st0 := by
  obtain ⟨a, fs, rfl, he, hf⟩ := rv_in hf
  obtain ⟨x, h1, rfl, hf⟩ := cl_in hf
  subst hst
  obtain ⟨p, l, e, R, s, m, args, below, meth, c⟩ := Γ
  intro X B ls hl H locs hM hz hS
  have X0 := X
  obtain ⟨cc, nL, own, rt, xt, fr, lo, nm⟩ := I
  have hWK := X.2.2.2.2.2.2.2.2.2.2.2.2.1
  have hRc : R.cells = pcl h0 := X.2.2.2.2.2.2.2.2.2.2.1
  have hRs : R.slots = psl h0 := X.2.2.2.2.2.2.2.2.2.2.2.1
  have hRf : fr ≤ R.frames := X.2.2.2.2.2.2.2.2.1
  have hRl : lo ≤ R.locals := X.2.2.2.2.2.2.2.2.2.1
  have hts := X.2.2.2.2.1
  have hrec := j_recv hWK B hM hS he
  refine j_ran rfl X0 B hl hM hz hS (vx_runU (As := As) (b := a) ⟨X.1, X.2.1, X.2.2.1, X.2.2.2.1, X.2.2.2.2.1⟩ (hct l X.2.2.2.2.2.2.2.2.2.2.2.2.2.2.2.1 x h1 rfl) (va_cwU n hts hG rfl rfl rfl hyx hdy ⟨Nat.le_trans (Nat.le_of_ble_eq_true hfr) hRf, Nat.le_trans (Nat.le_of_ble_eq_true hlo) hRl⟩) ⟨cPre_blind, hrec, j_pre hWK B hM hS⟩ rfl hn hl.size rfl (lv_room hW) hd ?_) (fun rv e => kk x h1 rv e hf) (fun ci q fs e h9 => kx x h1 ci q fs e h9 hf)
  rw [hRc, hRs]
  exact j_left B
theorem j_callF {y : MethodName} {cc2 : ByteArray} {nL2 fr2 lo2 index n : Nat} {rt2 : Option FieldType} {As : List Value} {x9 : MethodName} {C : String} {T : u_T} {N ci count : Nat} {r : Option Nat} {α : Type} {ro : Option (α × PH)} {ov : α → OC} {K : α → PH → Option β} (hc : clA[ci]? = some (C, T, N)) (hFw : (C, x9, y) ∈ fwT) (hG : GoodIn lw_all (va_wsF I.2.2.1 index C x9 y (ws_ y cc2 nL2 rt2))) (hdy : x9.cls ≠ "java/lang/invoke/MethodHandle" ∧ x9.cls ≠ "java/lang/invoke/VarHandle" ∧ (parseMethodDescriptor x9.desc).map (fun d => d.parameters.length) = some n) (hfr : Nat.ble (fr2 + 1) I.2.2.2.2.2.1 = true) (hlo : Nat.ble (8 + (nL2 + 11) + lo2) I.2.2.2.2.2.2.1 = true) (hn : As.length = n) (hW : (rest.map fun v => v.category).sum ≤ 8) (hd : decode I.1 pc = .ok (.invokeinterface index count, 5))
    (hct : ∀ (l : Launch), l.stackTraces = false → ∀ (x : α) (h1 : PH), ro = some (x, h1) → CT l D y (ws_ y cc2 nL2 rt2) fr2 lo2 (va_rf r :: As) h (ov x) h1) (hf : rv_ h r ci (cl_ ro K) = some o)
    (kk : ∀ (x : α) (h1 : PH) (rv : Option Value), ov x = .inr rv → K x h1 = some o → PF Γ I D h0 Q h1 (pc + 5) vs (rv.toList ++ rest)) (kx : ∀ (x : α) (h1 : PH) (ci q : Nat) (fs : List Value), ov x = .inl (ci, q) → h1.1 q = some (.inr (ci, fs)) → K x h1 = some o → PX Γ I D h0 Q h1 pc vs q) (st0 : List Value) (hst : st0 = As.reverse ++ va_rf r :: rest) : PF Γ I D h0 Q h pc vs st0 := by
  obtain ⟨a, fs, rfl, he, hf⟩ := rv_in hf
  obtain ⟨x, h1, rfl, hf⟩ := cl_in hf
  subst hst
  obtain ⟨p, l, e, R, s, m, args, below, meth, c⟩ := Γ
  intro X B ls hl H locs hM hz hS
  have X0 := X
  obtain ⟨cc, nL, own, rt, xt, fr, lo, nm⟩ := I
  have hWK := X.2.2.2.2.2.2.2.2.2.2.2.2.1
  have hRc : R.cells = pcl h0 := X.2.2.2.2.2.2.2.2.2.2.1
  have hRs : R.slots = psl h0 := X.2.2.2.2.2.2.2.2.2.2.2.1
  have hRf : fr ≤ R.frames := X.2.2.2.2.2.2.2.2.1
  have hRl : lo ≤ R.locals := X.2.2.2.2.2.2.2.2.2.1
  have hts := X.2.2.2.2.1
  have hrec := j_recv hWK B hM hS he
  have e1 : (rcl ci).1 = C := by unfold rcl; rw [hc]
  rw [e1] at hrec
  refine j_ran5 rfl X0 B hl hM hz hS (vx_runF (As := As) (b := a) (hWK.1.1 ci _ hc).2 ⟨X.1, X.2.1, X.2.2.1, X.2.2.2.1, X.2.2.2.2.1⟩ (hct l X.2.2.2.2.2.2.2.2.2.2.2.2.2.2.2.1 x h1 rfl) (va_cwF n hts hG rfl rfl rfl (hWK.2.2.2.2.2.2.2.2.2.2.2 _ hFw) hdy ⟨Nat.le_trans (Nat.le_of_ble_eq_true hfr) hRf, Nat.le_trans (Nat.le_of_ble_eq_true hlo) hRl⟩) ⟨cPre_blind, hrec, j_pre hWK B hM hS⟩ rfl hn hl.size rfl (lv_room hW) hd ?_) (fun rv e => kk x h1 rv e hf) (fun ci q fs e h9 => kx x h1 ci q fs e h9 hf)
  rw [hRc, hRs]
  exact j_left B
theorem j_callO {y : MethodName} {cc2 : ByteArray} {nL2 fr2 lo2 index n : Nat} {rt2 : Option FieldType} {As : List Value} {x9 : MethodName} {owner : String} {ci m0 : Nat} {b0 : ByteArray} {r09 : Option FieldType} {r : Option Nat} {α : Type} {ro : Option (α × PH)} {ov : α → OC} {K : α → PH → Option β} (hG : GoodIn lw_all (va_wsO I.2.2.1 index (rcl ci).1 owner x9 y (ws_ y cc2 nL2 rt2))) (hc0 : Cond.code ⟨owner, x9.name, x9.desc⟩ b0 m0 r09 ∈ lw_all) (hdy : owner ≠ "java/lang/invoke/MethodHandle" ∧ owner ≠ "java/lang/invoke/VarHandle" ∧ (parseMethodDescriptor x9.desc).map (fun d => d.parameters.length) = some n) (hfr : Nat.ble (fr2 + 1) I.2.2.2.2.2.1 = true) (hlo : Nat.ble (8 + (nL2 + 11) + lo2) I.2.2.2.2.2.2.1 = true) (hn : As.length = n) (hW : (rest.map fun v => v.category).sum ≤ 8) (hd : decode I.1 pc = .ok (.invokevirtual index, 3))
    (hct : ∀ (l : Launch), l.stackTraces = false → ∀ (x : α) (h1 : PH), ro = some (x, h1) → CT l D y (ws_ y cc2 nL2 rt2) fr2 lo2 (va_rf r :: As) h (ov x) h1) (hf : rv_ h r ci (cl_ ro K) = some o)
    (kk : ∀ (x : α) (h1 : PH) (rv : Option Value), ov x = .inr rv → K x h1 = some o → PF Γ I D h0 Q h1 (pc + 3) vs (rv.toList ++ rest)) (kx : ∀ (x : α) (h1 : PH) (ci q : Nat) (fs : List Value), ov x = .inl (ci, q) → h1.1 q = some (.inr (ci, fs)) → K x h1 = some o → PX Γ I D h0 Q h1 pc vs q) (st0 : List Value) (hst : st0 = As.reverse ++ va_rf r :: rest) : PF Γ I D h0 Q h pc vs st0 := by
  obtain ⟨a, fs, rfl, he, hf⟩ := rv_in hf
  obtain ⟨x, h1, rfl, hf⟩ := cl_in hf
  subst hst
  obtain ⟨p, l, e, R, s, m, args, below, meth, c⟩ := Γ
  intro X B ls hl H locs hM hz hS
  have X0 := X
  obtain ⟨cc, nL, own, rt, xt, fr, lo, nm⟩ := I
  have hWK := X.2.2.2.2.2.2.2.2.2.2.2.2.1
  have hRc : R.cells = pcl h0 := X.2.2.2.2.2.2.2.2.2.2.1
  have hRs : R.slots = psl h0 := X.2.2.2.2.2.2.2.2.2.2.2.1
  have hRf : fr ≤ R.frames := X.2.2.2.2.2.2.2.2.1
  have hRl : lo ≤ R.locals := X.2.2.2.2.2.2.2.2.2.1
  have hts := X.2.2.2.2.1
  have hrec := j_recv hWK B hM hS he
  refine j_ran rfl X0 B hl hM hz hS (vx_runU (As := As) (b := a) ⟨X.1, X.2.1, X.2.2.1, X.2.2.2.1, X.2.2.2.2.1⟩ (hct l X.2.2.2.2.2.2.2.2.2.2.2.2.2.2.2.1 x h1 rfl) (va_cwO n hts hG rfl rfl rfl hc0 hdy ⟨Nat.le_trans (Nat.le_of_ble_eq_true hfr) hRf, Nat.le_trans (Nat.le_of_ble_eq_true hlo) hRl⟩) ⟨cPre_blind, hrec, j_pre hWK B hM hS⟩ rfl hn hl.size rfl (lv_room hW) hd ?_) (fun rv e => kk x h1 rv e hf) (fun ci q fs e h9 => kx x h1 ci q fs e h9 hf)
  rw [hRc, hRs]
  exact j_left B
theorem j_callK {y : MethodName} {cc2 : ByteArray} {nL2 fr2 lo2 index n : Nat} {rt2 : Option FieldType} {As : List Value} {C : String} {ci : Nat} {r : Option Nat} {α : Type} {ro : Option (α × PH)} {ov : α → OC} {K : α → PH → Option β} (hcn : (rcl ci).1 = C) (hG : GoodIn lw_all (wsV I.2.2.1 index C y (ws_ y cc2 nL2 rt2))) (hdy : y.cls = C ∧ y.cls ≠ "java/lang/invoke/MethodHandle" ∧ y.cls ≠ "java/lang/invoke/VarHandle" ∧ (parseMethodDescriptor y.desc).map (fun d => d.parameters.length) = some n) (hfr : Nat.ble (fr2 + 1) I.2.2.2.2.2.1 = true) (hlo : Nat.ble (8 + (nL2 + 11) + lo2) I.2.2.2.2.2.2.1 = true) (hn : As.length = n) (hW : (rest.map fun v => v.category).sum ≤ 8) (hd : decode I.1 pc = .ok (.invokevirtual index, 3))
    (hct : ∀ (l : Launch), l.stackTraces = false → ∀ (x : α) (h1 : PH), ro = some (x, h1) → CT l D y (ws_ y cc2 nL2 rt2) fr2 lo2 (va_rf r :: As) h (ov x) h1) (hf : rv_ h r ci (cl_ ro K) = some o)
    (kk : ∀ (x : α) (h1 : PH) (rv : Option Value), ov x = .inr rv → K x h1 = some o → PF Γ I D h0 Q h1 (pc + 3) vs (rv.toList ++ rest)) (kx : ∀ (x : α) (h1 : PH) (ci q : Nat) (fs : List Value), ov x = .inl (ci, q) → h1.1 q = some (.inr (ci, fs)) → K x h1 = some o → PX Γ I D h0 Q h1 pc vs q) (st0 : List Value) (hst : st0 = As.reverse ++ va_rf r :: rest) : PF Γ I D h0 Q h pc vs st0 := by
  obtain ⟨a, fs, rfl, he, hf⟩ := rv_in hf
  obtain ⟨x, h1, rfl, hf⟩ := cl_in hf
  subst hst
  obtain ⟨p, l, e, R, s, m, args, below, meth, c⟩ := Γ
  intro X B ls hl H locs hM hz hS
  have X0 := X
  obtain ⟨cc, nL, own, rt, xt, fr, lo, nm⟩ := I
  have hWK := X.2.2.2.2.2.2.2.2.2.2.2.2.1
  have hRc : R.cells = pcl h0 := X.2.2.2.2.2.2.2.2.2.2.1
  have hRs : R.slots = psl h0 := X.2.2.2.2.2.2.2.2.2.2.2.1
  have hRf : fr ≤ R.frames := X.2.2.2.2.2.2.2.2.1
  have hRl : lo ≤ R.locals := X.2.2.2.2.2.2.2.2.2.1
  have hts := X.2.2.2.2.1
  have hrec := j_recv hWK B hM hS he
  refine j_ran rfl X0 B hl hM hz hS (vx_runV (As := As) (b := a) ⟨X.1, X.2.1, X.2.2.1, X.2.2.2.1, X.2.2.2.2.1⟩ (hct l X.2.2.2.2.2.2.2.2.2.2.2.2.2.2.2.1 x h1 rfl) (cwV n hts hG rfl rfl rfl hdy ⟨Nat.le_trans (Nat.le_of_ble_eq_true hfr) hRf, Nat.le_trans (Nat.le_of_ble_eq_true hlo) hRl⟩) ⟨cPre_blind, hcn ▸ hrec, j_pre hWK B hM hS⟩ rfl hn hl.size rfl (lv_room hW) hd ?_) (fun rv e => kk x h1 rv e hf) (fun ci q fs e h9 => kx x h1 ci q fs e h9 hf)
  rw [hRc, hRs]
  exact j_left B
theorem j_callSU {y : MethodName} {cc2 : ByteArray} {nL2 fr2 lo2 index n : Nat} {rt2 : Option FieldType} {As : List Value} {C : String} {T : u_T} {N ci : Nat} {r : Option Nat} {α : Type} {ro : Option (α × PH)} {ov : α → OC} {K : α → PH → Option β} (hc : clA[ci]? = some (C, T, N)) (hG : GoodIn lw_all (va_wsSU I.2.2.1 index y (ws_ y cc2 nL2 rt2))) (hdy : y.name ≠ "<init>" ∧ (parseMethodDescriptor y.desc).map (fun d => d.parameters.length) = some n) (hfr : Nat.ble (fr2 + 1) I.2.2.2.2.2.1 = true) (hlo : Nat.ble (8 + (nL2 + 11) + lo2) I.2.2.2.2.2.2.1 = true) (hn : As.length = n) (hW : (rest.map fun v => v.category).sum ≤ 8) (hd : decode I.1 pc = .ok (.invokespecial index, 3))
    (hct : ∀ (l : Launch), l.stackTraces = false → ∀ (x : α) (h1 : PH), ro = some (x, h1) → CT l D y (ws_ y cc2 nL2 rt2) fr2 lo2 (va_rf r :: As) h (ov x) h1) (hf : rv_ h r ci (cl_ ro K) = some o)
    (kk : ∀ (x : α) (h1 : PH) (rv : Option Value), ov x = .inr rv → K x h1 = some o → PF Γ I D h0 Q h1 (pc + 3) vs (rv.toList ++ rest)) (kx : ∀ (x : α) (h1 : PH) (ci q : Nat) (fs : List Value), ov x = .inl (ci, q) → h1.1 q = some (.inr (ci, fs)) → K x h1 = some o → PX Γ I D h0 Q h1 pc vs q) (st0 : List Value) (hst : st0 = As.reverse ++ va_rf r :: rest) : PF Γ I D h0 Q h pc vs st0 := by
  obtain ⟨a, fs, rfl, he, hf⟩ := rv_in hf
  obtain ⟨x, h1, rfl, hf⟩ := cl_in hf
  subst hst
  obtain ⟨p, l, e, R, s, m, args, below, meth, c⟩ := Γ
  intro X B ls hl H locs hM hz hS
  have X0 := X
  obtain ⟨cc, nL, own, rt, xt, fr, lo, nm⟩ := I
  have hWK := X.2.2.2.2.2.2.2.2.2.2.2.2.1
  have hRc : R.cells = pcl h0 := X.2.2.2.2.2.2.2.2.2.2.1
  have hRs : R.slots = psl h0 := X.2.2.2.2.2.2.2.2.2.2.2.1
  have hRf : fr ≤ R.frames := X.2.2.2.2.2.2.2.2.1
  have hRl : lo ≤ R.locals := X.2.2.2.2.2.2.2.2.2.1
  have hts := X.2.2.2.2.1
  have hrec := j_recv hWK B hM hS he
  have e1 : (rcl ci).1 = C := by unfold rcl; rw [hc]
  rw [e1] at hrec
  refine j_ran rfl X0 B hl hM hz hS (vx_runSU (As := As) (b := a) (hWK.1.1 ci _ hc).2 ⟨X.1, X.2.1, X.2.2.1, X.2.2.2.1, X.2.2.2.2.1⟩ (hct l X.2.2.2.2.2.2.2.2.2.2.2.2.2.2.2.1 x h1 rfl) (va_cwSU n hts hG rfl rfl rfl hdy ⟨Nat.le_trans (Nat.le_of_ble_eq_true hfr) hRf, Nat.le_trans (Nat.le_of_ble_eq_true hlo) hRl⟩) ⟨cPre_blind, hrec, j_pre hWK B hM hS⟩ rfl hn hl.size rfl (lv_room hW) hd ?_) (fun rv e => kk x h1 rv e hf) (fun ci q fs e h9 => kx x h1 ci q fs e h9 hf)
  rw [hRc, hRs]
  exact j_left B
theorem j_callVW {y : MethodName} {cc2 : ByteArray} {nL2 fr2 lo2 index n : Nat} {rt2 : Option FieldType} {As : List Value} {C : String} {T : u_T} {N ci : Nat} {r : Option Nat} {hh : List (Nat × Nat × Nat × Nat)} {α : Type} {ro : Option (α × PH)} {ov : α → OC} {K : α → PH → Option β} (hc : clA[ci]? = some (C, T, N)) (hG : GoodIn lw_all (wsV I.2.2.1 index C y (wsW_ y cc2 nL2 rt2 hh))) (hdy : y.cls = C ∧ y.cls ≠ "java/lang/invoke/MethodHandle" ∧ y.cls ≠ "java/lang/invoke/VarHandle" ∧ (parseMethodDescriptor y.desc).map (fun d => d.parameters.length) = some n) (hfr : Nat.ble (fr2 + 1) I.2.2.2.2.2.1 = true) (hlo : Nat.ble (8 + (nL2 + 11) + lo2) I.2.2.2.2.2.2.1 = true) (hn : As.length = n) (hW : (rest.map fun v => v.category).sum ≤ 8) (hd : decode I.1 pc = .ok (.invokevirtual index, 3))
    (hct : ∀ (l : Launch), l.stackTraces = false → ∀ (x : α) (h1 : PH), ro = some (x, h1) → CT l D y (wsW_ y cc2 nL2 rt2 hh) fr2 lo2 (va_rf r :: As) h (ov x) h1) (hf : rv_ h r ci (cl_ ro K) = some o)
    (kk : ∀ (x : α) (h1 : PH) (rv : Option Value), ov x = .inr rv → K x h1 = some o → PF Γ I D h0 Q h1 (pc + 3) vs (rv.toList ++ rest)) (kx : ∀ (x : α) (h1 : PH) (ci q : Nat) (fs : List Value), ov x = .inl (ci, q) → h1.1 q = some (.inr (ci, fs)) → K x h1 = some o → PX Γ I D h0 Q h1 pc vs q) (st0 : List Value) (hst : st0 = As.reverse ++ va_rf r :: rest) : PF Γ I D h0 Q h pc vs st0 := by
  obtain ⟨a, fs, rfl, he, hf⟩ := rv_in hf
  obtain ⟨x, h1, rfl, hf⟩ := cl_in hf
  subst hst
  obtain ⟨p, l, e, R, s, m, args, below, meth, c⟩ := Γ
  intro X B ls hl H locs hM hz hS
  have X0 := X
  obtain ⟨cc, nL, own, rt, xt, fr, lo, nm⟩ := I
  have hWK := X.2.2.2.2.2.2.2.2.2.2.2.2.1
  have hRc : R.cells = pcl h0 := X.2.2.2.2.2.2.2.2.2.2.1
  have hRs : R.slots = psl h0 := X.2.2.2.2.2.2.2.2.2.2.2.1
  have hRf : fr ≤ R.frames := X.2.2.2.2.2.2.2.2.1
  have hRl : lo ≤ R.locals := X.2.2.2.2.2.2.2.2.2.1
  have hts := X.2.2.2.2.1
  have hrec := j_recv hWK B hM hS he
  have e1 : (rcl ci).1 = C := by unfold rcl; rw [hc]
  rw [e1] at hrec
  refine j_ran rfl X0 B hl hM hz hS (vx_runVX (As := As) (b := a) ⟨X.1, X.2.1, X.2.2.1, X.2.2.2.1, X.2.2.2.2.1⟩ (hct l X.2.2.2.2.2.2.2.2.2.2.2.2.2.2.2.1 x h1 rfl) (vx_cwVW n hts hG rfl rfl rfl hdy ⟨Nat.le_trans (Nat.le_of_ble_eq_true hfr) hRf, Nat.le_trans (Nat.le_of_ble_eq_true hlo) hRl⟩) ⟨cPre_blind, hrec, j_pre hWK B hM hS⟩ rfl hn hl.size rfl (lv_room hW) hd ?_) (fun rv e => kk x h1 rv e hf) (fun ci q fs e h9 => kx x h1 ci q fs e h9 hf)
  rw [hRc, hRs]
  exact j_left B
theorem j_callSW {y : MethodName} {cc2 : ByteArray} {nL2 fr2 lo2 index n : Nat} {rt2 : Option FieldType} {As : List Value} {hh : List (Nat × Nat × Nat × Nat)} {α : Type} {ro : Option (α × PH)} {ov : α → OC} {K : α → PH → Option β} (hG : GoodIn lw_all (va_wsS I.2.2.1 index y (wsW_ y cc2 nL2 rt2 hh))) (hdy : y.cls ≠ "java/lang/invoke/MethodHandle" ∧ y.cls ≠ "java/lang/invoke/VarHandle" ∧ (parseMethodDescriptor y.desc).map (fun d => d.parameters.length) = some n) (hfr : Nat.ble (fr2 + 1) I.2.2.2.2.2.1 = true) (hlo : Nat.ble (8 + (nL2 + 11) + lo2) I.2.2.2.2.2.2.1 = true) (hn : As.length = n) (hW : (rest.map fun v => v.category).sum ≤ 8) (hd : decode I.1 pc = .ok (.invokestatic index, 3))
    (hct : ∀ (l : Launch), l.stackTraces = false → ∀ (x : α) (h1 : PH), ro = some (x, h1) → CT l D y (wsW_ y cc2 nL2 rt2 hh) fr2 lo2 As h (ov x) h1) (hf : cl_ ro K = some o)
    (kk : ∀ (x : α) (h1 : PH) (rv : Option Value), ov x = .inr rv → K x h1 = some o → PF Γ I D h0 Q h1 (pc + 3) vs (rv.toList ++ rest)) (kx : ∀ (x : α) (h1 : PH) (ci q : Nat) (fs : List Value), ov x = .inl (ci, q) → h1.1 q = some (.inr (ci, fs)) → K x h1 = some o → PX Γ I D h0 Q h1 pc vs q) (st0 : List Value) (hst : st0 = As.reverse ++ rest) : PF Γ I D h0 Q h pc vs st0 := by
  obtain ⟨x, h1, rfl, hf⟩ := cl_in hf
  subst hst
  obtain ⟨p, l, e, R, s, m, args, below, meth, c⟩ := Γ
  intro X B ls hl H locs hM hz hS
  have X0 := X
  obtain ⟨cc, nL, own, rt, xt, fr, lo, nm⟩ := I
  have hWK := X.2.2.2.2.2.2.2.2.2.2.2.2.1
  have hRc : R.cells = pcl h0 := X.2.2.2.2.2.2.2.2.2.2.1
  have hRs : R.slots = psl h0 := X.2.2.2.2.2.2.2.2.2.2.2.1
  have hRf : fr ≤ R.frames := X.2.2.2.2.2.2.2.2.1
  have hRl : lo ≤ R.locals := X.2.2.2.2.2.2.2.2.2.1
  have hts := X.2.2.2.2.1
  refine j_ran rfl X0 B hl hM hz hS (vx_runSX (As := As) ⟨X.1, X.2.1, X.2.2.1, X.2.2.2.1, X.2.2.2.2.1⟩ (hct l X.2.2.2.2.2.2.2.2.2.2.2.2.2.2.2.1 x h1 rfl) (vx_cwSW n hts hG rfl rfl rfl hdy ⟨Nat.le_trans (Nat.le_of_ble_eq_true hfr) hRf, Nat.le_trans (Nat.le_of_ble_eq_true hlo) hRl⟩) ⟨cPre_blind, j_pre hWK B hM hS⟩ rfl hn hl.size rfl (lv_room hW) hd ?_) (fun rv e => kk x h1 rv e hf) (fun ci q fs e h9 => kx x h1 ci q fs e h9 hf)
  rw [hRc, hRs]
  exact j_left B
theorem j_cVNi {y : MethodName} {cc2 : ByteArray} {nL2 fr2 lo2 index n : Nat} {rt2 : Option FieldType} {As : List Value} {host C : String} {T : u_T} {N ci : Nat} {r : Option Nat} {ro : Option (Int32 × PH)} {K : Int32 → PH → Option β} (hc : clA[ci]? = some (C, T, N)) (hG : GoodIn lw_all (ws_ y cc2 nL2 rt2)) (hini : Cond.initialized y.cls ∈ lw_all) (hlk : Cond.methodLinkNest I.2.2.1 index y host ∈ lw_tbl) (him : Cond.instanceMethod y ∈ lw_all) (hsel : Cond.selects C y y ∈ lw_all) (hdy : y.cls ≠ "java/lang/invoke/MethodHandle" ∧ y.cls ≠ "java/lang/invoke/VarHandle" ∧ (parseMethodDescriptor y.desc).map (fun d => d.parameters.length) = some n) (hfr : Nat.ble (fr2 + 1) I.2.2.2.2.2.1 = true) (hlo : Nat.ble (8 + (nL2 + 11) + lo2) I.2.2.2.2.2.2.1 = true) (hn : As.length = n) (hW : (rest.map fun v => v.category).sum ≤ 8) (hd : decode I.1 pc = .ok (.invokevirtual index, 3)) (hct : ∀ (l : Launch), l.stackTraces = false → ∀ (x : Int32) (h1 : PH), ro = some (x, h1) → CT l D y (ws_ y cc2 nL2 rt2) fr2 lo2 (va_rf r :: As) h (ovi x) h1) (hf : rv_ h r ci (cl_ ro K) = some o) (st0 : List Value) (hst : st0 = As.reverse ++ va_rf r :: rest)
    (kk : ∀ (x : Int32) (h1 : PH), K x h1 = some o → PF Γ I D h0 Q h1 (pc + 3) vs (.int x :: rest)) : PF Γ I D h0 Q h pc vs st0 :=
  j_callVN hc hG hini hlk him hsel hdy hfr hlo hn hW hd hct hf (fun x h1 rv e h9 => by cases e; exact kk x h1 h9) (fun x h1 ci q fs e => by cases e) st0 hst
theorem j_xVNi {y : MethodName} {cc2 : ByteArray} {nL2 fr2 lo2 index n : Nat} {rt2 : Option FieldType} {As : List Value} {host C : String} {T : u_T} {N ci : Nat} {r : Option Nat} {ro : Option (((Nat × Nat) ⊕ Int32) × PH)} {K : ((Nat × Nat) ⊕ Int32) → PH → Option β} (hc : clA[ci]? = some (C, T, N)) (hG : GoodIn lw_all (ws_ y cc2 nL2 rt2)) (hini : Cond.initialized y.cls ∈ lw_all) (hlk : Cond.methodLinkNest I.2.2.1 index y host ∈ lw_tbl) (him : Cond.instanceMethod y ∈ lw_all) (hsel : Cond.selects C y y ∈ lw_all) (hdy : y.cls ≠ "java/lang/invoke/MethodHandle" ∧ y.cls ≠ "java/lang/invoke/VarHandle" ∧ (parseMethodDescriptor y.desc).map (fun d => d.parameters.length) = some n) (hfr : Nat.ble (fr2 + 1) I.2.2.2.2.2.1 = true) (hlo : Nat.ble (8 + (nL2 + 11) + lo2) I.2.2.2.2.2.2.1 = true) (hn : As.length = n) (hW : (rest.map fun v => v.category).sum ≤ 8) (hd : decode I.1 pc = .ok (.invokevirtual index, 3)) (hct : ∀ (l : Launch), l.stackTraces = false → ∀ (x : (Nat × Nat) ⊕ Int32) (h1 : PH), ro = some (x, h1) → CT l D y (ws_ y cc2 nL2 rt2) fr2 lo2 (va_rf r :: As) h (oxi x) h1) (hf : rv_ h r ci (cl_ ro K) = some o) (st0 : List Value) (hst : st0 = As.reverse ++ va_rf r :: rest)
    (kk : ∀ (x : Int32) (h1 : PH), K (.inr x) h1 = some o → PF Γ I D h0 Q h1 (pc + 3) vs (.int x :: rest)) (kx : ∀ (ci q : Nat) (h1 : PH) (fs : List Value), h1.1 q = some (.inr (ci, fs)) → K (.inl (ci, q)) h1 = some o → PX Γ I D h0 Q h1 pc vs q) : PF Γ I D h0 Q h pc vs st0 :=
  j_callVN hc hG hini hlk him hsel hdy hfr hlo hn hW hd hct hf (fun x h1 rv e h9 => by
    cases x with
    | inl q => cases e
    | inr v => cases e; exact kk v h1 h9) (fun x h1 ci q fs e h8 h9 => by
    cases x with
    | inl z => cases e; exact kx ci q h1 fs h8 h9
    | inr v => cases e) st0 hst
theorem j_cVNl {y : MethodName} {cc2 : ByteArray} {nL2 fr2 lo2 index n : Nat} {rt2 : Option FieldType} {As : List Value} {host C : String} {T : u_T} {N ci : Nat} {r : Option Nat} {ro : Option (Int64 × PH)} {K : Int64 → PH → Option β} (hc : clA[ci]? = some (C, T, N)) (hG : GoodIn lw_all (ws_ y cc2 nL2 rt2)) (hini : Cond.initialized y.cls ∈ lw_all) (hlk : Cond.methodLinkNest I.2.2.1 index y host ∈ lw_tbl) (him : Cond.instanceMethod y ∈ lw_all) (hsel : Cond.selects C y y ∈ lw_all) (hdy : y.cls ≠ "java/lang/invoke/MethodHandle" ∧ y.cls ≠ "java/lang/invoke/VarHandle" ∧ (parseMethodDescriptor y.desc).map (fun d => d.parameters.length) = some n) (hfr : Nat.ble (fr2 + 1) I.2.2.2.2.2.1 = true) (hlo : Nat.ble (8 + (nL2 + 11) + lo2) I.2.2.2.2.2.2.1 = true) (hn : As.length = n) (hW : (rest.map fun v => v.category).sum ≤ 8) (hd : decode I.1 pc = .ok (.invokevirtual index, 3)) (hct : ∀ (l : Launch), l.stackTraces = false → ∀ (x : Int64) (h1 : PH), ro = some (x, h1) → CT l D y (ws_ y cc2 nL2 rt2) fr2 lo2 (va_rf r :: As) h (ovl x) h1) (hf : rv_ h r ci (cl_ ro K) = some o) (st0 : List Value) (hst : st0 = As.reverse ++ va_rf r :: rest)
    (kk : ∀ (x : Int64) (h1 : PH), K x h1 = some o → PF Γ I D h0 Q h1 (pc + 3) vs (.long x :: rest)) : PF Γ I D h0 Q h pc vs st0 :=
  j_callVN hc hG hini hlk him hsel hdy hfr hlo hn hW hd hct hf (fun x h1 rv e h9 => by cases e; exact kk x h1 h9) (fun x h1 ci q fs e => by cases e) st0 hst
theorem j_xVNl {y : MethodName} {cc2 : ByteArray} {nL2 fr2 lo2 index n : Nat} {rt2 : Option FieldType} {As : List Value} {host C : String} {T : u_T} {N ci : Nat} {r : Option Nat} {ro : Option (((Nat × Nat) ⊕ Int64) × PH)} {K : ((Nat × Nat) ⊕ Int64) → PH → Option β} (hc : clA[ci]? = some (C, T, N)) (hG : GoodIn lw_all (ws_ y cc2 nL2 rt2)) (hini : Cond.initialized y.cls ∈ lw_all) (hlk : Cond.methodLinkNest I.2.2.1 index y host ∈ lw_tbl) (him : Cond.instanceMethod y ∈ lw_all) (hsel : Cond.selects C y y ∈ lw_all) (hdy : y.cls ≠ "java/lang/invoke/MethodHandle" ∧ y.cls ≠ "java/lang/invoke/VarHandle" ∧ (parseMethodDescriptor y.desc).map (fun d => d.parameters.length) = some n) (hfr : Nat.ble (fr2 + 1) I.2.2.2.2.2.1 = true) (hlo : Nat.ble (8 + (nL2 + 11) + lo2) I.2.2.2.2.2.2.1 = true) (hn : As.length = n) (hW : (rest.map fun v => v.category).sum ≤ 8) (hd : decode I.1 pc = .ok (.invokevirtual index, 3)) (hct : ∀ (l : Launch), l.stackTraces = false → ∀ (x : (Nat × Nat) ⊕ Int64) (h1 : PH), ro = some (x, h1) → CT l D y (ws_ y cc2 nL2 rt2) fr2 lo2 (va_rf r :: As) h (oxl x) h1) (hf : rv_ h r ci (cl_ ro K) = some o) (st0 : List Value) (hst : st0 = As.reverse ++ va_rf r :: rest)
    (kk : ∀ (x : Int64) (h1 : PH), K (.inr x) h1 = some o → PF Γ I D h0 Q h1 (pc + 3) vs (.long x :: rest)) (kx : ∀ (ci q : Nat) (h1 : PH) (fs : List Value), h1.1 q = some (.inr (ci, fs)) → K (.inl (ci, q)) h1 = some o → PX Γ I D h0 Q h1 pc vs q) : PF Γ I D h0 Q h pc vs st0 :=
  j_callVN hc hG hini hlk him hsel hdy hfr hlo hn hW hd hct hf (fun x h1 rv e h9 => by
    cases x with
    | inl q => cases e
    | inr v => cases e; exact kk v h1 h9) (fun x h1 ci q fs e h8 h9 => by
    cases x with
    | inl z => cases e; exact kx ci q h1 fs h8 h9
    | inr v => cases e) st0 hst
theorem j_cVNr {y : MethodName} {cc2 : ByteArray} {nL2 fr2 lo2 index n : Nat} {rt2 : Option FieldType} {As : List Value} {host C : String} {T : u_T} {N ci : Nat} {r : Option Nat} {ro : Option (Option Nat × PH)} {K : Option Nat → PH → Option β} (hc : clA[ci]? = some (C, T, N)) (hG : GoodIn lw_all (ws_ y cc2 nL2 rt2)) (hini : Cond.initialized y.cls ∈ lw_all) (hlk : Cond.methodLinkNest I.2.2.1 index y host ∈ lw_tbl) (him : Cond.instanceMethod y ∈ lw_all) (hsel : Cond.selects C y y ∈ lw_all) (hdy : y.cls ≠ "java/lang/invoke/MethodHandle" ∧ y.cls ≠ "java/lang/invoke/VarHandle" ∧ (parseMethodDescriptor y.desc).map (fun d => d.parameters.length) = some n) (hfr : Nat.ble (fr2 + 1) I.2.2.2.2.2.1 = true) (hlo : Nat.ble (8 + (nL2 + 11) + lo2) I.2.2.2.2.2.2.1 = true) (hn : As.length = n) (hW : (rest.map fun v => v.category).sum ≤ 8) (hd : decode I.1 pc = .ok (.invokevirtual index, 3)) (hct : ∀ (l : Launch), l.stackTraces = false → ∀ (x : Option Nat) (h1 : PH), ro = some (x, h1) → CT l D y (ws_ y cc2 nL2 rt2) fr2 lo2 (va_rf r :: As) h (ovr x) h1) (hf : rv_ h r ci (cl_ ro K) = some o) (st0 : List Value) (hst : st0 = As.reverse ++ va_rf r :: rest)
    (kk : ∀ (x : Option Nat) (h1 : PH), K x h1 = some o → PF Γ I D h0 Q h1 (pc + 3) vs (va_rf x :: rest)) : PF Γ I D h0 Q h pc vs st0 :=
  j_callVN hc hG hini hlk him hsel hdy hfr hlo hn hW hd hct hf (fun x h1 rv e h9 => by cases e; exact kk x h1 h9) (fun x h1 ci q fs e => by cases e) st0 hst
theorem j_xVNr {y : MethodName} {cc2 : ByteArray} {nL2 fr2 lo2 index n : Nat} {rt2 : Option FieldType} {As : List Value} {host C : String} {T : u_T} {N ci : Nat} {r : Option Nat} {ro : Option (((Nat × Nat) ⊕ Option Nat) × PH)} {K : ((Nat × Nat) ⊕ Option Nat) → PH → Option β} (hc : clA[ci]? = some (C, T, N)) (hG : GoodIn lw_all (ws_ y cc2 nL2 rt2)) (hini : Cond.initialized y.cls ∈ lw_all) (hlk : Cond.methodLinkNest I.2.2.1 index y host ∈ lw_tbl) (him : Cond.instanceMethod y ∈ lw_all) (hsel : Cond.selects C y y ∈ lw_all) (hdy : y.cls ≠ "java/lang/invoke/MethodHandle" ∧ y.cls ≠ "java/lang/invoke/VarHandle" ∧ (parseMethodDescriptor y.desc).map (fun d => d.parameters.length) = some n) (hfr : Nat.ble (fr2 + 1) I.2.2.2.2.2.1 = true) (hlo : Nat.ble (8 + (nL2 + 11) + lo2) I.2.2.2.2.2.2.1 = true) (hn : As.length = n) (hW : (rest.map fun v => v.category).sum ≤ 8) (hd : decode I.1 pc = .ok (.invokevirtual index, 3)) (hct : ∀ (l : Launch), l.stackTraces = false → ∀ (x : (Nat × Nat) ⊕ Option Nat) (h1 : PH), ro = some (x, h1) → CT l D y (ws_ y cc2 nL2 rt2) fr2 lo2 (va_rf r :: As) h (oxr x) h1) (hf : rv_ h r ci (cl_ ro K) = some o) (st0 : List Value) (hst : st0 = As.reverse ++ va_rf r :: rest)
    (kk : ∀ (x : Option Nat) (h1 : PH), K (.inr x) h1 = some o → PF Γ I D h0 Q h1 (pc + 3) vs (va_rf x :: rest)) (kx : ∀ (ci q : Nat) (h1 : PH) (fs : List Value), h1.1 q = some (.inr (ci, fs)) → K (.inl (ci, q)) h1 = some o → PX Γ I D h0 Q h1 pc vs q) : PF Γ I D h0 Q h pc vs st0 :=
  j_callVN hc hG hini hlk him hsel hdy hfr hlo hn hW hd hct hf (fun x h1 rv e h9 => by
    cases x with
    | inl q => cases e
    | inr v => cases e; exact kk v h1 h9) (fun x h1 ci q fs e h8 h9 => by
    cases x with
    | inl z => cases e; exact kx ci q h1 fs h8 h9
    | inr v => cases e) st0 hst
theorem j_cVNv {y : MethodName} {cc2 : ByteArray} {nL2 fr2 lo2 index n : Nat} {rt2 : Option FieldType} {As : List Value} {host C : String} {T : u_T} {N ci : Nat} {r : Option Nat} {ro : Option (Unit × PH)} {K : Unit → PH → Option β} (hc : clA[ci]? = some (C, T, N)) (hG : GoodIn lw_all (ws_ y cc2 nL2 rt2)) (hini : Cond.initialized y.cls ∈ lw_all) (hlk : Cond.methodLinkNest I.2.2.1 index y host ∈ lw_tbl) (him : Cond.instanceMethod y ∈ lw_all) (hsel : Cond.selects C y y ∈ lw_all) (hdy : y.cls ≠ "java/lang/invoke/MethodHandle" ∧ y.cls ≠ "java/lang/invoke/VarHandle" ∧ (parseMethodDescriptor y.desc).map (fun d => d.parameters.length) = some n) (hfr : Nat.ble (fr2 + 1) I.2.2.2.2.2.1 = true) (hlo : Nat.ble (8 + (nL2 + 11) + lo2) I.2.2.2.2.2.2.1 = true) (hn : As.length = n) (hW : (rest.map fun v => v.category).sum ≤ 8) (hd : decode I.1 pc = .ok (.invokevirtual index, 3)) (hct : ∀ (l : Launch), l.stackTraces = false → ∀ (x : Unit) (h1 : PH), ro = some (x, h1) → CT l D y (ws_ y cc2 nL2 rt2) fr2 lo2 (va_rf r :: As) h (ovv x) h1) (hf : rv_ h r ci (cl_ ro K) = some o) (st0 : List Value) (hst : st0 = As.reverse ++ va_rf r :: rest)
    (kk : ∀ (x : Unit) (h1 : PH), K x h1 = some o → PF Γ I D h0 Q h1 (pc + 3) vs (rest)) : PF Γ I D h0 Q h pc vs st0 :=
  j_callVN hc hG hini hlk him hsel hdy hfr hlo hn hW hd hct hf (fun x h1 rv e h9 => by cases e; exact kk x h1 h9) (fun x h1 ci q fs e => by cases e) st0 hst
theorem j_xVNv {y : MethodName} {cc2 : ByteArray} {nL2 fr2 lo2 index n : Nat} {rt2 : Option FieldType} {As : List Value} {host C : String} {T : u_T} {N ci : Nat} {r : Option Nat} {ro : Option (((Nat × Nat) ⊕ Unit) × PH)} {K : ((Nat × Nat) ⊕ Unit) → PH → Option β} (hc : clA[ci]? = some (C, T, N)) (hG : GoodIn lw_all (ws_ y cc2 nL2 rt2)) (hini : Cond.initialized y.cls ∈ lw_all) (hlk : Cond.methodLinkNest I.2.2.1 index y host ∈ lw_tbl) (him : Cond.instanceMethod y ∈ lw_all) (hsel : Cond.selects C y y ∈ lw_all) (hdy : y.cls ≠ "java/lang/invoke/MethodHandle" ∧ y.cls ≠ "java/lang/invoke/VarHandle" ∧ (parseMethodDescriptor y.desc).map (fun d => d.parameters.length) = some n) (hfr : Nat.ble (fr2 + 1) I.2.2.2.2.2.1 = true) (hlo : Nat.ble (8 + (nL2 + 11) + lo2) I.2.2.2.2.2.2.1 = true) (hn : As.length = n) (hW : (rest.map fun v => v.category).sum ≤ 8) (hd : decode I.1 pc = .ok (.invokevirtual index, 3)) (hct : ∀ (l : Launch), l.stackTraces = false → ∀ (x : (Nat × Nat) ⊕ Unit) (h1 : PH), ro = some (x, h1) → CT l D y (ws_ y cc2 nL2 rt2) fr2 lo2 (va_rf r :: As) h (oxv x) h1) (hf : rv_ h r ci (cl_ ro K) = some o) (st0 : List Value) (hst : st0 = As.reverse ++ va_rf r :: rest)
    (kk : ∀ (x : Unit) (h1 : PH), K (.inr x) h1 = some o → PF Γ I D h0 Q h1 (pc + 3) vs (rest)) (kx : ∀ (ci q : Nat) (h1 : PH) (fs : List Value), h1.1 q = some (.inr (ci, fs)) → K (.inl (ci, q)) h1 = some o → PX Γ I D h0 Q h1 pc vs q) : PF Γ I D h0 Q h pc vs st0 :=
  j_callVN hc hG hini hlk him hsel hdy hfr hlo hn hW hd hct hf (fun x h1 rv e h9 => by
    cases x with
    | inl q => cases e
    | inr v => cases e; exact kk v h1 h9) (fun x h1 ci q fs e h8 h9 => by
    cases x with
    | inl z => cases e; exact kx ci q h1 fs h8 h9
    | inr v => cases e) st0 hst
theorem j_cSNi {y : MethodName} {cc2 : ByteArray} {nL2 fr2 lo2 index n : Nat} {rt2 : Option FieldType} {As : List Value} {host : String} {ro : Option (Int32 × PH)} {K : Int32 → PH → Option β} (hG : GoodIn lw_all (ws_ y cc2 nL2 rt2)) (hini : Cond.initialized y.cls ∈ lw_all) (hlk : Cond.methodLinkNest I.2.2.1 index y host ∈ lw_tbl) (hst9 : Cond.static y ∈ lw_all) (hdy : y.cls ≠ "java/lang/invoke/MethodHandle" ∧ y.cls ≠ "java/lang/invoke/VarHandle" ∧ (parseMethodDescriptor y.desc).map (fun d => d.parameters.length) = some n) (hfr : Nat.ble (fr2 + 1) I.2.2.2.2.2.1 = true) (hlo : Nat.ble (8 + (nL2 + 11) + lo2) I.2.2.2.2.2.2.1 = true) (hn : As.length = n) (hW : (rest.map fun v => v.category).sum ≤ 8) (hd : decode I.1 pc = .ok (.invokestatic index, 3)) (hct : ∀ (l : Launch), l.stackTraces = false → ∀ (x : Int32) (h1 : PH), ro = some (x, h1) → CT l D y (ws_ y cc2 nL2 rt2) fr2 lo2 As h (ovi x) h1) (hf : cl_ ro K = some o) (st0 : List Value) (hst : st0 = As.reverse ++ rest)
    (kk : ∀ (x : Int32) (h1 : PH), K x h1 = some o → PF Γ I D h0 Q h1 (pc + 3) vs (.int x :: rest)) : PF Γ I D h0 Q h pc vs st0 :=
  j_callSN hG hini hlk hst9 hdy hfr hlo hn hW hd hct hf (fun x h1 rv e h9 => by cases e; exact kk x h1 h9) (fun x h1 ci q fs e => by cases e) st0 hst
theorem j_xSNi {y : MethodName} {cc2 : ByteArray} {nL2 fr2 lo2 index n : Nat} {rt2 : Option FieldType} {As : List Value} {host : String} {ro : Option (((Nat × Nat) ⊕ Int32) × PH)} {K : ((Nat × Nat) ⊕ Int32) → PH → Option β} (hG : GoodIn lw_all (ws_ y cc2 nL2 rt2)) (hini : Cond.initialized y.cls ∈ lw_all) (hlk : Cond.methodLinkNest I.2.2.1 index y host ∈ lw_tbl) (hst9 : Cond.static y ∈ lw_all) (hdy : y.cls ≠ "java/lang/invoke/MethodHandle" ∧ y.cls ≠ "java/lang/invoke/VarHandle" ∧ (parseMethodDescriptor y.desc).map (fun d => d.parameters.length) = some n) (hfr : Nat.ble (fr2 + 1) I.2.2.2.2.2.1 = true) (hlo : Nat.ble (8 + (nL2 + 11) + lo2) I.2.2.2.2.2.2.1 = true) (hn : As.length = n) (hW : (rest.map fun v => v.category).sum ≤ 8) (hd : decode I.1 pc = .ok (.invokestatic index, 3)) (hct : ∀ (l : Launch), l.stackTraces = false → ∀ (x : (Nat × Nat) ⊕ Int32) (h1 : PH), ro = some (x, h1) → CT l D y (ws_ y cc2 nL2 rt2) fr2 lo2 As h (oxi x) h1) (hf : cl_ ro K = some o) (st0 : List Value) (hst : st0 = As.reverse ++ rest)
    (kk : ∀ (x : Int32) (h1 : PH), K (.inr x) h1 = some o → PF Γ I D h0 Q h1 (pc + 3) vs (.int x :: rest)) (kx : ∀ (ci q : Nat) (h1 : PH) (fs : List Value), h1.1 q = some (.inr (ci, fs)) → K (.inl (ci, q)) h1 = some o → PX Γ I D h0 Q h1 pc vs q) : PF Γ I D h0 Q h pc vs st0 :=
  j_callSN hG hini hlk hst9 hdy hfr hlo hn hW hd hct hf (fun x h1 rv e h9 => by
    cases x with
    | inl q => cases e
    | inr v => cases e; exact kk v h1 h9) (fun x h1 ci q fs e h8 h9 => by
    cases x with
    | inl z => cases e; exact kx ci q h1 fs h8 h9
    | inr v => cases e) st0 hst
theorem j_cSNl {y : MethodName} {cc2 : ByteArray} {nL2 fr2 lo2 index n : Nat} {rt2 : Option FieldType} {As : List Value} {host : String} {ro : Option (Int64 × PH)} {K : Int64 → PH → Option β} (hG : GoodIn lw_all (ws_ y cc2 nL2 rt2)) (hini : Cond.initialized y.cls ∈ lw_all) (hlk : Cond.methodLinkNest I.2.2.1 index y host ∈ lw_tbl) (hst9 : Cond.static y ∈ lw_all) (hdy : y.cls ≠ "java/lang/invoke/MethodHandle" ∧ y.cls ≠ "java/lang/invoke/VarHandle" ∧ (parseMethodDescriptor y.desc).map (fun d => d.parameters.length) = some n) (hfr : Nat.ble (fr2 + 1) I.2.2.2.2.2.1 = true) (hlo : Nat.ble (8 + (nL2 + 11) + lo2) I.2.2.2.2.2.2.1 = true) (hn : As.length = n) (hW : (rest.map fun v => v.category).sum ≤ 8) (hd : decode I.1 pc = .ok (.invokestatic index, 3)) (hct : ∀ (l : Launch), l.stackTraces = false → ∀ (x : Int64) (h1 : PH), ro = some (x, h1) → CT l D y (ws_ y cc2 nL2 rt2) fr2 lo2 As h (ovl x) h1) (hf : cl_ ro K = some o) (st0 : List Value) (hst : st0 = As.reverse ++ rest)
    (kk : ∀ (x : Int64) (h1 : PH), K x h1 = some o → PF Γ I D h0 Q h1 (pc + 3) vs (.long x :: rest)) : PF Γ I D h0 Q h pc vs st0 :=
  j_callSN hG hini hlk hst9 hdy hfr hlo hn hW hd hct hf (fun x h1 rv e h9 => by cases e; exact kk x h1 h9) (fun x h1 ci q fs e => by cases e) st0 hst
theorem j_xSNl {y : MethodName} {cc2 : ByteArray} {nL2 fr2 lo2 index n : Nat} {rt2 : Option FieldType} {As : List Value} {host : String} {ro : Option (((Nat × Nat) ⊕ Int64) × PH)} {K : ((Nat × Nat) ⊕ Int64) → PH → Option β} (hG : GoodIn lw_all (ws_ y cc2 nL2 rt2)) (hini : Cond.initialized y.cls ∈ lw_all) (hlk : Cond.methodLinkNest I.2.2.1 index y host ∈ lw_tbl) (hst9 : Cond.static y ∈ lw_all) (hdy : y.cls ≠ "java/lang/invoke/MethodHandle" ∧ y.cls ≠ "java/lang/invoke/VarHandle" ∧ (parseMethodDescriptor y.desc).map (fun d => d.parameters.length) = some n) (hfr : Nat.ble (fr2 + 1) I.2.2.2.2.2.1 = true) (hlo : Nat.ble (8 + (nL2 + 11) + lo2) I.2.2.2.2.2.2.1 = true) (hn : As.length = n) (hW : (rest.map fun v => v.category).sum ≤ 8) (hd : decode I.1 pc = .ok (.invokestatic index, 3)) (hct : ∀ (l : Launch), l.stackTraces = false → ∀ (x : (Nat × Nat) ⊕ Int64) (h1 : PH), ro = some (x, h1) → CT l D y (ws_ y cc2 nL2 rt2) fr2 lo2 As h (oxl x) h1) (hf : cl_ ro K = some o) (st0 : List Value) (hst : st0 = As.reverse ++ rest)
    (kk : ∀ (x : Int64) (h1 : PH), K (.inr x) h1 = some o → PF Γ I D h0 Q h1 (pc + 3) vs (.long x :: rest)) (kx : ∀ (ci q : Nat) (h1 : PH) (fs : List Value), h1.1 q = some (.inr (ci, fs)) → K (.inl (ci, q)) h1 = some o → PX Γ I D h0 Q h1 pc vs q) : PF Γ I D h0 Q h pc vs st0 :=
  j_callSN hG hini hlk hst9 hdy hfr hlo hn hW hd hct hf (fun x h1 rv e h9 => by
    cases x with
    | inl q => cases e
    | inr v => cases e; exact kk v h1 h9) (fun x h1 ci q fs e h8 h9 => by
    cases x with
    | inl z => cases e; exact kx ci q h1 fs h8 h9
    | inr v => cases e) st0 hst
theorem j_cSNr {y : MethodName} {cc2 : ByteArray} {nL2 fr2 lo2 index n : Nat} {rt2 : Option FieldType} {As : List Value} {host : String} {ro : Option (Option Nat × PH)} {K : Option Nat → PH → Option β} (hG : GoodIn lw_all (ws_ y cc2 nL2 rt2)) (hini : Cond.initialized y.cls ∈ lw_all) (hlk : Cond.methodLinkNest I.2.2.1 index y host ∈ lw_tbl) (hst9 : Cond.static y ∈ lw_all) (hdy : y.cls ≠ "java/lang/invoke/MethodHandle" ∧ y.cls ≠ "java/lang/invoke/VarHandle" ∧ (parseMethodDescriptor y.desc).map (fun d => d.parameters.length) = some n) (hfr : Nat.ble (fr2 + 1) I.2.2.2.2.2.1 = true) (hlo : Nat.ble (8 + (nL2 + 11) + lo2) I.2.2.2.2.2.2.1 = true) (hn : As.length = n) (hW : (rest.map fun v => v.category).sum ≤ 8) (hd : decode I.1 pc = .ok (.invokestatic index, 3)) (hct : ∀ (l : Launch), l.stackTraces = false → ∀ (x : Option Nat) (h1 : PH), ro = some (x, h1) → CT l D y (ws_ y cc2 nL2 rt2) fr2 lo2 As h (ovr x) h1) (hf : cl_ ro K = some o) (st0 : List Value) (hst : st0 = As.reverse ++ rest)
    (kk : ∀ (x : Option Nat) (h1 : PH), K x h1 = some o → PF Γ I D h0 Q h1 (pc + 3) vs (va_rf x :: rest)) : PF Γ I D h0 Q h pc vs st0 :=
  j_callSN hG hini hlk hst9 hdy hfr hlo hn hW hd hct hf (fun x h1 rv e h9 => by cases e; exact kk x h1 h9) (fun x h1 ci q fs e => by cases e) st0 hst
theorem j_xSNr {y : MethodName} {cc2 : ByteArray} {nL2 fr2 lo2 index n : Nat} {rt2 : Option FieldType} {As : List Value} {host : String} {ro : Option (((Nat × Nat) ⊕ Option Nat) × PH)} {K : ((Nat × Nat) ⊕ Option Nat) → PH → Option β} (hG : GoodIn lw_all (ws_ y cc2 nL2 rt2)) (hini : Cond.initialized y.cls ∈ lw_all) (hlk : Cond.methodLinkNest I.2.2.1 index y host ∈ lw_tbl) (hst9 : Cond.static y ∈ lw_all) (hdy : y.cls ≠ "java/lang/invoke/MethodHandle" ∧ y.cls ≠ "java/lang/invoke/VarHandle" ∧ (parseMethodDescriptor y.desc).map (fun d => d.parameters.length) = some n) (hfr : Nat.ble (fr2 + 1) I.2.2.2.2.2.1 = true) (hlo : Nat.ble (8 + (nL2 + 11) + lo2) I.2.2.2.2.2.2.1 = true) (hn : As.length = n) (hW : (rest.map fun v => v.category).sum ≤ 8) (hd : decode I.1 pc = .ok (.invokestatic index, 3)) (hct : ∀ (l : Launch), l.stackTraces = false → ∀ (x : (Nat × Nat) ⊕ Option Nat) (h1 : PH), ro = some (x, h1) → CT l D y (ws_ y cc2 nL2 rt2) fr2 lo2 As h (oxr x) h1) (hf : cl_ ro K = some o) (st0 : List Value) (hst : st0 = As.reverse ++ rest)
    (kk : ∀ (x : Option Nat) (h1 : PH), K (.inr x) h1 = some o → PF Γ I D h0 Q h1 (pc + 3) vs (va_rf x :: rest)) (kx : ∀ (ci q : Nat) (h1 : PH) (fs : List Value), h1.1 q = some (.inr (ci, fs)) → K (.inl (ci, q)) h1 = some o → PX Γ I D h0 Q h1 pc vs q) : PF Γ I D h0 Q h pc vs st0 :=
  j_callSN hG hini hlk hst9 hdy hfr hlo hn hW hd hct hf (fun x h1 rv e h9 => by
    cases x with
    | inl q => cases e
    | inr v => cases e; exact kk v h1 h9) (fun x h1 ci q fs e h8 h9 => by
    cases x with
    | inl z => cases e; exact kx ci q h1 fs h8 h9
    | inr v => cases e) st0 hst
theorem j_cSNv {y : MethodName} {cc2 : ByteArray} {nL2 fr2 lo2 index n : Nat} {rt2 : Option FieldType} {As : List Value} {host : String} {ro : Option (Unit × PH)} {K : Unit → PH → Option β} (hG : GoodIn lw_all (ws_ y cc2 nL2 rt2)) (hini : Cond.initialized y.cls ∈ lw_all) (hlk : Cond.methodLinkNest I.2.2.1 index y host ∈ lw_tbl) (hst9 : Cond.static y ∈ lw_all) (hdy : y.cls ≠ "java/lang/invoke/MethodHandle" ∧ y.cls ≠ "java/lang/invoke/VarHandle" ∧ (parseMethodDescriptor y.desc).map (fun d => d.parameters.length) = some n) (hfr : Nat.ble (fr2 + 1) I.2.2.2.2.2.1 = true) (hlo : Nat.ble (8 + (nL2 + 11) + lo2) I.2.2.2.2.2.2.1 = true) (hn : As.length = n) (hW : (rest.map fun v => v.category).sum ≤ 8) (hd : decode I.1 pc = .ok (.invokestatic index, 3)) (hct : ∀ (l : Launch), l.stackTraces = false → ∀ (x : Unit) (h1 : PH), ro = some (x, h1) → CT l D y (ws_ y cc2 nL2 rt2) fr2 lo2 As h (ovv x) h1) (hf : cl_ ro K = some o) (st0 : List Value) (hst : st0 = As.reverse ++ rest)
    (kk : ∀ (x : Unit) (h1 : PH), K x h1 = some o → PF Γ I D h0 Q h1 (pc + 3) vs (rest)) : PF Γ I D h0 Q h pc vs st0 :=
  j_callSN hG hini hlk hst9 hdy hfr hlo hn hW hd hct hf (fun x h1 rv e h9 => by cases e; exact kk x h1 h9) (fun x h1 ci q fs e => by cases e) st0 hst
theorem j_xSNv {y : MethodName} {cc2 : ByteArray} {nL2 fr2 lo2 index n : Nat} {rt2 : Option FieldType} {As : List Value} {host : String} {ro : Option (((Nat × Nat) ⊕ Unit) × PH)} {K : ((Nat × Nat) ⊕ Unit) → PH → Option β} (hG : GoodIn lw_all (ws_ y cc2 nL2 rt2)) (hini : Cond.initialized y.cls ∈ lw_all) (hlk : Cond.methodLinkNest I.2.2.1 index y host ∈ lw_tbl) (hst9 : Cond.static y ∈ lw_all) (hdy : y.cls ≠ "java/lang/invoke/MethodHandle" ∧ y.cls ≠ "java/lang/invoke/VarHandle" ∧ (parseMethodDescriptor y.desc).map (fun d => d.parameters.length) = some n) (hfr : Nat.ble (fr2 + 1) I.2.2.2.2.2.1 = true) (hlo : Nat.ble (8 + (nL2 + 11) + lo2) I.2.2.2.2.2.2.1 = true) (hn : As.length = n) (hW : (rest.map fun v => v.category).sum ≤ 8) (hd : decode I.1 pc = .ok (.invokestatic index, 3)) (hct : ∀ (l : Launch), l.stackTraces = false → ∀ (x : (Nat × Nat) ⊕ Unit) (h1 : PH), ro = some (x, h1) → CT l D y (ws_ y cc2 nL2 rt2) fr2 lo2 As h (oxv x) h1) (hf : cl_ ro K = some o) (st0 : List Value) (hst : st0 = As.reverse ++ rest)
    (kk : ∀ (x : Unit) (h1 : PH), K (.inr x) h1 = some o → PF Γ I D h0 Q h1 (pc + 3) vs (rest)) (kx : ∀ (ci q : Nat) (h1 : PH) (fs : List Value), h1.1 q = some (.inr (ci, fs)) → K (.inl (ci, q)) h1 = some o → PX Γ I D h0 Q h1 pc vs q) : PF Γ I D h0 Q h pc vs st0 :=
  j_callSN hG hini hlk hst9 hdy hfr hlo hn hW hd hct hf (fun x h1 rv e h9 => by
    cases x with
    | inl q => cases e
    | inr v => cases e; exact kk v h1 h9) (fun x h1 ci q fs e h8 h9 => by
    cases x with
    | inl z => cases e; exact kx ci q h1 fs h8 h9
    | inr v => cases e) st0 hst
theorem j_cINv {y : MethodName} {cc2 : ByteArray} {nL2 fr2 lo2 index n : Nat} {As : List Value} {host : String} {a : Nat} {ro : Option (Unit × PH)} {K : Unit → PH → Option β} (hG : GoodIn lw_all (ws_ y cc2 nL2 none)) (hini : Cond.initialized y.cls ∈ lw_all) (hlk : Cond.methodLinkNest I.2.2.1 index y host ∈ lw_tbl) (him : Cond.instanceMethod y ∈ lw_all) (hy1 : y.name = "<init>") (hdy : y.cls ≠ "java/lang/invoke/MethodHandle" ∧ y.cls ≠ "java/lang/invoke/VarHandle" ∧ (parseMethodDescriptor y.desc).map (fun d => d.parameters.length) = some n) (hfr : Nat.ble (fr2 + 1) I.2.2.2.2.2.1 = true) (hlo : Nat.ble (8 + (nL2 + 11) + lo2) I.2.2.2.2.2.2.1 = true) (hn : As.length = n) (hW : (rest.map fun v => v.category).sum ≤ 8) (hd : decode I.1 pc = .ok (.invokespecial index, 3)) (hct : ∀ (l : Launch), l.stackTraces = false → ∀ (x : Unit) (h1 : PH), ro = some (x, h1) → CT l D y (ws_ y cc2 nL2 none) fr2 lo2 (va_rf (some a) :: As) h (ovv x) h1) (hf : cl_ ro K = some o) (st0 : List Value) (hst : st0 = As.reverse ++ va_rf (some a) :: rest)
    (kk : ∀ (x : Unit) (h1 : PH), K x h1 = some o → PF Γ I D h0 Q h1 (pc + 3) vs (rest)) : PF Γ I D h0 Q h pc vs st0 :=
  j_callIN hG hini hlk him hy1 hdy hfr hlo hn hW hd hct hf (fun x h1 rv e h9 => by cases e; exact kk x h1 h9) (fun x h1 ci q fs e => by cases e) st0 hst
theorem j_xINv {y : MethodName} {cc2 : ByteArray} {nL2 fr2 lo2 index n : Nat} {As : List Value} {host : String} {a : Nat} {ro : Option (((Nat × Nat) ⊕ Unit) × PH)} {K : ((Nat × Nat) ⊕ Unit) → PH → Option β} (hG : GoodIn lw_all (ws_ y cc2 nL2 none)) (hini : Cond.initialized y.cls ∈ lw_all) (hlk : Cond.methodLinkNest I.2.2.1 index y host ∈ lw_tbl) (him : Cond.instanceMethod y ∈ lw_all) (hy1 : y.name = "<init>") (hdy : y.cls ≠ "java/lang/invoke/MethodHandle" ∧ y.cls ≠ "java/lang/invoke/VarHandle" ∧ (parseMethodDescriptor y.desc).map (fun d => d.parameters.length) = some n) (hfr : Nat.ble (fr2 + 1) I.2.2.2.2.2.1 = true) (hlo : Nat.ble (8 + (nL2 + 11) + lo2) I.2.2.2.2.2.2.1 = true) (hn : As.length = n) (hW : (rest.map fun v => v.category).sum ≤ 8) (hd : decode I.1 pc = .ok (.invokespecial index, 3)) (hct : ∀ (l : Launch), l.stackTraces = false → ∀ (x : (Nat × Nat) ⊕ Unit) (h1 : PH), ro = some (x, h1) → CT l D y (ws_ y cc2 nL2 none) fr2 lo2 (va_rf (some a) :: As) h (oxv x) h1) (hf : cl_ ro K = some o) (st0 : List Value) (hst : st0 = As.reverse ++ va_rf (some a) :: rest)
    (kk : ∀ (x : Unit) (h1 : PH), K (.inr x) h1 = some o → PF Γ I D h0 Q h1 (pc + 3) vs (rest)) (kx : ∀ (ci q : Nat) (h1 : PH) (fs : List Value), h1.1 q = some (.inr (ci, fs)) → K (.inl (ci, q)) h1 = some o → PX Γ I D h0 Q h1 pc vs q) : PF Γ I D h0 Q h pc vs st0 :=
  j_callIN hG hini hlk him hy1 hdy hfr hlo hn hW hd hct hf (fun x h1 rv e h9 => by
    cases x with
    | inl q => cases e
    | inr v => cases e; exact kk v h1 h9) (fun x h1 ci q fs e h8 h9 => by
    cases x with
    | inl z => cases e; exact kx ci q h1 fs h8 h9
    | inr v => cases e) st0 hst
theorem j_cUi {y : MethodName} {cc2 : ByteArray} {nL2 fr2 lo2 index n : Nat} {rt2 : Option FieldType} {As : List Value} {x9 : MethodName} {owner : String} {ci : Nat} {r : Option Nat} {ro : Option (Int32 × PH)} {K : Int32 → PH → Option β} (hG : GoodIn lw_all (va_wsU I.2.2.1 index (rcl ci).1 owner x9 y (ws_ y cc2 nL2 rt2))) (hyx : y = ⟨owner, x9.name, x9.desc⟩) (hdy : owner ≠ "java/lang/invoke/MethodHandle" ∧ owner ≠ "java/lang/invoke/VarHandle" ∧ (parseMethodDescriptor x9.desc).map (fun d => d.parameters.length) = some n) (hfr : Nat.ble (fr2 + 1) I.2.2.2.2.2.1 = true) (hlo : Nat.ble (8 + (nL2 + 11) + lo2) I.2.2.2.2.2.2.1 = true) (hn : As.length = n) (hW : (rest.map fun v => v.category).sum ≤ 8) (hd : decode I.1 pc = .ok (.invokevirtual index, 3)) (hct : ∀ (l : Launch), l.stackTraces = false → ∀ (x : Int32) (h1 : PH), ro = some (x, h1) → CT l D y (ws_ y cc2 nL2 rt2) fr2 lo2 (va_rf r :: As) h (ovi x) h1) (hf : rv_ h r ci (cl_ ro K) = some o) (st0 : List Value) (hst : st0 = As.reverse ++ va_rf r :: rest)
    (kk : ∀ (x : Int32) (h1 : PH), K x h1 = some o → PF Γ I D h0 Q h1 (pc + 3) vs (.int x :: rest)) : PF Γ I D h0 Q h pc vs st0 :=
  j_callU hG hyx hdy hfr hlo hn hW hd hct hf (fun x h1 rv e h9 => by cases e; exact kk x h1 h9) (fun x h1 ci q fs e => by cases e) st0 hst
theorem j_xUi {y : MethodName} {cc2 : ByteArray} {nL2 fr2 lo2 index n : Nat} {rt2 : Option FieldType} {As : List Value} {x9 : MethodName} {owner : String} {ci : Nat} {r : Option Nat} {ro : Option (((Nat × Nat) ⊕ Int32) × PH)} {K : ((Nat × Nat) ⊕ Int32) → PH → Option β} (hG : GoodIn lw_all (va_wsU I.2.2.1 index (rcl ci).1 owner x9 y (ws_ y cc2 nL2 rt2))) (hyx : y = ⟨owner, x9.name, x9.desc⟩) (hdy : owner ≠ "java/lang/invoke/MethodHandle" ∧ owner ≠ "java/lang/invoke/VarHandle" ∧ (parseMethodDescriptor x9.desc).map (fun d => d.parameters.length) = some n) (hfr : Nat.ble (fr2 + 1) I.2.2.2.2.2.1 = true) (hlo : Nat.ble (8 + (nL2 + 11) + lo2) I.2.2.2.2.2.2.1 = true) (hn : As.length = n) (hW : (rest.map fun v => v.category).sum ≤ 8) (hd : decode I.1 pc = .ok (.invokevirtual index, 3)) (hct : ∀ (l : Launch), l.stackTraces = false → ∀ (x : (Nat × Nat) ⊕ Int32) (h1 : PH), ro = some (x, h1) → CT l D y (ws_ y cc2 nL2 rt2) fr2 lo2 (va_rf r :: As) h (oxi x) h1) (hf : rv_ h r ci (cl_ ro K) = some o) (st0 : List Value) (hst : st0 = As.reverse ++ va_rf r :: rest)
    (kk : ∀ (x : Int32) (h1 : PH), K (.inr x) h1 = some o → PF Γ I D h0 Q h1 (pc + 3) vs (.int x :: rest)) (kx : ∀ (ci q : Nat) (h1 : PH) (fs : List Value), h1.1 q = some (.inr (ci, fs)) → K (.inl (ci, q)) h1 = some o → PX Γ I D h0 Q h1 pc vs q) : PF Γ I D h0 Q h pc vs st0 :=
  j_callU hG hyx hdy hfr hlo hn hW hd hct hf (fun x h1 rv e h9 => by
    cases x with
    | inl q => cases e
    | inr v => cases e; exact kk v h1 h9) (fun x h1 ci q fs e h8 h9 => by
    cases x with
    | inl z => cases e; exact kx ci q h1 fs h8 h9
    | inr v => cases e) st0 hst
theorem j_cUl {y : MethodName} {cc2 : ByteArray} {nL2 fr2 lo2 index n : Nat} {rt2 : Option FieldType} {As : List Value} {x9 : MethodName} {owner : String} {ci : Nat} {r : Option Nat} {ro : Option (Int64 × PH)} {K : Int64 → PH → Option β} (hG : GoodIn lw_all (va_wsU I.2.2.1 index (rcl ci).1 owner x9 y (ws_ y cc2 nL2 rt2))) (hyx : y = ⟨owner, x9.name, x9.desc⟩) (hdy : owner ≠ "java/lang/invoke/MethodHandle" ∧ owner ≠ "java/lang/invoke/VarHandle" ∧ (parseMethodDescriptor x9.desc).map (fun d => d.parameters.length) = some n) (hfr : Nat.ble (fr2 + 1) I.2.2.2.2.2.1 = true) (hlo : Nat.ble (8 + (nL2 + 11) + lo2) I.2.2.2.2.2.2.1 = true) (hn : As.length = n) (hW : (rest.map fun v => v.category).sum ≤ 8) (hd : decode I.1 pc = .ok (.invokevirtual index, 3)) (hct : ∀ (l : Launch), l.stackTraces = false → ∀ (x : Int64) (h1 : PH), ro = some (x, h1) → CT l D y (ws_ y cc2 nL2 rt2) fr2 lo2 (va_rf r :: As) h (ovl x) h1) (hf : rv_ h r ci (cl_ ro K) = some o) (st0 : List Value) (hst : st0 = As.reverse ++ va_rf r :: rest)
    (kk : ∀ (x : Int64) (h1 : PH), K x h1 = some o → PF Γ I D h0 Q h1 (pc + 3) vs (.long x :: rest)) : PF Γ I D h0 Q h pc vs st0 :=
  j_callU hG hyx hdy hfr hlo hn hW hd hct hf (fun x h1 rv e h9 => by cases e; exact kk x h1 h9) (fun x h1 ci q fs e => by cases e) st0 hst
theorem j_xUl {y : MethodName} {cc2 : ByteArray} {nL2 fr2 lo2 index n : Nat} {rt2 : Option FieldType} {As : List Value} {x9 : MethodName} {owner : String} {ci : Nat} {r : Option Nat} {ro : Option (((Nat × Nat) ⊕ Int64) × PH)} {K : ((Nat × Nat) ⊕ Int64) → PH → Option β} (hG : GoodIn lw_all (va_wsU I.2.2.1 index (rcl ci).1 owner x9 y (ws_ y cc2 nL2 rt2))) (hyx : y = ⟨owner, x9.name, x9.desc⟩) (hdy : owner ≠ "java/lang/invoke/MethodHandle" ∧ owner ≠ "java/lang/invoke/VarHandle" ∧ (parseMethodDescriptor x9.desc).map (fun d => d.parameters.length) = some n) (hfr : Nat.ble (fr2 + 1) I.2.2.2.2.2.1 = true) (hlo : Nat.ble (8 + (nL2 + 11) + lo2) I.2.2.2.2.2.2.1 = true) (hn : As.length = n) (hW : (rest.map fun v => v.category).sum ≤ 8) (hd : decode I.1 pc = .ok (.invokevirtual index, 3)) (hct : ∀ (l : Launch), l.stackTraces = false → ∀ (x : (Nat × Nat) ⊕ Int64) (h1 : PH), ro = some (x, h1) → CT l D y (ws_ y cc2 nL2 rt2) fr2 lo2 (va_rf r :: As) h (oxl x) h1) (hf : rv_ h r ci (cl_ ro K) = some o) (st0 : List Value) (hst : st0 = As.reverse ++ va_rf r :: rest)
    (kk : ∀ (x : Int64) (h1 : PH), K (.inr x) h1 = some o → PF Γ I D h0 Q h1 (pc + 3) vs (.long x :: rest)) (kx : ∀ (ci q : Nat) (h1 : PH) (fs : List Value), h1.1 q = some (.inr (ci, fs)) → K (.inl (ci, q)) h1 = some o → PX Γ I D h0 Q h1 pc vs q) : PF Γ I D h0 Q h pc vs st0 :=
  j_callU hG hyx hdy hfr hlo hn hW hd hct hf (fun x h1 rv e h9 => by
    cases x with
    | inl q => cases e
    | inr v => cases e; exact kk v h1 h9) (fun x h1 ci q fs e h8 h9 => by
    cases x with
    | inl z => cases e; exact kx ci q h1 fs h8 h9
    | inr v => cases e) st0 hst
theorem j_cUr {y : MethodName} {cc2 : ByteArray} {nL2 fr2 lo2 index n : Nat} {rt2 : Option FieldType} {As : List Value} {x9 : MethodName} {owner : String} {ci : Nat} {r : Option Nat} {ro : Option (Option Nat × PH)} {K : Option Nat → PH → Option β} (hG : GoodIn lw_all (va_wsU I.2.2.1 index (rcl ci).1 owner x9 y (ws_ y cc2 nL2 rt2))) (hyx : y = ⟨owner, x9.name, x9.desc⟩) (hdy : owner ≠ "java/lang/invoke/MethodHandle" ∧ owner ≠ "java/lang/invoke/VarHandle" ∧ (parseMethodDescriptor x9.desc).map (fun d => d.parameters.length) = some n) (hfr : Nat.ble (fr2 + 1) I.2.2.2.2.2.1 = true) (hlo : Nat.ble (8 + (nL2 + 11) + lo2) I.2.2.2.2.2.2.1 = true) (hn : As.length = n) (hW : (rest.map fun v => v.category).sum ≤ 8) (hd : decode I.1 pc = .ok (.invokevirtual index, 3)) (hct : ∀ (l : Launch), l.stackTraces = false → ∀ (x : Option Nat) (h1 : PH), ro = some (x, h1) → CT l D y (ws_ y cc2 nL2 rt2) fr2 lo2 (va_rf r :: As) h (ovr x) h1) (hf : rv_ h r ci (cl_ ro K) = some o) (st0 : List Value) (hst : st0 = As.reverse ++ va_rf r :: rest)
    (kk : ∀ (x : Option Nat) (h1 : PH), K x h1 = some o → PF Γ I D h0 Q h1 (pc + 3) vs (va_rf x :: rest)) : PF Γ I D h0 Q h pc vs st0 :=
  j_callU hG hyx hdy hfr hlo hn hW hd hct hf (fun x h1 rv e h9 => by cases e; exact kk x h1 h9) (fun x h1 ci q fs e => by cases e) st0 hst
theorem j_xUr {y : MethodName} {cc2 : ByteArray} {nL2 fr2 lo2 index n : Nat} {rt2 : Option FieldType} {As : List Value} {x9 : MethodName} {owner : String} {ci : Nat} {r : Option Nat} {ro : Option (((Nat × Nat) ⊕ Option Nat) × PH)} {K : ((Nat × Nat) ⊕ Option Nat) → PH → Option β} (hG : GoodIn lw_all (va_wsU I.2.2.1 index (rcl ci).1 owner x9 y (ws_ y cc2 nL2 rt2))) (hyx : y = ⟨owner, x9.name, x9.desc⟩) (hdy : owner ≠ "java/lang/invoke/MethodHandle" ∧ owner ≠ "java/lang/invoke/VarHandle" ∧ (parseMethodDescriptor x9.desc).map (fun d => d.parameters.length) = some n) (hfr : Nat.ble (fr2 + 1) I.2.2.2.2.2.1 = true) (hlo : Nat.ble (8 + (nL2 + 11) + lo2) I.2.2.2.2.2.2.1 = true) (hn : As.length = n) (hW : (rest.map fun v => v.category).sum ≤ 8) (hd : decode I.1 pc = .ok (.invokevirtual index, 3)) (hct : ∀ (l : Launch), l.stackTraces = false → ∀ (x : (Nat × Nat) ⊕ Option Nat) (h1 : PH), ro = some (x, h1) → CT l D y (ws_ y cc2 nL2 rt2) fr2 lo2 (va_rf r :: As) h (oxr x) h1) (hf : rv_ h r ci (cl_ ro K) = some o) (st0 : List Value) (hst : st0 = As.reverse ++ va_rf r :: rest)
    (kk : ∀ (x : Option Nat) (h1 : PH), K (.inr x) h1 = some o → PF Γ I D h0 Q h1 (pc + 3) vs (va_rf x :: rest)) (kx : ∀ (ci q : Nat) (h1 : PH) (fs : List Value), h1.1 q = some (.inr (ci, fs)) → K (.inl (ci, q)) h1 = some o → PX Γ I D h0 Q h1 pc vs q) : PF Γ I D h0 Q h pc vs st0 :=
  j_callU hG hyx hdy hfr hlo hn hW hd hct hf (fun x h1 rv e h9 => by
    cases x with
    | inl q => cases e
    | inr v => cases e; exact kk v h1 h9) (fun x h1 ci q fs e h8 h9 => by
    cases x with
    | inl z => cases e; exact kx ci q h1 fs h8 h9
    | inr v => cases e) st0 hst
theorem j_cUv {y : MethodName} {cc2 : ByteArray} {nL2 fr2 lo2 index n : Nat} {rt2 : Option FieldType} {As : List Value} {x9 : MethodName} {owner : String} {ci : Nat} {r : Option Nat} {ro : Option (Unit × PH)} {K : Unit → PH → Option β} (hG : GoodIn lw_all (va_wsU I.2.2.1 index (rcl ci).1 owner x9 y (ws_ y cc2 nL2 rt2))) (hyx : y = ⟨owner, x9.name, x9.desc⟩) (hdy : owner ≠ "java/lang/invoke/MethodHandle" ∧ owner ≠ "java/lang/invoke/VarHandle" ∧ (parseMethodDescriptor x9.desc).map (fun d => d.parameters.length) = some n) (hfr : Nat.ble (fr2 + 1) I.2.2.2.2.2.1 = true) (hlo : Nat.ble (8 + (nL2 + 11) + lo2) I.2.2.2.2.2.2.1 = true) (hn : As.length = n) (hW : (rest.map fun v => v.category).sum ≤ 8) (hd : decode I.1 pc = .ok (.invokevirtual index, 3)) (hct : ∀ (l : Launch), l.stackTraces = false → ∀ (x : Unit) (h1 : PH), ro = some (x, h1) → CT l D y (ws_ y cc2 nL2 rt2) fr2 lo2 (va_rf r :: As) h (ovv x) h1) (hf : rv_ h r ci (cl_ ro K) = some o) (st0 : List Value) (hst : st0 = As.reverse ++ va_rf r :: rest)
    (kk : ∀ (x : Unit) (h1 : PH), K x h1 = some o → PF Γ I D h0 Q h1 (pc + 3) vs (rest)) : PF Γ I D h0 Q h pc vs st0 :=
  j_callU hG hyx hdy hfr hlo hn hW hd hct hf (fun x h1 rv e h9 => by cases e; exact kk x h1 h9) (fun x h1 ci q fs e => by cases e) st0 hst
theorem j_xUv {y : MethodName} {cc2 : ByteArray} {nL2 fr2 lo2 index n : Nat} {rt2 : Option FieldType} {As : List Value} {x9 : MethodName} {owner : String} {ci : Nat} {r : Option Nat} {ro : Option (((Nat × Nat) ⊕ Unit) × PH)} {K : ((Nat × Nat) ⊕ Unit) → PH → Option β} (hG : GoodIn lw_all (va_wsU I.2.2.1 index (rcl ci).1 owner x9 y (ws_ y cc2 nL2 rt2))) (hyx : y = ⟨owner, x9.name, x9.desc⟩) (hdy : owner ≠ "java/lang/invoke/MethodHandle" ∧ owner ≠ "java/lang/invoke/VarHandle" ∧ (parseMethodDescriptor x9.desc).map (fun d => d.parameters.length) = some n) (hfr : Nat.ble (fr2 + 1) I.2.2.2.2.2.1 = true) (hlo : Nat.ble (8 + (nL2 + 11) + lo2) I.2.2.2.2.2.2.1 = true) (hn : As.length = n) (hW : (rest.map fun v => v.category).sum ≤ 8) (hd : decode I.1 pc = .ok (.invokevirtual index, 3)) (hct : ∀ (l : Launch), l.stackTraces = false → ∀ (x : (Nat × Nat) ⊕ Unit) (h1 : PH), ro = some (x, h1) → CT l D y (ws_ y cc2 nL2 rt2) fr2 lo2 (va_rf r :: As) h (oxv x) h1) (hf : rv_ h r ci (cl_ ro K) = some o) (st0 : List Value) (hst : st0 = As.reverse ++ va_rf r :: rest)
    (kk : ∀ (x : Unit) (h1 : PH), K (.inr x) h1 = some o → PF Γ I D h0 Q h1 (pc + 3) vs (rest)) (kx : ∀ (ci q : Nat) (h1 : PH) (fs : List Value), h1.1 q = some (.inr (ci, fs)) → K (.inl (ci, q)) h1 = some o → PX Γ I D h0 Q h1 pc vs q) : PF Γ I D h0 Q h pc vs st0 :=
  j_callU hG hyx hdy hfr hlo hn hW hd hct hf (fun x h1 rv e h9 => by
    cases x with
    | inl q => cases e
    | inr v => cases e; exact kk v h1 h9) (fun x h1 ci q fs e h8 h9 => by
    cases x with
    | inl z => cases e; exact kx ci q h1 fs h8 h9
    | inr v => cases e) st0 hst
theorem j_cFi {y : MethodName} {cc2 : ByteArray} {nL2 fr2 lo2 index n : Nat} {rt2 : Option FieldType} {As : List Value} {x9 : MethodName} {C : String} {T : u_T} {N ci count : Nat} {r : Option Nat} {ro : Option (Int32 × PH)} {K : Int32 → PH → Option β} (hc : clA[ci]? = some (C, T, N)) (hFw : (C, x9, y) ∈ fwT) (hG : GoodIn lw_all (va_wsF I.2.2.1 index C x9 y (ws_ y cc2 nL2 rt2))) (hdy : x9.cls ≠ "java/lang/invoke/MethodHandle" ∧ x9.cls ≠ "java/lang/invoke/VarHandle" ∧ (parseMethodDescriptor x9.desc).map (fun d => d.parameters.length) = some n) (hfr : Nat.ble (fr2 + 1) I.2.2.2.2.2.1 = true) (hlo : Nat.ble (8 + (nL2 + 11) + lo2) I.2.2.2.2.2.2.1 = true) (hn : As.length = n) (hW : (rest.map fun v => v.category).sum ≤ 8) (hd : decode I.1 pc = .ok (.invokeinterface index count, 5)) (hct : ∀ (l : Launch), l.stackTraces = false → ∀ (x : Int32) (h1 : PH), ro = some (x, h1) → CT l D y (ws_ y cc2 nL2 rt2) fr2 lo2 (va_rf r :: As) h (ovi x) h1) (hf : rv_ h r ci (cl_ ro K) = some o) (st0 : List Value) (hst : st0 = As.reverse ++ va_rf r :: rest)
    (kk : ∀ (x : Int32) (h1 : PH), K x h1 = some o → PF Γ I D h0 Q h1 (pc + 5) vs (.int x :: rest)) : PF Γ I D h0 Q h pc vs st0 :=
  j_callF hc hFw hG hdy hfr hlo hn hW hd hct hf (fun x h1 rv e h9 => by cases e; exact kk x h1 h9) (fun x h1 ci q fs e => by cases e) st0 hst
theorem j_xFi {y : MethodName} {cc2 : ByteArray} {nL2 fr2 lo2 index n : Nat} {rt2 : Option FieldType} {As : List Value} {x9 : MethodName} {C : String} {T : u_T} {N ci count : Nat} {r : Option Nat} {ro : Option (((Nat × Nat) ⊕ Int32) × PH)} {K : ((Nat × Nat) ⊕ Int32) → PH → Option β} (hc : clA[ci]? = some (C, T, N)) (hFw : (C, x9, y) ∈ fwT) (hG : GoodIn lw_all (va_wsF I.2.2.1 index C x9 y (ws_ y cc2 nL2 rt2))) (hdy : x9.cls ≠ "java/lang/invoke/MethodHandle" ∧ x9.cls ≠ "java/lang/invoke/VarHandle" ∧ (parseMethodDescriptor x9.desc).map (fun d => d.parameters.length) = some n) (hfr : Nat.ble (fr2 + 1) I.2.2.2.2.2.1 = true) (hlo : Nat.ble (8 + (nL2 + 11) + lo2) I.2.2.2.2.2.2.1 = true) (hn : As.length = n) (hW : (rest.map fun v => v.category).sum ≤ 8) (hd : decode I.1 pc = .ok (.invokeinterface index count, 5)) (hct : ∀ (l : Launch), l.stackTraces = false → ∀ (x : (Nat × Nat) ⊕ Int32) (h1 : PH), ro = some (x, h1) → CT l D y (ws_ y cc2 nL2 rt2) fr2 lo2 (va_rf r :: As) h (oxi x) h1) (hf : rv_ h r ci (cl_ ro K) = some o) (st0 : List Value) (hst : st0 = As.reverse ++ va_rf r :: rest)
    (kk : ∀ (x : Int32) (h1 : PH), K (.inr x) h1 = some o → PF Γ I D h0 Q h1 (pc + 5) vs (.int x :: rest)) (kx : ∀ (ci q : Nat) (h1 : PH) (fs : List Value), h1.1 q = some (.inr (ci, fs)) → K (.inl (ci, q)) h1 = some o → PX Γ I D h0 Q h1 pc vs q) : PF Γ I D h0 Q h pc vs st0 :=
  j_callF hc hFw hG hdy hfr hlo hn hW hd hct hf (fun x h1 rv e h9 => by
    cases x with
    | inl q => cases e
    | inr v => cases e; exact kk v h1 h9) (fun x h1 ci q fs e h8 h9 => by
    cases x with
    | inl z => cases e; exact kx ci q h1 fs h8 h9
    | inr v => cases e) st0 hst
theorem j_cFl {y : MethodName} {cc2 : ByteArray} {nL2 fr2 lo2 index n : Nat} {rt2 : Option FieldType} {As : List Value} {x9 : MethodName} {C : String} {T : u_T} {N ci count : Nat} {r : Option Nat} {ro : Option (Int64 × PH)} {K : Int64 → PH → Option β} (hc : clA[ci]? = some (C, T, N)) (hFw : (C, x9, y) ∈ fwT) (hG : GoodIn lw_all (va_wsF I.2.2.1 index C x9 y (ws_ y cc2 nL2 rt2))) (hdy : x9.cls ≠ "java/lang/invoke/MethodHandle" ∧ x9.cls ≠ "java/lang/invoke/VarHandle" ∧ (parseMethodDescriptor x9.desc).map (fun d => d.parameters.length) = some n) (hfr : Nat.ble (fr2 + 1) I.2.2.2.2.2.1 = true) (hlo : Nat.ble (8 + (nL2 + 11) + lo2) I.2.2.2.2.2.2.1 = true) (hn : As.length = n) (hW : (rest.map fun v => v.category).sum ≤ 8) (hd : decode I.1 pc = .ok (.invokeinterface index count, 5)) (hct : ∀ (l : Launch), l.stackTraces = false → ∀ (x : Int64) (h1 : PH), ro = some (x, h1) → CT l D y (ws_ y cc2 nL2 rt2) fr2 lo2 (va_rf r :: As) h (ovl x) h1) (hf : rv_ h r ci (cl_ ro K) = some o) (st0 : List Value) (hst : st0 = As.reverse ++ va_rf r :: rest)
    (kk : ∀ (x : Int64) (h1 : PH), K x h1 = some o → PF Γ I D h0 Q h1 (pc + 5) vs (.long x :: rest)) : PF Γ I D h0 Q h pc vs st0 :=
  j_callF hc hFw hG hdy hfr hlo hn hW hd hct hf (fun x h1 rv e h9 => by cases e; exact kk x h1 h9) (fun x h1 ci q fs e => by cases e) st0 hst
theorem j_xFl {y : MethodName} {cc2 : ByteArray} {nL2 fr2 lo2 index n : Nat} {rt2 : Option FieldType} {As : List Value} {x9 : MethodName} {C : String} {T : u_T} {N ci count : Nat} {r : Option Nat} {ro : Option (((Nat × Nat) ⊕ Int64) × PH)} {K : ((Nat × Nat) ⊕ Int64) → PH → Option β} (hc : clA[ci]? = some (C, T, N)) (hFw : (C, x9, y) ∈ fwT) (hG : GoodIn lw_all (va_wsF I.2.2.1 index C x9 y (ws_ y cc2 nL2 rt2))) (hdy : x9.cls ≠ "java/lang/invoke/MethodHandle" ∧ x9.cls ≠ "java/lang/invoke/VarHandle" ∧ (parseMethodDescriptor x9.desc).map (fun d => d.parameters.length) = some n) (hfr : Nat.ble (fr2 + 1) I.2.2.2.2.2.1 = true) (hlo : Nat.ble (8 + (nL2 + 11) + lo2) I.2.2.2.2.2.2.1 = true) (hn : As.length = n) (hW : (rest.map fun v => v.category).sum ≤ 8) (hd : decode I.1 pc = .ok (.invokeinterface index count, 5)) (hct : ∀ (l : Launch), l.stackTraces = false → ∀ (x : (Nat × Nat) ⊕ Int64) (h1 : PH), ro = some (x, h1) → CT l D y (ws_ y cc2 nL2 rt2) fr2 lo2 (va_rf r :: As) h (oxl x) h1) (hf : rv_ h r ci (cl_ ro K) = some o) (st0 : List Value) (hst : st0 = As.reverse ++ va_rf r :: rest)
    (kk : ∀ (x : Int64) (h1 : PH), K (.inr x) h1 = some o → PF Γ I D h0 Q h1 (pc + 5) vs (.long x :: rest)) (kx : ∀ (ci q : Nat) (h1 : PH) (fs : List Value), h1.1 q = some (.inr (ci, fs)) → K (.inl (ci, q)) h1 = some o → PX Γ I D h0 Q h1 pc vs q) : PF Γ I D h0 Q h pc vs st0 :=
  j_callF hc hFw hG hdy hfr hlo hn hW hd hct hf (fun x h1 rv e h9 => by
    cases x with
    | inl q => cases e
    | inr v => cases e; exact kk v h1 h9) (fun x h1 ci q fs e h8 h9 => by
    cases x with
    | inl z => cases e; exact kx ci q h1 fs h8 h9
    | inr v => cases e) st0 hst
theorem j_cFr {y : MethodName} {cc2 : ByteArray} {nL2 fr2 lo2 index n : Nat} {rt2 : Option FieldType} {As : List Value} {x9 : MethodName} {C : String} {T : u_T} {N ci count : Nat} {r : Option Nat} {ro : Option (Option Nat × PH)} {K : Option Nat → PH → Option β} (hc : clA[ci]? = some (C, T, N)) (hFw : (C, x9, y) ∈ fwT) (hG : GoodIn lw_all (va_wsF I.2.2.1 index C x9 y (ws_ y cc2 nL2 rt2))) (hdy : x9.cls ≠ "java/lang/invoke/MethodHandle" ∧ x9.cls ≠ "java/lang/invoke/VarHandle" ∧ (parseMethodDescriptor x9.desc).map (fun d => d.parameters.length) = some n) (hfr : Nat.ble (fr2 + 1) I.2.2.2.2.2.1 = true) (hlo : Nat.ble (8 + (nL2 + 11) + lo2) I.2.2.2.2.2.2.1 = true) (hn : As.length = n) (hW : (rest.map fun v => v.category).sum ≤ 8) (hd : decode I.1 pc = .ok (.invokeinterface index count, 5)) (hct : ∀ (l : Launch), l.stackTraces = false → ∀ (x : Option Nat) (h1 : PH), ro = some (x, h1) → CT l D y (ws_ y cc2 nL2 rt2) fr2 lo2 (va_rf r :: As) h (ovr x) h1) (hf : rv_ h r ci (cl_ ro K) = some o) (st0 : List Value) (hst : st0 = As.reverse ++ va_rf r :: rest)
    (kk : ∀ (x : Option Nat) (h1 : PH), K x h1 = some o → PF Γ I D h0 Q h1 (pc + 5) vs (va_rf x :: rest)) : PF Γ I D h0 Q h pc vs st0 :=
  j_callF hc hFw hG hdy hfr hlo hn hW hd hct hf (fun x h1 rv e h9 => by cases e; exact kk x h1 h9) (fun x h1 ci q fs e => by cases e) st0 hst
theorem j_xFr {y : MethodName} {cc2 : ByteArray} {nL2 fr2 lo2 index n : Nat} {rt2 : Option FieldType} {As : List Value} {x9 : MethodName} {C : String} {T : u_T} {N ci count : Nat} {r : Option Nat} {ro : Option (((Nat × Nat) ⊕ Option Nat) × PH)} {K : ((Nat × Nat) ⊕ Option Nat) → PH → Option β} (hc : clA[ci]? = some (C, T, N)) (hFw : (C, x9, y) ∈ fwT) (hG : GoodIn lw_all (va_wsF I.2.2.1 index C x9 y (ws_ y cc2 nL2 rt2))) (hdy : x9.cls ≠ "java/lang/invoke/MethodHandle" ∧ x9.cls ≠ "java/lang/invoke/VarHandle" ∧ (parseMethodDescriptor x9.desc).map (fun d => d.parameters.length) = some n) (hfr : Nat.ble (fr2 + 1) I.2.2.2.2.2.1 = true) (hlo : Nat.ble (8 + (nL2 + 11) + lo2) I.2.2.2.2.2.2.1 = true) (hn : As.length = n) (hW : (rest.map fun v => v.category).sum ≤ 8) (hd : decode I.1 pc = .ok (.invokeinterface index count, 5)) (hct : ∀ (l : Launch), l.stackTraces = false → ∀ (x : (Nat × Nat) ⊕ Option Nat) (h1 : PH), ro = some (x, h1) → CT l D y (ws_ y cc2 nL2 rt2) fr2 lo2 (va_rf r :: As) h (oxr x) h1) (hf : rv_ h r ci (cl_ ro K) = some o) (st0 : List Value) (hst : st0 = As.reverse ++ va_rf r :: rest)
    (kk : ∀ (x : Option Nat) (h1 : PH), K (.inr x) h1 = some o → PF Γ I D h0 Q h1 (pc + 5) vs (va_rf x :: rest)) (kx : ∀ (ci q : Nat) (h1 : PH) (fs : List Value), h1.1 q = some (.inr (ci, fs)) → K (.inl (ci, q)) h1 = some o → PX Γ I D h0 Q h1 pc vs q) : PF Γ I D h0 Q h pc vs st0 :=
  j_callF hc hFw hG hdy hfr hlo hn hW hd hct hf (fun x h1 rv e h9 => by
    cases x with
    | inl q => cases e
    | inr v => cases e; exact kk v h1 h9) (fun x h1 ci q fs e h8 h9 => by
    cases x with
    | inl z => cases e; exact kx ci q h1 fs h8 h9
    | inr v => cases e) st0 hst
theorem j_cFv {y : MethodName} {cc2 : ByteArray} {nL2 fr2 lo2 index n : Nat} {rt2 : Option FieldType} {As : List Value} {x9 : MethodName} {C : String} {T : u_T} {N ci count : Nat} {r : Option Nat} {ro : Option (Unit × PH)} {K : Unit → PH → Option β} (hc : clA[ci]? = some (C, T, N)) (hFw : (C, x9, y) ∈ fwT) (hG : GoodIn lw_all (va_wsF I.2.2.1 index C x9 y (ws_ y cc2 nL2 rt2))) (hdy : x9.cls ≠ "java/lang/invoke/MethodHandle" ∧ x9.cls ≠ "java/lang/invoke/VarHandle" ∧ (parseMethodDescriptor x9.desc).map (fun d => d.parameters.length) = some n) (hfr : Nat.ble (fr2 + 1) I.2.2.2.2.2.1 = true) (hlo : Nat.ble (8 + (nL2 + 11) + lo2) I.2.2.2.2.2.2.1 = true) (hn : As.length = n) (hW : (rest.map fun v => v.category).sum ≤ 8) (hd : decode I.1 pc = .ok (.invokeinterface index count, 5)) (hct : ∀ (l : Launch), l.stackTraces = false → ∀ (x : Unit) (h1 : PH), ro = some (x, h1) → CT l D y (ws_ y cc2 nL2 rt2) fr2 lo2 (va_rf r :: As) h (ovv x) h1) (hf : rv_ h r ci (cl_ ro K) = some o) (st0 : List Value) (hst : st0 = As.reverse ++ va_rf r :: rest)
    (kk : ∀ (x : Unit) (h1 : PH), K x h1 = some o → PF Γ I D h0 Q h1 (pc + 5) vs (rest)) : PF Γ I D h0 Q h pc vs st0 :=
  j_callF hc hFw hG hdy hfr hlo hn hW hd hct hf (fun x h1 rv e h9 => by cases e; exact kk x h1 h9) (fun x h1 ci q fs e => by cases e) st0 hst
theorem j_xFv {y : MethodName} {cc2 : ByteArray} {nL2 fr2 lo2 index n : Nat} {rt2 : Option FieldType} {As : List Value} {x9 : MethodName} {C : String} {T : u_T} {N ci count : Nat} {r : Option Nat} {ro : Option (((Nat × Nat) ⊕ Unit) × PH)} {K : ((Nat × Nat) ⊕ Unit) → PH → Option β} (hc : clA[ci]? = some (C, T, N)) (hFw : (C, x9, y) ∈ fwT) (hG : GoodIn lw_all (va_wsF I.2.2.1 index C x9 y (ws_ y cc2 nL2 rt2))) (hdy : x9.cls ≠ "java/lang/invoke/MethodHandle" ∧ x9.cls ≠ "java/lang/invoke/VarHandle" ∧ (parseMethodDescriptor x9.desc).map (fun d => d.parameters.length) = some n) (hfr : Nat.ble (fr2 + 1) I.2.2.2.2.2.1 = true) (hlo : Nat.ble (8 + (nL2 + 11) + lo2) I.2.2.2.2.2.2.1 = true) (hn : As.length = n) (hW : (rest.map fun v => v.category).sum ≤ 8) (hd : decode I.1 pc = .ok (.invokeinterface index count, 5)) (hct : ∀ (l : Launch), l.stackTraces = false → ∀ (x : (Nat × Nat) ⊕ Unit) (h1 : PH), ro = some (x, h1) → CT l D y (ws_ y cc2 nL2 rt2) fr2 lo2 (va_rf r :: As) h (oxv x) h1) (hf : rv_ h r ci (cl_ ro K) = some o) (st0 : List Value) (hst : st0 = As.reverse ++ va_rf r :: rest)
    (kk : ∀ (x : Unit) (h1 : PH), K (.inr x) h1 = some o → PF Γ I D h0 Q h1 (pc + 5) vs (rest)) (kx : ∀ (ci q : Nat) (h1 : PH) (fs : List Value), h1.1 q = some (.inr (ci, fs)) → K (.inl (ci, q)) h1 = some o → PX Γ I D h0 Q h1 pc vs q) : PF Γ I D h0 Q h pc vs st0 :=
  j_callF hc hFw hG hdy hfr hlo hn hW hd hct hf (fun x h1 rv e h9 => by
    cases x with
    | inl q => cases e
    | inr v => cases e; exact kk v h1 h9) (fun x h1 ci q fs e h8 h9 => by
    cases x with
    | inl z => cases e; exact kx ci q h1 fs h8 h9
    | inr v => cases e) st0 hst
theorem j_cOi {y : MethodName} {cc2 : ByteArray} {nL2 fr2 lo2 index n : Nat} {rt2 : Option FieldType} {As : List Value} {x9 : MethodName} {owner : String} {ci m0 : Nat} {b0 : ByteArray} {r09 : Option FieldType} {r : Option Nat} {ro : Option (Int32 × PH)} {K : Int32 → PH → Option β} (hG : GoodIn lw_all (va_wsO I.2.2.1 index (rcl ci).1 owner x9 y (ws_ y cc2 nL2 rt2))) (hc0 : Cond.code ⟨owner, x9.name, x9.desc⟩ b0 m0 r09 ∈ lw_all) (hdy : owner ≠ "java/lang/invoke/MethodHandle" ∧ owner ≠ "java/lang/invoke/VarHandle" ∧ (parseMethodDescriptor x9.desc).map (fun d => d.parameters.length) = some n) (hfr : Nat.ble (fr2 + 1) I.2.2.2.2.2.1 = true) (hlo : Nat.ble (8 + (nL2 + 11) + lo2) I.2.2.2.2.2.2.1 = true) (hn : As.length = n) (hW : (rest.map fun v => v.category).sum ≤ 8) (hd : decode I.1 pc = .ok (.invokevirtual index, 3)) (hct : ∀ (l : Launch), l.stackTraces = false → ∀ (x : Int32) (h1 : PH), ro = some (x, h1) → CT l D y (ws_ y cc2 nL2 rt2) fr2 lo2 (va_rf r :: As) h (ovi x) h1) (hf : rv_ h r ci (cl_ ro K) = some o) (st0 : List Value) (hst : st0 = As.reverse ++ va_rf r :: rest)
    (kk : ∀ (x : Int32) (h1 : PH), K x h1 = some o → PF Γ I D h0 Q h1 (pc + 3) vs (.int x :: rest)) : PF Γ I D h0 Q h pc vs st0 :=
  j_callO hG hc0 hdy hfr hlo hn hW hd hct hf (fun x h1 rv e h9 => by cases e; exact kk x h1 h9) (fun x h1 ci q fs e => by cases e) st0 hst
theorem j_xOi {y : MethodName} {cc2 : ByteArray} {nL2 fr2 lo2 index n : Nat} {rt2 : Option FieldType} {As : List Value} {x9 : MethodName} {owner : String} {ci m0 : Nat} {b0 : ByteArray} {r09 : Option FieldType} {r : Option Nat} {ro : Option (((Nat × Nat) ⊕ Int32) × PH)} {K : ((Nat × Nat) ⊕ Int32) → PH → Option β} (hG : GoodIn lw_all (va_wsO I.2.2.1 index (rcl ci).1 owner x9 y (ws_ y cc2 nL2 rt2))) (hc0 : Cond.code ⟨owner, x9.name, x9.desc⟩ b0 m0 r09 ∈ lw_all) (hdy : owner ≠ "java/lang/invoke/MethodHandle" ∧ owner ≠ "java/lang/invoke/VarHandle" ∧ (parseMethodDescriptor x9.desc).map (fun d => d.parameters.length) = some n) (hfr : Nat.ble (fr2 + 1) I.2.2.2.2.2.1 = true) (hlo : Nat.ble (8 + (nL2 + 11) + lo2) I.2.2.2.2.2.2.1 = true) (hn : As.length = n) (hW : (rest.map fun v => v.category).sum ≤ 8) (hd : decode I.1 pc = .ok (.invokevirtual index, 3)) (hct : ∀ (l : Launch), l.stackTraces = false → ∀ (x : (Nat × Nat) ⊕ Int32) (h1 : PH), ro = some (x, h1) → CT l D y (ws_ y cc2 nL2 rt2) fr2 lo2 (va_rf r :: As) h (oxi x) h1) (hf : rv_ h r ci (cl_ ro K) = some o) (st0 : List Value) (hst : st0 = As.reverse ++ va_rf r :: rest)
    (kk : ∀ (x : Int32) (h1 : PH), K (.inr x) h1 = some o → PF Γ I D h0 Q h1 (pc + 3) vs (.int x :: rest)) (kx : ∀ (ci q : Nat) (h1 : PH) (fs : List Value), h1.1 q = some (.inr (ci, fs)) → K (.inl (ci, q)) h1 = some o → PX Γ I D h0 Q h1 pc vs q) : PF Γ I D h0 Q h pc vs st0 :=
  j_callO hG hc0 hdy hfr hlo hn hW hd hct hf (fun x h1 rv e h9 => by
    cases x with
    | inl q => cases e
    | inr v => cases e; exact kk v h1 h9) (fun x h1 ci q fs e h8 h9 => by
    cases x with
    | inl z => cases e; exact kx ci q h1 fs h8 h9
    | inr v => cases e) st0 hst
theorem j_cOl {y : MethodName} {cc2 : ByteArray} {nL2 fr2 lo2 index n : Nat} {rt2 : Option FieldType} {As : List Value} {x9 : MethodName} {owner : String} {ci m0 : Nat} {b0 : ByteArray} {r09 : Option FieldType} {r : Option Nat} {ro : Option (Int64 × PH)} {K : Int64 → PH → Option β} (hG : GoodIn lw_all (va_wsO I.2.2.1 index (rcl ci).1 owner x9 y (ws_ y cc2 nL2 rt2))) (hc0 : Cond.code ⟨owner, x9.name, x9.desc⟩ b0 m0 r09 ∈ lw_all) (hdy : owner ≠ "java/lang/invoke/MethodHandle" ∧ owner ≠ "java/lang/invoke/VarHandle" ∧ (parseMethodDescriptor x9.desc).map (fun d => d.parameters.length) = some n) (hfr : Nat.ble (fr2 + 1) I.2.2.2.2.2.1 = true) (hlo : Nat.ble (8 + (nL2 + 11) + lo2) I.2.2.2.2.2.2.1 = true) (hn : As.length = n) (hW : (rest.map fun v => v.category).sum ≤ 8) (hd : decode I.1 pc = .ok (.invokevirtual index, 3)) (hct : ∀ (l : Launch), l.stackTraces = false → ∀ (x : Int64) (h1 : PH), ro = some (x, h1) → CT l D y (ws_ y cc2 nL2 rt2) fr2 lo2 (va_rf r :: As) h (ovl x) h1) (hf : rv_ h r ci (cl_ ro K) = some o) (st0 : List Value) (hst : st0 = As.reverse ++ va_rf r :: rest)
    (kk : ∀ (x : Int64) (h1 : PH), K x h1 = some o → PF Γ I D h0 Q h1 (pc + 3) vs (.long x :: rest)) : PF Γ I D h0 Q h pc vs st0 :=
  j_callO hG hc0 hdy hfr hlo hn hW hd hct hf (fun x h1 rv e h9 => by cases e; exact kk x h1 h9) (fun x h1 ci q fs e => by cases e) st0 hst
theorem j_xOl {y : MethodName} {cc2 : ByteArray} {nL2 fr2 lo2 index n : Nat} {rt2 : Option FieldType} {As : List Value} {x9 : MethodName} {owner : String} {ci m0 : Nat} {b0 : ByteArray} {r09 : Option FieldType} {r : Option Nat} {ro : Option (((Nat × Nat) ⊕ Int64) × PH)} {K : ((Nat × Nat) ⊕ Int64) → PH → Option β} (hG : GoodIn lw_all (va_wsO I.2.2.1 index (rcl ci).1 owner x9 y (ws_ y cc2 nL2 rt2))) (hc0 : Cond.code ⟨owner, x9.name, x9.desc⟩ b0 m0 r09 ∈ lw_all) (hdy : owner ≠ "java/lang/invoke/MethodHandle" ∧ owner ≠ "java/lang/invoke/VarHandle" ∧ (parseMethodDescriptor x9.desc).map (fun d => d.parameters.length) = some n) (hfr : Nat.ble (fr2 + 1) I.2.2.2.2.2.1 = true) (hlo : Nat.ble (8 + (nL2 + 11) + lo2) I.2.2.2.2.2.2.1 = true) (hn : As.length = n) (hW : (rest.map fun v => v.category).sum ≤ 8) (hd : decode I.1 pc = .ok (.invokevirtual index, 3)) (hct : ∀ (l : Launch), l.stackTraces = false → ∀ (x : (Nat × Nat) ⊕ Int64) (h1 : PH), ro = some (x, h1) → CT l D y (ws_ y cc2 nL2 rt2) fr2 lo2 (va_rf r :: As) h (oxl x) h1) (hf : rv_ h r ci (cl_ ro K) = some o) (st0 : List Value) (hst : st0 = As.reverse ++ va_rf r :: rest)
    (kk : ∀ (x : Int64) (h1 : PH), K (.inr x) h1 = some o → PF Γ I D h0 Q h1 (pc + 3) vs (.long x :: rest)) (kx : ∀ (ci q : Nat) (h1 : PH) (fs : List Value), h1.1 q = some (.inr (ci, fs)) → K (.inl (ci, q)) h1 = some o → PX Γ I D h0 Q h1 pc vs q) : PF Γ I D h0 Q h pc vs st0 :=
  j_callO hG hc0 hdy hfr hlo hn hW hd hct hf (fun x h1 rv e h9 => by
    cases x with
    | inl q => cases e
    | inr v => cases e; exact kk v h1 h9) (fun x h1 ci q fs e h8 h9 => by
    cases x with
    | inl z => cases e; exact kx ci q h1 fs h8 h9
    | inr v => cases e) st0 hst
theorem j_cOr {y : MethodName} {cc2 : ByteArray} {nL2 fr2 lo2 index n : Nat} {rt2 : Option FieldType} {As : List Value} {x9 : MethodName} {owner : String} {ci m0 : Nat} {b0 : ByteArray} {r09 : Option FieldType} {r : Option Nat} {ro : Option (Option Nat × PH)} {K : Option Nat → PH → Option β} (hG : GoodIn lw_all (va_wsO I.2.2.1 index (rcl ci).1 owner x9 y (ws_ y cc2 nL2 rt2))) (hc0 : Cond.code ⟨owner, x9.name, x9.desc⟩ b0 m0 r09 ∈ lw_all) (hdy : owner ≠ "java/lang/invoke/MethodHandle" ∧ owner ≠ "java/lang/invoke/VarHandle" ∧ (parseMethodDescriptor x9.desc).map (fun d => d.parameters.length) = some n) (hfr : Nat.ble (fr2 + 1) I.2.2.2.2.2.1 = true) (hlo : Nat.ble (8 + (nL2 + 11) + lo2) I.2.2.2.2.2.2.1 = true) (hn : As.length = n) (hW : (rest.map fun v => v.category).sum ≤ 8) (hd : decode I.1 pc = .ok (.invokevirtual index, 3)) (hct : ∀ (l : Launch), l.stackTraces = false → ∀ (x : Option Nat) (h1 : PH), ro = some (x, h1) → CT l D y (ws_ y cc2 nL2 rt2) fr2 lo2 (va_rf r :: As) h (ovr x) h1) (hf : rv_ h r ci (cl_ ro K) = some o) (st0 : List Value) (hst : st0 = As.reverse ++ va_rf r :: rest)
    (kk : ∀ (x : Option Nat) (h1 : PH), K x h1 = some o → PF Γ I D h0 Q h1 (pc + 3) vs (va_rf x :: rest)) : PF Γ I D h0 Q h pc vs st0 :=
  j_callO hG hc0 hdy hfr hlo hn hW hd hct hf (fun x h1 rv e h9 => by cases e; exact kk x h1 h9) (fun x h1 ci q fs e => by cases e) st0 hst
theorem j_xOr {y : MethodName} {cc2 : ByteArray} {nL2 fr2 lo2 index n : Nat} {rt2 : Option FieldType} {As : List Value} {x9 : MethodName} {owner : String} {ci m0 : Nat} {b0 : ByteArray} {r09 : Option FieldType} {r : Option Nat} {ro : Option (((Nat × Nat) ⊕ Option Nat) × PH)} {K : ((Nat × Nat) ⊕ Option Nat) → PH → Option β} (hG : GoodIn lw_all (va_wsO I.2.2.1 index (rcl ci).1 owner x9 y (ws_ y cc2 nL2 rt2))) (hc0 : Cond.code ⟨owner, x9.name, x9.desc⟩ b0 m0 r09 ∈ lw_all) (hdy : owner ≠ "java/lang/invoke/MethodHandle" ∧ owner ≠ "java/lang/invoke/VarHandle" ∧ (parseMethodDescriptor x9.desc).map (fun d => d.parameters.length) = some n) (hfr : Nat.ble (fr2 + 1) I.2.2.2.2.2.1 = true) (hlo : Nat.ble (8 + (nL2 + 11) + lo2) I.2.2.2.2.2.2.1 = true) (hn : As.length = n) (hW : (rest.map fun v => v.category).sum ≤ 8) (hd : decode I.1 pc = .ok (.invokevirtual index, 3)) (hct : ∀ (l : Launch), l.stackTraces = false → ∀ (x : (Nat × Nat) ⊕ Option Nat) (h1 : PH), ro = some (x, h1) → CT l D y (ws_ y cc2 nL2 rt2) fr2 lo2 (va_rf r :: As) h (oxr x) h1) (hf : rv_ h r ci (cl_ ro K) = some o) (st0 : List Value) (hst : st0 = As.reverse ++ va_rf r :: rest)
    (kk : ∀ (x : Option Nat) (h1 : PH), K (.inr x) h1 = some o → PF Γ I D h0 Q h1 (pc + 3) vs (va_rf x :: rest)) (kx : ∀ (ci q : Nat) (h1 : PH) (fs : List Value), h1.1 q = some (.inr (ci, fs)) → K (.inl (ci, q)) h1 = some o → PX Γ I D h0 Q h1 pc vs q) : PF Γ I D h0 Q h pc vs st0 :=
  j_callO hG hc0 hdy hfr hlo hn hW hd hct hf (fun x h1 rv e h9 => by
    cases x with
    | inl q => cases e
    | inr v => cases e; exact kk v h1 h9) (fun x h1 ci q fs e h8 h9 => by
    cases x with
    | inl z => cases e; exact kx ci q h1 fs h8 h9
    | inr v => cases e) st0 hst
theorem j_cOv {y : MethodName} {cc2 : ByteArray} {nL2 fr2 lo2 index n : Nat} {rt2 : Option FieldType} {As : List Value} {x9 : MethodName} {owner : String} {ci m0 : Nat} {b0 : ByteArray} {r09 : Option FieldType} {r : Option Nat} {ro : Option (Unit × PH)} {K : Unit → PH → Option β} (hG : GoodIn lw_all (va_wsO I.2.2.1 index (rcl ci).1 owner x9 y (ws_ y cc2 nL2 rt2))) (hc0 : Cond.code ⟨owner, x9.name, x9.desc⟩ b0 m0 r09 ∈ lw_all) (hdy : owner ≠ "java/lang/invoke/MethodHandle" ∧ owner ≠ "java/lang/invoke/VarHandle" ∧ (parseMethodDescriptor x9.desc).map (fun d => d.parameters.length) = some n) (hfr : Nat.ble (fr2 + 1) I.2.2.2.2.2.1 = true) (hlo : Nat.ble (8 + (nL2 + 11) + lo2) I.2.2.2.2.2.2.1 = true) (hn : As.length = n) (hW : (rest.map fun v => v.category).sum ≤ 8) (hd : decode I.1 pc = .ok (.invokevirtual index, 3)) (hct : ∀ (l : Launch), l.stackTraces = false → ∀ (x : Unit) (h1 : PH), ro = some (x, h1) → CT l D y (ws_ y cc2 nL2 rt2) fr2 lo2 (va_rf r :: As) h (ovv x) h1) (hf : rv_ h r ci (cl_ ro K) = some o) (st0 : List Value) (hst : st0 = As.reverse ++ va_rf r :: rest)
    (kk : ∀ (x : Unit) (h1 : PH), K x h1 = some o → PF Γ I D h0 Q h1 (pc + 3) vs (rest)) : PF Γ I D h0 Q h pc vs st0 :=
  j_callO hG hc0 hdy hfr hlo hn hW hd hct hf (fun x h1 rv e h9 => by cases e; exact kk x h1 h9) (fun x h1 ci q fs e => by cases e) st0 hst
theorem j_xOv {y : MethodName} {cc2 : ByteArray} {nL2 fr2 lo2 index n : Nat} {rt2 : Option FieldType} {As : List Value} {x9 : MethodName} {owner : String} {ci m0 : Nat} {b0 : ByteArray} {r09 : Option FieldType} {r : Option Nat} {ro : Option (((Nat × Nat) ⊕ Unit) × PH)} {K : ((Nat × Nat) ⊕ Unit) → PH → Option β} (hG : GoodIn lw_all (va_wsO I.2.2.1 index (rcl ci).1 owner x9 y (ws_ y cc2 nL2 rt2))) (hc0 : Cond.code ⟨owner, x9.name, x9.desc⟩ b0 m0 r09 ∈ lw_all) (hdy : owner ≠ "java/lang/invoke/MethodHandle" ∧ owner ≠ "java/lang/invoke/VarHandle" ∧ (parseMethodDescriptor x9.desc).map (fun d => d.parameters.length) = some n) (hfr : Nat.ble (fr2 + 1) I.2.2.2.2.2.1 = true) (hlo : Nat.ble (8 + (nL2 + 11) + lo2) I.2.2.2.2.2.2.1 = true) (hn : As.length = n) (hW : (rest.map fun v => v.category).sum ≤ 8) (hd : decode I.1 pc = .ok (.invokevirtual index, 3)) (hct : ∀ (l : Launch), l.stackTraces = false → ∀ (x : (Nat × Nat) ⊕ Unit) (h1 : PH), ro = some (x, h1) → CT l D y (ws_ y cc2 nL2 rt2) fr2 lo2 (va_rf r :: As) h (oxv x) h1) (hf : rv_ h r ci (cl_ ro K) = some o) (st0 : List Value) (hst : st0 = As.reverse ++ va_rf r :: rest)
    (kk : ∀ (x : Unit) (h1 : PH), K (.inr x) h1 = some o → PF Γ I D h0 Q h1 (pc + 3) vs (rest)) (kx : ∀ (ci q : Nat) (h1 : PH) (fs : List Value), h1.1 q = some (.inr (ci, fs)) → K (.inl (ci, q)) h1 = some o → PX Γ I D h0 Q h1 pc vs q) : PF Γ I D h0 Q h pc vs st0 :=
  j_callO hG hc0 hdy hfr hlo hn hW hd hct hf (fun x h1 rv e h9 => by
    cases x with
    | inl q => cases e
    | inr v => cases e; exact kk v h1 h9) (fun x h1 ci q fs e h8 h9 => by
    cases x with
    | inl z => cases e; exact kx ci q h1 fs h8 h9
    | inr v => cases e) st0 hst
theorem j_cKi {y : MethodName} {cc2 : ByteArray} {nL2 fr2 lo2 index n : Nat} {rt2 : Option FieldType} {As : List Value} {C : String} {ci : Nat} {r : Option Nat} {ro : Option (Int32 × PH)} {K : Int32 → PH → Option β} (hcn : (rcl ci).1 = C) (hG : GoodIn lw_all (wsV I.2.2.1 index C y (ws_ y cc2 nL2 rt2))) (hdy : y.cls = C ∧ y.cls ≠ "java/lang/invoke/MethodHandle" ∧ y.cls ≠ "java/lang/invoke/VarHandle" ∧ (parseMethodDescriptor y.desc).map (fun d => d.parameters.length) = some n) (hfr : Nat.ble (fr2 + 1) I.2.2.2.2.2.1 = true) (hlo : Nat.ble (8 + (nL2 + 11) + lo2) I.2.2.2.2.2.2.1 = true) (hn : As.length = n) (hW : (rest.map fun v => v.category).sum ≤ 8) (hd : decode I.1 pc = .ok (.invokevirtual index, 3)) (hct : ∀ (l : Launch), l.stackTraces = false → ∀ (x : Int32) (h1 : PH), ro = some (x, h1) → CT l D y (ws_ y cc2 nL2 rt2) fr2 lo2 (va_rf r :: As) h (ovi x) h1) (hf : rv_ h r ci (cl_ ro K) = some o) (st0 : List Value) (hst : st0 = As.reverse ++ va_rf r :: rest)
    (kk : ∀ (x : Int32) (h1 : PH), K x h1 = some o → PF Γ I D h0 Q h1 (pc + 3) vs (.int x :: rest)) : PF Γ I D h0 Q h pc vs st0 :=
  j_callK hcn hG hdy hfr hlo hn hW hd hct hf (fun x h1 rv e h9 => by cases e; exact kk x h1 h9) (fun x h1 ci q fs e => by cases e) st0 hst
theorem j_xKi {y : MethodName} {cc2 : ByteArray} {nL2 fr2 lo2 index n : Nat} {rt2 : Option FieldType} {As : List Value} {C : String} {ci : Nat} {r : Option Nat} {ro : Option (((Nat × Nat) ⊕ Int32) × PH)} {K : ((Nat × Nat) ⊕ Int32) → PH → Option β} (hcn : (rcl ci).1 = C) (hG : GoodIn lw_all (wsV I.2.2.1 index C y (ws_ y cc2 nL2 rt2))) (hdy : y.cls = C ∧ y.cls ≠ "java/lang/invoke/MethodHandle" ∧ y.cls ≠ "java/lang/invoke/VarHandle" ∧ (parseMethodDescriptor y.desc).map (fun d => d.parameters.length) = some n) (hfr : Nat.ble (fr2 + 1) I.2.2.2.2.2.1 = true) (hlo : Nat.ble (8 + (nL2 + 11) + lo2) I.2.2.2.2.2.2.1 = true) (hn : As.length = n) (hW : (rest.map fun v => v.category).sum ≤ 8) (hd : decode I.1 pc = .ok (.invokevirtual index, 3)) (hct : ∀ (l : Launch), l.stackTraces = false → ∀ (x : (Nat × Nat) ⊕ Int32) (h1 : PH), ro = some (x, h1) → CT l D y (ws_ y cc2 nL2 rt2) fr2 lo2 (va_rf r :: As) h (oxi x) h1) (hf : rv_ h r ci (cl_ ro K) = some o) (st0 : List Value) (hst : st0 = As.reverse ++ va_rf r :: rest)
    (kk : ∀ (x : Int32) (h1 : PH), K (.inr x) h1 = some o → PF Γ I D h0 Q h1 (pc + 3) vs (.int x :: rest)) (kx : ∀ (ci q : Nat) (h1 : PH) (fs : List Value), h1.1 q = some (.inr (ci, fs)) → K (.inl (ci, q)) h1 = some o → PX Γ I D h0 Q h1 pc vs q) : PF Γ I D h0 Q h pc vs st0 :=
  j_callK hcn hG hdy hfr hlo hn hW hd hct hf (fun x h1 rv e h9 => by
    cases x with
    | inl q => cases e
    | inr v => cases e; exact kk v h1 h9) (fun x h1 ci q fs e h8 h9 => by
    cases x with
    | inl z => cases e; exact kx ci q h1 fs h8 h9
    | inr v => cases e) st0 hst
theorem j_cKl {y : MethodName} {cc2 : ByteArray} {nL2 fr2 lo2 index n : Nat} {rt2 : Option FieldType} {As : List Value} {C : String} {ci : Nat} {r : Option Nat} {ro : Option (Int64 × PH)} {K : Int64 → PH → Option β} (hcn : (rcl ci).1 = C) (hG : GoodIn lw_all (wsV I.2.2.1 index C y (ws_ y cc2 nL2 rt2))) (hdy : y.cls = C ∧ y.cls ≠ "java/lang/invoke/MethodHandle" ∧ y.cls ≠ "java/lang/invoke/VarHandle" ∧ (parseMethodDescriptor y.desc).map (fun d => d.parameters.length) = some n) (hfr : Nat.ble (fr2 + 1) I.2.2.2.2.2.1 = true) (hlo : Nat.ble (8 + (nL2 + 11) + lo2) I.2.2.2.2.2.2.1 = true) (hn : As.length = n) (hW : (rest.map fun v => v.category).sum ≤ 8) (hd : decode I.1 pc = .ok (.invokevirtual index, 3)) (hct : ∀ (l : Launch), l.stackTraces = false → ∀ (x : Int64) (h1 : PH), ro = some (x, h1) → CT l D y (ws_ y cc2 nL2 rt2) fr2 lo2 (va_rf r :: As) h (ovl x) h1) (hf : rv_ h r ci (cl_ ro K) = some o) (st0 : List Value) (hst : st0 = As.reverse ++ va_rf r :: rest)
    (kk : ∀ (x : Int64) (h1 : PH), K x h1 = some o → PF Γ I D h0 Q h1 (pc + 3) vs (.long x :: rest)) : PF Γ I D h0 Q h pc vs st0 :=
  j_callK hcn hG hdy hfr hlo hn hW hd hct hf (fun x h1 rv e h9 => by cases e; exact kk x h1 h9) (fun x h1 ci q fs e => by cases e) st0 hst
theorem j_xKl {y : MethodName} {cc2 : ByteArray} {nL2 fr2 lo2 index n : Nat} {rt2 : Option FieldType} {As : List Value} {C : String} {ci : Nat} {r : Option Nat} {ro : Option (((Nat × Nat) ⊕ Int64) × PH)} {K : ((Nat × Nat) ⊕ Int64) → PH → Option β} (hcn : (rcl ci).1 = C) (hG : GoodIn lw_all (wsV I.2.2.1 index C y (ws_ y cc2 nL2 rt2))) (hdy : y.cls = C ∧ y.cls ≠ "java/lang/invoke/MethodHandle" ∧ y.cls ≠ "java/lang/invoke/VarHandle" ∧ (parseMethodDescriptor y.desc).map (fun d => d.parameters.length) = some n) (hfr : Nat.ble (fr2 + 1) I.2.2.2.2.2.1 = true) (hlo : Nat.ble (8 + (nL2 + 11) + lo2) I.2.2.2.2.2.2.1 = true) (hn : As.length = n) (hW : (rest.map fun v => v.category).sum ≤ 8) (hd : decode I.1 pc = .ok (.invokevirtual index, 3)) (hct : ∀ (l : Launch), l.stackTraces = false → ∀ (x : (Nat × Nat) ⊕ Int64) (h1 : PH), ro = some (x, h1) → CT l D y (ws_ y cc2 nL2 rt2) fr2 lo2 (va_rf r :: As) h (oxl x) h1) (hf : rv_ h r ci (cl_ ro K) = some o) (st0 : List Value) (hst : st0 = As.reverse ++ va_rf r :: rest)
    (kk : ∀ (x : Int64) (h1 : PH), K (.inr x) h1 = some o → PF Γ I D h0 Q h1 (pc + 3) vs (.long x :: rest)) (kx : ∀ (ci q : Nat) (h1 : PH) (fs : List Value), h1.1 q = some (.inr (ci, fs)) → K (.inl (ci, q)) h1 = some o → PX Γ I D h0 Q h1 pc vs q) : PF Γ I D h0 Q h pc vs st0 :=
  j_callK hcn hG hdy hfr hlo hn hW hd hct hf (fun x h1 rv e h9 => by
    cases x with
    | inl q => cases e
    | inr v => cases e; exact kk v h1 h9) (fun x h1 ci q fs e h8 h9 => by
    cases x with
    | inl z => cases e; exact kx ci q h1 fs h8 h9
    | inr v => cases e) st0 hst
theorem j_cKr {y : MethodName} {cc2 : ByteArray} {nL2 fr2 lo2 index n : Nat} {rt2 : Option FieldType} {As : List Value} {C : String} {ci : Nat} {r : Option Nat} {ro : Option (Option Nat × PH)} {K : Option Nat → PH → Option β} (hcn : (rcl ci).1 = C) (hG : GoodIn lw_all (wsV I.2.2.1 index C y (ws_ y cc2 nL2 rt2))) (hdy : y.cls = C ∧ y.cls ≠ "java/lang/invoke/MethodHandle" ∧ y.cls ≠ "java/lang/invoke/VarHandle" ∧ (parseMethodDescriptor y.desc).map (fun d => d.parameters.length) = some n) (hfr : Nat.ble (fr2 + 1) I.2.2.2.2.2.1 = true) (hlo : Nat.ble (8 + (nL2 + 11) + lo2) I.2.2.2.2.2.2.1 = true) (hn : As.length = n) (hW : (rest.map fun v => v.category).sum ≤ 8) (hd : decode I.1 pc = .ok (.invokevirtual index, 3)) (hct : ∀ (l : Launch), l.stackTraces = false → ∀ (x : Option Nat) (h1 : PH), ro = some (x, h1) → CT l D y (ws_ y cc2 nL2 rt2) fr2 lo2 (va_rf r :: As) h (ovr x) h1) (hf : rv_ h r ci (cl_ ro K) = some o) (st0 : List Value) (hst : st0 = As.reverse ++ va_rf r :: rest)
    (kk : ∀ (x : Option Nat) (h1 : PH), K x h1 = some o → PF Γ I D h0 Q h1 (pc + 3) vs (va_rf x :: rest)) : PF Γ I D h0 Q h pc vs st0 :=
  j_callK hcn hG hdy hfr hlo hn hW hd hct hf (fun x h1 rv e h9 => by cases e; exact kk x h1 h9) (fun x h1 ci q fs e => by cases e) st0 hst
theorem j_xKr {y : MethodName} {cc2 : ByteArray} {nL2 fr2 lo2 index n : Nat} {rt2 : Option FieldType} {As : List Value} {C : String} {ci : Nat} {r : Option Nat} {ro : Option (((Nat × Nat) ⊕ Option Nat) × PH)} {K : ((Nat × Nat) ⊕ Option Nat) → PH → Option β} (hcn : (rcl ci).1 = C) (hG : GoodIn lw_all (wsV I.2.2.1 index C y (ws_ y cc2 nL2 rt2))) (hdy : y.cls = C ∧ y.cls ≠ "java/lang/invoke/MethodHandle" ∧ y.cls ≠ "java/lang/invoke/VarHandle" ∧ (parseMethodDescriptor y.desc).map (fun d => d.parameters.length) = some n) (hfr : Nat.ble (fr2 + 1) I.2.2.2.2.2.1 = true) (hlo : Nat.ble (8 + (nL2 + 11) + lo2) I.2.2.2.2.2.2.1 = true) (hn : As.length = n) (hW : (rest.map fun v => v.category).sum ≤ 8) (hd : decode I.1 pc = .ok (.invokevirtual index, 3)) (hct : ∀ (l : Launch), l.stackTraces = false → ∀ (x : (Nat × Nat) ⊕ Option Nat) (h1 : PH), ro = some (x, h1) → CT l D y (ws_ y cc2 nL2 rt2) fr2 lo2 (va_rf r :: As) h (oxr x) h1) (hf : rv_ h r ci (cl_ ro K) = some o) (st0 : List Value) (hst : st0 = As.reverse ++ va_rf r :: rest)
    (kk : ∀ (x : Option Nat) (h1 : PH), K (.inr x) h1 = some o → PF Γ I D h0 Q h1 (pc + 3) vs (va_rf x :: rest)) (kx : ∀ (ci q : Nat) (h1 : PH) (fs : List Value), h1.1 q = some (.inr (ci, fs)) → K (.inl (ci, q)) h1 = some o → PX Γ I D h0 Q h1 pc vs q) : PF Γ I D h0 Q h pc vs st0 :=
  j_callK hcn hG hdy hfr hlo hn hW hd hct hf (fun x h1 rv e h9 => by
    cases x with
    | inl q => cases e
    | inr v => cases e; exact kk v h1 h9) (fun x h1 ci q fs e h8 h9 => by
    cases x with
    | inl z => cases e; exact kx ci q h1 fs h8 h9
    | inr v => cases e) st0 hst
theorem j_cKv {y : MethodName} {cc2 : ByteArray} {nL2 fr2 lo2 index n : Nat} {rt2 : Option FieldType} {As : List Value} {C : String} {ci : Nat} {r : Option Nat} {ro : Option (Unit × PH)} {K : Unit → PH → Option β} (hcn : (rcl ci).1 = C) (hG : GoodIn lw_all (wsV I.2.2.1 index C y (ws_ y cc2 nL2 rt2))) (hdy : y.cls = C ∧ y.cls ≠ "java/lang/invoke/MethodHandle" ∧ y.cls ≠ "java/lang/invoke/VarHandle" ∧ (parseMethodDescriptor y.desc).map (fun d => d.parameters.length) = some n) (hfr : Nat.ble (fr2 + 1) I.2.2.2.2.2.1 = true) (hlo : Nat.ble (8 + (nL2 + 11) + lo2) I.2.2.2.2.2.2.1 = true) (hn : As.length = n) (hW : (rest.map fun v => v.category).sum ≤ 8) (hd : decode I.1 pc = .ok (.invokevirtual index, 3)) (hct : ∀ (l : Launch), l.stackTraces = false → ∀ (x : Unit) (h1 : PH), ro = some (x, h1) → CT l D y (ws_ y cc2 nL2 rt2) fr2 lo2 (va_rf r :: As) h (ovv x) h1) (hf : rv_ h r ci (cl_ ro K) = some o) (st0 : List Value) (hst : st0 = As.reverse ++ va_rf r :: rest)
    (kk : ∀ (x : Unit) (h1 : PH), K x h1 = some o → PF Γ I D h0 Q h1 (pc + 3) vs (rest)) : PF Γ I D h0 Q h pc vs st0 :=
  j_callK hcn hG hdy hfr hlo hn hW hd hct hf (fun x h1 rv e h9 => by cases e; exact kk x h1 h9) (fun x h1 ci q fs e => by cases e) st0 hst
theorem j_xKv {y : MethodName} {cc2 : ByteArray} {nL2 fr2 lo2 index n : Nat} {rt2 : Option FieldType} {As : List Value} {C : String} {ci : Nat} {r : Option Nat} {ro : Option (((Nat × Nat) ⊕ Unit) × PH)} {K : ((Nat × Nat) ⊕ Unit) → PH → Option β} (hcn : (rcl ci).1 = C) (hG : GoodIn lw_all (wsV I.2.2.1 index C y (ws_ y cc2 nL2 rt2))) (hdy : y.cls = C ∧ y.cls ≠ "java/lang/invoke/MethodHandle" ∧ y.cls ≠ "java/lang/invoke/VarHandle" ∧ (parseMethodDescriptor y.desc).map (fun d => d.parameters.length) = some n) (hfr : Nat.ble (fr2 + 1) I.2.2.2.2.2.1 = true) (hlo : Nat.ble (8 + (nL2 + 11) + lo2) I.2.2.2.2.2.2.1 = true) (hn : As.length = n) (hW : (rest.map fun v => v.category).sum ≤ 8) (hd : decode I.1 pc = .ok (.invokevirtual index, 3)) (hct : ∀ (l : Launch), l.stackTraces = false → ∀ (x : (Nat × Nat) ⊕ Unit) (h1 : PH), ro = some (x, h1) → CT l D y (ws_ y cc2 nL2 rt2) fr2 lo2 (va_rf r :: As) h (oxv x) h1) (hf : rv_ h r ci (cl_ ro K) = some o) (st0 : List Value) (hst : st0 = As.reverse ++ va_rf r :: rest)
    (kk : ∀ (x : Unit) (h1 : PH), K (.inr x) h1 = some o → PF Γ I D h0 Q h1 (pc + 3) vs (rest)) (kx : ∀ (ci q : Nat) (h1 : PH) (fs : List Value), h1.1 q = some (.inr (ci, fs)) → K (.inl (ci, q)) h1 = some o → PX Γ I D h0 Q h1 pc vs q) : PF Γ I D h0 Q h pc vs st0 :=
  j_callK hcn hG hdy hfr hlo hn hW hd hct hf (fun x h1 rv e h9 => by
    cases x with
    | inl q => cases e
    | inr v => cases e; exact kk v h1 h9) (fun x h1 ci q fs e h8 h9 => by
    cases x with
    | inl z => cases e; exact kx ci q h1 fs h8 h9
    | inr v => cases e) st0 hst
theorem j_cSUi {y : MethodName} {cc2 : ByteArray} {nL2 fr2 lo2 index n : Nat} {rt2 : Option FieldType} {As : List Value} {C : String} {T : u_T} {N ci : Nat} {r : Option Nat} {ro : Option (Int32 × PH)} {K : Int32 → PH → Option β} (hc : clA[ci]? = some (C, T, N)) (hG : GoodIn lw_all (va_wsSU I.2.2.1 index y (ws_ y cc2 nL2 rt2))) (hdy : y.name ≠ "<init>" ∧ (parseMethodDescriptor y.desc).map (fun d => d.parameters.length) = some n) (hfr : Nat.ble (fr2 + 1) I.2.2.2.2.2.1 = true) (hlo : Nat.ble (8 + (nL2 + 11) + lo2) I.2.2.2.2.2.2.1 = true) (hn : As.length = n) (hW : (rest.map fun v => v.category).sum ≤ 8) (hd : decode I.1 pc = .ok (.invokespecial index, 3)) (hct : ∀ (l : Launch), l.stackTraces = false → ∀ (x : Int32) (h1 : PH), ro = some (x, h1) → CT l D y (ws_ y cc2 nL2 rt2) fr2 lo2 (va_rf r :: As) h (ovi x) h1) (hf : rv_ h r ci (cl_ ro K) = some o) (st0 : List Value) (hst : st0 = As.reverse ++ va_rf r :: rest)
    (kk : ∀ (x : Int32) (h1 : PH), K x h1 = some o → PF Γ I D h0 Q h1 (pc + 3) vs (.int x :: rest)) : PF Γ I D h0 Q h pc vs st0 :=
  j_callSU hc hG hdy hfr hlo hn hW hd hct hf (fun x h1 rv e h9 => by cases e; exact kk x h1 h9) (fun x h1 ci q fs e => by cases e) st0 hst
theorem j_xSUi {y : MethodName} {cc2 : ByteArray} {nL2 fr2 lo2 index n : Nat} {rt2 : Option FieldType} {As : List Value} {C : String} {T : u_T} {N ci : Nat} {r : Option Nat} {ro : Option (((Nat × Nat) ⊕ Int32) × PH)} {K : ((Nat × Nat) ⊕ Int32) → PH → Option β} (hc : clA[ci]? = some (C, T, N)) (hG : GoodIn lw_all (va_wsSU I.2.2.1 index y (ws_ y cc2 nL2 rt2))) (hdy : y.name ≠ "<init>" ∧ (parseMethodDescriptor y.desc).map (fun d => d.parameters.length) = some n) (hfr : Nat.ble (fr2 + 1) I.2.2.2.2.2.1 = true) (hlo : Nat.ble (8 + (nL2 + 11) + lo2) I.2.2.2.2.2.2.1 = true) (hn : As.length = n) (hW : (rest.map fun v => v.category).sum ≤ 8) (hd : decode I.1 pc = .ok (.invokespecial index, 3)) (hct : ∀ (l : Launch), l.stackTraces = false → ∀ (x : (Nat × Nat) ⊕ Int32) (h1 : PH), ro = some (x, h1) → CT l D y (ws_ y cc2 nL2 rt2) fr2 lo2 (va_rf r :: As) h (oxi x) h1) (hf : rv_ h r ci (cl_ ro K) = some o) (st0 : List Value) (hst : st0 = As.reverse ++ va_rf r :: rest)
    (kk : ∀ (x : Int32) (h1 : PH), K (.inr x) h1 = some o → PF Γ I D h0 Q h1 (pc + 3) vs (.int x :: rest)) (kx : ∀ (ci q : Nat) (h1 : PH) (fs : List Value), h1.1 q = some (.inr (ci, fs)) → K (.inl (ci, q)) h1 = some o → PX Γ I D h0 Q h1 pc vs q) : PF Γ I D h0 Q h pc vs st0 :=
  j_callSU hc hG hdy hfr hlo hn hW hd hct hf (fun x h1 rv e h9 => by
    cases x with
    | inl q => cases e
    | inr v => cases e; exact kk v h1 h9) (fun x h1 ci q fs e h8 h9 => by
    cases x with
    | inl z => cases e; exact kx ci q h1 fs h8 h9
    | inr v => cases e) st0 hst
theorem j_cSUl {y : MethodName} {cc2 : ByteArray} {nL2 fr2 lo2 index n : Nat} {rt2 : Option FieldType} {As : List Value} {C : String} {T : u_T} {N ci : Nat} {r : Option Nat} {ro : Option (Int64 × PH)} {K : Int64 → PH → Option β} (hc : clA[ci]? = some (C, T, N)) (hG : GoodIn lw_all (va_wsSU I.2.2.1 index y (ws_ y cc2 nL2 rt2))) (hdy : y.name ≠ "<init>" ∧ (parseMethodDescriptor y.desc).map (fun d => d.parameters.length) = some n) (hfr : Nat.ble (fr2 + 1) I.2.2.2.2.2.1 = true) (hlo : Nat.ble (8 + (nL2 + 11) + lo2) I.2.2.2.2.2.2.1 = true) (hn : As.length = n) (hW : (rest.map fun v => v.category).sum ≤ 8) (hd : decode I.1 pc = .ok (.invokespecial index, 3)) (hct : ∀ (l : Launch), l.stackTraces = false → ∀ (x : Int64) (h1 : PH), ro = some (x, h1) → CT l D y (ws_ y cc2 nL2 rt2) fr2 lo2 (va_rf r :: As) h (ovl x) h1) (hf : rv_ h r ci (cl_ ro K) = some o) (st0 : List Value) (hst : st0 = As.reverse ++ va_rf r :: rest)
    (kk : ∀ (x : Int64) (h1 : PH), K x h1 = some o → PF Γ I D h0 Q h1 (pc + 3) vs (.long x :: rest)) : PF Γ I D h0 Q h pc vs st0 :=
  j_callSU hc hG hdy hfr hlo hn hW hd hct hf (fun x h1 rv e h9 => by cases e; exact kk x h1 h9) (fun x h1 ci q fs e => by cases e) st0 hst
theorem j_xSUl {y : MethodName} {cc2 : ByteArray} {nL2 fr2 lo2 index n : Nat} {rt2 : Option FieldType} {As : List Value} {C : String} {T : u_T} {N ci : Nat} {r : Option Nat} {ro : Option (((Nat × Nat) ⊕ Int64) × PH)} {K : ((Nat × Nat) ⊕ Int64) → PH → Option β} (hc : clA[ci]? = some (C, T, N)) (hG : GoodIn lw_all (va_wsSU I.2.2.1 index y (ws_ y cc2 nL2 rt2))) (hdy : y.name ≠ "<init>" ∧ (parseMethodDescriptor y.desc).map (fun d => d.parameters.length) = some n) (hfr : Nat.ble (fr2 + 1) I.2.2.2.2.2.1 = true) (hlo : Nat.ble (8 + (nL2 + 11) + lo2) I.2.2.2.2.2.2.1 = true) (hn : As.length = n) (hW : (rest.map fun v => v.category).sum ≤ 8) (hd : decode I.1 pc = .ok (.invokespecial index, 3)) (hct : ∀ (l : Launch), l.stackTraces = false → ∀ (x : (Nat × Nat) ⊕ Int64) (h1 : PH), ro = some (x, h1) → CT l D y (ws_ y cc2 nL2 rt2) fr2 lo2 (va_rf r :: As) h (oxl x) h1) (hf : rv_ h r ci (cl_ ro K) = some o) (st0 : List Value) (hst : st0 = As.reverse ++ va_rf r :: rest)
    (kk : ∀ (x : Int64) (h1 : PH), K (.inr x) h1 = some o → PF Γ I D h0 Q h1 (pc + 3) vs (.long x :: rest)) (kx : ∀ (ci q : Nat) (h1 : PH) (fs : List Value), h1.1 q = some (.inr (ci, fs)) → K (.inl (ci, q)) h1 = some o → PX Γ I D h0 Q h1 pc vs q) : PF Γ I D h0 Q h pc vs st0 :=
  j_callSU hc hG hdy hfr hlo hn hW hd hct hf (fun x h1 rv e h9 => by
    cases x with
    | inl q => cases e
    | inr v => cases e; exact kk v h1 h9) (fun x h1 ci q fs e h8 h9 => by
    cases x with
    | inl z => cases e; exact kx ci q h1 fs h8 h9
    | inr v => cases e) st0 hst
theorem j_cSUr {y : MethodName} {cc2 : ByteArray} {nL2 fr2 lo2 index n : Nat} {rt2 : Option FieldType} {As : List Value} {C : String} {T : u_T} {N ci : Nat} {r : Option Nat} {ro : Option (Option Nat × PH)} {K : Option Nat → PH → Option β} (hc : clA[ci]? = some (C, T, N)) (hG : GoodIn lw_all (va_wsSU I.2.2.1 index y (ws_ y cc2 nL2 rt2))) (hdy : y.name ≠ "<init>" ∧ (parseMethodDescriptor y.desc).map (fun d => d.parameters.length) = some n) (hfr : Nat.ble (fr2 + 1) I.2.2.2.2.2.1 = true) (hlo : Nat.ble (8 + (nL2 + 11) + lo2) I.2.2.2.2.2.2.1 = true) (hn : As.length = n) (hW : (rest.map fun v => v.category).sum ≤ 8) (hd : decode I.1 pc = .ok (.invokespecial index, 3)) (hct : ∀ (l : Launch), l.stackTraces = false → ∀ (x : Option Nat) (h1 : PH), ro = some (x, h1) → CT l D y (ws_ y cc2 nL2 rt2) fr2 lo2 (va_rf r :: As) h (ovr x) h1) (hf : rv_ h r ci (cl_ ro K) = some o) (st0 : List Value) (hst : st0 = As.reverse ++ va_rf r :: rest)
    (kk : ∀ (x : Option Nat) (h1 : PH), K x h1 = some o → PF Γ I D h0 Q h1 (pc + 3) vs (va_rf x :: rest)) : PF Γ I D h0 Q h pc vs st0 :=
  j_callSU hc hG hdy hfr hlo hn hW hd hct hf (fun x h1 rv e h9 => by cases e; exact kk x h1 h9) (fun x h1 ci q fs e => by cases e) st0 hst
theorem j_xSUr {y : MethodName} {cc2 : ByteArray} {nL2 fr2 lo2 index n : Nat} {rt2 : Option FieldType} {As : List Value} {C : String} {T : u_T} {N ci : Nat} {r : Option Nat} {ro : Option (((Nat × Nat) ⊕ Option Nat) × PH)} {K : ((Nat × Nat) ⊕ Option Nat) → PH → Option β} (hc : clA[ci]? = some (C, T, N)) (hG : GoodIn lw_all (va_wsSU I.2.2.1 index y (ws_ y cc2 nL2 rt2))) (hdy : y.name ≠ "<init>" ∧ (parseMethodDescriptor y.desc).map (fun d => d.parameters.length) = some n) (hfr : Nat.ble (fr2 + 1) I.2.2.2.2.2.1 = true) (hlo : Nat.ble (8 + (nL2 + 11) + lo2) I.2.2.2.2.2.2.1 = true) (hn : As.length = n) (hW : (rest.map fun v => v.category).sum ≤ 8) (hd : decode I.1 pc = .ok (.invokespecial index, 3)) (hct : ∀ (l : Launch), l.stackTraces = false → ∀ (x : (Nat × Nat) ⊕ Option Nat) (h1 : PH), ro = some (x, h1) → CT l D y (ws_ y cc2 nL2 rt2) fr2 lo2 (va_rf r :: As) h (oxr x) h1) (hf : rv_ h r ci (cl_ ro K) = some o) (st0 : List Value) (hst : st0 = As.reverse ++ va_rf r :: rest)
    (kk : ∀ (x : Option Nat) (h1 : PH), K (.inr x) h1 = some o → PF Γ I D h0 Q h1 (pc + 3) vs (va_rf x :: rest)) (kx : ∀ (ci q : Nat) (h1 : PH) (fs : List Value), h1.1 q = some (.inr (ci, fs)) → K (.inl (ci, q)) h1 = some o → PX Γ I D h0 Q h1 pc vs q) : PF Γ I D h0 Q h pc vs st0 :=
  j_callSU hc hG hdy hfr hlo hn hW hd hct hf (fun x h1 rv e h9 => by
    cases x with
    | inl q => cases e
    | inr v => cases e; exact kk v h1 h9) (fun x h1 ci q fs e h8 h9 => by
    cases x with
    | inl z => cases e; exact kx ci q h1 fs h8 h9
    | inr v => cases e) st0 hst
theorem j_cSUv {y : MethodName} {cc2 : ByteArray} {nL2 fr2 lo2 index n : Nat} {rt2 : Option FieldType} {As : List Value} {C : String} {T : u_T} {N ci : Nat} {r : Option Nat} {ro : Option (Unit × PH)} {K : Unit → PH → Option β} (hc : clA[ci]? = some (C, T, N)) (hG : GoodIn lw_all (va_wsSU I.2.2.1 index y (ws_ y cc2 nL2 rt2))) (hdy : y.name ≠ "<init>" ∧ (parseMethodDescriptor y.desc).map (fun d => d.parameters.length) = some n) (hfr : Nat.ble (fr2 + 1) I.2.2.2.2.2.1 = true) (hlo : Nat.ble (8 + (nL2 + 11) + lo2) I.2.2.2.2.2.2.1 = true) (hn : As.length = n) (hW : (rest.map fun v => v.category).sum ≤ 8) (hd : decode I.1 pc = .ok (.invokespecial index, 3)) (hct : ∀ (l : Launch), l.stackTraces = false → ∀ (x : Unit) (h1 : PH), ro = some (x, h1) → CT l D y (ws_ y cc2 nL2 rt2) fr2 lo2 (va_rf r :: As) h (ovv x) h1) (hf : rv_ h r ci (cl_ ro K) = some o) (st0 : List Value) (hst : st0 = As.reverse ++ va_rf r :: rest)
    (kk : ∀ (x : Unit) (h1 : PH), K x h1 = some o → PF Γ I D h0 Q h1 (pc + 3) vs (rest)) : PF Γ I D h0 Q h pc vs st0 :=
  j_callSU hc hG hdy hfr hlo hn hW hd hct hf (fun x h1 rv e h9 => by cases e; exact kk x h1 h9) (fun x h1 ci q fs e => by cases e) st0 hst
theorem j_xSUv {y : MethodName} {cc2 : ByteArray} {nL2 fr2 lo2 index n : Nat} {rt2 : Option FieldType} {As : List Value} {C : String} {T : u_T} {N ci : Nat} {r : Option Nat} {ro : Option (((Nat × Nat) ⊕ Unit) × PH)} {K : ((Nat × Nat) ⊕ Unit) → PH → Option β} (hc : clA[ci]? = some (C, T, N)) (hG : GoodIn lw_all (va_wsSU I.2.2.1 index y (ws_ y cc2 nL2 rt2))) (hdy : y.name ≠ "<init>" ∧ (parseMethodDescriptor y.desc).map (fun d => d.parameters.length) = some n) (hfr : Nat.ble (fr2 + 1) I.2.2.2.2.2.1 = true) (hlo : Nat.ble (8 + (nL2 + 11) + lo2) I.2.2.2.2.2.2.1 = true) (hn : As.length = n) (hW : (rest.map fun v => v.category).sum ≤ 8) (hd : decode I.1 pc = .ok (.invokespecial index, 3)) (hct : ∀ (l : Launch), l.stackTraces = false → ∀ (x : (Nat × Nat) ⊕ Unit) (h1 : PH), ro = some (x, h1) → CT l D y (ws_ y cc2 nL2 rt2) fr2 lo2 (va_rf r :: As) h (oxv x) h1) (hf : rv_ h r ci (cl_ ro K) = some o) (st0 : List Value) (hst : st0 = As.reverse ++ va_rf r :: rest)
    (kk : ∀ (x : Unit) (h1 : PH), K (.inr x) h1 = some o → PF Γ I D h0 Q h1 (pc + 3) vs (rest)) (kx : ∀ (ci q : Nat) (h1 : PH) (fs : List Value), h1.1 q = some (.inr (ci, fs)) → K (.inl (ci, q)) h1 = some o → PX Γ I D h0 Q h1 pc vs q) : PF Γ I D h0 Q h pc vs st0 :=
  j_callSU hc hG hdy hfr hlo hn hW hd hct hf (fun x h1 rv e h9 => by
    cases x with
    | inl q => cases e
    | inr v => cases e; exact kk v h1 h9) (fun x h1 ci q fs e h8 h9 => by
    cases x with
    | inl z => cases e; exact kx ci q h1 fs h8 h9
    | inr v => cases e) st0 hst
theorem j_cVWi {y : MethodName} {cc2 : ByteArray} {nL2 fr2 lo2 index n : Nat} {rt2 : Option FieldType} {As : List Value} {C : String} {T : u_T} {N ci : Nat} {r : Option Nat} {hh : List (Nat × Nat × Nat × Nat)} {ro : Option (Int32 × PH)} {K : Int32 → PH → Option β} (hc : clA[ci]? = some (C, T, N)) (hG : GoodIn lw_all (wsV I.2.2.1 index C y (wsW_ y cc2 nL2 rt2 hh))) (hdy : y.cls = C ∧ y.cls ≠ "java/lang/invoke/MethodHandle" ∧ y.cls ≠ "java/lang/invoke/VarHandle" ∧ (parseMethodDescriptor y.desc).map (fun d => d.parameters.length) = some n) (hfr : Nat.ble (fr2 + 1) I.2.2.2.2.2.1 = true) (hlo : Nat.ble (8 + (nL2 + 11) + lo2) I.2.2.2.2.2.2.1 = true) (hn : As.length = n) (hW : (rest.map fun v => v.category).sum ≤ 8) (hd : decode I.1 pc = .ok (.invokevirtual index, 3)) (hct : ∀ (l : Launch), l.stackTraces = false → ∀ (x : Int32) (h1 : PH), ro = some (x, h1) → CT l D y (wsW_ y cc2 nL2 rt2 hh) fr2 lo2 (va_rf r :: As) h (ovi x) h1) (hf : rv_ h r ci (cl_ ro K) = some o) (st0 : List Value) (hst : st0 = As.reverse ++ va_rf r :: rest)
    (kk : ∀ (x : Int32) (h1 : PH), K x h1 = some o → PF Γ I D h0 Q h1 (pc + 3) vs (.int x :: rest)) : PF Γ I D h0 Q h pc vs st0 :=
  j_callVW hc hG hdy hfr hlo hn hW hd hct hf (fun x h1 rv e h9 => by cases e; exact kk x h1 h9) (fun x h1 ci q fs e => by cases e) st0 hst
theorem j_xVWi {y : MethodName} {cc2 : ByteArray} {nL2 fr2 lo2 index n : Nat} {rt2 : Option FieldType} {As : List Value} {C : String} {T : u_T} {N ci : Nat} {r : Option Nat} {hh : List (Nat × Nat × Nat × Nat)} {ro : Option (((Nat × Nat) ⊕ Int32) × PH)} {K : ((Nat × Nat) ⊕ Int32) → PH → Option β} (hc : clA[ci]? = some (C, T, N)) (hG : GoodIn lw_all (wsV I.2.2.1 index C y (wsW_ y cc2 nL2 rt2 hh))) (hdy : y.cls = C ∧ y.cls ≠ "java/lang/invoke/MethodHandle" ∧ y.cls ≠ "java/lang/invoke/VarHandle" ∧ (parseMethodDescriptor y.desc).map (fun d => d.parameters.length) = some n) (hfr : Nat.ble (fr2 + 1) I.2.2.2.2.2.1 = true) (hlo : Nat.ble (8 + (nL2 + 11) + lo2) I.2.2.2.2.2.2.1 = true) (hn : As.length = n) (hW : (rest.map fun v => v.category).sum ≤ 8) (hd : decode I.1 pc = .ok (.invokevirtual index, 3)) (hct : ∀ (l : Launch), l.stackTraces = false → ∀ (x : (Nat × Nat) ⊕ Int32) (h1 : PH), ro = some (x, h1) → CT l D y (wsW_ y cc2 nL2 rt2 hh) fr2 lo2 (va_rf r :: As) h (oxi x) h1) (hf : rv_ h r ci (cl_ ro K) = some o) (st0 : List Value) (hst : st0 = As.reverse ++ va_rf r :: rest)
    (kk : ∀ (x : Int32) (h1 : PH), K (.inr x) h1 = some o → PF Γ I D h0 Q h1 (pc + 3) vs (.int x :: rest)) (kx : ∀ (ci q : Nat) (h1 : PH) (fs : List Value), h1.1 q = some (.inr (ci, fs)) → K (.inl (ci, q)) h1 = some o → PX Γ I D h0 Q h1 pc vs q) : PF Γ I D h0 Q h pc vs st0 :=
  j_callVW hc hG hdy hfr hlo hn hW hd hct hf (fun x h1 rv e h9 => by
    cases x with
    | inl q => cases e
    | inr v => cases e; exact kk v h1 h9) (fun x h1 ci q fs e h8 h9 => by
    cases x with
    | inl z => cases e; exact kx ci q h1 fs h8 h9
    | inr v => cases e) st0 hst
theorem j_cVWl {y : MethodName} {cc2 : ByteArray} {nL2 fr2 lo2 index n : Nat} {rt2 : Option FieldType} {As : List Value} {C : String} {T : u_T} {N ci : Nat} {r : Option Nat} {hh : List (Nat × Nat × Nat × Nat)} {ro : Option (Int64 × PH)} {K : Int64 → PH → Option β} (hc : clA[ci]? = some (C, T, N)) (hG : GoodIn lw_all (wsV I.2.2.1 index C y (wsW_ y cc2 nL2 rt2 hh))) (hdy : y.cls = C ∧ y.cls ≠ "java/lang/invoke/MethodHandle" ∧ y.cls ≠ "java/lang/invoke/VarHandle" ∧ (parseMethodDescriptor y.desc).map (fun d => d.parameters.length) = some n) (hfr : Nat.ble (fr2 + 1) I.2.2.2.2.2.1 = true) (hlo : Nat.ble (8 + (nL2 + 11) + lo2) I.2.2.2.2.2.2.1 = true) (hn : As.length = n) (hW : (rest.map fun v => v.category).sum ≤ 8) (hd : decode I.1 pc = .ok (.invokevirtual index, 3)) (hct : ∀ (l : Launch), l.stackTraces = false → ∀ (x : Int64) (h1 : PH), ro = some (x, h1) → CT l D y (wsW_ y cc2 nL2 rt2 hh) fr2 lo2 (va_rf r :: As) h (ovl x) h1) (hf : rv_ h r ci (cl_ ro K) = some o) (st0 : List Value) (hst : st0 = As.reverse ++ va_rf r :: rest)
    (kk : ∀ (x : Int64) (h1 : PH), K x h1 = some o → PF Γ I D h0 Q h1 (pc + 3) vs (.long x :: rest)) : PF Γ I D h0 Q h pc vs st0 :=
  j_callVW hc hG hdy hfr hlo hn hW hd hct hf (fun x h1 rv e h9 => by cases e; exact kk x h1 h9) (fun x h1 ci q fs e => by cases e) st0 hst
theorem j_xVWl {y : MethodName} {cc2 : ByteArray} {nL2 fr2 lo2 index n : Nat} {rt2 : Option FieldType} {As : List Value} {C : String} {T : u_T} {N ci : Nat} {r : Option Nat} {hh : List (Nat × Nat × Nat × Nat)} {ro : Option (((Nat × Nat) ⊕ Int64) × PH)} {K : ((Nat × Nat) ⊕ Int64) → PH → Option β} (hc : clA[ci]? = some (C, T, N)) (hG : GoodIn lw_all (wsV I.2.2.1 index C y (wsW_ y cc2 nL2 rt2 hh))) (hdy : y.cls = C ∧ y.cls ≠ "java/lang/invoke/MethodHandle" ∧ y.cls ≠ "java/lang/invoke/VarHandle" ∧ (parseMethodDescriptor y.desc).map (fun d => d.parameters.length) = some n) (hfr : Nat.ble (fr2 + 1) I.2.2.2.2.2.1 = true) (hlo : Nat.ble (8 + (nL2 + 11) + lo2) I.2.2.2.2.2.2.1 = true) (hn : As.length = n) (hW : (rest.map fun v => v.category).sum ≤ 8) (hd : decode I.1 pc = .ok (.invokevirtual index, 3)) (hct : ∀ (l : Launch), l.stackTraces = false → ∀ (x : (Nat × Nat) ⊕ Int64) (h1 : PH), ro = some (x, h1) → CT l D y (wsW_ y cc2 nL2 rt2 hh) fr2 lo2 (va_rf r :: As) h (oxl x) h1) (hf : rv_ h r ci (cl_ ro K) = some o) (st0 : List Value) (hst : st0 = As.reverse ++ va_rf r :: rest)
    (kk : ∀ (x : Int64) (h1 : PH), K (.inr x) h1 = some o → PF Γ I D h0 Q h1 (pc + 3) vs (.long x :: rest)) (kx : ∀ (ci q : Nat) (h1 : PH) (fs : List Value), h1.1 q = some (.inr (ci, fs)) → K (.inl (ci, q)) h1 = some o → PX Γ I D h0 Q h1 pc vs q) : PF Γ I D h0 Q h pc vs st0 :=
  j_callVW hc hG hdy hfr hlo hn hW hd hct hf (fun x h1 rv e h9 => by
    cases x with
    | inl q => cases e
    | inr v => cases e; exact kk v h1 h9) (fun x h1 ci q fs e h8 h9 => by
    cases x with
    | inl z => cases e; exact kx ci q h1 fs h8 h9
    | inr v => cases e) st0 hst
theorem j_cVWr {y : MethodName} {cc2 : ByteArray} {nL2 fr2 lo2 index n : Nat} {rt2 : Option FieldType} {As : List Value} {C : String} {T : u_T} {N ci : Nat} {r : Option Nat} {hh : List (Nat × Nat × Nat × Nat)} {ro : Option (Option Nat × PH)} {K : Option Nat → PH → Option β} (hc : clA[ci]? = some (C, T, N)) (hG : GoodIn lw_all (wsV I.2.2.1 index C y (wsW_ y cc2 nL2 rt2 hh))) (hdy : y.cls = C ∧ y.cls ≠ "java/lang/invoke/MethodHandle" ∧ y.cls ≠ "java/lang/invoke/VarHandle" ∧ (parseMethodDescriptor y.desc).map (fun d => d.parameters.length) = some n) (hfr : Nat.ble (fr2 + 1) I.2.2.2.2.2.1 = true) (hlo : Nat.ble (8 + (nL2 + 11) + lo2) I.2.2.2.2.2.2.1 = true) (hn : As.length = n) (hW : (rest.map fun v => v.category).sum ≤ 8) (hd : decode I.1 pc = .ok (.invokevirtual index, 3)) (hct : ∀ (l : Launch), l.stackTraces = false → ∀ (x : Option Nat) (h1 : PH), ro = some (x, h1) → CT l D y (wsW_ y cc2 nL2 rt2 hh) fr2 lo2 (va_rf r :: As) h (ovr x) h1) (hf : rv_ h r ci (cl_ ro K) = some o) (st0 : List Value) (hst : st0 = As.reverse ++ va_rf r :: rest)
    (kk : ∀ (x : Option Nat) (h1 : PH), K x h1 = some o → PF Γ I D h0 Q h1 (pc + 3) vs (va_rf x :: rest)) : PF Γ I D h0 Q h pc vs st0 :=
  j_callVW hc hG hdy hfr hlo hn hW hd hct hf (fun x h1 rv e h9 => by cases e; exact kk x h1 h9) (fun x h1 ci q fs e => by cases e) st0 hst
theorem j_xVWr {y : MethodName} {cc2 : ByteArray} {nL2 fr2 lo2 index n : Nat} {rt2 : Option FieldType} {As : List Value} {C : String} {T : u_T} {N ci : Nat} {r : Option Nat} {hh : List (Nat × Nat × Nat × Nat)} {ro : Option (((Nat × Nat) ⊕ Option Nat) × PH)} {K : ((Nat × Nat) ⊕ Option Nat) → PH → Option β} (hc : clA[ci]? = some (C, T, N)) (hG : GoodIn lw_all (wsV I.2.2.1 index C y (wsW_ y cc2 nL2 rt2 hh))) (hdy : y.cls = C ∧ y.cls ≠ "java/lang/invoke/MethodHandle" ∧ y.cls ≠ "java/lang/invoke/VarHandle" ∧ (parseMethodDescriptor y.desc).map (fun d => d.parameters.length) = some n) (hfr : Nat.ble (fr2 + 1) I.2.2.2.2.2.1 = true) (hlo : Nat.ble (8 + (nL2 + 11) + lo2) I.2.2.2.2.2.2.1 = true) (hn : As.length = n) (hW : (rest.map fun v => v.category).sum ≤ 8) (hd : decode I.1 pc = .ok (.invokevirtual index, 3)) (hct : ∀ (l : Launch), l.stackTraces = false → ∀ (x : (Nat × Nat) ⊕ Option Nat) (h1 : PH), ro = some (x, h1) → CT l D y (wsW_ y cc2 nL2 rt2 hh) fr2 lo2 (va_rf r :: As) h (oxr x) h1) (hf : rv_ h r ci (cl_ ro K) = some o) (st0 : List Value) (hst : st0 = As.reverse ++ va_rf r :: rest)
    (kk : ∀ (x : Option Nat) (h1 : PH), K (.inr x) h1 = some o → PF Γ I D h0 Q h1 (pc + 3) vs (va_rf x :: rest)) (kx : ∀ (ci q : Nat) (h1 : PH) (fs : List Value), h1.1 q = some (.inr (ci, fs)) → K (.inl (ci, q)) h1 = some o → PX Γ I D h0 Q h1 pc vs q) : PF Γ I D h0 Q h pc vs st0 :=
  j_callVW hc hG hdy hfr hlo hn hW hd hct hf (fun x h1 rv e h9 => by
    cases x with
    | inl q => cases e
    | inr v => cases e; exact kk v h1 h9) (fun x h1 ci q fs e h8 h9 => by
    cases x with
    | inl z => cases e; exact kx ci q h1 fs h8 h9
    | inr v => cases e) st0 hst
theorem j_cVWv {y : MethodName} {cc2 : ByteArray} {nL2 fr2 lo2 index n : Nat} {rt2 : Option FieldType} {As : List Value} {C : String} {T : u_T} {N ci : Nat} {r : Option Nat} {hh : List (Nat × Nat × Nat × Nat)} {ro : Option (Unit × PH)} {K : Unit → PH → Option β} (hc : clA[ci]? = some (C, T, N)) (hG : GoodIn lw_all (wsV I.2.2.1 index C y (wsW_ y cc2 nL2 rt2 hh))) (hdy : y.cls = C ∧ y.cls ≠ "java/lang/invoke/MethodHandle" ∧ y.cls ≠ "java/lang/invoke/VarHandle" ∧ (parseMethodDescriptor y.desc).map (fun d => d.parameters.length) = some n) (hfr : Nat.ble (fr2 + 1) I.2.2.2.2.2.1 = true) (hlo : Nat.ble (8 + (nL2 + 11) + lo2) I.2.2.2.2.2.2.1 = true) (hn : As.length = n) (hW : (rest.map fun v => v.category).sum ≤ 8) (hd : decode I.1 pc = .ok (.invokevirtual index, 3)) (hct : ∀ (l : Launch), l.stackTraces = false → ∀ (x : Unit) (h1 : PH), ro = some (x, h1) → CT l D y (wsW_ y cc2 nL2 rt2 hh) fr2 lo2 (va_rf r :: As) h (ovv x) h1) (hf : rv_ h r ci (cl_ ro K) = some o) (st0 : List Value) (hst : st0 = As.reverse ++ va_rf r :: rest)
    (kk : ∀ (x : Unit) (h1 : PH), K x h1 = some o → PF Γ I D h0 Q h1 (pc + 3) vs (rest)) : PF Γ I D h0 Q h pc vs st0 :=
  j_callVW hc hG hdy hfr hlo hn hW hd hct hf (fun x h1 rv e h9 => by cases e; exact kk x h1 h9) (fun x h1 ci q fs e => by cases e) st0 hst
theorem j_xVWv {y : MethodName} {cc2 : ByteArray} {nL2 fr2 lo2 index n : Nat} {rt2 : Option FieldType} {As : List Value} {C : String} {T : u_T} {N ci : Nat} {r : Option Nat} {hh : List (Nat × Nat × Nat × Nat)} {ro : Option (((Nat × Nat) ⊕ Unit) × PH)} {K : ((Nat × Nat) ⊕ Unit) → PH → Option β} (hc : clA[ci]? = some (C, T, N)) (hG : GoodIn lw_all (wsV I.2.2.1 index C y (wsW_ y cc2 nL2 rt2 hh))) (hdy : y.cls = C ∧ y.cls ≠ "java/lang/invoke/MethodHandle" ∧ y.cls ≠ "java/lang/invoke/VarHandle" ∧ (parseMethodDescriptor y.desc).map (fun d => d.parameters.length) = some n) (hfr : Nat.ble (fr2 + 1) I.2.2.2.2.2.1 = true) (hlo : Nat.ble (8 + (nL2 + 11) + lo2) I.2.2.2.2.2.2.1 = true) (hn : As.length = n) (hW : (rest.map fun v => v.category).sum ≤ 8) (hd : decode I.1 pc = .ok (.invokevirtual index, 3)) (hct : ∀ (l : Launch), l.stackTraces = false → ∀ (x : (Nat × Nat) ⊕ Unit) (h1 : PH), ro = some (x, h1) → CT l D y (wsW_ y cc2 nL2 rt2 hh) fr2 lo2 (va_rf r :: As) h (oxv x) h1) (hf : rv_ h r ci (cl_ ro K) = some o) (st0 : List Value) (hst : st0 = As.reverse ++ va_rf r :: rest)
    (kk : ∀ (x : Unit) (h1 : PH), K (.inr x) h1 = some o → PF Γ I D h0 Q h1 (pc + 3) vs (rest)) (kx : ∀ (ci q : Nat) (h1 : PH) (fs : List Value), h1.1 q = some (.inr (ci, fs)) → K (.inl (ci, q)) h1 = some o → PX Γ I D h0 Q h1 pc vs q) : PF Γ I D h0 Q h pc vs st0 :=
  j_callVW hc hG hdy hfr hlo hn hW hd hct hf (fun x h1 rv e h9 => by
    cases x with
    | inl q => cases e
    | inr v => cases e; exact kk v h1 h9) (fun x h1 ci q fs e h8 h9 => by
    cases x with
    | inl z => cases e; exact kx ci q h1 fs h8 h9
    | inr v => cases e) st0 hst
theorem j_cSWi {y : MethodName} {cc2 : ByteArray} {nL2 fr2 lo2 index n : Nat} {rt2 : Option FieldType} {As : List Value} {hh : List (Nat × Nat × Nat × Nat)} {ro : Option (Int32 × PH)} {K : Int32 → PH → Option β} (hG : GoodIn lw_all (va_wsS I.2.2.1 index y (wsW_ y cc2 nL2 rt2 hh))) (hdy : y.cls ≠ "java/lang/invoke/MethodHandle" ∧ y.cls ≠ "java/lang/invoke/VarHandle" ∧ (parseMethodDescriptor y.desc).map (fun d => d.parameters.length) = some n) (hfr : Nat.ble (fr2 + 1) I.2.2.2.2.2.1 = true) (hlo : Nat.ble (8 + (nL2 + 11) + lo2) I.2.2.2.2.2.2.1 = true) (hn : As.length = n) (hW : (rest.map fun v => v.category).sum ≤ 8) (hd : decode I.1 pc = .ok (.invokestatic index, 3)) (hct : ∀ (l : Launch), l.stackTraces = false → ∀ (x : Int32) (h1 : PH), ro = some (x, h1) → CT l D y (wsW_ y cc2 nL2 rt2 hh) fr2 lo2 As h (ovi x) h1) (hf : cl_ ro K = some o) (st0 : List Value) (hst : st0 = As.reverse ++ rest)
    (kk : ∀ (x : Int32) (h1 : PH), K x h1 = some o → PF Γ I D h0 Q h1 (pc + 3) vs (.int x :: rest)) : PF Γ I D h0 Q h pc vs st0 :=
  j_callSW hG hdy hfr hlo hn hW hd hct hf (fun x h1 rv e h9 => by cases e; exact kk x h1 h9) (fun x h1 ci q fs e => by cases e) st0 hst
theorem j_xSWi {y : MethodName} {cc2 : ByteArray} {nL2 fr2 lo2 index n : Nat} {rt2 : Option FieldType} {As : List Value} {hh : List (Nat × Nat × Nat × Nat)} {ro : Option (((Nat × Nat) ⊕ Int32) × PH)} {K : ((Nat × Nat) ⊕ Int32) → PH → Option β} (hG : GoodIn lw_all (va_wsS I.2.2.1 index y (wsW_ y cc2 nL2 rt2 hh))) (hdy : y.cls ≠ "java/lang/invoke/MethodHandle" ∧ y.cls ≠ "java/lang/invoke/VarHandle" ∧ (parseMethodDescriptor y.desc).map (fun d => d.parameters.length) = some n) (hfr : Nat.ble (fr2 + 1) I.2.2.2.2.2.1 = true) (hlo : Nat.ble (8 + (nL2 + 11) + lo2) I.2.2.2.2.2.2.1 = true) (hn : As.length = n) (hW : (rest.map fun v => v.category).sum ≤ 8) (hd : decode I.1 pc = .ok (.invokestatic index, 3)) (hct : ∀ (l : Launch), l.stackTraces = false → ∀ (x : (Nat × Nat) ⊕ Int32) (h1 : PH), ro = some (x, h1) → CT l D y (wsW_ y cc2 nL2 rt2 hh) fr2 lo2 As h (oxi x) h1) (hf : cl_ ro K = some o) (st0 : List Value) (hst : st0 = As.reverse ++ rest)
    (kk : ∀ (x : Int32) (h1 : PH), K (.inr x) h1 = some o → PF Γ I D h0 Q h1 (pc + 3) vs (.int x :: rest)) (kx : ∀ (ci q : Nat) (h1 : PH) (fs : List Value), h1.1 q = some (.inr (ci, fs)) → K (.inl (ci, q)) h1 = some o → PX Γ I D h0 Q h1 pc vs q) : PF Γ I D h0 Q h pc vs st0 :=
  j_callSW hG hdy hfr hlo hn hW hd hct hf (fun x h1 rv e h9 => by
    cases x with
    | inl q => cases e
    | inr v => cases e; exact kk v h1 h9) (fun x h1 ci q fs e h8 h9 => by
    cases x with
    | inl z => cases e; exact kx ci q h1 fs h8 h9
    | inr v => cases e) st0 hst
theorem j_cSWl {y : MethodName} {cc2 : ByteArray} {nL2 fr2 lo2 index n : Nat} {rt2 : Option FieldType} {As : List Value} {hh : List (Nat × Nat × Nat × Nat)} {ro : Option (Int64 × PH)} {K : Int64 → PH → Option β} (hG : GoodIn lw_all (va_wsS I.2.2.1 index y (wsW_ y cc2 nL2 rt2 hh))) (hdy : y.cls ≠ "java/lang/invoke/MethodHandle" ∧ y.cls ≠ "java/lang/invoke/VarHandle" ∧ (parseMethodDescriptor y.desc).map (fun d => d.parameters.length) = some n) (hfr : Nat.ble (fr2 + 1) I.2.2.2.2.2.1 = true) (hlo : Nat.ble (8 + (nL2 + 11) + lo2) I.2.2.2.2.2.2.1 = true) (hn : As.length = n) (hW : (rest.map fun v => v.category).sum ≤ 8) (hd : decode I.1 pc = .ok (.invokestatic index, 3)) (hct : ∀ (l : Launch), l.stackTraces = false → ∀ (x : Int64) (h1 : PH), ro = some (x, h1) → CT l D y (wsW_ y cc2 nL2 rt2 hh) fr2 lo2 As h (ovl x) h1) (hf : cl_ ro K = some o) (st0 : List Value) (hst : st0 = As.reverse ++ rest)
    (kk : ∀ (x : Int64) (h1 : PH), K x h1 = some o → PF Γ I D h0 Q h1 (pc + 3) vs (.long x :: rest)) : PF Γ I D h0 Q h pc vs st0 :=
  j_callSW hG hdy hfr hlo hn hW hd hct hf (fun x h1 rv e h9 => by cases e; exact kk x h1 h9) (fun x h1 ci q fs e => by cases e) st0 hst
theorem j_xSWl {y : MethodName} {cc2 : ByteArray} {nL2 fr2 lo2 index n : Nat} {rt2 : Option FieldType} {As : List Value} {hh : List (Nat × Nat × Nat × Nat)} {ro : Option (((Nat × Nat) ⊕ Int64) × PH)} {K : ((Nat × Nat) ⊕ Int64) → PH → Option β} (hG : GoodIn lw_all (va_wsS I.2.2.1 index y (wsW_ y cc2 nL2 rt2 hh))) (hdy : y.cls ≠ "java/lang/invoke/MethodHandle" ∧ y.cls ≠ "java/lang/invoke/VarHandle" ∧ (parseMethodDescriptor y.desc).map (fun d => d.parameters.length) = some n) (hfr : Nat.ble (fr2 + 1) I.2.2.2.2.2.1 = true) (hlo : Nat.ble (8 + (nL2 + 11) + lo2) I.2.2.2.2.2.2.1 = true) (hn : As.length = n) (hW : (rest.map fun v => v.category).sum ≤ 8) (hd : decode I.1 pc = .ok (.invokestatic index, 3)) (hct : ∀ (l : Launch), l.stackTraces = false → ∀ (x : (Nat × Nat) ⊕ Int64) (h1 : PH), ro = some (x, h1) → CT l D y (wsW_ y cc2 nL2 rt2 hh) fr2 lo2 As h (oxl x) h1) (hf : cl_ ro K = some o) (st0 : List Value) (hst : st0 = As.reverse ++ rest)
    (kk : ∀ (x : Int64) (h1 : PH), K (.inr x) h1 = some o → PF Γ I D h0 Q h1 (pc + 3) vs (.long x :: rest)) (kx : ∀ (ci q : Nat) (h1 : PH) (fs : List Value), h1.1 q = some (.inr (ci, fs)) → K (.inl (ci, q)) h1 = some o → PX Γ I D h0 Q h1 pc vs q) : PF Γ I D h0 Q h pc vs st0 :=
  j_callSW hG hdy hfr hlo hn hW hd hct hf (fun x h1 rv e h9 => by
    cases x with
    | inl q => cases e
    | inr v => cases e; exact kk v h1 h9) (fun x h1 ci q fs e h8 h9 => by
    cases x with
    | inl z => cases e; exact kx ci q h1 fs h8 h9
    | inr v => cases e) st0 hst
theorem j_cSWr {y : MethodName} {cc2 : ByteArray} {nL2 fr2 lo2 index n : Nat} {rt2 : Option FieldType} {As : List Value} {hh : List (Nat × Nat × Nat × Nat)} {ro : Option (Option Nat × PH)} {K : Option Nat → PH → Option β} (hG : GoodIn lw_all (va_wsS I.2.2.1 index y (wsW_ y cc2 nL2 rt2 hh))) (hdy : y.cls ≠ "java/lang/invoke/MethodHandle" ∧ y.cls ≠ "java/lang/invoke/VarHandle" ∧ (parseMethodDescriptor y.desc).map (fun d => d.parameters.length) = some n) (hfr : Nat.ble (fr2 + 1) I.2.2.2.2.2.1 = true) (hlo : Nat.ble (8 + (nL2 + 11) + lo2) I.2.2.2.2.2.2.1 = true) (hn : As.length = n) (hW : (rest.map fun v => v.category).sum ≤ 8) (hd : decode I.1 pc = .ok (.invokestatic index, 3)) (hct : ∀ (l : Launch), l.stackTraces = false → ∀ (x : Option Nat) (h1 : PH), ro = some (x, h1) → CT l D y (wsW_ y cc2 nL2 rt2 hh) fr2 lo2 As h (ovr x) h1) (hf : cl_ ro K = some o) (st0 : List Value) (hst : st0 = As.reverse ++ rest)
    (kk : ∀ (x : Option Nat) (h1 : PH), K x h1 = some o → PF Γ I D h0 Q h1 (pc + 3) vs (va_rf x :: rest)) : PF Γ I D h0 Q h pc vs st0 :=
  j_callSW hG hdy hfr hlo hn hW hd hct hf (fun x h1 rv e h9 => by cases e; exact kk x h1 h9) (fun x h1 ci q fs e => by cases e) st0 hst
theorem j_xSWr {y : MethodName} {cc2 : ByteArray} {nL2 fr2 lo2 index n : Nat} {rt2 : Option FieldType} {As : List Value} {hh : List (Nat × Nat × Nat × Nat)} {ro : Option (((Nat × Nat) ⊕ Option Nat) × PH)} {K : ((Nat × Nat) ⊕ Option Nat) → PH → Option β} (hG : GoodIn lw_all (va_wsS I.2.2.1 index y (wsW_ y cc2 nL2 rt2 hh))) (hdy : y.cls ≠ "java/lang/invoke/MethodHandle" ∧ y.cls ≠ "java/lang/invoke/VarHandle" ∧ (parseMethodDescriptor y.desc).map (fun d => d.parameters.length) = some n) (hfr : Nat.ble (fr2 + 1) I.2.2.2.2.2.1 = true) (hlo : Nat.ble (8 + (nL2 + 11) + lo2) I.2.2.2.2.2.2.1 = true) (hn : As.length = n) (hW : (rest.map fun v => v.category).sum ≤ 8) (hd : decode I.1 pc = .ok (.invokestatic index, 3)) (hct : ∀ (l : Launch), l.stackTraces = false → ∀ (x : (Nat × Nat) ⊕ Option Nat) (h1 : PH), ro = some (x, h1) → CT l D y (wsW_ y cc2 nL2 rt2 hh) fr2 lo2 As h (oxr x) h1) (hf : cl_ ro K = some o) (st0 : List Value) (hst : st0 = As.reverse ++ rest)
    (kk : ∀ (x : Option Nat) (h1 : PH), K (.inr x) h1 = some o → PF Γ I D h0 Q h1 (pc + 3) vs (va_rf x :: rest)) (kx : ∀ (ci q : Nat) (h1 : PH) (fs : List Value), h1.1 q = some (.inr (ci, fs)) → K (.inl (ci, q)) h1 = some o → PX Γ I D h0 Q h1 pc vs q) : PF Γ I D h0 Q h pc vs st0 :=
  j_callSW hG hdy hfr hlo hn hW hd hct hf (fun x h1 rv e h9 => by
    cases x with
    | inl q => cases e
    | inr v => cases e; exact kk v h1 h9) (fun x h1 ci q fs e h8 h9 => by
    cases x with
    | inl z => cases e; exact kx ci q h1 fs h8 h9
    | inr v => cases e) st0 hst
theorem j_cSWv {y : MethodName} {cc2 : ByteArray} {nL2 fr2 lo2 index n : Nat} {rt2 : Option FieldType} {As : List Value} {hh : List (Nat × Nat × Nat × Nat)} {ro : Option (Unit × PH)} {K : Unit → PH → Option β} (hG : GoodIn lw_all (va_wsS I.2.2.1 index y (wsW_ y cc2 nL2 rt2 hh))) (hdy : y.cls ≠ "java/lang/invoke/MethodHandle" ∧ y.cls ≠ "java/lang/invoke/VarHandle" ∧ (parseMethodDescriptor y.desc).map (fun d => d.parameters.length) = some n) (hfr : Nat.ble (fr2 + 1) I.2.2.2.2.2.1 = true) (hlo : Nat.ble (8 + (nL2 + 11) + lo2) I.2.2.2.2.2.2.1 = true) (hn : As.length = n) (hW : (rest.map fun v => v.category).sum ≤ 8) (hd : decode I.1 pc = .ok (.invokestatic index, 3)) (hct : ∀ (l : Launch), l.stackTraces = false → ∀ (x : Unit) (h1 : PH), ro = some (x, h1) → CT l D y (wsW_ y cc2 nL2 rt2 hh) fr2 lo2 As h (ovv x) h1) (hf : cl_ ro K = some o) (st0 : List Value) (hst : st0 = As.reverse ++ rest)
    (kk : ∀ (x : Unit) (h1 : PH), K x h1 = some o → PF Γ I D h0 Q h1 (pc + 3) vs (rest)) : PF Γ I D h0 Q h pc vs st0 :=
  j_callSW hG hdy hfr hlo hn hW hd hct hf (fun x h1 rv e h9 => by cases e; exact kk x h1 h9) (fun x h1 ci q fs e => by cases e) st0 hst
theorem j_xSWv {y : MethodName} {cc2 : ByteArray} {nL2 fr2 lo2 index n : Nat} {rt2 : Option FieldType} {As : List Value} {hh : List (Nat × Nat × Nat × Nat)} {ro : Option (((Nat × Nat) ⊕ Unit) × PH)} {K : ((Nat × Nat) ⊕ Unit) → PH → Option β} (hG : GoodIn lw_all (va_wsS I.2.2.1 index y (wsW_ y cc2 nL2 rt2 hh))) (hdy : y.cls ≠ "java/lang/invoke/MethodHandle" ∧ y.cls ≠ "java/lang/invoke/VarHandle" ∧ (parseMethodDescriptor y.desc).map (fun d => d.parameters.length) = some n) (hfr : Nat.ble (fr2 + 1) I.2.2.2.2.2.1 = true) (hlo : Nat.ble (8 + (nL2 + 11) + lo2) I.2.2.2.2.2.2.1 = true) (hn : As.length = n) (hW : (rest.map fun v => v.category).sum ≤ 8) (hd : decode I.1 pc = .ok (.invokestatic index, 3)) (hct : ∀ (l : Launch), l.stackTraces = false → ∀ (x : (Nat × Nat) ⊕ Unit) (h1 : PH), ro = some (x, h1) → CT l D y (wsW_ y cc2 nL2 rt2 hh) fr2 lo2 As h (oxv x) h1) (hf : cl_ ro K = some o) (st0 : List Value) (hst : st0 = As.reverse ++ rest)
    (kk : ∀ (x : Unit) (h1 : PH), K (.inr x) h1 = some o → PF Γ I D h0 Q h1 (pc + 3) vs (rest)) (kx : ∀ (ci q : Nat) (h1 : PH) (fs : List Value), h1.1 q = some (.inr (ci, fs)) → K (.inl (ci, q)) h1 = some o → PX Γ I D h0 Q h1 pc vs q) : PF Γ I D h0 Q h pc vs st0 :=
  j_callSW hG hdy hfr hlo hn hW hd hct hf (fun x h1 rv e h9 => by
    cases x with
    | inl q => cases e
    | inr v => cases e; exact kk v h1 h9) (fun x h1 ci q fs e h8 h9 => by
    cases x with
    | inl z => cases e; exact kx ci q h1 fs h8 h9
    | inr v => cases e) st0 hst
/-- a throw: the plain side asks the object's class -/
def th_ (h : PH) (r : Option Nat) (K : Nat → Nat → Option β) : Option β := cA_ h r fun a e => match e with
  | .inl _ => none
  | .inr (ci, _) => K ci a
theorem th_in {r : Option Nat} {K : Nat → Nat → Option β} (hf : th_ h r K = some o) : ∃ (a ci : Nat) (fs : List Value), r = some a ∧ h.1 a = some (.inr (ci, fs)) ∧ K ci a = some o := by
  obtain ⟨a, e, rfl, he, hf⟩ := cA_in hf
  match e, he, hf with
  | .inl _, _, hf => cases hf
  | .inr (ci, fs), he, hf => exact ⟨a, ci, fs, rfl, he, hf⟩
theorem j_athrow {r : Option Nat} {K : Nat → Nat → Option β} (hd : decode I.1 pc = .ok (.athrow, 1)) (hf : th_ h r K = some o) (kx : ∀ (ci q : Nat) (fs : List Value), h.1 q = some (.inr (ci, fs)) → K ci q = some o → PX Γ I D h0 Q h pc vs q) : PF Γ I D h0 Q h pc vs (va_rf r :: rest) := by
  obtain ⟨a, ci, fs, rfl, he, hf⟩ := th_in hf
  have k := kx ci a fs he hf
  obtain ⟨p, l, e, R, s, m, args, below, meth, c⟩ := Γ
  intro X B ls hl H locs hM hz hS
  exact vx_athrow X.1 X.2.1 hd (k X B ls hl H locs hM hz hS rest)
/-- the cell of a thrown object -/
theorem j_thrown {s : State} {H : Heap} {a ci : Nat} {fs : List Value} (hWK : WK D h0.2.1 s s.heap) (hM : WM D h H) (hb : pbase h ≤ a) (he : h.1 a = some (.inr (ci, fs))) : ∃ cell : Cell, H[a]? = some cell ∧ cell.vm = .none ∧ s.vm.findClass (rcl ci).1 = some cell.cls := by
  have hP := hM.one hb he
  obtain ⟨q', h1, cell, g1, g2, g3, -⟩ := id (hP 0 _ rfl)
  refine ⟨cell, g1, g3, ?_⟩
  have h1' : clA[ci]? = some q' := h1
  unfold rcl
  rw [h1', g2]
  exact (hWK.1.1 ci q' h1').2.1
/-- not caught here -/
theorem j_out {q ci : Nat} {fs : List Value} (hout : ∀ x ∈ I.2.2.2.2.1, covers x pc = false) (hb : pbase h ≤ q) (he : h.1 q = some (.inr (ci, fs))) : PX Γ I D h0 (QR Γ D h0 (.inl (ci, q)) h) h pc vs q := by
  obtain ⟨p, l, e, R, s, m, args, below, meth, c⟩ := Γ
  intro X B ls hl H locs hM hz hS rest
  obtain ⟨cc, nL, own, rt, xt, fr, lo, nm⟩ := I
  have hWK := X.2.2.2.2.2.2.2.2.2.2.2.2.1
  obtain ⟨cell, g1, g2, g3⟩ := j_thrown hWK hM hb he
  have hxt : c.exceptionTable.toList = xt := X.2.2.2.2.2.2.2.1
  exact vx_out (by rw [hxt]; exact hout) X.2.2.2.2.2.1 g1 g2 g3 (fun t ht hal => ⟨ci, fs, rfl, rfl, he, j_end B hM hz hS ht⟩) hS.2.2 (Nat.sub_le _ _) (Nat.sub_le _ _)
/-- caught by the handler x of the table -/
theorem j_catch {q ci : Nat} {fs : List Value} {name : String} (pre : List ExceptionTableEntry) (x : ExceptionTableEntry) (suf : List ExceptionTableEntry) (hsplit : I.2.2.2.2.1 = pre ++ x :: suf) (hpass : ∀ z ∈ pre, covers z pc = false ∨ (z.catchType ≠ 0 ∧ ∃ nm : String, Cond.classLink I.2.2.1 z.catchType nm ∈ lw_all ∧ ((rcl ci).1, nm) ∈ ncT)) (hx : covers x pc = true) (h9 : x.catchType ≠ 0) (hlink : Cond.classLink I.2.2.1 x.catchType name ∈ lw_all) (hcast : Cond.castable (rcl ci).1 name ∈ lw_tbl) (hb : pbase h ≤ q) (he : h.1 q = some (.inr (ci, fs)))
    (kk : PF Γ I D h0 Q h x.handlerPc vs [va_rf (some q)]) : PX Γ I D h0 Q h pc vs q := by
  obtain ⟨p, l, e, R, s, m, args, below, meth, c⟩ := Γ
  intro X B ls hl H locs hM hz hS rest
  obtain ⟨cc, nL, own, rt, xt, fr, lo, nm⟩ := I
  have hWK := X.2.2.2.2.2.2.2.2.2.2.2.2.1
  have hts := X.2.2.2.2.1
  obtain ⟨cell, g1, g2, g3⟩ := j_thrown hWK hM hb he
  have hxt : c.exceptionTable.toList = xt := X.2.2.2.2.2.2.2.1
  refine vx_catch X.2.2.2.1 pre x suf (hxt.trans hsplit) (fun z hz => ?_) hx h9 (hts _ hlink) (va_Nw.use rfl (hWK.2.1 _ hcast rfl)) g1 g2 g3 (kk X B ls hl H locs hM hz hS)
  rcases hpass z hz with h | ⟨h1, nm9, h2, h3⟩
  · exact Or.inl h
  · exact Or.inr ⟨h1, nm9, hts _ h2, hWK.2.2.2.2.2.1 _ h3⟩
/-- the ordinal of a constant of the enum -/
theorem j_gIK {index : Nat} {r : Option Nat} {K : Int32 → Option β} (hlink : Cond.fieldLink I.2.2.1 index "java/lang/Enum" "ordinal" "I" ∈ lw_all) (hd : decode I.1 pc = .ok (.getfield index, 3)) (hf : gI h r 25 0 K = some o) (kk : ∀ x : Int32, K x = some o → PF Γ I D h0 Q h (pc + 3) vs (.int x :: rest)) : PF Γ I D h0 Q h pc vs (va_rf r :: rest) := by
  obtain ⟨a, fs, rfl, he, hf⟩ := cO_in hf
  obtain ⟨x, hv, hf⟩ := asI_in hf
  have k9 := kk x hf
  obtain ⟨p, l, e, R, s, m, args, below, meth, c⟩ := Γ
  intro X B ls hl H locs hM hz hS
  obtain ⟨cc, nL, own, rt, xt, fr, lo, nm⟩ := I
  have hWK := X.2.2.2.2.2.2.2.2.2.2.2.2.1
  by_cases hb : pbase h ≤ a
  · obtain ⟨q', h1, -⟩ := id (hM.one hb he 0 _ rfl)
    exact absurd (show (none : Option vw_C) = some q' from h1) (fun q => by cases q)
  · have h1 := hM.cst hb he
    have h2 : h0.2.1.2.2.2 a = some (.inr (25, fs)) := by rw [← B.1]; exact h1
    have h3 : va_OF "java/lang/Enum" "ordinal" "I" (.int x) a (pA h0.2.1) s s.heap := (hWK.2.2.1 a _ h2).2 0 _ hv
    exact vk_getf X.1 X.2.1 h3 hS X.2.2.2.1 (X.2.2.2.2.1 _ hlink) (fun _ h9 => h9) hd (k9 X B ls hl H locs hM hz hS)
/-- thrown out of the method, on the plain side -/
def xo_ {α : Type} (h : PH) (ci q : Nat) : Option (((Nat × Nat) ⊕ α) × PH) := if pbase h ≤ q then some (.inl (ci, q), h) else none
theorem xo_in {α : Type} {ci q : Nat} {x : ((Nat × Nat) ⊕ α) × PH} (hf : xo_ h ci q = some x) : pbase h ≤ q ∧ x = (.inl (ci, q), h) := by
  obtain ⟨h1, h2⟩ := if_none hf
  exact ⟨h1, (Option.some.inj h2).symm⟩
/-- a method with handlers -/
theorem ct_ofH {l : Launch} {y : MethodName} {cc : ByteArray} {nL fr lo : Nat} {rt : Option FieldType} {hh : List (Nat × Nat × Nat × Nat)} {av : List Value} {oc : OC} {h' : PH} (hl9 : l.stackTraces = false) (vs0 : List (Option Value)) (hy : plainName y.cls = true) (hlen : (lg_sl av).length ≤ nL) (hvs : lv_args 0 av = vsL 0 vs0)
    (body : ∀ Γ : GX, PF Γ (cc, nL, y.cls, rt, tableOf hh, fr, lo, y.name) D h0 (QR Γ D h0 oc h') h0 0 vs0 []) : CT l D y (wsW_ y cc nL rt hh) fr lo av h0 oc h' := by
  refine vx_ofWH (cc := cc) (maxL := nL) (ret := rt) (hh := hh) hy rfl ?_
  intro p e s m args below meth c s₁ B hml ⟨hav, hM, hWK⟩
  subst hav
  have hts := atoms_spec (ws := wsW_ y cc nL rt hh) B.pre
  have hx : c.exceptionTable.toList = tableOf hh := vx_table (x := y) B (hts _ List.mem_cons_self)
  rw [lg_entry_eq]
  have h1 := lv_entry av (n := nL) hlen
  rw [hvs] at h1
  have h2 : jLS vs0 ((lg_sl av ++ List.replicate (nL - (lg_sl av).length) Slot.unset).toArray) nL := ⟨_, h1, fun i v hi => by have := vsL_mem vs0 0 i v hi; rw [Nat.zero_add] at this; exact this⟩
  have hnm := name_of_methodNamed B.named B.method
  have K := body (p, l, e, (headSpec (wsW_ y cc nL rt hh) (rmOf fr lo h0)).room, s, m, av.toArray, below, meth, c) ⟨B.exec, B.bytes, hml, findClass_of_methodNamed B.named, fun w h => hts w (List.mem_cons_of_mem _ h), B.notSynchronized, B.returns, hx, Nat.le_refl _, Nat.le_refl _, rfl, rfl, hWK, hM.1, hM.2.1, hl9, hnm.1⟩ Bd.rf _ h2 s.heap [] hM (Nat.le_refl _) va_S.rf
  rw [Nat.sub_self, Nat.sub_self] at K
  exact K
end JK3
/-- the words of a call of an inherited method, through an interface, of super's -/
theorem lw_U {own : String} {idx : Nat} {C owner : String} {x y : MethodName} {b : ByteArray} {L : Nat} {r : Option FieldType} (h1 : Cond.methodLink own idx x ∈ lw_all) (h2 : Cond.sameMethod x.cls owner x.name x.desc ∈ lw_all) (h3 : Cond.selects C x y ∈ lw_all) (h4 : Cond.instanceMethod y ∈ lw_all) (h5 : Cond.initialized y.cls ∈ lw_all) (h6 : Cond.code y b L r ∈ lw_all) : GoodIn lw_all (va_wsU own idx C owner x y (ws_ y b L r)) := by
  refine lw_app ?_ (lw_meth h6)
  intro w hw
  simp only [List.mem_cons, List.not_mem_nil, or_false] at hw
  rcases hw with e | e | e | e | e
  · rw [e]; exact h1
  · rw [e]; exact h2
  · rw [e]; exact h3
  · rw [e]; exact h4
  · rw [e]; exact h5
theorem lw_O {own : String} {idx : Nat} {C owner : String} {x y : MethodName} {b : ByteArray} {L : Nat} {r : Option FieldType} (h1 : Cond.methodLink own idx x ∈ lw_all) (h2 : Cond.sameMethod x.cls owner x.name x.desc ∈ lw_all) (h9 : Cond.instanceMethod ⟨owner, x.name, x.desc⟩ ∈ lw_all) (h3 : Cond.selects C x y ∈ lw_all) (h4 : Cond.instanceMethod y ∈ lw_all) (h5 : Cond.initialized y.cls ∈ lw_all) (h6 : Cond.code y b L r ∈ lw_all) : GoodIn lw_all (va_wsO own idx C owner x y (ws_ y b L r)) := by
  refine lw_app ?_ (lw_meth h6)
  intro w hw
  simp only [List.mem_cons, List.not_mem_nil, or_false] at hw
  rcases hw with e | e | e | e | e | e
  · rw [e]; exact h1
  · rw [e]; exact h2
  · rw [e]; exact h9
  · rw [e]; exact h3
  · rw [e]; exact h4
  · rw [e]; exact h5
theorem lw_F {own : String} {idx : Nat} {C : String} {x y : MethodName} {b : ByteArray} {L : Nat} {r : Option FieldType} (h1 : Cond.methodLink own idx x ∈ lw_all) (h3 : Cond.selects C x y ∈ lw_all) (h4 : Cond.instanceMethod y ∈ lw_all) (h5 : Cond.initialized y.cls ∈ lw_all) (h6 : Cond.code y b L r ∈ lw_all) : GoodIn lw_all (va_wsF own idx C x y (ws_ y b L r)) := by
  refine lw_app ?_ (lw_meth h6)
  intro w hw
  simp only [List.mem_cons, List.not_mem_nil, or_false] at hw
  rcases hw with e | e | e | e
  · rw [e]; exact h1
  · rw [e]; exact h3
  · rw [e]; exact h4
  · rw [e]; exact h5
theorem lw_SU {own : String} {idx : Nat} {y : MethodName} {b : ByteArray} {L : Nat} {r : Option FieldType} (h1 : Cond.methodLink own idx y ∈ lw_all) (h2 : Cond.sameMethod y.cls y.cls y.name y.desc ∈ lw_all) (h3 : Cond.superclass own y.cls ∈ lw_all) (h4 : Cond.instanceMethod y ∈ lw_all) (h5 : Cond.initialized y.cls ∈ lw_all) (h6 : Cond.code y b L r ∈ lw_all) : GoodIn lw_all (va_wsSU own idx y (ws_ y b L r)) := by
  refine lw_app ?_ (lw_meth h6)
  intro w hw
  simp only [List.mem_cons, List.not_mem_nil, or_false] at hw
  rcases hw with e | e | e | e | e
  · rw [e]; exact h1
  · rw [e]; exact h2
  · rw [e]; exact h3
  · rw [e]; exact h4
  · rw [e]; exact h5
