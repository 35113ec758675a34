/-! CALLS BY KIND OF ANSWER (printed by mkrows2.py), EXCEPTIONS -/
set_option maxRecDepth 100000
abbrev ovi : Int32 → OC := fun v => .inr (some (.int v))
abbrev ovl : Int64 → OC := fun v => .inr (some (.long v))
abbrev ovr : Option Nat → OC := fun r => .inr (some (va_rf r))
abbrev ovv : Unit → OC := fun _ => .inr none
abbrev oxi : (Nat × Nat) ⊕ Int32 → OC := fun x => match x with
  | .inl q => .inl q
  | .inr v => ovi v
abbrev oxl : (Nat × Nat) ⊕ Int64 → OC := fun x => match x with
  | .inl q => .inl q
  | .inr v => ovl v
abbrev oxr : (Nat × Nat) ⊕ Option Nat → OC := fun x => match x with
  | .inl q => .inl q
  | .inr v => ovr v
abbrev oxv : (Nat × Nat) ⊕ Unit → OC := fun x => match x with
  | .inl q => .inl q
  | .inr v => ovv v
section JK2
variable {Γ : GX} {I : MI} {D : va_G} {h0 : PH} {Q : State → Prop} {h : PH} {pc : Nat} {vs : List (Option Value)} {rest : List Value} {β : Type} {o : β}
theorem j_cVi {y : MethodName} {C : String} {T : u_T} {N : Nat} {cc2 : ByteArray} {nL2 fr2 lo2 : Nat} {rt2 : Option FieldType} {ci index n : Nat} {r : Option Nat} {As : List Value} {ro : Option (Int32 × PH)} {K : Int32 → PH → Option β} (hc : clA[ci]? = some (C, T, N)) (hG : GoodIn lw_all (wsV I.2.2.1 index C y (ws_ y cc2 nL2 rt2))) (hdy : y.cls = C ∧ y.cls ≠ "java/lang/invoke/MethodHandle" ∧ y.cls ≠ "java/lang/invoke/VarHandle" ∧ (parseMethodDescriptor y.desc).map (fun d => d.parameters.length) = some n) (hfr : Nat.ble (fr2 + 1) I.2.2.2.2.2.1 = true) (hlo : Nat.ble (8 + (nL2 + 11) + lo2) I.2.2.2.2.2.2.1 = true) (hn : As.length = n) (hW : (rest.map fun v => v.category).sum ≤ 8) (hd : decode I.1 pc = .ok (.invokevirtual index, 3)) (hct : ∀ (l : Launch), l.stackTraces = false → ∀ (x : Int32) (h1 : PH), ro = some (x, h1) → CT l D y (ws_ y cc2 nL2 rt2) fr2 lo2 (va_rf r :: As) h (ovi x) h1) (hf : rv_ h r ci (cl_ ro K) = some o) (st0 : List Value) (hst : st0 = As.reverse ++ va_rf r :: rest)
    (kk : ∀ (x : Int32) (h1 : PH), K x h1 = some o → PF Γ I D h0 Q h1 (pc + 3) vs (.int x :: rest)) : PF Γ I D h0 Q h pc vs st0 :=
  j_callV hc hG hdy hfr hlo hn hW hd hct hf (fun x h1 rv e h9 => by cases e; exact kk x h1 h9) (fun x h1 ci q fs e => by cases e) st0 hst
theorem j_xVi {y : MethodName} {C : String} {T : u_T} {N : Nat} {cc2 : ByteArray} {nL2 fr2 lo2 : Nat} {rt2 : Option FieldType} {ci index n : Nat} {r : Option Nat} {As : List Value} {ro : Option (((Nat × Nat) ⊕ Int32) × PH)} {K : ((Nat × Nat) ⊕ Int32) → PH → Option β} (hc : clA[ci]? = some (C, T, N)) (hG : GoodIn lw_all (wsV I.2.2.1 index C y (ws_ y cc2 nL2 rt2))) (hdy : y.cls = C ∧ y.cls ≠ "java/lang/invoke/MethodHandle" ∧ y.cls ≠ "java/lang/invoke/VarHandle" ∧ (parseMethodDescriptor y.desc).map (fun d => d.parameters.length) = some n) (hfr : Nat.ble (fr2 + 1) I.2.2.2.2.2.1 = true) (hlo : Nat.ble (8 + (nL2 + 11) + lo2) I.2.2.2.2.2.2.1 = true) (hn : As.length = n) (hW : (rest.map fun v => v.category).sum ≤ 8) (hd : decode I.1 pc = .ok (.invokevirtual index, 3)) (hct : ∀ (l : Launch), l.stackTraces = false → ∀ (x : (Nat × Nat) ⊕ Int32) (h1 : PH), ro = some (x, h1) → CT l D y (ws_ y cc2 nL2 rt2) fr2 lo2 (va_rf r :: As) h (oxi x) h1) (hf : rv_ h r ci (cl_ ro K) = some o) (st0 : List Value) (hst : st0 = As.reverse ++ va_rf r :: rest)
    (kk : ∀ (x : Int32) (h1 : PH), K (.inr x) h1 = some o → PF Γ I D h0 Q h1 (pc + 3) vs (.int x :: rest)) (kx : ∀ (ci q : Nat) (h1 : PH) (fs : List Value), h1.1 q = some (.inr (ci, fs)) → K (.inl (ci, q)) h1 = some o → PX Γ I D h0 Q h1 pc vs q) : PF Γ I D h0 Q h pc vs st0 :=
  j_callV hc hG hdy hfr hlo hn hW hd hct hf (fun x h1 rv e h9 => by
    cases x with
    | inl q => cases e
    | inr v => cases e; exact kk v h1 h9) (fun x h1 ci q fs e h8 h9 => by
    cases x with
    | inl z => cases e; exact kx ci q h1 fs h8 h9
    | inr v => cases e) st0 hst
theorem j_cVl {y : MethodName} {C : String} {T : u_T} {N : Nat} {cc2 : ByteArray} {nL2 fr2 lo2 : Nat} {rt2 : Option FieldType} {ci index n : Nat} {r : Option Nat} {As : List Value} {ro : Option (Int64 × PH)} {K : Int64 → PH → Option β} (hc : clA[ci]? = some (C, T, N)) (hG : GoodIn lw_all (wsV I.2.2.1 index C y (ws_ y cc2 nL2 rt2))) (hdy : y.cls = C ∧ y.cls ≠ "java/lang/invoke/MethodHandle" ∧ y.cls ≠ "java/lang/invoke/VarHandle" ∧ (parseMethodDescriptor y.desc).map (fun d => d.parameters.length) = some n) (hfr : Nat.ble (fr2 + 1) I.2.2.2.2.2.1 = true) (hlo : Nat.ble (8 + (nL2 + 11) + lo2) I.2.2.2.2.2.2.1 = true) (hn : As.length = n) (hW : (rest.map fun v => v.category).sum ≤ 8) (hd : decode I.1 pc = .ok (.invokevirtual index, 3)) (hct : ∀ (l : Launch), l.stackTraces = false → ∀ (x : Int64) (h1 : PH), ro = some (x, h1) → CT l D y (ws_ y cc2 nL2 rt2) fr2 lo2 (va_rf r :: As) h (ovl x) h1) (hf : rv_ h r ci (cl_ ro K) = some o) (st0 : List Value) (hst : st0 = As.reverse ++ va_rf r :: rest)
    (kk : ∀ (x : Int64) (h1 : PH), K x h1 = some o → PF Γ I D h0 Q h1 (pc + 3) vs (.long x :: rest)) : PF Γ I D h0 Q h pc vs st0 :=
  j_callV hc hG hdy hfr hlo hn hW hd hct hf (fun x h1 rv e h9 => by cases e; exact kk x h1 h9) (fun x h1 ci q fs e => by cases e) st0 hst
theorem j_xVl {y : MethodName} {C : String} {T : u_T} {N : Nat} {cc2 : ByteArray} {nL2 fr2 lo2 : Nat} {rt2 : Option FieldType} {ci index n : Nat} {r : Option Nat} {As : List Value} {ro : Option (((Nat × Nat) ⊕ Int64) × PH)} {K : ((Nat × Nat) ⊕ Int64) → PH → Option β} (hc : clA[ci]? = some (C, T, N)) (hG : GoodIn lw_all (wsV I.2.2.1 index C y (ws_ y cc2 nL2 rt2))) (hdy : y.cls = C ∧ y.cls ≠ "java/lang/invoke/MethodHandle" ∧ y.cls ≠ "java/lang/invoke/VarHandle" ∧ (parseMethodDescriptor y.desc).map (fun d => d.parameters.length) = some n) (hfr : Nat.ble (fr2 + 1) I.2.2.2.2.2.1 = true) (hlo : Nat.ble (8 + (nL2 + 11) + lo2) I.2.2.2.2.2.2.1 = true) (hn : As.length = n) (hW : (rest.map fun v => v.category).sum ≤ 8) (hd : decode I.1 pc = .ok (.invokevirtual index, 3)) (hct : ∀ (l : Launch), l.stackTraces = false → ∀ (x : (Nat × Nat) ⊕ Int64) (h1 : PH), ro = some (x, h1) → CT l D y (ws_ y cc2 nL2 rt2) fr2 lo2 (va_rf r :: As) h (oxl x) h1) (hf : rv_ h r ci (cl_ ro K) = some o) (st0 : List Value) (hst : st0 = As.reverse ++ va_rf r :: rest)
    (kk : ∀ (x : Int64) (h1 : PH), K (.inr x) h1 = some o → PF Γ I D h0 Q h1 (pc + 3) vs (.long x :: rest)) (kx : ∀ (ci q : Nat) (h1 : PH) (fs : List Value), h1.1 q = some (.inr (ci, fs)) → K (.inl (ci, q)) h1 = some o → PX Γ I D h0 Q h1 pc vs q) : PF Γ I D h0 Q h pc vs st0 :=
  j_callV hc hG hdy hfr hlo hn hW hd hct hf (fun x h1 rv e h9 => by
    cases x with
    | inl q => cases e
    | inr v => cases e; exact kk v h1 h9) (fun x h1 ci q fs e h8 h9 => by
    cases x with
    | inl z => cases e; exact kx ci q h1 fs h8 h9
    | inr v => cases e) st0 hst
theorem j_cVr {y : MethodName} {C : String} {T : u_T} {N : Nat} {cc2 : ByteArray} {nL2 fr2 lo2 : Nat} {rt2 : Option FieldType} {ci index n : Nat} {r : Option Nat} {As : List Value} {ro : Option (Option Nat × PH)} {K : Option Nat → PH → Option β} (hc : clA[ci]? = some (C, T, N)) (hG : GoodIn lw_all (wsV I.2.2.1 index C y (ws_ y cc2 nL2 rt2))) (hdy : y.cls = C ∧ y.cls ≠ "java/lang/invoke/MethodHandle" ∧ y.cls ≠ "java/lang/invoke/VarHandle" ∧ (parseMethodDescriptor y.desc).map (fun d => d.parameters.length) = some n) (hfr : Nat.ble (fr2 + 1) I.2.2.2.2.2.1 = true) (hlo : Nat.ble (8 + (nL2 + 11) + lo2) I.2.2.2.2.2.2.1 = true) (hn : As.length = n) (hW : (rest.map fun v => v.category).sum ≤ 8) (hd : decode I.1 pc = .ok (.invokevirtual index, 3)) (hct : ∀ (l : Launch), l.stackTraces = false → ∀ (x : Option Nat) (h1 : PH), ro = some (x, h1) → CT l D y (ws_ y cc2 nL2 rt2) fr2 lo2 (va_rf r :: As) h (ovr x) h1) (hf : rv_ h r ci (cl_ ro K) = some o) (st0 : List Value) (hst : st0 = As.reverse ++ va_rf r :: rest)
    (kk : ∀ (x : Option Nat) (h1 : PH), K x h1 = some o → PF Γ I D h0 Q h1 (pc + 3) vs (va_rf x :: rest)) : PF Γ I D h0 Q h pc vs st0 :=
  j_callV hc hG hdy hfr hlo hn hW hd hct hf (fun x h1 rv e h9 => by cases e; exact kk x h1 h9) (fun x h1 ci q fs e => by cases e) st0 hst
theorem j_xVr {y : MethodName} {C : String} {T : u_T} {N : Nat} {cc2 : ByteArray} {nL2 fr2 lo2 : Nat} {rt2 : Option FieldType} {ci index n : Nat} {r : Option Nat} {As : List Value} {ro : Option (((Nat × Nat) ⊕ Option Nat) × PH)} {K : ((Nat × Nat) ⊕ Option Nat) → PH → Option β} (hc : clA[ci]? = some (C, T, N)) (hG : GoodIn lw_all (wsV I.2.2.1 index C y (ws_ y cc2 nL2 rt2))) (hdy : y.cls = C ∧ y.cls ≠ "java/lang/invoke/MethodHandle" ∧ y.cls ≠ "java/lang/invoke/VarHandle" ∧ (parseMethodDescriptor y.desc).map (fun d => d.parameters.length) = some n) (hfr : Nat.ble (fr2 + 1) I.2.2.2.2.2.1 = true) (hlo : Nat.ble (8 + (nL2 + 11) + lo2) I.2.2.2.2.2.2.1 = true) (hn : As.length = n) (hW : (rest.map fun v => v.category).sum ≤ 8) (hd : decode I.1 pc = .ok (.invokevirtual index, 3)) (hct : ∀ (l : Launch), l.stackTraces = false → ∀ (x : (Nat × Nat) ⊕ Option Nat) (h1 : PH), ro = some (x, h1) → CT l D y (ws_ y cc2 nL2 rt2) fr2 lo2 (va_rf r :: As) h (oxr x) h1) (hf : rv_ h r ci (cl_ ro K) = some o) (st0 : List Value) (hst : st0 = As.reverse ++ va_rf r :: rest)
    (kk : ∀ (x : Option Nat) (h1 : PH), K (.inr x) h1 = some o → PF Γ I D h0 Q h1 (pc + 3) vs (va_rf x :: rest)) (kx : ∀ (ci q : Nat) (h1 : PH) (fs : List Value), h1.1 q = some (.inr (ci, fs)) → K (.inl (ci, q)) h1 = some o → PX Γ I D h0 Q h1 pc vs q) : PF Γ I D h0 Q h pc vs st0 :=
  j_callV hc hG hdy hfr hlo hn hW hd hct hf (fun x h1 rv e h9 => by
    cases x with
    | inl q => cases e
    | inr v => cases e; exact kk v h1 h9) (fun x h1 ci q fs e h8 h9 => by
    cases x with
    | inl z => cases e; exact kx ci q h1 fs h8 h9
    | inr v => cases e) st0 hst
theorem j_cVv {y : MethodName} {C : String} {T : u_T} {N : Nat} {cc2 : ByteArray} {nL2 fr2 lo2 : Nat} {rt2 : Option FieldType} {ci index n : Nat} {r : Option Nat} {As : List Value} {ro : Option (Unit × PH)} {K : Unit → PH → Option β} (hc : clA[ci]? = some (C, T, N)) (hG : GoodIn lw_all (wsV I.2.2.1 index C y (ws_ y cc2 nL2 rt2))) (hdy : y.cls = C ∧ y.cls ≠ "java/lang/invoke/MethodHandle" ∧ y.cls ≠ "java/lang/invoke/VarHandle" ∧ (parseMethodDescriptor y.desc).map (fun d => d.parameters.length) = some n) (hfr : Nat.ble (fr2 + 1) I.2.2.2.2.2.1 = true) (hlo : Nat.ble (8 + (nL2 + 11) + lo2) I.2.2.2.2.2.2.1 = true) (hn : As.length = n) (hW : (rest.map fun v => v.category).sum ≤ 8) (hd : decode I.1 pc = .ok (.invokevirtual index, 3)) (hct : ∀ (l : Launch), l.stackTraces = false → ∀ (x : Unit) (h1 : PH), ro = some (x, h1) → CT l D y (ws_ y cc2 nL2 rt2) fr2 lo2 (va_rf r :: As) h (ovv x) h1) (hf : rv_ h r ci (cl_ ro K) = some o) (st0 : List Value) (hst : st0 = As.reverse ++ va_rf r :: rest)
    (kk : ∀ (x : Unit) (h1 : PH), K x h1 = some o → PF Γ I D h0 Q h1 (pc + 3) vs (rest)) : PF Γ I D h0 Q h pc vs st0 :=
  j_callV hc hG hdy hfr hlo hn hW hd hct hf (fun x h1 rv e h9 => by cases e; exact kk x h1 h9) (fun x h1 ci q fs e => by cases e) st0 hst
theorem j_xVv {y : MethodName} {C : String} {T : u_T} {N : Nat} {cc2 : ByteArray} {nL2 fr2 lo2 : Nat} {rt2 : Option FieldType} {ci index n : Nat} {r : Option Nat} {As : List Value} {ro : Option (((Nat × Nat) ⊕ Unit) × PH)} {K : ((Nat × Nat) ⊕ Unit) → PH → Option β} (hc : clA[ci]? = some (C, T, N)) (hG : GoodIn lw_all (wsV I.2.2.1 index C y (ws_ y cc2 nL2 rt2))) (hdy : y.cls = C ∧ y.cls ≠ "java/lang/invoke/MethodHandle" ∧ y.cls ≠ "java/lang/invoke/VarHandle" ∧ (parseMethodDescriptor y.desc).map (fun d => d.parameters.length) = some n) (hfr : Nat.ble (fr2 + 1) I.2.2.2.2.2.1 = true) (hlo : Nat.ble (8 + (nL2 + 11) + lo2) I.2.2.2.2.2.2.1 = true) (hn : As.length = n) (hW : (rest.map fun v => v.category).sum ≤ 8) (hd : decode I.1 pc = .ok (.invokevirtual index, 3)) (hct : ∀ (l : Launch), l.stackTraces = false → ∀ (x : (Nat × Nat) ⊕ Unit) (h1 : PH), ro = some (x, h1) → CT l D y (ws_ y cc2 nL2 rt2) fr2 lo2 (va_rf r :: As) h (oxv x) h1) (hf : rv_ h r ci (cl_ ro K) = some o) (st0 : List Value) (hst : st0 = As.reverse ++ va_rf r :: rest)
    (kk : ∀ (x : Unit) (h1 : PH), K (.inr x) h1 = some o → PF Γ I D h0 Q h1 (pc + 3) vs (rest)) (kx : ∀ (ci q : Nat) (h1 : PH) (fs : List Value), h1.1 q = some (.inr (ci, fs)) → K (.inl (ci, q)) h1 = some o → PX Γ I D h0 Q h1 pc vs q) : PF Γ I D h0 Q h pc vs st0 :=
  j_callV hc hG hdy hfr hlo hn hW hd hct hf (fun x h1 rv e h9 => by
    cases x with
    | inl q => cases e
    | inr v => cases e; exact kk v h1 h9) (fun x h1 ci q fs e h8 h9 => by
    cases x with
    | inl z => cases e; exact kx ci q h1 fs h8 h9
    | inr v => cases e) st0 hst
theorem j_cSi {y : MethodName} {cc2 : ByteArray} {nL2 fr2 lo2 : Nat} {rt2 : Option FieldType} {index n : Nat} {As : List Value} {ro : Option (Int32 × PH)} {K : Int32 → PH → Option β} (hG : GoodIn lw_all (va_wsS I.2.2.1 index y (ws_ y cc2 nL2 rt2))) (hdy : y.cls ≠ "java/lang/invoke/MethodHandle" ∧ y.cls ≠ "java/lang/invoke/VarHandle" ∧ (parseMethodDescriptor y.desc).map (fun d => d.parameters.length) = some n) (hfr : Nat.ble (fr2 + 1) I.2.2.2.2.2.1 = true) (hlo : Nat.ble (8 + (nL2 + 11) + lo2) I.2.2.2.2.2.2.1 = true) (hn : As.length = n) (hW : (rest.map fun v => v.category).sum ≤ 8) (hd : decode I.1 pc = .ok (.invokestatic index, 3)) (hct : ∀ (l : Launch), l.stackTraces = false → ∀ (x : Int32) (h1 : PH), ro = some (x, h1) → CT l D y (ws_ y cc2 nL2 rt2) fr2 lo2 As h (ovi x) h1) (hf : cl_ ro K = some o) (st0 : List Value) (hst : st0 = As.reverse ++ rest)
    (kk : ∀ (x : Int32) (h1 : PH), K x h1 = some o → PF Γ I D h0 Q h1 (pc + 3) vs (.int x :: rest)) : PF Γ I D h0 Q h pc vs st0 :=
  j_callS hG hdy hfr hlo hn hW hd hct hf (fun x h1 rv e h9 => by cases e; exact kk x h1 h9) (fun x h1 ci q fs e => by cases e) st0 hst
theorem j_xSi {y : MethodName} {cc2 : ByteArray} {nL2 fr2 lo2 : Nat} {rt2 : Option FieldType} {index n : Nat} {As : List Value} {ro : Option (((Nat × Nat) ⊕ Int32) × PH)} {K : ((Nat × Nat) ⊕ Int32) → PH → Option β} (hG : GoodIn lw_all (va_wsS I.2.2.1 index y (ws_ y cc2 nL2 rt2))) (hdy : y.cls ≠ "java/lang/invoke/MethodHandle" ∧ y.cls ≠ "java/lang/invoke/VarHandle" ∧ (parseMethodDescriptor y.desc).map (fun d => d.parameters.length) = some n) (hfr : Nat.ble (fr2 + 1) I.2.2.2.2.2.1 = true) (hlo : Nat.ble (8 + (nL2 + 11) + lo2) I.2.2.2.2.2.2.1 = true) (hn : As.length = n) (hW : (rest.map fun v => v.category).sum ≤ 8) (hd : decode I.1 pc = .ok (.invokestatic index, 3)) (hct : ∀ (l : Launch), l.stackTraces = false → ∀ (x : (Nat × Nat) ⊕ Int32) (h1 : PH), ro = some (x, h1) → CT l D y (ws_ y cc2 nL2 rt2) fr2 lo2 As h (oxi x) h1) (hf : cl_ ro K = some o) (st0 : List Value) (hst : st0 = As.reverse ++ rest)
    (kk : ∀ (x : Int32) (h1 : PH), K (.inr x) h1 = some o → PF Γ I D h0 Q h1 (pc + 3) vs (.int x :: rest)) (kx : ∀ (ci q : Nat) (h1 : PH) (fs : List Value), h1.1 q = some (.inr (ci, fs)) → K (.inl (ci, q)) h1 = some o → PX Γ I D h0 Q h1 pc vs q) : PF Γ I D h0 Q h pc vs st0 :=
  j_callS hG hdy hfr hlo hn hW hd hct hf (fun x h1 rv e h9 => by
    cases x with
    | inl q => cases e
    | inr v => cases e; exact kk v h1 h9) (fun x h1 ci q fs e h8 h9 => by
    cases x with
    | inl z => cases e; exact kx ci q h1 fs h8 h9
    | inr v => cases e) st0 hst
theorem j_cSl {y : MethodName} {cc2 : ByteArray} {nL2 fr2 lo2 : Nat} {rt2 : Option FieldType} {index n : Nat} {As : List Value} {ro : Option (Int64 × PH)} {K : Int64 → PH → Option β} (hG : GoodIn lw_all (va_wsS I.2.2.1 index y (ws_ y cc2 nL2 rt2))) (hdy : y.cls ≠ "java/lang/invoke/MethodHandle" ∧ y.cls ≠ "java/lang/invoke/VarHandle" ∧ (parseMethodDescriptor y.desc).map (fun d => d.parameters.length) = some n) (hfr : Nat.ble (fr2 + 1) I.2.2.2.2.2.1 = true) (hlo : Nat.ble (8 + (nL2 + 11) + lo2) I.2.2.2.2.2.2.1 = true) (hn : As.length = n) (hW : (rest.map fun v => v.category).sum ≤ 8) (hd : decode I.1 pc = .ok (.invokestatic index, 3)) (hct : ∀ (l : Launch), l.stackTraces = false → ∀ (x : Int64) (h1 : PH), ro = some (x, h1) → CT l D y (ws_ y cc2 nL2 rt2) fr2 lo2 As h (ovl x) h1) (hf : cl_ ro K = some o) (st0 : List Value) (hst : st0 = As.reverse ++ rest)
    (kk : ∀ (x : Int64) (h1 : PH), K x h1 = some o → PF Γ I D h0 Q h1 (pc + 3) vs (.long x :: rest)) : PF Γ I D h0 Q h pc vs st0 :=
  j_callS hG hdy hfr hlo hn hW hd hct hf (fun x h1 rv e h9 => by cases e; exact kk x h1 h9) (fun x h1 ci q fs e => by cases e) st0 hst
theorem j_xSl {y : MethodName} {cc2 : ByteArray} {nL2 fr2 lo2 : Nat} {rt2 : Option FieldType} {index n : Nat} {As : List Value} {ro : Option (((Nat × Nat) ⊕ Int64) × PH)} {K : ((Nat × Nat) ⊕ Int64) → PH → Option β} (hG : GoodIn lw_all (va_wsS I.2.2.1 index y (ws_ y cc2 nL2 rt2))) (hdy : y.cls ≠ "java/lang/invoke/MethodHandle" ∧ y.cls ≠ "java/lang/invoke/VarHandle" ∧ (parseMethodDescriptor y.desc).map (fun d => d.parameters.length) = some n) (hfr : Nat.ble (fr2 + 1) I.2.2.2.2.2.1 = true) (hlo : Nat.ble (8 + (nL2 + 11) + lo2) I.2.2.2.2.2.2.1 = true) (hn : As.length = n) (hW : (rest.map fun v => v.category).sum ≤ 8) (hd : decode I.1 pc = .ok (.invokestatic index, 3)) (hct : ∀ (l : Launch), l.stackTraces = false → ∀ (x : (Nat × Nat) ⊕ Int64) (h1 : PH), ro = some (x, h1) → CT l D y (ws_ y cc2 nL2 rt2) fr2 lo2 As h (oxl x) h1) (hf : cl_ ro K = some o) (st0 : List Value) (hst : st0 = As.reverse ++ rest)
    (kk : ∀ (x : Int64) (h1 : PH), K (.inr x) h1 = some o → PF Γ I D h0 Q h1 (pc + 3) vs (.long x :: rest)) (kx : ∀ (ci q : Nat) (h1 : PH) (fs : List Value), h1.1 q = some (.inr (ci, fs)) → K (.inl (ci, q)) h1 = some o → PX Γ I D h0 Q h1 pc vs q) : PF Γ I D h0 Q h pc vs st0 :=
  j_callS hG hdy hfr hlo hn hW hd hct hf (fun x h1 rv e h9 => by
    cases x with
    | inl q => cases e
    | inr v => cases e; exact kk v h1 h9) (fun x h1 ci q fs e h8 h9 => by
    cases x with
    | inl z => cases e; exact kx ci q h1 fs h8 h9
    | inr v => cases e) st0 hst
theorem j_cSr {y : MethodName} {cc2 : ByteArray} {nL2 fr2 lo2 : Nat} {rt2 : Option FieldType} {index n : Nat} {As : List Value} {ro : Option (Option Nat × PH)} {K : Option Nat → PH → Option β} (hG : GoodIn lw_all (va_wsS I.2.2.1 index y (ws_ y cc2 nL2 rt2))) (hdy : y.cls ≠ "java/lang/invoke/MethodHandle" ∧ y.cls ≠ "java/lang/invoke/VarHandle" ∧ (parseMethodDescriptor y.desc).map (fun d => d.parameters.length) = some n) (hfr : Nat.ble (fr2 + 1) I.2.2.2.2.2.1 = true) (hlo : Nat.ble (8 + (nL2 + 11) + lo2) I.2.2.2.2.2.2.1 = true) (hn : As.length = n) (hW : (rest.map fun v => v.category).sum ≤ 8) (hd : decode I.1 pc = .ok (.invokestatic index, 3)) (hct : ∀ (l : Launch), l.stackTraces = false → ∀ (x : Option Nat) (h1 : PH), ro = some (x, h1) → CT l D y (ws_ y cc2 nL2 rt2) fr2 lo2 As h (ovr x) h1) (hf : cl_ ro K = some o) (st0 : List Value) (hst : st0 = As.reverse ++ rest)
    (kk : ∀ (x : Option Nat) (h1 : PH), K x h1 = some o → PF Γ I D h0 Q h1 (pc + 3) vs (va_rf x :: rest)) : PF Γ I D h0 Q h pc vs st0 :=
  j_callS hG hdy hfr hlo hn hW hd hct hf (fun x h1 rv e h9 => by cases e; exact kk x h1 h9) (fun x h1 ci q fs e => by cases e) st0 hst
theorem j_xSr {y : MethodName} {cc2 : ByteArray} {nL2 fr2 lo2 : Nat} {rt2 : Option FieldType} {index n : Nat} {As : List Value} {ro : Option (((Nat × Nat) ⊕ Option Nat) × PH)} {K : ((Nat × Nat) ⊕ Option Nat) → PH → Option β} (hG : GoodIn lw_all (va_wsS I.2.2.1 index y (ws_ y cc2 nL2 rt2))) (hdy : y.cls ≠ "java/lang/invoke/MethodHandle" ∧ y.cls ≠ "java/lang/invoke/VarHandle" ∧ (parseMethodDescriptor y.desc).map (fun d => d.parameters.length) = some n) (hfr : Nat.ble (fr2 + 1) I.2.2.2.2.2.1 = true) (hlo : Nat.ble (8 + (nL2 + 11) + lo2) I.2.2.2.2.2.2.1 = true) (hn : As.length = n) (hW : (rest.map fun v => v.category).sum ≤ 8) (hd : decode I.1 pc = .ok (.invokestatic index, 3)) (hct : ∀ (l : Launch), l.stackTraces = false → ∀ (x : (Nat × Nat) ⊕ Option Nat) (h1 : PH), ro = some (x, h1) → CT l D y (ws_ y cc2 nL2 rt2) fr2 lo2 As h (oxr x) h1) (hf : cl_ ro K = some o) (st0 : List Value) (hst : st0 = As.reverse ++ rest)
    (kk : ∀ (x : Option Nat) (h1 : PH), K (.inr x) h1 = some o → PF Γ I D h0 Q h1 (pc + 3) vs (va_rf x :: rest)) (kx : ∀ (ci q : Nat) (h1 : PH) (fs : List Value), h1.1 q = some (.inr (ci, fs)) → K (.inl (ci, q)) h1 = some o → PX Γ I D h0 Q h1 pc vs q) : PF Γ I D h0 Q h pc vs st0 :=
  j_callS hG hdy hfr hlo hn hW hd hct hf (fun x h1 rv e h9 => by
    cases x with
    | inl q => cases e
    | inr v => cases e; exact kk v h1 h9) (fun x h1 ci q fs e h8 h9 => by
    cases x with
    | inl z => cases e; exact kx ci q h1 fs h8 h9
    | inr v => cases e) st0 hst
theorem j_cSv {y : MethodName} {cc2 : ByteArray} {nL2 fr2 lo2 : Nat} {rt2 : Option FieldType} {index n : Nat} {As : List Value} {ro : Option (Unit × PH)} {K : Unit → PH → Option β} (hG : GoodIn lw_all (va_wsS I.2.2.1 index y (ws_ y cc2 nL2 rt2))) (hdy : y.cls ≠ "java/lang/invoke/MethodHandle" ∧ y.cls ≠ "java/lang/invoke/VarHandle" ∧ (parseMethodDescriptor y.desc).map (fun d => d.parameters.length) = some n) (hfr : Nat.ble (fr2 + 1) I.2.2.2.2.2.1 = true) (hlo : Nat.ble (8 + (nL2 + 11) + lo2) I.2.2.2.2.2.2.1 = true) (hn : As.length = n) (hW : (rest.map fun v => v.category).sum ≤ 8) (hd : decode I.1 pc = .ok (.invokestatic index, 3)) (hct : ∀ (l : Launch), l.stackTraces = false → ∀ (x : Unit) (h1 : PH), ro = some (x, h1) → CT l D y (ws_ y cc2 nL2 rt2) fr2 lo2 As h (ovv x) h1) (hf : cl_ ro K = some o) (st0 : List Value) (hst : st0 = As.reverse ++ rest)
    (kk : ∀ (x : Unit) (h1 : PH), K x h1 = some o → PF Γ I D h0 Q h1 (pc + 3) vs (rest)) : PF Γ I D h0 Q h pc vs st0 :=
  j_callS hG hdy hfr hlo hn hW hd hct hf (fun x h1 rv e h9 => by cases e; exact kk x h1 h9) (fun x h1 ci q fs e => by cases e) st0 hst
theorem j_xSv {y : MethodName} {cc2 : ByteArray} {nL2 fr2 lo2 : Nat} {rt2 : Option FieldType} {index n : Nat} {As : List Value} {ro : Option (((Nat × Nat) ⊕ Unit) × PH)} {K : ((Nat × Nat) ⊕ Unit) → PH → Option β} (hG : GoodIn lw_all (va_wsS I.2.2.1 index y (ws_ y cc2 nL2 rt2))) (hdy : y.cls ≠ "java/lang/invoke/MethodHandle" ∧ y.cls ≠ "java/lang/invoke/VarHandle" ∧ (parseMethodDescriptor y.desc).map (fun d => d.parameters.length) = some n) (hfr : Nat.ble (fr2 + 1) I.2.2.2.2.2.1 = true) (hlo : Nat.ble (8 + (nL2 + 11) + lo2) I.2.2.2.2.2.2.1 = true) (hn : As.length = n) (hW : (rest.map fun v => v.category).sum ≤ 8) (hd : decode I.1 pc = .ok (.invokestatic index, 3)) (hct : ∀ (l : Launch), l.stackTraces = false → ∀ (x : (Nat × Nat) ⊕ Unit) (h1 : PH), ro = some (x, h1) → CT l D y (ws_ y cc2 nL2 rt2) fr2 lo2 As h (oxv x) h1) (hf : cl_ ro K = some o) (st0 : List Value) (hst : st0 = As.reverse ++ rest)
    (kk : ∀ (x : Unit) (h1 : PH), K (.inr x) h1 = some o → PF Γ I D h0 Q h1 (pc + 3) vs (rest)) (kx : ∀ (ci q : Nat) (h1 : PH) (fs : List Value), h1.1 q = some (.inr (ci, fs)) → K (.inl (ci, q)) h1 = some o → PX Γ I D h0 Q h1 pc vs q) : PF Γ I D h0 Q h pc vs st0 :=
  j_callS hG hdy hfr hlo hn hW hd hct hf (fun x h1 rv e h9 => by
    cases x with
    | inl q => cases e
    | inr v => cases e; exact kk v h1 h9) (fun x h1 ci q fs e h8 h9 => by
    cases x with
    | inl z => cases e; exact kx ci q h1 fs h8 h9
    | inr v => cases e) st0 hst
theorem j_cIv {y : MethodName} {cc2 : ByteArray} {nL2 fr2 lo2 : Nat} {index n : Nat} {r : Option Nat} {As : List Value} {ro : Option (Unit × PH)} {K : Unit → PH → Option β} (hG : GoodIn lw_all (ws_ y cc2 nL2 none)) (hini : Cond.initialized y.cls ∈ lw_all) (hlk : Cond.methodLink I.2.2.1 index y ∈ lw_all) (him : Cond.instanceMethod y ∈ lw_all) (hy1 : y.name = "<init>") (hdy : y.cls ≠ "java/lang/invoke/MethodHandle" ∧ y.cls ≠ "java/lang/invoke/VarHandle" ∧ (parseMethodDescriptor y.desc).map (fun d => d.parameters.length) = some n) (hfr : Nat.ble (fr2 + 1) I.2.2.2.2.2.1 = true) (hlo : Nat.ble (8 + (nL2 + 11) + lo2) I.2.2.2.2.2.2.1 = true) (hn : As.length = n) (hW : (rest.map fun v => v.category).sum ≤ 8) (hd : decode I.1 pc = .ok (.invokespecial index, 3)) (hct : ∀ (l : Launch), l.stackTraces = false → ∀ (x : Unit) (h1 : PH), ro = some (x, h1) → CT l D y (ws_ y cc2 nL2 none) fr2 lo2 (va_rf r :: As) h (ovv x) h1) (hr : ∃ a, r = some a) (hf : cl_ ro K = some o) (st0 : List Value) (hst : st0 = As.reverse ++ va_rf r :: rest)
    (kk : ∀ (x : Unit) (h1 : PH), K x h1 = some o → PF Γ I D h0 Q h1 (pc + 3) vs (rest)) : PF Γ I D h0 Q h pc vs st0 :=
  j_callI hG hini hlk him hy1 hdy hfr hlo hn hW hd hct hr hf (fun x h1 rv e h9 => by cases e; exact kk x h1 h9) (fun x h1 ci q fs e => by cases e) st0 hst
theorem j_xIv {y : MethodName} {cc2 : ByteArray} {nL2 fr2 lo2 : Nat} {index n : Nat} {r : Option Nat} {As : List Value} {ro : Option (((Nat × Nat) ⊕ Unit) × PH)} {K : ((Nat × Nat) ⊕ Unit) → PH → Option β} (hG : GoodIn lw_all (ws_ y cc2 nL2 none)) (hini : Cond.initialized y.cls ∈ lw_all) (hlk : Cond.methodLink I.2.2.1 index y ∈ lw_all) (him : Cond.instanceMethod y ∈ lw_all) (hy1 : y.name = "<init>") (hdy : y.cls ≠ "java/lang/invoke/MethodHandle" ∧ y.cls ≠ "java/lang/invoke/VarHandle" ∧ (parseMethodDescriptor y.desc).map (fun d => d.parameters.length) = some n) (hfr : Nat.ble (fr2 + 1) I.2.2.2.2.2.1 = true) (hlo : Nat.ble (8 + (nL2 + 11) + lo2) I.2.2.2.2.2.2.1 = true) (hn : As.length = n) (hW : (rest.map fun v => v.category).sum ≤ 8) (hd : decode I.1 pc = .ok (.invokespecial index, 3)) (hct : ∀ (l : Launch), l.stackTraces = false → ∀ (x : (Nat × Nat) ⊕ Unit) (h1 : PH), ro = some (x, h1) → CT l D y (ws_ y cc2 nL2 none) fr2 lo2 (va_rf r :: As) h (oxv x) h1) (hr : ∃ a, r = some a) (hf : cl_ ro K = some o) (st0 : List Value) (hst : st0 = As.reverse ++ va_rf r :: rest)
    (kk : ∀ (x : Unit) (h1 : PH), K (.inr x) h1 = some o → PF Γ I D h0 Q h1 (pc + 3) vs (rest)) (kx : ∀ (ci q : Nat) (h1 : PH) (fs : List Value), h1.1 q = some (.inr (ci, fs)) → K (.inl (ci, q)) h1 = some o → PX Γ I D h0 Q h1 pc vs q) : PF Γ I D h0 Q h pc vs st0 :=
  j_callI hG hini hlk him hy1 hdy hfr hlo hn hW hd hct hr hf (fun x h1 rv e h9 => by
    cases x with
    | inl q => cases e
    | inr v => cases e; exact kk v h1 h9) (fun x h1 ci q fs e h8 h9 => by
    cases x with
    | inl z => cases e; exact kx ci q h1 fs h8 h9
    | inr v => cases e) st0 hst
end JK2
/-- fewer locals -/
def Wk (vs vs' : List (Option Value)) : Prop := ∀ (i : Nat) (v : Value), vs'[i]? = some (some v) → vs[i]? = some (some v)
theorem Wk.n {vs : List (Option Value)} : Wk vs [] := fun i v h => by cases h
theorem Wk.s {vs vs' : List (Option Value)} {x : Option Value} (h : Wk vs vs') : Wk (x :: vs) (none :: vs') := fun i v e => by
  cases i with
  | zero => cases e
  | succ i => exact h i v e
theorem Wk.k {vs vs' : List (Option Value)} {x : Option Value} (h : Wk vs vs') : Wk (x :: vs) (x :: vs') := fun i v e => by
  cases i with
  | zero => exact e
  | succ i => exact h i v e
/-- how long a loop may run on the plain side -/
def FU : Nat := 1000000000000
theorem nar_z (x : Int32) (h : vp_nar .boolean x = x) : narrow .boolean (.int x) = .int x := congrArg Value.int h
theorem nar_b (x : Int32) (h : vp_nar .byte x = x) : narrow .byte (.int x) = .int x := congrArg Value.int h
theorem nar_c (x : Int32) (h : vp_nar .char x = x) : narrow .char (.int x) = .int x := congrArg Value.int h
