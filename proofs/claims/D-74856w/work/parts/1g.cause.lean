/-! Throwable.getCause (synchronized), WALKED IN PLACE -/
set_option maxRecDepth 100000
section GC
abbrev gcN : MethodName := ⟨"java/lang/Throwable", "getCause", "()Ljava/lang/Throwable;"⟩
abbrev gcB : ByteArray := prog_46_method_8_code
theorem gc0 : decode gcB 0 = .ok (.aload_n 0, 1) := by decide +kernel
theorem gc1 : decode gcB 1 = .ok (.getfield 7, 3) := by decide +kernel
theorem gc4 : decode gcB 4 = .ok (.aload_n 0, 1) := by decide +kernel
theorem gc5 : decode gcB 5 = .ok (.if_acmp .ne 7, 3) := by decide +kernel
theorem gc8 : decode gcB 8 = .ok (.aconst_null, 1) := by decide +kernel
theorem gc9 : decode gcB 9 = .ok (.goto 7, 3) := by decide +kernel
theorem gc12 : decode gcB 12 = .ok (.aload_n 0, 1) := by decide +kernel
theorem gc13 : decode gcB 13 = .ok (.getfield 7, 3) := by decide +kernel
theorem gc16 : decode gcB 16 = .ok (.areturn, 1) := by decide +kernel
def gcF (a : Nat) (v : Option Nat) : Option Nat := if v = some a then none else v
def FS (m : MethodId) (a : Addr) (pc : Nat) (st : List Value) : JFrame := { method := m, pc := pc, locals := #[.val (.ref a)], stack := st, locked := some a, monitorRoom := 1 }
theorem gc_hb {c : Code} {pc : Nat} {r} (hb : c.code = gcB) (h : decode gcB pc = r) : decode c.code pc = r := by rw [hb]; exact h
theorem og_aload {tb : Tables} [Ours tb] {e : Env} {below : List Frame} {T target : State} {m : MethodId} {c : Code} (h : At T m c below) (hx : tb.exec = Jvm.exec) {pc : Nat} {st : List Value} {a : Addr} (hd : decode c.code pc = .ok (.aload_n 0, 1))
    (hr : Steps tb e below (T.setTop (FS m a (pc + 1) (.ref a :: st))) target) : Steps tb e below (T.setTop (FS m a pc st)) target := by
  unfold FS at *
  have hl : (#[.val (.ref a)] : Array Slot)[(0 : Fin 4).val]? = some (.val (.ref a)) := rfl
  jvm_step h [h.top, hx, hd, hl, Value.isRef]
  exact hr
theorem og_null {tb : Tables} [Ours tb] {e : Env} {below : List Frame} {T target : State} {m : MethodId} {c : Code} (h : At T m c below) (hx : tb.exec = Jvm.exec) {pc : Nat} {st : List Value} {a : Addr} (hd : decode c.code pc = .ok (.aconst_null, 1))
    (hr : Steps tb e below (T.setTop (FS m a (pc + 1) (.null :: st))) target) : Steps tb e below (T.setTop (FS m a pc st)) target := by
  unfold FS at *
  jvm_step h [h.top, hx, hd, Op.aconst_null.sem]
  exact hr
theorem og_goto {tb : Tables} [Ours tb] {e : Env} {below : List Frame} {T target : State} {m : MethodId} {c : Code} (h : At T m c below) (hx : tb.exec = Jvm.exec) {pc : Nat} {st : List Value} {a : Addr} {o : Int} {pc1 : Nat} (h0 : 0 ≤ (pc : Int) + o) (h1 : ((pc : Int) + o).toNat = pc1) (hd : decode c.code pc = .ok (.goto o, 3))
    (hr : Steps tb e below (T.setTop (FS m a pc1 st)) target) : Steps tb e below (T.setTop (FS m a pc st)) target := by
  unfold FS at *
  jvm_step h [h.top, hx, hd, h0, h1]
  exact hr
theorem og_neN {tb : Tables} [Ours tb] {e : Env} {below : List Frame} {T target : State} {m : MethodId} {c : Code} (h : At T m c below) (hx : tb.exec = Jvm.exec) {pc : Nat} {st : List Value} {a : Addr} {o : Int} {pc1 : Nat} {b : Addr} (h0 : 0 ≤ (pc : Int) + o) (h1 : ((pc : Int) + o).toNat = pc1) (hd : decode c.code pc = .ok (.if_acmp .ne o, 3))
    (hr : Steps tb e below (T.setTop (FS m a pc1 st)) target) : Steps tb e below (T.setTop (FS m a pc (.ref b :: .null :: st))) target := by
  unfold FS at *
  jvm_step h [h.top, hx, hd, h0, h1, if_acmp.holds, Value.asRef?]
  exact hr
theorem og_neD {tb : Tables} [Ours tb] {e : Env} {below : List Frame} {T target : State} {m : MethodId} {c : Code} (h : At T m c below) (hx : tb.exec = Jvm.exec) {pc : Nat} {st : List Value} {a : Addr} {o : Int} {pc1 : Nat} {b d : Addr} (hq : ¬ d = b) (h0 : 0 ≤ (pc : Int) + o) (h1 : ((pc : Int) + o).toNat = pc1) (hd : decode c.code pc = .ok (.if_acmp .ne o, 3))
    (hr : Steps tb e below (T.setTop (FS m a pc1 st)) target) : Steps tb e below (T.setTop (FS m a pc (.ref b :: .ref d :: st))) target := by
  unfold FS at *
  jvm_step h [h.top, hx, hd, h0, h1, if_acmp.holds, Value.asRef?, hq]
  exact hr
theorem og_neE {tb : Tables} [Ours tb] {e : Env} {below : List Frame} {T target : State} {m : MethodId} {c : Code} (h : At T m c below) (hx : tb.exec = Jvm.exec) {pc : Nat} {st : List Value} {a : Addr} {o : Int} {b : Addr} (hd : decode c.code pc = .ok (.if_acmp .ne o, 3))
    (hr : Steps tb e below (T.setTop (FS m a (pc + 3) st)) target) : Steps tb e below (T.setTop (FS m a pc (.ref b :: .ref b :: st))) target := by
  unfold FS at *
  jvm_step h [h.top, hx, hd, if_acmp.holds, Value.asRef?]
  exact hr
theorem og_aret {tb : Tables} [Ours tb] {e : Env} {below : List Frame} {T target : State} {m : MethodId} {c : Code} (h : At T m c below) (hx : tb.exec = Jvm.exec) {pc : Nat} {a : Addr} {r : Option Nat} {mE : Method} (hd : decode c.code pc = .ok (.areturn, 1)) (hm : T.vm.method? m = some mE) (hr : mE.sig.returnType = some (.object "java/lang/Throwable"))
    (hrest : ∀ acts : List Action, Steps tb e below (doReturn e (T.setTop (FS m a pc [])) acts (some (va_rf r))).1 target) : Steps tb e below (T.setTop (FS m a pc [va_rf r])) target := by
  unfold FS at *
  cases r with
  | none =>
    jvm_step h [h.top, hx, hd, hm, hr, va_rf, areturn.wp_sem, Value.isRef, FieldType.isReference]
    exact fun acts => hrest acts
  | some b =>
    jvm_step h [h.top, hx, hd, hm, hr, va_rf, areturn.wp_sem, Value.isRef, FieldType.isReference]
    exact fun acts => hrest acts
theorem gc_steps {tb : Tables} [Ours tb] {e : Env} {below : List Frame} {s T : State} {g : JFrame} {c : Code} (h : At T g.method c below) (hexec : tb.exec = Jvm.exec) (hW : s.WarmedH T.vm) {mk : MethodId} {mE : Method} {cE : Code} {a : Addr} {cell : Cell} {v : Option Nat} {ig : Instr} {len : Nat}
    (hcell : T.heap[a]? = some cell) (hfree : cell.monitor.owner = none) (hcount : cell.monitor.count = 0) (hkn : cell.vm ≠ .unknown)
    {ci owner i : Nat} {k : Class} {field : Field} (hl9 : s.vm.FieldLinks e.platform mk.cls 7 ci owner i) (hright : s.rightAt mk.cls 7 (.field owner i) = true) (hk : s.vm.classes[owner]? = some k) (hf9 : k.fields[i]? = some field) (hst9 : field.isStatic = false) (hv : cell.slots[field.slot]? = some (va_rf v))
    (hm : T.vm.method? mk = some mE) (hc : mE.code = some cE) (hb : cE.code = gcB) (hml : cE.maxLocals = 1) (hl : mE.locks = true) (hst : mE.isStatic = false) (hr : mE.sig.returnType = some (.object "java/lang/Throwable")) (hp : T.plainMethod mk) (hown : e.platform.frameOwnsMonitors = true)
    (hroom : e.platform.stackFull (((T.setTop g).threads[(T.setTop g).cur]?).getD { frames := [] }) (T.setTop g).frames (cE.maxLocals + 2) = false) (hdg : decode c.code g.pc = .ok (ig, len)) :
    ∃ vm' : Vm, s.WarmedH vm' ∧ ∀ (acts : List Action) (target : State), Steps tb e below ((T.setVm vm').setTop { g with pc := g.pc + len, stack := va_rf (gcF a v) :: g.stack }) target → Steps tb e below (doInvoke e (T.setTop g) acts mk #[.ref a]).1 target := by
  have hlt : a < T.heap.size := (Array.getElem?_eq_some_iff.mp hcell).1
  obtain ⟨cw, hcw⟩ : ∃ z, z = cell.withEntry T.cur := ⟨_, rfl⟩
  have hA := At.enter_sync (g := g) h #[.ref a] a cw hm hc hp
  have hf := frames_entered (g := g) (s := T.setCell a cw) h.top (.java (entryFrameSync mk #[.ref a] cE.maxLocals a))
  have hF : entryFrameSync mk #[.ref a] cE.maxLocals a = FS mk a 0 [] := by
    rw [hml]; rfl
  rw [hF] at hA hf
  generalize hV : ((T.setCell a cw).setTop g).pushFrame (.java (FS mk a 0 [])) = V at hA hf
  have hVvm : V.vm = T.vm := by rw [← hV]; rfl
  have hVcur : V.cur = T.cur := by rw [← hV]; rfl
  have hVcell : V.heap[a]? = some cw := by
    rw [← hV]
    show (T.heap.setIfInBounds a cw)[a]? = _
    simp [hlt]
  have hcwv : cw.slots[field.slot]? = some (va_rf v) := by rw [hcw]; exact hv
  have hcwk : cw.vm ≠ .unknown := by rw [hcw]; exact hkn
  have hend : ∀ (vm' : Vm) (w : Option Nat), s.WarmedH vm' → ∀ target : State, Steps tb e below ((T.setVm vm').setTop { g with pc := g.pc + len, stack := va_rf w :: g.stack }) target →
      Steps tb e below ((V.setVm vm').setTop (FS mk a 16 [va_rf w])) target := by
    intro vm' w hW' target hrest
    have hal : T.vm.Alike vm' := hW.alike.symm.trans hW'.alike
    have hA' : At (V.setVm vm') mk cE below := hA.setVm (by rw [hVvm]; exact hal)
    have hm' : (V.setVm vm').vm.method? mk = some mE := (hal.method? mk).trans hm
    have hd := gc_hb hb gc16
    have hcg : (V.setVm vm').code? g.method = some c := by
      have h1 : (T.setVm vm').code? g.method = some c := (h.setVm hal).code
      rw [State.code?_eq] at h1 ⊢
      exact h1
    have hfin : ∀ acts' : List Action, (doReturn e ((V.setVm vm').setTop (FS mk a 16 [])) acts' (some (va_rf w))).1 = (T.setVm vm').setTop { g with pc := g.pc + len, stack := va_rf w :: g.stack } := by
      intro acts'
      have hcw2 : cw.left = cell := by rw [hcw]; exact Cell.left_withEntry T.cur hfree hcount
      rw [doReturn_leave_sync (g := g) (meth := mE) (cg := c) (ig := ig) (len := len) (a := a) (cell := cw) (r := T.frames.tail) (f₀ := FS mk a 0 []) acts' hown (show (V.setVm vm').frames = _ from hf) hm' hl rfl rfl hVcell (by rw [hcw]; show some T.cur = some V.cur; rw [hVcur]) hcg hdg, hcw2]
      have e1 : ((V.setVm vm').setCell a cell).setFrames (.java g :: T.frames.tail) = (T.setVm vm').setTop g := by
        have e2 : ((T.setCell a cw).setCell a cell) = T := by
          have : (T.setCell a cw).setCell a cell = T.setCell a cell := by
            unfold State.setCell
            simp
          rw [this]
          exact State.setCell_same hcell
        have e3 := setFrames_entered (g := g) (s := (T.setVm vm')) (h.setVm hal).top (.java (FS mk a 0 []))
        have e4 : ((V.setVm vm').setCell a cell) = (((((T.setCell a cw).setCell a cell).setVm vm').setTop g).pushFrame (.java (FS mk a 0 []))) := by
          rw [← hV]; rfl
        rw [e4, e2]
        exact e3
      rw [e1, State.setTop_setTop]
      rfl
    refine og_aret hA' hexec hd hm' hr (fun acts => ?_)
    rw [hfin]
    exact hrest
  have hWV : s.WarmedH V.vm := by rw [hVvm]; exact hW
  have d0 := gc_hb hb gc0
  have d1 := gc_hb hb gc1
  have d4 := gc_hb hb gc4
  have d5 := gc_hb hb gc5
  have d8 := gc_hb hb gc8
  have d9 := gc_hb hb gc9
  have d12 := gc_hb hb gc12
  have d13 := gc_hb hb gc13
  obtain ⟨vm1, hW1, st1⟩ := Steps.getfieldCold (tb := tb) (e := e) (s₀ := s) (U := V) (f := FS mk a 1 [.ref a]) (below := below) (c := cE) hA hexec (cell := cw) (v := va_rf v) (rest := []) d1 hWV hl9 hright hk hf9 hst9 rfl hVcell hcwk hcwv
  have hal1 : T.vm.Alike vm1 := hW.alike.symm.trans hW1.alike
  have hA1 : At (V.setVm vm1) mk cE below := hA.setVm (by rw [hVvm]; exact hal1)
  have hstart : ∀ (acts : List Action), (doInvoke e (T.setTop g) acts mk #[.ref a]).1 = V.setTop (FS mk a 0 []) := by
    intro acts
    rw [doInvoke_enter_sync h.top acts hm hc hl hst rfl hcell (Or.inl hfree) hroom, ← hcw, hF, hV]
  by_cases hq : v = some a
  · refine ⟨vm1, hW1, fun acts target hrest => ?_⟩
    rw [hstart]
    refine og_aload hA hexec d0 ?_
    refine st1 _ ?_
    show Steps tb e below ((V.setVm vm1).setTop (FS mk a 4 [va_rf v])) target
    refine og_aload hA1 hexec d4 ?_
    subst hq
    refine og_neE hA1 hexec d5 ?_
    refine og_null hA1 hexec d8 ?_
    refine og_goto hA1 hexec (by decide) rfl d9 ?_
    refine hend vm1 none hW1 target ?_
    have : gcF a (some a) = none := by simp [gcF]
    rw [this] at hrest
    exact hrest
  · obtain ⟨vm2, hW2, st2⟩ := Steps.getfieldCold (tb := tb) (e := e) (s₀ := s) (U := V.setVm vm1) (f := FS mk a 13 [.ref a]) (below := below) (c := cE) hA1 hexec (cell := cw) (v := va_rf v) (rest := []) d13 hW1 hl9 hright hk hf9 hst9 rfl hVcell hcwk hcwv
    refine ⟨vm2, hW2, fun acts target hrest => ?_⟩
    rw [hstart]
    refine og_aload hA hexec d0 ?_
    refine st1 _ ?_
    show Steps tb e below ((V.setVm vm1).setTop (FS mk a 4 [va_rf v])) target
    refine og_aload hA1 hexec d4 ?_
    have hlast : Steps tb e below ((V.setVm vm1).setTop (FS mk a 12 [])) target := by
      refine og_aload hA1 hexec d12 ?_
      refine st2 _ ?_
      show Steps tb e below ((V.setVm vm2).setTop (FS mk a 16 [va_rf v])) target
      refine hend vm2 v hW2 target ?_
      have : gcF a v = v := by simp [gcF, hq]
      rw [this] at hrest
      exact hrest
    cases v with
    | none => exact og_neN hA1 hexec (by decide) rfl d5 hlast
    | some b => exact og_neD hA1 hexec (fun q => hq (by rw [q])) (by decide) rfl d5 hlast
theorem W.cause {p : Program} {l : Launch} {e : Env} {R : Room} {s : State} {m : MethodId} {args : Array Value} {below : List Frame} {meth : Method} {c : Code} {H : Heap} {locs : List Loc} {cells slots : Nat} {Q : State → Prop} {cc : ByteArray} (hexec : p.tables.exec = Jvm.exec) (hb : c.code = cc) {own C : String} (hown : s.vm.findClass own = some m.cls) {index : Nat}
    (hlink : (Cond.methodLink own index ⟨C, "getCause", "()Ljava/lang/Throwable;"⟩).before args s = true) (hsame : (Cond.sameMethod C "java/lang/Throwable" "getCause" "()Ljava/lang/Throwable;").before args s = true) (hinst : (Cond.instanceMethod gcN).before args s = true) (hcode : (Cond.codeSync gcN gcB 1 (some (.object "java/lang/Throwable"))).before args s = true) (hsel : (Cond.selects C ⟨C, "getCause", "()Ljava/lang/Throwable;"⟩ gcN).before args s = true)
    (hfl : (Cond.fieldLink "java/lang/Throwable" 7 "java/lang/Throwable" "cause" "Ljava/lang/Throwable;").before args s = true)
    {cf kf fi : _} {f : Field} (hi : s.fieldFound? "java/lang/Throwable" "cause" "Ljava/lang/Throwable;" = some (cf, kf, fi, f)) (hfst : f.isStatic = false)
    {a : Addr} {cell : Cell} {v : Option Nat} (hcB : H[a]? = some cell) (hvm0 : cell.vm = .none) (hcls : s.vm.findClass C = some cell.cls) (hfree : cell.monitor.owner = none) (hcount : cell.monitor.count = 0) (hv : cell.slots[f.slot]? = some (va_rf v))
    {g : JFrame} (hg : g.method = m) (hsize : g.locals.size = c.maxLocals) {rest : List Value} (hstack : g.stack = .ref a :: rest) (hdg : decode cc g.pc = .ok (.invokevirtual index, 3))
    (hframes : 1 ≤ R.frames) (hlocals : 2 * g.monitorRoom + (rest.map fun v => v.category).sum + 14 ≤ R.locals)
    (kk : W p l e R s m args below meth c H locs cells slots Q { g with pc := g.pc + 3, stack := va_rf (gcF a v) :: rest }) : W p l e R s m args below meth c H locs cells slots Q g := by
  intro T hT X
  subst hb
  obtain ⟨cn, ck, r1, hcn, hck, hni, hf, hn1⟩ := Cond.sameMethod_found hsame
  obtain ⟨mk, methM, hnamed, hmethM, hstM, habM⟩ := Cond.instanceMethod_spec hinst
  obtain ⟨methO', cO, hmO', hcO, hbO, hlO, hrO, hlockO, hxO, hsigO⟩ := Cond.codeSync_spec hnamed hcode
  cases hmethM.symm.trans hmO'
  cases hnamed.symm.trans hn1
  obtain ⟨c2, r2, m2, q1, q2, q3, q4, kP, hkP, hkPi⟩ := Cond.selects_spec hsel
  cases hcls.symm.trans q1
  cases hf.symm.trans q2
  cases hnamed.symm.trans q3
  have hselP : selectMethod e.platform s.vm cell.cls r1 = .method r1 := by rw [Launch.admits_selectMethod X.admits]; exact q4
  have hlen9 : ([] : List Value).length = methM.sig.parameters.length := by
    have h9 : (parseMethodDescriptor gcN.desc).map (fun d => d.parameters.length) = some 0 := by decide +kernel
    rw [hsigO] at h9
    exact (Option.some.inj h9).symm
  obtain ⟨vm₁, X₁, hstep₁⟩ := X.invokevirtualUp hexec hown hlink hsame (by decide) hnamed hmethM hstM (a := a) (cell := cell) (by rw [hT]; exact hcB)
    (fun z h => by rw [h] at hvm0; cases hvm0) hselP hmethM habM hkP hkPi (g := g) hg (argsL := []) (rest := rest) hlen9 hstack hdg
  have hmM : (T.setVm vm₁).vm.method? r1 = some methM := by rw [X₁.warmed.alike.method?]; exact hmethM
  have hpl : (T.setVm vm₁).plainMethod r1 := State.plainMethod.of_named (s := T.setVm vm₁) (x := gcN) (by decide +kernel) (X₁.named hnamed) hmM
  have hpl2 : e.platform.magicAccessors = ({} : Platform).magicAccessors := by rw [X.admits.platform]
  have hownT : s.vm.findClass "java/lang/Throwable" = some r1.cls := findClass_of_methodNamed hnamed
  obtain ⟨ci', cfl, k', i', f', hi', hlinks, hright⟩ := Cond.fieldLink_spec hownT hfl e.platform hpl2
  cases hi.symm.trans hi'
  obtain ⟨hk, hf9⟩ := State.fieldFound?_spec hi
  subst hg
  obtain ⟨vm2, hW2, st2⟩ := gc_steps (g := { g with stack := rest }) (s := s) (a := a) (cell := cell) (v := v) X₁.here hexec X₁.warmed (show T.heap[a]? = _ by rw [hT]; exact hcB) hfree hcount (by rw [hvm0]; exact fun h => by cases h) hlinks hright hk hf9 hfst hv hmM hcO hbO hlO hlockO hstM hrO hpl (Launch.admits_frameOwnsMonitors X.admits) (X₁.notFull (g := { g with stack := rest }) hsize hframes (by rw [hlO]; exact hlocals)) hdg
  obtain ⟨t, a1, b1⟩ := kk (T.setVm vm2) hT (X.noted hW2)
  exact ⟨t, hstep₁ _ fun acts => st2 acts _ a1, b1⟩
end GC
section GC2
variable {Γ : GX} {I : MI} {D : va_G} {h0 : PH} {Q : State → Prop} {h : PH} {pc : Nat} {vs : List (Option Value)} {rest : List Value} {β : Type} {o : β}
def cauC {β : Type} (h : PH) (r : Option Nat) (ci : Nat) (K : Option Nat → Option β) : Option β := cO_ h r ci fun a fs => if pbase h ≤ a then asR fs[0]? (fun v => K (gcF a v)) else none
theorem j_cause {index ci : Nat} {C : String} {T0 : u_T} {r : Option Nat} {K : Option Nat → Option β} (hci : ci = 12 ∨ ci = 16) (hc : clA[ci]? = some (C, T0, 6)) (hT : T0 0 = ("java/lang/Throwable", "cause", "Ljava/lang/Throwable;", false)) (hin : ∀ w ∈ u_ws C T0 6, w ∈ lw_all)
    (hlk : Cond.methodLink I.2.2.1 index ⟨C, "getCause", "()Ljava/lang/Throwable;"⟩ ∈ lw_all) (hsm : Cond.sameMethod C "java/lang/Throwable" "getCause" "()Ljava/lang/Throwable;" ∈ lw_all) (him : Cond.instanceMethod gcN ∈ lw_all) (hcode : Cond.codeSync gcN gcB 1 (some (.object "java/lang/Throwable")) ∈ lw_all) (hsel : Cond.selects C ⟨C, "getCause", "()Ljava/lang/Throwable;"⟩ gcN ∈ lw_all)
    (hfl : Cond.fieldLink "java/lang/Throwable" 7 "java/lang/Throwable" "cause" "Ljava/lang/Throwable;" ∈ lw_all) (hfr : Nat.ble 1 I.2.2.2.2.2.1 = true) (hlo : Nat.ble 24 I.2.2.2.2.2.2.1 = true) (hW : (rest.map fun v => v.category).sum ≤ 8) (hd : decode I.1 pc = .ok (.invokevirtual index, 3))
    (hf : cauC h r ci K = some o) (kk : ∀ x : Option Nat, K x = some o → PF Γ I D h0 Q h (pc + 3) vs (va_rf x :: rest)) : PF Γ I D h0 Q h pc vs (va_rf r :: rest) := by
  obtain ⟨a, fs, rfl, he, hf⟩ := cO_in hf
  obtain ⟨hb, hf⟩ := if_none hf
  obtain ⟨v, hv, hf⟩ := asR_in hf
  have k := kk _ hf
  obtain ⟨p, l, e, R, s, m, args, below, meth, c⟩ := Γ
  intro X B ls hl H locs hM hz hS
  have hWK := X.2.2.2.2.2.2.2.2.2.2.2.2.1
  obtain ⟨cc, nL, own, rt, xt, fr, lo, nm⟩ := I
  have hRf : fr ≤ R.frames := X.2.2.2.2.2.2.2.2.1
  have hRl : lo ≤ R.locals := X.2.2.2.2.2.2.2.2.2.1
  have hts := X.2.2.2.2.1
  have hlo : 24 ≤ lo := Nat.le_of_ble_eq_true hlo
  have hfr : 1 ≤ fr := Nat.le_of_ble_eq_true hfr
  obtain ⟨r9, h1, cell, q1, q2, q3, q4⟩ := hM.one hb he 0 _ rfl
  have hr9 : r9 = (C, T0, 6) := Option.some.inj (h1.symm.trans hc)
  subst hr9
  obtain ⟨hS9, hfc, kC9, hkC, hkind⟩ := hWK.1.1 ci _ hc
  obtain ⟨cf, kf, fi, f, hi, hsl⟩ := hS9 0 (show 0 < 6 by decide)
  have hst := (u_facts hfc hkC (u_lays hts hin (show 0 < 6 by decide)) hi).1
  have hi : s.fieldFound? (T0 0).1 (T0 0).2.1 (T0 0).2.2.1 = some (cf, kf, fi, f) := hi
  rw [hT] at hi
  have hfree : cell.monitor.owner = none ∧ cell.monitor.count = 0 := by
    rcases hM.2.2.1.2 a cell hb q1 with h9 | h9
    · exact h9
    · rcases hci with rfl | rfl
      · exact absurd q2 h9.1
      · exact absurd q2 h9.2
  refine W.cause (v := v) X.1 X.2.1 X.2.2.2.1 (hts _ hlk) (hts _ hsm) (hts _ him) (hts _ hcode) (hts _ hsel) (hts _ hfl) hi hst q1 q3 (by rw [q2]; exact hfc) hfree.1 hfree.2 ?_ rfl (hl.size.trans X.2.2.1.symm) rfl hd (by omega) ?_ (k X B ls hl H locs hM hz hS)
  · rw [hsl, q4 0 (show 0 < 6 by decide)]
    simp [vp_V, hv]
  · show 2 * 0 + _ + 14 ≤ _
    omega
end GC2
/-- by the class of an error of configurations -/
def kQ4 {β : Type} (h : PH) (r : Option Nat) (A B C E : Option β) : Option β := match r with
  | none => none
  | some a => match h.1 a with
    | some (.inr (ci, _)) => if ci = 8 then A else if ci = 9 then B else if ci = 10 then C else if ci = 11 then E else none
    | _ => none
theorem kQ4_in {β : Type} {h : PH} {r : Option Nat} {A B C E : Option β} {o : β} (hf : kQ4 h r A B C E = some o) : A = some o ∨ B = some o ∨ C = some o ∨ E = some o := by
  unfold kQ4 at hf
  split at hf
  · cases hf
  · split at hf
    · split at hf
      · exact Or.inl hf
      · split at hf
        · exact Or.inr (Or.inl hf)
        · split at hf
          · exact Or.inr (Or.inr (Or.inl hf))
          · split at hf
            · exact Or.inr (Or.inr (Or.inr hf))
            · cases hf
    · cases hf
