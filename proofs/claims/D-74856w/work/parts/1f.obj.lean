/-! Object.equals, WALKED IN PLACE (the tables have no word that Object is initialised) -/
set_option maxRecDepth 100000
section OE
abbrev oeN : MethodName := ⟨"java/lang/Object", "equals", "(Ljava/lang/Object;)Z"⟩
def oeB : ByteArray := ⟨#[0x2a, 0x2b, 0xa6, 0x00, 0x07, 0x04, 0xa7, 0x00, 0x04, 0x03, 0xac]⟩
theorem oe0 : decode oeB 0 = .ok (.aload_n 0, 1) := by decide +kernel
theorem oe1 : decode oeB 1 = .ok (.aload_n 1, 1) := by decide +kernel
theorem oe2 : decode oeB 2 = .ok (.if_acmp (.ne) 7, 3) := by decide +kernel
theorem oe5 : decode oeB 5 = .ok (.iconst 1, 1) := by decide +kernel
theorem oe6 : decode oeB 6 = .ok (.goto 4, 3) := by decide +kernel
theorem oe9 : decode oeB 9 = .ok (.iconst 0, 1) := by decide +kernel
theorem oe10 : decode oeB 10 = .ok (.ireturn, 1) := by decide +kernel
theorem va_rf_isRef (r : Option Nat) : (va_rf r).isRef = true := by cases r <;> rfl
theorem oe_hb {c : Code} {pc : Nat} {r} (hb : c.code = oeB) (h : decode oeB pc = r) : decode c.code pc = r := by rw [hb]; exact h
theorem om_aload {tb : Tables} [Ours tb] {e : Env} {below : List Frame} {T target : State} {m : MethodId} {c : Code} (h : At T m c below) (hx : tb.exec = Jvm.exec) {pc : Nat} {ls : Array Slot} {st : List Value} {k : Fin 4} {a : Addr} (hl : ls[k.val]? = some (.val (.ref a))) (hd : decode c.code pc = .ok (.aload_n k, 1))
    (hr : Steps tb e below (T.setTop (F0 m (pc + 1) ls (.ref a :: st))) target) : Steps tb e below (T.setTop (F0 m pc ls (st))) target := by
  unfold F0 at *
  jvm_step h [h.top, hx, hd, hl, Value.isRef]
  exact hr
theorem om_aloadN {tb : Tables} [Ours tb] {e : Env} {below : List Frame} {T target : State} {m : MethodId} {c : Code} (h : At T m c below) (hx : tb.exec = Jvm.exec) {pc : Nat} {ls : Array Slot} {st : List Value} {k : Fin 4} (hl : ls[k.val]? = some (.val .null)) (hd : decode c.code pc = .ok (.aload_n k, 1))
    (hr : Steps tb e below (T.setTop (F0 m (pc + 1) ls (.null :: st))) target) : Steps tb e below (T.setTop (F0 m pc ls (st))) target := by
  unfold F0 at *
  jvm_step h [h.top, hx, hd, hl, Value.isRef]
  exact hr
theorem om_iconst {tb : Tables} [Ours tb] {e : Env} {below : List Frame} {T target : State} {m : MethodId} {c : Code} (h : At T m c below) (hx : tb.exec = Jvm.exec) {pc : Nat} {ls : Array Slot} {st : List Value} {i : Int} (hd : decode c.code pc = .ok (.iconst i, 1))
    (hr : Steps tb e below (T.setTop (F0 m (pc + 1) ls (.int (Int32.ofInt i) :: st))) target) : Steps tb e below (T.setTop (F0 m pc ls (st))) target := by
  unfold F0 at *
  jvm_step h [h.top, hx, hd]
  exact hr
theorem om_goto {tb : Tables} [Ours tb] {e : Env} {below : List Frame} {T target : State} {m : MethodId} {c : Code} (h : At T m c below) (hx : tb.exec = Jvm.exec) {pc : Nat} {ls : Array Slot} {st : List Value} {o : Int} {pc1 : Nat} (h0 : 0 ≤ (pc : Int) + o) (h1 : ((pc : Int) + o).toNat = pc1) (hd : decode c.code pc = .ok (.goto o, 3))
    (hr : Steps tb e below (T.setTop (F0 m pc1 ls (st))) target) : Steps tb e below (T.setTop (F0 m pc ls (st))) target := by
  unfold F0 at *
  jvm_step h [h.top, hx, hd, h0, h1]
  exact hr
theorem om_neN {tb : Tables} [Ours tb] {e : Env} {below : List Frame} {T target : State} {m : MethodId} {c : Code} (h : At T m c below) (hx : tb.exec = Jvm.exec) {pc : Nat} {ls : Array Slot} {st : List Value} {o : Int} {pc1 : Nat} {a : Addr} (h0 : 0 ≤ (pc : Int) + o) (h1 : ((pc : Int) + o).toNat = pc1) (hd : decode c.code pc = .ok (.if_acmp .ne o, 3))
    (hr : Steps tb e below (T.setTop (F0 m pc1 ls (st))) target) : Steps tb e below (T.setTop (F0 m pc ls (.null :: .ref a :: st))) target := by
  unfold F0 at *
  jvm_step h [h.top, hx, hd, h0, h1, if_acmp.holds, Value.asRef?]
  exact hr
theorem om_neD {tb : Tables} [Ours tb] {e : Env} {below : List Frame} {T target : State} {m : MethodId} {c : Code} (h : At T m c below) (hx : tb.exec = Jvm.exec) {pc : Nat} {ls : Array Slot} {st : List Value} {o : Int} {pc1 : Nat} {a b : Addr} (hq : ¬ a = b) (h0 : 0 ≤ (pc : Int) + o) (h1 : ((pc : Int) + o).toNat = pc1) (hd : decode c.code pc = .ok (.if_acmp .ne o, 3))
    (hr : Steps tb e below (T.setTop (F0 m pc1 ls (st))) target) : Steps tb e below (T.setTop (F0 m pc ls (.ref b :: .ref a :: st))) target := by
  unfold F0 at *
  jvm_step h [h.top, hx, hd, h0, h1, if_acmp.holds, Value.asRef?, hq]
  exact hr
theorem om_neE {tb : Tables} [Ours tb] {e : Env} {below : List Frame} {T target : State} {m : MethodId} {c : Code} (h : At T m c below) (hx : tb.exec = Jvm.exec) {pc : Nat} {ls : Array Slot} {st : List Value} {o : Int} {a : Addr} (hd : decode c.code pc = .ok (.if_acmp .ne o, 3))
    (hr : Steps tb e below (T.setTop (F0 m (pc + 3) ls (st))) target) : Steps tb e below (T.setTop (F0 m pc ls (.ref a :: .ref a :: st))) target := by
  unfold F0 at *
  jvm_step h [h.top, hx, hd, if_acmp.holds, Value.asRef?]
  exact hr
theorem oe_steps {tb : Tables} [Ours tb] {e : Env} {below : List Frame} {T target : State} {g : JFrame} {c : Code} (h : At T g.method c below) (hexec : tb.exec = Jvm.exec) {mk : MethodId} {mE : Method} {cE : Code} {a : Addr} {r : Option Nat} {ig : Instr} {len : Nat} (acts : List Action)
    (hm : T.vm.method? mk = some mE) (hc : mE.code = some cE) (hb : cE.code = oeB) (hml : cE.maxLocals = 2) (hl : mE.locks = false) (hr : mE.sig.returnType = some .boolean) (hp : T.plainMethod mk)
    (hroom : e.platform.stackFull (((T.setTop g).threads[(T.setTop g).cur]?).getD { frames := [] }) (T.setTop g).frames cE.maxLocals = false) (hdg : decode c.code g.pc = .ok (ig, len))
    (hrest : Steps tb e below (T.setTop { g with pc := g.pc + len, stack := .int (if some a = r then 1 else 0) :: g.stack }) target) : Steps tb e below (doInvoke e (T.setTop g) acts mk #[.ref a, va_rf r]).1 target := by
  rw [doInvoke_enter h.top acts hm hc hl hroom]
  have hA := At.enter (g := g) h #[.ref a, va_rf r] hm hc hp
  have hf := frames_entered (g := g) h.top (.java (entryFrame mk #[.ref a, va_rf r] cE.maxLocals))
  have hF : entryFrame mk #[.ref a, va_rf r] cE.maxLocals = F0 mk 0 #[.val (.ref a), .val (va_rf r)] [] := by
    rw [hml]; cases r <;> rfl
  have hend : ∀ v : Int32, narrow .boolean (.int v) = .int v → v = (if some a = r then 1 else 0) → Steps tb e below (((T.setTop g).pushFrame (.java (entryFrame mk #[.ref a, va_rf r] cE.maxLocals))).setTop (F0 mk 10 #[.val (.ref a), .val (va_rf r)] [.int v])) target := by
    intro v hn hv
    subst hv
    have hm' : ((T.setTop g).pushFrame (.java (entryFrame mk #[.ref a, va_rf r] cE.maxLocals))).vm.method? mk = some mE := hm
    have hd := oe_hb hb oe10
    jvm_step hA [hA.top, hexec, hd, hm', hr, hn]
    (try refine ⟨rfl, ?_⟩); (try refine ⟨rfl, ?_⟩)
    intro acts'
    rw [doReturn_leave (g := g) (meth := mE) (cg := c) (ig := ig) (len := len) acts' hf hm' hl rfl rfl (by have := h.code; rw [State.code?_eq] at this ⊢; simpa [State.pushFrame, State.setFrames] using this) hdg,
      setFrames_entered h.top, State.setTop_setTop]
    exact hrest
  rw [hF] at hA hf hend ⊢
  have d0 := oe_hb hb oe0
  have d1 := oe_hb hb oe1
  have d2 := oe_hb hb oe2
  have d5 := oe_hb hb oe5
  have d6 := oe_hb hb oe6
  have d9 := oe_hb hb oe9
  refine om_aload hA hexec rfl d0 ?_
  cases r with
  | none =>
    refine om_aloadN hA hexec rfl d1 ?_
    refine om_neN hA hexec (by decide) rfl d2 ?_
    refine om_iconst hA hexec d9 ?_
    exact hend 0 rfl (by rw [if_neg (by simp)])
  | some b =>
    refine om_aload hA hexec rfl d1 ?_
    by_cases hq : a = b
    · subst hq
      refine om_neE hA hexec d2 ?_
      refine om_iconst hA hexec d5 ?_
      refine om_goto hA hexec (by decide) rfl d6 ?_
      exact hend 1 rfl (by rw [if_pos rfl])
    · refine om_neD hA hexec hq (by decide) rfl d2 ?_
      refine om_iconst hA hexec d9 ?_
      exact hend 0 rfl (by rw [if_neg (by simpa using hq)])
theorem W.objEq {p : Program} {l : Launch} {e : Env} {R : Room} {s : State} {m : MethodId} {args : Array Value} {below : List Frame} {meth : Method} {c : Code} {H : Heap} {locs : List Loc} {cells slots : Nat} {Q : State → Prop} {cc : ByteArray} (hexec : p.tables.exec = Jvm.exec) (hb : c.code = cc) {own C : String} (hown : s.vm.findClass own = some m.cls) {index : Nat}
    (hlink : (Cond.methodLink own index oeN).before args s = true) (hsame : (Cond.sameMethod oeN.cls oeN.cls oeN.name oeN.desc).before args s = true) (hinst : (Cond.instanceMethod oeN).before args s = true) (hcode : (Cond.code oeN oeB 2 (some .boolean)).before args s = true) (hsel : (Cond.selects C oeN oeN).before args s = true)
    {a : Addr} {r : Option Nat} (hrec : ∃ cellB : Cell, H[a]? = some cellB ∧ cellB.vm.isStatics = false ∧ s.vm.findClass C = some cellB.cls)
    {g : JFrame} (hg : g.method = m) (hsize : g.locals.size = c.maxLocals) {rest : List Value} (hstack : g.stack = va_rf r :: .ref a :: rest) (hdg : decode cc g.pc = .ok (.invokevirtual index, 3))
    (hframes : 1 ≤ R.frames) (hlocals : 2 * g.monitorRoom + (rest.map fun v => v.category).sum + 13 ≤ R.locals)
    (kk : W p l e R s m args below meth c H locs cells slots Q { g with pc := g.pc + 3, stack := .int (if some a = r then 1 else 0) :: rest }) : W p l e R s m args below meth c H locs cells slots Q g := by
  intro T hT X
  subst hb
  obtain ⟨cellB, hcB, hobj, hcls⟩ := hrec
  obtain ⟨cn, ck, r1, hcn, hck, hni, hf, hn1⟩ := Cond.sameMethod_found hsame
  obtain ⟨mk, methM, hnamed, hmethM, hstM, habM⟩ := Cond.instanceMethod_spec hinst
  obtain ⟨methO', cO, hmO', hcO, hbO, hlO, hrO, hlockO, hxO, hsigO⟩ := Cond.code_spec hnamed hcode
  cases hmethM.symm.trans hmO'
  cases hnamed.symm.trans hn1
  obtain ⟨c2, r2, m2, q1, q2, q3, q4, kP, hkP, hkPi⟩ := Cond.selects_spec hsel
  cases hcls.symm.trans q1
  cases hf.symm.trans q2
  cases hnamed.symm.trans q3
  have hselP : selectMethod e.platform s.vm cellB.cls r1 = .method r1 := by rw [Launch.admits_selectMethod X.admits]; exact q4
  have hlen9 : [va_rf r].length = methM.sig.parameters.length := by
    have h9 : (parseMethodDescriptor oeN.desc).map (fun d => d.parameters.length) = some 1 := by decide +kernel
    rw [hsigO] at h9
    exact (Option.some.inj h9).symm
  obtain ⟨vm₁, X₁, hstep₁⟩ := X.invokevirtualUp hexec hown hlink hsame (by decide) hnamed hmethM hstM (a := a) (cell := cellB) (by rw [hT]; exact hcB)
    (fun z h => by rw [h] at hobj; cases hobj) hselP hmethM habM hkP hkPi (g := g) hg (argsL := [va_rf r]) (rest := rest) hlen9 hstack hdg
  have hmM : (T.setVm vm₁).vm.method? r1 = some methM := by rw [X₁.warmed.alike.method?]; exact hmethM
  have hpl : (T.setVm vm₁).plainMethod r1 := State.plainMethod.of_named (s := T.setVm vm₁) (x := oeN) (by decide +kernel) (X₁.named hnamed) hmM
  obtain ⟨t, a1, b1⟩ := kk (T.setVm vm₁) hT X₁
  refine ⟨t, hstep₁ _ fun acts => ?_, b1⟩
  subst hg
  exact oe_steps (g := { g with stack := rest }) X₁.here hexec acts hmM hcO hbO hlO hlockO hrO hpl (X₁.notFull (g := { g with stack := rest }) hsize hframes (by rw [hlO]; exact hlocals)) hdg a1
end OE
section OE2
variable {Γ : GX} {I : MI} {D : va_G} {h0 : PH} {Q : State → Prop} {h : PH} {pc : Nat} {vs : List (Option Value)} {rest : List Value} {β : Type} {o : β}
def oE (h : PH) (r : Option Nat) (ci : Nat) (r2 : Option Nat) (K : Int32 → Option β) : Option β := rv_ h r ci (K (if r = r2 then 1 else 0))
/-- Object.equals of an object whose class does not override it -/
theorem j_objE {index ci : Nat} {r r2 : Option Nat} {K : Int32 → Option β} (hlk : Cond.methodLink I.2.2.1 index oeN ∈ lw_all) (hsm : Cond.sameMethod oeN.cls oeN.cls oeN.name oeN.desc ∈ lw_all) (him : Cond.instanceMethod oeN ∈ lw_all) (hcode : Cond.code oeN oeB 2 (some .boolean) ∈ lw_all) (hsel : Cond.selects (rcl ci).1 oeN oeN ∈ lw_all) (hfr : Nat.ble 1 I.2.2.2.2.2.1 = true) (hlo : Nat.ble 24 I.2.2.2.2.2.2.1 = true) (hW : (rest.map fun v => v.category).sum ≤ 8) (hd : decode I.1 pc = .ok (.invokevirtual index, 3))
    (hf : oE h r ci r2 K = some o) (kk : ∀ x : Int32, K x = some o → PF Γ I D h0 Q h (pc + 3) vs (.int x :: rest)) : PF Γ I D h0 Q h pc vs (va_rf r2 :: va_rf r :: rest) := by
  obtain ⟨a, fs, rfl, he, hf⟩ := rv_in hf
  have k := kk _ hf
  obtain ⟨p, l, e, R, s, m, args, below, meth, c⟩ := Γ
  intro X B ls hl H locs hM hz hS
  have hWK := X.2.2.2.2.2.2.2.2.2.2.2.2.1
  obtain ⟨cc, nL, own, rt, xt, fr, lo, nm⟩ := I
  have hRf : fr ≤ R.frames := X.2.2.2.2.2.2.2.2.1
  have hRl : lo ≤ R.locals := X.2.2.2.2.2.2.2.2.2.1
  have hts := X.2.2.2.2.1
  have hlo : 24 ≤ lo := Nat.le_of_ble_eq_true hlo
  have hfr : 1 ≤ fr := Nat.le_of_ble_eq_true hfr
  have hrec := j_recv hWK B hM hS he
  refine W.objEq X.1 X.2.1 X.2.2.2.1 (hts _ hlk) (hts _ hsm) (hts _ him) (hts _ hcode) (hts _ hsel) hrec rfl (hl.size.trans X.2.2.1.symm) rfl hd (by omega) ?_ (k X B ls hl H locs hM hz hS)
  show 2 * 0 + _ + 13 ≤ _
  omega
end OE2
