/-! CONTRACTS, CALLS, ANSWERS, EXCEPTIONS, over PF -/
set_option maxRecDepth 100000
/-- how a method ends: thrown (the class's number, the address), or its answer -/
abbrev OC : Type := (Nat × Nat) ⊕ Option Value
def cEnd (D : va_G) (h0 h' : PH) (st t : State) : Prop := WM D h' t.heap ∧ Bd h0 h' ∧ slotSum t.heap + psl h' ≤ slotSum st.heap + psl h0 ∧ va_F (pA h0.2.1) st t
def cQ (D : va_G) (h0 h' : PH) (oc : OC) : Array Value → State → Outcome → State → Prop := fun _ st o t => ∃ rv : Option Value, oc = .inr rv ∧ o = .returned rv ∧ cEnd D h0 h' st t
def cXC (D : va_G) (h0 h' : PH) (oc : OC) : Addr → String → State → State → Prop := fun q E st t => ∃ (ci : Nat) (fs : List Value), oc = .inl (ci, q) ∧ E = (rcl ci).1 ∧ h'.1 q = some (.inr (ci, fs)) ∧ cEnd D h0 h' st t
def cPre (D : va_G) (h0 : PH) (av : List Value) : Array Value → State → Prop := va_Pc av (fun U => WM D h0 U.heap ∧ WK D h0.2.1 U U.heap)
abbrev rmOf (fr lo : Nat) (h0 : PH) : Room := { frames := fr, cells := pcl h0, slots := psl h0, locals := lo }
/-- the contract: from the cells h0 and the arguments av the method ends as oc says, with the cells h' -/
def CT (l : Launch) (D : va_G) (y : MethodName) (ws : List Cond) (fr lo : Nat) (av : List Value) (h0 : PH) (oc : OC) (h' : PH) : Prop :=
  vx_Met l y ws (rmOf fr lo h0) (cPre D h0 av) (cQ D h0 h' oc) (cXC D h0 h' oc) (pcl h0) (psl h0) (pA h0.2.1)
def QR (Γ : GX) (D : va_G) (h0 : PH) (oc : OC) (h' : PH) : State → Prop := match Γ with
  | (p, l, e, R, s, m, args, below, meth, c) => vx_MQ below (cQ D h0 h' oc) (cXC D h0 h' oc) args s (pcl h0) (psl h0) (pA h0.2.1)
theorem cPre_blind {D : va_G} {h0 : PH} {av : List Value} : FrameBlind (cPre D h0 av) := by
  intro a U g mk ⟨e1, e2, e3⟩
  exact ⟨e1, e2, WK.go (s := U) (U := U.calling g mk a) (State.WarmedH.refl U) (fun _ _ _ => rfl) e3⟩
/-- the listed locals -/
def vsL : Nat → List (Option Value) → List (Nat × Value)
  | _, [] => []
  | i, none :: vs => vsL (i + 1) vs
  | i, some v :: vs => (i, v) :: vsL (i + 1) vs
theorem vsL_mem (vs : List (Option Value)) : ∀ (j i : Nat) (v : Value), vs[i]? = some (some v) → (j + i, v) ∈ vsL j vs := by
  induction vs with
  | nil => intro j i v h; cases h
  | cons a vs ih =>
    intro j i v h
    cases i with
    | zero =>
      cases h
      exact List.mem_cons_self
    | succ i =>
      have h1 := ih (j + 1) i v h
      rw [show j + 1 + i = j + (i + 1) by omega] at h1
      cases a with
      | none => exact h1
      | some w => exact List.mem_cons_of_mem _ h1
section JK
variable {Γ : GX} {I : MI} {D : va_G} {h0 : PH} {Q : State → Prop} {h : PH} {pc : Nat} {vs : List (Option Value)} {rest : List Value} {β : Type} {o : β}
/-- a method without handlers -/
theorem ct_of {l : Launch} {y : MethodName} {cc : ByteArray} {nL fr lo : Nat} {rt : Option FieldType} {av : List Value} {oc : OC} {h' : PH} (hl9 : l.stackTraces = false) (vs0 : List (Option Value)) (hy : plainName y.cls = true) (hlen : (lg_sl av).length ≤ nL) (hvs : lv_args 0 av = vsL 0 vs0)
    (body : ∀ Γ : GX, PF Γ (cc, nL, y.cls, rt, [], fr, lo, y.name) D h0 (QR Γ D h0 oc h') h0 0 vs0 []) : CT l D y (ws_ y cc nL rt) fr lo av h0 oc h' := by
  refine vx_ofW (cc := cc) (maxL := nL) (ret := rt) hy rfl ?_
  intro p e s m args below meth c s₁ B hml hxt ⟨hav, hM, hWK⟩
  subst hav
  have hts := atoms_spec (ws := ws_ y cc nL rt) B.pre
  have hx : c.exceptionTable.toList = [] := List.eq_nil_iff_forall_not_mem.mpr hxt
  rw [lg_entry_eq]
  have h1 := lv_entry av (n := nL) hlen
  rw [hvs] at h1
  have h2 : jLS vs0 ((lg_sl av ++ List.replicate (nL - (lg_sl av).length) Slot.unset).toArray) nL := ⟨_, h1, fun i v hi => by have := vsL_mem vs0 0 i v hi; rw [Nat.zero_add] at this; exact this⟩
  have hnm := name_of_methodNamed B.named B.method
  have K := body (p, l, e, (headSpec (ws_ y cc nL rt) (rmOf fr lo h0)).room, s, m, av.toArray, below, meth, c) ⟨B.exec, B.bytes, hml, findClass_of_methodNamed B.named, fun w h => hts w (List.mem_cons_of_mem _ h), B.notSynchronized, B.returns, hx, Nat.le_refl _, Nat.le_refl _, rfl, rfl, hWK, hM.1, hM.2.1, hl9, hnm.1⟩ Bd.rf _ h2 s.heap [] hM (Nat.le_refl _) va_S.rf
  rw [Nat.sub_self, Nat.sub_self] at K
  exact K
/-- behind a call -/
theorem j_ran {p : Program} {l : Launch} {e : Env} {R : Room} {s : State} {m : MethodId} {args : Array Value} {below : List Frame} {meth : Method} {c : Code} {H : Heap} {locs : List Loc} {ls : Array Slot} {st0 : List Value} {a : Array Value} {oc : OC} {h1 : PH} {len : Nat} (hlen : len = 3)
    (X : CX (p, l, e, R, s, m, args, below, meth, c) I D h0) (B : Bd h0 h) (hl : jLS vs ls I.2.1) (hM : WM D h H) (hz : slotSum H + psl h ≤ slotSum s.heap + psl h0) (hS : va_S (pA h0.2.1) s.heap H locs)
    (hr : vx_Run p l e R s m args below meth c H locs (pcl h0 - pcl h) (psl h0 - psl h) (pcl h) (psl h) (F0 m pc ls st0) rest (cQ D h h1 oc a) (cXC D h h1 oc) (pA h.2.1))
    (kk : ∀ rv : Option Value, oc = .inr rv → PF (p, l, e, R, s, m, args, below, meth, c) I D h0 Q h1 (pc + 3) vs (rv.toList ++ rest)) (kx : ∀ (ci q : Nat) (fs : List Value), oc = .inl (ci, q) → h1.1 q = some (.inr (ci, fs)) → PX (p, l, e, R, s, m, args, below, meth, c) I D h0 Q h1 pc vs q) : W p l e R s m args below meth c H locs (pcl h0 - pcl h) (psl h0 - psl h) Q (F0 m pc ls st0) := by
  intro T hT X1
  have X0 := X
  obtain ⟨cc, nL, own, rt, xt, fr, lo, nm⟩ := I
  have hn0 : s.heap.size = pn h0 := X.2.2.2.2.2.2.2.2.2.2.2.2.2.1
  have hA9 : pA h.2.1 = pA h0.2.1 := by rw [B.1]
  have tail : ∀ (st₀ t T' : State) (L : List Loc), st₀.heap = H → Stand p l e R s m args below meth c T' (locs ++ L) (pcl h0 - pcl h + pcl h) (psl h0 - psl h + psl h) → (∀ q ∈ L, pA h.2.1 q.base) → T'.heap = t.heap → cEnd D h h1 st₀ t →
      Bd h0 h1 ∧ WM D h1 T'.heap ∧ slotSum T'.heap + psl h1 ≤ slotSum s.heap + psl h0 ∧ va_S (pA h0.2.1) s.heap T'.heap (locs ++ L) ∧ Stand p l e R s m args below meth c T' (locs ++ L) (pcl h0 - pcl h1) (psl h0 - psl h1) := by
    intro st₀ t T' L e0 X' hL e1 ⟨c1, c2, c3, c4⟩
    have hB := B.tr c2
    have hb2 := hB.2.1
    have hb3 := hB.2.2.1
    have hb4 := hB.2.2.2
    rw [← e1] at c1 c3
    rw [e0] at c3
    have hsz := c1.1
    have hsl : slotSum T'.heap + psl h1 ≤ slotSum s.heap + psl h0 := by
      simp only [psl] at *
      omega
    refine ⟨hB, c1, hsl, ?_, stand_tight X' ?_ ?_⟩
    · rw [← hA9] at hS ⊢
      refine ⟨Nat.le_trans hS.1 (by rw [e1, ← e0]; exact c4.1), fun q h1 h2 => ?_, fun q hq => ?_⟩
      · rw [e1, c4.2 q (by rw [e0]; exact Nat.lt_of_lt_of_le h1 hS.1) h2, e0]
        exact hS.2.1 q h1 h2
      · rcases List.mem_append.mp hq with h | h
        · exact hS.2.2 q h
        · exact hL q h
    · simp only [pn, pcl] at *
      omega
    · simp only [psl] at *
      omega
  rcases hr T hT X1 with ⟨v, st₀, t, T', L, e0, X', hL, e1, e2, ⟨rv, hoc, hv, hend⟩, st⟩ | ⟨q, st₀, t, T', L, E, ce, e0, X', hL, e1, e2, ⟨ci, fs, hoc, hE, hfs, hend⟩, hce, hcv, hcl, st⟩
  · obtain ⟨k1, k2, k3, k4, k5⟩ := tail st₀ t T' L e0 X' hL e1 hend
    cases hv
    obtain ⟨t2, a1, b1⟩ := kk _ hoc X0 k1 ls hl T'.heap (locs ++ L) k2 k3 k4 T' rfl k5
    exact ⟨t2, st t2 a1, b1⟩
  · obtain ⟨k1, k2, k3, k4, k5⟩ := tail st₀ t T' L e0 X' hL e1 hend
    obtain ⟨t2, a1, b1⟩ := kx _ _ _ hoc hfs X0 k1 ls hl T'.heap (locs ++ L) k2 k3 k4 rest T' rfl k5
    exact ⟨t2, st.trans a1, b1⟩
/-- the callee's start, out of the caller's place -/
theorem j_pre {s : State} {H : Heap} {locs : List Loc} {av : List Value} (hWK : WK D h0.2.1 s s.heap) (B : Bd h0 h) (hM : WM D h H) (hS : va_S (pA h0.2.1) s.heap H locs) : ∀ U : State, U.heap = H → s.WarmedH U.vm → cPre D h av av.toArray U := by
  intro U hU hW
  refine ⟨rfl, by rw [hU]; exact hM, ?_⟩
  rw [B.1, hU]
  exact hWK.go hW hS.2.1
/-- the room that is left is enough -/
theorem j_left {h0 h : PH} (B : Bd h0 h) : pcl h0 - pcl h + pcl h ≤ pcl h0 ∧ psl h0 - psl h + psl h ≤ psl h0 := by
  have hb2 := B.2.1
  have hb3 := B.2.2.1
  have hb4 := B.2.2.2
  simp only [pn, pcl, psl] at *
  omega
/-- the plain side of a call -/
def cl_ {α : Type} (r : Option (α × PH)) (K : α → PH → Option β) : Option β := match r with
  | none => none
  | some (x, h) => K x h
theorem cl_in {α : Type} {r : Option (α × PH)} {K : α → PH → Option β} (hf : cl_ r K = some o) : ∃ (x : α) (h1 : PH), r = some (x, h1) ∧ K x h1 = some o := by
  unfold cl_ at hf
  split at hf
  · cases hf
  · exact ⟨_, _, rfl, hf⟩
/-- the plain side of a call on an object: its class is asked -/
def rv_ (h : PH) (r : Option Nat) (ci : Nat) (K : Option β) : Option β := cO_ h r ci fun _ _ => K
theorem rv_in {r : Option Nat} {ci : Nat} {K : Option β} (hf : rv_ h r ci K = some o) : ∃ (a : Nat) (fs : List Value), r = some a ∧ h.1 a = some (.inr (ci, fs)) ∧ K = some o := cO_in hf
/-- invokevirtual (and private methods): the callee is of the object's own class -/
theorem j_callV {y : MethodName} {C : String} {T : u_T} {N : Nat} {cc2 : ByteArray} {nL2 fr2 lo2 : Nat} {rt2 : Option FieldType} {ci index n : Nat} {r : Option Nat} {As : List Value} {α : Type} {ro : Option (α × PH)} {ov : α → OC} {K : α → PH → Option β} (hc : clA[ci]? = some (C, T, N))
    (hG : GoodIn lw_all (wsV I.2.2.1 index C y (ws_ y cc2 nL2 rt2))) (hdy : y.cls = C ∧ y.cls ≠ "java/lang/invoke/MethodHandle" ∧ y.cls ≠ "java/lang/invoke/VarHandle" ∧ (parseMethodDescriptor y.desc).map (fun d => d.parameters.length) = some n) (hfr : Nat.ble (fr2 + 1) I.2.2.2.2.2.1 = true) (hlo : Nat.ble (8 + (nL2 + 11) + lo2) I.2.2.2.2.2.2.1 = true) (hn : As.length = n) (hW : (rest.map fun v => v.category).sum ≤ 8) (hd : decode I.1 pc = .ok (.invokevirtual index, 3))
    (hct : ∀ (l : Launch), l.stackTraces = false → ∀ (x : α) (h1 : PH), ro = some (x, h1) → CT l D y (ws_ y cc2 nL2 rt2) fr2 lo2 (va_rf r :: As) h (ov x) h1) (hf : rv_ h r ci (cl_ ro K) = some o)
    (kk : ∀ (x : α) (h1 : PH) (rv : Option Value), ov x = .inr rv → K x h1 = some o → PF Γ I D h0 Q h1 (pc + 3) vs (rv.toList ++ rest)) (kx : ∀ (x : α) (h1 : PH) (ci q : Nat) (fs : List Value), ov x = .inl (ci, q) → h1.1 q = some (.inr (ci, fs)) → K x h1 = some o → PX Γ I D h0 Q h1 pc vs q) (st0 : List Value) (hst : st0 = As.reverse ++ va_rf r :: rest) : PF Γ I D h0 Q h pc vs st0 := by
  obtain ⟨a, fs, rfl, he, hf⟩ := rv_in hf
  obtain ⟨x, h1, rfl, hf⟩ := cl_in hf
  subst hst
  obtain ⟨p, l, e, R, s, m, args, below, meth, c⟩ := Γ
  intro X B ls hl H locs hM hz hS
  have X0 := X
  obtain ⟨cc, nL, own, rt, xt, fr, lo, nm⟩ := I
  have hWK := X.2.2.2.2.2.2.2.2.2.2.2.2.1
  have hRc : R.cells = pcl h0 := X.2.2.2.2.2.2.2.2.2.2.1
  have hRs : R.slots = psl h0 := X.2.2.2.2.2.2.2.2.2.2.2.1
  have hRf : fr ≤ R.frames := X.2.2.2.2.2.2.2.2.1
  have hRl : lo ≤ R.locals := X.2.2.2.2.2.2.2.2.2.1
  have hrec := j_recv hWK B hM hS he
  have e1 : (rcl ci).1 = C := by unfold rcl; rw [hc]
  rw [e1] at hrec
  refine j_ran rfl X0 B hl hM hz hS (vx_runV (As := As) (b := a) ⟨X.1, X.2.1, X.2.2.1, X.2.2.2.1, X.2.2.2.2.1⟩ (hct l X.2.2.2.2.2.2.2.2.2.2.2.2.2.2.2.1 x h1 rfl) (cwV n X.2.2.2.2.1 hG rfl rfl rfl hdy ⟨Nat.le_trans (Nat.le_of_ble_eq_true hfr) hRf, Nat.le_trans (Nat.le_of_ble_eq_true hlo) hRl⟩) ⟨cPre_blind, hrec, j_pre hWK B hM hS⟩ rfl hn hl.size rfl (lv_room hW) hd ?_) (fun rv e => kk x h1 rv e hf) (fun ci q fs e h9 => kx x h1 ci q fs e h9 hf)
  rw [hRc, hRs]
  exact j_left B
end JK
