/-! whole_start out of the plain law -/
set_option maxRecDepth 100000
/-- the plain heap at the start -/
def PH0 (E : PE) : PH := (fun a => if a < E.2.2.1 then E.2.2.2 a else none, E, E.2.2.1, 603072, 7125098)
/-- a private method of a superclass, selected on an instance -/
theorem sel_super {C : String} {y : MethodName} {s : State} {args : Array Value} {n : Nat} (hy : y.cls ≠ "java/lang/invoke/MethodHandle" ∧ y.cls ≠ "java/lang/invoke/VarHandle") (hins : (Cond.instantiable C n).before args s = true) (hpriv : (Cond.privateMethod y).before args s = true) (hinst : (Cond.instanceMethod y).before args s = true) (hdecl : ∀ (mk : MethodId) (k : Class), s.methodNamed? y = some mk → s.vm.classes[mk.cls]? = some k → k.isInterface = false) :
    (Cond.selects C y y).before args s = true := by
  obtain ⟨c, k, hc, hk, -, hniab, -, -⟩ := Cond.instantiable_spec hins
  have hni : k.isInterface = false := (Bool.or_eq_false_iff.mp hniab).1
  obtain ⟨mk, methM, hnamed, hmethM, -, -⟩ := Cond.instanceMethod_spec hinst
  have hfound : s.methodFound? y.cls y.name y.desc = some mk := State.methodFound?_of_named hnamed hy
  have hsel : selectMethod {} s.vm c mk = .method mk := selectMethod_private hmethM (Cond.privateMethod_at hpriv mk methM hnamed hmethM)
  obtain ⟨kM, hkM⟩ : ∃ kM, s.vm.classes[mk.cls]? = some kM := Vm.classAt_of_findClass (findClass_of_methodNamed hnamed)
  have hnM := hdecl mk kM hnamed hkM
  simp only [Cond.before, Cond.holds, Cond.value, hc, hfound, hnamed, hsel, hkM]
  simp; exact hnM
set_option maxHeartbeats 4000000 in
theorem whole_of {p : Program} {e : Env} {s : State} {m : MethodId} {below : List Frame} {meth : Method} {c : Code} (l : Launch) (hflags : l.flags = flags0) {b L : Nat} {xs : Nat → Int32} (hL : L ≤ 320) (C0 : lw_At p s m meth c b L xs) (hnm : meth.name = "law") (hxt : c.exceptionTable.toList = [])
    (hlaw : ∀ E : PE, PS E b L xs → ∃ h1 : PH, f_L_law (some b) (PH0 E) = some (1, h1)) : W p l e room_1 s m #[Value.ref b] below meth c s.heap [] 0 0 (lw_Z below #[Value.ref b] s) (entryFrame m ([Value.ref b] : List Value).toArray 7) := by
  obtain ⟨D, E, hWK, hbase, hPS⟩ := st_world hL C0
  obtain ⟨h1, hf⟩ := hlaw E hPS
  obtain ⟨hx, hcode, hret, hml, hown, hts, hX, hbl, hlk, hgv⟩ := C0
  rw [lg_entry_eq]
  have g1 := lv_entry [Value.ref b] (n := 7) (Nat.le_of_ble_eq_true rfl)
  have g3 : lv_args 0 [Value.ref b] = vsL 0 [some (va_rf (some b)), none, none, none, none, none, none] := rfl
  rw [g3] at g1
  have g2 : jLS [some (va_rf (some b)), none, none, none, none, none, none] ((lg_sl [Value.ref b] ++ List.replicate (7 - (lg_sl [Value.ref b]).length) Slot.unset).toArray) 7 := ⟨_, g1, fun i v hi => by have := vsL_mem _ 0 i v hi; rw [Nat.zero_add] at this; exact this⟩
  have hst : l.stackTraces = false := by
    unfold Launch.stackTraces
    rw [hflags]
    decide +kernel
  have hQ : QL (p, l, e, room_1, s, m, #[Value.ref b], below, meth, c) mi_L_law D (PH0 E) (lw_Z below #[Value.ref b] s) (1, h1) := by
    intro pc vs v hd hv X B ls hl H locs hM hz hS
    cases hv
    refine va_forget (fun q hq => ?_) ?_
    · have := hS.2.2 q hq
      have h2 : E.2.2.1 ≤ q.base := this
      rw [hbase] at h2
      exact h2
    · exact W.widen (Nat.sub_le _ _) (Nat.sub_le _ _) (lw_ret hx hcode hret hlk hd)
  have K := pf_L_law (Γ := (p, l, e, room_1, s, m, #[Value.ref b], below, meth, c)) (D := D) hQ (some b) hf ⟨hx, hcode, hml, hown, fun w h => hts w (lw_all_tbl h), hlk, hret, hxt, by decide, by decide, rfl, rfl, hWK, hbase.symm, Nat.le_refl _, hst, hnm⟩ Bd.rf _ g2 s.heap [] ?_ (Nat.le_refl _) ⟨Nat.le_refl _, fun _ _ _ => rfl, fun _ h => absurd h List.not_mem_nil⟩
  · rw [Nat.sub_self, Nat.sub_self] at K
    exact K
  · refine ⟨hbase.symm, Nat.le_refl _, ⟨fun a ha => ?_, fun a c ha hc => ?_⟩, [], ?_, ?_, ?_, ?_⟩
    · show (if a < E.2.2.1 then E.2.2.2 a else none) = E.2.2.2 a
      have h2 : a < E.2.2.1 := ha
      rw [if_pos h2]
    · have h3 := (Array.getElem?_eq_some_iff.mp hc).1
      have h2 : E.2.2.1 ≤ a := ha
      omega
    · intro k q hk; cases hk
    · exact ⟨(fun i j p q hi => by cases hi), (fun k q hk => by cases hk)⟩
    · intro a x ha hx
      have h2 : ¬ a < E.2.2.1 := Nat.not_lt.mpr ha
      have h3 : (if a < E.2.2.1 then E.2.2.2 a else none) = some x := hx
      rw [if_neg h2] at h3
      cases h3
    · intro a ha hb2
      have h2 : E.2.2.1 ≤ a := ha
      have h3 : a < E.2.2.1 := hb2
      omega
/-- the words of lw_tbl, at the start -/
theorem lw_hts {args : Array Value} {s : State} (hts0 : ∀ w ∈ tables_1, w.before args s = true) : ∀ w ∈ lw_tbl, w.before args s = true := by
  have h1 := k2_hts_sels lw_privs hts0 lw_privs_ok
  have hin : ∀ {w : Cond}, w ∈ lw_tbl → w ∉ lw_more → w.before args s = true := fun hw hn => by
    rcases List.mem_append.mp hw with h | h
    · exact h1 _ h
    · exact absurd h hn
  have hg : ∀ {w : Cond}, w ∈ lw_tbl → (∀ C x y, w = Cond.selects C x y → C ≠ "java/lang/StringBuilder" ∨ y.name ≠ "ensureCapacityInternal" ∧ y.name ≠ "newCapacity") → w.before args s = true := fun hw hn => by
    refine hin hw fun h => ?_
    simp only [lw_more, List.mem_cons, List.not_mem_nil, or_false] at h
    rcases h with h | h
    · rcases hn _ _ _ h with h | h
      · exact h rfl
      · exact h.1 rfl
    · rcases hn _ _ _ h with h | h
      · exact h rfl
      · exact h.2 rfl
  have hsel := hg (lw_all_tbl q314) (fun C x y h => by cases h; exact Or.inr ⟨by decide, by decide⟩)
  have hins := hg (lw_all_tbl q234) (fun C x y h => by cases h)
  have hnI : ∀ (n d : String) (mk : MethodId) (k : Class), s.methodNamed? ⟨"java/lang/AbstractStringBuilder", n, d⟩ = some mk → s.vm.classes[mk.cls]? = some k → k.isInterface = false := by
    intro n d mk k hn hk
    obtain ⟨c, r, m, a1, a2, a3, a4, mk', a5, a6⟩ := Cond.selects_spec hsel
    have e1 := findClass_of_methodNamed hn
    have e2 := findClass_of_methodNamed a3
    have e3 : mk.cls = m.cls := Option.some.inj (e1.symm.trans e2)
    rw [e3, a5] at hk
    cases hk
    exact a6
  intro w hw
  rcases List.mem_append.mp hw with h | h
  · exact h1 w h
  · simp only [lw_more, List.mem_cons, List.not_mem_nil, or_false] at h
    rcases h with rfl | rfl
    · exact sel_super (by decide) hins (hg q277 (fun C x y h => by cases h)) (hg (lw_all_tbl q278) (fun C x y h => by cases h)) (hnI _ _)
    · exact sel_super (by decide) hins (hg q281 (fun C x y h => by cases h)) (hg (lw_all_tbl q282) (fun C x y h => by cases h)) (hnI _ _)
