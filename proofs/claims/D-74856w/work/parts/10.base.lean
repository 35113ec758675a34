/-! THE PURE LAYER: a heap as a partial map from addresses to cells; a method's meaning is a plain function on it; PF: the machine goes where the plain function goes -/
set_option maxRecDepth 100000
abbrev PM : Type := Nat → Option va_E
/-- statics' values, the array classes, the base (addresses below it are constants), the constants -/
abbrev PE : Type := (Nat → Value) × (Nat → ClassId) × Nat × PM
/-- the cells, the surroundings, the next address, cells left, slots left -/
abbrev PH : Type := PM × PE × Nat × Nat × Nat
abbrev pbase (h : PH) : Nat := h.2.1.2.2.1
abbrev pro (h : PH) : PM := h.2.1.2.2.2
abbrev pn (h : PH) : Nat := h.2.2.1
abbrev pcl (h : PH) : Nat := h.2.2.2.1
abbrev psl (h : PH) : Nat := h.2.2.2.2
abbrev pA (E : PE) : Nat → Prop := fun q => E.2.2.1 ≤ q
def p_set (h : PH) (a : Nat) (e : va_E) : PH := (fun b => if b = a then some e else h.1 b, h.2)
def p_new (h : PH) (e : va_E) (k : Nat) : PH := (fun b => if b = h.2.2.1 then some e else h.1 b, h.2.1, h.2.2.1 + 1, h.2.2.2.1 - 1, h.2.2.2.2 - k)
abbrev clA : List vw_C := [(RX1, TX1, 5), (RX2, TX2, 22), (RX3, TX3, 9), (RX4, TX4, 2), (RX5, TX5, 3), (RX6, TX6, 13), (RX7, TX7, 18), (RX8, TX8, 4), (RX10, TX10, 7), (RX11, TX11, 7), (RX12, TX12, 7), (RX13, TX13, 7), (RX14, TX14, 6), (RX16, TX16, 7), (RX17, TX17, 4), (RX18, TX18, 7), (RX19, TX19, 6), (RX20, TX20, 3), (RX21, TX21, 5), (RJ2, TJ2, 3), (RJ6, TJ6, 0), (RJ8, TJ8, 4), (RJ9, TJ9, 4), (RJ17, TJ17, 1), (RJ20, TJ20, 0)]
abbrev tyT : List FieldType := [.int, .byte, .long, .boolean, .object "java/lang/Object", .object "LeaderLeases$Node", .object "LeaderLeases$Simulation", .object "java/lang/String"]
abbrev tysOf (E : PE) : List (ClassId × FieldType) := [(E.2.1 0, .int), (E.2.1 1, .byte), (E.2.1 2, .long), (E.2.1 3, .boolean), (E.2.1 4, .object "java/lang/Object"), (E.2.1 5, .object "LeaderLeases$Node"), (E.2.1 6, .object "LeaderLeases$Simulation"), (E.2.1 7, .object "java/lang/String")]
/-- a class of constants: by its number; 25 is the enum -/
def rcl (ci : Nat) : String × u_T := match clA[ci]? with
  | some q => (q.1, q.2.1)
  | none => ("LeaderLeases$Kind", fun _ => ("java/lang/Enum", "ordinal", "I", true))
/-- a constant cell -/
def roAt (E : PE) (a : Nat) (x : va_E) (U : State) (H : Heap) : Prop := match x with
  | .inr (ci, fs) => va_O (rcl ci).1 a (pA E) U H ∧ ∀ (k : Nat) (v : Value), fs[k]? = some v → va_OF ((rcl ci).2 k).1 ((rcl ci).2 k).2.1 ((rcl ci).2 k).2.2.1 v a (pA E) U H
  | .inl (cA, n, .inl f) => E.2.1 0 ≠ E.2.1 1 ∧ ((cA = E.2.1 1 ∧ va_T .byte a n (fun j => .int (f j)) (pA E) U H) ∨ (cA = E.2.1 0 ∧ va_T .int a n (fun j => .int (f j)) (pA E) U H))
  | .inl _ => False
theorem roAt.go {E : PE} {a : Nat} {x : va_E} {u U : State} {H H1 : Heap} (hvm : u.vm.Alike U.vm) (hq : ∀ a : Nat, a < H.size → ¬ pA E a → H1[a]? = H[a]?) (h : roAt E a x u H) : roAt E a x U H1 := by
  match x, h with
  | .inr (ci, fs), h => exact ⟨va_O.moved hvm (h.1.kept hq), fun k v hv => va_OF.moved hvm ((h.2 k v hv).kept hq)⟩
  | .inl (cA, n, .inl f), h =>
    refine ⟨h.1, ?_⟩
    rcases h.2 with h | h
    · exact Or.inl ⟨h.1, va_T.moved hvm (h.2.kept hq)⟩
    · exact Or.inr ⟨h.1, va_T.moved hvm (h.2.kept hq)⟩
/-- the statics that are read: class, name, type -/
abbrev stT : List (String × String × String) := [("LeaderLeases$Kind", "ACQUIRE", "LLeaderLeases$Kind;"), ("LeaderLeases$Kind", "GRANT", "LLeaderLeases$Kind;"), ("LeaderLeases$Kind", "DENY", "LLeaderLeases$Kind;"), ("LeaderLeases$Kind", "RELEASE", "LLeaderLeases$Kind;"), ("LeaderLeases$Kind", "WRITE", "LLeaderLeases$Kind;"), ("LeaderLeases$Kind", "FETCH", "LLeaderLeases$Kind;"), ("LeaderLeases$Kind", "WRITTEN", "LLeaderLeases$Kind;"), ("LeaderLeases$Kind", "FETCHED", "LLeaderLeases$Kind;"), ("LeaderLeases$Kind", "FENCED", "LLeaderLeases$Kind;"), ("java/lang/String", "COMPACT_STRINGS", "Z"), ("java/lang/Integer$IntegerCache", "high", "I"), ("java/lang/Integer$IntegerCache", "cache", "[Ljava/lang/Integer;"), ("jdk/internal/util/Preconditions", "SIOOBE_FORMATTER", "Ljava/util/function/BiFunction;"), ("java/lang/Throwable", "UNASSIGNED_STACK", "[Ljava/lang/StackTraceElement;"), ("java/lang/Throwable", "SUPPRESSED_SENTINEL", "Ljava/util/List;")]
/-- the texts that are loaded: class, place, text -/
abbrev srT : List (String × Nat × String) := [("LeaderLeasesModel", 22, "server"), ("LeaderLeasesModel", 24, "node"), ("LeaderLeasesModel", 26, "lease"), ("LeaderLeasesModel", 28, "renew"), ("LeaderLeasesModel", 30, "retry"), ("LeaderLeasesModel", 32, "jitter"), ("LeaderLeasesModel", 34, "seed"), ("LeaderLeases$Parser", 121, "server"), ("LeaderLeases$Parser", 95, "node"), ("LeaderLeases$Parser", 123, "lease"), ("LeaderLeases$Parser", 125, "renew"), ("LeaderLeases$Parser", 127, "retry"), ("LeaderLeases$Parser", 129, "jitter"), ("LeaderLeases$Parser", 131, "seed")]
/-- pairs of classes that don't cast -/
abbrev ncT : List (String × String) := [("LeaderLeases$RepetitionError", "LeaderLeases$SyntaxError"), ("LeaderLeases$RepetitionError", "LeaderLeases$RangeError"), ("LeaderLeases$MissingNode", "LeaderLeases$SyntaxError"), ("LeaderLeases$MissingNode", "LeaderLeases$RangeError"), ("LeaderLeases$MissingNode", "LeaderLeases$RepetitionError"), ("LeaderLeases$RangeError", "LeaderLeases$SyntaxError"), ("java/lang/IllegalArgumentException", "java/lang/IndexOutOfBoundsException"), ("java/lang/IndexOutOfBoundsException", "java/lang/IllegalArgumentException")]
/-- the interface's methods: the class, the method asked, the method chosen -/
abbrev fwT : List (String × MethodName × MethodName) := [("java/util/ArrayList", ⟨"java/util/List", "add", "(Ljava/lang/Object;)Z"⟩, ⟨"java/util/ArrayList", "add", "(Ljava/lang/Object;)Z"⟩), ("java/util/ArrayList", ⟨"java/util/List", "size", "()I"⟩, ⟨"java/util/ArrayList", "size", "()I"⟩), ("java/util/ArrayList", ⟨"java/util/List", "get", "(I)Ljava/lang/Object;"⟩, ⟨"java/util/ArrayList", "get", "(I)Ljava/lang/Object;"⟩), ("java/util/ArrayList", ⟨"java/util/List", "contains", "(Ljava/lang/Object;)Z"⟩, ⟨"java/util/ArrayList", "contains", "(Ljava/lang/Object;)Z"⟩), ("java/util/ArrayList", ⟨"java/util/List", "isEmpty", "()Z"⟩, ⟨"java/util/ArrayList", "isEmpty", "()Z"⟩), ("java/util/ArrayList", ⟨"java/util/List", "remove", "(I)Ljava/lang/Object;"⟩, ⟨"java/util/ArrayList", "remove", "(I)Ljava/lang/Object;"⟩), ("java/util/ArrayList", ⟨"java/util/List", "remove", "(Ljava/lang/Object;)Z"⟩, ⟨"java/util/ArrayList", "remove", "(Ljava/lang/Object;)Z"⟩), ("java/util/ArrayList", ⟨"java/util/List", "addAll", "(Ljava/util/Collection;)Z"⟩, ⟨"java/util/ArrayList", "addAll", "(Ljava/util/Collection;)Z"⟩), ("java/util/ArrayList", ⟨"java/util/Collection", "toArray", "()[Ljava/lang/Object;"⟩, ⟨"java/util/ArrayList", "toArray", "()[Ljava/lang/Object;"⟩)]
theorem fwT_ok : ∀ q ∈ fwT, q.2.1.cls ≠ "java/lang/invoke/MethodHandle" ∧ q.2.1.cls ≠ "java/lang/invoke/VarHandle" := by decide +kernel
/-- an address among the statics' values: texts from 20 on, the class object of Object[] at 40, the small Integers from 1000 on -/
def sAd (E : PE) (i : Nat) : Nat := match E.1 i with
  | .ref a => a
  | _ => 0
/-- the script: its address is the static 50, its length the static 51, its ints the statics from 2000 on -/
def scL (E : PE) : Nat := match E.1 51 with
  | .int v => v.toNatClampNeg
  | _ => 0
/-- words that don't ride in the lists -/
def nwK (w : Cond) : Bool := match w with
  | .fieldLinkNest .. => true
  | .methodLinkNest .. => true
  | .declares x => decide (x.cls ≠ "java/lang/invoke/MethodHandle" ∧ x.cls ≠ "java/lang/invoke/VarHandle")
  | .castable .. => true
  | .arrayOver (.object _) => true
  | _ => false
def NW (U : State) : Prop := ∀ w ∈ lw_tbl, nwK w = true → va_Nw w U
theorem NW.go {s U : State} (hW : s.WarmedH U.vm) (h : NW s) : NW U := by
  intro w hw hk
  have h1 := h w hw hk
  cases w with
  | fieldLinkNest a i b n d g => exact va_Nw.warmF hW h1
  | methodLinkNest a i x g => exact va_Nw.warmM hW h1
  | declares x => exact va_Nw.warmD hW h1
  | castable a b => exact va_Nw.warmC hW h1
  | arrayOver t =>
    cases t with
    | object C => exact va_AO.moved hW.alike h1
    | _ => exact absurd (show false = true from hk) Bool.false_ne_true
  | _ => exact absurd (show false = true from hk) Bool.false_ne_true
def WK2 (E : PE) (U : State) (H : Heap) : Prop :=
  (∀ (i : Nat) (q : String × Nat × String), srT[i]? = some q → vk_R q.1 q.2.1 q.2.2 (sAd E (20 + i)) U) ∧ (∀ q ∈ ncT, va_Nc q.1 q.2 U) ∧ vx_Zq Bundle.tN "UNASSIGNED_STACK" Bundle.steD (pA E) U H ∧ vx_Zq Bundle.tN "SUPPRESSED_SENTINEL" Bundle.listD (pA E) U H ∧
  va_Mi "[Ljava/lang/Object;" (sAd E 40) U ∧ va_Dc U ∧ (va_T (.object "java/lang/Integer") (sAd E 11) 256 (fun j => .ref (sAd E (1000 + j))) (pA E) U H ∧ va_T .int (sAd E 50) (scL E) (fun j => E.1 (2000 + j)) (pA E) U H) ∧ ∀ q ∈ fwT, va_Fw q.1 q.2.1 q.2.2 U
theorem WK2.go {E : PE} {s U : State} {H H1 : Heap} (hW : s.WarmedH U.vm) (hq : ∀ a : Nat, a < H.size → ¬ pA E a → H1[a]? = H[a]?) (h : WK2 E s H) : WK2 E U H1 :=
  ⟨fun i q hi => (h.1 i q hi).warm hW, fun q hq => va_Nc.moved hW.alike (h.2.1 q hq), vx_Zq.moved hW.alike (h.2.2.1.kept hq), vx_Zq.moved hW.alike (h.2.2.2.1.kept hq), va_Mi.moved hW.alike h.2.2.2.2.1, va_Dc.moved hW.alike h.2.2.2.2.2.1, ⟨va_T.moved hW.alike (h.2.2.2.2.2.2.1.1.kept hq), va_T.moved hW.alike (h.2.2.2.2.2.2.1.2.kept hq)⟩, fun q h9 => va_Fw.moved (fwT_ok q h9) hW.alike (h.2.2.2.2.2.2.2 q h9)⟩
def WK (D : va_G) (E : PE) (U : State) (H : Heap) : Prop :=
  va_K D clA (tysOf E) U ∧ NW U ∧ (∀ (a : Nat) (x : va_E), E.2.2.2 a = some x → roAt E a x U H) ∧ (∀ (i : Nat) (q : String × String × String), stT[i]? = some q → va_Z q.1 q.2.1 q.2.2 (E.1 i) (pA E) U H) ∧ WK2 E U H
theorem WK.go {D : va_G} {E : PE} {s U : State} {H H1 : Heap} (hW : s.WarmedH U.vm) (hq : ∀ a : Nat, a < H.size → ¬ pA E a → H1[a]? = H[a]?) (h : WK D E s H) : WK D E U H1 :=
  ⟨va_K.moved hW.alike h.1, h.2.1.go hW, fun a x hx => (h.2.2.1 a x hx).go hW.alike hq, fun i q hi => va_Z.moved hW.alike ((h.2.2.2.1 i q hi).kept hq), h.2.2.2.2.go hW hq⟩
/-- the heap holds the cells of h -/
def WM (D : va_G) (h : PH) (H : Heap) : Prop :=
  H.size = pn h ∧ pbase h ≤ pn h ∧ ((∀ a : Nat, a < pbase h → h.1 a = pro h a) ∧ MF D (pA h.2.1) H) ∧
  ∃ ws : va_W, va_P D clA ws H ∧ va_D (pA h.2.1) ws ∧ (∀ (a : Nat) (e : va_E), pbase h ≤ a → h.1 a = some e → ∃ k : Nat, ws[k]? = some (a, e)) ∧ ∀ a : Nat, pbase h ≤ a → a < pn h → ∃ (k : Nat) (e : va_E), ws[k]? = some (a, e)
/-- h came out of h0 -/
def Bd (h0 h : PH) : Prop := h.2.1 = h0.2.1 ∧ pn h + pcl h = pn h0 + pcl h0 ∧ pn h0 ≤ pn h ∧ psl h ≤ psl h0
theorem Bd.rf {h : PH} : Bd h h := ⟨rfl, rfl, Nat.le_refl _, Nat.le_refl _⟩
theorem Bd.tr {a b c : PH} (h : Bd a b) (k : Bd b c) : Bd a c := ⟨k.1.trans h.1, k.2.1.trans h.2.1, Nat.le_trans h.2.2.1 k.2.2.1, Nat.le_trans k.2.2.2 h.2.2.2⟩
theorem Bd.set {h0 h : PH} {a : Nat} {e : va_E} (b : Bd h0 h) : Bd h0 (p_set h a e) := b
theorem Bd.new {h0 h : PH} {e : va_E} {k : Nat} (b : Bd h0 h) (hc : 1 ≤ pcl h) : Bd h0 (p_new h e k) := by
  refine ⟨b.1, ?_, ?_, ?_⟩
  · show h.2.2.1 + 1 + (h.2.2.2.1 - 1) = h0.2.2.1 + h0.2.2.2.1
    have h1 : h.2.2.1 + h.2.2.2.1 = h0.2.2.1 + h0.2.2.2.1 := b.2.1
    have h2 : 1 ≤ h.2.2.2.1 := hc
    omega
  · show h0.2.2.1 ≤ h.2.2.1 + 1
    have h1 : h0.2.2.1 ≤ h.2.2.1 := b.2.2.1
    omega
  · show h.2.2.2.2 - k ≤ h0.2.2.2.2
    have h1 : h.2.2.2.2 ≤ h0.2.2.2.2 := b.2.2.2
    omega
/-- the locals -/
def jLS (vs : List (Option Value)) (ls : Array Slot) (nL : Nat) : Prop := ∃ l : List (Nat × Value), lv_has ls nL l ∧ ∀ (i : Nat) (v : Value), vs[i]? = some (some v) → (i, v) ∈ l
theorem jLS.at {vs : List (Option Value)} {ls : Array Slot} {nL : Nat} (h : jLS vs ls nL) {i : Nat} {v : Value} (hi : vs[i]? = some (some v)) : ls[i]? = some (.val v) := by
  obtain ⟨l, h1, h2⟩ := h
  exact h1.2.2 (i, v) (h2 i v hi)
theorem jLS.size {vs : List (Option Value)} {ls : Array Slot} {nL : Nat} (h : jLS vs ls nL) : ls.size = nL := by
  obtain ⟨l, h1, h2⟩ := h
  exact h1.1
theorem jLS.sub {vs vs' : List (Option Value)} {ls : Array Slot} {nL : Nat} (h : jLS vs ls nL) (hs : ∀ (i : Nat) (v : Value), vs'[i]? = some (some v) → vs[i]? = some (some v)) : jLS vs' ls nL := by
  obtain ⟨l, h1, h2⟩ := h
  exact ⟨l, h1, fun i v hi => h2 i v (hs i v hi)⟩
theorem va_rf_cat (r : Option Nat) : (va_rf r).category = 1 := by cases r <;> rfl
theorem cz {X : Value} (hX : X.category = 1) : ∀ w : Value, some (some X) = some (some w) → w.category = 1 := fun w h => by cases h; exact hX
theorem cn : ∀ w : Value, (none : Option (Option Value)) = some (some w) → w.category = 1 := fun w h => by cases h
theorem cn' : ∀ w : Value, some (none : Option Value) = some (some w) → w.category = 1 := fun w h => by cases h
/-- a method's standing facts: its code, locals, class, answer, handlers, frames and words of room -/
abbrev MI : Type := ByteArray × Nat × String × Option FieldType × List ExceptionTableEntry × Nat × Nat × String
abbrev GX : Type := Program × Launch × Env × Room × State × MethodId × Array Value × List Frame × Method × Code
def CX (Γ : GX) (I : MI) (D : va_G) (h0 : PH) : Prop := match Γ, I with
  | (p, l, e, R, s, m, args, below, meth, c), (cc, nL, own, rt, xt, fr, lo, nm) =>
    p.tables.exec = Jvm.exec ∧ c.code = cc ∧ c.maxLocals = nL ∧ s.vm.findClass own = some m.cls ∧ (∀ w ∈ lw_all, w.before args s = true) ∧ meth.locks = false ∧ meth.sig.returnType = rt ∧ c.exceptionTable.toList = xt ∧
    fr ≤ R.frames ∧ lo ≤ R.locals ∧ R.cells = pcl h0 ∧ R.slots = psl h0 ∧ WK D h0.2.1 s s.heap ∧ s.heap.size = pn h0 ∧ pbase h0 ≤ pn h0 ∧ l.stackTraces = false ∧ meth.name = nm
def PF (Γ : GX) (I : MI) (D : va_G) (h0 : PH) (Q : State → Prop) (h : PH) (pc : Nat) (vs : List (Option Value)) (st : List Value) : Prop := match Γ with
  | (p, l, e, R, s, m, args, below, meth, c) =>
    CX (p, l, e, R, s, m, args, below, meth, c) I D h0 → Bd h0 h → ∀ ls : Array Slot, jLS vs ls I.2.1 → ∀ (H : Heap) (locs : List Loc), WM D h H → slotSum H + psl h ≤ slotSum s.heap + psl h0 → va_S (pA h0.2.1) s.heap H locs →
    W p l e R s m args below meth c H locs (pcl h0 - pcl h) (psl h0 - psl h) Q (F0 m pc ls st)
/-- the same while an exception at q flies, thrown at pc -/
def PX (Γ : GX) (I : MI) (D : va_G) (h0 : PH) (Q : State → Prop) (h : PH) (pc : Nat) (vs : List (Option Value)) (q : Nat) : Prop := match Γ with
  | (p, l, e, R, s, m, args, below, meth, c) =>
    CX (p, l, e, R, s, m, args, below, meth, c) I D h0 → Bd h0 h → ∀ ls : Array Slot, jLS vs ls I.2.1 → ∀ (H : Heap) (locs : List Loc), WM D h H → slotSum H + psl h ≤ slotSum s.heap + psl h0 → va_S (pA h0.2.1) s.heap H locs →
    ∀ rest : List Value, vx_W p l e R s m args below meth c H locs (pcl h0 - pcl h) (psl h0 - psl h) Q (F0 m pc ls rest) q
section PB1
variable {p : Program} {l : Launch} {e : Env} {R : Room} {s : State} {m : MethodId} {args : Array Value} {below : List Frame} {meth : Method} {c : Code} {H : Heap} {locs : List Loc} {cells slots : Nat} {Q : State → Prop}
theorem stand_sums {T : State} (X : Stand p l e R s m args below meth c T locs cells slots) : T.slotsUsed = slotSum T.heap ∧ s.slotsUsed = slotSum s.heap := by
  refine ⟨(State.slotsTrue_iff T).mp X.book, ?_⟩
  have h := X.room
  simp only [State.hasRoom, Bool.and_eq_true] at h
  exact (State.slotsTrue_iff s).mp h.2
theorem W.under {g : JFrame} (k : H.size ≤ s.heap.size + cells → slotSum H ≤ slotSum s.heap + slots → W p l e R s m args below meth c H locs cells slots Q g) : W p l e R s m args below meth c H locs cells slots Q g := by
  intro T hT X
  have h1 := X.heapSize
  have h2 := X.used
  have h3 := stand_sums X
  rw [h3.1, h3.2] at h2
  subst hT
  exact k h1 h2 T rfl X
theorem stand_tight {T : State} {k n : Nat} (X : Stand p l e R s m args below meth c T locs cells slots) (h1 : T.heap.size ≤ s.heap.size + k) (h2 : slotSum T.heap ≤ slotSum s.heap + n) : Stand p l e R s m args below meth c T locs k n := by
  have h3 := stand_sums X
  obtain ⟨e1, e2, e3, e4, e5, e6⟩ := X.same
  refine { X with same := ⟨e1, e2, h1, e4, ?_, e6⟩ }
  have e4' : T.slotsUsed = s.slotsUsed + (((T.setVm s.vm).heap.toList.drop s.heap.size).map (·.slots.size)).sum := e4
  rw [h3.1, h3.2] at e4'
  omega
theorem W.tight {g : JFrame} {k n : Nat} (h1 : H.size ≤ s.heap.size + k) (h2 : slotSum H ≤ slotSum s.heap + n) (kk : W p l e R s m args below meth c H locs k n Q g) : W p l e R s m args below meth c H locs cells slots Q g := by
  intro T hT X
  subst hT
  exact kk T rfl (stand_tight X h1 h2)
theorem vx_W.tight {g : JFrame} {q : Addr} {k n : Nat} (h1 : H.size ≤ s.heap.size + k) (h2 : slotSum H ≤ slotSum s.heap + n) (kk : vx_W p l e R s m args below meth c H locs k n Q g q) : vx_W p l e R s m args below meth c H locs cells slots Q g q := by
  intro T hT X
  subst hT
  exact kk T rfl (stand_tight X h1 h2)
end PB1
