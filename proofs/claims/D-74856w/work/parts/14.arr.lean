/-! NEW OBJECTS AND ARRAYS, over PF -/
set_option maxRecDepth 100000
abbrev AX : Type := (Nat → Int32) ⊕ (Nat → Int64) ⊕ (Nat → UInt32) ⊕ (Nat → UInt64) ⊕ (Nat → Option Nat)
def nO {β : Type} (h : PH) (ci N : Nat) (fs : List Value) (K : Nat → PH → Option β) : Option β := if 1 ≤ pcl h ∧ N ≤ psl h then K (pn h) (p_new h (.inr (ci, fs)) N) else none
/-- a new array of kind t with n places -/
def nA {β : Type} (h : PH) (t : Nat) (n : Int32) (x : AX) (K : Nat → PH → Option β) : Option β := if ¬ n < 0 ∧ n.toNatClampNeg ≤ 60000000 ∧ 1 ≤ pcl h ∧ n.toNatClampNeg ≤ psl h then K (pn h) (p_new h (.inl (h.2.1.2.1 t, n.toNatClampNeg, x)) n.toNatClampNeg) else none
/-- the array of kind t at a reference -/
def cR_ {β : Type} (h : PH) (r : Option Nat) (t : Nat) (K : Nat → Nat → AX → Option β) : Option β := cA_ h r fun a e => match e with
  | .inr _ => none
  | .inl (c, n, x) => if c = h.2.1.2.1 t then K a n x else none
theorem cR_in {β : Type} {h : PH} {r : Option Nat} {t : Nat} {K : Nat → Nat → AX → Option β} {o : β} (hf : cR_ h r t K = some o) : ∃ (a n : Nat) (x : AX), r = some a ∧ h.1 a = some (.inl (h.2.1.2.1 t, n, x)) ∧ K a n x = some o := by
  obtain ⟨a, e, rfl, he, hf⟩ := cA_in hf
  match e, he, hf with
  | .inr _, _, hf => cases hf
  | .inl (c, n, x), he, hf =>
    by_cases hc : c = h.2.1.2.1 t
    · subst hc
      exact ⟨a, n, x, rfl, he, if_t hf rfl⟩
    · have := if_f hf hc
      cases this
abbrev inR (i : Int32) (n : Nat) : Prop := ¬ (i < 0 ∨ n ≤ i.toNatClampNeg)
def aI {β : Type} (h : PH) (r : Option Nat) (t : Nat) (i : Int32) (K : Int32 → Option β) : Option β := cR_ h r t fun a n x => match x with
  | .inl f => if inR i n ∧ pbase h ≤ a then K (f i.toNatClampNeg) else none
  | .inr _ => none
/-- a byte's place: of a constant's too -/
def aB {β : Type} (h : PH) (r : Option Nat) (i : Int32) (K : Int32 → Option β) : Option β := cR_ h r 1 fun _ n x => match x with
  | .inl f => if inR i n then K (f i.toNatClampNeg) else none
  | .inr _ => none
def aL {β : Type} (h : PH) (r : Option Nat) (t : Nat) (i : Int32) (K : Int64 → Option β) : Option β := cR_ h r t fun a n x => match x with
  | .inr (.inl f) => if inR i n ∧ pbase h ≤ a then K (f i.toNatClampNeg) else none
  | _ => none
def aQ {β : Type} (h : PH) (r : Option Nat) (t : Nat) (i : Int32) (K : Option Nat → Option β) : Option β := cR_ h r t fun a n x => match x with
  | .inr (.inr (.inr (.inr f))) => if inR i n ∧ pbase h ≤ a then K (f i.toNatClampNeg) else none
  | _ => none
def aN {β : Type} (h : PH) (r : Option Nat) (t : Nat) (K : Int32 → Option β) : Option β := cR_ h r t fun _ n _ => K (Int32.ofNat n)
def sI {β : Type} (h : PH) (r : Option Nat) (t : Nat) (i x : Int32) (K : PH → Option β) : Option β := cR_ h r t fun a n y => match y with
  | .inl f => if inR i n ∧ pbase h ≤ a then K (p_set h a (.inl (h.2.1.2.1 t, n, .inl (upd f i.toNatClampNeg x)))) else none
  | .inr _ => none
def sL {β : Type} (h : PH) (r : Option Nat) (t : Nat) (i : Int32) (x : Int64) (K : PH → Option β) : Option β := cR_ h r t fun a n y => match y with
  | .inr (.inl f) => if inR i n ∧ pbase h ≤ a then K (p_set h a (.inl (h.2.1.2.1 t, n, .inr (.inl (vp_updL f i.toNatClampNeg x))))) else none
  | _ => none
/-- may an object of class ci stand in an array of kind t -/
def okQ (t ci : Nat) : Bool := t == 4 || (t == 5 && ci == 5) || (t == 6 && ci == 1) || (t == 7 && ci == 22)
def sQ {β : Type} (h : PH) (r : Option Nat) (t : Nat) (i : Int32) (v : Option Nat) (K : PH → Option β) : Option β := cR_ h r t fun a n y => match y with
  | .inr (.inr (.inr (.inr f))) => if inR i n ∧ pbase h ≤ a then match v with
      | none => K (p_set h a (.inl (h.2.1.2.1 t, n, .inr (.inr (.inr (.inr (va_up f i.toNatClampNeg none)))))))
      | some b => match h.1 b with
        | some (.inr (ci, _)) => if okQ t ci = true ∧ ci ≤ 25 then K (p_set h a (.inl (h.2.1.2.1 t, n, .inr (.inr (.inr (.inr (va_up f i.toNatClampNeg (some b)))))))) else none
        | _ => none
    else none
  | _ => none
section JA
variable {Γ : GX} {I : MI} {D : va_G} {h0 : PH} {Q : State → Prop} {h : PH} {pc : Nat} {vs : List (Option Value)} {rest : List Value} {β : Type} {o : β}
theorem j_grew {p : Program} {l : Launch} {e : Env} {R : Room} {s : State} {m : MethodId} {args : Array Value} {below : List Frame} {meth : Method} {c : Code} {pc' : Nat} {vs' : List (Option Value)} {st' : List Value} {H H1 : Heap} {locs : List Loc} {ls : Array Slot} {ws : va_W} {q N : Nat} {e1 : va_E}
    (X : CX (p, l, e, R, s, m, args, below, meth, c) I D h0) (B : Bd h0 h) (hl : jLS vs' ls I.2.1) (hM : WM D h H) (hz : slotSum H + psl h ≤ slotSum s.heap + psl h0) (hS : va_S (pA h0.2.1) s.heap H locs)
    (hw : (∀ (a : Nat) (e : va_E), pbase h ≤ a → h.1 a = some e → ∃ k : Nat, ws[k]? = some (a, e)) ∧ ∀ a : Nat, pbase h ≤ a → a < pn h → ∃ (k : Nat) (e : va_E), ws[k]? = some (a, e)) (hP1 : va_P D clA (ws ++ [(q, e1)]) H1) (hD1 : va_D (pA h.2.1) (ws ++ [(q, e1)])) (hS1 : va_S (pA h0.2.1) H H1 locs) (hK9 : MK D H H1) (hc : 1 ≤ pcl h) (hN : N ≤ psl h)
    (kk : PF (p, l, e, R, s, m, args, below, meth, c) I D h0 Q (p_new h e1 N) pc' vs' (.ref (pn h) :: st')) : W p l e R s m args below meth c H1 locs (pcl h0 - pcl h + 1) (psl h0 - psl h + N) Q (F0 m pc' ls (.ref q :: st')) := by
  refine W.under (fun hsz hsl => ?_)
  obtain ⟨cc, nL, own, rt, xt, fr, lo, nm⟩ := I
  have hn0 : s.heap.size = pn h0 := X.2.2.2.2.2.2.2.2.2.2.2.2.2.1
  have hHs : H.size = pn h := hM.1
  have hb1 := B.1
  have hb2 := B.2.1
  have hb3 := B.2.2.1
  have hb4 := B.2.2.2
  have hqw : (ws ++ [(q, e1)])[ws.length]? = some (q, e1) := by simp
  have hq1 : q < H1.size := (hP1 _ _ hqw).lt
  have hqb : pbase h ≤ q := hD1.2 _ _ hqw
  have hq2 : ¬ q < pn h := fun hq => by
    obtain ⟨k, e', hk⟩ := hw.2 q hqb hq
    have hkl : k < ws.length := (List.getElem?_eq_some_iff.mp hk).1
    have := hD1.1 k ws.length (q, e') (q, e1) (by rw [List.getElem?_append_left hkl]; exact hk) hqw rfl
    omega
  have hqe : q = pn h := by
    simp only [pn, pcl] at *
    omega
  have hs1 : H1.size = pn h + 1 := by
    simp only [pn, pcl] at *
    omega
  subst hqe
  have hM1 : WM D (p_new h e1 N) H1 := by
    obtain ⟨h1, h2, h3, -⟩ := hM
    refine ⟨hs1, Nat.le_succ_of_le h2, ⟨fun b hb => ?_, hK9.mf h3.2⟩, ws ++ [(pn h, e1)], hP1, hD1, fun b e' hb he => ?_, fun b hb hn => ?_⟩
    · have hb : b < pbase h := hb
      show (if b = h.2.2.1 then some e1 else h.1 b) = _
      rw [if_neg (by simp only [pn] at *; omega)]
      exact h3.1 b hb
    · have he : (if b = h.2.2.1 then some e1 else h.1 b) = some e' := he
      by_cases hba : b = h.2.2.1
      · rw [if_pos hba] at he
        cases he
        subst hba
        exact ⟨_, hqw⟩
      · rw [if_neg hba] at he
        obtain ⟨j, hj⟩ := hw.1 b e' hb he
        exact ⟨j, by rw [List.getElem?_append_left (List.getElem?_eq_some_iff.mp hj).1]; exact hj⟩
    · have hn : b < pn h + 1 := hn
      by_cases hba : b = pn h
      · subst hba
        exact ⟨_, e1, hqw⟩
      · obtain ⟨j, e', hj⟩ := hw.2 b hb (by omega)
        exact ⟨j, e', by rw [List.getElem?_append_left (List.getElem?_eq_some_iff.mp hj).1]; exact hj⟩
  refine W.tight (k := pcl h0 - pcl (p_new h e1 N)) (n := psl h0 - psl (p_new h e1 N)) ?_ ?_ ?_
  · show H1.size ≤ s.heap.size + (pcl h0 - (h.2.2.2.1 - 1))
    simp only [pn, pcl] at *
    omega
  · show slotSum H1 ≤ slotSum s.heap + (psl h0 - (h.2.2.2.2 - N))
    simp only [psl] at *
    omega
  · refine kk X (B.new hc) ls hl H1 locs hM1 ?_ (hS.trans hS1)
    show slotSum H1 + (h.2.2.2.2 - N) ≤ slotSum s.heap + psl h0
    simp only [psl] at *
    omega
theorem j_nO {C : String} {T : u_T} {N ci index : Nat} {fs : List Value} {K : Nat → PH → Option β} (ty0 : Nat → FieldType) (hty : ∀ k, k < N → parseFieldDescriptor (T k).2.2.1 = some (ty0 k)) (hc : clA[ci]? = some (C, T, N)) (hin : ∀ w ∈ u_ws C T N, w ∈ lw_all) (hcl : Cond.classLink I.2.2.1 index C ∈ lw_all) (hinst : Cond.instantiable C N ∈ lw_all) (hini : Cond.initialized C ∈ lw_all) (hfs : ∀ j, j < N → defaultValue (ty0 j) = vp_V fs j) (hd : decode I.1 pc = .ok (.new index, 3)) (hf : nO h ci N fs K = some o)
    (kk : ∀ (a : Nat) (h1 : PH), K a h1 = some o → PF Γ I D h0 Q h1 (pc + 3) vs (va_rf (some a) :: rest)) : PF Γ I D h0 Q h pc vs rest := by
  obtain ⟨hb, hf⟩ := if_none hf
  obtain ⟨p, l, e, R, s, m, args, below, meth, c⟩ := Γ
  intro X B ls hl H locs hM hz hS
  have X0 := X
  obtain ⟨cc, nL, own, rt, xt, fr, lo, nm⟩ := I
  have hWK := X.2.2.2.2.2.2.2.2.2.2.2.2.1
  have hRc : R.cells = pcl h0 := X.2.2.2.2.2.2.2.2.2.2.1
  have hRs : R.slots = psl h0 := X.2.2.2.2.2.2.2.2.2.2.2.1
  obtain ⟨h1, h2, h3, ws, hP, hDD, hw⟩ := id hM
  have hDD0 : va_D (pA h0.2.1) ws := by rw [← B.1]; exact hDD
  have hb2 := B.2.1
  have hb3 := B.2.2.1
  have hb4 := B.2.2.2
  have hbase : pbase h ≤ H.size := by rw [h1]; exact h2
  refine vm_new X.1 X.2.1 X.2.2.2.2.1 hin ty0 hty X.2.2.2.1 (X.2.2.2.2.1 _ hcl) (X.2.2.2.2.1 _ hinst) (X.2.2.2.2.1 _ hini) hWK.1 hP hDD0 hS.self (fun q hq => ?_) hc hfs ?_ ?_ hd (fun q H1 hP1 hD1 hS1 hK9 => j_grew X0 B hl hM hz hS hw hP1 (by rw [B.1]; exact hD1) hS1 hK9 hb.1 hb.2 (kk _ _ hf))
  · show h0.2.1.2.2.1 ≤ q
    rw [← B.1]
    exact Nat.le_trans hbase hq
  · simp only [pn, pcl] at *
    omega
  · simp only [psl] at *
    omega
theorem j_nA {t : Nat} {n : Int32} {x : AX} {K : Nat → PH → Option β} {atype : ArrayType} {ty : FieldType} (hat : newarray.typeOf atype = ty) (ht : ∀ E : PE, (tysOf E)[t]? = some (E.2.1 t, ty)) (hx : ∀ (cA : ClassId) (N : Nat), vp_cell cA (N, x) = arrV cA N (fun _ => defaultValue ty)) (hby : componentBytes ty ≤ 8) (hra : ∀ (U : State) (cA : ClassId), va_RA U cA ty → U.vm.findClass ("[" ++ ty.toString) = some cA) (harr : Cond.arrayClass (newarray.typeOf atype) ∈ lw_all) (hd : decode I.1 pc = .ok (.newarray atype, 2)) (hf : nA h t n x K = some o)
    (kk : ∀ (a : Nat) (h1 : PH), K a h1 = some o → PF Γ I D h0 Q h1 (pc + 2) vs (va_rf (some a) :: rest)) : PF Γ I D h0 Q h pc vs (.int n :: rest) := by
  obtain ⟨hb, hf⟩ := if_none hf
  obtain ⟨p, l, e, R, s, m, args, below, meth, c⟩ := Γ
  intro X B ls hl H locs hM hz hS
  have X0 := X
  obtain ⟨cc, nL, own, rt, xt, fr, lo, nm⟩ := I
  have hWK := X.2.2.2.2.2.2.2.2.2.2.2.2.1
  have hRc : R.cells = pcl h0 := X.2.2.2.2.2.2.2.2.2.2.1
  have hRs : R.slots = psl h0 := X.2.2.2.2.2.2.2.2.2.2.2.1
  obtain ⟨h1, h2, h3, ws, hP, hDD, hw⟩ := id hM
  have hDD0 : va_D (pA h0.2.1) ws := by rw [← B.1]; exact hDD
  have hb2 := B.2.1
  have hb3 := B.2.2.1
  have hb4 := B.2.2.2
  have hbase : pbase h ≤ H.size := by rw [h1]; exact h2
  have hmul : n.toNatClampNeg * componentBytes ty ≤ 60000000 * 8 := Nat.mul_le_mul hb.2.1 hby
  refine vm_newa (ty := ty) X.1 X.2.1 (X.2.2.2.2.1 _ harr) hat hWK.1 hP hDD0 hS.self (fun q hq => ?_) (N' := n.toNatClampNeg) (a0 := (n.toNatClampNeg, x)) (fun cA => hx cA _) hb.1 rfl (by omega) ?_ ?_ hd (fun q cA H1 hK1 hP1 hD1 hS1 hK9 => ?_)
  · show h0.2.1.2.2.1 ≤ q
    rw [← B.1]
    exact Nat.le_trans hbase hq
  · have := hb.2.2.1
    simp only [pn, pcl] at *
    omega
  · have := hb.2.2.2
    simp only [psl] at *
    omega
  · have e1 : (tysOf h0.2.1 ++ [(cA, ty)])[(tysOf h0.2.1).length]? = some (cA, ty) := by simp
    have e2 := hra _ _ (hK1.2 _ _ e1).2
    have e3 := hra _ _ (hWK.1.2 _ _ (ht h0.2.1)).2
    have e4 : cA = h.2.1.2.1 t := by
      rw [B.1]
      exact Option.some.inj (e2.symm.trans e3)
    subst e4
    have hA9 : pA h.2.1 = pA h0.2.1 := by rw [B.1]
    exact j_grew X0 B hl hM hz hS hw hP1 (by rw [hA9]; exact hD1) hS1 hK9 hb.2.2.1 hb.2.2.2 (kk _ _ hf)
end JA
