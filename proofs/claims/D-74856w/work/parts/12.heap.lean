/-! FIELDS, over PF -/
set_option maxRecDepth 100000
/-- the cell at a reference -/
def cA_ {β : Type} (h : PH) (r : Option Nat) (K : Nat → va_E → Option β) : Option β := match r with
  | none => none
  | some a => match h.1 a with
    | none => none
    | some e => K a e
theorem cA_in {β : Type} {h : PH} {r : Option Nat} {K : Nat → va_E → Option β} {o : β} (hf : cA_ h r K = some o) : ∃ (a : Nat) (e : va_E), r = some a ∧ h.1 a = some e ∧ K a e = some o := by
  unfold cA_ at hf
  split at hf
  · cases hf
  · rename_i a
    split at hf
    · cases hf
    · rename_i e he
      exact ⟨a, e, rfl, he, hf⟩
/-- the object of class ci at a reference -/
def cO_ {β : Type} (h : PH) (r : Option Nat) (ci : Nat) (K : Nat → List Value → Option β) : Option β := cA_ h r fun a e => match e with
  | .inl _ => none
  | .inr (c, fs) => if c = ci then K a fs else none
theorem cO_in {β : Type} {h : PH} {r : Option Nat} {ci : Nat} {K : Nat → List Value → Option β} {o : β} (hf : cO_ h r ci K = some o) : ∃ (a : Nat) (fs : List Value), r = some a ∧ h.1 a = some (.inr (ci, fs)) ∧ K a fs = some o := by
  obtain ⟨a, e, rfl, he, hf⟩ := cA_in hf
  match e, he, hf with
  | .inl _, _, hf => cases hf
  | .inr (c, fs), he, hf =>
    by_cases hc : c = ci
    · subst hc
      exact ⟨a, fs, rfl, he, if_t hf rfl⟩
    · have := if_f hf hc
      cases this
def asI {β : Type} (v : Option Value) (K : Int32 → Option β) : Option β := match v with
  | some (.int x) => K x
  | _ => none
def asR {β : Type} (v : Option Value) (K : Option Nat → Option β) : Option β := match v with
  | some (.ref a) => K (some a)
  | some .null => K none
  | _ => none
theorem asI_in {β : Type} {v : Option Value} {K : Int32 → Option β} {o : β} (hf : asI v K = some o) : ∃ x : Int32, v = some (.int x) ∧ K x = some o := by
  unfold asI at hf
  split at hf
  · exact ⟨_, rfl, hf⟩
  · cases hf
theorem asR_in {β : Type} {v : Option Value} {K : Option Nat → Option β} {o : β} (hf : asR v K = some o) : ∃ r : Option Nat, v = some (va_rf r) ∧ K r = some o := by
  unfold asR at hf
  split at hf
  · exact ⟨some _, rfl, hf⟩
  · exact ⟨none, rfl, hf⟩
  · cases hf
/-- a field read -/
def gI {β : Type} (h : PH) (r : Option Nat) (ci k : Nat) (K : Int32 → Option β) : Option β := cO_ h r ci fun _ fs => asI fs[k]? K
def gR {β : Type} (h : PH) (r : Option Nat) (ci k : Nat) (K : Option Nat → Option β) : Option β := cO_ h r ci fun _ fs => asR fs[k]? K
/-- a field written -/
def pV {β : Type} (h : PH) (r : Option Nat) (ci k : Nat) (v : Value) (K : PH → Option β) : Option β := cO_ h r ci fun a fs => if pbase h ≤ a ∧ k < fs.length then K (p_set h a (.inr (ci, fs.set k v))) else none
/-- a boolean field written -/
def pZ {β : Type} (h : PH) (r : Option Nat) (ci k : Nat) (x : Int32) (K : PH → Option β) : Option β := if x = 0 ∨ x = 1 then pV h r ci k (.int x) K else none
section JH
variable {Γ : GX} {I : MI} {D : va_G} {h0 : PH} {Q : State → Prop} {h : PH} {pc : Nat} {vs : List (Option Value)} {rest : List Value}
theorem WM.one {D : va_G} {h : PH} {H : Heap} (hM : WM D h H) {a : Nat} {e : va_E} (hb : pbase h ≤ a) (he : h.1 a = some e) : va_P D clA [(a, e)] H := by
  obtain ⟨-, -, -, ws, hP, -, hc, -⟩ := hM
  obtain ⟨k, hk⟩ := hc a e hb he
  intro j q hj
  have hz : j < 1 := (List.getElem?_eq_some_iff.mp hj).1
  rw [show j = 0 by omega] at hj
  cases hj
  exact hP k _ hk
theorem WM.cst {D : va_G} {h : PH} {H : Heap} (hM : WM D h H) {a : Nat} {e : va_E} (hb : ¬ pbase h ≤ a) (he : h.1 a = some e) : pro h a = some e := by
  obtain ⟨-, -, h3, -⟩ := hM
  rw [← h3.1 a (by omega)]
  exact he
/-- a write of one cell, seen by WM -/
theorem WM.set {D : va_G} {h : PH} {H H1 : Heap} {ws : va_W} {k a : Nat} {e0 e : va_E} (hM : WM D h H) (hw : (∀ (a : Nat) (e : va_E), pbase h ≤ a → h.1 a = some e → ∃ k : Nat, ws[k]? = some (a, e)) ∧ ∀ a : Nat, pbase h ≤ a → a < pn h → ∃ (k : Nat) (e : va_E), ws[k]? = some (a, e)) (hDD : va_D (pA h.2.1) ws) (hk : ws[k]? = some (a, e0)) (hP1 : va_P D clA (ws.set k (a, e)) H1) (hs : H1.size = H.size) (hK9 : MK D H H1) : WM D (p_set h a e) H1 := by
  obtain ⟨h1, h2, h3, -⟩ := hM
  have ha : pbase h ≤ a := hDD.2 k _ hk
  have hkl : k < ws.length := (List.getElem?_eq_some_iff.mp hk).1
  refine ⟨hs.trans h1, h2, ⟨fun b hb => ?_, hK9.mf h3.2⟩, ws.set k (a, e), hP1, hDD.set hk, fun b e' hb he => ?_, fun b hb hn => ?_⟩
  · have hb : b < pbase h := hb
    show (if b = a then some e else h.1 b) = _
    rw [if_neg (by omega)]
    exact h3.1 b hb
  · have he : (if b = a then some e else h.1 b) = some e' := he
    by_cases hba : b = a
    · subst hba
      rw [if_pos rfl] at he
      cases he
      exact ⟨k, List.getElem?_set_self hkl⟩
    · rw [if_neg hba] at he
      obtain ⟨j, hj⟩ := hw.1 b e' hb he
      have hjk : k ≠ j := fun q => by
        subst q
        rw [hk] at hj
        cases hj
        exact hba rfl
      exact ⟨j, by rw [List.getElem?_set_ne hjk]; exact hj⟩
  · obtain ⟨j, e', hj⟩ := hw.2 b hb hn
    by_cases hjk : k = j
    · subst hjk
      rw [hk] at hj
      cases hj
      exact ⟨k, e, List.getElem?_set_self hkl⟩
    · exact ⟨j, e', by rw [List.getElem?_set_ne hjk]; exact hj⟩
theorem va_S.trans {A : Nat → Prop} {H0 H H1 : Heap} {locs locs1 : List Loc} (h : va_S A H0 H locs) (k : va_S A H H1 locs1) : va_S A H0 H1 locs1 :=
  ⟨Nat.le_trans h.1 k.1, fun q h1 h2 => (k.2.1 q (Nat.lt_of_lt_of_le h1 h.1) h2).trans (h.2.1 q h1 h2), k.2.2⟩
theorem va_S.self {A : Nat → Prop} {H0 H : Heap} {locs : List Loc} (h : va_S A H0 H locs) : va_S A H H locs := ⟨Nat.le_refl _, fun _ _ _ => rfl, h.2.2⟩
/-- a constant object's field read -/
theorem ro_OF {E : PE} {a ci : Nat} {fs : List Value} {U : State} {H : Heap} (hro : roAt E a (.inr (ci, fs)) U H) {C : String} {T : u_T} {N k : Nat} (hc : clA[ci]? = some (C, T, N)) {v : Value} (hv : fs[k]? = some v) : va_OF (T k).1 (T k).2.1 (T k).2.2.1 v a (pA E) U H := by
  have h1 := hro.2 k v hv
  have e1 : (rcl ci).2 = T := by unfold rcl; rw [hc]
  rw [e1] at h1
  exact h1
theorem j_getV {C : String} {T : u_T} {N ci k index a : Nat} {fs : List Value} {v : Value} (hc : clA[ci]? = some (C, T, N)) (hin : ∀ w ∈ u_ws C T N, w ∈ lw_all) (hk : k < N) (hlink : Cond.fieldLink I.2.2.1 index (T k).1 (T k).2.1 (T k).2.2.1 ∈ lw_all) (hd : decode I.1 pc = .ok (.getfield index, 3)) (he : h.1 a = some (.inr (ci, fs))) (hv : fs[k]? = some v)
    (kk : PF Γ I D h0 Q h (pc + 3) vs (v :: rest)) : PF Γ I D h0 Q h pc vs (va_rf (some a) :: rest) := by
  obtain ⟨p, l, e, R, s, m, args, below, meth, c⟩ := Γ
  obtain ⟨cc, nL, own, rt, xt, fr, lo, nm⟩ := I
  intro X B ls hl H locs hM hz hS
  have hWK := X.2.2.2.2.2.2.2.2.2.2.2.2.1
  by_cases hb : pbase h ≤ a
  · exact va_get X.1 X.2.1 X.2.2.2.2.1 hin X.2.2.2.1 hWK.1 (hM.one hb he) 0 rfl hc k hk (X.2.2.2.2.1 _ hlink) (fun _ h9 => h9) hv hd (kk X B ls hl H locs hM hz hS)
  · have h1 := hM.cst hb he
    have h2 : h0.2.1.2.2.2 a = some (.inr (ci, fs)) := by rw [← B.1]; exact h1
    exact vk_getf X.1 X.2.1 (ro_OF (hWK.2.2.1 a _ h2) hc hv) hS X.2.2.2.1 (X.2.2.2.2.1 _ hlink) (fun _ h9 => h9) hd (kk X B ls hl H locs hM hz hS)
theorem j_getVN {C host : String} {T : u_T} {N ci k index a : Nat} {fs : List Value} {v : Value} (hc : clA[ci]? = some (C, T, N)) (hin : ∀ w ∈ u_ws C T N, w ∈ lw_all) (hk : k < N) (hlink : Cond.fieldLinkNest I.2.2.1 index (T k).1 (T k).2.1 (T k).2.2.1 host ∈ lw_tbl) (hd : decode I.1 pc = .ok (.getfield index, 3)) (he : h.1 a = some (.inr (ci, fs))) (hb : pbase h ≤ a) (hv : fs[k]? = some v)
    (kk : PF Γ I D h0 Q h (pc + 3) vs (v :: rest)) : PF Γ I D h0 Q h pc vs (va_rf (some a) :: rest) := by
  obtain ⟨p, l, e, R, s, m, args, below, meth, c⟩ := Γ
  obtain ⟨cc, nL, own, rt, xt, fr, lo, nm⟩ := I
  intro X B ls hl H locs hM hz hS
  have hWK := X.2.2.2.2.2.2.2.2.2.2.2.2.1
  exact va_getN X.1 X.2.1 X.2.2.2.2.1 hin X.2.2.2.1 hWK.1 (hM.one hb he) 0 rfl hc k hk (va_Nw.use rfl (hWK.2.1 _ hlink rfl)) (fun _ h9 => h9) hv hd (kk X B ls hl H locs hM hz hS)
end JH
