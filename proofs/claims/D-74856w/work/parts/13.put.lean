/-! FIELDS with the plain function alongside -/
set_option maxRecDepth 100000
def gIN {β : Type} (h : PH) (r : Option Nat) (ci k : Nat) (K : Int32 → Option β) : Option β := cO_ h r ci fun a fs => if pbase h ≤ a then asI fs[k]? K else none
def gRN {β : Type} (h : PH) (r : Option Nat) (ci k : Nat) (K : Option Nat → Option β) : Option β := cO_ h r ci fun a fs => if pbase h ≤ a then asR fs[k]? K else none
theorem if_none {β : Type} {c : Prop} {d : Decidable c} {A : Option β} {o : β} (hf : (if c then A else none) = some o) : c ∧ A = some o := by
  by_cases hc : c
  · exact ⟨hc, if_t hf hc⟩
  · have := if_f hf hc
    cases this
section JP
variable {Γ : GX} {I : MI} {D : va_G} {h0 : PH} {Q : State → Prop} {h : PH} {pc : Nat} {vs : List (Option Value)} {rest : List Value} {β : Type} {o : β}
theorem j_gI {C : String} {T : u_T} {N index : Nat} {r : Option Nat} {ci k : Nat} {K : Int32 → Option β} (hc : clA[ci]? = some (C, T, N)) (hin : ∀ w ∈ u_ws C T N, w ∈ lw_all) (hk : Nat.blt k N = true) (hlink : Cond.fieldLink I.2.2.1 index (T k).1 (T k).2.1 (T k).2.2.1 ∈ lw_all) (hd : decode I.1 pc = .ok (.getfield index, 3)) (hf : gI h r ci k K = some o)
    (kk : ∀ x : Int32, K x = some o → PF Γ I D h0 Q h (pc + 3) vs (.int x :: rest)) : PF Γ I D h0 Q h pc vs (va_rf r :: rest) := by
  obtain ⟨a, fs, rfl, he, hf⟩ := cO_in hf
  obtain ⟨x, hv, hf⟩ := asI_in hf
  exact j_getV hc hin (Nat.le_of_ble_eq_true hk) hlink hd he hv (kk x hf)
theorem j_gR {C : String} {T : u_T} {N index : Nat} {r : Option Nat} {ci k : Nat} {K : Option Nat → Option β} (hc : clA[ci]? = some (C, T, N)) (hin : ∀ w ∈ u_ws C T N, w ∈ lw_all) (hk : Nat.blt k N = true) (hlink : Cond.fieldLink I.2.2.1 index (T k).1 (T k).2.1 (T k).2.2.1 ∈ lw_all) (hd : decode I.1 pc = .ok (.getfield index, 3)) (hf : gR h r ci k K = some o)
    (kk : ∀ x : Option Nat, K x = some o → PF Γ I D h0 Q h (pc + 3) vs (va_rf x :: rest)) : PF Γ I D h0 Q h pc vs (va_rf r :: rest) := by
  obtain ⟨a, fs, rfl, he, hf⟩ := cO_in hf
  obtain ⟨x, hv, hf⟩ := asR_in hf
  exact j_getV hc hin (Nat.le_of_ble_eq_true hk) hlink hd he hv (kk x hf)
theorem j_gIN {C host : String} {T : u_T} {N index : Nat} {r : Option Nat} {ci k : Nat} {K : Int32 → Option β} (hc : clA[ci]? = some (C, T, N)) (hin : ∀ w ∈ u_ws C T N, w ∈ lw_all) (hk : Nat.blt k N = true) (hlink : Cond.fieldLinkNest I.2.2.1 index (T k).1 (T k).2.1 (T k).2.2.1 host ∈ lw_tbl) (hd : decode I.1 pc = .ok (.getfield index, 3)) (hf : gIN h r ci k K = some o)
    (kk : ∀ x : Int32, K x = some o → PF Γ I D h0 Q h (pc + 3) vs (.int x :: rest)) : PF Γ I D h0 Q h pc vs (va_rf r :: rest) := by
  obtain ⟨a, fs, rfl, he, hf⟩ := cO_in hf
  obtain ⟨hb, hf⟩ := if_none hf
  obtain ⟨x, hv, hf⟩ := asI_in hf
  exact j_getVN hc hin (Nat.le_of_ble_eq_true hk) hlink hd he hb hv (kk x hf)
theorem j_gRN {C host : String} {T : u_T} {N index : Nat} {r : Option Nat} {ci k : Nat} {K : Option Nat → Option β} (hc : clA[ci]? = some (C, T, N)) (hin : ∀ w ∈ u_ws C T N, w ∈ lw_all) (hk : Nat.blt k N = true) (hlink : Cond.fieldLinkNest I.2.2.1 index (T k).1 (T k).2.1 (T k).2.2.1 host ∈ lw_tbl) (hd : decode I.1 pc = .ok (.getfield index, 3)) (hf : gRN h r ci k K = some o)
    (kk : ∀ x : Option Nat, K x = some o → PF Γ I D h0 Q h (pc + 3) vs (va_rf x :: rest)) : PF Γ I D h0 Q h pc vs (va_rf r :: rest) := by
  obtain ⟨a, fs, rfl, he, hf⟩ := cO_in hf
  obtain ⟨hb, hf⟩ := if_none hf
  obtain ⟨x, hv, hf⟩ := asR_in hf
  exact j_getVN hc hin (Nat.le_of_ble_eq_true hk) hlink hd he hb hv (kk x hf)
/-- what a write leaves: the tail of every store -/
theorem j_wrote {p : Program} {l : Launch} {e : Env} {R : Room} {s : State} {m : MethodId} {args : Array Value} {below : List Frame} {meth : Method} {c : Code} {pc' : Nat} {vs' : List (Option Value)} {st' : List Value} {H H1 : Heap} {locs locs1 : List Loc} {ls : Array Slot} {ws : va_W} {k a : Nat} {e0 e1 : va_E}
    (X : CX (p, l, e, R, s, m, args, below, meth, c) I D h0) (B : Bd h0 h) (hl : jLS vs' ls I.2.1) (hM : WM D h H) (hz : slotSum H + psl h ≤ slotSum s.heap + psl h0) (hS : va_S (pA h0.2.1) s.heap H locs)
    (hw : (∀ (a : Nat) (e : va_E), pbase h ≤ a → h.1 a = some e → ∃ k : Nat, ws[k]? = some (a, e)) ∧ ∀ a : Nat, pbase h ≤ a → a < pn h → ∃ (k : Nat) (e : va_E), ws[k]? = some (a, e)) (hDD : va_D (pA h.2.1) ws) (hk : ws[k]? = some (a, e0)) (hP1 : va_P D clA (ws.set k (a, e1)) H1) (hS1 : va_S (pA h0.2.1) H H1 locs1) (hK9 : MK D H H1)
    (kk : PF (p, l, e, R, s, m, args, below, meth, c) I D h0 Q (p_set h a e1) pc' vs' st') : W p l e R s m args below meth c H1 locs1 (pcl h0 - pcl h) (psl h0 - psl h) Q (F0 m pc' ls st') := by
  refine W.under (fun hsz hsl => ?_)
  obtain ⟨cc, nL, own, rt, xt, fr, lo, nm⟩ := I
  have hn0 : s.heap.size = pn h0 := X.2.2.2.2.2.2.2.2.2.2.2.2.2.1
  have hHs : H.size = pn h := hM.1
  have hb2 := B.2.1
  have hb3 := B.2.2.1
  have hb4 := B.2.2.2
  have hsz2 : H1.size = H.size := by
    have := hS1.1
    simp only [pn, pcl] at *
    omega
  refine kk X B ls hl H1 locs1 (hM.set hw hDD hk hP1 hsz2 hK9) ?_ (hS.trans hS1)
  show slotSum H1 + psl h ≤ _
  simp only [psl] at *
  omega
theorem j_putV {C : String} {T : u_T} {N ci k index a : Nat} {fs : List Value} {v : Value} {ty : FieldType} (ty0 : Nat → FieldType) (hty : ∀ k, k < N → parseFieldDescriptor (T k).2.2.1 = some (ty0 k)) (hnm : ∀ a, a < N → ∀ b, b < N → a ≠ b → (T a).2.1 ≠ (T b).2.1) (hc : clA[ci]? = some (C, T, N)) (hin : ∀ w ∈ u_ws C T N, w ∈ lw_all) (hk : k < N) (hlink : Cond.fieldLink I.2.2.1 index (T k).1 (T k).2.1 (T k).2.2.1 ∈ lw_all)
    (hfin : (T k).2.2.2 = false ∨ ((T k).2.2.2 = true ∧ I.2.2.2.2.2.2.2 = "<init>" ∧ (T k).1 = I.2.2.1)) (ht : ty0 k = ty) (hn : narrow ty v = v) (hfit : fits ty v = true) (hd : decode I.1 pc = .ok (.putfield index, 3)) (he : h.1 a = some (.inr (ci, fs))) (hb : pbase h ≤ a) (hl9 : k < fs.length)
    (kk : PF Γ I D h0 Q (p_set h a (.inr (ci, fs.set k v))) (pc + 3) vs rest) : PF Γ I D h0 Q h pc vs (v :: va_rf (some a) :: rest) := by
  obtain ⟨p, l, e, R, s, m, args, below, meth, c⟩ := Γ
  intro X B ls hl H locs hM hz hS
  have X0 := X
  obtain ⟨cc, nL, own, rt, xt, fr, lo, nm⟩ := I
  have hWK := X.2.2.2.2.2.2.2.2.2.2.2.2.1
  obtain ⟨h1, h2, h3, ws, hP, hDD, hw⟩ := id hM
  obtain ⟨q0, hq⟩ := hw.1 a _ hb he
  have hDD0 : va_D (pA h0.2.1) ws := by rw [← B.1]; exact hDD
  rcases hfin with hfin | ⟨hfin, hnm9, hown9⟩
  · exact vm_put X.1 X.2.1 X.2.2.2.2.1 hin ty0 hty hnm X.2.2.2.1 hWK.1 hP hDD0 hS.self q0 hq hc k hk (X.2.2.2.2.1 _ hlink) (fun _ h9 => h9) hfin ((hty k hk).trans (congrArg some ht)) hn hfit hl9 hd (fun H1 locs1 hP1 hD1 hS1 hK9 => j_wrote X0 B hl hM hz hS hw hDD hq hP1 hS1 hK9 kk)
  · have hmn : meth.name = "<init>" := X.2.2.2.2.2.2.2.2.2.2.2.2.2.2.2.2.trans hnm9
    exact vm_putF X.1 X.2.1 X.2.2.2.2.1 hin ty0 hty hnm X.2.2.2.1 hWK.1 hP hDD0 hS.self q0 hq hc k hk (X.2.2.2.2.1 _ hlink) (fun _ h9 => h9) hfin hmn hown9 ((hty k hk).trans (congrArg some ht)) hn hfit hl9 hd (fun H1 locs1 hP1 hD1 hS1 hK9 => j_wrote X0 B hl hM hz hS hw hDD hq hP1 hS1 hK9 kk)
theorem j_putVN {C host : String} {T : u_T} {N ci k index a : Nat} {fs : List Value} {v : Value} {ty : FieldType} (ty0 : Nat → FieldType) (hty : ∀ k, k < N → parseFieldDescriptor (T k).2.2.1 = some (ty0 k)) (hnm : ∀ a, a < N → ∀ b, b < N → a ≠ b → (T a).2.1 ≠ (T b).2.1) (hc : clA[ci]? = some (C, T, N)) (hin : ∀ w ∈ u_ws C T N, w ∈ lw_all) (hk : k < N) (hlink : Cond.fieldLinkNest I.2.2.1 index (T k).1 (T k).2.1 (T k).2.2.1 host ∈ lw_tbl)
    (hfin : (T k).2.2.2 = false) (ht : ty0 k = ty) (hn : narrow ty v = v) (hfit : fits ty v = true) (hd : decode I.1 pc = .ok (.putfield index, 3)) (he : h.1 a = some (.inr (ci, fs))) (hb : pbase h ≤ a) (hl9 : k < fs.length)
    (kk : PF Γ I D h0 Q (p_set h a (.inr (ci, fs.set k v))) (pc + 3) vs rest) : PF Γ I D h0 Q h pc vs (v :: va_rf (some a) :: rest) := by
  obtain ⟨p, l, e, R, s, m, args, below, meth, c⟩ := Γ
  intro X B ls hl H locs hM hz hS
  have X0 := X
  obtain ⟨cc, nL, own, rt, xt, fr, lo, nm⟩ := I
  have hWK := X.2.2.2.2.2.2.2.2.2.2.2.2.1
  obtain ⟨h1, h2, h3, ws, hP, hDD, hw⟩ := id hM
  obtain ⟨q0, hq⟩ := hw.1 a _ hb he
  have hDD0 : va_D (pA h0.2.1) ws := by rw [← B.1]; exact hDD
  exact vm_putN X.1 X.2.1 X.2.2.2.2.1 hin ty0 hty hnm X.2.2.2.1 hWK.1 hP hDD0 hS.self q0 hq hc k hk (va_Nw.use rfl (hWK.2.1 _ hlink rfl)) (fun _ h9 => h9) hfin ((hty k hk).trans (congrArg some ht)) hn hfit hl9 hd (fun H1 locs1 hP1 hD1 hS1 hK9 => j_wrote X0 B hl hM hz hS hw hDD hq hP1 hS1 hK9 kk)
theorem fit_rf {ty : FieldType} (r : Option Nat) (h1 : ∀ a : Nat, narrow ty (.ref a) = .ref a ∧ fits ty (.ref a) = true) (h2 : narrow ty .null = .null ∧ fits ty .null = true) : narrow ty (va_rf r) = va_rf r ∧ fits ty (va_rf r) = true := by
  cases r with
  | none => exact h2
  | some a => exact h1 a
theorem fit_i (x : Int32) : narrow .int (.int x) = .int x ∧ fits .int (.int x) = true := ⟨rfl, rfl⟩
theorem fit_z (x : Int32) (h : x = 0 ∨ x = 1) : narrow .boolean (.int x) = .int x ∧ fits .boolean (.int x) = true := by
  rcases h with rfl | rfl <;> exact ⟨rfl, rfl⟩
theorem fit_o (C : String) (r : Option Nat) : narrow (.object C) (va_rf r) = va_rf r ∧ fits (.object C) (va_rf r) = true := by
  cases r <;> exact ⟨rfl, rfl⟩
theorem fit_a (t : FieldType) (r : Option Nat) : narrow (.array t) (va_rf r) = va_rf r ∧ fits (.array t) (va_rf r) = true := by
  cases r <;> exact ⟨rfl, rfl⟩
theorem j_pV {C : String} {T : u_T} {N index : Nat} {r : Option Nat} {ci k : Nat} {v : Value} {K : PH → Option β} {ty : FieldType} (ty0 : Nat → FieldType) (hty : ∀ k, k < N → parseFieldDescriptor (T k).2.2.1 = some (ty0 k)) (hnm : ∀ a, a < N → ∀ b, b < N → a ≠ b → (T a).2.1 ≠ (T b).2.1) (hc : clA[ci]? = some (C, T, N)) (hin : ∀ w ∈ u_ws C T N, w ∈ lw_all) (hk : Nat.blt k N = true) (hlink : Cond.fieldLink I.2.2.1 index (T k).1 (T k).2.1 (T k).2.2.1 ∈ lw_all)
    (hfin : (T k).2.2.2 = false ∨ ((T k).2.2.2 = true ∧ I.2.2.2.2.2.2.2 = "<init>" ∧ (T k).1 = I.2.2.1)) (ht : ty0 k = ty) (hn : narrow ty v = v ∧ fits ty v = true) (hd : decode I.1 pc = .ok (.putfield index, 3)) (hf : pV h r ci k v K = some o)
    (kk : ∀ h1 : PH, K h1 = some o → PF Γ I D h0 Q h1 (pc + 3) vs rest) : PF Γ I D h0 Q h pc vs (v :: va_rf r :: rest) := by
  obtain ⟨a, fs, rfl, he, hf⟩ := cO_in hf
  obtain ⟨hb, hf⟩ := if_none hf
  exact j_putV ty0 hty hnm hc hin (Nat.le_of_ble_eq_true hk) hlink hfin ht hn.1 hn.2 hd he hb.1 hb.2 (kk _ hf)
theorem j_pVN {C host : String} {T : u_T} {N index : Nat} {r : Option Nat} {ci k : Nat} {v : Value} {K : PH → Option β} {ty : FieldType} (ty0 : Nat → FieldType) (hty : ∀ k, k < N → parseFieldDescriptor (T k).2.2.1 = some (ty0 k)) (hnm : ∀ a, a < N → ∀ b, b < N → a ≠ b → (T a).2.1 ≠ (T b).2.1) (hc : clA[ci]? = some (C, T, N)) (hin : ∀ w ∈ u_ws C T N, w ∈ lw_all) (hk : Nat.blt k N = true) (hlink : Cond.fieldLinkNest I.2.2.1 index (T k).1 (T k).2.1 (T k).2.2.1 host ∈ lw_tbl)
    (hfin : (T k).2.2.2 = false) (ht : ty0 k = ty) (hn : narrow ty v = v ∧ fits ty v = true) (hd : decode I.1 pc = .ok (.putfield index, 3)) (hf : pV h r ci k v K = some o)
    (kk : ∀ h1 : PH, K h1 = some o → PF Γ I D h0 Q h1 (pc + 3) vs rest) : PF Γ I D h0 Q h pc vs (v :: va_rf r :: rest) := by
  obtain ⟨a, fs, rfl, he, hf⟩ := cO_in hf
  obtain ⟨hb, hf⟩ := if_none hf
  exact j_putVN ty0 hty hnm hc hin (Nat.le_of_ble_eq_true hk) hlink hfin ht hn.1 hn.2 hd he hb.1 hb.2 (kk _ hf)
theorem pZ_in {r : Option Nat} {ci k : Nat} {x : Int32} {K : PH → Option β} (hf : pZ h r ci k x K = some o) : (x = 0 ∨ x = 1) ∧ pV h r ci k (.int x) K = some o := if_none hf
end JP
