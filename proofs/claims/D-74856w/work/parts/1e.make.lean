/-! NEW EXCEPTIONS OF THE JDK: new X; dup; invokespecial X.<init>() -/
set_option maxRecDepth 100000
theorem jw_in (ws : List Cond) (ps : List Nat) (hp : ws = ps.filterMap (fun i => lw_tbl[i]?)) : ∀ w ∈ ws, w ∈ lw_tbl := by
  intro w h
  rw [hp] at h
  obtain ⟨i, -, hi⟩ := List.mem_filterMap.mp h
  exact List.mem_of_getElem? hi
section JX
variable {Γ : GX} {I : MI} {D : va_G} {h0 : PH} {Q : State → Prop} {h : PH} {pc : Nat} {vs : List (Option Value)} {rest : List Value} {β : Type} {o : β}
theorem j_make0 {ik ic ci : Nat} {cls : String} {names : List String} {T0 : u_T} {K : Nat → PH → Option β} (hne : cls ≠ RX14 ∧ cls ≠ RX19) (hcls : Bundle.fit cls = true) (hnames : ∀ n ∈ names, Bundle.fit n = true) (hcl : Cond.classLink I.2.2.1 ik cls ∈ lw_all) (hini : Cond.initialized cls ∈ lw_all) (hat : ∀ w ∈ vx_at0 I.2.2.1 ic cls names, w ∈ lw_tbl) (hat2 : (vx_at0 I.2.2.1 ic cls names).all (fun w => goodWord w || (nwK w && w.onTables)) = true) (hgood : ∀ w ∈ Cond.classLink I.2.2.1 ik cls :: Cond.initialized cls :: vx_at0 I.2.2.1 ic cls names, vx_ot w = true) (hc : clA[ci]? = some (cls, T0, 0)) (hfr : Nat.ble (names.length + 4) I.2.2.2.2.2.1 = true) (hlo : Nat.ble (8 + (13 * (names.length + 1) + 42)) I.2.2.2.2.2.2.1 = true) (hW : (rest.map fun v => v.category).sum ≤ 8)
    (d0 : decode I.1 pc = .ok (.new ik, 3)) (d3 : decode I.1 (pc + 3) = .ok (.dup, 1)) (d4 : decode I.1 (pc + 4) = .ok (.invokespecial ic, 3)) (hf : nO h ci 6 [] K = some o)
    (kk : ∀ (a : Nat) (h1 : PH), K a h1 = some o → PF Γ I D h0 Q h1 (pc + 7) vs (va_rf (some a) :: rest)) : PF Γ I D h0 Q h pc vs rest := by
  obtain ⟨hb, hf⟩ := if_none hf
  obtain ⟨p, l, e, R, s, m, args, below, meth, c⟩ := Γ
  intro X B ls hl H locs hM hz hS
  have X0 := X
  obtain ⟨cc, nL, own, rt, xt, fr, lo, nm⟩ := I
  have hWK := X.2.2.2.2.2.2.2.2.2.2.2.2.1
  have hts := X.2.2.2.2.1
  have hRf : fr ≤ R.frames := X.2.2.2.2.2.2.2.2.1
  have hRl : lo ≤ R.locals := X.2.2.2.2.2.2.2.2.2.1
  have hRc : R.cells = pcl h0 := X.2.2.2.2.2.2.2.2.2.2.1
  have hRs : R.slots = psl h0 := X.2.2.2.2.2.2.2.2.2.2.2.1
  have hl9 := X.2.2.2.2.2.2.2.2.2.2.2.2.2.2.2.1
  have hs0 : s.heap.size = pn h0 := X.2.2.2.2.2.2.2.2.2.2.2.2.2.1
  have hbs : pbase h0 ≤ pn h0 := X.2.2.2.2.2.2.2.2.2.2.2.2.2.2.1
  have hlo : 8 + (13 * (names.length + 1) + 42) ≤ lo := Nat.le_of_ble_eq_true hlo
  have hfr : names.length + 4 ≤ fr := Nat.le_of_ble_eq_true hfr
  obtain ⟨h1, h2, h3, ws, hP, hDD, hw⟩ := id hM
  have hA9 : pA h.2.1 = pA h0.2.1 := by rw [B.1]
  have hb4 := B.2.1
  have hb5 := B.2.2.1
  have hb6 := B.2.2.2
  have hat9 : ∀ w ∈ vx_at0 own ic cls names, w.before args s = true := fun w hw9 => by
    have h8 := List.all_eq_true.mp hat2 w hw9
    rcases Bool.or_eq_true _ _ ▸ h8 with h7 | h7
    · exact hts w (List.mem_filter.mpr ⟨hat w hw9, h7⟩)
    · obtain ⟨h5, h6⟩ := (Bool.and_eq_true _ _).mp h7
      exact va_Nw.use h6 (hWK.2.1 w (hat w hw9) h5)
  have hS2 := hS
  refine vx_make0 (T0 := T0) (ci := ci) X.1 X.2.1 hl9 X.2.2.2.1 hcls hnames (hts _ hcl) (hts _ hini) hat9 hgood hWK.2.2.2.2.2.2.1 hWK.2.2.2.2.2.2.2.1 hS (hl.size.trans X.2.2.1.symm) d0 d3 d4 hWK.1 hP (hA9 ▸ hDD) (fun q hq => ?_) hc (by omega) (by omega) ?_ ?_ (fun q H1 hP1 hD1 hS1 hN9 => ?_)
  · show h0.2.1.2.2.1 ≤ q
    have : pbase h0 ≤ s.heap.size := by rw [hs0]; exact hbs
    exact Nat.le_trans this hq
  · simp only [pn, pcl] at *
    omega
  · have := hb.2
    simp only [psl] at *
    omega
  · refine W.under (fun hsz hsl => ?_)
    have hqw : (ws ++ [(q, (Sum.inr (ci, []) : va_E))])[ws.length]? = some (q, .inr (ci, [])) := by simp
    have hS3 : va_S (pA h0.2.1) H H1 locs := by
      refine ⟨?_, fun z h1z h2z => ?_, hS1.2.2⟩
      · have hq1 : q < H1.size := (hP1 _ _ hqw).lt
        have hqb : pbase h ≤ q := by
          have := hD1.2 _ _ hqw
          rw [← hA9] at this
          exact this
        have hq2 : ¬ q < pn h := fun hq => by
          obtain ⟨k, e', hk⟩ := hw.2 q hqb hq
          have hkl : k < ws.length := (List.getElem?_eq_some_iff.mp hk).1
          have := hD1.1 k ws.length (q, e') (q, .inr (ci, [])) (by rw [List.getElem?_append_left hkl]; exact hk) hqw rfl
          omega
        omega
      · by_cases hzs : z < s.heap.size
        · rw [hS1.2.1 z hzs h2z, hS2.2.1 z hzs h2z]
        · exfalso
          apply h2z
          show h0.2.1.2.2.1 ≤ z
          have : pbase h0 ≤ s.heap.size := by rw [hs0]; exact hbs
          exact Nat.le_trans this (Nat.le_of_not_lt hzs)
    have hn12 : D.1 ci ≠ D.1 12 := fun h9 => by
      have g1 := (hWK.1.1 ci _ hc).2.1
      have g2 := (hWK.1.1 12 (RX14, TX14, 6) rfl).2.1
      rw [h9] at g1
      obtain ⟨k1, e1, e2⟩ := Vm.findClass_spec g1
      obtain ⟨k2, e3, e4⟩ := Vm.findClass_spec g2
      cases e1.symm.trans e3
      exact hne.1 (e2.symm.trans e4)
    have hn16 : D.1 ci ≠ D.1 16 := fun h9 => by
      have g1 := (hWK.1.1 ci _ hc).2.1
      have g2 := (hWK.1.1 16 (RX19, TX19, 6) rfl).2.1
      rw [h9] at g1
      obtain ⟨k1, e1, e2⟩ := Vm.findClass_spec g1
      obtain ⟨k2, e3, e4⟩ := Vm.findClass_spec g2
      cases e1.symm.trans e3
      exact hne.2 (e2.symm.trans e4)
    exact j_grew X0 B hl hM hz hS hw hP1 (by rw [hA9]; exact hD1) hS3 (hN9.mk hn12 hn16) hb.1 hb.2 (kk _ _ hf)
end JX
