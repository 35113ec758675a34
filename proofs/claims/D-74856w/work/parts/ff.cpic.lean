/-! THE COMPONENT reads: the picture of the parser -/
set_option maxRecDepth 100000
/-- the capacity of a list of n that was made for two -/
def cpL (n : Nat) : Nat := if n ≤ 2 then 2 else if n ≤ 3 then 3 else if n ≤ 4 then 4 else if n ≤ 6 then 6 else 9
theorem cpL_up {n : Nat} (hn : n ≤ 8) : (if n = cpL n then cpL n + max 1 (cpL n / 2) else cpL n) = cpL (n + 1) := by
  have : n = 0 ∨ n = 1 ∨ n = 2 ∨ n = 3 ∨ n = 4 ∨ n = 5 ∨ n = 6 ∨ n = 7 ∨ n = 8 := by omega
  rcases this with rfl | rfl | rfl | rfl | rfl | rfl | rfl | rfl | rfl <;> rfl
theorem cpL_b {n : Nat} : 2 ≤ cpL n ∧ cpL n ≤ 9 := by
  unfold cpL
  repeat' split
  all_goals omega
/-- a string with its row, both below the end -/
def SWB (h : PH) (a : Nat) (w : List Nat) : Prop := ∃ (u : Nat) (fs : List Value) (f : Nat → Int32), h.1 a = some (.inr (22, .ref u :: .int 0 :: fs)) ∧ h.1 u = some (.inl (h.2.1.2.1 1, w.length, .inl f)) ∧ (∀ i : Nat, i < w.length → f i = Int32.ofNat (w.getD i 0)) ∧ (∀ i : Nat, i < w.length → w.getD i 0 < 256) ∧ w.length ≤ 400 ∧ a < pn h ∧ u < pn h
theorem SWB.stw {h : PH} {a : Nat} {w : List Nat} (hS : SWB h a w) : STW h a w := by
  obtain ⟨u, fs, f, a1, a2, a3, a4, a5, -⟩ := hS
  exact ⟨u, fs, f, a1, a2, a3, a4, a5⟩
/-- clocks, numbers and strings stay -/
def FK (h h' : PH) : Prop := (∀ (b ci : Nat) (fs : List Value), h.1 b = some (.inr (ci, fs)) → ci = 3 ∨ ci = 23 → b < pn h → h'.1 b = some (.inr (ci, fs))) ∧ (∀ (a : Nat) (w : List Nat), SWB h a w → SWB h' a w) ∧ h'.2.1 = h.2.1 ∧ pn h ≤ pn h'
def kp (e : va_E) : Prop := (∃ (ci : Nat) (fs : List Value), e = .inr (ci, fs) ∧ (ci = 3 ∨ ci = 22 ∨ ci = 23)) ∨ ∃ (c : ClassId) (n : Nat) (f : Nat → Int32), e = .inl (c, n, .inl f)
section FKS
variable {h h' h'' : PH}
theorem FK.of (hk : ∀ (b : Nat) (e : va_E), h.1 b = some e → kp e → b < pn h → h'.1 b = some e) (he : h'.2.1 = h.2.1) (hn : pn h ≤ pn h') : FK h h' := by
  refine ⟨fun b ci fs h1 h2 h3 => hk b _ h1 (Or.inl ⟨ci, fs, rfl, by omega⟩) h3, fun a w hS => ?_, he, hn⟩
  obtain ⟨u, fs, f, a1, a2, a3, a4, a5, a6, a7⟩ := hS
  exact ⟨u, fs, f, hk a _ a1 (Or.inl ⟨22, _, rfl, by omega⟩) a6, by rw [he]; exact hk u _ a2 (Or.inr ⟨_, _, _, rfl⟩) a7, a3, a4, a5, by omega, by omega⟩
theorem FK.refl : FK h h := ⟨fun _ _ _ h1 _ _ => h1, fun _ _ h1 => h1, rfl, Nat.le_refl _⟩
theorem FK.trans (a : FK h h') (b : FK h' h'') : FK h h'' := by
  obtain ⟨a1, a2, a3, a4⟩ := a
  obtain ⟨b1, b2, b3, b4⟩ := b
  exact ⟨fun q ci fs h1 h2 h3 => b1 q ci fs (a1 q ci fs h1 h2 h3) h2 (by omega), fun q w h1 => b2 q w (a2 q w h1), b3.trans a3, by omega⟩
theorem FK.set {a ci : Nat} {fs : List Value} {e : va_E} (ha : h.1 a = some (.inr (ci, fs))) (hc : ci ≠ 3 ∧ ci ≠ 22 ∧ ci ≠ 23) : FK h (p_set h a e) := by
  refine FK.of (fun b x h1 h2 h3 => ?_) rfl (Nat.le_refl _)
  have : b ≠ a := fun hy => by
    rw [hy, ha] at h1
    cases h1
    rcases h2 with ⟨ci', fs', e1, e2⟩ | ⟨c, n, f, e1⟩
    · cases e1
      omega
    · cases e1
  rw [ps_ne this, h1]
theorem FK.new {e : va_E} {k : Nat} : FK h (p_new h e k) := FK.of (fun b x h1 _ h3 => by rw [pn_ne (by omega), h1]) rfl (Nat.le_succ _)
end FKS
/-- a list in the picture -/
def LQ (n0 : Nat) (h : PH) (l row : Nat) (xs : List Nat) : Prop := (∃ mc : Int32, LSP h l row (cpL xs.length) mc xs) ∧ n0 ≤ l ∧ n0 ≤ row
theorem LQ.fr {n0 l row : Nat} {xs : List Nat} {h h' : PH} (hL : LQ n0 h l row xs) (e1 : h'.1 l = h.1 l) (e2 : h'.1 row = h.1 row) (he : h'.2.1 = h.2.1) (hn : pn h ≤ pn h') : LQ n0 h' l row xs := by
  obtain ⟨⟨mc, a1, ⟨f, a4, a5⟩, a2, a3, a6, a7, a8, l1, l2⟩, b1, b2⟩ := hL
  have hb : pbase h' = pbase h := by unfold pbase; rw [he]
  exact ⟨⟨mc, e1.trans a1, ⟨f, by rw [e2, he]; exact a4, a5⟩, by omega, by omega, a6, a7, a8, by omega, by omega⟩, b1, b2⟩
/-- the clocks of the nodes ns -/
def CKS (n0 : Nat) (h : PH) (xs : List Nat) (ns : List (Nat × Nat × Nat)) : Prop := xs.length = ns.length ∧ ∀ i : Nat, i < ns.length → h.1 (xs.getD i 0) = some (.inr (3, [.int (Int32.ofNat (ns.getD i (0, 0, 0)).1), .int (Int32.ofNat (ns.getD i (0, 0, 0)).2.1)])) ∧ n0 ≤ xs.getD i 0 ∧ xs.getD i 0 < pn h
def DLS (h : PH) (ys : List Nat) (ns : List (Nat × Nat × Nat)) : Prop := ys.length = ns.length ∧ ∀ i : Nat, i < ns.length → h.1 (ys.getD i 0) = some (.inr (23, [.int (Int32.ofNat (ns.getD i (0, 0, 0)).2.2)])) ∧ ys.getD i 0 < pn h
def HDS (h : PH) (zs : List Nat) (ws : List (List Nat)) : Prop := zs.length = ws.length ∧ ∀ i : Nat, i < ws.length → SWB h (zs.getD i 0) (ws.getD i [])
/-- how many words were met -/
def cnM (c : CS) : Nat := (if c.2.2 0 = true then 1 else 0) + (if c.2.2 2 = true then 1 else 0) + (if c.2.2 3 = true then 1 else 0) + (if c.2.2 4 = true then 1 else 0) + (if c.2.2 5 = true then 1 else 0) + (if c.2.2 6 = true then 1 else 0)
theorem cnM_le {c : CS} : cnM c ≤ 6 := by
  unfold cnM
  repeat' split
  all_goals omega
def MET (ws : List (List Nat)) (c : CS) : Prop := ws.length = cnM c ∧ (∀ k : Nat, k < 7 → k ≠ 1 → (wd k ∈ ws ↔ c.2.2 k = true)) ∧ ∀ w : List Nat, w ∈ ws → ∃ k : Nat, k < 7 ∧ k ≠ 1 ∧ w = wd k
theorem CKS.fk {n0 : Nat} {h h' : PH} {xs : List Nat} {ns : List (Nat × Nat × Nat)} (hC : CKS n0 h xs ns) (f : FK h h') : CKS n0 h' xs ns := by
  refine ⟨hC.1, fun i hi => ?_⟩
  obtain ⟨a1, a2, a3⟩ := hC.2 i hi
  have := f.2.2.2
  exact ⟨f.1 _ _ _ a1 (Or.inl rfl) a3, a2, by omega⟩
theorem DLS.fk {h h' : PH} {xs : List Nat} {ns : List (Nat × Nat × Nat)} (hC : DLS h xs ns) (f : FK h h') : DLS h' xs ns := by
  refine ⟨hC.1, fun i hi => ?_⟩
  obtain ⟨a1, a3⟩ := hC.2 i hi
  have := f.2.2.2
  exact ⟨f.1 _ _ _ a1 (Or.inr rfl) a3, by omega⟩
theorem HDS.fk {h h' : PH} {zs : List Nat} {ws : List (List Nat)} (hC : HDS h zs ws) (f : FK h h') : HDS h' zs ws := ⟨hC.1, fun i hi => f.2.1 _ _ (hC.2 i hi)⟩
/-- the configuration's cell -/
def cfP (sv lc ld : Nat) (g : Nat → Nat) : va_E := .inr (2, [.ref sv, .ref lc, .ref ld, .int (Int32.ofNat (g 3)), .int (Int32.ofNat (g 4)), .int (Int32.ofNat (g 5)), .int (Int32.ofNat (g 6)), .int (Int32.ofNat (g 7)), .int (Int32.ofNat (g 8))])
/-- what the parser knows of the world: texts, small Integers, statics -/
def ENV (n0 : Nat) (h : PH) : Prop := (∀ k : Nat, k < 7 → ∃ (u : Nat) (fs : List Value) (f : Nat → Int32), h.1 (sAd h.2.1 (27 + k)) = some (.inr (22, .ref u :: .int 0 :: fs)) ∧ h.1 u = some (.inl (h.2.1.2.1 1, (wd k).length, .inl f)) ∧ (∀ i : Nat, i < (wd k).length → f i = Int32.ofNat ((wd k).getD i 0)) ∧ sAd h.2.1 (27 + k) < n0 ∧ u < n0) ∧
  (∀ j : Nat, j < 256 → sAd h.2.1 (1000 + j) < n0 ∧ h.1 (sAd h.2.1 (1000 + j)) = some (.inr (23, [.int (Int32.ofNat j - 128)]))) ∧ h.2.1.1 9 = .int 1 ∧ h.2.1.1 10 = .int 127 ∧ h.2.1.1 11 = .ref (sAd h.2.1 11) ∧ EX h.2.1 ∧ pbase h ≤ n0
theorem ENV.gr {n0 n1 C s : Nat} {h h' : PH} (hE : ENV n0 h) (g : GR n1 C s h h') (hn : n0 ≤ n1) : ENV n0 h' := by
  obtain ⟨a1, a2, a3, a4, a5, a6, a7⟩ := hE
  have he := g.2.1
  have hb := g.base
  refine ⟨fun k hk => ?_, fun j hj => ?_, by rw [he]; exact a3, by rw [he]; exact a4, by rw [he]; exact a5, by rw [he]; exact a6, by omega⟩
  · obtain ⟨u, fs, f, b1, b2, b3, b4, b5⟩ := a1 k hk
    rw [he]
    exact ⟨u, fs, f, by rw [g.1 _ (by omega)]; exact b1, by rw [g.1 _ (by omega)]; exact b2, b3, b4, b5⟩
  · rw [he]
    obtain ⟨b1, b2⟩ := a2 j hj
    exact ⟨b1, by rw [g.1 _ (by omega)]; exact b2⟩
theorem wd_len {k : Nat} : (wd k).length ≤ 6 ∧ ∀ i : Nat, i < (wd k).length → (wd k).getD i 0 < 256 := by
  unfold wd
  repeat' split
  all_goals refine ⟨by decide, ?_⟩
  all_goals decide
theorem ENV.word {n0 k : Nat} {h : PH} (hE : ENV n0 h) (hk : k < 7) : STW h (sAd h.2.1 (27 + k)) (wd k) := by
  obtain ⟨u, fs, f, b1, b2, b3, -⟩ := hE.1 k hk
  have := wd_len (k := k)
  exact ⟨u, fs, f, b1, b2, b3, this.2, by omega⟩
/-- the parser's picture but for its place -/
def PRC (n0 ca ha lc ld : Nat) (ns : List (Nat × Nat × Nat)) (sv rc rd rh : Nat) (xs ys zs : List Nat) (ws : List (List Nat)) (c : CS) (h : PH) : Prop :=
  h.1 ca = some (cfP sv lc ld c.1) ∧ (n0 ≤ ca ∧ ca < pn h) ∧ (h.1 sv = some (.inr (3, [.int (Int32.ofNat (c.1 0)), .int (Int32.ofNat (c.1 1))])) ∧ n0 ≤ sv ∧ sv < pn h) ∧
  LQ n0 h lc rc xs ∧ LQ n0 h ld rd ys ∧ LQ n0 h ha rh zs ∧ (lc ≠ ld ∧ lc ≠ ha ∧ ld ≠ ha) ∧ (rc ≠ rd ∧ rc ≠ rh ∧ rd ≠ rh) ∧ CKS n0 h xs ns ∧ DLS h ys c.2.1 ∧ HDS h zs ws ∧ MET ws c ∧ c.2.1.length ≤ 6 ∧ ns.length ≤ 6
/-- the whole -/
def PPS (n0 X bA sA sim : Nat) (le : Int32) (pa ca ha lc ld : Nat) (bf : Nat → Nat) (len : Nat) (ns : List (Nat × Nat × Nat)) (c : CS) (p : Nat) (h : PH) : Prop :=
  PPH X bA sA sim le pa ca ha bf len p h ∧ ENV n0 h ∧ X < n0 ∧ bA < n0 ∧ n0 ≤ pa ∧ pa < pn h ∧ ∃ (sv rc rd rh : Nat) (xs ys zs : List Nat) (ws : List (List Nat)), PRC n0 ca ha lc ld ns sv rc rd rh xs ys zs ws c h
section PIC
variable {n0 X bA sA sim pa ca ha lc ld len p : Nat} {ns : List (Nat × Nat × Nat)} {le : Int32} {bf : Nat → Nat} {c : CS} {h h' : PH} {sv rc rd rh : Nat} {xs ys zs : List Nat} {ws : List (List Nat)}
/-- a cell of the picture is an object, or a row of references -/
theorem PRC.ne {a : Nat} {fs : List Value} (hP : PRC n0 ca ha lc ld ns sv rc rd rh xs ys zs ws c h) (ha' : h.1 a = some (.inr (7, fs))) : ca ≠ a ∧ lc ≠ a ∧ ld ≠ a ∧ ha ≠ a ∧ rc ≠ a ∧ rd ≠ a ∧ rh ≠ a := by
  obtain ⟨p1, p2, p3, ⟨⟨m1, q1, ⟨f1, r1, -⟩, -⟩, -⟩, ⟨⟨m2, q2, ⟨f2, r2, -⟩, -⟩, -⟩, ⟨⟨m3, q3, ⟨f3, r3, -⟩, -⟩, -⟩, -⟩ := hP
  refine ⟨?_, ?_, ?_, ?_, ?_, ?_, ?_⟩
  · intro hy; rw [hy, ha'] at p1; cases p1
  · intro hy; rw [hy, ha'] at q1; cases q1
  · intro hy; rw [hy, ha'] at q2; cases q2
  · intro hy; rw [hy, ha'] at q3; cases q3
  · intro hy; rw [hy, ha'] at r1; cases r1
  · intro hy; rw [hy, ha'] at r2; cases r2
  · intro hy; rw [hy, ha'] at r3; cases r3
theorem PRC.fr (hP : PRC n0 ca ha lc ld ns sv rc rd rh xs ys zs ws c h) (f : FK h h') (e0 : h'.1 ca = h.1 ca) (e1 : h'.1 lc = h.1 lc) (e2 : h'.1 ld = h.1 ld) (e3 : h'.1 ha = h.1 ha) (e4 : h'.1 rc = h.1 rc) (e5 : h'.1 rd = h.1 rd) (e6 : h'.1 rh = h.1 rh) : PRC n0 ca ha lc ld ns sv rc rd rh xs ys zs ws c h' := by
  obtain ⟨p1, p2, p3, p4, p5, p6, p7, p8, p9, p10, p11, p12, p13⟩ := hP
  have hn := f.2.2.2
  exact ⟨e0.trans p1, ⟨p2.1, by omega⟩, ⟨f.1 _ _ _ p3.1 (Or.inl rfl) p3.2.2, p3.2.1, by omega⟩, p4.fr e1 e4 f.2.2.1 hn, p5.fr e2 e5 f.2.2.1 hn, p6.fr e3 e6 f.2.2.1 hn, p7, p8, p9.fk f, p10.fk f, p11.fk f, p12, p13⟩
theorem PRC.lt (hP : PRC n0 ca ha lc ld ns sv rc rd rh xs ys zs ws c h) : ca < pn h ∧ lc < pn h ∧ ld < pn h ∧ ha < pn h ∧ rc < pn h ∧ rd < pn h ∧ rh < pn h := by
  obtain ⟨p1, p2, p3, ⟨⟨m1, q1, -, -, -, -, -, -, l1, l2⟩, -⟩, ⟨⟨m2, q2, -, -, -, -, -, -, l3, l4⟩, -⟩, ⟨⟨m3, q3, -, -, -, -, -, -, l5, l6⟩, -⟩, -⟩ := hP
  exact ⟨p2.2, l1, l3, l5, l2, l4, l6⟩
/-- the place is set -/
theorem PPS.at_ {q : Nat} (hP : PPS n0 X bA sA sim le pa ca ha lc ld bf len ns c p h) (hq : q ≤ len) : PPS n0 X bA sA sim le pa ca ha lc ld bf len ns c q (pP h pa ca ha X q) := by
  obtain ⟨a1, a2, a3, a4, a5, a6, sv, rc, rd, rh, xs, ys, zs, ws, a7⟩ := hP
  have ea : h.1 pa = some (cPar ca ha X p) := a1.1
  have hne := a7.ne ea
  refine ⟨a1.at_ hq, a2.gr (GR.set (n := n0) a5) (Nat.le_refl _), a3, a4, a5, a6, sv, rc, rd, rh, xs, ys, zs, ws, a7.fr (FK.set ea (by decide)) (ps_ne hne.1) (ps_ne hne.2.1) (ps_ne hne.2.2.1) (ps_ne hne.2.2.2.1) (ps_ne hne.2.2.2.2.1) (ps_ne hne.2.2.2.2.2.1) (ps_ne hne.2.2.2.2.2.2)⟩
/-- cells are made; the strings' hashes may be set -/
theorem PPS.grow {C s : Nat} (hP : PPS n0 X bA sA sim le pa ca ha lc ld bf len ns c p h) (g : GR (pn h) C s h h') : PPS n0 X bA sA sim le pa ca ha lc ld bf len ns c p h' := by
  obtain ⟨a1, a2, a3, a4, a5, a6, sv, rc, rd, rh, xs, ys, zs, ws, a7⟩ := hP
  have hl := a7.lt
  have hn := g.2.2.1
  have f : FK h h' := FK.of (fun b e h1 _ h3 => by rw [g.1 b h3, h1]) g.2.1 hn
  exact ⟨a1.gr g a6 (by omega) (by omega), a2.gr g (by omega), a3, a4, a5, by omega, sv, rc, rd, rh, xs, ys, zs, ws, a7.fr f (g.1 _ hl.1) (g.1 _ hl.2.1) (g.1 _ hl.2.2.1) (g.1 _ hl.2.2.2.1) (g.1 _ hl.2.2.2.2.1) (g.1 _ hl.2.2.2.2.2.1) (g.1 _ hl.2.2.2.2.2.2)⟩
theorem PPS.pb (hP : PPS n0 X bA sA sim le pa ca ha lc ld bf len ns c p h) : pbase h ≤ n0 ∧ n0 ≤ pn h ∧ pa < pn h ∧ p ≤ len ∧ len ≤ 400 := by
  obtain ⟨a1, a2, a3, a4, a5, a6, -⟩ := hP
  exact ⟨a2.2.2.2.2.2.2, by omega, a6, a1.2.2.2.2.2.2.2.2, a1.b2.2⟩
/-- a cell of the configuration is set -/
theorem PPS.cfg {g : Nat → Nat} (hP : PPS n0 X bA sA sim le pa ca ha lc ld bf len ns c p h) (h0 : g 0 = c.1 0) (h1 : g 1 = c.1 1) : ∃ sv : Nat, h.1 ca = some (cfP sv lc ld c.1) ∧ n0 ≤ ca ∧ PPS n0 X bA sA sim le pa ca ha lc ld bf len ns (g, c.2) p (p_set h ca (cfP sv lc ld g)) := by
  obtain ⟨a1, a2, a3, a4, a5, a6, sv, rc, rd, rh, xs, ys, zs, ws, a7⟩ := hP
  have ec := a7.1
  have hne : ∀ b : Nat, (∃ e : va_E, h.1 b = some e ∧ (∀ fs : List Value, e ≠ .inr (2, fs))) → b ≠ ca := fun b ⟨e, e1, e2⟩ hy => by
    rw [hy, ec] at e1
    cases e1
    exact e2 _ rfl
  obtain ⟨p1, p2, p3, p4, p5, p6, p7, p8, p9, p10, p11, p12, p13⟩ := a7
  have f : FK h (p_set h ca (cfP sv lc ld g)) := FK.set ec (by decide)
  have hn : pa ≠ ca := hne pa ⟨_, a1.1, fun fs hy => by cases hy⟩
  have nl : ∀ {l row : Nat} {xs : List Nat}, LQ n0 h l row xs → l ≠ ca ∧ row ≠ ca := fun ⟨⟨m1, q1, ⟨f1, r1, _⟩, _⟩, _⟩ => ⟨hne _ ⟨_, q1, fun fs hy => by cases hy⟩, hne _ ⟨_, r1, fun fs hy => by cases hy⟩⟩
  refine ⟨sv, ec, p2.1, ?_, a2.gr (GR.set (n := n0) p2.1) (Nat.le_refl _), a3, a4, a5, a6, sv, rc, rd, rh, xs, ys, zs, ws, ps_at, p2, ⟨?_, p3.2⟩, p4.fr (ps_ne (nl p4).1) (ps_ne (nl p4).2) rfl (Nat.le_refl _), p5.fr (ps_ne (nl p5).1) (ps_ne (nl p5).2) rfl (Nat.le_refl _), p6.fr (ps_ne (nl p6).1) (ps_ne (nl p6).2) rfl (Nat.le_refl _), p7, p8, p9.fk f, p10.fk f, p11.fk f, p12, p13⟩
  · obtain ⟨b1, b2, b3, b4, b5, b6, ⟨f, b7, b8⟩, b9, b10⟩ := a1
    exact ⟨(ps_ne hn).trans b1, b2, (ps_ne (by omega)).trans b3, b4, b5, b6, ⟨f, (ps_ne (by omega)).trans b7, b8⟩, b9, b10⟩
  · show (p_set h ca (cfP sv lc ld g)).1 sv = some (.inr (3, [.int (Int32.ofNat (g 0)), .int (Int32.ofNat (g 1))]))
    rw [h0, h1]
    exact f.1 _ _ _ p3.1 (Or.inl rfl) p3.2.2
/-- the server's clock is set -/
theorem PPS.srv {a r o : Nat} (hP : PPS n0 X bA sA sim le pa ca ha lc ld bf len ns c p h) (hc : h.1 a = some (.inr (3, [.int (Int32.ofNat r), .int (Int32.ofNat o)]))) (h1 : n0 ≤ a) (h2 : a < pn h) :
    ∃ sv : Nat, h.1 ca = some (cfP sv lc ld c.1) ∧ n0 ≤ ca ∧ PPS n0 X bA sA sim le pa ca ha lc ld bf len ns (c_set (c_set c 0 r) 1 o) p (p_set h ca (cfP a lc ld c.1)) := by
  obtain ⟨a1, a2, a3, a4, a5, a6, sv, rc, rd, rh, xs, ys, zs, ws, a7⟩ := hP
  have ec := a7.1
  have hne : ∀ b : Nat, (∃ e : va_E, h.1 b = some e ∧ (∀ fs : List Value, e ≠ .inr (2, fs))) → b ≠ ca := fun b ⟨e, e1, e2⟩ hy => by
    rw [hy, ec] at e1
    cases e1
    exact e2 _ rfl
  obtain ⟨p1, p2, p3, p4, p5, p6, p7, p8, p9, p10, p11, p12, p13⟩ := a7
  have f : FK h (p_set h ca (cfP a lc ld c.1)) := FK.set ec (by decide)
  have hn : pa ≠ ca := hne pa ⟨_, a1.1, fun fs hy => by cases hy⟩
  have nl : ∀ {l row : Nat} {xs : List Nat}, LQ n0 h l row xs → l ≠ ca ∧ row ≠ ca := fun ⟨⟨m1, q1, ⟨f1, r1, _⟩, _⟩, _⟩ => ⟨hne _ ⟨_, q1, fun fs hy => by cases hy⟩, hne _ ⟨_, r1, fun fs hy => by cases hy⟩⟩
  refine ⟨sv, ec, p2.1, ?_, a2.gr (GR.set (n := n0) p2.1) (Nat.le_refl _), a3, a4, a5, a6, a, rc, rd, rh, xs, ys, zs, ws, ps_at, p2, ⟨?_, h1, h2⟩, p4.fr (ps_ne (nl p4).1) (ps_ne (nl p4).2) rfl (Nat.le_refl _), p5.fr (ps_ne (nl p5).1) (ps_ne (nl p5).2) rfl (Nat.le_refl _), p6.fr (ps_ne (nl p6).1) (ps_ne (nl p6).2) rfl (Nat.le_refl _), p7, p8, p9.fk f, p10.fk f, p11.fk f, p12, p13⟩
  · obtain ⟨b1, b2, b3, b4, b5, b6, ⟨f, b7, b8⟩, b9, b10⟩ := a1
    exact ⟨(ps_ne hn).trans b1, b2, (ps_ne (by omega)).trans b3, b4, b5, b6, ⟨f, (ps_ne (by omega)).trans b7, b8⟩, b9, b10⟩
  · exact f.1 _ _ _ hc (Or.inl rfl) h2
end PIC
