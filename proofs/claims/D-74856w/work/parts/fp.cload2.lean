/-! THE COMPONENT: load of a good text -/
set_option maxRecDepth 100000
section LD3
variable {E : PE} {B : Nat × Nat} {F : Nat → Nat} {R : PM} {S : SS} {h h' : PH} {X bA sA : Nat} {le : Int32} {len : Nat} {bf : Nat → Nat} {g : Nat → Int32}
/-- addresses of the configuration and the clocks -/
def ldF (ca sv lc ld rc rd : Nat) (xs : List Nat) : Nat → Nat := fun k => if k = 40 then ca else if k = 41 then sv else if k = 42 then lc else if k = 43 then ld else if k = 44 then rc else if k = 45 then rd else xs.getD (k - 70) 0
theorem ldF_7 {ca sv lc ld rc rd i : Nat} {xs : List Nat} : ldF ca sv lc ld rc rd xs (70 + i) = xs.getD i 0 := by
  unfold ldF
  rw [if_neg (by omega), if_neg (by omega), if_neg (by omega), if_neg (by omega), if_neg (by omega), if_neg (by omega), show 70 + i - 70 = i from by omega]
/-- all cells but the one at a -/
def allB (h : PH) (a : Nat) : PM := fun b => if b = a ∨ pn h ≤ b then none else h.1 b
theorem allB_KH {a : Nat} : KH (allB h a) h := by
  intro b e hb
  unfold allB at hb
  by_cases c : b = a ∨ pn h ≤ b
  · rw [if_pos c] at hb; cases hb
  · rw [if_neg c] at hb
    exact ⟨hb, by omega⟩
theorem allB_at {a b : Nat} (h1 : b ≠ a) (h2 : b < pn h) : allB h a b = h.1 b := if_neg (by omega)
/-- a configuration at hand -/
def PRB (n0 ca lc ld : Nat) (sv rc rd : Nat) (xs ys : List Nat) (c : CS) (h : PH) : Prop :=
  h.1 ca = some (cfP sv lc ld c.1) ∧ (n0 ≤ ca ∧ ca < pn h) ∧ (h.1 sv = some (.inr (3, [.int (Int32.ofNat (c.1 0)), .int (Int32.ofNat (c.1 1))])) ∧ n0 ≤ sv ∧ sv < pn h) ∧ LQ n0 h lc rc xs ∧ LQ n0 h ld rd ys ∧ CKS n0 h xs c.2.1 ∧ DLS h ys c.2.1 ∧ c.2.1.length ≤ 6
/-- a new simulation out of a configuration at hand -/
theorem ld_sim {n0 ca lc ld a : Nat} {c : CS} (hE : h.2.1 = E) (hV : EVC E) (hk : ∀ (b : Nat) (e : va_E), b < E.2.2.1 → E.2.2.2 b = some e → h.1 b = some e) (hbn : pbase h ≤ n0) {sv rc rd : Nat} {xs ys : List Nat} (hP : PRB n0 ca lc ld sv rc rd xs ys c h) (hn : 1 ≤ c.2.1.length)
    (ha0 : h.1 a = some sim0) (ha : a < pn h) (hba : pbase h ≤ a) (han : a < n0) (hr1 : 100 ≤ pcl h) (hr2 : 2000 ≤ psl h) (hB1 : pcl h ≤ B.1) (hB2 : psl h ≤ B.2) :
    ∃ (F' : Nat → Nat) (h1 : PH), F' 0 = a ∧ f_X2_init a (some ca) h = some ((), h1) ∧ SP E B F' (allB h a) (SC c (B.1 - pcl h + (13 + 2 * c.2.1.length)) (B.2 - psl h + (52 + c.2.1.length + 21 * c.2.1.length))) h1 := by
  obtain ⟨p1, p2, p3, p4, p5, p9, p10, p13⟩ := hP
  have hp : pbase h = E.2.2.1 := by unfold pbase; rw [hE]
  have aB : ∀ b : Nat, b ≠ a → b < pn h → allB h a b = h.1 b := fun b => allB_at
  have aC : ∀ (b : Nat) (e : va_E), b < E.2.2.1 → E.2.2.2 b = some e → allB h a b = some e := fun b e h1 h2 => by
    rw [aB b (by omega) (by omega)]
    exact hk b e h1 h2
  have hC : CFG E (ldF ca sv lc ld rc rd xs) (allB h a) c.2.1.length (fun k => Int32.ofNat (c.1 k)) (fun i => Int32.ofNat (c.2.1.getD i (0, 0, 0)).2.2) (fun i => Int32.ofNat (c.2.1.getD i (0, 0, 0)).1) (fun i => Int32.ofNat (c.2.1.getD i (0, 0, 0)).2.1) := by
    refine ⟨fun i hi => ?_, ?_, ?_, ?_, ?_, fun i hi => ?_⟩
    · rw [ldF_7]
      obtain ⟨q1, q2, q3⟩ := p9.2 i hi
      exact ⟨by rw [aB _ (by omega) q3]; exact q1, by omega⟩
    · refine ⟨?_, by show E.2.2.1 ≤ ca; omega⟩
      show allB h a ca = _
      rw [aB ca (by omega) p2.2]
      exact p1
    · refine ⟨?_, by show E.2.2.1 ≤ sv; omega⟩
      show allB h a sv = _
      rw [aB sv (by omega) p3.2.2]
      exact p3.1
    · obtain ⟨⟨mc, q1, ⟨f, q2, q3⟩, q4, q5, q6, q7, q8, q9, q10⟩, i1, i2⟩ := p4
      refine ⟨mc, cpL xs.length, f, ?_, by show E.2.2.1 ≤ lc; omega, ?_, by show E.2.2.1 ≤ rc; omega, ?_, fun i hi => ?_⟩
      · show allB h a lc = some (cLst mc rc c.2.1.length)
        rw [aB lc (by omega) q9, ← p9.1]
        exact q1
      · show allB h a rc = _
        rw [aB rc (by omega) q10, ← hE]
        exact q2
      · rw [← p9.1]; exact q7
      · rw [ldF_7]
        exact q3 i (by rw [p9.1]; exact hi)
    · obtain ⟨⟨mc, q1, ⟨f, q2, q3⟩, q4, q5, q6, q7, q8, q9, q10⟩, i1, i2⟩ := p5
      refine ⟨mc, cpL ys.length, f, ?_, by show E.2.2.1 ≤ ld; omega, ?_, by show E.2.2.1 ≤ rd; omega, ?_, fun i hi => ?_⟩
      · show allB h a ld = some (cLst mc rd c.2.1.length)
        rw [aB ld (by omega) q9, ← p10.1]
        exact q1
      · show allB h a rd = _
        rw [aB rd (by omega) q10, ← hE]
        exact q2
      · rw [← p10.1]; exact q7
      · obtain ⟨t1, t2⟩ := p10.2 i hi
        have na : ys.getD i 0 ≠ a := fun hy => by
          rw [hy, ha0] at t1
          cases t1
        exact ⟨ys.getD i 0, q3 i (by rw [p10.1]; exact hi), by rw [aB _ na t2]; exact t1⟩
    · obtain ⟨v1, v2, v3⟩ := hV.2.2.2.2.2.2 i hi
      exact ⟨v1, aC _ _ v2 v3⟩
  have hR : allB h a a = none := if_pos (Or.inl rfl)
  have e1 := e_sim hE ha0 ha hba hr1 hr2 p13 allB_KH hC
  have e2 := efresh (B := B) (ad := fun _ _ => 0) hE ha hba hR hr1 hr2 ⟨hn, p13⟩ allB_KH hC hB1 hB2
  exact ⟨_, _, gE_0, e1, _, _, _, fun _ _ => rfl, fun b e hb => hb, e2⟩
theorem x_loadS (hS : SP E B F R S h) (hX : R X = some (cLL bA (Int32.ofNat len) le (F 0) sA)) (hXb : E.2.2.1 ≤ X) (hA : R bA = some (.inl (E.2.1 1, 400, .inl g))) (hAb : E.2.2.1 ≤ bA) (hT : CBF g bf len) (hV : EVC E) (hK : KE E R) (h1 : 2 * len + 200 ≤ pcl h) (h2 : 18 * len + 6000 ≤ psl h)
    {c : CS} (hp : parse bf len = .inr c) :
    ∃ (F' : Nat → Nat) (R' : PM) (h1 : PH) (cl sl : Nat), f_X1_load (some X) h = some (Int32.ofNat c.2.1.length, h1) ∧ SP E B F' R' (SC c cl sl) h1 ∧ R' X = some (cLL bA 0 0 (F' 0) sA) ∧ (∀ (b : Nat) (e : va_E), b ≠ X → R b = some e → R' b = some e) ∧ 1 ≤ c.2.1.length ∧ c.2.1.length ≤ 6 ∧ s_gh S 0 ≤ cl ∧ cl ≤ s_gh S 0 + 2 * len + 60 ∧ s_gh S 1 ≤ sl ∧ sl ≤ s_gh S 1 + 18 * len + 500 := by
  have hb := hS.base.2.1
  have hE := hS.base.1
  have hpb : pbase h = E.2.2.1 := by unfold pbase; rw [hE]
  have rm := hS.room
  have x1 := hS.tr hX
  have hl := hT.1
  have hP := ld_pps hS hX hXb hA hAb hT hV hK
  rw [ld_beg hb (by omega) (by omega)]
  obtain ⟨H, hH⟩ : ∃ H, bh h (ldC h X) 52 = H := ⟨_, rfl⟩
  have lo : ∀ b : Nat, b < pn h → H.1 b = h.1 b := fun b hb' => by rw [← hH]; exact bh_lo hb'
  have sm : H.1 (pn h) = some sim0 := by rw [← hH]; exact bh_at (i := 0) rfl
  have ePn : pn H = pn h + 10 := by rw [← hH]; rfl
  have eE : H.2.1 = h.2.1 := by rw [← hH]; rfl
  have eC : pcl H = pcl h - 10 := by rw [← hH]; rfl
  have eS : psl H = psl h - 52 := by rw [← hH]; rfl
  rw [hH] at hP ⊢
  rcases q_conf (by omega) (by omega) hP with ⟨h', c', q, u1, u2, u3, u4, u5⟩ | ⟨e', q, a, h', u1, -⟩
  · rw [hp] at u1
    cases u1
    have z := u5.2.2
    have hbh := u5.base
    have eB : pbase H = pbase h := by unfold pbase; rw [eE]
    have lo' : ∀ b : Nat, b < pn h → h'.1 b = h.1 b := fun b hb' => (u5.1 b (by omega)).trans (lo b hb')
    have hE' : h'.2.1 = E := (u5.2.1.trans eE).trans hE
    obtain ⟨a1, a2, a3, a4, a5, a6, sv, rc, rd, rh, xs, ys, zs, ws, hPRC⟩ := u4
    have h6 := hPRC.2.2.2.2.2.2.2.2.2.2.2.2.1
    obtain ⟨p1, p2, p3, p4, p5, p6, p7, p8, p9, p10, p11, p12, p13⟩ := hPRC
    obtain ⟨F', h2', f0, f1, f2⟩ := ld_sim (B := B) (a := pn h) hE' hV (fun b e e1 e2 => by
      have := hS.tr (hK b e e1 e2)
      rw [lo' b this.2]
      exact this.1) (by omega) ⟨p1, p2, p3, p4, p5, p9, p10, p13.1⟩ u2 ((u5.1 _ (by omega)).trans sm) (by omega) (by omega) (by omega) (by omega) (by omega) (by omega) (by omega)
    have hX1 : allB h' (pn h) X = some (cLL bA (Int32.ofNat len) le (F 0) sA) := by
      rw [allB_at (by omega) (by omega), lo' X x1.2]
      exact x1.1
    have s1 := f2.swap (e' := cLL bA (Int32.ofNat len) le (pn h) sA) hX1 (Or.inr (Or.inr (Or.inl ⟨0, _, rfl, Or.inl rfl⟩)))
    have s2 := s1.swap (e' := cLL bA (Int32.ofNat len) 0 (pn h) sA) rU_at (Or.inr (Or.inr (Or.inl ⟨0, _, rfl, Or.inl rfl⟩)))
    have s3 := s2.swap (e' := cLL bA 0 0 (pn h) sA) rU_at (Or.inr (Or.inr (Or.inl ⟨0, _, rfl, Or.inl rfl⟩)))
    have hb2 : pbase h2' ≤ X := by
      have := f2.base.1
      unfold pbase
      rw [this]
      exact hXb
    refine ⟨F', rU (allB h' (pn h)) X (cLL bA 0 0 (F' 0) sA), _, _, _, ?_, s3.less (fun b x hb' => ?_), rU_at, fun b e hbX hR => ?_, u2, h6, ?_, ?_, ?_, ?_⟩
    · unfold ldZ
      rw [rv_at hP.1.1, cl_eq u3]
      dsimp only
      rw [cl_eq f1, pV_at (f2.tr hX1).1 hb2 (Nat.le_of_ble_eq_true rfl)]
      have t1 : (p_set h2' X (.inr (0, [Value.ref bA, .int (Int32.ofNat len), .int le, .ref (F 0), .ref sA].set 3 (va_rf (some (pn h)))))) = p_set h2' X (cLL bA (Int32.ofNat len) le (pn h) sA) := rfl
      rw [t1, pV_at (s1.tr rU_at).1 hb2 (Nat.le_of_ble_eq_true rfl)]
      have t2 : (p_set (p_set h2' X (cLL bA (Int32.ofNat len) le (pn h) sA)) X (.inr (0, [Value.ref bA, .int (Int32.ofNat len), .int le, .ref (pn h), .ref sA].set 2 (.int (0 : Int32))))) = p_set (p_set h2' X (cLL bA (Int32.ofNat len) le (pn h) sA)) X (cLL bA (Int32.ofNat len) 0 (pn h) sA) := rfl
      rw [t2, gR_at (s2.tr rU_at).1 rfl]
      have t3 : ∀ {β : Type} (K : Option Nat → Option β), gRN (p_set (p_set h2' X (cLL bA (Int32.ofNat len) le (pn h) sA)) X (cLL bA (Int32.ofNat len) 0 (pn h) sA)) (some (pn h)) 1 1 K = K (some (F' 1)) := fun K => by
        have := r_refN s2 (k := 1) (K := K) (by decide) (by decide)
        rw [f0] at this
        exact this
      rw [t3, r_n s2, pV_at (s2.tr rU_at).1 hb2 (Nat.le_of_ble_eq_true rfl)]
      rfl
    · by_cases c0 : b = X
      · subst c0
        rw [rU_at] at hb' ⊢
        rw [f0] at hb'
        exact hb'
      · rw [rU_ne c0] at hb' ⊢
        rw [rU_ne c0, rU_ne c0]
        exact hb'
    · have := hS.tr hR
      rw [rU_ne hbX, allB_at (by omega) (by omega), lo' b this.2]
      exact this.1
    · omega
    · omega
    · omega
    · omega
  · rw [hp] at u1; cases u1
end LD3
