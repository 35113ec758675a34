/-! THE LAW: a call of both, and on to the next one; what a call may do to the simulation (NX), what must fit (FT) -/
set_option maxRecDepth 100000
/-- the world's room -/
def BB : Nat × Nat := (603072, 7125098)
/-- a run to the time t -/
def RN (S0 : SS) (t : Int32) (n : Nat) : Prop := (now S0).toInt < t.toInt ∧ t.toInt ≤ 5000000 ∧ t.toInt - (now S0).toInt ≤ n
/-- a run fits -/
def OKR (S0 : SS) (t : Int32) (n : Nat) : Prop := s_gh (goOn n S0 t) 0 ≤ 1000000 ∧ fitB BB (goOn n S0 t) ∧ msB n S0 t
/-- where a prediction begins -/
def PS0 (S S0 : SS) : Prop := S0 = copyS S ∨ S0 = u_sc (copyS S) 17 0 ∨ ∃ i r : Nat, i < s_n S ∧ r < 8 ∧ unfi S i = 0 ∧ s_nd S i 4 = 0 ∧ S0 = tryC (copyS S) i r 0
/-- a call changes something -/
def NXa (S S' : SS) : Prop := S' = (rsvS S).2 ∨ ∃ i : Nat, i < s_n S ∧ (S' = (campS S i).2 ∨ S' = (withS S i).2 ∨ S' = (crashS S i).2 ∨ S' = (restS S i).2 ∨ (∃ ms : Int32, iv ms 1 20000 ∧ S' = (pauS S i ms).2) ∨ (∃ v : Int32, (v = 0 ∨ v = 1) ∧ S' = (cutS S i v).2) ∨ (∃ ms du : Int32, iv ms 1 20000 ∧ iv du 1 20000 ∧ S' = (ouS S i ms du).2) ∨
  ∃ r : Nat, r < 8 ∧ ((∃ v : Int32, iv v 0 999999 ∧ (S' = (wrS S i r v).2 ∨ ∃ ms : Int32, iv ms 1 20000 ∧ S' = (wlS S i r v ms).2)) ∨ S' = (feS S i r).2 ∨ S' = (rdS S i r).2))
/-- time goes on -/
def NXt (S S' : SS) : Prop := ∃ (t : Int32) (n : Nat), RN S t n ∧ (t.toInt ≤ (now S).toInt + 5000 ∨ t = nextEvent S) ∧ S' = goOn n S t
/-- a prediction: the counters of a run, or a try without a run -/
def NXp (S S' : SS) : Prop := ∃ S2 : SS, S' = ctS S S2 ∧ gle (copyS S) S2 ∧ ((∃ (S0 : SS) (t : Int32) (n : Nat), PS0 S S0 ∧ RN S0 t n ∧ t.toInt ≤ (now S).toInt + 5000 ∧ gle S2 (goOn n S0 t)) ∨ ∃ i r n : Nat, i < s_n S ∧ r < 8 ∧ unfi S i = 0 ∧ 5000 ≤ n ∧ S2 = (tryW n (copyS S) i r).2)
def NXS (S S' : SS) : Prop := S' = S ∨ S' = g_mk S 1 6 ∨ NXa S S' ∨ NXt S S' ∨ NXp S S'
/-- what must fit -/
def FT (S : SS) : Prop := (∀ S' : SS, S' = g_mk S 1 6 ∨ NXa S S' → fitB BB S') ∧ cpF BB S ∧ (∀ (t : Int32) (n : Nat), RN S t n → (t.toInt ≤ (now S).toInt + 5000 ∨ t = nextEvent S) → OKR S t n) ∧ (∀ (S0 : SS) (t : Int32) (n : Nat), PS0 S S0 → RN S0 t n → t.toInt ≤ (now S).toInt + 5000 → OKR S0 t n) ∧ (s_ms S).length ≤ 5999 ∧
  ∀ i r n : Nat, i < s_n S → r < 8 → unfi S i = 0 → 5000 ≤ n → s_gh (tryW n (copyS S) i r).2 0 ≤ 1000000 ∧ fitB BB (tryW n (copyS S) i r).2
/-- what holds of a simulation at rest -/
def LI (S : SS) : Prop := Inv S ∧ Rest S ∧ VQ nv S ∧ ∀ m ∈ s_ms S, nv m.2.2.2.2.2.1
section LJ
variable {E : PE} {W : Nat → Nat} {a7 L len : Nat} {xs : Nat → Int32} {S S' S'' : SS} {Z : Nat → Option SS} {bf : Nat → Nat} {le : Int32} {h : PH} {F : Nat → Nat} {Rc : PM} {T : TS} {g : Nat → Int32} {fs : Nat → Option Nat} {fo : Nat → Int64}
theorem lg_cmp0 {x : Int64} : lg_cmp x x = 0 := cmp_eq.mpr rfl
/-- a call that may throw, answers a number -/
theorem lj_int (hW : SW E W a7 L xs) (hC : CO E W a7 Z fs Rc) (hG : CBF g bf len) (hT : LT S Z bf len le T) {code ans : Int32} {C : Option (Int32 × PH)} (ho : okk C (XL E BB W a7 F Rc T len le g fs code ans S')) {D : PH → Option (Int32 × PH)} (hD : ∀ h1 : PH, h1.2.1 = E → tw (AW W a7) T h1 = h1 → TD (AW W a7) T h1 code ans S'' (D h1))
    (hR : ∀ (Pl : List (Option MG)) (w : Nat → Int32) (p : Int32 × Int32), TR (true, p) S'' Pl w → TR (true, p) S' Pl w) {Q : Int32 → PH → Option (Int32 × PH)} {Kk N : PH → Option (Int32 × PH)}
    (hQ : ∀ (v : Int32) (h1 : PH), h1.2.1 = E → Q v h1 = rv_ h1 (some (AW W a7 0)) 6 (cl_ (D h1) fun w h2 => rv_ h2 (some (AW W a7 0)) 6 (cl_ (f_X7_thrown (some (AW W a7 0)) h2) fun y h3 => if y = v then (if v = 0 then aL h3 (some (W 3)) 2 (0 : Int32) fun z => if (lg_cmp z w.toInt64) = 0 then Kk h3 else N h3 else Kk h3) else N h3))) :
    ∃ h' : PH, cl_ C Q = Kk h' ∧ LW E BB W a7 S' Z bf len le h' ∧ h'.2.1 = E := by
  obtain ⟨⟨v, h1⟩, e, ev, fo', hs, hf⟩ := ho
  dsimp only at ev hs
  have hE := hs.base.1
  obtain ⟨h2, t1, t2, t3, t4, t5, t6⟩ := l_tw hW hs hC hG hT (hD h1 hE (kTW hW hs)) hR
  refine ⟨h2, ?_, t2, t3⟩
  have r1 : ∀ {β : Type} (K : Option β), rv_ h1 (some (AW W a7 0)) 6 K = K := fun K => rv_at (hs.tr (kT hW (i := 0) (by decide))).1
  rw [cl_eq e, hQ v h1 hE, r1, cl_eq t1, t4, cl_eq t5, ev, if_pos rfl]
  by_cases hc : code = 0
  · rw [if_pos hc, t6, hf hc, if_pos lg_cmp0]
  · rw [if_neg hc]
/-- a call that may throw, answers a boolean -/
theorem lj_boo (hW : SW E W a7 L xs) (hC : CO E W a7 Z fs Rc) (hG : CBF g bf len) (hT : LT S Z bf len le T) {code ans : Int32} (ha : ans = 0 ∨ ans = 1) {C : Option (Int32 × PH)} (ho : okk C (XL E BB W a7 F Rc T len le g fs code ans S')) {D : PH → Option (Int32 × PH)} (hD : ∀ h1 : PH, h1.2.1 = E → tw (AW W a7) T h1 = h1 → TD (AW W a7) T h1 code ans S'' (D h1))
    (hR : ∀ (Pl : List (Option MG)) (w : Nat → Int32) (p : Int32 × Int32), TR (true, p) S'' Pl w → TR (true, p) S' Pl w) {Q : Int32 → PH → Option (Int32 × PH)} {Kk N : PH → Option (Int32 × PH)}
    (hQ : ∀ (v : Int32) (h1 : PH), h1.2.1 = E → Q v h1 = rv_ h1 (some (AW W a7 0)) 6 (cl_ (D h1) fun w h2 => rv_ h2 (some (AW W a7 0)) 6 (cl_ (f_X7_thrown (some (AW W a7 0)) h2) fun y h3 => if y = v then (if v = 0 then aL h3 (some (W 3)) 2 (0 : Int32) fun z => if w = 0 then (if (lg_cmp z (0 : Int64)) = 0 then Kk h3 else N h3) else (if (lg_cmp z (1 : Int64)) = 0 then Kk h3 else N h3) else Kk h3) else N h3))) :
    ∃ h' : PH, cl_ C Q = Kk h' ∧ LW E BB W a7 S' Z bf len le h' ∧ h'.2.1 = E := by
  obtain ⟨⟨v, h1⟩, e, ev, fo', hs, hf⟩ := ho
  dsimp only at ev hs
  have hE := hs.base.1
  obtain ⟨h2, t1, t2, t3, t4, t5, t6⟩ := l_tw hW hs hC hG hT (hD h1 hE (kTW hW hs)) hR
  refine ⟨h2, ?_, t2, t3⟩
  have r1 : ∀ {β : Type} (K : Option β), rv_ h1 (some (AW W a7 0)) 6 K = K := fun K => rv_at (hs.tr (kT hW (i := 0) (by decide))).1
  rw [cl_eq e, hQ v h1 hE, r1, cl_eq t1, t4, cl_eq t5, ev, if_pos rfl]
  by_cases hc : code = 0
  · rw [if_pos hc, t6, hf hc]
    rcases ha with rfl | rfl
    · rw [if_pos rfl]
      exact if_pos lg_cmp0
    · rw [if_neg (by decide)]
      exact if_pos lg_cmp0
  · rw [if_neg hc]
/-- a call that can't throw -/
theorem lj_sim (hW : SW E W a7 L xs) (hC : CO E W a7 Z fs Rc) (hG : CBF g bf len) (hT : LT S Z bf len le T) {ans : Int32} {C : Option (Int32 × PH)} (ho : okk C (XI E BB F (KR Rc W (eA E W a7 T (F 0) len le g fs fo)) ans S')) {D : PH → Option (Int32 × PH)} (hD : ∀ h1 : PH, h1.2.1 = E → tw (AW W a7) T h1 = h1 → TD (AW W a7) T h1 0 ans S'' (D h1))
    (hR : ∀ (Pl : List (Option MG)) (w : Nat → Int32) (p : Int32 × Int32), TR (true, p) S'' Pl w → TR (true, p) S' Pl w) {Q : Int32 → PH → Option (Int32 × PH)} {Kk N : PH → Option (Int32 × PH)}
    (hQ : ∀ (v : Int32) (h1 : PH), h1.2.1 = E → Q v h1 = rv_ h1 (some (AW W a7 0)) 6 (cl_ (D h1) fun w h2 => if v = w then Kk h2 else N h2)) :
    ∃ h' : PH, cl_ C Q = Kk h' ∧ LW E BB W a7 S' Z bf len le h' ∧ h'.2.1 = E := by
  obtain ⟨⟨v, h1⟩, e, ev, hs⟩ := ho
  dsimp only at ev hs
  have hE := hs.base.1
  obtain ⟨h2, t1, t2, t3, t4, t5, t6⟩ := l_tw hW hs hC hG hT (hD h1 hE (kTW hW hs)) hR
  refine ⟨h2, ?_, t2, t3⟩
  have r1 : ∀ {β : Type} (K : Option β), rv_ h1 (some (AW W a7 0)) 6 K = K := fun K => rv_at (hs.tr (kT hW (i := 0) (by decide))).1
  rw [cl_eq e, hQ v h1 hE, r1, cl_eq t1, ev, if_pos rfl]
end LJ
