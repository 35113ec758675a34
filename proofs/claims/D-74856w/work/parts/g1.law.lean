/-! THE LAW: its state, and a call of both -/
set_option maxRecDepth 100000
/-- the contents of the component's cells -/
def eC (E : PE) (W : Nat → Nat) (sim len : Nat) (le : Int32) (g : Nat → Int32) (fs : Nat → Option Nat) (fo : Nat → Int64) : Nat → va_E := fun i => if i = 0 then cLL (W 1) (Int32.ofNat len) le sim (W 2) else if i = 1 then .inl (E.2.1 1, 400, .inl g) else if i = 2 then .inl (E.2.1 6, 2, refs fs) else .inl (E.2.1 2, 1, .inr (.inl fo))
/-- all the changing cells -/
def eA (E : PE) (W : Nat → Nat) (a7 : Nat) (T : TS) (sim len : Nat) (le : Int32) (g : Nat → Int32) (fs : Nat → Option Nat) (fo : Nat → Int64) : Nat → va_E := eT E (AW W a7) T (eC E W sim len le g fs fo)
/-- what never changes in the law -/
def SW (E : PE) (W : Nat → Nat) (a7 L : Nat) (xs : Nat → Int32) : Prop := WI11 W ∧ (∀ i : Nat, i < 11 → E.2.2.1 ≤ W i) ∧ (E.2.2.1 ≤ a7 ∧ ∀ i : Nat, i < 11 → a7 ≠ W i) ∧ EVC E ∧ PS E (sAd E 50) L xs ∧ L ≤ 320
/-- the core: what is known besides -/
def CO (E : PE) (W : Nat → Nat) (a7 : Nat) (Z : Nat → Option SS) (fs : Nat → Option Nat) (Rc : PM) : Prop := (∀ i : Nat, i < 11 → Rc (W i) = none) ∧ KE E Rc ∧ (∃ f : Nat → Option Nat, Rc a7 = some (.inl (E.2.1 7, 7, refs f)) ∧ ∀ i : Nat, i < 7 → f i = some (sAd E (20 + i))) ∧
  ∀ s : Nat, s < 2 → match Z s with
    | none => fs s = none
    | some Q => ∃ (G : Nat → Nat) (ad : Nat → Nat → Nat), fs s = some (G 0) ∧ SVP E Rc G ad Q
/-- the twin's side -/
def LT (S : SS) (Z : Nat → Option SS) (bf : Nat → Nat) (len : Nat) (le : Int32) (T : TS) : Prop := (∃ (L : List MG) (p : Int32 × Int32), TR (true, p) S (L.map some) (q_w T)) ∧ BFT T bf len ∧ q_sc T 8 = le ∧
  ∀ s : Nat, s < 2 → match Z s with
    | none => q_ik T s = 0
    | some Q => q_ik T s = 1 ∧ KPT T s Q
/-- the state at the loop's head -/
def LW (E : PE) (B : Nat × Nat) (W : Nat → Nat) (a7 : Nat) (S : SS) (Z : Nat → Option SS) (bf : Nat → Nat) (len : Nat) (le : Int32) (h : PH) : Prop :=
  ∃ (F : Nat → Nat) (Rc : PM) (T : TS) (g : Nat → Int32) (fs : Nat → Option Nat) (fo : Nat → Int64), SP E B F (KR Rc W (eA E W a7 T (F 0) len le g fs fo)) S h ∧ CO E W a7 Z fs Rc ∧ CBF g bf len ∧ LT S Z bf len le T
section LWS
variable {E : PE} {B : Nat × Nat} {W : Nat → Nat} {a7 L len len' : Nat} {xs : Nat → Int32} {S S' S'' : SS} {Z : Nat → Option SS} {bf bf' : Nat → Nat} {le le' : Int32} {h h1 : PH} {F : Nat → Nat} {Rc : PM} {T T' : TS} {g : Nat → Int32} {fs : Nat → Option Nat} {fo : Nat → Int64}
theorem AW_lt {i : Nat} (hi : i < 7) : AW W a7 i = W (4 + i) := if_pos hi
/-- an int of the script -/
theorem sa_at {β : Type} (hW : SW E W a7 L xs) (hE : h.2.1 = E) {k : Nat} (hk : k < L) {K : Int32 → Option β} : aS h (some (sAd E 50)) (Int32.ofNat k) K = K (xs k) := by
  obtain ⟨-, -, -, -, hP, hL⟩ := hW
  have h1 := hP.2.2.2.2.2.2.2.2.2.1
  have h2 := hP.2.2.2.2.2.2.2.2.2.2 k hk
  unfold aS
  rw [hE, h1, if_pos ⟨rfl, inR_of (by omega) hk⟩, clamp9 (by omega), h2]
  rfl
theorem san_at {β : Type} (hW : SW E W a7 L xs) (hE : h.2.1 = E) {K : Int32 → Option β} : aSN h (some (sAd E 50)) K = K (Int32.ofNat L) := by
  obtain ⟨-, -, -, -, hP, hL⟩ := hW
  have h1 := hP.2.2.2.2.2.2.2.2.2.1
  unfold aSN
  rw [hE, h1, if_pos rfl]
theorem eA_0 : eA E W a7 T (F 0) len le g fs fo 0 = cLL (W 1) (Int32.ofNat len) le (F 0) (W 2) := rfl
theorem eA_3 : eA E W a7 T (F 0) len le g fs fo 3 = .inl (E.2.1 2, 1, .inr (.inl fo)) := rfl
theorem eA_t {i : Nat} : eA E W a7 T (F 0) len le g fs fo (4 + i) = tE E (AW W a7) T i := by
  unfold eA eT
  rw [if_pos (Nat.le_add_right _ _), Nat.add_sub_cancel_left]
/-- the known cells of the component -/
theorem kX (hW : SW E W a7 L xs) : KR Rc W (eA E W a7 T (F 0) len le g fs fo) (W 0) = some (cLL (W 1) (Int32.ofNat len) le (F 0) (W 2)) := KR_at hW.1 (by decide)
theorem kT (hW : SW E W a7 L xs) {i : Nat} (hi : i < 7) : KR Rc W (eA E W a7 T (F 0) len le g fs fo) (AW W a7 i) = some (tE E (AW W a7) T i) := by
  rw [AW_lt hi, KR_at hW.1 (by omega), eA_t]
theorem k3 (hW : SW E W a7 L xs) : KR Rc W (eA E W a7 T (F 0) len le g fs fo) (W 3) = some (.inl (E.2.1 2, 1, .inr (.inl fo))) := KR_at hW.1 (by decide)
/-- the twin's addresses -/
theorem kTA (hW : SW E W a7 L xs) (hE : h.2.1 = E) : TA (AW W a7) h := by
  obtain ⟨w1, w2, w3, -⟩ := hW
  have hb : pbase h = E.2.2.1 := by unfold pbase; rw [hE]
  refine ⟨fun i j hi hj he => ?_, fun i hi => ?_⟩
  · unfold AW at he
    by_cases ci : i < 7
    · by_cases cj : j < 7
      · rw [if_pos ci, if_pos cj] at he
        have := w1 _ _ (by omega) (by omega) he
        omega
      · rw [if_pos ci, if_neg cj] at he
        exact absurd he.symm (w3.2 _ (by omega))
    · by_cases cj : j < 7
      · rw [if_neg ci, if_pos cj] at he
        exact absurd he (w3.2 _ (by omega))
      · omega
  · unfold AW
    rw [hb]
    split
    · exact w2 _ (by omega)
    · exact w3.1
/-- the heap is its own twin's -/
theorem kTW (hW : SW E W a7 L xs) (hS : SP E B F (KR Rc W (eA E W a7 T (F 0) len le g fs fo)) S h) : tw (AW W a7) T h = h := by
  have hE := hS.base.1
  have t : ∀ i : Nat, i < 7 → h.1 (AW W a7 i) = some (tE E (AW W a7) T i) := fun i hi => (hS.tr (kT hW hi)).1
  exact tw_self (t 0 (by decide)) (by rw [hE]; exact t 1 (by decide)) (by rw [hE]; exact t 2 (by decide)) (by rw [hE]; exact t 3 (by decide)) (by rw [hE]; exact t 4 (by decide)) (by rw [hE]; exact t 5 (by decide)) (by rw [hE]; exact t 6 (by decide))
/-- what a call of the component brings about -/
def XL (E : PE) (B : Nat × Nat) (W : Nat → Nat) (a7 : Nat) (F : Nat → Nat) (Rc : PM) (T : TS) (len : Nat) (le : Int32) (g : Nat → Int32) (fs : Nat → Option Nat) (code ans : Int32) (S' : SS) (b : Int32 × PH) : Prop := b.1 = code ∧ ∃ fo' : Nat → Int64, SP E B F (KR Rc W (eA E W a7 T (F 0) len le g fs fo')) S' b.2 ∧ (code = 0 → fo' 0 = ans.toInt64)
theorem l_out {ans : Int64} (hW : SW E W a7 L xs) (hS : SP E B F (KR Rc W (eA E W a7 T (F 0) len le g fs fo)) S h) : ∃ (fo' : Nat → Int64) (h' : PH), (∀ {β : Type} (K : PH → Option β), sL h (some (W 3)) 2 (0 : Int32) ans K = K h') ∧ SP E B F (KR Rc W (eA E W a7 T (F 0) len le g fs fo')) S h' ∧ fo' 0 = ans := by
  have hE := hS.base.1
  have e3 := (hS.tr (k3 hW)).1
  have hb : pbase h ≤ W 3 := by
    unfold pbase
    rw [hE]
    exact hW.2.1 3 (by decide)
  have s1 := hS.kset hW.1 (i := 3) (x := .inl (E.2.1 2, 1, .inr (.inl (vp_updL fo 0 ans)))) (by decide) (by rw [eA_3]; exact Or.inr (Or.inl ⟨_, _, _, rfl⟩))
  refine ⟨vp_updL fo 0 ans, _, fun K => ?_, s1.less (fun b x hb' => ?_), by simp [vp_updL]⟩
  · have e3' : h.1 (W 3) = some (.inl (h.2.1.2.1 2, 1, .inr (.inl fo))) := by rw [hE]; exact e3
    rw [sL_at (i := (0 : Int32)) (n := 1) e3' (show inR (Int32.ofNat 0) 1 from inR_of (by decide) (by decide)) hb, hE]
    rfl
  · rcases KR_cases (W := W) (b := b) with ⟨j, hj, rfl⟩ | hb2
    · rw [KR_at hW.1 hj] at hb' ⊢
      rw [← hb']
      have : j = 0 ∨ j = 1 ∨ j = 2 ∨ j = 3 ∨ j = 4 ∨ j = 5 ∨ j = 6 ∨ j = 7 ∨ j = 8 ∨ j = 9 ∨ j = 10 := by omega
      rcases this with rfl | rfl | rfl | rfl | rfl | rfl | rfl | rfl | rfl | rfl | rfl <;> rfl
    · rw [KR_out hb2] at hb' ⊢
      exact hb'
/-- a call that answers a number -/
theorem l_ok (hW : SW E W a7 L xs) (hS : SP E B F (KR Rc W (eA E W a7 T (F 0) len le g fs fo)) S h) {ans : Int32} {o : Option (((Nat × Nat) ⊕ Int32) × PH)} {Y : ((Nat × Nat) ⊕ Int32) → PH → Option (Int32 × PH)} (ho : okk o (XV E B F (KR Rc W (eA E W a7 T (F 0) len le g fs fo)) ans S')) (hZ : ∀ (v : Int32) (h1 : PH), Y (.inr v) h1 = sL h1 (some (W 3)) 2 (0 : Int32) v.toInt64 fun h3 => some ((0 : Int32), h3)) :
    okk (rv_ h (some (W 0)) 0 (cl_ o Y)) (XL E B W a7 F Rc T len le g fs 0 ans S') := by
  rw [rv_at (hS.tr (kX hW)).1]
  obtain ⟨⟨z, h1⟩, e, ez, hs⟩ := ho
  dsimp only at ez hs
  subst ez
  obtain ⟨fo', h', l1, l2, l3⟩ := l_out (ans := ans.toInt64) hW hs
  rw [cl_eq e, hZ, l1]
  exact ⟨_, rfl, rfl, fo', l2, fun _ => l3⟩
/-- a call that answers a boolean -/
theorem l_bo (hW : SW E W a7 L xs) (hS : SP E B F (KR Rc W (eA E W a7 T (F 0) len le g fs fo)) S h) {ans : Int32} (ha : ans = 0 ∨ ans = 1) {o : Option (((Nat × Nat) ⊕ Int32) × PH)} {Y : ((Nat × Nat) ⊕ Int32) → PH → Option (Int32 × PH)} (ho : okk o (XV E B F (KR Rc W (eA E W a7 T (F 0) len le g fs fo)) ans S')) (hZ : ∀ (v : Int32) (h1 : PH), Y (.inr v) h1 = if v = 0 then (sL h1 (some (W 3)) 2 (0 : Int32) (0 : Int64) fun h3 => some ((0 : Int32), h3)) else (sL h1 (some (W 3)) 2 (0 : Int32) (1 : Int64) fun h3 => some ((0 : Int32), h3))) :
    okk (rv_ h (some (W 0)) 0 (cl_ o Y)) (XL E B W a7 F Rc T len le g fs 0 ans S') := by
  rw [rv_at (hS.tr (kX hW)).1]
  obtain ⟨⟨z, h1⟩, e, ez, hs⟩ := ho
  dsimp only at ez hs
  subst ez
  rw [cl_eq e, hZ]
  rcases ha with rfl | rfl
  · obtain ⟨fo', h', l1, l2, l3⟩ := l_out (ans := 0) hW hs
    rw [if_pos rfl, l1]
    exact ⟨_, rfl, rfl, fo', l2, fun _ => l3⟩
  · obtain ⟨fo', h', l1, l2, l3⟩ := l_out (ans := 1) hW hs
    rw [if_neg (by decide), l1]
    exact ⟨_, rfl, rfl, fo', l2, fun _ => l3⟩
/-- a call that throws -/
theorem l_er (hW : SW E W a7 L xs) (hS : SP E B F (KR Rc W (eA E W a7 T (F 0) len le g fs fo)) S h) {code : Int32} {ci : Nat} {o : Option (((Nat × Nat) ⊕ Int32) × PH)} {Y : ((Nat × Nat) ⊕ Int32) → PH → Option (Int32 × PH)} (ho : okk o (XT E B F (KR Rc W (eA E W a7 T (F 0) len le g fs fo)) ci S)) (hc : code ≠ 0) (hZ : ∀ (q : Nat) (h1 : PH), pbase h1 ≤ q → Y (.inl (ci, q)) h1 = some (code, h1)) :
    okk (rv_ h (some (W 0)) 0 (cl_ o Y)) (XL E B W a7 F Rc T len le g fs code 0 (g_mk S 1 6)) := by
  rw [rv_at (hS.tr (kX hW)).1]
  obtain ⟨⟨z, h1⟩, e, ⟨q, eq, hq⟩, hs⟩ := ho
  dsimp only at eq hq hs
  subst eq
  rw [cl_eq e, hZ q h1 hq]
  exact ⟨_, rfl, rfl, fo, hs, fun hy => absurd hy hc⟩
/-- the twin's side goes on -/
theorem LT.next {A : Nat → Nat} {p : Int32 × Int32} {L' : List MG} (hT : LT S Z bf len le T) (hq : TQ T T') (hr : TR (true, p) S' (L'.map some) (q_w T')) : LT S' Z bf len le T' := by
  obtain ⟨-, t2, t3, t4⟩ := hT
  obtain ⟨q1, q2, q3, q4, q5⟩ := hq
  refine ⟨⟨L', p, hr⟩, ⟨t2.1, q4.trans t2.2.1, by rw [q1]; exact t2.2.2⟩, q5.trans t3, fun s hs => ?_⟩
  have t := t4 s hs
  revert t
  cases Z s with
  | none => exact fun t => by rw [q3]; exact t
  | some Q =>
    intro t
    obtain ⟨a1, LL, pp, a2⟩ := t
    exact ⟨by rw [q3]; exact a1, LL, pp, by rw [q2]; exact a2⟩
/-- the twin's call behind the component's -/
theorem l_tw (hW : SW E W a7 L xs) (hS : SP E B F (KR Rc W (eA E W a7 T (F 0) len le g fs fo)) S' h1) (hC : CO E W a7 Z fs Rc) (hG : CBF g bf len) (hT : LT S Z bf len le T) {code ans : Int32} {D : Option (Int32 × PH)} (hD : TD (AW W a7) T h1 code ans S'' D) (hR : ∀ (Pl : List (Option MG)) (w : Nat → Int32) (p : Int32 × Int32), TR (true, p) S'' Pl w → TR (true, p) S' Pl w) :
    ∃ h2 : PH, D = some (ans, h2) ∧ LW E B W a7 S' Z bf len le h2 ∧ h2.2.1 = E ∧ (∀ {β : Type} (K : Option β), rv_ h2 (some (AW W a7 0)) 6 K = K) ∧ f_X7_thrown (some (AW W a7 0)) h2 = some (code, h2) ∧ (∀ {β : Type} (K : Int64 → Option β), aL h2 (some (W 3)) 2 (0 : Int32) K = K (fo 0)) := by
  obtain ⟨T', L', p, d1, d2, d3, d4⟩ := hD
  have hE := hS.base.1
  have s1 : SP E B F (KR Rc W (eA E W a7 T' (F 0) len le g fs fo)) S' (tw (AW W a7) T' h1) := hS.twin hW.1 (fun i hi => AW_lt hi)
  refine ⟨_, d1, ⟨F, Rc, T', g, fs, fo, s1, hC, hG, hT.next (A := AW W a7) d2 (hR _ _ _ d4)⟩, hE, fun K => rv_at (tw_0 (A := AW W a7)), ?_, fun K => ?_⟩
  · unfold f_X7_thrown
    rw [gI_at (tw_0 (A := AW W a7)) (v := q_sc T' 1) rfl, d3]
  · have e3 := (s1.tr (k3 hW)).1
    have e3' : (tw (AW W a7) T' h1).1 (W 3) = some (.inl ((tw (AW W a7) T' h1).2.1.2.1 2, 1, .inr (.inl fo))) := by
      rw [s1.base.1]; exact e3
    have hb : pbase (tw (AW W a7) T' h1) ≤ W 3 := by
      unfold pbase
      rw [s1.base.1]
      exact hW.2.1 3 (by decide)
    exact aL_at (n := 1) e3' (show inR (Int32.ofNat 0) 1 from inR_of (by decide) (by decide)) hb
end LWS
