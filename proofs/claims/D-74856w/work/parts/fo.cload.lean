/-! THE COMPONENT: load -/
set_option maxRecDepth 100000
theorem sts_pos {bf : Nat → Nat} {len : Nat} : ∀ (f p : Nat) (c : CS) (e : Nat × Nat), p ≤ len → sts bf len f c p = .inl e → e.2 ≤ len := by
  intro f
  induction f with
  | zero =>
    intro p c e hp hx
    unfold sts at hx
    cases hx
    exact Nat.zero_le _
  | succ f ih =>
    intro p c e hp hx
    rw [sts_T] at hx
    cases hs : stm bf len c p with
    | inl e' =>
      rw [hs] at hx
      cases hx
      exact stm_pos hp hs
    | inr d =>
      rw [hs] at hx
      have hg := stm_go hp hs
      have hk := sk_le (bf := bf) hg.2
      unfold stTl at hx
      dsimp only at hx
      obtain ⟨q, hq⟩ : ∃ q, sk bf len d.2 = q := ⟨_, rfl⟩
      rw [hq] at hx hk
      by_cases c1 : hb bf len q = 256
      · rw [if_pos c1] at hx
        by_cases c2 : d.1.2.1.length = 0
        · rw [if_pos c2] at hx
          cases hx
          exact hk.2
        · rw [if_neg c2] at hx
          cases hx
      · rw [if_neg c1] at hx
        by_cases c2 : hb bf len q = 59
        · rw [if_pos c2] at hx
          have := hb_lt c2 (by decide)
          exact ih _ _ _ (by omega) hx
        · rw [if_neg c2] at hx
          cases hx
          exact hk.2
/-- what is known of the constants -/
def EVC (E : PE) : Prop := E.1 9 = .int 1 ∧ E.1 10 = .int 127 ∧ E.1 11 = .ref (sAd E 11) ∧ EX E ∧
  (∀ k : Nat, k < 7 → ∃ (v : Nat) (f : Nat → Int32), sAd E (27 + k) < E.2.2.1 ∧ v < E.2.2.1 ∧ E.2.2.2 (sAd E (27 + k)) = some (.inr (22, [.ref v, .int 0])) ∧ E.2.2.2 v = some (.inl (E.2.1 1, (wd k).length, .inl f)) ∧ ∀ i : Nat, i < (wd k).length → f i = Int32.ofNat ((wd k).getD i 0)) ∧
  (∀ j : Nat, j < 256 → sAd E (1000 + j) < E.2.2.1 ∧ E.2.2.2 (sAd E (1000 + j)) = some (.inr (23, [.int (Int32.ofNat j - 128)]))) ∧
  ∀ i : Nat, i < 9 → E.1 i = .ref (sAd E i) ∧ sAd E i < E.2.2.1 ∧ E.2.2.2 (sAd E i) = some (cKnd i)
/-- the constants are known -/
def KE (E : PE) (R : PM) : Prop := ∀ (b : Nat) (e : va_E), b < E.2.2.1 → E.2.2.2 b = some e → R b = some e
theorem EVC.env {E : PE} {n0 : Nat} {h : PH} (hV : EVC E) (hE : h.2.1 = E) (hn : E.2.2.1 ≤ n0) (hk : ∀ (b : Nat) (e : va_E), b < E.2.2.1 → E.2.2.2 b = some e → h.1 b = some e) : ENV n0 h := by
  obtain ⟨v1, v2, v3, v4, v5, v6, v7⟩ := hV
  unfold ENV
  rw [hE]
  refine ⟨fun k hk7 => ?_, fun j hj => ?_, v1, v2, v3, v4, ?_⟩
  · obtain ⟨v, f, a1, a2, a3, a4, a5⟩ := v5 k hk7
    exact ⟨v, [], f, hk _ _ a1 a3, hk _ _ a2 a4, a5, by omega, by omega⟩
  · obtain ⟨a1, a2⟩ := v6 j hj
    exact ⟨by omega, hk _ _ a1 a2⟩
  · unfold pbase
    rw [hE]
    exact hn
section LD1
variable {h : PH}
theorem cauC_at {β : Type} {a q : Nat} {fs : List Value} {K : Option Nat → Option β} (e : h.1 a = some (.inr (12, fs))) (hk : fs[0]? = some (.ref q)) (hb : pbase h ≤ a) (hne : q ≠ a) : cauC h (some a) 12 K = K (some q) := by
  have hb' : h.2.1.2.2.1 ≤ a := hb
  have e1 : gcF a (some q) = some q := by
    unfold gcF
    rw [if_neg (fun hy => hne (Option.some.inj hy))]
  simp [cauC, cO_, cA_, e, hk, asR, hb', e1]
theorem iN_at {β : Type} {q c ci : Nat} {fs : List Value} {K : Int32 → Option β} (e : h.1 q = some (.inr (c, fs))) : iN h (some q) ci K = if c = ci then K 1 else if ((rcl c).1, (rcl ci).1) ∈ ncT then K 0 else none := by
  simp [iN, e]
theorem nc_1 : ((rcl 10).1, (rcl 9).1) ∈ ncT ∧ ((rcl 8).1, (rcl 9).1) ∈ ncT ∧ ((rcl 8).1, (rcl 10).1) ∈ ncT ∧ ((rcl 11).1, (rcl 9).1) ∈ ncT ∧ ((rcl 11).1, (rcl 10).1) ∈ ncT ∧ ((rcl 11).1, (rcl 8).1) ∈ ncT := by decide +kernel
/-- the exception's number -/
theorem p_num14 {a q k pos : Nat} (ea : h.1 a = some (.inr (12, [.ref q, .null, .null, .null, .null, .int 0]))) (eq : h.1 q = some (cErr (cls k) pos)) (hb : pbase h ≤ a) (k1 : 1 ≤ k) (k4 : k ≤ 4) : f_X14_number (some a) h = some (Int32.ofNat k, h) := by
  have hne : q ≠ a := fun hy => by
    rw [hy, ea] at eq
    unfold cErr at eq
    have := (Prod.mk.inj (Sum.inr.inj (Option.some.inj eq))).1
    unfold cls at this
    split at this
    · omega
    · split at this
      · omega
      · split at this <;> omega
  obtain ⟨n1, n2, n3, n4, n5, n6⟩ := nc_1
  have t1 : ¬ (1 : Int32) = 0 := by decide
  unfold f_X14_number
  rw [cauC_at ea rfl hb hne]
  have : k = 1 ∨ k = 2 ∨ k = 3 ∨ k = 4 := by omega
  rcases this with rfl | rfl | rfl | rfl
  · have e : h.1 q = some (.inr (9, [.int (Int32.ofNat pos), .null, .null, .null, .null, .null, .int 0])) := eq
    rw [iN_at e, if_pos rfl, if_neg t1]
    rfl
  · have e : h.1 q = some (.inr (10, [.int (Int32.ofNat pos), .null, .null, .null, .null, .null, .int 0])) := eq
    rw [iN_at e, if_neg (by decide), if_pos n1, if_pos rfl, iN_at e, if_pos rfl, if_neg t1]
    rfl
  · have e : h.1 q = some (.inr (8, [.int (Int32.ofNat pos), .null, .null, .null, .null, .null, .int 0])) := eq
    rw [iN_at e, if_neg (by decide), if_pos n2, if_pos rfl, iN_at e, if_neg (by decide), if_pos n3, if_pos rfl, iN_at e, if_pos rfl, if_neg t1]
    rfl
  · have e : h.1 q = some (.inr (11, [.int (Int32.ofNat pos), .null, .null, .null, .null, .null, .int 0])) := eq
    rw [iN_at e, if_neg (by decide), if_pos n4, if_pos rfl, iN_at e, if_neg (by decide), if_pos n5, if_pos rfl, iN_at e, if_neg (by decide), if_pos n6, if_pos rfl]
    rfl
/-- the exception's place -/
theorem p_pos14 {a q k pos : Nat} (ea : h.1 a = some (.inr (12, [.ref q, .null, .null, .null, .null, .int 0]))) (eq : h.1 q = some (cErr (cls k) pos)) (hb : pbase h ≤ a) (k1 : 1 ≤ k) (k4 : k ≤ 4) : f_X14_position (some a) h = some (Int32.ofNat pos, h) := by
  have hne : q ≠ a := fun hy => by
    rw [hy, ea] at eq
    unfold cErr at eq
    have := (Prod.mk.inj (Sum.inr.inj (Option.some.inj eq))).1
    unfold cls at this
    split at this
    · omega
    · split at this
      · omega
      · split at this <;> omega
  unfold f_X14_position
  rw [cauC_at ea rfl hb hne]
  have : k = 1 ∨ k = 2 ∨ k = 3 ∨ k = 4 := by omega
  rcases this with rfl | rfl | rfl | rfl
  · have e : h.1 q = some (.inr (9, [.int (Int32.ofNat pos), .null, .null, .null, .null, .null, .int 0])) := eq
    have e2 : f_X9_position_X11 (some q) h = some (Int32.ofNat pos, h) := by
      unfold f_X9_position_X11
      exact gI_at e rfl
    unfold kQ4
    simp only [e]
    rw [if_neg (by decide), if_pos trivial, kC_at e, rv_at e, cl_eq e2]
  · have e : h.1 q = some (.inr (10, [.int (Int32.ofNat pos), .null, .null, .null, .null, .null, .int 0])) := eq
    have e2 : f_X9_position_X12 (some q) h = some (Int32.ofNat pos, h) := by
      unfold f_X9_position_X12
      exact gI_at e rfl
    unfold kQ4
    simp only [e]
    rw [if_neg (by decide), if_neg (by decide), if_pos trivial, kC_at e, rv_at e, cl_eq e2]
  · have e : h.1 q = some (.inr (8, [.int (Int32.ofNat pos), .null, .null, .null, .null, .null, .int 0])) := eq
    have e2 : f_X9_position_X10 (some q) h = some (Int32.ofNat pos, h) := by
      unfold f_X9_position_X10
      exact gI_at e rfl
    unfold kQ4
    simp only [e]
    rw [if_pos trivial, kC_at e, rv_at e, cl_eq e2]
  · have e : h.1 q = some (.inr (11, [.int (Int32.ofNat pos), .null, .null, .null, .null, .null, .int 0])) := eq
    have e2 : f_X9_position_X13 (some q) h = some (Int32.ofNat pos, h) := by
      unfold f_X9_position_X13
      exact gI_at e rfl
    unfold kQ4
    simp only [e]
    rw [if_neg (by decide), if_neg (by decide), if_neg (by decide), if_pos trivial, kC_at e, rv_at e, cl_eq e2]
end LD1
section LD2
variable {E : PE} {B : Nat × Nat} {F : Nat → Nat} {R : PM} {S : SS} {h h' : PH} {X bA sA : Nat} {le : Int32} {len : Nat} {bf : Nat → Nat} {g : Nat → Int32}
/-- the heap grows, the picture rests -/
theorem SP.grown (hS : SP E B F R S h) (hg : ∀ b : Nat, b < pn h → h'.1 b = h.1 b) (he : h'.2.1 = h.2.1) (hn : pn h ≤ pn h') {c k : Nat} (hc : pcl h' + c = B.1) (hs : psl h' + k = B.2) : SP E B F R (u_ct S c k) h' := by
  obtain ⟨G, ad, I, g1, g2, hr⟩ := hS
  refine ⟨G, ad, I, g1, g2, hr.back (he.trans hr.1) (fun b e hb => ?_) hc hs⟩
  obtain ⟨k1, k2⟩ := KN_KH hr b e hb
  exact ⟨by rw [hg b k2]; exact k1, by omega⟩
/-- the cells of a fresh parser -/
def ldC (h : PH) (X : Nat) : List va_E := [sim0, cPar (pn h + 2) (pn h + 8) X 0] ++ (cfC h (pn h + 2) ++ [cLst 0 (pn h + 9) 0, .inl (h.2.1.2.1 4, 2, aNul)])
/-- the rest of load behind the new parser -/
def ldZ (r0 : Option Nat) (a1 a3 : Nat) (h5 : PH) : Option (Int32 × PH) := rv_ h5 (some a3) 7 (cl_ (f_X8_configuration (some a3) h5) fun z9 h6 => match z9 with | .inl (ci9, q9) => ((if ci9 = 12 then (if pbase h6 ≤ q9 then (rv_ h6 (some q9) 12 (cl_ (f_X14_number (some q9) h6) fun v16 h15 => pV h15 r0 0 2 (.int v16) fun h17 => rv_ h17 (some q9) 12 (cl_ (f_X14_position (some q9) h17) fun v19 h18 => pV h18 r0 0 1 (.int (0 : Int32)) fun h20 => some (((-100 : Int32) - v19), h20)))) else none) else none)) | .inr r7 => (cl_ (f_X2_init a1 r7 h6) fun _u h8 => pV h8 r0 0 3 (va_rf (some a1)) fun h9 => pV h9 r0 0 2 (.int (0 : Int32)) fun h10 => gR h10 r0 0 3 fun r11 => gRN h10 r11 1 1 fun r12 => aN h10 r12 5 fun v13 => pV h10 r0 0 1 (.int (0 : Int32)) fun h14 => some (v13, h14)))
theorem ld_beg (hb : pbase h ≤ pn h) (h1 : 10 ≤ pcl h) (h2 : 60 ≤ psl h) : f_X1_load (some X) h = ldZ (some X) (pn h) (pn h + 1) (bh h (ldC h X) 52) := by
  have e0 : f_X1_load (some X) h = f_X1_load (some X) (bh h [] 0) := by rw [bh_nil]
  rw [e0]
  unfold f_X1_load
  refine (b_nO (h := h) (cs := []) (k := 0) (by show 0 + 1 ≤ _; omega) (by omega)).trans ?_
  refine (b_nO (h := h) (cs := [sim0]) (k := 22) (by show 1 + 1 ≤ _; omega) (by omega)).trans ?_
  refine (cl_eq (c_parser (sim := sim0) (X := X) hb h1 h2)).trans ?_
  rfl
/-- the picture of the fresh parser -/
theorem ld_pps (hS : SP E B F R S h) (hX : R X = some (cLL bA (Int32.ofNat len) le (F 0) sA)) (hXb : E.2.2.1 ≤ X) (hA : R bA = some (.inl (E.2.1 1, 400, .inl g))) (hAb : E.2.2.1 ≤ bA) (hT : CBF g bf len) (hV : EVC E) (hK : KE E R) :
    PPS (pn h + 1) X bA sA (F 0) le (pn h + 1) (pn h + 2) (pn h + 8) (pn h + 4) (pn h + 6) bf len [] cs0 0 (bh h (ldC h X) 52) := by
  have hb := hS.base.2.1
  have hE := hS.base.1
  have hp : pbase h = E.2.2.1 := by unfold pbase; rw [hE]
  have x1 := hS.tr hX
  have x2 := hS.tr hA
  obtain ⟨H, hH⟩ : ∃ H, bh h (ldC h X) 52 = H := ⟨_, rfl⟩
  have at_ : ∀ (i : Nat) (e : va_E), (ldC h X)[i]? = some e → H.1 (pn h + i) = some e := fun i e hi => by rw [← hH]; exact bh_at hi
  have lo : ∀ b : Nat, b < pn h → H.1 b = h.1 b := fun b hb' => by rw [← hH]; exact bh_lo hb'
  have ePn : pn H = pn h + 10 := by rw [← hH]; rfl
  have eE : H.2.1 = h.2.1 := by rw [← hH]; rfl
  have eB : pbase H = pbase h := by unfold pbase; rw [eE]
  rw [hH]
  have cl1 : CBF g bf len := hT
  have lq : ∀ l row : Nat, H.1 l = some (cLst 0 row 0) → H.1 row = some (.inl (h.2.1.2.1 4, 2, aNul)) → pn h + 1 ≤ l → pn h + 1 ≤ row → l ≠ row → l < pn H → row < pn H → LQ (pn h + 1) H l row [] := fun l row e1 e2 i1 i2 i3 i4 i5 =>
    ⟨⟨0, e1, ⟨fun _ => none, by rw [eE]; exact e2, fun i hi => absurd hi (Nat.not_lt_zero i)⟩, by omega, by omega, i3, Nat.zero_le _, Nat.zero_le _, i4, i5⟩, i1, i2⟩
  refine ⟨⟨at_ 1 _ rfl, by omega, (lo X x1.2).trans x1.1, by omega, by omega, by omega, ⟨g, ?_, hT⟩, by omega, Nat.zero_le _⟩, hV.env (eE.trans hE) (by omega) (fun b e h1 h2 => ?_), by omega, by omega, Nat.le_refl _, by omega, pn h + 3, pn h + 5, pn h + 7, pn h + 9, [], [], [], [], ?_⟩
  · rw [lo bA x2.2, eE, hE]
    exact x2.1
  · have := hS.tr (hK b e h1 h2)
    rw [lo b this.2]
    exact this.1
  · refine ⟨at_ 2 _ rfl, ⟨by omega, by omega⟩, ⟨at_ 3 _ rfl, by omega, by omega⟩, lq _ _ (at_ 4 _ rfl) (at_ 5 _ rfl) (by omega) (by omega) (by omega) (by omega) (by omega), lq _ _ (at_ 6 _ rfl) (at_ 7 _ rfl) (by omega) (by omega) (by omega) (by omega) (by omega), lq _ _ (at_ 8 _ rfl) (at_ 9 _ rfl) (by omega) (by omega) (by omega) (by omega) (by omega), ⟨by omega, by omega, by omega⟩, ⟨by omega, by omega, by omega⟩, ⟨rfl, fun i hi => absurd hi (Nat.not_lt_zero i)⟩, ⟨rfl, fun i hi => absurd hi (Nat.not_lt_zero i)⟩, ⟨rfl, fun i hi => absurd hi (Nat.not_lt_zero i)⟩, ⟨rfl, fun k hk k1 => ⟨fun hy => absurd hy List.not_mem_nil, fun hy => absurd (show false = true from hy) (by decide)⟩, fun w hw => absurd hw List.not_mem_nil⟩, Nat.zero_le _, Nat.zero_le _⟩
/-- a text that can't be used -/
theorem x_loadE (hS : SP E B F R S h) (hX : R X = some (cLL bA (Int32.ofNat len) le (F 0) sA)) (hXb : E.2.2.1 ≤ X) (hA : R bA = some (.inl (E.2.1 1, 400, .inl g))) (hAb : E.2.2.1 ≤ bA) (hT : CBF g bf len) (hV : EVC E) (hK : KE E R) (h1 : 2 * len + 200 ≤ pcl h) (h2 : 18 * len + 6000 ≤ psl h)
    {e : Nat × Nat} (hp : parse bf len = .inl e) :
    ∃ (h1 : PH) (c k : Nat), f_X1_load (some X) h = some (Int32.ofInt (-100 - (e.2 : Int)), h1) ∧ SP E B F (rU R X (cLL bA 0 (Int32.ofNat e.1) (F 0) sA)) (u_ct S c k) h1 ∧ s_gh S 0 ≤ c ∧ c ≤ s_gh S 0 + 2 * len + 40 ∧ s_gh S 1 ≤ k ∧ k ≤ s_gh S 1 + 18 * len + 3800 := by
  have hb := hS.base.2.1
  have hE := hS.base.1
  have hpb : pbase h = E.2.2.1 := by unfold pbase; rw [hE]
  have rm := hS.room
  have x1 := hS.tr hX
  have hl := hT.1
  have hP := ld_pps hS hX hXb hA hAb hT hV hK
  rw [ld_beg hb (by omega) (by omega)]
  obtain ⟨H, hH⟩ : ∃ H, bh h (ldC h X) 52 = H := ⟨_, rfl⟩
  have lo : ∀ b : Nat, b < pn h → H.1 b = h.1 b := fun b hb' => by rw [← hH]; exact bh_lo hb'
  have ePn : pn H = pn h + 10 := by rw [← hH]; rfl
  have eE : H.2.1 = h.2.1 := by rw [← hH]; rfl
  have eC : pcl H = pcl h - 10 := by rw [← hH]; rfl
  have eS : psl H = psl h - 52 := by rw [← hH]; rfl
  rw [hH] at hP ⊢
  rcases q_conf (by omega) (by omega) hP with ⟨h', c', q, u1, -⟩ | ⟨e', q, a, h', u1, u2, u3, u4, u5, u6, u7, u8⟩
  · rw [hp] at u1; cases u1
  · rw [hp] at u1
    cases u1
    have z := u8.2.2
    have hbh := u8.base
    have lo' : ∀ b : Nat, b < pn h → h'.1 b = h.1 b := fun b hb' => (u8.1 b (by omega)).trans (lo b hb')
    have hX' : h'.1 X = some (.inr (0, [.ref bA, .int (Int32.ofNat len), .int le, .ref (F 0), .ref sA])) := (lo' X x1.2).trans x1.1
    have eB : pbase H = pbase h := by unfold pbase; rw [eE]
    have bX : pbase h' ≤ X := by omega
    have ba : pbase h' ≤ a := by omega
    have hep : e.2 ≤ len := sts_pos FL 0 cs0 e (Nat.zero_le _) hp
    have s0 := hS.grown (h' := h') (c := s_gh S 0 + (pcl h - pcl h')) (k := s_gh S 1 + (psl h - psl h')) lo' (u8.2.1.trans eE) (by omega) (by omega) (by omega)
    have s1 := s0.swap (e' := cLL bA (Int32.ofNat len) (Int32.ofNat e.1) (F 0) sA) hX (Or.inr (Or.inr (Or.inl ⟨0, _, rfl, Or.inl rfl⟩)))
    have s2 := s1.swap (e' := cLL bA 0 (Int32.ofNat e.1) (F 0) sA) rU_at (Or.inr (Or.inr (Or.inl ⟨0, _, rfl, Or.inl rfl⟩)))
    refine ⟨p_set (p_set h' X (cLL bA (Int32.ofNat len) (Int32.ofNat e.1) (F 0) sA)) X (cLL bA 0 (Int32.ofNat e.1) (F 0) sA), s_gh S 0 + (pcl h - pcl h'), s_gh S 1 + (psl h - psl h'), ?_, s2.less (fun b x hb' => ?_), by omega, by omega, by omega, by omega⟩
    · unfold ldZ
      rw [rv_at hP.1.1, cl_eq u3]
      dsimp only
      rw [if_pos rfl, if_pos ba, rv_at u4, cl_eq (p_num14 u4 u5 ba u2.1 u2.2), pV_at hX' bX (Nat.le_of_ble_eq_true rfl)]
      have na : a ≠ X := by omega
      have nq : q ≠ X := by omega
      have v4 : (p_set h' X (.inr (0, [Value.ref bA, .int (Int32.ofNat len), .int le, .ref (F 0), .ref sA].set 2 (.int (Int32.ofNat e.1))))).1 a = some (.inr (12, [.ref q, .null, .null, .null, .null, .int 0])) := (ps_ne na).trans u4
      have v5 : (p_set h' X (.inr (0, [Value.ref bA, .int (Int32.ofNat len), .int le, .ref (F 0), .ref sA].set 2 (.int (Int32.ofNat e.1))))).1 q = some (cErr (cls e.1) e.2) := (ps_ne nq).trans u5
      rw [rv_at v4, cl_eq (p_pos14 v4 v5 ba u2.1 u2.2), pV_at ps_at bX (Nat.le_of_ble_eq_true rfl)]
      have ev : (-100 : Int32) - Int32.ofNat e.2 = Int32.ofInt (-100 - (e.2 : Int)) := by
        have k100 : ((-100 : Int32)).toInt = -100 := by decide
        apply Int32.toInt_inj.mp
        rw [i_sub (by rw [k100, of_i (by omega)]; omega) (by rw [k100, of_i (by omega)]; omega), k100, of_i (by omega), Int32.toInt_ofInt, b32 (by omega) (by omega)]
      rw [ev]
      rfl
    · by_cases c : b = X
      · subst c
        rw [rU_at] at hb' ⊢
        exact hb'
      · rw [rU_ne c] at hb' ⊢
        rw [rU_ne c]
        exact hb'
end LD2
