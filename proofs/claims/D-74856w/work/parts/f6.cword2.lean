/-! THE COMPONENT reads: a word -/
set_option maxRecDepth 100000
def lts (bf : Nat → Nat) (a b : Nat) : List Nat := (List.range (b - a)).map (fun i => bf (a + i))
theorem lts_len {bf : Nat → Nat} {a b : Nat} : (lts bf a b).length = b - a := by simp [lts]
theorem lts_up {bf : Nat → Nat} {a b : Nat} (h : a ≤ b) : lts bf a (b + 1) = lts bf a b ++ [bf b] := by
  unfold lts
  rw [show b + 1 - a = (b - a) + 1 from by omega, List.range_succ, List.map_append]
  show _ ++ [bf (a + (b - a))] = _
  rw [show a + (b - a) = b from by omega]
theorem lts_nil {bf : Nat → Nat} {a : Nat} : lts bf a a = [] := by unfold lts; rw [Nat.sub_self]; rfl
section CWD
variable {X bA sA sim pa ca ha len p n0 sb v : Nat} {le : Int32} {bf : Nat → Nat} {h h' : PH}
theorem PPH.gr {n C s : Nat} (hP : PPH X bA sA sim le pa ca ha bf len p h) (g : GR n C s h h') (i1 : pa < n) (i2 : X < n) (i3 : bA < n) : PPH X bA sA sim le pa ca ha bf len p h' := by
  obtain ⟨a1, a2, a3, a4, a5, a6, ⟨f, a7, a8⟩, a9, a10⟩ := hP
  have hb := g.base
  exact ⟨(g.1 _ i1).trans a1, by omega, (g.1 _ i2).trans a3, by omega, a5, a6, ⟨f, by rw [g.1 _ i3, g.2.1]; exact a7, a8⟩, by omega, a10⟩
theorem SB.set {w : List Nat} {a : Nat} {e : va_E} (hS : SB h n0 sb v w) (ha : a < n0) : SB (p_set h a e) n0 sb v w := by
  obtain ⟨a1, ⟨g, a2, a3, a4⟩, a5, a6, a7, a8, a9, a10, a11⟩ := hS
  exact ⟨(ps_ne (by omega)).trans a1, ⟨g, (ps_ne (by omega)).trans a2, a3, a4⟩, a5, a6, a7, a8, a9, a10, a11⟩
theorem p_wordL {a0 : Nat} (i1 : pa < n0) (i2 : X < n0) (i3 : bA < n0) : ∀ (f N p v : Nat) (h : PH), h.2.1.1 9 = .int 1 → PPH X bA sA sim le pa ca ha bf len p h → SB h n0 sb v (lts bf a0 p) → a0 ≤ p → len - p < f → f < N →
    bK (wds bf len f p - a0) - bK (p - a0) + 2 ≤ pcl h → bS (wds bf len f p - a0) - bS (p - a0) + 4 + (wds bf len f p - a0) ≤ psl h →
    ∃ (a u : Nat) (h' : PH), f_X8_word_L13 N (some pa) (some sb) h = some (some a, h') ∧ STR h' a u (lts bf a0 (wds bf len f p)) 0 0 ∧ n0 ≤ a ∧ n0 ≤ u ∧ a ≠ u ∧ a < pn h' ∧ u < pn h' ∧
      GR n0 (bK (wds bf len f p - a0) - bK (p - a0) + 2) (bS (wds bf len f p - a0) - bS (p - a0) + 4 + (wds bf len f p - a0)) (pP h pa ca ha X (wds bf len f p)) h' := by
  intro f
  induction f with
  | zero => intro N p v h _ _ _ _ h1; omega
  | succ f ih =>
    intro N p v h e9 hP hS hap h1 h2 c1 c2
    have hB := hP.b2
    have hpl := hP.2.2.2.2.2.2.2.2
    have k48 : ((97 : Int64)).toInt = ((97 : Nat) : Int) := by decide
    have k57 : ((122 : Int64)).toInt = ((122 : Nat) : Int) := by decide
    cases N with
    | zero => omega
    | succ N =>
      unfold f_X8_word_L13
      unfold wds at c1 c2 ⊢
      rw [rv_at hP.1, cl_eq (p_here hP), cl_eq x_in, k48, k57, Int32.toInt_toInt64]
      by_cases c : 97 ≤ hb bf len p ∧ hb bf len p ≤ 122
      · have hlt : p < len := hb_lt (x := hb bf len p) rfl (by omega)
        rw [if_pos c] at c1 c2 ⊢
        have wl := wds_le (bf := bf) (len := len) f (p + 1) (by omega)
        obtain ⟨q, hq⟩ : ∃ q, wds bf len f (p + 1) = q := ⟨_, rfl⟩
        have ih' := ih N (p + 1)
        rw [hq] at c1 c2 wl ih' ⊢
        have m1 := bKS_up (show p - a0 ≤ p + 1 - a0 by omega)
        have m2 := bKS_up (show p + 1 - a0 ≤ q - a0 by omega)
        have ew : hw bf len p = Int32.ofNat (bf p) := if_pos hlt
        rw [hb_at hlt] at c
        have el : (lts bf a0 p).length = p - a0 := lts_len
        have ep : p - a0 + 1 = p + 1 - a0 := by omega
        obtain ⟨v', h', ea, hS', g⟩ := sb_app e9 c hS (by omega) (by rw [el, ep]; omega) (by rw [el, ep]; omega)
        rw [el, ep] at g
        have hP' := hP.gr g i1 i2 i3
        rw [if_pos ((hw_in hB.1 (by decide)).mpr (by rw [hb_at hlt]; exact c)), if_neg (show ¬ (1 : Int32) = 0 by decide), rv_at hP.1, cl_eq (p_here hP), rv_at hS.1, ew, cl_eq ea, p_inc hP']
        have g1 := g.2.2
        obtain ⟨a, u, h2', eb, hT, j1, j2, j3, j4, j5, g2⟩ := ih' v' (pP h' pa ca ha X (p + 1)) (by show h'.2.1.1 9 = _; rw [g.2.1]; exact e9) (hP'.at_ (by omega)) (by rw [lts_up hap]; exact hS'.set i1) (by omega) (by omega) (by omega)
          (by show _ ≤ pcl h'; omega) (by show _ ≤ psl h'; omega)
        rw [pP_pP] at g2
        refine ⟨a, u, h2', eb, hT, j1, j2, j3, j4, j5, ?_⟩
        exact ((GR.both g).trans g2 (Nat.le_refl _)).more (Nat.le_refl _) (by omega) (by omega)
      · rw [if_neg c] at c1 c2 ⊢
        have el : (lts bf a0 p).length = p - a0 := lts_len
        obtain ⟨h', ea, hT, g, e2⟩ := sb_str e9 hS (by omega) (by rw [el]; omega)
        rw [el] at g
        rw [if_neg (fun hy => c ((hw_in hB.1 (by decide)).mp hy)), if_pos rfl, rv_at hS.1, cl_eq ea, pP_self hP.1]
        have b8 := hS.2.2.2.2.2.1
        have b5 := hS.2.2.1
        exact ⟨pn h, pn h + 1, h', rfl, hT, by omega, by omega, by omega, by omega, by omega, g.more (by omega) (by omega) (by omega)⟩
/-- a word -/
theorem p_word (e9 : h.2.1.1 9 = .int 1) (hP : PPH X bA sA sim le pa ca ha bf len p h) (hbn : pbase h ≤ pn h) (i1 : pa < pn h) (i2 : X < pn h) (i3 : bA < pn h) (c1 : 9 ≤ pcl h) (c2 : 1530 ≤ psl h) :
    ∃ (a u : Nat) (h' : PH), f_X8_word (some pa) h = some (some a, h') ∧ STR h' a u (lts bf (sk bf len p) (wds bf len FL (sk bf len p))) 0 0 ∧ pn h ≤ a ∧ pn h ≤ u ∧ a ≠ u ∧ a < pn h' ∧ u < pn h' ∧
      GR (pn h) (bK (wds bf len FL (sk bf len p) - sk bf len p) + 4) (bS (wds bf len FL (sk bf len p) - sk bf len p) + 24 + (wds bf len FL (sk bf len p) - sk bf len p)) (pP h pa ca ha X (wds bf len FL (sk bf len p))) h' := by
  have hB := hP.b2
  have hpl := hP.2.2.2.2.2.2.2.2
  have hs := sk_le (bf := bf) hpl
  have nx := p_next hP
  obtain ⟨q, hq⟩ : ∃ q, sk bf len p = q := ⟨_, rfl⟩
  rw [hq] at hs nx ⊢
  have wl := wds_le (bf := bf) (len := len) FL q hs.2
  unfold f_X8_word
  rw [rv_at hP.1, cl_eq nx]
  obtain ⟨H, hH⟩ : ∃ H, pP h pa ca ha X q = H := ⟨_, rfl⟩
  have hP1 := hP.at_ (q := q) hs.2
  have f1 : pn H = pn h ∧ pcl H = pcl h ∧ psl H = psl h ∧ pbase H = pbase h ∧ H.2.1 = h.2.1 := by rw [← hH]; exact ⟨rfl, rfl, rfl, rfl, rfl⟩
  have f2 : ∀ r : Nat, pP H pa ca ha X r = pP h pa ca ha X r := fun r => by rw [← hH, pP_pP]
  rw [hH] at hP1 ⊢
  obtain ⟨f1a, f1b, f1c, f1d, f1e⟩ := f1
  obtain ⟨h1, e1, hS, g⟩ := sb_new (β := Option Nat × PH) (h := H) (by rw [f1e]; exact e9) (by omega) (by omega) (by omega)
  rw [e1]
  have hP2 := hP1.gr g (by omega) (by omega) (by omega)
  have gg := g.2.2
  have kk : bK (wds bf len FL q - q) ≤ 5 ∧ bS (wds bf len FL q - q) ≤ 1106 := by
    unfold bK bS
    repeat' split
    all_goals omega
  have k0 : bK (q - q) = 0 ∧ bS (q - q) = 0 := by rw [Nat.sub_self]; decide
  obtain ⟨a, u, h2, e2, hT, j1, j2, j3, j4, j5, g2⟩ := p_wordL (n0 := pn H) (a0 := q) (by omega) (by omega) (by omega) FL FU q (pn H + 1) h1 (by rw [g.2.1, f1e]; exact e9) hP2 (by rw [lts_nil]; exact hS) (Nat.le_refl _) (by unfold FL; omega) (by unfold FL FU; omega) (by omega) (by omega)
  refine ⟨a, u, h2, e2, hT, by omega, by omega, j3, j4, j5, ?_⟩
  have g3 := (GR.both (a := pa) (e := cPar ca ha X (wds bf len FL q)) g).trans g2 (Nat.le_refl _)
  have g4 : GR (pn H) (2 + (bK (wds bf len FL q - q) - bK (q - q) + 2)) (20 + (bS (wds bf len FL q - q) - bS (q - q) + 4 + (wds bf len FL q - q))) (pP H pa ca ha X (wds bf len FL q)) h2 := g3
  rw [f2] at g4
  exact g4.more (by omega) (by omega) (by omega)
end CWD
