/-! THE PICTURE of a simulation in the plain heap -/
set_option maxRecDepth 100000
theorem fu_eq {α : Type} {f : Nat → α} {k : Nat} {v : α} : fu f k v k = v := if_pos rfl
theorem fu_ne {α : Type} {f : Nat → α} {j k : Nat} {v : α} (h : k ≠ j) : fu f j v k = f k := if_neg h
abbrev refs (f : Nat → Option Nat) : AX := .inr (.inr (.inr (.inr f)))
def cSim (G : Nat → Nat) (sc : Nat → Int32) : va_E := .inr (1, [.ref (G 40), .ref (G 1), .ref (G 2), .ref (G 3), .ref (G 4), .ref (G 5), .ref (G 6), .ref (G 7), .int (sc 8), .int (sc 9), .int (sc 10), .int (sc 11), .int (sc 12), .int (sc 13), .int (sc 14), .int (sc 15), .int (sc 16), .int (sc 17), .int (sc 18), .int (sc 19), .int (sc 20), .int (sc 21)])
def cNode (G : Nat → Nat) (i : Nat) (nd : Nat → Int32) : va_E := .inr (5, [.ref (G (70 + i)), .int (nd 1), .int (nd 2), .int (nd 3), .int (nd 4), .int (nd 5), .int (nd 6), .int (nd 7), .int (nd 8), .int (nd 9), .int (nd 10), .int (nd 11), .ref (G (60 + i))])
def cClk (r o : Int32) : va_E := .inr (3, [.int r, .int o])
def cCfg (G : Nat → Nat) (cf : Nat → Int32) : va_E := .inr (2, [.ref (G 41), .ref (G 42), .ref (G 43), .int (cf 3), .int (cf 4), .int (cf 5), .int (cf 6), .int (cf 7), .int (cf 8)])
def cSto (G : Nat → Nat) (g : Int32) : va_E := .inr (4, [.ref (G 8), .ref (G 9), .int g])
def cLst (md : Int32) (e sz : Nat) : va_E := .inr (19, [.int md, .ref e, .int (Int32.ofNat sz)])
def cMsg (ka : Nat → Nat) (m : MG) : va_E := .inr (13, [.ref (ka m.1), .int (Int32.ofNat m.2.1), .int m.2.2.1, .int m.2.2.2.1, .int m.2.2.2.2.1, .int m.2.2.2.2.2.1, .int m.2.2.2.2.2.2])
def cDel (d : DG) : va_E := .inr (18, [.int (Int32.ofNat d.1), .int d.2.1, .int (Int32.ofNat d.2.2.1), .int d.2.2.2.1, .int d.2.2.2.2])
def cOut (o : OG) : va_E := .inr (17, [.int (Int32.ofNat o.1), .int o.2.1, .int o.2.2])
def cEvt (e : EG) : va_E := .inr (14, [.int e.1, .int e.2.1, .int e.2.2.1, .int e.2.2.2])
def cInt (v : Int32) : va_E := .inr (23, [.int v])
def cKnd (i : Nat) : va_E := .inr (25, [.int (Int32.ofNat i)])
/-- the cells of the list li -/
def lsC (E : PE) (S : SS) (li : Nat) : List va_E := if li = 2 then (s_ms S).map (cMsg (sAd E)) else if li = 3 then (s_dl S).map cDel else if li = 4 then (s_ou S).map cOut else (s_lg S).map cEvt
/-- the roles of the cells that are written -/
def mR (n k : Nat) : Prop := k < 10 ∨ (12 ≤ k ∧ k < 16) ∨ (50 ≤ k ∧ k < 50 + n) ∨ (60 ≤ k ∧ k < 60 + n)
def cN (G : Nat → Nat) (nd : Nat → Nat → Int32) (cI : ClassId) (k : Nat) (e : va_E) : Prop := if k < 60 then e = cNode G (k - 50) (nd (k - 50)) else ∃ f : Nat → Int32, e = .inl (cI, 8, .inl f) ∧ ∀ r : Nat, r < 8 → f r = nd (k - 60) (30 + r)
def arL (k : Nat) : Nat := if k = 7 then 9 else 8
def arX (k : Nat) : Nat := if k = 7 then 2 else k - 8
def cV (ar : Nat → Nat → Int32) (cI : ClassId) (k : Nat) (e : va_E) : Prop := ∃ f : Nat → Int32, e = .inl (cI, arL k, .inl f) ∧ ∀ r : Nat, r < arL k → f r = ar (arX k) r
def cL (G : Nat → Nat) (cls : Nat → ClassId) (n : Nat) (len cap : Nat → Nat) (ad : Nat → Nat → Nat) (k : Nat) (e : va_E) : Prop :=
  if k = 1 then ∃ f : Nat → Option Nat, e = .inl (cls 5, n, refs f) ∧ ∀ i : Nat, i < n → f i = some (G (50 + i))
  else if k < 6 then ∃ md : Int32, e = cLst md (G (k + 10)) (len k)
  else ∃ f : Nat → Option Nat, e = .inl (cls 4, cap (k - 10), refs f) ∧ (∀ j : Nat, j < len (k - 10) → f j = some (ad (k - 10) j)) ∧ (∀ j : Nat, len (k - 10) ≤ j → f j = none) ∧ len (k - 10) ≤ cap (k - 10) ∧ cap (k - 10) < 2 ^ 30 ∧ 0 < cap (k - 10)
/-- what stands at the role k -/
def CR (E : PE) (G : Nat → Nat) (ad : Nat → Nat → Nat) (S : SS) (k : Nat) (e : va_E) : Prop :=
  if k = 0 then e = cSim G (s_sc S) else if k = 6 then e = cSto G (s_sc S 30) else if 50 ≤ k then cN G (s_nd S) (E.2.1 0) k e
  else if k = 7 ∨ k = 8 ∨ k = 9 then cV (s_ar S) (E.2.1 0) k e else cL G E.2.1 (s_n S) (fun li => (lsC E S li).length) (s_gh S) ad k e
/-- what is never written: the configuration, the clocks, the lists' elements, the kinds -/
def IM (E : PE) (G : Nat → Nat) (ad : Nat → Nat → Nat) (I : PM) (S : SS) : Prop :=
  (∀ i : Nat, i < s_n S → I (G (70 + i)) = some (cClk (s_nd S i 20) (s_nd S i 21)) ∧ E.2.2.1 ≤ G (70 + i)) ∧
  (I (G 40) = some (cCfg G (s_cf S)) ∧ E.2.2.1 ≤ G 40) ∧ (I (G 41) = some (cClk (s_cf S 0) (s_cf S 1)) ∧ E.2.2.1 ≤ G 41) ∧
  (∃ (md : Int32) (c : Nat) (f : Nat → Option Nat), I (G 42) = some (cLst md (G 44) (s_n S)) ∧ E.2.2.1 ≤ G 42 ∧ I (G 44) = some (.inl (E.2.1 4, c, refs f)) ∧ E.2.2.1 ≤ G 44 ∧ s_n S ≤ c ∧ ∀ i : Nat, i < s_n S → f i = some (G (70 + i))) ∧
  (∃ (md : Int32) (c : Nat) (f : Nat → Option Nat), I (G 43) = some (cLst md (G 45) (s_n S)) ∧ E.2.2.1 ≤ G 43 ∧ I (G 45) = some (.inl (E.2.1 4, c, refs f)) ∧ E.2.2.1 ≤ G 45 ∧ s_n S ≤ c ∧ ∀ i : Nat, i < s_n S → ∃ q : Nat, f i = some q ∧ I q = some (cInt (s_nd S i 1))) ∧
  (∀ (li j : Nat) (x : va_E), 2 ≤ li → li < 6 → (lsC E S li)[j]? = some x → I (ad li j) = some x ∧ E.2.2.1 ≤ ad li j) ∧
  (∀ li : Nat, 2 ≤ li → li < 6 → ∀ i j : Nat, i < (lsC E S li).length → j < (lsC E S li).length → ad li i = ad li j → i = j) ∧
  (∀ i : Nat, i < 9 → E.1 i = .ref (sAd E i) ∧ I (sAd E i) = some (cKnd i))
/-- the picture with its addresses: what is known besides (I) is apart from it -/
def RP (E : PE) (B : Nat × Nat) (G : Nat → Nat) (ad : Nat → Nat → Nat) (I : PM) (S : SS) (h : PH) : Prop :=
  h.2.1 = E ∧ (∀ (b : Nat) (e : va_E), I b = some e → h.1 b = some e ∧ b < pn h) ∧ (∀ k : Nat, mR (s_n S) k → I (G k) = none ∧ E.2.2.1 ≤ G k ∧ G k < pn h) ∧
  (∀ j k : Nat, mR (s_n S) j → mR (s_n S) k → G j = G k → j = k) ∧ (∀ k : Nat, mR (s_n S) k → ∃ e : va_E, h.1 (G k) = some e ∧ CR E G ad S k e) ∧ IM E G ad I S ∧
  (1 ≤ s_n S ∧ s_n S ≤ 6) ∧ pcl h + s_gh S 0 = B.1 ∧ psl h + s_gh S 1 = B.2
/-- the simulation S stands at the addresses F (but for the lists' rows), beside the cells R -/
def SP (E : PE) (B : Nat × Nat) (F : Nat → Nat) (R : PM) (S : SS) (h : PH) : Prop :=
  ∃ (G : Nat → Nat) (ad : Nat → Nat → Nat) (I : PM), (∀ k : Nat, k < 12 ∨ 16 ≤ k → G k = F k) ∧ (∀ (b : Nat) (e : va_E), R b = some e → I b = some e) ∧ RP E B G ad I S h
/-- a cell of the picture is written -/
theorem RP.set {E : PE} {B : Nat × Nat} {G : Nat → Nat} {ad : Nat → Nat → Nat} {I : PM} {S S' : SS} {h : PH} (hr : RP E B G ad I S h) (k0 : Nat) (e' : va_E) (h0 : mR (s_n S) k0) (hn : s_n S' = s_n S) (hg : s_gh S' = s_gh S)
    (hc : ∀ (k : Nat) (e : va_E), k ≠ k0 → CR E G ad S k e → CR E G ad S' k e) (hc0 : CR E G ad S' k0 e') (hi : IM E G ad I S → IM E G ad I S') : RP E B G ad I S' (p_set h (G k0) e') := by
  obtain ⟨r1, r2, r3, r4, r5, r6, r7, r8, r9⟩ := hr
  refine ⟨r1, fun b e hb => ?_, ?_, ?_, ?_, hi r6, by rw [hn]; exact r7, by rw [hg]; exact r8, by rw [hg]; exact r9⟩
  · obtain ⟨g1, g2⟩ := r2 b e hb
    refine ⟨?_, g2⟩
    rw [ps_ne, g1]
    intro hbk
    rw [hbk, (r3 k0 h0).1] at hb
    cases hb
  · rw [hn]; exact r3
  · rw [hn]; exact r4
  · rw [hn]
    intro k hk
    by_cases e0 : k = k0
    · subst e0
      exact ⟨e', ps_at, hc0⟩
    · obtain ⟨e, g1, g2⟩ := r5 k hk
      exact ⟨e, by rw [ps_ne (fun h => e0 (r4 k k0 hk h0 h)), g1], hc k e e0 g2⟩
theorem CR.mk {E : PE} {G : Nat → Nat} {ad : Nat → Nat → Nat} {S : SS} {k c j : Nat} {e : va_E} (hk : mR (s_n S) k) (h : CR E G ad S k e) : CR E G ad (g_mk S c j) k e := by
  unfold CR at h ⊢
  by_cases h0 : k = 0
  · rw [if_pos h0] at h ⊢; exact h
  rw [if_neg h0] at h ⊢
  by_cases h6 : k = 6
  · rw [if_pos h6] at h ⊢; exact h
  rw [if_neg h6] at h ⊢
  by_cases h5 : 50 ≤ k
  · rw [if_pos h5] at h ⊢; exact h
  rw [if_neg h5] at h ⊢
  by_cases h7 : k = 7 ∨ k = 8 ∨ k = 9
  · rw [if_pos h7] at h ⊢; exact h
  rw [if_neg h7] at h ⊢
  unfold cL at h ⊢
  by_cases h1 : k = 1
  · rw [if_pos h1] at h ⊢; exact h
  rw [if_neg h1] at h ⊢
  by_cases h2 : k < 6
  · rw [if_pos h2] at h ⊢; exact h
  rw [if_neg h2] at h ⊢
  have hk2 : k - 10 ≠ 0 ∧ k - 10 ≠ 1 := by unfold mR at hk; omega
  have e1 : s_gh (g_mk S c j) (k - 10) = s_gh S (k - 10) := (fu_ne hk2.2).trans (fu_ne hk2.1)
  rw [e1]
  exact h
/-- a new cell that nobody names yet; it may be known from now on -/
theorem RP.new {E : PE} {B : Nat × Nat} {G : Nat → Nat} {ad : Nat → Nat → Nat} {I : PM} {S : SS} {h : PH} (hr : RP E B G ad I S h) (e : va_E) (k : Nat) (h1 : 1 ≤ pcl h) (h2 : k ≤ psl h) : RP E B G ad I (g_mk S 1 k) (p_new h e k) := by
  obtain ⟨r1, r2, r3, r4, r5, r6, r7, r8, r9⟩ := hr
  refine ⟨r1, fun b e hb => ?_, fun k hk => ⟨(r3 k hk).1, (r3 k hk).2.1, Nat.lt_succ_of_lt (r3 k hk).2.2⟩, r4, ?_, r6, r7, ?_, ?_⟩
  · obtain ⟨g1, g2⟩ := r2 b e hb
    exact ⟨by rw [pn_ne (Nat.ne_of_lt g2), g1], Nat.lt_succ_of_lt g2⟩
  · intro k hk
    obtain ⟨e, g1, g2⟩ := r5 k hk
    exact ⟨e, by rw [pn_ne (Nat.ne_of_lt (r3 k hk).2.2), g1], g2.mk hk⟩
  · show h.2.2.2.1 - 1 + (s_gh S 0 + 1) = B.1
    have h1' : 1 ≤ h.2.2.2.1 := h1
    have r8' : h.2.2.2.1 + s_gh S 0 = B.1 := r8
    omega
  · show h.2.2.2.2 - k + (s_gh S 1 + k) = B.2
    have h2' : k ≤ h.2.2.2.2 := h2
    have r9' : h.2.2.2.2 + s_gh S 1 = B.2 := r9
    omega
