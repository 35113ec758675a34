/-! THE COMPONENT reads: the string of a word -/
set_option maxRecDepth 100000
/-- the string at a holds the letters w; hs, hz: its hash as kept -/
def STR (h : PH) (a u : Nat) (w : List Nat) (hs hz : Int32) : Prop := h.1 a = some (.inr (22, [.ref u, .int 0, .int hs, .int hz])) ∧ ∃ f : Nat → Int32, h.1 u = some (.inl (h.2.1.2.1 1, w.length, .inl f)) ∧ ∀ i : Nat, i < w.length → f i = Int32.ofNat (w.getD i 0)
section STG
variable {n0 sb v : Nat} {w : List Nat} {h : PH}
theorem kB_at {β : Type} {a n : Nat} {x : AX} {K : Option β} (e : h.1 a = some (.inl (h.2.1.2.1 1, n, x))) (hb : pbase h ≤ a) : kB h (some a) K = K := by
  simp only [kB, cR_, cA_, e, if_true]
  exact if_pos hb
theorem yC_at {β : Type} {a n : Nat} {f : Nat → Int32} {K : Nat → PH → Option β} (e : h.1 a = some (.inl (h.2.1.2.1 1, n, .inl f))) (hb : pbase h ≤ a) (h1 : 1 ≤ pcl h) (h2 : n ≤ psl h) (hF : ∀ i : Nat, i < n → fits .byte (.int (f i)) = true) : yC h (some a) K = K (pn h) (p_new h (.inl (h.2.1.2.1 1, n, .inl f)) n) := by
  simp only [yC, cR_, cA_, e, if_true]
  exact if_pos ⟨hb, h1, h2, List.all_eq_true.mpr fun i hi => hF i (List.mem_range.mp hi)⟩
/-- the first n bytes are copied -/
theorem cp_rng {cap n : Nat} {f : Nat → Int32} (e : h.1 v = some (.inl (h.2.1.2.1 1, cap, .inl f))) (hb : pbase h ≤ v) (hv : v < pn h) (hn : n ≤ cap) (hc : cap ≤ 574) (hF : ∀ i : Nat, i < cap → fits .byte (.int (f i)) = true) (h1 : 1 ≤ pcl h) (h2 : n ≤ psl h) :
    ∃ f' : Nat → Int32, f_J13_copyOfRange (some v) (0 : Int32) (Int32.ofNat n) h = some (some (pn h), p_new h (.inl (h.2.1.2.1 1, n, .inl f')) n) ∧ ∀ i : Nat, i < n → f' i = f i := by
  unfold f_J13_copyOfRange f_J13_copyOfRange_B10
  rw [if_pos rfl, aN_at e]
  by_cases c : n = cap
  · subst c
    rw [if_pos rfl, yC_at e hb h1 h2 hF, kB_at pn_at (by show pbase h ≤ pn h; omega)]
    exact ⟨f, rfl, fun _ _ => rfl⟩
  · rw [if_neg (by rw [of_inj (by omega) (by omega)]; exact c)]
    unfold f_J13_copyOfRangeByte f_J13_checkLength
    have z : (0 : Int32) ≤ Int32.ofNat n := by
      rw [show (0 : Int32) = Int32.ofNat 0 from rfl, of_le (by omega) (by omega)]
      omega
    have ev : ∀ (x : va_E) (k : Nat), (p_new h x k).1 v = some (.inl ((p_new h x k).2.1.2.1 1, cap, .inl f)) := fun x k => (pn_ne (by omega)).trans e
    rw [if_pos z, cl_eq rfl, show Int32.ofNat n - (0 : Int32) = Int32.ofNat n from Int32.sub_zero _, nA_at (by omega) h1 h2, aN_at (ev _ _), show Int32.ofNat cap - (0 : Int32) = Int32.ofNat cap from Int32.sub_zero _, if_pos ((of_lt (by omega) (by omega)).mpr (by omega)), ycI_fit (ev _ _) pn_at (by show pbase h ≤ v; omega) (by show pbase h ≤ pn h; omega) hn (Nat.le_refl _) (by omega) (fun i hi => hF i (by omega)), ps_pn]
    exact ⟨_, rfl, fun i hi => cpy_in hi⟩
/-- the builder's string -/
theorem sb_str (e9 : h.2.1.1 9 = .int 1) (hS : SB h n0 sb v w) (h1 : 2 ≤ pcl h) (h2 : 4 + w.length ≤ psl h) :
    ∃ h' : PH, f_J8_toString (some sb) h = some (some (pn h), h') ∧ STR h' (pn h) (pn h + 1) w 0 0 ∧ GR (pn h) 2 (4 + w.length) h h' ∧ pn h' = pn h + 2 := by
  have hc := hS.cap
  have hb5 : bC w.length ≤ 574 := by
    unfold bC
    repeat' split
    all_goals omega
  have hSc : SBc h n0 sb v (bC w.length) w := hS
  obtain ⟨a1, ⟨f, a2, a3, a4⟩, a5, a6, a7, a8, a9, a10, a11⟩ := hS
  have h3 : SBc (p_new h (.inr (22, [.null, .int 0, .int 0, .int 0])) 4) n0 sb v (bC w.length) w :=
    ⟨(pn_ne (by omega)).trans a1, ⟨f, (pn_ne (by omega)).trans a2, a3, a4⟩, a5, a6, a7, by show sb < pn h + 1; omega, by show v < pn h + 1; omega, a10, a11⟩
  obtain ⟨H, hH⟩ : ∃ H, p_new h (.inr (22, [.null, .int 0, .int 0, .int 0])) 4 = H := ⟨_, rfl⟩
  have hp : pn H = pn h + 1 := by rw [← hH]; rfl
  have hbs : pbase H = pbase h := by rw [← hH]; rfl
  have hA : H.1 (pn h) = some (.inr (22, [.null, .int 0, .int 0, .int 0])) := by rw [← hH]; exact pn_at
  have g0 : GR (pn h) 1 4 h H := by rw [← hH]; exact GR.new (Nat.le_refl _) (by omega) (by omega)
  have hcl : pcl H = pcl h - 1 ∧ psl H = psl h - 4 := by rw [← hH]; exact ⟨rfl, rfl⟩
  unfold f_J8_toString f_J9_init f_J9_init_2 f_J7_getValue_J8 f_J8_length f_J7_length_J8 f_J9_init_2_B97
  rw [nO_at (by omega) (by omega), hH]
  rw [hH] at h3
  have e9' : H.2.1.1 9 = .int 1 := by rw [g0.2.1]; exact e9
  have la := sb_lat e9' h3
  obtain ⟨b1, ⟨f', b2, b3, b4⟩, -, -, -, -, b9, -, -⟩ := h3
  have hset : p_set H (pn h) (.inr (22, [.null, .int 0, .int 0, .int 0])) = H := by rw [← hH, ps_pn]
  obtain ⟨f2, c1, c2⟩ := cp_rng b2 (by omega) b9 hc hb5 b4 (by omega) (by omega)
  rw [rv_at b1, gR_at b1 rfl, cl_eq rfl, rv_at b1, rv_at b1, gI_at b1 rfl, cl_eq rfl, cl_eq rfl, rv_at b1, cl_eq la, if_neg (show ¬ (1 : Int32) = 0 by decide), pB_0, pV_at hA (by omega) (Nat.le_of_ble_eq_true rfl)]
  rw [show p_set H (pn h) (.inr (22, [Value.null, Value.int 0, Value.int 0, Value.int 0].set 1 (.int 0))) = H from hset, cl_eq c1]
  have e5 : ∀ (x : va_E) (k : Nat), (p_new H x k).1 (pn h) = some (.inr (22, [.null, .int 0, .int 0, .int 0])) := fun x k => (pn_ne (by omega)).trans hA
  rw [pV_at (e5 _ _) (by show pbase H ≤ pn h; omega) (Nat.le_of_ble_eq_true rfl), hp]
  refine ⟨_, rfl, ⟨ps_at, f2, ?_, fun i hi => (c2 i hi).trans (b3 i hi)⟩, ?_, ?_⟩
  · have e6 : ∀ (x : va_E) (k : Nat), (p_new H x k).1 (pn h + 1) = some x := fun x k => by rw [← hp]; exact pn_at
    exact (ps_ne (by omega)).trans (e6 _ _)
  · exact ((g0.trans (GR.new (n := pn h) (by omega) (by omega) (by omega)) (Nat.le_refl _)).trans (GR.set (Nat.le_refl _)) (Nat.le_refl _)).more (Nat.le_refl _) (Nat.le_refl _) (Nat.le_refl _)
  · show pn H + 1 = pn h + 2
    omega
end STG
