/-! THE TWIN: snapshots -/
set_option maxRecDepth 100000
section TSN
variable {A : Nat → Nat} {h : PH} {S : SS}
/-- the places o .. o + n of f are those of g -/
def ovK (f g : Nat → Int32) (o n : Nat) : Nat → Int32 := fun k => if o ≤ k ∧ k < o + n then g (k - o) else f k
theorem ovK_succ {f g : Nat → Int32} {o n : Nat} : upd (ovK f g o n) (o + n) (g n) = ovK f g o (n + 1) := by
  funext k
  by_cases c : k = o + n
  · subst c
    rw [upd_eq]
    unfold ovK
    rw [if_pos (by omega), show o + n - o = n from by omega]
  · rw [upd_ne c]
    unfold ovK
    by_cases c2 : o ≤ k ∧ k < o + n
    · rw [if_pos c2, if_pos (by omega)]
    · rw [if_neg c2, if_neg (by omega)]
theorem ovK_0 {f g : Nat → Int32} {o : Nat} : ovK f g o 0 = f := by
  funext k
  exact if_neg (by omega)
theorem ixS {s i : Nat} : ((73136 : Int32) * Int32.ofNat s) + Int32.ofNat i = Int32.ofNat (73136 * s + i) := by
  rw [show (73136 : Int32) = Int32.ofNat 73136 from rfl, ofm, of_add]
theorem t_saveL (hA : TA A h) {T : TS} {s : Nat} (hs : s < 2) : ∀ (d i N : Nat), i + d = 73136 → d < N → f_X7_saveSnapshot_L32 N (some (A 0)) (Int32.ofNat s) (Int32.ofNat i) (tw A (x_kp T (ovK (q_kp T) (q_w T) (73136 * s) i)) h) = some (q_w T 0, tw A (x_ik (x_kp T (ovK (q_kp T) (q_w T) (73136 * s) 73136)) (upd (q_ik T) s 1)) h) := by
  intro d
  induction d with
  | zero =>
    intro i N h1 h2
    have : i = 73136 := by omega
    subst this
    cases N with
    | zero => omega
    | succ N =>
      unfold f_X7_saveSnapshot_L32
      rw [if_pos (show (73136 : Int32) ≤ Int32.ofNat 73136 by decide), t_rI, t_sI hA _ s rfl hs, t_rW, t_aW hA 0 0 rfl (by decide)]
      rfl
  | succ d ih =>
    intro i N h1 h2
    cases N with
    | zero => omega
    | succ N =>
      unfold f_X7_saveSnapshot_L32
      rw [if_neg (fun hy => by rw [show (73136 : Int32) = Int32.ofNat 73136 from rfl, of_le (by omega) (by omega)] at hy; omega), t_rK, t_rW, t_aW hA _ i rfl (by omega), t_sK hA _ (73136 * s + i) ixS (by omega), show (1 : Int32) = Int32.ofNat 1 from rfl, of_add]
      have e : upd (q_kp (x_kp T (ovK (q_kp T) (q_w T) (73136 * s) i))) (73136 * s + i) (q_w (x_kp T (ovK (q_kp T) (q_w T) (73136 * s) i)) i) = ovK (q_kp T) (q_w T) (73136 * s) (i + 1) := ovK_succ
      rw [e]
      exact ih (i + 1) N (by omega) (by omega)
theorem t_resL (hA : TA A h) {T : TS} {s : Nat} (hs : s < 2) : ∀ (d i N : Nat), i + d = 73136 → d < N → f_X7_restoreSnapshot_L44 N (some (A 0)) (Int32.ofNat s) (Int32.ofNat i) (tw A (x_w T (ovW (q_w T) (fun k => q_kp T (73136 * s + k)) i)) h) = some (q_kp T (73136 * s), tw A (x_w T (ovW (q_w T) (fun k => q_kp T (73136 * s + k)) 73136)) h) := by
  intro d
  induction d with
  | zero =>
    intro i N h1 h2
    have : i = 73136 := by omega
    subst this
    cases N with
    | zero => omega
    | succ N =>
      unfold f_X7_restoreSnapshot_L44
      rw [if_pos (show (73136 : Int32) ≤ Int32.ofNat 73136 by decide), t_rW, t_aW hA 0 0 rfl (by decide), q_xw, ovW_lt (by omega)]
      rfl
  | succ d ih =>
    intro i N h1 h2
    cases N with
    | zero => omega
    | succ N =>
      unfold f_X7_restoreSnapshot_L44
      rw [if_neg (fun hy => by rw [show (73136 : Int32) = Int32.ofNat 73136 from rfl, of_le (by omega) (by omega)] at hy; omega), t_rW, t_rK, t_aK hA _ (73136 * s + i) ixS (by omega), t_sW hA _ i rfl (by omega), show (1 : Int32) = Int32.ofNat 1 from rfl, of_add]
      have e : upd (q_w (x_w T (ovW (q_w T) (fun k => q_kp T (73136 * s + k)) i))) i (q_kp (x_w T (ovW (q_w T) (fun k => q_kp T (73136 * s + k)) i)) (73136 * s + i)) = ovW (q_w T) (fun k => q_kp T (73136 * s + k)) (i + 1) := ovW_succ (g := fun k => q_kp T (73136 * s + k))
      rw [e, x_xw]
      exact ih (i + 1) N (by omega) (by omega)
/-- the slot s keeps the row of S -/
def KPT (T : TS) (s : Nat) (S : SS) : Prop := ∃ (L : List MG) (p : Int32 × Int32), TR (true, p) S (L.map some) (fun k => q_kp T (73136 * s + k))
theorem t_save (hA : TA A h) {p2 : Int32 × Int32} {T : TS} {L : List MG} (hr : TR (true, p2) S (L.map some) (q_w T)) {s : Nat} (hs : s < 2) : ∃ T' : TS, f_X7_saveSnapshot (some (A 0)) (Int32.ofNat s) (tw A T h) = some (now S, tw A T' h) ∧ q_sc T' 1 = 0 ∧ q_w T' = q_w T ∧ q_bf T' = q_bf T ∧ q_sc T' 3 = q_sc T 3 ∧ q_sc T' 8 = q_sc T 8 ∧ q_ik T' s = 1 ∧ KPT T' s S ∧ ∀ u : Nat, u < 2 → u ≠ s → q_ik T' u = q_ik T u ∧ ∀ S' : SS, KPT T u S' → KPT T' u S' := by
  have a0 : q_w T 0 = now S := hr.1.1.1
  have e0 : ((0 : Int64)).toInt = 0 := by decide
  have e1 : ((1 : Int64)).toInt = 1 := by decide
  have es : (Int32.ofNat s).toInt = (s : Int) := Int32.toInt_ofNat_of_lt (by omega)
  unfold f_X7_saveSnapshot f_X7_saveSnapshot_B21
  rw [t_pV hA (by decide), cl_eq t_in, e0, e1, Int32.toInt_toInt64, es, if_pos (show (0 : Int) ≤ s ∧ (s : Int) ≤ 1 by omega), if_neg (show ¬ (1 : Int32) = 0 by decide), t_rv, cl_eq (t_throws0 rfl q10), if_pos rfl]
  have g := t_saveL hA (T := x_sc T 1 0) hs 73136 0 FU (by omega) (by unfold FU; omega)
  rw [ovK_0] at g
  have g' : f_X7_saveSnapshot_L32 FU (some (A 0)) (Int32.ofNat s) 0 (tw A (x_sc T 1 0) h) = _ := g
  rw [g']
  refine ⟨x_ik (x_kp (x_sc T 1 0) (ovK (q_kp T) (q_w T) (73136 * s) 73136)) (upd (q_ik T) s 1), by rw [q_wsc, a0]; rfl, ?_, rfl, rfl, ?_, ?_, upd_eq, ⟨L, p2, ?_⟩, fun u hu hus => ⟨upd_ne hus, fun S' hk => ?_⟩⟩
  · show fu (q_sc T) 1 0 1 = _
    rw [fu_eq]
  · show fu (q_sc T) 1 0 3 = _
    rw [fu_ne (by decide)]
  · show fu (q_sc T) 1 0 8 = _
    rw [fu_ne (by decide)]
  · refine hr.cong (fun p hp => ?_)
    show ovK (q_kp T) (q_w T) (73136 * s) 73136 (73136 * s + p) = q_w T p
    unfold ovK
    rw [if_pos (by omega), show 73136 * s + p - 73136 * s = p from by omega]
  · obtain ⟨L', p', hk⟩ := hk
    refine ⟨L', p', hk.cong (fun p hp => ?_)⟩
    show ovK (q_kp T) (q_w T) (73136 * s) 73136 (73136 * u + p) = q_kp T (73136 * u + p)
    unfold ovK
    rw [if_neg (by omega)]
theorem slot_of {p : Int32} (hp : iv p 0 1) : ∃ s : Nat, s < 2 ∧ p = Int32.ofNat s := by
  have h1 := hp.1
  have h2 := hp.2
  refine ⟨p.toInt.toNat, by omega, ?_⟩
  apply Int32.toInt_inj.mp
  rw [Int32.toInt_ofNat_of_lt (by omega)]
  omega
theorem t_save1 (hA : TA A h) {p2 : Int32 × Int32} {T : TS} {L : List MG} (hr : TR (true, p2) S (L.map some) (q_w T)) {p : Int32} (hp : ¬ iv p 0 1) : TD A T h 1 0 S (f_X7_saveSnapshot (some (A 0)) p (tw A T h)) := by
  have e0 : ((0 : Int64)).toInt = 0 := by decide
  have e1 : ((1 : Int64)).toInt = 1 := by decide
  unfold f_X7_saveSnapshot f_X7_saveSnapshot_B21
  rw [t_pV hA (by decide), cl_eq t_in, e0, e1, Int32.toInt_toInt64, if_neg (show ¬ (0 ≤ p.toInt ∧ p.toInt ≤ 1) from hp), if_pos rfl, t_rv, cl_eq (t_throws1 hA (by decide) (by decide) q10), if_neg (show ¬ (1 : Int32) = 0 by decide), x_scsc]
  exact (TC_q hr).td
theorem t_restore1 (hA : TA A h) {p2 : Int32 × Int32} {T : TS} {L : List MG} (hr : TR (true, p2) S (L.map some) (q_w T)) {p : Int32} (hp : ¬ iv p 0 1) : TD A T h 1 0 S (f_X7_restoreSnapshot (some (A 0)) p (tw A T h)) := by
  have e0 : ((0 : Int64)).toInt = 0 := by decide
  have e1 : ((1 : Int64)).toInt = 1 := by decide
  unfold f_X7_restoreSnapshot f_X7_restoreSnapshot_B21
  rw [t_pV hA (by decide), cl_eq t_in, e0, e1, Int32.toInt_toInt64, if_neg (show ¬ (0 ≤ p.toInt ∧ p.toInt ≤ 1) from hp), if_pos rfl, t_rv, cl_eq (t_throws1 hA (by decide) (by decide) q10), if_neg (show ¬ (1 : Int32) = 0 by decide), x_scsc]
  exact (TC_q hr).td
theorem t_restore (hA : TA A h) {p2 : Int32 × Int32} {T : TS} {L : List MG} (hr : TR (true, p2) S (L.map some) (q_w T)) {s : Nat} (hs : s < 2) :
    (q_ik T s = 0 → TD A T h 0 (-4) S (f_X7_restoreSnapshot (some (A 0)) (Int32.ofNat s) (tw A T h))) ∧ (q_ik T s = 1 → ∀ S' : SS, KPT T s S' → TD A T h 0 (now S') S' (f_X7_restoreSnapshot (some (A 0)) (Int32.ofNat s) (tw A T h))) := by
  have e0 : ((0 : Int64)).toInt = 0 := by decide
  have e1 : ((1 : Int64)).toInt = 1 := by decide
  have es : (Int32.ofNat s).toInt = (s : Int) := Int32.toInt_ofNat_of_lt (by omega)
  unfold f_X7_restoreSnapshot f_X7_restoreSnapshot_B21
  rw [t_pV hA (by decide), cl_eq t_in, e0, e1, Int32.toInt_toInt64, es, if_pos (show (0 : Int) ≤ s ∧ (s : Int) ≤ 1 by omega), if_neg (show ¬ (1 : Int32) = 0 by decide), t_rv, cl_eq (t_throws0 rfl q10), if_pos rfl, t_rI, t_aI hA _ s rfl hs]
  have ei : q_ik (x_sc T 1 0) s = q_ik T s := rfl
  rw [ei]
  refine ⟨fun hk => ?_, fun hk S' hK => ?_⟩
  · rw [hk, if_pos rfl]
    exact (TC_q hr).td
  · rw [hk, if_neg (show ¬ (1 : Int32) = 0 by decide)]
    have g := t_resL hA (T := x_sc T 1 0) hs 73136 0 FU (by omega) (by unfold FU; omega)
    rw [ovW_0] at g
    have g' : f_X7_restoreSnapshot_L44 FU (some (A 0)) (Int32.ofNat s) 0 (tw A (x_sc T 1 0) h) = _ := g
    rw [g']
    obtain ⟨L', p', hk'⟩ := hK
    have n0 : q_kp T (73136 * s + 0) = now S' := hk'.1.1.1
    refine ⟨x_w (x_sc T 1 0) (ovW (q_w T) (fun k => q_kp T (73136 * s + k)) 73136), L', p', by rw [← n0]; rfl, ⟨rfl, rfl, rfl, ?_, ?_⟩, ?_, ?_⟩
    · show fu (q_sc T) 1 0 3 = _
      rw [fu_ne (by decide)]
    · show fu (q_sc T) 1 0 8 = _
      rw [fu_ne (by decide)]
    · show fu (q_sc T) 1 0 1 = _
      rw [fu_eq]
    · rw [q_xw]
      exact hk'.cong (fun p hp => ovW_lt hp)
end TSN
