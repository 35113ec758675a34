/-! THE TWIN: load, appendByte, the constructor -/
set_option maxRecDepth 100000
/-- the fresh simulation of what was read; c cells and s slots are made -/
def SC (x : CS) (c s : Nat) : SS := S0 (fun k => Int32.ofNat (x.1 k)) x.2.1.length (fun i => Int32.ofNat (x.2.1.getD i (0, 0, 0)).2.2) (fun i => Int32.ofNat (x.2.1.getD i (0, 0, 0)).1) (fun i => Int32.ofNat (x.2.1.getD i (0, 0, 0)).2.1) c s
/-- the row that takesRead makes -/
def tkW (w rd : Nat → Int32) (n : Nat) : Nat → Int32 := fun k => if k < n then (if k < 160 then rd k else 0) else w k
section TLO
variable {A : Nat → Nat} {h : PH} {bf : Nat → Nat} {len : Nat} {T0 T : TS} {c : CS} {p : Nat}
theorem tkW_succ {w rd : Nat → Int32} {n : Nat} : upd (tkW w rd n) n (if n < 160 then rd n else 0) = tkW w rd (n + 1) := by
  funext k
  by_cases e : k = n
  · subst e
    rw [upd_eq]
    unfold tkW
    rw [if_pos (show k < k + 1 by omega)]
  · rw [upd_ne e]
    unfold tkW
    by_cases e2 : k < n
    · rw [if_pos e2, if_pos (show k < n + 1 by omega)]
    · rw [if_neg e2, if_neg (show ¬ k < n + 1 by omega)]
theorem tkW_0 {w rd : Nat → Int32} : tkW w rd 0 = w := by
  funext k
  exact if_neg (by omega)
theorem t_takL2 (hA : TA A h) : ∀ (d i N : Nat), i + d = 73136 → d < N → f_X7_takesRead_L2 N (some (A 0)) (Int32.ofNat i) (tw A (x_w T (tkW (q_w T) (q_rd T) i)) h) = some ((), tw A (x_w T (tkW (q_w T) (q_rd T) 73136)) h) := by
  intro d
  induction d with
  | zero =>
    intro i N h1 h2
    have : i = 73136 := by omega
    subst this
    cases N with
    | zero => omega
    | succ N =>
      unfold f_X7_takesRead_L2
      rw [show (73136 : Int32) = Int32.ofNat 73136 from rfl, if_pos (by rw [of_le (by omega) (by omega)]; omega)]
  | succ d ih =>
    intro i N h1 h2
    cases N with
    | zero => omega
    | succ N =>
      unfold f_X7_takesRead_L2 f_X7_takesRead_B32
      rw [if_neg (fun hy => by rw [show (73136 : Int32) = Int32.ofNat 73136 from rfl, of_le (by omega) (by omega)] at hy; omega), t_rW, t_rR, t_nR hA]
      have key : ∀ v : Int32, v = (if i < 160 then q_rd T i else 0) → (sI (tw A (x_w T (tkW (q_w T) (q_rd T) i)) h) (some (A 1)) 0 (Int32.ofNat i) v fun h6 => f_X7_takesRead_L2 N (some (A 0)) (Int32.ofNat i + (1 : Int32)) h6) = some ((), tw A (x_w T (tkW (q_w T) (q_rd T) 73136)) h) := fun v hv => by
        rw [t_sW hA _ i rfl (by omega), show (1 : Int32) = Int32.ofNat 1 from rfl, of_add, q_xw, x_xw, hv, tkW_succ]
        exact ih (i + 1) N (by omega) (by omega)
      by_cases e : i < 160
      · rw [if_neg (fun hy => by rw [show (160 : Int32) = Int32.ofNat 160 from rfl, of_le (by omega) (by omega)] at hy; omega), t_rR, t_aR hA _ i rfl e]
        exact key _ (by rw [if_pos e]; rfl)
      · rw [if_pos (by rw [show (160 : Int32) = Int32.ofNat 160 from rfl, of_le (by omega) (by omega)]; omega)]
        exact key _ (by rw [if_neg e])
theorem t_takesRead (hA : TA A h) : f_X7_takesRead (some (A 0)) (tw A T h) = some ((), tw A (x_w T (tkW (q_w T) (q_rd T) 73136)) h) := by
  have := t_takL2 hA (T := T) 73136 0 FU (by omega) (by unfold FU; omega)
  rw [tkW_0] at this
  exact this
theorem rdF_hi {k : Nat} (hk : 10 < k) (hk2 : k < 40) : rdF c k = 0 := by
  unfold rdF
  rw [if_neg (by omega), if_neg (by omega), if_neg (by omega), if_neg (by omega), if_neg (by omega), if_neg (by omega), if_neg (by omega), if_neg (by omega), if_neg (by omega), if_neg (by omega), if_pos hk2]
theorem rdF_nd {i j : Nat} (hj : j < 20) (hi : i < c.2.1.length) : rdF c (40 + 20 * i + j) = if j = 0 then Int32.ofNat (c.2.1.getD i (0, 0, 0)).1 else if j = 1 then Int32.ofNat (c.2.1.getD i (0, 0, 0)).2.1 else if j = 2 then Int32.ofNat (c.2.1.getD i (0, 0, 0)).2.2 else if j = 3 then 1 else if j = 9 then -1 else 0 := by
  unfold rdF
  rw [if_neg (by omega), if_neg (by omega), if_neg (by omega), if_neg (by omega), if_neg (by omega), if_neg (by omega), if_neg (by omega), if_neg (by omega), if_neg (by omega), if_neg (by omega), if_neg (by omega)]
  have e1 : (40 + 20 * i + j - 40) / 20 = i := by omega
  have e2 : (40 + 20 * i + j - 40) % 20 = j := by omega
  rw [e1, e2, List.getElem?_eq_getElem hi]
  have e3 : c.2.1.getD i (0, 0, 0) = c.2.1[i] := by rw [List.getD_eq_getElem?_getD, List.getElem?_eq_getElem hi]; rfl
  rw [e3]
/-- the row of a fresh simulation -/
theorem TR_fresh {w : Nat → Int32} {cl sl : Nat} (h6 : c.2.1.length ≤ 6) (hw : ∀ k : Nat, k < 73136 → w k = if k < 160 then rdF c k else 0) : TR (true, (0, 0)) (SC c cl sl) ([] : List (Option MG)) w := by
  have z : ∀ k : Nat, 10 < k → k < 40 → w k = 0 := fun k h1 h2 => by rw [hw k (by omega), if_pos (by omega), rdF_hi h1 h2]
  have z2 : ∀ k : Nat, 160 ≤ k → k < 73136 → w k = 0 := fun k h1 h2 => by rw [hw k h2, if_neg (by omega)]
  have o : ∀ k : Nat, k < 11 → w k = rdF c k := fun k h1 => by rw [hw k (by omega), if_pos (by omega)]
  refine ⟨⟨?_, ?_, ⟨?_, ?_, ?_⟩, ⟨by show 0 ≤ 20; omega, fun k o hx => (by cases hx)⟩, ⟨by show 0 ≤ 20; omega, fun k o hx => (by cases hx)⟩, ⟨by show 0 ≤ 200; omega, fun k o hx => (by cases hx)⟩, h6⟩, ⟨z 20 (by decide) (by decide), by show 0 ≤ 12000; omega, fun k => ⟨fun m hx => (by cases hx), fun hx => (by cases hx)⟩⟩, List.Perm.refl _, List.Pairwise.nil⟩
  · exact ⟨o 0 (by decide), o 1 (by decide), o 2 (by decide), o 3 (by decide), o 4 (by decide), o 5 (by decide), o 6 (by decide), o 7 (by decide), o 8 (by decide), o 9 (by decide), o 10 (by decide), z 11 (by decide) (by decide), z 12 (by decide) (by decide), z 13 (by decide) (by decide), z 14 (by decide) (by decide), z 16 (by decide) (by decide), z 17 (by decide) (by decide), z 18 (by decide) (by decide), z 19 (by decide) (by decide), z 21 (by decide) (by decide), z 22 (by decide) (by decide), z 23 (by decide) (by decide), z 35 (by decide) (by decide), z 33 (by decide) (by decide), z 34 (by decide) (by decide)⟩
  · intro i j hi hj _
    have hi' : i < c.2.1.length := hi
    rw [hw _ (by omega), if_pos (by omega), rdF_nd hj hi']
    have hc : j = 0 ∨ j = 1 ∨ j = 2 ∨ j = 3 ∨ j = 4 ∨ j = 5 ∨ j = 6 ∨ j = 7 ∨ j = 8 ∨ j = 9 ∨ j = 10 ∨ j = 11 ∨ 12 ≤ j := by omega
    rcases hc with rfl | rfl | rfl | rfl | rfl | rfl | rfl | rfl | rfl | rfl | rfl | rfl | hc
    all_goals first | rfl | skip
    rw [if_neg (by omega), if_neg (by omega), if_neg (by omega), if_neg (by omega), if_neg (by omega), tnd_hi hc]
    unfold SC S0
    show (0 : Int32) = nd0 (fun i => Int32.ofNat (c.2.1.getD i (0, 0, 0)).2.2) (fun i => Int32.ofNat (c.2.1.getD i (0, 0, 0)).1) (fun i => Int32.ofNat (c.2.1.getD i (0, 0, 0)).2.1) i (18 + j)
    unfold nd0
    rw [if_neg (by omega), if_neg (by omega), if_neg (by omega), if_neg (by omega), if_neg (by omega)]
  · intro k hk
    exact z (24 + k) (by omega) (by omega)
  · intro r hr
    exact z2 (168 + r) (by omega) (by omega)
  · intro r _ hr
    exact z2 (160 + r) (by omega) (by omega)
/-- beginsRead -/
theorem t_begL (hA : TA A h) : ∀ (d i N : Nat), i + d = 160 → d < N → ∃ f : Nat → Int32, f_X7_beginsRead_L2 N (some (A 0)) (Int32.ofNat i) (tw A (x_rd T (ovW (q_rd T) (fun _ => 0) i)) h) = some ((), tw A (x_rd T f) h) ∧ ∀ k : Nat, k < 160 → f k = rdF cs0 k := by
  intro d
  induction d with
  | zero =>
    intro i N h1 h2
    have : i = 160 := by omega
    subst this
    cases N with
    | zero => omega
    | succ N =>
      unfold f_X7_beginsRead_L2
      rw [t_rR, t_nR hA, if_pos (by rw [show (160 : Int32) = Int32.ofNat 160 from rfl, of_le (by omega) (by omega)]; omega), t_rR, t_sR hA 1 1 rfl (by decide), t_rR, t_sR hA 3 3 rfl (by decide), t_rR, t_sR hA 5 5 rfl (by decide), t_rR, t_sR hA 6 6 rfl (by decide), t_rR, t_sR hA 7 7 rfl (by decide), t_rR, t_sR hA 8 8 rfl (by decide), t_rR, t_sR hA 10 10 rfl (by decide)]
      simp only [x_xrd, q_xrd]
      refine ⟨_, rfl, fun k hk => ?_⟩
      by_cases e10 : k = 10
      · subst e10; rw [upd_eq]; rfl
      rw [upd_ne e10]
      by_cases e8 : k = 8
      · subst e8; rw [upd_eq]; rfl
      rw [upd_ne e8]
      by_cases e7 : k = 7
      · subst e7; rw [upd_eq]; rfl
      rw [upd_ne e7]
      by_cases e6 : k = 6
      · subst e6; rw [upd_eq]; rfl
      rw [upd_ne e6]
      by_cases e5 : k = 5
      · subst e5; rw [upd_eq]; rfl
      rw [upd_ne e5]
      by_cases e3 : k = 3
      · subst e3; rw [upd_eq]; rfl
      rw [upd_ne e3]
      by_cases e1 : k = 1
      · subst e1; rw [upd_eq]; rfl
      rw [upd_ne e1, ovW_lt hk]
      unfold rdF
      rw [if_neg e1]
      by_cases e2 : k = 2
      · rw [if_pos e2]; rfl
      rw [if_neg e2, if_neg e3]
      by_cases e4 : k = 4
      · rw [if_pos e4]; rfl
      rw [if_neg e4, if_neg e5, if_neg e6, if_neg e7, if_neg e8]
      by_cases e9 : k = 9
      · rw [if_pos e9]; rfl
      rw [if_neg e9, if_neg e10]
      split <;> rfl
  | succ d ih =>
    intro i N h1 h2
    cases N with
    | zero => omega
    | succ N =>
      unfold f_X7_beginsRead_L2
      rw [t_rR, t_nR hA, if_neg (fun hy => by rw [show (160 : Int32) = Int32.ofNat 160 from rfl, of_le (by omega) (by omega)] at hy; omega), t_rR, t_sR hA _ i rfl (by omega), show (1 : Int32) = Int32.ofNat 1 from rfl, of_add]
      have e : upd (q_rd (x_rd T (ovW (q_rd T) (fun _ => 0) i))) i 0 = ovW (q_rd T) (fun _ => 0) (i + 1) := ovW_succ (g := fun _ => 0)
      rw [e, x_xrd]
      exact ih (i + 1) N (by omega) (by omega)
theorem t_beginsRead (hA : TA A h) : ∃ f : Nat → Int32, f_X7_beginsRead (some (A 0)) (tw A T h) = some ((), tw A (x_rd T f) h) ∧ ∀ k : Nat, k < 160 → f k = rdF cs0 k := by
  have := t_begL hA (T := T) 160 0 FU (by omega) (by unfold FU; omega)
  rw [ovW_0] at this
  exact this
/-- load ends in a failure -/
theorem t_loadE (hA : TA A h) {k pos : Nat} (hpos : pos ≤ 400) (he : TE (len := len) T0 T k pos) : ∃ T' : TS, f_X7_load_B119 (some (A 0)) (tw A T h) = some (Int32.ofInt (-100 - (pos : Int)), tw A T' h) ∧ q_w T' = q_w T0 ∧ q_kp T' = q_kp T0 ∧ q_ik T' = q_ik T0 ∧ q_bf T' = q_bf T0 ∧ q_sc T' 1 = q_sc T0 1 ∧ q_sc T' 3 = 0 ∧ q_sc T' 8 = Int32.ofNat k := by
  obtain ⟨a1, a2, a3, a4, a5, a6, a7, a8, a9, a10, -⟩ := id he
  unfold f_X7_load_B119
  have e7 : q_sc (x_sc T 3 0) 7 = Int32.ofNat k := (q_sne (by decide)).trans a7
  have e7' : q_sc (x_sc (x_sc T 3 0) 8 (Int32.ofNat k)) 7 = Int32.ofNat k := (q_sne (by decide)).trans e7
  have e6' : q_sc (x_sc (x_sc T 3 0) 8 (Int32.ofNat k)) 6 = Int32.ofNat pos := (q_sne (by decide)).trans ((q_sne (by decide)).trans a8)
  have hne : ¬ Int32.ofNat k = 0 := by rw [← a7]; exact he.ne
  rw [t_pV hA (by decide), t_gI (by decide), e7, t_pV hA (by decide), t_gI (by decide), e7', if_neg hne, t_gI (by decide), e6']
  have ev : (-100 : Int32) - Int32.ofNat pos = Int32.ofInt (-100 - (pos : Int)) := by
    have k100 : ((-100 : Int32)).toInt = -100 := by decide
    apply Int32.toInt_inj.mp
    rw [i_sub (by rw [k100, of_i (by omega)]; omega) (by rw [k100, of_i (by omega)]; omega), k100, of_i (by omega), Int32.toInt_ofInt, b32 (by omega) (by omega)]
  rw [ev]
  refine ⟨_, rfl, a1, a4, a5, a2, ?_, ?_, ?_⟩
  · rw [q_sne (by decide), q_sne (by decide)]; exact a6 1 (by decide) (by decide) (by decide) (by decide) (by decide)
  · rw [q_sne (by decide), q_seq]
  · rw [q_seq]
/-- and in a success -/
theorem t_loadG (hA : TA A h) (hg : TG len T0 T c p) : ∃ T' : TS, f_X7_load_B119 (some (A 0)) (tw A T h) = some (Int32.ofNat c.2.1.length, tw A T' h) ∧ (∀ k : Nat, k < 73136 → q_w T' k = if k < 160 then rdF c k else 0) ∧ q_kp T' = q_kp T0 ∧ q_ik T' = q_ik T0 ∧ q_bf T' = q_bf T0 ∧ q_sc T' 1 = q_sc T0 1 ∧ q_sc T' 3 = 0 ∧ q_sc T' 8 = 0 := by
  obtain ⟨b1, b2, b3, b4, b5, b6, b7, b8, b9, b10, b11, b12⟩ := hg
  unfold f_X7_load_B119
  have e7 : q_sc (x_sc T 3 0) 7 = 0 := (q_sne (by decide)).trans b7
  have e7' : q_sc (x_sc (x_sc T 3 0) 8 0) 7 = 0 := (q_sne (by decide)).trans e7
  rw [t_pV hA (by decide), t_gI (by decide), e7, t_pV hA (by decide), t_gI (by decide), e7', if_pos rfl, t_rv, cl_eq (t_takesRead hA), t_rW, t_aW hA 2 2 rfl (by decide), q_xw]
  have ew : ∀ k : Nat, k < 73136 → tkW (q_w (x_sc (x_sc T 3 0) 8 0)) (q_rd (x_sc (x_sc T 3 0) 8 0)) 73136 k = if k < 160 then rdF c k else 0 := fun k hk => by
    unfold tkW
    rw [if_pos hk]
    by_cases e : k < 160
    · rw [if_pos e, if_pos e]; exact b10 k e
    · rw [if_neg e, if_neg e]
  rw [ew 2 (by decide)]
  refine ⟨_, rfl, ew, b4, b5, b2, ?_, ?_, ?_⟩
  · show q_sc (x_sc (x_sc T 3 0) 8 0) 1 = _
    rw [q_sne (by decide), q_sne (by decide)]; exact b6 1 (by decide) (by decide) (by decide) (by decide) (by decide)
  · show q_sc (x_sc (x_sc T 3 0) 8 0) 3 = _
    rw [q_sne (by decide), q_seq]
  · show q_sc (x_sc (x_sc T 3 0) 8 0) 8 = _
    rw [q_seq]
/-- what load leaves -/
def LDR (T0 T' : TS) (r : (Nat × Nat) ⊕ CS) (ans : Int32) : Prop := q_kp T' = q_kp T0 ∧ q_ik T' = q_ik T0 ∧ q_bf T' = q_bf T0 ∧ q_sc T' 1 = q_sc T0 1 ∧ q_sc T' 3 = 0 ∧ match r with
  | .inl e => ans = Int32.ofInt (-100 - (e.2 : Int)) ∧ q_sc T' 8 = Int32.ofNat e.1 ∧ q_w T' = q_w T0
  | .inr c => ans = Int32.ofNat c.2.1.length ∧ q_sc T' 8 = 0 ∧ c.2.1.length ≤ 6 ∧ 1 ≤ c.2.1.length ∧ ∀ k : Nat, k < 73136 → q_w T' k = if k < 160 then rdF c k else 0
theorem t_B77E (hA : TA A h) {k pos : Nat} (hpos : pos ≤ 400) (he : TE (len := len) T0 T k pos) : ∃ (T' : TS) (ans : Int32), f_X7_load_B77 (some (A 0)) (tw A T h) = some (ans, tw A T' h) ∧ LDR T0 T' (.inl (k, pos)) ans := by
  unfold f_X7_load_B77 f_X7_load_B98
  rw [t_gI (by decide), if_neg he.ne, t_gI (by decide), if_neg he.ne]
  obtain ⟨T', u1, u2, u3, u4, u5, u6, u7, u8⟩ := t_loadE hA hpos he
  exact ⟨T', _, u1, u3, u4, u5, u6, u7, rfl, u8, u2⟩
theorem TE.pt {k pos q b : Nat} (he : TE (len := len) T0 T k pos) (hq : q ≤ len) : TE (len := len) T0 (x_sc (x_sc T 4 (Int32.ofNat q)) 5 (Int32.ofNat b)) k pos := by
  obtain ⟨a1, a2, a3, a4, a5, a6, a7, a8, a9, a10, -⟩ := he
  refine ⟨a1, a2, a3, a4, a5, fun j j4 j5 j6 j7 j9 => ?_, ?_, ?_, a9, a10, q, hq, ?_⟩
  · rw [q_sne j5, q_sne j4]; exact a6 j j4 j5 j6 j7 j9
  · rw [q_sne (by decide), q_sne (by decide)]; exact a7
  · rw [q_sne (by decide), q_sne (by decide)]; exact a8
  · rw [q_sne (by decide), q_seq]
theorem TE.p4 {k pos q : Nat} (he : TE (len := len) T0 T k pos) (hq : q ≤ len) : TE (len := len) T0 (x_sc T 4 (Int32.ofNat q)) k pos := by
  obtain ⟨a1, a2, a3, a4, a5, a6, a7, a8, a9, a10, -⟩ := he
  exact ⟨a1, a2, a3, a4, a5, fun j j4 j5 j6 j7 j9 => (q_sne j4).trans (a6 j j4 j5 j6 j7 j9), (q_sne (by decide)).trans a7, (q_sne (by decide)).trans a8, a9, a10, q, hq, q_seq⟩
theorem stm_pos {e : Nat × Nat} (hp : p ≤ len) (hx : stm bf len c p = .inl e) : e.2 ≤ len := by
  have hs := sk_le (bf := bf) hp
  have hn : ∀ (lo hi q : Nat) (e : Nat × Nat), q ≤ len → nmb bf len lo hi q = .inl e → e.2 ≤ len := by
    intro lo hi q e hq hh
    have := sk_le (bf := bf) hq
    unfold nmb at hh
    dsimp only at hh
    split at hh
    · cases hh; exact this.2
    · split at hh
      · cases hh
      · cases hh; exact this.2
  have h1 : ∀ (c : CS) (k lo hi q : Nat) (e : Nat × Nat), q ≤ len → rd1 bf len c k lo hi q = .inl e → e.2 ≤ len := by
    intro c k lo hi q e hq hh
    unfold rd1 at hh
    cases hd : nmb bf len lo hi q with
    | inl e' => rw [hd] at hh; cases hh; exact hn _ _ _ _ hq hd
    | inr d => rw [hd] at hh; cases hh
  have h1r : ∀ (c : CS) (k lo hi q : Nat) (d : CS × Nat), q ≤ len → rd1 bf len c k lo hi q = .inr d → d.2 ≤ len := by
    intro c k lo hi q d hq hh
    unfold rd1 at hh
    cases hd : nmb bf len lo hi q with
    | inl e' => rw [hd] at hh; cases hh
    | inr d' => rw [hd] at hh; cases hh; exact (nmb_ok hq hd).2.2.2
  have h2 : ∀ (c : CS) (k lo hi k' lo' hi' q : Nat) (e : Nat × Nat), q ≤ len → rd2 bf len c k lo hi k' lo' hi' q = .inl e → e.2 ≤ len := by
    intro c k lo hi k' lo' hi' q e hq hh
    unfold rd2 at hh
    cases hd : rd1 bf len c k lo hi q with
    | inl e' => rw [hd] at hh; cases hh; exact h1 _ _ _ _ _ _ hq hd
    | inr d => rw [hd] at hh; exact h1 _ _ _ _ _ _ (h1r _ _ _ _ _ _ hq hd) hh
  have hN : ∀ (c : CS) (q : Nat) (e : Nat × Nat), q ≤ len → rdN bf len c q = .inl e → e.2 ≤ len := by
    intro c q e hq hh
    unfold rdN at hh
    cases hd : nmb bf len 900 1100 q with
    | inl e' => rw [hd] at hh; cases hh; exact hn _ _ _ _ hq hd
    | inr r =>
      rw [hd] at hh
      dsimp only at hh
      have q1 := (nmb_ok hq hd).2.2.2
      cases hd1 : nmb bf len 0 100000 r.2 with
      | inl e' => rw [hd1] at hh; cases hh; exact hn _ _ _ _ q1 hd1
      | inr o =>
        rw [hd1] at hh
        dsimp only at hh
        have q2 := (nmb_ok q1 hd1).2.2.2
        cases hd2 : nmb bf len 1 1000 o.2 with
        | inl e' => rw [hd2] at hh; cases hh; exact hn _ _ _ _ q2 hd2
        | inr d => rw [hd2] at hh; cases hh
  unfold stm at hx
  dsimp only at hx
  have hw := wds_le (bf := bf) FL (sk bf len p) hs.2
  obtain ⟨b, hb⟩ : ∃ b, wds bf len FL (sk bf len p) = b := ⟨_, rfl⟩
  rw [hb] at hx hw
  obtain ⟨k, hk⟩ : ∃ k, wix bf (sk bf len p) (b - sk bf len p) = k := ⟨_, rfl⟩
  rw [hk] at hx
  obtain ⟨t, ht⟩ : ∃ t, (if k = 1 then decide (c.2.1.length = 6) else c.2.2 k) = t := ⟨_, rfl⟩
  rw [ht] at hx
  by_cases c7 : k = 7
  · rw [if_pos c7] at hx
    cases hx; exact hs.2
  · rw [if_neg c7] at hx
    by_cases ct : t = true
    · rw [if_pos ct] at hx
      cases hx; exact hs.2
    · rw [if_neg ct] at hx
      unfold rdW at hx
      split at hx
      · exact h2 _ _ _ _ _ _ _ _ _ hw.2 hx
      split at hx
      · exact hN _ _ _ hw.2 hx
      split at hx
      · exact h2 _ _ _ _ _ _ _ _ _ hw.2 hx
      split at hx
      · exact h1 _ _ _ _ _ _ hw.2 hx
      split at hx
      · exact h1 _ _ _ _ _ _ hw.2 hx
      split at hx
      · exact h1 _ _ _ _ _ _ hw.2 hx
      · exact h1 _ _ _ _ _ _ hw.2 hx
theorem rd1_ok {k lo hi : Nat} {d : CS × Nat} (hp : p ≤ len) (hx : rd1 bf len c k lo hi p = .inr d) : p < d.2 ∧ d.2 ≤ len := by
  unfold rd1 at hx
  cases hd : nmb bf len lo hi p with
  | inl e' => rw [hd] at hx; cases hx
  | inr d' =>
    rw [hd] at hx
    cases hx
    have := nmb_ok hp hd
    exact ⟨this.2.2.1, this.2.2.2⟩
theorem rd2_ok {k lo hi k' lo' hi' : Nat} {d : CS × Nat} (hp : p ≤ len) (hx : rd2 bf len c k lo hi k' lo' hi' p = .inr d) : p < d.2 := by
  unfold rd2 at hx
  cases hd : rd1 bf len c k lo hi p with
  | inl e' => rw [hd] at hx; cases hx
  | inr d' =>
    rw [hd] at hx
    have h1 := rd1_ok hp hd
    have h2 := rd1_ok h1.2 hx
    omega
theorem rdN_ok {d : CS × Nat} (hp : p ≤ len) (hx : rdN bf len c p = .inr d) : p < d.2 := by
  unfold rdN at hx
  cases hd : nmb bf len 900 1100 p with
  | inl e' => rw [hd] at hx; cases hx
  | inr r =>
    rw [hd] at hx
    dsimp only at hx
    have q1 := nmb_ok hp hd
    cases hd1 : nmb bf len 0 100000 r.2 with
    | inl e' => rw [hd1] at hx; cases hx
    | inr o =>
      rw [hd1] at hx
      dsimp only at hx
      have q2 := nmb_ok q1.2.2.2 hd1
      cases hd2 : nmb bf len 1 1000 o.2 with
      | inl e' => rw [hd2] at hx; cases hx
      | inr x =>
        rw [hd2] at hx
        cases hx
        have q3 := nmb_ok q2.2.2.2 hd2
        show p < x.2
        omega
theorem stm_ok {d : CS × Nat} (hp : p ≤ len) (hx : stm bf len c p = .inr d) : p < d.2 := by
  have hs := sk_le (bf := bf) hp
  have hw := wds_le (bf := bf) FL (sk bf len p) hs.2
  unfold stm at hx
  dsimp only at hx
  obtain ⟨b, hb⟩ : ∃ b, wds bf len FL (sk bf len p) = b := ⟨_, rfl⟩
  rw [hb] at hx hw
  obtain ⟨k, hk⟩ : ∃ k, wix bf (sk bf len p) (b - sk bf len p) = k := ⟨_, rfl⟩
  rw [hk] at hx
  obtain ⟨t, ht⟩ : ∃ t, (if k = 1 then decide (c.2.1.length = 6) else c.2.2 k) = t := ⟨_, rfl⟩
  rw [ht] at hx
  by_cases c7 : k = 7
  · rw [if_pos c7] at hx
    cases hx
  · rw [if_neg c7] at hx
    by_cases ct : t = true
    · rw [if_pos ct] at hx
      cases hx
    · rw [if_neg ct] at hx
      have : b < d.2 := by
        unfold rdW at hx
        split at hx
        · exact rd2_ok hw.2 hx
        split at hx
        · exact rdN_ok hw.2 hx
        split at hx
        · exact rd2_ok hw.2 hx
        split at hx
        · exact (rd1_ok hw.2 hx).1
        split at hx
        · exact (rd1_ok hw.2 hx).1
        split at hx
        · exact (rd1_ok hw.2 hx).1
        · exact (rd1_ok hw.2 hx).1
      omega
theorem t_loadL (hA : TA A h) (hW : WRD A h) (hB : BFT T0 bf len) : ∀ (f N : Nat) (T : TS) (c : CS) (p : Nat), TG len T0 T c p → len - p < f → f + 1 < N → ∃ (T' : TS) (ans : Int32), f_X7_load_L26 N (some (A 0)) 1 (tw A T h) = some (ans, tw A T' h) ∧ LDR T0 T' (sts bf len f c p) ans := by
  intro f
  induction f with
  | zero => intro N T c p _ h1; omega
  | succ f ih =>
    intro N T c p hg h1 h2
    have hl := hB.1
    have hB2 : ∀ i : Nat, i < len → bf i < 256 := fun i hi => (hB.2.2 i hi).2
    have hpl := hg.2.2.2.2.2.2.2.2.1
    cases N with
    | zero => omega
    | succ N =>
      unfold f_X7_load_L26
      rw [if_neg (show ¬ (1 : Int32) = 0 by decide), t_gI (by decide), hg.2.2.2.2.2.2.1, if_pos rfl, t_rv]
      obtain ⟨T1, u1, u2⟩ := t_readStatement hA hW hB hg
      rw [cl_eq u1, t_rv]
      unfold sts
      cases hx : stm bf len c p with
      | inl e =>
        rw [hx] at u2
        have he : TE (len := len) T0 T1 e.1 e.2 := u2
        have hpos := stm_pos hpl hx
        obtain ⟨q, q1, q2⟩ := he.2.2.2.2.2.2.2.2.2.2
        have hs := sk_le (bf := bf) q1
        rw [cl_eq (t_looks hA (he.bft hB) q2 q1), t_rv]
        have he1 := he.pt (q := sk bf len q) (b := sk bf len q) hs.2
        rw [cl_eq (t_here hA (he1.bft hB) ((q_sne (by decide)).trans q_seq) hs.2)]
        dsimp only
        unfold f_X7_load_B59
        cases N with
        | zero => omega
        | succ N =>
          by_cases c59 : hv bf len (sk bf len q) = 59
          · have hh : hb bf len (sk bf len q) = 59 := (hv_eq hB2 (by decide)).mp c59
            have hlt := hb_lt hh (by decide)
            rw [if_pos c59, if_neg (show ¬ (1 : Int32) = 0 by decide), t_gI (by decide), t_pV hA (by decide)]
            have e4 : q_sc (x_sc (x_sc T1 4 (Int32.ofNat (sk bf len q))) 5 (Int32.ofNat (sk bf len q))) 4 = Int32.ofNat (sk bf len q) := by
              rw [q_sne (by decide), q_seq]
            rw [e4, show (1 : Int32) = Int32.ofNat 1 from rfl, of_add]
            have he2 := he1.p4 (q := sk bf len q + 1) (by omega)
            conv => enter [1, T', 1, ans, 1, 1]; unfold f_X7_load_L26
            rw [if_neg (show ¬ Int32.ofNat 1 = 0 by decide), t_gI (by decide), if_neg he2.ne]
            exact t_B77E hA (by omega) he2
          · rw [if_neg c59, if_pos rfl]
            conv => enter [1, T', 1, ans, 1, 1]; unfold f_X7_load_L26
            rw [if_pos rfl]
            exact t_B77E hA (by omega) he1
      | inr d =>
        rw [hx] at u2
        have hg1 : TG len T0 T1 d.1 d.2 := u2
        have hd := hg1.2.2.2.2.2.2.2.2.1
        have hs := sk_le (bf := bf) hd
        have hprog : p < d.2 := stm_ok hpl hx
        rw [cl_eq (t_looks hA (hg1.bft hB) hg1.2.2.2.2.2.2.2.1 hd), t_rv]
        obtain ⟨q, hq⟩ : ∃ q, sk bf len d.2 = q := ⟨_, rfl⟩
        rw [hq] at hs ⊢
        have hg2 := hg1.pos (q := q) (b := q) hs.2
        have e4 : q_sc (x_sc (x_sc T1 4 (Int32.ofNat q)) 5 (Int32.ofNat q)) 4 = Int32.ofNat q := hg2.2.2.2.2.2.2.2.1
        have e5 : q_sc (x_sc (x_sc T1 4 (Int32.ofNat q)) 5 (Int32.ofNat q)) 5 = Int32.ofNat q := q_seq
        have h7 := hg2.2.2.2.2.2.2.1
        rw [cl_eq (t_here hA (hg2.bft hB) e4 hs.2)]
        dsimp only
        rw [hq]
        unfold f_X7_load_B59
        by_cases c59 : hb bf len q = 59
        · have c59' : hv bf len q = 59 := (hv_eq hB2 (by decide)).mpr c59
          have hlt := hb_lt c59 (by decide)
          rw [if_pos c59', if_neg (show ¬ (1 : Int32) = 0 by decide), t_gI (by decide), t_pV hA (by decide), e4, if_neg (by omega), if_pos c59]
          have hg3 : TG len T0 (x_sc (x_sc (x_sc T1 4 (Int32.ofNat q)) 5 (Int32.ofNat q)) 4 (Int32.ofNat q + 1)) d.1 (q + 1) := by
            obtain ⟨b1, b2, b3, b4, b5, b6, b7, b8, b9, b10, b11, b12⟩ := hg2
            refine ⟨b1, b2, b3, b4, b5, fun j j4 j5 j6 j7 j9 => (q_sne j4).trans (b6 j j4 j5 j6 j7 j9), (q_sne (by decide)).trans b7, ?_, by omega, b10, (q_sne (by decide)).trans b11, b12⟩
            rw [q_seq, show (1 : Int32) = Int32.ofNat 1 from rfl, of_add]
          exact ih N _ d.1 (q + 1) hg3 (by omega) (by omega)
        · have c59' : ¬ hv bf len q = 59 := fun hy => c59 ((hv_eq hB2 (by decide)).mp hy)
          rw [if_neg c59', if_pos rfl]
          cases N with
          | zero => omega
          | succ N =>
            conv => enter [1, T', 1, ans, 1, 1]; unfold f_X7_load_L26
            rw [if_pos rfl]
            unfold f_X7_load_B77
            rw [t_gI (by decide), h7, if_pos rfl, t_rv, cl_eq (t_here hA (hg2.bft hB) e4 hs.2)]
            have failTE : ∀ k : Nat, 1 ≤ k → k ≤ 4 → TE (len := len) T0 (x_sc (x_sc (x_sc (x_sc T1 4 (Int32.ofNat q)) 5 (Int32.ofNat q)) 7 (Int32.ofNat k)) 6 (Int32.ofNat q)) k q := fun k k1 k2 => (t_failW hA (h := h) (k := k) (a := q) (b := q) hg1 hs.2 k1 k2).2
            by_cases c256 : hb bf len q = 256
            · have hnl : ¬ q < len := fun hy => by
                rw [hb_at hy] at c256
                have := hB2 q hy
                omega
              have ev : hv bf len q = -4 := if_neg hnl
              rw [if_pos ev, if_pos c256]
              unfold f_X7_load_B98
              have a2 : q_rd (x_sc (x_sc T1 4 (Int32.ofNat q)) 5 (Int32.ofNat q)) 2 = Int32.ofNat d.1.2.1.length := hg2.2.2.2.2.2.2.2.2.2.1 2 (by decide)
              have h6 := hg2.2.2.2.2.2.2.2.2.2.2.2
              rw [t_gI (by decide), h7, if_pos rfl, t_rR, t_aR hA 2 2 rfl (by decide), a2]
              by_cases c0 : d.1.2.1.length = 0
              · rw [if_pos c0, if_pos (by rw [c0]; rfl), t_rv, cl_eq (show f_X7_fails (some (A 0)) 4 _ = _ from t_fails hA (k := 4) h7 e5)]
                obtain ⟨T', v1, v2, v3, v4, v5, v6, v7, v8⟩ := t_loadE hA (by omega) (failTE 4 (by decide) (by decide))
                exact ⟨T', _, v1, v3, v4, v5, v6, v7, rfl, v8, v2⟩
              · rw [if_neg c0, if_neg (fun hy => c0 (by
                  have := congrArg Int32.toInt hy
                  rw [of_i (by omega), show ((0 : Int32)).toInt = 0 from rfl] at this
                  omega))]
                obtain ⟨T', v1, v2, v3, v4, v5, v6, v7, v8⟩ := t_loadG hA hg2
                exact ⟨T', _, v1, v3, v4, v5, v6, v7, rfl, v8, h6, by omega, v2⟩
            · have hlt : q < len := by
                by_cases hy : q < len
                · exact hy
                · exact absurd (hb_none hy) c256
              have ev : ¬ hv bf len q = -4 := fun hy => by
                have := congrArg Int32.toInt hy
                rw [hv_i hB2, if_pos hlt, show ((-4 : Int32)).toInt = -4 from rfl] at this
                omega
              rw [if_neg ev, if_neg c256, if_neg c59, t_rv, cl_eq (show f_X7_fails (some (A 0)) 1 _ = _ from t_fails hA (k := 1) h7 e5)]
              unfold f_X7_load_B98
              have he := failTE 1 (by decide) (by decide)
              rw [t_gI (by decide), if_neg he.ne]
              obtain ⟨T', v1, v2, v3, v4, v5, v6, v7, v8⟩ := t_loadE hA (by omega) he
              exact ⟨T', _, v1, v3, v4, v5, v6, v7, rfl, v8, v2⟩
theorem t_load (hA : TA A h) (hW : WRD A h) (hB : BFT T bf len) : ∃ (T' : TS) (ans : Int32), f_X7_load (some (A 0)) (tw A T h) = some (ans, tw A T' h) ∧ LDR (x_sc T 1 0) T' (parse bf len) ans := by
  unfold f_X7_load parse
  rw [t_pV hA (by decide), t_rv]
  obtain ⟨f, u1, u2⟩ := t_beginsRead hA (h := h) (T := x_sc T 1 0)
  rw [cl_eq u1, t_pV hA (by decide), t_pV hA (by decide), t_pV hA (by decide)]
  have hB0 : BFT (x_sc T 1 0) bf len := hB.sc (by decide)
  refine t_loadL hA hW hB0 FL FU _ cs0 0 ?_ (by have := hB.1; unfold FL; omega) (by unfold FL FU; omega)
  refine ⟨rfl, rfl, rfl, rfl, rfl, fun j j4 j5 j6 j7 j9 => ?_, ?_, ?_, Nat.zero_le _, u2, ?_, by decide⟩
  · rw [q_sne j9, q_sne j7, q_sne j4]
    rfl
  · rw [q_sne (by decide), q_seq]
  · rw [q_sne (by decide), q_sne (by decide), q_seq]
    rfl
  · rw [q_seq]
    rfl
theorem t_append (hA : TA A h) (hB : BFT T bf len) {p : Int32} : (¬ iv p 0 255 → f_X7_appendByte (some (A 0)) p (tw A T h) = some (0, tw A (x_sc T 1 1) h)) ∧ (iv p 0 255 → len = 400 → f_X7_appendByte (some (A 0)) p (tw A T h) = some (-5, tw A (x_sc T 1 0) h)) ∧ (iv p 0 255 → len ≠ 400 → ∃ T' : TS, f_X7_appendByte (some (A 0)) p (tw A T h) = some (Int32.ofNat (len + 1), tw A T' h) ∧ BFT T' (fu bf len p.toInt.toNat) (len + 1) ∧ q_sc T' 1 = 0 ∧ q_w T' = q_w T ∧ q_kp T' = q_kp T ∧ q_ik T' = q_ik T ∧ q_sc T' 8 = q_sc T 8) := by
  have e0 : ((0 : Int64)).toInt = 0 := by decide
  have e1 : ((255 : Int64)).toInt = 255 := by decide
  have hl := hB.1
  have h3 : q_sc (x_sc T 1 0) 3 = Int32.ofNat len := (q_sne (by decide)).trans hB.2.1
  unfold f_X7_appendByte f_X7_appendByte_B23
  rw [t_pV hA (by decide), cl_eq t_in, e0, e1, Int32.toInt_toInt64]
  refine ⟨fun hp => ?_, fun hp h4 => ?_, fun hp h4 => ?_⟩
  · rw [if_neg (show ¬ (0 ≤ p.toInt ∧ p.toInt ≤ 255) from hp), if_pos rfl, t_rv, cl_eq (t_throws1 hA (by decide) (by decide) q10), if_neg (show ¬ (1 : Int32) = 0 by decide), x_scsc]
  · rw [if_pos (show 0 ≤ p.toInt ∧ p.toInt ≤ 255 from hp), if_neg (show ¬ (1 : Int32) = 0 by decide), t_rv, cl_eq (t_throws0 rfl q10), if_pos rfl, t_gI (by decide), h3, h4, if_pos (show Int32.ofNat 400 = 400 from rfl)]
  · have hne : ¬ Int32.ofNat len = 400 := fun hy => h4 (by
      have := congrArg Int32.toInt hy
      rw [of_i (by omega), show ((400 : Int32)).toInt = 400 from rfl] at this
      omega)
    have hp1 := hp.1
    have hp2 := hp.2
    rw [if_pos (show 0 ≤ p.toInt ∧ p.toInt ≤ 255 from hp), if_neg (show ¬ (1 : Int32) = 0 by decide), t_rv, cl_eq (t_throws0 rfl q10), if_pos rfl, t_gI (by decide), h3, if_neg hne, t_rB, t_gI (by decide), h3, t_sB hA _ len rfl (by omega), t_gI (by decide)]
    have h3' : q_sc (x_bf (x_sc T 1 0) (upd (q_bf (x_sc T 1 0)) len p)) 3 = Int32.ofNat len := h3
    rw [h3', t_pV hA (by decide), t_gI (by decide), q_seq, show (1 : Int32) = Int32.ofNat 1 from rfl, of_add]
    refine ⟨_, rfl, ⟨by omega, q_seq, fun i hi => ?_⟩, ?_, rfl, rfl, rfl, ?_⟩
    · have ep : p = Int32.ofNat p.toInt.toNat := by
        apply Int32.toInt_inj.mp
        rw [of_i (by omega)]
        omega
      show upd (q_bf T) len p i = _ ∧ _
      by_cases c : i = len
      · subst c
        rw [upd_eq, fu_eq]
        exact ⟨ep, by omega⟩
      · rw [upd_ne c, fu_ne c]
        exact hB.2.2 i (by omega)
    · rw [q_sne (by decide)]
      exact q10
    · rw [q_sne (by decide)]
      show q_sc (x_sc T 1 0) 8 = _
      rw [q_sne (by decide)]
end TLO
