/-! THE TWIN reads: statements, load -/
set_option maxRecDepth 100000
/-- the row of what is read -/
def rdF (c : CS) (k : Nat) : Int32 := if k = 1 then Int32.ofNat (c.1 8) else if k = 2 then Int32.ofNat c.2.1.length else if k = 3 then Int32.ofNat (c.1 0) else if k = 4 then Int32.ofNat (c.1 1) else if k = 5 then Int32.ofNat (c.1 3) else if k = 6 then Int32.ofNat (c.1 4) else if k = 7 then Int32.ofNat (c.1 5) else if k = 8 then Int32.ofNat (c.1 6) else if k = 9 then Int32.ofNat (c.1 7) else if k = 10 then -4 else if k < 40 then 0 else
  match c.2.1[(k - 40) / 20]? with
  | none => 0
  | some x => if (k - 40) % 20 = 0 then Int32.ofNat x.1 else if (k - 40) % 20 = 1 then Int32.ofNat x.2.1 else if (k - 40) % 20 = 2 then Int32.ofNat x.2.2 else if (k - 40) % 20 = 3 then 1 else if (k - 40) % 20 = 9 then -1 else 0
def RDT (T : TS) (c : CS) : Prop := ∀ k : Nat, k < 160 → q_rd T k = rdF c k
def m7 (b0 b1 b2 b3 b4 b5 b6 : Bool) : Int32 := ((((((0 ||| (if b0 = true then (1 : Int32) else 0)) ||| (if b1 = true then (2 : Int32) else 0)) ||| (if b2 = true then (4 : Int32) else 0)) ||| (if b3 = true then (8 : Int32) else 0)) ||| (if b4 = true then (16 : Int32) else 0)) ||| (if b5 = true then (32 : Int32) else 0)) ||| (if b6 = true then (64 : Int32) else 0)
def mtM (f : Nat → Bool) : Int32 := m7 (f 0) (f 1) (f 2) (f 3) (f 4) (f 5) (f 6)
theorem m7_get : ∀ b0 b1 b2 b3 b4 b5 b6 : Bool, (((m7 b0 b1 b2 b3 b4 b5 b6 >>> (Int32.ofNat 0 &&& 31)) &&& (1 : Int32)) = 1 ↔ b0 = true) ∧ (((m7 b0 b1 b2 b3 b4 b5 b6 >>> (Int32.ofNat 1 &&& 31)) &&& (1 : Int32)) = 1 ↔ b1 = true) ∧ (((m7 b0 b1 b2 b3 b4 b5 b6 >>> (Int32.ofNat 2 &&& 31)) &&& (1 : Int32)) = 1 ↔ b2 = true) ∧ (((m7 b0 b1 b2 b3 b4 b5 b6 >>> (Int32.ofNat 3 &&& 31)) &&& (1 : Int32)) = 1 ↔ b3 = true) ∧ (((m7 b0 b1 b2 b3 b4 b5 b6 >>> (Int32.ofNat 4 &&& 31)) &&& (1 : Int32)) = 1 ↔ b4 = true) ∧ (((m7 b0 b1 b2 b3 b4 b5 b6 >>> (Int32.ofNat 5 &&& 31)) &&& (1 : Int32)) = 1 ↔ b5 = true) ∧ (((m7 b0 b1 b2 b3 b4 b5 b6 >>> (Int32.ofNat 6 &&& 31)) &&& (1 : Int32)) = 1 ↔ b6 = true) := by decide +kernel
theorem m7_set : ∀ b0 b1 b2 b3 b4 b5 b6 : Bool, (m7 b0 b1 b2 b3 b4 b5 b6 ||| ((1 : Int32) <<< (Int32.ofNat 0 &&& 31)) = m7 true b1 b2 b3 b4 b5 b6) ∧ (m7 b0 b1 b2 b3 b4 b5 b6 ||| ((1 : Int32) <<< (Int32.ofNat 1 &&& 31)) = m7 b0 true b2 b3 b4 b5 b6) ∧ (m7 b0 b1 b2 b3 b4 b5 b6 ||| ((1 : Int32) <<< (Int32.ofNat 2 &&& 31)) = m7 b0 b1 true b3 b4 b5 b6) ∧ (m7 b0 b1 b2 b3 b4 b5 b6 ||| ((1 : Int32) <<< (Int32.ofNat 3 &&& 31)) = m7 b0 b1 b2 true b4 b5 b6) ∧ (m7 b0 b1 b2 b3 b4 b5 b6 ||| ((1 : Int32) <<< (Int32.ofNat 4 &&& 31)) = m7 b0 b1 b2 b3 true b5 b6) ∧ (m7 b0 b1 b2 b3 b4 b5 b6 ||| ((1 : Int32) <<< (Int32.ofNat 5 &&& 31)) = m7 b0 b1 b2 b3 b4 true b6) ∧ (m7 b0 b1 b2 b3 b4 b5 b6 ||| ((1 : Int32) <<< (Int32.ofNat 6 &&& 31)) = m7 b0 b1 b2 b3 b4 b5 true) := by decide +kernel
theorem mtM_get {f : Nat → Bool} {k : Nat} (hk : k < 7) : ((mtM f >>> (Int32.ofNat k &&& 31)) &&& (1 : Int32)) = 1 ↔ f k = true := by
  obtain ⟨g0, g1, g2, g3, g4, g5, g6⟩ := m7_get (f 0) (f 1) (f 2) (f 3) (f 4) (f 5) (f 6)
  have : k = 0 ∨ k = 1 ∨ k = 2 ∨ k = 3 ∨ k = 4 ∨ k = 5 ∨ k = 6 := by omega
  rcases this with rfl | rfl | rfl | rfl | rfl | rfl | rfl
  · exact g0
  · exact g1
  · exact g2
  · exact g3
  · exact g4
  · exact g5
  · exact g6
theorem mtM_set {f : Nat → Bool} {k : Nat} (hk : k < 7) : mtM f ||| ((1 : Int32) <<< (Int32.ofNat k &&& 31)) = mtM (fu f k true) := by
  obtain ⟨g0, g1, g2, g3, g4, g5, g6⟩ := m7_set (f 0) (f 1) (f 2) (f 3) (f 4) (f 5) (f 6)
  have : k = 0 ∨ k = 1 ∨ k = 2 ∨ k = 3 ∨ k = 4 ∨ k = 5 ∨ k = 6 := by omega
  rcases this with rfl | rfl | rfl | rfl | rfl | rfl | rfl
  · exact g0
  · exact g1
  · exact g2
  · exact g3
  · exact g4
  · exact g5
  · exact g6
/-- the pairs (place, number) -/
def cfM : List (Nat × Nat) := [(1, 8), (3, 0), (4, 1), (5, 3), (6, 4), (7, 5), (8, 6), (9, 7)]
theorem rdF_set {c : CS} {p kk v k : Nat} (hp : (p, kk) ∈ cfM) : rdF (c_set c kk v) k = if k = p then Int32.ofNat v else rdF c k := by
  have go : ∀ (p kk : Nat), (k = p → rdF (c_set c kk v) k = Int32.ofNat v) → (¬ k = p → rdF (c_set c kk v) k = rdF c k) → rdF (c_set c kk v) k = if k = p then Int32.ofNat v else rdF c k := by
    intro p kk h1 h2
    by_cases e : k = p
    · rw [if_pos e, h1 e]
    · rw [if_neg e, h2 e]
  simp [cfM] at hp
  rcases hp with ⟨rfl, rfl⟩ | ⟨rfl, rfl⟩ | ⟨rfl, rfl⟩ | ⟨rfl, rfl⟩ | ⟨rfl, rfl⟩ | ⟨rfl, rfl⟩ | ⟨rfl, rfl⟩ | ⟨rfl, rfl⟩
  · refine go 1 8 (fun e => ?_) (fun e => ?_)
    · subst e
      show Int32.ofNat (fu c.1 8 v 8) = _
      rw [fu_eq]
    · unfold rdF c_set
      simp only [if_neg e, fu_ne (show (0 : Nat) ≠ 8 by decide), fu_ne (show (1 : Nat) ≠ 8 by decide), fu_ne (show (3 : Nat) ≠ 8 by decide), fu_ne (show (4 : Nat) ≠ 8 by decide), fu_ne (show (5 : Nat) ≠ 8 by decide), fu_ne (show (6 : Nat) ≠ 8 by decide), fu_ne (show (7 : Nat) ≠ 8 by decide)]
  · refine go 3 0 (fun e => ?_) (fun e => ?_)
    · subst e
      show Int32.ofNat (fu c.1 0 v 0) = _
      rw [fu_eq]
    · unfold rdF c_set
      simp only [if_neg e, fu_ne (show (8 : Nat) ≠ 0 by decide), fu_ne (show (1 : Nat) ≠ 0 by decide), fu_ne (show (3 : Nat) ≠ 0 by decide), fu_ne (show (4 : Nat) ≠ 0 by decide), fu_ne (show (5 : Nat) ≠ 0 by decide), fu_ne (show (6 : Nat) ≠ 0 by decide), fu_ne (show (7 : Nat) ≠ 0 by decide)]
  · refine go 4 1 (fun e => ?_) (fun e => ?_)
    · subst e
      show Int32.ofNat (fu c.1 1 v 1) = _
      rw [fu_eq]
    · unfold rdF c_set
      simp only [if_neg e, fu_ne (show (8 : Nat) ≠ 1 by decide), fu_ne (show (0 : Nat) ≠ 1 by decide), fu_ne (show (3 : Nat) ≠ 1 by decide), fu_ne (show (4 : Nat) ≠ 1 by decide), fu_ne (show (5 : Nat) ≠ 1 by decide), fu_ne (show (6 : Nat) ≠ 1 by decide), fu_ne (show (7 : Nat) ≠ 1 by decide)]
  · refine go 5 3 (fun e => ?_) (fun e => ?_)
    · subst e
      show Int32.ofNat (fu c.1 3 v 3) = _
      rw [fu_eq]
    · unfold rdF c_set
      simp only [if_neg e, fu_ne (show (8 : Nat) ≠ 3 by decide), fu_ne (show (0 : Nat) ≠ 3 by decide), fu_ne (show (1 : Nat) ≠ 3 by decide), fu_ne (show (4 : Nat) ≠ 3 by decide), fu_ne (show (5 : Nat) ≠ 3 by decide), fu_ne (show (6 : Nat) ≠ 3 by decide), fu_ne (show (7 : Nat) ≠ 3 by decide)]
  · refine go 6 4 (fun e => ?_) (fun e => ?_)
    · subst e
      show Int32.ofNat (fu c.1 4 v 4) = _
      rw [fu_eq]
    · unfold rdF c_set
      simp only [if_neg e, fu_ne (show (8 : Nat) ≠ 4 by decide), fu_ne (show (0 : Nat) ≠ 4 by decide), fu_ne (show (1 : Nat) ≠ 4 by decide), fu_ne (show (3 : Nat) ≠ 4 by decide), fu_ne (show (5 : Nat) ≠ 4 by decide), fu_ne (show (6 : Nat) ≠ 4 by decide), fu_ne (show (7 : Nat) ≠ 4 by decide)]
  · refine go 7 5 (fun e => ?_) (fun e => ?_)
    · subst e
      show Int32.ofNat (fu c.1 5 v 5) = _
      rw [fu_eq]
    · unfold rdF c_set
      simp only [if_neg e, fu_ne (show (8 : Nat) ≠ 5 by decide), fu_ne (show (0 : Nat) ≠ 5 by decide), fu_ne (show (1 : Nat) ≠ 5 by decide), fu_ne (show (3 : Nat) ≠ 5 by decide), fu_ne (show (4 : Nat) ≠ 5 by decide), fu_ne (show (6 : Nat) ≠ 5 by decide), fu_ne (show (7 : Nat) ≠ 5 by decide)]
  · refine go 8 6 (fun e => ?_) (fun e => ?_)
    · subst e
      show Int32.ofNat (fu c.1 6 v 6) = _
      rw [fu_eq]
    · unfold rdF c_set
      simp only [if_neg e, fu_ne (show (8 : Nat) ≠ 6 by decide), fu_ne (show (0 : Nat) ≠ 6 by decide), fu_ne (show (1 : Nat) ≠ 6 by decide), fu_ne (show (3 : Nat) ≠ 6 by decide), fu_ne (show (4 : Nat) ≠ 6 by decide), fu_ne (show (5 : Nat) ≠ 6 by decide), fu_ne (show (7 : Nat) ≠ 6 by decide)]
  · refine go 9 7 (fun e => ?_) (fun e => ?_)
    · subst e
      show Int32.ofNat (fu c.1 7 v 7) = _
      rw [fu_eq]
    · unfold rdF c_set
      simp only [if_neg e, fu_ne (show (8 : Nat) ≠ 7 by decide), fu_ne (show (0 : Nat) ≠ 7 by decide), fu_ne (show (1 : Nat) ≠ 7 by decide), fu_ne (show (3 : Nat) ≠ 7 by decide), fu_ne (show (4 : Nat) ≠ 7 by decide), fu_ne (show (5 : Nat) ≠ 7 by decide), fu_ne (show (6 : Nat) ≠ 7 by decide)]
theorem RDT.set {T : TS} {c : CS} {p kk v : Nat} (hr : RDT T c) (hp : (p, kk) ∈ cfM) : RDT (x_rd T (upd (q_rd T) p (Int32.ofNat v))) (c_set c kk v) := by
  intro k hk
  rw [rdF_set hp]
  show upd (q_rd T) p (Int32.ofNat v) k = _
  by_cases c1 : k = p
  · rw [if_pos c1, c1, upd_eq]
  · rw [if_neg c1, upd_ne c1]
    exact hr k hk
/-- reading goes on: c is read, the place is p -/
def TG (len : Nat) (T T' : TS) (c : CS) (p : Nat) : Prop := q_w T' = q_w T ∧ q_bf T' = q_bf T ∧ q_as T' = q_as T ∧ q_kp T' = q_kp T ∧ q_ik T' = q_ik T ∧ (∀ j : Nat, j ≠ 4 → j ≠ 5 → j ≠ 6 → j ≠ 7 → j ≠ 9 → q_sc T' j = q_sc T j) ∧ q_sc T' 7 = 0 ∧ q_sc T' 4 = Int32.ofNat p ∧ p ≤ len ∧ RDT T' c ∧ q_sc T' 9 = mtM c.2.2 ∧ c.2.1.length ≤ 6
def RES (len : Nat) (T T' : TS) (x : (Nat × Nat) ⊕ (CS × Nat)) : Prop := match x with
  | .inl e => TE (len := len) T T' e.1 e.2
  | .inr d => TG len T T' d.1 d.2
section TLD
variable {A : Nat → Nat} {h : PH} {bf : Nat → Nat} {len : Nat} {T0 T : TS} {c : CS} {p : Nat}
theorem TG.bft (hg : TG len T0 T c p) (hB : BFT T0 bf len) : BFT T bf len := ⟨hB.1, (hg.2.2.2.2.2.1 3 (by decide) (by decide) (by decide) (by decide) (by decide)).trans hB.2.1, by rw [hg.2.1]; exact hB.2.2⟩
theorem TE.bft {k pos : Nat} (hg : TE (len := len) T0 T k pos) (hB : BFT T0 bf len) : BFT T bf len := ⟨hB.1, (hg.2.2.2.2.2.1 3 (by decide) (by decide) (by decide) (by decide) (by decide)).trans hB.2.1, by rw [hg.2.1]; exact hB.2.2⟩
theorem TE.tr {T1 T2 : TS} {k pos : Nat} (hg : TG len T0 T1 c p) (he : TE (len := len) T1 T2 k pos) : TE (len := len) T0 T2 k pos := by
  obtain ⟨a1, a2, a3, a4, a5, a6, a7⟩ := he
  obtain ⟨b1, b2, b3, b4, b5, b6, -⟩ := hg
  exact ⟨a1.trans b1, a2.trans b2, a3.trans b3, a4.trans b4, a5.trans b5, fun j j4 j5 j6 j7 j9 => (a6 j j4 j5 j6 j7 j9).trans (b6 j j4 j5 j6 j7 j9), a7⟩
theorem TE.rd {k pos : Nat} {f : Nat → Int32} (he : TE (len := len) T0 T k pos) : TE (len := len) T0 (x_rd T f) k pos := he
theorem TG.pos (hg : TG len T0 T c p) {q b : Nat} (hq : q ≤ len) : TG len T0 (x_sc (x_sc T 4 (Int32.ofNat q)) 5 (Int32.ofNat b)) c q := by
  obtain ⟨b1, b2, b3, b4, b5, b6, b7, b8, b9, b10, b11, b12⟩ := hg
  refine ⟨b1, b2, b3, b4, b5, fun j j4 j5 j6 j7 j9 => ?_, ?_, ?_, hq, b10, ?_, b12⟩
  · rw [q_sne j5, q_sne j4]; exact b6 j j4 j5 j6 j7 j9
  · rw [q_sne (by decide), q_sne (by decide)]; exact b7
  · rw [q_sne (by decide), q_seq]
  · rw [q_sne (by decide), q_sne (by decide)]; exact b11
/-- one number, into the row -/
theorem t_rd1 (hA : TA A h) (hB : BFT T0 bf len) {β : Type} {K : PH → Option β} {lo hi pl kk : Nat} (hlo : lo ≤ 2147483647) (hhi : hi ≤ 2147483647) (hp : (pl, kk) ∈ cfM) (hg : TG len T0 T c p) : ∃ T' : TS, (cl_ (f_X7_number (some (A 0)) (Int32.ofNat lo) (Int32.ofNat hi) (tw A T h)) fun v h1 => sI h1 (some (A 3)) 0 (Int32.ofNat pl) v K) = K (tw A T' h) ∧ RES len T0 T' (rd1 bf len c kk lo hi p) := by
  have hpl : pl < 160 := by
    simp [cfM] at hp
    omega
  have g := t_number hA hlo hhi (hg.bft hB) hg.2.2.2.2.2.2.2.1 hg.2.2.2.2.2.2.1 hg.2.2.2.2.2.2.2.2.1
  unfold rd1
  cases hn : nmb bf len lo hi p with
  | inl e =>
    obtain ⟨T', ans, u1, u2⟩ := g.1 e.1 e.2 hn
    rw [cl_eq u1, t_sR hA _ pl rfl hpl]
    exact ⟨_, rfl, (u2.tr hg).rd⟩
  | inr d =>
    have u := g.2 d hn
    have hk := nmb_ok hg.2.2.2.2.2.2.2.2.1 hn
    rw [cl_eq u, t_sR hA _ pl rfl hpl]
    have h2 := hg.pos (q := d.2) (b := sk bf len p) hk.2.2.2
    refine ⟨_, rfl, ?_⟩
    obtain ⟨b1, b2, b3, b4, b5, b6, b7, b8, b9, b10, b11, b12⟩ := h2
    exact ⟨b1, b2, b3, b4, b5, b6, b7, b8, b9, b10.set hp, b11, b12⟩
theorem t_rd1E (hA : TA A h) {β : Type} {K : PH → Option β} {lo hi : Int32} {pl : Nat} (hpl : pl < 160) {k pos : Nat} (he : TE (len := len) T0 T k pos) : ∃ T' : TS, (cl_ (f_X7_number (some (A 0)) lo hi (tw A T h)) fun v h1 => sI h1 (some (A 3)) 0 (Int32.ofNat pl) v K) = K (tw A T' h) ∧ TE (len := len) T0 T' k pos := by
  rw [cl_eq (t_number0 he.ne), t_sR hA _ pl rfl hpl]
  exact ⟨_, rfl, he.rd⟩
theorem rdF_node {r o d k : Nat} (hk : k < 160) (hl : c.2.1.length < 6) : rdF (c_node c r o d) k = if k = 2 then Int32.ofNat (c.2.1.length + 1) else if k = 40 + 20 * c.2.1.length then Int32.ofNat r else if k = 40 + 20 * c.2.1.length + 1 then Int32.ofNat o else if k = 40 + 20 * c.2.1.length + 2 then Int32.ofNat d else if k = 40 + 20 * c.2.1.length + 3 then 1 else if k = 40 + 20 * c.2.1.length + 9 then -1 else rdF c k := by
  by_cases h40 : k < 40
  · by_cases h2 : k = 2
    · subst h2
      show Int32.ofNat (c.2.1 ++ [(r, o, d)]).length = _
      rw [List.length_append]
      rfl
    · rw [if_neg h2, if_neg (by omega), if_neg (by omega), if_neg (by omega), if_neg (by omega), if_neg (by omega)]
      unfold rdF c_node
      dsimp only
      rw [if_neg h2, if_neg h2, if_pos h40, if_pos h40]
  · rw [if_neg (show ¬ k = 2 by omega)]
    obtain ⟨n, hn⟩ : ∃ n, c.2.1.length = n := ⟨_, rfl⟩
    rw [hn]
    have e1 : rdF (c_node c r o d) k = match (c.2.1 ++ [(r, o, d)])[(k - 40) / 20]? with
      | none => (0 : Int32)
      | some x => if (k - 40) % 20 = 0 then Int32.ofNat x.1 else if (k - 40) % 20 = 1 then Int32.ofNat x.2.1 else if (k - 40) % 20 = 2 then Int32.ofNat x.2.2 else if (k - 40) % 20 = 3 then 1 else if (k - 40) % 20 = 9 then -1 else 0 := by
      unfold rdF c_node
      dsimp only
      rw [if_neg (by omega), if_neg (by omega), if_neg (by omega), if_neg (by omega), if_neg (by omega), if_neg (by omega), if_neg (by omega), if_neg (by omega), if_neg (by omega), if_neg (by omega), if_neg h40]
    have e2 : rdF c k = match c.2.1[(k - 40) / 20]? with
      | none => (0 : Int32)
      | some x => if (k - 40) % 20 = 0 then Int32.ofNat x.1 else if (k - 40) % 20 = 1 then Int32.ofNat x.2.1 else if (k - 40) % 20 = 2 then Int32.ofNat x.2.2 else if (k - 40) % 20 = 3 then 1 else if (k - 40) % 20 = 9 then -1 else 0 := by
      unfold rdF
      rw [if_neg (by omega), if_neg (by omega), if_neg (by omega), if_neg (by omega), if_neg (by omega), if_neg (by omega), if_neg (by omega), if_neg (by omega), if_neg (by omega), if_neg (by omega), if_neg h40]
    by_cases hi : (k - 40) / 20 < n
    · rw [if_neg (by omega), if_neg (by omega), if_neg (by omega), if_neg (by omega), if_neg (by omega), e1, e2, List.getElem?_append_left (by omega)]
    · by_cases hi2 : (k - 40) / 20 = n
      · have g : (c.2.1 ++ [(r, o, d)])[(k - 40) / 20]? = some (r, o, d) := by rw [hi2, ← hn]; simp
        have g2 : c.2.1[(k - 40) / 20]? = none := List.getElem?_eq_none (by omega)
        rw [e1, e2, g, g2]
        dsimp only
        have hd := Nat.div_add_mod (k - 40) 20
        rw [hi2] at hd
        have c0 : k = 40 + 20 * n ↔ (k - 40) % 20 = 0 := by omega
        have c1 : k = 40 + 20 * n + 1 ↔ (k - 40) % 20 = 1 := by omega
        have c2 : k = 40 + 20 * n + 2 ↔ (k - 40) % 20 = 2 := by omega
        have c3 : k = 40 + 20 * n + 3 ↔ (k - 40) % 20 = 3 := by omega
        have c9 : k = 40 + 20 * n + 9 ↔ (k - 40) % 20 = 9 := by omega
        simp only [c0, c1, c2, c3, c9]
      · have g : (c.2.1 ++ [(r, o, d)])[(k - 40) / 20]? = none := List.getElem?_eq_none (by rw [List.length_append]; simp; omega)
        have g2 : c.2.1[(k - 40) / 20]? = none := List.getElem?_eq_none (by omega)
        have c0 : ¬ k = 40 + 20 * n := by omega
        have c1 : ¬ k = 40 + 20 * n + 1 := by omega
        have c2 : ¬ k = 40 + 20 * n + 2 := by omega
        have c3 : ¬ k = 40 + 20 * n + 3 := by omega
        have c9 : ¬ k = 40 + 20 * n + 9 := by omega
        rw [e1, e2, g, g2, if_neg c0, if_neg c1, if_neg c2, if_neg c3, if_neg c9]
theorem x_xrd {f g : Nat → Int32} : x_rd (x_rd T f) g = x_rd T g := rfl
theorem q_xrd {f : Nat → Int32} : q_rd (x_rd T f) = f := rfl
theorem t_readNode (hA : TA A h) {r o d : Nat} (hr : RDT T c) (hl : c.2.1.length < 6) : ∃ f : Nat → Int32, f_X7_readNode (some (A 0)) (Int32.ofNat r) (Int32.ofNat o) (Int32.ofNat d) (tw A T h) = some ((), tw A (x_rd T f) h) ∧ RDT (x_rd T f) (c_node c r o d) := by
  have a2 : q_rd T 2 = Int32.ofNat c.2.1.length := hr 2 (by decide)
  obtain ⟨n, hn⟩ : ∃ n, c.2.1.length = n := ⟨_, rfl⟩
  rw [hn] at a2 hl
  have ix : ∀ x : Nat, ((40 : Int32) + ((20 : Int32) * Int32.ofNat n)) + Int32.ofNat x = Int32.ofNat (40 + 20 * n + x) := fun x => ixN
  unfold f_X7_readNode
  rw [t_rR, t_aR hA 2 2 rfl (by decide), a2, t_rR, t_sR hA (((40 : Int32) + ((20 : Int32) * Int32.ofNat n)) + (0 : Int32)) (40 + 20 * n + 0) (ix 0) (by omega), t_rR, t_sR hA (((40 : Int32) + ((20 : Int32) * Int32.ofNat n)) + (1 : Int32)) (40 + 20 * n + 1) (ix 1) (by omega), t_rR, t_sR hA (((40 : Int32) + ((20 : Int32) * Int32.ofNat n)) + (2 : Int32)) (40 + 20 * n + 2) (ix 2) (by omega), t_rR, t_sR hA (((40 : Int32) + ((20 : Int32) * Int32.ofNat n)) + (3 : Int32)) (40 + 20 * n + 3) (ix 3) (by omega), t_rR, t_sR hA (((40 : Int32) + ((20 : Int32) * Int32.ofNat n)) + (9 : Int32)) (40 + 20 * n + 9) (ix 9) (by omega), t_rR, t_aR hA 2 2 rfl (by decide), t_sR hA 2 2 rfl (by decide)]
  simp only [x_xrd, q_xrd]
  refine ⟨_, rfl, fun k hk => ?_⟩
  rw [rdF_node hk (by omega), hn, q_xrd]
  have v2 : upd (upd (upd (upd (upd (q_rd T) (40 + 20 * n + 0) (Int32.ofNat r)) (40 + 20 * n + 1) (Int32.ofNat o)) (40 + 20 * n + 2) (Int32.ofNat d)) (40 + 20 * n + 3) 1) (40 + 20 * n + 9) (-1) 2 = Int32.ofNat n := by
    rw [upd_ne (by omega), upd_ne (by omega), upd_ne (by omega), upd_ne (by omega), upd_ne (by omega), a2]
  rw [v2, show (1 : Int32) = Int32.ofNat 1 from rfl, of_add]
  by_cases c2 : k = 2
  · rw [if_pos c2, c2, upd_eq]
  · rw [if_neg c2, upd_ne c2]
    by_cases c9 : k = 40 + 20 * n + 9
    · rw [if_neg (by omega), if_neg (by omega), if_neg (by omega), if_neg (by omega), if_pos c9, c9, upd_eq]
    · rw [upd_ne c9]
      by_cases c3 : k = 40 + 20 * n + 3
      · rw [if_neg (by omega), if_neg (by omega), if_neg (by omega), if_pos c3, c3, upd_eq]
      · rw [upd_ne c3]
        by_cases c4 : k = 40 + 20 * n + 2
        · rw [if_neg (by omega), if_neg (by omega), if_pos c4, c4, upd_eq]
        · rw [upd_ne c4]
          by_cases c5 : k = 40 + 20 * n + 1
          · rw [if_neg (by omega), if_pos c5, c5, upd_eq]
          · rw [upd_ne c5]
            by_cases c6 : k = 40 + 20 * n
            · rw [if_pos c6, c6, show 40 + 20 * n = 40 + 20 * n + 0 from rfl, upd_eq]
            · rw [if_neg c6, if_neg c5, if_neg c4, if_neg c3, if_neg c9, upd_ne (by omega)]
              exact hr k hk
theorem t_readNodeHere (hA : TA A h) (hB : BFT T0 bf len) (hl : c.2.1.length < 6) (hg : TG len T0 T c p) : ∃ T' : TS, f_X7_readNodeHere (some (A 0)) (tw A T h) = some ((), tw A T' h) ∧ RES len T0 T' (rdN bf len c p) := by
  have g := t_number hA (lo := 900) (hi := 1100) (by decide) (by decide) (hg.bft hB) hg.2.2.2.2.2.2.2.1 hg.2.2.2.2.2.2.1 hg.2.2.2.2.2.2.2.2.1
  unfold f_X7_readNodeHere f_X7_readNodeHere_B42 rdN
  rw [t_rv]
  cases hn : nmb bf len 900 1100 p with
  | inl e =>
    obtain ⟨T', ans, u1, u2⟩ := g.1 e.1 e.2 hn
    rw [cl_eq (show f_X7_number (some (A 0)) 900 1100 _ = _ from u1), t_rv, cl_eq (t_number0 u2.ne), t_rv, cl_eq (t_number0 u2.ne), t_gI (by decide), if_neg u2.ne]
    exact ⟨_, rfl, u2.tr hg⟩
  | inr r =>
    have u := g.2 r hn
    have k1 := nmb_ok hg.2.2.2.2.2.2.2.2.1 hn
    rw [cl_eq (show f_X7_number (some (A 0)) 900 1100 _ = _ from u), t_rv]
    have hg1 := hg.pos (q := r.2) (b := sk bf len p) k1.2.2.2
    have g1 := t_number hA (lo := 0) (hi := 100000) (by decide) (by decide) (hg1.bft hB) hg1.2.2.2.2.2.2.2.1 hg1.2.2.2.2.2.2.1 k1.2.2.2
    dsimp only
    cases hn1 : nmb bf len 0 100000 r.2 with
    | inl e =>
      obtain ⟨T', ans, u1, u2⟩ := g1.1 e.1 e.2 hn1
      rw [cl_eq (show f_X7_number (some (A 0)) 0 100000 _ = _ from u1), t_rv, cl_eq (t_number0 u2.ne), t_gI (by decide), if_neg u2.ne]
      exact ⟨_, rfl, u2.tr hg1⟩
    | inr o =>
      have u' := g1.2 o hn1
      have k2 := nmb_ok k1.2.2.2 hn1
      rw [cl_eq (show f_X7_number (some (A 0)) 0 100000 _ = _ from u'), t_rv]
      have hg2 := hg1.pos (q := o.2) (b := sk bf len r.2) k2.2.2.2
      have g2 := t_number hA (lo := 1) (hi := 1000) (by decide) (by decide) (hg2.bft hB) hg2.2.2.2.2.2.2.2.1 hg2.2.2.2.2.2.2.1 k2.2.2.2
      dsimp only
      cases hn2 : nmb bf len 1 1000 o.2 with
      | inl e =>
        obtain ⟨T', ans, u1, u2⟩ := g2.1 e.1 e.2 hn2
        rw [cl_eq (show f_X7_number (some (A 0)) 1 1000 _ = _ from u1), t_gI (by decide), if_neg u2.ne]
        exact ⟨_, rfl, u2.tr hg2⟩
      | inr d =>
        have u'' := g2.2 d hn2
        have k3 := nmb_ok k2.2.2.2 hn2
        have hg3 := hg2.pos (q := d.2) (b := sk bf len o.2) k3.2.2.2
        rw [cl_eq (show f_X7_number (some (A 0)) 1 1000 _ = _ from u''), t_gI (by decide), hg3.2.2.2.2.2.2.1, if_pos rfl, t_rv]
        obtain ⟨f, j1, j2⟩ := t_readNode hA (r := r.1) (o := o.1) (d := d.1) hg3.2.2.2.2.2.2.2.2.2.1 hl
        rw [cl_eq j1]
        refine ⟨_, rfl, ?_⟩
        obtain ⟨b1, b2, b3, b4, b5, b6, b7, b8, b9, b10, b11, b12⟩ := hg3
        refine ⟨b1, b2, b3, b4, b5, b6, b7, b8, b9, j2, b11, ?_⟩
        show (c.2.1 ++ [_]).length ≤ 6
        rw [List.length_append]
        simp
        omega
/-- what is behind the word -/
theorem t_B53 (hA : TA A h) (hB : BFT T0 bf len) {k : Nat} (hk : k < 7) (hl : k = 1 → c.2.1.length < 6) (hg : TG len T0 T c p) : ∃ T' : TS, f_X7_readStatement_B53 (some (A 0)) (Int32.ofNat k) (tw A T h) = some ((), tw A T' h) ∧ RES len T0 T' (rdW bf len (c_met c k) k p) := by
  have hg' : TG len T0 (x_sc T 9 (mtM (fu c.2.2 k true))) (c_met c k) p := by
    obtain ⟨b1, b2, b3, b4, b5, b6, b7, b8, b9, b10, b11, b12⟩ := hg
    refine ⟨b1, b2, b3, b4, b5, fun j j4 j5 j6 j7 j9 => (q_sne j9).trans (b6 j j4 j5 j6 j7 j9), (q_sne (by decide)).trans b7, (q_sne (by decide)).trans b8, b9, b10, ?_, b12⟩
    rw [q_seq]
    rfl
  unfold f_X7_readStatement_B53 f_X7_readStatement_B249
  rw [t_gI (by decide), hg.2.2.2.2.2.2.1, if_pos rfl, t_gI (by decide), hg.2.2.2.2.2.2.2.2.2.2.1, t_pV hA (by decide), mtM_set hk]
  obtain ⟨T1, hT1⟩ : ∃ T1, x_sc T 9 (mtM (fu c.2.2 k true)) = T1 := ⟨_, rfl⟩
  rw [hT1] at hg' ⊢
  have two : ∀ (lo hi pl kk lo' hi' pl' kk' : Nat), lo ≤ 2147483647 → hi ≤ 2147483647 → (pl, kk) ∈ cfM → lo' ≤ 2147483647 → hi' ≤ 2147483647 → (pl', kk') ∈ cfM → ∃ T' : TS, (gR (tw A T1 h) (some (A 0)) 6 10 fun r10 => rv_ (tw A T1 h) (some (A 0)) 6 (cl_ (f_X7_number (some (A 0)) (Int32.ofNat lo) (Int32.ofNat hi) (tw A T1 h)) fun v12 h11 => sI h11 r10 0 (Int32.ofNat pl) v12 fun h13 => gR h13 (some (A 0)) 6 10 fun r14 => rv_ h13 (some (A 0)) 6 (cl_ (f_X7_number (some (A 0)) (Int32.ofNat lo') (Int32.ofNat hi') h13) fun v16 h15 => sI h15 r14 0 (Int32.ofNat pl') v16 fun h17 => (some ((), h17) : Option (Unit × PH))))) = some ((), tw A T' h) ∧ RES len T0 T' (rd2 bf len (c_met c k) kk lo hi kk' lo' hi' p) := by
    intro lo hi pl kk lo' hi' pl' kk' l1 l2 l3 l4 l5 l6
    have hpl' : pl' < 160 := by
      simp [cfM] at l6
      omega
    rw [t_rR, t_rv]
    obtain ⟨T2, u1, u2⟩ := t_rd1 hA hB (K := fun h13 => gR h13 (some (A 0)) 6 10 fun r14 => rv_ h13 (some (A 0)) 6 (cl_ (f_X7_number (some (A 0)) (Int32.ofNat lo') (Int32.ofNat hi') h13) fun v16 h15 => sI h15 r14 0 (Int32.ofNat pl') v16 fun h17 => (some ((), h17) : Option (Unit × PH)))) l1 l2 l3 hg'
    rw [u1]
    unfold rd2
    cases hx : rd1 bf len (c_met c k) kk lo hi p with
    | inl e =>
      rw [hx] at u2
      rw [t_rR, t_rv]
      obtain ⟨T3, w1, w2⟩ := t_rd1E hA (T := T2) (h := h) (K := fun h17 => (some ((), h17) : Option (Unit × PH))) (lo := Int32.ofNat lo') (hi := Int32.ofNat hi') hpl' u2
      exact ⟨T3, w1, w2⟩
    | inr d =>
      rw [hx] at u2
      rw [t_rR, t_rv]
      exact t_rd1 hA hB l4 l5 l6 u2
  have one : ∀ (lo hi pl kk : Nat), lo ≤ 2147483647 → hi ≤ 2147483647 → (pl, kk) ∈ cfM → ∃ T' : TS, (gR (tw A T1 h) (some (A 0)) 6 10 fun r10 => rv_ (tw A T1 h) (some (A 0)) 6 (cl_ (f_X7_number (some (A 0)) (Int32.ofNat lo) (Int32.ofNat hi) (tw A T1 h)) fun v12 h11 => sI h11 r10 0 (Int32.ofNat pl) v12 fun h17 => (some ((), h17) : Option (Unit × PH)))) = some ((), tw A T' h) ∧ RES len T0 T' (rd1 bf len (c_met c k) kk lo hi p) := by
    intro lo hi pl kk l1 l2 l3
    rw [t_rR, t_rv]
    exact t_rd1 hA hB l1 l2 l3 hg'
  have nk : ∀ j : Nat, j < 7 → (Int32.ofNat k = Int32.ofNat j ↔ k = j) := fun j hj => ⟨fun hy => by
    have := congrArg Int32.toInt hy
    rw [of_i (by omega), of_i (by omega)] at this
    omega, fun hy => by rw [hy]⟩
  unfold rdW
  by_cases k0 : k = 0
  · rw [if_pos (show Int32.ofNat k = 0 from (nk 0 (by decide)).mpr k0), if_pos k0]
    exact two 900 1100 3 0 0 100000 4 1 (by decide) (by decide) (by simp [cfM]) (by decide) (by decide) (by simp [cfM])
  rw [if_neg (show ¬ Int32.ofNat k = 0 from fun hy => k0 ((nk 0 (by decide)).mp hy)), if_neg k0]
  by_cases k1 : k = 1
  · rw [if_pos (show Int32.ofNat k = 1 from (nk 1 (by decide)).mpr k1), if_pos k1, t_rv]
    obtain ⟨T2, u1, u2⟩ := t_readNodeHere hA hB (show (c_met c k).2.1.length < 6 from hl k1) hg'
    rw [cl_eq u1]
    exact ⟨T2, rfl, u2⟩
  rw [if_neg (show ¬ Int32.ofNat k = 1 from fun hy => k1 ((nk 1 (by decide)).mp hy)), if_neg k1]
  by_cases k2 : k = 2
  · rw [if_pos (show Int32.ofNat k = 2 from (nk 2 (by decide)).mpr k2), if_pos k2]
    exact two 100 60000 5 3 0 100 6 4 (by decide) (by decide) (by simp [cfM]) (by decide) (by decide) (by simp [cfM])
  rw [if_neg (show ¬ Int32.ofNat k = 2 from fun hy => k2 ((nk 2 (by decide)).mp hy)), if_neg k2]
  by_cases k3 : k = 3
  · rw [if_pos (show Int32.ofNat k = 3 from (nk 3 (by decide)).mpr k3), if_pos k3]
    exact one 50 60000 7 5 (by decide) (by decide) (by simp [cfM])
  rw [if_neg (show ¬ Int32.ofNat k = 3 from fun hy => k3 ((nk 3 (by decide)).mp hy)), if_neg k3]
  by_cases k4 : k = 4
  · rw [if_pos (show Int32.ofNat k = 4 from (nk 4 (by decide)).mpr k4), if_pos k4]
    exact one 50 60000 8 6 (by decide) (by decide) (by simp [cfM])
  rw [if_neg (show ¬ Int32.ofNat k = 4 from fun hy => k4 ((nk 4 (by decide)).mp hy)), if_neg k4]
  by_cases k5 : k = 5
  · rw [if_pos (show Int32.ofNat k = 5 from (nk 5 (by decide)).mpr k5), if_pos k5]
    exact one 0 1000 9 7 (by decide) (by decide) (by simp [cfM])
  rw [if_neg (show ¬ Int32.ofNat k = 5 from fun hy => k5 ((nk 5 (by decide)).mp hy)), if_neg k5]
  exact one 0 2147483647 1 8 (by decide) (by decide) (by simp [cfM])
/-- a failure right behind the word -/
theorem t_failW (hA : TA A h) {k a b : Nat} (hg : TG len T0 T c p) (hb : b ≤ len) (k1 : 1 ≤ k) (k2 : k ≤ 4) : f_X7_fails (some (A 0)) (Int32.ofNat k) (tw A (x_sc (x_sc T 4 (Int32.ofNat b)) 5 (Int32.ofNat a)) h) = some ((), tw A (x_sc (x_sc (x_sc (x_sc T 4 (Int32.ofNat b)) 5 (Int32.ofNat a)) 7 (Int32.ofNat k)) 6 (Int32.ofNat a)) h) ∧ TE (len := len) T0 (x_sc (x_sc (x_sc (x_sc T 4 (Int32.ofNat b)) 5 (Int32.ofNat a)) 7 (Int32.ofNat k)) 6 (Int32.ofNat a)) k a := by
  have hg1 := hg.pos (q := b) (b := a) hb
  refine ⟨t_fails hA hg1.2.2.2.2.2.2.1 q_seq, ?_⟩
  obtain ⟨b1, b2, b3, b4, b5, b6, b7, b8, b9, b10, b11, b12⟩ := hg1
  refine ⟨b1, b2, b3, b4, b5, fun j j4 j5 j6 j7 j9 => ?_, ?_, ?_, k1, k2, b, hb, ?_⟩
  · rw [q_sne j6, q_sne j7]; exact b6 j j4 j5 j6 j7 j9
  · rw [q_sne (by decide), q_seq]
  · rw [q_seq]
  · rw [q_sne (by decide), q_sne (by decide)]; exact b8
theorem t_B53E {x : Int32} {k pos : Nat} (he : TE (len := len) T0 T k pos) : f_X7_readStatement_B53 (some (A 0)) x (tw A T h) = some ((), tw A T h) := by
  unfold f_X7_readStatement_B53 f_X7_readStatement_B249
  rw [t_gI (by decide), if_neg he.ne]
theorem wix_le {a n : Nat} : wix bf a n ≤ 7 := by
  unfold wix
  repeat' split
  all_goals decide
theorem t_readStatement (hA : TA A h) (hW : WRD A h) (hB : BFT T0 bf len) (hg : TG len T0 T c p) : ∃ T' : TS, f_X7_readStatement (some (A 0)) (tw A T h) = some ((), tw A T' h) ∧ RES len T0 T' (stm bf len c p) := by
  have hpl := hg.2.2.2.2.2.2.2.2.1
  have hs := sk_le (bf := bf) hpl
  have hw := wds_le (bf := bf) FL (sk bf len p) hs.2
  have hk7 := wix_le (bf := bf) (a := sk bf len p) (n := wds bf len FL (sk bf len p) - sk bf len p)
  unfold f_X7_readStatement stm
  dsimp only
  rw [t_rv, cl_eq (t_word hA hW (hg.bft hB) hg.2.2.2.2.2.2.2.1 hpl)]
  obtain ⟨a, ha⟩ : ∃ a, sk bf len p = a := ⟨_, rfl⟩
  rw [ha] at hs hw hk7 ⊢
  obtain ⟨b, hb⟩ : ∃ b, wds bf len FL a = b := ⟨_, rfl⟩
  rw [hb] at hw hk7 ⊢
  obtain ⟨k, hk⟩ : ∃ k, wix bf a (b - a) = k := ⟨_, rfl⟩
  rw [hk] at hk7 ⊢
  have hg1 := hg.pos (q := b) (b := a) hw.2
  unfold wnr
  by_cases c7 : k = 7
  · rw [if_pos c7, if_pos c7, if_neg (by decide), t_rv]
    obtain ⟨u1, u2⟩ := t_failW hA (k := 1) (a := a) (b := b) hg hw.2 (by decide) (by decide)
    rw [cl_eq (show f_X7_fails (some (A 0)) 1 _ = _ from u1), t_B53E u2]
    exact ⟨_, rfl, u2⟩
  · have h0 : (0 : Int32) ≤ Int32.ofNat k := by rw [i_le, of_i (by omega), show ((0 : Int32)).toInt = 0 from rfl]; omega
    rw [if_neg c7, if_neg c7, if_pos h0]
    have three : ∃ T' : TS, f_X7_readStatement_B48 (some (A 0)) (Int32.ofNat k) (tw A (x_sc (x_sc T 4 (Int32.ofNat b)) 5 (Int32.ofNat a)) h) = some ((), tw A T' h) ∧ TE (len := len) T0 T' 3 a := by
      unfold f_X7_readStatement_B48
      obtain ⟨u1, u2⟩ := t_failW hA (k := 3) (a := a) (b := b) hg hw.2 (by decide) (by decide)
      rw [t_rv, cl_eq (show f_X7_fails (some (A 0)) 3 _ = _ from u1), t_B53E u2]
      exact ⟨_, rfl, u2⟩
    by_cases k1 : k = 1
    · subst k1
      have a2 : q_rd (x_sc (x_sc T 4 (Int32.ofNat b)) 5 (Int32.ofNat a)) 2 = Int32.ofNat c.2.1.length := hg1.2.2.2.2.2.2.2.2.2.1 2 (by decide)
      have h6 := hg.2.2.2.2.2.2.2.2.2.2.2
      rw [if_pos (show Int32.ofNat 1 = 1 from rfl), t_rR, t_aR hA 2 2 rfl (by decide), a2]
      by_cases c6 : c.2.1.length = 6
      · rw [if_pos (by rw [c6]; rfl), if_pos (by rw [if_pos rfl, decide_eq_true_iff]; exact c6)]
        exact three
      · rw [if_neg (fun hy => c6 (by
          have := congrArg Int32.toInt hy
          rw [of_i (by omega), show ((6 : Int32)).toInt = 6 from rfl] at this
          omega)), if_neg (by rw [if_pos rfl, decide_eq_true_iff]; exact c6)]
        exact t_B53 hA hB (by decide) (fun _ => by omega) hg1
    · have hne : ¬ Int32.ofNat k = 1 := fun hy => k1 (by
        have := congrArg Int32.toInt hy
        rw [of_i (by omega), show ((1 : Int32)).toInt = 1 from rfl] at this
        omega)
      rw [if_neg hne, if_neg k1, t_gI (by decide), hg1.2.2.2.2.2.2.2.2.2.2.1]
      by_cases cm : c.2.2 k = true
      · rw [if_pos ((mtM_get (by omega)).mpr cm), if_pos cm]
        exact three
      · rw [if_neg (fun hy => cm ((mtM_get (by omega)).mp hy)), if_neg cm]
        exact t_B53 hA hB (by omega) (fun hy => absurd hy k1) hg1
end TLD
