/-! THE TWIN's row w against the spec -/
set_option maxRecDepth 100000
/-- the twin's kind of a message -/
def tk (k : Nat) : Nat := if k = 0 then 1 else if k = 1 then 5 else if k = 2 then 6 else if k = 3 then 2 else if k = 4 then 3 else if k = 5 then 4 else k + 1
def tTok (m : MG) : Int32 := if m.1 = 0 then 0 else if m.1 = 1 then m.2.2.2.2.1 else m.2.2.2.1
def tNum (m : MG) : Int32 := if m.1 = 0 ∨ m.1 = 1 then m.2.2.2.1 else m.2.2.2.2.1
/-- a node's number c -/
def tnd (nd : Nat → Int32) (c : Nat) : Int32 :=
  if c = 0 then nd 20 else if c = 1 then nd 21 else if c = 2 then nd 1 else if c = 3 then nd 2 else if c = 4 then nd 5 else if c = 5 then nd 3 else if c = 6 then nd 4 else if c = 7 then nd 6 else if c = 8 then nd 7
  else if c = 9 then (if nd 8 = -4 then -1 else nd 8) else if c = 10 then nd 10 else if c = 11 then nd 9 else nd (18 + c)
/-- the world's own numbers, but for the number of messages -/
def TWs (ex : Bool × Int32 × Int32) (S : SS) (w : Nat → Int32) : Prop :=
  w 0 = s_sc S 8 ∧ w 1 = s_sc S 9 ∧ w 2 = Int32.ofNat (s_n S) ∧ w 3 = s_cf S 0 ∧ w 4 = s_cf S 1 ∧ w 5 = s_cf S 3 ∧ w 6 = s_cf S 4 ∧ w 7 = s_cf S 5 ∧ w 8 = s_cf S 6 ∧ w 9 = s_cf S 7 ∧ w 10 = s_sc S 12 ∧ w 11 = s_sc S 13 ∧ w 12 = s_sc S 14 ∧ w 13 = s_sc S 15 ∧ w 14 = s_sc S 30 ∧
  w 16 = s_sc S 11 ∧ w 17 = s_sc S 16 ∧ w 18 = s_sc S 18 ∧ w 19 = s_sc S 19 ∧ w 21 = Int32.ofNat (s_dl S).length ∧ w 22 = Int32.ofNat (s_lg S).length ∧ w 23 = s_sc S 17 ∧ w 35 = Int32.ofNat (s_ou S).length ∧ w 33 = ex.2.1 ∧ w 34 = ex.2.2
def TWn (ex : Bool × Int32 × Int32) (S : SS) (w : Nat → Int32) : Prop := ∀ i c : Nat, i < s_n S → c < 20 → (c < 12 ∨ ex.1 = true) → w (40 + 20 * i + c) = tnd (s_nd S i) c
def TWa (ex : Bool × Int32 × Int32) (S : SS) (w : Nat → Int32) : Prop := (∀ k : Nat, k < 9 → w (24 + k) = s_ar S 2 k) ∧ (∀ r : Nat, r < 8 → w (168 + r) = s_ar S 1 r) ∧ ∀ r : Nat, ex.1 = true → r < 8 → w (160 + r) = s_ar S 0 r
def TWo (S : SS) (w : Nat → Int32) : Prop := (s_ou S).length ≤ 20 ∧ ∀ (k : Nat) (o : OG), (s_ou S)[k]? = some o → w (176 + 3 * k) = o.2.1 ∧ w (177 + 3 * k) = o.2.2 ∧ w (178 + 3 * k) = Int32.ofNat o.1
def TWd (S : SS) (w : Nat → Int32) : Prop := (s_dl S).length ≤ 20 ∧ ∀ (k : Nat) (d : DG), (s_dl S)[k]? = some d → w (236 + 5 * k) = d.2.2.2.2 ∧ w (237 + 5 * k) = Int32.ofNat d.1 ∧ w (238 + 5 * k) = d.2.1 ∧ w (239 + 5 * k) = Int32.ofNat d.2.2.1 ∧ w (240 + 5 * k) = d.2.2.2.1
def TWl (S : SS) (w : Nat → Int32) : Prop := (s_lg S).length ≤ 200 ∧ ∀ (k : Nat) (e : EG), (s_lg S)[k]? = some e → w (336 + 4 * k) = e.1 ∧ w (337 + 4 * k) = e.2.1 ∧ w (338 + 4 * k) = e.2.2.1 ∧ w (339 + 4 * k) = e.2.2.2
/-- all but the messages -/
def TWb (ex : Bool × Int32 × Int32) (S : SS) (w : Nat → Int32) : Prop := TWs ex S w ∧ TWn ex S w ∧ TWa ex S w ∧ TWo S w ∧ TWd S w ∧ TWl S w ∧ s_n S ≤ 6
/-- a message at the place k -/
def TWm (ex : Bool × Int32 × Int32) (k : Nat) (m : MG) (w : Nat → Int32) : Prop := w (1136 + 6 * k) = Int32.ofNat (tk m.1) ∧ w (1137 + 6 * k) = Int32.ofNat m.2.1 ∧ w (1138 + 6 * k) = m.2.2.2.2.2.2 ∧ w (1139 + 6 * k) = tTok m ∧ w (1140 + 6 * k) = tNum m ∧ (ex.1 = true → w (1141 + 6 * k) = m.2.2.2.2.2.1)
/-- the messages L in their places -/
def TM (ex : Bool × Int32 × Int32) (L : List MG) (w : Nat → Int32) : Prop := w 20 = Int32.ofNat L.length ∧ L.length ≤ 12000 ∧ ∀ (k : Nat) (m : MG), L[k]? = some m → TWm ex k m w
section TRL
variable {ex : Bool × Int32 × Int32} {S S' : SS} {w : Nat → Int32} {L : List MG}
/-- a number of the world's own is written -/
theorem TWb.own {p : Nat} {v : Int32} (h : TWb ex S w) (hp : p < 24 ∨ p = 35) (hs : TWs ex S' (upd w p v)) (hn : s_n S' = s_n S) (hnd : s_nd S' = s_nd S) (har : s_ar S' = s_ar S) (ho : s_ou S' = s_ou S) (hd : s_dl S' = s_dl S) (hl : s_lg S' = s_lg S) : TWb ex S' (upd w p v) := by
  obtain ⟨h1, h2, h3, h4, h5, h6, h7⟩ := h
  refine ⟨hs, fun i c hi hc he => ?_, ⟨fun k hk => ?_, fun r hr => ?_, fun r he hr => ?_⟩, ⟨by rw [ho]; exact h4.1, fun k o hk => ?_⟩, ⟨by rw [hd]; exact h5.1, fun k d hk => ?_⟩, ⟨by rw [hl]; exact h6.1, fun k e hk => ?_⟩, by rw [hn]; exact h7⟩
  · rw [hnd, upd_ne (by omega)]; exact h2 i c (by rw [← hn]; exact hi) hc he
  · rw [har, upd_ne (by omega)]; exact h3.1 k hk
  · rw [har, upd_ne (by omega)]; exact h3.2.1 r hr
  · rw [har, upd_ne (by omega)]; exact h3.2.2 r he hr
  · rw [ho] at hk; rw [upd_ne (by omega), upd_ne (by omega), upd_ne (by omega)]; exact h4.2 k o hk
  · rw [hd] at hk; rw [upd_ne (by omega), upd_ne (by omega), upd_ne (by omega), upd_ne (by omega), upd_ne (by omega)]; exact h5.2 k d hk
  · rw [hl] at hk; rw [upd_ne (by omega), upd_ne (by omega), upd_ne (by omega), upd_ne (by omega)]; exact h6.2 k e hk
/-- the pairs (place, scalar) -/
def scM : List (Nat × Nat) := [(0, 8), (1, 9), (10, 12), (11, 13), (12, 14), (13, 15), (14, 30), (16, 11), (17, 16), (18, 18), (19, 19), (23, 17)]
theorem TWb.sc {p k : Nat} {v : Int32} (h : TWb ex S w) (hpk : (p, k) ∈ scM) : TWb ex (u_sc S k v) (upd w p v) := by
  have hs := h.1
  refine h.own (S' := u_sc S k v) ?_ ?_ rfl rfl rfl rfl rfl rfl
  · simp [scM] at hpk
    omega
  · unfold TWs at hs ⊢
    simp [scM] at hpk
    obtain ⟨a0, a1, a2, a3, a4, a5, a6, a7, a8, a9, a10, a11, a12, a13, a14, a15, a16, a17, a18, a19, a20, a21, a22, a23, a24⟩ := hs
    rcases hpk with ⟨rfl, rfl⟩ | ⟨rfl, rfl⟩ | ⟨rfl, rfl⟩ | ⟨rfl, rfl⟩ | ⟨rfl, rfl⟩ | ⟨rfl, rfl⟩ | ⟨rfl, rfl⟩ | ⟨rfl, rfl⟩ | ⟨rfl, rfl⟩ | ⟨rfl, rfl⟩ | ⟨rfl, rfl⟩ | ⟨rfl, rfl⟩ <;>
      exact ⟨by first | exact (upd_ne (by decide)).trans a0 | exact upd_eq, by first | exact (upd_ne (by decide)).trans a1 | exact upd_eq, by first | exact (upd_ne (by decide)).trans a2 | exact upd_eq, by first | exact (upd_ne (by decide)).trans a3 | exact upd_eq, by first | exact (upd_ne (by decide)).trans a4 | exact upd_eq, by first | exact (upd_ne (by decide)).trans a5 | exact upd_eq, by first | exact (upd_ne (by decide)).trans a6 | exact upd_eq, by first | exact (upd_ne (by decide)).trans a7 | exact upd_eq, by first | exact (upd_ne (by decide)).trans a8 | exact upd_eq, by first | exact (upd_ne (by decide)).trans a9 | exact upd_eq, by first | exact (upd_ne (by decide)).trans a10 | exact upd_eq, by first | exact (upd_ne (by decide)).trans a11 | exact upd_eq, by first | exact (upd_ne (by decide)).trans a12 | exact upd_eq, by first | exact (upd_ne (by decide)).trans a13 | exact upd_eq, by first | exact (upd_ne (by decide)).trans a14 | exact upd_eq, by first | exact (upd_ne (by decide)).trans a15 | exact upd_eq, by first | exact (upd_ne (by decide)).trans a16 | exact upd_eq, by first | exact (upd_ne (by decide)).trans a17 | exact upd_eq, by first | exact (upd_ne (by decide)).trans a18 | exact upd_eq, by first | exact (upd_ne (by decide)).trans a19 | exact upd_eq, by first | exact (upd_ne (by decide)).trans a20 | exact upd_eq, by first | exact (upd_ne (by decide)).trans a21 | exact upd_eq, by first | exact (upd_ne (by decide)).trans a22 | exact upd_eq, by first | exact (upd_ne (by decide)).trans a23 | exact upd_eq, by first | exact (upd_ne (by decide)).trans a24 | exact upd_eq⟩
theorem TWb.sc0 {k : Nat} {v : Int32} (h : TWb ex S w) (hk : k = 10 ∨ k = 20 ∨ k = 21) : TWb ex (u_sc S k v) w := by
  obtain ⟨h1, h2⟩ := h
  refine ⟨?_, h2⟩
  unfold TWs at h1 ⊢
  rcases hk with rfl | rfl | rfl <;> simpa [fu, u_sc, s_sc, s_cf, s_n, s_dl, s_lg, s_ou] using h1
theorem TWb.run {p : Nat} {v : Int32} (h : TWb ex S w) (hp : p = 20 ∨ p = 20) : TWb ex S (upd w p v) := by
  have hs := h.1
  have hp' : p = 20 := by omega
  subst hp'
  refine h.own (S' := S) (by omega) ?_ rfl rfl rfl rfl rfl rfl
  unfold TWs at hs ⊢
  obtain ⟨a0, a1, a2, a3, a4, a5, a6, a7, a8, a9, a10, a11, a12, a13, a14, a15, a16, a17, a18, a19, a20, a21, a22, a23, a24⟩ := hs
  exact ⟨by first | exact (upd_ne (by decide)).trans a0 | exact upd_eq, by first | exact (upd_ne (by decide)).trans a1 | exact upd_eq, by first | exact (upd_ne (by decide)).trans a2 | exact upd_eq, by first | exact (upd_ne (by decide)).trans a3 | exact upd_eq, by first | exact (upd_ne (by decide)).trans a4 | exact upd_eq, by first | exact (upd_ne (by decide)).trans a5 | exact upd_eq, by first | exact (upd_ne (by decide)).trans a6 | exact upd_eq, by first | exact (upd_ne (by decide)).trans a7 | exact upd_eq, by first | exact (upd_ne (by decide)).trans a8 | exact upd_eq, by first | exact (upd_ne (by decide)).trans a9 | exact upd_eq, by first | exact (upd_ne (by decide)).trans a10 | exact upd_eq, by first | exact (upd_ne (by decide)).trans a11 | exact upd_eq, by first | exact (upd_ne (by decide)).trans a12 | exact upd_eq, by first | exact (upd_ne (by decide)).trans a13 | exact upd_eq, by first | exact (upd_ne (by decide)).trans a14 | exact upd_eq, by first | exact (upd_ne (by decide)).trans a15 | exact upd_eq, by first | exact (upd_ne (by decide)).trans a16 | exact upd_eq, by first | exact (upd_ne (by decide)).trans a17 | exact upd_eq, by first | exact (upd_ne (by decide)).trans a18 | exact upd_eq, by first | exact (upd_ne (by decide)).trans a19 | exact upd_eq, by first | exact (upd_ne (by decide)).trans a20 | exact upd_eq, by first | exact (upd_ne (by decide)).trans a21 | exact upd_eq, by first | exact (upd_ne (by decide)).trans a22 | exact upd_eq, by first | exact (upd_ne (by decide)).trans a23 | exact upd_eq, by first | exact (upd_ne (by decide)).trans a24 | exact upd_eq⟩
/-- the run without a leader, the longest one -/
theorem TWb.rn {ex' : Bool × Int32 × Int32} (h : TWb ex S w) {v : Int32} (p : Nat) (hp : (p = 33 ∧ ex' = (ex.1, v, ex.2.2)) ∨ (p = 34 ∧ ex' = (ex.1, ex.2.1, v))) : TWb ex' S (upd w p v) := by
  obtain ⟨h1, h2, h3, h4, h5, h6, h7⟩ := h
  have e1 : ex'.1 = ex.1 := by rcases hp with ⟨-, e⟩ | ⟨-, e⟩ <;> rw [e]
  have hp2 : p = 33 ∨ p = 34 := by omega
  refine ⟨?_, fun i c hi hc he => ?_, ⟨fun k hk => ?_, fun r hr => ?_, fun r he hr => ?_⟩, ⟨h4.1, fun k o hk => ?_⟩, ⟨h5.1, fun k d hk => ?_⟩, ⟨h6.1, fun k e hk => ?_⟩, h7⟩
  · unfold TWs at h1 ⊢
    obtain ⟨a0, a1, a2, a3, a4, a5, a6, a7, a8, a9, a10, a11, a12, a13, a14, a15, a16, a17, a18, a19, a20, a21, a22, a23, a24⟩ := h1
    rcases hp with ⟨rfl, rfl⟩ | ⟨rfl, rfl⟩
    · exact ⟨by first | exact (upd_ne (by decide)).trans a0 | exact upd_eq, by first | exact (upd_ne (by decide)).trans a1 | exact upd_eq, by first | exact (upd_ne (by decide)).trans a2 | exact upd_eq, by first | exact (upd_ne (by decide)).trans a3 | exact upd_eq, by first | exact (upd_ne (by decide)).trans a4 | exact upd_eq, by first | exact (upd_ne (by decide)).trans a5 | exact upd_eq, by first | exact (upd_ne (by decide)).trans a6 | exact upd_eq, by first | exact (upd_ne (by decide)).trans a7 | exact upd_eq, by first | exact (upd_ne (by decide)).trans a8 | exact upd_eq, by first | exact (upd_ne (by decide)).trans a9 | exact upd_eq, by first | exact (upd_ne (by decide)).trans a10 | exact upd_eq, by first | exact (upd_ne (by decide)).trans a11 | exact upd_eq, by first | exact (upd_ne (by decide)).trans a12 | exact upd_eq, by first | exact (upd_ne (by decide)).trans a13 | exact upd_eq, by first | exact (upd_ne (by decide)).trans a14 | exact upd_eq, by first | exact (upd_ne (by decide)).trans a15 | exact upd_eq, by first | exact (upd_ne (by decide)).trans a16 | exact upd_eq, by first | exact (upd_ne (by decide)).trans a17 | exact upd_eq, by first | exact (upd_ne (by decide)).trans a18 | exact upd_eq, by first | exact (upd_ne (by decide)).trans a19 | exact upd_eq, by first | exact (upd_ne (by decide)).trans a20 | exact upd_eq, by first | exact (upd_ne (by decide)).trans a21 | exact upd_eq, by first | exact (upd_ne (by decide)).trans a22 | exact upd_eq, by first | exact (upd_ne (by decide)).trans a23 | exact upd_eq, by first | exact (upd_ne (by decide)).trans a24 | exact upd_eq⟩
    · exact ⟨by first | exact (upd_ne (by decide)).trans a0 | exact upd_eq, by first | exact (upd_ne (by decide)).trans a1 | exact upd_eq, by first | exact (upd_ne (by decide)).trans a2 | exact upd_eq, by first | exact (upd_ne (by decide)).trans a3 | exact upd_eq, by first | exact (upd_ne (by decide)).trans a4 | exact upd_eq, by first | exact (upd_ne (by decide)).trans a5 | exact upd_eq, by first | exact (upd_ne (by decide)).trans a6 | exact upd_eq, by first | exact (upd_ne (by decide)).trans a7 | exact upd_eq, by first | exact (upd_ne (by decide)).trans a8 | exact upd_eq, by first | exact (upd_ne (by decide)).trans a9 | exact upd_eq, by first | exact (upd_ne (by decide)).trans a10 | exact upd_eq, by first | exact (upd_ne (by decide)).trans a11 | exact upd_eq, by first | exact (upd_ne (by decide)).trans a12 | exact upd_eq, by first | exact (upd_ne (by decide)).trans a13 | exact upd_eq, by first | exact (upd_ne (by decide)).trans a14 | exact upd_eq, by first | exact (upd_ne (by decide)).trans a15 | exact upd_eq, by first | exact (upd_ne (by decide)).trans a16 | exact upd_eq, by first | exact (upd_ne (by decide)).trans a17 | exact upd_eq, by first | exact (upd_ne (by decide)).trans a18 | exact upd_eq, by first | exact (upd_ne (by decide)).trans a19 | exact upd_eq, by first | exact (upd_ne (by decide)).trans a20 | exact upd_eq, by first | exact (upd_ne (by decide)).trans a21 | exact upd_eq, by first | exact (upd_ne (by decide)).trans a22 | exact upd_eq, by first | exact (upd_ne (by decide)).trans a23 | exact upd_eq, by first | exact (upd_ne (by decide)).trans a24 | exact upd_eq⟩
  · rw [upd_ne (by omega)]; exact h2 i c hi hc (by rw [← e1]; exact he)
  · rw [upd_ne (by omega)]; exact h3.1 k hk
  · rw [upd_ne (by omega)]; exact h3.2.1 r hr
  · rw [upd_ne (by omega)]; exact h3.2.2 r (by rw [← e1]; exact he) hr
  · rw [upd_ne (by omega), upd_ne (by omega), upd_ne (by omega)]; exact h4.2 k o hk
  · rw [upd_ne (by omega), upd_ne (by omega), upd_ne (by omega), upd_ne (by omega), upd_ne (by omega)]; exact h5.2 k d hk
  · rw [upd_ne (by omega), upd_ne (by omega), upd_ne (by omega), upd_ne (by omega)]; exact h6.2 k e hk
/-- what the relation doesn't see -/
theorem TWb.gh {g : Nat → Nat} (h : TWb ex S w) : TWb ex (u_gh S g) w := h
theorem TWb.mk {c k : Nat} (h : TWb ex S w) : TWb ex (g_mk S c k) w := h
theorem TWb.add {c k : Nat} (h : TWb ex S w) : TWb ex (g_add S c k) w := h
theorem TWb.ms {l : List MG} (h : TWb ex S w) : TWb ex (u_ms S l) w := h
/-- a write among the messages, or past the lists -/
theorem TWb.hi {p : Nat} {v : Int32} (h : TWb ex S w) (hp : 1136 ≤ p) : TWb ex S (upd w p v) := by
  obtain ⟨h1, h2, h3, h4, h5, h6, h7⟩ := h
  refine ⟨?_, fun i c hi hc he => ?_, ⟨fun k hk => ?_, fun r hr => ?_, fun r he hr => ?_⟩, ⟨h4.1, fun k o hk => ?_⟩, ⟨h5.1, fun k d hk => ?_⟩, ⟨h6.1, fun k e hk => ?_⟩, h7⟩
  · unfold TWs at h1 ⊢
    have u : ∀ j : Nat, j < 40 → upd w p v j = w j := fun j hj => upd_ne (by omega)
    rw [u 0 (by decide), u 1 (by decide), u 2 (by decide), u 3 (by decide), u 4 (by decide), u 5 (by decide), u 6 (by decide), u 7 (by decide), u 8 (by decide), u 9 (by decide), u 10 (by decide), u 11 (by decide), u 12 (by decide), u 13 (by decide), u 14 (by decide), u 16 (by decide), u 17 (by decide), u 18 (by decide), u 19 (by decide), u 21 (by decide), u 22 (by decide), u 23 (by decide), u 35 (by decide), u 33 (by decide), u 34 (by decide)]
    exact h1
  · rw [upd_ne (by omega)]; exact h2 i c hi hc he
  · rw [upd_ne (by omega)]; exact h3.1 k hk
  · rw [upd_ne (by omega)]; exact h3.2.1 r hr
  · rw [upd_ne (by omega)]; exact h3.2.2 r he hr
  · have := (List.getElem?_eq_some_iff.mp hk).1
    have l4 : (s_ou S).length ≤ 20 := h4.1
    rw [upd_ne (by omega), upd_ne (by omega), upd_ne (by omega)]; exact h4.2 k o hk
  · have := (List.getElem?_eq_some_iff.mp hk).1
    have l4 : (s_dl S).length ≤ 20 := h5.1
    rw [upd_ne (by omega), upd_ne (by omega), upd_ne (by omega), upd_ne (by omega), upd_ne (by omega)]; exact h5.2 k d hk
  · have := (List.getElem?_eq_some_iff.mp hk).1
    have l4 : (s_lg S).length ≤ 200 := h6.1
    rw [upd_ne (by omega), upd_ne (by omega), upd_ne (by omega), upd_ne (by omega)]; exact h6.2 k e hk
/-- the place of a node's field -/
def ndP (k : Nat) : Nat := if k = 20 then 0 else if k = 21 then 1 else if k = 1 then 2 else if k = 2 then 3 else if k = 5 then 4 else if k = 3 then 5 else if k = 4 then 6 else if k = 6 then 7 else if k = 7 then 8 else if k = 8 then 9 else if k = 10 then 10 else if k = 9 then 11 else k - 18
/-- a node's number is written -/
theorem TWb.ndw {i c : Nat} {v : Int32} {f : Nat → Int32} (h : TWb ex S w) (hi : i < s_n S) (hc : c < 20) (hf : ∀ c' : Nat, c' < 20 → tnd f c' = if c' = c then v else tnd (s_nd S i) c') (hS : S' = (s_cf S, s_n S, fu (s_nd S) i f, S.2.2.2)) : TWb ex S' (upd w (40 + 20 * i + c) v) := by
  obtain ⟨h1, h2, h3, h4, h5, h6, h7⟩ := h
  have hn6 : i < 6 := by omega
  subst hS
  refine ⟨?_, fun j d hj hd he => ?_, ⟨fun k hk => ?_, fun r hr => ?_, fun r he hr => ?_⟩, ⟨h4.1, fun k o hk => ?_⟩, ⟨h5.1, fun k d hk => ?_⟩, ⟨h6.1, fun k e hk => ?_⟩, h7⟩
  · unfold TWs at h1 ⊢
    have u : ∀ j : Nat, j < 40 → upd w (40 + 20 * i + c) v j = w j := fun j hj => upd_ne (by omega)
    rw [u 0 (by decide), u 1 (by decide), u 2 (by decide), u 3 (by decide), u 4 (by decide), u 5 (by decide), u 6 (by decide), u 7 (by decide), u 8 (by decide), u 9 (by decide), u 10 (by decide), u 11 (by decide), u 12 (by decide), u 13 (by decide), u 14 (by decide), u 16 (by decide), u 17 (by decide), u 18 (by decide), u 19 (by decide), u 21 (by decide), u 22 (by decide), u 23 (by decide), u 35 (by decide), u 33 (by decide), u 34 (by decide)]
    exact h1
  · show upd w (40 + 20 * i + c) v (40 + 20 * j + d) = tnd (fu (s_nd S) i f j) d
    by_cases hji : j = i
    · subst hji
      rw [fu_eq, hf d hd]
      by_cases hdc : d = c
      · rw [if_pos hdc, hdc, upd_eq]
      · rw [if_neg hdc, upd_ne (by omega)]
        exact h2 j d hj hd he
    · rw [fu_ne hji, upd_ne (by omega)]
      exact h2 j d hj hd he
  · rw [upd_ne (by omega)]; exact h3.1 k hk
  · rw [upd_ne (by omega)]; exact h3.2.1 r hr
  · rw [upd_ne (by omega)]; exact h3.2.2 r he hr
  · rw [upd_ne (by omega), upd_ne (by omega), upd_ne (by omega)]; exact h4.2 k o hk
  · rw [upd_ne (by omega), upd_ne (by omega), upd_ne (by omega), upd_ne (by omega), upd_ne (by omega)]; exact h5.2 k d hk
  · rw [upd_ne (by omega), upd_ne (by omega), upd_ne (by omega), upd_ne (by omega)]; exact h6.2 k e hk
theorem tnd_hi {nd : Nat → Int32} {c : Nat} (h : 12 ≤ c) : tnd nd c = nd (18 + c) := by
  unfold tnd
  rw [if_neg (by omega), if_neg (by omega), if_neg (by omega), if_neg (by omega), if_neg (by omega), if_neg (by omega), if_neg (by omega), if_neg (by omega), if_neg (by omega), if_neg (by omega), if_neg (by omega), if_neg (by omega)]
theorem ndP_hi {k : Nat} (h : 30 ≤ k) : ndP k = k - 18 := by
  unfold ndP
  rw [if_neg (by omega), if_neg (by omega), if_neg (by omega), if_neg (by omega), if_neg (by omega), if_neg (by omega), if_neg (by omega), if_neg (by omega), if_neg (by omega), if_neg (by omega), if_neg (by omega), if_neg (by omega)]
theorem tnd_fu {nd : Nat → Int32} {k : Nat} {v : Int32} (hk : k ≠ 8 ∧ (k = 20 ∨ k = 21 ∨ (1 ≤ k ∧ k ≤ 10) ∨ (30 ≤ k ∧ k < 38))) : ∀ c : Nat, c < 20 → tnd (fu nd k v) c = if c = ndP k then v else tnd nd c := by
  intro c hc
  have hc' : c = 0 ∨ c = 1 ∨ c = 2 ∨ c = 3 ∨ c = 4 ∨ c = 5 ∨ c = 6 ∨ c = 7 ∨ c = 8 ∨ c = 9 ∨ c = 10 ∨ c = 11 ∨ 12 ≤ c := by omega
  by_cases h12 : 12 ≤ c
  · rw [tnd_hi h12, tnd_hi h12]
    by_cases hk3 : 30 ≤ k
    · rw [ndP_hi hk3]
      unfold fu
      by_cases hk4 : 18 + c = k
      · rw [if_pos hk4, if_pos (by omega)]
      · rw [if_neg hk4, if_neg (by omega)]
    · have hP : ndP k < 12 := by
        have hk' : k = 20 ∨ k = 21 ∨ k = 1 ∨ k = 2 ∨ k = 3 ∨ k = 4 ∨ k = 5 ∨ k = 6 ∨ k = 7 ∨ k = 9 ∨ k = 10 := by omega
        rcases hk' with rfl | rfl | rfl | rfl | rfl | rfl | rfl | rfl | rfl | rfl | rfl <;> decide
      rw [if_neg (by omega), fu_ne (by omega)]
  · have hk' : k = 20 ∨ k = 21 ∨ k = 1 ∨ k = 2 ∨ k = 3 ∨ k = 4 ∨ k = 5 ∨ k = 6 ∨ k = 7 ∨ k = 9 ∨ k = 10 ∨ 30 ≤ k := by omega
    have hc2 : c = 0 ∨ c = 1 ∨ c = 2 ∨ c = 3 ∨ c = 4 ∨ c = 5 ∨ c = 6 ∨ c = 7 ∨ c = 8 ∨ c = 9 ∨ c = 10 ∨ c = 11 := by omega
    rcases hk' with rfl | rfl | rfl | rfl | rfl | rfl | rfl | rfl | rfl | rfl | rfl | hk3
    all_goals first
      | (rcases hc2 with rfl | rfl | rfl | rfl | rfl | rfl | rfl | rfl | rfl | rfl | rfl | rfl <;> rfl)
      | (have hP : ndP k = k - 18 := by unfold ndP; rw [if_neg (by omega), if_neg (by omega), if_neg (by omega), if_neg (by omega), if_neg (by omega), if_neg (by omega), if_neg (by omega), if_neg (by omega), if_neg (by omega), if_neg (by omega), if_neg (by omega), if_neg (by omega)]
         rw [hP, if_neg (by omega)]
         have e : ∀ j : Nat, j < 30 → fu nd k v j = nd j := fun j hj => fu_ne (by omega)
         rcases hc2 with rfl | rfl | rfl | rfl | rfl | rfl | rfl | rfl | rfl | rfl | rfl | rfl <;> simp [tnd, e])
theorem TWb.nd {i k : Nat} {v : Int32} (h : TWb ex S w) (hi : i < s_n S) (hk : k ≠ 8 ∧ (k = 20 ∨ k = 21 ∨ (1 ≤ k ∧ k ≤ 10) ∨ (30 ≤ k ∧ k < 38))) : TWb ex (u_nd S i k v) (upd w (40 + 20 * i + ndP k) v) := by
  have hP : ndP k < 20 := by
    unfold ndP
    repeat' (split <;> try omega)
  exact h.ndw (f := fu (s_nd S i) k v) hi hP (tnd_fu hk) rfl
theorem TWb.tm {i : Nat} {v : Int32} (h : TWb ex S w) (hi : i < s_n S) : TWb ex (u_nd S i 8 v) (upd w (40 + 20 * i + 9) (if v = -4 then -1 else v)) := by
  refine h.ndw (f := fu (s_nd S i) 8 v) hi (by decide) (fun c hc => ?_) rfl
  by_cases h12 : 12 ≤ c
  · rw [if_neg (by omega)]
    unfold tnd
    rw [if_neg (by omega), if_neg (by omega), if_neg (by omega), if_neg (by omega), if_neg (by omega), if_neg (by omega), if_neg (by omega), if_neg (by omega), if_neg (by omega), if_neg (by omega), if_neg (by omega), if_neg (by omega)]
    rw [if_neg (by omega), if_neg (by omega), if_neg (by omega), if_neg (by omega), if_neg (by omega), if_neg (by omega), if_neg (by omega), if_neg (by omega), if_neg (by omega), if_neg (by omega), if_neg (by omega), if_neg (by omega)]
    exact fu_ne (by omega)
  · have hc2 : c = 0 ∨ c = 1 ∨ c = 2 ∨ c = 3 ∨ c = 4 ∨ c = 5 ∨ c = 6 ∨ c = 7 ∨ c = 8 ∨ c = 9 ∨ c = 10 ∨ c = 11 := by omega
    rcases hc2 with rfl | rfl | rfl | rfl | rfl | rfl | rfl | rfl | rfl | rfl | rfl | rfl <;> rfl
theorem TWb.n11 {i : Nat} {v : Int32} (h : TWb ex S w) : TWb ex (u_nd S i 11 v) w := by
  obtain ⟨h1, h2, h3⟩ := h
  refine ⟨h1, fun j c hj hc he => ?_, h3⟩
  rw [h2 j c hj hc he]
  show _ = tnd (fu (s_nd S) i (fu (s_nd S i) 11 v) j) c
  by_cases hji : j = i
  · subst hji
    rw [fu_eq]
    by_cases h12 : 12 ≤ c
    · unfold tnd
      rw [if_neg (by omega), if_neg (by omega), if_neg (by omega), if_neg (by omega), if_neg (by omega), if_neg (by omega), if_neg (by omega), if_neg (by omega), if_neg (by omega), if_neg (by omega), if_neg (by omega), if_neg (by omega)]
      rw [if_neg (by omega), if_neg (by omega), if_neg (by omega), if_neg (by omega), if_neg (by omega), if_neg (by omega), if_neg (by omega), if_neg (by omega), if_neg (by omega), if_neg (by omega), if_neg (by omega), if_neg (by omega)]
      exact (fu_ne (by omega)).symm
    · have hc2 : c = 0 ∨ c = 1 ∨ c = 2 ∨ c = 3 ∨ c = 4 ∨ c = 5 ∨ c = 6 ∨ c = 7 ∨ c = 8 ∨ c = 9 ∨ c = 10 ∨ c = 11 := by omega
      rcases hc2 with rfl | rfl | rfl | rfl | rfl | rfl | rfl | rfl | rfl | rfl | rfl | rfl <;> rfl
  · rw [fu_ne hji]
/-- an array's number is written -/
theorem TWb.ar {j k p : Nat} {v : Int32} (h : TWb ex S w) (hp : (j = 2 ∧ k < 9 ∧ p = 24 + k) ∨ (j = 1 ∧ k < 8 ∧ p = 168 + k) ∨ (j = 0 ∧ k < 8 ∧ p = 160 + k)) : TWb ex (u_ar S j k v) (upd w p v) := by
  obtain ⟨h1, h2, h3, h4, h5, h6, h7⟩ := h
  have pp : 24 ≤ p ∧ p < 33 ∨ 160 ≤ p ∧ p < 176 := by omega
  refine ⟨?_, fun i c hi hc he => ?_, ⟨fun k' hk => ?_, fun r hr => ?_, fun r he hr => ?_⟩, ⟨h4.1, fun k o hk => ?_⟩, ⟨h5.1, fun k d hk => ?_⟩, ⟨h6.1, fun k e hk => ?_⟩, h7⟩
  · unfold TWs at h1 ⊢
    have u : ∀ j : Nat, j < 24 ∨ (33 ≤ j ∧ j ≤ 35) → upd w p v j = w j := fun j hj => upd_ne (by omega)
    rw [u 0 (by decide), u 1 (by decide), u 2 (by decide), u 3 (by decide), u 4 (by decide), u 5 (by decide), u 6 (by decide), u 7 (by decide), u 8 (by decide), u 9 (by decide), u 10 (by decide), u 11 (by decide), u 12 (by decide), u 13 (by decide), u 14 (by decide), u 16 (by decide), u 17 (by decide), u 18 (by decide), u 19 (by decide), u 21 (by decide), u 22 (by decide), u 23 (by decide), u 35 (by decide), u 33 (by decide), u 34 (by decide)]
    exact h1
  · have hi' : i < s_n S := hi
    rw [upd_ne (by omega)]; exact h2 i c hi hc he
  · show _ = fu (s_ar S) j (fu (s_ar S j) k v) 2 k'
    by_cases hj : j = 2
    · subst hj
      rw [fu_eq]
      by_cases hkk : k' = k
      · subst hkk
        rw [fu_eq, show p = 24 + k' from by omega, upd_eq]
      · rw [fu_ne hkk, upd_ne (by omega)]; exact h3.1 k' hk
    · rw [fu_ne (Ne.symm hj), upd_ne (by omega)]; exact h3.1 k' hk
  · show _ = fu (s_ar S) j (fu (s_ar S j) k v) 1 r
    by_cases hj : j = 1
    · subst hj
      rw [fu_eq]
      by_cases hkk : r = k
      · subst hkk
        rw [fu_eq, show p = 168 + r from by omega, upd_eq]
      · rw [fu_ne hkk, upd_ne (by omega)]; exact h3.2.1 r hr
    · rw [fu_ne (Ne.symm hj), upd_ne (by omega)]; exact h3.2.1 r hr
  · show _ = fu (s_ar S) j (fu (s_ar S j) k v) 0 r
    by_cases hj : j = 0
    · subst hj
      rw [fu_eq]
      by_cases hkk : r = k
      · subst hkk
        rw [fu_eq, show p = 160 + r from by omega, upd_eq]
      · rw [fu_ne hkk, upd_ne (by omega)]; exact h3.2.2 r he hr
    · rw [fu_ne (Ne.symm hj), upd_ne (by omega)]; exact h3.2.2 r he hr
  · rw [upd_ne (by omega), upd_ne (by omega), upd_ne (by omega)]; exact h4.2 k o hk
  · rw [upd_ne (by omega), upd_ne (by omega), upd_ne (by omega), upd_ne (by omega), upd_ne (by omega)]; exact h5.2 k d hk
  · rw [upd_ne (by omega), upd_ne (by omega), upd_ne (by omega), upd_ne (by omega)]; exact h6.2 k e hk
-- messages
theorem TM.lo {p : Nat} {v : Int32} (h : TM ex L w) (hp : p < 1136) (hp2 : p ≠ 20) : TM ex L (upd w p v) := by
  refine ⟨by rw [upd_ne (Ne.symm hp2)]; exact h.1, h.2.1, fun k m hk => ?_⟩
  have hm := h.2.2 k m hk
  unfold TWm at hm ⊢
  rw [upd_ne (by omega), upd_ne (by omega), upd_ne (by omega), upd_ne (by omega), upd_ne (by omega), upd_ne (by omega)]
  exact hm
end TRL
