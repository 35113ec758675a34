/-! VALUES are of no account for what happens: erasing them commutes with every step -/
set_option maxRecDepth 100000
def erM (m : MG) : MG := (m.1, m.2.1, m.2.2.1, m.2.2.2.1, m.2.2.2.2.1, 0, m.2.2.2.2.2.2)
def erD (d : DG) : DG := (d.1, d.2.1, d.2.2.1, 0, d.2.2.2.2)
def erN (f : Nat → Int32) : Nat → Int32 := fun k => if 30 ≤ k ∧ k < 38 then 0 else f k
def erA (f : Nat → Nat → Int32) : Nat → Nat → Int32 := fun j => if j = 0 then (fun _ => 0) else f j
def er (S : SS) : SS := (s_cf S, s_n S, fun i => erN (s_nd S i), ((s_ms S).map erM, (s_dl S).map erD, s_ou S, s_lg S), erA (s_ar S), s_sc S, s_gh S)
section ERS
variable {S : SS}
theorem erN_lo {f : Nat → Int32} {k : Nat} (hk : k < 30) : erN f k = f k := if_neg (by omega)
theorem er_nd0 {i k : Nat} (hk : k < 30) : s_nd (er S) i k = s_nd S i k := erN_lo hk
theorem erN_fu {f : Nat → Int32} {k : Nat} {v : Int32} (hk : k < 30) : erN (fu f k v) = fu (erN f) k v := by
  funext j
  by_cases c : j = k
  · subst c
    rw [fu_eq]
    unfold erN
    rw [if_neg (by omega), fu_eq]
  · rw [fu_ne c]
    unfold erN
    rw [fu_ne c]
theorem erN_hi {f : Nat → Int32} {r : Nat} {v : Int32} (hr : r < 8) : erN (fu f (30 + r) v) = fu (erN f) (30 + r) 0 := by
  funext j
  by_cases c : j = 30 + r
  · subst c
    rw [fu_eq]
    unfold erN
    rw [if_pos (by omega)]
  · rw [fu_ne c]
    unfold erN
    rw [fu_ne c]
theorem er_fu {g : Nat → Nat → Int32} {i : Nat} {f : Nat → Int32} : (fun j => erN (fu g i f j)) = fu (fun j => erN (g j)) i (erN f) := by
  funext j
  by_cases c : j = i
  · subst c
    rw [fu_eq, fu_eq]
  · rw [fu_ne c, fu_ne c]
theorem er_nd {i k : Nat} {v : Int32} (hk : k < 30) : er (u_nd S i k v) = u_nd (er S) i k v := by
  show ((S.1, S.2.1, (fun j => erN (fu (s_nd S) i (fu (s_nd S i) k v) j)), _) : SS) = (S.1, S.2.1, fu (fun j => erN (s_nd S j)) i (fu (erN (s_nd S i)) k v), _)
  rw [er_fu, erN_fu hk]
  rfl
theorem er_ndc {i r : Nat} {v : Int32} (hr : r < 8) : er (u_nd S i (30 + r) v) = u_nd (er S) i (30 + r) 0 := by
  show ((S.1, S.2.1, (fun j => erN (fu (s_nd S) i (fu (s_nd S i) (30 + r) v) j)), _) : SS) = (S.1, S.2.1, fu (fun j => erN (s_nd S j)) i (fu (erN (s_nd S i)) (30 + r) 0), _)
  rw [er_fu, erN_hi hr]
  rfl
theorem er_sc {k : Nat} {v : Int32} : er (u_sc S k v) = u_sc (er S) k v := rfl
theorem er_gh {g : Nat → Nat} : er (u_gh S g) = u_gh (er S) g := rfl
theorem er_mk {c k : Nat} : er (g_mk S c k) = g_mk (er S) c k := rfl
theorem er_ga {c k : Nat} : er (g_add S c k) = g_add (er S) c k := rfl
theorem er_ms {l : List MG} : er (u_ms S l) = u_ms (er S) (l.map erM) := rfl
theorem er_dl {l : List DG} : er (u_dl S l) = u_dl (er S) (l.map erD) := rfl
theorem er_ou {l : List OG} : er (u_ou S l) = u_ou (er S) l := rfl
theorem er_lg {l : List EG} : er (u_lg S l) = u_lg (er S) l := rfl
theorem er_cfE : s_cf (er S) = s_cf S := rfl
theorem er_scE : s_sc (er S) = s_sc S := rfl
theorem er_now : now (er S) = now S := rfl
theorem er_msE : s_ms (er S) = (s_ms S).map erM := rfl
theorem er_ndAt {i : Nat} {x : Int32} : ndAt (er S) i x = ndAt S i x := by
  unfold ndAt
  rw [er_nd0 (show 20 < 30 by decide), er_nd0 (show 21 < 30 by decide)]
theorem er_ndRe {i : Nat} {x : Int32} : ndRe (er S) i x = ndRe S i x := by
  unfold ndRe
  rw [er_nd0 (show 20 < 30 by decide), er_nd0 (show 21 < 30 by decide)]
theorem er_srv : srvAt (er S) = srvAt S := by
  unfold srvAt
  rw [er_cfE, er_now]
theorem er_lim {x : Int32} : limitOf (er S) x = limitOf S x := by
  unfold limitOf
  rw [er_cfE]
theorem er_until {i : Nat} : until_ (er S) i = until_ S i := by
  unfold until_
  rw [er_nd0 (show 2 < 30 by decide), er_nd0 (show 6 < 30 by decide), er_nd0 (show 7 < 30 by decide), er_ndRe]
theorem er_pau {i : Nat} {x : Int32} : paused (er S) i x = paused S i x := by
  unfold paused
  rw [er_nd0 (show 2 < 30 by decide), er_nd0 (show 5 < 30 by decide)]
theorem sc_us2 {k : Nat} {v : Int32} : s_sc (u_sc S k v) = fu (s_sc S) k v := rfl
theorem er_idx {α β : Type} (f : α → β) : ∀ (l : List α) (k : Nat), (l.eraseIdx k).map f = (l.map f).eraseIdx k
  | [], _ => rfl
  | _ :: _, 0 => rfl
  | a :: l, k + 1 => by
    show f a :: (l.eraseIdx k).map f = f a :: (l.map f).eraseIdx k
    rw [er_idx f l k]
theorem er_ar {j k : Nat} {v : Int32} (hj : j ≠ 0) : er (u_ar S j k v) = u_ar (er S) j k v := by
  have e : erA (fu (s_ar S) j (fu (s_ar S j) k v)) = fu (erA (s_ar S)) j (fu (erA (s_ar S) j) k v) := by
    funext i
    by_cases c : i = j
    · subst c
      rw [fu_eq]
      unfold erA
      rw [if_neg hj, fu_eq, if_neg hj]
    · rw [fu_ne c]
      unfold erA
      rw [fu_ne c]
  show ((S.1, S.2.1, _, _, erA (fu (s_ar S) j (fu (s_ar S j) k v)), _) : SS) = (S.1, S.2.1, _, _, fu (erA (s_ar S)) j (fu (erA (s_ar S) j) k v), _)
  rw [e]
  rfl
theorem er_ar0 {k : Nat} {v : Int32} : er (u_ar S 0 k v) = u_ar (er S) 0 k 0 := by
  have e : erA (fu (s_ar S) 0 (fu (s_ar S 0) k v)) = fu (erA (s_ar S)) 0 (fu (erA (s_ar S) 0) k 0) := by
    funext i
    by_cases c : i = 0
    · subst c
      rw [fu_eq]
      unfold erA
      rw [if_pos rfl, if_pos rfl]
      funext x
      unfold fu
      split <;> rfl
    · rw [fu_ne c]
      unfold erA
      rw [fu_ne c]
  show ((S.1, S.2.1, _, _, erA (fu (s_ar S) 0 (fu (s_ar S 0) k v)), _) : SS) = (S.1, S.2.1, _, _, fu (erA (s_ar S)) 0 (fu (erA (s_ar S) 0) k 0), _)
  rw [e]
  rfl
theorem er_note {k : Nat} {n t : Int32} : er (note S k n t) = note (er S) k n t := by
  unfold note
  dsimp only
  have e : s_lg (er S) = s_lg S := rfl
  rw [e]
  by_cases c : (s_lg S).length = 200
  · rw [if_pos c, if_pos c, er_ar (by decide), er_lg, er_ga, er_mk, er_lg]
    rfl
  · rw [if_neg c, if_neg c, er_ar (by decide), er_lg, er_ga, er_mk]
    rfl
theorem er_send {k n l : Nat} {a b c : Int32} : er (send S k n l a b c) = send (er S) k n l a b 0 := by
  obtain ⟨x, hx⟩ : ∃ x, lcg (s_sc S 9) = x := ⟨_, rfl⟩
  obtain ⟨y, hy⟩ : ∃ y, now S + s_nd S n 1 + jit x (s_cf S 7) = y := ⟨_, rfl⟩
  unfold send
  dsimp only
  rw [er_nd0 (show 4 < 30 by decide), er_nd0 (show 1 < 30 by decide), er_now, er_scE, er_cfE, er_msE, List.length_map, hx, hy]
  by_cases c4 : s_nd S n 4 = 0
  · rw [if_pos c4, if_pos c4, er_ms, List.map_append, er_ga, er_mk, er_sc, er_sc, er_mk]
    rfl
  · rw [if_neg c4, if_neg c4, er_sc, er_sc, er_sc, er_mk]
theorem er_tm {i : Nat} {v : Int32} : er (setTimer S i v) = setTimer (er S) i v := by
  unfold setTimer
  rw [er_nd (by decide), er_ndRe, er_now]
theorem er_acquire {i : Nat} : er (acquire S i) = acquire (er S) i := by
  unfold acquire
  dsimp only
  rw [er_send, er_nd (by decide), er_ndAt, er_now, er_cfE, ← er_tm, er_nd0 (show 11 < 30 by decide)]
theorem er_watch {m : MG} {v : Int32} : er (watch S m v) = watch (er S) (erM m) v := rfl
theorem er_decide {m : MG} : er (decide_ S m) = decide_ (er S) (erM m) := by
  have e2 : (erM m).2.1 = m.2.1 := rfl
  have e3 : (erM m).2.2.2.1 = m.2.2.2.1 := rfl
  unfold decide_
  dsimp only
  rw [er_srv, er_scE, er_cfE, e2, e3]
  obtain ⟨b, hb⟩ : ∃ b, (s_sc S 12 != -4 && decide (srvAt S < s_sc S 13)) = b := ⟨_, rfl⟩
  rw [hb]
  obtain ⟨y, hy⟩ : ∃ y, srvAt S + s_cf S 3 = y := ⟨_, rfl⟩
  rw [hy]
  by_cases c : srvAt S < s_sc S 15 ∨ (b = true ∧ s_sc S 12 ≠ Int32.ofNat m.2.1)
  · rw [if_pos c, if_pos c, er_send, er_note]
  · rw [if_neg c, if_neg c, er_send]
    cases b with
    | true =>
      simp only [if_true]
      rw [er_note, er_sc, er_sc, sc_note2, sc_note2, sc_us2, sc_us2, sc_us2, sc_us2, er_scE]
    | false =>
      simp only [Bool.false_eq_true, if_false]
      rw [er_note, er_sc, er_sc, er_sc, sc_note2, sc_note2, sc_us2, sc_us2, sc_us2, sc_us2, sc_us2, sc_us2, er_scE]
theorem er_fence {m : MG} : er (fence S m) = fence (er S) (erM m) := by
  unfold fence
  rw [er_send, er_watch, er_note, er_mk]
  rfl
theorem er_atStorage {m : MG} : er (atStorage S m) = atStorage (er S) (erM m) := by
  have e1 : s_sc (er S) = s_sc S := rfl
  unfold atStorage
  dsimp only
  rw [e1]
  have e2 : (erM m).2.2.2.1 = m.2.2.2.1 := rfl
  have e3 : (erM m).1 = m.1 := rfl
  rw [e2, e3]
  by_cases c : s_sc S 30 ≤ m.2.2.2.1
  · rw [if_pos c, if_pos c]
    by_cases c5 : m.1 = 5
    · rw [if_pos c5, if_pos c5, er_send]
      rfl
    · rw [if_neg c5, if_neg c5, er_send, er_watch, er_note, er_ar (by decide), er_ar0]
      rfl
  · rw [if_neg c, if_neg c, er_fence]
theorem er_granted {m : MG} : er (granted S m) = granted (er S) (erM m) := by
  have e2 : (erM m).2.1 = m.2.1 := rfl
  have e3 : (erM m).2.2.2.2.1 = m.2.2.2.2.1 := rfl
  have e4 : (erM m).2.2.2.1 = m.2.2.2.1 := rfl
  unfold granted
  dsimp only
  rw [e2, e3, e4, er_nd0 (show 3 < 30 by decide), er_nd0 (show 6 < 30 by decide), er_lim, er_cfE]
  obtain ⟨y, hy⟩ : ∃ y, limitOf S m.2.2.2.1 = y := ⟨_, rfl⟩
  rw [hy]
  by_cases c : s_nd S m.2.1 3 = 0
  · rw [if_pos c, if_pos c, er_send]
  · rw [if_neg c, if_neg c]
    by_cases c2 : m.2.2.2.2.1 < s_nd S m.2.1 6
    · rw [if_pos c2, if_pos c2]
    · rw [if_neg c2, if_neg c2, er_tm, er_nd (by decide)]
      by_cases c3 : s_nd S m.2.1 6 < m.2.2.2.2.1
      · simp only [if_pos c3]
        have e5 : u_nd (u_nd (u_nd (er S) m.2.1 9 0) m.2.1 6 m.2.2.2.2.1) m.2.1 7 y = er (u_nd (u_nd (u_nd S m.2.1 9 0) m.2.1 6 m.2.2.2.2.1) m.2.1 7 y) := by
          rw [er_nd (by decide), er_nd (by decide), er_nd (by decide)]
        rw [e5, er_nd0 (show 7 < 30 by decide)]
      · simp only [if_neg c3]
        rw [er_nd0 (show 7 < 30 by decide)]
theorem er_lose {i : Nat} : er (lose S i) = lose (er S) i := by
  unfold lose
  rw [er_nd (by decide), er_nd (by decide)]
theorem er_atNode {m : MG} (hr : 6 ≤ m.1 → m.1 ≠ 8 → m.2.2.2.2.1.toNatClampNeg < 8) (hk : m.1 = 1 ∨ m.1 = 2 ∨ 6 ≤ m.1) : er (atNode S m) = atNode (er S) (erM m) := by
  have e1 : (erM m).1 = m.1 := rfl
  have e2 : (erM m).2.1 = m.2.1 := rfl
  have e3 : (erM m).2.2.2.2.1 = m.2.2.2.2.1 := rfl
  have e4 : (erM m).2.2.2.1 = m.2.2.2.1 := rfl
  unfold atNode
  dsimp only
  rw [e1, e2, e3, e4, er_nd0 (show 3 < 30 by decide), er_nd0 (show 6 < 30 by decide), er_nd0 (show 9 < 30 by decide)]
  by_cases c1 : m.1 = 1
  · rw [if_pos c1, if_pos c1, er_granted]
  · rw [if_neg c1, if_neg c1]
    by_cases c2 : m.1 = 2
    · rw [if_pos c2, if_pos c2]
      by_cases c : s_nd S m.2.1 3 = 0
      · rw [if_pos c, if_pos c]
      · rw [if_neg c, if_neg c, er_tm]
        rfl
    · rw [if_neg c2, if_neg c2]
      by_cases c8 : m.1 = 8
      · rw [if_pos c8, if_pos c8]
        by_cases c : s_nd S m.2.1 6 = m.2.2.2.1
        · rw [if_pos c, if_pos c, er_lose]
        · rw [if_neg c, if_neg c]
      · rw [if_neg c8, if_neg c8]
        by_cases c : s_nd S m.2.1 6 = m.2.2.2.1
        · rw [if_pos c, if_pos c, er_ndc (hr (by omega) c8), er_nd (by decide)]
          rfl
        · rw [if_neg c, if_neg c]
theorem er_release {m : MG} : er (release S m) = release (er S) (erM m) := by
  have e1 : s_sc (er S) = s_sc S := rfl
  have e2 : (erM m).2.1 = m.2.1 := rfl
  have e4 : (erM m).2.2.2.1 = m.2.2.2.1 := rfl
  unfold release
  rw [e1, e2, e4]
  by_cases c : m.2.2.2.1 = s_sc S 14
  · rw [if_pos c, if_pos c]
    by_cases c2 : s_sc S 12 = -4
    · rw [if_pos c2, if_pos c2]
      rfl
    · rw [if_neg c2, if_neg c2, er_sc, er_note]
  · rw [if_neg c, if_neg c]
theorem mOK_reg {n : Nat} {m : MG} (hm : mOK n m) (h1 : 4 ≤ m.1) (h2 : m.1 ≤ 7) : m.2.2.2.2.1.toNatClampNeg < 8 := by
  obtain ⟨r, hr, e⟩ := hm.2.2 ⟨h1, h2⟩
  rw [e, clamp9 (by omega)]
  exact hr
theorem er_handle {n : Nat} {m : MG} (hm : mOK n m) : er (handle S m) = handle (er S) (erM m) := by
  have e1 : (erM m).1 = m.1 := rfl
  unfold handle
  rw [e1]
  by_cases c0 : m.1 = 0
  · rw [if_pos c0, if_pos c0, er_decide]
  · rw [if_neg c0, if_neg c0]
    by_cases c3 : m.1 = 3
    · rw [if_pos c3, if_pos c3, er_release]
    · rw [if_neg c3, if_neg c3]
      by_cases c4 : m.1 = 4 ∨ m.1 = 5
      · rw [if_pos c4, if_pos c4, er_atStorage]
      · rw [if_neg c4, if_neg c4, er_atNode (fun h1 h2 => mOK_reg hm (by omega) (by have := hm.1; omega)) (by omega)]
theorem er_er {k : Nat} : er (u_ms S ((s_ms S).eraseIdx k)) = u_ms (er S) ((s_ms (er S)).eraseIdx k) := by
  rw [er_ms, er_msE, er_idx]
theorem er_arrive {n k : Nat} {m : MG} (hm : mOK n m) : er (arrive S k m) = arrive (er S) k (erM m) := by
  have e1 : (erM m).1 = m.1 := rfl
  have e2 : (erM m).2.1 = m.2.1 := rfl
  have f1 : (erM m).2.2.1 = m.2.2.1 := rfl
  have f2 : (erM m).2.2.2.1 = m.2.2.2.1 := rfl
  have f3 : (erM m).2.2.2.2.1 = m.2.2.2.2.1 := rfl
  have f4 : (erM m).2.2.2.2.2.1 = 0 := rfl
  unfold arrive
  dsimp only
  rw [e1, e2, er_pau, er_now, er_scE, er_nd0 (show 4 < 30 by decide), er_nd0 (show 2 < 30 by decide), er_nd0 (show 5 < 30 by decide)]
  by_cases c : s_nd S m.2.1 4 ≠ 0 ∨ (toNode m.1 = true ∧ s_nd S m.2.1 2 = 0)
  · rw [if_pos c, if_pos c, er_watch, er_sc, er_er]
  · rw [if_neg c, if_neg c]
    by_cases c2 : toNode m.1 = true ∧ paused S m.2.1 (now S) = true
    · have q1 : s_ms (u_ms S ((s_ms S).eraseIdx k)) = (s_ms S).eraseIdx k := rfl
      have q2 : s_ms (u_ms (er S) ((s_ms (er S)).eraseIdx k)) = (s_ms (er S)).eraseIdx k := rfl
      have el2 : ((s_ms (er S)).eraseIdx k).length = ((s_ms S).eraseIdx k).length := by
        rw [er_msE, ← er_idx, List.length_map]
      rw [if_pos c2, if_pos c2, er_ms, List.map_append, er_ga, er_mk, er_er, q1, q2, el2, er_idx, er_msE, f1, f2, f3, f4]
      rfl
    · rw [if_neg c2, if_neg c2, er_handle hm, er_er]
theorem er_fmGo : ∀ (l : List MG) (k : Nat) (acc : Option (Nat × MG)), fmGo (l.map erM) k (acc.map fun q => (q.1, erM q.2)) = (fmGo l k acc).map fun q => (q.1, erM q.2) := by
  intro l
  induction l with
  | nil => intro k acc; rfl
  | cons m l ih =>
    intro k acc
    cases acc with
    | none => exact ih (k + 1) (some (k, m))
    | some f =>
      show fmGo (l.map erM) (k + 1) (if bef (erM m) (erM f.2) then some (k, erM m) else some (f.1, erM f.2)) = (fmGo l (k + 1) (if bef m f.2 then some (k, m) else some f)).map _
      have e : bef (erM m) (erM f.2) = bef m f.2 := rfl
      rw [e]
      cases bef m f.2 with
      | true => exact ih (k + 1) (some (k, m))
      | false => exact ih (k + 1) (some f)
theorem er_fmsg : fmsg (s_ms (er S)) = (fmsg (s_ms S)).map fun q => (q.1, erM q.2) := er_fmGo (s_ms S) 0 none
theorem er_msgs : ∀ (n : Nat) (S : SS), BI S → er (msgsNow n S) = msgsNow n (er S) := by
  intro n
  induction n with
  | zero => intro S _; rfl
  | succ n ih =>
    intro S hI
    unfold msgsNow
    rw [er_fmsg]
    cases hq : fmsg (s_ms S) with
    | none => rfl
    | some q =>
      dsimp only [Option.map]
      have e1 : (erM q.2).2.2.2.2.2.2 = q.2.2.2.2.2.2.2 := rfl
      have e2 : now (er S) = now S := rfl
      rw [e1, e2]
      by_cases c : now S < q.2.2.2.2.2.2.2
      · rw [if_pos c, if_pos c]
      · rw [if_neg c, if_neg c]
        have hj : (s_ms S)[q.1]? = some q.2 := fmsg_mem hq
        have hm := hI.2.1 q.2 (List.mem_of_getElem? hj)
        rw [ih _ (BI_arrive hI hm), er_arrive hm]
theorem er_links : ∀ (n k : Nat) (S : SS), er (links n k S) = links n k (er S) := by
  intro n
  induction n with
  | zero => intro k S; rfl
  | succ n ih =>
    intro k S
    unfold links
    have e1 : s_ou (er S) = s_ou S := rfl
    have e2 : now (er S) = now S := rfl
    rw [e1, e2]
    cases (s_ou S)[k]? with
    | none => rfl
    | some o =>
      dsimp only
      by_cases c : o.2.1 = now S
      · simp only [if_pos c]
        have e3 : now (u_nd S o.1 4 1) = now S := rfl
        have e4 : now (u_nd (er S) o.1 4 1) = now S := rfl
        rw [e3, e4]
        by_cases c2 : o.2.2 = now S
        · rw [if_pos c2, if_pos c2, ih, er_ou, er_nd (by decide), er_nd (by decide)]
          rfl
        · rw [if_neg c2, if_neg c2, ih, er_nd (by decide)]
      · simp only [if_neg c]
        rw [e2]
        by_cases c2 : o.2.2 = now S
        · rw [if_pos c2, if_pos c2, ih, er_ou, er_nd (by decide)]
          rfl
        · rw [if_neg c2, if_neg c2, ih]
theorem er_del : ∀ (n k : Nat) (S : SS), er (delNow n k S) = delNow n k (er S) := by
  intro n
  induction n with
  | zero => intro k S; rfl
  | succ n ih =>
    intro k S
    unfold delNow
    have e1 : (s_dl (er S))[k]? = ((s_dl S)[k]?).map erD := by
      show ((s_dl S).map erD)[k]? = _
      rw [List.getElem?_map]
    have e2 : now (er S) = now S := rfl
    rw [e1, e2]
    cases (s_dl S)[k]? with
    | none => rfl
    | some d =>
      dsimp only [Option.map]
      have e3 : (erD d).2.2.2.2 = d.2.2.2.2 := rfl
      rw [e3]
      by_cases c : d.2.2.2.2 ≤ now S
      · rw [if_pos c, if_pos c, ih, er_send, er_dl]
        have e4 : ((s_dl S).eraseIdx k).map erD = (s_dl (er S)).eraseIdx k := by
          show _ = ((s_dl S).map erD).eraseIdx k
          rw [er_idx]
        rw [e4]
        rfl
      · rw [if_neg c, if_neg c, ih]
theorem er_tim {i : Nat} : er (timNd S i) = timNd (er S) i := by
  have e1 : due (er S) i = due S i := by
    unfold due
    rw [er_pau, er_now, er_nd0 (show 2 < 30 by decide), er_nd0 (show 8 < 30 by decide)]
  unfold timNd
  rw [e1, er_nd0 (show 3 < 30 by decide)]
  by_cases c : due S i = true
  · rw [if_pos c, if_pos c]
    by_cases c2 : s_nd S i 3 = 0
    · rw [if_pos c2, if_pos c2, er_nd (by decide)]
    · rw [if_neg c2, if_neg c2, er_acquire]
  · rw [if_neg c, if_neg c]
theorem er_tims : ∀ (l : List Nat) (S : SS), er (l.foldl timNd S) = l.foldl timNd (er S) := by
  intro l
  induction l with
  | nil => intro S; rfl
  | cons i l ih =>
    intro S
    rw [List.foldl_cons, List.foldl_cons, ih, er_tim]
theorem er_happen (hI : BI S) : er (happen S) = happen (er S) := by
  unfold happen changeLinks
  dsimp only
  have hI1 : BI (links ((s_ou S).length + 1) 0 S) := BI_links _ _ hI
  obtain ⟨S1, h1⟩ : ∃ S1, links ((s_ou S).length + 1) 0 S = S1 := ⟨_, rfl⟩
  have g1 := er_links ((s_ou S).length + 1) 0 S
  have eo : s_ou (er S) = s_ou S := rfl
  rw [h1] at hI1 g1 ⊢
  rw [eo, ← g1]
  have el : (s_ms (er S1)).length = (s_ms S1).length := List.length_map _
  rw [el, ← er_msgs _ S1 hI1]
  obtain ⟨S2, h2⟩ : ∃ S2, msgsNow (s_ms S1).length S1 = S2 := ⟨_, rfl⟩
  rw [h2]
  have el2 : (s_dl (er S2)).length = (s_dl S2).length := List.length_map _
  rw [el2, ← er_del, er_tims]
  rfl
theorem er_passNd {t : Int32} {q : SS × Int32 × Int32} {i : Nat} : passNd t (er q.1, q.2) i = (er (passNd t q i).1, (passNd t q i).2) := by
  have e2 : now (er q.1) = now q.1 := rfl
  obtain ⟨y, hy⟩ : ∃ y, mx (now q.1) (mn t (until_ q.1 i)) = y := ⟨_, rfl⟩
  unfold passNd
  dsimp only
  rw [er_until, e2, er_nd0 (show 10 < 30 by decide), ← er_nd (by decide), hy]
  split <;> rfl
theorem er_passL {t : Int32} : ∀ (l : List Nat) (q : SS × Int32 × Int32), l.foldl (passNd t) (er q.1, q.2) = (er (l.foldl (passNd t) q).1, (l.foldl (passNd t) q).2) := by
  intro l
  induction l with
  | nil => intro q; rfl
  | cons i l ih =>
    intro q
    rw [List.foldl_cons, List.foldl_cons, er_passNd, ih]
theorem er_pass {t : Int32} : er (pass S t) = pass (er S) t := by
  have g := er_passL (t := t) (List.range (s_n S)) (S, now S, now S)
  have g' : (List.range (s_n (er S))).foldl (passNd t) (er S, now (er S), now (er S)) = _ := g
  unfold pass
  dsimp only
  rw [g']
  rfl
theorem er_next : nextEvent (er S) = nextEvent S := by
  have e2 : ∀ x : Int32, (s_dl (er S)).foldl (fun x d => mn x d.2.2.2.2) x = (s_dl S).foldl (fun x d => mn x d.2.2.2.2) x := by
    intro x
    show ((s_dl S).map erD).foldl _ x = _
    rw [List.foldl_map]
    rfl
  have e3 : (fun (x : Int32) (i : Nat) => ndNext (er S) i x) = fun x i => ndNext S i x := by
    funext x i
    unfold ndNext
    rw [er_pau, er_now, er_nd0 (show 5 < 30 by decide), er_nd0 (show 2 < 30 by decide), er_nd0 (show 8 < 30 by decide)]
  have e4 : s_ou (er S) = s_ou S := rfl
  have e5 : s_n (er S) = s_n S := rfl
  unfold nextEvent
  dsimp only
  rw [er_fmsg, e3, e4, e5, er_now, e2]
  cases fmsg (s_ms S) <;> rfl
theorem er_step {t : Int32} (hI : BI S) : er (step S t) = step (er S) t := by
  by_cases c : t < nextEvent S
  · rw [step_pass c, step_pass (by rw [er_next]; exact c), er_pass]
  · rw [step_next c, step_next (S := er S) (t := t) (by rw [er_next]; exact c), er_next]
    have e : step (er S) (nextEvent S) = happen (pass (er S) (nextEvent S)) := by
      have := step_hap (S := er S)
      rw [er_next] at this
      exact this
    rw [e, ← er_pass, step_hap]
    exact er_happen (BI_pass hI)
theorem er_goOn : ∀ (n : Nat) (S : SS) (t : Int32), BI S → er (goOn n S t) = goOn n (er S) t := by
  intro n
  induction n with
  | zero => intro S t _; rfl
  | succ n ih =>
    intro S t hI
    by_cases c : t ≤ now S
    · rw [goOn_stop c, goOn_stop (show t ≤ now (er S) from c)]
    · rw [goOn_step c, goOn_step (show ¬ t ≤ now (er S) from c), ih _ t (BI_step hI), er_step hI]
theorem er_msB : ∀ (n : Nat) (S : SS) (t : Int32), BI S → (msB n S t ↔ msB n (er S) t) := by
  intro n
  induction n with
  | zero => intro S t _; exact Iff.rfl
  | succ n ih =>
    intro S t hI
    show (t < nextEvent S ∨ ((s_ms S).length ≤ 5999 ∧ msB n (step S t) t)) ↔ (t < nextEvent (er S) ∨ ((s_ms (er S)).length ≤ 5999 ∧ msB n (step (er S) t) t))
    have el : (s_ms (er S)).length = (s_ms S).length := List.length_map _
    rw [er_next, el, ← er_step hI, ih _ t (BI_step hI)]
end ERS
