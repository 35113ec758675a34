/-! THE TWIN: nextTime -/
set_option maxRecDepth 100000
/-- the twin's next time: as nextEvent, the messages in their places -/
def oEv (o : OG) (t : Int32) : Int32 := if o.2.1 ≤ t then o.2.2 else o.2.1
def NTs (S : SS) (L : List MG) : Int32 := (List.range (s_n S)).foldl (fun x i => ndNext S i x) ((s_ou S).foldl (fun x o => mn x (oEv o (now S))) ((s_dl S).foldl (fun x d => mn x d.2.2.2.2) (L.foldl (fun x m => mn x m.2.2.2.2.2.2) 2000000000)))
theorem drop_get {α : Type} {l : List α} {k : Nat} {x : α} (h : l[k]? = some x) : l.drop k = x :: l.drop (k + 1) := by
  have hk : k < l.length := (List.getElem?_eq_some_iff.mp h).1
  rw [List.drop_eq_getElem_cons hk]
  congr 1
  exact Option.some.inj ((List.getElem?_eq_getElem hk).symm.trans h)
section TNX
variable {A : Nat → Nat} {T : TS} {h : PH} {ex : Bool × Int32 × Int32} {S : SS} {L : List MG}
theorem t_nx4 (hA : TA A h) (hT : TWb ex S (q_w T)) (hN : ∀ i : Nat, i < s_n S → NI (s_nd S i)) (hW : iv (now S) 0 5000000) : ∀ (d i N : Nat) (x : Int32), i + d = s_n S → d < N → f_X7_nextTime_L143 N (some (A 0)) x (Int32.ofNat i) (tw A T h) = some (((List.range (s_n S)).drop i).foldl (fun x i => ndNext S i x) x, tw A T h) := by
  intro d
  have a2 : q_w T 2 = Int32.ofNat (s_n S) := hT.1.2.2.1
  have h6 := hT.2.2.2.2.2.2
  induction d with
  | zero =>
    intro i N x h1 h2
    cases N with
    | zero => omega
    | succ N =>
      unfold f_X7_nextTime_L143
      rw [t_rW, t_aW hA 2 2 rfl (by decide), a2, if_pos (by rw [of_le (by omega) (by omega)]; omega), List.drop_of_length_le (by simp; omega), List.foldl_nil]
  | succ d ih =>
    intro i N x h1 h2
    cases N with
    | zero => omega
    | succ N =>
      have hi : i < s_n S := by omega
      have hNi := hN i hi
      rw [range_drop hi, List.foldl_cons]
      unfold f_X7_nextTime_L143 f_X7_nextTime_B210
      have nx : Int32.ofNat i + 1 = Int32.ofNat (i + 1) := by rw [show (1 : Int32) = Int32.ofNat 1 from rfl, of_add]
      rw [t_rW, t_aW hA 2 2 rfl (by decide), a2, if_neg (fun hy => by rw [of_le (by omega) (by omega)] at hy; omega), t_rv, cl_eq (t_ofN hA hT 3 3 rfl hi (by decide)), show tnd (s_nd S i) 3 = s_nd S i 2 from rfl, nx]
      by_cases hu : s_nd S i 2 = 0
      · have hp : ¬ paused S i (now S) = true := by unfold paused; rw [hu]; simp
        rw [if_pos hu, ih (i + 1) N x (by omega) (by omega)]
        rw [show ndNext S i x = x from by unfold ndNext; rw [if_neg hp, if_pos hu]]
      · rw [if_neg hu, t_rv, cl_eq (t_isPaused hA hT hNi hW.1 hi)]
        by_cases hp : paused S i (now S) = true
        · rw [if_pos hp, if_neg (by decide), t_rv, cl_eq (t_ofN hA hT 4 4 rfl hi (by decide)), show tnd (s_nd S i) 4 = s_nd S i 5 from rfl, ih (i + 1) N _ (by omega) (by omega)]
          rw [show ndNext S i x = mn x (s_nd S i 5) from by unfold ndNext; rw [if_pos hp]]
          rfl
        · rw [if_neg hp, if_pos rfl, t_rv, cl_eq (t_ofN hA hT 9 9 rfl hi (by decide)), show tnd (s_nd S i) 9 = (if s_nd S i 8 = -4 then -1 else s_nd S i 8) from rfl]
          by_cases h8 : s_nd S i 8 = -4
          · rw [if_pos h8, if_pos rfl, ih (i + 1) N x (by omega) (by omega)]
            rw [show ndNext S i x = x from by unfold ndNext; rw [if_neg hp, if_neg hu, if_pos (by rw [h8]; decide)]]
          · have h8i : iv (s_nd S i 8) 0 20000000 := by rcases hNi.2.2.2.2.2.2.2.2.2.2.2 with e | e; exact absurd e h8; exact e
            have h8n : ¬ s_nd S i 8 = -1 := fun hx => by
              have : (s_nd S i 8).toInt = -1 := by rw [hx]; decide
              omega
            have h80 : ¬ s_nd S i 8 < 0 := fun hx => by
              rw [Int32.lt_iff_toInt_lt] at hx
              have : ((0 : Int32)).toInt = 0 := by decide
              omega
            rw [if_neg h8, if_neg h8n, t_rv, cl_eq (t_ofN hA hT 9 9 rfl hi (by decide)), show tnd (s_nd S i) 9 = (if s_nd S i 8 = -4 then -1 else s_nd S i 8) from rfl, if_neg h8, ih (i + 1) N _ (by omega) (by omega)]
            rw [show ndNext S i x = mn x (s_nd S i 8) from by unfold ndNext; rw [if_neg hp, if_neg hu, if_neg h80]]
            rfl
theorem t_nx3 (hA : TA A h) (hT : TWb ex S (q_w T)) (hN : ∀ i : Nat, i < s_n S → NI (s_nd S i)) (hW : iv (now S) 0 5000000) : ∀ (d k N : Nat) (x : Int32), k + d = (s_ou S).length → d < N → f_X7_nextTime_L80 N (some (A 0)) x (Int32.ofNat k) (tw A T h) = some ((List.range (s_n S)).foldl (fun x i => ndNext S i x) (((s_ou S).drop k).foldl (fun x o => mn x (oEv o (now S))) x), tw A T h) := by
  intro d
  have a35 : q_w T 35 = Int32.ofNat (s_ou S).length := hT.1.2.2.2.2.2.2.2.2.2.2.2.2.2.2.2.2.2.2.2.2.2.2.1
  have a0 : q_w T 0 = now S := hT.1.1
  have h20 : (s_ou S).length ≤ 20 := hT.2.2.2.1.1
  have h6 := hT.2.2.2.2.2.2
  induction d with
  | zero =>
    intro k N x h1 h2
    cases N with
    | zero => omega
    | succ N =>
      unfold f_X7_nextTime_L80
      rw [t_rW, t_aW hA 35 35 rfl (by decide), a35, if_pos (by rw [of_le (by omega) (by omega)]; omega), List.drop_of_length_le (by omega), List.foldl_nil]
      have := t_nx4 hA hT hN hW (s_n S) 0 FU x (by omega) (by unfold FU; omega)
      rw [List.drop_zero] at this
      exact this
  | succ d ih =>
    intro k N x h1 h2
    cases N with
    | zero => omega
    | succ N =>
      obtain ⟨o, ho⟩ : ∃ o, (s_ou S)[k]? = some o := ⟨_, List.getElem?_eq_getElem (by omega)⟩
      have hw := hT.2.2.2.1.2 k o ho
      have nx : Int32.ofNat k + 1 = Int32.ofNat (k + 1) := by rw [show (1 : Int32) = Int32.ofNat 1 from rfl, of_add]
      rw [drop_get ho, List.foldl_cons]
      unfold f_X7_nextTime_L80 f_X7_nextTime_B129
      rw [t_rW, t_aW hA 35 35 rfl (by decide), a35, if_neg (fun hy => by rw [of_le (by omega) (by omega)] at hy; omega), t_rW, t_rW, t_aW hA _ (176 + 3 * k) ix30 (by omega), hw.1, t_rW, t_aW hA 0 0 rfl (by decide), a0, nx]
      by_cases hf : o.2.1 ≤ now S
      · rw [if_pos hf, t_aW hA _ (176 + 3 * k + 1) (ix3 (x := 1) (c := 1) rfl) (by omega), show 176 + 3 * k + 1 = 177 + 3 * k from by omega, hw.2.1, ih (k + 1) N _ (by omega) (by omega)]
        rw [show oEv o (now S) = o.2.2 from by unfold oEv; rw [if_pos hf]]
        rfl
      · rw [if_neg hf, t_aW hA _ (176 + 3 * k + 0) (ix3 (x := 0) (c := 0) rfl) (by omega), Nat.add_zero, hw.1, ih (k + 1) N _ (by omega) (by omega)]
        rw [show oEv o (now S) = o.2.1 from by unfold oEv; rw [if_neg hf]]
        rfl
theorem t_nx2 (hA : TA A h) (hT : TWb ex S (q_w T)) (hN : ∀ i : Nat, i < s_n S → NI (s_nd S i)) (hW : iv (now S) 0 5000000) : ∀ (d k N : Nat) (x : Int32), k + d = (s_dl S).length → d < N → f_X7_nextTime_L44 N (some (A 0)) x (Int32.ofNat k) (tw A T h) = some ((List.range (s_n S)).foldl (fun x i => ndNext S i x) ((s_ou S).foldl (fun x o => mn x (oEv o (now S))) (((s_dl S).drop k).foldl (fun x d => mn x d.2.2.2.2) x)), tw A T h) := by
  intro d
  have a21 : q_w T 21 = Int32.ofNat (s_dl S).length := hT.1.2.2.2.2.2.2.2.2.2.2.2.2.2.2.2.2.2.2.2.1
  have h20 : (s_dl S).length ≤ 20 := hT.2.2.2.2.1.1
  have h20' : (s_ou S).length ≤ 20 := hT.2.2.2.1.1
  induction d with
  | zero =>
    intro k N x h1 h2
    cases N with
    | zero => omega
    | succ N =>
      unfold f_X7_nextTime_L44
      rw [t_rW, t_aW hA 21 21 rfl (by decide), a21, if_pos (by rw [of_le (by omega) (by omega)]; omega), List.drop_of_length_le (by omega), List.foldl_nil]
      have := t_nx3 hA hT hN hW (s_ou S).length 0 FU x (by omega) (by unfold FU; omega)
      rw [List.drop_zero] at this
      exact this
  | succ d ih =>
    intro k N x h1 h2
    cases N with
    | zero => omega
    | succ N =>
      obtain ⟨o, ho⟩ : ∃ o, (s_dl S)[k]? = some o := ⟨_, List.getElem?_eq_getElem (by omega)⟩
      have hw := hT.2.2.2.2.1.2 k o ho
      have nx : Int32.ofNat k + 1 = Int32.ofNat (k + 1) := by rw [show (1 : Int32) = Int32.ofNat 1 from rfl, of_add]
      rw [drop_get ho, List.foldl_cons]
      unfold f_X7_nextTime_L44
      rw [t_rW, t_aW hA 21 21 rfl (by decide), a21, if_neg (fun hy => by rw [of_le (by omega) (by omega)] at hy; omega), t_rW, t_aW hA _ (236 + 5 * k) ix50 (by omega), hw.1, nx, ih (k + 1) N _ (by omega) (by omega)]
      rfl
theorem t_nx1 (hA : TA A h) (hr : TR ex S (L.map some) (q_w T)) (hN : ∀ i : Nat, i < s_n S → NI (s_nd S i)) (hW : iv (now S) 0 5000000) : ∀ (d k N : Nat) (x : Int32), k + d = L.length → d < N → f_X7_nextTime_L5 N (some (A 0)) x (Int32.ofNat k) (tw A T h) = some ((List.range (s_n S)).foldl (fun x i => ndNext S i x) ((s_ou S).foldl (fun x o => mn x (oEv o (now S))) ((s_dl S).foldl (fun x d => mn x d.2.2.2.2) ((L.drop k).foldl (fun x m => mn x m.2.2.2.2.2.2) x))), tw A T h) := by
  intro d
  have a20 : q_w T 20 = Int32.ofNat L.length := by rw [hr.2.1.1, List.length_map]
  have hl : L.length ≤ 12000 := by have := hr.2.1.2.1; rw [List.length_map] at this; exact this
  have h20 : (s_dl S).length ≤ 20 := hr.1.2.2.2.2.1.1
  induction d with
  | zero =>
    intro k N x h1 h2
    cases N with
    | zero => omega
    | succ N =>
      unfold f_X7_nextTime_L5
      rw [t_rW, t_aW hA 20 20 rfl (by decide), a20, if_pos (by rw [of_le (by omega) (by omega)]; omega), List.drop_of_length_le (by omega), List.foldl_nil]
      have := t_nx2 hA hr.1 hN hW (s_dl S).length 0 FU x (by omega) (by unfold FU; omega)
      rw [List.drop_zero] at this
      exact this
  | succ d ih =>
    intro k N x h1 h2
    cases N with
    | zero => omega
    | succ N =>
      obtain ⟨m, hm⟩ : ∃ m, L[k]? = some m := ⟨_, List.getElem?_eq_getElem (by omega)⟩
      have hw := (hr.2.1.2.2 k).1 m (by rw [List.getElem?_map, hm]; rfl)
      have nx : Int32.ofNat k + 1 = Int32.ofNat (k + 1) := by rw [show (1 : Int32) = Int32.ofNat 1 from rfl, of_add]
      rw [drop_get hm, List.foldl_cons]
      unfold f_X7_nextTime_L5
      rw [t_rW, t_aW hA 20 20 rfl (by decide), a20, if_neg (fun hy => by rw [of_le (by omega) (by omega)] at hy; omega), t_rW, t_aW hA _ (1136 + 6 * k + 2) (ix6 (x := 2) (c := 2) rfl) (by omega), show 1136 + 6 * k + 2 = 1138 + 6 * k from by omega, hw.2.2.1, nx, ih (k + 1) N _ (by omega) (by omega)]
      rfl
/-- nextTime -/
theorem t_nextTime (hA : TA A h) (hr : TR ex S (L.map some) (q_w T)) (hN : ∀ i : Nat, i < s_n S → NI (s_nd S i)) (hW : iv (now S) 0 5000000) : f_X7_nextTime (some (A 0)) (tw A T h) = some (NTs S L, tw A T h) := by
  have hl : L.length ≤ 12000 := by have := hr.2.1.2.1; rw [List.length_map] at this; exact this
  unfold f_X7_nextTime
  have := t_nx1 hA hr hN hW L.length 0 FU 2000000000 (by omega) (by unfold FU; omega)
  rw [List.drop_zero] at this
  exact this
end TNX
/-- x is the least of P, or top -/
def MO (P : Int → Prop) (top x : Int) : Prop := (∀ t : Int, P t → x ≤ t) ∧ (x = top ∨ P x) ∧ x ≤ top
theorem MO.add {P : Int → Prop} {top x : Int} (h : MO P top x) (v : Int) : MO (fun t => P t ∨ t = v) top (min x v) := by
  obtain ⟨h1, h2, h3⟩ := h
  refine ⟨fun t ht => ?_, ?_, by omega⟩
  · rcases ht with ht | ht
    · have := h1 t ht
      omega
    · omega
  · by_cases hx : x ≤ v
    · rw [Int.min_eq_left hx]
      rcases h2 with h2 | h2
      · exact Or.inl h2
      · exact Or.inr (Or.inl h2)
    · rw [Int.min_eq_right (by omega)]
      exact Or.inr (Or.inr rfl)
theorem MO.cg {P Q : Int → Prop} {top x : Int} (h : MO P top x) (he : ∀ t : Int, P t ↔ Q t) : MO Q top x := ⟨fun t ht => h.1 t ((he t).mpr ht), by rcases h.2.1 with g | g; exact Or.inl g; exact Or.inr ((he x).mp g), h.2.2⟩
theorem MO.fold {α : Type} {top : Int} {f : α → Int32} : ∀ (l : List α) (P : Int → Prop) (x : Int32), MO P top x.toInt → MO (fun t => P t ∨ ∃ a ∈ l, (f a).toInt = t) top (l.foldl (fun x a => mn x (f a)) x).toInt := by
  intro l
  induction l with
  | nil =>
    intro P x h
    exact h.cg (fun t => by simp)
  | cons a l ih =>
    intro P x h
    rw [List.foldl_cons]
    have h1 := h.add (f a).toInt
    rw [← mn_i] at h1
    refine (ih _ _ h1).cg (fun t => ?_)
    constructor
    · rintro ((h | h) | ⟨b, hb, h⟩)
      · exact Or.inl h
      · exact Or.inr ⟨a, by simp, h.symm⟩
      · exact Or.inr ⟨b, by simp [hb], h⟩
    · rintro (h | ⟨b, hb, h⟩)
      · exact Or.inl (Or.inl h)
      · rcases List.mem_cons.mp hb with e | e
        · subst e
          exact Or.inl (Or.inr h.symm)
        · exact Or.inr ⟨b, e, h⟩
/-- a node's next time, if it has one -/
def evN (S : SS) (i : Nat) (t : Int) : Prop := (paused S i (now S) = true ∧ (s_nd S i 5).toInt = t) ∨ (¬ paused S i (now S) = true ∧ s_nd S i 2 ≠ 0 ∧ ¬ s_nd S i 8 < 0 ∧ (s_nd S i 8).toInt = t)
theorem MO.nodes {top : Int} {S : SS} : ∀ (l : List Nat) (P : Int → Prop) (x : Int32), MO P top x.toInt → MO (fun t => P t ∨ ∃ i ∈ l, evN S i t) top (l.foldl (fun x i => ndNext S i x) x).toInt := by
  intro l
  induction l with
  | nil =>
    intro P x h
    exact h.cg (fun t => by simp)
  | cons a l ih =>
    intro P x h
    rw [List.foldl_cons]
    have h1 : MO (fun t => P t ∨ evN S a t) top (ndNext S a x).toInt := by
      unfold ndNext
      by_cases hp : paused S a (now S) = true
      · rw [if_pos hp, mn_i]
        refine (h.add _).cg (fun t => ?_)
        constructor
        · rintro (g | g)
          · exact Or.inl g
          · exact Or.inr (Or.inl ⟨hp, g.symm⟩)
        · rintro (g | g)
          · exact Or.inl g
          · rcases g with g | g
            · exact Or.inr g.2.symm
            · exact absurd hp g.1
      · rw [if_neg hp]
        by_cases h2 : s_nd S a 2 = 0
        · rw [if_pos h2]
          refine h.cg (fun t => ⟨Or.inl, fun g => ?_⟩)
          rcases g with g | g | g
          · exact g
          · exact absurd g.1 hp
          · exact absurd h2 g.2.1
        · rw [if_neg h2]
          by_cases h8 : s_nd S a 8 < 0
          · rw [if_pos h8]
            refine h.cg (fun t => ⟨Or.inl, fun g => ?_⟩)
            rcases g with g | g | g
            · exact g
            · exact absurd g.1 hp
            · exact absurd h8 g.2.2.1
          · rw [if_neg h8, mn_i]
            refine (h.add _).cg (fun t => ?_)
            constructor
            · rintro (g | g)
              · exact Or.inl g
              · exact Or.inr (Or.inr ⟨hp, h2, h8, g.symm⟩)
            · rintro (g | g)
              · exact Or.inl g
              · rcases g with g | g
                · exact absurd g.1 hp
                · exact Or.inr g.2.2.2.symm
    refine (ih _ _ h1).cg (fun t => ?_)
    constructor
    · rintro ((h | h) | ⟨b, hb, h⟩)
      · exact Or.inl h
      · exact Or.inr ⟨a, by simp, h⟩
      · exact Or.inr ⟨b, by simp [hb], h⟩
    · rintro (h | ⟨b, hb, h⟩)
      · exact Or.inl (Or.inl h)
      · rcases List.mem_cons.mp hb with e | e
        · subst e
          exact Or.inl (Or.inr h)
        · exact Or.inr ⟨b, e, h⟩
/-- the times of what comes -/
def EV (S : SS) (t : Int) : Prop := (((False ∨ ∃ m ∈ s_ms S, tmJ m = t) ∨ ∃ d ∈ s_dl S, d.2.2.2.2.toInt = t) ∨ ∃ o ∈ s_ou S, (oNext o (now S)).toInt = t) ∨ ∃ i ∈ List.range (s_n S), evN S i t
theorem MO_nextEvent {S : SS} : MO (EV S) 2147483647 (nextEvent S).toInt := by
  unfold nextEvent
  dsimp only
  refine MO.nodes (List.range (s_n S)) _ _ (MO.fold (f := fun o => oNext o (now S)) (s_ou S) _ _ (MO.fold (f := fun d : DG => d.2.2.2.2) (s_dl S) _ _ ?_))
  have kM : ((2147483647 : Int32)).toInt = 2147483647 := by decide
  cases hf : fmsg (s_ms S) with
  | none =>
    dsimp only
    rw [fmsg_none hf, kM]
    exact ⟨fun t ht => by rcases ht with ht | ⟨m, hm, _⟩; exact absurd ht id; simp at hm, Or.inl rfl, Int.le_refl _⟩
  | some q =>
    obtain ⟨k, m⟩ := q
    dsimp only
    have hmem := List.mem_of_getElem? (fmsg_mem hf)
    refine ⟨fun t ht => ?_, Or.inr (Or.inr ⟨m, hmem, rfl⟩), ?_⟩
    · rcases ht with ht | ⟨q, hq, e⟩
      · exact absurd ht id
      · have := fmsg_min hf q hq
        show tmJ m ≤ t
        unfold nlt at this
        omega
    · have := Int32.toInt_lt m.2.2.2.2.2.2
      omega
theorem MO_NTs {S : SS} {L : List MG} (hp : L.Perm (s_ms S)) (ho : ∀ o ∈ s_ou S, (now S).toInt < o.2.2.toInt) : MO (EV S) 2000000000 (NTs S L).toInt := by
  unfold NTs
  have k2 : ((2000000000 : Int32)).toInt = 2000000000 := by decide
  have h0 : MO (fun t => False ∨ ∃ m ∈ L, m.2.2.2.2.2.2.toInt = t) 2000000000 (L.foldl (fun x m => mn x m.2.2.2.2.2.2) 2000000000).toInt := MO.fold (f := fun m : MG => m.2.2.2.2.2.2) L (fun _ => False) 2000000000 ⟨fun t ht => absurd ht id, Or.inl k2, by rw [k2]; exact Int.le_refl _⟩
  have h1 := MO.fold (f := fun d : DG => d.2.2.2.2) (s_dl S) _ _ h0
  have h2 := MO.fold (f := fun o : OG => oEv o (now S)) (s_ou S) _ _ h1
  have h3 := MO.nodes (S := S) (List.range (s_n S)) _ _ h2
  refine h3.cg (fun t => ?_)
  have e1 : (∃ m ∈ L, m.2.2.2.2.2.2.toInt = t) ↔ ∃ m ∈ s_ms S, tmJ m = t := by
    constructor
    · rintro ⟨m, hm, e⟩
      exact ⟨m, hp.mem_iff.mp hm, e⟩
    · rintro ⟨m, hm, e⟩
      exact ⟨m, hp.mem_iff.mpr hm, e⟩
  have e2 : (∃ o ∈ s_ou S, (oEv o (now S)).toInt = t) ↔ ∃ o ∈ s_ou S, (oNext o (now S)).toInt = t := by
    have : ∀ o ∈ s_ou S, oEv o (now S) = oNext o (now S) := by
      intro o hoo
      unfold oEv oNext
      by_cases hf : o.2.1 ≤ now S
      · rw [if_pos hf, if_pos hf, if_neg (fun hx => by
          rw [Int32.le_iff_toInt_le] at hx
          have := ho o hoo
          omega)]
      · rw [if_neg hf, if_neg hf]
    constructor
    · rintro ⟨o, hoo, e⟩
      exact ⟨o, hoo, by rw [← this o hoo]; exact e⟩
    · rintro ⟨o, hoo, e⟩
      exact ⟨o, hoo, by rw [this o hoo]; exact e⟩
  unfold EV
  rw [e1, e2]
/-- all that comes, comes later, and before long -/
theorem EV_b {S : SS} (h : Inv S) (hR : Rest S) {t : Int} (ht : EV S t) : (now S).toInt < t ∧ t ≤ 20000000 := by
  rcases ht with (((g | ⟨m, hm, e⟩) | ⟨d, hd, e⟩) | ⟨o, ho, e⟩) | ⟨i, hi, e⟩
  · exact absurd g id
  · have h1 := hR.1 m hm
    have h2 := (h.2.2.2.2.1 m hm).2.2.2.2.2
    have e' : m.2.2.2.2.2.2.toInt = t := e
    omega
  · have h1 := hR.2.2.1 d hd
    have h2 := (h.2.2.2.2.2.2.2.1 d hd).2.2.2
    omega
  · have h1 := hR.2.1 o ho
    have h2 := h.2.2.2.2.2.2.1 o ho
    unfold oNext at e
    by_cases hf : o.2.1 ≤ now S
    · rw [if_pos hf, if_neg (fun hx => by rw [Int32.le_iff_toInt_le] at hx; omega)] at e
      have := h2.2.2.1.2
      omega
    · rw [if_neg hf] at e
      rw [Int32.le_iff_toInt_le] at hf
      have := h2.2.1.2
      omega
  · have hi' : i < s_n S := List.mem_range.mp hi
    have hN := h.2.1 i hi'
    rcases e with ⟨hp, e⟩ | ⟨hp, h2, h8, e⟩
    · unfold paused at hp
      have := (Bool.and_eq_true _ _ ▸ hp).2
      have h3 := of_decide_eq_true this
      rw [Int32.lt_iff_toInt_lt] at h3
      have := hN.2.2.2.2.2.2.1.2
      omega
    · have hu : s_nd S i 2 = 1 := by rcases hN.2.2.2.1 with g | g; exact absurd g h2; exact g
      have h5 : (s_nd S i 5).toInt ≤ (now S).toInt := by
        refine Int.not_lt.mp (fun hx => hp ?_)
        unfold paused
        rw [Bool.and_eq_true]
        refine ⟨by simp [h2], decide_eq_true (by rw [Int32.lt_iff_toInt_lt]; exact hx)⟩
      have h8i : iv (s_nd S i 8) 0 20000000 := by
        rcases hN.2.2.2.2.2.2.2.2.2.2.2 with g | g
        · exact absurd (by rw [g]; decide) h8
        · exact g
      rcases hR.2.2.2 i hi' hu h5 with g | g
      · rw [g] at h8
        exact absurd (by decide) h8
      · omega
/-- the two next times agree -/
theorem NT_eq {S : SS} {L : List MG} (h : Inv S) (hR : Rest S) (hp : L.Perm (s_ms S)) : (nextEvent S = 2147483647 ∧ NTs S L = 2000000000) ∨ (NTs S L = nextEvent S ∧ (now S).toInt < (nextEvent S).toInt ∧ (nextEvent S).toInt ≤ 20000000) := by
  obtain ⟨a1, a2, a3⟩ := MO_nextEvent (S := S)
  obtain ⟨b1, b2, b3⟩ := MO_NTs (S := S) hp hR.2.1
  have kM : ((2147483647 : Int32)).toInt = 2147483647 := by decide
  have k2 : ((2000000000 : Int32)).toInt = 2000000000 := by decide
  rcases a2 with a2 | a2
  · rcases b2 with b2 | b2
    · exact Or.inl ⟨Int32.toInt.inj (by rw [a2, kM]), Int32.toInt.inj (by rw [b2, k2])⟩
    · have := a1 _ b2
      have := EV_b h hR b2
      omega
  · have e := EV_b h hR a2
    have := b1 _ a2
    rcases b2 with b2 | b2
    · omega
    · have := a1 _ b2
      exact Or.inr ⟨Int32.toInt.inj (by omega), e.1, e.2⟩
