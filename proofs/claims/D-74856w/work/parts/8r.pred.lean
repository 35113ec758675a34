/-! predictions: leaders, the next leader, from when a node leads, the longest gap -/
set_option maxRecDepth 100000
def leadersS (S : SS) : Int32 := (List.range (s_n S)).foldl (fun a k => a ||| (if leads S k (now S) = true then (1 : Int32) <<< (Int32.ofNat k &&& 31) else 0)) 0
def scanL (S : SS) (old : Int32) : Nat → Int32 → Int32
  | 0, f => f
  | k + 1, f => scanL S old k (if ((old >>> (Int32.ofNat k &&& 31)) &&& (1 : Int32)) = 0 ∧ leads S k (now S) = true then Int32.ofNat k else f)
def nextLead : Nat → SS → Int32 → Int32 → Int32 → Int32 × SS
  | 0, S, _, _, f => (f, S)
  | n + 1, S, t, old, f => if t ≤ now S then (f, S) else if f = -4 then nextLead n (step S t) t old (scanL (step S t) old (s_n (step S t)) f) else (f, S)
def nDone : Nat → SS → Int32 → Int32 → Int32 → Prop
  | 0, S, t, _, f => t ≤ now S ∨ f ≠ -4
  | n + 1, S, t, old, f => t ≤ now S ∨ f ≠ -4 ∨ (sDone S t ∧ nDone n (step S t) t old (scanL (step S t) old (s_n (step S t)) f))
def leadF : Nat → SS → Nat → Int32 → SS
  | 0, S, _, _ => S
  | n + 1, S, i, t => if t ≤ now S then S else if leads S i (now S) = true then S else leadF n (step S t) i t
def lDone : Nat → SS → Nat → Int32 → Prop
  | 0, S, i, t => t ≤ now S ∨ leads S i (now S) = true
  | n + 1, S, i, t => t ≤ now S ∨ leads S i (now S) = true ∨ (sDone S t ∧ lDone n (step S t) i t)
def lastE (S : SS) : Int32 := (List.range (s_n S)).foldl (fun a k => mx a (until_ S k)) (now S)
def gapOf (S : SS) (t gap : Int32) : Int32 := if mn (mn t (nextEvent S)) (lastE S) ≤ now S then gap + mn t (nextEvent S) - now S else mn t (nextEvent S) - mn (mn t (nextEvent S)) (lastE S)
def gapG : Nat → SS → Int32 → Int32 → Int32 → Int32 × SS
  | 0, S, _, lg, _ => (lg, S)
  | n + 1, S, t, lg, gap => if t ≤ now S then (lg, S) else gapG n (step S (mn t (nextEvent S))) t (mx lg (gapOf S t gap)) (gapOf S t gap)
def pDone : Nat → SS → Int32 → Prop
  | 0, S, t => t ≤ now S
  | n + 1, S, t => t ≤ now S ∨ (sDone S (mn t (nextEvent S)) ∧ pDone n (step S (mn t (nextEvent S))) t)
section MPr
variable {E : PE} {B : Nat × Nat} {F : Nat → Nat} {R : PM}
theorem n_fin {S : SS} : s_n (fin S) = s_n S := by
  have h1 : ∀ (n k : Nat) (S : SS), s_n (delNow n k S) = s_n S := by
    intro n
    induction n with
    | zero => intro k S; rfl
    | succ n ih =>
      intro k S
      unfold delNow
      split
      · rfl
      · split
        · rw [ih, n_send]; rfl
        · exact ih _ _
  have h2 : ∀ (l : List Nat) (S : SS), s_n (l.foldl timNd S) = s_n S := by
    intro l
    induction l with
    | nil => intro S; rfl
    | cons i l ih => intro S; exact (ih _).trans n_tim
  unfold fin tims
  rw [h2, h1]
theorem m_leaders {S : SS} {h : PH} (hS : SP E B F R S h) (hw : W1 S) : f_X2_leaders (some (F 0)) h = some (leadersS S, h) := by
  have hn := hS.base.2.2
  have FUb := FU_big
  have loop : ∀ (n i : Nat) (a : Int32), i ≤ s_n S → s_n S < i + n → f_X2_leaders_L4 n (some (F 0)) a (Int32.ofNat i) h = some (((List.range (s_n S)).drop i).foldl (fun a k => a ||| (if leads S k (now S) = true then (1 : Int32) <<< (Int32.ofNat k &&& 31) else 0)) a, h) := by
    intro n
    induction n with
    | zero => intro i a h1 h2; omega
    | succ n ih =>
      intro i a h1 h2
      unfold f_X2_leaders_L4
      rw [r_ref hS (by decide) (by decide), r_n hS]
      by_cases hi : i = s_n S
      · rw [if_pos ((of_le (by omega) (by omega)).mpr (by omega)), hi, List.drop_eq_nil_of_le (by simp)]
        rfl
      · have hil : i < s_n S := by omega
        rw [if_neg (fun hx => by rw [of_le (by omega) (by omega)] at hx; omega), r_ref hS (by decide) (by decide), r_nds hS hil, r_sc hS (by decide) (by decide), r_ndv hS hil, cl_eq (m_leads hS hil hw), range_drop hil, List.foldl_cons]
        unfold f_X2_leaders_B37
        by_cases hl : leads S i (now S) = true
        · rw [if_pos hl, if_neg (by decide), if_pos hl, ofs]
          exact ih (i + 1) _ (by omega) (by omega)
        · rw [if_neg hl, if_pos rfl, if_neg hl, ofs]
          exact ih (i + 1) _ (by omega) (by omega)
  have := loop FU 0 0 (Nat.zero_le _) (by omega)
  rw [List.drop_zero] at this
  exact this
theorem m_lastEnd {S : SS} {h : PH} (hS : SP E B F R S h) (hw : W1 S) : f_X2_lastEnd (some (F 0)) h = some (lastE S, h) := by
  have hn := hS.base.2.2
  have FUb := FU_big
  have loop : ∀ (n i : Nat) (a : Int32), i ≤ s_n S → s_n S < i + n → f_X2_lastEnd_L16 n a (some (F 1)) (Int32.ofNat (s_n S)) (Int32.ofNat i) h = some (((List.range (s_n S)).drop i).foldl (fun a k => mx a (until_ S k)) a, h) := by
    intro n
    induction n with
    | zero => intro i a h1 h2; omega
    | succ n ih =>
      intro i a h1 h2
      unfold f_X2_lastEnd_L16
      by_cases hi : i = s_n S
      · rw [if_pos ((of_le (by omega) (by omega)).mpr (by omega)), hi, List.drop_eq_nil_of_le (by simp)]
        rfl
      · have hil : i < s_n S := by omega
        rw [if_neg (fun hx => by rw [of_le (by omega) (by omega)] at hx; omega), r_nds hS hil, r_ndv hS hil, cl_eq (m_until hS hil hw), range_drop hil, List.foldl_cons, ofs]
        exact ih (i + 1) _ (by omega) (by omega)
  unfold f_X2_lastEnd
  rw [r_sc hS (by decide) (by decide), r_ref hS (by decide) (by decide), r_n hS]
  have := loop FU 0 (now S) (Nat.zero_le _) (by omega)
  rw [List.drop_zero] at this
  exact this
theorem gle_leadF : ∀ (n : Nat) {S : SS} {i : Nat} {t : Int32}, gle S (leadF n S i t)
  | 0, _, _, _ => gle.rf
  | n + 1, S, i, t => by
    unfold leadF
    split
    · exact gle.rf
    · split
      · exact gle.rf
      · exact gle_step.tr (gle_leadF n)
theorem m_leadsFrom (hB2 : B.2 < 2 ^ 25) (hx : EX E) : ∀ (n : Nat) (S : SS) (h : PH) (i : Nat) (t : Int32), SP E B F R S h → BI S → i < s_n S → lDone n S i t → fitB B (leadF n S i t) → (∀ S', s_n S' = s_n S → s_n (step S' t) = s_n S) → ∀ N : Nat, n < N → okk (f_X2_leadsFrom_L0 N (some (F 0)) (Int32.ofNat i) t h) (fun b => b.1 = (if leads (leadF n S i t) i (now (leadF n S i t)) = true then now (leadF n S i t) else -4) ∧ SP E B F R (leadF n S i t) b.2) := by
  intro n
  have ans : ∀ {S : SS} {h : PH} {i : Nat}, SP E B F R S h → BI S → i < s_n S → okk (f_X2_leadsFrom_B32 (some (F 0)) (Int32.ofNat i) h) (fun b => b.1 = (if leads S i (now S) = true then now S else -4) ∧ SP E B F R S b.2) := by
    intro S h i hS hb hi
    unfold f_X2_leadsFrom_B32 f_X2_leadsFrom_B57
    rw [r_ref hS (by decide) (by decide), r_nds hS hi, r_sc hS (by decide) (by decide), r_ndv hS hi, cl_eq (m_leads hS hi hb.1)]
    by_cases hl : leads S i (now S) = true
    · rw [if_pos hl, if_neg (by decide), r_sc hS (by decide) (by decide), if_pos hl]
      exact ⟨_, rfl, rfl, hS⟩
    · rw [if_neg hl, if_pos rfl, if_neg hl]
      exact ⟨_, rfl, rfl, hS⟩
  induction n with
  | zero =>
    intro S h i t hS hb hi hd hf hnn N hN
    cases N with
    | zero => omega
    | succ N =>
      unfold f_X2_leadsFrom_L0
      rw [r_sc hS (by decide) (by decide)]
      by_cases hc : t ≤ now S
      · rw [if_pos hc]
        exact ans hS hb hi
      · rw [if_neg hc, r_ref hS (by decide) (by decide), r_nds hS hi, r_sc hS (by decide) (by decide), r_ndv hS hi, cl_eq (m_leads hS hi hb.1), if_pos (hd.resolve_left hc), if_neg (by decide)]
        exact ans hS hb hi
  | succ n ih =>
    intro S h i t hS hb hi hd hf hnn N hN
    cases N with
    | zero => omega
    | succ N =>
      unfold f_X2_leadsFrom_L0
      unfold leadF at hf ⊢
      rw [r_sc hS (by decide) (by decide)]
      by_cases hc : t ≤ now S
      · rw [if_pos hc]
        rw [if_pos hc]
        exact ans hS hb hi
      · rw [if_neg hc]
        rw [if_neg hc] at hf ⊢
        rw [r_ref hS (by decide) (by decide), r_nds hS hi, r_sc hS (by decide) (by decide), r_ndv hS hi, cl_eq (m_leads hS hi hb.1)]
        by_cases hl : leads S i (now S) = true
        · rw [if_pos hl, if_neg (by decide)]
          rw [if_pos hl]
          exact ans hS hb hi
        · rw [if_neg hl, if_pos rfl]
          rw [if_neg hl] at hf ⊢
          have hd2 := (hd.resolve_left hc).resolve_left hl
          rw [r_sim hS]
          refine okk_cl ((m_step hS hb hx hd2.1 (hf.le (gle_leadF n)) hB2).mono fun b hb1 => ?_)
          exact ih _ _ i t hb1 (BI_step hb) (by rw [hnn S rfl]; exact hi) hd2.2 hf (fun S' hs => by rw [hnn S rfl] at hs ⊢; exact hnn S' hs) N (by omega)
end MPr
