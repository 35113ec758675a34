/-! THE TWIN: putsAside, takesBack -/
set_option maxRecDepth 100000
/-- the first n places of g over f -/
def ovW (f g : Nat → Int32) (n : Nat) : Nat → Int32 := fun k => if k < n then g k else f k
theorem ovW_succ {f g : Nat → Int32} {n : Nat} : upd (ovW f g n) n (g n) = ovW f g (n + 1) := by
  funext k
  by_cases c : k = n
  · subst c
    rw [upd_eq]
    unfold ovW
    rw [if_pos (by omega)]
  · rw [upd_ne c]
    unfold ovW
    by_cases c2 : k < n
    · rw [if_pos c2, if_pos (by omega)]
    · rw [if_neg c2, if_neg (by omega)]
theorem ovW_lt {f g : Nat → Int32} {n k : Nat} (hk : k < n) : ovW f g n k = g k := if_pos hk
theorem ovW_0 {f g : Nat → Int32} : ovW f g 0 = f := by
  funext k
  exact if_neg (by omega)
section TAS
variable {A : Nat → Nat} {h : PH} {ex : Bool × Int32 × Int32} {S : SS} {L : List MG}
theorem t_putL (hA : TA A h) {T : TS} : ∀ (d i N : Nat), i + d = 73136 → d < N → f_X7_putsAside_L2 N (some (A 0)) (Int32.ofNat i) (tw A (x_as T (ovW (q_as T) (q_w T) i)) h) = some ((), tw A (x_as T (ovW (q_as T) (q_w T) 73136)) h) := by
  intro d
  induction d with
  | zero =>
    intro i N h1 h2
    have : i = 73136 := by omega
    subst this
    cases N with
    | zero => omega
    | succ N =>
      unfold f_X7_putsAside_L2
      rw [show (73136 : Int32) = Int32.ofNat 73136 from rfl, if_pos (by rw [of_le (by omega) (by omega)]; omega)]
  | succ d ih =>
    intro i N h1 h2
    cases N with
    | zero => omega
    | succ N =>
      unfold f_X7_putsAside_L2
      rw [show (73136 : Int32) = Int32.ofNat 73136 from rfl, if_neg (fun hy => by rw [of_le (by omega) (by omega)] at hy; omega), t_rA, t_rW, t_aW hA _ i rfl (by omega), t_sA hA _ i rfl (by omega), show (1 : Int32) = Int32.ofNat 1 from rfl, of_add]
      have e : upd (q_as (x_as T (ovW (q_as T) (q_w T) i))) i (q_w (x_as T (ovW (q_as T) (q_w T) i)) i) = ovW (q_as T) (q_w T) (i + 1) := ovW_succ
      rw [e]
      exact ih (i + 1) N (by omega) (by omega)
theorem t_putsAside (hA : TA A h) {T : TS} : f_X7_putsAside (some (A 0)) (tw A T h) = some ((), tw A (x_as T (ovW (q_as T) (q_w T) 73136)) h) := by
  have := t_putL hA (T := T) 73136 0 FU (by omega) (by unfold FU; omega)
  rw [ovW_0] at this
  exact this
theorem t_takL (hA : TA A h) {T : TS} : ∀ (d i N : Nat), i + d = 73136 → d < N → f_X7_takesBack_L2 N (some (A 0)) (Int32.ofNat i) (tw A (x_w T (ovW (q_w T) (q_as T) i)) h) = some ((), tw A (x_w T (ovW (q_w T) (q_as T) 73136)) h) := by
  intro d
  induction d with
  | zero =>
    intro i N h1 h2
    have : i = 73136 := by omega
    subst this
    cases N with
    | zero => omega
    | succ N =>
      unfold f_X7_takesBack_L2
      rw [show (73136 : Int32) = Int32.ofNat 73136 from rfl, if_pos (by rw [of_le (by omega) (by omega)]; omega)]
  | succ d ih =>
    intro i N h1 h2
    cases N with
    | zero => omega
    | succ N =>
      unfold f_X7_takesBack_L2
      rw [show (73136 : Int32) = Int32.ofNat 73136 from rfl, if_neg (fun hy => by rw [of_le (by omega) (by omega)] at hy; omega), t_rW, t_rA, t_aA hA _ i rfl (by omega), t_sW hA _ i rfl (by omega), show (1 : Int32) = Int32.ofNat 1 from rfl, of_add]
      have e : upd (q_w (x_w T (ovW (q_w T) (q_as T) i))) i (q_as (x_w T (ovW (q_w T) (q_as T) i)) i) = ovW (q_w T) (q_as T) (i + 1) := ovW_succ
      rw [e, x_xw]
      exact ih (i + 1) N (by omega) (by omega)
theorem t_takesBack (hA : TA A h) {T : TS} : f_X7_takesBack (some (A 0)) (tw A T h) = some ((), tw A (x_w T (ovW (q_w T) (q_as T) 73136)) h) := by
  have := t_takL hA (T := T) 73136 0 FU (by omega) (by unfold FU; omega)
  rw [ovW_0] at this
  exact this
end TAS
