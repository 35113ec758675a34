/-! THE SPEC of reading a text -/
set_option maxRecDepth 100000
/-- enough steps for a text -/
def FL : Nat := 401
/-- the byte at p; 256: none -/
def hb (bf : Nat → Nat) (len p : Nat) : Nat := if p < len then bf p else 256
def skp (bf : Nat → Nat) (len : Nat) : Nat → Nat → Nat
  | 0, p => p
  | f + 1, p => if hb bf len p = 32 then skp bf len f (p + 1) else p
/-- blanks are passed -/
def sk (bf : Nat → Nat) (len p : Nat) : Nat := skp bf len FL p
def dgs (bf : Nat → Nat) (len : Nat) : Nat → Nat → Nat → Nat × Nat
  | 0, p, v => (v, p)
  | f + 1, p, v => if 48 ≤ hb bf len p ∧ hb bf len p ≤ 57 then dgs bf len f (p + 1) (10 * v + (hb bf len p - 48)) else (v, p)
def nmb (bf : Nat → Nat) (len lo hi p : Nat) : (Nat × Nat) ⊕ (Nat × Nat) :=
  let q := sk bf len p
  let d := dgs bf len FL q 0
  if d.2 = q then .inl (1, q) else if lo ≤ d.1 ∧ d.1 ≤ hi then .inr d else .inl (2, q)
def wds (bf : Nat → Nat) (len : Nat) : Nat → Nat → Nat
  | 0, p => p
  | f + 1, p => if 97 ≤ hb bf len p ∧ hb bf len p ≤ 122 then wds bf len f (p + 1) else p
def wd (k : Nat) : List Nat := if k = 0 then [115, 101, 114, 118, 101, 114] else if k = 1 then [110, 111, 100, 101] else if k = 2 then [108, 101, 97, 115, 101] else if k = 3 then [114, 101, 110, 101, 119] else if k = 4 then [114, 101, 116, 114, 121] else if k = 5 then [106, 105, 116, 116, 101, 114] else [115, 101, 101, 100]
/-- the n bytes at a are the word k -/
def isW (bf : Nat → Nat) (a n k : Nat) : Bool := decide ((List.range n).map (fun i => bf (a + i)) = wd k)
def wix (bf : Nat → Nat) (a n : Nat) : Nat := if isW bf a n 0 = true then 0 else if isW bf a n 1 = true then 1 else if isW bf a n 2 = true then 2 else if isW bf a n 3 = true then 3 else if isW bf a n 4 = true then 4 else if isW bf a n 5 = true then 5 else if isW bf a n 6 = true then 6 else 7
/-- what is read: numbers (0 rate, 1 offset of the server; 3 duration, 4 bound, 5 renewal, 6 retry, 7 jitter, 8 seed), nodes (rate, offset, delay), what was met -/
abbrev CS : Type := (Nat → Nat) × List (Nat × Nat × Nat) × (Nat → Bool)
def cs0 : CS := (fun k => if k = 0 then 1000 else if k = 3 then 5000 else if k = 4 then 20 else if k = 5 then 2000 else if k = 6 then 500 else if k = 8 then 1 else 0, [], fun _ => false)
def c_set (c : CS) (k v : Nat) : CS := (fu c.1 k v, c.2)
def c_met (c : CS) (k : Nat) : CS := (c.1, c.2.1, fu c.2.2 k true)
def c_node (c : CS) (r o d : Nat) : CS := (c.1, c.2.1 ++ [(r, o, d)], c.2.2)
/-- one number into the place k -/
def rd1 (bf : Nat → Nat) (len : Nat) (c : CS) (k lo hi p : Nat) : (Nat × Nat) ⊕ (CS × Nat) :=
  match nmb bf len lo hi p with
  | .inl e => .inl e
  | .inr d => .inr (c_set c k d.1, d.2)
def rd2 (bf : Nat → Nat) (len : Nat) (c : CS) (k lo hi k' lo' hi' p : Nat) : (Nat × Nat) ⊕ (CS × Nat) :=
  match rd1 bf len c k lo hi p with
  | .inl e => .inl e
  | .inr d => rd1 bf len d.1 k' lo' hi' d.2
def rdN (bf : Nat → Nat) (len : Nat) (c : CS) (p : Nat) : (Nat × Nat) ⊕ (CS × Nat) :=
  match nmb bf len 900 1100 p with
  | .inl e => .inl e
  | .inr r => match nmb bf len 0 100000 r.2 with
    | .inl e => .inl e
    | .inr o => match nmb bf len 1 1000 o.2 with
      | .inl e => .inl e
      | .inr d => .inr (c_node c r.1 o.1 d.1, d.2)
/-- a word's numbers -/
def rdW (bf : Nat → Nat) (len : Nat) (c : CS) (k p : Nat) : (Nat × Nat) ⊕ (CS × Nat) :=
  if k = 0 then rd2 bf len c 0 900 1100 1 0 100000 p else if k = 1 then rdN bf len c p else if k = 2 then rd2 bf len c 3 100 60000 4 0 100 p
  else if k = 3 then rd1 bf len c 5 50 60000 p else if k = 4 then rd1 bf len c 6 50 60000 p else if k = 5 then rd1 bf len c 7 0 1000 p else rd1 bf len c 8 0 2147483647 p
/-- met too often -/
def twc (c : CS) (k : Nat) : Prop := if k = 1 then c.2.1.length = 6 else c.2.2 k = true
def stm (bf : Nat → Nat) (len : Nat) (c : CS) (p : Nat) : (Nat × Nat) ⊕ (CS × Nat) :=
  let a := sk bf len p
  let b := wds bf len FL a
  let k := wix bf a (b - a)
  if k = 7 then .inl (1, a) else if (if k = 1 then decide (c.2.1.length = 6) else c.2.2 k) = true then .inl (3, a) else rdW bf len (c_met c k) k b
def sts (bf : Nat → Nat) (len : Nat) : Nat → CS → Nat → (Nat × Nat) ⊕ CS
  | 0, _, _ => .inl (0, 0)
  | f + 1, c, p => match stm bf len c p with
    | .inl e => .inl e
    | .inr d =>
      let q := sk bf len d.2
      if hb bf len q = 256 then (if d.1.2.1.length = 0 then .inl (4, q) else .inr d.1)
      else if hb bf len q = 59 then sts bf len f d.1 (q + 1) else .inl (1, q)
def parse (bf : Nat → Nat) (len : Nat) : (Nat × Nat) ⊕ CS := sts bf len FL cs0 0
section PRS
variable {bf : Nat → Nat} {len : Nat}
theorem hb_none {p : Nat} (h : ¬ p < len) : hb bf len p = 256 := if_neg h
theorem hb_at {p : Nat} (h : p < len) : hb bf len p = bf p := if_pos h
theorem hb_lt {p x : Nat} (hx : hb bf len p = x) (h : x ≠ 256) : p < len := by
  unfold hb at hx
  split at hx
  · assumption
  · exact absurd hx.symm h
theorem skp_le : ∀ (f p : Nat), p ≤ len → p ≤ skp bf len f p ∧ skp bf len f p ≤ len := by
  intro f
  induction f with
  | zero => intro p hp; exact ⟨Nat.le_refl _, hp⟩
  | succ f ih =>
    intro p hp
    unfold skp
    split
    · next h =>
      have := hb_lt h (by decide)
      have := ih (p + 1) (by omega)
      omega
    · exact ⟨Nat.le_refl _, hp⟩
/-- the end of the blanks does not depend on the fuel -/
theorem skp_end : ∀ (f p : Nat), p ≤ len → len - p < f → hb bf len (skp bf len f p) ≠ 32 := by
  intro f
  induction f with
  | zero => intro p hp h; omega
  | succ f ih =>
    intro p hp h
    unfold skp
    split
    · next hx =>
      have := hb_lt hx (by decide)
      exact ih (p + 1) (by omega) (by omega)
    · assumption
theorem sk_le {p : Nat} (hp : p ≤ len) : p ≤ sk bf len p ∧ sk bf len p ≤ len := skp_le FL p hp
theorem sk_end {p : Nat} (hp : p ≤ len) (hl : len ≤ 400) : hb bf len (sk bf len p) ≠ 32 := skp_end FL p hp (by unfold FL; omega)
theorem dgs_le : ∀ (f p v : Nat), p ≤ len → p ≤ (dgs bf len f p v).2 ∧ (dgs bf len f p v).2 ≤ len := by
  intro f
  induction f with
  | zero => intro p v hp; exact ⟨Nat.le_refl _, hp⟩
  | succ f ih =>
    intro p v hp
    unfold dgs
    split
    · next h =>
      have : p < len := by
        unfold hb at h
        split at h
        · assumption
        · omega
      have := ih (p + 1) (10 * v + (hb bf len p - 48)) (by omega)
      omega
    · exact ⟨Nat.le_refl _, hp⟩
theorem wds_le : ∀ (f p : Nat), p ≤ len → p ≤ wds bf len f p ∧ wds bf len f p ≤ len := by
  intro f
  induction f with
  | zero => intro p hp; exact ⟨Nat.le_refl _, hp⟩
  | succ f ih =>
    intro p hp
    unfold wds
    split
    · next h =>
      have : p < len := by
        unfold hb at h
        split at h
        · assumption
        · omega
      have := ih (p + 1) (by omega)
      omega
    · exact ⟨Nat.le_refl _, hp⟩
theorem nmb_ok {lo hi p : Nat} {d : Nat × Nat} (hp : p ≤ len) (h : nmb bf len lo hi p = .inr d) : lo ≤ d.1 ∧ d.1 ≤ hi ∧ p < d.2 ∧ d.2 ≤ len := by
  have h1 := sk_le (bf := bf) hp
  have h2 := dgs_le (bf := bf) FL (sk bf len p) 0 h1.2
  unfold nmb at h
  dsimp only at h
  obtain ⟨q, hq⟩ : ∃ q, sk bf len p = q := ⟨_, rfl⟩
  rw [hq] at h h1 h2
  obtain ⟨x, hx⟩ : ∃ x, dgs bf len FL q 0 = x := ⟨_, rfl⟩
  rw [hx] at h h2
  by_cases c : x.2 = q
  · rw [if_pos c] at h
    cases h
  · rw [if_neg c] at h
    by_cases c2 : lo ≤ x.1 ∧ x.1 ≤ hi
    · rw [if_pos c2] at h
      cases h
      exact ⟨c2.1, c2.2, by omega, h2.2⟩
    · rw [if_neg c2] at h
      cases h
end PRS
