/-! THE COMPONENT reads: the hash of a word -/
set_option maxRecDepth 100000
def hsL (w : List Nat) : Nat → Nat → Int32 → Int32
  | 0, _, x => x
  | k + 1, i, x => hsL w k (i + 1) ((31 : Int32) * x + Int32.ofNat (w.getD i 0))
def hsh (w : List Nat) : Int32 := hsL w w.length 0 0
theorem byt_num : ∀ c : Nat, c < 256 → (Int32.ofNat c &&& (255 : Int32)) = Int32.ofNat c := by decide +kernel
section HSH
variable {a u : Nat} {w : List Nat} {f : Nat → Int32} {h : PH}
theorem hs_L (e : h.1 u = some (.inl (h.2.1.2.1 1, w.length, .inl f))) (hf : ∀ i : Nat, i < w.length → f i = Int32.ofNat (w.getD i 0)) (hf2 : ∀ i : Nat, i < w.length → w.getD i 0 < 256) (hn : w.length ≤ 400) :
    ∀ (k i N : Nat) (x : Int32), i + k = w.length → k < N → f_J11_signedHashCode_L8 N x (some u) (Int32.ofNat w.length) (Int32.ofNat i) h = some (hsL w k i x, h) := by
  intro k
  induction k with
  | zero =>
    intro i N x h1 h2
    cases N with
    | zero => omega
    | succ N =>
      unfold f_J11_signedHashCode_L8 hsL
      rw [if_pos ((of_le (by omega) (by omega)).mpr (by omega))]
  | succ k ih =>
    intro i N x h1 h2
    cases N with
    | zero => omega
    | succ N =>
      unfold f_J11_signedHashCode_L8 hsL
      rw [if_neg (by rw [of_le (by omega) (by omega)]; omega), aB_at e (inR_of (by omega) (by omega)), clamp9 (by omega), hf i (by omega), byt_num _ (hf2 i (by omega)), show (1 : Int32) = Int32.ofNat 1 from rfl, of_add]
      exact ih (i + 1) N _ (by omega) (by omega)
theorem hs_B (e : h.1 u = some (.inl (h.2.1.2.1 1, w.length, .inl f))) (hb : pbase h ≤ u) (hf : ∀ i : Nat, i < w.length → f i = Int32.ofNat (w.getD i 0)) (hf2 : ∀ i : Nat, i < w.length → w.getD i 0 < 256) (hn : w.length ≤ 400) : f_J15_hashCode (some u) h = some (hsh w, h) := by
  unfold f_J15_hashCode f_J15_hashCode_B51 hsh
  rw [aN_at e]
  have h0 : (0 : Int32) = Int32.ofNat 0 := rfl
  by_cases c : w.length = 0
  · rw [c, if_pos (show Int32.ofNat 0 = 0 from rfl)]
    rfl
  · rw [if_neg (by rw [h0, of_inj (by omega) (by omega)]; exact c)]
    by_cases c1 : w.length = 1
    · rw [if_pos (by rw [c1]; rfl), aB_at e (by rw [h0]; exact inR_of (by omega) (by omega)), show (0 : Int32).toNatClampNeg = 0 from by decide, hf 0 (by omega), byt_num _ (hf2 0 (by omega)), c1]
      show _ = some ((31 : Int32) * 0 + _, h)
      rw [show (31 : Int32) * 0 = 0 from by decide, Int32.zero_add]
    · rw [if_neg (by rw [show (1 : Int32) = Int32.ofNat 1 from rfl, of_inj (by omega) (by omega)]; exact c1), aN_at e]
      unfold f_J11_vectorizedHashCode f_J11_vectorizedHashCode_B157 f_J11_signedHashCode
      rw [if_pos rfl, kB_at e hb, show (0 : Int32) + Int32.ofNat w.length = Int32.ofNat w.length from Int32.zero_add _]
      have g := hs_L e hf hf2 hn w.length 0 FU 0 (by omega) (by unfold FU; omega)
      rw [← h0] at g
      rw [cl_eq g]
      rfl
/-- the hash of a fresh string; it is kept -/
theorem p_hash (e9 : h.2.1.1 9 = .int 1) (hS : STR h a u w 0 0) (hb : pbase h ≤ a) (hu : pbase h ≤ u) (hf2 : ∀ i : Nat, i < w.length → w.getD i 0 < 256) (hn : w.length ≤ 400) :
    ∃ hs hz : Int32, f_J9_hashCode (some a) h = some (hsh w, p_set h a (.inr (22, [.ref u, .int 0, .int hs, .int hz]))) := by
  obtain ⟨a1, f, a2, a3⟩ := hS
  have la : f_J9_isLatin1 (some a) h = some (1, h) := by
    unfold f_J9_isLatin1 f_J9_isLatin1_B18
    rw [e9]
    simp only [asI]
    rw [if_neg (show ¬ (1 : Int32) = 0 by decide), gI_at a1 rfl, if_pos rfl, rN_at nb0.2]
  unfold f_J9_hashCode f_J9_hashCode_B40 f_J9_hashCode_B58
  rw [gI_at a1 rfl, if_pos rfl, gI_at a1 rfl, if_pos rfl, rv_at a1, cl_eq la, if_neg (show ¬ (1 : Int32) = 0 by decide), gR_at a1 rfl, cl_eq (hs_B a2 hu a3 hf2 hn)]
  obtain ⟨x, hx⟩ : ∃ x, hsh w = x := ⟨_, rfl⟩
  rw [hx]
  by_cases c : x = 0
  · rw [if_pos c, pZ_at (Or.inr rfl), pV_at a1 hb (Nat.le_of_ble_eq_true rfl)]
    exact ⟨0, 1, rfl⟩
  · rw [if_neg c, pV_at a1 hb (Nat.le_of_ble_eq_true rfl)]
    exact ⟨x, 0, rfl⟩
/-- the words' hashes -/
theorem wd_hash : hsh (wd 0) = (-905826493 : Int32) ∧ hsh (wd 1) = (3386882 : Int32) ∧ hsh (wd 2) = (102846042 : Int32) ∧ hsh (wd 3) = (108399245 : Int32) ∧ hsh (wd 4) = (108405416 : Int32) ∧ hsh (wd 5) = (-1159737108 : Int32) ∧ hsh (wd 6) = (3526257 : Int32) := by decide +kernel
end HSH
