/-! ROOM: what the other events do -/
set_option maxRecDepth 100000
/-- links change: only the cuts and the outages -/
def NEF (S S' : SS) : Prop := s_cf S' = s_cf S ∧ s_n S' = s_n S ∧ s_ms S' = s_ms S ∧ s_dl S' = s_dl S ∧ s_sc S' = s_sc S ∧ s_gh S' = s_gh S ∧ s_lg S' = s_lg S ∧ ∀ j k : Nat, k ≠ 4 → s_nd S' j k = s_nd S j k
/-- delayed writes are sent -/
def DEF (S S' : SS) : Prop := ∃ new : List MG, s_ms S' = s_ms S ++ new ∧ (∀ q ∈ new, q.1 = 4) ∧ new.length + (s_dl S').length ≤ (s_dl S).length ∧ cS S S' ∧ (∀ k : Nat, k = 8 ∨ 12 ≤ k → s_sc S' k = s_sc S k) ∧ GH S' + 3 * (s_dl S').length ≤ GH S + 3 * (s_dl S).length
/-- a node fires -/
def FEF (S S' : SS) (i : Nat) : Prop := ∃ new : List MG, s_ms S' = s_ms S ++ new ∧ (new = [] ∨ ∃ q : MG, new = [q] ∧ q.1 = 0 ∧ q.2.1 = i ∧ q.2.2.2.1 = ndAt S i (now S) ∧ (now S).toInt + (s_nd S i 1).toInt ≤ tmJ q ∧ tmJ q ≤ (now S).toInt + (s_nd S i 1).toInt + (s_cf S 7).toInt) ∧
  s_cf S' = s_cf S ∧ s_n S' = s_n S ∧ s_dl S' = s_dl S ∧ (∀ k : Nat, k = 8 ∨ 12 ≤ k → s_sc S' k = s_sc S k) ∧ (∀ j k : Nat, (j ≠ i ∨ (k ≠ 8 ∧ k ≠ 11)) → s_nd S' j k = s_nd S j k) ∧ s_nd S' i 8 = mx (now S + 1) (ndRe S i (ndAt S i (now S) + s_cf S 6)) ∧ GH S' ≤ GH S + 3
section EVS
variable {S S' S'' : SS}
theorem NEF.rf : NEF S S := ⟨rfl, rfl, rfl, rfl, rfl, rfl, rfl, fun _ _ _ => rfl⟩
theorem NEF.tr (a : NEF S S') (b : NEF S' S'') : NEF S S'' := ⟨b.1.trans a.1, b.2.1.trans a.2.1, b.2.2.1.trans a.2.2.1, b.2.2.2.1.trans a.2.2.2.1, b.2.2.2.2.1.trans a.2.2.2.2.1, b.2.2.2.2.2.1.trans a.2.2.2.2.2.1, b.2.2.2.2.2.2.1.trans a.2.2.2.2.2.2.1, fun j k h => (b.2.2.2.2.2.2.2 j k h).trans (a.2.2.2.2.2.2.2 j k h)⟩
theorem NEF_nd {i : Nat} {v : Int32} : NEF S (u_nd S i 4 v) := ⟨rfl, rfl, rfl, rfl, rfl, rfl, rfl, fun _ _ h => nd_ne (Or.inr (Ne.symm h))⟩
theorem NEF_ou {l : List OG} : NEF S (u_ou S l) := ⟨rfl, rfl, rfl, rfl, rfl, rfl, rfl, fun _ _ _ => rfl⟩
theorem NEF_links : ∀ (n k : Nat) {S : SS}, NEF S (links n k S)
  | 0, _, S => NEF.rf
  | n + 1, k, S => by
    unfold links
    split
    · exact NEF.rf
    · next o ho =>
      dsimp only
      have a : NEF S (if o.2.1 = now S then u_nd S o.1 4 1 else S) := by
        split
        · exact NEF_nd
        · exact NEF.rf
      obtain ⟨S1, hS1⟩ : ∃ S1, (if o.2.1 = now S then u_nd S o.1 4 1 else S) = S1 := ⟨_, rfl⟩
      rw [hS1] at a ⊢
      split
      · exact ((a.tr NEF_nd).tr NEF_ou).tr (NEF_links n k)
      · exact a.tr (NEF_links n (k + 1))
theorem DEF.rf : DEF S S := ⟨[], by rw [List.append_nil], fun _ h => absurd h (List.not_mem_nil), by simp, cS.rf, fun _ _ => rfl, Nat.le_refl _⟩
theorem DEF.tr (a : DEF S S') (b : DEF S' S'') : DEF S S'' := by
  obtain ⟨n1, a1, a2, a3, a4, a5, a6⟩ := a
  obtain ⟨n2, b1, b2, b3, b4, b5, b6⟩ := b
  refine ⟨n1 ++ n2, by rw [b1, a1, List.append_assoc], fun q hq => ?_, ?_, a4.tr b4, fun k hk => (b5 k hk).trans (a5 k hk), Nat.le_trans b6 a6⟩
  · rcases List.mem_append.mp hq with h | h
    · exact a2 q h
    · exact b2 q h
  · rw [List.length_append]
    omega
theorem len_send {k n l : Nat} {a b c : Int32} : (s_ms (send S k n l a b c)).length ≤ (s_ms S).length + 1 := by
  rw [snd_ms]
  split
  · rw [List.length_append]
    exact Nat.le_refl _
  · exact Nat.le_succ _
theorem DEF_one {k : Nat} {d : DG} (hk : (s_dl S)[k]? = some d) (hl : (s_ms S).length < 8000) : DEF S (send (u_dl S ((s_dl S).eraseIdx k)) 4 d.1 3 d.2.1 (Int32.ofNat d.2.2.1) d.2.2.2.1) := by
  obtain ⟨hlt, -⟩ := List.getElem?_eq_some_iff.mp hk
  obtain ⟨X, hX⟩ : ∃ X, u_dl S ((s_dl S).eraseIdx k) = X := ⟨_, rfl⟩
  have x1 : s_ms X = s_ms S := by rw [← hX]; rfl
  have x2 : s_dl X = (s_dl S).eraseIdx k := by rw [← hX]; rfl
  have x3 : cS S X := by rw [← hX]; exact ⟨rfl, rfl, rfl⟩
  have x4 : s_sc X = s_sc S := by rw [← hX]; rfl
  have x5 : GH X = GH S := by rw [← hX]; exact GH_same rfl
  have x6 : ((s_dl S).eraseIdx k).length + 1 = (s_dl S).length := by
    rw [List.length_eraseIdx_of_lt hlt]
    omega
  rw [hX]
  clear hX
  have e2 : s_dl (send X 4 d.1 3 d.2.1 (Int32.ofNat d.2.2.1) d.2.2.2.1) = (s_dl S).eraseIdx k := LK_send.2.1.trans x2
  refine ⟨if s_nd X d.1 4 = 0 then [mSend X 4 d.1 d.2.1 (Int32.ofNat d.2.2.1) d.2.2.2.1] else [], ?_, fun q hq => ?_, ?_, x3.tr cS_send, fun j hj => (sc_send (by omega)).trans (congrFun x4 j), ?_⟩
  · rw [snd_ms, x1]
    split
    · rfl
    · rw [List.append_nil]
  · split at hq
    · rw [List.mem_singleton.mp hq]
      rfl
    · cases hq
  · rw [e2]
    split
    · rw [List.length_singleton]
      omega
    · rw [List.length_nil]
      omega
  · have g := GH_send (S := X) (k := 4) (n := d.1) (l := 3) (a := d.2.1) (b := Int32.ofNat d.2.2.1) (c := d.2.2.2.1) (by rw [x1]; exact hl)
    rw [e2]
    omega
theorem DEF_del : ∀ (n k : Nat) {S : SS}, (s_ms S).length + (s_dl S).length < 8000 → DEF S (delNow n k S)
  | 0, _, S, _ => DEF.rf
  | n + 1, k, S, hl => by
    unfold delNow
    split
    · exact DEF.rf
    · next d hd =>
      split
      · have a := DEF_one hd (by omega)
        obtain ⟨X, hX⟩ : ∃ X, send (u_dl S ((s_dl S).eraseIdx k)) 4 d.1 3 d.2.1 (Int32.ofNat d.2.2.1) d.2.2.2.1 = X := ⟨_, rfl⟩
        rw [hX] at a ⊢
        refine a.tr (DEF_del n k ?_)
        obtain ⟨nw, a1, -, a3, -⟩ := a
        rw [a1, List.length_append]
        omega
      · exact DEF_del n (k + 1) hl
theorem FEF_acq (hI : Inv S) {i : Nat} (hi : i < s_n S) (hl : (s_ms S).length < 8000) : FEF S (acquire S i) i := by
  have t := tm_send hI (k := 0) (a := ndAt S i (now S)) (b := 0) (c := 0) hi
  rw [acquire_eq]
  obtain ⟨q, hq⟩ : ∃ q, mSend S 0 i (ndAt S i (now S)) 0 0 = q := ⟨_, rfl⟩
  have q1 : q.1 = 0 := by rw [← hq]; rfl
  have q2 : q.2.1 = i := by rw [← hq]; rfl
  have q3 : q.2.2.2.1 = ndAt S i (now S) := by rw [← hq]; rfl
  rw [hq] at t
  have hm : s_ms (send S 0 i 1 (ndAt S i (now S)) 0 0) = s_ms S ++ (if s_nd S i 4 = 0 then [q] else []) := by
    rw [snd_ms, hq]
    split
    · rfl
    · rw [List.append_nil]
  have hg := GH_send (S := S) (k := 0) (n := i) (l := 1) (a := ndAt S i (now S)) (b := 0) (c := 0) hl
  have hc : cS S (send S 0 i 1 (ndAt S i (now S)) 0 0) := cS_send
  have hk : LK S (send S 0 i 1 (ndAt S i (now S)) 0 0) := LK_send
  have hs : ∀ k : Nat, k = 8 ∨ 12 ≤ k → s_sc (send S 0 i 1 (ndAt S i (now S)) 0 0) k = s_sc S k := fun k h => sc_send (by omega)
  obtain ⟨X, hX⟩ : ∃ X, send S 0 i 1 (ndAt S i (now S)) 0 0 = X := ⟨_, rfl⟩
  rw [hX] at hm hg hc hk hs ⊢
  refine ⟨if s_nd S i 4 = 0 then [q] else [], hm, ?_, hc.1, hc.2.1, hk.2.1, hs, fun j k h => ?_, ?_, ?_⟩
  · split
    · exact Or.inr ⟨q, rfl, q1, q2, q3, t⟩
    · exact Or.inl rfl
  · rw [nd_ne (by omega), nd_ne (by omega), hc.2.2]
  · rw [nd_ne (Or.inr (by decide)), nd_at]
  · exact Nat.le_trans (Nat.le_of_eq (GH_same rfl)) hg
end EVS
