/-! ROOM: what an arrival does -/
set_option maxRecDepth 100000
/-- what an event at the messages leaves alone -/
def SM (S S' : SS) : Prop := s_cf S' = s_cf S ∧ s_n S' = s_n S ∧ now S' = now S ∧ s_dl S' = s_dl S ∧ s_ou S' = s_ou S ∧ ∀ j k : Nat, k ≠ 6 → k ≠ 7 → k ≠ 8 → k ≠ 9 → k < 30 → s_nd S' j k = s_nd S j k
/-- a grant at a node that is no candidate makes four cells more -/
def cnd (S : SS) (i : Nat) : Nat := if s_nd S i 3 = 0 then 4 else 0
/-- a message for the node that would come at x is postponed once more -/
def ppd (S : SS) (i : Nat) (x : Int) : Nat := if x < (s_nd S i 5).toInt then 1 else 0
/-- the cells that a message still makes -/
def wt (S : SS) (m : MG) : Nat := if m.1 = 0 then 4 + cnd S m.2.1 + ppd S m.2.1 (tmJ m + (s_nd S m.2.1 1).toInt) else if m.1 = 1 then cnd S m.2.1 + ppd S m.2.1 (tmJ m) else if m.1 = 3 then 1 else if m.1 = 4 ∨ m.1 = 5 then 6 + ppd S m.2.1 (tmJ m + (s_nd S m.2.1 1).toInt) else ppd S m.2.1 (tmJ m)
/-- the message that comes out of an arrival -/
def NEWM (S : SS) (m q : MG) : Prop := q.2.1 = m.2.1 ∧
  ((m.1 = 0 ∧ (q.1 = 1 ∨ q.1 = 2) ∧ (q.1 = 1 → q.2.2.2.1 = m.2.2.2.1) ∧ (now S).toInt + (s_nd S m.2.1 1).toInt ≤ tmJ q ∧ tmJ q ≤ (now S).toInt + (s_nd S m.2.1 1).toInt + (s_cf S 7).toInt) ∨
   ((m.1 = 1 ∨ m.1 = 2 ∨ 6 ≤ m.1) ∧ q.1 = m.1 ∧ q.2.2.2.1 = m.2.2.2.1 ∧ tmJ q = (s_nd S m.2.1 5).toInt ∧ (now S).toInt < (s_nd S m.2.1 5).toInt ∧ s_nd S m.2.1 2 ≠ 0) ∨
   (m.1 = 1 ∧ q.1 = 3 ∧ s_nd S m.2.1 3 = 0 ∧ (now S).toInt + (s_nd S m.2.1 1).toInt ≤ tmJ q ∧ tmJ q ≤ (now S).toInt + (s_nd S m.2.1 1).toInt + (s_cf S 7).toInt) ∨
   ((m.1 = 4 ∨ m.1 = 5) ∧ 6 ≤ q.1 ∧ (now S).toInt + (s_nd S m.2.1 1).toInt ≤ tmJ q))
/-- what an arrival does -/
def AEF (S S' : SS) (k : Nat) (m : MG) : Prop := ∃ new : List MG, s_ms S' = (s_ms S).eraseIdx k ++ new ∧ SM S S' ∧ (new = [] ∨ ∃ q : MG, new = [q] ∧ NEWM S m q) ∧ GH S' + (new.map (wt S)).sum ≤ GH S + wt S m ∧ (∀ j : Nat, j ≠ m.2.1 → s_nd S' j 8 = s_nd S j 8) ∧
  (s_nd S' m.2.1 8 = s_nd S m.2.1 8 ∨ (new = [] ∧ s_nd S m.2.1 2 ≠ 0 ∧ s_nd S m.2.1 3 ≠ 0 ∧ ((m.1 = 1 ∧ s_nd S' m.2.1 8 = mx (now S + 1) (ndRe S m.2.1 (m.2.2.2.1 + s_cf S 5))) ∨ (m.1 = 2 ∧ s_nd S' m.2.1 8 = mx (now S + 1) (ndRe S m.2.1 (ndAt S m.2.1 (now S) + s_cf S 6))))))
section EFS
variable {S S' S'' : SS}
theorem SM.rf : SM S S := ⟨rfl, rfl, rfl, rfl, rfl, fun _ _ _ _ _ _ _ => rfl⟩
theorem SM.tr (a : SM S S') (b : SM S' S'') : SM S S'' := ⟨b.1.trans a.1, b.2.1.trans a.2.1, b.2.2.1.trans a.2.2.1, b.2.2.2.1.trans a.2.2.2.1, b.2.2.2.2.1.trans a.2.2.2.2.1, fun j k h1 h2 h3 h4 h5 => (b.2.2.2.2.2 j k h1 h2 h3 h4 h5).trans (a.2.2.2.2.2 j k h1 h2 h3 h4 h5)⟩
theorem SM_sc {k : Nat} {v : Int32} (hk : k ≠ 8) : SM S (u_sc S k v) := ⟨rfl, rfl, fu_ne (Ne.symm hk), rfl, rfl, fun _ _ _ _ _ _ _ => rfl⟩
theorem SM_ms {l : List MG} : SM S (u_ms S l) := ⟨rfl, rfl, rfl, rfl, rfl, fun _ _ _ _ _ _ _ => rfl⟩
theorem SM_ar {j k : Nat} {v : Int32} : SM S (u_ar S j k v) := ⟨rfl, rfl, rfl, rfl, rfl, fun _ _ _ _ _ _ _ => rfl⟩
theorem SM_mk {c k : Nat} : SM S (g_mk S c k) := ⟨rfl, rfl, rfl, rfl, rfl, fun _ _ _ _ _ _ _ => rfl⟩
theorem SM_ga {li sz : Nat} : SM S (g_add S li sz) := ⟨rfl, rfl, rfl, rfl, rfl, fun _ _ _ _ _ _ _ => rfl⟩
theorem SM_lk (c : cS S S') (l : LK S S') : SM S S' := ⟨c.1, c.2.1, l.2.2, l.2.1, l.1, fun j k _ _ _ _ _ => by rw [c.2.2]⟩
theorem SM_note {k : Nat} {n t : Int32} : SM S (note S k n t) := SM_lk cS_note LK_note
theorem SM_send {k n l : Nat} {a b c : Int32} : SM S (send S k n l a b c) := SM_lk cS_send LK_send
theorem SM_watch {m : MG} {v : Int32} : SM S (watch S m v) := SM_sc (by decide)
theorem SM_nd {i k : Nat} {v : Int32} (hk : k = 6 ∨ k = 7 ∨ k = 8 ∨ k = 9 ∨ 30 ≤ k) : SM S (u_nd S i k v) := ⟨rfl, rfl, rfl, rfl, rfl, fun j k' h1 h2 h3 h4 h5 => nd_ne (Or.inr (by omega))⟩
theorem ppd_mono {i : Nat} {x y : Int} (h : x ≤ y) : ppd S i y ≤ ppd S i x := by
  unfold ppd
  split
  · rw [if_pos (by omega)]
    exact Nat.le_refl _
  · exact Nat.zero_le _
theorem ppd_le {i : Nat} {x : Int} : ppd S i x ≤ 1 := by
  unfold ppd
  split
  · exact Nat.le_refl _
  · exact Nat.zero_le _
theorem wt_sm (h : SM S S') {m : MG} : wt S' m = wt S m := by
  have e : ∀ k : Nat, k ≠ 6 → k ≠ 7 → k ≠ 8 → k ≠ 9 → k < 30 → s_nd S' m.2.1 k = s_nd S m.2.1 k := fun k => h.2.2.2.2.2 m.2.1 k
  unfold wt cnd ppd
  rw [e 1 (by decide) (by decide) (by decide) (by decide) (by decide), e 3 (by decide) (by decide) (by decide) (by decide) (by decide), e 5 (by decide) (by decide) (by decide) (by decide) (by decide)]
/-- the time of a message that another state sends -/
theorem tm_sendX (hI : Inv S) {X : SS} (h : SM S X) (h9 : s_sc X 9 = s_sc S 9) {k n : Nat} {a b c : Int32} (hn : n < s_n S) : (now S).toInt + (s_nd S n 1).toInt ≤ tmJ (mSend X k n a b c) ∧ tmJ (mSend X k n a b c) ≤ (now S).toInt + (s_nd S n 1).toInt + (s_cf S 7).toInt := by
  have t := tm_send hI (k := k) (a := a) (b := b) (c := c) hn
  have e : tmJ (mSend X k n a b c) = tmJ (mSend S k n a b c) := by
    have h1 : now X = now S := h.2.2.1
    have h2 : s_nd X n 1 = s_nd S n 1 := h.2.2.2.2.2 n 1 (by decide) (by decide) (by decide) (by decide) (by decide)
    show (now X + s_nd X n 1 + jit (lcg (s_sc X 9)) (s_cf X 7)).toInt = (now S + s_nd S n 1 + jit (lcg (s_sc S 9)) (s_cf S 7)).toInt
    rw [h1, h2, h9, h.1]
  rw [e]
  exact t
theorem sum1 {f : MG → Nat} {q : MG} : ([q].map f).sum = f q := by simp
theorem cut0 {X : SS} (h : SM S X) {n : Nat} (h4 : s_nd S n 4 = 0) : s_nd X n 4 = 0 := by
  rw [h.2.2.2.2.2 n 4 (by decide) (by decide) (by decide) (by decide) (by decide)]
  exact h4
theorem lg_ms {l : List MG} : s_lg (u_ms S l) = s_lg S := rfl
/-- a message is sent in answer: what is needed of the state that sends -/
theorem AEF_snd {k kind ln : Nat} {m : MG} {a b c : Int32} {X : SS} (hI : Inv S) (hn : m.2.1 < s_n S) (h4 : s_nd S m.2.1 4 = 0) (hX : SM S X) (h9 : s_sc X 9 = s_sc S 9) (hms : s_ms X = (s_ms S).eraseIdx k) (hl : (s_ms S).length < 8000) (ht : ∀ j : Nat, s_nd X j 8 = s_nd S j 8)
    (hN : NEWM S m (mSend X kind m.2.1 a b c)) (hg : GH X + 3 + wt S (mSend X kind m.2.1 a b c) ≤ GH S + wt S m) : AEF S (send X kind m.2.1 ln a b c) k m := by
  have hle := List.length_eraseIdx_le (s_ms S) k
  refine ⟨[mSend X kind m.2.1 a b c], ?_, hX.tr SM_send, Or.inr ⟨_, rfl, hN⟩, ?_, fun j _ => ?_, Or.inl ?_⟩
  · rw [send_ms (cut0 hX h4), hms]
  · have := GH_send (S := X) (k := kind) (n := m.2.1) (l := ln) (a := a) (b := b) (c := c) (by rw [hms]; omega)
    rw [sum1]
    omega
  · rw [cS_send.2.2]
    exact ht j
  · rw [cS_send.2.2]
    exact ht _
/-- nothing comes of it -/
theorem AEF_non {k : Nat} {m : MG} {X : SS} (hX : SM S X) (hms : s_ms X = (s_ms S).eraseIdx k) (ht : ∀ j : Nat, s_nd X j 8 = s_nd S j 8) (hg : GH X ≤ GH S + wt S m) : AEF S X k m :=
  ⟨[], by rw [hms, List.append_nil], hX, Or.inl rfl, by simpa using hg, fun j _ => ht j, Or.inl (ht _)⟩
end EFS
