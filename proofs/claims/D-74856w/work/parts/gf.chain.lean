/-! THE LAW's states: a chain of calls; the room's debt; the loop -/
set_option maxRecDepth 100000
abbrev LST : Type := SS × (Nat → Option SS) × (Nat → Nat) × Nat × Int32
/-- the first state: at most so many cells and slots are made -/
def STA (s : LST) : Prop := ∃ cl sl : Nat, s.1 = SC csP cl sl ∧ cl ≤ 100 ∧ sl ≤ 300000 ∧ s.2.1 = (fun _ => none) ∧ s.2.2.2.1 = 0
/-- the state after k calls -/
def CHN : Nat → LST → Prop
  | 0, s => STA s
  | k + 1, s => ∃ r : LST, CHN k r ∧ NXL r.1 r.2.1 r.2.2.1 r.2.2.2.1 r.2.2.2.2 s.1 s.2.1 s.2.2.1 s.2.2.2.1 s.2.2.2.2
def ZJ (S : SS) (Z : Nat → Option SS) : Prop := ∀ s : Nat, s < 2 → ∀ Q : SS, Z s = some Q → LJ Q ∧ s_gh Q 0 ≤ s_gh S 0
/-- what must fit at a state -/
def FTL (s : LST) : Prop := FT s.1 ∧ (s_gh s.1 0 + 2 * s.2.2.2.1 + 200 ≤ BB.1 ∧ s_gh s.1 1 + 18 * s.2.2.2.1 + 6000 ≤ BB.2) ∧ ∀ i : Nat, i < 2 → ∀ Q : SS, s.2.1 i = some Q → cpF BB (ctS Q s.1)
/-- THE ROOM -/
def ROOM : Prop := ∀ (k : Nat) (s : LST), k < 64 → CHN k s → LJ s.1 → ZJ s.1 s.2.1 → FTL s
section CHS
variable {E : PE} {W : Nat → Nat} {a7 L len : Nat} {xs : Nat → Int32} {S S' : SS} {Z Z' : Nat → Option SS} {bf bf' : Nat → Nat} {le le' : Int32} {len' : Nat} {h : PH} {n j : Nat}
theorem gh_ctS {Q : SS} : s_gh (ctS Q S) 0 = s_gh S 0 := by
  show fu (fu (s_gh Q) 0 (s_gh S 0)) 1 (s_gh S 1) 0 = _
  rw [fu_ne (by decide), fu_eq]
theorem NXL.lj (h : LJ S) (hz : ZJ S Z) (hF : FTL (S, Z, bf, len, le)) (hn : NXL S Z bf len le S' Z' bf' len' le') : LJ S' ∧ ZJ S' Z' := by
  obtain ⟨f1, f2, f3⟩ := hF
  dsimp only at f1 f2 f3
  have b1 : BB.1 = 603072 := rfl
  rcases hn with ⟨a, rfl, -⟩ | ⟨rfl, rfl, -⟩ | ⟨rfl, -, ⟨c, k, rfl, c1, c2, -⟩, -⟩ | ⟨rfl, -, -, c, cl, sl, p1, p2, p3, rfl, p5, p6, -⟩ | ⟨-, -, -, rfl, s, hs, rfl⟩ | ⟨-, -, -, rfl, s, Q, hs, hq, rfl⟩
  · obtain ⟨g1, g2⟩ := NXS.lj h f1 a
    exact ⟨g1, fun s hs Q hq => ⟨(hz s hs Q hq).1, Nat.le_trans (hz s hs Q hq).2 g2⟩⟩
  · exact ⟨h, hz⟩
  · have e : s_gh (u_ct S c k) 0 = c := by
      show fu (fu (s_gh S) 0 c) 1 k 0 = _
      rw [fu_ne (by decide), fu_eq]
    exact ⟨h.uct c1 (by omega), fun s hs Q hq => ⟨(hz s hs Q hq).1, by rw [e]; exact Nat.le_trans (hz s hs Q hq).2 c1⟩⟩
  · have e : s_gh (SC c cl sl) 0 = cl := rfl
    exact ⟨LJ_SC (parse_rg p1) p2 p3 (by omega), fun s hs Q hq => ⟨(hz s hs Q hq).1, by rw [e]; exact Nat.le_trans (hz s hs Q hq).2 p5⟩⟩
  · have gc := gh_copy f1.2.1
    have e : s_gh (ctS S (copyS S)) 0 = s_gh (copyS S) 0 := gh_ctS
    refine ⟨h.ct gle_copy.1 gc, fun u hu Q hq => ?_⟩
    rw [e]
    by_cases c : u = s
    · subst c
      rw [fu_eq] at hq
      cases hq
      exact ⟨h.copy gc, Nat.le_refl _⟩
    · rw [fu_ne c] at hq
      exact ⟨(hz u hu Q hq).1, Nat.le_trans (hz u hu Q hq).2 gle_copy.1⟩
  · have gc := gh_copy (f3 s hs Q hq)
    have gS : s_gh S 0 ≤ 1000000 := by omega
    have h1 : LJ (ctS Q S) := (hz s hs Q hq).1.ct (hz s hs Q hq).2 gS
    refine ⟨h1.copy gc, fun u hu Q' hq' => ⟨(hz u hu Q' hq').1, ?_⟩⟩
    have g2 : s_gh (ctS Q S) 0 ≤ s_gh (copyS (ctS Q S)) 0 := gle_copy.1
    rw [gh_ctS] at g2
    exact Nat.le_trans (hz u hu Q' hq').2 g2
/-- one call -/
theorem one_call (hW : SW E W a7 L xs) (hL : LW E BB W a7 S Z bf len le h) (hI : LJ S) (hz : ZJ S Z) (hF : FTL (S, Z, bf, len, le)) (hj : 5 * j + 5 ≤ L) (hE : h.2.1 = E) : STEPL E W a7 S Z bf len le n j (f_L_law_L23 (n + 1) (some (sAd E 50)) (some (W 0)) (some (AW W a7 0)) (some (W 3)) (Int32.ofNat (5 * j)) h) := by
  rw [law_hd hW hE hj]
  have I := hI.li
  obtain ⟨F, g1, f3⟩ := hF
  dsimp only at F g1 f3
  have Zi : ZI S Z := fun s hs Q hq => ⟨(hz s hs Q hq).1.li, (hz s hs Q hq).2, f3 s hs Q hq⟩
  obtain ⟨c, hc, ec⟩ := sel_lt (xs (5 * j))
  rw [ec]
  have : c = 0 ∨ c = 1 ∨ c = 2 ∨ c = 3 ∨ c = 4 ∨ c = 5 ∨ c = 6 ∨ c = 7 ∨ c = 8 ∨ c = 9 ∨ c = 10 ∨ c = 11 ∨ c = 12 ∨ c = 13 ∨ c = 14 ∨ c = 15 ∨ c = 16 ∨ c = 17 ∨ c = 18 ∨ c = 19 ∨ c = 20 ∨ c = 21 ∨ c = 22 ∨ c = 23 ∨ c = 24 ∨ c = 25 ∨ c = 26 ∨ c = 27 ∨ c = 28 ∨ c = 29 ∨ c = 30 ∨ c = 31 ∨ c = 32 ∨ c = 33 ∨ c = 34 ∨ c = 35 ∨ c = 36 ∨ c = 37 ∨ c = 38 ∨ c = 39 ∨ c = 40 ∨ c = 41 ∨ c = 42 ∨ c = 43 ∨ c = 44 ∨ c = 45 ∨ c = 46 ∨ c = 47 ∨ c = 48 ∨ c = 49 ∨ c = 50 ∨ c = 51 ∨ c = 52 ∨ c = 53 ∨ c = 54 ∨ c = 55 ∨ c = 56 ∨ c = 57 ∨ c = 58 ∨ c = 59 ∨ c = 60 ∨ c = 61 ∨ c = 62 ∨ c = 63 := by omega
  rcases this with rfl | rfl | rfl | rfl | rfl | rfl | rfl | rfl | rfl | rfl | rfl | rfl | rfl | rfl | rfl | rfl | rfl | rfl | rfl | rfl | rfl | rfl | rfl | rfl | rfl | rfl | rfl | rfl | rfl | rfl | rfl | rfl | rfl | rfl | rfl | rfl | rfl | rfl | rfl | rfl | rfl | rfl | rfl | rfl | rfl | rfl | rfl | rfl | rfl | rfl | rfl | rfl | rfl | rfl | rfl | rfl | rfl | rfl | rfl | rfl | rfl | rfl | rfl | rfl
  · rw [show Int32.ofNat 0 = (0 : Int32) from rfl, sel_0]
    exact s_0 hW hL F hj
  · rw [show Int32.ofNat 1 = (1 : Int32) from rfl, sel_1]
    exact s_1 hW hL g1.1 g1.2
  · rw [show Int32.ofNat 2 = (2 : Int32) from rfl, sel_2]
    exact (s_2 hW hL I F hj).l
  · rw [show Int32.ofNat 3 = (3 : Int32) from rfl, sel_3]
    exact (s_3 hW hL I F hj).l
  · rw [show Int32.ofNat 4 = (4 : Int32) from rfl, sel_4]
    exact (s_4 hW hL I F hj).l
  · rw [show Int32.ofNat 5 = (5 : Int32) from rfl, sel_5]
    exact (s_5 hW hL I F hj).l
  · rw [show Int32.ofNat 6 = (6 : Int32) from rfl, sel_6]
    exact (s_6 hW hL I F hj).l
  · rw [show Int32.ofNat 7 = (7 : Int32) from rfl, sel_7]
    exact (s_7 hW hL I F hj).l
  · rw [show Int32.ofNat 8 = (8 : Int32) from rfl, sel_8]
    exact (s_8 hW hL I F hj).l
  · rw [show Int32.ofNat 9 = (9 : Int32) from rfl, sel_9]
    exact (s_9 hW hL I F hj).l
  · rw [show Int32.ofNat 10 = (10 : Int32) from rfl, sel_10]
    exact (s_10 hW hL I F hj).l
  · rw [show Int32.ofNat 11 = (11 : Int32) from rfl, sel_11]
    exact (s_11 hW hL I F hj).l
  · rw [show Int32.ofNat 12 = (12 : Int32) from rfl, sel_12]
    exact (s_12 hW hL I F hj).l
  · rw [show Int32.ofNat 13 = (13 : Int32) from rfl, sel_13]
    exact (s_13 hW hL I F hj).l
  · rw [show Int32.ofNat 14 = (14 : Int32) from rfl, sel_14]
    exact (s_14 hW hL I F hj).l
  · rw [show Int32.ofNat 15 = (15 : Int32) from rfl, sel_15]
    exact (s_15 hW hL I F hj).l
  · rw [show Int32.ofNat 16 = (16 : Int32) from rfl, sel_16]
    exact (s_16 hW hL I F hj).l
  · rw [show Int32.ofNat 17 = (17 : Int32) from rfl, sel_17]
    exact (s_17 hW hL I F hj).l
  · rw [show Int32.ofNat 18 = (18 : Int32) from rfl, sel_18]
    exact (s_18 hW hL I F hj).l
  · rw [show Int32.ofNat 19 = (19 : Int32) from rfl, sel_19]
    exact (s_19 hW hL I F hj).l
  · rw [show Int32.ofNat 20 = (20 : Int32) from rfl, sel_20]
    exact (s_20 hW hL I F hj).l
  · rw [show Int32.ofNat 21 = (21 : Int32) from rfl, sel_21]
    exact (s_21 hW hL I F hj).l
  · rw [show Int32.ofNat 22 = (22 : Int32) from rfl, sel_22]
    exact (s_22 hW hL I F hj).l
  · rw [show Int32.ofNat 23 = (23 : Int32) from rfl, sel_23]
    exact (s_23 hW hL I F hj).l
  · rw [show Int32.ofNat 24 = (24 : Int32) from rfl, sel_24]
    exact (s_24 hW hL I F hj).l
  · rw [show Int32.ofNat 25 = (25 : Int32) from rfl, sel_25]
    exact (s_25 hW hL I F hj).l
  · rw [show Int32.ofNat 26 = (26 : Int32) from rfl, sel_26]
    exact (s_26 hW hL I F hj).l
  · rw [show Int32.ofNat 27 = (27 : Int32) from rfl, sel_27]
    exact (s_27 hW hL I F hj).l
  · rw [show Int32.ofNat 28 = (28 : Int32) from rfl, sel_28]
    exact (s_28 hW hL I F hj).l
  · rw [show Int32.ofNat 29 = (29 : Int32) from rfl, sel_29]
    exact (s_29 hW hL I F hj).l
  · rw [show Int32.ofNat 30 = (30 : Int32) from rfl, sel_30]
    exact (s_30 hW hL I F hj).l
  · rw [show Int32.ofNat 31 = (31 : Int32) from rfl, sel_31]
    exact (s_31 hW hL I F hj).l
  · rw [show Int32.ofNat 32 = (32 : Int32) from rfl, sel_32]
    exact (s_32 hW hL I F hj).l
  · rw [show Int32.ofNat 33 = (33 : Int32) from rfl, sel_33]
    exact (s_33 hW hL I F hj).l
  · rw [show Int32.ofNat 34 = (34 : Int32) from rfl, sel_34]
    exact (s_34 hW hL I F hj).l
  · rw [show Int32.ofNat 35 = (35 : Int32) from rfl, sel_35]
    exact (s_35 hW hL I F hj).l
  · rw [show Int32.ofNat 36 = (36 : Int32) from rfl, sel_36]
    exact (s_36 hW hL I F hj).l
  · rw [show Int32.ofNat 37 = (37 : Int32) from rfl, sel_37]
    exact (s_37 hW hL I F hj).l
  · rw [show Int32.ofNat 38 = (38 : Int32) from rfl, sel_38]
    exact (s_38 hW hL I F hj).l
  · rw [show Int32.ofNat 39 = (39 : Int32) from rfl, sel_39]
    exact (s_39 hW hL I F hj).l
  · rw [show Int32.ofNat 40 = (40 : Int32) from rfl, sel_40]
    exact (s_40 hW hL I F hj).l
  · rw [show Int32.ofNat 41 = (41 : Int32) from rfl, sel_41]
    exact (s_41 hW hL I F hj).l
  · rw [show Int32.ofNat 42 = (42 : Int32) from rfl, sel_42]
    exact (s_42 hW hL I F hj).l
  · rw [show Int32.ofNat 43 = (43 : Int32) from rfl, sel_43]
    exact (s_43 hW hL I F hj).l
  · rw [show Int32.ofNat 44 = (44 : Int32) from rfl, sel_44]
    exact (s_44 hW hL I F hj).l
  · rw [show Int32.ofNat 45 = (45 : Int32) from rfl, sel_45]
    exact (s_45 hW hL I F hj).l
  · rw [show Int32.ofNat 46 = (46 : Int32) from rfl, sel_46]
    exact (s_46 hW hL I F hj).l
  · rw [show Int32.ofNat 47 = (47 : Int32) from rfl, sel_47]
    exact (s_47 hW hL I F hj).l
  · rw [show Int32.ofNat 48 = (48 : Int32) from rfl, sel_48]
    exact (s_48 hW hL I F hj).l
  · rw [show Int32.ofNat 49 = (49 : Int32) from rfl, sel_49]
    exact (s_49 hW hL I F hj).l
  · rw [show Int32.ofNat 50 = (50 : Int32) from rfl, sel_50]
    exact (s_50 hW hL I F hj).l
  · rw [show Int32.ofNat 51 = (51 : Int32) from rfl, sel_51]
    exact (s_51 hW hL I F hj).l
  · rw [show Int32.ofNat 52 = (52 : Int32) from rfl, sel_52]
    exact (s_52 hW hL I F hj).l
  · rw [show Int32.ofNat 53 = (53 : Int32) from rfl, sel_53]
    exact (s_53 hW hL I F hj).l
  · rw [show Int32.ofNat 54 = (54 : Int32) from rfl, sel_54]
    exact (s_54 hW hL I F hj).l
  · rw [show Int32.ofNat 55 = (55 : Int32) from rfl, sel_55]
    exact (s_55 hW hL I F hj).l
  · rw [show Int32.ofNat 56 = (56 : Int32) from rfl, sel_56]
    exact (s_56 hW hL I F hj).l
  · rw [show Int32.ofNat 57 = (57 : Int32) from rfl, sel_57]
    exact (s_57 hW hL I F hj).l
  · rw [show Int32.ofNat 58 = (58 : Int32) from rfl, sel_58]
    exact (s_58 hW hL I F hj).l
  · rw [show Int32.ofNat 59 = (59 : Int32) from rfl, sel_59]
    exact (s_59 hW hL I F hj).l
  · rw [show Int32.ofNat 60 = (60 : Int32) from rfl, sel_60]
    exact (s_60 hW hL I F hj).l
  · rw [show Int32.ofNat 61 = (61 : Int32) from rfl, sel_61]
    exact (s_61 hW hL I F hj).l
  · rw [show Int32.ofNat 62 = (62 : Int32) from rfl, sel_62]
    exact s_62 hW hL I F hj
  · rw [show Int32.ofNat 63 = (63 : Int32) from rfl, sel_63]
    exact s_63 hW hL I F Zi hj
/-- the loop answers true -/
theorem law_go (hW : SW E W a7 L xs) (hR : ROOM) : ∀ (d j : Nat) (s : LST) (n : Nat) (h : PH), L < 5 * (j + d) + 5 → j + d ≤ 64 → d < n → CHN j s → LJ s.1 → ZJ s.1 s.2.1 → LW E BB W a7 s.1 s.2.1 s.2.2.1 s.2.2.2.1 s.2.2.2.2 h → h.2.1 = E → ∃ h1 : PH, f_L_law_L23 n (some (sAd E 50)) (some (W 0)) (some (AW W a7 0)) (some (W 3)) (Int32.ofNat (5 * j)) h = some (1, h1) := by
  intro d
  induction d with
  | zero =>
    intro j s n h hl hj hn hc hI hz hL hE
    cases n with
    | zero => omega
    | succ n => exact ⟨h, law_end hW hE (by omega) (by omega)⟩
  | succ d ih =>
    intro j s n h hl hj hn hc hI hz hL hE
    cases n with
    | zero => omega
    | succ n =>
      by_cases he : L < 5 * j + 5
      · exact ⟨h, law_end hW hE he (by omega)⟩
      · have hF := hR j s (by omega) hc hI hz
        obtain ⟨S', Z', bf', len', le', n1, h', n2, n3, n4⟩ := one_call (n := n) (j := j) hW hL hI hz hF (by omega) hE
        obtain ⟨k1, k2⟩ := NXL.lj hI hz hF n1
        rw [n2, show Int32.ofNat (5 * j) + (5 : Int32) = Int32.ofNat (5 * (j + 1)) from by rw [show (5 : Int32) = Int32.ofNat 5 from rfl, of_add]; rfl]
        exact ih (j + 1) (S', Z', bf', len', le') n h' (by omega) (by omega) (by omega) ⟨s, hc, n1⟩ k1 k2 n3 n4
end CHS
