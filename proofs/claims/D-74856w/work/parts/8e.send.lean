/-! note, send, acquire -/
set_option maxRecDepth 100000
theorem g_mk_mk {S : SS} {a b c d : Nat} : g_mk (g_mk S a b) c d = g_mk S (a + c) (b + d) := by
  unfold g_mk u_gh
  refine Prod.ext rfl (Prod.ext rfl (Prod.ext rfl (Prod.ext rfl (Prod.ext rfl (Prod.ext rfl (funext fun k => ?_))))))
  show fu (fu (fu (fu (s_gh S) 0 (s_gh S 0 + a)) 1 (s_gh S 1 + b)) 0 (fu (fu (s_gh S) 0 (s_gh S 0 + a)) 1 (s_gh S 1 + b) 0 + c)) 1 (fu (fu (s_gh S) 0 (s_gh S 0 + a)) 1 (s_gh S 1 + b) 1 + d) k = fu (fu (s_gh S) 0 (s_gh S 0 + (a + c))) 1 (s_gh S 1 + (b + d)) k
  rw [fu_ne (show (0 : Nat) ≠ 1 by decide), fu_eq, fu_eq]
  by_cases h1 : k = 1
  · subst h1
    rw [fu_eq, fu_eq]; omega
  · by_cases h0 : k = 0
    · subst h0
      rw [fu_ne h1, fu_eq, fu_ne h1, fu_eq]; omega
    · rw [fu_ne h1, fu_ne h0, fu_ne h1, fu_ne h0, fu_ne h1, fu_ne h0]
theorem len2 {E : PE} {S : SS} : (lsC E S 2).length = (s_ms S).length := by
  show ((s_ms S).map (cMsg (sAd E))).length = _
  exact List.length_map _
theorem len3 {E : PE} {S : SS} : (lsC E S 3).length = (s_dl S).length := by
  show ((s_dl S).map cDel).length = _
  exact List.length_map _
theorem len4 {E : PE} {S : SS} : (lsC E S 4).length = (s_ou S).length := by
  show ((s_ou S).map cOut).length = _
  exact List.length_map _
theorem len5 {E : PE} {S : SS} : (lsC E S 5).length = (s_lg S).length := by
  show ((s_lg S).map cEvt).length = _
  exact List.length_map _
section MS
variable {E : PE} {B : Nat × Nat} {F : Nat → Nat} {R : PM} {S : SS} {h : PH}
theorem m_note (hS : SP E B F R S h) {kind : Nat} {node tok : Int32} (hk : kind < 9) (hB : fitB B (note S kind node tok)) (hB2 : B.2 < 2 ^ 25) : okk (f_X2_note (some (F 0)) (Int32.ofNat kind) node tok h) (fun b => SP E B F R (note S kind node tok) b.2) := by
  have tail : ∀ {S1 : SS} {h1 : PH}, SP E B F R S1 h1 → fitB B (u_lg (g_add (g_mk S1 1 4) 5 (s_lg S1).length) (s_lg S1 ++ [(now S1, Int32.ofNat kind, node, tok)])) →
      okk (f_X2_note_B26 (some (F 0)) (Int32.ofNat kind) node tok h1) (fun b => SP E B F R (u_ar (u_lg (g_add (g_mk S1 1 4) 5 (s_lg S1).length) (s_lg S1 ++ [(now S1, Int32.ofNat kind, node, tok)])) 2 kind (s_ar S1 2 kind + 1)) b.2) := by
    intro S1 h1 hS1 hf
    have hle : gle (g_mk S1 1 4) (u_lg (g_add (g_mk S1 1 4) 5 (s_lg S1).length) (s_lg S1 ++ [(now S1, Int32.ofNat kind, node, tok)])) := gle_add (S := g_mk S1 1 4)
    have hf1 := hf.le hle
    have rm := hS1.room
    have ro1 : 1 ≤ pcl h1 := by have := hf1.1; rw [gh_mk0] at this; have := rm.1; omega
    have ro2 : 4 ≤ psl h1 := by have := hf1.2; rw [gh_mk1] at this; have := rm.2; omega
    unfold f_X2_note_B26
    rw [r_ref hS1 (by decide) (by decide), nO_at ro1 ro2]
    rw [r_sc (hS1.mk _ 4 ro1 ro2) (by decide) (by decide), cl_eq (i_evt hS1.base.2.1), r_lsv (hS1.mk _ 4 ro1 ro2) (by decide) (by decide)]
    refine okk_cl ((l_addn hS1 (S' := u_lg (g_add (g_mk S1 1 4) 5 (s_lg S1).length) (s_lg S1 ++ [(now S1, Int32.ofNat kind, node, tok)])) (li := 5) (N := 4) (by decide) (by decide) ?_ ?_ ?_ (by decide) hf hB2).mono fun b hb => ?_)
    · rw [len5]
      exact ⟨rfl, rfl, rfl, rfl, rfl, rfl⟩
    · show (s_lg S1 ++ [(now S1, Int32.ofNat kind, node, tok)]).map cEvt = (s_lg S1).map cEvt ++ [cEvt (now S1, Int32.ofNat kind, node, tok)]
      rw [List.map_append]; rfl
    · intro k k1 k2 k3
      have : k = 2 ∨ k = 3 ∨ k = 4 := by omega
      rcases this with rfl | rfl | rfl <;> rfl
    · obtain ⟨x, h2⟩ := b
      have hb' : SP E B F R (u_lg (g_add (g_mk S1 1 4) 5 (s_lg S1).length) (s_lg S1 ++ [(now S1, Int32.ofNat kind, node, tok)])) h2 := hb
      show okk (gR h2 (some (F 0)) 1 7 _) _
      rw [r_ref hb' (by decide) (by decide), r_arr hb' (k := 7) (Or.inl rfl) hk]
      obtain ⟨h3, a1, a2⟩ := w_arr hb' (k := 7) (v := s_ar S1 2 kind + 1) (Or.inl rfl) hk
      rw [show s_ar (u_lg (g_add (g_mk S1 1 4) 5 (s_lg S1).length) (s_lg S1 ++ [(now S1, Int32.ofNat kind, node, tok)])) (arX 7) kind + (1 : Int32) = s_ar S1 2 kind + 1 from rfl, a2]
      exact ⟨_, rfl, a1⟩
  unfold f_X2_note
  rw [r_ref hS (by decide) (by decide), r_lsv hS (by decide) (by decide), cl_eq (r_size hS (by decide) (by decide))]
  obtain ⟨md, e, g1, g2⟩ := hS.lst (k := 5) (by decide) (by decide)
  have hlt : (s_lg S).length < 2 ^ 31 := by
    obtain ⟨G, ad, I, g1, g2, hr⟩ := hS
    obtain ⟨-, -, -, f, -, -, -, a7, a8, -⟩ := hr.lst (li := 5) (by decide) (by decide)
    rw [len5] at a7
    omega
  rw [len5]
  unfold note at hB ⊢
  by_cases h200 : (s_lg S).length = 200
  · rw [if_pos (by rw [h200]; rfl)]
    rw [if_pos h200] at hB ⊢
    rw [r_ref hS (by decide) (by decide), r_lsv hS (by decide) (by decide)]
    refine okk_cl ((l_rem hS (S' := u_lg S (s_lg S).tail) (li := 5) (j := 0) ⟨rfl, rfl, rfl, rfl, rfl, rfl⟩ (by decide) (by decide) (by rw [len5]; omega) ?_ ?_).mono fun b hb => ?_)
    · show ((s_lg S).tail).map cEvt = ((s_lg S).map cEvt).eraseIdx 0
      rw [List.eraseIdx_zero, List.map_tail]
    · intro k k1 k2 k3
      have : k = 2 ∨ k = 3 ∨ k = 4 := by omega
      rcases this with rfl | rfl | rfl <;> rfl
    · exact tail hb hB
  · rw [if_neg (show ¬ Int32.ofNat (s_lg S).length = 200 from fun hx => h200 ((of_inj hlt (by decide)).mp hx))]
    rw [if_neg h200] at hB ⊢
    exact tail hS hB
theorem ycI_at {β : Type} {a b n0 n1 sp dp n t : Nat} {f g : Nat → Int32} {K : PH → Option β} (e : h.1 a = some (.inl (h.2.1.2.1 t, n0, .inl f))) (e' : h.1 b = some (.inl (h.2.1.2.1 t, n1, .inl g))) (hb : pbase h ≤ a) (hb' : pbase h ≤ b) (l1 : sp + n ≤ n0) (l2 : dp + n ≤ n1) (s1 : sp < 2 ^ 31) (s2 : dp < 2 ^ 31) (s3 : n < 2 ^ 31) :
    ycI h (some a) (Int32.ofNat sp) (some b) (Int32.ofNat dp) (Int32.ofNat n) t (fun _ => true) K = K (p_set h b (.inl (h.2.1.2.1 t, n1, .inl (va_cpy f g sp dp n)))) := by
  have z : ∀ m : Nat, m < 2 ^ 31 → ¬ Int32.ofNat m < 0 := fun m hm => by
    rw [show (0 : Int32) = Int32.ofNat 0 from rfl, of_lt hm (by omega)]
    omega
  simp only [ycI, cR_, cA_, e, e', if_true]
  rw [clamp9 s1, clamp9 s2, clamp9 s3]
  exact if_pos ⟨z _ s1, z _ s2, z _ s3, l1, l2, hb, hb', List.all_eq_true.mpr fun i hi => rfl⟩
theorem ycI_at0 {β : Type} {a b n0 n1 n t : Nat} {f g : Nat → Int32} {K : PH → Option β} (e : h.1 a = some (.inl (h.2.1.2.1 t, n0, .inl f))) (e' : h.1 b = some (.inl (h.2.1.2.1 t, n1, .inl g))) (hb : pbase h ≤ a) (hb' : pbase h ≤ b) (l1 : n ≤ n0) (l2 : n ≤ n1) (s3 : n < 2 ^ 31) :
    ycI h (some a) (0 : Int32) (some b) (0 : Int32) (Int32.ofNat n) t (fun _ => true) K = K (p_set h b (.inl (h.2.1.2.1 t, n1, .inl (va_cpy f g 0 0 n)))) := ycI_at (sp := 0) (dp := 0) e e' hb hb' (by omega) (by omega) (by decide) (by decide) s3
/-- the k-th of len numbers -/
def num (f : Nat → Int32) (len k : Nat) : Int32 := if k < len then f k else 0
theorem gle_send {S : SS} {kind node len : Nat} {a b c : Int32} : gle (g_mk S 1 len) (send S kind node len a b c) := by
  unfold send
  dsimp only
  split
  · exact (gle_mk (S := g_mk S 1 len)).tr gle_add
  · exact gle.rf
theorem m_send {kind node len nb : Nat} {f : Nat → Int32} {a b c : Int32} (hS : SP E B F R (g_mk S 1 len) h) (hw : W1 S) (hk : kind < 9) (hn : node < s_n S) (hl : len ≤ 3) (hnb : R nb = some (.inl (E.2.1 0, len, .inl f))) (hnb2 : E.2.2.1 ≤ nb) (ea : num f len 0 = a) (eb : num f len 1 = b) (ec : num f len 2 = c) (hB : fitB B (send S kind node len a b c)) (hB2 : B.2 < 2 ^ 25) :
    okk (f_X2_send (some (F 0)) (some (sAd E kind)) (Int32.ofNat node) (some nb) h) (fun b9 => SP E B F R (send S kind node len a b c) b9.2) := by
  have hn' : node < s_n (g_mk S 1 len) := hn
  obtain ⟨x, hx⟩ : ∃ x, lcg (s_sc S 9) = x := ⟨_, rfl⟩
  unfold send at hB ⊢
  dsimp only at hB ⊢
  rw [hx] at hB ⊢
  unfold f_X2_send
  rw [r_sc hS (by decide) (by decide), dvL_at (by decide)]
  obtain ⟨h2, a1, a2⟩ := w_sc hS (k := 9) (v := x) (by decide) (by decide)
  rw [show Value.int ((((1103515245 : Int64) * ((s_sc (g_mk S 1 len) 9).toInt64)) + (12345 : Int64)) - (((1103515245 : Int64) * ((s_sc (g_mk S 1 len) 9).toInt64)) + (12345 : Int64)) / (2147483648 : Int64) * (2147483648 : Int64)).toInt32 = Value.int x from congrArg Value.int hx, a2]
  rw [r_sc a1 (by decide) (by decide), r_ref a1 (by decide) (by decide), r_nds a1 hn', r_ndN a1 hn' (by decide) (by decide), r_sc a1 (by decide) (by decide), dvI_at (by decide), r_of a1, r_cf a1 (by decide) (by decide), dvI_at (show s_cf (u_sc (g_mk S 1 len) 9 x) 7 + 1 ≠ 0 from hw.2.1), r_sc a1 (by decide) (by decide)]
  rw [show s_sc (u_sc (g_mk S 1 len) 9 x) 9 = x from rfl]
  rw [show s_sc (u_sc (g_mk S 1 len) 9 x) 8 + s_nd (u_sc (g_mk S 1 len) 9 x) node 1 + (x / 65536 - x / 65536 / (s_cf (u_sc (g_mk S 1 len) 9 x) 7 + 1) * (s_cf (u_sc (g_mk S 1 len) 9 x) 7 + 1)) = now S + s_nd S node 1 + jit x (s_cf S 7) from rfl]
  obtain ⟨T, hT⟩ : ∃ T, now S + s_nd S node 1 + jit x (s_cf S 7) = T := ⟨_, rfl⟩
  rw [hT] at hB ⊢
  obtain ⟨h11, b1, b2⟩ := w_sc a1 (k := 10) (v := s_sc S 10 + 1) (by decide) (by decide)
  rw [show Value.int (s_sc (u_sc (g_mk S 1 len) 9 x) 10 + 1) = Value.int (s_sc S 10 + 1) from rfl, b2]
  rw [r_ref b1 (by decide) (by decide), r_nds b1 hn', r_ndN b1 hn' (by decide) (by decide)]
  by_cases hcut : s_nd S node 4 = 0
  · rw [if_pos (show s_nd (u_sc (u_sc (g_mk S 1 len) 9 x) 10 (s_sc S 10 + 1)) node 4 = 0 from hcut)]
    rw [if_pos hcut] at hB ⊢
    have hle : gle (g_mk (u_sc (u_sc (g_mk S 1 len) 9 x) 10 (s_sc S 10 + 1)) 2 10) (u_ms (g_add (g_mk (u_sc (u_sc (g_mk S 1 len) 9 x) 10 (s_sc S 10 + 1)) 2 10) 2 (s_ms S).length) (s_ms S ++ [(kind, node, s_sc S 10 + 1, a, b, c, T)])) := gle_add (S := g_mk (u_sc (u_sc (g_mk S 1 len) 9 x) 10 (s_sc S 10 + 1)) 2 10)
    have hf1 := hB.le hle
    have rm := b1.room
    have p1 := hf1.1
    have p2 := hf1.2
    rw [gh_mk0] at p1
    rw [gh_mk1] at p2
    have hbs := b1.base
    have ro1 : 1 ≤ pcl h11 := by have := rm.1; omega
    have ro2 : 3 ≤ psl h11 := by have := rm.2; omega
    rw [show (3 : Int32) = Int32.ofNat 3 from rfl, nA_at (by decide) ro1 ro2]
    have nb1 := (b1.tr hnb)
    have hpn : E.2.2.1 ≤ pn h11 := by have := hbs.2.1; have e9 := hbs.1; have : h11.2.1.2.2.1 ≤ pn h11 := this; rw [e9] at this; exact this
    have hbase : h11.2.1.2.2.1 = E.2.2.1 := by rw [hbs.1]
    have hcls : h11.2.1.2.1 0 = E.2.1 0 := by rw [hbs.1]
    have c1 : (p_new h11 (.inl (h11.2.1.2.1 0, 3, .inl fun _ => 0)) 3).1 nb = some (.inl (h11.2.1.2.1 0, len, .inl f)) := by rw [pn_ne (Nat.ne_of_lt nb1.2), nb1.1, hcls]
    have c2 : (p_new h11 (.inl (h11.2.1.2.1 0, 3, .inl fun _ => 0)) 3).1 (pn h11) = some (.inl (h11.2.1.2.1 0, 3, .inl fun _ => 0)) := pn_at
    rw [aN_at (h := p_new h11 (.inl (h11.2.1.2.1 0, 3, .inl fun _ => 0)) 3) c1]
    rw [ycI_at0 (h := p_new h11 (.inl (h11.2.1.2.1 0, 3, .inl fun _ => 0)) 3) c1 c2 (show h11.2.1.2.2.1 ≤ nb by rw [hbase]; exact hnb2) (show h11.2.1.2.2.1 ≤ pn h11 by rw [hbase]; exact hpn) (by omega) (by omega) (by omega)]
    rw [show p_set (p_new h11 (.inl (h11.2.1.2.1 0, 3, .inl fun _ => 0)) 3) (pn h11) (.inl ((p_new h11 (.inl (h11.2.1.2.1 0, 3, .inl fun _ => 0)) 3).2.1.2.1 0, 3, .inl (va_cpy f (fun _ => 0) 0 0 len))) = p_new h11 (.inl (h11.2.1.2.1 0, 3, .inl (va_cpy f (fun _ => 0) 0 0 len))) 3 from ps_pn]
    have d1 := b1.mk (.inl (h11.2.1.2.1 0, 3, .inl (va_cpy f (fun _ => 0) 0 0 len))) 3 ro1 ro2
    rw [r_ref d1 (by decide) (by decide)]
    have rm2 := d1.room
    rw [gh_mk0, gh_mk1] at rm2
    have ro3 : 1 ≤ pcl (p_new h11 (.inl (h11.2.1.2.1 0, 3, .inl (va_cpy f (fun _ => 0) 0 0 len))) 3) := by have := rm2.1; omega
    have ro4 : 7 ≤ psl (p_new h11 (.inl (h11.2.1.2.1 0, 3, .inl (va_cpy f (fun _ => 0) 0 0 len))) 3) := by have := rm2.2; omega
    rw [nO_at ro3 ro4, r_sc (d1.mk _ 7 ro3 ro4) (by decide) (by decide)]
    have e3 : (p_new h11 (.inl (h11.2.1.2.1 0, 3, .inl (va_cpy f (fun _ => 0) 0 0 len))) 3).1 (pn h11) = some (.inl (h11.2.1.2.1 0, 3, .inl (va_cpy f (fun _ => 0) 0 0 len))) := pn_at
    rw [cl_eq (i_msg (h := p_new h11 (.inl (h11.2.1.2.1 0, 3, .inl (va_cpy f (fun _ => 0) 0 0 len))) 3) (ka := sAd E) (k := kind) d1.base.2.1 e3 (Nat.lt_succ_self _) (show h11.2.1.2.2.1 ≤ pn h11 by rw [hbase]; exact hpn))]
    have n0 : ∀ k : Nat, va_cpy f (fun _ => 0) 0 0 len k = num f len k := by
      intro k
      show (if 0 ≤ k ∧ k < 0 + len then f (0 + (k - 0)) else 0) = if k < len then f k else 0
      by_cases hk : k < len
      · rw [if_pos (by omega), if_pos hk]; congr 1; omega
      · rw [if_neg (by omega), if_neg hk]
    rw [n0, n0, n0, ea, eb, ec]
    rw [r_lsv (d1.mk _ 7 ro3 ro4) (by decide) (by decide)]
    refine okk_cl ((l_addn d1 (S' := u_ms (g_add (g_mk (u_sc (u_sc (g_mk S 1 len) 9 x) 10 (s_sc S 10 + 1)) 2 10) 2 (s_ms S).length) (s_ms S ++ [(kind, node, s_sc S 10 + 1, a, b, c, T)])) (li := 2) (N := 7) (by decide) (by decide) ?_ ?_ ?_ (by decide) hB hB2).mono fun b9 hb9 => ?_)
    · rw [len2, g_mk_mk]
      exact ⟨rfl, rfl, rfl, rfl, rfl, rfl⟩
    · show (s_ms S ++ [(kind, node, s_sc S 10 + 1, a, b, c, T)]).map (cMsg (sAd E)) = (s_ms S).map (cMsg (sAd E)) ++ _
      rw [List.map_append]; rfl
    · intro k k1 k2 k3
      have : k = 3 ∨ k = 4 ∨ k = 5 := by omega
      rcases this with rfl | rfl | rfl <;> rfl
    · refine ⟨_, rfl, hb9.less fun b' e' hb' => ?_⟩
      have hne : b' ≠ pn h11 := Nat.ne_of_lt (b1.tr hb').2
      show (if b' = pn h11 then _ else R b') = some e'
      rw [if_neg hne]; exact hb'
  · rw [if_neg (show ¬ s_nd (u_sc (u_sc (g_mk S 1 len) 9 x) 10 (s_sc S 10 + 1)) node 4 = 0 from hcut)]
    rw [if_neg hcut] at hB ⊢
    rw [r_sc b1 (by decide) (by decide)]
    obtain ⟨h27, d1, d2⟩ := w_sc b1 (k := 11) (v := s_sc S 11 + 1) (by decide) (by decide)
    rw [show Value.int (s_sc (u_sc (u_sc (g_mk S 1 len) 9 x) 10 (s_sc S 10 + 1)) 11 + 1) = Value.int (s_sc S 11 + 1) from rfl, d2]
    exact ⟨_, rfl, d1⟩
end MS
