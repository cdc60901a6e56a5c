/-! THE TWIN's LAW, 47: runs by a seed -/
set_option maxRecDepth 100000
set_option maxHeartbeats 400000
def s_sd (x : Int32) : Int32 := x * 1103515245 + 12345
def s_u (x : Int32) : Nat := ((s_sd x).toUInt32 >>> 16).toNat
theorem s_u_lt (x : Int32) : s_u x < 65536 := by
  unfold s_u
  rw [UInt32.toNat_shiftRight]
  have : (s_sd x).toUInt32.toNat < 2 ^ 32 := UInt32.toNat_lt _
  rw [Nat.shiftRight_eq_div_pow]
  show (s_sd x).toUInt32.toNat / 2 ^ 16 < 65536
  omega
theorem s_u_I (x : Int32) : ((s_sd x).toUInt32 >>> ((16 : Int32).toUInt32 &&& Int32.toUInt32 31)).toInt32 = nI (s_u x) := by
  have e : ((16 : Int32).toUInt32 &&& Int32.toUInt32 31) = 16 := by decide
  rw [e]
  unfold s_u nI
  generalize (s_sd x).toUInt32 >>> 16 = y
  apply Int32.toBitVec_inj.mp
  show y.toBitVec = BitVec.ofNat 32 y.toBitVec.toNat
  simp
/-- a name that is drawn -/
def s_drawName (N : s_R) (s2 : Int32) : Nat := if 0 < s_u (s_sd s2) % 3 ∧ s_len (n_sw N (s_u s2 % n_serves N)) < 4 then 27 * n_sw N (s_u s2 % n_serves N) + s_u (s_sd s2) % 3 else n_sw N (s_u s2 % n_serves N)
def s_drawAsk (N : s_R) (lk : Nat → Option Nat) (k w : Nat) (s1 : Int32) (G : s_G) : s_G := (s_does N lk ((if w < 4 then 0 else 1), nI (s_u s1 % n_nodes N), nI (s_drawName N (s_sd s1))) k G).getD G
def s_drawWait (N : s_R) (lk : Nat → Option Nat) (k : Nat) (s1 : Int32) (G : s_G) : s_G := (s_does N lk (2, nI (1 + s_u s1 % 5), -1) k G).getD G
def s_drawTurn (N : s_R) (lk : Nat → Option Nat) (s1 : Int32) (G : s_G) : s_G := (s_chg N lk (n_la N (s_u s1 % n_links N)) (n_lb N (s_u s1 % n_links N)) (!s_bit (g_down G) (nI (s_u s1 % n_links N))) G).getD G
def s_drawW (N : s_R) (lk : Nat → Option Nat) (k w : Nat) (s1 : Int32) (G : s_G) : Int32 × s_G :=
  if w < 5 then (if 0 < n_serves N then (s_sd (s_sd (s_sd s1)), s_drawAsk N lk k w s1 G) else (s1, G))
  else if w < 9 then (s_sd s1, s_drawWait N lk k s1 G)
  else if 0 < n_links N then (s_sd s1, s_drawTurn N lk s1 G)
  else (s1, G)
/-- a deed that is drawn: seed and run -/
def s_drawDeed (N : s_R) (lk : Nat → Option Nat) (k : Nat) (p : Int32 × s_G) : Int32 × s_G := s_drawW N lk k (s_u p.1 % 10) (s_sd p.1) p.2
def s_drawn (N : s_R) (lk : Nat → Option Nat) (n : Nat) (p : Int32 × s_G) : Int32 × s_G := s_fold (s_drawDeed N lk) 0 n p
def q_drawn (T : s_T) (c : Nat → Nat → Int32) (n seed times what : Int32) : Int32 := if 0 ≤ times ∧ times ≤ 60 then (match s_row (u_nets T.1) n with
  | none => -2
  | some N => q_ofState N (s_drawn N (s_lk0 N none) (v_ times) (seed, s_begin c)).2 what) else -2
section T77
variable {σ σ' : t_S} {N R L : s_R} {T : s_T} {lk : Nat → Option Nat} {G G' : s_G} {A : Nat → Bool} {K : Nat} {W : s_W} {t : Nat}
theorem p_draw {m : Nat} (hm : 0 < m) (hm2 : m < 2 ^ 31) : D_draw (nI m) σ = some (nI (s_u (t_i σ 85) % m), t_si σ 85 (s_sd (t_i σ 85))) := by
  unfold D_draw
  have h0 : ¬ nI m = 0 := nI_ne0 hm hm2
  have hu := s_u_lt (t_i σ 85)
  rw [x_lS, x_gS h0]
  have e : t_i (t_si σ 85 (t_i σ 85 * 1103515245 + 12345)) 85 = s_sd (t_i σ 85) := by rw [t_i_si, if_pos rfl]; rfl
  rw [e, s_u_I, nI_mod (by omega) hm2]
  rfl
/-- the seed may change with all else the same -/
theorem t_rel_seed {x : Int32} (h : t_rel σ N lk G) : t_rel (t_si σ 85 x) N lk G := by
  obtain ⟨⟨h1, h2, h3, h4⟩, h5, h6, h7, h8, ⟨w1, w2, w3⟩, h9, c1, c2, c3, c4, c5, c6⟩ := h
  exact ⟨⟨t_net_si (by decide) h1, h2, h3, h4⟩, h5, h6, h7, h8, ⟨w1, w2, w3⟩, h9, c1, c2, c3, c4, c5, c6⟩
theorem s_wn_more {n m : Nat} (h : s_vn n) (hm : 0 < m ∧ m < 3) (hl : s_len n < 4) : s_wn (nI (27 * n + m)) ∧ 27 * n + m < 27 ^ 4 := by
  obtain ⟨h1, h2, h3⟩ := h
  have h27 : n < 27 ^ 3 := s_len_lt 3 (by omega)
  have hlt : 27 * n + m < 27 ^ 4 := by
    have : (27 : Nat) ^ 4 = 27 * 27 ^ 3 := by decide
    omega
  refine ⟨⟨?_, ?_⟩, hlt⟩
  · rw [v_nI (by omega)]
  · rw [v_nI (by omega)]
    refine ⟨by omega, hlt, fun d hd => ?_⟩
    rw [s_letS (by omega), show (27 * n + m) / 27 = n by omega, show (27 * n + m) % 27 = m by omega] at hd
    rcases List.mem_append.mp hd with q | q
    · exact h3 d q
    · rw [List.mem_singleton.mp q]; omega
theorem n_sw_vn (hN : n_ok N) {k : Nat} (hk : k < n_serves N) : s_vn (n_sw N k) := (hN.2.2.2.2.2.2.2.2.2 k hk).2.1.2
theorem s_inv_getD {d : s_Dd} {k : Nat} (h : s_inv N k W t t [] 0 0 0 G) (hN : n_ok N) (hlk : s_lkok N lk) (hk : k < 60) (hd : d_ok d) : ∃ W' t', s_inv N (k + 1) W' t' t' [] 0 0 0 ((s_does N lk d k G).getD G) := by
  cases hs : s_does N lk d k G with
  | none => exact ⟨W, t, h.ext (by omega) (fun _ _ => rfl)⟩
  | some G' => exact h.does hN hlk hk hd hs
theorem s_chg_or {a b : Nat} {cut : Bool} : (s_chg N lk a b cut G).getD G = G ∨ ∃ l, (s_chg N lk a b cut G).getD G = s_turn l cut G := by
  unfold s_chg
  by_cases c : a < n_nodes N ∧ b < n_nodes N
  · rw [if_pos c]
    cases lk (6 * a + b) with
    | none => exact Or.inl rfl
    | some l =>
      show Option.getD (if s_bit (g_down G) (nI l) = cut then none else some (s_turn l cut G)) G = G ∨ ∃ l', Option.getD (if s_bit (g_down G) (nI l) = cut then none else some (s_turn l cut G)) G = s_turn l' cut G
      by_cases d : s_bit (g_down G) (nI l) = cut
      · rw [if_pos d]; exact Or.inl rfl
      · rw [if_neg d]; exact Or.inr ⟨l, rfl⟩
  · rw [if_neg c]; exact Or.inl rfl
theorem s_inv_chg {a b : Nat} {cut : Bool} {k : Nat} (h : s_inv N k W t t [] 0 0 0 G) : ∃ W' t', s_inv N (k + 1) W' t' t' [] 0 0 0 ((s_chg N lk a b cut G).getD G) := by
  have h1 := h.ext (K' := k + 1) (W' := W) (by omega) (fun _ _ => rfl)
  rcases s_chg_or (N := N) (lk := lk) (G := G) (a := a) (b := b) (cut := cut) with e | ⟨l, e⟩
  · rw [e]; exact ⟨W, t, h1⟩
  · rw [e]; exact ⟨W, t, h1.congr (G' := s_turn l cut G) rfl rfl rfl⟩
/-- an ask that is drawn -/
theorem p_drawAsk {k w : Nat} (h : t_rel σ N lk G) (hN : n_ok N) (hlk : s_lkok N lk) (hk : k < 60) (hi : s_inv N k W t t [] 0 0 0 G) (ds : 0 < n_serves N) (hw : w < 10) : ∃ σ', (x_b2 (D_draw (t_i σ 23) σ) fun r37 σ38 => x_b (D_serves σ38) fun r40 => x_b2 (D_draw r40 σ38) fun r42 σ43 => x_b (D_serveAt r42 (1 : Int32) σ43) fun r45 => x_b2 (D_draw (3 : Int32) σ43) fun r47 σ48 => x_l (fun (s49 : Int32) => x_l (fun (s50 : Int32) => x_b2 (D_does s50 r37 s49 (nI k) σ48) fun r52 σ53 => some σ53) fun J90 => if (4 : Int32) ≤ nI w then (J90 (1 : Int32)) else J90 (0 : Int32)) fun J77 => x_l (J77 r45) fun J75 => if r47 ≤ 0 then (J75) else x_b (D_lettersOf r45) fun r57 => if (4 : Int32) ≤ r57 then (J75) else J77 (((27 : Int32) * r45) + r47)) = some σ' ∧ t_rel σ' N lk (s_drawAsk N lk k w (t_i σ 85) G) ∧ t_i σ' 85 = s_sd (s_sd (s_sd (t_i σ 85))) ∧ t_keep σ σ' ∧ ∃ W' t', s_inv N (k + 1) W' t' t' [] 0 0 0 (s_drawAsk N lk k w (t_i σ 85) G) := by
  obtain ⟨c1, c2, c3, c4, c5, c6⟩ := n_counts hN
  have hnn : N 0 = nI (n_nodes N) ∧ n_nodes N ≤ 6 := hN.1.1
  have hn1 : 1 ≤ n_nodes N := hN.1.2
  generalize hs1 : t_i σ 85 = s1
  have hrel2 : t_rel (t_si σ 85 (s_sd s1)) N lk G := t_rel_seed h
  have h85b : t_i (t_si σ 85 (s_sd s1)) 85 = s_sd s1 := by rw [t_i_si, if_pos rfl]
  rw [h.1.2.2.1, hnn.1, p_draw hn1 (by omega), x_b2S, hs1, p_serves hrel2.1.1, x_bS, c3, p_draw ds (by omega), x_b2S, h85b]
  have hrel3 : t_rel (t_si (t_si σ 85 (s_sd s1)) 85 (s_sd (s_sd s1))) N lk G := t_rel_seed hrel2
  have h85c : t_i (t_si (t_si σ 85 (s_sd s1)) 85 (s_sd (s_sd s1))) 85 = s_sd (s_sd s1) := by rw [t_i_si, if_pos rfl]
  have hv := Nat.mod_lt (s_u (s_sd s1)) ds
  have hnode := Nat.mod_lt (s_u s1) (show n_nodes N > 0 by omega)
  obtain ⟨b1, b2, b3, b4, b5, b6, b7⟩ := n_sv_b hN hv
  have hvn := n_sw_vn hN hv
  rw [p_serve1 hrel3.1.1 hN hv, x_bS, show (3 : Int32) = nI 3 from rfl, p_draw (m := 3) (by omega) (by omega), x_b2S, h85c]
  have hrel4 : t_rel (t_si (t_si (t_si σ 85 (s_sd s1)) 85 (s_sd (s_sd s1))) 85 (s_sd (s_sd (s_sd s1)))) N lk G := t_rel_seed hrel3
  have h85d : t_i (t_si (t_si (t_si σ 85 (s_sd s1)) 85 (s_sd (s_sd s1))) 85 (s_sd (s_sd (s_sd s1)))) 85 = s_sd (s_sd (s_sd s1)) := by rw [t_i_si, if_pos rfl]
  have hkp : t_keep σ (t_si (t_si (t_si σ 85 (s_sd s1)) 85 (s_sd (s_sd s1))) 85 (s_sd (s_sd (s_sd s1)))) := fun _ _ _ => rfl
  have hmore := Nat.mod_lt (s_u (s_sd (s_sd s1))) (show 3 > 0 by omega)
  unfold s_drawAsk s_drawName
  generalize t_si (t_si (t_si σ 85 (s_sd s1)) 85 (s_sd (s_sd s1))) 85 (s_sd (s_sd (s_sd s1))) = s4 at hrel4 h85d hkp ⊢
  generalize s_u (s_sd (s_sd s1)) % 3 = more at hmore ⊢
  generalize s_u s1 % n_nodes N = node at hnode ⊢
  generalize n_sw N (s_u (s_sd s1) % n_serves N) = name at b6 hvn ⊢
  generalize s_sd (s_sd (s_sd s1)) = sx at h85d ⊢
  -- the deed itself
  have fin : ∀ nm : Nat, s_wn (nI nm) → ∃ σ', (x_l (fun (s50 : Int32) => x_b2 (D_does s50 (nI node) (nI nm) (nI k) s4) fun r52 σ53 => some σ53) fun J90 => if (4 : Int32) ≤ nI w then (J90 (1 : Int32)) else J90 (0 : Int32)) = some σ' ∧ t_rel σ' N lk ((s_does N lk ((if w < 4 then 0 else 1), nI node, nI nm) k G).getD G) ∧ t_i σ' 85 = sx ∧ t_keep σ σ' ∧ ∃ W' t', s_inv N (k + 1) W' t' t' [] 0 0 0 ((s_does N lk ((if w < 4 then 0 else 1), nI node, nI nm) k G).getD G) := by
    intro nm hnm
    have go : ∀ x : Int32, x = 0 ∨ x = 1 → ∃ σ', (x_b2 (D_does x (nI node) (nI nm) (nI k) s4) fun r52 σ53 => some σ53) = some σ' ∧ t_rel σ' N lk ((s_does N lk (x, nI node, nI nm) k G).getD G) ∧ t_i σ' 85 = sx ∧ t_keep σ σ' ∧ ∃ W' t', s_inv N (k + 1) W' t' t' [] 0 0 0 ((s_does N lk (x, nI node, nI nm) k G).getD G) := by
      intro x hx
      have hd : d_ok (x, nI node, nI nm) := Or.inl ⟨hx, ⟨node, by omega, rfl⟩, hnm⟩
      obtain ⟨s5, e1, e2, e3⟩ := p_does hrel4 hN hlk hk hi hd
      have e1' : D_does x (nI node) (nI nm) (nI k) s4 = _ := e1
      exact ⟨s5, by rw [e1', x_b2S], e2, (e3.1 85 (by omega)).trans h85d, hkp.trans e3.keep, s_inv_getD hi hN hlk hk hd⟩
    rw [x_lS]
    by_cases w4 : w < 4
    · rw [if_neg (show ¬ (4 : Int32) ≤ nI w from nI_ge (a := w) (b := 4) w4 (by omega)), if_pos w4]
      exact go 0 (Or.inl rfl)
    · rw [if_pos (show (4 : Int32) ≤ nI w from nI_le (a := 4) (by omega) (by omega)), if_neg w4]
      exact go 1 (Or.inr rfl)
  have hname : s_wn (nI name) := ⟨by rw [v_nI (by omega)], by rw [v_nI (by omega)]; exact hvn⟩
  rw [x_lS, x_lS]
  by_cases m0 : 0 < more
  · have h7 := s_len7 (show name < 2 ^ 31 by omega)
    rw [if_neg (show ¬ nI more ≤ 0 from nI_nle m0 (by omega)), p_lettersOf (by omega), x_bS]
    by_cases m1 : s_len name < 4
    · rw [if_neg (show ¬ (4 : Int32) ≤ nI (s_len name) from nI_ge (a := s_len name) (b := 4) m1 (by omega)), if_pos (show 0 < more ∧ s_len name < 4 from ⟨m0, m1⟩), show (27 : Int32) = nI 27 from rfl, nI_mul, nI_add]
      exact fin _ (s_wn_more hvn ⟨m0, hmore⟩ m1).1
    · rw [if_pos (show (4 : Int32) ≤ nI (s_len name) from nI_le (a := 4) (by omega) (by omega)), if_neg (show ¬ (0 < more ∧ s_len name < 4) from fun z => m1 z.2)]
      exact fin _ hname
  · rw [if_pos (show nI more ≤ 0 by rw [show more = 0 by omega, nI_0]; exact Int32.le_refl _), if_neg (show ¬ (0 < more ∧ s_len name < 4) from fun z => m0 z.1)]
    exact fin _ hname
theorem s_wait_eq {k x : Nat} (hx : x < 5) (hi : s_inv N k W t t [] 0 0 0 G) : (s_does N lk (2, nI (1 + x), -1) k G).getD G = if t + (1 + x) ≤ 99 then s_goMany N lk (1 + x) G else G := by
  have vt : v_ (g_minute G) = t := by rw [hi.1.1.1]; exact v_nI (by have := hi.1.1.2.2; omega)
  have vm : v_ (nI (1 + x)) = 1 + x := v_nI (by omega)
  unfold s_does
  rw [if_neg (show ¬ ((2 : Int32) = 0 ∨ (2 : Int32) = 1) by decide), if_pos (show (2 : Int32) = 2 from rfl), vt, vm]
  by_cases c : t + (1 + x) ≤ 99
  · rw [if_pos c, if_pos c]; rfl
  · rw [if_neg c, if_neg c]; rfl
theorem p_drawWait {k x : Nat} (hx : x < 5) (h : t_rel σ N lk G) (hN : n_ok N) (hlk : s_lkok N lk) (hk : k < 60) (hi : s_inv N k W t t [] 0 0 0 G) : ∃ σ', (x_b2 (D_waits ((1 : Int32) + nI x) σ) fun r31 σ32 => some σ32) = some σ' ∧ t_rel σ' N lk ((s_does N lk (2, nI (1 + x), -1) k G).getD G) ∧ t_i σ' 85 = t_i σ 85 ∧ t_keep σ σ' ∧ ∃ W' t', s_inv N (k + 1) W' t' t' [] 0 0 0 ((s_does N lk (2, nI (1 + x), -1) k G).getD G) := by
  have hd : d_ok (2, nI (1 + x), -1) := Or.inr (Or.inl ⟨rfl, _, by omega, by omega, rfl⟩)
  have hii := s_inv_getD hi hN hlk hk hd
  obtain ⟨s5, e1, e2, e3⟩ := p_waits (m := 1 + x) h hN hlk (show k ≤ 60 by omega) hi (by omega)
  rw [← s_wait_eq hx hi] at e2
  refine ⟨s5, ?_, e2, e3.1 85 (by omega), e3.keep, hii⟩
  rw [show (1 : Int32) = nI 1 from rfl, nI_add, e1, x_b2S]
theorem p_drawWaitB {k : Nat} (h : t_rel σ N lk G) (hN : n_ok N) (hlk : s_lkok N lk) (hk : k < 60) (hi : s_inv N k W t t [] 0 0 0 G) : ∃ σ', (x_b2 (D_draw (5 : Int32) σ) fun r28 σ29 => x_b2 (D_waits ((1 : Int32) + r28) σ29) fun r31 σ32 => some σ32) = some σ' ∧ t_rel σ' N lk (s_drawWait N lk k (t_i σ 85) G) ∧ t_i σ' 85 = s_sd (t_i σ 85) ∧ t_keep σ σ' ∧ ∃ W' t', s_inv N (k + 1) W' t' t' [] 0 0 0 (s_drawWait N lk k (t_i σ 85) G) := by
  have hd := p_draw (σ := σ) (m := 5) (by omega) (by omega)
  have hd' : D_draw (5 : Int32) σ = some (nI (s_u (t_i σ 85) % 5), t_si σ 85 (s_sd (t_i σ 85))) := hd
  have hv := Nat.mod_lt (s_u (t_i σ 85)) (show 5 > 0 by omega)
  have hrel2 : t_rel (t_si σ 85 (s_sd (t_i σ 85))) N lk G := t_rel_seed h
  have h85b : t_i (t_si σ 85 (s_sd (t_i σ 85))) 85 = s_sd (t_i σ 85) := by rw [t_i_si, if_pos rfl]
  have hkp2 : t_keep σ (t_si σ 85 (s_sd (t_i σ 85))) := fun _ _ _ => rfl
  unfold s_drawWait
  rw [hd', x_b2S]
  generalize s_u (t_i σ 85) % 5 = x at hv ⊢
  generalize t_si σ 85 (s_sd (t_i σ 85)) = s2 at hrel2 h85b hkp2 ⊢
  generalize s_sd (t_i σ 85) = sx at h85b ⊢
  obtain ⟨s5, e1, e2, e3, e4, e5⟩ := p_drawWait hv hrel2 hN hlk hk hi
  exact ⟨s5, e1, e2, e3.trans h85b, hkp2.trans e4, e5⟩
theorem p_drawTurn {k : Nat} (h : t_rel σ N lk G) (hN : n_ok N) (hlk : s_lkok N lk) (hi : s_inv N k W t t [] 0 0 0 G) (dl : 0 < n_links N) : ∃ σ', (x_b (D_links σ) fun r10 => x_b2 (D_draw r10 σ) fun r12 σ13 => x_b (D_linkAt r12 (0 : Int32) σ13) fun r15 => x_b (D_linkAt r12 (1 : Int32) σ13) fun r17 => x_b (D_has (t_i σ13 26) r12) fun r19 => if r19 = 0 then (x_b2 (D_changes r15 r17 (1 : Int32) σ13) fun r25 σ26 => some σ26) else x_b2 (D_changes r15 r17 (0 : Int32) σ13) fun r22 σ23 => some σ23) = some σ' ∧ t_rel σ' N lk (s_drawTurn N lk (t_i σ 85) G) ∧ t_i σ' 85 = s_sd (t_i σ 85) ∧ t_keep σ σ' ∧ ∃ W' t', s_inv N (k + 1) W' t' t' [] 0 0 0 (s_drawTurn N lk (t_i σ 85) G) := by
  obtain ⟨c1, c2, c3, c4, c5, c6⟩ := n_counts hN
  generalize hs1 : t_i σ 85 = s1
  have hv := Nat.mod_lt (s_u s1) dl
  obtain ⟨b1, -, -, -, b5, b6, -⟩ := n_ln_b hN hv
  have hrel2 : t_rel (t_si σ 85 (s_sd s1)) N lk G := t_rel_seed h
  have h85b : t_i (t_si σ 85 (s_sd s1)) 85 = s_sd s1 := by rw [t_i_si, if_pos rfl]
  have hkp : t_keep σ (t_si σ 85 (s_sd s1)) := fun _ _ _ => rfl
  rw [p_links h.1.1, x_bS, c1, p_draw dl (by omega), x_b2S, hs1, p_link0 hrel2.1.1 hN hv, x_bS, p_link1 hrel2.1.1 hN hv, x_bS, p_has', x_bS, hrel2.2.1]
  unfold s_drawTurn
  generalize t_si σ 85 (s_sd s1) = s4 at hrel2 h85b hkp ⊢
  generalize s_u s1 % n_links N = l at hv b1 b5 b6 ⊢
  generalize s_sd s1 = sx at h85b ⊢
  obtain ⟨s5, e1, e2, e3⟩ := p_changes (cut := !s_bit (g_down G) (nI l)) hrel2 hN hlk b5 b6
  have hii := s_inv_chg (lk := lk) (a := n_la N l) (b := n_lb N l) (cut := !s_bit (g_down G) (nI l)) hi
  refine ⟨s5, ?_, e2, (e3.1 85 (by omega)).trans h85b, hkp.trans e3.keep, hii⟩
  cases hb : s_bit (g_down G) (nI l) with
  | true =>
    rw [hb] at e1
    have e1' : D_changes (nI (n_la N l)) (nI (n_lb N l)) 0 s4 = some (_, s5) := e1
    rw [if_pos rfl, if_neg (show ¬ (1 : Int32) = 0 by decide), e1', x_b2S]
  | false =>
    rw [hb] at e1
    have e1' : D_changes (nI (n_la N l)) (nI (n_lb N l)) 1 s4 = some (_, s5) := e1
    rw [if_neg (show ¬ (false : Bool) = true by decide), if_pos rfl, e1', x_b2S]
theorem p_drawDeed {k : Nat} (h : t_rel σ N lk G) (hN : n_ok N) (hlk : s_lkok N lk) (hk : k < 60) (hi : s_inv N k W t t [] 0 0 0 G) : ∃ σ', D_drawDeed (nI k) σ = some σ' ∧ t_rel σ' N lk (s_drawDeed N lk k (t_i σ 85, G)).2 ∧ t_i σ' 85 = (s_drawDeed N lk k (t_i σ 85, G)).1 ∧ t_keep σ σ' ∧ ∃ W' t', s_inv N (k + 1) W' t' t' [] 0 0 0 (s_drawDeed N lk k (t_i σ 85, G)).2 := by
  obtain ⟨c1, c2, c3, c4, c5, c6⟩ := n_counts hN
  unfold D_drawDeed
  rw [show (10 : Int32) = nI 10 from rfl, p_draw (m := 10) (by omega) (by omega), x_b2S]
  have hw := Nat.mod_lt (s_u (t_i σ 85)) (show 10 > 0 by omega)
  have hrel1 : t_rel (t_si σ 85 (s_sd (t_i σ 85))) N lk G := t_rel_seed h
  have h85 : t_i (t_si σ 85 (s_sd (t_i σ 85))) 85 = s_sd (t_i σ 85) := by rw [t_i_si, if_pos rfl]
  have hkp : t_keep σ (t_si σ 85 (s_sd (t_i σ 85))) := fun _ _ _ => rfl
  have hsp : s_drawDeed N lk k (t_i σ 85, G) = s_drawW N lk k (s_u (t_i σ 85) % 10) (s_sd (t_i σ 85)) G := rfl
  rw [hsp]
  unfold s_drawW
  generalize s_u (t_i σ 85) % 10 = w at hw ⊢
  generalize t_si σ 85 (s_sd (t_i σ 85)) = s0 at hrel1 h85 hkp ⊢
  generalize s_sd (t_i σ 85) = s1 at h85 ⊢
  have hex : ∃ W' t', s_inv N (k + 1) W' t' t' [] 0 0 0 G := ⟨W, t, hi.ext (by omega) (fun _ _ => rfl)⟩
  by_cases d5 : w < 5
  · rw [if_pos d5, if_neg (show ¬ (5 : Int32) ≤ nI w from nI_ge (a := w) (b := 5) d5 (by omega)), p_serves hrel1.1.1, x_bS, c3]
    by_cases ds : 0 < n_serves N
    · rw [if_pos ds, if_neg (show ¬ nI (n_serves N) ≤ 0 from nI_nle ds (by omega))]
      obtain ⟨s5, e1, e2, e3, e4, e5⟩ := p_drawAsk hrel1 hN hlk hk hi ds hw
      rw [h85] at e2 e3 e5
      exact ⟨s5, e1, e2, e3, hkp.trans e4, e5⟩
    · rw [if_neg ds, if_pos (show nI (n_serves N) ≤ 0 by rw [show n_serves N = 0 by omega, nI_0]; exact Int32.le_refl _)]
      exact ⟨s0, rfl, hrel1, h85, hkp, hex⟩
  · rw [if_neg d5, if_pos (show (5 : Int32) ≤ nI w from nI_le (a := 5) (by omega) (by omega))]
    by_cases d9 : w < 9
    · rw [if_pos d9, if_neg (show ¬ (9 : Int32) ≤ nI w from nI_ge (a := w) (b := 9) d9 (by omega))]
      obtain ⟨s5, e1, e2, e3, e4, e5⟩ := p_drawWaitB hrel1 hN hlk hk hi
      rw [h85] at e2 e3 e5
      exact ⟨s5, e1, e2, e3, hkp.trans e4, e5⟩
    · rw [if_neg d9, if_pos (show (9 : Int32) ≤ nI w from nI_le (a := 9) (by omega) (by omega)), p_links hrel1.1.1, x_bS, c1]
      by_cases dl : 0 < n_links N
      · rw [if_pos dl, if_neg (show ¬ nI (n_links N) ≤ 0 from nI_nle dl (by omega))]
        obtain ⟨s5, e1, e2, e3, e4, e5⟩ := p_drawTurn hrel1 hN hlk hi dl
        rw [h85] at e2 e3 e5
        rw [p_links hrel1.1.1, x_bS, c1] at e1
        exact ⟨s5, e1, e2, e3, hkp.trans e4, e5⟩
      · rw [if_neg dl, if_pos (show nI (n_links N) ≤ 0 by rw [show n_links N = 0 by omega, nI_0]; exact Int32.le_refl _)]
        exact ⟨s0, rfl, hrel1, h85, hkp, hex⟩
theorem p_drawn {n seed times what : Int32} (h : t_st σ T) : ∃ c σ', D_drawn n seed times what σ = some (q_drawn T c n seed times what, σ') ∧ t_keep σ σ' := by
  have h0 : t_st (t_si σ 0 0) T := h.keep t_keep.si
  unfold D_drawn q_drawn
  rw [x_lS, p_in, x_bS]
  unfold s_i
  by_cases ct : 0 ≤ times ∧ times ≤ 60
  · rw [if_pos ct, if_neg (show ¬ (1 : Int32) = 0 by decide)]
    obtain ⟨t1, t2, t3⟩ := s_between (a := 0) (b := 60) rfl rfl (by omega) (by omega) ct
    obtain ⟨σ1, a1, a2, -, -, a3⟩ := p_hasNet (k := n) h0
    have hk : t_keep σ σ1 := t_keep.si.trans a2
    rw [a1, x_b2S]
    simp only [if_pos ct]
    cases hn : s_row (u_nets T.1) n with
    | none => exact ⟨fun _ _ => 0, σ1, if_pos rfl, hk⟩
    | some N =>
      have b := a3 N hn
      have hN := u_net_ok h hn
      have hlk := s_lk0_ok (N := N) (away := none) hN
      show ∃ c σ', (if (1 : Int32) = 0 then _ else _) = some ((q_ofState N (s_drawn N (s_lk0 N none) (v_ times) (seed, s_begin c)).2 what), σ') ∧ _
      rw [if_neg (show ¬ (1 : Int32) = 0 by decide)]
      obtain ⟨σ2, d1, d2, d3⟩ := p_begin (away := none) b hN (fun j hj => by cases hj)
      have d1' : D_begin (-1) σ1 = some σ2 := d1
      rw [d1', x_bS, x_lS]
      have key := x_forS (fun k (s : t_S) (p : Int32 × s_G) => t_rel s N (s_lk0 N none) p.2 ∧ t_i s 85 = p.1 ∧ t_keep σ s ∧ ∃ W t, s_inv N k W t t [] 0 0 0 p.2) (fun f k s => D_drawn_39 times what (fun (σ21 : t_S) => x_b (D_ofState what σ21) fun r23 => some (r23, σ21)) f (nI k) s) (fun (σ21 : t_S) => x_b (D_ofState what σ21) fun r23 => some (r23, σ21)) (s_drawDeed N (s_lk0 N none)) (v_ times) ?_ ?_ x_F 0 (t_si σ2 85 seed) (seed, s_begin (t_a σ1)) (by omega) ⟨t_rel_seed d2, by rw [t_i_si, if_pos rfl], (hk.trans d3.keep).trans t_keep.si, fun _ => (0, 0), 0, s_inv_begin⟩ (by rw [x_Fv]; omega)
      · obtain ⟨s', k1, k2, k3, k4, -⟩ := key
        refine ⟨t_a σ1, s', ?_, k4⟩
        refine k1.trans ?_
        rw [p_ofState k2 hN, x_bS]
        rfl
      · intro f s p _
        show (if times ≤ nI (v_ times) then _ else _) = _
        rw [← t1, if_pos (Int32.le_refl _)]
      · intro f k s p hq hk'
        obtain ⟨q1, q2, q3, W, t, q4⟩ := hq
        obtain ⟨s1, e1, e2, e3, e4, e5⟩ := p_drawDeed q1 hN hlk (show k < 60 by omega) q4
        rw [q2] at e2 e3 e5
        refine ⟨s1, ?_, e2, e3, q3.trans e4, e5⟩
        show (if times ≤ nI k then _ else _) = _
        rw [if_neg (show ¬ times ≤ nI k by rw [t1]; exact nI_ge hk' (by omega)), e1, x_bS, x_lS, nI_1]
  · refine ⟨fun _ _ => 0, t_si σ 0 0, ?_, t_keep.si⟩
    simp only [if_neg ct]
    rw [if_pos trivial]
end T77
