/-! THE TWIN's LAW, 36: questions about a run -/
set_option maxRecDepth 100000
set_option maxHeartbeats 400000
def q_stop (T : s_T) (c : Nat → Nat → Int32) (n r : Int32) : Int32 := match s_row (u_runs T.1) r, s_row (u_nets T.1) n with
  | some R, some N => nI (s_play N (s_lk0 N none) (r_dd R) (r_cnt R) (s_begin c)).1
  | _, _ => -1
def q_laid (T : s_T) (c : Nat → Nat → Int32) (n r k : Int32) : Option (s_R × s_G) := match s_row (u_runs T.1) r, s_row (u_nets T.1) n with
  | some R, some N => if (0 ≤ k ∧ v_ k ≤ r_cnt R) ∧ (s_play N (s_lk0 N none) (r_dd R) (v_ k) (s_begin c)).1 = v_ k then some (N, (s_play N (s_lk0 N none) (r_dd R) (v_ k) (s_begin c)).2.2) else none
  | _, _ => none
def q_state (T : s_T) (c : Nat → Nat → Int32) (n r k what : Int32) : Int32 := match q_laid T c n r k with
  | none => -2
  | some p => q_ofState p.1 p.2 what
def s_ix (i : Int32) (n : Nat) : Option Nat := if 0 ≤ i ∧ v_ i < n then some (v_ i) else none
def q_dataOf (d : s_D) (what : Int32) : Int32 := if what = 0 then d.1 else if what = 1 then d.2.1 else if what = 2 then d.2.2 else -1
def q_stored (T : s_T) (c : Nat → Nat → Int32) (n r k node i what : Int32) : Int32 := match q_laid T c n r k with
  | none => -1
  | some p => match s_node p.1 node with
    | none => -1
    | some a => match s_ix i (g_ds p.2 a).length with
      | none => -1
      | some j => match (g_ds p.2 a)[j]? with
        | none => -1
        | some d => q_dataOf d what
def q_entryOf (e : s_E) (what : Int32) : Int32 := if what = 0 then e_name e else if what = 1 then e_wish e else if what = 2 then e_in e else if what = 3 then nI (s_cntB (fun k => s_hasL (e_asks e) (nI k)) 64) else if what = 4 then e_out e else if what = 5 then e_tried e else if what = 6 then e_sent e else if what = 7 then e_ends e else -1
def q_entry (T : s_T) (c : Nat → Nat → Int32) (n r k node i what : Int32) : Int32 := match q_laid T c n r k with
  | none => -1
  | some p => match s_node p.1 node with
    | none => -1
    | some a => match s_ix i (g_es p.2 a).length with
      | none => -1
      | some j => match (g_es p.2 a)[j]? with
        | none => -1
        | some e => q_entryOf e what
def q_why (T : s_T) (c : Nat → Nat → Int32) (n r k what : Int32) : Int32 := match s_row (u_runs T.1) r, s_row (u_nets T.1) n with
  | some R, some N => (match s_ix k (r_cnt R) with
    | none => -2
    | some j => if g_came (s_play N (s_lk0 N none) (r_dd R) (r_cnt R) (s_begin c)).2.2 57 j = -1 then -2 else q_ofAsk (s_play N (s_lk0 N none) (r_dd R) (r_cnt R) (s_begin c)).2.2 j what)
  | _, _ => -2
section T66
variable {σ σ' : t_S} {N R : s_R} {T : s_T} {lk : Nat → Option Nat} {G : s_G} {K : Nat} {W : s_W} {t : Nat}
theorem p_inIx {i : Int32} {n : Nat} (hn : n ≤ 4096) : D_in i 0 (nI n - 1) = some (match s_ix i n with
    | none => 0
    | some _ => 1) := by
  rw [p_in]
  unfold s_i s_ix
  by_cases c : 0 ≤ i
  · obtain ⟨e1, e2⟩ := v_of c
    by_cases c2 : v_ i < n
    · rw [if_pos (show 0 ≤ i ∧ v_ i < n from ⟨c, c2⟩), if_pos]
      refine ⟨c, ?_⟩
      rw [show (1 : Int32) = nI 1 from rfl, nI_sub (by omega), e1]
      exact nI_le (by omega) (by omega)
    · rw [if_neg (show ¬ (0 ≤ i ∧ v_ i < n) from fun q => c2 q.2), if_neg]
      rintro ⟨-, q⟩
      by_cases c3 : n = 0
      · rw [c3] at q
        exact absurd (Int32.le_trans c q) (by decide)
      · rw [show (1 : Int32) = nI 1 from rfl, nI_sub (by omega), e1] at q
        exact absurd q (nI_ge (by omega) e2)
  · rw [if_neg (fun q => c q.1), if_neg (fun q => c q.1)]
theorem s_ix_some {i : Int32} {n j : Nat} (h : s_ix i n = some j) : j < n ∧ i = nI j := by
  unfold s_ix at h
  split at h
  · rename_i c
    cases h
    exact ⟨c.2, (v_of c.1).1⟩
  · cases h
theorem p_in0 {k : Int32} {n : Nat} (hn : n ≤ 4096) : D_in k 0 (nI n) = some (if 0 ≤ k ∧ v_ k ≤ n then 1 else 0) := by
  rw [p_in]
  unfold s_i
  by_cases c : 0 ≤ k
  · obtain ⟨e1, e2⟩ := v_of c
    by_cases c2 : v_ k ≤ n
    · rw [if_pos (show 0 ≤ k ∧ v_ k ≤ n from ⟨c, c2⟩), if_pos]
      exact ⟨c, by rw [e1]; exact nI_le c2 (by omega)⟩
    · rw [if_neg (show ¬ (0 ≤ k ∧ v_ k ≤ n) from fun q => c2 q.2), if_neg]
      rintro ⟨-, q⟩
      rw [e1] at q
      exact absurd q (nI_ge (by omega) e2)
  · rw [if_neg (fun q => c q.1), if_neg (fun q => c q.1)]
theorem u_net_ok {n : Int32} (h : t_st σ T) (hn : s_row (u_nets T.1) n = some N) : n_ok N := h.1.1.2.2.2.2.1 N (s_row_some hn).2.2
theorem u_run_ok {r : Int32} (h : t_st σ T) (hr : s_row (u_runs T.1) r = some R) : r_ok R := h.1.1.2.2.2.2.2.1 R (s_row_some hr).2.2
theorem p_stop {n r : Int32} (h : t_st σ T) : ∃ c σ', D_stop n r σ = some (q_stop T c n r, σ') ∧ t_keep σ σ' := by
  have h0 : t_st (t_si σ 0 0) T := h.keep t_keep.si
  obtain ⟨σ1, a1, a2, -, a3⟩ := p_lay (n := n) (r := r) h0
  unfold D_stop q_stop
  rw [x_lS, a1, x_b2S]
  cases hr : s_row (u_runs T.1) r with
  | none => exact ⟨fun _ _ => 0, σ1, if_pos rfl, t_keep.si.trans a2⟩
  | some R =>
    cases hn : s_row (u_nets T.1) n with
    | none => exact ⟨fun _ _ => 0, σ1, if_pos rfl, t_keep.si.trans a2⟩
    | some N =>
      obtain ⟨b1, b2, c, b3⟩ := a3 R N hr hn
      have hN := u_net_ok h hn
      have hR := u_run_ok h hr
      obtain ⟨σ2, d1, d2, d3, d4, d5, d6⟩ := p_play (n := r_cnt R) (W := fun _ => (0, 0)) b3 b1 hN (s_lk0_ok hN) hR (Nat.le_refl _) s_inv_begin
      refine ⟨c, σ2, ?_, (t_keep.si.trans a2).trans d4.keep⟩
      show (if (1 : Int32) = 0 then _ else _) = _
      rw [if_neg (show ¬ (1 : Int32) = 0 by decide), p_deeds b1, x_bS, hR.1.1, d1, x_b2S]
theorem p_layState {n r k : Int32} (h : t_st σ T) : ∃ c σ', D_layState n r k σ = some ((match q_laid T c n r k with
    | none => 0
    | some _ => 1), σ') ∧ t_keep σ σ' ∧ ∀ p, q_laid T c n r k = some p → n_ok p.1 ∧ t_rel σ' p.1 (s_lk0 p.1 none) p.2 ∧ ∃ k W t, k ≤ 40 ∧ s_inv p.1 k W t t [] 0 0 0 p.2 := by
  obtain ⟨σ1, a1, a2, -, a3⟩ := p_lay (n := n) (r := r) h
  unfold D_layState q_laid
  rw [a1, x_b2S]
  cases hr : s_row (u_runs T.1) r with
  | none => exact ⟨fun _ _ => 0, σ1, if_pos rfl, a2, fun p hp => by cases hp⟩
  | some R =>
    cases hn : s_row (u_nets T.1) n with
    | none => exact ⟨fun _ _ => 0, σ1, if_pos rfl, a2, fun p hp => by cases hp⟩
    | some N =>
      obtain ⟨b1, b2, c, b3⟩ := a3 R N hr hn
      have hN := u_net_ok h hn
      have hR := u_run_ok h hr
      refine ⟨c, ?_⟩
      show ∃ σ', (if (1 : Int32) = 0 then _ else _) = _ ∧ _
      rw [if_neg (show ¬ (1 : Int32) = 0 by decide), p_deeds b1, x_bS, hR.1.1, p_in0 (by have := hR.1.2; omega), x_bS]
      by_cases c1 : 0 ≤ k ∧ v_ k ≤ r_cnt R
      · rw [if_pos c1, if_neg (show ¬ (1 : Int32) = 0 by decide)]
        obtain ⟨e1, e2⟩ := v_of c1.1
        have h40 := hR.1.2
        obtain ⟨σ2, d1, d2, d3, d4, ⟨W', t', d5⟩, d6⟩ := p_play (n := v_ k) (W := fun _ => (0, 0)) b3 b1 hN (s_lk0_ok hN) hR c1.2 s_inv_begin
        rw [← e1] at d1
        rw [d1, x_b2S]
        have hk : nI (s_play N (s_lk0 N none) (r_dd R) (v_ k) (s_begin c)).1 = k ↔ (s_play N (s_lk0 N none) (r_dd R) (v_ k) (s_begin c)).1 = v_ k := by
          conv => lhs; rhs; rw [e1]
          exact nI_eq (by omega) (by omega)
        by_cases c2 : (s_play N (s_lk0 N none) (r_dd R) (v_ k) (s_begin c)).1 = v_ k
        · rw [if_pos (hk.mpr c2)]
          simp only [if_pos (show (0 ≤ k ∧ v_ k ≤ r_cnt R) ∧ (s_play N (s_lk0 N none) (r_dd R) (v_ k) (s_begin c)).1 = v_ k from ⟨c1, c2⟩)]
          refine ⟨σ2, rfl, a2.trans d4.keep, fun p hp => ?_⟩
          cases hp
          exact ⟨hN, d2, _, W', t', by omega, d5⟩
        · rw [if_neg (fun q => c2 (hk.mp q))]
          simp only [if_neg (show ¬ ((0 ≤ k ∧ v_ k ≤ r_cnt R) ∧ (s_play N (s_lk0 N none) (r_dd R) (v_ k) (s_begin c)).1 = v_ k) from fun q => c2 q.2)]
          exact ⟨σ2, rfl, a2.trans d4.keep, fun p hp => by cases hp⟩
      · rw [if_neg c1, if_pos (show (0 : Int32) = 0 from rfl)]
        simp only [if_neg (show ¬ ((0 ≤ k ∧ v_ k ≤ r_cnt R) ∧ (s_play N (s_lk0 N none) (r_dd R) (v_ k) (s_begin c)).1 = v_ k) from fun q => c1 q.1)]
        exact ⟨σ1, rfl, a2, fun p hp => by cases hp⟩
theorem p_state {n r k what : Int32} (h : t_st σ T) : ∃ c σ', D_state n r k what σ = some (q_state T c n r k what, σ') ∧ t_keep σ σ' := by
  have h0 : t_st (t_si σ 0 0) T := h.keep t_keep.si
  obtain ⟨c, σ1, a1, a2, a3⟩ := p_layState (n := n) (r := r) (k := k) h0
  refine ⟨c, σ1, ?_, t_keep.si.trans a2⟩
  unfold D_state q_state
  rw [x_lS, a1, x_b2S]
  cases hp : q_laid T c n r k with
  | none => exact if_pos rfl
  | some p =>
    obtain ⟨p1, p2, -⟩ := a3 p hp
    show (if (1 : Int32) = 0 then _ else _) = _
    rw [if_neg (show ¬ (1 : Int32) = 0 by decide), p_ofState p2 p1, x_bS]
theorem p_stored {n r k node i what : Int32} (h : t_st σ T) : ∃ c σ', D_stored n r k node i what σ = some (q_stored T c n r k node i what, σ') ∧ t_keep σ σ' := by
  have h0 : t_st (t_si σ 0 0) T := h.keep t_keep.si
  obtain ⟨c, σ1, a1, a2, a3⟩ := p_layState (n := n) (r := r) (k := k) h0
  refine ⟨c, σ1, ?_, t_keep.si.trans a2⟩
  unfold D_stored q_stored
  rw [x_lS, a1, x_b2S]
  cases hp : q_laid T c n r k with
  | none => exact if_pos rfl
  | some p =>
    obtain ⟨p1, p2, -⟩ := a3 p hp
    show (if (1 : Int32) = 0 then _ else _) = _
    rw [if_neg (show ¬ (1 : Int32) = 0 by decide), p_isNodeS p2.1.2.2.1 p1, x_bS]
    cases ha : s_node p.1 node with
    | none => simp only [ha]; exact if_pos trivial
    | some a =>
      obtain ⟨n1, n2, n3⟩ := s_node_lt p1 ha
      have bd := (p2.2.2.2.1 a n1).2.1
      simp only [ha]
      show (if (1 : Int32) = 0 then _ else _) = _
      rw [if_neg (show ¬ (1 : Int32) = 0 by decide), n3, x_gaS n1 (by omega), bd.1, p_inIx (by have := bd.2.1; omega), x_bS]
      cases hj : s_ix i (g_ds p.2 a).length with
      | none => simp only [hj]; exact if_pos trivial
      | some j =>
        obtain ⟨j1, j2⟩ := s_ix_some hj
        have hl := bd.2.1
        obtain ⟨d, hd⟩ : ∃ d, (g_ds p.2 a)[j]? = some d := ⟨_, List.getElem?_eq_getElem j1⟩
        have e0 : a_d σ1 (6 * a + j) = d := (bd.2.2 j j1).trans (List.getElem?_eq_some_iff.mp hd).2
        have g1 : ∀ {α : Type} (kk : Nat → Option α), x_ga (nI (6 * a + j)) 36 kk = kk (6 * a + j) := fun kk => x_gaS (by omega) (by omega)
        simp only [hj, hd]
        show (if (1 : Int32) = 0 then _ else _) = _
        rw [if_neg (show ¬ (1 : Int32) = 0 by decide), x_lS, j2, show (6 : Int32) = nI 6 from rfl, nI_mul, nI_add]
        simp only [g1]
        rw [← e0]
        unfold q_dataOf a_d
        by_cases w0 : what = 0
        · rw [if_pos w0, if_pos w0]
        rw [if_neg w0, if_neg w0]
        by_cases w1 : what = 1
        · rw [if_pos w1, if_pos w1]
        rw [if_neg w1, if_neg w1]
        by_cases w2 : what = 2
        · rw [if_pos w2, if_pos w2]
        rw [if_neg w2, if_neg w2]
theorem p_entry {n r k node i what : Int32} (h : t_st σ T) : ∃ c σ', D_entry n r k node i what σ = some (q_entry T c n r k node i what, σ') ∧ t_keep σ σ' := by
  have h0 : t_st (t_si σ 0 0) T := h.keep t_keep.si
  obtain ⟨c, σ1, a1, a2, a3⟩ := p_layState (n := n) (r := r) (k := k) h0
  refine ⟨c, σ1, ?_, t_keep.si.trans a2⟩
  unfold D_entry q_entry
  rw [x_lS, a1, x_b2S]
  cases hp : q_laid T c n r k with
  | none => exact if_pos rfl
  | some p =>
    obtain ⟨p1, p2, -⟩ := a3 p hp
    show (if (1 : Int32) = 0 then _ else _) = _
    rw [if_neg (show ¬ (1 : Int32) = 0 by decide), p_isNodeS p2.1.2.2.1 p1, x_bS]
    cases ha : s_node p.1 node with
    | none => simp only [ha]; exact if_pos trivial
    | some a =>
      obtain ⟨n1, n2, n3⟩ := s_node_lt p1 ha
      have be := (p2.2.2.2.1 a n1).1
      simp only [ha]
      show (if (1 : Int32) = 0 then _ else _) = _
      rw [if_neg (show ¬ (1 : Int32) = 0 by decide), n3, x_gaS n1 (by omega), be.1, p_inIx (by have := be.2.1; omega), x_bS]
      cases hj : s_ix i (g_es p.2 a).length with
      | none => simp only [hj]; exact if_pos trivial
      | some j =>
        obtain ⟨j1, j2⟩ := s_ix_some hj
        have hl := be.2.1
        obtain ⟨e, he⟩ : ∃ e, (g_es p.2 a)[j]? = some e := ⟨_, List.getElem?_eq_getElem j1⟩
        have e0 : a_e σ1 (64 * a + j) = e := (be.2.2 j j1).trans (List.getElem?_eq_some_iff.mp he).2
        have g1 : ∀ {α : Type} (kk : Nat → Option α), x_ga (nI (64 * a + j)) 384 kk = kk (64 * a + j) := fun kk => x_gaS (by omega) (by omega)
        simp only [hj, he]
        show (if (1 : Int32) = 0 then _ else _) = _
        rw [if_neg (show ¬ (1 : Int32) = 0 by decide), x_lS, j2, show (64 : Int32) = nI 64 from rfl, nI_mul, nI_add]
        simp only [g1]
        rw [← e0]
        unfold q_entryOf e_name e_wish e_in e_asks e_out e_tried e_sent e_ends a_e
        dsimp only
        by_cases w0 : what = 0
        · rw [if_pos w0, if_pos w0]
        rw [if_neg w0, if_neg w0]
        by_cases w1 : what = 1
        · rw [if_pos w1, if_pos w1]
        rw [if_neg w1, if_neg w1]
        by_cases w2 : what = 2
        · rw [if_pos w2, if_pos w2]
        rw [if_neg w2, if_neg w2]
        by_cases w3 : what = 3
        · rw [if_pos w3, if_pos w3, p_onesL, x_bS]
        rw [if_neg w3, if_neg w3]
        by_cases w4 : what = 4
        · rw [if_pos w4, if_pos w4]
        rw [if_neg w4, if_neg w4]
        by_cases w5 : what = 5
        · rw [if_pos w5, if_pos w5]
        rw [if_neg w5, if_neg w5]
        by_cases w6 : what = 6
        · rw [if_pos w6, if_pos w6]
        rw [if_neg w6, if_neg w6]
        by_cases w7 : what = 7
        · rw [if_pos w7, if_pos w7]
        rw [if_neg w7, if_neg w7]
theorem p_why {n r k what : Int32} (h : t_st σ T) : ∃ c σ', D_why n r k what σ = some (q_why T c n r k what, σ') ∧ t_keep σ σ' := by
  have h0 : t_st (t_si σ 0 0) T := h.keep t_keep.si
  obtain ⟨σ1, a1, a2, -, a3⟩ := p_lay (n := n) (r := r) h0
  unfold D_why q_why
  rw [x_lS, a1, x_b2S]
  cases hr : s_row (u_runs T.1) r with
  | none => exact ⟨fun _ _ => 0, σ1, if_pos rfl, t_keep.si.trans a2⟩
  | some R =>
    cases hn : s_row (u_nets T.1) n with
    | none => exact ⟨fun _ _ => 0, σ1, if_pos rfl, t_keep.si.trans a2⟩
    | some N =>
      obtain ⟨b1, b2, c, b3⟩ := a3 R N hr hn
      have hN := u_net_ok h hn
      have hR := u_run_ok h hr
      have h40 := hR.1.2
      refine ⟨c, ?_⟩
      show ∃ σ', (if (1 : Int32) = 0 then _ else _) = _ ∧ _
      rw [if_neg (show ¬ (1 : Int32) = 0 by decide), p_deeds b1, x_bS, hR.1.1, p_inIx (by omega), x_bS]
      cases hj : s_ix k (r_cnt R) with
      | none =>
        simp only [hj]
        exact ⟨σ1, if_pos trivial, t_keep.si.trans a2⟩
      | some j =>
        obtain ⟨j1, j2⟩ := s_ix_some hj
        obtain ⟨σ2, d1, d2, d3, d4, d5, d6⟩ := p_play (n := r_cnt R) (W := fun _ => (0, 0)) b3 b1 hN (s_lk0_ok hN) hR (Nat.le_refl _) s_inv_begin
        simp only [hj]
        refine ⟨σ2, ?_, (t_keep.si.trans a2).trans d4.keep⟩
        show (if (1 : Int32) = 0 then _ else _) = _
        rw [if_neg (show ¬ (1 : Int32) = 0 by decide), x_bS, d1, x_b2S, j2, x_gaS (by omega) (by omega), d2.2.2.2.2.2.2.1 57 j (by omega) (by omega) (by omega)]
        by_cases c2 : g_came (s_play N (s_lk0 N none) (r_dd R) (r_cnt R) (s_begin c)).2.2 57 j = -1
        · rw [if_pos c2, if_pos c2]
        · rw [if_neg c2, if_neg c2, p_ofAsk d2 (by omega), x_bS]
end T66
