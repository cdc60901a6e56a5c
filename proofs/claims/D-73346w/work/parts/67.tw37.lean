/-! THE TWIN's LAW, 37: small questions -/
set_option maxRecDepth 100000
set_option maxHeartbeats 400000
def q_deed (T : s_T) (r k what : Int32) : Int32 := match s_row (u_runs T.1) r with
  | none => -2
  | some R => if k = -1 then (if what = 0 then R 0 else -2) else match s_ix k (r_cnt R), s_ix what 3 with
    | some j, some w => R (1 + 3 * j + w)
    | _, _ => -2
def q_fact (T : s_T) (l k what : Int32) : Int32 := match s_row (u_logs T.1) l with
  | none => -2
  | some L => if k = -1 then (if what = 0 then L 0 else -2) else match s_ix k (l_cnt L), s_ix what 2 with
    | some j, some w => L (1 + 2 * j + w)
    | _, _ => -2
def q_count (T : s_T) (s : Int32) : Int32 := if s = 0 then nI (u_nets T.1).length else if s = 1 then nI (u_runs T.1).length else if s = 2 then nI (u_logs T.1).length else -2
def q_fault (T : s_T) (what : Int32) : Int32 := if what = 0 then u_kind T.1 else if what = 1 then u_place T.1 else -1
/-- the link of two nodes -/
def s_lkOf (N : s_R) (a b : Nat) : Option Nat := s_lk0 N none (6 * a + b)
def q_net (T : s_T) (n what : Int32) : Int32 := match s_row (u_nets T.1) n with
  | none => -2
  | some N => if 0 ≤ what ∧ what ≤ 4 then N (v_ what) else if 10 ≤ what ∧ what ≤ 15 then (match s_node N (what - 10) with
      | none => -2
      | some i => N (5 + i))
    else if 100 ≤ what ∧ what ≤ 199 then (match s_node N ((what - 100) / 10), s_node N (what - what / 10 * 10) with
      | some a, some b => (match s_lkOf N a b with
        | none => -1
        | some l => nI (n_ld N l))
      | _, _ => -2)
    else if 200 ≤ what ∧ what ≤ 279 then (if v_ (what - what / 20 * 20) < n_routes N then N (56 + 4 * v_ (what - what / 20 * 20) + v_ ((what - 200) / 20)) else -2)
    else if 300 ≤ what ∧ what ≤ 359 then (if v_ (what - what / 20 * 20) < n_serves N then N (104 + 3 * v_ (what - what / 20 * 20) + v_ ((what - 300) / 20)) else -2)
    else -2
section T67
variable {σ σ' : t_S} {N R : s_R} {T : s_T} {lk : Nat → Option Nat} {G : s_G} {K : Nat} {W : s_W} {t : Nat}
theorem p_deed {r k what : Int32} (h : t_st σ T) : ∃ σ', D_deed r k what σ = some (q_deed T r k what, σ') ∧ t_keep σ σ' := by
  have h0 : t_st (t_si σ 0 0) T := h.keep t_keep.si
  obtain ⟨a1, a2⟩ := p_hasRun (k := r) h0
  refine ⟨t_si (t_si σ 0 0) 75 r, ?_, t_keep.si.trans t_keep.si⟩
  unfold D_deed q_deed
  rw [x_lS, a1, x_b2S]
  cases hr : s_row (u_runs T.1) r with
  | none => exact if_pos rfl
  | some R =>
    have b1 := a2 R hr
    have hR := u_run_ok h hr
    have h40 := hR.1.2
    show (if (1 : Int32) = 0 then _ else _) = _
    rw [if_neg (show ¬ (1 : Int32) = 0 by decide)]
    by_cases ck : k = -1
    · simp only [if_pos ck]
      by_cases cw : what = 0
      · simp only [if_pos cw]
        rw [p_deeds b1, x_bS]
      · simp only [if_neg cw]
    · simp only [if_neg ck]
      rw [p_deeds b1, x_bS, hR.1.1, p_inIx (by omega), x_bS]
      cases hj : s_ix k (r_cnt R) with
      | none => simp only [hj]; exact if_pos trivial
      | some j =>
        obtain ⟨j1, j2⟩ := s_ix_some hj
        simp only [hj]
        show (if (1 : Int32) = 0 then _ else _) = _
        have hw := p_inIx (i := what) (n := 3) (by omega)
        rw [show nI 3 - 1 = (2 : Int32) from rfl] at hw
        rw [if_neg (show ¬ (1 : Int32) = 0 by decide), hw, x_bS]
        cases hv : s_ix what 3 with
        | none => simp only [hv]; exact if_pos trivial
        | some w =>
          obtain ⟨w1, w2⟩ := s_ix_some hv
          simp only [hv]
          show (if (1 : Int32) = 0 then _ else _) = _
          rw [if_neg (show ¬ (1 : Int32) = 0 by decide), j2, w2, p_deedOf b1 (by omega) w1, x_bS]
theorem u_log_ok {L : s_R} {r : Int32} (h : t_st σ T) (hr : s_row (u_logs T.1) r = some L) : l_ok L := h.1.1.2.2.2.2.2.2.1 L (s_row_some hr).2.2
theorem p_fact {r k what : Int32} (h : t_st σ T) : ∃ σ', D_fact r k what σ = some (q_fact T r k what, σ') ∧ t_keep σ σ' := by
  have h0 : t_st (t_si σ 0 0) T := h.keep t_keep.si
  obtain ⟨a1, a2⟩ := p_hasLog (k := r) h0
  refine ⟨t_si (t_si σ 0 0) 81 r, ?_, t_keep.si.trans t_keep.si⟩
  unfold D_fact q_fact
  rw [x_lS, a1, x_b2S]
  cases hr : s_row (u_logs T.1) r with
  | none => exact if_pos rfl
  | some R =>
    have b1 := a2 R hr
    have hR := u_log_ok h hr
    have h8 := hR.1.2
    show (if (1 : Int32) = 0 then _ else _) = _
    rw [if_neg (show ¬ (1 : Int32) = 0 by decide)]
    by_cases ck : k = -1
    · simp only [if_pos ck]
      by_cases cw : what = 0
      · simp only [if_pos cw]
        rw [p_facts b1, x_bS]
      · simp only [if_neg cw]
    · simp only [if_neg ck]
      rw [p_facts b1, x_bS, hR.1.1, p_inIx (by omega), x_bS]
      cases hj : s_ix k (l_cnt R) with
      | none => simp only [hj]; exact if_pos trivial
      | some j =>
        obtain ⟨j1, j2⟩ := s_ix_some hj
        simp only [hj]
        show (if (1 : Int32) = 0 then _ else _) = _
        have hw := p_inIx (i := what) (n := 2) (by omega)
        rw [show nI 2 - 1 = (1 : Int32) from rfl] at hw
        rw [if_neg (show ¬ (1 : Int32) = 0 by decide), hw, x_bS]
        cases hv : s_ix what 2 with
        | none => simp only [hv]; exact if_pos trivial
        | some w =>
          obtain ⟨w1, w2⟩ := s_ix_some hv
          simp only [hv]
          show (if (1 : Int32) = 0 then _ else _) = _
          rw [if_neg (show ¬ (1 : Int32) = 0 by decide), j2, w2, p_factOf b1 (by omega) w1, x_bS]
theorem p_count {s : Int32} (h : t_st σ T) : ∃ σ', D_count s σ = some (q_count T s, σ') ∧ t_keep σ σ' := by
  obtain ⟨u1, -, -, -, -, ⟨h5, h6, h7⟩, -⟩ := h.1
  refine ⟨t_si σ 0 0, ?_, t_keep.si⟩
  unfold D_count q_count
  have hw := p_inIx (i := s) (n := 3) (by omega)
  rw [show nI 3 - 1 = (2 : Int32) from rfl] at hw
  rw [x_lS, hw, x_bS]
  cases hv : s_ix s 3 with
  | none =>
    have n0 : ¬ s = 0 := fun q => by rw [q] at hv; exact absurd hv (by decide)
    have n1 : ¬ s = 1 := fun q => by rw [q] at hv; exact absurd hv (by decide)
    have n2 : ¬ s = 2 := fun q => by rw [q] at hv; exact absurd hv (by decide)
    simp only [hv]
    rw [if_neg n0, if_neg n1, if_neg n2]
    exact if_pos trivial
  | some w =>
    obtain ⟨w1, w2⟩ := s_ix_some hv
    simp only [hv]
    show (if (1 : Int32) = 0 then _ else _) = _
    rw [if_neg (show ¬ (1 : Int32) = 0 by decide), w2, x_gaS (by omega) (by omega)]
    rcases (show w = 0 ∨ w = 1 ∨ w = 2 by omega) with rfl | rfl | rfl
    · exact congrArg (fun x => some (x, t_si σ 0 0)) h5
    · exact congrArg (fun x => some (x, t_si σ 0 0)) h6
    · exact congrArg (fun x => some (x, t_si σ 0 0)) h7
theorem p_fault {what : Int32} (h : t_st σ T) : ∃ σ', D_fault what σ = some (q_fault T what, σ') ∧ t_keep σ σ' := by
  obtain ⟨u1, -, -, h3, h4, -⟩ := h.1
  refine ⟨t_si σ 0 0, ?_, t_keep.si⟩
  unfold D_fault q_fault
  have g1 : ∀ {α : Type} (kk : Nat → Option α), x_ga 0 4 kk = kk 0 := fun kk => x_gaS (j := 0) (by omega) (by omega)
  rw [x_lS]
  simp only [g1]
  by_cases c0 : what = 0
  · rw [if_pos c0, if_pos c0]
    exact congrArg (fun x => some (x, t_si σ 0 0)) h3
  · rw [if_neg c0, if_neg c0]
    by_cases c1 : what = 1
    · rw [if_pos c1, if_pos c1]
      exact congrArg (fun x => some (x, t_si σ 0 0)) h4
    · rw [if_neg c1, if_neg c1]
end T67
