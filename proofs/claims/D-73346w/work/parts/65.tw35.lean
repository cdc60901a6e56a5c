/-! THE TWIN's LAW, 35: the whole object: what is told, and three images -/
set_option maxRecDepth 100000
set_option maxHeartbeats 400000
/-- what is told: the tape, how much of it, the last fault, its place; nets, runs, logs -/
abbrev s_P : Type := (Nat → Int32) × Nat × Int32 × Int32 × List s_R × List s_R × List s_R
def u_tape (p : s_P) : Nat → Int32 := p.1
def u_size (p : s_P) : Nat := p.2.1
def u_kind (p : s_P) : Int32 := p.2.2.1
def u_place (p : s_P) : Int32 := p.2.2.2.1
def u_nets (p : s_P) : List s_R := p.2.2.2.2.1
def u_runs (p : s_P) : List s_R := p.2.2.2.2.2.1
def u_logs (p : s_P) : List s_R := p.2.2.2.2.2.2
/-- a log: how many facts; of each an ask, when its data came -/
def l_cnt (L : s_R) : Nat := v_ (L 0)
def l_ok (L : s_R) : Prop := (L 0 = nI (l_cnt L) ∧ l_cnt L ≤ 8) ∧ ∀ k, k < l_cnt L → (∃ a, a < 40 ∧ L (1 + 2 * k) = nI a) ∧ (L (1 + 2 * k + 1) = -1 ∨ ∃ x, x ≤ 99 ∧ L (1 + 2 * k + 1) = nI x)
abbrev s_T : Type := s_P × (Nat → Option s_P)
def u_ok (p : s_P) : Prop := u_size p ≤ 600 ∧ (u_nets p).length ≤ 2 ∧ (u_runs p).length ≤ 2 ∧ (u_logs p).length ≤ 2 ∧ (∀ N ∈ u_nets p, n_ok N) ∧ (∀ R ∈ u_runs p, r_ok R) ∧ (∀ L ∈ u_logs p, l_ok L) ∧ ∀ j, (u_tape p j).toInt8.toInt32 = u_tape p j
/-- the i-th image in the twin's rows -/
def t_im (σ : t_S) (i : Nat) (p : s_P) : Prop := u_ok p ∧ (∀ j, j < 600 → t_a σ 1 (600 * i + j) = u_tape p j) ∧ t_a σ 2 i = nI (u_size p) ∧ t_a σ 3 i = u_kind p ∧ t_a σ 4 i = u_place p ∧
  (t_a σ 5 (3 * i) = nI (u_nets p).length ∧ t_a σ 5 (3 * i + 1) = nI (u_runs p).length ∧ t_a σ 5 (3 * i + 2) = nI (u_logs p).length) ∧
  (∀ k N, (u_nets p)[k]? = some N → ∀ j, j < 122 → t_a σ 6 (244 * i + (122 * k + j)) = N j) ∧
  (∀ k N, (u_runs p)[k]? = some N → ∀ j, j < 121 → t_a σ 7 (242 * i + (121 * k + j)) = N j) ∧
  ∀ k N, (u_logs p)[k]? = some N → ∀ j, j < 17 → t_a σ 8 (34 * i + (17 * k + j)) = N j
def t_st (σ : t_S) (T : s_T) : Prop := t_im σ 0 T.1 ∧ ∀ k, k < 3 → match T.2 k with
  | none => t_a σ 86 k = 0
  | some p => t_a σ 86 k = 1 ∧ t_im σ (k + 1) p
/-- what a query leaves -/
def t_keep (σ σ' : t_S) : Prop := ∀ k j, 1 ≤ k ∧ k ≤ 8 ∨ k = 86 → t_a σ' k j = t_a σ k j
theorem t_keep.refl {σ : t_S} : t_keep σ σ := fun _ _ _ => rfl
theorem t_keep.trans {σ σ' σ2 : t_S} (h : t_keep σ σ') (h' : t_keep σ' σ2) : t_keep σ σ2 := fun k j hk => (h' k j hk).trans (h k j hk)
theorem t_out.keep {σ σ' : t_S} (h : t_out σ σ') : t_keep σ σ' := fun k j hk => h.2.2 k j (by omega)
theorem t_outP.keep {σ σ' : t_S} (h : t_outP σ σ') : t_keep σ σ' := fun k j hk => h.2.2 k j (by omega)
theorem t_keep.si {σ : t_S} {k : Nat} {x : Int32} : t_keep σ (t_si σ k x) := fun _ _ _ => rfl
theorem t_im.keep {σ σ' : t_S} {i : Nat} {p : s_P} (h : t_im σ i p) (hk : t_keep σ σ') : t_im σ' i p := by
  obtain ⟨h0, h1, h2, h3, h4, ⟨h5, h6, h7⟩, h8, h9, h10⟩ := h
  exact ⟨h0, fun j hj => (hk 1 _ (by omega)).trans (h1 j hj), (hk 2 _ (by omega)).trans h2, (hk 3 _ (by omega)).trans h3, (hk 4 _ (by omega)).trans h4, ⟨(hk 5 _ (by omega)).trans h5, (hk 5 _ (by omega)).trans h6, (hk 5 _ (by omega)).trans h7⟩, fun k N q j hj => (hk 6 _ (by omega)).trans (h8 k N q j hj), fun k N q j hj => (hk 7 _ (by omega)).trans (h9 k N q j hj), fun k N q j hj => (hk 8 _ (by omega)).trans (h10 k N q j hj)⟩
theorem t_st.keep {σ σ' : t_S} {T : s_T} (h : t_st σ T) (hk : t_keep σ σ') : t_st σ' T := by
  refine ⟨h.1.keep hk, fun k hk3 => ?_⟩
  have := h.2 k hk3
  cases q : T.2 k with
  | none => rw [q] at this; exact (hk 86 k (by omega)).trans this
  | some p => rw [q] at this; exact ⟨(hk 86 k (by omega)).trans this.1, this.2.keep hk⟩
/-- the row of a number, any int -/
def s_row (l : List s_R) (k : Int32) : Option s_R := if 0 ≤ k then l[v_ k]? else none
theorem s_row_some {l : List s_R} {k : Int32} {N : s_R} (h : s_row l k = some N) : k = nI (v_ k) ∧ l[v_ k]? = some N ∧ N ∈ l := by
  unfold s_row at h
  split at h
  · rename_i c
    exact ⟨(v_of c).1, h, List.mem_of_getElem? h⟩
  · cases h
section T65
variable {σ σ' : t_S} {N R : s_R} {T : s_T} {lk : Nat → Option Nat} {G : s_G} {K : Nat} {W : s_W} {t : Nat}
/-- whether a number is of a row of n -/
theorem s_in_row {l : List s_R} {k : Int32} (hl : l.length ≤ 2) : s_i (0 ≤ k ∧ k ≤ nI l.length - 1) = match s_row l k with
    | none => 0
    | some _ => 1 := by
  unfold s_i s_row
  by_cases c : 0 ≤ k
  · rw [if_pos c]
    obtain ⟨e1, e2⟩ := v_of c
    by_cases c2 : v_ k < l.length
    · rw [List.getElem?_eq_getElem c2, if_pos]
      refine ⟨c, ?_⟩
      rw [show (1 : Int32) = nI 1 from rfl, nI_sub (by omega), e1]
      exact nI_le (by omega) (by omega)
    · rw [List.getElem?_eq_none (by omega), if_neg]
      rintro ⟨-, q⟩
      by_cases c3 : l.length = 0
      · rw [c3] at q
        exact absurd (Int32.le_trans c q) (by decide)
      · rw [show (1 : Int32) = nI 1 from rfl, nI_sub (by omega), e1] at q
        exact absurd q (nI_ge (by omega) e2)
  · rw [if_neg c, if_neg (fun q => c q.1)]
theorem p_is {s : Nat} {k : Int32} {l : List s_R} (h : t_a σ 5 s = nI l.length) (hs : s < 12) (hl : l.length ≤ 2) : D_is (nI s) k σ = some (match s_row l k with
    | none => 0
    | some _ => 1) := by
  unfold D_is
  rw [x_gaS hs (by omega), h, p_in, x_bS, s_in_row hl, x_gS]
  cases s_row l k with
  | none => exact Or.inl rfl
  | some _ => exact Or.inr rfl
theorem p_hasNet {k : Int32} (h : t_st σ T) : ∃ σ', D_hasNet k σ = some ((match s_row (u_nets T.1) k with
    | none => 0
    | some _ => 1), σ') ∧ t_keep σ σ' ∧ (∀ j, j ≠ 22 → j ≠ 23 → j ≠ 24 → t_i σ' j = t_i σ j) ∧ (∀ a j, t_a σ' a j = t_a σ a j) ∧ ∀ N, s_row (u_nets T.1) k = some N → t_hand σ' N := by
  obtain ⟨⟨u1, u2, u3, u4, u5, u6, u7, u8⟩, h1, h2, h3, h4, ⟨h5, h6, h7⟩, h8, h9, h10⟩ := h.1
  unfold D_hasNet
  rw [x_lS, show (0 : Int32) = nI 0 from rfl, p_is (l := u_nets T.1) (σ := t_si σ 22 k) h5 (by omega) u2, x_bS]
  cases hr : s_row (u_nets T.1) k with
  | none => exact ⟨t_si σ 22 k, if_pos rfl, t_keep.si, fun j q _ _ => by rw [t_i_si, if_neg q], fun _ _ => rfl, fun N hN => by cases hN⟩
  | some N =>
    obtain ⟨e1, e2, e3⟩ := s_row_some hr
    have hlt := (List.getElem?_eq_some_iff.mp e2).1
    have hnet : t_net (t_si σ 22 k) N := ⟨v_ k, by omega, by rw [t_i_si, if_pos rfl]; exact e1, fun j hj => by
      have := h8 (v_ k) N e2 j hj
      rw [Nat.mul_zero, Nat.zero_add] at this
      exact this⟩
    refine ⟨t_si (t_si (t_si σ 22 k) 23 (N 0)) 24 (N 1), ?_, t_keep.refl, fun j q1 q2 q3 => by rw [t_i_si, if_neg q3, t_i_si, if_neg q2, t_i_si, if_neg q1], fun _ _ => rfl, fun N' hN' => ?_⟩
    · rw [if_neg (show ¬ (1 : Int32) = nI 0 by decide), p_ofNet hnet (by omega), x_bS, x_lS, show (1 : Int32) = nI 1 from rfl, p_ofNet (t_net_si (by decide) hnet) (by omega), x_bS, x_lS]
    · cases hN'
      exact ⟨t_net_si (by decide) (t_net_si (by decide) hnet), by rw [t_i_si, if_neg (by decide), t_i_si, if_pos rfl], by rw [t_i_si, if_pos rfl]⟩
theorem p_hasRun {k : Int32} (h : t_st σ T) : D_hasRun k σ = some ((match s_row (u_runs T.1) k with
    | none => 0
    | some _ => 1), t_si σ 75 k) ∧ ∀ R, s_row (u_runs T.1) k = some R → t_run (t_si σ 75 k) R := by
  obtain ⟨⟨u1, u2, u3, u4, u5, u6, u7, u8⟩, h1, h2, h3, h4, ⟨h5, h6, h7⟩, h8, h9, h10⟩ := h.1
  unfold D_hasRun
  rw [x_lS, show (1 : Int32) = nI 1 from rfl, p_is (l := u_runs T.1) (σ := t_si σ 75 k) h6 (by omega) u3, x_bS]
  cases hr : s_row (u_runs T.1) k with
  | none => exact ⟨x_gS (Or.inl rfl), fun N hN => by cases hN⟩
  | some R =>
    obtain ⟨e1, e2, e3⟩ := s_row_some hr
    have hlt := (List.getElem?_eq_some_iff.mp e2).1
    refine ⟨x_gS (Or.inr rfl), fun R' hR' => ?_⟩
    cases hR'
    exact ⟨v_ k, by omega, by rw [t_i_si, if_pos rfl]; exact e1, fun j hj => by
      have := h9 (v_ k) R e2 j hj
      rw [Nat.mul_zero, Nat.zero_add] at this
      exact this⟩
/-- the log at hand -/
def t_log (σ : t_S) (L : s_R) : Prop := ∃ kk, kk < 8 ∧ t_i σ 81 = nI kk ∧ ∀ j, j < 17 → t_a σ 8 (17 * kk + j) = L j
theorem p_hasLog {k : Int32} (h : t_st σ T) : D_hasLog k σ = some ((match s_row (u_logs T.1) k with
    | none => 0
    | some _ => 1), t_si σ 81 k) ∧ ∀ R, s_row (u_logs T.1) k = some R → t_log (t_si σ 81 k) R := by
  obtain ⟨⟨u1, u2, u3, u4, u5, u6, u7, u8⟩, h1, h2, h3, h4, ⟨h5, h6, h7⟩, h8, h9, h10⟩ := h.1
  unfold D_hasLog
  rw [x_lS, show (2 : Int32) = nI 2 from rfl, p_is (l := u_logs T.1) (σ := t_si σ 81 k) h7 (by omega) u4, x_bS]
  cases hr : s_row (u_logs T.1) k with
  | none => exact ⟨x_gS (Or.inl rfl), fun N hN => by cases hN⟩
  | some R =>
    obtain ⟨e1, e2, e3⟩ := s_row_some hr
    have hlt := (List.getElem?_eq_some_iff.mp e2).1
    refine ⟨x_gS (Or.inr rfl), fun R' hR' => ?_⟩
    cases hR'
    exact ⟨v_ k, by omega, by rw [t_i_si, if_pos rfl]; exact e1, fun j hj => by
      have := h10 (v_ k) R e2 j hj
      rw [Nat.mul_zero, Nat.zero_add] at this
      exact this⟩
theorem p_facts {L : s_R} (h : t_log σ L) : D_facts σ = some (L 0) := by
  obtain ⟨kk, h1, h2, h3⟩ := h
  unfold D_facts
  rw [h2, show (17 : Int32) = nI 17 from rfl, nI_mul, x_gaS (by omega) (by omega)]
  have := h3 0 (by omega)
  rw [Nat.add_zero] at this
  rw [this]
theorem p_factOf {L : s_R} {k w : Nat} (h : t_log σ L) (hk : k < 8) (hw : w < 2) : D_factOf (nI k) (nI w) σ = some (L (1 + 2 * k + w)) := by
  obtain ⟨kk, h1, h2, h3⟩ := h
  unfold D_factOf
  rw [h2, show (17 : Int32) = nI 17 from rfl, nI_mul, show (2 : Int32) = nI 2 from rfl, nI_mul, nI_1, nI_add, nI_add, x_gaS (by omega) (by omega)]
  have := h3 (1 + 2 * k + w) (by omega)
  rw [← this, show 17 * kk + 1 + 2 * k + w = 17 * kk + (1 + 2 * k + w) by omega]
/-- a net and a run at hand, the run at its begin -/
theorem p_lay {n r : Int32} (h : t_st σ T) : ∃ σ', D_lay n r σ = some ((match s_row (u_runs T.1) r, s_row (u_nets T.1) n with
    | some _, some _ => 1
    | _, _ => 0), σ') ∧ t_keep σ σ' ∧ (∀ j, j = 81 ∨ 85 ≤ j → t_i σ' j = t_i σ j) ∧ ∀ R N, s_row (u_runs T.1) r = some R → s_row (u_nets T.1) n = some N → t_run σ' R ∧ t_hand σ' N ∧ ∃ c, t_rel σ' N (s_lk0 N none) (s_begin c) := by
  obtain ⟨a1, a2⟩ := p_hasRun (k := r) h
  unfold D_lay
  rw [a1, x_b2S]
  cases hr : s_row (u_runs T.1) r with
  | none => exact ⟨_, if_pos rfl, t_keep.si, fun j hj => by rw [t_i_si, if_neg (by omega)], fun R N q _ => by cases q⟩
  | some R =>
    have h2 : t_st (t_si σ 75 r) T := h.keep t_keep.si
    obtain ⟨σ1, b1, b2, b3, b4, b5⟩ := p_hasNet (k := n) h2
    show ∃ σ', (if (1 : Int32) = 0 then _ else _) = _ ∧ _
    rw [if_neg (show ¬ (1 : Int32) = 0 by decide), b1, x_b2S]
    cases hn : s_row (u_nets T.1) n with
    | none => exact ⟨σ1, if_pos rfl, t_keep.si.trans b2, fun j hj => (b3 j (by omega) (by omega) (by omega)).trans (by rw [t_i_si, if_neg (by omega)]), fun R N _ q => by cases q⟩
    | some N =>
      have hand := b5 N hn
      have hN : n_ok N := h.1.1.2.2.2.2.1 N (s_row_some hn).2.2
      obtain ⟨σ2, c1, c2, c3⟩ := p_begin (away := none) hand hN (fun j hj => by cases hj)
      show ∃ σ', (if (1 : Int32) = 0 then _ else _) = _ ∧ _
      rw [if_neg (show ¬ (1 : Int32) = 0 by decide), show (-1 : Int32) = oI none from rfl, c1, x_bS]
      have hrun := a2 R hr
      refine ⟨σ2, rfl, (t_keep.si.trans b2).trans c3.keep, fun j hj => (c3.1 j (by omega)).trans ((b3 j (by omega) (by omega) (by omega)).trans (by rw [t_i_si, if_neg (by omega)])), fun R' N' q1 q2 => ?_⟩
      cases q1
      cases q2
      refine ⟨?_, ⟨c2.1.1, c2.1.2.2.1, c2.1.2.2.2⟩, _, c2⟩
      obtain ⟨kk, k1, k2, k3⟩ := hrun
      exact ⟨kk, k1, (c3.1 75 (by omega)).trans ((b3 75 (by decide) (by decide) (by decide)).trans k2), fun j hj => (c3.2.2 7 _ (by omega)).trans ((b4 7 _).trans (k3 j hj))⟩
end T65
