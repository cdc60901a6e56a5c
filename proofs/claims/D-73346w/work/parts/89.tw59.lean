/-! THE TWIN's LAW, 59: what was told, runs and logs; all lines -/
set_option maxRecDepth 100000
set_option maxHeartbeats 1000000
def c_run (row : s_R) : Prop := ∃ K, K ≤ 40 ∧ row 0 = nI K ∧ ∀ k, k < K → d_ok (r_dd row k)
def l_fok (row : s_R) (k : Nat) : Prop := (∃ a, a < 40 ∧ row (1 + 2 * k) = nI a) ∧ (row (1 + 2 * k + 1) = -1 ∨ ∃ x, x ≤ 99 ∧ row (1 + 2 * k + 1) = nI x)
def c_log (row : s_R) : Prop := ∃ K, K ≤ 8 ∧ row 0 = nI K ∧ ∀ k, k < K → l_fok row k
theorem c_run.app {row : s_R} {a b c : Int32} {kk : Nat} (h : c_run row) (hk : row 0 = nI kk) (hkk : kk < 40) (hd : d_ok (a, b, c)) : c_run (s_keepR 0 1 3 40 (s_row3 a b c) row) := by
  obtain ⟨K, c1, c2, c3⟩ := h
  have hKk : K = kk := (nI_eq (by omega) (by omega)).mp (c2.symm.trans hk)
  subst hKk
  obtain ⟨g1, g2, g3⟩ := s_keepR_lt (cnt := 0) (frm := 1) (wide := 3) (most := 40) (rd := s_row3 a b c) hk hkk (by omega) (by omega)
  have h0 : s_keepR 0 1 3 40 (s_row3 a b c) row (1 + 3 * K) = a := g2 0 (by omega)
  have h1 : s_keepR 0 1 3 40 (s_row3 a b c) row (1 + 3 * K + 1) = b := g2 1 (by omega)
  have h2 : s_keepR 0 1 3 40 (s_row3 a b c) row (1 + 3 * K + 2) = c := g2 2 (by omega)
  generalize s_keepR 0 1 3 40 (s_row3 a b c) row = row' at g1 g3 h0 h1 h2 ⊢
  refine ⟨K + 1, by omega, g1, fun k hk' => ?_⟩
  unfold r_dd
  by_cases e : k = K
  · subst e
    rw [h0, h1, h2]; exact hd
  · rw [g3 _ (by omega) (by omega), g3 _ (by omega) (by omega), g3 _ (by omega) (by omega)]
    exact c3 k (by omega)
theorem c_log.app {row : s_R} {a b : Int32} {kk : Nat} (h : c_log row) (hk : row 0 = nI kk) (hkk : kk < 8) (ha : ∃ x, x < 40 ∧ a = nI x) (hb : b = -1 ∨ ∃ x, x ≤ 99 ∧ b = nI x) : c_log (s_keepR 0 1 2 8 (s_row3 a b 0) row) := by
  obtain ⟨K, c1, c2, c3⟩ := h
  have hKk : K = kk := (nI_eq (by omega) (by omega)).mp (c2.symm.trans hk)
  subst hKk
  obtain ⟨g1, g2, g3⟩ := s_keepR_lt (cnt := 0) (frm := 1) (wide := 2) (most := 8) (rd := s_row3 a b 0) hk hkk (by omega) (by omega)
  have h0 : s_keepR 0 1 2 8 (s_row3 a b 0) row (1 + 2 * K) = a := g2 0 (by omega)
  have h1 : s_keepR 0 1 2 8 (s_row3 a b 0) row (1 + 2 * K + 1) = b := g2 1 (by omega)
  generalize s_keepR 0 1 2 8 (s_row3 a b 0) row = row' at g1 g3 h0 h1 ⊢
  refine ⟨K + 1, by omega, g1, fun k hk' => ?_⟩
  unfold l_fok
  by_cases e : k = K
  · subst e
    rw [h0, h1]; exact ⟨ha, hb⟩
  · rw [g3 _ (by omega) (by omega), g3 _ (by omega) (by omega)]
    exact c3 k (by omega)
def y_run (B : Nat → Int32) (y : s_Y) : Prop := y_ord y ∧ y_isT B y ∧ (∃ a, a ≤ 40 ∧ y_row y 0 = nI a) ∧ ((y_f y).1 = 0 → c_run (y_row y))
def y_log (B : Nat → Int32) (y : s_Y) : Prop := y_ord y ∧ y_isT B y ∧ (∃ a, a ≤ 8 ∧ y_row y 0 = nI a) ∧ ((y_f y).1 = 0 → c_log (y_row y))
section T89
variable {B : Nat → Int32} {y : s_Y}
theorem y_run.line {w : Int64} {at_ : Nat} {y1 : s_Y} (h : y_run B y) (h1 : s_runLine B w at_ y = .inr y1) : y_run B y1 ∧ k_at (y_k y) ≤ k_at (y_k y1) := by
  obtain ⟨o, it, ⟨kk, k1, k2⟩, hp⟩ := h
  unfold s_runLine at h1
  have hor := s_deedBy_or w
  generalize s_deedBy w = d at hor h1
  obtain ⟨m1, m2, m3, m4⟩ := s_full_row (cnt := 0) (at_ := at_) (most := 40) (y := y)
  have hn := y_ord.next (B := B) (y := s_full 0 40 at_ y)
  rw [m2] at hn
  have hcnt : ∀ (row : s_R) (a b c : Int32), row = y_row y → ∃ x, x ≤ 40 ∧ s_keepR 0 1 3 40 (s_row3 a b c) row 0 = nI x := fun row a b c hr => by
    rw [hr]; exact (s_keepR_cnt (cnt := 0) (frm := 1) (wide := 3) (most := 40) k2 k1 (by omega)).1
  have hfin : ∀ (row : s_R) (a b c : Int32), row = y_row y → (y_f (s_nextT B (s_full 0 40 at_ y))).1 = 0 → d_ok (a, b, c) → c_run (s_keepR 0 1 3 40 (s_row3 a b c) row) := fun row a b c hr hF hd => by
    obtain ⟨n1, n2⟩ := s_full_0 (y := y) hF
    rw [hr]
    exact (hp n1).app k2 (Nat.lt_of_le_of_ne k1 (fun z => n2 (by rw [k2, z]; rfl))) hd
  split at h1
  · cases h1
  rename_i cn
  split at h1
  · rename_i cw
    obtain ⟨p, p1, p2⟩ := s_sb_inr h1
    cases p2
    obtain ⟨a1, a2, a3, a4, -⟩ := s_takeB_ok p1 hn.1
    have hrow : y_row p.2 = y_row y := a4.trans m1
    refine ⟨⟨a1, s_takeB_T p1, hcnt _ d p.1 (-1) hrow, fun hF => ?_⟩, Nat.le_trans (Nat.le_trans o.1 hn.2) a2⟩
    have hF' : (y_f p.2).1 = 0 := hF
    obtain ⟨z1, z2, z3, z4⟩ := s_takeB_0 p1 hF'
    obtain ⟨e1, e2, e3⟩ := s_between (a := 1) (b := 20) rfl rfl (by omega) (by omega) z3
    exact hfin _ _ _ _ hrow z1 (Or.inr (Or.inl ⟨cw, v_ p.1, e2, e3, e1⟩))
  rename_i cw
  split at h1
  · rename_i cc
    obtain ⟨p, p1, p2⟩ := s_sb_inr h1
    obtain ⟨q, q1, q2⟩ := s_sb_inr p2
    cases q2
    obtain ⟨a1, a2, a3, a4, -⟩ := s_takeNode_ok p1 hn.1
    obtain ⟨b1, b2, b3, b4, -⟩ := s_takeNode_ok q1 a1
    have hrow : y_row q.2 = y_row y := b4.trans (a4.trans m1)
    refine ⟨⟨b1, s_takeNode_T q1, hcnt _ d p.1 q.1 hrow, fun hF => ?_⟩, Nat.le_trans (Nat.le_trans o.1 hn.2) (Nat.le_trans a2 b2)⟩
    have hF' : (y_f q.2).1 = 0 := hF
    obtain ⟨u1, u2, u3, u4⟩ := s_takeNode_0 q1 hF'
    obtain ⟨z1, z2, z3, z4⟩ := s_takeNode_0 p1 u1
    refine hfin _ _ _ _ hrow z1 (Or.inr (Or.inr ⟨?_, v_ p.1, v_ q.1, by have := (nI_of05 z3).2; omega, by have := (nI_of05 u3).2; omega, fun e => u4 ?_, (nI_of05 z3).1, (nI_of05 u3).1⟩))
    · rcases hor with c | c | c | c | c | c
      · rw [c] at cc; exact absurd cc (by decide)
      · rw [c] at cc; exact absurd cc (by decide)
      · exact absurd c cw
      · exact Or.inl c
      · exact Or.inr c
      · exact absurd c cn
    · rw [(nI_of05 z3).1, (nI_of05 u3).1, e]
  · rename_i cc
    obtain ⟨p, p1, p2⟩ := s_sb_inr h1
    obtain ⟨q, q1, q2⟩ := s_sb_inr p2
    cases q2
    obtain ⟨a1, a2, a3, a4, -⟩ := s_takeNode_ok p1 hn.1
    obtain ⟨b1, b2, b3, b4, -⟩ := s_takeName_ok q1 a1
    have hrow : y_row q.2 = y_row y := b4.trans (a4.trans m1)
    refine ⟨⟨b1, s_takeName_T q1, hcnt _ d p.1 q.1 hrow, fun hF => ?_⟩, Nat.le_trans (Nat.le_trans o.1 hn.2) (Nat.le_trans a2 b2)⟩
    have hF' : (y_f q.2).1 = 0 := hF
    obtain ⟨u1, u2, u3⟩ := s_takeName_0 q1 hF' (s_takeNode_T p1)
    obtain ⟨z1, z2, z3, z4⟩ := s_takeNode_0 p1 u1
    refine hfin _ _ _ _ hrow z1 (Or.inl ⟨?_, ⟨v_ p.1, by have := (nI_of05 z3).2; omega, (nI_of05 z3).1⟩, u3⟩)
    rcases hor with c | c | c | c | c | c
    · exact Or.inl c
    · exact Or.inr c
    · exact absurd c cw
    · rw [c] at cc; exact absurd (by decide) cc
    · rw [c] at cc; exact absurd (by decide) cc
    · exact absurd c cn
theorem y_log.line {w : Int64} {at_ : Nat} {y1 : s_Y} (h : y_log B y) (h1 : s_logLine B w at_ y = .inr y1) : y_log B y1 ∧ k_at (y_k y) ≤ k_at (y_k y1) := by
  obtain ⟨o, it, ⟨kk, k1, k2⟩, hp⟩ := h
  unfold s_logLine at h1
  obtain ⟨m1, m2, m3, m4⟩ := s_full_row (cnt := 0) (at_ := at_) (most := 8) (y := y)
  have hn := y_ord.next (B := B) (y := s_full 0 8 at_ y)
  rw [m2] at hn
  have hcnt : ∀ (row : s_R) (a b c : Int32), row = y_row y → ∃ x, x ≤ 8 ∧ s_keepR 0 1 2 8 (s_row3 a b c) row 0 = nI x := fun row a b c hr => by
    rw [hr]; exact (s_keepR_cnt (cnt := 0) (frm := 1) (wide := 2) (most := 8) k2 k1 (by omega)).1
  have hfin : ∀ (row : s_R) (a b : Int32), row = y_row y → (y_f (s_nextT B (s_full 0 8 at_ y))).1 = 0 → (∃ x, x < 40 ∧ a = nI x) → (b = -1 ∨ ∃ x, x ≤ 99 ∧ b = nI x) → c_log (s_keepR 0 1 2 8 (s_row3 a b 0) row) := fun row a b hr hF ha hb => by
    obtain ⟨n1, n2⟩ := s_full_0 (y := y) hF
    rw [hr]
    exact (hp n1).app k2 (Nat.lt_of_le_of_ne k1 (fun z => n2 (by rw [k2, z]; rfl))) ha hb
  split at h1
  · obtain ⟨p, p1, p2⟩ := s_sb_inr h1
    obtain ⟨q, q1, q2⟩ := s_sb_inr p2
    cases q2
    obtain ⟨a1, a2, a3, a4, -⟩ := s_takeB_ok p1 hn.1
    obtain ⟨b1, b2, b3, b4, -⟩ := s_takeB_ok q1 a1
    have hrow : y_row q.2 = y_row y := b4.trans (a4.trans m1)
    refine ⟨⟨b1, s_takeB_T q1, hcnt _ p.1 q.1 0 hrow, fun hF => ?_⟩, Nat.le_trans (Nat.le_trans o.1 hn.2) (Nat.le_trans a2 b2)⟩
    have hF' : (y_f q.2).1 = 0 := hF
    obtain ⟨u1, u2, u3, u4⟩ := s_takeB_0 q1 hF'
    obtain ⟨z1, z2, z3, z4⟩ := s_takeB_0 p1 u1
    obtain ⟨e1, e2, e3⟩ := s_between (a := 0) (b := 39) rfl rfl (by omega) (by omega) z3
    obtain ⟨f1, f2, f3⟩ := s_between (a := 0) (b := 99) rfl rfl (by omega) (by omega) u3
    exact hfin _ _ _ hrow z1 ⟨v_ p.1, by omega, e1⟩ (Or.inr ⟨v_ q.1, f3, f1⟩)
  split at h1
  · obtain ⟨p, p1, p2⟩ := s_sb_inr h1
    cases p2
    obtain ⟨a1, a2, a3, a4, -⟩ := s_takeB_ok p1 hn.1
    have hrow : y_row p.2 = y_row y := a4.trans m1
    refine ⟨⟨a1, s_takeB_T p1, hcnt _ p.1 (-1) 0 hrow, fun hF => ?_⟩, Nat.le_trans (Nat.le_trans o.1 hn.2) a2⟩
    have hF' : (y_f p.2).1 = 0 := hF
    obtain ⟨z1, z2, z3, z4⟩ := s_takeB_0 p1 hF'
    obtain ⟨e1, e2, e3⟩ := s_between (a := 0) (b := 39) rfl rfl (by omega) (by omega) z3
    exact hfin _ _ _ hrow z1 ⟨v_ p.1, by omega, e1⟩ (Or.inl rfl)
  · cases h1
end T89
/-- a line of a text of a sort -/
def s_line (B : Nat → Int32) (s : Nat) (w : Int64) (at_ : Nat) (y : s_Y) : Nat ⊕ s_Y := if s = 0 then s_netLine B w at_ y else if s = 1 then s_runLine B w at_ y else s_logLine B w at_ y
def s_word (k : s_K) : Int64 := if k_sort k = 2 then k_word k else 0
def s_lines (B : Nat → Int32) (s : Nat) : Nat → s_Y → Nat ⊕ s_Y
  | 0, y => .inr y
  | m + 1, y => if k_sort (y_k y) = 0 then .inr y else s_sb (s_line B s (s_word (y_k y)) (k_at (y_k y)) (y_sg y true)) fun y1 => if k_sort (y_k y1) = 4 then s_lines B s m (s_nextT B y1) else .inl (k_at (y_k y1))
def y_of (s : Nat) (B : Nat → Int32) (y : s_Y) : Prop := if s = 0 then y_net B y else if s = 1 then y_run B y else y_log B y
section T89b
variable {σ σ' : t_S} {B : Nat → Int32} {len : Nat} {y : s_Y} {s : Nat}
theorem y_of.ord (h : y_of s B y) : y_ord y ∧ y_isT B y := by
  unfold y_of at h
  split at h
  · exact ⟨h.1, h.2.1⟩
  split at h
  · exact ⟨h.1, h.2.1⟩
  · exact ⟨h.1, h.2.1⟩
theorem y_of.good (h : y_of s B y) : y_of s B (y_sg y true) := by
  unfold y_of at h ⊢
  split at h
  · rename_i c; rw [if_pos c]; exact h
  rename_i c
  rw [if_neg c]
  split at h
  · rename_i c2; rw [if_pos c2]; exact h
  · rename_i c2; rw [if_neg c2]; exact h
theorem y_of.next (h : y_of s B y) : y_of s B (s_nextT B y) := by
  have hn := y_ord.next (B := B) (y := y)
  unfold y_of at h ⊢
  split at h
  · rename_i c; rw [if_pos c]; exact ⟨hn.1, ⟨_, rfl⟩, h.2.2⟩
  rename_i c
  rw [if_neg c]
  split at h
  · rename_i c2; rw [if_pos c2]; exact ⟨hn.1, ⟨_, rfl⟩, h.2.2⟩
  · rename_i c2; rw [if_neg c2]; exact ⟨hn.1, ⟨_, rfl⟩, h.2.2⟩
theorem y_of.line {w : Int64} {at_ : Nat} {y1 : s_Y} (h : y_of s B y) (hg : y_g y = true) (h1 : s_line B s w at_ y = .inr y1) : y_of s B y1 ∧ k_at (y_k y) ≤ k_at (y_k y1) := by
  unfold y_of at h ⊢
  unfold s_line at h1
  by_cases c : s = 0
  · rw [if_pos c] at h h1
    simp only [if_pos c]
    exact y_net.line h hg h1
  · rw [if_neg c] at h h1
    simp only [if_neg c]
    by_cases c2 : s = 1
    · rw [if_pos c2] at h h1
      simp only [if_pos c2]
      exact y_run.line h h1
    · rw [if_neg c2] at h h1
      simp only [if_neg c2]
      exact y_log.line h h1
theorem p_allLines_2 (Kf : Int32 → t_S → Option (Int32 × t_S)) (hs : s < 3) : ∀ (m f : Nat) (y : s_Y) (σ : t_S), t_Y (t_si σ 21 1) B len (y_sg y true) → y_of s B y → len + 1 - k_at (y_k y) ≤ m → m + 2 < f → ∃ r σ', D_allLines_2 (nI s) Kf f 1 σ = Kf r σ' ∧ (∀ a j, a ≠ 18 → a ≠ 19 → t_a σ' a j = t_a σ a j) ∧ match s_lines B s m y with
      | .inl pl => r = 0 ∧ t_i σ' 15 = nI pl ∧ pl ≤ 600
      | .inr y' => r = 1 ∧ t_Y (t_si σ' 21 1) B len (y_sg y' true) ∧ y_of s B y' := by
  intro m
  induction m with
  | zero =>
    intro f y σ h ho hm hf
    have := h.2.2.1.1
    have e : k_at (y_k (y_sg y true)) = k_at (y_k y) := rfl
    omega
  | succ m ih =>
    intro f y σ h ho hm hf
    obtain ⟨f, rfl⟩ : ∃ f', f = f' + 1 := ⟨f - 1, by omega⟩
    have hlen := h.1.2.1
    have hat : k_at (y_k y) ≤ len := h.2.2.1.1
    have h12 : t_i σ 12 = k_sort (y_k y) := h.2.1.1
    have h11 : t_i σ 11 = nI (k_at (y_k y)) := h.2.1.2.1
    unfold s_lines
    by_cases c0 : k_sort (y_k y) = 0
    · rw [if_pos c0]
      refine ⟨1, σ, ?_, fun _ _ _ _ => rfl, rfl, h, ho⟩
      show (if (1 : Int32) = 0 then _ else _) = _
      rw [if_neg (show ¬ (1 : Int32) = 0 by decide), h12, if_pos c0]
    · rw [if_neg c0]
      -- what is behind a line
      have tail : ∀ (r : Int32) (s1 : t_S) (ml : Nat ⊕ s_Y), t_ln σ B len ml r s1 → (∀ y1, ml = .inr y1 → y_of s B y1 ∧ k_at (y_k y) ≤ k_at (y_k y1)) → ∃ r' σ', (x_l (fun (v2_13 : Int32) (σ14 : t_S) => if v2_13 = 0 then (D_allLines_2 (nI s) Kf f v2_13 σ14) else x_b (D_token σ14) fun σ17 => D_allLines_2 (nI s) Kf f v2_13 σ17) fun J95 => if r = 0 then (J95 r s1) else if (t_i s1 12) = (4 : Int32) then (J95 r s1) else x_b2 (D_fails s1) fun r21 σ22 => J95 r21 σ22) = Kf r' σ' ∧ (∀ a j, a ≠ 18 → a ≠ 19 → t_a σ' a j = t_a σ a j) ∧ match s_sb ml (fun y1 => if k_sort (y_k y1) = 4 then s_lines B s m (s_nextT B y1) else .inl (k_at (y_k y1))) with
          | .inl pl => r' = 0 ∧ t_i σ' 15 = nI pl ∧ pl ≤ 600
          | .inr y' => r' = 1 ∧ t_Y (t_si σ' 21 1) B len (y_sg y' true) ∧ y_of s B y' := by
        intro r s1 ml hl hml
        have stop : ∀ s2, D_allLines_2 (nI s) Kf f 0 s2 = Kf 0 s2 := by
          intro s2
          obtain ⟨f', rfl⟩ : ∃ f', f = f' + 1 := ⟨f - 1, by omega⟩
          show (if (0 : Int32) = 0 then _ else _) = _
          rw [if_pos rfl]
        obtain ⟨g1, g2⟩ := hl
        rw [x_lS]
        cases ml with
        | inl pl =>
          obtain ⟨e1, e2, e3⟩ := g2
          rw [if_pos e1]
          refine ⟨0, s1, ?_, g1, rfl, e2, e3⟩
          show (if r = 0 then _ else _) = _
          rw [if_pos e1, e1]
          exact stop s1
        | inr y1 =>
          obtain ⟨e1, e2⟩ := g2
          obtain ⟨o1, o2⟩ := hml y1 rfl
          rw [if_neg (by rw [e1]; decide), e2.2.1.1]
          show ∃ (r' : Int32) (σ' : t_S), _ ∧ _ ∧ match (if k_sort (y_k y1) = 4 then s_lines B s m (s_nextT B y1) else .inl (k_at (y_k y1))) with
            | .inl pl => r' = 0 ∧ t_i σ' 15 = nI pl ∧ pl ≤ 600
            | .inr y' => r' = 1 ∧ t_Y (t_si σ' 21 1) B len (y_sg y' true) ∧ y_of s B y'
          by_cases c4 : k_sort (y_k y1) = 4
          · rw [if_pos c4, if_pos c4]
            obtain ⟨s2, t1, t2, t3⟩ := p_nextT e2
            have hord := (o1.ord.1.2 (by rw [c4]; decide))
            have hn := (y_ord.next (B := B) (y := y1)).2
            obtain ⟨r', σ', q1, q2, q3⟩ := ih f (s_nextT B y1) s2 (t2.good (x := true)) o1.next (by omega) (by omega)
            refine ⟨r', σ', ?_, fun a j h1 h2 => (q2 a j h1 h2).trans ((t3 a j).trans (g1 a j h1 h2)), q3⟩
            show (if r = 0 then _ else _) = _
            rw [if_neg (by rw [e1]; decide), t1, x_bS, e1]
            exact q1
          · rw [if_neg c4, if_neg c4]
            obtain ⟨s2, t1, t2, t3, -⟩ := p_fails e2
            refine ⟨0, s2, ?_, fun a j h1 h2 => (t3 a j).trans (g1 a j h1 h2), rfl, t2, by have := e2.2.2.1.1; omega⟩
            rw [t1, x_b2S]
            show (if (0 : Int32) = 0 then _ else _) = _
            rw [if_pos rfl]
            exact stop s2
      have hln : ∀ w : Int64, ∃ r' σ', (x_l (t_si σ 21 (1 : Int32)) fun σ10 => x_l (fun (s11 : Int32) (σ12 : t_S) => x_l (fun (v2_13 : Int32) (σ14 : t_S) => if v2_13 = 0 then (D_allLines_2 (nI s) Kf f v2_13 σ14) else x_b (D_token σ14) fun σ17 => D_allLines_2 (nI s) Kf f v2_13 σ17) fun J95 => if s11 = 0 then (J95 s11 σ12) else if (t_i σ12 12) = (4 : Int32) then (J95 s11 σ12) else x_b2 (D_fails σ12) fun r21 σ22 => J95 r21 σ22) fun J77 => if nI s = 0 then (x_b2 (D_netLine w (nI (k_at (y_k y))) σ10) fun r32 σ33 => J77 r32 σ33) else if nI s = (1 : Int32) then (x_b2 (D_runLine w (nI (k_at (y_k y))) σ10) fun r29 σ30 => J77 r29 σ30) else x_b2 (D_logLine w (nI (k_at (y_k y))) σ10) fun r26 σ27 => J77 r26 σ27) = Kf r' σ' ∧ (∀ a j, a ≠ 18 → a ≠ 19 → t_a σ' a j = t_a σ a j) ∧ match s_sb (s_line B s w (k_at (y_k y)) (y_sg y true)) (fun y1 => if k_sort (y_k y1) = 4 then s_lines B s m (s_nextT B y1) else .inl (k_at (y_k y1))) with
          | .inl pl => r' = 0 ∧ t_i σ' 15 = nI pl ∧ pl ≤ 600
          | .inr y' => r' = 1 ∧ t_Y (t_si σ' 21 1) B len (y_sg y' true) ∧ y_of s B y' := by
        intro w
        have hof := ho.good
        have hml : ∀ y1, s_line B s w (k_at (y_k y)) (y_sg y true) = .inr y1 → y_of s B y1 ∧ k_at (y_k y) ≤ k_at (y_k y1) := fun y1 hy1 => hof.line rfl hy1
        rw [x_lS, x_lS]
        rcases (show s = 0 ∨ s = 1 ∨ s = 2 by omega) with rfl | rfl | rfl
        · have hof' : y_net B (y_sg y true) := hof
          obtain ⟨r, s1, a1, a2⟩ := p_netLine (w := w) h hof'.2.2.1 (show k_at (y_k y) ≤ 600 by omega)
          rw [if_pos (show nI 0 = 0 from rfl), a1, x_b2S]
          exact tail r s1 _ (a2.mono (fun _ _ _ _ => rfl)) hml
        · have hof' : y_run B (y_sg y true) := hof
          obtain ⟨r, s1, a1, a2⟩ := p_runLine (w := w) h hof'.2.2.1 (show k_at (y_k y) ≤ 600 by omega)
          rw [if_neg (show ¬ nI 1 = 0 by decide), if_pos (show nI 1 = 1 from rfl), a1, x_b2S]
          exact tail r s1 _ (a2.mono (fun _ _ _ _ => rfl)) hml
        · have hof' : y_log B (y_sg y true) := hof
          obtain ⟨r, s1, a1, a2⟩ := p_logLine (w := w) h hof'.2.2.1 (show k_at (y_k y) ≤ 600 by omega)
          rw [if_neg (show ¬ nI 2 = 0 by decide), if_neg (show ¬ nI 2 = 1 by decide), a1, x_b2S]
          exact tail r s1 _ (a2.mono (fun _ _ _ _ => rfl)) hml
      have hstep : ∀ Z, (x_l (fun (s9 : Int64) => x_l (t_si σ 21 (1 : Int32)) fun σ10 => x_l (fun (s11 : Int32) (σ12 : t_S) => x_l (fun (v2_13 : Int32) (σ14 : t_S) => if v2_13 = 0 then (D_allLines_2 (nI s) Kf f v2_13 σ14) else x_b (D_token σ14) fun σ17 => D_allLines_2 (nI s) Kf f v2_13 σ17) fun J95 => if s11 = 0 then (J95 s11 σ12) else if (t_i σ12 12) = (4 : Int32) then (J95 s11 σ12) else x_b2 (D_fails σ12) fun r21 σ22 => J95 r21 σ22) fun J77 => if nI s = 0 then (x_b2 (D_netLine s9 (nI (k_at (y_k y))) σ10) fun r32 σ33 => J77 r32 σ33) else if nI s = (1 : Int32) then (x_b2 (D_runLine s9 (nI (k_at (y_k y))) σ10) fun r29 σ30 => J77 r29 σ30) else x_b2 (D_logLine s9 (nI (k_at (y_k y))) σ10) fun r26 σ27 => J77 r26 σ27) fun J34 => if (t_i σ 12) = (2 : Int32) then (J34 (t_w σ)) else J34 (0 : Int64)) = Z → D_allLines_2 (nI s) Kf (f + 1) 1 σ = Z := by
        intro Z hZ
        rw [← hZ]
        show (if (1 : Int32) = 0 then _ else _) = _
        rw [if_neg (show ¬ (1 : Int32) = 0 by decide), if_neg (show ¬ t_i σ 12 = 0 by rw [h12]; exact c0), x_lS, h11]
      unfold s_word
      by_cases c2 : k_sort (y_k y) = 2
      · obtain ⟨r', σ', q1, q2⟩ := hln (k_word (y_k y))
        have hw : t_w σ = k_word (y_k y) := h.2.1.2.2.2.2 c2
        rw [if_pos c2]
        refine ⟨r', σ', hstep _ ?_, q2⟩
        rw [x_lS, h12, if_pos c2, hw]
        exact q1
      · obtain ⟨r', σ', q1, q2⟩ := hln 0
        rw [if_neg c2]
        refine ⟨r', σ', hstep _ ?_, q2⟩
        rw [x_lS, h12, if_neg c2]
        exact q1
end T89b
