/-! THE TWIN's LAW, 60: a text is read -/
set_option maxRecDepth 100000
set_option maxHeartbeats 1000000
theorem c_nd_sm {far x : Int32} {n a : Nat} {N0 : Int32} (h : c_nd far x n) (h0 : N0 = nI a) (ha : a ≤ 6) (hf : far < N0) : s_sm x (a - 1) ∧ v_ x = n := by
  obtain ⟨h1, h2, h3⟩ := h
  have hlt : nI n < nI a := by
    rw [← h1, ← h0]
    exact Int32.lt_of_le_of_lt h3 hf
  have hna : n < a := (nI_ltI (by omega) (by omega)).mp hlt
  have hv : v_ x = n := by rw [h1]; exact v_nI (by omega)
  exact ⟨⟨by rw [hv]; exact h1, by rw [hv]; omega⟩, hv⟩
theorem s_sm_of {x : Int32} {n m : Nat} (h : x = nI n) (hn : n ≤ m) (hm : m < 2 ^ 31) : s_sm x m ∧ v_ x = n := by
  have hv : v_ x = n := by rw [h]; exact v_nI (by omega)
  exact ⟨⟨by rw [hv]; exact h, by rw [hv]; exact hn⟩, hv⟩
theorem s_wn_sm {x : Int32} (h : s_wn x) : s_sm x (27 ^ 4) ∧ s_vn (v_ x) := ⟨⟨h.1, by have := h.2.2.1; omega⟩, h.2⟩
theorem c_net_ok {far : Int32} {N : s_R} (h : c_net far N) (hf : far < N 0) : n_ok N := by
  obtain ⟨⟨⟨a, a1, a2, a3⟩, ⟨b, b1, b2, b3⟩, h3⟩, ⟨L, l1, l2, l3, l4⟩, ⟨K, k1, k2, k3⟩, ⟨S, s1, s2, s3⟩⟩ := h
  have va : n_nodes N = a := (s_sm_of a3 a2 (by omega)).2
  have vb : n_life N = b := (s_sm_of b3 b2 (by omega)).2
  have vL : n_links N = L := (s_sm_of l2 l1 (by omega)).2
  have vK : n_routes N = K := (s_sm_of k2 k1 (by omega)).2
  have vS : n_serves N = S := (s_sm_of s2 s1 (by omega)).2
  refine ⟨⟨(s_sm_of a3 a2 (by omega)).1, by omega⟩, ⟨(s_sm_of b3 b2 (by omega)).1, by omega⟩, (s_sm_of l2 l1 (by omega)).1, (s_sm_of k2 k1 (by omega)).1, (s_sm_of s2 s1 (by omega)).1, fun i hi => ?_, fun l hl => ?_, fun l m hl hm q => ?_, fun k hk => ?_, fun k hk => ?_⟩
  · obtain ⟨c, c1, c2⟩ := h3 i hi
    exact (s_sm_of c2 c1 (by omega)).1
  · obtain ⟨x, y, d, q1, q2, q3, q4, q5, q6⟩ := l3 l (by omega)
    obtain ⟨e1, e2⟩ := c_nd_sm q1 a3 a2 hf
    obtain ⟨e3, e4⟩ := c_nd_sm q2 a3 a2 hf
    obtain ⟨e5, e6⟩ := s_sm_of q3 q5 (by omega)
    rw [va]
    exact ⟨e1, e3, e5, by show v_ _ ≠ v_ _; rw [e2, e4]; exact q6, by show 1 ≤ v_ _; rw [e6]; exact q4⟩
  · refine l4 l m (by omega) (by omega) ?_
    obtain ⟨x, y, d, q1, q2, -⟩ := l3 l (by omega)
    obtain ⟨x', y', d', q1', q2', -⟩ := l3 m (by omega)
    have e1 := (c_nd_sm q1 a3 a2 hf).2
    have e2 := (c_nd_sm q2 a3 a2 hf).2
    have e3 := (c_nd_sm q1' a3 a2 hf).2
    have e4 := (c_nd_sm q2' a3 a2 hf).2
    have q' : x = x' ∧ y = y' ∨ x = y' ∧ y = x' := by
      rw [← e1, ← e2, ← e3, ← e4]; exact q
    unfold s_isOf
    rw [q1.1, q2.1, q1'.1, q2'.1]
    rcases q' with ⟨rfl, rfl⟩ | ⟨rfl, rfl⟩
    · simp
    · simp
  · obtain ⟨x, y, c, q1, q2, q3, q4, q5, q6⟩ := k3 k (by omega)
    obtain ⟨e1, e2⟩ := c_nd_sm q1 a3 a2 hf
    obtain ⟨e3, e4⟩ := c_nd_sm q3 a3 a2 hf
    rw [va]
    exact ⟨e1, s_wn_sm q2, e3, (s_sm_of q4 q5 (by omega)).1, by show v_ _ ≠ v_ _; rw [e2, e4]; exact q6⟩
  · obtain ⟨x, c, q1, q2, q4, q5⟩ := s3 k (by omega)
    obtain ⟨e1, e2⟩ := c_nd_sm q1 a3 a2 hf
    rw [va]
    exact ⟨e1, s_wn_sm q2, (s_sm_of q4 q5 (by omega)).1⟩
theorem c_run_ok {R : s_R} (h : c_run R) : r_ok R := by
  obtain ⟨K, k1, k2, k3⟩ := h
  have vK : r_cnt R = K := (s_sm_of k2 k1 (by omega)).2
  exact ⟨⟨by rw [vK]; exact k2, by omega⟩, fun k hk => k3 k (by omega)⟩
theorem c_log_ok {L : s_R} (h : c_log L) : l_ok L := by
  obtain ⟨K, k1, k2, k3⟩ := h
  have vK : l_cnt L = K := (s_sm_of k2 k1 (by omega)).2
  exact ⟨⟨by rw [vK]; exact k2, by omega⟩, fun k hk => k3 k (by omega)⟩
/-- what is told of at first -/
def s_row0 (s : Nat) : s_R := fun j => if s = 0 then (if j = 0 then 3 else if j = 1 then 20 else if 5 ≤ j ∧ j ≤ 10 then 2 else 0) else 0
def s_y0 (B : Nat → Int32) (s : Nat) : s_Y := (s_tok B 0, (0, 0), true, -1, s_row0 s)
def s_fin (s : Nat) (y : s_Y) : s_Y := if s = 0 ∧ (y_f y).1 = 0 ∧ ¬ y_far y < y_row y 0 then s_adds 4 (k_at (y_k y)) y else y
def s_read (B : Nat → Int32) (s : Nat) : Nat ⊕ s_Y := match s_lines B s 602 (s_y0 B s) with
  | .inl pl => .inl pl
  | .inr y => .inr (s_fin s y)
def s_rowOk (s : Nat) (row : s_R) : Prop := if s = 0 then n_ok row else if s = 1 then r_ok row else l_ok row
section T90
variable {σ σ' : t_S} {B : Nat → Int32} {len : Nat} {y : s_Y} {s : Nat}
theorem y_of_0 (hs : s < 3) : y_of s B (s_y0 B s) := by
  have ho : y_ord (s_y0 B s) := ⟨(s_tok_ord (B := B) 0).2.1, (s_tok_ord (B := B) 0).2.2⟩
  have ht : y_isT B (s_y0 B s) := ⟨0, rfl⟩
  unfold y_of
  rcases (show s = 0 ∨ s = 1 ∨ s = 2 by omega) with rfl | rfl | rfl
  · rw [if_pos rfl]
    refine ⟨ho, ht, ⟨⟨0, by omega, rfl⟩, ⟨0, by omega, rfl⟩, 0, by omega, rfl⟩, fun _ => ⟨⟨⟨3, by omega, by omega, rfl⟩, ⟨20, by omega, by omega, rfl⟩, fun i hi => ⟨2, by omega, ?_⟩⟩, ⟨0, by omega, rfl, fun l hl => by omega, fun l m hl => by omega⟩, ⟨0, by omega, rfl, fun l hl => by omega⟩, 0, by omega, rfl, fun l hl => by omega⟩⟩
    show (if (0 : Nat) = 0 then (if 5 + i = 0 then (3 : Int32) else if 5 + i = 1 then 20 else if 5 ≤ 5 + i ∧ 5 + i ≤ 10 then 2 else 0) else 0) = nI 2
    rw [if_pos rfl, if_neg (by omega), if_neg (by omega), if_pos (by omega)]
    rfl
  · rw [if_neg (by omega), if_pos rfl]
    exact ⟨ho, ht, ⟨0, by omega, rfl⟩, fun _ => ⟨0, by omega, rfl, fun k hk => by omega⟩⟩
  · rw [if_neg (by omega), if_neg (by omega)]
    exact ⟨ho, ht, ⟨0, by omega, rfl⟩, fun _ => ⟨0, by omega, rfl, fun k hk => by omega⟩⟩
/-- a text without a fault tells a net, a run, a log -/
theorem s_fin_ok (hs : s < 3) (h : y_of s B y) (hF : (y_f (s_fin s y)).1 = 0) : s_rowOk s (y_row (s_fin s y)) := by
  unfold s_fin at hF ⊢
  by_cases c : s = 0 ∧ (y_f y).1 = 0 ∧ ¬ y_far y < y_row y 0
  · rw [if_pos c] at hF
    exact absurd hF (s_addF_ne (by decide))
  · rw [if_neg c] at hF ⊢
    unfold y_of at h
    unfold s_rowOk
    by_cases c0 : s = 0
    · rw [if_pos c0] at h ⊢
      have hlt : y_far y < y_row y 0 := by
        by_cases q : y_far y < y_row y 0
        · exact q
        · exact absurd ⟨c0, hF, q⟩ c
      exact c_net_ok (h.2.2.2 hF) hlt
    · rw [if_neg c0] at h ⊢
      by_cases c1 : s = 1
      · rw [if_pos c1] at h ⊢
        exact c_run_ok (h.2.2.2 hF)
      · rw [if_neg c1] at h ⊢
        exact c_log_ok (h.2.2.2 hF)
theorem p_readText_2 (Kf : t_S → Option (Int32 × t_S)) (hs : s < 3) : ∃ σ', D_readText_2 (nI s) Kf x_F 0 σ = Kf σ' ∧ (∀ k, t_i σ' k = t_i σ k) ∧ t_w σ' = t_w σ ∧ (∀ a j, a ≠ 18 → t_a σ' a j = t_a σ a j) ∧ ∀ j, j < 122 → t_a σ' 18 j = s_row0 s j := by
  have key := x_forS (fun k (s' : t_S) (_ : Unit) => (∀ j, t_i s' j = t_i σ j) ∧ t_w s' = t_w σ ∧ (∀ a j, a ≠ 18 → t_a s' a j = t_a σ a j) ∧ ∀ j, j < k → t_a s' 18 j = s_row0 s j) (fun f k s' => D_readText_2 (nI s) Kf f (nI k) s') Kf (fun _ g => g) 122 ?_ ?_ x_F 0 σ () (by omega) ⟨fun _ => rfl, rfl, fun _ _ _ => rfl, fun j hj => by omega⟩ (by rw [x_Fv]; omega)
  · obtain ⟨s', k1, k2, k3, k4, k5⟩ := key
    exact ⟨s', k1, k2, k3, k4, k5⟩
  · intro f s' g _
    show (if (122 : Int32) ≤ nI 122 then _ else _) = _
    rw [if_pos (show (122 : Int32) ≤ nI 122 from Int32.le_refl _)]
  · intro f k s' g hq hk
    obtain ⟨q1, q2, q3, q4⟩ := hq
    refine ⟨t_sa s' 18 k (s_row0 s k), ?_, q1, q2, fun a j ha => by rw [t_a_sa, if_neg (fun z => ha z.1)]; exact q3 a j ha, fun j hj => ?_⟩
    · have g1 : ∀ {α : Type} (kk : Nat → Option α), x_ga (nI k) 122 kk = kk k := fun kk => x_gaS hk (by omega)
      show (if (122 : Int32) ≤ nI k then _ else _) = _
      rw [if_neg (show ¬ (122 : Int32) ≤ nI k from nI_ge (a := k) (b := 122) hk (by omega))]
      unfold s_row0
      by_cases c : s = 0
      · rw [if_pos (show nI s = 0 by rw [c]; rfl), if_pos c]
        by_cases c0 : k = 0
        · rw [if_pos (show nI k = 0 by rw [c0]; rfl), if_pos c0, g1, x_lS, x_lS, nI_1]
        · rw [if_neg (nI_ne0 (by omega) (by omega)), if_neg c0]
          by_cases c1 : k = 1
          · rw [if_pos (show nI k = 1 by rw [c1]; rfl), if_pos c1, g1, x_lS, x_lS, nI_1]
          · rw [if_neg (show ¬ nI k = 1 from fun q => c1 ((nI_eq (b := 1) (by omega) (by omega)).mp q)), if_neg c1, p_in, x_bS]
            unfold s_i
            by_cases c5 : 5 ≤ k ∧ k ≤ 10
            · rw [if_pos (show (5 : Int32) ≤ nI k ∧ nI k ≤ 10 from ⟨nI_le (a := 5) c5.1 (by omega), nI_le (b := 10) c5.2 (by omega)⟩), if_neg (show ¬ (1 : Int32) = 0 by decide), if_pos c5, g1, x_lS, x_lS, nI_1]
            · rw [if_neg (show ¬ ((5 : Int32) ≤ nI k ∧ nI k ≤ 10) from fun q => c5 ⟨(nI_leI (a := 5) (by omega) (by omega)).mp q.1, (nI_leI (b := 10) (by omega) (by omega)).mp q.2⟩), if_pos (show (0 : Int32) = 0 from rfl), if_neg c5, g1, x_lS, x_lS, nI_1]
      · rw [if_neg (show ¬ nI s = 0 from nI_ne0 (by omega) (by omega)), if_neg c, g1, x_lS, x_lS, nI_1]
    · rw [t_a_sa]
      by_cases c : j = k
      · rw [if_pos ⟨rfl, c⟩, c]
      · rw [if_neg (fun z => c z.2)]
        exact q4 j (by omega)
/-- a text is read: its fault and place are laid -/
def t_rdT (σ : t_S) (s : Nat) (m : Nat ⊕ s_Y) (r : Int32) (σ' : t_S) : Prop := (∀ a j, a ≠ 18 → a ≠ 19 → ¬ ((a = 3 ∨ a = 4) ∧ j = 0) → t_a σ' a j = t_a σ a j) ∧ match m with
  | .inl pl => r = 0 ∧ t_a σ' 3 0 = 1 ∧ t_a σ' 4 0 = nI pl
  | .inr y => t_a σ' 3 0 = (y_f y).1 ∧ t_a σ' 4 0 = (if (y_f y).1 ≤ 0 then -1 else nI (y_f y).2) ∧ (if (y_f y).1 = 0 then r = 1 ∧ s_rowOk s (y_row y) ∧ ∀ j, j < 122 → t_a σ' 18 j = y_row y j else r = 0)
theorem p_readText (hs : s < 3) (h : t_B σ B len) : ∃ r σ', D_readText (nI s) σ = some (r, σ') ∧ t_rdT σ s (s_read B s) r σ' := by
  -- what is behind the lines
  have tail : ∀ (z : Int32) (s3 : t_S) (f : Int32) (pl : Int32), (∀ a j, a ≠ 18 → a ≠ 19 → t_a s3 a j = t_a σ a j) → ∃ σ', (x_l (t_sa s3 3 0 f) fun σ40 => x_l (t_sa σ40 4 0 pl) fun σ44 => x_ga (0 : Int32) 4 fun j45 => if (t_a σ44 3 j45) = 0 then (some ((1 : Int32), σ44)) else some ((0 : Int32), σ44)) = some ((if f = 0 then 1 else 0), σ') ∧ σ' = t_sa (t_sa s3 3 0 f) 4 0 pl ∧ t_a σ' 3 0 = f ∧ t_a σ' 4 0 = pl ∧ (∀ a j, a ≠ 18 → a ≠ 19 → ¬ ((a = 3 ∨ a = 4) ∧ j = 0) → t_a σ' a j = t_a σ a j) := by
    intro z s3 f pl hm
    refine ⟨t_sa (t_sa s3 3 0 f) 4 0 pl, ?_, rfl, ?_, ?_, fun a j h1 h2 h3 => ?_⟩
    · have e : t_a (t_sa (t_sa s3 3 0 f) 4 0 pl) 3 0 = f := by rw [t_a_sa, if_neg (by decide), t_a_sa, if_pos ⟨rfl, rfl⟩]
      rw [x_lS, x_lS, x_ga40, e]
      by_cases c : f = 0
      · rw [if_pos c, if_pos c]
      · rw [if_neg c, if_neg c]
    · rw [t_a_sa, if_neg (by decide), t_a_sa, if_pos ⟨rfl, rfl⟩]
    · rw [t_a_sa, if_pos ⟨rfl, rfl⟩]
    · rw [t_a_sa, if_neg (fun q => h3 ⟨Or.inr q.1, q.2⟩), t_a_sa, if_neg (fun q => h3 ⟨Or.inl q.1, q.2⟩)]
      exact hm a j h1 h2
  unfold D_readText s_read
  obtain ⟨s1, a1, a2, a3, a4, a5⟩ := p_readText_2 (σ := σ) (s := s) (fun (σ27 : t_S) => x_l (t_si σ27 20 (-1 : Int32)) fun σ28 => x_l (t_si σ28 9 (0 : Int32)) fun σ29 => x_l (t_si σ29 16 (0 : Int32)) fun σ30 => x_b (D_token σ30) fun σ32 => x_b2 (D_allLines (nI s) σ32) fun r34 σ35 => x_l (fun (σ36 : t_S) => x_l (fun (s37 : Int32) (s38 : Int32) => x_ga s37 4 fun j39 => x_l (t_sa σ36 3 j39 s38) fun σ40 => x_l (fun (s41 : Int32) (s42 : Int32) => x_ga s41 4 fun j43 => x_l (t_sa σ40 4 j43 s42) fun σ44 => x_ga (0 : Int32) 4 fun j45 => if (t_a σ44 3 j45) = 0 then (some ((1 : Int32), σ44)) else some ((0 : Int32), σ44)) fun J172 => if r34 = 0 then (J172 (0 : Int32) (t_i σ40 15)) else if (t_i σ40 16) ≤ 0 then (J172 (0 : Int32) (-1 : Int32)) else J172 (0 : Int32) (t_i σ40 17)) fun J140 => if r34 = 0 then (J140 (0 : Int32) (1 : Int32)) else J140 (0 : Int32) (t_i σ36 16)) fun J123 => if r34 = 0 then (J123 σ35) else if nI s = 0 then (if (t_i σ35 16) = 0 then (x_ga (0 : Int32) 122 fun j53 => if (t_i σ35 20) < (t_a σ35 18 j53) then (J123 σ35) else x_b (D_addsFault (4 : Int32) (t_i σ35 11) σ35) fun σ56 => J123 σ56) else J123 σ35) else J123 σ35) hs
  rw [a1, x_lS, x_lS, x_lS]
  have hi : ∀ k, k ≠ 20 → k ≠ 9 → k ≠ 16 → t_i (t_si (t_si (t_si s1 20 (-1)) 9 0) 16 0) k = t_i σ k := fun k q1 q2 q3 => by rw [t_i_si, if_neg q3, t_i_si, if_neg q2, t_i_si, if_neg q1]; exact a2 k
  have hB1 : t_B (t_si (t_si (t_si s1 20 (-1)) 9 0) 16 0) B len := ⟨(hi 10 (by decide) (by decide) (by decide)).trans h.1, h.2.1, fun k hk => (h.2.2.1 k hk).trans (by rw [show t_a (t_si (t_si (t_si s1 20 (-1)) 9 0) 16 0) 1 k = t_a s1 1 k from rfl, a4 1 k (by decide)]), h.2.2.2⟩
  obtain ⟨s2, b1, b2, b3, b4, b5⟩ := p_token (r := 0) hB1 (by rw [t_i_si, if_neg (by decide), t_i_si, if_pos rfl]; rfl) (Nat.zero_le _)
  rw [b1, x_bS]
  have hY : t_Y (t_si s2 21 1) B len (y_sg (s_y0 B s) true) := by
    have hj : ∀ k, k ≠ 21 → t_i (t_si s2 21 1) k = t_i s2 k := fun k q => by rw [t_i_si, if_neg q]
    refine ⟨⟨(hj 10 (by decide)).trans (hB1.of b3).1, h.2.1, (hB1.of b3).2.2.1, h.2.2.2⟩, ⟨(hj 12 (by decide)).trans b2.1, (hj 11 (by decide)).trans b2.2.1, (hj 9 (by decide)).trans b2.2.2.1, fun q => (hj 13 (by decide)).trans (b2.2.2.2.1 q), b2.2.2.2.2⟩, ⟨b5, b4⟩, ⟨?_, fun q => absurd rfl q⟩, rfl, ?_, fun j hj' => ?_⟩
    · rw [hj 16 (by decide), b3.1 16 (by decide) (by decide) (by decide) (by decide), t_i_si, if_pos rfl]; rfl
    · rw [hj 20 (by decide), b3.1 20 (by decide) (by decide) (by decide) (by decide), t_i_si, if_neg (by decide), t_i_si, if_neg (by decide), t_i_si, if_pos rfl]; rfl
    · show t_a s2 18 j = s_row0 s j
      rw [b3.2 18 j]
      exact a5 j hj'
  have hm2 : ∀ a j, a ≠ 18 → a ≠ 19 → t_a s2 a j = t_a σ a j := fun a j h1 h2 => (b3.2 a j).trans (a4 a j h1)
  obtain ⟨r, s3, c1, c2, c3⟩ := p_allLines_2 (fun (v2_35 : Int32) (σ36 : t_S) => x_g (v2_35 = 0 ∨ v2_35 = 1) <| some (v2_35, σ36)) hs 602 x_F (s_y0 B s) s2 hY (y_of_0 hs) (by have := h.2.1; omega) (by rw [x_Fv]; omega)
  have hm3 : ∀ a j, a ≠ 18 → a ≠ 19 → t_a s3 a j = t_a σ a j := fun a j h1 h2 => (c2 a j h1 h2).trans (hm2 a j h1 h2)
  have hal : D_allLines (nI s) s2 = x_g (r = 0 ∨ r = 1) (some (r, s3)) := by
    unfold D_allLines
    exact c1
  rw [hal]
  cases hl : s_lines B s 602 (s_y0 B s) with
  | inl pl =>
    rw [hl] at c3
    obtain ⟨e1, e2, e3⟩ := c3
    rw [x_gS (Or.inl e1), x_b2S, x_lS, if_pos e1]
    show ∃ r σ', x_l _ _ = _ ∧ _
    rw [x_lS, if_pos e1]
    show ∃ r σ', x_ga (0 : Int32) 4 _ = _ ∧ _
    rw [x_ga40, x_lS, x_lS, if_pos e1]
    show ∃ r σ', x_ga (0 : Int32) 4 _ = _ ∧ _
    rw [x_ga40]
    obtain ⟨σ', t1, t2, t3, t4, t5⟩ := tail 0 s3 1 (t_i (t_sa s3 3 0 1) 15) hm3
    rw [x_lS] at t1
    refine ⟨0, σ', t1, t5, rfl, t3, ?_⟩
    rw [t4]; exact e2
  | inr y' =>
    rw [hl] at c3
    obtain ⟨e1, e2, e3⟩ := c3
    have n1 : ¬ r = 0 := by rw [e1]; decide
    rw [x_gS (Or.inr e1), x_b2S, x_lS]
    -- the fault there is
    have fin : ∀ (s4 : t_S) (y4 : s_Y), y_row y4 = y_row y' → t_i s4 16 = (y_f y4).1 → ((y_f y4).1 ≠ 0 → t_i s4 17 = nI (y_f y4).2) → (∀ j, j < 122 → t_a s4 18 j = y_row y4 j) → (∀ a j, a ≠ 18 → a ≠ 19 → t_a s4 a j = t_a σ a j) → ((y_f y4).1 = 0 → s_rowOk s (y_row y4)) → ∃ r' σ', (x_l (fun (s37 : Int32) (s38 : Int32) => x_ga s37 4 fun j39 => x_l (t_sa s4 3 j39 s38) fun σ40 => x_l (fun (s41 : Int32) (s42 : Int32) => x_ga s41 4 fun j43 => x_l (t_sa σ40 4 j43 s42) fun σ44 => x_ga (0 : Int32) 4 fun j45 => if (t_a σ44 3 j45) = 0 then (some ((1 : Int32), σ44)) else some ((0 : Int32), σ44)) fun J172 => if r = 0 then (J172 (0 : Int32) (t_i σ40 15)) else if (t_i σ40 16) ≤ 0 then (J172 (0 : Int32) (-1 : Int32)) else J172 (0 : Int32) (t_i σ40 17)) fun J140 => if r = 0 then (J140 (0 : Int32) (1 : Int32)) else J140 (0 : Int32) (t_i s4 16)) = some (r', σ') ∧ t_rdT σ s (.inr y4) r' σ' := by
      intro s4 y4 hr h16 h17 h18 hm hok
      rw [x_lS, if_neg n1]
      show ∃ r σ', x_ga (0 : Int32) 4 _ = _ ∧ _
      rw [x_ga40, x_lS, x_lS, if_neg n1, h16]
      have go : ∀ pl : Int32, pl = (if (y_f y4).1 ≤ 0 then -1 else nI (y_f y4).2) → ∃ r' σ', (x_ga (0 : Int32) 4 fun j43 => x_l (t_sa (t_sa s4 3 0 (y_f y4).1) 4 j43 pl) fun σ44 => x_ga (0 : Int32) 4 fun j45 => if (t_a σ44 3 j45) = 0 then (some ((1 : Int32), σ44)) else some ((0 : Int32), σ44)) = some (r', σ') ∧ t_rdT σ s (.inr y4) r' σ' := by
        intro pl hpl
        obtain ⟨σ', t1, t2, t3, t4, t5⟩ := tail 0 s4 (y_f y4).1 pl hm
        rw [x_lS] at t1
        refine ⟨_, σ', by rw [x_ga40]; exact t1, t5, t3, t4.trans hpl, ?_⟩
        by_cases c0 : (y_f y4).1 = 0
        · rw [if_pos c0, if_pos c0]
          refine ⟨rfl, hok c0, fun j hj => ?_⟩
          rw [t2, t_a_sa, if_neg (by omega), t_a_sa, if_neg (by omega)]
          exact h18 j hj
        · rw [if_neg c0, if_neg c0]
      by_cases cle : (y_f y4).1 ≤ 0
      · rw [if_pos (show t_i (t_sa s4 3 0 (y_f y4).1) 16 ≤ 0 by show t_i s4 16 ≤ 0; rw [h16]; exact cle)]
        exact go _ (by rw [if_pos cle])
      · have cne : (y_f y4).1 ≠ 0 := fun q => cle (by rw [q]; exact Int32.le_refl _)
        rw [if_neg (show ¬ t_i (t_sa s4 3 0 (y_f y4).1) 16 ≤ 0 by show ¬ t_i s4 16 ≤ 0; rw [h16]; exact cle)]
        exact go _ (by rw [if_neg cle]; exact h17 cne)
    have hj : ∀ k, k ≠ 21 → t_i s3 k = t_i (t_si s3 21 1) k := fun k q => by rw [t_i_si, if_neg q]
    have h16 : t_i s3 16 = (y_f y').1 := (hj 16 (by decide)).trans e2.2.2.2.1.1
    have h17 : (y_f y').1 ≠ 0 → t_i s3 17 = nI (y_f y').2 := fun q => (hj 17 (by decide)).trans (e2.2.2.2.1.2 q).1
    have h18 : ∀ j, j < 122 → t_a s3 18 j = y_row y' j := e2.2.2.2.2.2.2
    have h20 : t_i s3 20 = y_far y' := (hj 20 (by decide)).trans e2.2.2.2.2.2.1
    have h11 : t_i s3 11 = nI (k_at (y_k y')) := (hj 11 (by decide)).trans e2.2.1.2.1
    have hok := fun hF => s_fin_ok (s := s) hs e3 hF
    rw [if_neg n1]
    have keep : ¬ (s = 0 ∧ (y_f y').1 = 0 ∧ ¬ y_far y' < y_row y' 0) → s_fin s y' = y' := fun q => by unfold s_fin; rw [if_neg q]
    by_cases c0 : s = 0
    · rw [if_pos (show nI s = 0 by rw [c0]; rfl), h16]
      by_cases cF : (y_f y').1 = 0
      · rw [if_pos cF, show ∀ {α : Type} (kk : Nat → Option α), x_ga 0 122 kk = kk 0 from fun kk => x_gaS (j := 0) (by omega) (by omega), h20, h18 0 (by omega)]
        by_cases cfar : y_far y' < y_row y' 0
        · rw [if_pos cfar]
          have hk := keep (fun q => q.2.2 cfar)
          rw [hk] at hok
          show ∃ r σ', _ ∧ t_rdT σ s (.inr (s_fin s y')) r σ'
          rw [hk]
          exact fin s3 y' rfl h16 h17 h18 hm3 hok
        · rw [if_neg cfar]
          have hsf : s_fin s y' = s_adds 4 (k_at (y_k y')) y' := by unfold s_fin; rw [if_pos ⟨c0, cF, cfar⟩]
          show ∃ r σ', _ ∧ t_rdT σ s (.inr (s_fin s y')) r σ'
          rw [hsf]
          have hadd : ∃ s6, D_addsFault 4 (t_i s3 11) s3 = some s6 ∧ t_i s6 16 = 4 ∧ t_i s6 17 = nI (k_at (y_k y')) ∧ ∀ a j, t_a s6 a j = t_a s3 a j := by
            unfold D_addsFault
            rw [x_lS, x_lS, x_lS, h16, if_pos cF]
            exact ⟨_, rfl, by rw [t_i_si, if_neg (by decide), t_i_si, if_pos rfl], by rw [t_i_si, if_pos rfl]; exact h11, fun _ _ => rfl⟩
          obtain ⟨s6, g1, g2, g3, g4⟩ := hadd
          rw [g1, x_bS]
          have hF4 : y_f (s_adds 4 (k_at (y_k y')) y') = (4, k_at (y_k y')) := by
            show s_addF 4 (k_at (y_k y')) (y_f y') = _
            unfold s_addF
            rw [if_pos (Or.inl cF)]
          exact fin s6 (s_adds 4 (k_at (y_k y')) y') rfl (by rw [hF4]; exact g2) (fun _ => by rw [hF4]; exact g3) (fun j hj => (g4 18 j).trans (h18 j hj)) (fun a j q1 q2 => (g4 a j).trans (hm3 a j q1 q2)) (fun q => by rw [hF4] at q; exact absurd (show (4 : Int32) = 0 from q) (by decide))
      · rw [if_neg cF]
        have hk := keep (fun q => cF q.2.1)
        rw [hk] at hok
        show ∃ r σ', _ ∧ t_rdT σ s (.inr (s_fin s y')) r σ'
        rw [hk]
        exact fin s3 y' rfl h16 h17 h18 hm3 hok
    · rw [if_neg (show ¬ nI s = 0 from nI_ne0 (by omega) (by omega))]
      have hk := keep (fun q => c0 q.1)
      rw [hk] at hok
      show ∃ r σ', _ ∧ t_rdT σ s (.inr (s_fin s y')) r σ'
      rw [hk]
      exact fin s3 y' rfl h16 h17 h18 hm3 hok
end T90
