/-! THE TWIN's LAW, 33: a run -/
set_option maxRecDepth 100000
/-- how many entries all nodes have -/
def s_all (N : s_R) (G : s_G) : Nat := s_fold (fun n a => a + (g_es G n).length) 0 (n_nodes N) 0
/-- the run at hand: its row of 121 ints -/
def r_cnt (R : s_R) : Nat := v_ (R 0)
def r_dd (R : s_R) (k : Nat) : s_Dd := (R (1 + 3 * k), R (1 + 3 * k + 1), R (1 + 3 * k + 2))
def r_ok (R : s_R) : Prop := (R 0 = nI (r_cnt R) ∧ r_cnt R ≤ 40) ∧ ∀ k, k < r_cnt R → d_ok (r_dd R k)
def t_run (σ : t_S) (R : s_R) : Prop := ∃ kk, kk < 8 ∧ t_i σ 75 = nI kk ∧ ∀ j, j < 121 → t_a σ 7 (121 * kk + j) = R j
/-- deeds done from the k-th on, m at most: how many then, most entries, what is so -/
def s_plays (N : s_R) (lk : Nat → Option Nat) (ds : Nat → s_Dd) : Nat → Nat → Nat → s_G → Nat × Nat × s_G
  | 0, k, w, G => (k, w, G)
  | m + 1, k, w, G => match s_does N lk (ds k) k G with
    | none => (k, w, G)
    | some G' => s_plays N lk ds m (k + 1) (max w (s_all N G')) G'
def s_play (N : s_R) (lk : Nat → Option Nat) (ds : Nat → s_Dd) (n : Nat) (G : s_G) : Nat × Nat × s_G := s_plays N lk ds n 0 0 G
/-- what a run leaves as it is -/
def t_outP (σ σ' : t_S) : Prop := (∀ k, k < 25 ∨ k = 75 ∨ 77 ≤ k → t_i σ' k = t_i σ k) ∧ t_w σ' = t_w σ ∧ ∀ k j, k < 25 ∨ 75 ≤ k → t_a σ' k j = t_a σ k j
theorem t_out.P {σ σ' : t_S} (h : t_out σ σ') : t_outP σ σ' := ⟨fun k hk => h.1 k (by omega), h.2.1, h.2.2⟩
theorem t_outP.trans {σ σ' σ2 : t_S} (h : t_outP σ σ') (h' : t_outP σ' σ2) : t_outP σ σ2 := ⟨fun k hk => (h'.1 k hk).trans (h.1 k hk), h'.2.1.trans h.2.1, fun k j hk => (h'.2.2 k j hk).trans (h.2.2 k j hk)⟩
section T63
variable {σ σ' : t_S} {N R : s_R} {lk : Nat → Option Nat} {G : s_G} {K : Nat} {W : s_W} {t : Nat}
theorem p_entriesAll (h : t_rel σ N lk G) (hN : n_ok N) : D_entriesAll σ = some (nI (s_all N G)) := by
  have hnn : N 0 = nI (n_nodes N) ∧ n_nodes N ≤ 6 := hN.1.1
  unfold D_entriesAll s_all
  rw [← nI_0]
  refine x_for (fun _ (_ : Nat) => True) (fun f a k => D_entriesAll_4 σ (fun (v1_9 : Int32) => some v1_9) f (nI a) (nI k)) (fun a => some (nI a)) (fun n a => a + (g_es G n).length) (n_nodes N) ?_ ?_ (fun _ _ _ _ => trivial) x_F 0 0 (by omega) trivial (by rw [x_Fv]; omega)
  · intro f a _
    show (if t_i σ 23 ≤ _ then _ else _) = _
    rw [h.1.2.2.1, hnn.1, if_pos (Int32.le_refl _)]
  · intro f a k _ hk
    show (if t_i σ 23 ≤ nI k then _ else _) = _
    rw [h.1.2.2.1, hnn.1, if_neg (nI_ge hk (by omega)), x_gaS (by omega) (by omega), (h.2.2.2.1 k (by omega)).1.1]
    simp only [x_lS, nI_1, nI_add]
theorem p_deeds (h : t_run σ R) : D_deeds σ = some (R 0) := by
  obtain ⟨kk, h1, h2, h3⟩ := h
  unfold D_deeds
  rw [h2, show (121 : Int32) = nI 121 from rfl, nI_mul, x_gaS (by omega) (by omega)]
  have := h3 0 (by omega)
  rw [Nat.add_zero] at this
  rw [this]
theorem p_deedOf {k w : Nat} (h : t_run σ R) (hk : k < 40) (hw : w < 3) : D_deedOf (nI k) (nI w) σ = some (R (1 + 3 * k + w)) := by
  obtain ⟨kk, h1, h2, h3⟩ := h
  unfold D_deedOf
  rw [h2, show (121 : Int32) = nI 121 from rfl, nI_mul, show (3 : Int32) = nI 3 from rfl, nI_mul, nI_1, nI_add, nI_add, x_gaS (by omega) (by omega)]
  have := h3 (1 + 3 * k + w) (by omega)
  rw [← this, show 121 * kk + 1 + 3 * k + w = 121 * kk + (1 + 3 * k + w) by omega]
theorem t_rel_wide {x : Int32} (h : t_rel σ N lk G) : t_rel (t_si σ 76 x) N lk G ∧ t_outP σ (t_si σ 76 x) := by
  obtain ⟨⟨h1, h2, h3, h4⟩, h5, h6, h7, h8, ⟨w1, w2, w3⟩, h9, c1, c2, c3, c4, c5, c6⟩ := h
  exact ⟨⟨⟨t_net_si (by decide) h1, h2, h3, h4⟩, h5, h6, h7, h8, ⟨w1, w2, w3⟩, h9, c1, c2, c3, c4, c5, c6⟩, fun k hk => by rw [t_i_si, if_neg (by omega)], rfl, fun _ _ _ => rfl⟩
theorem t_run.of (h : t_run σ R) (ho : t_outP σ σ') : t_run σ' R := by
  obtain ⟨kk, h1, h2, h3⟩ := h
  exact ⟨kk, h1, (ho.1 75 (by omega)).trans h2, fun j hj => (ho.2.2 7 _ (by omega)).trans (h3 j hj)⟩
theorem s_all_le (hN : n_ok N) (h : ∀ n, n < 6 → (g_es G n).length < 64) : s_all N G < 400 := by
  have hnn : n_nodes N ≤ 6 := hN.1.1.2
  have H := s_foldP (fun k (a : Nat) => a ≤ 64 * k) (fun n a => a + (g_es G n).length) (n_nodes N) (fun a k ha hk => by
    show a + (g_es G k).length ≤ 64 * (k + 1)
    have := h k (by omega)
    omega) (n_nodes N) 0 0 (by omega) (by omega)
  unfold s_all
  omega
theorem p_play_7 (Kf : Int32 → t_S → Option (Int32 × t_S)) (hN : n_ok N) (hlk : s_lkok N lk) (hR : r_ok R) {n : Nat} (hn : n ≤ r_cnt R) : ∀ (m f k w : Nat) (W : s_W) (t : Nat) (σ : t_S) (G : s_G), t_rel σ N lk G → t_run σ R → s_inv N k W t t [] 0 0 0 G → t_i σ 76 = nI w → w < 400 → k + m = n → m < f →
    ∃ σ', D_play_7 (nI n) Kf f (nI k) σ = Kf (nI (s_plays N lk (r_dd R) m k w G).1) σ' ∧ t_rel σ' N lk (s_plays N lk (r_dd R) m k w G).2.2 ∧ t_i σ' 76 = nI (s_plays N lk (r_dd R) m k w G).2.1 ∧ t_outP σ σ' ∧ (∃ W' t', s_inv N (s_plays N lk (r_dd R) m k w G).1 W' t' t' [] 0 0 0 (s_plays N lk (r_dd R) m k w G).2.2) ∧ (s_plays N lk (r_dd R) m k w G).1 ≤ n := by
  obtain ⟨⟨R1, R2⟩, R3⟩ := hR
  intro m
  induction m with
  | zero =>
    intro f k w W t σ G h hr hi hw hw4 hk hf
    obtain ⟨f, rfl⟩ : ∃ f', f = f' + 1 := ⟨f - 1, by omega⟩
    refine ⟨σ, ?_, h, hw, (t_out.refl).P, ⟨W, t, hi⟩, by show k ≤ n; omega⟩
    show (if nI n ≤ nI k then _ else _) = _
    rw [if_pos (nI_le (by omega) (by omega))]
    rfl
  | succ m ih =>
    intro f k w W t σ G h hr hi hw hw4 hk hf
    obtain ⟨f, rfl⟩ : ∃ f', f = f' + 1 := ⟨f - 1, by omega⟩
    have hd := R3 k (by omega)
    obtain ⟨s1, p1, p2, p3⟩ := p_does h hN hlk (show k < 60 by omega) hi hd
    have hstep : D_play_7 (nI n) Kf (f + 1) (nI k) σ = x_b2 (D_does (r_dd R k).1 (r_dd R k).2.1 (r_dd R k).2.2 (nI k) σ) fun r15 σ16 => if r15 = 0 then (Kf (nI k) σ16) else x_b (D_entriesAll σ16) fun r20 => x_b (D_greater (t_i σ16 76) r20) fun r22 => D_play_7 (nI n) Kf f (nI (k + 1)) (t_si σ16 76 r22) := by
      show (if nI n ≤ nI k then _ else _) = _
      rw [if_neg (nI_ge (by omega) (by omega)), show (0 : Int32) = nI 0 from rfl, show (1 : Int32) = nI 1 from rfl, show (2 : Int32) = nI 2 from rfl, p_deedOf hr (by omega) (by omega), x_bS, p_deedOf hr (by omega) (by omega), x_bS, p_deedOf hr (by omega) (by omega), x_bS]
      simp only [x_lS, nI_add]
      rfl
    rw [hstep, p1, x_b2S]
    unfold s_plays
    cases hs : s_does N lk (r_dd R k) k G with
    | none =>
      rw [hs] at p2
      have hG : t_rel s1 N lk G := p2
      exact ⟨s1, by rw [if_pos (show (0 : Int32) = 0 from rfl)], hG, (p3.1 76 (by omega)).trans hw, p3.P, ⟨W, t, hi⟩, by show k ≤ n; omega⟩
    | some G' =>
      rw [hs] at p2
      have hG : t_rel s1 N lk G' := p2
      obtain ⟨W', t', hi'⟩ := hi.does hN hlk (by omega) hd hs
      have hlt := s_all_le hN (fun n hn => ((hi'.room hN (by omega)).1 n hn).1)
      have hw1 : t_i s1 76 = nI w := (p3.1 76 (by omega)).trans hw
      have hmax : (if nI (s_all N G') < nI w then nI w else nI (s_all N G')) = nI (max w (s_all N G')) := by
        by_cases c : s_all N G' < w
        · rw [if_pos (nI_lt c (by omega)), Nat.max_eq_left (by omega)]
        · rw [if_neg (nI_nlt (by omega) (by omega)), Nat.max_eq_right (by omega)]
      obtain ⟨u1, u2⟩ := t_rel_wide (x := nI (max w (s_all N G'))) hG
      obtain ⟨s2, q1, q2, q3, q4, q5, q6⟩ := ih f (k + 1) (max w (s_all N G')) W' t' (t_si s1 76 (nI (max w (s_all N G')))) G' u1 ((hr.of p3.P).of u2) hi' rfl (by omega) (by omega) (by omega)
      refine ⟨s2, ?_, q2, q3, (p3.P.trans u2).trans q4, q5, q6⟩
      show (if (1 : Int32) = 0 then _ else _) = _
      rw [if_neg (show ¬ (1 : Int32) = 0 by decide), p_entriesAll hG hN, x_bS, p_greater, x_bS, hw1, hmax]
      exact q1
theorem p_play {n : Nat} (h : t_rel σ N lk G) (hr : t_run σ R) (hN : n_ok N) (hlk : s_lkok N lk) (hR : r_ok R) (hn : n ≤ r_cnt R) (hi : s_inv N 0 W t t [] 0 0 0 G) : ∃ σ', D_play (nI n) σ = some (nI (s_play N lk (r_dd R) n G).1, σ') ∧ t_rel σ' N lk (s_play N lk (r_dd R) n G).2.2 ∧ t_i σ' 76 = nI (s_play N lk (r_dd R) n G).2.1 ∧ t_outP σ σ' ∧ (∃ W' t', s_inv N (s_play N lk (r_dd R) n G).1 W' t' t' [] 0 0 0 (s_play N lk (r_dd R) n G).2.2) ∧ (s_play N lk (r_dd R) n G).1 ≤ n := by
  obtain ⟨u1, u2⟩ := t_rel_wide (x := 0) h
  obtain ⟨s2, q1, q2, q3, q4, q5, q6⟩ := p_play_7 (fun (v2_24 : Int32) (σ25 : t_S) => some (v2_24, σ25)) hN hlk hR hn n x_F 0 0 W t (t_si σ 76 0) G u1 (hr.of u2) hi rfl (by omega) (by omega) (by have := hR.1.2; rw [x_Fv]; omega)
  refine ⟨s2, ?_, q2, q3, u2.trans q4, q5, q6⟩
  unfold D_play
  rw [nI_0] at q1
  rw [x_lS]
  exact q1
end T63
