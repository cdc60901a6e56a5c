/-! THE TWIN's LAW, 38: a net is asked -/
set_option maxRecDepth 100000
set_option maxHeartbeats 400000
theorem s_between {x lo hi : Int32} {a b : Nat} (hlo : lo = nI a) (hhi : hi = nI b) (hab : a ≤ b) (hb : b < 2 ^ 31) (h : lo ≤ x ∧ x ≤ hi) : x = nI (v_ x) ∧ a ≤ v_ x ∧ v_ x ≤ b := by
  obtain ⟨h1, h2⟩ := h
  subst hlo
  subst hhi
  have h0 : 0 ≤ x := Int32.le_trans (nI_pos' (by omega)) h1
  obtain ⟨e1, e2⟩ := v_of h0
  rw [e1] at h1 h2
  exact ⟨e1, (nI_leI (by omega) e2).mp h1, (nI_leI e2 (by omega)).mp h2⟩
theorem nI_mod {w k : Nat} (hw : w < 2 ^ 31) (hk : k < 2 ^ 31) : nI w - nI w / nI k * nI k = nI (w % k) := by
  rw [nI_div hw hk, nI_mul, nI_sub (by rw [Nat.mul_comm]; exact Nat.mul_div_le w k)]
  congr 1
  have := Nat.div_add_mod w k
  rw [Nat.mul_comm] at this
  omega
section T68
variable {σ σ' : t_S} {N R : s_R} {T : s_T} {lk : Nat → Option Nat} {G : s_G} {K : Nat} {W : s_W} {t : Nat}
theorem n_counts (hN : n_ok N) : N 2 = nI (n_links N) ∧ N 3 = nI (n_routes N) ∧ N 4 = nI (n_serves N) ∧ n_links N ≤ 15 ∧ n_routes N ≤ 12 ∧ n_serves N ≤ 6 := ⟨hN.2.2.1.1, hN.2.2.2.1.1, hN.2.2.2.2.1.1, hN.2.2.1.2, hN.2.2.2.1.2, hN.2.2.2.2.1.2⟩
theorem p_ofPlace {what : Int32} (h : t_net σ N) (hN : n_ok N) (hw : 200 ≤ what ∧ what ≤ 279 ∨ 300 ≤ what ∧ what ≤ 359) : D_ofPlace what (what - what / 20 * 20) σ = some (if 200 ≤ what ∧ what ≤ 279 then (if v_ (what - what / 20 * 20) < n_routes N then N (56 + 4 * v_ (what - what / 20 * 20) + v_ ((what - 200) / 20)) else -2) else (if v_ (what - what / 20 * 20) < n_serves N then N (104 + 3 * v_ (what - what / 20 * 20) + v_ ((what - 300) / 20)) else -2)) := by
  obtain ⟨c1, c2, c3, c4, c5, c6⟩ := n_counts hN
  have hm : ∀ w : Nat, w ≤ 359 → what = nI w → what - what / 20 * 20 = nI (w % 20) ∧ v_ (what - what / 20 * 20) = w % 20 := by
    intro w hw he
    have e : what - what / 20 * 20 = nI (w % 20) := by rw [he]; exact nI_mod (k := 20) (by omega) (by omega)
    refine ⟨e, ?_⟩
    rw [e]
    exact v_nI (by have := Nat.mod_lt w (show 20 > 0 by omega); omega)
  unfold D_ofPlace
  rcases hw with hw | hw
  · obtain ⟨e1, e2, e3⟩ := s_between (a := 200) (b := 279) rfl rfl (by omega) (by omega) hw
    obtain ⟨m1, m2⟩ := hm _ (by omega) e1
    have hmod := Nat.mod_lt (v_ what) (show 20 > 0 by omega)
    rw [if_pos hw, m1, v_nI (by omega), if_neg (show ¬ (300 : Int32) ≤ what by rw [e1]; exact nI_ge (a := v_ what) (b := 300) (by omega) (by omega)), p_routes h, x_bS, c2]
    have hd : (what - 200) / 20 = nI ((v_ what - 200) / 20) := by
      conv => lhs; rw [e1]
      rw [show (200 : Int32) = nI 200 from rfl, nI_sub (by omega), show (20 : Int32) = nI 20 from rfl, nI_div (by omega) (by omega)]
    rw [hd, v_nI (by omega)]
    by_cases c : v_ what % 20 < n_routes N
    · rw [if_neg (nI_ge c (by omega)), if_pos c, p_routeAt h (by omega) (by omega), x_bS]
    · rw [if_pos (nI_le (by omega) (by omega)), if_neg c]
  · obtain ⟨e1, e2, e3⟩ := s_between (a := 300) (b := 359) rfl rfl (by omega) (by omega) hw
    obtain ⟨m1, m2⟩ := hm _ (by omega) e1
    have hmod := Nat.mod_lt (v_ what) (show 20 > 0 by omega)
    have hno : ¬ (200 ≤ what ∧ what ≤ 279) := by
      rintro ⟨-, q⟩
      rw [e1] at q
      exact absurd q (nI_ge (a := 279) (b := v_ what) (by omega) (by omega))
    rw [if_neg hno, m1, v_nI (by omega), if_pos hw.1, p_serves h, x_bS, c3]
    have hd : (what - 300) / 20 = nI ((v_ what - 300) / 20) := by
      conv => lhs; rw [e1]
      rw [show (300 : Int32) = nI 300 from rfl, nI_sub (by omega), show (20 : Int32) = nI 20 from rfl, nI_div (by omega) (by omega)]
    rw [hd, v_nI (by omega)]
    by_cases c : v_ what % 20 < n_serves N
    · rw [if_neg (nI_ge c (by omega)), if_pos c, p_serveAt h (by omega) (by omega), x_bS]
    · rw [if_pos (nI_le (by omega) (by omega)), if_neg c]
theorem p_net {n what : Int32} (h : t_st σ T) : ∃ σ', D_net n what σ = some (q_net T n what, σ') ∧ t_keep σ σ' := by
  have h0 : t_st (t_si σ 0 0) T := h.keep t_keep.si
  obtain ⟨σ1, a1, a2, -, -, a3⟩ := p_hasNet (k := n) h0
  unfold D_net q_net
  rw [x_lS, a1, x_b2S]
  cases hn : s_row (u_nets T.1) n with
  | none => exact ⟨σ1, if_pos rfl, t_keep.si.trans a2⟩
  | some N =>
    obtain ⟨b1, b2, b3⟩ := a3 N hn
    have hN := u_net_ok h hn
    have hk : t_keep σ σ1 := t_keep.si.trans a2
    show ∃ σ', (if (1 : Int32) = 0 then _ else _) = _ ∧ _
    rw [if_neg (show ¬ (1 : Int32) = 0 by decide), p_in, x_bS]
    unfold s_i
    by_cases c1 : 0 ≤ what ∧ what ≤ 4
    · obtain ⟨e1, e2, e3⟩ := s_between (a := 0) (b := 4) rfl rfl (by omega) (by omega) c1
      simp only [if_pos c1]
      refine ⟨σ1, ?_, hk⟩
      show (if (1 : Int32) = 0 then _ else _) = _
      rw [if_neg (show ¬ (1 : Int32) = 0 by decide)]
      have := p_ofNet (j := v_ what) b1 (by omega)
      rw [← e1] at this
      rw [this, x_bS]
    · simp only [if_neg c1]
      rw [if_pos trivial, p_in, x_bS]
      unfold s_i
      by_cases c2 : 10 ≤ what ∧ what ≤ 15
      · obtain ⟨e1, e2, e3⟩ := s_between (a := 10) (b := 15) rfl rfl (by omega) (by omega) c2
        simp only [if_pos c2]
        refine ⟨σ1, ?_, hk⟩
        show (if (1 : Int32) = 0 then _ else _) = _
        rw [if_neg (show ¬ (1 : Int32) = 0 by decide), p_isNodeS b2 hN, x_bS]
        cases hs : s_node N (what - 10) with
        | none => simp only [hs]; exact if_pos trivial
        | some i =>
          obtain ⟨i1, i2, i3⟩ := s_node_lt hN hs
          simp only [hs]
          show (if (1 : Int32) = 0 then _ else _) = _
          have e5 : (5 : Int32) + what - 10 = nI (5 + i) := by
            have : what - 10 = nI (v_ what - 10) := by
              conv => lhs; rw [e1]
              exact nI_sub (a := v_ what) (b := 10) (by omega)
            rw [this] at i3
            have hi : i = v_ what - 10 := ((nI_eq (by omega) (by omega)).mp i3).symm
            rw [hi]
            conv => lhs; rw [e1]
            rw [show (5 : Int32) = nI 5 from rfl, nI_add, show (10 : Int32) = nI 10 from rfl, nI_sub (by omega)]
            congr 1
            omega
          rw [if_neg (show ¬ (1 : Int32) = 0 by decide), e5, p_ofNet b1 (by omega), x_bS]
      · simp only [if_neg c2]
        rw [if_pos trivial, p_in, x_bS]
        unfold s_i
        by_cases c3 : 100 ≤ what ∧ what ≤ 199
        · simp only [if_pos c3]
          rw [if_neg (show ¬ (1 : Int32) = 0 by decide), x_lS, x_lS, p_isNodeS b2 hN, x_bS]
          cases hx : s_node N ((what - 100) / 10) with
          | none => exact ⟨σ1, if_pos rfl, hk⟩
          | some a =>
            obtain ⟨i1, i2, i3⟩ := s_node_lt hN hx
            show ∃ σ', (if (1 : Int32) = 0 then _ else _) = _ ∧ _
            rw [if_neg (show ¬ (1 : Int32) = 0 by decide), p_isNodeS b2 hN, x_bS]
            cases hy : s_node N (what - what / 10 * 10) with
            | none => exact ⟨σ1, if_pos rfl, hk⟩
            | some b =>
              obtain ⟨k1, k2, k3⟩ := s_node_lt hN hy
              show ∃ σ', (if (1 : Int32) = 0 then _ else _) = _ ∧ _
              obtain ⟨s2, l1, l2, l3, l4, l5, -⟩ := p_layLinks (away := none) b1 hN (fun j hj => by cases hj)
              have hk2 : t_keep σ1 s2 := fun k j hkj => l5 k j (by omega)
              have hnet2 : t_net s2 N := t_net_of (l3 22) (fun j => l5 6 j (by decide)) b1
              refine ⟨s2, ?_, hk.trans hk2⟩
              have l1' : D_layLinks (-1) σ1 = some s2 := l1
              show _ = some ((match s_lkOf N a b with
                | none => -1
                | some l => nI (n_ld N l)), s2)
              rw [if_neg (show ¬ (1 : Int32) = 0 by decide), l1', x_bS, i3, k3, show (6 : Int32) = nI 6 from rfl, nI_mul, nI_add, x_gaS (by omega) (by omega), (l2 (6 * a + b) (by omega)).1]
              unfold s_lkOf
              cases hl : s_lk0 N none (6 * a + b) with
              | none => exact if_pos rfl
              | some l =>
                have hl15 := (s_lk0_ok hN (6 * a + b) l (by omega) hl).1
                have hlb := (n_ln_b hN hl15).1
                rw [if_neg (show ¬ oI (some l) = -1 from oI_none (by omega)), x_gaS (by omega) (by omega), (l2 (6 * a + b) (by omega)).1, hl, show oI (some l) = nI l from rfl, p_link2 hnet2 hN hl15, x_bS]
        · simp only [if_neg c3]
          rw [if_pos trivial, p_in, x_bS, x_lS]
          unfold s_i
          by_cases c4 : 200 ≤ what ∧ what ≤ 279
          · have H := p_ofPlace (what := what) b1 hN (Or.inl c4)
            rw [if_pos c4] at H
            simp only [if_pos c4]
            rw [if_neg (show ¬ (1 : Int32) = 0 by decide), H, x_bS]
            exact ⟨σ1, rfl, hk⟩
          · simp only [if_neg c4]
            rw [if_pos trivial, p_in, x_bS]
            unfold s_i
            by_cases c5 : 300 ≤ what ∧ what ≤ 359
            · have H := p_ofPlace (what := what) b1 hN (Or.inr c5)
              rw [if_neg c4] at H
              simp only [if_pos c5]
              rw [if_neg (show ¬ (1 : Int32) = 0 by decide), H, x_bS]
              exact ⟨σ1, rfl, hk⟩
            · simp only [if_neg c5]
              rw [if_pos trivial]
              exact ⟨σ1, rfl, hk⟩
end T68
