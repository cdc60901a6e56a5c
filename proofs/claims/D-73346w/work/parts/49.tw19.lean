/-! THE TWIN's LAW, 19: a negative answer comes -/
set_option maxRecDepth 100000
def s_nackAll (N : s_R) (lk : Nat → Option Nat) (n : Nat) (set name wish : Int32) (r : s_Q) (G : s_G) : s_G := s_fold (fun to G => if s_bit set (nI to) = true then s_nack N lk n to name wish r G else G) 0 (n_nodes N) G
def s_refuseAll (set : Int64) (r : s_Q) (G : s_G) : s_G := s_fold (fun k G => if s_hasL set (nI k) = true then s_refuse r k G else G) 0 64 G
section T49
variable {σ σ' : t_S} {N : s_R} {lk : Nat → Option Nat} {G : s_G}
theorem p_nackComes_94 {n i : Nat} {e : s_E} {r : s_Q} (K : t_S → Option t_S) (h : t_rel σ N lk G) (hr : t_reg σ r) (hn : n < 6) (he : (g_es G n)[i]? = some e) : ∃ σ', D_nackComes_94 (nI n) (nI (64 * n + i)) K x_F 0 σ = K σ' ∧ t_rel σ' N lk (s_refuseAll (e_asks e) r G) ∧ t_reg σ' r ∧ t_out σ σ' ∧ g_nd (s_refuseAll (e_asks e) r G) = g_nd G ∧ g_ways (s_refuseAll (e_asks e) r G) = g_ways G := by
  obtain ⟨hi, he'⟩ := List.getElem?_eq_some_iff.mp he
  have hlen := (h.2.2.2.1 n hn).1.2.1
  have key := x_forS (fun (_ : Nat) (s : t_S) (g : s_G) => t_rel s N lk g ∧ t_reg s r ∧ t_out σ s ∧ g_nd g = g_nd G ∧ g_ways g = g_ways G) (fun f k s => D_nackComes_94 (nI n) (nI (64 * n + i)) K f (nI k) s) K (fun k G => if s_hasL (e_asks e) (nI k) = true then s_refuse r k G else G) 64 ?_ ?_ x_F 0 σ G (by omega) ⟨h, hr, t_out.refl, rfl, rfl⟩ (by rw [x_Fv]; omega)
  · obtain ⟨s', k1, k2, k3, k4, k5, k6⟩ := key
    exact ⟨s', k1, k2, k3, k4, k5, k6⟩
  · intro f s g _
    show (if (64 : Int32) ≤ nI 64 then _ else _) = _
    rw [if_pos (show (64 : Int32) ≤ nI 64 from Int32.le_refl _)]
  · intro f k s g hq hk
    obtain ⟨q1, q2, q3, q4, q5⟩ := hq
    have hes : g_es g n = g_es G n := by unfold g_es; rw [q4]
    have e0 : a_e s (64 * n + i) = e := by
      have := (q1.2.2.2.1 n hn).1.2.2 i (by rw [hes]; exact hi)
      rw [this]
      have e9 : (g_es g n)[i]? = some e := by rw [hes]; exact he
      exact (List.getElem?_eq_some_iff.mp e9).2
    have d1 : t_l s 38 (64 * n + i) = e_asks e := congrArg (fun x : s_E => x.2.2.2.1) e0
    have g1 : ∀ {α : Type} (kk : Nat → Option α), x_ga (nI (64 * n + i)) 384 kk = kk (64 * n + i) := fun kk => x_gaS (by omega) (by omega)
    have hL : D_nackComes_94 (nI n) (nI (64 * n + i)) K (f + 1) (nI k) s = if s_hasL (e_asks e) (nI k) = true then x_b (D_refused (nI k) s) (fun σ14 => D_nackComes_94 (nI n) (nI (64 * n + i)) K f (nI (k + 1)) σ14) else D_nackComes_94 (nI n) (nI (64 * n + i)) K f (nI (k + 1)) s := by
      show (if (64 : Int32) ≤ nI k then _ else _) = _
      rw [if_neg (show ¬ (64 : Int32) ≤ nI k from nI_ge (a := k) (b := 64) hk (by omega)), g1, d1, p_hasL', x_bS]
      by_cases c : s_hasL (e_asks e) (nI k) = true
      · rw [if_pos c, if_pos c, if_neg (show ¬ (1 : Int32) = 0 by decide)]
        simp only [x_lS, nI_1]
      · rw [if_neg c, if_neg c, if_pos (show (0 : Int32) = 0 from rfl)]
        simp only [x_lS, nI_1]
    by_cases c : s_hasL (e_asks e) (nI k) = true
    · obtain ⟨s1, m1, m2, m3, m4⟩ := p_refused q1 q2 hk
      refine ⟨s1, ?_, ?_⟩
      · show D_nackComes_94 (nI n) (nI (64 * n + i)) K (f + 1) (nI k) s = _
        rw [hL, if_pos c, m1, x_bS]
      · show t_rel s1 N lk (if s_hasL (e_asks e) (nI k) = true then s_refuse r k g else g) ∧ _
        rw [if_pos c]
        exact ⟨m2, m3, q3.trans m4, q4, q5⟩
    · refine ⟨s, ?_, ?_⟩
      · show D_nackComes_94 (nI n) (nI (64 * n + i)) K (f + 1) (nI k) s = _
        rw [hL, if_neg c]
      · show t_rel s N lk (if s_hasL (e_asks e) (nI k) = true then s_refuse r k g else g) ∧ _
        rw [if_neg c]
        exact ⟨q1, q2, q3, q4, q5⟩
end T49
