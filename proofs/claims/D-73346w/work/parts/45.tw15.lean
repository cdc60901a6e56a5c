/-! THE TWIN's LAW, 15: an entry is answered -/
set_option maxRecDepth 100000
/-- an entry is answered with data that are ready -/
def s_answer (N : s_R) (lk : Nat → Option Nat) (n i : Nat) (e : s_E) (r : s_Q) (G : s_G) : s_G :=
  let G1 := s_getAll (e_asks e) r (s_dataAll N lk n (e_in e) (e_name e) r G)
  let G2 := g_sdead G1 n (g_dead G1 n ||| e_nonces e)
  g_ses G2 n ((g_es G2 n).eraseIdx i)
section T45
variable {σ σ' : t_S} {N : s_R} {lk : Nat → Option Nat} {G : s_G}
theorem p_answers_43 {n i : Nat} {e : s_E} {r : s_Q} (K : t_S → Option t_S) (h : t_rel σ N lk G) (hr : t_reg σ r) (hn : n < 6) (he : (g_es G n)[i]? = some e) : ∃ σ', D_answers_43 (nI n) (nI (64 * n + i)) K x_F 0 σ = K σ' ∧ t_rel σ' N lk (s_getAll (e_asks e) r G) ∧ t_reg σ' r ∧ t_out σ σ' ∧ g_nd (s_getAll (e_asks e) r G) = g_nd G ∧ g_ways (s_getAll (e_asks e) r G) = g_ways G := by
  obtain ⟨hi, he'⟩ := List.getElem?_eq_some_iff.mp he
  have hlen := (h.2.2.2.1 n hn).1.2.1
  have key := x_forS (fun (_ : Nat) (s : t_S) (g : s_G) => t_rel s N lk g ∧ t_reg s r ∧ t_out σ s ∧ g_nd g = g_nd G ∧ g_ways g = g_ways G) (fun f k s => D_answers_43 (nI n) (nI (64 * n + i)) K f (nI k) s) K (fun k G => if s_hasL (e_asks e) (nI k) = true then s_get r k G else G) 64 ?_ ?_ x_F 0 σ G (by omega) ⟨h, hr, t_out.refl, rfl, rfl⟩ (by rw [x_Fv]; omega)
  · obtain ⟨s', k1, k2, k3, k4, k5, k6⟩ := key
    exact ⟨s', k1, k2, k3, k4, k5, k6⟩
  · intro f s g _
    show (if (64 : Int32) ≤ nI 64 then _ else _) = _
    rw [if_pos (show (64 : Int32) ≤ nI 64 from Int32.le_refl _)]
  · intro f k s g hq hk
    obtain ⟨q1, q2, q3, q4, q5⟩ := hq
    have hes : g_es g n = g_es G n := by unfold g_es; rw [q4]
    have e0 : a_e s (64 * n + i) = e := by
      have := (q1.2.2.2.1 n hn).1.2.2 i (by rw [hes]; exact hi)
      rw [this]
      have e9 : (g_es g n)[i]? = some e := by rw [hes]; exact he
      exact (List.getElem?_eq_some_iff.mp e9).2
    have d1 : t_l s 38 (64 * n + i) = e_asks e := congrArg (fun x : s_E => x.2.2.2.1) e0
    have g1 : ∀ {α : Type} (kk : Nat → Option α), x_ga (nI (64 * n + i)) 384 kk = kk (64 * n + i) := fun kk => x_gaS (by omega) (by omega)
    have hL : D_answers_43 (nI n) (nI (64 * n + i)) K (f + 1) (nI k) s = if s_hasL (e_asks e) (nI k) = true then x_b (D_gets (nI k) s) (fun σ14 => D_answers_43 (nI n) (nI (64 * n + i)) K f (nI (k + 1)) σ14) else D_answers_43 (nI n) (nI (64 * n + i)) K f (nI (k + 1)) s := by
      show (if (64 : Int32) ≤ nI k then _ else _) = _
      rw [if_neg (show ¬ (64 : Int32) ≤ nI k from nI_ge (a := k) (b := 64) hk (by omega)), g1, d1, p_hasL', x_bS]
      by_cases c : s_hasL (e_asks e) (nI k) = true
      · rw [if_pos c, if_pos c, if_neg (show ¬ (1 : Int32) = 0 by decide)]
        simp only [x_lS, nI_1]
      · rw [if_neg c, if_neg c, if_pos (show (0 : Int32) = 0 from rfl)]
        simp only [x_lS, nI_1]
    by_cases c : s_hasL (e_asks e) (nI k) = true
    · obtain ⟨s1, m1, m2, m3, m4⟩ := p_gets q1 q2 hk
      refine ⟨s1, ?_, ?_⟩
      · show D_answers_43 (nI n) (nI (64 * n + i)) K (f + 1) (nI k) s = _
        rw [hL, if_pos c, m1, x_bS]
      · show t_rel s1 N lk (if s_hasL (e_asks e) (nI k) = true then s_get r k g else g) ∧ _
        rw [if_pos c]
        exact ⟨m2, m3, q3.trans m4, q4, q5⟩
    · refine ⟨s, ?_, ?_⟩
      · show D_answers_43 (nI n) (nI (64 * n + i)) K (f + 1) (nI k) s = _
        rw [hL, if_neg c]
      · show t_rel s N lk (if s_hasL (e_asks e) (nI k) = true then s_get r k g else g) ∧ _
        rw [if_neg c]
        exact ⟨q1, q2, q3, q4, q5⟩
/-- a node's dead nonces are more -/
theorem t_rel_dead {n : Nat} (x : Int64) (h : t_rel σ N lk G) (hn : n < 6) : t_rel (t_sl σ 28 n x) N lk (g_sdead G n x) ∧ t_out σ (t_sl σ 28 n x) := by
  refine t_rel_nd (nd := s_up1 (g_nd G) n ((g_nd G n).1, (g_nd G n).2.1, x)) h (fun _ => rfl) rfl (fun k j hk => rfl) (fun m hm => ?_)
  obtain ⟨e1, d1, l1⟩ := h.2.2.2.1 m hm
  have he : t_es (t_sl σ 28 n x) m (g_es G m) := t_es_of (σ := σ) (fun k j _ _ => rfl) (fun k j q1 q2 => by rw [t_l_sl, if_neg (by omega)]) e1
  by_cases q : m = n
  · subst q
    rw [s_up1_s]
    exact ⟨he, d1, by rw [t_l_sl, if_pos ⟨rfl, rfl⟩]⟩
  · rw [s_up1_n q]
    exact ⟨he, d1, by rw [t_l_sl, if_neg (fun z => q z.2)]; exact l1⟩
theorem p_answers {n i : Nat} {e : s_E} {r : s_Q} (h : t_rel σ N lk G) (hN : n_ok N) (hlk : ∀ i, i < 36 → ∀ l, lk i = some l → l < n_links N) (hr : t_reg σ r) (hn : n < 6) (he : (g_es G n)[i]? = some e) (hw : (g_ways G).length + 6 ≤ 4096) : ∃ σ', D_answers (nI n) (nI (64 * n + i)) σ = some σ' ∧ t_rel σ' N lk (s_answer N lk n i e r G) ∧ t_reg σ' r ∧ t_out σ σ' := by
  have g6 : ∀ {α : Type} (kk : Nat → Option α), x_ga (nI n) 6 kk = kk n := fun kk => x_gaS hn (by omega)
  obtain ⟨hi, he'⟩ := List.getElem?_eq_some_iff.mp he
  have hlen := (h.2.2.2.1 n hn).1.2.1
  have g1 : ∀ {α : Type} (kk : Nat → Option α), x_ga (nI (64 * n + i)) 384 kk = kk (64 * n + i) := fun kk => x_gaS (by omega) (by omega)
  unfold D_answers
  obtain ⟨s1, a1, a2, a3, a4, a5⟩ := p_answers_2 (K := fun (σ16 : t_S) => D_answers_43 (nI n) (nI (64 * n + i)) (fun (σ31 : t_S) => x_ga (nI n) 6 fun j32 => x_ga (nI (64 * n + i)) 384 fun j33 => x_ga (nI n) 6 fun j34 => x_l (t_sl σ31 28 j34 ((t_l σ31 28 j32) ||| (t_l σ31 39 j33))) fun σ35 => x_b (D_removes (nI n) (nI (64 * n + i)) σ35) fun σ37 => some σ37) x_F (0 : Int32) σ16) h hN hlk hr hn he hw
  rw [a1]
  have he1 : (g_es (s_dataAll N lk n (e_in e) (e_name e) r G) n)[i]? = some e := by unfold g_es; rw [a5]; exact he
  obtain ⟨s2, b1, b2, b3, b4, b5, b6⟩ := p_answers_43 (K := fun (σ31 : t_S) => x_ga (nI n) 6 fun j32 => x_ga (nI (64 * n + i)) 384 fun j33 => x_ga (nI n) 6 fun j34 => x_l (t_sl σ31 28 j34 ((t_l σ31 28 j32) ||| (t_l σ31 39 j33))) fun σ35 => x_b (D_removes (nI n) (nI (64 * n + i)) σ35) fun σ37 => some σ37) a2 a3 hn he1
  rw [b1]
  simp only [g6, g1, x_lS, x_idb]
  have hes2 : g_es (s_getAll (e_asks e) r (s_dataAll N lk n (e_in e) (e_name e) r G)) n = g_es G n := by unfold g_es; rw [b5, a5]
  have e0 : a_e s2 (64 * n + i) = e := by
    have := (b2.2.2.2.1 n hn).1.2.2 i (by rw [hes2]; exact hi)
    rw [this]
    have e9 : (g_es (s_getAll (e_asks e) r (s_dataAll N lk n (e_in e) (e_name e) r G)) n)[i]? = some e := by rw [hes2]; exact he
    exact (List.getElem?_eq_some_iff.mp e9).2
  have d1 : t_l s2 39 (64 * n + i) = e_nonces e := congrArg (fun x : s_E => x.2.2.2.2.1) e0
  have d2 := (b2.2.2.2.1 n hn).2.2
  rw [d1, d2]
  obtain ⟨f1, f2⟩ := t_rel_dead (g_dead (s_getAll (e_asks e) r (s_dataAll N lk n (e_in e) (e_name e) r G)) n ||| e_nonces e) b2 hn
  have hge : g_es (g_sdead (s_getAll (e_asks e) r (s_dataAll N lk n (e_in e) (e_name e) r G)) n (g_dead (s_getAll (e_asks e) r (s_dataAll N lk n (e_in e) (e_name e) r G)) n ||| e_nonces e)) n = g_es G n := by
    unfold g_es g_sdead
    rw [g_nd_snd, s_up1_s]
    exact hes2
  obtain ⟨s3, c1, c2, c3, c4⟩ := p_removes (i := i) f1 hn (by rw [hge]; exact hi)
  exact ⟨s3, c1, c2, ⟨(c3 71).trans b3.1, (c3 72).trans b3.2.1, (c3 73).trans b3.2.2.1, (c3 74).trans b3.2.2.2⟩, (a4.trans b4).trans (f2.trans c4)⟩
end T45
