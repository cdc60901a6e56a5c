/-! THE TWIN's LAW, 11: an entry is made -/
set_option maxRecDepth 100000
section T41
variable {σ σ' : t_S} {N : s_R} {lk : Nat → Option Nat} {G : s_G}
theorem g_es_ses {n : Nat} {es : List s_E} : g_es (g_ses G n es) n = es := by
  unfold g_es g_ses
  rw [g_nd_snd, s_up1_s]
theorem g_ses_ses {n : Nat} {es es' : List s_E} : g_ses (g_ses G n es) n es' = g_ses G n es' := by
  unfold g_ses
  rw [g_nd_snd, s_up1_s]
  have e : s_up1 (s_up1 (g_nd G) n (es, (g_nd G n).2)) n (es', (g_nd G n).2) = s_up1 (g_nd G) n (es', (g_nd G n).2) := by
    funext j
    unfold s_up1
    by_cases q : j = n
    · rw [if_pos q, if_pos q]
    · rw [if_neg q, if_neg q, if_neg q]
  show g_snd (g_snd G _) _ = g_snd G _
  rw [e]
  rfl
theorem g_ses_id {n : Nat} : g_ses G n (g_es G n) = G := by
  unfold g_ses g_es
  have e : s_up1 (g_nd G) n ((g_nd G n).1, (g_nd G n).2) = g_nd G := by
    funext j
    unfold s_up1
    by_cases q : j = n
    · rw [if_pos q, q]
    · rw [if_neg q]
  rw [e]
  rfl
theorem s_join_name (t : Nat) (nonce : Int32) (e : s_E) : e_name (s_join t nonce e) = e_name e ∧ e_wish (s_join t nonce e) = e_wish e ∧ e_first (s_join t nonce e) = e_first e := by
  unfold s_join
  split <;> exact ⟨rfl, rfl, rfl⟩
theorem D_makesEntry_eq {n : Nat} {a2 a3 a4 a5 : Int32} (hn : n < 6) {c : Nat} (hc : t_a σ 34 n = nI c) (hl : c < 64) : D_makesEntry (nI n) a2 a3 a4 a5 σ = x_b (D_joins (nI (64 * n + c)) a2 a5 (w_appE σ n (64 * n + c) (nI (c + 1)) (a3, a4, 0, 0, 0, a5, -1, 0, 0, t_i σ 27 + t_i σ 24))) fun σ27 => x_b2 (D_goesOn (nI n) (nI (64 * n + c)) σ27) fun r29 σ30 => if r29 = 0 then (x_b (D_removes (nI n) (nI (64 * n + c)) σ30) fun σ33 => x_b (D_firstNack (nI n) a2 a3 a4 (1 : Int32) σ33) fun σ35 => some σ35) else some σ30 := by
  have g0 : ∀ {α : Type} (kk : Nat → Option α), x_ga (nI n) 6 kk = kk n := fun kk => x_gaS hn (by omega)
  have g1 : ∀ {α : Type} (kk : Nat → Option α), x_ga (nI (64 * n + c)) 384 kk = kk (64 * n + c) := fun kk => x_gaS (by omega) (by omega)
  unfold D_makesEntry
  simp only [x_lS, g0, hc, show (64 : Int32) = nI 64 from rfl, nI_mul, nI_add, g1, nI_1]
  rfl
theorem p_makesEntry {n t : Nat} {name wish nonce : Int32} (h : t_rel σ N lk G) (hN : n_ok N) (hlk : ∀ i, i < 36 → ∀ l, lk i = some l → l < n_links N) (hn : n < 6) (ht : s_to t) (hnm : name = nI (v_ name) ∧ v_ name < 2 ^ 31) (hc : (g_es G n).length < 64) (hw : (g_ways G).length < 4096) : ∃ σ', D_makesEntry (nI n) (nI t) name wish nonce σ = some σ' ∧ t_rel σ' N lk (s_make N lk n t name wish nonce G) ∧ t_out σ σ' := by
  have b1 := (h.2.2.2.1 n hn).1.1
  rw [D_makesEntry_eq hn b1 hc]
  have e24 : t_i σ 24 = N 1 := h.1.2.2.2
  have e27 := h.2.2.1
  rw [e24, e27]
  obtain ⟨H1, H2⟩ := w_appE_rel (e := (name, wish, 0, 0, 0, nonce, -1, 0, 0, g_minute G + N 1)) h hn hc
  have hge : (g_es (g_ses G n (g_es G n ++ [((name, wish, 0, 0, 0, nonce, -1, 0, 0, g_minute G + N 1) : s_E)])) n)[(g_es G n).length]? = some (name, wish, 0, 0, 0, nonce, -1, 0, 0, g_minute G + N 1) := by
    rw [g_es_ses, List.getElem?_append_right (Nat.le_refl _), Nat.sub_self]
    rfl
  obtain ⟨σ1, j1, j2, j3, j4⟩ := p_joins (nonce := nonce) H1 hn hge ht
  rw [j1, x_bS]
  have es1 : (g_es (g_ses G n (g_es G n ++ [((name, wish, 0, 0, 0, nonce, -1, 0, 0, g_minute G + N 1) : s_E)])) n).set (g_es G n).length (s_join t nonce (name, wish, 0, 0, 0, nonce, -1, 0, 0, g_minute G + N 1)) = g_es G n ++ [s_join t nonce (s_new N name wish nonce G)] := by
    rw [g_es_ses, List.set_append_right _ _ (Nat.le_refl _), Nat.sub_self]
    rfl
  rw [es1, g_ses_ses] at j2
  have hge2 : (g_es (g_ses G n (g_es G n ++ [s_join t nonce (s_new N name wish nonce G)])) n)[(g_es G n).length]? = some (s_join t nonce (s_new N name wish nonce G)) := by
    rw [g_es_ses, List.getElem?_append_right (Nat.le_refl _), Nat.sub_self]
    rfl
  obtain ⟨q1, q2, q3⟩ := s_join_name t nonce (s_new N name wish nonce G)
  have hnm2 : e_name (s_join t nonce (s_new N name wish nonce G)) = nI (v_ (e_name (s_join t nonce (s_new N name wish nonce G)))) ∧ v_ (e_name (s_join t nonce (s_new N name wish nonce G))) < 2 ^ 31 := by
    rw [q1]
    exact hnm
  obtain ⟨σ2, k1, k2, k3, k4⟩ := p_goesOn (r := (t_i σ1 71, t_i σ1 72, t_i σ1 73, t_i σ1 74)) j2 hN hlk ⟨rfl, rfl, rfl, rfl⟩ hn hge2 hnm2 hw
  rw [k1, x_b2S]
  have hway : s_way N lk n (s_join t nonce (s_new N name wish nonce G)) (g_ses G n (g_es G n ++ [s_join t nonce (s_new N name wish nonce G)])) = s_way N lk n (s_join t nonce (s_new N name wish nonce G)) G := rfl
  unfold s_go at k2 ⊢
  unfold s_make
  rw [hway] at k2 ⊢
  cases hs : s_way N lk n (s_join t nonce (s_new N name wish nonce G)) G with
  | none =>
    rw [hs] at k2
    have k2' : t_rel σ2 N lk (g_ses G n (g_es G n ++ [s_join t nonce (s_new N name wish nonce G)])) := k2
    obtain ⟨σ3, m1, m2, m3, m4⟩ := p_removes (i := (g_es G n).length) k2' hn (by rw [g_es_ses, List.length_append]; show _ < _ + 1; omega)
    have es2 : (g_es (g_ses G n (g_es G n ++ [s_join t nonce (s_new N name wish nonce G)])) n).eraseIdx (g_es G n).length = g_es G n := by
      rw [g_es_ses, List.eraseIdx_append_of_length_le (Nat.le_refl _), Nat.sub_self]
      simp
    rw [es2, g_ses_ses, g_ses_id] at m2
    obtain ⟨σ4, n1, n2, n3⟩ := p_firstNack (name := name) (wish := wish) (root := 1) m2 hN hlk hn ht hw
    refine ⟨σ4, ?_, n2, (H2.trans j4).trans ((k4.trans m4).trans n3)⟩
    show (if (if (false : Bool) = true then (1 : Int32) else 0) = 0 then _ else _) = _
    rw [if_neg (show ¬ (false : Bool) = true by decide), if_pos rfl, m1, x_bS, n1]
    rfl
  | some to =>
    rw [hs] at k2
    refine ⟨σ2, ?_, ?_, (H2.trans j4).trans k4⟩
    · show (if (if (true : Bool) = true then (1 : Int32) else 0) = 0 then _ else _) = _
      rw [if_pos rfl, if_neg (show ¬ (1 : Int32) = 0 by decide)]
    · have es3 : (g_es (g_ses G n (g_es G n ++ [s_join t nonce (s_new N name wish nonce G)])) n).set (g_es G n).length (s_gone to (g_minute G) (s_join t nonce (s_new N name wish nonce G))) = g_es G n ++ [s_gone to (g_minute G) (s_join t nonce (s_new N name wish nonce G))] := by
        rw [g_es_ses, List.set_append_right _ _ (Nat.le_refl _), Nat.sub_self]
        rfl
      have k3' := t_rel_send0 (r' := (0, 0, 0, 0)) k2
      rw [show g_minute (g_ses G n (g_es G n ++ [s_join t nonce (s_new N name wish nonce G)])) = g_minute G from rfl, es3, g_ses_ses, q1, q2, q3] at k3'
      exact k3'
end T41
