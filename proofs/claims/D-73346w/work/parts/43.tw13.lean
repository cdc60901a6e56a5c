/-! THE TWIN's LAW, 13: an interest -/
set_option maxRecDepth 100000
section T43
variable {σ σ' : t_S} {N : s_R} {lk : Nat → Option Nat} {G : s_G}
theorem s_serve_lt {node name k : Nat} (h : s_serve N node name = some k) : k < n_serves N := by
  unfold s_serve at h
  have H := s_foldP (fun _ (o : Option Nat) => ∀ j, o = some j → j < n_serves N) (fun k (o : Option Nat) => if n_sn N k = node ∧ s_pre (n_sw N k) name = true ∧ (∀ j, o = some j → s_len (n_sw N j) < s_len (n_sw N k)) then some k else o) (n_serves N) (fun o k ho hk j hj => by
    split at hj
    · cases hj; exact hk
    · exact ho j hj) (n_serves N) 0 none (fun j hj => by cases hj) (by omega)
  exact H k h
/-- what is asked of a run for an interest -/
def s_fitI (G : s_G) (n : Nat) : Prop := (g_es G n).length < 64 ∧ (g_ds G n).length ≤ 5 ∧ (g_ways G).length < 4096
theorem p_interest {n t : Nat} {name wish nonce : Int32} (h : t_rel σ N lk G) (hN : n_ok N) (hlk : ∀ i, i < 36 → ∀ l, lk i = some l → l < n_links N) (hn : n < 6) (ht : s_to t) (hnm : name = nI (v_ name) ∧ v_ name < 2 ^ 31) (hf : s_fitI G n) : ∃ σ', D_interest (nI n) (nI t) name wish nonce σ = some σ' ∧ t_rel σ' N lk (s_interest N lk n t name wish nonce G) ∧ t_out σ σ' := by
  obtain ⟨hf1, hf2, hf3⟩ := hf
  obtain ⟨be, bd, bl⟩ := h.2.2.2.1 n hn
  have g6 : ∀ {α : Type} (kk : Nat → Option α), x_ga (nI n) 6 kk = kk n := fun kk => x_gaS hn (by omega)
  -- the ends of the ways through the code
  have hloop : ∃ σ', (x_b (D_firstNack (nI n) (nI t) name wish (2 : Int32) (t_si σ 68 (t_i σ 68 + 1))) fun σ10 => some σ10) = some σ' ∧ t_rel σ' N lk (s_nack N lk n t name wish (1, 2, nI n, 0) (g_sloops G (g_loops G + 1))) ∧ t_out σ σ' := by
    obtain ⟨l1, l2⟩ := t_rel_loops h
    obtain ⟨σ1, n1, n2, n3⟩ := p_firstNack (name := name) (wish := wish) (root := 2) l1 hN hlk hn ht hf3
    exact ⟨σ1, by rw [n1]; rfl, n2, l2.trans n3⟩
  have hrest : ∃ σ', (x_b (D_serveFor (nI n) name σ) fun r13 => if r13 = (-1 : Int32) then (if (match s_ei name wish (g_es G n) with
    | some i => nI (64 * n + i)
    | none => (-1 : Int32)) = (-1 : Int32) then (x_b (D_makesEntry (nI n) (nI t) name wish nonce σ) fun σ17 => some σ17) else x_l (t_si σ 67 ((t_i σ 67) + (1 : Int32))) fun σ18 => x_b (D_joins (match s_ei name wish (g_es G n) with
    | some i => nI (64 * n + i)
    | none => (-1 : Int32)) (nI t) nonce σ18) fun σ20 => some σ20) else x_b (D_serveFor (nI n) name σ) fun r22 => x_b (D_fromServer (nI n) r22 (nI t) name σ) fun σ24 => some σ24) = some σ' ∧ t_rel σ' N lk (match s_serve N n (v_ name) with
      | some k => s_fromServer N lk n t k name G
      | none => match s_ei name wish (g_es G n) with
        | some i => match (g_es G n)[i]? with
          | some e => g_ses (g_sjoined G (g_joined G + 1)) n ((g_es G n).set i (s_join t nonce e))
          | none => G
        | none => s_make N lk n t name wish nonce G) ∧ t_out σ σ' := by
    have hsv := p_serveFor h.1.1 hN hn hnm.2
    rw [← hnm.1] at hsv
    rw [hsv]
    simp only [x_bS, x_lS, x_idb]
    cases hs : s_serve N n (v_ name) with
    | some k =>
      have hk := s_serve_lt hs
      have hk6 := (n_sv_b hN hk).1
      rw [if_neg (show ¬ oI (some k) = -1 from oI_none (by omega))]
      exact p_fromServer h hN hlk hn ht hk hf3
    | none =>
      rw [if_pos (show oI none = -1 from rfl)]
      cases he : s_ei name wish (g_es G n) with
      | none =>
        rw [if_pos rfl]
        exact p_makesEntry h hN hlk hn ht hnm hf1 hf3
      | some i =>
        have hi := s_ei_lt he
        rw [if_neg (show ¬ nI (64 * n + i) = -1 from oI_none (by omega))]
        obtain ⟨l1, l2⟩ := t_rel_joined h
        have hge : (g_es (g_sjoined G (g_joined G + 1)) n)[i]? = some (g_es G n)[i] := List.getElem?_eq_getElem hi
        obtain ⟨σ1, j1, j2, j3, j4⟩ := p_joins (nonce := nonce) l1 hn hge ht
        refine ⟨σ1, j1, ?_, l2.trans j4⟩
        show t_rel σ1 N lk (match (g_es G n)[i]? with
          | some e => g_ses (g_sjoined G (g_joined G + 1)) n ((g_es G n).set i (s_join t nonce e))
          | none => G)
        rw [List.getElem?_eq_getElem hi]
        exact j2
  have hstore : ∃ σ', (if oI (s_at name (g_ds G n)) = (-1 : Int32) then (x_b (D_serveFor (nI n) name σ) fun r13 => if r13 = (-1 : Int32) then (if (match s_ei name wish (g_es G n) with
    | some i => nI (64 * n + i)
    | none => (-1 : Int32)) = (-1 : Int32) then (x_b (D_makesEntry (nI n) (nI t) name wish nonce σ) fun σ17 => some σ17) else x_l (t_si σ 67 ((t_i σ 67) + (1 : Int32))) fun σ18 => x_b (D_joins (match s_ei name wish (g_es G n) with
    | some i => nI (64 * n + i)
    | none => (-1 : Int32)) (nI t) nonce σ18) fun σ20 => some σ20) else x_b (D_serveFor (nI n) name σ) fun r22 => x_b (D_fromServer (nI n) r22 (nI t) name σ) fun σ24 => some σ24) else (if wish = 0 then (x_b (D_fromStore (nI n) (oI (s_at name (g_ds G n))) (nI t) name σ) fun σ27 => some σ27) else x_ga (((6 : Int32) * nI n) + oI (s_at name (g_ds G n))) 36 fun j29 => if (t_a σ 32 j29) < (t_i σ 27) then (x_b (D_serveFor (nI n) name σ) fun r13 => if r13 = (-1 : Int32) then (if (match s_ei name wish (g_es G n) with
    | some i => nI (64 * n + i)
    | none => (-1 : Int32)) = (-1 : Int32) then (x_b (D_makesEntry (nI n) (nI t) name wish nonce σ) fun σ17 => some σ17) else x_l (t_si σ 67 ((t_i σ 67) + (1 : Int32))) fun σ18 => x_b (D_joins (match s_ei name wish (g_es G n) with
    | some i => nI (64 * n + i)
    | none => (-1 : Int32)) (nI t) nonce σ18) fun σ20 => some σ20) else x_b (D_serveFor (nI n) name σ) fun r22 => x_b (D_fromServer (nI n) r22 (nI t) name σ) fun σ24 => some σ24) else (x_b (D_fromStore (nI n) (oI (s_at name (g_ds G n))) (nI t) name σ) fun σ27 => some σ27))) = some σ' ∧ t_rel σ' N lk (match s_fresh (g_ds G n) (s_at name (g_ds G n)) wish (g_minute G) with
    | some d => s_fromStore N lk n t name d G
    | none => match s_serve N n (v_ name) with
      | some k => s_fromServer N lk n t k name G
      | none => match s_ei name wish (g_es G n) with
        | some i => match (g_es G n)[i]? with
          | some e => g_ses (g_sjoined G (g_joined G + 1)) n ((g_es G n).set i (s_join t nonce e))
          | none => G
        | none => s_make N lk n t name wish nonce G) ∧ t_out σ σ' := by
    cases ha : s_at name (g_ds G n) with
    | none =>
      rw [if_pos (show oI none = -1 from rfl)]
      exact hrest
    | some i =>
      have hi := s_at_lt ha
      rw [if_neg (show ¬ oI (some i) = -1 from oI_none (by omega))]
      have hd : (g_ds G n)[i]? = some (g_ds G n)[i] := List.getElem?_eq_getElem hi
      have e0 := bd.2.2 i hi
      have d1 : t_a σ 32 (6 * n + i) = (g_ds G n)[i].2.1 := congrArg (fun x : s_D => x.2.1) e0
      have hfr : s_fresh (g_ds G n) (some i) wish (g_minute G) = if wish = 0 ∨ ¬ (g_ds G n)[i].2.1 < g_minute G then some (g_ds G n)[i] else none := by
        unfold s_fresh
        simp only [hd]
      rw [hfr]
      by_cases hw0 : wish = 0
      · rw [if_pos hw0, if_pos (show wish = 0 ∨ ¬ (g_ds G n)[i].2.1 < g_minute G from Or.inl hw0)]
        simp only [x_idb]
        exact p_fromStore h hN hlk hn ht hd hf2 hf3
      · rw [if_neg hw0, show oI (some i) = nI i from rfl, show (6 : Int32) = nI 6 from rfl, nI_mul, nI_add, x_gaS (by omega) (by omega), d1, h.2.2.1]
        by_cases c : (g_ds G n)[i].2.1 < g_minute G
        · rw [if_pos c, if_neg (show ¬ (wish = 0 ∨ ¬ (g_ds G n)[i].2.1 < g_minute G) from fun q => q.elim hw0 (fun z => z c))]
          exact hrest
        · rw [if_neg c, if_pos (show wish = 0 ∨ ¬ (g_ds G n)[i].2.1 < g_minute G from Or.inr c)]
          simp only [x_idb]
          exact p_fromStore h hN hlk hn ht hd hf2 hf3
  unfold D_interest s_interest
  have he1 : D_entryOf (nI n) name wish σ = some (match s_ei name wish (g_es G n) with
    | some i => nI (64 * n + i)
    | none => (-1 : Int32)) := p_entryOf be hn
  have hs1 : D_storedAt (nI n) name σ = some (oI (s_at name (g_ds G n))) := p_storedAt bd hn
  rw [he1, x_bS, hs1, x_bS, g6, p_hasL', x_bS, bl]
  simp only [x_lS] at hstore ⊢
  by_cases c1 : s_hasL (g_dead G n) nonce = true
  · rw [if_pos c1, if_neg (show ¬ (1 : Int32) = 0 by decide), if_pos (show s_hasL (g_dead G n) nonce = true ∨ s_entryHas (g_es G n) (s_ei name wish (g_es G n)) nonce = true from Or.inl c1)]
    exact hloop
  · rw [if_neg c1, if_pos (show (0 : Int32) = 0 from rfl)]
    cases hei : s_ei name wish (g_es G n) with
    | none =>
      rw [hei] at hstore
      rw [if_pos (show (-1 : Int32) = -1 from rfl), if_neg (show ¬ (s_hasL (g_dead G n) nonce = true ∨ s_entryHas (g_es G n) none nonce = true) from fun q => q.elim c1 (fun z => by cases z))]
      exact hstore
    | some i =>
      rw [hei] at hstore
      have hi := s_ei_lt hei
      have e0 := be.2.2 i hi
      have q0 : t_l σ 39 (64 * n + i) = e_nonces (g_es G n)[i] := congrArg (fun x : s_E => x.2.2.2.2.1) e0
      have he9 : s_entryHas (g_es G n) (some i) nonce = s_hasL (e_nonces (g_es G n)[i]) nonce := by
        unfold s_entryHas
        simp only [List.getElem?_eq_getElem hi]
      rw [he9]
      have hlen := be.2.1
      rw [if_neg (show ¬ nI (64 * n + i) = -1 from oI_none (by omega)), x_gaS (by omega) (by omega), q0, p_hasL', x_bS]
      by_cases c2 : s_hasL (e_nonces (g_es G n)[i]) nonce = true
      · rw [if_pos c2, if_neg (show ¬ (1 : Int32) = 0 by decide), if_pos (show s_hasL (g_dead G n) nonce = true ∨ s_hasL (e_nonces (g_es G n)[i]) nonce = true from Or.inr c2)]
        exact hloop
      · rw [if_neg c2, if_pos (show (0 : Int32) = 0 from rfl), if_neg (show ¬ (s_hasL (g_dead G n) nonce = true ∨ s_hasL (e_nonces (g_es G n)[i]) nonce = true) from fun q => q.elim c1 c2)]
        exact hstore
end T43
