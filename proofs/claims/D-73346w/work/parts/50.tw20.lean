/-! THE TWIN's LAW, 20: a negative answer, whole -/
set_option maxRecDepth 100000
/-- an entry's all are refused; it is no more -/
def s_nackOut (N : s_R) (lk : Nat → Option Nat) (n i : Nat) (e : s_E) (name wish : Int32) (r : s_Q) (G : s_G) : s_G :=
  let G1 := s_refuseAll (e_asks e) r (s_nackAll N lk n (e_in e) name wish r G)
  let G2 := g_sdead G1 n (g_dead G1 n ||| e_nonces e)
  g_ses G2 n ((g_es G2 n).eraseIdx i)
def s_nackComes (N : s_R) (lk : Nat → Option Nat) (n fr : Nat) (name wish : Int32) (r : s_Q) (G : s_G) : s_G :=
  match s_ei name wish (g_es G n) with
  | none => G
  | some i => match (g_es G n)[i]? with
    | none => G
    | some e => if e_out e = nI fr then (if (s_go N lk n i e r G).1 = true then (s_go N lk n i e r G).2 else s_nackOut N lk n i e name wish (r.1 + 1, r.2) G) else G
section T50
variable {σ σ' : t_S} {N : s_R} {lk : Nat → Option Nat} {G : s_G}
theorem p_nackComes_51 {n i : Nat} {e : s_E} {name wish : Int32} {r : s_Q} (K : t_S → Option t_S) (h : t_rel σ N lk G) (hN : n_ok N) (hlk : ∀ i, i < 36 → ∀ l, lk i = some l → l < n_links N) (hr : t_reg σ r) (hn : n < 6) (he : (g_es G n)[i]? = some e) (hw : (g_ways G).length + 6 ≤ 4096) : ∃ σ', D_nackComes_51 (nI n) name wish (nI (64 * n + i)) K x_F 0 σ = K σ' ∧ t_rel σ' N lk (s_nackAll N lk n (e_in e) name wish r G) ∧ t_reg σ' r ∧ t_out σ σ' ∧ g_nd (s_nackAll N lk n (e_in e) name wish r G) = g_nd G := by
  have hnn : N 0 = nI (n_nodes N) ∧ n_nodes N ≤ 6 := hN.1.1
  obtain ⟨hi, he'⟩ := List.getElem?_eq_some_iff.mp he
  have hlen := (h.2.2.2.1 n hn).1.2.1
  have key := x_forS (fun k (s : t_S) (g : s_G) => t_rel s N lk g ∧ t_reg s r ∧ t_out σ s ∧ g_nd g = g_nd G ∧ (g_ways g).length ≤ (g_ways G).length + k) (fun f k s => D_nackComes_51 (nI n) name wish (nI (64 * n + i)) K f (nI k) s) K (fun to G => if s_bit (e_in e) (nI to) = true then s_nack N lk n to name wish r G else G) (n_nodes N) ?_ ?_ x_F 0 σ G (by omega) ⟨h, hr, t_out.refl, rfl, by omega⟩ (by rw [x_Fv]; omega)
  · obtain ⟨s', k1, k2, k3, k4, k5, -⟩ := key
    exact ⟨s', k1, k2, k3, k4, k5⟩
  · intro f s g hq
    obtain ⟨q1, -, -, -, -⟩ := hq
    show (if t_i s 23 ≤ _ then _ else _) = _
    rw [q1.1.2.2.1, hnn.1, if_pos (Int32.le_refl _)]
  · intro f k s g hq hk
    obtain ⟨q1, q2, q3, q4, q5⟩ := hq
    have hes : g_es g n = g_es G n := by unfold g_es; rw [q4]
    have e0 : a_e s (64 * n + i) = e := by
      have := (q1.2.2.2.1 n hn).1.2.2 i (by rw [hes]; exact hi)
      rw [this]
      have e9 : (g_es g n)[i]? = some e := by rw [hes]; exact he
      exact (List.getElem?_eq_some_iff.mp e9).2
    have d1 : t_a s 37 (64 * n + i) = e_in e := congrArg (fun x : s_E => x.2.2.1) e0
    have g1 : ∀ {α : Type} (kk : Nat → Option α), x_ga (nI (64 * n + i)) 384 kk = kk (64 * n + i) := fun kk => x_gaS (by omega) (by omega)
    have hL : D_nackComes_51 (nI n) name wish (nI (64 * n + i)) K (f + 1) (nI k) s = if s_bit (e_in e) (nI k) = true then x_b (D_nackTo (nI n) (nI k) name wish s) (fun σ14 => D_nackComes_51 (nI n) name wish (nI (64 * n + i)) K f (nI (k + 1)) σ14) else D_nackComes_51 (nI n) name wish (nI (64 * n + i)) K f (nI (k + 1)) s := by
      show (if t_i s 23 ≤ nI k then _ else _) = _
      rw [q1.1.2.2.1, hnn.1, if_neg (nI_ge hk (by omega)), g1, d1, p_has', x_bS]
      by_cases c : s_bit (e_in e) (nI k) = true
      · rw [if_pos c, if_pos c, if_neg (show ¬ (1 : Int32) = 0 by decide)]
        simp only [x_lS, nI_1]
      · rw [if_neg c, if_neg c, if_pos (show (0 : Int32) = 0 from rfl)]
        simp only [x_lS, nI_1]
    by_cases c : s_bit (e_in e) (nI k) = true
    · obtain ⟨s1, m1, m2, m3, m4⟩ := p_nackTo (name := name) (wish := wish) (t := k) q1 hN hlk q2 hn (Or.inl (by omega)) (by omega)
      refine ⟨s1, ?_, ?_⟩
      · show D_nackComes_51 (nI n) name wish (nI (64 * n + i)) K (f + 1) (nI k) s = _
        rw [hL, if_pos c, m1, x_bS]
      · show t_rel s1 N lk (if s_bit (e_in e) (nI k) = true then s_nack N lk n k name wish r g else g) ∧ _
        rw [if_pos c]
        obtain ⟨z1, z2⟩ := g_nd_nack (N := N) (lk := lk) (name := name) (wish := wish) (n := n) (t := k) (r := r) (G := g)
        exact ⟨m2, m3, q3.trans m4, z1.trans q4, by omega⟩
    · refine ⟨s, ?_, ?_⟩
      · show D_nackComes_51 (nI n) name wish (nI (64 * n + i)) K (f + 1) (nI k) s = _
        rw [hL, if_neg c]
      · show t_rel s N lk (if s_bit (e_in e) (nI k) = true then s_nack N lk n k name wish r g else g) ∧ _
        rw [if_neg c]
        exact ⟨q1, q2, q3, q4, by omega⟩
theorem t_rel_reg {k : Nat} {x : Int32} (hk : 71 ≤ k ∧ k ≤ 74) (h : t_rel σ N lk G) : t_rel (t_si σ k x) N lk G ∧ t_out σ (t_si σ k x) := by
  obtain ⟨⟨h1, h2, h3, h4⟩, h5, h6, h7, h8, ⟨w1, w2, w3⟩, h9, c1, c2, c3, c4, c5, c6⟩ := h
  have hi : ∀ j, j ≠ k → t_i (t_si σ k x) j = t_i σ j := fun j hj => by rw [t_i_si, if_neg hj]
  exact ⟨⟨⟨t_net_of (hi 22 (by omega)) (fun j => rfl) h1, h2, (hi 23 (by omega)).trans h3, (hi 24 (by omega)).trans h4⟩, (hi 26 (by omega)).trans h5, (hi 27 (by omega)).trans h6, h7, h8, ⟨(hi 45 (by omega)).trans w1, w2, w3⟩, h9, (hi 65 (by omega)).trans c1, (hi 66 (by omega)).trans c2, (hi 67 (by omega)).trans c3, (hi 68 (by omega)).trans c4, (hi 69 (by omega)).trans c5, (hi 70 (by omega)).trans c6⟩, ⟨fun j hj => hi j (by omega), rfl, fun _ _ _ => rfl⟩⟩
theorem p_nackTail {n i : Nat} {e : s_E} {name wish : Int32} {r : s_Q} (h : t_rel σ N lk G) (hN : n_ok N) (hlk : ∀ i, i < 36 → ∀ l, lk i = some l → l < n_links N) (hr : t_reg σ r) (hn : n < 6) (he : (g_es G n)[i]? = some e) (hw : (g_ways G).length + 6 ≤ 4096) : ∃ σ', D_nackComes_51 (nI n) name wish (nI (64 * n + i)) (fun (σ27 : t_S) => D_nackComes_94 (nI n) (nI (64 * n + i)) (fun (σ42 : t_S) => x_ga (nI n) 6 fun j43 => x_ga (nI (64 * n + i)) 384 fun j44 => x_ga (nI n) 6 fun j45 => x_l (t_sl σ42 28 j45 ((t_l σ42 28 j43) ||| (t_l σ42 39 j44))) fun σ46 => x_b (D_removes (nI n) (nI (64 * n + i)) σ46) fun σ48 => some σ48) x_F (0 : Int32) σ27) x_F 0 σ = some σ' ∧ t_rel σ' N lk (s_nackOut N lk n i e name wish r G) ∧ t_out σ σ' := by
  have g6 : ∀ {α : Type} (kk : Nat → Option α), x_ga (nI n) 6 kk = kk n := fun kk => x_gaS hn (by omega)
  obtain ⟨hi, he'⟩ := List.getElem?_eq_some_iff.mp he
  have hlen := (h.2.2.2.1 n hn).1.2.1
  have g1 : ∀ {α : Type} (kk : Nat → Option α), x_ga (nI (64 * n + i)) 384 kk = kk (64 * n + i) := fun kk => x_gaS (by omega) (by omega)
  obtain ⟨s2, a1, a2, a3, a4, a5⟩ := p_nackComes_51 (name := name) (wish := wish) (K := fun (σ27 : t_S) => D_nackComes_94 (nI n) (nI (64 * n + i)) (fun (σ42 : t_S) => x_ga (nI n) 6 fun j43 => x_ga (nI (64 * n + i)) 384 fun j44 => x_ga (nI n) 6 fun j45 => x_l (t_sl σ42 28 j45 ((t_l σ42 28 j43) ||| (t_l σ42 39 j44))) fun σ46 => x_b (D_removes (nI n) (nI (64 * n + i)) σ46) fun σ48 => some σ48) x_F (0 : Int32) σ27) h hN hlk hr hn he hw
  rw [a1]
  have he1 : (g_es (s_nackAll N lk n (e_in e) name wish r G) n)[i]? = some e := by unfold g_es; rw [a5]; exact he
  obtain ⟨s3, b1, b2, b3, b4, b5, b6⟩ := p_nackComes_94 (K := fun (σ42 : t_S) => x_ga (nI n) 6 fun j43 => x_ga (nI (64 * n + i)) 384 fun j44 => x_ga (nI n) 6 fun j45 => x_l (t_sl σ42 28 j45 ((t_l σ42 28 j43) ||| (t_l σ42 39 j44))) fun σ46 => x_b (D_removes (nI n) (nI (64 * n + i)) σ46) fun σ48 => some σ48) a2 a3 hn he1
  rw [b1]
  simp only [g6, g1, x_lS, x_idb]
  have hes3 : g_es (s_refuseAll (e_asks e) r (s_nackAll N lk n (e_in e) name wish r G)) n = g_es G n := by unfold g_es; rw [b5, a5]
  have e3 : a_e s3 (64 * n + i) = e := by
    have := (b2.2.2.2.1 n hn).1.2.2 i (by rw [hes3]; exact hi)
    rw [this]
    have e9 : (g_es (s_refuseAll (e_asks e) r (s_nackAll N lk n (e_in e) name wish r G)) n)[i]? = some e := by rw [hes3]; exact he
    exact (List.getElem?_eq_some_iff.mp e9).2
  have f1 : t_l s3 39 (64 * n + i) = e_nonces e := congrArg (fun x : s_E => x.2.2.2.2.1) e3
  have f2 := (b2.2.2.2.1 n hn).2.2
  rw [f1, f2]
  obtain ⟨u1, u2⟩ := t_rel_dead (g_dead (s_refuseAll (e_asks e) r (s_nackAll N lk n (e_in e) name wish r G)) n ||| e_nonces e) b2 hn
  have hge2 : g_es (g_sdead (s_refuseAll (e_asks e) r (s_nackAll N lk n (e_in e) name wish r G)) n (g_dead (s_refuseAll (e_asks e) r (s_nackAll N lk n (e_in e) name wish r G)) n ||| e_nonces e)) n = g_es G n := by
    unfold g_es g_sdead
    rw [g_nd_snd, s_up1_s]
    exact hes3
  obtain ⟨s4, c1, c2, c3, c4⟩ := p_removes (i := i) u1 hn (by rw [hge2]; exact hi)
  exact ⟨s4, c1, c2, (a4.trans b4).trans (u2.trans c4)⟩
theorem p_nackComes {n fr : Nat} {name wish : Int32} {r : s_Q} (h : t_rel σ N lk G) (hN : n_ok N) (hlk : ∀ i, i < 36 → ∀ l, lk i = some l → l < n_links N) (hr : t_reg σ r) (hn : n < 6) (hnm : name = nI (v_ name) ∧ v_ name < 2 ^ 31) (hw : (g_ways G).length + 6 ≤ 4096) : ∃ σ', D_nackComes (nI n) (nI fr) name wish σ = some σ' ∧ t_rel σ' N lk (s_nackComes N lk n fr name wish r G) ∧ t_out σ σ' := by
  obtain ⟨be, -, -⟩ := h.2.2.2.1 n hn
  have hlen := be.2.1
  have he1 : D_entryOf (nI n) name wish σ = some (match s_ei name wish (g_es G n) with
    | some i => nI (64 * n + i)
    | none => (-1 : Int32)) := p_entryOf be hn
  unfold D_nackComes s_nackComes
  rw [he1, x_bS]
  cases hei : s_ei name wish (g_es G n) with
  | none => exact ⟨σ, if_pos rfl, h, t_out.refl⟩
  | some i =>
    have hi := s_ei_lt hei
    obtain ⟨e, hge⟩ : ∃ e, (g_es G n)[i]? = some e := ⟨_, List.getElem?_eq_getElem hi⟩
    have e0 : a_e σ (64 * n + i) = e := (be.2.2 i hi).trans (List.getElem?_eq_some_iff.mp hge).2
    have hp := (s_find_some hei).2.2.1
    rw [List.getElem?_map, hge] at hp
    have hp' : (e.1, e.2.1) = (name, wish) := by simpa using hp
    have hnm1 : e_name e = name := congrArg Prod.fst hp'
    have g1 : ∀ {α : Type} (kk : Nat → Option α), x_ga (nI (64 * n + i)) 384 kk = kk (64 * n + i) := fun kk => x_gaS (by omega) (by omega)
    have d1 : t_a σ 41 (64 * n + i) = e_out e := congrArg (fun x : s_E => x.2.2.2.2.2.2.1) e0
    simp only [hge]
    rw [if_neg (show ¬ nI (64 * n + i) = -1 from oI_none (by omega)), g1, d1]
    by_cases c : e_out e = nI fr
    · rw [if_pos c, if_pos c]
      obtain ⟨s1, p1, p2, p3, p4⟩ := p_goesOn h hN hlk hr hn hge (by rw [hnm1]; exact hnm) (by omega)
      rw [p1, x_b2S]
      by_cases cg : (s_go N lk n i e r G).1 = true
      · rw [if_pos cg, if_neg (show ¬ (1 : Int32) = 0 by decide), if_pos cg]
        exact ⟨s1, rfl, p2, p4⟩
      · rw [if_neg cg, if_pos (show (0 : Int32) = 0 from rfl), if_neg cg]
        have hG : (s_go N lk n i e r G).2 = G := by
          unfold s_go at cg ⊢
          cases hs : s_way N lk n e G with
          | none => rfl
          | some to => rw [hs] at cg; exact absurd rfl cg
        rw [hG] at p2
        obtain ⟨q1, q2⟩ := t_rel_reg (k := 71) (x := t_i s1 71 + 1) (by omega) p2
        have hreg : t_reg (t_si s1 71 (t_i s1 71 + 1)) (r.1 + 1, r.2) := by
          refine ⟨?_, ?_, ?_, ?_⟩
          · rw [t_i_si, if_pos rfl, p3.1]
          · exact p3.2.1
          · exact p3.2.2.1
          · exact p3.2.2.2
        obtain ⟨s4, c1, c2, c3⟩ := p_nackTail (name := name) (wish := wish) q1 hN hlk hreg hn hge hw
        exact ⟨s4, c1, c2, p4.trans (q2.trans c3)⟩
    · rw [if_neg c, if_neg c]
      exact ⟨σ, rfl, h, t_out.refl⟩
end T50
