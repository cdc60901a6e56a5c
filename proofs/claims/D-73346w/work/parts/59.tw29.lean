/-! THE TWIN's LAW, 29: a minute goes by -/
set_option maxRecDepth 100000
section T59
variable {σ σ' : t_S} {N : s_R} {lk : Nat → Option Nat} {G : s_G} {K : Nat} {W : s_W} {t : Nat}
theorem t_rel_min {x : Int32} (h : t_rel σ N lk G) : t_rel (t_si σ 27 x) N lk (g_sminute G x) ∧ t_out σ (t_si σ 27 x) := by
  obtain ⟨⟨h1, h2, h3, h4⟩, h5, h6, h7, h8, ⟨w1, w2, w3⟩, h9, c1, c2, c3, c4, c5, c6⟩ := h
  exact ⟨⟨⟨t_net_si (by decide) h1, h2, h3, h4⟩, h5, rfl, h7, h8, ⟨w1, w2, w3⟩, h9, c1, c2, c3, c4, c5, c6⟩, fun k hk => by rw [t_i_si, if_neg (by omega)], rfl, fun _ _ _ => rfl⟩
/-- the ways change alone -/
theorem t_rel_ways {ws : List s_M} (h : t_rel σ N lk G) (hi : ∀ k, k ≠ 45 → t_i σ' k = t_i σ k) (hw : t_w σ' = t_w σ) (ha : ∀ a j, ¬ (46 ≤ a ∧ a ≤ 56) → t_a σ' a j = t_a σ a j) (hl : ∀ a j, t_l σ' a j = t_l σ a j) (hws : t_way σ' ws) : t_rel σ' N lk (g_sways G ws) ∧ t_out σ σ' := by
  obtain ⟨⟨h1, h2, h3, h4⟩, h5, h6, h7, h8, -, h9, c1, c2, c3, c4, c5, c6⟩ := h
  refine ⟨⟨⟨t_net_of (hi 22 (by omega)) (fun j => ha 6 j (by omega)) h1, t_lk_of (fun j => ha 25 j (by omega)) h2, (hi 23 (by omega)).trans h3, (hi 24 (by omega)).trans h4⟩, (hi 26 (by omega)).trans h5, (hi 27 (by omega)).trans h6, fun n hn => ?_, fun i hx => (ha 29 i (by omega)).trans (h8 i hx), hws, fun f k q1 q2 q3 => (ha f k (by omega)).trans (h9 f k q1 q2 q3), (hi 65 (by omega)).trans c1, (hi 66 (by omega)).trans c2, (hi 67 (by omega)).trans c3, (hi 68 (by omega)).trans c4, (hi 69 (by omega)).trans c5, (hi 70 (by omega)).trans c6⟩, fun k hk => hi k (by omega), hw, fun k j hk => ha k j (by omega)⟩
  obtain ⟨e1, d1, l1⟩ := h7 n hn
  exact ⟨t_es_of (fun k j q1 q2 => ha k j (by omega)) (fun k j _ _ => hl k j) e1, t_ds_of (fun k j q1 q2 => ha k j (by omega)) d1, (hl 28 n).trans l1⟩
theorem s_inv.outs {Q : List s_M} {P tm : Nat} {z y : Int} (h : s_inv N K W t tm Q P z y G) : s_outs G := fun n hn e he => by
  obtain ⟨o, o1, o2, -⟩ := (h.1.2.1 n hn |>.1 e he).2.2.1
  exact ⟨o, o1, o2⟩
theorem s_inv.room {Q : List s_M} {P tm : Nat} (h : s_inv N K W t tm Q P 0 0 G) (hN : n_ok N) (hK : K ≤ 60) : (∀ n, n < 6 → (g_es G n).length < 64 ∧ (g_ds G n).length ≤ 5) ∧ P + (g_ways G).length + 384 ≤ 4096 := by
  obtain ⟨h1, h2⟩ := h.few hK
  refine ⟨fun n hn => ⟨by have := h1 n hn; omega, ?_⟩, by omega⟩
  have := (h.1.2.1 n hn).2.2.2.1
  have := (n_room_b hN hn).2
  show (g_nd G n).2.1.length ≤ 5
  omega
/-- the messages of a minute, one behind the other -/
theorem p_goesBy_21 {ms rest : List s_M} (Kf : t_S → Option t_S) (hN : n_ok N) (hlk : s_lkok N lk) (hK : K ≤ 60) (hms : ms.length ≤ 4096) {x0 : s_G} (hx0 : g_ways x0 = rest) (h : t_rel σ N lk (g_sways x0 ms)) (hi : s_inv N K W t t (s_nowl (nI t) ms) (s_nowl (nI t) ms).length 0 0 x0) (hlen : (s_nowl (nI t) ms).length + rest.length = ms.length) :
    ∃ σ' news, D_goesBy_21 (nI ms.length) Kf x_F 0 σ = Kf σ' ∧ g_ways (s_runAll N lk (s_nowl (nI t) ms) x0) = rest ++ news ∧ t_rel σ' N lk (g_sways (s_runAll N lk (s_nowl (nI t) ms) x0) (ms ++ news)) ∧ t_out σ σ' := by
  have key := x_forS (fun k (s : t_S) (x : s_G) => ∃ news, g_ways x = rest ++ news ∧ t_rel s N lk (g_sways x (ms ++ news)) ∧ t_out σ s ∧ s_inv N K W t t (s_nowl (nI t) (ms.drop k)) (s_nowl (nI t) ms).length 0 0 x ∧ x = s_runAll N lk (s_nowl (nI t) (ms.take k)) x0) (fun f k s => D_goesBy_21 (nI ms.length) Kf f (nI k) s) Kf (fun k x => match ms[k]? with
    | none => x
    | some m => if m_due m = nI t then s_comes N lk m x else x) ms.length ?_ ?_ x_F 0 σ x0 (by omega) ⟨[], by rw [List.append_nil]; exact hx0, by rw [List.append_nil]; exact h, t_out.refl, hi, rfl⟩ (by rw [x_Fv]; omega)
  · obtain ⟨s', k1, news, k2, k3, k4, k5, k6⟩ := key
    rw [List.take_length] at k6
    rw [k6] at k2 k3
    exact ⟨s', news, k1, k2, k3, k4⟩
  · intro f s g _
    show (if nI ms.length ≤ nI ms.length then _ else _) = _
    rw [if_pos (Int32.le_refl _)]
  · intro f k s x hq hk
    obtain ⟨news, q1, q2, q3, q4, q5⟩ := hq
    have g1 : ∀ {α : Type} (kk : Nat → Option α), x_ga (nI k) 4096 kk = kk k := fun kk => x_gaS (by omega) (by omega)
    have hge : ms[k]? = some ms[k] := List.getElem?_eq_getElem hk
    have hgw : (g_ways (g_sways x (ms ++ news)))[k]? = some ms[k] := by
      show (ms ++ news)[k]? = _
      rw [List.getElem?_append_left hk, hge]
    have hgl : k < (g_ways (g_sways x (ms ++ news))).length := (List.getElem?_eq_some_iff.mp hgw).1
    have hl := q2.2.2.2.2.2.1.2.2 k hgl
    rw [(List.getElem?_eq_some_iff.mp hgw).2] at hl
    have d52 : t_a s 52 k = m_due ms[k] := congrArg (fun x => x.2.2.2.2.2.2) hl.1
    have hmin : t_i s 27 = nI t := q2.2.2.1.trans q4.1.1.1
    have hL : D_goesBy_21 (nI ms.length) Kf (f + 1) (nI k) s = if m_due ms[k] = nI t then x_b (D_comes (nI k) s) (fun σ14 => D_goesBy_21 (nI ms.length) Kf f (nI (k + 1)) σ14) else D_goesBy_21 (nI ms.length) Kf f (nI (k + 1)) s := by
      show (if nI ms.length ≤ nI k then _ else _) = _
      rw [if_neg (nI_ge hk (by omega)), g1, d52, hmin]
      by_cases c : m_due ms[k] = nI t
      · rw [if_pos c, if_pos c]
        simp only [x_lS, nI_1]
      · rw [if_neg c, if_neg c]
        simp only [x_lS, nI_1]
    have hdrop : ms.drop k = ms[k] :: ms.drop (k + 1) := List.drop_eq_getElem_cons hk
    have htake : ms.take (k + 1) = ms.take k ++ [ms[k]] := by rw [List.take_append_getElem]
    by_cases c : m_due ms[k] = nI t
    · have hn1 : s_nowl (nI t) (ms.drop k) = ms[k] :: s_nowl (nI t) (ms.drop (k + 1)) := by
        rw [hdrop]
        unfold s_nowl
        rw [List.filter_cons_of_pos (by simp [c])]
      have hn2 : s_nowl (nI t) (ms.take (k + 1)) = s_nowl (nI t) (ms.take k) ++ [ms[k]] := by
        rw [htake]
        unfold s_nowl
        rw [List.filter_append, List.filter_cons_of_pos (by simp [c])]
        rfl
      rw [hn1] at q4
      obtain ⟨r1, r2⟩ := q4.room hN hK
      have hrm : s_room (g_sways x (ms ++ news)) := by
        refine ⟨r1, ?_⟩
        show (ms ++ news).length + 384 ≤ 4096
        rw [q1] at r2
        rw [List.length_append] at r2 ⊢
        omega
      obtain ⟨s1, p1, p2, p3⟩ := p_comes q2 hN hlk hgw (q4.1.2.2.1 ms[k] (by simp)) hrm
      have H := q4.comes hN hlk (by omega)
      have ap := s_apx_comes (N := N) (lk := lk) ms[k] x
      have ex : s_comes N lk ms[k] x = g_sways (s_comes N lk ms[k] (g_sways x [])) ((rest ++ news) ++ g_ways (s_comes N lk ms[k] (g_sways x []))) := by
        have := ap (rest ++ news)
        have e9 : g_sways x (rest ++ news) = x := by rw [← q1]; rfl
        rw [e9] at this
        exact this
      refine ⟨s1, ?_, news ++ g_ways (s_comes N lk ms[k] (g_sways x [])), ?_, ?_, q3.trans p3, ?_, ?_⟩
      · show D_goesBy_21 (nI ms.length) Kf (f + 1) (nI k) s = _
        rw [hL, if_pos c, p1, x_bS]
      · simp only [hge, if_pos c]
        rw [ex, ← List.append_assoc]
        rfl
      · simp only [hge, if_pos c]
        rw [ap (ms ++ news)] at p2
        rw [ex, ← List.append_assoc]
        exact p2
      · simp only [hge, if_pos c]
        exact H
      · simp only [hge, if_pos c]
        rw [hn2]
        unfold s_runAll
        rw [List.foldl_append]
        show _ = s_comes N lk ms[k] _
        rw [q5]
        rfl
    · have hn1 : s_nowl (nI t) (ms.drop k) = s_nowl (nI t) (ms.drop (k + 1)) := by
        rw [hdrop]
        unfold s_nowl
        rw [List.filter_cons_of_neg (by simp [c])]
      have hn2 : s_nowl (nI t) (ms.take (k + 1)) = s_nowl (nI t) (ms.take k) := by
        rw [htake]
        unfold s_nowl
        rw [List.filter_append, List.filter_cons_of_neg (by simp [c])]
        simp
      rw [hn1] at q4
      refine ⟨s, ?_, news, ?_, ?_, q3, ?_, ?_⟩
      · show D_goesBy_21 (nI ms.length) Kf (f + 1) (nI k) s = _
        rw [hL, if_neg c]
      · simp only [hge, if_neg c]; exact q1
      · simp only [hge, if_neg c]; exact q2
      · simp only [hge, if_neg c]; exact q4
      · simp only [hge, if_neg c]; rw [hn2]; exact q5
theorem s_left_of {t : Nat} (ht : t ≤ 99) : ∀ (l : List s_M), (∀ m ∈ l, s_dok t m) → s_left t l = l := by
  intro l h
  unfold s_left
  rw [List.filter_eq_self]
  intro m hm
  obtain ⟨x, x1, x2, x3⟩ := h m hm
  have : ¬ m_due m ≤ nI t := by
    show ¬ m.1.2.2.2.2.2.2 ≤ nI t
    rw [x1]
    exact nI_ge x2 (by omega)
  simp [this]
theorem s_left_rest {t : Nat} (ht : t + 1 ≤ 99) : ∀ (l : List s_M), (∀ m ∈ l, s_dok t m) → s_left (t + 1) l = s_restl (nI (t + 1)) l := by
  intro l h
  unfold s_left s_restl
  apply List.filter_congr
  intro m hm
  obtain ⟨x, x1, x2, x3⟩ := h m hm
  have e : (m_due m ≤ nI (t + 1)) ↔ m_due m = nI (t + 1) := by
    show m.1.2.2.2.2.2.2 ≤ nI (t + 1) ↔ m.1.2.2.2.2.2.2 = nI (t + 1)
    rw [x1, nI_leI (by omega) (by omega), nI_eq (by omega) (by omega)]
    omega
  by_cases c : m_due m = nI (t + 1)
  · simp [c, e.mpr c]
  · have : ¬ m_due m ≤ nI (t + 1) := fun q => c (e.mp q)
    simp [c, this]
theorem g_sways_self (X : s_G) (ws : List s_M) : g_sways (g_sways X ws) (g_ways X) = X := rfl
theorem p_goesBy_tail {E X : s_G} {ms : List s_M} (h : t_rel σ N lk E) (hN : n_ok N) (hlk : s_lkok N lk) (hK : K ≤ 60) (ht : t + 1 ≤ 99) (hE : g_ways E = ms) (i1 : s_inv N K W (t + 1) (t + 1) (s_nowl (nI (t + 1)) ms) (s_nowl (nI (t + 1)) ms).length 0 0 (g_sways E (s_restl (nI (t + 1)) ms))) (hX : X = s_runAll N lk (s_nowl (nI (t + 1)) ms) (g_sways E (s_restl (nI (t + 1)) ms))) (hfin : s_inv N K W (t + 1) (t + 1) [] 0 0 0 X) (hold : ∀ m ∈ ms, s_dok t m) :
    ∃ σ', D_goesBy_21 (nI ms.length) (fun (σ16 : t_S) => D_goesBy_54 (fun (v2_30 : Int32) (σ31 : t_S) => x_l (t_si σ31 45 v2_30) fun σ32 => some σ32) x_F 0 0 σ16) x_F 0 σ = some σ' ∧ t_rel σ' N lk X ∧ t_out σ σ' := by
  have hw := h.2.2.2.2.2.1
  rw [hE] at hw
  have hsp := split_len (fun m => decide (m_due m = nI (t + 1))) ms
  have h0 : t_rel σ N lk (g_sways (g_sways E (s_restl (nI (t + 1)) ms)) ms) := by
    have e := g_sways_self E (s_restl (nI (t + 1)) ms)
    rw [hE] at e
    rw [e]
    exact h
  obtain ⟨s2, news, d1, d2, d3, d4⟩ := p_goesBy_21 (rest := s_restl (nI (t + 1)) ms) (Kf := fun (σ16 : t_S) => D_goesBy_54 (fun (v2_30 : Int32) (σ31 : t_S) => x_l (t_si σ31 45 v2_30) fun σ32 => some σ32) x_F 0 0 σ16) hN hlk hK hw.2.1 rfl h0 i1 hsp
  rw [← hX] at d2 d3
  have hmin : t_i s2 27 = nI (t + 1) := d3.2.2.1.trans hfin.1.1.1
  have hw2 : t_way s2 (ms ++ news) := d3.2.2.2.2.2.1
  obtain ⟨s3, e1, e2, e3, e4, e5, e6⟩ := p_goesBy_54 (K := fun (v2_30 : Int32) (σ31 : t_S) => x_l (t_si σ31 45 v2_30) fun σ32 => some σ32) hmin hw2
  have hnews : s_left (t + 1) (ms ++ news) = g_ways X := by
    have a1 := s_left_rest ht ms hold
    have a2 := s_left_of (t := t + 1) ht news (fun m hm => (hfin.1.2.2.2 m (by rw [d2]; exact List.mem_append_right _ hm)).2)
    rw [d2]
    unfold s_left at a1 a2 ⊢
    rw [List.filter_append, a1, a2]
  have e6' : ∀ j (hj : j < (g_ways X).length), s_like (a_m s3 j) (g_ways X)[j] := by
    rw [hnews] at e6
    exact e6
  rw [hnews] at e1
  have hway : t_way (t_si s3 45 (nI (g_ways X).length)) (g_ways X) := by
    refine ⟨by rw [t_i_si, if_pos rfl], ?_, e6'⟩
    have := (hfin.room hN hK).2
    omega
  obtain ⟨f1, f2⟩ := t_rel_ways (σ' := t_si s3 45 (nI (g_ways X).length)) (ws := g_ways X) d3 (fun k hk => by rw [t_i_si, if_neg hk, e2]) e3 e4 e5 hway
  exact ⟨_, d1.trans e1, f1, d4.trans f2⟩
theorem s_goesBy_eq {E : s_G} {ms : List s_M} {x : Int32} (hE : E = s_endsAll N (g_sminute G (g_minute G + 1))) (i2 : g_ways E = ms) (i3 : g_minute E = x) : s_goesBy N lk G = s_runAll N lk (s_nowl x ms) (g_sways E (s_restl x ms)) := by
  subst hE
  subst i2
  subst i3
  rfl
theorem t_rel_min1 (h : t_rel σ N lk G) : t_rel (t_si σ 27 (t_i σ 27 + 1)) N lk (g_sminute G (g_minute G + 1)) ∧ t_out σ (t_si σ 27 (t_i σ 27 + 1)) := by
  have H := t_rel_min (x := t_i σ 27 + 1) h
  rw [h.2.2.1] at H ⊢
  exact H
theorem D_goesBy_eq {s1 : t_S} {w : Int32} (c1 : D_endsAll (t_si σ 27 (t_i σ 27 + 1)) = some s1) (hw : t_i s1 45 = w) : D_goesBy σ = D_goesBy_21 w (fun (σ16 : t_S) => D_goesBy_54 (fun (v2_30 : Int32) (σ31 : t_S) => x_l (t_si σ31 45 v2_30) fun σ32 => some σ32) x_F 0 0 σ16) x_F 0 s1 := by
  subst hw
  unfold D_goesBy
  rw [x_lS, c1, x_bS, x_lS]
theorem p_goesBy (h : t_rel σ N lk G) (hN : n_ok N) (hlk : s_lkok N lk) (hK : K ≤ 60) (hi : s_inv N K W t t [] 0 0 0 G) (ht : t + 1 ≤ 99) : ∃ σ', D_goesBy σ = some σ' ∧ t_rel σ' N lk (s_goesBy N lk G) ∧ t_out σ σ' := by
  obtain ⟨b1, b2⟩ := t_rel_min1 h
  have ho : s_outs (g_sminute G (g_minute G + 1)) := hi.outs
  obtain ⟨s1, c1, c2, c3⟩ := p_endsAll b1 hN ho
  obtain ⟨i1, i2, i3⟩ := hi.begins ht (by omega) hN
  have hfin := hi.goesBy ht (by omega) hN hlk
  have hX := s_goesBy_eq (N := N) (lk := lk) (G := G) rfl i2 i3
  have hw := c2.2.2.2.2.2.1.1
  rw [i2] at hw
  rw [D_goesBy_eq c1 hw]
  generalize hX' : s_goesBy N lk G = X at hX hfin ⊢
  generalize s_endsAll N (g_sminute G (g_minute G + 1)) = E at *
  obtain ⟨s2, d1, d2, d3⟩ := p_goesBy_tail c2 hN hlk hK ht i2 i1 hX hfin (fun m hm => (hi.1.2.2.2 m hm).2)
  exact ⟨s2, d1, d2, (b2.trans c3).trans d3⟩
end T59
