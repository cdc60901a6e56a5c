/-! THE COMPONENT's LAW, 21: what a way is worth, the best -/
set_option maxRecDepth 100000
set_option linter.unusedVariables false
section T93
variable {g : z_G} {C : h_C} {o o1 : Nat → Nat} {μ μ1 : z_M} {E : Nat → List Nat} {B b p n q k w a0 t l x ce room i name : Nat} {G G' : s_G} {S : Nat → Prop} {N : s_R} {xs es : List Nat} {nd : s_N} {ms : Nat → Int32} {but : Int32}
/-- a node of the run -/
theorem h_go.node0 (h : h_go g C o μ E B G) (hn : (c_ns C)[n]? = some q) : ∃ ce, h_no g o μ n q ce (E n) (g_nd G n) (g_meas G) := by
  obtain ⟨cw, ce, ws, -, -, -, n1⟩ := h.2.2.2.2.2.2
  exact ⟨ce n, n1 n q hn⟩
theorem h_go.nodeAt (h : h_go g C o μ E B G) (hn : n < n_nodes (c_N C)) : ∃ q, (c_ns C)[n]? = some q := h_at h.nodes.2 hn
theorem h_go.getNode {α : Type} {kk : Option Nat → Option α} (h : h_go g C o μ E B G) (hn : (c_ns C)[n]? = some q) : (x_gr μ (c_a C) 12 1 fun o1 => x_o o1 fun p5 => x_ob μ p5 3 fun _ => x_b (D_J2_get g p5 (nI n) μ) fun o9 => x_gp (x_ic g μ o9 "AskedNames$Node") (kk o9)) = kk (some q) := by
  obtain ⟨ce, hno⟩ := h.node0 hn
  exact x_lgt h.ca rfl h.nodes.1 hn hno.isA
theorem h_no.meas {es : List Nat} (h : h_no g o μ n q ce es nd ms) : ∃ fs ml f, μ.1 q = some (.inr (13, fs)) ∧ fs[2]? = some (.ref ml) ∧ μ.1 ml = some (h_ia 6 f) ∧ o ml = 1030 + n ∧ ∀ j, j < 6 → f j = ms (6 * n + j) := by
  obtain ⟨h0, sl, el, ml, ds, f, h1, -, -, h7, h8, h9⟩ := h
  exact ⟨_, ml, f, h1, rfl, h8, h7, h9⟩
theorem s_tms.mso (h : s_tms G) (hn : n < 6) : s_mso (g_meas G) n := by
  obtain ⟨tm, -, -, -, h4⟩ := h
  intro j hj
  rcases h4 (6 * n + j) (by omega) with q | ⟨x, q1, q2⟩
  · exact Or.inl q
  · exact Or.inr ⟨x, by omega, q2⟩
/-- what a way is worth -/
theorem h_go.worth (h : h_go g C o μ E B G) (hn : n < n_nodes (c_N C)) (hq : h_nm o μ w name) (ht : s_tgt (c_N C) (c_lk C) (g_down G) n name but t) : ∃ c, D_X12_worth g (c_a C) (nI n) (some w) (nI t) μ = some (nI c) ∧ s_wth (c_N C) (c_lk C) (g_down G) (g_meas G) n name but t c := by
  have hN := h.hN
  have h6 : n_nodes (c_N C) ≤ 6 := hN.1.1.2
  have hms := h.1.2.2.1.mso (show n < 6 by omega)
  obtain ⟨fs, rl, nr, hp, hk5, hk0, r1, r2, r3⟩ := h.routes
  have h3 : n_routes (c_N C) ≤ 12 := hN.2.2.2.1.2
  have hI : z_isA g μ w "java/lang/String" := hq.isA h.wf
  have h7 := s_longest7 hN n name
  obtain ⟨kt, kt1, kt2, kt3⟩ := ht
  have htb : t < 6 := by have := (n_rt_n hN kt1).2.1; omega
  obtain ⟨nq, hnq⟩ := h.nodeAt hn
  obtain ⟨ce, hno⟩ := h.node0 hnq
  obtain ⟨ns, ml, f, m1, m2, m3, m4, m5⟩ := hno.meas
  have hft := m5 t htb
  unfold D_X12_worth
  rw [h.getNode hnq, x_oS, x_grR m1 m2, x_oS, x_arS m3, x_gaT (by omega) (by omega), hft]
  by_cases c0 : g_meas G (6 * n + t) = -1
  · rw [if_pos c0, x_grR h.ca rfl, x_oS, h.nt.ob, h.nt.longest hN hq h.wf h.ok (by omega), x_bS]
    have hcost : ∀ k, k < n_routes (c_N C) → n_rt (c_N C) k = t → s_cost (c_N C) (g_meas G) n k = nI (n_rc (c_N C) k) := fun k hk e => by
      unfold s_cost
      rw [e, if_pos c0]
    obtain ⟨v, e1, e2⟩ := x_forS (γ := Int32) (δ := Unit) (β := Option Int32)
      (R := fun k v _ => (v = (268435456 : Int32) ∧ ∀ k', k' < k → s_elig (c_N C) (c_lk C) (g_down G) n name but k' → n_rt (c_N C) k' ≠ t) ∨ ∃ c, c ≤ 200 ∧ v = nI c ∧ (∃ k', k' < k ∧ k' < n_routes (c_N C) ∧ s_elig (c_N C) (c_lk C) (g_down G) n name but k' ∧ n_rt (c_N C) k' = t ∧ n_rc (c_N C) k' = c) ∧ ∀ k', k' < k → s_elig (c_N C) (c_lk C) (g_down G) n name but k' → n_rt (c_N C) k' = t → c ≤ n_rc (c_N C) k')
      (L := fun fu k v => D_X12_worth_55 g (c_a C) (nI n) (some w) (nI t) (nI (s_longest (c_N C) n name)) μ (fun v => some v) fu v (nI k))
      (K := fun v => some v) (st := fun _ d => d) (n := n_routes (c_N C))
      (fun fu v _ _ => by
        show D_X12_worth_55 _ _ _ _ _ _ _ _ (fu + 1) _ _ = _
        unfold D_X12_worth_55
        rw [x_grR h.ca rfl, x_oS, x_lsz hp hk5 r1, r2, if_pos (Int32.le_refl _)])
      (fun fu k v _ hR hk => by
        obtain ⟨x, hx⟩ := h_at r2 hk
        have hr := r3 k x hx
        have hA : z_isA g μ x "AskedNames$Route" := hr.isA
        obtain ⟨b1, -, -, -, -, b6, b7, b8, b9⟩ := n_rt_b hN hk
        obtain ⟨x0, w', hc, hwn⟩ := hr
        have h4 := s_len_vn hwn.1
        have hIw : z_isA g μ w' "java/lang/String" := hwn.isA h.wf
        have hstep : D_X12_worth_55 g (c_a C) (nI n) (some w) (nI t) (nI (s_longest (c_N C) n name)) μ (fun v => some v) (fu + 1) v (nI k) = (if nI (n_rn (c_N C) k) = nI n ∧ nI (n_rt (c_N C) k) = nI t ∧ nI (s_len (n_rw (c_N C) k)) = nI (s_longest (c_N C) n name) ∧ s_pre (n_rw (c_N C) k) name = true then D_X12_worth_55 g (c_a C) (nI n) (some w) (nI t) (nI (s_longest (c_N C) n name)) μ (fun v => some v) fu (x_mn v (nI (n_rc (c_N C) k))) (nI (k + 1)) else D_X12_worth_55 g (c_a C) (nI n) (some w) (nI t) (nI (s_longest (c_N C) n name)) μ (fun v => some v) fu v (nI (k + 1))) := by
          conv => lhs; unfold D_X12_worth_55
          rw [x_grR h.ca rfl, x_oS, x_lsz hp hk5 r1, r2, if_neg (nI_ge hk (by omega)), x_grR h.ca rfl, x_oS, x_lgt hp hk5 r1 hx hA, x_oS, x_giS hc rfl]
          by_cases c1 : nI (n_rn (c_N C) k) = nI n
          · rw [if_pos c1, x_giS hc rfl]
            by_cases c2 : nI (n_rt (c_N C) k) = nI t
            · rw [if_pos c2, x_grR hc rfl, x_oS, x_gpI hIw, hwn.len h.wf h.ok, x_bS]
              by_cases c3 : nI (s_len (n_rw (c_N C) k)) = nI (s_longest (c_N C) n name)
              · rw [if_pos c3, x_grR hc rfl, x_oS, x_gpI hI, hq.starts hwn h.wf h.ok, x_bS]
                by_cases c4 : s_pre (n_rw (c_N C) k) name = true
                · rw [if_pos c4, if_neg (show ¬ (1 : Int32) = 0 by decide), x_giS hc rfl, x_lS, x_lS, nI_1, if_pos ⟨c1, c2, c3, c4⟩]
                · rw [if_neg c4, if_pos rfl, x_lS, nI_1, if_neg (fun q => c4 q.2.2.2)]
              · rw [if_neg c3, x_lS, nI_1, if_neg (fun q => c3 q.2.2.1)]
            · rw [if_neg c2, x_lS, nI_1, if_neg (fun q => c2 q.2.1)]
          · rw [if_neg c1, x_lS, nI_1, if_neg (fun q => c1 q.1)]
        have hel : (nI (n_rn (c_N C) k) = nI n ∧ nI (n_rt (c_N C) k) = nI t ∧ nI (s_len (n_rw (c_N C) k)) = nI (s_longest (c_N C) n name) ∧ s_pre (n_rw (c_N C) k) name = true) ↔ s_elig (c_N C) (c_lk C) (g_down G) n name but k ∧ n_rt (c_N C) k = t := by
          rw [nI_eq (by omega) (by omega), nI_eq (by omega) (by omega), nI_eq (by omega) (by omega)]
          constructor
          · rintro ⟨a1, a2, a3, a4⟩
            refine ⟨⟨a1, a3, a4, ?_, ?_⟩, a2⟩
            · rw [a2, ← kt3]; exact kt2.2.2.2.1
            · rw [a2, ← kt3]; exact kt2.2.2.2.2
          · rintro ⟨⟨a1, a3, a4, -, -⟩, a2⟩
            exact ⟨a1, a2, a3, a4⟩
        by_cases hc : nI (n_rn (c_N C) k) = nI n ∧ nI (n_rt (c_N C) k) = nI t ∧ nI (s_len (n_rw (c_N C) k)) = nI (s_longest (c_N C) n name) ∧ s_pre (n_rw (c_N C) k) name = true
        · obtain ⟨g1, g2⟩ := hel.mp hc
          refine ⟨x_mn v (nI (n_rc (c_N C) k)), hstep.trans (if_pos hc), ?_⟩
          rcases hR with ⟨rfl, a2⟩ | ⟨c, a1, rfl, ⟨k', a2, a3, a4, a5, a6⟩, a7⟩
          · have e9 : x_mn (268435456 : Int32) (nI (n_rc (c_N C) k)) = nI (min 268435456 (n_rc (c_N C) k)) := x_mnN (x := 268435456) (by omega) (by omega)
            rw [e9, Nat.min_eq_right (by omega)]
            refine Or.inr ⟨n_rc (c_N C) k, by omega, rfl, ⟨k, by omega, hk, g1, g2, rfl⟩, fun k' q1 q2 q3 => ?_⟩
            by_cases ek : k' = k
            · rw [ek]; exact Nat.le_refl _
            · exact absurd q3 (a2 k' (by omega) q2)
          · rw [x_mnN (by omega) (by omega)]
            by_cases cc : c ≤ n_rc (c_N C) k
            · rw [Nat.min_eq_left cc]
              refine Or.inr ⟨c, a1, rfl, ⟨k', by omega, a3, a4, a5, a6⟩, fun k'' q1 q2 q3 => ?_⟩
              by_cases ek : k'' = k
              · rw [ek]; exact cc
              · exact a7 k'' (by omega) q2 q3
            · rw [Nat.min_eq_right (by omega)]
              refine Or.inr ⟨n_rc (c_N C) k, by omega, rfl, ⟨k, by omega, hk, g1, g2, rfl⟩, fun k'' q1 q2 q3 => ?_⟩
              by_cases ek : k'' = k
              · rw [ek]; exact Nat.le_refl _
              · have := a7 k'' (by omega) q2 q3; omega
        · refine ⟨v, hstep.trans (if_neg hc), ?_⟩
          rcases hR with ⟨rfl, a2⟩ | ⟨c, a1, rfl, ⟨k', a2, a3, a4, a5, a6⟩, a7⟩
          · refine Or.inl ⟨rfl, fun k' q1 q2 => ?_⟩
            by_cases ek : k' = k
            · rw [ek] at q2 ⊢
              exact fun q3 => hc (hel.mpr ⟨q2, q3⟩)
            · exact a2 k' (by omega) q2
          · refine Or.inr ⟨c, a1, rfl, ⟨k', by omega, a3, a4, a5, a6⟩, fun k'' q1 q2 q3 => ?_⟩
            by_cases ek : k'' = k
            · rw [ek] at q2 q3
              exact absurd (hel.mpr ⟨q2, q3⟩) hc
            · exact a7 k'' (by omega) q2 q3)
      x_F 0 (268435456 : Int32) () (Nat.zero_le _) (Or.inl ⟨rfl, fun k' q => absurd q (Nat.not_lt_zero _)⟩) (by rw [x_Fv]; omega)
    rcases e2 with ⟨-, a2⟩ | ⟨c, a1, rfl, ⟨k', a2, a3, a4, a5, a6⟩, a7⟩
    · exact absurd kt3 (a2 kt kt1 kt2)
    · refine ⟨c, e1, a1, ⟨k', a3, a4, a5, by rw [hcost k' a3 a5, a6]⟩, fun k'' c' q1 q2 q3 q4 q5 => ?_⟩
      rw [hcost k'' q1 q3] at q5
      have := (n_rt_b hN q1).2.2.2.2.2.2.2.2
      rw [← (nI_eq (by omega) (by omega)).mp q5]
      exact a7 k'' q1 q2 q3
  · rw [if_neg c0, h.getNode hnq, x_oS, x_grR m1 m2, x_oS, x_arS m3, x_gaT (by omega) (by omega), hft]
    rcases hms t htb with c1 | ⟨x, x1, x2⟩
    · exact absurd c1 c0
    · have hcost : ∀ k, n_rt (c_N C) k = t → s_cost (c_N C) (g_meas G) n k = nI x := fun k e => by
        unfold s_cost
        rw [e, if_neg c0, x2]
      refine ⟨x, by rw [x2], x1, ⟨kt, kt1, kt2, kt3, hcost kt kt3⟩, fun k' c' q1 q2 q3 q4 q5 => ?_⟩
      rw [hcost k' q3] at q5
      have := (nI_eq (by omega) (by omega)).mp q5
      omega
/-- the best of the ways -/
theorem h_go.best (h : h_go g C o μ E B G) (hn : n < n_nodes (c_N C)) (hq : h_nm o μ w name) : D_X12_best g (c_a C) (nI n) (some w) but μ = some (oI (s_next (c_N C) (c_lk C) (g_down G) (g_meas G) n name but)) := by
  have hN := h.hN
  have h6 : n_nodes (c_N C) ≤ 6 := hN.1.1.2
  have e0 : c_N C 0 = nI (n_nodes (c_N C)) := hN.1.1.1
  have hms := h.1.2.2.1.mso (show n < 6 by omega)
  obtain ⟨fs, rl, nr, hp, hk5, hk0, -⟩ := h.routes
  obtain ⟨y, y1, y2⟩ := h.ways (but := but) hn hq
  have hlt : ∀ t, s_tgt (c_N C) (c_lk C) (g_down G) n name but t → t < n_nodes (c_N C) := fun t ⟨k, k1, k2, k3⟩ => by
    have := (n_rt_n hN k1).2.1
    omega
  obtain ⟨v, v1, v2⟩ := x_forS (γ := Int32) (δ := Unit) (β := Option Int32)
    (R := fun T v _ => (v = (-1 : Int32) ∧ ∀ t, t < T → ¬ s_tgt (c_N C) (c_lk C) (g_down G) n name but t) ∨ ∃ t c, v = nI t ∧ t < T ∧ t < 6 ∧ s_wth (c_N C) (c_lk C) (g_down G) (g_meas G) n name but t c ∧ ∀ t' c', t' < T → s_wth (c_N C) (c_lk C) (g_down G) (g_meas G) n name but t' c' → c < c' ∨ c = c' ∧ t ≤ t')
    (L := fun fu T v => D_X12_best_15 g (c_a C) (nI n) (some w) y μ (fun v => some v) fu v (nI T))
    (K := fun v => some v) (st := fun _ d => d) (n := n_nodes (c_N C))
    (fun fu v _ _ => by
      show D_X12_best_15 _ _ _ _ _ _ _ (fu + 1) _ _ = _
      unfold D_X12_best_15
      rw [x_grR h.ca rfl, x_oS, x_giS hp hk0, e0, if_pos (Int32.le_refl _)])
    (fun fu T v _ hR hT => by
      have hstep : ∀ z, (if s_bit y (nI T) = true then (if v = (-1 : Int32) then D_X12_best_15 g (c_a C) (nI n) (some w) y μ (fun v => some v) fu (nI T) (nI (T + 1)) else x_b (D_X12_worth g (c_a C) (nI n) (some w) (nI T) μ) fun x31 => x_b (D_X12_worth g (c_a C) (nI n) (some w) v μ) fun x35 => if x35 ≤ x31 then D_X12_best_15 g (c_a C) (nI n) (some w) y μ (fun v => some v) fu v (nI (T + 1)) else D_X12_best_15 g (c_a C) (nI n) (some w) y μ (fun v => some v) fu (nI T) (nI (T + 1))) else D_X12_best_15 g (c_a C) (nI n) (some w) y μ (fun v => some v) fu v (nI (T + 1))) = z → D_X12_best_15 g (c_a C) (nI n) (some w) y μ (fun v => some v) (fu + 1) v (nI T) = z := by
        intro z hz
        rw [← hz]
        conv => lhs; unfold D_X12_best_15
        rw [x_grR h.ca rfl, x_oS, x_giS hp hk0, e0, if_neg (nI_ge hT (by omega)), x_has, x_bS]
        by_cases c1 : s_bit y (nI T) = true
        · rw [if_pos c1, if_neg (show ¬ (1 : Int32) = 0 by decide), if_pos c1, x_lS, nI_1, h.ob]
          by_cases c2 : v = (-1 : Int32)
          · rw [if_pos c2, if_pos c2]
          · rw [if_neg c2, if_neg c2]
            congr 1
            funext x31
            rw [h.ob]
            congr 1
        · rw [if_neg c1, if_pos rfl, if_neg c1, x_lS, nI_1]
      by_cases c1 : s_bit y (nI T) = true
      · have ht := (y2 T (by omega)).mp c1
        obtain ⟨cT, w1, w2⟩ := h.worth hn hq ht
        rcases hR with ⟨rfl, a2⟩ | ⟨t, c, rfl, a1, a0, a2, a3⟩
        · refine ⟨nI T, hstep _ (by rw [if_pos c1, if_pos rfl]), Or.inr ⟨T, cT, rfl, by omega, by omega, w2, fun t' c' q1 q2 => ?_⟩⟩
          by_cases et : t' = T
          · rw [et] at q2 ⊢
            exact Or.inr ⟨s_wth_un w2 q2, Nat.le_refl _⟩
          · exact absurd (s_wth_tgt q2) (a2 t' (by omega))
        · obtain ⟨c', w3, w4⟩ := h.worth hn hq (s_wth_tgt a2)
          have ec := s_wth_un a2 w4
          subst ec
          have cb := a2.1
          have cb2 := w2.1
          by_cases cc : c ≤ cT
          · refine ⟨nI t, hstep _ (by rw [if_pos c1, if_neg (oI_none (by omega)), w1, x_bS, w3, x_bS, if_pos (nI_le cc (by omega))]), Or.inr ⟨t, c, rfl, by omega, a0, a2, fun t' c' q1 q2 => ?_⟩⟩
            by_cases et : t' = T
            · rw [et] at q2 ⊢
              have := s_wth_un w2 q2
              omega
            · exact a3 t' c' (by omega) q2
          · refine ⟨nI T, hstep _ (by rw [if_pos c1, if_neg (oI_none (by omega)), w1, x_bS, w3, x_bS, if_neg (nI_ge (by omega) (by omega))]), Or.inr ⟨T, cT, rfl, by omega, by omega, w2, fun t' c' q1 q2 => ?_⟩⟩
            by_cases et : t' = T
            · rw [et] at q2 ⊢
              exact Or.inr ⟨s_wth_un w2 q2, Nat.le_refl _⟩
            · rcases a3 t' c' (by omega) q2 with q | ⟨q, q3⟩
              · exact Or.inl (by omega)
              · exact Or.inl (by omega)
      · have hnt : ¬ s_tgt (c_N C) (c_lk C) (g_down G) n name but T := fun q => c1 ((y2 T (by omega)).mpr q)
        refine ⟨v, hstep _ (by rw [if_neg c1]), ?_⟩
        rcases hR with ⟨rfl, a2⟩ | ⟨t, c, rfl, a1, a0, a2, a3⟩
        · refine Or.inl ⟨rfl, fun t' q => ?_⟩
          by_cases et : t' = T
          · rw [et]; exact hnt
          · exact a2 t' (by omega)
        · refine Or.inr ⟨t, c, rfl, by omega, a0, a2, fun t' c' q1 q2 => ?_⟩
          by_cases et : t' = T
          · rw [et] at q2; exact absurd (s_wth_tgt q2) hnt
          · exact a3 t' c' (by omega) q2)
    x_F 0 (-1 : Int32) () (Nat.zero_le _) (Or.inl ⟨rfl, fun t q => absurd q (Nat.not_lt_zero _)⟩) (by rw [x_Fv]; omega)
  have hD : D_X12_best g (c_a C) (nI n) (some w) but μ = D_X12_best_15 g (c_a C) (nI n) (some w) y μ (fun v => some v) x_F (-1) 0 := by
    unfold D_X12_best
    rw [h.ob, y1, x_bS]
  rw [hD]
  refine (show _ = some v from v1).trans ?_
  rcases v2 with ⟨rfl, a2⟩ | ⟨t, c, rfl, a1, a0, a2, a3⟩
  · rw [s_next_best (b := none) hN hms (Or.inl ⟨rfl, fun t ht q => a2 t (hlt t q) q⟩)]
    rfl
  · rw [s_next_best (b := some t) hN hms (Or.inr ⟨t, c, rfl, a0, a2, fun t' c' q1 q2 => a3 t' c' (hlt t' (s_wth_tgt q2)) q2⟩)]
    rfl
end T93
