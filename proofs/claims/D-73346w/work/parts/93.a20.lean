/-! THE COMPONENT's LAW, 20: the best way, as the component finds it -/
set_option maxRecDepth 100000
set_option linter.unusedVariables false
theorem x_has (s k : Int32) : D_X0_has s k = some (if s_bit s k = true then 1 else 0) := by
  unfold D_X0_has s_bit
  by_cases c : (s >>> (k &&& 31)) &&& 1 = 1
  · rw [if_pos c, if_pos (decide_eq_true c)]
  · rw [if_neg c, if_neg (fun q => c (of_decide_eq_true q))]
theorem s_wth_un {N : s_R} {lk : Nat → Option Nat} {down but : Int32} {ms : Nat → Int32} {n name t c c' : Nat} (h : s_wth N lk down ms n name but t c) (h' : s_wth N lk down ms n name but t c') : c = c' := by
  obtain ⟨a1, ⟨k, a2, a3, a4, a5⟩, a6⟩ := h
  obtain ⟨b1, ⟨k', b2, b3, b4, b5⟩, b6⟩ := h'
  have h1 := a6 k' c' b2 b3 b4 b1 b5
  have h2 := b6 k c a2 a3 a4 a1 a5
  omega
theorem s_wth_tgt {N : s_R} {lk : Nat → Option Nat} {down but : Int32} {ms : Nat → Int32} {n name t c : Nat} (h : s_wth N lk down ms n name but t c) : s_tgt N lk down n name but t := by
  obtain ⟨a1, ⟨k, a2, a3, a4, a5⟩, a6⟩ := h
  exact ⟨k, a2, a3, a4⟩
section T93
variable {g : z_G} {C : h_C} {o o1 : Nat → Nat} {μ μ1 : z_M} {E : Nat → List Nat} {B b p n q k w a0 t l x ce room i name : Nat} {G G' : s_G} {S : Nat → Prop} {N : s_R} {xs es : List Nat} {nd : s_N} {ms : Nat → Int32} {but : Int32}
theorem n_rt_n (hN : n_ok N) (hk : k < n_routes N) : n_rn N k < n_nodes N ∧ n_rt N k < n_nodes N ∧ n_rn N k ≠ n_rt N k := by
  have h1 := hN.1.2
  have h0 := (hN.2.2.2.2.2.2.2.2.1 k hk)
  obtain ⟨⟨-, a⟩, -, ⟨-, b⟩, -, c⟩ := h0
  have e1 : v_ (N (56 + 4 * k)) = n_rn N k := rfl
  have e2 : v_ (N (56 + 4 * k + 2)) = n_rt N k := rfl
  exact ⟨by omega, by omega, c⟩
/-- the routes of the run's net -/
theorem h_go.routes (h : h_go g C o μ E B G) : ∃ fs rl nr, μ.1 (c_p C) = some (.inr (5, fs)) ∧ fs[5]? = some (.ref rl) ∧ fs[0]? = some (.int (c_N C 0)) ∧ h_ls g o μ 0 rl nr (c_rs C) ∧ (c_rs C).length = n_routes (c_N C) ∧ ∀ k x, (c_rs C)[k]? = some x → h_rt o μ x (n_rn (c_N C) k) (nI (n_rt (c_N C) k)) (n_rc (c_N C) k) (n_rw (c_N C) k) := by
  obtain ⟨h0, rm, ll, rl, sl, nl, nr, ns, fr, f, hp, -, -, -, ⟨r1, r2, r3⟩, -⟩ := h.nt
  exact ⟨_, rl, nr, hp, rfl, rfl, r1, r2, r3⟩
/-- the nodes that a name can go to -/
theorem h_go.ways (h : h_go g C o μ E B G) (hn : n < n_nodes (c_N C)) (hq : h_nm o μ w name) : ∃ x, D_X12_ways g (c_a C) (nI n) (some w) but μ = some x ∧ ∀ t, t < 6 → (s_bit x (nI t) = true ↔ s_tgt (c_N C) (c_lk C) (g_down G) n name but t) := by
  have hN := h.hN
  have h6 : n_nodes (c_N C) ≤ 6 := hN.1.1.2
  obtain ⟨fs, rl, nr, hp, hk5, hk0, r1, r2, r3⟩ := h.routes
  have h3 : n_routes (c_N C) ≤ 12 := hN.2.2.2.1.2
  have hI : z_isA g μ w "java/lang/String" := hq.isA h.wf
  have h7 := s_longest7 hN n name
  have hD : D_X12_ways g (c_a C) (nI n) (some w) but μ = D_X12_ways_17 g (c_a C) (nI n) (some w) but (nI (s_longest (c_N C) n name)) μ (fun v => some v) x_F 0 0 := by
    unfold D_X12_ways
    rw [x_grR h.ca rfl, x_oS, h.nt.ob, h.nt.longest hN hq h.wf h.ok (by omega), x_bS]
  by_cases h0 : s_longest (c_N C) n name = 0
  · refine ⟨0, ?_, fun t ht => ?_⟩
    · rw [hD]
      unfold x_F
      conv => lhs; unfold D_X12_ways_17
      rw [x_grR h.ca rfl, x_oS, x_lsz hp hk5 r1, r2]
      by_cases c : nI (n_routes (c_N C)) ≤ 0
      · rw [if_pos c]
      · rw [if_neg c, h0, if_pos (by decide)]
    · rw [s_bit_0 (by omega)]
      refine ⟨(fun q => by cases q), fun ⟨k, k1, k2, _⟩ => ?_⟩
      have hx := k2.2.1
      obtain ⟨x, hx'⟩ := h_at r2 k1
      obtain ⟨-, w', -, hwn⟩ := r3 k x hx'
      have := (s_len_vn hwn.1).1
      omega
  obtain ⟨x, e1, e2⟩ := x_forS (γ := Int32) (δ := Unit) (β := Option Int32)
    (R := fun k x _ => ∀ t, t < 6 → (s_bit x (nI t) = true ↔ ∃ k', k' < k ∧ s_elig (c_N C) (c_lk C) (g_down G) n name but k' ∧ n_rt (c_N C) k' = t))
    (L := fun fu k x => D_X12_ways_17 g (c_a C) (nI n) (some w) but (nI (s_longest (c_N C) n name)) μ (fun v => some v) fu x (nI k))
    (K := fun x => some x) (st := fun _ d => d) (n := n_routes (c_N C))
    (fun fu x _ _ => by
      show D_X12_ways_17 _ _ _ _ _ _ _ _ (fu + 1) _ _ = _
      unfold D_X12_ways_17
      rw [x_grR h.ca rfl, x_oS, x_lsz hp hk5 r1, r2, if_pos (Int32.le_refl _)])
    (fun fu k v _ hR hk => by
      obtain ⟨x, hx⟩ := h_at r2 hk
      have hr := r3 k x hx
      have hA : z_isA g μ x "AskedNames$Route" := hr.isA
      obtain ⟨b1, -, -, -, -, b6, b7, b8, -⟩ := n_rt_b hN hk
      obtain ⟨nr1, nr2, nr3⟩ := n_rt_n hN hk
      obtain ⟨x0, w', hc, hwn⟩ := hr
      have h4 := s_len_vn hwn.1
      have hIw : z_isA g μ w' "java/lang/String" := hwn.isA h.wf
      have hno : ¬ s_elig (c_N C) (c_lk C) (g_down G) n name but k → ∀ t, t < 6 → (s_bit v (nI t) = true ↔ ∃ k', k' < k + 1 ∧ s_elig (c_N C) (c_lk C) (g_down G) n name but k' ∧ n_rt (c_N C) k' = t) := fun hne t ht => by
        rw [hR t ht]
        constructor
        · rintro ⟨k', a1, a2, a3⟩
          exact ⟨k', by omega, a2, a3⟩
        · rintro ⟨k', a1, a2, a3⟩
          by_cases ek : k' = k
          · rw [ek] at a2; exact absurd a2 hne
          · exact ⟨k', by omega, a2, a3⟩
      have hstep : D_X12_ways_17 g (c_a C) (nI n) (some w) but (nI (s_longest (c_N C) n name)) μ (fun v => some v) (fu + 1) v (nI k) = (if nI (n_rn (c_N C) k) = nI n then (if nI (s_len (n_rw (c_N C) k)) = nI (s_longest (c_N C) n name) then (if s_pre (n_rw (c_N C) k) name = true then (if s_up (c_lk C) (g_down G) n (n_rt (c_N C) k) = true then (if s_bit but (nI (n_rt (c_N C) k)) = true then D_X12_ways_17 g (c_a C) (nI n) (some w) but (nI (s_longest (c_N C) n name)) μ (fun v => some v) fu v (nI (k + 1)) else D_X12_ways_17 g (c_a C) (nI n) (some w) but (nI (s_longest (c_N C) n name)) μ (fun v => some v) fu (v ||| ((1 : Int32) <<< (nI (n_rt (c_N C) k) &&& 31))) (nI (k + 1))) else D_X12_ways_17 g (c_a C) (nI n) (some w) but (nI (s_longest (c_N C) n name)) μ (fun v => some v) fu v (nI (k + 1))) else D_X12_ways_17 g (c_a C) (nI n) (some w) but (nI (s_longest (c_N C) n name)) μ (fun v => some v) fu v (nI (k + 1))) else D_X12_ways_17 g (c_a C) (nI n) (some w) but (nI (s_longest (c_N C) n name)) μ (fun v => some v) fu v (nI (k + 1))) else D_X12_ways_17 g (c_a C) (nI n) (some w) but (nI (s_longest (c_N C) n name)) μ (fun v => some v) fu v (nI (k + 1))) := by
        conv => lhs; unfold D_X12_ways_17
        rw [x_grR h.ca rfl, x_oS, x_lsz hp hk5 r1, r2, if_neg (nI_ge hk (by omega)), if_neg (nI_nle (by omega) (by omega)), x_grR h.ca rfl, x_oS, x_lgt hp hk5 r1 hx hA, x_oS, x_giS hc rfl]
        by_cases c1 : nI (n_rn (c_N C) k) = nI n
        · rw [if_pos c1, if_pos c1, x_grR hc rfl, x_oS, x_gpI hIw, hwn.len h.wf h.ok, x_bS]
          by_cases c2 : nI (s_len (n_rw (c_N C) k)) = nI (s_longest (c_N C) n name)
          · rw [if_pos c2, if_pos c2, x_grR hc rfl, x_oS, x_gpI hI, hq.starts hwn h.wf h.ok, x_bS]
            by_cases c3 : s_pre (n_rw (c_N C) k) name = true
            · rw [if_pos c3, if_neg (show ¬ (1 : Int32) = 0 by decide), if_pos c3, x_giS hc rfl, h.ob, h.isUp, x_bS, s_node_nI hN hn, s_node_nI hN nr2]
              show (if (if s_up (c_lk C) (g_down G) n (n_rt (c_N C) k) = true then (1 : Int32) else 0) = 0 then _ else _) = _
              by_cases c4 : s_up (c_lk C) (g_down G) n (n_rt (c_N C) k) = true
              · rw [if_pos c4, if_neg (show ¬ (1 : Int32) = 0 by decide), if_pos c4, x_giS hc rfl, x_has, x_bS]
                by_cases c5 : s_bit but (nI (n_rt (c_N C) k)) = true
                · rw [if_pos c5, if_neg (show ¬ (1 : Int32) = 0 by decide), if_pos c5, x_lS, nI_1]
                · rw [if_neg c5, if_pos rfl, if_neg c5, x_giS hc rfl, x_lS, x_lS, nI_1]
              · rw [if_neg c4, if_pos rfl, if_neg c4, x_lS, nI_1]
            · rw [if_neg c3, if_pos rfl, if_neg c3, x_lS, nI_1]
          · rw [if_neg c2, if_neg c2, x_lS, nI_1]
        · rw [if_neg c1, if_neg c1, x_lS, nI_1]
      have hel : s_elig (c_N C) (c_lk C) (g_down G) n name but k ↔ (nI (n_rn (c_N C) k) = nI n ∧ nI (s_len (n_rw (c_N C) k)) = nI (s_longest (c_N C) n name) ∧ s_pre (n_rw (c_N C) k) name = true ∧ s_up (c_lk C) (g_down G) n (n_rt (c_N C) k) = true ∧ ¬ s_bit but (nI (n_rt (c_N C) k)) = true) := by
        rw [nI_eq (by omega) (by omega), nI_eq (by omega) (by omega)]
        unfold s_elig s_bit
        rw [decide_eq_true_iff]
      by_cases hc : s_elig (c_N C) (c_lk C) (g_down G) n name but k
      · obtain ⟨c1, c2, c3, c4, c5⟩ := hel.mp hc
        refine ⟨v ||| ((1 : Int32) <<< (nI (n_rt (c_N C) k) &&& 31)), ?_, fun t ht => ?_⟩
        · refine hstep.trans ?_
          rw [if_pos c1, if_pos c2, if_pos c3, if_pos c4, if_neg c5]
        · rw [s_bit_or _ _ (by omega), s_bit_1 (by omega) (by omega), Bool.or_eq_true, hR t ht, decide_eq_true_iff]
          constructor
          · rintro (⟨k', a1, a2, a3⟩ | a)
            · exact ⟨k', by omega, a2, a3⟩
            · exact ⟨k, by omega, hc, a.symm⟩
          · rintro ⟨k', a1, a2, a3⟩
            by_cases ek : k' = k
            · rw [ek] at a3; exact Or.inr a3.symm
            · exact Or.inl ⟨k', by omega, a2, a3⟩
      · refine ⟨v, ?_, hno hc⟩
        refine hstep.trans ?_
        by_cases c1 : nI (n_rn (c_N C) k) = nI n
        · rw [if_pos c1]
          by_cases c2 : nI (s_len (n_rw (c_N C) k)) = nI (s_longest (c_N C) n name)
          · rw [if_pos c2]
            by_cases c3 : s_pre (n_rw (c_N C) k) name = true
            · rw [if_pos c3]
              by_cases c4 : s_up (c_lk C) (g_down G) n (n_rt (c_N C) k) = true
              · rw [if_pos c4]
                by_cases c5 : s_bit but (nI (n_rt (c_N C) k)) = true
                · rw [if_pos c5]
                · exact absurd (hel.mpr ⟨c1, c2, c3, c4, c5⟩) hc
              · rw [if_neg c4]
            · rw [if_neg c3]
          · rw [if_neg c2]
        · rw [if_neg c1])
    x_F 0 0 () (Nat.zero_le _) (fun t ht => by
      rw [s_bit_0 (by omega)]
      exact ⟨(fun q => by cases q), fun ⟨k', a1, _⟩ => absurd a1 (Nat.not_lt_zero _)⟩) (by rw [x_Fv]; omega)
  refine ⟨x, ?_, fun t ht => ?_⟩
  · rw [hD]
    exact e1
  · exact e2 t ht
end T93
