/-! THE COMPONENT's LAW, 74: the call ways -/
set_option maxRecDepth 100000
set_option maxHeartbeats 400000
set_option linter.unusedVariables false
section T93
variable {g : z_G} {C : h_C} {o o1 o2 : Nat → Nat} {μ μ1 μ2 : z_M} {E : Nat → List Nat} {a s x tb v i K q B w name nn : Nat} {S : Nat → Prop} {N R L : s_R} {p : s_P} {T : s_T} {G : s_G} {n r m k node ix what c letters : Int32} {cc : Nat → Nat → Int32}
/-- the ways of a name, as a number -/
theorem h_go.waysN (h : h_go g C o μ E B G) (hn : nn < n_nodes (c_N C)) (hq : h_nm o μ w name) (h0d : g_down G = 0) : D_X12_ways g (c_a C) (nI nn) (some w) 0 μ = some (s_ways (c_N C) (c_lk C) nn name) := by
  have hN := h.hN
  have h6 : n_nodes (c_N C) ≤ 6 := hN.1.1.2
  obtain ⟨fs, rl, nr, hp, hk5, hk0, r1, r2, r3⟩ := h.routes
  have h3 : n_routes (c_N C) ≤ 12 := hN.2.2.2.1.2
  have hI : z_isA g μ w "java/lang/String" := hq.isA h.wf
  have h7 := s_longest7 hN nn name
  have hD : D_X12_ways g (c_a C) (nI nn) (some w) 0 μ = D_X12_ways_17 g (c_a C) (nI nn) (some w) 0 (nI (s_longest (c_N C) nn name)) μ (fun v => some v) x_F 0 0 := by
    unfold D_X12_ways
    rw [x_grR h.ca rfl, x_oS, h.nt.ob, h.nt.longest hN hq h.wf h.ok (by omega), x_bS]
  rw [hD]
  by_cases h0 : s_longest (c_N C) nn name = 0
  · have e0 : s_ways (c_N C) (c_lk C) nn name = 0 := by
      unfold s_ways
      refine s_foldP (fun _ (x : Int32) => x = 0) _ (n_routes (c_N C)) (fun x k hx _ => ?_) (n_routes (c_N C)) 0 0 rfl (by omega)
      show (if _ then _ else x) = 0
      rw [if_neg (fun q => by have := q.1; omega)]
      exact hx
    rw [e0]
    unfold x_F
    conv => lhs; unfold D_X12_ways_17
    rw [x_grR h.ca rfl, x_oS, x_lsz hp hk5 r1, r2]
    by_cases c : nI (n_routes (c_N C)) ≤ 0
    · rw [if_pos c]
    · rw [if_neg c, h0, if_pos (by decide)]
  obtain ⟨x, e1, e2⟩ := x_forS (γ := Int32) (δ := Int32) (β := Option Int32)
    (R := fun _ x d => x = d)
    (L := fun fu k x => D_X12_ways_17 g (c_a C) (nI nn) (some w) 0 (nI (s_longest (c_N C) nn name)) μ (fun v => some v) fu x (nI k))
    (K := fun x => some x) (st := fun k x => if 0 < s_longest (c_N C) nn name ∧ n_rn (c_N C) k = nn ∧ s_len (n_rw (c_N C) k) = s_longest (c_N C) nn name ∧ s_pre (n_rw (c_N C) k) name = true ∧ s_up (c_lk C) 0 nn (n_rt (c_N C) k) = true then x ||| ((1 : Int32) <<< (nI (n_rt (c_N C) k) &&& 31)) else x) (n := n_routes (c_N C))
    (fun fu x _ _ => by
      show D_X12_ways_17 _ _ _ _ _ _ _ _ (fu + 1) _ _ = _
      unfold D_X12_ways_17
      rw [x_grR h.ca rfl, x_oS, x_lsz hp hk5 r1, r2, if_pos (Int32.le_refl _)])
    (fun fu k v d hR hk => by
      subst hR
      obtain ⟨x, hx⟩ := h_at r2 hk
      have hr := r3 k x hx
      have hA : z_isA g μ x "AskedNames$Route" := hr.isA
      obtain ⟨b1, -, -, -, -, b6, b7, b8, -⟩ := n_rt_b hN hk
      obtain ⟨nr1, nr2, nr3⟩ := n_rt_n hN hk
      obtain ⟨x0, w', hc, hwn⟩ := hr
      have h4 := s_len_vn hwn.1
      have hIw : z_isA g μ w' "java/lang/String" := hwn.isA h.wf
      have hst : D_X12_ways_17 g (c_a C) (nI nn) (some w) 0 (nI (s_longest (c_N C) nn name)) μ (fun v => some v) (fu + 1) v (nI k) = D_X12_ways_17 g (c_a C) (nI nn) (some w) 0 (nI (s_longest (c_N C) nn name)) μ (fun v => some v) fu (if n_rn (c_N C) k = nn ∧ s_len (n_rw (c_N C) k) = s_longest (c_N C) nn name ∧ s_pre (n_rw (c_N C) k) name = true ∧ s_up (c_lk C) 0 nn (n_rt (c_N C) k) = true then v ||| ((1 : Int32) <<< (nI (n_rt (c_N C) k) &&& 31)) else v) (nI (k + 1)) := by
        conv => lhs; unfold D_X12_ways_17
        rw [x_grR h.ca rfl, x_oS, x_lsz hp hk5 r1, r2, if_neg (nI_ge hk (by omega)), if_neg (nI_nle (by omega) (by omega)), x_grR h.ca rfl, x_oS, x_lgt hp hk5 r1 hx hA, x_oS, x_giS hc rfl]
        by_cases c1 : n_rn (c_N C) k = nn
        · rw [if_pos (show nI (n_rn (c_N C) k) = nI nn by rw [c1]), x_grR hc rfl, x_oS, x_gpI hIw, hwn.len h.wf h.ok, x_bS]
          by_cases c2 : s_len (n_rw (c_N C) k) = s_longest (c_N C) nn name
          · rw [if_pos (show nI (s_len (n_rw (c_N C) k)) = nI (s_longest (c_N C) nn name) by rw [c2]), x_grR hc rfl, x_oS, x_gpI hI, hq.starts hwn h.wf h.ok, x_bS]
            by_cases c3 : s_pre (n_rw (c_N C) k) name = true
            · rw [if_pos c3, if_neg (show ¬ (1 : Int32) = 0 by decide), x_giS hc rfl, h.ob, h.isUp, x_bS, s_node_nI hN hn, s_node_nI hN nr2, h0d]
              show (if (if s_up (c_lk C) 0 nn (n_rt (c_N C) k) = true then (1 : Int32) else 0) = 0 then _ else _) = _
              by_cases c4 : s_up (c_lk C) 0 nn (n_rt (c_N C) k) = true
              · rw [if_pos c4, if_neg (show ¬ (1 : Int32) = 0 by decide), x_giS hc rfl, x_has, x_bS, s_bit_0 (by omega), if_neg (show ¬ false = true by decide), if_pos rfl, x_giS hc rfl, x_lS, x_lS, nI_1, if_pos (show _ ∧ _ ∧ _ ∧ _ from ⟨c1, c2, c3, c4⟩)]
              · rw [if_neg c4, if_pos rfl, x_lS, nI_1, if_neg (fun q => c4 q.2.2.2)]
            · rw [if_neg c3, if_pos rfl, x_lS, nI_1, if_neg (fun q => c3 q.2.2.1)]
          · rw [if_neg (fun q => c2 ((nI_eq (by omega) (by omega)).mp q)), x_lS, nI_1, if_neg (fun q => c2 q.2.1)]
        · rw [if_neg (fun q => c1 ((nI_eq (by omega) (by omega)).mp q)), x_lS, nI_1, if_neg (fun q => c1 q.1)]
      refine ⟨_, hst, ?_⟩
      have hpos : 0 < s_longest (c_N C) nn name := by omega
      show (if _ then _ else v) = (if 0 < s_longest (c_N C) nn name ∧ _ then _ else v)
      by_cases c : n_rn (c_N C) k = nn ∧ s_len (n_rw (c_N C) k) = s_longest (c_N C) nn name ∧ s_pre (n_rw (c_N C) k) name = true ∧ s_up (c_lk C) 0 nn (n_rt (c_N C) k) = true
      · rw [if_pos c, if_pos ⟨hpos, c⟩]
      · rw [if_neg c, if_neg (fun q => c q.2)])
    x_F 0 0 0 (by omega) rfl (by rw [x_Fv]; omega)
  have e1' : D_X12_ways_17 g (c_a C) (nI nn) (some w) 0 (nI (s_longest (c_N C) nn name)) μ (fun v => some v) x_F 0 0 = some x := e1
  rw [e1', e2]
  rfl
theorem h_iv.ways (cc : Nat → Nat → Int32) (h : h_iv g o μ a T) : ∃ μ1, D_X0_ways g a n node c letters μ = some (q_ways T n node c letters, μ1) ∧ h_iv g (h_o9 o μ) μ1 a T ∧ h_u μ1 ≤ h_u μ + 8000 := by
  have hrefl : h_iv g (h_o9 o μ) μ a T := h.next (h_fr.refl h.2.1)
  unfold D_X0_ways q_ways
  by_cases c1 : s_nm c = true
  · obtain ⟨p9, μ3, e1, h1, hq, hu3, hle⟩ := h.name c1
    rw [e1, x_b2S, h1.2.2.2.ob, h1.isNode, x_bS]
    have h9 : h_o9 (h_o9 o μ) μ3 = h_o9 o μ := h_o9_o9 hle
    cases en : s_row (u_nets T.1) n with
    | none => exact ⟨μ3, if_pos rfl, h1, by omega⟩
    | some N =>
      have hN := h.nets en
      show ∃ μ1, (if (if (s_node N node).isSome = true then (1 : Int32) else 0) = 0 then _ else _) = some ((match s_node N node with
        | none => (-1 : Int32)
        | some b => if s_nm c = true then (if letters = 0 then s_ways N (s_lk0 N none) b (v_ c) else nI (s_longest N b (v_ c))) else -1), μ1) ∧ _
      cases eb : s_node N node with
      | none => exact ⟨μ3, if_pos rfl, h1, by omega⟩
      | some b =>
        obtain ⟨b1, b2, b3⟩ := s_node_lt hN eb
        rw [if_neg (show ¬ (if (some b).isSome = true then (1 : Int32) else 0) = 0 from fun q => absurd (show (1 : Int32) = 0 from q) (by decide)), x_nuS]
        show ∃ μ1, _ = some ((if s_nm c = true then (if letters = 0 then s_ways N (s_lk0 N none) b (v_ c) else nI (s_longest N b (v_ c))) else (-1 : Int32)), μ1) ∧ _
        rw [if_pos c1]
        by_cases cl : letters = 0
        · rw [if_pos cl, if_pos cl]
          obtain ⟨o4, μ4, C, e4, ⟨d1, d2, d3, d4⟩, hg4, F4⟩ := h1.newG (K := 1) cc en (by omega)
          have hq4 := hq.fr F4 h1.2.1 (fun _ _ q => q)
          subst d1
          refine ⟨μ4, ?_, ?_, ?_⟩
          · rw [e4, hg4.ob, b3, hg4.waysN b2 hq4 rfl, x_bS, d2]
          · rw [← h9]
            exact h1.next (F4.mono (fun _ _ q => q.elim))
          · have u4 := hg4.cost
            have r12 := n_routes12 hg4.hN
            have kr := k_rooms_le (N := c_N C) (D := 1) d3 d4
            omega
        · rw [if_neg cl, if_neg cl]
          obtain ⟨xn, e4, dd, ls, rs, ss, hnt⟩ := h1.2.2.2.netOf en
          refine ⟨μ3, ?_, h1, by omega⟩
          rw [h1.2.2.2.ob, e4, x_bS, x_oS, hnt.ob, b3, hnt.longest hN hq h1.2.1 h1.1 b1, x_bS]
  · have e1 : D_X0_name g c μ = some (none, μ) := h_nameN (by cases q : s_nm c; rfl; exact absurd q c1)
    rw [e1, x_b2S, h.2.2.2.ob, h.isNode, x_bS]
    refine ⟨μ, ?_, hrefl, by omega⟩
    cases en : s_row (u_nets T.1) n with
    | none => exact if_pos rfl
    | some N =>
      show (if (if (s_node N node).isSome = true then (1 : Int32) else 0) = 0 then _ else _) = some ((match s_node N node with
        | none => (-1 : Int32)
        | some b => if s_nm c = true then _ else -1), μ)
      cases eb : s_node N node with
      | none => exact if_pos rfl
      | some b =>
        show _ = some ((if s_nm c = true then _ else (-1 : Int32)), μ)
        rw [if_neg (show ¬ (if (some b).isSome = true then (1 : Int32) else 0) = 0 from fun q => absurd (show (1 : Int32) = 0 from q) (by decide)), x_nuN, if_neg c1]
end T93
