/-! THE COMPONENT's LAW, 67: the call stored -/
set_option maxRecDepth 100000
set_option maxHeartbeats 400000
set_option linter.unusedVariables false
section T93
variable {g : z_G} {o o1 : Nat → Nat} {μ μ1 : z_M} {a s x tb v i : Nat} {S : Nat → Prop} {N R L : s_R} {p : s_P} {T : s_T} {n r m k node ix what : Int32} {cc : Nat → Nat → Int32}
theorem h_iv.stored (cc : Nat → Nat → Int32) (h : h_iv g o μ a T) : ∃ μ1, D_X0_stored g a n r k node ix what μ = some (q_stored T cc n r k node ix what, μ1) ∧ h_iv g (h_o9 o μ) μ1 a T ∧ h_u μ1 ≤ h_u μ + (q_kr T n r + 100) := by
  obtain ⟨o1, μ1, F, h1⟩ := h.goingOf (n := n) (r := r) (k := k) cc
  refine ⟨μ1, ?_, h.next F, by rcases h1 with ⟨-, -, hu⟩ | ⟨N, G, C, E, B, -, -, -, -, hg, -, hu⟩; exact Nat.le_trans hu (by omega); have := hg.cost; omega⟩
  unfold D_X0_stored q_stored
  rw [h.2.2.2.ob]
  rcases h1 with ⟨e1, e2, hu⟩ | ⟨N, G, C, E, B, e1, e2, hN, ⟨p1, p2⟩, hg, hd, hu⟩
  · rw [e1, e2]
    rfl
  · subst p1
    rw [e1, e2, x_b2S, x_nuS, x_grR hg.ca rfl, x_oS, hg.nt.ob, hg.nt.isNode hN, x_bS]
    show _ = some ((match s_node (c_N C) node with
      | none => (-1 : Int32)
      | some b => match s_ix ix (g_ds G b).length with
        | none => (-1 : Int32)
        | some j => match (g_ds G b)[j]? with
          | none => (-1 : Int32)
          | some d => q_dataOf d what), μ1)
    cases en : s_node (c_N C) node with
    | none => exact if_pos rfl
    | some b =>
      show _ = some ((match s_ix ix (g_ds G b).length with
        | none => (-1 : Int32)
        | some j => match (g_ds G b)[j]? with
          | none => (-1 : Int32)
          | some d => q_dataOf d what), μ1)
      obtain ⟨b1, b2, b3⟩ := s_node_lt hN en
      obtain ⟨q, hq⟩ := hg.nodeAt b2
      obtain ⟨ce, ⟨-, sl, el, ml, ds, f, c1, ⟨c2, c3⟩, -⟩⟩ := hg.node0 hq
      have hlen : ds.length = (g_ds G b).length := c3.1
      have hds5 : (g_ds G b).length < 2 ^ 31 := by
        have := c2.2.1
        omega
      rw [if_neg (show ¬ (if (some b).isSome = true then (1 : Int32) else 0) = 0 from fun q => absurd (show (1 : Int32) = 0 from q) (by decide)), b3, hg.getNode hq, x_oS, x_lsz c1 rfl c2, hlen, s_ixD hds5, x_bS]
      cases ej : s_ix ix (g_ds G b).length with
      | none => exact if_pos rfl
      | some j =>
        obtain ⟨j1, j2⟩ := s_ix_nI ej
        have e9 : D_X0_isIn what 0 2 = some (if (s_ix what 3).isSome = true then 1 else 0) := s_ixD (v := 3) (by omega)
        have hget : (g_ds G b)[j]? = some (g_ds G b)[j] := List.getElem?_eq_getElem j2
        show _ = some ((match (g_ds G b)[j]? with
          | none => (-1 : Int32)
          | some d => q_dataOf d what), μ1)
        rw [hget]
        generalize hdd : (g_ds G b)[j] = d at hget
        show _ = some (q_dataOf d what, μ1)
        rw [if_neg (show ¬ (if (some j).isSome = true then (1 : Int32) else 0) = 0 from fun q => absurd (show (1 : Int32) = 0 from q) (by decide)), e9, x_bS]
        obtain ⟨y, hy, hdt⟩ := c3.get hget
        obtain ⟨y0, ywn, qn, yc, hnm⟩ := hdt
        have hAy : z_isA g μ1 y "AskedNames$Data" := Or.inl ⟨16, _, _, _, yc, rfl⟩
        cases ew : s_ix what 3 with
        | none =>
          refine (if_pos rfl).trans ?_
          have ne : ∀ w : Nat, w < 3 → ¬ what = nI w := fun w hw e => by
            unfold s_ix at ew
            rw [e, v_nI (by omega), if_pos ⟨Int32.not_lt.mp (nI_pos (by omega)), hw⟩] at ew
            cases ew
          unfold q_dataOf
          rw [if_neg (show ¬ what = 0 from ne 0 (by omega)), if_neg (show ¬ what = 1 from ne 1 (by omega)), if_neg (show ¬ what = 2 from ne 2 (by omega))]
        | some w =>
          obtain ⟨w1, w2⟩ := s_ix_nI ew
          rw [if_neg (show ¬ (if (some w).isSome = true then (1 : Int32) else 0) = 0 from fun q => absurd (show (1 : Int32) = 0 from q) (by decide)), hg.getNode hq, x_oS, j1, x_lgt c1 rfl c2 hy hAy, w1]
          have hc : w = 0 ∨ w = 1 ∨ w = 2 := by omega
          rcases hc with rfl | rfl | rfl
          · rw [if_pos (show nI 0 = 0 from rfl), x_oS, x_grS (o := some qn) yc rfl, hnm.code hg.wf hg.ok, x_bS]
            have e7 : nI (v_ d.1) = d.1 := ywn.1.symm
            rw [e7]
            rfl
          · rw [if_neg (show ¬ nI 1 = 0 by decide), if_pos (show nI 1 = 1 from rfl), x_oS, x_giS yc rfl]
            rfl
          · rw [if_neg (show ¬ nI 2 = 0 by decide), if_neg (show ¬ nI 2 = 1 by decide), x_oS, x_giS yc rfl]
            rfl
end T93
