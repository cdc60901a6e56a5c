/-! THE COMPONENT's LAW, 65: the calls stop, fact -/
set_option maxRecDepth 100000
set_option maxHeartbeats 400000
set_option linter.unusedVariables false
section T93
variable {g : z_G} {o o1 : Nat → Nat} {μ μ1 : z_M} {a s x tb v : Nat} {S : Nat → Prop} {N R L : s_R} {p : s_P} {T : s_T} {n r m k what : Int32} {cc : Nat → Nat → Int32}
theorem h_iv.stop (cc : Nat → Nat → Int32) (h : h_iv g o μ a T) : ∃ μ1, D_X0_stop g a n r μ = some (q_stop T cc n r, μ1) ∧ h_iv g (h_o9 o μ) μ1 a T ∧ h_u μ1 ≤ h_u μ + (q_kr T n r + 100) := by
  have hw := h.2.1
  have hwo := h.2.2.2
  unfold D_X0_stop q_stop
  rw [hwo.ob, hwo.is0, x_bS]
  cases en : s_row (u_nets T.1) n with
  | none =>
    refine ⟨μ, ?_, h.next (h_fr.refl hw), by omega⟩
    rw [if_pos rfl]
    cases s_row (u_runs T.1) r <;> rfl
  | some N =>
    rw [if_neg (show ¬ (1 : Int32) = 0 by decide), hwo.ob, hwo.is1, x_bS]
    cases er : s_row (u_runs T.1) r with
    | none => exact ⟨μ, if_pos rfl, h.next (h_fr.refl hw), by omega⟩
    | some R =>
      have hR := h.runs er
      have hc40 : r_cnt R ≤ 40 := hR.1.2
      rw [if_neg (show ¬ (1 : Int32) = 0 by decide), hwo.ob]
      obtain ⟨o1, μ1, C, E, rr, ak, eD, ⟨p1, p2, p3⟩, h1, F⟩ := h.runOf cc en er (v := 40) (by omega)
      have em : min 40 (r_cnt R) = r_cnt R := by omega
      rw [em] at h1 p3
      obtain ⟨r0, rc⟩ := h1.2.1
      have eD' : D_X0_runOf g a n r 40 μ = some (some rr, μ1) := eD
      refine ⟨μ1, ?_, h.next F, by have := h1.1.cost; rw [q_kr_eq en er]; omega⟩
      rw [eD', x_b2S, x_oS, x_giS rc rfl]
theorem h_lo.isA (h : h_lo g o μ x L) : z_isA g μ x "java/util/ArrayList" := by
  obtain ⟨cap, xs, h1, -⟩ := h
  exact h1.isL
theorem h_p2.isA {u v : Int32} (h : h_p2 o μ x u v) : z_isA g μ x "[I" := by
  obtain ⟨-, f, h1, -⟩ := h
  exact Or.inr (Or.inl ⟨0, _, h1, by omega, rfl⟩)
/-- a small number or not -/
theorem s_ixD (hn : v < 2 ^ 31) : D_X0_isIn k 0 (nI v - (1 : Int32)) = some (if (s_ix k v).isSome = true then 1 else 0) := by
  rw [x_isInN hn]
  unfold s_ix
  by_cases c : 0 ≤ k ∧ v_ k < v
  · rw [if_pos c, if_pos c]; rfl
  · rw [if_neg c, if_neg c]; rfl
theorem h_wo.fact (h : h_wo g o μ a T) : D_X0_fact g a n k what μ = some (q_fact T n k what) := by
  unfold D_X0_fact q_fact
  rw [h.ob, h.is2, x_bS]
  cases el : s_row (u_logs T.1) n with
  | none => exact if_pos rfl
  | some L =>
    obtain ⟨s, fs, h1, h2, hu, -, tp, nl, rl, ll, cn, cr, cl, f, ns, rs, ls, c1, -, -, -, ⟨-, -, n2, n3⟩⟩ := h.now
    obtain ⟨e1, e2, e3⟩ := s_row_some el
    have hL : l_ok L := hu.2.2.2.2.2.2.1 L e3
    obtain ⟨x, hx, hlo⟩ := n3.get e2
    have hA : z_isA g μ x "java/util/ArrayList" := hlo.isA
    obtain ⟨cap, xs, q1, q2, q3⟩ := hlo
    rw [if_neg (show ¬ (1 : Int32) = 0 by decide), x_grR h1 h2, x_oS, e1, x_lgt c1 rfl n2 hx hA]
    show _ = some (if k = -1 then (if what = 0 then L 0 else -2) else match s_ix k (l_cnt L), s_ix what 2 with
      | some j, some w => L (1 + 2 * j + w)
      | _, _ => -2)
    have h8 : l_cnt L ≤ 8 := hL.1.2
    by_cases ck : k = -1
    · rw [if_pos ck, if_pos ck]
      by_cases cw : what = 0
      · rw [if_pos cw, if_pos cw, x_oS, q1.obK, q1.size, x_bS, q2, hL.1.1]
      · rw [if_neg cw, if_neg cw]
    · have e9 : D_X0_isIn what 0 1 = some (if (s_ix what 2).isSome = true then 1 else 0) := s_ixD (v := 2) (by omega)
      rw [if_neg ck, if_neg ck, x_oS, q1.obK, q1.size, x_bS, q2, s_ixD (by omega), x_bS]
      cases ej : s_ix k (l_cnt L) with
      | none => exact if_pos rfl
      | some j =>
        rw [if_neg (show ¬ (if (some j).isSome = true then (1 : Int32) else 0) = 0 from fun q => absurd (show (1 : Int32) = 0 from q) (by decide)), e9, x_bS]
        cases ew : s_ix what 2 with
        | none => exact if_pos rfl
        | some w =>
          rw [if_neg (show ¬ (if (some w).isSome = true then (1 : Int32) else 0) = 0 from fun q => absurd (show (1 : Int32) = 0 from q) (by decide))]
          have hix : ∀ {i : Int32} {m b : Nat}, s_ix i m = some b → i = nI b ∧ b < m := by
            intro i m b e
            unfold s_ix at e
            split at e
            · rename_i c
              cases e
              exact ⟨(v_of c.1).1, c.2⟩
            · cases e
          obtain ⟨j1, j2⟩ := hix ej
          obtain ⟨w1, w2⟩ := hix ew
          obtain ⟨y, hy⟩ := h_at q2 j2
          have hp := q3 j y hy
          have hAy : z_isA g μ y "[I" := hp.isA
          obtain ⟨-, fy, m1, m2, m3⟩ := hp
          rw [q1.obK, j1, q1.get hy, x_bS, x_gpI (x_icI hAy), x_oS, x_arS m1, w1, x_gaT w2 (by omega)]
          have hc : w = 0 ∨ w = 1 := by omega
          rcases hc with rfl | rfl
          · rw [m2]; rfl
          · rw [m3]
end T93
