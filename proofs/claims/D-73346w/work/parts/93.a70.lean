/-! THE COMPONENT's LAW, 70: the call why -/
set_option maxRecDepth 100000
set_option maxHeartbeats 400000
set_option linter.unusedVariables false
section T93
variable {g : z_G} {o o1 : Nat → Nat} {μ μ1 : z_M} {a s x tb v i : Nat} {S : Nat → Prop} {N R L : s_R} {p : s_P} {T : s_T} {n r m k what : Int32} {cc : Nat → Nat → Int32}
theorem h_iv.why (cc : Nat → Nat → Int32) (h : h_iv g o μ a T) : ∃ μ1, D_X0_why g a n r k what μ = some (q_why T cc n r k what, μ1) ∧ h_iv g (h_o9 o μ) μ1 a T ∧ h_u μ1 ≤ h_u μ + (q_kr T n r + 100) := by
  obtain ⟨hok, hw, -, hwo⟩ := id h
  unfold D_X0_why q_why
  rw [hwo.ob, hwo.is0, x_bS]
  cases en : s_row (u_nets T.1) n with
  | none =>
    refine ⟨μ, ?_, h.next (h_fr.refl hw), by omega⟩
    rw [if_pos rfl]
    cases s_row (u_runs T.1) r <;> rfl
  | some N =>
    rw [if_neg (show ¬ (1 : Int32) = 0 by decide), hwo.ob, hwo.is1, x_bS]
    cases er : s_row (u_runs T.1) r with
    | none => exact ⟨μ, if_pos rfl, h.next (h_fr.refl hw), by omega⟩
    | some R =>
      have hN := h.nets en
      have hR := h.runs er
      have hc40 : r_cnt R ≤ 40 := hR.1.2
      have e9 : D_X0_isIn what 0 6 = some (if (s_ix what 7).isSome = true then 1 else 0) := s_ixD (v := 7) (by omega)
      rw [if_neg (show ¬ (1 : Int32) = 0 by decide), e9, x_bS]
      show ∃ μ1, _ = some ((match s_ix k (r_cnt R) with
        | none => (-2 : Int32)
        | some j => if g_came (s_play N (s_lk0 N none) (r_dd R) (r_cnt R) (s_begin cc)).2.2 57 j = -1 then -2 else q_ofAsk (s_play N (s_lk0 N none) (r_dd R) (r_cnt R) (s_begin cc)).2.2 j what), μ1) ∧ _
      generalize hG : (s_play N (s_lk0 N none) (r_dd R) (r_cnt R) (s_begin cc)) = P
      cases ew : s_ix what 7 with
      | none =>
        refine ⟨μ, (if_pos rfl).trans ?_, h.next (h_fr.refl hw), by omega⟩
        have ne : ∀ w : Nat, w < 7 → ¬ what = nI w := fun w hw e => by
          unfold s_ix at ew
          rw [e, v_nI (by omega), if_pos ⟨Int32.not_lt.mp (nI_pos (by omega)), hw⟩] at ew
          cases ew
        cases s_ix k (r_cnt R) with
        | none => rfl
        | some j =>
          show _ = some (if g_came P.2.2 57 j = -1 then (-2 : Int32) else q_ofAsk P.2.2 j what, μ)
          by_cases c : g_came P.2.2 57 j = -1
          · rw [if_pos c]
          · unfold q_ofAsk
            rw [if_neg c, if_neg (show ¬ what = 0 from ne 0 (by omega)), if_neg (show ¬ what = 1 from ne 1 (by omega)), if_neg (show ¬ what = 2 from ne 2 (by omega)), if_neg (show ¬ what = 3 from ne 3 (by omega)), if_neg (show ¬ what = 4 from ne 4 (by omega)), if_neg (show ¬ what = 5 from ne 5 (by omega)), if_neg (show ¬ what = 6 from ne 6 (by omega))]
      | some w =>
        obtain ⟨w1, w2⟩ := s_ix_nI ew
        obtain ⟨o1, μ1, C, E, rr, ak, eD, ⟨p1, p2, p3⟩, h1, F⟩ := h.runOf cc en er (v := 40) (by omega)
        have em : min 40 (r_cnt R) = r_cnt R := by omega
        obtain ⟨t', ht, hcv⟩ := s_play_cinv (c := cc) hN (s_lk0_ok (away := none) hN) hR (Nat.le_refl _)
        have hle : (s_play N (s_lk0 N none) (r_dd R) (r_cnt R) (s_begin cc)).1 ≤ r_cnt R := by
          have := s_plays_le (N := N) (lk := s_lk0 N none) (ds := r_dd R) (r_cnt R) 0 0 (s_begin cc)
          rw [Nat.zero_add] at this
          exact this
        rw [em, hG] at h1
        rw [em] at p3
        rw [hG] at hcv hle
        obtain ⟨r0, rc⟩ := h1.2.1
        have eD' : D_X0_runOf g a n r 40 μ = some (some rr, μ1) := eD
        have hwo1 : h_wo g o1 μ1 a T := hwo.fr F hw (fun a ha q => by omega)
        obtain ⟨xl, hxl, ⟨cap, xs, q1, q2, q3⟩⟩ := hwo1.runAt er
        refine ⟨μ1, ?_, h.next F, by have := h1.1.cost; rw [q_kr_eq en er]; omega⟩
        rw [if_neg (show ¬ (if (some w).isSome = true then (1 : Int32) else 0) = 0 from fun q => absurd (show (1 : Int32) = 0 from q) (by decide)), hwo.ob, eD', x_b2S, x_oS, x_giS rc rfl, s_ixD (by omega), x_bS]
        by_cases ck : 0 ≤ k ∧ v_ k < P.1
        · have e3 : s_ix k P.1 = some (v_ k) := if_pos ck
          have e4 : s_ix k (r_cnt R) = some (v_ k) := if_pos ⟨ck.1, by omega⟩
          obtain ⟨k1, k2⟩ := v_of ck.1
          generalize v_ k = j at ck e3 e4 k1 k2
          rw [e3, e4, if_neg (show ¬ (if (some j).isSome = true then (1 : Int32) else 0) = 0 from fun q => absurd (show (1 : Int32) = 0 from q) (by decide))]
          refine (hxl _).trans ?_
          obtain ⟨y, hy⟩ := h_at q2 (show j < r_cnt R by omega)
          have hde := q3 j y hy
          have hAy := hde.isA
          obtain ⟨y0, i, yy, nm, hi5, hdi, hp, -, -⟩ := hde
          have hob : ∀ {α : Type} {M : Option α}, x_ob μ1 y 10 (fun _ => M) = M := x_obS hp
          rw [x_oS, q1.obK, k1, q1.get hy, x_bS, x_gpI (x_icI hAy), x_oS, hob, x_isAsk hok hi5 hp, x_bS]
          have hA : s_Ak (r_dd R) P.1 j = decide (i ≤ 1) := by
            unfold s_Ak d_isAsk
            rw [hdi, decide_eq_true ck.2]
            have hc : i = 0 ∨ i = 1 ∨ i = 2 ∨ i = 3 ∨ i = 4 := by omega
            rcases hc with rfl | rfl | rfl | rfl | rfl <;> rfl
          obtain ⟨z1, z2⟩ := hcv.2.2 j (by omega)
          by_cases ci : i ≤ 1
          · rw [decide_eq_true ci] at hA
            obtain ⟨a1, -, -, z3⟩ := z2 hA
            have hne : g_came P.2.2 57 j ≠ -1 := fun q => by
              rw [q] at z3
              rcases z3 with z3 | ⟨z3 | z3 | z3, -⟩ <;> exact absurd z3 (by decide)
            have hq := h1.1.ofAsk (j := j) (w := w) (by omega) w2 hne
            rw [if_pos ci, if_neg (show ¬ (1 : Int32) = 0 by decide), x_grR rc rfl, x_oS, w1]
            show _ = some (if g_came P.2.2 57 j = -1 then (-2 : Int32) else q_ofAsk P.2.2 j (nI w), μ1)
            rw [if_neg hne]
            exact hq
          · rw [decide_eq_false ci] at hA
            rw [if_neg ci, if_pos rfl]
            show _ = some (if g_came P.2.2 57 j = -1 then (-2 : Int32) else q_ofAsk P.2.2 j what, μ1)
            rw [if_pos (z1 hA)]
        · have e3 : s_ix k P.1 = none := if_neg ck
          rw [e3]
          refine (if_pos rfl).trans ?_
          cases ej : s_ix k (r_cnt R) with
          | none => rfl
          | some j =>
            obtain ⟨j1, j2⟩ := s_ix_nI ej
            have hjP : ¬ j < P.1 := fun q => ck ⟨by rw [j1]; exact Int32.not_lt.mp (nI_pos (by omega)), by rw [j1, v_nI (by omega)]; exact q⟩
            have hA : s_Ak (r_dd R) P.1 j = false := by unfold s_Ak; rw [decide_eq_false hjP]; rfl
            show _ = some (if g_came P.2.2 57 j = -1 then (-2 : Int32) else q_ofAsk P.2.2 j what, μ1)
            rw [if_pos ((hcv.2.2 j (by omega)).1 hA)]
end T93
