/-! THE COMPONENT's LAW, 64: the calls after, stop -/
set_option maxRecDepth 100000
set_option maxHeartbeats 400000
set_option linter.unusedVariables false
theorem s_plays_le {N : s_R} {lk : Nat → Option Nat} {ds : Nat → s_Dd} : ∀ m j w G, (s_plays N lk ds m j w G).1 ≤ j + m := by
  intro m
  induction m with
  | zero => intro j w G; exact Nat.le_refl _
  | succ m ih =>
    intro j w G
    show (match s_does N lk (ds j) j G with
      | none => (j, w, G)
      | some G' => s_plays N lk ds m (j + 1) (max w (s_all N G')) G').1 ≤ _
    cases s_does N lk (ds j) j G with
    | none => show j ≤ _; omega
    | some G' => exact Nat.le_trans (ih (j + 1) _ G') (by omega)
section T93
variable {g : z_G} {o o1 : Nat → Nat} {μ μ1 : z_M} {a s x tb v : Nat} {S : Nat → Prop} {N R L : s_R} {p : s_P} {T : s_T} {n r m k what : Int32} {cc : Nat → Nat → Int32}
theorem h_iv.after (cc : Nat → Nat → Int32) (h : h_iv g o μ a T) : ∃ μ1, D_X0_after g a n r what μ = some (q_after T cc n r what, μ1) ∧ h_iv g (h_o9 o μ) μ1 a T ∧ h_u μ1 ≤ h_u μ + (q_kr T n r + 100) := by
  have hw := h.2.1
  have hwo := h.2.2.2
  unfold D_X0_after q_after
  rw [hwo.ob, hwo.is0, x_bS]
  cases en : s_row (u_nets T.1) n with
  | none =>
    refine ⟨μ, ?_, h.next (h_fr.refl hw), by omega⟩
    rw [if_pos rfl]
    cases s_row (u_runs T.1) r <;> rfl
  | some N =>
    rw [if_neg (show ¬ (1 : Int32) = 0 by decide), hwo.ob, hwo.is1, x_bS]
    cases er : s_row (u_runs T.1) r with
    | none => exact ⟨μ, if_pos rfl, h.next (h_fr.refl hw), by omega⟩
    | some R =>
      have hN := h.nets en
      have hR := h.runs er
      have hc40 : r_cnt R ≤ 40 := hR.1.2
      rw [if_neg (show ¬ (1 : Int32) = 0 by decide)]
      by_cases c : (0 : Int32) ≤ what ∧ what ≤ 8
      · obtain ⟨e1, e2⟩ := v_of c.1
        have h9 : v_ what < 9 := by
          refine Nat.lt_of_not_le (fun q => nI_ge (a := 8) (b := v_ what) (by omega) e2 ?_)
          rw [← e1]
          exact c.2
        obtain ⟨o1, μ1, C, E, rr, ak, eD, ⟨p1, p2, p3⟩, h1, F⟩ := h.runOf cc en er (v := 40) (by omega)
        have em : min 40 (r_cnt R) = r_cnt R := by omega
        rw [em] at h1 p3
        obtain ⟨t', ht, hcv⟩ := s_play_cinv (c := cc) hN (s_lk0_ok (away := none) hN) hR (Nat.le_refl _)
        have hle := s_plays_le (N := N) (lk := s_lk0 N none) (ds := r_dd R) (r_cnt R) 0 0 (s_begin cc)
        have hle' : (s_play N (s_lk0 N none) (r_dd R) (r_cnt R) (s_begin cc)).1 ≤ r_cnt R := by
          rw [Nat.zero_add] at hle
          exact hle
        obtain ⟨r0, rc⟩ := h1.2.1
        obtain ⟨o2, μ2, e3, h2, F2⟩ := h1.after hcv ht (by omega) (fun j hj => by unfold s_Ak; rw [decide_eq_false (by omega)]; rfl) h9
        refine ⟨μ2, ?_, h.next (F.trans F2 (fun a ha q => q.elim id (fun q => q.elim))), by have := h2.1.cost; rw [q_kr_eq en er]; omega⟩
        rw [← e1] at e3
        rw [x_isIn, x_bS]
        unfold s_i
        rw [if_pos c, if_neg (show ¬ (1 : Int32) = 0 by decide), hwo.ob]
        have eD' : D_X0_runOf g a n r 40 μ = some (some rr, μ1) := eD
        rw [eD', x_b2S, x_oS, x_obS rc, e3, x_b2S]
      · refine ⟨μ, ?_, h.next (h_fr.refl hw), by omega⟩
        rw [x_isIn0 c, x_bS, if_pos rfl]
        have hq : ∀ (w : Nat) (G : s_G), q_afterOf w G what = -2 := by
          intro w G
          have ne : ∀ j : Int32, (0 : Int32) ≤ j ∧ j ≤ 8 → ¬ what = j := fun j hj e => c (by rw [e]; exact hj)
          unfold q_afterOf
          rw [if_neg (ne 0 (by decide)), if_neg (ne 1 (by decide)), if_neg (ne 2 (by decide)), if_neg (ne 3 (by decide)), if_neg (ne 4 (by decide)), if_neg (ne 5 (by decide)), if_neg (ne 6 (by decide)), if_neg (ne 7 (by decide)), if_neg (ne 8 (by decide))]
        exact congrArg (fun z => some (z, μ)) (hq _ _).symm
end T93
