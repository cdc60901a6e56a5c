/-! THE COMPONENT's LAW, 66: the call deed -/
set_option maxRecDepth 100000
set_option maxHeartbeats 400000
set_option linter.unusedVariables false
section T93
variable {g : z_G} {o o1 : Nat → Nat} {μ μ1 : z_M} {a s x tb v i : Nat} {S : Nat → Prop} {N R L : s_R} {p : s_P} {T : s_T} {n r m k what : Int32} {cc : Nat → Nat → Int32} {d : s_Dd}
/-- whether a deed is an ask -/
theorem x_isAsk {y : Int32} {nm : Option Nat} (hok : z_ok g) (hi : i < 5) (hp : μ.1 x = some (.inr (10, [.ref (z_ad g (5 + i)), .int n, .int y, va_rf nm]))) : D_X10_isAsk g x μ = some (if i ≤ 1 then 1 else 0) := by
  have h0 : x_st g "AskedNames$Doing" "ASK" "LAskedNames$Doing;" = some (.ref (z_ad g (5 + 0))) := x_stS (h_doing hok (i := 0) (by omega)).2.2
  have h1 : x_st g "AskedNames$Doing" "FRESH" "LAskedNames$Doing;" = some (.ref (z_ad g (5 + 1))) := x_stS (h_doing hok (i := 1) (by omega)).2.2
  have hne : ∀ j, j < 5 → (some (z_ad g (5 + i)) = some (z_ad g (5 + j)) ↔ i = j) := fun j hj => ⟨fun e => h_doing_inj hok hi hj (Option.some.inj e), fun e => by rw [e]⟩
  unfold D_X10_isAsk
  rw [x_grR hp rfl, h0, x_bS, x_vrR]
  by_cases c0 : i = 0
  · rw [if_pos ((hne 0 (by omega)).mpr c0), if_pos (by omega)]
  · rw [if_neg (fun q => c0 ((hne 0 (by omega)).mp q)), x_grR hp rfl, h1, x_bS, x_vrR]
    by_cases c1 : i = 1
    · rw [if_pos ((hne 1 (by omega)).mpr c1), if_pos (by omega)]
    · rw [if_neg (fun q => c1 ((hne 1 (by omega)).mp q)), if_neg (by omega)]
theorem s_ix_nI {j : Nat} {n : Nat} (e : s_ix k n = some j) : k = nI j ∧ j < n := by
  unfold s_ix at e
  split at e
  · rename_i c
    cases e
    exact ⟨(v_of c.1).1, c.2⟩
  · cases e
theorem h_iv.deed (h : h_iv g o μ a T) : D_X0_deed g a n k what μ = some (q_deed T n k what) := by
  obtain ⟨hok, hw, -, hwo⟩ := id h
  unfold D_X0_deed q_deed
  rw [hwo.ob, hwo.is1, x_bS]
  cases el : s_row (u_runs T.1) n with
  | none => exact if_pos rfl
  | some R =>
    have hR := h.runs el
    obtain ⟨x, hx, hru⟩ := hwo.runAt el
    obtain ⟨cap, xs, q1, q2, q3⟩ := hru
    rw [if_neg (show ¬ (1 : Int32) = 0 by decide)]
    refine (hx _).trans ?_
    show _ = some (if k = -1 then (if what = 0 then R 0 else -2) else match s_ix k (r_cnt R), s_ix what 3 with
      | some j, some w => R (1 + 3 * j + w)
      | _, _ => -2)
    have h8 : r_cnt R ≤ 40 := hR.1.2
    by_cases ck : k = -1
    · rw [if_pos ck, if_pos ck]
      by_cases cw : what = 0
      · rw [if_pos cw, if_pos cw, x_oS, q1.obK, q1.size, x_bS, q2, hR.1.1]
      · rw [if_neg cw, if_neg cw]
    · have e9 : D_X0_isIn what 0 2 = some (if (s_ix what 3).isSome = true then 1 else 0) := s_ixD (v := 3) (by omega)
      rw [if_neg ck, if_neg ck, x_oS, q1.obK, q1.size, x_bS, q2, s_ixD (by omega), x_bS]
      cases ej : s_ix k (r_cnt R) with
      | none => exact if_pos rfl
      | some j =>
        rw [if_neg (show ¬ (if (some j).isSome = true then (1 : Int32) else 0) = 0 from fun q => absurd (show (1 : Int32) = 0 from q) (by decide)), e9, x_bS]
        cases ew : s_ix what 3 with
        | none => exact if_pos rfl
        | some w =>
          rw [if_neg (show ¬ (if (some w).isSome = true then (1 : Int32) else 0) = 0 from fun q => absurd (show (1 : Int32) = 0 from q) (by decide))]
          obtain ⟨j1, j2⟩ := s_ix_nI ej
          obtain ⟨w1, w2⟩ := s_ix_nI ew
          obtain ⟨y, hy⟩ := h_at q2 j2
          have hde := q3 j y hy
          have hdk := hR.2 j j2
          have hAy := hde.isA
          obtain ⟨p0, i, yy, nm, hi5, hdi, hp, h4, h5⟩ := hde
          rw [q1.obK, j1, q1.get hy, x_bS, x_gpI (x_icI hAy), w1]
          have hc : w = 0 ∨ w = 1 ∨ w = 2 := by omega
          rcases hc with rfl | rfl | rfl
          · rw [if_pos (show nI 0 = 0 from rfl), x_oS, x_grR hp rfl, x_oS, x_gpI (h_doingA hok hi5), h_ordinal hok hw hi5, x_bS, ← hdi]
            rfl
          · rw [if_neg (show ¬ nI 1 = 0 by decide), if_pos (show nI 1 = 1 from rfl), x_oS, x_giS hp rfl]
            rfl
          · have hob : ∀ {α : Type} {M : Option α}, x_ob μ y 10 (fun _ => M) = M := x_obS hp
            rw [if_neg (show ¬ nI 2 = 0 by decide), if_neg (show ¬ nI 2 = 1 by decide), x_oS, hob, x_isAsk hok hi5 hp, x_bS]
            by_cases c1 : i ≤ 1
            · obtain ⟨q, rfl, hq⟩ := h4 c1
              have hwn : s_wn (r_dd R j).2.2 := by
                rcases hdk with ⟨-, -, h⟩ | ⟨h, -⟩ | ⟨h, -⟩
                · exact h
                · rw [hdi] at h
                  have := (nI_inj (x := i) (y := 2) (by omega) (by omega)).mp h
                  omega
                · rw [hdi] at h
                  rcases h with h | h
                  · have := (nI_inj (x := i) (y := 3) (by omega) (by omega)).mp h
                    omega
                  · have := (nI_inj (x := i) (y := 4) (by omega) (by omega)).mp h
                    omega
              rw [if_pos c1, if_neg (show ¬ (1 : Int32) = 0 by decide), x_grS (o := some q) hp rfl, hq.code hw hok, x_bS]
              have e7 : nI (v_ (r_dd R j).2.2) = (r_dd R j).2.2 := hwn.1.symm
              rw [e7]
              rfl
            · rw [if_neg c1, if_pos rfl, x_giS hp rfl, h5 (by omega)]
              rfl
end T93
