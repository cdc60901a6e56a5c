/-! THE COMPONENT's LAW, 51: a state is told -/
set_option maxRecDepth 100000
set_option maxHeartbeats 400000
set_option linter.unusedVariables false
theorem nI_w2 : ∀ w : Fin 160, ((nI w.1 < 100) ↔ w.1 < 100) ∧ s_i ((0 : Int32) ≤ nI w.1 ∧ nI w.1 ≤ 3) = (if w.1 ≤ 3 then 1 else 0) ∧ s_i ((10 : Int32) ≤ nI w.1 ∧ nI w.1 ≤ 39) = (if 10 ≤ w.1 ∧ w.1 ≤ 39 then 1 else 0) ∧ s_i ((100 : Int32) ≤ nI w.1 ∧ nI w.1 ≤ 159) = (if 100 ≤ w.1 then 1 else 0) ∧
    ((20 : Int32) ≤ nI w.1 ↔ 20 ≤ w.1) ∧ ((30 : Int32) ≤ nI w.1 ↔ 30 ≤ w.1) ∧ (if (10 : Int32) ≤ nI w.1 then 10 * (nI w.1 / 10) else nI w.1) = (if 10 ≤ w.1 then nI (10 * (w.1 / 10)) else nI w.1) := by decide
section T93
variable {g : z_G} {C : h_C} {N : s_R} {o o1 : Nat → Nat} {μ μ1 : z_M} {E : Nat → List Nat} {B a b l n q p w : Nat} {G : s_G} {what : Int32}
/-- what is told of a node -/
def q_ofNode (N : s_R) (G : s_G) (d : Nat) (x : Int32) : Int32 := match s_node N x with
  | none => -2
  | some n => if d = 1 then nI (g_es G n).length else if d = 2 then nI (g_ds G n).length else nI (s_cntB (fun k => s_hasL (g_dead G n) (nI k)) 64)
theorem q_ofState_10 (h1 : 10 ≤ w) (h2 : w ≤ 39) : q_ofState N G (nI w) = q_ofNode N G (w / 10) (nI (w % 10)) := by
  have hw := nI_w2 ⟨w, by omega⟩
  have h3 : nI w < 100 := hw.1.mpr (by show w < 100; omega)
  have e1 : (if (10 : Int32) ≤ nI w then 10 * (nI w / 10) else nI w) = nI (10 * (w / 10)) := hw.2.2.2.2.2.2.trans (if_pos h1)
  have e2 : nI w - nI w / (10 : Int32) * (10 : Int32) = nI (w % 10) := (nI_w ⟨w, by omega⟩).2.1
  unfold q_ofState q_ofNode
  rw [if_pos h3]
  dsimp only
  rw [e1, e2]
  have hc : w / 10 = 1 ∨ w / 10 = 2 ∨ w / 10 = 3 := by omega
  rcases hc with c | c | c <;> rw [c] <;> cases s_node N (nI (w % 10)) <;> rfl
theorem q_ofState_x (h : what < 0 ∨ 159 < what ∨ ∃ w, what = nI w ∧ (4 ≤ w ∧ w < 10 ∨ 40 ≤ w ∧ w < 100)) (hN : n_ok N) : q_ofState N G what = -2 := by
  have h6 : n_nodes N ≤ 6 := hN.1.1.2
  rcases h with h | h | ⟨w, rfl, h⟩
  · have h3 : what < 100 := Int32.lt_trans h (by decide)
    have h4 : ¬ (10 : Int32) ≤ what := Int32.not_le.mpr (Int32.lt_trans h (by decide))
    have ne : ∀ y : Int32, 0 ≤ y → ¬ what = y := fun y hy e => by rw [e] at h; exact absurd hy (Int32.not_le.mpr h)
    unfold q_ofState
    rw [if_pos h3]
    dsimp only
    rw [if_neg h4, if_neg (ne 0 (by decide)), if_neg (ne 1 (by decide)), if_neg (ne 2 (by decide)), if_neg (ne 3 (by decide)), if_neg (ne 10 (by decide)), if_neg (ne 20 (by decide)), if_neg (ne 30 (by decide))]
  · obtain ⟨e1, e2⟩ := v_of (x := what) (Int32.le_of_lt (Int32.lt_trans (by decide) h))
    generalize v_ what = w at e1 e2
    subst e1
    have h9 : 159 < w := (nI_ltI (a := 159) (by omega) e2).mp h
    have h3 : ¬ nI w < 100 := fun q => by have := (nI_ltI (b := 100) e2 (by omega)).mp q; omega
    have e3 : nI w - 100 = nI (w - 100) := nI_sub (b := 100) (by omega)
    have e4 : nI (w - 100) / (10 : Int32) = nI ((w - 100) / 10) := nI_div (b := 10) (by omega) (by omega)
    unfold q_ofState
    rw [if_neg h3, e3, e4]
    have e5 : s_node N (nI ((w - 100) / 10)) = none := by
      unfold s_node
      rw [v_nI (by omega), if_neg (by omega)]
    rw [e5]
  · have hw := nI_w2 ⟨w, by omega⟩
    have h3 : nI w < 100 := hw.1.mpr (by show w < 100; omega)
    have e1 := hw.2.2.2.2.2.2
    unfold q_ofState
    rw [if_pos h3]
    dsimp only
    have e1' : (if (10 : Int32) ≤ nI w then 10 * (nI w / 10) else nI w) = if 10 ≤ w then nI (10 * (w / 10)) else nI w := e1
    rw [e1']
    have hc : w = 4 ∨ w = 5 ∨ w = 6 ∨ w = 7 ∨ w = 8 ∨ w = 9 ∨ (10 ≤ w ∧ (w / 10 = 4 ∨ w / 10 = 5 ∨ w / 10 = 6 ∨ w / 10 = 7 ∨ w / 10 = 8 ∨ w / 10 = 9)) := by omega
    rcases hc with rfl | rfl | rfl | rfl | rfl | rfl | ⟨c0, c⟩
    · rfl
    · rfl
    · rfl
    · rfl
    · rfl
    · rfl
    · rw [if_pos c0]
      rcases c with c | c | c | c | c | c <;> rw [c] <;> rfl
theorem q_ofState_100 (h1 : 100 ≤ w) (h2 : w < 160) : q_ofState N G (nI w) = match s_node N (nI (w / 10 - 10)), s_node N (nI (w % 10)) with
    | some x, some y => g_meas G (6 * x + y)
    | _, _ => -2 := by
  have hw := nI_w2 ⟨w, by omega⟩
  have h3 : ¬ nI w < 100 := fun q => by have : w < 100 := hw.1.mp q; omega
  have e2 : nI w - nI w / (10 : Int32) * (10 : Int32) = nI (w % 10) := (nI_w ⟨w, by omega⟩).2.1
  have e3 : (nI w - 100) / (10 : Int32) = nI (w / 10 - 10) := ((nI_w ⟨w, by omega⟩).2.2 h1).2
  unfold q_ofState
  rw [if_neg h3, e2, e3]
  cases s_node N (nI (w / 10 - 10)) <;> cases s_node N (nI (w % 10)) <;> rfl
theorem x_isIn0 {x y z : Int32} (h : ¬ (y ≤ x ∧ x ≤ z)) : D_X0_isIn x y z = some 0 := by
  rw [x_isIn]
  unfold s_i
  rw [if_neg h]
theorem h_go.told (h : h_go g C o μ E B G) (hlk : ∀ l, l < n_links (c_N C) → c_lk C (6 * n_la (c_N C) l + n_lb (c_N C) l) = some l) (hd : s_dwn (c_N C) G) :
    ∃ o1 μ1, D_X12_told g (c_a C) what μ = some (q_ofState (c_N C) G what, μ1) ∧ h_go g C o1 μ1 E (B + 27) G ∧ h_fr g (fun a => o a = 900) o μ o1 μ1 := by
  have hN := h.hN
  obtain ⟨p, o1, μ1, f, e, hp, ⟨f0, f1, f2, f3⟩, h1, F⟩ := h.told4 hlk hd
  refine ⟨o1, μ1, ?_, h1, F⟩
  unfold D_X12_told
  refine (e _).trans ?_
  have hnt := h1.nt
  have hob : ∀ {α : Type} {m : Option α}, x_ob μ1 (c_p C) 5 (fun _ => m) = m := hnt.ob
  rcases s_what what with ⟨w, hw, rfl⟩ | hneg | hbig
  · have W := nI_w2 ⟨w, hw⟩
    have V := nI_w ⟨w, hw⟩
    have ev : nI w - nI w / (10 : Int32) * (10 : Int32) = nI (w % 10) := V.2.1
    have W1 : s_i ((0 : Int32) ≤ nI w ∧ nI w ≤ 3) = (if w ≤ 3 then 1 else 0) := W.2.1
    have W2 : s_i ((10 : Int32) ≤ nI w ∧ nI w ≤ 39) = (if 10 ≤ w ∧ w ≤ 39 then 1 else 0) := W.2.2.1
    have W3 : s_i ((100 : Int32) ≤ nI w ∧ nI w ≤ 159) = (if 100 ≤ w then 1 else 0) := W.2.2.2.1
    have W4 : nI w < 100 ↔ w < 100 := W.1
    have W5 : (20 : Int32) ≤ nI w ↔ 20 ≤ w := W.2.2.2.2.1
    have W6 : (30 : Int32) ≤ nI w ↔ 30 ≤ w := W.2.2.2.2.2.1
    clear W
    rw [x_isIn, W1, x_bS]
    by_cases c3 : w ≤ 3
    · rw [if_pos c3, if_neg (show ¬ (1 : Int32) = 0 by decide), x_arS hp, x_gaT (by omega) (by omega)]
      have hc : w = 0 ∨ w = 1 ∨ w = 2 ∨ w = 3 := by omega
      rcases hc with rfl | rfl | rfl | rfl
      · rw [f0]; rfl
      · rw [f1]; rfl
      · rw [f2]; rfl
      · rw [f3]; rfl
    · rw [if_neg c3, if_pos rfl, x_lS, ev]
      by_cases c1 : w < 100
      · rw [if_pos (W4.mpr c1), x_isIn, W2, x_bS]
        by_cases c2 : 10 ≤ w ∧ w ≤ 39
        · rw [if_pos c2, if_neg (show ¬ (1 : Int32) = 0 by decide), x_grR h1.ca rfl, x_oS, hob, hnt.isNode hN, x_bS, q_ofState_10 c2.1 c2.2]
          unfold q_ofNode
          cases en : s_node (c_N C) (nI (w % 10)) with
          | none => exact if_pos rfl
          | some n =>
            obtain ⟨n1, n2, n3⟩ := s_node_lt hN en
            obtain ⟨q, hq⟩ := h1.nodeAt n2
            obtain ⟨sl, el, ml, ce, ds, f, k1, k2, k3, k4, k5, -⟩ := h1.sizes hq
            rw [if_neg (show ¬ (if (some n).isSome = true then (1 : Int32) else 0) = 0 from fun q => absurd (show (1 : Int32) = 0 from q) (by decide)), n3, h1.getNode hq]
            by_cases d2 : 20 ≤ w
            · rw [if_pos (W5.mpr d2)]
              by_cases d3 : 30 ≤ w
              · have dw : w / 10 = 3 := by omega
                rw [if_pos (W6.mpr d3), x_oS, x_glS k1 rfl, x_bitCount, x_bS, dw]
                rfl
              · have dw : w / 10 = 2 := by omega
                rw [if_neg (fun q => d3 (W6.mp q)), x_oS, x_lsz k1 rfl k2, dw, k3]
                rfl
            · have dw : w / 10 = 1 := by omega
              rw [if_neg (fun q => d2 (W5.mp q)), x_oS, x_lsz k1 rfl k4, dw, k5]
              rfl
        · rw [if_neg c2, if_pos rfl, q_ofState_x (Or.inr (Or.inr ⟨w, rfl, by omega⟩)) hN]
      · have c100 : 100 ≤ w := by omega
        have ed : nI w / (10 : Int32) - (10 : Int32) = nI (w / 10 - 10) := (V.2.2 c100).1
        rw [if_neg (fun q => c1 (W4.mp q)), x_isIn, W3, x_bS, if_pos c100, if_neg (show ¬ (1 : Int32) = 0 by decide), ed, x_grR h1.ca rfl, x_oS, hob, hnt.isNode hN, x_bS, q_ofState_100 c100 hw]
        cases en : s_node (c_N C) (nI (w / 10 - 10)) with
        | none => exact if_pos rfl
        | some n =>
          rw [if_neg (show ¬ (if (some n).isSome = true then (1 : Int32) else 0) = 0 from fun q => absurd (show (1 : Int32) = 0 from q) (by decide)), x_grR h1.ca rfl, x_oS, hob, hnt.isNode hN, x_bS]
          cases em : s_node (c_N C) (nI (w % 10)) with
          | none => exact if_pos rfl
          | some m =>
            obtain ⟨n1, n2, n3⟩ := s_node_lt hN en
            obtain ⟨m1, m2, m3⟩ := s_node_lt hN em
            obtain ⟨q, hq⟩ := h1.nodeAt n2
            obtain ⟨sl, el, ml, ce, ds, f, k1, k2, k3, k4, k5, k6, k7, k8⟩ := h1.sizes hq
            rw [if_neg (show ¬ (if (some m).isSome = true then (1 : Int32) else 0) = 0 from fun q => absurd (show (1 : Int32) = 0 from q) (by decide)), n3, h1.getNode hq, x_oS, x_grR k1 rfl, x_oS, x_arS k7, m3, x_gaT (by omega) (by omega), k8 m m1]
  · have ne : ∀ y z : Int32, 0 ≤ y → ¬ (y ≤ what ∧ what ≤ z) := fun y z hy q => absurd hneg (Int32.not_lt.mpr (Int32.le_trans hy q.1))
    rw [x_isIn0 (ne 0 3 (by decide)), x_bS, if_pos rfl, x_lS, if_pos (Int32.lt_trans hneg (by decide)), x_isIn0 (ne 10 39 (by decide)), x_bS, if_pos rfl, q_ofState_x (Or.inl hneg) hN]
  · have ne : ∀ y z : Int32, z ≤ 159 → ¬ (y ≤ what ∧ what ≤ z) := fun y z hy q => absurd (Int32.le_trans q.2 hy) (Int32.not_le.mpr hbig)
    rw [x_isIn0 (ne 0 3 (by decide)), x_bS, if_pos rfl, x_lS, if_neg (Int32.not_lt.mpr (Int32.le_of_lt (Int32.lt_trans (by decide) hbig))), x_isIn0 (ne 100 159 (by decide)), x_bS, if_pos rfl, q_ofState_x (Or.inr (Or.inl hbig)) hN]
end T93
