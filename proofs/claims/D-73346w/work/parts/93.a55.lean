/-! THE COMPONENT's LAW, 55: one more deed -/
set_option maxRecDepth 100000
set_option maxHeartbeats 400000
set_option linter.unusedVariables false
section T93
variable {g : z_G} {C : h_C} {N : s_R} {lk : Nat → Option Nat} {o o1 : Nat → Nat} {μ μ1 : z_M} {E : Nat → List Nat} {B a b l n q p w i k k2 ak r K t m : Nat} {G G' : s_G} {d : s_Dd} {ds : Nat → s_Dd} {S : Nat → Prop} {fs : List Value} {W : s_W} {A : Nat → Bool} {y : Int32} {nm : Option Nat}
theorem h_rn.tail (h : h_rn g C o μ E B G r ak k2 k w A) (hw : w < 2 ^ 31) (ha : s_all (c_N C) G < 2 ^ 31) : ∃ o1 μ1, (x_gi μ r 11 3 fun x11 => x_pf μ r 11 3 (.int (x11 + (1 : Int32))) fun μ19 => x_gi μ19 r 11 4 fun x20 => x_gr μ19 r 11 0 fun o24 => x_o o24 fun p28 => x_ob μ19 p28 12 fun _ => x_b2 (D_X12_entries g p28 μ19) fun x32 μ33 => x_pf μ33 r 11 4 (.int (x_mx x20 x32)) fun μ39 => some μ39) = some μ1 ∧
    h_rn g C o1 μ1 E (B + 9) G r ak k2 (k + 1) (max w (s_all (c_N C) G)) A ∧ h_fr g (fun a => 879 ≤ o a) o μ o1 μ1 := by
  obtain ⟨h1, ⟨r0, rc⟩, fa, ⟨a0, ac⟩, hfa⟩ := h
  have hra : ak ≠ r := fun e => by rw [← e, ac] at rc; cases rc
  obtain ⟨o1, μ1, e1, h2, h3, F⟩ := h1.tail r0 rc hw ha
  exact ⟨o1, μ1, e1, ⟨h2, h3, fa, ⟨(F.2.1 ak (h1.wf.lt ac)).trans a0, F.cell h1.wf ac (by omega)⟩, hfa⟩, F.mono (fun a _ q => by
    rcases q with q | q
    · rw [q, r0]; omega
    · omega)⟩
theorem h_rn.does (h : h_rn g C o μ E B G r ak k2 k w (s_Ak ds k)) (hd : h_de g o μ p (ds k)) (hdk : d_ok (ds k)) (hi : s_inv (c_N C) k W t t [] 0 0 0 G) (hp0 : s_cc w_0 (c_N C) k [] 0 G) (hc : s_cinv (s_Ak ds k) t G) (hk : k < 60) (hMw : k_Mw (c_N C) (k + 1) ≤ c_Mw C) (hMe : k + 1 ≤ c_Me C) (hw : w < 2 ^ 31) (he : s_does (c_N C) (c_lk C) (ds k) k G = some G') :
    ∃ o1 μ1 E', D_X11_does g r (some p) μ = some μ1 ∧ h_rn g C o1 μ1 E' (B + k_does (c_N C) (c_lk C) (ds k) G) G' r ak k2 (k + 1) (max w (s_all (c_N C) G')) (s_Ak ds (k + 1)) ∧ h_fr g (fun a => 879 ≤ o a) o μ o1 μ1 := by
  have h1 := h.1
  have hN := h1.hN
  have hlk := h1.hlk
  have h6 : n_nodes (c_N C) ≤ 6 := hN.1.1.2
  have hwf := h1.wf
  have hok := h1.ok
  obtain ⟨r0, rc⟩ := h.2.1
  have hall : s_all (c_N C) G' < 2 ^ 31 := by
    obtain ⟨W', t', hi'⟩ := hi.does hN hlk hk hdk he
    have := s_all_le hN (fun n hn => Nat.lt_of_le_of_lt ((hi'.few (by omega)).1 n hn) (by omega))
    omega
  have hAk : s_Ak ds k k = false := by unfold s_Ak; rw [decide_eq_false (by omega)]; rfl
  have h57 : g_came G 57 k = -1 := (hc.2.2 k (by omega)).1 hAk
  have hmin : g_minute G = nI t := hi.1.1.1
  have ht99 : t ≤ 99 := hi.1.1.2.2
  have vt : v_ (g_minute G) = t := by rw [hmin]; exact v_nI (by omega)
  obtain ⟨p0, i, y, nm, hi5, hdi, hp, h4, h5⟩ := hd
  have hin : ∀ j, j < 5 → (nI i = nI j ↔ i = j) := fun j hj => nI_inj (by omega) (by omega)
  have d0 : nI i = 0 ↔ i = 0 := hin 0 (by omega)
  have d1 : nI i = 1 ↔ i = 1 := hin 1 (by omega)
  have d2 : nI i = 2 ↔ i = 2 := hin 2 (by omega)
  have d3 : nI i = 3 ↔ i = 3 := hin 3 (by omega)
  have d4 : nI i = 4 ↔ i = 4 := hin 4 (by omega)
  unfold D_X11_does
  rw [x_oS, x_grR hp rfl, x_oS, x_gpI (h_doingA hok hi5), h_ordinal hok hwf hi5, x_bS, x_lS, s_Ak_succ]
  have hdk' := hdk
  unfold d_ok at hdk'
  rw [hdi, d0, d1, d2, d3, d4] at hdk'
  unfold s_does at he
  unfold k_does d_isAsk
  rw [hdi] at he ⊢
  rcases hdk' with ⟨hk1, ⟨n, hn, e⟩, hnm⟩ | ⟨hk1, m, hm1, hm2, e⟩ | ⟨hk1, a, b, ha, hb, hab, ea, eb⟩
  · have hnot2 : ¬ nI i = 2 := by rw [d2]; omega
    have hq01 : nI i = 0 ∨ nI i = 1 := by rw [d0, d1]; exact hk1
    have ed : (decide (nI i = 0) || decide (nI i = 1)) = true := by
      rcases hq01 with q | q
      · rw [decide_eq_true q]; rfl
      · rw [decide_eq_true q]; exact Bool.or_true _
    rw [if_pos hq01, e, v_nI (by omega)] at he
    by_cases cn : n < n_nodes (c_N C)
    · rw [if_pos cn] at he
      cases he
      obtain ⟨q, rfl, hq⟩ := h4 (by omega)
      obtain ⟨o1, μ1, E1, e1, r1, F1⟩ := h.ask (i := i) (y := y) (by omega) hi hp0 hk (Nat.le_trans (k_Mw_mono (by omega)) hMw) (by omega) cn e hnm hq p0 hp hAk h57
      obtain ⟨o2, μ2, e2, r2, F2⟩ := r1.tail hw hall
      refine ⟨o2, μ2, E1, ?_, ?_, F1.trans F2 (fun a ha q => by
        rcases q with q | q
        · exact q
        · rw [F1.2.1 a ha] at q; exact q)⟩
      · rcases hk1 with rfl | rfl
        · rw [if_pos (show nI 0 = 0 from rfl)]
          exact (e1 _).trans e2
        · rw [if_neg (show ¬ nI 1 = 0 by decide), if_pos (show nI 1 = 1 from rfl)]
          exact (e1 _).trans e2
      · rw [if_neg hnot2, if_pos ed, Nat.add_comm 9 469, ← Nat.add_assoc]
        exact r2
    · rw [if_neg cn] at he
      cases he
  · subst hk1
    have ed : ¬ (decide (nI 2 = 0) || decide (nI 2 = 1)) = true := by decide
    rw [if_neg (show ¬ (nI 2 = 0 ∨ nI 2 = 1) by decide), if_pos (show nI 2 = 2 from rfl), vt, e, v_nI (by omega)] at he
    by_cases cm : t + m ≤ 99
    · rw [if_pos cm] at he
      cases he
      obtain ⟨o1, μ1, E1, e1, r1, F1⟩ := h1.many (K := k) (n := m) (r := r) (p := p) (ak := ak) (k2 := k2) (k := k) (w := w) (fun μ10 => x_gi μ10 r 11 3 fun x11 => x_pf μ10 r 11 3 (.int (x11 + (1 : Int32))) fun μ19 => x_gi μ19 r 11 4 fun x20 => x_gr μ19 r 11 0 fun o24 => x_o o24 fun p28 => x_ob μ19 p28 12 fun _ => x_b2 (D_X12_entries g p28 μ19) fun x32 μ33 => x_pf μ33 r 11 4 (.int (x_mx x20 x32)) fun μ39 => some μ39) (by omega) (Nat.le_trans (k_Mw_mono (by omega)) hMw) (by omega) (fs := [.ref (z_ad g (5 + 2)), .int (ds k).2.1, .int y, va_rf nm]) (by rw [e]; rfl) (by omega) m 0 x_F t o μ E B G hi hp0 cm ⟨r0, rc⟩ ⟨p0, hp⟩ (by omega) (by rw [x_Fv]; omega)
      obtain ⟨-, -, fa, ⟨a0, ac⟩, hfa⟩ := h
      have r1' : h_rn g C o1 μ1 E1 (B + k_goMany (c_N C) (c_lk C) m G) (s_goMany (c_N C) (c_lk C) m G) r ak k2 k w (s_Ak ds k) := ⟨r1, ⟨(F1.2.1 r (hwf.lt rc)).trans r0, F1.cell hwf rc (by omega)⟩, fa, ⟨(F1.2.1 ak (hwf.lt ac)).trans a0, F1.cell hwf ac (by omega)⟩, fun j hj hAj => (hfa j hj hAj).trans (congrFun (a59_goMany (N := c_N C) (lk := c_lk C) m G) j).symm⟩
      obtain ⟨o2, μ2, e2, r2, F2⟩ := r1'.tail hw hall
      refine ⟨o2, μ2, E1, ?_, ?_, F1.trans F2 (fun a ha q => by
        rcases q with q | q
        · omega
        · rw [F1.2.1 a ha] at q; exact q)⟩
      · rw [if_neg (show ¬ nI 2 = 0 by decide), if_neg (show ¬ nI 2 = 1 by decide), if_pos (show nI 2 = 2 from rfl)]
        exact e1.trans e2
      · rw [if_pos (show nI 2 = 2 from rfl), if_neg ed, e, v_nI (by omega), Nat.add_comm 9, ← Nat.add_assoc]
        exact r2
    · rw [if_neg cm] at he
      cases he
  · have hy : y = nI b := (h5 (by omega)).trans eb
    have hng : ¬ (nI i = 0 ∨ nI i = 1) := by rw [d0, d1]; omega
    have hng2 : ¬ nI i = 2 := by rw [d2]; omega
    have ed : ¬ (decide (nI i = 0) || decide (nI i = 1)) = true := by
      rw [decide_eq_false (fun q => hng (Or.inl q)), decide_eq_false (fun q => hng (Or.inr q))]; decide
    rw [if_neg hng, if_neg hng2, ea, eb, v_nI (by omega), v_nI (by omega)] at he
    by_cases cab : a < n_nodes (c_N C) ∧ b < n_nodes (c_N C)
    · rw [if_pos cab] at he
      have hcl : c_lk C (6 * a + b) = none ∨ ∃ l, c_lk C (6 * a + b) = some l := by cases c_lk C (6 * a + b); exact Or.inl rfl; exact Or.inr ⟨_, rfl⟩
      rcases hcl with el | ⟨l, el⟩
      · rw [el] at he
        cases he
      · rw [el] at he
        have he' : (if s_bit (g_down G) (nI l) = decide (nI i = 3) then none else some (s_turn l (decide (nI i = 3)) G)) = some G' := he
        by_cases cb : s_bit (g_down G) (nI l) = decide (nI i = 3)
        · rw [if_pos cb] at he'
          cases he'
        · rw [if_neg cb] at he'
          cases he'
          have cb' : s_bit (g_down G) (nI l) = !decide (nI i = 3) := by
            revert cb
            cases s_bit (g_down G) (nI l) <;> cases decide (nI i = 3) <;> decide
          obtain ⟨μ1, e1, r1, F1⟩ := h1.turns (cut := decide (nI i = 3)) ha hb hab el cb'
          obtain ⟨-, -, fa, ⟨a0, ac⟩, hfa⟩ := h
          have r1' : h_rn g C o μ1 E B (s_turn l (decide (nI i = 3)) G) r ak k2 k w (s_Ak ds k) := ⟨r1, ⟨r0, F1.cell hwf rc (by omega)⟩, fa, ⟨a0, F1.cell hwf ac (by omega)⟩, hfa⟩
          obtain ⟨o2, μ2, e2, r2, F2⟩ := r1'.tail hw hall
          refine ⟨o2, μ2, E, ?_, ?_, F1.trans F2 (fun a ha q => by
            rcases q with q | q
            · omega
            · exact q)⟩
          · rw [if_neg (fun q => hng (Or.inl q)), if_neg (fun q => hng (Or.inr q)), if_neg hng2, x_grR rc rfl, x_giS hp rfl, x_giS hp rfl, x_oS, h1.ob, ea, hy, e1, x_bS]
            exact e2
          · rw [if_neg hng2, if_neg ed]
            exact r2.1.le (by omega) |> fun q => ⟨q, r2.2⟩
    · rw [if_neg cab] at he
      cases he
end T93
