/-! THE COMPONENT's LAW, 53: the pieces of a deed that is done -/
set_option maxRecDepth 100000
set_option maxHeartbeats 400000
set_option linter.unusedVariables false
abbrev h_rc (C : h_C) (ak k2 k w : Nat) : z_C := .inr (11, [.ref (c_a C), .ref ak, .int (nI k2), .int (nI k), .int (nI w)])
section T93
variable {g : z_G} {C : h_C} {N : s_R} {o o1 : Nat → Nat} {μ μ1 : z_M} {E : Nat → List Nat} {B a b l n q p w i k k2 ak r K t m : Nat} {G : s_G} {d : s_Dd} {S : Nat → Prop} {fs : List Value} {W : s_W}
/-- behind a deed -/
theorem h_go.tail (h : h_go g C o μ E B G) (h0 : o r = 879) (hr : μ.1 r = some (h_rc C ak k2 k w)) (hw : w < 2 ^ 31) (ha : s_all (c_N C) G < 2 ^ 31) : ∃ o1 μ1, (x_gi μ r 11 3 fun x11 => x_pf μ r 11 3 (.int (x11 + (1 : Int32))) fun μ19 => x_gi μ19 r 11 4 fun x20 => x_gr μ19 r 11 0 fun o24 => x_o o24 fun p28 => x_ob μ19 p28 12 fun _ => x_b2 (D_X12_entries g p28 μ19) fun x32 μ33 => x_pf μ33 r 11 4 (.int (x_mx x20 x32)) fun μ39 => some μ39) = some μ1 ∧
    h_go g C o1 μ1 E (B + 9) G ∧ (o1 r = 879 ∧ μ1.1 r = some (h_rc C ak k2 (k + 1) (max w (s_all (c_N C) G)))) ∧ h_fr g (fun a => a = r ∨ o a = 900) o μ o1 μ1 := by
  have F1 : h_fr g (fun a => a = r) o μ o (z_set μ r (h_rc C ak k2 (k + 1) w)) := h_fr.setF h.wf hr
  have h1 := h.fr (b := 0) F1 (fun a q => by subst q; omega) (by rw [h_u_set]; omega)
  have c1 : (z_set μ r (h_rc C ak k2 (k + 1) w)).1 r = some (h_rc C ak k2 (k + 1) w) := z_set_self
  have l0 : r < μ.2.1 := h.wf.lt hr
  obtain ⟨μ2, e2, h2, F2, -⟩ := h1.entries
  have c2 : μ2.1 r = some (h_rc C ak k2 (k + 1) w) := F2.cell F1.wf c1 (by omega)
  have q2 : h_o1 o (z_set μ r (h_rc C ak k2 (k + 1) w)).2.1 900 r = 879 := (F2.2.1 r (Nat.lt_of_lt_of_le l0 F1.1)).trans h0
  generalize h_o1 o (z_set μ r (h_rc C ak k2 (k + 1) w)).2.1 900 = O2 at h2 F2 q2
  have F3 : h_fr g (fun a => a = r) O2 μ2 O2 (z_set μ2 r (h_rc C ak k2 (k + 1) (max w (s_all (c_N C) G)))) := h_fr.setF h2.wf c2
  have h3 := h2.fr (b := 0) F3 (fun a q => by subst q; omega) (by rw [h_u_set]; omega)
  refine ⟨O2, z_set μ2 r (h_rc C ak k2 (k + 1) (max w (s_all (c_N C) G))), ?_, h3, ⟨q2, z_set_self⟩, (F1.trans F2 (S := fun a => a = r ∨ o a = 900) (fun a _ q => q)).trans F3 (fun a _ q => q.elim id Or.inl)⟩
  have e1 : nI k + (1 : Int32) = nI (k + 1) := nI_add k 1
  rw [x_giS hr rfl, e1]
  refine (x_pfS hr (Nat.le_of_ble_eq_true rfl)).trans ?_
  show (x_gi (z_set μ r (h_rc C ak k2 (k + 1) w)) r 11 4 fun x20 => x_gr (z_set μ r (h_rc C ak k2 (k + 1) w)) r 11 0 fun o24 => x_o o24 fun p28 => x_ob (z_set μ r (h_rc C ak k2 (k + 1) w)) p28 12 fun _ => x_b2 (D_X12_entries g p28 (z_set μ r (h_rc C ak k2 (k + 1) w))) fun x32 μ33 => x_pf μ33 r 11 4 (.int (x_mx x20 x32)) fun μ39 => some μ39) = _
  rw [x_giS c1 rfl, x_grR c1 rfl, x_oS, h1.ob, e2, x_b2S, x_mxN hw ha]
  exact x_pfS c2 (Nat.le_of_ble_eq_true rfl)
/-- minutes go by, one by one -/
theorem h_go.many (Kf : z_M → Option z_M) (hK : K ≤ 60) (hMw : k_Mw (c_N C) K ≤ c_Mw C) (hMe : K ≤ c_Me C) (h4 : fs[1]? = some (.int (nI n))) (hn : n < 2 ^ 31) : ∀ (m j f t : Nat) (o : Nat → Nat) (μ : z_M) (E : Nat → List Nat) (B : Nat) (G : s_G), h_go g C o μ E B G → s_inv (c_N C) K W t t [] 0 0 0 G → s_cc w_0 (c_N C) K [] 0 G → t + m ≤ 99 → (o r = 879 ∧ μ.1 r = some (h_rc C ak k2 k w)) → (o p = 0 ∧ μ.1 p = some (.inr (10, fs))) → j + m = n → m < f →
    ∃ o1 μ1 E', D_X11_does_88 g r p Kf f (nI j) μ = Kf μ1 ∧ h_go g C o1 μ1 E' (B + k_goMany (c_N C) (c_lk C) m G) (s_goMany (c_N C) (c_lk C) m G) ∧ h_fr g (fun a => 890 ≤ o a) o μ o1 μ1 := by
  intro m
  induction m with
  | zero =>
    intro j f t o μ E B G h hi hp0 ht hr hp hj hf
    obtain ⟨f, rfl⟩ : ∃ f', f = f' + 1 := ⟨f - 1, by omega⟩
    refine ⟨o, μ, E, ?_, h, h_fr.refl h.wf⟩
    conv => lhs; unfold D_X11_does_88
    rw [x_giS hp.2 h4, if_pos (by rw [show j = n by omega]; exact Int32.le_refl _)]
  | succ m ih =>
    intro j f t o μ E B G h hi hp0 ht hr hp hj hf
    obtain ⟨f, rfl⟩ : ∃ f', f = f' + 1 := ⟨f - 1, by omega⟩
    obtain ⟨o1, μ1, E1, e1, h1, F1⟩ := h.minuteI hi hp0 (by omega) hK hMw hMe
    have hi1 := hi.goesBy (by omega) (by omega) h.hN h.hlk
    have hp1 := hp0.goesBy0 hi (by omega) (by omega) h.hN h.hlk
    have l1 := h.wf.lt hr.2
    have l2 := h.wf.lt hp.2
    obtain ⟨o2, μ2, E2, e2, h2, F2⟩ := ih (j + 1) f (t + 1) o1 μ1 E1 _ _ h1 hi1 hp1 (by omega) ⟨(F1.2.1 r l1).trans hr.1, F1.cell h.wf hr.2 (by omega)⟩ ⟨(F1.2.1 p l2).trans hp.1, F1.cell h.wf hp.2 (by omega)⟩ (by omega) (by omega)
    refine ⟨o2, μ2, E2, ?_, ?_, F1.trans F2 (fun a ha q => by
      rcases q with q | q
      · exact q
      · rw [F1.2.1 a ha] at q; exact q)⟩
    · conv => lhs; unfold D_X11_does_88
      have e9 : nI j + (1 : Int32) = nI (j + 1) := nI_add j 1
      rw [x_giS hp.2 h4, if_neg (nI_ge (by omega) (by omega)), x_grR hr.2 rfl, x_oS, h.ob, e1, x_bS, x_lS, e9]
      exact e2
    · have eB : B + k_goMany (c_N C) (c_lk C) (m + 1) G = B + k_goesBy (c_N C) (c_lk C) G + k_goMany (c_N C) (c_lk C) m (s_goesBy (c_N C) (c_lk C) G) := by
        show B + (k_goesBy (c_N C) (c_lk C) G + k_goMany (c_N C) (c_lk C) m (s_goesBy (c_N C) (c_lk C) G)) = _
        omega
      rw [eB, s_goMany_succ]
      exact h2
/-- an ask is asked: nothing came of it before -/
theorem h_go.asked (h : h_go g C o μ E B G) (hk : g_came G 57 k = -1) : h_go g C o μ E B (s_asked k G) := by
  obtain ⟨⟨⟨h1, hw⟩, h2, h2t, h2m⟩, h3, ⟨h4, h5⟩, ⟨h6, h7⟩, ⟨fd, d1, d2, d3⟩, ⟨fe, e1, e2, e3⟩, cw, ce, ws, b1, b2, ⟨w1, w2⟩, n1⟩ := h
  refine ⟨⟨⟨h1, hw⟩, h2, h2t.same rfl rfl rfl, h2m⟩, h3, ⟨h4, h5⟩, ⟨h6, h7⟩, ⟨fd, d1, d2, d3⟩, ⟨fe, e1, e2, fun j hj => ?_⟩, cw, ce, ws, b1, b2, ⟨w1, w2⟩, n1⟩
  have hE := e3 j hj
  by_cases e : j = k
  · subst e
    cases hf : fe j with
    | none =>
      show _ ∨ (if j = j ∧ 57 = 57 then (0 : Int32) else _) = 0
      exact Or.inr (if_pos ⟨rfl, rfl⟩)
    | some x =>
      rw [hf] at hE
      obtain ⟨-, f, -, -, -, hc⟩ := hE
      rw [hk] at hc
      rcases hc with ⟨hc, -⟩ | ⟨hc, -⟩ | ⟨hc, -⟩ <;> exact absurd hc (by decide)
  · refine hE.congr (fun f => ?_)
    show (if j = k ∧ f = 57 then _ else if j = k ∧ f = 59 then _ else _) = _
    rw [if_neg (fun q => e q.1), if_neg (fun q => e q.1)]
end T93
