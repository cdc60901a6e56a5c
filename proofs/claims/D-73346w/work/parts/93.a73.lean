/-! THE COMPONENT's LAW, 73: the call alone -/
set_option maxRecDepth 100000
set_option maxHeartbeats 400000
set_option linter.unusedVariables false
section T93
variable {g : z_G} {C : h_C} {o o1 o2 : Nat → Nat} {μ μ1 μ2 : z_M} {E : Nat → List Nat} {a s x tb v i K q B w : Nat} {S : Nat → Prop} {N R L : s_R} {p : s_P} {T : s_T} {W : s_W} {G : s_G} {n r m k node ix what c wish : Int32} {cc : Nat → Nat → Int32}
/-- minutes until the 99th -/
theorem h_go.all99 (Kf : z_M → Option (Int32 × z_M)) (hK : K ≤ 60) (hMw : k_Mw (c_N C) K ≤ c_Mw C) (hMe : K ≤ c_Me C) (a0 : Nat) (wh : Int32) : ∀ (m f t : Nat) (o : Nat → Nat) (μ : z_M) (E : Nat → List Nat) (B : Nat) (G : s_G), h_go g C o μ E B G → s_inv (c_N C) K W t t [] 0 0 0 G → s_cc w_0 (c_N C) K [] 0 G → t + m = 99 → m < f →
    ∃ o1 μ1 E', D_X0_alone_69 g a0 wh (c_a C) Kf f μ = Kf μ1 ∧ h_go g C o1 μ1 E' (B + k_goMany (c_N C) (c_lk C) m G) (s_goMany (c_N C) (c_lk C) m G) ∧ h_fr g (fun a => 890 ≤ o a) o μ o1 μ1 := by
  intro m
  induction m with
  | zero =>
    intro f t o μ E B G h hi hp0 ht hf
    obtain ⟨f, rfl⟩ : ∃ f', f = f' + 1 := ⟨f - 1, by omega⟩
    refine ⟨o, μ, E, ?_, h, h_fr.refl h.wf⟩
    have h99 : t = 99 := by omega
    conv => lhs; unfold D_X0_alone_69
    rw [x_giS h.ca rfl, hi.1.1.1, h99, if_pos (show (99 : Int32) ≤ nI 99 by decide)]
  | succ m ih =>
    intro f t o μ E B G h hi hp0 ht hf
    obtain ⟨f, rfl⟩ : ∃ f', f = f' + 1 := ⟨f - 1, by omega⟩
    obtain ⟨o1, μ1, E1, e1, h1, F1⟩ := h.minuteI hi hp0 (by omega) hK hMw hMe
    have hi1 := hi.goesBy (by omega) (by omega) h.hN h.hlk
    have hp1 := hp0.goesBy0 hi (by omega) (by omega) h.hN h.hlk
    obtain ⟨o2, μ2, E2, e2, h2, F2⟩ := ih f (t + 1) o1 μ1 E1 _ _ h1 hi1 hp1 (by omega) (by omega)
    refine ⟨o2, μ2, E2, ?_, ?_, F1.trans F2 (fun a ha q => by
      rcases q with q | q
      · exact q
      · rw [F1.2.1 a ha] at q; exact q)⟩
    · conv => lhs; unfold D_X0_alone_69
      rw [x_giS h.ca rfl, hi.1.1.1, if_neg (show ¬ (99 : Int32) ≤ nI t from nI_ge (b := 99) (by omega) (by omega)), h.ob, e1, x_bS]
      exact e2
    · have eB : B + k_goMany (c_N C) (c_lk C) (m + 1) G = B + k_goesBy (c_N C) (c_lk C) G + k_goMany (c_N C) (c_lk C) m (s_goesBy (c_N C) (c_lk C) G) := by
        show B + (k_goesBy (c_N C) (c_lk C) G + k_goMany (c_N C) (c_lk C) m (s_goesBy (c_N C) (c_lk C) G)) = _
        omega
      rw [eB, s_goMany_succ]
      exact h2
theorem h_go.ofAsk2 (h : h_go g C o μ E B G) (hw : w < 7) (hne : g_came G 57 0 ≠ -1) : (x_gr μ (c_a C) 12 4 fun o43 => x_o o43 fun p47 => x_aa μ p47 6 fun n48 f49 => x_ga (0 : Int32) n48 fun j51 => x_l (f49 j51) fun o52 =>
    x_nu o52 (if nI w = 0 then (some ((0 : Int32), μ)) else some ((-1 : Int32), μ)) fun p53 => x_gr μ (c_a C) 12 4 fun o55 => x_o o55 fun p59 => x_aa μ p59 6 fun n60 f61 => x_ga (0 : Int32) n60 fun j63 => x_l (f61 j63) fun o64 => x_o o64 fun p65 => x_ar μ p65 0 fun n66 f67 => x_ga (nI w) n66 fun j69 => some ((f67 j69), μ)) = some (q_ofAsk G 0 (nI w), μ) := by
  have h0 := h.ofAsk (j := 0) (w := w) (by omega) hw hne
  obtain ⟨fe, f1, f2, f3⟩ := h.2.2.2.2.2.1
  rw [x_grR h.ca rfl, x_oS, x_aaS f2, show (0 : Int32) = nI 0 from rfl, x_gaT (by omega) (by omega), x_lS] at h0 ⊢
  cases hf : fe 0 with
  | none =>
    rw [hf, x_nuN] at h0
    rw [x_nuN]
    exact h0
  | some y =>
    rw [hf, x_nuS] at h0
    rw [x_nuS, x_grR h.ca rfl, x_oS, x_aaS f2, x_gaT (by omega) (by omega), x_lS, hf, x_oS]
    exact h0
theorem h_iv.alone (cc : Nat → Nat → Int32) (h : h_iv g o μ a T) : ∃ μ1, D_X0_alone g a n node c wish what μ = some (q_alone T cc n node c wish what, μ1) ∧ h_iv g (h_o9 o μ) μ1 a T ∧ h_u μ1 ≤ h_u μ + 8000 := by
  have hrefl : h_iv g (h_o9 o μ) μ a T := h.next (h_fr.refl h.2.1)
  unfold D_X0_alone q_alone
  by_cases c1 : s_nm c = true
  · obtain ⟨p9, μ3, e1, h1, hq, hu3, hle⟩ := h.name c1
    rw [e1, x_b2S, h1.2.2.2.ob, h1.isNode, x_bS]
    have h9 : h_o9 (h_o9 o μ) μ3 = h_o9 o μ := h_o9_o9 hle
    cases en : s_row (u_nets T.1) n with
    | none => exact ⟨μ3, if_pos rfl, h1, by omega⟩
    | some N =>
      have hN := h.nets en
      show ∃ μ1, (if (if (s_node N node).isSome = true then (1 : Int32) else 0) = 0 then _ else _) = some ((match s_node N node with
        | none => (-2 : Int32)
        | some b => if s_nm c = true ∧ (0 ≤ wish ∧ wish ≤ 1) ∧ (0 ≤ what ∧ what ≤ 2) then
            (if what = 2 then g_sent (s_goMany N (s_lk0 N none) 99 (s_ask N (s_lk0 N none) b 0 c wish (s_begin cc))) else q_ofAsk (s_goMany N (s_lk0 N none) 99 (s_ask N (s_lk0 N none) b 0 c wish (s_begin cc))) 0 what)
          else -2), μ1) ∧ _
      cases eb : s_node N node with
      | none => exact ⟨μ3, if_pos rfl, h1, by omega⟩
      | some b =>
        obtain ⟨b1, b2, b3⟩ := s_node_lt hN eb
        rw [if_neg (show ¬ (if (some b).isSome = true then (1 : Int32) else 0) = 0 from fun q => absurd (show (1 : Int32) = 0 from q) (by decide)), x_nuS, x_isIn, x_bS]
        show ∃ μ1, _ = some ((if s_nm c = true ∧ (0 ≤ wish ∧ wish ≤ 1) ∧ (0 ≤ what ∧ what ≤ 2) then
            (if what = 2 then g_sent (s_goMany N (s_lk0 N none) 99 (s_ask N (s_lk0 N none) b 0 c wish (s_begin cc))) else q_ofAsk (s_goMany N (s_lk0 N none) 99 (s_ask N (s_lk0 N none) b 0 c wish (s_begin cc))) 0 what)
          else (-2 : Int32)), μ1) ∧ _
        by_cases c2 : 0 ≤ wish ∧ wish ≤ 1
        · have e2 : s_i (0 ≤ wish ∧ wish ≤ 1) = 1 := if_pos c2
          rw [e2, if_neg (show ¬ (1 : Int32) = 0 by decide), x_isIn, x_bS]
          by_cases c3 : 0 ≤ what ∧ what ≤ 2
          · have e3 : s_i (0 ≤ what ∧ what ≤ 2) = 1 := if_pos c3
            rw [e3, if_neg (show ¬ (1 : Int32) = 0 by decide), if_pos (show s_nm c = true ∧ (0 ≤ wish ∧ wish ≤ 1) ∧ (0 ≤ what ∧ what ≤ 2) from ⟨c1, c2, c3⟩)]
            obtain ⟨o4, μ4, C, e4, ⟨d1, d2, d3, d4⟩, hg4, F4⟩ := h1.newG (K := 1) cc en (by omega)
            have hwn : s_wn c := s_nm_wn c1
            have hw01 : wish = 0 ∨ wish = 1 := by
              obtain ⟨e1, e2, e3⟩ := s_between (a := 0) (b := 1) rfl rfl (by omega) (by omega) c2
              rcases (show v_ wish = 0 ∨ v_ wish = 1 by omega) with q | q
              · left; rw [e1, q]; rfl
              · right; rw [e1, q]; rfl
            have hlk := s_lk0_ok (N := N) (away := none) hN
            have hq4 := hq.fr F4 h1.2.1 (fun _ _ q => q)
            have hi0 : s_inv N 0 (fun _ => (0, 0)) 0 0 [] 0 0 0 (s_begin cc) := s_inv_begin
            have hc0 : s_cc w_1 N 0 [] 0 (s_begin cc) := s_cc_begin
            subst d1
            have hg4' : h_go g C o4 μ4 (fun _ => []) (h_u μ3 + 450) (s_asked 0 (s_begin cc)) := hg4.asked rfl
            obtain ⟨o5, μ5, E5, e5, hg5, F5⟩ := hg4'.askI (n := b) (k := 0) (W := fun _ => (0, 0)) (hi0.congr rfl rfl rfl) ((s_cc_begin (c := cc)).congr rfl rfl) (by omega) (by rw [d3]; exact k_Mw_mono (by omega)) (by omega) b2 hwn hq4 hw01
            have hi5 := s_inv.ask (k := 0) (n := b) (name := c) (wish := wish) hi0 hN hlk (by omega) b1 hwn hw01
            have hp5 := s_cc.ask0 (k := 0) (n := b) (name := c) (wish := wish) (s_cc_begin (N := c_N C) (c := cc)) hN hlk (by omega) b1
            have hc5 := s_cc.ask (k := 0) (n := b) (name := c) (wish := wish) hc0 w_1_ok hN hlk (by omega) b1
            rw [← d2] at hi5 hp5 hc5
            rw [← d2]
            have hcv5 := s_cinv.ask (N := c_N C) (lk := c_lk C) (k := 0) (n := b) (name := c) (wish := wish) (s_cinv_begin (c := cc)) (by omega) b1
            obtain ⟨o6, μ6, E6, e6, hg6, F6⟩ := h_go.all99 (g := g) (C := C) (K := 1) (fun μ41 => if what = (2 : Int32) then (x_gi μ41 (c_a C) 12 6 fun x70 => some (x70, μ41)) else
              x_gr μ41 (c_a C) 12 4 fun o43 => x_o o43 fun p47 => x_aa μ41 p47 6 fun n48 f49 => x_ga (0 : Int32) n48 fun j51 => x_l (f49 j51) fun o52 => x_nu o52 (if what = 0 then (some ((0 : Int32), μ41)) else
              some ((-1 : Int32), μ41)) fun p53 => x_gr μ41 (c_a C) 12 4 fun o55 => x_o o55 fun p59 => x_aa μ41 p59 6 fun n60 f61 => x_ga (0 : Int32) n60 fun j63 => x_l (f61 j63) fun o64 => x_o o64 fun p65 => x_ar μ41 p65 0 fun n66 f67 => x_ga what n66 fun j69 => some ((f67 j69), μ41)) (by omega) (by rw [d3]; exact Nat.le_refl _) (by omega) a what 99 x_F 0 o5 μ5 E5 _ _ hg5 hi5 hp5 rfl (by rw [x_Fv]; omega)
            have hcv6 := s_cinv.goMany (K := 1) (by omega) hg4.hN hg4.hlk 99 (by omega) hi5 hcv5
            have hi6 := s_inv.goMany (K := 1) (by omega) hg4.hN hg4.hlk 99 (by omega) hi5
            have hc6 := s_cc.goMany (K := 1) w_1_ok (by omega) hg4.hN hg4.hlk 99 0 _ _ (by omega) hc5 hi5
            have hne : g_came (s_goMany (c_N C) (c_lk C) 99 (s_ask (c_N C) (c_lk C) b 0 c wish (s_begin cc))) 57 0 ≠ -1 := by
              obtain ⟨a1, -, -, z3⟩ := (hcv6.2.2 0 (by omega)).2 s_up1_s
              intro q
              rw [q] at z3
              rcases z3 with z3 | ⟨z3 | z3 | z3, -⟩ <;> exact absurd z3 (by decide)
            refine ⟨μ6, ?_, ?_, ?_⟩
            · rw [e4, hg4.ob, b3]
              have e5' : D_X12_asks g (c_a C) (nI b) (-1) (some p9) wish 0 μ4 = some μ5 := e5
              rw [e5', x_bS]
              refine e6.trans ?_
              obtain ⟨w1, w2, w3⟩ := s_between (a := 0) (b := 2) rfl rfl (by omega) (by omega) c3
              by_cases cw : what = 2
              · rw [if_pos cw, if_pos cw, x_giS hg6.ca rfl]
                rfl
              · rw [if_neg cw, if_neg cw, w1]
                exact hg6.ofAsk2 (by omega) hne
            · rw [← h9]
              exact h1.next ((F4.mono (S := fun a => 879 ≤ h_o9 o μ a) (fun _ _ q => q.elim)).trans (F5.trans F6 (S := fun a => 890 ≤ o4 a) (fun a ha q => by
                rcases q with q | q
                · omega
                · rw [F5.2.1 a ha] at q; exact q)) (fun a ha q => by
                rcases q with q | q
                · exact q
                · rw [F4.2.1 a ha] at q; omega))
            · have u6 := hg6.cost
              have r12 := n_routes12 hg4.hN
              have rT := s_TS_le (c_N C)
              have t6 := hc6.top hi6 (by omega)
              have kr := k_rooms_le (N := c_N C) (D := 1) d3 d4
              have z1 : w_i w_1 * (1 * s_TS (c_N C)) = 266 * s_TS (c_N C) := by rw [Nat.one_mul]; rfl
              have z2 : w_e w_1 + w_a w_1 = 77 := rfl
              have z3 : 15 * w_s w_1 * 99 = 1485 := rfl
              have z4 : w_s w_1 * k_goMany (c_N C) (c_lk C) 99 (s_ask (c_N C) (c_lk C) b 0 c wish (s_begin cc)) = k_goMany (c_N C) (c_lk C) 99 (s_ask (c_N C) (c_lk C) b 0 c wish (s_begin cc)) := Nat.one_mul _
              rw [z1, z2, z3, z4] at t6
              have u6' : h_u μ6 ≤ h_u μ3 + 450 + 469 + k_goMany (c_N C) (c_lk C) 99 (s_ask (c_N C) (c_lk C) b 0 c wish (s_begin cc)) + k_rooms C := u6
              omega
          · have e3 : s_i (0 ≤ what ∧ what ≤ 2) = 0 := if_neg c3
            rw [e3, if_pos rfl, if_neg (fun q => c3 q.2.2)]
            exact ⟨μ3, rfl, h1, by omega⟩
        · have e2 : s_i (0 ≤ wish ∧ wish ≤ 1) = 0 := if_neg c2
          rw [e2, if_pos rfl, if_neg (fun q => c2 q.2.1)]
          exact ⟨μ3, rfl, h1, by omega⟩
  · have e1 : D_X0_name g c μ = some (none, μ) := h_nameN (by cases q : s_nm c; rfl; exact absurd q c1)
    rw [e1, x_b2S, h.2.2.2.ob, h.isNode, x_bS]
    refine ⟨μ, ?_, hrefl, by omega⟩
    cases en : s_row (u_nets T.1) n with
    | none => exact if_pos rfl
    | some N =>
      show (if (if (s_node N node).isSome = true then (1 : Int32) else 0) = 0 then _ else _) = some ((match s_node N node with
        | none => (-2 : Int32)
        | some b => if s_nm c = true ∧ (0 ≤ wish ∧ wish ≤ 1) ∧ (0 ≤ what ∧ what ≤ 2) then _ else -2), μ)
      cases eb : s_node N node with
      | none => exact if_pos rfl
      | some b =>
        show _ = some ((if s_nm c = true ∧ (0 ≤ wish ∧ wish ≤ 1) ∧ (0 ≤ what ∧ what ≤ 2) then _ else (-2 : Int32)), μ)
        rw [if_neg (show ¬ (if (some b).isSome = true then (1 : Int32) else 0) = 0 from fun q => absurd (show (1 : Int32) = 0 from q) (by decide)), x_nuN, if_neg (fun q => c1 q.1)]
end T93
