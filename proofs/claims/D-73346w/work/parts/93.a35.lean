/-! THE COMPONENT's LAW, 35: refusals to all -/
set_option maxRecDepth 100000
set_option linter.unusedVariables false
section T93
variable {g : z_G} {C : h_C} {o o1 : Nat → Nat} {μ μ1 : z_M} {E : Nat → List Nat} {B b p n q k w a0 t l x ce i c j d pit al ca fr pm dep : Nat} {G G' : s_G} {S : Nat → Prop} {N : s_R} {xs es cs : List Nat} {nd : s_N} {ms : Nat → Int32} {but nonce name wish ends src v : Int32} {e : s_E} {fs : List Value} {r : s_Q} {m : s_M}
theorem h_en.f01 (h : h_en g o μ n p e) : ∃ fs nm, μ.1 p = some (.inr (17, fs)) ∧ fs[0]? = some (.ref nm) ∧ fs[1]? = some (.int (e_wish e)) ∧ fs[6]? = some (.int (e_in e)) ∧ fs[7]? = some (.int (e_out e)) ∧ fs[5]? = some (.long (e_nonces e)) ∧ h_nm o μ nm (v_ (e_name e)) ∧ s_wn (e_name e) := by
  obtain ⟨h0, h1, h2, q, al, ca, h3, h4, h5⟩ := h
  exact ⟨_, q, h3, rfl, rfl, rfl, rfl, rfl, h4, h1⟩
/-- a refusal to the nodes of an entry -/
theorem h_go.nackAll (K : z_M → Option z_M) (h : h_go g C o μ E B G) (hn : n < n_nodes (c_N C)) (hen : h_en g o μ n p e) (hy : h_why o μ (d + 1) w r.2.1 r.2.2.1) (hd : d ≤ v_ (g_minute G)) (hr1 : r.1 = nI (d + 1)) (hl : (g_ways G).length + 6 ≤ c_Mw C) :
    ∃ o1 μ1, D_X12_hears_86 g (c_a C) (nI n) p w K x_F 0 μ = K μ1 ∧ h_go g C o1 μ1 E (B + 20 * s_popK (e_in e) (n_nodes (c_N C))) (s_nackAll (c_N C) (c_lk C) n (e_in e) (e_name e) (e_wish e) r G) ∧ h_fr g (fun a => o a = 1000 ∨ o a = 1001) o μ o1 μ1 := by
  have hN := h.hN
  have h6 : n_nodes (c_N C) ≤ 6 := hN.1.1.2
  have e0 : c_N C 0 = nI (n_nodes (c_N C)) := hN.1.1.1
  obtain ⟨μ1, e1, o1, r1, r2, r3, r4⟩ := x_forS (γ := z_M) (δ := s_G) (β := Option z_M)
    (R := fun k s G' => ∃ o', h_go g C o' s E (B + 20 * s_popK (e_in e) k) G' ∧ h_fr g (fun a => o a = 1000 ∨ o a = 1001) o μ o' s ∧ (g_ways G').length ≤ (g_ways G).length + k ∧ g_minute G' = g_minute G)
    (L := fun fu k s => D_X12_hears_86 g (c_a C) (nI n) p w K fu (nI k) s)
    (K := K) (st := fun to G => if s_bit (e_in e) (nI to) = true then s_nack (c_N C) (c_lk C) n to (e_name e) (e_wish e) r G else G) (n := n_nodes (c_N C))
    (fun fu s G' hR => by
      obtain ⟨o', h1, f1, l1, t1⟩ := hR
      obtain ⟨fs, rl, nr, hp, hk5, hk0, -⟩ := h1.routes
      show D_X12_hears_86 _ _ _ _ _ _ (fu + 1) _ _ = _
      unfold D_X12_hears_86
      rw [x_grR h1.ca rfl, x_oS, x_giS hp hk0, e0, if_pos (Int32.le_refl _)])
    (fun fu k s G' hR hk => by
      obtain ⟨o', h1, f1, l1, t1⟩ := hR
      obtain ⟨fs, rl, nr, hp, hk5, hk0, -⟩ := h1.routes
      have S0 : ∀ a, o a = 0 → ¬ (o a = 1000 ∨ o a = 1001) := fun a ha => by omega
      have hen1 := hen.fr f1 h.wf S0 (fun a ha (q : o a = 1000 ∨ o a = 1001) => by have := hen.1; omega)
      have hy1 := h_why.fr f1 h.wf S0 hy
      obtain ⟨fe, nm, c1, c2, c3, c4, -, -, c5, c6⟩ := hen1.f01
      have hstep : D_X12_hears_86 g (c_a C) (nI n) p w K (fu + 1) (nI k) s = (if s_bit (e_in e) (nI k) = true then x_b (D_X12_refuses g (c_a C) (nI n) (nI k) (-1 : Int32) (some nm) (e_wish e) (some w) s) fun μ97 => D_X12_hears_86 g (c_a C) (nI n) p w K fu (nI (k + 1)) μ97 else D_X12_hears_86 g (c_a C) (nI n) p w K fu (nI (k + 1)) s) := by
        conv => lhs; unfold D_X12_hears_86
        rw [x_grR h1.ca rfl, x_oS, x_giS hp hk0, e0, if_neg (nI_ge hk (by omega)), x_giS c1 c4, x_has, x_bS]
        by_cases cb : s_bit (e_in e) (nI k) = true
        · rw [if_pos cb, if_neg (show ¬ (1 : Int32) = 0 by decide), x_grR c1 c2, x_giS c1 c3, h1.ob, if_pos cb]
          congr 1
          funext μ213
          rw [x_lS, nI_1]
        · rw [if_neg cb, if_pos rfl, x_lS, nI_1, if_neg cb]
      by_cases cb : s_bit (e_in e) (nI k) = true
      · have eP : s_popK (e_in e) (k + 1) = s_popK (e_in e) k + 1 := by
          show s_popK (e_in e) k + s_b1 (e_in e) k = _
          unfold s_b1
          rw [if_pos cb]
        obtain ⟨o2, μ2, e2, h2, f2⟩ := h1.refN (a3 := -1) (wish := e_wish e) hn hk c6 c5 hy1 (by rw [t1]; exact hd) hr1 (by omega)
        refine ⟨μ2, by rw [hstep, if_pos cb, e2, x_bS], o2, ?_, f1.trans f2 (fun a ha q => ?_), ?_, ?_⟩
        · show h_go g C o2 μ2 E _ (if s_bit (e_in e) (nI k) = true then s_nack (c_N C) (c_lk C) n k (e_name e) (e_wish e) r G' else G')
          rw [if_pos cb, eP]
          unfold s_nack
          rw [if_pos (by omega)]
          exact h2.le (by omega)
        · rcases q with q | q
          · exact q
          · rw [f1.2.1 a ha] at q; exact q
        · show (g_ways (if s_bit (e_in e) (nI k) = true then s_nack (c_N C) (c_lk C) n k (e_name e) (e_wish e) r G' else G')).length ≤ _
          rw [if_pos cb]
          have := (g_nd_nack (N := c_N C) (lk := c_lk C) (name := e_name e) (wish := e_wish e) (n := n) (t := k) (r := r) (G := G')).2
          omega
        · show g_minute (if s_bit (e_in e) (nI k) = true then s_nack (c_N C) (c_lk C) n k (e_name e) (e_wish e) r G' else G') = _
          rw [if_pos cb]
          unfold s_nack
          rw [if_pos (by omega)]
          unfold s_send
          split <;> exact t1
      · have eP : s_popK (e_in e) (k + 1) = s_popK (e_in e) k := by
          show s_popK (e_in e) k + s_b1 (e_in e) k = _
          unfold s_b1
          rw [if_neg cb]
          rfl
        refine ⟨s, by rw [hstep, if_neg cb], o', ?_, f1, ?_, ?_⟩
        · show h_go g C o' s E _ (if s_bit (e_in e) (nI k) = true then s_nack (c_N C) (c_lk C) n k (e_name e) (e_wish e) r G' else G')
          rw [if_neg cb, eP]
          exact h1
        · show (g_ways (if s_bit (e_in e) (nI k) = true then s_nack (c_N C) (c_lk C) n k (e_name e) (e_wish e) r G' else G')).length ≤ _
          rw [if_neg cb]
          omega
        · show g_minute (if s_bit (e_in e) (nI k) = true then s_nack (c_N C) (c_lk C) n k (e_name e) (e_wish e) r G' else G') = _
          rw [if_neg cb]
          exact t1)
    x_F 0 μ G (Nat.zero_le _) ⟨o, h, h_fr.refl h.wf, Nat.le_refl _, rfl⟩ (by rw [x_Fv]; omega)
  rw [Nat.sub_zero] at r1
  exact ⟨o1, μ1, e1, r1, r2⟩
/-- a refusal to the asks of an entry -/
theorem h_go.refuseAll (K : z_M → Option z_M) (h : h_go g C o μ E B G) (hen : h_en g o μ n p e) (hy : h_why o μ (d + 1) w r.2.1 r.2.2.1) (hd : d < 9000) (hr1 : r.1 = nI (d + 1)) :
    ∃ o1 μ1, (x_gr μ p 17 4 fun o100 => x_o o100 fun p104 => x_ob μ p104 3 fun _ => x_b2 (D_J2_iterator g p104 μ) fun o108 μ109 => D_X12_hears_147 g (c_a C) (nI i) p w o108 K x_F μ109) = K μ1 ∧
      h_go g C o1 μ1 E (B + (9 + 23 * (s_setL (e_asks e)).length)) (s_refuseAll (e_asks e) r G) ∧ h_fr g (fun a => o a = 1000) o μ o1 μ1 := by
  obtain ⟨fs, al, ca, c1, c2, hL⟩ := hen.asks
  have hlen := s_setL_le (e_asks e)
  obtain ⟨μ2, e2, hI, f2, n2, u2⟩ := hL.iter (t' := 900) h.wf
  have h2 := h.fr (b := 9) f2 (fun a q => q.elim) (by omega)
  obtain ⟨μ3, e3, o3, r1, r2, r3, r4⟩ := x_forL (γ := z_M) (δ := s_G) (β := Option z_M) (s_setL (e_asks e))
    (R := fun k s G' => ∃ o', h_go g C o' s E (B + (9 + 23 * k)) G' ∧ h_it s μ.2.1 al k ∧ o' μ.2.1 = 900 ∧ h_fr g (fun a => o a = 1000) o μ o' s)
    (L := fun fu s => D_X12_hears_147 g (c_a C) (nI i) p w (some μ.2.1) K fu s)
    (K := K) (f := fun k G => s_refuse r k G)
    (fun fu s G' hR => by
      obtain ⟨o', h1, i1, o1, f1⟩ := hR
      have hL1 := hL.fr f1 h.wf (fun a ha (q : o a = 1000) => by have := hen.1; omega)
      show D_X12_hears_147 _ _ _ _ _ _ _ (fu + 1) _ = _
      unfold D_X12_hears_147
      rw [x_oS]
      exact i1.stop hL1 _ _)
    (fun fu k m s G' hR hk => by
      obtain ⟨o', h1, i1, o1, f1⟩ := hR
      have S0 : ∀ a, o a = 0 → ¬ o a = 1000 := fun a ha => by omega
      have hL1 := hL.fr f1 h.wf (fun a ha (q : o a = 1000) => by have := hen.1; omega)
      have hm61 : m < 61 := hen.2.2.1 m (s_setL_mem (List.mem_of_getElem? hk)).1 (s_setL_mem (List.mem_of_getElem? hk)).2
      obtain ⟨μ4, e4, i4, f4, u4⟩ := i1.int hL1 h1.wf h.ok hk (by omega) (fun x131 μ126 => x_gr μ126 p 17 0 fun o132 => x_gi μ126 p 17 1 fun x136 => x_ob μ126 (c_a C) 12 fun _ => x_b (D_X12_refuses g (c_a C) (nI i) (-1 : Int32) x131 o132 x136 (some w) μ126) fun μ143 => D_X12_hears_147 g (c_a C) (nI i) p w (some μ.2.1) K fu μ143) (K s)
      have f14 : h_fr g (fun a => o a = 1000) o μ o' μ4 := f1.trans f4 (fun a ha q => by
        rcases q with q | q
        · exact q
        · omega)
      have h4 := h1.fr (b := 0) f4 (fun a q => by rw [q, o1]; omega) (by unfold h_u; rw [u4]; omega)
      have hen4 := hen.fr f14 h.wf S0 (fun a ha (q : o a = 1000) => by have := hen.1; omega)
      have hy4 := h_why.fr f14 h.wf S0 hy
      obtain ⟨fe, nm, d1, d2, d3, -⟩ := hen4.f01
      obtain ⟨o5, μ5, e5, h5, f5⟩ := h4.refK (k := m) (a1 := nI i) (a4 := some nm) (a5 := e_wish e) (r := r) hm61 hy4 hd hr1
      have hpl : μ.2.1 < s.2.1 := by
        obtain ⟨x, mm, arr, sz, k1, k2⟩ := i1
        exact h1.wf.lt k1
      have hp4 : μ.2.1 < μ4.2.1 := by rw [u4]; exact hpl
      refine ⟨μ5, ?_, o5, h5.le (by omega), i4.fr f5 f4.wf (fun (q : o' μ.2.1 = 1000) => by omega) (fun (q : o' al = 1000) => by have := hL1.1; have := hen.1; have := f1.2.1 p (hen.lt h.wf); omega), (f5.2.1 _ hp4).trans o1, f14.trans f5 (fun a ha q => ?_)⟩
      · show D_X12_hears_147 _ _ _ _ _ _ _ (fu + 1) _ = _
        conv => lhs; unfold D_X12_hears_147
        rw [x_oS]
        refine e4.trans ?_
        rw [x_grR d1 d2, x_giS d1 d3, h4.ob, e5, x_bS]
      · rcases q with q | q
        · exact q
        · rw [f14.2.1 a ha] at q; exact q)
    x_F μ2 G ⟨h_o1 o μ.2.1 900, h2, hI, if_pos rfl, f2.mono (fun a _ q => q.elim)⟩ (by rw [x_Fv]; omega)
  refine ⟨o3, μ3, ?_, ?_, r4⟩
  · rw [x_grR c1 c2, x_oS, hL.obK, e2, x_b2S]
    exact e3
  · rw [s_refuseAllL]
    exact r1
theorem s_close_eq {x : Int64} : g_sdead (g_ses G n ((g_es G n).eraseIdx i)) n (g_dead (g_ses G n ((g_es G n).eraseIdx i)) n ||| x) = s_close n i x G := by
  rw [s_close_snd]
  have e1 : g_nd (g_ses G n ((g_es G n).eraseIdx i)) n = ((g_es G n).eraseIdx i, (g_nd G n).2) := s_up1_s
  have e2 : g_dead (g_ses G n ((g_es G n).eraseIdx i)) n = (g_nd G n).2.2 := by
    unfold g_dead
    rw [e1]
  unfold g_sdead
  rw [e2, e1]
  show g_snd (g_snd G (s_up1 (g_nd G) n ((g_es G n).eraseIdx i, (g_nd G n).2))) (s_up1 (s_up1 (g_nd G) n ((g_es G n).eraseIdx i, (g_nd G n).2)) n ((g_es G n).eraseIdx i, (g_nd G n).2.1, (g_nd G n).2.2 ||| x)) = g_snd G (s_clo n i x (g_nd G))
  rw [s_up1_up1]
  rfl
end T93
