/-! THE COMPONENT's LAW, 38: a node's entries end; all nodes' -/
set_option maxRecDepth 100000
set_option linter.unusedVariables false
section T93
variable {g : z_G} {C : h_C} {o o1 : Nat → Nat} {μ μ1 : z_M} {E : Nat → List Nat} {B b p n q k w a0 t l x ce i c j d pit al ca fr pm dep tm : Nat} {G G' : s_G} {S : Nat → Prop} {N : s_R} {xs es cs : List Nat} {nd : s_N} {ms : Nat → Int32} {but nonce name wish ends src v : Int32} {e : s_E} {fs : List Value} {r : s_Q} {m : s_M}
theorem g_es_close {y : Int64} : g_es (s_close n i y G) n = (g_es G n).eraseIdx i := by
  rw [s_close_snd]
  show (s_clo n i y (g_nd G) n).1 = _
  unfold s_clo
  rw [s_up1_s]
  rfl
theorem g_es_close_ne {y : Int64} {k : Nat} (h : k ≠ n) : g_es (s_close n i y G) k = g_es G k := by
  rw [s_close_snd]
  show (s_clo n i y (g_nd G) k).1 = _
  unfold s_clo
  rw [s_up1_n h]
  rfl
theorem s_lateAll_min {set : Int64} : g_minute (s_lateAll set G) = g_minute G := by
  have H : ∀ m k G, g_minute (s_fold (fun k G => if s_hasL set (nI k) = true then s_late k G else G) k m G) = g_minute G := by
    intro m
    induction m with
    | zero => intro k G; rfl
    | succ m ih =>
      intro k G
      show g_minute (s_fold _ (k + 1) m (if s_hasL set (nI k) = true then s_late k G else G)) = _
      rw [ih]
      by_cases c : s_hasL set (nI k) = true
      · rw [if_pos c]; rfl
      · rw [if_neg c]
  exact H 64 0 G
theorem s_lateAll_ways {set : Int64} : g_ways (s_lateAll set G) = g_ways G := by
  have H : ∀ m k G, g_ways (s_fold (fun k G => if s_hasL set (nI k) = true then s_late k G else G) k m G) = g_ways G := by
    intro m
    induction m with
    | zero => intro k G; rfl
    | succ m ih =>
      intro k G
      show g_ways (s_fold _ (k + 1) m (if s_hasL set (nI k) = true then s_late k G else G)) = _
      rw [ih]
      by_cases c : s_hasL set (nI k) = true
      · rw [if_pos c]; rfl
      · rw [if_neg c]
  exact H 64 0 G
theorem s_ends1_esX : g_es (s_ends1 N n i e G) n = (g_es G n).eraseIdx i := by
  rw [s_ends1_close]
  unfold g_es
  rw [s_lateAll_nd]
  exact g_es_close
theorem s_ends1_es_ne {k : Nat} (h : k ≠ n) : g_es (s_ends1 N n i e G) k = g_es G k := by
  rw [s_ends1_close]
  unfold g_es
  rw [s_lateAll_nd]
  exact g_es_close_ne h
theorem s_ends1_min : g_minute (s_ends1 N n i e G) = g_minute G := by
  rw [s_ends1_close, s_lateAll_min]
  show g_minute (s_close n i (e_nonces e) G) = _
  rw [s_close_snd]
  rfl
theorem s_ends1_ways : g_ways (s_ends1 N n i e G) = g_ways G := by
  rw [s_ends1_close, s_lateAll_ways]
  show g_ways (s_close n i (e_nonces e) G) = _
  rw [s_close_snd]
  rfl
theorem h_go.runsOut2 (K : z_M → Option z_M) (hqn : (c_ns C)[n]? = some q) (ht : tm ≤ 99) : ∀ (m i f : Nat) (o : Nat → Nat) (μ : z_M) (E : Nat → List Nat) (B : Nat) (G : s_G), h_go g C o μ E B G → (g_es G n).length = i + m → m < f → g_minute G = nI tm → s_eo tm (g_es G n) →
    ∃ o1 μ1 E', D_X12_runsOut_2 g (c_a C) (some q) K f (nI i) μ = K μ1 ∧ h_go g C o1 μ1 E' (B + k_endsN (c_N C) n m i G) (s_endsN (c_N C) n m i G) ∧ h_fr g (fun a => 1000 ≤ o a) o μ o1 μ1 := by
  intro m
  induction m with
  | zero =>
    intro i f o μ E B G h hlen hf hmin heo
    obtain ⟨f, rfl⟩ : ∃ f', f = f' + 1 := ⟨f - 1, by omega⟩
    obtain ⟨ce, hno, hce, -, -, -⟩ := h.node hqn
    obtain ⟨-, _, _, _, _, _, c1, -, ⟨k4, k5, -⟩, -⟩ := hno
    have hMe : c_Me C ≤ 64 := h.1.2.2.2.2
    have hkl : (E n).length ≤ i := by rw [k5.1]; show (g_es G n).length ≤ i; omega
    have hbb := k4.2.1
    refine ⟨o, μ, E, ?_, h.le (by omega), h_fr.refl h.wf⟩
    conv => lhs; unfold D_X12_runsOut_2
    rw [x_oS, x_lsz c1 rfl k4, if_pos (nI_le hkl (by rw [k5.1] at *; have : (g_es G n).length = (g_nd G n).1.length := rfl; omega))]
  | succ m ih =>
    intro i f o μ E B G h hlen hf hmin heo
    obtain ⟨f, rfl⟩ : ∃ f', f = f' + 1 := ⟨f - 1, by omega⟩
    obtain ⟨ce, hno, hce, hn6, hnn, -⟩ := h.node hqn
    have hno' := hno
    obtain ⟨-, _, _, _, _, _, c1, -, ⟨k4, k5, -⟩, -⟩ := hno'
    have hMe : c_Me C ≤ 64 := h.1.2.2.2.2
    have hlE : (E n).length = (g_es G n).length := k5.1
    obtain ⟨p, hp⟩ := h_at (xs := E n) (n := (E n).length) (k := i) rfl (by omega)
    obtain ⟨e, he, hen⟩ := k5.getL hp
    have he' : (g_es G n)[i]? = some e := he
    obtain ⟨⟨x, x1, x2, x3⟩, out, out1, out2⟩ := heo e (List.mem_of_getElem? he')
    have hA : z_isA g μ p "AskedNames$Entry" := hen.isA
    have hen' := hen
    obtain ⟨-, -, -, nm, al, ca, c3, -, -⟩ := hen'
    have hbb := k4.2.1
    have hcond : (e_ends e ≤ g_minute G) ↔ e_ends e = g_minute G := by
      rw [x3, hmin]
      constructor
      · intro q
        rw [Int32.le_iff_toInt_le, nI_toInt (by omega), nI_toInt (by omega)] at q
        rw [show x = tm from by omega]
      · intro q; rw [q]; exact Int32.le_refl _
    unfold s_endsN k_endsN
    rw [he']
    show ∃ o1 μ1 E', _ ∧ h_go g C o1 μ1 E' (B + (if e_ends e = g_minute G then _ else _)) (if e_ends e = g_minute G then _ else _) ∧ _
    by_cases cend : e_ends e = g_minute G
    · rw [if_pos cend, if_pos cend]
      obtain ⟨μ1, r1, h1, f1, u1⟩ := h.removeE hqn hp
      have hen1 := hen.fr f1 h.wf (fun a ha (q : o a = 1020 + n) => by omega) (fun a ha (q : o a = 1020 + n) => by have := hen.1; omega)
      obtain ⟨g1, μ2, g2, h2, f2⟩ := h1.setDead (y := g_dead (g_ses G n ((g_es G n).eraseIdx i)) n ||| e_nonces e) hqn
      rw [s_close_eq] at h2
      have hen2 := hen1.fr f2 h1.wf (fun a ha (q : o a = 1030 + n) => by omega) (fun a ha (q : o a = 1030 + n) => by have := hen1.1; omega)
      obtain ⟨life1, life2⟩ := h.hN.2.1
      obtain ⟨fsq, ml, fm, μ3, w1, w2, w3, w4, h3, f3⟩ := h2.setMeas (fr := out) (v := c_N C 1) hqn out1 ⟨n_life (c_N C), life1.2, life1.1⟩
      have hen3 := hen2.fr f3 h2.wf (fun a ha (q : o a = 1030 + n) => by omega) (fun a ha (q : o a = 1030 + n) => by have := hen2.1; omega)
      obtain ⟨o4, μ4, e4, h4, f4⟩ := h3.lateAll (v1 := q) (v2 := nI i) (fun (μ131 : z_M) => D_X12_runsOut_2 g (c_a C) (some q) K f (nI i) μ131) hen3
      have eS : s_lateAll (e_asks e) (g_smeas (s_close n i (e_nonces e) G) (s_up1 (g_meas (s_close n i (e_nonces e) G)) (6 * n + out) (c_N C 1))) = s_ends1 (c_N C) n i e G := by
        rw [s_ends1_close, out2, v_nI (by omega)]
        congr 2
      rw [eS] at h4
      obtain ⟨o5, μ5, E5, e5, h5, f5⟩ := ih i f o4 μ4 _ _ _ h4 (by rw [s_ends1_esX, List.length_eraseIdx, if_pos (by omega)]; omega) (by omega) (by rw [s_ends1_min]; exact hmin) (by
        rw [s_ends1_esX]
        exact fun e' he' => heo e' (List.mem_of_mem_eraseIdx he'))
      have f13 : h_fr g (fun a => 1000 ≤ o a) o μ o μ3 := (f1.trans f2 (S := fun a => 1000 ≤ o a) (fun a _ q => by rcases q with q | q <;> omega)).trans f3 (fun a _ q => by rcases q with q | q <;> omega)
      have f14 : h_fr g (fun a => 1000 ≤ o a) o μ o4 μ4 := f13.trans f4 (fun a _ q => by rcases q with q | q <;> omega)
      refine ⟨o5, μ5, E5, ?_, h5.le (by omega), f14.trans f5 (fun a ha q => ?_)⟩
      · conv => lhs; unfold D_X12_runsOut_2
        rw [x_oS, x_lsz c1 rfl k4, if_neg (nI_ge (by omega) (by omega)), x_lgt c1 rfl k4 hp hA, x_oS, x_giS c3 rfl, x_giS h.ca rfl, if_pos (hcond.mpr cend)]
        refine (r1 _ _).trans ?_
        obtain ⟨fe1, nm1, d1, -, -, -, d5, d6, -, -⟩ := hen1.f01
        obtain ⟨fe2, nm2, d21, -, -, -, d25, -, -, -⟩ := hen2.f01
        obtain ⟨fs5, p1, p2⟩ := h2.net1
        rw [g1, x_glS d1 d6, g2, x_grR w1 w2, x_giS d21 d25, out2, x_grR h2.ca rfl, x_oS, x_giS p1 p2, x_oS]
        refine (x_arW w3 (i := nI out) rfl (by omega) (by omega)).trans ?_
        rw [← w4]
        exact e4.trans e5
      · rcases q with q | q
        · exact q
        · rw [f14.2.1 a ha] at q; exact q
    · rw [if_neg cend, if_neg cend]
      obtain ⟨o5, μ5, E5, e5, h5, f5⟩ := ih (i + 1) f o μ E B G h (by omega) (by omega) hmin heo
      refine ⟨o5, μ5, E5, ?_, h5, f5⟩
      conv => lhs; unfold D_X12_runsOut_2
      rw [x_oS, x_lsz c1 rfl k4, if_neg (nI_ge (by omega) (by omega)), x_lgt c1 rfl k4 hp hA, x_oS, x_giS c3 rfl, x_giS h.ca rfl, if_neg (fun q => cend (hcond.mp q)), x_lS, nI_1]
      exact e5
def k_endsAll (N : s_R) : Nat → Nat → s_G → Nat
  | 0, _, _ => 0
  | m + 1, n, G => k_endsN N n (g_es G n).length 0 G + k_endsAll N m (n + 1) (s_endsN N n (g_es G n).length 0 G)
theorem s_endsN_neX {n' : Nat} (hne : n' ≠ n) : ∀ (m i : Nat) (G : s_G), g_es (s_endsN N n m i G) n' = g_es G n' := by
  intro m
  induction m with
  | zero => intro i G; rfl
  | succ m ih =>
    intro i G
    unfold s_endsN
    cases he : (g_es G n)[i]? with
    | none => rfl
    | some e =>
      show g_es (if e_ends e = g_minute G then _ else _) n' = _
      by_cases c : e_ends e = g_minute G
      · rw [if_pos c, ih, s_ends1_es_ne hne]
      · rw [if_neg c, ih]
theorem s_endsN_mw : ∀ (m i : Nat) (G : s_G), g_minute (s_endsN N n m i G) = g_minute G ∧ g_ways (s_endsN N n m i G) = g_ways G := by
  intro m
  induction m with
  | zero => intro i G; exact ⟨rfl, rfl⟩
  | succ m ih =>
    intro i G
    unfold s_endsN
    cases he : (g_es G n)[i]? with
    | none => exact ⟨rfl, rfl⟩
    | some e =>
      show g_minute (if e_ends e = g_minute G then _ else _) = _ ∧ g_ways (if e_ends e = g_minute G then _ else _) = _
      by_cases c : e_ends e = g_minute G
      · rw [if_pos c, (ih _ _).1, (ih _ _).2, s_ends1_min, s_ends1_ways]
        exact ⟨rfl, rfl⟩
      · rw [if_neg c]
        exact ih _ _
/-- all nodes' entries end -/
theorem h_go.minute12 (K : z_M → Option z_M) (ht : tm ≤ 99) : ∀ (m n f : Nat) (o : Nat → Nat) (μ : z_M) (E : Nat → List Nat) (B : Nat) (G : s_G), h_go g C o μ E B G → n_nodes (c_N C) = n + m → m < f → g_minute G = nI tm → (∀ k, n ≤ k → k < n_nodes (c_N C) → s_eo tm (g_es G k)) →
    ∃ o1 μ1 E', D_X12_minute_12 g (c_a C) K f (nI n) μ = K μ1 ∧ h_go g C o1 μ1 E' (B + k_endsAll (c_N C) m n G) (s_fold (fun n G => s_endsN (c_N C) n (g_es G n).length 0 G) n m G) ∧ h_fr g (fun a => 1000 ≤ o a) o μ o1 μ1 := by
  intro m
  induction m with
  | zero =>
    intro n f o μ E B G h hnm hf hmin heo
    obtain ⟨f, rfl⟩ : ∃ f', f = f' + 1 := ⟨f - 1, by omega⟩
    refine ⟨o, μ, E, ?_, h.le (by omega), h_fr.refl h.wf⟩
    conv => lhs; unfold D_X12_minute_12
    rw [x_lsz h.ca rfl h.nodes.1, h.nodes.2, if_pos (by rw [hnm]; exact Int32.le_refl _)]
  | succ m ih =>
    intro n f o μ E B G h hnm hf hmin heo
    obtain ⟨f, rfl⟩ : ∃ f', f = f' + 1 := ⟨f - 1, by omega⟩
    have h6 : n_nodes (c_N C) ≤ 6 := h.hN.1.1.2
    obtain ⟨q, hqn⟩ := h.nodeAt (n := n) (by omega)
    have hMe : c_Me C ≤ 64 := h.1.2.2.2.2
    have hle : (g_es G n).length ≤ 200 := by
      obtain ⟨ce, hno, hce, -, -, -⟩ := h.node hqn
      obtain ⟨-, _, _, _, _, _, -, -, ⟨k4, k5, -⟩, -⟩ := hno
      have := k4.2.1
      have e1 : (E n).length = (g_es G n).length := k5.1
      omega
    obtain ⟨o1, μ1, E1, e1, h1, f1⟩ := h_go.runsOut2 (fun (μ133 : z_M) => some μ133) hqn ht (g_es G n).length 0 x_F o μ E B G h (by omega) (by rw [x_Fv]; omega) hmin (heo n (Nat.le_refl _) (by omega))
    have hmw := s_endsN_mw (N := c_N C) (n := n) (g_es G n).length 0 G
    obtain ⟨o2, μ2, E2, e2, h2, f2⟩ := ih (n + 1) f o1 μ1 E1 _ _ h1 (by omega) (by omega) (by rw [hmw.1]; exact hmin) (fun k hk1 hk2 => by
      rw [s_endsN_neX (by omega)]
      exact heo k (by omega) hk2)
    refine ⟨o2, μ2, E2, ?_, h2.le (by show B + _ + _ ≤ B + (_ + _); omega), f1.trans f2 (fun a ha q => ?_)⟩
    · conv => lhs; unfold D_X12_minute_12
      rw [x_lsz h.ca rfl h.nodes.1, h.nodes.2, if_neg (nI_ge (by omega) (by omega)), h.getNode hqn, h.ob]
      have e9 : D_X12_runsOut g (c_a C) (some q) μ = some μ1 := e1
      rw [e9, x_bS, x_lS, nI_1]
      exact e2
    · rcases q with q | q
      · exact q
      · rw [f1.2.1 a ha] at q; exact q
end T93
