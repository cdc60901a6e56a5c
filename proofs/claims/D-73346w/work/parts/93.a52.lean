/-! THE COMPONENT's LAW, 52: deeds; whether one can be done -/
set_option maxRecDepth 100000
set_option maxHeartbeats 400000
set_option linter.unusedVariables false
/-- a deed as it stands in the memory -/
def h_de (g : z_G) (o : Nat → Nat) (μ : z_M) (p : Nat) (d : s_Dd) : Prop := o p = 0 ∧ ∃ (i : Nat) (y : Int32) (nm : Option Nat), i < 5 ∧ d.1 = nI i ∧ μ.1 p = some (.inr (10, [.ref (z_ad g (5 + i)), .int d.2.1, .int y, va_rf nm])) ∧ (i ≤ 1 → ∃ q, nm = some q ∧ h_nm o μ q (v_ d.2.2)) ∧ (2 ≤ i → y = d.2.2)
section T93
variable {g : z_G} {C : h_C} {N : s_R} {o o1 : Nat → Nat} {μ μ1 : z_M} {E : Nat → List Nat} {B a b l n q p w i k r : Nat} {G : s_G} {d : s_Dd} {S : Nat → Prop} {fs : List Value}
theorem h_de.fr (h : h_de g o μ p d) (hf : h_fr g S o μ o1 μ1) (hw : h_wf g μ) (hS : ∀ a, o a = 0 → ¬ S a) : h_de g o1 μ1 p d := by
  obtain ⟨h0, i, y, nm, h1, h2, h3, h4, h5⟩ := h
  refine ⟨(hf.2.1 p (hw.lt h3)).trans h0, i, y, nm, h1, h2, hf.cell hw h3 (hS p h0), fun hi => ?_, h5⟩
  obtain ⟨q, e1, e2⟩ := h4 hi
  exact ⟨q, e1, e2.fr hf hw hS⟩
theorem h_de.isA (h : h_de g o μ p d) : z_isA g μ p "AskedNames$Deed" := by
  obtain ⟨h0, i, y, nm, h1, h2, h3, h4, h5⟩ := h
  exact Or.inl ⟨10, _, _, _, h3, rfl⟩
/-- the doings -/
theorem h_doing (hok : z_ok g) (hi : i < 5) : z_OF g "java/lang/Enum" "ordinal" "I" (.int (nI i)) (z_ad g (5 + i)) ∧ va_O "AskedNames$Doing" (z_ad g (5 + i)) (z_A g) g.2.1 g.2.1.heap ∧ z_Z g "AskedNames$Doing" (["ASK", "FRESH", "WAIT", "CUT", "MEND"].getD i "") "LAskedNames$Doing;" (.ref (z_ad g (5 + i))) := by
  obtain ⟨h1, -⟩ := hok.2.2.1.2.1
  obtain ⟨e1, e2, e3⟩ := h1 i hi
  refine ⟨?_, e2, e1⟩
  have e4 := e3 _ (List.mem_singleton.mpr rfl)
  have e5 : ([0, 1, 2, 3, 4] : List Int32).getD i 0 = nI i := by
    have hc : i = 0 ∨ i = 1 ∨ i = 2 ∨ i = 3 ∨ i = 4 := by omega
    rcases hc with rfl | rfl | rfl | rfl | rfl <;> rfl
  have e6 : z_OF g "java/lang/Enum" "ordinal" "I" (.int (([0, 1, 2, 3, 4] : List Int32).getD i 0)) (z_ad g (5 + i)) := e4
  rw [e5] at e6
  exact e6
theorem h_doing_inj (hok : z_ok g) {j : Nat} (hi : i < 5) (hj : j < 5) (e : z_ad g (5 + i) = z_ad g (5 + j)) : i = j := hok.2.2.1.2.1.2 i j hi hj e
theorem h_ordinal (hok : z_ok g) (hw : h_wf g μ) (hi : i < 5) : D_J3_ordinal g (z_ad g (5 + i)) μ = some (nI i) := by
  obtain ⟨h2, -, -⟩ := h_doing hok hi
  have hn : μ.1 (z_ad g (5 + i)) = none := hw.2 _ (Or.inr (z_OF_lt h2))
  unfold D_J3_ordinal x_fi x_ff
  rw [hn]
  show x_b (x_cf g _ _ _ _) _ = _
  rw [x_cfS h2, x_bS, x_viS]
theorem h_doingA (hok : z_ok g) (hi : i < 5) : z_isA g μ (z_ad g (5 + i)) "AskedNames$Doing" := Or.inr (Or.inr (h_doing hok hi).2.1)
theorem s_node_no {N : s_R} {j : Nat} (c : ¬ j < n_nodes N) (hj : j < 6) : s_node N (nI j) = none := by
  unfold s_node
  rw [v_nI (by omega), if_neg (fun q => c q.2)]
theorem h_go.up2 (h : h_go g C o μ E B G) (ca : a < n_nodes (c_N C)) (cb : b < n_nodes (c_N C)) : D_X12_isUp g (c_a C) (nI a) (nI b) μ = some (if s_up (c_lk C) (g_down G) a b = true then 1 else 0) := by
  rw [h.isUp, s_node_nI h.hN ca, s_node_nI h.hN cb]
theorem h_go.up0 (h : h_go g C o μ E B G) (ha : a < 6) (hb : b < 6) (c : ¬ (a < n_nodes (c_N C) ∧ b < n_nodes (c_N C))) : D_X12_isUp g (c_a C) (nI a) (nI b) μ = some 0 := by
  rw [h.isUp]
  by_cases ca : a < n_nodes (c_N C)
  · rw [s_node_no (fun q => c ⟨ca, q⟩) hb]
    cases s_node (c_N C) (nI a) <;> rfl
  · rw [s_node_no ca ha]
theorem h_go.link2 (h : h_go g C o μ E B G) (ca : a < n_nodes (c_N C)) (cb : b < n_nodes (c_N C)) : D_X5_isLink g (c_p C) (nI a) (nI b) μ = some (if (c_lk C (6 * a + b)).isSome = true then 1 else 0) := by
  rw [h.nt.isLink h.hN h.hlk, s_node_nI h.hN ca, s_node_nI h.hN cb]
theorem h_go.link0 (h : h_go g C o μ E B G) (ha : a < 6) (hb : b < 6) (c : ¬ (a < n_nodes (c_N C) ∧ b < n_nodes (c_N C))) : D_X5_isLink g (c_p C) (nI a) (nI b) μ = some 0 := by
  rw [h.nt.isLink h.hN h.hlk]
  by_cases ca : a < n_nodes (c_N C)
  · rw [s_node_no (fun q => c ⟨ca, q⟩) hb]
    cases s_node (c_N C) (nI a) <;> rfl
  · rw [s_node_no ca ha]
/-- whether a deed can be done -/
theorem h_go.can (h : h_go g C o μ E B G) (hr : μ.1 r = some (.inr (11, fs))) (h0 : fs[0]? = some (.ref (c_a C))) (hd : h_de g o μ p d) (hdk : d_ok d) : D_X11_can g r (some p) μ = some (if (s_does (c_N C) (c_lk C) d k G).isSome = true then 1 else 0) := by
  have hN := h.hN
  have h6 : n_nodes (c_N C) ≤ 6 := hN.1.1.2
  have hok := h.ok
  obtain ⟨-, i, y, nm, hi, hdi, hp, h4, h5⟩ := hd
  have hgr : ∀ {α : Type} {K : Option Nat → Option α}, x_gr μ r 11 0 K = K (some (c_a C)) := x_grR hr h0
  unfold D_X11_can
  rw [x_oS, x_grR hp rfl, x_oS, x_gpI (h_doingA hok hi), h_ordinal hok h.wf hi, x_bS]
  unfold s_does
  rw [hdi]
  have hin : ∀ j, j < 5 → (nI i = nI j ↔ i = j) := fun j hj => nI_inj (by omega) (by omega)
  have d0 : nI i = 0 ↔ i = 0 := hin 0 (by omega)
  have d1 : nI i = 1 ↔ i = 1 := hin 1 (by omega)
  have d2 : nI i = 2 ↔ i = 2 := hin 2 (by omega)
  have d3 : nI i = 3 ↔ i = 3 := hin 3 (by omega)
  have d4 : nI i = 4 ↔ i = 4 := hin 4 (by omega)
  have hdk' := hdk
  unfold d_ok at hdk'
  rw [hdi, d0, d1, d2, d3, d4] at hdk'
  have hnode : ∀ n : Nat, n < 6 → d.2.1 = nI n → x_gi μ p 10 1 (fun x28 => x_o (some (c_p C)) fun p24 => x_ob μ p24 5 fun _ => x_b (D_X5_isNode g p24 x28 μ) fun x28 => x_g (x28 = 0 ∨ x28 = 1) (some x28)) = some (if n < n_nodes (c_N C) then 1 else 0) := by
    intro n hn e
    rw [x_giS hp rfl, x_oS, h.nt.ob, h.nt.isNode hN, x_bS, e]
    by_cases c : n < n_nodes (c_N C)
    · rw [s_node_nI hN c, if_pos c]
      exact x_gS (Or.inr rfl)
    · have : s_node (c_N C) (nI n) = none := by unfold s_node; rw [v_nI (by omega), if_neg (fun q => c q.2)]
      rw [this, if_neg c]
      exact x_gS (Or.inl rfl)
  rcases hdk' with ⟨hk, ⟨n, hn, e⟩, -⟩ | ⟨hk, m, hm1, hm2, e⟩ | ⟨hk, a, b, ha, hb, hab, ea, eb⟩
  · have hs : (if nI i = 0 ∨ nI i = 1 then (if v_ d.2.1 < n_nodes (c_N C) then some (s_ask (c_N C) (c_lk C) (v_ d.2.1) k d.2.2 (nI i) G) else none) else if nI i = 2 then (if v_ (g_minute G) + v_ d.2.1 ≤ 99 then some (s_goMany (c_N C) (c_lk C) (v_ d.2.1) G) else none) else if v_ d.2.1 < n_nodes (c_N C) ∧ v_ d.2.2 < n_nodes (c_N C) then (match c_lk C (6 * v_ d.2.1 + v_ d.2.2) with | none => none | some l => if s_bit (g_down G) (nI l) = decide (nI i = 3) then none else some (s_turn l (decide (nI i = 3)) G)) else none) = if n < n_nodes (c_N C) then some (s_ask (c_N C) (c_lk C) n k d.2.2 (nI i) G) else none := by
      rw [if_pos (by rw [d0, d1]; exact hk), e, v_nI (by omega)]
    have hs2 : ((if n < n_nodes (c_N C) then some (s_ask (c_N C) (c_lk C) n k d.2.2 (nI i) G) else none).isSome = true) ↔ n < n_nodes (c_N C) := by
      by_cases c : n < n_nodes (c_N C)
      · rw [if_pos c]; exact ⟨fun _ => c, fun _ => rfl⟩
      · rw [if_neg c]; exact ⟨fun q => (by cases q), fun q => absurd q c⟩
    refine Eq.trans ?_ (congrArg (fun z : Option s_G => some (if z.isSome = true then (1 : Int32) else 0)) hs.symm)
    have hgoal : (some (if (if n < n_nodes (c_N C) then some (s_ask (c_N C) (c_lk C) n k d.2.2 (nI i) G) else none).isSome = true then (1 : Int32) else 0)) = some (if n < n_nodes (c_N C) then (1 : Int32) else 0) := by
      by_cases c : n < n_nodes (c_N C)
      · rw [if_pos (hs2.mpr c), if_pos c]
      · rw [if_neg (fun q => c (hs2.mp q)), if_neg c]
    refine Eq.trans ?_ hgoal.symm
    rcases hk with rfl | rfl
    · rw [if_pos (show nI 0 = 0 from rfl), hgr, x_oS, x_grR h.ca rfl]
      exact hnode n hn e
    · rw [if_neg (show ¬ nI 1 = 0 by decide), if_pos (show nI 1 = 1 from rfl), hgr, x_oS, x_grR h.ca rfl]
      exact hnode n hn e
  · subst hk
    obtain ⟨tm, t1, t2, -⟩ := h.1.2.2.1
    rw [if_neg (show ¬ nI 2 = 0 by decide), if_neg (show ¬ nI 2 = 1 by decide), if_pos (show nI 2 = 2 from rfl), hgr, x_oS, x_giS h.ca rfl, x_giS hp rfl, if_neg (show ¬ (nI 2 = 0 ∨ nI 2 = 1) by decide), if_pos (show nI 2 = 2 from rfl), e, t2, v_nI (by omega), v_nI (by omega), nI_add]
    by_cases c : tm + m ≤ 99
    · rw [if_neg (show ¬ (99 : Int32) < nI (tm + m) from fun q => by have := (nI_ltI (a := 99) (by omega) (by omega)).mp q; omega), if_pos c]
      rfl
    · rw [if_pos (show (99 : Int32) < nI (tm + m) from (nI_ltI (a := 99) (by omega) (by omega)).mpr (by omega)), if_neg c]
      rfl
  · have hy : y = nI b := (h5 (by omega)).trans eb
    have hng : ¬ (nI i = 0 ∨ nI i = 1) := by rw [d0, d1]; omega
    have hng2 : ¬ nI i = 2 := by rw [d2]; omega
    rw [if_neg hng, if_neg hng2, ea, eb, v_nI (by omega), v_nI (by omega), if_neg (fun q => hng (Or.inl q)), if_neg (fun q => hng (Or.inr q)), if_neg hng2]
    by_cases cab : a < n_nodes (c_N C) ∧ b < n_nodes (c_N C)
    · have hc : c_lk C (6 * a + b) = none ∨ ∃ l, c_lk C (6 * a + b) = some l := by cases c_lk C (6 * a + b); exact Or.inl rfl; exact Or.inr ⟨_, rfl⟩
      rcases hk with rfl | rfl
      · rw [if_pos (show nI 3 = 3 from rfl), hgr, x_giS hp rfl, x_giS hp rfl, x_oS, h.ob, ea, hy, h.up2 cab.1 cab.2, x_bS, if_pos cab]
        unfold s_up s_bit
        rcases hc with e | ⟨l, e⟩
        · rw [e]; exact x_gS (Or.inl rfl)
        · rw [e]
          show x_g ((if (!decide ((g_down G >>> (nI l &&& 31)) &&& 1 = 1)) = true then (1 : Int32) else 0) = 0 ∨ (if (!decide ((g_down G >>> (nI l &&& 31)) &&& 1 = 1)) = true then (1 : Int32) else 0) = 1) (some (if (!decide ((g_down G >>> (nI l &&& 31)) &&& 1 = 1)) = true then (1 : Int32) else 0)) = some (if Option.isSome (if decide ((g_down G >>> (nI l &&& 31)) &&& 1 = 1) = true then none else some (s_turn l true G)) = true then 1 else 0)
          cases decide ((g_down G >>> (nI l &&& 31)) &&& 1 = 1)
          · exact x_gS (Or.inr rfl)
          · exact x_gS (Or.inl rfl)
      · rw [if_neg (show ¬ nI 4 = 3 by decide), hgr, x_oS, x_grR h.ca rfl, x_giS hp rfl, x_giS hp rfl, x_oS, h.nt.ob, ea, hy, h.link2 cab.1 cab.2, x_bS, hgr, x_giS hp rfl, x_giS hp rfl, x_oS, h.ob, ea, hy, h.up2 cab.1 cab.2, x_bS, if_pos cab]
        unfold s_up s_bit
        rcases hc with e | ⟨l, e⟩
        · rw [e]; rfl
        · rw [e]
          show (if (1 : Int32) = 0 then some (0 : Int32) else if (if (!decide ((g_down G >>> (nI l &&& 31)) &&& 1 = 1)) = true then (1 : Int32) else 0) = 0 then some (1 : Int32) else some 0) = some (if Option.isSome (if decide ((g_down G >>> (nI l &&& 31)) &&& 1 = 1) = false then none else some (s_turn l false G)) = true then 1 else 0)
          rw [if_neg (show ¬ (1 : Int32) = 0 by decide)]
          cases decide ((g_down G >>> (nI l &&& 31)) &&& 1 = 1) <;> rfl
    · rw [if_neg cab]
      rcases hk with rfl | rfl
      · rw [if_pos (show nI 3 = 3 from rfl), hgr, x_giS hp rfl, x_giS hp rfl, x_oS, h.ob, ea, hy, h.up0 ha hb cab, x_bS]
        exact x_gS (Or.inl rfl)
      · rw [if_neg (show ¬ nI 4 = 3 by decide), hgr, x_oS, x_grR h.ca rfl, x_giS hp rfl, x_giS hp rfl, x_oS, h.nt.ob, ea, hy, h.link0 ha hb cab, x_bS]
        exact if_pos rfl
end T93
