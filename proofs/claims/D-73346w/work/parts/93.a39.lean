/-! THE COMPONENT's LAW, 39: what comes now is set aside -/
set_option maxRecDepth 100000
set_option linter.unusedVariables false
section T93
variable {g : z_G} {C : h_C} {o o1 : Nat → Nat} {μ μ1 : z_M} {E : Nat → List Nat} {B b p n q k w a0 t l x ce i c j d pit al ca fr pm dep tm v2 : Nat} {G G' : s_G} {S : Nat → Prop} {N : s_R} {xs es cs : List Nat} {nd : s_N} {but nonce name wish ends src v : Int32} {e : s_E} {fs : List Value} {r : s_Q} {m : s_M} {ms : List s_M}
theorem h_go.ways0 (h : h_go g C o μ E B G) : ∃ cw ws, h_ls g o μ 1001 (c_wl C) cw ws ∧ h_al (h_mg (c_N C) o μ) ws (g_ways G) := by
  obtain ⟨cw, ce, ws, -, -, ⟨w1, w2⟩, -⟩ := h.2.2.2.2.2.2
  exact ⟨cw, ws, w1, w2⟩
/-- the list of ways, and another in its place -/
theorem h_go.waysX (h : h_go g C o μ E B G) : ∃ cw ws, h_ls g o μ 1001 (c_wl C) cw ws ∧ h_al (h_mg (c_N C) o μ) ws (g_ways G) ∧ cw ≤ 7000 ∧
    ∀ (μ1 : z_M) (ws' : List Nat) (ms : List s_M), h_fr g (fun a => o a = 1001) o μ o μ1 → μ1.2 = μ.2 → h_ls g o μ1 1001 (c_wl C) cw ws' → h_al (h_mg (c_N C) o μ) ws' ms → h_go g C o μ1 E B (g_sways G ms) := by
  obtain ⟨⟨⟨h1, hwf⟩, h2, h2t, h2m, h2e⟩, h3, ⟨h4, h5⟩, ⟨h6, h7⟩, ⟨fd, d1, d2, d3⟩, ⟨fe, f1, f2, f3⟩, cw, ce, ws, b1, ⟨b2, b3⟩, ⟨w1, w2⟩, n1⟩ := h
  refine ⟨cw, ws, w1, w2, by omega, fun μ1 ws' ms hf hu hw ha => ?_⟩
  have S1 : ∀ a, o a ≠ 1001 → ¬ o a = 1001 := fun a ha q => ha q
  have S0 : ∀ a, o a = 0 → ¬ o a = 1001 := fun a ha => by omega
  have hd : o (c_d C) = 3 := by obtain ⟨-, _, _, _, _, _, _, _, _, _, _, _, ⟨q, -⟩, _⟩ := h3; exact q
  have hu' : h_u μ1 = h_u μ := by unfold h_u; rw [hu]
  refine ⟨⟨⟨h1, hf.wf⟩, h2, h2t, h2m, h2e⟩, h3.fr hf hwf S0 (by omega), ⟨h4, hf.cell hwf h5 (by omega)⟩, ⟨h6.fr hf hwf (fun a ha => S1 a (by omega)), h7⟩, ⟨fd, d1, hf.cell hwf d2 (by omega), d3⟩,
    ⟨fe, f1, hf.cell hwf f2 (by omega), fun k hk => (f3 k hk).fr hf hwf S0⟩, cw, ce, ws', by omega, ⟨b2, b3⟩, ⟨hw, ha.mono (fun x y _ hr => hr.fr hf hwf S0)⟩, fun n q hq => ?_⟩
  refine (n1 n q hq).fr hf hwf S0 (fun a ha => S1 a ?_)
  have := h_tn_ge ha
  omega
theorem h_al.set {α : Type} {R : Nat → α → Prop} {xs : List Nat} {ys : List α} {x i : Nat} {y : α} (h : h_al R xs ys) (hr : R x y) : h_al R (xs.set i x) (ys.set i y) := by
  refine ⟨by rw [List.length_set, List.length_set, h.1], fun j a b ha hb => ?_⟩
  by_cases e : j = i
  · subst e
    have hl : j < xs.length := by
      have := (List.getElem?_eq_some_iff.mp ha).1
      rw [List.length_set] at this
      exact this
    rw [List.getElem?_set_self hl] at ha
    rw [List.getElem?_set_self (by rw [← h.1]; exact hl)] at hb
    cases ha
    cases hb
    exact hr
  · rw [List.getElem?_set_ne (Ne.symm e)] at ha hb
    exact h.2 j a b ha hb
theorem h_go.waysSet (h : h_go g C o μ E B G) (hi : i < (g_ways G).length) (hm : h_mg (c_N C) o μ p m) : ∃ y μ1, D_J2_set g (c_wl C) (nI i) (some p) μ = some (some y, μ1) ∧ h_go g C o μ1 E B (g_sways G ((g_ways G).set i m)) ∧ h_fr g (fun a => o a = 1001) o μ o μ1 ∧ μ1.2 = μ.2 := by
  obtain ⟨cw, ws, w1, w2, -, reb⟩ := h.waysX
  obtain ⟨y, hy⟩ := h_at (xs := ws) (n := ws.length) (k := i) rfl (by rw [w2.1]; exact hi)
  obtain ⟨μ1, e1, q1, q2, q3⟩ := w1.set h.wf hy ⟨"AskedNames$Message", "java/lang/Object", rfl, hm.isA, Or.inr q2992⟩
  exact ⟨y, μ1, e1, reb μ1 _ _ q2 q3 q1 (w2.set hm), q2, q3⟩
theorem h_go.waysRem (h : h_go g C o μ E B G) (hi : i < (g_ways G).length) : ∃ y μ1, D_J2_remove g (c_wl C) (nI i) μ = some (some y, μ1) ∧ h_go g C o μ1 E B (g_sways G ((g_ways G).eraseIdx i)) ∧ h_fr g (fun a => o a = 1001) o μ o μ1 ∧ μ1.2 = μ.2 := by
  obtain ⟨cw, ws, w1, w2, -, reb⟩ := h.waysX
  obtain ⟨y, hy⟩ := h_at (xs := ws) (n := ws.length) (k := i) rfl (by rw [w2.1]; exact hi)
  obtain ⟨μ1, e1, q1, q2, q3⟩ := w1.remove h.wf hy
  exact ⟨y, μ1, e1, reb μ1 _ _ q2 q3 q1 (w2.erase i), q2, q3⟩
theorem h_mg.due (h : h_mg N o μ p m) : ∃ fs, μ.1 p = some (.inr (15, fs)) ∧ fs[2]? = some (.int (m_due m)) := by
  obtain ⟨hom, hnm, fr, to, due, qn, dr, wr, src, m1, m2, m3, m4, m5, m6, mc, mq, mk⟩ := h
  exact ⟨_, mc, by show some (Value.int (nI due)) = some (Value.int (m_due m)); unfold m_due; rw [m6]⟩
/-- whether a message comes now -/
theorem h_go.now (h : h_go g C o μ E B G) : D_X12_doesComeNow g (c_a C) μ = some (if s_nowl (g_minute G) (g_ways G) = [] then 0 else 1) := by
  obtain ⟨cw, ws, w1, w2, hcw, -⟩ := h.waysX
  have hlen := w2.1
  have hb := w1.2.1
  have hloop := x_find (L := fun fu k => D_X12_doesComeNow_2 g (c_a C) μ (some (0 : Int32)) fu (nI k)) (K := some (0 : Int32)) (R := fun _ => some (1 : Int32)) (p := fun k => match (g_ways G)[k]? with
      | none => false
      | some m => decide (m_due m = g_minute G)) (n := ws.length)
    (fun fu => by
      show D_X12_doesComeNow_2 _ _ _ _ (fu + 1) _ = _
      unfold D_X12_doesComeNow_2
      rw [x_lsz h.ca rfl w1, if_pos (Int32.le_refl _)])
    (fun fu k hk => by
      obtain ⟨x, hx⟩ := h_at rfl hk
      obtain ⟨m, hm, hr⟩ := w2.getL hx
      have hA : z_isA g μ x "AskedNames$Message" := hr.isA
      obtain ⟨fs, c1, c2⟩ := hr.due
      show D_X12_doesComeNow_2 _ _ _ _ (fu + 1) _ = _
      conv => lhs; unfold D_X12_doesComeNow_2
      rw [x_lsz h.ca rfl w1, if_neg (nI_ge hk (by omega)), x_lgt h.ca rfl w1 hx hA, x_oS, x_giS c1 c2, x_giS h.ca rfl, hm]
      show _ = if decide (m_due m = g_minute G) = true then _ else _
      by_cases c : m_due m = g_minute G
      · rw [if_pos c, if_pos (decide_eq_true c)]
      · rw [if_neg c, if_neg (fun q => c (of_decide_eq_true q)), x_lS, nI_1])
    x_F 0 (Nat.zero_le _) (by rw [x_Fv]; omega)
  rw [Nat.sub_zero] at hloop
  have hD : D_X12_doesComeNow g (c_a C) μ = D_X12_doesComeNow_2 g (c_a C) μ (some (0 : Int32)) x_F (nI 0) := rfl
  rw [hD]
  refine hloop.trans ?_
  cases hf : s_find (fun k => match (g_ways G)[k]? with | none => false | some m => decide (m_due m = g_minute G)) 0 ws.length with
  | none =>
    rw [if_pos]
    unfold s_nowl
    rw [List.filter_eq_nil_iff]
    intro m hm
    obtain ⟨k, hk⟩ := List.getElem?_of_mem hm
    have hl := (List.getElem?_eq_some_iff.mp hk).1
    have h1 := s_find_none hf k (Nat.zero_le _) (by omega)
    rw [hk] at h1
    have h2 : decide (m_due m = g_minute G) = false := h1
    rw [h2]
    decide
  | some k =>
    rw [if_neg]
    intro q
    obtain ⟨-, h2, h3, -⟩ := s_find_some hf
    obtain ⟨m, hm⟩ : ∃ m, (g_ways G)[k]? = some m := ⟨_, List.getElem?_eq_getElem (by omega)⟩
    rw [hm] at h3
    have h4 : decide (m_due m = g_minute G) = true := h3
    unfold s_nowl at q
    rw [List.filter_eq_nil_iff] at q
    exact q m (List.mem_of_getElem? hm) h4
theorem s_nowl_snoc {t : Int32} {l : List s_M} : s_nowl t (l ++ [m]) = s_nowl t l ++ (if m_due m = t then [m] else []) := by
  unfold s_nowl
  rw [List.filter_append]
  congr 1
  by_cases c : m_due m = t
  · rw [if_pos c, List.filter_cons_of_pos (by rw [decide_eq_true c]), List.filter_nil]
  · rw [if_neg c, List.filter_cons_of_neg (by rw [decide_eq_false c]; decide), List.filter_nil]
theorem s_restl_snoc {t : Int32} {l : List s_M} : s_restl t (l ++ [m]) = s_restl t l ++ (if m_due m = t then [] else [m]) := by
  unfold s_restl
  rw [List.filter_append]
  congr 1
  by_cases c : m_due m = t
  · rw [if_pos c, List.filter_cons_of_neg (by rw [decide_eq_true c]; decide), List.filter_nil]
  · rw [if_neg c, List.filter_cons_of_pos (by rw [decide_eq_false c]; rfl), List.filter_nil]
/-- the messages of now are set aside -/
theorem h_go.minute65 {l44 : Nat} (K : Int32 → z_M → Option z_M) (h : h_go g C o μ E B G) (hL : h_ls g o μ 890 l44 2 []) :
    ∃ o1 μ1 c44 nows ms, D_X12_minute_65 g (c_a C) l44 K x_F 0 0 μ = K (nI (s_restl (g_minute G) (g_ways G)).length) μ1 ∧ h_go g C o1 μ1 E (B + 44 * (s_nowl (g_minute G) (g_ways G)).length) (g_sways G ms) ∧ h_ls g o1 μ1 890 l44 c44 nows ∧ h_al (h_mg (c_N C) o1 μ1) nows (s_nowl (g_minute G) (g_ways G)) ∧
      ms.length = (g_ways G).length ∧ ms.take (s_restl (g_minute G) (g_ways G)).length = s_restl (g_minute G) (g_ways G) ∧ h_fr g (fun a => o a = 890 ∨ o a = 1001) o μ o1 μ1 := by
  obtain ⟨_, ws0, w10, w20, hcw0, -⟩ := h.waysX
  have hwl : (g_ways G).length ≤ 7000 := by have := w10.2.1; rw [← w20.1]; omega
  obtain ⟨s1, e1, o1, c1, nows, ms, r1, r2, r3, r4, r5, r6, r7, -, r8, r9⟩ := x_forS (γ := Nat × z_M) (δ := Unit) (β := Option z_M)
    (R := fun k s _ => ∃ o' cap nows ms, h_go g C o' s.2 E (B + 9 * (cap - 2)) (g_sways G ms) ∧ h_ls g o' s.2 890 l44 cap nows ∧ h_al (h_mg (c_N C) o' s.2) nows (s_nowl (g_minute G) ((g_ways G).take k)) ∧ s.1 = (s_restl (g_minute G) ((g_ways G).take k)).length ∧ s.1 ≤ k ∧
      ms.length = (g_ways G).length ∧ ms.take s.1 = s_restl (g_minute G) ((g_ways G).take k) ∧ (∀ j, k ≤ j → ms[j]? = (g_ways G)[j]?) ∧ (cap = 2 ∨ 3 ≤ nows.length ∧ 2 ≤ cap ∧ cap ≤ nows.length + nows.length / 2 + 10) ∧ h_fr g (fun a => o a = 890 ∨ o a = 1001) o μ o' s.2)
    (L := fun fu k s => D_X12_minute_65 g (c_a C) l44 K fu (nI s.1) (nI k) s.2)
    (K := fun s => K (nI s.1) s.2) (st := fun _ u => u) (n := (g_ways G).length)
    (fun fu s _ hR => by
      obtain ⟨o', cap, nows, ms, h1, l1, a1, b1, b2, b3, b4, b5, b6, f1⟩ := hR
      obtain ⟨cw, ws, w1, w2, hcw, -⟩ := h1.waysX
      have hl : ws.length = (g_ways G).length := w2.1.trans b3
      show D_X12_minute_65 _ _ _ _ (fu + 1) _ _ _ = _
      unfold D_X12_minute_65
      rw [x_lsz h1.ca rfl w1, hl, if_pos (Int32.le_refl _)])
    (fun fu k s _ hR hk => by
      obtain ⟨o', cap, nows, ms, h1, l1, a1, b1, b2, b3, b4, b5, b6, f1⟩ := hR
      obtain ⟨cw, ws, w1, w2, hcw, -⟩ := h1.waysX
      have hl : ws.length = (g_ways G).length := w2.1.trans b3
      obtain ⟨m, hm⟩ : ∃ m, (g_ways G)[k]? = some m := ⟨_, List.getElem?_eq_getElem hk⟩
      have hmk : ms[k]? = some m := (b5 k (Nat.le_refl _)).trans hm
      obtain ⟨x, hx, hr⟩ := w2.get hmk
      have hA : z_isA g s.2 x "AskedNames$Message" := hr.isA
      obtain ⟨fs, c1, c2⟩ := hr.due
      have et : (g_ways G).take (k + 1) = (g_ways G).take k ++ [m] := by rw [List.take_succ, hm]; rfl
      have hD : D_X12_minute_65 g (c_a C) l44 K (fu + 1) (nI s.1) (nI k) s.2 = (if m_due m = g_minute G then (x_ob s.2 l44 3 fun _ => x_b2 (D_J2_add g l44 (some x) s.2) fun x99 μ100 => D_X12_minute_65 g (c_a C) l44 K fu (nI s.1) (nI (k + 1)) μ100) else x_b2 (D_J2_set g (c_wl C) (nI s.1) (some x) s.2) fun o92 μ93 => D_X12_minute_65 g (c_a C) l44 K fu (nI (s.1 + 1)) (nI (k + 1)) μ93) := by
        conv => lhs; unfold D_X12_minute_65
        rw [x_lsz h1.ca rfl w1, hl, if_neg (nI_ge hk (by omega)), x_lgt h1.ca rfl w1 hx hA, x_oS, x_giS c1 c2, x_giS h1.ca rfl]
        by_cases c : m_due m = g_minute G
        · have c' : m_due m = g_minute (g_sways G ms) := c
          rw [if_pos c', if_pos c]
          congr 1
          funext _
          congr 1
          funext x99 μ100
          rw [x_lS, nI_1]
        · have c' : ¬ m_due m = g_minute (g_sways G ms) := c
          rw [if_neg c', if_neg c, x_grR h1.ca rfl, x_oS, w1.obK]
          congr 1
          funext o92 μ93
          rw [x_lS, x_lS, nI_1, nI_1]
      by_cases c : m_due m = g_minute G
      · have en : s_nowl (g_minute G) ((g_ways G).take (k + 1)) = s_nowl (g_minute G) ((g_ways G).take k) ++ [m] := by rw [et, s_nowl_snoc, if_pos c]
        have er : s_restl (g_minute G) ((g_ways G).take (k + 1)) = s_restl (g_minute G) ((g_ways G).take k) := by rw [et, s_restl_snoc, if_pos c, List.append_nil]
        have hsa : x_sa g s.2 4 x := ⟨"AskedNames$Message", "java/lang/Object", rfl, hA, Or.inr q2992⟩
        have hnl : nows.length ≤ 7000 := by
          rw [a1.1]
          unfold s_nowl
          exact Nat.le_trans (List.length_filter_le ..) (by rw [List.length_take]; omega)
        have S0 : ∀ a, o' a = 0 → ¬ o' a = 890 := fun a ha => by omega
        by_cases cin : nows.length < cap
        · obtain ⟨μ2, q1, q2, q3, q4⟩ := l1.addIn h1.wf cin hsa
          have h2 := h1.fr (b := 0) q3 (fun a q => by have q' : o' a = 890 := q; omega) (by unfold h_u; rw [q4]; omega)
          refine ⟨(s.1, μ2), by rw [hD, if_pos c, l1.obK, q1, x_b2S], o', cap, nows ++ [x], ms, h2, q2, ?_, by rw [er]; exact b1, by show s.1 ≤ k + 1; omega, b3, by rw [er]; exact b4, fun j hj => b5 j (by omega), ?_, f1.trans q3 (fun a ha q => ?_)⟩
          · rw [en]
            exact (a1.mono (fun x y _ hr => hr.fr q3 h1.wf S0)).snoc (hr.fr q3 h1.wf S0)
          · rw [List.length_append]
            show cap = 2 ∨ 3 ≤ nows.length + 1 ∧ _ ∧ cap ≤ nows.length + 1 + (nows.length + 1) / 2 + 10
            rcases b6 with b6 | ⟨b61, b62, b63⟩
            · exact Or.inl b6
            · exact Or.inr ⟨by omega, b62, by omega⟩
          · rcases q with q | q
            · exact q
            · rw [f1.2.1 a ha] at q; exact Or.inl q
        · obtain ⟨o2, μ2, n1, q1, q2, q3, q4, q5, q6⟩ := l1.add h.ok h1.wf (by omega) hsa
          have hcl := l1.2.1
          have h2 := h1.fr (b := 9 * (n1 - cap)) q3 (fun a q => by have q' : o' a = 890 := q; omega) q6
          have hc2 : 2 ≤ cap := by rcases b6 with b6 | ⟨-, b62, -⟩ <;> omega
          refine ⟨(s.1, μ2), by rw [hD, if_pos c, l1.obK, q1, x_b2S], o2, n1, nows ++ [x], ms, h2.le (by omega), q2, ?_, by rw [er]; exact b1, by show s.1 ≤ k + 1; omega, b3, by rw [er]; exact b4, fun j hj => b5 j (by omega), ?_, f1.trans q3 (fun a ha q => ?_)⟩
          · rw [en]
            exact (a1.mono (fun x y _ hr => hr.fr q3 h1.wf S0)).snoc (hr.fr q3 h1.wf S0)
          · rw [List.length_append]
            show n1 = 2 ∨ 3 ≤ nows.length + 1 ∧ _ ∧ n1 ≤ nows.length + 1 + (nows.length + 1) / 2 + 10
            refine Or.inr ⟨by omega, by omega, ?_⟩
            rcases q5 with q5 | q5
            · rcases b6 with b6 | ⟨b61, b62, b63⟩ <;> omega
            · omega
          · rcases q with q | q
            · exact q
            · rw [f1.2.1 a ha] at q; exact Or.inl q
      · have en : s_nowl (g_minute G) ((g_ways G).take (k + 1)) = s_nowl (g_minute G) ((g_ways G).take k) := by rw [et, s_nowl_snoc, if_neg c, List.append_nil]
        have er : s_restl (g_minute G) ((g_ways G).take (k + 1)) = s_restl (g_minute G) ((g_ways G).take k) ++ [m] := by rw [et, s_restl_snoc, if_neg c]
        obtain ⟨y, μ2, q1, h2, q3, q4⟩ := h1.waysSet (i := s.1) (by show s.1 < ms.length; omega) hr
        have l2 := l1.fr q3 h1.wf (fun a ha (q : o' a = 1001) => by omega)
        refine ⟨(s.1 + 1, μ2), by rw [hD, if_neg c, q1, x_b2S], o', cap, nows, ms.set s.1 m, h2, l2, ?_, by rw [er, List.length_append]; show s.1 + 1 = _ + 1; rw [b1], by show s.1 + 1 ≤ k + 1; omega, by rw [List.length_set]; exact b3, ?_, fun j hj => ?_, b6, f1.trans q3 (fun a ha q => ?_)⟩
        · rw [en]
          exact a1.mono (fun x y _ hr => hr.fr q3 h1.wf (fun a ha (q : o' a = 1001) => by omega))
        · rw [er]
          show (ms.set s.1 m).take (s.1 + 1) = _
          rw [List.take_succ, List.getElem?_set_self (by omega), List.take_set_of_le (Nat.le_refl _), b4]
          rfl
        · rw [List.getElem?_set_ne (by omega)]
          exact b5 j (by omega)
        · rcases q with q | q
          · exact q
          · rw [f1.2.1 a ha] at q; exact Or.inr q)
    x_F 0 ((0 : Nat), μ) () (Nat.zero_le _) ⟨o, 2, [], g_ways G, h.le (by omega), hL, h_al.nil, rfl, Nat.le_refl _, rfl, rfl, fun j _ => rfl, Or.inl rfl, h_fr.refl h.wf⟩ (by rw [x_Fv]; omega)
  rw [List.take_of_length_le (Nat.le_refl _)] at r3 r4 r7
  have hnl := r3.1
  refine ⟨o1, s1.2, c1, nows, ms, ?_, r1.le (by rw [← hnl]; rcases r8 with r8 | ⟨q1, q2, q3⟩ <;> omega), r2, r3, r6, ?_, r9⟩
  · rw [← r4]
    exact e1
  · rw [← r4]
    exact r7
end T93
