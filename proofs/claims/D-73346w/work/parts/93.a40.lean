/-! THE COMPONENT's LAW, 40: a minute goes by -/
set_option maxRecDepth 100000
set_option linter.unusedVariables false
/-- what the messages of a minute cost; what is asked for them -/
def k_runAll (N : s_R) (lk : Nat → Option Nat) : List s_M → s_G → Nat
  | [], _ => 0
  | m :: Q, G => k_comes N lk m G + k_runAll N lk Q (s_comes N lk m G)
def h_cpAll (C : h_C) : List s_M → s_G → Prop
  | [], _ => True
  | m :: Q, G => h_cp C m G ∧ h_cpAll C Q (s_comes (c_N C) (c_lk C) m G)
def s_min1 (N : s_R) (G : s_G) : s_G := s_endsAll N (g_sminute G (g_minute G + 1))
def k_goesBy (N : s_R) (lk : Nat → Option Nat) (G : s_G) : Nat :=
  k_endsAll N (n_nodes N) 0 (g_sminute G (g_minute G + 1)) + 15 + 44 * (s_nowl (g_minute (s_min1 N G)) (g_ways (s_min1 N G))).length + k_runAll N lk (s_nowl (g_minute (s_min1 N G)) (g_ways (s_min1 N G))) (g_sways (s_min1 N G) (s_restl (g_minute (s_min1 N G)) (g_ways (s_min1 N G))))
section T93
variable {g : z_G} {C : h_C} {o o1 : Nat → Nat} {μ μ1 : z_M} {E : Nat → List Nat} {B b p n q k w a0 t l x ce i c j d pit al ca fr pm dep tm v2 : Nat} {G G' : s_G} {S : Nat → Prop} {N : s_R} {xs es cs : List Nat} {nd : s_N} {but nonce name wish ends src v : Int32} {e : s_E} {fs : List Value} {r : s_Q} {m : s_M} {ms : List s_M}
/-- what is behind is taken off -/
theorem h_go.minute131 {l44 : Nat} (K : z_M → Option z_M) : ∀ (d f : Nat) (μ : z_M) (G : s_G), h_go g C o μ E B G → (g_ways G).length = v2 + d → d < f → ∃ μ1, D_X12_minute_131 g (c_a C) l44 (nI v2) K f μ = K μ1 ∧ h_go g C o μ1 E B (g_sways G ((g_ways G).take v2)) ∧ h_fr g (fun a => o a = 1001) o μ o μ1 := by
  intro d
  induction d with
  | zero =>
    intro f μ G h hl hf
    obtain ⟨f, rfl⟩ : ∃ f', f = f' + 1 := ⟨f - 1, by omega⟩
    obtain ⟨cw, ws, w1, w2, hcw, -⟩ := h.waysX
    refine ⟨μ, ?_, ?_, h_fr.refl h.wf⟩
    · conv => lhs; unfold D_X12_minute_131
      rw [x_lsz h.ca rfl w1, w2.1, hl, if_pos (by rw [Nat.add_zero]; exact Int32.le_refl _)]
    · rw [List.take_of_length_le (by omega)]
      exact h
  | succ d ih =>
    intro f μ G h hl hf
    obtain ⟨f, rfl⟩ : ∃ f', f = f' + 1 := ⟨f - 1, by omega⟩
    obtain ⟨cw, ws, w1, w2, hcw, -⟩ := h.waysX
    have hb := w1.2.1
    have hwl := w2.1
    have es : nI ws.length - (1 : Int32) = nI ((g_ways G).length - 1) := by rw [hwl]; exact nI_sub (b := 1) (by omega)
    obtain ⟨y, μ2, e2, h2, f2, u2⟩ := h.waysRem (i := (g_ways G).length - 1) (by omega)
    have hel : ((g_ways G).eraseIdx ((g_ways G).length - 1)).length = v2 + d := by
      rw [List.length_eraseIdx, if_pos (by omega)]; omega
    obtain ⟨μ3, e3, h3, f3⟩ := ih f μ2 _ h2 hel (by omega)
    refine ⟨μ3, ?_, ?_, f2.trans f3 (fun a _ q => q.elim id id)⟩
    · conv => lhs; unfold D_X12_minute_131
      rw [x_lsz h.ca rfl w1, if_neg (nI_ge (by omega) (by omega)), x_grR h.ca rfl, x_grR h.ca rfl, x_oS, w1.obK, w1.size, x_bS, x_oS, w1.obK, es, e2, x_b2S]
      exact e3
    · have et : ((g_ways G).eraseIdx ((g_ways G).length - 1)).take v2 = (g_ways G).take v2 := by
        refine List.ext_getElem? (fun j => ?_)
        by_cases c : j < v2
        · rw [List.getElem?_take_of_lt c, List.getElem?_take_of_lt c, List.getElem?_eraseIdx, if_pos (by omega)]
        · rw [List.getElem?_eq_none (by rw [List.length_take]; omega), List.getElem?_eq_none (by rw [List.length_take]; omega)]
      have h3' : h_go g C o μ3 E B (g_sways G (((g_ways G).eraseIdx ((g_ways G).length - 1)).take v2)) := h3
      rw [et] at h3'
      exact h3'
/-- the messages of now come, one behind the other -/
theorem h_go.minute164 {l44 c44 : Nat} {nows : List Nat} (K : z_M → Option z_M) : ∀ (R : List s_M) (k f : Nat) (o : Nat → Nat) (μ : z_M) (E : Nat → List Nat) (B : Nat) (G : s_G) (Q : List s_M), h_go g C o μ E B G → h_ls g o μ 890 l44 c44 nows → h_al (h_mg (c_N C) o μ) nows Q → Q.drop k = R → R.length < f → k ≤ Q.length → h_cpAll C R G →
    ∃ o1 μ1 E', D_X12_minute_164 g (c_a C) l44 K f (nI k) μ = K μ1 ∧ h_go g C o1 μ1 E' (B + k_runAll (c_N C) (c_lk C) R G) (s_runAll (c_N C) (c_lk C) R G) ∧ h_fr g (fun a => 901 ≤ o a) o μ o1 μ1 := by
  intro R
  induction R with
  | nil =>
    intro k f o μ E B G Q h hL ha hd hf hk hcp
    obtain ⟨f, rfl⟩ : ∃ f', f = f' + 1 := ⟨f - 1, by have : ([] : List s_M).length = 0 := rfl; omega⟩
    have hkl : Q.length ≤ k := by
      have := congrArg List.length hd
      rw [List.length_drop] at this
      have e0 : ([] : List s_M).length = 0 := rfl
      omega
    have hb1 := hL.2.1
    have hb2 := hL.2.2.1
    have ha1 := ha.1
    refine ⟨o, μ, E, ?_, h.le (by omega), h_fr.refl h.wf⟩
    conv => lhs; unfold D_X12_minute_164
    rw [hL.obK, hL.size, x_bS, if_pos (nI_le (by omega) (by omega))]
  | cons m R ih =>
    intro k f o μ E B G Q h hL ha hd hf hk hcp
    obtain ⟨f, rfl⟩ : ∃ f', f = f' + 1 := ⟨f - 1, by omega⟩
    have hkl : k < Q.length := by
      have := congrArg List.length hd
      rw [List.length_drop, List.length_cons] at this
      omega
    have hb1 := hL.2.1
    have hb2 := hL.2.2.1
    have ha1 := ha.1
    have hd' := hd
    rw [List.drop_eq_getElem_cons hkl] at hd'
    obtain ⟨q1, q2⟩ := List.cons.inj hd'
    have hm : Q[k]? = some m := by rw [List.getElem?_eq_getElem hkl, q1]
    obtain ⟨x, hx, hr⟩ := ha.get hm
    obtain ⟨o1, μ1, E1, e1, h1, f1⟩ := h.comes hr hcp.1
    have hL1 := hL.fr f1 h.wf (fun a ha (q : 901 ≤ o a) => by omega)
    have ha1' := ha.mono (fun x y _ hr => hr.fr f1 h.wf (fun a ha (q : 901 ≤ o a) => by omega))
    obtain ⟨o2, μ2, E2, e2, h2, f2⟩ := ih (k + 1) f o1 μ1 E1 _ _ Q h1 hL1 ha1' q2 (by rw [List.length_cons] at hf; omega) (by omega) hcp.2
    refine ⟨o2, μ2, E2, ?_, h2.le (by show B + _ + _ ≤ B + (_ + _); omega), f1.trans f2 (fun a ha q => ?_)⟩
    · conv => lhs; unfold D_X12_minute_164
      rw [hL.obK, hL.size, x_bS, if_neg (nI_ge (by omega) (by omega)), hL.obK, hL.get hx, x_bS, x_gpI (x_icI hr.isA), h.ob, e1, x_bS, x_lS, nI_1]
      exact e2
    · rcases q with q | q
      · exact q
      · rw [f1.2.1 a ha] at q; exact q
/-- a minute goes by -/
theorem h_go.minute (h : h_go g C o μ E B G) (hmin : g_minute G = nI tm) (ht : tm + 1 ≤ 99) (heo : ∀ k, k < n_nodes (c_N C) → s_eo (tm + 1) (g_es G k))
    (hcp : h_cpAll C (s_nowl (g_minute (s_min1 (c_N C) G)) (g_ways (s_min1 (c_N C) G))) (g_sways (s_min1 (c_N C) G) (s_restl (g_minute (s_min1 (c_N C) G)) (g_ways (s_min1 (c_N C) G))))) :
    ∃ o1 μ1 E', D_X12_minute g (c_a C) μ = some μ1 ∧ h_go g C o1 μ1 E' (B + k_goesBy (c_N C) (c_lk C) G) (s_goesBy (c_N C) (c_lk C) G) ∧ h_fr g (fun a => 890 ≤ o a) o μ o1 μ1 := by
  have h6 : n_nodes (c_N C) ≤ 6 := h.hN.1.1.2
  have em1 : g_minute G + 1 = nI (tm + 1) := by rw [hmin, nI_1]
  obtain ⟨h1, f1⟩ := h.head (G' := g_sminute G (g_minute G + 1)) rfl rfl rfl rfl rfl (by
    obtain ⟨tm', t1, t2, t3, t4⟩ := h.1.2.2.1
    have ett : tm' = tm := (nI_eq (by omega) (by omega)).mp (t2.symm.trans hmin)
    subst ett
    refine ⟨tm' + 1, ht, em1, fun n hn e he => ?_, t4⟩
    obtain ⟨s, s1, s2⟩ := t3 n hn e he
    exact ⟨s, by omega, s2⟩)
  obtain ⟨o2, μ2, E2, e2, h2, f2⟩ := h_go.minute12 (tm := tm + 1) (fun (μ38 : z_M) => x_ob μ38 (c_a C) 12 fun _ => x_b (D_X12_doesComeNow g (c_a C) μ38) fun x42 => if x42 = 0 then (some μ38) else
      x_nw μ38 3 (.inr (3, [.int 0, .null, .int 0])) fun p44 μ45 => x_b (D_J2_init g p44 (2 : Int32) μ45) fun μ47 => D_X12_minute_65 g (c_a C) p44 (fun (v2_102 : Int32) (μ103 : z_M) => D_X12_minute_131 g (c_a C) p44 v2_102 (fun (μ137 : z_M) => D_X12_minute_164 g (c_a C) p44 (fun (μ157 : z_M) => some μ157) x_F (0 : Int32) μ137) x_F μ103) x_F (0 : Int32) (0 : Int32) μ47) ht (n_nodes (c_N C)) 0 x_F o _ E B _ h1 (by omega) (by rw [x_Fv]; omega) em1 (fun k _ hk => heo k hk)
  have f12 : h_fr g (fun a => 890 ≤ o a) o μ o2 μ2 := f1.trans f2 (fun a _ q => by rcases q with q | q <;> omega)
  have h2' : h_go g C o2 μ2 E2 (B + k_endsAll (c_N C) (n_nodes (c_N C)) 0 (g_sminute G (g_minute G + 1))) (s_min1 (c_N C) G) := h2
  have hD : ∀ z, (x_ob μ2 (c_a C) 12 fun _ => x_b (D_X12_doesComeNow g (c_a C) μ2) fun x42 => if x42 = 0 then (some μ2) else
      x_nw μ2 3 (.inr (3, [.int 0, .null, .int 0])) fun p44 μ45 => x_b (D_J2_init g p44 (2 : Int32) μ45) fun μ47 => D_X12_minute_65 g (c_a C) p44 (fun (v2_102 : Int32) (μ103 : z_M) => D_X12_minute_131 g (c_a C) p44 v2_102 (fun (μ137 : z_M) => D_X12_minute_164 g (c_a C) p44 (fun (μ157 : z_M) => some μ157) x_F (0 : Int32) μ137) x_F μ103) x_F (0 : Int32) (0 : Int32) μ47) = z → D_X12_minute g (c_a C) μ = z := by
    intro z hz
    unfold D_X12_minute
    rw [x_giS h.ca rfl]
    refine (x_pfS h.ca (Nat.le_of_ble_eq_true rfl)).trans ?_
    refine Eq.trans e2 ?_
    exact hz
  have eS : s_goesBy (c_N C) (c_lk C) G = s_runAll (c_N C) (c_lk C) (s_nowl (g_minute (s_min1 (c_N C) G)) (g_ways (s_min1 (c_N C) G))) (g_sways (s_min1 (c_N C) G) (s_restl (g_minute (s_min1 (c_N C) G)) (g_ways (s_min1 (c_N C) G)))) := rfl
  rw [eS]
  unfold k_goesBy
  generalize hG1 : s_min1 (c_N C) G = G1 at *
  by_cases cn : s_nowl (g_minute G1) (g_ways G1) = []
  · have er : s_restl (g_minute G1) (g_ways G1) = g_ways G1 := by
      unfold s_restl
      rw [List.filter_eq_self]
      intro m hm
      unfold s_nowl at cn
      rw [List.filter_eq_nil_iff] at cn
      have := cn m hm
      simpa using this
    rw [cn, er]
    refine ⟨o2, μ2, E2, hD _ ?_, ?_, f12⟩
    · rw [h2'.ob, h2'.now, x_bS, if_pos cn, if_pos rfl]
    · show h_go g C o2 μ2 E2 _ (g_sways G1 (g_ways G1))
      exact h2'.le (by omega)
  · obtain ⟨μ3, e3, hL, f3, n3, u3⟩ := h_listC (o := o2) 890 2 h2'.wf (by omega) (by omega)
    generalize ho3 : h_o1 (h_o1 o2 μ2.2.1 890) (μ2.2.1 + 1) 890 = o3 at hL f3
    have h3 := h2'.fr (b := 15) f3 (fun a q => q.elim) (by omega)
    obtain ⟨o4, μ4, c44, nows, ms, e4, h4, L4, a4, b4, b5, f4⟩ := h3.minute65 (fun (v2_102 : Int32) (μ103 : z_M) => D_X12_minute_131 g (c_a C) μ2.2.1 v2_102 (fun (μ137 : z_M) => D_X12_minute_164 g (c_a C) μ2.2.1 (fun (μ157 : z_M) => some μ157) x_F (0 : Int32) μ137) x_F μ103) hL
    have hrl : (s_restl (g_minute G1) (g_ways G1)).length ≤ (g_ways G1).length := by unfold s_restl; exact List.length_filter_le ..
    have hwl : (g_ways G1).length ≤ 7000 := by
      obtain ⟨_, ws0, w10, w20, hcw0, -⟩ := h3.waysX
      have := w10.2.1
      rw [← w20.1]; omega
    obtain ⟨μ5, e5, h5, f5⟩ := h_go.minute131 (l44 := μ2.2.1) (v2 := (s_restl (g_minute G1) (g_ways G1)).length) (fun (μ137 : z_M) => D_X12_minute_164 g (c_a C) μ2.2.1 (fun (μ157 : z_M) => some μ157) x_F (0 : Int32) μ137) ((g_ways G1).length - (s_restl (g_minute G1) (g_ways G1)).length) x_F μ4 _ h4 (by show ms.length = _; omega) (by rw [x_Fv]; omega)
    have h5' : h_go g C o4 μ5 E2 (B + k_endsAll (c_N C) (n_nodes (c_N C)) 0 (g_sminute G (g_minute G + 1)) + 15 + 44 * (s_nowl (g_minute G1) (g_ways G1)).length) (g_sways G1 (ms.take (s_restl (g_minute G1) (g_ways G1)).length)) := h5
    rw [b5] at h5'
    have L5 := L4.fr f5 h4.wf (fun a ha (q : o4 a = 1001) => by omega)
    have a5 := a4.mono (fun x y _ hr => hr.fr f5 h4.wf (fun a ha (q : o4 a = 1001) => by omega))
    obtain ⟨o6, μ6, E6, e6, h6', f6⟩ := h_go.minute164 (fun (μ157 : z_M) => some μ157) (s_nowl (g_minute G1) (g_ways G1)) 0 x_F o4 μ5 E2 _ _ (s_nowl (g_minute G1) (g_ways G1)) h5' L5 a5 rfl (by
      have : (s_nowl (g_minute G1) (g_ways G1)).length ≤ (g_ways G1).length := by unfold s_nowl; exact List.length_filter_le ..
      rw [x_Fv]; omega) (Nat.zero_le _) hcp
    have f13 : h_fr g (fun a => 890 ≤ o a) o μ o3 μ3 := f12.trans f3 (fun a _ q => q.elim id False.elim)
    have f14 : h_fr g (fun a => 890 ≤ o a) o μ o4 μ4 := f13.trans f4 (fun a ha q => by
      rcases q with q | q
      · exact q
      · rw [f13.2.1 a ha] at q; omega)
    have f15 : h_fr g (fun a => 890 ≤ o a) o μ o4 μ5 := f14.trans f5 (fun a ha q => by
      rcases q with q | q
      · exact q
      · rw [f14.2.1 a ha] at q; omega)
    refine ⟨o6, μ6, E6, hD _ ?_, h6'.le (by omega), f15.trans f6 (fun a ha q => ?_)⟩
    · rw [h2'.ob, h2'.now, x_bS, if_neg cn, if_neg (show ¬ (1 : Int32) = 0 by decide), x_nwS, show (2 : Int32) = nI 2 from rfl, e3, x_bS]
      refine Eq.trans e4 ?_
      refine Eq.trans e5 ?_
      exact e6
    · rcases q with q | q
      · exact q
      · rw [f15.2.1 a ha] at q; omega
end T93
