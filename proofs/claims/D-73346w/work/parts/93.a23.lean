/-! THE COMPONENT's LAW, 23: what is thrown; an entry goes on -/
set_option maxRecDepth 100000
set_option linter.unusedVariables false
section T93
variable {g : z_G} {C : h_C} {o o1 : Nat → Nat} {μ μ1 : z_M} {E : Nat → List Nat} {B b p n q k w a0 t l x ce room i name c j : Nat} {G G' : s_G} {S : Nat → Prop} {N : s_R} {xs es cs : List Nat} {nd : s_N} {ms : Nat → Int32} {but nonce : Int32} {e : s_E} {fs : List Value} {v : Value} {kk : z_M → Option z_M}
theorem x_psN {α : Type} {kk : z_M → Option α} (hc : c ∈ cs) (hk : j < fs.length) : x_ps (z_new μ k (.inr (c, fs))) μ.2.1 cs j v kk = kk (z_new μ k (.inr (c, fs.set j v))) := by
  rw [x_psS z_new_self hc hk, z_new_set]
theorem z_cs_thr (hok : z_ok g) : (∃ o, x_st g "java/lang/Throwable" "UNASSIGNED_STACK" "[Ljava/lang/StackTraceElement;" = some (va_rf o)) ∧ ∃ o, x_st g "java/lang/Throwable" "SUPPRESSED_SENTINEL" "Ljava/util/List;" = some (va_rf o) := by
  obtain ⟨-, -, -, -, -, -, -, -, -, -, -, -, ⟨h1, h2, -⟩, -⟩ := hok.2.2.1
  constructor
  · rcases h1 with h | ⟨t, h⟩
    · exact ⟨none, x_stS h⟩
    · exact ⟨some t, x_stS h⟩
  · rcases h2 with h | ⟨t, h⟩
    · exact ⟨none, x_stS h⟩
    · exact ⟨some t, x_stS h⟩
/-- what is thrown is made: its cause, with no trace -/
theorem x_thr {a2 : Option Nat} {v0 v1 v2 v3 : Value} {rest : List Value} (hok : z_ok g) (hc : c ∈ [7, 14, 18, 19]) : D_J14_init_2 g μ.2.1 none a2 0 0 (z_new μ k (.inr (c, v0 :: v1 :: v2 :: v3 :: rest))) = some (z_new μ k (.inr (c, va_rf a2 :: .null :: .null :: .null :: rest))) := by
  obtain ⟨⟨o1, e1⟩, o2, e2⟩ := z_cs_thr hok
  have hl : ∀ m, m < 4 → m < (v0 :: v1 :: v2 :: v3 :: rest).length := fun m hm => by simp only [List.length_cons]; omega
  have hj : D_J13_init_2 g μ.2.1 none a2 0 0 (z_new μ k (.inr (c, v0 :: v1 :: v2 :: v3 :: rest))) = some (z_new μ k (.inr (c, va_rf a2 :: .null :: .null :: .null :: rest))) := by
    unfold D_J13_init_2
    refine (x_psN hc (hl 0 (by omega))).trans ?_
    rw [e1, x_bS, x_vrO]
    refine (x_psN hc (by simp only [List.length_set]; exact hl 1 (by omega))).trans ?_
    rw [e2, x_bS, x_vrO]
    refine (x_psN hc (by simp only [List.length_set]; exact hl 2 (by omega))).trans ?_
    rw [x_lS, if_pos rfl]
    refine (x_psN hc (by simp only [List.length_set]; exact hl 1 (by omega))).trans ?_
    refine (x_psN hc (by simp only [List.length_set]; exact hl 3 (by omega))).trans ?_
    refine (x_psN hc (by simp only [List.length_set]; exact hl 0 (by omega))).trans ?_
    rw [if_pos rfl]
    exact (x_psN hc (by simp only [List.length_set]; exact hl 2 (by omega)))
  unfold D_J14_init_2
  rw [hj, x_bS]
theorem x_init18 {a1 : Int32} (hok : z_ok g) : D_X18_init g μ.2.1 a1 (z_new μ 7 (.inr (18, [.null, .null, .null, .null, .null, .int 0, .int 0]))) = some (z_new μ 7 (.inr (18, [.null, .null, .null, .null, .null, .int 0, .int a1]))) := by
  unfold D_X18_init
  rw [x_thr hok (by decide), x_bS]
  exact x_pfN (Nat.le_of_ble_eq_true rfl)
theorem x_init14 {a1 : Int32} (hok : z_ok g) : D_X14_init g μ.2.1 a1 (z_new μ 7 (.inr (14, [.null, .null, .null, .null, .null, .int 0, .int 0]))) = some (z_new μ 7 (.inr (14, [.null, .null, .null, .null, .null, .int 0, .int a1]))) := by
  unfold D_X14_init
  rw [x_thr hok (by decide), x_bS]
  exact x_pfN (Nat.le_of_ble_eq_true rfl)
theorem x_init19 {a1 : Option Nat} (hok : z_ok g) : D_X19_init g μ.2.1 a1 (z_new μ 6 (.inr (19, [.null, .null, .null, .null, .null, .int 0]))) = some (z_new μ 6 (.inr (19, [va_rf a1, .null, .null, .null, .null, .int 0]))) := by
  unfold D_X19_init
  rw [x_thr hok (by decide), x_bS]
/-- a node's list of entries loses one: the run -/
theorem s_tms.node {nd : s_N} (h : s_tms G) (hn : ∀ e ∈ nd.1, ∃ s, s ≤ v_ (g_minute G) ∧ e_sent e = nI s) : s_tms (g_snd G (s_up1 (g_nd G) n nd)) := by
  obtain ⟨tm, h1, h2, h3, h4⟩ := h
  refine ⟨tm, h1, h2, fun m hm e he => ?_, h4⟩
  have he' : e ∈ (s_up1 (g_nd G) n nd m).1 := he
  by_cases em : m = n
  · rw [em, s_up1_s] at he'
    have := hn e he'
    rw [h2, v_nI (by omega)] at this
    exact this
  · rw [s_up1_n em] at he'
    exact h3 m hm e he'
theorem s_tms.sent (h : s_tms G) (hn : n < 6) : ∀ e ∈ g_es G n, ∃ s, s ≤ v_ (g_minute G) ∧ e_sent e = nI s := by
  obtain ⟨tm, h1, h2, h3, h4⟩ := h
  intro e he
  rw [h2, v_nI (by omega)]
  exact h3 n hn e he
theorem h_go.lose (h : h_go g C o μ E B G) (hq : (c_ns C)[n]? = some q) (hp : (E n)[i]? = some p) : ∃ μ1, D_X13_loses g q (some p) μ = some μ1 ∧ h_go g C o μ1 (s_up1 E n ((E n).eraseIdx i)) B (g_ses G n ((g_es G n).eraseIdx i)) ∧ h_fr g (fun a => o a = 1020 + n) o μ o μ1 ∧ μ1.2 = μ.2 := by
  obtain ⟨ce, hno, hce, hn6, hnn, reb⟩ := h.node hq
  have hle : (E n).length ≤ ce := by obtain ⟨-, _, _, _, _, _, -, -, ⟨k4, -⟩, -⟩ := hno; exact k4.2.1
  have hMe : c_Me C ≤ 64 := h.1.2.2.2.2
  obtain ⟨μ1, e1, q1, q2, q3⟩ := hno.loses h.wf hp (by omega)
  have hu : h_u μ1 = h_u μ := by unfold h_u; rw [q3]
  have H := reb _ o μ1 ce _ _ (g_meas G) 0 q2 (fun a ha => Or.inr (Or.inl ha)) q1 hce (by omega) (fun _ _ _ _ _ => rfl) ((h.1.2.2.1.node (n := n) (nd := ((g_nd G n).1.eraseIdx i, (g_nd G n).2)) (fun e he => h.1.2.2.1.sent hn6 e (List.mem_of_mem_eraseIdx he))))
  exact ⟨μ1, e1, H, q2, q3⟩
theorem h_no.en {es : List Nat} (h : h_no g o μ n q ce es nd ms) (hp : es[i]? = some p) (he : nd.1[i]? = some e) : h_en g o μ n p e := by
  obtain ⟨h0, sl, el, ml, ds, f, h1, -, ⟨h4, h5, h6⟩, -⟩ := h
  exact h5.2 i p e hp he
/-- one entry is another -/
theorem h_no.setE {es : List Nat} {e' : s_E} (h : h_no g o μ n q ce es nd ms) (hw : h_wf g μ) (hn : n < 6) (hp : es[i]? = some p) (hf : h_fr g S o μ o1 μ1) (hS : ∀ a, S a → o a = o p ∨ o a = o p + 8) (hb : 2000 ≤ o p) (hen : h_en g o1 μ1 n p e') : h_no g o1 μ1 n q ce es (nd.1.set i e', nd.2) ms := by
  obtain ⟨h0, sl, el, ml, ds, f, h1, ⟨h2, h3⟩, ⟨h4, h5, h6⟩, h7, h8, h9⟩ := h
  have S1 : ∀ a, o a < 2000 → ¬ S a := fun a ha q => by
    have := hS a q
    omega
  have S0 : ∀ a, o a = 0 → ¬ S a := fun a ha => S1 a (by omega)
  have em : es.map o1 = es.map o := List.map_congr_left (fun x hx => by
    obtain ⟨i, hi⟩ := List.getElem?_of_mem hx
    obtain ⟨y, -, hr⟩ := h5.getL hi
    exact hf.2.1 x (hr.lt hw))
  refine ⟨(hf.2.1 q (hw.lt h1)).trans h0, sl, el, ml, ds, f, hf.cell hw h1 (S1 _ (by omega)), ⟨h2.fr hf hw (fun a ha => S1 a (by omega)), h3.mono (fun x y _ hr => hr.fr hf hw S0)⟩,
    ⟨h4.fr hf hw (fun a ha => S1 a (by omega)), ⟨by rw [List.length_set]; exact h5.1, fun j x y hx hy => ?_⟩, by rw [em]; exact h6⟩, (hf.2.1 ml (hw.lt h8)).trans h7, hf.cell hw h8 (S1 _ (by omega)), h9⟩
  by_cases ej : j = i
  · subst ej
    cases hp.symm.trans hx
    have hl : j < nd.1.length := by rw [← h5.1]; exact (List.getElem?_eq_some_iff.mp hp).1
    rw [List.getElem?_set_self hl] at hy
    cases hy
    exact hen
  · rw [List.getElem?_set_ne (Ne.symm ej)] at hy
    have hx1 := (h5.2 j x y hx hy).1
    obtain ⟨y0, -, hp0⟩ := h5.getL hp
    have hp1 := hp0.1
    refine (h5.2 j x y hx hy).fr hf hw S0 (fun a ha q => ?_)
    have h10 := hS a q
    have exp : o x = o p := by omega
    obtain ⟨b1, b2⟩ := List.getElem?_eq_some_iff.mp hx
    obtain ⟨c1, c2⟩ := List.getElem?_eq_some_iff.mp hp
    have hpw := List.pairwise_iff_getElem.mp (List.pairwise_map.mp h6)
    rcases Nat.lt_or_gt_of_ne ej with q | q
    · exact hpw j i b1 c1 q (by rw [b2, c2, exp])
    · exact hpw i j c1 b1 q (by rw [b2, c2, exp])
/-- the next way is a node of the net -/
theorem s_next_n {lk : Nat → Option Nat} {down : Int32} {to : Nat} (hN : n_ok N) (hms : s_mso ms n) (h : s_next N lk down ms n name but = some to) : to < n_nodes N := by
  have H := s_nx_all (lk := lk) (down := down) (name := name) (but := but) hN hms
  unfold s_next at h
  generalize s_fold (fun k q => s_step N lk down ms n name but (s_longest N n name) k q) 0 (n_routes N) (none, 1000000) = Q at H h
  rcases H with ⟨rfl, -⟩ | ⟨t, c, rfl, -, -, ⟨k, k1, -, k3, -⟩, -⟩
  · cases h
  · cases h
    rw [← k3]
    exact (n_rt_n hN k1).2.1
/-- an entry goes on, or there is no way -/
theorem h_go.on {r : s_Q} (h : h_go g C o μ E B G) (hn : n < n_nodes (c_N C)) (hp : (E n)[i]? = some p) (he : (g_es G n)[i]? = some e) (hl : (g_ways G).length ≤ c_Mw C) :
    (s_way (c_N C) (c_lk C) n e G = none ∧ ∃ q o1 μ1, D_X12_on g (c_a C) (nI n) (some p) μ = some (.inr q, μ1) ∧ h_go g C o1 μ1 (s_up1 E n ((E n).eraseIdx i)) (B + 12) (g_ses G n ((g_es G n).eraseIdx i)) ∧ h_why o1 μ1 0 q 1 (nI n) ∧ h_en g o1 μ1 n p e ∧ h_fr g (fun a => o a = 1020 + n) o μ o1 μ1) ∨
    (∃ to, s_way (c_N C) (c_lk C) n e G = some to ∧ ∃ o1 μ1, D_X12_on g (c_a C) (nI n) (some p) μ = some (.inl (), μ1) ∧ h_go g C o1 μ1 E (B + 14) (s_send (c_N C) (c_lk C) 0 n to (e_name e) (e_wish e) (e_first e) r (g_ses G n ((g_es G n).set i (s_gone to (g_minute G) e)))) ∧
      h_fr g (fun a => o a = 1000 ∨ o a = 1001 ∨ o a = o p) o μ o1 μ1) := by
  have hN := h.hN
  have h6 : n_nodes (c_N C) ≤ 6 := hN.1.1.2
  obtain ⟨q, hq⟩ := h.nodeAt hn
  obtain ⟨ce, hno, hce, hn6, -, reb⟩ := h.node hq
  have hen := hno.en hp he
  have hen' := hen
  obtain ⟨h0, h1, h2, nm, al, ca, h3, h4, h5⟩ := hen'
  have hbest := h.best (but := e_in e ||| e_tried e) hn h4
  have hD : ∀ z, (if oI (s_way (c_N C) (c_lk C) n e G) = (-1 : Int32) then (x_gr μ (c_a C) 12 1 fun o66 => x_o o66 fun p70 => x_ob μ p70 3 fun _ => x_b (D_J2_get g p70 (nI n) μ) fun o74 => x_gp (x_ic g μ o74 "AskedNames$Node") <| x_o o74 fun p76 => x_ob μ p76 13 fun _ => x_b (D_X13_loses g p76 (some p) μ) fun μ80 => x_nw μ80 7 (.inr (18, [.null, .null, .null, .null, .null, .int 0, .int 0])) fun p81 μ82 => x_b (D_X18_init g p81 (nI n) μ82) fun μ84 => x_os μ84 p81 [7, 14, 18] fun _ _ => some (.inr p81, μ84)) else
      x_pf μ p 17 7 (.int (oI (s_way (c_N C) (c_lk C) n e G))) fun μ23 => x_gi μ23 p 17 8 fun x24 => x_pf μ23 p 17 8 (.int (x24 ||| ((1 : Int32) <<< ((oI (s_way (c_N C) (c_lk C) n e G)) &&& 31)))) fun μ32 => x_gi μ32 (c_a C) 12 5 fun x33 => x_pf μ32 p 17 9 (.int x33) fun μ41 => x_nw μ41 9 (.inr (15, [.int 0, .int 0, .int 0, .int 0, .int 0, .int 0, .null, .null, .null])) fun p42 μ43 =>
      x_ob μ43 (c_a C) 12 fun _ => x_b (D_X12_at g (c_a C) (nI n) (oI (s_way (c_N C) (c_lk C) n e G)) μ43) fun x47 => x_gr μ43 p 17 0 fun o48 => x_gi μ43 p 17 1 fun x52 => x_gi μ43 p 17 3 fun x56 => x_b (D_X15_init g p42 (nI n) (oI (s_way (c_N C) (c_lk C) n e G)) x47 o48 x52 x56 none (-1 : Int32) none μ43) fun μ61 => x_ob μ61 (c_a C) 12 fun _ => x_b (D_X12_sends g (c_a C) (some p42) μ61) fun μ65 => some (.inl (), μ65)) = z → D_X12_on g (c_a C) (nI n) (some p) μ = z := by
    intro z hz
    unfold D_X12_on
    rw [x_oS, x_grR h3 rfl, x_giS h3 rfl, x_giS h3 rfl, h.ob, hbest, x_bS]
    exact hz
  cases hway : s_way (c_N C) (c_lk C) n e G with
  | none =>
    obtain ⟨μ1, e1, g1, f1, hu1⟩ := h.lose hq hp
    have f2 := h_fr.new (o := o) (n := 7) (t := 0) (x := .inr (18, [.null, .null, .null, .null, .null, .int 0, .int (nI n)])) f1.wf
    have f12 : h_fr g (fun a => o a = 1020 + n) o μ (h_o1 o μ1.2.1 0) (z_new μ1 7 (.inr (18, [.null, .null, .null, .null, .null, .int 0, .int (nI n)]))) := f1.trans f2 (fun a _ q => q.elim id False.elim)
    refine Or.inl ⟨rfl, μ1.2.1, h_o1 o μ1.2.1 0, z_new μ1 7 (.inr (18, [.null, .null, .null, .null, .null, .int 0, .int (nI n)])), ?_, g1.new (t := 0), ⟨if_pos rfl, _, rfl, Or.inl ⟨rfl, z_new_self⟩⟩, hen.fr f12 h.wf (fun a ha (q : o a = 1020 + n) => by omega) (fun a ha (q : o a = 1020 + n) => by omega), f12⟩
    refine hD _ ?_
    rw [hway]
    rw [if_pos (show oI none = (-1 : Int32) from rfl), h.getNode hq, x_oS, hno.ob, e1, x_bS, x_nwS, x_init18 h.ok, x_bS]
    exact x_osS z_new_self (by decide)
  | some to =>
    obtain ⟨to6, -, -⟩ := s_next_some hway hN
    have tom : to < n_nodes (c_N C) := s_next_n hN (h.1.2.2.1.mso hn6) hway
    have hto : oI (some to) = nI to := rfl
    have cn : (g_nd G n).1[i]? = some e := he
    have f1 := h_fr.setF (o := o) (fs' := [.ref nm, .int (e_wish e), .int (e_ends e), .int (e_first e), .ref al, .long (e_nonces e), .int (e_in e), .int (nI to), .int (e_tried e ||| ((1 : Int32) <<< (nI to &&& 31))), .int (g_minute G)]) h.wf h3
    have f1' : h_fr g (fun a => o a = o p) o μ o (z_set μ p (.inr (17, [.ref nm, .int (e_wish e), .int (e_ends e), .int (e_first e), .ref al, .long (e_nonces e), .int (e_in e), .int (nI to), .int (e_tried e ||| ((1 : Int32) <<< (nI to &&& 31))), .int (g_minute G)]))) := f1.mono (fun a _ q => by rw [q])
    have c1 : (z_set μ p (.inr (17, [.ref nm, .int (e_wish e), .int (e_ends e), .int (e_first e), .ref al, .long (e_nonces e), .int (e_in e), .int (nI to), .int (e_tried e ||| ((1 : Int32) <<< (nI to &&& 31))), .int (g_minute G)]))).1 p = some (.inr (17, [.ref nm, .int (e_wish e), .int (e_ends e), .int (e_first e), .ref al, .long (e_nonces e), .int (e_in e), .int (nI to), .int (e_tried e ||| ((1 : Int32) <<< (nI to &&& 31))), .int (g_minute G)])) := z_set_self
    have hen2 : h_en g o (z_set μ p (.inr (17, [.ref nm, .int (e_wish e), .int (e_ends e), .int (e_first e), .ref al, .long (e_nonces e), .int (e_in e), .int (nI to), .int (e_tried e ||| ((1 : Int32) <<< (nI to &&& 31))), .int (g_minute G)]))) n p (s_gone to (g_minute G) e) := ⟨h0, h1, h2, nm, al, ca, c1, h4.fr f1' h.wf (fun a ha (q : o a = o p) => by omega), h5.fr f1' h.wf (fun a ha (q : o a = o p) => by omega)⟩
    have hno2 := hno.setE (S := fun a => o a = o p) h.wf hn6 hp f1' (fun a q => Or.inl q) h0.1 hen2
    have htm2 : s_tms (g_snd G (s_up1 (g_nd G) n ((g_nd G n).1.set i (s_gone to (g_minute G) e), (g_nd G n).2))) := h.1.2.2.1.node (fun e' he' => by
      rcases List.mem_or_eq_of_mem_set he' with q | q
      · exact h.1.2.2.1.sent hn6 e' q
      · obtain ⟨tm, t1, t2, -, -⟩ := h.1.2.2.1
        refine ⟨tm, by rw [t2, v_nI (by omega)]; exact Nat.le_refl _, ?_⟩
        rw [q]
        exact t2)
    have H2 : h_go g C o (z_set μ p (.inr (17, [.ref nm, .int (e_wish e), .int (e_ends e), .int (e_first e), .ref al, .long (e_nonces e), .int (e_in e), .int (nI to), .int (e_tried e ||| ((1 : Int32) <<< (nI to &&& 31))), .int (g_minute G)]))) (s_up1 E n (E n)) B (g_ses G n ((g_es G n).set i (s_gone to (g_minute G) e))) := reb _ o _ ce _ _ (g_meas G) 0 f1' (fun a ha => (hen.tag (Or.inl ha)).1) hno2 hce (by rw [h_u_set]; omega) (fun _ _ _ _ _ => rfl) htm2
    have eE : s_up1 E n (E n) = E := funext fun m => by
      by_cases em : m = n
      · rw [em, s_up1_s]
      · rw [s_up1_n em]
    rw [eE] at H2
    generalize hM : z_set μ p (.inr (17, [.ref nm, .int (e_wish e), .int (e_ends e), .int (e_first e), .ref al, .long (e_nonces e), .int (e_in e), .int (nI to), .int (e_tried e ||| ((1 : Int32) <<< (nI to &&& 31))), .int (g_minute G)])) = M at f1' c1 hen2 H2
    have hpc : p ≠ c_a C := fun q => by rw [q, h.ca] at h3; cases h3
    obtain ⟨o3, μ3, e3, H3, f3⟩ := H2.post (kind := 0) (name := e_name e) (wish := e_wish e) (nonce := e_first e) (src := -1) (r := r) (q := nm) (dr := none) (wr := none) (n := n) (t := to) hn tom h1 (by
      have := hen2
      obtain ⟨-, -, -, nm', al', ca', k3, k4, -⟩ := this
      rw [c1] at k3
      cases k3
      exact k4) hl (fun l _ => Or.inl ⟨rfl, rfl, rfl⟩)
    refine Or.inr ⟨to, rfl, o3, μ3, ?_, H3, f1'.trans f3 (fun a ha q => ?_)⟩
    · refine hD _ ?_
      rw [hway, hto, if_neg (oI_none (by omega))]
      refine (x_pfS h3 (Nat.le_of_ble_eq_true rfl)).trans ?_
      have d1 : ∀ xs, (z_set μ p (.inr (17, xs))).1 p = some (.inr (17, xs)) := fun xs => z_set_self
      have d2 : ∀ xs, (z_set μ p (.inr (17, xs))).1 (c_a C) = some (h_gc C G) := fun xs => (z_set_ne (Ne.symm hpc)).trans h.ca
      refine (x_giS (d1 _) rfl).trans ?_
      refine (x_pfS (d1 _) (Nat.le_of_ble_eq_true rfl)).trans ?_
      rw [z_set_set]
      refine (x_giS (d2 _) rfl).trans ?_
      refine (x_pfS (d1 _) (Nat.le_of_ble_eq_true rfl)).trans ?_
      rw [z_set_set]
      have hM' : z_set μ p (.inr (17, List.set (List.set (List.set [.ref nm, .int (e_wish e), .int (e_ends e), .int (e_first e), .ref al, .long (e_nonces e), .int (e_in e), .int (e_out e), .int (e_tried e), .int (e_sent e)] 7 (.int (nI to))) 8 (.int (e_tried e ||| ((1 : Int32) <<< (nI to &&& 31))))) 9 (.int (g_minute G)))) = M := hM
      refine Eq.trans (congrArg (fun z => x_nw z 9 (.inr (15, [.int 0, .int 0, .int 0, .int 0, .int 0, .int 0, .null, .null, .null])) fun p42 μ43 => x_ob μ43 (c_a C) 12 fun _ => x_b (D_X12_at g (c_a C) (nI n) (nI to) μ43) fun x47 => x_gr μ43 p 17 0 fun o48 => x_gi μ43 p 17 1 fun x52 => x_gi μ43 p 17 3 fun x56 => x_b (D_X15_init g p42 (nI n) (nI to) x47 o48 x52 x56 none (-1 : Int32) none μ43) fun μ61 => x_ob μ61 (c_a C) 12 fun _ => x_b (D_X12_sends g (c_a C) (some p42) μ61) fun μ65 => some ((.inl () : Unit ⊕ Nat), μ65)) hM') ?_
      have hN2 := H2.new (m := 9) (t := 0) (x := .inr (15, [.int 0, .int 0, .int 0, .int 0, .int 0, .int 0, .null, .null, .null]))
      have c3 : (z_new M 9 (.inr (15, [.int 0, .int 0, .int 0, .int 0, .int 0, .int 0, .null, .null, .null]))).1 p = _ := (z_new_ne (H2.wf.ne c1)).trans c1
      have hI : h_go g C (h_o1 o M.2.1 0) (z_new M 9 (.inr (15, [.int (nI n), .int (nI to), .int (g_minute G + s_dly (c_N C) (c_lk C) (6 * n + to)), .int (e_wish e), .int (e_first e), .int (-1), .ref nm, va_rf none, va_rf none]))) E (B + (5 + 9)) (g_ses G n ((g_es G n).set i (s_gone to (g_minute G) e))) := H2.new
      rw [x_nwS, hN2.ob, hN2.delay (by omega) (by omega), x_bS, x_grR c3 rfl, x_giS c3 rfl, x_giS c3 rfl, x_init15, x_bS]
      refine Eq.trans hI.ob ?_
      exact congrArg (fun z => x_b z fun μ65 => some ((.inl () : Unit ⊕ Nat), μ65)) e3
    · rcases q with q | q | q
      · exact Or.inr (Or.inr q)
      · exact Or.inl q
      · exact Or.inr (Or.inl q)
end T93
