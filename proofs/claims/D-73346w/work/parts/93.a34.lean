/-! THE COMPONENT's LAW, 34: data come -/
set_option maxRecDepth 100000
set_option linter.unusedVariables false
/-- what it costs that data come -/
def k_dataCome (N : s_R) (lk : Nat → Option Nat) (n fr : Nat) (name : Int32) (r : s_Q) (G : s_G) : Nat :=
  match s_ff name (decide (¬ r.1 < g_minute G)) (g_es G n) with
  | none => 15
  | some i => match (g_es G n)[i]? with
    | none => 15
    | some e =>
      let G1 := if e_out e = nI fr then g_smeas G (s_up1 (g_meas G) (6 * n + fr) (g_minute G - e_sent e)) else G
      let G2 := if 0 < n_room N n then g_sds G1 n (s_put (n_room N n) (name, r.1, r.2.1) (g_ds G1 n)) else G1
      24 + 44 * (g_es G n).countP (s_wt name (decide (¬ r.1 < g_minute G))) + k_answerAll N lk n name (decide (¬ r.1 < g_minute G)) r (g_es G2 n).length G2
section T93
variable {g : z_G} {C : h_C} {o o1 : Nat → Nat} {μ μ1 : z_M} {E : Nat → List Nat} {B b p n q k w a0 t l x ce room i c j d pit al ca fr pm : Nat} {G G' : s_G} {S : Nat → Prop} {N : s_R} {xs es cs : List Nat} {nd : s_N} {ms : Nat → Int32} {but nonce name wish ends src v : Int32} {e : s_E} {fs : List Value} {r : s_Q} {m : s_M}
theorem h_go.gets25P {P : Option z_M → Prop} {pm pd l11 : Nat} {fm : List Value} {until_ : Int32} {d2 : Int32} {K : z_M → Option z_M} (h : h_go g C o μ E B G) (hqn : (c_ns C)[n]? = some q) (hm : μ.1 pm = some (.inr (15, fm))) (hom : o pm = 0) (hm7 : fm[7]? = some (.ref pd)) (hd : h_dt o μ pd (name, until_, d2)) (hL : h_ls g o μ 901 l11 2 [])
    (hP : ∀ o1 μ1 c11, h_go g C o1 μ1 E (B + 44 * (g_es G n).countP (s_wt name (decide (¬ until_ < g_minute G)))) G → h_ls g o1 μ1 901 l11 c11 (s_mt name (decide (¬ until_ < g_minute G)) (E n) (g_es G n)) → h_fr g (fun a => o a = 901) o μ o1 μ1 → P (K μ1)) :
    P (D_X12_gets_25 g (c_a C) (nI n) (some pm) (some q) l11 K x_F 0 μ) := by
  obtain ⟨o1, μ1, c11, e1, a1, a2, a3⟩ := h.gets25 K hqn hm hom hm7 hd hL
  rw [e1]
  exact hP o1 μ1 c11 a1 a2 a3
theorem h_go.roomA (h : h_go g C o μ E B G) : ∃ fs rm fr, μ.1 (c_p C) = some (.inr (5, fs)) ∧ fs[2]? = some (.ref rm) ∧ μ.1 rm = some (h_ia 6 fr) ∧ ∀ i, i < 6 → fr i = c_N C (5 + i) := by
  obtain ⟨h0, rm, ll, rl, sl, nl, nr, ns, fr, f, hp, ⟨m1, m2, m3⟩, -⟩ := h.nt
  exact ⟨_, rm, fr, hp, rfl, m2, m3⟩
theorem h_go.gets (h : h_go g C o μ E B G) (hm : h_mg (c_N C) o μ pm m) (hk : m.1.1 = 1) (hto : m.1.2.2.1 = nI n) (hn : n < n_nodes (c_N C)) (hnod : ((g_ds G n).map (fun d => d.1)).Nodup) (hroom : (g_ds G n).length ≤ n_room (c_N C) n) (hl : (g_ways G).length + 6 * (g_es G n).length ≤ c_Mw C) :
    ∃ o1 μ1 E', D_X12_gets g (c_a C) (nI n) (some pm) μ = some μ1 ∧ h_go g C o1 μ1 E' (B + k_dataCome (c_N C) (c_lk C) n (v_ m.1.2.1) m.1.2.2.2.1 m.2 G) (s_dataCome (c_N C) (c_lk C) n (v_ m.1.2.1) m.1.2.2.2.1 m.2 G) ∧ h_fr g (fun a => 901 ≤ o a) o μ o1 μ1 := by
  have hN := h.hN
  have h6 : n_nodes (c_N C) ≤ 6 := hN.1.1.2
  obtain ⟨hom, hnm, fr, to, due, qn, dr, wr, src, m1, m2, m3, m4, m5, m6, mc, mq, mk⟩ := hm
  have hfr : v_ m.1.2.1 = fr := by rw [m3, v_nI (by omega)]
  obtain ⟨rfl, ⟨pd, rfl, hd⟩, hs⟩ : wr = none ∧ (∃ d, dr = some d ∧ h_dt o μ d (m.1.2.2.2.1, m.2.1, m.2.2.1)) ∧ (∃ n f, n < 6 ∧ f < 2 ∧ src = nI (10 * n + f) ∧ m.2.2.2.1 = nI n ∧ m.2.2.2.2 = nI f) := by
    rcases mk with ⟨k0, -⟩ | ⟨-, k1, k2, k3⟩ | ⟨k0, -⟩
    · rw [hk] at k0; exact absurd k0 (by decide)
    · exact ⟨k1, k2, k3⟩
    · rw [hk] at k0; exact absurd k0 (by decide)
  rw [hfr]
  generalize hname : m.1.2.2.2.1 = name at *
  generalize hr : m.2 = r at *
  obtain ⟨q, hqn⟩ := h.nodeAt hn
  obtain ⟨μ1, e1, hL, f1, n1, u1⟩ := h_listC (o := o) 901 2 h.wf (by omega) (by omega)
  generalize ho1 : h_o1 (h_o1 o μ.2.1 901) (μ.2.1 + 1) 901 = o1 at hL f1
  have h1 := h.fr (b := 15) f1 (fun a q => q.elim) (by omega)
  have hom1 : o1 pm = 0 := (f1.2.1 pm (h.wf.lt mc)).trans hom
  have mc1 := f1.cell h.wf mc (fun q => q)
  have hd1 := hd.fr f1 h.wf (fun a _ q => q)
  unfold D_X12_gets
  rw [h.getNode hqn, x_nwS, show (2 : Int32) = nI 2 from rfl, e1, x_bS]
  refine h_go.gets25P (P := fun z => ∃ o1 μ1 E', z = some μ1 ∧ h_go g C o1 μ1 E' (B + k_dataCome (c_N C) (c_lk C) n fr name r G) (s_dataCome (c_N C) (c_lk C) n fr name r G) ∧ h_fr g (fun a => 901 ≤ o a) o μ o1 μ1) h1 hqn mc1 hom1 rfl hd1 hL (fun o2 μ2 c11 h2 L2 f2 => ?_)
  have f12 : h_fr g (fun a => o a = 901) o μ o2 μ2 := f1.trans f2 (fun a ha q => by
    rcases q with q | q
    · exact q.elim
    · rw [f1.2.1 a ha] at q; exact q)
  have S0 : ∀ a, o a = 0 → ¬ o a = 901 := fun a ha => by omega
  have hom2 : o2 pm = 0 := (f12.2.1 pm (h.wf.lt mc)).trans hom
  have mc2 := f12.cell h.wf mc (S0 _ hom)
  have hd2 := hd.fr f12 h.wf S0
  show ∃ o1 μ1 E', x_ob μ2 μ.2.1 3 _ = some μ1 ∧ _ ∧ _
  obtain ⟨ce2, hno2⟩ := h2.node0 hqn
  have hno2' := hno2
  obtain ⟨-, _, _, _, _, _, -, -, ⟨k4, k5, -⟩, -⟩ := hno2'
  rw [L2.obK, L2.isEmpty, x_bS]
  cases hmt : s_mt name (decide (¬ r.1 < g_minute G)) (E n) (g_es G n) with
  | nil =>
    have hff : s_ff name (decide (¬ r.1 < g_minute G)) (g_es G n) = none := s_ff_no (s_mt_nil (E n) (g_es G n) k5.1 hmt)
    have hcp : (g_es G n).countP (s_wt name (decide (¬ r.1 < g_minute G))) = 0 := by
      rw [← s_mt_len (E n) (g_es G n) k5.1, hmt]; rfl
    rw [hcp] at h2
    obtain ⟨h3, f3⟩ := h2.head (G' := g_sdropped G (g_dropped G + 1)) rfl rfl rfl rfl rfl (h2.1.2.2.1.same rfl rfl rfl)
    have eS : s_dataCome (c_N C) (c_lk C) n fr name r G = g_sdropped G (g_dropped G + 1) := by
      unfold s_dataCome
      rw [hff]
    have eK : k_dataCome (c_N C) (c_lk C) n fr name r G = 15 := by
      unfold k_dataCome
      rw [hff]
    rw [eS, eK]
    refine ⟨o2, z_set μ2 (c_a C) (h_gc C (g_sdropped G (g_dropped G + 1))), E, ?_, h3.le (by omega), f12.trans f3 (fun a ha q => ?_)⟩
    · rw [if_pos rfl, if_neg (show ¬ (1 : Int32) = 0 by decide), x_giS h2.ca rfl]
      exact x_pfS h2.ca (Nat.le_of_ble_eq_true rfl)
    · rcases q with q | q
      · omega
      · rw [f12.2.1 a ha] at q; omega
  | cons p R =>
    obtain ⟨i, e, b1, b2, b3, b4, -⟩ := s_mt_cons (E n) (g_es G n) p R k5.1 hmt
    have hff := s_ff_is b2 b3 b4
    have hen := hno2.en b1 b2
    have hA : z_isA g μ2 p "AskedNames$Entry" := hen.isA
    have hen' := hen
    obtain ⟨-, -, -, nm, al, ca, c3, -, -⟩ := hen'
    have hget : D_J2_get g μ.2.1 (0 : Int32) μ2 = some (some p) := L2.get (i := 0) (by rw [hmt]; rfl)
    rw [if_neg (show ¬ (p :: R = []) from fun q => by cases q), if_pos rfl, L2.obK, hget, x_bS, x_gpI (x_icI hA), x_oS, x_giS c3 rfl, x_oS, x_giS mc2 rfl, x_lS]
    have hLm : (s_mt name (decide (¬ r.1 < g_minute G)) (E n) (g_es G n)).length ≤ (g_es G n).length := by
      rw [s_mt_len (E n) (g_es G n) k5.1]; exact List.countP_le_length
    have key : ∀ (μc : z_M) (G1 : s_G), h_go g C o2 μc E (B + 15 + 44 * (g_es G n).countP (s_wt name (decide (¬ r.1 < g_minute G)))) G1 → h_fr g (fun a => o a = 901 ∨ 1000 ≤ o a) o μ o2 μc → h_ls g o2 μc 901 μ.2.1 c11 (s_mt name (decide (¬ r.1 < g_minute G)) (E n) (g_es G n)) →
        g_es G1 n = g_es G n → g_ds G1 n = g_ds G n → g_ways G1 = g_ways G → g_minute G1 = g_minute G →
        ∃ o1 μ1 E', (x_gr μc pm 15 7 fun o112 => x_gr μc (c_a C) 12 0 fun o116 => x_o o116 fun p120 => x_gr μc p120 5 2 fun o121 => x_o o121 fun p125 => x_ar μc p125 0 fun n126 f127 => x_ga (nI n) n126 fun j129 => x_o (some q) fun p130 => x_ob μc p130 13 fun _ => x_b (D_X13_keeps g p130 o112 (f127 j129) μc) fun μ134 => x_ob μ134 μ.2.1 3 fun _ => x_b2 (D_J2_iterator g μ.2.1 μ134) fun o138 μ139 => D_X12_gets_193 g (c_a C) (nI n) pm p130 o138 (fun (μ262 : z_M) => some μ262) x_F μ139) = some μ1 ∧
          h_go g C o1 μ1 E' (B + (24 + 44 * (g_es G n).countP (s_wt name (decide (¬ r.1 < g_minute G))) + k_answerAll (c_N C) (c_lk C) n name (decide (¬ r.1 < g_minute G)) r (g_es (g_sds G1 n (s_put (n_room (c_N C) n) (name, r.1, r.2.1) (g_ds G1 n))) n).length (g_sds G1 n (s_put (n_room (c_N C) n) (name, r.1, r.2.1) (g_ds G1 n)))))
            (s_answerAll (c_N C) (c_lk C) n name (decide (¬ r.1 < g_minute G)) r (g_es (g_sds G1 n (s_put (n_room (c_N C) n) (name, r.1, r.2.1) (g_ds G1 n))) n).length (g_sds G1 n (s_put (n_room (c_N C) n) (name, r.1, r.2.1) (g_ds G1 n)))) ∧ h_fr g (fun a => 901 ≤ o a) o μ o1 μ1 := by
      intro μc G1 hc fc Lc es1 ds1 wy1 mi1
      have S0' : ∀ a, o a = 0 → ¬ (o a = 901 ∨ 1000 ≤ o a) := fun a ha => by omega
      have mcc := fc.cell h.wf mc (S0' _ hom)
      have hdc := hd.fr fc h.wf S0'
      obtain ⟨fs5, rm, frr, p1, p2, p3, p4⟩ := hc.roomA
      have hrm := n_room_b hN (show n < 6 by omega)
      obtain ⟨cec, hnoc⟩ := hc.node0 hqn
      obtain ⟨μ5, e5, h5, f5⟩ := hc.keeps hqn hdc (by rw [ds1]; exact hnod) (by rw [ds1]; exact hroom)
      have L5 := Lc.fr f5 hc.wf (fun a ha (q : o2 a = 1010 + n) => by omega)
      have f15 : h_fr g (fun a => o a = 901 ∨ 1000 ≤ o a) o μ o2 μ5 := fc.trans f5 (fun a ha q => by
        rcases q with q | q
        · exact q
        · rw [fc.2.1 a ha] at q; exact Or.inr (by omega))
      have mc5 := f15.cell h.wf mc (S0' _ hom)
      have hd5 := hd.fr f15 h.wf S0'
      have es5 : g_es (g_sds G1 n (s_put (n_room (c_N C) n) (name, r.1, r.2.1) (g_ds G1 n))) n = g_es G n := by
        rw [← es1]
        show (s_up1 (g_nd G1) n ((g_nd G1 n).1, s_put (n_room (c_N C) n) (name, r.1, r.2.1) (g_ds G1 n), (g_nd G1 n).2.2) n).1 = _
        rw [s_up1_s]
        rfl
      obtain ⟨o6, μ6, E6, e6, h6', f6⟩ := h_go.answers (C := C) (v3 := 0) (v5 := 0) (m := (g_es (g_sds G1 n (s_put (n_room (c_N C) n) (name, r.1, r.2.1) (g_ds G1 n))) n).length) (r := r) (name := name) (fun (μ262 : z_M) => some μ262) hn hqn h5 mc5 hom2 rfl rfl hd5 hs L5 (by rw [es5]) (by rw [es5]; show (g_ways G1).length + _ ≤ _; rw [wy1]; exact hl) (by rw [es5]; exact hLm)
      refine ⟨o6, μ6, E6, ?_, h6'.le (by omega), f15.trans f6 (fun a ha q => ?_)⟩
      · have hg : frr n = nI (n_room (c_N C) n) := (p4 n (by omega)).trans hrm.1
        rw [x_grR mcc rfl, x_grR hc.ca rfl, x_oS, x_grR p1 p2, x_oS, x_arS p3, x_gaT (by omega) (by omega), hg, x_oS, hnoc.ob, e5, x_bS, L5.obK]
        exact e6
      · rcases q with q | q
        · omega
        · rw [f15.2.1 a ha] at q; omega
    by_cases ceq : e_out e = nI fr
    · obtain ⟨tm, t1, t2, t3, t4⟩ := h.1.2.2.1
      obtain ⟨sx, s1, s2⟩ := t3 n (by omega) e (List.mem_of_getElem? b2)
      have hv : g_minute G - e_sent e = nI (tm - sx) := by rw [t2, s2]; exact nI_sub s1
      obtain ⟨fsq, ml, f, μ3, w1, w2, w3, w4, h3, f3⟩ := h2.setMeas (fr := fr) (v := g_minute G - e_sent e) hqn (by omega) ⟨tm - sx, by omega, hv⟩
      have L3 := L2.fr f3 h2.wf (fun a ha (q : o2 a = 1030 + n) => by omega)
      obtain ⟨o9, μ9, E9, e9, h9, f9⟩ := key μ3 _ h3 (f12.trans f3 (fun a ha q => by
        rcases q with q | q
        · exact Or.inl q
        · rw [f12.2.1 a ha] at q; exact Or.inr (by omega))) L3 rfl rfl rfl rfl
      have eS : s_dataCome (c_N C) (c_lk C) n fr name r G = s_answerAll (c_N C) (c_lk C) n name (decide (¬ r.1 < g_minute G)) r (g_es (g_sds (g_smeas G (s_up1 (g_meas G) (6 * n + fr) (g_minute G - e_sent e))) n (s_put (n_room (c_N C) n) (name, r.1, r.2.1) (g_ds (g_smeas G (s_up1 (g_meas G) (6 * n + fr) (g_minute G - e_sent e))) n))) n).length (g_sds (g_smeas G (s_up1 (g_meas G) (6 * n + fr) (g_minute G - e_sent e))) n (s_put (n_room (c_N C) n) (name, r.1, r.2.1) (g_ds (g_smeas G (s_up1 (g_meas G) (6 * n + fr) (g_minute G - e_sent e))) n))) := by
        have hk9 := s_keep_eq (G := g_smeas G (s_up1 (g_meas G) (6 * n + fr) (g_minute G - e_sent e))) (room := n_room (c_N C) n) (d := (name, r.1, r.2.1)) hroom
        unfold s_dataCome
        rw [hff]
        show (match (g_es G n)[i]? with | none => G | some e => _) = _
        rw [b2]
        show s_answerAll _ _ _ _ _ _ (g_es (if 0 < n_room (c_N C) n then g_sds (if e_out e = nI fr then _ else _) n _ else (if e_out e = nI fr then _ else _)) n).length (if 0 < n_room (c_N C) n then g_sds (if e_out e = nI fr then _ else _) n _ else (if e_out e = nI fr then _ else _)) = _
        rw [if_pos ceq, hk9]
      have eK : k_dataCome (c_N C) (c_lk C) n fr name r G = 24 + 44 * (g_es G n).countP (s_wt name (decide (¬ r.1 < g_minute G))) + k_answerAll (c_N C) (c_lk C) n name (decide (¬ r.1 < g_minute G)) r (g_es (g_sds (g_smeas G (s_up1 (g_meas G) (6 * n + fr) (g_minute G - e_sent e))) n (s_put (n_room (c_N C) n) (name, r.1, r.2.1) (g_ds (g_smeas G (s_up1 (g_meas G) (6 * n + fr) (g_minute G - e_sent e))) n))) n).length (g_sds (g_smeas G (s_up1 (g_meas G) (6 * n + fr) (g_minute G - e_sent e))) n (s_put (n_room (c_N C) n) (name, r.1, r.2.1) (g_ds (g_smeas G (s_up1 (g_meas G) (6 * n + fr) (g_minute G - e_sent e))) n))) := by
        have hk9 := s_keep_eq (G := g_smeas G (s_up1 (g_meas G) (6 * n + fr) (g_minute G - e_sent e))) (room := n_room (c_N C) n) (d := (name, r.1, r.2.1)) hroom
        unfold k_dataCome
        rw [hff]
        show (match (g_es G n)[i]? with | none => 15 | some e => _) = _
        rw [b2]
        show 24 + _ + k_answerAll _ _ _ _ _ _ (g_es (if 0 < n_room (c_N C) n then g_sds (if e_out e = nI fr then _ else _) n _ else (if e_out e = nI fr then _ else _)) n).length (if 0 < n_room (c_N C) n then g_sds (if e_out e = nI fr then _ else _) n _ else (if e_out e = nI fr then _ else _)) = _
        rw [if_pos ceq, hk9]
      rw [eS, eK]
      refine ⟨o9, μ9, E9, ?_, h9, f9⟩
      rw [if_pos ceq, x_oS, x_grR w1 w2, x_giS mc2 rfl, x_giS h2.ca rfl, L2.obK, x_bS, x_gpI (x_icI hA), x_oS, x_giS c3 rfl, x_oS]
      refine (x_arW w3 (i := nI fr) rfl (by omega) (by omega)).trans ?_
      rw [← w4]
      exact e9
    · obtain ⟨o9, μ9, E9, e9, h9, f9⟩ := key μ2 G h2 (f12.mono (fun a _ q => Or.inl q)) L2 rfl rfl rfl rfl
      have eS : s_dataCome (c_N C) (c_lk C) n fr name r G = s_answerAll (c_N C) (c_lk C) n name (decide (¬ r.1 < g_minute G)) r (g_es (g_sds G n (s_put (n_room (c_N C) n) (name, r.1, r.2.1) (g_ds G n))) n).length (g_sds G n (s_put (n_room (c_N C) n) (name, r.1, r.2.1) (g_ds G n))) := by
        have hk9 := s_keep_eq (G := G) (room := n_room (c_N C) n) (d := (name, r.1, r.2.1)) hroom
        unfold s_dataCome
        rw [hff]
        show (match (g_es G n)[i]? with | none => G | some e => _) = _
        rw [b2]
        show s_answerAll _ _ _ _ _ _ (g_es (if 0 < n_room (c_N C) n then g_sds (if e_out e = nI fr then _ else _) n _ else (if e_out e = nI fr then _ else _)) n).length (if 0 < n_room (c_N C) n then g_sds (if e_out e = nI fr then _ else _) n _ else (if e_out e = nI fr then _ else _)) = _
        rw [if_neg ceq, hk9]
      have eK : k_dataCome (c_N C) (c_lk C) n fr name r G = 24 + 44 * (g_es G n).countP (s_wt name (decide (¬ r.1 < g_minute G))) + k_answerAll (c_N C) (c_lk C) n name (decide (¬ r.1 < g_minute G)) r (g_es (g_sds G n (s_put (n_room (c_N C) n) (name, r.1, r.2.1) (g_ds G n))) n).length (g_sds G n (s_put (n_room (c_N C) n) (name, r.1, r.2.1) (g_ds G n))) := by
        have hk9 := s_keep_eq (G := G) (room := n_room (c_N C) n) (d := (name, r.1, r.2.1)) hroom
        unfold k_dataCome
        rw [hff]
        show (match (g_es G n)[i]? with | none => 15 | some e => _) = _
        rw [b2]
        show 24 + _ + k_answerAll _ _ _ _ _ _ (g_es (if 0 < n_room (c_N C) n then g_sds (if e_out e = nI fr then _ else _) n _ else (if e_out e = nI fr then _ else _)) n).length (if 0 < n_room (c_N C) n then g_sds (if e_out e = nI fr then _ else _) n _ else (if e_out e = nI fr then _ else _)) = _
        rw [if_neg ceq, hk9]
      rw [eS, eK]
      refine ⟨o9, μ9, E9, ?_, h9, f9⟩
      rw [if_neg ceq]
      exact e9
end T93
