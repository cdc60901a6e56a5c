/-! THE COMPONENT's LAW, 26: a new entry is made and goes on -/
set_option maxRecDepth 100000
set_option linter.unusedVariables false
theorem s_up1_up1 {α : Type} {f : Nat → α} {k : Nat} {x y : α} : s_up1 (s_up1 f k x) k y = s_up1 f k y := funext fun j => by
  by_cases e : j = k
  · rw [e, s_up1_s, s_up1_s]
  · rw [s_up1_n e, s_up1_n e, s_up1_n e]
theorem s_up1_id {α : Type} {f : Nat → α} {k : Nat} : s_up1 f k (f k) = f := funext fun j => by
  by_cases e : j = k
  · rw [e, s_up1_s]
  · rw [s_up1_n e]
section T93
variable {g : z_G} {C : h_C} {o o1 : Nat → Nat} {μ μ1 : z_M} {E : Nat → List Nat} {B b p n q k w a0 t l x ce room i c j d : Nat} {G G' : s_G} {S : Nat → Prop} {N : s_R} {xs es cs : List Nat} {nd : s_N} {ms : Nat → Int32} {but nonce name wish ends src : Int32} {e : s_E} {fs : List Value} {r : s_Q}
theorem h_go.net1 (h : h_go g C o μ E B G) : ∃ fs, μ.1 (c_p C) = some (.inr (5, fs)) ∧ fs[1]? = some (.int (c_N C 1)) := by
  obtain ⟨h0, rm, ll, rl, sl, nl, nr, ns, fr, f, hp, -⟩ := h.nt
  exact ⟨_, hp, rfl⟩
theorem h_no.addE (h : h_no g o μ n q ce es nd ms) (hok : z_ok g) (hw : h_wf g μ) (hen : h_en g o μ n p e) (hn : n < 6) (hfr : ∀ x ∈ es, o x ≠ o p) (hlen : es.length < 60000) :
    ∃ o1 μ1 ce', (∀ (α : Type) (kk : Int32 → z_M → Option α), (x_gr μ q 13 1 fun o80 => x_o o80 fun p84 => x_ob μ p84 3 fun _ => x_b2 (D_J2_add g p84 (some p) μ) kk) = kk 1 μ1) ∧ h_no g o1 μ1 n q ce' (es ++ [p]) (nd.1 ++ [e], nd.2) ms ∧ h_fr g (fun a => o a = 1020 + n) o μ o1 μ1 ∧
      ce ≤ ce' ∧ (ce' = ce ∨ ce' ≤ es.length + es.length / 2 + 10) ∧ h_u μ1 ≤ h_u μ + 9 * (ce' - ce) := by
  obtain ⟨h0, sl, el, ml, ds, f, h1, ⟨h2, h3⟩, ⟨h4, h5, h6⟩, h7, h8, h9⟩ := h
  obtain ⟨o1, μ1, n1, e1, q1, hf, q2, q3, q4⟩ := h4.add hok hw hlen ⟨"AskedNames$Entry", "java/lang/Object", rfl, hen.isA, Or.inr q2995⟩
  have S0 : ∀ a, o a = 0 → ¬ o a = 1020 + n := fun a ha => by omega
  have hpo : o1 p = o p := hf.2.1 p (hen.lt hw)
  have em : es.map o1 = es.map o := List.map_congr_left (fun x hx => by
    obtain ⟨i, hi⟩ := List.getElem?_of_mem hx
    obtain ⟨y, -, hr⟩ := h5.getL hi
    exact hf.2.1 x (hr.lt hw))
  refine ⟨o1, μ1, n1, fun α kk => ?_, ⟨(hf.2.1 q (hw.lt h1)).trans h0, sl, el, ml, ds, f, hf.cell hw h1 (by omega), ⟨h2.fr hf hw (fun a ha (q : o a = 1020 + n) => by omega), h3.mono (fun x y _ hr => hr.fr hf hw S0)⟩,
    ⟨q1, (h5.mono (fun x y _ hr => hr.fr hf hw S0 (fun a ha (q : o a = 1020 + n) => by
      have := hr.1
      omega))).snoc (hen.fr hf hw S0 (fun a ha (q : o a = 1020 + n) => by
      have := hen.1
      omega)), ?_⟩, (hf.2.1 ml (hw.lt h8)).trans h7, hf.cell hw h8 (by omega), h9⟩, hf, q2, q3, q4⟩
  · rw [x_grR h1 rfl, x_oS, h4.obK, e1, x_b2S]
  · rw [List.map_append, em, List.nodup_append]
    refine ⟨h6, by simp, fun a ha b hb => ?_⟩
    obtain ⟨x, hx, rfl⟩ := List.mem_map.mp ha
    rw [List.map_cons, List.map_nil, List.mem_singleton] at hb
    rw [hb, hpo]
    exact hfr x hx
theorem h_go.J59 (h : h_go g C o μ E B G) (hn : n < n_nodes (c_N C)) (hqn : (c_ns C)[n]? = some q) (ht : s_tgo C t nonce) (hnm : s_wn name) (hq : h_nm o μ w (v_ name)) (hl : (g_ways G).length ≤ c_Mw C) (hle : (g_es G n).length ≤ c_Me C) :
    (∃ qx o1 μ1, h_J59 g (c_a C) (nI n) (s_ft t) (some w) wish nonce q μ = some (.inr qx, μ1) ∧ h_go g C o1 μ1 E (B + 35 + s_tc t) G ∧ h_why o1 μ1 0 qx 1 (nI n) ∧ s_make (c_N C) (c_lk C) n t name wish nonce G = s_nack (c_N C) (c_lk C) n t name wish (1, 1, nI n, 0) G ∧ h_fr g (fun a => 1000 ≤ o a) o μ o1 μ1) ∨
    (∃ o1 μ1 E', h_J59 g (c_a C) (nI n) (s_ft t) (some w) wish nonce q μ = some (.inl (), μ1) ∧ h_go g C o1 μ1 E' (B + 37 + s_tc t) (s_make (c_N C) (c_lk C) n t name wish nonce G) ∧ h_fr g (fun a => 1000 ≤ o a) o μ o1 μ1) := by
  have h6 : n_nodes (c_N C) ≤ 6 := h.hN.1.1.2
  have hMe : c_Me C ≤ 64 := h.1.2.2.2.2
  obtain ⟨o1, μ1, e1, hen1, f1, u1, T1, T2⟩ := h_newE (nonce := nonce) (wish := wish) (ends := g_minute G + c_N C 1) h.ok h.wf (show n < 6 by omega) hnm hq
  obtain ⟨o2, μ2, e2, hen2, f2, u2, eo2⟩ := hen1.takes (t := t) (nonce := nonce) f1.wf h.ok (by
    rcases ht with q | ⟨q1, q2, q3⟩
    · exact Or.inl (by omega)
    · refine Or.inr ⟨q1, q2, q3, fun j hj hb => ?_⟩
      have hb' : s_hasL 0 (nI j) = true := hb
      rw [s_hasL_0 hj] at hb'; cases hb')
  have f12 : h_fr g (fun _ => False) o μ o2 μ2 := f1.trans f2 (fun a ha q => q.elim id (fun q => by
    have a1 := T1 a ha
    have a2 := f1.2.1 a ha
    omega))
  have h2 := h.fr (b := 23 + s_tc t) f12 (fun a q => q.elim) (by omega)
  generalize hE1 : s_join t nonce (name, wish, 0, 0, 0, nonce, -1, 0, 0, g_minute G + c_N C 1) = E1 at hen2
  have hE1s : s_join t nonce (s_new (c_N C) name wish nonce G) = E1 := hE1
  have eName : e_name E1 = name := by rw [← hE1]; unfold s_join; split <;> rfl
  have eWish : e_wish E1 = wish := by rw [← hE1]; unfold s_join; split <;> rfl
  have eFirst : e_first E1 = nonce := by rw [← hE1]; unfold s_join; split <;> rfl
  have eSent : e_sent E1 = 0 := by rw [← hE1]; unfold s_join; split <;> rfl
  obtain ⟨ce, hno, hce, hn6, hnn, reb⟩ := h2.node hqn
  have hno' := hno
  obtain ⟨-, -, -, -, -, -, -, -, ⟨k4, k5, -⟩, -⟩ := hno'
  have hlen : (E n).length = (g_es G n).length := k5.1
  have hold : ∀ x ∈ E n, o2 x ≠ o2 μ.2.1 := fun x hx => by
    obtain ⟨ce0, hno0⟩ := h.node0 hqn
    obtain ⟨-, -, -, -, -, -, -, -, ⟨-, k6, -⟩, -⟩ := hno0
    obtain ⟨i, hi⟩ := List.getElem?_of_mem hx
    obtain ⟨y, -, hr⟩ := k6.getL hi
    have hxl := hr.lt h.wf
    have a1 := T1 x hxl
    have a2 := f12.2.1 x hxl
    omega
  obtain ⟨o3, μ3, ce', e3, hno3, f3, c1, c2, c3⟩ := hno.addE h.ok h2.wf hen2 hn6 hold (by omega)
  have h3 := reb _ o3 μ3 ce' (E n ++ [μ.2.1]) ((g_nd G n).1 ++ [E1], (g_nd G n).2) (g_meas G) 0 f3 (fun a ha => Or.inr (Or.inl ha)) hno3 (by rcases c2 with c2 | c2 <;> omega) (by omega) (fun _ _ _ _ _ => rfl) (h2.1.2.2.1.node (fun e he => by
    rcases List.mem_append.mp he with q | q
    · exact h2.1.2.2.1.sent hn6 e q
    · rw [List.mem_singleton.mp q]
      exact ⟨0, Nat.zero_le _, eSent⟩))
  have h3' : h_go g C o3 μ3 (s_up1 E n (E n ++ [μ.2.1])) (B + (23 + s_tc t)) (g_ses G n (g_es G n ++ [E1])) := h3
  have ei1 : (s_up1 E n (E n ++ [μ.2.1]) n)[(E n).length]? = some μ.2.1 := by
    rw [s_up1_s, List.getElem?_append_right (Nat.le_refl _), Nat.sub_self]; rfl
  have ees : g_es (g_ses G n (g_es G n ++ [E1])) n = g_es G n ++ [E1] := by
    show (s_up1 (g_nd G) n (g_es G n ++ [E1], (g_nd G n).2) n).1 = _
    rw [s_up1_s]
  have ei2 : (g_es (g_ses G n (g_es G n ++ [E1])) n)[(E n).length]? = some E1 := by
    rw [ees, hlen, List.getElem?_append_right (Nat.le_refl _), Nat.sub_self]; rfl
  have f123 : h_fr g (fun a => o a = 1020 + n) o μ o3 μ3 := f12.trans f3 (fun a ha q => q.elim False.elim (fun q => by rw [← f12.2.1 a ha]; exact q))
  have hD : ∀ z, (x_b3 (D_X12_on g (c_a C) (nI n) (some μ.2.1) μ3) (fun _ μ93 => some ((.inl () : Unit ⊕ Nat), μ93)) fun q94 μ95 => some (.inr q94, μ95)) = z → h_J59 g (c_a C) (nI n) (s_ft t) (some w) wish nonce q μ = z := by
    intro z hz
    have hN := h.new (m := 10) (t := 0) (x := .inr (17, [.null, .int 0, .int 0, .int 0, .null, .long 0, .int 0, .int 0, .int 0, .int 0]))
    obtain ⟨fs, p1, p2⟩ := hN.net1
    unfold h_J59
    rw [x_nwS, x_giS hN.ca rfl, x_grR hN.ca rfl, x_oS, x_giS p1 p2, e1, x_bS, hen1.ob, e2, x_bS, e3, h3'.ob]
    exact hz
  rcases h3'.on (r := (0, 0, 0, 0)) hn ei1 ei2 hl with ⟨way, qx, o4, μ4, e4, h4, why, -, f4⟩ | ⟨to, way, o4, μ4, e4, h4, f4⟩
  · refine Or.inl ⟨qx, o4, μ4, hD _ (by rw [e4]; rfl), ?_, why, ?_, f123.trans f4 (fun a ha q => ?_)⟩
    · have eE : s_up1 (s_up1 E n (E n ++ [μ.2.1])) n ((s_up1 E n (E n ++ [μ.2.1]) n).eraseIdx (E n).length) = E := by
        rw [s_up1_s, s_up1_up1, List.eraseIdx_append_of_length_le (Nat.le_refl _), Nat.sub_self]
        show s_up1 E n (E n ++ []) = E
        rw [List.append_nil, s_up1_id]
      have eG : g_ses (g_ses G n (g_es G n ++ [E1])) n ((g_es (g_ses G n (g_es G n ++ [E1])) n).eraseIdx (E n).length) = G := by
        rw [ees, hlen, List.eraseIdx_append_of_length_le (Nat.le_refl _), Nat.sub_self]
        show g_ses (g_ses G n (g_es G n ++ [E1])) n (g_es G n ++ []) = G
        rw [List.append_nil]
        show g_snd (g_snd G (s_up1 (g_nd G) n (g_es G n ++ [E1], (g_nd G n).2))) (s_up1 (s_up1 (g_nd G) n (g_es G n ++ [E1], (g_nd G n).2)) n (g_es G n, (s_up1 (g_nd G) n (g_es G n ++ [E1], (g_nd G n).2) n).2)) = G
        rw [s_up1_up1, s_up1_s]
        show g_snd G (s_up1 (g_nd G) n (g_nd G n)) = G
        rw [s_up1_id]
        rfl
      rw [eE, eG] at h4
      exact h4.le (by omega)
    · have way' : s_way (c_N C) (c_lk C) n E1 G = none := way
      unfold s_make
      rw [hE1s, way']
    · rcases q with q | q
      · omega
      · rw [f123.2.1 a ha] at q; omega
  · refine Or.inr ⟨o4, μ4, s_up1 E n (E n ++ [μ.2.1]), hD _ (by rw [e4]; rfl), ?_, f123.trans f4 (fun a ha q => ?_)⟩
    · have way' : s_way (c_N C) (c_lk C) n E1 G = some to := way
      unfold s_make
      rw [hE1s, way']
      have eG : g_ses (g_ses G n (g_es G n ++ [E1])) n ((g_es (g_ses G n (g_es G n ++ [E1])) n).set (E n).length (s_gone to (g_minute (g_ses G n (g_es G n ++ [E1]))) E1)) = g_ses G n (g_es G n ++ [s_gone to (g_minute G) E1]) := by
        rw [ees, hlen, List.set_append_right _ _ (Nat.le_refl _), Nat.sub_self]
        show g_snd (g_snd G (s_up1 (g_nd G) n (g_es G n ++ [E1], (g_nd G n).2))) (s_up1 (s_up1 (g_nd G) n (g_es G n ++ [E1], (g_nd G n).2)) n (g_es G n ++ [s_gone to (g_minute G) E1], (s_up1 (g_nd G) n (g_es G n ++ [E1], (g_nd G n).2) n).2)) = _
        rw [s_up1_up1, s_up1_s]
        rfl
      rw [eG, eName, eWish, eFirst] at h4
      exact h4.le (by omega)
    · rcases q with q | q | q | q
      · omega
      · rw [f123.2.1 a ha] at q; omega
      · rw [f123.2.1 a ha] at q; omega
      · have a1 := f123.2.1 a ha
        have a2 : o3 μ.2.1 = o2 μ.2.1 := f3.2.1 _ (Nat.lt_of_lt_of_le T2 f2.1)
        have a3 := hen2.1
        omega
end T93
