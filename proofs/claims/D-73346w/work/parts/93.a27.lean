/-! THE COMPONENT's LAW, 27: an interest is taken, asked -/
set_option maxRecDepth 100000
set_option linter.unusedVariables false
/-- what comes of an interest that is no loop -/
def s_rest (N : s_R) (lk : Nat → Option Nat) (n t : Nat) (name wish nonce : Int32) (G : s_G) : s_G :=
  match s_fresh (g_ds G n) (s_at name (g_ds G n)) wish (g_minute G) with
    | some d => s_fromStore N lk n t name d G
    | none => match s_serve N n (v_ name) with
      | some k => s_fromServer N lk n t k name G
      | none => match s_ei name wish (g_es G n) with
        | some i => match (g_es G n)[i]? with
          | some e => g_ses (g_sjoined G (g_joined G + 1)) n ((g_es G n).set i (s_join t nonce e))
          | none => G
        | none => s_make N lk n t name wish nonce G
theorem s_interestR {N : s_R} {lk : Nat → Option Nat} {n t : Nat} {name wish nonce : Int32} {G : s_G} : s_interest N lk n t name wish nonce G = if s_hasL (g_dead G n) nonce = true ∨ s_entryHas (g_es G n) (s_ei name wish (g_es G n)) nonce = true then s_nack N lk n t name wish (1, 2, nI n, 0) (g_sloops G (g_loops G + 1)) else s_rest N lk n t name wish nonce G := rfl
section T93
variable {g : z_G} {C : h_C} {o o1 : Nat → Nat} {μ μ1 : z_M} {E : Nat → List Nat} {B b p n q k w a0 t l x ce room i c j d : Nat} {G G' : s_G} {S : Nat → Prop} {N : s_R} {xs es cs : List Nat} {nd : s_N} {ms : Nat → Int32} {but nonce name wish ends src : Int32} {e : s_E} {fs : List Value} {r : s_Q}
theorem h_go.serve (h : h_go g C o μ E B G) (hx : (c_ss C)[k]? = some x) : h_rt o μ x (n_sn (c_N C) k) (-1) (n_sc (c_N C) k) (n_sw (c_N C) k) := by
  obtain ⟨h0, rm, ll, rl, sl, nl, nr, ns, fr, f, hp, -, -, -, -, s1, s2, s3⟩ := h.nt
  exact s3 k x hx
theorem h_go.serveN (h : h_go g C o μ E B G) : (c_ss C).length = n_serves (c_N C) := by
  obtain ⟨h0, rm, ll, rl, sl, nl, nr, ns, fr, f, hp, -, -, -, -, s1, s2, s3⟩ := h.nt
  exact s2
theorem nI_10 (n : Nat) : (10 : Int32) * nI n = nI (10 * n) := nI_mul 10 n
theorem h_go.J77 (h : h_go g C o μ E B G) (hn : n < n_nodes (c_N C)) (hqn : (c_ns C)[n]? = some q) (ht : s_tgo C t nonce) (hnm : s_wn name) (hq : h_nm o μ w (v_ name)) (hwish : wish = 0 ∨ wish = 1) (hnod : ((g_ds G n).map (fun d => d.1)).Nodup) (hroom : (g_ds G n).length ≤ n_room (c_N C) n) (hl : (g_ways G).length ≤ c_Mw C) (hle : (g_es G n).length ≤ c_Me C)
    (htk : 100 ≤ t → ∀ e ∈ g_es G n, ∀ j, j < 64 → s_hasL (e_asks e) (nI j) = true → j < t - 100) :
    (∃ qx o1 μ1, h_J77 g (c_a C) (nI n) (s_ft t) (some w) wish nonce q (s_adr (E n) (s_ei name wish (g_es G n))) μ = some (.inr qx, μ1) ∧ h_go g C o1 μ1 E (B + 35 + s_tc t) G ∧ h_why o1 μ1 0 qx 1 (nI n) ∧ s_rest (c_N C) (c_lk C) n t name wish nonce G = s_nack (c_N C) (c_lk C) n t name wish (1, 1, nI n, 0) G ∧ h_fr g (fun a => 1000 ≤ o a) o μ o1 μ1) ∨
    (∃ o1 μ1 E', h_J77 g (c_a C) (nI n) (s_ft t) (some w) wish nonce q (s_adr (E n) (s_ei name wish (g_es G n))) μ = some (.inl (), μ1) ∧ h_go g C o1 μ1 E' (B + 37 + s_tc t) (s_rest (c_N C) (c_lk C) n t name wish nonce G) ∧ h_fr g (fun a => 1000 ≤ o a) o μ o1 μ1) := by
  have hN := h.hN
  have h6 : n_nodes (c_N C) ≤ 6 := hN.1.1.2
  obtain ⟨ce0, hno0⟩ := h.node0 hqn
  rcases h.uses hqn hq hnm hwish hnod hroom with ⟨a1, a2⟩ | ⟨d, p, μ1, a1, a2, a3, a4, a5, a6⟩
  · have hsrv := h.nt.server (node := n) hN hq h.wf h.ok (by omega)
    cases hk : s_serve (c_N C) n (v_ name) with
    | some k =>
      rw [hk] at hsrv
      obtain ⟨x, hx⟩ := h_at h.serveN (s_serve_lt hk)
      obtain ⟨x0, wn, hc, -⟩ := h.serve hx
      have hsx : s_adr (c_ss C) (some k) = some x := hx
      rw [hsx] at hsrv
      have eR : s_rest (c_N C) (c_lk C) n t name wish nonce G = s_fromServer (c_N C) (c_lk C) n t k name G := by
        unfold s_rest
        rw [a1, hk]
      have h1 := h.new (m := 3) (t := 0) (x := .inr (16, [va_rf (some w), .int (g_minute G + nI (n_sc (c_N C) k)), .int (nI n)]))
      have f1 := h_fr.new (o := o) (n := 3) (t := 0) (x := .inr (16, [va_rf (some w), .int (g_minute G + nI (n_sc (c_N C) k)), .int (nI n)])) h.wf
      have hd : h_dt (h_o1 o μ.2.1 0) (z_new μ 3 (.inr (16, [va_rf (some w), .int (g_minute G + nI (n_sc (c_N C) k)), .int (nI n)]))) μ.2.1 (name, g_minute G + nI (n_sc (c_N C) k), nI n) := ⟨if_pos rfl, hnm, w, z_new_self, hq.fr f1 h.wf (fun a _ q => q)⟩
      obtain ⟨o2, μ2, e2, h2, f2⟩ := h1.giveT' (r := (g_minute G + nI (n_sc (c_N C) k), nI n, nI n, 0)) (src := (10 : Int32) * nI n) hn ht hd ⟨n, 0, by omega, by omega, nI_10 n, rfl, rfl⟩ hl
      refine Or.inr ⟨o2, μ2, E, ?_, by rw [eR]; exact h2.le (by omega), f1.trans f2 (fun a ha q => ?_)⟩
      · unfold h_J77
        rw [x_giS h.ca rfl, hno0.ob, a2, x_b2S, x_grR h.ca rfl, x_oS, h.nt.ob, hsrv, x_bS, x_nuN, x_nuS, x_nwS]
        have hN1 := h.new (m := 3) (t := 0) (x := .inr (16, [.null, .int 0, .int 0]))
        have c3 : (z_new μ 3 (.inr (16, [.null, .int 0, .int 0]))).1 x = _ := (z_new_ne (h.wf.ne hc)).trans hc
        rw [x_giS hN1.ca rfl, x_giS c3 rfl, x_init16, x_bS]
        exact e2
      · rcases q with q | q
        · exact q.elim
        · rw [h_o1_lt ha] at q; omega
    | none =>
      rw [hk] at hsrv
      have hs0 : s_adr (c_ss C) none = none := rfl
      rw [hs0] at hsrv
      cases hei : s_ei name wish (g_es G n) with
      | none =>
        have eR : s_rest (c_N C) (c_lk C) n t name wish nonce G = s_make (c_N C) (c_lk C) n t name wish nonce G := by
          unfold s_rest
          rw [a1, hk, hei]
        have hJ : h_J77 g (c_a C) (nI n) (s_ft t) (some w) wish nonce q (s_adr (E n) none) μ = h_J59 g (c_a C) (nI n) (s_ft t) (some w) wish nonce q μ := by
          unfold h_J77
          rw [x_giS h.ca rfl, hno0.ob, a2, x_b2S, x_grR h.ca rfl, x_oS, h.nt.ob, hsrv, x_bS, x_nuN, x_nuN]
          rfl
        rw [hJ, eR]
        exact h.J59 hn hqn ht hnm hq hl hle
      | some i =>
        have hil : i < (g_es G n).length := by
          unfold s_ei at hei
          have := (s_find_some hei).2.1
          omega
        obtain ⟨e, he⟩ : ∃ e, (g_es G n)[i]? = some e := ⟨_, List.getElem?_eq_getElem hil⟩
        have eR : s_rest (c_N C) (c_lk C) n t name wish nonce G = g_ses (g_sjoined G (g_joined G + 1)) n ((g_es G n).set i (s_join t nonce e)) := by
          unfold s_rest
          rw [a1, hk, hei]
          show (match (g_es G n)[i]? with | some e => _ | none => G) = _
          rw [he]
        obtain ⟨h1, f1⟩ := h.head (G' := g_sjoined G (g_joined G + 1)) rfl rfl rfl rfl rfl (h.1.2.2.1.same rfl rfl rfl)
        obtain ⟨ce, hno, hce, hn6, hnn, reb⟩ := h1.node hqn
        have hno' := hno
        obtain ⟨-, -, -, -, -, -, -, -, ⟨k4, k5, -⟩, -⟩ := hno'
        obtain ⟨p, hp, hen⟩ := k5.get he
        obtain ⟨o2, μ2, e2, hen2, f2, u2, eo⟩ := hen.takes (t := t) (nonce := nonce) h1.wf h.ok (by
          rcases ht with q | ⟨q1, q2, q3⟩
          · exact Or.inl (by omega)
          · exact Or.inr ⟨q1, q2, q3, htk q1 e (List.mem_of_getElem? he)⟩)
        have hno2 := hno.setE h1.wf hn6 hp f2 (fun a q => q) hen.1.1 hen2
        have eSent : e_sent (s_join t nonce e) = e_sent e := by unfold s_join; split <;> rfl
        have h2 := reb _ o2 μ2 ce (E n) _ (g_meas G) (s_tc t) f2 (fun a ha => (hen.tag ha).1) hno2 hce (by omega) (fun _ _ _ _ _ => rfl) (h1.1.2.2.1.node (fun e' he' => by
          rcases List.mem_or_eq_of_mem_set he' with q | q
          · exact h1.1.2.2.1.sent hn6 e' q
          · rw [q, eSent]
            exact h1.1.2.2.1.sent hn6 e (List.mem_of_getElem? he)))
        rw [s_up1_id] at h2
        have hsa : s_adr (E n) (some i) = some p := hp
        refine Or.inr ⟨o2, μ2, E, ?_, by rw [eR]; exact h2.le (by omega), f1.trans f2 (fun a ha q => ?_)⟩
        · unfold h_J77
          rw [x_giS h.ca rfl, hno0.ob, a2, x_b2S, x_grR h.ca rfl, x_oS, h.nt.ob, hsrv, x_bS, x_nuN, x_nuN, hsa, x_nuS, x_giS h.ca rfl]
          refine (x_pfS h.ca (Nat.le_of_ble_eq_true rfl)).trans ?_
          refine Eq.trans hen.ob ?_
          exact congrArg (fun z => x_b z fun μ108 => some ((.inl () : Unit ⊕ Nat), μ108)) e2
        · rcases q with q | q
          · omega
          · have := hen.1; omega
  · have hfd : ∀ (S : Nat → Prop) (o1 : Nat → Nat) (μ2 : z_M), True := fun _ _ _ => trivial
    have eR : s_rest (c_N C) (c_lk C) n t name wish nonce G = s_fromStore (c_N C) (c_lk C) n t name d G := by
      unfold s_rest
      rw [a1]
    have hq1 : h_nm o μ1 w (v_ name) := hq.fr a6 h.wf (fun a ha (q : o a = 1010 + n) => by omega)
    have hsrv := a5.nt.server (node := n) hN hq1 a5.wf h.ok (by omega)
    obtain ⟨h2, f2⟩ := a5.head (G' := g_shits (g_sds G n (s_put (n_room (c_N C) n) (name, d.2.1, d.2.2) (g_ds G n))) (g_hits G + 1)) rfl rfl rfl rfl rfl (a5.1.2.2.1.same rfl rfl rfl)
    have hd2 := a4.fr f2 a5.wf (fun a ha (q : o a = 1000) => by omega)
    have ed : d = (name, d.2.1, d.2.2) := by rw [← a2]
    obtain ⟨o3, μ3, e3, h3, f3⟩ := h2.giveT' (r := (d.2.1, d.2.2, nI n, 1)) (src := (10 : Int32) * nI n + (1 : Int32)) (name := name) (d := p) hn ht (by rw [← ed]; exact hd2) ⟨n, 1, by omega, by omega, by rw [nI_10, nI_1], rfl, rfl⟩ hl
    obtain ⟨ce1, hno1⟩ := a5.node0 hqn
    refine Or.inr ⟨o3, μ3, E, ?_, by rw [eR]; exact h3.le (by omega), (a6.trans f2 (S := fun a => 1000 ≤ o a) (fun a ha q => ?_)).trans f3 (fun a ha q => ?_)⟩
    · unfold h_J77
      rw [x_giS h.ca rfl, hno0.ob, a3, x_b2S, x_grR a5.ca rfl, x_oS, a5.nt.ob, hsrv, x_bS, x_nuS, x_giS a5.ca rfl]
      refine (x_pfS a5.ca (Nat.le_of_ble_eq_true rfl)).trans ?_
      exact e3
    · rcases q with q | q <;> omega
    · rcases q with q | q
      · exact q
      · omega
end T93
