/-! THE COMPONENT's LAW, 28: takes, asks -/
set_option maxRecDepth 100000
set_option linter.unusedVariables false
/-- what is asked of a run when an interest comes to n -/
def h_ip (C : h_C) (n t : Nat) (nonce : Int32) (G : s_G) : Prop :=
  n < n_nodes (c_N C) ∧ s_tgo C t nonce ∧ ((g_ds G n).map (fun d => d.1)).Nodup ∧ (g_ds G n).length ≤ n_room (c_N C) n ∧ (g_ways G).length ≤ c_Mw C ∧ (g_es G n).length ≤ c_Me C ∧
  (100 ≤ t → ∀ e ∈ g_es G n, ∀ j, j < 64 → s_hasL (e_asks e) (nI j) = true → j < t - 100)
section T93
variable {g : z_G} {C : h_C} {o o1 : Nat → Nat} {μ μ1 : z_M} {E : Nat → List Nat} {B b p n q k w a0 t l x ce room i c j d : Nat} {G G' : s_G} {S : Nat → Prop} {N : s_R} {xs es cs : List Nat} {nd : s_N} {ms : Nat → Int32} {but nonce name wish ends src : Int32} {e : s_E} {fs : List Value} {r : s_Q}
theorem h_go.takes (h : h_go g C o μ E B G) (hi : h_ip C n t nonce G) (hnm : s_wn name) (hq : h_nm o μ w (v_ name)) (hwish : wish = 0 ∨ wish = 1) :
    (∃ qx y o1 μ1 G1, D_X12_takes g (c_a C) (nI n) (s_ft t) (some w) wish nonce μ = some (.inr qx, μ1) ∧ h_go g C o1 μ1 E (B + 35 + s_tc t) G1 ∧ h_why o1 μ1 0 qx y (nI n) ∧ (g_ways G1).length = (g_ways G).length ∧ s_interest (c_N C) (c_lk C) n t name wish nonce G = s_nack (c_N C) (c_lk C) n t name wish (1, y, nI n, 0) G1 ∧ h_fr g (fun a => 1000 ≤ o a) o μ o1 μ1) ∨
    (∃ o1 μ1 E', D_X12_takes g (c_a C) (nI n) (s_ft t) (some w) wish nonce μ = some (.inl (), μ1) ∧ h_go g C o1 μ1 E' (B + 37 + s_tc t) (s_interest (c_N C) (c_lk C) n t name wish nonce G) ∧ h_fr g (fun a => 1000 ≤ o a) o μ o1 μ1) := by
  obtain ⟨hn, ht, hnod, hroom, hl, hle, htk⟩ := hi
  obtain ⟨q, hqn⟩ := h.nodeAt hn
  obtain ⟨ce, hno, hce, hn6, hnn, -⟩ := h.node hqn
  have hno' := hno
  obtain ⟨-, sl, el, ml, -, -, hcell, -, ⟨k4, k5, -⟩, -⟩ := hno'
  have hMe : c_Me C ≤ 64 := h.1.2.2.2.2
  have hlen : (E n).length = (g_es G n).length := k5.1
  have hent := hno.entry (wish := wish) hq hnm h.wf h.ok (by omega)
  have hent' : D_X13_entry g q (some w) wish μ = some (s_adr (E n) (s_ei name wish (g_es G n))) := hent
  rw [x_takesJ, h.getNode hqn, x_oS, hno.ob, hent', x_bS, x_glS hcell rfl, s_interestR]
  have hloop : s_hasL (g_dead G n) nonce = true ∨ s_entryHas (g_es G n) (s_ei name wish (g_es G n)) nonce = true → ∃ qx y o1 μ1 G1, h_J58 g (c_a C) (nI n) μ = some (.inr qx, μ1) ∧ h_go g C o1 μ1 E (B + 35 + s_tc t) G1 ∧ h_why o1 μ1 0 qx y (nI n) ∧ (g_ways G1).length = (g_ways G).length ∧ (if s_hasL (g_dead G n) nonce = true ∨ s_entryHas (g_es G n) (s_ei name wish (g_es G n)) nonce = true then s_nack (c_N C) (c_lk C) n t name wish (1, 2, nI n, 0) (g_sloops G (g_loops G + 1)) else s_rest (c_N C) (c_lk C) n t name wish nonce G) = s_nack (c_N C) (c_lk C) n t name wish (1, y, nI n, 0) G1 ∧ h_fr g (fun a => 1000 ≤ o a) o μ o1 μ1 := by
    intro hc
    obtain ⟨qx, o1, μ1, e1, h1, why, f1⟩ := h.J58 (n := n)
    exact ⟨qx, 2, o1, μ1, g_sloops G (g_loops G + 1), e1, h1.le (by omega), why, rfl, if_pos hc, f1.mono (fun a _ q => by omega)⟩
  by_cases cd : s_hasL (g_dead G n) nonce = true
  · have cd' : s_hasL (g_nd G n).2.2 nonce = true := cd
    rw [if_pos (x_lgh.mpr cd')]
    exact Or.inl (hloop (Or.inl cd))
  · have cd' : ¬ s_hasL (g_nd G n).2.2 nonce = true := cd
    rw [if_neg (fun q => cd' (x_lgh.mp q))]
    have hJ := h.J77 hn hqn ht hnm hq hwish hnod hroom hl hle htk
    have hrest : ¬ s_entryHas (g_es G n) (s_ei name wish (g_es G n)) nonce = true →
        (∃ qx y o1 μ1 G1, h_J77 g (c_a C) (nI n) (s_ft t) (some w) wish nonce q (s_adr (E n) (s_ei name wish (g_es G n))) μ = some (.inr qx, μ1) ∧ h_go g C o1 μ1 E (B + 35 + s_tc t) G1 ∧ h_why o1 μ1 0 qx y (nI n) ∧ (g_ways G1).length = (g_ways G).length ∧ (if s_hasL (g_dead G n) nonce = true ∨ s_entryHas (g_es G n) (s_ei name wish (g_es G n)) nonce = true then s_nack (c_N C) (c_lk C) n t name wish (1, 2, nI n, 0) (g_sloops G (g_loops G + 1)) else s_rest (c_N C) (c_lk C) n t name wish nonce G) = s_nack (c_N C) (c_lk C) n t name wish (1, y, nI n, 0) G1 ∧ h_fr g (fun a => 1000 ≤ o a) o μ o1 μ1) ∨
        (∃ o1 μ1 E', h_J77 g (c_a C) (nI n) (s_ft t) (some w) wish nonce q (s_adr (E n) (s_ei name wish (g_es G n))) μ = some (.inl (), μ1) ∧ h_go g C o1 μ1 E' (B + 37 + s_tc t) (if s_hasL (g_dead G n) nonce = true ∨ s_entryHas (g_es G n) (s_ei name wish (g_es G n)) nonce = true then s_nack (c_N C) (c_lk C) n t name wish (1, 2, nI n, 0) (g_sloops G (g_loops G + 1)) else s_rest (c_N C) (c_lk C) n t name wish nonce G) ∧ h_fr g (fun a => 1000 ≤ o a) o μ o1 μ1) := by
      intro hc
      have hcc : ¬ (s_hasL (g_dead G n) nonce = true ∨ s_entryHas (g_es G n) (s_ei name wish (g_es G n)) nonce = true) := fun q => q.elim cd hc
      rw [if_neg hcc]
      rcases hJ with ⟨qx, o1, μ1, e1, h1, why, e2, f1⟩ | ⟨o1, μ1, E', e1, h1, f1⟩
      · exact Or.inl ⟨qx, 1, o1, μ1, G, e1, h1, why, rfl, e2, f1⟩
      · exact Or.inr ⟨o1, μ1, E', e1, h1, f1⟩
    cases hei : s_ei name wish (g_es G n) with
    | none =>
      have := hrest (by rw [hei]; show ¬ (false = true); decide)
      rw [hei] at this
      exact this
    | some i =>
      have hil : i < (g_es G n).length := by
        unfold s_ei at hei
        have := (s_find_some hei).2.1
        omega
      obtain ⟨e, he⟩ : ∃ e, (g_es G n)[i]? = some e := ⟨_, List.getElem?_eq_getElem hil⟩
      obtain ⟨p, hp, hen⟩ := k5.get he
      have hen' := hen
      obtain ⟨-, -, -, nm, al, ca, h3, -, -⟩ := hen'
      have hsa : s_adr (E n) (some i) = some p := hp
      have heh : s_entryHas (g_es G n) (some i) nonce = s_hasL (e_nonces e) nonce := by
        show (match (g_es G n)[i]? with | none => false | some e => s_hasL (e_nonces e) nonce) = _
        rw [he]
      rw [hei, hsa] at hrest
      rw [hei] at hloop
      rw [hsa, x_nuS, x_glS h3 rfl]
      by_cases ch : s_hasL (e_nonces e) nonce = true
      · rw [if_pos (x_lgh.mpr ch)]
        exact Or.inl (hloop (Or.inr (by rw [heh]; exact ch)))
      · rw [if_neg (fun q => ch (x_lgh.mp q))]
        exact hrest (by rw [heh]; exact ch)
/-- an interest comes, is asked -/
theorem h_go.asks (h : h_go g C o μ E B G) (hi : h_ip C n t nonce G) (hnm : s_wn name) (hq : h_nm o μ w (v_ name)) (hwish : wish = 0 ∨ wish = 1) :
    ∃ o1 μ1 E', D_X12_asks g (c_a C) (nI n) (s_ft t) (some w) wish nonce μ = some μ1 ∧ h_go g C o1 μ1 E' (B + 69 + s_tc t) (s_interest (c_N C) (c_lk C) n t name wish nonce G) ∧ h_fr g (fun a => 1000 ≤ o a) o μ o1 μ1 := by
  rcases h.takes hi hnm hq hwish with ⟨qx, y, o1, μ1, G1, e1, h1, why, hw1, e2, f1⟩ | ⟨o1, μ1, E', e1, h1, f1⟩
  · rw [e2]
    have h2 := h1.new (m := 6) (t := 0) (x := .inr (19, [va_rf (some qx), .null, .null, .null, .null, .int 0]))
    have f2 := h_fr.new (o := o1) (n := 6) (t := 0) (x := .inr (19, [va_rf (some qx), .null, .null, .null, .null, .int 0])) h1.wf
    have hqx : qx ≠ μ1.2.1 := by
      obtain ⟨-, fs, -, ⟨-, k⟩ | ⟨-, k⟩⟩ := why
      · exact h1.wf.ne k
      · exact h1.wf.ne k
    have why2 : h_why (h_o1 o1 μ1.2.1 0) (z_new μ1 6 (.inr (19, [va_rf (some qx), .null, .null, .null, .null, .int 0]))) 1 μ1.2.1 y (nI n) := ⟨if_pos rfl, qx, _, rfl, hqx, z_new_self, h_why.fr f2 h1.wf (fun a _ q => q) why⟩
    have f12 := f1.trans f2 (S := fun a => 1000 ≤ o a) (fun a _ q => q.elim id False.elim)
    have hq2 := hq.fr f12 h.wf (fun a ha (q : 1000 ≤ o a) => by omega)
    obtain ⟨o3, μ3, e3, h3, f3⟩ := h2.refT (r := (1, y, nI n, 0)) (d := 0) (wish := wish) (nonce := nonce) (t := t) hi.1 hi.2.1 hnm hq2 why2 (Nat.zero_le _) rfl (by rw [hw1]; exact hi.2.2.2.2.1)
    refine ⟨o3, μ3, E, ?_, h3.le (by omega), f12.trans f3 (fun a ha q => ?_)⟩
    · have hcs : ∀ m m' : Option z_M, (x_b3 (D_X12_takes g (c_a C) (nI n) (s_ft t) (some w) wish nonce μ) (fun _ μ4 => some μ4) fun q5 μ6 => x_cs μ6 q5 18 (x_nw μ6 6 (.inr (19, [.null, .null, .null, .null, .null, .int 0])) fun p7 μ8 => x_b (D_X19_init g p7 (some q5) μ8) fun μ10 => x_ob μ10 (c_a C) 12 fun _ => x_b (D_X12_refuses g (c_a C) (nI n) (s_ft t) nonce (some w) wish (some p7) μ10) fun μ14 => some μ14) <|
          x_cs μ6 q5 14 (x_nw μ6 6 (.inr (19, [.null, .null, .null, .null, .null, .int 0])) fun p17 μ18 => x_b (D_X19_init g p17 (some q5) μ18) fun μ20 => x_ob μ20 (c_a C) 12 fun _ => x_b (D_X12_refuses g (c_a C) (nI n) (s_ft t) nonce (some w) wish (some p17) μ20) fun μ24 => some μ24) <| none) = some μ3 := by
        intro _ _
        have key : (x_nw μ1 6 (.inr (19, [.null, .null, .null, .null, .null, .int 0])) fun p7 μ8 => x_b (D_X19_init g p7 (some qx) μ8) fun μ10 => x_ob μ10 (c_a C) 12 fun _ => x_b (D_X12_refuses g (c_a C) (nI n) (s_ft t) nonce (some w) wish (some p7) μ10) fun μ14 => some μ14) = some μ3 := by
          rw [x_nwS, x_init19 h.ok, x_bS, h2.ob, e3, x_bS]
        rw [e1, x_b3R]
        obtain ⟨-, fs, -, ⟨-, k⟩ | ⟨-, k⟩⟩ := why
        · rw [x_csS k]
          exact key
        · rw [x_csN k (by decide), x_csS k]
          exact key
      unfold D_X12_asks
      rw [h.ob]
      exact hcs none none
    · rcases q with q | q
      · exact q
      · have e9 : h_o1 o1 μ1.2.1 0 a = o a := f12.2.1 a ha
        have q' : h_o1 o1 μ1.2.1 0 a = 1000 ∨ h_o1 o1 μ1.2.1 0 a = 1001 := q
        rw [e9] at q'
        show 1000 ≤ o a
        omega
  · refine ⟨o1, μ1, E', ?_, h1.le (by omega), f1⟩
    unfold D_X12_asks
    rw [h.ob, e1, x_b3L]
end T93
