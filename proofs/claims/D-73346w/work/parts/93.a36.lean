/-! THE COMPONENT's LAW, 36: a refusal comes; a message comes -/
set_option maxRecDepth 100000
set_option linter.unusedVariables false
/-- what it costs that a refusal comes -/
def k_nackComes (N : s_R) (lk : Nat → Option Nat) (n fr : Nat) (name wish : Int32) (G : s_G) : Nat := match s_ei name wish (g_es G n) with
  | none => 0
  | some i => match (g_es G n)[i]? with
    | none => 0
    | some e => if e_out e = nI fr then (32 + if (s_way N lk n e G).isSome = true then 0 else 23 * (s_pop (e_in e) + (s_setL (e_asks e)).length)) else 0
/-- what it costs that a message comes -/
def k_comes (N : s_R) (lk : Nat → Option Nat) (m : s_M) (G : s_G) : Nat :=
  if m.1.1 = 0 then 69 else if m.1.1 = 1 then k_dataCome N lk (v_ m.1.2.2.1) (v_ m.1.2.1) m.1.2.2.2.1 m.2 G
  else k_nackComes N lk (v_ m.1.2.2.1) (v_ m.1.2.1) m.1.2.2.2.1 m.1.2.2.2.2.1 G
section T93
variable {g : z_G} {C : h_C} {o o1 : Nat → Nat} {μ μ1 : z_M} {E : Nat → List Nat} {B b p n q k w a0 t l x ce i c j d pit al ca fr pm dep : Nat} {G G' : s_G} {S : Nat → Prop} {N : s_R} {xs es cs : List Nat} {nd : s_N} {ms : Nat → Int32} {but nonce name wish ends src v : Int32} {e : s_E} {fs : List Value} {r : s_Q} {m : s_M}
theorem s_ei_at {name wish : Int32} {es : List s_E} {i : Nat} {e : s_E} (h : s_ei name wish es = some i) (he : es[i]? = some e) : e.1 = name ∧ e.2.1 = wish := by
  unfold s_ei at h
  have h1 := (s_find_some h).2.2.1
  rw [List.getElem?_map, he] at h1
  have h2 : some (e.1, e.2.1) = some (name, wish) := by simpa using h1
  have h3 := Option.some.inj h2
  exact ⟨(Prod.mk.inj h3).1, (Prod.mk.inj h3).2⟩
theorem h_go.hears (h : h_go g C o μ E B G) (hm : h_mg (c_N C) o μ pm m) (hk : m.1.1 = 2) (hto : m.1.2.2.1 = nI n) (hn : n < n_nodes (c_N C)) (hdue : m.1.2.2.2.2.2.2 = g_minute G) (hl : (g_ways G).length + 6 ≤ c_Mw C) :
    ∃ o1 μ1 E', D_X12_hears g (c_a C) (nI n) (some pm) μ = some μ1 ∧ h_go g C o1 μ1 E' (B + k_nackComes (c_N C) (c_lk C) n (v_ m.1.2.1) m.1.2.2.2.1 m.1.2.2.2.2.1 G) (s_nackComes (c_N C) (c_lk C) n (v_ m.1.2.1) m.1.2.2.2.1 m.1.2.2.2.2.1 m.2 G) ∧ h_fr g (fun a => 901 ≤ o a) o μ o1 μ1 := by
  have hN := h.hN
  have h6 : n_nodes (c_N C) ≤ 6 := hN.1.1.2
  obtain ⟨hom, hnm, fr, to, due, qn, dr, wr, src, m1, m2, m3, m4, m5, m6, mc, mq, mk⟩ := hm
  have hfr : v_ m.1.2.1 = fr := by rw [m3, v_nI (by omega)]
  obtain ⟨rfl, w, dep, rfl, hy, y1, y2, y3⟩ : dr = none ∧ ∃ w dep, wr = some w ∧ h_why o μ dep w m.2.2.1 m.2.2.2.1 ∧ 1 ≤ dep ∧ dep ≤ due ∧ m.2.1 = nI dep := by
    rcases mk with ⟨k0, -⟩ | ⟨k0, -⟩ | ⟨-, k1, k2⟩
    · rw [hk] at k0; exact absurd k0 (by decide)
    · rw [hk] at k0; exact absurd k0 (by decide)
    · exact ⟨k1, k2⟩
  obtain ⟨tm, t1, t2, -, -⟩ := h.1.2.2.1
  have hdm : due = tm := by
    rw [m6, t2] at hdue
    exact (nI_eq (by omega) (by omega)).mp hdue
  have hvm : v_ (g_minute G) = tm := by rw [t2, v_nI (by omega)]
  rw [hfr]
  generalize hname : m.1.2.2.2.1 = name at *
  generalize hwish : m.1.2.2.2.2.1 = wish at *
  generalize hr : m.2 = r at *
  obtain ⟨q, hqn⟩ := h.nodeAt hn
  obtain ⟨ce, hno, hce, -, -, -⟩ := h.node hqn
  have hno' := hno
  obtain ⟨-, _, _, _, _, _, -, -, ⟨k4, k5, -⟩, -⟩ := hno'
  have hMe : c_Me C ≤ 64 := h.1.2.2.2.2
  have hent : D_X13_entry g q (some qn) wish μ = some (s_adr (E n) (s_ei name wish (g_es G n))) := hno.entry mq hnm h.wf h.ok (by have := k4.2.1; omega)
  unfold D_X12_hears s_nackComes k_nackComes
  rw [h.getNode hqn, x_oS, x_grR mc rfl, x_giS mc rfl, x_oS, hno.ob, hent, x_bS]
  cases hei : s_ei name wish (g_es G n) with
  | none => exact ⟨o, μ, E, rfl, h.le (by omega), h_fr.refl h.wf⟩
  | some i =>
    have hil : i < (g_es G n).length := by
      unfold s_ei at hei
      have := (s_find_some hei).2.1
      omega
    obtain ⟨e, he⟩ : ∃ e, (g_es G n)[i]? = some e := ⟨_, List.getElem?_eq_getElem hil⟩
    obtain ⟨en1, en2⟩ := s_ei_at hei he
    obtain ⟨p, hp, hen⟩ := k5.get he
    have hsa : s_adr (E n) (some i) = some p := hp
    obtain ⟨fe, nm, c1, c2, c3, c4, c5, c6, c7, c8⟩ := hen.f01
    rw [hsa, x_nuS, x_giS c1 c5, x_giS mc rfl]
    show ∃ o1 μ1 E', _ ∧ h_go g C o1 μ1 E' (B + (match (g_es G n)[i]? with | none => 0 | some e => _)) (match (g_es G n)[i]? with | none => G | some e => _) ∧ _
    rw [he]
    show ∃ o1 μ1 E', _ ∧ h_go g C o1 μ1 E' (B + (if e_out e = nI fr then (32 + if (s_way (c_N C) (c_lk C) n e G).isSome = true then 0 else 23 * (s_pop (e_in e) + (s_setL (e_asks e)).length)) else 0)) (if e_out e = nI fr then (if (s_go (c_N C) (c_lk C) n i e r G).1 = true then (s_go (c_N C) (c_lk C) n i e r G).2 else s_nackOut (c_N C) (c_lk C) n i e name wish (r.1 + 1, r.2) G) else G) ∧ _
    by_cases ceq : e_out e = nI fr
    · rw [if_pos ceq, if_pos ceq, if_pos ceq]
      rcases h.on (r := r) hn hp he (by omega) with ⟨way, qx, o2, μ2, e2, h2, why, hen2, f2⟩ | ⟨to', way, o2, μ2, e2, h2, f2⟩
      · have ego : (s_go (c_N C) (c_lk C) n i e r G).1 = false := by unfold s_go; rw [way]
        rw [if_neg (show ¬ (s_way (c_N C) (c_lk C) n e G).isSome = true by rw [way]; decide)]
        rw [ego, if_neg (show ¬ false = true by decide)]
        have f2' : h_fr g (fun a => 1000 ≤ o a) o μ o2 μ2 := f2.mono (fun a _ q => by omega)
        have S0 : ∀ a, o a = 0 → ¬ 1000 ≤ o a := fun a ha => by omega
        have mc2 := f2'.cell h.wf mc (S0 _ hom)
        have hom2 : o2 pm = 0 := (f2'.2.1 pm (h.wf.lt mc)).trans hom
        have hy2 := h_why.fr f2' h.wf S0 hy
        -- the refusal of the refusal
        have h3 := h2.new (m := 6) (t := 0) (x := .inr (19, [va_rf (some w), .null, .null, .null, .null, .int 0]))
        have f3 : h_fr g (fun _ => False) o2 μ2 (h_o1 o2 μ2.2.1 0) (z_new μ2 6 (.inr (19, [va_rf (some w), .null, .null, .null, .null, .int 0]))) := h_fr.new h2.wf
        have hwl : w ≠ μ2.2.1 := by
          obtain ⟨d', rfl⟩ : ∃ d', dep = d' + 1 := ⟨dep - 1, by omega⟩
          obtain ⟨-, _, _, -, -, k, -⟩ := hy2
          exact h2.wf.ne k
        have why3 : h_why (h_o1 o2 μ2.2.1 0) (z_new μ2 6 (.inr (19, [va_rf (some w), .null, .null, .null, .null, .int 0]))) (dep + 1) μ2.2.1 r.2.1 r.2.2.1 := ⟨if_pos rfl, w, _, rfl, hwl, z_new_self, h_why.fr f3 h2.wf (fun a _ q => q) hy2⟩
        have f23 : h_fr g (fun a => 1000 ≤ o a) o μ (h_o1 o2 μ2.2.1 0) (z_new μ2 6 (.inr (19, [va_rf (some w), .null, .null, .null, .null, .int 0]))) := f2'.trans f3 (fun a _ q => q.elim id False.elim)
        have hen3 := hen2.fr f3 h2.wf (fun a _ q => q) (fun a _ q => q)
        obtain ⟨g1, μ4, g2, h4, f4⟩ := h3.setDead (y := g_dead (g_ses G n ((g_es G n).eraseIdx i)) n ||| e_nonces e) hqn
        rw [s_close_eq] at h4
        have h6n : n < 6 := by omega
        have hen4 := hen3.fr f4 h3.wf (fun a ha (q : h_o1 o2 μ2.2.1 0 a = 1030 + n) => by omega) (fun a ha (q : h_o1 o2 μ2.2.1 0 a = 1030 + n) => by have := hen3.1; omega)
        have why4 := h_why.fr f4 h3.wf (fun a ha (q : h_o1 o2 μ2.2.1 0 a = 1030 + n) => by omega) why3
        have ecl : g_ways (s_close n i (e_nonces e) G) = g_ways G := by rw [s_close_snd]; rfl
        have ecm : g_minute (s_close n i (e_nonces e) G) = g_minute G := by rw [s_close_snd]; rfl
        have hr1 : r.1 + 1 = nI (dep + 1) := by rw [y3, nI_1]
        obtain ⟨o5, μ5, e5, h5, f5⟩ := h4.nackAll (r := (r.1 + 1, r.2)) (fun (μ99 : z_M) => x_gr μ99 p 17 4 fun o100 => x_o o100 fun p104 => x_ob μ99 p104 3 fun _ => x_b2 (D_J2_iterator g p104 μ99) fun o108 μ109 => D_X12_hears_147 g (c_a C) (nI n) p μ2.2.1 o108 (fun (μ144 : z_M) => some μ144) x_F μ109) hn hen4 why4 (by rw [ecm, hvm]; omega) hr1 (by rw [ecl]; exact hl)
        have hen5 := hen4.fr f5 h4.wf (fun a ha q => by rcases q with q | q <;> omega) (fun a ha q => by have := hen4.1; rcases q with q | q <;> omega)
        have why5 := h_why.fr f5 h4.wf (fun a ha q => by rcases q with q | q <;> omega) why4
        obtain ⟨o6, μ6, e6, h6', f6⟩ := h5.refuseAll (r := (r.1 + 1, r.2)) (i := n) (fun (μ144 : z_M) => some μ144) hen5 why5 (by omega) hr1
        have f24 : h_fr g (fun a => 901 ≤ o a) o μ (h_o1 o2 μ2.2.1 0) μ4 := f23.trans f4 (fun a ha q => by
          rcases q with q | q
          · omega
          · have e9 : h_o1 o2 μ2.2.1 0 a = o a := f23.2.1 a ha
            rw [e9] at q; omega)
        have f25 : h_fr g (fun a => 901 ≤ o a) o μ o5 μ5 := f24.trans f5 (fun a ha q => by
          rcases q with q | q
          · exact q
          · have e9 : h_o1 o2 μ2.2.1 0 a = o a := f23.2.1 a ha
            have q' : h_o1 o2 μ2.2.1 0 a = 1000 ∨ h_o1 o2 μ2.2.1 0 a = 1001 := q
            rw [e9] at q'; omega)
        have hpop := s_popK_le (e_in e) h6
        have eN : s_refuseAll (e_asks e) (r.1 + 1, r.2) (s_nackAll (c_N C) (c_lk C) n (e_in e) (e_name e) (e_wish e) (r.1 + 1, r.2) (s_close n i (e_nonces e) G)) = s_nackOut (c_N C) (c_lk C) n i e name wish (r.1 + 1, r.2) G := by
          have en1' : e_name e = name := en1
          have en2' : e_wish e = wish := en2
          rw [s_nackOut_close, en1', en2']
        rw [eN] at h6'
        refine ⟨o6, μ6, _, ?_, h6'.le (by omega), f25.trans f6 (fun a ha q => ?_)⟩
        · obtain ⟨fe2, nm2, d1, -, -, -, -, d6, -, -⟩ := hen3.f01
          obtain ⟨-, fw, -, ⟨-, k18⟩ | ⟨k2, -⟩⟩ := why
          · rw [h.ob, e2, x_b3R, x_csS k18, x_nwS]
            have mc3 : (z_new μ2 6 (.inr (19, [.null, .null, .null, .null, .null, .int 0]))).1 pm = _ := (z_new_ne (h2.wf.ne mc2)).trans mc2
            refine (x_grR mc3 rfl).trans ?_
            rw [x_init19 h.ok, x_bS, g1, x_glS d1 d6, g2]
            exact e5.trans e6
          · exact absurd k2 (by decide)
        · rcases q with q | q
          · exact q
          · rw [f25.2.1 a ha] at q; omega
      · have ego : s_go (c_N C) (c_lk C) n i e r G = (true, s_send (c_N C) (c_lk C) 0 n to' (e_name e) (e_wish e) (e_first e) r (g_ses G n ((g_es G n).set i (s_gone to' (g_minute G) e)))) := by unfold s_go; rw [way]
        rw [ego, if_pos rfl]
        refine ⟨o2, μ2, E, ?_, h2.le (Nat.add_le_add_left (Nat.le_trans (show _ ≤ 32 by omega) (Nat.le_add_right 32 _)) B), f2.mono (fun a _ q => by have := hen.1; omega)⟩
        rw [h.ob, e2, x_b3L]
    · rw [if_neg ceq, if_neg ceq, if_neg ceq]
      exact ⟨o, μ, E, rfl, h.le (Nat.le_add_right _ _), h_fr.refl h.wf⟩
/-- what is asked of a run when a message comes -/
def h_cp (C : h_C) (m : s_M) (G : s_G) : Prop :=
  (∀ n, n < n_nodes (c_N C) → ((g_ds G n).map (fun d => d.1)).Nodup ∧ (g_ds G n).length ≤ n_room (c_N C) n ∧ (g_ways G).length + 6 * (g_es G n).length + 6 ≤ c_Mw C ∧ (g_es G n).length ≤ c_Me C) ∧
  m.1.2.2.2.2.2.2 = g_minute G ∧ (m.1.1 = 0 → m.1.2.2.2.2.1 = 0 ∨ m.1.2.2.2.2.1 = 1)
/-- a message comes -/
theorem h_go.comes (h : h_go g C o μ E B G) (hm : h_mg (c_N C) o μ pm m) (hc : h_cp C m G) :
    ∃ o1 μ1 E', D_X12_comes g (c_a C) (some pm) μ = some μ1 ∧ h_go g C o1 μ1 E' (B + k_comes (c_N C) (c_lk C) m G) (s_comes (c_N C) (c_lk C) m G) ∧ h_fr g (fun a => 901 ≤ o a) o μ o1 μ1 := by
  have hN := h.hN
  have h6 : n_nodes (c_N C) ≤ 6 := hN.1.1.2
  have hm' := hm
  obtain ⟨hom, hnm, fr, to, due, qn, dr, wr, src, m1, m2, m3, m4, m5, m6, mc, mq, mk⟩ := hm'
  have hfr : v_ m.1.2.1 = fr := by rw [m3, v_nI (by omega)]
  have hto : v_ m.1.2.2.1 = to := by rw [m4, v_nI (by omega)]
  obtain ⟨c1, c2, c3, c4⟩ := hc.1 to m2
  unfold D_X12_comes s_comes k_comes
  rw [x_oS, x_grS mc rfl]
  rcases mk with ⟨k0, rfl, rfl⟩ | ⟨k0, rfl, ⟨pd, rfl, hd⟩, -⟩ | ⟨k0, rfl, w, dep, rfl, -⟩
  · rw [if_pos k0, if_pos k0, hto, hfr, x_nuN, x_grS (o := none) mc rfl, x_nuN, x_giS mc rfl, x_giS mc rfl, x_grR mc rfl, x_giS mc rfl, x_giS mc rfl, h.ob]
    obtain ⟨o1, μ1, E', e1, h1, f1⟩ := h.asks (t := fr) (nonce := m.1.2.2.2.2.2.1) (wish := m.1.2.2.2.2.1) (n := to) ⟨m2, Or.inl m1, c1, c2, by omega, c4, fun q => by omega⟩ hnm mq (hc.2.2 k0)
    have eft : s_ft fr = nI fr := by unfold s_ft; rw [if_pos (by omega)]
    have etc : s_tc fr = 0 := by unfold s_tc; rw [if_pos (by omega)]
    rw [eft] at e1
    rw [etc] at h1
    exact ⟨o1, μ1, E', by rw [e1, x_bS], h1, f1.mono (fun a _ q => by omega)⟩
  · rw [if_neg (by rw [k0]; decide), if_pos k0, if_neg (by rw [k0]; decide), if_pos k0, x_nuS, x_giS mc rfl, h.ob, hto]
    obtain ⟨o1, μ1, E', e1, h1, f1⟩ := h.gets (n := to) hm k0 m4 m2 c1 c2 (by omega)
    exact ⟨o1, μ1, E', by rw [e1, x_bS], h1, f1⟩
  · rw [if_neg (by rw [k0]; decide), if_neg (by rw [k0]; decide), if_neg (by rw [k0]; decide), if_neg (by rw [k0]; decide), x_nuN, x_grS (o := some w) mc rfl, x_nuS, x_giS mc rfl, h.ob, hto]
    obtain ⟨o1, μ1, E', e1, h1, f1⟩ := h.hears (n := to) hm k0 m4 m2 hc.2.1 (by omega)
    exact ⟨o1, μ1, E', by rw [e1, x_bS], h1, f1⟩
end T93
