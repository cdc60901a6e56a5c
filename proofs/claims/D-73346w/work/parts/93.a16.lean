/-! THE COMPONENT's LAW, 16: why a thing was refused; refusals are given -/
set_option maxRecDepth 100000
set_option linter.unusedVariables false
section T93
variable {g : z_G} {C : h_C} {o o1 : Nat → Nat} {μ μ1 : z_M} {E : Nat → List Nat} {B b p n q k w a0 : Nat} {G G' : s_G} {S : Nat → Prop} {N : s_R} {x y : Int32}
theorem h_nisA {c M : Nat} {fs : List Value} {D nm : String} {T : u_T} (hw : h_wf g μ) (h : μ.1 p = some (.inr (c, fs))) (hv : vwCl[c]? = some (D, T, M)) (hne : nm ≠ D) : ¬ z_isA g μ p nm := by
  rintro (⟨c', fs', T', M', h1, h2⟩ | ⟨t, y, h1, -, -⟩ | ⟨cell, h1, h2, h3, h4⟩)
  · rw [h] at h1
    cases h1
    rw [hv] at h2
    cases h2
    exact hne rfl
  · rw [h] at h1; cases h1
  · exact h4 (hw.ge h)
theorem x_ioF {α : Type} {nm D : String} {kk : Int32 → Option α} (h : ¬ z_isA g μ p nm) (hc : va_Nc D nm g.2.1) (hD : z_isA g μ p D) : x_io g μ p nm kk = kk 0 := by
  unfold x_io
  rw [x_ipF h, x_gpI ⟨D, hc, hD⟩]
theorem z_cs_nc (hok : z_ok g) : va_Nc "AskedNames$NoWay" "AskedNames$Refused" g.2.1 ∧ va_Nc "AskedNames$Loop" "AskedNames$Refused" g.2.1 ∧ va_Nc "AskedNames$NoWay" "AskedNames$Loop" g.2.1 := by
  obtain ⟨-, -, -, -, -, -, -, -, -, -, -, -, -, -, h⟩ := hok.2.2.1
  exact h.1
/-- what is no refusal of another -/
theorem h_why.io0 {α : Type} {kk : Int32 → Option α} (h : h_why o μ 0 p x y) (hok : z_ok g) (hw : h_wf g μ) : x_io g μ p "AskedNames$Refused" kk = kk 0 := by
  obtain ⟨h0, fs, h1, ⟨-, h2⟩ | ⟨-, h2⟩⟩ := h
  · exact x_ioF (h_nisA hw h2 (c := 18) rfl (by decide)) (z_cs_nc hok).1 (Or.inl ⟨18, _, _, _, h2, rfl⟩)
  · exact x_ioF (h_nisA hw h2 (c := 14) rfl (by decide)) (z_cs_nc hok).2.1 (Or.inl ⟨14, _, _, _, h2, rfl⟩)
theorem h_why.ioS {α : Type} {d : Nat} {kk : Int32 → Option α} (h : h_why o μ (d + 1) p x y) : x_io g μ p "AskedNames$Refused" kk = kk 1 := by
  obtain ⟨h0, q, fs, h1, h2, h3, h4⟩ := h
  exact x_ioT (Or.inl ⟨19, _, _, _, h3, rfl⟩)
theorem h_why.cause {d : Nat} (h : h_why o μ (d + 1) p x y) : ∃ q, x_gca μ p = some (some q) ∧ h_why o μ d q x y := by
  obtain ⟨h0, q, fs, h1, h2, h3, h4⟩ := h
  refine ⟨q, ?_, h4⟩
  unfold x_gca
  rw [x_osS h3 (by decide), x_fvS h1, x_vrS, if_neg (fun e => h2 (Option.some.inj e))]
theorem h_why.depth4 (K : Int32 → Option Int32) (hok : z_ok g) (hw : h_wf g μ) : ∀ (d f v p : Nat), h_why o μ d p x y → d < f → D_X19_depth_4 g a0 μ K f (nI v) (some p) = K (nI (v + d)) := by
  intro d
  induction d with
  | zero =>
    intro f v p h hf
    obtain ⟨f, rfl⟩ : ∃ f', f = f' + 1 := ⟨f - 1, by omega⟩
    conv => lhs; unfold D_X19_depth_4
    rw [x_oS, h.io0 hok hw, if_pos rfl, Nat.add_zero]
  | succ d ih =>
    intro f v p h hf
    obtain ⟨f, rfl⟩ : ∃ f', f = f' + 1 := ⟨f - 1, by omega⟩
    obtain ⟨q, hq, h2⟩ := h.cause
    conv => lhs; unfold D_X19_depth_4
    rw [x_oS, h.ioS, if_neg (by decide), x_lS, hq, x_bS, nI_1, ih f (v + 1) q h2 (by omega), show v + 1 + d = v + (d + 1) from by omega]
theorem h_why.root2 (K : Option Nat → Option (Option Nat)) (hok : z_ok g) (hw : h_wf g μ) : ∀ (d f p : Nat), h_why o μ d p x y → d < f → ∃ r, D_X19_root_2 g a0 μ K f (some p) = K (some r) ∧ h_why o μ 0 r x y := by
  intro d
  induction d with
  | zero =>
    intro f p h hf
    obtain ⟨f, rfl⟩ : ∃ f', f = f' + 1 := ⟨f - 1, by omega⟩
    refine ⟨p, ?_, h⟩
    conv => lhs; unfold D_X19_root_2
    rw [x_oS, h.io0 hok hw, if_pos rfl]
  | succ d ih =>
    intro f p h hf
    obtain ⟨f, rfl⟩ : ∃ f', f = f' + 1 := ⟨f - 1, by omega⟩
    obtain ⟨q, hq, h2⟩ := h.cause
    obtain ⟨r, e1, h3⟩ := ih f q h2 (by omega)
    refine ⟨r, ?_, h3⟩
    conv => lhs; unfold D_X19_root_2
    rw [x_oS, h.ioS, if_neg (by decide), hq, x_bS]
    exact e1
theorem h_why.ob {α : Type} {d : Nat} {m : Option α} (h : h_why o μ (d + 1) p x y) : x_ob μ p 19 (fun _ => m) = m := by
  obtain ⟨h0, q, fs, h1, h2, h3, h4⟩ := h
  exact x_obS h3
theorem h_why.depth {d : Nat} (h : h_why o μ (d + 1) p x y) (hok : z_ok g) (hw : h_wf g μ) (hd : d < 9000) : D_X19_depth g p μ = some (nI (d + 1)) := by
  unfold D_X19_depth
  have := h_why.depth4 (a0 := p) (fun v => some v) hok hw (d + 1) x_F 0 p h (by rw [x_Fv]; omega)
  rw [Nat.zero_add] at this
  exact this
theorem h_why.x12 {d : Nat} (h : h_why o μ d p x y) : x = 1 ∨ x = 2 := by
  induction d generalizing p with
  | zero =>
    obtain ⟨h0, fs, h1, ⟨h2, -⟩ | ⟨h2, -⟩⟩ := h
    · exact Or.inl h2
    · exact Or.inr h2
  | succ d ih =>
    obtain ⟨h0, q, fs, h1, h2, h3, h4⟩ := h
    exact ih h4
theorem h_why.ioL {α : Type} {kk : Int32 → Option α} (h : h_why o μ 0 p x y) (hok : z_ok g) (hw : h_wf g μ) : x_io g μ p "AskedNames$Loop" kk = kk (if x = 2 then 1 else 0) := by
  obtain ⟨h0, fs, h1, ⟨rfl, h2⟩ | ⟨rfl, h2⟩⟩ := h
  · rw [if_neg (by decide)]
    exact x_ioF (h_nisA hw h2 (c := 18) rfl (by decide)) (z_cs_nc hok).2.2 (Or.inl ⟨18, _, _, _, h2, rfl⟩)
  · rw [if_pos rfl]
    exact x_ioT (Or.inl ⟨14, _, _, _, h2, rfl⟩)
theorem h_why.isLoop {d : Nat} (h : h_why o μ (d + 1) p x y) (hok : z_ok g) (hw : h_wf g μ) (hd : d < 9000) : D_X19_isLoop g p μ = some (if x = 2 then 1 else 0) := by
  obtain ⟨r, e1, h2⟩ := h_why.root2 (a0 := p) (fun v => some v) hok hw (d + 1) x_F p h (by rw [x_Fv]; omega)
  unfold D_X19_isLoop D_X19_root
  rw [h.ob, e1, x_bS, x_oS, h2.ioL hok hw]
  by_cases c : x = 2
  · rw [if_pos c]; exact x_gS (Or.inr rfl)
  · rw [if_neg c]; exact x_gS (Or.inl rfl)
theorem h_why.node {d : Nat} (h : h_why o μ (d + 1) p x y) (hok : z_ok g) (hw : h_wf g μ) (hd : d < 9000) : D_X19_node g p μ = some y := by
  obtain ⟨r, e1, h2⟩ := h_why.root2 (a0 := p) (fun v => some v) hok hw (d + 1) x_F p h (by rw [x_Fv]; omega)
  unfold D_X19_node D_X19_root
  rw [h.ob, e1, x_bS, x_oS, h2.ioL hok hw]
  obtain ⟨h0, fs, h1, ⟨rfl, h3⟩ | ⟨rfl, h3⟩⟩ := h2
  · have hA : z_isA g μ r "AskedNames$NoWay" := Or.inl ⟨18, _, _, _, h3, rfl⟩
    rw [if_neg (show ¬ (1 : Int32) = 2 by decide), if_pos rfl, x_ioT hA, if_neg (by decide), x_gpI (x_icI hA), x_giS h3 h1]
  · have hA : z_isA g μ r "AskedNames$Loop" := Or.inl ⟨14, _, _, _, h3, rfl⟩
    rw [if_pos (show (2 : Int32) = 2 from rfl), if_neg (show ¬ (1 : Int32) = 0 by decide), x_gpI (x_icI hA), x_giS h3 h1]
/-- an ask is refused -/
theorem h_go.refK {d : Nat} {r : s_Q} {a1 a5 : Int32} {a4 : Option Nat} (h : h_go g C o μ E B G) (hk : k < 61) (hy : h_why o μ (d + 1) w r.2.1 r.2.2.1) (hd : d < 9000) (h1 : r.1 = nI (d + 1)) :
    ∃ o1 μ1, D_X12_refuses g (c_a C) a1 (-1) (nI k) a4 a5 (some w) μ = some μ1 ∧ h_go g C o1 μ1 E (B + 23) (s_refuse r k G) ∧ h_fr g (fun a => o a = 1000) o μ o1 μ1 := by
  have fN := fun (x : z_C) => h_fr.new (o := o) (n := 6) (t := 0) (x := x) h.wf
  have hy2 : ∀ F, h_why (h_o1 o μ.2.1 0) (z_new μ 6 (h_ia 6 F)) (d + 1) w r.2.1 r.2.2.1 := fun F => h_why.fr (fN (h_ia 6 F)) h.wf (fun a _ q => q.elim) hy
  have hw2 : ∀ F, h_wf g (z_new μ 6 (h_ia 6 F)) := fun F => (fN (h_ia 6 F)).wf
  have hh : ∀ F, h_go g C (h_o1 o μ.2.1 0) (z_new μ 6 (h_ia 6 F)) E (B + (5 + 6)) G := fun F => h.new
  generalize hFd : h_up (h_up (h_up (h_up (h_up (h_up (fun _ => 0) 0 2) 1 (-1)) 2 (-1)) 3 (nI (d + 1))) 4 r.2.1) 5 r.2.2.1 = Fd
  obtain ⟨o2, μ2, e2, h2, g2⟩ := (hh Fd).endS (k := k) (w := μ.2.1) (fw := Fd) (n := 6) (c' := fun f j => if j = k ∧ f = 57 then 2 else if j = k ∧ f = 58 then g_minute G else if j = k ∧ f = 62 then r.1 else if j = k ∧ f = 63 then r.2.1 else if j = k ∧ f = 64 then r.2.2.1 else g_came G f j) hk z_new_self (by omega) (fun j f hj => by
    show (if j = k ∧ f = 57 then _ else if j = k ∧ f = 58 then _ else if j = k ∧ f = 62 then _ else if j = k ∧ f = 63 then _ else if j = k ∧ f = 64 then _ else _) = _
    rw [if_neg (fun q => hj q.1), if_neg (fun q => hj q.1), if_neg (fun q => hj q.1), if_neg (fun q => hj q.1), if_neg (fun q => hj q.1)]) (fun F hF => by
    rw [← hFd] at hF
    refine ⟨(hF 0 (by omega)).trans ?_, (hF 1 (by omega)).trans ?_, Or.inr (Or.inl ⟨?_, (hF 2 (by omega)).trans ?_, (hF 3 (by omega)).trans ?_, (hF 4 (by omega)).trans ?_, (hF 5 (by omega)).trans ?_, (hF 6 (by omega)).trans ?_⟩)⟩
    · exact (if_pos ⟨rfl, rfl⟩).symm
    · exact ((if_neg (by omega)).trans (if_pos ⟨rfl, rfl⟩)).symm
    · exact if_pos ⟨rfl, rfl⟩
    · rfl
    · rfl
    · refine Eq.trans ?_ ((if_neg (by omega)).trans ((if_neg (by omega)).trans (if_pos ⟨rfl, rfl⟩))).symm
      exact h1.symm
    · exact ((if_neg (by omega)).trans ((if_neg (by omega)).trans ((if_neg (by omega)).trans (if_pos ⟨rfl, rfl⟩)))).symm
    · exact ((if_neg (by omega)).trans ((if_neg (by omega)).trans ((if_neg (by omega)).trans ((if_neg (by omega)).trans (if_pos ⟨rfl, rfl⟩))))).symm)
  refine ⟨o2, μ2, ?_, h2, (fN (h_ia 6 Fd)).trans g2 (fun a ha q => ?_)⟩
  · unfold D_X12_refuses
    rw [if_pos rfl, x_naL (i := 6) (n := 6) rfl (by omega), x_nwS]
    refine (x_arN (i := 0) (j := 0) rfl (by omega) (by omega)).trans ?_
    refine (x_arN (i := 1) (j := 1) rfl (by omega) (by omega)).trans ?_
    refine (x_arN (i := 2) (j := 2) rfl (by omega) (by omega)).trans ?_
    rw [x_oS, (hy2 _).ob, (hy2 _).depth h.ok (hw2 _) hd, x_bS]
    refine (x_arN (i := 3) (j := 3) rfl (by omega) (by omega)).trans ?_
    rw [(hy2 _).ob, (hy2 _).isLoop h.ok (hw2 _) hd, x_bS, x_lS]
    have key : ∀ v : Int32, v = r.2.1 → (x_o (some μ.2.1) fun p61 => x_ar (z_new μ 6 (h_ia 6 (h_up (h_up (h_up (h_up (fun _ => 0) 0 2) 1 (-1)) 2 (-1)) 3 (nI (d + 1))))) p61 0 fun n62 f63 => x_ga (4 : Int32) n62 fun j65 => x_l (x_ia (z_new μ 6 (h_ia 6 (h_up (h_up (h_up (h_up (fun _ => 0) 0 2) 1 (-1)) 2 (-1)) 3 (nI (d + 1))))) p61 0 n62 j65 f63 v) fun μ68 =>
        x_ob μ68 w 19 fun _ => x_b (D_X19_node g w μ68) fun x72 => x_o (some μ.2.1) fun p73 => x_ar μ68 p73 0 fun n74 f75 => x_ga (5 : Int32) n74 fun j77 => x_l (x_ia μ68 p73 0 n74 j77 f75 x72) fun μ80 =>
        x_ob μ80 (c_a C) 12 fun _ => x_b (D_X12_end g (c_a C) (nI k) (some p73) μ80) fun μ84 => some μ84) = some μ2 := by
      intro v hv
      rw [x_oS]
      refine (x_arN (i := 4) (j := 4) rfl (by omega) (by omega)).trans ?_
      rw [(hy2 _).ob, (hy2 _).node h.ok (hw2 _) hd, x_bS, x_oS]
      refine (x_arN (i := 5) (j := 5) rfl (by omega) (by omega)).trans ?_
      rw [(hh _).ob, hv, hFd, e2, x_bS]
    rcases hy.x12 with hx | hx
    · rw [hx, if_neg (show ¬ (1 : Int32) = 2 by decide), if_pos rfl]
      exact key 1 hx.symm
    · rw [hx, if_pos (show (2 : Int32) = 2 from rfl), if_neg (show ¬ (1 : Int32) = 0 by decide)]
      exact key 2 hx.symm
  · rcases q with q | q
    · exact q.elim
    · exact (h_o1_lt ha).symm.trans q
/-- a node is refused -/
theorem h_go.refN {t d : Nat} {name wish a3 : Int32} {r : s_Q} (h : h_go g C o μ E B G) (hn : n < n_nodes (c_N C)) (ht : t < n_nodes (c_N C)) (hnm : s_wn name) (hq : h_nm o μ q (v_ name)) (hy : h_why o μ (d + 1) w r.2.1 r.2.2.1) (hd : d ≤ v_ (g_minute G)) (h1 : r.1 = nI (d + 1)) (hl : (g_ways G).length ≤ c_Mw C) :
    ∃ o1 μ1, D_X12_refuses g (c_a C) (nI n) (nI t) a3 (some q) wish (some w) μ = some μ1 ∧ h_go g C o1 μ1 E (B + 14) (s_send (c_N C) (c_lk C) 2 n t name wish 0 r G) ∧ h_fr g (fun a => o a = 1000 ∨ o a = 1001) o μ o1 μ1 := by
  have h6 : n_nodes (c_N C) ≤ 6 := h.hN.1.1.2
  obtain ⟨o1, μ1, e1, h1, g1⟩ := h.post (kind := 2) (name := name) (wish := wish) (nonce := 0) (src := -1) (r := r) (q := q) (dr := none) (wr := some w) hn ht hnm hq hl (fun l hl' => Or.inr (Or.inr ⟨rfl, rfl, w, d + 1, rfl, hy, by omega, by
    have := (n_ln_b h.hN (h.hlk _ l (by omega) hl').1).2.2.2.2.2.2.2.1
    omega, h1⟩))
  refine ⟨o1, μ1, ?_, h1, g1⟩
  have hN := h.new (m := 9) (t := 0) (x := .inr (15, [.int 0, .int 0, .int 0, .int 0, .int 0, .int 0, .null, .null, .null]))
  have hI : h_go g C (h_o1 o μ.2.1 0) (z_new μ 9 (.inr (15, [.int (nI n), .int (nI t), .int (g_minute G + s_dly (c_N C) (c_lk C) (6 * n + t)), .int wish, .int 0, .int (-1), .ref q, va_rf none, va_rf (some w)]))) E (B + (5 + 9)) G := h.new
  unfold D_X12_refuses
  rw [if_neg (oI_none (by omega)), x_nwS, hN.ob, hN.delay (by omega) (by omega), x_bS, x_init15, x_bS]
  refine Eq.trans hI.ob ?_
  exact congrArg (fun z => x_b z fun μ18 => some μ18) e1
end T93
