/-! THE COMPONENT's LAW, 14: what a run counts, sends, ends -/
set_option maxRecDepth 100000
set_option linter.unusedVariables false
theorem z_set_set {μ : z_M} {a : Nat} {x y : z_C} : z_set (z_set μ a x) a y = z_set μ a y := by
  refine Prod.ext (funext fun b => ?_) rfl
  show (if b = a then some y else (if b = a then some x else μ.1 b)) = if b = a then some y else μ.1 b
  by_cases e : b = a
  · rw [if_pos e, if_pos e]
  · rw [if_neg e, if_neg e, if_neg e]
theorem z_new_set {μ : z_M} {n : Nat} {x y : z_C} : z_set (z_new μ n x) μ.2.1 y = z_new μ n y := by
  refine Prod.ext (funext fun b => ?_) rfl
  show (if b = μ.2.1 then some y else (if b = μ.2.1 then some x else μ.1 b)) = if b = μ.2.1 then some y else μ.1 b
  by_cases e : b = μ.2.1
  · rw [if_pos e, if_pos e]
  · rw [if_neg e, if_neg e, if_neg e]
abbrev h_ia (n : Nat) (f : Nat → Int32) : z_C := .inl (0, n, .inl f)
abbrev h_up (f : Nat → Int32) (j : Nat) (v : Int32) : Nat → Int32 := fun k => if k = j then v else f k
section T93a
variable {α : Type} {μ : z_M} {p n k j c : Nat} {f : Nat → Int32} {i v : Int32} {kk : z_M → Option α} {fs : List Value}
/-- an int is put into an array; into a new one; a field into a new cell -/
theorem x_arW (h : μ.1 p = some (h_ia n f)) (hi : i = nI j) (hj : j < n) (hn : n < 2 ^ 31) : (x_ar μ p 0 fun n' f' => x_ga i n' fun j' => x_l (x_ia μ p 0 n' j' f' v) kk) = kk (z_set μ p (h_ia n (h_up f j v))) := by
  subst hi
  rw [x_arS h, x_gaT hj (by omega), x_lS]
  rfl
theorem x_arN (hi : i = nI j) (hj : j < n) (hn : n < 2 ^ 31) : (x_ar (z_new μ k (h_ia n f)) μ.2.1 0 fun n' f' => x_ga i n' fun j' => x_l (x_ia (z_new μ k (h_ia n f)) μ.2.1 0 n' j' f' v) kk) = kk (z_new μ k (h_ia n (h_up f j v))) := by
  rw [x_arW z_new_self hi hj hn, z_new_set]
theorem x_gaL {kn : Nat → Option α} (hi : i = nI j) (hj : j < n) (hn : n < 2 ^ 31) : x_ga i n kn = kn j := by
  subst hi
  exact x_gaT hj (by omega)
theorem x_naL {i : Int32} {kn : Nat → Option α} (hi : i = nI n) (h : n ≤ 60000000) : x_na i kn = kn n := by
  subst hi
  exact x_naS h
theorem x_pfN {v : Value} (hk : j < fs.length) : x_pf (z_new μ k (.inr (c, fs))) μ.2.1 c j v kk = kk (z_new μ k (.inr (c, fs.set j v))) := by
  rw [x_pfS z_new_self hk, z_new_set]
end T93a
section T93
variable {g : z_G} {C : h_C} {o o1 : Nat → Nat} {μ μ1 : z_M} {E : Nat → List Nat} {B b p n q k w : Nat} {G G' : s_G} {S : Nat → Prop} {N : s_R}
theorem h_go.new {x : z_C} {m t : Nat} (h : h_go g C o μ E B G) : h_go g C (h_o1 o μ.2.1 t) (z_new μ m x) E (B + (5 + m)) G := h.fr (h_fr.new (n := m) (t := t) (x := x) h.wf) (fun a q => q.elim) (by rw [h_u_new]; omega)
/-- the run's numbers change -/
theorem h_go.head (h : h_go g C o μ E B G) (e1 : g_nd G' = g_nd G) (e2 : g_ways G' = g_ways G) (e3 : g_down G' = g_down G) (e4 : g_meas G' = g_meas G) (e5 : g_came G' = g_came G) (ht : s_tms G') : h_go g C o (z_set μ (c_a C) (h_gc C G')) E B G' ∧ h_fr g (fun a => o a = 1000) o μ o (z_set μ (c_a C) (h_gc C G')) := by
  obtain ⟨⟨⟨h1, hw⟩, h2, h2t, h2m⟩, h3, ⟨h4, h5⟩, ⟨h6, h7⟩, ⟨fd, d1, d2, d3⟩, ⟨fe, f1, f2, f3⟩, cw, ce, ws, b1, b2, ⟨w1, w2⟩, n1⟩ := h
  have hf := h_fr.setF (o := o) (fs' := [.ref (c_p C), .ref (c_nl C), .ref (c_wl C), .ref (c_dn C), .ref (c_en C), .int (g_minute G'), .int (g_sent G'), .int (g_hits G'), .int (g_joined G'), .int (g_loops G'), .int (g_dropped G'), .int (g_missed G')]) hw h5
  have S1 : ∀ a, o a ≠ 1000 → ¬ a = c_a C := fun a ha q => ha (by rw [q]; exact h4)
  have S0 : ∀ a, o a = 0 → ¬ a = c_a C := fun a ha => S1 a (by omega)
  have hd : o (c_d C) = 3 := by obtain ⟨-, _, _, _, _, _, _, _, _, _, _, _, ⟨q, -⟩, _⟩ := h3; exact q
  refine ⟨⟨⟨⟨h1, hf.wf⟩, h2, ht, h2m⟩, h3.fr hf hw S0 (S1 _ (by omega)), ⟨h4, z_set_self⟩, ⟨h6.fr hf hw (fun a ha => S1 a (by omega)), h7⟩, ⟨fd, d1, hf.cell hw d2 (fun q => by rw [q, h5] at d2; cases d2), fun i l hi hl => by rw [e3]; exact d3 i l hi hl⟩,
    ⟨fe, f1, hf.cell hw f2 (fun q => by rw [q, h5] at f2; cases f2), fun k hk => by rw [e5]; exact (f3 k hk).fr hf hw S0⟩, cw, ce, ws, b1, b2, ⟨w1.fr hf hw (fun a ha => S1 a (by omega)), by rw [e2]; exact w2.mono (fun x y _ hr => hr.fr hf hw S0)⟩, fun n q hq => by
      rw [e1, e4]
      refine (n1 n q hq).fr hf hw S0 (fun a ha => S1 a ?_)
      have := h_tn_ge ha
      omega⟩, hf.mono (fun a _ q => by rw [q]; exact h4)⟩
theorem h_ed.congr {x : Option Nat} {c c' : Nat → Nat → Int32} (h : h_ed o μ x c k) (e : ∀ f, c' f k = c f k) : h_ed o μ x c' k := by
  unfold h_ed at h ⊢
  simp only [e]
  exact h
/-- what came of an ask is put down -/
theorem h_go.row {r : Nat} {fe : Nat → Option Nat} {c' : Nat → Nat → Int32} (h : h_go g C o μ E B G) (hk : k < 61) (hr : h_ed o μ (some r) c' k) (hc : ∀ j f, j ≠ k → c' f j = g_came G f j) (he : μ.1 (c_en C) = some (.inl (6, 61, .inr (.inr (.inr (.inr fe)))))) :
    h_go g C o (z_set μ (c_en C) (.inl (6, 61, .inr (.inr (.inr (.inr (fun j => if j = k then some r else fe j))))))) E B (g_scame G c') ∧ h_fr g (fun a => o a = 1000) o μ o (z_set μ (c_en C) (.inl (6, 61, .inr (.inr (.inr (.inr (fun j => if j = k then some r else fe j))))))) := by
  obtain ⟨⟨⟨h1, hw⟩, h2, h2t, h2m⟩, h3, ⟨h4, h5⟩, ⟨h6, h7⟩, ⟨fd, d1, d2, d3⟩, ⟨fe', f1, f2, f3⟩, cw, ce, ws, b1, b2, ⟨w1, w2⟩, n1⟩ := h
  rw [he] at f2
  cases f2
  have hf := h_fr.setA (o := o) (x' := (61, .inr (.inr (.inr (.inr (fun j => if j = k then some r else fe j)))))) hw he
  have S1 : ∀ a, o a ≠ 1000 → ¬ a = c_en C := fun a ha q => ha (by rw [q]; exact f1)
  have S0 : ∀ a, o a = 0 → ¬ a = c_en C := fun a ha => S1 a (by omega)
  have hd : o (c_d C) = 3 := by obtain ⟨-, _, _, _, _, _, _, _, _, _, _, _, ⟨q, -⟩, _⟩ := h3; exact q
  refine ⟨⟨⟨⟨h1, hf.wf⟩, h2, h2t, h2m⟩, h3.fr hf hw S0 (S1 _ (by omega)), ⟨h4, hf.cell hw h5 (fun q => by rw [q, he] at h5; cases h5)⟩, ⟨h6.fr hf hw (fun a ha => S1 a (by omega)), h7⟩, ⟨fd, d1, hf.cell hw d2 (fun q => by rw [q, he] at d2; cases d2), d3⟩,
    ⟨_, f1, z_set_self, fun j hj => ?_⟩, cw, ce, ws, b1, b2, ⟨w1.fr hf hw (fun a ha => S1 a (by omega)), w2.mono (fun x y _ hr => hr.fr hf hw S0)⟩, fun n q hq => ?_⟩, hf.mono (fun a _ q => by rw [q]; exact f1)⟩
  · show h_ed _ _ (if j = k then some r else fe j) c' j
    by_cases e : j = k
    · rw [if_pos e, e]
      exact hr.fr hf hw S0
    · rw [if_neg e]
      exact ((f3 j hj).fr hf hw S0).congr (fun f => hc j f e)
  · refine (n1 n q hq).fr hf hw S0 (fun a ha => S1 a ?_)
    have := h_tn_ge ha
    omega
theorem h_mg.isA {m : s_M} (h : h_mg N o μ p m) : z_isA g μ p "AskedNames$Message" := by
  obtain ⟨h0, h1, a, b, x, q, dr, wr, src, a1, a2, a3, a4, a5, a6, h2, h3⟩ := h
  exact Or.inl ⟨15, _, _, _, h2, rfl⟩
/-- a message is laid to the others -/
theorem h_go.way {m : s_M} (h : h_go g C o μ E B G) (hm : h_mg (c_N C) o μ p m) (hl : (g_ways G).length ≤ c_Mw C) : ∃ o1 μ1, D_J2_add g (c_wl C) (some p) μ = some (1, μ1) ∧ h_go g C o1 μ1 E B (g_sways G (g_ways G ++ [m])) ∧ h_fr g (fun a => o a = 1001) o μ o1 μ1 := by
  obtain ⟨⟨⟨h1, hw⟩, h2, h2t, h2m, h2e⟩, h3, ⟨h4, h5⟩, ⟨h6, h7⟩, ⟨fd, d1, d2, d3⟩, ⟨fe, f1, f2, f3⟩, cw, ce, ws, b1, ⟨b2, b3⟩, ⟨w1, w2⟩, n1⟩ := h
  have hlen := w2.1
  obtain ⟨o1, μ1, n1', q1, q2, hf, q4, q5, q6⟩ := w1.add h1 hw (by omega) ⟨"AskedNames$Message", "java/lang/Object", rfl, hm.isA, Or.inr q2992⟩
  have S1 : ∀ a, o a ≠ 1001 → ¬ o a = 1001 := fun a ha q => ha q
  have S0 : ∀ a, o a = 0 → ¬ o a = 1001 := fun a ha => by omega
  have hd : o (c_d C) = 3 := by obtain ⟨-, _, _, _, _, _, _, _, _, _, _, _, ⟨q, -⟩, _⟩ := h3; exact q
  refine ⟨o1, μ1, q1, ⟨⟨⟨h1, hf.wf⟩, h2, h2t, h2m, h2e⟩, h3.fr hf hw S0 (by omega), ⟨(hf.2.1 _ (hw.lt h5)).trans h4, hf.cell hw h5 (by omega)⟩, ⟨h6.fr hf hw (fun a ha => S1 a (by omega)), h7⟩, ⟨fd, (hf.2.1 _ (hw.lt d2)).trans d1, hf.cell hw d2 (by omega), d3⟩,
    ⟨fe, (hf.2.1 _ (hw.lt f2)).trans f1, hf.cell hw f2 (by omega), fun k hk => (f3 k hk).fr hf hw S0⟩, n1', ce, ws ++ [p], by omega, ⟨by rcases q5 with q5 | q5 <;> omega, b3⟩, ⟨q2, (w2.mono (fun x y _ hr => hr.fr hf hw S0)).snoc (hm.fr hf hw S0)⟩, fun n q hq => ?_⟩, hf⟩
  refine (n1 n q hq).fr hf hw S0 (fun a ha => S1 a ?_)
  have := h_tn_ge ha
  omega
theorem s_node_nI {n : Nat} (hN : n_ok N) (h : n < n_nodes N) : s_node N (nI n) = some n := by
  have h6 : n_nodes N ≤ 6 := hN.1.1.2
  unfold s_node
  rw [v_nI (by omega), if_pos ⟨Int32.not_lt.mp (nI_pos (by omega)), h⟩]
theorem h_go.delay {x y : Nat} (h : h_go g C o μ E B G) (hx : x < 6) (hy : y < 6) : D_X12_at g (c_a C) (nI x) (nI y) μ = some (g_minute G + s_dly (c_N C) (c_lk C) (6 * x + y)) := by
  unfold D_X12_at
  rw [x_giS h.ca rfl, x_grR h.ca rfl, x_oS, h.nt.ob, h.nt.delay hx hy, x_bS]
theorem h_go.isUp {x y : Int32} (h : h_go g C o μ E B G) : D_X12_isUp g (c_a C) x y μ = some (match s_node (c_N C) x, s_node (c_N C) y with
    | some a, some b => if s_up (c_lk C) (g_down G) a b = true then 1 else 0
    | _, _ => 0) := by
  unfold D_X12_isUp
  rw [x_grR h.ca rfl, x_oS, h.nt.ob, h.nt.isLink h.hN h.hlk, x_bS]
  cases ex : s_node (c_N C) x with
  | none => exact if_pos rfl
  | some a =>
    cases ey : s_node (c_N C) y with
    | none => exact if_pos rfl
    | some b =>
      obtain ⟨a1, a2, rfl⟩ := s_node_lt h.hN ex
      obtain ⟨b1, b2, rfl⟩ := s_node_lt h.hN ey
      show (if (if (c_lk C (6 * a + b)).isSome = true then (1 : Int32) else 0) = 0 then _ else _) = some (if s_up (c_lk C) (g_down G) a b = true then 1 else 0)
      unfold s_up
      cases e : c_lk C (6 * a + b) with
      | none => exact if_pos rfl
      | some l =>
        obtain ⟨fd, d1, d2, d3⟩ := h.2.2.2.2.1
        have hfd := d3 (6 * a + b) l (by omega) e
        show (if (1 : Int32) = 0 then _ else _) = _
        rw [if_neg (by decide), x_grR h.ca rfl, x_oS, x_arS d2, nI_6, x_gaT (by omega) (by omega), hfd]
        unfold s_bit
        show _ = some (if (!decide ((g_down G >>> (nI l &&& 31)) &&& 1 = 1)) = true then (1 : Int32) else 0)
        by_cases c : (g_down G >>> (nI l &&& 31)) &&& 1 = 1
        · rw [decide_eq_true c]
          rfl
        · rw [decide_eq_false c]
          rfl
/-- a message's cell -/
theorem x_init15 {a1 a2 a3 a5 a6 a8 : Int32} {a4 a7 a9 : Option Nat} : D_X15_init g μ.2.1 a1 a2 a3 a4 a5 a6 a7 a8 a9 (z_new μ 9 (.inr (15, [.int 0, .int 0, .int 0, .int 0, .int 0, .int 0, .null, .null, .null]))) = some (z_new μ 9 (.inr (15, [.int a1, .int a2, .int a3, .int a5, .int a6, .int a8, va_rf a4, va_rf a7, va_rf a9]))) := by
  unfold D_X15_init
  refine (x_pfN (Nat.le_of_ble_eq_true rfl)).trans ?_
  refine (x_pfN (Nat.le_of_ble_eq_true rfl)).trans ?_
  refine (x_pfN (Nat.le_of_ble_eq_true rfl)).trans ?_
  refine (x_pfN (Nat.le_of_ble_eq_true rfl)).trans ?_
  refine (x_pfN (Nat.le_of_ble_eq_true rfl)).trans ?_
  refine (x_pfN (Nat.le_of_ble_eq_true rfl)).trans ?_
  refine (x_pfN (Nat.le_of_ble_eq_true rfl)).trans ?_
  refine (x_pfN (Nat.le_of_ble_eq_true rfl)).trans ?_
  exact x_pfN (Nat.le_of_ble_eq_true rfl)
theorem s_tms.same (h : s_tms G) (e1 : g_nd G' = g_nd G) (e2 : g_minute G' = g_minute G) (e3 : g_meas G' = g_meas G) : s_tms G' := by
  obtain ⟨tm, h1, h2, h3, h4⟩ := h
  refine ⟨tm, h1, e2.trans h2, fun n hn e he => h3 n hn e ?_, fun i hi => by rw [e3]; exact h4 i hi⟩
  unfold g_es at he ⊢
  rw [e1] at he
  exact he
/-- a new message goes its way, or is missed -/
theorem h_go.post {n t : Nat} {kind name wish nonce src : Int32} {r : s_Q} {q : Nat} {dr wr : Option Nat} (h : h_go g C o μ E B G) (hn : n < n_nodes (c_N C)) (ht : t < n_nodes (c_N C)) (hnm : s_wn name) (hq : h_nm o μ q (v_ name)) (hl : (g_ways G).length ≤ c_Mw C)
    (hk : ∀ l, c_lk C (6 * n + t) = some l → h_mk o μ kind name r dr wr src (v_ (g_minute G) + n_ld (c_N C) l)) :
    ∃ o1 μ1, D_X12_sends g (c_a C) (some μ.2.1) (z_new μ 9 (.inr (15, [.int (nI n), .int (nI t), .int (g_minute G + s_dly (c_N C) (c_lk C) (6 * n + t)), .int wish, .int nonce, .int src, .ref q, va_rf dr, va_rf wr]))) = some μ1 ∧
      h_go g C o1 μ1 E (B + 14) (s_send (c_N C) (c_lk C) kind n t name wish nonce r G) ∧ h_fr g (fun a => o a = 1000 ∨ o a = 1001) o μ o1 μ1 := by
  have h6 : n_nodes (c_N C) ≤ 6 := h.hN.1.1.2
  have h1 := h.new (m := 9) (t := 0) (x := .inr (15, [.int (nI n), .int (nI t), .int (g_minute G + s_dly (c_N C) (c_lk C) (6 * n + t)), .int wish, .int nonce, .int src, .ref q, va_rf dr, va_rf wr]))
  have f1 := h_fr.new (o := o) (n := 9) (t := 0) (x := .inr (15, [.int (nI n), .int (nI t), .int (g_minute G + s_dly (c_N C) (c_lk C) (6 * n + t)), .int wish, .int nonce, .int src, .ref q, va_rf dr, va_rf wr])) h.wf
  have hlt : ∀ a, a < μ.2.1 → h_o1 o μ.2.1 0 a = o a := fun a ha => if_neg (by omega)
  have c1 : (z_new μ 9 (.inr (15, [.int (nI n), .int (nI t), .int (g_minute G + s_dly (c_N C) (c_lk C) (6 * n + t)), .int wish, .int nonce, .int src, .ref q, va_rf dr, va_rf wr]))).1 μ.2.1 = some (.inr (15, [.int (nI n), .int (nI t), .int (g_minute G + s_dly (c_N C) (c_lk C) (6 * n + t)), .int wish, .int nonce, .int src, .ref q, va_rf dr, va_rf wr])) := z_new_self
  generalize hM : z_new μ 9 (.inr (15, [.int (nI n), .int (nI t), .int (g_minute G + s_dly (c_N C) (c_lk C) (6 * n + t)), .int wish, .int nonce, .int src, .ref q, va_rf dr, va_rf wr])) = M at h1 f1 c1
  unfold D_X12_sends
  rw [x_oS, x_giS c1 rfl, x_giS c1 rfl, h1.ob, h1.isUp, x_bS, s_node_nI h.hN hn, s_node_nI h.hN ht]
  unfold s_send
  show ∃ o1 μ1, (if (if s_up (c_lk C) (g_down G) n t = true then (1 : Int32) else 0) = 0 then _ else _) = some μ1 ∧ _
  by_cases c : s_up (c_lk C) (g_down G) n t = true
  · rw [if_pos c, if_neg (by decide), if_pos c, x_giS h1.ca rfl]
    obtain ⟨l, hl'⟩ : ∃ l, c_lk C (6 * n + t) = some l := by
      cases e : c_lk C (6 * n + t) with
      | none => unfold s_up at c; rw [e] at c; cases c
      | some l => exact ⟨l, rfl⟩
    have hb := n_ln_b h.hN (h.hlk _ l (by omega) hl').1
    obtain ⟨tm, t1, t2, t3, t4⟩ := h.1.2.2.1
    have hv : v_ (g_minute G) = tm := by rw [t2, v_nI (by omega)]
    have hdu : g_minute G + s_dly (c_N C) (c_lk C) (6 * n + t) = nI (tm + n_ld (c_N C) l) := by
      unfold s_dly; rw [hl', t2]; exact nI_add _ _
    have hm : h_mg (c_N C) (h_o1 o μ.2.1 0) M μ.2.1 ((kind, nI n, nI t, name, wish, nonce, s_due (c_N C) (c_lk C) G n t), r) := by
      refine ⟨if_pos rfl, hnm, n, t, tm + n_ld (c_N C) l, q, dr, wr, src, hn, ht, rfl, rfl, by omega, ?_, ?_, hq.fr f1 h.wf (fun a _ q => q.elim), ?_⟩
      · show g_minute G + nI (n_ld (c_N C) ((c_lk C (6 * n + t)).getD 0)) = _
        rw [hl', t2]; exact nI_add _ _
      · rw [c1, hdu]
      · have := (hk l hl').fr f1 h.wf (fun a _ q => q.elim)
        rw [hv] at this
        exact this
    obtain ⟨h2, f2⟩ := h1.head (G' := g_ssent G (g_sent G + 1)) rfl rfl rfl rfl rfl (h.1.2.2.1.same rfl rfl rfl)
    have hm2 := hm.fr f2 h1.wf (fun a ha q => by rw [ha] at q; cases q)
    obtain ⟨o3, μ3, e3, h3, f3⟩ := h2.way hm2 hl
    refine ⟨o3, μ3, ?_, h3, (f1.trans f2 (S := fun a => o a = 1000 ∨ o a = 1001) (fun a ha q => ?_)).trans f3 (fun a ha q => ?_)⟩
    · refine (x_pfS h1.ca (Nat.le_of_ble_eq_true rfl)).trans ?_
      have hc2 := h2.ca
      refine (x_grR (ci := 12) (k := 2) (fs := _) (p := c_wl C) hc2 rfl).trans ?_
      rw [x_oS]
      obtain ⟨cw, ce, ws, -, -, ⟨w1, -⟩, -⟩ := h2.2.2.2.2.2.2
      refine Eq.trans w1.obK ?_
      rw [show z_set M (c_a C) (Sum.inr (12, List.set _ 6 _)) = z_set M (c_a C) (h_gc C (g_ssent G (g_sent G + 1))) from rfl, e3, x_b2S]
    · rcases q with q | q
      · exact q.elim
      · exact Or.inl ((hlt a ha).symm.trans q)
    · rcases q with q | q
      · exact q
      · exact Or.inr ((hlt a ha).symm.trans q)
  · rw [if_neg c, if_pos rfl, if_neg c, x_giS h1.ca rfl]
    obtain ⟨h2, f2⟩ := h1.head (G' := g_smissed G (g_missed G + 1)) rfl rfl rfl rfl rfl (h.1.2.2.1.same rfl rfl rfl)
    refine ⟨_, _, x_pfS h1.ca (Nat.le_of_ble_eq_true rfl), h2, f1.trans f2 (fun a ha q => ?_)⟩
    rcases q with q | q
    · exact q.elim
    · exact Or.inl ((hlt a ha).symm.trans q)
end T93
