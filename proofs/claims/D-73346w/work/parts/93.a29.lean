/-! THE COMPONENT's LAW, 29: data to all, refusals to all -/
set_option maxRecDepth 100000
set_option linter.unusedVariables false
/-- a fold over the numbers of a set is one over its list -/
theorem s_fold_range {α : Type} (st : Nat → α → α) : ∀ m k a, s_fold st k m a = (List.range' k m).foldl (fun a j => st j a) a := by
  intro m
  induction m with
  | zero => intro k a; rfl
  | succ m ih =>
    intro k a
    rw [List.range'_succ]
    exact ih (k + 1) (st k a)
theorem s_foldl_if {α : Type} (p : Nat → Bool) (st : Nat → α → α) : ∀ (l : List Nat) (a : α), l.foldl (fun a j => if p j = true then st j a else a) a = (l.filter p).foldl (fun a j => st j a) a := by
  intro l
  induction l with
  | nil => intro a; rfl
  | cons x l ih =>
    intro a
    rw [List.foldl_cons]
    cases h : p x
    · rw [if_neg (by decide), List.filter_cons_of_neg (by rw [h]; decide)]
      exact ih a
    · rw [if_pos rfl, List.filter_cons_of_pos h, List.foldl_cons]
      exact ih _
theorem s_getAllL (set : Int64) (r : s_Q) (G : s_G) : s_getAll set r G = (s_setL set).foldl (fun G k => s_get r k G) G := by
  unfold s_getAll s_setL
  rw [s_fold_range, ← List.range_eq_range', s_foldl_if (fun k => s_hasL set (nI k)) (fun k G => s_get r k G)]
theorem s_refuseAllL (set : Int64) (r : s_Q) (G : s_G) : s_refuseAll set r G = (s_setL set).foldl (fun G k => s_refuse r k G) G := by
  unfold s_refuseAll s_setL
  rw [s_fold_range, ← List.range_eq_range', s_foldl_if (fun k => s_hasL set (nI k)) (fun k G => s_refuse r k G)]
theorem s_lateAllL (set : Int64) (G : s_G) : s_lateAll set G = (s_setL set).foldl (fun G k => s_late k G) G := by
  unfold s_lateAll s_setL
  rw [s_fold_range, ← List.range_eq_range', s_foldl_if (fun k => s_hasL set (nI k)) (fun k G => s_late k G)]
theorem s_setL_mem {x : Int64} {k : Nat} (h : k ∈ s_setL x) : k < 64 ∧ s_hasL x (nI k) = true := by
  unfold s_setL at h
  obtain ⟨h1, h2⟩ := List.mem_filter.mp h
  exact ⟨List.mem_range.mp h1, h2⟩
section T93
variable {g : z_G} {C : h_C} {o o1 : Nat → Nat} {μ μ1 : z_M} {E : Nat → List Nat} {B b p n q k w a0 t l x ce room i c j d pit al ca : Nat} {G G' : s_G} {S : Nat → Prop} {N : s_R} {xs es cs : List Nat} {nd : s_N} {ms : Nat → Int32} {but nonce name wish ends src : Int32} {e : s_E} {fs : List Value} {r : s_Q}
/-- what stands on the side while messages are sent: an entry, a thing that goes through its asks -/
def h_sd (g : z_G) (o : Nat → Nat) (μ : z_M) (n p : Nat) (e : s_E) : Prop := h_en g o μ n p e
theorem h_en.f6 (h : h_en g o μ n p e) : ∃ fs, μ.1 p = some (.inr (17, fs)) ∧ fs[6]? = some (.int (e_in e)) := by
  obtain ⟨h0, h1, h2, q, al, ca, h3, h4, h5⟩ := h
  exact ⟨_, h3, rfl⟩
theorem h_en.asks (h : h_en g o μ n p e) : ∃ fs al ca, μ.1 p = some (.inr (17, fs)) ∧ fs[4]? = some (.ref al) ∧ h_ls g o μ (o p + 8) al ca ((s_setL (e_asks e)).map (h_in g)) := by
  obtain ⟨h0, h1, h2, q, al, ca, h3, h4, h5⟩ := h
  exact ⟨_, al, ca, h3, rfl, h5⟩
/-- data to the nodes of an entry -/
theorem h_go.dataAll {pm pd : Nat} {fm : List Value} (p11 v5 : Nat) (K : z_M → Option z_M) (h : h_go g C o μ E B G) (hn : n < n_nodes (c_N C)) (hen : h_en g o μ n p e) (hm : μ.1 pm = some (.inr (15, fm))) (hom : o pm = 0) (hm7 : fm[7]? = some (.ref pd)) (hm5 : fm[5]? = some (.int src))
    (hd : h_dt o μ pd (name, r.1, r.2.1)) (hs : ∃ m f, m < 6 ∧ f < 2 ∧ src = nI (10 * m + f) ∧ r.2.2.1 = nI m ∧ r.2.2.2 = nI f) (hl : (g_ways G).length + 6 ≤ c_Mw C) :
    ∃ o1 μ1, D_X12_gets_238 g (c_a C) (nI n) pm p11 v5 p K x_F 0 μ = K μ1 ∧ h_go g C o1 μ1 E (B + 20 * s_popK (e_in e) (n_nodes (c_N C))) (s_dataAll (c_N C) (c_lk C) n (e_in e) name r G) ∧ h_fr g (fun a => o a = 1000 ∨ o a = 1001) o μ o1 μ1 ∧ (g_ways (s_dataAll (c_N C) (c_lk C) n (e_in e) name r G)).length ≤ (g_ways G).length + 6 := by
  have hN := h.hN
  have h6 : n_nodes (c_N C) ≤ 6 := hN.1.1.2
  have e0 : c_N C 0 = nI (n_nodes (c_N C)) := hN.1.1.1
  obtain ⟨μ1, e1, o1, r1, r2, r3⟩ := x_forS (γ := z_M) (δ := s_G) (β := Option z_M)
    (R := fun k s G' => ∃ o', h_go g C o' s E (B + 20 * s_popK (e_in e) k) G' ∧ h_fr g (fun a => o a = 1000 ∨ o a = 1001) o μ o' s ∧ (g_ways G').length ≤ (g_ways G).length + k)
    (L := fun fu k s => D_X12_gets_238 g (c_a C) (nI n) pm p11 v5 p K fu (nI k) s)
    (K := K) (st := fun to G => if s_bit (e_in e) (nI to) = true then s_data (c_N C) (c_lk C) n to name r G else G) (n := n_nodes (c_N C))
    (fun fu s G' hR => by
      obtain ⟨o', h1, f1, l1⟩ := hR
      obtain ⟨fs, rl, nr, hp, hk5, hk0, -⟩ := h1.routes
      show D_X12_gets_238 _ _ _ _ _ _ _ _ (fu + 1) _ _ = _
      unfold D_X12_gets_238
      rw [x_grR h1.ca rfl, x_oS, x_giS hp hk0, e0, if_pos (Int32.le_refl _)])
    (fun fu k s G' hR hk => by
      obtain ⟨o', h1, f1, l1⟩ := hR
      obtain ⟨fs, rl, nr, hp, hk5, hk0, -⟩ := h1.routes
      have S0 : ∀ a, o a = 0 → ¬ (o a = 1000 ∨ o a = 1001) := fun a ha => by omega
      have hen1 := hen.fr f1 h.wf S0 (fun a ha (q : o a = 1000 ∨ o a = 1001) => by have := hen.1; omega)
      have hd1 := hd.fr f1 h.wf S0
      have hm1 := f1.cell h.wf hm (S0 _ hom)
      obtain ⟨fe, c1, c2⟩ := hen1.f6
      have hstep : D_X12_gets_238 g (c_a C) (nI n) pm p11 v5 p K (fu + 1) (nI k) s = (if s_bit (e_in e) (nI k) = true then x_b (D_X12_gives g (c_a C) (nI n) (nI k) (-1 : Int32) (some pd) src s) fun μ213 => D_X12_gets_238 g (c_a C) (nI n) pm p11 v5 p K fu (nI (k + 1)) μ213 else D_X12_gets_238 g (c_a C) (nI n) pm p11 v5 p K fu (nI (k + 1)) s) := by
        conv => lhs; unfold D_X12_gets_238
        rw [x_grR h1.ca rfl, x_oS, x_giS hp hk0, e0, if_neg (nI_ge hk (by omega)), x_giS c1 c2, x_has, x_bS]
        by_cases cb : s_bit (e_in e) (nI k) = true
        · rw [if_pos cb, if_neg (show ¬ (1 : Int32) = 0 by decide), x_grR hm1 hm7, x_giS hm1 hm5, h1.ob, if_pos cb]
          congr 1
          funext μ213
          rw [x_lS, nI_1]
        · rw [if_neg cb, if_pos rfl, x_lS, nI_1, if_neg cb]
      by_cases cb : s_bit (e_in e) (nI k) = true
      · have eP : s_popK (e_in e) (k + 1) = s_popK (e_in e) k + 1 := by
          show s_popK (e_in e) k + s_b1 (e_in e) k = _
          unfold s_b1
          rw [if_pos cb]
        obtain ⟨o2, μ2, e2, h2, f2⟩ := h1.givN (a3 := -1) (m := 0) (f := 0) hn hk hd1 hs (by omega)
        refine ⟨μ2, by rw [hstep, if_pos cb, e2, x_bS], o2, ?_, f1.trans f2 (fun a ha q => ?_), ?_⟩
        · show h_go g C o2 μ2 E _ (if s_bit (e_in e) (nI k) = true then s_data (c_N C) (c_lk C) n k name r G' else G')
          rw [if_pos cb, eP]
          unfold s_data
          rw [if_pos (by omega)]
          exact h2.le (by omega)
        · rcases q with q | q
          · exact q
          · rw [f1.2.1 a ha] at q; exact q
        · show (g_ways (if s_bit (e_in e) (nI k) = true then s_data (c_N C) (c_lk C) n k name r G' else G')).length ≤ _
          rw [if_pos cb]
          have := (g_nd_data (N := c_N C) (lk := c_lk C) (name := name) (n := n) (t := k) (r := r) (G := G')).2
          omega
      · have eP : s_popK (e_in e) (k + 1) = s_popK (e_in e) k := by
          show s_popK (e_in e) k + s_b1 (e_in e) k = _
          unfold s_b1
          rw [if_neg cb]
          rfl
        refine ⟨s, by rw [hstep, if_neg cb], o', ?_, f1, ?_⟩
        · show h_go g C o' s E _ (if s_bit (e_in e) (nI k) = true then s_data (c_N C) (c_lk C) n k name r G' else G')
          rw [if_neg cb, eP]
          exact h1
        · show (g_ways (if s_bit (e_in e) (nI k) = true then s_data (c_N C) (c_lk C) n k name r G' else G')).length ≤ _
          rw [if_neg cb]
          omega)
    x_F 0 μ G (Nat.zero_le _) ⟨o, h, h_fr.refl h.wf, Nat.le_refl _⟩ (by rw [x_Fv]; omega)
  rw [Nat.sub_zero] at r1 r3
  have r3' : (g_ways (s_dataAll (c_N C) (c_lk C) n (e_in e) name r G)).length ≤ (g_ways G).length + n_nodes (c_N C) := r3
  exact ⟨o1, μ1, e1, r1, r2, by omega⟩
end T93
