/-! THE COMPONENT's LAW, 24: a new entry; what is given and refused, to whomever -/
set_option maxRecDepth 100000
set_option linter.unusedVariables false
theorem x_lgh {y : Int64} {k : Int32} : (lg_cmp ((y >>> (k.toInt64 &&& 63)) &&& (1 : Int64)) (1 : Int64) = 0) ↔ s_hasL y k = true := by
  unfold s_hasL lg_cmp
  rw [decide_eq_true_iff]
  by_cases h : (y >>> (k.toInt64 &&& 63)) &&& 1 = 1
  · exact ⟨fun _ => h, fun _ => by rw [h]; decide⟩
  · refine ⟨fun q => ?_, fun q => absurd q h⟩
    rw [if_neg h] at q
    by_cases h2 : (y >>> (k.toInt64 &&& 63)) &&& 1 > 1
    · rw [if_pos h2] at q; exact absurd q (by decide)
    · rw [if_neg h2] at q; exact absurd q (by decide)
theorem s_setL_0 : s_setL 0 = [] := by
  unfold s_setL
  rw [List.filter_eq_nil_iff]
  intro k hk
  rw [s_hasL_0 (by simpa using hk)]
  decide
/-- a tag above all others -/
theorem h_fresh16 (o : Nat → Nat) {n : Nat} (hn : n < 6) (N : Nat) : ∃ t, 2000 ≤ t ∧ t % 16 = n ∧ ∀ a, a < N → o a < t := by
  have key : ∀ N, ∃ m, 200 ≤ m ∧ ∀ a, a < N → o a ≤ m := by
    intro N
    induction N with
    | zero => exact ⟨200, Nat.le_refl _, fun a ha => absurd ha (Nat.not_lt_zero _)⟩
    | succ N ih =>
      obtain ⟨m, h1, h2⟩ := ih
      refine ⟨max m (o N), by omega, fun a ha => ?_⟩
      by_cases e : a = N
      · rw [e]; omega
      · have := h2 a (by omega); omega
  obtain ⟨m, h1, h2⟩ := key N
  exact ⟨16 * m + n, by omega, by omega, fun a ha => by have := h2 a ha; omega⟩
section T93
variable {g : z_G} {C : h_C} {o o1 : Nat → Nat} {μ μ1 : z_M} {E : Nat → List Nat} {B b p n q k w a0 t l x ce room i c j d : Nat} {G G' : s_G} {S : Nat → Prop} {N : s_R} {xs es cs : List Nat} {nd : s_N} {ms : Nat → Int32} {but nonce name wish ends src : Int32} {e : s_E} {fs : List Value} {r : s_Q}
/-- a new entry -/
theorem h_newE (hok : z_ok g) (hw : h_wf g μ) (hn : n < 6) (hnm : s_wn name) (hq : h_nm o μ w (v_ name)) : ∃ o1 μ1, D_X17_init g μ.2.1 (some w) wish ends nonce (z_new μ 10 (.inr (17, [.null, .int 0, .int 0, .int 0, .null, .long 0, .int 0, .int 0, .int 0, .int 0]))) = some μ1 ∧
    h_en g o1 μ1 n μ.2.1 (name, wish, 0, 0, 0, nonce, -1, 0, 0, ends) ∧ h_fr g (fun _ => False) o μ o1 μ1 ∧ h_u μ1 = h_u μ + 23 ∧ (∀ a, a < μ.2.1 → o a < o1 μ.2.1) ∧ μ.2.1 < μ1.2.1 := by
  obtain ⟨T, T1, T2, T3⟩ := h_fresh16 o hn μ.2.1
  have f1 := h_fr.new (o := o) (n := 10) (t := T) (x := .inr (17, [.null, .int 0, .int 0, .int 0, .null, .long 0, .int 0, .int 0, .int 0, .int 0])) hw
  have c1 : (z_new μ 10 (.inr (17, [.null, .int 0, .int 0, .int 0, .null, .long 0, .int 0, .int 0, .int 0, .int 0]))).1 μ.2.1 = some (.inr (17, [.null, .int 0, .int 0, .int 0, .null, .long 0, .int 0, .int 0, .int 0, .int 0])) := z_new_self
  have u1 : h_u (z_new μ 10 (.inr (17, [.null, .int 0, .int 0, .int 0, .null, .long 0, .int 0, .int 0, .int 0, .int 0]))) = h_u μ + 15 := by rw [h_u_new]
  have n1 : (z_new μ 10 (.inr (17, [.null, .int 0, .int 0, .int 0, .null, .long 0, .int 0, .int 0, .int 0, .int 0]))).2.1 = μ.2.1 + 1 := rfl
  generalize hM : z_new μ 10 (.inr (17, [.null, .int 0, .int 0, .int 0, .null, .long 0, .int 0, .int 0, .int 0, .int 0])) = M at f1 c1 u1 n1
  obtain ⟨μ1, e1, hL, f2, n2, u2⟩ := h_list0 (o := h_o1 o μ.2.1 T) (T + 8) hok f1.wf
  rw [n1] at e1 hL f2
  have c2 : μ1.1 μ.2.1 = some (.inr (17, [.null, .int 0, .int 0, .int 0, .null, .long 0, .int 0, .int 0, .int 0, .int 0])) := f2.cell f1.wf c1 (fun q => q)
  have ho1 : h_o1 (h_o1 o μ.2.1 T) (μ.2.1 + 1) (T + 8) μ.2.1 = T := (if_neg (by omega : ¬ μ.2.1 = μ.2.1 + 1)).trans (if_pos rfl)
  have f3 := h_fr.setF (o := h_o1 (h_o1 o μ.2.1 T) (μ.2.1 + 1) (T + 8)) (fs' := [.ref w, .int wish, .int ends, .int nonce, .ref (μ.2.1 + 1), .long 0, .int 0, .int (-1), .int 0, .int 0]) f2.wf c2
  have f23 := f2.trans f3 (S := fun a => a = μ.2.1) (fun a _ q => q.elim False.elim id)
  have f13 : h_fr g (fun _ => False) o μ (h_o1 (h_o1 o μ.2.1 T) (μ.2.1 + 1) (T + 8)) (z_set μ1 μ.2.1 (.inr (17, [.ref w, .int wish, .int ends, .int nonce, .ref (μ.2.1 + 1), .long 0, .int 0, .int (-1), .int 0, .int 0]))) := f1.trans f23 (fun a ha q => by
    rcases q with q | q
    · exact q
    · rw [q] at ha; exact absurd ha (Nat.lt_irrefl _))
  refine ⟨h_o1 (h_o1 o μ.2.1 T) (μ.2.1 + 1) (T + 8), z_set μ1 μ.2.1 (.inr (17, [.ref w, .int wish, .int ends, .int nonce, .ref (μ.2.1 + 1), .long 0, .int 0, .int (-1), .int 0, .int 0])), ?_, ⟨by rw [ho1]; exact ⟨T1, T2⟩, hnm, fun j hj hb => ?_, w, μ.2.1 + 1, 0, z_set_self, hq.fr f13 hw (fun a _ q => q), ?_⟩, f13, by rw [h_u_set, u2, u1], fun a ha => by rw [ho1]; exact T3 a ha, ?_⟩
  · unfold D_X17_init
    rw [x_nwS, n1, e1, x_bS]
    have d1 : ∀ xs, (z_set μ1 μ.2.1 (.inr (17, xs))).1 μ.2.1 = some (.inr (17, xs)) := fun xs => z_set_self
    refine (x_pfS c2 (Nat.le_of_ble_eq_true rfl)).trans ?_
    refine (x_pfS (d1 _) (Nat.le_of_ble_eq_true rfl)).trans ?_
    rw [z_set_set]
    refine (x_pfS (d1 _) (Nat.le_of_ble_eq_true rfl)).trans ?_
    rw [z_set_set]
    refine (x_pfS (d1 _) (Nat.le_of_ble_eq_true rfl)).trans ?_
    rw [z_set_set]
    refine (x_pfS (d1 _) (Nat.le_of_ble_eq_true rfl)).trans ?_
    rw [z_set_set]
    refine (x_pfS (d1 _) (Nat.le_of_ble_eq_true rfl)).trans ?_
    rw [z_set_set]
    rfl
  · have hb' : s_hasL 0 (nI j) = true := hb
    rw [s_hasL_0 hj] at hb'; cases hb'
  · show h_ls g _ _ (h_o1 (h_o1 o μ.2.1 T) (μ.2.1 + 1) (T + 8) μ.2.1 + 8) (μ.2.1 + 1) 0 ((s_setL 0).map (h_in g))
    rw [ho1, s_setL_0]
    exact hL.fr f3 f2.wf (fun a ha q => by rw [q, ho1] at ha; omega)
  · show μ.2.1 < μ1.2.1
    omega
/-- to a node or an ask: data; a refusal -/
def s_tgo (C : h_C) (t : Nat) (nonce : Int32) : Prop := t < n_nodes (c_N C) ∨ (100 ≤ t ∧ t < 161 ∧ nonce = nI (t - 100))
theorem h_go.giveT (h : h_go g C o μ E B G) (hn : n < n_nodes (c_N C)) (ht : s_tgo C t nonce) (hd : h_dt o μ d (name, r.1, r.2.1)) (hs : ∃ m f, m < 6 ∧ f < 2 ∧ src = nI (10 * m + f) ∧ r.2.2.1 = nI m ∧ r.2.2.2 = nI f) (hl : (g_ways G).length ≤ c_Mw C) :
    ∃ o1 μ1, D_X12_gives g (c_a C) (nI n) (s_ft t) nonce (some d) src μ = some μ1 ∧ h_go g C o1 μ1 E (B + 20) (s_data (c_N C) (c_lk C) n t name r G) ∧ h_fr g (fun a => o a = 1000 ∨ o a = 1001) o μ o1 μ1 := by
  have h6 : n_nodes (c_N C) ≤ 6 := h.hN.1.1.2
  unfold s_ft s_data
  by_cases c : t < 100
  · have ht' : t < n_nodes (c_N C) := by rcases ht with q | q; exact q; omega
    rw [if_pos c, if_pos c]
    obtain ⟨o1, μ1, e1, h1, f1⟩ := h.givN (a3 := nonce) (m := 0) (f := 0) hn ht' hd hs hl
    exact ⟨o1, μ1, e1, h1.le (by omega), f1⟩
  · obtain ⟨t1, t2, rfl⟩ : 100 ≤ t ∧ t < 161 ∧ nonce = nI (t - 100) := by rcases ht with q | q; omega; exact q
    rw [if_neg c, if_neg c]
    obtain ⟨o1, μ1, e1, h1, f1⟩ := h.getK (k := t - 100) (a1 := nI n) (a4 := some d) (by omega) hs
    exact ⟨o1, μ1, e1, h1, f1.mono (fun a _ q => Or.inl q)⟩
theorem h_go.refT (h : h_go g C o μ E B G) (hn : n < n_nodes (c_N C)) (ht : s_tgo C t nonce) (hnm : s_wn name) (hq : h_nm o μ q (v_ name)) (hy : h_why o μ (d + 1) w r.2.1 r.2.2.1) (hd : d ≤ v_ (g_minute G)) (h1 : r.1 = nI (d + 1)) (hl : (g_ways G).length ≤ c_Mw C) :
    ∃ o1 μ1, D_X12_refuses g (c_a C) (nI n) (s_ft t) nonce (some q) wish (some w) μ = some μ1 ∧ h_go g C o1 μ1 E (B + 23) (s_nack (c_N C) (c_lk C) n t name wish r G) ∧ h_fr g (fun a => o a = 1000 ∨ o a = 1001) o μ o1 μ1 := by
  have h6 : n_nodes (c_N C) ≤ 6 := h.hN.1.1.2
  unfold s_ft s_nack
  by_cases c : t < 100
  · have ht' : t < n_nodes (c_N C) := by rcases ht with q | q; exact q; omega
    rw [if_pos c, if_pos c]
    obtain ⟨o1, μ1, e1, h1, f1⟩ := h.refN (a3 := nonce) hn ht' hnm hq hy hd h1 hl
    exact ⟨o1, μ1, e1, h1.le (by omega), f1⟩
  · obtain ⟨t1, t2, rfl⟩ : 100 ≤ t ∧ t < 161 ∧ nonce = nI (t - 100) := by rcases ht with q | q; omega; exact q
    obtain ⟨tm, m1, m2, -, -⟩ := h.1.2.2.1
    rw [m2, v_nI (by omega)] at hd
    rw [if_neg c, if_neg c]
    obtain ⟨o1, μ1, e1, h1, f1⟩ := h.refK (k := t - 100) (a1 := nI n) (a4 := some q) (a5 := wish) (by omega) hy (by omega) h1
    exact ⟨o1, μ1, e1, h1, f1.mono (fun a _ q => Or.inl q)⟩
end T93
