/-! THE COMPONENT's LAW, 86: one more run for a log -/
set_option maxRecDepth 100000
set_option maxHeartbeats 400000
set_option linter.unusedVariables false
/-- what came of the asks, at en -/
def h_e9 (o : Nat → Nat) (μ : z_M) (en : Nat) (G : s_G) : Prop := ∃ fe : Nat → Option Nat, μ.1 en = some (.inl (6, 61, .inr (.inr (.inr (.inr fe))))) ∧ ∀ k, k < 61 → h_ed o μ (fe k) (g_came G) k
/-- runs that are as a log says: ks (0: nothing is away, i + 1: link i) -/
def h_fit (g : z_G) (o : Nat → Nat) (μ : z_M) (fa dl : Nat) (w : Int32) (ks : List Nat) (p : s_Ft) : Prop := (o fa = 870 ∧ ∃ ll ga cap fg, μ.1 fa = some (.inr (20, [.ref ll, .ref dl, .ref ga])) ∧ h_ls g o μ 871 ll cap (ks.map (h_iw g)) ∧ (o ga = 872 ∧ μ.1 ga = some (h_ia 40 fg) ∧ ∀ k, k < 40 → fg k = nI (p.2.2 k))) ∧
  (ks.length = p.1 ∧ (∀ i ∈ ks, i ≤ 15) ∧ p.1 ≤ 16 ∧ ∀ k, p.2.2 k ≤ p.1) ∧ (∀ j i, ks[j]? = some i → nI j = w → p.2.1 = oI (s_away i)) ∧ ((∀ j, j < ks.length → nI j ≠ w) → p.2.1 = -2)
section T93
variable {g : z_G} {C : h_C} {o o1 o2 : Nat → Nat} {μ μ1 μ2 : z_M} {a s x tb v i K q B w0 en fa dl lgx pn d k cap : Nat} {S : Nat → Prop} {N R L : s_R} {p : s_Ft} {G : s_G} {w : Int32} {ks xs ls rs ss : List Nat} {A : Nat → Bool} {tm : Nat}
theorem h_fr.drop (h : h_fr g (fun b => b = d ∨ S b) o μ o1 μ1) (hd : μ1.1 d = μ.1 d) : h_fr g S o μ o1 μ1 :=
  ⟨h.1, h.2.1, fun b hb hS => by
    by_cases e : b = d
    · rw [e]; exact hd
    · exact h.2.2.1 b hb (fun q => q.elim e hS), h.2.2.2.1, h.2.2.2.2⟩
theorem h_e9.fr (h : h_e9 o μ en G) (hf : h_fr g S o μ o1 μ1) (hw : h_wf g μ) (hS : ∀ b, o b = 0 → ¬ S b) (he : ¬ S en) : h_e9 o1 μ1 en G := by
  obtain ⟨fe, h1, h2⟩ := h
  exact ⟨fe, hf.cell hw h1 he, fun k hk => (h2 k hk).fr hf hw hS⟩
theorem h_e9.got (h : h_e9 o μ en G) (hk : k < 61) : D_X20_isGot g (some en) (nI k) μ = some (if g_came G 57 k = 1 then 1 else 0) := by
  obtain ⟨fe, h1, h2⟩ := h
  have hE := h2 k hk
  unfold D_X20_isGot
  rw [x_oS, x_aaS h1, x_gaT (by omega) (by omega), x_lS]
  cases hf : fe k with
  | none =>
    rw [hf] at hE
    rw [x_nuN]
    have hne : ¬ g_came G 57 k = 1 := by
      intro q
      have hE' : g_came G 57 k = -1 ∨ g_came G 57 k = 0 := hE
      rw [q] at hE'
      rcases hE' with z | z <;> exact absurd z (by decide)
    rw [if_neg hne]
  | some y =>
    rw [hf] at hE
    obtain ⟨y0, f, yc, f0, -⟩ := hE
    rw [x_nuS, x_aaS h1, x_gaT (by omega) (by omega), x_lS, hf, x_oS, x_arS yc, x_gaL (i := 0) (j := 0) (n := 7) rfl (by omega) (by omega), f0]
    by_cases c : g_came G 57 k = 1
    · rw [if_pos c, if_pos c]
    · rw [if_neg c, if_neg c]
theorem h_e9.when (h : h_e9 o μ en G) (hk : k < 61) (h1 : g_came G 57 k = 1) : ∃ fe y f, μ.1 en = some (.inl (6, 61, .inr (.inr (.inr (.inr fe))))) ∧ fe k = some y ∧ μ.1 y = some (h_ia 7 f) ∧ f 1 = g_came G 58 k := by
  obtain ⟨fe, h1', h2⟩ := h
  have hE := h2 k hk
  cases hf : fe k with
  | none =>
    rw [hf] at hE
    have hE' : g_came G 57 k = -1 ∨ g_came G 57 k = 0 := hE
    rw [h1] at hE'
    rcases hE' with z | z <;> exact absurd z (by decide)
  | some y =>
    rw [hf] at hE
    obtain ⟨y0, f, yc, f0, f1, -⟩ := hE
    exact ⟨fe, y, f, h1', hf, yc, f1⟩
/-- whether it is as the log says -/
theorem h_e9.isSo (h : h_e9 o μ en G) (hL : l_ok L) (hlo : h_lo g o μ lgx L) (hc : s_cinv A tm G) (htm : tm ≤ 99) : D_X20_isSo g (some en) (some lgx) μ = some (if s_isSo L G = true then 1 else 0) := by
  obtain ⟨cap, xs, q1, q2, q3⟩ := hlo
  obtain ⟨⟨L1, L2⟩, L3⟩ := hL
  have key := x_find (fun f k => D_X20_isSo_2 g (some en) (some lgx) μ (some (1 : Int32)) f (nI k)) (some (1 : Int32)) (fun _ => some (0 : Int32)) (fun k => !decide ((if g_came G 57 (v_ (L (1 + 2 * k))) = 1 then g_came G 58 (v_ (L (1 + 2 * k))) else -1) = L (1 + 2 * k + 1))) (l_cnt L)
    (fun f => by
      show D_X20_isSo_2 _ _ _ _ _ (f + 1) _ = _
      unfold D_X20_isSo_2
      rw [x_oS, q1.obK, q1.size, x_bS, q2, if_pos (Int32.le_refl _)])
    (fun f k hk => by
      show D_X20_isSo_2 _ _ _ _ _ (f + 1) _ = _
      obtain ⟨⟨a, a1, a2⟩, a3⟩ := L3 k hk
      obtain ⟨y, hy⟩ := h_at q2 hk
      obtain ⟨y0, fy, yc, f0, f1⟩ := q3 k y hy
      have hA : z_isA g μ y "[I" := Or.inr (Or.inl ⟨0, _, yc, by omega, rfl⟩)
      have va : v_ (L (1 + 2 * k)) = a := by rw [a2, v_nI (by omega)]
      rw [va]
      conv => lhs; unfold D_X20_isSo_2
      rw [x_oS, q1.obK, q1.size, x_bS, q2, if_neg (nI_ge hk (by omega)), q1.obK, q1.get hy, x_bS, x_gpI (x_icI hA), x_oS, x_arS yc, x_gaL (i := 1) (j := 1) (n := 2) rfl (by omega) (by omega), f1]
      by_cases cl : L (1 + 2 * k + 1) = -1
      · rw [if_pos cl, x_arS yc, x_gaL (i := 0) (j := 0) (n := 2) rfl (by omega) (by omega), f0, a2, h.got (by omega), x_bS, cl]
        by_cases cg : g_came G 57 a = 1
        · rw [if_pos cg, if_neg (show ¬ (1 : Int32) = 0 by decide), if_pos cg]
          have hne : ¬ g_came G 58 a = -1 := by
            intro e
            obtain ⟨z1, z2⟩ := hc.2.2 a (by omega)
            cases hA : A a with
            | false => rw [z1 hA] at cg; exact absurd cg (by decide)
            | true =>
              obtain ⟨t0, -, -, z3⟩ := z2 hA
              rcases z3 with z3 | ⟨-, b, b1, b2, b3⟩
              · rw [z3] at cg; exact absurd cg (by decide)
              · rw [b3] at e
                exact oI_none (by omega) e
          rw [decide_eq_false hne]
          rfl
        · rw [if_neg cg, if_pos rfl, if_neg cg, x_lS, nI_1, decide_eq_true rfl]
          rfl
      · rw [if_neg cl, x_arS yc, x_gaL (i := 0) (j := 0) (n := 2) rfl (by omega) (by omega), f0, a2, h.got (by omega), x_bS]
        by_cases cg : g_came G 57 a = 1
        · obtain ⟨fe, r, fr, r1, r2, r3, r4⟩ := h.when (k := a) (by omega) cg
          rw [if_pos cg, if_neg (show ¬ (1 : Int32) = 0 by decide), if_pos cg, x_arS yc, x_gaL (i := 0) (j := 0) (n := 2) rfl (by omega) (by omega), x_oS, x_aaS r1, f0, a2, x_gaT (by omega) (by omega), x_lS, r2, x_oS, x_arS r3, x_gaL (i := 1) (j := 1) (n := 7) rfl (by omega) (by omega), x_arS yc, x_gaL (i := 1) (j := 1) (n := 2) rfl (by omega) (by omega), r4, f1]
          by_cases ce : g_came G 58 a = L (1 + 2 * k + 1)
          · rw [if_pos ce, x_lS, nI_1, decide_eq_true ce]
            rfl
          · rw [if_neg ce, decide_eq_false ce]
            rfl
        · rw [if_neg cg, if_pos rfl, if_neg cg, decide_eq_false (fun q => cl q.symm)]
          rfl) x_F 0 (by omega) (by rw [x_Fv]; omega)
  unfold D_X20_isSo s_isSo
  rw [Nat.sub_zero] at key
  have key' : D_X20_isSo_2 g (some en) (some lgx) μ (some (1 : Int32)) x_F 0 = _ := key
  rw [key']
  cases s_find (fun k => !decide ((if g_came G 57 (v_ (L (1 + 2 * k))) = 1 then g_came G 58 (v_ (L (1 + 2 * k))) else -1) = L (1 + 2 * k + 1))) 0 (l_cnt L) <;> rfl
/-- who got data is counted -/
theorem h_e9.counts {ga fc : Nat} {c0 : Nat → Nat} (Kf : z_M → Option z_M) (hcs : ∃ ll dl', μ.1 fa = some (.inr (20, [.ref ll, .ref dl', .ref ga]))) (hga : o ga = 872) (hfa : o fa = 870) (he0 : o en ≠ 872) (hc16 : ∀ k, c0 k ≤ 100) : ∀ (m f k : Nat) (μ' : z_M), h_fr g (fun b => b = ga) o μ o μ' → h_wf g μ → h_e9 o μ en G → (∃ fg, μ'.1 ga = some (h_ia 40 fg) ∧ (∀ j, j < 40 → j < k → fg j = nI (if g_came G 57 j = 1 then c0 j + 1 else c0 j)) ∧ ∀ j, j < 40 → k ≤ j → fg j = nI (c0 j)) → k + m = 40 → m < f →
    ∃ μ1, D_X20_tries_166 g fa (some en) Kf f (nI k) μ' = Kf μ1 ∧ h_fr g (fun b => b = ga) o μ o μ1 ∧ (∃ fg, μ1.1 ga = some (h_ia 40 fg) ∧ ∀ j, j < 40 → fg j = nI (if g_came G 57 j = 1 then c0 j + 1 else c0 j)) ∧ μ1.2 = μ'.2 := by
  obtain ⟨ll, dl', hc⟩ := hcs
  have hne : fa ≠ ga := fun e => by rw [e, hga] at hfa; exact absurd hfa (by decide)
  intro m
  induction m with
  | zero =>
    intro f k μ' F hw he ⟨fg, g1, g2, g3⟩ hk hf
    obtain ⟨f, rfl⟩ : ∃ f', f = f' + 1 := ⟨f - 1, by omega⟩
    refine ⟨μ', ?_, F, ⟨fg, g1, fun j hj => g2 j hj (by omega)⟩, rfl⟩
    conv => lhs; unfold D_X20_tries_166
    rw [if_pos (show (40 : Int32) ≤ nI k from nI_le (a := 40) (by omega) (by omega))]
  | succ m ih =>
    intro f k μ' F hw he ⟨fg, g1, g2, g3⟩ hk hf
    obtain ⟨f, rfl⟩ : ∃ f', f = f' + 1 := ⟨f - 1, by omega⟩
    have hc' := F.cell hw hc hne
    have he' := he.fr F hw (fun b hb q => by rw [q, hga] at hb; exact absurd hb (by decide)) (fun q => he0 (by rw [q]; exact hga))
    have hgk := g3 k (by omega) (Nat.le_refl _)
    have step : ∀ v : Nat, v = (if g_came G 57 k = 1 then c0 k + 1 else c0 k) → ∃ fg', (z_set μ' ga (h_ia 40 (h_up fg k (nI v)))).1 ga = some (h_ia 40 fg') ∧ (∀ j, j < 40 → j < k + 1 → fg' j = nI (if g_came G 57 j = 1 then c0 j + 1 else c0 j)) ∧ ∀ j, j < 40 → k + 1 ≤ j → fg' j = nI (c0 j) := by
      intro v hv
      refine ⟨_, z_set_self, fun j hj hjk => ?_, fun j hj hjk => ?_⟩
      · by_cases e : j = k
        · rw [e, ← hv]
          exact if_pos rfl
        · exact (if_neg e).trans (g2 j hj (by omega))
      · exact (if_neg (by omega)).trans (g3 j hj (by omega))
    have F' : ∀ y, h_fr g (fun b => b = ga) o μ o (z_set μ' ga (h_ia 40 y)) := fun y => F.trans (h_fr.setA F.wf g1) (fun b _ q => q.elim id id)
    by_cases cg : g_came G 57 k = 1
    · obtain ⟨μ1, e1, F1, G1, u1⟩ := ih f (k + 1) _ (F' (h_up fg k (nI (c0 k + 1)))) hw he (step (c0 k + 1) (by rw [if_pos cg])) (by omega) (by omega)
      refine ⟨μ1, ?_, F1, G1, u1⟩
      conv => lhs; unfold D_X20_tries_166
      rw [if_neg (show ¬ (40 : Int32) ≤ nI k from nI_ge (b := 40) (by omega) (by omega)), x_grR hc' rfl, x_oS, x_arS g1, x_gaT (by omega) (by omega), he'.got (by omega), x_bS, if_pos cg, if_neg (show ¬ (1 : Int32) = 0 by decide), hgk, nI_1, x_arW g1 rfl (by omega) (by omega), x_lS, nI_1]
      exact e1
    · obtain ⟨μ1, e1, F1, G1, u1⟩ := ih f (k + 1) _ (F' (h_up fg k (nI (c0 k)))) hw he (step (c0 k) (by rw [if_neg cg])) (by omega) (by omega)
      refine ⟨μ1, ?_, F1, G1, u1⟩
      conv => lhs; unfold D_X20_tries_166
      rw [if_neg (show ¬ (40 : Int32) ≤ nI k from nI_ge (b := 40) (by omega) (by omega)), x_grR hc' rfl, x_oS, x_arS g1, x_gaT (by omega) (by omega), he'.got (by omega), x_bS, if_neg cg, if_pos rfl, hgk, Int32.add_zero, x_arW g1 rfl (by omega) (by omega), x_lS, nI_1]
      exact e1
end T93
