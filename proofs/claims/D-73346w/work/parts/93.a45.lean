/-! THE COMPONENT's LAW, 45: a link is cut, mended -/
set_option maxRecDepth 100000
set_option linter.unusedVariables false
theorem s_bit_and (x y : Int32) {k : Nat} (h : k < 32) : s_bit (x &&& y) (nI k) = (s_bit x (nI k) && s_bit y (nI k)) := by
  rw [s_bit_v _ h, s_bit_v _ h, s_bit_v _ h, Int32.toBitVec_and, BitVec.getLsbD_and]
theorem s_bit_not1 {t k : Nat} (ht : t < 32) (h : k < 32) : s_bit (((1 : Int32) <<< (nI t &&& 31)) ^^^ (-1 : Int32)) (nI k) = !decide (k = t) := by
  have : ∀ t k : Fin 32, s_bit (((1 : Int32) <<< (nI t.1 &&& 31)) ^^^ (-1 : Int32)) (nI k.1) = !decide (k.1 = t.1) := by decide
  exact this ⟨t, ht⟩ ⟨k, h⟩
theorem s_bit_turn {l k : Nat} {cut : Bool} {G : s_G} (hl : l < 32) (hk : k < 32) : s_bit (g_down (s_turn l cut G)) (nI k) = if k = l then cut else s_bit (g_down G) (nI k) := by
  unfold s_turn
  cases cut
  · show s_bit (g_down G &&& (((1 : Int32) <<< (nI l &&& 31)) ^^^ (-1 : Int32))) _ = _
    rw [s_bit_and _ _ hk, s_bit_not1 hl hk]
    by_cases e : k = l
    · rw [if_pos e, decide_eq_true e]; exact Bool.and_false _
    · rw [if_neg e, decide_eq_false e]; exact Bool.and_true _
  · show s_bit (g_down G ||| ((1 : Int32) <<< (nI l &&& 31))) _ = _
    rw [s_bit_or _ _ hk, s_bit_1 hl hk]
    by_cases e : k = l
    · rw [if_pos e, decide_eq_true e]; exact Bool.or_true _
    · rw [if_neg e, decide_eq_false e]; exact Bool.or_false _
section T93
variable {g : z_G} {C : h_C} {o o1 : Nat → Nat} {μ μ1 : z_M} {E : Nat → List Nat} {B a b l : Nat} {cut : Bool} {G : s_G}
theorem x_flip {x : Bool} {f : Int32} (h : f = if x = true then 1 else 0) : (f ^^^ (1 : Int32)) &&& 1 = if (!x) = true then 1 else 0 := by
  subst h
  cases x <;> rfl
/-- the place of a link is its nodes -/
theorem s_link_at {i : Nat} (hN : n_ok (c_N C)) (hlk : s_lkok (c_N C) (c_lk C)) (ha : a < 6) (hb : b < 6) (hl : c_lk C (6 * a + b) = some l) (hi : i < 36) {l' : Nat} (hl' : c_lk C i = some l') : l' = l ↔ i = 6 * a + b ∨ i = 6 * b + a := by
  obtain ⟨p1, p2⟩ := hlk _ _ (by omega) hl
  obtain ⟨q1, q2⟩ := hlk _ _ hi hl'
  have e1 : (6 * a + b) / 6 = a := by omega
  have e2 : (6 * a + b) % 6 = b := by omega
  rw [e1, e2] at p2
  refine ⟨fun e => ?_, fun e => ?_⟩
  · subst e
    have : i / 6 = a ∧ i % 6 = b ∨ i / 6 = b ∧ i % 6 = a := by omega
    omega
  · refine hN.2.2.2.2.2.2.2.1 l' l q1 p1 ?_
    rcases e with e | e
    · have h1 : i / 6 = a := by omega
      have h2 : i % 6 = b := by omega
      rw [h1, h2] at q2
      omega
    · have h1 : i / 6 = b := by omega
      have h2 : i % 6 = a := by omega
      rw [h1, h2] at q2
      omega
theorem h_go.turns (h : h_go g C o μ E B G) (ha : a < 6) (hb : b < 6) (hab : a ≠ b) (hl : c_lk C (6 * a + b) = some l) (hc : s_bit (g_down G) (nI l) = !cut) :
    ∃ μ1, D_X12_turns g (c_a C) (nI a) (nI b) μ = some μ1 ∧ h_go g C o μ1 E B (s_turn l cut G) ∧ h_fr g (fun a => o a = 1000) o μ o μ1 := by
  have hN := h.hN
  have hlk := h.hlk
  have hat := fun (i : Nat) (hi : i < 36) (l' : Nat) (hl' : c_lk C i = some l') => s_link_at (C := C) hN hlk ha hb hl hi hl'
  have h15 : n_links (c_N C) ≤ 15 := hN.2.2.1.2
  have hl5 : l < 15 := by have := (hlk _ _ (by omega) hl).1; omega
  obtain ⟨⟨⟨h1, hwf⟩, h2, h2t, h2m, h2e⟩, h3, ⟨h4, h5⟩, ⟨h6, h7⟩, ⟨fd, d1, d2, d3⟩, ⟨fe, f1, f2, f3⟩, cw, ce, ws, b1, ⟨b2, b3⟩, ⟨w1, w2⟩, n1⟩ := h
  have hd : o (c_d C) = 3 := by obtain ⟨-, _, _, _, _, _, _, _, _, _, _, _, ⟨q, -⟩, _⟩ := h3; exact q
  have hne : c_a C ≠ c_dn C := fun e => by rw [e, d2] at h5; cases h5
  generalize hv1 : ((fd (6 * a + b)) ^^^ (1 : Int32)) &&& 1 = v1
  generalize hv2 : ((fd (6 * b + a)) ^^^ (1 : Int32)) &&& 1 = v2
  have hf := h_fr.setA (o := o) (x' := (36, .inl (h_up (h_up fd (6 * a + b) v1) (6 * b + a) v2))) hwf d2
  have S1 : ∀ a, o a ≠ 1000 → ¬ a = c_dn C := fun a ha q => ha (by rw [q]; exact d1)
  have S0 : ∀ a, o a = 0 → ¬ a = c_dn C := fun a ha => S1 a (by omega)
  refine ⟨z_set μ (c_dn C) (.inl (2, 36, .inl (h_up (h_up fd (6 * a + b) v1) (6 * b + a) v2))), ?_, ?_, hf.mono (fun a _ q => by rw [q]; exact d1)⟩
  · unfold D_X12_turns
    have d2' : (z_set μ (c_dn C) (.inl (2, 36, .inl (h_up fd (6 * a + b) v1)))).1 (c_dn C) = some (.inl (2, 36, .inl (h_up fd (6 * a + b) v1))) := z_set_self
    have h5' : (z_set μ (c_dn C) (.inl (2, 36, .inl (h_up fd (6 * a + b) v1)))).1 (c_a C) = some (h_gc C G) := (z_set_ne hne).trans h5
    have e2 : h_up fd (6 * a + b) v1 (6 * b + a) = fd (6 * b + a) := if_neg (by omega)
    rw [x_grR h5 rfl, x_oS, nI_6, x_arS d2, x_gaT (by omega) (by omega), x_arS d2, x_gaT (by omega) (by omega), x_lS, hv1]
    show (x_gr (z_set μ (c_dn C) (.inl (2, 36, .inl (h_up fd (6 * a + b) v1)))) (c_a C) 12 3 _) = _
    rw [x_grR h5' rfl, x_oS, nI_6]
    show (x_ar (z_set μ (c_dn C) (.inl (2, 36, .inl (h_up fd (6 * a + b) v1)))) (c_dn C) 2 _) = _
    rw [x_arS d2', x_gaT (by omega) (by omega)]
    show (x_ar (z_set μ (c_dn C) (.inl (2, 36, .inl (h_up fd (6 * a + b) v1)))) (c_dn C) 2 _) = _
    rw [x_arS d2', x_gaT (by omega) (by omega), x_lS, e2, hv2]
    show some (z_set (z_set μ (c_dn C) (.inl (2, 36, .inl (h_up fd (6 * a + b) v1)))) (c_dn C) (.inl (2, 36, .inl (h_up (h_up fd (6 * a + b) v1) (6 * b + a) v2)))) = _
    rw [z_set_set]
  · refine ⟨⟨⟨h1, hf.wf⟩, h2, h2t, h2m, h2e⟩, h3.fr hf hwf S0 (S1 _ (by omega)), ⟨h4, hf.cell hwf h5 hne⟩, ⟨h6.fr hf hwf (fun a ha => S1 a (by omega)), h7⟩, ⟨_, d1, z_set_self, fun i l' hi hl' => ?_⟩,
      ⟨fe, f1, hf.cell hwf f2 (fun q => by rw [q, d2] at f2; cases f2), fun k hk => (f3 k hk).fr hf hwf S0⟩, cw, ce, ws, b1, ⟨b2, b3⟩, ⟨w1.fr hf hwf (fun a ha => S1 a (by omega)), w2.mono (fun x y _ hr => hr.fr hf hwf S0)⟩, fun n q hq => ?_⟩
    · have hl'5 : l' < 15 := by have := (hlk _ _ hi hl').1; omega
      have hb0 := d3 i l' hi hl'
      have ht : s_bit (g_down (s_turn l cut G)) (nI l') = if l' = l then cut else s_bit (g_down G) (nI l') := s_bit_turn (by omega) (by omega)
      rw [ht]
      have hx := hat i hi l' hl'
      by_cases e : i = 6 * b + a
      · have e' : l' = l := hx.mpr (Or.inr e)
        rw [if_pos e']
        show (if i = 6 * b + a then v2 else _) = _
        rw [if_pos e, ← hv2, ← e, x_flip hb0, e', hc, Bool.not_not]
      · show (if i = 6 * b + a then v2 else if i = 6 * a + b then v1 else fd i) = _
        rw [if_neg e]
        by_cases e3 : i = 6 * a + b
        · have e' : l' = l := hx.mpr (Or.inl e3)
          rw [if_pos e', if_pos e3, ← hv1, ← e3, x_flip hb0, e', hc, Bool.not_not]
        · rw [if_neg e3, if_neg (show ¬ l' = l from fun q => by have := hx.mp q; omega)]
          exact hb0
    · refine (n1 n q hq).fr hf hwf S0 (fun a ha => S1 a ?_)
      have := h_tn_ge ha
      omega
end T93
