/-! THE TWIN's LAW, 52: lines are kept -/
set_option maxRecDepth 100000
set_option maxHeartbeats 400000
def s_isOf (a b r0 r1 : Int32) : Bool := (decide (a = r0) && decide (b = r1)) || (decide (a = r1) && decide (b = r0))
def s_keepL (r0 r1 r2 : Int32) (row : s_R) : s_R := match s_find (fun k => s_isOf (row (11 + 3 * k)) (row (11 + 3 * k + 1)) r0 r1) 0 (v_ (row 2)) with
  | some k => s_up1 row (11 + 3 * k + 2) r2
  | none => s_keepR 2 11 3 15 (fun i => if i = 0 then r0 else if i = 1 then r1 else r2) row
section T82
variable {σ σ' : t_S} {B : Nat → Int32} {len : Nat} {y : s_Y}
theorem s_tok_ord (r : Nat) : r ≤ k_at (s_tok B r) ∧ k_at (s_tok B r) ≤ k_next (s_tok B r) ∧ (k_sort (s_tok B r) ≠ 0 → k_at (s_tok B r) < k_next (s_tok B r)) := by
  have h1 := s_span_le (B := B) s_ws 601 r
  unfold s_tok
  dsimp only
  generalize s_span s_ws B 601 r = p at h1 ⊢
  have h2 := s_span_le (B := B) s_al 601 p
  have h3 := s_span_le (B := B) s_dg 601 p
  by_cases ca : s_al (B p) = true
  · rw [if_pos ca]
    have : s_span s_al B 601 p = s_span s_al B 600 (p + 1) := by
      show (if s_al (B p) = true then _ else _) = _
      rw [if_pos ca]
    have h4 := s_span_le (B := B) s_al 600 (p + 1)
    exact ⟨h1.1, h2.1, fun _ => by show p < s_span s_al B 601 p; omega⟩
  · rw [if_neg ca]
    by_cases cd : s_dg (B p) = true
    · rw [if_pos cd]
      have : s_span s_dg B 601 p = s_span s_dg B 600 (p + 1) := by
        show (if s_dg (B p) = true then _ else _) = _
        rw [if_pos cd]
      have h4 := s_span_le (B := B) s_dg 600 (p + 1)
      exact ⟨h1.1, h3.1, fun _ => by show p < s_span s_dg B 601 p; omega⟩
    · rw [if_neg cd]
      by_cases cn : B p < 0
      · rw [if_pos cn]
        exact ⟨h1.1, Nat.le_refl _, fun q => absurd rfl q⟩
      · rw [if_neg cn]
        exact ⟨h1.1, Nat.le_succ _, fun _ => Nat.lt_succ_self _⟩
/-- a token that stands in its order -/
def y_ord (y : s_Y) : Prop := k_at (y_k y) ≤ k_next (y_k y) ∧ (k_sort (y_k y) ≠ 0 → k_at (y_k y) < k_next (y_k y))
theorem y_ord.next : y_ord (s_nextT B y) ∧ k_next (y_k y) ≤ k_at (y_k (s_nextT B y)) := by
  obtain ⟨h1, h2, h3⟩ := s_tok_ord (B := B) (k_next (y_k y))
  exact ⟨⟨h2, h3⟩, h1⟩
theorem s_bad_k {f : Int32} : y_k (s_bad f y) = y_k y ∧ y_g (s_bad f y) = false ∧ y_far (s_bad f y) = y_far y ∧ y_row (s_bad f y) = y_row y := ⟨rfl, rfl, rfl, rfl⟩
/-- what a number that was taken is, if the line is good -/
theorem s_takeB_ok {lo hi but : Int32} {p : Int32 × s_Y} (h : s_takeB B lo hi but y = .inr p) (ho : y_ord y) : y_ord p.2 ∧ k_at (y_k y) ≤ k_at (y_k p.2) ∧ y_far p.2 = y_far y ∧ y_row p.2 = y_row y ∧ (y_g p.2 = true → y_g y = true ∧ (lo ≤ p.1 ∧ p.1 ≤ hi) ∧ p.1 ≠ but ∧ y_f p.2 = y_f y) ∧ (y_g p.2 = false → y_g y = false ∨ y_f p.2 = s_addF 2 (k_at (y_k y)) (y_f y)) := by
  unfold s_takeB at h
  split at h
  · have h2 : p = _ := (Sum.inr.inj h).symm
    subst h2
    obtain ⟨n1, n2⟩ := y_ord.next (B := B) (y := if (lo ≤ k_val (y_k y) ∧ k_val (y_k y) ≤ hi) ∧ ¬ k_val (y_k y) = but then y else s_bad 2 y)
    refine ⟨n1, ?_, ?_, ?_, ?_, ?_⟩
    · refine Nat.le_trans ?_ n2
      split
      · exact ho.1
      · exact ho.1
    · show y_far (if _ then y else s_bad 2 y) = _
      split <;> rfl
    · show y_row (if _ then y else s_bad 2 y) = _
      split <;> rfl
    · show y_g (if _ then y else s_bad 2 y) = true → y_g y = true ∧ _ ∧ _ ∧ y_f (if _ then y else s_bad 2 y) = y_f y
      split
      · rename_i c
        exact fun q => ⟨q, c.1, c.2, rfl⟩
      · intro q; exact absurd q (by show ¬ false = true; decide)
    · show y_g (if _ then y else s_bad 2 y) = false → y_g y = false ∨ y_f (if _ then y else s_bad 2 y) = _
      split
      · exact fun q => Or.inl q
      · exact fun _ => Or.inr rfl
  · cases h
theorem p_full {cnt at_ : Nat} {most : Int32} (h : t_Y σ B len y) (hc : cnt < 122) (hat : at_ ≤ 600) : ∃ σ', D_full (nI cnt) most (nI at_) σ = some σ' ∧ t_Y σ' B len (s_full cnt most at_ y) ∧ ∀ a j, t_a σ' a j = t_a σ a j := by
  unfold D_full s_full
  rw [x_gaS hc (by omega), h.2.2.2.2.2.2 cnt hc]
  by_cases c : y_row y cnt = most
  · rw [if_pos c, if_pos c]
    obtain ⟨s1, a1, a2, a3⟩ := p_addsFault (f := 3) (pl := at_) h (by decide) hat
    exact ⟨s1, by rw [a1, x_bS], a2, a3⟩
  · rw [if_neg c, if_neg c]
    exact ⟨σ, rfl, h, fun _ _ => rfl⟩
/-- what was told changes alone -/
theorem t_Y.row {row : s_R} (h : t_Y σ B len y) (hi : ∀ k, t_i σ' k = t_i σ k) (hw : t_w σ' = t_w σ) (ha : ∀ a j, a ≠ 18 → t_a σ' a j = t_a σ a j) (hr : ∀ j, j < 122 → t_a σ' 18 j = row j) : t_Y σ' B len (y_srow y row) := by
  obtain ⟨h1, h2, h3, ⟨h4, h4'⟩, h5, h6, h7⟩ := h
  exact ⟨⟨(hi 10).trans h1.1, h1.2.1, fun k hk => (h1.2.2.1 k hk).trans (by rw [ha 1 k (by decide)]), h1.2.2.2⟩, ⟨(hi 12).trans h2.1, (hi 11).trans h2.2.1, (hi 9).trans h2.2.2.1, fun q => (hi 13).trans (h2.2.2.2.1 q), fun q => hw.trans (h2.2.2.2.2 q)⟩, h3, ⟨(hi 16).trans h4, fun q => ⟨(hi 17).trans (h4' q).1, (h4' q).2⟩⟩, (hi 21).trans h5, (hi 20).trans h6, hr⟩
theorem p_keepRow {cnt frm wide most kk : Nat} {rd : Nat → Int32} (h : t_Y σ B len y) (hc : cnt < frm) (hf : frm + wide * most ≤ 122) (hw : wide ≤ 4) (hk : y_row y cnt = nI kk) (hkm : kk ≤ most) (hm : most ≤ 100) (hrd : ∀ i, i < wide → t_a σ 19 i = rd i) : ∃ σ', D_keepRow (nI cnt) (nI frm) (nI wide) (nI most) σ = some σ' ∧ t_Y σ' B len (y_srow y (s_keepR cnt frm wide most rd (y_row y))) ∧ ∀ a j, a ≠ 18 → t_a σ' a j = t_a σ a j := by
  have hc0 : t_a σ 18 cnt = nI kk := (h.2.2.2.2.2.2 cnt (by omega)).trans hk
  have hvk : v_ (y_row y cnt) = kk := by rw [hk]; exact v_nI (by omega)
  have hmul : wide * kk ≤ wide * most := Nat.mul_le_mul_left _ hkm
  unfold D_keepRow
  rw [x_gaS (by omega) (by omega), x_lS, hc0]
  -- the loop
  have loop : ∃ s', D_keepRow_11 (nI cnt) (nI frm) (nI wide) (nI most) (nI kk) (fun (σ17 : t_S) => x_b (D_lesser (nI most) (nI kk + (1 : Int32))) fun r19 => x_ga (nI cnt) 122 fun j20 => x_l (t_sa σ17 18 j20 r19) fun σ21 => some σ21) x_F (0 : Int32) σ = (fun (σ17 : t_S) => x_b (D_lesser (nI most) (nI kk + (1 : Int32))) fun r19 => x_ga (nI cnt) 122 fun j20 => x_l (t_sa σ17 18 j20 r19) fun σ21 => some σ21) s' ∧ (∀ k, t_i s' k = t_i σ k) ∧ t_w s' = t_w σ ∧ (∀ a j, a ≠ 18 → t_a s' a j = t_a σ a j) ∧ ∀ j, t_a s' 18 j = if kk < most ∧ frm + wide * kk ≤ j ∧ j < frm + wide * kk + wide then rd (j - (frm + wide * kk)) else t_a σ 18 j := by
    generalize hKf : (fun (σ17 : t_S) => x_b (D_lesser (nI most) (nI kk + (1 : Int32))) fun r19 => x_ga (nI cnt) 122 fun j20 => x_l (t_sa σ17 18 j20 r19) fun σ21 => some σ21) = Kf
    by_cases cm : kk < most
    · have hmul2 : wide * (kk + 1) ≤ wide * most := Nat.mul_le_mul_left _ cm
      rw [Nat.mul_succ] at hmul2
      have key := x_forS (fun k (s : t_S) (_ : Unit) => (∀ j, t_i s j = t_i σ j) ∧ t_w s = t_w σ ∧ (∀ a j, a ≠ 18 → t_a s a j = t_a σ a j) ∧ ∀ j, t_a s 18 j = if frm + wide * kk ≤ j ∧ j < frm + wide * kk + k then rd (j - (frm + wide * kk)) else t_a σ 18 j) (fun f k s => D_keepRow_11 (nI cnt) (nI frm) (nI wide) (nI most) (nI kk) Kf f (nI k) s) Kf (fun _ g => g) wide ?_ ?_ x_F 0 σ () (by omega) ⟨fun _ => rfl, rfl, fun _ _ _ => rfl, fun j => by rw [if_neg (by omega)]⟩ (by rw [x_Fv]; omega)
      · obtain ⟨s', k1, k2, k3, k4, k5⟩ := key
        refine ⟨s', k1, k2, k3, k4, fun j => ?_⟩
        rw [k5 j]
        by_cases q : frm + wide * kk ≤ j ∧ j < frm + wide * kk + wide
        · rw [if_pos q, if_pos ⟨cm, q⟩]
        · rw [if_neg q, if_neg (fun z => q z.2)]
      · intro f s g _
        show (if nI wide ≤ nI wide then _ else _) = _
        rw [if_pos (Int32.le_refl _)]
      · intro f k s g hq hk
        obtain ⟨q1, q2, q3, q4⟩ := hq
        refine ⟨t_sa s 18 (frm + wide * kk + k) (rd k), ?_, q1, q2, fun a j ha => by rw [t_a_sa, if_neg (fun z => ha z.1)]; exact q3 a j ha, fun j => ?_⟩
        · show (if nI wide ≤ nI k then _ else _) = _
          rw [if_neg (nI_ge hk (by omega)), if_neg (nI_ge cm (by omega)), x_gaS (by omega) (by omega), nI_mul, nI_add, nI_add, x_gaS (by omega) (by omega), q3 19 k (by decide), hrd k hk, x_lS, x_lS, nI_1]
        · rw [t_a_sa]
          by_cases c : j = frm + wide * kk + k
          · subst c
            rw [if_pos ⟨rfl, rfl⟩, if_pos ⟨by omega, by omega⟩, show frm + wide * kk + k - (frm + wide * kk) = k by omega]
          · rw [if_neg (fun z => c z.2), q4 j]
            by_cases q : frm + wide * kk ≤ j ∧ j < frm + wide * kk + k
            · rw [if_pos q, if_pos ⟨q.1, by omega⟩]
            · rw [if_neg q, if_neg (by omega)]
    · refine ⟨σ, ?_, fun _ => rfl, rfl, fun _ _ _ => rfl, fun j => by rw [if_neg (fun z => cm z.1)]⟩
      show D_keepRow_11 _ _ _ _ _ _ (9999 + 1) 0 σ = _
      show (if nI wide ≤ 0 then _ else _) = _
      by_cases cw : nI wide ≤ 0
      · rw [if_pos cw]
      · rw [if_neg cw, if_pos (nI_le (by omega) (by omega))]
  obtain ⟨s', k1, k2, k3, k4, k5⟩ := loop
  rw [k1]
  have hmin : D_lesser (nI most) (nI kk + 1) = some (nI (min most (kk + 1))) := by
    rw [p_lesser, nI_1]
    by_cases c : most < kk + 1
    · rw [if_pos (nI_lt c (by omega)), Nat.min_eq_left (by omega)]
    · rw [if_neg (nI_nlt (by omega) (by omega)), Nat.min_eq_right (by omega)]
  refine ⟨t_sa s' 18 cnt (nI (min most (kk + 1))), ?_, h.row (fun k => k2 k) k3 (fun a j ha => by rw [t_a_sa, if_neg (fun z => ha z.1)]; exact k4 a j ha) (fun j hj => ?_), fun a j ha => by rw [t_a_sa, if_neg (fun z => ha z.1)]; exact k4 a j ha⟩
  · show x_b (D_lesser (nI most) (nI kk + (1 : Int32))) _ = _
    rw [hmin, x_bS, x_gaS (by omega) (by omega), x_lS]
  · rw [t_a_sa]
    unfold s_keepR
    rw [hvk]
    by_cases c : j = cnt
    · rw [if_pos ⟨rfl, c⟩, if_pos c]
    · rw [if_neg (fun z => c z.2), if_neg c, k5 j]
      by_cases q : kk < most ∧ frm + wide * kk ≤ j ∧ j < frm + wide * kk + wide
      · rw [if_pos q, if_pos q]
      · rw [if_neg q, if_neg q]
        exact h.2.2.2.2.2.2 j hj
theorem p_isOf {a b r0 r1 : Int32} (h0 : t_a σ 19 0 = r0) (h1 : t_a σ 19 1 = r1) : D_isOf a b σ = some (if s_isOf a b r0 r1 = true then 1 else 0) := by
  have g0 : ∀ {α : Type} (kk : Nat → Option α), x_ga 0 4 kk = kk 0 := fun kk => x_gaS (j := 0) (by omega) (by omega)
  have g1 : ∀ {α : Type} (kk : Nat → Option α), x_ga 1 4 kk = kk 1 := fun kk => x_gaS (j := 1) (by omega) (by omega)
  unfold D_isOf s_isOf
  rw [g0, g1, x_lS, g0, g1, h0, h1]
  have tail : (if a = r1 then (if b = r0 then some (1 : Int32) else some 0) else some 0) = some (if (decide (a = r1) && decide (b = r0)) = true then 1 else 0) := by
    by_cases c3 : a = r1
    · rw [if_pos c3, decide_eq_true c3, Bool.true_and]
      by_cases c4 : b = r0
      · rw [if_pos c4, decide_eq_true c4]; rfl
      · rw [if_neg c4, decide_eq_false c4]; rfl
    · rw [if_neg c3, decide_eq_false c3, Bool.false_and]; rfl
  by_cases c1 : a = r0
  · rw [if_pos c1]
    by_cases c2 : b = r1
    · rw [if_pos c2, decide_eq_true c1, decide_eq_true c2]; rfl
    · rw [if_neg c2, decide_eq_false c2, Bool.and_false, Bool.false_or]
      exact tail
  · rw [if_neg c1, decide_eq_false c1, Bool.false_and, Bool.false_or]
    exact tail
theorem p_keepLink {kk : Nat} {r0 r1 r2 : Int32} (h : t_Y σ B len y) (hk : y_row y 2 = nI kk) (hkm : kk ≤ 15) (h0 : t_a σ 19 0 = r0) (h1 : t_a σ 19 1 = r1) (h2 : t_a σ 19 2 = r2) : ∃ σ', D_keepLink σ = some σ' ∧ t_Y σ' B len (y_srow y (s_keepL r0 r1 r2 (y_row y))) ∧ ∀ a j, a ≠ 18 → t_a σ' a j = t_a σ a j := by
  have hr := h.2.2.2.2.2.2
  have hc0 : t_a σ 18 2 = nI kk := (hr 2 (by omega)).trans hk
  have hvk : v_ (y_row y 2) = kk := by rw [hk]; exact v_nI (by omega)
  have g2 : ∀ {α : Type} (kk : Nat → Option α), x_ga 2 122 kk = kk 2 := fun kk => x_gaS (j := 2) (by omega) (by omega)
  have g24 : ∀ {α : Type} (kk : Nat → Option α), x_ga 2 4 kk = kk 2 := fun kk => x_gaS (j := 2) (by omega) (by omega)
  unfold D_keepLink s_keepL
  rw [hvk]
  have hfind := x_find (fun f k => D_keepLink_2 σ (fun (v1_12 : Int32) => x_ga (2 : Int32) 122 fun j13 => if (t_a σ 18 j13) ≤ v1_12 then (x_b (D_keepRow (2 : Int32) (11 : Int32) (3 : Int32) (15 : Int32) σ) fun σ16 => some σ16) else x_ga (2 : Int32) 4 fun j17 => x_ga (((11 : Int32) + ((3 : Int32) * v1_12)) + (2 : Int32)) 122 fun j18 => x_l (t_sa σ 18 j18 (t_a σ 19 j17)) fun σ19 => some σ19) f (nI k)) ((fun (v1_12 : Int32) => x_ga (2 : Int32) 122 fun j13 => if (t_a σ 18 j13) ≤ v1_12 then (x_b (D_keepRow (2 : Int32) (11 : Int32) (3 : Int32) (15 : Int32) σ) fun σ16 => some σ16) else x_ga (2 : Int32) 4 fun j17 => x_ga (((11 : Int32) + ((3 : Int32) * v1_12)) + (2 : Int32)) 122 fun j18 => x_l (t_sa σ 18 j18 (t_a σ 19 j17)) fun σ19 => some σ19) (nI kk)) (fun k => (fun (v1_12 : Int32) => x_ga (2 : Int32) 122 fun j13 => if (t_a σ 18 j13) ≤ v1_12 then (x_b (D_keepRow (2 : Int32) (11 : Int32) (3 : Int32) (15 : Int32) σ) fun σ16 => some σ16) else x_ga (2 : Int32) 4 fun j17 => x_ga (((11 : Int32) + ((3 : Int32) * v1_12)) + (2 : Int32)) 122 fun j18 => x_l (t_sa σ 18 j18 (t_a σ 19 j17)) fun σ19 => some σ19) (nI k)) (fun k => s_isOf (y_row y (11 + 3 * k)) (y_row y (11 + 3 * k + 1)) r0 r1) kk ?_ ?_ x_F 0 (by omega) (by rw [x_Fv]; omega)
  · rw [Nat.sub_zero] at hfind
    have hfind' : D_keepLink_2 σ (fun (v1_12 : Int32) => x_ga (2 : Int32) 122 fun j13 => if (t_a σ 18 j13) ≤ v1_12 then (x_b (D_keepRow (2 : Int32) (11 : Int32) (3 : Int32) (15 : Int32) σ) fun σ16 => some σ16) else x_ga (2 : Int32) 4 fun j17 => x_ga (((11 : Int32) + ((3 : Int32) * v1_12)) + (2 : Int32)) 122 fun j18 => x_l (t_sa σ 18 j18 (t_a σ 19 j17)) fun σ19 => some σ19) x_F (0 : Int32) = _ := hfind
    rw [hfind']
    cases hs : s_find (fun k => s_isOf (y_row y (11 + 3 * k)) (y_row y (11 + 3 * k + 1)) r0 r1) 0 kk with
    | none =>
      obtain ⟨s', a1, a2, a3⟩ := p_keepRow (cnt := 2) (frm := 11) (wide := 3) (most := 15) (kk := kk) (rd := fun i => if i = 0 then r0 else if i = 1 then r1 else r2) h (by omega) (by omega) (by omega) hk hkm (by omega) (fun i hi => by
        rcases (show i = 0 ∨ i = 1 ∨ i = 2 by omega) with rfl | rfl | rfl
        · exact h0
        · exact h1
        · exact h2)
      have a1' : D_keepRow (2 : Int32) (11 : Int32) (3 : Int32) (15 : Int32) σ = some s' := a1
      refine ⟨s', ?_, a2, a3⟩
      show x_ga (2 : Int32) 122 _ = _
      rw [g2, hc0, if_pos (Int32.le_refl _), a1', x_bS]
    | some k =>
      have hlt : k < kk := by have := (s_find_some hs).2.1; omega
      have hv : (11 : Int32) + 3 * nI k + 2 = nI (11 + 3 * k + 2) := by
        rw [show (3 : Int32) = nI 3 from rfl, nI_mul, show (11 : Int32) = nI 11 from rfl, nI_add, show (2 : Int32) = nI 2 from rfl, nI_add]
      refine ⟨t_sa σ 18 (11 + 3 * k + 2) r2, ?_, h.row (fun _ => rfl) rfl (fun a j ha => by rw [t_a_sa, if_neg (fun z => ha z.1)]) (fun j hj => ?_), fun a j ha => by rw [t_a_sa, if_neg (fun z => ha z.1)]⟩
      · show x_ga (2 : Int32) 122 _ = _
        rw [g2, hc0, if_neg (nI_ge hlt (by omega)), g24, hv, x_gaS (by omega) (by omega), x_lS, h2]
      · rw [t_a_sa]
        show _ = s_up1 (y_row y) (11 + 3 * k + 2) r2 j
        unfold s_up1
        by_cases c : j = 11 + 3 * k + 2
        · rw [if_pos ⟨rfl, c⟩, if_pos c]
        · rw [if_neg (fun z => c z.2), if_neg c]
          exact hr j hj
  · intro f
    show x_ga (2 : Int32) 122 _ = _
    rw [g2, hc0, if_pos (Int32.le_refl _)]
  · intro f k hk'
    show x_ga (2 : Int32) 122 _ = _
    rw [g2, hc0, if_neg (nI_ge hk' (by omega)), show (11 : Int32) + 3 * nI k = nI (11 + 3 * k) by rw [show (3 : Int32) = nI 3 from rfl, nI_mul, show (11 : Int32) = nI 11 from rfl, nI_add], nI_1, x_gaS (by omega) (by omega), x_gaS (by omega) (by omega), p_isOf h0 h1, x_bS, hr _ (by omega), hr _ (by omega)]
    by_cases c : s_isOf (y_row y (11 + 3 * k)) (y_row y (11 + 3 * k + 1)) r0 r1 = true
    · rw [if_pos c, if_neg (show ¬ (1 : Int32) = 0 by decide), if_pos c]
    · rw [if_neg c, if_pos (show (0 : Int32) = 0 from rfl), x_lS, nI_1, if_neg c]
end T82
