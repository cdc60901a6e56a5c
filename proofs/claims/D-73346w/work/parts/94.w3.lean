/-! THE COST, 10: what a text tells of, whole -/
set_option maxRecDepth 100000
set_option maxHeartbeats 400000
set_option linter.unusedVariables false
theorem tk_sign {B : Nat → Int32} {r : Nat} (hs : k_sort (s_tok B r) = 4) : B (k_at (s_tok B r)) = 59 := by
  unfold s_tok at hs ⊢
  generalize s_span s_ws B 601 r = p at hs ⊢
  have hs' : k_sort (if s_al (B p) = true then (2, p, s_span s_al B 601 p, (0 : Int32), if s_span s_al B 601 p - p ≤ 8 then s_pack B (s_span s_al B 601 p - p) p 0 else 0) else if s_dg (B p) = true then (if s_span s_dg B 601 p - p ≤ 2 then 3 else 1, p, s_span s_dg B 601 p, s_dv B (s_span s_dg B 601 p - p) p 0 0, 0) else if B p < 0 then (0, p, p, 0, 0) else (if B p = 59 then 4 else 1, p, p + 1, 0, 0) : s_K) = 4 := hs
  show B (k_at (if s_al (B p) = true then (2, p, s_span s_al B 601 p, (0 : Int32), if s_span s_al B 601 p - p ≤ 8 then s_pack B (s_span s_al B 601 p - p) p 0 else 0) else if s_dg (B p) = true then (if s_span s_dg B 601 p - p ≤ 2 then 3 else 1, p, s_span s_dg B 601 p, s_dv B (s_span s_dg B 601 p - p) p 0 0, 0) else if B p < 0 then (0, p, p, 0, 0) else (if B p = 59 then 4 else 1, p, p + 1, 0, 0) : s_K)) = 59
  by_cases c : s_al (B p) = true
  · rw [if_pos c] at hs'
    exact absurd (show (2 : Int32) = 4 from hs') (by decide)
  · rw [if_neg c] at hs' ⊢
    by_cases d : s_dg (B p) = true
    · rw [if_pos d] at hs'
      have e' : (if s_span s_dg B 601 p - p ≤ 2 then (3 : Int32) else 1) = 4 := hs'
      split at e' <;> exact absurd e' (by decide)
    · rw [if_neg d] at hs' ⊢
      by_cases f : B p < 0
      · rw [if_pos f] at hs'
        exact absurd (show (0 : Int32) = 4 from hs') (by decide)
      · rw [if_neg f] at hs' ⊢
        have e' : (if B p = 59 then (4 : Int32) else 1) = 4 := hs'
        by_cases g : B p = 59
        · exact g
        · rw [if_neg g] at e'
          exact absurd e' (by decide)
section W3
variable {B : Nat → Int32} {s len : Nat}
theorem wt_lines (hB : ∀ k, len ≤ k → B k = -1) : ∀ (m : Nat) (y y' : s_Y), y_of s B y → s_lines B s m y = .inr y' → y_wt s (y_row y) ≤ k_at (y_k y) → y_wt s (y_row y) ≤ len → y_wt s (y_row y') ≤ len := by
  intro m
  induction m with
  | zero =>
    intro y y' h h1 w1 w2
    have e : y = y' := Sum.inr.inj h1
    rw [← e]
    exact w2
  | succ m ih =>
    intro y y' h h1 w1 w2
    unfold s_lines at h1
    by_cases c : k_sort (y_k y) = 0
    · rw [if_pos c] at h1
      have e : y = y' := Sum.inr.inj h1
      rw [← e]
      exact w2
    · rw [if_neg c] at h1
      obtain ⟨y1, l1, l2⟩ := sb_inr h1
      obtain ⟨hy1, hmono⟩ := h.good.line (show y_g (y_sg y true) = true from rfl) l1
      have hw := wt_line h.ord.2 hmono l1
      by_cases c4 : k_sort (y_k y1) = 4
      · have l3 : s_lines B s m (s_nextT B y1) = .inr y' := by
          have e : (if k_sort (y_k y1) = 4 then s_lines B s m (s_nextT B y1) else .inl (k_at (y_k y1))) = .inr y' := l2
          rw [if_pos c4] at e
          exact e
        obtain ⟨o1, r, hr⟩ := hy1.ord
        have hsg : B (k_at (y_k y1)) = 59 := by
          rw [hr] at c4 ⊢
          exact tk_sign c4
        have hlt : k_at (y_k y1) < len := by
          refine Nat.lt_of_not_le (fun q => ?_)
          rw [hB _ q] at hsg
          exact absurd hsg (by decide)
        have hnx : k_at (y_k y1) + 1 ≤ k_next (y_k y1) := o1.2 (by rw [c4]; decide)
        have hat : k_next (y_k y1) ≤ k_at (y_k (s_nextT B y1)) := (s_tok_ord (B := B) (k_next (y_k y1))).1
        have erow : y_row (s_nextT B y1) = y_row y1 := rfl
        exact ih (s_nextT B y1) y' hy1.next l3 (by rw [erow]; omega) (by rw [erow]; omega)
      · have e : (if k_sort (y_k y1) = 4 then s_lines B s m (s_nextT B y1) else .inl (k_at (y_k y1))) = .inr y' := l2
        rw [if_neg c4] at e
        cases e
end W3
