/-! THE COST, 8: how long a text is at least -/
set_option maxRecDepth 100000
set_option maxHeartbeats 400000
set_option linter.unusedVariables false
/-- letters packed are a small number -/
theorem s_pack_N {B : Nat → Int32} : ∀ (n p W : Nat), (∀ j, p ≤ j → j < p + n → s_al (B j) = true) → (W + 1) * 256 ^ n ≤ 2 ^ 40 → ∃ W', s_pack B n p (Int64.ofNat W) = Int64.ofNat W' ∧ W' + 1 ≤ (W + 1) * 256 ^ n := by
  intro n
  induction n with
  | zero => intro p W _ _; exact ⟨W, rfl, by omega⟩
  | succ n ih =>
    intro p W hB hW
    have h256 : 1 ≤ 256 ^ n := Nat.pow_pos (by omega)
    have hal := hB p (by omega) (by omega)
    unfold s_al at hal
    obtain ⟨a1, a2⟩ := of_decide_eq_true hal
    have hv : ∃ b, b < 256 ∧ B p = nI b := by
      have h0 : ¬ B p < 0 := fun q => absurd (Int32.lt_of_le_of_lt a1 q) (by decide)
      obtain ⟨j, j1, j2⟩ := nI_of h0
      rw [j2] at a2
      have := (nI_leI (a := j) (b := 122) j1 (by omega)).mp a2
      exact ⟨j, by omega, j2⟩
    obtain ⟨b, b1, b2⟩ := hv
    have e1 : (W + 1) * 256 ^ (n + 1) = (W + 1) * 256 * 256 ^ n := by
      rw [Nat.pow_succ, Nat.mul_comm (256 ^ n) 256, Nat.mul_assoc]
    rw [e1] at hW ⊢
    have hW1 : (W + 1) * 256 ≤ 2 ^ 40 := Nat.le_trans (Nat.le_mul_of_pos_right _ h256) hW
    have h3 : (256 * W + b + 1) * 256 ^ n ≤ (W + 1) * 256 * 256 ^ n := Nat.mul_le_mul_right _ (by omega)
    obtain ⟨W', w1, w2⟩ := ih (p + 1) (256 * W + b) (fun j h1 h2 => hB j (by omega) (by omega)) (by omega)
    refine ⟨W', ?_, by omega⟩
    show s_pack B n (p + 1) ((Int64.ofNat W <<< (((8 : Int32)).toInt64 &&& 63)) ||| (B p).toInt64) = _
    rw [b2, lN_or (by omega) b1]
    exact w1
theorem ofNat_inj64 {a b : Nat} (ha : a < 2 ^ 62) (hb : b < 2 ^ 62) (h : Int64.ofNat a = Int64.ofNat b) : a = b := by
  have h1 := congrArg (fun x : Int64 => x.toBitVec.toNat) h
  have e : ∀ c, c < 2 ^ 62 → (Int64.ofNat c).toBitVec.toNat = c := fun c hc => by
    show (BitVec.ofNat 64 c).toNat = c
    rw [BitVec.toNat_ofNat, Nat.mod_eq_of_lt (by omega)]
  have h2 : (Int64.ofNat a).toBitVec.toNat = (Int64.ofNat b).toBitVec.toNat := h1
  rw [e a ha, e b hb] at h2
  exact h2
/-- a word is as long as its number is large -/
theorem tk_len {B : Nat → Int32} {r m X : Nat} (hs : k_sort (s_tok B r) = 2) (hX : k_word (s_tok B r) = Int64.ofNat X) (h0 : 256 ^ m ≤ X) (hX2 : X < 2 ^ 62) (hm : m ≤ 4) : k_at (s_tok B r) + m + 1 ≤ k_next (s_tok B r) := by
  unfold s_tok at hs hX ⊢
  generalize s_span s_ws B 601 r = p at hs hX ⊢
  by_cases c : s_al (B p) = true
  · have e : (if s_al (B p) = true then (2, p, s_span s_al B 601 p, (0 : Int32), if s_span s_al B 601 p - p ≤ 8 then s_pack B (s_span s_al B 601 p - p) p 0 else 0) else if s_dg (B p) = true then (if s_span s_dg B 601 p - p ≤ 2 then 3 else 1, p, s_span s_dg B 601 p, s_dv B (s_span s_dg B 601 p - p) p 0 0, 0) else if B p < 0 then (0, p, p, 0, 0) else (if B p = 59 then 4 else 1, p, p + 1, 0, 0) : s_K) = (2, p, s_span s_al B 601 p, (0 : Int32), if s_span s_al B 601 p - p ≤ 8 then s_pack B (s_span s_al B 601 p - p) p 0 else 0) := if_pos c
    have hX' : (if s_span s_al B 601 p - p ≤ 8 then s_pack B (s_span s_al B 601 p - p) p 0 else 0) = Int64.ofNat X := (congrArg k_word e).symm.trans hX
    have ge := (s_span_le s_al (B := B) 601 p).1
    refine Nat.le_trans (Nat.le_of_eq ?_) (Nat.le_trans (?_ : p + m + 1 ≤ s_span s_al B 601 p) (Nat.le_of_eq (congrArg k_next e).symm))
    · exact congrArg (fun x => k_at x + m + 1) e
    · refine Nat.lt_of_not_le (fun q => ?_)
      have hall := s_span_all (P := s_al) (B := B) 601 p
      generalize s_span s_al B 601 p = e2 at *
      rw [if_pos (show e2 - p ≤ 8 by omega)] at hX'
      have hpow : 256 ^ (e2 - p) ≤ 256 ^ m := Nat.pow_le_pow_right (by omega) (by omega)
      have hpow4 : 256 ^ m ≤ 256 ^ 4 := Nat.pow_le_pow_right (by omega) hm
      obtain ⟨W', w1, w2⟩ := s_pack_N (B := B) (e2 - p) p 0 (fun j h1 h2 => hall j h1 (by omega)) (by rw [Nat.zero_add, Nat.one_mul]; exact Nat.le_trans hpow (Nat.le_trans hpow4 (by decide)))
      rw [Nat.zero_add, Nat.one_mul] at w2
      have e0 : (0 : Int64) = Int64.ofNat 0 := rfl
      rw [e0, w1] at hX'
      have := ofNat_inj64 (by omega) hX2 hX'
      omega
  · exfalso
    have e : k_sort (if s_al (B p) = true then (2, p, s_span s_al B 601 p, (0 : Int32), if s_span s_al B 601 p - p ≤ 8 then s_pack B (s_span s_al B 601 p - p) p 0 else 0) else if s_dg (B p) = true then (if s_span s_dg B 601 p - p ≤ 2 then 3 else 1, p, s_span s_dg B 601 p, s_dv B (s_span s_dg B 601 p - p) p 0 0, 0) else if B p < 0 then (0, p, p, 0, 0) else (if B p = 59 then 4 else 1, p, p + 1, 0, 0) : s_K) = 2 := hs
    rw [if_neg c] at e
    split at e
    · have e' : (if s_span s_dg B 601 p - p ≤ 2 then (3 : Int32) else 1) = 2 := e
      split at e' <;> exact absurd e' (by decide)
    · split at e
      · exact absurd (show (0 : Int32) = 2 from e) (by decide)
      · have e' : (if B p = 59 then (4 : Int32) else 1) = 2 := e
        split at e' <;> exact absurd e' (by decide)
theorem s_span_stop {P : Int32 → Bool} {B : Nat → Int32} : ∀ m r, s_span P B m r < r + m → P (B (s_span P B m r)) = false := by
  intro m
  induction m with
  | zero => intro r h; exact absurd h (by show ¬ r < r + 0; omega)
  | succ m ih =>
    intro r h
    unfold s_span at h ⊢
    by_cases c : P (B r) = true
    · rw [if_pos c] at h ⊢
      exact ih (r + 1) (by omega)
    · rw [if_neg c]
      cases q : P (B r) with
      | false => rfl
      | true => exact absurd q c
/-- a number: digits, no digit behind it -/
theorem tk_num {B : Nat → Int32} {r : Nat} (hs : k_sort (s_tok B r) = 3) : s_dg (B (k_at (s_tok B r))) = true ∧ s_dg (B (k_next (s_tok B r))) = false := by
  unfold s_tok at hs ⊢
  generalize s_span s_ws B 601 r = p at hs ⊢
  have hs' : k_sort (if s_al (B p) = true then (2, p, s_span s_al B 601 p, (0 : Int32), if s_span s_al B 601 p - p ≤ 8 then s_pack B (s_span s_al B 601 p - p) p 0 else 0) else if s_dg (B p) = true then (if s_span s_dg B 601 p - p ≤ 2 then 3 else 1, p, s_span s_dg B 601 p, s_dv B (s_span s_dg B 601 p - p) p 0 0, 0) else if B p < 0 then (0, p, p, 0, 0) else (if B p = 59 then 4 else 1, p, p + 1, 0, 0) : s_K) = 3 := hs
  show s_dg (B (k_at (if s_al (B p) = true then (2, p, s_span s_al B 601 p, (0 : Int32), if s_span s_al B 601 p - p ≤ 8 then s_pack B (s_span s_al B 601 p - p) p 0 else 0) else if s_dg (B p) = true then (if s_span s_dg B 601 p - p ≤ 2 then 3 else 1, p, s_span s_dg B 601 p, s_dv B (s_span s_dg B 601 p - p) p 0 0, 0) else if B p < 0 then (0, p, p, 0, 0) else (if B p = 59 then 4 else 1, p, p + 1, 0, 0) : s_K))) = true ∧ s_dg (B (k_next (if s_al (B p) = true then (2, p, s_span s_al B 601 p, (0 : Int32), if s_span s_al B 601 p - p ≤ 8 then s_pack B (s_span s_al B 601 p - p) p 0 else 0) else if s_dg (B p) = true then (if s_span s_dg B 601 p - p ≤ 2 then 3 else 1, p, s_span s_dg B 601 p, s_dv B (s_span s_dg B 601 p - p) p 0 0, 0) else if B p < 0 then (0, p, p, 0, 0) else (if B p = 59 then 4 else 1, p, p + 1, 0, 0) : s_K))) = false
  by_cases c : s_al (B p) = true
  · rw [if_pos c] at hs'
    exact absurd (show (2 : Int32) = 3 from hs') (by decide)
  · rw [if_neg c] at hs' ⊢
    by_cases d : s_dg (B p) = true
    · rw [if_pos d] at hs' ⊢
      have e' : (if s_span s_dg B 601 p - p ≤ 2 then (3 : Int32) else 1) = 3 := hs'
      refine ⟨d, ?_⟩
      show s_dg (B (s_span s_dg B 601 p)) = false
      have h2 : s_span s_dg B 601 p - p ≤ 2 := by
        refine Decidable.byContradiction (fun q => ?_)
        rw [if_neg q] at e'
        exact absurd e' (by decide)
      exact s_span_stop 601 p (by omega)
    · rw [if_neg d] at hs'
      exfalso
      split at hs'
      · exact absurd (show (0 : Int32) = 3 from hs') (by decide)
      · have e' : (if B p = 59 then (4 : Int32) else 1) = 3 := hs'
        split at e' <;> exact absurd e' (by decide)
/-- between two numbers something stands -/
theorem tk_gap {B : Nat → Int32} {r : Nat} (h1 : k_sort (s_tok B r) = 3) (h2 : k_sort (s_tok B (k_next (s_tok B r))) = 3) : k_next (s_tok B r) + 1 ≤ k_at (s_tok B (k_next (s_tok B r))) := by
  have a := (tk_num h1).2
  have b := (tk_num h2).1
  have o := (s_tok_ord (B := B) (k_next (s_tok B r))).1
  rcases Nat.lt_or_eq_of_le o with q | q
  · exact q
  · rw [← q, a] at b
    cases b
