/-! THE COMPONENT's LAW, 80: rows of letters that routes begin with -/
set_option maxRecDepth 100000
set_option maxHeartbeats 400000
set_option linter.unusedVariables false
theorem s_len_div : ∀ (j a : Nat), s_len (a / 27 ^ j) = s_len a - j := by
  intro j
  induction j with
  | zero => intro a; rw [Nat.pow_zero, Nat.div_one]; rfl
  | succ j ih =>
    intro a
    rw [Nat.pow_succ, Nat.mul_comm, ← Nat.div_div_eq_div_mul, ih]
    by_cases c : a = 0
    · subst c; rw [Nat.zero_div, s_len0]; omega
    · rw [s_lenS c]; omega
/-- a beginning of a name -/
theorem s_pfx_mem : ∀ (k a x : Nat), s_len a = k → (x ∈ s_pfx a ↔ x ≠ 0 ∧ ∃ j, x = a / 27 ^ j) := by
  intro k
  induction k with
  | zero =>
    intro a x hk
    have : a = 0 := by
      refine Decidable.byContradiction (fun q => ?_)
      rw [s_lenS q] at hk
      omega
    subst this
    rw [s_pfx0]
    constructor
    · intro h; cases h
    · rintro ⟨h1, j, h2⟩
      rw [Nat.zero_div] at h2
      exact absurd h2 h1
  | succ k ih =>
    intro a x hk
    have ha : a ≠ 0 := by
      intro q; subst q; rw [s_len0] at hk; omega
    rw [s_pfxS ha, List.mem_cons, ih (a / 27) x (by rw [s_lenS ha] at hk; omega)]
    constructor
    · rintro (h | ⟨h1, j, h2⟩)
      · exact ⟨by rw [h]; exact ha, 0, by rw [Nat.pow_zero, Nat.div_one]; exact h⟩
      · exact ⟨h1, j + 1, by rw [Nat.pow_succ, Nat.mul_comm, ← Nat.div_div_eq_div_mul]; exact h2⟩
    · rintro ⟨h1, j, h2⟩
      cases j with
      | zero => left; rw [Nat.pow_zero, Nat.div_one] at h2; exact h2
      | succ j => right; exact ⟨h1, j, by rw [Nat.pow_succ, Nat.mul_comm, ← Nat.div_div_eq_div_mul] at h2; exact h2⟩
theorem s_pfx_pre {a x : Nat} (hx : x ≠ 0) : x ∈ s_pfx a ↔ s_pre x a = true := by
  rw [s_pfx_mem _ a x rfl]
  unfold s_pre
  rw [beq_iff_eq]
  constructor
  · rintro ⟨-, j, h⟩
    have hl := s_len_div j a
    rw [← h] at hl
    have hx1 := s_lenS hx
    rw [show s_len a - s_len x = j by omega]
    exact h.symm
  · intro h
    exact ⟨hx, _, h.symm⟩
theorem s_pfx_nodup : ∀ (k a : Nat), s_len a = k → (s_pfx a).Nodup := by
  intro k
  induction k with
  | zero =>
    intro a hk
    have : a = 0 := by
      refine Decidable.byContradiction (fun q => ?_)
      rw [s_lenS q] at hk
      omega
    subst this
    rw [s_pfx0]
    exact List.nodup_nil
  | succ k ih =>
    intro a hk
    have ha : a ≠ 0 := by
      intro q; subst q; rw [s_len0] at hk; omega
    have hk' : s_len (a / 27) = k := by rw [s_lenS ha] at hk; omega
    rw [s_pfxS ha, List.nodup_cons]
    refine ⟨fun hm => ?_, ih _ hk'⟩
    obtain ⟨-, j, h⟩ := (s_pfx_mem k (a / 27) a hk').mp hm
    have hl := s_len_div j (a / 27)
    rw [← h] at hl
    omega
/-- adding what is new -/
theorem addP_all : ∀ (xs l : List Nat), xs.Nodup → (xs.foldl s_addP l).length = l.length + xs.countP (fun x => decide (¬ x ∈ l)) ∧ ∀ y, y ∈ xs.foldl s_addP l ↔ y ∈ l ∨ y ∈ xs := by
  intro xs
  induction xs with
  | nil => intro l _; exact ⟨by simp, fun y => by simp⟩
  | cons x xs ih =>
    intro l hn
    rw [List.nodup_cons] at hn
    obtain ⟨i1, i2⟩ := ih (s_addP l x) hn.2
    rw [List.foldl_cons]
    have hm : ∀ y, y ∈ s_addP l x ↔ y ∈ l ∨ y = x := by
      intro y
      unfold s_addP
      split
      · rename_i c
        constructor
        · intro q; exact Or.inl q
        · rintro (q | q)
          · exact q
          · rw [q]; exact c
      · rw [List.mem_append, List.mem_singleton]
    constructor
    · rw [i1, List.countP_cons]
      have e1 : xs.countP (fun y => decide (¬ y ∈ s_addP l x)) = xs.countP (fun y => decide (¬ y ∈ l)) := by
        refine List.countP_congr (fun y hy => ?_)
        have hne : y ≠ x := fun q => hn.1 (by rw [← q]; exact hy)
        rw [decide_eq_true_iff, decide_eq_true_iff, hm y]
        constructor
        · intro q z; exact q (Or.inl z)
        · rintro q (z | z)
          · exact q z
          · exact hne z
      rw [e1]
      unfold s_addP
      by_cases c : x ∈ l
      · rw [if_pos c, if_neg (show ¬ decide (¬ x ∈ l) = true from fun q => (show ¬ x ∈ l from of_decide_eq_true q) c)]
        omega
      · rw [if_neg c, if_pos (decide_eq_true c), List.length_append]
        show l.length + 1 + _ = _
        omega
    · intro y
      rw [i2, hm, List.mem_cons]
      constructor
      · rintro ((q | q) | q)
        · exact Or.inl q
        · exact Or.inr (Or.inl q)
        · exact Or.inr (Or.inr q)
      · rintro (q | q | q)
        · exact Or.inl (Or.inl q)
        · exact Or.inl (Or.inr q)
        · exact Or.inr q
/-- counted by how long they are -/
theorem pfx_cnt (p : Nat → Bool) : ∀ (k a : Nat), s_len a = k → (s_pfx a).countP p = s_cntB (fun i => p (a / 27 ^ (k - 1 - i))) k := by
  intro k
  induction k with
  | zero =>
    intro a hk
    have : a = 0 := by
      refine Decidable.byContradiction (fun q => ?_)
      rw [s_lenS q] at hk
      omega
    subst this
    rw [s_pfx0]
    rfl
  | succ k ih =>
    intro a hk
    have ha : a ≠ 0 := by
      intro q; subst q; rw [s_len0] at hk; omega
    have hk' : s_len (a / 27) = k := by rw [s_lenS ha] at hk; omega
    rw [s_pfxS ha, List.countP_cons, ih _ hk', s_cntB_succ]
    have e1 : s_cntB (fun i => p (a / 27 / 27 ^ (k - 1 - i))) k = s_cntB (fun i => p (a / 27 ^ (k + 1 - 1 - i))) k := by
      refine cntB_eq (fun j hj => ?_)
      show p (a / 27 / 27 ^ (k - 1 - j)) = p (a / 27 ^ (k + 1 - 1 - j))
      rw [Nat.div_div_eq_div_mul, ← Nat.pow_succ', show (k - 1 - j).succ = k + 1 - 1 - j by omega]
    rw [e1, show k + 1 - 1 - k = 0 by omega, Nat.pow_zero, Nat.div_one]
/-- whether a row of letters comes first at a route -/
def s_frs (N : s_R) (k i : Nat) : Bool := !(s_find (fun a => decide (n_rn N a = n_rn N k) && s_pre (n_rw N k / 27 ^ (s_len (n_rw N k) - 1 - i)) (n_rw N a)) 0 k).isSome
theorem s_parts_len {N : s_R} {node : Nat} : ∀ m, (∀ k, k < m → 0 < n_rw N k) → (s_fold (fun k l => if n_rn N k = node then (s_pfx (n_rw N k)).foldl s_addP l else l) 0 m []).length = s_fold (fun k v => if n_rn N k = node then v + s_cntB (s_frs N k) (s_len (n_rw N k)) else v) 0 m 0 ∧
    ∀ y, y ∈ s_fold (fun k l => if n_rn N k = node then (s_pfx (n_rw N k)).foldl s_addP l else l) 0 m [] ↔ ∃ k, k < m ∧ n_rn N k = node ∧ y ∈ s_pfx (n_rw N k) := by
  intro m
  induction m with
  | zero =>
    intro _
    refine ⟨rfl, fun y => ⟨fun h => (by cases h), fun ⟨k, h, _⟩ => by omega⟩⟩
  | succ m ih =>
    intro hp
    obtain ⟨i1, i2⟩ := ih (fun k hk => hp k (by omega))
    rw [s_fold_succ, s_fold_succ, Nat.zero_add, ← i1]
    generalize s_fold (fun k l => if n_rn N k = node then (s_pfx (n_rw N k)).foldl s_addP l else l) 0 m [] = l at i1 i2
    by_cases c : n_rn N m = node
    · rw [if_pos c, if_pos c]
      obtain ⟨a1, a2⟩ := addP_all (s_pfx (n_rw N m)) l (s_pfx_nodup _ _ rfl)
      constructor
      · rw [a1, pfx_cnt _ _ _ rfl]
        congr 1
        refine cntB_eq (fun i hi => ?_)
        have hx : n_rw N m / 27 ^ (s_len (n_rw N m) - 1 - i) ≠ 0 := by
          intro q
          have hl := s_len_div (s_len (n_rw N m) - 1 - i) (n_rw N m)
          rw [q, s_len0] at hl
          omega
        show decide (¬ n_rw N m / 27 ^ (s_len (n_rw N m) - 1 - i) ∈ l) = !(s_find _ 0 m).isSome
        cases hf : s_find (fun a => decide (n_rn N a = n_rn N m) && s_pre (n_rw N m / 27 ^ (s_len (n_rw N m) - 1 - i)) (n_rw N a)) 0 m with
        | some j =>
          obtain ⟨-, j2, j3, -⟩ := s_find_some hf
          simp only [Bool.and_eq_true, decide_eq_true_eq] at j3
          show decide _ = false
          refine decide_eq_false (fun q => q ((i2 _).mpr ⟨j, by omega, by rw [j3.1, c], (s_pfx_pre hx).mpr j3.2⟩))
        | none =>
          have h0 := s_find_none hf
          show decide _ = true
          refine decide_eq_true (fun q => ?_)
          obtain ⟨k, k1, k2, k3⟩ := (i2 _).mp q
          have := h0 k (by omega) (by omega)
          rw [(s_pfx_pre hx).mp k3, decide_eq_true (by rw [k2, c])] at this
          cases this
      · intro y
        rw [a2, i2]
        constructor
        · rintro (⟨k, k1, k2, k3⟩ | q)
          · exact ⟨k, by omega, k2, k3⟩
          · exact ⟨m, by omega, c, q⟩
        · rintro ⟨k, k1, k2, k3⟩
          by_cases e : k = m
          · subst e; exact Or.inr k3
          · exact Or.inl ⟨k, by omega, k2, k3⟩
    · rw [if_neg c, if_neg c]
      refine ⟨rfl, fun y => ?_⟩
      rw [i2]
      constructor
      · rintro ⟨k, k1, k2, k3⟩
        exact ⟨k, by omega, k2, k3⟩
      · rintro ⟨k, k1, k2, k3⟩
        by_cases e : k = m
        · subst e; exact absurd k2 c
        · exact ⟨k, by omega, k2, k3⟩
