/-! THE COMPONENT's LAW, 78: kinds of nodes, routes, serves, in plain words -/
set_option maxRecDepth 100000
set_option maxHeartbeats 400000
set_option linter.unusedVariables false
theorem cntB_one {p p' : Nat → Bool} {b : Nat} (hp : p b = false) (hp' : p' b = true) {q : Nat} (hs : ∀ j, j < q → j ≠ b → p' j = p j) : ∀ n, n ≤ q → s_cntB p' n = s_cntB p n + if b < n then 1 else 0 := by
  intro n
  induction n with
  | zero => intro _; rfl
  | succ n ih =>
    intro hq
    rw [s_cntB_succ, s_cntB_succ, ih (by omega)]
    by_cases e : n = b
    · subst e
      rw [hp, hp']
      simp
    · rw [hs n (by omega) e]
      by_cases d : b < n
      · rw [if_pos d, if_pos (show b < n + 1 by omega)]
        omega
      · rw [if_neg d, if_neg (show ¬ b < n + 1 by omega)]
        omega
theorem cntB_eq {p p' : Nat → Bool} {n : Nat} (h : ∀ j, j < n → p' j = p j) : s_cntB p' n = s_cntB p n := by
  induction n with
  | zero => rfl
  | succ n ih => rw [s_cntB_succ, s_cntB_succ, ih (fun j hj => h j (by omega)), h n (by omega)]
section E1
variable {N : s_R}
/-- a node's neighbours are as many as its links -/
theorem s_deg (hN : n_ok N) {n : Nat} (hn : n < 6) : s_cntB (fun b => (s_lk0 N none (6 * n + b)).isSome) (n_nodes N) = s_linksAt N n := by
  have h6 : n_nodes N ≤ 6 := hN.1.1.2
  have H : ∀ m, m ≤ n_links N → s_cntB (fun b => (s_fold (fun l f => if some l = (none : Option Nat) then f else s_up1 (s_up1 f (6 * n_la N l + n_lb N l) (some l)) (6 * n_lb N l + n_la N l) (some l)) 0 m (fun _ => none) (6 * n + b)).isSome) (n_nodes N) = s_cntB (fun l => decide (n_la N l = n) || decide (n_lb N l = n)) m ∧
      ∀ i, (∃ l, s_fold (fun l f => if some l = (none : Option Nat) then f else s_up1 (s_up1 f (6 * n_la N l + n_lb N l) (some l)) (6 * n_lb N l + n_la N l) (some l)) 0 m (fun _ => none) i = some l) → ∃ l, l < m ∧ (i = 6 * n_la N l + n_lb N l ∨ i = 6 * n_lb N l + n_la N l) := by
    intro m
    induction m with
    | zero =>
      intro _
      refine ⟨?_, fun i ⟨l, hl⟩ => by cases hl⟩
      have e : ∀ q, s_cntB (fun b => ((fun _ => none : Nat → Option Nat) (6 * n + b)).isSome) q = 0 := by
        intro q
        induction q with
        | zero => rfl
        | succ q ih => rw [s_cntB_succ, ih]; rfl
      exact e _
    | succ m ih =>
      intro hm
      obtain ⟨i1, i2⟩ := ih (by omega)
      have hbm := s_lw_lt hN ⟨m, by omega, Or.inl ⟨rfl, rfl⟩, rfl⟩
      rw [s_fold_succ, Nat.zero_add, if_neg (by intro q; cases q)]
      generalize hf : s_fold (fun l f => if some l = (none : Option Nat) then f else s_up1 (s_up1 f (6 * n_la N l + n_lb N l) (some l)) (6 * n_lb N l + n_la N l) (some l)) 0 m (fun _ => none) = f at i1 i2
      have hnone : ∀ i, (i = 6 * n_la N m + n_lb N m ∨ i = 6 * n_lb N m + n_la N m) → f i = none := by
        intro i hi
        cases hfi : f i with
        | none => rfl
        | some l0 =>
          exfalso
          obtain ⟨l, l1, l2⟩ := i2 i ⟨l0, hfi⟩
          have hbl := s_lw_lt hN ⟨l, by omega, Or.inl ⟨rfl, rfl⟩, rfl⟩
          have := hN.2.2.2.2.2.2.2.1 l m (by omega) (by omega) (by omega)
          omega
      refine ⟨?_, fun i ⟨l, hl⟩ => ?_⟩
      · rw [s_cntB_succ (fun l => decide (n_la N l = n) || decide (n_lb N l = n)), ← i1]
        have hone : ∀ b, b < n_nodes N → (n = n_la N m ∧ b = n_lb N m ∨ n = n_lb N m ∧ b = n_la N m) → s_cntB (fun b => (s_up1 (s_up1 f (6 * n_la N m + n_lb N m) (some m)) (6 * n_lb N m + n_la N m) (some m) (6 * n + b)).isSome) (n_nodes N) = s_cntB (fun b => (f (6 * n + b)).isSome) (n_nodes N) + 1 := by
          intro b hb hc
          have e := cntB_one (p := fun b => (f (6 * n + b)).isSome) (p' := fun b => (s_up1 (s_up1 f (6 * n_la N m + n_lb N m) (some m)) (6 * n_lb N m + n_la N m) (some m) (6 * n + b)).isSome) (b := b) (q := n_nodes N) (by
            show (f (6 * n + b)).isSome = false
            rw [hnone _ (by omega)]; rfl) (by
            show (s_up1 (s_up1 f (6 * n_la N m + n_lb N m) (some m)) (6 * n_lb N m + n_la N m) (some m) (6 * n + b)).isSome = true
            rcases hc with ⟨c1, c2⟩ | ⟨c1, c2⟩
            · rw [s_up1_n (by omega), c1, c2, s_up1_s]; rfl
            · rw [c1, c2, s_up1_s]; rfl) (fun j hj hjb => by
            show (s_up1 (s_up1 f (6 * n_la N m + n_lb N m) (some m)) (6 * n_lb N m + n_la N m) (some m) (6 * n + j)).isSome = (f (6 * n + j)).isSome
            rw [s_up1_n (by omega), s_up1_n (by omega)]) (n_nodes N) (Nat.le_refl _)
          rw [if_pos hb] at e
          exact e
        by_cases c : n_la N m = n
        · rw [hone (n_lb N m) hbm.2.1 (Or.inl ⟨c.symm, rfl⟩), if_pos (by rw [decide_eq_true c]; rfl)]
        · by_cases d : n_lb N m = n
          · rw [hone (n_la N m) hbm.1 (Or.inr ⟨d.symm, rfl⟩), if_pos (by rw [decide_eq_true d, Bool.or_true])]
          · rw [if_neg (by rw [decide_eq_false c, decide_eq_false d]; decide)]
            refine cntB_eq (fun j hj => ?_)
            show (s_up1 (s_up1 f (6 * n_la N m + n_lb N m) (some m)) (6 * n_lb N m + n_la N m) (some m) (6 * n + j)).isSome = (f (6 * n + j)).isSome
            rw [s_up1_n (by omega), s_up1_n (by omega)]
      · by_cases c : i = 6 * n_lb N m + n_la N m
        · exact ⟨m, by omega, Or.inr c⟩
        · have hl1 : s_up1 (s_up1 f (6 * n_la N m + n_lb N m) (some m)) (6 * n_lb N m + n_la N m) (some m) i = some l := hl
          rw [s_up1_n c] at hl1
          by_cases d : i = 6 * n_la N m + n_lb N m
          · exact ⟨m, by omega, Or.inl d⟩
          · rw [s_up1_n d] at hl1
            obtain ⟨l2, l3, l4⟩ := i2 i ⟨l, hl1⟩
            exact ⟨l2, by omega, l4⟩
  have := (H (n_links N) (Nat.le_refl _)).1
  exact this
/-- steps that leave the rest as it is -/
theorem fold_cut {α : Type} {st : Nat → α → α} {x : α} {m n : Nat} (h : m ≤ n) (hs : ∀ k y, m ≤ k → st k y = y) : s_fold st 0 n x = s_fold st 0 m x := by
  induction n with
  | zero => rw [show m = 0 by omega]
  | succ n ih =>
    by_cases c : m = n + 1
    · rw [c]
    · rw [s_fold_succ, Nat.zero_add, hs n _ (by omega), ih (by omega)]
end E1
