/-! THE COMPONENT's LAW, 76: how far nodes are: what the twin's table says -/
set_option maxRecDepth 100000
set_option maxHeartbeats 400000
set_option linter.unusedVariables false
/-- a link joins x and y, in w minutes -/
def s_lw (N : s_R) (x y w : Nat) : Prop := ∃ l, l < n_links N ∧ (n_la N l = x ∧ n_lb N l = y ∨ n_la N l = y ∧ n_lb N l = x) ∧ n_ld N l = w
/-- what holds of a table of distances, with stops at nodes below k -/
def s_tb (N : s_R) (k : Nat) (L : Nat → Nat) : Prop :=
  (∀ i, i < 6 → L (6 * i + i) = 0) ∧ (∀ x y w, s_lw N x y w → L (6 * x + y) ≤ w) ∧ (∀ i j z, i < 6 → j < 6 → z < k → L (6 * i + j) ≤ L (6 * i + z) + L (6 * z + j)) ∧
  (∀ i j, i < 6 → j < 6 → i ≠ j → L (6 * i + j) < 1000000 → ∃ x w, x < 6 ∧ s_lw N x j w ∧ L (6 * i + x) + w ≤ L (6 * i + j)) ∧ ∀ i j, i < 6 → j < 6 → L (6 * i + j) ≤ 1000000
theorem cnt_disj {p q r : Nat → Bool} (h1 : ∀ x, p x = true → r x = true) (h2 : ∀ x, q x = true → r x = true) (h3 : ∀ x, p x = true → q x = false) : ∀ l : List Nat, l.countP p + l.countP q ≤ l.countP r := by
  intro l
  induction l with
  | nil => simp
  | cons b l ih =>
    simp only [List.countP_cons]
    have a1 := h1 b
    have a2 := h2 b
    have a3 := h3 b
    cases hp : p b <;> cases hq : q b <;> cases hr : r b <;> simp_all <;> omega
section F1
variable {N : s_R}
theorem s_lw_lt {x y w : Nat} (hN : n_ok N) (h : s_lw N x y w) : x < n_nodes N ∧ y < n_nodes N ∧ x ≠ y ∧ 1 ≤ w ∧ w ≤ 9 := by
  obtain ⟨l, h1, h2, h3⟩ := h
  obtain ⟨q1, q2, q3, q4, q5⟩ := hN.2.2.2.2.2.2.1 l h1
  have r1 : n_la N l ≤ n_nodes N - 1 := q1.2
  have r2 : n_lb N l ≤ n_nodes N - 1 := q2.2
  have r3 : n_ld N l ≤ 9 := q3.2
  have hn1 : 1 ≤ n_nodes N := hN.1.2
  rcases h2 with ⟨a, b⟩ | ⟨a, b⟩ <;> omega
/-- the links alone -/
theorem s_far1_tb (hN : n_ok N) : s_tb N 0 (s_far1 N) := by
  have h6 : n_nodes N ≤ 6 := hN.1.1.2
  have key : ∀ m, m ≤ n_links N → (∀ i, i < 6 → s_fold (fun l L => s_up1 (s_up1 L (6 * n_la N l + n_lb N l) (n_ld N l)) (6 * n_lb N l + n_la N l) (n_ld N l)) 0 m s_far0 (6 * i + i) = 0) ∧
      (∀ l, l < m → s_fold (fun l L => s_up1 (s_up1 L (6 * n_la N l + n_lb N l) (n_ld N l)) (6 * n_lb N l + n_la N l) (n_ld N l)) 0 m s_far0 (6 * n_la N l + n_lb N l) = n_ld N l ∧ s_fold (fun l L => s_up1 (s_up1 L (6 * n_la N l + n_lb N l) (n_ld N l)) (6 * n_lb N l + n_la N l) (n_ld N l)) 0 m s_far0 (6 * n_lb N l + n_la N l) = n_ld N l) ∧
      ∀ i j, i < 6 → j < 6 → i ≠ j → s_fold (fun l L => s_up1 (s_up1 L (6 * n_la N l + n_lb N l) (n_ld N l)) (6 * n_lb N l + n_la N l) (n_ld N l)) 0 m s_far0 (6 * i + j) = 1000000 ∨ ∃ l, l < m ∧ (n_la N l = i ∧ n_lb N l = j ∨ n_la N l = j ∧ n_lb N l = i) ∧ s_fold (fun l L => s_up1 (s_up1 L (6 * n_la N l + n_lb N l) (n_ld N l)) (6 * n_lb N l + n_la N l) (n_ld N l)) 0 m s_far0 (6 * i + j) = n_ld N l := by
    intro m
    induction m with
    | zero =>
      intro _
      refine ⟨fun i hi => ?_, fun l hl => by omega, fun i j hi hj hij => Or.inl ?_⟩
      · show (if (6 * i + i) / 6 = (6 * i + i) % 6 then 0 else 1000000) = 0
        rw [if_pos (by omega)]
      · show (if (6 * i + j) / 6 = (6 * i + j) % 6 then 0 else 1000000) = 1000000
        rw [if_neg (by omega)]
    | succ m ih =>
      intro hm
      obtain ⟨i1, i2, i3⟩ := ih (by omega)
      have hbm := s_lw_lt hN ⟨m, by omega, Or.inl ⟨rfl, rfl⟩, rfl⟩
      rw [s_fold_succ, Nat.zero_add]
      generalize s_fold (fun l L => s_up1 (s_up1 L (6 * n_la N l + n_lb N l) (n_ld N l)) (6 * n_lb N l + n_la N l) (n_ld N l)) 0 m s_far0 = L at i1 i2 i3
      show (∀ i, i < 6 → s_up1 (s_up1 L (6 * n_la N m + n_lb N m) (n_ld N m)) (6 * n_lb N m + n_la N m) (n_ld N m) (6 * i + i) = 0) ∧ _
      have same : ∀ i j, i < 6 → j < 6 → ¬ (n_la N m = i ∧ n_lb N m = j ∨ n_la N m = j ∧ n_lb N m = i) → s_up1 (s_up1 L (6 * n_la N m + n_lb N m) (n_ld N m)) (6 * n_lb N m + n_la N m) (n_ld N m) (6 * i + j) = L (6 * i + j) := fun i j hi hj q => by
        rw [s_up1_n (by omega), s_up1_n (by omega)]
      have hit : ∀ i j, i < 6 → j < 6 → (n_la N m = i ∧ n_lb N m = j ∨ n_la N m = j ∧ n_lb N m = i) → s_up1 (s_up1 L (6 * n_la N m + n_lb N m) (n_ld N m)) (6 * n_lb N m + n_la N m) (n_ld N m) (6 * i + j) = n_ld N m := fun i j hi hj q => by
        rcases q with ⟨a, b⟩ | ⟨a, b⟩
        · rw [← a, ← b, s_up1_n (by omega), s_up1_s]
        · rw [← a, ← b, s_up1_s]
      refine ⟨fun i hi => ?_, fun l hl => ?_, fun i j hi hj hij => ?_⟩
      · rw [same i i hi hi (by omega)]; exact i1 i hi
      · by_cases e : l = m
        · subst e
          exact ⟨hit _ _ (by omega) (by omega) (Or.inl ⟨rfl, rfl⟩), hit _ _ (by omega) (by omega) (Or.inr ⟨rfl, rfl⟩)⟩
        · have hbl := s_lw_lt hN ⟨l, by omega, Or.inl ⟨rfl, rfl⟩, rfl⟩
          have hne : ¬ (n_la N m = n_la N l ∧ n_lb N m = n_lb N l ∨ n_la N m = n_lb N l ∧ n_lb N m = n_la N l) := fun q => e (hN.2.2.2.2.2.2.2.1 l m (by omega) (by omega) (by omega))
          rw [same _ _ (by omega) (by omega) hne, same _ _ (by omega) (by omega) (by omega)]
          exact i2 l (by omega)
      · by_cases q : n_la N m = i ∧ n_lb N m = j ∨ n_la N m = j ∧ n_lb N m = i
        · exact Or.inr ⟨m, by omega, q, hit i j hi hj q⟩
        · rw [same i j hi hj q]
          rcases i3 i j hi hj hij with r | ⟨l, l1, l2, l3⟩
          · exact Or.inl r
          · exact Or.inr ⟨l, by omega, l2, l3⟩
  obtain ⟨k1, k2, k3⟩ := key (n_links N) (Nat.le_refl _)
  refine ⟨k1, fun x y w ⟨l, l1, l2, l3⟩ => ?_, fun i j z _ _ hz => by omega, fun i j hi hj hij hlt => ?_, fun i j hi hj => ?_⟩
  · have := k2 l l1
    rcases l2 with ⟨a, b⟩ | ⟨a, b⟩
    · rw [← a, ← b, ← l3]; exact Nat.le_of_eq this.1
    · rw [← a, ← b, ← l3]; exact Nat.le_of_eq this.2
  · rcases k3 i j hi hj hij with r | ⟨l, l1, l2, l3⟩
    · have r' : s_far1 N (6 * i + j) = 1000000 := r
      omega
    · have e0 : s_far1 N (6 * i + i) = 0 := k1 i hi
      have e1 : s_far1 N (6 * i + j) = n_ld N l := l3
      exact ⟨i, n_ld N l, hi, ⟨l, l1, l2, rfl⟩, by omega⟩
  · by_cases e : i = j
    · subst e
      have e0 : s_far1 N (6 * i + i) = 0 := k1 i hi
      omega
    · rcases k3 i j hi hj e with r | ⟨l, l1, l2, l3⟩
      · exact Nat.le_of_eq r
      · have e1 : s_far1 N (6 * i + j) = n_ld N l := l3
        have := (s_lw_lt hN ⟨l, l1, l2, rfl⟩).2.2.2.2
        omega
/-- one more stop: each place by itself -/
theorem s_farRow_at {over : Nat} {L : Nat → Nat} (ho : over < 6) (h0 : L (6 * over + over) = 0) : ∀ i j, i < 6 → j < 6 → s_farRow over L (6 * i + j) = min (L (6 * i + j)) (L (6 * i + over) + L (6 * over + j)) := by
  have key : ∀ m, m ≤ 36 → ∀ i j, i < 6 → j < 6 → s_fold (fun i L => s_up1 L i (min (L i) (L (6 * (i / 6) + over) + L (6 * over + i % 6)))) 0 m L (6 * i + j) = if 6 * i + j < m then min (L (6 * i + j)) (L (6 * i + over) + L (6 * over + j)) else L (6 * i + j) := by
    intro m
    induction m with
    | zero => intro _ i j hi hj; rw [if_neg (by omega)]; rfl
    | succ m ih =>
      intro hm i j hi hj
      have ihm := ih (by omega)
      rw [s_fold_succ, Nat.zero_add]
      generalize hL' : s_fold (fun i L => s_up1 L i (min (L i) (L (6 * (i / 6) + over) + L (6 * over + i % 6)))) 0 m L = L' at ihm
      show s_up1 L' m (min (L' m) (L' (6 * (m / 6) + over) + L' (6 * over + m % 6))) (6 * i + j) = _
      have col : ∀ i, i < 6 → L' (6 * i + over) = L (6 * i + over) := fun i hi => by
        rw [ihm i over hi ho]
        split
        · omega
        · rfl
      have row : ∀ j, j < 6 → L' (6 * over + j) = L (6 * over + j) := fun j hj => by
        rw [ihm over j ho hj]
        split
        · omega
        · rfl
      by_cases e : 6 * i + j = m
      · have e1 : m / 6 = i := by omega
        have e2 : m % 6 = j := by omega
        rw [← e, s_up1_s, show (6 * i + j) / 6 = i by omega, show (6 * i + j) % 6 = j by omega, col i hi, row j hj, ihm i j hi hj, if_neg (by omega), if_pos (by omega)]
      · rw [s_up1_n e, ihm i j hi hj]
        by_cases c : 6 * i + j < m
        · rw [if_pos c, if_pos (by omega)]
        · rw [if_neg c, if_neg (by omega)]
  intro i j hi hj
  have := key 36 (Nat.le_refl _) i j hi hj
  rw [if_pos (by omega)] at this
  exact this
theorem s_tb.step {k : Nat} {L : Nat → Nat} (hN : n_ok N) (h : s_tb N k L) (hk : k < 6) : s_tb N (k + 1) (s_farRow k L) := by
  obtain ⟨h1, h2, h3, h4, h5⟩ := h
  have h6 : n_nodes N ≤ 6 := hN.1.1.2
  have hat := s_farRow_at (L := L) hk (h1 k hk)
  refine ⟨fun i hi => ?_, fun x y w hl => ?_, fun i j z hi hj hz => ?_, fun i j hi hj hij hlt => ?_, fun i j hi hj => ?_⟩
  · rw [hat i i hi hi, h1 i hi]; omega
  · obtain ⟨a, b, -⟩ := s_lw_lt hN hl
    rw [hat x y (by omega) (by omega)]
    have := h2 x y w hl
    omega
  · have hz6 : z < 6 := by omega
    rw [hat i j hi hj, hat i z hi hz6, hat z j hz6 hj]
    by_cases e : z = k
    · subst e
      rw [h1 z hk]
      omega
    · have a1 := h3 i j z hi hj (by omega)
      have a2 := h3 k j z hk hj (by omega)
      have a3 := h3 i k z hi hk (by omega)
      omega
  · rw [hat i j hi hj] at hlt ⊢
    by_cases c : L (6 * i + j) ≤ L (6 * i + k) + L (6 * k + j)
    · rw [Nat.min_eq_left c] at hlt ⊢
      obtain ⟨x, w, x1, x2, x3⟩ := h4 i j hi hj hij hlt
      refine ⟨x, w, x1, x2, ?_⟩
      rw [hat i x hi x1]
      omega
    · rw [Nat.min_eq_right (by omega)] at hlt ⊢
      have hkj : k ≠ j := by
        intro e
        subst e
        rw [h1 k hk] at c
        omega
      obtain ⟨x, w, x1, x2, x3⟩ := h4 k j hk hj hkj (by omega)
      refine ⟨x, w, x1, x2, ?_⟩
      rw [hat i x hi x1]
      omega
  · rw [hat i j hi hj]
    have := h5 i j hi hj
    omega
theorem s_far_tb (hN : n_ok N) : s_tb N 6 (s_far N) := by
  have H := s_foldP (fun k (L : Nat → Nat) => s_tb N k L) (fun over L => s_farRow over L) 6 (fun L k hL hk => hL.step hN hk) 6 0 (s_far1 N) (s_far1_tb hN) (by omega)
  exact H
/-- what the rounds over the links come to: bounds from below, few or none -/
def s_lst (N : s_R) (a t : Nat) (M : Nat → Nat) : Prop := ∀ y, y < 6 → s_far N (6 * a + y) ≤ M y ∧ (M y = 268435456 ∨ M y ≤ 9 * t)
/-- nearer nodes than y -/
def s_rk (N : s_R) (a y : Nat) : Nat := (List.range 6).countP (fun x => decide (x < n_nodes N ∧ s_far N (6 * a + x) < s_far N (6 * a + y)))
theorem s_rk_one {y : Nat} (hy : y < 6) : 1 ≤ (List.range 6).countP (fun x => decide (x = y)) := by
  rw [Nat.succ_le_iff, List.countP_pos_iff]
  exact ⟨y, List.mem_range.mpr hy, decide_eq_true rfl⟩
theorem s_rk_lt {a y : Nat} (hy : y < n_nodes N) (h6 : n_nodes N ≤ 6) : s_rk N a y < n_nodes N := by
  have e1 := cnt_disj (p := fun x => decide (x < n_nodes N ∧ s_far N (6 * a + x) < s_far N (6 * a + y))) (q := fun x => decide (x = y)) (r := fun x => decide (x < n_nodes N))
    (fun x h => decide_eq_true (of_decide_eq_true h).1) (fun x h => decide_eq_true (by rw [of_decide_eq_true h]; exact hy)) (fun x h => decide_eq_false (fun e => by
      have := (of_decide_eq_true h).2
      rw [e] at this
      omega)) (List.range 6)
  have e2 := s_rk_one (y := y) (by omega)
  have h2 : (List.range 6).countP (fun x => decide (x < n_nodes N)) ≤ n_nodes N := by
    have : ∀ q, q < 7 → (List.range 6).countP (fun x => decide (x < q)) = q := by decide
    rw [this _ (by omega)]
    exact Nat.le_refl _
  unfold s_rk
  omega
theorem s_rk_mono {a x y : Nat} (h : s_far N (6 * a + x) < s_far N (6 * a + y)) (hx : x < n_nodes N) (h6 : n_nodes N ≤ 6) : s_rk N a x < s_rk N a y := by
  have e1 := cnt_disj (p := fun z => decide (z < n_nodes N ∧ s_far N (6 * a + z) < s_far N (6 * a + x))) (q := fun z => decide (z = x)) (r := fun z => decide (z < n_nodes N ∧ s_far N (6 * a + z) < s_far N (6 * a + y)))
    (fun z q => decide_eq_true ⟨(of_decide_eq_true q).1, Nat.lt_trans (of_decide_eq_true q).2 h⟩) (fun z q => decide_eq_true (by rw [of_decide_eq_true q]; exact ⟨hx, h⟩)) (fun z q => decide_eq_false (fun e => by
      have := (of_decide_eq_true q).2
      rw [e] at this
      omega)) (List.range 6)
  have e2 := s_rk_one (y := x) (by omega)
  unfold s_rk
  omega
/-- what is known after r rounds -/
def s_rnd (N : s_R) (a r : Nat) (M : Nat → Nat) : Prop := ∀ y, y < n_nodes N → s_far N (6 * a + y) < 1000000 → s_rk N a y ≤ r → M y ≤ s_far N (6 * a + y)
/-- one link is looked at -/
def s_near (x y w : Nat) (M : Nat → Nat) : Nat → Nat := s_up1 (s_up1 M y (min (M y) (M x + w))) x (min (M x) (min (M y) (M x + w) + w))
theorem s_lst.near {a t x y w : Nat} {M : Nat → Nat} (h : s_lst N a t M) (hN : n_ok N) (ha : a < 6) (hl : s_lw N x y w) : s_lst N a (t + 2) (s_near x y w M) := by
  obtain ⟨b1, b2, b3, b4⟩ := s_far_tb hN
  obtain ⟨h1, h2, h3, h4, h5⟩ := s_lw_lt hN hl
  have h6 : n_nodes N ≤ 6 := hN.1.1.2
  have hl' : s_lw N y x w := by
    obtain ⟨l, l1, l2, l3⟩ := hl
    exact ⟨l, l1, l2.symm.imp (fun q => q) (fun q => q) |> fun q => by omega, l3⟩
  have t1 := b3 a y x ha (by omega) (by omega)
  have t2 := b3 a x y ha (by omega) (by omega)
  have w1 := b2 x y w hl
  have w2 := b2 y x w hl'
  obtain ⟨p1, p2⟩ := h x (by omega)
  obtain ⟨q1, q2⟩ := h y (by omega)
  intro z hz
  unfold s_near
  by_cases ex : z = x
  · subst ex
    rw [s_up1_s]
    refine ⟨by omega, ?_⟩
    omega
  · rw [s_up1_n ex]
    by_cases ey : z = y
    · subst ey
      rw [s_up1_s]
      refine ⟨by omega, ?_⟩
      omega
    · rw [s_up1_n ey]
      obtain ⟨r1, r2⟩ := h z hz
      exact ⟨r1, by omega⟩
theorem s_near_le {x y w z : Nat} {M : Nat → Nat} (hxy : x ≠ y) : s_near x y w M z ≤ M z := by
  unfold s_near
  by_cases ex : z = x
  · subst ex; rw [s_up1_s]; omega
  · rw [s_up1_n ex]
    by_cases ey : z = y
    · subst ey; rw [s_up1_s]; omega
    · rw [s_up1_n ey]; exact Nat.le_refl _
theorem s_near_to {x y w : Nat} {M : Nat → Nat} (hxy : x ≠ y) : s_near x y w M y ≤ M x + w ∧ s_near x y w M x ≤ M y + w := by
  unfold s_near
  rw [s_up1_n (Ne.symm hxy), s_up1_s, s_up1_s]
  omega
/-- all links are looked at once -/
def s_round (N : s_R) (M : Nat → Nat) : Nat → Nat := s_fold (fun l M => s_near (n_la N l) (n_lb N l) (n_ld N l) M) 0 (n_links N) M
theorem s_round_le (hN : n_ok N) {M : Nat → Nat} {z : Nat} : s_round N M z ≤ M z := by
  have H := s_foldP (fun _ (M' : Nat → Nat) => M' z ≤ M z) (fun l M => s_near (n_la N l) (n_lb N l) (n_ld N l) M) (n_links N) (fun M' l hM hl => Nat.le_trans (s_near_le (s_lw_lt hN ⟨l, hl, Or.inl ⟨rfl, rfl⟩, rfl⟩).2.2.1) hM) (n_links N) 0 M (Nat.le_refl _) (by omega)
  exact H
theorem s_round_to (hN : n_ok N) {M : Nat → Nat} {x y w : Nat} (hl : s_lw N x y w) : s_round N M y ≤ M x + w := by
  obtain ⟨l, l1, l2, l3⟩ := hl
  have H := s_foldP (fun k (M' : Nat → Nat) => (∀ z, M' z ≤ M z) ∧ (l < k → M' y ≤ M x + w)) (fun l M => s_near (n_la N l) (n_lb N l) (n_ld N l) M) (n_links N) (fun M' k hM hk => by
    have hne := (s_lw_lt hN ⟨k, hk, Or.inl ⟨rfl, rfl⟩, rfl⟩).2.2.1
    refine ⟨fun z => Nat.le_trans (s_near_le hne) (hM.1 z), fun hlk => ?_⟩
    by_cases e : l = k
    · subst e
      obtain ⟨n1, n2⟩ := s_near_to (x := n_la N l) (y := n_lb N l) (w := n_ld N l) (M := M') hne
      show s_near (n_la N l) (n_lb N l) (n_ld N l) M' y ≤ _
      have hx := hM.1 x
      rcases l2 with ⟨a, b⟩ | ⟨a, b⟩
      · rw [a, b, l3] at n1 ⊢; omega
      · rw [a, b, l3] at n2 ⊢; omega
    · exact Nat.le_trans (s_near_le hne) (hM.2 (by omega))) (n_links N) 0 M ⟨fun z => Nat.le_refl _, fun q => by omega⟩ (by omega)
  rw [Nat.zero_add] at H
  exact H.2 l1
theorem s_lst.round {a t : Nat} {M : Nat → Nat} (h : s_lst N a t M) (hN : n_ok N) (ha : a < 6) : s_lst N a (t + 30) (s_round N M) := by
  have h15 : n_links N ≤ 15 := hN.2.2.1.2
  have H := s_foldP (fun k (M' : Nat → Nat) => s_lst N a (t + 2 * k) M') (fun l M => s_near (n_la N l) (n_lb N l) (n_ld N l) M) (n_links N) (fun M' l hM hl => by
    have := hM.near hN ha ⟨l, hl, Or.inl ⟨rfl, rfl⟩, rfl⟩
    rw [show t + 2 * (l + 1) = t + 2 * l + 2 by omega]
    exact this) (n_links N) 0 M h (by omega)
  rw [Nat.zero_add] at H
  intro y hy
  have H' : s_lst N a (t + 2 * n_links N) (s_round N M) := H
  obtain ⟨r1, r2⟩ := H' y hy
  exact ⟨r1, by omega⟩
theorem s_rnd.round {a r : Nat} {M : Nat → Nat} (h : s_rnd N a r M) (hN : n_ok N) (ha : a < 6) (hM : M a = 0) : s_rnd N a (r + 1) (s_round N M) := by
  have h6 : n_nodes N ≤ 6 := hN.1.1.2
  obtain ⟨b1, b2, b3, b4, -⟩ := s_far_tb hN
  intro y hy hlt hr
  by_cases e : y = a
  · subst e
    have := s_round_le hN (M := M) (z := y)
    omega
  · obtain ⟨x, w, x1, x2, x3⟩ := b4 a y ha (by omega) (fun q => e q.symm) hlt
    obtain ⟨l1, l2, l3, l4, l5⟩ := s_lw_lt hN x2
    have hrk := s_rk_mono (a := a) (x := x) (y := y) (by omega) l1 h6
    have h1 := h x l1 (by omega) (by omega)
    have h2 := s_round_to hN (M := M) x2
    omega
/-- so many rounds as nodes: what the table says -/
theorem s_rounds (hN : n_ok N) {a b : Nat} (ha : a < n_nodes N) (hb : b < n_nodes N) {M : Nat → Nat} (h1 : s_rnd N a (n_nodes N) M) {t : Nat} (ht : t ≤ 200) (h2 : s_lst N a t M) : M b = 268435456 ∧ ¬ s_far N (6 * a + b) < 1000000 ∨ M b ≠ 268435456 ∧ M b = s_far N (6 * a + b) ∧ s_far N (6 * a + b) < 1000000 := by
  have h6 : n_nodes N ≤ 6 := hN.1.1.2
  obtain ⟨r1, r2⟩ := h2 b (by omega)
  by_cases c : s_far N (6 * a + b) < 1000000
  · have := h1 b hb c (Nat.le_of_lt (s_rk_lt hb h6))
    exact Or.inr ⟨by omega, by omega, c⟩
  · exact Or.inl ⟨by omega, c⟩
end F1
