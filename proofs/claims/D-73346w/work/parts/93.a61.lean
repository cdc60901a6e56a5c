/-! THE COMPONENT's LAW, 61: how many, whether one is there; a run is laid -/
set_option maxRecDepth 100000
set_option maxHeartbeats 400000
set_option linter.unusedVariables false
section T93
variable {g : z_G} {o o1 : Nat → Nat} {μ μ1 : z_M} {a s x tb k : Nat} {S : Nat → Prop} {N R L : s_R} {p : s_P} {T : s_T} {n r m : Int32}
theorem h_si.many0 (h : h_si g o μ tb s p) : D_X1_many g s 0 μ = some (nI (u_nets p).length) := by
  obtain ⟨h0, h1, tp, nl, rl, ll, cn, cr, cl, f, ns, rs, ls, c1, -, ⟨-, -, n2, n3⟩, -, -⟩ := h
  unfold D_X1_many
  rw [if_pos rfl, x_lsz c1 rfl n2, n3.1]
theorem h_si.many1 (h : h_si g o μ tb s p) : D_X1_many g s 1 μ = some (nI (u_runs p).length) := by
  obtain ⟨h0, h1, tp, nl, rl, ll, cn, cr, cl, f, ns, rs, ls, c1, -, -, ⟨-, -, n2, n3⟩, -⟩ := h
  unfold D_X1_many
  rw [if_neg (by decide), if_pos rfl, x_lsz c1 rfl n2, n3.1]
theorem h_si.many2 (h : h_si g o μ tb s p) : D_X1_many g s 2 μ = some (nI (u_logs p).length) := by
  obtain ⟨h0, h1, tp, nl, rl, ll, cn, cr, cl, f, ns, rs, ls, c1, -, -, -, ⟨-, -, n2, n3⟩⟩ := h
  unfold D_X1_many
  rw [if_neg (by decide), if_neg (by decide), x_lsz c1 rfl n2, n3.1]
/-- what is told now -/
theorem h_wo.now (h : h_wo g o μ a T) : ∃ s fs, μ.1 a = some (.inr (0, fs)) ∧ fs[0]? = some (.ref s) ∧ h_si g o μ 10 s T.1 := by
  obtain ⟨s, im, fi, ⟨a1, a2⟩, -, s1, -⟩ := h
  exact ⟨s, _, a2, rfl, s1⟩
theorem h_wo.ob {α : Type} {M : Option α} (h : h_wo g o μ a T) : x_ob μ a 0 (fun _ => M) = M := by
  obtain ⟨s, fs, h1, -⟩ := h.now
  exact x_obS h1
theorem h_si.ob {α : Type} {M : Option α} (h : h_si g o μ tb s p) : x_ob μ s 1 (fun _ => M) = M := by
  obtain ⟨h0, h1, tp, nl, rl, ll, cn, cr, cl, f, ns, rs, ls, c1, -⟩ := h
  exact x_obS c1
/-- whether the k-th of a list is there -/
theorem s_in_rowD {l : List s_R} (hl : l.length ≤ 2) : x_b (D_X0_isIn n 0 (nI l.length - (1 : Int32))) (fun x11 => x_g (x11 = 0 ∨ x11 = 1) <| some x11) = some (match s_row l n with
    | none => 0
    | some _ => 1) := by
  rw [x_isIn, x_bS, s_in_row hl]
  cases s_row l n with
  | none => exact x_gS (Or.inl rfl)
  | some _ => exact x_gS (Or.inr rfl)
theorem h_wo.is0 (h : h_wo g o μ a T) : D_X0_is g a 0 n μ = some (match s_row (u_nets T.1) n with
    | none => 0
    | some _ => 1) := by
  obtain ⟨s, fs, h1, h2, h3⟩ := h.now
  unfold D_X0_is
  rw [x_grR h1 h2, x_oS, h3.ob, h3.many0, x_bS]
  exact s_in_rowD h3.1.2.1
theorem h_wo.is1 (h : h_wo g o μ a T) : D_X0_is g a 1 n μ = some (match s_row (u_runs T.1) n with
    | none => 0
    | some _ => 1) := by
  obtain ⟨s, fs, h1, h2, h3⟩ := h.now
  unfold D_X0_is
  rw [x_grR h1 h2, x_oS, h3.ob, h3.many1, x_bS]
  exact s_in_rowD h3.1.2.2.1
theorem h_wo.is2 (h : h_wo g o μ a T) : D_X0_is g a 2 n μ = some (match s_row (u_logs T.1) n with
    | none => 0
    | some _ => 1) := by
  obtain ⟨s, fs, h1, h2, h3⟩ := h.now
  unfold D_X0_is
  rw [x_grR h1 h2, x_oS, h3.ob, h3.many2, x_bS]
  exact s_in_rowD h3.1.2.2.2.1
/-- the fault, the counts -/
theorem h_wo.fault (h : h_wo g o μ a T) : D_X0_fault g a n μ = some (q_fault T n) := by
  obtain ⟨s, fs, h1, h2, -, -, tp, nl, rl, ll, cn, cr, cl, f, ns, rs, ls, c1, -⟩ := h.now
  unfold D_X0_fault q_fault
  by_cases e0 : n = 0
  · rw [if_pos e0, if_pos e0, x_grR h1 h2, x_oS, x_giS c1 rfl]
  · rw [if_neg e0, if_neg e0]
    by_cases e1 : n = 1
    · rw [if_pos e1, if_pos e1, x_grR h1 h2, x_oS, x_giS c1 rfl]
    · rw [if_neg e1, if_neg e1]
theorem h_wo.count (h : h_wo g o μ a T) : D_X0_count g a n μ = some (q_count T n) := by
  obtain ⟨s, fs, h1, h2, h3⟩ := h.now
  unfold D_X0_count q_count
  rw [x_isIn, x_bS]
  by_cases e0 : n = 0
  · subst e0
    rw [if_neg (show ¬ s_i ((0 : Int32) ≤ 0 ∧ (0 : Int32) ≤ 2) = 0 by decide), x_grR h1 h2, x_oS, h3.ob, h3.many0, x_bS]
    rfl
  by_cases e1 : n = 1
  · subst e1
    rw [if_neg (show ¬ s_i ((0 : Int32) ≤ 1 ∧ (1 : Int32) ≤ 2) = 0 by decide), x_grR h1 h2, x_oS, h3.ob, h3.many1, x_bS]
    rfl
  by_cases e2 : n = 2
  · subst e2
    rw [if_neg (show ¬ s_i ((0 : Int32) ≤ 2 ∧ (2 : Int32) ≤ 2) = 0 by decide), x_grR h1 h2, x_oS, h3.ob, h3.many2, x_bS]
    rfl
  rw [if_neg e0, if_neg e1, if_neg e2, if_pos]
  unfold s_i
  refine if_neg (fun q => ?_)
  obtain ⟨v1, v2⟩ := v_of q.1
  have h9 : v_ n ≤ 2 := Nat.le_of_not_lt (fun c => nI_ge (a := 2) c v2 (by rw [← v1]; exact q.2))
  have hc : v_ n = 0 ∨ v_ n = 1 ∨ v_ n = 2 := by omega
  rcases hc with c | c | c
  · rw [c] at v1; exact e0 v1
  · rw [c] at v1; exact e1 v1
  · rw [c] at v1; exact e2 v1
theorem h_ls.isL {t l n' : Nat} {xs : List Nat} (hL : h_ls g o μ t l n' xs) : z_isA g μ l "java/util/ArrayList" := by
  obtain ⟨-, -, -, -, m, arr, h, -⟩ := hL
  exact Or.inl ⟨3, _, _, _, h, rfl⟩
theorem h_nt.isA {d : Nat} {lk : Nat → Option Nat} {ls rs ss : List Nat} (h : h_nt g o μ x d N lk ls rs ss) : z_isA g μ x "AskedNames$Net" := by
  obtain ⟨-, rm, ll, rl, sl, nl, nr, ns, fr, f, hp, -⟩ := h
  exact Or.inl ⟨5, _, _, _, hp, rfl⟩
/-- a net is taken -/
theorem h_wo.netOf (h : h_wo g o μ a T) (hn : s_row (u_nets T.1) n = some N) : ∃ x, D_X0_netOf g a n μ = some (some x) ∧ h_ne g o μ x N := by
  obtain ⟨s, fs, h1, h2, -, -, tp, nl, rl, ll, cn, cr, cl, f, ns, rs, ls, c1, -, ⟨-, -, n2, n3⟩, -, -⟩ := h.now
  obtain ⟨e1, e2, -⟩ := s_row_some hn
  obtain ⟨x, hx, hN⟩ := n3.get e2
  refine ⟨x, ?_, hN⟩
  obtain ⟨d, ls', rs', ss', hnt⟩ := hN
  unfold D_X0_netOf
  rw [x_grR h1 h2, x_oS, e1, x_lgt c1 rfl n2 hx hnt.isA]
/-- a run's list is taken -/
theorem h_ru.isA (h : h_ru g o μ x R) : z_isA g μ x "java/util/ArrayList" := by
  obtain ⟨cap, xs, ⟨h1, -⟩⟩ := h
  exact h1.isL
theorem h_wo.runAt (h : h_wo g o μ a T) (hr : s_row (u_runs T.1) r = some R) : ∃ x, (∀ {α : Type} (K : Option Nat → Option α), (x_gr μ a 0 0 fun o9 => x_o o9 fun p13 => x_gr μ p13 1 5 fun o14 => x_o o14 fun p18 => x_ob μ p18 3 fun _ => x_b (D_J2_get g p18 r μ) fun o22 => x_gp (x_ic g μ o22 "java/util/ArrayList") (K o22)) = K (some x)) ∧ h_ru g o μ x R := by
  obtain ⟨s, fs, h1, h2, -, -, tp, nl, rl, ll, cn, cr, cl, f, ns, rs, ls, c1, -, -, ⟨-, -, n2, n3⟩, -⟩ := h.now
  obtain ⟨e1, e2, -⟩ := s_row_some hr
  obtain ⟨x, hx, hR⟩ := n3.get e2
  refine ⟨x, fun K => ?_, hR⟩
  rw [x_grR h1 h2, x_oS, e1, x_lgt c1 rfl n2 hx hR.isA]
end T93
