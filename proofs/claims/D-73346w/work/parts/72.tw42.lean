/-! THE TWIN's LAW, 42: how far; kinds of nodes, routes, serves -/
set_option maxRecDepth 100000
set_option maxHeartbeats 400000
def s_far0 : Nat → Nat := fun i => if i / 6 = i % 6 then 0 else 1000000
def s_far1 (N : s_R) : Nat → Nat := s_fold (fun l L => s_up1 (s_up1 L (6 * n_la N l + n_lb N l) (n_ld N l)) (6 * n_lb N l + n_la N l) (n_ld N l)) 0 (n_links N) s_far0
def s_farRow (over : Nat) (L : Nat → Nat) : Nat → Nat := s_fold (fun i L => s_up1 L i (min (L i) (L (6 * (i / 6) + over) + L (6 * over + i % 6)))) 0 36 L
def s_far (N : s_R) : Nat → Nat := s_fold (fun over L => s_farRow over L) 0 6 (s_far1 N)
def q_far (T : s_T) (n a b : Int32) : Int32 := match s_row (u_nets T.1) n with
  | none => -1
  | some N => match s_node N a with
    | none => -1
    | some x => match s_node N b with
      | none => -1
      | some y => if s_far N (6 * x + y) < 1000000 then nI (s_far N (6 * x + y)) else -1
def t_far (σ : t_S) (L : Nat → Nat) : Prop := ∀ i, i < 36 → t_a σ 80 i = nI (L i) ∧ L i ≤ 1000000
def t_p80 (σ σ' : t_S) : Prop := (∀ k, t_i σ' k = t_i σ k) ∧ ∀ k j, k ≠ 80 → t_a σ' k j = t_a σ k j
section T72
variable {σ σ' : t_S} {N R : s_R} {T : s_T} {lk : Nat → Option Nat} {G : s_G} {K : Nat} {W : s_W} {t : Nat}
theorem t_p80.keep (h : t_p80 σ σ') : t_keep σ σ' := fun k j hk => h.2 k j (by omega)
theorem t_p80.refl : t_p80 σ σ := ⟨fun _ => rfl, fun _ _ _ => rfl⟩
theorem t_p80.trans {σ2 : t_S} (h : t_p80 σ σ') (h' : t_p80 σ' σ2) : t_p80 σ σ2 := ⟨fun k => (h'.1 k).trans (h.1 k), fun k j hk => (h'.2 k j hk).trans (h.2 k j hk)⟩
theorem t_p80.sa {k : Nat} {x : Int32} : t_p80 σ (t_sa σ 80 k x) := ⟨fun _ => rfl, fun a j ha => by rw [t_a_sa, if_neg (fun q => ha q.1)]⟩
theorem t_far.up {L : Nat → Nat} {k x : Nat} (h : t_far σ L) (hx : x ≤ 1000000) : t_far (t_sa σ 80 k (nI x)) (s_up1 L k x) := by
  intro i hi
  rw [t_a_sa]
  unfold s_up1
  by_cases c : i = k
  · rw [if_pos ⟨rfl, c⟩, if_pos c]
    exact ⟨rfl, hx⟩
  · rw [if_neg (fun q => c q.2), if_neg c]
    exact h i hi
theorem p_far_34 {a b : Int32} (Kf : t_S → Option (Int32 × t_S)) : ∃ σ', D_far_34 a b Kf x_F 0 σ = Kf σ' ∧ t_far σ' s_far0 ∧ t_p80 σ σ' := by
  have key := x_forS (fun k (s : t_S) (_ : Unit) => (∀ i, i < k → t_a s 80 i = nI (s_far0 i)) ∧ t_p80 σ s) (fun f k s => D_far_34 a b Kf f (nI k) s) Kf (fun _ g => g) 36 ?_ ?_ x_F 0 σ () (by omega) ⟨fun i hi => by omega, t_p80.refl⟩ (by rw [x_Fv]; omega)
  · obtain ⟨s', k1, k2, k3⟩ := key
    refine ⟨s', k1, fun i hi => ⟨k2 i hi, ?_⟩, k3⟩
    unfold s_far0
    split <;> omega
  · intro f s g _
    show (if (36 : Int32) ≤ nI 36 then _ else _) = _
    rw [if_pos (show (36 : Int32) ≤ nI 36 from Int32.le_refl _)]
  · intro f k s g hq hk
    have g1 : ∀ {α : Type} (kk : Nat → Option α), x_ga (nI k) 36 kk = kk k := fun kk => x_gaS hk (by omega)
    have hd : nI k / 6 = nI (k / 6) := nI_div (b := 6) (by omega) (by omega)
    have hm : nI k - nI (k / 6) * 6 = nI (k % 6) := by
      have := nI_mod (w := k) (k := 6) (by omega) (by omega)
      rw [nI_div (by omega) (by omega)] at this
      exact this
    refine ⟨t_sa s 80 k (nI (s_far0 k)), ?_, fun i hi => ?_, hq.2.trans t_p80.sa⟩
    · show (if (36 : Int32) ≤ nI k then _ else _) = _
      rw [if_neg (show ¬ (36 : Int32) ≤ nI k from nI_ge (a := k) (b := 36) hk (by omega)), hd, hm]
      unfold s_far0
      by_cases c : k / 6 = k % 6
      · rw [if_pos (by rw [c]), g1, x_lS, x_lS, nI_1, if_pos c]
        rfl
      · rw [if_neg (fun q => c ((nI_eq (by omega) (by omega)).mp q)), g1, x_lS, x_lS, nI_1, if_neg c]
        rfl
    · rw [t_a_sa]
      by_cases c : i = k
      · rw [if_pos ⟨rfl, c⟩, c]
      · rw [if_neg (fun q => c q.2)]
        exact hq.1 i (by omega)
theorem p_far_77 {a b : Int32} (Kf : t_S → Option (Int32 × t_S)) (h : t_net σ N) (hN : n_ok N) (hL : t_far σ s_far0) : ∃ σ', D_far_77 a b Kf x_F 0 σ = Kf σ' ∧ t_far σ' (s_far1 N) ∧ t_p80 σ σ' := by
  obtain ⟨c1, c2, c3, c4, c5, c6⟩ := n_counts hN
  have key := x_forS (fun k (s : t_S) (L : Nat → Nat) => t_far s L ∧ t_p80 σ s) (fun f k s => D_far_77 a b Kf f (nI k) s) Kf (fun l L => s_up1 (s_up1 L (6 * n_la N l + n_lb N l) (n_ld N l)) (6 * n_lb N l + n_la N l) (n_ld N l)) (n_links N) ?_ ?_ x_F 0 σ s_far0 (by omega) ⟨hL, t_p80.refl⟩ (by rw [x_Fv]; omega)
  · obtain ⟨s', k1, k2, k3⟩ := key
    exact ⟨s', k1, k2, k3⟩
  · intro f s g hq
    have hnet : t_net s N := t_net_of (hq.2.1 22) (fun j => hq.2.2 6 j (by decide)) h
    show x_b (D_links s) _ = _
    rw [p_links hnet, x_bS, c1, if_pos (Int32.le_refl _)]
  · intro f k s L hq hk
    have hnet : t_net s N := t_net_of (hq.2.1 22) (fun j => hq.2.2 6 j (by decide)) h
    obtain ⟨b1, -, -, -, b5, b6, b7, -⟩ := n_ln_b hN hk
    have g1 : ∀ {α : Type} (kk : Nat → Option α), x_ga (nI (6 * n_la N k + n_lb N k)) 36 kk = kk (6 * n_la N k + n_lb N k) := fun kk => x_gaS (by omega) (by omega)
    have g2 : ∀ {α : Type} (kk : Nat → Option α), x_ga (nI (6 * n_lb N k + n_la N k)) 36 kk = kk (6 * n_lb N k + n_la N k) := fun kk => x_gaS (by omega) (by omega)
    have hnet2 : t_net (t_sa s 80 (6 * n_la N k + n_lb N k) (nI (n_ld N k))) N := t_net_sa (by decide) hnet
    refine ⟨t_sa (t_sa s 80 (6 * n_la N k + n_lb N k) (nI (n_ld N k))) 80 (6 * n_lb N k + n_la N k) (nI (n_ld N k)), ?_, (hq.1.up (by omega)).up (by omega), hq.2.trans (t_p80.sa.trans t_p80.sa)⟩
    show x_b (D_links s) _ = _
    rw [p_links hnet, x_bS, c1, if_neg (nI_ge hk (by omega)), p_link0 hnet hN hk, x_bS, p_link1 hnet hN hk, x_bS, p_link2 hnet hN hk, x_bS, show (6 : Int32) = nI 6 from rfl, nI_mul, nI_add, g1, x_lS, p_link1 hnet2 hN hk, x_bS, p_link0 hnet2 hN hk, x_bS, p_link2 hnet2 hN hk, x_bS, nI_mul, nI_add, g2, x_lS, x_lS, nI_1]
theorem p_far_165 {a b : Int32} {over : Nat} {L : Nat → Nat} (Kf : t_S → Option (Int32 × t_S)) (ho : over < 6) (hL : t_far σ L) : ∃ σ', D_far_165 a b (nI over) Kf x_F 0 σ = Kf σ' ∧ t_far σ' (s_farRow over L) ∧ t_p80 σ σ' := by
  have key := x_forS (fun k (s : t_S) (L : Nat → Nat) => t_far s L ∧ t_p80 σ s) (fun f k s => D_far_165 a b (nI over) Kf f (nI k) s) Kf (fun i L => s_up1 L i (min (L i) (L (6 * (i / 6) + over) + L (6 * over + i % 6)))) 36 ?_ ?_ x_F 0 σ L (by omega) ⟨hL, t_p80.refl⟩ (by rw [x_Fv]; omega)
  · obtain ⟨s', k1, k2, k3⟩ := key
    exact ⟨s', k1, k2, k3⟩
  · intro f s g _
    show (if (36 : Int32) ≤ nI 36 then _ else _) = _
    rw [if_pos (show (36 : Int32) ≤ nI 36 from Int32.le_refl _)]
  · intro f k s L hq hk
    have g1 : ∀ {α : Type} (kk : Nat → Option α), x_ga (nI k) 36 kk = kk k := fun kk => x_gaS hk (by omega)
    have hd : nI k / 6 = nI (k / 6) := nI_div (b := 6) (by omega) (by omega)
    have hm : nI k - nI (k / 6) * 6 = nI (k % 6) := by
      have := nI_mod (w := k) (k := 6) (by omega) (by omega)
      rw [nI_div (by omega) (by omega)] at this
      exact this
    have hk6 : k / 6 < 6 := by omega
    have hm6 : k % 6 < 6 := Nat.mod_lt _ (by omega)
    obtain ⟨l1, l2⟩ := hq.1 k hk
    obtain ⟨l3, l4⟩ := hq.1 (6 * (k / 6) + over) (by omega)
    obtain ⟨l5, l6⟩ := hq.1 (6 * over + k % 6) (by omega)
    refine ⟨t_sa s 80 k (nI (min (L k) (L (6 * (k / 6) + over) + L (6 * over + k % 6)))), ?_, hq.1.up (by omega), hq.2.trans t_p80.sa⟩
    show (if (36 : Int32) ≤ nI k then _ else _) = _
    rw [if_neg (show ¬ (36 : Int32) ≤ nI k from nI_ge (a := k) (b := 36) hk (by omega)), hd, hm, show (6 : Int32) = nI 6 from rfl, nI_mul, nI_add, nI_mul, nI_add, x_gaS (by omega) (by omega), x_gaS (by omega) (by omega), x_lS, g1, p_lesser, x_bS, g1, x_lS, x_lS, nI_1, l1, l3, l5, nI_add]
    have hmin : (if nI (L k) < nI (L (6 * (k / 6) + over) + L (6 * over + k % 6)) then nI (L k) else nI (L (6 * (k / 6) + over) + L (6 * over + k % 6))) = nI (min (L k) (L (6 * (k / 6) + over) + L (6 * over + k % 6))) := by
      by_cases c : L k < L (6 * (k / 6) + over) + L (6 * over + k % 6)
      · rw [if_pos (nI_lt c (by omega)), Nat.min_eq_left (by omega)]
      · rw [if_neg (nI_nlt (by omega) (by omega)), Nat.min_eq_right (by omega)]
    rw [hmin]
theorem p_far_155 {a b : Int32} {L : Nat → Nat} (Kf : t_S → Option (Int32 × t_S)) (hL : t_far σ L) : ∃ σ', D_far_155 a b Kf x_F 0 σ = Kf σ' ∧ t_far σ' (s_fold (fun over L => s_farRow over L) 0 6 L) ∧ t_p80 σ σ' := by
  have key := x_forS (fun k (s : t_S) (L : Nat → Nat) => t_far s L ∧ t_p80 σ s) (fun f k s => D_far_155 a b Kf f (nI k) s) Kf (fun over L => s_farRow over L) 6 ?_ ?_ x_F 0 σ L (by omega) ⟨hL, t_p80.refl⟩ (by rw [x_Fv]; omega)
  · obtain ⟨s', k1, k2, k3⟩ := key
    exact ⟨s', k1, k2, k3⟩
  · intro f s g _
    show (if (6 : Int32) ≤ nI 6 then _ else _) = _
    rw [if_pos (show (6 : Int32) ≤ nI 6 from Int32.le_refl _)]
  · intro f k s L hq hk
    obtain ⟨s1, e1, e2, e3⟩ := p_far_165 (a := a) (b := b) (fun (σ74 : t_S) => x_l (nI k + (1 : Int32)) fun v75 => D_far_155 a b Kf f v75 σ74) hk hq.1
    refine ⟨s1, ?_, e2, hq.2.trans e3⟩
    show (if (6 : Int32) ≤ nI k then _ else _) = _
    rw [if_neg (show ¬ (6 : Int32) ≤ nI k from nI_ge (a := k) (b := 6) hk (by omega)), e1, x_lS, nI_1]
theorem p_far {n a b : Int32} (h : t_st σ T) : ∃ σ', D_far n a b σ = some (q_far T n a b, σ') ∧ t_keep σ σ' := by
  have h0 : t_st (t_si σ 0 0) T := h.keep t_keep.si
  obtain ⟨σ1, a1, a2, -, -, a3⟩ := p_hasNet (k := n) h0
  have hk : t_keep σ σ1 := t_keep.si.trans a2
  unfold D_far q_far
  rw [x_lS, a1, x_b2S]
  cases hn : s_row (u_nets T.1) n with
  | none => exact ⟨σ1, if_pos rfl, hk⟩
  | some N =>
    obtain ⟨b1, b2, b3⟩ := a3 N hn
    have hN := u_net_ok h hn
    show ∃ σ', (if (1 : Int32) = 0 then _ else _) = _ ∧ _
    rw [if_neg (show ¬ (1 : Int32) = 0 by decide), p_isNodeS b2 hN, x_bS]
    cases hx : s_node N a with
    | none => simp only [hx]; exact ⟨σ1, if_pos trivial, hk⟩
    | some x =>
      obtain ⟨i1, i2, i3⟩ := s_node_lt hN hx
      simp only [hx]
      show ∃ σ', (if (1 : Int32) = 0 then _ else _) = some ((match s_node N b with
      | none => -1
      | some y => if s_far N (6 * x + y) < 1000000 then nI (s_far N (6 * x + y)) else -1), σ') ∧ _
      rw [if_neg (show ¬ (1 : Int32) = 0 by decide), p_isNodeS b2 hN, x_bS]
      cases hy : s_node N b with
      | none => exact ⟨σ1, if_pos rfl, hk⟩
      | some y =>
        obtain ⟨j1, j2, j3⟩ := s_node_lt hN hy
        show ∃ σ', (if (1 : Int32) = 0 then _ else _) = some ((if s_far N (6 * x + y) < 1000000 then nI (s_far N (6 * x + y)) else -1), σ') ∧ _
        rw [if_neg (show ¬ (1 : Int32) = 0 by decide)]
        obtain ⟨s1, e1, e2, e3⟩ := p_far_34 (σ := σ1) (a := a) (b := b) (fun (σ25 : t_S) => D_far_77 a b (fun (σ51 : t_S) => D_far_155 a b (fun (σ76 : t_S) => x_ga (((6 : Int32) * a) + b) 36 fun j77 => x_l (t_a σ76 80 j77) fun v78 => if (1000000 : Int32) ≤ v78 then (some ((-1 : Int32), σ76)) else some (v78, σ76)) x_F (0 : Int32) σ51) x_F (0 : Int32) σ25)
        have hnet1 : t_net s1 N := t_net_of (e3.1 22) (fun j => e3.2 6 j (by decide)) b1
        obtain ⟨s2, f1, f2, f3⟩ := p_far_77 (a := a) (b := b) (fun (σ51 : t_S) => D_far_155 a b (fun (σ76 : t_S) => x_ga (((6 : Int32) * a) + b) 36 fun j77 => x_l (t_a σ76 80 j77) fun v78 => if (1000000 : Int32) ≤ v78 then (some ((-1 : Int32), σ76)) else some (v78, σ76)) x_F (0 : Int32) σ51) hnet1 hN e2
        obtain ⟨s3, g1, g2, g3⟩ := p_far_155 (a := a) (b := b) (fun (σ76 : t_S) => x_ga (((6 : Int32) * a) + b) 36 fun j77 => x_l (t_a σ76 80 j77) fun v78 => if (1000000 : Int32) ≤ v78 then (some ((-1 : Int32), σ76)) else some (v78, σ76)) f2
        have hfin : (x_ga (((6 : Int32) * a) + b) 36 fun j77 => x_l (t_a s3 80 j77) fun v78 => if (1000000 : Int32) ≤ v78 then (some ((-1 : Int32), s3)) else some (v78, s3)) = some ((if s_far N (6 * x + y) < 1000000 then nI (s_far N (6 * x + y)) else -1), s3) := by
          obtain ⟨l1, l2⟩ := g2 (6 * x + y) (by omega)
          have l1' : t_a s3 80 (6 * x + y) = nI (s_far N (6 * x + y)) := l1
          have l2' : s_far N (6 * x + y) ≤ 1000000 := l2
          rw [i3, j3, show (6 : Int32) = nI 6 from rfl, nI_mul, nI_add, x_gaS (by omega) (by omega), x_lS, l1']
          by_cases c : s_far N (6 * x + y) < 1000000
          · rw [if_neg (show ¬ (1000000 : Int32) ≤ nI (s_far N (6 * x + y)) from nI_ge (b := 1000000) c (by omega)), if_pos c]
          · rw [if_pos (show (1000000 : Int32) ≤ nI (s_far N (6 * x + y)) from nI_le (a := 1000000) (by omega) (by omega)), if_neg c]
        exact ⟨s3, e1.trans (f1.trans (g1.trans hfin)), hk.trans (e3.trans (f3.trans g3)).keep⟩
end T72
