/-! THE TWIN's LAW, 34: what is read of a run -/
set_option maxRecDepth 100000
set_option maxHeartbeats 400000
def s_cntB (p : Nat → Bool) (n : Nat) : Nat := s_fold (fun k a => if p k = true then a + 1 else a) 0 n 0
theorem s_cntB_le (p : Nat → Bool) (n : Nat) : s_cntB p n ≤ n := by
  have H := s_foldP (fun k (a : Nat) => a ≤ k) (fun k a => if p k = true then a + 1 else a) n (fun a k ha hk => by
    show (if p k = true then a + 1 else a) ≤ k + 1
    have ha' : a ≤ k := ha
    by_cases c : p k = true
    · rw [if_pos c]; omega
    · rw [if_neg c]; omega) n 0 0 (Nat.le_refl _) (by omega)
  unfold s_cntB
  omega
theorem p_ones (x : Int32) : D_ones x = some (nI (s_cntB (fun k => s_bit x (nI k)) 15)) := by
  unfold D_ones s_cntB
  rw [← nI_0]
  refine x_for (fun _ (_ : Nat) => True) (fun f a k => D_ones_4 x (fun (v1_14 : Int32) => some v1_14) f (nI a) (nI k)) (fun a => some (nI a)) (fun k a => if s_bit x (nI k) = true then a + 1 else a) 15 ?_ ?_ (fun _ _ _ _ => trivial) x_F 0 0 (by omega) trivial (by rw [x_Fv]; omega)
  · intro f a _
    show (if (15 : Int32) ≤ nI 15 then _ else _) = _
    rw [if_pos (show (15 : Int32) ≤ nI 15 from Int32.le_refl _)]
  · intro f a k _ hk
    show (if (15 : Int32) ≤ nI k then _ else _) = _
    rw [if_neg (show ¬ (15 : Int32) ≤ nI k from nI_ge (a := k) (b := 15) hk (by omega)), p_has', x_bS]
    by_cases c : s_bit x (nI k) = true
    · rw [if_pos c, if_neg (show ¬ (1 : Int32) = 0 by decide), x_lS, x_lS, if_pos c, nI_1, nI_1]
    · rw [if_neg c, if_pos (show (0 : Int32) = 0 from rfl), x_lS, x_lS, if_neg c, nI_1, Int32.add_zero]
theorem p_onesL (x : Int64) : D_onesL x = some (nI (s_cntB (fun k => s_hasL x (nI k)) 64)) := by
  unfold D_onesL s_cntB
  rw [← nI_0]
  refine x_for (fun _ (_ : Nat) => True) (fun f a k => D_onesL_4 x (fun (v1_14 : Int32) => some v1_14) f (nI a) (nI k)) (fun a => some (nI a)) (fun k a => if s_hasL x (nI k) = true then a + 1 else a) 64 ?_ ?_ (fun _ _ _ _ => trivial) x_F 0 0 (by omega) trivial (by rw [x_Fv]; omega)
  · intro f a _
    show (if (64 : Int32) ≤ nI 64 then _ else _) = _
    rw [if_pos (show (64 : Int32) ≤ nI 64 from Int32.le_refl _)]
  · intro f a k _ hk
    show (if (64 : Int32) ≤ nI k then _ else _) = _
    rw [if_neg (show ¬ (64 : Int32) ≤ nI k from nI_ge (a := k) (b := 64) hk (by omega)), p_hasL', x_bS]
    by_cases c : s_hasL x (nI k) = true
    · rw [if_pos c, if_neg (show ¬ (1 : Int32) = 0 by decide), x_lS, x_lS, if_pos c, nI_1, nI_1]
    · rw [if_neg c, if_pos (show (0 : Int32) = 0 from rfl), x_lS, x_lS, if_neg c, nI_1, Int32.add_zero]
/-- a node of a net, by any int -/
def s_node (N : s_R) (x : Int32) : Option Nat := if 0 ≤ x ∧ v_ x < n_nodes N then some (v_ x) else none
def q_ofState (N : s_R) (G : s_G) (what : Int32) : Int32 :=
  if what < 100 then
    (let s := if 10 ≤ what then 10 * (what / 10) else what
     if s = 0 then g_minute G else if s = 1 then nI (g_ways G).length else if s = 2 then nI (s_all N G) else if s = 3 then nI (s_cntB (fun k => s_bit (g_down G) (nI k)) 15)
     else if s = 10 then (match s_node N (what - what / 10 * 10) with
       | none => -2
       | some n => nI (g_es G n).length)
     else if s = 20 then (match s_node N (what - what / 10 * 10) with
       | none => -2
       | some n => nI (g_ds G n).length)
     else if s = 30 then (match s_node N (what - what / 10 * 10) with
       | none => -2
       | some n => nI (s_cntB (fun k => s_hasL (g_dead G n) (nI k)) 64))
     else -2)
  else match s_node N ((what - 100) / 10), s_node N (what - what / 10 * 10) with
    | some x, some y => g_meas G (6 * x + y)
    | _, _ => -2
def q_ofAsk (G : s_G) (k : Nat) (what : Int32) : Int32 :=
  if what = 0 then g_came G 57 k else if what = 1 then (if g_came G 57 k = 0 then -1 else g_came G 58 k)
  else if what = 2 then (if g_came G 57 k = 1 then g_came G 60 k else -1) else if what = 3 then (if g_came G 57 k = 1 then g_came G 61 k else -1)
  else if what = 4 then (if g_came G 57 k = 2 then g_came G 62 k else -1) else if what = 5 then (if g_came G 57 k = 2 then g_came G 63 k else -1)
  else if what = 6 then (if g_came G 57 k = 2 then g_came G 64 k else -1) else -2
section T64
variable {σ σ' : t_S} {N R : s_R} {lk : Nat → Option Nat} {G : s_G} {K : Nat} {W : s_W} {t : Nat}
theorem v_of {x : Int32} (h : 0 ≤ x) : x = nI (v_ x) ∧ v_ x < 2 ^ 31 := by
  obtain ⟨j, j1, j2⟩ := nI_of (x := x) (Int32.not_lt.mpr h)
  rw [j2, v_nI j1]
  exact ⟨rfl, j1⟩
theorem s_node_lt {x : Int32} {n : Nat} (hN : n_ok N) (h : s_node N x = some n) : n < 6 ∧ n < n_nodes N ∧ x = nI n := by
  have hnn : n_nodes N ≤ 6 := hN.1.1.2
  unfold s_node at h
  split at h
  · rename_i c
    cases h
    exact ⟨by omega, c.2, (v_of c.1).1⟩
  · cases h
theorem p_isNodeS {x : Int32} (h : t_i σ 23 = N 0) (hN : n_ok N) : D_isNode x σ = some (match s_node N x with
    | none => 0
    | some _ => 1) := by
  unfold s_node
  by_cases c : 0 ≤ x
  · obtain ⟨e1, e2⟩ := v_of c
    have H := p_isNodeN (n := v_ x) h hN e2
    rw [← e1] at H
    rw [H]
    by_cases c2 : v_ x < n_nodes N
    · rw [if_pos c2, if_pos ⟨c, c2⟩]
    · rw [if_neg c2, if_neg (fun q => c2 q.2)]
  · rw [if_neg (fun q => c q.1), p_isNode h]
    unfold s_i
    rw [if_neg (fun q => c q.1)]
theorem p_ofState {what : Int32} (h : t_rel σ N lk G) (hN : n_ok N) : D_ofState what σ = some (q_ofState N G what) := by
  have h23 := h.1.2.2.1
  unfold D_ofState q_ofState
  by_cases c : what < 100
  · rw [if_pos c, if_pos c, x_lS, x_lS]
    have hsel : ∀ s : Int32, (if s = 0 then some (t_i σ 27) else if s = 1 then some (t_i σ 45) else if s = 2 then (x_b (D_entriesAll σ) fun r8 => some r8) else if s = 3 then (x_b (D_ones (t_i σ 26)) fun r11 => some r11) else if s = 10 then (x_b (D_isNode (what - what / 10 * 10) σ) fun r14 => if r14 = 0 then some (-2 : Int32) else x_ga (what - what / 10 * 10) 6 fun j16 => some (t_a σ 34 j16)) else if s = 20 then (x_b (D_isNode (what - what / 10 * 10) σ) fun r19 => if r19 = 0 then some (-2 : Int32) else x_ga (what - what / 10 * 10) 6 fun j21 => some (t_a σ 30 j21)) else if s = 30 then (x_b (D_isNode (what - what / 10 * 10) σ) fun r24 => if r24 = 0 then some (-2 : Int32) else x_ga (what - what / 10 * 10) 6 fun j26 => x_b (D_onesL (t_l σ 28 j26)) fun r28 => some r28) else some (-2 : Int32)) = some (if s = 0 then g_minute G else if s = 1 then nI (g_ways G).length else if s = 2 then nI (s_all N G) else if s = 3 then nI (s_cntB (fun k => s_bit (g_down G) (nI k)) 15)
     else if s = 10 then (match s_node N (what - what / 10 * 10) with
       | none => -2
       | some n => nI (g_es G n).length)
     else if s = 20 then (match s_node N (what - what / 10 * 10) with
       | none => -2
       | some n => nI (g_ds G n).length)
     else if s = 30 then (match s_node N (what - what / 10 * 10) with
       | none => -2
       | some n => nI (s_cntB (fun k => s_hasL (g_dead G n) (nI k)) 64))
     else -2) := by
      intro s
      by_cases s0 : s = 0
      · rw [if_pos s0, if_pos s0, h.2.2.1]
      rw [if_neg s0, if_neg s0]
      by_cases s1 : s = 1
      · rw [if_pos s1, if_pos s1, h.2.2.2.2.2.1.1]
      rw [if_neg s1, if_neg s1]
      by_cases s2 : s = 2
      · rw [if_pos s2, if_pos s2, p_entriesAll h hN, x_bS]
      rw [if_neg s2, if_neg s2]
      by_cases s3 : s = 3
      · rw [if_pos s3, if_pos s3, p_ones, x_bS, h.2.1]
      rw [if_neg s3, if_neg s3]
      by_cases s4 : s = 10
      · rw [if_pos s4, if_pos s4, p_isNodeS h23 hN, x_bS]
        cases hn : s_node N (what - what / 10 * 10) with
        | none => rfl
        | some n =>
          obtain ⟨n1, n2, n3⟩ := s_node_lt hN hn
          show (if (1 : Int32) = 0 then _ else _) = _
          rw [if_neg (show ¬ (1 : Int32) = 0 by decide), n3, x_gaS n1 (by omega), (h.2.2.2.1 n n1).1.1]
      rw [if_neg s4, if_neg s4]
      by_cases s5 : s = 20
      · rw [if_pos s5, if_pos s5, p_isNodeS h23 hN, x_bS]
        cases hn : s_node N (what - what / 10 * 10) with
        | none => rfl
        | some n =>
          obtain ⟨n1, n2, n3⟩ := s_node_lt hN hn
          show (if (1 : Int32) = 0 then _ else _) = _
          rw [if_neg (show ¬ (1 : Int32) = 0 by decide), n3, x_gaS n1 (by omega), (h.2.2.2.1 n n1).2.1.1]
      rw [if_neg s5, if_neg s5]
      by_cases s6 : s = 30
      · rw [if_pos s6, if_pos s6, p_isNodeS h23 hN, x_bS]
        cases hn : s_node N (what - what / 10 * 10) with
        | none => rfl
        | some n =>
          obtain ⟨n1, n2, n3⟩ := s_node_lt hN hn
          show (if (1 : Int32) = 0 then _ else _) = _
          rw [if_neg (show ¬ (1 : Int32) = 0 by decide), n3, x_gaS n1 (by omega), (h.2.2.2.1 n n1).2.2, p_onesL, x_bS]
      rw [if_neg s6, if_neg s6]
    by_cases c2 : (10 : Int32) ≤ what
    · rw [if_pos c2]
      have := hsel (10 * (what / 10))
      simp only [if_pos c2]
      exact this
    · rw [if_neg c2]
      have := hsel what
      simp only [if_neg c2]
      exact this
  · rw [if_neg c, if_neg c, x_lS, x_lS, p_isNodeS h23 hN, x_bS]
    cases hx : s_node N ((what - 100) / 10) with
    | none => rfl
    | some x =>
      obtain ⟨x1, x2, x3⟩ := s_node_lt hN hx
      show (if (1 : Int32) = 0 then _ else _) = _
      rw [if_neg (show ¬ (1 : Int32) = 0 by decide), p_isNodeS h23 hN, x_bS]
      cases hy : s_node N (what - what / 10 * 10) with
      | none => rfl
      | some y =>
        obtain ⟨y1, y2, y3⟩ := s_node_lt hN hy
        show (if (1 : Int32) = 0 then _ else _) = _
        rw [if_neg (show ¬ (1 : Int32) = 0 by decide), x3, y3, show (6 : Int32) = nI 6 from rfl, nI_mul, nI_add, x_gaS (by omega) (by omega), h.2.2.2.2.1 (6 * x + y) (by omega)]
theorem p_ofAsk {k : Nat} {what : Int32} (h : t_rel σ N lk G) (hk : k < 64) : D_ofAsk (nI k) what σ = some (q_ofAsk G k what) := by
  have g2 : ∀ {α : Type} (kk : Nat → Option α), x_ga (nI k) 64 kk = kk k := fun kk => x_gaS hk (by omega)
  have hc := h.2.2.2.2.2.2.1
  unfold D_ofAsk q_ofAsk
  rw [g2, x_lS]
  simp only [g2]
  rw [hc 57 k (by omega) (by omega) hk, hc 58 k (by omega) (by omega) hk, hc 60 k (by omega) (by omega) hk, hc 61 k (by omega) (by omega) hk, hc 62 k (by omega) (by omega) hk, hc 63 k (by omega) (by omega) hk, hc 64 k (by omega) (by omega) hk]
  by_cases c0 : what = 0
  · simp only [if_pos c0]
  simp only [if_neg c0]
  by_cases c1 : what = 1
  · simp only [if_pos c1]
    split <;> rfl
  simp only [if_neg c1]
  by_cases c2 : what = 2
  · simp only [if_pos c2]
    split <;> rfl
  simp only [if_neg c2]
  by_cases c3 : what = 3
  · simp only [if_pos c3]
    split <;> rfl
  simp only [if_neg c3]
  by_cases c4 : what = 4
  · simp only [if_pos c4]
    split <;> rfl
  simp only [if_neg c4]
  by_cases c5 : what = 5
  · simp only [if_pos c5]
    split <;> rfl
  simp only [if_neg c5]
  by_cases c6 : what = 6
  · simp only [if_pos c6]
    split <;> rfl
  simp only [if_neg c6]
end T64
