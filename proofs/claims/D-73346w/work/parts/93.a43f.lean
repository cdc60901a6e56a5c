/-! THE COST, 5: how much there can be -/
set_option maxRecDepth 100000
set_option linter.unusedVariables false
/-- all targets -/
def s_TS (N : s_R) : Nat := s_sum6 (s_TN N)
/-- the weights that count messages -/
abbrev w_0 : s_Wt := (0, 1, 1, 0, 1, 0)
/-- the weights of costs -/
abbrev w_1 : s_Wt := (1, 266, 76, 54, 99, 23)
theorem w_0_ok : w_ok w_0 := by unfold w_ok w_s w_i w_r w_e w_n w_a; decide
theorem w_1_ok : w_ok w_1 := by unfold w_ok w_s w_i w_r w_e w_n w_a; decide
section C5
variable {w : s_Wt} {N : s_R} {lk : Nat → Option Nat} {G G' : s_G} {K : Nat} {W : s_W} {t tm : Nat} {Q : List s_M} {P : Nat} {z y : Int} {x x' : Int}
theorem s_cc.top (hc : s_cc w N K Q x G) (h : s_inv N K W t tm Q P z y G) (hK : K ≤ 64) : x + ((s_mp w Q + s_mp w (g_ways G) + s_sum6 (fun n => s_ept w (g_es G n)) : Nat) : Int) ≤ ((w_i w * (K * s_TS N) : Nat) : Int) := by
  have e : ∀ n, n < 6 → s_ph w N K n (g_nd G n) ≤ w_i w * (K * s_TN N n) := fun n hn => by
    refine Nat.mul_le_mul_left _ ?_
    have hs : ∀ l : List s_E, s_tro N n l → s_trd l ≤ s_TN N n * l.length := by
      intro l
      induction l with
      | nil => intro _; exact Nat.zero_le _
      | cons a l ih =>
        intro hl
        have h1 := ih (fun e he => hl e (List.mem_cons_of_mem _ he))
        have h2 : s_pop (e_tried a) ≤ s_TN N n := s_pop_T (hl a (List.mem_cons_self ..))
        show s_pop (e_tried a) + s_trd l ≤ s_TN N n * (l.length + 1)
        rw [Nat.mul_add, Nat.mul_one]
        omega
    have h1 := hs (g_es G n) (hc.1 n hn)
    have h2 := Nat.mul_le_mul_left (s_TN N n) (h.firsts hK hn)
    rw [Nat.mul_add, Nat.mul_comm (s_TN N n) K] at h2
    show s_TN N n * s_dc K (g_dead G n) + s_trd (g_es G n) ≤ K * s_TN N n
    omega
  have e0 := e 0 (by omega)
  have e1 := e 1 (by omega)
  have e2 := e 2 (by omega)
  have e3 := e 3 (by omega)
  have e4 := e 4 (by omega)
  have e5 := e 5 (by omega)
  have q := hc.2
  have e6 : w_i w * (K * s_TS N) = w_i w * (K * s_TN N 0) + w_i w * (K * s_TN N 1) + w_i w * (K * s_TN N 2) + w_i w * (K * s_TN N 3) + w_i w * (K * s_TN N 4) + w_i w * (K * s_TN N 5) := by
    unfold s_TS s_sum6
    simp only [Nat.mul_add]
  have e7 : s_sum6 (fun n => s_ph w N K n (g_nd G n)) = s_ph w N K 0 (g_nd G 0) + s_ph w N K 1 (g_nd G 1) + s_ph w N K 2 (g_nd G 2) + s_ph w N K 3 (g_nd G 3) + s_ph w N K 4 (g_nd G 4) + s_ph w N K 5 (g_nd G 5) := rfl
  omega
theorem s_mp_0 : ∀ Q : List s_M, s_mp w_0 Q = Q.length := by
  intro Q
  induction Q with
  | nil => rfl
  | cons m Q ih =>
    unfold s_mp at ih ⊢
    rw [List.map_cons, List.sum_cons, ih, List.length_cons]
    show (if m.1.1 = 0 then 1 else 1) + _ = _
    split <;> omega
/-- how many messages there can be -/
theorem s_cc.few (hc : s_cc w_0 N K Q 0 G) (h : s_inv N K W t tm Q P z y G) (hK : K ≤ 64) : Q.length + (g_ways G).length ≤ K * s_TS N := by
  have q := hc.top h hK
  rw [s_mp_0, s_mp_0] at q
  have e : w_i w_0 * (K * s_TS N) = K * s_TS N := Nat.one_mul _
  rw [e] at q
  omega
/-- a run begins -/
theorem s_cc_begin {c : Nat → Nat → Int32} : s_cc w N 0 [] 0 (s_begin c) := by
  refine ⟨fun n hn e he => (by cases he), ?_⟩
  have e1 : s_mp w (g_ways (s_begin c)) = 0 := rfl
  have e2 : s_sum6 (fun n => s_ept w (g_es (s_begin c) n)) = 0 := rfl
  have e3 : s_mp w [] = 0 := rfl
  rw [e1, e2, e3]
  omega
end C5
/-- there are no more targets than routes -/
theorem s_TS_le (N : s_R) : s_TS N ≤ n_routes N := by
  have H : ∀ m, s_sum6 (fun n => (List.range 6).countP (fun t => (List.range m).any (fun k => decide (n_rn N k = n ∧ n_rt N k = t)))) ≤ m := by
    intro m
    induction m with
    | zero =>
      have e : ∀ n, (List.range 6).countP (fun t => (List.range 0).any (fun k => decide (n_rn N k = n ∧ n_rt N k = t))) = 0 := fun n => by
        rw [List.countP_eq_zero]
        intro t _ q
        cases q
      unfold s_sum6
      simp only [e]
      omega
    | succ m ih =>
      have e1 : ∀ n, (List.range 6).countP (fun t => (List.range (m + 1)).any (fun k => decide (n_rn N k = n ∧ n_rt N k = t))) ≤ (List.range 6).countP (fun t => (List.range m).any (fun k => decide (n_rn N k = n ∧ n_rt N k = t))) + (if n_rn N m = n then 1 else 0) := fun n => by
        have e2 : ∀ t, (List.range (m + 1)).any (fun k => decide (n_rn N k = n ∧ n_rt N k = t)) = ((List.range m).any (fun k => decide (n_rn N k = n ∧ n_rt N k = t)) || decide (n_rn N m = n ∧ n_rt N m = t)) := fun t => by
          rw [List.range_succ, List.any_append]
          simp
        simp only [e2]
        refine Nat.le_trans (cnt_or _) (Nat.add_le_add_left ?_ _)
        by_cases c : n_rn N m = n
        · rw [if_pos c]
          have e3 : (fun t => decide (n_rn N m = n ∧ n_rt N m = t)) = (fun t => decide (t = n_rt N m)) := by
            funext t
            simp only [c, true_and]
            exact decide_eq_decide.mpr ⟨Eq.symm, Eq.symm⟩
          rw [e3]
          have := cnt_one (n_rt N m) 6
          split at this <;> omega
        · rw [if_neg c]
          have e3 : (List.range 6).countP (fun t => decide (n_rn N m = n ∧ n_rt N m = t)) = 0 := by
            rw [List.countP_eq_zero]
            intro t _ q
            exact c (of_decide_eq_true q).1
          omega
      have e4 : s_sum6 (fun n => if n_rn N m = n then 1 else 0) ≤ 1 := by
        dsimp only [s_sum6]
        split <;> split <;> split <;> split <;> split <;> split <;> omega
      have e5 := e1 0
      have e6 := e1 1
      have e7 := e1 2
      have e8 := e1 3
      have e9 := e1 4
      have e10 := e1 5
      dsimp only [s_sum6] at ih e4 ⊢
      omega
  exact H (n_routes N)
/-- messages that may be under way, in a run of K asks -/
def k_Mw (N : s_R) (K : Nat) : Nat := K * s_TS N + 6 * K + 6
theorem k_Mw_mono {N : s_R} {K K' : Nat} (h : K ≤ K') : k_Mw N K ≤ k_Mw N K' := by
  have := Nat.mul_le_mul_right (s_TS N) h
  unfold k_Mw
  omega
theorem k_Mw_le {N : s_R} {K : Nat} : k_Mw N K ≤ K * n_routes N + 6 * K + 6 := by
  have := Nat.mul_le_mul_left K (s_TS_le N)
  unfold k_Mw
  omega
section C5
variable {N : s_R} {lk : Nat → Option Nat} {G G' : s_G} {K : Nat} {W : s_W} {t tm : Nat} {Q : List s_M} {P : Nat} {z y : Int} {m : s_M} {n k : Nat} {name wish : Int32}
theorem s_cc.comes0 (hc : s_cc w_0 N K (m :: Q) 0 G) (h : s_inv N K W t tm (m :: Q) P z y G) (hN : n_ok N) (hlk : s_lkok N lk) (hK : K ≤ 64) : s_cc w_0 N K Q 0 (s_comes N lk m G) :=
  (hc.comes h w_0_ok hN hlk hK).weak (by omega)
theorem s_cc.goesBy0 (hc : s_cc w_0 N K [] 0 G) (h : s_inv N K W t t [] 0 0 0 G) (ht : t + 1 ≤ 99) (hK : K ≤ 64) (hN : n_ok N) (hlk : s_lkok N lk) : s_cc w_0 N K [] 0 (s_goesBy N lk G) := by
  refine (hc.goesBy h w_0_ok ht hK hN hlk).weak ?_
  have e : w_s w_0 = 0 := rfl
  rw [e]
  omega
theorem s_cc.begins0 (hc : s_cc w_0 N K [] 0 G) (h : s_inv N K W t t [] 0 0 0 G) (ht : t + 1 ≤ 99) (hK : K ≤ 64) (hN : n_ok N) : s_cc w_0 N K (s_nowl (nI (t + 1)) (g_ways G)) 0 (g_sways (s_endsAll N (g_sminute G (g_minute G + 1))) (s_restl (nI (t + 1)) (g_ways G))) :=
  (hc.begins h w_0_ok ht hK hN).weak (by omega)
theorem s_cc.ask0 (hc : s_cc w_0 N k [] 0 G) (hN : n_ok N) (hlk : s_lkok N lk) (hk : k < 64) (hn : n < 6) : s_cc w_0 N (k + 1) [] 0 (s_ask N lk n k name wish G) := by
  refine (hc.ask w_0_ok hN hlk hk hn).weak ?_
  have e : w_e w_0 = 0 := rfl
  have e2 : w_a w_0 = 0 := rfl
  rw [e, e2]
  omega
end C5
