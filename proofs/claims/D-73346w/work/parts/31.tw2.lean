/-! THE TWIN's LAW, 2: a net by its row of 122 ints -/
set_option maxRecDepth 100000
abbrev s_R : Type := Nat → Int32
def v_ (x : Int32) : Nat := x.toNatClampNeg
theorem v_nI {n : Nat} (h : n < 2 ^ 31) : v_ (nI n) = n := nI_clamp h
def s_sm (x : Int32) (m : Nat) : Prop := x = nI (v_ x) ∧ v_ x ≤ m
def s_vn (n : Nat) : Prop := 0 < n ∧ n < 27 ^ 4 ∧ ∀ d ∈ s_let n, d ≠ 0
def n_nodes (N : s_R) : Nat := v_ (N 0)
def n_life (N : s_R) : Nat := v_ (N 1)
def n_links (N : s_R) : Nat := v_ (N 2)
def n_routes (N : s_R) : Nat := v_ (N 3)
def n_serves (N : s_R) : Nat := v_ (N 4)
def n_room (N : s_R) (i : Nat) : Nat := v_ (N (5 + i))
def n_la (N : s_R) (l : Nat) : Nat := v_ (N (11 + 3 * l))
def n_lb (N : s_R) (l : Nat) : Nat := v_ (N (11 + 3 * l + 1))
def n_ld (N : s_R) (l : Nat) : Nat := v_ (N (11 + 3 * l + 2))
def n_rn (N : s_R) (k : Nat) : Nat := v_ (N (56 + 4 * k))
def n_rw (N : s_R) (k : Nat) : Nat := v_ (N (56 + 4 * k + 1))
def n_rt (N : s_R) (k : Nat) : Nat := v_ (N (56 + 4 * k + 2))
def n_rc (N : s_R) (k : Nat) : Nat := v_ (N (56 + 4 * k + 3))
def n_sn (N : s_R) (k : Nat) : Nat := v_ (N (104 + 3 * k))
def n_sw (N : s_R) (k : Nat) : Nat := v_ (N (104 + 3 * k + 1))
def n_sc (N : s_R) (k : Nat) : Nat := v_ (N (104 + 3 * k + 2))
/-- a net as the reader takes it -/
def n_ok (N : s_R) : Prop :=
  (s_sm (N 0) 6 ∧ 1 ≤ n_nodes N) ∧ (s_sm (N 1) 99 ∧ 1 ≤ n_life N) ∧ s_sm (N 2) 15 ∧ s_sm (N 3) 12 ∧ s_sm (N 4) 6 ∧
  (∀ i, i < 6 → s_sm (N (5 + i)) 4) ∧
  (∀ l, l < n_links N → s_sm (N (11 + 3 * l)) (n_nodes N - 1) ∧ s_sm (N (11 + 3 * l + 1)) (n_nodes N - 1) ∧ s_sm (N (11 + 3 * l + 2)) 9 ∧ n_la N l ≠ n_lb N l ∧ 1 ≤ n_ld N l) ∧
  (∀ l m, l < n_links N → m < n_links N → (n_la N l = n_la N m ∧ n_lb N l = n_lb N m ∨ n_la N l = n_lb N m ∧ n_lb N l = n_la N m) → l = m) ∧
  (∀ k, k < n_routes N → s_sm (N (56 + 4 * k)) (n_nodes N - 1) ∧ (s_sm (N (56 + 4 * k + 1)) (27 ^ 4) ∧ s_vn (n_rw N k)) ∧ s_sm (N (56 + 4 * k + 2)) (n_nodes N - 1) ∧ s_sm (N (56 + 4 * k + 3)) 99 ∧ n_rn N k ≠ n_rt N k) ∧
  (∀ k, k < n_serves N → s_sm (N (104 + 3 * k)) (n_nodes N - 1) ∧ (s_sm (N (104 + 3 * k + 1)) (27 ^ 4) ∧ s_vn (n_sw N k)) ∧ s_sm (N (104 + 3 * k + 2)) 99)
/-- the net at hand -/
def t_net (σ : t_S) (N : s_R) : Prop := ∃ kk, kk < 8 ∧ t_i σ 22 = nI kk ∧ ∀ j, j < 122 → t_a σ 6 (122 * kk + j) = N j
section T31
variable {σ : t_S} {N : s_R}
theorem p_ofNet {j : Nat} (h : t_net σ N) (hj : j < 122) : D_ofNet (nI j) σ = some (N j) := by
  obtain ⟨kk, h1, h2, h3⟩ := h
  unfold D_ofNet
  rw [h2, show (122 : Int32) = nI 122 from rfl, nI_mul, nI_add, x_gaS (by omega) (by omega), h3 j hj]
theorem p_links (h : t_net σ N) : D_links σ = some (N 2) := by
  unfold D_links
  rw [show (2 : Int32) = nI 2 from rfl, p_ofNet h (by omega)]
  rfl
theorem p_routes (h : t_net σ N) : D_routes σ = some (N 3) := by
  unfold D_routes
  rw [show (3 : Int32) = nI 3 from rfl, p_ofNet h (by omega)]
  rfl
theorem p_serves (h : t_net σ N) : D_serves σ = some (N 4) := by
  unfold D_serves
  rw [show (4 : Int32) = nI 4 from rfl, p_ofNet h (by omega)]
  rfl
theorem p_linkAt {l w : Nat} (h : t_net σ N) (hl : l < 15) (hw : w < 3) : D_linkAt (nI l) (nI w) σ = some (N (11 + 3 * l + w)) := by
  unfold D_linkAt
  rw [show (11 : Int32) = nI 11 from rfl, show (3 : Int32) = nI 3 from rfl, nI_mul, nI_add, nI_add, p_ofNet h (by omega)]
  rfl
theorem p_routeAt {k w : Nat} (h : t_net σ N) (hk : k < 12) (hw : w < 4) : D_routeAt (nI k) (nI w) σ = some (N (56 + 4 * k + w)) := by
  unfold D_routeAt
  rw [show (56 : Int32) = nI 56 from rfl, show (4 : Int32) = nI 4 from rfl, nI_mul, nI_add, nI_add, p_ofNet h (by omega)]
  rfl
theorem p_serveAt {k w : Nat} (h : t_net σ N) (hk : k < 6) (hw : w < 3) : D_serveAt (nI k) (nI w) σ = some (N (104 + 3 * k + w)) := by
  unfold D_serveAt
  rw [show (104 : Int32) = nI 104 from rfl, show (3 : Int32) = nI 3 from rfl, nI_mul, nI_add, nI_add, p_ofNet h (by omega)]
  rfl
theorem p_isNode {v : Int32} (h : t_i σ 23 = N 0) : D_isNode v σ = some (s_i (0 ≤ v ∧ v ≤ N 0 - 1)) := by
  unfold D_isNode
  rw [h, p_in, x_bS, x_gS]
  unfold s_i
  split
  · exact Or.inr rfl
  · exact Or.inl rfl
/-- how long the longest beginning of a name is that a node has routes for -/
def s_longest (N : s_R) (node name : Nat) : Nat := s_fold (fun k m => if n_rn N k = node ∧ s_pre (n_rw N k) name = true then max m (s_len (n_rw N k)) else m) 0 (n_routes N) 0
theorem n_rt_b (h : n_ok N) {k : Nat} (hk : k < n_routes N) : k < 12 ∧ N (56 + 4 * k) = nI (n_rn N k) ∧ N (56 + 4 * k + 1) = nI (n_rw N k) ∧ N (56 + 4 * k + 2) = nI (n_rt N k) ∧ N (56 + 4 * k + 3) = nI (n_rc N k) ∧ n_rn N k < 6 ∧ n_rw N k < 27 ^ 4 ∧ n_rt N k < 6 ∧ n_rc N k ≤ 99 := by
  obtain ⟨⟨⟨-, h0⟩, h0'⟩, -, -, ⟨-, h3⟩, -, -, -, -, hr, -⟩ := h
  obtain ⟨⟨a1, a2⟩, ⟨⟨b1, -⟩, -, b2, -⟩, ⟨c1, c2⟩, ⟨d1, d2⟩, -⟩ := hr k hk
  have e0 : n_nodes N = v_ (N 0) := rfl
  have e1 : v_ (N (56 + 4 * k)) = n_rn N k := rfl
  have e2 : v_ (N (56 + 4 * k + 2)) = n_rt N k := rfl
  have e3 : n_routes N = v_ (N 3) := rfl
  exact ⟨by omega, a1, b1, c1, d1, by omega, b2, by omega, d2⟩
theorem n_ln_b (h : n_ok N) {l : Nat} (hl : l < n_links N) : l < 15 ∧ N (11 + 3 * l) = nI (n_la N l) ∧ N (11 + 3 * l + 1) = nI (n_lb N l) ∧ N (11 + 3 * l + 2) = nI (n_ld N l) ∧ n_la N l < 6 ∧ n_lb N l < 6 ∧ n_ld N l ≤ 9 ∧ 1 ≤ n_ld N l ∧ n_la N l ≠ n_lb N l := by
  obtain ⟨⟨⟨-, h0⟩, h0'⟩, -, ⟨-, h3⟩, -, -, -, hr, -⟩ := h
  obtain ⟨⟨a1, a2⟩, ⟨b1, b2⟩, ⟨c1, c2⟩, d1, d2⟩ := hr l hl
  have e0 : n_nodes N = v_ (N 0) := rfl
  have e1 : v_ (N (11 + 3 * l)) = n_la N l := rfl
  have e2 : v_ (N (11 + 3 * l + 1)) = n_lb N l := rfl
  have e4 : v_ (N (11 + 3 * l + 2)) = n_ld N l := rfl
  have e3 : n_links N = v_ (N 2) := rfl
  exact ⟨by omega, a1, b1, c1, by omega, by omega, by omega, d2, d1⟩
theorem n_sv_b (h : n_ok N) {k : Nat} (hk : k < n_serves N) : k < 6 ∧ N (104 + 3 * k) = nI (n_sn N k) ∧ N (104 + 3 * k + 1) = nI (n_sw N k) ∧ N (104 + 3 * k + 2) = nI (n_sc N k) ∧ n_sn N k < 6 ∧ n_sw N k < 27 ^ 4 ∧ n_sc N k ≤ 99 := by
  obtain ⟨⟨⟨-, h0⟩, h0'⟩, -, -, -, ⟨-, h3⟩, -, -, -, -, hr⟩ := h
  obtain ⟨⟨a1, a2⟩, ⟨⟨b1, -⟩, -, b2, -⟩, ⟨c1, c2⟩⟩ := hr k hk
  have e0 : n_nodes N = v_ (N 0) := rfl
  have e1 : v_ (N (104 + 3 * k)) = n_sn N k := rfl
  have e3 : n_serves N = v_ (N 4) := rfl
  exact ⟨by omega, a1, b1, c1, by omega, b2, c2⟩
theorem p_route0 {k : Nat} (h : t_net σ N) (hN : n_ok N) (hk : k < n_routes N) : D_routeAt (nI k) 0 σ = some (nI (n_rn N k)) := by
  have b := n_rt_b hN hk
  exact (p_routeAt (w := 0) h b.1 (by omega)).trans (congrArg some b.2.1)
theorem p_route1 {k : Nat} (h : t_net σ N) (hN : n_ok N) (hk : k < n_routes N) : D_routeAt (nI k) 1 σ = some (nI (n_rw N k)) := by
  have b := n_rt_b hN hk
  exact (p_routeAt (w := 1) h b.1 (by omega)).trans (congrArg some b.2.2.1)
theorem p_route2 {k : Nat} (h : t_net σ N) (hN : n_ok N) (hk : k < n_routes N) : D_routeAt (nI k) 2 σ = some (nI (n_rt N k)) := by
  have b := n_rt_b hN hk
  exact (p_routeAt (w := 2) h b.1 (by omega)).trans (congrArg some b.2.2.2.1)
theorem p_route3 {k : Nat} (h : t_net σ N) (hN : n_ok N) (hk : k < n_routes N) : D_routeAt (nI k) 3 σ = some (nI (n_rc N k)) := by
  have b := n_rt_b hN hk
  exact (p_routeAt (w := 3) h b.1 (by omega)).trans (congrArg some b.2.2.2.2.1)
theorem p_link0 {k : Nat} (h : t_net σ N) (hN : n_ok N) (hk : k < n_links N) : D_linkAt (nI k) 0 σ = some (nI (n_la N k)) := by
  have b := n_ln_b hN hk
  exact (p_linkAt (w := 0) h b.1 (by omega)).trans (congrArg some b.2.1)
theorem p_link1 {k : Nat} (h : t_net σ N) (hN : n_ok N) (hk : k < n_links N) : D_linkAt (nI k) 1 σ = some (nI (n_lb N k)) := by
  have b := n_ln_b hN hk
  exact (p_linkAt (w := 1) h b.1 (by omega)).trans (congrArg some b.2.2.1)
theorem p_link2 {k : Nat} (h : t_net σ N) (hN : n_ok N) (hk : k < n_links N) : D_linkAt (nI k) 2 σ = some (nI (n_ld N k)) := by
  have b := n_ln_b hN hk
  exact (p_linkAt (w := 2) h b.1 (by omega)).trans (congrArg some b.2.2.2.1)
theorem p_serve0 {k : Nat} (h : t_net σ N) (hN : n_ok N) (hk : k < n_serves N) : D_serveAt (nI k) 0 σ = some (nI (n_sn N k)) := by
  have b := n_sv_b hN hk
  exact (p_serveAt (w := 0) h b.1 (by omega)).trans (congrArg some b.2.1)
theorem p_serve1 {k : Nat} (h : t_net σ N) (hN : n_ok N) (hk : k < n_serves N) : D_serveAt (nI k) 1 σ = some (nI (n_sw N k)) := by
  have b := n_sv_b hN hk
  exact (p_serveAt (w := 1) h b.1 (by omega)).trans (congrArg some b.2.2.1)
theorem p_serve2 {k : Nat} (h : t_net σ N) (hN : n_ok N) (hk : k < n_serves N) : D_serveAt (nI k) 2 σ = some (nI (n_sc N k)) := by
  have b := n_sv_b hN hk
  exact (p_serveAt (w := 2) h b.1 (by omega)).trans (congrArg some b.2.2.2.1)
theorem p_longestAt {node name : Nat} (h : t_net σ N) (hN : n_ok N) (hn : node < 6) (hm : name < 2 ^ 31) : D_longestAt (nI node) (nI name) σ = some (nI (s_longest N node name)) := by
  unfold D_longestAt s_longest
  have h3 : N 3 = nI (n_routes N) := hN.2.2.2.1.1
  have h3' : n_routes N ≤ 12 := hN.2.2.2.1.2
  refine x_for (fun _ (m : Nat) => m ≤ 7) (fun f m k => D_longestAt_5 (nI node) (nI name) σ (fun v => some v) f (nI m) (nI k)) (fun m => some (nI m)) _ (n_routes N) ?_ ?_ ?_ x_F 0 0 (by omega) (by omega) (by rw [x_Fv]; omega)
  · intro f m _
    show x_b (D_routes σ) _ = _
    rw [p_routes h, x_bS, h3, if_pos (Int32.le_refl _)]
  · intro f m k hm7 hk
    obtain ⟨b1, -, -, -, -, b6, b7, -⟩ := n_rt_b hN hk
    show x_b (D_routes σ) _ = _
    rw [p_routes h, x_bS, h3, if_neg (nI_ge hk (by omega)), p_route0 h hN hk, x_bS, p_route1 h hN hk]
    simp only [x_lS, x_bS]
    rw [p_isBeginning (by omega) hm, p_lettersOf (by omega)]
    simp only [x_bS]
    rw [p_greater]
    simp only [x_bS, nI_1]
    by_cases c1 : n_rn N k = node
    · by_cases c2 : s_pre (n_rw N k) name = true
      · rw [if_pos (show nI (n_rn N k) = nI node by rw [c1]), if_pos c2, if_neg (show ¬ (1 : Int32) = 0 by decide), if_neg (show ¬ (1 : Int32) = 0 by decide), if_pos (show n_rn N k = node ∧ s_pre (n_rw N k) name = true from ⟨c1, c2⟩)]
        congr 1
        by_cases c3 : s_len (n_rw N k) < m
        · rw [if_pos (nI_lt c3 (by omega)), Nat.max_eq_left (by omega)]
        · have := s_len7 (show n_rw N k < 2 ^ 31 by omega)
          rw [if_neg (nI_nlt (by omega) (by omega)), Nat.max_eq_right (by omega)]
      · rw [if_pos (show nI (n_rn N k) = nI node by rw [c1]), if_neg c2, if_pos (show (0 : Int32) = 0 from rfl), if_pos trivial, if_neg (show ¬ (n_rn N k = node ∧ s_pre (n_rw N k) name = true) from fun q => c2 q.2)]
    · rw [if_neg (show ¬ nI (n_rn N k) = nI node from fun e => c1 ((nI_eq (by omega) (by omega)).mp e)), if_pos trivial, if_neg (show ¬ (n_rn N k = node ∧ s_pre (n_rw N k) name = true) from fun q => c1 q.1)]
  · intro m k hm7 hk
    have := s_len7 (show n_rw N k < 2 ^ 31 by have := (n_rt_b hN hk).2.2.2.2.2.2.1; omega)
    show (if _ then _ else _) ≤ 7
    split
    · exact Nat.max_le.mpr ⟨hm7, this⟩
    · exact hm7
theorem p_isRoute {node name most k : Nat} (h : t_net σ N) (hN : n_ok N) (hn : node < 6) (hm : name < 2 ^ 31) (hq : most < 2 ^ 31) (hk : k < n_routes N) : D_isRoute (nI k) (nI node) (nI name) (nI most) σ = some (s_i (n_rn N k = node ∧ s_len (n_rw N k) = most ∧ s_pre (n_rw N k) name = true)) := by
  obtain ⟨b1, -, -, -, -, b6, b7, -⟩ := n_rt_b hN hk
  have := s_len7 (show n_rw N k < 2 ^ 31 by omega)
  unfold D_isRoute
  rw [p_route0 h hN hk, x_bS, p_route1 h hN hk]
  simp only [x_bS, p_lettersOf (show n_rw N k < 2 ^ 31 by omega), p_isBeginning (show n_rw N k < 2 ^ 31 by omega) hm, nI_eq (show n_rn N k < 2 ^ 31 by omega) (show node < 2 ^ 31 by omega), nI_eq (show s_len (n_rw N k) < 2 ^ 31 by omega) hq]
  by_cases c1 : n_rn N k = node <;> by_cases c2 : s_len (n_rw N k) = most <;> by_cases c3 : s_pre (n_rw N k) name = true <;> simp [c1, c2, c3]
/-- a number or none -/
def oI : Option Nat → Int32
  | none => -1
  | some k => nI k
theorem oI_none {k : Nat} (h : k < 2 ^ 31) : ¬ nI k = -1 := by
  intro e
  have h1 := congrArg Int32.toInt e
  rw [nI_toInt h] at h1
  have h2 : (-1 : Int32).toInt = -1 := by decide
  rw [h2] at h1
  omega
/-- which serve a node has for a name -/
def s_serve (N : s_R) (node name : Nat) : Option Nat := s_fold (fun k (o : Option Nat) => if n_sn N k = node ∧ s_pre (n_sw N k) name = true ∧ (∀ j, o = some j → s_len (n_sw N j) < s_len (n_sw N k)) then some k else o) 0 (n_serves N) none
end T31
