/-! THE COMPONENT's LAW, 12: the best way, in plain words -/
set_option maxRecDepth 100000
set_option linter.unusedVariables false
/-- a route that a name may take from a node -/
def s_elig (N : s_R) (lk : Nat → Option Nat) (down : Int32) (n name : Nat) (but : Int32) (k : Nat) : Prop :=
  n_rn N k = n ∧ s_len (n_rw N k) = s_longest N n name ∧ s_pre (n_rw N k) name = true ∧ s_up lk down n (n_rt N k) = true ∧ ¬ (but >>> (nI (n_rt N k) &&& 31)) &&& 1 = 1
/-- what was measured is small -/
def s_mso (ms : Nat → Int32) (n : Nat) : Prop := ∀ j, j < 6 → ms (6 * n + j) = -1 ∨ ∃ x, x ≤ 200 ∧ ms (6 * n + j) = nI x
section T93
variable {N : s_R} {lk : Nat → Option Nat} {down but : Int32} {ms : Nat → Int32} {n name : Nat}
theorem s_cost_nI (hN : n_ok N) (hms : s_mso ms n) {k : Nat} (hk : k < n_routes N) : ∃ c, c ≤ 200 ∧ s_cost N ms n k = nI c := by
  have hb := n_rt_b hN hk
  unfold s_cost
  rcases hms (n_rt N k) hb.2.2.2.2.2.2.2.1 with h | ⟨x, h1, h2⟩
  · rw [if_pos h]
    exact ⟨n_rc N k, by have := hb.2.2.2.2.2.2.2.2; omega, rfl⟩
  · rw [h2, if_neg (oI_none (by omega))]
    exact ⟨x, h1, rfl⟩
/-- what the search for the next way has after the first K routes -/
def s_nx (N : s_R) (lk : Nat → Option Nat) (down : Int32) (ms : Nat → Int32) (n name : Nat) (but : Int32) (K : Nat) (q : Option Nat × Int32) : Prop :=
  (q = (none, 1000000) ∧ ∀ k, k < K → ¬ s_elig N lk down n name but k) ∨
  ∃ t c, q = (some t, nI c) ∧ c ≤ 200 ∧ t < 6 ∧ (∃ k, k < K ∧ s_elig N lk down n name but k ∧ n_rt N k = t ∧ s_cost N ms n k = nI c) ∧
    ∀ k c', k < K → s_elig N lk down n name but k → c' ≤ 200 → s_cost N ms n k = nI c' → c < c' ∨ c = c' ∧ t ≤ n_rt N k
theorem s_nx_step (hN : n_ok N) (hms : s_mso ms n) {K : Nat} {q : Option Nat × Int32} (hK : K < n_routes N) (h : s_nx N lk down ms n name but K q) : s_nx N lk down ms n name but (K + 1) (s_step N lk down ms n name but (s_longest N n name) K q) := by
  have hb := n_rt_b hN hK
  obtain ⟨cK, cK1, cK2⟩ := s_cost_nI hN hms hK
  unfold s_step
  by_cases c1 : n_rn N K = n ∧ s_len (n_rw N K) = s_longest N n name ∧ s_pre (n_rw N K) name = true ∧ s_up lk down n (n_rt N K) = true ∧ ¬ (but >>> (nI (n_rt N K) &&& 31)) &&& 1 = 1
  · have e1 : s_elig N lk down n name but K := c1
    rw [if_pos c1, cK2]
    rcases h with ⟨rfl, h2⟩ | ⟨t, c, rfl, h1, h0, h2, h3⟩
    · have hlt : nI cK < (1000000 : Int32) := nI_lt (a := cK) (b := 1000000) (by omega) (by omega)
      rw [if_pos (Or.inl hlt)]
      refine Or.inr ⟨n_rt N K, cK, rfl, cK1, hb.2.2.2.2.2.2.2.1, ⟨K, by omega, e1, rfl, cK2⟩, fun k c' hk he hc' hcc => ?_⟩
      by_cases ek : k = K
      · subst ek
        rw [cK2] at hcc
        have := (nI_eq (by omega) (by omega)).mp hcc
        exact Or.inr ⟨this, Nat.le_refl _⟩
      · exact absurd he (h2 k (by omega))
    · by_cases c2 : nI cK < nI c ∨ nI cK = nI c ∧ nI (n_rt N K) < oI (some t)
      · rw [if_pos c2]
        have c3 : cK < c ∨ cK = c ∧ n_rt N K < t := by
          rcases c2 with c2 | ⟨c2, c4⟩
          · exact Or.inl (by rw [Int32.lt_iff_toInt_lt, nI_toInt (by omega), nI_toInt (by omega)] at c2; omega)
          · have c4' : nI (n_rt N K) < nI t := c4
            rw [Int32.lt_iff_toInt_lt, nI_toInt (by omega), nI_toInt (by omega)] at c4'
            exact Or.inr ⟨(nI_eq (by omega) (by omega)).mp c2, by omega⟩
        refine Or.inr ⟨n_rt N K, cK, rfl, cK1, hb.2.2.2.2.2.2.2.1, ⟨K, by omega, e1, rfl, cK2⟩, fun k c' hk he hc' hcc => ?_⟩
        by_cases ek : k = K
        · subst ek
          rw [cK2] at hcc
          have := (nI_eq (by omega) (by omega)).mp hcc
          exact Or.inr ⟨this, Nat.le_refl _⟩
        · rcases h3 k c' (by omega) he hc' hcc with q | ⟨q, q2⟩
          · exact Or.inl (by omega)
          · omega
      · rw [if_neg c2]
        have c3 : c < cK ∨ c = cK ∧ t ≤ n_rt N K := by
          by_cases q : cK < c
          · exact absurd (Or.inl (nI_lt q (by omega))) c2
          · by_cases q2 : cK = c
            · by_cases q3 : n_rt N K < t
              · exact absurd (Or.inr ⟨by rw [q2], nI_lt q3 (by omega)⟩) c2
              · exact Or.inr ⟨q2.symm, by omega⟩
            · exact Or.inl (by omega)
        obtain ⟨k0, k1, k2, k3, k4⟩ := h2
        refine Or.inr ⟨t, c, rfl, h1, h0, ⟨k0, by omega, k2, k3, k4⟩, fun k c' hk he hc' hcc => ?_⟩
        by_cases ek : k = K
        · subst ek
          rw [cK2] at hcc
          have := (nI_eq (by omega) (by omega)).mp hcc
          omega
        · exact h3 k c' (by omega) he hc' hcc
  · have e1 : ¬ s_elig N lk down n name but K := c1
    rw [if_neg c1]
    rcases h with ⟨rfl, h2⟩ | ⟨t, c, rfl, h1, h0, ⟨k0, k1, k2, k3, k4⟩, h3⟩
    · refine Or.inl ⟨rfl, fun k hk => ?_⟩
      by_cases ek : k = K
      · rw [ek]; exact e1
      · exact h2 k (by omega)
    · refine Or.inr ⟨t, c, rfl, h1, h0, ⟨k0, by omega, k2, k3, k4⟩, fun k c' hk he hc' hcc => ?_⟩
      by_cases ek : k = K
      · rw [ek] at he; exact absurd he e1
      · exact h3 k c' (by omega) he hc' hcc
theorem s_nx_all (hN : n_ok N) (hms : s_mso ms n) : s_nx N lk down ms n name but (n_routes N) (s_fold (fun k q => s_step N lk down ms n name but (s_longest N n name) k q) 0 (n_routes N) (none, 1000000)) := by
  have := s_foldP (fun K q => s_nx N lk down ms n name but K q) (fun k q => s_step N lk down ms n name but (s_longest N n name) k q) (n_routes N) (fun a k h hk => s_nx_step hN hms hk h) (n_routes N) 0 (none, 1000000) (Or.inl ⟨rfl, fun k hk => by omega⟩) (by omega)
  rw [Nat.zero_add] at this
  exact this
/-- a target that is to be had, what it costs -/
def s_tgt (N : s_R) (lk : Nat → Option Nat) (down : Int32) (n name : Nat) (but : Int32) (t : Nat) : Prop := ∃ k, k < n_routes N ∧ s_elig N lk down n name but k ∧ n_rt N k = t
def s_wth (N : s_R) (lk : Nat → Option Nat) (down : Int32) (ms : Nat → Int32) (n name : Nat) (but : Int32) (t c : Nat) : Prop :=
  c ≤ 200 ∧ (∃ k, k < n_routes N ∧ s_elig N lk down n name but k ∧ n_rt N k = t ∧ s_cost N ms n k = nI c) ∧ ∀ k c', k < n_routes N → s_elig N lk down n name but k → n_rt N k = t → c' ≤ 200 → s_cost N ms n k = nI c' → c ≤ c'
/-- the best of the targets is the next way -/
theorem s_next_best (hN : n_ok N) (hms : s_mso ms n) {b : Option Nat} (h : (b = none ∧ ∀ t, t < 6 → ¬ s_tgt N lk down n name but t) ∨ ∃ t c, b = some t ∧ t < 6 ∧ s_wth N lk down ms n name but t c ∧ ∀ t' c', t' < 6 → s_wth N lk down ms n name but t' c' → c < c' ∨ c = c' ∧ t ≤ t') : s_next N lk down ms n name but = b := by
  have H := s_nx_all (lk := lk) (down := down) (name := name) (but := but) hN hms
  unfold s_next
  generalize s_fold (fun k q => s_step N lk down ms n name but (s_longest N n name) k q) 0 (n_routes N) (none, 1000000) = Q at H
  rcases H with ⟨rfl, h2⟩ | ⟨t0, c0, rfl, h1, h0, ⟨k0, k1, k2, k3, k4⟩, h3⟩
  · rcases h with ⟨rfl, -⟩ | ⟨t, c, rfl, -, ⟨-, ⟨k, q1, q2, -⟩, -⟩, -⟩
    · rfl
    · exact absurd q2 (h2 k q1)
  · have hw0 : s_wth N lk down ms n name but t0 c0 := ⟨h1, ⟨k0, k1, k2, k3, k4⟩, fun k c' hk he ht hc' hcc => by
      rcases h3 k c' hk he hc' hcc with q | ⟨q, -⟩ <;> omega⟩
    rcases h with ⟨rfl, h5⟩ | ⟨t, c, rfl, h5, ⟨w1, ⟨k, q1, q2, q3, q4⟩, w3⟩, h6⟩
    · exact absurd ⟨k0, k1, k2, k3⟩ (h5 t0 h0)
    · rcases h6 t0 c0 h0 hw0 with a | ⟨a, a2⟩
      · rcases h3 k c q1 q2 w1 q4 with a3 | ⟨a3, -⟩ <;> omega
      · rcases h3 k c q1 q2 w1 q4 with a3 | ⟨a3, a4⟩
        · omega
        · show some t0 = some t
          congr 1
          omega
end T93
