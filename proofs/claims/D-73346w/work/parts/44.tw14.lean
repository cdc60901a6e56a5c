/-! THE TWIN's LAW, 14: data go to all of an entry -/
set_option maxRecDepth 100000
theorem x_forS {γ δ β : Type} (R : Nat → γ → δ → Prop) (L : Nat → Nat → γ → β) (K : γ → β) (st : Nat → δ → δ) (n : Nat) (h1 : ∀ f s g, R n s g → L (f + 1) n s = K s) (h2 : ∀ f k s g, R k s g → k < n → ∃ s1, L (f + 1) k s = L f (k + 1) s1 ∧ R (k + 1) s1 (st k g)) : ∀ f k s g, k ≤ n → R k s g → n - k < f → ∃ s', L f k s = K s' ∧ R n s' (s_fold st k (n - k) g) := by
  intro f
  induction f with
  | zero => intro k s g _ _ h; omega
  | succ f ih =>
    intro k s g hk hR hf
    by_cases h : k < n
    · obtain ⟨s1, e1, R1⟩ := h2 f k s g hR h
      obtain ⟨s', e2, R2⟩ := ih (k + 1) s1 (st k g) (by omega) R1 (by omega)
      refine ⟨s', e1.trans e2, ?_⟩
      rw [show n - k = (n - (k + 1)) + 1 by omega]
      exact R2
    · have e : k = n := by omega
      subst e
      rw [Nat.sub_self]
      exact ⟨s, h1 f s g hR, hR⟩
/-- what only sends and ends asks leaves the nodes -/
theorem g_nd_send {N : s_R} {lk : Nat → Option Nat} {kind name wish nonce : Int32} {n to : Nat} {r : s_Q} {G : s_G} : g_nd (s_send N lk kind n to name wish nonce r G) = g_nd G ∧ (g_ways (s_send N lk kind n to name wish nonce r G)).length ≤ (g_ways G).length + 1 := by
  unfold s_send
  split
  · refine ⟨rfl, ?_⟩
    show (g_ways G ++ [_]).length ≤ _
    rw [List.length_append]
    exact Nat.le_refl _
  · exact ⟨rfl, Nat.le_succ _⟩
theorem g_nd_data {N : s_R} {lk : Nat → Option Nat} {name : Int32} {n t : Nat} {r : s_Q} {G : s_G} : g_nd (s_data N lk n t name r G) = g_nd G ∧ (g_ways (s_data N lk n t name r G)).length ≤ (g_ways G).length + 1 := by
  unfold s_data
  split
  · exact g_nd_send
  · exact ⟨rfl, Nat.le_succ _⟩
theorem g_nd_nack {N : s_R} {lk : Nat → Option Nat} {name wish : Int32} {n t : Nat} {r : s_Q} {G : s_G} : g_nd (s_nack N lk n t name wish r G) = g_nd G ∧ (g_ways (s_nack N lk n t name wish r G)).length ≤ (g_ways G).length + 1 := by
  unfold s_nack
  split
  · exact g_nd_send
  · exact ⟨rfl, Nat.le_succ _⟩
def s_bit (s k : Int32) : Bool := decide ((s >>> (k &&& 31)) &&& 1 = 1)
theorem p_has' (s k : Int32) : D_has s k = some (if s_bit s k = true then 1 else 0) := by
  rw [p_has]
  unfold s_bit
  by_cases h : (s >>> (k &&& 31)) &&& 1 = 1
  · rw [if_pos h, if_pos (decide_eq_true h)]
  · rw [if_neg h, if_neg (by rw [decide_eq_false h]; decide)]
/-- data to the nodes of a set -/
def s_dataAll (N : s_R) (lk : Nat → Option Nat) (n : Nat) (set name : Int32) (r : s_Q) (G : s_G) : s_G := s_fold (fun to G => if s_bit set (nI to) = true then s_data N lk n to name r G else G) 0 (n_nodes N) G
/-- data to the asks of a set -/
def s_getAll (set : Int64) (r : s_Q) (G : s_G) : s_G := s_fold (fun k G => if s_hasL set (nI k) = true then s_get r k G else G) 0 64 G
section T44
variable {σ σ' : t_S} {N : s_R} {lk : Nat → Option Nat} {G : s_G}
theorem p_answers_2 {n i : Nat} {e : s_E} {r : s_Q} (K : t_S → Option t_S) (h : t_rel σ N lk G) (hN : n_ok N) (hlk : ∀ i, i < 36 → ∀ l, lk i = some l → l < n_links N) (hr : t_reg σ r) (hn : n < 6) (he : (g_es G n)[i]? = some e) (hw : (g_ways G).length + 6 ≤ 4096) : ∃ σ', D_answers_2 (nI n) (nI (64 * n + i)) K x_F 0 σ = K σ' ∧ t_rel σ' N lk (s_dataAll N lk n (e_in e) (e_name e) r G) ∧ t_reg σ' r ∧ t_out σ σ' ∧ g_nd (s_dataAll N lk n (e_in e) (e_name e) r G) = g_nd G := by
  have hnn : N 0 = nI (n_nodes N) ∧ n_nodes N ≤ 6 := hN.1.1
  obtain ⟨hi, he'⟩ := List.getElem?_eq_some_iff.mp he
  have hlen := (h.2.2.2.1 n hn).1.2.1
  have key := x_forS (fun k (s : t_S) (g : s_G) => t_rel s N lk g ∧ t_reg s r ∧ t_out σ s ∧ g_nd g = g_nd G ∧ (g_ways g).length ≤ (g_ways G).length + k) (fun f k s => D_answers_2 (nI n) (nI (64 * n + i)) K f (nI k) s) K (fun to G => if s_bit (e_in e) (nI to) = true then s_data N lk n to (e_name e) r G else G) (n_nodes N) ?_ ?_ x_F 0 σ G (by omega) ⟨h, hr, t_out.refl, rfl, by omega⟩ (by rw [x_Fv]; omega)
  · obtain ⟨s', k1, k2, k3, k4, k5, -⟩ := key
    exact ⟨s', k1, k2, k3, k4, k5⟩
  · intro f s g hq
    obtain ⟨q1, -, -, -, -⟩ := hq
    show (if t_i s 23 ≤ _ then _ else _) = _
    rw [q1.1.2.2.1, hnn.1, if_pos (Int32.le_refl _)]
  · intro f k s g hq hk
    obtain ⟨q1, q2, q3, q4, q5⟩ := hq
    have hes : g_es g n = g_es G n := by unfold g_es; rw [q4]
    have e0 : a_e s (64 * n + i) = e := by
      have := (q1.2.2.2.1 n hn).1.2.2 i (by rw [hes]; exact hi)
      rw [this]
      have e9 : (g_es g n)[i]? = some e := by rw [hes]; exact he
      exact (List.getElem?_eq_some_iff.mp e9).2
    have d1 : t_a s 37 (64 * n + i) = e_in e := congrArg (fun x : s_E => x.2.2.1) e0
    have d2 : t_a s 35 (64 * n + i) = e_name e := congrArg (fun x : s_E => x.1) e0
    have g1 : ∀ {α : Type} (kk : Nat → Option α), x_ga (nI (64 * n + i)) 384 kk = kk (64 * n + i) := fun kk => x_gaS (by omega) (by omega)
    have hL : D_answers_2 (nI n) (nI (64 * n + i)) K (f + 1) (nI k) s = if s_bit (e_in e) (nI k) = true then x_b (D_dataTo (nI n) (nI k) (e_name e) s) (fun σ14 => D_answers_2 (nI n) (nI (64 * n + i)) K f (nI (k + 1)) σ14) else D_answers_2 (nI n) (nI (64 * n + i)) K f (nI (k + 1)) s := by
      show (if t_i s 23 ≤ nI k then _ else _) = _
      rw [q1.1.2.2.1, hnn.1, if_neg (nI_ge hk (by omega)), g1, d1, p_has', x_bS]
      by_cases c : s_bit (e_in e) (nI k) = true
      · rw [if_pos c, if_pos c, if_neg (show ¬ (1 : Int32) = 0 by decide), g1, d2]
        simp only [x_lS, nI_1]
      · rw [if_neg c, if_neg c, if_pos (show (0 : Int32) = 0 from rfl)]
        simp only [x_lS, nI_1]
    by_cases c : s_bit (e_in e) (nI k) = true
    · obtain ⟨s1, m1, m2, m3, m4⟩ := p_dataTo (name := e_name e) (t := k) q1 hN hlk q2 hn (Or.inl (by omega)) (by omega)
      refine ⟨s1, ?_, ?_⟩
      · show D_answers_2 (nI n) (nI (64 * n + i)) K (f + 1) (nI k) s = _
        rw [hL, if_pos c, m1, x_bS]
      · show t_rel s1 N lk (if s_bit (e_in e) (nI k) = true then s_data N lk n k (e_name e) r g else g) ∧ _
        rw [if_pos c]
        obtain ⟨z1, z2⟩ := g_nd_data (N := N) (lk := lk) (name := e_name e) (n := n) (t := k) (r := r) (G := g)
        exact ⟨m2, m3, q3.trans m4, z1.trans q4, by omega⟩
    · refine ⟨s, ?_, ?_⟩
      · show D_answers_2 (nI n) (nI (64 * n + i)) K (f + 1) (nI k) s = _
        rw [hL, if_neg c]
      · show t_rel s N lk (if s_bit (e_in e) (nI k) = true then s_data N lk n k (e_name e) r g else g) ∧ _
        rw [if_neg c]
        exact ⟨q1, q2, q3, q4, by omega⟩
end T44
