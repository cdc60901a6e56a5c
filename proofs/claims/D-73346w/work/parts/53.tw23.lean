/-! THE TWIN's LAW, 23: what holds of a run -/
set_option maxRecDepth 100000
set_option linter.unusedVariables false
/-- a name: the number of 1 to 4 letters -/
def s_wn (x : Int32) : Prop := x = nI (v_ x) ∧ s_vn (v_ x)
abbrev s_W : Type := Nat → Int32 × Int32
/-- an entry of node n: of asks below K (W: what they want), it ends after t -/
def s_eok (N : s_R) (K : Nat) (W : s_W) (t n : Nat) (dead : Int64) (e : s_E) : Prop :=
  (∃ k, k < K ∧ e_first e = nI k ∧ W k = (e_name e, e_wish e) ∧ s_hasL (e_nonces e) (nI k) = true ∧ s_hasL dead (nI k) = false) ∧
  (∃ x, e_ends e = nI x ∧ t < x ∧ x ≤ 300) ∧ (∃ o, o < 6 ∧ e_out e = nI o ∧ n < n_nodes N) ∧
  (∀ j, j < 64 → s_hasL (e_nonces e) (nI j) = true → j < K ∧ W j = (e_name e, e_wish e)) ∧
  (∀ j, j < 64 → s_hasL (e_asks e) (nI j) = true → j < K) ∧ s_bit (e_tried e) (nI n) = false ∧ s_wn (e_name e) ∧ (e_wish e = 0 ∨ e_wish e = 1)
def s_nok (N : s_R) (K : Nat) (W : s_W) (t n room : Nat) (nd : s_N) : Prop :=
  (∀ e ∈ nd.1, s_eok N K W t n nd.2.2 e) ∧ (nd.1.map (fun e => (e.1, e.2.1))).Nodup ∧ (nd.2.1.map (fun d => d.1)).Nodup ∧ nd.2.1.length ≤ room ∧ ∀ d ∈ nd.2.1, s_wn d.1
def s_mok (N : s_R) (K : Nat) (W : s_W) (m : s_M) : Prop :=
  (∃ a b, m.1.2.1 = nI a ∧ m.1.2.2.1 = nI b ∧ a < n_nodes N ∧ b < n_nodes N ∧ a ≠ b) ∧ s_wn m.1.2.2.2.1 ∧ (m.1.1 = 0 ∨ m.1.1 = 1 ∨ m.1.1 = 2) ∧
  (m.1.1 = 0 → ∃ k, k < K ∧ m.1.2.2.2.2.2.1 = nI k ∧ W k = (m.1.2.2.2.1, m.1.2.2.2.2.1)) ∧ (m.1.2.2.2.2.1 = 0 ∨ m.1.2.2.2.2.1 = 1)
def s_dok (t : Nat) (m : s_M) : Prop := ∃ x, m.1.2.2.2.2.2.2 = nI x ∧ t < x ∧ x ≤ 300
def s_inv0 (N : s_R) (K : Nat) (W : s_W) (t tm : Nat) (Q : List s_M) (G : s_G) : Prop :=
  (g_minute G = nI tm ∧ t ≤ tm ∧ tm ≤ 99) ∧ (∀ n, n < 6 → s_nok N K W t n (n_room N n) (g_nd G n)) ∧ (∀ m ∈ Q, s_mok N K W m) ∧ ∀ m ∈ g_ways G, s_mok N K W m ∧ s_dok t m
/-- the links: their places are those of their nodes -/
def s_lkok (N : s_R) (lk : Nat → Option Nat) : Prop := ∀ i l, i < 36 → lk i = some l → l < n_links N ∧ (n_la N l = i / 6 ∧ n_lb N l = i % 6 ∨ n_la N l = i % 6 ∧ n_lb N l = i / 6)
def s_sum6 (f : Nat → Nat) : Nat := f 0 + f 1 + f 2 + f 3 + f 4 + f 5
def s_oin (G : s_G) (n : Nat) : Nat := ((g_es G n).map (fun e => s_pop (e_in e))).sum
def s_phi (K : Nat) (G : s_G) (n : Nat) : Nat := 5 * s_dc K (g_dead G n) + ((g_es G n).map (fun e => s_pop (e_tried e))).sum
def s_ints (ws : List s_M) : Nat := ws.countP (fun m => decide (m.1.1 = 0))
/-- messages counted: I interests, R others; z answers that may be sent, y interests -/
def s_cnt (K : Nat) (Q : List s_M) (P : Nat) (z y : Int) (G : s_G) : Prop :=
  ∃ I R : Nat, P + (g_ways G).length ≤ I + R ∧ (R : Int) + ((s_ints Q + s_ints (g_ways G) + s_sum6 (s_oin G) : Nat) : Int) + z ≤ (I : Int) ∧ (I : Int) + y ≤ ((s_sum6 (s_phi K G) : Nat) : Int)
section T53
variable {N : s_R} {lk : Nat → Option Nat} {G G' : s_G} {K : Nat} {W : s_W} {t tm : Nat} {Q : List s_M} {P : Nat} {z y z' y' : Int}
theorem s_inv0.congr (h : s_inv0 N K W t tm Q G) (h1 : g_nd G' = g_nd G) (h2 : g_ways G' = g_ways G) (h3 : g_minute G' = g_minute G) : s_inv0 N K W t tm Q G' := by
  unfold s_inv0 at h ⊢
  rw [h1, h2, h3]
  exact h
theorem s_cnt.congr (h : s_cnt K Q P z y G) (h1 : g_nd G' = g_nd G) (h2 : g_ways G' = g_ways G) : s_cnt K Q P z y G' := by
  have e1 : s_oin G' = s_oin G := by funext n; unfold s_oin g_es; rw [h1]
  have e2 : s_phi K G' = s_phi K G := by funext n; unfold s_phi g_es g_dead; rw [h1]
  unfold s_cnt at h ⊢
  rw [e1, e2, h2]
  exact h
theorem s_cnt.weak (h : s_cnt K Q P z y G) (hz : z' ≤ z) (hy : y' ≤ y) : s_cnt K Q P z' y' G := by
  obtain ⟨I, R, h1, h2, h3⟩ := h
  exact ⟨I, R, h1, by omega, by omega⟩
theorem s_sum6_up {f f' : Nat → Nat} {n : Nat} (hn : n < 6) (h : ∀ j, j ≠ n → f' j = f j) : s_sum6 f' + f n = s_sum6 f + f' n := by
  unfold s_sum6
  rcases (show n = 0 ∨ n = 1 ∨ n = 2 ∨ n = 3 ∨ n = 4 ∨ n = 5 by omega) with rfl | rfl | rfl | rfl | rfl | rfl
  all_goals
    first
    | (have a1 := h 1 (by omega); have a2 := h 2 (by omega); have a3 := h 3 (by omega); have a4 := h 4 (by omega); have a5 := h 5 (by omega); omega)
    | (have a0 := h 0 (by omega); have a2 := h 2 (by omega); have a3 := h 3 (by omega); have a4 := h 4 (by omega); have a5 := h 5 (by omega); omega)
    | (have a0 := h 0 (by omega); have a1 := h 1 (by omega); have a3 := h 3 (by omega); have a4 := h 4 (by omega); have a5 := h 5 (by omega); omega)
    | (have a0 := h 0 (by omega); have a1 := h 1 (by omega); have a2 := h 2 (by omega); have a4 := h 4 (by omega); have a5 := h 5 (by omega); omega)
    | (have a0 := h 0 (by omega); have a1 := h 1 (by omega); have a2 := h 2 (by omega); have a3 := h 3 (by omega); have a5 := h 5 (by omega); omega)
    | (have a0 := h 0 (by omega); have a1 := h 1 (by omega); have a2 := h 2 (by omega); have a3 := h 3 (by omega); have a4 := h 4 (by omega); omega)
/-- a node changes -/
theorem s_cnt.node {n : Nat} {nd : s_N} (h : s_cnt K Q P z y G) (hn : n < 6) (hz : z' + (((nd.1.map (fun e => s_pop (e_in e))).sum : Nat) : Int) ≤ z + ((s_oin G n : Nat) : Int)) (hy : y' + ((s_phi K G n : Nat) : Int) ≤ y + ((5 * s_dc K nd.2.2 + (nd.1.map (fun e => s_pop (e_tried e))).sum : Nat) : Int)) : s_cnt K Q P z' y' (g_snd G (s_up1 (g_nd G) n nd)) := by
  obtain ⟨I, R, h1, h2, h3⟩ := h
  have a1 : ∀ j, j ≠ n → s_oin (g_snd G (s_up1 (g_nd G) n nd)) j = s_oin G j := fun j hj => by
    unfold s_oin g_es; rw [g_nd_snd, s_up1_n hj]
  have a2 : s_oin (g_snd G (s_up1 (g_nd G) n nd)) n = (nd.1.map (fun e => s_pop (e_in e))).sum := by
    unfold s_oin g_es; rw [g_nd_snd, s_up1_s]
  have b1 : ∀ j, j ≠ n → s_phi K (g_snd G (s_up1 (g_nd G) n nd)) j = s_phi K G j := fun j hj => by
    unfold s_phi g_es g_dead; rw [g_nd_snd, s_up1_n hj]
  have b2 : s_phi K (g_snd G (s_up1 (g_nd G) n nd)) n = 5 * s_dc K nd.2.2 + (nd.1.map (fun e => s_pop (e_tried e))).sum := by
    unfold s_phi g_es g_dead; rw [g_nd_snd, s_up1_s]
  have c1 := s_sum6_up hn a1
  have c2 := s_sum6_up hn b1
  rw [a2] at c1
  rw [b2] at c2
  exact ⟨I, R, h1, by rw [g_ways_snd]; omega, by omega⟩
theorem s_ints_app (a b : List s_M) : s_ints (a ++ b) = s_ints a + s_ints b := List.countP_append
theorem s_up_some {down : Int32} {a b : Nat} (h : s_up lk down a b = true) : ∃ l, lk (6 * a + b) = some l := by
  unfold s_up at h
  cases e : lk (6 * a + b) with
  | none => rw [e] at h; cases h
  | some l => exact ⟨l, rfl⟩
/-- an up link leads to another node of the net; it takes 1 to 9 minutes -/
theorem s_up_ok {down : Int32} {a b : Nat} (hN : n_ok N) (hlk : s_lkok N lk) (ha : a < 6) (hb : b < 6) (h : s_up lk down a b = true) : a < n_nodes N ∧ b < n_nodes N ∧ a ≠ b ∧ ∃ l, lk (6 * a + b) = some l ∧ 1 ≤ n_ld N l ∧ n_ld N l ≤ 9 := by
  obtain ⟨l, hl⟩ := s_up_some h
  obtain ⟨h1, h2⟩ := hlk (6 * a + b) l (by omega) hl
  have hn1 : 1 ≤ n_nodes N := hN.1.2
  obtain ⟨q1, q2, q3, q4, q5⟩ := hN.2.2.2.2.2.2.1 l h1
  have e1 : (6 * a + b) / 6 = a := by omega
  have e2 : (6 * a + b) % 6 = b := by omega
  rw [e1, e2] at h2
  have r1 : n_la N l ≤ n_nodes N - 1 := q1.2
  have r2 : n_lb N l ≤ n_nodes N - 1 := q2.2
  have r3 : n_ld N l ≤ 9 := q3.2
  refine ⟨by omega, by omega, by omega, l, hl, q5, r3⟩
/-- a message is sent -/
theorem s_inv0.send {kind name wish nonce : Int32} {n to : Nat} {r : s_Q} (h : s_inv0 N K W t tm Q G) (hN : n_ok N) (hlk : s_lkok N lk) (hn : n < 6) (hto : to < 6) (hk : kind = 0 ∨ kind = 1 ∨ kind = 2) (hnm : s_wn name) (hw : wish = 0 ∨ wish = 1) (h0 : kind = 0 → ∃ k, k < K ∧ nonce = nI k ∧ W k = (name, wish)) : s_inv0 N K W t tm Q (s_send N lk kind n to name wish nonce r G) := by
  obtain ⟨⟨m1, m2, m3⟩, hnd, hQ, hW⟩ := h
  unfold s_send
  by_cases hu : s_up lk (g_down G) n to = true
  · rw [if_pos hu]
    obtain ⟨u1, u2, u3, l, hl, d1, d2⟩ := s_up_ok hN hlk hn hto hu
    refine ⟨⟨m1, m2, m3⟩, hnd, hQ, fun m hm => ?_⟩
    have hm' : m ∈ g_ways G ++ [((kind, nI n, nI to, name, wish, nonce, s_due N lk G n to), r)] := hm
    rcases List.mem_append.mp hm' with q | q
    · exact hW m q
    · have e := List.mem_singleton.mp q
      subst e
      refine ⟨⟨⟨n, to, rfl, rfl, u1, u2, u3⟩, hnm, hk, h0, hw⟩, tm + n_ld N l, ?_, by omega, by omega⟩
      show g_minute G + nI (n_ld N ((lk (6 * n + to)).getD 0)) = _
      rw [hl, m1]
      exact nI_add _ _
  · rw [if_neg hu]
    exact ⟨⟨m1, m2, m3⟩, hnd, hQ, hW⟩
theorem s_cnt.send {kind name wish nonce : Int32} {n to : Nat} {r : s_Q} (h : s_cnt K Q P z y G) (hk : kind ≠ 0) : s_cnt K Q P (z - 1) y (s_send N lk kind n to name wish nonce r G) := by
  unfold s_send
  by_cases hu : s_up lk (g_down G) n to = true
  · rw [if_pos hu]
    obtain ⟨I, R, h1, h2, h3⟩ := h
    refine ⟨I, R + 1, ?_, ?_, h3⟩
    · show P + (g_ways G ++ [_]).length ≤ _
      rw [List.length_append]
      show P + ((g_ways G).length + 1) ≤ _
      omega
    · have e : s_ints (g_ways G ++ [((kind, nI n, nI to, name, wish, nonce, s_due N lk G n to), r)]) = s_ints (g_ways G) := by
        rw [s_ints_app]
        unfold s_ints
        simp [hk]
      have e2 : s_oin (g_ssent (g_sways G (g_ways G ++ [((kind, nI n, nI to, name, wish, nonce, s_due N lk G n to), r)])) (g_sent G + 1)) = s_oin G := rfl
      rw [e2]
      show ((R + 1 : Nat) : Int) + ((s_ints Q + s_ints (g_ways G ++ [_]) + s_sum6 (s_oin G) : Nat) : Int) + (z - 1) ≤ _
      rw [e]
      omega
  · rw [if_neg hu]
    exact (h.congr (G' := g_smissed G (g_missed G + 1)) rfl rfl).weak (by omega) (by omega)
theorem s_cnt.send0 {name wish nonce : Int32} {n to : Nat} {r : s_Q} (h : s_cnt K Q P z (y + 1) G) : s_cnt K Q P z y (s_send N lk 0 n to name wish nonce r G) := by
  unfold s_send
  by_cases hu : s_up lk (g_down G) n to = true
  · rw [if_pos hu]
    obtain ⟨I, R, h1, h2, h3⟩ := h
    refine ⟨I + 1, R, ?_, ?_, ?_⟩
    · show P + (g_ways G ++ [_]).length ≤ _
      rw [List.length_append]
      show P + ((g_ways G).length + 1) ≤ _
      omega
    · have e : s_ints (g_ways G ++ [(((0 : Int32), nI n, nI to, name, wish, nonce, s_due N lk G n to), r)]) = s_ints (g_ways G) + 1 := by
        rw [s_ints_app]
        rfl
      have e2 : s_oin (g_ssent (g_sways G (g_ways G ++ [(((0 : Int32), nI n, nI to, name, wish, nonce, s_due N lk G n to), r)])) (g_sent G + 1)) = s_oin G := rfl
      rw [e2]
      show (R : Int) + ((s_ints Q + s_ints (g_ways G ++ [_]) + s_sum6 (s_oin G) : Nat) : Int) + z ≤ _
      rw [e]
      omega
    · have e2 : s_phi K (g_ssent (g_sways G (g_ways G ++ [(((0 : Int32), nI n, nI to, name, wish, nonce, s_due N lk G n to), r)])) (g_sent G + 1)) = s_phi K G := rfl
      rw [e2]
      omega
  · rw [if_neg hu]
    exact (h.congr (G' := g_smissed G (g_missed G + 1)) rfl rfl).weak (by omega) (by omega)
end T53
