/-! THE COST, 6: a deed -/
set_option maxRecDepth 100000
set_option linter.unusedVariables false
section C4
variable {w : s_Wt} {N : s_R} {lk : Nat → Option Nat} {G G' : s_G} {K : Nat} {W : s_W} {t tm : Nat} {Q : List s_M} {P : Nat} {z y : Int} {x x' : Int}
theorem s_cc.goMany (hw : w_ok w) (hK : K ≤ 64) (hN : n_ok N) (hlk : s_lkok N lk) : ∀ (m t : Nat) (G : s_G) (x : Int), t + m ≤ 99 → s_cc w N K [] x G → s_inv N K W t t [] 0 0 0 G → s_cc w N K [] (x - (15 * w_s w * m : Nat) + (w_s w * k_goMany N lk m G : Nat)) (s_goMany N lk m G) := by
  intro m
  induction m with
  | zero => intro t G x _ hc h; exact hc.weak (by show x - ((15 * w_s w * 0 : Nat) : Int) + ((w_s w * 0 : Nat) : Int) ≤ x; simp)
  | succ m ih =>
    intro t G x ht hc h
    rw [s_goMany_succ]
    refine (ih (t + 1) _ _ (by omega) (hc.goesBy h hw (by omega) hK hN hlk) (h.goesBy (by omega) hK hN hlk)).weak ?_
    show x - ((15 * w_s w * (m + 1) : Nat) : Int) + ((w_s w * (k_goesBy N lk G + k_goMany N lk m (s_goesBy N lk G)) : Nat) : Int) ≤ _
    rw [Nat.mul_add, Nat.mul_add, Nat.mul_one]
    omega
/-- what a deed may cost beside what its messages pay -/
def k_d1 (w : s_Wt) : Nat := 478 * w_s w + w_e w + w_a w
theorem s_cc.does {d : s_Dd} {k : Nat} (hc : s_cc w N k [] x G) (h : s_inv N k W t t [] 0 0 0 G) (hw : w_ok w) (hN : n_ok N) (hlk : s_lkok N lk) (hk : k < 60) (hd : d_ok d) (h' : s_does N lk d k G = some G') : ∃ W' t', s_inv N (k + 1) W' t' t' [] 0 0 0 G' ∧ t ≤ t' ∧ s_cc w N (k + 1) [] (x - (k_d1 w + 15 * w_s w * (t' - t) : Nat) + (w_s w * k_does N lk d G : Nat)) G' := by
  have hmin : g_minute G = nI t := h.1.1.1
  have ht : t ≤ 99 := h.1.1.2.2
  have vt : v_ (g_minute G) = t := by rw [hmin]; exact v_nI (by omega)
  have hex := h.ext (K' := k + 1) (W' := W) (by omega) (fun j hj => rfl)
  have hcx := hc.ext (K' := k + 1) (by omega)
  have hnn : n_nodes N ≤ 6 := hN.1.1.2
  have e478 : w_s w * (9 + 469) = 478 * w_s w := Nat.mul_comm _ _
  unfold s_does at h'
  unfold k_does k_d1
  rcases hd with ⟨a, ⟨n, n1, n2⟩, c⟩ | ⟨a, m, m1, m2, m3⟩ | ⟨a, u, y', x1, x2, x3, x4, x5⟩
  · rw [if_pos a] at h'
    rw [if_neg (show ¬ d.1 = 2 by rcases a with a | a <;> rw [a] <;> decide)]
    split at h'
    · rename_i q
      cases h'
      refine ⟨_, t, h.ask hN hlk (by omega) (by omega) c a, Nat.le_refl _, (hc.ask hw hN hlk (by omega) (by omega)).weak ?_⟩
      rw [e478, Nat.sub_self, Nat.mul_zero]
      omega
    · cases h'
  · rw [if_neg (by rw [a]; decide), if_pos a] at h'
    rw [if_pos a]
    have vm : v_ d.2.1 = m := by rw [m3]; exact v_nI (by omega)
    rw [vt, vm] at h'
    rw [vm]
    split at h'
    · rename_i q
      cases h'
      refine ⟨W, t + m, s_inv.goMany (by omega) hN hlk m q hex, by omega, (s_cc.goMany hw (by omega) hN hlk m t G x q hcx hex).weak ?_⟩
      rw [Nat.mul_add, Nat.mul_comm (w_s w) 9, Nat.add_sub_cancel_left]
      omega
    · cases h'
  · have a1 : ¬ (d.1 = 0 ∨ d.1 = 1) := by rcases a with a | a <;> rw [a] <;> decide
    have a2 : ¬ d.1 = 2 := by rcases a with a | a <;> rw [a] <;> decide
    rw [if_neg a1, if_neg a2] at h'
    rw [if_neg a2]
    split at h'
    · cases hl : lk (6 * v_ d.2.1 + v_ d.2.2) with
      | none => rw [hl] at h'; cases h'
      | some l =>
        rw [hl] at h'
        have h2 : (if s_bit (g_down G) (nI l) = decide (d.1 = 3) then none else some (s_turn l (decide (d.1 = 3)) G)) = some G' := h'
        split at h2
        · cases h2
        · cases h2
          refine ⟨W, t, hex.congr (G' := s_turn l (decide (d.1 = 3)) G) rfl rfl rfl, Nat.le_refl _, (hcx.congr (G' := s_turn l (decide (d.1 = 3)) G) rfl rfl).weak ?_⟩
          rw [e478, Nat.sub_self, Nat.mul_zero]
          omega
    · cases h'
theorem s_cc.does0 {d : s_Dd} {k : Nat} (hc : s_cc w_0 N k [] 0 G) (h : s_inv N k W t t [] 0 0 0 G) (hN : n_ok N) (hlk : s_lkok N lk) (hk : k < 60) (hd : d_ok d) (h' : s_does N lk d k G = some G') : s_cc w_0 N (k + 1) [] 0 G' := by
  obtain ⟨W', t', -, -, h1⟩ := hc.does h w_0_ok hN hlk hk hd h'
  refine h1.weak ?_
  have e : w_s w_0 = 0 := rfl
  have e2 : k_d1 w_0 = 0 := rfl
  rw [e, e2, Nat.mul_zero, Nat.zero_mul, Nat.zero_mul]
  omega
end C4
