/-! THE COST, 7: a run -/
set_option maxRecDepth 100000
set_option linter.unusedVariables false
section C4
variable {w : s_Wt} {N : s_R} {lk : Nat → Option Nat} {G G' : s_G} {K : Nat} {W : s_W} {t tm : Nat} {Q : List s_M} {P : Nat} {z y : Int} {x x' : Int}
theorem s_cc.plays (hw : w_ok w) (hN : n_ok N) (hlk : s_lkok N lk) {ds : Nat → s_Dd} : ∀ (m k wd t : Nat) (W : s_W) (G : s_G) (x : Int), k + m ≤ 60 → (∀ j, k ≤ j → j < k + m → d_ok (ds j)) → s_cc w N k [] x G → s_inv N k W t t [] 0 0 0 G → ∃ W' t', s_inv N (s_plays N lk ds m k wd G).1 W' t' t' [] 0 0 0 (s_plays N lk ds m k wd G).2.2 ∧ (t ≤ t' ∧ k ≤ (s_plays N lk ds m k wd G).1 ∧ (s_plays N lk ds m k wd G).1 ≤ k + m) ∧ s_cc w N (s_plays N lk ds m k wd G).1 [] (x - (k_d1 w * ((s_plays N lk ds m k wd G).1 - k) + 15 * w_s w * (t' - t) : Nat) + (w_s w * k_plays N lk ds m k G : Nat)) (s_plays N lk ds m k wd G).2.2 := by
  intro m
  induction m with
  | zero =>
    intro k wd t W G x hk hd hc h
    refine ⟨W, t, h, ⟨Nat.le_refl _, Nat.le_refl _, Nat.le_refl _⟩, hc.weak ?_⟩
    show x - ((k_d1 w * (k - k) + 15 * w_s w * (t - t) : Nat) : Int) + ((w_s w * 0 : Nat) : Int) ≤ x
    simp
  | succ m ih =>
    intro k wd t W G x hk hd hc h
    unfold s_plays k_plays
    cases hs : s_does N lk (ds k) k G with
    | none =>
      refine ⟨W, t, h, ⟨Nat.le_refl _, Nat.le_refl _, by show k ≤ _; omega⟩, hc.weak ?_⟩
      show x - ((k_d1 w * (k - k) + 15 * w_s w * (t - t) : Nat) : Int) + ((w_s w * 0 : Nat) : Int) ≤ x
      simp
    | some G' =>
      obtain ⟨W1, t1, h1, l1, hc1⟩ := hc.does h hw hN hlk (by omega) (hd k (by omega) (by omega)) hs
      obtain ⟨W2, t2, h2, ⟨l2, l3, l4⟩, hc2⟩ := ih (k + 1) (max wd (s_all N G')) t1 W1 G' _ (by omega) (fun j j1 j2 => hd j (by omega) (by omega)) hc1 h1
      refine ⟨W2, t2, h2, ⟨by omega, ?_, ?_⟩, hc2.weak ?_⟩
      · show k ≤ (s_plays N lk ds m (k + 1) (max wd (s_all N G')) G').1
        omega
      · show (s_plays N lk ds m (k + 1) (max wd (s_all N G')) G').1 ≤ _
        omega
      · show x - ((k_d1 w * ((s_plays N lk ds m (k + 1) (max wd (s_all N G')) G').1 - k) + 15 * w_s w * (t2 - t) : Nat) : Int) + ((w_s w * (k_does N lk (ds k) G + k_plays N lk ds m (k + 1) G') : Nat) : Int) ≤ _
        generalize (s_plays N lk ds m (k + 1) (max wd (s_all N G')) G').1 = q at l3
        have e1 : q - k = (q - (k + 1)) + 1 := by omega
        have e2 : t2 - t = (t2 - t1) + (t1 - t) := by omega
        rw [e1, e2, Nat.mul_add, Nat.mul_add, Nat.mul_add, Nat.mul_one]
        omega
end C4
/-- what a run costs -/
theorem k_plays_le {N : s_R} {lk : Nat → Option Nat} {ds : Nat → s_Dd} {c : Nat → Nat → Int32} {m : Nat} (hN : n_ok N) (hlk : s_lkok N lk) (hm : m ≤ 60) (hd : ∀ j, j < m → d_ok (ds j)) : k_plays N lk ds m 0 (s_begin c) ≤ 266 * (m * n_routes N) + 555 * m + 1485 := by
  have hi : s_inv N 0 (fun _ => (0, 0)) 0 0 [] 0 0 0 (s_begin c) := s_inv_begin
  obtain ⟨W', t', h2, ⟨l1, l2, l3⟩, hc⟩ := s_cc.plays w_1_ok hN hlk m 0 0 0 _ (s_begin c) 0 (by omega) (fun j _ j2 => hd j (by omega)) (s_cc_begin (w := w_1)) hi
  have ht := h2.1.1.2.2
  generalize (s_plays N lk ds m 0 0 (s_begin c)).1 = q at *
  have hq := hc.top h2 (by omega)
  have e1 : w_i w_1 * (q * s_TS N) ≤ 266 * (m * n_routes N) := Nat.mul_le_mul_left _ (Nat.mul_le_mul (by omega) (s_TS_le N))
  have e2 : k_d1 w_1 * (q - 0) = 555 * q := by
    show 555 * (q - 0) = _
    rw [Nat.sub_zero]
  have e3 : 15 * w_s w_1 * (t' - 0) = 15 * t' := by
    show 15 * (t' - 0) = _
    rw [Nat.sub_zero]
  rw [e2, e3] at hq
  have e4 : w_s w_1 * k_plays N lk ds m 0 (s_begin c) = k_plays N lk ds m 0 (s_begin c) := Nat.one_mul _
  rw [e4] at hq
  omega
