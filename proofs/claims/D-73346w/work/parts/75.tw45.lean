/-! THE TWIN's LAW, 45: behind a run -/
set_option maxRecDepth 100000
set_option maxHeartbeats 400000
def d_isAsk (d : s_Dd) : Bool := decide (d.1 = 0) || decide (d.1 = 1)
/-- which of the first k deeds are asks -/
def s_Ak (ds : Nat → s_Dd) (k : Nat) : Nat → Bool := fun j => decide (j < k) && d_isAsk (ds j)
/-- of those that got data: how many, their minutes -/
def s_gotN (G : s_G) (m : Nat) : Nat := s_cntB (fun k => decide (g_came G 57 k = 1)) m
def s_gotS (G : s_G) (m : Nat) : Nat := s_fold (fun k a => if g_came G 57 k = 1 then a + (v_ (g_came G 58 k) - v_ (g_came G 59 k)) else a) 0 m 0
def q_mean (G : s_G) (under : Bool) : Int32 := if s_gotN G 40 = 0 then -1 else nI ((if under = true then s_gotN G 40 else s_gotS G 40) / Nat.gcd (s_gotN G 40) (s_gotS G 40))
def q_afterOf (w : Nat) (G : s_G) (what : Int32) : Int32 :=
  if what = 0 then g_sent G else if what = 1 then g_hits G else if what = 2 then g_joined G else if what = 3 then g_loops G else if what = 4 then g_dropped G else if what = 5 then g_missed G else if what = 6 then nI w
  else if what = 7 then q_mean G false else if what = 8 then q_mean G true else -2
def q_after (T : s_T) (c : Nat → Nat → Int32) (n r what : Int32) : Int32 := match s_row (u_runs T.1) r, s_row (u_nets T.1) n with
  | some R, some N => q_afterOf (s_play N (s_lk0 N none) (r_dd R) (r_cnt R) (s_begin c)).2.1 (s_play N (s_lk0 N none) (r_dd R) (r_cnt R) (s_begin c)).2.2 what
  | _, _ => -2
section T75
variable {σ σ' : t_S} {N R : s_R} {T : s_T} {lk : Nat → Option Nat} {G G' : s_G} {A : Nat → Bool} {K : Nat} {W : s_W} {t : Nat}
theorem s_cinv.does {d : s_Dd} {k : Nat} (h : s_cinv A t G) (hi : s_inv N k W t t [] 0 0 0 G) (hN : n_ok N) (hlk : s_lkok N lk) (hk : k < 60) (hd : d_ok d) (h' : s_does N lk d k G = some G') : s_cinv (if d_isAsk d = true then s_up1 A k true else A) (v_ (g_minute G')) G' := by
  have hmin : g_minute G = nI t := hi.1.1.1
  have ht : t ≤ 99 := hi.1.1.2.2
  have vt : v_ (g_minute G) = t := by rw [hmin]; exact v_nI (by omega)
  have hnn : n_nodes N ≤ 6 := hN.1.1.2
  have fin : ∀ {B : Nat → Bool} {t' : Nat} {g : s_G}, t' ≤ 99 → s_cinv B t' g → s_cinv B (v_ (g_minute g)) g := by
    intro B t' g ht' hg
    have : v_ (g_minute g) = t' := by rw [hg.1]; exact v_nI (by omega)
    rw [this]; exact hg
  unfold s_does at h'
  unfold d_isAsk
  rcases hd with ⟨a, ⟨n, n1, n2⟩, c⟩ | ⟨a, m, m1, m2, m3⟩ | ⟨a, x, y', x1, x2, x3, x4, x5⟩
  · rw [if_pos a] at h'
    rw [if_pos (by rcases a with a | a <;> simp [a])]
    split at h'
    · rename_i q
      cases h'
      exact fin ht (h.ask (by omega) (by omega))
    · cases h'
  · rw [if_neg (by rw [a]; decide), if_pos a] at h'
    have vm : v_ d.2.1 = m := by rw [m3]; exact v_nI (by omega)
    rw [vt, vm] at h'
    rw [if_neg (by rw [a]; decide)]
    split at h'
    · rename_i q
      cases h'
      exact fin q (s_cinv.goMany (by omega) hN hlk m q hi h)
    · cases h'
  · have a1 : ¬ (d.1 = 0 ∨ d.1 = 1) := by rcases a with a | a <;> rw [a] <;> decide
    have a2 : ¬ d.1 = 2 := by rcases a with a | a <;> rw [a] <;> decide
    rw [if_neg a1, if_neg a2] at h'
    rw [if_neg (by simpa using a1)]
    split at h'
    · cases hl : lk (6 * v_ d.2.1 + v_ d.2.2) with
      | none => rw [hl] at h'; cases h'
      | some l =>
        rw [hl] at h'
        have h2 : (if s_bit (g_down G) (nI l) = decide (d.1 = 3) then none else some (s_turn l (decide (d.1 = 3)) G)) = some G' := h'
        split at h2
        · cases h2
        · cases h2
          exact fin ht (h.congr (G' := s_turn l (decide (d.1 = 3)) G) rfl rfl rfl)
    · cases h'
theorem s_Ak_succ (ds : Nat → s_Dd) (k : Nat) : s_Ak ds (k + 1) = if d_isAsk (ds k) = true then s_up1 (s_Ak ds k) k true else s_Ak ds k := by
  funext j
  unfold s_Ak
  by_cases c : d_isAsk (ds k) = true
  · rw [if_pos c]
    unfold s_up1
    by_cases q : j = k
    · subst q; rw [if_pos rfl, c]; simp
    · rw [if_neg q]
      have : decide (j < k + 1) = decide (j < k) := decide_eq_decide.mpr (by omega)
      rw [this]
  · rw [if_neg c]
    by_cases q : j = k
    · subst q
      have : d_isAsk (ds j) = false := by simpa using c
      rw [this]; simp
    · have : decide (j < k + 1) = decide (j < k) := decide_eq_decide.mpr (by omega)
      rw [this]
theorem s_cinv.plays {ds : Nat → s_Dd} (hN : n_ok N) (hlk : s_lkok N lk) {n : Nat} (hn : n ≤ 60) (hds : ∀ k, k < n → d_ok (ds k)) : ∀ (m k w : Nat) (W : s_W) (t : Nat) (G : s_G), k + m = n → s_inv N k W t t [] 0 0 0 G → s_cinv (s_Ak ds k) t G → ∃ t', t' ≤ 99 ∧ s_cinv (s_Ak ds (s_plays N lk ds m k w G).1) t' (s_plays N lk ds m k w G).2.2 := by
  intro m
  induction m with
  | zero => intro k w W t G hk hi hc; exact ⟨t, hi.1.1.2.2, hc⟩
  | succ m ih =>
    intro k w W t G hk hi hc
    unfold s_plays
    cases hs : s_does N lk (ds k) k G with
    | none => exact ⟨t, hi.1.1.2.2, hc⟩
    | some G' =>
      obtain ⟨W', t', hi'⟩ := hi.does hN hlk (by omega) (hds k (by omega)) hs
      have hc' := hc.does hi hN hlk (by omega) (hds k (by omega)) hs
      rw [← s_Ak_succ] at hc'
      have ht' : v_ (g_minute G') = t' := by rw [hi'.1.1.1]; exact v_nI (by have := hi'.1.1.2.2; omega)
      rw [ht'] at hc'
      exact ih (k + 1) _ W' t' G' (by omega) hi' hc'
theorem s_play_cinv {n : Nat} {c : Nat → Nat → Int32} (hN : n_ok N) (hlk : s_lkok N lk) (hR : r_ok R) (hn : n ≤ r_cnt R) : ∃ t', t' ≤ 99 ∧ s_cinv (s_Ak (r_dd R) (s_play N lk (r_dd R) n (s_begin c)).1) t' (s_play N lk (r_dd R) n (s_begin c)).2.2 := by
  have h40 := hR.1.2
  have e : s_Ak (r_dd R) 0 = fun _ => false := by funext j; unfold s_Ak; simp
  exact s_cinv.plays (ds := r_dd R) hN hlk (n := n) (by omega) (fun k hk => hR.2 k (by omega)) n 0 0 (fun _ => (0, 0)) 0 (s_begin c) (by omega) s_inv_begin (by rw [e]; exact s_cinv_begin)
theorem p_common : ∀ (f p q : Nat), p < 2 ^ 31 → q < 2 ^ 31 → q < f → D_common_4 (fun (v2_8 : Int32) => some v2_8) f (nI p) (nI q) = some (nI (Nat.gcd p q)) := by
  intro f
  induction f with
  | zero => intro p q _ _ h; omega
  | succ f ih =>
    intro p q hp hq hf
    show (if nI q = 0 then _ else _) = _
    by_cases c : q = 0
    · subst c
      rw [if_pos nI_0, Nat.gcd_zero_right]
    · have hm := Nat.mod_lt p (Nat.pos_of_ne_zero c)
      rw [if_neg (nI_ne0 (Nat.pos_of_ne_zero c) hq), x_gS (nI_ne0 (Nat.pos_of_ne_zero c) hq), x_lS, nI_mod hp hq, ih q (p % q) hq (by omega) (by omega)]
      rw [Nat.gcd_comm p q, Nat.gcd_rec q p, Nat.gcd_comm]
theorem s_gotS_le {tm : Nat} (h : s_cinv A tm G) (ht : tm ≤ 99) {m : Nat} (hm : m ≤ 64) : s_gotS G m ≤ 99 * m := by
  have H := s_foldP (fun k (a : Nat) => a ≤ 99 * k) (fun k a => if g_came G 57 k = 1 then a + (v_ (g_came G 58 k) - v_ (g_came G 59 k)) else a) m (fun a k ha hk => by
    have ha' : a ≤ 99 * k := ha
    show (if g_came G 57 k = 1 then a + (v_ (g_came G 58 k) - v_ (g_came G 59 k)) else a) ≤ 99 * (k + 1)
    by_cases c : g_came G 57 k = 1
    · rw [if_pos c]
      obtain ⟨q1, q2⟩ := h.2.2 k (by omega)
      cases hA : A k with
      | false => rw [q1 hA] at c; exact absurd c (by decide)
      | true =>
        obtain ⟨a0, b1, b2, b3⟩ := q2 hA
        rcases b3 with b3 | ⟨-, b, c1, c2, c3⟩
        · rw [b3] at c; exact absurd c (by decide)
        · rw [c3, v_nI (by omega)]; omega
    · rw [if_neg c]; omega) m 0 0 (by omega) (by omega)
  unfold s_gotS
  omega
theorem p_mean {tm : Nat} {under : Bool} (h : t_rel σ N lk G) (hc : s_cinv A tm G) (ht : tm ≤ 99) : D_mean (if under = true then 1 else 0) σ = some (q_mean G under) := by
  have hcm := h.2.2.2.2.2.2.1
  unfold D_mean
  have key := x_for (fun k (p : Nat × Nat) => p.1 ≤ 99 * k) (fun f (p : Nat × Nat) k => D_mean_7 (if under = true then 1 else 0) σ (fun (v2_22 : Int32) (v3_23 : Int32) => if v3_23 = 0 then (some (-1 : Int32)) else x_l (fun (s25 : Int32) => x_b (D_common v3_23 v2_22) fun r27 => x_g (¬ r27 = 0) <| some (s25 / r27)) fun J89 => if (if under = true then (1 : Int32) else 0) = 0 then (J89 v2_22) else J89 v3_23) f (nI p.1) (nI p.2) (nI k)) (fun p => (fun (v2_22 : Int32) (v3_23 : Int32) => if v3_23 = 0 then (some (-1 : Int32)) else x_l (fun (s25 : Int32) => x_b (D_common v3_23 v2_22) fun r27 => x_g (¬ r27 = 0) <| some (s25 / r27)) fun J89 => if (if under = true then (1 : Int32) else 0) = 0 then (J89 v2_22) else J89 v3_23) (nI p.1) (nI p.2)) (fun k (p : Nat × Nat) => (if g_came G 57 k = 1 then p.1 + (v_ (g_came G 58 k) - v_ (g_came G 59 k)) else p.1, if decide (g_came G 57 k = 1) = true then p.2 + 1 else p.2)) 40 ?_ ?_ ?_ x_F 0 (0, 0) (by omega) (by show 0 ≤ _; omega) (by rw [x_Fv]; omega)
  · -- the fold of pairs is the pair of folds
    have hp : ∀ m k (p : Nat × Nat), s_fold (fun k (p : Nat × Nat) => (if g_came G 57 k = 1 then p.1 + (v_ (g_came G 58 k) - v_ (g_came G 59 k)) else p.1, if decide (g_came G 57 k = 1) = true then p.2 + 1 else p.2)) k m p = (s_fold (fun k a => if g_came G 57 k = 1 then a + (v_ (g_came G 58 k) - v_ (g_came G 59 k)) else a) k m p.1, s_fold (fun k a => if decide (g_came G 57 k = 1) = true then a + 1 else a) k m p.2) := by
      intro m
      induction m with
      | zero => intro k p; rfl
      | succ m ih => intro k p; exact ih (k + 1) _
    rw [hp] at key
    have hS := s_gotS_le hc ht (m := 40) (by omega)
    have hNn : s_gotN G 40 ≤ 40 := s_cntB_le _ _
    have e1 : s_fold (fun k a => if g_came G 57 k = 1 then a + (v_ (g_came G 58 k) - v_ (g_came G 59 k)) else a) 0 40 0 = s_gotS G 40 := rfl
    have e2 : s_fold (fun k a => if decide (g_came G 57 k = 1) = true then a + 1 else a) 0 40 0 = s_gotN G 40 := rfl
    rw [show (40 : Nat) - 0 = 40 from rfl] at key
    dsimp only at key
    rw [e1, e2] at key
    refine key.trans ?_
    unfold q_mean
    by_cases c : s_gotN G 40 = 0
    · rw [if_pos c, if_pos (show nI (s_gotN G 40) = 0 by rw [c, nI_0])]
    · rw [if_neg c, if_neg (show ¬ nI (s_gotN G 40) = 0 from nI_ne0 (by omega) (by omega)), x_lS]
      have hg : D_common (nI (s_gotN G 40)) (nI (s_gotS G 40)) = some (nI (Nat.gcd (s_gotN G 40) (s_gotS G 40))) := p_common x_F _ _ (by omega) (by omega) (by rw [x_Fv]; omega)
      have hgp : 0 < Nat.gcd (s_gotN G 40) (s_gotS G 40) := Nat.gcd_pos_of_pos_left _ (by omega)
      have hgl : Nat.gcd (s_gotN G 40) (s_gotS G 40) ≤ 40 := Nat.le_trans (Nat.gcd_le_left _ (by omega)) hNn
      cases under with
      | false =>
        rw [if_pos (show (if (false : Bool) = true then (1 : Int32) else 0) = 0 from rfl), hg]
        show x_g _ _ = _
        rw [x_gS (nI_ne0 hgp (by omega)), nI_div (by omega) (by omega)]
        rfl
      | true =>
        rw [if_neg (show ¬ (if (true : Bool) = true then (1 : Int32) else 0) = 0 by decide), hg]
        show x_g _ _ = _
        rw [x_gS (nI_ne0 hgp (by omega)), nI_div (by omega) (by omega)]
        rfl
  · intro f p _
    show (if (40 : Int32) ≤ nI 40 then _ else _) = _
    rw [if_pos (show (40 : Int32) ≤ nI 40 from Int32.le_refl _)]
  · intro f p k hpk hk
    have hp1 : p.1 ≤ 99 * k := hpk
    have g1 : ∀ {α : Type} (kk : Nat → Option α), x_ga (nI k) 64 kk = kk k := fun kk => x_gaS (by omega) (by omega)
    show (if (40 : Int32) ≤ nI k then _ else _) = _
    rw [if_neg (show ¬ (40 : Int32) ≤ nI k from nI_ge (a := k) (b := 40) hk (by omega)), g1, hcm 57 k (by omega) (by omega) (by omega), x_lS]
    by_cases c : g_came G 57 k = 1
    · obtain ⟨q1, q2⟩ := hc.2.2 k (by omega)
      obtain ⟨a0, b1, b2, b, c1, c2, c3⟩ : ∃ a0, a0 ≤ tm ∧ g_came G 59 k = nI a0 ∧ ∃ b, a0 ≤ b ∧ b ≤ tm ∧ g_came G 58 k = nI b := by
        cases hA : A k with
        | false => rw [q1 hA] at c; exact absurd c (by decide)
        | true =>
          obtain ⟨a0, b1, b2, b3⟩ := q2 hA
          rcases b3 with b3 | ⟨-, b, c1, c2, c3⟩
          · rw [b3] at c; exact absurd c (by decide)
          · exact ⟨a0, b1, b2, b, c1, c2, c3⟩
      rw [if_pos c, g1, g1, hcm 58 k (by omega) (by omega) (by omega), hcm 59 k (by omega) (by omega) (by omega), b2, c3, nI_sub c1]
      show x_l (nI p.1 + nI (b - a0)) _ = _
      rw [x_lS, g1, hcm 57 k (by omega) (by omega) (by omega), if_pos c, x_lS, x_lS, nI_add, nI_1, nI_1]
      dsimp only
      rw [if_pos c, if_pos (decide_eq_true c), v_nI (by omega), v_nI (by omega)]
    · rw [if_neg c]
      show x_l (nI p.1 + 0) _ = _
      rw [x_lS, g1, hcm 57 k (by omega) (by omega) (by omega), if_neg c, x_lS, x_lS, Int32.add_zero, Int32.add_zero, nI_1]
      dsimp only
      rw [if_neg c, if_neg (show ¬ decide (g_came G 57 k = 1) = true by simp [c])]
  · intro p k hpk hk
    have hp1 : p.1 ≤ 99 * k := hpk
    show (if g_came G 57 k = 1 then p.1 + (v_ (g_came G 58 k) - v_ (g_came G 59 k)) else p.1) ≤ 99 * (k + 1)
    by_cases c : g_came G 57 k = 1
    · rw [if_pos c]
      obtain ⟨q1, q2⟩ := hc.2.2 k (by omega)
      cases hA : A k with
      | false => rw [q1 hA] at c; exact absurd c (by decide)
      | true =>
        obtain ⟨a0, b1, b2, b3⟩ := q2 hA
        rcases b3 with b3 | ⟨-, b, c1, c2, c3⟩
        · rw [b3] at c; exact absurd c (by decide)
        · rw [c3, v_nI (by omega)]; omega
    · rw [if_neg c]; omega
theorem p_after {n r what : Int32} (h : t_st σ T) : ∃ c σ', D_after n r what σ = some (q_after T c n r what, σ') ∧ t_keep σ σ' := by
  have h0 : t_st (t_si σ 0 0) T := h.keep t_keep.si
  obtain ⟨σ1, a1, a2, -, a3⟩ := p_lay (n := n) (r := r) h0
  unfold D_after q_after
  rw [x_lS, a1, x_b2S]
  cases hr : s_row (u_runs T.1) r with
  | none => exact ⟨fun _ _ => 0, σ1, if_pos rfl, t_keep.si.trans a2⟩
  | some R =>
    cases hn : s_row (u_nets T.1) n with
    | none => exact ⟨fun _ _ => 0, σ1, if_pos rfl, t_keep.si.trans a2⟩
    | some N =>
      obtain ⟨b1, b2, c, b3⟩ := a3 R N hr hn
      have hN := u_net_ok h hn
      have hR := u_run_ok h hr
      have hlk := s_lk0_ok (N := N) (away := none) hN
      obtain ⟨σ2, d1, d2, d3, d4, d5, d6⟩ := p_play (n := r_cnt R) (W := fun _ => (0, 0)) b3 b1 hN hlk hR (Nat.le_refl _) s_inv_begin
      obtain ⟨t', ht', hci⟩ := s_play_cinv (c := c) hN hlk hR (Nat.le_refl _)
      refine ⟨c, σ2, ?_, (t_keep.si.trans a2).trans d4.keep⟩
      show (if (1 : Int32) = 0 then _ else _) = some (q_afterOf _ _ what, σ2)
      have m0 : D_mean 0 σ2 = some (q_mean _ false) := p_mean (under := false) d2 hci ht'
      have m1 : D_mean 1 σ2 = some (q_mean _ true) := p_mean (under := true) d2 hci ht'
      rw [if_neg (show ¬ (1 : Int32) = 0 by decide), p_deeds b1, x_bS, hR.1.1, d1, x_b2S]
      obtain ⟨-, -, -, -, -, -, -, k1, k2, k3, k4, k5, k6⟩ := d2
      unfold q_afterOf
      by_cases w0 : what = 0
      · rw [if_pos w0, if_pos w0, k1]
      rw [if_neg w0, if_neg w0]
      by_cases w1 : what = 1
      · rw [if_pos w1, if_pos w1, k2]
      rw [if_neg w1, if_neg w1]
      by_cases w2 : what = 2
      · rw [if_pos w2, if_pos w2, k3]
      rw [if_neg w2, if_neg w2]
      by_cases w3 : what = 3
      · rw [if_pos w3, if_pos w3, k4]
      rw [if_neg w3, if_neg w3]
      by_cases w4 : what = 4
      · rw [if_pos w4, if_pos w4, k5]
      rw [if_neg w4, if_neg w4]
      by_cases w5 : what = 5
      · rw [if_pos w5, if_pos w5, k6]
      rw [if_neg w5, if_neg w5]
      by_cases w6 : what = 6
      · rw [if_pos w6, if_pos w6, d3]
      rw [if_neg w6, if_neg w6]
      by_cases w7 : what = 7
      · rw [if_pos w7, if_pos w7, if_neg (show ¬ what = 8 by rw [w7]; decide), m0, x_bS]
      rw [if_neg w7, if_neg w7]
      by_cases w8 : what = 8
      · rw [if_pos w8, if_pos w8, if_pos w8, m1, x_bS]
      rw [if_neg w8, if_neg w8]
end T75
