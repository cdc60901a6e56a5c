/-! THE TWIN's LAW, 46: logs -/
set_option maxRecDepth 100000
set_option maxHeartbeats 400000
/-- whether a run is as a log says -/
def s_isSo (L : s_R) (G : s_G) : Bool := (s_find (fun k => !decide ((if g_came G 57 (v_ (L (1 + 2 * k))) = 1 then g_came G 58 (v_ (L (1 + 2 * k))) else -1) = L (1 + 2 * k + 1))) 0 (l_cnt L)).isNone
/-- what was found: how many, the one asked for, how many got each ask's data -/
abbrev s_Ft : Type := Nat × Int32 × (Nat → Nat)
def s_note (w : Int32) (o : Option Nat) (G : s_G) (p : s_Ft) : s_Ft := (p.1 + 1, if nI p.1 = w then oI o else p.2.1, fun k => if g_came G 57 k = 1 then p.2.2 k + 1 else p.2.2 k)
def s_away (i : Nat) : Option Nat := if i = 0 then none else some (i - 1)
def s_fit1 (N R L : s_R) (w : Int32) (c : Nat → Nat → Int32) (i : Nat) (p : s_Ft) : s_Ft := if s_isSo L (s_play N (s_lk0 N (s_away i)) (r_dd R) (r_cnt R) (s_begin c)).2.2 = true then s_note w (s_away i) (s_play N (s_lk0 N (s_away i)) (r_dd R) (r_cnt R) (s_begin c)).2.2 p else p
/-- from p, runs i and so on, m of them, come to p' -/
def s_fitsTo (N R L : s_R) (w : Int32) : Nat → Nat → s_Ft → s_Ft → Prop
  | 0, _, p, p' => p' = p
  | m + 1, i, p, p' => ∃ c, s_fitsTo N R L w m (i + 1) (s_fit1 N R L w c i p) p'
def s_askWhat (R : s_R) (p : s_Ft) : Option Nat := if p.1 = 0 then none else (s_fold (fun k (q : Option Nat × Nat) => if d_isAsk (r_dd R k) = true ∧ max (p.2.2 k) (p.1 - p.2.2 k) < q.2 then (some k, max (p.2.2 k) (p.1 - p.2.2 k)) else q) 0 (r_cnt R) (none, 1000000)).1
def q_fitsOf (R : s_R) (p : s_Ft) (what : Int32) : Int32 := if what < 10 then (if what = 0 then nI p.1 else if what = 1 then oI (s_askWhat R p) else -2) else p.2.1
def q_fitsR (T : s_T) (n r l what res : Int32) : Prop := match s_row (u_logs T.1) l, s_row (u_runs T.1) r, s_row (u_nets T.1) n with
  | some L, some R, some N => ∃ p, s_fitsTo N R L (what - 10) (n_links N + 1) 0 (0, -2, fun _ => 0) p ∧ res = q_fitsOf R p what
  | _, _, _ => res = -2
section T76
variable {σ σ' : t_S} {N R L : s_R} {T : s_T} {lk : Nat → Option Nat} {G G' : s_G} {A : Nat → Bool} {K : Nat} {W : s_W} {t : Nat}
theorem p_isSo (h : t_rel σ N lk G) (hl : t_log σ L) (hL : l_ok L) : D_isSo σ = some (if s_isSo L G = true then 1 else 0) := by
  obtain ⟨⟨L1, L2⟩, L3⟩ := hL
  have hcm := h.2.2.2.2.2.2.1
  unfold D_isSo s_isSo
  rw [show (0 : Int32) = nI 0 from rfl, x_find (fun f k => D_isSo_2 σ (some 1) f (nI k)) (some 1) (fun _ => some (nI 0)) (fun k => !decide ((if g_came G 57 (v_ (L (1 + 2 * k))) = 1 then g_came G 58 (v_ (L (1 + 2 * k))) else -1) = L (1 + 2 * k + 1))) (l_cnt L) ?_ ?_ x_F 0 (by omega) (by rw [x_Fv]; omega), Nat.sub_zero]
  · cases s_find (fun k => !decide ((if g_came G 57 (v_ (L (1 + 2 * k))) = 1 then g_came G 58 (v_ (L (1 + 2 * k))) else -1) = L (1 + 2 * k + 1))) 0 (l_cnt L) <;> rfl
  · intro f
    show x_b (D_facts σ) _ = _
    rw [p_facts hl, x_bS, L1, if_pos (Int32.le_refl _)]
  · intro f k hk
    obtain ⟨⟨a, a1, a2⟩, -⟩ := L3 k hk
    show x_b (D_facts σ) _ = _
    rw [p_facts hl, x_bS, L1, if_neg (nI_ge hk (by omega)), show (0 : Int32) = nI 0 from rfl, p_factOf hl (by omega) (by omega), x_bS, Nat.add_zero, a2, x_gaS (by omega) (by omega), hcm 57 a (by omega) (by omega) (by omega), v_nI (by omega)]
    have key : ∀ s : Int32, (x_b (D_factOf (nI k) (1 : Int32) σ) fun r11 => if s = r11 then (x_l (nI k + (1 : Int32)) fun v13 => D_isSo_2 σ (some 1) f v13) else some (nI 0)) = if (!decide (s = L (1 + 2 * k + 1))) = true then some (nI 0) else D_isSo_2 σ (some 1) f (nI (k + 1)) := by
      intro s
      rw [show (1 : Int32) = nI 1 from rfl, p_factOf hl (by omega) (by omega), x_bS]
      by_cases c : s = L (1 + 2 * k + 1)
      · rw [if_pos c, x_lS, nI_add, if_neg (by simp [c])]
      · rw [if_neg c, if_pos (by simp [c])]
    rw [x_lS]
    by_cases c : g_came G 57 a = 1
    · rw [if_pos c, x_gaS (by omega) (by omega), hcm 58 a (by omega) (by omega) (by omega), if_pos c]
      exact key _
    · rw [if_neg c, if_neg c]
      exact key _
/-- what a log's search keeps -/
def t_ft (σ : t_S) (p : s_Ft) : Prop := t_i σ 82 = nI p.1 ∧ t_i σ 83 = p.2.1 ∧ ∀ k, k < 40 → t_a σ 84 k = nI (p.2.2 k)
theorem t_ft.of {p : s_Ft} (h : t_ft σ p) (ho : t_outP σ σ') : t_ft σ' p := ⟨(ho.1 82 (by omega)).trans h.1, (ho.1 83 (by omega)).trans h.2.1, fun k hk => (ho.2.2 84 k (by omega)).trans (h.2.2 k hk)⟩
theorem t_log.of (h : t_log σ L) (ho : t_outP σ σ') : t_log σ' L := by
  obtain ⟨kk, h1, h2, h3⟩ := h
  exact ⟨kk, h1, (ho.1 81 (by omega)).trans h2, fun j hj => (ho.2.2 8 _ (by omega)).trans (h3 j hj)⟩
theorem t_hand.of (h : t_hand σ N) (ho : t_outP σ σ') : t_hand σ' N := ⟨t_net_of (ho.1 22 (by omega)) (fun j => ho.2.2 6 j (by omega)) h.1, (ho.1 23 (by omega)).trans h.2.1, (ho.1 24 (by omega)).trans h.2.2⟩
/-- only what the search keeps changes -/
def t_p8 (σ σ' : t_S) : Prop := (∀ k, k ≠ 82 → k ≠ 83 → t_i σ' k = t_i σ k) ∧ ∀ k j, k ≠ 84 → t_a σ' k j = t_a σ k j
theorem p_noteFit {w : Int32} {o : Option Nat} {p : s_Ft} (h : t_rel σ N lk G) (hp : t_ft σ p) : ∃ σ', D_noteFit (oI o) w σ = some σ' ∧ t_ft σ' (s_note w o G p) ∧ t_p8 σ σ' := by
  have hcm := h.2.2.2.2.2.2.1
  obtain ⟨p1, p2, p3⟩ := hp
  have loop : ∀ s : t_S, (∀ k, k < 40 → t_a s 84 k = nI (p.2.2 k)) → (∀ k, k < 40 → t_a s 57 k = g_came G 57 k) → ∃ s', D_noteFit_32 (fun (σ17 : t_S) => some σ17) x_F 0 s = some s' ∧ (∀ k, k < 40 → t_a s' 84 k = nI (if g_came G 57 k = 1 then p.2.2 k + 1 else p.2.2 k)) ∧ (∀ k, t_i s' k = t_i s k) ∧ ∀ k j, k ≠ 84 → t_a s' k j = t_a s k j := by
    intro s hs hs57
    have key := x_forS (fun k (s' : t_S) (_ : Unit) => (∀ j, j < k → t_a s' 84 j = nI (if g_came G 57 j = 1 then p.2.2 j + 1 else p.2.2 j)) ∧ (∀ j, k ≤ j → j < 40 → t_a s' 84 j = nI (p.2.2 j)) ∧ (∀ k, t_i s' k = t_i s k) ∧ ∀ k j, k ≠ 84 → t_a s' k j = t_a s k j) (fun f k s' => D_noteFit_32 (fun (σ17 : t_S) => some σ17) f (nI k) s') (fun s' => some s') (fun _ g => g) 40 ?_ ?_ x_F 0 s () (by omega) ⟨fun j hj => by omega, fun j _ hj => hs j hj, fun _ => rfl, fun _ _ _ => rfl⟩ (by rw [x_Fv]; omega)
    · obtain ⟨s', k1, k2, -, k4, k5⟩ := key
      exact ⟨s', k1, k2, k4, k5⟩
    · intro f s' g _
      show (if (40 : Int32) ≤ nI 40 then _ else _) = _
      rw [if_pos (show (40 : Int32) ≤ nI 40 from Int32.le_refl _)]
    · intro f k s' g hq hk
      obtain ⟨q1, q2, q3, q4⟩ := hq
      have g1 : ∀ {α : Type} (kk : Nat → Option α), x_ga (nI k) 40 kk = kk k := fun kk => x_gaS hk (by omega)
      have g2 : ∀ {α : Type} (kk : Nat → Option α), x_ga (nI k) 64 kk = kk k := fun kk => x_gaS (by omega) (by omega)
      refine ⟨t_sa s' 84 k (nI (if g_came G 57 k = 1 then p.2.2 k + 1 else p.2.2 k)), ?_, fun j hj => ?_, fun j h1 h2 => ?_, q3, fun a j ha => by rw [t_a_sa, if_neg (fun z => ha z.1)]; exact q4 a j ha⟩
      · show (if (40 : Int32) ≤ nI k then _ else _) = _
        rw [if_neg (show ¬ (40 : Int32) ≤ nI k from nI_ge (a := k) (b := 40) hk (by omega)), g1, g2, q4 57 k (by decide), hs57 k hk, q2 k (Nat.le_refl _) hk]
        by_cases c : g_came G 57 k = 1
        · rw [if_pos c, g1, x_lS, x_lS, if_pos c, nI_1, nI_1]
        · rw [if_neg c, g1, x_lS, x_lS, if_neg c, Int32.add_zero, nI_1]
      · rw [t_a_sa]
        by_cases c : j = k
        · rw [if_pos ⟨rfl, c⟩, c]
        · rw [if_neg (fun z => c z.2)]; exact q1 j (by omega)
      · rw [t_a_sa, if_neg (by omega)]
        exact q2 j (by omega) h2
  have fin : ∀ x : Int32, x = (if nI p.1 = w then oI o else p.2.1) → ∃ σ', (x_l (t_si σ 83 x) fun σ2 => x_l (t_si σ2 82 ((t_i σ2 82) + (1 : Int32))) fun σ3 => D_noteFit_32 (fun (σ17 : t_S) => some σ17) x_F (0 : Int32) σ3) = some σ' ∧ t_ft σ' (s_note w o G p) ∧ t_p8 σ σ' := by
    intro x hx
    obtain ⟨s', l1, l2, l3, l4⟩ := loop (t_si (t_si σ 83 x) 82 (t_i (t_si σ 83 x) 82 + 1)) p3 (fun k hk => hcm 57 k (by omega) (by omega) (by omega))
    refine ⟨s', ?_, ⟨?_, ?_, l2⟩, ⟨fun k h1 h2 => (l3 k).trans (by rw [t_i_si, if_neg h1, t_i_si, if_neg h2]), fun k j hk => (l4 k j hk).trans rfl⟩⟩
    · rw [x_lS, x_lS]; exact l1
    · rw [l3, t_i_si, if_pos rfl, t_i_si, if_neg (by decide), p1]; exact nI_1 _
    · rw [l3, t_i_si, if_neg (by decide), t_i_si, if_pos rfl]; exact hx
  unfold D_noteFit
  rw [x_lS, p1, p2]
  by_cases c : nI p.1 = w
  · rw [if_pos c]
    exact fin _ (by rw [if_pos c])
  · rw [if_neg c]
    exact fin _ (by rw [if_neg c])
theorem s_away_I (i : Nat) : oI (s_away i) + 1 = oI (s_away (i + 1)) := by
  unfold s_away
  by_cases c : i = 0
  · subst c; rfl
  · rw [if_neg c, if_neg (by omega)]
    show nI (i - 1) + 1 = nI (i + 1 - 1)
    rw [nI_1]
    congr 1
    omega
theorem p_fits_63 {what : Int32} (Kf : t_S → Option (Int32 × t_S)) (hN : n_ok N) (hR : r_ok R) (hL : l_ok L) : ∀ (m f i : Nat) (s : t_S) (p : s_Ft), i + m = n_links N + 1 → m < f → t_hand s N → t_run s R → t_log s L → t_ft s p → ∃ s' p', D_fits_63 what Kf f (oI (s_away i)) s = Kf s' ∧ s_fitsTo N R L (what - 10) m i p p' ∧ t_ft s' p' ∧ t_keep s s' ∧ t_hand s' N ∧ t_run s' R := by
  obtain ⟨c1, c2, c3, c4, c5, c6⟩ := n_counts hN
  intro m
  induction m with
  | zero =>
    intro f i s p hi hf hh hr hl hp
    obtain ⟨f, rfl⟩ : ∃ f', f = f' + 1 := ⟨f - 1, by omega⟩
    refine ⟨s, p, ?_, rfl, hp, t_keep.refl, hh, hr⟩
    show x_b (D_links s) _ = _
    have : s_away i = some (n_links N) := by unfold s_away; rw [if_neg (by omega)]; congr 1; omega
    rw [p_links hh.1, x_bS, c1, this, show oI (some (n_links N)) = nI (n_links N) from rfl, if_pos (Int32.le_refl _)]
  | succ m ih =>
    intro f i s p hi hf hh hr hl hp
    obtain ⟨f, rfl⟩ : ∃ f', f = f' + 1 := ⟨f - 1, by omega⟩
    have hlt : ∀ j, s_away i = some j → j < n_links N := by
      intro j hj
      unfold s_away at hj
      split at hj
      · cases hj
      · cases hj; omega
    have hcond : ¬ nI (n_links N) ≤ oI (s_away i) := by
      cases ho : s_away i with
      | none =>
        intro q
        have : (0 : Int32) ≤ -1 := Int32.le_trans (nI_pos' (n := n_links N) (by omega)) q
        exact absurd this (by decide)
      | some j => exact nI_ge (hlt j ho) (by omega)
    obtain ⟨s1, b1, b2, b3⟩ := p_begin (away := s_away i) hh hN (fun j hj => by have := hlt j hj; omega)
    have hlk := s_lk0_ok (N := N) (away := s_away i) hN
    have hr1 := hr.of b3.P
    have hl1 := hl.of b3.P
    have hh1 := hh.of b3.P
    have hp1 := hp.of b3.P
    obtain ⟨s2, d1, d2, d3, d4, d5, d6⟩ := p_play (n := r_cnt R) (W := fun _ => (0, 0)) b2 hr1 hN hlk hR (Nat.le_refl _) s_inv_begin
    have hr2 := hr1.of d4
    have hl2 := hl1.of d4
    have hh2 := hh1.of d4
    have hp2 := hp1.of d4
    have hstep : D_fits_63 what Kf (f + 1) (oI (s_away i)) s = x_b (D_isSo s2) fun r36 => if r36 = 0 then (D_fits_63 what Kf f (oI (s_away (i + 1))) s2) else x_b (D_noteFit (oI (s_away i)) (what - (10 : Int32)) s2) fun σ40 => D_fits_63 what Kf f (oI (s_away (i + 1))) σ40 := by
      show x_b (D_links s) _ = _
      rw [p_links hh.1, x_bS, c1, if_neg hcond, b1, x_bS, p_deeds hr1, x_bS, hR.1.1, d1, x_b2S]
      simp only [x_lS, s_away_I]
    rw [hstep, p_isSo d2 hl2 hL, x_bS]
    by_cases cs : s_isSo L (s_play N (s_lk0 N (s_away i)) (r_dd R) (r_cnt R) (s_begin (t_a s))).2.2 = true
    · rw [if_pos cs, if_neg (show ¬ (1 : Int32) = 0 by decide)]
      obtain ⟨s3, n1, n2, n3⟩ := p_noteFit (w := what - 10) (o := s_away i) d2 hp2
      rw [n1, x_bS]
      have hh3 : t_hand s3 N := ⟨t_net_of (n3.1 22 (by decide) (by decide)) (fun j => n3.2 6 j (by decide)) hh2.1, (n3.1 23 (by decide) (by decide)).trans hh2.2.1, (n3.1 24 (by decide) (by decide)).trans hh2.2.2⟩
      have hr3 : t_run s3 R := by
        obtain ⟨kk, h1, h2, h3⟩ := hr2
        exact ⟨kk, h1, (n3.1 75 (by decide) (by decide)).trans h2, fun j hj => (n3.2 7 _ (by decide)).trans (h3 j hj)⟩
      have hl3 : t_log s3 L := by
        obtain ⟨kk, h1, h2, h3⟩ := hl2
        exact ⟨kk, h1, (n3.1 81 (by decide) (by decide)).trans h2, fun j hj => (n3.2 8 _ (by decide)).trans (h3 j hj)⟩
      obtain ⟨s4, p', e1, e2, e3, e4, e5, e6⟩ := ih f (i + 1) s3 _ (by omega) (by omega) hh3 hr3 hl3 n2
      refine ⟨s4, p', e1, ⟨t_a s, ?_⟩, e3, ((b3.keep.trans d4.keep).trans (fun k j hk => n3.2 k j (by omega))).trans e4, e5, e6⟩
      unfold s_fit1
      rw [if_pos cs]
      exact e2
    · rw [if_neg cs, if_pos (show (0 : Int32) = 0 from rfl)]
      obtain ⟨s4, p', e1, e2, e3, e4, e5, e6⟩ := ih f (i + 1) s2 p (by omega) (by omega) hh2 hr2 hl2 hp2
      refine ⟨s4, p', e1, ⟨t_a s, ?_⟩, e3, (b3.keep.trans d4.keep).trans e4, e5, e6⟩
      unfold s_fit1
      rw [if_neg cs]
      exact e2
theorem if_le1 {c : Prop} [Decidable c] {a b : Nat} (h : a ≤ b) : (if c then a + 1 else a) ≤ b + 1 := by
  by_cases q : c
  · rw [if_pos q]; omega
  · rw [if_neg q]; omega
/-- what was found is bounded -/
theorem s_fitsTo_le {w : Int32} : ∀ (m i : Nat) (p p' : s_Ft), s_fitsTo N R L w m i p p' → p.1 ≤ i → (∀ k, p.2.2 k ≤ p.1) → p'.1 ≤ i + m ∧ ∀ k, p'.2.2 k ≤ p'.1 := by
  intro m
  induction m with
  | zero =>
    intro i p p' h h1 h2
    have : p' = p := h
    subst this
    exact ⟨by omega, h2⟩
  | succ m ih =>
    intro i p p' h h1 h2
    obtain ⟨c, h⟩ := h
    have := ih (i + 1) _ p' h (by
      unfold s_fit1
      split
      · show p.1 + 1 ≤ i + 1; omega
      · omega) (by
      unfold s_fit1
      split
      · intro k
        exact if_le1 (h2 k)
      · exact h2)
    exact ⟨by omega, this.2⟩
theorem p_askWhat {p : s_Ft} (hr : t_run σ R) (hR : r_ok R) (hp : t_ft σ p) (h1 : p.1 ≤ 100) (h2 : ∀ k, p.2.2 k ≤ p.1) : D_askWhat σ = some (oI (s_askWhat R p)) := by
  obtain ⟨p1, p2, p3⟩ := hp
  obtain ⟨⟨R1, R2⟩, R3⟩ := hR
  unfold D_askWhat s_askWhat
  by_cases c : p.1 = 0
  · rw [if_pos c]
    show D_askWhat_8 σ _ (9999 + 1) (-1) 1000000 0 = _
    show x_b (D_deeds σ) _ = _
    rw [p_deeds hr, x_bS, R1]
    by_cases d : nI (r_cnt R) ≤ 0
    · rw [if_pos d]; rfl
    · rw [if_neg d, p1, c, if_pos (show nI 0 ≤ 0 by rw [nI_0]; exact Int32.le_refl _)]; rfl
  · rw [if_neg c]
    refine x_for (fun _ (q : Option Nat × Nat) => q.2 ≤ 1000000) (fun f (q : Option Nat × Nat) k => D_askWhat_8 σ (fun (v1_21 : Int32) => some v1_21) f (oI q.1) (nI q.2) (nI k)) (fun q => some (oI q.1)) (fun k (q : Option Nat × Nat) => if d_isAsk (r_dd R k) = true ∧ max (p.2.2 k) (p.1 - p.2.2 k) < q.2 then (some k, max (p.2.2 k) (p.1 - p.2.2 k)) else q) (r_cnt R) ?_ ?_ ?_ x_F 0 (none, 1000000) (by omega) (by show 1000000 ≤ 1000000; omega) (by rw [x_Fv]; omega)
    · intro f q _
      show x_b (D_deeds σ) _ = _
      rw [p_deeds hr, x_bS, R1, if_pos (Int32.le_refl _)]
    · intro f q k hq hk
      have hq2 : q.2 ≤ 1000000 := hq
      have g1 : ∀ {α : Type} (kk : Nat → Option α), x_ga (nI k) 40 kk = kk k := fun kk => x_gaS (by omega) (by omega)
      have hs := h2 k
      show x_b (D_deeds σ) _ = _
      rw [p_deeds hr, x_bS, R1, if_neg (nI_ge hk (by omega)), p1, if_neg (nI_nle (by omega) (by omega)), g1, g1, p3 k (by omega), nI_sub hs, p_greater, x_bS]
      have hmax : (if nI (p.1 - p.2.2 k) < nI (p.2.2 k) then nI (p.2.2 k) else nI (p.1 - p.2.2 k)) = nI (max (p.2.2 k) (p.1 - p.2.2 k)) := by
        by_cases d : p.1 - p.2.2 k < p.2.2 k
        · rw [if_pos (nI_lt d (by omega)), Nat.max_eq_left (by omega)]
        · rw [if_neg (nI_nlt (by omega) (by omega)), Nat.max_eq_right (by omega)]
      have hdd := R3 k hk
      have hd0 : D_deedOf (nI k) 0 σ = some (r_dd R k).1 := by
        have := p_deedOf (k := k) (w := 0) hr (by omega) (by omega)
        exact this
      rw [hmax, hd0, x_bS]
      have hask : (1 : Int32) < (r_dd R k).1 ↔ ¬ d_isAsk (r_dd R k) = true := by
        unfold d_isAsk
        rcases hdd with ⟨a, -⟩ | ⟨a, -⟩ | ⟨a, -⟩
        · rcases a with a | a <;> rw [a] <;> decide
        · rw [a]; decide
        · rcases a with a | a <;> rw [a] <;> decide
      by_cases d1 : d_isAsk (r_dd R k) = true
      · rw [if_neg (fun z => (hask.mp z) d1)]
        by_cases d2 : max (p.2.2 k) (p.1 - p.2.2 k) < q.2
        · rw [if_neg (nI_ge d2 (by omega)), x_lS, nI_1, if_pos ⟨d1, d2⟩]
          rfl
        · rw [if_pos (nI_le (by omega) (by omega)), x_lS, nI_1, if_neg (fun z => d2 z.2)]
      · rw [if_pos (hask.mpr d1), x_lS, nI_1, if_neg (fun z => d1 z.1)]
    · intro q k hq hk
      have hq2 : q.2 ≤ 1000000 := hq
      show (if _ then _ else q).2 ≤ 1000000
      split
      · rename_i d
        show max (p.2.2 k) (p.1 - p.2.2 k) ≤ 1000000
        omega
      · exact hq2
theorem p_fits_39 {what : Int32} (Kf : t_S → Option (Int32 × t_S)) : ∃ σ', D_fits_39 what Kf x_F 0 σ = Kf σ' ∧ (∀ k, k < 40 → t_a σ' 84 k = nI 0) ∧ (∀ k, t_i σ' k = t_i σ k) ∧ ∀ k j, k ≠ 84 → t_a σ' k j = t_a σ k j := by
  have key := x_forS (fun k (s : t_S) (_ : Unit) => (∀ j, j < k → t_a s 84 j = nI 0) ∧ (∀ k, t_i s k = t_i σ k) ∧ ∀ k j, k ≠ 84 → t_a s k j = t_a σ k j) (fun f k s => D_fits_39 what Kf f (nI k) s) Kf (fun _ g => g) 40 ?_ ?_ x_F 0 σ () (by omega) ⟨fun j hj => by omega, fun _ => rfl, fun _ _ _ => rfl⟩ (by rw [x_Fv]; omega)
  · obtain ⟨s', k1, k2, k3, k4⟩ := key
    exact ⟨s', k1, k2, k3, k4⟩
  · intro f s' g _
    show (if (40 : Int32) ≤ nI 40 then _ else _) = _
    rw [if_pos (show (40 : Int32) ≤ nI 40 from Int32.le_refl _)]
  · intro f k s g hq hk
    obtain ⟨q1, q2, q3⟩ := hq
    refine ⟨t_sa s 84 k 0, ?_, fun i hi => ?_, q2, fun a j ha => by rw [t_a_sa, if_neg (fun z => ha z.1)]; exact q3 a j ha⟩
    · show (if (40 : Int32) ≤ nI k then _ else _) = _
      rw [if_neg (show ¬ (40 : Int32) ≤ nI k from nI_ge (a := k) (b := 40) hk (by omega)), x_gaS hk (by omega), x_lS, x_lS, nI_1]
    · rw [t_a_sa]
      by_cases c : i = k
      · rw [if_pos ⟨rfl, c⟩]; rfl
      · rw [if_neg (fun z => c z.2)]
        exact q1 i (by omega)
theorem p_fits {n r l what : Int32} (h : t_st σ T) : ∃ res σ', D_fits n r l what σ = some (res, σ') ∧ q_fitsR T n r l what res ∧ t_keep σ σ' := by
  have h0 : t_st (t_si σ 0 0) T := h.keep t_keep.si
  obtain ⟨a1, a2⟩ := p_hasLog (k := l) h0
  unfold D_fits q_fitsR
  rw [x_lS, a1, x_b2S]
  cases hl : s_row (u_logs T.1) l with
  | none => exact ⟨-2, _, if_pos rfl, rfl, t_keep.si.trans t_keep.si⟩
  | some L =>
    have hL := u_log_ok h hl
    have b1 := a2 L hl
    have h1 : t_st (t_si (t_si σ 0 0) 81 l) T := h0.keep t_keep.si
    obtain ⟨σ1, c1, c2, c0, c3⟩ := p_lay (n := n) (r := r) h1
    have hk1 : t_keep σ σ1 := (t_keep.si.trans t_keep.si).trans c2
    show ∃ res σ', (if (1 : Int32) = 0 then _ else _) = _ ∧ _
    rw [if_neg (show ¬ (1 : Int32) = 0 by decide), c1, x_b2S]
    cases hr : s_row (u_runs T.1) r with
    | none => exact ⟨-2, σ1, if_pos rfl, rfl, hk1⟩
    | some R =>
      cases hn : s_row (u_nets T.1) n with
      | none => exact ⟨-2, σ1, if_pos rfl, rfl, hk1⟩
      | some N =>
        have hN := u_net_ok h hn
        have hR := u_run_ok h hr
        obtain ⟨d1, d2, -⟩ := c3 R N hr hn
        have hlog1 : t_log σ1 L := by
          obtain ⟨kk, e1, e2, e3⟩ := b1
          exact ⟨kk, e1, (c0 81 (by omega)).trans e2, fun j hj => (c2 8 _ (by omega)).trans (e3 j hj)⟩
        show ∃ res σ', (if (1 : Int32) = 0 then _ else _) = _ ∧ _
        rw [if_neg (show ¬ (1 : Int32) = 0 by decide), x_lS, x_lS]
        have hi2 : ∀ k, k ≠ 82 → k ≠ 83 → t_i (t_si (t_si σ1 82 0) 83 (-2)) k = t_i σ1 k := fun k q1 q2 => by rw [t_i_si, if_neg q2, t_i_si, if_neg q1]
        obtain ⟨s2, f1, f2, f3, f4⟩ := p_fits_39 (σ := t_si (t_si σ1 82 0) 83 (-2)) (what := what) (fun (σ20 : t_S) => D_fits_63 what (fun (σ42 : t_S) => if what < (10 : Int32) then (if what = 0 then (some ((t_i σ42 82), σ42)) else if what = (1 : Int32) then (x_b (D_askWhat σ42) fun r47 => some (r47, σ42)) else some ((-2 : Int32), σ42)) else some ((t_i σ42 83), σ42)) x_F (-1 : Int32) σ20)
        have hft : t_ft s2 (0, -2, fun _ => 0) := ⟨(f3 82).trans (by rw [t_i_si, if_neg (by decide), t_i_si, if_pos rfl]; rfl), (f3 83).trans (by rw [t_i_si, if_pos rfl]), f2⟩
        have hi3 : ∀ k, k ≠ 82 → k ≠ 83 → t_i s2 k = t_i σ1 k := fun k q1 q2 => (f3 k).trans (hi2 k q1 q2)
        have ha3 : ∀ k j, k ≠ 84 → t_a s2 k j = t_a σ1 k j := fun k j hk => (f4 k j hk).trans rfl
        have hh2 : t_hand s2 N := ⟨t_net_of (hi3 22 (by decide) (by decide)) (fun j => ha3 6 j (by decide)) d2.1, (hi3 23 (by decide) (by decide)).trans d2.2.1, (hi3 24 (by decide) (by decide)).trans d2.2.2⟩
        have hr2 : t_run s2 R := by
          obtain ⟨kk, h1, h2, h3⟩ := d1
          exact ⟨kk, h1, (hi3 75 (by decide) (by decide)).trans h2, fun j hj => (ha3 7 _ (by decide)).trans (h3 j hj)⟩
        have hl2 : t_log s2 L := by
          obtain ⟨kk, h1, h2, h3⟩ := hlog1
          exact ⟨kk, h1, (hi3 81 (by decide) (by decide)).trans h2, fun j hj => (ha3 8 _ (by decide)).trans (h3 j hj)⟩
        have c4 := (n_counts hN).2.2.2.1
        obtain ⟨s3, p', g1, g2, g3, g4, g5, g6⟩ := p_fits_63 (what := what) (fun (σ42 : t_S) => if what < (10 : Int32) then (if what = 0 then (some ((t_i σ42 82), σ42)) else if what = (1 : Int32) then (x_b (D_askWhat σ42) fun r47 => some (r47, σ42)) else some ((-2 : Int32), σ42)) else some ((t_i σ42 83), σ42)) hN hR hL (n_links N + 1) x_F 0 s2 (0, -2, fun _ => 0) (by omega) (by rw [x_Fv]; omega) hh2 hr2 hl2 hft
        obtain ⟨e1, e2⟩ := s_fitsTo_le (n_links N + 1) 0 _ p' g2 (Nat.zero_le _) (fun _ => Nat.zero_le _)
        have hk3 : t_keep σ s3 := (hk1.trans (fun k j hk => ha3 k j (by omega))).trans g4
        refine ⟨q_fitsOf R p' what, s3, f1.trans (g1.trans ?_), ⟨p', g2, rfl⟩, hk3⟩
        unfold q_fitsOf
        by_cases w : what < 10
        · rw [if_pos w, if_pos w]
          by_cases w0 : what = 0
          · rw [if_pos w0, if_pos w0, g3.1]
          · rw [if_neg w0, if_neg w0]
            by_cases w1 : what = 1
            · rw [if_pos w1, if_pos w1, p_askWhat g6 hR g3 (by omega) e2, x_bS]
            · rw [if_neg w1, if_neg w1]
        · rw [if_neg w, if_neg w, g3.2.1]
end T76
