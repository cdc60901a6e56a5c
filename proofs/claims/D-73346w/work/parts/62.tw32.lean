/-! THE TWIN's LAW, 32: a net is laid, a run begins -/
set_option maxRecDepth 100000
set_option maxHeartbeats 400000
/-- the links of a net, but one -/
def s_lk0 (N : s_R) (away : Option Nat) : Nat → Option Nat := s_fold (fun l f => if some l = away then f else s_up1 (s_up1 f (6 * n_la N l + n_lb N l) (some l)) (6 * n_lb N l + n_la N l) (some l)) 0 (n_links N) (fun _ => none)
/-- a run at its begin; c: what is left of others' asks -/
def s_begin (c : Nat → Nat → Int32) : s_G := (fun _ => ([], [], 0), [], 0, 0, fun _ => -1, fun f k => if f = 57 then -1 else c f k, 0, 0, 0, 0, 0, 0)
theorem s_lk0_ok {N : s_R} {away : Option Nat} (hN : n_ok N) : s_lkok N (s_lk0 N away) := by
  have H := s_foldP (fun k (f : Nat → Option Nat) => ∀ i l, i < 36 → f i = some l → l < k ∧ (n_la N l = i / 6 ∧ n_lb N l = i % 6 ∨ n_la N l = i % 6 ∧ n_lb N l = i / 6)) (fun l f => if some l = away then f else s_up1 (s_up1 f (6 * n_la N l + n_lb N l) (some l)) (6 * n_lb N l + n_la N l) (some l)) (n_links N) (fun f k hf hk => by
    intro i l hi hl
    have hb := n_ln_b hN hk
    have b1 : n_la N k < 6 := hb.2.2.2.2.1
    have b2 : n_lb N k < 6 := hb.2.2.2.2.2.1
    have hl' : (if some k = away then f else s_up1 (s_up1 f (6 * n_la N k + n_lb N k) (some k)) (6 * n_lb N k + n_la N k) (some k)) i = some l := hl
    by_cases c : some k = away
    · rw [if_pos c] at hl'
      have := hf i l hi hl'
      exact ⟨by omega, this.2⟩
    · rw [if_neg c] at hl'
      by_cases q1 : i = 6 * n_lb N k + n_la N k
      · rw [q1, s_up1_s] at hl'
        cases hl'
        refine ⟨by omega, Or.inr ⟨by omega, by omega⟩⟩
      · rw [s_up1_n q1] at hl'
        by_cases q2 : i = 6 * n_la N k + n_lb N k
        · rw [q2, s_up1_s] at hl'
          cases hl'
          refine ⟨by omega, Or.inl ⟨by omega, by omega⟩⟩
        · rw [s_up1_n q2] at hl'
          have := hf i l hi hl'
          exact ⟨by omega, this.2⟩) (n_links N) 0 (fun _ => none) (fun i l _ h => by cases h) (by omega)
  intro i l hi hl
  have := H i l hi hl
  rw [Nat.zero_add] at this
  exact this
theorem s_inv_begin {N : s_R} {W : s_W} {c : Nat → Nat → Int32} : s_inv N 0 W 0 0 [] 0 0 0 (s_begin c) := by
  refine ⟨⟨⟨rfl, Nat.le_refl _, by omega⟩, fun n hn => ⟨fun e he => (by cases he), List.nodup_nil, List.nodup_nil, Nat.zero_le _, fun d hd => (by cases hd)⟩, fun m hm => (by cases hm), fun m hm => (by cases hm)⟩, 0, 0, Nat.le_refl _, by show (0 : Int) + ((0 + 0 + s_sum6 (s_oin (s_begin c)) : Nat) : Int) + 0 ≤ 0; have : s_sum6 (s_oin (s_begin c)) = 0 := rfl; omega, ?_⟩
  have : (0 : Int) ≤ ((s_sum6 (s_phi 0 (s_begin c)) : Nat) : Int) := Int.natCast_nonneg _
  omega
section T62
variable {σ σ' : t_S} {N : s_R} {lk : Nat → Option Nat} {G : s_G} {K : Nat} {W : s_W} {t : Nat}
theorem n_links_b (hN : n_ok N) : N 2 = nI (n_links N) ∧ n_links N ≤ 15 := ⟨hN.2.2.1.1, hN.2.2.1.2⟩
theorem oI_eq {k : Nat} {o : Option Nat} (hk : k < 2 ^ 31) (ho : ∀ j, o = some j → j < 2 ^ 31) : nI k = oI o ↔ some k = o := by
  cases o with
  | none =>
    constructor
    · intro q; exact absurd q (oI_none hk)
    · intro q; cases q
  | some j =>
    show nI k = nI j ↔ _
    rw [nI_eq hk (ho j rfl)]
    constructor
    · intro q; rw [q]
    · intro q; cases q; rfl
theorem p_layLinks {away : Option Nat} (h : t_net σ N) (hN : n_ok N) (ha : ∀ j, away = some j → j < 2 ^ 31) : ∃ σ', D_layLinks (oI away) σ = some σ' ∧ t_lk σ' (s_lk0 N away) ∧ (∀ k, t_i σ' k = t_i σ k) ∧ t_w σ' = t_w σ ∧ (∀ k j, k ≠ 25 → t_a σ' k j = t_a σ k j) ∧ ∀ k j, t_l σ' k j = t_l σ k j := by
  obtain ⟨l1, l2⟩ := n_links_b hN
  have k1 := x_forS (fun k (s : t_S) (_ : Unit) => (∀ i, i < k → t_a s 25 i = -1) ∧ (∀ k, t_i s k = t_i σ k) ∧ t_w s = t_w σ ∧ (∀ k j, k ≠ 25 → t_a s k j = t_a σ k j) ∧ ∀ k j, t_l s k j = t_l σ k j) (fun f k s => D_layLinks_2 (oI away) (fun (σ9 : t_S) => D_layLinks_23 (oI away) (fun (σ32 : t_S) => some σ32) x_F (0 : Int32) σ9) f (nI k) s) (fun (σ9 : t_S) => D_layLinks_23 (oI away) (fun (σ32 : t_S) => some σ32) x_F (0 : Int32) σ9) (fun _ g => g) 36 ?_ ?_ x_F 0 σ () (by omega) ⟨fun i hi => by omega, fun _ => rfl, rfl, fun _ _ _ => rfl, fun _ _ => rfl⟩ (by rw [x_Fv]; omega)
  · obtain ⟨s1, e1, a1, a2, a3, a4, a5⟩ := k1
    have hnet1 : t_net s1 N := t_net_of (a2 22) (fun j => a4 6 j (by decide)) h
    have k2 := x_forS (fun k (s : t_S) (g : Nat → Option Nat) => (∀ i, i < 36 → t_a s 25 i = oI (g i) ∧ ∀ l, g i = some l → l < 15) ∧ (∀ k, t_i s k = t_i σ k) ∧ t_w s = t_w σ ∧ (∀ k j, k ≠ 25 → t_a s k j = t_a σ k j) ∧ ∀ k j, t_l s k j = t_l σ k j) (fun f k s => D_layLinks_23 (oI away) (fun (σ32 : t_S) => some σ32) f (nI k) s) (fun (σ32 : t_S) => some σ32) (fun l f => if some l = away then f else s_up1 (s_up1 f (6 * n_la N l + n_lb N l) (some l)) (6 * n_lb N l + n_la N l) (some l)) (n_links N) ?_ ?_ x_F 0 s1 (fun _ => none) (by omega) ⟨fun i hi => ⟨a1 i hi, fun l hl => by cases hl⟩, a2, a3, a4, a5⟩ (by rw [x_Fv]; omega)
    · obtain ⟨s2, e2, b1, b2, b3, b4, b5⟩ := k2
      refine ⟨s2, ?_, b1, b2, b3, b4, b5⟩
      rw [nI_0] at e1 e2
      unfold D_layLinks
      rw [e1]
      exact e2
    · intro f s g hq
      have hnet : t_net s N := t_net_of (hq.2.1 22) (fun j => hq.2.2.2.1 6 j (by decide)) h
      show x_b (D_links s) _ = _
      rw [p_links hnet, x_bS, l1, if_pos (Int32.le_refl _)]
    · intro f k s g hq hk
      obtain ⟨q1, q2, q3, q4, q5⟩ := hq
      have hnet : t_net s N := t_net_of (q2 22) (fun j => q4 6 j (by decide)) h
      have hb := n_ln_b hN hk
      have b1 : n_la N k < 6 := hb.2.2.2.2.1
      have b2 : n_lb N k < 6 := hb.2.2.2.2.2.1
      by_cases c : some k = away
      · refine ⟨s, ?_, ?_⟩
        · show x_b (D_links s) _ = _
          rw [p_links hnet, x_bS, l1, if_neg (nI_ge hk (by omega)), if_pos ((oI_eq (by omega) ha).mpr c)]
          simp only [x_lS, nI_1]
        · show (∀ i, i < 36 → t_a s 25 i = oI ((if some k = away then g else _) i) ∧ ∀ l, (if some k = away then g else _) i = some l → l < 15) ∧ _
          rw [if_pos c]
          exact ⟨q1, q2, q3, q4, q5⟩
      · have g1 : ∀ {α : Type} (kk : Nat → Option α), x_ga (nI (6 * n_la N k + n_lb N k)) 36 kk = kk (6 * n_la N k + n_lb N k) := fun kk => x_gaS (by omega) (by omega)
        have g2 : ∀ {α : Type} (kk : Nat → Option α), x_ga (nI (6 * n_lb N k + n_la N k)) 36 kk = kk (6 * n_lb N k + n_la N k) := fun kk => x_gaS (by omega) (by omega)
        refine ⟨t_sa (t_sa s 25 (6 * n_la N k + n_lb N k) (nI k)) 25 (6 * n_lb N k + n_la N k) (nI k), ?_, ?_⟩
        · show x_b (D_links s) _ = _
          rw [p_links hnet, x_bS, l1, if_neg (nI_ge hk (by omega)), if_neg (fun q => c ((oI_eq (by omega) ha).mp q)), p_link0 hnet hN hk, x_bS, p_link1 hnet hN hk, x_bS]
          simp only [show (6 : Int32) = nI 6 from rfl, nI_mul, nI_add, g1, x_lS]
          have hnet2 : t_net (t_sa s 25 (6 * n_la N k + n_lb N k) (nI k)) N := t_net_sa (by decide) hnet
          rw [p_link1 hnet2 hN hk, x_bS, p_link0 hnet2 hN hk, x_bS]
          simp only [nI_mul, nI_add, g2, nI_1]
        · show (∀ i, i < 36 → t_a _ 25 i = oI ((if some k = away then g else _) i) ∧ ∀ l, (if some k = away then g else _) i = some l → l < 15) ∧ _
          rw [if_neg c]
          refine ⟨fun i hi => ?_, q2, q3, fun a j ha => by rw [t_a_sa, if_neg (fun z => ha z.1), t_a_sa, if_neg (fun z => ha z.1)]; exact q4 a j ha, q5⟩
          rw [t_a_sa, t_a_sa]
          unfold s_up1
          by_cases c1 : i = 6 * n_lb N k + n_la N k
          · rw [if_pos ⟨rfl, c1⟩, if_pos c1]
            exact ⟨rfl, fun l hl => by cases hl; omega⟩
          · rw [if_neg (fun z => c1 z.2), if_neg c1]
            by_cases c2 : i = 6 * n_la N k + n_lb N k
            · rw [if_pos ⟨rfl, c2⟩, if_pos c2]
              exact ⟨rfl, fun l hl => by cases hl; omega⟩
            · rw [if_neg (fun z => c2 z.2), if_neg c2]
              exact q1 i hi
  · intro f s g _
    show (if (36 : Int32) ≤ nI 36 then _ else _) = _
    rw [if_pos (show (36 : Int32) ≤ nI 36 from Int32.le_refl _)]
  · intro f k s g hq hk
    obtain ⟨q1, q2, q3, q4, q5⟩ := hq
    refine ⟨t_sa s 25 k (-1), ?_, fun i hi => ?_, q2, q3, fun a j ha => by rw [t_a_sa, if_neg (fun z => ha z.1)]; exact q4 a j ha, q5⟩
    · show (if (36 : Int32) ≤ nI k then _ else _) = _
      rw [if_neg (show ¬ (36 : Int32) ≤ nI k from nI_ge (a := k) (b := 36) hk (by omega)), x_gaS hk (by omega)]
      simp only [x_lS, nI_1]
    · rw [t_a_sa]
      by_cases c : i = k
      · rw [if_pos ⟨rfl, c⟩]
      · rw [if_neg (fun z => c z.2)]
        exact q1 i (by omega)
/-- the net is at hand: as hasNet leaves it -/
def t_hand (σ : t_S) (N : s_R) : Prop := t_net σ N ∧ t_i σ 23 = N 0 ∧ t_i σ 24 = N 1
theorem p_begin {away : Option Nat} (h : t_hand σ N) (hN : n_ok N) (ha : ∀ j, away = some j → j < 2 ^ 31) : ∃ σ', D_begin (oI away) σ = some σ' ∧ t_rel σ' N (s_lk0 N away) (s_begin (t_a σ)) ∧ t_out σ σ' := by
  obtain ⟨h1, h2, h3⟩ := h
  obtain ⟨s1, e1, a1, a2, a3, a4, a5⟩ := p_layLinks (away := away) h1 hN ha
  have hi2 : ∀ k, t_i (t_si (t_si (t_si (t_si (t_si (t_si (t_si (t_si (t_si s1 26 0) 27 0) 45 0) 65 0) 66 0) 67 0) 68 0) 69 0) 70 0) k = if k = 26 ∨ k = 27 ∨ k = 45 ∨ (65 ≤ k ∧ k ≤ 70) then 0 else t_i σ k := fun k => by
    simp only [t_i_si, a2 k]
    by_cases c : k = 26 ∨ k = 27 ∨ k = 45 ∨ (65 ≤ k ∧ k ≤ 70)
    · rw [if_pos c]
      rcases (show k = 26 ∨ k = 27 ∨ k = 45 ∨ k = 65 ∨ k = 66 ∨ k = 67 ∨ k = 68 ∨ k = 69 ∨ k = 70 by omega) with rfl | rfl | rfl | rfl | rfl | rfl | rfl | rfl | rfl <;> simp
    · rw [if_neg c]
      have e : ¬ k = 26 ∧ ¬ k = 27 ∧ ¬ k = 45 ∧ ¬ k = 65 ∧ ¬ k = 66 ∧ ¬ k = 67 ∧ ¬ k = 68 ∧ ¬ k = 69 ∧ ¬ k = 70 := by omega
      simp [e]
  have k1 := x_forS (fun k (s : t_S) (_ : Unit) => (∀ i, i < k → t_l s 28 i = 0 ∧ t_a s 30 i = 0 ∧ t_a s 34 i = 0) ∧ (∀ k, t_i s k = if k = 26 ∨ k = 27 ∨ k = 45 ∨ (65 ≤ k ∧ k ≤ 70) then 0 else t_i σ k) ∧ t_w s = t_w σ ∧ (∀ k j, k ≠ 30 → k ≠ 34 → t_a s k j = t_a s1 k j)) (fun f k s => D_begin_52 (fun (σ23 : t_S) => D_begin_87 (fun (σ31 : t_S) => D_begin_108 (fun (σ39 : t_S) => some σ39) x_F (0 : Int32) σ31) x_F (0 : Int32) σ23) f (nI k) s) (fun (σ23 : t_S) => D_begin_87 (fun (σ31 : t_S) => D_begin_108 (fun (σ39 : t_S) => some σ39) x_F (0 : Int32) σ31) x_F (0 : Int32) σ23) (fun _ g => g) 6 ?_ ?_ x_F 0 (t_si (t_si (t_si (t_si (t_si (t_si (t_si (t_si (t_si s1 26 0) 27 0) 45 0) 65 0) 66 0) 67 0) 68 0) 69 0) 70 0) () (by omega) ⟨fun i hi => by omega, hi2, a3, fun _ _ _ _ => rfl⟩ (by rw [x_Fv]; omega)
  · obtain ⟨s2, e2, b1, b2, b3, b4⟩ := k1
    have k2 := x_forS (fun k (s : t_S) (_ : Unit) => (∀ i, i < k → t_a s 29 i = -1) ∧ (∀ k, t_i s k = t_i s2 k) ∧ t_w s = t_w σ ∧ (∀ k j, k ≠ 29 → t_a s k j = t_a s2 k j) ∧ ∀ k j, t_l s k j = t_l s2 k j) (fun f k s => D_begin_87 (fun (σ31 : t_S) => D_begin_108 (fun (σ39 : t_S) => some σ39) x_F (0 : Int32) σ31) f (nI k) s) (fun (σ31 : t_S) => D_begin_108 (fun (σ39 : t_S) => some σ39) x_F (0 : Int32) σ31) (fun _ g => g) 36 ?_ ?_ x_F 0 s2 () (by omega) ⟨fun i hi => by omega, fun _ => rfl, b3, fun _ _ _ => rfl, fun _ _ => rfl⟩ (by rw [x_Fv]; omega)
    · obtain ⟨s3, e3, c1, c2, c3, c4, c5⟩ := k2
      have k3 := x_forS (fun k (s : t_S) (_ : Unit) => (∀ i, i < k → t_a s 57 i = -1) ∧ (∀ k, t_i s k = t_i s2 k) ∧ t_w s = t_w σ ∧ (∀ k j, k ≠ 57 → t_a s k j = t_a s3 k j) ∧ ∀ k j, t_l s k j = t_l s2 k j) (fun f k s => D_begin_108 (fun (σ39 : t_S) => some σ39) f (nI k) s) (fun (σ39 : t_S) => some σ39) (fun _ g => g) 64 ?_ ?_ x_F 0 s3 () (by omega) ⟨fun i hi => by omega, c2, c3, fun _ _ _ => rfl, c5⟩ (by rw [x_Fv]; omega)
      · obtain ⟨s4, e4, d1, d2, d3, d4, d5⟩ := k3
        have hi4 : ∀ k, t_i s4 k = if k = 26 ∨ k = 27 ∨ k = 45 ∨ (65 ≤ k ∧ k ≤ 70) then 0 else t_i σ k := fun k => (d2 k).trans (b2 k)
        have ha4 : ∀ k j, k ≠ 57 → k ≠ 29 → k ≠ 30 → k ≠ 34 → t_a s4 k j = t_a s1 k j := fun k j q1 q2 q3 q4 => ((d4 k j q1).trans (c4 k j q2)).trans (b4 k j q3 q4)
        refine ⟨s4, ?_, ?_, fun k hk => by rw [hi4, if_neg (by omega)], d3, fun k j hk => (ha4 k j (by omega) (by omega) (by omega) (by omega)).trans (a4 k j (by omega))⟩
        · unfold D_begin
          rw [nI_0] at e2 e3 e4
          rw [e1, x_bS, x_lS, x_lS, x_lS, x_lS, x_lS, x_lS, x_lS, x_lS, x_lS, e2, e3, e4]
        · refine ⟨⟨t_net_of (by rw [hi4, if_neg (by omega)]) (fun j => (ha4 6 j (by omega) (by omega) (by omega) (by omega)).trans (a4 6 j (by omega))) h1, t_lk_of (σ := s1) (fun j => ha4 25 j (by omega) (by omega) (by omega) (by omega)) a1, by rw [hi4, if_neg (by omega)]; exact h2, by rw [hi4, if_neg (by omega)]; exact h3⟩, ?_, ?_, fun n hn => ⟨⟨?_, Nat.zero_le _, fun i hi => absurd hi (Nat.not_lt_zero i)⟩, ⟨?_, Nat.zero_le _, fun i hi => absurd hi (Nat.not_lt_zero i)⟩, ?_⟩, fun i hi => ?_, ⟨?_, Nat.zero_le _, fun i hi => absurd hi (Nat.not_lt_zero i)⟩, fun f k q1 q2 q3 => ?_, ?_, ?_, ?_, ?_, ?_, ?_⟩
          · rw [hi4, if_pos (by omega)]; rfl
          · rw [hi4, if_pos (by omega)]; rfl
          · exact ((d4 34 n (by decide)).trans (c4 34 n (by decide))).trans (b1 n hn).2.2
          · exact ((d4 30 n (by decide)).trans (c4 30 n (by decide))).trans (b1 n hn).2.1
          · exact (d5 28 n).trans (b1 n hn).1
          · exact (d4 29 i (by decide)).trans (c1 i hi)
          · rw [hi4, if_pos (by omega)]; rfl
          · show t_a s4 f k = if f = 57 then -1 else t_a σ f k
            by_cases q : f = 57
            · rw [if_pos q, q]; exact d1 k q3
            · rw [if_neg q]
              exact (ha4 f k q (by omega) (by omega) (by omega)).trans (a4 f k (by omega))
          · rw [hi4, if_pos (by omega)]; rfl
          · rw [hi4, if_pos (by omega)]; rfl
          · rw [hi4, if_pos (by omega)]; rfl
          · rw [hi4, if_pos (by omega)]; rfl
          · rw [hi4, if_pos (by omega)]; rfl
          · rw [hi4, if_pos (by omega)]; rfl
      · intro f s g _
        show (if (64 : Int32) ≤ nI 64 then _ else _) = _
        rw [if_pos (show (64 : Int32) ≤ nI 64 from Int32.le_refl _)]
      · intro f k s g hq hk
        obtain ⟨q1, q2, q3, q4, q5⟩ := hq
        refine ⟨t_sa s 57 k (-1), ?_, fun i hi => ?_, q2, q3, fun a j ha => by rw [t_a_sa, if_neg (fun z => ha z.1)]; exact q4 a j ha, q5⟩
        · show (if (64 : Int32) ≤ nI k then _ else _) = _
          rw [if_neg (show ¬ (64 : Int32) ≤ nI k from nI_ge (a := k) (b := 64) hk (by omega)), x_gaS hk (by omega)]
          simp only [x_lS, nI_1]
        · rw [t_a_sa]
          by_cases c : i = k
          · rw [if_pos ⟨rfl, c⟩]
          · rw [if_neg (fun z => c z.2)]
            exact q1 i (by omega)
    · intro f s g _
      show (if (36 : Int32) ≤ nI 36 then _ else _) = _
      rw [if_pos (show (36 : Int32) ≤ nI 36 from Int32.le_refl _)]
    · intro f k s g hq hk
      obtain ⟨q1, q2, q3, q4, q5⟩ := hq
      refine ⟨t_sa s 29 k (-1), ?_, fun i hi => ?_, q2, q3, fun a j ha => by rw [t_a_sa, if_neg (fun z => ha z.1)]; exact q4 a j ha, q5⟩
      · show (if (36 : Int32) ≤ nI k then _ else _) = _
        rw [if_neg (show ¬ (36 : Int32) ≤ nI k from nI_ge (a := k) (b := 36) hk (by omega)), x_gaS hk (by omega)]
        simp only [x_lS, nI_1]
      · rw [t_a_sa]
        by_cases c : i = k
        · rw [if_pos ⟨rfl, c⟩]
        · rw [if_neg (fun z => c z.2)]
          exact q1 i (by omega)
  · intro f s g _
    show (if (6 : Int32) ≤ nI 6 then _ else _) = _
    rw [if_pos (show (6 : Int32) ≤ nI 6 from Int32.le_refl _)]
  · intro f k s g hq hk
    obtain ⟨q1, q2, q3, q4⟩ := hq
    have g6 : ∀ {α : Type} (kk : Nat → Option α), x_ga (nI k) 6 kk = kk k := fun kk => x_gaS hk (by omega)
    refine ⟨t_sa (t_sa (t_sl s 28 k 0) 30 k 0) 34 k 0, ?_, fun i hi => ?_, q2, q3, fun a j ha ha' => by rw [t_a_sa, if_neg (fun z => ha' z.1), t_a_sa, if_neg (fun z => ha z.1)]; exact q4 a j ha ha'⟩
    · show (if (6 : Int32) ≤ nI k then _ else _) = _
      rw [if_neg (show ¬ (6 : Int32) ≤ nI k from nI_ge (a := k) (b := 6) hk (by omega))]
      simp only [g6, x_lS, nI_1]
    · by_cases c : i = k
      · subst c
        refine ⟨?_, ?_, ?_⟩
        · show t_l (t_sl s 28 i 0) 28 i = 0
          rw [t_l_sl, if_pos ⟨rfl, rfl⟩]
        · rw [t_a_sa, if_neg (fun q => absurd q.1 (by decide)), t_a_sa, if_pos ⟨rfl, rfl⟩]
        · rw [t_a_sa, if_pos ⟨rfl, rfl⟩]
      · obtain ⟨r1, r2, r3⟩ := q1 i (by omega)
        refine ⟨?_, ?_, ?_⟩
        · show t_l (t_sl s 28 k 0) 28 i = 0
          rw [t_l_sl, if_neg (fun z => c z.2)]; exact r1
        · rw [t_a_sa, if_neg (fun z => c z.2), t_a_sa, if_neg (fun z => c z.2)]; exact r2
        · rw [t_a_sa, if_neg (fun z => c z.2)]; exact r3
end T62
