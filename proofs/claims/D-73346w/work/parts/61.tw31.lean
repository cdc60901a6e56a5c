/-! THE TWIN's LAW, 31: deeds -/
set_option maxRecDepth 100000
section T61
variable {σ σ' : t_S} {N : s_R} {lk : Nat → Option Nat} {G : s_G} {K : Nat} {W : s_W} {t : Nat}
theorem p_isNodeN {n : Nat} (h : t_i σ 23 = N 0) (hN : n_ok N) (hn : n < 2 ^ 31) : D_isNode (nI n) σ = some (if n < n_nodes N then 1 else 0) := by
  have hnn : N 0 = nI (n_nodes N) ∧ n_nodes N ≤ 6 := hN.1.1
  have h1 : 1 ≤ n_nodes N := hN.1.2
  rw [p_isNode h, hnn.1, show (1 : Int32) = nI 1 from rfl, nI_sub h1]
  unfold s_i
  by_cases c : n < n_nodes N
  · rw [if_pos c, if_pos ⟨nI_pos' hn, nI_le (by omega) (by omega)⟩]
    rfl
  · rw [if_neg c, if_neg (fun q => absurd q.2 (nI_ge (by omega) hn))]
theorem p_waits {m : Nat} (h : t_rel σ N lk G) (hN : n_ok N) (hlk : s_lkok N lk) (hK : K ≤ 60) (hi : s_inv N K W t t [] 0 0 0 G) (hm : m ≤ 99) : ∃ σ', D_waits (nI m) σ = some ((if t + m ≤ 99 then 1 else 0), σ') ∧ t_rel σ' N lk (if t + m ≤ 99 then s_goMany N lk m G else G) ∧ t_out σ σ' := by
  have ht : t ≤ 99 := hi.1.1.2.2
  have hmin : t_i σ 27 = nI t := h.2.2.1.trans hi.1.1.1
  unfold D_waits
  rw [hmin, nI_add]
  by_cases c : t + m ≤ 99
  · rw [if_pos (show nI (t + m) ≤ 99 from nI_le (a := t + m) (b := 99) c (by omega)), if_pos c, if_pos c]
    have key := x_forS (fun k (s : t_S) (g : s_G) => t_rel s N lk g ∧ t_out σ s ∧ s_inv N K W (t + k) (t + k) [] 0 0 0 g) (fun f k s => D_waits_15 (nI m) (fun (σ10 : t_S) => some ((1 : Int32), σ10)) f (nI k) s) (fun (σ10 : t_S) => some ((1 : Int32), σ10)) (fun _ G => s_goesBy N lk G) m ?_ ?_ x_F 0 σ G (by omega) ⟨h, t_out.refl, hi⟩ (by rw [x_Fv]; omega)
    · obtain ⟨s', k1, k2, k3, -⟩ := key
      exact ⟨s', k1, k2, k3⟩
    · intro f s g _
      show (if nI m ≤ nI m then _ else _) = _
      rw [if_pos (Int32.le_refl _)]
    · intro f k s g hq hk
      obtain ⟨q1, q2, q3⟩ := hq
      obtain ⟨s1, p1, p2, p3⟩ := p_goesBy q1 hN hlk hK q3 (by omega)
      refine ⟨s1, ?_, p2, q2.trans p3, q3.goesBy (by omega) (by omega) hN hlk⟩
      show (if nI m ≤ nI k then _ else _) = _
      rw [if_neg (nI_ge hk (by omega)), p1, x_bS]
      simp only [x_lS, nI_1]
  · rw [if_neg (show ¬ nI (t + m) ≤ 99 from nI_ge (a := 99) (b := t + m) (by omega) (by omega)), if_neg c, if_neg c]
    exact ⟨σ, rfl, h, t_out.refl⟩
theorem p_asks {n k : Nat} {name wish : Int32} (h : t_rel σ N lk G) (hN : n_ok N) (hlk : s_lkok N lk) (hk : k < 60) (hi : s_inv N k W t t [] 0 0 0 G) (hn : n < 6) (hnm : s_wn name) : ∃ σ', D_asks (nI n) name wish (nI k) σ = some ((if n < n_nodes N then 1 else 0), σ') ∧ t_rel σ' N lk (if n < n_nodes N then s_ask N lk n k name wish G else G) ∧ t_out σ σ' := by
  unfold D_asks
  rw [p_isNodeN h.1.2.2.1 hN (by omega), x_bS]
  by_cases c : n < n_nodes N
  · rw [if_pos c, if_pos c, if_neg (show ¬ (1 : Int32) = 0 by decide)]
    have g2 : ∀ {α : Type} (kk : Nat → Option α), x_ga (nI k) 64 kk = kk k := fun kk => x_gaS (by omega) (by omega)
    have hcm := h.2.2.2.2.2.2.1
    have hm := h.2.2.1
    have H := t_rel_came (σ' := t_sa (t_sa σ 57 k 0) 59 k (t_i σ 27)) (c := fun f j => if j = k ∧ f = 57 then 0 else if j = k ∧ f = 59 then g_minute G else g_came G f j) h (fun _ => rfl) rfl (fun _ _ => rfl) (fun a j ha => by simp only [t_a_sa]; rw [if_neg (by omega), if_neg (by omega)]) (fun f j q1 q2 q3 => by
        simp only [t_a_sa, hm, ← hcm f j q1 q2 q3]
        by_cases e : j = k
        · rcases (show f = 57 ∨ f = 58 ∨ f = 59 ∨ f = 60 ∨ f = 61 ∨ f = 62 ∨ f = 63 ∨ f = 64 by omega) with rfl | rfl | rfl | rfl | rfl | rfl | rfl | rfl <;> simp [e]
        · simp [e])
    obtain ⟨r1, r2⟩ := hi.room hN (by omega)
    obtain ⟨s1, p1, p2, p3⟩ := p_interest (t := 100 + k) (name := name) (wish := wish) (nonce := nI k) H.1 hN hlk.lt hn (Or.inr (by omega)) hnm.lt ⟨(r1 n hn).1, (r1 n hn).2, by show (g_ways G).length < 4096; omega⟩
    refine ⟨s1, ?_, p2, H.2.trans p3⟩
    simp only [g2, x_lS, show (100 : Int32) = nI 100 from rfl, nI_add]
    show x_b (D_interest (nI n) (nI (100 + k)) name wish (nI k) (t_sa (t_sa σ 57 k 0) 59 k (t_i σ 27))) _ = _
    rw [p1, x_bS]
  · rw [if_neg c, if_neg c, if_pos (show (0 : Int32) = 0 from rfl)]
    exact ⟨σ, rfl, h, t_out.refl⟩
theorem t_rel_down {x : Int32} (h : t_rel σ N lk G) : t_rel (t_si σ 26 x) N lk (g_sdown G x) ∧ t_out σ (t_si σ 26 x) := by
  obtain ⟨⟨h1, h2, h3, h4⟩, h5, h6, h7, h8, ⟨w1, w2, w3⟩, h9, c1, c2, c3, c4, c5, c6⟩ := h
  exact ⟨⟨⟨t_net_si (by decide) h1, h2, h3, h4⟩, rfl, h6, h7, h8, ⟨w1, w2, w3⟩, h9, c1, c2, c3, c4, c5, c6⟩, fun k hk => by rw [t_i_si, if_neg (by omega)], rfl, fun _ _ _ => rfl⟩
/-- whether a link can be cut, mended -/
def s_chg (N : s_R) (lk : Nat → Option Nat) (a b : Nat) (cut : Bool) (G : s_G) : Option s_G :=
  if a < n_nodes N ∧ b < n_nodes N then (match lk (6 * a + b) with
    | none => none
    | some l => if s_bit (g_down G) (nI l) = cut then none else some (s_turn l cut G))
  else none
theorem p_changes {a b : Nat} {cut : Bool} (h : t_rel σ N lk G) (hN : n_ok N) (hlk : s_lkok N lk) (ha : a < 6) (hb : b < 6) : ∃ σ', D_changes (nI a) (nI b) (if cut = true then 1 else 0) σ = some ((match s_chg N lk a b cut G with
    | none => 0
    | some _ => 1), σ') ∧ t_rel σ' N lk ((s_chg N lk a b cut G).getD G) ∧ t_out σ σ' := by
  have hnn : n_nodes N ≤ 6 := hN.1.1.2
  unfold D_changes s_chg
  rw [p_isNodeN h.1.2.2.1 hN (by omega), x_bS]
  simp only [x_lS]
  rw [p_isNodeN h.1.2.2.1 hN (by omega)]
  by_cases c1 : a < n_nodes N
  · rw [if_pos c1, if_neg (show ¬ (1 : Int32) = 0 by decide), x_bS]
    by_cases c2 : b < n_nodes N
    · rw [if_pos c2, if_neg (show ¬ (1 : Int32) = 0 by decide), if_pos (show a < n_nodes N ∧ b < n_nodes N from ⟨c1, c2⟩), show (6 : Int32) = nI 6 from rfl, nI_mul, nI_add, x_gaS (by omega) (by omega), (h.1.2.1 (6 * a + b) (by omega)).1]
      cases hl : lk (6 * a + b) with
      | none =>
        rw [if_pos (show oI none = -1 from rfl)]
        exact ⟨σ, rfl, h, t_out.refl⟩
      | some l =>
        have hl1 := (hlk (6 * a + b) l (by omega) hl).1
        have hl15 : l < 15 := (n_ln_b hN hl1).1
        rw [if_neg (show ¬ oI (some l) = -1 from oI_none (by omega)), show oI (some l) = nI l from rfl, p_has', x_bS, h.2.1]
        dsimp only
        cases hb : s_bit (g_down G) (nI l) <;> cases cut
        · exact ⟨σ, by simp, by simpa using h, t_out.refl⟩
        · obtain ⟨d1, d2⟩ := t_rel_down (x := g_down G ||| ((1 : Int32) <<< (nI l &&& 31))) h
          exact ⟨t_si σ 26 (g_down G ||| ((1 : Int32) <<< (nI l &&& 31))), by simp, by simpa [s_turn] using d1, d2⟩
        · obtain ⟨d1, d2⟩ := t_rel_down (x := g_down G &&& (((1 : Int32) <<< (nI l &&& 31)) ^^^ (-1 : Int32))) h
          exact ⟨t_si σ 26 (g_down G &&& (((1 : Int32) <<< (nI l &&& 31)) ^^^ (-1 : Int32))), by simp, by simpa [s_turn] using d1, d2⟩
        · exact ⟨σ, by simp, by simpa using h, t_out.refl⟩
    · rw [if_neg c2, if_pos (show (0 : Int32) = 0 from rfl), if_neg (show ¬ (a < n_nodes N ∧ b < n_nodes N) from fun q => c2 q.2)]
      exact ⟨σ, by simp, by simpa using h, t_out.refl⟩
  · rw [if_neg c1, if_pos (show (0 : Int32) = 0 from rfl), if_neg (show ¬ (a < n_nodes N ∧ b < n_nodes N) from fun q => c1 q.1)]
    exact ⟨σ, by simp, by simpa using h, t_out.refl⟩
theorem p_does {d : s_Dd} {k : Nat} (h : t_rel σ N lk G) (hN : n_ok N) (hlk : s_lkok N lk) (hk : k < 60) (hi : s_inv N k W t t [] 0 0 0 G) (hd : d_ok d) : ∃ σ', D_does d.1 d.2.1 d.2.2 (nI k) σ = some ((match s_does N lk d k G with
    | none => 0
    | some _ => 1), σ') ∧ t_rel σ' N lk ((s_does N lk d k G).getD G) ∧ t_out σ σ' := by
  have hmin : g_minute G = nI t := hi.1.1.1
  have ht : t ≤ 99 := hi.1.1.2.2
  have vt : v_ (g_minute G) = t := by rw [hmin]; exact v_nI (by omega)
  unfold D_does s_does
  rcases hd with ⟨a, ⟨n, n1, n2⟩, c⟩ | ⟨a, m, m1, m2, m3⟩ | ⟨a, x, y, x1, x2, x3, x4, x5⟩
  · have vn : v_ d.2.1 = n := by rw [n2]; exact v_nI (by omega)
    rw [if_pos a, vn, n2]
    obtain ⟨s1, p1, p2, p3⟩ := p_asks (wish := d.1) h hN hlk hk hi n1 c
    have hz : ((if n < n_nodes N then (1 : Int32) else 0) = 0 ∨ (if n < n_nodes N then (1 : Int32) else 0) = 1) := by
      by_cases q : n < n_nodes N
      · rw [if_pos q]; exact Or.inr rfl
      · rw [if_neg q]; exact Or.inl rfl
    rcases a with a | a
    · rw [if_pos a, p1, x_b2S, x_gS hz]
      refine ⟨s1, ?_, ?_, p3⟩
      · by_cases q : n < n_nodes N
        · rw [if_pos q, if_pos q]
        · rw [if_neg q, if_neg q]
      · by_cases q : n < n_nodes N
        · rw [if_pos q] at p2 ⊢; exact p2
        · rw [if_neg q] at p2 ⊢; exact p2
    · rw [if_neg (show ¬ d.1 = 0 by rw [a]; decide), if_pos a, p1, x_b2S, x_gS hz]
      refine ⟨s1, ?_, ?_, p3⟩
      · by_cases q : n < n_nodes N
        · rw [if_pos q, if_pos q]
        · rw [if_neg q, if_neg q]
      · by_cases q : n < n_nodes N
        · rw [if_pos q] at p2 ⊢; exact p2
        · rw [if_neg q] at p2 ⊢; exact p2
  · have vm : v_ d.2.1 = m := by rw [m3]; exact v_nI (by omega)
    rw [if_neg (show ¬ d.1 = 0 by rw [a]; decide), if_neg (show ¬ d.1 = 1 by rw [a]; decide), if_pos a, if_neg (show ¬ (d.1 = 0 ∨ d.1 = 1) by rw [a]; decide), if_pos a, vt, vm, m3]
    obtain ⟨s1, p1, p2, p3⟩ := p_waits (m := m) h hN hlk (show k ≤ 60 by omega) hi (by omega)
    have hz : ((if t + m ≤ 99 then (1 : Int32) else 0) = 0 ∨ (if t + m ≤ 99 then (1 : Int32) else 0) = 1) := by
      by_cases q : t + m ≤ 99
      · rw [if_pos q]; exact Or.inr rfl
      · rw [if_neg q]; exact Or.inl rfl
    rw [p1, x_b2S, x_gS hz]
    refine ⟨s1, ?_, ?_, p3⟩
    · by_cases q : t + m ≤ 99
      · rw [if_pos q, if_pos q]
      · rw [if_neg q, if_neg q]
    · by_cases q : t + m ≤ 99
      · rw [if_pos q] at p2 ⊢; exact p2
      · rw [if_neg q] at p2 ⊢; exact p2
  · have a1 : ¬ (d.1 = 0 ∨ d.1 = 1) := by rcases a with a | a <;> rw [a] <;> decide
    have a2 : ¬ d.1 = 2 := by rcases a with a | a <;> rw [a] <;> decide
    have vx : v_ d.2.1 = x := by rw [x4]; exact v_nI (by omega)
    have vy : v_ d.2.2 = y := by rw [x5]; exact v_nI (by omega)
    rw [if_neg (fun q => a1 (Or.inl q)), if_neg (fun q => a1 (Or.inr q)), if_neg a2, if_neg a1, if_neg a2, vx, vy, x4, x5]
    have hfin : ∀ cut : Bool, decide (d.1 = 3) = cut → ∃ σ', (x_b2 (D_changes (nI x) (nI y) (if cut = true then 1 else 0) σ) fun r22 σ23 => x_g (r22 = 0 ∨ r22 = 1) <| some (r22, σ23)) = some ((match (if x < n_nodes N ∧ y < n_nodes N then (match lk (6 * x + y) with
      | none => none
      | some l => if s_bit (g_down G) (nI l) = decide (d.1 = 3) then none else some (s_turn l (decide (d.1 = 3)) G)) else none) with
      | none => 0
      | some _ => 1), σ') ∧ t_rel σ' N lk ((if x < n_nodes N ∧ y < n_nodes N then (match lk (6 * x + y) with
      | none => none
      | some l => if s_bit (g_down G) (nI l) = decide (d.1 = 3) then none else some (s_turn l (decide (d.1 = 3)) G)) else none).getD G) ∧ t_out σ σ' := by
      intro cut hc
      obtain ⟨s1, p1, p2, p3⟩ := p_changes (cut := cut) h hN hlk x1 x2
      rw [hc]
      refine ⟨s1, ?_, p2, p3⟩
      rw [p1, x_b2S]
      unfold s_chg
      cases (if x < n_nodes N ∧ y < n_nodes N then (match lk (6 * x + y) with
        | none => none
        | some l => if s_bit (g_down G) (nI l) = cut then none else some (s_turn l cut G)) else none) with
      | none => exact x_gS (Or.inl rfl)
      | some _ => exact x_gS (Or.inr rfl)
    rcases a with a | a
    · rw [if_pos a]
      exact hfin true (by simp [a])
    · rw [if_neg (show ¬ d.1 = 3 by rw [a]; decide)]
      exact hfin false (by rw [a]; decide)
end T61
