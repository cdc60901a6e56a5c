/-! THE TWIN's LAW, 5: sending, asks' ends -/
set_option maxRecDepth 100000
/-- a message on its way, or missed -/
def s_due (N : s_R) (lk : Nat → Option Nat) (G : s_G) (n to : Nat) : Int32 := g_minute G + nI (n_ld N ((lk (6 * n + to)).getD 0))
def s_send (N : s_R) (lk : Nat → Option Nat) (kind : Int32) (n to : Nat) (name wish nonce : Int32) (r : Int32 × Int32 × Int32 × Int32) (G : s_G) : s_G :=
  if s_up lk (g_down G) n to = true then g_ssent (g_sways G (g_ways G ++ [((kind, nI n, nI to, name, wish, nonce, s_due N lk G n to), r)])) (g_sent G + 1)
  else g_smissed G (g_missed G + 1)
def t_reg (σ : t_S) (r : Int32 × Int32 × Int32 × Int32) : Prop := t_i σ 71 = r.1 ∧ t_i σ 72 = r.2.1 ∧ t_i σ 73 = r.2.2.1 ∧ t_i σ 74 = r.2.2.2
theorem t_i_sa (σ : t_S) (k j : Nat) (x : Int32) (i : Nat) : t_i (t_sa σ k j x) i = t_i σ i := rfl
theorem t_i_sl (σ : t_S) (k j : Nat) (x : Int64) (i : Nat) : t_i (t_sl σ k j x) i = t_i σ i := rfl
theorem t_a_si (σ : t_S) (k : Nat) (x : Int32) (a j : Nat) : t_a (t_si σ k x) a j = t_a σ a j := rfl
theorem t_a_sl (σ : t_S) (k i : Nat) (x : Int64) (a j : Nat) : t_a (t_sl σ k i x) a j = t_a σ a j := rfl
theorem t_l_si (σ : t_S) (k : Nat) (x : Int32) (a j : Nat) : t_l (t_si σ k x) a j = t_l σ a j := rfl
theorem t_l_sa (σ : t_S) (k i : Nat) (x : Int32) (a j : Nat) : t_l (t_sa σ k i x) a j = t_l σ a j := rfl
theorem t_a_sa (σ : t_S) (k j : Nat) (x : Int32) (k' j' : Nat) : t_a (t_sa σ k j x) k' j' = if k' = k ∧ j' = j then x else t_a σ k' j' := rfl
theorem t_l_sl (σ : t_S) (k j : Nat) (x : Int64) (k' j' : Nat) : t_l (t_sl σ k j x) k' j' = if k' = k ∧ j' = j then x else t_l σ k' j' := rfl
theorem t_i_si (σ : t_S) (k : Nat) (x : Int32) (i : Nat) : t_i (t_si σ k x) i = if i = k then x else t_i σ i := rfl
theorem t_net_sa {σ : t_S} {N : s_R} {k j : Nat} {x : Int32} (hk : k ≠ 6) (h : t_net σ N) : t_net (t_sa σ k j x) N := by
  obtain ⟨kk, h1, h2, h3⟩ := h
  exact ⟨kk, h1, h2, fun i hi => by rw [t_a_sa, if_neg (fun q => hk q.1.symm)]; exact h3 i hi⟩
theorem t_net_si {σ : t_S} {N : s_R} {k : Nat} {x : Int32} (hk : k ≠ 22) (h : t_net σ N) : t_net (t_si σ k x) N := by
  obtain ⟨kk, h1, h2, h3⟩ := h
  exact ⟨kk, h1, by rw [t_i_si, if_neg (fun q => hk q.symm)]; exact h2, h3⟩
/-- what is read of a net stays when what it rests on does -/
theorem t_net_of {σ σ' : t_S} {N : s_R} (hi : t_i σ' 22 = t_i σ 22) (ha : ∀ j, t_a σ' 6 j = t_a σ 6 j) (h : t_net σ N) : t_net σ' N := by
  obtain ⟨kk, h1, h2, h3⟩ := h
  exact ⟨kk, h1, hi.trans h2, fun i hx => (ha _).trans (h3 i hx)⟩
theorem t_lk_of {σ σ' : t_S} {lk : Nat → Option Nat} (ha : ∀ j, t_a σ' 25 j = t_a σ 25 j) (h : t_lk σ lk) : t_lk σ' lk := fun i hi => ⟨(ha i).trans (h i hi).1, (h i hi).2⟩
theorem t_es_of {σ σ' : t_S} {n : Nat} {es : List s_E} (ha : ∀ k j, 34 ≤ k → k ≤ 44 → t_a σ' k j = t_a σ k j) (hl : ∀ k j, 38 ≤ k → k ≤ 39 → t_l σ' k j = t_l σ k j) (h : t_es σ n es) : t_es σ' n es := by
  obtain ⟨h1, h2, h3⟩ := h
  refine ⟨(ha _ _ (by omega) (by omega)).trans h1, h2, fun i hi => ?_⟩
  rw [← h3 i hi]
  unfold a_e
  rw [ha 35 _ (by omega) (by omega), ha 36 _ (by omega) (by omega), ha 37 _ (by omega) (by omega), hl 38 _ (by omega) (by omega), hl 39 _ (by omega) (by omega), ha 40 _ (by omega) (by omega), ha 41 _ (by omega) (by omega), ha 42 _ (by omega) (by omega), ha 43 _ (by omega) (by omega), ha 44 _ (by omega) (by omega)]
theorem t_ds_of {σ σ' : t_S} {n : Nat} {ds : List s_D} (ha : ∀ k j, 30 ≤ k → k ≤ 33 → t_a σ' k j = t_a σ k j) (h : t_ds σ n ds) : t_ds σ' n ds := by
  obtain ⟨h1, h2, h3⟩ := h
  refine ⟨(ha _ _ (by omega) (by omega)).trans h1, h2, fun i hi => ?_⟩
  rw [← h3 i hi]
  unfold a_d
  rw [ha 31 _ (by omega) (by omega), ha 32 _ (by omega) (by omega), ha 33 _ (by omega) (by omega)]
section T35
variable {σ : t_S} {N : s_R} {lk : Nat → Option Nat} {G : s_G}
/-- the state after a message is laid -/
def w_sent (σ : t_S) (k : Nat) (m : s_M) : t_S := t_si (t_si (t_sa (t_sa (t_sa (t_sa (t_sa (t_sa (t_sa (t_sa (t_sa (t_sa (t_sa σ 46 k m.1.1) 47 k m.1.2.1) 48 k m.1.2.2.1) 49 k m.1.2.2.2.1) 50 k m.1.2.2.2.2.1) 51 k m.1.2.2.2.2.2.1) 52 k m.1.2.2.2.2.2.2) 53 k m.2.1) 54 k m.2.2.1) 55 k m.2.2.2.1) 56 k m.2.2.2.2) 45 (t_i σ 45 + 1)) 65 (t_i σ 65 + 1)
theorem w_sent_i (k : Nat) (m : s_M) (j : Nat) : t_i (w_sent σ k m) j = if j = 65 then t_i σ 65 + 1 else if j = 45 then t_i σ 45 + 1 else t_i σ j := rfl
theorem w_sent_l (k : Nat) (m : s_M) (a j : Nat) : t_l (w_sent σ k m) a j = t_l σ a j := rfl
theorem w_sent_a (k : Nat) (m : s_M) {a j : Nat} (h : ¬ (46 ≤ a ∧ a ≤ 56) ∨ j ≠ k) : t_a (w_sent σ k m) a j = t_a σ a j := by
  unfold w_sent t_sa t_si t_a
  dsimp only
  rcases h with h | h
  · have e : ¬ a = 46 ∧ ¬ a = 47 ∧ ¬ a = 48 ∧ ¬ a = 49 ∧ ¬ a = 50 ∧ ¬ a = 51 ∧ ¬ a = 52 ∧ ¬ a = 53 ∧ ¬ a = 54 ∧ ¬ a = 55 ∧ ¬ a = 56 := by omega
    simp [e]
  · simp [h]
theorem w_sent_m (k : Nat) (m : s_M) : a_m (w_sent σ k m) k = m := by
  unfold a_m w_sent t_sa t_si t_a
  dsimp only
  simp
theorem p_sends {kind name wish nonce : Int32} {n to : Nat} {r : Int32 × Int32 × Int32 × Int32} (h : t_rel σ N lk G) (hN : n_ok N) (hlk : ∀ i, i < 36 → ∀ l, lk i = some l → l < n_links N) (hr : t_reg σ r) (hn : n < 6) (ht : to < 6) (hw : (g_ways G).length < 4096) :
    ∃ σ', D_sends kind (nI n) (nI to) name wish nonce σ = some σ' ∧ t_rel σ' N lk (s_send N lk kind n to name wish nonce r G) ∧ t_reg σ' r ∧ t_out σ σ' := by
  obtain ⟨⟨h1, h2, h3, h4⟩, h5, h6, h7, h8, ⟨w1, w2, w3⟩, h9, c1, c2, c3, c4, c5, c6⟩ := h
  unfold D_sends s_send
  rw [p_isUp h2 hn ht, x_bS, h5]
  by_cases hu : s_up lk (g_down G) n to = true
  · obtain ⟨l, hl⟩ : ∃ l, lk (6 * n + to) = some l := by
      unfold s_up at hu
      cases e : lk (6 * n + to) with
      | none => rw [e] at hu; cases hu
      | some l => exact ⟨l, rfl⟩
    have hll := hlk (6 * n + to) (by omega) l hl
    have hl15 : l < 15 := (n_ln_b hN hll).1
    have e25 : t_a σ 25 (6 * n + to) = nI l := by rw [(h2 (6 * n + to) (by omega)).1, hl]; rfl
    rw [if_pos hu, if_neg (show ¬ (1 : Int32) = 0 by decide), if_pos hu]
    refine ⟨w_sent σ (g_ways G).length ((kind, nI n, nI to, name, wish, nonce, s_due N lk G n to), r), ?_, ?_, ?_, ?_⟩
    · have g0 : ∀ {α : Type} (k : Nat → Option α), x_ga (nI (g_ways G).length) 4096 k = k (g_ways G).length := fun k => x_gaS hw (by omega)
      have g1 : ∀ {α : Type} (k : Nat → Option α), x_ga (nI (6 * n + to)) 36 k = k (6 * n + to) := fun k => x_gaS (by omega) (by omega)
      simp only [x_lS, t_i_sa, w1, g0, show (6 : Int32) = nI 6 from rfl, nI_mul, nI_add, g1]
      simp only [t_a_sa, show ¬ (25 = 51) by decide, show ¬ (25 = 50) by decide, show ¬ (25 = 49) by decide, show ¬ (25 = 48) by decide, show ¬ (25 = 47) by decide, show ¬ (25 = 46) by decide, false_and, if_false, e25]
      rw [p_link2 (t_net_sa (by decide) (t_net_sa (by decide) (t_net_sa (by decide) (t_net_sa (by decide) (t_net_sa (by decide) (t_net_sa (by decide) h1)))))) hN hll]
      simp only [x_bS]
      unfold w_sent s_due
      rw [hl, ← h6]
      obtain ⟨r1, r2, r3, r4⟩ := hr
      rw [r1, r2, r3, r4, w1]
      rfl
    · refine ⟨⟨t_net_of rfl (fun j => w_sent_a _ _ (Or.inl (by omega))) h1, t_lk_of (fun j => w_sent_a _ _ (Or.inl (by omega))) h2, h3, h4⟩, h5, h6, fun k hk => ?_, fun i hi => ?_, ⟨?_, ?_, fun i hi => ?_⟩, fun f k q1 q2 q3 => ?_, ?_, c2, c3, c4, c5, c6⟩
      · obtain ⟨e1, e2, e3⟩ := h7 k hk
        exact ⟨t_es_of (fun a j q1 q2 => w_sent_a _ _ (Or.inl (by omega))) (fun a j _ _ => rfl) e1, t_ds_of (fun a j q1 q2 => w_sent_a _ _ (Or.inl (by omega))) e2, e3⟩
      · rw [w_sent_a _ _ (Or.inl (by omega))]
        exact h8 i hi
      · rw [w_sent_i, if_neg (by omega), if_pos rfl, w1, nI_1]
        show _ = nI (g_ways G ++ [_]).length
        rw [List.length_append]
        rfl
      · show (g_ways G ++ [_]).length ≤ 4096
        rw [List.length_append]
        show (g_ways G).length + 1 ≤ 4096
        omega
      · have hi' : i < (g_ways G ++ [((kind, nI n, nI to, name, wish, nonce, s_due N lk G n to), r)]).length := hi
        show s_like _ (g_ways G ++ [((kind, nI n, nI to, name, wish, nonce, s_due N lk G n to), r)])[i]
        rw [List.length_append] at hi'
        by_cases e : i = (g_ways G).length
        · subst e
          rw [w_sent_m, List.getElem_append_right (Nat.le_refl _)]
          simp only [Nat.sub_self, List.getElem_cons_zero]
          exact ⟨rfl, Or.inr rfl⟩
        · have hlt : i < (g_ways G).length := by
            have : i < (g_ways G).length + 1 := hi'
            omega
          rw [List.getElem_append_left hlt]
          have em : a_m (w_sent σ (g_ways G).length ((kind, nI n, nI to, name, wish, nonce, s_due N lk G n to), r)) i = a_m σ i := by
            unfold a_m
            rw [w_sent_a _ _ (Or.inr e), w_sent_a _ _ (Or.inr e), w_sent_a _ _ (Or.inr e), w_sent_a _ _ (Or.inr e), w_sent_a _ _ (Or.inr e), w_sent_a _ _ (Or.inr e), w_sent_a _ _ (Or.inr e), w_sent_a _ _ (Or.inr e), w_sent_a _ _ (Or.inr e), w_sent_a _ _ (Or.inr e), w_sent_a _ _ (Or.inr e)]
          rw [em]
          exact w3 i hlt
      · rw [w_sent_a _ _ (Or.inl (by omega))]
        exact h9 f k q1 q2 q3
      · rw [w_sent_i, if_pos rfl, c1]
        rfl
    · exact hr
    · refine ⟨fun k hk => ?_, rfl, fun k j hk => w_sent_a _ _ (Or.inl (by omega))⟩
      rw [w_sent_i, if_neg (by omega), if_neg (by omega)]
  · rw [if_neg hu, if_pos (show (0 : Int32) = 0 from rfl), if_neg hu]
    refine ⟨t_si σ 70 (t_i σ 70 + 1), rfl, ?_, hr, ?_⟩
    · refine ⟨⟨h1, h2, h3, h4⟩, h5, h6, h7, h8, ⟨w1, w2, w3⟩, h9, c1, c2, c3, c4, c5, ?_⟩
      show t_i σ 70 + 1 = g_missed G + 1
      rw [c6]
    · refine ⟨fun k hk => ?_, rfl, fun k j _ => rfl⟩
      show (if k = 70 then _ else _) = _
      rw [if_neg (by omega)]
      rfl
end T35
