/-! THE TWIN's LAW, 28: a message comes -/
set_option maxRecDepth 100000
/-- what is asked of a run when a message comes -/
def s_room (G : s_G) : Prop := (∀ n, n < 6 → (g_es G n).length < 64 ∧ (g_ds G n).length ≤ 5) ∧ (g_ways G).length + 384 ≤ 4096
section T58
variable {σ σ' : t_S} {N : s_R} {lk : Nat → Option Nat} {G : s_G} {K : Nat} {W : s_W}
theorem s_lkok.lt (h : s_lkok N lk) : ∀ i, i < 36 → ∀ l, lk i = some l → l < n_links N := fun i hi l hl => (h i l hi hl).1
theorem s_wn.lt {x : Int32} (h : s_wn x) : x = nI (v_ x) ∧ v_ x < 2 ^ 31 := ⟨h.1, by have := h.2.2.1; omega⟩
theorem p_comes {i : Nat} {m : s_M} (h : t_rel σ N lk G) (hN : n_ok N) (hlk : s_lkok N lk) (hm : (g_ways G)[i]? = some m) (hok : s_mok N K W m) (hr : s_room G) : ∃ σ', D_comes (nI i) σ = some σ' ∧ t_rel σ' N lk (s_comes N lk m G) ∧ t_out σ σ' := by
  have hnn : n_nodes N ≤ 6 := hN.1.1.2
  obtain ⟨hi, he⟩ := List.getElem?_eq_some_iff.mp hm
  obtain ⟨w1, w2, w3⟩ := h.2.2.2.2.2.1
  have hl := w3 i hi
  rw [he] at hl
  obtain ⟨l1, l2⟩ := hl
  obtain ⟨⟨a, b, a1, a2, a3, a4, a5⟩, hnm, hkd, h0, hw⟩ := hok
  have va : v_ m.1.2.1 = a := by rw [a1]; exact v_nI (by omega)
  have vb : v_ m.1.2.2.1 = b := by rw [a2]; exact v_nI (by omega)
  have d46 : t_a σ 46 i = m.1.1 := congrArg (fun x => x.1) l1
  have d47 : t_a σ 47 i = nI a := (congrArg (fun x => x.2.1) l1).trans a1
  have d48 : t_a σ 48 i = nI b := (congrArg (fun x => x.2.2.1) l1).trans a2
  have d49 : t_a σ 49 i = m.1.2.2.2.1 := congrArg (fun x => x.2.2.2.1) l1
  have d50 : t_a σ 50 i = m.1.2.2.2.2.1 := congrArg (fun x => x.2.2.2.2.1) l1
  have d51 : t_a σ 51 i = m.1.2.2.2.2.2.1 := congrArg (fun x => x.2.2.2.2.2.1) l1
  have g1 : ∀ {α : Type} (kk : Nat → Option α), x_ga (nI i) 4096 kk = kk i := fun kk => x_gaS (by omega) (by omega)
  obtain ⟨R1, R2, R3⟩ := w_reg_rel (r := (a_m σ i).2) h
  have hs : D_comes (nI i) σ = if t_a σ 46 i = 0 then D_interest (t_a σ 48 i) (t_a σ 47 i) (t_a σ 49 i) (t_a σ 50 i) (t_a σ 51 i) (w_reg σ (a_m σ i).2) else if t_a σ 46 i = 1 then D_dataCome (t_a σ 48 i) (t_a σ 47 i) (t_a σ 49 i) (w_reg σ (a_m σ i).2) else D_nackComes (t_a σ 48 i) (t_a σ 47 i) (t_a σ 49 i) (t_a σ 50 i) (w_reg σ (a_m σ i).2) := by
    unfold D_comes
    simp only [x_lS, g1, t_a_si, x_idb]
    rfl
  rw [hs, d46, d47, d48, d49, d50, d51]
  obtain ⟨r1, r2⟩ := hr
  obtain ⟨r3, r4⟩ := r1 b (by omega)
  unfold s_comes
  rw [va, vb]
  by_cases c : m.1.1 = 0
  · rw [if_pos c, if_pos c]
    obtain ⟨s1, p1, p2, p3⟩ := p_interest (t := a) (name := m.1.2.2.2.1) (wish := m.1.2.2.2.2.1) (nonce := m.1.2.2.2.2.2.1) R1 hN hlk.lt (show b < 6 by omega) (Or.inl (by omega)) hnm.lt ⟨r3, r4, by omega⟩
    exact ⟨s1, p1, p2, R3.trans p3⟩
  · rw [if_neg c, if_neg c]
    have l3 : (a_m σ i).2 = m.2 := by
      rcases l2 with q | q
      · have : m.1.1 = 0 := by rw [← d46]; exact q
        exact absurd this c
      · exact q
    rw [l3] at R1 R2 R3
    rw [l3]
    by_cases c1 : m.1.1 = 1
    · rw [if_pos c1, if_pos c1]
      obtain ⟨s1, p1, p2, p3⟩ := p_dataCome (fr := a) (name := m.1.2.2.2.1) R1 hN hlk.lt R2 (show b < 6 by omega) (by omega) r4 (by omega)
      exact ⟨s1, p1, p2, R3.trans p3⟩
    · rw [if_neg c1, if_neg c1]
      obtain ⟨s1, p1, p2, p3⟩ := p_nackComes (fr := a) (name := m.1.2.2.2.1) (wish := m.1.2.2.2.2.1) R1 hN hlk.lt R2 (show b < 6 by omega) hnm.lt (by omega)
      exact ⟨s1, p1, p2, R3.trans p3⟩
/-- one message put at another's place -/
def w_mv (i j : Nat) (σ : t_S) : t_S := t_sa (t_sa (t_sa (t_sa (t_sa (t_sa (t_sa (t_sa (t_sa (t_sa (t_sa σ 46 j (t_a σ 46 i)) 47 j (t_a σ 47 i)) 48 j (t_a σ 48 i)) 49 j (t_a σ 49 i)) 50 j (t_a σ 50 i)) 51 j (t_a σ 51 i)) 52 j (t_a σ 52 i)) 53 j (t_a σ 53 i)) 54 j (t_a σ 54 i)) 55 j (t_a σ 55 i)) 56 j (t_a σ 56 i)
theorem w_mv_a {i j a k : Nat} (h : ¬ (46 ≤ a ∧ a ≤ 56) ∨ k ≠ j) : t_a (w_mv i j σ) a k = t_a σ a k := by
  unfold w_mv
  simp only [t_a_sa]
  rcases h with h | h
  · have e : ¬ a = 46 ∧ ¬ a = 47 ∧ ¬ a = 48 ∧ ¬ a = 49 ∧ ¬ a = 50 ∧ ¬ a = 51 ∧ ¬ a = 52 ∧ ¬ a = 53 ∧ ¬ a = 54 ∧ ¬ a = 55 ∧ ¬ a = 56 := by omega
    simp [e]
  · simp [h]
theorem w_mv_m {i j : Nat} : a_m (w_mv i j σ) j = a_m σ i := by
  unfold a_m w_mv
  simp [t_a_sa]
theorem w_mv_m' {i j k : Nat} (h : k ≠ j) : a_m (w_mv i j σ) k = a_m σ k := by
  unfold a_m
  rw [w_mv_a (Or.inr h), w_mv_a (Or.inr h), w_mv_a (Or.inr h), w_mv_a (Or.inr h), w_mv_a (Or.inr h), w_mv_a (Or.inr h), w_mv_a (Or.inr h), w_mv_a (Or.inr h), w_mv_a (Or.inr h), w_mv_a (Or.inr h), w_mv_a (Or.inr h)]
theorem p_moves {i j : Nat} (hi : i < 4096) (hj : j < 4096) : D_moves (nI i) (nI j) σ = some (w_mv i j σ) := by
  have g1 : ∀ {α : Type} (kk : Nat → Option α), x_ga (nI i) 4096 kk = kk i := fun kk => x_gaS hi (by omega)
  have g2 : ∀ {α : Type} (kk : Nat → Option α), x_ga (nI j) 4096 kk = kk j := fun kk => x_gaS hj (by omega)
  unfold D_moves
  simp only [x_lS, g1, g2]
  unfold w_mv
  simp only [t_a_sa, show ¬ (47 = 46) by decide, show ¬ (48 = 47) by decide, show ¬ (48 = 46) by decide, show ¬ (49 = 48) by decide, show ¬ (49 = 47) by decide, show ¬ (49 = 46) by decide, show ¬ (50 = 49) by decide, show ¬ (50 = 48) by decide, show ¬ (50 = 47) by decide, show ¬ (50 = 46) by decide, show ¬ (51 = 50) by decide, show ¬ (51 = 49) by decide, show ¬ (51 = 48) by decide, show ¬ (51 = 47) by decide, show ¬ (51 = 46) by decide, show ¬ (52 = 51) by decide, show ¬ (52 = 50) by decide, show ¬ (52 = 49) by decide, show ¬ (52 = 48) by decide, show ¬ (52 = 47) by decide, show ¬ (52 = 46) by decide, show ¬ (53 = 52) by decide, show ¬ (53 = 51) by decide, show ¬ (53 = 50) by decide, show ¬ (53 = 49) by decide, show ¬ (53 = 48) by decide, show ¬ (53 = 47) by decide, show ¬ (53 = 46) by decide, show ¬ (54 = 53) by decide, show ¬ (54 = 52) by decide, show ¬ (54 = 51) by decide, show ¬ (54 = 50) by decide, show ¬ (54 = 49) by decide, show ¬ (54 = 48) by decide, show ¬ (54 = 47) by decide, show ¬ (54 = 46) by decide, show ¬ (55 = 54) by decide, show ¬ (55 = 53) by decide, show ¬ (55 = 52) by decide, show ¬ (55 = 51) by decide, show ¬ (55 = 50) by decide, show ¬ (55 = 49) by decide, show ¬ (55 = 48) by decide, show ¬ (55 = 47) by decide, show ¬ (55 = 46) by decide, show ¬ (56 = 55) by decide, show ¬ (56 = 54) by decide, show ¬ (56 = 53) by decide, show ¬ (56 = 52) by decide, show ¬ (56 = 51) by decide, show ¬ (56 = 50) by decide, show ¬ (56 = 49) by decide, show ¬ (56 = 48) by decide, show ¬ (56 = 47) by decide, show ¬ (56 = 46) by decide, false_and, if_false]
/-- what is behind a minute alone is kept -/
def s_left (t : Nat) (ms : List s_M) : List s_M := ms.filter (fun m => !decide (m_due m ≤ nI t))
theorem p_goesBy_54 {L : List s_M} {t : Nat} (K : Int32 → t_S → Option t_S) (h6 : t_i σ 27 = nI t) (hw : t_way σ L) :
    ∃ σ', D_goesBy_54 K x_F 0 0 σ = K (nI (s_left t L).length) σ' ∧ (∀ k, t_i σ' k = t_i σ k) ∧ t_w σ' = t_w σ ∧ (∀ a j, ¬ (46 ≤ a ∧ a ≤ 56) → t_a σ' a j = t_a σ a j) ∧ (∀ a j, t_l σ' a j = t_l σ a j) ∧ ∀ j (hj : j < (s_left t L).length), s_like (a_m σ' j) (s_left t L)[j] := by
  obtain ⟨w1, w2, w3⟩ := hw
  have key := x_forS (fun k (s : Nat × t_S) (g : Unit) => s.1 = (s_left t (L.take k)).length ∧ s.1 ≤ k ∧ (∀ k, t_i s.2 k = t_i σ k) ∧ t_w s.2 = t_w σ ∧ (∀ a j, ¬ (46 ≤ a ∧ a ≤ 56) → t_a s.2 a j = t_a σ a j) ∧ (∀ a j, t_l s.2 a j = t_l σ a j) ∧ (∀ j (hj : j < (s_left t (L.take k)).length), s_like (a_m s.2 j) (s_left t (L.take k))[j]) ∧ ∀ j, k ≤ j → a_m s.2 j = a_m σ j) (fun f k s => D_goesBy_54 K f (nI s.1) (nI k) s.2) (fun s => K (nI s.1) s.2) (fun _ g => g) L.length ?_ ?_ x_F 0 (0, σ) () (by omega) ⟨rfl, Nat.le_refl _, fun _ => rfl, rfl, fun _ _ _ => rfl, fun _ _ => rfl, fun j hj => by exact absurd hj (Nat.not_lt_zero j), fun _ _ => rfl⟩ (by rw [x_Fv]; omega)
  · obtain ⟨⟨l, s'⟩, k1, k2, k3, k4, k5, k6, k7, k8, -⟩ := key
    rw [List.take_length] at k2 k8
    have k2' : l = (s_left t L).length := k2
    subst k2'
    exact ⟨s', k1, k4, k5, k6, k7, k8⟩
  · intro f s g hq
    obtain ⟨q1, q2, q3, -⟩ := hq
    show (if t_i s.2 45 ≤ nI L.length then _ else _) = _
    rw [q3 45, w1, if_pos (Int32.le_refl _)]
  · intro f k s g hq hk
    obtain ⟨q1, q2, q3, q4, q5, q6, q7, q8⟩ := hq
    have g1 : ∀ {α : Type} (kk : Nat → Option α), x_ga (nI k) 4096 kk = kk k := fun kk => x_gaS (by omega) (by omega)
    have em : a_m s.2 k = a_m σ k := q8 k (Nat.le_refl _)
    have hl := w3 k hk
    have d52 : t_a s.2 52 k = m_due L[k] := by
      have e1 : t_a s.2 52 k = (a_m s.2 k).1.2.2.2.2.2.2 := rfl
      rw [e1, em]
      exact congrArg (fun x => x.2.2.2.2.2.2) hl.1
    have hL : D_goesBy_54 K (f + 1) (nI s.1) (nI k) s.2 = if m_due L[k] ≤ nI t then D_goesBy_54 K f (nI s.1) (nI (k + 1)) s.2 else D_goesBy_54 K f (nI (s.1 + 1)) (nI (k + 1)) (w_mv k s.1 s.2) := by
      show (if t_i s.2 45 ≤ nI k then _ else _) = _
      rw [q3 45, w1, if_neg (nI_ge hk (by omega)), g1, d52, q3 27, h6]
      by_cases c : m_due L[k] ≤ nI t
      · rw [if_pos c, if_pos c]
        simp only [x_lS, nI_1]
      · rw [if_neg c, if_neg c, p_moves (by omega) (by omega), x_bS]
        simp only [x_lS, nI_1]
    have htk : L.take (k + 1) = L.take k ++ [L[k]] := by rw [List.take_append_getElem]
    have hf : s_left t (L.take (k + 1)) = if m_due L[k] ≤ nI t then s_left t (L.take k) else s_left t (L.take k) ++ [L[k]] := by
      rw [htk]
      unfold s_left
      rw [List.filter_append]
      by_cases c : m_due L[k] ≤ nI t
      · rw [if_pos c, List.filter_cons_of_neg (by simp [c])]
        simp
      · rw [if_neg c, List.filter_cons_of_pos (by simp [c])]
        simp
    by_cases c : m_due L[k] ≤ nI t
    · rw [if_pos c] at hL hf
      refine ⟨s, hL, ?_⟩
      show s.1 = (s_left t (L.take (k + 1))).length ∧ _
      rw [hf]
      exact ⟨q1, by omega, q3, q4, q5, q6, q7, fun j hj => q8 j (by omega)⟩
    · rw [if_neg c] at hL hf
      refine ⟨(s.1 + 1, w_mv k s.1 s.2), hL, ?_⟩
      show s.1 + 1 = (s_left t (L.take (k + 1))).length ∧ _
      rw [hf]
      refine ⟨?_, by show s.1 + 1 ≤ k + 1; omega, q3, q4, fun a j ha => (w_mv_a (Or.inl ha)).trans (q5 a j ha), q6, fun j hj => ?_, fun j hj => (w_mv_m' (by omega)).trans (q8 j (by omega))⟩
      · rw [List.length_append, q1]; rfl
      · rw [List.length_append] at hj
        have hj' : j < (s_left t (L.take k)).length + 1 := hj
        by_cases e : j = (s_left t (L.take k)).length
        · subst e
          rw [List.getElem_append_right (Nat.le_refl _)]
          simp only [Nat.sub_self, List.getElem_cons_zero]
          show s_like (a_m (w_mv k s.1 s.2) (s_left t (L.take k)).length) L[k]
          rw [← q1, w_mv_m, em]
          exact hl
        · rw [List.getElem_append_left (by omega)]
          show s_like (a_m (w_mv k s.1 s.2) j) _
          rw [w_mv_m' (by omega)]
          exact q7 j (by omega)
end T58
