/-! THE TWIN's LAW, 8: data put last, entries joined, entries that go on -/
set_option maxRecDepth 100000
def s_at (name : Int32) (ds : List s_D) : Option Nat := s_find (fun i => (ds.map (fun d => d.1))[i]? == some name) 0 ds.length
def s_erase1 (name : Int32) (ds : List s_D) : List s_D := match s_at name ds with
  | some i => ds.eraseIdx i
  | none => ds
def s_trim (room : Nat) (ds : List s_D) : List s_D := if room < ds.length then ds.eraseIdx 0 else ds
def s_put (room : Nat) (d : s_D) (ds : List s_D) : List s_D := s_trim room (s_erase1 d.1 ds ++ [d])
theorem s_at_lt {name : Int32} {ds : List s_D} {i : Nat} (h : s_at name ds = some i) : i < ds.length := by
  have := (s_find_some h).2.1
  omega
theorem s_erase1_le (name : Int32) (ds : List s_D) : (s_erase1 name ds).length ≤ ds.length := by
  unfold s_erase1
  cases h : s_at name ds with
  | none => exact Nat.le_refl _
  | some i =>
    show (ds.eraseIdx i).length ≤ _
    rw [List.length_eraseIdx_of_lt (s_at_lt h)]
    omega
section T38
variable {σ σ' : t_S} {N : s_R} {lk : Nat → Option Nat} {G : s_G}
def w_app (σ : t_S) (n k : Nat) (d : s_D) : t_S := t_sa (t_sa (t_sa (t_sa σ 31 k d.1) 32 k d.2.1) 33 k d.2.2) 30 n (t_a σ 30 n + 1)
theorem w_app_rel {n : Nat} {d : s_D} (h : t_rel σ N lk G) (hn : n < 6) (hc : (g_ds G n).length ≤ 5) : t_rel (w_app σ n (6 * n + (g_ds G n).length) d) N lk (g_sds G n (g_ds G n ++ [d])) ∧ t_out σ (w_app σ n (6 * n + (g_ds G n).length) d) := by
  obtain ⟨-, ⟨b1, b2, b3⟩, -⟩ := h.2.2.2.1 n hn
  have ha : ∀ k j, t_a (w_app σ n (6 * n + (g_ds G n).length) d) k j = if k = 30 ∧ j = n then nI ((g_ds G n).length + 1) else if k = 33 ∧ j = 6 * n + (g_ds G n).length then d.2.2 else if k = 32 ∧ j = 6 * n + (g_ds G n).length then d.2.1 else if k = 31 ∧ j = 6 * n + (g_ds G n).length then d.1 else t_a σ k j := fun k j => by
    unfold w_app
    simp only [t_a_sa, b1, nI_1]
  refine t_rel_nd (nd := s_up1 (g_nd G) n ((g_nd G n).1, g_ds G n ++ [d], (g_nd G n).2.2)) h (fun _ => rfl) rfl (fun k j hk => by rw [ha, if_neg (by omega), if_neg (by omega), if_neg (by omega), if_neg (by omega)]) (fun m hm => ?_)
  obtain ⟨e0, ⟨e1, e2, e3⟩, l1⟩ := h.2.2.2.1 m hm
  have hd : t_es (w_app σ n (6 * n + (g_ds G n).length) d) m (g_es G m) := t_es_of (σ := σ) (fun k j q1 q2 => by rw [ha, if_neg (by omega), if_neg (by omega), if_neg (by omega), if_neg (by omega)]) (fun k j _ _ => rfl) e0
  by_cases q : m = n
  · subst q
    rw [s_up1_s]
    refine ⟨hd, ⟨?_, ?_, fun k hk => ?_⟩, l1⟩
    · rw [ha, if_pos ⟨rfl, rfl⟩]
      show _ = nI (g_ds G m ++ [d]).length
      rw [List.length_append]; rfl
    · show (g_ds G m ++ [d]).length ≤ 6
      rw [List.length_append]
      show (g_ds G m).length + 1 ≤ 6
      omega
    · show a_d _ (6 * m + k) = (g_ds G m ++ [d])[k]
      have hk' : k < (g_ds G m).length + 1 := by
        have : k < (g_ds G m ++ [d]).length := hk
        rw [List.length_append] at this
        exact this
      by_cases e : k = (g_ds G m).length
      · subst e
        rw [List.getElem_append_right (Nat.le_refl _)]
        simp only [Nat.sub_self, List.getElem_cons_zero]
        unfold a_d
        simp [ha]
      · rw [List.getElem_append_left (by omega), ← e3 k (by omega)]
        unfold a_d
        simp only [ha]
        simp only [show ¬ (6 * m + k = 6 * m + (g_ds G m).length) by omega, and_false, if_false]
        simp
  · rw [s_up1_n q]
    refine ⟨hd, ⟨?_, e2, fun k hk => ?_⟩, l1⟩
    · rw [ha, if_neg (by omega), if_neg (by omega), if_neg (by omega), if_neg (by omega)]
      exact e1
    · have hk' : k < (g_ds G m).length := hk
      show a_d _ (6 * m + k) = (g_ds G m)[k]
      rw [← e3 k hk']
      unfold a_d
      simp only [ha]
      simp only [show ¬ (6 * m + k = 6 * n + (g_ds G n).length) by omega, and_false, if_false]
      simp
theorem n_room_b (hN : n_ok N) {n : Nat} (hn : n < 6) : N (5 + n) = nI (n_room N n) ∧ n_room N n ≤ 4 := hN.2.2.2.2.2.1 n hn
theorem g_ds_sds {n : Nat} {ds : List s_D} : g_ds (g_sds G n ds) n = ds := by
  unfold g_ds g_sds
  rw [g_nd_snd, s_up1_s]
theorem g_sds_sds {n : Nat} {ds ds' : List s_D} : g_sds (g_sds G n ds) n ds' = g_sds G n ds' := by
  unfold g_sds
  rw [g_nd_snd, s_up1_s]
  show g_snd (g_snd G _) _ = g_snd G _
  have e : s_up1 (s_up1 (g_nd G) n ((g_nd G n).1, ds, (g_nd G n).2.2)) n ((g_nd G n).1, ds', (g_nd G n).2.2) = s_up1 (g_nd G) n ((g_nd G n).1, ds', (g_nd G n).2.2) := by
    funext j
    unfold s_up1
    by_cases q : j = n
    · rw [if_pos q, if_pos q]
    · rw [if_neg q, if_neg q, if_neg q]
  rw [e]
  rfl
theorem g_sds_id {n : Nat} : g_sds G n (g_ds G n) = G := by
  unfold g_sds g_ds
  have e : s_up1 (g_nd G) n ((g_nd G n).1, (g_nd G n).2.1, (g_nd G n).2.2) = g_nd G := by
    funext j
    unfold s_up1
    by_cases q : j = n
    · rw [if_pos q, q]
    · rw [if_neg q]
  rw [e]
  rfl
theorem p_putsLast {n : Nat} {d : s_D} (h : t_rel σ N lk G) (hN : n_ok N) (hn : n < 6) (hc : (g_ds G n).length ≤ 5) : ∃ σ', D_putsLast (nI n) d.1 d.2.1 d.2.2 σ = some σ' ∧ t_rel σ' N lk (g_sds G n (s_put (n_room N n) d (g_ds G n))) ∧ (∀ k, t_i σ' k = t_i σ k) ∧ t_out σ σ' := by
  have g0 : ∀ {α : Type} (kk : Nat → Option α), x_ga (nI n) 6 kk = kk n := fun kk => x_gaS hn (by omega)
  obtain ⟨hr1, hr2⟩ := n_room_b hN hn
  -- the tail: what is behind the removal
  have tail : ∀ (σ1 : t_S) (ds : List s_D), t_rel σ1 N lk (g_sds G n ds) → ds.length ≤ 5 → ∃ σ', (x_ga (nI n) 6 fun j4 => x_l (((6 : Int32) * nI n) + (t_a σ1 30 j4)) fun v5 => x_ga v5 36 fun j6 => x_l (t_sa σ1 31 j6 d.1) fun σ7 => x_ga v5 36 fun j8 => x_l (t_sa σ7 32 j8 d.2.1) fun σ9 => x_ga v5 36 fun j10 => x_l (t_sa σ9 33 j10 d.2.2) fun σ11 => x_ga (nI n) 6 fun j12 => x_ga (nI n) 6 fun j13 => x_l (t_sa σ11 30 j13 ((t_a σ11 30 j12) + (1 : Int32))) fun σ14 => x_ga (nI n) 6 fun j15 => x_b (D_ofNet ((5 : Int32) + nI n) σ14) fun r17 => if (t_a σ14 30 j15) ≤ r17 then (some σ14) else x_b (D_takesOut (nI n) (0 : Int32) σ14) fun σ20 => some σ20) = some σ' ∧ t_rel σ' N lk (g_sds G n (s_trim (n_room N n) (ds ++ [d]))) ∧ (∀ k, t_i σ' k = t_i σ1 k) ∧ t_out σ1 σ' := by
    intro σ1 ds h1 hl
    have hds : g_ds (g_sds G n ds) n = ds := g_ds_sds
    have b1 := (h1.2.2.2.1 n hn).2.1.1
    rw [hds] at b1
    obtain ⟨H1, H2⟩ := w_app_rel (d := d) h1 hn (by rw [hds]; exact hl)
    rw [hds, g_sds_sds] at H1
    rw [hds] at H2
    have g1 : ∀ {α : Type} (kk : Nat → Option α), x_ga (nI (6 * n + ds.length)) 36 kk = kk (6 * n + ds.length) := fun kk => x_gaS (by omega) (by omega)
    have e30 : t_a (w_app σ1 n (6 * n + ds.length) d) 30 n = nI (ds.length + 1) := by
      unfold w_app
      rw [t_a_sa, if_pos ⟨rfl, rfl⟩, b1, nI_1]
    have eo : D_ofNet (nI (5 + n)) (w_app σ1 n (6 * n + ds.length) d) = some (nI (n_room N n)) := by
      rw [p_ofNet H1.1.1 (by omega), hr1]
    have es : t_sa (t_sa (t_sa (t_sa σ1 31 (6 * n + ds.length) d.1) 32 (6 * n + ds.length) d.2.1) 33 (6 * n + ds.length) d.2.2) 30 n (nI (ds.length + 1)) = w_app σ1 n (6 * n + ds.length) d := by
      unfold w_app
      rw [b1, nI_1]
    simp only [g0, x_lS, b1, show (6 : Int32) = nI 6 from rfl, nI_mul, nI_add, g1]
    simp only [t_a_sa, show ¬ (30 = 33) by decide, show ¬ (30 = 32) by decide, show ¬ (30 = 31) by decide, false_and, if_false, b1, nI_1, es, true_and, if_true, and_self]
    rw [show (5 : Int32) = nI 5 from rfl, nI_add, eo, x_bS, e30]
    unfold s_trim
    rw [List.length_append, show ds.length + [d].length = ds.length + 1 from rfl]
    by_cases q : n_room N n < ds.length + 1
    · rw [if_neg (nI_ge q (by omega)), if_pos q]
      obtain ⟨σ2, t1, t2, t3, t4⟩ := p_takesOut (i := 0) H1 hn (by rw [g_ds_sds, List.length_append]; show 0 < _ + 1; omega)
      rw [g_ds_sds, g_sds_sds] at t2
      refine ⟨σ2, ?_, t2, fun k => t3 k, H2.trans t4⟩
      rw [x_idb]
      exact t1
    · rw [if_pos (nI_le (by omega) (by omega)), if_neg q]
      exact ⟨_, rfl, H1, fun _ => rfl, H2⟩
  unfold D_putsLast s_put s_erase1
  rw [p_storedAt (h.2.2.2.1 n hn).2.1 hn, x_bS]
  simp only [x_lS]
  show ∃ σ', (if oI (s_at d.1 (g_ds G n)) = -1 then _ else _) = some σ' ∧ _
  cases hs : s_at d.1 (g_ds G n) with
  | none =>
    rw [if_pos (show oI none = -1 from rfl)]
    exact tail σ (g_ds G n) (by rw [g_sds_id]; exact h) hc
  | some i =>
    have hi := s_at_lt hs
    rw [if_neg (show ¬ oI (some i) = -1 from oI_none (by omega))]
    obtain ⟨σ1, t1, t2, t3, t4⟩ := p_takesOut (i := i) h hn hi
    obtain ⟨σ', u1, u2, u3, u4⟩ := tail σ1 _ t2 (by rw [List.length_eraseIdx_of_lt hi]; omega)
    refine ⟨σ', ?_, u2, fun k => (u3 k).trans (t3 k), t4.trans u4⟩
    rw [show s_find (fun i => (List.map (fun d => d.fst) (g_ds G n))[i]? == some d.fst) 0 (g_ds G n).length = some i from hs, show oI (some i) = nI i from rfl, t1, x_bS]
    exact u1
end T38
