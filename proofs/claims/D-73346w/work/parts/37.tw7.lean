/-! THE TWIN's LAW, 7: entries and stores change -/
set_option maxRecDepth 100000
section T37
variable {σ σ' : t_S} {N : s_R} {lk : Nat → Option Nat} {G : s_G}
theorem t_rel_nd {nd : Nat → s_N} (h : t_rel σ N lk G) (hi : ∀ k, t_i σ' k = t_i σ k) (hw : t_w σ' = t_w σ) (ha : ∀ k j, ¬ (30 ≤ k ∧ k ≤ 44) → t_a σ' k j = t_a σ k j) (hn : ∀ n, n < 6 → t_es σ' n (nd n).1 ∧ t_ds σ' n (nd n).2.1 ∧ t_l σ' 28 n = (nd n).2.2) : t_rel σ' N lk (g_snd G nd) ∧ t_out σ σ' := by
  obtain ⟨⟨h1, h2, h3, h4⟩, h5, h6, h7, h8, ⟨w1, w2, w3⟩, h9, c1, c2, c3, c4, c5, c6⟩ := h
  refine ⟨⟨⟨t_net_of (hi 22) (fun j => ha 6 j (by omega)) h1, t_lk_of (fun j => ha 25 j (by omega)) h2, (hi 23).trans h3, (hi 24).trans h4⟩, (hi 26).trans h5, (hi 27).trans h6, hn, fun i hx => (ha 29 i (by omega)).trans (h8 i hx), ⟨(hi 45).trans w1, w2, fun i hx => ?_⟩, fun f k q1 q2 q3 => (ha f k (by omega)).trans (h9 f k q1 q2 q3), (hi 65).trans c1, (hi 66).trans c2, (hi 67).trans c3, (hi 68).trans c4, (hi 69).trans c5, (hi 70).trans c6⟩, ⟨fun k _ => hi k, hw, fun k j hk => ha k j (by omega)⟩⟩
  have em : a_m σ' i = a_m σ i := by
    unfold a_m
    rw [ha 46 i (by omega), ha 47 i (by omega), ha 48 i (by omega), ha 49 i (by omega), ha 50 i (by omega), ha 51 i (by omega), ha 52 i (by omega), ha 53 i (by omega), ha 54 i (by omega), ha 55 i (by omega), ha 56 i (by omega)]
  rw [em]
  exact w3 i hx
/-- one entry is changed -/
theorem t_rel_e1 {n i : Nat} {e : s_E} (h : t_rel σ N lk G) (hn : n < 6) (hlt : i < (g_es G n).length) (hi : ∀ k, t_i σ' k = t_i σ k) (hw : t_w σ' = t_w σ) (ha : ∀ k j, ¬ (35 ≤ k ∧ k ≤ 44 ∧ j = 64 * n + i) → t_a σ' k j = t_a σ k j) (hl : ∀ k j, ¬ ((k = 38 ∨ k = 39) ∧ j = 64 * n + i) → t_l σ' k j = t_l σ k j) (he : a_e σ' (64 * n + i) = e) : t_rel σ' N lk (g_ses G n ((g_es G n).set i e)) ∧ t_out σ σ' := by
  refine t_rel_nd h hi hw (fun k j hk => ha k j (by omega)) (fun m hm => ?_)
  obtain ⟨⟨e1, e2, e3⟩, d1, l1⟩ := h.2.2.2.1 m hm
  have hlen : (g_es G n).length ≤ 64 := (h.2.2.2.1 n hn).1.2.1
  have hd : t_ds σ' m (g_ds G m) := t_ds_of (fun k j q1 q2 => ha k j (by omega)) d1
  have hl28 : t_l σ' 28 m = g_dead G m := (hl 28 m (by omega)).trans l1
  have other : ∀ j, j ≠ 64 * n + i → a_e σ' j = a_e σ j := fun j hj => by
    unfold a_e
    rw [ha 35 j (by omega), ha 36 j (by omega), ha 37 j (by omega), hl 38 j (by omega), hl 39 j (by omega), ha 40 j (by omega), ha 41 j (by omega), ha 42 j (by omega), ha 43 j (by omega), ha 44 j (by omega)]
  by_cases q : m = n
  · subst q
    rw [s_up1_s]
    refine ⟨⟨?_, ?_, fun k hk => ?_⟩, hd, hl28⟩
    · rw [ha 34 m (by omega), e1]
      show _ = nI ((g_es G m).set i e).length
      rw [List.length_set]
    · show ((g_es G m).set i e).length ≤ 64
      rw [List.length_set]; exact e2
    · have hk' : k < (g_es G m).length := by
        have : k < ((g_es G m).set i e).length := hk
        rw [List.length_set] at this; exact this
      show a_e σ' (64 * m + k) = ((g_es G m).set i e)[k]
      by_cases hki : k = i
      · subst hki
        rw [List.getElem_set_self, he]
      · rw [List.getElem_set_ne (fun q => hki q.symm), other _ (by omega)]
        exact e3 k hk'
  · rw [s_up1_n q]
    refine ⟨⟨(ha 34 m (by omega)).trans e1, e2, fun k hk => ?_⟩, hd, hl28⟩
    have hk' : k < (g_es G m).length := hk
    show a_e σ' (64 * m + k) = (g_es G m)[k]
    rw [other _ (by omega)]
    exact e3 k hk' 
theorem p_removes {n i : Nat} (h : t_rel σ N lk G) (hn : n < 6) (hlt : i < (g_es G n).length) : ∃ σ', D_removes (nI n) (nI (64 * n + i)) σ = some σ' ∧ t_rel σ' N lk (g_ses G n ((g_es G n).eraseIdx i)) ∧ (∀ k, t_i σ' k = t_i σ k) ∧ t_out σ σ' := by
  obtain ⟨⟨b1, b2, b3⟩, -, -⟩ := h.2.2.2.1 n hn
  obtain ⟨σ', r1, r2, r3, r4, r5⟩ := p_removes_12 hn (fun s => some s) (64 * n + ((g_es G n).length - 1) - (64 * n + i)) x_F (64 * n + i) (t_sa σ 34 n (nI ((g_es G n).length - 1))) ((g_es G n).length - 1) (by rw [t_a_sa, if_pos ⟨rfl, rfl⟩]) (by omega) (by omega) (by omega) rfl (by rw [x_Fv]; omega)
  have g0 : ∀ {α : Type} (kk : Nat → Option α), x_ga (nI n) 6 kk = kk n := fun kk => x_gaS hn (by omega)
  have ha : ∀ k j, t_a σ' k j = if (35 ≤ k ∧ k ≤ 44 ∧ k ≠ 38 ∧ k ≠ 39) ∧ 64 * n + i ≤ j ∧ j < 64 * n + ((g_es G n).length - 1) then t_a σ k (j + 1) else if k = 34 ∧ j = n then nI ((g_es G n).length - 1) else t_a σ k j := fun k j => by
    rw [r4 k j]
    by_cases q : (35 ≤ k ∧ k ≤ 44 ∧ k ≠ 38 ∧ k ≠ 39) ∧ 64 * n + i ≤ j ∧ j < 64 * n + ((g_es G n).length - 1)
    · rw [if_pos q, if_pos q, t_a_sa, if_neg (by omega)]
    · rw [if_neg q, if_neg q, t_a_sa]
  have H := t_rel_nd (σ' := σ') (nd := s_up1 (g_nd G) n ((g_es G n).eraseIdx i, (g_nd G n).2)) h r2 r3 (fun k j hk => by rw [ha, if_neg (by omega), if_neg (by omega)]) (fun m hm => ?_)
  · refine ⟨σ', ?_, H.1, r2, H.2⟩
    unfold D_removes
    simp only [x_lS, g0, b1]
    rw [show (1 : Int32) = nI 1 from rfl, nI_sub (by omega)]
    exact r1
  · obtain ⟨⟨e1, e2, e3⟩, d1, l1⟩ := h.2.2.2.1 m hm
    have hd : t_ds σ' m (g_ds G m) := t_ds_of (fun k j q1 q2 => by rw [ha, if_neg (by omega), if_neg (by omega)]) d1
    have hl28 : t_l σ' 28 m = g_dead G m := by rw [r5, if_neg (by omega)]; exact l1
    by_cases q : m = n
    · subst q
      rw [s_up1_s]
      have hle : ((g_es G m).eraseIdx i).length = (g_es G m).length - 1 := List.length_eraseIdx_of_lt hlt
      refine ⟨⟨?_, ?_, fun k hk => ?_⟩, hd, hl28⟩
      · rw [ha, if_neg (by omega), if_pos ⟨rfl, rfl⟩]
        exact congrArg nI hle.symm
      · show ((g_es G m).eraseIdx i).length ≤ 64
        omega
      · have hk' : k < (g_es G m).length - 1 := by
          have : k < ((g_es G m).eraseIdx i).length := hk
          omega
        show a_e σ' (64 * m + k) = ((g_es G m).eraseIdx i)[k]
        rw [List.getElem_eraseIdx]
        by_cases hki : k < i
        · rw [dif_pos hki, ← e3 k (by omega)]
          unfold a_e
          simp only [ha, r5]
          simp only [show ¬ (64 * m + i ≤ 64 * m + k ∧ 64 * m + k < 64 * m + ((g_es G m).length - 1)) by omega, and_false, if_false]
          simp only [t_l_sa]
          simp
        · rw [dif_neg hki]
          have e9 : a_e σ (64 * m + (k + 1)) = (g_es G m)[k + 1]'(by omega) := e3 (k + 1) (by omega)
          rw [← e9]
          unfold a_e
          simp only [ha, r5]
          simp only [show (64 * m + i ≤ 64 * m + k ∧ 64 * m + k < 64 * m + ((g_es G m).length - 1)) by omega, t_l_sa]
          simp [Nat.add_assoc]
    · rw [s_up1_n q]
      refine ⟨⟨?_, e2, fun k hk => ?_⟩, hd, hl28⟩
      · rw [ha, if_neg (by omega), if_neg (by omega)]
        exact e1
      · have hk' : k < (g_es G m).length := hk
        have hk64 : k < 64 := by omega
        show a_e σ' (64 * m + k) = (g_es G m)[k]
        rw [← e3 k hk']
        unfold a_e
        simp only [ha, r5]
        simp only [show ¬ (64 * n + i ≤ 64 * m + k ∧ 64 * m + k < 64 * n + ((g_es G n).length - 1)) by omega, and_false, if_false, t_l_sa]
        simp
/-- one data put at the place ahead -/
def s_tk1 (k : Nat) (σ : t_S) : t_S := t_sa (t_sa (t_sa σ 31 k (t_a σ 31 (k + 1))) 32 k (t_a σ 32 (k + 1))) 33 k (t_a σ 33 (k + 1))
theorem s_tk1_a (k : Nat) (σ : t_S) (a j : Nat) : t_a (s_tk1 k σ) a j = if (31 ≤ a ∧ a ≤ 33) ∧ j = k then t_a σ a (k + 1) else t_a σ a j := by
  unfold s_tk1
  simp only [t_a_sa]
  by_cases hj : j = k
  · subst hj
    by_cases h : 31 ≤ a ∧ a ≤ 33
    · rcases (show a = 31 ∨ a = 32 ∨ a = 33 by omega) with rfl | rfl | rfl <;> simp
    · have e : ¬ a = 31 ∧ ¬ a = 32 ∧ ¬ a = 33 := by omega
      simp [e, h]
  · simp [hj]
theorem p_takesOut_12 {n : Nat} (hn : n < 6) (K : t_S → Option t_S) : ∀ (m f k : Nat) (σ : t_S) (c : Nat), t_a σ 30 n = nI c → c ≤ 5 → k ≤ c → c - k = m → m < f → ∃ σ', D_takesOut_12 (nI n) K f (nI k) σ = K σ' ∧ (∀ a, t_i σ' a = t_i σ a) ∧ t_w σ' = t_w σ ∧ (∀ a j, t_a σ' a j = if (31 ≤ a ∧ a ≤ 33) ∧ 6 * n + k ≤ j ∧ j < 6 * n + c then t_a σ a (j + 1) else t_a σ a j) ∧ (∀ a j, t_l σ' a j = t_l σ a j) := by
  intro m
  induction m with
  | zero =>
    intro f k σ c h1 h2 h4 h5 h6
    obtain ⟨f, rfl⟩ : ∃ f', f = f' + 1 := ⟨f - 1, by omega⟩
    refine ⟨σ, ?_, fun _ => rfl, rfl, fun a j => by rw [if_neg]; rintro ⟨-, q1, q2⟩; omega, fun a j => rfl⟩
    show x_ga (nI n) 6 _ = _
    rw [x_gaS hn (by omega), h1, if_pos (nI_le (by omega) (by omega))]
  | succ m ih =>
    intro f k σ c h1 h2 h4 h5 h6
    obtain ⟨f, rfl⟩ : ∃ f', f = f' + 1 := ⟨f - 1, by omega⟩
    have e30 : t_a (s_tk1 (6 * n + k) σ) 30 n = nI c := by rw [s_tk1_a, if_neg (by omega)]; exact h1
    obtain ⟨σ', r1, r2, r3, r4, r5⟩ := ih f (k + 1) (s_tk1 (6 * n + k) σ) c e30 h2 (by omega) (by omega) (by omega)
    refine ⟨σ', ?_, fun a => r2 a, r3, fun a j => ?_, fun a j => r5 a j⟩
    · rw [← r1]
      show x_ga (nI n) 6 _ = _
      rw [x_gaS hn (by omega), h1, if_neg (nI_ge (by omega) (by omega))]
      simp only [x_lS, show (6 : Int32) = nI 6 from rfl, nI_mul, nI_add, nI_1, x_gaS (show 6 * n + k + 1 < 36 by omega) (show 36 < 2 ^ 31 by omega), x_gaS (show 6 * n + k < 36 by omega) (show 36 < 2 ^ 31 by omega)]
      rfl
    · rw [r4 a j]
      by_cases q : 31 ≤ a ∧ a ≤ 33
      · by_cases q2 : 6 * n + (k + 1) ≤ j ∧ j < 6 * n + c
        · rw [if_pos ⟨q, q2⟩, if_pos ⟨q, by omega⟩, s_tk1_a, if_neg (fun z => by omega)]
        · rw [if_neg (fun z => q2 z.2), s_tk1_a]
          by_cases q3 : j = 6 * n + k
          · rw [if_pos ⟨q, q3⟩, if_pos ⟨q, by omega⟩, q3]
          · rw [if_neg (fun z => q3 z.2), if_neg (fun z => by omega)]
      · rw [if_neg (fun z => q z.1), if_neg (fun z => q z.1), s_tk1_a, if_neg (fun z => q z.1)]
theorem p_takesOut {n i : Nat} (h : t_rel σ N lk G) (hn : n < 6) (hlt : i < (g_ds G n).length) : ∃ σ', D_takesOut (nI n) (nI i) σ = some σ' ∧ t_rel σ' N lk (g_sds G n ((g_ds G n).eraseIdx i)) ∧ (∀ k, t_i σ' k = t_i σ k) ∧ t_out σ σ' := by
  obtain ⟨-, ⟨b1, b2, b3⟩, -⟩ := h.2.2.2.1 n hn
  obtain ⟨σ', r1, r2, r3, r4, r5⟩ := p_takesOut_12 hn (fun s => some s) ((g_ds G n).length - 1 - i) x_F i (t_sa σ 30 n (nI ((g_ds G n).length - 1))) ((g_ds G n).length - 1) (by rw [t_a_sa, if_pos ⟨rfl, rfl⟩]) (by omega) (by omega) rfl (by rw [x_Fv]; omega)
  have g0 : ∀ {α : Type} (kk : Nat → Option α), x_ga (nI n) 6 kk = kk n := fun kk => x_gaS hn (by omega)
  have ha : ∀ k j, t_a σ' k j = if (31 ≤ k ∧ k ≤ 33) ∧ 6 * n + i ≤ j ∧ j < 6 * n + ((g_ds G n).length - 1) then t_a σ k (j + 1) else if k = 30 ∧ j = n then nI ((g_ds G n).length - 1) else t_a σ k j := fun k j => by
    rw [r4 k j]
    by_cases q : (31 ≤ k ∧ k ≤ 33) ∧ 6 * n + i ≤ j ∧ j < 6 * n + ((g_ds G n).length - 1)
    · rw [if_pos q, if_pos q, t_a_sa, if_neg (by omega)]
    · rw [if_neg q, if_neg q, t_a_sa]
  have H := t_rel_nd (σ' := σ') (nd := s_up1 (g_nd G) n ((g_nd G n).1, (g_ds G n).eraseIdx i, (g_nd G n).2.2)) h r2 r3 (fun k j hk => by rw [ha, if_neg (by omega), if_neg (by omega)]) (fun m hm => ?_)
  · refine ⟨σ', ?_, H.1, r2, H.2⟩
    unfold D_takesOut
    simp only [x_lS, g0, b1]
    rw [show (1 : Int32) = nI 1 from rfl, nI_sub (by omega)]
    exact r1
  · obtain ⟨e0, ⟨e1, e2, e3⟩, l1⟩ := h.2.2.2.1 m hm
    have hd : t_es σ' m (g_es G m) := t_es_of (σ := σ) (fun k j q1 q2 => by rw [ha, if_neg (by omega), if_neg (by omega)]) (fun k j _ _ => r5 k j) e0
    have hl28 : t_l σ' 28 m = g_dead G m := (r5 28 m).trans l1
    by_cases q : m = n
    · subst q
      rw [s_up1_s]
      have hle : ((g_ds G m).eraseIdx i).length = (g_ds G m).length - 1 := List.length_eraseIdx_of_lt hlt
      refine ⟨hd, ⟨?_, ?_, fun k hk => ?_⟩, hl28⟩
      · rw [ha, if_neg (by omega), if_pos ⟨rfl, rfl⟩]
        exact congrArg nI hle.symm
      · show ((g_ds G m).eraseIdx i).length ≤ 6
        omega
      · have hk' : k < (g_ds G m).length - 1 := by
          have : k < ((g_ds G m).eraseIdx i).length := hk
          omega
        show a_d σ' (6 * m + k) = ((g_ds G m).eraseIdx i)[k]
        rw [List.getElem_eraseIdx]
        by_cases hki : k < i
        · rw [dif_pos hki, ← e3 k (by omega)]
          unfold a_d
          simp only [ha]
          simp only [show ¬ (6 * m + i ≤ 6 * m + k ∧ 6 * m + k < 6 * m + ((g_ds G m).length - 1)) by omega, and_false, if_false]
          simp
        · rw [dif_neg hki]
          have e9 : a_d σ (6 * m + (k + 1)) = (g_ds G m)[k + 1]'(by omega) := e3 (k + 1) (by omega)
          rw [← e9]
          unfold a_d
          simp only [ha]
          simp only [show (6 * m + i ≤ 6 * m + k ∧ 6 * m + k < 6 * m + ((g_ds G m).length - 1)) by omega]
          simp [Nat.add_assoc]
    · rw [s_up1_n q]
      refine ⟨hd, ⟨?_, e2, fun k hk => ?_⟩, hl28⟩
      · rw [ha, if_neg (by omega), if_neg (by omega)]
        exact e1
      · have hk' : k < (g_ds G m).length := hk
        have hk6 : k < 6 := by omega
        show a_d σ' (6 * m + k) = (g_ds G m)[k]
        rw [← e3 k hk']
        unfold a_d
        simp only [ha]
        simp only [show ¬ (6 * n + i ≤ 6 * m + k ∧ 6 * m + k < 6 * n + ((g_ds G n).length - 1)) by omega, and_false, if_false]
        simp
end T37
