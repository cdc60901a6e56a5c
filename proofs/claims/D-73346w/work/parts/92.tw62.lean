/-! THE TWIN's LAW, 62: a text is taken, whole -/
set_option maxRecDepth 100000
set_option maxHeartbeats 1000000
theorem s_putR_get {l : List s_R} {k : Nat} {r : s_R} (hk : k ≤ l.length) {k' : Nat} {N : s_R} (h : (s_putR l k r)[k']? = some N) : k' = k ∧ N = r ∨ k' ≠ k ∧ l[k']? = some N := by
  unfold s_putR at h
  by_cases c : k < l.length
  · rw [if_pos c] at h
    by_cases e : k' = k
    · subst e
      rw [List.getElem?_set_self c] at h
      exact Or.inl ⟨rfl, (Option.some.inj h).symm⟩
    · rw [List.getElem?_set_ne (fun q => e q.symm)] at h
      exact Or.inr ⟨e, h⟩
  · rw [if_neg c] at h
    have hk2 : k = l.length := by omega
    by_cases e : k' = k
    · subst e
      rw [hk2, List.getElem?_append_right (Nat.le_refl _), Nat.sub_self] at h
      exact Or.inl ⟨rfl, (Option.some.inj h).symm⟩
    · have hlt : k' < l.length := by
        have := (List.getElem?_eq_some_iff.mp h).1
        rw [List.length_append] at this
        have : k' < l.length + 1 := this
        omega
      rw [List.getElem?_append_left hlt] at h
      exact Or.inr ⟨e, h⟩
theorem s_putR_mem {l : List s_R} {k : Nat} {r N : s_R} (hk : k ≤ l.length) (h : N ∈ s_putR l k r) : N = r ∨ N ∈ l := by
  obtain ⟨i, hi, q⟩ := List.getElem_of_mem h
  rcases s_putR_get hk (show (s_putR l k r)[i]? = some N by rw [List.getElem?_eq_getElem hi, q]) with ⟨-, q⟩ | ⟨-, q⟩
  · exact Or.inl q
  · exact Or.inr (List.mem_of_getElem? q)
theorem s_putR_len {l : List s_R} {k : Nat} {r : s_R} : (s_putR l k r).length = if k < l.length then l.length else l.length + 1 := by
  unfold s_putR
  by_cases c : k < l.length
  · rw [if_pos c, if_pos c, List.length_set]
  · rw [if_neg c, if_neg c, List.length_append]; rfl
section T92
variable {σ σ' : t_S} {T : s_T} {p : s_P}
theorem t_st.put0 {k : Nat} {r : s_R} (h : t_st σ T) (hk : k ≤ (u_nets T.1).length) (hl : (s_putR (u_nets T.1) k r).length ≤ 2) (hr : n_ok r) (h1 : ∀ i, i < 122 → t_a σ' 6 (122 * k + i) = r i) (h5 : t_a σ' 5 0 = nI (s_putR (u_nets T.1) k r).length) (ho : ∀ a j, ¬ (a = 6 ∧ 122 * k ≤ j ∧ j < 122 * k + 122) → ¬ (a = 5 ∧ j = 0) → (1 ≤ a ∧ a ≤ 8 ∨ a = 86) → t_a σ' a j = t_a σ a j) : t_st σ' (u_srows 0 T.1 (s_putR (u_nets T.1) k r), T.2) := by
  obtain ⟨⟨⟨u1, u2, u3, u4, u5, u6, u7, u8⟩, v1, v2, v3, v4, ⟨v5, v6, v7⟩, v8, v9, v10⟩, hkp⟩ := h
  have hk2 : k < 2 := by
    rw [s_putR_len] at hl
    by_cases c : k < (u_nets T.1).length
    · rw [if_pos c] at hl; omega
    · rw [if_neg c] at hl; omega
  refine ⟨⟨⟨u1, hl, u3, u4, fun N hN => ?_, u6, u7, u8⟩, fun j hj => (ho 1 _ (by omega) (by omega) (by omega)).trans (v1 j hj), (ho 2 _ (by omega) (by omega) (by omega)).trans v2, (ho 3 _ (by omega) (by omega) (by omega)).trans v3, (ho 4 _ (by omega) (by omega) (by omega)).trans v4, ⟨h5, (ho 5 _ (by omega) (by omega) (by omega)).trans v6, (ho 5 _ (by omega) (by omega) (by omega)).trans v7⟩, fun k2 N q j hj => ?_, fun k N q j hj => (ho 7 _ (by omega) (by omega) (by omega)).trans (v9 k N q j hj), fun k N q j hj => (ho 8 _ (by omega) (by omega) (by omega)).trans (v10 k N q j hj)⟩, fun k3 hk3 => ?_⟩
  · rcases s_putR_mem hk hN with q | q
    · rw [q]; exact hr
    · exact u5 N q
  · rcases s_putR_get hk q with ⟨e1, e2⟩ | ⟨e1, e2⟩
    · rw [e1, e2, Nat.mul_zero, Nat.zero_add]; exact h1 j hj
    · have hb := (List.getElem?_eq_some_iff.mp e2).1
      refine (ho 6 _ (by
        rintro ⟨-, q1, q2⟩
        rcases Nat.lt_or_gt_of_ne e1 with z | z
        · have := Nat.mul_le_mul_left 122 (show k2 + 1 ≤ k from z); omega
        · have := Nat.mul_le_mul_left 122 (show k + 1 ≤ k2 from z); omega) (by omega) (by omega)).trans (v8 k2 N e2 j hj)
  · have hkk := hkp k3 hk3
    show match T.2 k3 with
      | none => t_a σ' 86 k3 = 0
      | some p => t_a σ' 86 k3 = 1 ∧ t_im σ' (k3 + 1) p
    cases q : T.2 k3 with
    | none => rw [q] at hkk; exact (ho 86 k3 (by omega) (by omega) (by omega)).trans hkk
    | some p =>
      rw [q] at hkk
      obtain ⟨z1, ⟨w0, w1, w2, w3, w4, ⟨w5, w6, w7⟩, w8, w9, w10⟩⟩ := hkk
      exact ⟨(ho 86 k3 (by omega) (by omega) (by omega)).trans z1, w0, fun j hj => (ho 1 _ (by omega) (by omega) (by omega)).trans (w1 j hj), (ho 2 _ (by omega) (by omega) (by omega)).trans w2, (ho 3 _ (by omega) (by omega) (by omega)).trans w3, (ho 4 _ (by omega) (by omega) (by omega)).trans w4, ⟨(ho 5 _ (by omega) (by omega) (by omega)).trans w5, (ho 5 _ (by omega) (by omega) (by omega)).trans w6, (ho 5 _ (by omega) (by omega) (by omega)).trans w7⟩, fun k N q j hj => (ho 6 _ (by omega) (by omega) (by omega)).trans (w8 k N q j hj), fun k N q j hj => (ho 7 _ (by omega) (by omega) (by omega)).trans (w9 k N q j hj), fun k N q j hj => (ho 8 _ (by omega) (by omega) (by omega)).trans (w10 k N q j hj)⟩
theorem t_st.put1 {k : Nat} {r : s_R} (h : t_st σ T) (hk : k ≤ (u_runs T.1).length) (hl : (s_putR (u_runs T.1) k r).length ≤ 2) (hr : r_ok r) (h1 : ∀ i, i < 121 → t_a σ' 7 (121 * k + i) = r i) (h5 : t_a σ' 5 1 = nI (s_putR (u_runs T.1) k r).length) (ho : ∀ a j, ¬ (a = 7 ∧ 121 * k ≤ j ∧ j < 121 * k + 121) → ¬ (a = 5 ∧ j = 1) → (1 ≤ a ∧ a ≤ 8 ∨ a = 86) → t_a σ' a j = t_a σ a j) : t_st σ' (u_srows 1 T.1 (s_putR (u_runs T.1) k r), T.2) := by
  obtain ⟨⟨⟨u1, u2, u3, u4, u5, u6, u7, u8⟩, v1, v2, v3, v4, ⟨v5, v6, v7⟩, v8, v9, v10⟩, hkp⟩ := h
  have hk2 : k < 2 := by
    rw [s_putR_len] at hl
    by_cases c : k < (u_runs T.1).length
    · rw [if_pos c] at hl; omega
    · rw [if_neg c] at hl; omega
  refine ⟨⟨⟨u1, u2, hl, u4, u5, fun N hN => ?_, u7, u8⟩, fun j hj => (ho 1 _ (by omega) (by omega) (by omega)).trans (v1 j hj), (ho 2 _ (by omega) (by omega) (by omega)).trans v2, (ho 3 _ (by omega) (by omega) (by omega)).trans v3, (ho 4 _ (by omega) (by omega) (by omega)).trans v4, ⟨(ho 5 _ (by omega) (by omega) (by omega)).trans v5, h5, (ho 5 _ (by omega) (by omega) (by omega)).trans v7⟩, fun k N q j hj => (ho 6 _ (by omega) (by omega) (by omega)).trans (v8 k N q j hj), fun k2 N q j hj => ?_, fun k N q j hj => (ho 8 _ (by omega) (by omega) (by omega)).trans (v10 k N q j hj)⟩, fun k3 hk3 => ?_⟩
  · rcases s_putR_mem hk hN with q | q
    · rw [q]; exact hr
    · exact u6 N q
  · rcases s_putR_get hk q with ⟨e1, e2⟩ | ⟨e1, e2⟩
    · rw [e1, e2, Nat.mul_zero, Nat.zero_add]; exact h1 j hj
    · have hb := (List.getElem?_eq_some_iff.mp e2).1
      refine (ho 7 _ (by
        rintro ⟨-, q1, q2⟩
        rcases Nat.lt_or_gt_of_ne e1 with z | z
        · have := Nat.mul_le_mul_left 121 (show k2 + 1 ≤ k from z); omega
        · have := Nat.mul_le_mul_left 121 (show k + 1 ≤ k2 from z); omega) (by omega) (by omega)).trans (v9 k2 N e2 j hj)
  · have hkk := hkp k3 hk3
    show match T.2 k3 with
      | none => t_a σ' 86 k3 = 0
      | some p => t_a σ' 86 k3 = 1 ∧ t_im σ' (k3 + 1) p
    cases q : T.2 k3 with
    | none => rw [q] at hkk; exact (ho 86 k3 (by omega) (by omega) (by omega)).trans hkk
    | some p =>
      rw [q] at hkk
      obtain ⟨z1, ⟨w0, w1, w2, w3, w4, ⟨w5, w6, w7⟩, w8, w9, w10⟩⟩ := hkk
      exact ⟨(ho 86 k3 (by omega) (by omega) (by omega)).trans z1, w0, fun j hj => (ho 1 _ (by omega) (by omega) (by omega)).trans (w1 j hj), (ho 2 _ (by omega) (by omega) (by omega)).trans w2, (ho 3 _ (by omega) (by omega) (by omega)).trans w3, (ho 4 _ (by omega) (by omega) (by omega)).trans w4, ⟨(ho 5 _ (by omega) (by omega) (by omega)).trans w5, (ho 5 _ (by omega) (by omega) (by omega)).trans w6, (ho 5 _ (by omega) (by omega) (by omega)).trans w7⟩, fun k N q j hj => (ho 6 _ (by omega) (by omega) (by omega)).trans (w8 k N q j hj), fun k N q j hj => (ho 7 _ (by omega) (by omega) (by omega)).trans (w9 k N q j hj), fun k N q j hj => (ho 8 _ (by omega) (by omega) (by omega)).trans (w10 k N q j hj)⟩
theorem t_st.put2 {k : Nat} {r : s_R} (h : t_st σ T) (hk : k ≤ (u_logs T.1).length) (hl : (s_putR (u_logs T.1) k r).length ≤ 2) (hr : l_ok r) (h1 : ∀ i, i < 17 → t_a σ' 8 (17 * k + i) = r i) (h5 : t_a σ' 5 2 = nI (s_putR (u_logs T.1) k r).length) (ho : ∀ a j, ¬ (a = 8 ∧ 17 * k ≤ j ∧ j < 17 * k + 17) → ¬ (a = 5 ∧ j = 2) → (1 ≤ a ∧ a ≤ 8 ∨ a = 86) → t_a σ' a j = t_a σ a j) : t_st σ' (u_srows 2 T.1 (s_putR (u_logs T.1) k r), T.2) := by
  obtain ⟨⟨⟨u1, u2, u3, u4, u5, u6, u7, u8⟩, v1, v2, v3, v4, ⟨v5, v6, v7⟩, v8, v9, v10⟩, hkp⟩ := h
  have hk2 : k < 2 := by
    rw [s_putR_len] at hl
    by_cases c : k < (u_logs T.1).length
    · rw [if_pos c] at hl; omega
    · rw [if_neg c] at hl; omega
  refine ⟨⟨⟨u1, u2, u3, hl, u5, u6, fun N hN => ?_, u8⟩, fun j hj => (ho 1 _ (by omega) (by omega) (by omega)).trans (v1 j hj), (ho 2 _ (by omega) (by omega) (by omega)).trans v2, (ho 3 _ (by omega) (by omega) (by omega)).trans v3, (ho 4 _ (by omega) (by omega) (by omega)).trans v4, ⟨(ho 5 _ (by omega) (by omega) (by omega)).trans v5, (ho 5 _ (by omega) (by omega) (by omega)).trans v6, h5⟩, fun k N q j hj => (ho 6 _ (by omega) (by omega) (by omega)).trans (v8 k N q j hj), fun k N q j hj => (ho 7 _ (by omega) (by omega) (by omega)).trans (v9 k N q j hj), fun k2 N q j hj => ?_⟩, fun k3 hk3 => ?_⟩
  · rcases s_putR_mem hk hN with q | q
    · rw [q]; exact hr
    · exact u7 N q
  · rcases s_putR_get hk q with ⟨e1, e2⟩ | ⟨e1, e2⟩
    · rw [e1, e2, Nat.mul_zero, Nat.zero_add]; exact h1 j hj
    · have hb := (List.getElem?_eq_some_iff.mp e2).1
      refine (ho 8 _ (by
        rintro ⟨-, q1, q2⟩
        rcases Nat.lt_or_gt_of_ne e1 with z | z
        · have := Nat.mul_le_mul_left 17 (show k2 + 1 ≤ k from z); omega
        · have := Nat.mul_le_mul_left 17 (show k + 1 ≤ k2 from z); omega) (by omega) (by omega)).trans (v10 k2 N e2 j hj)
  · have hkk := hkp k3 hk3
    show match T.2 k3 with
      | none => t_a σ' 86 k3 = 0
      | some p => t_a σ' 86 k3 = 1 ∧ t_im σ' (k3 + 1) p
    cases q : T.2 k3 with
    | none => rw [q] at hkk; exact (ho 86 k3 (by omega) (by omega) (by omega)).trans hkk
    | some p =>
      rw [q] at hkk
      obtain ⟨z1, ⟨w0, w1, w2, w3, w4, ⟨w5, w6, w7⟩, w8, w9, w10⟩⟩ := hkk
      exact ⟨(ho 86 k3 (by omega) (by omega) (by omega)).trans z1, w0, fun j hj => (ho 1 _ (by omega) (by omega) (by omega)).trans (w1 j hj), (ho 2 _ (by omega) (by omega) (by omega)).trans w2, (ho 3 _ (by omega) (by omega) (by omega)).trans w3, (ho 4 _ (by omega) (by omega) (by omega)).trans w4, ⟨(ho 5 _ (by omega) (by omega) (by omega)).trans w5, (ho 5 _ (by omega) (by omega) (by omega)).trans w6, (ho 5 _ (by omega) (by omega) (by omega)).trans w7⟩, fun k N q j hj => (ho 6 _ (by omega) (by omega) (by omega)).trans (w8 k N q j hj), fun k N q j hj => (ho 7 _ (by omega) (by omega) (by omega)).trans (w9 k N q j hj), fun k N q j hj => (ho 8 _ (by omega) (by omega) (by omega)).trans (w10 k N q j hj)⟩

theorem s_for_le {l : List s_R} {at_ : Int32} {k : Nat} (h : s_for l at_ = some k) (hl : l.length ≤ 2) : k ≤ l.length ∧ k < 2 := by
  unfold s_for at h
  by_cases c : at_ = -1
  · rw [if_pos c] at h
    by_cases c2 : l.length = 2
    · rw [if_pos c2] at h; cases h
    · rw [if_neg c2] at h; cases h; omega
  · rw [if_neg c] at h
    cases hr : s_row l at_ with
    | none => rw [hr] at h; cases h
    | some N =>
      rw [hr] at h
      cases h
      have := (List.getElem?_eq_some_iff.mp (s_row_some hr).2.1).1
      omega
theorem u_rows_len {s : Nat} (h : t_st σ T) (hs : s < 3) : (u_rows s T.1).length ≤ 2 ∧ t_a σ 5 s = nI (u_rows s T.1).length := by
  obtain ⟨⟨⟨u1, u2, u3, u4, -⟩, v1, v2, v3, v4, ⟨v5, v6, v7⟩, -⟩, -⟩ := h
  rcases (show s = 0 ∨ s = 1 ∨ s = 2 by omega) with rfl | rfl | rfl
  · exact ⟨u2, v5⟩
  · exact ⟨u3, v6⟩
  · exact ⟨u4, v7⟩
/-- what was read is kept -/
theorem p_keptRow {s k : Nat} {row : s_R} {x : Int32} (h : t_st σ T) (hs : s < 3) (hk : k ≤ (u_rows s T.1).length) (hk2 : k < 2) (hx : t_a σ 5 s + x = nI (s_putR (u_rows s T.1) k row).length) (hl : (s_putR (u_rows s T.1) k row).length ≤ 2) (hok : s_rowOk s row) (hr : ∀ j, j < 122 → t_a σ 18 j = row j) : ∃ σ', (x_ga (nI s) 12 fun j22 => x_l (t_sa σ 5 j22 (t_a σ 5 s + x)) fun σ23 => if nI s = 0 then (x_b (D_keep 6 976 (122 : Int32) (nI k) σ23) fun σ31 => some (nI k, σ31)) else if nI s = (1 : Int32) then (x_b (D_keep 7 968 (121 : Int32) (nI k) σ23) fun σ29 => some (nI k, σ29)) else x_b (D_keep 8 136 (17 : Int32) (nI k) σ23) fun σ27 => some (nI k, σ27)) = some (nI k, σ') ∧ t_st σ' (u_srows s T.1 (s_putR (u_rows s T.1) k row), T.2) := by
  rw [x_gaS (by omega) (by omega), x_lS, hx]
  rcases (show s = 0 ∨ s = 1 ∨ s = 2 by omega) with rfl | rfl | rfl
  · obtain ⟨s1, a1, a2, a3⟩ := p_keep (σ := t_sa σ 5 0 (nI (s_putR (u_rows 0 T.1) k row).length)) (ka := 6) (na := 976) (wide := 122) (k := k) (by decide) (by omega) (by omega) (by omega)
    have a1' : D_keep 6 976 (122 : Int32) (nI k) (t_sa σ 5 0 (nI (s_putR (u_rows 0 T.1) k row).length)) = some s1 := a1
    refine ⟨s1, by rw [if_pos (show nI 0 = 0 from rfl), a1', x_bS], t_st.put0 h hk hl hok (fun i hi => (a2 i hi).trans ((by rw [t_a_sa, if_neg (by omega)] : t_a (t_sa σ 5 0 _) 18 i = t_a σ 18 i).trans (hr i (by omega)))) ((a3 5 0 (by omega)).trans (by rw [t_a_sa, if_pos ⟨rfl, rfl⟩]; rfl)) (fun a j h1 h2 h3 => (a3 a j h1).trans (by rw [t_a_sa, if_neg h2]))⟩
  · obtain ⟨s1, a1, a2, a3⟩ := p_keep (σ := t_sa σ 5 1 (nI (s_putR (u_rows 1 T.1) k row).length)) (ka := 7) (na := 968) (wide := 121) (k := k) (by decide) (by omega) (by omega) (by omega)
    have a1' : D_keep 7 968 (121 : Int32) (nI k) (t_sa σ 5 1 (nI (s_putR (u_rows 1 T.1) k row).length)) = some s1 := a1
    refine ⟨s1, by rw [if_neg (show ¬ nI 1 = 0 by decide), if_pos (show nI 1 = 1 from rfl), a1', x_bS], t_st.put1 h hk hl hok (fun i hi => (a2 i hi).trans ((by rw [t_a_sa, if_neg (by omega)] : t_a (t_sa σ 5 1 _) 18 i = t_a σ 18 i).trans (hr i (by omega)))) ((a3 5 1 (by omega)).trans (by rw [t_a_sa, if_pos ⟨rfl, rfl⟩]; rfl)) (fun a j h1 h2 h3 => (a3 a j h1).trans (by rw [t_a_sa, if_neg h2]))⟩
  · obtain ⟨s1, a1, a2, a3⟩ := p_keep (σ := t_sa σ 5 2 (nI (s_putR (u_rows 2 T.1) k row).length)) (ka := 8) (na := 136) (wide := 17) (k := k) (by decide) (by omega) (by omega) (by omega)
    have a1' : D_keep 8 136 (17 : Int32) (nI k) (t_sa σ 5 2 (nI (s_putR (u_rows 2 T.1) k row).length)) = some s1 := a1
    refine ⟨s1, by rw [if_neg (show ¬ nI 2 = 0 by decide), if_neg (show ¬ nI 2 = 1 by decide), a1', x_bS], t_st.put2 h hk hl hok (fun i hi => (a2 i hi).trans ((by rw [t_a_sa, if_neg (by omega)] : t_a (t_sa σ 5 2 _) 18 i = t_a σ 18 i).trans (hr i (by omega)))) ((a3 5 2 (by omega)).trans (by rw [t_a_sa, if_pos ⟨rfl, rfl⟩]; rfl)) (fun a j h1 h2 h3 => (a3 a j h1).trans (by rw [t_a_sa, if_neg h2]))⟩
theorem p_text {sort at_ : Int32} (h : t_st σ T) : ∃ σ', D_text sort at_ σ = some ((q_text T sort at_).1, σ') ∧ t_st σ' (q_text T sort at_).2 := by
  have hsz : t_a (t_si σ 0 0) 2 0 = nI (u_size T.1) := h.1.2.2.1
  have hle : u_size T.1 ≤ 600 := h.1.1.1
  unfold D_text q_text
  rw [x_lS, x_ga40, x_lS, x_ga40, x_lS, x_ga40, x_lS, x_ga40, x_lS, hsz]
  have hq9 : t_q34 σ (t_sa (t_sa (t_sa (t_si (t_si σ 0 0) 10 (nI (u_size T.1))) 2 0 0) 3 0 0) 4 0 (-1)) := fun a j _ h2 => by rw [t_a_sa, if_neg (by omega), t_a_sa, if_neg (by omega), t_a_sa, if_neg (by omega)]; rfl
  have e2 : t_a (t_sa (t_sa (t_sa (t_si (t_si σ 0 0) 10 (nI (u_size T.1))) 2 0 0) 3 0 0) 4 0 (-1)) 2 0 = nI 0 := by rw [t_a_sa, if_neg (by decide), t_a_sa, if_neg (by decide), t_a_sa, if_pos ⟨rfl, rfl⟩]; rfl
  have e3 : t_a (t_sa (t_sa (t_sa (t_si (t_si σ 0 0) 10 (nI (u_size T.1))) 2 0 0) 3 0 0) 4 0 (-1)) 3 0 = 0 := by rw [t_a_sa, if_neg (by decide), t_a_sa, if_pos ⟨rfl, rfl⟩]
  have e4 : t_a (t_sa (t_sa (t_sa (t_si (t_si σ 0 0) 10 (nI (u_size T.1))) 2 0 0) 3 0 0) 4 0 (-1)) 4 0 = -1 := by rw [t_a_sa, if_pos ⟨rfl, rfl⟩]
  have hst : t_st (t_sa (t_sa (t_sa (t_si (t_si σ 0 0) 10 (nI (u_size T.1))) 2 0 0) 3 0 0) 4 0 (-1)) (u_taken T.1, T.2) := h.taken hq9 e2 e3 e4 (Nat.zero_le _) rfl rfl rfl rfl
  have hB : t_B (t_sa (t_sa (t_sa (t_si (t_si σ 0 0) 10 (nI (u_size T.1))) 2 0 0) 3 0 0) 4 0 (-1)) (u_bytes T.1) (u_size T.1) := by
    refine ⟨rfl, hle, fun k hk => ?_, fun k hk => ?_⟩
    · unfold u_bytes
      rw [if_pos hk, hq9 1 k (by omega) (by omega)]
      have := h.1.2.1 k (by omega)
      rw [Nat.mul_zero, Nat.zero_add] at this
      rw [this]
    · unfold u_bytes
      rw [if_neg (by omega)]
  generalize t_sa (t_sa (t_sa (t_si (t_si σ 0 0) 10 (nI (u_size T.1))) 2 0 0) 3 0 0) 4 0 (-1) = s9 at hq9 e2 e3 e4 hst hB ⊢
  have hw := p_inIx (i := sort) (n := 3) (by omega)
  rw [show nI 3 - 1 = (2 : Int32) from rfl] at hw
  rw [hw, x_bS]
  cases hsx : s_ix sort 3 with
  | none => exact ⟨s9, if_pos rfl, hst⟩
  | some s =>
    obtain ⟨hs, hse⟩ := s_ix_some hsx
    obtain ⟨hl2, hl5⟩ := u_rows_len hst hs
    have hrows : u_rows s (u_taken T.1) = u_rows s T.1 := rfl
    rw [hrows] at hl2 hl5
    show ∃ σ', (if (1 : Int32) = 0 then _ else _) = some ((match s_for (u_rows s T.1) at_ with
      | none => ((-2 : Int32), (u_taken T.1, T.2))
      | some k => match s_read (u_bytes T.1) s with
        | .inl pl => (-1, (u_fault (u_taken T.1) 1 (nI pl), T.2))
        | .inr y => if (y_f y).1 = 0 then (nI k, (u_srows s (u_taken T.1) (s_putR (u_rows s T.1) k (y_row y)), T.2)) else (-1, (u_fault (u_taken T.1) (y_f y).1 (if (y_f y).1 ≤ 0 then -1 else nI (y_f y).2), T.2))).1, σ') ∧ t_st σ' (match s_for (u_rows s T.1) at_ with
      | none => ((-2 : Int32), (u_taken T.1, T.2))
      | some k => match s_read (u_bytes T.1) s with
        | .inl pl => (-1, (u_fault (u_taken T.1) 1 (nI pl), T.2))
        | .inr y => if (y_f y).1 = 0 then (nI k, (u_srows s (u_taken T.1) (s_putR (u_rows s T.1) k (y_row y)), T.2)) else (-1, (u_fault (u_taken T.1) (y_f y).1 (if (y_f y).1 ≤ 0 then -1 else nI (y_f y).2), T.2))).2
    rw [if_neg (show ¬ (1 : Int32) = 0 by decide), x_lS, hse]
    -- reading and keeping
    have main : ∀ k, s_for (u_rows s T.1) at_ = some k → ∃ σ', (x_b2 (D_readText (nI s) s9) fun r14 σ15 => if r14 = 0 then (some ((-1 : Int32), σ15)) else x_l (fun (s17 : Int32) => x_ga (nI s) 12 fun j18 => x_l (fun (s19 : Int32) (s20 : Int32) (s21 : Int32) => x_ga s19 12 fun j22 => x_l (t_sa σ15 5 j22 (s20 + s21)) fun σ23 => if nI s = 0 then (x_b (D_keep 6 976 (122 : Int32) s17 σ23) fun σ31 => some (s17, σ31)) else if nI s = (1 : Int32) then (x_b (D_keep 7 968 (121 : Int32) s17 σ23) fun σ29 => some (s17, σ29)) else x_b (D_keep 8 136 (17 : Int32) s17 σ23) fun σ27 => some (s17, σ27)) fun J118 => if at_ = (-1 : Int32) then (J118 (nI s) (t_a σ15 5 j18) (1 : Int32)) else J118 (nI s) (t_a σ15 5 j18) (0 : Int32)) fun J100 => if at_ = (-1 : Int32) then (x_ga (nI s) 12 fun j34 => J100 (t_a σ15 5 j34)) else J100 at_) = some ((match s_read (u_bytes T.1) s with
        | .inl pl => ((-1 : Int32), (u_fault (u_taken T.1) 1 (nI pl), T.2))
        | .inr y => if (y_f y).1 = 0 then (nI k, (u_srows s (u_taken T.1) (s_putR (u_rows s T.1) k (y_row y)), T.2)) else (-1, (u_fault (u_taken T.1) (y_f y).1 (if (y_f y).1 ≤ 0 then -1 else nI (y_f y).2), T.2))).1, σ') ∧ t_st σ' (match s_read (u_bytes T.1) s with
        | .inl pl => ((-1 : Int32), (u_fault (u_taken T.1) 1 (nI pl), T.2))
        | .inr y => if (y_f y).1 = 0 then (nI k, (u_srows s (u_taken T.1) (s_putR (u_rows s T.1) k (y_row y)), T.2)) else (-1, (u_fault (u_taken T.1) (y_f y).1 (if (y_f y).1 ≤ 0 then -1 else nI (y_f y).2), T.2))).2 := by
      intro k hfor
      obtain ⟨hk1, hk2⟩ := s_for_le hfor hl2
      obtain ⟨r, s15, a1, a2, a3⟩ := p_readText hs hB
      have hq : t_q34 s9 s15 := fun a j h1 h2 => a2 a j (by omega) (by omega) (fun z => h2 ⟨by omega, z.2⟩)
      have hsz15 : t_a s15 2 0 = nI 0 := (a2 2 0 (by decide) (by decide) (by omega)).trans e2
      rw [a1, x_b2S]
      cases hr : s_read (u_bytes T.1) s with
      | inl pl =>
        rw [hr] at a3
        obtain ⟨b1, b2, b3⟩ := a3
        rw [if_pos b1]
        exact ⟨s15, rfl, hst.taken (p' := u_fault (u_taken T.1) 1 (nI pl)) hq hsz15 b2 b3 (Nat.zero_le _) rfl rfl rfl rfl⟩
      | inr y =>
        rw [hr] at a3
        obtain ⟨b2, b3, b4⟩ := a3
        show ∃ σ', _ = some ((if (y_f y).1 = 0 then (nI k, (u_srows s (u_taken T.1) (s_putR (u_rows s T.1) k (y_row y)), T.2)) else ((-1 : Int32), (u_fault (u_taken T.1) (y_f y).1 (if (y_f y).1 ≤ 0 then -1 else nI (y_f y).2), T.2))).1, σ') ∧ t_st σ' (if (y_f y).1 = 0 then (nI k, (u_srows s (u_taken T.1) (s_putR (u_rows s T.1) k (y_row y)), T.2)) else ((-1 : Int32), (u_fault (u_taken T.1) (y_f y).1 (if (y_f y).1 ≤ 0 then -1 else nI (y_f y).2), T.2))).2
        by_cases cF : (y_f y).1 = 0
        · rw [if_pos cF] at b4
          obtain ⟨b5, b6, b7⟩ := b4
          rw [if_pos cF, if_neg (show ¬ r = 0 by rw [b5]; decide), x_lS]
          have hst15 : t_st s15 (u_taken T.1, T.2) := hst.taken (p' := u_taken T.1) hq hsz15 (b2.trans cF) (b3.trans (by rw [if_pos (by rw [cF]; exact Int32.le_refl _)]; rfl)) (Nat.zero_le _) rfl rfl rfl rfl
          have hl5' : t_a s15 5 s = nI (u_rows s T.1).length := (a2 5 s (by decide) (by decide) (by omega)).trans hl5
          have hrl := s_putR_len (l := u_rows s T.1) (k := k) (r := y_row y)
          by_cases cat : at_ = -1
          · unfold s_for at hfor
            rw [if_pos cat] at hfor
            have hl2' : ¬ (u_rows s T.1).length = 2 := fun z => by rw [if_pos z] at hfor; cases hfor
            rw [if_neg hl2'] at hfor
            have hkl : k = (u_rows s T.1).length := (Option.some.inj hfor).symm
            rw [if_neg (by omega)] at hrl
            rw [if_pos cat, x_gaS (by omega) (by omega), hl5', ← hkl]
            show ∃ σ', x_ga (nI s) 12 _ = _ ∧ _
            rw [x_gaS (by omega) (by omega), x_lS, if_pos cat]
            obtain ⟨s16, c1, c2⟩ := p_keptRow (row := y_row y) (x := 1) hst15 hs (show k ≤ (u_rows s (u_taken T.1)).length from hk1) hk2 (by rw [hl5', nI_1]; exact congrArg nI hrl.symm) (by rw [hrows, hrl]; omega) b6 b7
            exact ⟨s16, c1, c2⟩
          · unfold s_for at hfor
            rw [if_neg cat] at hfor
            cases hro : s_row (u_rows s T.1) at_ with
            | none => rw [hro] at hfor; cases hfor
            | some N =>
              rw [hro] at hfor
              have hkv : v_ at_ = k := Option.some.inj hfor
              obtain ⟨z1, z2, z3⟩ := s_row_some hro
              have hlt := (List.getElem?_eq_some_iff.mp z2).1
              rw [hkv] at hlt z1
              rw [if_pos hlt] at hrl
              rw [if_neg cat]
              show ∃ σ', x_ga (nI s) 12 _ = _ ∧ _
              rw [x_gaS (by omega) (by omega), x_lS, if_neg cat, z1]
              obtain ⟨s16, c1, c2⟩ := p_keptRow (row := y_row y) (x := 0) hst15 hs (show k ≤ (u_rows s (u_taken T.1)).length from hk1) hk2 (by rw [hl5', Int32.add_zero]; exact congrArg nI hrl.symm) (by rw [hrows, hrl]; exact hl2) b6 b7
              exact ⟨s16, c1, c2⟩
        · rw [if_neg cF] at b4
          rw [if_neg cF, if_pos b4]
          exact ⟨s15, rfl, hst.taken (p' := u_fault (u_taken T.1) (y_f y).1 (if (y_f y).1 ≤ 0 then -1 else nI (y_f y).2)) hq hsz15 b2 b3 (Nat.zero_le _) rfl rfl rfl rfl⟩
    -- whether the row may be
    by_cases cat : at_ = -1
    · rw [if_pos cat, x_gaS (by omega) (by omega), hl5]
      by_cases cf : (u_rows s T.1).length = 2
      · have hfor : s_for (u_rows s T.1) at_ = none := by unfold s_for; rw [if_pos cat, if_pos cf]
        rw [hfor, if_pos (show nI (u_rows s T.1).length = 2 by rw [cf]; rfl)]
        exact ⟨s9, rfl, hst⟩
      · have hfor : s_for (u_rows s T.1) at_ = some (u_rows s T.1).length := by unfold s_for; rw [if_pos cat, if_neg cf]
        rw [hfor, if_neg (show ¬ nI (u_rows s T.1).length = 2 from fun z => cf ((nI_eq (b := 2) (by omega) (by omega)).mp z))]
        exact main _ hfor
    · rw [if_neg cat, p_is (l := u_rows s T.1) hl5 (by omega) hl2, x_bS]
      cases hro : s_row (u_rows s T.1) at_ with
      | none =>
        have hfor : s_for (u_rows s T.1) at_ = none := by unfold s_for; rw [if_neg cat, hro]
        rw [hfor]
        exact ⟨s9, if_pos rfl, hst⟩
      | some N =>
        have hfor : s_for (u_rows s T.1) at_ = some (v_ at_) := by unfold s_for; rw [if_neg cat, hro]
        rw [hfor]
        exact main _ hfor
end T92
