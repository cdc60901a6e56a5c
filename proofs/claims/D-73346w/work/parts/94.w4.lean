/-! THE COST, 11: what is told of, by the bytes that were fed -/
set_option maxRecDepth 100000
set_option maxHeartbeats 400000
set_option linter.unusedVariables false
/-- the weight of all that is told -/
def u_wt (p : s_P) : Nat := u_size p + ((u_nets p).map (y_wt 0)).sum + ((u_runs p).map (y_wt 1)).sum
def u_cn (p : s_P) : Nat := (u_nets p).length + (u_runs p).length + (u_logs p).length
/-- F: texts' parts fed, X: texts read -/
def u_bud (F X : Nat) (p : s_P) : Prop := u_wt p ≤ 20 * F ∧ u_cn p ≤ X
def s_bud (F X : Nat) (T : s_T) : Prop := u_bud F X T.1 ∧ ∀ k, k < 3 → ∀ p, T.2 k = some p → u_bud F X p
theorem u_bud.mono {F X F' X' : Nat} {p : s_P} (h : u_bud F X p) (hF : F ≤ F') (hX : X ≤ X') : u_bud F' X' p := ⟨by have := h.1; omega, by have := h.2; omega⟩
theorem s_bud.mono {F X F' X' : Nat} {T : s_T} (h : s_bud F X T) (hF : F ≤ F') (hX : X ≤ X') : s_bud F' X' T := ⟨h.1.mono hF hX, fun k hk p hp => (h.2 k hk p hp).mono hF hX⟩
theorem s_bud.feed {F X : Nat} {T : s_T} {a b c d e : Int32} (h : s_bud F X T) : s_bud (F + 1) X (q_feed T a b c d e).2 := by
  unfold q_feed
  split
  · refine ⟨⟨?_, h.1.2⟩, fun k hk p hp => (h.2 k hk p hp).mono (by omega) (Nat.le_refl _)⟩
    have := h.1.1
    have e1 : u_wt (s_feed a b c d e T.1) = u_wt T.1 + 20 := by
      show u_size T.1 + 20 + _ + _ = u_size T.1 + _ + _ + 20
      show u_size T.1 + 20 + ((u_nets T.1).map (y_wt 0)).sum + ((u_runs T.1).map (y_wt 1)).sum = u_size T.1 + ((u_nets T.1).map (y_wt 0)).sum + ((u_runs T.1).map (y_wt 1)).sum + 20
      omega
    show u_wt (s_feed a b c d e T.1) ≤ _
    omega
  · exact h.mono (by omega) (Nat.le_refl _)
theorem s_bud.end {F X : Nat} {T : s_T} {n : Int32} (h : s_bud F X T) : s_bud F X (q_end T n).2 := by
  unfold q_end
  split
  · rename_i c
    refine ⟨⟨?_, h.1.2⟩, h.2⟩
    have h1 := h.1.1
    have h2 := c.2
    show v_ n + ((u_nets T.1).map (y_wt 0)).sum + ((u_runs T.1).map (y_wt 1)).sum ≤ _
    have h3 : u_size T.1 + ((u_nets T.1).map (y_wt 0)).sum + ((u_runs T.1).map (y_wt 1)).sum ≤ 20 * F := h1
    omega
  · exact h
theorem s_bud.image {F X : Nat} {T : s_T} {k : Int32} (h : s_bud F X T) : s_bud F X (q_image T k).2 := by
  unfold q_image
  cases s_ix k 3 with
  | none => exact h
  | some j =>
    refine ⟨h.1, fun i hi p hp => ?_⟩
    by_cases e : i = j
    · subst e
      have hp' : s_up1 T.2 i (some T.1) i = some p := hp
      rw [s_up1_s] at hp'
      cases hp'
      exact h.1
    · have hp' : s_up1 T.2 j (some T.1) i = some p := hp
      rw [s_up1_n e] at hp'
      exact h.2 i hi p hp'
theorem s_ixlt {k : Int32} {n j : Nat} (h : s_ix k n = some j) : j < n := by
  unfold s_ix at h
  split at h
  · rename_i c
    cases h
    exact c.2
  · cases h
theorem s_bud.again {F X : Nat} {T : s_T} {k : Int32} (h : s_bud F X T) : s_bud F X (q_again T k).2 := by
  unfold q_again
  cases hj : s_ix k 3 with
  | none => exact h
  | some j =>
    show s_bud F X (match T.2 j with | none => ((0 : Int32), T) | some p => ((1 : Int32), (p, T.2))).2
    cases hp : T.2 j with
    | none => exact h
    | some p => exact ⟨h.2 j (s_ixlt hj) p hp, h.2⟩
/-- what is read weighs no more than its text -/
theorem wt_read {B : Nat → Int32} {s len : Nat} {y : s_Y} (hs : s < 3) (hB : ∀ k, len ≤ k → B k = -1) (h : s_read B s = .inr y) : y_wt s (y_row y) ≤ len := by
  unfold s_read at h
  cases hl : s_lines B s 602 (s_y0 B s) with
  | inl pl => rw [hl] at h; cases h
  | inr y1 =>
    rw [hl] at h
    have h2 : s_fin s y1 = y := Sum.inr.inj h
    have e : y_row y = y_row y1 := by
      rw [← h2]
      unfold s_fin
      split <;> rfl
    rw [e]
    have w0 : y_wt s (y_row (s_y0 B s)) = 0 := by
      show y_wt s (s_row0 s) = 0
      unfold y_wt s_row0
      by_cases c : s = 0
      · subst c; decide
      · rw [if_neg c]
        split
        · decide
        · rfl
    exact wt_lines hB 602 _ _ (y_of_0 hs) hl (by rw [w0]; exact Nat.zero_le _) (by rw [w0]; exact Nat.zero_le _)
theorem wt_sum_set {f : s_R → Nat} : ∀ (l : List s_R) (k : Nat) (r : s_R), ((l.set k r).map f).sum ≤ (l.map f).sum + f r := by
  intro l
  induction l with
  | nil => intro k r; simp
  | cons a l ih =>
    intro k r
    cases k with
    | zero => simp only [List.set_cons_zero, List.map_cons, List.sum_cons]; omega
    | succ k =>
      have := ih k r
      simp only [List.set_cons_succ, List.map_cons, List.sum_cons]
      omega
theorem wt_put {f : s_R → Nat} (l : List s_R) (k : Nat) (r : s_R) : ((s_putR l k r).map f).sum ≤ (l.map f).sum + f r ∧ (s_putR l k r).length ≤ l.length + 1 := by
  unfold s_putR
  split
  · exact ⟨wt_sum_set l k r, by rw [List.length_set]; omega⟩
  · constructor
    · rw [List.map_append, List.sum_append]
      simp
    · rw [List.length_append]
      exact Nat.le_refl _
theorem s_bud.text {F X : Nat} {T : s_T} {sort at_ : Int32} (h : s_bud F X T) : s_bud F (X + 1) (q_text T sort at_).2 := by
  have ht : u_bud F (X + 1) (u_taken T.1) := by
    refine ⟨?_, Nat.le_succ_of_le h.1.2⟩
    have h1 : u_size T.1 + ((u_nets T.1).map (y_wt 0)).sum + ((u_runs T.1).map (y_wt 1)).sum ≤ 20 * F := h.1.1
    show 0 + ((u_nets T.1).map (y_wt 0)).sum + ((u_runs T.1).map (y_wt 1)).sum ≤ _
    omega
  have hr : ∀ k, k < 3 → ∀ p, T.2 k = some p → u_bud F (X + 1) p := fun k hk p hp => (h.2 k hk p hp).mono (Nat.le_refl _) (by omega)
  unfold q_text
  cases hs : s_ix sort 3 with
  | none => exact ⟨ht, hr⟩
  | some s =>
    show s_bud F (X + 1) (match s_for (u_rows s T.1) at_ with
      | none => (-2, (u_taken T.1, T.2))
      | some k => _ : Int32 × s_T).2
    cases hf : s_for (u_rows s T.1) at_ with
    | none => exact ⟨ht, hr⟩
    | some k =>
      show s_bud F (X + 1) (match s_read (u_bytes T.1) s with
        | .inl pl => (-1, (u_fault (u_taken T.1) 1 (nI pl), T.2))
        | .inr y => _ : Int32 × s_T).2
      cases hrd : s_read (u_bytes T.1) s with
      | inl pl => exact ⟨ht, hr⟩
      | inr y =>
        show s_bud F (X + 1) (if (y_f y).1 = 0 then (nI k, (u_srows s (u_taken T.1) (s_putR (u_rows s T.1) k (y_row y)), T.2)) else _ : Int32 × s_T).2
        split
        · refine ⟨?_, hr⟩
          have hw := wt_read (len := u_size T.1) (s_ixlt hs) (fun k hk => by
            show (if k < u_size T.1 then _ else _) = _
            rw [if_neg (by omega)]) hrd
          have h1 : u_size T.1 + ((u_nets T.1).map (y_wt 0)).sum + ((u_runs T.1).map (y_wt 1)).sum ≤ 20 * F := h.1.1
          have h2 : (u_nets T.1).length + (u_runs T.1).length + (u_logs T.1).length ≤ X := h.1.2
          have s3 := s_ixlt hs
          have hc : s = 0 ∨ s = 1 ∨ s = 2 := by omega
          rcases hc with rfl | rfl | rfl
          · obtain ⟨a, b⟩ := wt_put (f := y_wt 0) (u_nets T.1) k (y_row y)
            constructor
            · show 0 + ((s_putR (u_nets T.1) k (y_row y)).map (y_wt 0)).sum + ((u_runs T.1).map (y_wt 1)).sum ≤ _
              omega
            · show (s_putR (u_nets T.1) k (y_row y)).length + (u_runs T.1).length + (u_logs T.1).length ≤ _
              omega
          · obtain ⟨a, b⟩ := wt_put (f := y_wt 1) (u_runs T.1) k (y_row y)
            constructor
            · show 0 + ((u_nets T.1).map (y_wt 0)).sum + ((s_putR (u_runs T.1) k (y_row y)).map (y_wt 1)).sum ≤ _
              omega
            · show (u_nets T.1).length + (s_putR (u_runs T.1) k (y_row y)).length + (u_logs T.1).length ≤ _
              omega
          · obtain ⟨a, b⟩ := wt_put (f := y_wt 0) (u_logs T.1) k (y_row y)
            constructor
            · show 0 + ((u_nets T.1).map (y_wt 0)).sum + ((u_runs T.1).map (y_wt 1)).sum ≤ _
              omega
            · show (u_nets T.1).length + (u_runs T.1).length + (s_putR (u_logs T.1) k (y_row y)).length ≤ _
              omega
        · exact ⟨ht, hr⟩
/-- a row that is there -/
theorem wt_mem {l : List s_R} {f : s_R → Nat} {R : s_R} (h : R ∈ l) : f R ≤ (l.map f).sum := by
  induction l with
  | nil => cases h
  | cons a l ih =>
    rw [List.map_cons, List.sum_cons]
    rcases List.mem_cons.mp h with q | q
    · rw [q]; omega
    · have := ih q; omega
theorem s_row_mem {l : List s_R} {k : Int32} {R : s_R} (h : s_row l k = some R) : R ∈ l := by
  unfold s_row at h
  split at h
  · exact List.mem_of_getElem? h
  · cases h
/-- what a net and a run may be -/
theorem s_bud.row {F X : Nat} {T : s_T} {n r : Int32} {N R : s_R} (h : s_bud F X T) (hn : s_row (u_nets T.1) n = some N) (hr : s_row (u_runs T.1) r = some R) : 10 * n_links N + 11 * n_routes N + 6 * r_cnt R ≤ 20 * F ∧ 2 ≤ X := by
  have h1 : u_size T.1 + ((u_nets T.1).map (y_wt 0)).sum + ((u_runs T.1).map (y_wt 1)).sum ≤ 20 * F := h.1.1
  have h2 : (u_nets T.1).length + (u_runs T.1).length + (u_logs T.1).length ≤ X := h.1.2
  have m1 := s_row_mem hn
  have m2 := s_row_mem hr
  have a : 10 * n_links N + 11 * n_routes N ≤ ((u_nets T.1).map (y_wt 0)).sum := wt_mem (f := y_wt 0) m1
  have b : 6 * r_cnt R ≤ ((u_runs T.1).map (y_wt 1)).sum := wt_mem (f := y_wt 1) m2
  have c := List.length_pos_of_mem m1
  have d := List.length_pos_of_mem m2
  exact ⟨by omega, by omega⟩
theorem s_bud.net {F X : Nat} {T : s_T} {n : Int32} {N : s_R} (h : s_bud F X T) (hn : s_row (u_nets T.1) n = some N) : 10 * n_links N + 11 * n_routes N ≤ 20 * F ∧ 1 ≤ X := by
  have h1 : u_size T.1 + ((u_nets T.1).map (y_wt 0)).sum + ((u_runs T.1).map (y_wt 1)).sum ≤ 20 * F := h.1.1
  have h2 : (u_nets T.1).length + (u_runs T.1).length + (u_logs T.1).length ≤ X := h.1.2
  have m1 := s_row_mem hn
  have a : 10 * n_links N + 11 * n_routes N ≤ ((u_nets T.1).map (y_wt 0)).sum := wt_mem (f := y_wt 0) m1
  have c := List.length_pos_of_mem m1
  exact ⟨by omega, by omega⟩
theorem s_bud.log {F X : Nat} {T : s_T} {n r l : Int32} {N R L : s_R} (h : s_bud F X T) (hn : s_row (u_nets T.1) n = some N) (hr : s_row (u_runs T.1) r = some R) (hl : s_row (u_logs T.1) l = some L) : 3 ≤ X := by
  have h2 : (u_nets T.1).length + (u_runs T.1).length + (u_logs T.1).length ≤ X := h.1.2
  have c := List.length_pos_of_mem (s_row_mem hn)
  have d := List.length_pos_of_mem (s_row_mem hr)
  have e := List.length_pos_of_mem (s_row_mem hl)
  omega
