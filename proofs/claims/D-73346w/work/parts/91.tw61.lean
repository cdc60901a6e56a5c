/-! THE TWIN's LAW, 61: a text is taken -/
set_option maxRecDepth 100000
set_option maxHeartbeats 1000000
/-- the bytes of the tape, as the reader sees them -/
def u_bytes (p : s_P) : Nat → Int32 := fun k => if k < u_size p then u_tape p k &&& 255 else -1
/-- a text is being taken: the tape is empty, no fault yet -/
def u_taken (p : s_P) : s_P := (u_tape p, 0, 0, -1, u_nets p, u_runs p, u_logs p)
def u_fault (p : s_P) (k : Int32) (pl : Int32) : s_P := (u_tape p, u_size p, k, pl, u_nets p, u_runs p, u_logs p)
def u_rows (s : Nat) (p : s_P) : List s_R := if s = 0 then u_nets p else if s = 1 then u_runs p else u_logs p
def s_putR (l : List s_R) (k : Nat) (r : s_R) : List s_R := if k < l.length then l.set k r else l ++ [r]
def u_srows (s : Nat) (p : s_P) (l : List s_R) : s_P := if s = 0 then (p.1, p.2.1, p.2.2.1, p.2.2.2.1, l, u_runs p, u_logs p) else if s = 1 then (p.1, p.2.1, p.2.2.1, p.2.2.2.1, u_nets p, l, u_logs p) else (p.1, p.2.1, p.2.2.1, p.2.2.2.1, u_nets p, u_runs p, l)
/-- the row that a text is for: none if it may not be -/
def s_for (l : List s_R) (at_ : Int32) : Option Nat := if at_ = -1 then (if l.length = 2 then none else some l.length) else match s_row l at_ with
  | none => none
  | some _ => some (v_ at_)
def q_text (T : s_T) (sort at_ : Int32) : Int32 × s_T := match s_ix sort 3 with
  | none => (-2, (u_taken T.1, T.2))
  | some s => match s_for (u_rows s T.1) at_ with
    | none => (-2, (u_taken T.1, T.2))
    | some k => match s_read (u_bytes T.1) s with
      | .inl pl => (-1, (u_fault (u_taken T.1) 1 (nI pl), T.2))
      | .inr y => if (y_f y).1 = 0 then (nI k, (u_srows s (u_taken T.1) (s_putR (u_rows s T.1) k (y_row y)), T.2)) else (-1, (u_fault (u_taken T.1) (y_f y).1 (if (y_f y).1 ≤ 0 then -1 else nI (y_f y).2), T.2))
section T91
variable {σ σ' : t_S} {T : s_T} {p : s_P}
/-- what the first image has but for fault, place and size stays -/
def t_q34 (σ σ' : t_S) : Prop := ∀ a j, (1 ≤ a ∧ a ≤ 8 ∨ a = 86) → ¬ ((a = 2 ∨ a = 3 ∨ a = 4) ∧ j = 0) → t_a σ' a j = t_a σ a j
theorem t_st.taken {p' : s_P} (h : t_st σ T) (ho : t_q34 σ σ') (h2 : t_a σ' 2 0 = nI (u_size p')) (h3 : t_a σ' 3 0 = u_kind p') (h4 : t_a σ' 4 0 = u_place p') (hs : u_size p' ≤ 600) (ht : u_tape p' = u_tape T.1) (hn : u_nets p' = u_nets T.1) (hr : u_runs p' = u_runs T.1) (hl : u_logs p' = u_logs T.1) : t_st σ' (p', T.2) := by
  obtain ⟨⟨⟨u1, u2, u3, u4, u5, u6, u7, u8⟩, v1, v2, v3, v4, ⟨v5, v6, v7⟩, v8, v9, v10⟩, hk⟩ := h
  refine ⟨⟨⟨hs, by rw [hn]; exact u2, by rw [hr]; exact u3, by rw [hl]; exact u4, by rw [hn]; exact u5, by rw [hr]; exact u6, by rw [hl]; exact u7, by rw [ht]; exact u8⟩, fun j hj => by rw [ht]; exact (ho 1 _ (by omega) (by omega)).trans (v1 j hj), h2, h3, h4, ⟨by rw [hn]; exact (ho 5 _ (by omega) (by omega)).trans v5, by rw [hr]; exact (ho 5 _ (by omega) (by omega)).trans v6, by rw [hl]; exact (ho 5 _ (by omega) (by omega)).trans v7⟩, fun k N q j hj => (ho 6 _ (by omega) (by omega)).trans (v8 k N (hn ▸ q) j hj), fun k N q j hj => (ho 7 _ (by omega) (by omega)).trans (v9 k N (hr ▸ q) j hj), fun k N q j hj => (ho 8 _ (by omega) (by omega)).trans (v10 k N (hl ▸ q) j hj)⟩, fun k hk3 => ?_⟩
  have hkk := hk k hk3
  show match T.2 k with
    | none => t_a σ' 86 k = 0
    | some p => t_a σ' 86 k = 1 ∧ t_im σ' (k + 1) p
  cases q : T.2 k with
  | none => rw [q] at hkk; exact (ho 86 k (by omega) (by omega)).trans hkk
  | some p =>
    rw [q] at hkk
    obtain ⟨z1, ⟨w0, w1, w2, w3, w4, ⟨w5, w6, w7⟩, w8, w9, w10⟩⟩ := hkk
    exact ⟨(ho 86 k (by omega) (by omega)).trans z1, w0, fun j hj => (ho 1 _ (by omega) (by omega)).trans (w1 j hj), (ho 2 _ (by omega) (by omega)).trans w2, (ho 3 _ (by omega) (by omega)).trans w3, (ho 4 _ (by omega) (by omega)).trans w4, ⟨(ho 5 _ (by omega) (by omega)).trans w5, (ho 5 _ (by omega) (by omega)).trans w6, (ho 5 _ (by omega) (by omega)).trans w7⟩, fun k N q j hj => (ho 6 _ (by omega) (by omega)).trans (w8 k N q j hj), fun k N q j hj => (ho 7 _ (by omega) (by omega)).trans (w9 k N q j hj), fun k N q j hj => (ho 8 _ (by omega) (by omega)).trans (w10 k N q j hj)⟩
theorem p_keep {ka na wide k : Nat} (hka : ka ≠ 18) (hw : wide ≤ 122) (hn : wide * k + wide ≤ na) (hna : na ≤ 1000) : ∃ σ', D_keep ka na (nI wide) (nI k) σ = some σ' ∧ (∀ i, i < wide → t_a σ' ka (wide * k + i) = t_a σ 18 i) ∧ ∀ a j, ¬ (a = ka ∧ wide * k ≤ j ∧ j < wide * k + wide) → t_a σ' a j = t_a σ a j := by
  unfold D_keep
  have key := x_forS (fun m (s : t_S) (_ : Unit) => (∀ i, i < m → t_a s ka (wide * k + i) = t_a σ 18 i) ∧ ∀ a j, ¬ (a = ka ∧ wide * k ≤ j ∧ j < wide * k + m) → t_a s a j = t_a σ a j) (fun f m s => D_keep_3 ka na (nI wide) (nI k) (fun (σ11 : t_S) => some σ11) f (nI m) s) (fun s => some s) (fun _ g => g) wide ?_ ?_ x_F 0 σ () (by omega) ⟨fun m hm => by omega, fun _ _ _ => rfl⟩ (by rw [x_Fv]; omega)
  · obtain ⟨s', k1, k2, k3⟩ := key
    exact ⟨s', k1, k2, k3⟩
  · intro f s g _
    show (if nI wide ≤ nI wide then _ else _) = _
    rw [if_pos (Int32.le_refl _)]
  · intro f m s g hq hm
    obtain ⟨q1, q2⟩ := hq
    refine ⟨t_sa s ka (wide * k + m) (t_a s 18 m), ?_, fun i hi => ?_, fun a j hj => ?_⟩
    · show (if nI wide ≤ nI m then _ else _) = _
      rw [if_neg (nI_ge hm (by omega)), x_gaS (by omega) (by omega), nI_mul, nI_add, x_gaS (by omega) (by omega), x_lS, x_lS, nI_1]
    · rw [t_a_sa]
      by_cases c : i = m
      · subst c
        rw [if_pos ⟨rfl, rfl⟩]
        exact q2 18 i (fun z => hka z.1.symm)
      · rw [if_neg (by omega)]
        exact q1 i (by omega)
    · rw [t_a_sa, if_neg (by omega)]
      exact q2 a j (by omega)
end T91
