/-! THE COMPONENT's LAW, 63: the calls state, after, stop -/
set_option maxRecDepth 100000
set_option maxHeartbeats 400000
set_option linter.unusedVariables false
/-- every link stands in its place -/
theorem s_lk0_at {N : s_R} (hN : n_ok N) {l : Nat} (hl : l < n_links N) : s_lk0 N none (6 * n_la N l + n_lb N l) = some l := by
  have H : ∀ m, m ≤ n_links N → ∀ l, l < m → s_fold (fun l f => if some l = (none : Option Nat) then f else s_up1 (s_up1 f (6 * n_la N l + n_lb N l) (some l)) (6 * n_lb N l + n_la N l) (some l)) 0 m (fun _ => none) (6 * n_la N l + n_lb N l) = some l := by
    intro m
    induction m with
    | zero => intro _ l h; omega
    | succ m ih =>
      intro hm l h
      have hb := n_ln_b hN (show l < n_links N by omega)
      have hbm := n_ln_b hN (show m < n_links N by omega)
      rw [s_fold_succ, Nat.zero_add, if_neg (by intro q; cases q)]
      by_cases e : l = m
      · subst e
        by_cases e2 : 6 * n_la N l + n_lb N l = 6 * n_lb N l + n_la N l
        · rw [← e2]; exact s_up1_s
        · exact (s_up1_n e2).trans s_up1_s
      · have hne : ¬ (n_la N l = n_la N m ∧ n_lb N l = n_lb N m ∨ n_la N l = n_lb N m ∧ n_lb N l = n_la N m) := fun q => e (hN.2.2.2.2.2.2.2.1 l m (by omega) (by omega) q)
        exact (s_up1_n (by omega)).trans ((s_up1_n (by omega)).trans (ih (by omega) l (by omega)))
  exact H _ (Nat.le_refl _) l hl
section T93
variable {g : z_G} {o o1 : Nat → Nat} {μ μ1 : z_M} {a s x tb v : Nat} {S : Nat → Prop} {N R L : s_R} {p : s_P} {T : s_T} {n r m k what : Int32} {cc : Nat → Nat → Int32}
theorem h_iv.runs (h : h_iv g o μ a T) (hr : s_row (u_runs T.1) r = some R) : r_ok R := by
  obtain ⟨s, fs, -, -, h3⟩ := h.2.2.2.now
  exact h3.1.2.2.2.2.2.1 R (s_row_some hr).2.2
theorem h_iv.nets (h : h_iv g o μ a T) (hn : s_row (u_nets T.1) n = some N) : n_ok N := by
  obtain ⟨s, fs, -, -, h3⟩ := h.2.2.2.now
  exact h3.1.2.2.2.2.1 N (s_row_some hn).2.2
/-- what a run costs, by its numbers -/
def q_kr (T : s_T) (n r : Int32) : Nat := match s_row (u_nets T.1) n with
  | none => 0
  | some N => match s_row (u_runs T.1) r with
    | none => 0
    | some R => k_run (n_routes N) (r_cnt R)
theorem q_kr_eq (hn : s_row (u_nets T.1) n = some N) (hr : s_row (u_runs T.1) r = some R) : q_kr T n r = k_run (n_routes N) (r_cnt R) := by
  unfold q_kr
  rw [hn, hr]
/-- what is laid by the first k deeds of a run -/
theorem h_iv.goingOf (cc : Nat → Nat → Int32) (h : h_iv g o μ a T) : ∃ o1 μ1, h_fr g (fun a => 879 ≤ o a) o μ o1 μ1 ∧
    (q_laid T cc n r k = none ∧ D_X0_goingOf g a n r k μ = some (none, μ1) ∧ h_u μ1 ≤ h_u μ + q_kr T n r ∨ ∃ N G C E B, q_laid T cc n r k = some (N, G) ∧ D_X0_goingOf g a n r k μ = some (some (c_a C), μ1) ∧ n_ok N ∧ (c_N C = N ∧ c_lk C = s_lk0 N none) ∧ h_go g C o1 μ1 E B G ∧ s_dwn N G ∧ B + k_rooms C ≤ h_u μ + q_kr T n r) := by
  have hw := h.2.1
  have hwo := h.2.2.2
  unfold D_X0_goingOf q_laid q_kr
  rw [hwo.ob, hwo.is0, x_bS]
  cases en : s_row (u_nets T.1) n with
  | none =>
    refine ⟨o, μ, h_fr.refl hw, Or.inl ⟨?_, if_pos rfl, Nat.le_add_right _ _⟩⟩
    cases s_row (u_runs T.1) r <;> rfl
  | some N =>
    rw [if_neg (show ¬ (1 : Int32) = 0 by decide), hwo.ob, hwo.is1, x_bS]
    cases er : s_row (u_runs T.1) r with
    | none => exact ⟨o, μ, h_fr.refl hw, Or.inl ⟨rfl, if_pos rfl, Nat.le_add_right _ _⟩⟩
    | some R =>
      have hN := h.nets en
      have hR := h.runs er
      have hc40 : r_cnt R ≤ 40 := hR.1.2
      rw [if_neg (show ¬ (1 : Int32) = 0 by decide)]
      by_cases c0 : 0 ≤ k
      · obtain ⟨e1, e2⟩ := v_of c0
        have hvk : v_ (nI (v_ k)) = v_ k := v_nI e2
        obtain ⟨o1, μ1, C, E, rr, ak, eD, ⟨p1, p2, p3⟩, h1, F⟩ := h.runOf cc en er e2
        rw [← e1] at eD
        have hPle : (s_play N (s_lk0 N none) (r_dd R) (min (v_ k) (r_cnt R)) (s_begin cc)).1 ≤ min (v_ k) (r_cnt R) := by
          have H : ∀ m j w G, (s_plays N (s_lk0 N none) (r_dd R) m j w G).1 ≤ j + m := by
            intro m
            induction m with
            | zero => intro j w G; exact Nat.le_refl _
            | succ m ih =>
              intro j w G
              show (match s_does N (s_lk0 N none) (r_dd R j) j G with
                | none => (j, w, G)
                | some G' => s_plays N (s_lk0 N none) (r_dd R) m (j + 1) (max w (s_all N G')) G').1 ≤ _
              cases s_does N (s_lk0 N none) (r_dd R j) j G with
              | none => show j ≤ _; omega
              | some G' => exact Nat.le_trans (ih (j + 1) _ G') (by omega)
          have := H (min (v_ k) (r_cnt R)) 0 0 (s_begin cc)
          rw [Nat.zero_add] at this
          exact this
        obtain ⟨r0, rc⟩ := h1.2.1
        have hdn : s_dwn N (s_play N (s_lk0 N none) (r_dd R) (min (v_ k) (r_cnt R)) (s_begin cc)).2.2 := s_dwn_play hN (s_lk0_ok hN)
        refine ⟨o1, μ1, F, ?_⟩
        by_cases cc1 : v_ k ≤ r_cnt R ∧ (s_play N (s_lk0 N none) (r_dd R) (v_ k) (s_begin cc)).1 = v_ k
        · right
          have em : min (v_ k) (r_cnt R) = v_ k := by omega
          rw [em] at rc h1 hdn p3
          refine ⟨N, (s_play N (s_lk0 N none) (r_dd R) (v_ k) (s_begin cc)).2.2, C, E, _, if_pos ⟨⟨c0, cc1.1⟩, cc1.2⟩, ?_, hN, ⟨p1, p2⟩, h1.1, hdn, p3⟩
          rw [if_pos c0, hwo.ob, eD, x_b2S, x_oS, x_giS rc rfl, if_pos (by rw [cc1.2]; exact e1.symm), x_grR rc rfl]
        · left
          refine ⟨if_neg (fun q => cc1 ⟨q.1.2, q.2⟩), ?_, Nat.le_trans h1.1.cost p3⟩
          rw [if_pos c0, hwo.ob, eD, x_b2S, x_oS, x_giS rc rfl, if_neg]
          intro q
          have q2 := (nI_inj (by omega) e2).mp (q.trans e1)
          have hle : v_ k ≤ r_cnt R := by omega
          have em : min (v_ k) (r_cnt R) = v_ k := by omega
          rw [em] at q2
          exact cc1 ⟨hle, q2⟩
      · exact ⟨o, μ, h_fr.refl hw, Or.inl ⟨if_neg (fun q => c0 q.1.1), if_neg c0, Nat.le_add_right _ _⟩⟩
/-- the call state -/
theorem h_iv.state (cc : Nat → Nat → Int32) (h : h_iv g o μ a T) : ∃ μ1, D_X0_state g a n r k what μ = some (q_state T cc n r k what, μ1) ∧ h_iv g (h_o9 o μ) μ1 a T ∧ h_u μ1 ≤ h_u μ + (q_kr T n r + 100) := by
  obtain ⟨o1, μ1, F, h1⟩ := h.goingOf (n := n) (r := r) (k := k) cc
  unfold D_X0_state q_state
  rw [h.2.2.2.ob]
  rcases h1 with ⟨e1, e2, hu⟩ | ⟨N, G, C, E, B, e1, e2, hN, ⟨p1, p2⟩, hg, hd, hu⟩
  · rw [e1, e2]
    exact ⟨μ1, rfl, h.next F, by omega⟩
  · subst p1
    obtain ⟨o2, μ2, e3, h2, F2⟩ := hg.told (what := what) (fun l hl => by rw [p2]; exact s_lk0_at hN hl) hd
    rw [e1, e2, x_b2S, x_nuS, hg.ob, e3, x_b2S]
    refine ⟨μ2, rfl, h.next (F.trans F2 (fun a ha q => by
      rcases q with q | q
      · exact q
      · rw [F.2.1 a ha] at q; omega)), by have := h2.cost; omega⟩
end T93
