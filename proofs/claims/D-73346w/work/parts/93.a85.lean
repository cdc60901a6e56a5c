/-! THE COMPONENT's LAW, 85: a link that is away; small Integers from -1 on -/
set_option maxRecDepth 100000
set_option maxHeartbeats 400000
set_option linter.unusedVariables false
section T85
variable {N : s_R}
abbrev s_lkF (N : s_R) (away : Option Nat) (m : Nat) : Nat → Option Nat := s_fold (fun l f => if some l = away then f else s_up1 (s_up1 f (6 * n_la N l + n_lb N l) (some l)) (6 * n_lb N l + n_la N l) (some l)) 0 m (fun _ => none)
theorem s_lkF_some {away : Option Nat} {i l : Nat} : ∀ m, s_lkF N away m i = some l → l < m ∧ (i = 6 * n_la N l + n_lb N l ∨ i = 6 * n_lb N l + n_la N l) := by
  intro m
  induction m with
  | zero => intro h; cases h
  | succ m ih =>
    intro h
    unfold s_lkF at h ih
    rw [s_fold_succ, Nat.zero_add] at h
    by_cases c : some m = away
    · rw [if_pos c] at h
      have := ih h
      exact ⟨by omega, this.2⟩
    · rw [if_neg c] at h
      by_cases c1 : i = 6 * n_lb N m + n_la N m
      · rw [c1, s_up1_s] at h
        cases h
        exact ⟨by omega, Or.inr c1⟩
      · rw [s_up1_n c1] at h
        by_cases c2 : i = 6 * n_la N m + n_lb N m
        · rw [c2, s_up1_s] at h
          cases h
          exact ⟨by omega, Or.inl c2⟩
        · rw [s_up1_n c2] at h
          have := ih h
          exact ⟨by omega, this.2⟩
theorem s_lkF_away (hN : n_ok N) {a : Nat} (ha : a < n_links N) : ∀ m, m ≤ n_links N → ∀ i, s_lkF N (some a) m i = if a < m ∧ (i = 6 * n_la N a + n_lb N a ∨ i = 6 * n_lb N a + n_la N a) then none else s_lkF N none m i := by
  have hba := s_lw_lt hN ⟨a, ha, Or.inl ⟨rfl, rfl⟩, rfl⟩
  have h6 : n_nodes N ≤ 6 := hN.1.1.2
  intro m
  induction m with
  | zero => intro _ i; rw [if_neg (by omega)]; rfl
  | succ m ih =>
    intro hm i
    have ihm := ih (by omega) i
    have e1 : s_lkF N (some a) (m + 1) = if some m = some a then s_lkF N (some a) m else s_up1 (s_up1 (s_lkF N (some a) m) (6 * n_la N m + n_lb N m) (some m)) (6 * n_lb N m + n_la N m) (some m) := by
      unfold s_lkF
      rw [s_fold_succ, Nat.zero_add]
    have e2 : s_lkF N none (m + 1) = s_up1 (s_up1 (s_lkF N none m) (6 * n_la N m + n_lb N m) (some m)) (6 * n_lb N m + n_la N m) (some m) := by
      unfold s_lkF
      rw [s_fold_succ, Nat.zero_add, if_neg (by intro q; cases q)]
    have hbm := s_lw_lt hN ⟨m, by omega, Or.inl ⟨rfl, rfl⟩, rfl⟩
    by_cases c : m = a
    · subst c
      rw [e1, if_pos rfl, ihm, if_neg (by omega)]
      by_cases d : i = 6 * n_la N m + n_lb N m ∨ i = 6 * n_lb N m + n_la N m
      · rw [if_pos ⟨by omega, d⟩]
        cases q : s_lkF N none m i with
        | none => rfl
        | some l =>
          exfalso
          obtain ⟨l1, l2⟩ := s_lkF_some m q
          have hbl := s_lw_lt hN ⟨l, by omega, Or.inl ⟨rfl, rfl⟩, rfl⟩
          have := hN.2.2.2.2.2.2.2.1 l m (by omega) (by omega) (by omega)
          omega
      · rw [if_neg (fun q => d q.2), e2, s_up1_n (fun q => d (Or.inr q)), s_up1_n (fun q => d (Or.inl q))]
    · rw [e1, if_neg (fun q => c (Option.some.inj q)), e2]
      by_cases c1 : i = 6 * n_lb N m + n_la N m
      · rw [c1, s_up1_s, s_up1_s, if_neg]
        rintro ⟨-, q⟩
        have := hN.2.2.2.2.2.2.2.1 m a (by omega) (by omega) (by omega)
        omega
      · rw [s_up1_n c1, s_up1_n c1]
        by_cases c2 : i = 6 * n_la N m + n_lb N m
        · rw [c2, s_up1_s, s_up1_s, if_neg]
          rintro ⟨-, q⟩
          have := hN.2.2.2.2.2.2.2.1 m a (by omega) (by omega) (by omega)
          omega
        · rw [s_up1_n c2, s_up1_n c2, ihm]
          by_cases d : i = 6 * n_la N a + n_lb N a ∨ i = 6 * n_lb N a + n_la N a
          · by_cases d2 : a < m
            · rw [if_pos ⟨d2, d⟩, if_pos ⟨by omega, d⟩]
            · rw [if_neg (fun q => d2 q.1), if_neg (fun q => by have := q.1; omega)]
          · rw [if_neg (fun q => d q.2), if_neg (fun q => d q.2)]
/-- the two ends of what is away -/
def s_wx (N : s_R) (i : Nat) : Nat := if i = 0 then 0 else n_la N (i - 1)
def s_wy (N : s_R) (i : Nat) : Nat := if i = 0 then 0 else n_lb N (i - 1)
theorem s_dly_away (hN : n_ok N) {i : Nat} (hi : i ≤ n_links N) {j : Nat} (hj : j < 36) : s_dly N (s_lk0 N (s_away i)) j = if j = 6 * s_wx N i + s_wy N i ∨ j = 6 * s_wy N i + s_wx N i then 0 else s_dly N (s_lk0 N none) j := by
  have h6 : n_nodes N ≤ 6 := hN.1.1.2
  unfold s_away s_wx s_wy
  by_cases c : i = 0
  · rw [if_pos c, if_pos c, if_pos c]
    by_cases d : j = 0
    · rw [if_pos (by omega)]
      unfold s_dly
      cases e : s_lk0 N none j with
      | none => rfl
      | some l =>
        exfalso
        have e' : s_lkF N none (n_links N) j = some l := e
        obtain ⟨l1, l2⟩ := s_lkF_some _ e'
        have hbl := s_lw_lt hN ⟨l, by omega, Or.inl ⟨rfl, rfl⟩, rfl⟩
        omega
    · rw [if_neg (by omega)]
  · rw [if_neg c, if_neg c, if_neg c]
    have e : s_lk0 N (some (i - 1)) j = if i - 1 < n_links N ∧ (j = 6 * n_la N (i - 1) + n_lb N (i - 1) ∨ j = 6 * n_lb N (i - 1) + n_la N (i - 1)) then none else s_lk0 N none j := s_lkF_away hN (by omega) (n_links N) (Nat.le_refl _) j
    unfold s_dly
    rw [e]
    by_cases d : j = 6 * n_la N (i - 1) + n_lb N (i - 1) ∨ j = 6 * n_lb N (i - 1) + n_la N (i - 1)
    · rw [if_pos ⟨by omega, d⟩, if_pos d]
    · rw [if_neg (fun q => d q.2), if_neg d]
theorem s_wxy (hN : n_ok N) {i : Nat} (hi : i ≤ n_links N) : s_wx N i < 6 ∧ s_wy N i < 6 := by
  have h6 : n_nodes N ≤ 6 := hN.1.1.2
  unfold s_wx s_wy
  by_cases c : i = 0
  · rw [if_pos c, if_pos c]; omega
  · rw [if_neg c, if_neg c]
    have hbl := s_lw_lt hN ⟨i - 1, by omega, Or.inl ⟨rfl, rfl⟩, rfl⟩
    omega
/-- there and back it takes as long -/
theorem s_dly_sym (hN : n_ok N) {i : Nat} (hi : i ≤ n_links N) : s_dly N (s_lk0 N none) (6 * s_wy N i + s_wx N i) = s_dly N (s_lk0 N none) (6 * s_wx N i + s_wy N i) := by
  unfold s_wx s_wy
  by_cases c : i = 0
  · rw [if_pos c, if_pos c]
  · rw [if_neg c, if_neg c]
    have h1 := s_lk0_at hN (show i - 1 < n_links N by omega)
    have h2 : s_lk0 N none (6 * n_lb N (i - 1) + n_la N (i - 1)) = some (i - 1) := by
      have hl : i - 1 < n_links N := by omega
      have hbl := s_lw_lt hN ⟨i - 1, hl, Or.inl ⟨rfl, rfl⟩, rfl⟩
      have H : ∀ m, m ≤ n_links N → i - 1 < m → s_lkF N none m (6 * n_lb N (i - 1) + n_la N (i - 1)) = some (i - 1) := by
        intro m
        induction m with
        | zero => intro _ h; omega
        | succ m ih =>
          intro hm h
          have h6 : n_nodes N ≤ 6 := hN.1.1.2
          have hbm := s_lw_lt hN ⟨m, by omega, Or.inl ⟨rfl, rfl⟩, rfl⟩
          unfold s_lkF at ih ⊢
          rw [s_fold_succ, Nat.zero_add, if_neg (by intro q; cases q)]
          by_cases e : i - 1 = m
          · rw [e, s_up1_s]
          · have hne : ¬ (n_la N (i - 1) = n_la N m ∧ n_lb N (i - 1) = n_lb N m ∨ n_la N (i - 1) = n_lb N m ∧ n_lb N (i - 1) = n_la N m) := fun q => e (hN.2.2.2.2.2.2.2.1 (i - 1) m (by omega) (by omega) q)
            rw [s_up1_n (by omega), s_up1_n (by omega)]
            exact ih (by omega) (by omega)
      exact H _ (Nat.le_refl _) hl
    unfold s_dly
    rw [h1, h2]
end T85
section T93
variable {g : z_G} {μ : z_M} {i : Nat}
/-- the Integer of what is away -/
def h_iw (g : z_G) (i : Nat) : Nat := z_ad g (100 + (i + 127))
theorem h_iw_of (hok : z_ok g) (hi : i < 100) : D_J19_valueOf g (oI (s_away i)) μ = some (some (h_iw g i), μ) := by
  by_cases c : i = 0
  · subst c
    obtain ⟨-, h1, h2, h3⟩ := z_cs_int hok
    obtain ⟨N, f, e1, e2, e3, e4⟩ := x_crC (a := z_ad g 56) (f := fun j => some (z_ad g (100 + j))) h2 (by decide)
    have ew : oI (s_away 0) = -1 := rfl
    have e127 : ¬ (127 : Int32) < -1 := by decide
    have e127b : ¬ (-1 : Int32) < (-128 : Int32) := by decide
    unfold D_J19_valueOf
    rw [ew, x_lS, if_neg e127b, x_stS h3, x_bS, x_viS, if_neg e127, x_stS h1, x_bS]
    have e128 : (-1 : Int32) + (128 : Int32) = nI 127 := by decide
    rw [x_vrS, x_oS, e4, x_bS, e128, x_gaT (by omega) (by omega), x_lS]
    show some (f 127, μ) = _
    rw [e3 _ (by omega)]
    rfl
  · have ew : oI (s_away i) = nI (i - 1) := by
      unfold s_away
      rw [if_neg c]
      rfl
    have ea : h_iw g i = h_in g (i - 1) := by
      unfold h_iw h_in
      rw [show i - 1 + 128 = i + 127 by omega]
    rw [ew, ea]
    exact h_valueOf hok (by omega)
theorem h_iw_isA (hok : z_ok g) (hi : i < 100) : z_isA g μ (h_iw g i) "java/lang/Integer" := Or.inr (Or.inr ((z_cs_int hok).1.1 (i + 127) (by omega)))
theorem h_iw_val (hok : z_ok g) (hw : h_wf g μ) (hi : i < 100) : D_J19_intValue g (h_iw g i) μ = some (oI (s_away i)) := by
  by_cases c : i = 0
  · subst c
    have h := (z_cs_int hok).1.2 127 (by omega)
    have h2 : z_OF g "java/lang/Integer" "value" "I" (.int (vb_c 127)) (h_iw g 0) := h
    have hn : μ.1 (h_iw g 0) = none := hw.2 _ (Or.inr (z_OF_lt h2))
    unfold D_J19_intValue x_fi x_ff
    rw [hn]
    show x_b (x_cf g _ _ _ _) _ = _
    rw [x_cfS h2, x_bS, x_viS]
    have e : vb_c 127 = -1 := by decide
    rw [e]
    rfl
  · have ew : oI (s_away i) = nI (i - 1) := by
      unfold s_away
      rw [if_neg c]
      rfl
    have ea : h_iw g i = h_in g (i - 1) := by
      unfold h_iw h_in
      rw [show i - 1 + 128 = i + 127 by omega]
    rw [ew, ea]
    exact h_intValue hok hw (by omega)
end T93
