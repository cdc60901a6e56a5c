/-! THE TWIN's LAW, 49: images -/
set_option maxRecDepth 100000
set_option maxHeartbeats 400000
section T79
variable {σ σ' : t_S} {T : s_T} {p : s_P}
/-- row j of width w in array a is as row i; all else stays -/
def t_cp (a w i j : Nat) (σ σ' : t_S) : Prop := (∀ m, m < w → t_a σ' a (w * j + m) = t_a σ a (w * i + m)) ∧ ∀ b m, ¬ (b = a ∧ w * j ≤ m ∧ m < w * j + w) → t_a σ' b m = t_a σ b m
theorem p_copyRow {ka na w i j : Nat} (hw : 0 < w) (hij : i ≠ j) (hi : w * i + w ≤ na) (hj : w * j + w ≤ na) (hn : na ≤ 1000) : ∃ σ', D_copyRow ka na (nI w) (nI i) (nI j) σ = some σ' ∧ t_cp ka w i j σ σ' := by
  unfold D_copyRow
  have hdis : w * i + w ≤ w * j ∨ w * j + w ≤ w * i := by
    rcases Nat.lt_or_gt_of_ne hij with q | q
    · left
      have := Nat.mul_le_mul_left w (show i + 1 ≤ j from q)
      rw [Nat.mul_succ] at this; exact this
    · right
      have := Nat.mul_le_mul_left w (show j + 1 ≤ i from q)
      rw [Nat.mul_succ] at this; exact this
  have key := x_forS (fun k (s : t_S) (_ : Unit) => (∀ m, m < k → t_a s ka (w * j + m) = t_a σ ka (w * i + m)) ∧ ∀ b m, ¬ (b = ka ∧ w * j ≤ m ∧ m < w * j + k) → t_a s b m = t_a σ b m) (fun f k s => D_copyRow_3 ka na (nI w) (nI i) (nI j) (fun (σ12 : t_S) => some σ12) f (nI k) s) (fun s => some s) (fun _ g => g) w ?_ ?_ x_F 0 σ () (by omega) ⟨fun m hm => by omega, fun _ _ _ => rfl⟩ (by rw [x_Fv]; omega)
  · obtain ⟨s', k1, k2, k3⟩ := key
    exact ⟨s', k1, k2, k3⟩
  · intro f s g _
    show (if nI w ≤ nI w then _ else _) = _
    rw [if_pos (Int32.le_refl _)]
  · intro f k s g hq hk
    obtain ⟨q1, q2⟩ := hq
    refine ⟨t_sa s ka (w * j + k) (t_a s ka (w * i + k)), ?_, fun m hm => ?_, fun b m hb => ?_⟩
    · show (if nI w ≤ nI k then _ else _) = _
      rw [if_neg (nI_ge hk (by omega)), nI_mul, nI_mul, nI_add, nI_add, x_gaS (by omega) (by omega), x_gaS (by omega) (by omega), x_lS, x_lS, nI_1]
    · rw [t_a_sa]
      by_cases c : m = k
      · subst c
        rw [if_pos ⟨rfl, rfl⟩]
        exact q2 ka _ (by omega)
      · rw [if_neg (by omega)]
        exact q1 m (by omega)
    · rw [t_a_sa, if_neg (by omega)]
      exact q2 b m (by omega)
theorem p_copyTape {i j : Nat} (hij : i ≠ j) (hi : i < 4) (hj : j < 4) (hb : ∀ m, m < 600 → s_b8 (t_a σ 1 (600 * i + m)) = t_a σ 1 (600 * i + m)) (Kf : t_S → Option t_S) : ∃ σ', D_copyAll_2 (nI i) (nI j) Kf x_F 0 σ = Kf σ' ∧ t_cp 1 600 i j σ σ' := by
  have key := x_forS (fun k (s : t_S) (_ : Unit) => (∀ m, m < k → t_a s 1 (600 * j + m) = t_a σ 1 (600 * i + m)) ∧ ∀ b m, ¬ (b = 1 ∧ 600 * j ≤ m ∧ m < 600 * j + k) → t_a s b m = t_a σ b m) (fun f k s => D_copyAll_2 (nI i) (nI j) Kf f (nI k) s) Kf (fun _ g => g) 600 ?_ ?_ x_F 0 σ () (by omega) ⟨fun m hm => by omega, fun _ _ _ => rfl⟩ (by rw [x_Fv]; omega)
  · obtain ⟨s', k1, k2, k3⟩ := key
    exact ⟨s', k1, k2, k3⟩
  · intro f s g _
    show (if (600 : Int32) ≤ nI 600 then _ else _) = _
    rw [if_pos (show (600 : Int32) ≤ nI 600 from Int32.le_refl _)]
  · intro f k s g hq hk
    obtain ⟨q1, q2⟩ := hq
    refine ⟨t_sa s 1 (600 * j + k) (t_a σ 1 (600 * i + k)), ?_, fun m hm => ?_, fun b m hb => ?_⟩
    · show (if (600 : Int32) ≤ nI k then _ else _) = _
      rw [if_neg (show ¬ (600 : Int32) ≤ nI k from nI_ge (a := k) (b := 600) hk (by omega)), show (600 : Int32) = nI 600 from rfl, nI_mul, nI_mul, nI_add, nI_add, x_gaS (by omega) (by omega), x_gaS (by omega) (by omega), x_lS, x_lS, nI_1, q2 1 (600 * i + k) (by omega)]
      have := hb k hk
      unfold s_b8 at this
      rw [this]
    · rw [t_a_sa]
      by_cases c : m = k
      · subst c
        rw [if_pos ⟨rfl, rfl⟩]
      · rw [if_neg (by omega)]
        exact q1 m (by omega)
    · rw [t_a_sa, if_neg (by omega)]
      exact q2 b m (by omega)
/-- image j is as image i -/
def t_cpA (i j : Nat) (σ σ' : t_S) : Prop := (∀ a w, (a = 1 ∧ w = 600) ∨ (a = 2 ∧ w = 1) ∨ (a = 3 ∧ w = 1) ∨ (a = 4 ∧ w = 1) ∨ (a = 5 ∧ w = 3) ∨ (a = 6 ∧ w = 244) ∨ (a = 7 ∧ w = 242) ∨ (a = 8 ∧ w = 34) → (∀ m, m < w → t_a σ' a (w * j + m) = t_a σ a (w * i + m)) ∧ ∀ m, ¬ (w * j ≤ m ∧ m < w * j + w) → t_a σ' a m = t_a σ a m) ∧ ∀ b m, 8 < b → t_a σ' b m = t_a σ b m
theorem p_copyAll {i j : Nat} (hij : i ≠ j) (hi : i < 4) (hj : j < 4) (hb : ∀ m, m < 600 → s_b8 (t_a σ 1 (600 * i + m)) = t_a σ 1 (600 * i + m)) : ∃ σ', D_copyAll (nI i) (nI j) σ = some σ' ∧ t_cpA i j σ σ' := by
  unfold D_copyAll
  obtain ⟨s1, a1, a2, a3⟩ := p_copyTape hij hi hj hb (fun (σ11 : t_S) => x_b (D_copyRow 2 4 (1 : Int32) (nI i) (nI j) σ11) fun σ13 => x_b (D_copyRow 3 4 (1 : Int32) (nI i) (nI j) σ13) fun σ15 => x_b (D_copyRow 4 4 (1 : Int32) (nI i) (nI j) σ15) fun σ17 => x_b (D_copyRow 5 12 (3 : Int32) (nI i) (nI j) σ17) fun σ19 => x_b (D_copyRow 6 976 (244 : Int32) (nI i) (nI j) σ19) fun σ21 => x_b (D_copyRow 7 968 (242 : Int32) (nI i) (nI j) σ21) fun σ23 => x_b (D_copyRow 8 136 (34 : Int32) (nI i) (nI j) σ23) fun σ25 => some σ25)
  obtain ⟨s2, b1, b2, b3⟩ := p_copyRow (σ := s1) (ka := 2) (na := 4) (w := 1) (by omega) hij (by omega) (by omega) (by omega)
  obtain ⟨s3, c1, c2, c3⟩ := p_copyRow (σ := s2) (ka := 3) (na := 4) (w := 1) (by omega) hij (by omega) (by omega) (by omega)
  obtain ⟨s4, d1, d2, d3⟩ := p_copyRow (σ := s3) (ka := 4) (na := 4) (w := 1) (by omega) hij (by omega) (by omega) (by omega)
  obtain ⟨s5, e1, e2, e3⟩ := p_copyRow (σ := s4) (ka := 5) (na := 12) (w := 3) (by omega) hij (by omega) (by omega) (by omega)
  obtain ⟨s6, f1, f2, f3⟩ := p_copyRow (σ := s5) (ka := 6) (na := 976) (w := 244) (by omega) hij (by omega) (by omega) (by omega)
  obtain ⟨s7, g1, g2, g3⟩ := p_copyRow (σ := s6) (ka := 7) (na := 968) (w := 242) (by omega) hij (by omega) (by omega) (by omega)
  obtain ⟨s8, h1, h2, h3⟩ := p_copyRow (σ := s7) (ka := 8) (na := 136) (w := 34) (by omega) hij (by omega) (by omega) (by omega)
  refine ⟨s8, ?_, fun a w ha => ?_, fun b m hb => ?_⟩
  · rw [a1]
    show x_b (D_copyRow 2 4 (nI 1) (nI i) (nI j) s1) _ = _
    rw [b1, x_bS]
    show x_b (D_copyRow 3 4 (nI 1) (nI i) (nI j) s2) _ = _
    rw [c1, x_bS]
    show x_b (D_copyRow 4 4 (nI 1) (nI i) (nI j) s3) _ = _
    rw [d1, x_bS]
    show x_b (D_copyRow 5 12 (nI 3) (nI i) (nI j) s4) _ = _
    rw [e1, x_bS]
    show x_b (D_copyRow 6 976 (nI 244) (nI i) (nI j) s5) _ = _
    rw [f1, x_bS]
    show x_b (D_copyRow 7 968 (nI 242) (nI i) (nI j) s6) _ = _
    rw [g1, x_bS]
    show x_b (D_copyRow 8 136 (nI 34) (nI i) (nI j) s7) _ = _
    rw [h1, x_bS]
  · rcases ha with ⟨rfl, rfl⟩ | ⟨rfl, rfl⟩ | ⟨rfl, rfl⟩ | ⟨rfl, rfl⟩ | ⟨rfl, rfl⟩ | ⟨rfl, rfl⟩ | ⟨rfl, rfl⟩ | ⟨rfl, rfl⟩
    · refine ⟨fun m hm => ?_, fun m hm => ?_⟩
      · rw [h3 1 _ (by omega), g3 1 _ (by omega), f3 1 _ (by omega), e3 1 _ (by omega), d3 1 _ (by omega), c3 1 _ (by omega), b3 1 _ (by omega)]
        exact a2 m hm
      · rw [h3 1 _ (by omega), g3 1 _ (by omega), f3 1 _ (by omega), e3 1 _ (by omega), d3 1 _ (by omega), c3 1 _ (by omega), b3 1 _ (by omega)]
        exact a3 1 m (by omega)
    · refine ⟨fun m hm => ?_, fun m hm => ?_⟩
      · rw [h3 2 _ (by omega), g3 2 _ (by omega), f3 2 _ (by omega), e3 2 _ (by omega), d3 2 _ (by omega), c3 2 _ (by omega)]
        exact (b2 m hm).trans (a3 2 _ (by omega))
      · rw [h3 2 _ (by omega), g3 2 _ (by omega), f3 2 _ (by omega), e3 2 _ (by omega), d3 2 _ (by omega), c3 2 _ (by omega)]
        exact (b3 2 m (by omega)).trans (a3 2 _ (by omega))
    · refine ⟨fun m hm => ?_, fun m hm => ?_⟩
      · rw [h3 3 _ (by omega), g3 3 _ (by omega), f3 3 _ (by omega), e3 3 _ (by omega), d3 3 _ (by omega)]
        exact (c2 m hm).trans ((b3 3 _ (by omega)).trans (a3 3 _ (by omega)))
      · rw [h3 3 _ (by omega), g3 3 _ (by omega), f3 3 _ (by omega), e3 3 _ (by omega), d3 3 _ (by omega)]
        exact (c3 3 m (by omega)).trans ((b3 3 _ (by omega)).trans (a3 3 _ (by omega)))
    · refine ⟨fun m hm => ?_, fun m hm => ?_⟩
      · rw [h3 4 _ (by omega), g3 4 _ (by omega), f3 4 _ (by omega), e3 4 _ (by omega)]
        exact (d2 m hm).trans ((c3 4 _ (by omega)).trans ((b3 4 _ (by omega)).trans (a3 4 _ (by omega))))
      · rw [h3 4 _ (by omega), g3 4 _ (by omega), f3 4 _ (by omega), e3 4 _ (by omega)]
        exact (d3 4 m (by omega)).trans ((c3 4 _ (by omega)).trans ((b3 4 _ (by omega)).trans (a3 4 _ (by omega))))
    · refine ⟨fun m hm => ?_, fun m hm => ?_⟩
      · rw [h3 5 _ (by omega), g3 5 _ (by omega), f3 5 _ (by omega)]
        exact (e2 m hm).trans ((d3 5 _ (by omega)).trans ((c3 5 _ (by omega)).trans ((b3 5 _ (by omega)).trans (a3 5 _ (by omega)))))
      · rw [h3 5 _ (by omega), g3 5 _ (by omega), f3 5 _ (by omega)]
        exact (e3 5 m (by omega)).trans ((d3 5 _ (by omega)).trans ((c3 5 _ (by omega)).trans ((b3 5 _ (by omega)).trans (a3 5 _ (by omega)))))
    · refine ⟨fun m hm => ?_, fun m hm => ?_⟩
      · rw [h3 6 _ (by omega), g3 6 _ (by omega)]
        exact (f2 m hm).trans ((e3 6 _ (by omega)).trans ((d3 6 _ (by omega)).trans ((c3 6 _ (by omega)).trans ((b3 6 _ (by omega)).trans (a3 6 _ (by omega))))))
      · rw [h3 6 _ (by omega), g3 6 _ (by omega)]
        exact (f3 6 m (by omega)).trans ((e3 6 _ (by omega)).trans ((d3 6 _ (by omega)).trans ((c3 6 _ (by omega)).trans ((b3 6 _ (by omega)).trans (a3 6 _ (by omega))))))
    · refine ⟨fun m hm => ?_, fun m hm => ?_⟩
      · rw [h3 7 _ (by omega)]
        exact (g2 m hm).trans ((f3 7 _ (by omega)).trans ((e3 7 _ (by omega)).trans ((d3 7 _ (by omega)).trans ((c3 7 _ (by omega)).trans ((b3 7 _ (by omega)).trans (a3 7 _ (by omega)))))))
      · rw [h3 7 _ (by omega)]
        exact (g3 7 m (by omega)).trans ((f3 7 _ (by omega)).trans ((e3 7 _ (by omega)).trans ((d3 7 _ (by omega)).trans ((c3 7 _ (by omega)).trans ((b3 7 _ (by omega)).trans (a3 7 _ (by omega)))))))
    · refine ⟨fun m hm => ?_, fun m hm => ?_⟩
      · exact (h2 m hm).trans ((g3 8 _ (by omega)).trans ((f3 8 _ (by omega)).trans ((e3 8 _ (by omega)).trans ((d3 8 _ (by omega)).trans ((c3 8 _ (by omega)).trans ((b3 8 _ (by omega)).trans (a3 8 _ (by omega))))))))
      · exact (h3 8 m (by omega)).trans ((g3 8 _ (by omega)).trans ((f3 8 _ (by omega)).trans ((e3 8 _ (by omega)).trans ((d3 8 _ (by omega)).trans ((c3 8 _ (by omega)).trans ((b3 8 _ (by omega)).trans (a3 8 _ (by omega))))))))
  · rw [h3 b _ (by omega), g3 b _ (by omega), f3 b _ (by omega), e3 b _ (by omega), d3 b _ (by omega), c3 b _ (by omega), b3 b _ (by omega), a3 b _ (by omega)]
/-- the image that was written -/
theorem t_im.to {i j : Nat} (h : t_im σ i p) (hc : t_cpA i j σ σ') : t_im σ' j p := by
  obtain ⟨h0, h1, h2, h3, h4, ⟨h5, h6, h7⟩, h8, h9, h10⟩ := h
  have q2 := (hc.1 2 1 (by omega)).1 0 (by omega)
  have q3 := (hc.1 3 1 (by omega)).1 0 (by omega)
  have q4 := (hc.1 4 1 (by omega)).1 0 (by omega)
  have q5 := (hc.1 5 3 (by omega)).1
  rw [Nat.one_mul, Nat.one_mul, Nat.add_zero, Nat.add_zero] at q2 q3 q4
  have q50 := q5 0 (by omega)
  rw [Nat.add_zero, Nat.add_zero] at q50
  exact ⟨h0, fun m hm => ((hc.1 1 600 (by omega)).1 m hm).trans (h1 m hm), q2.trans h2, q3.trans h3, q4.trans h4, ⟨q50.trans h5, (q5 1 (by omega)).trans h6, (q5 2 (by omega)).trans h7⟩, fun k N q m hm => by
    have hk := (List.getElem?_eq_some_iff.mp q).1
    have := h0.2.1
    exact ((hc.1 6 244 (by omega)).1 (122 * k + m) (by omega)).trans (h8 k N q m hm), fun k N q m hm => by
    have hk := (List.getElem?_eq_some_iff.mp q).1
    have := h0.2.2.1
    exact ((hc.1 7 242 (by omega)).1 (121 * k + m) (by omega)).trans (h9 k N q m hm), fun k N q m hm => by
    have hk := (List.getElem?_eq_some_iff.mp q).1
    have := h0.2.2.2.1
    exact ((hc.1 8 34 (by omega)).1 (17 * k + m) (by omega)).trans (h10 k N q m hm)⟩
/-- the others stay -/
theorem t_im.other {i j k : Nat} (h : t_im σ k p) (hc : t_cpA i j σ σ') (hk : k ≠ j) : t_im σ' k p := by
  obtain ⟨h0, h1, h2, h3, h4, ⟨h5, h6, h7⟩, h8, h9, h10⟩ := h
  have dis : ∀ w m, m < w → ¬ (w * j ≤ w * k + m ∧ w * k + m < w * j + w) := by
    rintro w m hm ⟨q1, q2⟩
    rcases Nat.lt_or_gt_of_ne hk with q | q
    · have := Nat.mul_le_mul_left w (show k + 1 ≤ j from q)
      rw [Nat.mul_succ] at this; omega
    · have := Nat.mul_le_mul_left w (show j + 1 ≤ k from q)
      rw [Nat.mul_succ] at this; omega
  have g : ∀ a w, (a = 1 ∧ w = 600) ∨ (a = 2 ∧ w = 1) ∨ (a = 3 ∧ w = 1) ∨ (a = 4 ∧ w = 1) ∨ (a = 5 ∧ w = 3) ∨ (a = 6 ∧ w = 244) ∨ (a = 7 ∧ w = 242) ∨ (a = 8 ∧ w = 34) → ∀ m, m < w → t_a σ' a (w * k + m) = t_a σ a (w * k + m) := fun a w ha m hm => (hc.1 a w ha).2 _ (dis w m hm)
  have q2 := g 2 1 (by omega) 0 (by omega)
  have q3 := g 3 1 (by omega) 0 (by omega)
  have q4 := g 4 1 (by omega) 0 (by omega)
  have q5 := g 5 3 (by omega)
  rw [Nat.one_mul, Nat.add_zero] at q2 q3 q4
  have q50 := q5 0 (by omega)
  rw [Nat.add_zero] at q50
  exact ⟨h0, fun m hm => (g 1 600 (by omega) m hm).trans (h1 m hm), q2.trans h2, q3.trans h3, q4.trans h4, ⟨q50.trans h5, (q5 1 (by omega)).trans h6, (q5 2 (by omega)).trans h7⟩, fun k' N q m hm => by
    have hk := (List.getElem?_eq_some_iff.mp q).1
    have := h0.2.1
    exact (g 6 244 (by omega) (122 * k' + m) (by omega)).trans (h8 k' N q m hm), fun k' N q m hm => by
    have hk := (List.getElem?_eq_some_iff.mp q).1
    have := h0.2.2.1
    exact (g 7 242 (by omega) (121 * k' + m) (by omega)).trans (h9 k' N q m hm), fun k' N q m hm => by
    have hk := (List.getElem?_eq_some_iff.mp q).1
    have := h0.2.2.2.1
    exact (g 8 34 (by omega) (17 * k' + m) (by omega)).trans (h10 k' N q m hm)⟩
theorem t_im.b8 {i : Nat} (h : t_im σ i p) : ∀ m, m < 600 → s_b8 (t_a σ 1 (600 * i + m)) = t_a σ 1 (600 * i + m) := by
  intro m hm
  rw [h.2.1 m hm]
  exact h.1.2.2.2.2.2.2.2 m
theorem p_image {k : Int32} (h : t_st σ T) : ∃ σ', D_image k σ = some ((q_image T k).1, σ') ∧ t_st σ' (q_image T k).2 := by
  have h0 : t_st (t_si σ 0 0) T := h.keep t_keep.si
  have hw := p_inIx (i := k) (n := 3) (by omega)
  rw [show nI 3 - 1 = (2 : Int32) from rfl] at hw
  unfold D_image q_image
  rw [x_lS, hw, x_bS]
  cases hj : s_ix k 3 with
  | none => exact ⟨_, if_pos rfl, h0⟩
  | some j =>
    obtain ⟨j1, j2⟩ := s_ix_some hj
    obtain ⟨s1, a1, a2⟩ := p_copyAll (σ := t_si σ 0 0) (i := 0) (j := j + 1) (by omega) (by omega) (by omega) h0.1.b8
    refine ⟨t_sa s1 86 j 1, ?_, ?_⟩
    · show (if (1 : Int32) = 0 then _ else _) = _
      have a1' : D_copyAll 0 (nI (j + 1)) (t_si σ 0 0) = some s1 := a1
      rw [if_neg (show ¬ (1 : Int32) = 0 by decide), j2, nI_1, a1', x_bS, x_gaS j1 (by omega), x_lS]
      rfl
    · have kp : ∀ {i : Nat} {p : s_P}, t_im s1 i p → t_im (t_sa s1 86 j 1) i p := by
        intro i p hp
        obtain ⟨h0, h1, h2, h3, h4, ⟨h5, h6, h7⟩, h8, h9, h10⟩ := hp
        exact ⟨h0, fun m hm => h1 m hm, h2, h3, h4, ⟨h5, h6, h7⟩, fun k N q m hm => h8 k N q m hm, fun k N q m hm => h9 k N q m hm, fun k N q m hm => h10 k N q m hm⟩
      refine ⟨kp (h0.1.other a2 (by omega)), fun i hi => ?_⟩
      show match s_up1 T.2 j (some T.1) i with
        | none => t_a (t_sa s1 86 j 1) 86 i = 0
        | some p => t_a (t_sa s1 86 j 1) 86 i = 1 ∧ t_im (t_sa s1 86 j 1) (i + 1) p
      by_cases c : i = j
      · subst c
        rw [s_up1_s]
        exact ⟨by rw [t_a_sa, if_pos ⟨rfl, rfl⟩], kp (h0.1.to a2)⟩
      · rw [s_up1_n c]
        have hkk := h0.2 i hi
        cases q : T.2 i with
        | none =>
          rw [q] at hkk
          show t_a (t_sa s1 86 j 1) 86 i = 0
          rw [t_a_sa, if_neg (fun z => c z.2)]
          exact (a2.2 86 i (by omega)).trans hkk
        | some p =>
          rw [q] at hkk
          exact ⟨by rw [t_a_sa, if_neg (fun z => c z.2)]; exact (a2.2 86 i (by omega)).trans hkk.1, kp (hkk.2.other a2 (by omega))⟩
theorem p_again {k : Int32} (h : t_st σ T) : ∃ σ', D_again k σ = some ((q_again T k).1, σ') ∧ t_st σ' (q_again T k).2 := by
  have h0 : t_st (t_si σ 0 0) T := h.keep t_keep.si
  have hw := p_inIx (i := k) (n := 3) (by omega)
  rw [show nI 3 - 1 = (2 : Int32) from rfl] at hw
  unfold D_again q_again
  rw [x_lS, hw, x_bS]
  cases hj : s_ix k 3 with
  | none => exact ⟨_, if_pos rfl, h0⟩
  | some j =>
    obtain ⟨j1, j2⟩ := s_ix_some hj
    have hkk := h0.2 j j1
    show ∃ σ', (if (1 : Int32) = 0 then _ else _) = some ((match T.2 j with
      | none => ((0 : Int32), T)
      | some p => (1, (p, T.2))).1, σ') ∧ t_st σ' (match T.2 j with
      | none => ((0 : Int32), T)
      | some p => (1, (p, T.2))).2
    rw [if_neg (show ¬ (1 : Int32) = 0 by decide), j2, x_gaS j1 (by omega)]
    cases q : T.2 j with
    | none =>
      rw [q] at hkk
      exact ⟨_, if_pos hkk, h0⟩
    | some p =>
      rw [q] at hkk
      obtain ⟨z1, z2⟩ := hkk
      obtain ⟨s1, a1, a2⟩ := p_copyAll (σ := t_si σ 0 0) (i := j + 1) (j := 0) (by omega) (by omega) (by omega) z2.b8
      refine ⟨s1, ?_, z2.to a2, fun i hi => ?_⟩
      · have a1' : D_copyAll (nI (j + 1)) 0 (t_si σ 0 0) = some s1 := a1
        rw [z1, if_neg (show ¬ (1 : Int32) = 0 by decide), nI_1, a1', x_bS]
      · have hki := h0.2 i hi
        show match T.2 i with
          | none => t_a s1 86 i = 0
          | some p => t_a s1 86 i = 1 ∧ t_im s1 (i + 1) p
        cases q' : T.2 i with
        | none => rw [q'] at hki; exact (a2.2 86 i (by omega)).trans hki
        | some p' =>
          rw [q'] at hki
          exact ⟨(a2.2 86 i (by omega)).trans hki.1, hki.2.other a2 (by omega)⟩
end T79
