/-! THE TWIN's LAW, 57: what was told is a net, a run, a log -/
set_option maxRecDepth 100000
set_option maxHeartbeats 1000000
def y_isT (B : Nat → Int32) (y : s_Y) : Prop := ∃ r, y_k y = s_tok B r
def c_nd (far x : Int32) (n : Nat) : Prop := x = nI n ∧ n ≤ 5 ∧ x ≤ far
def c_link (far : Int32) (row : s_R) (l : Nat) : Prop := ∃ x y d, c_nd far (row (11 + 3 * l)) x ∧ c_nd far (row (11 + 3 * l + 1)) y ∧ row (11 + 3 * l + 2) = nI d ∧ 1 ≤ d ∧ d ≤ 9 ∧ x ≠ y
def c_route (far : Int32) (row : s_R) (k : Nat) : Prop := ∃ x y c, c_nd far (row (56 + 4 * k)) x ∧ s_wn (row (56 + 4 * k + 1)) ∧ c_nd far (row (56 + 4 * k + 2)) y ∧ row (56 + 4 * k + 3) = nI c ∧ c ≤ 99 ∧ x ≠ y
def c_serve (far : Int32) (row : s_R) (k : Nat) : Prop := ∃ x c, c_nd far (row (104 + 3 * k)) x ∧ s_wn (row (104 + 3 * k + 1)) ∧ row (104 + 3 * k + 2) = nI c ∧ c ≤ 99
def c_0 (row : s_R) : Prop := (∃ a, 1 ≤ a ∧ a ≤ 6 ∧ row 0 = nI a) ∧ (∃ a, 1 ≤ a ∧ a ≤ 99 ∧ row 1 = nI a) ∧ ∀ i, i < 6 → ∃ a, a ≤ 4 ∧ row (5 + i) = nI a
def c_L (far : Int32) (row : s_R) : Prop := ∃ L, L ≤ 15 ∧ row 2 = nI L ∧ (∀ l, l < L → c_link far row l) ∧ ∀ l m, l < L → m < L → s_isOf (row (11 + 3 * l)) (row (11 + 3 * l + 1)) (row (11 + 3 * m)) (row (11 + 3 * m + 1)) = true → l = m
def c_R (far : Int32) (row : s_R) : Prop := ∃ K, K ≤ 12 ∧ row 3 = nI K ∧ ∀ k, k < K → c_route far row k
def c_S (far : Int32) (row : s_R) : Prop := ∃ K, K ≤ 6 ∧ row 4 = nI K ∧ ∀ k, k < K → c_serve far row k
def c_net (far : Int32) (row : s_R) : Prop := c_0 row ∧ c_L far row ∧ c_R far row ∧ c_S far row
theorem c_nd.mono {far far' x : Int32} {n : Nat} (h : c_nd far x n) (hf : far ≤ far') : c_nd far' x n := ⟨h.1, h.2.1, Int32.le_trans h.2.2 hf⟩
theorem c_0.of {row row' : s_R} (h : c_0 row) (e : ∀ j, j < 2 ∨ (5 ≤ j ∧ j < 11) → row' j = row j) : c_0 row' := by
  obtain ⟨⟨a, a1, a2, a3⟩, ⟨b, b1, b2, b3⟩, h3⟩ := h
  refine ⟨⟨a, a1, a2, (e 0 (by omega)).trans a3⟩, ⟨b, b1, b2, (e 1 (by omega)).trans b3⟩, fun i hi => ?_⟩
  obtain ⟨c, c1, c2⟩ := h3 i hi
  exact ⟨c, c1, (e _ (by omega)).trans c2⟩
theorem c_link.of {far far' : Int32} {row row' : s_R} {l : Nat} (h : c_link far row l) (hf : far ≤ far') (e : ∀ i, i < 3 → row' (11 + 3 * l + i) = row (11 + 3 * l + i)) : c_link far' row' l := by
  obtain ⟨x, y, d, h1, h2, h3, h4⟩ := h
  have e0 := e 0 (by omega)
  rw [Nat.add_zero] at e0
  exact ⟨x, y, d, by rw [e0]; exact h1.mono hf, by rw [e 1 (by omega)]; exact h2.mono hf, (e 2 (by omega)).trans h3, h4⟩
theorem c_L.of {far far' : Int32} {row row' : s_R} (h : c_L far row) (hf : far ≤ far') (e : ∀ j, j = 2 ∨ (11 ≤ j ∧ j < 56) → row' j = row j) : c_L far' row' := by
  obtain ⟨L, l1, l2, l3, l4⟩ := h
  refine ⟨L, l1, (e 2 (by omega)).trans l2, fun l hl => (l3 l hl).of hf (fun i hi => e _ (by omega)), fun l m hl hm q => l4 l m hl hm ?_⟩
  rw [e _ (by omega), e _ (by omega), e _ (by omega), e _ (by omega)] at q
  exact q
theorem c_route.of {far far' : Int32} {row row' : s_R} {l : Nat} (h : c_route far row l) (hf : far ≤ far') (e : ∀ i, i < 4 → row' (56 + 4 * l + i) = row (56 + 4 * l + i)) : c_route far' row' l := by
  obtain ⟨x, y, d, h1, h2, h3, h4, h5⟩ := h
  have e0 := e 0 (by omega)
  rw [Nat.add_zero] at e0
  exact ⟨x, y, d, by rw [e0]; exact h1.mono hf, by rw [e 1 (by omega)]; exact h2, by rw [e 2 (by omega)]; exact h3.mono hf, (e 3 (by omega)).trans h4, h5⟩
theorem c_R.of {far far' : Int32} {row row' : s_R} (h : c_R far row) (hf : far ≤ far') (e : ∀ j, j = 3 ∨ (56 ≤ j ∧ j < 104) → row' j = row j) : c_R far' row' := by
  obtain ⟨L, l1, l2, l3⟩ := h
  exact ⟨L, l1, (e 3 (by omega)).trans l2, fun l hl => (l3 l hl).of hf (fun i hi => e _ (by omega))⟩
theorem c_serve.of {far far' : Int32} {row row' : s_R} {l : Nat} (h : c_serve far row l) (hf : far ≤ far') (e : ∀ i, i < 3 → row' (104 + 3 * l + i) = row (104 + 3 * l + i)) : c_serve far' row' l := by
  obtain ⟨x, d, h1, h2, h4, h5⟩ := h
  have e0 := e 0 (by omega)
  rw [Nat.add_zero] at e0
  exact ⟨x, d, by rw [e0]; exact h1.mono hf, by rw [e 1 (by omega)]; exact h2, (e 2 (by omega)).trans h4, h5⟩
theorem c_S.of {far far' : Int32} {row row' : s_R} (h : c_S far row) (hf : far ≤ far') (e : ∀ j, j = 4 ∨ (104 ≤ j ∧ j < 122) → row' j = row j) : c_S far' row' := by
  obtain ⟨L, l1, l2, l3⟩ := h
  exact ⟨L, l1, (e 4 (by omega)).trans l2, fun l hl => (l3 l hl).of hf (fun i hi => e _ (by omega))⟩
/-- a row with one more line -/
theorem s_keepR_lt {cnt frm wide most kk : Nat} {rd : Nat → Int32} {row : s_R} (hk : row cnt = nI kk) (hkk : kk < most) (hm : most ≤ 100) (hc : cnt < frm) : s_keepR cnt frm wide most rd row cnt = nI (kk + 1) ∧ (∀ i, i < wide → s_keepR cnt frm wide most rd row (frm + wide * kk + i) = rd i) ∧ ∀ j, j ≠ cnt → (j < frm + wide * kk ∨ frm + wide * kk + wide ≤ j) → s_keepR cnt frm wide most rd row j = row j := by
  have hv : v_ (row cnt) = kk := by rw [hk]; exact v_nI (by omega)
  unfold s_keepR
  rw [hv]
  refine ⟨?_, fun i hi => ?_, fun j h1 h2 => ?_⟩
  · rw [if_pos rfl, Nat.min_eq_right (by omega)]
  · rw [if_neg (by omega), if_pos ⟨hkk, by omega, by omega⟩, show frm + wide * kk + i - (frm + wide * kk) = i by omega]
  · rw [if_neg h1, if_neg (by omega)]
theorem s_keepR_cnt {cnt frm wide most kk : Nat} {rd : Nat → Int32} {row : s_R} (hk : row cnt = nI kk) (hkk : kk ≤ most) (hm : most ≤ 100) : (∃ a, a ≤ most ∧ s_keepR cnt frm wide most rd row cnt = nI a) ∧ ∀ j, j ≠ cnt → j < frm → s_keepR cnt frm wide most rd row j = row j := by
  have hv : v_ (row cnt) = kk := by rw [hk]; exact v_nI (by omega)
  unfold s_keepR
  rw [hv]
  exact ⟨⟨min most (kk + 1), by omega, by rw [if_pos rfl]⟩, fun j h1 h2 => by rw [if_neg h1, if_neg (by omega)]⟩
section T87
variable {B : Nat → Int32} {y : s_Y}
theorem s_addF_ne {f : Int32} {pl : Nat} {F : Int32 × Nat} (hf : f ≠ 0) : (s_addF f pl F).1 ≠ 0 := by
  unfold s_addF
  by_cases c : F.1 = 0 ∨ pl < F.2 ∨ pl = F.2 ∧ f < F.1
  · rw [if_pos c]; exact hf
  · rw [if_neg c]; exact fun q => c (Or.inl q)
/-- without a fault: what a number that was taken is -/
theorem s_takeB_0 {lo hi but : Int32} {p : Int32 × s_Y} (h : s_takeB B lo hi but y = .inr p) (hF : (y_f p.2).1 = 0) : (y_f y).1 = 0 ∧ y_g p.2 = y_g y ∧ (lo ≤ p.1 ∧ p.1 ≤ hi) ∧ p.1 ≠ but := by
  unfold s_takeB at h
  split at h
  · have h2 : p = _ := (Sum.inr.inj h).symm
    subst h2
    by_cases c : (lo ≤ k_val (y_k y) ∧ k_val (y_k y) ≤ hi) ∧ ¬ k_val (y_k y) = but
    · have e : (y_f (s_nextT B (if (lo ≤ k_val (y_k y) ∧ k_val (y_k y) ≤ hi) ∧ ¬ k_val (y_k y) = but then y else s_bad 2 y))) = y_f y := by rw [if_pos c]; rfl
      have e2 : (y_g (s_nextT B (if (lo ≤ k_val (y_k y) ∧ k_val (y_k y) ≤ hi) ∧ ¬ k_val (y_k y) = but then y else s_bad 2 y))) = y_g y := by rw [if_pos c]; rfl
      exact ⟨by rw [← e]; exact hF, e2, c.1, c.2⟩
    · exfalso
      have e : (y_f (s_nextT B (if (lo ≤ k_val (y_k y) ∧ k_val (y_k y) ≤ hi) ∧ ¬ k_val (y_k y) = but then y else s_bad 2 y))) = s_addF 2 (k_at (y_k y)) (y_f y) := by rw [if_neg c]; rfl
      rw [show (y_f (k_val (y_k y), s_nextT B (if (lo ≤ k_val (y_k y) ∧ k_val (y_k y) ≤ hi) ∧ ¬ k_val (y_k y) = but then y else s_bad 2 y)).2) = _ from e] at hF
      exact s_addF_ne (by decide) hF
  · cases h
theorem s_takeNode_0 {but : Int32} {p : Int32 × s_Y} (h : s_takeNode B but y = .inr p) (hF : (y_f p.2).1 = 0) : (y_f y).1 = 0 ∧ y_g p.2 = y_g y ∧ (0 ≤ p.1 ∧ p.1 ≤ 5) ∧ p.1 ≠ but := by
  unfold s_takeNode at h
  cases hm : s_takeB B 0 5 but y with
  | inl pl => rw [hm] at h; cases h
  | inr q =>
    rw [hm] at h
    have h2 : p = _ := (Sum.inr.inj h).symm
    subst h2
    exact s_takeB_0 (p := q) hm hF
theorem s_takeName_0 {p : Int32 × s_Y} (h : s_takeName B y = .inr p) (hF : (y_f p.2).1 = 0) (ht : y_isT B y) : (y_f y).1 = 0 ∧ y_g p.2 = y_g y ∧ s_wn p.1 := by
  unfold s_takeName at h
  split at h
  · rename_i cs
    have h2 : p = _ := (Sum.inr.inj h).symm
    subst h2
    by_cases c : k_next (y_k y) - k_at (y_k y) ≤ 4
    · have e : (y_f (s_nextT B (if k_next (y_k y) - k_at (y_k y) ≤ 4 then y else s_bad 2 y))) = y_f y := by rw [if_pos c]; rfl
      have e2 : (y_g (s_nextT B (if k_next (y_k y) - k_at (y_k y) ≤ 4 then y else s_bad 2 y))) = y_g y := by rw [if_pos c]; rfl
      refine ⟨by rw [← e]; exact hF, e2, ?_⟩
      obtain ⟨r, hr⟩ := ht
      rw [hr] at cs c
      show s_wn (s_numOf (k_word (y_k y)))
      rw [hr]
      exact (s_tok_name cs c).1
    · exfalso
      have e : (y_f (s_nextT B (if k_next (y_k y) - k_at (y_k y) ≤ 4 then y else s_bad 2 y))) = s_addF 2 (k_at (y_k y)) (y_f y) := by rw [if_neg c]; rfl
      rw [show (y_f (s_numOf (k_word (y_k y)), s_nextT B (if k_next (y_k y) - k_at (y_k y) ≤ 4 then y else s_bad 2 y)).2) = _ from e] at hF
      exact s_addF_ne (by decide) hF
  · cases h
theorem s_full_0 {cnt at_ : Nat} {most : Int32} (hF : (y_f (s_full cnt most at_ y)).1 = 0) : (y_f y).1 = 0 ∧ y_row y cnt ≠ most := by
  unfold s_full at hF
  by_cases c : y_row y cnt = most
  · rw [if_pos c] at hF
    exact absurd hF (s_addF_ne (by decide))
  · rw [if_neg c] at hF
    exact ⟨hF, c⟩
theorem s_takeB_T {lo hi but : Int32} {p : Int32 × s_Y} (h : s_takeB B lo hi but y = .inr p) : y_isT B p.2 := by
  unfold s_takeB at h
  split at h
  · have h2 : p = _ := (Sum.inr.inj h).symm
    subst h2
    exact ⟨_, rfl⟩
  · cases h
theorem s_takeNode_T {but : Int32} {p : Int32 × s_Y} (h : s_takeNode B but y = .inr p) : y_isT B p.2 := by
  unfold s_takeNode at h
  cases hm : s_takeB B 0 5 but y with
  | inl pl => rw [hm] at h; cases h
  | inr q =>
    rw [hm] at h
    have h2 : p = _ := (Sum.inr.inj h).symm
    subst h2
    exact s_takeB_T (p := q) hm
theorem s_takeName_T {p : Int32 × s_Y} (h : s_takeName B y = .inr p) : y_isT B p.2 := by
  unfold s_takeName at h
  split at h
  · have h2 : p = _ := (Sum.inr.inj h).symm
    subst h2
    exact ⟨_, rfl⟩
  · cases h
theorem s_sb_inr {α β : Type} {m : Nat ⊕ α} {f : α → Nat ⊕ β} {b : β} (h : s_sb m f = .inr b) : ∃ a, m = .inr a ∧ f a = .inr b := by
  cases m with
  | inl p => cases h
  | inr a => exact ⟨a, rfl, h⟩
/-- the furthest node grows -/
theorem s_far_le (v far : Int32) : far ≤ (if v < far then far else v) ∧ v ≤ (if v < far then far else v) := by
  by_cases c : v < far
  · rw [if_pos c]; exact ⟨Int32.le_refl _, Int32.le_of_lt c⟩
  · rw [if_neg c]; exact ⟨Int32.not_lt.mp c, Int32.le_refl _⟩
/-- what a line leaves: order, tokens, counts, and without a fault a net -/
def y_net (B : Nat → Int32) (y : s_Y) : Prop := y_ord y ∧ y_isT B y ∧ y_cnt (y_row y) ∧ ((y_f y).1 = 0 → c_net (y_far y) (y_row y))
theorem nI_of05 {x : Int32} (h : 0 ≤ x ∧ x ≤ 5) : x = nI (v_ x) ∧ v_ x ≤ 5 := by
  obtain ⟨e1, e2, e3⟩ := s_between (a := 0) (b := 5) rfl rfl (by omega) (by omega) h
  exact ⟨e1, e3⟩
theorem y_net.num {of_ : Nat} {hi : Int32} {m : Nat} {y1 : s_Y} (h : y_net B y) (hg : y_g y = true) (hof : of_ = 0 ∧ m = 6 ∨ of_ = 1 ∧ m = 99) (hhi : hi = nI m) (h1 : s_numLine B of_ hi y = .inr y1) : y_net B y1 ∧ k_at (y_k y) ≤ k_at (y_k y1) := by
  obtain ⟨o, it, hc, hp⟩ := h
  obtain ⟨p, p1, p2⟩ := s_sb_inr h1
  cases p2
  have hn := y_ord.next (B := B) (y := y)
  obtain ⟨q1, q2, q3, q4, -⟩ := s_takeB_ok p1 hn.1
  have q3' : y_far p.2 = y_far y := q3
  have q4' : y_row p.2 = y_row y := q4
  refine ⟨⟨q1, s_takeB_T p1, ?_, fun hF => ?_⟩, Nat.le_trans (Nat.le_trans o.1 hn.2) q2⟩
  · show y_cnt (s_up1 (y_row p.2) of_ _)
    rw [q4']
    obtain ⟨⟨a, a1, a2⟩, ⟨b, b1, b2⟩, c, c1, c2⟩ := hc
    exact ⟨⟨a, a1, (s_up1_n (by omega)).trans a2⟩, ⟨b, b1, (s_up1_n (by omega)).trans b2⟩, c, c1, (s_up1_n (by omega)).trans c2⟩
  · have hF' : (y_f p.2).1 = 0 := hF
    obtain ⟨z1, z2, z3, z4⟩ := s_takeB_0 p1 hF'
    obtain ⟨w1, w2, w3, w4⟩ := hp z1
    have hgp : y_g p.2 = true := z2.trans hg
    show c_net (y_far p.2) (s_up1 (y_row p.2) of_ (if y_g p.2 = true then p.1 else y_row p.2 of_))
    rw [if_pos hgp, q3', q4']
    have hne : ∀ j, 2 ≤ j → s_up1 (y_row y) of_ p.1 j = y_row y j := fun j hj => s_up1_n (by omega)
    rw [hhi] at z3
    obtain ⟨e1, e2, e3⟩ := s_between (a := 1) (b := m) rfl rfl (by omega) (by omega) z3
    refine ⟨?_, w2.of (Int32.le_refl _) (fun j hj => hne j (by omega)), w3.of (Int32.le_refl _) (fun j hj => hne j (by omega)), w4.of (Int32.le_refl _) (fun j hj => hne j (by omega))⟩
    obtain ⟨⟨a, a1, a2, a3⟩, ⟨b, b1, b2, b3⟩, h3⟩ := w1
    rcases hof with ⟨rfl, rfl⟩ | ⟨rfl, rfl⟩
    · exact ⟨⟨v_ p.1, e2, e3, s_up1_s.trans e1⟩, ⟨b, b1, b2, (s_up1_n (by omega)).trans b3⟩, fun i hi => by
        obtain ⟨c, c1, c2⟩ := h3 i hi
        exact ⟨c, c1, (s_up1_n (by omega)).trans c2⟩⟩
    · exact ⟨⟨a, a1, a2, (s_up1_n (by omega)).trans a3⟩, ⟨v_ p.1, e2, e3, s_up1_s.trans e1⟩, fun i hi => by
        obtain ⟨c, c1, c2⟩ := h3 i hi
        exact ⟨c, c1, (s_up1_n (by omega)).trans c2⟩⟩
theorem y_net.room {y1 : s_Y} (h : y_net B y) (hg : y_g y = true) (h1 : s_roomLine B y = .inr y1) : y_net B y1 ∧ k_at (y_k y) ≤ k_at (y_k y1) := by
  obtain ⟨o, it, hc, hp⟩ := h
  obtain ⟨p, p1, p2⟩ := s_sb_inr h1
  obtain ⟨q, q1, q2⟩ := s_sb_inr p2
  have hn := y_ord.next (B := B) (y := y)
  obtain ⟨a1, a2, a3, a4, a5, -⟩ := s_takeNode_ok p1 hn.1
  obtain ⟨b1, b2, b3, b4, b5, -⟩ := s_takeB_ok q1 a1
  have hk : k_at (y_k y) ≤ k_at (y_k q.2) := Nat.le_trans (Nat.le_trans o.1 hn.2) (Nat.le_trans a2 b2)
  have hrow : y_row q.2 = y_row y := b4.trans a4
  have hfar : y_far q.2 = if p.1 < y_far y then y_far y else p.1 := b3.trans a3
  have hfl := s_far_le p.1 (y_far y)
  by_cases cg : y_g q.2 = true
  · rw [if_pos cg] at q2
    cases q2
    have h05 := nI_of05 (a5 (b5 cg).1).2.1
    have hne : ∀ j, j < 5 ∨ 11 ≤ j → s_up1 (y_row y) (5 + v_ p.1) q.1 j = y_row y j := fun j hj => s_up1_n (by omega)
    refine ⟨⟨b1, s_takeB_T q1, ?_, fun hF => ?_⟩, hk⟩
    · show y_cnt (s_up1 (y_row q.2) (5 + v_ p.1) q.1)
      rw [hrow]
      obtain ⟨⟨a, x1, x2⟩, ⟨b, x3, x4⟩, c, x5, x6⟩ := hc
      exact ⟨⟨a, x1, (hne 2 (by omega)).trans x2⟩, ⟨b, x3, (hne 3 (by omega)).trans x4⟩, c, x5, (hne 4 (by omega)).trans x6⟩
    · have hF' : (y_f q.2).1 = 0 := hF
      obtain ⟨z1, z2, z3, z4⟩ := s_takeB_0 q1 hF'
      obtain ⟨u1, -⟩ := s_takeNode_0 p1 z1
      obtain ⟨w1, w2, w3, w4⟩ := hp u1
      show c_net (y_far q.2) (s_up1 (y_row q.2) (5 + v_ p.1) q.1)
      rw [hrow, hfar]
      obtain ⟨e1, e2, e3⟩ := s_between (a := 0) (b := 4) rfl rfl (by omega) (by omega) z3
      refine ⟨?_, w2.of hfl.1 (fun j hj => hne j (by omega)), w3.of hfl.1 (fun j hj => hne j (by omega)), w4.of hfl.1 (fun j hj => hne j (by omega))⟩
      obtain ⟨⟨a, x1, x2, x3⟩, ⟨b, x4, x5, x6⟩, h3⟩ := w1
      refine ⟨⟨a, x1, x2, (hne 0 (by omega)).trans x3⟩, ⟨b, x4, x5, (hne 1 (by omega)).trans x6⟩, fun i hi => ?_⟩
      by_cases c : i = v_ p.1
      · subst c
        exact ⟨v_ q.1, e3, s_up1_s.trans e1⟩
      · obtain ⟨c, c1, c2⟩ := h3 i hi
        exact ⟨c, c1, (s_up1_n (by omega)).trans c2⟩
  · rw [if_neg cg] at q2
    cases q2
    refine ⟨⟨b1, s_takeB_T q1, by rw [hrow]; exact hc, fun hF => ?_⟩, hk⟩
    obtain ⟨z1, z2, z3, z4⟩ := s_takeB_0 q1 hF
    obtain ⟨u1, u2, -⟩ := s_takeNode_0 p1 z1
    exact absurd (z2.trans (u2.trans hg)) cg
end T87
