/-! THE COST, 9: what a text tells of, by its length -/
set_option maxRecDepth 100000
set_option maxHeartbeats 400000
set_option linter.unusedVariables false
/-- the weight of a row: bytes that its lines take at least -/
def y_wt (s : Nat) (row : s_R) : Nat := if s = 0 then 10 * v_ (row 2) + 11 * v_ (row 3) else if s = 1 then 6 * v_ (row 0) else 0
section W2
variable {B : Nat → Int32} {y : s_Y} {s len : Nat}
theorem bad_nx {P : Prop} [Decidable P] {v : Int32} : y_k ((v, s_nextT B (if P then y else s_bad 2 y)) : Int32 × s_Y).2 = s_tok B (k_next (y_k y)) ∧ y_row ((v, s_nextT B (if P then y else s_bad 2 y)) : Int32 × s_Y).2 = y_row y := by
  have e : y_k (if P then y else s_bad 2 y) = y_k y := by split <;> rfl
  have e2 : y_row (if P then y else s_bad 2 y) = y_row y := by split <;> rfl
  have e3 : y_k (s_nextT B (if P then y else s_bad 2 y)) = s_tok B (k_next (y_k (if P then y else s_bad 2 y))) := rfl
  have e4 : y_row (s_nextT B (if P then y else s_bad 2 y)) = y_row (if P then y else s_bad 2 y) := rfl
  rw [e] at e3
  rw [e2] at e4
  exact ⟨e3, e4⟩
theorem tk_takeB {lo hi but : Int32} {p : Int32 × s_Y} (h : s_takeB B lo hi but y = .inr p) : k_sort (y_k y) = 3 ∧ y_k p.2 = s_tok B (k_next (y_k y)) ∧ y_row p.2 = y_row y := by
  unfold s_takeB at h
  split at h
  · rename_i c
    have h2 : p = _ := (Sum.inr.inj h).symm
    subst h2
    exact ⟨c, bad_nx.1, bad_nx.2⟩
  · cases h
theorem tk_takeNode {but : Int32} {p : Int32 × s_Y} (h : s_takeNode B but y = .inr p) : k_sort (y_k y) = 3 ∧ y_k p.2 = s_tok B (k_next (y_k y)) ∧ y_row p.2 = y_row y := by
  unfold s_takeNode at h
  cases hm : s_takeB B 0 5 but y with
  | inl pl => rw [hm] at h; cases h
  | inr q =>
    rw [hm] at h
    obtain ⟨a1, a2, a3⟩ := tk_takeB hm
    have h2 : p = (q.1, y_sfar q.2 (if q.1 < y_far q.2 then y_far q.2 else q.1)) := (Sum.inr.inj h).symm
    have e1 : y_k p.2 = y_k q.2 := by rw [h2]; rfl
    have e2 : y_row p.2 = y_row q.2 := by rw [h2]; rfl
    exact ⟨a1, e1.trans a2, e2.trans a3⟩
theorem tk_takeName {p : Int32 × s_Y} (h : s_takeName B y = .inr p) : k_sort (y_k y) = 2 ∧ y_k p.2 = s_tok B (k_next (y_k y)) ∧ y_row p.2 = y_row y := by
  unfold s_takeName at h
  split at h
  · rename_i c
    have h2 : p = _ := (Sum.inr.inj h).symm
    subst h2
    exact ⟨c, bad_nx.1, bad_nx.2⟩
  · cases h
theorem sb_inr {α β : Type} {m : Nat ⊕ α} {f : α → Nat ⊕ β} {b : β} (h : s_sb m f = .inr b) : ∃ a, m = .inr a ∧ f a = .inr b := by
  cases m with
  | inl p => cases h
  | inr a => exact ⟨a, rfl, h⟩
/-- a token is not empty -/
theorem tk_pos {r : Nat} (h : k_sort (s_tok B r) ≠ 0) : r ≤ k_at (s_tok B r) ∧ k_at (s_tok B r) + 1 ≤ k_next (s_tok B r) := ⟨(s_tok_ord r).1, (s_tok_ord r).2.2 h⟩
theorem tk_s3 {k : s_K} (h : k_sort k = 3) : k_sort k ≠ 0 := by rw [h]; decide
theorem tk_s2 {k : s_K} (h : k_sort k = 2) : k_sort k ≠ 0 := by rw [h]; decide
theorem full_same {cnt at_ : Nat} {most : Int32} : y_row (s_full cnt most at_ y) = y_row y ∧ y_k (s_full cnt most at_ y) = y_k y := by
  unfold s_full
  split <;> exact ⟨rfl, rfl⟩
theorem keepR_cnt {cnt frm wide most : Nat} {rd : Nat → Int32} {row : s_R} (hm : most ≤ 100) : v_ (s_keepR cnt frm wide most rd row cnt) ≤ v_ (row cnt) + 1 := by
  unfold s_keepR
  rw [if_pos rfl, v_nI (by omega)]
  omega
theorem keepR_lo {cnt frm wide most j : Nat} {rd : Nat → Int32} {row : s_R} (h1 : j ≠ cnt) (h2 : j < frm) : s_keepR cnt frm wide most rd row j = row j := by
  unfold s_keepR
  rw [if_neg h1, if_neg (fun q => by have := q.2.1; omega)]
theorem wt_num {of_ : Nat} {hi : Int32} {y1 : s_Y} (ho : of_ < 2) (h : s_numLine B of_ hi y = .inr y1) : y_wt 0 (y_row y1) = y_wt 0 (y_row y) := by
  unfold s_numLine at h
  obtain ⟨p, h1, h2⟩ := sb_inr h
  obtain ⟨-, -, e⟩ := tk_takeB h1
  have hr1 : y_row y1 = s_up1 (y_row p.2) of_ (if y_g p.2 = true then p.1 else y_row p.2 of_) := by rw [(Sum.inr.inj h2).symm]; rfl
  rw [hr1]
  show 10 * v_ (s_up1 (y_row p.2) of_ _ 2) + 11 * v_ (s_up1 (y_row p.2) of_ _ 3) = _
  rw [s_up1_n (by omega), s_up1_n (by omega), e]
  rfl
theorem wt_room {y1 : s_Y} (h : s_roomLine B y = .inr y1) : y_wt 0 (y_row y1) = y_wt 0 (y_row y) := by
  unfold s_roomLine at h
  obtain ⟨p, h1, h2⟩ := sb_inr h
  obtain ⟨q, h3, h4⟩ := sb_inr h2
  obtain ⟨-, -, e⟩ := tk_takeNode h1
  obtain ⟨-, -, e2⟩ := tk_takeB h3
  have h5 : y1 = _ := (Sum.inr.inj h4).symm
  subst h5
  split
  · show 10 * v_ (s_up1 (y_row q.2) (5 + v_ p.1) _ 2) + 11 * v_ (s_up1 (y_row q.2) (5 + v_ p.1) _ 3) = _
    rw [s_up1_n (by omega), s_up1_n (by omega), e2, e]
    rfl
  · rw [e2, e]; rfl
theorem wt_link {y1 : s_Y} (h : s_linkLine B y = .inr y1) : y_wt 0 (y_row y1) ≤ y_wt 0 (y_row y) + 10 ∧ k_next (y_k y) + 5 ≤ k_at (y_k y1) := by
  unfold s_linkLine at h
  obtain ⟨p, h1, h2⟩ := sb_inr h
  obtain ⟨q, h3, h4⟩ := sb_inr h2
  obtain ⟨r, h5, h6⟩ := sb_inr h4
  obtain ⟨s1, t1, e1⟩ := tk_takeNode h1
  obtain ⟨s2, t2, e2⟩ := tk_takeNode h3
  obtain ⟨s3, t3, e3⟩ := tk_takeB h5
  have t0 : y_k (s_nextT B y) = s_tok B (k_next (y_k y)) := rfl
  rw [t0] at s1 t1
  rw [t1] at s2 t2
  rw [t2] at s3 t3
  have a1 := tk_pos (tk_s3 s1)
  have a2 := tk_pos (tk_s3 s2)
  have a3 := tk_pos (tk_s3 s3)
  have g1 := tk_gap s1 s2
  have g2 := tk_gap s2 s3
  have a4 := (s_tok_ord (B := B) (k_next (s_tok B (k_next (s_tok B (k_next (s_tok B (k_next (y_k y))))))))).1
  have h7 : y1 = _ := (Sum.inr.inj h6).symm
  have er : y_row r.2 = y_row y := e3.trans (e2.trans e1)
  constructor
  · subst h7
    split
    · show 10 * v_ (s_keepL p.1 q.1 r.1 (y_row r.2) 2) + 11 * v_ (s_keepL p.1 q.1 r.1 (y_row r.2) 3) ≤ 10 * v_ (y_row y 2) + 11 * v_ (y_row y 3) + 10
      rw [er]
      unfold s_keepL
      cases s_find (fun k => s_isOf (y_row y (11 + 3 * k)) (y_row y (11 + 3 * k + 1)) p.1 q.1) 0 (v_ (y_row y 2)) with
      | some k =>
        show 10 * v_ (s_up1 (y_row y) (11 + 3 * k + 2) r.1 2) + 11 * v_ (s_up1 (y_row y) (11 + 3 * k + 2) r.1 3) ≤ _
        rw [s_up1_n (by omega), s_up1_n (by omega)]
        omega
      | none =>
        show 10 * v_ (s_keepR 2 11 3 15 _ (y_row y) 2) + 11 * v_ (s_keepR 2 11 3 15 _ (y_row y) 3) ≤ _
        rw [keepR_lo (j := 3) (by omega) (by omega)]
        have := keepR_cnt (cnt := 2) (frm := 11) (wide := 3) (most := 15) (rd := fun i => if i = 0 then p.1 else if i = 1 then q.1 else r.1) (row := y_row y) (by omega)
        omega
    · rw [er]; omega
  · have e4 : y_k y1 = y_k r.2 := by
      rw [h7]
      split <;> rfl
    rw [e4, t3]
    omega
theorem wt_route {at_ : Nat} {y1 : s_Y} (h : s_routeLine B at_ y = .inr y1) : y_wt 0 (y_row y1) ≤ y_wt 0 (y_row y) + 11 ∧ k_next (y_k y) + 5 ≤ k_at (y_k y1) := by
  unfold s_routeLine at h
  obtain ⟨p, h1, h2⟩ := sb_inr h
  obtain ⟨q, h3, h4⟩ := sb_inr h2
  obtain ⟨r, h5, h6⟩ := sb_inr h4
  obtain ⟨u, h7, h8⟩ := sb_inr h6
  obtain ⟨s1, t1, e1⟩ := tk_takeNode h1
  obtain ⟨s2, t2, e2⟩ := tk_takeName h3
  obtain ⟨s3, t3, e3⟩ := tk_takeNode h5
  obtain ⟨s4, t4, e4⟩ := tk_takeB h7
  obtain ⟨f1, f2⟩ := full_same (y := y) (cnt := 3) (at_ := at_) (most := 12)
  have t0 : y_k (s_nextT B (s_full 3 12 at_ y)) = s_tok B (k_next (y_k y)) := by
    show s_tok B (k_next (y_k (s_full 3 12 at_ y))) = _
    rw [f2]
  rw [t0] at s1 t1
  rw [t1] at s2 t2
  rw [t2] at s3 t3
  rw [t3] at s4 t4
  have a1 := tk_pos (tk_s3 s1)
  have a2 := tk_pos (tk_s2 s2)
  have a3 := tk_pos (tk_s3 s3)
  have a4 := tk_pos (tk_s3 s4)
  have g1 := tk_gap s3 s4
  have a5 := (s_tok_ord (B := B) (k_next (s_tok B (k_next (s_tok B (k_next (s_tok B (k_next (s_tok B (k_next (y_k y))))))))))).1
  have er : y_row u.2 = y_row y := e4.trans (e3.trans (e2.trans (e1.trans f1)))
  have h9 : y1 = y_srow u.2 (s_keepR 3 56 4 12 (fun i => if i = 0 then p.1 else if i = 1 then q.1 else if i = 2 then r.1 else u.1) (y_row u.2)) := (Sum.inr.inj h8).symm
  have hk1 : y_k y1 = y_k u.2 := by rw [h9]; rfl
  have hr1 : y_row y1 = s_keepR 3 56 4 12 (fun i => if i = 0 then p.1 else if i = 1 then q.1 else if i = 2 then r.1 else u.1) (y_row u.2) := by rw [h9]; rfl
  rw [hk1, hr1]
  constructor
  · show 10 * v_ (s_keepR 3 56 4 12 _ (y_row u.2) 2) + 11 * v_ (s_keepR 3 56 4 12 _ (y_row u.2) 3) ≤ 10 * v_ (y_row y 2) + 11 * v_ (y_row y 3) + 11
    rw [er, keepR_lo (j := 2) (by omega) (by omega)]
    have := keepR_cnt (cnt := 3) (frm := 56) (wide := 4) (most := 12) (rd := fun i => if i = 0 then p.1 else if i = 1 then q.1 else if i = 2 then r.1 else u.1) (row := y_row y) (by omega)
    omega
  · rw [t4]
    omega
theorem wt_serve {at_ : Nat} {y1 : s_Y} (h : s_serveLine B at_ y = .inr y1) : y_wt 0 (y_row y1) = y_wt 0 (y_row y) := by
  unfold s_serveLine at h
  obtain ⟨p, h1, h2⟩ := sb_inr h
  obtain ⟨q, h3, h4⟩ := sb_inr h2
  obtain ⟨r, h5, h6⟩ := sb_inr h4
  obtain ⟨s1, t1, e1⟩ := tk_takeNode h1
  obtain ⟨s2, t2, e2⟩ := tk_takeName h3
  obtain ⟨s3, t3, e3⟩ := tk_takeB h5
  obtain ⟨f1, f2⟩ := full_same (y := y) (cnt := 4) (at_ := at_) (most := 6)
  have er : y_row r.2 = y_row y := e3.trans (e2.trans (e1.trans f1))
  have h9 : y1 = y_srow r.2 (s_keepR 4 104 3 6 (fun i => if i = 0 then p.1 else if i = 1 then q.1 else r.1) (y_row r.2)) := (Sum.inr.inj h6).symm
  have hr1 : y_row y1 = s_keepR 4 104 3 6 (fun i => if i = 0 then p.1 else if i = 1 then q.1 else r.1) (y_row r.2) := by rw [h9]; rfl
  rw [hr1]
  show 10 * v_ (s_keepR 4 104 3 6 _ (y_row r.2) 2) + 11 * v_ (s_keepR 4 104 3 6 _ (y_row r.2) 3) = _
  rw [er, keepR_lo (j := 2) (by omega) (by omega), keepR_lo (j := 3) (by omega) (by omega)]
  rfl
theorem wt_app {y2 : s_Y} {rd : Nat → Int32} (h : y_row y2 = y_row y) : y_wt 1 (s_keepR 0 1 3 40 rd (y_row y2)) ≤ y_wt 1 (y_row y) + 6 := by
  have := keepR_cnt (cnt := 0) (frm := 1) (wide := 3) (most := 40) (rd := rd) (row := y_row y) (by omega)
  rw [h]
  show 6 * v_ (s_keepR 0 1 3 40 rd (y_row y) 0) ≤ 6 * v_ (y_row y 0) + 6
  omega
theorem wt_ask {at_ : Nat} {d : Int32} {y1 : s_Y} (h : s_askLine B d at_ y = .inr y1) : y_wt 1 (y_row y1) ≤ y_wt 1 (y_row y) + 6 ∧ k_next (y_k y) + 2 ≤ k_at (y_k y1) := by
  unfold s_askLine at h
  obtain ⟨p, h1, h2⟩ := sb_inr h
  obtain ⟨q, h3, h4⟩ := sb_inr h2
  obtain ⟨s1, t1, e1⟩ := tk_takeNode h1
  obtain ⟨s2, t2, e2⟩ := tk_takeName h3
  obtain ⟨f1, f2⟩ := full_same (y := y) (cnt := 0) (at_ := at_) (most := 40)
  have t0 : y_k (s_nextT B (s_full 0 40 at_ y)) = s_tok B (k_next (y_k y)) := by
    show s_tok B (k_next (y_k (s_full 0 40 at_ y))) = _
    rw [f2]
  rw [t0] at s1 t1
  rw [t1] at s2 t2
  have a1 := tk_pos (tk_s3 s1)
  have a2 := tk_pos (tk_s2 s2)
  have a3 := (s_tok_ord (B := B) (k_next (s_tok B (k_next (s_tok B (k_next (y_k y))))))).1
  have er : y_row q.2 = y_row y := e2.trans (e1.trans f1)
  have hk1 : y_k y1 = y_k q.2 := by rw [(Sum.inr.inj h4).symm]; rfl
  have hr1 : y_row y1 = s_keepR 0 1 3 40 (s_row3 d p.1 q.1) (y_row q.2) := by rw [(Sum.inr.inj h4).symm]; rfl
  rw [hk1, hr1, t2]
  exact ⟨wt_app er, by omega⟩
theorem wt_cut {at_ : Nat} {d : Int32} {y1 : s_Y} (h : s_cutLine B d at_ y = .inr y1) : y_wt 1 (y_row y1) ≤ y_wt 1 (y_row y) + 6 ∧ k_next (y_k y) + 2 ≤ k_at (y_k y1) := by
  unfold s_cutLine at h
  obtain ⟨p, h1, h2⟩ := sb_inr h
  obtain ⟨q, h3, h4⟩ := sb_inr h2
  obtain ⟨s1, t1, e1⟩ := tk_takeNode h1
  obtain ⟨s2, t2, e2⟩ := tk_takeNode h3
  obtain ⟨f1, f2⟩ := full_same (y := y) (cnt := 0) (at_ := at_) (most := 40)
  have t0 : y_k (s_nextT B (s_full 0 40 at_ y)) = s_tok B (k_next (y_k y)) := by
    show s_tok B (k_next (y_k (s_full 0 40 at_ y))) = _
    rw [f2]
  rw [t0] at s1 t1
  rw [t1] at s2 t2
  have a1 := tk_pos (tk_s3 s1)
  have a2 := tk_pos (tk_s3 s2)
  have a3 := (s_tok_ord (B := B) (k_next (s_tok B (k_next (s_tok B (k_next (y_k y))))))).1
  have er : y_row q.2 = y_row y := e2.trans (e1.trans f1)
  have hk1 : y_k y1 = y_k q.2 := by rw [(Sum.inr.inj h4).symm]; rfl
  have hr1 : y_row y1 = s_keepR 0 1 3 40 (s_row3 d p.1 q.1) (y_row q.2) := by rw [(Sum.inr.inj h4).symm]; rfl
  rw [hk1, hr1, t2]
  exact ⟨wt_app er, by omega⟩
theorem wt_wait {at_ : Nat} {d : Int32} {y1 : s_Y} (h : s_waitLine B d at_ y = .inr y1) : y_wt 1 (y_row y1) ≤ y_wt 1 (y_row y) + 6 ∧ k_next (y_k y) + 1 ≤ k_at (y_k y1) := by
  unfold s_waitLine at h
  obtain ⟨p, h1, h2⟩ := sb_inr h
  obtain ⟨s1, t1, e1⟩ := tk_takeB h1
  obtain ⟨f1, f2⟩ := full_same (y := y) (cnt := 0) (at_ := at_) (most := 40)
  have t0 : y_k (s_nextT B (s_full 0 40 at_ y)) = s_tok B (k_next (y_k y)) := by
    show s_tok B (k_next (y_k (s_full 0 40 at_ y))) = _
    rw [f2]
  rw [t0] at s1 t1
  have a1 := tk_pos (tk_s3 s1)
  have a3 := (s_tok_ord (B := B) (k_next (s_tok B (k_next (y_k y))))).1
  have er : y_row p.2 = y_row y := e1.trans f1
  have hk1 : y_k y1 = y_k p.2 := by rw [(Sum.inr.inj h2).symm]; rfl
  have hr1 : y_row y1 = s_keepR 0 1 3 40 (s_row3 d p.1 (-1)) (y_row p.2) := by rw [(Sum.inr.inj h2).symm]; rfl
  rw [hk1, hr1, t1]
  exact ⟨wt_app er, by omega⟩
/-- a line takes as many bytes as it weighs -/
theorem wt_line {y1 : s_Y} {at_ : Nat} (hT : y_isT B y) (hm : k_at (y_k y) ≤ k_at (y_k y1)) (h : s_line B s (s_word (y_k y)) at_ (y_sg y true) = .inr y1) : y_wt s (y_row y1) + k_at (y_k y) ≤ y_wt s (y_row y) + k_at (y_k y1) + 1 := by
  have key : ∀ m X, s_word (y_k y) = Int64.ofNat X → 256 ^ m ≤ X → X < 2 ^ 62 → m ≤ 4 → k_at (y_k y) + m + 1 ≤ k_next (y_k y) := by
    intro m X hX h0 hX2 hm4
    obtain ⟨r, hr⟩ := hT
    unfold s_word at hX
    have hp : 0 < 256 ^ m := Nat.pow_pos (by omega)
    by_cases c : k_sort (y_k y) = 2
    · rw [if_pos c] at hX
      rw [hr] at c hX ⊢
      exact tk_len c hX h0 hX2 hm4
    · rw [if_neg c] at hX
      exfalso
      have := ofNat_inj64 (a := 0) (by omega) hX2 hX
      omega
  have hk : y_k (y_sg y true) = y_k y := rfl
  have hrw : y_row (y_sg y true) = y_row y := rfl
  unfold s_line at h
  by_cases c : s = 0
  · subst c
    rw [if_pos rfl] at h
    unfold s_netLine at h
    split at h
    · have := wt_num (by omega) h; rw [hrw] at this; omega
    split at h
    · have := wt_num (by omega) h; rw [hrw] at this; omega
    split at h
    · have := wt_room h; rw [hrw] at this; omega
    split at h
    · rename_i w
      have k1 := key 3 1818848875 w (by decide) (by decide) (by decide)
      obtain ⟨a, b⟩ := wt_link h
      rw [hrw] at a
      rw [hk] at b
      omega
    split at h
    · rename_i w
      have k1 := key 4 491496240229 w (by decide) (by decide) (by decide)
      obtain ⟨a, b⟩ := wt_route h
      rw [hrw] at a
      rw [hk] at b
      omega
    split at h
    · have := wt_serve h; rw [hrw] at this; omega
    · cases h
  · rw [if_neg c] at h
    by_cases c1 : s = 1
    · subst c1
      rw [if_pos rfl] at h
      have k3 : s_deedBy (s_word (y_k y)) ≠ -1 → k_at (y_k y) + 2 + 1 ≤ k_next (y_k y) := by
        intro q
        unfold s_deedBy at q
        by_cases w1 : s_word (y_k y) = 6386539
        · exact key 2 6386539 w1 (by decide) (by decide) (by decide)
        rw [if_neg w1] at q
        by_cases w2 : s_word (y_k y) = 440005915496
        · have := key 4 440005915496 w2 (by decide) (by decide) (by decide); omega
        rw [if_neg w2] at q
        by_cases w3 : s_word (y_k y) = 2002872692
        · have := key 3 2002872692 w3 (by decide) (by decide) (by decide); omega
        rw [if_neg w3] at q
        by_cases w4 : s_word (y_k y) = 6518132
        · exact key 2 6518132 w4 (by decide) (by decide) (by decide)
        rw [if_neg w4] at q
        by_cases w5 : s_word (y_k y) = 1835363940
        · have := key 3 1835363940 w5 (by decide) (by decide) (by decide); omega
        rw [if_neg w5] at q
        exact absurd rfl q
      unfold s_runLine at h
      split at h
      · cases h
      · rename_i q1
        have k1 := k3 q1
        split at h
        · rename_i q2
          have k4 : k_at (y_k y) + 3 + 1 ≤ k_next (y_k y) := by
            unfold s_deedBy at q2
            split at q2
            · exact absurd q2 (by decide)
            split at q2
            · exact absurd q2 (by decide)
            split at q2
            · rename_i w; exact key 3 2002872692 w (by decide) (by decide) (by decide)
            split at q2
            · exact absurd q2 (by decide)
            split at q2 <;> exact absurd q2 (by decide)
          obtain ⟨a, b⟩ := wt_wait h
          rw [hrw] at a
          rw [hk] at b
          omega
        · split at h
          · obtain ⟨a, b⟩ := wt_cut h
            rw [hrw] at a
            rw [hk] at b
            omega
          · obtain ⟨a, b⟩ := wt_ask h
            rw [hrw] at a
            rw [hk] at b
            omega
    · have e : ∀ row, y_wt s row = 0 := fun row => by
        unfold y_wt
        rw [if_neg c, if_neg c1]
      rw [e, e]
      omega
end W2
