/-! THE TWIN's LAW, 48: the tape is fed, cut; images -/
set_option maxRecDepth 100000
set_option maxHeartbeats 400000
def u_stape (p : s_P) (x : Nat → Int32) : s_P := (x, p.2)
def u_ssize (p : s_P) (x : Nat) : s_P := (p.1, x, p.2.2)
def s_b8 (x : Int32) : Int32 := x.toInt8.toInt32
/-- one byte more on the tape -/
def s_put8 (x : Int32) (p : s_P) : s_P := u_ssize (u_stape p (s_up1 (u_tape p) (u_size p) (s_b8 x))) (u_size p + 1)
def s_four (v : Int32) (p : s_P) : s_P := s_put8 (v >>> ((0 : Int32) &&& 31)) (s_put8 (v >>> ((8 : Int32) &&& 31)) (s_put8 (v >>> ((16 : Int32) &&& 31)) (s_put8 (v >>> ((24 : Int32) &&& 31)) p)))
def s_feed (a b c d e : Int32) (p : s_P) : s_P := s_four e (s_four d (s_four c (s_four b (s_four a p))))
def q_feed (T : s_T) (a b c d e : Int32) : Int32 × s_T := if u_size T.1 + 20 ≤ 600 then (nI (u_size T.1 + 20), (s_feed a b c d e T.1, T.2)) else (-1, T)
def q_end (T : s_T) (n : Int32) : Int32 × s_T := if 0 ≤ n ∧ v_ n ≤ u_size T.1 then (n, (u_ssize T.1 (v_ n), T.2)) else (-1, T)
def q_image (T : s_T) (k : Int32) : Int32 × s_T := match s_ix k 3 with
  | none => (0, T)
  | some j => (1, (T.1, s_up1 T.2 j (some T.1)))
def q_again (T : s_T) (k : Int32) : Int32 × s_T := match s_ix k 3 with
  | none => (0, T)
  | some j => match T.2 j with
    | none => (0, T)
    | some p => (1, (p, T.2))
section T78
variable {σ σ' : t_S} {T : s_T} {p : s_P}
theorem s_b8_b8 (x : Int32) : s_b8 (s_b8 x) = s_b8 x := by
  unfold s_b8
  rw [Int8.toInt8_toInt32]
/-- the tape and its size alone change -/
def t_p12 (σ σ' : t_S) : Prop := ∀ k j, ¬ (k = 1 ∧ j < 600) → ¬ (k = 2 ∧ j = 0) → t_a σ' k j = t_a σ k j
theorem t_p12.trans {σ2 : t_S} (h : t_p12 σ σ') (h' : t_p12 σ' σ2) : t_p12 σ σ2 := fun k j h1 h2 => (h' k j h1 h2).trans (h k j h1 h2)
/-- the tape of the first image -/
def t_tp (σ : t_S) (p : s_P) : Prop := (∀ j, j < 600 → t_a σ 1 j = u_tape p j) ∧ t_a σ 2 0 = nI (u_size p)
theorem t_tp_put {x : Int32} (h : t_tp σ p) (hs : u_size p < 600) : t_tp (t_sa (t_sa σ 1 (u_size p) (s_b8 x)) 2 0 (nI (u_size p) + 1)) (s_put8 x p) ∧ t_p12 σ (t_sa (t_sa σ 1 (u_size p) (s_b8 x)) 2 0 (nI (u_size p) + 1)) := by
  refine ⟨⟨fun j hj => ?_, ?_⟩, fun k j h1 h2 => ?_⟩
  · rw [t_a_sa, if_neg (by omega), t_a_sa]
    show _ = s_up1 (u_tape p) (u_size p) (s_b8 x) j
    unfold s_up1
    by_cases c : j = u_size p
    · rw [if_pos ⟨rfl, c⟩, if_pos c]
    · rw [if_neg (fun q => c q.2), if_neg c]; exact h.1 j hj
  · rw [t_a_sa, if_pos ⟨rfl, rfl⟩, nI_1]
    rfl
  · rw [t_a_sa, if_neg h2, t_a_sa, if_neg (by omega)]
theorem p_four_3 {v : Int32} (K : t_S → Option t_S) {k f : Nat} (hk : k < 32) (h : t_tp σ p) (hs : u_size p < 600) : ∃ σ', D_four_3 v K (f + 1) (nI k) σ = D_four_3 v K f (nI k + (-8)) σ' ∧ t_tp σ' (s_put8 (v >>> (nI k &&& 31)) p) ∧ t_p12 σ σ' := by
  obtain ⟨q1, q2⟩ := t_tp_put (x := v >>> (nI k &&& 31)) h hs
  have g1 : ∀ {α : Type} (kk : Nat → Option α), x_ga 0 4 kk = kk 0 := fun kk => x_gaS (j := 0) (by omega) (by omega)
  refine ⟨_, ?_, q1, q2⟩
  show (if nI k < 0 then _ else _) = _
  rw [if_neg (nI_pos (by omega)), g1, h.2, x_gaS (by omega) (by omega), x_lS, g1, g1, x_lS, x_lS]
  have e1 : (((((v >>> (nI k &&& 31))).toInt8.toInt32)).toInt8.toInt32) = s_b8 (v >>> (nI k &&& 31)) := s_b8_b8 _
  rw [e1, t_a_sa, if_neg (by omega), h.2]
theorem p_four {v : Int32} (h : t_tp σ p) (hs : u_size p + 4 ≤ 600) : ∃ σ', D_four v σ = some σ' ∧ t_tp σ' (s_four v p) ∧ t_p12 σ σ' := by
  obtain ⟨s1, a1, a2, a3⟩ := p_four_3 (v := v) (f := 9999) (fun (σ13 : t_S) => some σ13) (k := 24) (by omega) h (by omega)
  have z1 : u_size (s_put8 (v >>> (nI 24 &&& 31)) p) = u_size p + 1 := rfl
  obtain ⟨s2, b1, b2, b3⟩ := p_four_3 (v := v) (f := 9998) (fun (σ13 : t_S) => some σ13) (k := 16) (by omega) a2 (by omega)
  have z2 : u_size (s_put8 (v >>> (nI 16 &&& 31)) (s_put8 (v >>> (nI 24 &&& 31)) p)) = u_size p + 1 + 1 := rfl
  obtain ⟨s3, c1, c2, c3⟩ := p_four_3 (v := v) (f := 9997) (fun (σ13 : t_S) => some σ13) (k := 8) (by omega) b2 (by omega)
  have z3 : u_size (s_put8 (v >>> (nI 8 &&& 31)) (s_put8 (v >>> (nI 16 &&& 31)) (s_put8 (v >>> (nI 24 &&& 31)) p))) = u_size p + 1 + 1 + 1 := rfl
  obtain ⟨s4, d1, d2, d3⟩ := p_four_3 (v := v) (f := 9996) (fun (σ13 : t_S) => some σ13) (k := 0) (by omega) c2 (by omega)
  have e1 : nI 24 + (-8) = nI 16 := by decide
  have e2 : nI 16 + (-8) = nI 8 := by decide
  have e3 : nI 8 + (-8) = nI 0 := by decide
  have e4 : nI 0 + (-8) = (-8 : Int32) := by decide
  refine ⟨s4, ?_, d2, (a3.trans b3).trans (c3.trans d3)⟩
  unfold D_four
  show D_four_3 v _ (9999 + 1) (nI 24) σ = _
  rw [a1, e1]
  show D_four_3 v _ (9998 + 1) (nI 16) s1 = _
  rw [b1, e2]
  show D_four_3 v _ (9997 + 1) (nI 8) s2 = _
  rw [c1, e3]
  show D_four_3 v _ (9996 + 1) (nI 0) s3 = _
  rw [d1, e4]
  show D_four_3 v _ (9995 + 1) (-8) s4 = _
  show (if (-8 : Int32) < 0 then _ else _) = _
  rw [if_pos (by decide)]
/-- the first image, with its tape changed -/
theorem t_st.tape {p' : s_P} (h : t_st σ T) (ho : t_p12 σ σ') (ht : t_tp σ' p') (hp : p'.2.2 = T.1.2.2) (hsz : u_size p' ≤ 600) (hb : ∀ j, s_b8 (u_tape p' j) = u_tape p' j) : t_st σ' (p', T.2) := by
  obtain ⟨⟨⟨u1, u2, u3, u4, u5, u6, u7, u8⟩, h1, h2, h3, h4, ⟨h5, h6, h7⟩, h8, h9, h10⟩, hk⟩ := h
  have e1 : u_nets p' = u_nets T.1 := congrArg (fun x => x.2.2.1) hp
  have e2 : u_runs p' = u_runs T.1 := congrArg (fun x => x.2.2.2.1) hp
  have e3 : u_logs p' = u_logs T.1 := congrArg (fun x => x.2.2.2.2) hp
  have e4 : u_kind p' = u_kind T.1 := congrArg (fun x => x.1) hp
  have e5 : u_place p' = u_place T.1 := congrArg (fun x => x.2.1) hp
  refine ⟨⟨⟨hsz, by rw [e1]; exact u2, by rw [e2]; exact u3, by rw [e3]; exact u4, by rw [e1]; exact u5, by rw [e2]; exact u6, by rw [e3]; exact u7, hb⟩, fun j hj => by rw [Nat.mul_zero, Nat.zero_add]; exact ht.1 j hj, ht.2, (ho 3 0 (by omega) (by omega)).trans (h3.trans e4.symm), (ho 4 0 (by omega) (by omega)).trans (h4.trans e5.symm), ⟨(ho 5 _ (by omega) (by omega)).trans (by rw [e1]; exact h5), (ho 5 _ (by omega) (by omega)).trans (by rw [e2]; exact h6), (ho 5 _ (by omega) (by omega)).trans (by rw [e3]; exact h7)⟩, fun k N q j hj => (ho 6 _ (by omega) (by omega)).trans (h8 k N (e1 ▸ q) j hj), fun k N q j hj => (ho 7 _ (by omega) (by omega)).trans (h9 k N (e2 ▸ q) j hj), fun k N q j hj => (ho 8 _ (by omega) (by omega)).trans (h10 k N (e3 ▸ q) j hj)⟩, fun k hk3 => ?_⟩
  have hkk := hk k hk3
  show match T.2 k with
    | none => t_a σ' 86 k = 0
    | some p => t_a σ' 86 k = 1 ∧ t_im σ' (k + 1) p
  cases q : T.2 k with
  | none => rw [q] at hkk; exact (ho 86 k (by omega) (by omega)).trans hkk
  | some p =>
    rw [q] at hkk
    obtain ⟨z1, ⟨v0, v1, v2, v3, v4, ⟨v5, v6, v7⟩, v8, v9, v10⟩⟩ := hkk
    exact ⟨(ho 86 k (by omega) (by omega)).trans z1, v0, fun j hj => (ho 1 _ (by omega) (by omega)).trans (v1 j hj), (ho 2 _ (by omega) (by omega)).trans v2, (ho 3 _ (by omega) (by omega)).trans v3, (ho 4 _ (by omega) (by omega)).trans v4, ⟨(ho 5 _ (by omega) (by omega)).trans v5, (ho 5 _ (by omega) (by omega)).trans v6, (ho 5 _ (by omega) (by omega)).trans v7⟩, fun k N q j hj => (ho 6 _ (by omega) (by omega)).trans (v8 k N q j hj), fun k N q j hj => (ho 7 _ (by omega) (by omega)).trans (v9 k N q j hj), fun k N q j hj => (ho 8 _ (by omega) (by omega)).trans (v10 k N q j hj)⟩
theorem s_put8_b8 {x : Int32} (h : ∀ j, s_b8 (u_tape p j) = u_tape p j) : ∀ j, s_b8 (u_tape (s_put8 x p) j) = u_tape (s_put8 x p) j := by
  intro j
  show s_b8 (s_up1 (u_tape p) (u_size p) (s_b8 x) j) = s_up1 (u_tape p) (u_size p) (s_b8 x) j
  unfold s_up1
  split
  · exact s_b8_b8 x
  · exact h j
theorem s_four_b8 {v : Int32} (h : ∀ j, s_b8 (u_tape p j) = u_tape p j) : ∀ j, s_b8 (u_tape (s_four v p) j) = u_tape (s_four v p) j := s_put8_b8 (s_put8_b8 (s_put8_b8 (s_put8_b8 h)))
theorem p_feed {a b c d e : Int32} (h : t_st σ T) : ∃ σ', D_feed a b c d e σ = some ((q_feed T a b c d e).1, σ') ∧ t_st σ' (q_feed T a b c d e).2 := by
  have h0 : t_st (t_si σ 0 0) T := h.keep t_keep.si
  have g1 : ∀ {α : Type} (kk : Nat → Option α), x_ga 0 4 kk = kk 0 := fun kk => x_gaS (j := 0) (by omega) (by omega)
  have h2 : t_a (t_si σ 0 0) 2 0 = nI (u_size T.1) := h0.1.2.2.1
  have hsz : u_size T.1 ≤ 600 := h.1.1.1
  have hb8 : ∀ j, s_b8 (u_tape T.1 j) = u_tape T.1 j := h.1.1.2.2.2.2.2.2.2
  unfold D_feed q_feed
  rw [x_lS, g1, h2, show (20 : Int32) = nI 20 from rfl, nI_add]
  by_cases cz : u_size T.1 + 20 ≤ 600
  · rw [if_pos (show nI (u_size T.1 + 20) ≤ 600 from nI_le (b := 600) cz (by omega)), if_pos cz]
    have ht : t_tp (t_si σ 0 0) T.1 := ⟨fun j hj => by have := h0.1.2.1 j hj; rw [Nat.mul_zero, Nat.zero_add] at this; exact this, h2⟩
    obtain ⟨s1, a1, a2, a3⟩ := p_four (v := a) ht (by omega)
    obtain ⟨s2, b1, b2, b3⟩ := p_four (v := b) a2 (by show u_size T.1 + 1 + 1 + 1 + 1 + 4 ≤ 600; omega)
    obtain ⟨s3, c1, c2, c3⟩ := p_four (v := c) b2 (by show u_size T.1 + 1 + 1 + 1 + 1 + 1 + 1 + 1 + 1 + 4 ≤ 600; omega)
    obtain ⟨s4, d1, d2, d3⟩ := p_four (v := d) c2 (by show u_size T.1 + 1 + 1 + 1 + 1 + 1 + 1 + 1 + 1 + 1 + 1 + 1 + 1 + 4 ≤ 600; omega)
    obtain ⟨s5, e1, e2, e3⟩ := p_four (v := e) d2 (by show u_size T.1 + 1 + 1 + 1 + 1 + 1 + 1 + 1 + 1 + 1 + 1 + 1 + 1 + 1 + 1 + 1 + 1 + 4 ≤ 600; omega)
    have hz : u_size (s_feed a b c d e T.1) = u_size T.1 + 20 := rfl
    refine ⟨s5, ?_, ?_⟩
    · rw [a1, x_bS, b1, x_bS, c1, x_bS, d1, x_bS, e1, x_bS, g1, e2.2]
      rfl
    · exact t_st.tape h0 (((a3.trans b3).trans (c3.trans d3)).trans e3) e2 rfl (by show u_size (s_feed a b c d e T.1) ≤ 600; rw [hz]; exact cz) (s_four_b8 (s_four_b8 (s_four_b8 (s_four_b8 (s_four_b8 hb8)))))
  · rw [if_neg (show ¬ nI (u_size T.1 + 20) ≤ 600 from nI_ge (a := 600) (by omega) (by omega)), if_neg cz]
    exact ⟨_, rfl, h0⟩
theorem p_end {n : Int32} (h : t_st σ T) : ∃ σ', D_end n σ = some ((q_end T n).1, σ') ∧ t_st σ' (q_end T n).2 := by
  have h0 : t_st (t_si σ 0 0) T := h.keep t_keep.si
  have g1 : ∀ {α : Type} (kk : Nat → Option α), x_ga 0 4 kk = kk 0 := fun kk => x_gaS (j := 0) (by omega) (by omega)
  have h2 : t_a (t_si σ 0 0) 2 0 = nI (u_size T.1) := h0.1.2.2.1
  have hsz : u_size T.1 ≤ 600 := h.1.1.1
  unfold D_end q_end
  rw [x_lS, g1, h2, p_in0 (by omega), x_bS]
  by_cases c : 0 ≤ n ∧ v_ n ≤ u_size T.1
  · rw [if_pos c, if_neg (show ¬ (1 : Int32) = 0 by decide), g1, x_lS, if_pos c]
    refine ⟨_, rfl, t_st.tape h0 (fun k j h1 h2 => by rw [t_a_sa, if_neg h2]) ⟨fun j hj => ?_, ?_⟩ rfl (by show v_ n ≤ 600; omega) h.1.1.2.2.2.2.2.2.2⟩
    · rw [t_a_sa, if_neg (by omega)]
      have := h0.1.2.1 j hj
      rw [Nat.mul_zero, Nat.zero_add] at this
      exact this
    · rw [t_a_sa, if_pos ⟨rfl, rfl⟩]
      exact (v_of c.1).1
  · rw [if_neg c, if_pos (show (0 : Int32) = 0 from rfl), if_neg c]
    exact ⟨_, rfl, h0⟩
end T78
