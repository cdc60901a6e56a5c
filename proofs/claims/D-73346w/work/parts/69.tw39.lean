/-! THE TWIN's LAW, 39: names; one ask alone; tables, ways -/
set_option maxRecDepth 100000
set_option maxHeartbeats 400000
def s_nb (n : Nat) : Bool := decide (0 < n) && decide (n < 27 ^ 4) && (s_let n).all (fun d => d != 0)
def s_nm (x : Int32) : Bool := decide (0 ≤ x) && s_nb (v_ x)
theorem s_nb_vn (n : Nat) : s_nb n = true ↔ s_vn n := by
  unfold s_nb s_vn
  rw [Bool.and_eq_true, Bool.and_eq_true, decide_eq_true_iff, decide_eq_true_iff, List.all_eq_true]
  constructor
  · rintro ⟨⟨h1, h2⟩, h3⟩
    exact ⟨h1, h2, fun d hd => by simpa using h3 d hd⟩
  · rintro ⟨h1, h2, h3⟩
    exact ⟨⟨h1, h2⟩, fun d hd => by simpa using h3 d hd⟩
theorem s_nm_wn {x : Int32} (h : s_nm x = true) : s_wn x := by
  unfold s_nm at h
  rw [Bool.and_eq_true, decide_eq_true_iff] at h
  exact ⟨(v_of h.1).1, (s_nb_vn _).mp h.2⟩
theorem p_isName_12 (K : Int32 → Option Int32) : ∀ (f a : Nat), a < 2 ^ 31 → s_len a < f → D_isName_12 K f 1 (nI a) = K (if (s_let a).all (fun d => d != 0) = true then 1 else 0) := by
  have stop : ∀ f a, 0 < f → D_isName_12 K f 0 a = K 0 := by
    intro f a hf
    obtain ⟨f, rfl⟩ : ∃ f', f = f' + 1 := ⟨f - 1, by omega⟩
    show (if a ≤ 0 then _ else _) = _
    by_cases c : a ≤ 0
    · rw [if_pos c]
    · rw [if_neg c, if_pos rfl]
  intro f
  induction f with
  | zero => intro a _ h; omega
  | succ f ih =>
    intro a ha hf
    show (if nI a ≤ 0 then _ else _) = _
    by_cases h0 : a = 0
    · subst h0
      rw [if_pos (show nI 0 ≤ 0 by rw [nI_0]; exact Int32.le_refl _), s_let0]
      rfl
    · rw [if_neg (nI_nle (by omega) ha), if_neg (show ¬ (1 : Int32) = 0 by decide), x_lS, show (27 : Int32) = nI 27 from rfl, nI_mod ha (by omega), nI_div ha (by omega), s_letS h0, List.all_append]
      have hl := s_lenS h0
      have hm : a % 27 < 2 ^ 31 := by have := Nat.mod_lt a (show 27 > 0 by omega); omega
      by_cases c : a % 27 = 0
      · rw [if_pos (show nI (a % 27) = 0 by rw [c, nI_0])]
        show x_l (nI (a / 27)) (fun v12 => D_isName_12 K f 0 v12) = _
        rw [x_lS]
        have e1 : ([a % 27].all fun d => d != 0) = false := by simp [c]
        rw [e1, Bool.and_false]
        rw [stop f _ (by omega)]
        rfl
      · rw [if_neg (show ¬ nI (a % 27) = 0 from nI_ne0 (by omega) hm)]
        show x_l (nI (a / 27)) (fun v12 => D_isName_12 K f 1 v12) = _
        rw [x_lS, ih (a / 27) (Nat.lt_of_le_of_lt (Nat.div_le_self _ _) ha) (by omega)]
        have e1 : ([a % 27].all fun d => d != 0) = true := by simp [c]
        rw [e1, Bool.and_true]
theorem s_len_lt {n : Nat} : ∀ k, s_len n ≤ k → n < 27 ^ k := by
  intro k
  induction k generalizing n with
  | zero =>
    intro h
    by_cases c : n = 0
    · rw [c]; decide
    · rw [s_lenS c] at h; omega
  | succ k ih =>
    intro h
    by_cases c : n = 0
    · rw [c]; exact Nat.pow_pos (by omega)
    · rw [s_lenS c] at h
      have := ih (n := n / 27) (by omega)
      rw [Nat.pow_succ]
      omega
theorem p_isName (x : Int32) : D_isName x = some (if s_nm x = true then 1 else 0) := by
  unfold D_isName s_nm
  by_cases c : 0 ≤ x
  · obtain ⟨e1, e2⟩ := v_of c
    have h7 := s_len7 e2
    have hl : D_lettersOf x = some (nI (s_len (v_ x))) := by
      conv => lhs; rw [e1]
      exact p_lettersOf e2
    rw [hl, x_bS, p_in, x_bS]
    unfold s_i
    by_cases c2 : 1 ≤ s_len (v_ x) ∧ s_len (v_ x) ≤ 4
    · rw [if_pos (show (1 : Int32) ≤ nI (s_len (v_ x)) ∧ nI (s_len (v_ x)) ≤ 4 from ⟨nI_le (a := 1) c2.1 (by omega), nI_le (b := 4) c2.2 (by omega)⟩)]
      have H := p_isName_12 (fun (v1_14 : Int32) => x_g (v1_14 = 0 ∨ v1_14 = 1) <| some v1_14) x_F (v_ x) e2 (by rw [x_Fv]; omega)
      rw [← e1] at H
      rw [H]
      have hp : 0 < v_ x := Nat.pos_of_ne_zero (fun q => by rw [q, s_len0] at c2; omega)
      have h27 := s_len_lt (n := v_ x) 4 c2.2
      have e9 : (decide (0 ≤ x) && s_nb (v_ x)) = (s_let (v_ x)).all (fun d => d != 0) := by
        unfold s_nb
        rw [decide_eq_true c, decide_eq_true hp, decide_eq_true h27]
        simp
      rw [e9]
      by_cases c3 : (s_let (v_ x)).all (fun d => d != 0) = true
      · rw [if_pos c3]; exact x_gS (Or.inr rfl)
      · rw [if_neg c3]; exact x_gS (Or.inl rfl)
    · rw [if_neg (show ¬ ((1 : Int32) ≤ nI (s_len (v_ x)) ∧ nI (s_len (v_ x)) ≤ 4) from fun q => c2 ⟨(nI_leI (a := 1) (by omega) (by omega)).mp q.1, (nI_leI (b := 4) (by omega) (by omega)).mp q.2⟩)]
      have e9 : s_nb (v_ x) = false := by
        cases hq : s_nb (v_ x) with
        | false => rfl
        | true =>
          obtain ⟨q1, q2, -⟩ := (s_nb_vn _).mp hq
          have := s_len_le 4 (v_ x) q2
          have : s_len (v_ x) ≠ 0 := fun q => by
            rw [s_lenS (by omega)] at q; omega
          exact absurd ⟨by omega, by omega⟩ c2
      rw [e9, Bool.and_false, if_neg (by decide)]
      show D_isName_12 _ (9999 + 1) 0 x = _
      show (if x ≤ 0 then _ else _) = _
      by_cases c4 : x ≤ 0
      · rw [if_pos c4]; exact x_gS (Or.inl rfl)
      · rw [if_neg c4, if_pos (show (0 : Int32) = 0 from rfl)]; exact x_gS (Or.inl rfl)
  · have hneg : x ≤ 0 := Int32.le_of_lt (Int32.not_le.mp c)
    have hl : D_lettersOf x = some 0 := by
      unfold D_lettersOf
      show D_lettersOf_4 _ (9999 + 1) 0 x = _
      show (if x ≤ 0 then _ else _) = _
      rw [if_pos hneg]
    rw [hl, x_bS, p_in, x_bS]
    unfold s_i
    rw [if_neg (show ¬ ((1 : Int32) ≤ 0 ∧ (0 : Int32) ≤ 4) by decide), decide_eq_false c, Bool.false_and, if_neg (by decide)]
    show D_isName_12 _ (9999 + 1) 0 x = _
    show (if x ≤ 0 then _ else _) = _
    rw [if_pos hneg]
    exact x_gS (Or.inl rfl)
/-- one ask, with nothing else -/
def q_alone (T : s_T) (c : Nat → Nat → Int32) (n node name wish what : Int32) : Int32 := match s_row (u_nets T.1) n with
  | none => -2
  | some N => match s_node N node with
    | none => -2
    | some a => if s_nm name = true ∧ (0 ≤ wish ∧ wish ≤ 1) ∧ (0 ≤ what ∧ what ≤ 2) then
        (if what = 2 then g_sent (s_goMany N (s_lk0 N none) 99 (s_ask N (s_lk0 N none) a 0 name wish (s_begin c))) else q_ofAsk (s_goMany N (s_lk0 N none) 99 (s_ask N (s_lk0 N none) a 0 name wish (s_begin c))) 0 what)
      else -2
section T69
variable {σ σ' : t_S} {N R : s_R} {T : s_T} {lk : Nat → Option Nat} {G : s_G} {K : Nat} {W : s_W} {t : Nat}
theorem p_alone {n node name wish what : Int32} (h : t_st σ T) : ∃ c σ', D_alone n node name wish what σ = some (q_alone T c n node name wish what, σ') ∧ t_keep σ σ' := by
  have h0 : t_st (t_si σ 0 0) T := h.keep t_keep.si
  obtain ⟨σ1, a1, a2, -, -, a3⟩ := p_hasNet (k := n) h0
  have hk : t_keep σ σ1 := t_keep.si.trans a2
  unfold D_alone q_alone
  rw [x_lS, a1, x_b2S]
  cases hn : s_row (u_nets T.1) n with
  | none => exact ⟨fun _ _ => 0, σ1, if_pos rfl, hk⟩
  | some N =>
    have b := a3 N hn
    have hN := u_net_ok h hn
    show ∃ c σ', (if (1 : Int32) = 0 then _ else _) = _ ∧ _
    rw [if_neg (show ¬ (1 : Int32) = 0 by decide), p_isNodeS b.2.1 hN, x_bS]
    cases hx : s_node N node with
    | none => simp only [hx]; exact ⟨fun _ _ => 0, σ1, if_pos trivial, hk⟩
    | some a =>
      obtain ⟨i1, i2, i3⟩ := s_node_lt hN hx
      simp only [hx]
      show ∃ c σ', (if (1 : Int32) = 0 then _ else _) = some ((if s_nm name = true ∧ (0 ≤ wish ∧ wish ≤ 1) ∧ (0 ≤ what ∧ what ≤ 2) then
        (if what = 2 then g_sent (s_goMany N (s_lk0 N none) 99 (s_ask N (s_lk0 N none) a 0 name wish (s_begin c))) else q_ofAsk (s_goMany N (s_lk0 N none) 99 (s_ask N (s_lk0 N none) a 0 name wish (s_begin c))) 0 what)
      else -2), σ') ∧ _
      rw [if_neg (show ¬ (1 : Int32) = 0 by decide), p_isName, x_bS]
      by_cases c1 : s_nm name = true
      · rw [if_pos c1, if_neg (show ¬ (1 : Int32) = 0 by decide), p_in, x_bS]
        unfold s_i
        by_cases c2 : 0 ≤ wish ∧ wish ≤ 1
        · rw [if_pos c2, if_neg (show ¬ (1 : Int32) = 0 by decide), p_in, x_bS]
          unfold s_i
          by_cases c3 : 0 ≤ what ∧ what ≤ 2
          · rw [if_pos c3, if_neg (show ¬ (1 : Int32) = 0 by decide)]
            obtain ⟨σ2, d1, d2, d3⟩ := p_begin (away := none) b hN (fun j hj => by cases hj)
            have d1' : D_begin (-1) σ1 = some σ2 := d1
            have hwn := s_nm_wn c1
            have hw01 : wish = 0 ∨ wish = 1 := by
              obtain ⟨e1, e2, e3⟩ := s_between (a := 0) (b := 1) rfl rfl (by omega) (by omega) c2
              rcases (show v_ wish = 0 ∨ v_ wish = 1 by omega) with q | q
              · left; rw [e1, q]; rfl
              · right; rw [e1, q]; rfl
            have hlk := s_lk0_ok (N := N) (away := none) hN
            obtain ⟨σ3, f1, f2, f3⟩ := p_asks (k := 0) (n := a) (name := name) (wish := wish) (W := fun _ => (0, 0)) d2 hN hlk (by omega) s_inv_begin i1 hwn
            have hinv := s_inv.ask (k := 0) (n := a) (name := name) (wish := wish) (s_inv_begin (N := N) (W := fun _ => (0, 0)) (c := t_a σ1)) hN hlk (by omega) i1 hwn hw01
            rw [if_pos i2] at f1 f2
            obtain ⟨σ4, g1, g2, g3⟩ := p_waits (m := 99) f2 hN hlk (by omega) hinv (by omega)
            rw [if_pos (show 0 + 99 ≤ 99 by omega)] at g1 g2
            refine ⟨t_a σ1, σ4, ?_, ((hk.trans d3.keep).trans f3.keep).trans g3.keep⟩
            have f1' : D_asks (nI a) name wish 0 σ2 = some (1, σ3) := f1
            have g1' : D_waits 99 σ3 = some (1, σ4) := g1
            rw [d1', x_bS, i3, f1', x_b2S, g1', x_b2S, if_pos (show s_nm name = true ∧ (0 ≤ wish ∧ wish ≤ 1) ∧ (0 ≤ what ∧ what ≤ 2) from ⟨c1, c2, c3⟩)]
            by_cases c4 : what = 2
            · rw [if_pos c4, if_pos c4, g2.2.2.2.2.2.2.2.1]
            · rw [if_neg c4, if_neg c4, show (0 : Int32) = nI 0 from rfl, p_ofAsk g2 (by omega), x_bS]
          · refine ⟨fun _ _ => 0, σ1, ?_, hk⟩
            rw [if_neg c3, if_pos (show (0 : Int32) = 0 from rfl), if_neg (fun q => c3 q.2.2)]
        · refine ⟨fun _ _ => 0, σ1, ?_, hk⟩
          rw [if_neg c2, if_pos (show (0 : Int32) = 0 from rfl), if_neg (fun q => c2 q.2.1)]
      · refine ⟨fun _ _ => 0, σ1, ?_, hk⟩
        rw [if_neg c1, if_pos (show (0 : Int32) = 0 from rfl), if_neg (fun q => c1 q.1)]
end T69
