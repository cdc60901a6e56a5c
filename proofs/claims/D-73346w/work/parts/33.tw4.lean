/-! THE TWIN's LAW, 4: what nodes have -/
set_option maxRecDepth 100000
/-- an entry: name, wish, in, asks, nonces, first, out, tried, sent, ends -/
abbrev s_E : Type := Int32 × Int32 × Int32 × Int64 × Int64 × Int32 × Int32 × Int32 × Int32 × Int32
def e_name (e : s_E) : Int32 := e.1
def e_wish (e : s_E) : Int32 := e.2.1
def e_in (e : s_E) : Int32 := e.2.2.1
def e_asks (e : s_E) : Int64 := e.2.2.2.1
def e_nonces (e : s_E) : Int64 := e.2.2.2.2.1
def e_first (e : s_E) : Int32 := e.2.2.2.2.2.1
def e_out (e : s_E) : Int32 := e.2.2.2.2.2.2.1
def e_tried (e : s_E) : Int32 := e.2.2.2.2.2.2.2.1
def e_sent (e : s_E) : Int32 := e.2.2.2.2.2.2.2.2.1
def e_ends (e : s_E) : Int32 := e.2.2.2.2.2.2.2.2.2
/-- data that are stored: name, until, by -/
abbrev s_D : Type := Int32 × Int32 × Int32
def a_e (σ : t_S) (j : Nat) : s_E := (t_a σ 35 j, t_a σ 36 j, t_a σ 37 j, t_l σ 38 j, t_l σ 39 j, t_a σ 40 j, t_a σ 41 j, t_a σ 42 j, t_a σ 43 j, t_a σ 44 j)
def a_d (σ : t_S) (j : Nat) : s_D := (t_a σ 31 j, t_a σ 32 j, t_a σ 33 j)
/-- node n's entries, its store -/
def t_es (σ : t_S) (n : Nat) (es : List s_E) : Prop := t_a σ 34 n = nI es.length ∧ es.length ≤ 64 ∧ ∀ i (h : i < es.length), a_e σ (64 * n + i) = es[i]
def t_ds (σ : t_S) (n : Nat) (ds : List s_D) : Prop := t_a σ 30 n = nI ds.length ∧ ds.length ≤ 6 ∧ ∀ i (h : i < ds.length), a_d σ (6 * n + i) = ds[i]
section T33
variable {σ : t_S}
theorem p_storedAt {n : Nat} {name : Int32} {ds : List s_D} (h : t_ds σ n ds) (hn : n < 6) : D_storedAt (nI n) name σ = some (oI (s_find (fun i => (ds.map (fun d => d.1))[i]? == some name) 0 ds.length)) := by
  obtain ⟨h1, h2, h3⟩ := h
  unfold D_storedAt
  rw [← nI_0, x_find (fun f k => D_storedAt_2 (nI n) name σ (some (-1)) f (nI k)) (some (-1)) (fun k => some (nI k)) (fun i => (ds.map (fun d => d.1))[i]? == some name) ds.length ?_ ?_ x_F 0 (by omega) (by rw [x_Fv]; omega)]
  · rw [Nat.sub_zero]
    cases s_find (fun i => (ds.map (fun d => d.1))[i]? == some name) 0 ds.length <;> rfl
  · intro f
    show x_ga (nI n) 6 _ = _
    rw [x_gaS hn (by omega), h1, if_pos (Int32.le_refl _)]
  · intro f k hk
    have e := congrArg (fun d : s_D => d.1) (h3 k hk)
    have e' : t_a σ 31 (6 * n + k) = ds[k].1 := e
    show x_ga (nI n) 6 _ = _
    rw [x_gaS hn (by omega), h1, if_neg (nI_ge hk (by omega)), show (6 : Int32) = nI 6 from rfl, nI_mul, nI_add, x_gaS (by omega) (by omega), e']
    simp only [x_lS, nI_1]
    rw [List.getElem?_map, List.getElem?_eq_getElem hk]
    by_cases c : ds[k].1 = name <;> simp [c]
theorem p_entryOf {n : Nat} {name wish : Int32} {es : List s_E} (h : t_es σ n es) (hn : n < 6) : D_entryOf (nI n) name wish σ = some (match s_find (fun i => (es.map (fun e => (e.1, e.2.1)))[i]? == some (name, wish)) 0 es.length with
    | some i => nI (64 * n + i)
    | none => -1) := by
  obtain ⟨h1, h2, h3⟩ := h
  unfold D_entryOf
  rw [← nI_0, x_find (fun f k => D_entryOf_3 (nI n) name wish σ (some (-1)) f (nI k)) (some (-1)) (fun k => some (nI (64 * n + k))) (fun i => (es.map (fun e => (e.1, e.2.1)))[i]? == some (name, wish)) es.length ?_ ?_ x_F 0 (by omega) (by rw [x_Fv]; omega)]
  · rw [Nat.sub_zero]
    cases s_find (fun i => (es.map (fun e => (e.1, e.2.1)))[i]? == some (name, wish)) 0 es.length <;> rfl
  · intro f
    show x_ga (nI n) 6 _ = _
    rw [x_gaS hn (by omega), h1, if_pos (Int32.le_refl _)]
  · intro f k hk
    have e1 : t_a σ 35 (64 * n + k) = es[k].1 := congrArg (fun d : s_E => d.1) (h3 k hk)
    have e2 : t_a σ 36 (64 * n + k) = es[k].2.1 := congrArg (fun d : s_E => d.2.1) (h3 k hk)
    show x_ga (nI n) 6 _ = _
    rw [x_gaS hn (by omega), h1, if_neg (nI_ge hk (by omega)), show (64 : Int32) = nI 64 from rfl, nI_mul, nI_add, x_gaS (by omega) (by omega), e1]
    simp only [x_lS, nI_1]
    rw [x_gaS (by omega) (by omega), e2, List.getElem?_map, List.getElem?_eq_getElem hk]
    by_cases c : es[k].1 = name <;> by_cases c2 : es[k].2.1 = wish <;> simp [c, c2]
/-- one entry put at the place ahead of it -/
def s_rem1 (k : Nat) (σ : t_S) : t_S := t_sa (t_sa (t_sa (t_sa (t_sa (t_sl (t_sl (t_sa (t_sa (t_sa σ 35 k (t_a σ 35 (k + 1))) 36 k (t_a σ 36 (k + 1))) 37 k (t_a σ 37 (k + 1))) 38 k (t_l σ 38 (k + 1))) 39 k (t_l σ 39 (k + 1))) 40 k (t_a σ 40 (k + 1))) 41 k (t_a σ 41 (k + 1))) 42 k (t_a σ 42 (k + 1))) 43 k (t_a σ 43 (k + 1))) 44 k (t_a σ 44 (k + 1))
theorem s_rem1_a (k : Nat) (σ : t_S) (a j : Nat) : t_a (s_rem1 k σ) a j = if (35 ≤ a ∧ a ≤ 44 ∧ a ≠ 38 ∧ a ≠ 39) ∧ j = k then t_a σ a (k + 1) else t_a σ a j := by
  unfold s_rem1 t_sa t_sl t_a
  dsimp only
  by_cases hj : j = k
  · subst hj
    by_cases h : 35 ≤ a ∧ a ≤ 44 ∧ a ≠ 38 ∧ a ≠ 39
    · rw [if_pos (show (35 ≤ a ∧ a ≤ 44 ∧ a ≠ 38 ∧ a ≠ 39) ∧ j = j from ⟨h, rfl⟩)]
      obtain ⟨h1, h2, h3, h4⟩ := h
      rcases (show a = 35 ∨ a = 36 ∨ a = 37 ∨ a = 40 ∨ a = 41 ∨ a = 42 ∨ a = 43 ∨ a = 44 by omega) with rfl | rfl | rfl | rfl | rfl | rfl | rfl | rfl <;> simp
    · rw [if_neg (show ¬ ((35 ≤ a ∧ a ≤ 44 ∧ a ≠ 38 ∧ a ≠ 39) ∧ j = j) from fun q => h q.1)]
      have e : ¬ a = 35 ∧ ¬ a = 36 ∧ ¬ a = 37 ∧ ¬ a = 40 ∧ ¬ a = 41 ∧ ¬ a = 42 ∧ ¬ a = 43 ∧ ¬ a = 44 := by omega
      simp [e]
  · rw [if_neg (show ¬ ((35 ≤ a ∧ a ≤ 44 ∧ a ≠ 38 ∧ a ≠ 39) ∧ j = k) from fun q => hj q.2)]
    simp [hj]
theorem s_rem1_l (k : Nat) (σ : t_S) (a j : Nat) : t_l (s_rem1 k σ) a j = if (a = 38 ∨ a = 39) ∧ j = k then t_l σ a (k + 1) else t_l σ a j := by
  unfold s_rem1 t_sa t_sl t_l
  dsimp only
  by_cases hj : j = k
  · subst hj
    by_cases h : a = 38 ∨ a = 39
    · rw [if_pos (show (a = 38 ∨ a = 39) ∧ j = j from ⟨h, rfl⟩)]
      rcases h with rfl | rfl <;> simp
    · rw [if_neg (show ¬ ((a = 38 ∨ a = 39) ∧ j = j) from fun q => h q.1)]
      have e : ¬ a = 38 ∧ ¬ a = 39 := by omega
      simp [e]
  · rw [if_neg (show ¬ ((a = 38 ∨ a = 39) ∧ j = k) from fun q => hj q.2)]
    simp [hj]
theorem s_rem1_i (k : Nat) (σ : t_S) (a : Nat) : t_i (s_rem1 k σ) a = t_i σ a := rfl
theorem p_removes_12 {n : Nat} (hn : n < 6) (K : t_S → Option t_S) : ∀ (m f k : Nat) (σ : t_S) (c : Nat), t_a σ 34 n = nI c → c ≤ 63 → 64 * n ≤ k → k ≤ 64 * n + c → 64 * n + c - k = m → m < f → ∃ σ', D_removes_12 (nI n) K f (nI k) σ = K σ' ∧ (∀ a, t_i σ' a = t_i σ a) ∧ t_w σ' = t_w σ ∧ (∀ a j, t_a σ' a j = if (35 ≤ a ∧ a ≤ 44 ∧ a ≠ 38 ∧ a ≠ 39) ∧ k ≤ j ∧ j < 64 * n + c then t_a σ a (j + 1) else t_a σ a j) ∧ (∀ a j, t_l σ' a j = if (a = 38 ∨ a = 39) ∧ k ≤ j ∧ j < 64 * n + c then t_l σ a (j + 1) else t_l σ a j) := by
  intro m
  induction m with
  | zero =>
    intro f k σ c h1 h2 h3 h4 h5 h6
    obtain ⟨f, rfl⟩ : ∃ f', f = f' + 1 := ⟨f - 1, by omega⟩
    refine ⟨σ, ?_, fun _ => rfl, rfl, fun a j => by rw [if_neg]; rintro ⟨-, q1, q2⟩; omega, fun a j => by rw [if_neg]; rintro ⟨-, q1, q2⟩; omega⟩
    show x_ga (nI n) 6 _ = _
    rw [x_gaS hn (by omega), h1, show (64 : Int32) = nI 64 from rfl, nI_mul, nI_add, if_pos (nI_le (by omega) (by omega))]
  | succ m ih =>
    intro f k σ c h1 h2 h3 h4 h5 h6
    obtain ⟨f, rfl⟩ : ∃ f', f = f' + 1 := ⟨f - 1, by omega⟩
    have e34 : t_a (s_rem1 k σ) 34 n = nI c := by rw [s_rem1_a, if_neg (by rintro ⟨⟨q1, -⟩, -⟩; omega)]; exact h1
    obtain ⟨σ', r1, r2, r3, r4, r5⟩ := ih f (k + 1) (s_rem1 k σ) c e34 h2 (by omega) (by omega) (by omega) (by omega)
    refine ⟨σ', ?_, fun a => r2 a, r3, fun a j => ?_, fun a j => ?_⟩
    · rw [← r1]
      show x_ga (nI n) 6 _ = _
      rw [x_gaS hn (by omega), h1, show (64 : Int32) = nI 64 from rfl, nI_mul, nI_add, if_neg (nI_ge (by omega) (by omega))]
      simp only [x_lS, nI_1, x_gaS (show k + 1 < 384 by omega) (show 384 < 2 ^ 31 by omega), x_gaS (show k < 384 by omega) (show 384 < 2 ^ 31 by omega)]
      rfl
    · rw [r4 a j]
      by_cases q : (35 ≤ a ∧ a ≤ 44 ∧ a ≠ 38 ∧ a ≠ 39)
      · by_cases q2 : k + 1 ≤ j ∧ j < 64 * n + c
        · rw [if_pos ⟨q, q2⟩, if_pos ⟨q, by omega⟩, s_rem1_a, if_neg (fun z => by omega)]
        · rw [if_neg (fun z => q2 z.2), s_rem1_a]
          by_cases q3 : j = k
          · subst q3
            rw [if_pos ⟨q, rfl⟩, if_pos ⟨q, by omega⟩]
          · rw [if_neg (fun z => q3 z.2), if_neg (fun z => by omega)]
      · rw [if_neg (fun z => q z.1), if_neg (fun z => q z.1), s_rem1_a, if_neg (fun z => q z.1)]
    · rw [r5 a j]
      by_cases q : (a = 38 ∨ a = 39)
      · by_cases q2 : k + 1 ≤ j ∧ j < 64 * n + c
        · rw [if_pos ⟨q, q2⟩, if_pos ⟨q, by omega⟩, s_rem1_l, if_neg (fun z => by omega)]
        · rw [if_neg (fun z => q2 z.2), s_rem1_l]
          by_cases q3 : j = k
          · subst q3
            rw [if_pos ⟨q, rfl⟩, if_pos ⟨q, by omega⟩]
          · rw [if_neg (fun z => q3 z.2), if_neg (fun z => by omega)]
      · rw [if_neg (fun z => q z.1), if_neg (fun z => q z.1), s_rem1_l, if_neg (fun z => q z.1)]
end T33
