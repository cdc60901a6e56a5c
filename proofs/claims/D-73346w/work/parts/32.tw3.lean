/-! THE TWIN's LAW, 3: serves, links, ways -/
set_option maxRecDepth 100000
section T32
variable {σ : t_S} {N : s_R}
theorem p_serveFor {node name : Nat} (h : t_net σ N) (hN : n_ok N) (hn : node < 6) (hm : name < 2 ^ 31) : D_serveFor (nI node) (nI name) σ = some (oI (s_serve N node name)) := by
  unfold D_serveFor s_serve
  have h3 : N 4 = nI (n_serves N) := hN.2.2.2.2.1.1
  have h3' : n_serves N ≤ 6 := hN.2.2.2.2.1.2
  refine x_for (fun _ (o : Option Nat) => ∀ j, o = some j → j < n_serves N) (fun f o k => D_serveFor_5 (nI node) (nI name) σ (fun v => some v) f (oI o) (nI k)) (fun o => some (oI o)) _ (n_serves N) ?_ ?_ ?_ x_F 0 none (by omega) (fun j e => by cases e) (by rw [x_Fv]; omega)
  · intro f m _
    show x_b (D_serves σ) _ = _
    rw [p_serves h, x_bS, h3, if_pos (Int32.le_refl _)]
  · intro f o k ho hk
    obtain ⟨b1, -, -, -, b6, b7, -⟩ := n_sv_b hN hk
    have hl := s_len7 (show n_sw N k < 2 ^ 31 by omega)
    show x_b (D_serves σ) _ = _
    rw [p_serves h, x_bS, h3, if_neg (nI_ge hk (by omega)), p_serve0 h hN hk, x_bS, p_serve1 h hN hk]
    simp only [x_lS, x_bS, p_lettersOf (show n_sw N k < 2 ^ 31 by omega), p_isBeginning (show n_sw N k < 2 ^ 31 by omega) hm, nI_eq (show n_sn N k < 2 ^ 31 by omega) (show node < 2 ^ 31 by omega), nI_1]
    by_cases c1 : n_sn N k = node
    · by_cases c2 : s_pre (n_sw N k) name = true
      · cases o with
        | none => simp [c1, c2, oI]
        | some j =>
          have hj := ho j rfl
          obtain ⟨-, -, -, -, -, e7, -⟩ := n_sv_b hN hj
          have hlj := s_len7 (show n_sw N j < 2 ^ 31 by omega)
          have e1 : ¬ oI (some j) = -1 := oI_none (by omega)
          have e2 : D_serveAt (oI (some j)) 1 σ = some (nI (n_sw N j)) := p_serve1 h hN hj
          rw [e2]
          simp only [x_bS, p_lettersOf (show n_sw N j < 2 ^ 31 by omega), nI_leI (show s_len (n_sw N k) < 2 ^ 31 by omega) (show s_len (n_sw N j) < 2 ^ 31 by omega)]
          by_cases c3 : s_len (n_sw N j) < s_len (n_sw N k)
          · have c4 : ¬ s_len (n_sw N k) ≤ s_len (n_sw N j) := by omega
            simp [c1, c2, c3, c4, e1]
            rfl
          · have c4 : s_len (n_sw N k) ≤ s_len (n_sw N j) := by omega
            simp [c1, c2, c3, c4, e1]
      · simp [c1, c2]
    · simp [c1]
  · intro o k ho hk j hj
    split at hj
    · cases hj; exact hk
    · exact ho j hj
/-- the links at hand: of two nodes the link's number, none -/
def t_lk (σ : t_S) (lk : Nat → Option Nat) : Prop := ∀ i, i < 36 → t_a σ 25 i = oI (lk i) ∧ ∀ l, lk i = some l → l < 15
def s_up (lk : Nat → Option Nat) (down : Int32) (a b : Nat) : Bool := match lk (6 * a + b) with
  | none => false
  | some l => !decide ((down >>> (nI l &&& 31)) &&& 1 = 1)
theorem p_isUp {lk : Nat → Option Nat} {a b : Nat} (h : t_lk σ lk) (ha : a < 6) (hb : b < 6) : D_isUp (nI a) (nI b) σ = some (if s_up lk (t_i σ 26) a b = true then 1 else 0) := by
  unfold D_isUp s_up
  rw [show (6 : Int32) = nI 6 from rfl, nI_mul, nI_add, x_gaS (by omega) (by omega), (h (6 * a + b) (by omega)).1]
  cases hl : lk (6 * a + b) with
  | none => simp [oI, x_lS]
  | some l =>
    have hl15 := (h (6 * a + b) (by omega)).2 l hl
    have e1 : ¬ oI (some l) = -1 := oI_none (by omega)
    simp only [x_lS, p_has, x_bS]
    rw [if_neg e1]
    by_cases c : (t_i σ 26 >>> (nI l &&& 31)) &&& 1 = 1
    · simp [oI, c]
    · simp [oI, c]
/-- what a way costs: as measured, or as the route says -/
def s_cost (N : s_R) (ms : Nat → Int32) (n k : Nat) : Int32 := if ms (6 * n + n_rt N k) = -1 then nI (n_rc N k) else ms (6 * n + n_rt N k)
/-- one route tried: the best way yet, its cost -/
def s_step (N : s_R) (lk : Nat → Option Nat) (down : Int32) (ms : Nat → Int32) (n name : Nat) (but : Int32) (most k : Nat) (q : Option Nat × Int32) : Option Nat × Int32 :=
  if n_rn N k = n ∧ s_len (n_rw N k) = most ∧ s_pre (n_rw N k) name = true ∧ s_up lk down n (n_rt N k) = true ∧ ¬ (but >>> (nI (n_rt N k) &&& 31)) &&& 1 = 1 then
    (if s_cost N ms n k < q.2 ∨ s_cost N ms n k = q.2 ∧ nI (n_rt N k) < oI q.1 then (some (n_rt N k), s_cost N ms n k) else q)
  else q
def s_next (N : s_R) (lk : Nat → Option Nat) (down : Int32) (ms : Nat → Int32) (n name : Nat) (but : Int32) : Option Nat := (s_fold (fun k q => s_step N lk down ms n name but (s_longest N n name) k q) 0 (n_routes N) (none, 1000000)).1
theorem s_longest7 (hN : n_ok N) (node name : Nat) : s_longest N node name ≤ 7 := by
  unfold s_longest
  have h := s_foldP (fun _ (m : Nat) => m ≤ 7) (fun k m => if n_rn N k = node ∧ s_pre (n_rw N k) name = true then max m (s_len (n_rw N k)) else m) (n_routes N) (fun m k hm hk => by
    have := s_len7 (show n_rw N k < 2 ^ 31 by have := (n_rt_b hN hk).2.2.2.2.2.2.1; omega)
    show (if _ then _ else _) ≤ 7
    split
    · exact Nat.max_le.mpr ⟨hm, this⟩
    · exact hm) (n_routes N) 0 0 (by omega) (by omega)
  exact h
theorem p_nextWay {lk : Nat → Option Nat} {n name : Nat} {but : Int32} (h : t_net σ N) (hN : n_ok N) (hl : t_lk σ lk) (hn : n < 6) (hm : name < 2 ^ 31) : D_nextWay (nI n) (nI name) but σ = some (oI (s_next N lk (t_i σ 26) (t_a σ 29) n name but)) := by
  unfold D_nextWay s_next
  have h3 : N 3 = nI (n_routes N) := hN.2.2.2.1.1
  have h3' : n_routes N ≤ 12 := hN.2.2.2.1.2
  have h7 := s_longest7 hN n name
  rw [p_longestAt h hN hn hm, x_bS]
  refine x_for (fun _ (_ : Option Nat × Int32) => True) (fun f q k => D_nextWay_19 (nI n) (nI name) but (nI (s_longest N n name)) σ (fun v => some v) f (oI q.1) q.2 (nI k)) (fun q => some (oI q.1)) _ (n_routes N) ?_ ?_ ?_ x_F 0 (none, 1000000) (by omega) trivial (by rw [x_Fv]; omega)
  · intro f m _
    show x_b (D_routes σ) _ = _
    rw [p_routes h, x_bS, h3, if_pos (Int32.le_refl _)]
  · intro f q k _ hk
    obtain ⟨b1, -, -, -, -, b6, b7, b8, b9⟩ := n_rt_b hN hk
    show x_b (D_routes σ) _ = _
    rw [p_routes h, x_bS, h3, if_neg (nI_ge hk (by omega)), p_route2 h hN hk, x_bS, p_isRoute h hN hn hm (by omega) hk, x_bS, p_isUp hl hn b8]
    simp only [x_lS, x_bS, p_has, nI_1, p_route3 h hN hk]
    rw [show (6 : Int32) = nI 6 from rfl, nI_mul, nI_add, x_gaS (by omega) (by omega)]
    simp only [x_gaS (show 6 * n + n_rt N k < 36 by omega) (show 36 < 2 ^ 31 by omega)]
    unfold s_step s_cost
    by_cases c1 : n_rn N k = n <;> by_cases c2 : s_len (n_rw N k) = s_longest N n name <;> by_cases c3 : s_pre (n_rw N k) name = true <;> by_cases c4 : s_up lk (t_i σ 26) n (n_rt N k) = true <;> by_cases c5 : (but >>> (nI (n_rt N k) &&& 31)) &&& 1 = 1 <;> simp [c1, c2, c3, c4, c5]
    by_cases d1 : t_a σ 29 (6 * n + n_rt N k) = -1
    · simp only [if_pos d1]
      by_cases e1 : nI (n_rc N k) < q.2
      · simp [e1]; rfl
      · by_cases e2 : nI (n_rc N k) = q.2
        · by_cases e3 : oI q.1 ≤ nI (n_rt N k)
          · have e4 : ¬ nI (n_rt N k) < oI q.1 := Int32.not_lt.mpr e3
            simp [e2, e3, e4]
          · have e4 : nI (n_rt N k) < oI q.1 := Int32.not_le.mp e3
            simp [e2, e3, e4]; rfl
        · simp [e1, e2]
    · simp only [if_neg d1]
      by_cases e1 : t_a σ 29 (6 * n + n_rt N k) < q.2
      · simp [e1]; rfl
      · by_cases e2 : t_a σ 29 (6 * n + n_rt N k) = q.2
        · by_cases e3 : oI q.1 ≤ nI (n_rt N k)
          · have e4 : ¬ nI (n_rt N k) < oI q.1 := Int32.not_lt.mpr e3
            simp [e2, e3, e4]
          · have e4 : nI (n_rt N k) < oI q.1 := Int32.not_le.mp e3
            simp [e2, e3, e4]; rfl
        · simp [e1, e2]
  · intro q k _ _
    trivial
end T32
