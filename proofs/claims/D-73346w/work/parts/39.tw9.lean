/-! THE TWIN's LAW, 9: an entry is joined, goes on -/
set_option maxRecDepth 100000
def s_join (t : Nat) (nonce : Int32) (e : s_E) : s_E :=
  if t < 100 then (e.1, e.2.1, e.2.2.1 ||| ((1 : Int32) <<< (nI t &&& 31)), e.2.2.2.1, e.2.2.2.2.1 ||| ((1 : Int64) <<< (nonce.toInt64 &&& 63)), e.2.2.2.2.2)
  else (e.1, e.2.1, e.2.2.1, e.2.2.2.1 ||| ((1 : Int64) <<< ((nI (t - 100)).toInt64 &&& 63)), e.2.2.2.2.1 ||| ((1 : Int64) <<< (nonce.toInt64 &&& 63)), e.2.2.2.2.2)
/-- an entry has gone to a node -/
def s_gone (to : Nat) (minute : Int32) (e : s_E) : s_E := (e.1, e.2.1, e.2.2.1, e.2.2.2.1, e.2.2.2.2.1, e.2.2.2.2.2.1, nI to, e.2.2.2.2.2.2.2.1 ||| ((1 : Int32) <<< (nI to &&& 31)), minute, e.2.2.2.2.2.2.2.2.2)
/-- where an entry goes on to -/
def s_way (N : s_R) (lk : Nat → Option Nat) (n : Nat) (e : s_E) (G : s_G) : Option Nat := s_next N lk (g_down G) (g_meas G) n (v_ (e_name e)) (e_in e ||| e_tried e)
/-- the entry number i of node n goes on; whether it did -/
def s_go (N : s_R) (lk : Nat → Option Nat) (n i : Nat) (e : s_E) (r : s_Q) (G : s_G) : Bool × s_G := match s_way N lk n e G with
  | none => (false, G)
  | some to => (true, s_send N lk 0 n to (e_name e) (e_wish e) (e_first e) r (g_ses G n ((g_es G n).set i (s_gone to (g_minute G) e))))
section T39
variable {σ σ' : t_S} {N : s_R} {lk : Nat → Option Nat} {G : s_G}
theorem s_fold_congr {α : Type} {st st' : Nat → α → α} (n : Nat) (h : ∀ k a, k < n → st k a = st' k a) : ∀ m k a, k + m ≤ n → s_fold st k m a = s_fold st' k m a := by
  intro m
  induction m with
  | zero => intro k a _; rfl
  | succ m ih =>
    intro k a hk
    show s_fold st (k + 1) m (st k a) = s_fold st' (k + 1) m (st' k a)
    rw [h k a (by omega), ih (k + 1) _ (by omega)]
/-- the next way rests on what was measured at that node alone -/
theorem s_next_congr {ms ms' : Nat → Int32} {down but : Int32} {n name : Nat} (hN : n_ok N) (hn : n < 6) (h : ∀ i, i < 36 → ms i = ms' i) : s_next N lk down ms n name but = s_next N lk down ms' n name but := by
  unfold s_next
  rw [s_fold_congr (n_routes N) (fun k a hk => ?_) (n_routes N) 0 (none, 1000000) (by omega)]
  unfold s_step s_cost
  have hb := (n_rt_b hN hk).2.2.2.2.2.2.2.1
  rw [h (6 * n + n_rt N k) (by omega)]
/-- the next way is a node of a route, and up -/
theorem s_next_some {ms : Nat → Int32} {down but : Int32} {n name to : Nat} (h : s_next N lk down ms n name but = some to) (hN : n_ok N) : to < 6 ∧ s_up lk down n to = true ∧ ¬ (but >>> (nI to &&& 31)) &&& 1 = 1 := by
  unfold s_next at h
  have H := s_foldP (fun _ (q : Option Nat × Int32) => ∀ j, q.1 = some j → j < 6 ∧ s_up lk down n j = true ∧ ¬ (but >>> (nI j &&& 31)) &&& 1 = 1) (fun k q => s_step N lk down ms n name but (s_longest N n name) k q) (n_routes N) (fun q k hq hk j hj => by
    unfold s_step at hj
    split at hj
    · rename_i c
      split at hj
      · cases hj
        exact ⟨(n_rt_b hN hk).2.2.2.2.2.2.2.1, c.2.2.2.1, c.2.2.2.2⟩
      · exact hq j hj
    · exact hq j hj) (n_routes N) 0 (none, 1000000) (fun j hj => by cases hj) (by omega)
  exact H to h
theorem w_join1 {n i : Nat} (x : Int32) (y : Int64) (h : t_rel σ N lk G) (hn : n < 6) (hi : i < (g_es G n).length) : t_rel (t_sl (t_sa σ 37 (64 * n + i) x) 39 (64 * n + i) y) N lk (g_ses G n ((g_es G n).set i ((a_e σ (64 * n + i)).1, (a_e σ (64 * n + i)).2.1, x, (a_e σ (64 * n + i)).2.2.2.1, y, (a_e σ (64 * n + i)).2.2.2.2.2))) ∧ t_out σ (t_sl (t_sa σ 37 (64 * n + i) x) 39 (64 * n + i) y) := by
  refine t_rel_e1 h hn hi (fun _ => rfl) rfl (fun k j hk => by rw [t_a_sl, t_a_sa, if_neg (by omega)]) (fun k j hk => by rw [t_l_sl, if_neg (by omega)]; rfl) ?_
  unfold a_e
  simp [t_a_sl, t_a_sa, t_l_sl, t_l_sa]
theorem w_join2 {n i : Nat} (x y : Int64) (h : t_rel σ N lk G) (hn : n < 6) (hi : i < (g_es G n).length) : t_rel (t_sl (t_sl σ 38 (64 * n + i) x) 39 (64 * n + i) y) N lk (g_ses G n ((g_es G n).set i ((a_e σ (64 * n + i)).1, (a_e σ (64 * n + i)).2.1, (a_e σ (64 * n + i)).2.2.1, x, y, (a_e σ (64 * n + i)).2.2.2.2.2))) ∧ t_out σ (t_sl (t_sl σ 38 (64 * n + i) x) 39 (64 * n + i) y) := by
  refine t_rel_e1 h hn hi (fun _ => rfl) rfl (fun k j hk => by rw [t_a_sl, t_a_sl]) (fun k j hk => by rw [t_l_sl, if_neg (by omega), t_l_sl, if_neg (by omega)]) ?_
  unfold a_e
  simp [t_a_sl, t_l_sl]
theorem p_joins {n i t : Nat} {nonce : Int32} {e : s_E} (h : t_rel σ N lk G) (hn : n < 6) (he : (g_es G n)[i]? = some e) (ht : s_to t) : ∃ σ', D_joins (nI (64 * n + i)) (nI t) nonce σ = some σ' ∧ t_rel σ' N lk (g_ses G n ((g_es G n).set i (s_join t nonce e))) ∧ (∀ k, t_i σ' k = t_i σ k) ∧ t_out σ σ' := by
  obtain ⟨hi, he'⟩ := List.getElem?_eq_some_iff.mp he
  obtain ⟨⟨b1, b2, b3⟩, -, -⟩ := h.2.2.2.1 n hn
  have e0 := (b3 i hi).trans he'
  have g0 : ∀ {α : Type} (kk : Nat → Option α), x_ga (nI (64 * n + i)) 384 kk = kk (64 * n + i) := fun kk => x_gaS (by omega) (by omega)
  subst e0
  unfold D_joins s_join
  simp only [x_lS, g0, t_l_sa, t_l_sl, show ¬ (39 = 38) by decide, false_and, if_false]
  rcases ht with ht | ⟨ht, ht'⟩
  · rw [if_pos (show nI t < 100 from nI_lt (a := t) (b := 100) (by omega) (by omega)), if_pos (show t < 100 by omega)]
    have H := w_join1 (t_a σ 37 (64 * n + i) ||| ((1 : Int32) <<< (nI t &&& 31))) (t_l σ 39 (64 * n + i) ||| ((1 : Int64) <<< (nonce.toInt64 &&& 63))) h hn hi
    exact ⟨_, rfl, H.1, fun _ => rfl, H.2⟩
  · rw [if_neg (show ¬ nI t < 100 from nI_nlt (a := t) (b := 100) (by omega) (by omega)), if_neg (show ¬ t < 100 by omega), show (100 : Int32) = nI 100 from rfl, nI_sub ht]
    have H := w_join2 (t_l σ 38 (64 * n + i) ||| ((1 : Int64) <<< ((nI (t - 100)).toInt64 &&& 63))) (t_l σ 39 (64 * n + i) ||| ((1 : Int64) <<< (nonce.toInt64 &&& 63))) h hn hi
    exact ⟨_, rfl, H.1, fun _ => rfl, H.2⟩
theorem p_goesOn {n i : Nat} {e : s_E} {r : s_Q} (h : t_rel σ N lk G) (hN : n_ok N) (hlk : ∀ i, i < 36 → ∀ l, lk i = some l → l < n_links N) (hr : t_reg σ r) (hn : n < 6) (he : (g_es G n)[i]? = some e) (hnm : e_name e = nI (v_ (e_name e)) ∧ v_ (e_name e) < 2 ^ 31) (hw : (g_ways G).length < 4096) :
    ∃ σ', D_goesOn (nI n) (nI (64 * n + i)) σ = some ((if (s_go N lk n i e r G).1 = true then 1 else 0), σ') ∧ t_rel σ' N lk (s_go N lk n i e r G).2 ∧ t_reg σ' r ∧ t_out σ σ' := by
  obtain ⟨hi, he'⟩ := List.getElem?_eq_some_iff.mp he
  obtain ⟨⟨b1, b2, b3⟩, -, -⟩ := h.2.2.2.1 n hn
  have e0 := (b3 i hi).trans he'
  have g0 : ∀ {α : Type} (kk : Nat → Option α), x_ga (nI (64 * n + i)) 384 kk = kk (64 * n + i) := fun kk => x_gaS (by omega) (by omega)
  subst e0
  have hms : s_next N lk (t_i σ 26) (t_a σ 29) n (v_ (e_name (a_e σ (64 * n + i)))) (t_a σ 37 (64 * n + i) ||| t_a σ 42 (64 * n + i)) = s_way N lk n (a_e σ (64 * n + i)) G := by
    unfold s_way
    rw [h.2.1]
    exact s_next_congr hN hn h.2.2.2.2.1
  unfold D_goesOn s_go
  simp only [x_lS, g0]
  have hnx := p_nextWay (but := (t_a σ 37 (64 * n + i) ||| t_a σ 42 (64 * n + i))) h.1.1 hN h.1.2.1 hn hnm.2
  rw [hms, ← hnm.1] at hnx
  rw [show t_a σ 35 (64 * n + i) = e_name (a_e σ (64 * n + i)) from rfl, hnx, x_bS]
  cases hs : s_way N lk n (a_e σ (64 * n + i)) G with
  | none =>
    rw [if_pos (show oI none = -1 from rfl)]
    exact ⟨σ, rfl, h, hr, t_out.refl⟩
  | some to =>
    have hto : to < 6 ∧ s_up lk (g_down G) n to = true ∧ _ := s_next_some (show s_next N lk (g_down G) (g_meas G) n (v_ (e_name (a_e σ (64 * n + i)))) (e_in (a_e σ (64 * n + i)) ||| e_tried (a_e σ (64 * n + i))) = some to from hs) hN
    rw [if_neg (show ¬ oI (some to) = -1 from oI_none (by omega))]
    have H := t_rel_e1 (σ' := t_sa (t_sa (t_sa σ 41 (64 * n + i) (nI to)) 42 (64 * n + i) (t_a σ 42 (64 * n + i) ||| ((1 : Int32) <<< (nI to &&& 31)))) 43 (64 * n + i) (t_i σ 27)) (e := s_gone to (g_minute G) (a_e σ (64 * n + i))) h hn hi (fun _ => rfl) rfl (fun k j hk => by rw [t_a_sa, if_neg (by omega), t_a_sa, if_neg (by omega), t_a_sa, if_neg (by omega)]) (fun k j hk => rfl) (by
      unfold s_gone a_e
      rw [← h.2.2.1]
      simp [t_a_sa, t_l_sa])
    obtain ⟨σ', s1, s2, s3, s4⟩ := p_sends (kind := 0) (name := e_name (a_e σ (64 * n + i))) (wish := e_wish (a_e σ (64 * n + i))) (nonce := e_first (a_e σ (64 * n + i))) (r := r) H.1 hN hlk hr hn hto.1 hw
    refine ⟨σ', ?_, s2, s3, H.2.trans s4⟩
    simp only [t_a_sa, show ¬ (42 = 41) by decide, show ¬ (35 = 43) by decide, show ¬ (35 = 42) by decide, show ¬ (35 = 41) by decide, show ¬ (36 = 43) by decide, show ¬ (36 = 42) by decide, show ¬ (36 = 41) by decide, show ¬ (40 = 43) by decide, show ¬ (40 = 42) by decide, show ¬ (40 = 41) by decide, false_and, if_false, t_i_sa]
    have q0 : t_a σ 35 (64 * n + i) = e_name (a_e σ (64 * n + i)) := rfl
    have q1 : t_a σ 36 (64 * n + i) = e_wish (a_e σ (64 * n + i)) := rfl
    have q2 : t_a σ 40 (64 * n + i) = e_first (a_e σ (64 * n + i)) := rfl
    have q3 : oI (some to) = nI to := rfl
    rw [q0, q1, q2, q3, s1, x_bS]
    simp
end T39
