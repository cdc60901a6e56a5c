/-! THE COST, 1: what a run costs, by the routes of its net: potentials -/
set_option maxRecDepth 100000
set_option linter.unusedVariables false
/-- the nodes to which routes of a node lead -/
def s_tgN (N : s_R) (n t : Nat) : Bool := (List.range (n_routes N)).any (fun k => decide (n_rn N k = n ∧ n_rt N k = t))
def s_TN (N : s_R) (n : Nat) : Nat := (List.range 6).countP (s_tgN N n)
/-- weights: scale, interest under way, answer under way, entry, who wants it, asks -/
abbrev s_Wt : Type := Nat × Nat × Nat × Nat × Nat × Nat
def w_s (w : s_Wt) : Nat := w.1
def w_i (w : s_Wt) : Nat := w.2.1
def w_r (w : s_Wt) : Nat := w.2.2.1
def w_e (w : s_Wt) : Nat := w.2.2.2.1
def w_n (w : s_Wt) : Nat := w.2.2.2.2.1
def w_a (w : s_Wt) : Nat := w.2.2.2.2.2
def w_ok (w : s_Wt) : Prop := 76 * w_s w ≤ w_r w ∧ 54 * w_s w ≤ w_e w ∧ w_r w + 23 * w_s w ≤ w_n w ∧ 23 * w_s w ≤ w_a w ∧ 113 * w_s w + w_r w ≤ w_i w ∧ 113 * w_s w + w_e w + w_n w ≤ w_i w
def s_mp (w : s_Wt) (Q : List s_M) : Nat := (Q.map (fun m => if m.1.1 = 0 then w_i w else w_r w)).sum
def s_epot (w : s_Wt) (e : s_E) : Nat := w_e w + w_n w * s_pop (e_in e) + w_a w * (s_setL (e_asks e)).length
def s_ept (w : s_Wt) (es : List s_E) : Nat := (es.map (s_epot w)).sum
def s_trd (es : List s_E) : Nat := (es.map (fun e => s_pop (e_tried e))).sum
def s_ph (w : s_Wt) (N : s_R) (K n : Nat) (nd : s_N) : Nat := w_i w * (s_TN N n * s_dc K nd.2.2 + s_trd nd.1)
/-- tried are only targets -/
def s_tro (N : s_R) (n : Nat) (es : List s_E) : Prop := ∀ e ∈ es, ∀ t, t < 6 → s_bit (e_tried e) (nI t) = true → s_tgN N n t = true
def s_cc (w : s_Wt) (N : s_R) (K : Nat) (Q : List s_M) (x : Int) (G : s_G) : Prop :=
  (∀ n, n < 6 → s_tro N n (g_es G n)) ∧ x + ((s_mp w Q + s_mp w (g_ways G) + s_sum6 (fun n => s_ept w (g_es G n)) : Nat) : Int) ≤ ((s_sum6 (fun n => s_ph w N K n (g_nd G n)) : Nat) : Int)
theorem s_mp_app (w : s_Wt) (a b : List s_M) : s_mp w (a ++ b) = s_mp w a + s_mp w b := by
  unfold s_mp
  rw [List.map_append, List.sum_append]
theorem s_ept_app (w : s_Wt) (a b : List s_E) : s_ept w (a ++ b) = s_ept w a + s_ept w b := by
  unfold s_ept
  rw [List.map_append, List.sum_append]
theorem s_trd_app (a b : List s_E) : s_trd (a ++ b) = s_trd a + s_trd b := by
  unfold s_trd
  rw [List.map_append, List.sum_append]
/-- few are tried -/
theorem s_pop_cnt (x : Int32) : s_pop x = (List.range 6).countP (fun t => s_bit x (nI t)) := by
  unfold s_pop s_b1
  rw [show List.range 6 = [0, 1, 2, 3, 4, 5] from rfl]
  simp only [List.countP_cons, List.countP_nil]
  omega
theorem s_pop_T {N : s_R} {n : Nat} {x : Int32} (h : ∀ t, t < 6 → s_bit x (nI t) = true → s_tgN N n t = true) : s_pop x ≤ s_TN N n := by
  rw [s_pop_cnt]
  exact List.countP_mono_left (fun t ht q => h t (List.mem_range.mp ht) q)
section C1
variable {w : s_Wt} {N : s_R} {lk : Nat → Option Nat} {G G' : s_G} {K : Nat} {W : s_W} {t tm : Nat} {Q : List s_M} {P : Nat} {z y : Int} {x x' : Int}
theorem s_cc.congr (h : s_cc w N K Q x G) (h1 : g_nd G' = g_nd G) (h2 : g_ways G' = g_ways G) : s_cc w N K Q x G' := by
  unfold s_cc g_es at h ⊢
  rw [h1, h2]
  exact h
theorem s_cc.weak (h : s_cc w N K Q x G) (hx : x' ≤ x) : s_cc w N K Q x' G := ⟨h.1, by have := h.2; omega⟩
theorem s_cc.node {n : Nat} {nd : s_N} (h : s_cc w N K Q x G) (hn : n < 6) (ht : s_tro N n nd.1) (hz : x' + ((s_ept w nd.1 + s_ph w N K n (g_nd G n) : Nat) : Int) ≤ x + ((s_ept w (g_es G n) + s_ph w N K n nd : Nat) : Int)) : s_cc w N K Q x' (g_snd G (s_up1 (g_nd G) n nd)) := by
  obtain ⟨h1, h2⟩ := h
  have a1 : ∀ j, j ≠ n → s_ept w (g_es (g_snd G (s_up1 (g_nd G) n nd)) j) = s_ept w (g_es G j) := fun j hj => by
    unfold g_es; rw [g_nd_snd, s_up1_n hj]
  have a2 : s_ept w (g_es (g_snd G (s_up1 (g_nd G) n nd)) n) = s_ept w nd.1 := by
    unfold g_es; rw [g_nd_snd, s_up1_s]
  have b1 : ∀ j, j ≠ n → s_ph w N K j (g_nd (g_snd G (s_up1 (g_nd G) n nd)) j) = s_ph w N K j (g_nd G j) := fun j hj => by
    rw [g_nd_snd, s_up1_n hj]
  have b2 : s_ph w N K n (g_nd (g_snd G (s_up1 (g_nd G) n nd)) n) = s_ph w N K n nd := by
    rw [g_nd_snd, s_up1_s]
  have c1 := s_sum6_up (f := fun n => s_ept w (g_es G n)) (f' := fun j => s_ept w (g_es (g_snd G (s_up1 (g_nd G) n nd)) j)) hn a1
  have c2 := s_sum6_up (f := fun n => s_ph w N K n (g_nd G n)) (f' := fun j => s_ph w N K j (g_nd (g_snd G (s_up1 (g_nd G) n nd)) j)) hn b1
  simp only [a2] at c1
  simp only [b2] at c2
  refine ⟨fun m hm => ?_, ?_⟩
  · unfold g_es
    rw [g_nd_snd]
    by_cases q : m = n
    · subst q; rw [s_up1_s]; exact ht
    · rw [s_up1_n q]; exact h1 m hm
  · rw [g_ways_snd]
    omega
/-- an answer is sent -/
theorem s_cc.send {kind name wish nonce : Int32} {n to : Nat} {r : s_Q} (h : s_cc w N K Q x G) (hk : kind ≠ 0) : s_cc w N K Q (x - w_r w) (s_send N lk kind n to name wish nonce r G) := by
  unfold s_send
  by_cases hu : s_up lk (g_down G) n to = true
  · rw [if_pos hu]
    refine ⟨h.1, ?_⟩
    have h2 := h.2
    show x - w_r w + ((s_mp w Q + s_mp w (g_ways G ++ [_]) + _ : Nat) : Int) ≤ _
    rw [s_mp_app]
    have e : s_mp w [((kind, nI n, nI to, name, wish, nonce, s_due N lk G n to), r)] = w_r w := by
      unfold s_mp
      simp [hk]
    rw [e]
    show x - w_r w + ((s_mp w Q + (s_mp w (g_ways G) + w_r w) + s_sum6 (fun n => s_ept w (g_es G n)) : Nat) : Int) ≤ ((s_sum6 (fun n => s_ph w N K n (g_nd G n)) : Nat) : Int)
    omega
  · rw [if_neg hu]
    exact (h.congr (G' := g_smissed G (g_missed G + 1)) rfl rfl).weak (by omega)
theorem s_cc.send0 {name wish nonce : Int32} {n to : Nat} {r : s_Q} (h : s_cc w N K Q (x + w_i w) G) : s_cc w N K Q x (s_send N lk 0 n to name wish nonce r G) := by
  unfold s_send
  by_cases hu : s_up lk (g_down G) n to = true
  · rw [if_pos hu]
    refine ⟨h.1, ?_⟩
    have h2 := h.2
    show x + ((s_mp w Q + s_mp w (g_ways G ++ [_]) + _ : Nat) : Int) ≤ _
    rw [s_mp_app]
    have e : s_mp w [(((0 : Int32), nI n, nI to, name, wish, nonce, s_due N lk G n to), r)] = w_i w := by
      unfold s_mp
      simp
    rw [e]
    show x + ((s_mp w Q + (s_mp w (g_ways G) + w_i w) + s_sum6 (fun n => s_ept w (g_es G n)) : Nat) : Int) ≤ ((s_sum6 (fun n => s_ph w N K n (g_nd G n)) : Nat) : Int)
    omega
  · rw [if_neg hu]
    exact (h.congr (G' := g_smissed G (g_missed G + 1)) rfl rfl).weak (by omega)
def s_zr (w : s_Wt) (t : Nat) : Int := if t < 100 then w_r w else 0
theorem s_cc.data {name : Int32} {n to : Nat} {r : s_Q} (h : s_cc w N K Q x G) : s_cc w N K Q (x - s_zr w to) (s_data N lk n to name r G) := by
  unfold s_data s_zr
  by_cases c : to < 100
  · rw [if_pos c, if_pos c]
    exact h.send (by decide)
  · rw [if_neg c, if_neg c]
    exact (h.congr (G' := s_get r (to - 100) G) rfl rfl).weak (by omega)
theorem s_cc.nack {name wish : Int32} {n to : Nat} {r : s_Q} (h : s_cc w N K Q x G) : s_cc w N K Q (x - s_zr w to) (s_nack N lk n to name wish r G) := by
  unfold s_nack s_zr
  by_cases c : to < 100
  · rw [if_pos c, if_pos c]
    exact h.send (by decide)
  · rw [if_neg c, if_neg c]
    exact (h.congr (G' := s_refuse r (to - 100) G) rfl rfl).weak (by omega)
theorem s_cc.dataAll {set name : Int32} {n : Nat} {r : s_Q} (h : s_cc w N K Q x G) (hN : n_ok N) : s_cc w N K Q (x - (w_r w * s_pop set : Nat)) (s_dataAll N lk n set name r G) := by
  have hnn : n_nodes N ≤ 6 := hN.1.1.2
  have H := s_foldP (fun k (g : s_G) => s_cc w N K Q (x - (w_r w * s_popK set k : Nat)) g) (fun to G => if s_bit set (nI to) = true then s_data N lk n to name r G else G) (n_nodes N) (fun g k hg hk => by
    show s_cc w N K Q (x - ((w_r w * (s_popK set k + s_b1 set k) : Nat) : Int)) (if _ then _ else _)
    by_cases c : s_bit set (nI k) = true
    · rw [if_pos c]
      have q := hg.data (r := r) (name := name) (n := n) (to := k) (lk := lk)
      have e : s_b1 set k = 1 := if_pos c
      have e2 : s_zr w k = w_r w := if_pos (by omega)
      rw [e2] at q
      rw [e, Nat.mul_add]
      exact q.weak (by omega)
    · rw [if_neg c]
      have e : s_b1 set k = 0 := if_neg c
      rw [e]
      exact hg) (n_nodes N) 0 G (by show s_cc w N K Q (x - ((w_r w * 0 : Nat) : Int)) G; exact h.weak (by omega)) (by omega)
  have := Nat.mul_le_mul_left (w_r w) (s_popK_le set hnn)
  rw [Nat.zero_add] at H
  exact s_cc.weak H (by omega)
theorem s_cc.nackAll {set name wish : Int32} {n : Nat} {r : s_Q} (h : s_cc w N K Q x G) (hN : n_ok N) : s_cc w N K Q (x - (w_r w * s_pop set : Nat)) (s_nackAll N lk n set name wish r G) := by
  have hnn : n_nodes N ≤ 6 := hN.1.1.2
  have H := s_foldP (fun k (g : s_G) => s_cc w N K Q (x - (w_r w * s_popK set k : Nat)) g) (fun to G => if s_bit set (nI to) = true then s_nack N lk n to name wish r G else G) (n_nodes N) (fun g k hg hk => by
    show s_cc w N K Q (x - ((w_r w * (s_popK set k + s_b1 set k) : Nat) : Int)) (if _ then _ else _)
    by_cases c : s_bit set (nI k) = true
    · rw [if_pos c]
      have q := hg.nack (r := r) (name := name) (wish := wish) (n := n) (to := k) (lk := lk)
      have e : s_b1 set k = 1 := if_pos c
      have e2 : s_zr w k = w_r w := if_pos (by omega)
      rw [e2] at q
      rw [e, Nat.mul_add]
      exact q.weak (by omega)
    · rw [if_neg c]
      have e : s_b1 set k = 0 := if_neg c
      rw [e]
      exact hg) (n_nodes N) 0 G (by show s_cc w N K Q (x - ((w_r w * 0 : Nat) : Int)) G; exact h.weak (by omega)) (by omega)
  have := Nat.mul_le_mul_left (w_r w) (s_popK_le set hnn)
  rw [Nat.zero_add] at H
  exact s_cc.weak H (by omega)
/-- an entry is no more; its nonces are dead -/
theorem s_cc.close {n i : Nat} {e : s_E} (hc : s_cc w N K Q x G) (h : s_inv N K W t tm Q P z y G) (hK : K ≤ 64) (hn : n < 6) (he : (g_es G n)[i]? = some e) : s_cc w N K Q (x + (s_epot w e : Nat)) (s_close n i (e_nonces e) G) := by
  obtain ⟨⟨hm, hnd, hQ, hW⟩, -⟩ := h
  obtain ⟨o1, o2, o3, o4⟩ := hnd n hn
  have hmem : e ∈ g_es G n := List.mem_of_getElem? he
  have hE := o1 e hmem
  have eq : s_close n i (e_nonces e) G = g_snd G (s_up1 (g_nd G) n ((g_es G n).eraseIdx i, g_ds G n, g_dead G n ||| e_nonces e)) := by
    show g_snd (g_snd G _) _ = g_snd G _
    have e1 : s_up1 (g_nd (g_sdead G n (g_dead G n ||| e_nonces e))) n ((g_es (g_sdead G n (g_dead G n ||| e_nonces e)) n).eraseIdx i, (g_nd (g_sdead G n (g_dead G n ||| e_nonces e)) n).2) = s_up1 (g_nd G) n ((g_es G n).eraseIdx i, g_ds G n, g_dead G n ||| e_nonces e) := by
      funext j
      unfold s_up1
      by_cases q : j = n
      · subst q
        rw [if_pos rfl, if_pos rfl]
        unfold g_sdead g_es g_ds
        rw [g_nd_snd, s_up1_s]
      · rw [if_neg q, if_neg q]
        unfold g_sdead
        rw [g_nd_snd, s_up1_n q]
    rw [e1]
    rfl
  rw [eq]
  obtain ⟨k, k1, k2, k3, k4, k5⟩ := hE.1
  have h5 : s_pop (e_tried e) ≤ s_TN N n := s_pop_T (hc.1 n hn e hmem)
  have hd := s_dc_lt (K := K) (k0 := k) (g_dead G n) (g_dead G n ||| e_nonces e) (fun j hj hx => by rw [s_hasL_or _ _ (by omega), hx]; rfl) k1 k5 (by rw [s_hasL_or _ _ (by omega), k4, Bool.or_true])
  have s1 : s_ept w ((g_es G n).eraseIdx i) + s_epot w e = s_ept w (g_es G n) := sum_eraseIdx (f := s_epot w) he
  have s2 : s_trd ((g_es G n).eraseIdx i) + s_pop (e_tried e) = s_trd (g_es G n) := sum_eraseIdx (f := fun e => s_pop (e_tried e)) he
  refine hc.node (nd := ((g_es G n).eraseIdx i, g_ds G n, g_dead G n ||| e_nonces e)) hn (fun e' he' => hc.1 n hn e' ((List.eraseIdx_sublist _ _).subset he')) ?_
  have q1 : s_TN N n * s_dc K (g_dead G n) + s_TN N n ≤ s_TN N n * s_dc K (g_dead G n ||| e_nonces e) := by
    rw [← Nat.mul_succ]
    exact Nat.mul_le_mul_left _ hd
  have q2 : s_ph w N K n (g_nd G n) ≤ s_ph w N K n ((g_es G n).eraseIdx i, g_ds G n, g_dead G n ||| e_nonces e) := by
    refine Nat.mul_le_mul_left _ ?_
    show s_TN N n * s_dc K (g_dead G n) + s_trd (g_es G n) ≤ s_TN N n * s_dc K (g_dead G n ||| e_nonces e) + s_trd ((g_es G n).eraseIdx i)
    omega
  show x + _ + ((s_ept w ((g_es G n).eraseIdx i) + _ : Nat) : Int) ≤ _
  omega
theorem s_cc.answer {n i : Nat} {e : s_E} {r : s_Q} (hc : s_cc w N K Q x G) (h : s_inv N K W t tm Q P z y G) (hN : n_ok N) (hlk : s_lkok N lk) (hK : K ≤ 64) (hn : n < 6) (he : (g_es G n)[i]? = some e) : s_cc w N K Q (x - (w_r w * s_pop (e_in e) : Nat) + (s_epot w e : Nat)) (s_answer N lk n i e r G) := by
  have hE := (h.1.2.1 n hn).1 e (List.mem_of_getElem? he)
  have h1 := h.dataAll (set := e_in e) (r := r) hN hlk hn hE.2.2.2.2.2.2.1
  have hc1 := hc.dataAll (set := e_in e) (r := r) (name := e_name e) (n := n) (lk := lk) hN
  obtain ⟨g1, g2, g3⟩ := s_getAll_same (set := e_asks e) (r := r) (G := s_dataAll N lk n (e_in e) (e_name e) r G)
  have h2 := h1.congr g1 g2 g3
  have hc2 := hc1.congr g1 g2
  have hes : (g_es (s_getAll (e_asks e) r (s_dataAll N lk n (e_in e) (e_name e) r G)) n)[i]? = some e := by
    unfold g_es
    rw [g1, (g_ways_dataAll (N := N) (lk := lk) (G := G) (n := n) (set := e_in e) (name := e_name e) (r := r)).1]
    exact he
  exact hc2.close h2 hK hn hes
theorem s_cc.nackOut {n i : Nat} {e : s_E} {name wish : Int32} {r : s_Q} (hc : s_cc w N K Q x G) (h : s_inv N K W t tm Q P z y G) (hN : n_ok N) (hlk : s_lkok N lk) (hK : K ≤ 64) (hn : n < 6) (he : (g_es G n)[i]? = some e) (hnm : s_wn name) (hw : wish = 0 ∨ wish = 1) : s_cc w N K Q (x - (w_r w * s_pop (e_in e) : Nat) + (s_epot w e : Nat)) (s_nackOut N lk n i e name wish r G) := by
  have h1 := h.nackAll (set := e_in e) (r := r) hN hlk hn hnm hw
  have hc1 := hc.nackAll (set := e_in e) (r := r) (name := name) (wish := wish) (n := n) (lk := lk) hN
  obtain ⟨g1, g2, g3⟩ := s_refuseAll_same (set := e_asks e) (r := r) (G := s_nackAll N lk n (e_in e) name wish r G)
  have h2 := h1.congr g1 g2 g3
  have hc2 := hc1.congr g1 g2
  have hes : (g_es (s_refuseAll (e_asks e) r (s_nackAll N lk n (e_in e) name wish r G)) n)[i]? = some e := by
    unfold g_es
    rw [g1, s_nackAll_nd]
    exact he
  exact hc2.close h2 hK hn hes
end C1
