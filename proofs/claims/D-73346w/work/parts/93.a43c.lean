/-! THE COST, 2: what comes -/
set_option maxRecDepth 100000
set_option linter.unusedVariables false
theorem cnt_one (k : Nat) : ∀ n, (List.range n).countP (fun j => decide (j = k)) ≤ if k < n then 1 else 0 := by
  intro n
  induction n with
  | zero => exact Nat.zero_le _
  | succ n ih =>
    rw [List.range_succ, List.countP_append]
    by_cases c : n = k
    · subst c
      rw [if_neg (by omega)] at ih
      rw [if_pos (by omega)]
      simp only [List.countP_singleton, decide_true, if_true]
      omega
    · have e : List.countP (fun j => decide (j = k)) [n] = 0 := by simp [c]
      rw [e]
      by_cases c2 : k < n
      · rw [if_pos c2] at ih
        rw [if_pos (by omega)]
        omega
      · rw [if_neg c2] at ih
        omega
theorem s_setL_len (x : Int64) : (s_setL x).length = (List.range 64).countP (fun k => s_hasL x (nI k)) := by
  unfold s_setL
  exact (List.countP_eq_length_filter).symm
theorem cnt_or {p q : Nat → Bool} : ∀ l : List Nat, l.countP (fun j => p j || q j) ≤ l.countP p + l.countP q := by
  intro l
  induction l with
  | nil => simp
  | cons a l ih =>
    simp only [List.countP_cons]
    cases p a <;> cases q a <;> simp <;> omega
theorem s_setL_or1 {x : Int64} {k : Nat} (hk : k < 64) : (s_setL (x ||| ((1 : Int64) <<< ((nI k).toInt64 &&& 63)))).length ≤ (s_setL x).length + 1 := by
  rw [s_setL_len, s_setL_len]
  have e : (List.range 64).countP (fun j => s_hasL (x ||| ((1 : Int64) <<< ((nI k).toInt64 &&& 63))) (nI j)) ≤ (List.range 64).countP (fun j => s_hasL x (nI j) || decide (j = k)) := by
    refine List.countP_mono_left (fun j hj q => ?_)
    have hj' := List.mem_range.mp hj
    rw [s_hasL_or _ _ hj', s_hasL_1 hk hj'] at q
    simpa using q
  have e2 := cnt_or (p := fun j => s_hasL x (nI j)) (q := fun j => decide (j = k)) (List.range 64)
  have e3 := cnt_one k 64
  rw [if_pos hk] at e3
  omega
section C2
variable {w : s_Wt} {N : s_R} {lk : Nat → Option Nat} {G G' : s_G} {K : Nat} {W : s_W} {t tm : Nat} {Q : List s_M} {P : Nat} {z y : Int} {x x' : Int}
/-- who is next is led to -/
theorem s_next_tgt {ms : Nat → Int32} {down but : Int32} {n name to : Nat} (h : s_next N lk down ms n name but = some to) : s_tgN N n to = true := by
  unfold s_next at h
  have H := s_foldP (fun _ (q : Option Nat × Int32) => ∀ j, q.1 = some j → s_tgN N n j = true) (fun k q => s_step N lk down ms n name but (s_longest N n name) k q) (n_routes N) (fun q k hq hk j hj => by
    unfold s_step at hj
    split at hj
    · rename_i c
      split at hj
      · cases hj
        unfold s_tgN
        rw [List.any_eq_true]
        exact ⟨k, List.mem_range.mpr hk, decide_eq_true ⟨c.1, rfl⟩⟩
      · exact hq j hj
    · exact hq j hj) (n_routes N) 0 (none, 1000000) (fun j hj => by cases hj) (by omega)
  exact H to h
theorem s_bit_or1 {x : Int32} {to t : Nat} (ht : t < 6) (hto : to < 6) (h : s_bit (x ||| ((1 : Int32) <<< (nI to &&& 31))) (nI t) = true) : s_bit x (nI t) = true ∨ t = to := by
  rw [s_bit_or _ _ (by omega), s_bit_1 (by omega) (by omega)] at h
  cases q : s_bit x (nI t) with
  | true => exact Or.inl rfl
  | false =>
    rw [q] at h
    right
    simpa using h
/-- an entry goes on -/
theorem s_cc.go {n i : Nat} {e : s_E} {r : s_Q} (hc : s_cc w N K Q x G) (h : s_inv N K W t tm Q P z y G) (hN : n_ok N) (hlk : s_lkok N lk) (hn : n < 6) (he : (g_es G n)[i]? = some e) : s_cc w N K Q x (s_go N lk n i e r G).2 := by
  have hE := (h.1.2.1 n hn).1 e (List.mem_of_getElem? he)
  unfold s_go
  cases hs : s_way N lk n e G with
  | none => exact hc
  | some to =>
    obtain ⟨t1, t2, t3, t4⟩ := s_way_some hs hN hlk hn
    have htg : s_tgN N n to = true := s_next_tgt hs
    have hmem : e ∈ g_es G n := List.mem_of_getElem? he
    have s1 : s_ept w ((g_es G n).set i (s_gone to (g_minute G) e)) + s_epot w e = s_ept w (g_es G n) + s_epot w (s_gone to (g_minute G) e) := sum_set (f := s_epot w) he
    have s2 : s_trd ((g_es G n).set i (s_gone to (g_minute G) e)) + s_pop (e_tried e) = s_trd (g_es G n) + s_pop (e_tried (s_gone to (g_minute G) e)) := sum_set (f := fun e => s_pop (e_tried e)) he
    have e1 : s_epot w (s_gone to (g_minute G) e) = s_epot w e := rfl
    have e2 : s_pop (e_tried (s_gone to (g_minute G) e)) = s_pop (e_tried e) + 1 := by
      show s_pop (e_tried e ||| _) = _
      rw [s_pop_or _ t1 t3]
    have h1 : s_cc w N K Q (x + w_i w) (g_ses G n ((g_es G n).set i (s_gone to (g_minute G) e))) := by
      refine hc.node (nd := ((g_es G n).set i (s_gone to (g_minute G) e), (g_nd G n).2)) hn (fun e' he' t ht hb => ?_) ?_
      · rcases List.mem_or_eq_of_mem_set he' with q | q
        · exact hc.1 n hn e' q t ht hb
        · subst q
          rcases s_bit_or1 ht t1 (show s_bit (e_tried e ||| _) (nI t) = true from hb) with q | q
          · exact hc.1 n hn e hmem t ht q
          · rw [q]; exact htg
      · have q2 : s_ph w N K n ((g_es G n).set i (s_gone to (g_minute G) e), (g_nd G n).2) = s_ph w N K n (g_nd G n) + w_i w := by
          show w_i w * (s_TN N n * s_dc K (g_dead G n) + s_trd ((g_es G n).set i (s_gone to (g_minute G) e))) = w_i w * (s_TN N n * s_dc K (g_dead G n) + s_trd (g_es G n)) + w_i w
          rw [← Nat.mul_succ]
          congr 1
          omega
        rw [q2]
        show x + w_i w + ((s_ept w ((g_es G n).set i (s_gone to (g_minute G) e)) + _ : Nat) : Int) ≤ _
        omega
    exact h1.send0
def s_zj (w : s_Wt) (t : Nat) : Int := if t < 100 then w_n w else w_a w
/-- one more wants it -/
theorem s_epot_join {to : Nat} {nonce : Int32} {e : s_E} (hto : to < 6 ∨ 100 ≤ to ∧ to < 164) : ((s_epot w (s_join to nonce e) : Nat) : Int) ≤ (s_epot w e : Nat) + s_zj w to := by
  unfold s_join s_zj
  by_cases c : to < 100
  · rw [if_pos c, if_pos c]
    have h1 := s_pop_or_le (e_in e) (t := to) (by omega)
    have h2 : w_n w * s_pop (e_in e ||| ((1 : Int32) <<< (nI to &&& 31))) ≤ w_n w * s_pop (e_in e) + w_n w := by
      rw [← Nat.mul_succ]
      exact Nat.mul_le_mul_left _ h1
    show ((w_e w + w_n w * s_pop (e_in e ||| ((1 : Int32) <<< (nI to &&& 31))) + w_a w * (s_setL (e_asks e)).length : Nat) : Int) ≤ ((w_e w + w_n w * s_pop (e_in e) + w_a w * (s_setL (e_asks e)).length : Nat) : Int) + w_n w
    omega
  · rw [if_neg c, if_neg c]
    have h1 := s_setL_or1 (x := e_asks e) (k := to - 100) (by omega)
    have h2 : w_a w * (s_setL (e_asks e ||| ((1 : Int64) <<< ((nI (to - 100)).toInt64 &&& 63)))).length ≤ w_a w * (s_setL (e_asks e)).length + w_a w := by
      rw [← Nat.mul_succ]
      exact Nat.mul_le_mul_left _ h1
    show ((w_e w + w_n w * s_pop (e_in e) + w_a w * (s_setL (e_asks e ||| ((1 : Int64) <<< ((nI (to - 100)).toInt64 &&& 63)))).length : Nat) : Int) ≤ ((w_e w + w_n w * s_pop (e_in e) + w_a w * (s_setL (e_asks e)).length : Nat) : Int) + w_a w
    omega
/-- what an interest asks of the potential -/
def s_zi (w : s_Wt) (t : Nat) : Int := if t < 100 then w_e w + w_n w else w_e w + w_a w
theorem s_zr_zi (hw : w_ok w) : s_zr w t ≤ s_zi w t := by
  obtain ⟨a1, a2, a3, a4, a5, a6⟩ := hw
  unfold s_zr s_zi
  split <;> omega
theorem s_zj_zi : s_zj w t + w_e w = s_zi w t := by
  unfold s_zj s_zi
  split <;> omega
theorem s_cc.make {n to k : Nat} {name wish : Int32} (hc : s_cc w N K Q x G) (hw : w_ok w) (hN : n_ok N) (hlk : s_lkok N lk) (hn : n < 6) (hto : to < 6 ∨ 100 ≤ to ∧ to < 164) : s_cc w N K Q (x - s_zi w to) (s_make N lk n to name wish (nI k) G) := by
  have hz := s_zr_zi (t := to) hw
  unfold s_make
  cases hs : s_way N lk n (s_join to (nI k) (s_new N name wish (nI k) G)) G with
  | none => exact hc.nack.weak (by omega)
  | some v =>
    obtain ⟨t1, t2, t3, t4⟩ := s_way_some hs hN hlk hn
    have htg : s_tgN N n v = true := s_next_tgt hs
    have q1 := s_epot_join (w := w) (nonce := nI k) (e := s_new N name wish (nI k) G) hto
    have q2 : e_tried (s_join to (nI k) (s_new N name wish (nI k) G)) = 0 := by
      unfold s_join
      split <;> rfl
    have q3 : s_epot w (s_new N name wish (nI k) G) = w_e w := by
      show w_e w + w_n w * s_pop 0 + w_a w * (s_setL 0).length = w_e w
      rw [s_pop_0, s_setL_0]
      show w_e w + w_n w * 0 + w_a w * 0 = w_e w
      omega
    have q4 := s_zj_zi (w := w) (t := to)
    have h1 : s_cc w N K Q (x - s_zi w to + w_i w) (g_ses G n (g_es G n ++ [s_gone v (g_minute G) (s_join to (nI k) (s_new N name wish (nI k) G))])) := by
      refine hc.node (nd := (g_es G n ++ [s_gone v (g_minute G) (s_join to (nI k) (s_new N name wish (nI k) G))], (g_nd G n).2)) hn (fun e' he' t ht hb => ?_) ?_
      · rcases List.mem_append.mp he' with q | q
        · exact hc.1 n hn e' q t ht hb
        · rw [List.mem_singleton.mp q] at hb
          have hb' : s_bit (e_tried (s_join to (nI k) (s_new N name wish (nI k) G)) ||| ((1 : Int32) <<< (nI v &&& 31))) (nI t) = true := hb
          rcases s_bit_or1 ht t1 hb' with q | q
          · rw [q2, s_bit_0 (by omega)] at q; cases q
          · rw [q]; exact htg
      · have e2 : s_trd (g_es G n ++ [s_gone v (g_minute G) (s_join to (nI k) (s_new N name wish (nI k) G))]) = s_trd (g_es G n) + 1 := by
          rw [s_trd_app]
          have : s_pop (e_tried (s_gone v (g_minute G) (s_join to (nI k) (s_new N name wish (nI k) G)))) = 1 := by
            show s_pop (e_tried (s_join to (nI k) (s_new N name wish (nI k) G)) ||| _) = 1
            rw [s_pop_or _ t1 t3, q2, s_pop_0]
          show s_trd (g_es G n) + (s_pop (e_tried (s_gone v (g_minute G) (s_join to (nI k) (s_new N name wish (nI k) G)))) + 0) = _
          rw [this]
        have e1 : s_ept w (g_es G n ++ [s_gone v (g_minute G) (s_join to (nI k) (s_new N name wish (nI k) G))]) = s_ept w (g_es G n) + s_epot w (s_join to (nI k) (s_new N name wish (nI k) G)) := by
          rw [s_ept_app]
          rfl
        have e3 : s_ph w N K n (g_es G n ++ [s_gone v (g_minute G) (s_join to (nI k) (s_new N name wish (nI k) G))], (g_nd G n).2) = s_ph w N K n (g_nd G n) + w_i w := by
          show w_i w * (s_TN N n * s_dc K (g_dead G n) + s_trd (g_es G n ++ [_])) = w_i w * (s_TN N n * s_dc K (g_dead G n) + s_trd (g_es G n)) + w_i w
          rw [e2, ← Nat.mul_succ]
          congr 1
        rw [e3]
        show x - s_zi w to + w_i w + ((s_ept w (g_es G n ++ [_]) + _ : Nat) : Int) ≤ _
        rw [e1]
        omega
    exact h1.send0
theorem s_cc.sds {n : Nat} {ds : List s_D} (hc : s_cc w N K Q x G) (hn : n < 6) : s_cc w N K Q x (g_sds G n ds) :=
  hc.node (nd := ((g_nd G n).1, ds, (g_nd G n).2.2)) hn (hc.1 n hn) (Int.le_refl _)
theorem s_cc.interest {n to k : Nat} {name wish : Int32} (hc : s_cc w N K Q x G) (hw : w_ok w) (hN : n_ok N) (hlk : s_lkok N lk) (hn : n < 6) (hto : to < 6 ∨ 100 ≤ to ∧ to < 164) : s_cc w N K Q (x - s_zi w to) (s_interest N lk n to name wish (nI k) G) := by
  have hz := s_zr_zi (t := to) hw
  rw [s_interest_el]
  by_cases c : s_hasL (g_dead G n) (nI k) = true ∨ s_entryHas (g_es G n) (s_ei name wish (g_es G n)) (nI k) = true
  · rw [if_pos c]
    exact ((hc.congr (G' := g_sloops G (g_loops G + 1)) rfl rfl).nack).weak (by omega)
  · rw [if_neg c]
    cases hf : s_fresh (g_ds G n) (s_at name (g_ds G n)) wish (g_minute G) with
    | some d =>
      show s_cc _ _ _ _ _ (s_fromStore _ _ _ _ _ _ _)
      unfold s_fromStore
      exact (((hc.sds (ds := s_put (n_room N n) (name, d.2.1, d.2.2) (g_ds G n)) hn).congr (G' := g_shits (g_sds G n (s_put (n_room N n) (name, d.2.1, d.2.2) (g_ds G n))) (g_hits G + 1)) rfl rfl).data).weak (by omega)
    | none =>
      show s_cc _ _ _ _ _ (s_el _ _ _)
      cases hsv : s_serve N n (v_ name) with
      | some j =>
        show s_cc _ _ _ _ _ (s_fromServer _ _ _ _ _ _ _)
        exact hc.data.weak (by omega)
      | none =>
        show s_cc _ _ _ _ _ (s_el _ _ _)
        cases hei : s_ei name wish (g_es G n) with
        | none => exact hc.make hw hN hlk hn hto
        | some i =>
          show s_cc _ _ _ _ _ (s_joined n to name wish (nI k) i G)
          unfold s_joined
          have hz0 : 0 ≤ s_zr w to := by unfold s_zr; split <;> omega
          cases he : (g_es G n)[i]? with
          | none => exact hc.weak (by omega)
          | some e =>
            have q1 := s_epot_join (w := w) (nonce := nI k) (e := e) hto
            have q4 := s_zj_zi (w := w) (t := to)
            have q2 : e_tried (s_join to (nI k) e) = e_tried e := by
              unfold s_join
              split <;> rfl
            have s1 : s_ept w ((g_es G n).set i (s_join to (nI k) e)) + s_epot w e = s_ept w (g_es G n) + s_epot w (s_join to (nI k) e) := sum_set (f := s_epot w) he
            have s2 : s_trd ((g_es G n).set i (s_join to (nI k) e)) + s_pop (e_tried e) = s_trd (g_es G n) + s_pop (e_tried (s_join to (nI k) e)) := sum_set (f := fun e => s_pop (e_tried e)) he
            rw [q2] at s2
            have h1 : s_cc w N K Q (x - s_zi w to) (g_ses G n ((g_es G n).set i (s_join to (nI k) e))) := by
              refine hc.node (nd := ((g_es G n).set i (s_join to (nI k) e), (g_nd G n).2)) hn (fun e' he' t ht hb => ?_) ?_
              · rcases List.mem_or_eq_of_mem_set he' with q | q
                · exact hc.1 n hn e' q t ht hb
                · rw [q, q2] at hb
                  exact hc.1 n hn e (List.mem_of_getElem? he) t ht hb
              · have e3 : s_ph w N K n ((g_es G n).set i (s_join to (nI k) e), (g_nd G n).2) = s_ph w N K n (g_nd G n) := by
                  show w_i w * (s_TN N n * s_dc K (g_dead G n) + s_trd ((g_es G n).set i (s_join to (nI k) e))) = w_i w * (s_TN N n * s_dc K (g_dead G n) + s_trd (g_es G n))
                  congr 2
                  omega
                rw [e3]
                show x - s_zi w to + ((s_ept w ((g_es G n).set i (s_join to (nI k) e)) + _ : Nat) : Int) ≤ _
                omega
            exact h1.congr rfl rfl
end C2
