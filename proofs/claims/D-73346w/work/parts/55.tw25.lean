/-! THE TWIN's LAW, 25: what holds of a run stays: interests, negative answers -/
set_option maxRecDepth 100000
set_option linter.unusedVariables false
section T55
variable {N : s_R} {lk : Nat → Option Nat} {G G' : s_G} {K : Nat} {W : s_W} {t tm : Nat} {Q : List s_M} {P : Nat} {z y z' y' : Int}
theorem n_life_b (hN : n_ok N) : N 1 = nI (n_life N) ∧ 1 ≤ n_life N ∧ n_life N ≤ 99 := ⟨hN.2.1.1.1, hN.2.1.2, hN.2.1.1.2⟩
theorem nodup_set {e' : s_E} {n i : Nat} {e : s_E} {es : List s_E} (h : (es.map (fun e => (e.1, e.2.1))).Nodup) (he : es[i]? = some e) (hp : (e'.1, e'.2.1) = (e.1, e.2.1)) : ((es.set i e').map (fun e => (e.1, e.2.1))).Nodup := by
  obtain ⟨hi, he'⟩ := List.getElem?_eq_some_iff.mp he
  rw [List.map_set, hp, ← he']
  have e1 : (es.map (fun e => (e.1, e.2.1))).set i (es[i].1, es[i].2.1) = es.map (fun e => (e.1, e.2.1)) := by
    apply List.ext_getElem
    · simp
    · intro j h1 h2
      rw [List.getElem_set]
      split
      · rename_i q; subst q; rw [List.getElem_map]
      · rfl
  rw [e1]
  exact h
/-- an entry is put in another's place -/
theorem s_inv.set {n i : Nat} {e e' : s_E} (h : s_inv N K W t tm Q P z y G) (hn : n < 6) (he : (g_es G n)[i]? = some e) (hp : (e'.1, e'.2.1) = (e.1, e.2.1)) (hok : s_eok N K W t n (g_dead G n) e') (hz : z' + (s_pop (e_in e') : Nat) ≤ z + (s_pop (e_in e) : Nat)) (hy : y' + (s_pop (e_tried e) : Nat) ≤ y + (s_pop (e_tried e') : Nat)) : s_inv N K W t tm Q P z' y' (g_ses G n ((g_es G n).set i e')) := by
  obtain ⟨⟨hm, hnd, hQ, hW⟩, hc⟩ := h
  obtain ⟨o1, o2, o3, o4, o5⟩ := hnd n hn
  constructor
  · refine ⟨hm, fun m hm2 => ?_, hQ, hW⟩
    unfold g_ses
    rw [g_nd_snd]
    by_cases q : m = n
    · subst q
      rw [s_up1_s]
      refine ⟨fun e2 he2 => ?_, nodup_set (n := m) o2 he hp, o3, o4, o5⟩
      rcases List.mem_or_eq_of_mem_set he2 with q | q
      · exact o1 e2 q
      · rw [q]; exact hok
    · rw [s_up1_n q]
      exact hnd m hm2
  · have s1 := sum_set (f := fun e => s_pop (e_in e)) (e' := e') he
    have s2 := sum_set (f := fun e => s_pop (e_tried e)) (e' := e') he
    refine hc.node (nd := ((g_es G n).set i e', (g_nd G n).2)) hn ?_ ?_
    · show _ + ((((g_es G n).set i e').map _).sum : Nat) ≤ z + (((g_es G n).map _).sum : Nat)
      omega
    · show y' + ((5 * s_dc K (g_dead G n) + ((g_es G n).map _).sum : Nat) : Int) ≤ y + ((5 * s_dc K (g_dead G n) + (((g_es G n).set i e').map _).sum : Nat) : Int)
      omega
theorem s_eok.gone {n to : Nat} {dead : Int64} {e : s_E} {x : Int32} (h : s_eok N K W t n dead e) (hto : to < 6) (hn : n < 6) (hne : to ≠ n) : s_eok N K W t n dead (s_gone to x e) := by
  obtain ⟨h1, h2, ⟨o, o1, o2, o3⟩, h4, h5, h6, h7, h8⟩ := h
  refine ⟨h1, h2, ⟨to, hto, rfl, o3⟩, h4, h5, ?_, h7, h8⟩
  show s_bit (e_tried e ||| _) (nI n) = false
  rw [s_bit_or _ _ (by omega), h6, s_bit_1 (by omega) (by omega)]
  simp
  omega
theorem s_way_some {n to : Nat} {e : s_E} (h : s_way N lk n e G = some to) (hN : n_ok N) (hlk : s_lkok N lk) (hn : n < 6) : to < 6 ∧ to ≠ n ∧ s_bit (e_tried e) (nI to) = false ∧ n < n_nodes N := by
  obtain ⟨h1, h2, h3⟩ := s_next_some h hN
  obtain ⟨u1, u2, u3, -⟩ := s_up_ok hN hlk hn h1 h2
  refine ⟨h1, fun q => u3 q.symm, ?_, u1⟩
  have hb : s_bit (e_in e ||| e_tried e) (nI to) = false := decide_eq_false h3
  rw [s_bit_or _ _ (by omega)] at hb
  cases q : s_bit (e_tried e) (nI to) with
  | false => rfl
  | true => rw [q, Bool.or_true] at hb; cases hb
theorem s_inv.go {n i : Nat} {e : s_E} {r : s_Q} (h : s_inv N K W t tm Q P z y G) (hN : n_ok N) (hlk : s_lkok N lk) (hn : n < 6) (he : (g_es G n)[i]? = some e) : s_inv N K W t tm Q P z y (s_go N lk n i e r G).2 := by
  have hE := (h.1.2.1 n hn).1 e (List.mem_of_getElem? he)
  unfold s_go
  cases hs : s_way N lk n e G with
  | none => exact h
  | some to =>
    obtain ⟨t1, t2, t3, t4⟩ := s_way_some hs hN hlk hn
    have h1 : s_inv N K W t tm Q P z (y + 1) (g_ses G n ((g_es G n).set i (s_gone to (g_minute G) e))) := by
      refine h.set (e' := s_gone to (g_minute G) e) hn he rfl (hE.gone t1 hn t2) ?_ ?_
      · exact Int.le_refl _
      · show y + 1 + ((s_pop (e_tried e) : Nat) : Int) ≤ y + ((s_pop (e_tried e ||| _) : Nat) : Int)
        rw [s_pop_or _ t1 t3]
        omega
    obtain ⟨k, k1, k2, k3, k4, k5⟩ := hE.1
    exact ⟨h1.1.send hN hlk hn t1 (Or.inl rfl) hE.2.2.2.2.2.2.1 hE.2.2.2.2.2.2.2 (fun _ => ⟨k, k1, k2, k3⟩), h1.2.send0⟩
theorem s_eok.join {n to k : Nat} {dead : Int64} {e : s_E} (h : s_eok N K W t n dead e) (hK : K ≤ 64) (hto : to < 6 ∨ to = 100 + k) (hk : k < K) (hW : W k = (e_name e, e_wish e)) : s_eok N K W t n dead (s_join to (nI k) e) := by
  obtain ⟨⟨k0, k1, k2, k3, k4, k5⟩, h2, h3, h4, h5, h6, h7, h8⟩ := h
  unfold s_join
  by_cases c : to < 100
  · rw [if_pos c]
    refine ⟨⟨k0, k1, k2, k3, ?_, k5⟩, h2, h3, fun j hj hx => ?_, h5, h6, h7, h8⟩
    · show s_hasL (e_nonces e ||| _) _ = true
      rw [s_hasL_or _ _ (by omega), k4]; rfl
    · have hx' : s_hasL (e_nonces e ||| ((1 : Int64) <<< ((nI k).toInt64 &&& 63))) (nI j) = true := hx
      rw [s_hasL_or _ _ hj, s_hasL_1 (by omega) hj] at hx'
      by_cases q : j = k
      · subst q; exact ⟨hk, hW⟩
      · simp [q] at hx'
        exact h4 j hj hx'
  · rw [if_neg c]
    refine ⟨⟨k0, k1, k2, k3, ?_, k5⟩, h2, h3, fun j hj hx => ?_, fun j hj hx => ?_, h6, h7, h8⟩
    · show s_hasL (e_nonces e ||| _) _ = true
      rw [s_hasL_or _ _ (by omega), k4]; rfl
    · have hx' : s_hasL (e_nonces e ||| ((1 : Int64) <<< ((nI k).toInt64 &&& 63))) (nI j) = true := hx
      rw [s_hasL_or _ _ hj, s_hasL_1 (by omega) hj] at hx'
      by_cases q : j = k
      · subst q; exact ⟨hk, hW⟩
      · simp [q] at hx'
        exact h4 j hj hx'
    · have hx' : s_hasL (e_asks e ||| ((1 : Int64) <<< ((nI (to - 100)).toInt64 &&& 63))) (nI j) = true := hx
      have e9 : to - 100 = k := by omega
      rw [e9, s_hasL_or _ _ hj, s_hasL_1 (by omega) hj] at hx'
      by_cases q : j = k
      · subst q; exact hk
      · simp [q] at hx'
        exact h5 j hj hx'
theorem s_join_pops {to : Nat} {nonce : Int32} {e : s_E} (hto : s_to to) : ((s_pop (e_in (s_join to nonce e)) : Nat) : Int) ≤ (s_pop (e_in e) : Nat) + s_z to ∧ e_tried (s_join to nonce e) = e_tried e := by
  unfold s_join s_z
  by_cases c : to < 100
  · rw [if_pos c, if_pos c]
    refine ⟨?_, rfl⟩
    have := s_pop_or_le (e_in e) (t := to) (by unfold s_to at hto; omega)
    show ((s_pop (e_in e ||| _) : Nat) : Int) ≤ _
    omega
  · rw [if_neg c, if_neg c]
    refine ⟨?_, rfl⟩
    show ((s_pop (e_in e) : Nat) : Int) ≤ _
    omega
theorem s_ei_pair {name wish : Int32} {es : List s_E} {i : Nat} {e : s_E} (h : s_ei name wish es = some i) (he : es[i]? = some e) : e.1 = name ∧ e.2.1 = wish := by
  have hp := (s_find_some h).2.2.1
  rw [List.getElem?_map, he] at hp
  have : (e.1, e.2.1) = (name, wish) := by simpa using hp
  exact ⟨congrArg Prod.fst this, congrArg Prod.snd this⟩
theorem s_ei_none {name wish : Int32} {es : List s_E} (h : s_ei name wish es = none) : ∀ e ∈ es, (e.1, e.2.1) ≠ (name, wish) := by
  intro e he c
  obtain ⟨i, hi, q⟩ := List.getElem_of_mem he
  have := s_find_none h i (by omega) (by omega)
  rw [List.getElem?_map, List.getElem?_eq_getElem hi, q] at this
  simp [c] at this
theorem s_inv.make {n to k : Nat} {name wish : Int32} (h : s_inv N K W t tm Q P z y G) (hN : n_ok N) (hlk : s_lkok N lk) (hK : K ≤ 64) (hn : n < 6) (hto : to < 6 ∨ to = 100 + k) (hk : k < K) (hW : W k = (name, wish)) (hnm : s_wn name) (hw : wish = 0 ∨ wish = 1) (hd : s_hasL (g_dead G n) (nI k) = false) (hei : s_ei name wish (g_es G n) = none) : s_inv N K W t tm Q P (z - s_z to) y (s_make N lk n to name wish (nI k) G) := by
  have hto' : s_to to := by unfold s_to; omega
  unfold s_make
  cases hs : s_way N lk n (s_join to (nI k) (s_new N name wish (nI k) G)) G with
  | none => exact h.nack hN hlk hn hto' hnm hw
  | some w =>
    obtain ⟨t1, t2, t3, t4⟩ := s_way_some hs hN hlk hn
    obtain ⟨l1, l2, l3⟩ := n_life_b hN
    obtain ⟨⟨⟨m1, m2, m3⟩, hnd, hQ, hWy⟩, hc⟩ := h
    obtain ⟨o1, o2, o3, o4, o5⟩ := hnd n hn
    obtain ⟨q1, q2⟩ := s_join_pops (nonce := nI k) (e := s_new N name wish (nI k) G) hto'
    -- the new entry
    have hE : s_eok N K W t n (g_dead G n) (s_gone w (g_minute G) (s_join to (nI k) (s_new N name wish (nI k) G))) := by
      have a1 : ∀ j, j < 64 → s_hasL ((0 : Int64) ||| ((1 : Int64) <<< ((nI k).toInt64 &&& 63))) (nI j) = true → j = k := by
        intro j hj hx
        rw [s_hasL_or _ _ hj, s_hasL_0 hj, s_hasL_1 (by omega) hj] at hx
        simpa using hx
      have a2 : s_hasL ((0 : Int64) ||| ((1 : Int64) <<< ((nI k).toInt64 &&& 63))) (nI k) = true := by
        rw [s_hasL_or _ _ (by omega), s_hasL_1 (by omega) (by omega)]; simp
      have a3 : s_bit ((0 : Int32) ||| ((1 : Int32) <<< (nI w &&& 31))) (nI n) = false := by
        rw [s_bit_or _ _ (by omega), s_bit_0 (by omega), s_bit_1 (by omega) (by omega)]
        simp
        omega
      have a4 : g_minute G + N 1 = nI (tm + n_life N) := by rw [m1, l1]; exact nI_add _ _
      unfold s_join
      by_cases c : to < 100
      · rw [if_pos c]
        exact ⟨⟨k, hk, rfl, hW, a2, hd⟩, ⟨tm + n_life N, a4, by omega, by omega⟩, ⟨w, t1, rfl, t4⟩, fun j hj hx => by rw [a1 j hj hx]; exact ⟨hk, hW⟩, fun j hj hx => absurd (show s_hasL 0 (nI j) = true from hx) (by rw [s_hasL_0 hj]; decide), a3, hnm, hw⟩
      · rw [if_neg c]
        have e9 : to - 100 = k := by omega
        exact ⟨⟨k, hk, rfl, hW, a2, hd⟩, ⟨tm + n_life N, a4, by omega, by omega⟩, ⟨w, t1, rfl, t4⟩, fun j hj hx => by rw [a1 j hj hx]; exact ⟨hk, hW⟩, fun j hj hx => by
          have hx' : s_hasL ((0 : Int64) ||| ((1 : Int64) <<< ((nI (to - 100)).toInt64 &&& 63))) (nI j) = true := hx
          rw [e9] at hx'
          rw [a1 j hj hx']; exact hk, a3, hnm, hw⟩
    have hpair : ((s_gone w (g_minute G) (s_join to (nI k) (s_new N name wish (nI k) G))).1, (s_gone w (g_minute G) (s_join to (nI k) (s_new N name wish (nI k) G))).2.1) = (name, wish) := by
      unfold s_join
      split <;> rfl
    have h1 : s_inv N K W t tm Q P (z - s_z to) (y + 1) (g_ses G n (g_es G n ++ [s_gone w (g_minute G) (s_join to (nI k) (s_new N name wish (nI k) G))])) := by
      constructor
      · refine ⟨⟨m1, m2, m3⟩, fun m hm2 => ?_, hQ, hWy⟩
        unfold g_ses
        rw [g_nd_snd]
        by_cases q : m = n
        · subst q
          rw [s_up1_s]
          refine ⟨fun e2 he2 => ?_, ?_, o3, o4, o5⟩
          · rcases List.mem_append.mp he2 with q | q
            · exact o1 e2 q
            · rw [List.mem_singleton.mp q]; exact hE
          · show ((g_es G m ++ [_]).map _).Nodup
            rw [List.map_append, List.nodup_append]
            refine ⟨o2, by simp, fun x hx v hv c => ?_⟩
            obtain ⟨e2, r1, r2⟩ := List.mem_map.mp hx
            have hv' : v = (name, wish) := by
              have := List.mem_singleton.mp hv
              exact this.trans hpair
            exact s_ei_none hei e2 r1 (r2.trans (c.trans hv'))
        · rw [s_up1_n q]
          exact hnd m hm2
      · have b1 : ((g_es G n ++ [s_gone w (g_minute G) (s_join to (nI k) (s_new N name wish (nI k) G))]).map (fun e => s_pop (e_in e))).sum = ((g_es G n).map (fun e => s_pop (e_in e))).sum + s_pop (e_in (s_join to (nI k) (s_new N name wish (nI k) G))) := by
          rw [List.map_append, List.sum_append]
          rfl
        have b2 : ((g_es G n ++ [s_gone w (g_minute G) (s_join to (nI k) (s_new N name wish (nI k) G))]).map (fun e => s_pop (e_tried e))).sum = ((g_es G n).map (fun e => s_pop (e_tried e))).sum + 1 := by
          rw [List.map_append, List.sum_append]
          have : s_pop (e_tried (s_gone w (g_minute G) (s_join to (nI k) (s_new N name wish (nI k) G)))) = 1 := by
            show s_pop (e_tried (s_join to (nI k) (s_new N name wish (nI k) G)) ||| _) = 1
            rw [s_pop_or _ t1 t3, q2]
            show s_pop 0 + 1 = 1
            rw [s_pop_0]
          show _ + (s_pop (e_tried (s_gone w (g_minute G) (s_join to (nI k) (s_new N name wish (nI k) G)))) + 0) = _
          rw [this]
        have b3 : s_pop (e_in (s_new N name wish (nI k) G)) = 0 := s_pop_0
        refine hc.node (nd := (g_es G n ++ [s_gone w (g_minute G) (s_join to (nI k) (s_new N name wish (nI k) G))], (g_nd G n).2)) hn ?_ ?_
        · show z - s_z to + (((g_es G n ++ [_]).map _).sum : Nat) ≤ z + (((g_es G n).map _).sum : Nat)
          rw [b1]
          omega
        · show y + 1 + ((5 * s_dc K (g_dead G n) + ((g_es G n).map _).sum : Nat) : Int) ≤ y + ((5 * s_dc K (g_dead G n) + ((g_es G n ++ [_]).map _).sum : Nat) : Int)
          rw [b2]
          omega
    exact ⟨h1.1.send hN hlk hn t1 (Or.inl rfl) hnm hw (fun _ => ⟨k, hk, rfl, hW⟩), h1.2.send0⟩
theorem s_inv.interest {n to k : Nat} {name wish : Int32} (h : s_inv N K W t tm Q P z y G) (hN : n_ok N) (hlk : s_lkok N lk) (hK : K ≤ 64) (hn : n < 6) (hto : to < 6 ∨ to = 100 + k) (hk : k < K) (hW : W k = (name, wish)) (hnm : s_wn name) (hw : wish = 0 ∨ wish = 1) : s_inv N K W t tm Q P (z - s_z to) y (s_interest N lk n to name wish (nI k) G) := by
  have hto' : s_to to := by unfold s_to; omega
  rw [s_interest_el]
  by_cases c : s_hasL (g_dead G n) (nI k) = true ∨ s_entryHas (g_es G n) (s_ei name wish (g_es G n)) (nI k) = true
  · rw [if_pos c]
    exact (h.congr (G' := g_sloops G (g_loops G + 1)) rfl rfl rfl).nack hN hlk hn hto' hnm hw
  · rw [if_neg c]
    have hd : s_hasL (g_dead G n) (nI k) = false := by
      cases q : s_hasL (g_dead G n) (nI k) with
      | false => rfl
      | true => exact absurd (Or.inl q) c
    cases hf : s_fresh (g_ds G n) (s_at name (g_ds G n)) wish (g_minute G) with
    | some d =>
      show s_inv _ _ _ _ _ _ _ _ _ (s_fromStore _ _ _ _ _ _ _)
      unfold s_fromStore
      have h1 := (h.sds (d := (name, d.2.1, d.2.2)) hn hnm).congr (G' := g_shits (g_sds G n (s_put (n_room N n) (name, d.2.1, d.2.2) (g_ds G n))) (g_hits G + 1)) rfl rfl rfl
      exact h1.data hN hlk hn hto' hnm
    | none =>
      show s_inv _ _ _ _ _ _ _ _ _ (s_el _ _ _)
      cases hsv : s_serve N n (v_ name) with
      | some j =>
        show s_inv _ _ _ _ _ _ _ _ _ (s_fromServer _ _ _ _ _ _ _)
        exact h.data hN hlk hn hto' hnm
      | none =>
        show s_inv _ _ _ _ _ _ _ _ _ (s_el _ _ _)
        cases hei : s_ei name wish (g_es G n) with
        | none => exact h.make hN hlk hK hn hto hk hW hnm hw hd hei
        | some i =>
          show s_inv _ _ _ _ _ _ _ _ _ (s_joined n to name wish (nI k) i G)
          unfold s_joined
          cases he : (g_es G n)[i]? with
          | none => exact h.weak (by unfold s_z; split <;> omega) (by omega)
          | some e =>
            have hE := (h.1.2.1 n hn).1 e (List.mem_of_getElem? he)
            obtain ⟨p1, p2⟩ := s_ei_pair hei he
            have hW' : W k = (e_name e, e_wish e) := by rw [hW]; exact (Prod.ext p1 p2).symm
            obtain ⟨q1, q2⟩ := s_join_pops (nonce := nI k) (e := e) hto'
            have hpair : ((s_join to (nI k) e).1, (s_join to (nI k) e).2.1) = (e.1, e.2.1) := by
              unfold s_join
              split <;> rfl
            have h1 := h.set (z' := z - s_z to) (y' := y) (e' := s_join to (nI k) e) hn he hpair (hE.join hK hto hk hW') (by omega) (by rw [q2]; omega)
            exact h1.congr rfl rfl rfl
theorem s_inv.nackComes {n fr : Nat} {name wish : Int32} {r : s_Q} (h : s_inv N K W t tm Q P z y G) (hN : n_ok N) (hlk : s_lkok N lk) (hK : K ≤ 64) (hn : n < 6) (hnm : s_wn name) (hw : wish = 0 ∨ wish = 1) : s_inv N K W t tm Q P z y (s_nackComes N lk n fr name wish r G) := by
  unfold s_nackComes
  cases hei : s_ei name wish (g_es G n) with
  | none => exact h
  | some i =>
    show s_inv _ _ _ _ _ _ _ _ _ (match (g_es G n)[i]? with
      | none => G
      | some e => _)
    cases he : (g_es G n)[i]? with
    | none => exact h
    | some e =>
      show s_inv _ _ _ _ _ _ _ _ _ (if e_out e = nI fr then _ else G)
      split
      · split
        · exact h.go hN hlk hn he
        · exact h.nackOut hN hlk hK hn he hnm hw
      · exact h
theorem s_inv.comes {m : s_M} (h : s_inv N K W t tm (m :: Q) P z y G) (hN : n_ok N) (hlk : s_lkok N lk) (hK : K ≤ 64) : s_inv N K W t tm Q P z y (s_comes N lk m G) := by
  have hnn : n_nodes N ≤ 6 := hN.1.1.2
  obtain ⟨⟨hm, hnd, hQ, hWy⟩, I, R, h1, h2, h3⟩ := h
  obtain ⟨⟨a, b, a1, a2, a3, a4, a5⟩, hnm, hkd, h0, hw⟩ := hQ m (by simp)
  have h0' : s_inv0 N K W t tm Q G := ⟨hm, hnd, fun m' hm' => hQ m' (List.mem_cons_of_mem _ hm'), hWy⟩
  have va : v_ m.1.2.1 = a := by rw [a1]; exact v_nI (by omega)
  have vb : v_ m.1.2.2.1 = b := by rw [a2]; exact v_nI (by omega)
  unfold s_comes
  rw [va, vb]
  by_cases c : m.1.1 = 0
  · rw [if_pos c]
    obtain ⟨k, k1, k2, k3⟩ := h0 c
    have hc : s_cnt K Q P (z + 1) y G := by
      have e : s_ints (m :: Q) = s_ints Q + 1 := by
        unfold s_ints
        simp [c]
      rw [e] at h2
      exact ⟨I, R, h1, by omega, h3⟩
    have H := s_inv.interest (to := a) ⟨h0', hc⟩ hN hlk hK (show b < 6 by omega) (Or.inl (by omega)) k1 k3 hnm hw
    rw [k2]
    exact H.weak (by unfold s_z; rw [if_pos (by omega)]; omega) (by omega)
  · rw [if_neg c]
    have hc : s_cnt K Q P z y G := by
      have e : s_ints (m :: Q) = s_ints Q := by
        unfold s_ints
        simp [c]
      rw [e] at h2
      exact ⟨I, R, h1, h2, h3⟩
    split
    · exact s_inv.dataCome ⟨h0', hc⟩ hN hlk hK (by omega) hnm
    · exact s_inv.nackComes ⟨h0', hc⟩ hN hlk hK (by omega) hnm hw
/-- how many entries and messages there can be -/
theorem s_inv.firsts {n : Nat} (h : s_inv N K W t tm Q P z y G) (hK : K ≤ 64) (hn : n < 6) : (g_es G n).length + s_dc K (g_dead G n) ≤ K := by
  obtain ⟨o1, o2, -, -, -⟩ := h.1.2.1 n hn
  have key := s_pigeon (fun k => s_hasL (g_dead G n) (nI k)) K ((g_es G n).map (fun e => v_ (e_first e))) ?_ ?_
  · rw [List.length_map] at key
    exact key
  · rw [List.nodup_iff_pairwise_ne, List.pairwise_map] at o2 ⊢
    refine List.Pairwise.imp_of_mem (fun {a b} ha hb hne => ?_) o2
    obtain ⟨ka, p1, p2, p3, -⟩ := (o1 a ha).1
    obtain ⟨kb, q1, q2, q3, -⟩ := (o1 b hb).1
    rw [p2, q2, v_nI (by omega), v_nI (by omega)]
    intro e
    rw [e] at p3
    exact hne (p3.symm.trans q3)
  · intro x hx
    obtain ⟨e, e1, e2⟩ := List.mem_map.mp hx
    obtain ⟨k, p1, p2, p3, p4, p5⟩ := (o1 e e1).1
    have e2' : v_ (e_first e) = x := e2
    rw [p2, v_nI (by omega)] at e2'
    subst e2'
    exact ⟨p1, p5⟩
theorem s_inv.phi {n : Nat} (h : s_inv N K W t tm Q P z y G) (hK : K ≤ 64) (hn : n < 6) : s_phi K G n ≤ 5 * K := by
  have hf := h.firsts hK hn
  obtain ⟨o1, -⟩ := h.1.2.1 n hn
  have hs : ∀ l : List s_E, (∀ e ∈ l, s_pop (e_tried e) ≤ 5) → (l.map (fun e => s_pop (e_tried e))).sum ≤ 5 * l.length := by
    intro l
    induction l with
    | nil => intro _; simp
    | cons a l ih =>
      intro hl
      have := ih (fun e he => hl e (by simp [he]))
      have := hl a (by simp)
      simp only [List.map_cons, List.sum_cons, List.length_cons]
      omega
  have := hs (g_es G n) (fun e he => s_pop_le5 _ hn (o1 e he).2.2.2.2.2.1)
  unfold s_phi
  omega
theorem s_inv.few (h : s_inv N K W t tm Q P 0 0 G) (hK : K ≤ 60) : (∀ n, n < 6 → (g_es G n).length ≤ K) ∧ P + (g_ways G).length ≤ 60 * K := by
  refine ⟨fun n hn => ?_, ?_⟩
  · have := h.firsts (by omega) hn
    omega
  · have p0 := h.phi (n := 0) (by omega) (by omega)
    have p1 := h.phi (n := 1) (by omega) (by omega)
    have p2 := h.phi (n := 2) (by omega) (by omega)
    have p3 := h.phi (n := 3) (by omega) (by omega)
    have p4 := h.phi (n := 4) (by omega) (by omega)
    have p5 := h.phi (n := 5) (by omega) (by omega)
    obtain ⟨-, I, R, h1, h2, h3⟩ := h
    unfold s_sum6 at h3
    omega
end T55
