/-! THE TWIN's LAW, 44: what came of asks -/
set_option maxRecDepth 100000
set_option maxHeartbeats 400000
/-- of each ask (A) what came of it is known, when it was, when it was asked -/
def s_cok (A : Nat → Bool) (tm : Nat) (c : Nat → Nat → Int32) (j : Nat) : Prop :=
  (A j = false → c 57 j = -1) ∧ (A j = true → ∃ a, a ≤ tm ∧ c 59 j = nI a ∧ (c 57 j = 0 ∨ (c 57 j = 1 ∨ c 57 j = 2 ∨ c 57 j = 3) ∧ ∃ b, a ≤ b ∧ b ≤ tm ∧ c 58 j = nI b))
def s_aok (A : Nat → Bool) (e : s_E) : Prop := ∀ j, j < 64 → s_hasL (e_asks e) (nI j) = true → A j = true
def s_cinv (A : Nat → Bool) (tm : Nat) (G : s_G) : Prop := g_minute G = nI tm ∧ (∀ n, n < 6 → ∀ e ∈ g_es G n, s_aok A e) ∧ ∀ j, j < 64 → s_cok A tm (g_came G) j
section T74
variable {N : s_R} {lk : Nat → Option Nat} {G G' : s_G} {A : Nat → Bool} {t tm : Nat}
theorem s_cinv.congr (h : s_cinv A tm G) (h1 : g_nd G' = g_nd G) (h2 : g_came G' = g_came G) (h3 : g_minute G' = g_minute G) : s_cinv A tm G' := by
  unfold s_cinv g_es at h ⊢
  rw [h1, h2, h3]
  exact h
theorem s_cinv.es (h : s_cinv A tm G) (h1 : ∀ n, n < 6 → ∀ e ∈ g_es G' n, s_aok A e) (h2 : g_came G' = g_came G) (h3 : g_minute G' = g_minute G) : s_cinv A tm G' := by
  refine ⟨h3.trans h.1, h1, fun j hj => ?_⟩
  rw [h2]
  exact h.2.2 j hj
/-- one ask's end -/
theorem s_cinv.came {k : Nat} {c : Nat → Nat → Int32} (h : s_cinv A tm G) (hA : A k = true) (h1 : c 57 k = 1 ∨ c 57 k = 2 ∨ c 57 k = 3) (h2 : c 58 k = g_minute G) (h3 : c 59 k = g_came G 59 k) (h4 : ∀ f j, j ≠ k → c f j = g_came G f j) : s_cinv A tm (g_scame G c) := by
  refine ⟨h.1, h.2.1, fun j hj => ?_⟩
  show s_cok A tm c j
  by_cases e : j = k
  · subst e
    refine ⟨fun q => (by rw [hA] at q; cases q), fun _ => ?_⟩
    obtain ⟨a, a1, a2, -⟩ := (h.2.2 j hj).2 hA
    exact ⟨a, a1, h3.trans a2, Or.inr ⟨h1, tm, a1, Nat.le_refl _, h2.trans h.1⟩⟩
  · have := h.2.2 j hj
    unfold s_cok at this ⊢
    rw [h4 57 j e, h4 58 j e, h4 59 j e]
    exact this
theorem s_cinv.get {k : Nat} {r : s_Q} (h : s_cinv A tm G) (hA : A k = true) : s_cinv A tm (s_get r k G) := by
  refine h.came hA (Or.inl ?_) ?_ ?_ (fun f j hj => ?_)
  · simp
  · simp
  · simp
  · simp [hj]
theorem s_cinv.refuse {k : Nat} {r : s_Q} (h : s_cinv A tm G) (hA : A k = true) : s_cinv A tm (s_refuse r k G) := by
  refine h.came hA (Or.inr (Or.inl ?_)) ?_ ?_ (fun f j hj => ?_)
  · simp
  · simp
  · simp
  · simp [hj]
theorem s_cinv.late {k : Nat} (h : s_cinv A tm G) (hA : A k = true) : s_cinv A tm (s_late k G) := by
  refine h.came hA (Or.inr (Or.inr ?_)) ?_ ?_ (fun f j hj => ?_)
  · simp
  · simp
  · simp
  · simp [hj]
theorem s_cinv.send {kind name wish nonce : Int32} {n to : Nat} {r : s_Q} (h : s_cinv A tm G) : s_cinv A tm (s_send N lk kind n to name wish nonce r G) := by
  unfold s_send
  split <;> exact h.congr rfl rfl rfl
theorem s_cinv.data {name : Int32} {n t : Nat} {r : s_Q} (h : s_cinv A tm G) (hA : 100 ≤ t → A (t - 100) = true) : s_cinv A tm (s_data N lk n t name r G) := by
  unfold s_data
  split
  · exact h.send
  · exact h.get (hA (by omega))
theorem s_cinv.nack {name wish : Int32} {n t : Nat} {r : s_Q} (h : s_cinv A tm G) (hA : 100 ≤ t → A (t - 100) = true) : s_cinv A tm (s_nack N lk n t name wish r G) := by
  unfold s_nack
  split
  · exact h.send
  · exact h.refuse (hA (by omega))
theorem s_cinv.fold {st : Nat → s_G → s_G} {n : Nat} (h : s_cinv A tm G) (hst : ∀ k g, k < n → s_cinv A tm g → s_cinv A tm (st k g)) : s_cinv A tm (s_fold st 0 n G) :=
  s_foldP (fun _ g => s_cinv A tm g) st n (fun g k hg hk => hst k g hk hg) n 0 G h (by omega)
theorem s_cinv.dataAll {set name : Int32} {n : Nat} {r : s_Q} (h : s_cinv A tm G) (hN : n_ok N) : s_cinv A tm (s_dataAll N lk n set name r G) := by
  have hnn : n_nodes N ≤ 6 := hN.1.1.2
  refine h.fold (fun k g hk hg => ?_)
  show s_cinv A tm (if s_bit set (nI k) = true then s_data N lk n k name r g else g)
  split
  · exact hg.data (fun q => by omega)
  · exact hg
theorem s_cinv.nackAll {set name wish : Int32} {n : Nat} {r : s_Q} (h : s_cinv A tm G) (hN : n_ok N) : s_cinv A tm (s_nackAll N lk n set name wish r G) := by
  have hnn : n_nodes N ≤ 6 := hN.1.1.2
  refine h.fold (fun k g hk hg => ?_)
  show s_cinv A tm (if s_bit set (nI k) = true then s_nack N lk n k name wish r g else g)
  split
  · exact hg.nack (fun q => by omega)
  · exact hg
theorem s_cinv.getAll {e : s_E} {r : s_Q} (h : s_cinv A tm G) (he : s_aok A e) : s_cinv A tm (s_getAll (e_asks e) r G) := by
  refine h.fold (fun k g hk hg => ?_)
  show s_cinv A tm (if s_hasL (e_asks e) (nI k) = true then s_get r k g else g)
  split
  · rename_i c; exact hg.get (he k hk c)
  · exact hg
theorem s_cinv.refuseAll {e : s_E} {r : s_Q} (h : s_cinv A tm G) (he : s_aok A e) : s_cinv A tm (s_refuseAll (e_asks e) r G) := by
  refine h.fold (fun k g hk hg => ?_)
  show s_cinv A tm (if s_hasL (e_asks e) (nI k) = true then s_refuse r k g else g)
  split
  · rename_i c; exact hg.refuse (he k hk c)
  · exact hg
theorem s_cinv.lateAll {e : s_E} (h : s_cinv A tm G) (he : s_aok A e) : s_cinv A tm (s_lateAll (e_asks e) G) := by
  refine h.fold (fun k g hk hg => ?_)
  show s_cinv A tm (if s_hasL (e_asks e) (nI k) = true then s_late k g else g)
  split
  · rename_i c; exact hg.late (he k hk c)
  · exact hg
theorem s_up1_es {n m : Nat} {nd : s_N} {e : s_E} (h : e ∈ g_es (g_snd G (s_up1 (g_nd G) n nd)) m) : e ∈ nd.1 ∧ m = n ∨ e ∈ g_es G m := by
  unfold g_es at h ⊢
  rw [g_nd_snd] at h
  by_cases q : m = n
  · subst q
    rw [s_up1_s] at h
    exact Or.inl ⟨h, rfl⟩
  · rw [s_up1_n q] at h
    exact Or.inr h
theorem s_cinv.node {n : Nat} {nd : s_N} (h : s_cinv A tm G) (hn : ∀ e ∈ nd.1, s_aok A e) : s_cinv A tm (g_snd G (s_up1 (g_nd G) n nd)) := by
  refine h.es (fun m hm e he => ?_) rfl rfl
  rcases s_up1_es he with ⟨q, -⟩ | q
  · exact hn e q
  · exact h.2.1 m hm e q
theorem s_cinv.close {n i : Nat} {x : Int64} (h : s_cinv A tm G) (hn : n < 6) : s_cinv A tm (s_close n i x G) := by
  have h1 : s_cinv A tm (g_sdead G n (g_dead G n ||| x)) := h.node (fun e he => h.2.1 n hn e he)
  refine h1.node (fun e he => ?_)
  exact h1.2.1 n hn e ((List.eraseIdx_sublist _ _).subset he)
theorem s_dataAll_es {set name : Int32} {n : Nat} {r : s_Q} : g_es (s_dataAll N lk n set name r G) = g_es G := by
  funext m
  unfold g_es
  rw [(g_ways_dataAll (N := N) (lk := lk) (G := G) (n := n) (set := set) (name := name) (r := r)).1]
theorem s_cinv.answer {n i : Nat} {e : s_E} {r : s_Q} (h : s_cinv A tm G) (hN : n_ok N) (hn : n < 6) (he : (g_es G n)[i]? = some e) : s_cinv A tm (s_answer N lk n i e r G) := by
  have ha := h.2.1 n hn e (List.mem_of_getElem? he)
  exact ((h.dataAll (lk := lk) (n := n) (set := e_in e) (name := e_name e) (r := r) hN).getAll (r := r) ha).close hn
theorem s_cinv.nackOut {n i : Nat} {e : s_E} {name wish : Int32} {r : s_Q} (h : s_cinv A tm G) (hN : n_ok N) (hn : n < 6) (he : (g_es G n)[i]? = some e) : s_cinv A tm (s_nackOut N lk n i e name wish r G) := by
  have ha := h.2.1 n hn e (List.mem_of_getElem? he)
  exact ((h.nackAll (lk := lk) (n := n) (set := e_in e) (name := name) (wish := wish) (r := r) hN).refuseAll (r := r) ha).close hn
theorem s_cinv.answerAll {n : Nat} {name : Int32} {fresh : Bool} {r : s_Q} (hN : n_ok N) (hn : n < 6) : ∀ (m : Nat) (G : s_G), s_cinv A tm G → s_cinv A tm (s_answerAll N lk n name fresh r m G) := by
  intro m
  induction m with
  | zero => intro G h; exact h
  | succ m ih =>
    intro G h
    unfold s_answerAll
    cases s_ff name fresh (g_es G n) with
    | none => exact h
    | some i =>
      show s_cinv A tm (match (g_es G n)[i]? with
        | none => G
        | some e => _)
      cases he : (g_es G n)[i]? with
      | none => exact h
      | some e => exact ih _ (h.answer hN hn he)
theorem s_cinv.dataCome {n fr : Nat} {name : Int32} {r : s_Q} (h : s_cinv A tm G) (hN : n_ok N) (hn : n < 6) : s_cinv A tm (s_dataCome N lk n fr name r G) := by
  rw [s_dataCome_el]
  cases hs : s_ff name (decide (¬ r.1 < g_minute G)) (g_es G n) with
  | none => exact h.congr (G' := g_sdropped G (g_dropped G + 1)) rfl rfl rfl
  | some i =>
    show s_cinv A tm (s_el _ _ _)
    cases s_which (some i) (g_es G n) with
    | none => exact h
    | some p =>
      show s_cinv A tm (s_answerAll _ _ _ _ _ _ _ _)
      have h1 : s_cinv A tm (s_dataMeas n fr p.2 G) := by
        unfold s_dataMeas
        split
        · exact h.congr rfl rfl rfl
        · exact h
      have h2 : s_cinv A tm (s_dataKeep N n name r (s_dataMeas n fr p.2 G)) := by
        unfold s_dataKeep
        split
        · exact h1.node (fun e he => h1.2.1 n hn e he)
        · exact h1
      exact s_cinv.answerAll hN hn _ _ h2
theorem s_cinv.go {n i : Nat} {e : s_E} {r : s_Q} (h : s_cinv A tm G) (hn : n < 6) (he : (g_es G n)[i]? = some e) : s_cinv A tm (s_go N lk n i e r G).2 := by
  have ha := h.2.1 n hn e (List.mem_of_getElem? he)
  unfold s_go
  cases s_way N lk n e G with
  | none => exact h
  | some to =>
    show s_cinv A tm (s_send _ _ _ _ _ _ _ _ _ _)
    refine s_cinv.send (h.node (fun e' he' => ?_))
    rcases List.mem_or_eq_of_mem_set he' with q | q
    · exact h.2.1 n hn e' q
    · rw [q]; exact ha
theorem s_cinv.nackComes {n fr : Nat} {name wish : Int32} {r : s_Q} (h : s_cinv A tm G) (hN : n_ok N) (hn : n < 6) : s_cinv A tm (s_nackComes N lk n fr name wish r G) := by
  unfold s_nackComes
  cases hei : s_ei name wish (g_es G n) with
  | none => exact h
  | some i =>
    show s_cinv A tm (match (g_es G n)[i]? with
      | none => G
      | some e => _)
    cases he : (g_es G n)[i]? with
    | none => exact h
    | some e =>
      show s_cinv A tm (if e_out e = nI fr then _ else G)
      split
      · split
        · exact h.go hn he
        · exact h.nackOut hN hn he
      · exact h
theorem s_aok.join {to : Nat} {nonce : Int32} {e : s_E} (h : s_aok A e) (hto : to < 164) (hA : 100 ≤ to → A (to - 100) = true) : s_aok A (s_join to nonce e) := by
  unfold s_join
  by_cases c : to < 100
  · rw [if_pos c]; exact h
  · rw [if_neg c]
    intro j hj hx
    have hx' : s_hasL (e_asks e ||| ((1 : Int64) <<< ((nI (to - 100)).toInt64 &&& 63))) (nI j) = true := hx
    rw [s_hasL_or _ _ hj, s_hasL_1 (by omega) hj] at hx'
    by_cases q : j = to - 100
    · rw [q]; exact hA (by omega)
    · simp [q] at hx'
      exact h j hj hx'
theorem s_cinv.interest {n to : Nat} {name wish nonce : Int32} (h : s_cinv A tm G) (hn : n < 6) (hto : to < 164) (hA : 100 ≤ to → A (to - 100) = true) : s_cinv A tm (s_interest N lk n to name wish nonce G) := by
  rw [s_interest_el]
  by_cases c : s_hasL (g_dead G n) nonce = true ∨ s_entryHas (g_es G n) (s_ei name wish (g_es G n)) nonce = true
  · rw [if_pos c]
    exact (h.congr (G' := g_sloops G (g_loops G + 1)) rfl rfl rfl).nack hA
  · rw [if_neg c]
    cases hf : s_fresh (g_ds G n) (s_at name (g_ds G n)) wish (g_minute G) with
    | some d =>
      show s_cinv A tm (s_fromStore _ _ _ _ _ _ _)
      unfold s_fromStore
      have h1 : s_cinv A tm (g_sds G n (s_put (n_room N n) (name, d.2.1, d.2.2) (g_ds G n))) := h.node (fun e he => h.2.1 n hn e he)
      exact (h1.congr (G' := g_shits _ (g_hits G + 1)) rfl rfl rfl).data hA
    | none =>
      show s_cinv A tm (s_el _ _ _)
      cases hsv : s_serve N n (v_ name) with
      | some j =>
        show s_cinv A tm (s_fromServer _ _ _ _ _ _ _)
        exact h.data hA
      | none =>
        show s_cinv A tm (s_el _ _ _)
        cases hei : s_ei name wish (g_es G n) with
        | none =>
          show s_cinv A tm (s_make _ _ _ _ _ _ _ _)
          unfold s_make
          cases s_way N lk n (s_join to nonce (s_new N name wish nonce G)) G with
          | none => exact h.nack hA
          | some w =>
            show s_cinv A tm (s_send _ _ _ _ _ _ _ _ _ _)
            refine s_cinv.send (h.node (fun e he => ?_))
            rcases List.mem_append.mp he with q | q
            · exact h.2.1 n hn e q
            · rw [List.mem_singleton.mp q]
              have h0 : s_aok A (s_new N name wish nonce G) := fun j hj hx => by
                have hx' : s_hasL 0 (nI j) = true := hx
                rw [s_hasL_0 hj] at hx'; cases hx'
              exact h0.join hto hA
        | some i =>
          show s_cinv A tm (s_joined n to name wish nonce i G)
          unfold s_joined
          cases he : (g_es G n)[i]? with
          | none => exact h
          | some e =>
            have ha := h.2.1 n hn e (List.mem_of_getElem? he)
            have h1 : s_cinv A tm (g_sjoined G (g_joined G + 1)) := h.congr rfl rfl rfl
            refine h1.node (fun e' he' => ?_)
            rcases List.mem_or_eq_of_mem_set he' with q | q
            · exact h.2.1 n hn e' q
            · rw [q]; exact ha.join hto hA
theorem s_cinv.comes {K : Nat} {W : s_W} {m : s_M} (h : s_cinv A tm G) (hN : n_ok N) (hm : s_mok N K W m) : s_cinv A tm (s_comes N lk m G) := by
  have hnn : n_nodes N ≤ 6 := hN.1.1.2
  obtain ⟨⟨a, b, a1, a2, a3, a4, a5⟩, -⟩ := hm
  have va : v_ m.1.2.1 = a := by rw [a1]; exact v_nI (by omega)
  have vb : v_ m.1.2.2.1 = b := by rw [a2]; exact v_nI (by omega)
  unfold s_comes
  rw [va, vb]
  split
  · exact h.interest (by omega) (by omega) (fun q => by omega)
  · split
    · exact h.dataCome hN (by omega)
    · exact h.nackComes hN (by omega)
theorem s_cinv.ends1 {n i : Nat} {e : s_E} (h : s_cinv A tm G) (hn : n < 6) (he : (g_es G n)[i]? = some e) : s_cinv A tm (s_ends1 N n i e G) := by
  have ha := h.2.1 n hn e (List.mem_of_getElem? he)
  have h1 : s_cinv A tm (g_sdead G n (g_dead G n ||| e_nonces e)) := h.node (fun e he => h.2.1 n hn e he)
  have h2 : s_cinv A tm (g_smeas (g_sdead G n (g_dead G n ||| e_nonces e)) (s_up1 (g_meas G) (6 * n + v_ (e_out e)) (N 1))) := h1.congr rfl rfl rfl
  have h3 := h2.lateAll ha
  exact h3.node (fun e' he' => h3.2.1 n hn e' ((List.eraseIdx_sublist _ _).subset he'))
theorem s_cinv.endsN {n : Nat} (hn : n < 6) : ∀ (m i : Nat) (G : s_G), s_cinv A tm G → s_cinv A tm (s_endsN N n m i G) := by
  intro m
  induction m with
  | zero => intro i G h; exact h
  | succ m ih =>
    intro i G h
    unfold s_endsN
    cases he : (g_es G n)[i]? with
    | none => exact h
    | some e =>
      show s_cinv A tm (if _ then _ else _)
      split
      · exact ih i _ (h.ends1 hn he)
      · exact ih (i + 1) G h
theorem s_cinv.endsAll (h : s_cinv A tm G) (hN : n_ok N) : s_cinv A tm (s_endsAll N G) := by
  have hnn : n_nodes N ≤ 6 := hN.1.1.2
  exact h.fold (fun k g hk hg => s_cinv.endsN (by omega) _ _ _ hg)
theorem s_cinv.min (h : s_cinv A t G) : s_cinv A (t + 1) (g_sminute G (g_minute G + 1)) := by
  obtain ⟨h1, h2, h3⟩ := h
  refine ⟨by show g_minute G + 1 = _; rw [h1]; exact nI_1 t, h2, fun j hj => ?_⟩
  obtain ⟨a1, a2⟩ := h3 j hj
  refine ⟨a1, fun q => ?_⟩
  obtain ⟨a, b1, b2, b3⟩ := a2 q
  refine ⟨a, by omega, b2, ?_⟩
  rcases b3 with b3 | ⟨b3, b, c1, c2, c3⟩
  · exact Or.inl b3
  · exact Or.inr ⟨b3, b, c1, by omega, c3⟩
theorem s_cinv.runAll {K : Nat} {W : s_W} (hN : n_ok N) : ∀ (Q : List s_M) (G : s_G), (∀ m ∈ Q, s_mok N K W m) → s_cinv A tm G → s_cinv A tm (s_runAll N lk Q G) := by
  intro Q
  induction Q with
  | nil => intro G _ h; exact h
  | cons m Q ih => intro G hQ h; exact ih _ (fun m' hm' => hQ m' (List.mem_cons_of_mem _ hm')) (h.comes hN (hQ m (by simp)))
theorem s_cinv.goesBy {K : Nat} {W : s_W} (h : s_cinv A t G) (hi : s_inv N K W t t [] 0 0 0 G) (ht : t + 1 ≤ 99) (hK : K ≤ 64) (hN : n_ok N) : s_cinv A (t + 1) (s_goesBy N lk G) := by
  obtain ⟨h1, h2, h3⟩ := hi.begins ht hK hN
  have hX := s_goesBy_eq (N := N) (lk := lk) (G := G) rfl h2 h3
  rw [hX]
  have hc : s_cinv A (t + 1) (s_endsAll N (g_sminute G (g_minute G + 1))) := h.min.endsAll hN
  exact s_cinv.runAll hN _ _ h1.1.2.2.1 (hc.congr rfl rfl rfl)
theorem s_cinv.goMany {K : Nat} {W : s_W} (hK : K ≤ 64) (hN : n_ok N) (hlk : s_lkok N lk) : ∀ m, t + m ≤ 99 → s_inv N K W t t [] 0 0 0 G → s_cinv A t G → s_cinv A (t + m) (s_goMany N lk m G) := by
  intro m
  induction m with
  | zero => intro _ _ h; exact h
  | succ m ih =>
    intro ht hi h
    have h1 := ih (by omega) hi h
    have h2 := s_inv.goMany (lk := lk) hK hN hlk m (by omega) hi
    unfold s_goMany at h1 h2 ⊢
    rw [s_fold_succ]
    exact h1.goesBy h2 (by omega) hK hN
theorem s_cinv.ask {n k : Nat} {name wish : Int32} (h : s_cinv A t G) (hk : k < 64) (hn : n < 6) : s_cinv (s_up1 A k true) t (s_ask N lk n k name wish G) := by
  have h1 : s_cinv (s_up1 A k true) t (s_asked k G) := by
    refine ⟨h.1, fun m hm e he j hj hx => ?_, fun j hj => ?_⟩
    · unfold s_up1
      by_cases q : j = k
      · rw [if_pos q]
      · rw [if_neg q]; exact h.2.1 m hm e he j hj hx
    · show s_cok _ t (fun f j => if j = k ∧ f = 57 then 0 else if j = k ∧ f = 59 then g_minute G else g_came G f j) j
      by_cases q : j = k
      · subst q
        refine ⟨fun z => ?_, fun _ => ⟨t, Nat.le_refl _, ?_, Or.inl ?_⟩⟩
        · rw [s_up1_s] at z; cases z
        · simp [h.1]
        · simp
      · have := h.2.2 j hj
        unfold s_cok at this ⊢
        rw [s_up1_n q]
        simpa [q] using this
  exact h1.interest hn (by omega) (fun _ => by rw [show 100 + k - 100 = k by omega]; exact s_up1_s)
theorem s_cinv_begin {c : Nat → Nat → Int32} : s_cinv (fun _ => false) 0 (s_begin c) := ⟨rfl, fun n hn e he => (by cases he), fun j hj => ⟨fun _ => rfl, fun q => by cases q⟩⟩
end T74
