/-! THE COST, 3: answers, refusals, minutes -/
set_option maxRecDepth 100000
set_option linter.unusedVariables false
section C3
variable {w : s_Wt} {N : s_R} {lk : Nat → Option Nat} {G G' : s_G} {K : Nat} {W : s_W} {t tm : Nat} {Q : List s_M} {P : Nat} {z y : Int} {x x' : Int}
theorem s_cc.add {a b : Nat} (h : s_cc w N K Q (x + (a : Nat)) G) (hb : b ≤ a) : s_cc w N K Q (x + (b : Nat)) G := h.weak (by omega)
/-- what an entry pays when it is no more -/
theorem s_epot_pays (hw : w_ok w) (e : s_E) : w_r w * s_pop (e_in e) + w_s w * (54 + 23 * (s_pop (e_in e) + (s_setL (e_asks e)).length)) ≤ s_epot w e := by
  obtain ⟨a1, a2, a3, a4, a5, a6⟩ := hw
  unfold s_epot
  have h1 : w_r w * s_pop (e_in e) + 23 * w_s w * s_pop (e_in e) ≤ w_n w * s_pop (e_in e) := by
    rw [← Nat.add_mul]
    exact Nat.mul_le_mul_right _ a3
  have h2 : 23 * w_s w * (s_setL (e_asks e)).length ≤ w_a w * (s_setL (e_asks e)).length := Nat.mul_le_mul_right _ a4
  have e1 : w_s w * (54 + 23 * (s_pop (e_in e) + (s_setL (e_asks e)).length)) = 54 * w_s w + 23 * w_s w * s_pop (e_in e) + 23 * w_s w * (s_setL (e_asks e)).length := by
    rw [Nat.mul_add, Nat.mul_comm (w_s w) 54, ← Nat.mul_assoc, Nat.mul_comm (w_s w) 23, Nat.mul_add, Nat.add_assoc]
  rw [e1]
  omega
theorem s_answer_es {n i : Nat} {e : s_E} {r : s_Q} : g_es (s_answer N lk n i e r G) n = (g_es G n).eraseIdx i := by
  rw [s_answer_close]
  have e1 : ∀ (M : s_G), g_nd (s_getAll (e_asks e) r (s_dataAll N lk n (e_in e) (e_name e) r M)) = g_nd M := fun M => (s_getAll_same).1.trans (g_ways_dataAll (N := N) (lk := lk) (G := M) (n := n) (set := e_in e) (name := e_name e) (r := r)).1
  show (g_nd _ n).1 = _
  rw [e1, s_close_snd, g_nd_snd]
  unfold s_clo
  rw [s_up1_s]
  rfl
theorem cntE {p : s_E → Bool} : ∀ {l : List s_E} {i : Nat} {e : s_E}, l[i]? = some e → (l.eraseIdx i).countP p + (if p e = true then 1 else 0) = l.countP p := by
  intro l
  induction l with
  | nil => intro i e h; simp at h
  | cons a l ih =>
    intro i e h
    cases i with
    | zero =>
      have : a = e := by simpa using h
      subst this
      simp only [List.eraseIdx_cons_zero, List.countP_cons]
    | succ i =>
      have h' : l[i]? = some e := by simpa using h
      have := ih h'
      simp only [List.eraseIdx_cons_succ, List.countP_cons]
      omega
theorem s_ff_wt {name : Int32} {fresh : Bool} {es : List s_E} {i : Nat} {e : s_E} (h : s_ff name fresh es = some i) (he : es[i]? = some e) : s_wt name fresh e = true := by
  have hp := (s_find_some h).2.2.1
  rw [he] at hp
  exact hp
theorem s_ff_none0 {name : Int32} {fresh : Bool} {es : List s_E} (h : s_ff name fresh es = none) : es.countP (s_wt name fresh) = 0 := by
  rw [List.countP_eq_zero]
  intro e he c
  obtain ⟨i, hi, q⟩ := List.getElem_of_mem he
  have := s_find_none h i (by omega) (by omega)
  rw [List.getElem?_eq_getElem hi, q] at this
  have c' : (decide (e.1 = name) && (decide (e.2.1 = 0) || fresh)) = true := c
  exact absurd (this.symm.trans c') (by decide)
theorem s_cc.answerAll {n : Nat} {name : Int32} {fresh : Bool} {r : s_Q} (hw : w_ok w) (hN : n_ok N) (hlk : s_lkok N lk) (hK : K ≤ 64) (hn : n < 6) : ∀ (m : Nat) (G : s_G) (x : Int), s_cc w N K Q x G → s_inv N K W t tm Q P z y G → (g_es G n).countP (s_wt name fresh) ≤ m → s_cc w N K Q (x + (w_s w * (44 * (g_es G n).countP (s_wt name fresh) + k_answerAll N lk n name fresh r m G) : Nat)) (s_answerAll N lk n name fresh r m G) := by
  intro m
  induction m with
  | zero =>
    intro G x hc h hm
    have : (g_es G n).countP (s_wt name fresh) = 0 := by omega
    rw [this]
    show s_cc _ _ _ _ (x + ((w_s w * (44 * 0 + 0) : Nat) : Int)) G
    exact hc.weak (by simp)
  | succ m ih =>
    intro G x hc h hm
    unfold s_answerAll k_answerAll
    cases hf : s_ff name fresh (g_es G n) with
    | none =>
      rw [s_ff_none0 hf]
      show s_cc _ _ _ _ (x + ((w_s w * (44 * 0 + 0) : Nat) : Int)) G
      exact hc.weak (by simp)
    | some i =>
      obtain ⟨e, he⟩ : ∃ e, (g_es G n)[i]? = some e := ⟨_, List.getElem?_eq_getElem (s_ff_lt hf)⟩
      have hwt := s_ff_wt hf he
      show s_cc _ _ _ _ (x + ((w_s w * (44 * (g_es G n).countP (s_wt name fresh) + (match (g_es G n)[i]? with | none => 0 | some e => k_ent e + k_answerAll N lk n name fresh r m (s_answer N lk n i e r G))) : Nat) : Int)) (match (g_es G n)[i]? with | none => G | some e => s_answerAll N lk n name fresh r m (s_answer N lk n i e r G))
      rw [he]
      show s_cc _ _ _ _ (x + ((w_s w * (44 * (g_es G n).countP (s_wt name fresh) + (k_ent e + k_answerAll N lk n name fresh r m (s_answer N lk n i e r G))) : Nat) : Int)) (s_answerAll N lk n name fresh r m (s_answer N lk n i e r G))
      have hcnt := cntE (p := s_wt name fresh) he
      rw [if_pos hwt] at hcnt
      have h1 := h.answer (r := r) hN hlk hK hn he
      have hc1 := hc.answer (r := r) h hN hlk hK hn he
      have e9 : g_es (s_answer N lk n i e r G) n = (g_es G n).eraseIdx i := s_answer_es
      have H := ih _ _ hc1 h1 (by rw [e9]; omega)
      rw [e9] at H
      refine H.weak ?_
      have hp := s_epot_pays hw e
      have e2 : w_s w * (44 * (g_es G n).countP (s_wt name fresh) + (k_ent e + k_answerAll N lk n name fresh r m (s_answer N lk n i e r G))) = w_s w * (44 * ((g_es G n).eraseIdx i).countP (s_wt name fresh) + k_answerAll N lk n name fresh r m (s_answer N lk n i e r G)) + w_s w * (44 + k_ent e) := by
        rw [← Nat.mul_add]
        congr 1
        omega
      rw [e2]
      have e3 : w_s w * (44 + k_ent e) ≤ w_s w * (54 + 23 * (s_pop (e_in e) + (s_setL (e_asks e)).length)) := by
        refine Nat.mul_le_mul_left _ ?_
        unfold k_ent
        omega
      omega
theorem s_cc.dataCome {n fr : Nat} {name : Int32} {r : s_Q} (hc : s_cc w N K Q x G) (h : s_inv N K W t tm Q P z y G) (hw : w_ok w) (hN : n_ok N) (hlk : s_lkok N lk) (hK : K ≤ 64) (hn : n < 6) (hnm : s_wn name) : s_cc w N K Q (x - (24 * w_s w : Nat) + (w_s w * k_dataCome N lk n fr name r G : Nat)) (s_dataCome N lk n fr name r G) := by
  unfold k_dataCome s_dataCome
  cases hs : s_ff name (decide (¬ r.1 < g_minute G)) (g_es G n) with
  | none =>
    show s_cc _ _ _ _ (x - ((24 * w_s w : Nat) : Int) + ((w_s w * 15 : Nat) : Int)) (g_sdropped G (g_dropped G + 1))
    exact (hc.congr (G' := g_sdropped G (g_dropped G + 1)) rfl rfl).weak (by omega)
  | some i =>
    obtain ⟨e, he⟩ : ∃ e, (g_es G n)[i]? = some e := ⟨_, List.getElem?_eq_getElem (s_ff_lt hs)⟩
    show s_cc _ _ _ _ (x - ((24 * w_s w : Nat) : Int) + ((w_s w * (match (g_es G n)[i]? with | none => 15 | some e => _) : Nat) : Int)) (match (g_es G n)[i]? with | none => G | some e => _)
    rw [he]
    show s_cc _ _ _ _ (x - ((24 * w_s w : Nat) : Int) + ((w_s w * (24 + 44 * (g_es G n).countP (s_wt name (decide (¬ r.1 < g_minute G))) + k_answerAll N lk n name (decide (¬ r.1 < g_minute G)) r (g_es (s_dataKeep N n name r (s_dataMeas n fr e G)) n).length (s_dataKeep N n name r (s_dataMeas n fr e G))) : Nat) : Int)) (s_answerAll N lk n name (decide (¬ r.1 < g_minute G)) r (g_es (s_dataKeep N n name r (s_dataMeas n fr e G)) n).length (s_dataKeep N n name r (s_dataMeas n fr e G)))
    have h1 : s_inv N K W t tm Q P z y (s_dataMeas n fr e G) ∧ s_cc w N K Q x (s_dataMeas n fr e G) := by
      unfold s_dataMeas
      split
      · exact ⟨h.congr rfl rfl rfl, hc.congr rfl rfl⟩
      · exact ⟨h, hc⟩
    have e1 : g_es (s_dataMeas n fr e G) n = g_es G n := by
      unfold s_dataMeas
      split <;> rfl
    have h2 : s_inv N K W t tm Q P z y (s_dataKeep N n name r (s_dataMeas n fr e G)) ∧ s_cc w N K Q x (s_dataKeep N n name r (s_dataMeas n fr e G)) := by
      unfold s_dataKeep
      split
      · exact ⟨h1.1.sds (d := (name, r.1, r.2.1)) hn hnm, h1.2.sds hn⟩
      · exact h1
    have e2 : g_es (s_dataKeep N n name r (s_dataMeas n fr e G)) n = g_es G n := by
      unfold s_dataKeep
      split
      · show (g_nd (g_snd _ _) n).1 = _
        rw [g_nd_snd, s_up1_s]
        exact e1
      · exact e1
    have H := s_cc.answerAll (fresh := decide (¬ r.1 < g_minute G)) (name := name) (r := r) hw hN hlk hK hn (g_es (s_dataKeep N n name r (s_dataMeas n fr e G)) n).length _ x h2.2 h2.1 (List.countP_le_length)
    rw [e2] at H ⊢
    refine H.weak ?_
    rw [Nat.add_assoc, Nat.mul_add (w_s w) 24, Nat.mul_comm (w_s w) 24]
    omega
theorem s_cc.nackComes {n fr : Nat} {name wish : Int32} {r : s_Q} (hc : s_cc w N K Q x G) (h : s_inv N K W t tm Q P z y G) (hw : w_ok w) (hN : n_ok N) (hlk : s_lkok N lk) (hK : K ≤ 64) (hn : n < 6) (hnm : s_wn name) (hwi : wish = 0 ∨ wish = 1) : s_cc w N K Q (x - (32 * w_s w : Nat) + (w_s w * k_nackComes N lk n fr name wish G : Nat)) (s_nackComes N lk n fr name wish r G) := by
  unfold s_nackComes k_nackComes
  cases hei : s_ei name wish (g_es G n) with
  | none => exact hc.weak (by rw [Nat.mul_zero]; omega)
  | some i =>
    show s_cc _ _ _ _ (x - ((32 * w_s w : Nat) : Int) + ((w_s w * (match (g_es G n)[i]? with | none => 0 | some e => _) : Nat) : Int)) (match (g_es G n)[i]? with | none => G | some e => _)
    cases he : (g_es G n)[i]? with
    | none => exact hc.weak (by rw [Nat.mul_zero]; omega)
    | some e =>
      show s_cc _ _ _ _ (x - ((32 * w_s w : Nat) : Int) + ((w_s w * (if e_out e = nI fr then (32 + if (s_way N lk n e G).isSome = true then 0 else 23 * (s_pop (e_in e) + (s_setL (e_asks e)).length)) else 0) : Nat) : Int)) (if e_out e = nI fr then _ else G)
      by_cases c : e_out e = nI fr
      · rw [if_pos c, if_pos c]
        cases hs : s_way N lk n e G with
        | some to =>
          have ego : (s_go N lk n i e r G).1 = true := by unfold s_go; rw [hs]
          rw [if_pos ego, if_pos (show (some to).isSome = true from rfl)]
          exact (hc.go h hN hlk hn he).weak (by omega)
        | none =>
          have ego : (s_go N lk n i e r G).1 = false := by unfold s_go; rw [hs]
          rw [if_neg (show ¬ (s_go N lk n i e r G).1 = true by rw [ego]; decide), if_neg (show ¬ (none : Option Nat).isSome = true by decide)]
          refine (hc.nackOut h hN hlk hK hn he hnm hwi).weak ?_
          have hp := s_epot_pays hw e
          have e3 : w_s w * (32 + 23 * (s_pop (e_in e) + (s_setL (e_asks e)).length)) ≤ 32 * w_s w + w_s w * (54 + 23 * (s_pop (e_in e) + (s_setL (e_asks e)).length)) := by
            rw [Nat.mul_add, Nat.mul_comm (w_s w) 32]
            exact Nat.add_le_add_left (Nat.mul_le_mul_left _ (by omega)) _
          omega
      · rw [if_neg c, if_neg c]
        exact hc.weak (by rw [Nat.mul_zero]; omega)
end C3
