/-! THE COMPONENT's LAW, 43: when an ask was asked stays -/
set_option maxRecDepth 100000
set_option linter.unusedVariables false
theorem s_fold_inv {β : Type} {φ : s_G → β} {st : Nat → s_G → s_G} (h : ∀ k G, φ (st k G) = φ G) : ∀ m k G, φ (s_fold st k m G) = φ G := by
  intro m
  induction m with
  | zero => intro k G; rfl
  | succ m ih =>
    intro k G
    show φ (s_fold st (k + 1) m (st k G)) = _
    rw [ih, h]
/-- when asks were asked -/
def g_a59 (G : s_G) : Nat → Int32 := g_came G 59
section T93
variable {N : s_R} {lk : Nat → Option Nat} {G : s_G} {n i t k : Nat} {name wish kind nonce : Int32} {r : s_Q} {e : s_E} {m : s_M}
theorem a59_send : g_a59 (s_send N lk kind n t name wish nonce r G) = g_a59 G := by unfold s_send; split <;> rfl
theorem a59_get : g_a59 (s_get r k G) = g_a59 G := by
  funext j
  show (if j = k ∧ 59 = 57 then _ else if j = k ∧ 59 = 58 then _ else if j = k ∧ 59 = 60 then _ else if j = k ∧ 59 = 61 then _ else _) = _
  rw [if_neg (by omega), if_neg (by omega), if_neg (by omega), if_neg (by omega)]
  rfl
theorem a59_refuse : g_a59 (s_refuse r k G) = g_a59 G := by
  funext j
  show (if j = k ∧ 59 = 57 then _ else if j = k ∧ 59 = 58 then _ else if j = k ∧ 59 = 62 then _ else if j = k ∧ 59 = 63 then _ else if j = k ∧ 59 = 64 then _ else _) = _
  rw [if_neg (by omega), if_neg (by omega), if_neg (by omega), if_neg (by omega), if_neg (by omega)]
  rfl
theorem a59_late : g_a59 (s_late k G) = g_a59 G := by
  funext j
  show (if j = k ∧ 59 = 57 then _ else if j = k ∧ 59 = 58 then _ else _) = _
  rw [if_neg (by omega), if_neg (by omega)]
  rfl
theorem a59_data : g_a59 (s_data N lk n t name r G) = g_a59 G := by
  unfold s_data
  split
  · exact a59_send
  · exact a59_get
theorem a59_nack : g_a59 (s_nack N lk n t name wish r G) = g_a59 G := by
  unfold s_nack
  split
  · exact a59_send
  · exact a59_refuse
theorem a59_if {c : Prop} [Decidable c] {G1 G2 : s_G} (h1 : g_a59 G1 = g_a59 G) (h2 : g_a59 G2 = g_a59 G) : g_a59 (if c then G1 else G2) = g_a59 G := by split; exact h1; exact h2
theorem a59_dataAll {set : Int32} : g_a59 (s_dataAll N lk n set name r G) = g_a59 G := s_fold_inv (φ := g_a59) (fun k G => a59_if a59_data rfl) _ _ _
theorem a59_nackAll {set : Int32} : g_a59 (s_nackAll N lk n set name wish r G) = g_a59 G := s_fold_inv (φ := g_a59) (fun k G => a59_if a59_nack rfl) _ _ _
theorem a59_getAll {set : Int64} : g_a59 (s_getAll set r G) = g_a59 G := s_fold_inv (φ := g_a59) (fun k G => a59_if a59_get rfl) _ _ _
theorem a59_refuseAll {set : Int64} : g_a59 (s_refuseAll set r G) = g_a59 G := s_fold_inv (φ := g_a59) (fun k G => a59_if a59_refuse rfl) _ _ _
theorem a59_lateAll {set : Int64} : g_a59 (s_lateAll set G) = g_a59 G := s_fold_inv (φ := g_a59) (fun k G => a59_if a59_late rfl) _ _ _
theorem a59_make : g_a59 (s_make N lk n t name wish nonce G) = g_a59 G := by
  unfold s_make
  split
  · exact a59_nack
  · exact a59_send
theorem a59_rest : g_a59 (s_rest N lk n t name wish nonce G) = g_a59 G := by
  unfold s_rest
  split
  · exact a59_data
  · split
    · exact a59_data
    · split
      · split <;> rfl
      · exact a59_make
theorem a59_interest : g_a59 (s_interest N lk n t name wish nonce G) = g_a59 G := by
  rw [s_interestR]
  exact a59_if a59_nack a59_rest
theorem a59_answer : g_a59 (s_answer N lk n i e r G) = g_a59 G := by
  rw [s_answer_close, a59_getAll, a59_dataAll, s_close_snd]
  rfl
theorem a59_answerAll {fresh : Bool} : ∀ (m : Nat) (G : s_G), g_a59 (s_answerAll N lk n name fresh r m G) = g_a59 G := by
  intro m
  induction m with
  | zero => intro G; rfl
  | succ m ih =>
    intro G
    unfold s_answerAll
    split
    · rfl
    · split
      · rfl
      · rw [ih, a59_answer]
theorem a59_dataCome {fr : Nat} : g_a59 (s_dataCome N lk n fr name r G) = g_a59 G := by
  unfold s_dataCome
  split
  · rfl
  · split
    · rfl
    · rw [a59_answerAll]
      split <;> split <;> rfl
theorem a59_nackComes {fr : Nat} : g_a59 (s_nackComes N lk n fr name wish r G) = g_a59 G := by
  unfold s_nackComes
  split
  · rfl
  · split
    · rfl
    · split
      · split
        · unfold s_go
          split
          · rfl
          · exact a59_send
        · rw [s_nackOut_close, a59_refuseAll, a59_nackAll, s_close_snd]
          rfl
      · rfl
theorem a59_comes : g_a59 (s_comes N lk m G) = g_a59 G := by
  unfold s_comes
  split
  · exact a59_interest
  · split
    · exact a59_dataCome
    · exact a59_nackComes
theorem a59_runAll : ∀ (Q : List s_M) (G : s_G), g_a59 (s_runAll N lk Q G) = g_a59 G := by
  intro Q
  induction Q with
  | nil => intro G; rfl
  | cons m Q ih =>
    intro G
    show g_a59 (s_runAll N lk Q (s_comes N lk m G)) = _
    rw [ih, a59_comes]
theorem a59_ends1 : g_a59 (s_ends1 N n i e G) = g_a59 G := by
  rw [s_ends1_close, a59_lateAll, s_close_snd]
  rfl
theorem a59_endsN : ∀ (m i : Nat) (G : s_G), g_a59 (s_endsN N n m i G) = g_a59 G := by
  intro m
  induction m with
  | zero => intro i G; rfl
  | succ m ih =>
    intro i G
    unfold s_endsN
    split
    · rfl
    · split
      · rw [ih, a59_ends1]
      · rw [ih]
theorem a59_min1 : g_a59 (s_min1 N G) = g_a59 G := by
  unfold s_min1 s_endsAll
  rw [s_fold_inv (φ := g_a59) (fun k G => a59_endsN _ _ _)]
  rfl
theorem a59_goesBy : g_a59 (s_goesBy N lk G) = g_a59 G := by
  have h1 : s_goesBy N lk G = s_runAll N lk (s_nowl (g_minute (s_min1 N G)) (g_ways (s_min1 N G))) (g_sways (s_min1 N G) (s_restl (g_minute (s_min1 N G)) (g_ways (s_min1 N G)))) := rfl
  rw [h1, a59_runAll]
  show g_a59 (s_min1 N G) = _
  exact a59_min1
end T93
