/-! THE COMPONENT's LAW, 47: which links are cut stays while minutes go by -/
set_option maxRecDepth 100000
set_option linter.unusedVariables false
section T93
variable {N : s_R} {lk : Nat → Option Nat} {G : s_G} {n i t k : Nat} {name wish kind nonce : Int32} {r : s_Q} {e : s_E} {m : s_M}
theorem dwn_send : g_down (s_send N lk kind n t name wish nonce r G) = g_down G := by unfold s_send; split <;> rfl
theorem dwn_get : g_down (s_get r k G) = g_down G := rfl
theorem dwn_refuse : g_down (s_refuse r k G) = g_down G := rfl
theorem dwn_late : g_down (s_late k G) = g_down G := rfl
theorem dwn_data : g_down (s_data N lk n t name r G) = g_down G := by
  unfold s_data
  split
  · exact dwn_send
  · exact dwn_get
theorem dwn_nack : g_down (s_nack N lk n t name wish r G) = g_down G := by
  unfold s_nack
  split
  · exact dwn_send
  · exact dwn_refuse
theorem dwn_if {c : Prop} [Decidable c] {G1 G2 : s_G} (h1 : g_down G1 = g_down G) (h2 : g_down G2 = g_down G) : g_down (if c then G1 else G2) = g_down G := by split; exact h1; exact h2
theorem dwn_dataAll {set : Int32} : g_down (s_dataAll N lk n set name r G) = g_down G := s_fold_inv (φ := g_down) (fun k G => dwn_if dwn_data rfl) _ _ _
theorem dwn_nackAll {set : Int32} : g_down (s_nackAll N lk n set name wish r G) = g_down G := s_fold_inv (φ := g_down) (fun k G => dwn_if dwn_nack rfl) _ _ _
theorem dwn_getAll {set : Int64} : g_down (s_getAll set r G) = g_down G := s_fold_inv (φ := g_down) (fun k G => dwn_if dwn_get rfl) _ _ _
theorem dwn_refuseAll {set : Int64} : g_down (s_refuseAll set r G) = g_down G := s_fold_inv (φ := g_down) (fun k G => dwn_if dwn_refuse rfl) _ _ _
theorem dwn_lateAll {set : Int64} : g_down (s_lateAll set G) = g_down G := s_fold_inv (φ := g_down) (fun k G => dwn_if dwn_late rfl) _ _ _
theorem dwn_make : g_down (s_make N lk n t name wish nonce G) = g_down G := by
  unfold s_make
  split
  · exact dwn_nack
  · exact dwn_send
theorem dwn_rest : g_down (s_rest N lk n t name wish nonce G) = g_down G := by
  unfold s_rest
  split
  · exact dwn_data
  · split
    · exact dwn_data
    · split
      · split <;> rfl
      · exact dwn_make
theorem dwn_interest : g_down (s_interest N lk n t name wish nonce G) = g_down G := by
  rw [s_interestR]
  exact dwn_if dwn_nack dwn_rest
theorem dwn_answer : g_down (s_answer N lk n i e r G) = g_down G := by
  rw [s_answer_close, dwn_getAll, dwn_dataAll, s_close_snd]
  rfl
theorem dwn_answerAll {fresh : Bool} : ∀ (m : Nat) (G : s_G), g_down (s_answerAll N lk n name fresh r m G) = g_down G := by
  intro m
  induction m with
  | zero => intro G; rfl
  | succ m ih =>
    intro G
    unfold s_answerAll
    split
    · rfl
    · split
      · rfl
      · rw [ih, dwn_answer]
theorem dwn_dataCome {fr : Nat} : g_down (s_dataCome N lk n fr name r G) = g_down G := by
  unfold s_dataCome
  split
  · rfl
  · split
    · rfl
    · rw [dwn_answerAll]
      split <;> split <;> rfl
theorem dwn_nackComes {fr : Nat} : g_down (s_nackComes N lk n fr name wish r G) = g_down G := by
  unfold s_nackComes
  split
  · rfl
  · split
    · rfl
    · split
      · split
        · unfold s_go
          split
          · rfl
          · exact dwn_send
        · rw [s_nackOut_close, dwn_refuseAll, dwn_nackAll, s_close_snd]
          rfl
      · rfl
theorem dwn_comes : g_down (s_comes N lk m G) = g_down G := by
  unfold s_comes
  split
  · exact dwn_interest
  · split
    · exact dwn_dataCome
    · exact dwn_nackComes
theorem dwn_runAll : ∀ (Q : List s_M) (G : s_G), g_down (s_runAll N lk Q G) = g_down G := by
  intro Q
  induction Q with
  | nil => intro G; rfl
  | cons m Q ih =>
    intro G
    show g_down (s_runAll N lk Q (s_comes N lk m G)) = _
    rw [ih, dwn_comes]
theorem dwn_ends1 : g_down (s_ends1 N n i e G) = g_down G := by
  rw [s_ends1_close, dwn_lateAll, s_close_snd]
  rfl
theorem dwn_endsN : ∀ (m i : Nat) (G : s_G), g_down (s_endsN N n m i G) = g_down G := by
  intro m
  induction m with
  | zero => intro i G; rfl
  | succ m ih =>
    intro i G
    unfold s_endsN
    split
    · rfl
    · split
      · rw [ih, dwn_ends1]
      · rw [ih]
theorem dwn_min1 : g_down (s_min1 N G) = g_down G := by
  unfold s_min1 s_endsAll
  rw [s_fold_inv (φ := g_down) (fun k G => dwn_endsN _ _ _)]
  rfl
theorem dwn_goesBy : g_down (s_goesBy N lk G) = g_down G := by
  have h1 : s_goesBy N lk G = s_runAll N lk (s_nowl (g_minute (s_min1 N G)) (g_ways (s_min1 N G))) (g_sways (s_min1 N G) (s_restl (g_minute (s_min1 N G)) (g_ways (s_min1 N G)))) := rfl
  rw [h1, dwn_runAll]
  show g_down (s_min1 N G) = _
  exact dwn_min1
/-- no link but the net's is cut -/
def s_dwn (N : s_R) (G : s_G) : Prop := ∀ l, n_links N ≤ l → l < 32 → s_bit (g_down G) (nI l) = false
theorem s_dwn.of {G' : s_G} (h : s_dwn N G) (e : g_down G' = g_down G) : s_dwn N G' := fun l h1 h2 => by rw [e]; exact h l h1 h2
theorem dwn_goMany : ∀ (m : Nat) (G : s_G), g_down (s_goMany N lk m G) = g_down G := by
  intro m
  induction m with
  | zero => intro G; rfl
  | succ m ih => intro G; rw [s_goMany_succ, ih, dwn_goesBy]
theorem s_dwn.does {d : s_Dd} {G' : s_G} (h : s_dwn N G) (hN : n_ok N) (hlk : s_lkok N lk) (h' : s_does N lk d k G = some G') : s_dwn N G' := by
  have h6 : n_nodes N ≤ 6 := hN.1.1.2
  have h15 : n_links N ≤ 15 := hN.2.2.1.2
  unfold s_does at h'
  split at h'
  · split at h'
    · cases h'
      refine h.of ?_
      unfold s_ask
      exact dwn_interest
    · cases h'
  · split at h'
    · split at h'
      · cases h'
        exact h.of (dwn_goMany _ _)
      · cases h'
    · split at h'
      · rename_i hc
        split at h'
        · cases h'
        · rename_i l hl
          split at h'
          · cases h'
          · cases h'
            intro j h1 h2
            have hll := (hlk _ _ (by omega) hl).1
            rw [s_bit_turn (by omega) h2, if_neg (by omega)]
            exact h j h1 h2
      · cases h'
theorem s_dwn.plays {ds : Nat → s_Dd} (hN : n_ok N) (hlk : s_lkok N lk) : ∀ (m k w : Nat) (G : s_G), s_dwn N G → s_dwn N (s_plays N lk ds m k w G).2.2 := by
  intro m
  induction m with
  | zero => intro k w G h; exact h
  | succ m ih =>
    intro k w G h
    unfold s_plays
    cases e : s_does N lk (ds k) k G with
    | none => exact h
    | some G' => exact ih _ _ _ (h.does hN hlk e)
theorem s_dwn_begin {c : Nat → Nat → Int32} : s_dwn N (s_begin c) := fun l _ h2 => s_bit_0 h2
theorem s_dwn_play {ds : Nat → s_Dd} {c : Nat → Nat → Int32} (hN : n_ok N) (hlk : s_lkok N lk) : s_dwn N (s_play N lk ds n (s_begin c)).2.2 := s_dwn.plays hN hlk _ _ _ _ s_dwn_begin
/-- the cut links of the net are all -/
theorem s_cutN (h : s_dwn N G) (hN : n_ok N) : s_cntB (fun k => s_bit (g_down G) (nI k)) 15 = s_cntB (fun k => s_bit (g_down G) (nI k)) (n_links N) := by
  have h15 : n_links N ≤ 15 := hN.2.2.1.2
  unfold s_cntB
  obtain ⟨d, hd⟩ : ∃ d, 15 = n_links N + d := ⟨15 - n_links N, by omega⟩
  rw [hd]
  have H : ∀ d a, n_links N + d ≤ 15 → s_fold (fun k a => if s_bit (g_down G) (nI k) = true then a + 1 else a) 0 (n_links N + d) a = s_fold (fun k a => if s_bit (g_down G) (nI k) = true then a + 1 else a) 0 (n_links N) a := by
    intro d
    induction d with
    | zero => intro a _; rfl
    | succ d ih =>
      intro a hb
      have e : n_links N + (d + 1) = (n_links N + d) + 1 := rfl
      rw [e, s_fold_succ, ih a (by omega), if_neg]
      rw [h _ (by omega) (by omega)]
      decide
  exact H d 0 (by omega)
end T93
