/-! THE COMPONENT's LAW, 68: how many asks an entry has -/
set_option maxRecDepth 100000
set_option linter.unusedVariables false
theorem s_setL_cnt (x : Int64) : (s_setL x).length = s_cntB (fun k => s_hasL x (nI k)) 64 := by
  unfold s_setL
  have H : ∀ n, ((List.range n).filter (fun k => s_hasL x (nI k))).length = s_cntB (fun k => s_hasL x (nI k)) n := by
    intro n
    induction n with
    | zero => rfl
    | succ n ih =>
      rw [List.range_succ, List.filter_append, List.length_append, ih, s_cntB_succ]
      by_cases c : s_hasL x (nI n) = true
      · rw [if_pos c, List.filter_cons_of_pos (p := fun k => s_hasL x (nI k)) c]; rfl
      · rw [if_neg c, List.filter_cons_of_neg (p := fun k => s_hasL x (nI k)) c]; rfl
  exact H 64
