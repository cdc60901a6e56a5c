/-! THE COMPONENT's LAW, 31: which entries data answer; what may be done first -/
set_option maxRecDepth 100000
set_option linter.unusedVariables false
/-- whether data of a name answer an entry -/
def s_wt (name : Int32) (fresh : Bool) (e : s_E) : Bool := decide (e.1 = name) && (decide (e.2.1 = 0) || fresh)
def s_mt (name : Int32) (fresh : Bool) : List Nat → List s_E → List Nat
  | x :: xs, e :: es => if s_wt name fresh e = true then x :: s_mt name fresh xs es else s_mt name fresh xs es
  | _, _ => []
section T93a
variable {name : Int32} {fresh : Bool}
theorem s_mt_snoc : ∀ (xs : List Nat) (es : List s_E) (x : Nat) (e : s_E), xs.length = es.length → s_mt name fresh (xs ++ [x]) (es ++ [e]) = s_mt name fresh xs es ++ (if s_wt name fresh e = true then [x] else [])
  | [], [], x, e, _ => by
    show (if s_wt name fresh e = true then x :: [] else []) = _
    rfl
  | [], _ :: _, _, _, h => by cases h
  | _ :: _, [], _, _, h => by cases h
  | y :: xs, f :: es, x, e, h => by
    have ih := s_mt_snoc xs es x e (by simpa using h)
    show (if s_wt name fresh f = true then y :: s_mt name fresh (xs ++ [x]) (es ++ [e]) else s_mt name fresh (xs ++ [x]) (es ++ [e])) = (if s_wt name fresh f = true then y :: s_mt name fresh xs es else s_mt name fresh xs es) ++ _
    rw [ih]
    by_cases c : s_wt name fresh f = true
    · rw [if_pos c, if_pos c]; rfl
    · rw [if_neg c, if_neg c]
theorem s_ff_is {es : List s_E} {i : Nat} {e : s_E} (he : es[i]? = some e) (hw : s_wt name fresh e = true) (hb : ∀ (j : Nat) (e' : s_E), j < i → es[j]? = some e' → s_wt name fresh e' = false) : s_ff name fresh es = some i := by
  unfold s_ff
  have hil := (List.getElem?_eq_some_iff.mp he).1
  refine s_find_is hil ?_ (fun j hj => ?_)
  · rw [he]; exact hw
  · obtain ⟨e', he'⟩ : ∃ e', es[j]? = some e' := ⟨_, List.getElem?_eq_getElem (by omega)⟩
    rw [he']
    exact hb j e' hj he'
theorem s_mt_cons : ∀ (xs : List Nat) (es : List s_E) (p : Nat) (R : List Nat), xs.length = es.length → s_mt name fresh xs es = p :: R → ∃ i e, xs[i]? = some p ∧ es[i]? = some e ∧ s_wt name fresh e = true ∧ (∀ (j : Nat) (e' : s_E), j < i → es[j]? = some e' → s_wt name fresh e' = false) ∧ s_mt name fresh (xs.eraseIdx i) (es.eraseIdx i) = R
  | [], _, p, R, _, h => by cases h
  | _ :: _, [], p, R, h, _ => by cases h
  | y :: xs, f :: es, p, R, hl, h => by
    by_cases c : s_wt name fresh f = true
    · have h' : (if s_wt name fresh f = true then y :: s_mt name fresh xs es else s_mt name fresh xs es) = p :: R := h
      rw [if_pos c] at h'
      obtain ⟨h1, h2⟩ := List.cons.inj h'
      exact ⟨0, f, by rw [h1]; rfl, rfl, c, fun j e' hj => absurd hj (Nat.not_lt_zero _), h2⟩
    · have h' : (if s_wt name fresh f = true then y :: s_mt name fresh xs es else s_mt name fresh xs es) = p :: R := h
      rw [if_neg c] at h'
      obtain ⟨i, e, a1, a2, a3, a4, a5⟩ := s_mt_cons xs es p R (by simpa using hl) h'
      refine ⟨i + 1, e, a1, a2, a3, fun j e' hj he' => ?_, ?_⟩
      · cases j with
        | zero =>
          have : f = e' := Option.some.inj he'
          rw [← this]
          simpa using c
        | succ j => exact a4 j e' (by omega) he'
      · show (if s_wt name fresh f = true then y :: s_mt name fresh (xs.eraseIdx i) (es.eraseIdx i) else s_mt name fresh (xs.eraseIdx i) (es.eraseIdx i)) = R
        rw [if_neg c]
        exact a5
theorem s_mt_nil : ∀ (xs : List Nat) (es : List s_E), xs.length = es.length → s_mt name fresh xs es = [] → ∀ (j : Nat) (e : s_E), es[j]? = some e → s_wt name fresh e = false
  | [], [], _, _ => fun j e h => by cases h
  | [], _ :: _, h, _ => by cases h
  | _ :: _, [], h, _ => by cases h
  | y :: xs, f :: es, hl, h => fun j e he => by
    have h' : (if s_wt name fresh f = true then y :: s_mt name fresh xs es else s_mt name fresh xs es) = [] := h
    by_cases c : s_wt name fresh f = true
    · rw [if_pos c] at h'; cases h'
    · rw [if_neg c] at h'
      cases j with
      | zero =>
        have : f = e := Option.some.inj he
        rw [← this]
        simpa using c
      | succ j => exact s_mt_nil xs es (by simpa using hl) h' j e he
theorem s_ff_no {es : List s_E} (h : ∀ (j : Nat) (e : s_E), es[j]? = some e → s_wt name fresh e = false) : s_ff name fresh es = none := by
  unfold s_ff
  refine s_find_no (fun j hj => ?_)
  obtain ⟨e', he'⟩ : ∃ e', es[j]? = some e' := ⟨_, List.getElem?_eq_getElem hj⟩
  rw [he']
  exact h j e' he'
end T93a
section T93
variable {N : s_R} {lk : Nat → Option Nat} {G : s_G} {n i t k : Nat} {name wish kind nonce : Int32} {r : s_Q} {x : Nat → s_N} {e : s_E}
theorem s_send_snd : s_send N lk kind n t name wish nonce r (g_snd G x) = g_snd (s_send N lk kind n t name wish nonce r G) x := by
  unfold s_send
  show (if s_up lk (g_down G) n t = true then _ else _) = _
  by_cases c : s_up lk (g_down G) n t = true
  · rw [if_pos c, if_pos c]; rfl
  · rw [if_neg c, if_neg c]; rfl
theorem s_data_snd : s_data N lk n t name r (g_snd G x) = g_snd (s_data N lk n t name r G) x := by
  unfold s_data
  by_cases c : t < 100
  · rw [if_pos c, if_pos c, s_send_snd]
  · rw [if_neg c, if_neg c]; rfl
theorem s_nack_snd : s_nack N lk n t name wish r (g_snd G x) = g_snd (s_nack N lk n t name wish r G) x := by
  unfold s_nack
  by_cases c : t < 100
  · rw [if_pos c, if_pos c, s_send_snd]
  · rw [if_neg c, if_neg c]; rfl
theorem s_fold_snd {st : Nat → s_G → s_G} (h : ∀ k G, st k (g_snd G x) = g_snd (st k G) x) : ∀ m k G, s_fold st k m (g_snd G x) = g_snd (s_fold st k m G) x := by
  intro m
  induction m with
  | zero => intro k G; rfl
  | succ m ih =>
    intro k G
    show s_fold st (k + 1) m (st k (g_snd G x)) = _
    rw [h, ih]
    rfl
theorem s_dataAll_snd {set : Int32} : s_dataAll N lk n set name r (g_snd G x) = g_snd (s_dataAll N lk n set name r G) x := s_fold_snd (fun k G => by
  by_cases c : s_bit set (nI k) = true
  · rw [if_pos c, if_pos c, s_data_snd]
  · rw [if_neg c, if_neg c]) _ _ _
theorem s_nackAll_snd {set : Int32} : s_nackAll N lk n set name wish r (g_snd G x) = g_snd (s_nackAll N lk n set name wish r G) x := s_fold_snd (fun k G => by
  by_cases c : s_bit set (nI k) = true
  · rw [if_pos c, if_pos c, s_nack_snd]
  · rw [if_neg c, if_neg c]) _ _ _
theorem s_getAll_snd {set : Int64} : s_getAll set r (g_snd G x) = g_snd (s_getAll set r G) x := s_fold_snd (fun k G => by
  by_cases c : s_hasL set (nI k) = true
  · rw [if_pos c, if_pos c]; rfl
  · rw [if_neg c, if_neg c]) _ _ _
theorem s_refuseAll_snd {set : Int64} : s_refuseAll set r (g_snd G x) = g_snd (s_refuseAll set r G) x := s_fold_snd (fun k G => by
  by_cases c : s_hasL set (nI k) = true
  · rw [if_pos c, if_pos c]; rfl
  · rw [if_neg c, if_neg c]) _ _ _
theorem s_lateAll_snd {set : Int64} : s_lateAll set (g_snd G x) = g_snd (s_lateAll set G) x := s_fold_snd (fun k G => by
  by_cases c : s_hasL set (nI k) = true
  · rw [if_pos c, if_pos c]; rfl
  · rw [if_neg c, if_neg c]) _ _ _
theorem s_fold_nd {st : Nat → s_G → s_G} (h : ∀ k G, g_nd (st k G) = g_nd G) : ∀ m k G, g_nd (s_fold st k m G) = g_nd G := by
  intro m
  induction m with
  | zero => intro k G; rfl
  | succ m ih =>
    intro k G
    show g_nd (s_fold st (k + 1) m (st k G)) = _
    rw [ih, h]
theorem s_dataAll_nd {set : Int32} : g_nd (s_dataAll N lk n set name r G) = g_nd G := s_fold_nd (fun k G => by
  by_cases c : s_bit set (nI k) = true
  · rw [if_pos c]; exact g_nd_data.1
  · rw [if_neg c]) _ _ _
theorem s_nackAll_ndX {set : Int32} : g_nd (s_nackAll N lk n set name wish r G) = g_nd G := s_fold_nd (fun k G => by
  by_cases c : s_bit set (nI k) = true
  · rw [if_pos c]; exact g_nd_nack.1
  · rw [if_neg c]) _ _ _
theorem s_getAll_nd {set : Int64} : g_nd (s_getAll set r G) = g_nd G := s_fold_nd (fun k G => by
  by_cases c : s_hasL set (nI k) = true
  · rw [if_pos c]; rfl
  · rw [if_neg c]) _ _ _
theorem s_refuseAll_nd {set : Int64} : g_nd (s_refuseAll set r G) = g_nd G := s_fold_nd (fun k G => by
  by_cases c : s_hasL set (nI k) = true
  · rw [if_pos c]; rfl
  · rw [if_neg c]) _ _ _
/-- an entry is closed -/
def s_clo (n i : Nat) (x : Int64) (nd : Nat → s_N) : Nat → s_N := s_up1 nd n ((nd n).1.eraseIdx i, (nd n).2.1, (nd n).2.2 ||| x)
theorem s_close_snd {y : Int64} : s_close n i y G = g_snd G (s_clo n i y (g_nd G)) := by
  unfold s_close s_clo
  show g_snd (g_snd G (s_up1 (g_nd G) n ((g_nd G n).1, (g_nd G n).2.1, g_dead G n ||| y))) (s_up1 (s_up1 (g_nd G) n ((g_nd G n).1, (g_nd G n).2.1, g_dead G n ||| y)) n ((s_up1 (g_nd G) n ((g_nd G n).1, (g_nd G n).2.1, g_dead G n ||| y) n).1.eraseIdx i, (s_up1 (g_nd G) n ((g_nd G n).1, (g_nd G n).2.1, g_dead G n ||| y) n).2)) = _
  rw [s_up1_up1, s_up1_s]
  rfl
theorem s_answer_close : s_answer N lk n i e r G = s_getAll (e_asks e) r (s_dataAll N lk n (e_in e) (e_name e) r (s_close n i (e_nonces e) G)) := by
  have h1 : s_answer N lk n i e r G = s_close n i (e_nonces e) (s_getAll (e_asks e) r (s_dataAll N lk n (e_in e) (e_name e) r G)) := rfl
  rw [h1, s_close_snd, s_close_snd, s_dataAll_snd, s_getAll_snd, s_getAll_nd, s_dataAll_nd]
theorem s_nackOut_close : s_nackOut N lk n i e name wish r G = s_refuseAll (e_asks e) r (s_nackAll N lk n (e_in e) name wish r (s_close n i (e_nonces e) G)) := by
  have h1 : s_nackOut N lk n i e name wish r G = s_close n i (e_nonces e) (s_refuseAll (e_asks e) r (s_nackAll N lk n (e_in e) name wish r G)) := rfl
  rw [h1, s_close_snd, s_close_snd, s_nackAll_snd, s_refuseAll_snd, s_refuseAll_nd, s_nackAll_ndX]
end T93
