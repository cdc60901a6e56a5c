/-! THE TWIN's LAW, 10: an entry is made; an interest -/
set_option maxRecDepth 100000
section T40
variable {σ σ' : t_S} {N : s_R} {lk : Nat → Option Nat} {G : s_G}
def w_appE (σ : t_S) (n k : Nat) (c : Int32) (e : s_E) : t_S := t_sa (t_sa (t_sa (t_sa (t_sa (t_sl (t_sl (t_sa (t_sa (t_sa (t_sa σ 34 n c) 35 k e.1) 36 k e.2.1) 37 k e.2.2.1) 38 k e.2.2.2.1) 39 k e.2.2.2.2.1) 40 k e.2.2.2.2.2.1) 41 k e.2.2.2.2.2.2.1) 42 k e.2.2.2.2.2.2.2.1) 43 k e.2.2.2.2.2.2.2.2.1) 44 k e.2.2.2.2.2.2.2.2.2
theorem w_appE_a {n k : Nat} {c : Int32} {e : s_E} {a j : Nat} (h : ¬ (35 ≤ a ∧ a ≤ 44 ∧ j = k) ∧ ¬ (a = 34 ∧ j = n)) : t_a (w_appE σ n k c e) a j = t_a σ a j := by
  unfold w_appE
  simp only [t_a_sa, t_a_sl]
  by_cases hj : j = k
  · have e1 : ¬ a = 35 ∧ ¬ a = 36 ∧ ¬ a = 37 ∧ ¬ a = 40 ∧ ¬ a = 41 ∧ ¬ a = 42 ∧ ¬ a = 43 ∧ ¬ a = 44 := by omega
    simp [e1]
    intro q1 q2
    exact absurd ⟨q1, q2⟩ h.2
  · simp [hj]
    intro q1 q2
    exact absurd ⟨q1, q2⟩ h.2
theorem w_appE_c {n k : Nat} {c : Int32} {e : s_E} : t_a (w_appE σ n k c e) 34 n = c := by
  unfold w_appE
  simp [t_a_sa, t_a_sl]
theorem w_appE_l {n k : Nat} {c : Int32} {e : s_E} {a j : Nat} (h : ¬ ((a = 38 ∨ a = 39) ∧ j = k)) : t_l (w_appE σ n k c e) a j = t_l σ a j := by
  unfold w_appE
  simp only [t_l_sa, t_l_sl]
  rw [if_neg (by omega), if_neg (by omega)]
theorem w_appE_e {n k : Nat} {c : Int32} {e : s_E} : a_e (w_appE σ n k c e) k = e := by
  unfold a_e w_appE
  simp [t_a_sa, t_a_sl, t_l_sa, t_l_sl]
theorem w_appE_rel {n : Nat} {e : s_E} (h : t_rel σ N lk G) (hn : n < 6) (hc : (g_es G n).length < 64) : t_rel (w_appE σ n (64 * n + (g_es G n).length) (nI ((g_es G n).length + 1)) e) N lk (g_ses G n (g_es G n ++ [e])) ∧ t_out σ (w_appE σ n (64 * n + (g_es G n).length) (nI ((g_es G n).length + 1)) e) := by
  refine t_rel_nd (nd := s_up1 (g_nd G) n (g_es G n ++ [e], (g_nd G n).2)) h (fun _ => rfl) rfl (fun k j hk => w_appE_a (by omega)) (fun m hm => ?_)
  obtain ⟨⟨e1, e2, e3⟩, d1, l1⟩ := h.2.2.2.1 m hm
  have hd : t_ds (w_appE σ n (64 * n + (g_es G n).length) (nI ((g_es G n).length + 1)) e) m (g_ds G m) := t_ds_of (σ := σ) (fun k j q1 q2 => w_appE_a (by omega)) d1
  have hl28 : t_l (w_appE σ n (64 * n + (g_es G n).length) (nI ((g_es G n).length + 1)) e) 28 m = g_dead G m := (w_appE_l (by omega)).trans l1
  have other : ∀ j, j ≠ 64 * n + (g_es G n).length → a_e (w_appE σ n (64 * n + (g_es G n).length) (nI ((g_es G n).length + 1)) e) j = a_e σ j := fun j hj => by
    unfold a_e
    rw [w_appE_a (by omega), w_appE_a (by omega), w_appE_a (by omega), w_appE_l (by omega), w_appE_l (by omega), w_appE_a (by omega), w_appE_a (by omega), w_appE_a (by omega), w_appE_a (by omega), w_appE_a (by omega)]
  by_cases q : m = n
  · subst q
    rw [s_up1_s]
    refine ⟨⟨?_, ?_, fun k hk => ?_⟩, hd, hl28⟩
    · rw [w_appE_c]
      show _ = nI (g_es G m ++ [e]).length
      rw [List.length_append]; rfl
    · show (g_es G m ++ [e]).length ≤ 64
      rw [List.length_append]
      show (g_es G m).length + 1 ≤ 64
      omega
    · show a_e _ (64 * m + k) = (g_es G m ++ [e])[k]
      have hk' : k < (g_es G m).length + 1 := by
        have : k < (g_es G m ++ [e]).length := hk
        rw [List.length_append] at this
        exact this
      by_cases q2 : k = (g_es G m).length
      · subst q2
        rw [List.getElem_append_right (Nat.le_refl _), w_appE_e]
        simp only [Nat.sub_self, List.getElem_cons_zero]
      · rw [List.getElem_append_left (by omega), other _ (by omega)]
        exact e3 k (by omega)
  · rw [s_up1_n q]
    refine ⟨⟨?_, e2, fun k hk => ?_⟩, hd, hl28⟩
    · rw [w_appE_a (by omega)]
      exact e1
    · have hk' : k < (g_es G m).length := hk
      show a_e _ (64 * m + k) = (g_es G m)[k]
      rw [other _ (by omega)]
      exact e3 k hk'
/-- an interest's message is the same with any ready registers -/
theorem t_rel_send0 {n to : Nat} {name wish nonce : Int32} {r r' : s_Q} (h : t_rel σ N lk (s_send N lk 0 n to name wish nonce r G)) : t_rel σ N lk (s_send N lk 0 n to name wish nonce r' G) := by
  unfold s_send at h ⊢
  by_cases hu : s_up lk (g_down G) n to = true
  · rw [if_pos hu] at h ⊢
    obtain ⟨h1, h5, h6, h7, h8, ⟨w1, w2, w3⟩, h9⟩ := h
    refine ⟨h1, h5, h6, h7, h8, ⟨?_, ?_, fun i hi => ?_⟩, h9⟩
    · have e : (g_ways G ++ [((0, nI n, nI to, name, wish, nonce, s_due N lk G n to), r)]).length = (g_ways G ++ [((0, nI n, nI to, name, wish, nonce, s_due N lk G n to), r')]).length := by simp
      exact w1.trans (congrArg nI e)
    · have e : (g_ways G ++ [((0, nI n, nI to, name, wish, nonce, s_due N lk G n to), r)]).length = (g_ways G ++ [((0, nI n, nI to, name, wish, nonce, s_due N lk G n to), r')]).length := by simp
      exact e ▸ w2
    · have hi1 : i < (g_ways G ++ [((0, nI n, nI to, name, wish, nonce, s_due N lk G n to), r')]).length := hi
      have hi2 : i < (g_ways G ++ [((0, nI n, nI to, name, wish, nonce, s_due N lk G n to), r)]).length := by simpa using hi1
      have w := w3 i hi2
      show s_like (a_m σ i) (g_ways G ++ [((0, nI n, nI to, name, wish, nonce, s_due N lk G n to), r')])[i]
      have w' : s_like (a_m σ i) (g_ways G ++ [((0, nI n, nI to, name, wish, nonce, s_due N lk G n to), r)])[i] := w
      by_cases q : i < (g_ways G).length
      · rw [List.getElem_append_left q] at w' ⊢
        exact w'
      · rw [List.getElem_append_right (by omega)] at w' ⊢
        simp only [List.getElem_singleton] at w' ⊢
        exact ⟨w'.1, Or.inl (by rw [w'.1])⟩
  · rw [if_neg hu] at h ⊢
    exact h
/-- a new entry -/
def s_new (N : s_R) (name wish nonce : Int32) (G : s_G) : s_E := (name, wish, 0, 0, 0, nonce, -1, 0, 0, g_minute G + N 1)
def s_make (N : s_R) (lk : Nat → Option Nat) (n t : Nat) (name wish nonce : Int32) (G : s_G) : s_G :=
  match s_way N lk n (s_join t nonce (s_new N name wish nonce G)) G with
  | none => s_nack N lk n t name wish (1, 1, nI n, 0) G
  | some to => s_send N lk 0 n to name wish nonce (0, 0, 0, 0) (g_ses G n (g_es G n ++ [s_gone to (g_minute G) (s_join t nonce (s_new N name wish nonce G))]))
end T40
