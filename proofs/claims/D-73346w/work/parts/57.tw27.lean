/-! THE TWIN's LAW, 27: a minute goes by, in plain words -/
set_option maxRecDepth 100000
set_option linter.unusedVariables false
def m_due (m : s_M) : Int32 := m.1.2.2.2.2.2.2
def s_nowl (t : Int32) (ms : List s_M) : List s_M := ms.filter (fun m => decide (m_due m = t))
def s_restl (t : Int32) (ms : List s_M) : List s_M := ms.filter (fun m => !decide (m_due m = t))
def s_runAll (N : s_R) (lk : Nat → Option Nat) (Q : List s_M) (G : s_G) : s_G := Q.foldl (fun g m => s_comes N lk m g) G
def s_goesBy (N : s_R) (lk : Nat → Option Nat) (G : s_G) : s_G :=
  let G1 := s_endsAll N (g_sminute G (g_minute G + 1))
  s_runAll N lk (s_nowl (g_minute G1) (g_ways G1)) (g_sways G1 (s_restl (g_minute G1) (g_ways G1)))
section T57
variable {N : s_R} {lk : Nat → Option Nat} {G G' : s_G} {K : Nat} {W : s_W} {t tm : Nat} {Q : List s_M} {P : Nat} {z y z' y' : Int}
theorem s_inv.ends1 {n i : Nat} {e : s_E} (h : s_inv N K W t tm Q P z y G) (hK : K ≤ 64) (hn : n < 6) (he : (g_es G n)[i]? = some e) : s_inv N K W t tm Q P z y (s_ends1 N n i e G) := by
  obtain ⟨h1, h2, h3⟩ := s_ends1_nd (N := N) (n := n) (i := i) (e := e) (G := G)
  have hc := h.close hK hn he
  exact (hc.congr (G' := s_ends1 N n i e G) h1 h2 h3).weak (by omega) (by omega)
theorem s_endsN_same {n : Nat} : ∀ (m i : Nat) (G : s_G), g_ways (s_endsN N n m i G) = g_ways G ∧ g_minute (s_endsN N n m i G) = g_minute G ∧ ∀ j, ∀ e ∈ g_es (s_endsN N n m i G) j, e ∈ g_es G j := by
  intro m
  induction m with
  | zero => intro i G; exact ⟨rfl, rfl, fun _ _ h => h⟩
  | succ m ih =>
    intro i G
    unfold s_endsN
    cases he : (g_es G n)[i]? with
    | none => exact ⟨rfl, rfl, fun _ _ h => h⟩
    | some e =>
      show _ ∧ _ ∧ _
      by_cases c : e_ends e = g_minute G
      · simp only [if_pos c]
        obtain ⟨a1, a2, a3⟩ := ih i (s_ends1 N n i e G)
        obtain ⟨-, b2, b3⟩ := s_ends1_nd (N := N) (n := n) (i := i) (e := e) (G := G)
        exact ⟨a1.trans b2, a2.trans b3, fun j e' he' => s_ends1_es (a3 j e' he')⟩
      · simp only [if_neg c]
        exact ih (i + 1) G
theorem s_inv.endsN {n : Nat} (hK : K ≤ 64) (hn : n < 6) : ∀ (m i : Nat) (G : s_G), s_inv N K W t tm Q P z y G → s_inv N K W t tm Q P z y (s_endsN N n m i G) := by
  intro m
  induction m with
  | zero => intro i G h; exact h
  | succ m ih =>
    intro i G h
    unfold s_endsN
    cases he : (g_es G n)[i]? with
    | none => exact h
    | some e =>
      show s_inv _ _ _ _ _ _ _ _ _ (if _ then _ else _)
      split
      · exact ih i _ (h.ends1 hK hn he)
      · exact ih (i + 1) G h
theorem g_es_ends1 {n i : Nat} {e : s_E} : g_es (s_ends1 N n i e G) n = (g_es G n).eraseIdx i := by
  unfold g_es
  rw [s_ends1_nd.1]
  have e1 : g_es (g_sdead G n (g_dead G n ||| e_nonces e)) n = g_es G n := by
    unfold g_es g_sdead
    rw [g_nd_snd, s_up1_s]
  show (s_up1 (g_nd (g_sdead G n (g_dead G n ||| e_nonces e))) n ((g_es (g_sdead G n (g_dead G n ||| e_nonces e)) n).eraseIdx i, _) n).1 = _
  rw [s_up1_s]
  show (g_es (g_sdead G n (g_dead G n ||| e_nonces e)) n).eraseIdx i = _
  rw [e1]
  rfl
theorem s_endsN_ne {n : Nat} : ∀ (m i : Nat) (G : s_G), i + m = (g_es G n).length → (∀ j, j < i → ∀ e, (g_es G n)[j]? = some e → e_ends e ≠ g_minute G) → ∀ e ∈ g_es (s_endsN N n m i G) n, e_ends e ≠ g_minute G := by
  intro m
  induction m with
  | zero =>
    intro i G hm h e he
    obtain ⟨j, hj, q⟩ := List.getElem_of_mem he
    have hj' : j < (g_es G n).length := hj
    refine h j (by omega) e ?_
    rw [List.getElem?_eq_getElem hj']
    exact congrArg some q
  | succ m ih =>
    intro i G hm h e he
    have hi : i < (g_es G n).length := by omega
    unfold s_endsN at he
    rw [List.getElem?_eq_getElem hi] at he
    have he' : e ∈ g_es (if e_ends (g_es G n)[i] = g_minute G then s_endsN N n m i (s_ends1 N n i (g_es G n)[i] G) else s_endsN N n m (i + 1) G) n := he
    by_cases c : e_ends (g_es G n)[i] = g_minute G
    · rw [if_pos c] at he'
      obtain ⟨b1, b2, b3⟩ := s_ends1_nd (N := N) (n := n) (i := i) (e := (g_es G n)[i]) (G := G)
      have hes := g_es_ends1 (N := N) (n := n) (i := i) (e := (g_es G n)[i]) (G := G)
      rw [← b3]
      refine ih i _ (by rw [hes, List.length_eraseIdx_of_lt hi]; omega) (fun j hj e2 he2 => ?_) e he'
      rw [hes, List.getElem?_eraseIdx, if_pos hj] at he2
      rw [b3]
      exact h j hj e2 he2
    · rw [if_neg c] at he'
      refine ih (i + 1) G (by omega) (fun j hj e2 he2 => ?_) e he'
      by_cases q : j = i
      · subst q
        rw [List.getElem?_eq_getElem hi] at he2
        cases he2
        exact c
      · exact h j (by omega) e2 he2
theorem s_inv.endsAll (h : s_inv N K W t (t + 1) Q P z y G) (hK : K ≤ 64) (hN : n_ok N) : s_inv N K W t (t + 1) Q P z y (s_endsAll N G) ∧ g_ways (s_endsAll N G) = g_ways G ∧ g_minute (s_endsAll N G) = g_minute G ∧ ∀ n, n < n_nodes N → ∀ e ∈ g_es (s_endsAll N G) n, e_ends e ≠ g_minute G := by
  have hnn : n_nodes N ≤ 6 := hN.1.1.2
  have H := s_foldP (fun k (g : s_G) => s_inv N K W t (t + 1) Q P z y g ∧ g_ways g = g_ways G ∧ g_minute g = g_minute G ∧ ∀ n, n < k → ∀ e ∈ g_es g n, e_ends e ≠ g_minute G) (fun n G => s_endsN N n (g_es G n).length 0 G) (n_nodes N) (fun g k hg hk => by
    obtain ⟨g1, g2, g3, g4⟩ := hg
    obtain ⟨a1, a2, a3⟩ := s_endsN_same (N := N) (n := k) (g_es g k).length 0 g
    refine ⟨s_inv.endsN hK (by omega) _ _ _ g1, a1.trans g2, a2.trans g3, fun n hn e he => ?_⟩
    by_cases q : n = k
    · subst q
      rw [← g3]
      exact s_endsN_ne _ 0 g (by omega) (fun j hj => by omega) e he
    · exact g4 n (by omega) e (a3 n e he)) (n_nodes N) 0 G ⟨h, rfl, rfl, fun n hn => by omega⟩ (by omega)
  rw [Nat.zero_add] at H
  exact H
theorem split_len (p : s_M → Bool) : ∀ l : List s_M, (l.filter p).length + (l.filter (fun m => !p m)).length = l.length := by
  intro l
  induction l with
  | nil => rfl
  | cons a l ih =>
    by_cases c : p a = true
    · rw [List.filter_cons_of_pos c, List.filter_cons_of_neg (by simp [c])]
      simp only [List.length_cons]; omega
    · rw [List.filter_cons_of_neg c, List.filter_cons_of_pos (by simp [c])]
      simp only [List.length_cons]; omega
theorem split_ints (p : s_M → Bool) : ∀ l : List s_M, s_ints (l.filter p) + s_ints (l.filter (fun m => !p m)) = s_ints l := by
  intro l
  unfold s_ints
  induction l with
  | nil => rfl
  | cons a l ih =>
    by_cases c : p a = true
    · rw [List.filter_cons_of_pos c, List.filter_cons_of_neg (by simp [c])]
      simp only [List.countP_cons]; omega
    · rw [List.filter_cons_of_neg c, List.filter_cons_of_pos (by simp [c])]
      simp only [List.countP_cons]; omega
theorem s_inv.runAll (hN : n_ok N) (hlk : s_lkok N lk) (hK : K ≤ 64) : ∀ (Q : List s_M) (G : s_G), s_inv N K W t tm Q P z y G → s_inv N K W t tm [] P z y (s_runAll N lk Q G) := by
  intro Q
  induction Q with
  | nil => intro G h; exact h
  | cons m Q ih => intro G h; exact ih _ (h.comes hN hlk hK)
/-- a minute begins: the ends, what comes now set aside -/
theorem s_inv.begins (h : s_inv N K W t t [] 0 0 0 G) (ht : t + 1 ≤ 99) (hK : K ≤ 64) (hN : n_ok N) : s_inv N K W (t + 1) (t + 1) (s_nowl (nI (t + 1)) (g_ways G)) (s_nowl (nI (t + 1)) (g_ways G)).length 0 0 (g_sways (s_endsAll N (g_sminute G (g_minute G + 1))) (s_restl (nI (t + 1)) (g_ways G))) ∧ g_ways (s_endsAll N (g_sminute G (g_minute G + 1))) = g_ways G ∧ g_minute (s_endsAll N (g_sminute G (g_minute G + 1))) = nI (t + 1) := by
  obtain ⟨⟨⟨m1, m2, m3⟩, hnd, hQ, hW⟩, hc⟩ := h
  have hmin : g_minute (g_sminute G (g_minute G + 1)) = nI (t + 1) := by
    show g_minute G + 1 = _
    rw [m1]; exact nI_1 t
  have h1 : s_inv N K W t (t + 1) [] 0 0 0 (g_sminute G (g_minute G + 1)) := ⟨⟨⟨hmin, by omega, ht⟩, hnd, hQ, hW⟩, hc.congr rfl rfl⟩
  obtain ⟨⟨⟨-, hnd1, -, hW1⟩, hc1⟩, e1, e2, e3⟩ := h1.endsAll hK hN
  have ew : g_ways (s_endsAll N (g_sminute G (g_minute G + 1))) = g_ways G := e1
  refine ⟨⟨⟨⟨e2.trans hmin, Nat.le_refl _, ht⟩, fun n hn => ?_, fun m hm => ?_, fun m hm => ?_⟩, ?_⟩, ew, e2.trans hmin⟩
  · obtain ⟨o1, o2, o3, o4, o5⟩ := hnd1 n hn
    refine ⟨fun e he => ?_, o2, o3, o4, o5⟩
    obtain ⟨r1, ⟨x, x1, x2, x3⟩, ⟨o, p1, p2, p3⟩, r4⟩ := o1 e he
    refine ⟨r1, ⟨x, x1, ?_, x3⟩, ⟨o, p1, p2, p3⟩, r4⟩
    have hne := e3 n p3 e he
    rw [hmin, x1] at hne
    have : x ≠ t + 1 := fun q => hne (by rw [q])
    omega
  · exact (hW m (List.mem_filter.mp hm).1).1
  · have hm' : m ∈ s_restl (nI (t + 1)) (g_ways G) := hm
    obtain ⟨q1, q2⟩ := List.mem_filter.mp hm'
    obtain ⟨d1, x, x1, x2, x3⟩ := hW m q1
    refine ⟨d1, x, x1, ?_, x3⟩
    have hne : m_due m ≠ nI (t + 1) := by simpa using q2
    have : x ≠ t + 1 := fun q => hne (by show m.1.2.2.2.2.2.2 = _; rw [x1, q])
    omega
  · obtain ⟨I, R, c1, c2, c3⟩ := hc1
    rw [ew] at c1 c2
    have s1 := split_len (fun m => decide (m_due m = nI (t + 1))) (g_ways G)
    have s2 := split_ints (fun m => decide (m_due m = nI (t + 1))) (g_ways G)
    refine ⟨I, R, ?_, ?_, c3⟩
    · show (s_nowl (nI (t + 1)) (g_ways G)).length + (s_restl (nI (t + 1)) (g_ways G)).length ≤ _
      unfold s_nowl s_restl
      omega
    · show (R : Int) + ((s_ints (s_nowl (nI (t + 1)) (g_ways G)) + s_ints (s_restl (nI (t + 1)) (g_ways G)) + s_sum6 (s_oin (s_endsAll N (g_sminute G (g_minute G + 1)))) : Nat) : Int) + 0 ≤ _
      unfold s_nowl s_restl
      have e0 : s_ints [] = 0 := rfl
      rw [e0] at c2
      omega
theorem s_inv.P0 (h : s_inv N K W t tm Q P z y G) : s_inv N K W t tm Q 0 z y G := by
  obtain ⟨h0, I, R, h1, h2, h3⟩ := h
  exact ⟨h0, I, R, by omega, h2, h3⟩
theorem s_inv.goesBy (h : s_inv N K W t t [] 0 0 0 G) (ht : t + 1 ≤ 99) (hK : K ≤ 64) (hN : n_ok N) (hlk : s_lkok N lk) : s_inv N K W (t + 1) (t + 1) [] 0 0 0 (s_goesBy N lk G) := by
  obtain ⟨h1, h2, h3⟩ := h.begins ht hK hN
  have H := (s_inv.runAll hN hlk hK _ _ h1).P0
  show s_inv _ _ _ _ _ _ _ _ _ (s_runAll N lk (s_nowl (g_minute (s_endsAll N (g_sminute G (g_minute G + 1)))) (g_ways (s_endsAll N (g_sminute G (g_minute G + 1))))) (g_sways (s_endsAll N (g_sminute G (g_minute G + 1))) (s_restl (g_minute (s_endsAll N (g_sminute G (g_minute G + 1)))) (g_ways (s_endsAll N (g_sminute G (g_minute G + 1)))))))
  rw [h2, h3]
  exact H
end T57
