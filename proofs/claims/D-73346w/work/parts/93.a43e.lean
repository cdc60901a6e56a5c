/-! THE COST, 4: minutes, runs -/
set_option maxRecDepth 100000
set_option linter.unusedVariables false
theorem s_sum6_le {f f' : Nat → Nat} (h : ∀ n, f n ≤ f' n) : s_sum6 f ≤ s_sum6 f' := by
  have e0 := h 0
  have e1 := h 1
  have e2 := h 2
  have e3 := h 3
  have e4 := h 4
  have e5 := h 5
  unfold s_sum6
  omega
section C4
variable {w : s_Wt} {N : s_R} {lk : Nat → Option Nat} {G G' : s_G} {K : Nat} {W : s_W} {t tm : Nat} {Q : List s_M} {P : Nat} {z y : Int} {x x' : Int}
theorem s_cc.comes {m : s_M} (hc : s_cc w N K (m :: Q) x G) (h : s_inv N K W t tm (m :: Q) P z y G) (hw : w_ok w) (hN : n_ok N) (hlk : s_lkok N lk) (hK : K ≤ 64) : s_cc w N K Q (x + (w_s w * (44 + k_comes N lk m G) : Nat)) (s_comes N lk m G) := by
  have hnn : n_nodes N ≤ 6 := hN.1.1.2
  have hw' := hw
  obtain ⟨b1, b2, b3, b4, b5, b6⟩ := hw'
  obtain ⟨⟨hm, hnd, hQ, hWy⟩, I, R, h1, h2, h3⟩ := h
  obtain ⟨⟨a, b, a1, a2, a3, a4, a5⟩, hnm, hkd, h0, hwi⟩ := hQ m (by simp)
  have h0' : s_inv0 N K W t tm Q G := ⟨hm, hnd, fun m' hm' => hQ m' (List.mem_cons_of_mem _ hm'), hWy⟩
  have va : v_ m.1.2.1 = a := by rw [a1]; exact v_nI (by omega)
  have vb : v_ m.1.2.2.1 = b := by rw [a2]; exact v_nI (by omega)
  have hs : ∃ z' : Int, s_inv N K W t tm Q P z' y G := by
    have e : s_ints Q ≤ s_ints (m :: Q) := by
      unfold s_ints
      rw [List.countP_cons]
      omega
    exact ⟨z, h0', I, R, h1, by omega, h3⟩
  obtain ⟨z', hs⟩ := hs
  have ex : ∀ v : Nat, s_mp w (m :: Q) = v + s_mp w Q → s_cc w N K Q (x + (v : Nat)) G := fun v hv => ⟨hc.1, by have := hc.2; rw [hv] at this; omega⟩
  have em : s_mp w (m :: Q) = (if m.1.1 = 0 then w_i w else w_r w) + s_mp w Q := by
    unfold s_mp
    rw [List.map_cons, List.sum_cons]
  unfold s_comes k_comes
  rw [va, vb]
  by_cases c : m.1.1 = 0
  · rw [if_pos c] at em
    rw [if_pos c, if_pos c]
    obtain ⟨k, k1, k2, k3⟩ := h0 c
    have H := (ex _ em).interest (n := b) (to := a) (k := k) (name := m.1.2.2.2.1) (wish := m.1.2.2.2.2.1) hw hN hlk (by omega) (Or.inl (by omega))
    rw [← k2] at H
    refine H.weak ?_
    unfold s_zi
    rw [if_pos (by omega), Nat.mul_comm (w_s w) (44 + 69)]
    omega
  · rw [if_neg c] at em
    rw [if_neg c, if_neg c]
    have hc2 := ex _ em
    by_cases c2 : m.1.1 = 1
    · rw [if_pos c2, if_pos c2]
      refine (hc2.dataCome hs hw hN hlk hK (by omega) hnm).weak ?_
      rw [Nat.mul_add, Nat.mul_comm (w_s w) 44]
      omega
    · rw [if_neg c2, if_neg c2]
      refine (hc2.nackComes hs hw hN hlk hK (by omega) hnm hwi).weak ?_
      rw [Nat.mul_add, Nat.mul_comm (w_s w) 44]
      omega
theorem s_cc.runAll (hw : w_ok w) (hN : n_ok N) (hlk : s_lkok N lk) (hK : K ≤ 64) : ∀ (Q : List s_M) (G : s_G) (x : Int), s_cc w N K Q x G → s_inv N K W t tm Q P z y G → s_cc w N K [] (x + (w_s w * (44 * Q.length + k_runAll N lk Q G) : Nat)) (s_runAll N lk Q G) := by
  intro Q
  induction Q with
  | nil => intro G x hc h; exact hc.weak (by show x + ((w_s w * (44 * 0 + 0) : Nat) : Int) ≤ x; simp)
  | cons m Q ih =>
    intro G x hc h
    have H := ih _ _ (hc.comes h hw hN hlk hK) (h.comes hN hlk hK)
    show s_cc w N K [] (x + ((w_s w * (44 * (Q.length + 1) + (k_comes N lk m G + k_runAll N lk Q (s_comes N lk m G))) : Nat) : Int)) (s_runAll N lk Q (s_comes N lk m G))
    refine H.weak ?_
    rw [show 44 * (Q.length + 1) + (k_comes N lk m G + k_runAll N lk Q (s_comes N lk m G)) = (44 + k_comes N lk m G) + (44 * Q.length + k_runAll N lk Q (s_comes N lk m G)) by omega, Nat.mul_add]
    omega
/-- an entry ends -/
theorem s_cc.ends1 {n i : Nat} {e : s_E} (hc : s_cc w N K Q x G) (h : s_inv N K W t tm Q P z y G) (hw : w_ok w) (hK : K ≤ 64) (hn : n < 6) (he : (g_es G n)[i]? = some e) : s_cc w N K Q (x + (w_s w * (9 + 18 * (s_setL (e_asks e)).length) : Nat)) (s_ends1 N n i e G) := by
  obtain ⟨e1, e2, e3⟩ := s_ends1_nd (N := N) (n := n) (i := i) (e := e) (G := G)
  have e4 : g_ways (s_close n i (e_nonces e) G) = g_ways G := by rw [s_close_snd]; rfl
  refine ((hc.close h hK hn he).congr e1 (e2.trans e4.symm)).weak ?_
  have hp := s_epot_pays hw e
  have e5 : w_s w * (9 + 18 * (s_setL (e_asks e)).length) ≤ w_s w * (54 + 23 * (s_pop (e_in e) + (s_setL (e_asks e)).length)) := Nat.mul_le_mul_left _ (by omega)
  omega
theorem s_cc.endsN {n : Nat} (hw : w_ok w) (hK : K ≤ 64) (hn : n < 6) : ∀ (m i : Nat) (G : s_G) (x : Int), s_cc w N K Q x G → s_inv N K W t tm Q P z y G → s_cc w N K Q (x + (w_s w * k_endsN N n m i G : Nat)) (s_endsN N n m i G) := by
  intro m
  induction m with
  | zero => intro i G x hc h; exact hc.weak (by show x + ((w_s w * 0 : Nat) : Int) ≤ x; simp)
  | succ m ih =>
    intro i G x hc h
    unfold s_endsN k_endsN
    cases he : (g_es G n)[i]? with
    | none => exact hc.weak (by show x + ((w_s w * 0 : Nat) : Int) ≤ x; simp)
    | some e =>
      show s_cc w N K Q (x + ((w_s w * (if e_ends e = g_minute G then _ else _) : Nat) : Int)) (if e_ends e = g_minute G then _ else _)
      by_cases c : e_ends e = g_minute G
      · rw [if_pos c, if_pos c]
        refine (ih _ _ _ (hc.ends1 h hw hK hn he) (h.ends1 hK hn he)).weak ?_
        rw [Nat.mul_add]
        omega
      · rw [if_neg c, if_neg c]
        exact ih _ _ _ hc h
theorem s_cc.endsAll (hw : w_ok w) (hK : K ≤ 64) : ∀ (m n : Nat) (G : s_G) (x : Int), n + m ≤ 6 → s_cc w N K Q x G → s_inv N K W t tm Q P z y G → s_cc w N K Q (x + (w_s w * k_endsAll N m n G : Nat)) (s_fold (fun n G => s_endsN N n (g_es G n).length 0 G) n m G) := by
  intro m
  induction m with
  | zero => intro n G x hn hc h; exact hc.weak (by show x + ((w_s w * 0 : Nat) : Int) ≤ x; simp)
  | succ m ih =>
    intro n G x hn hc h
    refine (ih (n + 1) _ _ (by omega) (s_cc.endsN (n := n) hw hK (by omega) (g_es G n).length 0 G x hc h) (s_inv.endsN hK (by omega) _ _ _ h)).weak ?_
    show x + ((w_s w * (k_endsN N n (g_es G n).length 0 G + k_endsAll N m (n + 1) (s_endsN N n (g_es G n).length 0 G)) : Nat) : Int) ≤ _
    rw [Nat.mul_add]
    omega
theorem s_mp_split (p : s_M → Bool) : ∀ l : List s_M, s_mp w (l.filter p) + s_mp w (l.filter (fun m => !p m)) = s_mp w l := by
  intro l
  unfold s_mp
  induction l with
  | nil => rfl
  | cons a l ih =>
    by_cases c : p a = true
    · rw [List.filter_cons_of_pos c, List.filter_cons_of_neg (by simp [c])]
      simp only [List.map_cons, List.sum_cons]; omega
    · rw [List.filter_cons_of_neg c, List.filter_cons_of_pos (by simp [c])]
      simp only [List.map_cons, List.sum_cons]; omega
theorem s_cc.begins (hc : s_cc w N K [] x G) (h : s_inv N K W t t [] 0 0 0 G) (hw : w_ok w) (ht : t + 1 ≤ 99) (hK : K ≤ 64) (hN : n_ok N) : s_cc w N K (s_nowl (nI (t + 1)) (g_ways G)) (x + (w_s w * k_endsAll N (n_nodes N) 0 (g_sminute G (g_minute G + 1)) : Nat)) (g_sways (s_endsAll N (g_sminute G (g_minute G + 1))) (s_restl (nI (t + 1)) (g_ways G))) := by
  have hnn : n_nodes N ≤ 6 := hN.1.1.2
  have hmin : g_minute (g_sminute G (g_minute G + 1)) = nI (t + 1) := by
    show g_minute G + 1 = _
    rw [h.1.1.1]; exact nI_1 t
  have h1 : s_inv N K W t (t + 1) [] 0 0 0 (g_sminute G (g_minute G + 1)) := ⟨⟨⟨hmin, by omega, ht⟩, h.1.2.1, h.1.2.2.1, h.1.2.2.2⟩, h.2.congr rfl rfl⟩
  have hc1 : s_cc w N K [] (x + (w_s w * k_endsAll N (n_nodes N) 0 (g_sminute G (g_minute G + 1)) : Nat)) (s_endsAll N (g_sminute G (g_minute G + 1))) := s_cc.endsAll hw hK (n_nodes N) 0 _ x (by omega) (hc.congr rfl rfl) h1
  obtain ⟨a1, a2, a3⟩ := h.begins ht hK hN
  refine ⟨hc1.1, ?_⟩
  have q := hc1.2
  rw [a2] at q
  have e0 : s_mp w [] = 0 := rfl
  rw [e0] at q
  have e1 := s_mp_split (w := w) (fun m => decide (m_due m = nI (t + 1))) (g_ways G)
  have e2 : s_mp w (s_nowl (nI (t + 1)) (g_ways G)) + s_mp w (s_restl (nI (t + 1)) (g_ways G)) = s_mp w (g_ways G) := e1
  show x + _ + ((s_mp w (s_nowl (nI (t + 1)) (g_ways G)) + s_mp w (s_restl (nI (t + 1)) (g_ways G)) + s_sum6 (fun n => s_ept w (g_es (s_endsAll N (g_sminute G (g_minute G + 1))) n)) : Nat) : Int) ≤ ((s_sum6 (fun n => s_ph w N K n (g_nd (s_endsAll N (g_sminute G (g_minute G + 1))) n)) : Nat) : Int)
  omega
theorem s_cc.goesBy (hc : s_cc w N K [] x G) (h : s_inv N K W t t [] 0 0 0 G) (hw : w_ok w) (ht : t + 1 ≤ 99) (hK : K ≤ 64) (hN : n_ok N) (hlk : s_lkok N lk) : s_cc w N K [] (x - (15 * w_s w : Nat) + (w_s w * k_goesBy N lk G : Nat)) (s_goesBy N lk G) := by
  obtain ⟨a1, a2, a3⟩ := h.begins ht hK hN
  have hc2 := hc.begins h hw ht hK hN
  unfold s_goesBy k_goesBy s_min1
  show s_cc w N K [] _ (s_runAll N lk (s_nowl (g_minute (s_endsAll N (g_sminute G (g_minute G + 1)))) (g_ways (s_endsAll N (g_sminute G (g_minute G + 1))))) (g_sways (s_endsAll N (g_sminute G (g_minute G + 1))) (s_restl (g_minute (s_endsAll N (g_sminute G (g_minute G + 1)))) (g_ways (s_endsAll N (g_sminute G (g_minute G + 1)))))))
  rw [a2, a3]
  have H := s_cc.runAll hw hN hlk hK _ _ _ hc2 a1
  refine H.weak ?_
  rw [show k_endsAll N (n_nodes N) 0 (g_sminute G (g_minute G + 1)) + 15 + 44 * (s_nowl (nI (t + 1)) (g_ways G)).length + k_runAll N lk (s_nowl (nI (t + 1)) (g_ways G)) (g_sways (s_endsAll N (g_sminute G (g_minute G + 1))) (s_restl (nI (t + 1)) (g_ways G))) = k_endsAll N (n_nodes N) 0 (g_sminute G (g_minute G + 1)) + (44 * (s_nowl (nI (t + 1)) (g_ways G)).length + k_runAll N lk (s_nowl (nI (t + 1)) (g_ways G)) (g_sways (s_endsAll N (g_sminute G (g_minute G + 1))) (s_restl (nI (t + 1)) (g_ways G)))) + 15 by omega, Nat.mul_add, Nat.mul_add, Nat.mul_comm (w_s w) 15]
  omega
theorem s_cc.ext {K' : Nat} (hc : s_cc w N K Q x G) (hK : K ≤ K') : s_cc w N K' Q x G := by
  refine ⟨hc.1, ?_⟩
  have h := hc.2
  have e : ∀ n, s_ph w N K n (g_nd G n) ≤ s_ph w N K' n (g_nd G n) := fun n => by
    refine Nat.mul_le_mul_left _ (Nat.add_le_add_right (Nat.mul_le_mul_left _ (s_dc_le _ hK)) _)
  have q : s_sum6 (fun n => s_ph w N K n (g_nd G n)) ≤ s_sum6 (fun n => s_ph w N K' n (g_nd G n)) := s_sum6_le e
  omega
theorem s_cc.ask {n k : Nat} {name wish : Int32} (hc : s_cc w N k [] x G) (hw : w_ok w) (hN : n_ok N) (hlk : s_lkok N lk) (hk : k < 64) (hn : n < 6) : s_cc w N (k + 1) [] (x - (w_e w + w_a w : Nat)) (s_ask N lk n k name wish G) := by
  have h1 := (hc.ext (K' := k + 1) (by omega)).congr (G' := s_asked k G) rfl rfl
  refine (h1.interest (n := n) (to := 100 + k) (k := k) (name := name) (wish := wish) hw hN hlk hn (Or.inr ⟨by omega, by omega⟩)).weak ?_
  unfold s_zi
  rw [if_neg (by omega)]
  omega
end C4
