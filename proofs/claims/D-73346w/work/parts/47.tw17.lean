/-! THE TWIN's LAW, 17: data come to all entries of their name -/
set_option maxRecDepth 100000
/-- all entries that want the data are answered, one behind the other -/
def s_answerAll (N : s_R) (lk : Nat → Option Nat) (n : Nat) (name : Int32) (fresh : Bool) (r : s_Q) : Nat → s_G → s_G
  | 0, G => G
  | m + 1, G => match s_ff name fresh (g_es G n) with
    | none => G
    | some i => match (g_es G n)[i]? with
      | none => G
      | some e => s_answerAll N lk n name fresh r m (s_answer N lk n i e r G)
theorem s_ff_lt {name : Int32} {fresh : Bool} {es : List s_E} {i : Nat} (h : s_ff name fresh es = some i) : i < es.length := by
  have := (s_find_some h).2.1
  omega
theorem s_ff_nil {name : Int32} {fresh : Bool} {es : List s_E} (h : es.length = 0) : s_ff name fresh es = none := by
  cases hs : s_ff name fresh es with
  | none => rfl
  | some i => have := s_ff_lt hs; omega
section T47
variable {σ σ' : t_S} {N : s_R} {lk : Nat → Option Nat} {G : s_G}
theorem g_ways_dataAll {n : Nat} {set name : Int32} {r : s_Q} : g_nd (s_dataAll N lk n set name r G) = g_nd G ∧ (g_ways (s_dataAll N lk n set name r G)).length ≤ (g_ways G).length + n_nodes N := by
  have H := s_foldP (fun k (g : s_G) => g_nd g = g_nd G ∧ (g_ways g).length ≤ (g_ways G).length + k) (fun to G => if s_bit set (nI to) = true then s_data N lk n to name r G else G) (n_nodes N) (fun g k hg hk => by
    show g_nd (if _ then _ else _) = _ ∧ (g_ways (if _ then _ else _)).length ≤ _
    by_cases c : s_bit set (nI k) = true
    · rw [if_pos c]
      obtain ⟨z1, z2⟩ := g_nd_data (N := N) (lk := lk) (name := name) (n := n) (t := k) (r := r) (G := g)
      exact ⟨z1.trans hg.1, by have := hg.2; omega⟩
    · rw [if_neg c]
      exact ⟨hg.1, by have := hg.2; omega⟩) (n_nodes N) 0 G ⟨rfl, by omega⟩ (by omega)
  rw [Nat.zero_add] at H
  exact H
theorem g_ways_getAll {set : Int64} {r : s_Q} : g_nd (s_getAll set r G) = g_nd G ∧ g_ways (s_getAll set r G) = g_ways G :=
  s_foldP (fun _ (g : s_G) => g_nd g = g_nd G ∧ g_ways g = g_ways G) (fun k G => if s_hasL set (nI k) = true then s_get r k G else G) 64 (fun g k hg hk => by
    show g_nd (if _ then _ else _) = _ ∧ g_ways (if _ then _ else _) = _
    by_cases c : s_hasL set (nI k) = true
    · rw [if_pos c]; exact hg
    · rw [if_neg c]; exact hg) 64 0 G ⟨rfl, rfl⟩ (by omega)
theorem g_answer {n i : Nat} {e : s_E} {r : s_Q} (hN : n_ok N) : g_es (s_answer N lk n i e r G) n = (g_es G n).eraseIdx i ∧ (g_ways (s_answer N lk n i e r G)).length ≤ (g_ways G).length + 6 := by
  have hnn : n_nodes N ≤ 6 := hN.1.1.2
  obtain ⟨a1, a2⟩ := g_ways_dataAll (N := N) (lk := lk) (G := G) (n := n) (set := e_in e) (name := e_name e) (r := r)
  obtain ⟨b1, b2⟩ := g_ways_getAll (G := s_dataAll N lk n (e_in e) (e_name e) r G) (set := e_asks e) (r := r)
  constructor
  · show g_es (g_ses _ n _) n = _
    rw [g_es_ses]
    have : g_es (g_sdead (s_getAll (e_asks e) r (s_dataAll N lk n (e_in e) (e_name e) r G)) n (g_dead (s_getAll (e_asks e) r (s_dataAll N lk n (e_in e) (e_name e) r G)) n ||| e_nonces e)) n = g_es G n := by
      unfold g_es g_sdead
      rw [g_nd_snd, s_up1_s, b1, a1]
    rw [this]
  · show (g_ways (s_getAll (e_asks e) r (s_dataAll N lk n (e_in e) (e_name e) r G))).length ≤ _
    rw [b2]
    omega
theorem p_dataCome_103 {n : Nat} {name : Int32} {fresh : Bool} {r : s_Q} (K : t_S → Option t_S) (hN : n_ok N) (hlk : ∀ i, i < 36 → ∀ l, lk i = some l → l < n_links N) (hn : n < 6) : ∀ (m f : Nat) (σ : t_S) (G : s_G), t_rel σ N lk G → t_reg σ r → (g_es G n).length = m → m < f → (g_ways G).length + 6 * m ≤ 4096 →
    ∃ σ', D_dataCome_103 (nI n) name (if fresh = true then 1 else 0) K f (match s_ff name fresh (g_es G n) with
      | some i => nI (64 * n + i)
      | none => -1) σ = K σ' ∧ t_rel σ' N lk (s_answerAll N lk n name fresh r m G) ∧ t_reg σ' r ∧ t_out σ σ' := by
  intro m
  induction m with
  | zero =>
    intro f σ G h hr hm hf hw
    obtain ⟨f, rfl⟩ : ∃ f', f = f' + 1 := ⟨f - 1, by omega⟩
    rw [s_ff_nil hm]
    exact ⟨σ, if_pos rfl, h, hr, t_out.refl⟩
  | succ m ih =>
    intro f σ G h hr hm hf hw
    obtain ⟨f, rfl⟩ : ∃ f', f = f' + 1 := ⟨f - 1, by omega⟩
    unfold s_answerAll
    cases hs : s_ff name fresh (g_es G n) with
    | none => exact ⟨σ, if_pos rfl, h, hr, t_out.refl⟩
    | some i =>
      have hi := s_ff_lt hs
      have hge : (g_es G n)[i]? = some (g_es G n)[i] := List.getElem?_eq_getElem hi
      have hlen := (h.2.2.2.1 n hn).1.2.1
      obtain ⟨s1, a1, a2, a3, a4⟩ := p_answers h hN hlk hr hn hge (by omega)
      obtain ⟨b1, b2⟩ := g_answer (N := N) (lk := lk) (G := G) (n := n) (i := i) (e := (g_es G n)[i]) (r := r) hN
      have hl2 : (g_es (s_answer N lk n i (g_es G n)[i] r G) n).length = m := by
        rw [b1, List.length_eraseIdx_of_lt hi]; omega
      obtain ⟨s2, c1, c2, c3, c4⟩ := ih f s1 _ a2 a3 hl2 (by omega) (by omega)
      simp only [hge]
      refine ⟨s2, ?_, c2, c3, a4.trans c4⟩
      show (if nI (64 * n + i) = -1 then _ else _) = _
      rw [if_neg (show ¬ nI (64 * n + i) = -1 from oI_none (by omega)), a1, x_bS, p_firstFor (a2.2.2.2.1 n hn).1 hn, x_bS]
      exact c1
end T47
