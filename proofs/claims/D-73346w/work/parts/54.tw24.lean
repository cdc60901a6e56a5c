/-! THE TWIN's LAW, 24: what holds of a run stays: answers -/
set_option maxRecDepth 100000
set_option linter.unusedVariables false
section T54
variable {N : s_R} {lk : Nat → Option Nat} {G G' : s_G} {K : Nat} {W : s_W} {t tm : Nat} {Q : List s_M} {P : Nat} {z y z' y' : Int}
/-- all that holds of a run -/
def s_inv (N : s_R) (K : Nat) (W : s_W) (t tm : Nat) (Q : List s_M) (P : Nat) (z y : Int) (G : s_G) : Prop := s_inv0 N K W t tm Q G ∧ s_cnt K Q P z y G
theorem s_inv.congr (h : s_inv N K W t tm Q P z y G) (h1 : g_nd G' = g_nd G) (h2 : g_ways G' = g_ways G) (h3 : g_minute G' = g_minute G) : s_inv N K W t tm Q P z y G' := ⟨h.1.congr h1 h2 h3, h.2.congr h1 h2⟩
theorem s_inv.weak (h : s_inv N K W t tm Q P z y G) (hz : z' ≤ z) (hy : y' ≤ y) : s_inv N K W t tm Q P z' y' G := ⟨h.1, h.2.weak hz hy⟩
def s_z (t : Nat) : Int := if t < 100 then 1 else 0
theorem s_inv.data {name : Int32} {n to : Nat} {r : s_Q} (h : s_inv N K W t tm Q P z y G) (hN : n_ok N) (hlk : s_lkok N lk) (hn : n < 6) (hto : s_to to) (hnm : s_wn name) : s_inv N K W t tm Q P (z - s_z to) y (s_data N lk n to name r G) := by
  unfold s_data s_z
  by_cases c : to < 100
  · rw [if_pos c, if_pos c]
    exact ⟨h.1.send hN hlk hn (by unfold s_to at hto; omega) (Or.inr (Or.inl rfl)) hnm (Or.inl rfl) (fun q => absurd q (by decide)), h.2.send (by decide)⟩
  · rw [if_neg c, if_neg c]
    exact (h.congr (G' := s_get r (to - 100) G) rfl rfl rfl).weak (by omega) (by omega)
theorem s_inv.nack {name wish : Int32} {n to : Nat} {r : s_Q} (h : s_inv N K W t tm Q P z y G) (hN : n_ok N) (hlk : s_lkok N lk) (hn : n < 6) (hto : s_to to) (hnm : s_wn name) (hw : wish = 0 ∨ wish = 1) : s_inv N K W t tm Q P (z - s_z to) y (s_nack N lk n to name wish r G) := by
  unfold s_nack s_z
  by_cases c : to < 100
  · rw [if_pos c, if_pos c]
    exact ⟨h.1.send hN hlk hn (by unfold s_to at hto; omega) (Or.inr (Or.inr rfl)) hnm hw (fun q => absurd q (by decide)), h.2.send (by decide)⟩
  · rw [if_neg c, if_neg c]
    exact (h.congr (G' := s_refuse r (to - 100) G) rfl rfl rfl).weak (by omega) (by omega)
/-- how many of the first k bits are set -/
def s_popK (x : Int32) : Nat → Nat
  | 0 => 0
  | k + 1 => s_popK x k + s_b1 x k
theorem s_popK_le (x : Int32) {k : Nat} (hk : k ≤ 6) : s_popK x k ≤ s_pop x := by
  have h : s_popK x 6 = s_pop x := by
    show 0 + s_b1 x 0 + s_b1 x 1 + s_b1 x 2 + s_b1 x 3 + s_b1 x 4 + s_b1 x 5 = _
    unfold s_pop
    omega
  have mono : ∀ m j, s_popK x j ≤ s_popK x (j + m) := by
    intro m
    induction m with
    | zero => intro j; exact Nat.le_refl _
    | succ m ih =>
      intro j
      have := ih j
      show _ ≤ s_popK x (j + m) + s_b1 x (j + m)
      omega
  have := mono (6 - k) k
  rw [show k + (6 - k) = 6 by omega, h] at this
  exact this
theorem s_inv.dataAll {set name : Int32} {n : Nat} {r : s_Q} (h : s_inv N K W t tm Q P z y G) (hN : n_ok N) (hlk : s_lkok N lk) (hn : n < 6) (hnm : s_wn name) : s_inv N K W t tm Q P (z - (s_pop set : Nat)) y (s_dataAll N lk n set name r G) := by
  have hnn : n_nodes N ≤ 6 := hN.1.1.2
  have H := s_foldP (fun k (g : s_G) => s_inv N K W t tm Q P (z - (s_popK set k : Nat)) y g) (fun to G => if s_bit set (nI to) = true then s_data N lk n to name r G else G) (n_nodes N) (fun g k hg hk => by
    show s_inv N K W t tm Q P (z - ((s_popK set k + s_b1 set k : Nat) : Int)) y (if _ then _ else _)
    by_cases c : s_bit set (nI k) = true
    · rw [if_pos c]
      have q := hg.data (r := r) hN hlk hn (show s_to k from Or.inl (by omega)) hnm
      have e : s_b1 set k = 1 := if_pos c
      have e2 : s_z k = 1 := if_pos (by omega)
      rw [e2] at q
      rw [e]
      exact q.weak (by omega) (by omega)
    · rw [if_neg c]
      have e : s_b1 set k = 0 := if_neg c
      rw [e]
      exact hg) (n_nodes N) 0 G (by show s_inv N K W t tm Q P (z - ((0 : Nat) : Int)) y G; exact h.weak (by omega) (by omega)) (by omega)
  have := s_popK_le set hnn
  rw [Nat.zero_add] at H
  exact s_inv.weak H (by omega) (by omega)
theorem s_inv.nackAll {set name wish : Int32} {n : Nat} {r : s_Q} (h : s_inv N K W t tm Q P z y G) (hN : n_ok N) (hlk : s_lkok N lk) (hn : n < 6) (hnm : s_wn name) (hw : wish = 0 ∨ wish = 1) : s_inv N K W t tm Q P (z - (s_pop set : Nat)) y (s_nackAll N lk n set name wish r G) := by
  have hnn : n_nodes N ≤ 6 := hN.1.1.2
  have H := s_foldP (fun k (g : s_G) => s_inv N K W t tm Q P (z - (s_popK set k : Nat)) y g) (fun to G => if s_bit set (nI to) = true then s_nack N lk n to name wish r G else G) (n_nodes N) (fun g k hg hk => by
    show s_inv N K W t tm Q P (z - ((s_popK set k + s_b1 set k : Nat) : Int)) y (if _ then _ else _)
    by_cases c : s_bit set (nI k) = true
    · rw [if_pos c]
      have q := hg.nack (r := r) hN hlk hn (show s_to k from Or.inl (by omega)) hnm hw
      have e : s_b1 set k = 1 := if_pos c
      have e2 : s_z k = 1 := if_pos (by omega)
      rw [e2] at q
      rw [e]
      exact q.weak (by omega) (by omega)
    · rw [if_neg c]
      have e : s_b1 set k = 0 := if_neg c
      rw [e]
      exact hg) (n_nodes N) 0 G (by show s_inv N K W t tm Q P (z - ((0 : Nat) : Int)) y G; exact h.weak (by omega) (by omega)) (by omega)
  have := s_popK_le set hnn
  rw [Nat.zero_add] at H
  exact s_inv.weak H (by omega) (by omega)
theorem s_minute_send {kind name wish nonce : Int32} {n to : Nat} {r : s_Q} : g_minute (s_send N lk kind n to name wish nonce r G) = g_minute G := by
  unfold s_send
  split <;> rfl
theorem s_getAll_same {set : Int64} {r : s_Q} : g_nd (s_getAll set r G) = g_nd G ∧ g_ways (s_getAll set r G) = g_ways G ∧ g_minute (s_getAll set r G) = g_minute G :=
  s_foldP (fun _ (g : s_G) => g_nd g = g_nd G ∧ g_ways g = g_ways G ∧ g_minute g = g_minute G) (fun k G => if s_hasL set (nI k) = true then s_get r k G else G) 64 (fun g k hg hk => by
    show g_nd (if _ then _ else _) = _ ∧ g_ways (if _ then _ else _) = _ ∧ g_minute (if _ then _ else _) = _
    by_cases c : s_hasL set (nI k) = true
    · rw [if_pos c]; exact hg
    · rw [if_neg c]; exact hg) 64 0 G ⟨rfl, rfl, rfl⟩ (by omega)
theorem s_refuseAll_same {set : Int64} {r : s_Q} : g_nd (s_refuseAll set r G) = g_nd G ∧ g_ways (s_refuseAll set r G) = g_ways G ∧ g_minute (s_refuseAll set r G) = g_minute G :=
  s_foldP (fun _ (g : s_G) => g_nd g = g_nd G ∧ g_ways g = g_ways G ∧ g_minute g = g_minute G) (fun k G => if s_hasL set (nI k) = true then s_refuse r k G else G) 64 (fun g k hg hk => by
    show g_nd (if _ then _ else _) = _ ∧ g_ways (if _ then _ else _) = _ ∧ g_minute (if _ then _ else _) = _
    by_cases c : s_hasL set (nI k) = true
    · rw [if_pos c]; exact hg
    · rw [if_neg c]; exact hg) 64 0 G ⟨rfl, rfl, rfl⟩ (by omega)
theorem s_nackAll_nd {n : Nat} {set name wish : Int32} {r : s_Q} : g_nd (s_nackAll N lk n set name wish r G) = g_nd G :=
  s_foldP (fun _ (g : s_G) => g_nd g = g_nd G) (fun to G => if s_bit set (nI to) = true then s_nack N lk n to name wish r G else G) (n_nodes N) (fun g k hg hk => by
    show g_nd (if _ then _ else _) = _
    by_cases c : s_bit set (nI k) = true
    · rw [if_pos c]
      exact (g_nd_nack (N := N) (lk := lk) (name := name) (wish := wish) (n := n) (t := k) (r := r) (G := g)).1.trans hg
    · rw [if_neg c]; exact hg) (n_nodes N) 0 G rfl (by omega)
/-- sums over lists with one taken out -/
theorem sum_eraseIdx {f : s_E → Nat} : ∀ {l : List s_E} {i : Nat} {e : s_E}, l[i]? = some e → ((l.eraseIdx i).map f).sum + f e = (l.map f).sum := by
  intro l
  induction l with
  | nil => intro i e h; simp at h
  | cons a l ih =>
    intro i e h
    cases i with
    | zero =>
      have : a = e := by simpa using h
      subst this
      simp
      omega
    | succ i =>
      have h' : l[i]? = some e := by simpa using h
      have := ih h'
      simp only [List.eraseIdx_cons_succ, List.map_cons, List.sum_cons]
      omega
theorem sum_set {f : s_E → Nat} {e' : s_E} : ∀ {l : List s_E} {i : Nat} {e : s_E}, l[i]? = some e → ((l.set i e').map f).sum + f e = (l.map f).sum + f e' := by
  intro l
  induction l with
  | nil => intro i e h; simp at h
  | cons a l ih =>
    intro i e h
    cases i with
    | zero =>
      have : a = e := by simpa using h
      subst this
      simp
      omega
    | succ i =>
      have h' : l[i]? = some e := by simpa using h
      have := ih h'
      simp only [List.set_cons_succ, List.map_cons, List.sum_cons]
      omega
/-- the others have other pairs -/
theorem nodup_erase_ne {α : Type} {f : s_E → α} : ∀ {l : List s_E} {i : Nat} {e : s_E}, (l.map f).Nodup → l[i]? = some e → ∀ e' ∈ l.eraseIdx i, f e' ≠ f e := by
  intro l
  induction l with
  | nil => intro i e _ h; simp at h
  | cons a l ih =>
    intro i e hn h e' he'
    rw [List.map_cons, List.nodup_cons] at hn
    cases i with
    | zero =>
      have : a = e := by simpa using h
      subst this
      have q : e' ∈ l := by simpa using he'
      intro c
      exact hn.1 (c ▸ List.mem_map_of_mem (f := f) q)
    | succ i =>
      have h' : l[i]? = some e := by simpa using h
      have q : e' = a ∨ e' ∈ l.eraseIdx i := by simpa using he'
      rcases q with q | q
      · subst q
        intro c
        exact hn.1 (c ▸ List.mem_map_of_mem (f := f) (List.mem_of_getElem? h'))
      · exact ih hn.2 h' e' q
theorem s_eok.dead {n : Nat} {dead x : Int64} {e e' : s_E} (hK : K ≤ 64) (h : s_eok N K W t n dead e) (h' : s_eok N K W t n dead e') (hne : (e'.1, e'.2.1) ≠ (e.1, e.2.1)) : s_eok N K W t n (dead ||| e_nonces e) e' := by
  obtain ⟨⟨k, k1, k2, k3, k4, k5⟩, r⟩ := h'
  refine ⟨⟨k, k1, k2, k3, k4, ?_⟩, r⟩
  rw [s_hasL_or _ _ (by omega), k5, Bool.false_or]
  cases q : s_hasL (e_nonces e) (nI k) with
  | false => rfl
  | true =>
    obtain ⟨-, q2⟩ := h.2.2.2.1 k (by omega) q
    exact absurd (k3.symm.trans q2) hne
/-- an entry is no more; its nonces are dead -/
theorem s_inv.close {n i : Nat} {e : s_E} (h : s_inv N K W t tm Q P z y G) (hK : K ≤ 64) (hn : n < 6) (he : (g_es G n)[i]? = some e) : s_inv N K W t tm Q P (z + (s_pop (e_in e) : Nat)) y (s_close n i (e_nonces e) G) := by
  obtain ⟨⟨hm, hnd, hQ, hW⟩, hc⟩ := h
  obtain ⟨o1, o2, o3, o4⟩ := hnd n hn
  have hmem : e ∈ g_es G n := List.mem_of_getElem? he
  have hE := o1 e hmem
  have eq : s_close n i (e_nonces e) G = g_snd G (s_up1 (g_nd G) n ((g_es G n).eraseIdx i, g_ds G n, g_dead G n ||| e_nonces e)) := by
    show g_snd (g_snd G _) _ = g_snd G _
    have e1 : s_up1 (g_nd (g_sdead G n (g_dead G n ||| e_nonces e))) n ((g_es (g_sdead G n (g_dead G n ||| e_nonces e)) n).eraseIdx i, (g_nd (g_sdead G n (g_dead G n ||| e_nonces e)) n).2) = s_up1 (g_nd G) n ((g_es G n).eraseIdx i, g_ds G n, g_dead G n ||| e_nonces e) := by
      funext j
      unfold s_up1
      by_cases q : j = n
      · subst q
        rw [if_pos rfl, if_pos rfl]
        unfold g_sdead g_es g_ds
        rw [g_nd_snd, s_up1_s]
      · rw [if_neg q, if_neg q]
        unfold g_sdead
        rw [g_nd_snd, s_up1_n q]
    rw [e1]
    rfl
  rw [eq]
  constructor
  · refine ⟨hm, fun m hm2 => ?_, hQ, hW⟩
    rw [g_nd_snd]
    by_cases q : m = n
    · subst q
      rw [s_up1_s]
      refine ⟨fun e' he' => ?_, ?_, o3, o4⟩
      · have hin : e' ∈ g_es G m := (List.eraseIdx_sublist _ _).subset he'
        exact (s_eok.dead (x := 0) hK hE (o1 e' hin) (nodup_erase_ne o2 he e' he'))
      · exact List.Nodup.sublist ((List.eraseIdx_sublist _ _).map _) o2
    · rw [s_up1_n q]
      exact hnd m hm2
  · obtain ⟨k, k1, k2, k3, k4, k5⟩ := hE.1
    have h5 : s_pop (e_tried e) ≤ 5 := s_pop_le5 _ hn hE.2.2.2.2.2.1
    have hd := s_dc_lt (K := K) (k0 := k) (g_dead G n) (g_dead G n ||| e_nonces e) (fun j hj hx => by rw [s_hasL_or _ _ (by omega), hx]; rfl) k1 k5 (by rw [s_hasL_or _ _ (by omega), k4, Bool.or_true])
    have s1 := sum_eraseIdx (f := fun e => s_pop (e_in e)) he
    have s2 := sum_eraseIdx (f := fun e => s_pop (e_tried e)) he
    refine hc.node (nd := ((g_es G n).eraseIdx i, g_ds G n, g_dead G n ||| e_nonces e)) hn ?_ ?_
    · show _ + ((((g_es G n).eraseIdx i).map _).sum : Nat) ≤ z + (((g_es G n).map _).sum : Nat)
      omega
    · show y + ((5 * s_dc K (g_dead G n) + ((g_es G n).map _).sum : Nat) : Int) ≤ y + ((5 * s_dc K (g_dead G n ||| e_nonces e) + (((g_es G n).eraseIdx i).map _).sum : Nat) : Int)
      omega
theorem s_inv.answer {n i : Nat} {e : s_E} {r : s_Q} (h : s_inv N K W t tm Q P z y G) (hN : n_ok N) (hlk : s_lkok N lk) (hK : K ≤ 64) (hn : n < 6) (he : (g_es G n)[i]? = some e) : s_inv N K W t tm Q P z y (s_answer N lk n i e r G) := by
  have hE := (h.1.2.1 n hn).1 e (List.mem_of_getElem? he)
  have h1 := h.dataAll (set := e_in e) (r := r) hN hlk hn hE.2.2.2.2.2.2.1
  obtain ⟨g1, g2, g3⟩ := s_getAll_same (set := e_asks e) (r := r) (G := s_dataAll N lk n (e_in e) (e_name e) r G)
  have h2 := h1.congr g1 g2 g3
  have hes : (g_es (s_getAll (e_asks e) r (s_dataAll N lk n (e_in e) (e_name e) r G)) n)[i]? = some e := by
    unfold g_es
    rw [g1, (g_ways_dataAll (N := N) (lk := lk) (G := G) (n := n) (set := e_in e) (name := e_name e) (r := r)).1]
    exact he
  exact (h2.close hK hn hes).weak (by omega) (by omega)
theorem s_inv.nackOut {n i : Nat} {e : s_E} {name wish : Int32} {r : s_Q} (h : s_inv N K W t tm Q P z y G) (hN : n_ok N) (hlk : s_lkok N lk) (hK : K ≤ 64) (hn : n < 6) (he : (g_es G n)[i]? = some e) (hnm : s_wn name) (hw : wish = 0 ∨ wish = 1) : s_inv N K W t tm Q P z y (s_nackOut N lk n i e name wish r G) := by
  have h1 := h.nackAll (set := e_in e) (r := r) hN hlk hn hnm hw
  obtain ⟨g1, g2, g3⟩ := s_refuseAll_same (set := e_asks e) (r := r) (G := s_nackAll N lk n (e_in e) name wish r G)
  have h2 := h1.congr g1 g2 g3
  have hes : (g_es (s_refuseAll (e_asks e) r (s_nackAll N lk n (e_in e) name wish r G)) n)[i]? = some e := by
    unfold g_es
    rw [g1, s_nackAll_nd]
    exact he
  exact (h2.close hK hn hes).weak (by omega) (by omega)
theorem s_inv.answerAll {n : Nat} {name : Int32} {fresh : Bool} {r : s_Q} (hN : n_ok N) (hlk : s_lkok N lk) (hK : K ≤ 64) (hn : n < 6) : ∀ (m : Nat) (G : s_G), s_inv N K W t tm Q P z y G → s_inv N K W t tm Q P z y (s_answerAll N lk n name fresh r m G) := by
  intro m
  induction m with
  | zero => intro G h; exact h
  | succ m ih =>
    intro G h
    unfold s_answerAll
    cases s_ff name fresh (g_es G n) with
    | none => exact h
    | some i =>
      show s_inv _ _ _ _ _ _ _ _ _ (match (g_es G n)[i]? with
        | none => G
        | some e => _)
      cases he : (g_es G n)[i]? with
      | none => exact h
      | some e => exact ih _ (h.answer hN hlk hK hn he)
theorem s_find_nodup {ds : List s_D} {name : Int32} (h : s_at name ds = none) : ∀ d ∈ ds, d.1 ≠ name := by
  intro d hd c
  obtain ⟨i, hi, e⟩ := List.getElem_of_mem hd
  have := s_find_none h i (by omega) (by omega)
  rw [List.getElem?_map, List.getElem?_eq_getElem hi, e] at this
  simp [c] at this
/-- what is put into a store -/
theorem s_put_ok {ds : List s_D} {d : s_D} {room : Nat} (h1 : (ds.map (fun d => d.1)).Nodup) (h2 : ds.length ≤ room) (h3 : ∀ d ∈ ds, s_wn d.1) (hd : s_wn d.1) : ((s_put room d ds).map (fun d => d.1)).Nodup ∧ (s_put room d ds).length ≤ room ∧ ∀ d' ∈ s_put room d ds, s_wn d'.1 := by
  have a1 : ((s_erase1 d.1 ds).map (fun d => d.1)).Nodup ∧ (s_erase1 d.1 ds).length ≤ room ∧ (∀ d' ∈ s_erase1 d.1 ds, s_wn d'.1) ∧ ∀ d' ∈ s_erase1 d.1 ds, d'.1 ≠ d.1 := by
    unfold s_erase1
    cases hs : s_at d.1 ds with
    | none => exact ⟨h1, h2, h3, s_find_nodup hs⟩
    | some i =>
      have hi := s_at_lt hs
      have hp := (s_find_some hs).2.2.1
      rw [List.getElem?_map, List.getElem?_eq_getElem hi] at hp
      have hp' : ds[i].1 = d.1 := by simpa using hp
      refine ⟨List.Nodup.sublist ((List.eraseIdx_sublist _ _).map _) h1, ?_, fun d' hd' => h3 d' ((List.eraseIdx_sublist _ _).subset hd'), fun d' hd' c => ?_⟩
      · show (ds.eraseIdx i).length ≤ room
        rw [List.length_eraseIdx_of_lt hi]; omega
      · obtain ⟨j, hj, e⟩ := List.getElem_of_mem hd'
        have hj' : j < (ds.eraseIdx i).length := hj
        rw [List.length_eraseIdx_of_lt hi] at hj'
        have e2 : (ds.eraseIdx i)[j] = d' := e
        rw [List.getElem_eraseIdx] at e2
        have hpw := List.nodup_iff_pairwise_ne.mp h1
        rw [List.pairwise_iff_getElem] at hpw
        split at e2
        · rename_i hlt
          have := hpw j i (by simp; omega) (by simp; omega) hlt
          rw [List.getElem_map, List.getElem_map, e2, hp'] at this
          exact this c
        · rename_i hlt
          have := hpw i (j + 1) (by simp; omega) (by simp; omega) (by omega)
          rw [List.getElem_map, List.getElem_map, e2, hp'] at this
          exact this c.symm
  obtain ⟨b1, b2, b3, b4⟩ := a1
  have c1 : ((s_erase1 d.1 ds ++ [d]).map (fun d => d.1)).Nodup := by
    rw [List.map_append, List.nodup_append]
    refine ⟨b1, by simp, fun x hx w hw c => ?_⟩
    obtain ⟨d', q1, q2⟩ := List.mem_map.mp hx
    have : w = d.1 := by simpa using hw
    exact b4 d' q1 (q2.trans (c.trans this))
  have c2 : (s_erase1 d.1 ds ++ [d]).length ≤ room + 1 := by
    rw [List.length_append]
    show _ + 1 ≤ _
    omega
  have c3 : ∀ d' ∈ s_erase1 d.1 ds ++ [d], s_wn d'.1 := by
    intro d' hd'
    rcases List.mem_append.mp hd' with q | q
    · exact b3 d' q
    · rw [List.mem_singleton.mp q]; exact hd
  unfold s_put s_trim
  split
  · rename_i hlt
    refine ⟨List.Nodup.sublist ((List.eraseIdx_sublist _ _).map _) c1, ?_, fun d' hd' => c3 d' ((List.eraseIdx_sublist _ _).subset hd')⟩
    rw [List.length_eraseIdx_of_lt (by omega)]
    omega
  · rename_i hlt
    exact ⟨c1, by omega, c3⟩
theorem s_inv.sds {n : Nat} {d : s_D} (h : s_inv N K W t tm Q P z y G) (hn : n < 6) (hd : s_wn d.1) : s_inv N K W t tm Q P z y (g_sds G n (s_put (n_room N n) d (g_ds G n))) := by
  obtain ⟨⟨hm, hnd, hQ, hW⟩, hc⟩ := h
  obtain ⟨o1, o2, o3, o4, o5⟩ := hnd n hn
  obtain ⟨p1, p2, p3⟩ := s_put_ok (room := n_room N n) (ds := g_ds G n) (d := d) o3 o4 o5 hd
  constructor
  · refine ⟨hm, fun m hm2 => ?_, hQ, hW⟩
    unfold g_sds
    rw [g_nd_snd]
    by_cases q : m = n
    · subst q
      rw [s_up1_s]
      exact ⟨o1, o2, p1, p2, p3⟩
    · rw [s_up1_n q]
      exact hnd m hm2
  · exact hc.node (nd := ((g_nd G n).1, s_put (n_room N n) d (g_ds G n), (g_nd G n).2.2)) hn (Int.le_refl _) (Int.le_refl _)
theorem s_inv.dataCome {n fr : Nat} {name : Int32} {r : s_Q} (h : s_inv N K W t tm Q P z y G) (hN : n_ok N) (hlk : s_lkok N lk) (hK : K ≤ 64) (hn : n < 6) (hnm : s_wn name) : s_inv N K W t tm Q P z y (s_dataCome N lk n fr name r G) := by
  rw [s_dataCome_el]
  cases hs : s_ff name (decide (¬ r.1 < g_minute G)) (g_es G n) with
  | none => exact h.congr (G' := g_sdropped G (g_dropped G + 1)) rfl rfl rfl
  | some i =>
    show s_inv _ _ _ _ _ _ _ _ _ (s_el _ _ _)
    cases s_which (some i) (g_es G n) with
    | none => exact h
    | some p =>
      show s_inv _ _ _ _ _ _ _ _ _ (s_answerAll _ _ _ _ _ _ _ _)
      have h1 : s_inv N K W t tm Q P z y (s_dataMeas n fr p.2 G) := by
        unfold s_dataMeas
        split
        · exact h.congr rfl rfl rfl
        · exact h
      have h2 : s_inv N K W t tm Q P z y (s_dataKeep N n name r (s_dataMeas n fr p.2 G)) := by
        unfold s_dataKeep
        split
        · exact h1.sds (d := (name, r.1, r.2.1)) hn hnm
        · exact h1
      exact s_inv.answerAll hN hlk hK hn _ _ h2
end T54
