/-! THE TWIN's LAW, 18: data come -/
set_option maxRecDepth 100000
/-- data of a name come to node n from a node; the ready registers are r (until, by, whence, from a store) -/
def s_dataCome (N : s_R) (lk : Nat → Option Nat) (n from_ : Nat) (name : Int32) (r : s_Q) (G : s_G) : s_G :=
  match s_ff name (decide (¬ r.1 < g_minute G)) (g_es G n) with
  | none => g_sdropped G (g_dropped G + 1)
  | some i => match (g_es G n)[i]? with
    | none => G
    | some e =>
      let G1 := if e_out e = nI from_ then g_smeas G (s_up1 (g_meas G) (6 * n + from_) (g_minute G - e_sent e)) else G
      let G2 := if 0 < n_room N n then g_sds G1 n (s_put (n_room N n) (name, r.1, r.2.1) (g_ds G1 n)) else G1
      s_answerAll N lk n name (decide (¬ r.1 < g_minute G)) r (g_es G2 n).length G2
section T48
variable {σ σ' : t_S} {N : s_R} {lk : Nat → Option Nat} {G : s_G}
theorem t_rel_meas {k : Nat} {x : Int32} (h : t_rel σ N lk G) : t_rel (t_sa σ 29 k x) N lk (g_smeas G (s_up1 (g_meas G) k x)) ∧ t_out σ (t_sa σ 29 k x) := by
  obtain ⟨⟨h1, h2, h3, h4⟩, h5, h6, h7, h8, ⟨w1, w2, w3⟩, h9, cc⟩ := h
  have ha : ∀ a j, a ≠ 29 → t_a (t_sa σ 29 k x) a j = t_a σ a j := fun a j hne => by rw [t_a_sa, if_neg (fun q => hne q.1)]
  refine ⟨⟨⟨t_net_sa (by decide) h1, t_lk_of (fun j => ha 25 j (by decide)) h2, h3, h4⟩, h5, h6, fun n hn => ?_, fun i hi => ?_, ⟨w1, w2, fun i hi => ?_⟩, fun f j q1 q2 q3 => (ha f j (by omega)).trans (h9 f j q1 q2 q3), cc⟩, fun _ _ => rfl, rfl, fun a j hk => ha a j (by omega)⟩
  · obtain ⟨e1, e2, e3⟩ := h7 n hn
    exact ⟨t_es_of (σ := σ) (fun a j q1 q2 => ha a j (by omega)) (fun _ _ _ _ => rfl) e1, t_ds_of (σ := σ) (fun a j q1 q2 => ha a j (by omega)) e2, e3⟩
  · show t_a (t_sa σ 29 k x) 29 i = s_up1 (g_meas G) k x i
    rw [t_a_sa]
    unfold s_up1
    by_cases q : i = k
    · rw [if_pos ⟨rfl, q⟩, if_pos q]
    · rw [if_neg (fun z => q z.2), if_neg q]
      exact h8 i hi
  · have em : a_m (t_sa σ 29 k x) i = a_m σ i := by
      unfold a_m
      rw [ha 46 i (by decide), ha 47 i (by decide), ha 48 i (by decide), ha 49 i (by decide), ha 50 i (by decide), ha 51 i (by decide), ha 52 i (by decide), ha 53 i (by decide), ha 54 i (by decide), ha 55 i (by decide), ha 56 i (by decide)]
    rw [em]
    exact w3 i hi
theorem p_dataCome {n fr : Nat} {name : Int32} {r : s_Q} (h : t_rel σ N lk G) (hN : n_ok N) (hlk : ∀ i, i < 36 → ∀ l, lk i = some l → l < n_links N) (hr : t_reg σ r) (hn : n < 6) (hfr : fr < 6) (hc : (g_ds G n).length ≤ 5) (hw : (g_ways G).length + 6 * 64 ≤ 4096) : ∃ σ', D_dataCome (nI n) (nI fr) name σ = some σ' ∧ t_rel σ' N lk (s_dataCome N lk n fr name r G) ∧ t_out σ σ' := by
  obtain ⟨be, -, -⟩ := h.2.2.2.1 n hn
  have g6 : ∀ {α : Type} (kk : Nat → Option α), x_ga (nI n) 6 kk = kk n := fun kk => x_gaS hn (by omega)
  obtain ⟨hr1, hr2⟩ := n_room_b hN hn
  -- what is behind the measuring
  have tail : ∀ (σ1 : t_S) (G1 : s_G), t_rel σ1 N lk G1 → t_reg σ1 r → (g_nd G1) = g_nd G → g_ways G1 = g_ways G → ∀ i, s_ff name (decide (¬ r.1 < g_minute G)) (g_es G n) = some i → ∃ σ', (x_b (D_ofNet ((5 : Int32) + nI n) σ1) fun r8 => if r8 ≤ 0 then (D_dataCome_103 (nI n) name (if decide (¬ r.1 < g_minute G) = true then 1 else 0) (fun (σ21 : t_S) => some σ21) x_F (nI (64 * n + i)) σ1) else x_b (D_putsLast (nI n) name (t_i σ1 71) (t_i σ1 72) σ1) fun σ24 => D_dataCome_103 (nI n) name (if decide (¬ r.1 < g_minute G) = true then 1 else 0) (fun (σ21 : t_S) => some σ21) x_F (nI (64 * n + i)) σ24) = some σ' ∧ t_rel σ' N lk (s_answerAll N lk n name (decide (¬ r.1 < g_minute G)) r (g_es (if 0 < n_room N n then g_sds G1 n (s_put (n_room N n) (name, r.1, r.2.1) (g_ds G1 n)) else G1) n).length (if 0 < n_room N n then g_sds G1 n (s_put (n_room N n) (name, r.1, r.2.1) (g_ds G1 n)) else G1)) ∧ t_out σ1 σ' := by
    intro σ1 G1 h1 hr1' hnd hwy i hi
    have hes1 : g_es G1 n = g_es G n := by unfold g_es; rw [hnd]
    have hds1 : g_ds G1 n = g_ds G n := by unfold g_ds; rw [hnd]
    rw [show (5 : Int32) = nI 5 from rfl, nI_add, p_ofNet h1.1.1 (by omega), x_bS, hr1]
    have hlen := be.2.1
    by_cases c : 0 < n_room N n
    · rw [if_neg (nI_nle c (by omega)), if_pos c, hr1'.1, hr1'.2.1]
      obtain ⟨s2, p1, p2, p3, p4⟩ := p_putsLast (d := (name, r.1, r.2.1)) h1 hN hn (by rw [hds1]; exact hc)
      have hes2 : g_es (g_sds G1 n (s_put (n_room N n) (name, r.1, r.2.1) (g_ds G1 n))) n = g_es G n := by
        unfold g_es g_sds
        rw [g_nd_snd, s_up1_s]
        exact hes1
      obtain ⟨s3, q1, q2, q3, q4⟩ := p_dataCome_103 (name := name) (fresh := decide (¬ r.1 < g_minute G)) (K := fun (σ21 : t_S) => some σ21) hN hlk hn _ x_F s2 _ p2 ⟨(p3 71).trans hr1'.1, (p3 72).trans hr1'.2.1, (p3 73).trans hr1'.2.2.1, (p3 74).trans hr1'.2.2.2⟩ rfl (by rw [hes2, x_Fv]; omega) (by
        rw [hes2]
        show (g_ways G1).length + _ ≤ _
        rw [hwy]; omega)
      rw [hes2, hi] at q1
      refine ⟨s3, ?_, q2, p4.trans q4⟩
      rw [p1, x_bS]
      exact q1
    · rw [if_pos (show nI (n_room N n) ≤ 0 by rw [show n_room N n = 0 by omega, nI_0]; exact Int32.le_refl _), if_neg c]
      obtain ⟨s3, q1, q2, q3, q4⟩ := p_dataCome_103 (name := name) (fresh := decide (¬ r.1 < g_minute G)) (K := fun (σ21 : t_S) => some σ21) hN hlk hn _ x_F σ1 G1 h1 hr1' rfl (by rw [hes1, x_Fv]; omega) (by rw [hes1, hwy]; omega)
      rw [hes1, hi] at q1
      exact ⟨s3, q1, q2, q4⟩
  unfold D_dataCome
  simp only [x_lS]
  have hff := p_firstFor (name := name) (fresh := decide (¬ r.1 < g_minute G)) be hn
  by_cases c0 : r.1 < g_minute G
  · have e9 : (if decide (¬ r.1 < g_minute G) = true then (1 : Int32) else 0) = 0 := if_neg (by simpa using c0)
    rw [e9] at hff
    simp only [e9] at tail
    rw [if_pos (show t_i σ 71 < t_i σ 27 by rw [hr.1, h.2.2.1]; exact c0), hff, x_bS]
    unfold s_dataCome
    cases hi : s_ff name (decide (¬ r.1 < g_minute G)) (g_es G n) with
    | none =>
      obtain ⟨l1, l2⟩ := t_rel_dropped h
      exact ⟨_, if_pos rfl, l1, l2⟩
    | some i =>
      have hlt := s_ff_lt hi
      have hge : (g_es G n)[i]? = some (g_es G n)[i] := List.getElem?_eq_getElem hlt
      have hlen := be.2.1
      have e0 := be.2.2 i hlt
      have d1 : t_a σ 41 (64 * n + i) = e_out (g_es G n)[i] := congrArg (fun x : s_E => x.2.2.2.2.2.2.1) e0
      have d2 : t_a σ 43 (64 * n + i) = e_sent (g_es G n)[i] := congrArg (fun x : s_E => x.2.2.2.2.2.2.2.2.1) e0
      have g1 : ∀ {α : Type} (kk : Nat → Option α), x_ga (nI (64 * n + i)) 384 kk = kk (64 * n + i) := fun kk => x_gaS (by omega) (by omega)
      simp only [hge]
      rw [if_neg (show ¬ nI (64 * n + i) = -1 from oI_none (by omega)), g1, d1]
      by_cases c2 : e_out (g_es G n)[i] = nI fr
      · rw [if_pos c2, if_pos c2, g1, d2, show (6 : Int32) = nI 6 from rfl, nI_mul, nI_add, x_gaS (by omega) (by omega), h.2.2.1]
        obtain ⟨m1, m2⟩ := t_rel_meas (k := 6 * n + fr) (x := g_minute G - e_sent (g_es G n)[i]) h
        obtain ⟨s, t1, t2, t3⟩ := tail _ _ m1 hr rfl rfl i hi
        exact ⟨s, t1, t2, m2.trans t3⟩
      · rw [if_neg c2, if_neg c2]
        exact tail σ G h hr rfl rfl i hi
  · have e9 : (if decide (¬ r.1 < g_minute G) = true then (1 : Int32) else 0) = 1 := if_pos (by simpa using c0)
    rw [e9] at hff
    simp only [e9] at tail
    rw [if_neg (show ¬ t_i σ 71 < t_i σ 27 by rw [hr.1, h.2.2.1]; exact c0), hff, x_bS]
    unfold s_dataCome
    cases hi : s_ff name (decide (¬ r.1 < g_minute G)) (g_es G n) with
    | none =>
      obtain ⟨l1, l2⟩ := t_rel_dropped h
      exact ⟨_, if_pos rfl, l1, l2⟩
    | some i =>
      have hlt := s_ff_lt hi
      have hge : (g_es G n)[i]? = some (g_es G n)[i] := List.getElem?_eq_getElem hlt
      have hlen := be.2.1
      have e0 := be.2.2 i hlt
      have d1 : t_a σ 41 (64 * n + i) = e_out (g_es G n)[i] := congrArg (fun x : s_E => x.2.2.2.2.2.2.1) e0
      have d2 : t_a σ 43 (64 * n + i) = e_sent (g_es G n)[i] := congrArg (fun x : s_E => x.2.2.2.2.2.2.2.2.1) e0
      have g1 : ∀ {α : Type} (kk : Nat → Option α), x_ga (nI (64 * n + i)) 384 kk = kk (64 * n + i) := fun kk => x_gaS (by omega) (by omega)
      simp only [hge]
      rw [if_neg (show ¬ nI (64 * n + i) = -1 from oI_none (by omega)), g1, d1]
      by_cases c2 : e_out (g_es G n)[i] = nI fr
      · rw [if_pos c2, if_pos c2, g1, d2, show (6 : Int32) = nI 6 from rfl, nI_mul, nI_add, x_gaS (by omega) (by omega), h.2.2.1]
        obtain ⟨m1, m2⟩ := t_rel_meas (k := 6 * n + fr) (x := g_minute G - e_sent (g_es G n)[i]) h
        obtain ⟨s, t1, t2, t3⟩ := tail _ _ m1 hr rfl rfl i hi
        exact ⟨s, t1, t2, m2.trans t3⟩
      · rw [if_neg c2, if_neg c2]
        exact tail σ G h hr rfl rfl i hi
end T48
