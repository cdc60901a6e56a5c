/-! THE TWIN's LAW, 12: an interest comes -/
set_option maxRecDepth 100000
def s_hasL (s : Int64) (k : Int32) : Bool := decide ((s >>> (k.toInt64 &&& 63)) &&& 1 = 1)
theorem p_hasL' (s : Int64) (k : Int32) : D_hasL s k = some (if s_hasL s k = true then 1 else 0) := by
  rw [p_hasL]
  unfold s_hasL
  by_cases h : (s >>> (k.toInt64 &&& 63)) &&& 1 = 1
  · rw [if_pos h, if_pos (decide_eq_true h)]
  · rw [if_neg h, if_neg (by rw [decide_eq_false h]; decide)]
/-- which entry a node has for a name and a wish -/
def s_ei (name wish : Int32) (es : List s_E) : Option Nat := s_find (fun i => (es.map (fun e => (e.1, e.2.1)))[i]? == some (name, wish)) 0 es.length
theorem s_ei_lt {name wish : Int32} {es : List s_E} {i : Nat} (h : s_ei name wish es = some i) : i < es.length := by
  have := (s_find_some h).2.1
  omega
def s_fromStore (N : s_R) (lk : Nat → Option Nat) (n t : Nat) (name : Int32) (d : s_D) (G : s_G) : s_G :=
  s_data N lk n t name (d.2.1, d.2.2, nI n, 1) (g_shits (g_sds G n (s_put (n_room N n) (name, d.2.1, d.2.2) (g_ds G n))) (g_hits G + 1))
def s_fromServer (N : s_R) (lk : Nat → Option Nat) (n t k : Nat) (name : Int32) (G : s_G) : s_G := s_data N lk n t name (g_minute G + nI (n_sc N k), nI n, nI n, 0) G
def s_entryHas (es : List s_E) (o : Option Nat) (nonce : Int32) : Bool := match o with
  | none => false
  | some i => match es[i]? with
    | none => false
    | some e => s_hasL (e_nonces e) nonce
def s_fresh (ds : List s_D) (o : Option Nat) (wish minute : Int32) : Option s_D := match o with
  | none => none
  | some j => match ds[j]? with
    | none => none
    | some d => if wish = 0 ∨ ¬ d.2.1 < minute then some d else none
def s_interest (N : s_R) (lk : Nat → Option Nat) (n t : Nat) (name wish nonce : Int32) (G : s_G) : s_G :=
  if s_hasL (g_dead G n) nonce = true ∨ s_entryHas (g_es G n) (s_ei name wish (g_es G n)) nonce = true then s_nack N lk n t name wish (1, 2, nI n, 0) (g_sloops G (g_loops G + 1))
  else match s_fresh (g_ds G n) (s_at name (g_ds G n)) wish (g_minute G) with
    | some d => s_fromStore N lk n t name d G
    | none => match s_serve N n (v_ name) with
      | some k => s_fromServer N lk n t k name G
      | none => match s_ei name wish (g_es G n) with
        | some i => match (g_es G n)[i]? with
          | some e => g_ses (g_sjoined G (g_joined G + 1)) n ((g_es G n).set i (s_join t nonce e))
          | none => G
        | none => s_make N lk n t name wish nonce G
section T42
variable {σ σ' : t_S} {N : s_R} {lk : Nat → Option Nat} {G : s_G}
theorem t_rel_hits (h : t_rel σ N lk G) : t_rel (t_si σ 66 (t_i σ 66 + 1)) N lk (g_shits G (g_hits G + 1)) ∧ t_out σ (t_si σ 66 (t_i σ 66 + 1)) := by
  obtain ⟨⟨h1, h2, h3, h4⟩, h5, h6, h7, h8, h9, h10, c1, c2, c3, c4, c5, c6⟩ := h
  refine ⟨⟨⟨t_net_si (by decide) h1, h2, h3, h4⟩, h5, h6, h7, h8, h9, h10, c1, ?_, c3, c4, c5, c6⟩, fun k hk => ?_, rfl, fun _ _ _ => rfl⟩
  · rw [t_i_si, if_pos rfl, c2]; rfl
  · rw [t_i_si, if_neg (by omega)]
theorem t_rel_joined (h : t_rel σ N lk G) : t_rel (t_si σ 67 (t_i σ 67 + 1)) N lk (g_sjoined G (g_joined G + 1)) ∧ t_out σ (t_si σ 67 (t_i σ 67 + 1)) := by
  obtain ⟨⟨h1, h2, h3, h4⟩, h5, h6, h7, h8, h9, h10, c1, c2, c3, c4, c5, c6⟩ := h
  refine ⟨⟨⟨t_net_si (by decide) h1, h2, h3, h4⟩, h5, h6, h7, h8, h9, h10, c1, c2, ?_, c4, c5, c6⟩, fun k hk => ?_, rfl, fun _ _ _ => rfl⟩
  · rw [t_i_si, if_pos rfl, c3]; rfl
  · rw [t_i_si, if_neg (by omega)]
theorem t_rel_loops (h : t_rel σ N lk G) : t_rel (t_si σ 68 (t_i σ 68 + 1)) N lk (g_sloops G (g_loops G + 1)) ∧ t_out σ (t_si σ 68 (t_i σ 68 + 1)) := by
  obtain ⟨⟨h1, h2, h3, h4⟩, h5, h6, h7, h8, h9, h10, c1, c2, c3, c4, c5, c6⟩ := h
  refine ⟨⟨⟨t_net_si (by decide) h1, h2, h3, h4⟩, h5, h6, h7, h8, h9, h10, c1, c2, c3, ?_, c5, c6⟩, fun k hk => ?_, rfl, fun _ _ _ => rfl⟩
  · rw [t_i_si, if_pos rfl, c4]; rfl
  · rw [t_i_si, if_neg (by omega)]
theorem t_rel_dropped (h : t_rel σ N lk G) : t_rel (t_si σ 69 (t_i σ 69 + 1)) N lk (g_sdropped G (g_dropped G + 1)) ∧ t_out σ (t_si σ 69 (t_i σ 69 + 1)) := by
  obtain ⟨⟨h1, h2, h3, h4⟩, h5, h6, h7, h8, h9, h10, c1, c2, c3, c4, c5, c6⟩ := h
  refine ⟨⟨⟨t_net_si (by decide) h1, h2, h3, h4⟩, h5, h6, h7, h8, h9, h10, c1, c2, c3, c4, ?_, c6⟩, fun k hk => ?_, rfl, fun _ _ _ => rfl⟩
  · rw [t_i_si, if_pos rfl, c5]; rfl
  · rw [t_i_si, if_neg (by omega)]
theorem p_fromStore {n i t : Nat} {name : Int32} {d : s_D} (h : t_rel σ N lk G) (hN : n_ok N) (hlk : ∀ i, i < 36 → ∀ l, lk i = some l → l < n_links N) (hn : n < 6) (ht : s_to t) (hd : (g_ds G n)[i]? = some d) (hc : (g_ds G n).length ≤ 5) (hw : (g_ways G).length < 4096) : ∃ σ', D_fromStore (nI n) (nI i) (nI t) name σ = some σ' ∧ t_rel σ' N lk (s_fromStore N lk n t name d G) ∧ t_out σ σ' := by
  obtain ⟨hi, hd'⟩ := List.getElem?_eq_some_iff.mp hd
  obtain ⟨-, ⟨b1, b2, b3⟩, -⟩ := h.2.2.2.1 n hn
  have e0 := (b3 i hi).trans hd'
  have g1 : ∀ {α : Type} (kk : Nat → Option α), x_ga (nI (6 * n + i)) 36 kk = kk (6 * n + i) := fun kk => x_gaS (by omega) (by omega)
  obtain ⟨R1, R2, R3⟩ := w_reg_rel (r := (d.2.1, d.2.2, nI n, 1)) h
  obtain ⟨σ1, p1, p2, p3, p4⟩ := p_putsLast (d := (name, d.2.1, d.2.2)) R1 hN hn hc
  obtain ⟨q1, q2⟩ := t_rel_hits p2
  have hreg : t_reg (t_si σ1 66 (t_i σ1 66 + 1)) (d.2.1, d.2.2, nI n, 1) := by
    refine ⟨?_, ?_, ?_, ?_⟩ <;> (rw [t_i_si, if_neg (by decide), p3]; first | exact R2.1 | exact R2.2.1 | exact R2.2.2.1 | exact R2.2.2.2)
  obtain ⟨σ2, s1, s2, s3, s4⟩ := p_dataTo (name := name) q1 hN hlk hreg hn ht hw
  refine ⟨σ2, ?_, s2, (R3.trans p4).trans (q2.trans s4)⟩
  have d1 : t_a σ 32 (6 * n + i) = d.2.1 := congrArg (fun x : s_D => x.2.1) e0
  have d2 : t_a σ 33 (6 * n + i) = d.2.2 := congrArg (fun x : s_D => x.2.2) e0
  unfold D_fromStore
  simp only [x_lS, show (6 : Int32) = nI 6 from rfl, nI_mul, nI_add, g1, t_a_si, d1, d2, x_idb]
  show x_b (D_putsLast (nI n) name d.2.1 d.2.2 (w_reg σ (d.2.1, d.2.2, nI n, 1))) _ = _
  rw [p1, x_bS]
  exact s1
theorem p_fromServer {n k t : Nat} {name : Int32} (h : t_rel σ N lk G) (hN : n_ok N) (hlk : ∀ i, i < 36 → ∀ l, lk i = some l → l < n_links N) (hn : n < 6) (ht : s_to t) (hk : k < n_serves N) (hw : (g_ways G).length < 4096) : ∃ σ', D_fromServer (nI n) (nI k) (nI t) name σ = some σ' ∧ t_rel σ' N lk (s_fromServer N lk n t k name G) ∧ t_out σ σ' := by
  obtain ⟨R1, R2, R3⟩ := w_reg_rel (r := (g_minute G + nI (n_sc N k), nI n, nI n, 0)) h
  obtain ⟨σ2, s1, s2, s3, s4⟩ := p_dataTo (name := name) R1 hN hlk R2 hn ht hw
  refine ⟨σ2, ?_, s2, R3.trans s4⟩
  unfold D_fromServer
  rw [p_serve2 h.1.1 hN hk, x_bS, h.2.2.1]
  simp only [x_lS, x_idb]
  exact s1
end T42
