/-! THE TWIN's LAW, 6: to nodes and to asks -/
set_option maxRecDepth 100000
abbrev s_Q : Type := Int32 × Int32 × Int32 × Int32
theorem t_out.refl {σ : t_S} : t_out σ σ := ⟨fun _ _ => rfl, rfl, fun _ _ _ => rfl⟩
theorem t_out.trans {σ σ' σ2 : t_S} (h : t_out σ σ') (h' : t_out σ' σ2) : t_out σ σ2 := ⟨fun k hk => (h'.1 k hk).trans (h.1 k hk), h'.2.1.trans h.2.1, fun k j hk => (h'.2.2 k j hk).trans (h.2.2 k j hk)⟩
/-- an ask gets data; is refused -/
def s_get (r : s_Q) (k : Nat) (G : s_G) : s_G := g_scame G (fun f j => if j = k ∧ f = 57 then 1 else if j = k ∧ f = 58 then g_minute G else if j = k ∧ f = 60 then r.2.2.1 else if j = k ∧ f = 61 then r.2.2.2 else g_came G f j)
def s_refuse (r : s_Q) (k : Nat) (G : s_G) : s_G := g_scame G (fun f j => if j = k ∧ f = 57 then 2 else if j = k ∧ f = 58 then g_minute G else if j = k ∧ f = 62 then r.1 else if j = k ∧ f = 63 then r.2.1 else if j = k ∧ f = 64 then r.2.2.1 else g_came G f j)
def s_data (N : s_R) (lk : Nat → Option Nat) (n t : Nat) (name : Int32) (r : s_Q) (G : s_G) : s_G := if t < 100 then s_send N lk 1 n t name 0 0 r G else s_get r (t - 100) G
def s_nack (N : s_R) (lk : Nat → Option Nat) (n t : Nat) (name wish : Int32) (r : s_Q) (G : s_G) : s_G := if t < 100 then s_send N lk 2 n t name wish 0 r G else s_refuse r (t - 100) G
/-- what a thing may go to: a node, an ask -/
def s_to (t : Nat) : Prop := t < 6 ∨ 100 ≤ t ∧ t < 164
section T36
variable {σ : t_S} {N : s_R} {lk : Nat → Option Nat} {G : s_G}
/-- only what came of asks changes -/
theorem t_rel_came {σ σ' : t_S} {c : Nat → Nat → Int32} (h : t_rel σ N lk G) (hi : ∀ k, t_i σ' k = t_i σ k) (hw : t_w σ' = t_w σ) (hl : ∀ k j, t_l σ' k j = t_l σ k j) (ha : ∀ k j, ¬ (57 ≤ k ∧ k ≤ 64) → t_a σ' k j = t_a σ k j) (hc : ∀ f k, 57 ≤ f → f ≤ 64 → k < 64 → t_a σ' f k = c f k) : t_rel σ' N lk (g_scame G c) ∧ t_out σ σ' := by
  obtain ⟨⟨h1, h2, h3, h4⟩, h5, h6, h7, h8, ⟨w1, w2, w3⟩, h9, c1, c2, c3, c4, c5, c6⟩ := h
  refine ⟨⟨⟨t_net_of (hi 22) (fun j => ha 6 j (by omega)) h1, t_lk_of (fun j => ha 25 j (by omega)) h2, (hi 23).trans h3, (hi 24).trans h4⟩, (hi 26).trans h5, (hi 27).trans h6, fun n hn => ?_, fun i hx => (ha 29 i (by omega)).trans (h8 i hx), ⟨(hi 45).trans w1, w2, fun i hx => ?_⟩, hc, (hi 65).trans c1, (hi 66).trans c2, (hi 67).trans c3, (hi 68).trans c4, (hi 69).trans c5, (hi 70).trans c6⟩, ⟨fun k _ => hi k, hw, fun k j hk => ha k j (by omega)⟩⟩
  · obtain ⟨e1, e2, e3⟩ := h7 n hn
    exact ⟨t_es_of (fun k j q1 q2 => ha k j (by omega)) (fun k j _ _ => hl k j) e1, t_ds_of (fun k j q1 q2 => ha k j (by omega)) e2, (hl 28 n).trans e3⟩
  · have em : a_m σ' i = a_m σ i := by
      unfold a_m
      rw [ha 46 i (by omega), ha 47 i (by omega), ha 48 i (by omega), ha 49 i (by omega), ha 50 i (by omega), ha 51 i (by omega), ha 52 i (by omega), ha 53 i (by omega), ha 54 i (by omega), ha 55 i (by omega), ha 56 i (by omega)]
    rw [em]
    exact w3 i hx
theorem p_gets {k : Nat} {r : s_Q} (h : t_rel σ N lk G) (hr : t_reg σ r) (hk : k < 64) : ∃ σ', D_gets (nI k) σ = some σ' ∧ t_rel σ' N lk (s_get r k G) ∧ t_reg σ' r ∧ t_out σ σ' := by
  have g0 : ∀ {α : Type} (kk : Nat → Option α), x_ga (nI k) 64 kk = kk k := fun kk => x_gaS hk (by omega)
  have hm := h.2.2.1
  have hcm := h.2.2.2.2.2.2.1
  obtain ⟨r1, r2, r3, r4⟩ := hr
  unfold D_gets
  simp only [x_lS, g0]
  refine ⟨_, rfl, ?_⟩
  have H := t_rel_came (σ' := t_sa (t_sa (t_sa (t_sa σ 57 k 1) 58 k (t_i σ 27)) 60 k (t_i σ 73)) 61 k (t_i σ 74)) (c := fun f j => if j = k ∧ f = 57 then 1 else if j = k ∧ f = 58 then g_minute G else if j = k ∧ f = 60 then r.2.2.1 else if j = k ∧ f = 61 then r.2.2.2 else g_came G f j) h (fun _ => rfl) rfl (fun _ _ => rfl) (fun a j ha => ?_) (fun f j q1 q2 q3 => ?_)
  · exact ⟨H.1, ⟨r1, r2, r3, r4⟩, H.2⟩
  · simp only [t_a_sa]
    rw [if_neg (by omega), if_neg (by omega), if_neg (by omega), if_neg (by omega)]
  · simp only [t_a_sa, r3, r4, hm, ← hcm f j q1 q2 q3]
    by_cases e : j = k
    · rcases (show f = 57 ∨ f = 58 ∨ f = 59 ∨ f = 60 ∨ f = 61 ∨ f = 62 ∨ f = 63 ∨ f = 64 by omega) with rfl | rfl | rfl | rfl | rfl | rfl | rfl | rfl <;> simp [e]
    · simp [e]
theorem p_refused {k : Nat} {r : s_Q} (h : t_rel σ N lk G) (hr : t_reg σ r) (hk : k < 64) : ∃ σ', D_refused (nI k) σ = some σ' ∧ t_rel σ' N lk (s_refuse r k G) ∧ t_reg σ' r ∧ t_out σ σ' := by
  have g0 : ∀ {α : Type} (kk : Nat → Option α), x_ga (nI k) 64 kk = kk k := fun kk => x_gaS hk (by omega)
  have hm := h.2.2.1
  have hcm := h.2.2.2.2.2.2.1
  obtain ⟨r1, r2, r3, r4⟩ := hr
  unfold D_refused
  simp only [x_lS, g0]
  refine ⟨_, rfl, ?_⟩
  have H := t_rel_came (σ' := t_sa (t_sa (t_sa (t_sa (t_sa σ 57 k 2) 58 k (t_i σ 27)) 62 k (t_i σ 71)) 63 k (t_i σ 72)) 64 k (t_i σ 73)) (c := fun f j => if j = k ∧ f = 57 then 2 else if j = k ∧ f = 58 then g_minute G else if j = k ∧ f = 62 then r.1 else if j = k ∧ f = 63 then r.2.1 else if j = k ∧ f = 64 then r.2.2.1 else g_came G f j) h (fun _ => rfl) rfl (fun _ _ => rfl) (fun a j ha => ?_) (fun f j q1 q2 q3 => ?_)
  · exact ⟨H.1, ⟨r1, r2, r3, r4⟩, H.2⟩
  · simp only [t_a_sa]
    rw [if_neg (by omega), if_neg (by omega), if_neg (by omega), if_neg (by omega), if_neg (by omega)]
  · simp only [t_a_sa, r1, r2, r3, hm, ← hcm f j q1 q2 q3]
    by_cases e : j = k
    · rcases (show f = 57 ∨ f = 58 ∨ f = 59 ∨ f = 60 ∨ f = 61 ∨ f = 62 ∨ f = 63 ∨ f = 64 by omega) with rfl | rfl | rfl | rfl | rfl | rfl | rfl | rfl <;> simp [e]
    · simp [e]
theorem x_idb {α : Type} {m : Option α} : (x_b m fun a => some a) = m := by cases m <;> rfl
theorem p_dataTo {n t : Nat} {name : Int32} {r : s_Q} (h : t_rel σ N lk G) (hN : n_ok N) (hlk : ∀ i, i < 36 → ∀ l, lk i = some l → l < n_links N) (hr : t_reg σ r) (hn : n < 6) (ht : s_to t) (hw : (g_ways G).length < 4096) : ∃ σ', D_dataTo (nI n) (nI t) name σ = some σ' ∧ t_rel σ' N lk (s_data N lk n t name r G) ∧ t_reg σ' r ∧ t_out σ σ' := by
  unfold D_dataTo s_data
  simp only [x_idb]
  rcases ht with ht | ⟨ht, ht'⟩
  · rw [if_pos (show nI t < 100 from nI_lt (a := t) (b := 100) (by omega) (by omega)), if_pos (show t < 100 by omega)]
    exact p_sends h hN hlk hr hn ht hw
  · rw [if_neg (show ¬ nI t < 100 from nI_nlt (a := t) (b := 100) (by omega) (by omega)), if_neg (show ¬ t < 100 by omega), show (100 : Int32) = nI 100 from rfl, nI_sub ht]
    exact p_gets h hr (by omega)
theorem p_nackTo {n t : Nat} {name wish : Int32} {r : s_Q} (h : t_rel σ N lk G) (hN : n_ok N) (hlk : ∀ i, i < 36 → ∀ l, lk i = some l → l < n_links N) (hr : t_reg σ r) (hn : n < 6) (ht : s_to t) (hw : (g_ways G).length < 4096) : ∃ σ', D_nackTo (nI n) (nI t) name wish σ = some σ' ∧ t_rel σ' N lk (s_nack N lk n t name wish r G) ∧ t_reg σ' r ∧ t_out σ σ' := by
  unfold D_nackTo s_nack
  simp only [x_idb]
  rcases ht with ht | ⟨ht, ht'⟩
  · rw [if_pos (show nI t < 100 from nI_lt (a := t) (b := 100) (by omega) (by omega)), if_pos (show t < 100 by omega)]
    exact p_sends h hN hlk hr hn ht hw
  · rw [if_neg (show ¬ nI t < 100 from nI_nlt (a := t) (b := 100) (by omega) (by omega)), if_neg (show ¬ t < 100 by omega), show (100 : Int32) = nI 100 from rfl, nI_sub ht]
    exact p_refused h hr (by omega)
/-- the ready registers are set -/
def w_reg (σ : t_S) (r : s_Q) : t_S := t_si (t_si (t_si (t_si σ 71 r.1) 72 r.2.1) 73 r.2.2.1) 74 r.2.2.2
theorem w_reg_i {r : s_Q} {k : Nat} (h : k < 71 ∨ 74 < k) : t_i (w_reg σ r) k = t_i σ k := by
  unfold w_reg
  simp only [t_i_si]
  rw [if_neg (by omega), if_neg (by omega), if_neg (by omega), if_neg (by omega)]
theorem w_reg_rel {r : s_Q} (h : t_rel σ N lk G) : t_rel (w_reg σ r) N lk G ∧ t_reg (w_reg σ r) r ∧ t_out σ (w_reg σ r) := by
  obtain ⟨⟨h1, h2, h3, h4⟩, h5, h6, h7, h8, ⟨w1, w2, w3⟩, h9, c1, c2, c3, c4, c5, c6⟩ := h
  refine ⟨⟨⟨t_net_of (w_reg_i (by omega)) (fun j => rfl) h1, h2, h3, h4⟩, h5, h6, h7, h8, ⟨w1, w2, w3⟩, h9, c1, c2, c3, c4, c5, c6⟩, ⟨rfl, rfl, rfl, rfl⟩, ⟨fun k hk => w_reg_i (by omega), rfl, fun _ _ _ => rfl⟩⟩
theorem p_firstNack {n t : Nat} {name wish root : Int32} (h : t_rel σ N lk G) (hN : n_ok N) (hlk : ∀ i, i < 36 → ∀ l, lk i = some l → l < n_links N) (hn : n < 6) (ht : s_to t) (hw : (g_ways G).length < 4096) : ∃ σ', D_firstNack (nI n) (nI t) name wish root σ = some σ' ∧ t_rel σ' N lk (s_nack N lk n t name wish (1, root, nI n, 0) G) ∧ t_out σ σ' := by
  obtain ⟨h1, h2, h3⟩ := w_reg_rel (r := (1, root, nI n, 0)) h
  obtain ⟨σ', e1, e2, e3, e4⟩ := p_nackTo (name := name) (wish := wish) h1 hN hlk h2 hn ht hw
  exact ⟨σ', by unfold D_firstNack; simp only [x_lS, x_idb]; exact e1, e2, h3.trans e4⟩
end T36
