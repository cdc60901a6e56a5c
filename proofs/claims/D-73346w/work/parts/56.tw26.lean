/-! THE TWIN's LAW, 26: entries that end -/
set_option maxRecDepth 100000
/-- asks that wait for an entry come to nothing -/
def s_late (k : Nat) (G : s_G) : s_G := g_scame G (fun f j => if j = k ∧ f = 57 then 3 else if j = k ∧ f = 58 then g_minute G else g_came G f j)
def s_lateAll (set : Int64) (G : s_G) : s_G := s_fold (fun k G => if s_hasL set (nI k) = true then s_late k G else G) 0 64 G
/-- an entry ends -/
def s_ends1 (N : s_R) (n i : Nat) (e : s_E) (G : s_G) : s_G :=
  let G1 := s_lateAll (e_asks e) (g_smeas (g_sdead G n (g_dead G n ||| e_nonces e)) (s_up1 (g_meas G) (6 * n + v_ (e_out e)) (N 1)))
  g_ses G1 n ((g_es G1 n).eraseIdx i)
def s_endsN (N : s_R) (n : Nat) : Nat → Nat → s_G → s_G
  | 0, _, G => G
  | m + 1, i, G => match (g_es G n)[i]? with
    | none => G
    | some e => if e_ends e = g_minute G then s_endsN N n m i (s_ends1 N n i e G) else s_endsN N n m (i + 1) G
def s_endsAll (N : s_R) (G : s_G) : s_G := s_fold (fun n G => s_endsN N n (g_es G n).length 0 G) 0 (n_nodes N) G
def s_outs (G : s_G) : Prop := ∀ n, n < 6 → ∀ e ∈ g_es G n, ∃ o, o < 6 ∧ e_out e = nI o
section T56
variable {σ σ' : t_S} {N : s_R} {lk : Nat → Option Nat} {G : s_G}
theorem s_lateAll_same {set : Int64} : g_nd (s_lateAll set G) = g_nd G ∧ g_ways (s_lateAll set G) = g_ways G ∧ g_minute (s_lateAll set G) = g_minute G :=
  s_foldP (fun _ (g : s_G) => g_nd g = g_nd G ∧ g_ways g = g_ways G ∧ g_minute g = g_minute G) (fun k G => if s_hasL set (nI k) = true then s_late k G else G) 64 (fun g k hg hk => by
    show g_nd (if _ then _ else _) = _ ∧ g_ways (if _ then _ else _) = _ ∧ g_minute (if _ then _ else _) = _
    by_cases c : s_hasL set (nI k) = true
    · rw [if_pos c]; exact hg
    · rw [if_neg c]; exact hg) 64 0 G ⟨rfl, rfl, rfl⟩ (by omega)
theorem s_ends1_nd {n i : Nat} {e : s_E} : g_nd (s_ends1 N n i e G) = g_nd (s_close n i (e_nonces e) G) ∧ g_ways (s_ends1 N n i e G) = g_ways G ∧ g_minute (s_ends1 N n i e G) = g_minute G := by
  obtain ⟨h1, h2, h3⟩ := s_lateAll_same (set := e_asks e) (G := g_smeas (g_sdead G n (g_dead G n ||| e_nonces e)) (s_up1 (g_meas G) (6 * n + v_ (e_out e)) (N 1)))
  refine ⟨?_, h2, h3⟩
  show s_up1 (g_nd _) n ((g_es _ n).eraseIdx i, (g_nd _ n).2) = _
  unfold g_es
  rw [h1]
  rfl
theorem s_ends1_es {n i j : Nat} {e e' : s_E} (h : e' ∈ g_es (s_ends1 N n i e G) j) : e' ∈ g_es G j := by
  unfold g_es at h ⊢
  rw [s_ends1_nd.1] at h
  have h' : e' ∈ (s_up1 (g_nd (g_sdead G n (g_dead G n ||| e_nonces e))) n ((g_es (g_sdead G n (g_dead G n ||| e_nonces e)) n).eraseIdx i, (g_nd (g_sdead G n (g_dead G n ||| e_nonces e)) n).2) j).1 := h
  by_cases q : j = n
  · subst q
    rw [s_up1_s] at h'
    have h2 : e' ∈ (g_es (g_sdead G j (g_dead G j ||| e_nonces e)) j).eraseIdx i := h'
    have h3 := (List.eraseIdx_sublist _ _).subset h2
    unfold g_es g_sdead at h3
    rw [g_nd_snd, s_up1_s] at h3
    exact h3
  · rw [s_up1_n q] at h'
    unfold g_sdead at h'
    rw [g_nd_snd, s_up1_n q] at h'
    exact h'
theorem s_ends1_len {n i : Nat} {e : s_E} (hi : i < (g_es G n).length) : (g_es (s_ends1 N n i e G) n).length = (g_es G n).length - 1 := by
  unfold g_es
  rw [s_ends1_nd.1]
  show (s_up1 (g_nd (g_sdead G n (g_dead G n ||| e_nonces e))) n ((g_es (g_sdead G n (g_dead G n ||| e_nonces e)) n).eraseIdx i, (g_nd (g_sdead G n (g_dead G n ||| e_nonces e)) n).2) n).1.length = _
  rw [s_up1_s]
  have e1 : g_es (g_sdead G n (g_dead G n ||| e_nonces e)) n = g_es G n := by
    unfold g_es g_sdead
    rw [g_nd_snd, s_up1_s]
  show ((g_es (g_sdead G n (g_dead G n ||| e_nonces e)) n).eraseIdx i).length = _
  rw [e1, List.length_eraseIdx_of_lt hi]
  rfl
theorem s_outs.ends1 {n i : Nat} {e : s_E} (h : s_outs G) : s_outs (s_ends1 N n i e G) := fun m hm e' he' => h m hm e' (s_ends1_es he')
theorem p_endsAll_80 {n i : Nat} {e : s_E} (K : t_S → Option t_S) (h : t_rel σ N lk G) (hn : n < 6) (he : (g_es G n)[i]? = some e) : ∃ σ', D_endsAll_80 (nI n) (nI i) (nI (64 * n + i)) K x_F 0 σ = K σ' ∧ t_rel σ' N lk (s_lateAll (e_asks e) G) ∧ t_out σ σ' := by
  obtain ⟨hi, he'⟩ := List.getElem?_eq_some_iff.mp he
  have hlen := (h.2.2.2.1 n hn).1.2.1
  have key := x_forS (fun (_ : Nat) (s : t_S) (g : s_G) => t_rel s N lk g ∧ t_out σ s ∧ g_nd g = g_nd G) (fun f k s => D_endsAll_80 (nI n) (nI i) (nI (64 * n + i)) K f (nI k) s) K (fun k G => if s_hasL (e_asks e) (nI k) = true then s_late k G else G) 64 ?_ ?_ x_F 0 σ G (by omega) ⟨h, t_out.refl, rfl⟩ (by rw [x_Fv]; omega)
  · obtain ⟨s', k1, k2, k3, k4⟩ := key
    exact ⟨s', k1, k2, k3⟩
  · intro f s g _
    show (if (64 : Int32) ≤ nI 64 then _ else _) = _
    rw [if_pos (show (64 : Int32) ≤ nI 64 from Int32.le_refl _)]
  · intro f k s g hq hk
    obtain ⟨q1, q3, q4⟩ := hq
    have hes : g_es g n = g_es G n := by unfold g_es; rw [q4]
    have e0 : a_e s (64 * n + i) = e := by
      have := (q1.2.2.2.1 n hn).1.2.2 i (by rw [hes]; exact hi)
      rw [this]
      have e9 : (g_es g n)[i]? = some e := by rw [hes]; exact he
      exact (List.getElem?_eq_some_iff.mp e9).2
    have d1 : t_l s 38 (64 * n + i) = e_asks e := congrArg (fun x : s_E => x.2.2.2.1) e0
    have g1 : ∀ {α : Type} (kk : Nat → Option α), x_ga (nI (64 * n + i)) 384 kk = kk (64 * n + i) := fun kk => x_gaS (by omega) (by omega)
    have g2 : ∀ {α : Type} (kk : Nat → Option α), x_ga (nI k) 64 kk = kk k := fun kk => x_gaS hk (by omega)
    have hL : D_endsAll_80 (nI n) (nI i) (nI (64 * n + i)) K (f + 1) (nI k) s = if s_hasL (e_asks e) (nI k) = true then D_endsAll_80 (nI n) (nI i) (nI (64 * n + i)) K f (nI (k + 1)) (t_sa (t_sa s 57 k 3) 58 k (t_i s 27)) else D_endsAll_80 (nI n) (nI i) (nI (64 * n + i)) K f (nI (k + 1)) s := by
      show (if (64 : Int32) ≤ nI k then _ else _) = _
      rw [if_neg (show ¬ (64 : Int32) ≤ nI k from nI_ge (a := k) (b := 64) hk (by omega)), g1, d1, p_hasL', x_bS]
      by_cases c : s_hasL (e_asks e) (nI k) = true
      · rw [if_pos c, if_pos c, if_neg (show ¬ (1 : Int32) = 0 by decide)]
        simp only [x_lS, nI_1, g2]
        rfl
      · rw [if_neg c, if_neg c, if_pos (show (0 : Int32) = 0 from rfl)]
        simp only [x_lS, nI_1]
    by_cases c : s_hasL (e_asks e) (nI k) = true
    · have hcm := q1.2.2.2.2.2.2.1
      have hm := q1.2.2.1
      have H := t_rel_came (σ' := t_sa (t_sa s 57 k 3) 58 k (t_i s 27)) (c := fun f j => if j = k ∧ f = 57 then 3 else if j = k ∧ f = 58 then g_minute g else g_came g f j) q1 (fun _ => rfl) rfl (fun _ _ => rfl) (fun a j ha => by simp only [t_a_sa]; rw [if_neg (by omega), if_neg (by omega)]) (fun f j q1 q2 q3 => by
        simp only [t_a_sa, hm, ← hcm f j q1 q2 q3]
        by_cases e : j = k
        · rcases (show f = 57 ∨ f = 58 ∨ f = 59 ∨ f = 60 ∨ f = 61 ∨ f = 62 ∨ f = 63 ∨ f = 64 by omega) with rfl | rfl | rfl | rfl | rfl | rfl | rfl | rfl <;> simp [e]
        · simp [e])
      refine ⟨t_sa (t_sa s 57 k 3) 58 k (t_i s 27), ?_, ?_⟩
      · show D_endsAll_80 (nI n) (nI i) (nI (64 * n + i)) K (f + 1) (nI k) s = _
        rw [hL, if_pos c]
      · show t_rel _ N lk (if s_hasL (e_asks e) (nI k) = true then s_late k g else g) ∧ _ ∧ g_nd (if s_hasL (e_asks e) (nI k) = true then s_late k g else g) = _
        rw [if_pos c]
        exact ⟨H.1, q3.trans H.2, q4⟩
    · refine ⟨s, ?_, ?_⟩
      · show D_endsAll_80 (nI n) (nI i) (nI (64 * n + i)) K (f + 1) (nI k) s = _
        rw [hL, if_neg c]
      · show t_rel s N lk (if s_hasL (e_asks e) (nI k) = true then s_late k g else g) ∧ _ ∧ g_nd (if s_hasL (e_asks e) (nI k) = true then s_late k g else g) = _
        rw [if_neg c]
        exact ⟨q1, q3, q4⟩
theorem p_endsAll_12 {n : Nat} (K : t_S → Option t_S) (hn : n < 6) : ∀ (m f i : Nat) (σ : t_S) (G : s_G), t_rel σ N lk G → s_outs G → i + m = (g_es G n).length → m < f → ∃ σ', D_endsAll_12 (nI n) K f (nI i) σ = K σ' ∧ t_rel σ' N lk (s_endsN N n m i G) ∧ t_out σ σ' ∧ s_outs (s_endsN N n m i G) := by
  have g6 : ∀ {α : Type} (kk : Nat → Option α), x_ga (nI n) 6 kk = kk n := fun kk => x_gaS hn (by omega)
  intro m
  induction m with
  | zero =>
    intro f i σ G h ho hm hf
    obtain ⟨f, rfl⟩ : ∃ f', f = f' + 1 := ⟨f - 1, by omega⟩
    refine ⟨σ, ?_, h, t_out.refl, ho⟩
    have hlen := (h.2.2.2.1 n hn).1.2.1
    show x_ga (nI n) 6 _ = _
    rw [g6, (h.2.2.2.1 n hn).1.1, if_pos (nI_le (by omega) (by omega))]
  | succ m ih =>
    intro f i σ G h ho hm hf
    obtain ⟨f, rfl⟩ : ∃ f', f = f' + 1 := ⟨f - 1, by omega⟩
    have be := (h.2.2.2.1 n hn).1
    have hlen := be.2.1
    have hi : i < (g_es G n).length := by omega
    have hge : (g_es G n)[i]? = some (g_es G n)[i] := List.getElem?_eq_getElem hi
    have e0 := be.2.2 i hi
    have g1 : ∀ {α : Type} (kk : Nat → Option α), x_ga (nI (64 * n + i)) 384 kk = kk (64 * n + i) := fun kk => x_gaS (by omega) (by omega)
    have d1 : t_a σ 44 (64 * n + i) = e_ends (g_es G n)[i] := congrArg (fun x : s_E => x.2.2.2.2.2.2.2.2.2) e0
    have d2 : t_l σ 39 (64 * n + i) = e_nonces (g_es G n)[i] := congrArg (fun x : s_E => x.2.2.2.2.1) e0
    have d3 : t_a σ 41 (64 * n + i) = e_out (g_es G n)[i] := congrArg (fun x : s_E => x.2.2.2.2.2.2.1) e0
    obtain ⟨o, o1, o2⟩ := ho n hn _ (List.getElem_mem hi)
    have d4 : t_l σ 28 n = g_dead G n := (h.2.2.2.1 n hn).2.2
    have hstep : D_endsAll_12 (nI n) K (f + 1) (nI i) σ = if e_ends (g_es G n)[i] = g_minute G then D_endsAll_80 (nI n) (nI i) (nI (64 * n + i)) (fun (σ39 : t_S) => x_b (D_removes (nI n) (nI (64 * n + i)) σ39) fun σ41 => D_endsAll_12 (nI n) K f (nI i) σ41) x_F 0 (t_sa (t_sl σ 28 n (g_dead G n ||| e_nonces (g_es G n)[i])) 29 (6 * n + o) (N 1)) else D_endsAll_12 (nI n) K f (nI (i + 1)) σ := by
      show x_ga (nI n) 6 _ = _
      rw [g6, be.1, if_neg (nI_ge hi (by omega))]
      simp only [x_lS, show (64 : Int32) = nI 64 from rfl, nI_mul, nI_add, g1, g6, d1, h.2.2.1]
      by_cases c : e_ends (g_es G n)[i] = g_minute G
      · rw [if_pos c, if_pos c]
        simp only [t_a_sl, d2, d3, d4, o2, t_i_sl, show (6 : Int32) = nI 6 from rfl, nI_mul, nI_add, x_gaS (show 6 * n + o < 36 by omega) (show 36 < 2 ^ 31 by omega)]
        rw [show t_i σ 24 = N 1 from h.1.2.2.2]
      · rw [if_neg c, if_neg c, nI_1]
    have hspec : s_endsN N n (m + 1) i G = if e_ends (g_es G n)[i] = g_minute G then s_endsN N n m i (s_ends1 N n i (g_es G n)[i] G) else s_endsN N n m (i + 1) G := by
      show (match (g_es G n)[i]? with
        | none => G
        | some e => if e_ends e = g_minute G then s_endsN N n m i (s_ends1 N n i e G) else s_endsN N n m (i + 1) G) = _
      rw [hge]
    rw [hstep, hspec]
    by_cases c : e_ends (g_es G n)[i] = g_minute G
    · rw [if_pos c, if_pos c]
      obtain ⟨a1, a2⟩ := t_rel_dead (g_dead G n ||| e_nonces (g_es G n)[i]) h hn
      obtain ⟨b1, b2⟩ := t_rel_meas (k := 6 * n + o) (x := N 1) a1
      have ev : v_ (e_out (g_es G n)[i]) = o := by rw [o2]; exact v_nI (by omega)
      have b1' : t_rel (t_sa (t_sl σ 28 n (g_dead G n ||| e_nonces (g_es G n)[i])) 29 (6 * n + o) (N 1)) N lk (g_smeas (g_sdead G n (g_dead G n ||| e_nonces (g_es G n)[i])) (s_up1 (g_meas G) (6 * n + v_ (e_out (g_es G n)[i])) (N 1))) := by
        rw [ev]; exact b1
      have hge2 : (g_es (g_smeas (g_sdead G n (g_dead G n ||| e_nonces (g_es G n)[i])) (s_up1 (g_meas G) (6 * n + v_ (e_out (g_es G n)[i])) (N 1))) n)[i]? = some (g_es G n)[i] := by
        have e1 : g_es (g_smeas (g_sdead G n (g_dead G n ||| e_nonces (g_es G n)[i])) (s_up1 (g_meas G) (6 * n + v_ (e_out (g_es G n)[i])) (N 1))) n = g_es G n := by
          show g_es (g_sdead G n _) n = _
          unfold g_es g_sdead
          rw [g_nd_snd, s_up1_s]
        rw [e1]; exact hge
      obtain ⟨s1, c1, c2, c3⟩ := p_endsAll_80 (K := fun (σ39 : t_S) => x_b (D_removes (nI n) (nI (64 * n + i)) σ39) fun σ41 => D_endsAll_12 (nI n) K f (nI i) σ41) b1' hn hge2
      rw [c1]
      have hes3 : g_es (s_lateAll (e_asks (g_es G n)[i]) (g_smeas (g_sdead G n (g_dead G n ||| e_nonces (g_es G n)[i])) (s_up1 (g_meas G) (6 * n + v_ (e_out (g_es G n)[i])) (N 1)))) n = g_es G n := by
        unfold g_es
        rw [s_lateAll_same.1]
        show (g_nd (g_sdead G n _) n).1 = _
        unfold g_sdead
        rw [g_nd_snd, s_up1_s]
      obtain ⟨s2, r1, r2, r3, r4⟩ := p_removes (i := i) c2 hn (by rw [hes3]; exact hi)
      obtain ⟨s3, u1, u2, u3, u4⟩ := ih f i s2 (s_ends1 N n i (g_es G n)[i] G) r2 ho.ends1 (by rw [s_ends1_len hi]; omega) (by omega)
      refine ⟨s3, ?_, u2, (a2.trans b2).trans (c3.trans (r4.trans u3)), u4⟩
      rw [r1, x_bS]
      exact u1
    · rw [if_neg c, if_neg c]
      exact ih f (i + 1) σ G h ho (by omega) (by omega)
theorem p_endsAll (h : t_rel σ N lk G) (hN : n_ok N) (ho : s_outs G) : ∃ σ', D_endsAll σ = some σ' ∧ t_rel σ' N lk (s_endsAll N G) ∧ t_out σ σ' := by
  have hnn : N 0 = nI (n_nodes N) ∧ n_nodes N ≤ 6 := hN.1.1
  have key := x_forS (fun (_ : Nat) (s : t_S) (g : s_G) => t_rel s N lk g ∧ t_out σ s ∧ s_outs g) (fun f k s => D_endsAll_2 (fun s => some s) f (nI k) s) (fun s => some s) (fun n G => s_endsN N n (g_es G n).length 0 G) (n_nodes N) ?_ ?_ x_F 0 σ G (by omega) ⟨h, t_out.refl, ho⟩ (by rw [x_Fv]; omega)
  · obtain ⟨s', k1, k2, k3, -⟩ := key
    exact ⟨s', k1, k2, k3⟩
  · intro f s g hq
    show (if t_i s 23 ≤ _ then _ else _) = _
    rw [hq.1.1.2.2.1, hnn.1, if_pos (Int32.le_refl _)]
  · intro f k s g hq hk
    obtain ⟨q1, q2, q3⟩ := hq
    have hlen := (q1.2.2.2.1 k (by omega)).1.2.1
    obtain ⟨s1, a1, a2, a3, a4⟩ := p_endsAll_12 (K := fun (σ42 : t_S) => x_l (nI k + (1 : Int32)) fun v43 => D_endsAll_2 (fun s => some s) f v43 σ42) (show k < 6 by omega) (g_es g k).length x_F 0 s g q1 q3 (by omega) (by rw [x_Fv]; omega)
    refine ⟨s1, ?_, a2, q2.trans a3, a4⟩
    show (if t_i s 23 ≤ nI k then _ else _) = _
    rw [q1.1.2.2.1, hnn.1, if_neg (nI_ge hk (by omega))]
    rw [nI_0] at a1
    rw [a1]
    simp only [x_lS, nI_1]
end T56
