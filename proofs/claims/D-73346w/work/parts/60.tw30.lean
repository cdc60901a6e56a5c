/-! THE TWIN's LAW, 30: deeds, in plain words -/
set_option maxRecDepth 100000
set_option linter.unusedVariables false
/-- many minutes go by -/
def s_goMany (N : s_R) (lk : Nat → Option Nat) (m : Nat) (G : s_G) : s_G := s_fold (fun _ G => s_goesBy N lk G) 0 m G
def s_asked (k : Nat) (G : s_G) : s_G := g_scame G (fun f j => if j = k ∧ f = 57 then 0 else if j = k ∧ f = 59 then g_minute G else g_came G f j)
def s_ask (N : s_R) (lk : Nat → Option Nat) (n k : Nat) (name wish : Int32) (G : s_G) : s_G := s_interest N lk n (100 + k) name wish (nI k) (s_asked k G)
/-- a deed: what, of what -/
abbrev s_Dd : Type := Int32 × Int32 × Int32
/-- a deed as the reader takes it -/
def d_ok (d : s_Dd) : Prop := (d.1 = 0 ∨ d.1 = 1) ∧ (∃ n, n < 6 ∧ d.2.1 = nI n) ∧ s_wn d.2.2 ∨ d.1 = 2 ∧ (∃ m, 1 ≤ m ∧ m ≤ 20 ∧ d.2.1 = nI m) ∨ (d.1 = 3 ∨ d.1 = 4) ∧ ∃ a b, a < 6 ∧ b < 6 ∧ a ≠ b ∧ d.2.1 = nI a ∧ d.2.2 = nI b
def s_turn (l : Nat) (cut : Bool) (G : s_G) : s_G := g_sdown G (if cut = true then g_down G ||| ((1 : Int32) <<< (nI l &&& 31)) else g_down G &&& (((1 : Int32) <<< (nI l &&& 31)) ^^^ (-1 : Int32)))
/-- whether a deed can be done, and what is so then -/
def s_does (N : s_R) (lk : Nat → Option Nat) (d : s_Dd) (k : Nat) (G : s_G) : Option s_G :=
  if d.1 = 0 ∨ d.1 = 1 then (if v_ d.2.1 < n_nodes N then some (s_ask N lk (v_ d.2.1) k d.2.2 d.1 G) else none)
  else if d.1 = 2 then (if v_ (g_minute G) + v_ d.2.1 ≤ 99 then some (s_goMany N lk (v_ d.2.1) G) else none)
  else if v_ d.2.1 < n_nodes N ∧ v_ d.2.2 < n_nodes N then (match lk (6 * v_ d.2.1 + v_ d.2.2) with
    | none => none
    | some l => if s_bit (g_down G) (nI l) = decide (d.1 = 3) then none else some (s_turn l (decide (d.1 = 3)) G))
  else none
section T60
variable {N : s_R} {lk : Nat → Option Nat} {G G' : s_G} {K : Nat} {W : s_W} {t tm : Nat} {Q : List s_M} {P : Nat} {z y z' y' : Int}
theorem s_fold_succ {α : Type} (st : Nat → α → α) : ∀ (m k : Nat) (a : α), s_fold st k (m + 1) a = st (k + m) (s_fold st k m a) := by
  intro m
  induction m with
  | zero => intro k a; rfl
  | succ m ih =>
    intro k a
    show s_fold st (k + 1) (m + 1) (st k a) = st (k + (m + 1)) (s_fold st (k + 1) m (st k a))
    rw [ih (k + 1) (st k a), show k + 1 + m = k + (m + 1) by omega]
theorem s_inv.goMany (hK : K ≤ 64) (hN : n_ok N) (hlk : s_lkok N lk) : ∀ m, t + m ≤ 99 → s_inv N K W t t [] 0 0 0 G → s_inv N K W (t + m) (t + m) [] 0 0 0 (s_goMany N lk m G) := by
  intro m
  induction m with
  | zero => intro _ h; exact h
  | succ m ih =>
    intro ht h
    unfold s_goMany
    rw [s_fold_succ]
    exact s_inv.goesBy (ih (by omega) h) (by omega) hK hN hlk
/-- one more ask may come -/
theorem s_inv.ext {K' : Nat} {W' : s_W} (h : s_inv N K W t tm [] P z y G) (hK : K ≤ K') (hW : ∀ j, j < K → W' j = W j) : s_inv N K' W' t tm [] P z y G := by
  obtain ⟨⟨hm, hnd, hQ, hWy⟩, I, R, h1, h2, h3⟩ := h
  refine ⟨⟨hm, fun n hn => ?_, fun m hm => (by cases hm), fun m hmm => ?_⟩, I, R, h1, h2, ?_⟩
  · obtain ⟨o1, o2⟩ := hnd n hn
    refine ⟨fun e he => ?_, o2⟩
    obtain ⟨⟨k, k1, k2, k3, k4⟩, r2, r3, r4, r5, r6⟩ := o1 e he
    exact ⟨⟨k, by omega, k2, (hW k k1).trans k3, k4⟩, r2, r3, fun j hj hx => ⟨by have := (r4 j hj hx).1; omega, (hW j (r4 j hj hx).1).trans (r4 j hj hx).2⟩, fun j hj hx => by have := r5 j hj hx; omega, r6⟩
  · obtain ⟨⟨a1, a2, a3, a4, a5⟩, hd⟩ := hWy m hmm
    refine ⟨⟨a1, a2, a3, fun q => ?_, a5⟩, hd⟩
    obtain ⟨k, k1, k2, k3⟩ := a4 q
    exact ⟨k, by omega, k2, (hW k k1).trans k3⟩
  · have e : ∀ n, s_phi K G n ≤ s_phi K' G n := fun n => by
      unfold s_phi
      have := s_dc_le (g_dead G n) hK
      omega
    have e0 := e 0
    have e1 := e 1
    have e2 := e 2
    have e3 := e 3
    have e4 := e 4
    have e5 := e 5
    unfold s_sum6 at h3 ⊢
    omega
/-- what the asks want, with one more -/
def s_W1 (W : s_W) (k : Nat) (name wish : Int32) : s_W := s_up1 W k (name, wish)
theorem s_inv.ask {n k : Nat} {name wish : Int32} (h : s_inv N k W t t [] 0 0 0 G) (hN : n_ok N) (hlk : s_lkok N lk) (hk : k < 64) (hn : n < 6) (hnm : s_wn name) (hw : wish = 0 ∨ wish = 1) : s_inv N (k + 1) (s_W1 W k name wish) t t [] 0 0 0 (s_ask N lk n k name wish G) := by
  have h1 := h.ext (K' := k + 1) (W' := s_W1 W k name wish) (by omega) (fun j hj => s_up1_n (by omega))
  have h2 := h1.congr (G' := s_asked k G) rfl rfl rfl
  have h3 := h2.interest (n := n) (to := 100 + k) (k := k) (name := name) (wish := wish) hN hlk (by omega) hn (Or.inr rfl) (by omega) s_up1_s hnm hw
  exact h3.weak (by unfold s_z; rw [if_neg (by omega)]; omega) (by omega)
theorem s_inv.does {d : s_Dd} {k : Nat} (h : s_inv N k W t t [] 0 0 0 G) (hN : n_ok N) (hlk : s_lkok N lk) (hk : k < 60) (hd : d_ok d) (h' : s_does N lk d k G = some G') : ∃ W' t', s_inv N (k + 1) W' t' t' [] 0 0 0 G' := by
  have hmin : g_minute G = nI t := h.1.1.1
  have ht : t ≤ 99 := h.1.1.2.2
  have vt : v_ (g_minute G) = t := by rw [hmin]; exact v_nI (by omega)
  have hex := h.ext (K' := k + 1) (W' := W) (by omega) (fun j hj => rfl)
  have hnn : n_nodes N ≤ 6 := hN.1.1.2
  unfold s_does at h'
  rcases hd with ⟨a, ⟨n, n1, n2⟩, c⟩ | ⟨a, m, m1, m2, m3⟩ | ⟨a, x, y', x1, x2, x3, x4, x5⟩
  · rw [if_pos a] at h'
    split at h'
    · rename_i q
      cases h'
      exact ⟨_, t, h.ask hN hlk (by omega) (by omega) c a⟩
    · cases h'
  · rw [if_neg (by rw [a]; decide), if_pos a] at h'
    have vm : v_ d.2.1 = m := by rw [m3]; exact v_nI (by omega)
    rw [vt, vm] at h'
    split at h'
    · rename_i q
      cases h'
      exact ⟨W, t + m, s_inv.goMany (by omega) hN hlk m q hex⟩
    · cases h'
  · have a1 : ¬ (d.1 = 0 ∨ d.1 = 1) := by rcases a with a | a <;> rw [a] <;> decide
    have a2 : ¬ d.1 = 2 := by rcases a with a | a <;> rw [a] <;> decide
    rw [if_neg a1, if_neg a2] at h'
    split at h'
    · cases hl : lk (6 * v_ d.2.1 + v_ d.2.2) with
      | none => rw [hl] at h'; cases h'
      | some l =>
        rw [hl] at h'
        have h2 : (if s_bit (g_down G) (nI l) = decide (d.1 = 3) then none else some (s_turn l (decide (d.1 = 3)) G)) = some G' := h'
        split at h2
        · cases h2
        · cases h2
          exact ⟨W, t, hex.congr (G' := s_turn l (decide (d.1 = 3)) G) rfl rfl rfl⟩
    · cases h'
end T60
