/-! THE COMPONENT's LAW, 56: a run goes -/
set_option maxRecDepth 100000
set_option maxHeartbeats 400000
set_option linter.unusedVariables false
/-- a list of deeds -/
def h_dl (g : z_G) (o : Nat → Nat) (μ : z_M) (tl dl cap : Nat) (xs : List Nat) (ds : Nat → s_Dd) (cnt : Nat) : Prop := h_ls g o μ tl dl cap xs ∧ xs.length = cnt ∧ ∀ j x, xs[j]? = some x → h_de g o μ x (ds j)
/-- what a run costs -/
def k_plays (N : s_R) (lk : Nat → Option Nat) (ds : Nat → s_Dd) : Nat → Nat → s_G → Nat
  | 0, _, _ => 0
  | m + 1, k, G => match s_does N lk (ds k) k G with
    | none => 0
    | some G' => k_does N lk (ds k) G + k_plays N lk ds m (k + 1) G'
section T93
variable {g : z_G} {C : h_C} {N : s_R} {lk : Nat → Option Nat} {o o1 : Nat → Nat} {μ μ1 : z_M} {E : Nat → List Nat} {B a b l n q p w i k k2 ak r K t m tl dl cap cnt : Nat} {G G' : s_G} {d : s_Dd} {ds : Nat → s_Dd} {S : Nat → Prop} {xs : List Nat} {W : s_W} {A : Nat → Bool}
theorem h_dl.fr (h : h_dl g o μ tl dl cap xs ds cnt) (hf : h_fr g S o μ o1 μ1) (hw : h_wf g μ) (hS : ∀ a, o a = 0 ∨ o a = tl → ¬ S a) : h_dl g o1 μ1 tl dl cap xs ds cnt :=
  ⟨h.1.fr hf hw (fun a ha => hS a (Or.inr ha)), h.2.1, fun j x hx => (h.2.2 j x hx).fr hf hw (fun a ha => hS a (Or.inl ha))⟩
theorem h_rn.next (h : h_rn g C o μ E B G r ak k2 k w A) : h_rn g C o (z_set μ r (h_rc C ak k k w)) E B G r ak k k w A ∧ h_fr g (fun a => a = r) o μ o (z_set μ r (h_rc C ak k k w)) := by
  obtain ⟨h1, ⟨r0, rc⟩, fa, ⟨a0, ac⟩, hfa⟩ := h
  have F1 : h_fr g (fun a => a = r) o μ o (z_set μ r (h_rc C ak k k w)) := h_fr.setF h1.wf rc
  have hra : ak ≠ r := fun e => by rw [← e, ac] at rc; cases rc
  exact ⟨⟨h1.fr (b := 0) F1 (fun a q => by subst q; omega) (by rw [h_u_set]; omega), ⟨r0, z_set_self⟩, fa, ⟨a0, F1.cell h1.wf ac hra⟩, hfa⟩, F1⟩
/-- deeds are done from the k-th on -/
theorem h_rn.goes (Kf : z_M → Option (Option Nat × z_M)) (htl : tl < 879) (hcnt : cnt ≤ 40) (hds : ∀ j, j < cnt → d_ok (ds j)) (hMw : k_Mw (c_N C) cnt ≤ c_Mw C) (hMe : cnt ≤ c_Me C) (hn : n < 2 ^ 31) :
    ∀ (m f k w t : Nat) (W : s_W) (o : Nat → Nat) (μ : z_M) (E : Nat → List Nat) (B : Nat) (G : s_G), h_rn g C o μ E B G r ak k k w (s_Ak ds k) → h_dl g o μ tl dl cap xs ds cnt → s_inv (c_N C) k W t t [] 0 0 0 G → s_cc w_0 (c_N C) k [] 0 G → s_cinv (s_Ak ds k) t G → w < 2 ^ 31 → k + m = min n cnt → m < f →
    ∃ o1 μ1 E', D_X11_goes_0 g r (some dl) (nI n) Kf f μ = Kf μ1 ∧ h_rn g C o1 μ1 E' (B + k_plays (c_N C) (c_lk C) ds m k G) (s_plays (c_N C) (c_lk C) ds m k w G).2.2 r ak (s_plays (c_N C) (c_lk C) ds m k w G).1 (s_plays (c_N C) (c_lk C) ds m k w G).1 (s_plays (c_N C) (c_lk C) ds m k w G).2.1 (s_Ak ds (s_plays (c_N C) (c_lk C) ds m k w G).1) ∧ h_fr g (fun a => 879 ≤ o a) o μ o1 μ1 := by
  intro m
  induction m with
  | zero =>
    intro f k w t W o μ E B G h hl hi hp0 hc hw hm hf
    obtain ⟨f, rfl⟩ : ∃ f', f = f' + 1 := ⟨f - 1, by omega⟩
    refine ⟨o, μ, E, ?_, h, h_fr.refl h.1.wf⟩
    obtain ⟨r0, rc⟩ := h.2.1
    conv => lhs; unfold D_X11_goes_0
    rw [x_giS rc rfl]
    by_cases c : nI n ≤ nI k
    · rw [if_pos c]
    · have hnk : k < n := by
        refine Nat.lt_of_not_le (fun q => c ?_)
        exact nI_le q (by omega)
      rw [if_neg c, x_giS rc rfl, x_oS, hl.1.obK, hl.1.size, x_bS, hl.2.1, if_pos (by rw [show k = cnt by omega]; exact Int32.le_refl _)]
  | succ m ih =>
    intro f k w t W o μ E B G h hl hi hp0 hc hw hm hf
    obtain ⟨f, rfl⟩ : ∃ f', f = f' + 1 := ⟨f - 1, by omega⟩
    obtain ⟨r0, rc⟩ := h.2.1
    obtain ⟨x, hx⟩ := h_at hl.2.1 (show k < cnt by omega)
    have hde := hl.2.2 k x hx
    have hdk := hds k (by omega)
    have hob : ∀ {α : Type} {M : Option α}, x_ob μ r 11 (fun _ => M) = M := x_obS rc
    have hcan := h.1.can (k := k) rc rfl hde hdk
    have hD : ∀ v, D_X11_can g r (some x) μ = some v → D_X11_goes_0 g r (some dl) (nI n) Kf (f + 1) μ = if v = 0 then Kf μ else x_b (D_X11_does g r (some x) μ) fun μ46 => x_gi μ46 r 11 2 fun x47 => x_pf μ46 r 11 2 (.int (x47 + (1 : Int32))) fun μ55 => D_X11_goes_0 g r (some dl) (nI n) Kf f μ55 := by
      intro v hv
      conv => lhs; unfold D_X11_goes_0
      rw [x_giS rc rfl, if_neg (nI_ge (by omega) (by omega)), x_giS rc rfl, x_oS, hl.1.obK, hl.1.size, x_bS, hl.2.1, if_neg (nI_ge (by omega) (by omega)), x_giS rc rfl, hl.1.obK, hl.1.get hx, x_bS, x_gpI (x_icI hde.isA), hob, hv, x_bS, x_giS rc rfl, hl.1.obK, hl.1.get hx, x_bS, x_gpI (x_icI hde.isA), hob]
    have hp1 : s_plays (c_N C) (c_lk C) ds (m + 1) k w G = match s_does (c_N C) (c_lk C) (ds k) k G with
      | none => (k, w, G)
      | some G' => s_plays (c_N C) (c_lk C) ds m (k + 1) (max w (s_all (c_N C) G')) G' := rfl
    have hk1 : k_plays (c_N C) (c_lk C) ds (m + 1) k G = match s_does (c_N C) (c_lk C) (ds k) k G with
      | none => 0
      | some G' => k_does (c_N C) (c_lk C) (ds k) G + k_plays (c_N C) (c_lk C) ds m (k + 1) G' := rfl
    rw [hp1, hk1]
    cases he : s_does (c_N C) (c_lk C) (ds k) k G with
    | none =>
      rw [he] at hcan
      exact ⟨o, μ, E, (hD _ hcan).trans (if_pos rfl), h, h_fr.refl h.1.wf⟩
    | some G' =>
      rw [he] at hcan
      obtain ⟨o1, μ1, E1, e1, h1, F1⟩ := h.does hde hdk hi hp0 hc (by omega) (Nat.le_trans (k_Mw_mono (by omega)) hMw) (by omega) hw he
      obtain ⟨W', t', hi'⟩ := hi.does h.1.hN h.1.hlk (by omega) hdk he
      have hp1 := hp0.does0 hi h.1.hN h.1.hlk (by omega) hdk he
      have hc' := hc.does hi h.1.hN h.1.hlk (by omega) hdk he
      rw [← s_Ak_succ] at hc'
      have ht' : v_ (g_minute G') = t' := by rw [hi'.1.1.1]; exact v_nI (by have := hi'.1.1.2.2; omega)
      rw [ht'] at hc'
      have hall : s_all (c_N C) G' < 400 := s_all_le h.1.hN (fun n hn => Nat.lt_of_le_of_lt ((hi'.few (by omega)).1 n hn) (by omega))
      obtain ⟨h2, F2⟩ := h1.next
      obtain ⟨r1, rc1⟩ := h1.2.1
      have F12 : h_fr g (fun a => 879 ≤ o a) o μ o1 (z_set μ1 r (h_rc C ak (k + 1) (k + 1) (max w (s_all (c_N C) G')))) := F1.trans F2 (fun a ha q => by
        rcases q with q | q
        · exact q
        · rw [q, r0]; omega)
      have hl2 := hl.fr F12 h.1.wf (fun a ha => by omega)
      obtain ⟨o3, μ3, E3, e3, h3, F3⟩ := ih f (k + 1) (max w (s_all (c_N C) G')) t' W' o1 _ E1 _ G' h2 hl2 hi' hp1 hc' (by omega) (by omega) (by omega)
      refine ⟨o3, μ3, E3, ?_, ?_, F12.trans F3 (fun a ha q => by
        rcases q with q | q
        · exact q
        · rw [F12.2.1 a ha] at q; exact q)⟩
      · rw [hD _ hcan]
        refine (if_neg (fun q => absurd (show (1 : Int32) = 0 from q) (by decide))).trans ?_
        have e9 : nI k + (1 : Int32) = nI (k + 1) := nI_add k 1
        rw [e1, x_bS, x_giS rc1 rfl, e9]
        exact (x_pfS rc1 (Nat.le_of_ble_eq_true rfl)).trans e3
      · show h_rn g C o3 μ3 E3 (B + (k_does (c_N C) (c_lk C) (ds k) G + k_plays (c_N C) (c_lk C) ds m (k + 1) G')) _ r ak _ _ _ _
        rw [← Nat.add_assoc]
        exact h3
end T93
