/-! THE COMPONENT's LAW, 83: the calls feed, end -/
set_option maxRecDepth 100000
set_option maxHeartbeats 400000
set_option linter.unusedVariables false
section T93
variable {g : z_G} {o o1 o2 : Nat → Nat} {μ μ1 μ2 : z_M} {a s x tb v i K q d l t im : Nat} {S : Nat → Prop} {N R L : s_R} {p p' : s_P} {T : s_T} {w : Int32}
/-- what is told now changes; the rest stays -/
theorem h_wo.now2 (h : h_wo g o μ a T) (hw : h_wf g μ) : ∃ s fs, (o a = 5 ∧ μ.1 a = some (.inr (0, fs)) ∧ fs[0]? = some (.ref s)) ∧ h_si g o μ 10 s T.1 ∧ ∀ (S : Nat → Prop) (o1 : Nat → Nat) (μ1 : z_M) (p' : s_P), h_fr g S o μ o1 μ1 → (∀ b, S b → 10 ≤ o b ∧ o b ≤ 14) → h_si g o1 μ1 10 s p' → h_wo g o1 μ1 a (p', T.2) := by
  obtain ⟨s, im, fi, ⟨a1, a2⟩, ⟨i1, i2⟩, s1, s2⟩ := h
  refine ⟨s, _, ⟨a1, a2, rfl⟩, s1, fun S o1 μ1 p' hf hS hs => ?_⟩
  refine ⟨s, im, fi, ⟨(hf.2.1 a (hw.lt a2)).trans a1, hf.cell hw a2 (fun q => by have := hS a q; omega)⟩, ⟨(hf.2.1 im (hw.lt i2)).trans i1, hf.cell hw i2 (fun q => by have := hS im q; omega)⟩, hs, fun k hk => ?_⟩
  have h2 := s2 k hk
  revert h2
  cases fi k with
  | none =>
    cases T.2 k with
    | none => intro _; exact trivial
    | some p => intro q; exact q
  | some x =>
    cases T.2 k with
    | none => intro q; exact q
    | some p =>
      intro q
      have q' : h_si g o μ (20 + 10 * k) x p := q
      exact q'.fr hf hw (fun b hb z => by have := hS b z; omega)
/-- a byte is put on the tape -/
theorem h_si.put (h : h_si g o μ tb s p) (hw : h_wf g μ) (hs : u_size p < 600) (htb : 10 ≤ tb) : ∃ tp f μ1, (∃ fs, μ.1 s = some (.inr (1, fs)) ∧ fs[0]? = some (.ref tp) ∧ fs[1]? = some (.int (nI (u_size p))) ∧ fs.length = 7 ∧ μ.1 tp = some (.inl (1, 600, .inl f)) ∧ μ1 = z_set (z_set μ tp (.inl (1, 600, .inl (h_up f (u_size p) (s_b8 w))))) s (.inr (1, fs.set 1 (.int (nI (u_size p) + 1))))) ∧ s ≠ tp ∧ h_si g o μ1 tb s (s_put8 w p) ∧ h_fr g (fun b => tb ≤ o b ∧ o b ≤ tb + 1) o μ o μ1 := by
  obtain ⟨hu, h1, tp, nl, rl, ll, cn, cr, cl, f, ns, rs, ls, c1, ⟨t1, t2, t3⟩, ⟨n1, n1', n2, n3⟩, ⟨r1, r1', r2, r3⟩, ⟨l1, l1', l2, l3⟩⟩ := h
  have hst : s ≠ tp := fun e => by rw [e, t2] at c1; cases c1
  have F1 : h_fr g (fun b => b = tp) o μ o (z_set μ tp (.inl (1, 600, .inl (h_up f (u_size p) (s_b8 w))))) := h_fr.setA hw t2
  have c2 := F1.cell hw c1 hst
  have F2 : h_fr g (fun b => b = s) o (z_set μ tp (.inl (1, 600, .inl (h_up f (u_size p) (s_b8 w))))) o (z_set (z_set μ tp (.inl (1, 600, .inl (h_up f (u_size p) (s_b8 w))))) s (.inr (1, [.ref tp, .int (nI (u_size p) + 1), .int (u_kind p), .int (u_place p), .ref nl, .ref rl, .ref ll]))) := h_fr.setF F1.wf c2
  have F12 : h_fr g (fun b => tb ≤ o b ∧ o b ≤ tb + 1) o μ o (z_set (z_set μ tp (.inl (1, 600, .inl (h_up f (u_size p) (s_b8 w))))) s (.inr (1, [.ref tp, .int (nI (u_size p) + 1), .int (u_kind p), .int (u_place p), .ref nl, .ref rl, .ref ll]))) := F1.trans F2 (fun b _ q => by
    rcases q with q | q
    · rw [q, t1]; omega
    · rw [q, h1]; omega)
  have t4 : (z_set (z_set μ tp (.inl (1, 600, .inl (h_up f (u_size p) (s_b8 w))))) s (.inr (1, [.ref tp, .int (nI (u_size p) + 1), .int (u_kind p), .int (u_place p), .ref nl, .ref rl, .ref ll]))).1 tp = some (.inl (1, 600, .inl (h_up f (u_size p) (s_b8 w)))) := F2.cell F1.wf z_set_self (Ne.symm hst)
  refine ⟨tp, f, _, ⟨_, c1, rfl, rfl, rfl, t2, rfl⟩, hst, ⟨?_, h1, tp, nl, rl, ll, cn, cr, cl, _, ns, rs, ls, ?_, ⟨t1, t4, fun j hj => ?_⟩, ⟨n1, n1', n2.fr F12 hw (fun b hb => by omega), n3.mono (fun x y _ h => h.fr F12 hw (fun b hb => by omega))⟩,
    ⟨r1, r1', r2.fr F12 hw (fun b hb => by omega), r3.mono (fun x y _ h => h.fr F12 hw (fun b hb => by omega))⟩, ⟨l1, l1', l2.fr F12 hw (fun b hb => by omega), l3.mono (fun x y _ h => h.fr F12 hw (fun b hb => by omega))⟩⟩, F12⟩
  · obtain ⟨u1, u2, u3, u4, u5, u6, u7, u8⟩ := hu
    exact ⟨by show u_size p + 1 ≤ 600; omega, u2, u3, u4, u5, u6, u7, s_put8_b8 u8⟩
  · show (_ : Option z_C) = some (.inr (1, [.ref tp, .int (nI (u_size p + 1)), .int (u_kind p), .int (u_place p), .ref nl, .ref rl, .ref ll]))
    rw [← nI_1]
    exact z_set_self
  · show (if j = u_size p then s_b8 w else f j) = s_up1 (u_tape p) (u_size p) (s_b8 w) j
    by_cases e : j = u_size p
    · rw [if_pos e, e, s_up1_s]
    · rw [if_neg e, s_up1_n e, t3 j hj]
theorem h_iv.put {im : Nat → Option s_P} (h : h_iv g o μ a (p, im)) (hs : u_size p < 600) : ∃ μ1, (∀ {α : Type} (kk : z_M → Option α), (x_gr μ a 0 0 fun o21 => x_o o21 fun p25 => x_gr μ p25 1 0 fun o26 => x_gr μ a 0 0 fun o30 => x_o o30 fun p34 => x_gi μ p34 1 1 fun x35 => x_o o26 fun p39 => x_ar μ p39 1 fun n40 f41 => x_ga x35 n40 fun j43 => x_l (x_ia μ p39 1 n40 j43 f41 ((w.toInt8.toInt32).toInt8.toInt32)) fun μ46 =>
      x_gr μ46 a 0 0 fun o47 => x_o o47 fun p51 => x_gi μ46 p51 1 1 fun x52 => x_pf μ46 p51 1 1 (.int (x52 + (1 : Int32))) kk) = kk μ1) ∧ h_iv g o μ1 a (s_put8 w p, im) ∧ h_u μ1 = h_u μ := by
  obtain ⟨hok, hw, hT, hwo⟩ := h
  obtain ⟨s, fs0, ⟨a1, a2, a3⟩, hsi, reb⟩ := hwo.now2 hw
  have hsi' : h_si g o μ 10 s p := hsi
  obtain ⟨tp, f, μ1, ⟨fs, c1, d0, d1, dl, t2, rfl⟩, hst, hs2, F⟩ := hsi'.put (w := w) hw hs (by omega)
  have has : a ≠ tp := fun e => by rw [e, t2] at a2; cases a2
  have e1 : (((w.toInt8.toInt32)).toInt8.toInt32) = s_b8 w := s_b8_b8 _
  have a2' : (z_set μ tp (.inl (1, 600, .inl (h_up f (u_size p) (s_b8 w))))).1 a = _ := (z_set_ne has).trans a2
  have c2 : (z_set μ tp (.inl (1, 600, .inl (h_up f (u_size p) (s_b8 w))))).1 s = some (.inr (1, fs)) := (z_set_ne hst).trans c1
  refine ⟨_, fun kk => ?_, ⟨hok, F.wf, fun b hb => hT b hb, reb _ _ _ _ F (fun b hb => by omega) hs2⟩, rfl⟩
  rw [x_grR a2 a3, x_oS, x_grR c1 d0, x_grR a2 a3, x_oS, x_giS c1 d1, x_oS, x_arS t2, x_gaT (by omega) (by omega), x_lS, e1]
  have hia : x_ia μ tp 1 600 (u_size p) f (s_b8 w) = z_set μ tp (.inl (1, 600, .inl (h_up f (u_size p) (s_b8 w)))) := rfl
  rw [hia, x_grR a2' a3, x_oS, x_giS c2 d1]
  exact x_pfS c2 (by rw [dl]; omega)
/-- which word a byte is of -/
def s_wd (a b c d e : Int32) (k : Nat) : Int32 := if k < 4 then a else if k < 8 then b else if k < 12 then c else if k < 16 then d else e
theorem h_iv.feed21 {im : Nat → Option s_P} {wa wb wc wd we : Int32} (Kf : z_M → Option (Int32 × z_M)) : ∀ (m f k : Nat) (μ : z_M) (p : s_P), h_iv g o μ a (p, im) → k + m = 20 → u_size p + m ≤ 600 → m < f →
    ∃ μ1, D_X0_feed_21 g a wa wb wc wd we Kf f (nI k) μ = Kf μ1 ∧ h_iv g o μ1 a (s_fold (fun k p => s_put8 (s_wd wa wb wc wd we k >>> (((24 : Int32) - ((8 : Int32) * (nI k &&& (3 : Int32)))) &&& 31)) p) k m p, im) ∧ h_u μ1 = h_u μ := by
  intro m
  induction m with
  | zero =>
    intro f k μ p h hk hs hf
    obtain ⟨f, rfl⟩ : ∃ f', f = f' + 1 := ⟨f - 1, by omega⟩
    refine ⟨μ, ?_, h, rfl⟩
    conv => lhs; unfold D_X0_feed_21
    rw [if_pos (show (20 : Int32) ≤ nI k from nI_le (a := 20) (by omega) (by omega))]
  | succ m ih =>
    intro f k μ p h hk hs hf
    obtain ⟨f, rfl⟩ : ∃ f', f = f' + 1 := ⟨f - 1, by omega⟩
    obtain ⟨μ1, e1, h1, u1⟩ := h.put (w := s_wd wa wb wc wd we k >>> (((24 : Int32) - ((8 : Int32) * (nI k &&& (3 : Int32)))) &&& 31)) (by omega)
    obtain ⟨μ2, e2, h2, u2⟩ := ih f (k + 1) μ1 _ h1 (by omega) (by show u_size p + 1 + m ≤ 600; omega) (by omega)
    refine ⟨μ2, ?_, h2, by omega⟩
    conv => lhs; unfold D_X0_feed_21
    rw [if_neg (show ¬ (20 : Int32) ≤ nI k from nI_ge (b := 20) (by omega) (by omega)), x_lS]
    have key : ∀ s20 : Int32, s20 = s_wd wa wb wc wd we k → (x_gr μ a 0 0 fun o21 => x_o o21 fun p25 => x_gr μ p25 1 0 fun o26 => x_gr μ a 0 0 fun o30 => x_o o30 fun p34 => x_gi μ p34 1 1 fun x35 => x_o o26 fun p39 => x_ar μ p39 1 fun n40 f41 => x_ga x35 n40 fun j43 => x_l (x_ia μ p39 1 n40 j43 f41 (((((s20 >>> (((24 : Int32) - ((8 : Int32) * (nI k &&& (3 : Int32)))) &&& 31))).toInt8.toInt32)).toInt8.toInt32)) fun μ46 =>
        x_gr μ46 a 0 0 fun o47 => x_o o47 fun p51 => x_gi μ46 p51 1 1 fun x52 => x_pf μ46 p51 1 1 (.int (x52 + (1 : Int32))) fun μ60 => x_l (nI k + (1 : Int32)) fun v61 => D_X0_feed_21 g a wa wb wc wd we Kf f v61 μ60) = Kf μ2 := by
      intro s20 hs20
      subst hs20
      refine (e1 _).trans ?_
      rw [x_lS, nI_1]
      exact e2
    by_cases c4 : 4 ≤ k
    · rw [if_pos (show (4 : Int32) ≤ nI k from nI_le (a := 4) c4 (by omega))]
      by_cases c8 : 8 ≤ k
      · rw [if_pos (show (8 : Int32) ≤ nI k from nI_le (a := 8) c8 (by omega))]
        by_cases c12 : 12 ≤ k
        · rw [if_pos (show (12 : Int32) ≤ nI k from nI_le (a := 12) c12 (by omega))]
          by_cases c16 : 16 ≤ k
          · rw [if_pos (show (16 : Int32) ≤ nI k from nI_le (a := 16) c16 (by omega))]
            exact key _ (by unfold s_wd; rw [if_neg (by omega), if_neg (by omega), if_neg (by omega), if_neg (by omega)])
          · rw [if_neg (show ¬ (16 : Int32) ≤ nI k from nI_ge (b := 16) (by omega) (by omega))]
            exact key _ (by unfold s_wd; rw [if_neg (by omega), if_neg (by omega), if_neg (by omega), if_pos (by omega)])
        · rw [if_neg (show ¬ (12 : Int32) ≤ nI k from nI_ge (b := 12) (by omega) (by omega))]
          exact key _ (by unfold s_wd; rw [if_neg (by omega), if_neg (by omega), if_pos (by omega)])
      · rw [if_neg (show ¬ (8 : Int32) ≤ nI k from nI_ge (b := 8) (by omega) (by omega))]
        exact key _ (by unfold s_wd; rw [if_neg (by omega), if_pos (by omega)])
    · rw [if_neg (show ¬ (4 : Int32) ≤ nI k from nI_ge (b := 4) (by omega) (by omega))]
      exact key _ (by unfold s_wd; rw [if_pos (by omega)])
theorem s_feed_fold {wa wb wc wd we : Int32} : s_fold (fun k p => s_put8 (s_wd wa wb wc wd we k >>> (((24 : Int32) - ((8 : Int32) * (nI k &&& (3 : Int32)))) &&& 31)) p) 0 20 p = s_feed wa wb wc wd we p := by
  have e : ∀ k : Fin 20, ((24 : Int32) - ((8 : Int32) * (nI k.1 &&& (3 : Int32)))) &&& 31 = (nI (24 - 8 * (k.1 % 4))) &&& 31 := by decide
  rw [s_fold_congr (st' := fun k p => s_put8 (s_wd wa wb wc wd we k >>> (nI (24 - 8 * (k % 4)) &&& 31)) p) 20 (fun k p hk => by
    show s_put8 (_ >>> _) p = _
    rw [e ⟨k, hk⟩]) 20 0 p (by omega)]
  rfl
theorem h_iv.feed {wa wb wc wd we : Int32} (h : h_iv g o μ a T) : ∃ μ1, D_X0_feed g a wa wb wc wd we μ = some ((q_feed T wa wb wc wd we).1, μ1) ∧ h_iv g o μ1 a (q_feed T wa wb wc wd we).2 ∧ h_u μ1 = h_u μ := by
  obtain ⟨hok, hw, hT, hwo⟩ := id h
  obtain ⟨s, fs0, ⟨a1, a2, a3⟩, hsi, -⟩ := hwo.now2 hw
  obtain ⟨hu, h1, tp, nl, rl, ll, cn, cr, cl, f, ns, rs, ls, c1, -⟩ := hsi
  have h600 := hu.1
  unfold D_X0_feed q_feed
  rw [x_grR a2 a3, x_oS, x_giS c1 rfl, show nI (u_size T.1) + (20 : Int32) = nI (u_size T.1 + 20) from nI_add _ 20]
  by_cases c : u_size T.1 + 20 ≤ 600
  · rw [if_pos (show nI (u_size T.1 + 20) ≤ (600 : Int32) from nI_le (b := 600) c (by omega)), if_pos c]
    obtain ⟨μ1, e1, h2, u1⟩ := h_iv.feed21 (g := g) (o := o) (a := a) (im := T.2) (wa := wa) (wb := wb) (wc := wc) (wd := wd) (we := we) (fun (μ66 : z_M) => x_gr μ66 a 0 0 fun o67 => x_o o67 fun p71 => x_gi μ66 p71 1 1 fun x72 => some (x72, μ66)) 20 x_F 0 μ T.1 h rfl c (by rw [x_Fv]; omega)
    rw [s_feed_fold] at h2
    refine ⟨μ1, ?_, h2, u1⟩
    refine e1.trans ?_
    obtain ⟨hok2, hw2, hT2, hwo2⟩ := id h2
    obtain ⟨s', fs', ⟨b1, b2, b3⟩, hsi', -⟩ := hwo2.now2 hw2
    obtain ⟨hu', g1, g2, g3, g4, g5, g6, g7, g8, g9, g10, g11, g12, c1', -⟩ := hsi'
    rw [x_grR b2 b3, x_oS, x_giS c1' rfl]
    rfl
  · rw [if_neg (show ¬ nI (u_size T.1 + 20) ≤ (600 : Int32) from nI_ge (a := 600) (by omega) (by omega)), if_neg c]
    exact ⟨μ, rfl, h, rfl⟩
theorem h_iv.end {n : Int32} (h : h_iv g o μ a T) : ∃ μ1, D_X0_end g a n μ = some ((q_end T n).1, μ1) ∧ h_iv g o μ1 a (q_end T n).2 ∧ h_u μ1 = h_u μ := by
  obtain ⟨hok, hw, hT, hwo⟩ := id h
  obtain ⟨s, fs0, ⟨a1, a2, a3⟩, hsi, reb⟩ := hwo.now2 hw
  obtain ⟨hu, h1, tp, nl, rl, ll, cn, cr, cl, f, ns, rs, ls, c1, ⟨t1, t2, t3⟩, ⟨n1, n1', n2, n3⟩, ⟨r1, r1', r2, r3⟩, ⟨l1, l1', l2, l3⟩⟩ := hsi
  have h600 := hu.1
  unfold D_X0_end q_end
  by_cases c0 : n < 0
  · rw [if_pos c0, if_neg (fun q => absurd q.1 (Int32.not_le.mpr c0))]
    exact ⟨μ, rfl, h, rfl⟩
  · obtain ⟨e1, e2⟩ := v_of (Int32.not_lt.mp c0)
    rw [if_neg c0, x_grR a2 a3, x_oS, x_giS c1 rfl]
    by_cases c : v_ n ≤ u_size T.1
    · rw [if_pos (show n ≤ nI (u_size T.1) by rw [e1]; exact nI_le c (by omega)), if_pos (show 0 ≤ n ∧ v_ n ≤ u_size T.1 from ⟨Int32.not_lt.mp c0, c⟩), x_grR a2 a3, x_oS]
      have F2 : h_fr g (fun b => b = s) o μ o (z_set μ s (.inr (1, [.ref tp, .int n, .int (u_kind T.1), .int (u_place T.1), .ref nl, .ref rl, .ref ll]))) := h_fr.setF hw c1
      have hst : s ≠ tp := fun e => by rw [e, t2] at c1; cases c1
      refine ⟨z_set μ s (.inr (1, [.ref tp, .int n, .int (u_kind T.1), .int (u_place T.1), .ref nl, .ref rl, .ref ll])), x_pfS c1 (Nat.le_of_ble_eq_true rfl), ⟨hok, F2.wf, fun b hb => hT b hb, reb _ _ _ _ F2 (fun b hb => by rw [hb, h1]; omega) ?_⟩, rfl⟩
      have S0 : ∀ b, ¬ o b = 10 → ¬ b = s := fun b hb q => hb (by rw [q]; exact h1)
      refine ⟨?_, h1, tp, nl, rl, ll, cn, cr, cl, f, ns, rs, ls, ?_, ⟨t1, F2.cell hw t2 (Ne.symm hst), t3⟩, ⟨n1, n1', n2.fr F2 hw (fun b hb => S0 b (by omega)), n3.mono (fun x y _ h => h.fr F2 hw (fun b hb => S0 b (by omega)))⟩,
        ⟨r1, r1', r2.fr F2 hw (fun b hb => S0 b (by omega)), r3.mono (fun x y _ h => h.fr F2 hw (fun b hb => S0 b (by omega)))⟩, ⟨l1, l1', l2.fr F2 hw (fun b hb => S0 b (by omega)), l3.mono (fun x y _ h => h.fr F2 hw (fun b hb => S0 b (by omega)))⟩⟩
      · obtain ⟨u1, u2, u3, u4, u5, u6, u7, u8⟩ := hu
        exact ⟨by show v_ n ≤ 600; omega, u2, u3, u4, u5, u6, u7, u8⟩
      · show (_ : Option z_C) = some (.inr (1, [.ref tp, .int (nI (v_ n)), .int (u_kind T.1), .int (u_place T.1), .ref nl, .ref rl, .ref ll]))
        rw [← e1]
        exact z_set_self
    · rw [if_neg (show ¬ n ≤ nI (u_size T.1) by rw [e1]; exact nI_ge (by omega) (by omega)), if_neg (fun q => c q.2)]
      exact ⟨μ, rfl, h, rfl⟩
end T93
