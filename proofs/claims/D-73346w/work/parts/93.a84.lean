/-! THE COMPONENT's LAW, 84: the calls image, again; a new object -/
set_option maxRecDepth 100000
set_option maxHeartbeats 400000
set_option linter.unusedVariables false
/-- tags of runs are dropped -/
def h_cl (o : Nat → Nat) : Nat → Nat := fun b => if o b < 879 then o b else 0
theorem h_cl_lt (o : Nat → Nat) (b : Nat) : h_cl o b < 879 := by unfold h_cl; split <;> omega
theorem h_cl_eq {o : Nat → Nat} {b t : Nat} (h : o b = t) (ht : t < 879) : h_cl o b = t := by unfold h_cl; rw [h, if_pos ht]
section T93
variable {g : z_G} {o o1 o2 : Nat → Nat} {μ μ1 μ2 : z_M} {a s s' x tb tb' v i K q d l l' t t' n n' im j : Nat} {S : Nat → Prop} {N R L : s_R} {p p' : s_P} {T : s_T} {w : Int32} {xs ys : List Nat} {fs fs' : List Value}
theorem h_fr.clip (hf : h_fr g S o μ o1 μ1) (hT : ∀ b, b < μ.2.1 → o b < 879) : h_fr g S o μ (h_cl o1) μ1 :=
  ⟨hf.1, fun b hb => h_cl_eq (hf.2.1 b hb) (hT b hb), hf.2.2.1, hf.2.2.2.1, hf.2.2.2.2⟩
theorem h_ls.clip (h : h_ls g o μ t l n xs) (ht : t < 879) : h_ls g (h_cl o) μ t l n xs := by
  obtain ⟨h1, h2, h3, h4, m, arr, h5, h6⟩ := h
  refine ⟨h_cl_eq h1 ht, h2, h3, h4, m, arr, h5, ?_⟩
  rcases h6 with q | ⟨q1, q2, q3⟩
  · exact Or.inl q
  · exact Or.inr ⟨q1, h_cl_eq q2 ht, q3⟩
/-- a list is copied to another one -/
theorem h_ls.copyTo (hL : h_ls g o μ t l n xs) (hL' : h_ls g o μ t' l' n' ys) (hw : h_wf g μ) (hT : ∀ b, b < μ.2.1 → o b < 879) (hn : 2 ≤ n ∧ n < 4000) (hn' : 2 ≤ n') (hy : ys.length ≤ 2) (htt : t ≠ t') (ht : t < 879)
    (hs : μ.1 s = some (.inr (1, fs))) (hs' : μ.1 s' = some (.inr (1, fs'))) (hj : fs[j]? = some (.ref l)) (hj' : fs'[j]? = some (.ref l')) (ho : o s ≠ t) (ho' : o s' ≠ t) :
    ∃ o1 μ1, (∀ {α : Type} (kk : z_M → Option α), (x_gr μ s 1 j fun o39 => x_o o39 fun p43 => x_ob μ p43 3 fun _ => x_b (D_J2_clear g p43 μ) fun μ47 => x_gr μ47 s 1 j fun o48 => x_gr μ47 s' 1 j fun o52 => x_o o48 fun p56 => x_ob μ47 p56 3 fun _ => x_b2 (D_J2_addAll g p56 o52 μ47) fun x60 μ61 => kk μ61) = kk μ1) ∧ h_ls g o1 μ1 t l n ys ∧ h_fr g (fun a => o a = t) o μ o1 μ1 ∧ (∀ b, o1 b < 879) ∧ h_u μ1 ≤ h_u μ + 7 := by
  obtain ⟨μ1, e1, q1, F1, u1⟩ := hL.clear hw (by omega) (by omega)
  have hL1 := hL'.fr F1 hw (fun b hb q => htt (q.symm.trans hb))
  have s1 := F1.cell hw hs ho
  have s1' := F1.cell hw hs' ho'
  obtain ⟨r, o2, μ2, e2, q2, F2, u2⟩ := q1.addAll 0 hL1 F1.wf (by omega) (by omega) (by omega) htt
  have hT1 : ∀ b, b < μ1.2.1 → o b < 879 := fun b hb => by
    have e : μ1.2.1 = μ.2.1 := by rw [u1]
    exact hT b (by omega)
  have F2' := F2.clip hT1
  refine ⟨h_cl o2, μ2, fun kk => ?_, q2.clip ht, F1.trans F2' (fun b _ q => q.elim id id), h_cl_lt o2, ?_⟩
  · rw [x_grR hs hj, x_oS, hL.obK, e1, x_bS, x_grR s1 hj, x_grR s1' hj', x_oS, q1.obK, e2, x_b2S]
  · have : h_u μ1 = h_u μ := by unfold h_u; rw [u1]
    omega
/-- what is told there is told here -/
theorem h_si.be (h : h_si g o μ tb s p) (h' : h_si g o μ tb' s' p') (hw : h_wf g μ) (hT : ∀ b, b < μ.2.1 → o b < 879) (hd : tb + 5 ≤ tb' ∨ tb' + 5 ≤ tb) (h10 : 10 ≤ tb ∧ tb < 100) (h10' : 10 ≤ tb') :
    ∃ o1 μ1, D_X1_be g s (some s') μ = some μ1 ∧ h_si g o1 μ1 tb s p' ∧ h_fr g (fun b => tb ≤ o b ∧ o b ≤ tb + 4) o μ o1 μ1 ∧ (∀ b, b < μ1.2.1 → o1 b < 879) ∧ h_u μ1 ≤ h_u μ + 30 := by
  obtain ⟨hu, h1, tp, nl, rl, ll, cn, cr, cl, f, ns, rs, ls, c1, ⟨t1, t2, t3⟩, ⟨n1, n1', n2, n3⟩, ⟨r1, r1', r2, r3⟩, ⟨l1, l1', l2, l3⟩⟩ := h
  obtain ⟨hu', h1', tp', nl', rl', ll', cn', cr', cl', f', ns', rs', ls', c1', ⟨t1', t2', t3'⟩, ⟨m1, m1', m2, m3⟩, ⟨k1, k1', k2, k3⟩, ⟨j1, j1', j2, j3⟩⟩ := h'
  have hu8 := hu'
  obtain ⟨-, un, ur, ul, -, -, -, u8⟩ := hu8
  have hac : x_ac g μ (some tp') 0 (some tp) 0 600 = some (z_set μ tp (.inl (1, 600, .inl (va_cpy f' f 0 0 600)))) := x_acB (s := 0) (d := 0) (c := 600) t2' t2 (by omega) (by omega) (by omega) (fun i hi => by rw [Nat.zero_add, t3' i hi]; exact u8 i)
  have F1 : h_fr g (fun b => b = tp) o μ o (z_set μ tp (.inl (1, 600, .inl (va_cpy f' f 0 0 600)))) := h_fr.setA hw t2
  have hst : s ≠ tp := fun e => by rw [e, t2] at c1; cases c1
  have hst' : s' ≠ tp := fun e => by rw [e, t2] at c1'; cases c1'
  have c2 := F1.cell hw c1 hst
  have c2' := F1.cell hw c1' hst'
  have t4 : (z_set μ tp (.inl (1, 600, .inl (va_cpy f' f 0 0 600)))).1 tp = some (.inl (1, 600, .inl (va_cpy f' f 0 0 600))) := z_set_self
  generalize hM1 : z_set μ tp (.inl (1, 600, .inl (va_cpy f' f 0 0 600))) = M1 at hac F1 c2 c2' t4
  have hss : s ≠ s' := fun e => by rw [e, h1'] at h1; omega
  have hM1u : h_u M1 = h_u μ := by rw [← hM1]; rfl
  have hM1s : M1.2.1 = μ.2.1 := by rw [← hM1]; rfl
  -- the three numbers
  have F2 : h_fr g (fun b => b = s) o M1 o (z_set M1 s (.inr (1, [.ref tp, .int (nI (u_size p')), .int (u_kind p'), .int (u_place p'), .ref nl, .ref rl, .ref ll]))) := h_fr.setF F1.wf c2
  have c3 : (z_set M1 s (.inr (1, [.ref tp, .int (nI (u_size p')), .int (u_kind p'), .int (u_place p'), .ref nl, .ref rl, .ref ll]))).1 s = some (.inr (1, [.ref tp, .int (nI (u_size p')), .int (u_kind p'), .int (u_place p'), .ref nl, .ref rl, .ref ll])) := z_set_self
  have c3' := F2.cell F1.wf c2' (Ne.symm hss)
  have t5 := F2.cell F1.wf t4 (Ne.symm hst)
  have D1 : ∀ {α : Type} (kk : z_M → Option α), (x_gi M1 s' 1 1 fun x12 => x_pf M1 s 1 1 (.int x12) fun μ20 => x_gi μ20 s' 1 2 fun x21 => x_pf μ20 s 1 2 (.int x21) fun μ29 => x_gi μ29 s' 1 3 fun x30 => x_pf μ29 s 1 3 (.int x30) kk) = kk (z_set M1 s (.inr (1, [.ref tp, .int (nI (u_size p')), .int (u_kind p'), .int (u_place p'), .ref nl, .ref rl, .ref ll]))) := by
    intro α kk
    rw [x_giS c2' rfl, x_pfS c2 (Nat.le_of_ble_eq_true rfl)]
    have a1 : ∀ (x : z_C), (z_set M1 s x).1 s' = _ := fun x => (z_set_ne (Ne.symm hss)).trans c2'
    rw [x_giS (a1 _) rfl, x_pfS z_set_self (Nat.le_of_ble_eq_true rfl)]
    have a2 : ∀ (x y : z_C), (z_set (z_set M1 s x) s y).1 s' = _ := fun x y => (z_set_ne (Ne.symm hss)).trans (a1 x)
    rw [x_giS (a2 _ _) rfl, x_pfS z_set_self (Nat.le_of_ble_eq_true rfl)]
    have zz : ∀ (M : z_M) (x y : z_C), z_set (z_set M s x) s y = z_set M s y := fun M x y => by
      unfold z_set
      congr 1
      funext b
      by_cases e : b = s
      · rw [if_pos e, if_pos e]
      · rw [if_neg e, if_neg e]
        show (if b = s then some x else M.1 b) = M.1 b
        rw [if_neg e]
    rw [zz, zz]
    rfl
  have F12 : h_fr g (fun b => o b = tb ∨ o b = tb + 1) o μ o (z_set M1 s (.inr (1, [.ref tp, .int (nI (u_size p')), .int (u_kind p'), .int (u_place p'), .ref nl, .ref rl, .ref ll]))) := F1.trans F2 (fun b _ q => by
    rcases q with q | q
    · rw [q]; exact Or.inr t1
    · rw [q]; exact Or.inl h1)
  generalize hM2 : z_set M1 s (.inr (1, [.ref tp, .int (nI (u_size p')), .int (u_kind p'), .int (u_place p'), .ref nl, .ref rl, .ref ll])) = M2 at F2 c3 c3' t5 D1 F12
  have hM2s : M2.2.1 = μ.2.1 := by rw [← hM2]; exact hM1s
  have hM2u : h_u M2 = h_u μ := by rw [← hM2]; exact hM1u
  have hT2 : ∀ b, b < M2.2.1 → o b < 879 := fun b hb => hT b (by omega)
  -- the three lists
  obtain ⟨o3, M3, e3, q3, F3, T3, u3⟩ := (n2.fr F12 hw (fun b hb => by omega)).copyTo (j := 4) (m2.fr F12 hw (fun b hb => by omega)) F12.wf hT2 (by omega) (by omega) (by rw [m3.1]; exact un) (by omega) (by omega) c3 c3' rfl rfl (by omega) (by omega)
  have c4 := F3.cell F12.wf c3 (by omega)
  have c4' := F3.cell F12.wf c3' (by omega)
  have F13 : h_fr g (fun b => o b = tb ∨ o b = tb + 1 ∨ o b = tb + 2) o μ o3 M3 := F12.trans F3 (fun b _ q => by omega)
  have os3 : o3 s = tb := (F13.2.1 s (hw.lt c1)).trans h1
  have os3' : o3 s' = tb' := (F13.2.1 s' (hw.lt c1')).trans h1'
  obtain ⟨o4, M4, e4, q4, F4, T4, u4⟩ := (r2.fr F13 hw (fun b hb => by omega)).copyTo (j := 5) (k2.fr F13 hw (fun b hb => by omega)) F13.wf (fun b _ => T3 b) (by omega) (by omega) (by rw [k3.1]; exact ur) (by omega) (by omega) c4 c4' rfl rfl (by omega) (by omega)
  have c5 := F4.cell F13.wf c4 (by omega)
  have c5' := F4.cell F13.wf c4' (by omega)
  have F14 : h_fr g (fun b => o b = tb ∨ o b = tb + 1 ∨ o b = tb + 2 ∨ o b = tb + 3) o μ o4 M4 := F13.trans F4 (fun b hb q => by
    rcases q with q | q
    · omega
    · rw [F13.2.1 b hb] at q; omega)
  have os4 : o4 s = tb := (F14.2.1 s (hw.lt c1)).trans h1
  have os4' : o4 s' = tb' := (F14.2.1 s' (hw.lt c1')).trans h1'
  obtain ⟨o5, M5, e5, q5, F5, T5, u5⟩ := (l2.fr F14 hw (fun b hb => by omega)).copyTo (j := 6) (j2.fr F14 hw (fun b hb => by omega)) F14.wf (fun b _ => T4 b) (by omega) (by omega) (by rw [j3.1]; exact ul) (by omega) (by omega) c5 c5' rfl rfl (by omega) (by omega)
  have c6 := F5.cell F14.wf c5 (by omega)
  have F15 : h_fr g (fun b => tb ≤ o b ∧ o b ≤ tb + 4) o μ o5 M5 := F14.trans F5 (fun b hb q => by
    rcases q with q | q
    · omega
    · rw [F14.2.1 b hb] at q; omega)
  have F45 := F4.trans F5 (S := fun b => o3 b = tb + 3 ∨ o3 b = tb + 4) (fun b hb q => by
    rcases q with q | q
    · exact Or.inl q
    · rw [F4.2.1 b hb] at q; exact Or.inr q)
  have t6 : M5.1 tp = _ := (F45.cell F3.wf (F3.cell F12.wf t5 (by omega)) (by have : o3 tp = tb + 1 := (F13.2.1 tp (hw.lt t2)).trans t1
                                                                              omega))
  refine ⟨o5, M5, ?_, ⟨hu', (F15.2.1 s (hw.lt c1)).trans h1, tp, nl, rl, ll, cn, cr, cl, _, ns', rs', ls', c6, ⟨(F15.2.1 tp (hw.lt t2)).trans t1, t6, fun i hi => ?_⟩, ⟨n1, n1', q3.fr F45 F3.wf (fun b hb => by omega), m3.mono (fun x y _ h => h.fr F15 hw (fun b hb => by omega))⟩,
    ⟨r1, r1', q4.fr F5 F14.wf (fun b hb => by omega), k3.mono (fun x y _ h => h.fr F15 hw (fun b hb => by omega))⟩, ⟨l1, l1', q5, j3.mono (fun x y _ h => h.fr F15 hw (fun b hb => by omega))⟩⟩, F15, fun b _ => T5 b, by omega⟩
  · unfold D_X1_be
    rw [x_oS, x_grR c1' rfl, x_grR c1 rfl, hac, x_bS, D1, e3, e4, e5]
  · unfold va_cpy
    rw [if_pos ⟨by omega, by omega⟩, Nat.zero_add, Nat.sub_zero]
    exact t3' i hi
/-- nothing told yet -/
def u_0 : s_P := (fun _ => 0, 0, 0, -1, [], [], [])
theorem u_0_ok : u_ok u_0 := ⟨by show 0 ≤ 600; omega, by show 0 ≤ 2; omega, by show 0 ≤ 2; omega, by show 0 ≤ 2; omega, fun N h => (by cases h), fun N h => (by cases h), fun N h => (by cases h), fun j => rfl⟩
theorem h_siNew (tb : Nat) (hok : z_ok g) (hw : h_wf g μ) (hT : ∀ b, b < μ.2.1 → o b < 879) (htb : tb < 100) : ∃ o1 μ1, D_X1_init g μ.2.1 (z_new μ 7 (.inr (1, [.null, .int 0, .int 0, .int 0, .null, .null, .null]))) = some μ1 ∧ h_si g o1 μ1 tb μ.2.1 u_0 ∧ h_fr g (fun _ => False) o μ o1 μ1 ∧ (∀ b, b < μ1.2.1 → o1 b < 879) ∧ h_u μ1 ≤ h_u μ + 700 := by
  have F0 : h_fr g (fun _ => False) o μ (h_o1 o μ.2.1 tb) (z_new μ 7 (.inr (1, [.null, .int 0, .int 0, .int 0, .null, .null, .null]))) := h_fr.new hw
  have c0 : (z_new μ 7 (.inr (1, [.null, .int 0, .int 0, .int 0, .null, .null, .null]))).1 μ.2.1 = some (.inr (1, [.null, .int 0, .int 0, .int 0, .null, .null, .null])) := z_new_self
  have s0 : (z_new μ 7 (.inr (1, [.null, .int 0, .int 0, .int 0, .null, .null, .null]))).2.1 = μ.2.1 + 1 := rfl
  have q0 : h_o1 o μ.2.1 tb μ.2.1 = tb := if_pos rfl
  have u0 : h_u (z_new μ 7 (.inr (1, [.null, .int 0, .int 0, .int 0, .null, .null, .null]))) = h_u μ + 12 := by rw [h_u_new]
  generalize hM0 : z_new μ 7 (.inr (1, [.null, .int 0, .int 0, .int 0, .null, .null, .null])) = M0 at F0 c0 s0 u0
  generalize hO0 : h_o1 o μ.2.1 tb = O0 at F0 q0
  have F1 : h_fr g (fun _ => False) O0 M0 (h_o1 O0 M0.2.1 (tb + 1)) (z_new M0 600 (.inl (1, 600, .inl (fun _ => 0)))) := h_fr.new F0.wf
  have c1 : (z_new M0 600 (.inl (1, 600, .inl (fun _ => 0)))).1 μ.2.1 = _ := (z_new_ne (F0.wf.ne c0)).trans c0
  have d1 : (z_new M0 600 (.inl (1, 600, .inl (fun _ => 0)))).1 M0.2.1 = some (.inl (1, 600, .inl (fun _ => 0))) := z_new_self
  have s1 : (z_new M0 600 (.inl (1, 600, .inl (fun _ => 0)))).2.1 = M0.2.1 + 1 := rfl
  have q1 : h_o1 O0 M0.2.1 (tb + 1) μ.2.1 = tb := (if_neg (show ¬ μ.2.1 = M0.2.1 by omega)).trans q0
  have q1' : h_o1 O0 M0.2.1 (tb + 1) M0.2.1 = tb + 1 := if_pos rfl
  have u1 : h_u (z_new M0 600 (.inl (1, 600, .inl (fun _ => 0)))) = h_u M0 + 605 := by rw [h_u_new]
  generalize hM1 : z_new M0 600 (.inl (1, 600, .inl (fun _ => 0))) = M1 at F1 c1 d1 s1 u1
  generalize hO1 : h_o1 O0 M0.2.1 (tb + 1) = O1 at F1 q1 q1'
  have F2 : h_fr g (fun b => b = μ.2.1) O1 M1 O1 (z_set M1 μ.2.1 (.inr (1, [.ref M0.2.1, .int 0, .int 0, .int (-1), .null, .null, .null]))) := h_fr.setF F1.wf c1
  have c2 : (z_set M1 μ.2.1 (.inr (1, [.ref M0.2.1, .int 0, .int 0, .int (-1), .null, .null, .null]))).1 μ.2.1 = some (.inr (1, [.ref M0.2.1, .int 0, .int 0, .int (-1), .null, .null, .null])) := z_set_self
  have d2 := F2.cell F1.wf d1 (show ¬ M0.2.1 = μ.2.1 by omega)
  have s2 : (z_set M1 μ.2.1 (.inr (1, [.ref M0.2.1, .int 0, .int 0, .int (-1), .null, .null, .null]))).2.1 = M1.2.1 := rfl
  have u2 : h_u (z_set M1 μ.2.1 (.inr (1, [.ref M0.2.1, .int 0, .int 0, .int (-1), .null, .null, .null]))) = h_u M1 := rfl
  have D2 : ∀ {α : Type} (kk : z_M → Option α), (x_pf M1 μ.2.1 1 0 (.ref M0.2.1) fun μ10 => x_pf μ10 μ.2.1 1 3 (.int (-1 : Int32)) kk) = kk (z_set M1 μ.2.1 (.inr (1, [.ref M0.2.1, .int 0, .int 0, .int (-1), .null, .null, .null]))) := by
    intro α kk
    rw [x_pfS c1 (Nat.le_of_ble_eq_true rfl), x_pfS z_set_self (Nat.le_of_ble_eq_true rfl), z_set_set]
    rfl
  generalize hM2 : z_set M1 μ.2.1 (.inr (1, [.ref M0.2.1, .int 0, .int 0, .int (-1), .null, .null, .null])) = M2 at F2 c2 d2 s2 u2 D2
  have one : ∀ (O : Nat → Nat) (M : z_M) (t j : Nat) (fs : List Value), t ≠ tb → t < 879 → h_wf g M → M.1 μ.2.1 = some (.inr (1, fs)) → fs.length = 7 → j < 7 → O μ.2.1 = tb → (∀ b, b < M.2.1 → O b < 879) → ∃ O' M', (∀ {α : Type} (kk : z_M → Option α), (x_nw M 3 (.inr (3, [.int 0, .null, .int 0])) fun p16 μ17 => x_b (D_J2_init g p16 (2 : Int32) μ17) fun μ19 => x_pf μ19 μ.2.1 1 j (.ref p16) kk) = kk M') ∧ h_ls g O' M' t M.2.1 2 [] ∧ h_fr g (fun b => b = μ.2.1) O M O' M' ∧ M'.1 μ.2.1 = some (.inr (1, fs.set j (.ref M.2.1))) ∧ (∀ b, b < M'.2.1 → O' b < 879) ∧ h_u M' = h_u M + 15 := by
    intro O M t j fs htt ht hwM hc hl hj hO hTM
    obtain ⟨M', e1, e2, e3, e4, e5⟩ := h_listC (o := O) t 2 hwM (by omega) (by omega)
    have hlt := hwM.lt hc
    have c' := e3.cell hwM hc (fun q => q)
    have F' : h_fr g (fun b => b = μ.2.1) (h_o1 (h_o1 O M.2.1 t) (M.2.1 + 1) t) M' (h_o1 (h_o1 O M.2.1 t) (M.2.1 + 1) t) (z_set M' μ.2.1 (.inr (1, fs.set j (.ref M.2.1)))) := h_fr.setF e3.wf c'
    have hO' : h_o1 (h_o1 O M.2.1 t) (M.2.1 + 1) t μ.2.1 = tb := (e3.2.1 _ hlt).trans hO
    refine ⟨_, _, fun kk => ?_, e2.fr F' e3.wf (fun b hb q => htt (by rw [q, hO'] at hb; exact hb.symm)), e3.trans F' (fun b _ q => q.elim (fun q => q.elim) id), z_set_self, fun b hb => ?_, by rw [h_u_set]; omega⟩
    · have e1' : D_J2_init g M.2.1 (2 : Int32) (z_new M 3 (.inr (3, [.int 0, .null, .int 0]))) = some M' := e1
      rw [x_nwS, e1', x_bS]
      exact x_pfS c' (by rw [hl]; exact hj)
    · have hb' : b < M.2.1 + 2 := by
        have hb2 : b < M'.2.1 := hb
        omega
      show (if b = M.2.1 + 1 then t else if b = M.2.1 then t else O b) < 879
      by_cases c1 : b = M.2.1 + 1
      · rw [if_pos c1]; exact ht
      · rw [if_neg c1]
        by_cases c2 : b = M.2.1
        · rw [if_pos c2]; exact ht
        · rw [if_neg c2]; exact hTM b (by omega)
  have T1 : ∀ b, b < M1.2.1 → O1 b < 879 := fun b hb => by
    by_cases e : b < μ.2.1
    · have := (F0.trans F1 (S := fun _ => False) (fun _ _ q => q.elim id id)).2.1 b e
      rw [this]
      exact hT b e
    · by_cases e2 : b = μ.2.1
      · rw [e2, q1]; omega
      · have e3 : b = M0.2.1 := by omega
        rw [e3, q1']; omega
  obtain ⟨O3, M3, e3, L3, F3, c3, T3, u3⟩ := one O1 M2 (tb + 2) 4 _ (by omega) (by omega) F2.wf c2 rfl (by omega) q1 (fun b hb => T1 b (by omega))
  have hl2 : μ.2.1 < M2.2.1 := F2.wf.lt c2
  have q3 : O3 μ.2.1 = tb := (F3.2.1 _ hl2).trans q1
  obtain ⟨O4, M4, e4, L4, F4, c4, T4, u4⟩ := one O3 M3 (tb + 3) 5 _ (by omega) (by omega) F3.wf c3 rfl (by omega) q3 T3
  have hl3 : μ.2.1 < M3.2.1 := F3.wf.lt c3
  have q4 : O4 μ.2.1 = tb := (F4.2.1 _ hl3).trans q3
  obtain ⟨O5, M5, e5, L5, F5, c5, T5, u5⟩ := one O4 M4 (tb + 4) 6 _ (by omega) (by omega) F4.wf c4 rfl (by omega) q4 T4
  have hl4 : μ.2.1 < M4.2.1 := F4.wf.lt c4
  have q5 : O5 μ.2.1 = tb := (F5.2.1 _ hl4).trans q4
  have F45 : h_fr g (fun b => b = μ.2.1) O3 M3 O5 M5 := F4.trans F5 (fun b _ q => q.elim id id)
  have F35 : h_fr g (fun b => b = μ.2.1) O1 M2 O5 M5 := F3.trans F45 (fun b _ q => q.elim id id)
  have F25 : h_fr g (fun b => b = μ.2.1) O1 M1 O5 M5 := F2.trans F35 (fun b _ q => q.elim id id)
  have d5 := F25.cell F1.wf d1 (show ¬ M0.2.1 = μ.2.1 by omega)
  have hlM0 : M0.2.1 < M1.2.1 := by omega
  refine ⟨O5, M5, ?_, ⟨u_0_ok, q5, M0.2.1, M2.2.1, M3.2.1, M4.2.1, 2, 2, 2, fun _ => 0, [], [], [], c5, ⟨(F25.2.1 _ hlM0).trans q1', d5, fun j _ => rfl⟩,
    ⟨by omega, by omega, L3.fr F45 F3.wf (fun b hb q => by rw [q, q3] at hb; omega), h_al.nil⟩, ⟨by omega, by omega, L4.fr F5 F4.wf (fun b hb q => by rw [q, q4] at hb; omega), h_al.nil⟩, ⟨by omega, by omega, L5, h_al.nil⟩⟩,
    ((F0.trans F1 (S := fun _ => False) (fun _ _ q => q.elim id id)).trans F25 (S := fun b => b = μ.2.1) (fun b _ q => q.elim (fun q => q.elim) id)) |> fun F => ⟨F.1, F.2.1, fun b hb _ => F.2.2.1 b hb (by omega), F.2.2.2.1, F.2.2.2.2⟩, T5, by omega⟩
  unfold D_X1_init
  rw [x_naL (i := 600) (n := 600) rfl (by omega), x_nwS]
  show (x_pf (z_new M0 600 (.inl (1, 600, .inl (fun _ => 0)))) μ.2.1 1 0 (.ref M0.2.1) _) = _
  rw [hM1, D2, e3, e4, e5]
/-- an image is kept -/
theorem h_iv.image {k : Int32} (h : h_iv g o μ a T) : ∃ o1 μ1, D_X0_image g a k μ = some ((q_image T k).1, μ1) ∧ h_iv g o1 μ1 a (q_image T k).2 ∧ h_u μ1 ≤ h_u μ + 800 := by
  obtain ⟨hok, hw, hT, hwo⟩ := id h
  obtain ⟨s, im, fi, ⟨a1, a2⟩, ⟨i1, i2⟩, s1, s2⟩ := id hwo
  have e3 : D_X0_isIn k (0 : Int32) (2 : Int32) = some (if (s_ix k 3).isSome = true then 1 else 0) := s_ixD (v := 3) (by omega)
  unfold D_X0_image q_image
  rw [e3, x_bS]
  cases ek : s_ix k 3 with
  | none => exact ⟨o, μ, if_pos rfl, h, by omega⟩
  | some j =>
    obtain ⟨j1, j2⟩ := s_ix_nI ek
    rw [if_neg (show ¬ (if (some j).isSome = true then (1 : Int32) else 0) = 0 from fun q => absurd (show (1 : Int32) = 0 from q) (by decide)), x_grR a2 rfl, x_oS, x_aaS i2, j1, x_gaT (by omega) (by omega), x_lS, x_lS]
    show ∃ o1 μ1, _ = some ((1 : Int32), μ1) ∧ h_iv g o1 μ1 a (T.1, s_up1 T.2 j (some T.1)) ∧ _
    -- the last step, for any memory
    have last : ∀ (o2 : Nat → Nat) (μ2 : z_M) (fi2 : Nat → Option Nat) (x : Nat) (p0 : s_P), h_wf g μ2 → (∀ b, b < μ2.2.1 → o2 b < 879) → (o2 a = 5 ∧ μ2.1 a = some (.inr (0, [.ref s, .ref im]))) → (o2 im = 6 ∧ μ2.1 im = some (.inl (5, 3, .inr (.inr (.inr (.inr fi2)))))) → h_si g o2 μ2 10 s T.1 → fi2 j = some x → h_si g o2 μ2 (20 + 10 * j) x p0 → (∀ k, k < 3 → k ≠ j → match fi2 k, T.2 k with
        | none, none => True
        | some x, some p => h_si g o2 μ2 (20 + 10 * k) x p
        | _, _ => False) → ∃ o3 μ3, (x_gr μ2 a 0 1 fun o15 => x_o o15 fun p19 => x_aa μ2 p19 5 fun n20 f21 => x_ga (nI j) n20 fun j23 => x_l (f21 j23) fun o24 => x_gr μ2 a 0 0 fun o25 => x_o o24 fun p29 => x_ob μ2 p29 1 fun _ => x_b (D_X1_be g p29 o25 μ2) fun μ33 => some ((1 : Int32), μ33)) = some ((1 : Int32), μ3) ∧ h_iv g o3 μ3 a (T.1, s_up1 T.2 j (some T.1)) ∧ h_u μ3 ≤ h_u μ2 + 30 := by
      intro o2 μ2 fi2 x p0 hw2 hT2 ⟨b1, b2⟩ ⟨c1, c2⟩ hnow hfx hx hrest
      obtain ⟨o3, μ3, e3, q3, F3, T3, u3⟩ := hx.be hnow hw2 hT2 (by omega) (by omega) (by omega)
      refine ⟨o3, μ3, ?_, ⟨hok, F3.wf, T3, s, im, fi2, ⟨(F3.2.1 a (hw2.lt b2)).trans b1, F3.cell hw2 b2 (by omega)⟩, ⟨(F3.2.1 im (hw2.lt c2)).trans c1, F3.cell hw2 c2 (by omega)⟩, hnow.fr F3 hw2 (fun b hb => by omega), fun k hk => ?_⟩, u3⟩
      · rw [x_grR b2 rfl, x_oS, x_aaS c2, x_gaT (by omega) (by omega), x_lS, hfx, x_grR b2 rfl, x_oS, hx.ob, e3, x_bS]
      · show match fi2 k, s_up1 T.2 j (some T.1) k with
          | none, none => True
          | some x, some p => h_si g o3 μ3 (20 + 10 * k) x p
          | _, _ => False
        by_cases e : k = j
        · subst e
          rw [s_up1_s, hfx]
          exact q3
        · rw [s_up1_n e]
          have h2 := hrest k hk e
          revert h2
          cases fi2 k with
          | none =>
            cases T.2 k with
            | none => intro _; exact trivial
            | some p => intro q; exact q
          | some y =>
            cases T.2 k with
            | none => intro q; exact q
            | some p =>
              intro q
              have q' : h_si g o2 μ2 (20 + 10 * k) y p := q
              exact q'.fr F3 hw2 (fun b hb => by omega)
    cases hfj : fi j with
    | some x =>
      rw [x_nuS]
      have h2 := s2 j j2
      rw [hfj] at h2
      cases hTj : T.2 j with
      | none => rw [hTj] at h2; exact h2.elim
      | some p0 =>
        rw [hTj] at h2
        obtain ⟨o3, μ3, e3, q3, u3⟩ := last o μ fi x p0 hw hT ⟨a1, a2⟩ ⟨i1, i2⟩ s1 hfj h2 (fun k hk _ => s2 k hk)
        exact ⟨o3, μ3, e3, q3, by omega⟩
    | none =>
      rw [x_nuN, x_grR a2 rfl, x_nwS]
      obtain ⟨o2, μ2, e2, q2, F2, T2, u2⟩ := h_siNew (o := o) (20 + 10 * j) hok hw hT (by omega)
      have b2 := F2.cell hw a2 (fun q => q)
      have c2 := F2.cell hw i2 (fun q => q)
      have oim : o2 im = 6 := (F2.2.1 im (hw.lt i2)).trans i1
      have oa : o2 a = 5 := (F2.2.1 a (hw.lt a2)).trans a1
      have hsa : x_sa g μ2 5 μ.2.1 := by
        obtain ⟨-, -, t1, t2, t3, t4, t5, t6, t7, t8, t9, t10, t11, cx, -⟩ := id q2
        exact ⟨"AskedNames$State", "AskedNames$State", rfl, Or.inl ⟨1, _, _, _, cx, rfl⟩, Or.inl rfl⟩
      rw [e2, x_bS, x_oS, x_aaS c2, x_gaT (by omega) (by omega), x_gpI hsa, x_lS]
      have F3 : h_fr g (fun b => b = im) o2 μ2 o2 (z_set μ2 im (.inl (5, 3, .inr (.inr (.inr (.inr (fun k => if k = j then some μ.2.1 else fi k))))))) := h_fr.setA F2.wf c2
      have him : a ≠ im := fun e => by rw [e, i1] at a1; exact absurd a1 (by decide)
      obtain ⟨o4, μ4, e4, q4, u4⟩ := last o2 (z_set μ2 im (.inl (5, 3, .inr (.inr (.inr (.inr (fun k => if k = j then some μ.2.1 else fi k))))))) (fun k => if k = j then some μ.2.1 else fi k) μ.2.1 u_0 F3.wf (fun b hb => T2 b hb) ⟨oa, F3.cell F2.wf b2 him⟩ ⟨oim, z_set_self⟩ ((s1.fr F2 hw (fun _ _ q => q)).fr F3 F2.wf (fun b hb q => by rw [q, oim] at hb; omega)) (if_pos rfl) (q2.fr F3 F2.wf (fun b hb q => by rw [q, oim] at hb; omega)) (fun k hk e => by
        show match (if k = j then some μ.2.1 else fi k), T.2 k with
          | none, none => True
          | some x, some p => h_si g o2 (z_set μ2 im (.inl (5, 3, .inr (.inr (.inr (.inr (fun k => if k = j then some μ.2.1 else fi k))))))) (20 + 10 * k) x p
          | _, _ => False
        rw [if_neg e]
        have h2 := s2 k hk
        revert h2
        cases fi k with
        | none =>
          cases T.2 k with
          | none => intro _; exact trivial
          | some p => intro q; exact q
        | some y =>
          cases T.2 k with
          | none => intro q; exact q
          | some p =>
            intro q
            have q' : h_si g o μ (20 + 10 * k) y p := q
            exact (q'.fr F2 hw (fun _ _ z => z)).fr F3 F2.wf (fun b hb z => by rw [z, oim] at hb; omega))
      have hu3 : h_u (z_set μ2 im (.inl (5, 3, .inr (.inr (.inr (.inr (fun k => if k = j then some μ.2.1 else fi k))))))) = h_u μ2 := rfl
      exact ⟨o4, μ4, e4, q4, by omega⟩
/-- an image is told again -/
theorem h_iv.again {k : Int32} (h : h_iv g o μ a T) : ∃ o1 μ1, D_X0_again g a k μ = some ((q_again T k).1, μ1) ∧ h_iv g o1 μ1 a (q_again T k).2 ∧ h_u μ1 ≤ h_u μ + 800 := by
  obtain ⟨hok, hw, hT, hwo⟩ := id h
  obtain ⟨s, im, fi, ⟨a1, a2⟩, ⟨i1, i2⟩, s1, s2⟩ := id hwo
  have e3 : D_X0_isIn k (0 : Int32) (2 : Int32) = some (if (s_ix k 3).isSome = true then 1 else 0) := s_ixD (v := 3) (by omega)
  unfold D_X0_again q_again
  rw [e3, x_bS]
  cases ek : s_ix k 3 with
  | none => exact ⟨o, μ, if_pos rfl, h, by omega⟩
  | some j =>
    obtain ⟨j1, j2⟩ := s_ix_nI ek
    rw [if_neg (show ¬ (if (some j).isSome = true then (1 : Int32) else 0) = 0 from fun q => absurd (show (1 : Int32) = 0 from q) (by decide)), x_grR a2 rfl, x_oS, x_aaS i2, j1, x_gaT (by omega) (by omega), x_lS]
    have h2 := s2 j j2
    cases hfj : fi j with
    | none =>
      rw [hfj] at h2
      cases hTj : T.2 j with
      | some p0 => rw [hTj] at h2; exact h2.elim
      | none =>
        refine ⟨o, μ, ?_, ?_, by omega⟩
        · rw [x_nuN]
          show _ = some ((match T.2 j with | none => ((0 : Int32), T) | some p => ((1 : Int32), (p, T.2))).1, μ)
          rw [hTj]
        · show h_iv g o μ a (match T.2 j with | none => ((0 : Int32), T) | some p => ((1 : Int32), (p, T.2))).2
          rw [hTj]
          exact h
    | some x =>
      rw [hfj] at h2
      cases hTj : T.2 j with
      | none => rw [hTj] at h2; exact h2.elim
      | some p0 =>
        rw [hTj] at h2
        obtain ⟨s', fs0, ⟨b1, b2, b3⟩, hsi, reb⟩ := hwo.now2 hw
        have hss : s' = s := by
          rw [a2] at b2
          cases b2
          cases b3
          rfl
        subst hss
        have h2' : h_si g o μ (20 + 10 * j) x p0 := h2
        obtain ⟨o3, μ3, e3, q3, F3, T3, u3⟩ := s1.be h2' hw hT (by omega) (by omega) (by omega)
        refine ⟨o3, μ3, ?_, ?_, by omega⟩
        · show _ = some ((match T.2 j with | none => ((0 : Int32), T) | some p => ((1 : Int32), (p, T.2))).1, μ3)
          rw [hTj, x_nuS, x_grR a2 rfl, x_grR a2 rfl, x_oS, x_aaS i2, x_gaT (by omega) (by omega), x_lS, hfj, x_oS, s1.ob, e3, x_bS]
        · show h_iv g o3 μ3 a (match T.2 j with | none => ((0 : Int32), T) | some p => ((1 : Int32), (p, T.2))).2
          rw [hTj]
          exact ⟨hok, F3.wf, T3, reb _ _ _ _ F3 (fun b hb => by omega) q3⟩
/-- a new object -/
theorem h_ivNew (hok : z_ok g) (hw : h_wf g μ) (hT : ∀ b, b < μ.2.1 → o b < 879) : ∃ o1 μ1, D_X0_init g μ.2.1 (z_new μ 2 (.inr (0, [.null, .null]))) = some μ1 ∧ h_iv g o1 μ1 μ.2.1 (u_0, fun _ => none) ∧ h_fr g (fun _ => False) o μ o1 μ1 ∧ h_u μ1 ≤ h_u μ + 800 := by
  have F0 : h_fr g (fun _ => False) o μ (h_o1 o μ.2.1 5) (z_new μ 2 (.inr (0, [.null, .null]))) := h_fr.new hw
  have c0 : (z_new μ 2 (.inr (0, [.null, .null]))).1 μ.2.1 = some (.inr (0, [.null, .null])) := z_new_self
  have q0 : h_o1 o μ.2.1 5 μ.2.1 = 5 := if_pos rfl
  have s0 : (z_new μ 2 (.inr (0, [.null, .null]))).2.1 = μ.2.1 + 1 := rfl
  have u0 : h_u (z_new μ 2 (.inr (0, [.null, .null]))) = h_u μ + 7 := by rw [h_u_new]
  have T0 : ∀ b, b < (z_new μ 2 (.inr (0, [.null, .null]))).2.1 → h_o1 o μ.2.1 5 b < 879 := fun b hb => by
    by_cases e : b = μ.2.1
    · rw [e, q0]; omega
    · have e2 : h_o1 o μ.2.1 5 b = o b := if_neg e
      have := hT b (by omega)
      omega
  generalize hM0 : z_new μ 2 (.inr (0, [.null, .null])) = M0 at F0 c0 s0 u0 T0
  generalize hO0 : h_o1 o μ.2.1 5 = O0 at F0 q0 T0
  obtain ⟨O1, M1, e1, q1, F1, T1, u1⟩ := h_siNew (o := O0) 10 hok F0.wf T0 (by omega)
  have c1 := F1.cell F0.wf c0 (fun q => q)
  have hl : μ.2.1 < M0.2.1 := by omega
  have o1a : O1 μ.2.1 = 5 := (F1.2.1 _ hl).trans q0
  have hl1 : M0.2.1 < M1.2.1 := by
    obtain ⟨-, -, t1, t2, t3, t4, t5, t6, t7, t8, t9, t10, t11, cx, -⟩ := id q1
    exact F1.wf.lt cx
  have F2 : h_fr g (fun b => b = μ.2.1) O1 M1 O1 (z_set M1 μ.2.1 (.inr (0, [.ref M0.2.1, .null]))) := h_fr.setF F1.wf c1
  have c2 : (z_set M1 μ.2.1 (.inr (0, [.ref M0.2.1, .null]))).1 μ.2.1 = some (.inr (0, [.ref M0.2.1, .null])) := z_set_self
  have s2 : (z_set M1 μ.2.1 (.inr (0, [.ref M0.2.1, .null]))).2.1 = M1.2.1 := rfl
  have u2 : h_u (z_set M1 μ.2.1 (.inr (0, [.ref M0.2.1, .null]))) = h_u M1 := rfl
  have D2 : ∀ (kk : z_M → Option z_M), x_pf M1 μ.2.1 0 0 (.ref M0.2.1) kk = kk (z_set M1 μ.2.1 (.inr (0, [.ref M0.2.1, .null]))) := fun kk => x_pfS c1 (Nat.le_of_ble_eq_true rfl)
  generalize hM2 : z_set M1 μ.2.1 (.inr (0, [.ref M0.2.1, .null])) = M2 at F2 c2 s2 u2 D2
  have F3 : h_fr g (fun _ => False) O1 M2 (h_o1 O1 M2.2.1 6) (z_new M2 3 (.inl (5, z_nul 3))) := h_fr.new F2.wf
  have c3 := F3.cell F2.wf c2 (fun q => q)
  have i3 : (z_new M2 3 (.inl (5, z_nul 3))).1 M2.2.1 = some (.inl (5, z_nul 3)) := z_new_self
  have q3 : h_o1 O1 M2.2.1 6 M2.2.1 = 6 := if_pos rfl
  have s3 : (z_new M2 3 (.inl (5, z_nul 3))).2.1 = M2.2.1 + 1 := rfl
  have u3 : h_u (z_new M2 3 (.inl (5, z_nul 3))) = h_u M2 + 8 := by rw [h_u_new]
  generalize hM3 : z_new M2 3 (.inl (5, z_nul 3)) = M3 at F3 c3 i3 s3 u3
  generalize hO3 : h_o1 O1 M2.2.1 6 = O3 at F3 q3
  have o3a : O3 μ.2.1 = 5 := (F3.2.1 _ (by omega)).trans o1a
  have F4 : h_fr g (fun b => b = μ.2.1) O3 M3 O3 (z_set M3 μ.2.1 (.inr (0, [.ref M0.2.1, .ref M2.2.1]))) := h_fr.setF F3.wf c3
  have F24 : h_fr g (fun b => b = μ.2.1) O1 M1 O3 (z_set M3 μ.2.1 (.inr (0, [.ref M0.2.1, .ref M2.2.1]))) := (F2.trans F3 (S := fun b => b = μ.2.1) (fun b _ q => q.elim id (fun q => q.elim))).trans F4 (fun b _ q => q.elim id id)
  have F04 : h_fr g (fun b => b = μ.2.1) o μ O3 (z_set M3 μ.2.1 (.inr (0, [.ref M0.2.1, .ref M2.2.1]))) := (F0.trans F1 (S := fun _ => False) (fun _ _ q => q.elim id id)).trans F24 (fun b _ q => q.elim (fun q => q.elim) id)
  refine ⟨O3, _, ?_, ⟨hok, F4.wf, fun b hb => ?_, M0.2.1, M2.2.1, fun _ => none, ⟨o3a, z_set_self⟩, ⟨q3, F4.cell F3.wf i3 (by omega)⟩, q1.fr F24 F1.wf (fun b hb q => by rw [q, o1a] at hb; omega), fun k hk => trivial⟩, ⟨F04.1, F04.2.1, fun b hb _ => F04.2.2.1 b hb (by omega), F04.2.2.2.1, F04.2.2.2.2⟩, by rw [h_u_set]; omega⟩
  · unfold D_X0_init
    rw [x_nwS, e1, x_bS, D2, x_naL (i := 3) (n := 3) rfl (by omega), x_nwS]
    show (x_pf (z_new M2 3 (.inl (5, z_nul 3))) μ.2.1 0 1 (.ref M2.2.1) _) = _
    rw [hM3]
    exact x_pfS c3 (Nat.le_of_ble_eq_true rfl)
  · have hb' : b < M2.2.1 + 1 := by
      have : b < M3.2.1 := hb
      omega
    by_cases e : b = M2.2.1
    · rw [e, q3]; omega
    · rw [F3.2.1 b (by omega)]
      exact T1 b (by omega)
end T93
