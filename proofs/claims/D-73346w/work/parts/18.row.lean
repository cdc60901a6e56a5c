/-! ROWS MORE: inherited fields under the heir's name, calls to one of several classes, natives -/
set_option maxRecDepth 100000
theorem x_ci {x : Int32} : (Value.int x).category = 1 := rfl
theorem x_cj {x : Int64} : (Value.long x).category = 2 := rfl
theorem x_ck {x : Nat} : (Value.ref x).category = 1 := rfl
theorem x_cm : (Value.null).category = 1 := rfl
theorem x_rfs {p : Nat} : va_rf (some p) = .ref p := rfl
theorem x_rfn : va_rf none = .null := rfl
section R18
variable {g : z_G} {d : Nat} {Y : z_Y} {Q : z_O → z_M → Prop} {μ μ1 : z_M} {pc index ci N a : Nat} {lc : List (Nat × Value)} {rest st : List Value} {C : String} {T : u_T} {fs : List Value} {v : Value} {ty : FieldType}
theorem zi_getS {ref : String} (k : Nat) (hm : μ.1 a = some (.inr (ci, fs))) (hc : vwCl[ci]? = some (C, T, N)) (hk : k < N) (hq : Cond.fieldLink Y.1.cls index ref (T k).2.1 (T k).2.2.1 ∈ lw_all) (hs : Cond.sameField ref (T k).1 (T k).2.1 (T k).2.2.1 ∈ lw_all) (hv : fs[k]? = some v) (hd : decode Y.2.1 pc = .ok (.getfield index, 3)) (kk : z_V g d Y (pc + 3) lc (v :: rest) μ Q) : z_V g d Y pc lc (.ref a :: rest) μ Q :=
  z_pure kk fun _ _ _ _ _ _ _ _ _ _ _ _ _ _ _ C0 hl hM k9 => va_get (ws := [(a, .inr (ci, fs))]) C0.2.2.1 C0.2.2.2.1 C0.2.2.2.2.2.2.2.2.2.1 (z_cl hc).1 C0.2.2.2.2.2.2.2.1 (z_kK C0.1 C0.2.1) (z_P1 (hM.2.2.2 a _ hm).2.2) 0 rfl hc k hk (C0.2.2.2.2.2.2.2.2.2.1 _ hq) (u_same (C0.2.2.2.2.2.2.2.2.2.1 _ hs)) hv hd (k9 _ hl)
theorem zi_putS {ref : String} (k : Nat) (hm : μ.1 a = some (.inr (ci, fs))) (hc : vwCl[ci]? = some (C, T, N)) (hk : k < N) (hq : Cond.fieldLink Y.1.cls index ref (T k).2.1 (T k).2.2.1 ∈ lw_all) (hs : Cond.sameField ref (T k).1 (T k).2.1 (T k).2.2.1 ∈ lw_all) (hfin : (T k).2.2.2 = false) (hp : parseFieldDescriptor (T k).2.2.1 = some ty) (hn : narrow ty v = v ∧ fits ty v = true) (hlen : k < fs.length) (he : z_set μ a (.inr (ci, fs.set k v)) = μ1) (hd : decode Y.2.1 pc = .ok (.putfield index, 3)) (kk : z_V g d Y (pc + 3) lc rest μ1 Q) : z_V g d Y pc lc (v :: .ref a :: rest) μ Q := by
  subst he
  refine z_wr kk rfl fun p e R s m args below meth c H locs cells slots Qs ls C0 hl hM k9 => ?_
  obtain ⟨hin, ⟨ty0, hty⟩, hnm⟩ := z_cl hc
  have hts := C0.2.2.2.2.2.2.2.2.2.1
  have hK := z_kK C0.1 C0.2.1
  have hap := va_apart (own := C) hts hin ty0 hty hnm hK hc
  obtain ⟨hb0, -, r, h1, cell, q1, q2, q3, q4⟩ := hM.2.2.2 a _ hm
  cases h1.symm.trans hc
  obtain ⟨hS, hfc, kC, hkC, hkind⟩ := hK.1 ci _ hc
  obtain ⟨cf, kf, fi, f, hi, hsl⟩ := hS k hk
  have hlay := hts _ (hin _ (u_in_lay hk))
  unfold u_lay at hlay
  rw [if_neg (by rw [hfin]; decide)] at hlay
  have hst := (u_facts hfc hkC (u_lays hts hin hk) hi).1
  have h6 := u_store hfc hkC hkind hlay hi hp hn.1 hn.2
  refine W.putK C0.2.2.1 C0.2.2.2.1 (f := f) ⟨C0.2.2.2.2.2.2.2.1, hts _ hq, ⟨_, _, _, u_same (hts _ hs) _ hi⟩, hst⟩ (by rw [q2]; exact h6) q1 q3 (by rw [hsl]; exact k2_hasslot (q4 k hk)) rfl rfl hd fun H' e1 e2 e3 => ?_
  rw [hsl] at e1
  exact k9 H' _ (hM.set hm (fun _ h => by cases h) ⟨_, hc, t_OB.to (V := updV (vp_V fs) k v) ⟨_, e1, q2, q3, t_set q4 hap hk v⟩ (fun j _ => vp_updV_set hlen v j)⟩ e2 e3 (fun _ c hc => by rw [e1] at hc; cases hc; exact hM.2.1.2 a cell hb0 q1)) hb0
/-- one method for several classes -/
theorem zi_callUs {Yc : z_Y} {b n c : Nat} {cs : List Nat} {x : MethodName} (As : List Value) (hcs : ∀ c ∈ cs, ∃ (C : String) (T : u_T) (N : Nat) (owner : String), vwCl[c]? = some (C, T, N) ∧ z_mU Yc C owner x n) (hc : c ∈ cs) (hm : μ.1 b = some (.inr (c, fs))) (hh : Yc.2.2.2.2 = []) (hq : Cond.methodLink Y.1.cls index x ∈ lw_all) (hn : As.length = n) (hst : st = As.reverse ++ .ref b :: rest) (hW : (rest.map fun v => v.category).sum ≤ 8) (hd : decode Y.2.1 pc = .ok (.invokevirtual index, 3))
    (hK : z_K g d Yc (.ref b :: As) μ (z_ret g (d + 1) Y (pc + 3) pc lc rest Q)) : z_V g (d + 1) Y pc lc st μ Q := by
  obtain ⟨C, T, N, owner, h1, h2⟩ := hcs c hc
  exact zi_callU As h2 hh hq (Or.inl ⟨c, fs, T, N, hm, h1⟩) hn hst hW hd hK
end R18
def x_cs {α : Type} (μ : z_M) (a ci : Nat) (m m' : Option α) : Option α := match μ.1 a with
  | some (.inr (c, _)) => if c = ci then m else m'
  | _ => none
theorem x_csE {α : Type} {μ : z_M} {a ci : Nat} {m m' : Option α} {r : α} (h : x_cs μ a ci m m' = some r) : (∃ fs, μ.1 a = some (.inr (ci, fs)) ∧ m = some r) ∨ m' = some r := by
  unfold x_cs at h
  split at h
  · rename_i c fs e
    by_cases hc : c = ci
    · rw [if_pos hc] at h; subst hc; exact Or.inl ⟨fs, e, h⟩
    · rw [if_neg hc] at h; exact Or.inr h
  · exact absurd h (x_n r)
def x_upm {α : Type} (m : Option α) (μ : z_M) : Option (α × z_M) := m.map fun a => (a, μ)
theorem x_upmE {α : Type} {m : Option α} {μ μ1 : z_M} {a : α} (h : x_upm m μ = some (a, μ1)) : m = some a ∧ μ = μ1 := by
  cases m with
  | none => cases h
  | some b => cases h; exact ⟨rfl, rfl⟩
theorem x_isc {g : z_G} {μ : z_M} {q c : Nat} {fs : List Value} (hm : μ.1 q = some (.inr (c, fs))) (hc : c < 26) : z_isA g μ q ((vwCl[c]?.map (fun r => r.1)).getD "") := by
  have h : ∃ r, vwCl[c]? = some r := ⟨_, List.getElem?_eq_getElem (by exact hc)⟩
  obtain ⟨⟨C, T, N⟩, h⟩ := h
  refine Or.inl ⟨c, fs, T, N, hm, ?_⟩
  rw [h]
  rfl
theorem x_cl3 {c : Nat} (h : c ∈ [7, 14, 18]) : c < 26 := by
  rcases (by simpa using h : c = 7 ∨ c = 14 ∨ c = 18) with rfl | rfl | rfl <;> decide
theorem x_lnE {α : Type} {g : z_G} {μ : z_M} {a t : Nat} {kk : Nat → Option α} {r : α} (h : x_ln g μ a t kk = some r) : ∃ n f, z_arr g μ a t n f ∧ kk n = some r := by
  unfold x_ln at h
  split at h
  · rename_i t1 n x e
    by_cases hc : t1 = t
    · rw [if_pos hc] at h
      subst hc
      obtain ⟨f, hf⟩ : ∃ f : Nat → Value, vp_cell 0 (n, x) = arrV 0 n f := by
        rcases x with f | f | f | f | f
        · exact ⟨fun j => .int (f j), rfl⟩
        · exact ⟨fun j => .long (f j), rfl⟩
        · exact ⟨fun j => .float (f j), rfl⟩
        · exact ⟨fun j => .double (f j), rfl⟩
        · exact ⟨fun j => va_rf (f j), rfl⟩
      exact ⟨n, f, Or.inl ⟨_, e, rfl, hf⟩, h⟩
    · rw [if_neg hc] at h; exact absurd h (x_n r)
  · exact absurd h (x_n r)
  · by_cases hc : ∃ n f, z_T g (z_ty t) a n f
    · rw [dif_pos hc] at h
      obtain ⟨f, hf⟩ := Classical.choose_spec hc
      exact ⟨_, f, Or.inr hf, h⟩
    · rw [dif_neg hc] at h; exact absurd h (x_n r)
theorem x_nc {x : Int32} (h : (x.toUInt32 % 65536).toInt32 = x) : narrow .char (.int x) = .int x := by
  show Value.int _ = _
  exact congrArg Value.int h
theorem x_nb {x : Int32} (h : x.toInt8.toInt32 = x) : narrow .byte (.int x) = .int x := by
  show Value.int _ = _
  exact congrArg Value.int h
theorem x_fb0 (y : Int8) : fits .byte (.int y.toInt32) = true := by
  have h1 := Int8.le_toInt y
  have h2 := Int8.toInt_le y
  have e : y.toInt32.toInt = y.toInt := Int8.toInt_toInt32 y
  have a1 : (-128 : Int32) ≤ y.toInt32 := Int32.le_iff_toInt_le.mpr (by rw [e]; exact h1)
  have a2 : y.toInt32 ≤ (127 : Int32) := Int32.le_iff_toInt_le.mpr (by rw [e]; exact h2)
  show (decide _ && decide _) = true
  rw [decide_eq_true a1, decide_eq_true a2]
  rfl
theorem x_fb {x : Int32} (h : x.toInt8.toInt32 = x) : narrow .byte (.int x) = .int x ∧ fits .byte (.int x) = true := ⟨x_nb h, by
  rw [← h]
  exact x_fb0 _⟩
theorem x_nc_14_18 {g : z_G} (hok : z_ok g) : va_Nc "AskedNames$Loop" "AskedNames$NoWay" g.2.1 := by
  obtain ⟨-, -, -, -, -, -, -, -, -, -, -, -, -, -, h⟩ := hok.2.2.1
  exact h.2.1
/-- System.arraycopy, of bytes, ints, references -/
def x_cpy (n : Int32) (i1 i2 : Int32) (l1 l2 : Nat) : Prop := ¬ i1 < 0 ∧ ¬ i2 < 0 ∧ ¬ n < 0 ∧ i1.toNatClampNeg + n.toNatClampNeg ≤ l1 ∧ i2.toNatClampNeg + n.toNatClampNeg ≤ l2
noncomputable def x_ac (g : z_G) (μ : z_M) (o1 : Option Nat) (i1 : Int32) (o2 : Option Nat) (i2 n : Int32) : Option z_M := x_o o1 fun p => x_o o2 fun q => match μ.1 p, μ.1 q with
  | some (.inl (t1, l1, .inl f)), some (.inl (t2, l2, .inl f2)) => x_gp (t1 = t2 ∧ t1 < 2 ∧ x_cpy n i1 i2 l1 l2 ∧ (t1 = 1 → ∀ i, i < n.toNatClampNeg → (f (i1.toNatClampNeg + i)).toInt8.toInt32 = f (i1.toNatClampNeg + i))) (some (z_set μ q (.inl (t2, l2, .inl (va_cpy f f2 i1.toNatClampNeg i2.toNatClampNeg n.toNatClampNeg)))))
  | some (.inl (t1, l1, .inr (.inr (.inr (.inr f))))), some (.inl (t2, l2, .inr (.inr (.inr (.inr f2))))) => x_gp (t1 = 4 ∧ t2 = 4 ∧ x_cpy n i1 i2 l1 l2 ∧ ∀ i, i < n.toNatClampNeg → ∀ y, f (i1.toNatClampNeg + i) = some y → x_sa g μ 4 y) (some (z_set μ q (.inl (t2, l2, .inr (.inr (.inr (.inr (va_cpy f f2 i1.toNatClampNeg i2.toNatClampNeg n.toNatClampNeg))))))))
  | _, _ => none
theorem x_acE {g : z_G} {μ μ1 : z_M} {o1 o2 : Option Nat} {i1 i2 n : Int32} (h : x_ac g μ o1 i1 o2 i2 n = some μ1) : ∃ p q, o1 = some p ∧ o2 = some q ∧ (
    (∃ t l1 l2 f f2, μ.1 p = some (.inl (t, l1, .inl f)) ∧ μ.1 q = some (.inl (t, l2, .inl f2)) ∧ t < 2 ∧ x_cpy n i1 i2 l1 l2 ∧ (t = 1 → ∀ i, i < n.toNatClampNeg → (f (i1.toNatClampNeg + i)).toInt8.toInt32 = f (i1.toNatClampNeg + i)) ∧ z_set μ q (.inl (t, l2, .inl (va_cpy f f2 i1.toNatClampNeg i2.toNatClampNeg n.toNatClampNeg))) = μ1) ∨
    (∃ l1 l2 f f2, μ.1 p = some (.inl (4, l1, .inr (.inr (.inr (.inr f))))) ∧ μ.1 q = some (.inl (4, l2, .inr (.inr (.inr (.inr f2))))) ∧ x_cpy n i1 i2 l1 l2 ∧ (∀ i, i < n.toNatClampNeg → ∀ y, f (i1.toNatClampNeg + i) = some y → x_sa g μ 4 y) ∧ z_set μ q (.inl (4, l2, .inr (.inr (.inr (.inr (va_cpy f f2 i1.toNatClampNeg i2.toNatClampNeg n.toNatClampNeg)))))) = μ1)) := by
  obtain ⟨p, h1, h⟩ := x_oE h
  obtain ⟨q, h2, h⟩ := x_oE h
  refine ⟨p, q, h1, h2, ?_⟩
  split at h
  · rename_i e1 e2
    obtain ⟨⟨h3, h4, h5, h6⟩, h9⟩ := x_gpE h
    subst h3
    exact Or.inl ⟨_, _, _, _, _, e1, e2, h4, h5, h6, Option.some.inj h9⟩
  · rename_i e1 e2
    obtain ⟨⟨h3, h4, h5, h6⟩, h9⟩ := x_gpE h
    subst h3
    subst h4
    exact Or.inr ⟨_, _, _, _, e1, e2, h5, h6, Option.some.inj h9⟩
  · exact absurd h (x_n _)
/-- an array's clone -/
noncomputable def x_cln (μ : z_M) (a t : Nat) : Option (Nat × z_M) := x_ar μ a t fun n f => x_gp (t = 1 → ∀ i, i < n → (f i).toInt8.toInt32 = f i) (some (μ.2.1, z_new μ n (.inl (t, n, .inl f))))
/-- getCause -/
def x_gca (μ : z_M) (a : Nat) : Option (Option Nat) := x_os μ a [7, 14, 18, 19] fun _ fs => x_fv fs 0 fun v => x_vr v fun o => some (if o = some a then none else o)
section N18
variable {g : z_G} {d : Nat} {Y : z_Y} {Q : z_O → z_M → Prop} {μ μ1 : z_M} {pc index : Nat} {lc : List (Nat × Value)} {rest st : List Value}
theorem x_nn {z : Int32} (hz : ¬ z < 0) : z.toInt = (z.toNatClampNeg : Int) := by
  have hz0 : (0 : Int) ≤ z.toInt := by
    have := Int32.not_lt.mp hz
    simpa using Int32.le_iff_toInt_le.mp this
  show z.toInt = ((z.toInt.toNat : Nat) : Int)
  omega
theorem x_any {y : Nat} {p : Program} {R : Room} {s : State} {m : MethodId} {args : Array Value} {meth : Method} {c : Code} {H : Heap} (C0 : z_Cx g d Y p R s m args meth c) (hM : z_MH g μ H) (h : x_sa g μ 4 y) : va_Any "java/lang/Object" s H y := by
  obtain ⟨C, E, h1, h2, h3⟩ := h
  cases h1
  obtain ⟨cellV, g1, g2, g3⟩ := h2.recv C0.1 C0.2.1 hM
  obtain ⟨kC, hkC, -⟩ := Vm.findClass_spec g3
  refine ⟨cellV, g1, g2, ⟨kC, hkC⟩, fun comp hc => ?_⟩
  rcases h3 with rfl | hca
  · exact vb_asgS comp cellV.cls hc g3
  · exact vb_asgC (C0.2.1.1 _ hca rfl) comp cellV.cls hc g3
theorem zi_acopy {o1 o2 : Option Nat} {i1 i2 n : Int32} (h : x_ac g μ o1 i1 o2 i2 n = some μ1) (hq : Cond.methodLink Y.1.cls index ⟨"java/lang/System", "arraycopy", "(Ljava/lang/Object;ILjava/lang/Object;II)V"⟩ ∈ lw_all) (hW : (rest.map fun v => v.category).sum ≤ 8) (hd : decode Y.2.1 pc = .ok (.invokestatic index, 3)) (kk : z_V g (d + 1) Y (pc + 3) lc rest μ1 Q) : z_V g (d + 1) Y pc lc (.int n :: .int i2 :: va_rf o2 :: .int i1 :: va_rf o1 :: rest) μ Q := by
  replace h := x_acE h
  obtain ⟨p0, q0, rfl, rfl, h⟩ := h
  have hsz : μ.2 = μ1.2 := by
    rcases h with ⟨_, _, _, _, _, _, _, _, _, _, rfl⟩ | ⟨_, _, _, _, _, _, _, _, rfl⟩ <;> rfl
  refine z_heap (by rw [hsz]; exact Nat.le_refl _) (by rw [hsz]; exact Nat.le_refl _) kk fun p e R s m args below meth c H locs cells slots Qs ls C0 hl hM hL _ _ k9 => ?_
  rw [hsz, Nat.sub_self, Nat.sub_self, Nat.add_zero, Nat.add_zero] at k9
  have hts := C0.2.2.2.2.2.2.2.2.2.1
  have hfr := C0.2.2.2.2.2.2.2.2.2.2.2.1
  have hlo := C0.2.2.2.2.2.2.2.2.2.2.2.2
  have hml : c.maxLocals = ls.size := C0.2.2.2.2.1.trans hl.1.symm
  have hlk : (Cond.methodLink Y.1.cls index arraycopyName).before args s = true := hts _ hq
  have e7 : nativeFrameWords "java/lang/System" "arraycopy" 5 = 7 := by decide +kernel
  intro T hT X
  rcases h with ⟨t, l1, l2, f, f2, m1, m2, ht, ⟨h1, h2, h3, h4, h5⟩, hb, rfl⟩ | ⟨l1, l2, f, f2, m1, m2, ⟨h1, h2, h3, h4, h5⟩, hb, rfl⟩
  · have hc0 : H[p0]? = some (vp_cell (z_aC g t) (l1, .inl f)) := (hM.2.2.2 p0 _ m1).2.2
    have hc1 : H[q0]? = some (vp_cell (z_aC g t) (l2, .inl f2)) := (hM.2.2.2 q0 _ m2).2.2
    obtain ⟨-, k0, hk0, cm0, hkk0⟩ := (z_kT (z_kK C0.1 C0.2.1) (show t < 7 by omega)).1 l1 (fun j => .int (f j))
    obtain ⟨vm', X', step⟩ := X.arraycopy C0.2.2.1 C0.2.2.2.2.2.2.2.1 hlk (hts _ q393) (hts _ q392) (hts _ q143) (src := p0) (dst := q0) (cs := vp_cell (z_aC g t) (l1, .inl f)) (cd := vp_cell (z_aC g t) (l2, .inl f2)) (srcPos := i1) (destPos := i2) (n := n) (by rw [hT]; exact hc0) (by rw [hT]; exact hc1)
      (fun _ h => by cases h) (fun _ h => by cases h) (fun h => by cases h) (fun h => by cases h) hk0 hk0 hkk0 hkk0 (by
        rcases (show t = 0 ∨ t = 1 by omega) with rfl | rfl <;> rfl) h1 h2 h3
      (by rw [x_nn h1, x_nn h3]; show ¬ _ > ((arrV _ l1 (fun j => .int (f j))).slots.size : Int); rw [arrV_size]; omega)
      (by rw [x_nn h2, x_nn h3]; show ¬ _ > ((arrV _ l2 (fun j => .int (f2 j))).slots.size : Int); rw [arrV_size]; omega)
      (fun vm₁ _ i hi => by
        have e : (vp_cell (z_aC g t) (l1, .inl f)).slots.getD (i1.toNatClampNeg + i) .null = .int (f (i1.toNatClampNeg + i)) := by
          show (arrV _ l1 (fun j => .int (f j))).slots.getD _ _ = _
          rw [Array.getD_eq_getD_getElem?, arrV_read _ _ (by omega)]
          rfl
        refine ⟨?_, ?_⟩
        · rw [e]
          rcases (show t = 0 ∨ t = 1 by omega) with rfl | rfl
          · rfl
          · exact (x_fb (hb rfl i hi)).2
        · rw [e]
          exact trivial)
      (g := F0 m pc ls (.int n :: .int i2 :: .ref q0 :: .int i1 :: .ref p0 :: rest)) rfl (by rw [hml]) (rest := rest) rfl (by rw [C0.2.2.2.1]; exact hd) (by omega) (by show 2 * 0 + _ + (nativeFrameWords "java/lang/System" "arraycopy" 5 + 11) ≤ _; rw [e7]; omega)
    have e1 : copied (vp_cell (z_aC g t) (l1, .inl f)) (vp_cell (z_aC g t) (l2, .inl f2)) i1 i2 n = vp_cell (z_aC g t) (l2, .inl (va_cpy f f2 i1.toNatClampNeg i2.toNatClampNeg n.toNatClampNeg)) := va_copied (fun z => .int z) _ _ f f2 h4
    rw [e1] at X' step
    have hlt : q0 < H.size := (Array.getElem?_eq_some_iff.mp hc1).1
    have hheap : ((T.setVm vm').setCell q0 (vp_cell (z_aC g t) (l2, .inl (va_cpy f f2 i1.toNatClampNeg i2.toNatClampNeg n.toNatClampNeg)))).heap = H.setIfInBounds q0 (vp_cell (z_aC g t) (l2, .inl (va_cpy f f2 i1.toNatClampNeg i2.toNatClampNeg n.toNatClampNeg))) := by rw [← hT]; rfl
    obtain ⟨t9, a1, b1⟩ := k9 _ _ (hM.set m2 (fun q h => by cases h; show t < 7; omega) (show (H.setIfInBounds q0 (vp_cell (z_aC g t) (l2, .inl (va_cpy f f2 i1.toNatClampNeg i2.toNatClampNeg n.toNatClampNeg))))[q0]? = some _ by simp [Array.getElem?_setIfInBounds, hlt]) (by simp) (fun q hq => by simp [Array.getElem?_setIfInBounds, Ne.symm hq])) (fun q hq => by
      rcases List.mem_append.mp hq with h | h
      · exact hL q h
      · obtain ⟨z, -, hz⟩ := List.mem_map.mp h
        rw [← hz]
        exact (hM.2.2.2 q0 _ m2).1) _ hheap X'
    exact ⟨t9, step t9 a1, b1⟩
  · have hc0 : H[p0]? = some (vp_cell (z_aC g 4) (l1, .inr (.inr (.inr (.inr f))))) := (hM.2.2.2 p0 _ m1).2.2
    have hc1 : H[q0]? = some (vp_cell (z_aC g 4) (l2, .inr (.inr (.inr (.inr f2))))) := (hM.2.2.2 q0 _ m2).2.2
    have hK4 := z_kT (z_kK C0.1 C0.2.1) (show 4 < 7 by omega)
    obtain ⟨-, k0, hk0, cm0, hkk0⟩ := hK4.1 l1 (fun j => va_rf (f j))
    obtain ⟨vm', X', step⟩ := X.arraycopy C0.2.2.1 C0.2.2.2.2.2.2.2.1 hlk (hts _ q393) (hts _ q392) (hts _ q143) (src := p0) (dst := q0) (cs := vp_cell (z_aC g 4) (l1, .inr (.inr (.inr (.inr f))))) (cd := vp_cell (z_aC g 4) (l2, .inr (.inr (.inr (.inr f2))))) (srcPos := i1) (destPos := i2) (n := n) (by rw [hT]; exact hc0) (by rw [hT]; exact hc1)
      (fun _ h => by cases h) (fun _ h => by cases h) (fun h => by cases h) (fun h => by cases h) hk0 hk0 hkk0 hkk0 rfl h1 h2 h3
      (by rw [x_nn h1, x_nn h3]; show ¬ _ > ((arrV _ l1 (fun j => va_rf (f j))).slots.size : Int); rw [arrV_size]; omega)
      (by rw [x_nn h2, x_nn h3]; show ¬ _ > ((arrV _ l2 (fun j => va_rf (f2 j))).slots.size : Int); rw [arrV_size]; omega)
      (fun vm₁ hal i hi => by
        have e : (vp_cell (z_aC g 4) (l1, .inr (.inr (.inr (.inr f))))).slots.getD (i1.toNatClampNeg + i) .null = va_rf (f (i1.toNatClampNeg + i)) := by
          show (arrV _ l1 (fun j => va_rf (f j))).slots.getD _ _ = _
          rw [Array.getD_eq_getD_getElem?, arrV_read _ _ (by omega)]
          rfl
        rw [e]
        cases hy : f (i1.toNatClampNeg + i) with
        | none => exact ⟨rfl, trivial⟩
        | some y =>
          obtain ⟨cellV, g1, g2, ⟨kC, hkC⟩, hasg⟩ := x_any C0 hM (hb i hi y hy)
          obtain ⟨kA, comp, r1, r2, r3, -⟩ := hK4.2
          cases hk0.symm.trans r1
          cases hkk0.symm.trans r2
          obtain ⟨kE, hkE, -⟩ := Vm.findClass_spec r3
          obtain ⟨kC', hkC', -⟩ := hal.2.2 _ _ hkC
          obtain ⟨kE', hkE', -⟩ := hal.2.2 _ _ hkE
          refine ⟨rfl, cellV, (show T.heap[y]? = some cellV by rw [hT]; exact g1), (fun q h => by rw [h] at g2; cases g2), ⟨kC', hkC'⟩, ?_, ?_⟩
          · exact ⟨kE', hkE'⟩
          · show vm₁.assignable _ _ = true
            rw [hal.assignable]
            exact hasg _ r3)
      (g := F0 m pc ls (.int n :: .int i2 :: .ref q0 :: .int i1 :: .ref p0 :: rest)) rfl (by rw [hml]) (rest := rest) rfl (by rw [C0.2.2.2.1]; exact hd) (by omega) (by show 2 * 0 + _ + (nativeFrameWords "java/lang/System" "arraycopy" 5 + 11) ≤ _; rw [e7]; omega)
    have e1 : copied (vp_cell (z_aC g 4) (l1, .inr (.inr (.inr (.inr f))))) (vp_cell (z_aC g 4) (l2, .inr (.inr (.inr (.inr f2))))) i1 i2 n = vp_cell (z_aC g 4) (l2, .inr (.inr (.inr (.inr (va_cpy f f2 i1.toNatClampNeg i2.toNatClampNeg n.toNatClampNeg))))) := va_copied va_rf _ _ f f2 h4
    rw [e1] at X' step
    have hlt : q0 < H.size := (Array.getElem?_eq_some_iff.mp hc1).1
    have hheap : ((T.setVm vm').setCell q0 (vp_cell (z_aC g 4) (l2, .inr (.inr (.inr (.inr (va_cpy f f2 i1.toNatClampNeg i2.toNatClampNeg n.toNatClampNeg))))))).heap = H.setIfInBounds q0 (vp_cell (z_aC g 4) (l2, .inr (.inr (.inr (.inr (va_cpy f f2 i1.toNatClampNeg i2.toNatClampNeg n.toNatClampNeg)))))) := by rw [← hT]; rfl
    obtain ⟨t9, a1, b1⟩ := k9 _ _ (hM.set m2 (fun q h => by cases h; show 4 < 7; omega) (show (H.setIfInBounds q0 (vp_cell (z_aC g 4) (l2, .inr (.inr (.inr (.inr (va_cpy f f2 i1.toNatClampNeg i2.toNatClampNeg n.toNatClampNeg)))))))[q0]? = some _ by simp [Array.getElem?_setIfInBounds, hlt]) (by simp) (fun q hq => by simp [Array.getElem?_setIfInBounds, Ne.symm hq])) (fun q hq => by
      rcases List.mem_append.mp hq with h | h
      · exact hL q h
      · obtain ⟨z, -, hz⟩ := List.mem_map.mp h
        rw [← hz]
        exact (hM.2.2.2 q0 _ m2).1) _ hheap X'
    exact ⟨t9, step t9 a1, b1⟩
theorem zi_cln1 {a p : Nat} (h : x_cln μ a 1 = some (p, μ1)) (hq : Cond.methodLink Y.1.cls index ⟨"[B", "clone", "()Ljava/lang/Object;"⟩ ∈ lw_all) (hW : (rest.map fun v => v.category).sum ≤ 8) (hd : decode Y.2.1 pc = .ok (.invokevirtual index, 3)) (kk : z_V g (d + 1) Y (pc + 3) lc (.ref p :: rest) μ1 Q) : z_V g (d + 1) Y pc lc (.ref a :: rest) μ Q := by
  obtain ⟨n, f, hm, h⟩ := x_arE h
  obtain ⟨hb, h⟩ := x_gpE h
  replace hb := hb rfl
  cases h
  refine z_heap (by show μ.2.1 ≤ μ.2.1 + 1; omega) (by show μ.2.2 ≤ μ.2.2 + n; omega) kk fun p e R s m args below meth c H locs cells slots Qs ls C0 hl hM hL i3 i4 k9 => ?_
  have e1 : (z_new μ n (.inl (1, n, .inl f))).2.1 - μ.2.1 = 1 := by show μ.2.1 + 1 - μ.2.1 = 1; omega
  have e2 : (z_new μ n (.inl (1, n, .inl f))).2.2 - μ.2.2 = n := by show μ.2.2 + n - μ.2.2 = n; omega
  rw [e1, e2] at k9
  rw [e1] at i3
  rw [e2] at i4
  have hts := C0.2.2.2.2.2.2.2.2.2.1
  have hfr := C0.2.2.2.2.2.2.2.2.2.2.2.1
  have hlo := C0.2.2.2.2.2.2.2.2.2.2.2.2
  have hK := z_kT (z_kK C0.1 C0.2.1) (show 1 < 7 by omega)
  have hc0 : H[a]? = some (vp_cell (z_aC g 1) (n, .inl f)) := (hM.2.2.2 a _ hm).2.2
  have hnm : s.vm.findClass "[B" = some (z_aC g 1) := hK.2
  obtain ⟨c0, t0', f1, f2, f3⟩ := Cond.castable_spec (va_Nw.use (A := args) rfl (C0.2.1.1 _ q386 rfl))
  cases hnm.symm.trans f1
  intro T hT X
  obtain ⟨-, kA, hkA, comp, hkind⟩ := State.isArrayOf_alike X.warmed.alike (hK.1 0 (fun _ => .null))
  obtain ⟨-, kS, hkS, compS, hkindS⟩ := hK.1 0 (fun _ => .null)
  obtain ⟨vm', X', st⟩ := X.cloneArray C0.2.2.1 C0.2.2.2.2.2.2.2.1 (hts _ hq) (hts _ q382) (hts _ q383) (hts _ q384) (hts _ q385) (a := a) (cell := vp_cell (z_aC g 1) (n, .inl f)) (by rw [hT]; exact hc0) (fun k h => by cases h) (fun h => by cases h) hnm f2 f3
    (fun i v hv => by
      have hk' : T.vm.classes[z_aC g 1]? = some kA := hkA
      have hi : i < n := by
        have := (Array.getElem?_eq_some_iff.mp hv).1
        rw [show (vp_cell (z_aC g 1) (n, .inl f)).slots.size = n from arrV_size _ _ _] at this
        exact this
      have hv' : (arrV (z_aC g 1) n (fun j => .int (f j))).slots[i]? = some v := hv
      rw [arrV_read _ _ hi] at hv'
      cases hv'
      have hf : fits .byte (.int (f i)) = true := by exact (x_fb (hb _ hi)).2
      simpa [State.fitsSlot, State.slotType?, vp_cell, arrV, hk', hkind, z_ty] using hf)
    (g := F0 m pc ls (.ref a :: rest)) rfl (by rw [hl.1]; exact C0.2.2.2.2.1.symm) rfl (by rw [C0.2.2.2.1]; exact hd) (by omega) (by show 2 * 0 + _ + 14 ≤ _; omega) i3 (by rw [show (vp_cell (z_aC g 1) (n, .inl f)).slots.size = n from arrV_size _ _ _]; exact i4) (hloader := Vm.clonesLoader_of_array hkS hkindS)
  have hsz : (vp_cell (z_aC g 1) (n, .inl f)).slots.size = n := arrV_size _ _ _
  rw [hsz] at X'
  have hp : μ.2.1 = H.size := hM.1.symm
  obtain ⟨t9, a1, b1⟩ := k9 (H.push (vp_cell (z_aC g 1) (n, .inl f))) locs (hM.new (fun q h => by cases h; show 1 < 7; omega) (show (H.push (vp_cell (z_aC g 1) (n, .inl f)))[H.size]? = some _ from Array.getElem?_push_size) (by rw [Array.size_push]) (fun q hq => by rw [Array.getElem?_push, if_neg (Nat.ne_of_lt hq)])) hL ((T.setVm vm').pushCell (vp_cell (z_aC g 1) (n, .inl f))) (by rw [← hT]; rfl) X'
  refine ⟨t9, st t9 ?_, b1⟩
  rw [hT, ← hp]
  exact a1
theorem zi_cln0 {a p : Nat} (h : x_cln μ a 0 = some (p, μ1)) (hq : Cond.methodLink Y.1.cls index ⟨"[I", "clone", "()Ljava/lang/Object;"⟩ ∈ lw_all) (hW : (rest.map fun v => v.category).sum ≤ 8) (hd : decode Y.2.1 pc = .ok (.invokevirtual index, 3)) (kk : z_V g (d + 1) Y (pc + 3) lc (.ref p :: rest) μ1 Q) : z_V g (d + 1) Y pc lc (.ref a :: rest) μ Q := by
  obtain ⟨n, f, hm, h⟩ := x_arE h
  obtain ⟨-, h⟩ := x_gpE h
  cases h
  refine z_heap (by show μ.2.1 ≤ μ.2.1 + 1; omega) (by show μ.2.2 ≤ μ.2.2 + n; omega) kk fun p e R s m args below meth c H locs cells slots Qs ls C0 hl hM hL i3 i4 k9 => ?_
  have e1 : (z_new μ n (.inl (0, n, .inl f))).2.1 - μ.2.1 = 1 := by show μ.2.1 + 1 - μ.2.1 = 1; omega
  have e2 : (z_new μ n (.inl (0, n, .inl f))).2.2 - μ.2.2 = n := by show μ.2.2 + n - μ.2.2 = n; omega
  rw [e1, e2] at k9
  rw [e1] at i3
  rw [e2] at i4
  have hts := C0.2.2.2.2.2.2.2.2.2.1
  have hfr := C0.2.2.2.2.2.2.2.2.2.2.2.1
  have hlo := C0.2.2.2.2.2.2.2.2.2.2.2.2
  have hK := z_kT (z_kK C0.1 C0.2.1) (show 0 < 7 by omega)
  have hc0 : H[a]? = some (vp_cell (z_aC g 0) (n, .inl f)) := (hM.2.2.2 a _ hm).2.2
  have hnm : s.vm.findClass "[I" = some (z_aC g 0) := hK.2
  obtain ⟨c0, t0', f1, f2, f3⟩ := Cond.castable_spec (va_Nw.use (A := args) rfl (C0.2.1.1 _ q1444 rfl))
  cases hnm.symm.trans f1
  intro T hT X
  obtain ⟨-, kA, hkA, comp, hkind⟩ := State.isArrayOf_alike X.warmed.alike (hK.1 0 (fun _ => .null))
  obtain ⟨-, kS, hkS, compS, hkindS⟩ := hK.1 0 (fun _ => .null)
  obtain ⟨vm', X', st⟩ := X.cloneArray C0.2.2.1 C0.2.2.2.2.2.2.2.1 (hts _ hq) (hts _ q1442) (hts _ q383) (hts _ q384) (hts _ q1443) (a := a) (cell := vp_cell (z_aC g 0) (n, .inl f)) (by rw [hT]; exact hc0) (fun k h => by cases h) (fun h => by cases h) hnm f2 f3
    (fun i v hv => by
      have hk' : T.vm.classes[z_aC g 0]? = some kA := hkA
      have hi : i < n := by
        have := (Array.getElem?_eq_some_iff.mp hv).1
        rw [show (vp_cell (z_aC g 0) (n, .inl f)).slots.size = n from arrV_size _ _ _] at this
        exact this
      have hv' : (arrV (z_aC g 0) n (fun j => .int (f j))).slots[i]? = some v := hv
      rw [arrV_read _ _ hi] at hv'
      cases hv'
      have hf : fits .int (.int (f i)) = true := by rfl
      simpa [State.fitsSlot, State.slotType?, vp_cell, arrV, hk', hkind, z_ty] using hf)
    (g := F0 m pc ls (.ref a :: rest)) rfl (by rw [hl.1]; exact C0.2.2.2.2.1.symm) rfl (by rw [C0.2.2.2.1]; exact hd) (by omega) (by show 2 * 0 + _ + 14 ≤ _; omega) i3 (by rw [show (vp_cell (z_aC g 0) (n, .inl f)).slots.size = n from arrV_size _ _ _]; exact i4) (hloader := Vm.clonesLoader_of_array hkS hkindS)
  have hsz : (vp_cell (z_aC g 0) (n, .inl f)).slots.size = n := arrV_size _ _ _
  rw [hsz] at X'
  have hp : μ.2.1 = H.size := hM.1.symm
  obtain ⟨t9, a1, b1⟩ := k9 (H.push (vp_cell (z_aC g 0) (n, .inl f))) locs (hM.new (fun q h => by cases h; show 0 < 7; omega) (show (H.push (vp_cell (z_aC g 0) (n, .inl f)))[H.size]? = some _ from Array.getElem?_push_size) (by rw [Array.size_push]) (fun q hq => by rw [Array.getElem?_push, if_neg (Nat.ne_of_lt hq)])) hL ((T.setVm vm').pushCell (vp_cell (z_aC g 0) (n, .inl f))) (by rw [← hT]; rfl) X'
  refine ⟨t9, st t9 ?_, b1⟩
  rw [hT, ← hp]
  exact a1
theorem zi_fist {a c : Nat} {fs : List Value} (hc : c ∈ [7, 14, 18, 19]) (hm : μ.1 a = some (.inr (c, fs))) (hq : Cond.methodLink Y.1.cls index ⟨"java/lang/Throwable", "fillInStackTrace", "()Ljava/lang/Throwable;"⟩ ∈ lw_all) (hW : (rest.map fun v => v.category).sum ≤ 8) (hd : decode Y.2.1 pc = .ok (.invokevirtual index, 3)) (kk : z_V g (d + 2) Y (pc + 3) lc (.ref a :: rest) μ Q) : z_V g (d + 2) Y pc lc (.ref a :: rest) μ Q := by
  sorry
theorem x_cl4 : ∀ c ∈ [7, 14, 18, 19], ∃ (C : String) (T : u_T) (N : Nat), vwCl[c]? = some (C, T, N) ∧ Cond.selects C ⟨"java/lang/Throwable", "getCause", "()Ljava/lang/Throwable;"⟩ ⟨"java/lang/Throwable", "getCause", "()Ljava/lang/Throwable;"⟩ ∈ lw_all ∧ Cond.selects C ⟨"java/lang/Throwable", "fillInStackTrace", "()Ljava/lang/Throwable;"⟩ ⟨"java/lang/Throwable", "fillInStackTrace", "()Ljava/lang/Throwable;"⟩ ∈ lw_all ∧ 0 < N ∧ T 0 = ("java/lang/Throwable", "cause", "Ljava/lang/Throwable;", false) := by
  intro c hc
  rcases (by simpa using hc : c = 7 ∨ c = 14 ∨ c = 18 ∨ c = 19) with rfl | rfl | rfl | rfl
  · exact ⟨_, _, _, rfl, q1842, q656, by decide, rfl⟩
  · exact ⟨_, _, _, rfl, q1843, q679, by decide, rfl⟩
  · exact ⟨_, _, _, rfl, q1844, q680, by decide, rfl⟩
  · exact ⟨_, _, _, rfl, q1845, q681, by decide, rfl⟩
theorem x_gcaE {a : Nat} {o : Option Nat} (h : x_gca μ a = some o) : ∃ c fs o1, c ∈ [7, 14, 18, 19] ∧ μ.1 a = some (.inr (c, fs)) ∧ fs[0]? = some (va_rf o1) ∧ o = if o1 = some a then none else o1 := by
  obtain ⟨c, fs, h1, h2, h3⟩ := x_osE h
  obtain ⟨v, h4, h5⟩ := x_fvE h3
  obtain ⟨o1, h6, h7⟩ := x_vrE h5
  subst h6
  exact ⟨c, fs, o1, h1, h2, h4, (Option.some.inj h7).symm⟩
theorem zi_gcause {a : Nat} {o : Option Nat} (h : x_gca μ a = some o) (hq : Cond.methodLink Y.1.cls index ⟨"java/lang/Throwable", "getCause", "()Ljava/lang/Throwable;"⟩ ∈ lw_all) (hW : (rest.map fun v => v.category).sum ≤ 8) (hd : decode Y.2.1 pc = .ok (.invokevirtual index, 3)) (kk : z_V g (d + 1) Y (pc + 3) lc (va_rf o :: rest) μ Q) : z_V g (d + 1) Y pc lc (.ref a :: rest) μ Q := by
  obtain ⟨ci, fs, o1, hci, hm, hv, ho⟩ := x_gcaE h
  obtain ⟨C, T0, N, hcl, hsel0, -, hN, hT0⟩ := x_cl4 ci hci
  refine z_heap (Nat.le_refl _) (Nat.le_refl _) kk fun p e R s m args below meth c H locs cells slots Qs ls C0 hl hM hL i1 i2 k9 => ?_
  rw [Nat.sub_self, Nat.add_zero] at i1 i2
  rw [Nat.sub_self, Nat.sub_self, Nat.add_zero, Nat.add_zero] at k9
  have hts := C0.2.2.2.2.2.2.2.2.2.1
  have hfr := C0.2.2.2.2.2.2.2.2.2.2.2.1
  have hlo := C0.2.2.2.2.2.2.2.2.2.2.2.2
  have hK := z_kK C0.1 C0.2.1
  obtain ⟨hb0, -, r, q1, cell, q2, q3, q4, q5⟩ := hM.2.2.2 a _ hm
  cases q1.symm.trans hcl
  obtain ⟨hS, hfc, kC, hkC, hkind⟩ := hK.1 ci _ hcl
  obtain ⟨cf, kf, fi, f, hi, hsl⟩ := hS 0 hN
  sorry
def x_mx (x y : Int32) : Int32 := if x < y then y else x
def x_mn (x y : Int32) : Int32 := if y < x then y else x
theorem zi_mathMax {x y : Int32} (hq : Cond.methodLink Y.1.cls index ⟨"java/lang/Math", "max", "(II)I"⟩ ∈ lw_all) (hW : (rest.map fun v => v.category).sum ≤ 8) (hd : decode Y.2.1 pc = .ok (.invokestatic index, 3)) (kk : z_V g (d + 1) Y (pc + 3) lc (.int (x_mx x y) :: rest) μ Q) : z_V g (d + 1) Y pc lc (.int y :: .int x :: rest) μ Q := by
  refine z_heap (Nat.le_refl _) (Nat.le_refl _) kk fun p e R s m args below meth c H locs cells slots Qs ls C0 hl hM hL i1 i2 k9 => ?_
  rw [Nat.sub_self, Nat.add_zero] at i1 i2
  rw [Nat.sub_self, Nat.sub_self, Nat.add_zero, Nat.add_zero] at k9
  have hts := C0.2.2.2.2.2.2.2.2.2.1
  have hfr := C0.2.2.2.2.2.2.2.2.2.2.2.1
  have hlo := C0.2.2.2.2.2.2.2.2.2.2.2.2
  exact va_mmax C0.2.2.1 C0.2.2.2.1 (C0.2.2.2.2.1.trans hl.1.symm) C0.2.2.2.2.2.2.2.1 (hts _ hq) (hts _ q371) (hts _ q141) (hts _ q372) (by omega) (by omega) i1 i2 hd (k9 _ _ hM hL)
theorem zi_mathMin {x y : Int32} (hq : Cond.methodLink Y.1.cls index ⟨"java/lang/Math", "min", "(II)I"⟩ ∈ lw_all) (hW : (rest.map fun v => v.category).sum ≤ 8) (hd : decode Y.2.1 pc = .ok (.invokestatic index, 3)) (kk : z_V g (d + 1) Y (pc + 3) lc (.int (x_mn x y) :: rest) μ Q) : z_V g (d + 1) Y pc lc (.int y :: .int x :: rest) μ Q := by
  refine z_heap (Nat.le_refl _) (Nat.le_refl _) kk fun p e R s m args below meth c H locs cells slots Qs ls C0 hl hM hL i1 i2 k9 => ?_
  rw [Nat.sub_self, Nat.add_zero] at i1 i2
  rw [Nat.sub_self, Nat.sub_self, Nat.add_zero, Nat.add_zero] at k9
  have hts := C0.2.2.2.2.2.2.2.2.2.1
  have hfr := C0.2.2.2.2.2.2.2.2.2.2.2.1
  have hlo := C0.2.2.2.2.2.2.2.2.2.2.2.2
  exact va_mmin C0.2.2.1 C0.2.2.2.1 (C0.2.2.2.2.1.trans hl.1.symm) C0.2.2.2.2.2.2.2.1 (hts _ hq) (hts _ q389) (hts _ q141) (hts _ q390) (by omega) (by omega) i1 i2 hd (k9 _ _ hM hL)
theorem x_selP {args : Array Value} {s : State} {C C' : String} {y y' x' : MethodName} {cC : ClassId} (hfC : s.vm.findClass C = some cC) (hy : y.cls ≠ "java/lang/invoke/MethodHandle" ∧ y.cls ≠ "java/lang/invoke/VarHandle") (hpriv : (Cond.privateMethod y).before args s = true) (hinst : (Cond.instanceMethod y).before args s = true) (hw : (Cond.selects C' x' y').before args s = true) (he : y'.cls = y.cls) : (Cond.selects C y y).before args s = true := by
  obtain ⟨c2, r2, m2, q1, q2, q3, q4, kP, hkP, hkPi⟩ := Cond.selects_spec hw
  obtain ⟨mk, methM, hnamed, hmethM, -, -⟩ := Cond.instanceMethod_spec hinst
  have hfound : s.methodFound? y.cls y.name y.desc = some mk := State.methodFound?_of_named hnamed hy
  have hcls : m2.cls = mk.cls := Option.some.inj ((findClass_of_methodNamed q3).symm.trans ((congrArg s.vm.findClass he).trans (findClass_of_methodNamed hnamed)))
  have hsel : selectMethod {} s.vm cC mk = .method mk := selectMethod_private hmethM (Cond.privateMethod_at hpriv mk methM hnamed hmethM)
  rw [hcls] at hkP
  simp only [Cond.before, Cond.holds, Cond.value, hfC, hfound, hnamed, hsel, hkP]
  simp
  exact hkPi
theorem x_prv {g : z_G} {s : State} {args : Array Value} {y : MethodName} (hok : z_ok g) (hE : z_E g s) (h : Cond.privateMethod y ∈ lw_tbl) : (Cond.privateMethod y).before args s = true := by
  have h0 : (Cond.privateMethod y).before #[] g.2.1 = true := hok.2.2.2 _ h rfl
  have h1 := Cond.privateMethod_setVm (args := #[]) hE.2 y
  rw [h0] at h1
  simp only [Cond.before, Cond.holds, Cond.value] at h1 ⊢
  exact h1
/-- a private method, called on an object of any class -/
def z_mP (Y : z_Y) (n : Nat) : Prop := Cond.privateMethod Y.1 ∈ lw_tbl ∧ Cond.instanceMethod Y.1 ∈ lw_all ∧ Cond.initialized Y.1.cls ∈ lw_all ∧ z_cw Y ∈ lw_all ∧ z_okN Y.1 n ∧ Y.2.2.1 ≤ 60 ∧ ∃ C' x' y', Cond.selects C' x' y' ∈ lw_all ∧ y'.cls = Y.1.cls
theorem zi_callP {Yc : z_Y} {b n : Nat} {C : String} (As : List Value) (hm : z_mP Yc n) (hh : Yc.2.2.2.2 = []) (hq : Cond.methodLink Y.1.cls index Yc.1 ∈ lw_all) (hb : z_isA g μ b C) (hn : As.length = n) (hst : st = As.reverse ++ .ref b :: rest) (hW : (rest.map fun v => v.category).sum ≤ 8) (hd : decode Y.2.1 pc = .ok (.invokevirtual index, 3))
    (hK : z_K g d Yc (.ref b :: As) μ (z_ret g (d + 1) Y (pc + 3) pc lc rest Q)) : z_V g (d + 1) Y pc lc st μ Q := by
  obtain ⟨o, μ1, hr, h1, h2, hMet⟩ := hK
  obtain ⟨y, bts, L, rt, hh0⟩ := Yc
  cases hh
  obtain ⟨m1, m2, m3, m4, m5, m6, C', x', y', m7, m8⟩ := hm
  refine z_goes (aa := (Value.ref b :: As).toArray) hr h1 h2 fun p e R s m args below meth c H locs cells slots ls C0 hl hM j1 j2 => ?_
  have hts := C0.2.2.2.2.2.2.2.2.2.1
  obtain ⟨cell, g1, g2, g3⟩ := hb.recv C0.1 C0.2.1 hM
  exact vx_runV (z_fix C0) (hMet C0.1) ⟨callB_of n hts (lw_meth m4) rfl rfl rfl (hts _ m3) (hts _ hq) m5 (z_room C0 m6), hts _ m2, x_selP g3 ⟨m5.1, m5.2.1⟩ (x_prv C0.1 C0.2.1 m1) (hts _ m2) (hts _ m7) m8⟩ (z_preV C0 hM hb) rfl hn hl.1 hst (z_lroom hW) hd ⟨j1, j2⟩
end N18
/-- the class object of arrays of references -/
noncomputable def x_mi (g : z_G) : Nat := @dite _ (∃ mi : Nat, va_Mi "[Ljava/lang/Object;" mi g.2.1) (Classical.propDecidable _) (fun h => Classical.choose h) (fun _ => 0)
theorem x_miH {g : z_G} (hok : z_ok g) : va_Mi "[Ljava/lang/Object;" (x_mi g) g.2.1 := by
  obtain ⟨-, -, -, -, -, -, -, -, -, -, -, -, -, -, h⟩ := hok.2.2.1
  unfold x_mi
  rw [dif_pos h.2.2.2]
  exact Classical.choose_spec h.2.2.2
theorem x_dcH {g : z_G} (hok : z_ok g) : va_Dc g.2.1 := by
  obtain ⟨-, -, -, -, -, -, -, -, -, -, -, -, -, -, h⟩ := hok.2.2.1
  exact h.2.2.1
section C18
variable {g : z_G} {d : Nat} {Y : z_Y} {Q : z_O → z_M → Prop} {μ μ1 : z_M} {pc index : Nat} {lc : List (Nat × Value)} {rest st : List Value}
theorem zi_ldcM (hq : Cond.classLink Y.1.cls index "[Ljava/lang/Object;" ∈ lw_all) (hd : decode Y.2.1 pc = .ok (.ldc index, 2)) (kk : z_V g d Y (pc + 2) lc (.ref (x_mi g) :: rest) μ Q) : z_V g d Y pc lc rest μ Q :=
  z_pure kk fun _ _ _ _ _ _ _ _ _ _ _ _ _ _ _ C0 hl hM k9 => va_ldcM C0.2.2.1 C0.2.2.2.1 C0.2.2.2.2.2.2.2.1 (C0.2.2.2.2.2.2.2.2.2.1 _ hq) ((x_miH C0.1).moved C0.2.1.2) hd (k9 _ hl)
theorem zi_getC {a : Nat} {x : vp_A} (hm : μ.1 a = some (.inl (4, x))) (hq : Cond.methodLink Y.1.cls index ⟨"java/lang/Object", "getClass", "()Ljava/lang/Class;"⟩ ∈ lw_all) (hW : (rest.map fun v => v.category).sum ≤ 8) (hd : decode Y.2.1 pc = .ok (.invokevirtual index, 3)) (kk : z_V g (d + 1) Y (pc + 3) lc (.ref (x_mi g) :: rest) μ Q) : z_V g (d + 1) Y pc lc (.ref a :: rest) μ Q := by
  refine z_pure kk fun p e R s m args below meth c H locs cells slots Qs ls C0 hl hM k9 => ?_
  have hts := C0.2.2.2.2.2.2.2.2.2.1
  have hfr := C0.2.2.2.2.2.2.2.2.2.2.2.1
  have hlo := C0.2.2.2.2.2.2.2.2.2.2.2.2
  have hK := z_kT (z_kK C0.1 C0.2.1) (show 4 < 7 by omega)
  have hc0 : H[a]? = some (vp_cell (z_aC g 4) x) := (hM.2.2.2 a _ hm).2.2
  have hv := z_cellA (z_aC g 4) x
  refine va_getC C0.2.2.1 C0.2.2.2.1 (C0.2.2.2.2.1.trans hl.1.symm) C0.2.2.2.2.2.2.2.1 (hts _ hq) ((x_dcH C0.1).moved C0.2.1.2).use (hts _ q3004) (hts _ q754) (hts _ q785) ((x_miH C0.1).moved C0.2.1.2) ⟨_, hc0, by rw [hv.1]; rfl, ?_⟩ (by omega) (by omega) hd (k9 _ hl)
  rw [hv.2]
  exact va_nmO hK.2 (by decide +kernel)
end C18
/-- Arrays.copyOf, of references (its class is asked for by getClass) -/
noncomputable def D_J10_copyOf_2 (g : z_G) (o : Option Nat) (i : Int32) (μ : z_M) : Option (Option Nat × z_M) := x_o o fun a => x_aa μ a 4 fun _ _ => x_na i fun m => x_nw μ m (.inl (4, z_nul m)) fun p μ1 => x_ln g μ1 a 4 fun n => x_b (x_ac g μ1 (some a) 0 (some p) 0 (x_mn (nI n) i)) fun μ2 => some (some p, μ2)
theorem w_J10_copyOf_2 {g : z_G} {d : Nat} {Q : z_O → z_M → Prop} {μ : z_M} {a0 : Option Nat} {a1 : Int32} {rz : Option Nat} {μz : z_M} (h : D_J10_copyOf_2 g a0 a1 μ = some (rz, μz)) (hQ : Q (.inl (some (va_rf rz))) μz) : z_K g (d + 3) YJ10_copyOf_2 [va_rf a0, .int a1] μ Q := by
  unfold D_J10_copyOf_2 at h
  replace h := x_oE h
  obtain ⟨a, rfl, h⟩ := h
  replace h := x_aaE h
  obtain ⟨n0, f0, hm0, h⟩ := h
  replace h := x_naE h
  obtain ⟨m, hi, hb, h⟩ := h
  replace h := x_nwE h
  obtain ⟨p, μ1, hp, he, h⟩ := h
  replace h := x_lnE h
  obtain ⟨n, f1, hl, h⟩ := h
  replace h := x_bE h
  obtain ⟨μ2, hac, h⟩ := h
  cases h
  refine z_K.of (by decide) rfl (Nat.le_of_ble_eq_true rfl) ?_
  refine zi_aload_n 0 dJ10_copyOf_2_0 rfl rfl ?_
  refine zi_iload_n 1 dJ10_copyOf_2_1 rfl rfl ?_
  refine zi_aload_n 0 dJ10_copyOf_2_2 rfl rfl ?_
  refine zi_getC hm0 q753 (Nat.le_of_ble_eq_true rfl) dJ10_copyOf_2_3 ?_
  refine zi_callS [.ref a, .int a1, .ref (x_mi g)] mJ10_copyOf_3 rfl q786 rfl rfl (Nat.le_of_ble_eq_true rfl) dJ10_copyOf_2_6 ?_
  refine z_K.of (by decide) rfl (Nat.le_of_ble_eq_true rfl) ?_
  refine zi_aload_n 2 dJ10_copyOf_3_0 rfl rfl ?_
  refine zi_ldcM q789 dJ10_copyOf_3_1 ?_
  refine zi_acmp_ne (rx := some (x_mi g)) (ry := some (x_mi g)) 13 dJ10_copyOf_3_3 (by decide) (fun c => absurd rfl c) (fun _ => ?_)
  refine zi_iload_n 1 dJ10_copyOf_3_6 rfl rfl ?_
  refine zi_anewE (t := 4) rfl (by decide) q790 q201 hi hb hp he dJ10_copyOf_3_7 ?_
  refine zi_goto 24 dJ10_copyOf_3_10 (by decide) ?_
  refine zi_astore_n (lc1 := [(3, _), (0, _), (1, _), (2, _)]) dJ10_copyOf_3_24 rfl (Nat.le_of_ble_eq_true rfl) rfl ?_
  refine zi_aload_n 1 dJ10_copyOf_3_25 rfl rfl ?_
  refine zi_iconst (v := 0) dJ10_copyOf_3_26 (by decide) ?_
  refine zi_aload_n 0 dJ10_copyOf_3_27 rfl rfl ?_
  refine zi_iconst (v := 0) dJ10_copyOf_3_28 (by decide) ?_
  refine zi_aload_n 1 dJ10_copyOf_3_29 rfl rfl ?_
  refine zi_alen (t := 4) (fun _ => hl) (by decide) dJ10_copyOf_3_30 ?_
  refine zi_iload_n 2 dJ10_copyOf_3_31 rfl rfl ?_
  refine zi_mathMin q388 (Nat.le_of_ble_eq_true rfl) dJ10_copyOf_3_32 ?_
  refine zi_acopy (o1 := some a) (o2 := some p) hac q391 (Nat.le_of_ble_eq_true rfl) dJ10_copyOf_3_35 ?_
  refine zi_aload_n 0 dJ10_copyOf_3_38 rfl rfl ?_
  refine zi_areturn rfl (Or.inr ⟨_, rfl⟩) dJ10_copyOf_3_39 ?_
  refine zi_areturn rfl (Or.inr ⟨_, rfl⟩) dJ10_copyOf_2_9 ?_
  exact hQ
theorem x_cl26 {c : Nat} {cs : List Nat} (h : c ∈ cs) (hc : ∀ c ∈ cs, c < 26) : c < 26 := hc c h
/-- Euclid -/
def D_X0_common_f : Nat → Int32 → Int32 → Option Int32
  | 0, _, _ => none
  | f + 1, a, b => if b = 0 then some a else D_X0_common_f f b (a - a / b * b)
def D_X0_common (a b : Int32) : Option Int32 := D_X0_common_f 40 a b
theorem w_X0_common_f {g : z_G} {d : Nat} {μ : z_M} : ∀ (f : Nat) (a b rz : Int32) (Q : z_O → z_M → Prop), D_X0_common_f f a b = some rz → Q (.inl (some (.int rz))) μ → z_K g (d + f) YX0_common [.int a, .int b] μ Q := by
  intro f
  induction f with
  | zero =>
    intro a b rz Q h
    exact absurd h (x_n _)
  | succ f ih =>
    intro a b rz Q h hQ
    refine z_K.of (by decide) rfl (Nat.le_of_ble_eq_true rfl) ?_
    refine zi_iload_n 1 dX0_common_0 rfl rfl ?_
    refine zi_if_ne 8 dX0_common_1 (by decide) (fun c => ?_) (fun c => ?_)
    · replace h : D_X0_common_f f b (a - a / b * b) = some rz := x_iF h c
      refine zi_iload_n 1 dX0_common_8 rfl rfl ?_
      refine zi_iload_n 0 dX0_common_9 rfl rfl ?_
      refine zi_iload_n 1 dX0_common_10 rfl rfl ?_
      refine zi_irem dX0_common_11 c ?_
      refine zi_callS [.int b, .int (a - a / b * b)] mX0_common rfl q1971 rfl rfl (Nat.le_of_ble_eq_true rfl) dX0_common_12 ?_
      refine ih _ _ _ _ h ?_
      refine zi_ireturn rfl rfl dX0_common_15 ?_
      exact hQ
    · replace h : some a = some rz := x_iT h c
      cases h
      refine zi_iload_n 0 dX0_common_4 rfl rfl ?_
      refine zi_goto 15 dX0_common_5 (by decide) ?_
      refine zi_ireturn rfl rfl dX0_common_15 ?_
      exact hQ
theorem w_X0_common {g : z_G} {d : Nat} {Q : z_O → z_M → Prop} {μ : z_M} {a0 a1 rz : Int32} (h : D_X0_common a0 a1 = some rz) (hQ : Q (.inl (some (.int rz))) μ) : z_K g (d + 40) YX0_common [.int a0, .int a1] μ Q := w_X0_common_f (d := d) 40 a0 a1 rz Q h hQ
