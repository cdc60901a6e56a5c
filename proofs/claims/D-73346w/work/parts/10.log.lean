/-! THE MEMORY LOGIC: what the machine does, said over a pure memory. z_V: 'from this point the method comes to its end with Q'; z_K: 'the call comes to its end with Q'. -/
set_option maxRecDepth 100000
/-- the classes whose objects are made: by their numbers -/
def vwCl : List vw_C := [(RX0, TX0, 2), (RX1, TX1, 7), (RX2, TX2, 87), (RJ2, TJ2, 3), (RX4, TX4, 10), (RX5, TX5, 7), (RX6, TX6, 9), (RX7, TX7, 8), (RX8, TX8, 4), (RX9, TX9, 9), (RX10, TX10, 4), (RX11, TX11, 5), (RX12, TX12, 12), (RX13, TX13, 4), (RX14, TX14, 7), (RX15, TX15, 9), (RX16, TX16, 3), (RX17, TX17, 10), (RX18, TX18, 7), (RX19, TX19, 6), (RX20, TX20, 3), (RX21, TX21, 2), (RJ5, TJ5, 4), (RJ6, TJ6, 4), (RJ19, TJ19, 1), (RJ20, TJ20, 4)]
abbrev z_C : Type := (Nat × vp_A) ⊕ (Nat × List Value)
abbrev z_M : Type := (Nat → Option z_C) × Nat × Nat
abbrev z_Y : Type := MethodName × ByteArray × Nat × Option FieldType × List (Nat × Nat × Nat × Nat)
abbrev z_O : Type := Option Value ⊕ Nat
abbrev z_G : Type := Launch × State × va_G × (Nat → ClassId) × (Nat → Nat)
/-- the kinds of arrays that are made -/
def z_ty : Nat → FieldType := fun k => match k with
  | 0 => .int
  | 1 => .byte
  | 2 => .boolean
  | 3 => .long
  | 4 => .object "java/lang/Object"
  | 5 => .object "AskedNames$State"
  | _ => .array .int
/-- the classes of the kinds of arrays; the addresses of constants -/
abbrev z_aC (g : z_G) : Nat → ClassId := g.2.2.2.1
abbrev z_ad (g : z_G) : Nat → Nat := g.2.2.2.2
def z_tys (g : z_G) : List (ClassId × FieldType) := [(z_aC g 0, z_ty 0), (z_aC g 1, z_ty 1), (z_aC g 2, z_ty 2), (z_aC g 3, z_ty 3), (z_aC g 4, z_ty 4), (z_aC g 5, z_ty 5), (z_aC g 6, z_ty 6)]
def z_e (g : z_G) (x : z_C) : va_E := match x with
  | .inl q => .inl (z_aC g q.1, q.2)
  | .inr o => .inr o
/-- the first address that the law's own run makes -/
def z_b (g : z_G) : Nat := g.2.1.heap.size
abbrev z_A (g : z_G) : Nat → Prop := fun q => z_b g ≤ q
/-- a static that nobody writes -/
def z_Z (g : z_G) (C n d : String) (v : Value) : Prop := va_Z C n d v (z_A g) g.2.1 g.2.1.heap
def z_OF (g : z_G) (o n d : String) (v : Value) (a : Nat) : Prop := va_OF o n d v a (z_A g) g.2.1 g.2.1.heap
def z_T (g : z_G) (ty : FieldType) (a N : Nat) (f : Nat → Value) : Prop := va_T ty a N f (z_A g) g.2.1 g.2.1.heap
/-- the words of the texts: nodes, life, room, link, route, serve; ask, fresh, wait, cut, mend; lost, got -/
def z_txt : List (List Int32) := [[110, 111, 100, 101, 115], [108, 105, 102, 101], [114, 111, 111, 109], [108, 105, 110, 107], [114, 111, 117, 116, 101], [115, 101, 114, 118, 101], [97, 115, 107], [102, 114, 101, 115, 104], [119, 97, 105, 116], [99, 117, 116], [109, 101, 110, 100], [108, 111, 115, 116], [103, 111, 116]]
/-- what the constants are: tokens 0.., doings 5.., texts 10.. with their bytes 30.., arrays 50.. -/
def z_cs (g : z_G) : Prop :=
  va_En "AskedNames$Token" "LAskedNames$Token;" ["WORD", "NUMBER", "SIGN", "END", "BAD"] [("java/lang/Enum", "ordinal", "I", [0, 1, 2, 3, 4])] (fun i => z_ad g i) (z_A g) g.2.1 g.2.1.heap ∧
  va_En "AskedNames$Doing" "LAskedNames$Doing;" ["ASK", "FRESH", "WAIT", "CUT", "MEND"] [("java/lang/Enum", "ordinal", "I", [0, 1, 2, 3, 4])] (fun i => z_ad g (5 + i)) (z_A g) g.2.1 g.2.1.heap ∧
  (∀ i : Nat, i < 13 → va_O "java/lang/String" (z_ad g (10 + i)) (z_A g) g.2.1 g.2.1.heap ∧ z_OF g "java/lang/String" "coder" "B" (.int 0) (z_ad g (10 + i)) ∧ z_OF g "java/lang/String" "value" "[B" (.ref (z_ad g (30 + i))) (z_ad g (10 + i)) ∧ z_T g .byte (z_ad g (30 + i)) (z_txt.getD i []).length (fun j => .int ((z_txt.getD i []).getD j 0))) ∧
  (z_Z g "AskedNames$NetReader" "NAMES" "[Ljava/lang/String;" (.ref (z_ad g 50)) ∧ z_T g (.object "java/lang/String") (z_ad g 50) 6 (fun j => .ref (z_ad g (10 + j)))) ∧
  (z_Z g "AskedNames$RunReader" "NAMES" "[Ljava/lang/String;" (.ref (z_ad g 51)) ∧ z_T g (.object "java/lang/String") (z_ad g 51) 5 (fun j => .ref (z_ad g (16 + j)))) ∧
  (z_Z g "AskedNames$LogReader" "NAMES" "[Ljava/lang/String;" (.ref (z_ad g 52)) ∧ z_T g (.object "java/lang/String") (z_ad g 52) 2 (fun j => .ref (z_ad g (21 + j)))) ∧
  (z_Z g "AskedNames" "DOINGS" "[LAskedNames$Doing;" (.ref (z_ad g 53)) ∧ z_T g (.object "AskedNames$Doing") (z_ad g 53) 5 (fun j => .ref (z_ad g (5 + j)))) ∧
  (z_Z g "java/util/ArrayList" "EMPTY_ELEMENTDATA" "[Ljava/lang/Object;" (.ref (z_ad g 54)) ∧ z_T g (.object "java/lang/Object") (z_ad g 54) 0 (fun _ => .null)) ∧
  (z_Z g "java/util/ArrayList" "DEFAULTCAPACITY_EMPTY_ELEMENTDATA" "[Ljava/lang/Object;" (.ref (z_ad g 55)) ∧ z_T g (.object "java/lang/Object") (z_ad g 55) 0 (fun _ => .null)) ∧ z_ad g 54 ≠ z_ad g 55 ∧
  z_Z g "java/lang/String" "COMPACT_STRINGS" "Z" (.int 1) ∧
  (vb_C (fun k => z_ad g (100 + k)) (z_A g) g.2.1 g.2.1.heap ∧ z_Z g "java/lang/Integer$IntegerCache" "cache" "[Ljava/lang/Integer;" (.ref (z_ad g 56)) ∧ z_T g (.object "java/lang/Integer") (z_ad g 56) 256 (fun j => .ref (z_ad g (100 + j))) ∧ z_Z g "java/lang/Integer$IntegerCache" "high" "I" (.int 127)) ∧
  (va_Zq "java/lang/Throwable" "UNASSIGNED_STACK" "[Ljava/lang/StackTraceElement;" (z_A g) g.2.1 g.2.1.heap ∧ va_Zq "java/lang/Throwable" "SUPPRESSED_SENTINEL" "Ljava/util/List;" (z_A g) g.2.1 g.2.1.heap ∧ va_Zq "jdk/internal/util/Preconditions" "SIOOBE_FORMATTER" "Ljava/util/function/BiFunction;" (z_A g) g.2.1 g.2.1.heap) ∧
  (∃ (kA : Class) (comp : ClassId), g.2.1.vm.classes[z_aC g 6]? = some kA ∧ kA.kind = .array comp (.array .int) ∧ g.2.1.vm.findClass "[I" = some comp) ∧
  (va_Nc "AskedNames$NoWay" "AskedNames$Refused" g.2.1 ∧ va_Nc "AskedNames$Loop" "AskedNames$Refused" g.2.1 ∧ va_Nc "AskedNames$NoWay" "AskedNames$Loop" g.2.1) ∧ va_Nc "AskedNames$Loop" "AskedNames$NoWay" g.2.1 ∧ va_Dc g.2.1 ∧ ∃ mi : Nat, va_Mi "[Ljava/lang/Object;" mi g.2.1
def z_ok (g : z_G) : Prop := g.1.stackTraces = false ∧ va_K g.2.2.1 vwCl (z_tys g) g.2.1 ∧ z_cs g ∧ ∀ w ∈ lw_tbl, w.onTables = true → w.before #[] g.2.1 = true
/-- the words that hold all through a run -/
def z_mv (w : Cond) : Bool := goodWord w || (match w with
  | .fieldLinkNest _ _ _ _ _ _ => true
  | .methodLinkNest _ _ _ _ => true
  | .castable _ _ => true
  | .declares _ => true
  | .arrayOver _ => true
  | _ => false)
def z_E (g : z_G) (U : State) : Prop := (∀ w ∈ lw_tbl, z_mv w = true → w.before #[] U = true) ∧ g.2.1.vm.Alike U.vm
def z_MH (g : z_G) (μ : z_M) (H : Heap) : Prop := H.size = μ.2.1 ∧ (z_b g ≤ μ.2.1 ∧ ∀ (a : Nat) (c : Cell), z_b g ≤ a → H[a]? = some c → c.monitor = {}) ∧ (∀ q : Nat, q < z_b g → H[q]? = g.2.1.heap[q]?) ∧ ∀ (a : Nat) (x : z_C), μ.1 a = some x → z_b g ≤ a ∧ (∀ q, x = .inl q → q.1 < 7) ∧ va_at g.2.2.1 vwCl (a, z_e g x) H
/-- an object of class C stands at b -/
def z_isA (g : z_G) (μ : z_M) (b : Nat) (C : String) : Prop := (∃ (ci : Nat) (fs : List Value) (T : u_T) (N : Nat), μ.1 b = some (.inr (ci, fs)) ∧ vwCl[ci]? = some (C, T, N)) ∨ (∃ (t : Nat) (x : vp_A), μ.1 b = some (.inl (t, x)) ∧ t < 4 ∧ C = "[" ++ (z_ty t).toString) ∨ va_O C b (z_A g) g.2.1 g.2.1.heap
def z_cw (Y : z_Y) : Cond := match Y.2.2.2.2 with
  | [] => Cond.code Y.1 Y.2.1 Y.2.2.1 Y.2.2.2.1
  | h :: hh => Cond.codeWith Y.1 Y.2.1 Y.2.2.1 Y.2.2.2.1 (h :: hh)
def z_ws (Y : z_Y) : List Cond := z_cw Y :: lw_all
def z_rm (d n k : Nat) : Room := { frames := d, cells := n, slots := k, locals := 100 * d }
def z_Pc (g : z_G) (As : List Value) (μ : z_M) : Array Value → State → Prop := fun a U => a = As.toArray ∧ z_E g U ∧ z_MH g μ U.heap
def z_Qc (g : z_G) (o : z_O) (μ : z_M) : Array Value → State → Outcome → State → Prop := fun _ _ oc t => (∃ v, o = .inl v ∧ oc = .returned v) ∧ z_MH g μ t.heap
def z_XC (g : z_G) (o : z_O) (μ : z_M) : String → Addr → State → State → Prop := fun E q _ t => o = .inr q ∧ z_isA g μ q E ∧ z_MH g μ t.heap
def z_Met (g : z_G) (d : Nat) (Y : z_Y) (As : List Value) (μ : z_M) (o : z_O) (μ' : z_M) : Prop :=
  z_ok g → vx_Met g.1 Y.1 (z_ws Y) (z_rm d (μ'.2.1 - μ.2.1) (μ'.2.2 - μ.2.2)) (z_Pc g As μ) (z_Qc g o μ') (z_XC g o μ') (μ'.2.1 - μ.2.1) (μ'.2.2 - μ.2.2) (fun q => z_b g ≤ q)
/-- the call of Y with As in the memory μ comes to its end with Q -/
def z_K (g : z_G) (d : Nat) (Y : z_Y) (As : List Value) (μ : z_M) (Q : z_O → z_M → Prop) : Prop :=
  ∃ (o : z_O) (μ' : z_M), Q o μ' ∧ μ.2.1 ≤ μ'.2.1 ∧ μ.2.2 ≤ μ'.2.2 ∧ z_Met g d Y As μ o μ'
/-- what holds all through the body of Y -/
def z_Cx (g : z_G) (d : Nat) (Y : z_Y) (p : Program) (R : Room) (s : State) (m : MethodId) (args : Array Value) (meth : Method) (c : Code) : Prop :=
  z_ok g ∧ z_E g s ∧ p.tables.exec = Jvm.exec ∧ c.code = Y.2.1 ∧ c.maxLocals = Y.2.2.1 ∧ meth.sig.returnType = Y.2.2.2.1 ∧ meth.locks = false ∧ s.vm.findClass Y.1.cls = some m.cls ∧ meth.name = Y.1.name ∧ (∀ w ∈ lw_all, w.before args s = true) ∧ c.exceptionTable.toList = tableOf Y.2.2.2.2 ∧ d ≤ R.frames ∧ 100 * d ≤ R.locals
def z_D (g : z_G) (d : Nat) (Y : z_Y) (pc : Nat) (lc : List (Nat × Value)) (st : List Value) (μ : z_M) (o : z_O) (μ' : z_M) : Prop :=
  ∀ (n0 k0 : Nat) (p : Program) (e : Env) (R : Room) (s : State) (m : MethodId) (args : Array Value) (below : List Frame) (meth : Method) (c : Code) (H : Heap) (locs : List Loc) (ls : Array Slot),
    z_Cx g d Y p R s m args meth c → n0 ≤ μ.2.1 → k0 ≤ μ.2.2 → μ'.2.1 - n0 ≤ R.cells → μ'.2.2 - k0 ≤ R.slots → lv_has ls Y.2.2.1 lc → z_MH g μ H → (∀ q ∈ locs, z_b g ≤ q.base) →
    W p g.1 e R s m args below meth c H locs (μ.2.1 - n0) (μ.2.2 - k0) (vx_MQ below (z_Qc g o μ') (z_XC g o μ') args s (μ'.2.1 - n0) (μ'.2.2 - k0) (fun q => z_b g ≤ q)) (F0 m pc ls st)
def z_DX (g : z_G) (d : Nat) (Y : z_Y) (pc : Nat) (lc : List (Nat × Value)) (q9 : Nat) (μ : z_M) (o : z_O) (μ' : z_M) : Prop :=
  ∀ (rest : List Value) (n0 k0 : Nat) (p : Program) (e : Env) (R : Room) (s : State) (m : MethodId) (args : Array Value) (below : List Frame) (meth : Method) (c : Code) (H : Heap) (locs : List Loc) (ls : Array Slot) (E : String) (ce : Cell),
    z_Cx g d Y p R s m args meth c → n0 ≤ μ.2.1 → k0 ≤ μ.2.2 → μ'.2.1 - n0 ≤ R.cells → μ'.2.2 - k0 ≤ R.slots → lv_has ls Y.2.2.1 lc → z_MH g μ H → (∀ q ∈ locs, z_b g ≤ q.base) → z_isA g μ q9 E → H[q9]? = some ce → ce.vm = .none → s.vm.findClass E = some ce.cls →
    vx_W p g.1 e R s m args below meth c H locs (μ.2.1 - n0) (μ.2.2 - k0) (vx_MQ below (z_Qc g o μ') (z_XC g o μ') args s (μ'.2.1 - n0) (μ'.2.2 - k0) (fun q => z_b g ≤ q)) (F0 m pc ls rest) q9
/-- the method Y, at pc with the locals lc and the operand stack st, in the memory μ, comes to its end with Q -/
def z_V (g : z_G) (d : Nat) (Y : z_Y) (pc : Nat) (lc : List (Nat × Value)) (st : List Value) (μ : z_M) (Q : z_O → z_M → Prop) : Prop :=
  ∃ (o : z_O) (μ' : z_M), Q o μ' ∧ μ.2.1 ≤ μ'.2.1 ∧ μ.2.2 ≤ μ'.2.2 ∧ z_D g d Y pc lc st μ o μ'
/-- .. with q9 thrown at pc -/
def z_X (g : z_G) (d : Nat) (Y : z_Y) (pc : Nat) (lc : List (Nat × Value)) (q9 : Nat) (μ : z_M) (Q : z_O → z_M → Prop) : Prop :=
  ∃ (o : z_O) (μ' : z_M), Q o μ' ∧ μ.2.1 ≤ μ'.2.1 ∧ μ.2.2 ≤ μ'.2.2 ∧ z_DX g d Y pc lc q9 μ o μ'
/-- how a call's end goes on in its caller -/
def z_ret (g : z_G) (d : Nat) (Y : z_Y) (pc pcX : Nat) (lc : List (Nat × Value)) (rest : List Value) (Q : z_O → z_M → Prop) (o : z_O) (μ : z_M) : Prop := match o with
  | .inl (some v) => z_V g d Y pc lc (v :: rest) μ Q
  | .inl none => z_V g d Y pc lc rest μ Q
  | .inr q => z_X g d Y pcX lc q μ Q
theorem z_K.mono {g : z_G} {d : Nat} {Y : z_Y} {As : List Value} {μ : z_M} {Q Q' : z_O → z_M → Prop} (h : z_K g d Y As μ Q) (hQ : ∀ o μ', Q o μ' → Q' o μ') : z_K g d Y As μ Q' := by
  obtain ⟨o, μ', h1, h2⟩ := h
  exact ⟨o, μ', hQ _ _ h1, h2⟩
theorem z_V.mono {g : z_G} {d pc : Nat} {Y : z_Y} {lc : List (Nat × Value)} {st : List Value} {μ : z_M} {Q Q' : z_O → z_M → Prop} (h : z_V g d Y pc lc st μ Q) (hQ : ∀ o μ', Q o μ' → Q' o μ') : z_V g d Y pc lc st μ Q' := by
  obtain ⟨o, μ', h1, h2⟩ := h
  exact ⟨o, μ', hQ _ _ h1, h2⟩
theorem z_findIdx {vm vm' : Vm} (h : vm.Alike vm') (f : Class → Bool) (hf : ∀ k : Class, f k.bare = f k) : vm'.classes.findIdx? f = vm.classes.findIdx? f := by
  have e : ∀ v : Vm, v.bare.classes.findIdx? f = v.classes.findIdx? f := fun v => by
    simp only [Vm.bare, Array.findIdx?_map]
    congr 1; funext k; exact hf k
  rw [← e vm', ← e vm, h.bare_eq]
theorem z_arrayOver {args : Array Value} {s : State} {vm' : Vm} (h : s.vm.Alike vm') (ty : FieldType) : (Cond.arrayOver ty).before args (s.setVm vm') = (Cond.arrayOver ty).before args s := by
  simp only [Cond.before, Cond.holds, Cond.value, State.vm_setVm, h.findClass]
  congr 1
  congr 1
  funext comp
  rw [z_findIdx h _ (fun k => rfl)]
  congr 1
  funext c
  exact h.class_map _ (fun k r _ _ => rfl) c
theorem z_arrayOverW {s U : State} {ty : FieldType} (hW : s.WarmedH U.vm) (h : (Cond.arrayOver ty).before #[] s = true) : (Cond.arrayOver ty).before #[] U = true := by
  have h9 := z_arrayOver (args := #[]) hW.alike ty
  rw [h] at h9
  simp only [Cond.before, Cond.holds, Cond.value, State.vm_setVm] at h9 ⊢
  exact h9
theorem z_wordsTbl : ∀ w ∈ lw_tbl, ∀ (s U : State), s.WarmedH U.vm → z_mv w = true → w.before #[] s = true → w.before #[] U = true := by
  intro w _ s U hW hm h
  unfold z_mv at hm
  rcases (Bool.or_eq_true _ _).mp hm with h1 | h1
  · exact word_at hW (good_of_word h1) h
  · cases w <;> first | exact va_Nw.warmF hW h | exact va_Nw.warmM hW h | exact va_Nw.warmC hW h | exact va_Nw.warmD hW h | exact z_arrayOverW hW h | exact absurd h1 (by simp)
theorem z_E.warm {g : z_G} {s U : State} (h : z_E g s) (hW : s.WarmedH U.vm) : z_E g U := ⟨fun w hw hm => z_wordsTbl w hw s U hW hm (h.1 w hw hm), h.2.trans hW.alike⟩
theorem z_Pc.blind {g : z_G} {As : List Value} {μ : z_M} : FrameBlind (z_Pc g As μ) := fun _ U _ _ h => ⟨h.1, h.2.1.warm (U := U.calling _ _ _) (State.WarmedH.refl U), h.2.2⟩
theorem z_kK {g : z_G} {s : State} (hok : z_ok g) (hE : z_E g s) : va_K g.2.2.1 vwCl (z_tys g) s := va_K.moved hE.2 hok.2.1
theorem z_kT {g : z_G} {s : State} (hK : va_K g.2.2.1 vwCl (z_tys g) s) {t : Nat} (ht : t < 7) : ArrOfT s (z_aC g t) (z_ty t) ∧ va_RA s (z_aC g t) (z_ty t) := by
  refine hK.2 t (z_aC g t, z_ty t) ?_
  rcases (show t = 0 ∨ t = 1 ∨ t = 2 ∨ t = 3 ∨ t = 4 ∨ t = 5 ∨ t = 6 by omega) with rfl | rfl | rfl | rfl | rfl | rfl | rfl <;> rfl
theorem z_cellA (cA : ClassId) (x : vp_A) : (vp_cell cA x).vm = .none ∧ (vp_cell cA x).cls = cA := by
  obtain ⟨n, f | f | f | f | f⟩ := x <;> exact ⟨rfl, rfl⟩
theorem z_isA.recv {g : z_G} {μ : z_M} {b : Nat} {C : String} {s : State} {H : Heap} (hok : z_ok g) (hE : z_E g s) (hM : z_MH g μ H) (h : z_isA g μ b C) : ∃ cell : Cell, H[b]? = some cell ∧ cell.vm.isStatics = false ∧ s.vm.findClass C = some cell.cls := by
  rcases h with ⟨ci, fs, T, N, h1, h2⟩ | ⟨t, x, h1, h2, h3⟩ | ⟨cell, h1, h2, h3, h4⟩
  · obtain ⟨-, -, r, h5, cell, q1, q2, q3, -⟩ := hM.2.2.2 b _ h1
    cases h5.symm.trans h2
    refine ⟨cell, q1, by rw [q3]; rfl, ?_⟩
    rw [q2, hE.2.findClass]
    exact (hok.2.1.1 ci _ h2).2.1
  · have q1 : H[b]? = some (vp_cell (z_aC g t) x) := (hM.2.2.2 b _ h1).2.2
    have hT := (z_kT (z_kK hok hE) (show t < 7 by omega)).2
    refine ⟨_, q1, by rw [(z_cellA _ _).1]; rfl, ?_⟩
    rw [(z_cellA _ _).2, h3]
    rcases (show t = 0 ∨ t = 1 ∨ t = 2 ∨ t = 3 by omega) with rfl | rfl | rfl | rfl <;> exact hT
  · have hb : b < z_b g := Nat.lt_of_not_le h4
    exact ⟨cell, by rw [hM.2.2.1 b hb]; exact h1, h2, by rw [hE.2.findClass]; exact h3⟩
section ZR
variable {g : z_G} {d : Nat} {Y : z_Y} {Q : z_O → z_M → Prop} {μ μ1 : z_M} {pc pc1 : Nat} {lc lc1 : List (Nat × Value)} {st st1 : List Value}
/-- a row that leaves the heap -/
theorem z_pure (k : z_V g d Y pc1 lc1 st1 μ Q)
    (h : ∀ (p : Program) (e : Env) (R : Room) (s : State) (m : MethodId) (args : Array Value) (below : List Frame) (meth : Method) (c : Code) (H : Heap) (locs : List Loc) (cells slots : Nat) (Qs : State → Prop) (ls : Array Slot),
      z_Cx g d Y p R s m args meth c → lv_has ls Y.2.2.1 lc → z_MH g μ H → (∀ ls1 : Array Slot, lv_has ls1 Y.2.2.1 lc1 → W p g.1 e R s m args below meth c H locs cells slots Qs (F0 m pc1 ls1 st1)) → W p g.1 e R s m args below meth c H locs cells slots Qs (F0 m pc ls st)) : z_V g d Y pc lc st μ Q := by
  obtain ⟨o, μ', hQ, h1, h2, hD⟩ := k
  refine ⟨o, μ', hQ, h1, h2, ?_⟩
  intro n0 k0 p e R s m args below meth c H locs ls C i1 i2 i3 i4 hl hM hL
  exact h p e R s m args below meth c H locs _ _ _ ls C hl hM (fun ls1 hl1 => hD n0 k0 p e R s m args below meth c H locs ls1 C i1 i2 i3 i4 hl1 hM hL)
/-- a row that writes one cell that was made before, or makes new ones -/
theorem z_heap (hn : μ.2.1 ≤ μ1.2.1) (hk : μ.2.2 ≤ μ1.2.2) (k : z_V g d Y pc1 lc st1 μ1 Q)
    (h : ∀ (p : Program) (e : Env) (R : Room) (s : State) (m : MethodId) (args : Array Value) (below : List Frame) (meth : Method) (c : Code) (H : Heap) (locs : List Loc) (cells slots : Nat) (Qs : State → Prop) (ls : Array Slot),
      z_Cx g d Y p R s m args meth c → lv_has ls Y.2.2.1 lc → z_MH g μ H → (∀ q ∈ locs, z_b g ≤ q.base) → cells + (μ1.2.1 - μ.2.1) ≤ R.cells → slots + (μ1.2.2 - μ.2.2) ≤ R.slots →
      (∀ (H1 : Heap) (locs1 : List Loc), z_MH g μ1 H1 → (∀ q ∈ locs1, z_b g ≤ q.base) → W p g.1 e R s m args below meth c H1 locs1 (cells + (μ1.2.1 - μ.2.1)) (slots + (μ1.2.2 - μ.2.2)) Qs (F0 m pc1 ls st1)) → W p g.1 e R s m args below meth c H locs cells slots Qs (F0 m pc ls st)) : z_V g d Y pc lc st μ Q := by
  obtain ⟨o, μ', hQ, h1, h2, hD⟩ := k
  refine ⟨o, μ', hQ, Nat.le_trans hn h1, Nat.le_trans hk h2, ?_⟩
  intro n0 k0 p e R s m args below meth c H locs ls C i1 i2 i3 i4 hl hM hL
  have e1 : (μ.2.1 - n0) + (μ1.2.1 - μ.2.1) = μ1.2.1 - n0 := by omega
  have e2 : (μ.2.2 - k0) + (μ1.2.2 - μ.2.2) = μ1.2.2 - k0 := by omega
  refine h p e R s m args below meth c H locs _ _ _ ls C hl hM hL (by rw [e1]; omega) (by rw [e2]; omega) (fun H1 locs1 hM1 hL1 => ?_)
  rw [e1, e2]
  exact hD n0 k0 p e R s m args below meth c H1 locs1 ls C (by omega) (by omega) i3 i4 hl hM1 hL1
end ZR
section ZS
variable {g : z_G} {d : Nat} {Y : z_Y} {Q : z_O → z_M → Prop} {μ : z_M} {pc : Nat} {lc : List (Nat × Value)} {rest : List Value}
theorem zi_iconst {n : Int} {v : Int32} (hd : decode Y.2.1 pc = .ok (.iconst n, 1)) (hv : Int32.ofInt n = v) (k : z_V g d Y (pc + 1) lc (.int v :: rest) μ Q) : z_V g d Y pc lc rest μ Q :=
  z_pure k fun _ _ _ _ _ _ _ _ _ _ _ _ _ _ _ C hl _ kk => lv_iconst C.2.2.1 C.2.2.2.1 hd hv (kk _ hl)
theorem zi_bipush {n : Int} {v : Int32} (hd : decode Y.2.1 pc = .ok (.bipush n, 2)) (hv : (Int8.ofInt n).toInt32 = v) (k : z_V g d Y (pc + 2) lc (.int v :: rest) μ Q) : z_V g d Y pc lc rest μ Q :=
  z_pure k fun _ _ _ _ _ _ _ _ _ _ _ _ _ _ _ C hl _ kk => lv_bipush C.2.2.1 C.2.2.2.1 hd hv (kk _ hl)
theorem zi_sipush {n : Int} {v : Int32} (hd : decode Y.2.1 pc = .ok (.sipush n, 3)) (hv : (Int16.ofInt n).toInt32 = v) (k : z_V g d Y (pc + 3) lc (.int v :: rest) μ Q) : z_V g d Y pc lc rest μ Q :=
  z_pure k fun _ _ _ _ _ _ _ _ _ _ _ _ _ _ _ C hl _ kk => lv_sipush C.2.2.1 C.2.2.2.1 hd hv (kk _ hl)
theorem zi_lconst {n : Fin 2} {v : Int64} (hd : decode Y.2.1 pc = .ok (.lconst n, 1)) (hv : Int64.ofNat (n : Nat) = v) (k : z_V g d Y (pc + 1) lc (.long v :: rest) μ Q) : z_V g d Y pc lc rest μ Q :=
  z_pure k fun _ _ _ _ _ _ _ _ _ _ _ _ _ _ _ C hl _ kk => lv_lconst C.2.2.1 C.2.2.2.1 hd hv (kk _ hl)
theorem zi_ldc {index : Nat} {v : Int32} (hq : Cond.constant Y.1.cls index v ∈ lw_all) (hd : decode Y.2.1 pc = .ok (.ldc index, 2)) (k : z_V g d Y (pc + 2) lc (.int v :: rest) μ Q) : z_V g d Y pc lc rest μ Q :=
  z_pure k fun _ _ _ _ _ _ _ _ _ _ _ _ _ _ _ C hl _ kk => lv_ldc C.2.2.1 C.2.2.2.1 C.2.2.2.2.2.2.2.1 (C.2.2.2.2.2.2.2.2.2.1 _ hq) hd (kk _ hl)
theorem zi_ldcw {index : Nat} {v : Int32} (hq : Cond.constant Y.1.cls index v ∈ lw_all) (hd : decode Y.2.1 pc = .ok (.ldc_w index, 3)) (k : z_V g d Y (pc + 3) lc (.int v :: rest) μ Q) : z_V g d Y pc lc rest μ Q :=
  z_pure k fun _ _ _ _ _ _ _ _ _ _ _ _ _ _ _ C hl _ kk => lv_ldcw C.2.2.1 C.2.2.2.1 C.2.2.2.2.2.2.2.1 (C.2.2.2.2.2.2.2.2.2.1 _ hq) hd (kk _ hl)
theorem zi_ldc2 {index : Nat} {v : Int64} (hq : Cond.constantLong Y.1.cls index v ∈ lw_all) (hd : decode Y.2.1 pc = .ok (.ldc2_w index, 3)) (k : z_V g d Y (pc + 3) lc (.long v :: rest) μ Q) : z_V g d Y pc lc rest μ Q :=
  z_pure k fun _ _ _ _ _ _ _ _ _ _ _ _ _ _ _ C hl _ kk => lv_ldc2 C.2.2.1 C.2.2.2.1 C.2.2.2.2.2.2.2.1 (C.2.2.2.2.2.2.2.2.2.1 _ hq) hd (kk _ hl)
theorem zi_null (hd : decode Y.2.1 pc = .ok (.aconst_null, 1)) (k : z_V g d Y (pc + 1) lc (.null :: rest) μ Q) : z_V g d Y pc lc rest μ Q :=
  z_pure k fun _ _ _ _ _ _ _ _ _ _ _ _ _ _ _ C hl _ kk => lv_null C.2.2.1 C.2.2.2.1 hd (kk _ hl)
theorem zi_iload_n {j : Fin 4} {i : Nat} {x : Int32} (n : Nat) (hd : decode Y.2.1 pc = .ok (.iload_n j, 1)) (hi : (j : Nat) = i) (hk : lc[n]? = some (i, .int x)) (k : z_V g d Y (pc + 1) lc (.int x :: rest) μ Q) : z_V g d Y pc lc rest μ Q :=
  z_pure k fun _ _ _ _ _ _ _ _ _ _ _ _ _ _ _ C hl _ kk => lv_iload_n C.2.2.1 C.2.2.2.1 hd hi (lv_at hl n hk) (kk _ hl)
theorem zi_iload {i : Nat} {x : Int32} (n : Nat) (hd : decode Y.2.1 pc = .ok (.iload i, 2)) (hk : lc[n]? = some (i, .int x)) (k : z_V g d Y (pc + 2) lc (.int x :: rest) μ Q) : z_V g d Y pc lc rest μ Q :=
  z_pure k fun _ _ _ _ _ _ _ _ _ _ _ _ _ _ _ C hl _ kk => lv_iload C.2.2.1 C.2.2.2.1 hd (lv_at hl n hk) (kk _ hl)
theorem zi_lload_n {j : Fin 4} {i : Nat} {x : Int64} (n : Nat) (hd : decode Y.2.1 pc = .ok (.lload_n j, 1)) (hi : (j : Nat) = i) (hk : lc[n]? = some (i, .long x)) (k : z_V g d Y (pc + 1) lc (.long x :: rest) μ Q) : z_V g d Y pc lc rest μ Q :=
  z_pure k fun _ _ _ _ _ _ _ _ _ _ _ _ _ _ _ C hl _ kk => lv_lload_n C.2.2.1 C.2.2.2.1 hd hi (lv_at hl n hk) (kk _ hl)
theorem zi_lload {i : Nat} {x : Int64} (n : Nat) (hd : decode Y.2.1 pc = .ok (.lload i, 2)) (hk : lc[n]? = some (i, .long x)) (k : z_V g d Y (pc + 2) lc (.long x :: rest) μ Q) : z_V g d Y pc lc rest μ Q :=
  z_pure k fun _ _ _ _ _ _ _ _ _ _ _ _ _ _ _ C hl _ kk => lv_lload C.2.2.1 C.2.2.2.1 hd (lv_at hl n hk) (kk _ hl)
theorem zi_aload_n {j : Fin 4} {i : Nat} {x : Nat} (n : Nat) (hd : decode Y.2.1 pc = .ok (.aload_n j, 1)) (hi : (j : Nat) = i) (hk : lc[n]? = some (i, .ref x)) (k : z_V g d Y (pc + 1) lc (.ref x :: rest) μ Q) : z_V g d Y pc lc rest μ Q :=
  z_pure k fun _ _ _ _ _ _ _ _ _ _ _ _ _ _ _ C hl _ kk => lv_aload_n C.2.2.1 C.2.2.2.1 hd hi (lv_at hl n hk) (kk _ hl)
theorem zi_aload {i : Nat} {x : Nat} (n : Nat) (hd : decode Y.2.1 pc = .ok (.aload i, 2)) (hk : lc[n]? = some (i, .ref x)) (k : z_V g d Y (pc + 2) lc (.ref x :: rest) μ Q) : z_V g d Y pc lc rest μ Q :=
  z_pure k fun _ _ _ _ _ _ _ _ _ _ _ _ _ _ _ C hl _ kk => lv_aload C.2.2.1 C.2.2.2.1 hd (lv_at hl n hk) (kk _ hl)
theorem zi_aload_nN {j : Fin 4} {i : Nat} (n : Nat) (hd : decode Y.2.1 pc = .ok (.aload_n j, 1)) (hi : (j : Nat) = i) (hk : lc[n]? = some (i, .null)) (k : z_V g d Y (pc + 1) lc (.null :: rest) μ Q) : z_V g d Y pc lc rest μ Q :=
  z_pure k fun _ _ _ _ _ _ _ _ _ _ _ _ _ _ _ C hl _ kk => lv_aload_nN C.2.2.1 C.2.2.2.1 hd hi (lv_at hl n hk) (kk _ hl)
theorem zi_aloadN {i : Nat} (n : Nat) (hd : decode Y.2.1 pc = .ok (.aload i, 2)) (hk : lc[n]? = some (i, .null)) (k : z_V g d Y (pc + 2) lc (.null :: rest) μ Q) : z_V g d Y pc lc rest μ Q :=
  z_pure k fun _ _ _ _ _ _ _ _ _ _ _ _ _ _ _ C hl _ kk => lv_aloadN C.2.2.1 C.2.2.2.1 hd (lv_at hl n hk) (kk _ hl)
/-- the locals behind a store of one slot -/
abbrev z_st1 (lc : List (Nat × Value)) (i : Nat) (v : Value) : List (Nat × Value) := (i, v) :: lc.filter (fun q => !(q.1 == i) && !(q.1 + 1 == i && q.2.category == 2))
abbrev z_st2 (lc : List (Nat × Value)) (i : Nat) (v : Value) : List (Nat × Value) := (i, v) :: lc.filter (fun q => !(q.1 == i) && (!(q.1 == i + 1) && !(q.1 + 1 == i && q.2.category == 2)))
theorem zi_istore_n {j : Fin 4} {i : Nat} {x : Int32} {lc1 : List (Nat × Value)} (hd : decode Y.2.1 pc = .ok (.istore_n j, 1)) (hi : (j : Nat) = i) (hn : i < Y.2.2.1) (hl1 : z_st1 lc i (.int x) = lc1) (k : z_V g d Y (pc + 1) lc1 rest μ Q) : z_V g d Y pc lc (.int x :: rest) μ Q :=
  z_pure k fun _ _ _ _ _ _ _ _ _ _ _ _ _ _ _ C hl _ kk => lv_istore_n C.2.2.1 C.2.2.2.1 hd hi hl hn hl1 kk
theorem zi_istore {i : Nat} {x : Int32} {lc1 : List (Nat × Value)} (hd : decode Y.2.1 pc = .ok (.istore i, 2)) (hn : i < Y.2.2.1) (hl1 : z_st1 lc i (.int x) = lc1) (k : z_V g d Y (pc + 2) lc1 rest μ Q) : z_V g d Y pc lc (.int x :: rest) μ Q :=
  z_pure k fun _ _ _ _ _ _ _ _ _ _ _ _ _ _ _ C hl _ kk => lv_istore C.2.2.1 C.2.2.2.1 hd hl hn hl1 kk
theorem zi_lstore_n {j : Fin 4} {i : Nat} {x : Int64} {lc1 : List (Nat × Value)} (hd : decode Y.2.1 pc = .ok (.lstore_n j, 1)) (hi : (j : Nat) = i) (hn : i + 1 < Y.2.2.1) (hl1 : z_st2 lc i (.long x) = lc1) (k : z_V g d Y (pc + 1) lc1 rest μ Q) : z_V g d Y pc lc (.long x :: rest) μ Q :=
  z_pure k fun _ _ _ _ _ _ _ _ _ _ _ _ _ _ _ C hl _ kk => lv_lstore_n C.2.2.1 C.2.2.2.1 hd hi hl hn hl1 kk
theorem zi_lstore {i : Nat} {x : Int64} {lc1 : List (Nat × Value)} (hd : decode Y.2.1 pc = .ok (.lstore i, 2)) (hn : i + 1 < Y.2.2.1) (hl1 : z_st2 lc i (.long x) = lc1) (k : z_V g d Y (pc + 2) lc1 rest μ Q) : z_V g d Y pc lc (.long x :: rest) μ Q :=
  z_pure k fun _ _ _ _ _ _ _ _ _ _ _ _ _ _ _ C hl _ kk => lv_lstore C.2.2.1 C.2.2.2.1 hd hl hn hl1 kk
theorem zi_astore_n {j : Fin 4} {i : Nat} {x : Nat} {lc1 : List (Nat × Value)} (hd : decode Y.2.1 pc = .ok (.astore_n j, 1)) (hi : (j : Nat) = i) (hn : i < Y.2.2.1) (hl1 : z_st1 lc i (.ref x) = lc1) (k : z_V g d Y (pc + 1) lc1 rest μ Q) : z_V g d Y pc lc (.ref x :: rest) μ Q :=
  z_pure k fun _ _ _ _ _ _ _ _ _ _ _ _ _ _ _ C hl _ kk => lv_astore_n C.2.2.1 C.2.2.2.1 hd hi hl hn hl1 kk
theorem zi_astore {i : Nat} {x : Nat} {lc1 : List (Nat × Value)} (hd : decode Y.2.1 pc = .ok (.astore i, 2)) (hn : i < Y.2.2.1) (hl1 : z_st1 lc i (.ref x) = lc1) (k : z_V g d Y (pc + 2) lc1 rest μ Q) : z_V g d Y pc lc (.ref x :: rest) μ Q :=
  z_pure k fun _ _ _ _ _ _ _ _ _ _ _ _ _ _ _ C hl _ kk => lv_astore C.2.2.1 C.2.2.2.1 hd hl hn hl1 kk
theorem zi_astore_nN {j : Fin 4} {i : Nat} {lc1 : List (Nat × Value)} (hd : decode Y.2.1 pc = .ok (.astore_n j, 1)) (hi : (j : Nat) = i) (hn : i < Y.2.2.1) (hl1 : z_st1 lc i .null = lc1) (k : z_V g d Y (pc + 1) lc1 rest μ Q) : z_V g d Y pc lc (.null :: rest) μ Q :=
  z_pure k fun _ _ _ _ _ _ _ _ _ _ _ _ _ _ _ C hl _ kk => lv_astore_nN C.2.2.1 C.2.2.2.1 hd hi hl hn hl1 kk
theorem zi_astoreN {i : Nat} {lc1 : List (Nat × Value)} (hd : decode Y.2.1 pc = .ok (.astore i, 2)) (hn : i < Y.2.2.1) (hl1 : z_st1 lc i .null = lc1) (k : z_V g d Y (pc + 2) lc1 rest μ Q) : z_V g d Y pc lc (.null :: rest) μ Q :=
  z_pure k fun _ _ _ _ _ _ _ _ _ _ _ _ _ _ _ C hl _ kk => lv_astoreN C.2.2.1 C.2.2.2.1 hd hl hn hl1 kk
theorem zi_iinc {i : Nat} {n : Int} {x v : Int32} {lc1 : List (Nat × Value)} (j : Nat) (hd : decode Y.2.1 pc = .ok (.iinc i n, 3)) (hk : lc[j]? = some (i, .int x)) (hv : x + Int32.ofInt n = v) (hn : i < Y.2.2.1) (hl1 : z_st1 lc i (.int v) = lc1) (k : z_V g d Y (pc + 3) lc1 rest μ Q) : z_V g d Y pc lc rest μ Q :=
  z_pure k fun _ _ _ _ _ _ _ _ _ _ _ _ _ _ _ C hl _ kk => lv_iinc C.2.2.1 C.2.2.2.1 hd hl hk hv hn hl1 kk
theorem zi_sub {lc1 : List (Nat × Value)} (ks : List Nat) (hl1 : lv_pick lc ks = lc1) (k : z_V g d Y pc lc1 rest μ Q) : z_V g d Y pc lc rest μ Q :=
  z_pure k fun _ _ _ _ _ _ _ _ _ _ _ _ _ _ _ _ hl _ kk => kk _ (lv_sub hl ks hl1)
theorem zi_iadd {x y : Int32} (hd : decode Y.2.1 pc = .ok (.iadd, 1)) (k : z_V g d Y (pc + 1) lc (.int (x + y) :: rest) μ Q) : z_V g d Y pc lc (.int y :: .int x :: rest) μ Q :=
  z_pure k fun _ _ _ _ _ _ _ _ _ _ _ _ _ _ _ C hl _ kk => lv_iadd C.2.2.1 C.2.2.2.1 hd (kk _ hl)
theorem zi_isub {x y : Int32} (hd : decode Y.2.1 pc = .ok (.isub, 1)) (k : z_V g d Y (pc + 1) lc (.int (x - y) :: rest) μ Q) : z_V g d Y pc lc (.int y :: .int x :: rest) μ Q :=
  z_pure k fun _ _ _ _ _ _ _ _ _ _ _ _ _ _ _ C hl _ kk => lv_isub C.2.2.1 C.2.2.2.1 hd (kk _ hl)
theorem zi_imul {x y : Int32} (hd : decode Y.2.1 pc = .ok (.imul, 1)) (k : z_V g d Y (pc + 1) lc (.int (x * y) :: rest) μ Q) : z_V g d Y pc lc (.int y :: .int x :: rest) μ Q :=
  z_pure k fun _ _ _ _ _ _ _ _ _ _ _ _ _ _ _ C hl _ kk => lv_imul C.2.2.1 C.2.2.2.1 hd (kk _ hl)
theorem zi_iand {x y : Int32} (hd : decode Y.2.1 pc = .ok (.iand, 1)) (k : z_V g d Y (pc + 1) lc (.int (x &&& y) :: rest) μ Q) : z_V g d Y pc lc (.int y :: .int x :: rest) μ Q :=
  z_pure k fun _ _ _ _ _ _ _ _ _ _ _ _ _ _ _ C hl _ kk => lv_iand C.2.2.1 C.2.2.2.1 hd (kk _ hl)
theorem zi_ior {x y : Int32} (hd : decode Y.2.1 pc = .ok (.ior, 1)) (k : z_V g d Y (pc + 1) lc (.int (x ||| y) :: rest) μ Q) : z_V g d Y pc lc (.int y :: .int x :: rest) μ Q :=
  z_pure k fun _ _ _ _ _ _ _ _ _ _ _ _ _ _ _ C hl _ kk => lv_ior C.2.2.1 C.2.2.2.1 hd (kk _ hl)
theorem zi_ixor {x y : Int32} (hd : decode Y.2.1 pc = .ok (.ixor, 1)) (k : z_V g d Y (pc + 1) lc (.int (x ^^^ y) :: rest) μ Q) : z_V g d Y pc lc (.int y :: .int x :: rest) μ Q :=
  z_pure k fun _ _ _ _ _ _ _ _ _ _ _ _ _ _ _ C hl _ kk => lv_ixor C.2.2.1 C.2.2.2.1 hd (kk _ hl)
theorem zi_ishl {x y : Int32} (hd : decode Y.2.1 pc = .ok (.ishl, 1)) (k : z_V g d Y (pc + 1) lc (.int (x <<< (y &&& 31)) :: rest) μ Q) : z_V g d Y pc lc (.int y :: .int x :: rest) μ Q :=
  z_pure k fun _ _ _ _ _ _ _ _ _ _ _ _ _ _ _ C hl _ kk => lv_ishl C.2.2.1 C.2.2.2.1 hd (kk _ hl)
theorem zi_ishr {x y : Int32} (hd : decode Y.2.1 pc = .ok (.ishr, 1)) (k : z_V g d Y (pc + 1) lc (.int (x >>> (y &&& 31)) :: rest) μ Q) : z_V g d Y pc lc (.int y :: .int x :: rest) μ Q :=
  z_pure k fun _ _ _ _ _ _ _ _ _ _ _ _ _ _ _ C hl _ kk => lv_ishr C.2.2.1 C.2.2.2.1 hd (kk _ hl)
theorem zi_idiv {x y : Int32} (hd : decode Y.2.1 pc = .ok (.idiv, 1)) (hne : ¬ y = 0) (k : z_V g d Y (pc + 1) lc (.int (x / y) :: rest) μ Q) : z_V g d Y pc lc (.int y :: .int x :: rest) μ Q :=
  z_pure k fun _ _ _ _ _ _ _ _ _ _ _ _ _ _ _ C hl _ kk => lv_idiv C.2.2.1 C.2.2.2.1 hd hne (kk _ hl)
theorem zi_irem {x y : Int32} (hd : decode Y.2.1 pc = .ok (.irem, 1)) (hne : ¬ y = 0) (k : z_V g d Y (pc + 1) lc (.int (x - x / y * y) :: rest) μ Q) : z_V g d Y pc lc (.int y :: .int x :: rest) μ Q :=
  z_pure k fun _ _ _ _ _ _ _ _ _ _ _ _ _ _ _ C hl _ kk => lv_irem C.2.2.1 C.2.2.2.1 hd hne (kk _ hl)
theorem zi_ineg {x : Int32} (hd : decode Y.2.1 pc = .ok (.ineg, 1)) (k : z_V g d Y (pc + 1) lc (.int (-x) :: rest) μ Q) : z_V g d Y pc lc (.int x :: rest) μ Q :=
  z_pure k fun _ _ _ _ _ _ _ _ _ _ _ _ _ _ _ C hl _ kk => lv_ineg C.2.2.1 C.2.2.2.1 hd (kk _ hl)
theorem zi_ladd {x y : Int64} (hd : decode Y.2.1 pc = .ok (.ladd, 1)) (k : z_V g d Y (pc + 1) lc (.long (x + y) :: rest) μ Q) : z_V g d Y pc lc (.long y :: .long x :: rest) μ Q :=
  z_pure k fun _ _ _ _ _ _ _ _ _ _ _ _ _ _ _ C hl _ kk => lv_ladd C.2.2.1 C.2.2.2.1 hd (kk _ hl)
theorem zi_lsub {x y : Int64} (hd : decode Y.2.1 pc = .ok (.lsub, 1)) (k : z_V g d Y (pc + 1) lc (.long (x - y) :: rest) μ Q) : z_V g d Y pc lc (.long y :: .long x :: rest) μ Q :=
  z_pure k fun _ _ _ _ _ _ _ _ _ _ _ _ _ _ _ C hl _ kk => lv_lsub C.2.2.1 C.2.2.2.1 hd (kk _ hl)
theorem zi_lmul {x y : Int64} (hd : decode Y.2.1 pc = .ok (.lmul, 1)) (k : z_V g d Y (pc + 1) lc (.long (x * y) :: rest) μ Q) : z_V g d Y pc lc (.long y :: .long x :: rest) μ Q :=
  z_pure k fun _ _ _ _ _ _ _ _ _ _ _ _ _ _ _ C hl _ kk => lv_lmul C.2.2.1 C.2.2.2.1 hd (kk _ hl)
theorem zi_land {x y : Int64} (hd : decode Y.2.1 pc = .ok (.land, 1)) (k : z_V g d Y (pc + 1) lc (.long (x &&& y) :: rest) μ Q) : z_V g d Y pc lc (.long y :: .long x :: rest) μ Q :=
  z_pure k fun _ _ _ _ _ _ _ _ _ _ _ _ _ _ _ C hl _ kk => lv_land C.2.2.1 C.2.2.2.1 hd (kk _ hl)
theorem zi_lor {x y : Int64} (hd : decode Y.2.1 pc = .ok (.lor, 1)) (k : z_V g d Y (pc + 1) lc (.long (x ||| y) :: rest) μ Q) : z_V g d Y pc lc (.long y :: .long x :: rest) μ Q :=
  z_pure k fun _ _ _ _ _ _ _ _ _ _ _ _ _ _ _ C hl _ kk => lv_lor C.2.2.1 C.2.2.2.1 hd (kk _ hl)
theorem zi_lxor {x y : Int64} (hd : decode Y.2.1 pc = .ok (.lxor, 1)) (k : z_V g d Y (pc + 1) lc (.long (x ^^^ y) :: rest) μ Q) : z_V g d Y pc lc (.long y :: .long x :: rest) μ Q :=
  z_pure k fun _ _ _ _ _ _ _ _ _ _ _ _ _ _ _ C hl _ kk => lv_lxor C.2.2.1 C.2.2.2.1 hd (kk _ hl)
theorem zi_iushr {x y v : Int32} (hd : decode Y.2.1 pc = .ok (.iushr, 1)) (hv : (x.toUInt32 >>> (y.toUInt32 &&& Int32.toUInt32 31)).toInt32 = v) (k : z_V g d Y (pc + 1) lc (.int v :: rest) μ Q) : z_V g d Y pc lc (.int y :: .int x :: rest) μ Q :=
  z_pure k fun _ _ _ _ _ _ _ _ _ _ _ _ _ _ _ C hl _ kk => lv_iushr C.2.2.1 C.2.2.2.1 hd hv (kk _ hl)
theorem zi_lushr {x v : Int64} {y : Int32} (hd : decode Y.2.1 pc = .ok (.lushr, 1)) (hv : (x.toUInt64 >>> (y.toInt64.toUInt64 &&& Int64.toUInt64 63)).toInt64 = v) (k : z_V g d Y (pc + 1) lc (.long v :: rest) μ Q) : z_V g d Y pc lc (.int y :: .long x :: rest) μ Q :=
  z_pure k fun _ _ _ _ _ _ _ _ _ _ _ _ _ _ _ C hl _ kk => lv_lushr C.2.2.1 C.2.2.2.1 hd hv (kk _ hl)
theorem zi_lshl {x v : Int64} {y : Int32} (hd : decode Y.2.1 pc = .ok (.lshl, 1)) (hv : x <<< (y.toInt64 &&& 63) = v) (k : z_V g d Y (pc + 1) lc (.long v :: rest) μ Q) : z_V g d Y pc lc (.int y :: .long x :: rest) μ Q :=
  z_pure k fun _ _ _ _ _ _ _ _ _ _ _ _ _ _ _ C hl _ kk => lv_lshl C.2.2.1 C.2.2.2.1 hd hv (kk _ hl)
theorem zi_lshr {x v : Int64} {y : Int32} (hd : decode Y.2.1 pc = .ok (.lshr, 1)) (hv : x >>> (y.toInt64 &&& 63) = v) (k : z_V g d Y (pc + 1) lc (.long v :: rest) μ Q) : z_V g d Y pc lc (.int y :: .long x :: rest) μ Q :=
  z_pure k fun _ _ _ _ _ _ _ _ _ _ _ _ _ _ _ C hl _ kk => lv_lshr C.2.2.1 C.2.2.2.1 hd hv (kk _ hl)
theorem zi_i2l {x : Int32} {v : Int64} (hd : decode Y.2.1 pc = .ok (.i2l, 1)) (hv : x.toInt64 = v) (k : z_V g d Y (pc + 1) lc (.long v :: rest) μ Q) : z_V g d Y pc lc (.int x :: rest) μ Q :=
  z_pure k fun _ _ _ _ _ _ _ _ _ _ _ _ _ _ _ C hl _ kk => lv_i2l C.2.2.1 C.2.2.2.1 hd hv (kk _ hl)
theorem zi_l2i {x : Int64} {v : Int32} (hd : decode Y.2.1 pc = .ok (.l2i, 1)) (hv : x.toInt32 = v) (k : z_V g d Y (pc + 1) lc (.int v :: rest) μ Q) : z_V g d Y pc lc (.long x :: rest) μ Q :=
  z_pure k fun _ _ _ _ _ _ _ _ _ _ _ _ _ _ _ C hl _ kk => lv_l2i C.2.2.1 C.2.2.2.1 hd hv (kk _ hl)
theorem zi_i2b {x v : Int32} (hd : decode Y.2.1 pc = .ok (.i2b, 1)) (hv : x.toInt8.toInt32 = v) (k : z_V g d Y (pc + 1) lc (.int v :: rest) μ Q) : z_V g d Y pc lc (.int x :: rest) μ Q :=
  z_pure k fun _ _ _ _ _ _ _ _ _ _ _ _ _ _ _ C hl _ kk => lv_i2b C.2.2.1 C.2.2.2.1 hd hv (kk _ hl)
theorem zi_i2c {x v : Int32} (hd : decode Y.2.1 pc = .ok (.i2c, 1)) (hv : (x.toUInt32 % 65536).toInt32 = v) (k : z_V g d Y (pc + 1) lc (.int v :: rest) μ Q) : z_V g d Y pc lc (.int x :: rest) μ Q :=
  z_pure k fun _ _ _ _ _ _ _ _ _ _ _ _ _ _ _ C hl _ kk => lv_i2c C.2.2.1 C.2.2.2.1 hd hv (kk _ hl)
theorem zi_lcmp {x y : Int64} (hd : decode Y.2.1 pc = .ok (.lcmp, 1)) (k : z_V g d Y (pc + 1) lc (.int (lg_cmp x y) :: rest) μ Q) : z_V g d Y pc lc (.long y :: .long x :: rest) μ Q :=
  z_pure k fun _ _ _ _ _ _ _ _ _ _ _ _ _ _ _ C hl _ kk => W.lcmp C.2.2.1 C.2.2.2.1 hd (kk _ hl)
theorem zi_dup {va : Value} (hd : decode Y.2.1 pc = .ok (.dup, 1)) (hva : va.category = 1) (k : z_V g d Y (pc + 1) lc (va :: va :: rest) μ Q) : z_V g d Y pc lc (va :: rest) μ Q :=
  z_pure k fun _ _ _ _ _ _ _ _ _ _ _ _ _ _ _ C hl _ kk => lv_dup C.2.2.1 C.2.2.2.1 hd hva (kk _ hl)
theorem zi_pop {va : Value} (hd : decode Y.2.1 pc = .ok (.pop, 1)) (hva : va.category = 1) (k : z_V g d Y (pc + 1) lc (rest) μ Q) : z_V g d Y pc lc (va :: rest) μ Q :=
  z_pure k fun _ _ _ _ _ _ _ _ _ _ _ _ _ _ _ C hl _ kk => lv_pop C.2.2.1 C.2.2.2.1 hd hva (kk _ hl)
theorem zi_dup_x1 {va vb : Value} (hd : decode Y.2.1 pc = .ok (.dup_x1, 1)) (hva : va.category = 1) (hvb : vb.category = 1) (k : z_V g d Y (pc + 1) lc (va :: vb :: va :: rest) μ Q) : z_V g d Y pc lc (va :: vb :: rest) μ Q :=
  z_pure k fun _ _ _ _ _ _ _ _ _ _ _ _ _ _ _ C hl _ kk => lv_dup_x1 C.2.2.1 C.2.2.2.1 hd hva hvb (kk _ hl)
theorem zi_dup_x2 {va vb vd : Value} (hd : decode Y.2.1 pc = .ok (.dup_x2, 1)) (hva : va.category = 1) (hvb : vb.category = 1) (hvd : vd.category = 1) (k : z_V g d Y (pc + 1) lc (va :: vb :: vd :: va :: rest) μ Q) : z_V g d Y pc lc (va :: vb :: vd :: rest) μ Q :=
  z_pure k fun _ _ _ _ _ _ _ _ _ _ _ _ _ _ _ C hl _ kk => lv_dup_x2 C.2.2.1 C.2.2.2.1 hd hva hvb hvd (kk _ hl)
theorem zi_dup2_11 {va vb : Value} (hd : decode Y.2.1 pc = .ok (.dup2, 1)) (hva : va.category = 1) (hvb : vb.category = 1) (k : z_V g d Y (pc + 1) lc (va :: vb :: va :: vb :: rest) μ Q) : z_V g d Y pc lc (va :: vb :: rest) μ Q :=
  z_pure k fun _ _ _ _ _ _ _ _ _ _ _ _ _ _ _ C hl _ kk => lv_dup2_11 C.2.2.1 C.2.2.2.1 hd hva hvb (kk _ hl)
theorem zi_dup2_2 {va : Value} (hd : decode Y.2.1 pc = .ok (.dup2, 1)) (hva : va.category = 2) (k : z_V g d Y (pc + 1) lc (va :: va :: rest) μ Q) : z_V g d Y pc lc (va :: rest) μ Q :=
  z_pure k fun _ _ _ _ _ _ _ _ _ _ _ _ _ _ _ C hl _ kk => lv_dup2_2 C.2.2.1 C.2.2.2.1 hd hva (kk _ hl)
theorem zi_pop2_2 {va : Value} (hd : decode Y.2.1 pc = .ok (.pop2, 1)) (hva : va.category = 2) (k : z_V g d Y (pc + 1) lc (rest) μ Q) : z_V g d Y pc lc (va :: rest) μ Q :=
  z_pure k fun _ _ _ _ _ _ _ _ _ _ _ _ _ _ _ C hl _ kk => lv_pop2_2 C.2.2.1 C.2.2.2.1 hd hva (kk _ hl)
theorem zi_dup2_x1_2 {va vb : Value} (hd : decode Y.2.1 pc = .ok (.dup2_x1, 1)) (hva : va.category = 2) (hvb : vb.category = 1) (k : z_V g d Y (pc + 1) lc (va :: vb :: va :: rest) μ Q) : z_V g d Y pc lc (va :: vb :: rest) μ Q :=
  z_pure k fun _ _ _ _ _ _ _ _ _ _ _ _ _ _ _ C hl _ kk => lv_dup2_x1_2 C.2.2.1 C.2.2.2.1 hd hva hvb (kk _ hl)
theorem zi_dup2_x2_2 {va vb vd : Value} (hd : decode Y.2.1 pc = .ok (.dup2_x2, 1)) (hva : va.category = 2) (hvb : vb.category = 1) (hvd : vd.category = 1) (k : z_V g d Y (pc + 1) lc (va :: vb :: vd :: va :: rest) μ Q) : z_V g d Y pc lc (va :: vb :: vd :: rest) μ Q :=
  z_pure k fun _ _ _ _ _ _ _ _ _ _ _ _ _ _ _ C hl _ kk => lv_dup2_x2_2 C.2.2.1 C.2.2.2.1 hd hva hvb hvd (kk _ hl)
theorem zi_if_eq {x : Int32} {off : Int} (tgt : Nat) (hd : decode Y.2.1 pc = .ok (.ifCond .eq off, 3)) (ht : (pc : Int) + off = (tgt : Int)) (kt : x = 0 → z_V g d Y tgt lc rest μ Q) (kf : ¬ x = 0 → z_V g d Y (pc + 3) lc rest μ Q) : z_V g d Y pc lc (.int x :: rest) μ Q := by
  by_cases h : x = 0
  · exact z_pure (kt h) fun _ _ _ _ _ _ _ _ _ _ _ _ _ _ _ C hl _ kk => lv_if_eq C.2.2.1 C.2.2.2.1 hd ht (fun _ => kk _ hl) (fun n => absurd h n)
  · exact z_pure (kf h) fun _ _ _ _ _ _ _ _ _ _ _ _ _ _ _ C hl _ kk => lv_if_eq C.2.2.1 C.2.2.2.1 hd ht (fun n => absurd n h) (fun _ => kk _ hl)
theorem zi_icmp_eq {x y : Int32} {off : Int} (tgt : Nat) (hd : decode Y.2.1 pc = .ok (.if_icmp .eq off, 3)) (ht : (pc : Int) + off = (tgt : Int)) (kt : x = y → z_V g d Y tgt lc rest μ Q) (kf : ¬ x = y → z_V g d Y (pc + 3) lc rest μ Q) : z_V g d Y pc lc (.int y :: .int x :: rest) μ Q := by
  by_cases h : x = y
  · exact z_pure (kt h) fun _ _ _ _ _ _ _ _ _ _ _ _ _ _ _ C hl _ kk => lv_icmp_eq C.2.2.1 C.2.2.2.1 hd ht (fun _ => kk _ hl) (fun n => absurd h n)
  · exact z_pure (kf h) fun _ _ _ _ _ _ _ _ _ _ _ _ _ _ _ C hl _ kk => lv_icmp_eq C.2.2.1 C.2.2.2.1 hd ht (fun n => absurd n h) (fun _ => kk _ hl)
theorem zi_if_ne {x : Int32} {off : Int} (tgt : Nat) (hd : decode Y.2.1 pc = .ok (.ifCond .ne off, 3)) (ht : (pc : Int) + off = (tgt : Int)) (kt : ¬ x = 0 → z_V g d Y tgt lc rest μ Q) (kf : x = 0 → z_V g d Y (pc + 3) lc rest μ Q) : z_V g d Y pc lc (.int x :: rest) μ Q := by
  by_cases h : x = 0
  · exact z_pure (kf h) fun _ _ _ _ _ _ _ _ _ _ _ _ _ _ _ C hl _ kk => lv_if_ne C.2.2.1 C.2.2.2.1 hd ht (fun n => absurd h n) (fun _ => kk _ hl)
  · exact z_pure (kt h) fun _ _ _ _ _ _ _ _ _ _ _ _ _ _ _ C hl _ kk => lv_if_ne C.2.2.1 C.2.2.2.1 hd ht (fun _ => kk _ hl) (fun n => absurd n h)
theorem zi_icmp_ne {x y : Int32} {off : Int} (tgt : Nat) (hd : decode Y.2.1 pc = .ok (.if_icmp .ne off, 3)) (ht : (pc : Int) + off = (tgt : Int)) (kt : ¬ x = y → z_V g d Y tgt lc rest μ Q) (kf : x = y → z_V g d Y (pc + 3) lc rest μ Q) : z_V g d Y pc lc (.int y :: .int x :: rest) μ Q := by
  by_cases h : x = y
  · exact z_pure (kf h) fun _ _ _ _ _ _ _ _ _ _ _ _ _ _ _ C hl _ kk => lv_icmp_ne C.2.2.1 C.2.2.2.1 hd ht (fun n => absurd h n) (fun _ => kk _ hl)
  · exact z_pure (kt h) fun _ _ _ _ _ _ _ _ _ _ _ _ _ _ _ C hl _ kk => lv_icmp_ne C.2.2.1 C.2.2.2.1 hd ht (fun _ => kk _ hl) (fun n => absurd n h)
theorem zi_if_lt {x : Int32} {off : Int} (tgt : Nat) (hd : decode Y.2.1 pc = .ok (.ifCond .lt off, 3)) (ht : (pc : Int) + off = (tgt : Int)) (kt : x < 0 → z_V g d Y tgt lc rest μ Q) (kf : ¬ x < 0 → z_V g d Y (pc + 3) lc rest μ Q) : z_V g d Y pc lc (.int x :: rest) μ Q := by
  by_cases h : x < 0
  · exact z_pure (kt h) fun _ _ _ _ _ _ _ _ _ _ _ _ _ _ _ C hl _ kk => lv_if_lt C.2.2.1 C.2.2.2.1 hd ht (fun _ => kk _ hl) (fun n => absurd h n)
  · exact z_pure (kf h) fun _ _ _ _ _ _ _ _ _ _ _ _ _ _ _ C hl _ kk => lv_if_lt C.2.2.1 C.2.2.2.1 hd ht (fun n => absurd n h) (fun _ => kk _ hl)
theorem zi_icmp_lt {x y : Int32} {off : Int} (tgt : Nat) (hd : decode Y.2.1 pc = .ok (.if_icmp .lt off, 3)) (ht : (pc : Int) + off = (tgt : Int)) (kt : x < y → z_V g d Y tgt lc rest μ Q) (kf : ¬ x < y → z_V g d Y (pc + 3) lc rest μ Q) : z_V g d Y pc lc (.int y :: .int x :: rest) μ Q := by
  by_cases h : x < y
  · exact z_pure (kt h) fun _ _ _ _ _ _ _ _ _ _ _ _ _ _ _ C hl _ kk => lv_icmp_lt C.2.2.1 C.2.2.2.1 hd ht (fun _ => kk _ hl) (fun n => absurd h n)
  · exact z_pure (kf h) fun _ _ _ _ _ _ _ _ _ _ _ _ _ _ _ C hl _ kk => lv_icmp_lt C.2.2.1 C.2.2.2.1 hd ht (fun n => absurd n h) (fun _ => kk _ hl)
theorem zi_if_ge {x : Int32} {off : Int} (tgt : Nat) (hd : decode Y.2.1 pc = .ok (.ifCond .ge off, 3)) (ht : (pc : Int) + off = (tgt : Int)) (kt : 0 ≤ x → z_V g d Y tgt lc rest μ Q) (kf : ¬ 0 ≤ x → z_V g d Y (pc + 3) lc rest μ Q) : z_V g d Y pc lc (.int x :: rest) μ Q := by
  by_cases h : 0 ≤ x
  · exact z_pure (kt h) fun _ _ _ _ _ _ _ _ _ _ _ _ _ _ _ C hl _ kk => lv_if_ge C.2.2.1 C.2.2.2.1 hd ht (fun _ => kk _ hl) (fun n => absurd h n)
  · exact z_pure (kf h) fun _ _ _ _ _ _ _ _ _ _ _ _ _ _ _ C hl _ kk => lv_if_ge C.2.2.1 C.2.2.2.1 hd ht (fun n => absurd n h) (fun _ => kk _ hl)
theorem zi_icmp_ge {x y : Int32} {off : Int} (tgt : Nat) (hd : decode Y.2.1 pc = .ok (.if_icmp .ge off, 3)) (ht : (pc : Int) + off = (tgt : Int)) (kt : y ≤ x → z_V g d Y tgt lc rest μ Q) (kf : ¬ y ≤ x → z_V g d Y (pc + 3) lc rest μ Q) : z_V g d Y pc lc (.int y :: .int x :: rest) μ Q := by
  by_cases h : y ≤ x
  · exact z_pure (kt h) fun _ _ _ _ _ _ _ _ _ _ _ _ _ _ _ C hl _ kk => lv_icmp_ge C.2.2.1 C.2.2.2.1 hd ht (fun _ => kk _ hl) (fun n => absurd h n)
  · exact z_pure (kf h) fun _ _ _ _ _ _ _ _ _ _ _ _ _ _ _ C hl _ kk => lv_icmp_ge C.2.2.1 C.2.2.2.1 hd ht (fun n => absurd n h) (fun _ => kk _ hl)
theorem zi_if_gt {x : Int32} {off : Int} (tgt : Nat) (hd : decode Y.2.1 pc = .ok (.ifCond .gt off, 3)) (ht : (pc : Int) + off = (tgt : Int)) (kt : 0 < x → z_V g d Y tgt lc rest μ Q) (kf : ¬ 0 < x → z_V g d Y (pc + 3) lc rest μ Q) : z_V g d Y pc lc (.int x :: rest) μ Q := by
  by_cases h : 0 < x
  · exact z_pure (kt h) fun _ _ _ _ _ _ _ _ _ _ _ _ _ _ _ C hl _ kk => lv_if_gt C.2.2.1 C.2.2.2.1 hd ht (fun _ => kk _ hl) (fun n => absurd h n)
  · exact z_pure (kf h) fun _ _ _ _ _ _ _ _ _ _ _ _ _ _ _ C hl _ kk => lv_if_gt C.2.2.1 C.2.2.2.1 hd ht (fun n => absurd n h) (fun _ => kk _ hl)
theorem zi_icmp_gt {x y : Int32} {off : Int} (tgt : Nat) (hd : decode Y.2.1 pc = .ok (.if_icmp .gt off, 3)) (ht : (pc : Int) + off = (tgt : Int)) (kt : y < x → z_V g d Y tgt lc rest μ Q) (kf : ¬ y < x → z_V g d Y (pc + 3) lc rest μ Q) : z_V g d Y pc lc (.int y :: .int x :: rest) μ Q := by
  by_cases h : y < x
  · exact z_pure (kt h) fun _ _ _ _ _ _ _ _ _ _ _ _ _ _ _ C hl _ kk => lv_icmp_gt C.2.2.1 C.2.2.2.1 hd ht (fun _ => kk _ hl) (fun n => absurd h n)
  · exact z_pure (kf h) fun _ _ _ _ _ _ _ _ _ _ _ _ _ _ _ C hl _ kk => lv_icmp_gt C.2.2.1 C.2.2.2.1 hd ht (fun n => absurd n h) (fun _ => kk _ hl)
theorem zi_if_le {x : Int32} {off : Int} (tgt : Nat) (hd : decode Y.2.1 pc = .ok (.ifCond .le off, 3)) (ht : (pc : Int) + off = (tgt : Int)) (kt : x ≤ 0 → z_V g d Y tgt lc rest μ Q) (kf : ¬ x ≤ 0 → z_V g d Y (pc + 3) lc rest μ Q) : z_V g d Y pc lc (.int x :: rest) μ Q := by
  by_cases h : x ≤ 0
  · exact z_pure (kt h) fun _ _ _ _ _ _ _ _ _ _ _ _ _ _ _ C hl _ kk => lv_if_le C.2.2.1 C.2.2.2.1 hd ht (fun _ => kk _ hl) (fun n => absurd h n)
  · exact z_pure (kf h) fun _ _ _ _ _ _ _ _ _ _ _ _ _ _ _ C hl _ kk => lv_if_le C.2.2.1 C.2.2.2.1 hd ht (fun n => absurd n h) (fun _ => kk _ hl)
theorem zi_icmp_le {x y : Int32} {off : Int} (tgt : Nat) (hd : decode Y.2.1 pc = .ok (.if_icmp .le off, 3)) (ht : (pc : Int) + off = (tgt : Int)) (kt : x ≤ y → z_V g d Y tgt lc rest μ Q) (kf : ¬ x ≤ y → z_V g d Y (pc + 3) lc rest μ Q) : z_V g d Y pc lc (.int y :: .int x :: rest) μ Q := by
  by_cases h : x ≤ y
  · exact z_pure (kt h) fun _ _ _ _ _ _ _ _ _ _ _ _ _ _ _ C hl _ kk => lv_icmp_le C.2.2.1 C.2.2.2.1 hd ht (fun _ => kk _ hl) (fun n => absurd h n)
  · exact z_pure (kf h) fun _ _ _ _ _ _ _ _ _ _ _ _ _ _ _ C hl _ kk => lv_icmp_le C.2.2.1 C.2.2.2.1 hd ht (fun n => absurd n h) (fun _ => kk _ hl)
theorem zi_acmp_eq {rx ry : Option Nat} {off : Int} (tgt : Nat) (hd : decode Y.2.1 pc = .ok (.if_acmp .eq off, 3)) (ht : (pc : Int) + off = (tgt : Int)) (kt : rx = ry → z_V g d Y tgt lc rest μ Q) (kf : ¬ rx = ry → z_V g d Y (pc + 3) lc rest μ Q) : z_V g d Y pc lc (va_rf ry :: va_rf rx :: rest) μ Q := by
  by_cases h : rx = ry
  · exact z_pure (kt h) fun _ _ _ _ _ _ _ _ _ _ _ _ _ _ _ C hl _ kk => lv_acmp_eq C.2.2.1 C.2.2.2.1 hd ht (fun _ => kk _ hl) (fun n => absurd h n)
  · exact z_pure (kf h) fun _ _ _ _ _ _ _ _ _ _ _ _ _ _ _ C hl _ kk => lv_acmp_eq C.2.2.1 C.2.2.2.1 hd ht (fun n => absurd n h) (fun _ => kk _ hl)
theorem zi_acmp_ne {rx ry : Option Nat} {off : Int} (tgt : Nat) (hd : decode Y.2.1 pc = .ok (.if_acmp .ne off, 3)) (ht : (pc : Int) + off = (tgt : Int)) (kt : ¬ rx = ry → z_V g d Y tgt lc rest μ Q) (kf : rx = ry → z_V g d Y (pc + 3) lc rest μ Q) : z_V g d Y pc lc (va_rf ry :: va_rf rx :: rest) μ Q := by
  by_cases h : rx = ry
  · exact z_pure (kf h) fun _ _ _ _ _ _ _ _ _ _ _ _ _ _ _ C hl _ kk => lv_acmp_ne C.2.2.1 C.2.2.2.1 hd ht (fun n => absurd h n) (fun _ => kk _ hl)
  · exact z_pure (kt h) fun _ _ _ _ _ _ _ _ _ _ _ _ _ _ _ C hl _ kk => lv_acmp_ne C.2.2.1 C.2.2.2.1 hd ht (fun _ => kk _ hl) (fun n => absurd n h)
theorem zi_goto {off : Int} (tgt : Nat) (hd : decode Y.2.1 pc = .ok (.goto off, 3)) (ht : (pc : Int) + off = (tgt : Int)) (k : z_V g d Y tgt lc rest μ Q) : z_V g d Y pc lc (rest) μ Q :=
  z_pure k fun _ _ _ _ _ _ _ _ _ _ _ _ _ _ _ C hl _ kk => lv_goto C.2.2.1 C.2.2.2.1 hd ht (kk _ hl)
theorem zi_ifnonnull {x : Nat} {off : Int} (tgt : Nat) (hd : decode Y.2.1 pc = .ok (.ifnonnull off, 3)) (ht : (pc : Int) + off = (tgt : Int)) (k : z_V g d Y tgt lc rest μ Q) : z_V g d Y pc lc (.ref x :: rest) μ Q :=
  z_pure k fun _ _ _ _ _ _ _ _ _ _ _ _ _ _ _ C hl _ kk => lv_ifnonnull C.2.2.1 C.2.2.2.1 hd ht (kk _ hl)
theorem zi_ifnullN {off : Int} (tgt : Nat) (hd : decode Y.2.1 pc = .ok (.ifnull off, 3)) (ht : (pc : Int) + off = (tgt : Int)) (k : z_V g d Y tgt lc rest μ Q) : z_V g d Y pc lc (.null :: rest) μ Q :=
  z_pure k fun _ _ _ _ _ _ _ _ _ _ _ _ _ _ _ C hl _ kk => lv_ifnullN C.2.2.1 C.2.2.2.1 hd ht (kk _ hl)
theorem zi_ifnull {x : Nat} {off : Int} (hd : decode Y.2.1 pc = .ok (.ifnull off, 3)) (k : z_V g d Y (pc + 3) lc rest μ Q) : z_V g d Y pc lc (.ref x :: rest) μ Q :=
  z_pure k fun _ _ _ _ _ _ _ _ _ _ _ _ _ _ _ C hl _ kk => lv_ifnull C.2.2.1 C.2.2.2.1 hd (kk _ hl)
theorem zi_ifnonnullN {off : Int} (hd : decode Y.2.1 pc = .ok (.ifnonnull off, 3)) (k : z_V g d Y (pc + 3) lc rest μ Q) : z_V g d Y pc lc (.null :: rest) μ Q :=
  z_pure k fun _ _ _ _ _ _ _ _ _ _ _ _ _ _ _ C hl _ kk => lv_ifnonnullN C.2.2.1 C.2.2.2.1 hd (kk _ hl)
theorem zi_tableOut {dflt lo hi : Int} {offs : Array Int} {len : Nat} {x : Int32} (tgt : Nat) (hd : decode Y.2.1 pc = .ok (.tableswitch dflt lo hi offs, len)) (h : x.toInt < lo ∨ hi < x.toInt) (ht : (pc : Int) + dflt = (tgt : Int)) (k : z_V g d Y tgt lc rest μ Q) : z_V g d Y pc lc (.int x :: rest) μ Q :=
  z_pure k fun _ _ _ _ _ _ _ _ _ _ _ _ _ _ _ C hl _ kk => lv_tableOut C.2.2.1 C.2.2.2.1 hd h ht (kk _ hl)
theorem zi_tableIn {dflt lo hi off : Int} {offs : Array Int} {len : Nat} {x : Int32} (tgt : Nat) (hd : decode Y.2.1 pc = .ok (.tableswitch dflt lo hi offs, len)) (h1 : ¬ x.toInt < lo) (h2 : ¬ hi < x.toInt) (ho : offs[(x.toInt - lo).toNat]? = some off) (ht : (pc : Int) + off = (tgt : Int)) (k : z_V g d Y tgt lc rest μ Q) : z_V g d Y pc lc (.int x :: rest) μ Q :=
  z_pure k fun _ _ _ _ _ _ _ _ _ _ _ _ _ _ _ C hl _ kk => lv_tableIn C.2.2.1 C.2.2.2.1 hd h1 h2 ho ht (kk _ hl)
theorem zi_lookup {dflt off : Int} {ps : Array (Int × Int)} {len : Nat} {x : Int32} (tgt : Nat) (hd : decode Y.2.1 pc = .ok (.lookupswitch dflt ps, len)) (hp : (ps.toList.zip (ps.toList.drop 1)).all (fun (a, next) => a.1 < next.1) = true) (ho : Op.lookupswitch.offset ps.toList dflt x.toInt = off) (ht : (pc : Int) + off = (tgt : Int)) (k : z_V g d Y tgt lc rest μ Q) : z_V g d Y pc lc (.int x :: rest) μ Q :=
  z_pure k fun _ _ _ _ _ _ _ _ _ _ _ _ _ _ _ C hl _ kk => lv_lookup C.2.2.1 C.2.2.2.1 hd hp ho ht (kk _ hl)
theorem zi_ireturn {x : Int32} {ty : FieldType} (hr : Y.2.2.2.1 = some ty) (hn : narrow ty (.int x) = .int x) (hd : decode Y.2.1 pc = .ok (.ireturn, 1)) (hQ : Q (.inl (some (.int x))) μ) : z_V g d Y pc lc [.int x] μ Q :=
  ⟨.inl (some (.int x)), μ, hQ, Nat.le_refl _, Nat.le_refl _, fun n0 k0 p e R s m args below meth c H locs ls C _ _ _ _ _ hM hL => vx_ret (W.zret C.2.2.1 C.2.2.2.1 (C.2.2.2.2.2.1.trans hr) hn (fun t ht _ => ⟨⟨_, rfl, rfl⟩, by rw [ht]; exact hM⟩) hL hd C.2.2.2.2.2.2.1)⟩
theorem zi_lreturn {x : Int64} (hr : Y.2.2.2.1 = some .long) (hd : decode Y.2.1 pc = .ok (.lreturn, 1)) (hQ : Q (.inl (some (.long x))) μ) : z_V g d Y pc lc [.long x] μ Q :=
  ⟨.inl (some (.long x)), μ, hQ, Nat.le_refl _, Nat.le_refl _, fun n0 k0 p e R s m args below meth c H locs ls C _ _ _ _ _ hM hL => vx_ret (W.lret C.2.2.1 C.2.2.2.1 (C.2.2.2.2.2.1.trans hr) (fun t ht _ => ⟨⟨_, rfl, rfl⟩, by rw [ht]; exact hM⟩) hL hd C.2.2.2.2.2.2.1)⟩
theorem zi_areturn {x : Nat} {rt : FieldType} (hr : Y.2.2.2.1 = some rt) (hrt : (∃ n, rt = .object n) ∨ ∃ t, rt = .array t) (hd : decode Y.2.1 pc = .ok (.areturn, 1)) (hQ : Q (.inl (some (.ref x))) μ) : z_V g d Y pc lc [.ref x] μ Q :=
  ⟨.inl (some (.ref x)), μ, hQ, Nat.le_refl _, Nat.le_refl _, fun n0 k0 p e R s m args below meth c H locs ls C _ _ _ _ _ hM hL => vx_ret (W.aret C.2.2.1 C.2.2.2.1 (C.2.2.2.2.2.1.trans hr) hrt (Or.inr ⟨_, rfl⟩) (fun t ht _ => ⟨⟨_, rfl, rfl⟩, by rw [ht]; exact hM⟩) hL hd C.2.2.2.2.2.2.1)⟩
theorem zi_areturnN {rt : FieldType} (hr : Y.2.2.2.1 = some rt) (hrt : (∃ n, rt = .object n) ∨ ∃ t, rt = .array t) (hd : decode Y.2.1 pc = .ok (.areturn, 1)) (hQ : Q (.inl (some .null)) μ) : z_V g d Y pc lc [.null] μ Q :=
  ⟨.inl (some .null), μ, hQ, Nat.le_refl _, Nat.le_refl _, fun n0 k0 p e R s m args below meth c H locs ls C _ _ _ _ _ hM hL => vx_ret (W.aret C.2.2.1 C.2.2.2.1 (C.2.2.2.2.2.1.trans hr) hrt (Or.inl rfl) (fun t ht _ => ⟨⟨_, rfl, rfl⟩, by rw [ht]; exact hM⟩) hL hd C.2.2.2.2.2.2.1)⟩
theorem zi_return (hr : Y.2.2.2.1 = none) (hd : decode Y.2.1 pc = .ok (.return_, 1)) (hQ : Q (.inl none) μ) : z_V g d Y pc lc [] μ Q :=
  ⟨.inl none, μ, hQ, Nat.le_refl _, Nat.le_refl _, fun n0 k0 p e R s m args below meth c H locs ls C _ _ _ _ _ hM hL => vx_ret (W.vret C.2.2.1 C.2.2.2.1 (C.2.2.2.2.2.1.trans hr) (fun t ht _ => ⟨⟨_, rfl, rfl⟩, by rw [ht]; exact hM⟩) hL hd C.2.2.2.2.2.2.1)⟩
end ZS
