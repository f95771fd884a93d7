set_option maxRecDepth 100000
/-! BASE: one bundle of the machine's parts; a judgement with the written places hidden; contracts; rows -/
abbrev yE : Type := Program × Launch × Env × Room × State × MethodId × Array Value × List Frame × Method × Code
abbrev e_l (E : yE) : Launch := E.2.1
abbrev e_R (E : yE) : Room := E.2.2.2.1
abbrev e_s (E : yE) : State := E.2.2.2.2.1
abbrev e_m (E : yE) : MethodId := E.2.2.2.2.2.1
abbrev e_a (E : yE) : Array Value := E.2.2.2.2.2.2.1
abbrev e_b (E : yE) : List Frame := E.2.2.2.2.2.2.2.1
abbrev e_M (E : yE) : Method := E.2.2.2.2.2.2.2.2.1
abbrev e_c (E : yE) : Code := E.2.2.2.2.2.2.2.2.2
abbrev yW (E : yE) (H : Heap) (locs : List Loc) (kc kn : Nat) (Q : State → Prop) (g : JFrame) : Prop := W E.1 (e_l E) E.2.2.1 (e_R E) (e_s E) (e_m E) (e_a E) (e_b E) (e_M E) (e_c E) H locs kc kn Q g
def yY (E : yE) (A : Nat → Prop) (H : Heap) (kc kn : Nat) (Q : State → Prop) (pc : Nat) (ls : Array Slot) (st : List Value) : Prop :=
  ∀ locs : List Loc, va_S A (e_s E).heap H locs → yW E H locs kc kn Q (F0 (e_m E) pc ls st)
/-- class numbers, their slots, array class numbers -/
abbrev yD : Type := (Nat → ClassId) × (Nat → Nat → Nat) × (Nat → ClassId)
abbrev yG (D : yD) : va_G := (D.1, D.2.1)
def y0T : u_T := fun _ => ("", "", "", false)
/-- the classes whose objects the worlds hold: 0 dispatcher, 1 farm, 2 ArrayList, 3 twin, 4 command, 5 turbine, 6 running, 7 failed, 8 in service, 9 curtailed, 10 StringBuilder, 11 String, 12 parser, 13 rejection, 14 syntax error, 15 bad command -/
abbrev yCl : List vw_C := [(RX1, TX1, 7), (RX2, TX2, 12), (RJ2, TJ2, 3), (RX4, TX4, 17), (RX5, TX5, 5), (RX6, TX6, 5), (RX7, y0T, 0), (RX9, y0T, 0), (RX10, TX10, 1), (RX11, TX11, 1), (RJ4, TJ4, 4), (RJ5, TJ5, 4), (RX12, TX12, 3), (RX8, TX8, 9), (RX13, TX13, 7), (RX14, TX14, 6)]
/-- array classes: 0 int, 1 byte, 2 char, 3 long, 4 double, 5 Object, 6 turbine, 7 rows of turbines, 8 direction -/
abbrev yTys (D : yD) : List (ClassId × FieldType) := [(D.2.2 0, .int), (D.2.2 1, .byte), (D.2.2 2, .char), (D.2.2 3, .long), (D.2.2 4, .double), (D.2.2 5, .object "java/lang/Object"), (D.2.2 6, .object "WindFarmDispatcher$Turbine"), (D.2.2 7, .array (.object "WindFarmDispatcher$Turbine")), (D.2.2 8, .object "WindFarmDispatcher$Direction")]
def yK (D : yD) (U : State) : Prop := va_K (yG D) yCl (yTys D) U
/-- the start of the law: what the tables and the start's premises say there -/
def yB (z : State) (D : yD) : Prop := (∃ b : Nat, (∀ w ∈ lw_tbl, w.before #[Value.ref b] z = true) ∧ (Jvm.Cond.and given_1 narrow_1).before #[Value.ref b] z = true) ∧ yK D z ∧ ∀ i j : Nat, i < 16 → j < 16 → D.1 i = D.1 j → i = j
/-- a state of the law's run: the tables have only warmed, the start's cells stay -/
def yU (z : State) (D : yD) (U : State) : Prop := yB z D ∧ z.WarmedH U.vm ∧ z.heap.size ≤ U.heap.size ∧ ∀ q : Nat, q < z.heap.size → U.heap[q]? = z.heap[q]?
def yOk (E : yE) (z : State) (D : yD) (A : Nat → Prop) (own : String) (cc : ByteArray) (nL : Nat) (ret : Option FieldType) (d mc ms : Nat) : Prop :=
  E.1.tables.exec = Jvm.exec ∧ (e_c E).code = cc ∧ (e_c E).maxLocals = nL ∧ (e_s E).vm.findClass own = some (e_m E).cls ∧ (∀ w ∈ lw_all, w.before (e_a E) (e_s E) = true) ∧ (e_M E).sig.returnType = ret ∧ (e_M E).locks = false ∧ yU z D (e_s E) ∧ (∀ q : Nat, A q → z.heap.size ≤ q) ∧ (e_l E).stackTraces = false ∧
  (d ≤ (e_R E).frames ∧ 64 * d ≤ (e_R E).locals ∧ mc ≤ (e_R E).cells ∧ ms ≤ (e_R E).slots)
section YB
variable {E : yE} {z : State} {D : yD} {A : Nat → Prop} {own0 : String} {cc : ByteArray} {nL0 : Nat} {ret0 : Option FieldType} {d mc ms : Nat}
theorem yOk.words (hE : yOk E z D A own0 cc nL0 ret0 d mc ms) : ∀ w ∈ lw_all, w.before (e_a E) (e_s E) = true := hE.2.2.2.2.1
theorem yOk.own (hE : yOk E z D A own0 cc nL0 ret0 d mc ms) : (e_s E).vm.findClass own0 = some (e_m E).cls := hE.2.2.2.1
theorem yOk.rt (hE : yOk E z D A own0 cc nL0 ret0 d mc ms) : (e_M E).sig.returnType = ret0 := hE.2.2.2.2.2.1
theorem yOk.locks (hE : yOk E z D A own0 cc nL0 ret0 d mc ms) : (e_M E).locks = false := hE.2.2.2.2.2.2.1
theorem yOk.u (hE : yOk E z D A own0 cc nL0 ret0 d mc ms) : yU z D (e_s E) := hE.2.2.2.2.2.2.2.1
theorem yOk.a (hE : yOk E z D A own0 cc nL0 ret0 d mc ms) : ∀ q : Nat, A q → z.heap.size ≤ q := hE.2.2.2.2.2.2.2.2.1
theorem yOk.fl (hE : yOk E z D A own0 cc nL0 ret0 d mc ms) : (e_l E).stackTraces = false := hE.2.2.2.2.2.2.2.2.2.1
theorem yOk.rm (hE : yOk E z D A own0 cc nL0 ret0 d mc ms) : d ≤ (e_R E).frames ∧ 64 * d ≤ (e_R E).locals ∧ mc ≤ (e_R E).cells ∧ ms ≤ (e_R E).slots := hE.2.2.2.2.2.2.2.2.2.2
theorem yU.k {U : State} (h : yU z D U) : yK D U := va_K.moved h.2.1.alike h.1.2.1
theorem yOk.k (hE : yOk E z D A own0 cc nL0 ret0 d mc ms) : va_K (yG D) yCl (yTys D) (e_s E) := hE.u.k
/-- the run goes on: another state with the same start -/
theorem yU.on {s U : State} {H : Heap} {locs : List Loc} (h : yU z D s) (hA : ∀ q : Nat, A q → z.heap.size ≤ q) (hS : va_S A s.heap H locs) (hU : U.heap = H) (hW : s.WarmedH U.vm) : yU z D U := by
  obtain ⟨h1, h2, h3, h4⟩ := h
  refine ⟨h1, State.WarmedH.trans h2 hW, ?_, fun q hq => ?_⟩
  · rw [hU]; exact Nat.le_trans h3 hS.1
  · rw [hU, hS.2.1 q (Nat.lt_of_lt_of_le hq h3) (fun a => absurd (hA q a) (by omega))]
    exact h4 q hq
end YB
abbrev rmD (d mc ms : Nat) : Room := { frames := d, cells := mc, slots := ms, locals := 64 * d }
/-- a method's start -/
def yPc (z : State) (D : yD) (vs : List Value) (P : Heap → Prop) : Array Value → State → Prop := va_Pc vs (fun U => yU z D U ∧ P U.heap)
theorem yPc.blind {z : State} {D : yD} {vs : List Value} {P : Heap → Prop} : FrameBlind (yPc z D vs P) := fun _ _ _ _ q => q
/-- an end: the answer v, the heap as it was -/
def yRo (v : Option Value) : Array Value → State → Outcome → State → Prop := fun _ st o t => o = .returned v ∧ t.heap = st.heap
def yR (y : MethodName) (ws : List Cond) (rm : Room) (z : State) (D : yD) (vs : List Value) (P : Heap → Prop) (v : Option Value) : Prop :=
  ∀ l : Launch, l.stackTraces = false → Met l y ws rm (yPc z D vs P) (yRo v) 0 0 (fun _ => False)
/-- an end: an answer, the new heap; nothing old outside A has changed -/
def yQ {α : Type} (em : α → Option Value) (post : α → Heap → Prop) (A : Nat → Prop) : Array Value → State → Outcome → State → Prop := fun _ st o t => (∃ r : α, o = .returned (em r) ∧ post r t.heap) ∧ va_F A st t
def yM {α : Type} (y : MethodName) (ws : List Cond) (rm : Room) (z : State) (D : yD) (vs : List Value) (P : Heap → Prop) (em : α → Option Value) (post : α → Heap → Prop) (mc ms : Nat) (A : Nat → Prop) : Prop :=
  ∀ l : Launch, l.stackTraces = false → Met l y ws rm (yPc z D vs P) (yQ em post A) mc ms A
abbrev eI : Int32 → Option Value := fun r => some (.int r)
abbrev eL : Int64 → Option Value := fun r => some (.long r)
abbrev eV : Unit → Option Value := fun _ => none
abbrev eR : Nat → Option Value := fun r => some (.ref r)
abbrev eN : Option Nat → Option Value := fun r => some (va_rf r)
def yEr (E : yE) (v : Option Value) : State → Prop := MQ (e_b E) (yRo v) (e_a E) (e_s E) 0 0 (fun _ => False)
def yEm {α : Type} (E : yE) (em : α → Option Value) (post : α → Heap → Prop) (mc ms : Nat) (A : Nat → Prop) : State → Prop := MQ (e_b E) (yQ em post A) (e_a E) (e_s E) mc ms A
theorem yR_of {y : MethodName} {cc : ByteArray} {maxL : Nat} {rt : Option FieldType} {d : Nat} {z : State} {D : yD} {vs : List Value} {P : Heap → Prop} {v : Option Value} {own : String} (hy : plainName y.cls = true) (hc : y.cls = own) (hL : (lg_sl vs).length ≤ maxL)
    (body : ∀ E : yE, yOk E z D (fun _ => False) own cc maxL rt d 0 0 → P (e_s E).heap → ∀ ls : Array Slot, lv_has ls maxL (lv_args 0 vs) → yY E (fun _ => False) (e_s E).heap 0 0 (yEr E v) 0 ls []) : yR y (ws_ y cc maxL rt) (rmD d 0 0) z D vs P v := by
  intro l hfl
  refine Met.ofW (cc := cc) (maxL := maxL) (ret := rt) hy rfl ?_
  intro p e s m args below meth c s₁ B hml hv
  obtain ⟨rfl, hU, hP⟩ := hv
  have hts := atoms_spec (ws := ws_ y cc maxL rt) B.pre
  have hts : ∀ w ∈ lw_all, w.before _ s = true := fun w h => hts w (List.mem_cons_of_mem _ h)
  have hown : s.vm.findClass own = some m.cls := by rw [← hc]; exact findClass_of_methodNamed B.named
  have hl := lv_entry vs (n := maxL) hL
  rw [lg_entry_eq]
  generalize (lg_sl vs ++ List.replicate (maxL - (lg_sl vs).length) Slot.unset).toArray = ls at hl ⊢
  exact body (p, l, e, (headSpec (ws_ y cc maxL rt) (rmD d 0 0)).room, s, m, vs.toArray, below, meth, c) ⟨B.exec, B.bytes, hml, hown, hts, B.returns, B.notSynchronized, hU, fun _ h => h.elim, hfl, Nat.le_refl _, Nat.le_refl _, Nat.le_refl _, Nat.le_refl _⟩ hP ls hl [] va_S.rf
theorem yM_of {α : Type} {y : MethodName} {cc : ByteArray} {maxL : Nat} {rt : Option FieldType} {d mc ms : Nat} {z : State} {D : yD} {vs : List Value} {P : Heap → Prop} {em : α → Option Value} {post : α → Heap → Prop} {A : Nat → Prop} {own : String} (hy : plainName y.cls = true) (hc : y.cls = own) (hL : (lg_sl vs).length ≤ maxL) (hA : ∀ H : Heap, P H → ∀ q : Nat, A q → z.heap.size ≤ q)
    (body : ∀ E : yE, yOk E z D A own cc maxL rt d mc ms → P (e_s E).heap → ∀ ls : Array Slot, lv_has ls maxL (lv_args 0 vs) → (y.name = "<init>" → (e_M E).name = "<init>") → yY E A (e_s E).heap 0 0 (yEm E em post mc ms A) 0 ls []) : yM y (ws_ y cc maxL rt) (rmD d mc ms) z D vs P em post mc ms A := by
  intro l hfl
  refine Met.ofW (cc := cc) (maxL := maxL) (ret := rt) hy rfl ?_
  intro p e s m args below meth c s₁ B hml hv
  obtain ⟨rfl, hU, hP⟩ := hv
  have hts := atoms_spec (ws := ws_ y cc maxL rt) B.pre
  have hts : ∀ w ∈ lw_all, w.before _ s = true := fun w h => hts w (List.mem_cons_of_mem _ h)
  have hown : s.vm.findClass own = some m.cls := by rw [← hc]; exact findClass_of_methodNamed B.named
  have hl := lv_entry vs (n := maxL) hL
  have hin : y.name = "<init>" → meth.name = "<init>" := fun h => by rw [← h]; exact (name_of_methodNamed B.named B.method).1
  rw [lg_entry_eq]
  generalize (lg_sl vs ++ List.replicate (maxL - (lg_sl vs).length) Slot.unset).toArray = ls at hl ⊢
  exact body (p, l, e, (headSpec (ws_ y cc maxL rt) (rmD d mc ms)).room, s, m, vs.toArray, below, meth, c) ⟨B.exec, B.bytes, hml, hown, hts, B.returns, B.notSynchronized, hU, hA _ hP, hfl, Nat.le_refl _, Nat.le_refl _, Nat.le_refl _, Nat.le_refl _⟩ hP ls hl hin [] va_S.rf
/-- an object of class number ci with the fields fs; an array of class number ti -/
def yO (D : yD) (ci : Nat) (fs : List Value) (a : Nat) (H : Heap) : Prop := va_at (yG D) yCl (a, .inr (ci, fs)) H
def yA (D : yD) (ti : Nat) (x : vp_A) (a : Nat) (H : Heap) : Prop := H[a]? = some (vp_cell (D.2.2 ti) x)
theorem y_one {D : va_G} {cl : List vw_C} {q : Nat × va_E} {H : Heap} (h : va_at D cl q H) : va_P D cl [q] H := by
  intro k p hk
  cases k with
  | zero => cases hk; exact h
  | succ k => simp at hk
theorem yO.kept {D : yD} {ci a : Nat} {fs : List Value} {H H1 : Heap} (h : yO D ci fs a H) (hq : H1[a]? = H[a]?) : yO D ci fs a H1 := va_at.kept h hq
theorem yA.kept {D : yD} {ti a : Nat} {x : vp_A} {H H1 : Heap} (h : yA D ti x a H) (hq : H1[a]? = H[a]?) : yA D ti x a H1 := hq.trans h
theorem yO.lt {D : yD} {ci a : Nat} {fs : List Value} {H : Heap} (h : yO D ci fs a H) : a < H.size := va_at.lt h
theorem yA.lt {D : yD} {ti a : Nat} {x : vp_A} {H : Heap} (h : yA D ti x a H) : a < H.size := (Array.getElem?_eq_some_iff.mp h).1
theorem y_iconst {E : yE} {z : State} {D : yD} {A : Nat → Prop} {own0 : String} {cc : ByteArray} {nL0 : Nat} {ret0 : Option FieldType} {H : Heap} {kc kn d mc ms : Nat} {Q : State → Prop} {pc : Nat} {ls : Array Slot} {rest : List Value} (hE : yOk E z D A own0 cc nL0 ret0 d mc ms) {n : Int} {v : Int32} (hdg : decode cc pc = .ok (.iconst n, 1)) (hv : Int32.ofInt n = v) (k : yY E A H kc kn Q (pc + 1) ls (.int v :: rest)) : yY E A H kc kn Q pc ls (rest) := fun locs hS => lv_iconst hE.1 hE.2.1 hdg hv (k locs hS)
theorem y_bipush {E : yE} {z : State} {D : yD} {A : Nat → Prop} {own0 : String} {cc : ByteArray} {nL0 : Nat} {ret0 : Option FieldType} {H : Heap} {kc kn d mc ms : Nat} {Q : State → Prop} {pc : Nat} {ls : Array Slot} {rest : List Value} (hE : yOk E z D A own0 cc nL0 ret0 d mc ms) {n : Int} {v : Int32} (hdg : decode cc pc = .ok (.bipush n, 2)) (hv : (Int8.ofInt n).toInt32 = v) (k : yY E A H kc kn Q (pc + 2) ls (.int v :: rest)) : yY E A H kc kn Q pc ls (rest) := fun locs hS => lv_bipush hE.1 hE.2.1 hdg hv (k locs hS)
theorem y_sipush {E : yE} {z : State} {D : yD} {A : Nat → Prop} {own0 : String} {cc : ByteArray} {nL0 : Nat} {ret0 : Option FieldType} {H : Heap} {kc kn d mc ms : Nat} {Q : State → Prop} {pc : Nat} {ls : Array Slot} {rest : List Value} (hE : yOk E z D A own0 cc nL0 ret0 d mc ms) {n : Int} {v : Int32} (hdg : decode cc pc = .ok (.sipush n, 3)) (hv : (Int16.ofInt n).toInt32 = v) (k : yY E A H kc kn Q (pc + 3) ls (.int v :: rest)) : yY E A H kc kn Q pc ls (rest) := fun locs hS => lv_sipush hE.1 hE.2.1 hdg hv (k locs hS)
theorem y_lconst {E : yE} {z : State} {D : yD} {A : Nat → Prop} {own0 : String} {cc : ByteArray} {nL0 : Nat} {ret0 : Option FieldType} {H : Heap} {kc kn d mc ms : Nat} {Q : State → Prop} {pc : Nat} {ls : Array Slot} {rest : List Value} (hE : yOk E z D A own0 cc nL0 ret0 d mc ms) {n : Fin 2} {v : Int64} (hdg : decode cc pc = .ok (.lconst n, 1)) (hv : Int64.ofNat (n : Nat) = v) (k : yY E A H kc kn Q (pc + 1) ls (.long v :: rest)) : yY E A H kc kn Q pc ls (rest) := fun locs hS => lv_lconst hE.1 hE.2.1 hdg hv (k locs hS)
theorem y_iload_n {E : yE} {z : State} {D : yD} {A : Nat → Prop} {own0 : String} {cc : ByteArray} {nL0 : Nat} {ret0 : Option FieldType} {H : Heap} {kc kn d mc ms : Nat} {Q : State → Prop} {pc : Nat} {ls : Array Slot} {rest : List Value} (hE : yOk E z D A own0 cc nL0 ret0 d mc ms) {k : Fin 4} {i : Nat} {x : Int32} (hdg : decode cc pc = .ok (.iload_n k, 1)) (hi : (k : Nat) = i) (hl : ls[i]? = some (.val (.int x))) (k : yY E A H kc kn Q (pc + 1) ls (.int x :: rest)) : yY E A H kc kn Q pc ls (rest) := fun locs hS => lv_iload_n hE.1 hE.2.1 hdg hi hl (k locs hS)
theorem y_iload {E : yE} {z : State} {D : yD} {A : Nat → Prop} {own0 : String} {cc : ByteArray} {nL0 : Nat} {ret0 : Option FieldType} {H : Heap} {kc kn d mc ms : Nat} {Q : State → Prop} {pc : Nat} {ls : Array Slot} {rest : List Value} (hE : yOk E z D A own0 cc nL0 ret0 d mc ms) {i : Nat} {x : Int32} (hdg : decode cc pc = .ok (.iload i, 2)) (hl : ls[i]? = some (.val (.int x))) (k : yY E A H kc kn Q (pc + 2) ls (.int x :: rest)) : yY E A H kc kn Q pc ls (rest) := fun locs hS => lv_iload hE.1 hE.2.1 hdg hl (k locs hS)
theorem y_lload_n {E : yE} {z : State} {D : yD} {A : Nat → Prop} {own0 : String} {cc : ByteArray} {nL0 : Nat} {ret0 : Option FieldType} {H : Heap} {kc kn d mc ms : Nat} {Q : State → Prop} {pc : Nat} {ls : Array Slot} {rest : List Value} (hE : yOk E z D A own0 cc nL0 ret0 d mc ms) {k : Fin 4} {i : Nat} {x : Int64} (hdg : decode cc pc = .ok (.lload_n k, 1)) (hi : (k : Nat) = i) (hl : ls[i]? = some (.val (.long x))) (k : yY E A H kc kn Q (pc + 1) ls (.long x :: rest)) : yY E A H kc kn Q pc ls (rest) := fun locs hS => lv_lload_n hE.1 hE.2.1 hdg hi hl (k locs hS)
theorem y_lload {E : yE} {z : State} {D : yD} {A : Nat → Prop} {own0 : String} {cc : ByteArray} {nL0 : Nat} {ret0 : Option FieldType} {H : Heap} {kc kn d mc ms : Nat} {Q : State → Prop} {pc : Nat} {ls : Array Slot} {rest : List Value} (hE : yOk E z D A own0 cc nL0 ret0 d mc ms) {i : Nat} {x : Int64} (hdg : decode cc pc = .ok (.lload i, 2)) (hl : ls[i]? = some (.val (.long x))) (k : yY E A H kc kn Q (pc + 2) ls (.long x :: rest)) : yY E A H kc kn Q pc ls (rest) := fun locs hS => lv_lload hE.1 hE.2.1 hdg hl (k locs hS)
theorem y_aload_n {E : yE} {z : State} {D : yD} {A : Nat → Prop} {own0 : String} {cc : ByteArray} {nL0 : Nat} {ret0 : Option FieldType} {H : Heap} {kc kn d mc ms : Nat} {Q : State → Prop} {pc : Nat} {ls : Array Slot} {rest : List Value} (hE : yOk E z D A own0 cc nL0 ret0 d mc ms) {k : Fin 4} {i : Nat} {x : Nat} (hdg : decode cc pc = .ok (.aload_n k, 1)) (hi : (k : Nat) = i) (hl : ls[i]? = some (.val (.ref x))) (k : yY E A H kc kn Q (pc + 1) ls (.ref x :: rest)) : yY E A H kc kn Q pc ls (rest) := fun locs hS => lv_aload_n hE.1 hE.2.1 hdg hi hl (k locs hS)
theorem y_aload {E : yE} {z : State} {D : yD} {A : Nat → Prop} {own0 : String} {cc : ByteArray} {nL0 : Nat} {ret0 : Option FieldType} {H : Heap} {kc kn d mc ms : Nat} {Q : State → Prop} {pc : Nat} {ls : Array Slot} {rest : List Value} (hE : yOk E z D A own0 cc nL0 ret0 d mc ms) {i : Nat} {x : Nat} (hdg : decode cc pc = .ok (.aload i, 2)) (hl : ls[i]? = some (.val (.ref x))) (k : yY E A H kc kn Q (pc + 2) ls (.ref x :: rest)) : yY E A H kc kn Q pc ls (rest) := fun locs hS => lv_aload hE.1 hE.2.1 hdg hl (k locs hS)
theorem y_istore_n {E : yE} {z : State} {D : yD} {A : Nat → Prop} {own0 : String} {cc : ByteArray} {nL0 : Nat} {ret0 : Option FieldType} {H : Heap} {kc kn d mc ms : Nat} {Q : State → Prop} {pc : Nat} {ls : Array Slot} {rest : List Value} (hE : yOk E z D A own0 cc nL0 ret0 d mc ms) {k : Fin 4} {i nL : Nat} {x : Int32} {lv lv' : List (Nat × Value)} (hdg : decode cc pc = .ok (.istore_n k, 1)) (hi : (k : Nat) = i) (h : lv_has ls nL lv) (hn : i < nL) (hl : (i, Value.int x) :: lv.filter (fun q => !(q.1 == i) && !(q.1 + 1 == i && q.2.category == 2)) = lv') (kk : ∀ ls' : Array Slot, lv_has ls' nL lv' → yY E A H kc kn Q (pc + 1) ls' rest) : yY E A H kc kn Q pc ls (.int x :: rest) := fun locs hS => lv_istore_n hE.1 hE.2.1 hdg hi h hn hl (fun v0 v1 => kk v0 v1 locs hS)
theorem y_istore {E : yE} {z : State} {D : yD} {A : Nat → Prop} {own0 : String} {cc : ByteArray} {nL0 : Nat} {ret0 : Option FieldType} {H : Heap} {kc kn d mc ms : Nat} {Q : State → Prop} {pc : Nat} {ls : Array Slot} {rest : List Value} (hE : yOk E z D A own0 cc nL0 ret0 d mc ms) {i nL : Nat} {x : Int32} {lv lv' : List (Nat × Value)} (hdg : decode cc pc = .ok (.istore i, 2)) (h : lv_has ls nL lv) (hn : i < nL) (hl : (i, Value.int x) :: lv.filter (fun q => !(q.1 == i) && !(q.1 + 1 == i && q.2.category == 2)) = lv') (kk : ∀ ls' : Array Slot, lv_has ls' nL lv' → yY E A H kc kn Q (pc + 2) ls' rest) : yY E A H kc kn Q pc ls (.int x :: rest) := fun locs hS => lv_istore hE.1 hE.2.1 hdg h hn hl (fun v0 v1 => kk v0 v1 locs hS)
theorem y_lstore_n {E : yE} {z : State} {D : yD} {A : Nat → Prop} {own0 : String} {cc : ByteArray} {nL0 : Nat} {ret0 : Option FieldType} {H : Heap} {kc kn d mc ms : Nat} {Q : State → Prop} {pc : Nat} {ls : Array Slot} {rest : List Value} (hE : yOk E z D A own0 cc nL0 ret0 d mc ms) {k : Fin 4} {i nL : Nat} {x : Int64} {lv lv' : List (Nat × Value)} (hdg : decode cc pc = .ok (.lstore_n k, 1)) (hi : (k : Nat) = i) (h : lv_has ls nL lv) (hn : i + 1 < nL) (hl : (i, Value.long x) :: lv.filter (fun q => !(q.1 == i) && (!(q.1 == i + 1) && !(q.1 + 1 == i && q.2.category == 2))) = lv') (kk : ∀ ls' : Array Slot, lv_has ls' nL lv' → yY E A H kc kn Q (pc + 1) ls' rest) : yY E A H kc kn Q pc ls (.long x :: rest) := fun locs hS => lv_lstore_n hE.1 hE.2.1 hdg hi h hn hl (fun v0 v1 => kk v0 v1 locs hS)
theorem y_lstore {E : yE} {z : State} {D : yD} {A : Nat → Prop} {own0 : String} {cc : ByteArray} {nL0 : Nat} {ret0 : Option FieldType} {H : Heap} {kc kn d mc ms : Nat} {Q : State → Prop} {pc : Nat} {ls : Array Slot} {rest : List Value} (hE : yOk E z D A own0 cc nL0 ret0 d mc ms) {i nL : Nat} {x : Int64} {lv lv' : List (Nat × Value)} (hdg : decode cc pc = .ok (.lstore i, 2)) (h : lv_has ls nL lv) (hn : i + 1 < nL) (hl : (i, Value.long x) :: lv.filter (fun q => !(q.1 == i) && (!(q.1 == i + 1) && !(q.1 + 1 == i && q.2.category == 2))) = lv') (kk : ∀ ls' : Array Slot, lv_has ls' nL lv' → yY E A H kc kn Q (pc + 2) ls' rest) : yY E A H kc kn Q pc ls (.long x :: rest) := fun locs hS => lv_lstore hE.1 hE.2.1 hdg h hn hl (fun v0 v1 => kk v0 v1 locs hS)
theorem y_astore_n {E : yE} {z : State} {D : yD} {A : Nat → Prop} {own0 : String} {cc : ByteArray} {nL0 : Nat} {ret0 : Option FieldType} {H : Heap} {kc kn d mc ms : Nat} {Q : State → Prop} {pc : Nat} {ls : Array Slot} {rest : List Value} (hE : yOk E z D A own0 cc nL0 ret0 d mc ms) {k : Fin 4} {i nL : Nat} {x : Nat} {lv lv' : List (Nat × Value)} (hdg : decode cc pc = .ok (.astore_n k, 1)) (hi : (k : Nat) = i) (h : lv_has ls nL lv) (hn : i < nL) (hl : (i, Value.ref x) :: lv.filter (fun q => !(q.1 == i) && !(q.1 + 1 == i && q.2.category == 2)) = lv') (kk : ∀ ls' : Array Slot, lv_has ls' nL lv' → yY E A H kc kn Q (pc + 1) ls' rest) : yY E A H kc kn Q pc ls (.ref x :: rest) := fun locs hS => lv_astore_n hE.1 hE.2.1 hdg hi h hn hl (fun v0 v1 => kk v0 v1 locs hS)
theorem y_astore {E : yE} {z : State} {D : yD} {A : Nat → Prop} {own0 : String} {cc : ByteArray} {nL0 : Nat} {ret0 : Option FieldType} {H : Heap} {kc kn d mc ms : Nat} {Q : State → Prop} {pc : Nat} {ls : Array Slot} {rest : List Value} (hE : yOk E z D A own0 cc nL0 ret0 d mc ms) {i nL : Nat} {x : Nat} {lv lv' : List (Nat × Value)} (hdg : decode cc pc = .ok (.astore i, 2)) (h : lv_has ls nL lv) (hn : i < nL) (hl : (i, Value.ref x) :: lv.filter (fun q => !(q.1 == i) && !(q.1 + 1 == i && q.2.category == 2)) = lv') (kk : ∀ ls' : Array Slot, lv_has ls' nL lv' → yY E A H kc kn Q (pc + 2) ls' rest) : yY E A H kc kn Q pc ls (.ref x :: rest) := fun locs hS => lv_astore hE.1 hE.2.1 hdg h hn hl (fun v0 v1 => kk v0 v1 locs hS)
theorem y_iinc {E : yE} {z : State} {D : yD} {A : Nat → Prop} {own0 : String} {cc : ByteArray} {nL0 : Nat} {ret0 : Option FieldType} {H : Heap} {kc kn d mc ms : Nat} {Q : State → Prop} {pc : Nat} {ls : Array Slot} {rest : List Value} (hE : yOk E z D A own0 cc nL0 ret0 d mc ms) {i nL k : Nat} {n : Int} {x v : Int32} {lv lv' : List (Nat × Value)} (hdg : decode cc pc = .ok (.iinc i n, 3)) (h : lv_has ls nL lv) (hk : lv[k]? = some (i, .int x)) (hv : x + Int32.ofInt n = v) (hn : i < nL) (hl : (i, Value.int v) :: lv.filter (fun q => !(q.1 == i) && !(q.1 + 1 == i && q.2.category == 2)) = lv') (kk : ∀ ls' : Array Slot, lv_has ls' nL lv' → yY E A H kc kn Q (pc + 3) ls' rest) : yY E A H kc kn Q pc ls rest := fun locs hS => lv_iinc hE.1 hE.2.1 hdg h hk hv hn hl (fun v0 v1 => kk v0 v1 locs hS)
theorem y_iadd {E : yE} {z : State} {D : yD} {A : Nat → Prop} {own0 : String} {cc : ByteArray} {nL0 : Nat} {ret0 : Option FieldType} {H : Heap} {kc kn d mc ms : Nat} {Q : State → Prop} {pc : Nat} {ls : Array Slot} {rest : List Value} (hE : yOk E z D A own0 cc nL0 ret0 d mc ms) {x y : Int32} (hdg : decode cc pc = .ok (.iadd, 1)) (k : yY E A H kc kn Q (pc + 1) ls (.int (x + y) :: rest)) : yY E A H kc kn Q pc ls (.int y :: .int x :: rest) := fun locs hS => lv_iadd hE.1 hE.2.1 hdg (k locs hS)
theorem y_isub {E : yE} {z : State} {D : yD} {A : Nat → Prop} {own0 : String} {cc : ByteArray} {nL0 : Nat} {ret0 : Option FieldType} {H : Heap} {kc kn d mc ms : Nat} {Q : State → Prop} {pc : Nat} {ls : Array Slot} {rest : List Value} (hE : yOk E z D A own0 cc nL0 ret0 d mc ms) {x y : Int32} (hdg : decode cc pc = .ok (.isub, 1)) (k : yY E A H kc kn Q (pc + 1) ls (.int (x - y) :: rest)) : yY E A H kc kn Q pc ls (.int y :: .int x :: rest) := fun locs hS => lv_isub hE.1 hE.2.1 hdg (k locs hS)
theorem y_imul {E : yE} {z : State} {D : yD} {A : Nat → Prop} {own0 : String} {cc : ByteArray} {nL0 : Nat} {ret0 : Option FieldType} {H : Heap} {kc kn d mc ms : Nat} {Q : State → Prop} {pc : Nat} {ls : Array Slot} {rest : List Value} (hE : yOk E z D A own0 cc nL0 ret0 d mc ms) {x y : Int32} (hdg : decode cc pc = .ok (.imul, 1)) (k : yY E A H kc kn Q (pc + 1) ls (.int (x * y) :: rest)) : yY E A H kc kn Q pc ls (.int y :: .int x :: rest) := fun locs hS => lv_imul hE.1 hE.2.1 hdg (k locs hS)
theorem y_iand {E : yE} {z : State} {D : yD} {A : Nat → Prop} {own0 : String} {cc : ByteArray} {nL0 : Nat} {ret0 : Option FieldType} {H : Heap} {kc kn d mc ms : Nat} {Q : State → Prop} {pc : Nat} {ls : Array Slot} {rest : List Value} (hE : yOk E z D A own0 cc nL0 ret0 d mc ms) {x y : Int32} (hdg : decode cc pc = .ok (.iand, 1)) (k : yY E A H kc kn Q (pc + 1) ls (.int (x &&& y) :: rest)) : yY E A H kc kn Q pc ls (.int y :: .int x :: rest) := fun locs hS => lv_iand hE.1 hE.2.1 hdg (k locs hS)
theorem y_idiv {E : yE} {z : State} {D : yD} {A : Nat → Prop} {own0 : String} {cc : ByteArray} {nL0 : Nat} {ret0 : Option FieldType} {H : Heap} {kc kn d mc ms : Nat} {Q : State → Prop} {pc : Nat} {ls : Array Slot} {rest : List Value} (hE : yOk E z D A own0 cc nL0 ret0 d mc ms) {x y : Int32} (hdg : decode cc pc = .ok (.idiv, 1)) (hne : ¬ y = 0) (k : yY E A H kc kn Q (pc + 1) ls (.int (x / y) :: rest)) : yY E A H kc kn Q pc ls (.int y :: .int x :: rest) := fun locs hS => lv_idiv hE.1 hE.2.1 hdg hne (k locs hS)
theorem y_irem {E : yE} {z : State} {D : yD} {A : Nat → Prop} {own0 : String} {cc : ByteArray} {nL0 : Nat} {ret0 : Option FieldType} {H : Heap} {kc kn d mc ms : Nat} {Q : State → Prop} {pc : Nat} {ls : Array Slot} {rest : List Value} (hE : yOk E z D A own0 cc nL0 ret0 d mc ms) {x y : Int32} (hdg : decode cc pc = .ok (.irem, 1)) (hne : ¬ y = 0) (k : yY E A H kc kn Q (pc + 1) ls (.int (x - x / y * y) :: rest)) : yY E A H kc kn Q pc ls (.int y :: .int x :: rest) := fun locs hS => lv_irem hE.1 hE.2.1 hdg hne (k locs hS)
theorem y_ineg {E : yE} {z : State} {D : yD} {A : Nat → Prop} {own0 : String} {cc : ByteArray} {nL0 : Nat} {ret0 : Option FieldType} {H : Heap} {kc kn d mc ms : Nat} {Q : State → Prop} {pc : Nat} {ls : Array Slot} {rest : List Value} (hE : yOk E z D A own0 cc nL0 ret0 d mc ms) {x : Int32} (hdg : decode cc pc = .ok (.ineg, 1)) (k : yY E A H kc kn Q (pc + 1) ls (.int (-x) :: rest)) : yY E A H kc kn Q pc ls (.int x :: rest) := fun locs hS => lv_ineg hE.1 hE.2.1 hdg (k locs hS)
theorem y_ladd {E : yE} {z : State} {D : yD} {A : Nat → Prop} {own0 : String} {cc : ByteArray} {nL0 : Nat} {ret0 : Option FieldType} {H : Heap} {kc kn d mc ms : Nat} {Q : State → Prop} {pc : Nat} {ls : Array Slot} {rest : List Value} (hE : yOk E z D A own0 cc nL0 ret0 d mc ms) {x y : Int64} (hdg : decode cc pc = .ok (.ladd, 1)) (k : yY E A H kc kn Q (pc + 1) ls (.long (x + y) :: rest)) : yY E A H kc kn Q pc ls (.long y :: .long x :: rest) := fun locs hS => lv_ladd hE.1 hE.2.1 hdg (k locs hS)
theorem y_lsub {E : yE} {z : State} {D : yD} {A : Nat → Prop} {own0 : String} {cc : ByteArray} {nL0 : Nat} {ret0 : Option FieldType} {H : Heap} {kc kn d mc ms : Nat} {Q : State → Prop} {pc : Nat} {ls : Array Slot} {rest : List Value} (hE : yOk E z D A own0 cc nL0 ret0 d mc ms) {x y : Int64} (hdg : decode cc pc = .ok (.lsub, 1)) (k : yY E A H kc kn Q (pc + 1) ls (.long (x - y) :: rest)) : yY E A H kc kn Q pc ls (.long y :: .long x :: rest) := fun locs hS => lv_lsub hE.1 hE.2.1 hdg (k locs hS)
theorem y_ishl {E : yE} {z : State} {D : yD} {A : Nat → Prop} {own0 : String} {cc : ByteArray} {nL0 : Nat} {ret0 : Option FieldType} {H : Heap} {kc kn d mc ms : Nat} {Q : State → Prop} {pc : Nat} {ls : Array Slot} {rest : List Value} (hE : yOk E z D A own0 cc nL0 ret0 d mc ms) {x y : Int32} (hdg : decode cc pc = .ok (.ishl, 1)) (k : yY E A H kc kn Q (pc + 1) ls (.int (x <<< (y &&& 31)) :: rest)) : yY E A H kc kn Q pc ls (.int y :: .int x :: rest) := fun locs hS => lv_ishl hE.1 hE.2.1 hdg (k locs hS)
theorem y_ishr {E : yE} {z : State} {D : yD} {A : Nat → Prop} {own0 : String} {cc : ByteArray} {nL0 : Nat} {ret0 : Option FieldType} {H : Heap} {kc kn d mc ms : Nat} {Q : State → Prop} {pc : Nat} {ls : Array Slot} {rest : List Value} (hE : yOk E z D A own0 cc nL0 ret0 d mc ms) {x y : Int32} (hdg : decode cc pc = .ok (.ishr, 1)) (k : yY E A H kc kn Q (pc + 1) ls (.int (x >>> (y &&& 31)) :: rest)) : yY E A H kc kn Q pc ls (.int y :: .int x :: rest) := fun locs hS => lv_ishr hE.1 hE.2.1 hdg (k locs hS)
theorem y_i2l {E : yE} {z : State} {D : yD} {A : Nat → Prop} {own0 : String} {cc : ByteArray} {nL0 : Nat} {ret0 : Option FieldType} {H : Heap} {kc kn d mc ms : Nat} {Q : State → Prop} {pc : Nat} {ls : Array Slot} {rest : List Value} (hE : yOk E z D A own0 cc nL0 ret0 d mc ms) {x : Int32} {v : Int64} (hdg : decode cc pc = .ok (.i2l, 1)) (hv : x.toInt64 = v) (k : yY E A H kc kn Q (pc + 1) ls (.long v :: rest)) : yY E A H kc kn Q pc ls (.int x :: rest) := fun locs hS => lv_i2l hE.1 hE.2.1 hdg hv (k locs hS)
theorem y_l2i {E : yE} {z : State} {D : yD} {A : Nat → Prop} {own0 : String} {cc : ByteArray} {nL0 : Nat} {ret0 : Option FieldType} {H : Heap} {kc kn d mc ms : Nat} {Q : State → Prop} {pc : Nat} {ls : Array Slot} {rest : List Value} (hE : yOk E z D A own0 cc nL0 ret0 d mc ms) {x : Int64} {v : Int32} (hdg : decode cc pc = .ok (.l2i, 1)) (hv : x.toInt32 = v) (k : yY E A H kc kn Q (pc + 1) ls (.int v :: rest)) : yY E A H kc kn Q pc ls (.long x :: rest) := fun locs hS => lv_l2i hE.1 hE.2.1 hdg hv (k locs hS)
theorem y_i2b {E : yE} {z : State} {D : yD} {A : Nat → Prop} {own0 : String} {cc : ByteArray} {nL0 : Nat} {ret0 : Option FieldType} {H : Heap} {kc kn d mc ms : Nat} {Q : State → Prop} {pc : Nat} {ls : Array Slot} {rest : List Value} (hE : yOk E z D A own0 cc nL0 ret0 d mc ms) {x : Int32} {v : Int32} (hdg : decode cc pc = .ok (.i2b, 1)) (hv : x.toInt8.toInt32 = v) (k : yY E A H kc kn Q (pc + 1) ls (.int v :: rest)) : yY E A H kc kn Q pc ls (.int x :: rest) := fun locs hS => lv_i2b hE.1 hE.2.1 hdg hv (k locs hS)
theorem y_i2c {E : yE} {z : State} {D : yD} {A : Nat → Prop} {own0 : String} {cc : ByteArray} {nL0 : Nat} {ret0 : Option FieldType} {H : Heap} {kc kn d mc ms : Nat} {Q : State → Prop} {pc : Nat} {ls : Array Slot} {rest : List Value} (hE : yOk E z D A own0 cc nL0 ret0 d mc ms) {x : Int32} {v : Int32} (hdg : decode cc pc = .ok (.i2c, 1)) (hv : (x.toUInt32 % 65536).toInt32 = v) (k : yY E A H kc kn Q (pc + 1) ls (.int v :: rest)) : yY E A H kc kn Q pc ls (.int x :: rest) := fun locs hS => lv_i2c hE.1 hE.2.1 hdg hv (k locs hS)
theorem y_dup {E : yE} {z : State} {D : yD} {A : Nat → Prop} {own0 : String} {cc : ByteArray} {nL0 : Nat} {ret0 : Option FieldType} {H : Heap} {kc kn d mc ms : Nat} {Q : State → Prop} {pc : Nat} {ls : Array Slot} {rest : List Value} (hE : yOk E z D A own0 cc nL0 ret0 d mc ms) {va : Value} (hdg : decode cc pc = .ok (.dup, 1)) (hva : va.category = 1) (k : yY E A H kc kn Q (pc + 1) ls (va :: va :: rest)) : yY E A H kc kn Q pc ls (va :: rest) := fun locs hS => lv_dup hE.1 hE.2.1 hdg hva (k locs hS)
theorem y_pop {E : yE} {z : State} {D : yD} {A : Nat → Prop} {own0 : String} {cc : ByteArray} {nL0 : Nat} {ret0 : Option FieldType} {H : Heap} {kc kn d mc ms : Nat} {Q : State → Prop} {pc : Nat} {ls : Array Slot} {rest : List Value} (hE : yOk E z D A own0 cc nL0 ret0 d mc ms) {va : Value} (hdg : decode cc pc = .ok (.pop, 1)) (hva : va.category = 1) (k : yY E A H kc kn Q (pc + 1) ls (rest)) : yY E A H kc kn Q pc ls (va :: rest) := fun locs hS => lv_pop hE.1 hE.2.1 hdg hva (k locs hS)
theorem y_dup_x1 {E : yE} {z : State} {D : yD} {A : Nat → Prop} {own0 : String} {cc : ByteArray} {nL0 : Nat} {ret0 : Option FieldType} {H : Heap} {kc kn d mc ms : Nat} {Q : State → Prop} {pc : Nat} {ls : Array Slot} {rest : List Value} (hE : yOk E z D A own0 cc nL0 ret0 d mc ms) {va vb : Value} (hdg : decode cc pc = .ok (.dup_x1, 1)) (hva : va.category = 1) (hvb : vb.category = 1) (k : yY E A H kc kn Q (pc + 1) ls (va :: vb :: va :: rest)) : yY E A H kc kn Q pc ls (va :: vb :: rest) := fun locs hS => lv_dup_x1 hE.1 hE.2.1 hdg hva hvb (k locs hS)
theorem y_dup2_11 {E : yE} {z : State} {D : yD} {A : Nat → Prop} {own0 : String} {cc : ByteArray} {nL0 : Nat} {ret0 : Option FieldType} {H : Heap} {kc kn d mc ms : Nat} {Q : State → Prop} {pc : Nat} {ls : Array Slot} {rest : List Value} (hE : yOk E z D A own0 cc nL0 ret0 d mc ms) {va vb : Value} (hdg : decode cc pc = .ok (.dup2, 1)) (hva : va.category = 1) (hvb : vb.category = 1) (k : yY E A H kc kn Q (pc + 1) ls (va :: vb :: va :: vb :: rest)) : yY E A H kc kn Q pc ls (va :: vb :: rest) := fun locs hS => lv_dup2_11 hE.1 hE.2.1 hdg hva hvb (k locs hS)
theorem y_dup2_2 {E : yE} {z : State} {D : yD} {A : Nat → Prop} {own0 : String} {cc : ByteArray} {nL0 : Nat} {ret0 : Option FieldType} {H : Heap} {kc kn d mc ms : Nat} {Q : State → Prop} {pc : Nat} {ls : Array Slot} {rest : List Value} (hE : yOk E z D A own0 cc nL0 ret0 d mc ms) {va : Value} (hdg : decode cc pc = .ok (.dup2, 1)) (hva : va.category = 2) (k : yY E A H kc kn Q (pc + 1) ls (va :: va :: rest)) : yY E A H kc kn Q pc ls (va :: rest) := fun locs hS => lv_dup2_2 hE.1 hE.2.1 hdg hva (k locs hS)
theorem y_if_eq {E : yE} {z : State} {D : yD} {A : Nat → Prop} {own0 : String} {cc : ByteArray} {nL0 : Nat} {ret0 : Option FieldType} {H : Heap} {kc kn d mc ms : Nat} {Q : State → Prop} {pc : Nat} {ls : Array Slot} {rest : List Value} (hE : yOk E z D A own0 cc nL0 ret0 d mc ms) {x : Int32} {off : Int} {tgt : Nat} (hdg : decode cc pc = .ok (.ifCond .eq off, 3)) (ht : (pc : Int) + off = (tgt : Int)) (kt : x = 0 → yY E A H kc kn Q tgt ls rest) (kf : ¬ x = 0 → yY E A H kc kn Q (pc + 3) ls rest) : yY E A H kc kn Q pc ls (.int x :: rest) := fun locs hS => lv_if_eq hE.1 hE.2.1 hdg ht (fun v0 => kt v0 locs hS) (fun v0 => kf v0 locs hS)
theorem y_icmp_eq {E : yE} {z : State} {D : yD} {A : Nat → Prop} {own0 : String} {cc : ByteArray} {nL0 : Nat} {ret0 : Option FieldType} {H : Heap} {kc kn d mc ms : Nat} {Q : State → Prop} {pc : Nat} {ls : Array Slot} {rest : List Value} (hE : yOk E z D A own0 cc nL0 ret0 d mc ms) {x y : Int32} {off : Int} {tgt : Nat} (hdg : decode cc pc = .ok (.if_icmp .eq off, 3)) (ht : (pc : Int) + off = (tgt : Int)) (kt : x = y → yY E A H kc kn Q tgt ls rest) (kf : ¬ x = y → yY E A H kc kn Q (pc + 3) ls rest) : yY E A H kc kn Q pc ls (.int y :: .int x :: rest) := fun locs hS => lv_icmp_eq hE.1 hE.2.1 hdg ht (fun v0 => kt v0 locs hS) (fun v0 => kf v0 locs hS)
theorem y_if_ne {E : yE} {z : State} {D : yD} {A : Nat → Prop} {own0 : String} {cc : ByteArray} {nL0 : Nat} {ret0 : Option FieldType} {H : Heap} {kc kn d mc ms : Nat} {Q : State → Prop} {pc : Nat} {ls : Array Slot} {rest : List Value} (hE : yOk E z D A own0 cc nL0 ret0 d mc ms) {x : Int32} {off : Int} {tgt : Nat} (hdg : decode cc pc = .ok (.ifCond .ne off, 3)) (ht : (pc : Int) + off = (tgt : Int)) (kt : ¬ x = 0 → yY E A H kc kn Q tgt ls rest) (kf : x = 0 → yY E A H kc kn Q (pc + 3) ls rest) : yY E A H kc kn Q pc ls (.int x :: rest) := fun locs hS => lv_if_ne hE.1 hE.2.1 hdg ht (fun v0 => kt v0 locs hS) (fun v0 => kf v0 locs hS)
theorem y_icmp_ne {E : yE} {z : State} {D : yD} {A : Nat → Prop} {own0 : String} {cc : ByteArray} {nL0 : Nat} {ret0 : Option FieldType} {H : Heap} {kc kn d mc ms : Nat} {Q : State → Prop} {pc : Nat} {ls : Array Slot} {rest : List Value} (hE : yOk E z D A own0 cc nL0 ret0 d mc ms) {x y : Int32} {off : Int} {tgt : Nat} (hdg : decode cc pc = .ok (.if_icmp .ne off, 3)) (ht : (pc : Int) + off = (tgt : Int)) (kt : ¬ x = y → yY E A H kc kn Q tgt ls rest) (kf : x = y → yY E A H kc kn Q (pc + 3) ls rest) : yY E A H kc kn Q pc ls (.int y :: .int x :: rest) := fun locs hS => lv_icmp_ne hE.1 hE.2.1 hdg ht (fun v0 => kt v0 locs hS) (fun v0 => kf v0 locs hS)
theorem y_if_lt {E : yE} {z : State} {D : yD} {A : Nat → Prop} {own0 : String} {cc : ByteArray} {nL0 : Nat} {ret0 : Option FieldType} {H : Heap} {kc kn d mc ms : Nat} {Q : State → Prop} {pc : Nat} {ls : Array Slot} {rest : List Value} (hE : yOk E z D A own0 cc nL0 ret0 d mc ms) {x : Int32} {off : Int} {tgt : Nat} (hdg : decode cc pc = .ok (.ifCond .lt off, 3)) (ht : (pc : Int) + off = (tgt : Int)) (kt : x < 0 → yY E A H kc kn Q tgt ls rest) (kf : ¬ x < 0 → yY E A H kc kn Q (pc + 3) ls rest) : yY E A H kc kn Q pc ls (.int x :: rest) := fun locs hS => lv_if_lt hE.1 hE.2.1 hdg ht (fun v0 => kt v0 locs hS) (fun v0 => kf v0 locs hS)
theorem y_icmp_lt {E : yE} {z : State} {D : yD} {A : Nat → Prop} {own0 : String} {cc : ByteArray} {nL0 : Nat} {ret0 : Option FieldType} {H : Heap} {kc kn d mc ms : Nat} {Q : State → Prop} {pc : Nat} {ls : Array Slot} {rest : List Value} (hE : yOk E z D A own0 cc nL0 ret0 d mc ms) {x y : Int32} {off : Int} {tgt : Nat} (hdg : decode cc pc = .ok (.if_icmp .lt off, 3)) (ht : (pc : Int) + off = (tgt : Int)) (kt : x < y → yY E A H kc kn Q tgt ls rest) (kf : ¬ x < y → yY E A H kc kn Q (pc + 3) ls rest) : yY E A H kc kn Q pc ls (.int y :: .int x :: rest) := fun locs hS => lv_icmp_lt hE.1 hE.2.1 hdg ht (fun v0 => kt v0 locs hS) (fun v0 => kf v0 locs hS)
theorem y_if_ge {E : yE} {z : State} {D : yD} {A : Nat → Prop} {own0 : String} {cc : ByteArray} {nL0 : Nat} {ret0 : Option FieldType} {H : Heap} {kc kn d mc ms : Nat} {Q : State → Prop} {pc : Nat} {ls : Array Slot} {rest : List Value} (hE : yOk E z D A own0 cc nL0 ret0 d mc ms) {x : Int32} {off : Int} {tgt : Nat} (hdg : decode cc pc = .ok (.ifCond .ge off, 3)) (ht : (pc : Int) + off = (tgt : Int)) (kt : 0 ≤ x → yY E A H kc kn Q tgt ls rest) (kf : ¬ 0 ≤ x → yY E A H kc kn Q (pc + 3) ls rest) : yY E A H kc kn Q pc ls (.int x :: rest) := fun locs hS => lv_if_ge hE.1 hE.2.1 hdg ht (fun v0 => kt v0 locs hS) (fun v0 => kf v0 locs hS)
theorem y_icmp_ge {E : yE} {z : State} {D : yD} {A : Nat → Prop} {own0 : String} {cc : ByteArray} {nL0 : Nat} {ret0 : Option FieldType} {H : Heap} {kc kn d mc ms : Nat} {Q : State → Prop} {pc : Nat} {ls : Array Slot} {rest : List Value} (hE : yOk E z D A own0 cc nL0 ret0 d mc ms) {x y : Int32} {off : Int} {tgt : Nat} (hdg : decode cc pc = .ok (.if_icmp .ge off, 3)) (ht : (pc : Int) + off = (tgt : Int)) (kt : y ≤ x → yY E A H kc kn Q tgt ls rest) (kf : ¬ y ≤ x → yY E A H kc kn Q (pc + 3) ls rest) : yY E A H kc kn Q pc ls (.int y :: .int x :: rest) := fun locs hS => lv_icmp_ge hE.1 hE.2.1 hdg ht (fun v0 => kt v0 locs hS) (fun v0 => kf v0 locs hS)
theorem y_if_gt {E : yE} {z : State} {D : yD} {A : Nat → Prop} {own0 : String} {cc : ByteArray} {nL0 : Nat} {ret0 : Option FieldType} {H : Heap} {kc kn d mc ms : Nat} {Q : State → Prop} {pc : Nat} {ls : Array Slot} {rest : List Value} (hE : yOk E z D A own0 cc nL0 ret0 d mc ms) {x : Int32} {off : Int} {tgt : Nat} (hdg : decode cc pc = .ok (.ifCond .gt off, 3)) (ht : (pc : Int) + off = (tgt : Int)) (kt : 0 < x → yY E A H kc kn Q tgt ls rest) (kf : ¬ 0 < x → yY E A H kc kn Q (pc + 3) ls rest) : yY E A H kc kn Q pc ls (.int x :: rest) := fun locs hS => lv_if_gt hE.1 hE.2.1 hdg ht (fun v0 => kt v0 locs hS) (fun v0 => kf v0 locs hS)
theorem y_icmp_gt {E : yE} {z : State} {D : yD} {A : Nat → Prop} {own0 : String} {cc : ByteArray} {nL0 : Nat} {ret0 : Option FieldType} {H : Heap} {kc kn d mc ms : Nat} {Q : State → Prop} {pc : Nat} {ls : Array Slot} {rest : List Value} (hE : yOk E z D A own0 cc nL0 ret0 d mc ms) {x y : Int32} {off : Int} {tgt : Nat} (hdg : decode cc pc = .ok (.if_icmp .gt off, 3)) (ht : (pc : Int) + off = (tgt : Int)) (kt : y < x → yY E A H kc kn Q tgt ls rest) (kf : ¬ y < x → yY E A H kc kn Q (pc + 3) ls rest) : yY E A H kc kn Q pc ls (.int y :: .int x :: rest) := fun locs hS => lv_icmp_gt hE.1 hE.2.1 hdg ht (fun v0 => kt v0 locs hS) (fun v0 => kf v0 locs hS)
theorem y_if_le {E : yE} {z : State} {D : yD} {A : Nat → Prop} {own0 : String} {cc : ByteArray} {nL0 : Nat} {ret0 : Option FieldType} {H : Heap} {kc kn d mc ms : Nat} {Q : State → Prop} {pc : Nat} {ls : Array Slot} {rest : List Value} (hE : yOk E z D A own0 cc nL0 ret0 d mc ms) {x : Int32} {off : Int} {tgt : Nat} (hdg : decode cc pc = .ok (.ifCond .le off, 3)) (ht : (pc : Int) + off = (tgt : Int)) (kt : x ≤ 0 → yY E A H kc kn Q tgt ls rest) (kf : ¬ x ≤ 0 → yY E A H kc kn Q (pc + 3) ls rest) : yY E A H kc kn Q pc ls (.int x :: rest) := fun locs hS => lv_if_le hE.1 hE.2.1 hdg ht (fun v0 => kt v0 locs hS) (fun v0 => kf v0 locs hS)
theorem y_icmp_le {E : yE} {z : State} {D : yD} {A : Nat → Prop} {own0 : String} {cc : ByteArray} {nL0 : Nat} {ret0 : Option FieldType} {H : Heap} {kc kn d mc ms : Nat} {Q : State → Prop} {pc : Nat} {ls : Array Slot} {rest : List Value} (hE : yOk E z D A own0 cc nL0 ret0 d mc ms) {x y : Int32} {off : Int} {tgt : Nat} (hdg : decode cc pc = .ok (.if_icmp .le off, 3)) (ht : (pc : Int) + off = (tgt : Int)) (kt : x ≤ y → yY E A H kc kn Q tgt ls rest) (kf : ¬ x ≤ y → yY E A H kc kn Q (pc + 3) ls rest) : yY E A H kc kn Q pc ls (.int y :: .int x :: rest) := fun locs hS => lv_icmp_le hE.1 hE.2.1 hdg ht (fun v0 => kt v0 locs hS) (fun v0 => kf v0 locs hS)
theorem y_goto {E : yE} {z : State} {D : yD} {A : Nat → Prop} {own0 : String} {cc : ByteArray} {nL0 : Nat} {ret0 : Option FieldType} {H : Heap} {kc kn d mc ms : Nat} {Q : State → Prop} {pc : Nat} {ls : Array Slot} {rest : List Value} (hE : yOk E z D A own0 cc nL0 ret0 d mc ms) {off : Int} {tgt : Nat} (hdg : decode cc pc = .ok (.goto off, 3)) (ht : (pc : Int) + off = (tgt : Int)) (k : yY E A H kc kn Q tgt ls rest) : yY E A H kc kn Q pc ls rest := fun locs hS => lv_goto hE.1 hE.2.1 hdg ht (k locs hS)
theorem y_dconst0 {E : yE} {z : State} {D : yD} {A : Nat → Prop} {own0 : String} {cc : ByteArray} {nL0 : Nat} {ret0 : Option FieldType} {H : Heap} {kc kn d mc ms : Nat} {Q : State → Prop} {pc : Nat} {ls : Array Slot} {rest : List Value} (hE : yOk E z D A own0 cc nL0 ret0 d mc ms) (hdg : decode cc pc = .ok (.dconst 0, 1)) (k : yY E A H kc kn Q (pc + 1) ls (.double FP.dconst0 :: rest)) : yY E A H kc kn Q pc ls (rest) := fun locs hS => lv_dconst0 hE.1 hE.2.1 hdg (k locs hS)
theorem y_fconst0 {E : yE} {z : State} {D : yD} {A : Nat → Prop} {own0 : String} {cc : ByteArray} {nL0 : Nat} {ret0 : Option FieldType} {H : Heap} {kc kn d mc ms : Nat} {Q : State → Prop} {pc : Nat} {ls : Array Slot} {rest : List Value} (hE : yOk E z D A own0 cc nL0 ret0 d mc ms) (hdg : decode cc pc = .ok (.fconst 0, 1)) (k : yY E A H kc kn Q (pc + 1) ls (.float FP.fconst0 :: rest)) : yY E A H kc kn Q pc ls (rest) := fun locs hS => lv_fconst0 hE.1 hE.2.1 hdg (k locs hS)
theorem y_fload_n {E : yE} {z : State} {D : yD} {A : Nat → Prop} {own0 : String} {cc : ByteArray} {nL0 : Nat} {ret0 : Option FieldType} {H : Heap} {kc kn d mc ms : Nat} {Q : State → Prop} {pc : Nat} {ls : Array Slot} {rest : List Value} (hE : yOk E z D A own0 cc nL0 ret0 d mc ms) {k : Fin 4} {i : Nat} {x : UInt32} (hdg : decode cc pc = .ok (.fload_n k, 1)) (hi : (k : Nat) = i) (hl : ls[i]? = some (.val (.float x))) (k : yY E A H kc kn Q (pc + 1) ls (.float x :: rest)) : yY E A H kc kn Q pc ls (rest) := fun locs hS => lv_fload_n hE.1 hE.2.1 hdg hi hl (k locs hS)
theorem y_fload {E : yE} {z : State} {D : yD} {A : Nat → Prop} {own0 : String} {cc : ByteArray} {nL0 : Nat} {ret0 : Option FieldType} {H : Heap} {kc kn d mc ms : Nat} {Q : State → Prop} {pc : Nat} {ls : Array Slot} {rest : List Value} (hE : yOk E z D A own0 cc nL0 ret0 d mc ms) {i : Nat} {x : UInt32} (hdg : decode cc pc = .ok (.fload i, 2)) (hl : ls[i]? = some (.val (.float x))) (k : yY E A H kc kn Q (pc + 2) ls (.float x :: rest)) : yY E A H kc kn Q pc ls (rest) := fun locs hS => lv_fload hE.1 hE.2.1 hdg hl (k locs hS)
theorem y_fdiv {E : yE} {z : State} {D : yD} {A : Nat → Prop} {own0 : String} {cc : ByteArray} {nL0 : Nat} {ret0 : Option FieldType} {H : Heap} {kc kn d mc ms : Nat} {Q : State → Prop} {pc : Nat} {ls : Array Slot} {rest : List Value} (hE : yOk E z D A own0 cc nL0 ret0 d mc ms) {x y : UInt32} (hdg : decode cc pc = .ok (.fdiv, 1)) (hne : vf_n32 (FP.fdiv x y)) (k : yY E A H kc kn Q (pc + 1) ls (.float (FP.fdiv x y) :: rest)) : yY E A H kc kn Q pc ls (.float y :: .float x :: rest) := fun locs hS => lv_fdiv hE.1 hE.2.1 hdg hne (k locs hS)
theorem y_fcmp {E : yE} {z : State} {D : yD} {A : Nat → Prop} {own0 : String} {cc : ByteArray} {nL0 : Nat} {ret0 : Option FieldType} {H : Heap} {kc kn d mc ms : Nat} {Q : State → Prop} {pc : Nat} {ls : Array Slot} {rest : List Value} (hE : yOk E z D A own0 cc nL0 ret0 d mc ms) {x y : UInt32} {op : CmpOp} (hdg : decode cc pc = .ok (.fcmp op, 1)) (k : yY E A H kc kn Q (pc + 1) ls (.int (Op.cmpValue (FP.fcmp x y) op) :: rest)) : yY E A H kc kn Q pc ls (.float y :: .float x :: rest) := fun locs hS => lv_fcmp hE.1 hE.2.1 hdg (k locs hS)
theorem y_i2f {E : yE} {z : State} {D : yD} {A : Nat → Prop} {own0 : String} {cc : ByteArray} {nL0 : Nat} {ret0 : Option FieldType} {H : Heap} {kc kn d mc ms : Nat} {Q : State → Prop} {pc : Nat} {ls : Array Slot} {rest : List Value} (hE : yOk E z D A own0 cc nL0 ret0 d mc ms) {x : Int32} (hdg : decode cc pc = .ok (.i2f, 1)) (k : yY E A H kc kn Q (pc + 1) ls (.float (FP.i2f x) :: rest)) : yY E A H kc kn Q pc ls (.int x :: rest) := fun locs hS => lv_i2f hE.1 hE.2.1 hdg (k locs hS)
theorem y_dload_n {E : yE} {z : State} {D : yD} {A : Nat → Prop} {own0 : String} {cc : ByteArray} {nL0 : Nat} {ret0 : Option FieldType} {H : Heap} {kc kn d mc ms : Nat} {Q : State → Prop} {pc : Nat} {ls : Array Slot} {rest : List Value} (hE : yOk E z D A own0 cc nL0 ret0 d mc ms) {k : Fin 4} {i : Nat} {x : UInt64} (hdg : decode cc pc = .ok (.dload_n k, 1)) (hi : (k : Nat) = i) (hl : ls[i]? = some (.val (.double x))) (k : yY E A H kc kn Q (pc + 1) ls (.double x :: rest)) : yY E A H kc kn Q pc ls (rest) := fun locs hS => lv_dload_n hE.1 hE.2.1 hdg hi hl (k locs hS)
theorem y_dload {E : yE} {z : State} {D : yD} {A : Nat → Prop} {own0 : String} {cc : ByteArray} {nL0 : Nat} {ret0 : Option FieldType} {H : Heap} {kc kn d mc ms : Nat} {Q : State → Prop} {pc : Nat} {ls : Array Slot} {rest : List Value} (hE : yOk E z D A own0 cc nL0 ret0 d mc ms) {i : Nat} {x : UInt64} (hdg : decode cc pc = .ok (.dload i, 2)) (hl : ls[i]? = some (.val (.double x))) (k : yY E A H kc kn Q (pc + 2) ls (.double x :: rest)) : yY E A H kc kn Q pc ls (rest) := fun locs hS => lv_dload hE.1 hE.2.1 hdg hl (k locs hS)
theorem y_ddiv {E : yE} {z : State} {D : yD} {A : Nat → Prop} {own0 : String} {cc : ByteArray} {nL0 : Nat} {ret0 : Option FieldType} {H : Heap} {kc kn d mc ms : Nat} {Q : State → Prop} {pc : Nat} {ls : Array Slot} {rest : List Value} (hE : yOk E z D A own0 cc nL0 ret0 d mc ms) {x y : UInt64} (hdg : decode cc pc = .ok (.ddiv, 1)) (hne : vf_n64 (FP.ddiv x y)) (k : yY E A H kc kn Q (pc + 1) ls (.double (FP.ddiv x y) :: rest)) : yY E A H kc kn Q pc ls (.double y :: .double x :: rest) := fun locs hS => lv_ddiv hE.1 hE.2.1 hdg hne (k locs hS)
theorem y_dcmp {E : yE} {z : State} {D : yD} {A : Nat → Prop} {own0 : String} {cc : ByteArray} {nL0 : Nat} {ret0 : Option FieldType} {H : Heap} {kc kn d mc ms : Nat} {Q : State → Prop} {pc : Nat} {ls : Array Slot} {rest : List Value} (hE : yOk E z D A own0 cc nL0 ret0 d mc ms) {x y : UInt64} {op : CmpOp} (hdg : decode cc pc = .ok (.dcmp op, 1)) (k : yY E A H kc kn Q (pc + 1) ls (.int (Op.cmpValue (FP.dcmp x y) op) :: rest)) : yY E A H kc kn Q pc ls (.double y :: .double x :: rest) := fun locs hS => lv_dcmp hE.1 hE.2.1 hdg (k locs hS)
theorem y_i2d {E : yE} {z : State} {D : yD} {A : Nat → Prop} {own0 : String} {cc : ByteArray} {nL0 : Nat} {ret0 : Option FieldType} {H : Heap} {kc kn d mc ms : Nat} {Q : State → Prop} {pc : Nat} {ls : Array Slot} {rest : List Value} (hE : yOk E z D A own0 cc nL0 ret0 d mc ms) {x : Int32} (hdg : decode cc pc = .ok (.i2d, 1)) (k : yY E A H kc kn Q (pc + 1) ls (.double (FP.i2d x) :: rest)) : yY E A H kc kn Q pc ls (.int x :: rest) := fun locs hS => lv_i2d hE.1 hE.2.1 hdg (k locs hS)
theorem y_f2d {E : yE} {z : State} {D : yD} {A : Nat → Prop} {own0 : String} {cc : ByteArray} {nL0 : Nat} {ret0 : Option FieldType} {H : Heap} {kc kn d mc ms : Nat} {Q : State → Prop} {pc : Nat} {ls : Array Slot} {rest : List Value} (hE : yOk E z D A own0 cc nL0 ret0 d mc ms) {x : UInt32} (hdg : decode cc pc = .ok (.f2d, 1)) (hne : vf_n64 (FP.f2d x)) (k : yY E A H kc kn Q (pc + 1) ls (.double (FP.f2d x) :: rest)) : yY E A H kc kn Q pc ls (.float x :: rest) := fun locs hS => lv_f2d hE.1 hE.2.1 hdg hne (k locs hS)
theorem y_fstore_n {E : yE} {z : State} {D : yD} {A : Nat → Prop} {own0 : String} {cc : ByteArray} {nL0 : Nat} {ret0 : Option FieldType} {H : Heap} {kc kn d mc ms : Nat} {Q : State → Prop} {pc : Nat} {ls : Array Slot} {rest : List Value} (hE : yOk E z D A own0 cc nL0 ret0 d mc ms) {k : Fin 4} {i nL : Nat} {x : UInt32} {lv lv' : List (Nat × Value)} (hdg : decode cc pc = .ok (.fstore_n k, 1)) (hi : (k : Nat) = i) (h : lv_has ls nL lv) (hn : i < nL) (hl : (i, Value.float x) :: lv.filter (fun q => !(q.1 == i) && !(q.1 + 1 == i && q.2.category == 2)) = lv') (kk : ∀ ls' : Array Slot, lv_has ls' nL lv' → yY E A H kc kn Q (pc + 1) ls' rest) : yY E A H kc kn Q pc ls (.float x :: rest) := fun locs hS => lv_fstore_n hE.1 hE.2.1 hdg hi h hn hl (fun v0 v1 => kk v0 v1 locs hS)
theorem y_fstore {E : yE} {z : State} {D : yD} {A : Nat → Prop} {own0 : String} {cc : ByteArray} {nL0 : Nat} {ret0 : Option FieldType} {H : Heap} {kc kn d mc ms : Nat} {Q : State → Prop} {pc : Nat} {ls : Array Slot} {rest : List Value} (hE : yOk E z D A own0 cc nL0 ret0 d mc ms) {i nL : Nat} {x : UInt32} {lv lv' : List (Nat × Value)} (hdg : decode cc pc = .ok (.fstore i, 2)) (h : lv_has ls nL lv) (hn : i < nL) (hl : (i, Value.float x) :: lv.filter (fun q => !(q.1 == i) && !(q.1 + 1 == i && q.2.category == 2)) = lv') (kk : ∀ ls' : Array Slot, lv_has ls' nL lv' → yY E A H kc kn Q (pc + 2) ls' rest) : yY E A H kc kn Q pc ls (.float x :: rest) := fun locs hS => lv_fstore hE.1 hE.2.1 hdg h hn hl (fun v0 v1 => kk v0 v1 locs hS)
theorem y_dstore_n {E : yE} {z : State} {D : yD} {A : Nat → Prop} {own0 : String} {cc : ByteArray} {nL0 : Nat} {ret0 : Option FieldType} {H : Heap} {kc kn d mc ms : Nat} {Q : State → Prop} {pc : Nat} {ls : Array Slot} {rest : List Value} (hE : yOk E z D A own0 cc nL0 ret0 d mc ms) {k : Fin 4} {i nL : Nat} {x : UInt64} {lv lv' : List (Nat × Value)} (hdg : decode cc pc = .ok (.dstore_n k, 1)) (hi : (k : Nat) = i) (h : lv_has ls nL lv) (hn : i + 1 < nL) (hl : (i, Value.double x) :: lv.filter (fun q => !(q.1 == i) && (!(q.1 == i + 1) && !(q.1 + 1 == i && q.2.category == 2))) = lv') (kk : ∀ ls' : Array Slot, lv_has ls' nL lv' → yY E A H kc kn Q (pc + 1) ls' rest) : yY E A H kc kn Q pc ls (.double x :: rest) := fun locs hS => lv_dstore_n hE.1 hE.2.1 hdg hi h hn hl (fun v0 v1 => kk v0 v1 locs hS)
theorem y_dstore {E : yE} {z : State} {D : yD} {A : Nat → Prop} {own0 : String} {cc : ByteArray} {nL0 : Nat} {ret0 : Option FieldType} {H : Heap} {kc kn d mc ms : Nat} {Q : State → Prop} {pc : Nat} {ls : Array Slot} {rest : List Value} (hE : yOk E z D A own0 cc nL0 ret0 d mc ms) {i nL : Nat} {x : UInt64} {lv lv' : List (Nat × Value)} (hdg : decode cc pc = .ok (.dstore i, 2)) (h : lv_has ls nL lv) (hn : i + 1 < nL) (hl : (i, Value.double x) :: lv.filter (fun q => !(q.1 == i) && (!(q.1 == i + 1) && !(q.1 + 1 == i && q.2.category == 2))) = lv') (kk : ∀ ls' : Array Slot, lv_has ls' nL lv' → yY E A H kc kn Q (pc + 2) ls' rest) : yY E A H kc kn Q pc ls (.double x :: rest) := fun locs hS => lv_dstore hE.1 hE.2.1 hdg h hn hl (fun v0 v1 => kk v0 v1 locs hS)
theorem y_ifnonnull {E : yE} {z : State} {D : yD} {A : Nat → Prop} {own0 : String} {cc : ByteArray} {nL0 : Nat} {ret0 : Option FieldType} {H : Heap} {kc kn d mc ms : Nat} {Q : State → Prop} {pc : Nat} {ls : Array Slot} {rest : List Value} (hE : yOk E z D A own0 cc nL0 ret0 d mc ms) {x : Nat} {off : Int} {tgt : Nat} (hdg : decode cc pc = .ok (.ifnonnull off, 3)) (ht : (pc : Int) + off = (tgt : Int)) (k : yY E A H kc kn Q tgt ls rest) : yY E A H kc kn Q pc ls (.ref x :: rest) := fun locs hS => lv_ifnonnull hE.1 hE.2.1 hdg ht (k locs hS)
theorem y_ifnull {E : yE} {z : State} {D : yD} {A : Nat → Prop} {own0 : String} {cc : ByteArray} {nL0 : Nat} {ret0 : Option FieldType} {H : Heap} {kc kn d mc ms : Nat} {Q : State → Prop} {pc : Nat} {ls : Array Slot} {rest : List Value} (hE : yOk E z D A own0 cc nL0 ret0 d mc ms) {x : Nat} {off : Int} (hdg : decode cc pc = .ok (.ifnull off, 3)) (k : yY E A H kc kn Q (pc + 3) ls rest) : yY E A H kc kn Q pc ls (.ref x :: rest) := fun locs hS => lv_ifnull hE.1 hE.2.1 hdg (k locs hS)
theorem y_null {E : yE} {z : State} {D : yD} {A : Nat → Prop} {own0 : String} {cc : ByteArray} {nL0 : Nat} {ret0 : Option FieldType} {H : Heap} {kc kn d mc ms : Nat} {Q : State → Prop} {pc : Nat} {ls : Array Slot} {rest : List Value} (hE : yOk E z D A own0 cc nL0 ret0 d mc ms) (hdg : decode cc pc = .ok (.aconst_null, 1)) (k : yY E A H kc kn Q (pc + 1) ls (.null :: rest)) : yY E A H kc kn Q pc ls rest := fun locs hS => lv_null hE.1 hE.2.1 hdg (k locs hS)
theorem y_ifnullN {E : yE} {z : State} {D : yD} {A : Nat → Prop} {own0 : String} {cc : ByteArray} {nL0 : Nat} {ret0 : Option FieldType} {H : Heap} {kc kn d mc ms : Nat} {Q : State → Prop} {pc : Nat} {ls : Array Slot} {rest : List Value} (hE : yOk E z D A own0 cc nL0 ret0 d mc ms) {off : Int} {tgt : Nat} (hdg : decode cc pc = .ok (.ifnull off, 3)) (ht : (pc : Int) + off = (tgt : Int)) (k : yY E A H kc kn Q tgt ls rest) : yY E A H kc kn Q pc ls (.null :: rest) := fun locs hS => lv_ifnullN hE.1 hE.2.1 hdg ht (k locs hS)
theorem y_ifnonnullN {E : yE} {z : State} {D : yD} {A : Nat → Prop} {own0 : String} {cc : ByteArray} {nL0 : Nat} {ret0 : Option FieldType} {H : Heap} {kc kn d mc ms : Nat} {Q : State → Prop} {pc : Nat} {ls : Array Slot} {rest : List Value} (hE : yOk E z D A own0 cc nL0 ret0 d mc ms) {off : Int} (hdg : decode cc pc = .ok (.ifnonnull off, 3)) (k : yY E A H kc kn Q (pc + 3) ls rest) : yY E A H kc kn Q pc ls (.null :: rest) := fun locs hS => lv_ifnonnullN hE.1 hE.2.1 hdg (k locs hS)
theorem y_aload_nN {E : yE} {z : State} {D : yD} {A : Nat → Prop} {own0 : String} {cc : ByteArray} {nL0 : Nat} {ret0 : Option FieldType} {H : Heap} {kc kn d mc ms : Nat} {Q : State → Prop} {pc : Nat} {ls : Array Slot} {rest : List Value} (hE : yOk E z D A own0 cc nL0 ret0 d mc ms) {k : Fin 4} {i : Nat} (hdg : decode cc pc = .ok (.aload_n k, 1)) (hi : (k : Nat) = i) (hl : ls[i]? = some (.val (.null))) (k : yY E A H kc kn Q (pc + 1) ls (.null :: rest)) : yY E A H kc kn Q pc ls (rest) := fun locs hS => lv_aload_nN hE.1 hE.2.1 hdg hi hl (k locs hS)
theorem y_aloadN {E : yE} {z : State} {D : yD} {A : Nat → Prop} {own0 : String} {cc : ByteArray} {nL0 : Nat} {ret0 : Option FieldType} {H : Heap} {kc kn d mc ms : Nat} {Q : State → Prop} {pc : Nat} {ls : Array Slot} {rest : List Value} (hE : yOk E z D A own0 cc nL0 ret0 d mc ms) {i : Nat} (hdg : decode cc pc = .ok (.aload i, 2)) (hl : ls[i]? = some (.val (.null))) (k : yY E A H kc kn Q (pc + 2) ls (.null :: rest)) : yY E A H kc kn Q pc ls (rest) := fun locs hS => lv_aloadN hE.1 hE.2.1 hdg hl (k locs hS)
theorem y_astore_nN {E : yE} {z : State} {D : yD} {A : Nat → Prop} {own0 : String} {cc : ByteArray} {nL0 : Nat} {ret0 : Option FieldType} {H : Heap} {kc kn d mc ms : Nat} {Q : State → Prop} {pc : Nat} {ls : Array Slot} {rest : List Value} (hE : yOk E z D A own0 cc nL0 ret0 d mc ms) {k : Fin 4} {i nL : Nat} {lv lv' : List (Nat × Value)} (hdg : decode cc pc = .ok (.astore_n k, 1)) (hi : (k : Nat) = i) (h : lv_has ls nL lv) (hn : i < nL) (hl : (i, Value.null) :: lv.filter (fun q => !(q.1 == i) && !(q.1 + 1 == i && q.2.category == 2)) = lv') (kk : ∀ ls' : Array Slot, lv_has ls' nL lv' → yY E A H kc kn Q (pc + 1) ls' rest) : yY E A H kc kn Q pc ls (.null :: rest) := fun locs hS => lv_astore_nN hE.1 hE.2.1 hdg hi h hn hl (fun v0 v1 => kk v0 v1 locs hS)
theorem y_astoreN {E : yE} {z : State} {D : yD} {A : Nat → Prop} {own0 : String} {cc : ByteArray} {nL0 : Nat} {ret0 : Option FieldType} {H : Heap} {kc kn d mc ms : Nat} {Q : State → Prop} {pc : Nat} {ls : Array Slot} {rest : List Value} (hE : yOk E z D A own0 cc nL0 ret0 d mc ms) {i nL : Nat} {lv lv' : List (Nat × Value)} (hdg : decode cc pc = .ok (.astore i, 2)) (h : lv_has ls nL lv) (hn : i < nL) (hl : (i, Value.null) :: lv.filter (fun q => !(q.1 == i) && !(q.1 + 1 == i && q.2.category == 2)) = lv') (kk : ∀ ls' : Array Slot, lv_has ls' nL lv' → yY E A H kc kn Q (pc + 2) ls' rest) : yY E A H kc kn Q pc ls (.null :: rest) := fun locs hS => lv_astoreN hE.1 hE.2.1 hdg h hn hl (fun v0 v1 => kk v0 v1 locs hS)
theorem y_acmp_eq {E : yE} {z : State} {D : yD} {A : Nat → Prop} {own0 : String} {cc : ByteArray} {nL0 : Nat} {ret0 : Option FieldType} {H : Heap} {kc kn d mc ms : Nat} {Q : State → Prop} {pc : Nat} {ls : Array Slot} {rest : List Value} (hE : yOk E z D A own0 cc nL0 ret0 d mc ms) {rx ry : Option Nat} {off : Int} {tgt : Nat} (hdg : decode cc pc = .ok (.if_acmp .eq off, 3)) (ht : (pc : Int) + off = (tgt : Int)) (kt : rx = ry → yY E A H kc kn Q tgt ls rest) (kf : ¬ rx = ry → yY E A H kc kn Q (pc + 3) ls rest) : yY E A H kc kn Q pc ls (va_rf ry :: va_rf rx :: rest) := fun locs hS => lv_acmp_eq hE.1 hE.2.1 hdg ht (fun v0 => kt v0 locs hS) (fun v0 => kf v0 locs hS)
theorem y_acmp_ne {E : yE} {z : State} {D : yD} {A : Nat → Prop} {own0 : String} {cc : ByteArray} {nL0 : Nat} {ret0 : Option FieldType} {H : Heap} {kc kn d mc ms : Nat} {Q : State → Prop} {pc : Nat} {ls : Array Slot} {rest : List Value} (hE : yOk E z D A own0 cc nL0 ret0 d mc ms) {rx ry : Option Nat} {off : Int} {tgt : Nat} (hdg : decode cc pc = .ok (.if_acmp .ne off, 3)) (ht : (pc : Int) + off = (tgt : Int)) (kt : ¬ rx = ry → yY E A H kc kn Q tgt ls rest) (kf : rx = ry → yY E A H kc kn Q (pc + 3) ls rest) : yY E A H kc kn Q pc ls (va_rf ry :: va_rf rx :: rest) := fun locs hS => lv_acmp_ne hE.1 hE.2.1 hdg ht (fun v0 => kt v0 locs hS) (fun v0 => kf v0 locs hS)
theorem y_lookup {E : yE} {z : State} {D : yD} {A : Nat → Prop} {own0 : String} {cc : ByteArray} {nL0 : Nat} {ret0 : Option FieldType} {H : Heap} {kc kn d mc ms : Nat} {Q : State → Prop} {pc : Nat} {ls : Array Slot} {rest : List Value} (hE : yOk E z D A own0 cc nL0 ret0 d mc ms) {dflt : Int} {ps : Array (Int × Int)} {len : Nat} {x : Int32} {off : Int} {tgt : Nat} (hdg : decode cc pc = .ok (.lookupswitch dflt ps, len)) (hp : (ps.toList.zip (ps.toList.drop 1)).all (fun (a, next) => a.1 < next.1) = true) (ho : Op.lookupswitch.offset ps.toList dflt x.toInt = off) (ht : (pc : Int) + off = (tgt : Int)) (k : yY E A H kc kn Q tgt ls rest) : yY E A H kc kn Q pc ls (.int x :: rest) := fun locs hS => lv_lookup hE.1 hE.2.1 hdg hp ho ht (k locs hS)
theorem y_tableOut {E : yE} {z : State} {D : yD} {A : Nat → Prop} {own0 : String} {cc : ByteArray} {nL0 : Nat} {ret0 : Option FieldType} {H : Heap} {kc kn d mc ms : Nat} {Q : State → Prop} {pc : Nat} {ls : Array Slot} {rest : List Value} (hE : yOk E z D A own0 cc nL0 ret0 d mc ms) {dflt lo hi : Int} {offs : Array Int} {len : Nat} {x : Int32} {tgt : Nat} (hdg : decode cc pc = .ok (.tableswitch dflt lo hi offs, len)) (h : x.toInt < lo ∨ hi < x.toInt) (ht : (pc : Int) + dflt = (tgt : Int)) (k : yY E A H kc kn Q tgt ls rest) : yY E A H kc kn Q pc ls (.int x :: rest) := fun locs hS => lv_tableOut hE.1 hE.2.1 hdg h ht (k locs hS)
theorem y_tableIn {E : yE} {z : State} {D : yD} {A : Nat → Prop} {own0 : String} {cc : ByteArray} {nL0 : Nat} {ret0 : Option FieldType} {H : Heap} {kc kn d mc ms : Nat} {Q : State → Prop} {pc : Nat} {ls : Array Slot} {rest : List Value} (hE : yOk E z D A own0 cc nL0 ret0 d mc ms) {dflt lo hi : Int} {offs : Array Int} {len : Nat} {x : Int32} {off : Int} {tgt : Nat} (hdg : decode cc pc = .ok (.tableswitch dflt lo hi offs, len)) (h1 : ¬ x.toInt < lo) (h2 : ¬ hi < x.toInt) (ho : offs[(x.toInt - lo).toNat]? = some off) (ht : (pc : Int) + off = (tgt : Int)) (k : yY E A H kc kn Q tgt ls rest) : yY E A H kc kn Q pc ls (.int x :: rest) := fun locs hS => lv_tableIn hE.1 hE.2.1 hdg h1 h2 ho ht (k locs hS)
theorem y_ldc {E : yE} {z : State} {D : yD} {A : Nat → Prop} {own0 : String} {cc : ByteArray} {nL0 : Nat} {ret0 : Option FieldType} {H : Heap} {kc kn d mc ms : Nat} {Q : State → Prop} {pc : Nat} {ls : Array Slot} {rest : List Value} (hE : yOk E z D A own0 cc nL0 ret0 d mc ms) {index : Nat} {v : Int32} (hconst : (Jvm.Cond.constant own0 index v) ∈ lw_all) (hdg : decode cc pc = .ok (.ldc index, 2)) (k : yY E A H kc kn Q (pc + 2) ls (.int v :: rest)) : yY E A H kc kn Q pc ls rest := fun locs hS => lv_ldc hE.1 hE.2.1 hE.2.2.2.1 (hE.2.2.2.2.1 _ hconst) hdg (k locs hS)
theorem y_ldcw {E : yE} {z : State} {D : yD} {A : Nat → Prop} {own0 : String} {cc : ByteArray} {nL0 : Nat} {ret0 : Option FieldType} {H : Heap} {kc kn d mc ms : Nat} {Q : State → Prop} {pc : Nat} {ls : Array Slot} {rest : List Value} (hE : yOk E z D A own0 cc nL0 ret0 d mc ms) {index : Nat} {v : Int32} (hconst : (Jvm.Cond.constant own0 index v) ∈ lw_all) (hdg : decode cc pc = .ok (.ldc_w index, 3)) (k : yY E A H kc kn Q (pc + 3) ls (.int v :: rest)) : yY E A H kc kn Q pc ls rest := fun locs hS => lv_ldcw hE.1 hE.2.1 hE.2.2.2.1 (hE.2.2.2.2.1 _ hconst) hdg (k locs hS)
theorem y_lcmp {E : yE} {z : State} {D : yD} {A : Nat → Prop} {own0 : String} {cc : ByteArray} {nL0 : Nat} {ret0 : Option FieldType} {H : Heap} {kc kn d mc ms : Nat} {Q : State → Prop} {pc : Nat} {ls : Array Slot} {rest : List Value} (hE : yOk E z D A own0 cc nL0 ret0 d mc ms) {x y : Int64} (hdg : decode cc pc = .ok (.lcmp, 1)) (k : yY E A H kc kn Q (pc + 1) ls (.int (lg_cmp x y) :: rest)) : yY E A H kc kn Q pc ls (.long y :: .long x :: rest) := fun locs hS => W.lcmp hE.1 hE.2.1 hdg (k locs hS)
section YR
variable {E : yE} {z : State} {D : yD} {A : Nat → Prop} {own0 : String} {cc : ByteArray} {nL0 : Nat} {ret0 : Option FieldType} {d mc ms : Nat} {H : Heap} {kc kn : Nat} {Q : State → Prop} {pc : Nat} {ls : Array Slot} {rest : List Value}
theorem y_topi {x : Int32} (k : ∀ y : Int32, y = x → yY E A H kc kn Q pc ls (.int y :: rest)) : yY E A H kc kn Q pc ls (.int x :: rest) := k x rfl
theorem y_setTop {v w : Value} (h : v = w) (k : yY E A H kc kn Q pc ls (w :: rest)) : yY E A H kc kn Q pc ls (v :: rest) := by rw [h]; exact k
theorem y_set1 {x w : Int32} (h : x = w) (k : yY E A H kc kn Q pc ls (.int w :: rest)) : yY E A H kc kn Q pc ls (.int x :: rest) := by rw [h]; exact k
theorem y_pc {pc' : Nat} (h : pc = pc') (k : yY E A H kc kn Q pc' ls rest) : yY E A H kc kn Q pc ls rest := by rw [h]; exact k
theorem y_widen {k n : Nat} (h1 : kc ≤ k) (h2 : kn ≤ n) (kk : yY E A H k n Q pc ls rest) : yY E A H kc kn Q pc ls rest := fun locs hS => W.widen h1 h2 (kk locs hS)
/-- what A leaves alone is as it was at the start -/
theorem y_frame (k : H.size ≥ (e_s E).heap.size → (∀ q : Nat, q < (e_s E).heap.size → ¬ A q → H[q]? = (e_s E).heap[q]?) → yY E A H kc kn Q pc ls rest) : yY E A H kc kn Q pc ls rest := fun locs hS => k hS.1 hS.2.1 locs hS
theorem y_iretR (hE : yOk E z D A own0 cc nL0 (some .int) d mc ms) {r : Int32} (hdg : decode cc pc = .ok (.ireturn, 1)) : yY E (fun _ => False) (e_s E).heap 0 0 (yEr E (some (.int r))) pc ls [.int r] := fun _ hS => W.iret hE.1 hE.2.1 hE.rt (fun _ ht _ => ⟨rfl, ht⟩) hS.2.2 hdg hE.locks
theorem y_zretR {ty : FieldType} (hE : yOk E z D A own0 cc nL0 (some ty) d mc ms) {r : Int32} (hn : narrow ty (.int r) = .int r) (hdg : decode cc pc = .ok (.ireturn, 1)) : yY E (fun _ => False) (e_s E).heap 0 0 (yEr E (some (.int r))) pc ls [.int r] := fun _ hS => W.zret hE.1 hE.2.1 hE.rt hn (fun _ ht _ => ⟨rfl, ht⟩) hS.2.2 hdg hE.locks
theorem y_lretR (hE : yOk E z D A own0 cc nL0 (some .long) d mc ms) {r : Int64} (hdg : decode cc pc = .ok (.lreturn, 1)) : yY E (fun _ => False) (e_s E).heap 0 0 (yEr E (some (.long r))) pc ls [.long r] := fun _ hS => W.lret hE.1 hE.2.1 hE.rt (fun _ ht _ => ⟨rfl, ht⟩) hS.2.2 hdg hE.locks
theorem y_vretR (hE : yOk E z D A own0 cc nL0 none d mc ms) (hdg : decode cc pc = .ok (.return_, 1)) : yY E (fun _ => False) (e_s E).heap 0 0 (yEr E none) pc ls [] := fun _ hS => W.vret hE.1 hE.2.1 hE.rt (fun _ ht _ => ⟨rfl, ht⟩) hS.2.2 hdg hE.locks
theorem y_aretR {ty : FieldType} (hE : yOk E z D A own0 cc nL0 (some ty) d mc ms) (hrt : (∃ n, ty = .object n) ∨ ∃ t, ty = .array t) {r : Option Nat} (hdg : decode cc pc = .ok (.areturn, 1)) : yY E (fun _ => False) (e_s E).heap 0 0 (yEr E (some (va_rf r))) pc ls [va_rf r] := fun _ hS => W.aret hE.1 hE.2.1 hE.rt hrt (va_rf_or r) (fun _ ht _ => ⟨rfl, ht⟩) hS.2.2 hdg hE.locks
theorem y_iret {post : Int32 → Heap → Prop} {mc' ms' : Nat} (hE : yOk E z D A own0 cc nL0 (some .int) d mc ms) {r : Int32} (hdg : decode cc pc = .ok (.ireturn, 1)) (hp : post r H) (hc : kc ≤ mc') (hn : kn ≤ ms') : yY E A H kc kn (yEm E eI post mc' ms' A) pc ls [.int r] :=
  fun _ hS => W.widen hc hn (W.iret hE.1 hE.2.1 hE.rt (fun t ht _ => ⟨⟨r, rfl, by rw [ht]; exact hp⟩, hS.F ht⟩) hS.2.2 hdg hE.locks)
theorem y_zret {ty : FieldType} {post : Int32 → Heap → Prop} {mc' ms' : Nat} (hE : yOk E z D A own0 cc nL0 (some ty) d mc ms) {r : Int32} (hnr : narrow ty (.int r) = .int r) (hdg : decode cc pc = .ok (.ireturn, 1)) (hp : post r H) (hc : kc ≤ mc') (hn : kn ≤ ms') : yY E A H kc kn (yEm E eI post mc' ms' A) pc ls [.int r] :=
  fun _ hS => W.widen hc hn (W.zret hE.1 hE.2.1 hE.rt hnr (fun t ht _ => ⟨⟨r, rfl, by rw [ht]; exact hp⟩, hS.F ht⟩) hS.2.2 hdg hE.locks)
theorem y_lret {post : Int64 → Heap → Prop} {mc' ms' : Nat} (hE : yOk E z D A own0 cc nL0 (some .long) d mc ms) {r : Int64} (hdg : decode cc pc = .ok (.lreturn, 1)) (hp : post r H) (hc : kc ≤ mc') (hn : kn ≤ ms') : yY E A H kc kn (yEm E eL post mc' ms' A) pc ls [.long r] :=
  fun _ hS => W.widen hc hn (W.lret hE.1 hE.2.1 hE.rt (fun t ht _ => ⟨⟨r, rfl, by rw [ht]; exact hp⟩, hS.F ht⟩) hS.2.2 hdg hE.locks)
theorem y_vret {post : Unit → Heap → Prop} {mc' ms' : Nat} (hE : yOk E z D A own0 cc nL0 none d mc ms) (hdg : decode cc pc = .ok (.return_, 1)) (hp : post () H) (hc : kc ≤ mc') (hn : kn ≤ ms') : yY E A H kc kn (yEm E eV post mc' ms' A) pc ls [] :=
  fun _ hS => W.widen hc hn (W.vret hE.1 hE.2.1 hE.rt (fun t ht _ => ⟨⟨(), rfl, by rw [ht]; exact hp⟩, hS.F ht⟩) hS.2.2 hdg hE.locks)
theorem y_aret {ty : FieldType} {post : Nat → Heap → Prop} {mc' ms' : Nat} (hE : yOk E z D A own0 cc nL0 (some ty) d mc ms) (hrt : (∃ n, ty = .object n) ∨ ∃ t, ty = .array t) {r : Nat} (hdg : decode cc pc = .ok (.areturn, 1)) (hp : post r H) (hc : kc ≤ mc') (hn : kn ≤ ms') : yY E A H kc kn (yEm E eR post mc' ms' A) pc ls [.ref r] :=
  fun _ hS => W.widen hc hn (W.aret hE.1 hE.2.1 hE.rt hrt (Or.inr ⟨r, rfl⟩) (fun t ht _ => ⟨⟨r, rfl, by rw [ht]; exact hp⟩, hS.F ht⟩) hS.2.2 hdg hE.locks)
theorem y_aretN {ty : FieldType} {post : Option Nat → Heap → Prop} {mc' ms' : Nat} (hE : yOk E z D A own0 cc nL0 (some ty) d mc ms) (hrt : (∃ n, ty = .object n) ∨ ∃ t, ty = .array t) {r : Option Nat} (hdg : decode cc pc = .ok (.areturn, 1)) (hp : post r H) (hc : kc ≤ mc') (hn : kn ≤ ms') : yY E A H kc kn (yEm E eN post mc' ms' A) pc ls [va_rf r] :=
  fun _ hS => W.widen hc hn (W.aret hE.1 hE.2.1 hE.rt hrt (va_rf_or r) (fun t ht _ => ⟨⟨r, rfl, by rw [ht]; exact hp⟩, hS.F ht⟩) hS.2.2 hdg hE.locks)
theorem y_get {C ref : String} {T : u_T} {N ci idx a : Nat} {fs : List Value} {v : Value} (hE : yOk E z D A own0 cc nL0 ret0 d mc ms) (hin : ∀ w ∈ u_ws C T N, w ∈ lw_all) (hc : yCl[ci]? = some (C, T, N)) (j : Nat) (hj : j < N) (hlink : Cond.fieldLink own0 idx ref (T j).2.1 (T j).2.2.1 ∈ lw_all) (href : (T j).1 = ref) (ho : yO D ci fs a H) (hv : fs[j]? = some v) (hdg : decode cc pc = .ok (.getfield idx, 3))
    (k : yY E A H kc kn Q (pc + 3) ls (v :: rest)) : yY E A H kc kn Q pc ls (.ref a :: rest) :=
  fun locs hS => va_get (D := yG D) hE.1 hE.2.1 hE.words hin hE.own hE.k (y_one ho) 0 rfl hc j hj (hE.words _ hlink) (fun _ h => href ▸ h) hv hdg (k locs hS)
theorem y_put {C ref : String} {T : u_T} {N ci idx a : Nat} {fs : List Value} {v : Value} {ty0 : Nat → FieldType} {ty : FieldType} (hE : yOk E z D A own0 cc nL0 ret0 d mc ms) (hin : ∀ w ∈ u_ws C T N, w ∈ lw_all) (hty : ∀ k, k < N → parseFieldDescriptor (T k).2.2.1 = some (ty0 k)) (hnm : ∀ a, a < N → ∀ b, b < N → a ≠ b → (T a).2.1 ≠ (T b).2.1) (hc : yCl[ci]? = some (C, T, N)) (j : Nat) (hj : j < N) (hlink : Cond.fieldLink own0 idx ref (T j).2.1 (T j).2.2.1 ∈ lw_all) (href : (T j).1 = ref) (hfin : (T j).2.2.2 = false) (hd : ty0 j = ty)
    (hA : A a) (ho : yO D ci fs a H) (hl : j < fs.length) (hn : narrow ty v = v) (hfit : fits ty v = true) (hdg : decode cc pc = .ok (.putfield idx, 3))
    (k : ∀ H1 : Heap, yO D ci (fs.set j v) a H1 → H1.size = H.size → (∀ q : Nat, q ≠ a → H1[q]? = H[q]?) → yY E A H1 kc kn Q (pc + 3) ls rest) : yY E A H kc kn Q pc ls (v :: .ref a :: rest) := by
  intro locs hS0
  have hd' : parseFieldDescriptor (T j).2.2.1 = some ty := hd ▸ hty j hj
  have hap := va_apart (own := own0) (D := yG D) hE.words hin ty0 hty hnm hE.k hc
  obtain ⟨r, h1, cell, q1, q2, q3, q4⟩ := ho
  have hr : r = (C, T, N) := Option.some.inj (h1.symm.trans hc)
  subst hr
  obtain ⟨hS, hfc, kC, hkC, hkind⟩ := hE.k.1 ci _ hc
  obtain ⟨cf, kf, fi, f, hi, hsl⟩ := hS j hj
  have hlay := hE.words _ (hin _ (u_in_lay hj))
  unfold u_lay at hlay
  rw [if_neg (by rw [hfin]; decide)] at hlay
  have hst := (u_facts hfc hkC (u_lays hE.words hin hj) hi).1
  have h6 := u_store hfc hkC hkind hlay hi hd' hn hfit
  refine W.putK hE.1 hE.2.1 (f := f) ⟨hE.own, hE.words _ hlink, ⟨_, _, _, href ▸ hi⟩, hst⟩ (by rw [q2]; exact h6) q1 q3 (by rw [hsl]; exact k2_hasslot (q4 j hj)) rfl rfl hdg fun H' e1 e2 e3 => ?_
  rw [hsl] at e1 ⊢
  exact k H' ⟨_, hc, t_OB.to (V := updV (vp_V fs) j v) ⟨_, e1, q2, q3, t_set q4 hap hj v⟩ (fun i _ => vp_updV_set hl v i)⟩ e2 e3 _ (hS0.put e2 e3 hA)
theorem y_putF {C ref : String} {T : u_T} {N ci idx a : Nat} {fs : List Value} {v : Value} {ty0 : Nat → FieldType} {ty : FieldType} (hE : yOk E z D A own0 cc nL0 ret0 d mc ms) (hin : ∀ w ∈ u_ws C T N, w ∈ lw_all) (hty : ∀ k, k < N → parseFieldDescriptor (T k).2.2.1 = some (ty0 k)) (hnm : ∀ a, a < N → ∀ b, b < N → a ≠ b → (T a).2.1 ≠ (T b).2.1) (hc : yCl[ci]? = some (C, T, N)) (j : Nat) (hj : j < N) (hlink : Cond.fieldLink own0 idx ref (T j).2.1 (T j).2.2.1 ∈ lw_all) (href : (T j).1 = ref) (hfin : (T j).2.2.2 = true) (hdecl : (T j).1 = own0) (hd : ty0 j = ty) (hini : (e_M E).name = "<init>")
    (hA : A a) (ho : yO D ci fs a H) (hl : j < fs.length) (hn : narrow ty v = v) (hfit : fits ty v = true) (hdg : decode cc pc = .ok (.putfield idx, 3))
    (k : ∀ H1 : Heap, yO D ci (fs.set j v) a H1 → H1.size = H.size → (∀ q : Nat, q ≠ a → H1[q]? = H[q]?) → yY E A H1 kc kn Q (pc + 3) ls rest) : yY E A H kc kn Q pc ls (v :: .ref a :: rest) := by
  intro locs hS0
  have hd' : parseFieldDescriptor (T j).2.2.1 = some ty := hd ▸ hty j hj
  have hap := va_apart (own := own0) (D := yG D) hE.words hin ty0 hty hnm hE.k hc
  obtain ⟨r, h1, cell, q1, q2, q3, q4⟩ := ho
  have hr : r = (C, T, N) := Option.some.inj (h1.symm.trans hc)
  subst hr
  obtain ⟨hS, hfc, kC, hkC, hkind⟩ := hE.k.1 ci _ hc
  obtain ⟨cf, kf, fi, f, hi, hsl⟩ := hS j hj
  have hlay := hE.words _ (hin _ (u_in_lay hj))
  unfold u_lay at hlay
  rw [if_pos hfin] at hlay
  have hst := (u_facts hfc hkC (u_lays hE.words hin hj) hi).1
  have hcf : (e_m E).cls = cf := by
    obtain ⟨_, _, c', _, _, _, -, -, hf', -, -, -, hown2, -⟩ := Cond.laysFinal_spec hlay
    have e1 : c' = cf := by have := hi.symm.trans hf'; simp at this; exact this.1.symm
    rw [hdecl] at hown2
    rw [← e1]; exact Option.some.inj (hE.own.symm.trans hown2)
  have h6 := u_fits hfc hkC hkind (Or.inr hlay) hi hd' hn hfit
  refine W.putFinK hE.1 hE.2.1 hE.own (hE.words _ hlink) (href ▸ hi) hst hcf hini (by rw [q2]; exact h6) q1 q3 (by rw [hsl]; exact k2_hasslot (q4 j hj)) rfl rfl hdg fun H' e1 e2 e3 => ?_
  rw [hsl] at e1 ⊢
  exact k H' ⟨_, hc, t_OB.to (V := updV (vp_V fs) j v) ⟨_, e1, q2, q3, t_set q4 hap hj v⟩ (fun i _ => vp_updV_set hl v i)⟩ e2 e3 _ (hS0.put e2 e3 hA)
theorem y_alen {ti a : Nat} {x : vp_A} {ty : FieldType} {v : Int32} (hE : yOk E z D A own0 cc nL0 ret0 d mc ms) (ht : (yTys D)[ti]? = some (D.2.2 ti, ty)) (ha : yA D ti x a H) (hv : nI x.1 = v) (hdg : decode cc pc = .ok (.arraylength, 1)) (k : yY E A H kc kn Q (pc + 1) ls (.int v :: rest)) : yY E A H kc kn Q pc ls (.ref a :: rest) :=
  fun locs hS => va_alen (D := yG D) (cl := yCl) hE.1 hE.2.1 hE.k (y_one (q := (a, .inl (D.2.2 ti, x))) ha) 0 ti rfl ht hv hdg (k locs hS)
theorem y_iald {a n j : Nat} {f : Nat → Int32} {i : Int32} (hE : yOk E z D A own0 cc nL0 ret0 d mc ms) (ha : yA D 0 (n, .inl f) a H) (hi : i = nI j) (hj : j < n) (hn : n < 2 ^ 31) (hdg : decode cc pc = .ok (.iaload, 1)) (k : yY E A H kc kn Q (pc + 1) ls (.int (f j) :: rest)) : yY E A H kc kn Q pc ls (.int i :: .ref a :: rest) := by
  subst hi
  intro locs hS
  refine va_iald (D := yG D) (cl := yCl) hE.1 hE.2.1 hE.k (y_one (q := (a, .inl (D.2.2 0, (n, .inl f)))) ha) 0 0 rfl rfl (vp_in_nI hj hn) hdg ?_
  rw [nI_clamp (Nat.lt_trans hj hn)]
  exact k locs hS
theorem y_bald {a n j : Nat} {f : Nat → Int32} {i : Int32} (hE : yOk E z D A own0 cc nL0 ret0 d mc ms) (ha : yA D 1 (n, .inl f) a H) (hi : i = nI j) (hj : j < n) (hn : n < 2 ^ 31) (hdg : decode cc pc = .ok (.baload, 1)) (k : yY E A H kc kn Q (pc + 1) ls (.int (f j) :: rest)) : yY E A H kc kn Q pc ls (.int i :: .ref a :: rest) := by
  subst hi
  intro locs hS
  refine va_bald (D := yG D) (cl := yCl) hE.1 hE.2.1 hE.k (y_one (q := (a, .inl (D.2.2 1, (n, .inl f)))) ha) 0 1 rfl rfl (vp_in_nI hj hn) hdg ?_
  rw [nI_clamp (Nat.lt_trans hj hn)]
  exact k locs hS
theorem y_cald {a n j : Nat} {f : Nat → Int32} {i : Int32} (hE : yOk E z D A own0 cc nL0 ret0 d mc ms) (ha : yA D 2 (n, .inl f) a H) (hi : i = nI j) (hj : j < n) (hn : n < 2 ^ 31) (hdg : decode cc pc = .ok (.caload, 1)) (k : yY E A H kc kn Q (pc + 1) ls (.int (f j) :: rest)) : yY E A H kc kn Q pc ls (.int i :: .ref a :: rest) := by
  subst hi
  intro locs hS
  refine va_cald (D := yG D) (cl := yCl) hE.1 hE.2.1 hE.k (y_one (q := (a, .inl (D.2.2 2, (n, .inl f)))) ha) 0 2 rfl rfl (vp_in_nI hj hn) hdg ?_
  rw [nI_clamp (Nat.lt_trans hj hn)]
  exact k locs hS
theorem y_lald {a n j : Nat} {f : Nat → Int64} {i : Int32} (hE : yOk E z D A own0 cc nL0 ret0 d mc ms) (ha : yA D 3 (n, .inr (.inl f)) a H) (hi : i = nI j) (hj : j < n) (hn : n < 2 ^ 31) (hdg : decode cc pc = .ok (.laload, 1)) (k : yY E A H kc kn Q (pc + 1) ls (.long (f j) :: rest)) : yY E A H kc kn Q pc ls (.int i :: .ref a :: rest) := by
  subst hi
  intro locs hS
  refine va_lald (D := yG D) (cl := yCl) hE.1 hE.2.1 hE.k (y_one (q := (a, .inl (D.2.2 3, (n, .inr (.inl f))))) ha) 0 3 rfl rfl (vp_in_nI hj hn) hdg ?_
  rw [nI_clamp (Nat.lt_trans hj hn)]
  exact k locs hS
theorem y_dald {a n j : Nat} {f : Nat → UInt64} {i : Int32} (hE : yOk E z D A own0 cc nL0 ret0 d mc ms) (ha : yA D 4 (n, .inr (.inr (.inr (.inl f)))) a H) (hi : i = nI j) (hj : j < n) (hn : n < 2 ^ 31) (hdg : decode cc pc = .ok (.daload, 1)) (k : yY E A H kc kn Q (pc + 1) ls (.double (f j) :: rest)) : yY E A H kc kn Q pc ls (.int i :: .ref a :: rest) := by
  subst hi
  intro locs hS
  refine va_dald (D := yG D) (cl := yCl) hE.1 hE.2.1 hE.k (y_one (q := (a, .inl (D.2.2 4, (n, .inr (.inr (.inr (.inl f))))))) ha) 0 4 rfl rfl (vp_in_nI hj hn) hdg ?_
  rw [nI_clamp (Nat.lt_trans hj hn)]
  exact k locs hS
theorem y_aald {ti a n j : Nat} {ty : FieldType} {f : Nat → Option Nat} {i : Int32} (hE : yOk E z D A own0 cc nL0 ret0 d mc ms) (ht : (yTys D)[ti]? = some (D.2.2 ti, ty)) (hty : ty.isReference = true) (ha : yA D ti (n, .inr (.inr (.inr (.inr f)))) a H) (hi : i = nI j) (hj : j < n) (hn : n < 2 ^ 31) (hdg : decode cc pc = .ok (.aaload, 1)) (k : yY E A H kc kn Q (pc + 1) ls (va_rf (f j) :: rest)) : yY E A H kc kn Q pc ls (.int i :: .ref a :: rest) := by
  subst hi
  intro locs hS
  refine W.aald (v := va_rf (f j)) (ty := ty) hE.1 hE.2.1 ha ((hE.k.2 ti _ ht).1 n (fun j => va_rf (f j))) hty (fun q => by cases q) (by show ¬ (nI j < 0 ∨ (arrV _ _ _).slots.size ≤ _); rw [arrV_size]; exact vp_in_nI hj hn) (by show (arrV _ _ _).slots[_]? = _; rw [nI_clamp (Nat.lt_trans hj hn), arrV_read _ _ hj]) rfl rfl hdg (k locs hS)
theorem y_iast {a n j : Nat} {f : Nat → Int32} {i x : Int32} (hE : yOk E z D A own0 cc nL0 ret0 d mc ms) (hA : A a) (ha : yA D 0 (n, .inl f) a H) (hi : i = nI j) (hj : j < n) (hn : n < 2 ^ 31) (hdg : decode cc pc = .ok (.iastore, 1))
    (k : ∀ H1 : Heap, yA D 0 (n, .inl (upd f j x)) a H1 → H1.size = H.size → (∀ q : Nat, q ≠ a → H1[q]? = H[q]?) → yY E A H1 kc kn Q (pc + 1) ls rest) : yY E A H kc kn Q pc ls (.int x :: .int i :: .ref a :: rest) := by
  subst hi
  intro locs hS
  refine W.iast hE.1 hE.2.1 ha ((hE.k.2 0 _ rfl).1 n (fun j => .int (f j))) (fun q => by cases q) (by show ¬ (nI j < 0 ∨ (arrV _ _ _).slots.size ≤ _); rw [arrV_size]; exact vp_in_nI hj hn) rfl rfl hdg fun H1 e e2 oq => ?_
  refine k H1 ?_ e2 oq _ (hS.put e2 oq hA)
  rw [nI_clamp (Nat.lt_trans hj hn)] at e
  show H1[a]? = some (vp_cell _ _)
  rw [e, vp_cell_i, vp_cell_i, arrV_store]
  congr 2
  funext q
  by_cases hq : q = j
  · subst hq
    simp [updV, upd]
  · simp [updV, upd, hq]
theorem y_bast {a n j : Nat} {f : Nat → Int32} {i x : Int32} (hE : yOk E z D A own0 cc nL0 ret0 d mc ms) (hA : A a) (ha : yA D 1 (n, .inl f) a H) (hi : i = nI j) (hj : j < n) (hn : n < 2 ^ 31) (hdg : decode cc pc = .ok (.bastore, 1))
    (k : ∀ H1 : Heap, yA D 1 (n, .inl (upd f j (vp_nar .byte x))) a H1 → H1.size = H.size → (∀ q : Nat, q ≠ a → H1[q]? = H[q]?) → yY E A H1 kc kn Q (pc + 1) ls rest) : yY E A H kc kn Q pc ls (.int x :: .int i :: .ref a :: rest) := by
  subst hi
  intro locs hS
  refine W.bast hE.1 hE.2.1 ha ((hE.k.2 1 _ rfl).1 n (fun j => .int (f j))) (fun q => by cases q) (by show ¬ (nI j < 0 ∨ (arrV _ _ _).slots.size ≤ _); rw [arrV_size]; exact vp_in_nI hj hn) rfl rfl hdg fun H1 e e2 oq => ?_
  refine k H1 ?_ e2 oq _ (hS.put e2 oq hA)
  rw [nI_clamp (Nat.lt_trans hj hn)] at e
  show H1[a]? = some (vp_cell _ _)
  rw [e, vp_cell_i, vp_cell_i, arrV_store]
  congr 2
  funext q
  by_cases hq : q = j
  · subst hq
    simp [updV, upd, vp_nar]
    try rfl
  · simp [updV, upd, hq]
theorem y_cast {a n j : Nat} {f : Nat → Int32} {i x : Int32} (hE : yOk E z D A own0 cc nL0 ret0 d mc ms) (hA : A a) (ha : yA D 2 (n, .inl f) a H) (hi : i = nI j) (hj : j < n) (hn : n < 2 ^ 31) (hdg : decode cc pc = .ok (.castore, 1))
    (k : ∀ H1 : Heap, yA D 2 (n, .inl (upd f j (vp_nar .char x))) a H1 → H1.size = H.size → (∀ q : Nat, q ≠ a → H1[q]? = H[q]?) → yY E A H1 kc kn Q (pc + 1) ls rest) : yY E A H kc kn Q pc ls (.int x :: .int i :: .ref a :: rest) := by
  subst hi
  intro locs hS
  refine W.cast hE.1 hE.2.1 ha ((hE.k.2 2 _ rfl).1 n (fun j => .int (f j))) (fun q => by cases q) (by show ¬ (nI j < 0 ∨ (arrV _ _ _).slots.size ≤ _); rw [arrV_size]; exact vp_in_nI hj hn) rfl rfl hdg fun H1 e e2 oq => ?_
  refine k H1 ?_ e2 oq _ (hS.put e2 oq hA)
  rw [nI_clamp (Nat.lt_trans hj hn)] at e
  show H1[a]? = some (vp_cell _ _)
  rw [e, vp_cell_i, vp_cell_i, arrV_store]
  congr 2
  funext q
  by_cases hq : q = j
  · subst hq
    simp [updV, upd, vp_nar]
    try rfl
  · simp [updV, upd, hq]
theorem y_last {a n j : Nat} {f : Nat → Int64} {i : Int32} {x : Int64} (hE : yOk E z D A own0 cc nL0 ret0 d mc ms) (hA : A a) (ha : yA D 3 (n, .inr (.inl f)) a H) (hi : i = nI j) (hj : j < n) (hn : n < 2 ^ 31) (hdg : decode cc pc = .ok (.lastore, 1))
    (k : ∀ H1 : Heap, yA D 3 (n, .inr (.inl (vp_updL f j x))) a H1 → H1.size = H.size → (∀ q : Nat, q ≠ a → H1[q]? = H[q]?) → yY E A H1 kc kn Q (pc + 1) ls rest) : yY E A H kc kn Q pc ls (.long x :: .int i :: .ref a :: rest) := by
  subst hi
  intro locs hS
  refine W.last hE.1 hE.2.1 ha ((hE.k.2 3 _ rfl).1 n (fun j => .long (f j))) (fun q => by cases q) (by show ¬ (nI j < 0 ∨ (arrV _ _ _).slots.size ≤ _); rw [arrV_size]; exact vp_in_nI hj hn) rfl rfl hdg fun H1 e e2 oq => ?_
  refine k H1 ?_ e2 oq _ (hS.put e2 oq hA)
  rw [nI_clamp (Nat.lt_trans hj hn)] at e
  show H1[a]? = some (vp_cell _ _)
  rw [e, vp_cell_l, vp_cell_l, arrV_store]
  congr 2
  funext q
  by_cases hq : q = j
  · subst hq
    simp [updV, vp_updL]
  · simp [updV, vp_updL, hq]
theorem y_dast {a n j : Nat} {f : Nat → UInt64} {i : Int32} {x : UInt64} (hE : yOk E z D A own0 cc nL0 ret0 d mc ms) (hA : A a) (ha : yA D 4 (n, .inr (.inr (.inr (.inl f)))) a H) (hi : i = nI j) (hj : j < n) (hn : n < 2 ^ 31) (hdg : decode cc pc = .ok (.dastore, 1))
    (k : ∀ H1 : Heap, yA D 4 (n, .inr (.inr (.inr (.inl (vf_upd f j x))))) a H1 → H1.size = H.size → (∀ q : Nat, q ≠ a → H1[q]? = H[q]?) → yY E A H1 kc kn Q (pc + 1) ls rest) : yY E A H kc kn Q pc ls (.double x :: .int i :: .ref a :: rest) := by
  subst hi
  intro locs hS
  refine W.dast hE.1 hE.2.1 ha ((hE.k.2 4 _ rfl).1 n (fun j => .double (f j))) (fun q => by cases q) (by show ¬ (nI j < 0 ∨ (arrV _ _ _).slots.size ≤ _); rw [arrV_size]; exact vp_in_nI hj hn) rfl rfl hdg fun H1 e e2 oq => ?_
  refine k H1 ?_ e2 oq _ (hS.put e2 oq hA)
  rw [nI_clamp (Nat.lt_trans hj hn)] at e
  show H1[a]? = some (vp_cell _ _)
  rw [e, vp_cell_d, vp_cell_d, arrV_store]
  congr 2
  funext q
  by_cases hq : q = j
  · subst hq
    simp [updV, vf_upd]
  · simp [updV, vf_upd, hq]
theorem y_new {C : String} {T : u_T} {N ci idx : Nat} {fs : List Value} {ty0 : Nat → FieldType} (hE : yOk E z D A own0 cc nL0 ret0 d mc ms) (hin : ∀ w ∈ u_ws C T N, w ∈ lw_all) (hty : ∀ k, k < N → parseFieldDescriptor (T k).2.2.1 = some (ty0 k)) (hc : yCl[ci]? = some (C, T, N)) (h1 : Cond.classLink own0 idx C ∈ lw_all) (h2 : Cond.instantiable C N ∈ lw_all) (h3 : Cond.initialized C ∈ lw_all) (hfs : ∀ j, j < N → defaultValue (ty0 j) = vp_V fs j) (hA : A H.size) (hcells : kc + 1 ≤ mc) (hslots : kn + N ≤ ms) (hdg : decode cc pc = .ok (.new idx, 3))
    (k : ∀ H1 : Heap, yO D ci fs H.size H1 → H1.size = H.size + 1 → (∀ q : Nat, q < H.size → H1[q]? = H[q]?) → yY E A H1 (kc + 1) (kn + N) Q (pc + 3) ls (.ref H.size :: rest)) : yY E A H kc kn Q pc ls rest := by
  intro locs hS
  have hKn := hE.k.1 ci _ hc
  refine W.newcK hE.1 hE.2.1 hE.own (hE.words _ h1) (hE.words _ h2) (hE.words _ h3) rfl hdg (Nat.le_trans hcells hE.rm.2.2.1) (Nat.le_trans hslots hE.rm.2.2.2) hKn.2.1 rfl fun H1 kC hkC e1 z1 o1 => ?_
  exact k H1 ⟨_, hc, (u_born ty0 hE.words hin hKn hkC e1 hty).to hfs⟩ z1 o1 locs ⟨Nat.le_trans hS.1 (by omega), fun x g1 g2 => (o1 x (Nat.lt_of_lt_of_le g1 hS.1)).trans (hS.2.1 x g1 g2), hS.2.2⟩
theorem y_objInit {idx a : Nat} (hE : yOk E z D A own0 cc nL0 ret0 d mc ms) (h1 : Cond.methodLink own0 idx objectInit ∈ lw_all) (h2 : Cond.instanceMethod objectInit ∈ lw_all) (h3 : Cond.code objectInit ⟨#[0xb1]⟩ 1 none ∈ lw_all) {lv : List (Nat × Value)} (hl : lv_has ls nL0 lv) (hd : 1 ≤ d) (hw : (rest.map fun v => v.category).sum ≤ 8) (hdg : decode cc pc = .ok (.invokespecial idx, 3)) (k : yY E A H kc kn Q (pc + 3) ls rest) : yY E A H kc kn Q pc ls (.ref a :: rest) :=
  fun locs hS => W.objInit hE.1 hE.2.1 hE.own (hE.words _ h1) (hE.words _ h2) (hE.words _ h3) rfl (hl.1.trans hE.2.2.1.symm) rfl hdg (Nat.le_trans hd hE.rm.1) (by have h4 := hE.rm.2.1; have h5 : (F0 (e_m E) pc ls (.ref a :: rest)).monitorRoom = 0 := rfl; rw [h5]; omega) (k locs hS)
end YR
/-! calls -/
section YC
variable {p : Program} {l : Launch} {e : Env} {R : Room} {s : State} {m : MethodId} {args : Array Value} {below : List Frame} {meth : Method} {c : Code} {H : Heap} {locs : List Loc} {cells slots : Nat} {Q : State → Prop}
variable {pc : Nat} {ls : Array Slot} {rest st0 : List Value} {a : Array Value} {A0 A1 : Nat → Prop} {H0 : Heap} {mc ms : Nat}
theorem y_useR {v : Value} (hr : va_Run p l e R s m args below meth c H locs cells slots 0 0 (F0 m pc ls st0) rest (yRo (some v) a) (fun _ => False)) (kk : W p l e R s m args below meth c H locs cells slots Q (F0 m (pc + 3) ls (v :: rest))) : W p l e R s m args below meth c H locs cells slots Q (F0 m pc ls st0) := by
  intro T hT X
  obtain ⟨v', st₀, t, T', L, h0, X', hL, e1, e2, ⟨hv, hh⟩, st⟩ := hr T hT X
  cases hv
  obtain ⟨t2, a1, b1⟩ := kk T' (by rw [e1, hh, h0]) (Stand.forget X' (fun q h => (hL q h).elim))
  exact ⟨t2, st t2 a1, b1⟩
theorem y_useM {α : Type} {em : α → Option Value} {post : α → Heap → Prop} (hr : va_Run p l e R s m args below meth c H locs cells slots mc ms (F0 m pc ls st0) rest (yQ em post A1 a) A1) (hS : va_S A0 H0 H locs) (hA : ∀ q : Nat, A1 q → A0 q)
    (kk : ∀ (r : α) (H1 : Heap) (locs1 : List Loc), post r H1 → H.size ≤ H1.size → (∀ q : Nat, q < H.size → ¬ A1 q → H1[q]? = H[q]?) → va_S A0 H0 H1 locs1 → W p l e R s m args below meth c H1 locs1 (cells + mc) (slots + ms) Q (F0 m (pc + 3) ls ((em r).toList ++ rest))) : W p l e R s m args below meth c H locs cells slots Q (F0 m pc ls st0) := by
  intro T hT X
  obtain ⟨v, st₀, t, T', L, h0, X', hL, e1, e2, ⟨⟨r, hv, hp⟩, hz, hk⟩, st⟩ := hr T hT X
  cases hv
  rw [h0] at hz hk
  obtain ⟨t2, a1, b1⟩ := kk r T'.heap (locs ++ L) (by rw [e1]; exact hp) (by rw [e1]; exact hz) (fun q h1 h2 => by rw [e1]; exact hk q h1 h2)
    ⟨Nat.le_trans hS.1 (by rw [e1]; exact hz), fun q h1 h2 => by rw [e1, hk q (Nat.lt_of_lt_of_le h1 hS.1) (fun z => h2 (hA q z))]; exact hS.2.1 q h1 h2, fun q hq => by
      rcases List.mem_append.mp hq with h | h
      · exact hS.2.2 q h
      · exact hA _ (hL q h)⟩ T' rfl X'
  exact ⟨t2, st t2 a1, b1⟩
end YC
section YD
variable {E : yE} {z : State} {D : yD} {A A1 : Nat → Prop} {own0 : String} {cc : ByteArray} {nL0 : Nat} {ret0 : Option FieldType} {d mc ms : Nat} {H : Heap} {kc kn : Nat} {Q : State → Prop} {pc : Nat} {ls : Array Slot} {st rest : List Value}
variable {y : MethodName} {bytes : ByteArray} {maxL : Nat} {rt : Option FieldType} {d' mc' ms' idx n : Nat} {As : List Value} {P : Heap → Prop} {lv : List (Nat × Value)}
/-- a call's constant words: of an instance method through an object of its own class; of a static method; of a constructor -/
def yLV (own : String) (idx : Nat) (y : MethodName) (bytes : ByteArray) (maxL : Nat) (rt : Option FieldType) (n : Nat) : Prop := (Cond.methodLink own idx y ∈ lw_all ∧ Cond.instanceMethod y ∈ lw_all ∧ Cond.selects y.cls y y ∈ lw_all ∧ Cond.initialized y.cls ∈ lw_all ∧ Cond.code y bytes maxL rt ∈ lw_all) ∧ (y.cls ≠ "java/lang/invoke/MethodHandle" ∧ y.cls ≠ "java/lang/invoke/VarHandle" ∧ (parseMethodDescriptor y.desc).map (fun d => d.parameters.length) = some n) ∧ maxL ≤ 40
def yLS (own : String) (idx : Nat) (y : MethodName) (bytes : ByteArray) (maxL : Nat) (rt : Option FieldType) (n : Nat) : Prop := (Cond.methodLink own idx y ∈ lw_all ∧ Cond.static y ∈ lw_all ∧ Cond.initialized y.cls ∈ lw_all ∧ Cond.code y bytes maxL rt ∈ lw_all) ∧ (y.cls ≠ "java/lang/invoke/MethodHandle" ∧ y.cls ≠ "java/lang/invoke/VarHandle" ∧ (parseMethodDescriptor y.desc).map (fun d => d.parameters.length) = some n) ∧ maxL ≤ 40
def yLI (own : String) (idx : Nat) (y : MethodName) (bytes : ByteArray) (maxL : Nat) (n : Nat) : Prop := (Cond.methodLink own idx y ∈ lw_all ∧ Cond.instanceMethod y ∈ lw_all ∧ Cond.initialized y.cls ∈ lw_all ∧ Cond.code y bytes maxL none ∈ lw_all) ∧ (y.cls ≠ "java/lang/invoke/MethodHandle" ∧ y.cls ≠ "java/lang/invoke/VarHandle" ∧ (parseMethodDescriptor y.desc).map (fun d => d.parameters.length) = some n) ∧ maxL ≤ 40 ∧ y.name = "<init>"
theorem y_pre (hE : yOk E z D A own0 cc nL0 ret0 d mc ms) {locs : List Loc} (hS : va_S A (e_s E).heap H locs) (hP : P H) : PreS (e_s E) H (yPc z D As P) As :=
  ⟨yPc.blind, fun U hU hW => ⟨rfl, hE.u.on hE.a hS hU hW, by rw [hU]; exact hP⟩⟩
theorem y_recv {ci b : Nat} {fs : List Value} {C : String} {T : u_T} {N : Nat} (hE : yOk E z D A own0 cc nL0 ret0 d mc ms) (hc : yCl[ci]? = some (C, T, N)) (ho : yO D ci fs b H) : ∃ cell : Cell, H[b]? = some cell ∧ cell.vm.isStatics = false ∧ (e_s E).vm.findClass C = some cell.cls :=
  va_recv (D := yG D) (q0 := 0) hE.k (y_one ho) hc rfl
theorem y_room (hE : yOk E z D A own0 cc nL0 ret0 d mc ms) (hd : d' + 1 ≤ d) (hm : maxL ≤ 40) : (rmD d' mc' ms').frames + 1 ≤ (e_R E).frames ∧ 8 + (maxL + 11) + (rmD d' mc' ms').locals ≤ (e_R E).locals := by
  obtain ⟨h1, h2, -⟩ := hE.rm
  constructor
  · show d' + 1 ≤ _
    omega
  · show 8 + (maxL + 11) + 64 * d' ≤ _
    omega
theorem y_roS {v : Value} (hE : yOk E z D A own0 cc nL0 ret0 d mc ms) (hL : yLS own0 idx y bytes maxL rt n) (hM : yR y (ws_ y bytes maxL rt) (rmD d' 0 0) z D As P (some v)) (hdg : decode cc pc = .ok (.invokestatic idx, 3)) (hl : lv_has ls nL0 lv) (hd : d' + 1 ≤ d) (hst : st = As.reverse ++ rest) (hn : As.length = n) (hw : (rest.map fun v => v.category).sum ≤ 8) (hP : P H) (hk : kc ≤ mc ∧ kn ≤ ms) (k : yY E A H kc kn Q (pc + 3) ls (v :: rest)) : yY E A H kc kn Q pc ls st := by
  subst hst
  intro locs hS
  obtain ⟨⟨h1, h2, h3, h4⟩, h5, h6⟩ := hL
  exact y_useR (va_runS (As := As) (rest := rest) ⟨hE.1, hE.2.1, hE.2.2.1, hE.own, hE.words⟩ (hM _ hE.fl) (va_cwS n hE.words (lw_S h1 h2 h3 h4) rfl rfl rfl h5 (y_room hE hd h6)) (y_pre hE hS hP) rfl hn hl.1 rfl (lv_room hw) hdg ⟨Nat.le_trans hk.1 hE.rm.2.2.1, Nat.le_trans hk.2 hE.rm.2.2.2⟩) (k locs hS)
theorem y_roV {b : Nat} {v : Value} (hE : yOk E z D A own0 cc nL0 ret0 d mc ms) (hL : yLV own0 idx y bytes maxL rt n) (hM : yR y (ws_ y bytes maxL rt) (rmD d' 0 0) z D (.ref b :: As) P (some v)) (hdg : decode cc pc = .ok (.invokevirtual idx, 3)) (hl : lv_has ls nL0 lv) (hd : d' + 1 ≤ d) (hr : ∃ cell : Cell, H[b]? = some cell ∧ cell.vm.isStatics = false ∧ (e_s E).vm.findClass y.cls = some cell.cls) (hst : st = As.reverse ++ .ref b :: rest) (hn : As.length = n) (hw : (rest.map fun v => v.category).sum ≤ 8) (hP : P H) (hk : kc ≤ mc ∧ kn ≤ ms) (k : yY E A H kc kn Q (pc + 3) ls (v :: rest)) : yY E A H kc kn Q pc ls st := by
  subst hst
  intro locs hS
  obtain ⟨⟨h1, h2, h3, h4, h5⟩, h6, h7⟩ := hL
  exact y_useR (va_runV (As := As) (rest := rest) ⟨hE.1, hE.2.1, hE.2.2.1, hE.own, hE.words⟩ (hM _ hE.fl) (cwV n hE.words (lw_V h1 h2 h3 h4 h5) rfl rfl rfl ⟨rfl, h6⟩ (y_room hE hd h7)) ⟨(y_pre hE hS hP).1, hr, (y_pre hE hS hP).2⟩ rfl hn hl.1 rfl (lv_room hw) hdg ⟨Nat.le_trans hk.1 hE.rm.2.2.1, Nat.le_trans hk.2 hE.rm.2.2.2⟩) (k locs hS)
theorem y_muS {α : Type} {em : α → Option Value} {post : α → Heap → Prop} (hE : yOk E z D A own0 cc nL0 ret0 d mc ms) (hL : yLS own0 idx y bytes maxL rt n) (hM : yM y (ws_ y bytes maxL rt) (rmD d' mc' ms') z D As P em post mc' ms' A1) (hdg : decode cc pc = .ok (.invokestatic idx, 3)) (hl : lv_has ls nL0 lv) (hd : d' + 1 ≤ d) (hst : st = As.reverse ++ rest) (hn : As.length = n) (hw : (rest.map fun v => v.category).sum ≤ 8) (hP : P H) (hA : ∀ q : Nat, A1 q → A q) (hk : kc + mc' ≤ mc ∧ kn + ms' ≤ ms)
    (k : ∀ (r : α) (H1 : Heap), post r H1 → H.size ≤ H1.size → (∀ q : Nat, q < H.size → ¬ A1 q → H1[q]? = H[q]?) → yY E A H1 (kc + mc') (kn + ms') Q (pc + 3) ls ((em r).toList ++ rest)) : yY E A H kc kn Q pc ls st := by
  subst hst
  intro locs hS
  obtain ⟨⟨h1, h2, h3, h4⟩, h5, h6⟩ := hL
  exact y_useM (va_runS (As := As) (rest := rest) ⟨hE.1, hE.2.1, hE.2.2.1, hE.own, hE.words⟩ (hM _ hE.fl) (va_cwS n hE.words (lw_S h1 h2 h3 h4) rfl rfl rfl h5 (y_room hE hd h6)) (y_pre hE hS hP) rfl hn hl.1 rfl (lv_room hw) hdg ⟨Nat.le_trans hk.1 hE.rm.2.2.1, Nat.le_trans hk.2 hE.rm.2.2.2⟩) hS hA (fun r H1 locs1 q1 q2 q3 q4 => k r H1 q1 q2 q3 locs1 q4)
theorem y_muV {α : Type} {b : Nat} {em : α → Option Value} {post : α → Heap → Prop} (hE : yOk E z D A own0 cc nL0 ret0 d mc ms) (hL : yLV own0 idx y bytes maxL rt n) (hM : yM y (ws_ y bytes maxL rt) (rmD d' mc' ms') z D (.ref b :: As) P em post mc' ms' A1) (hdg : decode cc pc = .ok (.invokevirtual idx, 3)) (hl : lv_has ls nL0 lv) (hd : d' + 1 ≤ d) (hr : ∃ cell : Cell, H[b]? = some cell ∧ cell.vm.isStatics = false ∧ (e_s E).vm.findClass y.cls = some cell.cls) (hst : st = As.reverse ++ .ref b :: rest) (hn : As.length = n) (hw : (rest.map fun v => v.category).sum ≤ 8) (hP : P H) (hA : ∀ q : Nat, A1 q → A q) (hk : kc + mc' ≤ mc ∧ kn + ms' ≤ ms)
    (k : ∀ (r : α) (H1 : Heap), post r H1 → H.size ≤ H1.size → (∀ q : Nat, q < H.size → ¬ A1 q → H1[q]? = H[q]?) → yY E A H1 (kc + mc') (kn + ms') Q (pc + 3) ls ((em r).toList ++ rest)) : yY E A H kc kn Q pc ls st := by
  subst hst
  intro locs hS
  obtain ⟨⟨h1, h2, h3, h4, h5⟩, h6, h7⟩ := hL
  exact y_useM (va_runV (As := As) (rest := rest) ⟨hE.1, hE.2.1, hE.2.2.1, hE.own, hE.words⟩ (hM _ hE.fl) (cwV n hE.words (lw_V h1 h2 h3 h4 h5) rfl rfl rfl ⟨rfl, h6⟩ (y_room hE hd h7)) ⟨(y_pre hE hS hP).1, hr, (y_pre hE hS hP).2⟩ rfl hn hl.1 rfl (lv_room hw) hdg ⟨Nat.le_trans hk.1 hE.rm.2.2.1, Nat.le_trans hk.2 hE.rm.2.2.2⟩) hS hA (fun r H1 locs1 q1 q2 q3 q4 => k r H1 q1 q2 q3 locs1 q4)
theorem y_muI {b : Nat} {post : Unit → Heap → Prop} (hE : yOk E z D A own0 cc nL0 ret0 d mc ms) (hL : yLI own0 idx y bytes maxL n) (hM : yM y (ws_ y bytes maxL none) (rmD d' mc' ms') z D (.ref b :: As) P eV post mc' ms' A1) (hdg : decode cc pc = .ok (.invokespecial idx, 3)) (hl : lv_has ls nL0 lv) (hd : d' + 1 ≤ d) (hst : st = As.reverse ++ .ref b :: rest) (hn : As.length = n) (hw : (rest.map fun v => v.category).sum ≤ 8) (hP : P H) (hA : ∀ q : Nat, A1 q → A q) (hk : kc + mc' ≤ mc ∧ kn + ms' ≤ ms)
    (k : ∀ (H1 : Heap), post () H1 → H.size ≤ H1.size → (∀ q : Nat, q < H.size → ¬ A1 q → H1[q]? = H[q]?) → yY E A H1 (kc + mc') (kn + ms') Q (pc + 3) ls rest) : yY E A H kc kn Q pc ls st := by
  subst hst
  intro locs hS
  obtain ⟨⟨h1, h2, h3, h4⟩, h5, h6, h7⟩ := hL
  exact y_useM (va_runI (As := As) (rest := rest) ⟨hE.1, hE.2.1, hE.2.2.1, hE.own, hE.words⟩ (hM _ hE.fl) (cwI n hE.words (lw_meth h4) rfl rfl rfl (hE.words _ h3) (hE.words _ h1) (hE.words _ h2) h7 h5 (y_room hE hd h6)) (y_pre hE hS hP) rfl hn hl.1 rfl (lv_room hw) hdg ⟨Nat.le_trans hk.1 hE.rm.2.2.1, Nat.le_trans hk.2 hE.rm.2.2.2⟩) hS hA (fun r H1 locs1 q1 q2 q3 q4 => k H1 q1 q2 q3 locs1 q4)
end YD
/-- loops: from the end backwards -/
theorem y_loop {n : Nat} {P : Nat → Prop} (h0 : P n) (hs : ∀ i : Nat, i < n → P (i + 1) → P i) : ∀ i : Nat, i ≤ n → P i := by
  intro i hi
  obtain ⟨k, rfl⟩ := Nat.exists_eq_add_of_le hi
  clear hi
  induction k generalizing i with
  | zero => exact h0
  | succ k ih =>
    have hs' := hs
    refine hs i (by omega) ?_
    have := ih (i + 1) (by rw [show i + 1 + k = i + (k + 1) by omega]; exact h0) (by rw [show i + 1 + k = i + (k + 1) by omega]; exact hs)
    exact this
abbrev zb (b : Bool) : Int32 := if b then 1 else 0
