/-! FRAME 2: what the tables and the constants say; contracts; returns; calls -/
def hNest : Cond → Bool
  | .fieldLinkNest .. => true
  | .methodLinkNest .. => true
  | .castable .. => true
  | .declares .. => true
  | _ => false
def hFws : List (String × MethodName × MethodName) :=
  [(RJ2, ⟨"java/util/List", "size", "()I"⟩, yJ2_size), (RJ2, ⟨"java/util/List", "get", "(I)Ljava/lang/Object;"⟩, yJ2_get), (RJ2, ⟨"java/util/List", "add", "(Ljava/lang/Object;)Z"⟩, yJ2_add), (RJ2, ⟨"java/util/List", "remove", "(I)Ljava/lang/Object;"⟩, yJ2_remove), (RJ2, ⟨"java/util/Collection", "toArray", "()[Ljava/lang/Object;"⟩, yJ2_toArray), (RJ18, ⟨"java/util/Iterator", "hasNext", "()Z"⟩, yJ18_hasNext), (RJ18, ⟨"java/util/Iterator", "next", "()Ljava/lang/Object;"⟩, yJ18_next)]
def hNcs : List (String × String) := [(RJ12, RJ11), (RJ12, RJ13), (RJ11, RJ13), (RJ11, RJ12), (RJ13, RJ11), (RJ13, RJ12)]
/-- the text constants: whose, which entry, the text, its bytes -/
def hStr : List (String × Nat × String × List Int32) :=
  [("Rollover", 385, "call ", [99, 97, 108, 108, 32]), ("Rollover", 387, "gift ", [103, 105, 102, 116, 32]), ("Rollover", 389, "add-on ", [97, 100, 100, 45, 111, 110, 32]), ("Rollover", 394, " on day ", [32, 111, 110, 32, 100, 97, 121, 32]), ("Rollover", 396, ": ", [58, 32]), ("Rollover", 362, "free", [102, 114, 101, 101]), ("Rollover", 370, "+", [43]), ("Rollover", 380, "", []), ("Rollover", 402, " void", [32, 118, 111, 105, 100]),
   ("RolloverModel", 328, "call ", [99, 97, 108, 108, 32]), ("RolloverModel", 330, "gift ", [103, 105, 102, 116, 32]), ("RolloverModel", 332, "add-on ", [97, 100, 100, 45, 111, 110, 32]), ("RolloverModel", 341, " on day ", [32, 111, 110, 32, 100, 97, 121, 32]), ("RolloverModel", 343, ": ", [58, 32]), ("RolloverModel", 349, "free", [102, 114, 101, 101]), ("RolloverModel", 351, "+", [43]), ("RolloverModel", 323, "", []), ("RolloverModel", 353, " void", [32, 118, 111, 105, 100])]
def hT (g : hG) (U : State) : Prop :=
  va_K g.1 hCl (hTys g) U ∧ (∀ w ∈ lw_tbl, hNest w = true → va_Nw w U) ∧ (∀ q ∈ hFws, va_Fw q.1 q.2.1 q.2.2 U) ∧ va_AO "java/lang/Object" U ∧ (Cond.arrayOver (.array .int)).before #[] U = true ∧ (∀ q ∈ hNcs, va_Nc q.1 q.2 U) ∧ va_Mi "[Ljava/lang/Object;" (gs g 8) U ∧
  ∀ (i : Nat) (q : String × Nat × String × List Int32), hStr[i]? = some q → vk_R q.1 q.2.1 q.2.2.1 (gs g (100 + i)) U
def hOnes (j : Nat) : Int32 := nI (48 + j % 10)
def hTens (j : Nat) : Int32 := nI (48 + j / 10)
def hZ (g : hG) (U : State) (H : Heap) : Prop :=
  va_Z "java/util/ArrayList" "DEFAULTCAPACITY_EMPTY_ELEMENTDATA" "[Ljava/lang/Object;" (.ref (gs g 0)) (hFr g) U H ∧ va_T (.object "java/lang/Object") (gs g 0) 0 (fun _ => .null) (hFr g) U H ∧
  vb_C (fun k => gs g (1000 + k)) (hFr g) U H ∧ va_Z "java/lang/Integer$IntegerCache" "cache" "[Ljava/lang/Integer;" (.ref (gs g 1)) (hFr g) U H ∧ va_T (.object "java/lang/Integer") (gs g 1) 256 (fun j => .ref (gs g (1000 + j))) (hFr g) U H ∧ va_Z "java/lang/Integer$IntegerCache" "high" "I" (.int 127) (hFr g) U H ∧
  va_Z "java/util/Optional" "EMPTY" "Ljava/util/Optional;" (.ref (gs g 2)) (hFr g) U H ∧ va_O "java/util/Optional" (gs g 2) (hFr g) U H ∧ va_OF "java/util/Optional" "value" "Ljava/lang/Object;" .null (gs g 2) (hFr g) U H ∧
  va_En "Rollover$Kind" "LRollover$Kind;" ["CALL", "GIFT", "ADD_ON"] [("java/lang/Enum", "ordinal", "I", [0, 1, 2])] (fun k => gs g (3 + k)) (hFr g) U H ∧
  va_Z "java/lang/Integer" "DigitOnes" "[B" (.ref (gs g 6)) (hFr g) U H ∧ va_T .byte (gs g 6) 100 (fun j => .int (hOnes j)) (hFr g) U H ∧ va_Z "java/lang/Integer" "DigitTens" "[B" (.ref (gs g 7)) (hFr g) U H ∧ va_T .byte (gs g 7) 100 (fun j => .int (hTens j)) (hFr g) U H ∧ va_Z "java/lang/String" "COMPACT_STRINGS" "Z" (.int 1) (hFr g) U H ∧
  vx_Zq Bundle.tN "UNASSIGNED_STACK" Bundle.steD (hFr g) U H ∧ vx_Zq Bundle.tN "SUPPRESSED_SENTINEL" Bundle.listD (hFr g) U H ∧ va_O "[Ljava/lang/Object;" (gs g 0) (hFr g) U H ∧
  ∀ (i : Nat) (q : String × Nat × String × List Int32), hStr[i]? = some q → va_O "java/lang/String" (gs g (100 + i)) (hFr g) U H ∧ va_OF "java/lang/String" "coder" "B" (.int 0) (gs g (100 + i)) (hFr g) U H ∧ va_OF "java/lang/String" "value" "[B" (.ref (gs g (200 + i))) (gs g (100 + i)) (hFr g) U H ∧ va_T .byte (gs g (200 + i)) q.2.2.2.length (fun j => .int (q.2.2.2.getD j 0)) (hFr g) U H
theorem hT.same {g : hG} {u U : State} (e : u.vm = U.vm) (h : hT g u) : hT g U := by
  obtain ⟨h1, h2, h3, h4, h5, h6, h6b, h7⟩ := h
  have hal : u.vm.Alike U.vm := by rw [← e]; exact Vm.Alike.refl _
  refine ⟨va_K.moved hal h1, fun w hw hn => ?_, fun q hq => va_Fw.moved ?_ hal (h3 q hq), va_AO.moved hal h4, over_moved hal h5, fun q hq => va_Nc.moved hal (h6 q hq), va_Mi.moved hal h6b, fun i q hq => vk_R.same e.symm (h7 i q hq)⟩
  · refine va_Nw.same ?_ e (h2 w hw hn)
    cases w <;> first | rfl | cases hn
  · have hd : ∀ q ∈ hFws, q.2.1.cls ≠ "java/lang/invoke/MethodHandle" ∧ q.2.1.cls ≠ "java/lang/invoke/VarHandle" := by decide +kernel
    exact hd q hq
theorem hT.warm {g : hG} {s U : State} (hW : s.WarmedH U.vm) (h : hT g s) : hT g U := by
  obtain ⟨h1, h2, h3, h4, h5, h6, h6b, h7⟩ := h
  have hal : s.vm.Alike U.vm := hW.alike
  refine ⟨va_K.moved hal h1, fun w hw hn => ?_, fun q hq => va_Fw.moved ?_ hal (h3 q hq), va_AO.moved hal h4, over_moved hal h5, fun q hq => va_Nc.moved hal (h6 q hq), va_Mi.moved hal h6b, fun i q hq => vk_R.warm hW (h7 i q hq)⟩
  · have h9 := h2 w hw hn
    cases w
    case fieldLinkNest => exact va_Nw.warmF hW h9
    case methodLinkNest => exact va_Nw.warmM hW h9
    case castable => exact va_Nw.warmC hW h9
    case declares => exact va_Nw.warmD hW h9
    all_goals cases hn
  · have hd : ∀ q ∈ hFws, q.2.1.cls ≠ "java/lang/invoke/MethodHandle" ∧ q.2.1.cls ≠ "java/lang/invoke/VarHandle" := by decide +kernel
    exact hd q hq
theorem hZ.moved {g : hG} {u U : State} {H : Heap} (hvm : u.vm.Alike U.vm) (h : hZ g u H) : hZ g U H := by
  obtain ⟨a1, a2, a3, a4, a5, a6, a7, a8, a9, b1, b2, b3, b4, b5, b6, b7, b8, b8b, b9⟩ := h
  exact ⟨va_Z.moved hvm a1, va_T.moved hvm a2, vb_C.moved hvm a3, va_Z.moved hvm a4, va_T.moved hvm a5, va_Z.moved hvm a6, va_Z.moved hvm a7, va_O.moved hvm a8, va_OF.moved hvm a9, va_En.moved hvm b1, va_Z.moved hvm b2, va_T.moved hvm b3, va_Z.moved hvm b4, va_T.moved hvm b5, va_Z.moved hvm b6, vx_Zq.moved hvm b7, vx_Zq.moved hvm b8, va_O.moved hvm b8b,
    fun i q hq => ⟨va_O.moved hvm (b9 i q hq).1, va_OF.moved hvm (b9 i q hq).2.1, va_OF.moved hvm (b9 i q hq).2.2.1, va_T.moved hvm (b9 i q hq).2.2.2⟩⟩
theorem hZ.kept {g : hG} {U : State} {H H1 : Heap} (h : hZ g U H) (hq : ∀ a : Nat, a < H.size → ¬ hFr g a → H1[a]? = H[a]?) : hZ g U H1 := by
  obtain ⟨a1, a2, a3, a4, a5, a6, a7, a8, a9, b1, b2, b3, b4, b5, b6, b7, b8, b8b, b9⟩ := h
  exact ⟨a1.kept hq, a2.kept hq, a3.kept hq, a4.kept hq, a5.kept hq, a6.kept hq, a7.kept hq, a8.kept hq, a9.kept hq, b1.kept hq, b2.kept hq, b3.kept hq, b4.kept hq, b5.kept hq, b6.kept hq, b7.kept hq, b8.kept hq, b8b.kept hq,
    fun i q h9 => ⟨(b9 i q h9).1.kept hq, (b9 i q h9).2.1.kept hq, (b9 i q h9).2.2.1.kept hq, (b9 i q h9).2.2.2.kept hq⟩⟩
def hPc (g : hG) (h : hA) (av : List Value) : Array Value → State → Prop := va_Pc av (fun U => hT g U ∧ hZ g U U.heap ∧ hHeap g h U.heap)
def hQ (g : hG) (post : Option Value → hA → Prop) : Array Value → State → Outcome → State → Prop := fun _ st o t => (∃ (v : Option Value) (h' : hA), o = .returned v ∧ post v h' ∧ hHeap g h' t.heap) ∧ va_F (hFr g) st t
/-- where it throws -/
def hX (g : hG) (px : String → hA → Prop) : String → State → State → Prop := fun E st t => (∃ h' : hA, px E h' ∧ hHeap g h' t.heap) ∧ va_F (hFr g) st t
abbrev oI (P : Int32 → hA → Prop) : Option Value → hA → Prop := fun v h' => ∃ r : Int32, v = some (.int r) ∧ P r h'
abbrev oJ (P : Int64 → hA → Prop) : Option Value → hA → Prop := fun v h' => ∃ r : Int64, v = some (.long r) ∧ P r h'
abbrev oV (P : hA → Prop) : Option Value → hA → Prop := fun v h' => v = none ∧ P h'
abbrev oR (P : Nat → hA → Prop) : Option Value → hA → Prop := fun v h' => ∃ r : Nat, v = some (.ref r) ∧ P r h'
abbrev hMet (l : Launch) (g : hG) (y : MethodName) (cc : ByteArray) (nL : Nat) (ret : Option FieldType) (rm : Room) (h : hA) (av : List Value) (post : Option Value → hA → Prop) : Prop :=
  Met l y (ws_ y cc nL ret) rm (hPc g h av) (hQ g post) rm.cells rm.slots (hFr g)
abbrev hMetX (l : Launch) (g : hG) (y : MethodName) (cc : ByteArray) (nL : Nat) (ret : Option FieldType) (rm : Room) (h : hA) (av : List Value) (post : Option Value → hA → Prop) (px : String → hA → Prop) : Prop :=
  vx_Met l y (ws_ y cc nL ret) rm (hPc g h av) (hQ g post) (hX g px) rm.cells rm.slots (hFr g)
def hRm (d mc ms : Nat) : Room := { frames := d, cells := mc, slots := ms, locals := 64 * d }
def hWd (g : hG) (h : hA) (s : State) (H : Heap) (locs : List Loc) : Prop := hHeap g h H ∧ va_S (hFr g) s.heap H locs
theorem hPc.blind (g : hG) (h : hA) (av : List Value) : FrameBlind (hPc g h av) := by
  intro a U gf mk hp
  obtain ⟨h1, h2, h3, h4⟩ := hp
  exact ⟨h1, hT.same (u := U) (U := U.calling gf mk a) rfl h2, hZ.moved (u := U) (U := U.calling gf mk a) (Vm.Alike.refl U.vm) h3, h4⟩
theorem hWd.less {g : hG} {h h' : hA} {s : State} {H : Heap} {locs : List Loc} (hW : hWd g h s H locs) (hl : ∀ a x, h' a = some x → h a = some x) : hWd g h' s H locs := ⟨hW.1.less hl, hW.2⟩
section HF
variable {p : Program} {l : Launch} {e : Env} {R : Room} {s : State} {m : MethodId} {args : Array Value} {below : List Frame} {meth : Method} {c : Code} {H : Heap} {locs : List Loc} {cells slots : Nat} {Q : State → Prop}
variable {g : hG} {h : hA} {own : String} {cc bytes : ByteArray} {pc nL maxL mc ms n index : Nat} {ret : Option FieldType} {ls : Array Slot} {rest st0 As : List Value} {y : MethodName} {ws : List Cond} {rm : Room} {Qc : Array Value → State → Outcome → State → Prop} {XC : String → State → State → Prop} {free : Addr → Prop} {C host : String} {b : Nat}
variable {post : Option Value → hA → Prop} {px : String → hA → Prop}
theorem h_pc (hTs : hT g s) (hZs : hZ g s s.heap) (hW : hWd g h s H locs) (av : List Value) (U : State) (hU : U.heap = H) (hWm : s.WarmedH U.vm) : hPc g h av av.toArray U := by
  refine ⟨rfl, hTs.warm hWm, ?_, by rw [hU]; exact hW.1⟩
  rw [hU]
  exact (hZs.kept hW.2.2.1).moved hWm.alike
theorem h_recv {a ci : Nat} {lab : hLab} {fs : List Value} {r : vw_C} (hTs : hT g s) (hW : hWd g h s H locs) (ha : h a = some (lab, cO ci fs)) (hc : hCl[ci]? = some r) : ∃ cell : Cell, H[a]? = some cell ∧ cell.vm.isStatics = false ∧ s.vm.findClass r.1 = some cell.cls := by
  obtain ⟨q', h1, cell, g1, g2, g3, -⟩ := hW.1.at ha
  exact ⟨cell, g1, by rw [g3]; rfl, by rw [g2]; exact (hTs.1.1 ci r hc).2.1⟩
theorem h_recvL {a : Nat} {lab : hLab} {v : Int32 × Nat × List Nat} (hTs : hT g s) (hW : hWd g h s H locs) (ha : h a = some (lab, .inr v)) : ∃ cell : Cell, H[a]? = some cell ∧ cell.vm.isStatics = false ∧ s.vm.findClass RJ2 = some cell.cls := by
  obtain ⟨-, dm, -, h2, -⟩ := hW.1
  obtain ⟨-, ⟨q2, -⟩, -⟩ := h2 a lab v ha
  obtain ⟨q', h1, cell, g1, g2, g3, -⟩ := q2
  exact ⟨cell, g1, by rw [g3]; rfl, by rw [g2]; exact (hTs.1.1 0 _ rfl).2.1⟩
theorem hMet_of {av : List Value} (hy : plainName y.cls = true) (hlen : (lg_sl av).length ≤ nL)
    (body : ∀ (p : Program) (e : Env) (s : State) (m : MethodId) (below : List Frame) (meth : Method) (c : Code) (ls : Array Slot), CallFix p m c cc nL s av.toArray lw_all y.cls → meth.sig.returnType = ret → meth.locks = false → meth.name = y.name → hT g s → hZ g s s.heap → hWd g h s s.heap [] → lv_has ls nL (lv_args 0 av) →
      W p l e rm s m av.toArray below meth c s.heap [] 0 0 (MQ below (hQ g post) av.toArray s rm.cells rm.slots (hFr g)) (F0 m 0 ls [])) : hMet l g y cc nL ret rm h av post := by
  refine Met.ofW (cc := cc) (maxL := nL) (ret := ret) hy rfl ?_
  intro p e s m args below meth c s₁ B hml hv
  obtain ⟨rfl, hTs, hZs, hH⟩ := hv
  have hts : ∀ w ∈ lw_all, w.before _ s = true := fun w h => atoms_spec (ws := ws_ y cc nL ret) B.pre w (List.mem_cons_of_mem _ h)
  have hl := lv_entry av (n := nL) hlen
  rw [lg_entry_eq]
  generalize (lg_sl av ++ List.replicate (nL - (lg_sl av).length) Slot.unset).toArray = ls at hl ⊢
  exact body p e s m below meth c ls ⟨B.exec, B.bytes, hml, findClass_of_methodNamed B.named, hts⟩ B.returns B.notSynchronized (name_of_methodNamed B.named B.method).1 hTs hZs ⟨hH, va_S.rf⟩ hl
theorem hMetX_of {av : List Value} (hy : plainName y.cls = true) (hlen : (lg_sl av).length ≤ nL)
    (body : ∀ (p : Program) (e : Env) (s : State) (m : MethodId) (below : List Frame) (meth : Method) (c : Code) (ls : Array Slot), CallFix p m c cc nL s av.toArray lw_all y.cls → meth.sig.returnType = ret → meth.locks = false → meth.name = y.name → hT g s → hZ g s s.heap → hWd g h s s.heap [] → (∀ x ∈ c.exceptionTable.toList, False) → lv_has ls nL (lv_args 0 av) →
      W p l e rm s m av.toArray below meth c s.heap [] 0 0 (vx_MQ below (hQ g post) (hX g px) av.toArray s rm.cells rm.slots (hFr g)) (F0 m 0 ls [])) : hMetX l g y cc nL ret rm h av post px := by
  refine vx_ofW (cc := cc) (maxL := nL) (ret := ret) hy rfl ?_
  intro p e s m args below meth c s₁ B hml hxt hv
  obtain ⟨rfl, hTs, hZs, hH⟩ := hv
  have hts : ∀ w ∈ lw_all, w.before _ s = true := fun w h => atoms_spec (ws := ws_ y cc nL ret) B.pre w (List.mem_cons_of_mem _ h)
  have hl := lv_entry av (n := nL) hlen
  rw [lg_entry_eq]
  generalize (lg_sl av ++ List.replicate (nL - (lg_sl av).length) Slot.unset).toArray = ls at hl ⊢
  exact body p e s m below meth c ls ⟨B.exec, B.bytes, hml, findClass_of_methodNamed B.named, hts⟩ B.returns B.notSynchronized (name_of_methodNamed B.named B.method).1 hTs hZs ⟨hH, va_S.rf⟩ hxt hl
/-! returns -/
theorem h_iret {v : Int32} (hx : p.tables.exec = Jvm.exec) (hb : c.code = cc) (hr : meth.sig.returnType = some .int) (hlk : meth.locks = false) (hW : hWd g h s H locs) (hp : post (some (.int v)) h) (hc : cells ≤ mc) (hs : slots ≤ ms) (hdg : decode cc pc = .ok (.ireturn, 1)) :
    W p l e R s m args below meth c H locs cells slots (MQ below (hQ g post) args s mc ms (hFr g)) (F0 m pc ls [.int v]) :=
  W.widen hc hs (W.iret hx hb hr (fun t ht _ => ⟨⟨_, h, rfl, hp, by rw [ht]; exact hW.1⟩, hW.2.F ht⟩) hW.2.2.2 hdg hlk)
theorem h_zret {v : Int32} (hx : p.tables.exec = Jvm.exec) (hb : c.code = cc) (hr : meth.sig.returnType = some .boolean) (hlk : meth.locks = false) (hW : hWd g h s H locs) (hp : post (some (.int v)) h) (hv : v = 0 ∨ v = 1) (hc : cells ≤ mc) (hs : slots ≤ ms) (hdg : decode cc pc = .ok (.ireturn, 1)) :
    W p l e R s m args below meth c H locs cells slots (MQ below (hQ g post) args s mc ms (hFr g)) (F0 m pc ls [.int v]) :=
  W.widen hc hs (W.zret hx hb hr (by rcases hv with rfl | rfl <;> rfl) (fun t ht _ => ⟨⟨_, h, rfl, hp, by rw [ht]; exact hW.1⟩, hW.2.F ht⟩) hW.2.2.2 hdg hlk)
theorem h_lret {v : Int64} (hx : p.tables.exec = Jvm.exec) (hb : c.code = cc) (hr : meth.sig.returnType = some .long) (hlk : meth.locks = false) (hW : hWd g h s H locs) (hp : post (some (.long v)) h) (hc : cells ≤ mc) (hs : slots ≤ ms) (hdg : decode cc pc = .ok (.lreturn, 1)) :
    W p l e R s m args below meth c H locs cells slots (MQ below (hQ g post) args s mc ms (hFr g)) (F0 m pc ls [.long v]) :=
  W.widen hc hs (W.lret hx hb hr (fun t ht _ => ⟨⟨_, h, rfl, hp, by rw [ht]; exact hW.1⟩, hW.2.F ht⟩) hW.2.2.2 hdg hlk)
theorem h_vret (hx : p.tables.exec = Jvm.exec) (hb : c.code = cc) (hr : meth.sig.returnType = none) (hlk : meth.locks = false) (hW : hWd g h s H locs) (hp : post none h) (hc : cells ≤ mc) (hs : slots ≤ ms) (hdg : decode cc pc = .ok (.return_, 1)) :
    W p l e R s m args below meth c H locs cells slots (MQ below (hQ g post) args s mc ms (hFr g)) (F0 m pc ls []) :=
  W.widen hc hs (W.vret hx hb hr (fun t ht _ => ⟨⟨_, h, rfl, hp, by rw [ht]; exact hW.1⟩, hW.2.F ht⟩) hW.2.2.2 hdg hlk)
theorem h_aret {rt : FieldType} {a : Nat} (hx : p.tables.exec = Jvm.exec) (hb : c.code = cc) (hr : meth.sig.returnType = some rt) (hrt : (∃ n, rt = .object n) ∨ ∃ t, rt = .array t) (hlk : meth.locks = false) (hW : hWd g h s H locs) (hp : post (some (.ref a)) h) (hc : cells ≤ mc) (hs : slots ≤ ms) (hdg : decode cc pc = .ok (.areturn, 1)) :
    W p l e R s m args below meth c H locs cells slots (MQ below (hQ g post) args s mc ms (hFr g)) (F0 m pc ls [.ref a]) :=
  W.widen hc hs (W.aret hx hb hr hrt (Or.inr ⟨a, rfl⟩) (fun t ht _ => ⟨⟨_, h, rfl, hp, by rw [ht]; exact hW.1⟩, hW.2.F ht⟩) hW.2.2.2 hdg hlk)
/-! calls: what runs -/
theorem h_st {st0 rest As : List Value} {b : Nat} (h : st0 = List.reverseAux As (.ref b :: rest)) : st0 = As.reverse ++ .ref b :: rest := by rw [h, List.reverseAux_eq]
theorem h_sts {st0 rest As : List Value} (h : st0 = List.reverseAux As rest) : st0 = As.reverse ++ rest := by rw [h, List.reverseAux_eq]
theorem h_rV (S : CallFix p m c cc nL s args lw_all own) (hTs : hT g s) (hZs : hZ g s s.heap) (hW : hWd g h s H locs) (hl : ls.size = nL) (hM : Met l y ws rm (hPc g h (.ref b :: As)) Qc mc ms free) (cw : CallW R s args own C index y bytes maxL ret ws rm mc ms n)
    (hrc : ∃ cellB : Cell, H[b]? = some cellB ∧ cellB.vm.isStatics = false ∧ s.vm.findClass C = some cellB.cls) (hn : As.length = n) (hst : st0 = List.reverseAux As (.ref b :: rest)) (hrest : (rest.map fun v => v.category).sum ≤ 8) (hf : cells + mc ≤ R.cells ∧ slots + ms ≤ R.slots) (hdg : decode cc pc = .ok (.invokevirtual index, 3)) :
    va_Run p l e R s m args below meth c H locs cells slots mc ms (F0 m pc ls st0) rest (Qc (Value.ref b :: As).toArray) free :=
  va_runV S hM cw ⟨hPc.blind g h _, hrc, fun U hU hWm => h_pc hTs hZs hW _ U hU hWm⟩ rfl hn hl (h_st hst) (lv_room hrest) hdg hf
theorem h_rS (S : CallFix p m c cc nL s args lw_all own) (hTs : hT g s) (hZs : hZ g s s.heap) (hW : hWd g h s H locs) (hl : ls.size = nL) (hM : Met l y ws rm (hPc g h As) Qc mc ms free) (cw : CallB R s args own index y bytes maxL ret ws rm mc ms n ∧ (Cond.static y).before args s = true)
    (hn : As.length = n) (hst : st0 = List.reverseAux As rest) (hrest : (rest.map fun v => v.category).sum ≤ 8) (hf : cells + mc ≤ R.cells ∧ slots + ms ≤ R.slots) (hdg : decode cc pc = .ok (.invokestatic index, 3)) :
    va_Run p l e R s m args below meth c H locs cells slots mc ms (F0 m pc ls st0) rest (Qc As.toArray) free :=
  va_runS S hM cw ⟨hPc.blind g h _, fun U hU hWm => h_pc hTs hZs hW _ U hU hWm⟩ rfl hn hl (h_sts hst) (lv_room hrest) hdg hf
theorem h_rI (S : CallFix p m c cc nL s args lw_all own) (hTs : hT g s) (hZs : hZ g s s.heap) (hW : hWd g h s H locs) (hl : ls.size = nL) (hM : Met l y ws rm (hPc g h (.ref b :: As)) Qc mc ms free) (cw : CallB R s args own index y bytes maxL none ws rm mc ms n ∧ y.name = "<init>" ∧ (Cond.instanceMethod y).before args s = true)
    (hn : As.length = n) (hst : st0 = List.reverseAux As (.ref b :: rest)) (hrest : (rest.map fun v => v.category).sum ≤ 8) (hf : cells + mc ≤ R.cells ∧ slots + ms ≤ R.slots) (hdg : decode cc pc = .ok (.invokespecial index, 3)) :
    va_Run p l e R s m args below meth c H locs cells slots mc ms (F0 m pc ls st0) rest (Qc (Value.ref b :: As).toArray) free :=
  va_runI S hM cw ⟨hPc.blind g h _, fun U hU hWm => h_pc hTs hZs hW _ U hU hWm⟩ rfl hn hl (h_st hst) (lv_room hrest) hdg hf
theorem h_rVN (S : CallFix p m c cc nL s args lw_all own) (hTs : hT g s) (hZs : hZ g s s.heap) (hW : hWd g h s H locs) (hl : ls.size = nL) (hM : Met l y ws rm (hPc g h (.ref b :: As)) Qc mc ms free) (cw : va_CN R s args own index y host bytes maxL ret ws rm mc ms n ∧ (Cond.instanceMethod y).before args s = true ∧ (Cond.selects C y y).before args s = true)
    (hrc : ∃ cellB : Cell, H[b]? = some cellB ∧ cellB.vm.isStatics = false ∧ s.vm.findClass C = some cellB.cls) (hn : As.length = n) (hst : st0 = List.reverseAux As (.ref b :: rest)) (hrest : (rest.map fun v => v.category).sum ≤ 8) (hf : cells + mc ≤ R.cells ∧ slots + ms ≤ R.slots) (hdg : decode cc pc = .ok (.invokevirtual index, 3)) :
    va_Run p l e R s m args below meth c H locs cells slots mc ms (F0 m pc ls st0) rest (Qc (Value.ref b :: As).toArray) free :=
  va_runVN S hM cw ⟨hPc.blind g h _, hrc, fun U hU hWm => h_pc hTs hZs hW _ U hU hWm⟩ rfl hn hl (h_st hst) (lv_room hrest) hdg hf
theorem h_rSN (S : CallFix p m c cc nL s args lw_all own) (hTs : hT g s) (hZs : hZ g s s.heap) (hW : hWd g h s H locs) (hl : ls.size = nL) (hM : Met l y ws rm (hPc g h As) Qc mc ms free) (cw : va_CN R s args own index y host bytes maxL ret ws rm mc ms n ∧ (Cond.static y).before args s = true ∧ True)
    (hn : As.length = n) (hst : st0 = List.reverseAux As rest) (hrest : (rest.map fun v => v.category).sum ≤ 8) (hf : cells + mc ≤ R.cells ∧ slots + ms ≤ R.slots) (hdg : decode cc pc = .ok (.invokestatic index, 3)) :
    va_Run p l e R s m args below meth c H locs cells slots mc ms (F0 m pc ls st0) rest (Qc As.toArray) free :=
  va_runSN S hM cw ⟨hPc.blind g h _, fun U hU hWm => h_pc hTs hZs hW _ U hU hWm⟩ rfl hn hl (h_sts hst) (lv_room hrest) hdg hf
theorem h_rIN (S : CallFix p m c cc nL s args lw_all own) (hTs : hT g s) (hZs : hZ g s s.heap) (hW : hWd g h s H locs) (hl : ls.size = nL) (hM : Met l y ws rm (hPc g h (.ref b :: As)) Qc mc ms free) (cw : va_CN R s args own index y host bytes maxL none ws rm mc ms n ∧ y.name = "<init>" ∧ (Cond.instanceMethod y).before args s = true)
    (hn : As.length = n) (hst : st0 = List.reverseAux As (.ref b :: rest)) (hrest : (rest.map fun v => v.category).sum ≤ 8) (hf : cells + mc ≤ R.cells ∧ slots + ms ≤ R.slots) (hdg : decode cc pc = .ok (.invokespecial index, 3)) :
    va_Run p l e R s m args below meth c H locs cells slots mc ms (F0 m pc ls st0) rest (Qc (Value.ref b :: As).toArray) free :=
  va_runIN S hM cw ⟨hPc.blind g h _, fun U hU hWm => h_pc hTs hZs hW _ U hU hWm⟩ rfl hn hl (h_st hst) (lv_room hrest) hdg hf
theorem h_rF {x : MethodName} {count : Nat} {cC : ClassId} (hat : ClassAt s C cC) (S : CallFix p m c cc nL s args lw_all own) (hTs : hT g s) (hZs : hZ g s s.heap) (hW : hWd g h s H locs) (hl : ls.size = nL) (hM : Met l y ws rm (hPc g h (.ref b :: As)) Qc mc ms free) (cw : va_CI R s args own C index x y bytes maxL ret ws rm mc ms n)
    (hrc : ∃ cellB : Cell, H[b]? = some cellB ∧ cellB.vm.isStatics = false ∧ s.vm.findClass C = some cellB.cls) (hn : As.length = n) (hst : st0 = List.reverseAux As (.ref b :: rest)) (hrest : (rest.map fun v => v.category).sum ≤ 8) (hf : cells + mc ≤ R.cells ∧ slots + ms ≤ R.slots) (hdg : decode cc pc = .ok (.invokeinterface index count, 5)) :
    va_Run5 p l e R s m args below meth c H locs cells slots mc ms (F0 m pc ls st0) rest (Qc (Value.ref b :: As).toArray) free :=
  va_runF hat S hM cw ⟨hPc.blind g h _, hrc, fun U hU hWm => h_pc hTs hZs hW _ U hU hWm⟩ rfl hn hl (h_st hst) (lv_room hrest) hdg hf
theorem h_keep {st₀ t T' : State} {L : List Loc} (h0 : st₀.heap = H) (e1 : T'.heap = t.heap) (hS : va_S (hFr g) s.heap H locs) (hL : ∀ q ∈ L, hFr g q.base) (hF : va_F (hFr g) st₀ t) : va_S (hFr g) s.heap T'.heap (locs ++ L) := by
  exact (vx_keep h0 e1 hS (fun _ _ h => h) (fun _ h => h) hL hF).2.2
theorem h_k {a : Array Value} (hr : va_Run p l e R s m args below meth c H locs cells slots mc ms (F0 m pc ls st0) rest (hQ g post a) (hFr g)) (hW : hWd g h s H locs)
    (kk : ∀ (v : Option Value) (h' : hA) (H1 : Heap) (locs1 : List Loc), post v h' → hWd g h' s H1 locs1 → W p l e R s m args below meth c H1 locs1 (cells + mc) (slots + ms) Q (F0 m (pc + 3) ls (v.toList ++ rest))) : W p l e R s m args below meth c H locs cells slots Q (F0 m pc ls st0) := by
  intro T hT X
  obtain ⟨v, st₀, t, T', L, h0, X', hL, e1, e2, ⟨⟨v', h', hv, hp, hh⟩, hF⟩, st⟩ := hr T hT X
  cases hv
  obtain ⟨t2, a1, b1⟩ := kk v h' T'.heap (locs ++ L) hp ⟨by rw [e1]; exact hh, h_keep h0 e1 hW.2 hL hF⟩ T' rfl X'
  exact ⟨t2, st t2 a1, b1⟩
theorem h_k5 {a : Array Value} (hr : va_Run5 p l e R s m args below meth c H locs cells slots mc ms (F0 m pc ls st0) rest (hQ g post a) (hFr g)) (hW : hWd g h s H locs)
    (kk : ∀ (v : Option Value) (h' : hA) (H1 : Heap) (locs1 : List Loc), post v h' → hWd g h' s H1 locs1 → W p l e R s m args below meth c H1 locs1 (cells + mc) (slots + ms) Q (F0 m (pc + 5) ls (v.toList ++ rest))) : W p l e R s m args below meth c H locs cells slots Q (F0 m pc ls st0) := by
  intro T hT X
  obtain ⟨v, st₀, t, T', L, h0, X', hL, e1, e2, ⟨⟨v', h', hv, hp, hh⟩, hF⟩, st⟩ := hr T hT X
  cases hv
  obtain ⟨t2, a1, b1⟩ := kk v h' T'.heap (locs ++ L) hp ⟨by rw [e1]; exact hh, h_keep h0 e1 hW.2 hL hF⟩ T' rfl X'
  exact ⟨t2, st t2 a1, b1⟩
theorem h_ki {a : Array Value} {P : Int32 → hA → Prop} (hr : va_Run p l e R s m args below meth c H locs cells slots mc ms (F0 m pc ls st0) rest (hQ g (oI P) a) (hFr g)) (hW : hWd g h s H locs)
    (kk : ∀ (r : Int32) (h' : hA) (H1 : Heap) (locs1 : List Loc), P r h' → hWd g h' s H1 locs1 → W p l e R s m args below meth c H1 locs1 (cells + mc) (slots + ms) Q (F0 m (pc + 3) ls (.int r :: rest))) : W p l e R s m args below meth c H locs cells slots Q (F0 m pc ls st0) :=
  h_k hr hW (fun v h' H1 locs1 hp hW1 => by obtain ⟨r, rfl, hp⟩ := hp; exact kk r h' H1 locs1 hp hW1)
theorem h_kj {a : Array Value} {P : Int64 → hA → Prop} (hr : va_Run p l e R s m args below meth c H locs cells slots mc ms (F0 m pc ls st0) rest (hQ g (oJ P) a) (hFr g)) (hW : hWd g h s H locs)
    (kk : ∀ (r : Int64) (h' : hA) (H1 : Heap) (locs1 : List Loc), P r h' → hWd g h' s H1 locs1 → W p l e R s m args below meth c H1 locs1 (cells + mc) (slots + ms) Q (F0 m (pc + 3) ls (.long r :: rest))) : W p l e R s m args below meth c H locs cells slots Q (F0 m pc ls st0) :=
  h_k hr hW (fun v h' H1 locs1 hp hW1 => by obtain ⟨r, rfl, hp⟩ := hp; exact kk r h' H1 locs1 hp hW1)
theorem h_kv {a : Array Value} {P : hA → Prop} (hr : va_Run p l e R s m args below meth c H locs cells slots mc ms (F0 m pc ls st0) rest (hQ g (oV P) a) (hFr g)) (hW : hWd g h s H locs)
    (kk : ∀ (h' : hA) (H1 : Heap) (locs1 : List Loc), P h' → hWd g h' s H1 locs1 → W p l e R s m args below meth c H1 locs1 (cells + mc) (slots + ms) Q (F0 m (pc + 3) ls rest)) : W p l e R s m args below meth c H locs cells slots Q (F0 m pc ls st0) :=
  h_k hr hW (fun v h' H1 locs1 hp hW1 => by obtain ⟨rfl, hp⟩ := hp; exact kk h' H1 locs1 hp hW1)
theorem h_kr {a : Array Value} {P : Nat → hA → Prop} (hr : va_Run p l e R s m args below meth c H locs cells slots mc ms (F0 m pc ls st0) rest (hQ g (oR P) a) (hFr g)) (hW : hWd g h s H locs)
    (kk : ∀ (r : Nat) (h' : hA) (H1 : Heap) (locs1 : List Loc), P r h' → hWd g h' s H1 locs1 → W p l e R s m args below meth c H1 locs1 (cells + mc) (slots + ms) Q (F0 m (pc + 3) ls (.ref r :: rest))) : W p l e R s m args below meth c H locs cells slots Q (F0 m pc ls st0) :=
  h_k hr hW (fun v h' H1 locs1 hp hW1 => by obtain ⟨r, rfl, hp⟩ := hp; exact kk r h' H1 locs1 hp hW1)
theorem h_ki5 {a : Array Value} {P : Int32 → hA → Prop} (hr : va_Run5 p l e R s m args below meth c H locs cells slots mc ms (F0 m pc ls st0) rest (hQ g (oI P) a) (hFr g)) (hW : hWd g h s H locs)
    (kk : ∀ (r : Int32) (h' : hA) (H1 : Heap) (locs1 : List Loc), P r h' → hWd g h' s H1 locs1 → W p l e R s m args below meth c H1 locs1 (cells + mc) (slots + ms) Q (F0 m (pc + 5) ls (.int r :: rest))) : W p l e R s m args below meth c H locs cells slots Q (F0 m pc ls st0) :=
  h_k5 hr hW (fun v h' H1 locs1 hp hW1 => by obtain ⟨r, rfl, hp⟩ := hp; exact kk r h' H1 locs1 hp hW1)
theorem h_kr5 {a : Array Value} {P : Nat → hA → Prop} (hr : va_Run5 p l e R s m args below meth c H locs cells slots mc ms (F0 m pc ls st0) rest (hQ g (oR P) a) (hFr g)) (hW : hWd g h s H locs)
    (kk : ∀ (r : Nat) (h' : hA) (H1 : Heap) (locs1 : List Loc), P r h' → hWd g h' s H1 locs1 → W p l e R s m args below meth c H1 locs1 (cells + mc) (slots + ms) Q (F0 m (pc + 5) ls (.ref r :: rest))) : W p l e R s m args below meth c H locs cells slots Q (F0 m pc ls st0) :=
  h_k5 hr hW (fun v h' H1 locs1 hp hW1 => by obtain ⟨r, rfl, hp⟩ := hp; exact kk r h' H1 locs1 hp hW1)
/-! calls of what may throw -/
theorem h_xV (S : CallFix p m c cc nL s args lw_all own) (hTs : hT g s) (hZs : hZ g s s.heap) (hW : hWd g h s H locs) (hl : ls.size = nL) (hM : vx_Met l y ws rm (hPc g h (.ref b :: As)) Qc XC mc ms free) (cw : CallW R s args own C index y bytes maxL ret ws rm mc ms n)
    (hrc : ∃ cellB : Cell, H[b]? = some cellB ∧ cellB.vm.isStatics = false ∧ s.vm.findClass C = some cellB.cls) (hn : As.length = n) (hst : st0 = List.reverseAux As (.ref b :: rest)) (hrest : (rest.map fun v => v.category).sum ≤ 8) (hf : cells + mc ≤ R.cells ∧ slots + ms ≤ R.slots) (hdg : decode cc pc = .ok (.invokevirtual index, 3)) :
    vx_Run p l e R s m args below meth c H locs cells slots mc ms (F0 m pc ls st0) rest (Qc (Value.ref b :: As).toArray) XC free :=
  vx_runV S hM cw ⟨hPc.blind g h _, hrc, fun U hU hWm => h_pc hTs hZs hW _ U hU hWm⟩ rfl hn hl (h_st hst) (lv_room hrest) hdg hf
theorem h_xS (S : CallFix p m c cc nL s args lw_all own) (hTs : hT g s) (hZs : hZ g s s.heap) (hW : hWd g h s H locs) (hl : ls.size = nL) (hM : vx_Met l y ws rm (hPc g h As) Qc XC mc ms free) (cw : CallB R s args own index y bytes maxL ret ws rm mc ms n ∧ (Cond.static y).before args s = true)
    (hn : As.length = n) (hst : st0 = List.reverseAux As rest) (hrest : (rest.map fun v => v.category).sum ≤ 8) (hf : cells + mc ≤ R.cells ∧ slots + ms ≤ R.slots) (hdg : decode cc pc = .ok (.invokestatic index, 3)) :
    vx_Run p l e R s m args below meth c H locs cells slots mc ms (F0 m pc ls st0) rest (Qc As.toArray) XC free :=
  vx_runS S hM cw ⟨hPc.blind g h _, fun U hU hWm => h_pc hTs hZs hW _ U hU hWm⟩ rfl hn hl (h_sts hst) (lv_room hrest) hdg hf
/-- behind a call that may throw, in a method without handlers that may throw the same -/
theorem h_kx {a : Array Value} (hr : vx_Run p l e R s m args below meth c H locs cells slots mc ms (F0 m pc ls st0) rest (hQ g post a) (hX g px) (hFr g)) (hW : hWd g h s H locs)
    (kx : ∀ (E : String) (ce : Cell) (q9 : Addr) (h' : hA) (H1 : Heap) (locs1 : List Loc), px E h' → hWd g h' s H1 locs1 → H1[q9]? = some ce → ce.vm = .none → s.vm.findClass E = some ce.cls → vx_W p l e R s m args below meth c H1 locs1 (cells + mc) (slots + ms) Q (F0 m pc ls rest) q9)
    (kk : ∀ (v : Option Value) (h' : hA) (H1 : Heap) (locs1 : List Loc), post v h' → hWd g h' s H1 locs1 → W p l e R s m args below meth c H1 locs1 (cells + mc) (slots + ms) Q (F0 m (pc + 3) ls (v.toList ++ rest))) : W p l e R s m args below meth c H locs cells slots Q (F0 m pc ls st0) := by
  intro T hT X
  rcases hr T hT X with ⟨v, st₀, t, T', L, h0, X', hL, e1, e2, ⟨⟨v', h', hv, hp, hh⟩, hF⟩, st⟩ | ⟨q, st₀, t, T', L, E, ce, h0, X', hL, e1, e2, ⟨⟨h', hp, hh⟩, hF⟩, hce, hcv, hcl, st⟩
  · cases hv
    obtain ⟨t2, a1, b1⟩ := kk v h' T'.heap (locs ++ L) hp ⟨by rw [e1]; exact hh, h_keep h0 e1 hW.2 hL hF⟩ T' rfl X'
    exact ⟨t2, st t2 a1, b1⟩
  · obtain ⟨t2, a1, b1⟩ := kx E ce q h' T'.heap (locs ++ L) hp ⟨by rw [e1]; exact hh, h_keep h0 e1 hW.2 hL hF⟩ (by rw [e1]; exact hce) hcv hcl T' rfl X'
    exact ⟨t2, st.trans a1, b1⟩
/-- not caught here -/
theorem h_out {E : String} {ce : Cell} {q : Nat} (hxt : ∀ x ∈ c.exceptionTable.toList, False) (hlk : meth.locks = false) (hW : hWd g h s H locs) (hp : px E h) (hce : H[q]? = some ce) (hv : ce.vm = .none) (hcl : s.vm.findClass E = some ce.cls) (hc : cells ≤ mc) (hs : slots ≤ ms) :
    vx_W p l e R s m args below meth c H locs cells slots (vx_MQ below Qc (hX g px) args s mc ms (hFr g)) (F0 m pc ls rest) q :=
  vx_out (fun x hx => (hxt x hx).elim) hlk hce hv hcl (fun t ht _ => ⟨⟨h, hp, by rw [ht]; exact hW.1⟩, hW.2.F ht⟩) hW.2.2.2 hc hs
end HF
theorem lw_F {own : String} {idx : Nat} {C : String} {x y : MethodName} {b : ByteArray} {L : Nat} {r : Option FieldType} (h1 : Cond.methodLink own idx x ∈ lw_all) (h2 : Cond.selects C x y ∈ lw_all) (h3 : Cond.instanceMethod y ∈ lw_all) (h4 : Cond.initialized y.cls ∈ lw_all) (h5 : Cond.code y b L r ∈ lw_all) : GoodIn lw_all (va_wsF own idx C x y (ws_ y b L r)) := by
  unfold va_wsF
  refine lw_app (fun w hw => ?_) (lw_meth h5)
  rcases List.mem_cons.mp hw with rfl | hw
  · exact h1
  rcases List.mem_cons.mp hw with rfl | hw
  · exact h2
  rcases List.mem_cons.mp hw with rfl | hw
  · exact h3
  rcases List.mem_cons.mp hw with rfl | hw
  · exact h4
  · cases hw
