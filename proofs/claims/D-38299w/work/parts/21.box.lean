/-! boxes, options, iterators -/
/-- what stood still stands -/
def hExt (h h' : hA) : Prop := ∀ a x, h a = some x → h' a = some x
theorem hExt.rf (h : hA) : hExt h h := fun _ _ e => e
theorem hExt.tr {h1 h2 h3 : hA} (a : hExt h1 h2) (b : hExt h2 h3) : hExt h1 h3 := fun q x e => b q x (a q x e)
theorem hExt.new {h : hA} {q : Nat} {x : hLab × hC} (hq : h q = none) : hExt h (hu h q x) := fun _ _ e => hu_new e hq
/-- y is an Integer that holds v -/
def hBox (g : hG) (h : hA) (y : Nat) (v : Int32) : Prop := h y = some ((0, 0), cO 1 [.int v]) ∨ ∃ k : Nat, k < 256 ∧ y = gs g (1000 + k) ∧ v = vb_c k
theorem hBox.up {g : hG} {h h' : hA} {y : Nat} {v : Int32} (hx : hBox g h y v) (e : hExt h h') : hBox g h' y v := by
  rcases hx with hx | hx
  · exact Or.inl (e _ _ hx)
  · exact Or.inr hx
theorem hBox.obj {g : hG} {h : hA} {y : Nat} {v : Int32} (hx : hBox g h y v) : hObj g h y := by
  rcases hx with hx | ⟨k, hk, e, -⟩
  · exact hObj.o hx
  · exact Or.inr (Or.inr ⟨k, hk, e⟩)
/-- y is an Optional: of x, or the empty one -/
def hOpt (g : hG) (h : hA) (y : Nat) (v : Option Nat) : Prop := (∃ lab x, h y = some (lab, cO 3 [.ref x]) ∧ v = some x) ∨ (y = gs g 2 ∧ v = none)
section HF
variable {p : Program} {l : Launch} {e : Env} {R : Room} {s : State} {m : MethodId} {args : Array Value} {below : List Frame} {meth : Method} {c : Code} {H : Heap} {locs : List Loc} {cells slots : Nat} {Q : State → Prop}
variable {g : hG} {h : hA} {own ref : String} {cc : ByteArray} {pc nL index a y : Nat} {ls : Array Slot} {rest : List Value} {v : Int32}
theorem hBox.recv (hTs : hT g s) (hZs : hZ g s s.heap) (hW : hWd g h s H locs) (hx : hBox g h y v) : ∃ cell : Cell, H[y]? = some cell ∧ cell.vm.isStatics = false ∧ s.vm.findClass RJ4 = some cell.cls := by
  rcases hx with hx | ⟨k, hk, rfl, -⟩
  · exact h_recv (ci := 1) hTs hW hx rfl
  · obtain ⟨cell, h1, h2, h3, -⟩ := (hZs.2.2.1.1 k hk).kept hW.2.2.1
    exact ⟨cell, h1, h2, h3⟩
theorem h_getBox (S : CallFix p m c cc nL s args lw_all own) (hTs : hT g s) (hZs : hZ g s s.heap) (hW : hWd g h s H locs) (hx : hBox g h y v) (hlink : (Cond.fieldLink own index RJ4 "value" "I") ∈ lw_all) (hdg : decode cc pc = .ok (.getfield index, 3))
    (kk : W p l e R s m args below meth c H locs cells slots Q (F0 m (pc + 3) ls (.int v :: rest))) : W p l e R s m args below meth c H locs cells slots Q (F0 m pc ls (.ref y :: rest)) := by
  rcases hx with hx | ⟨k, hk, rfl, rfl⟩
  · exact h_get (ci := 1) (C := RJ4) (T := TJ4) (N := 1) S hTs hW in_J4 rfl 0 (by decide) hlink (fun _ h => h) hdg hx rfl kk
  · exact va_getX (i := k) (ref := RJ4) (v := fun k => .int (vb_c k)) (ad := fun k => gs g (1000 + k)) S.1 S.2.1 hZs.2.2.1.2 hk hW.2 S.2.2.2.1 (S.2.2.2.2 _ hlink) (fun _ h => h) hdg kk
theorem hOpt.recv {v : Option Nat} (hTs : hT g s) (hZs : hZ g s s.heap) (hW : hWd g h s H locs) (hx : hOpt g h y v) : ∃ cell : Cell, H[y]? = some cell ∧ cell.vm.isStatics = false ∧ s.vm.findClass RJ20 = some cell.cls := by
  rcases hx with ⟨lab, x, hx, -⟩ | ⟨rfl, -⟩
  · exact h_recv (ci := 3) hTs hW hx rfl
  · obtain ⟨cell, h1, h2, h3, -⟩ := hZs.2.2.2.2.2.2.2.1.kept hW.2.2.1
    exact ⟨cell, h1, h2, h3⟩
theorem h_getOpt {v : Option Nat} (S : CallFix p m c cc nL s args lw_all own) (hTs : hT g s) (hZs : hZ g s s.heap) (hW : hWd g h s H locs) (hx : hOpt g h y v) (hlink : (Cond.fieldLink own index RJ20 "value" "Ljava/lang/Object;") ∈ lw_all) (hdg : decode cc pc = .ok (.getfield index, 3))
    (kk : W p l e R s m args below meth c H locs cells slots Q (F0 m (pc + 3) ls (va_rf v :: rest))) : W p l e R s m args below meth c H locs cells slots Q (F0 m pc ls (.ref y :: rest)) := by
  rcases hx with ⟨lab, x, hx, rfl⟩ | ⟨rfl, rfl⟩
  · exact h_get (ci := 3) (C := RJ20) (T := TJ20) (N := 1) S hTs hW in_J20 rfl 0 (by decide) hlink (fun _ h => h) hdg hx rfl kk
  · exact vk_getf (ref := RJ20) S.1 S.2.1 hZs.2.2.2.2.2.2.2.2.1 hW.2 S.2.2.2.1 (S.2.2.2.2 _ hlink) (fun _ h => h) hdg kk
end HF
theorem list_dn {es : List Nat} {i j : Nat} (h : i + 1 = es.length) : va_up (fun i => es[i]?) i none j = es.dropLast[j]? := by
  unfold va_up
  by_cases e0 : j = i
  · rw [if_pos e0, List.getElem?_eq_none (by rw [List.length_dropLast]; omega)]
  · rw [if_neg e0]
    show es[j]? = es.dropLast[j]?
    by_cases e1 : j < i
    · rw [List.getElem?_dropLast, if_pos (by omega)]
    · rw [List.getElem?_eq_none (by omega), List.getElem?_eq_none (by rw [List.length_dropLast]; omega)]
set_option maxHeartbeats 4000000 in
set_option maxRecDepth 100000 in
theorem m_J3_init (l : Launch) (g : hG) (h : hA) {a : Nat}  : hMet l g yJ3_init cJ3_init 1 none (hRm 1 0 0) h [.ref a] (oV fun h' => h = h') := by
  refine hMet_of (by decide) (Nat.le_of_ble_eq_true rfl) ?_
  intro p e s m below meth c ls S hr hlk hnm hTs hZs hW hl
  have S : CallFix p m c cJ3_init 1 s ([.ref a] : List Value).toArray lw_all RJ3 := S
  have hl : lv_has ls 1 [(0, .ref a)] := hl
  refine lv_aload_n S.1 S.2.1 dJ3_init_0 rfl (lv_at hl 0 rfl) ?_
  refine W.objInit S.1 S.2.1 S.2.2.2.1 (S.2.2.2.2 _ q187) (S.2.2.2.2 _ q121) (S.2.2.2.2 _ q122) rfl (by rw [S.2.2.1]; exact hl.1) rfl dJ3_init_1 (Nat.le_of_ble_eq_true rfl) (Nat.le_of_ble_eq_true rfl) ?_
  refine W.eq (g2 := F0 m 4 ls _) rfl ?_
  exact (h_vret S.1 S.2.1 hr hlk hW ⟨rfl, rfl⟩ (Nat.le_of_ble_eq_true rfl) (Nat.le_of_ble_eq_true rfl) dJ3_init_4)
set_option maxHeartbeats 4000000 in
set_option maxRecDepth 100000 in
theorem m_J4_init (l : Launch) (g : hG) (h : hA) {a : Nat} {lab : hLab} {v0 : Value} {x : Int32} (ha : h a = some (lab, cO 1 [v0]))  : hMet l g yJ4_init cJ4_init 2 none (hRm 2 0 0) h [.ref a, .int x] (oV fun h' => hu h a (lab, cO 1 [.int x]) = h') := by
  refine hMet_of (by decide) (Nat.le_of_ble_eq_true rfl) ?_
  intro p e s m below meth c ls S hr hlk hnm hTs hZs hW hl
  have S : CallFix p m c cJ4_init 2 s ([.ref a, .int x] : List Value).toArray lw_all RJ4 := S
  have hl : lv_has ls 2 [(0, .ref a), (1, .int x)] := hl
  refine lv_aload_n S.1 S.2.1 dJ4_init_0 rfl (lv_at hl 0 rfl) ?_
  refine h_kv (h_rI S hTs hZs hW hl.1 (m_J3_init l g h (a := a)) (cwI 0 S.2.2.2.2 (lw_meth q186) rfl rfl rfl (S.2.2.2.2 _ q75) (S.2.2.2.2 _ q184) (S.2.2.2.2 _ q185) rfl (by decide +kernel) ⟨Nat.le_of_ble_eq_true rfl, Nat.le_of_ble_eq_true rfl⟩) rfl rfl (Nat.le_of_ble_eq_true rfl) ⟨Nat.le_of_ble_eq_true rfl, Nat.le_of_ble_eq_true rfl⟩ dJ4_init_1) hW (fun h1 H locs hp hW => ?_)
  subst hp
  refine lv_aload_n S.1 S.2.1 dJ4_init_4 rfl (lv_at hl 0 rfl) ?_
  refine lv_iload_n S.1 S.2.1 dJ4_init_5 rfl (lv_at hl 1 rfl) ?_
  refine h_putF (ci := 1) (C := RJ4) (T := TJ4) (N := 1) S hTs hW in_J4 tyJ4 tyJ4_ok nmJ4 rfl 0 (by decide) q188 (fun _ h => h) rfl hnm rfl dJ4_init_6 (by assumption) (by exact Nat.le_of_ble_eq_true rfl) rfl rfl (fun H locs hW => ?_)
  exact (h_vret S.1 S.2.1 hr hlk hW ⟨rfl, rfl⟩ (Nat.le_of_ble_eq_true rfl) (Nat.le_of_ble_eq_true rfl) dJ4_init_9)
set_option maxHeartbeats 4000000 in
set_option maxRecDepth 100000 in
theorem m_valueOf (l : Launch) (g : hG) (h : hA) (x : Int32)  : hMet l g yJ4_valueOf cJ4_valueOf 1 (some (.object "java/lang/Integer")) (hRm 3 1 1) h [.int x] (oR fun r h' => hExt h h' ∧ hBox g h' r x) := by
  refine hMet_of (by decide) (Nat.le_of_ble_eq_true rfl) ?_
  intro p e s m below meth c ls S hr hlk hnm hTs hZs hW hl
  have S : CallFix p m c cJ4_valueOf 1 s ([.int x] : List Value).toArray lw_all RJ4 := S
  have hl : lv_has ls 1 [(0, .int x)] := hl
  refine lv_iload_n S.1 S.2.1 dJ4_valueOf_0 rfl (lv_at hl 0 rfl) ?_
  refine lv_bipush (v := -128) S.1 S.2.1 dJ4_valueOf_1 (by decide) ?_
  refine lv_icmp_lt (tgt := 23) S.1 S.2.1 dJ4_valueOf_3 (by decide) (fun c_3 => ?t3) (fun c_3 => ?f3)
  case t3 =>
    refine h_new (ci := 1) (C := RJ4) (T := TJ4) (N := 1) (fs := [.int 0]) (0, 0) S hTs hW in_J4 tyJ4 tyJ4_ok rfl q179 q180 q76 (by decide) dJ4_valueOf_23 (Nat.le_refl _) (Nat.le_refl _) (fun q H hq hW => ?_)
    refine lv_dup S.1 S.2.1 dJ4_valueOf_26 rfl ?_
    refine lv_iload_n S.1 S.2.1 dJ4_valueOf_27 rfl (lv_at hl 0 rfl) ?_
    refine h_kv (h_rI S hTs hZs hW hl.1 (m_J4_init l g _ (hu_s _ _ _) (x := x)) (cwI 1 S.2.2.2.2 (lw_meth q183) rfl rfl rfl (S.2.2.2.2 _ q76) (S.2.2.2.2 _ q181) (S.2.2.2.2 _ q182) rfl (by decide +kernel) ⟨Nat.le_of_ble_eq_true rfl, Nat.le_of_ble_eq_true rfl⟩) rfl rfl (Nat.le_of_ble_eq_true rfl) ⟨Nat.le_refl _, Nat.le_refl _⟩ dJ4_valueOf_28) hW (fun h1 H locs hp hW => ?_)
    rw [huu] at hp
    subst hp
    exact (h_aret S.1 S.2.1 hr (Or.inl ⟨_, rfl⟩) hlk hW ⟨_, rfl, hExt.new hq, Or.inl (hu_s _ _ _)⟩ (Nat.le_refl _) (Nat.le_refl _) dJ4_valueOf_31)
  refine lv_iload_n S.1 S.2.1 dJ4_valueOf_6 rfl (lv_at hl 0 rfl) ?_
  refine va_gets S.1 S.2.1 hZs.2.2.2.2.2.1 hW.2 S.2.2.2.1 (S.2.2.2.2 _ q175) (fun _ h => h) dJ4_valueOf_7 ?_
  refine lv_icmp_gt (tgt := 23) S.1 S.2.1 dJ4_valueOf_10 (by decide) (fun c_10 => ?t10) (fun c_10 => ?f10)
  case t10 =>
    refine h_new (ci := 1) (C := RJ4) (T := TJ4) (N := 1) (fs := [.int 0]) (0, 0) S hTs hW in_J4 tyJ4 tyJ4_ok rfl q179 q180 q76 (by decide) dJ4_valueOf_23 (Nat.le_refl _) (Nat.le_refl _) (fun q H hq hW => ?_)
    refine lv_dup S.1 S.2.1 dJ4_valueOf_26 rfl ?_
    refine lv_iload_n S.1 S.2.1 dJ4_valueOf_27 rfl (lv_at hl 0 rfl) ?_
    refine h_kv (h_rI S hTs hZs hW hl.1 (m_J4_init l g _ (hu_s _ _ _) (x := x)) (cwI 1 S.2.2.2.2 (lw_meth q183) rfl rfl rfl (S.2.2.2.2 _ q76) (S.2.2.2.2 _ q181) (S.2.2.2.2 _ q182) rfl (by decide +kernel) ⟨Nat.le_of_ble_eq_true rfl, Nat.le_of_ble_eq_true rfl⟩) rfl rfl (Nat.le_of_ble_eq_true rfl) ⟨Nat.le_refl _, Nat.le_refl _⟩ dJ4_valueOf_28) hW (fun h1 H locs hp hW => ?_)
    rw [huu] at hp
    subst hp
    exact (h_aret S.1 S.2.1 hr (Or.inl ⟨_, rfl⟩) hlk hW ⟨_, rfl, hExt.new hq, Or.inl (hu_s _ _ _)⟩ (Nat.le_refl _) (Nat.le_refl _) dJ4_valueOf_31)
  refine va_gets S.1 S.2.1 hZs.2.2.2.1 hW.2 S.2.2.2.1 (S.2.2.2.2 _ q177) (fun _ h => h) dJ4_valueOf_13 ?_
  refine lv_iload_n S.1 S.2.1 dJ4_valueOf_16 rfl (lv_at hl 0 rfl) ?_
  refine lv_sipush (v := 128) S.1 S.2.1 dJ4_valueOf_17 (by decide) ?_
  refine lv_iadd S.1 S.2.1 dJ4_valueOf_20 ?_
  obtain ⟨k, hk, ek, ex⟩ := bx_small c_3 c_10
  refine h_topi ek ?_
  refine vb_tq (v := .ref (gs g (1000 + k))) S.1 S.2.1 hZs.2.2.2.2.1 hW.2 (vp_in_nI hk (by decide)) (by rw [nI_clamp (by omega)]) dJ4_valueOf_21 ?_
  exact (h_aret S.1 S.2.1 hr (Or.inl ⟨_, rfl⟩) hlk hW ⟨_, rfl, hExt.rf h, Or.inr ⟨k, hk, rfl, ex⟩⟩ (Nat.zero_le _) (Nat.zero_le _) dJ4_valueOf_22)
set_option maxHeartbeats 4000000 in
set_option maxRecDepth 100000 in
theorem m_intValue (l : Launch) (g : hG) (h : hA) {y : Nat} {v : Int32} (hy : hBox g h y v)  : hMet l g yJ4_intValue cJ4_intValue 1 (some .int) (hRm 1 0 0) h [.ref y] (oI fun r h' => v = r ∧ h = h') := by
  refine hMet_of (by decide) (Nat.le_of_ble_eq_true rfl) ?_
  intro p e s m below meth c ls S hr hlk hnm hTs hZs hW hl
  have S : CallFix p m c cJ4_intValue 1 s ([.ref y] : List Value).toArray lw_all RJ4 := S
  have hl : lv_has ls 1 [(0, .ref y)] := hl
  refine lv_aload_n S.1 S.2.1 dJ4_intValue_0 rfl (lv_at hl 0 rfl) ?_
  refine h_getBox S hTs hZs hW hy q188 dJ4_intValue_1 ?_
  exact (h_iret S.1 S.2.1 hr hlk hW ⟨_, rfl, rfl, rfl⟩ (Nat.le_of_ble_eq_true rfl) (Nat.le_of_ble_eq_true rfl) dJ4_intValue_4)
set_option maxHeartbeats 4000000 in
set_option maxRecDepth 100000 in
theorem m_nonnull (l : Launch) (g : hG) (h : hA) {y : Nat}  : hMet l g yJ16_requireNonNull cJ16_requireNonNull 1 (some (.object "java/lang/Object")) (hRm 1 0 0) h [.ref y] (oR fun r h' => y = r ∧ h = h') := by
  refine hMet_of (by decide) (Nat.le_of_ble_eq_true rfl) ?_
  intro p e s m below meth c ls S hr hlk hnm hTs hZs hW hl
  have S : CallFix p m c cJ16_requireNonNull 1 s ([.ref y] : List Value).toArray lw_all RJ16 := S
  have hl : lv_has ls 1 [(0, .ref y)] := hl
  refine lv_aload_n S.1 S.2.1 dJ16_requireNonNull_0 rfl (lv_at hl 0 rfl) ?_
  refine lv_ifnonnull (tgt := 12) S.1 S.2.1 dJ16_requireNonNull_1 (by decide) ?_
  refine lv_aload_n S.1 S.2.1 dJ16_requireNonNull_12 rfl (lv_at hl 0 rfl) ?_
  exact (h_aret S.1 S.2.1 hr (Or.inl ⟨_, rfl⟩) hlk hW ⟨_, rfl, rfl, rfl⟩ (Nat.le_of_ble_eq_true rfl) (Nat.le_of_ble_eq_true rfl) dJ16_requireNonNull_13)
set_option maxHeartbeats 4000000 in
set_option maxRecDepth 100000 in
theorem m_empty (l : Launch) (g : hG) (h : hA)  : hMet l g yJ20_empty cJ20_empty 1 (some (.object "java/util/Optional")) (hRm 1 0 0) h [] (oR fun r h' => gs g 2 = r ∧ h = h') := by
  refine hMet_of (by decide) (Nat.le_of_ble_eq_true rfl) ?_
  intro p e s m below meth c ls S hr hlk hnm hTs hZs hW hl
  have S : CallFix p m c cJ20_empty 1 s ([] : List Value).toArray lw_all RJ20 := S
  have hl : lv_has ls 1 [] := hl
  refine va_gets S.1 S.2.1 hZs.2.2.2.2.2.2.1 hW.2 S.2.2.2.1 (S.2.2.2.2 _ q533) (fun _ h => h) dJ20_empty_0 ?_
  refine lv_astore_n (lv' := [(0, _)]) S.1 S.2.1 dJ20_empty_3 rfl hl (by decide) rfl (fun ls hl => ?_)
  refine lv_aload_n S.1 S.2.1 dJ20_empty_4 rfl (lv_at hl 0 rfl) ?_
  exact (h_aret S.1 S.2.1 hr (Or.inl ⟨_, rfl⟩) hlk hW ⟨_, rfl, rfl, rfl⟩ (Nat.le_of_ble_eq_true rfl) (Nat.le_of_ble_eq_true rfl) dJ20_empty_5)
set_option maxHeartbeats 4000000 in
set_option maxRecDepth 100000 in
theorem m_J20_init (l : Launch) (g : hG) (h : hA) {a : Nat} {lab : hLab} {v0 : Value} {x : Nat} (ha : h a = some (lab, cO 3 [v0]))  : hMet l g yJ20_init cJ20_init 2 none (hRm 2 0 0) h [.ref a, .ref x] (oV fun h' => hu h a (lab, cO 3 [.ref x]) = h') := by
  refine hMet_of (by decide) (Nat.le_of_ble_eq_true rfl) ?_
  intro p e s m below meth c ls S hr hlk hnm hTs hZs hW hl
  have S : CallFix p m c cJ20_init 2 s ([.ref a, .ref x] : List Value).toArray lw_all RJ20 := S
  have hl : lv_has ls 2 [(0, .ref a), (1, .ref x)] := hl
  refine lv_aload_n S.1 S.2.1 dJ20_init_0 rfl (lv_at hl 0 rfl) ?_
  refine W.objInit S.1 S.2.1 S.2.2.2.1 (S.2.2.2.2 _ q558) (S.2.2.2.2 _ q121) (S.2.2.2.2 _ q122) rfl (by rw [S.2.2.1]; exact hl.1) rfl dJ20_init_1 (Nat.le_of_ble_eq_true rfl) (Nat.le_of_ble_eq_true rfl) ?_
  refine W.eq (g2 := F0 m 4 ls _) rfl ?_
  refine lv_aload_n S.1 S.2.1 dJ20_init_4 rfl (lv_at hl 0 rfl) ?_
  refine lv_aload_n S.1 S.2.1 dJ20_init_5 rfl (lv_at hl 1 rfl) ?_
  refine h_putF (ci := 3) (C := RJ20) (T := TJ20) (N := 1) S hTs hW in_J20 tyJ20 tyJ20_ok nmJ20 rfl 0 (by decide) q559 (fun _ h => h) rfl hnm rfl dJ20_init_6 (by assumption) (by exact Nat.le_of_ble_eq_true rfl) rfl rfl (fun H locs hW => ?_)
  exact (h_vret S.1 S.2.1 hr hlk hW ⟨rfl, rfl⟩ (Nat.le_of_ble_eq_true rfl) (Nat.le_of_ble_eq_true rfl) dJ20_init_9)
set_option maxHeartbeats 4000000 in
set_option maxRecDepth 100000 in
theorem m_of (l : Launch) (g : hG) (h : hA) {x : Nat}  : hMet l g yJ20_of cJ20_of 1 (some (.object "java/util/Optional")) (hRm 3 1 1) h [.ref x] (oR fun r h' => h r = none ∧ hu h r ((0, 0), cO 3 [.ref x]) = h') := by
  refine hMet_of (by decide) (Nat.le_of_ble_eq_true rfl) ?_
  intro p e s m below meth c ls S hr hlk hnm hTs hZs hW hl
  have S : CallFix p m c cJ20_of 1 s ([.ref x] : List Value).toArray lw_all RJ20 := S
  have hl : lv_has ls 1 [(0, .ref x)] := hl
  refine h_new (ci := 3) (C := RJ20) (T := TJ20) (N := 1) (fs := [.null]) (0, 0) S hTs hW in_J20 tyJ20 tyJ20_ok rfl q550 q551 q108 (by decide) dJ20_of_0 (Nat.le_refl _) (Nat.le_refl _) (fun q H hq hW => ?_)
  refine lv_dup S.1 S.2.1 dJ20_of_3 rfl ?_
  refine lv_aload_n S.1 S.2.1 dJ20_of_4 rfl (lv_at hl 0 rfl) ?_
  refine h_kr (h_rS S hTs hZs hW hl.1 (m_nonnull l g _ (y := x)) (va_cwS 1 S.2.2.2.2 (lw_S q552 q553 q94 q554) rfl rfl rfl (by decide +kernel) ⟨Nat.le_of_ble_eq_true rfl, Nat.le_of_ble_eq_true rfl⟩) rfl rfl (Nat.le_of_ble_eq_true rfl) ⟨Nat.le_refl _, Nat.le_refl _⟩ dJ20_of_5) hW (fun r_5 h1 H locs hp hW => ?_)
  obtain ⟨rfl, rfl⟩ := hp
  refine h_kv (h_rI S hTs hZs hW hl.1 (m_J20_init l g _ (hu_s _ _ _) (x := x)) (cwI 1 S.2.2.2.2 (lw_meth q557) rfl rfl rfl (S.2.2.2.2 _ q108) (S.2.2.2.2 _ q555) (S.2.2.2.2 _ q556) rfl (by decide +kernel) ⟨Nat.le_of_ble_eq_true rfl, Nat.le_of_ble_eq_true rfl⟩) rfl rfl (Nat.le_of_ble_eq_true rfl) ⟨Nat.le_refl _, Nat.le_refl _⟩ dJ20_of_8) hW (fun h1 H locs hp hW => ?_)
  rw [huu] at hp
  subst hp
  exact (h_aret S.1 S.2.1 hr (Or.inl ⟨_, rfl⟩) hlk hW ⟨_, rfl, hq, rfl⟩ (Nat.le_refl _) (Nat.le_refl _) dJ20_of_11)
set_option maxHeartbeats 4000000 in
set_option maxRecDepth 100000 in
theorem m_isPresent (l : Launch) (g : hG) (h : hA) {y x : Nat} (hy : hOpt g h y (some x))  : hMet l g yJ20_isPresent cJ20_isPresent 1 (some .boolean) (hRm 1 0 0) h [.ref y] (oI fun r h' => 1 = r ∧ h = h') := by
  refine hMet_of (by decide) (Nat.le_of_ble_eq_true rfl) ?_
  intro p e s m below meth c ls S hr hlk hnm hTs hZs hW hl
  have S : CallFix p m c cJ20_isPresent 1 s ([.ref y] : List Value).toArray lw_all RJ20 := S
  have hl : lv_has ls 1 [(0, .ref y)] := hl
  refine lv_aload_n S.1 S.2.1 dJ20_isPresent_0 rfl (lv_at hl 0 rfl) ?_
  refine h_getOpt S hTs hZs hW hy q559 dJ20_isPresent_1 ?_
  refine lv_ifnull S.1 S.2.1 dJ20_isPresent_4 ?_
  refine lv_iconst (v := 1) S.1 S.2.1 dJ20_isPresent_7 (by decide) ?_
  refine lv_goto (tgt := 12) S.1 S.2.1 dJ20_isPresent_8 (by decide) ?_
  exact (h_zret S.1 S.2.1 hr hlk hW ⟨_, rfl, rfl, rfl⟩ (by decide) (Nat.le_of_ble_eq_true rfl) (Nat.le_of_ble_eq_true rfl) dJ20_isPresent_12)
set_option maxHeartbeats 4000000 in
set_option maxRecDepth 100000 in
theorem m_isAbsent (l : Launch) (g : hG) (h : hA) {y : Nat} (hy : hOpt g h y none)  : hMet l g yJ20_isPresent cJ20_isPresent 1 (some .boolean) (hRm 1 0 0) h [.ref y] (oI fun r h' => 0 = r ∧ h = h') := by
  refine hMet_of (by decide) (Nat.le_of_ble_eq_true rfl) ?_
  intro p e s m below meth c ls S hr hlk hnm hTs hZs hW hl
  have S : CallFix p m c cJ20_isPresent 1 s ([.ref y] : List Value).toArray lw_all RJ20 := S
  have hl : lv_has ls 1 [(0, .ref y)] := hl
  refine lv_aload_n S.1 S.2.1 dJ20_isPresent_0 rfl (lv_at hl 0 rfl) ?_
  refine h_getOpt S hTs hZs hW hy q559 dJ20_isPresent_1 ?_
  refine lv_ifnullN (tgt := 11) S.1 S.2.1 dJ20_isPresent_4 (by decide) ?_
  refine lv_iconst (v := 0) S.1 S.2.1 dJ20_isPresent_11 (by decide) ?_
  exact (h_zret S.1 S.2.1 hr hlk hW ⟨_, rfl, rfl, rfl⟩ (by decide) (Nat.le_of_ble_eq_true rfl) (Nat.le_of_ble_eq_true rfl) dJ20_isPresent_12)
set_option maxHeartbeats 4000000 in
set_option maxRecDepth 100000 in
theorem m_oget (l : Launch) (g : hG) (h : hA) {y x : Nat} (hy : hOpt g h y (some x))  : hMet l g yJ20_get cJ20_get 1 (some (.object "java/lang/Object")) (hRm 1 0 0) h [.ref y] (oR fun r h' => x = r ∧ h = h') := by
  refine hMet_of (by decide) (Nat.le_of_ble_eq_true rfl) ?_
  intro p e s m below meth c ls S hr hlk hnm hTs hZs hW hl
  have S : CallFix p m c cJ20_get 1 s ([.ref y] : List Value).toArray lw_all RJ20 := S
  have hl : lv_has ls 1 [(0, .ref y)] := hl
  refine lv_aload_n S.1 S.2.1 dJ20_get_0 rfl (lv_at hl 0 rfl) ?_
  refine h_getOpt S hTs hZs hW hy q559 dJ20_get_1 ?_
  refine lv_ifnonnull (tgt := 17) S.1 S.2.1 dJ20_get_4 (by decide) ?_
  refine lv_aload_n S.1 S.2.1 dJ20_get_17 rfl (lv_at hl 0 rfl) ?_
  refine h_getOpt S hTs hZs hW hy q559 dJ20_get_18 ?_
  exact (h_aret S.1 S.2.1 hr (Or.inl ⟨_, rfl⟩) hlk hW ⟨_, rfl, rfl, rfl⟩ (Nat.le_of_ble_eq_true rfl) (Nat.le_of_ble_eq_true rfl) dJ20_get_21)
set_option maxHeartbeats 4000000 in
set_option maxRecDepth 100000 in
theorem m_ordinal (l : Launch) (g : hG) (h : hA) {k : Nat} (hk : k < 3)  : hMet l g yJ19_ordinal cJ19_ordinal 1 (some .int) (hRm 1 0 0) h [.ref (gs g (3 + k))] (oI fun r h' => nI k = r ∧ h = h') := by
  refine hMet_of (by decide) (Nat.le_of_ble_eq_true rfl) ?_
  intro p e s m below meth c ls S hr hlk hnm hTs hZs hW hl
  have S : CallFix p m c cJ19_ordinal 1 s ([.ref (gs g (3 + k))] : List Value).toArray lw_all RJ19 := S
  have hl : lv_has ls 1 [(0, .ref (gs g (3 + k)))] := hl
  refine lv_aload_n S.1 S.2.1 dJ19_ordinal_0 rfl (lv_at hl 0 rfl) ?_
  refine va_getE (i := k) (q := ("java/lang/Enum", "ordinal", "I", [0, 1, 2])) S.1 S.2.1 hZs.2.2.2.2.2.2.2.2.2.1 hk hW.2 S.2.2.2.1 List.mem_cons_self (S.2.2.2.2 _ q2132) (fun _ h => h) dJ19_ordinal_1 ?_
  exact (h_iret S.1 S.2.1 hr hlk hW ⟨_, rfl, (by rcases (show k = 0 ∨ k = 1 ∨ k = 2 by omega) with rfl | rfl | rfl <;> rfl), rfl⟩ (Nat.le_of_ble_eq_true rfl) (Nat.le_of_ble_eq_true rfl) dJ19_ordinal_4)
set_option maxHeartbeats 4000000 in
set_option maxRecDepth 100000 in
theorem m_Itr_init (l : Launch) (g : hG) (h : hA) {a : Nat} {lab : hLab} {mo : Int32} {cap : Nat} {es : List Nat} (ha : h a = some (lab, cL mo cap es)) {b : Nat} {lb : hLab} (hb : h b = some (lb, cO 2 [.int 0, .int 0, .int 0, .null]))  : hMet l g yJ18_init cJ18_init 2 none (hRm 2 0 0) h [.ref b, .ref a] (oV fun h' => hu h b (lb, cO 2 [.int 0, .int (-1), .int mo, .ref a]) = h') := by
  refine hMet_of (by decide) (Nat.le_of_ble_eq_true rfl) ?_
  intro p e s m below meth c ls S hr hlk hnm hTs hZs hW hl
  have S : CallFix p m c cJ18_init 2 s ([.ref b, .ref a] : List Value).toArray lw_all RJ18 := S
  have hl : lv_has ls 2 [(0, .ref b), (1, .ref a)] := hl
  have hnab : a ≠ b := hnec ha hb (fun e => by cases e)
  refine lv_aload_n S.1 S.2.1 dJ18_init_0 rfl (lv_at hl 0 rfl) ?_
  refine lv_aload_n S.1 S.2.1 dJ18_init_1 rfl (lv_at hl 1 rfl) ?_
  refine h_putF (ci := 2) (C := RJ18) (T := TJ18) (N := 4) S hTs hW in_J18 tyJ18 tyJ18_ok nmJ18 rfl 3 (by decide) q1709 (fun _ h => h) rfl hnm rfl dJ18_init_2 (by assumption) (by exact Nat.le_of_ble_eq_true rfl) rfl rfl (fun H locs hW => ?_)
  refine lv_aload_n S.1 S.2.1 dJ18_init_5 rfl (lv_at hl 0 rfl) ?_
  refine W.objInit S.1 S.2.1 S.2.2.2.1 (S.2.2.2.2 _ q1705) (S.2.2.2.2 _ q121) (S.2.2.2.2 _ q122) rfl (by rw [S.2.2.1]; exact hl.1) rfl dJ18_init_6 (Nat.le_of_ble_eq_true rfl) (Nat.le_of_ble_eq_true rfl) ?_
  refine W.eq (g2 := F0 m 9 ls _) rfl ?_
  refine lv_aload_n S.1 S.2.1 dJ18_init_9 rfl (lv_at hl 0 rfl) ?_
  refine lv_iconst (v := -1) S.1 S.2.1 dJ18_init_10 (by decide) ?_
  refine h_put (ci := 2) (C := RJ18) (T := TJ18) (N := 4) S hTs hW in_J18 tyJ18 tyJ18_ok nmJ18 rfl 1 (by decide) q1707 (fun _ h => h) rfl dJ18_init_11 (hu_s _ _ _) (by exact Nat.le_of_ble_eq_true rfl) rfl rfl (fun H locs hW => ?_)
  rw [huu] at hW
  refine lv_aload_n S.1 S.2.1 dJ18_init_14 rfl (lv_at hl 0 rfl) ?_
  refine lv_aload_n S.1 S.2.1 dJ18_init_15 rfl (lv_at hl 0 rfl) ?_
  refine h_get (ci := 2) (C := RJ18) (T := TJ18) (N := 4) S hTs hW in_J18 rfl 3 (by decide) q1709 (fun _ h => h) dJ18_init_16 (hu_s _ _ _) (by rfl) ?_
  refine h_getL S hTs hW in_J2 rfl 0 (by decide) q142 (u_same (S.2.2.2.2 _ q143)) dJ18_init_19 ((hu_n hnab).trans ha) (fun _ => rfl) ?_
  refine h_put (ci := 2) (C := RJ18) (T := TJ18) (N := 4) S hTs hW in_J18 tyJ18 tyJ18_ok nmJ18 rfl 2 (by decide) q1708 (fun _ h => h) rfl dJ18_init_22 (hu_s _ _ _) (by exact Nat.le_of_ble_eq_true rfl) rfl rfl (fun H locs hW => ?_)
  rw [huu] at hW
  exact (h_vret S.1 S.2.1 hr hlk hW ⟨rfl, rfl⟩ (Nat.le_of_ble_eq_true rfl) (Nat.le_of_ble_eq_true rfl) dJ18_init_25)
set_option maxHeartbeats 4000000 in
set_option maxRecDepth 100000 in
theorem m_iterator (l : Launch) (g : hG) (h : hA) {a : Nat} {lab : hLab} {mo : Int32} {cap : Nat} {es : List Nat} (ha : h a = some (lab, cL mo cap es))  : hMet l g yJ2_iterator cJ2_iterator 1 (some (.object "java/util/Iterator")) (hRm 3 1 4) h [.ref a] (oR fun r h' => h r = none ∧ hu h r ((0, 0), cO 2 [.int 0, .int (-1), .int mo, .ref a]) = h') := by
  refine hMet_of (by decide) (Nat.le_of_ble_eq_true rfl) ?_
  intro p e s m below meth c ls S hr hlk hnm hTs hZs hW hl
  have S : CallFix p m c cJ2_iterator 1 s ([.ref a] : List Value).toArray lw_all RJ2 := S
  have hl : lv_has ls 1 [(0, .ref a)] := hl
  refine h_new (ci := 2) (C := RJ18) (T := TJ18) (N := 4) (fs := [.int 0, .int 0, .int 0, .null]) (0, 0) S hTs hW in_J18 tyJ18 tyJ18_ok rfl q1700 q1701 q98 (by decide) dJ2_iterator_0 (Nat.le_refl _) (Nat.le_refl _) (fun q H hq hW => ?_)
  refine lv_dup S.1 S.2.1 dJ2_iterator_3 rfl ?_
  refine lv_aload_n S.1 S.2.1 dJ2_iterator_4 rfl (lv_at hl 0 rfl) ?_
  refine h_kv (h_rI S hTs hZs hW hl.1 (m_Itr_init l g _ (hu_new ha hq) (hu_s _ _ _)) (cwI 1 S.2.2.2.2 (lw_meth q1704) rfl rfl rfl (S.2.2.2.2 _ q98) (S.2.2.2.2 _ q1702) (S.2.2.2.2 _ q1703) rfl (by decide +kernel) ⟨Nat.le_of_ble_eq_true rfl, Nat.le_of_ble_eq_true rfl⟩) rfl rfl (Nat.le_of_ble_eq_true rfl) ⟨Nat.le_refl _, Nat.le_refl _⟩ dJ2_iterator_5) hW (fun h1 H locs hp hW => ?_)
  rw [huu] at hp
  subst hp
  exact (h_aret S.1 S.2.1 hr (Or.inl ⟨_, rfl⟩) hlk hW ⟨_, rfl, hq, rfl⟩ (Nat.le_refl _) (Nat.le_refl _) dJ2_iterator_8)
set_option maxHeartbeats 4000000 in
set_option maxRecDepth 100000 in
theorem m_hasNext (l : Launch) (g : hG) (h : hA) {a : Nat} {lab : hLab} {mo : Int32} {cap : Nat} {es : List Nat} (ha : h a = some (lab, cL mo cap es)) {b i : Nat} {lb : hLab} {lr : Int32} (hb : h b = some (lb, cO 2 [.int (nI i), .int lr, .int mo, .ref a])) (hi : i ≤ es.length)  : hMet l g yJ18_hasNext cJ18_hasNext 1 (some .boolean) (hRm 1 0 0) h [.ref b] (oI fun r h' => (if i < es.length then 1 else 0) = r ∧ h = h') := by
  refine hMet_of (by decide) (Nat.le_of_ble_eq_true rfl) ?_
  intro p e s m below meth c ls S hr hlk hnm hTs hZs hW hl
  have S : CallFix p m c cJ18_hasNext 1 s ([.ref b] : List Value).toArray lw_all RJ18 := S
  have hl : lv_has ls 1 [(0, .ref b)] := hl
  obtain ⟨hle, hcap, -⟩ := hW.list ha
  refine lv_aload_n S.1 S.2.1 dJ18_hasNext_0 rfl (lv_at hl 0 rfl) ?_
  refine h_get (ci := 2) (C := RJ18) (T := TJ18) (N := 4) S hTs hW in_J18 rfl 0 (by decide) q1706 (fun _ h => h) dJ18_hasNext_1 hb (by rfl) ?_
  refine lv_aload_n S.1 S.2.1 dJ18_hasNext_4 rfl (lv_at hl 0 rfl) ?_
  refine h_get (ci := 2) (C := RJ18) (T := TJ18) (N := 4) S hTs hW in_J18 rfl 3 (by decide) q1709 (fun _ h => h) dJ18_hasNext_5 hb (by rfl) ?_
  refine h_getLN S hTs hW in_J2 rfl 2 (by decide) q139 (fun _ h => h) dJ18_hasNext_8 (by assumption) (fun _ => rfl) ?_
  refine lv_icmp_eq (tgt := 18) S.1 S.2.1 dJ18_hasNext_11 (by decide) (fun c_11 => ?t11) (fun c_11 => ?f11)
  case t11 =>
    refine lv_iconst (v := 0) S.1 S.2.1 dJ18_hasNext_18 (by decide) ?_
    exact (h_zret S.1 S.2.1 hr hlk hW ⟨_, rfl, if_neg (fun hlt => absurd ((nI_eq (by omega) (by omega)).mp c_11) (by omega)), rfl⟩ (by decide) (Nat.le_of_ble_eq_true rfl) (Nat.le_of_ble_eq_true rfl) dJ18_hasNext_19)
  refine lv_iconst (v := 1) S.1 S.2.1 dJ18_hasNext_14 (by decide) ?_
  refine lv_goto (tgt := 19) S.1 S.2.1 dJ18_hasNext_15 (by decide) ?_
  exact (h_zret S.1 S.2.1 hr hlk hW ⟨_, rfl, if_pos (by rcases Nat.lt_or_ge i es.length with q | q; exact q; exact absurd (by rw [show i = es.length by omega]) c_11), rfl⟩ (by decide) (Nat.le_of_ble_eq_true rfl) (Nat.le_of_ble_eq_true rfl) dJ18_hasNext_19)
set_option maxHeartbeats 4000000 in
set_option maxRecDepth 100000 in
theorem m_checkMod (l : Launch) (g : hG) (h : hA) {a : Nat} {lab : hLab} {mo : Int32} {cap : Nat} {es : List Nat} (ha : h a = some (lab, cL mo cap es)) {b i : Nat} {lb : hLab} {lr : Int32} (hb : h b = some (lb, cO 2 [.int (nI i), .int lr, .int mo, .ref a]))  : hMet l g yJ18_checkForComodification cJ18_checkForComodification 1 none (hRm 1 0 0) h [.ref b] (oV fun h' => h = h') := by
  refine hMet_of (by decide) (Nat.le_of_ble_eq_true rfl) ?_
  intro p e s m below meth c ls S hr hlk hnm hTs hZs hW hl
  have S : CallFix p m c cJ18_checkForComodification 1 s ([.ref b] : List Value).toArray lw_all RJ18 := S
  have hl : lv_has ls 1 [(0, .ref b)] := hl
  refine lv_aload_n S.1 S.2.1 dJ18_checkForComodification_0 rfl (lv_at hl 0 rfl) ?_
  refine h_get (ci := 2) (C := RJ18) (T := TJ18) (N := 4) S hTs hW in_J18 rfl 3 (by decide) q1709 (fun _ h => h) dJ18_checkForComodification_1 hb (by rfl) ?_
  refine h_getL S hTs hW in_J2 rfl 0 (by decide) q142 (u_same (S.2.2.2.2 _ q143)) dJ18_checkForComodification_4 (by assumption) (fun _ => rfl) ?_
  refine lv_aload_n S.1 S.2.1 dJ18_checkForComodification_7 rfl (lv_at hl 0 rfl) ?_
  refine h_get (ci := 2) (C := RJ18) (T := TJ18) (N := 4) S hTs hW in_J18 rfl 2 (by decide) q1708 (fun _ h => h) dJ18_checkForComodification_8 hb (by rfl) ?_
  refine lv_icmp_eq (tgt := 22) S.1 S.2.1 dJ18_checkForComodification_11 (by decide) (fun c_11 => ?t11) (fun c_11 => ?f11)
  case t11 =>
    exact (h_vret S.1 S.2.1 hr hlk hW ⟨rfl, rfl⟩ (Nat.le_of_ble_eq_true rfl) (Nat.le_of_ble_eq_true rfl) dJ18_checkForComodification_22)
  exact absurd rfl c_11
set_option maxHeartbeats 4000000 in
set_option maxRecDepth 100000 in
theorem m_next (l : Launch) (g : hG) (h : hA) {a : Nat} {lab : hLab} {mo : Int32} {cap : Nat} {es : List Nat} (ha : h a = some (lab, cL mo cap es)) {b i : Nat} {lb : hLab} {lr : Int32} (hb : h b = some (lb, cO 2 [.int (nI i), .int lr, .int mo, .ref a])) {x : Nat} (hx : es[i]? = some x)  : hMet l g yJ18_next cJ18_next 3 (some (.object "java/lang/Object")) (hRm 3 0 0) h [.ref b] (oR fun r h' => x = r ∧ hu h b (lb, cO 2 [.int (nI (i + 1)), .int (nI i), .int mo, .ref a]) = h') := by
  refine hMet_of (by decide) (Nat.le_of_ble_eq_true rfl) ?_
  intro p e s m below meth c ls S hr hlk hnm hTs hZs hW hl
  have S : CallFix p m c cJ18_next 3 s ([.ref b] : List Value).toArray lw_all RJ18 := S
  have hl : lv_has ls 3 [(0, .ref b)] := hl
  obtain ⟨hle, hcap, -⟩ := hW.list ha
  have hi : i < es.length := (List.getElem?_eq_some_iff.mp hx).1
  have hc : 0 < cap := by omega
  have hnab : a ≠ b := hnec ha hb (fun e => by cases e)
  refine lv_aload_n S.1 S.2.1 dJ18_next_0 rfl (lv_at hl 0 rfl) ?_
  refine h_kv (h_rV S hTs hZs hW hl.1 (m_checkMod l g h ha hb) (cwV 0 S.2.2.2.2 (lw_V q1738 q1739 q1740 q98 q1741) rfl rfl rfl (by decide +kernel) ⟨Nat.le_of_ble_eq_true rfl, Nat.le_of_ble_eq_true rfl⟩) (h_recv (ci := 2) hTs hW hb rfl) rfl rfl (Nat.le_of_ble_eq_true rfl) ⟨Nat.le_of_ble_eq_true rfl, Nat.le_of_ble_eq_true rfl⟩ dJ18_next_1) hW (fun h1 H locs hp hW => ?_)
  subst hp
  refine lv_aload_n S.1 S.2.1 dJ18_next_4 rfl (lv_at hl 0 rfl) ?_
  refine h_get (ci := 2) (C := RJ18) (T := TJ18) (N := 4) S hTs hW in_J18 rfl 0 (by decide) q1706 (fun _ h => h) dJ18_next_5 hb (by rfl) ?_
  refine lv_istore_n (lv' := [(1, _), (0, _)]) S.1 S.2.1 dJ18_next_8 rfl hl (by decide) rfl (fun ls hl => ?_)
  refine lv_iload_n S.1 S.2.1 dJ18_next_9 rfl (lv_at hl 0 rfl) ?_
  refine lv_aload_n S.1 S.2.1 dJ18_next_10 rfl (lv_at hl 1 rfl) ?_
  refine h_get (ci := 2) (C := RJ18) (T := TJ18) (N := 4) S hTs hW in_J18 rfl 3 (by decide) q1709 (fun _ h => h) dJ18_next_11 hb (by rfl) ?_
  refine h_getLN S hTs hW in_J2 rfl 2 (by decide) q139 (fun _ h => h) dJ18_next_14 (by assumption) (fun _ => rfl) ?_
  refine lv_icmp_lt (tgt := 28) S.1 S.2.1 dJ18_next_17 (by decide) (fun c_17 => ?t17) (fun c_17 => ?f17)
  case f17 =>
    exact absurd (nI_lt hi (by omega)) c_17
  obtain ⟨d, h2, hd0, hda, h2a, h2d, h2o, hW2⟩ := hW.opn2 ha hc
  have hnbd : b ≠ d := fun e => by rw [e, hd0] at hb; cases hb
  have hW := hW2
  have h2b : h2 b = _ := (h2o b hnab.symm hnbd).trans hb
  refine lv_aload_n S.1 S.2.1 dJ18_next_28 rfl (lv_at hl 1 rfl) ?_
  refine h_get (ci := 2) (C := RJ18) (T := TJ18) (N := 4) S hTs hW in_J18 rfl 3 (by decide) q1709 (fun _ h => h) dJ18_next_29 h2b (by rfl) ?_
  refine h_get (ci := 0) (C := RJ2) (T := TJ2) (N := 3) S hTs hW in_J2 rfl 1 (by decide) q138 (fun _ h => h) dJ18_next_32 h2a (by rfl) ?_
  refine lv_astore_n (lv' := [(2, _), (1, _), (0, _)]) S.1 S.2.1 dJ18_next_35 rfl hl (by decide) rfl (fun ls hl => ?_)
  refine lv_iload_n S.1 S.2.1 dJ18_next_36 rfl (lv_at hl 1 rfl) ?_
  refine lv_aload_n S.1 S.2.1 dJ18_next_37 rfl (lv_at hl 0 rfl) ?_
  refine h_alenO S hTs hW dJ18_next_38 h2d ?_
  refine lv_icmp_lt (tgt := 50) S.1 S.2.1 dJ18_next_39 (by decide) (fun c_39 => ?t39) (fun c_39 => ?f39)
  case f39 =>
    exact absurd (nI_lt (by omega) (by omega)) c_39
  refine lv_aload_n S.1 S.2.1 dJ18_next_50 rfl (lv_at hl 2 rfl) ?_
  refine lv_iload_n S.1 S.2.1 dJ18_next_51 rfl (lv_at hl 1 rfl) ?_
  refine lv_iconst (v := 1) S.1 S.2.1 dJ18_next_52 (by decide) ?_
  refine lv_iadd S.1 S.2.1 dJ18_next_53 ?_
  refine h_topi (nI_1 i) ?_
  refine h_put (ci := 2) (C := RJ18) (T := TJ18) (N := 4) S hTs hW in_J18 tyJ18 tyJ18_ok nmJ18 rfl 0 (by decide) q1706 (fun _ h => h) rfl dJ18_next_54 h2b (by exact Nat.le_of_ble_eq_true rfl) rfl rfl (fun H locs hW => ?_)
  have h3b : (hu h2 b (lb, cO 2 [.int (nI (i + 1)), .int lr, .int mo, .ref a])) b = some (lb, cO 2 [.int (nI (i + 1)), .int lr, .int mo, .ref a]) := hu_s _ _ _
  refine lv_aload_n S.1 S.2.1 dJ18_next_57 rfl (lv_at hl 0 rfl) ?_
  refine lv_aload_n S.1 S.2.1 dJ18_next_58 rfl (lv_at hl 2 rfl) ?_
  refine lv_iload_n S.1 S.2.1 dJ18_next_59 rfl (lv_at hl 1 rfl) ?_
  refine lv_dup_x1 S.1 S.2.1 dJ18_next_60 rfl rfl ?_
  refine h_put (ci := 2) (C := RJ18) (T := TJ18) (N := 4) S hTs hW in_J18 tyJ18 tyJ18_ok nmJ18 rfl 1 (by decide) q1707 (fun _ h => h) rfl dJ18_next_61 h3b (by exact Nat.le_of_ble_eq_true rfl) rfl rfl (fun H locs hW => ?_)
  rw [huu] at hW
  have h4d : (hu h2 b (lb, cO 2 [.int (nI (i + 1)), .int (nI i), .int mo, .ref a])) d = _ := (hu_n hnbd.symm).trans h2d
  have h4a : (hu h2 b (lb, cO 2 [.int (nI (i + 1)), .int (nI i), .int mo, .ref a])) a = _ := (hu_n hnab).trans h2a
  have hW : hWd g (hu h2 b (lb, cO 2 [.int (nI (i + 1)), .int (nI i), .int mo, .ref a])) s H locs := hW
  refine h_aldON S hTs hW dJ18_next_64 h4d (by omega) (by omega) hx ?_
  have hW := hWd.shut (h0 := hu h b (lb, cO 2 [.int (nI (i + 1)), .int (nI i), .int mo, .ref a])) es hW h4a h4d hc rfl hle hcap (fun i _ => rfl) ((hu_n hnbd.symm).trans hd0) (fun q n1 n2 y hy => by
    by_cases e9 : q = b
    · rw [e9, hu_s] at hy ⊢; exact hy
    · rw [hu_n e9] at hy ⊢; rw [h2o q n1 n2]; exact hy)
  rw [hu_id ((hu_n hnab).trans ha)] at hW
  exact (h_aret S.1 S.2.1 hr (Or.inl ⟨_, rfl⟩) hlk hW ⟨_, rfl, rfl, rfl⟩ (Nat.le_of_ble_eq_true rfl) (Nat.le_of_ble_eq_true rfl) dJ18_next_65)
set_option maxHeartbeats 4000000 in
set_option maxRecDepth 100000 in
theorem m_fastRemove (l : Launch) (g : hG) (h : hA) {a d n cap i : Nat} {lab ld : hLab} {mo : Int32} {f : Nat → Option Nat} (ha : h a = some (lab, cO 0 [.int mo, .ref d, .int (nI (i + 1))])) (hd : h d = some (ld, cQ g 1 cap f)) (hi : i < cap) (hcap : cap ≤ 65536) (hda : d ≠ a)  : hMet l g yJ2_fastRemove cJ2_fastRemove 4 none (hRm 2 0 0) h [.ref a, .ref d, .int (nI i)] (oV fun h' => hu (hu h a (lab, cO 0 [.int (mo + 1), .ref d, .int (nI i)])) d (ld, cQ g 1 cap (va_up f i none)) = h') := by
  refine hMet_of (by decide) (Nat.le_of_ble_eq_true rfl) ?_
  intro p e s m below meth c ls S hr hlk hnm hTs hZs hW hl
  have S : CallFix p m c cJ2_fastRemove 4 s ([.ref a, .ref d, .int (nI i)] : List Value).toArray lw_all RJ2 := S
  have hl : lv_has ls 4 [(0, .ref a), (1, .ref d), (2, .int (nI i))] := hl
  refine lv_aload_n S.1 S.2.1 dJ2_fastRemove_0 rfl (lv_at hl 0 rfl) ?_
  refine lv_dup S.1 S.2.1 dJ2_fastRemove_1 rfl ?_
  refine h_get (ci := 0) (C := RJ2) (T := TJ2) (N := 3) S hTs hW in_J2 rfl 0 (by decide) q144 (u_same (S.2.2.2.2 _ q143)) dJ2_fastRemove_2 ha (by rfl) ?_
  refine lv_iconst (v := 1) S.1 S.2.1 dJ2_fastRemove_5 (by decide) ?_
  refine lv_iadd S.1 S.2.1 dJ2_fastRemove_6 ?_
  refine h_put (ci := 0) (C := RJ2) (T := TJ2) (N := 3) S hTs hW in_J2 tyJ2 tyJ2_ok nmJ2 rfl 0 (by decide) q144 (u_same (S.2.2.2.2 _ q143)) rfl dJ2_fastRemove_7 ha (by exact Nat.le_of_ble_eq_true rfl) rfl rfl (fun H locs hW => ?_)
  have h3a : (hu h a (lab, cO 0 [.int (mo + 1), .ref d, .int (nI (i + 1))])) a = some (lab, cO 0 [.int (mo + 1), .ref d, .int (nI (i + 1))]) := hu_s _ _ _
  refine lv_aload_n S.1 S.2.1 dJ2_fastRemove_10 rfl (lv_at hl 0 rfl) ?_
  refine h_get (ci := 0) (C := RJ2) (T := TJ2) (N := 3) S hTs hW in_J2 rfl 2 (by decide) q140 (fun _ h => h) dJ2_fastRemove_11 h3a (by rfl) ?_
  refine lv_iconst (v := 1) S.1 S.2.1 dJ2_fastRemove_14 (by decide) ?_
  refine lv_isub S.1 S.2.1 dJ2_fastRemove_15 ?_
  refine h_topi (x' := nI i) (by exact pk_sub (a := i + 1) (b := 1) (by omega)) ?_
  refine lv_dup S.1 S.2.1 dJ2_fastRemove_16 rfl ?_
  refine lv_istore_n (lv' := [(3, _), (0, _), (1, _), (2, _)]) S.1 S.2.1 dJ2_fastRemove_17 rfl hl (by decide) rfl (fun ls hl => ?_)
  refine lv_iload_n S.1 S.2.1 dJ2_fastRemove_18 rfl (lv_at hl 3 rfl) ?_
  refine lv_icmp_le (tgt := 34) S.1 S.2.1 dJ2_fastRemove_19 (by decide) (fun c_19 => ?t19) (fun c_19 => ?f19)
  case f19 =>
    exact absurd (Int32.le_refl _) c_19
  refine lv_aload_n S.1 S.2.1 dJ2_fastRemove_34 rfl (lv_at hl 2 rfl) ?_
  refine lv_aload_n S.1 S.2.1 dJ2_fastRemove_35 rfl (lv_at hl 1 rfl) ?_
  refine lv_iload_n S.1 S.2.1 dJ2_fastRemove_36 rfl (lv_at hl 0 rfl) ?_
  refine lv_dup_x1 S.1 S.2.1 dJ2_fastRemove_37 rfl rfl ?_
  refine h_put (ci := 0) (C := RJ2) (T := TJ2) (N := 3) S hTs hW in_J2 tyJ2 tyJ2_ok nmJ2 rfl 2 (by decide) q140 (fun _ h => h) rfl dJ2_fastRemove_38 h3a (by exact Nat.le_of_ble_eq_true rfl) rfl rfl (fun H locs hW => ?_)
  rw [huu] at hW
  refine lv_null S.1 S.2.1 dJ2_fastRemove_41 ?_
  refine h_astON S hTs hW dJ2_fastRemove_42 ((hu_n hda).trans hd) (by omega) (by omega) (fun H locs hW => ?_)
  exact (h_vret S.1 S.2.1 hr hlk hW ⟨rfl, rfl⟩ (Nat.le_of_ble_eq_true rfl) (Nat.le_of_ble_eq_true rfl) dJ2_fastRemove_43)
set_option maxHeartbeats 4000000 in
set_option maxRecDepth 100000 in
theorem m_removeLast (l : Launch) (g : hG) (h : hA) {a : Nat} {lab : hLab} {mo : Int32} {cap : Nat} {es : List Nat} (ha : h a = some (lab, cL mo cap es)) {i : Nat} {x : Nat} (hx : es[i]? = some x) (hlast : i + 1 = es.length)  : hMet l g yJ2_remove cJ2_remove 4 (some (.object "java/lang/Object")) (hRm 4 0 0) h [.ref a, .int (nI i)] (oR fun r h' => x = r ∧ hu h a (lab, cL (mo + 1) cap es.dropLast) = h') := by
  refine hMet_of (by decide) (Nat.le_of_ble_eq_true rfl) ?_
  intro p e s m below meth c ls S hr hlk hnm hTs hZs hW hl
  have S : CallFix p m c cJ2_remove 4 s ([.ref a, .int (nI i)] : List Value).toArray lw_all RJ2 := S
  have hl : lv_has ls 4 [(0, .ref a), (1, .int (nI i))] := hl
  obtain ⟨hle, hcap, -⟩ := hW.list ha
  have hi : i < es.length := (List.getElem?_eq_some_iff.mp hx).1
  have hc : 0 < cap := by omega
  refine lv_iload_n S.1 S.2.1 dJ2_remove_0 rfl (lv_at hl 1 rfl) ?_
  refine lv_aload_n S.1 S.2.1 dJ2_remove_1 rfl (lv_at hl 0 rfl) ?_
  refine h_getL S hTs hW in_J2 rfl 2 (by decide) q140 (fun _ h => h) dJ2_remove_2 (by assumption) (fun _ => rfl) ?_
  refine h_ki (h_rS S hTs hZs hW hl.1 (m_checkIndex l g h hi (by omega)) (va_cwS 2 S.2.2.2.2 (lw_S q428 q429 q94 q430) rfl rfl rfl (by decide +kernel) ⟨Nat.le_of_ble_eq_true rfl, Nat.le_of_ble_eq_true rfl⟩) rfl rfl (Nat.le_of_ble_eq_true rfl) ⟨Nat.le_of_ble_eq_true rfl, Nat.le_of_ble_eq_true rfl⟩ dJ2_remove_5) hW (fun r_5 h1 H locs hp hW => ?_)
  obtain ⟨rfl, rfl⟩ := hp
  refine lv_pop S.1 S.2.1 dJ2_remove_8 rfl ?_
  obtain ⟨d, h2, hd0, hda, h2a, h2d, h2o, hW2⟩ := hW.opn2 ha hc
  have hW := hW2
  rw [← hlast] at h2a
  refine lv_aload_n S.1 S.2.1 dJ2_remove_9 rfl (lv_at hl 0 rfl) ?_
  refine h_get (ci := 0) (C := RJ2) (T := TJ2) (N := 3) S hTs hW in_J2 rfl 1 (by decide) q137 (fun _ h => h) dJ2_remove_10 h2a (by rfl) ?_
  refine lv_astore_n (lv' := [(2, _), (0, _), (1, _)]) S.1 S.2.1 dJ2_remove_13 rfl hl (by decide) rfl (fun ls hl => ?_)
  refine lv_aload_n S.1 S.2.1 dJ2_remove_14 rfl (lv_at hl 0 rfl) ?_
  refine lv_iload_n S.1 S.2.1 dJ2_remove_15 rfl (lv_at hl 2 rfl) ?_
  refine h_aldON S hTs hW dJ2_remove_16 h2d (by omega) (by omega) hx ?_
  refine lv_astore_n (lv' := [(3, _), (2, _), (0, _), (1, _)]) S.1 S.2.1 dJ2_remove_17 rfl hl (by decide) rfl (fun ls hl => ?_)
  refine lv_aload_n S.1 S.2.1 dJ2_remove_18 rfl (lv_at hl 2 rfl) ?_
  refine lv_aload_n S.1 S.2.1 dJ2_remove_19 rfl (lv_at hl 1 rfl) ?_
  refine lv_iload_n S.1 S.2.1 dJ2_remove_20 rfl (lv_at hl 3 rfl) ?_
  refine h_kv (h_rV S hTs hZs hW hl.1 (m_fastRemove l g h2 (n := 0) h2a h2d (by omega) hcap hda) (cwV 2 S.2.2.2.2 (lw_V q1527 q1529 qs38 q73 q1530) rfl rfl rfl (by decide +kernel) ⟨Nat.le_of_ble_eq_true rfl, Nat.le_of_ble_eq_true rfl⟩) (h_recv (ci := 0) hTs hW h2a rfl) rfl rfl (Nat.le_of_ble_eq_true rfl) ⟨Nat.le_of_ble_eq_true rfl, Nat.le_of_ble_eq_true rfl⟩ dJ2_remove_21) hW (fun h1 H locs hp hW => ?_)
  subst hp
  rw [hu_comm _ hda.symm] at hW
  have hW := hWd.shut es.dropLast hW (hu_s _ _ _) ((hu_n hda).trans (hu_s _ _ _)) hc (n := i) (by rw [List.length_dropLast]; omega) (by omega) hcap (fun j hj => list_dn hlast) hd0 (fun q n1 n2 y hy => by rw [hu_n n1, hu_n n2, h2o q n1 n2]; exact hy)
  refine lv_aload_n S.1 S.2.1 dJ2_remove_24 rfl (lv_at hl 0 rfl) ?_
  exact (h_aret S.1 S.2.1 hr (Or.inl ⟨_, rfl⟩) hlk hW ⟨_, rfl, rfl, rfl⟩ (Nat.le_of_ble_eq_true rfl) (Nat.le_of_ble_eq_true rfl) dJ2_remove_25)
set_option maxHeartbeats 4000000 in
set_option maxRecDepth 100000 in
theorem m_toArray (l : Launch) (g : hG) (h : hA) {a : Nat} {lab : hLab} {mo : Int32} {cap : Nat} {es : List Nat} (ha : h a = some (lab, cL mo cap es)) (hc : 0 < cap)  : hMet l g yJ2_toArray cJ2_toArray 1 (some (.array (.object "java/lang/Object"))) (hRm 5 1 es.length) h [.ref a] (oR fun r h' => h r = none ∧ hu h r ((0, 0), cQ g 1 es.length (fun i => es[i]?)) = h') := by
  refine hMet_of (by decide) (Nat.le_of_ble_eq_true rfl) ?_
  intro p e s m below meth c ls S hr hlk hnm hTs hZs hW hl
  have S : CallFix p m c cJ2_toArray 1 s ([.ref a] : List Value).toArray lw_all RJ2 := S
  have hl : lv_has ls 1 [(0, .ref a)] := hl
  obtain ⟨hle, hcap, -⟩ := hW.list ha
  obtain ⟨d, h2, hd0, hda, h2a, h2d, h2o, hW2⟩ := hW.opn2 ha hc
  have hW := hW2
  refine lv_aload_n S.1 S.2.1 dJ2_toArray_0 rfl (lv_at hl 0 rfl) ?_
  refine h_get (ci := 0) (C := RJ2) (T := TJ2) (N := 3) S hTs hW in_J2 rfl 1 (by decide) q137 (fun _ h => h) dJ2_toArray_1 h2a (by rfl) ?_
  refine lv_aload_n S.1 S.2.1 dJ2_toArray_4 rfl (lv_at hl 0 rfl) ?_
  refine h_get (ci := 0) (C := RJ2) (T := TJ2) (N := 3) S hTs hW in_J2 rfl 2 (by decide) q140 (fun _ h => h) dJ2_toArray_5 h2a (by rfl) ?_
  refine h_kr (h_rS S hTs hZs hW hl.1 (m_copyOfL l g h2 h2d hle hcap) (va_cwS 2 S.2.2.2.2 (lw_S q224 q225 q80 q226) rfl rfl rfl (by decide +kernel) ⟨Nat.le_of_ble_eq_true rfl, Nat.le_of_ble_eq_true rfl⟩) rfl rfl (Nat.le_of_ble_eq_true rfl) ⟨Nat.le_refl _, by show 0 + es.length ≤ es.length; omega⟩ dJ2_toArray_8) hW (fun q h1 H locs hp hW => ?_)
  obtain ⟨hq, rfl⟩ := hp
  have hqa : q ≠ a := fun e => by rw [e, h2a] at hq; cases hq
  have hqd : q ≠ d := fun e => by rw [e, h2d] at hq; cases hq
  have hq0 : h q = none := by rw [← h2o q hqa hqd]; exact hq
  have hW := hWd.shut (h0 := hu h q ((0, 0), cQ g 1 es.length (fun i => es[i]?))) es hW (hu_new h2a hq) (hu_new h2d hq) hc rfl hle hcap (fun i _ => rfl) ((hu_n hqd.symm).trans hd0) (fun q9 n1 n2 y hy => by
    by_cases e9 : q9 = q
    · rw [e9, hu_s] at hy ⊢; exact hy
    · rw [hu_n e9] at hy ⊢; rw [h2o q9 n1 n2]; exact hy)
  rw [hu_id ((hu_n hqa.symm).trans ha)] at hW
  exact (h_aret S.1 S.2.1 hr (Or.inr ⟨_, rfl⟩) hlk hW ⟨_, rfl, hq0, rfl⟩ (Nat.le_refl _) (by show 0 + es.length ≤ es.length; omega) dJ2_toArray_11)
set_option maxHeartbeats 4000000 in
set_option maxRecDepth 100000 in
theorem m_copyOf2z (l : Launch) (g : hG) (h : hA)  : hMet l g yJ7_copyOf_2 cJ7_copyOf_2 4 (some (.array (.object "java/lang/Object"))) (hRm 2 1 0) h [.ref (gs g 0), .int 0, .ref (gs g 8)] (oR fun r h' => h r = none ∧ hu h r ((0, 0), cQ g 1 0 (fun _ => none)) = h') := by
  refine hMet_of (by decide) (Nat.le_of_ble_eq_true rfl) ?_
  intro p e s m below meth c ls S hr hlk hnm hTs hZs hW hl
  have S : CallFix p m c cJ7_copyOf_2 4 s ([.ref (gs g 0), .int 0, .ref (gs g 8)] : List Value).toArray lw_all RJ7 := S
  have hl : lv_has ls 4 [(0, .ref (gs g 0)), (1, .int 0), (2, .ref (gs g 8))] := hl
  refine lv_aload_n S.1 S.2.1 dJ7_copyOf_2_0 rfl (lv_at hl 2 rfl) ?_
  refine va_ldcM S.1 S.2.1 S.2.2.2.1 (S.2.2.2.2 _ q262) hTs.2.2.2.2.2.2.1 dJ7_copyOf_2_1 ?_
  refine h_acmp_ne (tgt := 13) S.1 S.2.1 dJ7_copyOf_2_3 (by decide) (fun c_3 => ?t3) (fun c_3 => ?f3)
  case t3 =>
    exact absurd rfl c_3
  refine lv_iload_n S.1 S.2.1 dJ7_copyOf_2_6 rfl (lv_at hl 1 rfl) ?_
  refine h_newO (n := 0) (0, 0) S hTs hW q264 dJ7_copyOf_2_7 (by omega) (Nat.le_refl _) (Nat.le_refl _) (fun q H hq hW => ?_)
  refine lv_goto (tgt := 24) S.1 S.2.1 dJ7_copyOf_2_10 (by decide) ?_
  refine lv_astore_n (lv' := [(3, _), (0, _), (1, _), (2, _)]) S.1 S.2.1 dJ7_copyOf_2_24 rfl hl (by decide) rfl (fun ls hl => ?_)
  refine lv_aload_n S.1 S.2.1 dJ7_copyOf_2_25 rfl (lv_at hl 1 rfl) ?_
  refine lv_iconst (v := 0) S.1 S.2.1 dJ7_copyOf_2_26 (by decide) ?_
  refine lv_aload_n S.1 S.2.1 dJ7_copyOf_2_27 rfl (lv_at hl 0 rfl) ?_
  refine lv_iconst (v := 0) S.1 S.2.1 dJ7_copyOf_2_28 (by decide) ?_
  refine lv_aload_n S.1 S.2.1 dJ7_copyOf_2_29 rfl (lv_at hl 1 rfl) ?_
  refine va_tlen (v := 0) S.1 S.2.1 hZs.2.1 hW.2 rfl dJ7_copyOf_2_30 ?_
  refine lv_iload_n S.1 S.2.1 dJ7_copyOf_2_31 rfl (lv_at hl 2 rfl) ?_
  refine va_mmin S.1 S.2.1 (by rw [S.2.2.1]; exact hl.1.symm) S.2.2.2.1 (S.2.2.2.2 _ q265) (S.2.2.2.2 _ q266) (S.2.2.2.2 _ q79) (S.2.2.2.2 _ q267) (Nat.le_of_ble_eq_true rfl) (Nat.le_of_ble_eq_true rfl) (Nat.le_refl _) (Nat.le_refl _) dJ7_copyOf_2_32 ?_
  refine h_topi (x' := 0) rfl ?_
  refine h_copyO0 S hTs hZs hW hl.1 q268 q270 q269 q81 (Nat.le_of_ble_eq_true rfl) (Nat.le_of_ble_eq_true rfl) dJ7_copyOf_2_35 (hu_s _ _ _) (fun H locs hW => ?_)
  refine lv_aload_n S.1 S.2.1 dJ7_copyOf_2_38 rfl (lv_at hl 0 rfl) ?_
  exact (h_aret S.1 S.2.1 hr (Or.inr ⟨_, rfl⟩) hlk hW ⟨_, rfl, hq, rfl⟩ (Nat.le_refl _) (Nat.le_refl _) dJ7_copyOf_2_39)
set_option maxHeartbeats 4000000 in
set_option maxRecDepth 100000 in
theorem m_copyOfz (l : Launch) (g : hG) (h : hA)  : hMet l g yJ7_copyOf cJ7_copyOf 2 (some (.array (.object "java/lang/Object"))) (hRm 3 1 0) h [.ref (gs g 0), .int 0] (oR fun r h' => h r = none ∧ hu h r ((0, 0), cQ g 1 0 (fun _ => none)) = h') := by
  refine hMet_of (by decide) (Nat.le_of_ble_eq_true rfl) ?_
  intro p e s m below meth c ls S hr hlk hnm hTs hZs hW hl
  have S : CallFix p m c cJ7_copyOf 2 s ([.ref (gs g 0), .int 0] : List Value).toArray lw_all RJ7 := S
  have hl : lv_has ls 2 [(0, .ref (gs g 0)), (1, .int 0)] := hl
  refine lv_aload_n S.1 S.2.1 dJ7_copyOf_0 rfl (lv_at hl 0 rfl) ?_
  refine lv_iload_n S.1 S.2.1 dJ7_copyOf_1 rfl (lv_at hl 1 rfl) ?_
  refine lv_aload_n S.1 S.2.1 dJ7_copyOf_2 rfl (lv_at hl 0 rfl) ?_
  refine h_getCO0 S hTs hZs hW hl.1 q227 (Nat.le_of_ble_eq_true rfl) (Nat.le_of_ble_eq_true rfl) dJ7_copyOf_3 ?_
  refine h_kr (h_rS S hTs hZs hW hl.1 (m_copyOf2z l g h) (va_cwS 3 S.2.2.2.2 (lw_S q259 q260 q80 q261) rfl rfl rfl (by decide +kernel) ⟨Nat.le_of_ble_eq_true rfl, Nat.le_of_ble_eq_true rfl⟩) rfl rfl (Nat.le_of_ble_eq_true rfl) ⟨Nat.le_refl _, Nat.le_refl _⟩ dJ7_copyOf_6) hW (fun r_6 h1 H locs hp hW => ?_)
  obtain ⟨hq, rfl⟩ := hp
  exact (h_aret S.1 S.2.1 hr (Or.inr ⟨_, rfl⟩) hlk hW ⟨_, rfl, hq, rfl⟩ (Nat.le_refl _) (Nat.le_refl _) dJ7_copyOf_9)
set_option maxHeartbeats 4000000 in
set_option maxRecDepth 100000 in
theorem m_toArrayz (l : Launch) (g : hG) (h : hA) {a : Nat} {lab : hLab} {mo : Int32} {es : List Nat} (ha : h a = some (lab, cL mo 0 es))  : hMet l g yJ2_toArray cJ2_toArray 1 (some (.array (.object "java/lang/Object"))) (hRm 5 1 es.length) h [.ref a] (oR fun r h' => h r = none ∧ hu h r ((0, 0), cQ g 1 es.length (fun i => es[i]?)) = h') := by
  refine hMet_of (by decide) (Nat.le_of_ble_eq_true rfl) ?_
  intro p e s m below meth c ls S hr hlk hnm hTs hZs hW hl
  have S : CallFix p m c cJ2_toArray 1 s ([.ref a] : List Value).toArray lw_all RJ2 := S
  have hl : lv_has ls 1 [(0, .ref a)] := hl
  obtain ⟨rfl, hW2⟩ := hW.opn0 ha
  have hW := hW2
  refine lv_aload_n S.1 S.2.1 dJ2_toArray_0 rfl (lv_at hl 0 rfl) ?_
  refine h_get (ci := 0) (C := RJ2) (T := TJ2) (N := 3) S hTs hW in_J2 rfl 1 (by decide) q137 (fun _ h => h) dJ2_toArray_1 (hu_s _ _ _) (by rfl) ?_
  refine lv_aload_n S.1 S.2.1 dJ2_toArray_4 rfl (lv_at hl 0 rfl) ?_
  refine h_get (ci := 0) (C := RJ2) (T := TJ2) (N := 3) S hTs hW in_J2 rfl 2 (by decide) q140 (fun _ h => h) dJ2_toArray_5 (hu_s _ _ _) (by rfl) ?_
  refine h_kr (h_rS S hTs hZs hW hl.1 (m_copyOfz l g _) (va_cwS 2 S.2.2.2.2 (lw_S q224 q225 q80 q226) rfl rfl rfl (by decide +kernel) ⟨Nat.le_of_ble_eq_true rfl, Nat.le_of_ble_eq_true rfl⟩) rfl rfl (Nat.le_of_ble_eq_true rfl) ⟨Nat.le_refl _, Nat.le_refl _⟩ dJ2_toArray_8) hW (fun q h1 H locs hp hW => ?_)
  obtain ⟨hq, rfl⟩ := hp
  have hqa : q ≠ a := fun e => by rw [e, hu_s] at hq; cases hq
  have hq0 : h q = none := by rw [hu_n hqa] at hq; exact hq
  have hW := hWd.shut0 hW ((hu_n hqa.symm).trans (hu_s _ _ _)) lab
  rw [hu_comm (hu h a _) hqa, huu, hu_id ha] at hW
  exact (h_aret S.1 S.2.1 hr (Or.inr ⟨_, rfl⟩) hlk hW ⟨_, rfl, hq0, rfl⟩ (Nat.le_refl _) (Nat.le_refl _) dJ2_toArray_11)

theorem m_toArrayX (l : Launch) (g : hG) (h : hA) {a : Nat} {lab : hLab} {mo : Int32} {cap : Nat} {es : List Nat} (ha : h a = some (lab, cL mo cap es)) : hMet l g yJ2_toArray cJ2_toArray 1 (some (.array (.object "java/lang/Object"))) (hRm 5 1 es.length) h [.ref a] (oR fun r h' => h r = none ∧ hu h r ((0, 0), cQ g 1 es.length (fun i => es[i]?)) = h') := by
  by_cases hc : 0 < cap
  · exact m_toArray l g h ha hc
  · have e0 : cap = 0 := by omega
    subst e0
    exact m_toArrayz l g h ha
set_option maxHeartbeats 4000000 in
set_option maxRecDepth 100000 in
theorem m_addAll (l : Launch) (g : hG) (h : hA) {a b : Nat} {lab lb : hLab} {mo mb : Int32} {cap : Nat} {es : List Nat} (ha : h a = some (lab, cL mo 0 [])) (hb : h b = some (lb, cL mb cap es)) (hm : es.length ≤ 60000) (hn : 0 < es.length)  : hMet l g yJ2_addAll cJ2_addAll 6 (some .boolean) (hRm 7 2 (es.length + max 10 es.length)) h [.ref a, .ref b] (oI fun r h' => hu h a (lab, cL (mo + 1) (max 10 es.length) es) = h') := by
  refine hMet_of (by decide) (Nat.le_of_ble_eq_true rfl) ?_
  intro p e s m below meth c ls S hr hlk hnm hTs hZs hW hl
  have S : CallFix p m c cJ2_addAll 6 s ([.ref a, .ref b] : List Value).toArray lw_all RJ2 := S
  have hl : lv_has ls 6 [(0, .ref a), (1, .ref b)] := hl
  refine lv_aload_n S.1 S.2.1 dJ2_addAll_0 rfl (lv_at hl 1 rfl) ?_
  refine h_kr5 (h_rF (hTs.1.1 0 _ rfl).2 S hTs hZs hW hl.1 (m_toArrayX l g h hb) (va_cwF 0 S.2.2.2.2 (lw_F q1873 q1877 q1879 q73 q1881) rfl rfl rfl (hTs.2.2.1 _ (List.mem_of_getElem? (i := 4) rfl)) (by decide +kernel) ⟨Nat.le_of_ble_eq_true rfl, Nat.le_of_ble_eq_true rfl⟩) (h_recvL hTs hW hb) rfl rfl (Nat.le_of_ble_eq_true rfl) ⟨by show 0 + 1 ≤ 2; omega, by show 0 + es.length ≤ es.length + max 10 es.length; omega⟩ dJ2_addAll_1) hW (fun q h1 H locs hp hW => ?_)
  obtain ⟨hq, rfl⟩ := hp
  have hqa : q ≠ a := fun e => by rw [e, ha] at hq; cases hq
  obtain ⟨-, hW2⟩ := hWd.opn0 hW (hu_new ha hq)
  have hW := hW2
  have h2a : (hu (hu h q ((0, 0), cQ g 1 es.length fun i => es[i]?)) a (lab, cO 0 [.int mo, .ref (gs g 0), .int 0])) a = _ := hu_s _ _ _
  have h2q : (hu (hu h q ((0, 0), cQ g 1 es.length fun i => es[i]?)) a (lab, cO 0 [.int mo, .ref (gs g 0), .int 0])) q = _ := (hu_n hqa).trans (hu_s _ _ _)
  refine lv_astore_n (lv' := [(2, _), (0, _), (1, _)]) S.1 S.2.1 dJ2_addAll_6 rfl hl (by decide) rfl (fun ls hl => ?_)
  refine lv_aload_n S.1 S.2.1 dJ2_addAll_7 rfl (lv_at hl 1 rfl) ?_
  refine lv_dup S.1 S.2.1 dJ2_addAll_8 rfl ?_
  refine h_get (ci := 0) (C := RJ2) (T := TJ2) (N := 3) S hTs hW in_J2 rfl 0 (by decide) q144 (u_same (S.2.2.2.2 _ q143)) dJ2_addAll_9 h2a (by rfl) ?_
  refine lv_iconst (v := 1) S.1 S.2.1 dJ2_addAll_12 (by decide) ?_
  refine lv_iadd S.1 S.2.1 dJ2_addAll_13 ?_
  refine h_put (ci := 0) (C := RJ2) (T := TJ2) (N := 3) S hTs hW in_J2 tyJ2 tyJ2_ok nmJ2 rfl 0 (by decide) q144 (u_same (S.2.2.2.2 _ q143)) rfl dJ2_addAll_14 h2a (by exact Nat.le_of_ble_eq_true rfl) rfl rfl (fun H locs hW => ?_)
  rw [huu] at hW
  have h3a : (hu (hu h q ((0, 0), cQ g 1 es.length fun i => es[i]?)) a (lab, cO 0 [.int (mo + 1), .ref (gs g 0), .int 0])) a = _ := hu_s _ _ _
  have h3q : (hu (hu h q ((0, 0), cQ g 1 es.length fun i => es[i]?)) a (lab, cO 0 [.int (mo + 1), .ref (gs g 0), .int 0])) q = _ := (hu_n hqa).trans (hu_s _ _ _)
  have hW : hWd g (hu (hu h q ((0, 0), cQ g 1 es.length fun i => es[i]?)) a (lab, cO 0 [.int (mo + 1), .ref (gs g 0), .int 0])) s H locs := hW
  refine lv_aload_n S.1 S.2.1 dJ2_addAll_17 rfl (lv_at hl 0 rfl) ?_
  refine h_alenO S hTs hW dJ2_addAll_18 h3q ?_
  refine lv_istore_n (lv' := [(3, _), (2, _), (0, _), (1, _)]) S.1 S.2.1 dJ2_addAll_19 rfl hl (by decide) rfl (fun ls hl => ?_)
  refine lv_iload_n S.1 S.2.1 dJ2_addAll_20 rfl (lv_at hl 0 rfl) ?_
  refine lv_if_ne (tgt := 26) S.1 S.2.1 dJ2_addAll_21 (by decide) (fun c_21 => ?t21) (fun c_21 => ?f21)
  case f21 =>
    exact absurd c_21 (nI_ne0 hn (by omega))
  refine lv_iload_n S.1 S.2.1 dJ2_addAll_26 rfl (lv_at hl 0 rfl) ?_
  refine lv_aload_n S.1 S.2.1 dJ2_addAll_27 rfl (lv_at hl 2 rfl) ?_
  refine h_get (ci := 0) (C := RJ2) (T := TJ2) (N := 3) S hTs hW in_J2 rfl 1 (by decide) q137 (fun _ h => h) dJ2_addAll_28 h3a (by rfl) ?_
  refine lv_dup S.1 S.2.1 dJ2_addAll_31 rfl ?_
  refine lv_astore (lv' := [(4, _), (3, _), (2, _), (0, _), (1, _)]) S.1 S.2.1 dJ2_addAll_32 hl (by decide) rfl (fun ls hl => ?_)
  refine va_tlen (v := 0) S.1 S.2.1 hZs.2.1 hW.2 rfl dJ2_addAll_34 ?_
  refine lv_aload_n S.1 S.2.1 dJ2_addAll_35 rfl (lv_at hl 3 rfl) ?_
  refine h_get (ci := 0) (C := RJ2) (T := TJ2) (N := 3) S hTs hW in_J2 rfl 2 (by decide) q140 (fun _ h => h) dJ2_addAll_36 h3a (by rfl) ?_
  refine lv_dup S.1 S.2.1 dJ2_addAll_39 rfl ?_
  refine lv_istore (lv' := [(5, _), (4, _), (3, _), (2, _), (0, _), (1, _)]) S.1 S.2.1 dJ2_addAll_40 hl (by decide) rfl (fun ls hl => ?_)
  refine lv_isub S.1 S.2.1 dJ2_addAll_42 ?_
  refine h_topi (x' := 0) rfl ?_
  refine lv_icmp_le (tgt := 56) S.1 S.2.1 dJ2_addAll_43 (by decide) (fun c_43 => ?t43) (fun c_43 => ?f43)
  case t43 =>
    exact absurd c_43 (nI_nle hn (by omega))
  refine lv_aload_n S.1 S.2.1 dJ2_addAll_46 rfl (lv_at hl 4 rfl) ?_
  refine lv_iload S.1 S.2.1 dJ2_addAll_47 (lv_at hl 0 rfl) ?_
  refine lv_iload_n S.1 S.2.1 dJ2_addAll_49 rfl (lv_at hl 2 rfl) ?_
  refine lv_iadd S.1 S.2.1 dJ2_addAll_50 ?_
  refine h_topi (x' := nI es.length) (by exact (nI_add 0 es.length).trans (by rw [Nat.zero_add])) ?_
  refine h_kr (h_rV S hTs hZs hW hl.1 (m_grow2z l g _ h3a (k := es.length) (by omega)) (cwV 1 S.2.2.2.2 (lw_V q210 q212 qs2 q73 q213) rfl rfl rfl (by decide +kernel) ⟨Nat.le_of_ble_eq_true rfl, Nat.le_of_ble_eq_true rfl⟩) (h_recv (ci := 0) hTs hW h3a rfl) rfl rfl (Nat.le_of_ble_eq_true rfl) ⟨by show 0 + 1 + 1 ≤ 2; omega, by show 0 + es.length + max 10 es.length ≤ es.length + max 10 es.length; omega⟩ dJ2_addAll_51) hW (fun d h1 H locs hp hW => ?_)
  obtain ⟨hd, rfl⟩ := hp
  have hda : d ≠ a := fun e => by rw [e, h3a] at hd; cases hd
  have hdq : d ≠ q := fun e => by rw [e, h3q] at hd; cases hd
  have hd0 : h d = none := by rw [hu_n hda, hu_n hdq] at hd; exact hd
  have h4q := (hu_n (x := (lab, cO 0 [.int (mo + 1), .ref d, .int 0])) hqa).trans (hu_new (x := ((0, 0), cQ g 1 (max 10 es.length) (fun _ => none))) h3q hd)
  refine lv_astore (lv' := [(4, _), (5, _), (3, _), (2, _), (0, _), (1, _)]) S.1 S.2.1 dJ2_addAll_54 hl (by decide) rfl (fun ls hl => ?_)
  refine lv_aload_n S.1 S.2.1 dJ2_addAll_56 rfl (lv_at hl 3 rfl) ?_
  refine lv_iconst (v := 0) S.1 S.2.1 dJ2_addAll_57 (by decide) ?_
  refine lv_aload S.1 S.2.1 dJ2_addAll_58 (lv_at hl 0 rfl) ?_
  refine lv_iload S.1 S.2.1 dJ2_addAll_60 (lv_at hl 1 rfl) ?_
  refine lv_iload_n S.1 S.2.1 dJ2_addAll_62 rfl (lv_at hl 2 rfl) ?_
  refine h_copyO S hTs hW hl.1 q1531 q270 q269 q81 (Nat.le_of_ble_eq_true rfl) (Nat.le_of_ble_eq_true rfl) dJ2_addAll_63 (sp := 0) (dp := 0) (n := es.length) h4q ((hu_n hda).trans (hu_s _ _ _)) rfl rfl rfl (by omega) (by omega) (by omega) (by omega) (fun H locs hW => ?_)
  refine lv_aload_n S.1 S.2.1 dJ2_addAll_66 rfl (lv_at hl 4 rfl) ?_
  refine lv_iload S.1 S.2.1 dJ2_addAll_67 (lv_at hl 1 rfl) ?_
  refine lv_iload_n S.1 S.2.1 dJ2_addAll_69 rfl (lv_at hl 2 rfl) ?_
  refine lv_iadd S.1 S.2.1 dJ2_addAll_70 ?_
  refine h_topi (x' := nI es.length) (by exact (nI_add 0 es.length).trans (by rw [Nat.zero_add])) ?_
  refine h_put (ci := 0) (C := RJ2) (T := TJ2) (N := 3) S hTs hW in_J2 tyJ2 tyJ2_ok nmJ2 rfl 2 (by decide) q140 (fun _ h => h) rfl dJ2_addAll_71 ((hu_n hda.symm).trans (hu_s _ _ _)) (by exact Nat.le_of_ble_eq_true rfl) rfl rfl (fun H locs hW => ?_)
  refine lv_iconst (v := 1) S.1 S.2.1 dJ2_addAll_74 (by decide) ?_
  have hW := hWd.shut (h0 := h) es hW (hu_s _ _ _) ((hu_n hda).trans (hu_s _ _ _)) (by omega) rfl (by omega) (by omega) (fun i _ => list_cpy (Nat.le_refl _)) hd0 (fun q9 n1 n2 y hy => by rw [hu_n n1, hu_n n2, hu_n n1, hu_n n2, hu_n n1, hu_n (fun e9 => by rw [e9, hq] at hy; cases hy)]; exact hy)
  exact (h_zret S.1 S.2.1 hr hlk hW ⟨_, rfl, rfl⟩ (by decide) (by show 0 + 1 + 1 ≤ 2; omega) (by show 0 + es.length + max 10 es.length ≤ es.length + max 10 es.length; omega) dJ2_addAll_75)
set_option maxHeartbeats 4000000 in
set_option maxRecDepth 100000 in
theorem m_addAllz (l : Launch) (g : hG) (h : hA) {a b : Nat} {lab lb : hLab} {mo mb : Int32} {cap : Nat} {es : List Nat} (ha : h a = some (lab, cL mo 0 [])) (hb : h b = some (lb, cL mb cap es)) (hn : es.length = 0)  : hMet l g yJ2_addAll cJ2_addAll 6 (some .boolean) (hRm 7 2 (es.length + max 10 es.length)) h [.ref a, .ref b] (oI fun r h' => hu h a (lab, cL (mo + 1) 0 []) = h') := by
  refine hMet_of (by decide) (Nat.le_of_ble_eq_true rfl) ?_
  intro p e s m below meth c ls S hr hlk hnm hTs hZs hW hl
  have S : CallFix p m c cJ2_addAll 6 s ([.ref a, .ref b] : List Value).toArray lw_all RJ2 := S
  have hl : lv_has ls 6 [(0, .ref a), (1, .ref b)] := hl
  refine lv_aload_n S.1 S.2.1 dJ2_addAll_0 rfl (lv_at hl 1 rfl) ?_
  refine h_kr5 (h_rF (hTs.1.1 0 _ rfl).2 S hTs hZs hW hl.1 (m_toArrayX l g h hb) (va_cwF 0 S.2.2.2.2 (lw_F q1873 q1877 q1879 q73 q1881) rfl rfl rfl (hTs.2.2.1 _ (List.mem_of_getElem? (i := 4) rfl)) (by decide +kernel) ⟨Nat.le_of_ble_eq_true rfl, Nat.le_of_ble_eq_true rfl⟩) (h_recvL hTs hW hb) rfl rfl (Nat.le_of_ble_eq_true rfl) ⟨by show 0 + 1 ≤ 2; omega, by show 0 + es.length ≤ es.length + max 10 es.length; omega⟩ dJ2_addAll_1) hW (fun q h1 H locs hp hW => ?_)
  obtain ⟨hq, rfl⟩ := hp
  have hqa : q ≠ a := fun e => by rw [e, ha] at hq; cases hq
  obtain ⟨-, hW2⟩ := hWd.opn0 hW (hu_new ha hq)
  have hW := hW2
  have h2a : (hu (hu h q ((0, 0), cQ g 1 es.length fun i => es[i]?)) a (lab, cO 0 [.int mo, .ref (gs g 0), .int 0])) a = _ := hu_s _ _ _
  have h2q : (hu (hu h q ((0, 0), cQ g 1 es.length fun i => es[i]?)) a (lab, cO 0 [.int mo, .ref (gs g 0), .int 0])) q = _ := (hu_n hqa).trans (hu_s _ _ _)
  refine lv_astore_n (lv' := [(2, _), (0, _), (1, _)]) S.1 S.2.1 dJ2_addAll_6 rfl hl (by decide) rfl (fun ls hl => ?_)
  refine lv_aload_n S.1 S.2.1 dJ2_addAll_7 rfl (lv_at hl 1 rfl) ?_
  refine lv_dup S.1 S.2.1 dJ2_addAll_8 rfl ?_
  refine h_get (ci := 0) (C := RJ2) (T := TJ2) (N := 3) S hTs hW in_J2 rfl 0 (by decide) q144 (u_same (S.2.2.2.2 _ q143)) dJ2_addAll_9 h2a (by rfl) ?_
  refine lv_iconst (v := 1) S.1 S.2.1 dJ2_addAll_12 (by decide) ?_
  refine lv_iadd S.1 S.2.1 dJ2_addAll_13 ?_
  refine h_put (ci := 0) (C := RJ2) (T := TJ2) (N := 3) S hTs hW in_J2 tyJ2 tyJ2_ok nmJ2 rfl 0 (by decide) q144 (u_same (S.2.2.2.2 _ q143)) rfl dJ2_addAll_14 h2a (by exact Nat.le_of_ble_eq_true rfl) rfl rfl (fun H locs hW => ?_)
  rw [huu] at hW
  have h3a : (hu (hu h q ((0, 0), cQ g 1 es.length fun i => es[i]?)) a (lab, cO 0 [.int (mo + 1), .ref (gs g 0), .int 0])) a = _ := hu_s _ _ _
  have h3q : (hu (hu h q ((0, 0), cQ g 1 es.length fun i => es[i]?)) a (lab, cO 0 [.int (mo + 1), .ref (gs g 0), .int 0])) q = _ := (hu_n hqa).trans (hu_s _ _ _)
  have hW : hWd g (hu (hu h q ((0, 0), cQ g 1 es.length fun i => es[i]?)) a (lab, cO 0 [.int (mo + 1), .ref (gs g 0), .int 0])) s H locs := hW
  refine lv_aload_n S.1 S.2.1 dJ2_addAll_17 rfl (lv_at hl 0 rfl) ?_
  refine h_alenO S hTs hW dJ2_addAll_18 h3q ?_
  refine lv_istore_n (lv' := [(3, _), (2, _), (0, _), (1, _)]) S.1 S.2.1 dJ2_addAll_19 rfl hl (by decide) rfl (fun ls hl => ?_)
  refine lv_iload_n S.1 S.2.1 dJ2_addAll_20 rfl (lv_at hl 0 rfl) ?_
  refine lv_if_ne (tgt := 26) S.1 S.2.1 dJ2_addAll_21 (by decide) (fun c_21 => ?t21) (fun c_21 => ?f21)
  case t21 =>
    exact absurd (by rw [hn]; rfl) c_21
  refine lv_iconst (v := 0) S.1 S.2.1 dJ2_addAll_24 (by decide) ?_
  have hW := hWd.shut0 hW h3a lab
  rw [huu] at hW
  have hW : hWd g (hu h a (lab, cL (mo + 1) 0 [])) s H locs := hW.less (fun q9 x hx => by
    by_cases e9 : q9 = a
    · rw [e9, hu_s] at hx ⊢; exact hx
    · rw [hu_n e9] at hx ⊢; exact hu_new hx hq)
  exact (h_zret S.1 S.2.1 hr hlk hW ⟨_, rfl, rfl⟩ (by decide) (by show 0 + 1 ≤ 2; omega) (by show 0 + es.length ≤ es.length + max 10 es.length; omega) dJ2_addAll_25)
