/-! lists, boxes, options: the JDK's members -/
set_option maxHeartbeats 4000000 in
set_option maxRecDepth 100000 in
theorem m_checkIdx (l : Launch) (g : hG) (h : hA) {i n : Nat} (hi : i < n) (hn : n < 2 ^ 31)  : hMet l g yJ17_checkIndex cJ17_checkIndex 3 (some .int) (hRm 1 0 0) h [.int (nI i), .int (nI n), .null] (oI fun r h' => nI i = r ∧ h = h') := by
  refine hMet_of (by decide) (Nat.le_of_ble_eq_true rfl) ?_
  intro p e s m below meth c ls S hr hlk hnm hTs hZs hW hl
  have S : CallFix p m c cJ17_checkIndex 3 s ([.int (nI i), .int (nI n), .null] : List Value).toArray lw_all RJ17 := S
  have hl : lv_has ls 3 [(0, .int (nI i)), (1, .int (nI n)), (2, .null)] := hl
  refine lv_iload_n S.1 S.2.1 dJ17_checkIndex_0 rfl (lv_at hl 0 rfl) ?_
  refine lv_if_lt (tgt := 9) S.1 S.2.1 dJ17_checkIndex_1 (by decide) (fun c_1 => ?t1) (fun c_1 => ?f1)
  case t1 =>
    exact absurd c_1 (nI_pos (by omega))
  refine lv_iload_n S.1 S.2.1 dJ17_checkIndex_4 rfl (lv_at hl 0 rfl) ?_
  refine lv_iload_n S.1 S.2.1 dJ17_checkIndex_5 rfl (lv_at hl 1 rfl) ?_
  refine lv_icmp_lt (tgt := 16) S.1 S.2.1 dJ17_checkIndex_6 (by decide) (fun c_6 => ?t6) (fun c_6 => ?f6)
  case t6 =>
    refine lv_iload_n S.1 S.2.1 dJ17_checkIndex_16 rfl (lv_at hl 0 rfl) ?_
    exact (h_iret S.1 S.2.1 hr hlk hW ⟨_, rfl, rfl, rfl⟩ (Nat.le_of_ble_eq_true rfl) (Nat.le_of_ble_eq_true rfl) dJ17_checkIndex_17)
  exact absurd (nI_lt hi hn) c_6
set_option maxHeartbeats 4000000 in
set_option maxRecDepth 100000 in
theorem m_checkIndex (l : Launch) (g : hG) (h : hA) {i n : Nat} (hi : i < n) (hn : n < 2 ^ 31)  : hMet l g yJ16_checkIndex cJ16_checkIndex 2 (some .int) (hRm 2 0 0) h [.int (nI i), .int (nI n)] (oI fun r h' => nI i = r ∧ h = h') := by
  refine hMet_of (by decide) (Nat.le_of_ble_eq_true rfl) ?_
  intro p e s m below meth c ls S hr hlk hnm hTs hZs hW hl
  have S : CallFix p m c cJ16_checkIndex 2 s ([.int (nI i), .int (nI n)] : List Value).toArray lw_all RJ16 := S
  have hl : lv_has ls 2 [(0, .int (nI i)), (1, .int (nI n))] := hl
  refine lv_iload_n S.1 S.2.1 dJ16_checkIndex_0 rfl (lv_at hl 0 rfl) ?_
  refine lv_iload_n S.1 S.2.1 dJ16_checkIndex_1 rfl (lv_at hl 1 rfl) ?_
  refine lv_null S.1 S.2.1 dJ16_checkIndex_2 ?_
  refine h_ki (h_rS S hTs hZs hW hl.1 (m_checkIdx l g h hi hn) (va_cwS 3 S.2.2.2.2 (lw_S q431 q432 q95 q433) rfl rfl rfl (by decide +kernel) ⟨Nat.le_of_ble_eq_true rfl, Nat.le_of_ble_eq_true rfl⟩) rfl rfl (Nat.le_of_ble_eq_true rfl) ⟨Nat.le_of_ble_eq_true rfl, Nat.le_of_ble_eq_true rfl⟩ dJ16_checkIndex_3) hW (fun r_3 h1 H locs hp hW => ?_)
  obtain ⟨rfl, rfl⟩ := hp
  exact (h_iret S.1 S.2.1 hr hlk hW ⟨_, rfl, rfl, rfl⟩ (Nat.le_of_ble_eq_true rfl) (Nat.le_of_ble_eq_true rfl) dJ16_checkIndex_6)
set_option maxHeartbeats 4000000 in
set_option maxRecDepth 100000 in
theorem m_size (l : Launch) (g : hG) (h : hA) {a : Nat} {lab : hLab} {mo : Int32} {cap : Nat} {es : List Nat} (ha : h a = some (lab, cL mo cap es))  : hMet l g yJ2_size cJ2_size 1 (some .int) (hRm 1 0 0) h [.ref a] (oI fun r h' => nI es.length = r ∧ h = h') := by
  refine hMet_of (by decide) (Nat.le_of_ble_eq_true rfl) ?_
  intro p e s m below meth c ls S hr hlk hnm hTs hZs hW hl
  have S : CallFix p m c cJ2_size 1 s ([.ref a] : List Value).toArray lw_all RJ2 := S
  have hl : lv_has ls 1 [(0, .ref a)] := hl
  refine lv_aload_n S.1 S.2.1 dJ2_size_0 rfl (lv_at hl 0 rfl) ?_
  refine h_getL S hTs hW in_J2 rfl 2 (by decide) q140 (fun _ h => h) dJ2_size_1 (by assumption) (fun _ => rfl) ?_
  exact (h_iret S.1 S.2.1 hr hlk hW ⟨_, rfl, rfl, rfl⟩ (Nat.le_of_ble_eq_true rfl) (Nat.le_of_ble_eq_true rfl) dJ2_size_4)
set_option maxHeartbeats 4000000 in
set_option maxRecDepth 100000 in
theorem m_elementData (l : Launch) (g : hG) (h : hA) {a : Nat} {lab : hLab} {mo : Int32} {cap : Nat} {es : List Nat} (ha : h a = some (lab, cL mo cap es)) {i x : Nat} (hx : es[i]? = some x)  : hMet l g yJ2_elementData cJ2_elementData 2 (some (.object "java/lang/Object")) (hRm 1 0 0) h [.ref a, .int (nI i)] (oR fun r h' => x = r ∧ h = h') := by
  refine hMet_of (by decide) (Nat.le_of_ble_eq_true rfl) ?_
  intro p e s m below meth c ls S hr hlk hnm hTs hZs hW hl
  have S : CallFix p m c cJ2_elementData 2 s ([.ref a, .int (nI i)] : List Value).toArray lw_all RJ2 := S
  have hl : lv_has ls 2 [(0, .ref a), (1, .int (nI i))] := hl
  have hi : i < es.length := (List.getElem?_eq_some_iff.mp hx).1
  obtain ⟨hle, hcap, -⟩ := hW.1.list ha
  have hc : 0 < cap := by omega
  obtain ⟨d, h2, hd0, hda, h2a, h2d, h2o, hW2⟩ := hW.opn2 ha hc
  have hW0 := hW
  have hW := hW2
  refine lv_aload_n S.1 S.2.1 dJ2_elementData_0 rfl (lv_at hl 0 rfl) ?_
  refine h_get (ci := 0) (C := RJ2) (T := TJ2) (N := 3) S hTs hW in_J2 rfl 1 (by decide) q137 (fun _ h => h) dJ2_elementData_1 (by assumption) (by rfl) ?_
  refine lv_iload_n S.1 S.2.1 dJ2_elementData_4 rfl (lv_at hl 1 rfl) ?_
  refine h_aldON S hTs hW dJ2_elementData_5 h2d (by omega) (by omega) hx ?_
  exact (h_aret S.1 S.2.1 hr (Or.inl ⟨_, rfl⟩) hlk hW0 ⟨_, rfl, rfl, rfl⟩ (Nat.le_of_ble_eq_true rfl) (Nat.le_of_ble_eq_true rfl) dJ2_elementData_6)
set_option maxHeartbeats 4000000 in
set_option maxRecDepth 100000 in
theorem m_get (l : Launch) (g : hG) (h : hA) {a : Nat} {lab : hLab} {mo : Int32} {cap : Nat} {es : List Nat} (ha : h a = some (lab, cL mo cap es)) {i x : Nat} (hx : es[i]? = some x)  : hMet l g yJ2_get cJ2_get 2 (some (.object "java/lang/Object")) (hRm 3 0 0) h [.ref a, .int (nI i)] (oR fun r h' => x = r ∧ h = h') := by
  refine hMet_of (by decide) (Nat.le_of_ble_eq_true rfl) ?_
  intro p e s m below meth c ls S hr hlk hnm hTs hZs hW hl
  have S : CallFix p m c cJ2_get 2 s ([.ref a, .int (nI i)] : List Value).toArray lw_all RJ2 := S
  have hl : lv_has ls 2 [(0, .ref a), (1, .int (nI i))] := hl
  have hi : i < es.length := (List.getElem?_eq_some_iff.mp hx).1
  obtain ⟨hle, hcap, -⟩ := hW.1.list ha
  refine lv_iload_n S.1 S.2.1 dJ2_get_0 rfl (lv_at hl 1 rfl) ?_
  refine lv_aload_n S.1 S.2.1 dJ2_get_1 rfl (lv_at hl 0 rfl) ?_
  refine h_getL S hTs hW in_J2 rfl 2 (by decide) q140 (fun _ h => h) dJ2_get_2 (by assumption) (fun _ => rfl) ?_
  refine h_ki (h_rS S hTs hZs hW hl.1 (m_checkIndex l g h hi (by omega)) (va_cwS 2 S.2.2.2.2 (lw_S q428 q429 q94 q430) rfl rfl rfl (by decide +kernel) ⟨Nat.le_of_ble_eq_true rfl, Nat.le_of_ble_eq_true rfl⟩) rfl rfl (Nat.le_of_ble_eq_true rfl) ⟨Nat.le_of_ble_eq_true rfl, Nat.le_of_ble_eq_true rfl⟩ dJ2_get_5) hW (fun r_5 h1 H locs hp hW => ?_)
  obtain ⟨rfl, rfl⟩ := hp
  refine lv_pop S.1 S.2.1 dJ2_get_8 rfl ?_
  refine lv_aload_n S.1 S.2.1 dJ2_get_9 rfl (lv_at hl 0 rfl) ?_
  refine lv_iload_n S.1 S.2.1 dJ2_get_10 rfl (lv_at hl 1 rfl) ?_
  refine h_kr (h_rV S hTs hZs hW hl.1 (m_elementData l g h ha hx) (cwV 1 S.2.2.2.2 (lw_V q434 q435 q436 q73 q437) rfl rfl rfl (by decide +kernel) ⟨Nat.le_of_ble_eq_true rfl, Nat.le_of_ble_eq_true rfl⟩) (h_recvL hTs hW (by assumption)) rfl rfl (Nat.le_of_ble_eq_true rfl) ⟨Nat.le_of_ble_eq_true rfl, Nat.le_of_ble_eq_true rfl⟩ dJ2_get_11) hW (fun r_11 h9 H locs hp hW => ?_)
  obtain ⟨rfl, rfl⟩ := hp
  exact (h_aret S.1 S.2.1 hr (Or.inl ⟨_, rfl⟩) hlk hW ⟨_, rfl, rfl, rfl⟩ (Nat.le_of_ble_eq_true rfl) (Nat.le_of_ble_eq_true rfl) dJ2_get_14)
set_option maxHeartbeats 4000000 in
set_option maxRecDepth 100000 in
theorem m_J0_init (l : Launch) (g : hG) (h : hA) {a : Nat}  : hMet l g yJ0_init cJ0_init 1 none (hRm 1 0 0) h [.ref a] (oV fun h' => h = h') := by
  refine hMet_of (by decide) (Nat.le_of_ble_eq_true rfl) ?_
  intro p e s m below meth c ls S hr hlk hnm hTs hZs hW hl
  have S : CallFix p m c cJ0_init 1 s ([.ref a] : List Value).toArray lw_all RJ0 := S
  have hl : lv_has ls 1 [(0, .ref a)] := hl
  refine lv_aload_n S.1 S.2.1 dJ0_init_0 rfl (lv_at hl 0 rfl) ?_
  refine W.objInit S.1 S.2.1 S.2.2.2.1 (S.2.2.2.2 _ q134) (S.2.2.2.2 _ q121) (S.2.2.2.2 _ q122) rfl (by rw [S.2.2.1]; exact hl.1) rfl dJ0_init_1 (Nat.le_of_ble_eq_true rfl) (Nat.le_of_ble_eq_true rfl) ?_
  refine W.eq (g2 := F0 m 4 ls _) rfl ?_
  exact (h_vret S.1 S.2.1 hr hlk hW ⟨rfl, rfl⟩ (Nat.le_of_ble_eq_true rfl) (Nat.le_of_ble_eq_true rfl) dJ0_init_4)
set_option maxHeartbeats 4000000 in
set_option maxRecDepth 100000 in
theorem m_J1_init (l : Launch) (g : hG) (h : hA) {a : Nat} {lab : hLab} {mo : Int32} {v1 v2 : Value} (ha : h a = some (lab, cO 0 [.int mo, v1, v2]))  : hMet l g yJ1_init cJ1_init 1 none (hRm 2 0 0) h [.ref a] (oV fun h' => hu h a (lab, cO 0 [.int 0, v1, v2]) = h') := by
  refine hMet_of (by decide) (Nat.le_of_ble_eq_true rfl) ?_
  intro p e s m below meth c ls S hr hlk hnm hTs hZs hW hl
  have S : CallFix p m c cJ1_init 1 s ([.ref a] : List Value).toArray lw_all RJ1 := S
  have hl : lv_has ls 1 [(0, .ref a)] := hl
  refine lv_aload_n S.1 S.2.1 dJ1_init_0 rfl (lv_at hl 0 rfl) ?_
  refine h_kv (h_rI S hTs hZs hW hl.1 (m_J0_init l g h (a := a)) (cwI 0 S.2.2.2.2 (lw_meth q133) rfl rfl rfl (S.2.2.2.2 _ q71) (S.2.2.2.2 _ q131) (S.2.2.2.2 _ q132) rfl (by decide +kernel) ⟨Nat.le_of_ble_eq_true rfl, Nat.le_of_ble_eq_true rfl⟩) rfl rfl (Nat.le_of_ble_eq_true rfl) ⟨Nat.le_of_ble_eq_true rfl, Nat.le_of_ble_eq_true rfl⟩ dJ1_init_1) hW (fun h1 H locs hp hW => ?_)
  obtain ⟨-, rfl⟩ := (⟨rfl, hp⟩ : True = True ∧ _)
  refine lv_aload_n S.1 S.2.1 dJ1_init_4 rfl (lv_at hl 0 rfl) ?_
  refine lv_iconst (v := 0) S.1 S.2.1 dJ1_init_5 (by decide) ?_
  refine h_put (ci := 0) (C := RJ2) (T := TJ2) (N := 3) S hTs hW in_J2 tyJ2 tyJ2_ok nmJ2 rfl 0 (by decide) q141 (fun _ h => h) rfl dJ1_init_6 (by assumption) (by exact Nat.le_of_ble_eq_true rfl) rfl rfl (fun H locs hW => ?_)
  exact (h_vret S.1 S.2.1 hr hlk hW ⟨rfl, rfl⟩ (Nat.le_of_ble_eq_true rfl) (Nat.le_of_ble_eq_true rfl) dJ1_init_9)
set_option maxHeartbeats 4000000 in
set_option maxRecDepth 100000 in
theorem m_J2_init (l : Launch) (g : hG) (h : hA) {a : Nat} {lab : hLab} (ha : h a = some (lab, cO 0 [.int 0, .null, .int 0]))  : hMet l g yJ2_init cJ2_init 1 none (hRm 3 0 0) h [.ref a] (oV fun h' => hu h a (lab, cL 0 0 []) = h') := by
  refine hMet_of (by decide) (Nat.le_of_ble_eq_true rfl) ?_
  intro p e s m below meth c ls S hr hlk hnm hTs hZs hW hl
  have S : CallFix p m c cJ2_init 1 s ([.ref a] : List Value).toArray lw_all RJ2 := S
  have hl : lv_has ls 1 [(0, .ref a)] := hl
  refine lv_aload_n S.1 S.2.1 dJ2_init_0 rfl (lv_at hl 0 rfl) ?_
  refine h_kv (h_rI S hTs hZs hW hl.1 (m_J1_init l g h ha) (cwI 0 S.2.2.2.2 (lw_meth q130) rfl rfl rfl (S.2.2.2.2 _ q72) (S.2.2.2.2 _ q128) (S.2.2.2.2 _ q129) rfl (by decide +kernel) ⟨Nat.le_of_ble_eq_true rfl, Nat.le_of_ble_eq_true rfl⟩) rfl rfl (Nat.le_of_ble_eq_true rfl) ⟨Nat.le_of_ble_eq_true rfl, Nat.le_of_ble_eq_true rfl⟩ dJ2_init_1) hW (fun h1 H locs hp hW => ?_)
  subst hp
  refine lv_aload_n S.1 S.2.1 dJ2_init_4 rfl (lv_at hl 0 rfl) ?_
  refine va_gets S.1 S.2.1 hZs.1 hW.2 S.2.2.2.1 (S.2.2.2.2 _ q135) (fun _ h => h) dJ2_init_5 ?_
  refine h_put (ci := 0) (C := RJ2) (T := TJ2) (N := 3) S hTs hW in_J2 tyJ2 tyJ2_ok nmJ2 rfl 1 (by decide) q137 (fun _ h => h) rfl dJ2_init_8 (hu_s _ _ _) (by exact Nat.le_of_ble_eq_true rfl) rfl rfl (fun H locs hW => ?_)
  rw [huu] at hW
  have hW := hWd.shut0 hW (hu_s _ _ _) lab
  rw [huu] at hW
  exact (h_vret S.1 S.2.1 hr hlk hW ⟨rfl, rfl⟩ (Nat.le_of_ble_eq_true rfl) (Nat.le_of_ble_eq_true rfl) dJ2_init_11)
set_option maxHeartbeats 4000000 in
set_option maxRecDepth 100000 in
theorem m_newLength (l : Launch) (g : hG) (h : hA) {x y z : Nat} (h0 : 0 < x + max y z) (h1 : x + max y z < 2 ^ 30)  : hMet l g yJ5_newLength cJ5_newLength 4 (some .int) (hRm 2 0 0) h [.int (nI x), .int (nI y), .int (nI z)] (oI fun r h' => nI (x + max y z) = r ∧ h = h') := by
  refine hMet_of (by decide) (Nat.le_of_ble_eq_true rfl) ?_
  intro p e s m below meth c ls S hr hlk hnm hTs hZs hW hl
  have S : CallFix p m c cJ5_newLength 4 s ([.int (nI x), .int (nI y), .int (nI z)] : List Value).toArray lw_all RJ5 := S
  have hl : lv_has ls 4 [(0, .int (nI x)), (1, .int (nI y)), (2, .int (nI z))] := hl
  refine lv_iload_n S.1 S.2.1 dJ5_newLength_0 rfl (lv_at hl 0 rfl) ?_
  refine lv_iload_n S.1 S.2.1 dJ5_newLength_1 rfl (lv_at hl 1 rfl) ?_
  refine lv_iload_n S.1 S.2.1 dJ5_newLength_2 rfl (lv_at hl 2 rfl) ?_
  refine va_mmax S.1 S.2.1 (by rw [S.2.2.1]; exact hl.1.symm) S.2.2.2.1 (S.2.2.2.2 _ q217) (S.2.2.2.2 _ q218) (S.2.2.2.2 _ q79) (S.2.2.2.2 _ q219) (Nat.le_of_ble_eq_true rfl) (Nat.le_of_ble_eq_true rfl) (Nat.le_of_ble_eq_true rfl) (Nat.le_of_ble_eq_true rfl) dJ5_newLength_3 ?_
  refine h_topi (nI_max y z (by omega) (by omega)) ?_
  refine lv_iadd S.1 S.2.1 dJ5_newLength_6 ?_
  refine h_topi (nI_add _ _) ?_
  refine lv_istore_n (lv' := [(3, _), (0, _), (1, _), (2, _)]) S.1 S.2.1 dJ5_newLength_7 rfl hl (by decide) rfl (fun ls hl => ?_)
  refine lv_iconst (v := 0) S.1 S.2.1 dJ5_newLength_8 (by decide) ?_
  refine lv_iload_n S.1 S.2.1 dJ5_newLength_9 rfl (lv_at hl 0 rfl) ?_
  refine lv_icmp_ge (tgt := 21) S.1 S.2.1 dJ5_newLength_10 (by decide) (fun c_10 => ?t10) (fun c_10 => ?f10)
  case t10 =>
    exact absurd c_10 (nI_nle h0 (by omega))
  refine lv_iload_n S.1 S.2.1 dJ5_newLength_13 rfl (lv_at hl 0 rfl) ?_
  refine lv_ldc (v := 2147483639) S.1 S.2.1 S.2.2.2.1 (S.2.2.2.2 _ q220) dJ5_newLength_14 ?_
  refine lv_icmp_gt (tgt := 21) S.1 S.2.1 dJ5_newLength_16 (by decide) (fun c_16 => ?t16) (fun c_16 => ?f16)
  case t16 =>
    exact absurd c_16 (show ¬ nI 2147483639 < nI _ from nI_nlt (by omega) (by decide))
  refine lv_iload_n S.1 S.2.1 dJ5_newLength_19 rfl (lv_at hl 0 rfl) ?_
  exact (h_iret S.1 S.2.1 hr hlk hW ⟨_, rfl, rfl, rfl⟩ (Nat.le_of_ble_eq_true rfl) (Nat.le_of_ble_eq_true rfl) dJ5_newLength_20)
set_option maxHeartbeats 4000000 in
set_option maxRecDepth 100000 in
theorem m_copyOf2 (l : Launch) (g : hG) (h : hA) {d n k : Nat} {ld : hLab} {f : Nat → Option Nat} (hd : h d = some (ld, cQ g 1 n f)) (hnk : n ≤ k) (hk : k ≤ 65536)  : hMet l g yJ7_copyOf_2 cJ7_copyOf_2 4 (some (.array (.object "java/lang/Object"))) (hRm 2 1 k) h [.ref d, .int (nI k), .ref (gs g 8)] (oR fun r h' => h r = none ∧ hu h r ((0, 0), cQ g 1 k (va_cpy f (fun _ => none) 0 0 n)) = h') := by
  refine hMet_of (by decide) (Nat.le_of_ble_eq_true rfl) ?_
  intro p e s m below meth c ls S hr hlk hnm hTs hZs hW hl
  have S : CallFix p m c cJ7_copyOf_2 4 s ([.ref d, .int (nI k), .ref (gs g 8)] : List Value).toArray lw_all RJ7 := S
  have hl : lv_has ls 4 [(0, .ref d), (1, .int (nI k)), (2, .ref (gs g 8))] := hl
  refine lv_aload_n S.1 S.2.1 dJ7_copyOf_2_0 rfl (lv_at hl 2 rfl) ?_
  refine va_ldcM S.1 S.2.1 S.2.2.2.1 (S.2.2.2.2 _ q262) hTs.2.2.2.2.2.2.1 dJ7_copyOf_2_1 ?_
  refine h_acmp_ne (tgt := 13) S.1 S.2.1 dJ7_copyOf_2_3 (by decide) (fun c_3 => ?t3) (fun c_3 => ?f3)
  case t3 =>
    exact absurd rfl c_3
  refine lv_iload_n S.1 S.2.1 dJ7_copyOf_2_6 rfl (lv_at hl 1 rfl) ?_
  refine h_newO (0, 0) S hTs hW q264 dJ7_copyOf_2_7 (by omega) (Nat.le_refl _) (by show 0 + k ≤ k; omega) (fun q H hq hW => ?_)
  have hq2 : (hu h q ((0, 0), cQ g 1 k (fun _ => none))) q = some ((0, 0), cQ g 1 k (fun _ => none)) := hu_s _ _ _
  have hd2 := hu_new (x := ((0, 0), cQ g 1 k (fun _ => none))) hd hq
  obtain ⟨h2, e2⟩ : ∃ h2, h2 = hu h q ((0, 0), cQ g 1 k (fun _ => none)) := ⟨_, rfl⟩
  rw [← e2] at hW hq2 hd2
  refine lv_goto (tgt := 24) S.1 S.2.1 dJ7_copyOf_2_10 (by decide) ?_
  refine lv_astore_n (lv' := [(3, _), (0, _), (1, _), (2, _)]) S.1 S.2.1 dJ7_copyOf_2_24 rfl hl (by decide) rfl (fun ls hl => ?_)
  refine lv_aload_n S.1 S.2.1 dJ7_copyOf_2_25 rfl (lv_at hl 1 rfl) ?_
  refine lv_iconst (v := 0) S.1 S.2.1 dJ7_copyOf_2_26 (by decide) ?_
  refine lv_aload_n S.1 S.2.1 dJ7_copyOf_2_27 rfl (lv_at hl 0 rfl) ?_
  refine lv_iconst (v := 0) S.1 S.2.1 dJ7_copyOf_2_28 (by decide) ?_
  refine lv_aload_n S.1 S.2.1 dJ7_copyOf_2_29 rfl (lv_at hl 1 rfl) ?_
  refine h_alenO S hTs hW dJ7_copyOf_2_30 hd2 ?_
  refine lv_iload_n S.1 S.2.1 dJ7_copyOf_2_31 rfl (lv_at hl 2 rfl) ?_
  refine va_mmin S.1 S.2.1 (by rw [S.2.2.1]; exact hl.1.symm) S.2.2.2.1 (S.2.2.2.2 _ q265) (S.2.2.2.2 _ q266) (S.2.2.2.2 _ q79) (S.2.2.2.2 _ q267) (Nat.le_of_ble_eq_true rfl) (Nat.le_of_ble_eq_true rfl) (Nat.le_refl _) (by show 0 + k ≤ k; omega) dJ7_copyOf_2_32 ?_
  refine h_topi (x' := nI n) (by rw [nI_min n k (by omega) (by omega), Nat.min_eq_left hnk]) ?_
  refine h_copyO S hTs hW hl.1 q268 q270 q269 q81 (Nat.le_of_ble_eq_true rfl) (Nat.le_of_ble_eq_true rfl) dJ7_copyOf_2_35 (sp := 0) (dp := 0) (n := n) hd2 hq2 rfl rfl rfl (by omega) (by omega) (by omega) (by omega) (fun H locs hW => ?_)
  refine lv_aload_n S.1 S.2.1 dJ7_copyOf_2_38 rfl (lv_at hl 0 rfl) ?_
  exact (h_aret S.1 S.2.1 hr (Or.inr ⟨_, rfl⟩) hlk hW ⟨_, rfl, hq, by rw [e2, huu]⟩ (Nat.le_refl _) (by show 0 + k ≤ k; omega) dJ7_copyOf_2_39)
set_option maxHeartbeats 4000000 in
set_option maxRecDepth 100000 in
theorem m_copyOf (l : Launch) (g : hG) (h : hA) {d n k : Nat} {ld : hLab} {f : Nat → Option Nat} (hd : h d = some (ld, cQ g 1 n f)) (hnk : n ≤ k) (hk : k ≤ 65536)  : hMet l g yJ7_copyOf cJ7_copyOf 2 (some (.array (.object "java/lang/Object"))) (hRm 3 1 k) h [.ref d, .int (nI k)] (oR fun r h' => h r = none ∧ hu h r ((0, 0), cQ g 1 k (va_cpy f (fun _ => none) 0 0 n)) = h') := by
  refine hMet_of (by decide) (Nat.le_of_ble_eq_true rfl) ?_
  intro p e s m below meth c ls S hr hlk hnm hTs hZs hW hl
  have S : CallFix p m c cJ7_copyOf 2 s ([.ref d, .int (nI k)] : List Value).toArray lw_all RJ7 := S
  have hl : lv_has ls 2 [(0, .ref d), (1, .int (nI k))] := hl
  refine lv_aload_n S.1 S.2.1 dJ7_copyOf_0 rfl (lv_at hl 0 rfl) ?_
  refine lv_iload_n S.1 S.2.1 dJ7_copyOf_1 rfl (lv_at hl 1 rfl) ?_
  refine lv_aload_n S.1 S.2.1 dJ7_copyOf_2 rfl (lv_at hl 0 rfl) ?_
  refine h_getCO S hTs hW hl.1 q227 (Nat.le_of_ble_eq_true rfl) (Nat.le_of_ble_eq_true rfl) dJ7_copyOf_3 (by assumption) ?_
  refine h_kr (h_rS S hTs hZs hW hl.1 (m_copyOf2 l g h hd hnk hk) (va_cwS 3 S.2.2.2.2 (lw_S q259 q260 q80 q261) rfl rfl rfl (by decide +kernel) ⟨Nat.le_of_ble_eq_true rfl, Nat.le_of_ble_eq_true rfl⟩) rfl rfl (Nat.le_of_ble_eq_true rfl) ⟨Nat.le_refl _, by show 0 + k ≤ k; omega⟩ dJ7_copyOf_6) hW (fun r_6 h1 H locs hp hW => ?_)
  obtain ⟨hq, rfl⟩ := hp
  exact (h_aret S.1 S.2.1 hr (Or.inr ⟨_, rfl⟩) hlk hW ⟨_, rfl, hq, rfl⟩ (Nat.le_refl _) (by show 0 + k ≤ k; omega) dJ7_copyOf_9)
set_option maxHeartbeats 4000000 in
set_option maxRecDepth 100000 in
theorem m_copyOf2L (l : Launch) (g : hG) (h : hA) {d n : Nat} {ld : hLab} {es : List Nat} (hd : h d = some (ld, cQ g 1 n (fun i => es[i]?))) (hle : es.length ≤ n) (hn : n ≤ 65536)  : hMet l g yJ7_copyOf_2 cJ7_copyOf_2 4 (some (.array (.object "java/lang/Object"))) (hRm 2 1 es.length) h [.ref d, .int (nI es.length), .ref (gs g 8)] (oR fun r h' => h r = none ∧ hu h r ((0, 0), cQ g 1 es.length (fun i => es[i]?)) = h') := by
  refine hMet_of (by decide) (Nat.le_of_ble_eq_true rfl) ?_
  intro p e s m below meth c ls S hr hlk hnm hTs hZs hW hl
  have S : CallFix p m c cJ7_copyOf_2 4 s ([.ref d, .int (nI es.length), .ref (gs g 8)] : List Value).toArray lw_all RJ7 := S
  have hl : lv_has ls 4 [(0, .ref d), (1, .int (nI es.length)), (2, .ref (gs g 8))] := hl
  refine lv_aload_n S.1 S.2.1 dJ7_copyOf_2_0 rfl (lv_at hl 2 rfl) ?_
  refine va_ldcM S.1 S.2.1 S.2.2.2.1 (S.2.2.2.2 _ q262) hTs.2.2.2.2.2.2.1 dJ7_copyOf_2_1 ?_
  refine h_acmp_ne (tgt := 13) S.1 S.2.1 dJ7_copyOf_2_3 (by decide) (fun c_3 => ?t3) (fun c_3 => ?f3)
  case t3 =>
    exact absurd rfl c_3
  refine lv_iload_n S.1 S.2.1 dJ7_copyOf_2_6 rfl (lv_at hl 1 rfl) ?_
  refine h_newO (0, 0) S hTs hW q264 dJ7_copyOf_2_7 (by omega) (Nat.le_refl _) (by show 0 + es.length ≤ es.length; omega) (fun q H hq hW => ?_)
  have hq2 : (hu h q ((0, 0), cQ g 1 es.length (fun _ => none))) q = some ((0, 0), cQ g 1 es.length (fun _ => none)) := hu_s _ _ _
  have hd2 := hu_new (x := ((0, 0), cQ g 1 es.length (fun _ => none))) hd hq
  obtain ⟨h2, e2⟩ : ∃ h2, h2 = hu h q ((0, 0), cQ g 1 es.length (fun _ => none)) := ⟨_, rfl⟩
  rw [← e2] at hW hq2 hd2
  refine lv_goto (tgt := 24) S.1 S.2.1 dJ7_copyOf_2_10 (by decide) ?_
  refine lv_astore_n (lv' := [(3, _), (0, _), (1, _), (2, _)]) S.1 S.2.1 dJ7_copyOf_2_24 rfl hl (by decide) rfl (fun ls hl => ?_)
  refine lv_aload_n S.1 S.2.1 dJ7_copyOf_2_25 rfl (lv_at hl 1 rfl) ?_
  refine lv_iconst (v := 0) S.1 S.2.1 dJ7_copyOf_2_26 (by decide) ?_
  refine lv_aload_n S.1 S.2.1 dJ7_copyOf_2_27 rfl (lv_at hl 0 rfl) ?_
  refine lv_iconst (v := 0) S.1 S.2.1 dJ7_copyOf_2_28 (by decide) ?_
  refine lv_aload_n S.1 S.2.1 dJ7_copyOf_2_29 rfl (lv_at hl 1 rfl) ?_
  refine h_alenO S hTs hW dJ7_copyOf_2_30 hd2 ?_
  refine lv_iload_n S.1 S.2.1 dJ7_copyOf_2_31 rfl (lv_at hl 2 rfl) ?_
  refine va_mmin S.1 S.2.1 (by rw [S.2.2.1]; exact hl.1.symm) S.2.2.2.1 (S.2.2.2.2 _ q265) (S.2.2.2.2 _ q266) (S.2.2.2.2 _ q79) (S.2.2.2.2 _ q267) (Nat.le_of_ble_eq_true rfl) (Nat.le_of_ble_eq_true rfl) (Nat.le_refl _) (by show 0 + es.length ≤ es.length; omega) dJ7_copyOf_2_32 ?_
  refine h_topi (x' := nI es.length) (by rw [nI_min n es.length (by omega) (by omega), Nat.min_eq_right hle]) ?_
  refine h_copyO S hTs hW hl.1 q268 q270 q269 q81 (Nat.le_of_ble_eq_true rfl) (Nat.le_of_ble_eq_true rfl) dJ7_copyOf_2_35 (sp := 0) (dp := 0) (n := es.length) hd2 hq2 rfl rfl rfl (by omega) (by omega) (by omega) (by omega) (fun H locs hW => ?_)
  refine lv_aload_n S.1 S.2.1 dJ7_copyOf_2_38 rfl (lv_at hl 0 rfl) ?_
  exact (h_aret S.1 S.2.1 hr (Or.inr ⟨_, rfl⟩) hlk hW ⟨_, rfl, hq, by rw [e2, huu, show va_cpy (fun i => es[i]?) (fun _ => none) 0 0 es.length = (fun i => es[i]?) from funext fun i => list_cpy (Nat.le_refl _)]⟩ (Nat.le_refl _) (by show 0 + es.length ≤ es.length; omega) dJ7_copyOf_2_39)
set_option maxHeartbeats 4000000 in
set_option maxRecDepth 100000 in
theorem m_copyOfL (l : Launch) (g : hG) (h : hA) {d n : Nat} {ld : hLab} {es : List Nat} (hd : h d = some (ld, cQ g 1 n (fun i => es[i]?))) (hle : es.length ≤ n) (hn : n ≤ 65536)  : hMet l g yJ7_copyOf cJ7_copyOf 2 (some (.array (.object "java/lang/Object"))) (hRm 3 1 es.length) h [.ref d, .int (nI es.length)] (oR fun r h' => h r = none ∧ hu h r ((0, 0), cQ g 1 es.length (fun i => es[i]?)) = h') := by
  refine hMet_of (by decide) (Nat.le_of_ble_eq_true rfl) ?_
  intro p e s m below meth c ls S hr hlk hnm hTs hZs hW hl
  have S : CallFix p m c cJ7_copyOf 2 s ([.ref d, .int (nI es.length)] : List Value).toArray lw_all RJ7 := S
  have hl : lv_has ls 2 [(0, .ref d), (1, .int (nI es.length))] := hl
  refine lv_aload_n S.1 S.2.1 dJ7_copyOf_0 rfl (lv_at hl 0 rfl) ?_
  refine lv_iload_n S.1 S.2.1 dJ7_copyOf_1 rfl (lv_at hl 1 rfl) ?_
  refine lv_aload_n S.1 S.2.1 dJ7_copyOf_2 rfl (lv_at hl 0 rfl) ?_
  refine h_getCO S hTs hW hl.1 q227 (Nat.le_of_ble_eq_true rfl) (Nat.le_of_ble_eq_true rfl) dJ7_copyOf_3 (by assumption) ?_
  refine h_kr (h_rS S hTs hZs hW hl.1 (m_copyOf2L l g h hd hle hn) (va_cwS 3 S.2.2.2.2 (lw_S q259 q260 q80 q261) rfl rfl rfl (by decide +kernel) ⟨Nat.le_of_ble_eq_true rfl, Nat.le_of_ble_eq_true rfl⟩) rfl rfl (Nat.le_of_ble_eq_true rfl) ⟨Nat.le_refl _, by show 0 + es.length ≤ es.length; omega⟩ dJ7_copyOf_6) hW (fun r_6 h1 H locs hp hW => ?_)
  obtain ⟨hq, rfl⟩ := hp
  exact (h_aret S.1 S.2.1 hr (Or.inr ⟨_, rfl⟩) hlk hW ⟨_, rfl, hq, rfl⟩ (Nat.le_refl _) (by show 0 + es.length ≤ es.length; omega) dJ7_copyOf_9)
set_option maxHeartbeats 4000000 in
set_option maxRecDepth 100000 in
theorem m_grow2 (l : Launch) (g : hG) (h : hA) {a d n cap : Nat} {lab ld : hLab} {mo : Int32} {f : Nat → Option Nat} (ha : h a = some (lab, cO 0 [.int mo, .ref d, .int (nI n)])) (hd : h d = some (ld, cQ g 1 cap f)) (hc : 0 < cap) {k : Nat} (hk : cap < k) (hm : (cap + max (k - cap) (cap / 2)) ≤ 60000)  : hMet l g yJ2_grow_2 cJ2_grow_2 4 (some (.array (.object "java/lang/Object"))) (hRm 4 1 (cap + max (k - cap) (cap / 2))) h [.ref a, .int (nI k)] (oR fun r h' => h r = none ∧ hu (hu h r ((0, 0), cQ g 1 (cap + max (k - cap) (cap / 2)) (va_cpy f (fun _ => none) 0 0 cap))) a (lab, cO 0 [.int mo, .ref r, .int (nI n)]) = h') := by
  refine hMet_of (by decide) (Nat.le_of_ble_eq_true rfl) ?_
  intro p e s m below meth c ls S hr hlk hnm hTs hZs hW hl
  have S : CallFix p m c cJ2_grow_2 4 s ([.ref a, .int (nI k)] : List Value).toArray lw_all RJ2 := S
  have hl : lv_has ls 4 [(0, .ref a), (1, .int (nI k))] := hl
  refine lv_aload_n S.1 S.2.1 dJ2_grow_2_0 rfl (lv_at hl 0 rfl) ?_
  refine h_get (ci := 0) (C := RJ2) (T := TJ2) (N := 3) S hTs hW in_J2 rfl 1 (by decide) q137 (fun _ h => h) dJ2_grow_2_1 (by assumption) (by rfl) ?_
  refine h_alenO S hTs hW dJ2_grow_2_4 hd ?_
  refine lv_istore_n (lv' := [(2, _), (0, _), (1, _)]) S.1 S.2.1 dJ2_grow_2_5 rfl hl (by decide) rfl (fun ls hl => ?_)
  refine lv_iload_n S.1 S.2.1 dJ2_grow_2_6 rfl (lv_at hl 0 rfl) ?_
  refine lv_if_gt (tgt := 20) S.1 S.2.1 dJ2_grow_2_7 (by decide) (fun c_7 => ?t7) (fun c_7 => ?f7)
  case t7 =>
    refine lv_iload_n S.1 S.2.1 dJ2_grow_2_20 rfl (lv_at hl 0 rfl) ?_
    refine lv_iload_n S.1 S.2.1 dJ2_grow_2_21 rfl (lv_at hl 2 rfl) ?_
    refine lv_iload_n S.1 S.2.1 dJ2_grow_2_22 rfl (lv_at hl 0 rfl) ?_
    refine lv_isub S.1 S.2.1 dJ2_grow_2_23 ?_
    refine h_topi (pk_sub (by omega)) ?_
    refine lv_iload_n S.1 S.2.1 dJ2_grow_2_24 rfl (lv_at hl 0 rfl) ?_
    refine lv_iconst (v := 1) S.1 S.2.1 dJ2_grow_2_25 (by decide) ?_
    refine lv_ishr S.1 S.2.1 dJ2_grow_2_26 ?_
    refine h_topi (x' := nI (cap / 2)) (by have k9 := pk_shrN (n := cap) (by omega) ((1 : Int32) &&& 31) 1 (by decide); rwa [Nat.pow_one] at k9) ?_
    refine h_ki (h_rS S hTs hZs hW hl.1 (m_newLength l g h (x := cap) (y := k - cap) (z := cap / 2) (by omega) (by omega)) (va_cwS 3 S.2.2.2.2 (lw_S q214 q215 q78 q216) rfl rfl rfl (by decide +kernel) ⟨Nat.le_of_ble_eq_true rfl, Nat.le_of_ble_eq_true rfl⟩) rfl rfl (Nat.le_of_ble_eq_true rfl) ⟨Nat.zero_le _, Nat.zero_le _⟩ dJ2_grow_2_27) hW (fun r_27 h1 H locs hp hW => ?_)
    obtain ⟨rfl, rfl⟩ := hp
    refine lv_istore_n (lv' := [(3, _), (2, _), (0, _), (1, _)]) S.1 S.2.1 dJ2_grow_2_30 rfl hl (by decide) rfl (fun ls hl => ?_)
    refine lv_aload_n S.1 S.2.1 dJ2_grow_2_31 rfl (lv_at hl 2 rfl) ?_
    refine lv_aload_n S.1 S.2.1 dJ2_grow_2_32 rfl (lv_at hl 2 rfl) ?_
    refine h_get (ci := 0) (C := RJ2) (T := TJ2) (N := 3) S hTs hW in_J2 rfl 1 (by decide) q137 (fun _ h => h) dJ2_grow_2_33 (by assumption) (by rfl) ?_
    refine lv_iload_n S.1 S.2.1 dJ2_grow_2_36 rfl (lv_at hl 0 rfl) ?_
    refine h_kr (h_rS S hTs hZs hW hl.1 (m_copyOf l g h (k := (cap + max (k - cap) (cap / 2))) hd (by omega) (by omega)) (va_cwS 2 S.2.2.2.2 (lw_S q224 q225 q80 q226) rfl rfl rfl (by decide +kernel) ⟨Nat.le_of_ble_eq_true rfl, Nat.le_of_ble_eq_true rfl⟩) rfl rfl (Nat.le_of_ble_eq_true rfl) ⟨Nat.le_refl _, by show 0 + 0 + (cap + max (k - cap) (cap / 2)) ≤ (cap + max (k - cap) (cap / 2)); omega⟩ dJ2_grow_2_37) hW (fun q h1 H locs hp hW => ?_)
    obtain ⟨hq, rfl⟩ := hp
    refine lv_dup_x1 S.1 S.2.1 dJ2_grow_2_40 rfl rfl ?_
    refine h_put (ci := 0) (C := RJ2) (T := TJ2) (N := 3) S hTs hW in_J2 tyJ2 tyJ2_ok nmJ2 rfl 1 (by decide) q137 (fun _ h => h) rfl dJ2_grow_2_41 (hu_new ha hq) (by exact Nat.le_of_ble_eq_true rfl) rfl rfl (fun H locs hW => ?_)
    exact (h_aret S.1 S.2.1 hr (Or.inr ⟨_, rfl⟩) hlk hW ⟨_, rfl, hq, rfl⟩ (Nat.le_refl _) (by show 0 + 0 + (cap + max (k - cap) (cap / 2)) ≤ (cap + max (k - cap) (cap / 2)); omega) dJ2_grow_2_44)
  exact absurd (show (0 : Int32) < nI cap from nI_lt (a := 0) hc (by omega)) c_7
set_option maxHeartbeats 4000000 in
set_option maxRecDepth 100000 in
theorem m_grow2z (l : Launch) (g : hG) (h : hA) {a : Nat} {lab : hLab} {mo : Int32} (ha : h a = some (lab, cO 0 [.int mo, .ref (gs g 0), .int 0])) {k : Nat} (hk : k ≤ 60000)  : hMet l g yJ2_grow_2 cJ2_grow_2 4 (some (.array (.object "java/lang/Object"))) (hRm 4 1 (max 10 k)) h [.ref a, .int (nI k)] (oR fun r h' => h r = none ∧ hu (hu h r ((0, 0), cQ g 1 (max 10 k) (fun _ => none))) a (lab, cO 0 [.int mo, .ref r, .int 0]) = h') := by
  refine hMet_of (by decide) (Nat.le_of_ble_eq_true rfl) ?_
  intro p e s m below meth c ls S hr hlk hnm hTs hZs hW hl
  have S : CallFix p m c cJ2_grow_2 4 s ([.ref a, .int (nI k)] : List Value).toArray lw_all RJ2 := S
  have hl : lv_has ls 4 [(0, .ref a), (1, .int (nI k))] := hl
  refine lv_aload_n S.1 S.2.1 dJ2_grow_2_0 rfl (lv_at hl 0 rfl) ?_
  refine h_get (ci := 0) (C := RJ2) (T := TJ2) (N := 3) S hTs hW in_J2 rfl 1 (by decide) q137 (fun _ h => h) dJ2_grow_2_1 (by assumption) (by rfl) ?_
  refine va_tlen (v := 0) S.1 S.2.1 hZs.2.1 hW.2 rfl dJ2_grow_2_4 ?_
  refine lv_istore_n (lv' := [(2, _), (0, _), (1, _)]) S.1 S.2.1 dJ2_grow_2_5 rfl hl (by decide) rfl (fun ls hl => ?_)
  refine lv_iload_n S.1 S.2.1 dJ2_grow_2_6 rfl (lv_at hl 0 rfl) ?_
  refine lv_if_gt (tgt := 20) S.1 S.2.1 dJ2_grow_2_7 (by decide) (fun c_7 => ?t7) (fun c_7 => ?f7)
  case t7 =>
    exact absurd c_7 (by decide)
  refine lv_aload_n S.1 S.2.1 dJ2_grow_2_10 rfl (lv_at hl 1 rfl) ?_
  refine h_get (ci := 0) (C := RJ2) (T := TJ2) (N := 3) S hTs hW in_J2 rfl 1 (by decide) q137 (fun _ h => h) dJ2_grow_2_11 (by assumption) (by rfl) ?_
  refine va_gets S.1 S.2.1 hZs.1 hW.2 S.2.2.2.1 (S.2.2.2.2 _ q135) (fun _ h => h) dJ2_grow_2_14 ?_
  refine h_acmp_eq (tgt := 45) S.1 S.2.1 dJ2_grow_2_17 (by decide) (fun c_17 => ?t17) (fun c_17 => ?f17)
  case t17 =>
    refine lv_aload_n S.1 S.2.1 dJ2_grow_2_45 rfl (lv_at hl 1 rfl) ?_
    refine lv_bipush (v := 10) S.1 S.2.1 dJ2_grow_2_46 (by decide) ?_
    refine lv_iload_n S.1 S.2.1 dJ2_grow_2_48 rfl (lv_at hl 2 rfl) ?_
    refine va_mmax S.1 S.2.1 (by rw [S.2.2.1]; exact hl.1.symm) S.2.2.2.1 (S.2.2.2.2 _ q271) (S.2.2.2.2 _ q218) (S.2.2.2.2 _ q79) (S.2.2.2.2 _ q219) (Nat.le_of_ble_eq_true rfl) (Nat.le_of_ble_eq_true rfl) (Nat.zero_le _) (Nat.zero_le _) dJ2_grow_2_49 ?_
    refine h_topi (x' := nI (max 10 k)) (nI_max 10 k (by omega) (by omega)) ?_
    refine h_newO (0, 0) S hTs hW q272 dJ2_grow_2_52 (by omega) (Nat.le_refl _) (by show 0 + max 10 k ≤ max 10 k; omega) (fun q H hq hW => ?_)
    refine lv_dup_x1 S.1 S.2.1 dJ2_grow_2_55 rfl rfl ?_
    refine h_put (ci := 0) (C := RJ2) (T := TJ2) (N := 3) S hTs hW in_J2 tyJ2 tyJ2_ok nmJ2 rfl 1 (by decide) q137 (fun _ h => h) rfl dJ2_grow_2_56 (hu_new ha hq) (by exact Nat.le_of_ble_eq_true rfl) rfl rfl (fun H locs hW => ?_)
    exact (h_aret S.1 S.2.1 hr (Or.inr ⟨_, rfl⟩) hlk hW ⟨_, rfl, hq, rfl⟩ (Nat.le_refl _) (by show 0 + max 10 k ≤ max 10 k; omega) dJ2_grow_2_59)
  exact absurd rfl c_17
set_option maxHeartbeats 4000000 in
set_option maxRecDepth 100000 in
theorem m_grow (l : Launch) (g : hG) (h : hA) {a d n cap : Nat} {lab ld : hLab} {mo : Int32} {f : Nat → Option Nat} (ha : h a = some (lab, cO 0 [.int mo, .ref d, .int (nI n)])) (hd : h d = some (ld, cQ g 1 cap f)) (hc : 0 < cap) (hk : n = cap) (hm : (cap + max (n + 1 - cap) (cap / 2)) ≤ 60000)  : hMet l g yJ2_grow cJ2_grow 1 (some (.array (.object "java/lang/Object"))) (hRm 5 1 (cap + max (n + 1 - cap) (cap / 2))) h [.ref a] (oR fun r h' => h r = none ∧ hu (hu h r ((0, 0), cQ g 1 (cap + max (n + 1 - cap) (cap / 2)) (va_cpy f (fun _ => none) 0 0 cap))) a (lab, cO 0 [.int mo, .ref r, .int (nI n)]) = h') := by
  refine hMet_of (by decide) (Nat.le_of_ble_eq_true rfl) ?_
  intro p e s m below meth c ls S hr hlk hnm hTs hZs hW hl
  have S : CallFix p m c cJ2_grow 1 s ([.ref a] : List Value).toArray lw_all RJ2 := S
  have hl : lv_has ls 1 [(0, .ref a)] := hl
  refine lv_aload_n S.1 S.2.1 dJ2_grow_0 rfl (lv_at hl 0 rfl) ?_
  refine lv_aload_n S.1 S.2.1 dJ2_grow_1 rfl (lv_at hl 0 rfl) ?_
  refine h_get (ci := 0) (C := RJ2) (T := TJ2) (N := 3) S hTs hW in_J2 rfl 2 (by decide) q140 (fun _ h => h) dJ2_grow_2 (by assumption) (by rfl) ?_
  refine lv_iconst (v := 1) S.1 S.2.1 dJ2_grow_5 (by decide) ?_
  refine lv_iadd S.1 S.2.1 dJ2_grow_6 ?_
  refine h_topi (nI_1 n) ?_
  refine h_kr (h_rV S hTs hZs hW hl.1 (m_grow2 l g h ha hd hc (k := n + 1) (by omega) hm) (cwV 1 S.2.2.2.2 (lw_V q210 q212 qs2 q73 q213) rfl rfl rfl (by decide +kernel) ⟨Nat.le_of_ble_eq_true rfl, Nat.le_of_ble_eq_true rfl⟩) (h_recv (ci := 0) hTs hW ha rfl) rfl rfl (Nat.le_of_ble_eq_true rfl) ⟨Nat.le_refl _, by show 0 + (cap + max (n + 1 - cap) (cap / 2)) ≤ (cap + max (n + 1 - cap) (cap / 2)); omega⟩ dJ2_grow_7) hW (fun q h1 H locs hp hW => ?_)
  obtain ⟨hq, rfl⟩ := hp
  exact (h_aret S.1 S.2.1 hr (Or.inr ⟨_, rfl⟩) hlk hW ⟨_, rfl, hq, rfl⟩ (Nat.le_refl _) (by show 0 + (cap + max (n + 1 - cap) (cap / 2)) ≤ (cap + max (n + 1 - cap) (cap / 2)); omega) dJ2_grow_10)
set_option maxHeartbeats 4000000 in
set_option maxRecDepth 100000 in
theorem m_growz (l : Launch) (g : hG) (h : hA) {a : Nat} {lab : hLab} {mo : Int32} (ha : h a = some (lab, cO 0 [.int mo, .ref (gs g 0), .int 0]))  : hMet l g yJ2_grow cJ2_grow 1 (some (.array (.object "java/lang/Object"))) (hRm 5 1 10) h [.ref a] (oR fun r h' => h r = none ∧ hu (hu h r ((0, 0), cQ g 1 10 (fun _ => none))) a (lab, cO 0 [.int mo, .ref r, .int 0]) = h') := by
  refine hMet_of (by decide) (Nat.le_of_ble_eq_true rfl) ?_
  intro p e s m below meth c ls S hr hlk hnm hTs hZs hW hl
  have S : CallFix p m c cJ2_grow 1 s ([.ref a] : List Value).toArray lw_all RJ2 := S
  have hl : lv_has ls 1 [(0, .ref a)] := hl
  refine lv_aload_n S.1 S.2.1 dJ2_grow_0 rfl (lv_at hl 0 rfl) ?_
  refine lv_aload_n S.1 S.2.1 dJ2_grow_1 rfl (lv_at hl 0 rfl) ?_
  refine h_get (ci := 0) (C := RJ2) (T := TJ2) (N := 3) S hTs hW in_J2 rfl 2 (by decide) q140 (fun _ h => h) dJ2_grow_2 (by assumption) (by rfl) ?_
  refine lv_iconst (v := 1) S.1 S.2.1 dJ2_grow_5 (by decide) ?_
  refine lv_iadd S.1 S.2.1 dJ2_grow_6 ?_
  refine h_topi (x' := nI 1) rfl ?_
  refine h_kr (h_rV S hTs hZs hW hl.1 (m_grow2z l g h ha (k := 1) (by omega)) (cwV 1 S.2.2.2.2 (lw_V q210 q212 qs2 q73 q213) rfl rfl rfl (by decide +kernel) ⟨Nat.le_of_ble_eq_true rfl, Nat.le_of_ble_eq_true rfl⟩) (h_recv (ci := 0) hTs hW ha rfl) rfl rfl (Nat.le_of_ble_eq_true rfl) ⟨Nat.le_of_ble_eq_true rfl, Nat.le_of_ble_eq_true rfl⟩ dJ2_grow_7) hW (fun q h1 H locs hp hW => ?_)
  obtain ⟨hq, rfl⟩ := hp
  exact (h_aret S.1 S.2.1 hr (Or.inr ⟨_, rfl⟩) hlk hW ⟨_, rfl, hq, rfl⟩ (Nat.le_of_ble_eq_true rfl) (Nat.le_of_ble_eq_true rfl) dJ2_grow_10)
set_option maxHeartbeats 4000000 in
set_option maxRecDepth 100000 in
theorem m_add2 (l : Launch) (g : hG) (h : hA) {a d n cap : Nat} {lab ld : hLab} {mo : Int32} {f : Nat → Option Nat} (ha : h a = some (lab, cO 0 [.int mo, .ref d, .int (nI n)])) (hd : h d = some (ld, cQ g 1 cap f)) (hc : 0 < cap) {x : Nat} (hx : hObj g h x) (hn : n < cap) (hcap : cap ≤ 65536) (hda : d ≠ a)  : hMet l g yJ2_add_2 cJ2_add_2 4 none (hRm 6 0 0) h [.ref a, .ref x, .ref d, .int (nI n)] (oV fun h' => hu (hu h d (ld, cQ g 1 cap (va_up f n (some x)))) a (lab, cO 0 [.int mo, .ref d, .int (nI (n + 1))]) = h') := by
  refine hMet_of (by decide) (Nat.le_of_ble_eq_true rfl) ?_
  intro p e s m below meth c ls S hr hlk hnm hTs hZs hW hl
  have S : CallFix p m c cJ2_add_2 4 s ([.ref a, .ref x, .ref d, .int (nI n)] : List Value).toArray lw_all RJ2 := S
  have hl : lv_has ls 4 [(0, .ref a), (1, .ref x), (2, .ref d), (3, .int (nI n))] := hl
  refine lv_iload_n S.1 S.2.1 dJ2_add_2_0 rfl (lv_at hl 3 rfl) ?_
  refine lv_aload_n S.1 S.2.1 dJ2_add_2_1 rfl (lv_at hl 2 rfl) ?_
  refine h_alenO S hTs hW dJ2_add_2_2 hd ?_
  refine lv_icmp_ne (tgt := 11) S.1 S.2.1 dJ2_add_2_3 (by decide) (fun c_3 => ?t3) (fun c_3 => ?f3)
  case f3 =>
    exact absurd ((nI_eq (by omega) (by omega)).mp c_3) (by omega)
  refine lv_aload_n S.1 S.2.1 dJ2_add_2_11 rfl (lv_at hl 2 rfl) ?_
  refine lv_iload_n S.1 S.2.1 dJ2_add_2_12 rfl (lv_at hl 3 rfl) ?_
  refine lv_aload_n S.1 S.2.1 dJ2_add_2_13 rfl (lv_at hl 1 rfl) ?_
  refine h_astO S hTs hW dJ2_add_2_14 hd (by omega) (by omega) (hObj.el hTs hZs hW hx) (fun H locs hW => ?_)
  refine lv_aload_n S.1 S.2.1 dJ2_add_2_15 rfl (lv_at hl 0 rfl) ?_
  refine lv_iload_n S.1 S.2.1 dJ2_add_2_16 rfl (lv_at hl 3 rfl) ?_
  refine lv_iconst (v := 1) S.1 S.2.1 dJ2_add_2_17 (by decide) ?_
  refine lv_iadd S.1 S.2.1 dJ2_add_2_18 ?_
  refine h_topi (nI_1 n) ?_
  refine h_put (ci := 0) (C := RJ2) (T := TJ2) (N := 3) S hTs hW in_J2 tyJ2 tyJ2_ok nmJ2 rfl 2 (by decide) q140 (fun _ h => h) rfl dJ2_add_2_19 ((hu_n hda.symm).trans ha) (by exact Nat.le_of_ble_eq_true rfl) rfl rfl (fun H locs hW => ?_)
  exact (h_vret S.1 S.2.1 hr hlk hW ⟨rfl, rfl⟩ (Nat.le_of_ble_eq_true rfl) (Nat.le_of_ble_eq_true rfl) dJ2_add_2_22)
set_option maxHeartbeats 4000000 in
set_option maxRecDepth 100000 in
theorem m_add2g (l : Launch) (g : hG) (h : hA) {a d n cap : Nat} {lab ld : hLab} {mo : Int32} {f : Nat → Option Nat} (ha : h a = some (lab, cO 0 [.int mo, .ref d, .int (nI n)])) (hd : h d = some (ld, cQ g 1 cap f)) (hc : 0 < cap) {x : Nat} (hx : hObj g h x) (hn : n = cap) (hm : (cap + max (n + 1 - cap) (cap / 2)) ≤ 60000) (hda : d ≠ a)  : hMet l g yJ2_add_2 cJ2_add_2 4 none (hRm 6 1 (cap + max (n + 1 - cap) (cap / 2))) h [.ref a, .ref x, .ref d, .int (nI n)] (oV fun h' => ∃ q, h q = none ∧ hu (hu h q ((0, 0), cQ g 1 (cap + max (n + 1 - cap) (cap / 2)) (va_up (va_cpy f (fun _ => none) 0 0 cap) n (some x)))) a (lab, cO 0 [.int mo, .ref q, .int (nI (n + 1))]) = h') := by
  refine hMet_of (by decide) (Nat.le_of_ble_eq_true rfl) ?_
  intro p e s m below meth c ls S hr hlk hnm hTs hZs hW hl
  have S : CallFix p m c cJ2_add_2 4 s ([.ref a, .ref x, .ref d, .int (nI n)] : List Value).toArray lw_all RJ2 := S
  have hl : lv_has ls 4 [(0, .ref a), (1, .ref x), (2, .ref d), (3, .int (nI n))] := hl
  refine lv_iload_n S.1 S.2.1 dJ2_add_2_0 rfl (lv_at hl 3 rfl) ?_
  refine lv_aload_n S.1 S.2.1 dJ2_add_2_1 rfl (lv_at hl 2 rfl) ?_
  refine h_alenO S hTs hW dJ2_add_2_2 hd ?_
  refine lv_icmp_ne (tgt := 11) S.1 S.2.1 dJ2_add_2_3 (by decide) (fun c_3 => ?t3) (fun c_3 => ?f3)
  case t3 =>
    exact absurd (by rw [hn]) c_3
  refine lv_aload_n S.1 S.2.1 dJ2_add_2_6 rfl (lv_at hl 0 rfl) ?_
  refine h_kr (h_rV S hTs hZs hW hl.1 (m_grow l g h ha hd hc hn hm) (cwV 0 S.2.2.2.2 (lw_V q206 q208 qs1 q73 q209) rfl rfl rfl (by decide +kernel) ⟨Nat.le_of_ble_eq_true rfl, Nat.le_of_ble_eq_true rfl⟩) (h_recv (ci := 0) hTs hW ha rfl) rfl rfl (Nat.le_of_ble_eq_true rfl) ⟨Nat.le_refl _, by show 0 + (cap + max (n + 1 - cap) (cap / 2)) ≤ (cap + max (n + 1 - cap) (cap / 2)); omega⟩ dJ2_add_2_7) hW (fun q h1 H locs hp hW => ?_)
  obtain ⟨hq, rfl⟩ := hp
  have hqa : q ≠ a := fun e => by rw [e, ha] at hq; cases hq
  refine lv_astore_n (lv' := [(2, _), (0, _), (1, _), (3, _)]) S.1 S.2.1 dJ2_add_2_10 rfl hl (by decide) rfl (fun ls hl => ?_)
  refine lv_aload_n S.1 S.2.1 dJ2_add_2_11 rfl (lv_at hl 0 rfl) ?_
  refine lv_iload_n S.1 S.2.1 dJ2_add_2_12 rfl (lv_at hl 3 rfl) ?_
  refine lv_aload_n S.1 S.2.1 dJ2_add_2_13 rfl (lv_at hl 2 rfl) ?_
  refine h_astO S hTs hW dJ2_add_2_14 ((hu_n hqa).trans (hu_s _ _ _)) (by omega) (by omega) (hObj.el hTs hZs hW ((hx.new hq).put (hu_new ha hq))) (fun H locs hW => ?_)
  refine lv_aload_n S.1 S.2.1 dJ2_add_2_15 rfl (lv_at hl 1 rfl) ?_
  refine lv_iload_n S.1 S.2.1 dJ2_add_2_16 rfl (lv_at hl 3 rfl) ?_
  refine lv_iconst (v := 1) S.1 S.2.1 dJ2_add_2_17 (by decide) ?_
  refine lv_iadd S.1 S.2.1 dJ2_add_2_18 ?_
  refine h_topi (nI_1 n) ?_
  refine h_put (ci := 0) (C := RJ2) (T := TJ2) (N := 3) S hTs hW in_J2 tyJ2 tyJ2_ok nmJ2 rfl 2 (by decide) q140 (fun _ h => h) rfl dJ2_add_2_19 ((hu_n hqa.symm).trans (hu_s _ _ _)) (by exact Nat.le_of_ble_eq_true rfl) rfl rfl (fun H locs hW => ?_)
  exact (h_vret S.1 S.2.1 hr hlk hW ⟨rfl, q, hq, by (show _ = hu (hu (hu (hu h q _) a _) q _) a (lab, cO 0 [.int mo, .ref q, .int (nI (n + 1))]); rw [hu_comm (hu h q _) hqa.symm, huu, huu])⟩ (Nat.le_refl _) (by show 0 + (cap + max (n + 1 - cap) (cap / 2)) ≤ (cap + max (n + 1 - cap) (cap / 2)); omega) dJ2_add_2_22)
set_option maxHeartbeats 4000000 in
set_option maxRecDepth 100000 in
theorem m_add2z (l : Launch) (g : hG) (h : hA) {a : Nat} {lab : hLab} {mo : Int32} (ha : h a = some (lab, cO 0 [.int mo, .ref (gs g 0), .int 0])) {x : Nat} (hx : hObj g h x) {ld : hLab}  : hMet l g yJ2_add_2 cJ2_add_2 4 none (hRm 6 1 10) h [.ref a, .ref x, .ref (gs g 0), .int 0] (oV fun h' => ∃ q, h q = none ∧ hu (hu h q ((0, 0), cQ g 1 10 (va_up (fun _ => none) 0 (some x)))) a (lab, cO 0 [.int mo, .ref q, .int 1]) = h') := by
  refine hMet_of (by decide) (Nat.le_of_ble_eq_true rfl) ?_
  intro p e s m below meth c ls S hr hlk hnm hTs hZs hW hl
  have S : CallFix p m c cJ2_add_2 4 s ([.ref a, .ref x, .ref (gs g 0), .int 0] : List Value).toArray lw_all RJ2 := S
  have hl : lv_has ls 4 [(0, .ref a), (1, .ref x), (2, .ref (gs g 0)), (3, .int 0)] := hl
  refine lv_iload_n S.1 S.2.1 dJ2_add_2_0 rfl (lv_at hl 3 rfl) ?_
  refine lv_aload_n S.1 S.2.1 dJ2_add_2_1 rfl (lv_at hl 2 rfl) ?_
  refine va_tlen (v := 0) S.1 S.2.1 hZs.2.1 hW.2 rfl dJ2_add_2_2 ?_
  refine lv_icmp_ne (tgt := 11) S.1 S.2.1 dJ2_add_2_3 (by decide) (fun c_3 => ?t3) (fun c_3 => ?f3)
  case t3 =>
    exact absurd rfl c_3
  refine lv_aload_n S.1 S.2.1 dJ2_add_2_6 rfl (lv_at hl 0 rfl) ?_
  refine h_kr (h_rV S hTs hZs hW hl.1 (m_growz l g h ha) (cwV 0 S.2.2.2.2 (lw_V q206 q208 qs1 q73 q209) rfl rfl rfl (by decide +kernel) ⟨Nat.le_of_ble_eq_true rfl, Nat.le_of_ble_eq_true rfl⟩) (h_recv (ci := 0) hTs hW ha rfl) rfl rfl (Nat.le_of_ble_eq_true rfl) ⟨Nat.le_of_ble_eq_true rfl, Nat.le_of_ble_eq_true rfl⟩ dJ2_add_2_7) hW (fun q h1 H locs hp hW => ?_)
  obtain ⟨hq, rfl⟩ := hp
  have hqa : q ≠ a := fun e => by rw [e, ha] at hq; cases hq
  refine lv_astore_n (lv' := [(2, _), (0, _), (1, _), (3, _)]) S.1 S.2.1 dJ2_add_2_10 rfl hl (by decide) rfl (fun ls hl => ?_)
  refine lv_aload_n S.1 S.2.1 dJ2_add_2_11 rfl (lv_at hl 0 rfl) ?_
  refine lv_iload_n S.1 S.2.1 dJ2_add_2_12 rfl (lv_at hl 3 rfl) ?_
  refine lv_aload_n S.1 S.2.1 dJ2_add_2_13 rfl (lv_at hl 2 rfl) ?_
  refine h_astO (j := 0) S hTs hW dJ2_add_2_14 ((hu_n hqa).trans (hu_s _ _ _)) (by omega) (by omega) (hObj.el hTs hZs hW ((hx.new hq).put (hu_new ha hq))) (fun H locs hW => ?_)
  refine lv_aload_n S.1 S.2.1 dJ2_add_2_15 rfl (lv_at hl 1 rfl) ?_
  refine lv_iload_n S.1 S.2.1 dJ2_add_2_16 rfl (lv_at hl 3 rfl) ?_
  refine lv_iconst (v := 1) S.1 S.2.1 dJ2_add_2_17 (by decide) ?_
  refine lv_iadd S.1 S.2.1 dJ2_add_2_18 ?_
  refine h_topi (x' := 1) rfl ?_
  refine h_put (ci := 0) (C := RJ2) (T := TJ2) (N := 3) S hTs hW in_J2 tyJ2 tyJ2_ok nmJ2 rfl 2 (by decide) q140 (fun _ h => h) rfl dJ2_add_2_19 ((hu_n hqa.symm).trans (hu_s _ _ _)) (by exact Nat.le_of_ble_eq_true rfl) rfl rfl (fun H locs hW => ?_)
  exact (h_vret S.1 S.2.1 hr hlk hW ⟨rfl, q, hq, by (show _ = hu (hu (hu (hu h q _) a _) q _) a (lab, cO 0 [.int mo, .ref q, .int 1]); rw [hu_comm (hu h q _) hqa.symm, huu, huu])⟩ (Nat.le_of_ble_eq_true rfl) (Nat.le_of_ble_eq_true rfl) dJ2_add_2_22)
set_option maxHeartbeats 4000000 in
set_option maxRecDepth 100000 in
theorem m_add_room (l : Launch) (g : hG) (h : hA) {a : Nat} {lab : hLab} {mo : Int32} {cap : Nat} {es : List Nat} (ha : h a = some (lab, cL mo cap es)) {x : Nat} (hx : hObj g h x) (hn : es.length < cap)  : hMet l g yJ2_add cJ2_add 2 (some .boolean) (hRm 7 0 0) h [.ref a, .ref x] (oI fun r h' => 1 = r ∧ hu h a (lab, cL (mo + 1) cap (es ++ [x])) = h') := by
  refine hMet_of (by decide) (Nat.le_of_ble_eq_true rfl) ?_
  intro p e s m below meth c ls S hr hlk hnm hTs hZs hW hl
  have S : CallFix p m c cJ2_add 2 s ([.ref a, .ref x] : List Value).toArray lw_all RJ2 := S
  have hl : lv_has ls 2 [(0, .ref a), (1, .ref x)] := hl
  obtain ⟨hle, hcap, -⟩ := hW.list ha
  have hc : 0 < cap := by omega
  obtain ⟨d, h2, hd0, hda, h2a, h2d, h2o, hW2⟩ := hW.opn2 ha hc
  have hW0 := hW
  have hW := hW2
  have hx2 := hx.opn ha hd0 h2o
  refine lv_aload_n S.1 S.2.1 dJ2_add_0 rfl (lv_at hl 0 rfl) ?_
  refine lv_dup S.1 S.2.1 dJ2_add_1 rfl ?_
  refine h_get (ci := 0) (C := RJ2) (T := TJ2) (N := 3) S hTs hW in_J2 rfl 0 (by decide) q144 (u_same (S.2.2.2.2 _ q143)) dJ2_add_2 h2a (by rfl) ?_
  refine lv_iconst (v := 1) S.1 S.2.1 dJ2_add_5 (by decide) ?_
  refine lv_iadd S.1 S.2.1 dJ2_add_6 ?_
  refine h_put (ci := 0) (C := RJ2) (T := TJ2) (N := 3) S hTs hW in_J2 tyJ2 tyJ2_ok nmJ2 rfl 0 (by decide) q144 (u_same (S.2.2.2.2 _ q143)) rfl dJ2_add_7 h2a (by exact Nat.le_of_ble_eq_true rfl) rfl rfl (fun H locs hW => ?_)
  have h3a : (hu h2 a (lab, cO 0 [.int (mo + 1), .ref d, .int (nI es.length)])) a = some (lab, cO 0 [.int (mo + 1), .ref d, .int (nI es.length)]) := hu_s _ _ _
  have h3d := (hu_n (x := (lab, cO 0 [.int (mo + 1), .ref d, .int (nI es.length)])) hda).trans h2d
  have hx3 := hx2.put (lb' := lab) (fs' := [.int (mo + 1), .ref d, .int (nI es.length)]) h2a
  refine lv_aload_n S.1 S.2.1 dJ2_add_10 rfl (lv_at hl 0 rfl) ?_
  refine lv_aload_n S.1 S.2.1 dJ2_add_11 rfl (lv_at hl 1 rfl) ?_
  refine lv_aload_n S.1 S.2.1 dJ2_add_12 rfl (lv_at hl 0 rfl) ?_
  refine h_get (ci := 0) (C := RJ2) (T := TJ2) (N := 3) S hTs hW in_J2 rfl 1 (by decide) q137 (fun _ h => h) dJ2_add_13 h3a (by rfl) ?_
  refine lv_aload_n S.1 S.2.1 dJ2_add_16 rfl (lv_at hl 0 rfl) ?_
  refine h_get (ci := 0) (C := RJ2) (T := TJ2) (N := 3) S hTs hW in_J2 rfl 2 (by decide) q140 (fun _ h => h) dJ2_add_17 h3a (by rfl) ?_
  refine h_kv (h_rV S hTs hZs hW hl.1 (m_add2 l g _ h3a h3d hc hx3 hn hcap hda) (cwV 3 S.2.2.2.2 (lw_V q202 q204 qs0 q73 q205) rfl rfl rfl (by decide +kernel) ⟨Nat.le_of_ble_eq_true rfl, Nat.le_of_ble_eq_true rfl⟩) (h_recv (ci := 0) hTs hW h3a rfl) rfl rfl (Nat.le_of_ble_eq_true rfl) ⟨Nat.le_of_ble_eq_true rfl, Nat.le_of_ble_eq_true rfl⟩ dJ2_add_20) hW (fun h1 H locs hp hW => ?_)
  subst hp
  have hW := hWd.shut (es ++ [x]) hW (hu_s _ _ _) ((hu_n hda).trans (hu_s _ _ _)) hc (by simp) (by omega) hcap (fun i _ => list_up) hd0 (fun q n1 n2 y hy => by rw [hu_n n1, hu_n n2, hu_n n1, h2o q n1 n2]; exact hy)
  refine lv_iconst (v := 1) S.1 S.2.1 dJ2_add_23 (by decide) ?_
  exact (h_zret S.1 S.2.1 hr hlk hW ⟨_, rfl, rfl, rfl⟩ (by decide) (Nat.le_of_ble_eq_true rfl) (Nat.le_of_ble_eq_true rfl) dJ2_add_24)
set_option maxHeartbeats 4000000 in
set_option maxRecDepth 100000 in
theorem m_add_grow (l : Launch) (g : hG) (h : hA) {a : Nat} {lab : hLab} {mo : Int32} {cap : Nat} {es : List Nat} (ha : h a = some (lab, cL mo cap es)) {x : Nat} (hx : hObj g h x) (hn : es.length = cap) (hc : 2 ≤ cap) (hm : cap ≤ 40000)  : hMet l g yJ2_add cJ2_add 2 (some .boolean) (hRm 7 1 (cap + cap / 2)) h [.ref a, .ref x] (oI fun r h' => 1 = r ∧ hu h a (lab, cL (mo + 1) (cap + cap / 2) (es ++ [x])) = h') := by
  refine hMet_of (by decide) (Nat.le_of_ble_eq_true rfl) ?_
  intro p e s m below meth c ls S hr hlk hnm hTs hZs hW hl
  have S : CallFix p m c cJ2_add 2 s ([.ref a, .ref x] : List Value).toArray lw_all RJ2 := S
  have hl : lv_has ls 2 [(0, .ref a), (1, .ref x)] := hl
  have hc0 : 0 < cap := by omega
  obtain ⟨hle, hcap, -⟩ := hW.list ha
  obtain ⟨d, h2, hd0, hda, h2a, h2d, h2o, hW2⟩ := hW.opn2 ha hc0
  have hW0 := hW
  have hW := hW2
  have hx2 := hx.opn ha hd0 h2o
  refine lv_aload_n S.1 S.2.1 dJ2_add_0 rfl (lv_at hl 0 rfl) ?_
  refine lv_dup S.1 S.2.1 dJ2_add_1 rfl ?_
  refine h_get (ci := 0) (C := RJ2) (T := TJ2) (N := 3) S hTs hW in_J2 rfl 0 (by decide) q144 (u_same (S.2.2.2.2 _ q143)) dJ2_add_2 h2a (by rfl) ?_
  refine lv_iconst (v := 1) S.1 S.2.1 dJ2_add_5 (by decide) ?_
  refine lv_iadd S.1 S.2.1 dJ2_add_6 ?_
  refine h_put (ci := 0) (C := RJ2) (T := TJ2) (N := 3) S hTs hW in_J2 tyJ2 tyJ2_ok nmJ2 rfl 0 (by decide) q144 (u_same (S.2.2.2.2 _ q143)) rfl dJ2_add_7 h2a (by exact Nat.le_of_ble_eq_true rfl) rfl rfl (fun H locs hW => ?_)
  have h3a : (hu h2 a (lab, cO 0 [.int (mo + 1), .ref d, .int (nI es.length)])) a = some (lab, cO 0 [.int (mo + 1), .ref d, .int (nI es.length)]) := hu_s _ _ _
  have h3d := (hu_n (x := (lab, cO 0 [.int (mo + 1), .ref d, .int (nI es.length)])) hda).trans h2d
  have hx3 := hx2.put (lb' := lab) (fs' := [.int (mo + 1), .ref d, .int (nI es.length)]) h2a
  refine lv_aload_n S.1 S.2.1 dJ2_add_10 rfl (lv_at hl 0 rfl) ?_
  refine lv_aload_n S.1 S.2.1 dJ2_add_11 rfl (lv_at hl 1 rfl) ?_
  refine lv_aload_n S.1 S.2.1 dJ2_add_12 rfl (lv_at hl 0 rfl) ?_
  refine h_get (ci := 0) (C := RJ2) (T := TJ2) (N := 3) S hTs hW in_J2 rfl 1 (by decide) q137 (fun _ h => h) dJ2_add_13 h3a (by rfl) ?_
  refine lv_aload_n S.1 S.2.1 dJ2_add_16 rfl (lv_at hl 0 rfl) ?_
  refine h_get (ci := 0) (C := RJ2) (T := TJ2) (N := 3) S hTs hW in_J2 rfl 2 (by decide) q140 (fun _ h => h) dJ2_add_17 h3a (by rfl) ?_
  refine h_kv (h_rV S hTs hZs hW hl.1 (m_add2g l g _ h3a h3d hc0 hx3 hn (by omega) hda) (cwV 3 S.2.2.2.2 (lw_V q202 q204 qs0 q73 q205) rfl rfl rfl (by decide +kernel) ⟨Nat.le_of_ble_eq_true rfl, Nat.le_of_ble_eq_true rfl⟩) (h_recv (ci := 0) hTs hW h3a rfl) rfl rfl (Nat.le_of_ble_eq_true rfl) ⟨Nat.le_refl _, by show 0 + (cap + max (es.length + 1 - cap) (cap / 2)) ≤ cap + cap / 2; omega⟩ dJ2_add_20) hW (fun h1 H locs hp hW => ?_)
  obtain ⟨q, hq, rfl⟩ := hp
  have hqa : q ≠ a := fun e => by rw [e, h3a] at hq; cases hq
  have hqd : q ≠ d := fun e => by rw [e, h3d] at hq; cases hq
  have hq0 : h q = none := by rw [← h2o q hqa hqd]; rw [hu_n hqa] at hq; exact hq
  have hN : (cap + max (es.length + 1 - cap) (cap / 2)) = cap + cap / 2 := by omega
  have hW := hWd.shut (es ++ [x]) hW (hu_s _ _ _) ((hu_n hqa).trans (hu_s _ _ _)) (by omega) (by simp) (by omega) (by omega) (fun i _ => by rw [show va_cpy (fun i => es[i]?) (fun _ => none) 0 0 cap = (fun i => es[i]?) from funext fun i => list_cpy (by omega)]; exact list_up) hq0 (fun q9 n1 n2 y hy => by rw [hu_n n1, hu_n n2, hu_n n1, h2o q9 n1 (fun e9 => by rw [e9, hd0] at hy; cases hy)]; exact hy)
  refine lv_iconst (v := 1) S.1 S.2.1 dJ2_add_23 (by decide) ?_
  exact (h_zret S.1 S.2.1 hr hlk hW ⟨_, rfl, rfl, by rw [hN]⟩ (by decide) (Nat.le_refl _) (by show 0 + (cap + max (es.length + 1 - cap) (cap / 2)) ≤ cap + cap / 2; omega) dJ2_add_24)
set_option maxHeartbeats 4000000 in
set_option maxRecDepth 100000 in
theorem m_add_first (l : Launch) (g : hG) (h : hA) {a : Nat} {lab : hLab} {mo : Int32} {es : List Nat} (ha : h a = some (lab, cL mo 0 es)) {x : Nat} (hx : hObj g h x)  : hMet l g yJ2_add cJ2_add 2 (some .boolean) (hRm 7 1 10) h [.ref a, .ref x] (oI fun r h' => 1 = r ∧ hu h a (lab, cL (mo + 1) 10 (es ++ [x])) = h') := by
  refine hMet_of (by decide) (Nat.le_of_ble_eq_true rfl) ?_
  intro p e s m below meth c ls S hr hlk hnm hTs hZs hW hl
  have S : CallFix p m c cJ2_add 2 s ([.ref a, .ref x] : List Value).toArray lw_all RJ2 := S
  have hl : lv_has ls 2 [(0, .ref a), (1, .ref x)] := hl
  obtain ⟨rfl, hW2⟩ := hW.opn0 ha
  have hW0 := hW
  have hW := hW2
  have h2a : (hu h a (lab, cO 0 [.int mo, .ref (gs g 0), .int 0])) a = some (lab, cO 0 [.int mo, .ref (gs g 0), .int 0]) := hu_s _ _ _
  have hx2 : hObj g (hu h a (lab, cO 0 [.int mo, .ref (gs g 0), .int 0])) x := hx.up fun lb e9 hl => by rw [hu_n (fun e0 => by rw [e0, ha] at hl; cases hl)]; exact hl
  refine lv_aload_n S.1 S.2.1 dJ2_add_0 rfl (lv_at hl 0 rfl) ?_
  refine lv_dup S.1 S.2.1 dJ2_add_1 rfl ?_
  refine h_get (ci := 0) (C := RJ2) (T := TJ2) (N := 3) S hTs hW in_J2 rfl 0 (by decide) q144 (u_same (S.2.2.2.2 _ q143)) dJ2_add_2 h2a (by rfl) ?_
  refine lv_iconst (v := 1) S.1 S.2.1 dJ2_add_5 (by decide) ?_
  refine lv_iadd S.1 S.2.1 dJ2_add_6 ?_
  refine h_put (ci := 0) (C := RJ2) (T := TJ2) (N := 3) S hTs hW in_J2 tyJ2 tyJ2_ok nmJ2 rfl 0 (by decide) q144 (u_same (S.2.2.2.2 _ q143)) rfl dJ2_add_7 h2a (by exact Nat.le_of_ble_eq_true rfl) rfl rfl (fun H locs hW => ?_)
  have h3a : (hu (hu h a (lab, cO 0 [.int mo, .ref (gs g 0), .int 0])) a (lab, cO 0 [.int (mo + 1), .ref (gs g 0), .int 0])) a = some (lab, cO 0 [.int (mo + 1), .ref (gs g 0), .int 0]) := hu_s _ _ _
  have hx3 := hx2.put (lb' := lab) (fs' := [.int (mo + 1), .ref (gs g 0), .int 0]) h2a
  refine lv_aload_n S.1 S.2.1 dJ2_add_10 rfl (lv_at hl 0 rfl) ?_
  refine lv_aload_n S.1 S.2.1 dJ2_add_11 rfl (lv_at hl 1 rfl) ?_
  refine lv_aload_n S.1 S.2.1 dJ2_add_12 rfl (lv_at hl 0 rfl) ?_
  refine h_get (ci := 0) (C := RJ2) (T := TJ2) (N := 3) S hTs hW in_J2 rfl 1 (by decide) q137 (fun _ h => h) dJ2_add_13 h3a (by rfl) ?_
  refine lv_aload_n S.1 S.2.1 dJ2_add_16 rfl (lv_at hl 0 rfl) ?_
  refine h_get (ci := 0) (C := RJ2) (T := TJ2) (N := 3) S hTs hW in_J2 rfl 2 (by decide) q140 (fun _ h => h) dJ2_add_17 h3a (by rfl) ?_
  refine h_kv (h_rV S hTs hZs hW hl.1 (m_add2z l g _ h3a hx3 (ld := (0, 0))) (cwV 3 S.2.2.2.2 (lw_V q202 q204 qs0 q73 q205) rfl rfl rfl (by decide +kernel) ⟨Nat.le_of_ble_eq_true rfl, Nat.le_of_ble_eq_true rfl⟩) (h_recv (ci := 0) hTs hW h3a rfl) rfl rfl (Nat.le_of_ble_eq_true rfl) ⟨Nat.le_of_ble_eq_true rfl, Nat.le_of_ble_eq_true rfl⟩ dJ2_add_20) hW (fun h1 H locs hp hW => ?_)
  obtain ⟨q, hq, rfl⟩ := hp
  have hqa : q ≠ a := fun e => by rw [e, h3a] at hq; cases hq
  have hq0 : h q = none := by rw [hu_n hqa, hu_n hqa] at hq; exact hq
  have hW := hWd.shut [x] hW (hu_s _ _ _) ((hu_n hqa).trans (hu_s _ _ _)) (by omega) (n := 1) rfl (by omega) (by omega) (fun i hi => by rw [show va_up (fun _ => none) 0 (some x) = va_up (fun i => ([] : List Nat)[i]?) ([] : List Nat).length (some x) from rfl]; exact list_up) hq0 (fun q9 n1 n2 y hy => by rw [hu_n n1, hu_n n2, hu_n n1, hu_n n1]; exact hy)
  refine lv_iconst (v := 1) S.1 S.2.1 dJ2_add_23 (by decide) ?_
  exact (h_zret S.1 S.2.1 hr hlk hW ⟨_, rfl, rfl, rfl⟩ (by decide) (Nat.le_of_ble_eq_true rfl) (Nat.le_of_ble_eq_true rfl) dJ2_add_24)

/-- what one more element costs: cells, slots, the room behind it -/
def gcC (cap n : Nat) : Nat := if n = cap then 1 else 0
def gcS (cap n : Nat) : Nat := if n = cap then (if cap = 0 then 10 else cap + cap / 2) else 0
def gcN (cap n : Nat) : Nat := if n = cap then (if cap = 0 then 10 else cap + cap / 2) else cap
/-- list.add(x) -/
theorem m_add (l : Launch) (g : hG) (h : hA) {a : Nat} {lab : hLab} {mo : Int32} {cap : Nat} {es : List Nat} (ha : h a = some (lab, cL mo cap es)) {x : Nat} (hx : hObj g h x) (hc : cap = 0 ∨ 2 ≤ cap) (hm : cap ≤ 40000) (hle : es.length ≤ cap) :
    hMet l g yJ2_add cJ2_add 2 (some .boolean) (hRm 7 (gcC cap es.length) (gcS cap es.length)) h [.ref a, .ref x] (oI fun r h' => 1 = r ∧ hu h a (lab, cL (mo + 1) (gcN cap es.length) (es ++ [x])) = h') := by
  by_cases e1 : es.length = cap
  · by_cases e2 : cap = 0
    · subst e2
      rw [show gcC 0 es.length = 1 from if_pos e1, show gcS 0 es.length = 10 from (if_pos e1).trans (if_pos rfl), show gcN 0 es.length = 10 from (if_pos e1).trans (if_pos rfl)]
      exact m_add_first l g h ha hx
    · rw [show gcC cap es.length = 1 from if_pos e1, show gcS cap es.length = cap + cap / 2 from (if_pos e1).trans (if_neg e2), show gcN cap es.length = cap + cap / 2 from (if_pos e1).trans (if_neg e2)]
      exact m_add_grow l g h ha hx e1 (by omega) hm
  · rw [show gcC cap es.length = 0 from if_neg e1, show gcS cap es.length = 0 from if_neg e1, show gcN cap es.length = cap from if_neg e1]
    exact m_add_room l g h ha hx (by omega)
