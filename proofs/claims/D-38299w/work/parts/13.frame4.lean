/-! FRAME 4: arrays of objects: what may lie in them, writes, copies; lists read without a look at their arrays -/
theorem hcasts : ∀ r ∈ hCl, Cond.castable r.1 "java/lang/Object" ∈ lw_tbl := List.forall_mem_cons.mpr ⟨q2097, List.forall_mem_cons.mpr ⟨q2099, List.forall_mem_cons.mpr ⟨q2110, List.forall_mem_cons.mpr ⟨q2119, List.forall_mem_cons.mpr ⟨q2121, List.forall_mem_cons.mpr ⟨q2122, List.forall_mem_cons.mpr ⟨q2096, List.forall_mem_cons.mpr ⟨q2098, List.forall_mem_cons.mpr ⟨q2100, List.forall_mem_cons.mpr ⟨q2101, List.forall_mem_cons.mpr ⟨q2104, List.forall_mem_cons.mpr ⟨q2105, List.forall_mem_cons.mpr ⟨q2108, List.forall_mem_cons.mpr ⟨q2109, List.forall_mem_cons.mpr ⟨q2111, List.forall_mem_cons.mpr ⟨q2113, List.forall_mem_cons.mpr ⟨q2114, List.forall_mem_cons.mpr ⟨q2115, List.forall_mem_cons.mpr ⟨q2116, List.forall_mem_cons.mpr ⟨q2117, List.forall_mem_cons.mpr ⟨q2118, List.forall_mem_cons.mpr ⟨q2120, List.forall_mem_cons.mpr ⟨q2123, fun _ h => absurd h List.not_mem_nil⟩⟩⟩⟩⟩⟩⟩⟩⟩⟩⟩⟩⟩⟩⟩⟩⟩⟩⟩⟩⟩⟩⟩
theorem h_any {g : hG} {s : State} {H : Heap} {x : Nat} (hTs : hT g s) (hx : hEl g H x) : va_Any "java/lang/Object" s H x := by
  obtain ⟨cell, h1, h2, h3⟩ := hx
  refine ⟨cell, h1, h2, ?_⟩
  rcases h3 with ⟨ci, hci, he⟩ | he
  · have hl : ci < hCl.length := hci
    have hr : hCl[ci]? = some hCl[ci] := List.getElem?_eq_getElem hl
    obtain ⟨hS, hfc, kC, hkC, -⟩ := hTs.1.1 ci _ hr
    obtain ⟨c0, t1, f1, f2, f3⟩ := Cond.castable_spec (va_Nw.use (A := #[]) rfl (hTs.2.1 _ (hcasts _ (List.getElem_mem hl)) rfl))
    cases hfc.symm.trans f1
    rw [he]
    exact ⟨⟨kC, hkC⟩, fun comp hc => by cases hc.symm.trans f2; exact f3⟩
  · obtain ⟨c0, t1, f1, f2, f3⟩ := Cond.castable_spec (va_Nw.use (A := #[]) rfl (hTs.2.1 _ q2128 rfl))
    have hn : s.vm.findClass "[I" = some (gA g 0) := (h_tyI hTs).2
    cases hn.symm.trans f1
    obtain ⟨kC, hkC, -⟩ := Vm.findClass_spec hn
    rw [he]
    exact ⟨⟨kC, hkC⟩, fun comp hc => by cases hc.symm.trans f2; exact f3⟩
/-- x may lie in a list -/
def hObj (g : hG) (h : hA) (x : Nat) : Prop := (∃ lab ci fs, h x = some (lab, cO ci fs)) ∨ (∃ lab n f, h x = some (lab, cI g n f)) ∨ ∃ k : Nat, k < 256 ∧ x = gs g (1000 + k)
theorem hObj.o {g : hG} {h : hA} {x ci : Nat} {lab : hLab} {fs : List Value} (hx : h x = some (lab, cO ci fs)) : hObj g h x := Or.inl ⟨_, _, _, hx⟩
theorem hObj.i {g : hG} {h : hA} {x n : Nat} {lab : hLab} {f : Nat → Int32} (hx : h x = some (lab, cI g n f)) : hObj g h x := Or.inr (Or.inl ⟨_, _, _, hx⟩)
theorem hObj.up {g : hG} {h h2 : hA} {x : Nat} (hx : hObj g h x) (hk : ∀ lab e, h x = some (lab, .inl e) → h2 x = some (lab, .inl e)) : hObj g h2 x := by
  rcases hx with ⟨_, _, _, hx⟩ | ⟨_, _, _, hx⟩ | hx
  · exact Or.inl ⟨_, _, _, hk _ _ hx⟩
  · exact Or.inr (Or.inl ⟨_, _, _, hk _ _ hx⟩)
  · exact Or.inr (Or.inr hx)
theorem hObj.el {g : hG} {h : hA} {s : State} {H : Heap} {locs : List Loc} {x : Nat} (hTs : hT g s) (hZs : hZ g s s.heap) (hW : hWd g h s H locs) (hx : hObj g h x) : hEl g H x := by
  rcases hx with ⟨_, _, _, hx⟩ | ⟨_, _, _, hx⟩ | ⟨k, hk, rfl⟩
  · exact hAs.at (hW.1.at hx) (Or.inl ⟨_, _, rfl⟩)
  · exact hAs.at (hW.1.at hx) (Or.inr ⟨_, rfl⟩)
  · obtain ⟨cell, c1, c2, c3, -⟩ := (hZs.2.2.1.1 k hk).kept hW.2.2.1
    refine ⟨cell, c1, c2, Or.inl ⟨1, by decide, ?_⟩⟩
    exact Option.some.inj (c3.symm.trans (hTs.1.1 1 _ rfl).2.1)
section HF
variable {p : Program} {l : Launch} {e : Env} {R : Room} {s : State} {m : MethodId} {args : Array Value} {below : List Frame} {meth : Method} {c : Code} {H : Heap} {locs : List Loc} {cells slots : Nat} {Q : State → Prop}
variable {g : hG} {h : hA} {own ref : String} {cc : ByteArray} {pc nL index a cap : Nat} {ls : Array Slot} {rest : List Value} {lab : hLab} {v : Value} {mo : Int32} {es : List Nat}
theorem h_astO {n j x : Nat} {f : Nat → Option Nat} (S : CallFix p m c cc nL s args lw_all own) (hTs : hT g s) (hW : hWd g h s H locs) (hdg : decode cc pc = .ok (.aastore, 1)) (he : h a = some (lab, cQ g 1 n f)) (hj : j < n) (hn : n < 2 ^ 31) (hx : hEl g H x)
    (kk : ∀ (H1 : Heap) (locs1 : List Loc), hWd g (hu h a (lab, cQ g 1 n (va_up f j (some x)))) s H1 locs1 → W p l e R s m args below meth c H1 locs1 cells slots Q (F0 m (pc + 1) ls rest)) : W p l e R s m args below meth c H locs cells slots Q (F0 m pc ls (.ref x :: .int (nI j) :: .ref a :: rest)) := by
  have hc : (nI j).toNatClampNeg = j := nI_clamp (by omega)
  obtain ⟨cellV, g1, g3, ⟨kC, hkC⟩, hasg⟩ := h_any hTs hx
  obtain ⟨kA, comp, k1, k2, k3, -⟩ := (h_tyO hTs).2
  obtain ⟨kE, hkE, -⟩ := Vm.findClass_spec k3
  refine W.aast S.1 S.2.1 (hW.1.at he) (fun q h => by cases h) (fun h => by cases h) k1 k2 rfl hkE ⟨nI_pos (by omega), by show _ < (arrV _ _ _).slots.size; rw [arrV_size, hc]; exact hj⟩ g1 (fun q h => by rw [h] at g3; cases g3) hkC (hasg _ k3) rfl rfl hdg fun H1 e z oq => ?_
  have hat : va_at g.1 hCl (a, .inl (gA g 1, n, .inr (.inr (.inr (.inr (va_up f j (some x))))))) H1 := by
    show H1[a]? = some (vp_cell _ _)
    rw [e, hc, vp_cell_q, vp_cell_q, arrV_store]
    congr 2
    funext q
    by_cases hq : q = j
    · subst hq
      simp [updV, va_up, va_rf]
    · simp [updV, va_up, hq]
  have hself : ∀ x, hEl g H x → x = a → hEl g H1 a := fun x hx e0 => by
    subst e0
    obtain ⟨cell, c1, c2, c3⟩ := hx
    cases c1.symm.trans (hW.1.at he)
    exact ⟨_, hat, rfl, c3⟩
  exact kk H1 _ (h_putH hW he hat (fun hel c n f ee i y hi hy => by
    cases ee
    by_cases e0 : i = j
    · subst e0
      simp [va_up] at hy
      subst hy
      exact hel _ hx
    · simp [va_up, e0] at hy
      exact hel _ (hW.1.eq he _ _ _ rfl i y hi hy)) z oq hself)
theorem h_astON {n j : Nat} {f : Nat → Option Nat} (S : CallFix p m c cc nL s args lw_all own) (hTs : hT g s) (hW : hWd g h s H locs) (hdg : decode cc pc = .ok (.aastore, 1)) (he : h a = some (lab, cQ g 1 n f)) (hj : j < n) (hn : n < 2 ^ 31)
    (kk : ∀ (H1 : Heap) (locs1 : List Loc), hWd g (hu h a (lab, cQ g 1 n (va_up f j none))) s H1 locs1 → W p l e R s m args below meth c H1 locs1 cells slots Q (F0 m (pc + 1) ls rest)) : W p l e R s m args below meth c H locs cells slots Q (F0 m pc ls (.null :: .int (nI j) :: .ref a :: rest)) := by
  have hc : (nI j).toNatClampNeg = j := nI_clamp (by omega)
  refine va_WaastN (C := "java/lang/Object") S.1 S.2.1 (hW.1.at he) ((h_tyO hTs).1 n (fun j => va_rf (f j))) (fun h => by cases h) (by show ¬ (_ ∨ (arrV _ _ _).slots.size ≤ _); rw [arrV_size]; exact vp_in_nI hj hn) rfl rfl hdg fun H1 e z oq => ?_
  have hat : va_at g.1 hCl (a, .inl (gA g 1, n, .inr (.inr (.inr (.inr (va_up f j none)))))) H1 := by
    show H1[a]? = some (vp_cell _ _)
    rw [e, hc, vp_cell_q, vp_cell_q, arrV_store]
    congr 2
    funext q
    by_cases hq : q = j
    · subst hq
      simp [updV, va_up, va_rf]
    · simp [updV, va_up, hq]
  have hself : ∀ x, hEl g H x → x = a → hEl g H1 a := fun x hx e0 => by
    subst e0
    obtain ⟨cell, c1, c2, c3⟩ := hx
    cases c1.symm.trans (hW.1.at he)
    exact ⟨_, hat, rfl, c3⟩
  exact kk H1 _ (h_putH hW he hat (fun hel c n f ee i y hi hy => by
    cases ee
    by_cases e0 : i = j
    · subst e0
      simp [va_up] at hy
    · simp [va_up, e0] at hy
      exact hel _ (hW.1.eq he _ _ _ rfl i y hi hy)) z oq hself)
/-- a new array of objects -/
theorem h_newO (lab' : hLab) {n : Nat} (S : CallFix p m c cc nL s args lw_all own) (hTs : hT g s) (hW : hWd g h s H locs) (hcl : (Cond.classLink own index "java/lang/Object") ∈ lw_all) (hdg : decode cc pc = .ok (.anewarray index, 3)) (hn : n < 2 ^ 20) (hcells : cells + 1 ≤ R.cells) (hslots : slots + n ≤ R.slots)
    (kk : ∀ (q : Nat) (H1 : Heap), h q = none → hWd g (hu h q (lab', cQ g 1 n (fun _ => none))) s H1 locs → W p l e R s m args below meth c H1 locs (cells + 1) (slots + n) Q (F0 m (pc + 3) ls (.ref q :: rest))) : W p l e R s m args below meth c H locs cells slots Q (F0 m pc ls (.int (nI n) :: rest)) := by
  have hN : (nI n).toNatClampNeg = n := nI_clamp (by omega)
  refine W.anew S.1 S.2.1 S.2.2.2.1 (S.2.2.2.2 _ hcl) (va_AO.use hTs.2.2.2.1) rfl hdg rfl (nI_pos (by omega)) (by rw [hN]; omega) hcells (by rw [hN]; exact hslots) fun cA kA comp f1 f2 f3 f4 => ?_
  rw [hN]
  obtain ⟨kA', comp', k1, k2, k3, k4⟩ := (h_tyO hTs).2
  have hcA : cA = gA g 1 := Option.some.inj (f1.symm.trans k4)
  subst hcA
  refine kk H.size _ hW.1.fresh (h_pushW lab' hW ?_ (fun c n f ee i y hi hy => by cases ee; cases hy) (by simp) (fun q hq => by rw [Array.getElem?_push, if_neg (Nat.ne_of_lt hq)]))
  show (H.push _)[H.size]? = some (vp_cell _ _)
  rw [Array.getElem?_push_size, vp_cell_q, ← arrV_new]
  rfl
/-- System.arraycopy between (or within) arrays of objects -/
theorem h_copyO {a0 n0 n1 sp dp n : Nat} {l0 : hLab} {f f1 : Nat → Option Nat} {isp idp inn : Int32} (S : CallFix p m c cc nL s args lw_all own) (hTs : hT g s) (hW : hWd g h s H locs) (hlsz : ls.size = nL) (hlink : (Cond.methodLink own index arraycopyName) ∈ lw_all) (hnat : (Cond.native arraycopyName) ∈ lw_all) (hstat : (Cond.static arraycopyName) ∈ lw_all) (hini : (Cond.initialized "java/lang/System") ∈ lw_all)
    (hframes : 1 ≤ R.frames) (hlocals : (rest.map fun v => v.category).sum + (nativeFrameWords "java/lang/System" "arraycopy" 5 + 11) ≤ R.locals) (hdg : decode cc pc = .ok (.invokestatic index, 3))
    (he0 : h a0 = some (l0, cQ g 1 n0 f)) (he : h a = some (lab, cQ g 1 n1 f1)) (h1 : isp = nI sp) (h2 : idp = nI dp) (h3 : inn = nI n) (h4 : sp + n ≤ n0) (h5 : dp + n ≤ n1) (h6 : n0 < 2 ^ 30) (h7 : n1 < 2 ^ 30)
    (kk : ∀ (H1 : Heap) (locs1 : List Loc), hWd g (hu h a (lab, cQ g 1 n1 (va_cpy f f1 sp dp n))) s H1 locs1 → W p l e R s m args below meth c H1 locs1 cells slots Q (F0 m (pc + 3) ls rest)) : W p l e R s m args below meth c H locs cells slots Q (F0 m pc ls (.int inn :: .int idp :: .ref a :: .int isp :: .ref a0 :: rest)) := by
  subst h1 h2 h3
  have hts := S.2.2.2.2
  have c1 : (nI sp).toNatClampNeg = sp := nI_clamp (by omega)
  have c2 : (nI dp).toNatClampNeg = dp := nI_clamp (by omega)
  have c3 : (nI n).toNatClampNeg = n := nI_clamp (by omega)
  have t1 : (nI sp).toInt = (sp : Int) := nI_toInt (by omega)
  have t2 : (nI dp).toInt = (dp : Int) := nI_toInt (by omega)
  have t3 : (nI n).toInt = (n : Int) := nI_toInt (by omega)
  have hel : ∀ i : Nat, i < n → ∀ y : Nat, f (sp + i) = some y → hEl g H y := fun i hi y hy => hW.1.eq he0 _ _ _ rfl (sp + i) y (by omega) hy
  intro T hT X
  have hc0 : H[a0]? = some (vp_cell (gA g 1) (n0, .inr (.inr (.inr (.inr f))))) := hW.1.at he0
  have hc1 : H[a]? = some (vp_cell (gA g 1) (n1, .inr (.inr (.inr (.inr f1))))) := hW.1.at he
  obtain ⟨-, k0, hk0, cm0, hkk0⟩ := (h_tyO hTs).1 n0 (fun j => va_rf (f j))
  have hk0' : s.vm.classes[gA g 1]? = some k0 := hk0
  obtain ⟨vm', X', step⟩ := X.arraycopy S.1 S.2.2.2.1 (hts _ hlink) (hts _ hnat) (hts _ hstat) (hts _ hini) (src := a0) (dst := a) (cs := vp_cell (gA g 1) (n0, .inr (.inr (.inr (.inr f))))) (cd := vp_cell (gA g 1) (n1, .inr (.inr (.inr (.inr f1))))) (srcPos := nI sp) (destPos := nI dp) (n := nI n) (by rw [hT]; exact hc0) (by rw [hT]; exact hc1)
    (fun _ h => by cases h) (fun _ h => by cases h) (fun h => by cases h) (fun h => by cases h) hk0' hk0' hkk0 hkk0 rfl (nI_pos (by omega)) (nI_pos (by omega)) (nI_pos (by omega))
    (by rw [t1, t3]; show ¬ _ > ((arrV (gA g 1) n0 (fun j => va_rf (f j))).slots.size : Int); rw [arrV_size]; omega)
    (by rw [t2, t3]; show ¬ _ > ((arrV (gA g 1) n1 (fun j => va_rf (f1 j))).slots.size : Int); rw [arrV_size]; omega)
    (fun vm₁ hal i hi => by
      rw [c3] at hi
      have e : (vp_cell (gA g 1) (n0, .inr (.inr (.inr (.inr f))))).slots.getD ((nI sp).toNatClampNeg + i) .null = va_rf (f (sp + i)) := by
        show (arrV (gA g 1) n0 (fun j => va_rf (f j))).slots.getD _ _ = _
        rw [c1, Array.getD_eq_getD_getElem?, arrV_read _ _ (by omega)]
        rfl
      rw [e]
      cases hy : f (sp + i) with
      | none => exact ⟨rfl, trivial⟩
      | some y =>
        obtain ⟨cellV, g1, g2, ⟨kC, hkC⟩, hasg⟩ := h_any hTs (hel i hi y hy)
        obtain ⟨kA, comp, r1, r2, r3, -⟩ := (h_tyO hTs).2
        cases hk0'.symm.trans r1
        cases hkk0.symm.trans r2
        obtain ⟨kE, hkE, -⟩ := Vm.findClass_spec r3
        obtain ⟨kC', hkC', -⟩ := hal.2.2 _ _ hkC
        obtain ⟨kE', hkE', -⟩ := hal.2.2 _ _ hkE
        refine ⟨rfl, cellV, (show T.heap[y]? = some cellV by rw [hT]; exact g1), (fun q h => by rw [h] at g2; cases g2), ⟨kC', hkC'⟩, ⟨kE', hkE'⟩, ?_⟩
        show vm₁.assignable _ _ = true
        rw [hal.assignable]
        exact hasg _ r3)
    (g := F0 m pc ls (.int (nI n) :: .int (nI dp) :: .ref a :: .int (nI sp) :: .ref a0 :: rest)) rfl (by rw [S.2.2.1]; exact hlsz) (rest := rest) rfl (by rw [S.2.1]; exact hdg) hframes (by show 2 * 0 + _ + _ ≤ _; omega)
  have e1 : copied (vp_cell (gA g 1) (n0, .inr (.inr (.inr (.inr f))))) (vp_cell (gA g 1) (n1, .inr (.inr (.inr (.inr f1))))) (nI sp) (nI dp) (nI n) = vp_cell (gA g 1) (n1, .inr (.inr (.inr (.inr (va_cpy f f1 sp dp n))))) := by
    rw [vp_cell_q, vp_cell_q, vp_cell_q]
    unfold copied
    rw [c1, c2, c3]
    exact va_copied (fun z => va_rf z) (gA g 1) (gA g 1) f f1 h4
  rw [e1] at X' step
  have hl : a < H.size := (Array.getElem?_eq_some_iff.mp hc1).1
  have hheap : ((T.setVm vm').setCell a (vp_cell (gA g 1) (n1, .inr (.inr (.inr (.inr (va_cpy f f1 sp dp n))))))).heap = H.setIfInBounds a (vp_cell (gA g 1) (n1, .inr (.inr (.inr (.inr (va_cpy f f1 sp dp n)))))) := by rw [← hT]; rfl
  have oq : ∀ q : Nat, q ≠ a → (H.setIfInBounds a (vp_cell (gA g 1) (n1, .inr (.inr (.inr (.inr (va_cpy f f1 sp dp n)))))))[q]? = H[q]? := fun q hq => by simp [Array.getElem?_setIfInBounds, Ne.symm hq]
  have hat : va_at g.1 hCl (a, .inl (gA g 1, n1, .inr (.inr (.inr (.inr (va_cpy f f1 sp dp n)))))) (H.setIfInBounds a (vp_cell (gA g 1) (n1, .inr (.inr (.inr (.inr (va_cpy f f1 sp dp n))))))) := by
    show (H.setIfInBounds a _)[a]? = some _
    simp [Array.getElem?_setIfInBounds, hl]
  have hself : ∀ x, hEl g H x → x = a → hEl g (H.setIfInBounds a (vp_cell (gA g 1) (n1, .inr (.inr (.inr (.inr (va_cpy f f1 sp dp n))))))) a := fun x hx e0 => by
    subst e0
    obtain ⟨cell, d1, d2, d3⟩ := hx
    cases d1.symm.trans hc1
    exact ⟨_, hat, rfl, d3⟩
  obtain ⟨t, a1, b1⟩ := kk _ _ ⟨hW.1.put he hat (fun hel' c9 n9 f9 ee i y hi hy => by
      cases ee
      by_cases e0 : dp ≤ i ∧ i < dp + n
      · rw [va_cpy, if_pos e0] at hy
        exact hel' _ (hel (i - dp) (by omega) y hy)
      · rw [va_cpy, if_neg e0] at hy
        exact hel' _ (hW.1.eq he _ _ _ rfl i y hi hy)) (by simp) oq hself, ⟨by simp; exact hW.2.1, fun q g1 g2 => by
      rw [oq q (fun e => g2 (by rw [e]; exact hW.1.fr he))]
      exact hW.2.2.1 q g1 g2, fun q hq => by
      rcases List.mem_append.mp hq with h | h
      · exact hW.2.2.2 q h
      · obtain ⟨z, -, hz⟩ := List.mem_map.mp h
        rw [← hz]
        exact hW.1.fr he⟩⟩ _ hheap X'
  exact ⟨t, step t a1, b1⟩
/-- a list's own fields but its array: modCount (0), size (2) -/
theorem h_getL {N : Nat} {T : u_T} {C : String} (S : CallFix p m c cc nL s args lw_all own) (hTs : hT g s) (hW : hWd g h s H locs) (hin : ∀ w ∈ u_ws C T N, w ∈ lw_all) (hc : hCl[0]? = some (C, T, N)) (k : Nat) (hk : k < N) (hlink : (Cond.fieldLink own index ref (T k).2.1 (T k).2.2.1) ∈ lw_all) (hsame : ∀ x, s.fieldFound? (T k).1 (T k).2.1 (T k).2.2.1 = some x → s.fieldFound? ref (T k).2.1 (T k).2.2.1 = some x) (hdg : decode cc pc = .ok (.getfield index, 3))
    (he : h a = some (lab, cL mo cap es)) (hv : ∀ d : Nat, ([.int mo, .ref d, .int (nI es.length)] : List Value)[k]? = some v)
    (kk : W p l e R s m args below meth c H locs cells slots Q (F0 m (pc + 3) ls (v :: rest))) : W p l e R s m args below meth c H locs cells slots Q (F0 m pc ls (.ref a :: rest)) := by
  obtain ⟨-, dm, -, h2, -⟩ := hW.1
  obtain ⟨-, ⟨q2, -⟩, -⟩ := h2 a lab _ he
  exact va_get (D := g.1) (cl := hCl) (tys := hTys g) (ws := [(a, .inr (0, [.int mo, .ref (dm a), .int (nI es.length)]))]) S.1 S.2.1 S.2.2.2.2 hin S.2.2.2.1 hTs.1 (fun k q hq => by
    have hz : k < 1 := (List.getElem?_eq_some_iff.mp hq).1
    rw [show k = 0 by omega] at hq
    cases hq
    exact q2) 0 rfl hc k hk (S.2.2.2.2 _ hlink) hsame (hv (dm a)) hdg kk
theorem h_getLN {N : Nat} {T : u_T} {C host : String} (S : CallFix p m c cc nL s args lw_all own) (hTs : hT g s) (hW : hWd g h s H locs) (hin : ∀ w ∈ u_ws C T N, w ∈ lw_all) (hc : hCl[0]? = some (C, T, N)) (k : Nat) (hk : k < N) (hlink : (Cond.fieldLinkNest own index ref (T k).2.1 (T k).2.2.1 host) ∈ lw_tbl) (hsame : ∀ x, s.fieldFound? (T k).1 (T k).2.1 (T k).2.2.1 = some x → s.fieldFound? ref (T k).2.1 (T k).2.2.1 = some x) (hdg : decode cc pc = .ok (.getfield index, 3))
    (he : h a = some (lab, cL mo cap es)) (hv : ∀ d : Nat, ([.int mo, .ref d, .int (nI es.length)] : List Value)[k]? = some v)
    (kk : W p l e R s m args below meth c H locs cells slots Q (F0 m (pc + 3) ls (v :: rest))) : W p l e R s m args below meth c H locs cells slots Q (F0 m pc ls (.ref a :: rest)) := by
  obtain ⟨-, dm, -, h2, -⟩ := hW.1
  obtain ⟨-, ⟨q2, -⟩, -⟩ := h2 a lab _ he
  exact va_getN (D := g.1) (cl := hCl) (tys := hTys g) (ws := [(a, .inr (0, [.int mo, .ref (dm a), .int (nI es.length)]))]) S.1 S.2.1 S.2.2.2.2 hin S.2.2.2.1 hTs.1 (fun k q hq => by
    have hz : k < 1 := (List.getElem?_eq_some_iff.mp hq).1
    rw [show k = 0 by omega] at hq
    cases hq
    exact q2) 0 rfl hc k hk (va_Nw.use rfl (hTs.2.1 _ hlink rfl)) hsame (hv (dm a)) hdg kk
theorem hWd.opn (hW : hWd g h s H locs) (ha : h a = some (lab, cL mo cap es)) (hc : 0 < cap) : ∃ d, h d = none ∧ d ≠ a ∧ hWd g (hu (hu h d ((0, 0), cQ g 1 cap (fun i => es[i]?))) a (lab, cO 0 [.int mo, .ref d, .int (nI es.length)])) s H locs := by
  obtain ⟨d, h1, h2, h3⟩ := hW.1.opn ha hc
  exact ⟨d, h1, h2, h3, hW.2⟩
theorem hWd.opn0 (hW : hWd g h s H locs) (ha : h a = some (lab, cL mo 0 es)) : es = [] ∧ hWd g (hu h a (lab, cO 0 [.int mo, .ref (gs g 0), .int 0])) s H locs := ⟨(hW.1.opn0 ha).1, (hW.1.opn0 ha).2, hW.2⟩
/-- the list again, after its array d has come to hold f -/
theorem hWd.shut {h0 : hA} {d n : Nat} {lab' : hLab} {f : Nat → Option Nat} (es : List Nat) (hW : hWd g h s H locs) (ha : h a = some (lab, cO 0 [.int mo, .ref d, .int (nI n)])) (hd : h d = some (lab', cQ g 1 cap f)) (hc : 0 < cap) (hn : es.length = n) (hle : n ≤ cap) (hcap : cap ≤ 65536) (hf : ∀ i, i < cap → f i = es[i]?) (h0d : h0 d = none) (h0h : ∀ q, q ≠ a → q ≠ d → ∀ x, h0 q = some x → h q = some x) :
    hWd g (hu h0 a (lab, cL mo cap es)) s H locs := by
  refine ⟨?_, hW.2⟩
  have h1 := hW.1.shut es ha hd hc hn hle hcap hf
  refine h1.less (fun q x hq => ?_)
  by_cases e0 : q = a
  · rw [e0, hu_s] at hq
    rw [e0, hu_s]; exact hq
  · rw [hu_n e0] at hq ⊢
    by_cases e1 : q = d
    · rw [e1, h0d] at hq; cases hq
    · rw [hdel, if_neg e1]; exact h0h q e0 e1 x hq
theorem hWd.shut0 (hW : hWd g h s H locs) (ha : h a = some (lab, cO 0 [.int mo, .ref (gs g 0), .int 0])) (lab' : hLab) : hWd g (hu h a (lab', cL mo 0 [])) s H locs := ⟨hW.1.shut0 ha, hW.2⟩
/-- what stands is kept while only fresh cells come -/
theorem hWd.list (hW : hWd g h s H locs) (ha : h a = some (lab, cL mo cap es)) : es.length ≤ cap ∧ cap ≤ 65536 ∧ ∀ x ∈ es, hEl g H x := hW.1.list ha
theorem h_topi {x x' : Int32} (e9 : x = x') (k : W p l e R s m args below meth c H locs cells slots Q (F0 m pc ls (.int x' :: rest))) : W p l e R s m args below meth c H locs cells slots Q (F0 m pc ls (.int x :: rest)) := e9 ▸ k
theorem h_topr {x x' : Value} (e9 : x = x') (k : W p l e R s m args below meth c H locs cells slots Q (F0 m pc ls (x' :: rest))) : W p l e R s m args below meth c H locs cells slots Q (F0 m pc ls (x :: rest)) := e9 ▸ k
theorem nI_max (a b : Nat) (ha : a < 2 ^ 31) (hb : b < 2 ^ 31) : (if nI a < nI b then nI b else nI a) = nI (max a b) := by
  by_cases c : a < b
  · rw [if_pos (nI_lt c hb), Nat.max_eq_right (Nat.le_of_lt c)]
  · rw [if_neg (nI_nlt (Nat.not_lt.mp c) ha), Nat.max_eq_left (Nat.not_lt.mp c)]
theorem nI_min (a b : Nat) (ha : a < 2 ^ 31) (hb : b < 2 ^ 31) : (if nI b < nI a then nI b else nI a) = nI (min a b) := by
  by_cases c : b < a
  · rw [if_pos (nI_lt c ha), Nat.min_eq_right (Nat.le_of_lt c)]
  · rw [if_neg (nI_nlt (Nat.not_lt.mp c) hb), Nat.min_eq_left (Nat.not_lt.mp c)]
theorem h_acmp_eq {x y : Nat} {off : Int} {tgt : Nat} (hx : p.tables.exec = Jvm.exec) (hb : c.code = cc) (hdg : decode cc pc = .ok (.if_acmp .eq off, 3)) (ht : (pc : Int) + off = (tgt : Int))
    (kt : x = y → W p l e R s m args below meth c H locs cells slots Q (F0 m tgt ls rest)) (kf : x ≠ y → W p l e R s m args below meth c H locs cells slots Q (F0 m (pc + 3) ls rest)) : W p l e R s m args below meth c H locs cells slots Q (F0 m pc ls (.ref y :: .ref x :: rest)) :=
  lv_acmp_eq (rx := some x) (ry := some y) hx hb hdg ht (fun e => kt (Option.some.inj e)) (fun n => kf (fun e => n (congrArg some e)))
theorem h_acmp_ne {x y : Nat} {off : Int} {tgt : Nat} (hx : p.tables.exec = Jvm.exec) (hb : c.code = cc) (hdg : decode cc pc = .ok (.if_acmp .ne off, 3)) (ht : (pc : Int) + off = (tgt : Int))
    (kt : x ≠ y → W p l e R s m args below meth c H locs cells slots Q (F0 m tgt ls rest)) (kf : x = y → W p l e R s m args below meth c H locs cells slots Q (F0 m (pc + 3) ls rest)) : W p l e R s m args below meth c H locs cells slots Q (F0 m pc ls (.ref y :: .ref x :: rest)) :=
  lv_acmp_ne (rx := some x) (ry := some y) hx hb hdg ht (fun n => kt (fun e => n (congrArg some e))) (fun e => kf (Option.some.inj e))
/-- the class object of the lists' arrays -/
theorem h_getCO {n : Nat} {f : Nat → Option Nat} (S : CallFix p m c cc nL s args lw_all own) (hTs : hT g s) (hW : hWd g h s H locs) (hlsz : ls.size = nL) (hlink : (Cond.methodLink own index ⟨"java/lang/Object", "getClass", "()Ljava/lang/Class;"⟩) ∈ lw_all)
    (hframes : 1 ≤ R.frames) (hlocals : (rest.map fun v => v.category).sum + 14 ≤ R.locals) (hdg : decode cc pc = .ok (.invokevirtual index, 3)) (he : h a = some (lab, cQ g 1 n f))
    (k : W p l e R s m args below meth c H locs cells slots Q (F0 m (pc + 3) ls (.ref (gs g 8) :: rest))) : W p l e R s m args below meth c H locs cells slots Q (F0 m pc ls (.ref a :: rest)) := by
  have hts := S.2.2.2.2
  have hcell : H[a]? = some (vp_cell (gA g 1) (n, .inr (.inr (.inr (.inr f))))) := hW.1.at he
  obtain ⟨kA, comp, k1, k2, k3, k4⟩ := (h_tyO hTs).2
  exact va_getC (C := "[Ljava/lang/Object;") S.1 S.2.1 (by rw [S.2.2.1]; exact hlsz.symm) S.2.2.2.1 (hts _ hlink) (va_Nw.use rfl (hTs.2.1 _ q2127 rfl)) (hts _ q2126) (hts _ q228) (hts _ q258) hTs.2.2.2.2.2.2.1 ⟨_, hcell, rfl, k4⟩ hframes hlocals hdg k
theorem hWd.opn2 (hW : hWd g h s H locs) (ha : h a = some (lab, cL mo cap es)) (hc : 0 < cap) : ∃ (d : Nat) (h2 : hA), h d = none ∧ d ≠ a ∧ h2 a = some (lab, cO 0 [.int mo, .ref d, .int (nI es.length)]) ∧ h2 d = some ((0, 0), cQ g 1 cap (fun i => es[i]?)) ∧ (∀ q, q ≠ a → q ≠ d → h2 q = h q) ∧ hWd g h2 s H locs := by
  obtain ⟨d, h1, h2, h3⟩ := hW.opn ha hc
  exact ⟨d, _, h1, h2, hu_s _ _ _, (hu_n h2).trans (hu_s _ _ _), fun q n1 n2 => by rw [hu_n n1, hu_n n2], h3⟩
theorem hObj.opn {h2 : hA} {d x : Nat} (hx : hObj g h x) (ha : h a = some (lab, cL mo cap es)) (hd : h d = none) (ho : ∀ q, q ≠ a → q ≠ d → h2 q = h q) : hObj g h2 x :=
  hx.up fun lab' e hl => by
    rw [ho x (fun e0 => by rw [e0, ha] at hl; cases hl) (fun e0 => by rw [e0, hd] at hl; cases hl)]
    exact hl
theorem hObj.put {x ci : Nat} {lb lb' : hLab} {fs fs' : List Value} (hx : hObj g h x) (ha : h a = some (lb, cO ci fs)) : hObj g (hu h a (lb', cO ci fs')) x := by
  by_cases e0 : x = a
  · exact Or.inl ⟨_, _, _, by rw [e0]; exact hu_s _ _ _⟩
  · exact hx.up fun _ _ hl => by rw [hu_n e0]; exact hl
theorem hObj.new {x q : Nat} {y : hLab × hC} (hx : hObj g h x) (hq : h q = none) : hObj g (hu h q y) x :=
  hx.up fun _ _ hl => hu_new hl hq
theorem list_up {es : List Nat} {x i : Nat} : va_up (fun i => es[i]?) es.length (some x) i = (es ++ [x])[i]? := by
  unfold va_up
  by_cases e0 : i = es.length
  · rw [if_pos e0, e0]; simp
  · rw [if_neg e0]
    show es[i]? = (es ++ [x])[i]?
    by_cases e1 : i < es.length
    · rw [List.getElem?_append_left e1]
    · rw [List.getElem?_eq_none (by omega), List.getElem?_eq_none (by rw [List.length_append, List.length_singleton]; omega)]
theorem list_cpy {es : List Nat} {i n : Nat} (hn : es.length ≤ n) : va_cpy (fun i => es[i]?) (fun _ => none) 0 0 n i = es[i]? := by
  unfold va_cpy
  by_cases e0 : 0 ≤ i ∧ i < 0 + n
  · rw [if_pos e0, Nat.sub_zero, Nat.zero_add]
  · rw [if_neg e0]
    rw [List.getElem?_eq_none (by omega)]
/-- System.arraycopy of nothing, out of the shared array without places -/
theorem h_copyO0 {n1 : Nat} {f1 : Nat → Option Nat} (S : CallFix p m c cc nL s args lw_all own) (hTs : hT g s) (hZs : hZ g s s.heap) (hW : hWd g h s H locs) (hlsz : ls.size = nL) (hlink : (Cond.methodLink own index arraycopyName) ∈ lw_all) (hnat : (Cond.native arraycopyName) ∈ lw_all) (hstat : (Cond.static arraycopyName) ∈ lw_all) (hini : (Cond.initialized "java/lang/System") ∈ lw_all)
    (hframes : 1 ≤ R.frames) (hlocals : (rest.map fun v => v.category).sum + (nativeFrameWords "java/lang/System" "arraycopy" 5 + 11) ≤ R.locals) (hdg : decode cc pc = .ok (.invokestatic index, 3))
    (he : h a = some (lab, cQ g 1 n1 f1))
    (kk : ∀ (H1 : Heap) (locs1 : List Loc), hWd g h s H1 locs1 → W p l e R s m args below meth c H1 locs1 cells slots Q (F0 m (pc + 3) ls rest)) : W p l e R s m args below meth c H locs cells slots Q (F0 m pc ls (.int 0 :: .int 0 :: .ref a :: .int 0 :: .ref (gs g 0) :: rest)) := by
  have hts := S.2.2.2.2
  obtain ⟨cs, s1, s2, s3, s4, s5, -, s7⟩ := hZs.2.1.kept hW.2.2.1
  have hsz : cs.slots.size.toInt32 = 0 := s5
  intro T hT X
  have hc1 : H[a]? = some (vp_cell (gA g 1) (n1, .inr (.inr (.inr (.inr f1))))) := hW.1.at he
  obtain ⟨hs6, k0, hk0, cm0, hkk0⟩ := s2
  obtain ⟨-, k1, hk1, cm1, hkk1⟩ := (h_tyO hTs).1 n1 (fun j => va_rf (f1 j))
  obtain ⟨vm', X', step⟩ := X.arraycopy S.1 S.2.2.2.1 (hts _ hlink) (hts _ hnat) (hts _ hstat) (hts _ hini) (src := gs g 0) (dst := a) (cs := cs) (cd := vp_cell (gA g 1) (n1, .inr (.inr (.inr (.inr f1))))) (srcPos := 0) (destPos := 0) (n := 0) (by rw [hT]; exact s1) (by rw [hT]; exact hc1)
    hs6 (fun _ h => by cases h) s3 (fun h => by cases h) hk0 hk1 hkk0 hkk1 rfl (by decide) (by decide) (by decide)
    (by simp)
    (by simp)
    (fun vm₁ hal i hi => by
      have h0 : (0 : Int32).toNatClampNeg = 0 := rfl
      rw [h0] at hi
      exact absurd hi (Nat.not_lt_zero _))
    (g := F0 m pc ls (.int 0 :: .int 0 :: .ref a :: .int 0 :: .ref (gs g 0) :: rest)) rfl (by rw [S.2.2.1]; exact hlsz) (rest := rest) rfl (by rw [S.2.1]; exact hdg) hframes (by show 2 * 0 + _ + _ ≤ _; omega)
  have e1 : copied cs (vp_cell (gA g 1) (n1, .inr (.inr (.inr (.inr f1))))) 0 0 0 = vp_cell (gA g 1) (n1, .inr (.inr (.inr (.inr f1)))) := rfl
  rw [e1] at X' step
  have hl : a < H.size := (Array.getElem?_eq_some_iff.mp hc1).1
  have hheap : ((T.setVm vm').setCell a (vp_cell (gA g 1) (n1, .inr (.inr (.inr (.inr f1)))))).heap = H.setIfInBounds a (vp_cell (gA g 1) (n1, .inr (.inr (.inr (.inr f1))))) := by rw [← hT]; rfl
  have hH : H.setIfInBounds a (vp_cell (gA g 1) (n1, .inr (.inr (.inr (.inr f1))))) = H := by
    apply Array.ext_getElem?
    intro i
    by_cases e0 : i = a
    · subst e0
      rw [hc1]
      simp [Array.getElem?_setIfInBounds, hl]
    · simp [Array.getElem?_setIfInBounds, Ne.symm e0]
  rw [hH] at hheap
  obtain ⟨t, a1, b1⟩ := kk H _ ⟨hW.1, hW.2.1, hW.2.2.1, fun q hq => by
      rcases List.mem_append.mp hq with h | h
      · exact hW.2.2.2 q h
      · obtain ⟨z, -, hz⟩ := List.mem_map.mp h
        rw [← hz]
        exact hW.1.fr he⟩ _ hheap X'
  exact ⟨t, step t a1, b1⟩
/-- the class object of the shared array without places -/
theorem h_getCO0 (S : CallFix p m c cc nL s args lw_all own) (hTs : hT g s) (hZs : hZ g s s.heap) (hW : hWd g h s H locs) (hlsz : ls.size = nL) (hlink : (Cond.methodLink own index ⟨"java/lang/Object", "getClass", "()Ljava/lang/Class;"⟩) ∈ lw_all)
    (hframes : 1 ≤ R.frames) (hlocals : (rest.map fun v => v.category).sum + 14 ≤ R.locals) (hdg : decode cc pc = .ok (.invokevirtual index, 3))
    (k : W p l e R s m args below meth c H locs cells slots Q (F0 m (pc + 3) ls (.ref (gs g 8) :: rest))) : W p l e R s m args below meth c H locs cells slots Q (F0 m pc ls (.ref (gs g 0) :: rest)) := by
  have hts := S.2.2.2.2
  obtain ⟨cell, h1, h2, h3, -⟩ := (hZs.2.2.2.2.2.2.2.2.2.2.2.2.2.2.2.2.2.1).kept hW.2.2.1
  exact va_getC (C := "[Ljava/lang/Object;") S.1 S.2.1 (by rw [S.2.2.1]; exact hlsz.symm) S.2.2.2.1 (hts _ hlink) (va_Nw.use rfl (hTs.2.1 _ q2127 rfl)) (hts _ q2126) (hts _ q228) (hts _ q258) hTs.2.2.2.2.2.2.1 ⟨cell, h1, h2, h3⟩ hframes hlocals hdg k
end HF
