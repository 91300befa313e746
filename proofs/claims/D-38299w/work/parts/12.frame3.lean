/-! FRAME 3: the heap's instructions over the abstract heap -/
section HF
variable {p : Program} {l : Launch} {e : Env} {R : Room} {s : State} {m : MethodId} {args : Array Value} {below : List Frame} {meth : Method} {c : Code} {H : Heap} {locs : List Loc} {cells slots : Nat} {Q : State → Prop}
variable {g : hG} {h : hA} {own ref C host : String} {T : u_T} {N ci : Nat} {cc : ByteArray} {pc nL index a : Nat} {ls : Array Slot} {rest : List Value} {lab : hLab} {fs : List Value} {v : Value}
theorem h_get (S : CallFix p m c cc nL s args lw_all own) (hTs : hT g s) (hW : hWd g h s H locs) (hin : ∀ w ∈ u_ws C T N, w ∈ lw_all) (hc : hCl[ci]? = some (C, T, N)) (k : Nat) (hk : k < N) (hlink : (Cond.fieldLink own index ref (T k).2.1 (T k).2.2.1) ∈ lw_all) (hsame : ∀ x, s.fieldFound? (T k).1 (T k).2.1 (T k).2.2.1 = some x → s.fieldFound? ref (T k).2.1 (T k).2.2.1 = some x) (hdg : decode cc pc = .ok (.getfield index, 3))
    (he : h a = some (lab, cO ci fs)) (hv : fs[k]? = some v)
    (kk : W p l e R s m args below meth c H locs cells slots Q (F0 m (pc + 3) ls (v :: rest))) : W p l e R s m args below meth c H locs cells slots Q (F0 m pc ls (.ref a :: rest)) :=
  va_get (D := g.1) (cl := hCl) (tys := hTys g) (ws := [(a, .inr (ci, fs))]) S.1 S.2.1 S.2.2.2.2 hin S.2.2.2.1 hTs.1 (fun k q hq => by
    have hz : k < 1 := (List.getElem?_eq_some_iff.mp hq).1
    rw [show k = 0 by omega] at hq
    cases hq
    exact hW.1.at he) 0 rfl hc k hk (S.2.2.2.2 _ hlink) hsame hv hdg kk
theorem h_getN (S : CallFix p m c cc nL s args lw_all own) (hTs : hT g s) (hW : hWd g h s H locs) (hin : ∀ w ∈ u_ws C T N, w ∈ lw_all) (hc : hCl[ci]? = some (C, T, N)) (k : Nat) (hk : k < N) (hlink : (Cond.fieldLinkNest own index ref (T k).2.1 (T k).2.2.1 host) ∈ lw_tbl) (hsame : ∀ x, s.fieldFound? (T k).1 (T k).2.1 (T k).2.2.1 = some x → s.fieldFound? ref (T k).2.1 (T k).2.2.1 = some x) (hdg : decode cc pc = .ok (.getfield index, 3))
    (he : h a = some (lab, cO ci fs)) (hv : fs[k]? = some v)
    (kk : W p l e R s m args below meth c H locs cells slots Q (F0 m (pc + 3) ls (v :: rest))) : W p l e R s m args below meth c H locs cells slots Q (F0 m pc ls (.ref a :: rest)) :=
  va_getN (D := g.1) (cl := hCl) (tys := hTys g) (ws := [(a, .inr (ci, fs))]) S.1 S.2.1 S.2.2.2.2 hin S.2.2.2.1 hTs.1 (fun k q hq => by
    have hz : k < 1 := (List.getElem?_eq_some_iff.mp hq).1
    rw [show k = 0 by omega] at hq
    cases hq
    exact hW.1.at he) 0 rfl hc k hk (va_Nw.use rfl (hTs.2.1 _ hlink rfl)) hsame hv hdg kk
/-- what a write of a field leaves -/
theorem h_putH {H1 : Heap} {i : Nat} {e' : va_E} {e0 : va_E} (hW : hWd g h s H locs) (he : h a = some (lab, .inl e0)) (hat : va_at g.1 hCl (a, e') H1) (hq : (∀ x, hEl g H x → hEl g H1 x) → hEq g H1 e') (hz : H1.size = H.size) (ho : ∀ q : Nat, q ≠ a → H1[q]? = H[q]?) (hk : ∀ x, hEl g H x → x = a → hEl g H1 a) : hWd g (hu h a (lab, .inl e')) s H1 (locs ++ [⟨a, i⟩]) :=
  ⟨hW.1.put he hat hq hz ho hk, hW.2.put hz ho (hW.1.fr he)⟩
theorem h_elO {H1 : Heap} {e' : Nat × List Value} (hat : va_at g.1 hCl (a, .inr e') H1) : ∀ x, hEl g H x → x = a → hEl g H1 a := fun _ _ _ => hAs.at hat (Or.inl ⟨e'.1, e'.2, rfl⟩)
theorem h_put (S : CallFix p m c cc nL s args lw_all own) (hTs : hT g s) (hW : hWd g h s H locs) (hin : ∀ w ∈ u_ws C T N, w ∈ lw_all) (ty0 : Nat → FieldType) (hty : ∀ k, k < N → parseFieldDescriptor (T k).2.2.1 = some (ty0 k)) (hnm : ∀ a, a < N → ∀ b, b < N → a ≠ b → (T a).2.1 ≠ (T b).2.1) (hc : hCl[ci]? = some (C, T, N)) (k : Nat) (hk : k < N) (hlink : (Cond.fieldLink own index ref (T k).2.1 (T k).2.2.1) ∈ lw_all) (hsame : ∀ x, s.fieldFound? (T k).1 (T k).2.1 (T k).2.2.1 = some x → s.fieldFound? ref (T k).2.1 (T k).2.2.1 = some x) (hfin : (T k).2.2.2 = false)
    (hdg : decode cc pc = .ok (.putfield index, 3)) (he : h a = some (lab, cO ci fs)) (hl : k < fs.length) (hn : narrow (ty0 k) v = v) (hfit : fits (ty0 k) v = true)
    (kk : ∀ (H1 : Heap) (locs1 : List Loc), hWd g (hu h a (lab, cO ci (fs.set k v))) s H1 locs1 → W p l e R s m args below meth c H1 locs1 cells slots Q (F0 m (pc + 3) ls rest)) : W p l e R s m args below meth c H locs cells slots Q (F0 m pc ls (v :: .ref a :: rest)) := by
  have hts := S.2.2.2.2
  have hown := S.2.2.2.1
  have hap := va_apart (own := own) hts hin ty0 hty hnm hTs.1 hc
  obtain ⟨r, h1, cell, q1, q2, q3, q4⟩ := hW.1.at he
  have hr : r = (C, T, N) := Option.some.inj (h1.symm.trans hc)
  subst hr
  obtain ⟨hS, hfc, kC, hkC, hkind⟩ := hTs.1.1 ci _ hc
  obtain ⟨cf, kf, fi, f, hi, hsl⟩ := hS k hk
  have hlay := hts _ (hin _ (u_in_lay hk))
  unfold u_lay at hlay
  rw [if_neg (by rw [hfin]; decide)] at hlay
  have hst := (u_facts hfc hkC (u_lays hts hin hk) hi).1
  have h6 := u_store hfc hkC hkind hlay hi (hty k hk) hn hfit
  refine W.putK S.1 S.2.1 (f := f) ⟨hown, hts _ hlink, ⟨_, _, _, hsame _ hi⟩, hst⟩ (by rw [q2]; exact h6) q1 q3 (by rw [hsl]; exact k2_hasslot (q4 k hk)) rfl rfl hdg fun H' e1 e2 e3 => ?_
  have hat : va_at g.1 hCl (a, .inr (ci, fs.set k v)) H' := ⟨_, hc, t_OB.to (V := updV (vp_V fs) k v) ⟨_, e1, q2, q3, by rw [hsl]; exact t_set q4 hap hk v⟩ (fun j _ => vp_updV_set hl v j)⟩
  exact kk H' _ (h_putH hW he hat (fun _ => hEq.o) e2 e3 (h_elO hat))
theorem h_putN (S : CallFix p m c cc nL s args lw_all own) (hTs : hT g s) (hW : hWd g h s H locs) (hin : ∀ w ∈ u_ws C T N, w ∈ lw_all) (ty0 : Nat → FieldType) (hty : ∀ k, k < N → parseFieldDescriptor (T k).2.2.1 = some (ty0 k)) (hnm : ∀ a, a < N → ∀ b, b < N → a ≠ b → (T a).2.1 ≠ (T b).2.1) (hc : hCl[ci]? = some (C, T, N)) (k : Nat) (hk : k < N) (hlink : (Cond.fieldLinkNest own index ref (T k).2.1 (T k).2.2.1 host) ∈ lw_tbl) (hsame : ∀ x, s.fieldFound? (T k).1 (T k).2.1 (T k).2.2.1 = some x → s.fieldFound? ref (T k).2.1 (T k).2.2.1 = some x) (hfin : (T k).2.2.2 = false)
    (hdg : decode cc pc = .ok (.putfield index, 3)) (he : h a = some (lab, cO ci fs)) (hl : k < fs.length) (hn : narrow (ty0 k) v = v) (hfit : fits (ty0 k) v = true)
    (kk : ∀ (H1 : Heap) (locs1 : List Loc), hWd g (hu h a (lab, cO ci (fs.set k v))) s H1 locs1 → W p l e R s m args below meth c H1 locs1 cells slots Q (F0 m (pc + 3) ls rest)) : W p l e R s m args below meth c H locs cells slots Q (F0 m pc ls (v :: .ref a :: rest)) := by
  have hts := S.2.2.2.2
  have hown := S.2.2.2.1
  have hap := va_apart (own := own) hts hin ty0 hty hnm hTs.1 hc
  obtain ⟨r, h1, cell, q1, q2, q3, q4⟩ := hW.1.at he
  have hr : r = (C, T, N) := Option.some.inj (h1.symm.trans hc)
  subst hr
  obtain ⟨hS, hfc, kC, hkC, hkind⟩ := hTs.1.1 ci _ hc
  obtain ⟨cf, kf, fi, f, hi, hsl⟩ := hS k hk
  have hlay := hts _ (hin _ (u_in_lay hk))
  unfold u_lay at hlay
  rw [if_neg (by rw [hfin]; decide)] at hlay
  have hst := (u_facts hfc hkC (u_lays hts hin hk) hi).1
  have h6 := u_store hfc hkC hkind hlay hi (hty k hk) hn hfit
  refine va_WputK S.1 S.2.1 (f := f) hown (va_Nw.use rfl (hTs.2.1 _ hlink rfl)) (hsame _ hi) hst (by rw [q2]; exact h6) q1 q3 (by rw [hsl]; exact k2_hasslot (q4 k hk)) rfl rfl hdg fun H' e1 e2 e3 => ?_
  have hat : va_at g.1 hCl (a, .inr (ci, fs.set k v)) H' := ⟨_, hc, t_OB.to (V := updV (vp_V fs) k v) ⟨_, e1, q2, q3, by rw [hsl]; exact t_set q4 hap hk v⟩ (fun j _ => vp_updV_set hl v j)⟩
  exact kk H' _ (h_putH hW he hat (fun _ => hEq.o) e2 e3 (h_elO hat))
theorem h_putF (S : CallFix p m c cc nL s args lw_all own) (hTs : hT g s) (hW : hWd g h s H locs) (hin : ∀ w ∈ u_ws C T N, w ∈ lw_all) (ty0 : Nat → FieldType) (hty : ∀ k, k < N → parseFieldDescriptor (T k).2.2.1 = some (ty0 k)) (hnm : ∀ a, a < N → ∀ b, b < N → a ≠ b → (T a).2.1 ≠ (T b).2.1) (hc : hCl[ci]? = some (C, T, N)) (k : Nat) (hk : k < N) (hlink : (Cond.fieldLink own index ref (T k).2.1 (T k).2.2.1) ∈ lw_all) (hsame : ∀ x, s.fieldFound? (T k).1 (T k).2.1 (T k).2.2.1 = some x → s.fieldFound? ref (T k).2.1 (T k).2.2.1 = some x) (hfin : (T k).2.2.2 = true) (hin2 : meth.name = "<init>") (hdecl : (T k).1 = own)
    (hdg : decode cc pc = .ok (.putfield index, 3)) (he : h a = some (lab, cO ci fs)) (hl : k < fs.length) (hn : narrow (ty0 k) v = v) (hfit : fits (ty0 k) v = true)
    (kk : ∀ (H1 : Heap) (locs1 : List Loc), hWd g (hu h a (lab, cO ci (fs.set k v))) s H1 locs1 → W p l e R s m args below meth c H1 locs1 cells slots Q (F0 m (pc + 3) ls rest)) : W p l e R s m args below meth c H locs cells slots Q (F0 m pc ls (v :: .ref a :: rest)) := by
  have hts := S.2.2.2.2
  have hown := S.2.2.2.1
  have hap := va_apart (own := own) hts hin ty0 hty hnm hTs.1 hc
  obtain ⟨r, h1, cell, q1, q2, q3, q4⟩ := hW.1.at he
  have hr : r = (C, T, N) := Option.some.inj (h1.symm.trans hc)
  subst hr
  obtain ⟨hS, hfc, kC, hkC, hkind⟩ := hTs.1.1 ci _ hc
  obtain ⟨cf, kf, fi, f, hi, hsl⟩ := hS k hk
  have hlay := hts _ (hin _ (u_in_lay hk))
  unfold u_lay at hlay
  rw [if_pos hfin] at hlay
  have hst := (u_facts hfc hkC (u_lays hts hin hk) hi).1
  have hcf : m.cls = cf := by
    obtain ⟨_, _, c', _, _, _, -, -, hf', -, -, -, hown2, -⟩ := Cond.laysFinal_spec hlay
    have e1 : c' = cf := by have := hi.symm.trans hf'; simp at this; exact this.1.symm
    rw [hdecl] at hown2
    rw [← e1]; exact Option.some.inj (hown.symm.trans hown2)
  have h6 := u_fits hfc hkC hkind (Or.inr hlay) hi (hty k hk) hn hfit
  refine W.putFinK S.1 S.2.1 hown (hts _ hlink) (hsame _ hi) hst hcf hin2 (by rw [q2]; exact h6) q1 q3 (by rw [hsl]; exact k2_hasslot (q4 k hk)) rfl rfl hdg fun H' e1 e2 e3 => ?_
  have hat : va_at g.1 hCl (a, .inr (ci, fs.set k v)) H' := ⟨_, hc, t_OB.to (V := updV (vp_V fs) k v) ⟨_, e1, q2, q3, by rw [hsl]; exact t_set q4 hap hk v⟩ (fun j _ => vp_updV_set hl v j)⟩
  exact kk H' _ (h_putH hW he hat (fun _ => hEq.o) e2 e3 (h_elO hat))
/-- a cell comes: the world -/
theorem h_pushW {H1 : Heap} {e' : va_E} (lab' : hLab) (hW : hWd g h s H locs) (hat : va_at g.1 hCl (H.size, e') H1) (hq : hEq g H1 e') (hz : H1.size = H.size + 1) (ho : ∀ q : Nat, q < H.size → H1[q]? = H[q]?) : hWd g (hu h H.size (lab', .inl e')) s H1 locs :=
  ⟨hW.1.push hat hq hz ho, ⟨Nat.le_trans hW.2.1 (by omega), fun x h1 h2 => (ho x (Nat.lt_of_lt_of_le h1 hW.2.1)).trans (hW.2.2.1 x h1 h2), hW.2.2.2⟩⟩
theorem h_new (lab' : hLab) (S : CallFix p m c cc nL s args lw_all own) (hTs : hT g s) (hW : hWd g h s H locs) (hin : ∀ w ∈ u_ws C T N, w ∈ lw_all) (ty : Nat → FieldType) (hty : ∀ k, k < N → parseFieldDescriptor (T k).2.2.1 = some (ty k)) (hc : hCl[ci]? = some (C, T, N)) (hcl : (Cond.classLink own index C) ∈ lw_all) (hinst : (Cond.instantiable C N) ∈ lw_all) (hini : (Cond.initialized C) ∈ lw_all) (hfs : ∀ j, j < N → defaultValue (ty j) = vp_V fs j)
    (hdg : decode cc pc = .ok (.new index, 3)) (hcells : cells + 1 ≤ R.cells) (hslots : slots + N ≤ R.slots)
    (kk : ∀ (q : Nat) (H1 : Heap), h q = none → hWd g (hu h q (lab', cO ci fs)) s H1 locs → W p l e R s m args below meth c H1 locs (cells + 1) (slots + N) Q (F0 m (pc + 3) ls (.ref q :: rest))) : W p l e R s m args below meth c H locs cells slots Q (F0 m pc ls rest) := by
  have hKn := hTs.1.1 ci _ hc
  have hts := S.2.2.2.2
  refine W.newcK S.1 S.2.1 S.2.2.2.1 (hts _ hcl) (hts _ hinst) (hts _ hini) rfl hdg hcells hslots hKn.2.1 rfl fun H1 kC hkC e1 z1 o1 => ?_
  exact kk H.size H1 hW.1.fresh (h_pushW lab' hW ⟨_, hc, (u_born ty hts hin hKn hkC e1 hty).to hfs⟩ hEq.o z1 o1)
/-! arrays of ints -/
theorem h_tyI (hTs : hT g s) : ArrOfT s (gA g 0) .int ∧ va_RA s (gA g 0) .int := hTs.1.2 0 _ rfl
theorem h_tyO (hTs : hT g s) : ArrOfT s (gA g 1) (.object "java/lang/Object") ∧ va_RA s (gA g 1) (.object "java/lang/Object") := hTs.1.2 1 _ rfl
theorem h_tyII (hTs : hT g s) : ArrOfT s (gA g 2) (.array .int) ∧ va_RA s (gA g 2) (.array .int) := hTs.1.2 2 _ rfl
theorem h_tyB (hTs : hT g s) : ArrOfT s (gA g 3) .byte ∧ va_RA s (gA g 3) .byte := hTs.1.2 3 _ rfl
theorem h_iald {n : Nat} {f : Nat → Int32} {i : Int32} (S : CallFix p m c cc nL s args lw_all own) (hTs : hT g s) (hW : hWd g h s H locs) (hdg : decode cc pc = .ok (.iaload, 1)) (he : h a = some (lab, cI g n f)) (hin : vp_in i n)
    (kk : W p l e R s m args below meth c H locs cells slots Q (F0 m (pc + 1) ls (.int (f i.toNatClampNeg) :: rest))) : W p l e R s m args below meth c H locs cells slots Q (F0 m pc ls (.int i :: .ref a :: rest)) := by
  have hlt : i.toNatClampNeg < n := Nat.not_le.mp fun q => hin (Or.inr q)
  exact W.iald (v := .int (f i.toNatClampNeg)) S.1 S.2.1 (hW.1.at he) ((h_tyI hTs).1 n (fun j => .int (f j))) (fun q => by cases q) (by show ¬ (i < 0 ∨ (arrV _ _ _).slots.size ≤ _); rw [arrV_size]; exact hin) (by show (arrV _ _ _).slots[_]? = _; rw [arrV_read _ _ hlt]) rfl rfl hdg kk
theorem h_iaN {n j : Nat} {f : Nat → Int32} (S : CallFix p m c cc nL s args lw_all own) (hTs : hT g s) (hW : hWd g h s H locs) (hdg : decode cc pc = .ok (.iaload, 1)) (he : h a = some (lab, cI g n f)) (hj : j < n) (hn : n < 2 ^ 31)
    (kk : W p l e R s m args below meth c H locs cells slots Q (F0 m (pc + 1) ls (.int (f j) :: rest))) : W p l e R s m args below meth c H locs cells slots Q (F0 m pc ls (.int (nI j) :: .ref a :: rest)) := by
  refine h_iald S hTs hW hdg he (vp_in_nI hj hn) ?_
  rw [nI_clamp (by omega)]
  exact kk
theorem h_iast {n : Nat} {f : Nat → Int32} {i x : Int32} (S : CallFix p m c cc nL s args lw_all own) (hTs : hT g s) (hW : hWd g h s H locs) (hdg : decode cc pc = .ok (.iastore, 1)) (he : h a = some (lab, cI g n f)) (hin : vp_in i n)
    (kk : ∀ (H1 : Heap) (locs1 : List Loc), hWd g (hu h a (lab, cI g n (upd f i.toNatClampNeg x))) s H1 locs1 → W p l e R s m args below meth c H1 locs1 cells slots Q (F0 m (pc + 1) ls rest)) : W p l e R s m args below meth c H locs cells slots Q (F0 m pc ls (.int x :: .int i :: .ref a :: rest)) := by
  refine W.iast S.1 S.2.1 (hW.1.at he) ((h_tyI hTs).1 n (fun j => .int (f j))) (fun q => by cases q) (by show ¬ (i < 0 ∨ (arrV _ _ _).slots.size ≤ _); rw [arrV_size]; exact hin) rfl rfl hdg fun H1 e z oq => ?_
  have hat : va_at g.1 hCl (a, .inl (gA g 0, n, .inl (upd f i.toNatClampNeg x))) H1 := by
    show H1[a]? = some (vp_cell _ _)
    rw [e]
    rw [vp_cell_i, vp_cell_i, arrV_store]
    congr 2
    funext q
    by_cases hq : q = i.toNatClampNeg
    · subst hq
      simp [updV, upd]
    · simp [updV, upd, hq]
  exact kk H1 _ (h_putH hW he hat (fun _ => hEq.i) z oq (fun _ _ _ => hAs.at hat (Or.inr ⟨_, rfl⟩)))
theorem h_iasN {n j : Nat} {f : Nat → Int32} {x : Int32} (S : CallFix p m c cc nL s args lw_all own) (hTs : hT g s) (hW : hWd g h s H locs) (hdg : decode cc pc = .ok (.iastore, 1)) (he : h a = some (lab, cI g n f)) (hj : j < n) (hn : n < 2 ^ 31)
    (kk : ∀ (H1 : Heap) (locs1 : List Loc), hWd g (hu h a (lab, cI g n (upd f j x))) s H1 locs1 → W p l e R s m args below meth c H1 locs1 cells slots Q (F0 m (pc + 1) ls rest)) : W p l e R s m args below meth c H locs cells slots Q (F0 m pc ls (.int x :: .int (nI j) :: .ref a :: rest)) := by
  refine h_iast S hTs hW hdg he (vp_in_nI hj hn) ?_
  rw [nI_clamp (by omega)]
  exact kk
theorem h_alenI {n : Nat} {f : Nat → Int32} (S : CallFix p m c cc nL s args lw_all own) (hTs : hT g s) (hW : hWd g h s H locs) (hdg : decode cc pc = .ok (.arraylength, 1)) (he : h a = some (lab, cI g n f))
    (kk : W p l e R s m args below meth c H locs cells slots Q (F0 m (pc + 1) ls (.int (nI n) :: rest))) : W p l e R s m args below meth c H locs cells slots Q (F0 m pc ls (.ref a :: rest)) :=
  W.alen (n := Int32.ofNat n) S.1 S.2.1 (hW.1.at he) ((h_tyI hTs).1 n (fun j => .int (f j))) (by rw [vp_cell_i, arrV_size] <;> rfl) rfl rfl hdg kk
theorem h_alenO {n : Nat} {f : Nat → Option Nat} (S : CallFix p m c cc nL s args lw_all own) (hTs : hT g s) (hW : hWd g h s H locs) (hdg : decode cc pc = .ok (.arraylength, 1)) (he : h a = some (lab, cQ g 1 n f))
    (kk : W p l e R s m args below meth c H locs cells slots Q (F0 m (pc + 1) ls (.int (nI n) :: rest))) : W p l e R s m args below meth c H locs cells slots Q (F0 m pc ls (.ref a :: rest)) :=
  W.alen (n := Int32.ofNat n) S.1 S.2.1 (hW.1.at he) ((h_tyO hTs).1 n (fun j => va_rf (f j))) (by rw [vp_cell_q, arrV_size] <;> rfl) rfl rfl hdg kk
theorem h_alenII {n : Nat} {f : Nat → Option Nat} (S : CallFix p m c cc nL s args lw_all own) (hTs : hT g s) (hW : hWd g h s H locs) (hdg : decode cc pc = .ok (.arraylength, 1)) (he : h a = some (lab, cQ g 2 n f))
    (kk : W p l e R s m args below meth c H locs cells slots Q (F0 m (pc + 1) ls (.int (nI n) :: rest))) : W p l e R s m args below meth c H locs cells slots Q (F0 m pc ls (.ref a :: rest)) :=
  W.alen (n := Int32.ofNat n) S.1 S.2.1 (hW.1.at he) ((h_tyII hTs).1 n (fun j => va_rf (f j))) (by rw [vp_cell_q, arrV_size] <;> rfl) rfl rfl hdg kk
/-- a new int array -/
theorem h_newI (lab' : hLab) {n : Nat} (S : CallFix p m c cc nL s args lw_all own) (hTs : hT g s) (hW : hWd g h s H locs) (harr : (Cond.arrayClass (.int)) ∈ lw_all) (hdg : decode cc pc = .ok (.newarray .int, 2)) (hn : n < 2 ^ 20) (hcells : cells + 1 ≤ R.cells) (hslots : slots + n ≤ R.slots)
    (kk : ∀ (q : Nat) (H1 : Heap), h q = none → hWd g (hu h q (lab', cI g n (fun _ => 0))) s H1 locs → W p l e R s m args below meth c H1 locs (cells + 1) (slots + n) Q (F0 m (pc + 2) ls (.ref q :: rest))) : W p l e R s m args below meth c H locs cells slots Q (F0 m pc ls (.int (nI n) :: rest)) := by
  refine va_newaK (atype := .int) S.1 S.2.1 (S.2.2.2.2 _ harr) rfl hdg rfl (nI_pos (by omega)) (nI_clamp (by omega)) (by show n * 4 ≤ _; omega) hcells hslots rfl fun H1 cA e1 z1 o1 hAr hNm => ?_
  have hcA : cA = gA g 0 := Option.some.inj (hNm.symm.trans (h_tyI hTs).2)
  subst hcA
  exact kk H.size H1 hW.1.fresh (h_pushW lab' hW (by show H1[H.size]? = some (vp_cell _ _); rw [vp_cell_i]; exact e1) hEq.i z1 o1)
/-- a new array of bytes -/
theorem h_newB (lab' : hLab) {n : Nat} (S : CallFix p m c cc nL s args lw_all own) (hTs : hT g s) (hW : hWd g h s H locs) (harr : (Cond.arrayClass (.byte)) ∈ lw_all) (hdg : decode cc pc = .ok (.newarray .byte, 2)) (hn : n < 2 ^ 20) (hcells : cells + 1 ≤ R.cells) (hslots : slots + n ≤ R.slots)
    (kk : ∀ (q : Nat) (H1 : Heap), h q = none → hWd g (hu h q (lab', cB g n (fun _ => 0))) s H1 locs → W p l e R s m args below meth c H1 locs (cells + 1) (slots + n) Q (F0 m (pc + 2) ls (.ref q :: rest))) : W p l e R s m args below meth c H locs cells slots Q (F0 m pc ls (.int (nI n) :: rest)) := by
  refine va_newaK (atype := .byte) S.1 S.2.1 (S.2.2.2.2 _ harr) rfl hdg rfl (nI_pos (by omega)) (nI_clamp (by omega)) (by show n * 1 ≤ _; omega) hcells hslots rfl fun H1 cA e1 z1 o1 hAr hNm => ?_
  have hcA : cA = gA g 3 := Option.some.inj (hNm.symm.trans (h_tyB hTs).2)
  subst hcA
  exact kk H.size H1 hW.1.fresh (h_pushW lab' hW (by show H1[H.size]? = some (vp_cell _ _); rw [vp_cell_i]; exact e1) hEq.i z1 o1)
/-! arrays of objects: the lists' own -/
theorem h_aldO {n : Nat} {f : Nat → Option Nat} {i : Int32} (S : CallFix p m c cc nL s args lw_all own) (hTs : hT g s) (hW : hWd g h s H locs) (hdg : decode cc pc = .ok (.aaload, 1)) (he : h a = some (lab, cQ g 1 n f)) (hin : vp_in i n)
    (kk : W p l e R s m args below meth c H locs cells slots Q (F0 m (pc + 1) ls (va_rf (f i.toNatClampNeg) :: rest))) : W p l e R s m args below meth c H locs cells slots Q (F0 m pc ls (.int i :: .ref a :: rest)) := by
  have hlt : i.toNatClampNeg < n := Nat.not_le.mp fun q => hin (Or.inr q)
  exact W.aald (v := va_rf (f i.toNatClampNeg)) (ty := .object "java/lang/Object") S.1 S.2.1 (hW.1.at he) ((h_tyO hTs).1 n (fun j => va_rf (f j))) rfl (fun q => by cases q) (by show ¬ (i < 0 ∨ (arrV _ _ _).slots.size ≤ _); rw [arrV_size]; exact hin) (by show (arrV _ _ _).slots[_]? = _; rw [arrV_read _ _ hlt]) rfl rfl hdg kk
theorem h_aldON {n j x : Nat} {f : Nat → Option Nat} (S : CallFix p m c cc nL s args lw_all own) (hTs : hT g s) (hW : hWd g h s H locs) (hdg : decode cc pc = .ok (.aaload, 1)) (he : h a = some (lab, cQ g 1 n f)) (hj : j < n) (hn : n < 2 ^ 31) (hx : f j = some x)
    (kk : W p l e R s m args below meth c H locs cells slots Q (F0 m (pc + 1) ls (.ref x :: rest))) : W p l e R s m args below meth c H locs cells slots Q (F0 m pc ls (.int (nI j) :: .ref a :: rest)) := by
  refine h_aldO S hTs hW hdg he (vp_in_nI hj hn) ?_
  rw [nI_clamp (by omega), hx]
  exact kk
theorem h_aldIIN {n j x : Nat} {f : Nat → Option Nat} (S : CallFix p m c cc nL s args lw_all own) (hTs : hT g s) (hW : hWd g h s H locs) (hdg : decode cc pc = .ok (.aaload, 1)) (he : h a = some (lab, cQ g 2 n f)) (hj : j < n) (hn : n < 2 ^ 31) (hx : f j = some x)
    (kk : W p l e R s m args below meth c H locs cells slots Q (F0 m (pc + 1) ls (.ref x :: rest))) : W p l e R s m args below meth c H locs cells slots Q (F0 m pc ls (.int (nI j) :: .ref a :: rest)) := by
  have hc : (nI j).toNatClampNeg = j := nI_clamp (by omega)
  have hin : vp_in (nI j) n := vp_in_nI hj hn
  refine W.aald (v := .ref x) (ty := .array .int) S.1 S.2.1 (hW.1.at he) ((h_tyII hTs).1 n (fun j => va_rf (f j))) rfl (fun q => by cases q) (by show ¬ (nI j < 0 ∨ (arrV _ _ _).slots.size ≤ _); rw [arrV_size]; exact hin) (by show (arrV _ _ _).slots[_]? = _; rw [hc, arrV_read _ _ hj, hx]; rfl) rfl rfl hdg kk
theorem h_castI {n : Nat} {f : Nat → Int32} (S : CallFix p m c cc nL s args lw_all own) (hTs : hT g s) (hW : hWd g h s H locs) (hlink : (Cond.classLink own index "[I") ∈ lw_all) (hdg : decode cc pc = .ok (.checkcast index, 3)) (he : h a = some (lab, cI g n f))
    (kk : W p l e R s m args below meth c H locs cells slots Q (F0 m (pc + 3) ls (.ref a :: rest))) : W p l e R s m args below meth c H locs cells slots Q (F0 m pc ls (.ref a :: rest)) :=
  va_castA (D := g.1) (cl := hCl) (ws := [(a, .inl (gA g 0, n, .inl f))]) S.1 S.2.1 S.2.2.2.1 (S.2.2.2.2 _ hlink) (fun k q hq => by
    have hz : k < 1 := (List.getElem?_eq_some_iff.mp hq).1
    rw [show k = 0 by omega] at hq
    cases hq
    exact hW.1.at he) 0 rfl (h_tyI hTs).2 hdg kk
end HF
