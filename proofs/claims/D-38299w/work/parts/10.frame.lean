/-! FRAME: an abstract heap over the machine's: labelled cells, lists as values -/
def hCl : List vw_C := [(RJ2, TJ2, 3), (RJ4, TJ4, 1), (RJ18, TJ18, 4), (RJ20, TJ20, 1), (RJ22, TJ22, 4), (RJ15, TJ15, 4), (RX1, TX1, 8), (RX2, TX2, 2), (RX3, TX3, 9), (RX4, TX4, 2), (RX5, TX5, 10), (RX6, TX6, 10), (RX7, TX7, 5), (RX8, TX8, 4), (RX9, TX9, 8), (RX10, TX10, 8), (RX11, TX11, 9), (RX12, TX12, 1), (RX13, TX13, 7), (RX14, TX14, 6), (RX15, TX15, 2), (RX16, TX16, 5), (RX17, TX17, 1)]
/-- the run's constants: type numbers and slots, array types, the first address of the run, addresses of constants -/
abbrev hG : Type := va_G × (Nat → ClassId) × Nat × (Nat → Nat)
def gsz (g : hG) : Nat := g.2.2.1
def gA (g : hG) (k : Nat) : ClassId := g.2.1 k
def gs (g : hG) (k : Nat) : Nat := g.2.2.2 k
def hTys (g : hG) : List (ClassId × FieldType) := [(gA g 0, .int), (gA g 1, .object "java/lang/Object"), (gA g 2, .array .int), (gA g 3, .byte)]
def hFr (g : hG) : Nat → Prop := fun q => gsz g ≤ q
abbrev hLab : Type := Nat × Nat
abbrev hC : Type := va_E ⊕ (Int32 × Nat × List Nat)
abbrev hA : Type := Nat → Option (hLab × hC)
/-- an object, an int array, an array of references, a list, as a cell's content -/
abbrev cO (ci : Nat) (fs : List Value) : hC := .inl (.inr (ci, fs))
abbrev cI (g : hG) (n : Nat) (f : Nat → Int32) : hC := .inl (.inl (gA g 0, n, .inl f))
abbrev cB (g : hG) (n : Nat) (f : Nat → Int32) : hC := .inl (.inl (gA g 3, n, .inl f))
abbrev cQ (g : hG) (k : Nat) (n : Nat) (f : Nat → Option Nat) : hC := .inl (.inl (gA g k, n, .inr (.inr (.inr (.inr f)))))
abbrev cL (mc : Int32) (cap : Nat) (es : List Nat) : hC := .inr (mc, cap, es)
def hu (h : hA) (a : Nat) (x : hLab × hC) : hA := fun q => if q = a then some x else h q
def hdel (h : hA) (a : Nat) : hA := fun q => if q = a then none else h q
theorem hu_s (h : hA) (a : Nat) (x : hLab × hC) : hu h a x a = some x := if_pos rfl
theorem hu_n {h : hA} {a b : Nat} {x : hLab × hC} (n : b ≠ a) : hu h a x b = h b := if_neg n
theorem huu (h : hA) (a : Nat) (x y : hLab × hC) : hu (hu h a x) a y = hu h a y := by
  funext q
  by_cases e : q = a
  · rw [e, hu_s, hu_s]
  · rw [hu_n e, hu_n e, hu_n e]
theorem hu_id {h : hA} {a : Nat} {x : hLab × hC} (ha : h a = some x) : hu h a x = h := by
  funext q
  by_cases e : q = a
  · rw [e, hu_s, ha]
  · rw [hu_n e]
theorem hu_comm (h : hA) {a b : Nat} (n : a ≠ b) (x y : hLab × hC) : hu (hu h a x) b y = hu (hu h b y) a x := by
  funext q
  by_cases e : q = a
  · subst e
    rw [hu_n n, hu_s, hu_s]
  · by_cases e1 : q = b
    · subst e1
      rw [hu_s, hu_n e, hu_s]
    · rw [hu_n e1, hu_n e, hu_n e, hu_n e1]
theorem hne {h : hA} {a b : Nat} {la lb : hLab} {ca cb : hC} (ha : h a = some (la, ca)) (hb : h b = some (lb, cb)) (n : la ≠ lb) : a ≠ b := by
  intro e
  subst e
  rw [ha] at hb
  exact n (congrArg Prod.fst (Option.some.inj hb))
theorem hnec {h : hA} {a b : Nat} {la lb : hLab} {ca cb : hC} (ha : h a = some (la, ca)) (hb : h b = some (lb, cb)) (n : ca ≠ cb) : a ≠ b := by
  intro e
  subst e
  rw [ha] at hb
  exact n (congrArg Prod.snd (Option.some.inj hb))
/-- another cell's fact behind a write -/
theorem hu_o {h : hA} {a b : Nat} {la lb : hLab} {ca cb : hC} {x : hLab × hC} (hb : h b = some (lb, cb)) (ha : h a = some (la, ca)) (n : lb ≠ la) : hu h a x b = some (lb, cb) := (hu_n (hne hb ha n)).trans hb
theorem hu_new {h : hA} {a b : Nat} {lb : hLab} {cb : hC} {x : hLab × hC} (hb : h b = some (lb, cb)) (ha : h a = none) : hu h a x b = some (lb, cb) := by
  rw [hu_n (fun e => by rw [e, ha] at hb; cases hb)]
  exact hb
def hAs (g : hG) (c : ClassId) : Prop := (∃ ci, ci < 23 ∧ c = g.1.1 ci) ∨ c = gA g 0
def hEl (g : hG) (H : Heap) (x : Nat) : Prop := ∃ cell : Cell, H[x]? = some cell ∧ cell.vm.isStatics = false ∧ hAs g cell.cls
def hLi (g : hG) (H : Heap) (a d : Nat) (v : Int32 × Nat × List Nat) : Prop :=
  va_at g.1 hCl (a, .inr (0, [.int v.1, .ref d, .int (nI v.2.2.length)])) H ∧ v.2.2.length ≤ v.2.1 ∧ v.2.1 ≤ 65536 ∧ ∀ x ∈ v.2.2, hEl g H x
/-- what lies in an array of references may lie in a list -/
def hEq (g : hG) (H : Heap) (e : va_E) : Prop := ∀ (c : ClassId) (n : Nat) (f : Nat → Option Nat), e = .inl (c, n, .inr (.inr (.inr (.inr f)))) → ∀ (i y : Nat), i < n → f i = some y → hEl g H y
theorem hEq.o {g : hG} {H : Heap} {x : Nat × List Value} : hEq g H (.inr x) := fun _ _ _ e => by cases e
theorem hEq.i {g : hG} {H : Heap} {c : ClassId} {n : Nat} {f : Nat → Int32} : hEq g H (.inl (c, n, .inl f)) := fun _ _ _ e => by cases e
def hRep (g : hG) (dm : Nat → Nat) (h : hA) (H : Heap) : Prop :=
  (∀ (a : Nat) (lab : hLab) (e : va_E), h a = some (lab, .inl e) → gsz g ≤ a ∧ va_at g.1 hCl (a, e) H ∧ hEq g H e) ∧
  (∀ (a : Nat) (lab : hLab) (v : Int32 × Nat × List Nat), h a = some (lab, .inr v) → gsz g ≤ a ∧ hLi g H a (dm a) v ∧ (v.2.1 = 0 → dm a = gs g 0) ∧ (0 < v.2.1 → gsz g ≤ dm a ∧ h (dm a) = none ∧ H[dm a]? = some (vp_cell (gA g 1) (v.2.1, .inr (.inr (.inr (.inr (fun i => v.2.2[i]?)))))))) ∧
  (∀ (a b : Nat) (la lb : hLab) (va vb : Int32 × Nat × List Nat), h a = some (la, .inr va) → h b = some (lb, .inr vb) → 0 < va.2.1 → 0 < vb.2.1 → dm a = dm b → a = b)
def hHeap (g : hG) (h : hA) (H : Heap) : Prop := gsz g ≤ H.size ∧ ∃ dm : Nat → Nat, hRep g dm h H
theorem hAs.at {g : hG} {H : Heap} {a : Nat} {e : va_E} (h : va_at g.1 hCl (a, e) H) (he : (∃ ci fs, e = .inr (ci, fs)) ∨ ∃ x, e = .inl (gA g 0, x)) : hEl g H a := by
  rcases he with ⟨ci, fs, rfl⟩ | ⟨⟨n, f | f | f | f | f⟩, rfl⟩
  · obtain ⟨r, hr, cell, h1, h2, h3, -⟩ := h
    refine ⟨cell, h1, by rw [h3]; rfl, Or.inl ⟨ci, ?_, h2⟩⟩
    exact (List.getElem?_eq_some_iff.mp hr).1
  all_goals exact ⟨_, h, rfl, Or.inr rfl⟩
theorem hHeap.sz {g : hG} {h : hA} {H : Heap} (hH : hHeap g h H) : gsz g ≤ H.size := hH.1
theorem hHeap.lt {g : hG} {h : hA} {H : Heap} (hH : hHeap g h H) {a : Nat} {x : hLab × hC} (ha : h a = some x) : a < H.size := by
  obtain ⟨-, dm, h1, h2, -⟩ := hH
  obtain ⟨lab, e | v⟩ := x
  · exact (h1 a lab e ha).2.1.lt
  · exact (h2 a lab v ha).2.1.1.lt
theorem hHeap.fr {g : hG} {h : hA} {H : Heap} (hH : hHeap g h H) {a : Nat} {x : hLab × hC} (ha : h a = some x) : gsz g ≤ a := by
  obtain ⟨-, dm, h1, h2, -⟩ := hH
  obtain ⟨lab, e | v⟩ := x
  · exact (h1 a lab e ha).1
  · exact (h2 a lab v ha).1
theorem hHeap.fresh {g : hG} {h : hA} {H : Heap} (hH : hHeap g h H) : h H.size = none := by
  cases hx : h H.size with
  | none => rfl
  | some x => exact absurd (hH.lt hx) (Nat.lt_irrefl _)
theorem hHeap.at {g : hG} {h : hA} {H : Heap} (hH : hHeap g h H) {a : Nat} {lab : hLab} {e : va_E} (ha : h a = some (lab, .inl e)) : va_at g.1 hCl (a, e) H := by
  obtain ⟨-, dm, h1, -, -⟩ := hH
  exact (h1 a lab e ha).2.1
theorem hHeap.eq {g : hG} {h : hA} {H : Heap} (hH : hHeap g h H) {a : Nat} {lab : hLab} {e : va_E} (ha : h a = some (lab, .inl e)) : hEq g H e := by
  obtain ⟨-, dm, h1, -, -⟩ := hH
  exact (h1 a lab e ha).2.2
/-- what is known less of stays known -/
theorem hHeap.less {g : hG} {h h' : hA} {H : Heap} (hH : hHeap g h H) (hl : ∀ a x, h' a = some x → h a = some x) : hHeap g h' H := by
  obtain ⟨hz, dm, h1, h2, h3⟩ := hH
  refine ⟨hz, dm, fun a lab e ha => h1 a lab e (hl _ _ ha), fun a lab v ha => ?_, fun a b la lb va vb ha hb => h3 a b la lb va vb (hl _ _ ha) (hl _ _ hb)⟩
  obtain ⟨q1, q2, q3, q4⟩ := h2 a lab v (hl _ _ ha)
  refine ⟨q1, q2, q3, fun hc => ?_⟩
  obtain ⟨r1, r2, r3⟩ := q4 hc
  refine ⟨r1, ?_, r3⟩
  cases hx : h' (dm a) with
  | none => rfl
  | some x => rw [hl _ _ hx] at r2; cases r2
theorem hEl.kept {g : hG} {H H1 : Heap} {x : Nat} (h : hEl g H x) (hk : H1[x]? = H[x]?) : hEl g H1 x := by
  obtain ⟨cell, h1, h2⟩ := h
  exact ⟨cell, by rw [hk]; exact h1, h2⟩
theorem hLi.kept {g : hG} {H H1 : Heap} {a d : Nat} {v : Int32 × Nat × List Nat} (h : hLi g H a d v) (ha : H1[a]? = H[a]?) (hx : ∀ x ∈ v.2.2, hEl g H1 x) : hLi g H1 a d v :=
  ⟨h.1.kept ha, h.2.1, h.2.2.1, hx⟩
/-- a cell of ours is written: its kind stays -/
theorem hHeap.put {g : hG} {h : hA} {H H1 : Heap} {a : Nat} {lab lab' : hLab} {e e' : va_E} (hH : hHeap g h H) (ha : h a = some (lab, .inl e)) (he : va_at g.1 hCl (a, e') H1) (hq : (∀ x, hEl g H x → hEl g H1 x) → hEq g H1 e') (hz : H1.size = H.size) (ho : ∀ q : Nat, q ≠ a → H1[q]? = H[q]?)
    (hk : ∀ x, hEl g H x → x = a → hEl g H1 a) : hHeap g (hu h a (lab', .inl e')) H1 := by
  obtain ⟨hz0, dm, h1, h2, h3⟩ := hH
  have hel : ∀ x, hEl g H x → hEl g H1 x := fun x hx => by
    by_cases e0 : x = a
    · have := hk x hx e0
      rw [e0]; exact this
    · exact hx.kept (ho x e0)
  refine ⟨by rw [hz]; exact hz0, dm, fun b l2 e2 hb => ?_, fun b l2 v hb => ?_, fun b c lb lc vb vc hb hc => ?_⟩
  · by_cases e0 : b = a
    · subst e0
      rw [hu_s] at hb
      cases hb
      exact ⟨(h1 b lab e ha).1, he, hq hel⟩
    · rw [hu_n e0] at hb
      exact ⟨(h1 b l2 e2 hb).1, (h1 b l2 e2 hb).2.1.kept (ho b e0), fun c n f ee i y hi hy => hel y ((h1 b l2 e2 hb).2.2 c n f ee i y hi hy)⟩
  · have e0 : b ≠ a := fun e0 => by rw [e0, hu_s] at hb; cases hb
    rw [hu_n e0] at hb
    obtain ⟨q1, q2, q3, q4⟩ := h2 b l2 v hb
    refine ⟨q1, q2.kept (ho b e0) (fun x hx => hel x (q2.2.2.2 x hx)), q3, fun hc => ?_⟩
    obtain ⟨r1, r2, r3⟩ := q4 hc
    have e1 : dm b ≠ a := fun e1 => by rw [e1, ha] at r2; cases r2
    exact ⟨r1, by rw [hu_n e1]; exact r2, by rw [ho _ e1]; exact r3⟩
  · have e0 : b ≠ a := fun e0 => by rw [e0, hu_s] at hb; cases hb
    have e1 : c ≠ a := fun e0 => by rw [e0, hu_s] at hc; cases hc
    rw [hu_n e0] at hb
    rw [hu_n e1] at hc
    exact h3 b c lb lc vb vc hb hc
/-- a cell comes -/
theorem hHeap.push {g : hG} {h : hA} {H H1 : Heap} {lab : hLab} {e : va_E} (hH : hHeap g h H) (he : va_at g.1 hCl (H.size, e) H1) (hq : hEq g H1 e) (hz : H1.size = H.size + 1) (ho : ∀ q : Nat, q < H.size → H1[q]? = H[q]?) : hHeap g (hu h H.size (lab, .inl e)) H1 := by
  have hf := hH.fresh
  have hlt := fun {a x} (ha : h a = some x) => hH.lt ha
  obtain ⟨hz0, dm, h1, h2, h3⟩ := hH
  have hel : ∀ x, hEl g H x → hEl g H1 x := fun x hx => by
    obtain ⟨cell, c1, c2⟩ := hx
    exact ⟨cell, by rw [ho x (Array.getElem?_eq_some_iff.mp c1).1]; exact c1, c2⟩
  refine ⟨by omega, dm, fun b l2 e2 hb => ?_, fun b l2 v hb => ?_, fun b c lb lc vb vc hb hc => ?_⟩
  · by_cases e0 : b = H.size
    · subst e0
      rw [hu_s] at hb
      cases hb
      exact ⟨hz0, he, hq⟩
    · rw [hu_n e0] at hb
      exact ⟨(h1 b l2 e2 hb).1, (h1 b l2 e2 hb).2.1.kept (ho b (hlt hb)), fun c n f ee i y hi hy => hel y ((h1 b l2 e2 hb).2.2 c n f ee i y hi hy)⟩
  · have e0 : b ≠ H.size := fun e0 => by rw [e0, hu_s] at hb; cases hb
    rw [hu_n e0] at hb
    obtain ⟨q1, q2, q3, q4⟩ := h2 b l2 v hb
    refine ⟨q1, q2.kept (ho b (hlt hb)) (fun x hx => hel x (q2.2.2.2 x hx)), q3, fun hc => ?_⟩
    obtain ⟨r1, r2, r3⟩ := q4 hc
    have e1 : dm b < H.size := (Array.getElem?_eq_some_iff.mp r3).1
    exact ⟨r1, by rw [hu_n (Nat.ne_of_lt e1)]; exact r2, by rw [ho _ e1]; exact r3⟩
  · have e0 : b ≠ H.size := fun e0 => by rw [e0, hu_s] at hb; cases hb
    have e1 : c ≠ H.size := fun e0 => by rw [e0, hu_s] at hc; cases hc
    rw [hu_n e0] at hb
    rw [hu_n e1] at hc
    exact h3 b c lb lc vb vc hb hc
/-- a list seen as its object and its array -/
theorem hHeap.opn {g : hG} {h : hA} {H : Heap} {a : Nat} {lab : hLab} {m : Int32} {cap : Nat} {es : List Nat} (hH : hHeap g h H) (ha : h a = some (lab, cL m cap es)) (hc : 0 < cap) :
    ∃ d, h d = none ∧ d ≠ a ∧ hHeap g (hu (hu h d ((0, 0), cQ g 1 cap (fun i => es[i]?))) a (lab, cO 0 [.int m, .ref d, .int (nI es.length)])) H := by
  obtain ⟨hz0, dm, h1, h2, h3⟩ := hH
  obtain ⟨q1, q2, q3, q4⟩ := h2 a lab _ ha
  obtain ⟨r1, r2, r3⟩ := q4 hc
  have hda : dm a ≠ a := fun e => by rw [e, ha] at r2; cases r2
  refine ⟨dm a, r2, hda, hz0, dm, fun b l2 e2 hb => ?_, fun b l2 v hb => ?_, fun b c lb lc vb vc hb hc' => ?_⟩
  · by_cases e0 : b = a
    · subst e0
      rw [hu_s] at hb
      cases hb
      exact ⟨q1, q2.1, hEq.o⟩
    · rw [hu_n e0] at hb
      by_cases e1 : b = dm a
      · subst e1
        rw [hu_s] at hb
        cases hb
        exact ⟨r1, r3, fun c n f ee i y hi hy => by cases ee; exact q2.2.2.2 y (List.mem_of_getElem? hy)⟩
      · rw [hu_n e1] at hb
        exact h1 b l2 e2 hb
  · have e0 : b ≠ a := fun e0 => by rw [e0, hu_s] at hb; cases hb
    rw [hu_n e0] at hb
    have e1 : b ≠ dm a := fun e0 => by rw [e0, hu_s] at hb; cases hb
    rw [hu_n e1] at hb
    obtain ⟨p1, p2, p3, p4⟩ := h2 b l2 v hb
    refine ⟨p1, p2, p3, fun hv => ?_⟩
    obtain ⟨s1, s2, s3⟩ := p4 hv
    have e2 : dm b ≠ dm a := fun e => e0 (h3 b a l2 lab v _ hb ha hv hc e)
    have e3 : dm b ≠ a := fun e => by rw [e, ha] at s2; cases s2
    exact ⟨s1, by rw [hu_n e3, hu_n e2]; exact s2, s3⟩
  · have e0 : b ≠ a := fun e0 => by rw [e0, hu_s] at hb; cases hb
    rw [hu_n e0] at hb
    have e1 : b ≠ dm a := fun e0 => by rw [e0, hu_s] at hb; cases hb
    rw [hu_n e1] at hb
    have e2 : c ≠ a := fun e0 => by rw [e0, hu_s] at hc'; cases hc'
    rw [hu_n e2] at hc'
    have e3 : c ≠ dm a := fun e0 => by rw [e0, hu_s] at hc'; cases hc'
    rw [hu_n e3] at hc'
    exact h3 b c lb lc vb vc hb hc'
theorem hHeap.opn0 {g : hG} {h : hA} {H : Heap} {a : Nat} {lab : hLab} {m : Int32} {es : List Nat} (hH : hHeap g h H) (ha : h a = some (lab, cL m 0 es)) :
    es = [] ∧ hHeap g (hu h a (lab, cO 0 [.int m, .ref (gs g 0), .int 0])) H := by
  obtain ⟨hz0, dm, h1, h2, h3⟩ := hH
  obtain ⟨q1, q2, q3, -⟩ := h2 a lab _ ha
  have he : es = [] := List.eq_nil_of_length_eq_zero (Nat.le_zero.mp q2.2.1)
  subst he
  refine ⟨rfl, hz0, dm, fun b l2 e2 hb => ?_, fun b l2 v hb => ?_, fun b c lb lc vb vc hb hc' => ?_⟩
  · by_cases e0 : b = a
    · subst e0
      rw [hu_s] at hb
      cases hb
      refine ⟨q1, ?_, hEq.o⟩
      have := q2.1
      rw [q3 rfl] at this
      exact this
    · rw [hu_n e0] at hb
      exact h1 b l2 e2 hb
  · have e0 : b ≠ a := fun e0 => by rw [e0, hu_s] at hb; cases hb
    rw [hu_n e0] at hb
    obtain ⟨p1, p2, p3, p4⟩ := h2 b l2 v hb
    refine ⟨p1, p2, p3, fun hv => ?_⟩
    obtain ⟨s1, s2, s3⟩ := p4 hv
    have e3 : dm b ≠ a := fun e => by rw [e, ha] at s2; cases s2
    exact ⟨s1, by rw [hu_n e3]; exact s2, s3⟩
  · have e0 : b ≠ a := fun e0 => by rw [e0, hu_s] at hb; cases hb
    rw [hu_n e0] at hb
    have e2 : c ≠ a := fun e0 => by rw [e0, hu_s] at hc'; cases hc'
    rw [hu_n e2] at hc'
    exact h3 b c lb lc vb vc hb hc'
theorem arrV_cong {cA : ClassId} {n : Nat} {f f' : Nat → Value} (h : ∀ i, i < n → f i = f' i) : arrV cA n f = arrV cA n f' := by
  unfold arrV
  congr 1
  apply Array.ext
  · simp
  · intro i h1 h2
    simp only [Array.getElem_ofFn]
    exact h i (by simpa using h1)
/-- .. and seen as a list again -/
theorem hHeap.shut {g : hG} {h : hA} {H : Heap} {a d : Nat} {lab lab' : hLab} {m : Int32} {cap n : Nat} {f : Nat → Option Nat} (es : List Nat) (hH : hHeap g h H) (ha : h a = some (lab, cO 0 [.int m, .ref d, .int (nI n)])) (hd : h d = some (lab', cQ g 1 cap f)) (hc : 0 < cap) (hn : es.length = n) (hle : n ≤ cap) (hcap : cap ≤ 65536) (hf : ∀ i, i < cap → f i = es[i]?) :
    hHeap g (hu (hdel h d) a (lab, cL m cap es)) H := by
  subst hn
  obtain ⟨hz0, dm, h1, h2, h3⟩ := hH
  obtain ⟨q1, q2, -⟩ := h1 a lab _ ha
  obtain ⟨r1, r2, rq⟩ := h1 d lab' _ hd
  have hes : ∀ x ∈ es, hEl g H x := fun x hx => by
    obtain ⟨i, hi⟩ := List.getElem?_of_mem hx
    have hlt : i < cap := Nat.lt_of_lt_of_le (List.getElem?_eq_some_iff.mp hi).1 hle
    exact rq _ _ _ rfl i x hlt (by rw [hf i hlt]; exact hi)
  have hda : d ≠ a := hnec hd ha (fun e => by cases e)
  have hr : H[d]? = some (vp_cell (gA g 1) (cap, .inr (.inr (.inr (.inr (fun i => es[i]?)))))) := by
    have r3 : H[d]? = some (vp_cell (gA g 1) (cap, .inr (.inr (.inr (.inr f))))) := r2
    rw [r3, vp_cell_q, vp_cell_q, arrV_cong (fun i hi => by rw [hf i hi])]
  have nd : ∀ b : Nat, ∀ x, h b = some x → ∀ v l2, h b = some (l2, .inr v) → b ≠ d := fun b x _ v l2 hb e => by rw [e, hd] at hb; cases hb
  have hdn : ∀ b l2 v, h b = some (l2, .inr v) → 0 < v.2.1 → dm b ≠ d := fun b l2 v hb hv e => by
    have := ((h2 b l2 v hb).2.2.2 hv).2.1
    rw [e, hd] at this
    cases this
  have hda2 : ∀ q, q ≠ d → hdel h d q = h q := fun q hq => if_neg hq
  have hdd : hdel h d d = none := if_pos rfl
  refine ⟨hz0, fun b => if b = a then d else dm b, fun b l2 e2 hb => ?_, fun b l2 v hb => ?_, fun b c lb lc vb vc hb hc' hv1 hv2 hdm => ?_⟩
  · have e0 : b ≠ a := fun e0 => by rw [e0, hu_s] at hb; cases hb
    rw [hu_n e0] at hb
    have e1 : b ≠ d := fun e1 => by rw [e1, hdd] at hb; cases hb
    rw [hda2 b e1] at hb
    exact h1 b l2 e2 hb
  · by_cases e0 : b = a
    · subst e0
      rw [hu_s] at hb
      cases hb
      dsimp only
      rw [if_pos rfl]
      refine ⟨q1, ⟨q2, hle, hcap, hes⟩, fun hz => absurd hz (by show ¬ cap = 0; omega), fun _ => ⟨r1, ?_, hr⟩⟩
      rw [hu_n hda]; exact hdd
    · dsimp only
      rw [if_neg e0]
      rw [hu_n e0] at hb
      have e1 : b ≠ d := fun e1 => by rw [e1, hdd] at hb; cases hb
      rw [hda2 b e1] at hb
      obtain ⟨p1, p2, p3, p4⟩ := h2 b l2 v hb
      refine ⟨p1, p2, p3, fun hv => ?_⟩
      obtain ⟨s1, s2, s3⟩ := p4 hv
      have e3 : dm b ≠ a := fun e => by rw [e, ha] at s2; cases s2
      exact ⟨s1, by rw [hu_n e3, hda2 _ (hdn b l2 v hb hv)]; exact s2, s3⟩
  · by_cases e0 : b = a
    · by_cases e1 : c = a
      · rw [e0, e1]
      · rw [hu_n e1] at hc'
        have e2 : c ≠ d := fun e2 => by rw [e2, hdd] at hc'; cases hc'
        rw [hda2 c e2] at hc'
        have hdm' : (if b = a then d else dm b) = (if c = a then d else dm c) := hdm
        rw [if_pos e0, if_neg e1] at hdm'
        exact absurd hdm'.symm (hdn c lc vc hc' hv2)
    · rw [hu_n e0] at hb
      have e2 : b ≠ d := fun e2 => by rw [e2, hdd] at hb; cases hb
      rw [hda2 b e2] at hb
      have hdm' : (if b = a then d else dm b) = (if c = a then d else dm c) := hdm
      rw [if_neg e0] at hdm'
      by_cases e1 : c = a
      · rw [if_pos e1] at hdm'
        exact absurd hdm' (hdn b lb vb hb hv1)
      · rw [if_neg e1] at hdm'
        rw [hu_n e1] at hc'
        have e3 : c ≠ d := fun e2 => by rw [e2, hdd] at hc'; cases hc'
        rw [hda2 c e3] at hc'
        exact h3 b c lb lc vb vc hb hc' hv1 hv2 hdm'
/-- a fresh list of no room -/
theorem hHeap.shut0 {g : hG} {h : hA} {H : Heap} {a : Nat} {lab lab' : hLab} {m : Int32} (hH : hHeap g h H) (ha : h a = some (lab, cO 0 [.int m, .ref (gs g 0), .int 0])) : hHeap g (hu h a (lab', cL m 0 [])) H := by
  obtain ⟨hz0, dm, h1, h2, h3⟩ := hH
  obtain ⟨q1, q2, -⟩ := h1 a lab _ ha
  refine ⟨hz0, fun b => if b = a then gs g 0 else dm b, fun b l2 e2 hb => ?_, fun b l2 v hb => ?_, fun b c lb lc vb vc hb hc' hv1 hv2 hdm => ?_⟩
  · have e0 : b ≠ a := fun e0 => by rw [e0, hu_s] at hb; cases hb
    rw [hu_n e0] at hb
    exact h1 b l2 e2 hb
  · by_cases e0 : b = a
    · subst e0
      rw [hu_s] at hb
      cases hb
      dsimp only
      rw [if_pos rfl]
      exact ⟨q1, ⟨q2, Nat.zero_le _, Nat.zero_le _, fun x hx => by cases hx⟩, fun _ => rfl, fun hc => absurd hc (Nat.lt_irrefl 0)⟩
    · dsimp only
      rw [if_neg e0]
      rw [hu_n e0] at hb
      obtain ⟨p1, p2, p3, p4⟩ := h2 b l2 v hb
      refine ⟨p1, p2, p3, fun hv => ?_⟩
      obtain ⟨s1, s2, s3⟩ := p4 hv
      have e3 : dm b ≠ a := fun e => by rw [e, ha] at s2; cases s2
      exact ⟨s1, by rw [hu_n e3]; exact s2, s3⟩
  · have e0 : b ≠ a := fun e0 => by rw [e0, hu_s] at hb; cases hb; exact absurd hv1 (Nat.lt_irrefl 0)
    have e1 : c ≠ a := fun e0 => by rw [e0, hu_s] at hc'; cases hc'; exact absurd hv2 (Nat.lt_irrefl 0)
    rw [hu_n e0] at hb
    rw [hu_n e1] at hc'
    have hdm' : (if b = a then gs g 0 else dm b) = (if c = a then gs g 0 else dm c) := hdm
    rw [if_neg e0, if_neg e1] at hdm'
    exact h3 b c lb lc vb vc hb hc' hv1 hv2 hdm'
theorem hHeap.list {g : hG} {h : hA} {H : Heap} {a : Nat} {lab : hLab} {m : Int32} {cap : Nat} {es : List Nat} (hH : hHeap g h H) (ha : h a = some (lab, cL m cap es)) : es.length ≤ cap ∧ cap ≤ 65536 ∧ ∀ x ∈ es, hEl g H x := by
  obtain ⟨-, dm, -, h2, -⟩ := hH
  obtain ⟨-, q2, -⟩ := h2 a lab _ ha
  exact q2.2
/-- only the label is another's -/
theorem hHeap.relab {g : hG} {h : hA} {H : Heap} {a : Nat} {lab lab' : hLab} {c : hC} (hH : hHeap g h H) (ha : h a = some (lab, c)) : hHeap g (hu h a (lab', c)) H := by
  obtain ⟨hz0, dm, h1, h2, h3⟩ := hH
  have key : ∀ b l2 c2, hu h a (lab', c) b = some (l2, c2) → ∃ l3, h b = some (l3, c2) := fun b l2 c2 hb => by
    by_cases e0 : b = a
    · subst e0
      rw [hu_s] at hb
      cases hb
      exact ⟨_, ha⟩
    · rw [hu_n e0] at hb
      exact ⟨_, hb⟩
  have kn : ∀ q, h q = none → hu h a (lab', c) q = none := fun q hq => by
    have e0 : q ≠ a := fun e => by rw [e, ha] at hq; cases hq
    rw [hu_n e0]; exact hq
  refine ⟨hz0, dm, fun b l2 e2 hb => ?_, fun b l2 v hb => ?_, fun b c lb lc vb vc hb hc => ?_⟩
  · obtain ⟨l3, hb3⟩ := key b l2 _ hb
    exact h1 b l3 e2 hb3
  · obtain ⟨l3, hb3⟩ := key b l2 _ hb
    obtain ⟨p1, p2, p3, p4⟩ := h2 b l3 v hb3
    refine ⟨p1, p2, p3, fun hv => ?_⟩
    obtain ⟨s1, s2, s3⟩ := p4 hv
    exact ⟨s1, kn _ s2, s3⟩
  · obtain ⟨l3, hb3⟩ := key b lb _ hb
    obtain ⟨l4, hc4⟩ := key c lc _ hc
    exact h3 b c l3 l4 vb vc hb3 hc4
