/-! THE STATE: one pure picture for both sides, and how each side's cells hold it -/
abbrev Rec : Type := Nat → Nat
abbrev Row : Type := Nat × Nat × Nat
/-- plans, customers, changes (customer, day, plan), tickets, portings (number, day, carrier), incoming, doubled, today. A plan: fee, grant, price, keep, first, unit, step, later, cap, isNight. A customer: joined, circle, parent + 1, limit. A ticket: kind, customer, day, minute, number, zone, seconds, isVoid -/
abbrev St : Type := List Rec × List Rec × List Row × List Rec × List Row × (Nat → Int32) × Nat × Nat
def sP (q : St) : List Rec := q.1
def sC (q : St) : List Rec := q.2.1
def sH (q : St) : List Row := q.2.2.1
def sT (q : St) : List Rec := q.2.2.2.1
def sO (q : St) : List Row := q.2.2.2.2.1
def sI (q : St) : Nat → Int32 := q.2.2.2.2.2.1
def sD (q : St) : Nat := q.2.2.2.2.2.2.1
def sY (q : St) : Nat := q.2.2.2.2.2.2.2
def rowsOf (rs : List Row) (k : Nat) : List (Nat × Nat) := (rs.filter (fun r => r.1 == k)).map (fun r => r.2)
/-- what is written of kinds in W alone -/
def hKp (W : Nat → Prop) (h h' : hA) : Prop := ∀ (a k i : Nat) (c : hC), h a = some ((k, i), c) → ¬ W k → h' a = some ((k, i), c)
theorem hKp.rf {W : Nat → Prop} (h : hA) : hKp W h h := fun _ _ _ _ e _ => e
theorem hKp.tr {W : Nat → Prop} {h1 h2 h3 : hA} (a : hKp W h1 h2) (b : hKp W h2 h3) : hKp W h1 h3 := fun q k i c e n => b q k i c (a q k i c e n) n
theorem hKp.ext {W : Nat → Prop} {h h' : hA} (e : hExt h h') : hKp W h h' := fun a _ _ _ q _ => e a _ q
theorem hKp.wide {W W' : Nat → Prop} {h h' : hA} (e : hKp W h h') (w : ∀ k, W k → W' k) : hKp W' h h' := fun a k i c q n => e a k i c q (fun z => n (w k z))
theorem hKp.put {W : Nat → Prop} {h : hA} {a k i : Nat} {c : hC} {x : hLab × hC} (ha : h a = some ((k, i), c)) (hk : W k) : hKp W h (hu h a x) := fun b k2 i2 c2 hb n => by
  refine (hu_n (fun e => ?_)).trans hb
  rw [e, ha] at hb
  cases hb
  exact n hk
theorem hKp.new {W : Nat → Prop} {h : hA} {a : Nat} {x : hLab × hC} (ha : h a = none) : hKp W h (hu h a x) := hKp.ext (hExt.new ha)
theorem hBox.keep {W : Nat → Prop} {g : hG} {h h' : hA} {y : Nat} {v : Int32} (hx : hBox g h y v) (e : hKp W h h') (w : ¬ W 0) : hBox g h' y v := by
  rcases hx with hx | hx
  · exact Or.inl (e _ _ _ _ hx w)
  · exact Or.inr hx
/-- a list of n elements, the i-th at b with P i b -/
def hLp (h : hA) (a : Nat) (lab : hLab) (n : Nat) (P : Nat → Nat → Prop) : Prop := ∃ (mo : Int32) (cap : Nat) (es : List Nat), h a = some (lab, cL mo cap es) ∧ (cap = 0 ∨ 2 ≤ cap) ∧ cap ≤ 20 + 2 * n ∧ es.length = n ∧ ∀ i b, es[i]? = some b → P i b
theorem hLp.keep {W : Nat → Prop} {h h' : hA} {a n : Nat} {lab : hLab} {P P' : Nat → Nat → Prop} (hl : hLp h a lab n P) (e : hKp W h h') (w : ¬ W lab.1) (hP : ∀ i b, P i b → P' i b) : hLp h' a lab n P' := by
  obtain ⟨mo, cap, es, h1, h2, h3, h4, h5⟩ := hl
  exact ⟨mo, cap, es, e a lab.1 lab.2 _ h1 w, h2, h3, h4, fun i b hb => hP i b (h5 i b hb)⟩
theorem hLp.get {h : hA} {a n i : Nat} {lab : hLab} {P : Nat → Nat → Prop} (hl : hLp h a lab n P) (hi : i < n) : ∃ (mo : Int32) (cap : Nat) (es : List Nat) (b : Nat), h a = some (lab, cL mo cap es) ∧ es.length = n ∧ es[i]? = some b ∧ P i b := by
  obtain ⟨mo, cap, es, h1, h2, h3, h4, h5⟩ := hl
  have hi' : i < es.length := by omega
  exact ⟨mo, cap, es, es[i], h1, h4, List.getElem?_eq_getElem hi', h5 i _ (List.getElem?_eq_getElem hi')⟩
/-- one more at the end -/
theorem hLp.add {h h1 : hA} {a n x : Nat} {lab : hLab} {P P' : Nat → Nat → Prop} {mo : Int32} {cap : Nat} {es : List Nat} (h2 : cap = 0 ∨ 2 ≤ cap) (h3 : cap ≤ 20 + 2 * n) (h4 : es.length = n) (ha : h1 a = some (lab, cL (mo + 1) (gcN cap es.length) (es ++ [x]))) (hP : ∀ i b, es[i]? = some b → P' i b) (hx : P' n x) : hLp h1 a lab (n + 1) P' := by
  refine ⟨_, _, _, ha, ?_, ?_, by simp [h4], fun i b hb => ?_⟩
  · unfold gcN
    split
    · split <;> omega
    · exact h2
  · unfold gcN
    split
    · split <;> omega
    · omega
  · by_cases e1 : i < es.length
    · rw [List.getElem?_append_left e1] at hb
      exact hP i b hb
    · rw [List.getElem?_append_right (by omega)] at hb
      have e2 : i = es.length := by
        have := (List.getElem?_eq_some_iff.mp hb).1
        simp at this
        omega
      subst e2
      rw [Nat.sub_self] at hb
      cases hb
      rw [h4]; exact hx
theorem gcC_le (cap n : Nat) : gcC cap n ≤ 1 := by unfold gcC; split <;> omega
theorem gcS_le {cap n : Nat} (h : cap = 0 ∨ 2 ≤ cap) : gcS cap n + 4 * cap ≤ 4 * gcN cap n := by
  unfold gcS gcN
  split
  · split <;> omega
  · omega
theorem gcS_le2 (cap n : Nat) : gcS cap n ≤ 10 + n + n / 2 := by
  unfold gcS
  split
  · split <;> omega
  · omega
theorem gcN_ok {cap n : Nat} (h : cap = 0 ∨ 2 ≤ cap) : gcN cap n = 0 ∨ 2 ≤ gcN cap n := by
  unfold gcN
  split
  · split <;> omega
  · exact h
/-! x's cells -/
abbrev xPl (r : Rec) : hC := cO 10 [.int (nI (r 0)), .int (nI (r 1)), .int (nI (r 2)), .int (nI (r 3)), .int (nI (r 4)), .int (nI (r 5)), .int (nI (r 6)), .int (nI (r 7)), .int (nI (r 8)), .int (nI (r 9))]
abbrev xCu (s : Nat) (r : Rec) : hC := cO 12 [.int (nI (r 0)), .ref s, .int (nI (r 1)), .int (nI (r 2) - 1), .int (nI (r 3))]
abbrev xTk (g : hG) (r : Rec) : hC := cO 14 [.ref (gs g (3 + r 0)), .int (nI (r 1)), .int (nI (r 2)), .int (nI (r 3)), .int (nI (r 4)), .int (nI (r 5)), .int (nI (r 6)), .int (nI (r 7))]
/-- a list of boxes -/
def hBxs (g : hG) (h : hA) (a : Nat) (lab : hLab) (xs : List Int32) : Prop := hLp h a lab xs.length (fun i b => ∃ v, xs[i]? = some v ∧ hBox g h b v)
/-- a Since of kind k, number i, that holds rows (day, value) -/
def hSi (g : hG) (h : hA) (s k i : Nat) (rows : List (Nat × Nat)) : Prop := ∃ d v, h s = some ((k, i), cO 7 [.ref d, .ref v]) ∧ hBxs g h d (k + 1, i) (rows.map (fun r => nI r.1)) ∧ hBxs g h v (k + 2, i) (rows.map (fun r => nI r.2))
theorem hBxs.keep {W : Nat → Prop} {g : hG} {h h' : hA} {a : Nat} {lab : hLab} {xs : List Int32} (hl : hBxs g h a lab xs) (e : hKp W h h') (w0 : ¬ W 0) (w : ¬ W lab.1) : hBxs g h' a lab xs :=
  hLp.keep hl e w (fun _ _ ⟨v, h1, h2⟩ => ⟨v, h1, h2.keep e w0⟩)
theorem hSi.keep {W : Nat → Prop} {g : hG} {h h' : hA} {s k i : Nat} {rows : List (Nat × Nat)} (hs : hSi g h s k i rows) (e : hKp W h h') (w0 : ¬ W 0) (w : ∀ j, j < 3 → ¬ W (k + j)) : hSi g h' s k i rows := by
  obtain ⟨d, v, h1, h2, h3⟩ := hs
  exact ⟨d, v, e _ _ _ _ h1 (w 0 (by omega)), h2.keep e w0 (w 1 (by omega)), h3.keep e w0 (w 2 (by omega))⟩
def XPs (h : hA) (a : Nat) (ps : List Rec) : Prop := hLp h a (2, 0) ps.length (fun i b => ∃ r, ps[i]? = some r ∧ h b = some ((3, i), xPl r))
def XCs (g : hG) (h : hA) (a : Nat) (cs : List Rec) (hs : List Row) : Prop := hLp h a (4, 0) cs.length (fun i b => ∃ r s, cs[i]? = some r ∧ h b = some ((5, i), xCu s r) ∧ hSi g h s 6 i (rowsOf hs i))
def XTs (g : hG) (h : hA) (a : Nat) (ts : List Rec) : Prop := hLp h a (10, 0) ts.length (fun i b => ∃ r, ts[i]? = some r ∧ h b = some ((11, i), xTk g r))
def XRs (g : hG) (h : hA) (a : Nat) (os : List Row) : Prop := hLp h a (12, 0) 16 (fun i b => hSi g h b 13 i ((0, i % 4) :: rowsOf os i))
/-- x at the address x holds q -/
def XSt (g : hG) (h : hA) (x : Nat) (q : St) : Prop := ∃ aP aC aT aR aI, h x = some ((1, 0), cO 6 [.ref aP, .ref aC, .ref aT, .ref aR, .ref aI, .int (nI (sO q).length), .int (nI (sD q)), .int (nI (sY q))]) ∧
  XPs h aP (sP q) ∧ XCs g h aC (sC q) (sH q) ∧ XTs g h aT (sT q) ∧ XRs g h aR (sO q) ∧ h aI = some ((16, 0), cI g 4 (sI q))
theorem XPs.keep {W : Nat → Prop} {h h' : hA} {a : Nat} {ps : List Rec} (hl : XPs h a ps) (e : hKp W h h') (w2 : ¬ W 2) (w3 : ¬ W 3) : XPs h' a ps :=
  hLp.keep hl e w2 (fun _ _ ⟨r, h1, h2⟩ => ⟨r, h1, e _ _ _ _ h2 w3⟩)
theorem XTs.keep {W : Nat → Prop} {g : hG} {h h' : hA} {a : Nat} {ps : List Rec} (hl : XTs g h a ps) (e : hKp W h h') (w2 : ¬ W 10) (w3 : ¬ W 11) : XTs g h' a ps :=
  hLp.keep hl e w2 (fun _ _ ⟨r, h1, h2⟩ => ⟨r, h1, e _ _ _ _ h2 w3⟩)
theorem XCs.keep {W : Nat → Prop} {g : hG} {h h' : hA} {a : Nat} {cs : List Rec} {hs : List Row} (hl : XCs g h a cs hs) (e : hKp W h h') (w0 : ¬ W 0) (w : ∀ k, 4 ≤ k → k ≤ 8 → ¬ W k) : XCs g h' a cs hs :=
  hLp.keep hl e (w 4 (by omega) (by omega)) (fun i _ ⟨r, s, h1, h2, h3⟩ => ⟨r, s, h1, e _ _ _ _ h2 (w 5 (by omega) (by omega)), h3.keep e w0 (fun j hj => w (6 + j) (by omega) (by omega))⟩)
theorem XRs.keep {W : Nat → Prop} {g : hG} {h h' : hA} {a : Nat} {os : List Row} (hl : XRs g h a os) (e : hKp W h h') (w0 : ¬ W 0) (w : ∀ k, 12 ≤ k → k ≤ 15 → ¬ W k) : XRs g h' a os :=
  hLp.keep hl e (w 12 (by omega) (by omega)) (fun i _ h1 => h1.keep e w0 (fun j hj => w (13 + j) (by omega) (by omega)))
theorem XSt.keep {W : Nat → Prop} {g : hG} {h h' : hA} {x : Nat} {q : St} (hx : XSt g h x q) (e : hKp W h h') (w : ∀ k, k ≤ 16 → ¬ W k) : XSt g h' x q := by
  obtain ⟨aP, aC, aT, aR, aI, h1, h2, h3, h4, h5, h6⟩ := hx
  exact ⟨aP, aC, aT, aR, aI, e _ _ _ _ h1 (w 1 (by omega)), h2.keep e (w 2 (by omega)) (w 3 (by omega)), h3.keep e (w 0 (by omega)) (fun k _ _ => w k (by omega)), h4.keep e (w 10 (by omega)) (w 11 (by omega)), h5.keep e (w 0 (by omega)) (fun k _ _ => w k (by omega)), e _ _ _ _ h6 (w 16 (by omega))⟩
