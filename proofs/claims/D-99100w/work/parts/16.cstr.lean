/-! the component's world: what is where (addresses behind the object that makes them), as far as it never changes -/
set_option maxRecDepth 100000
def RwS (a n : Nat) (r : Rh) : Prop := rK r a = 4 ∧ rP r a 0 = some (a + 1) ∧ rK r (a + 1) = 55 ∧ rL r (a + 1) = n ∧ ∀ i, i < n → rP r (a + 1) i = some (a + 2 + i) ∧ rK r (a + 2 + i) = 50 ∧ rL r (a + 2 + i) = 3
def BgS (b : Nat) (r : Rh) : Prop := rK r b = 2 ∧ rP r b 0 = some (b + 1) ∧ rK r (b + 1) = 53 ∧ rL r (b + 1) = 24 ∧ (∀ i, i < 24 → ∃ j, j < 24 ∧ rP r (b + 1) i = some (b + 2 + j)) ∧ ∀ j, j < 24 → rK r (b + 2 + j) = 3
theorem BgS.lt {b : Nat} {r : Rh} {i : Int32} {x : Nat} (h : BgS b r) (hin : vp_in i 24) (hp : rP r (b + 1) i.toNatClampNeg = some x) : rK r x = 3 := by
  obtain ⟨j, hj, e⟩ := h.2.2.2.2.1 _ (vp_lt hin)
  cases hp.symm.trans e
  exact h.2.2.2.2.2 j hj
/-- an int array at a field; an array of int arrays at a field -/
def F1 (a k o n : Nat) (r : Rh) : Prop := rP r a k = some (a + o) ∧ rK r (a + o) = 50 ∧ rL r (a + o) = n
def F2 (a k o n m : Nat) (r : Rh) : Prop := rP r a k = some (a + o) ∧ rK r (a + o) = 55 ∧ rL r (a + o) = n ∧ ∀ i, i < n → rP r (a + o) i = some (a + o + 1 + i) ∧ rK r (a + o + 1 + i) = 50 ∧ rL r (a + o + 1 + i) = m
def WkS (w : Nat) (r : Rh) : Prop := rK r w = 1 ∧ (rP r w 0 = some (w + 1) ∧ rK r (w + 1) = 52 ∧ rL r (w + 1) = 12) ∧ (∀ i, i < 12 → rP r (w + 1) i = some (w + 247 + i) ∧ rK r (w + 247 + i) = 5) ∧ (rP r w 1 = some (w + 2) ∧ BgS (w + 2) r) ∧ F1 w 2 28 7 r ∧ F1 w 3 29 26 r ∧ F2 w 4 30 150 4 r ∧
  (rP r w 5 = some (w + 181) ∧ RwS (w + 181) 8 r) ∧ (rP r w 6 = some (w + 191) ∧ RwS (w + 191) 16 r) ∧ (rP r w 7 = some (w + 209) ∧ RwS (w + 209) 8 r) ∧ (rP r w 8 = some (w + 219) ∧ RwS (w + 219) 12 r) ∧ (rP r w 9 = some (w + 233) ∧ RwS (w + 233) 8 r)
def KpS (k : Nat) (r : Rh) : Prop := rK r k = 0 ∧ (rP r k 0 = some (k + 1) ∧ rK r (k + 1) = 51 ∧ rL r (k + 1) = 400) ∧ (rP r k 4 = some (k + 2) ∧ WkS (k + 2) r) ∧ (rP r k 5 = some (k + 261) ∧ WkS (k + 261) r) ∧ (rP r k 6 = some (k + 520) ∧ WkS (k + 520) r) ∧
  (rP r k 7 = some (k + 779) ∧ rK r (k + 779) = 54 ∧ rL r (k + 779) = 6) ∧ (∀ i, i < 6 → ∃ j, j < 6 ∧ rP r (k + 779) i = some (k + 780 + 259 * j)) ∧ (∀ j, j < 6 → WkS (k + 780 + 259 * j) r) ∧
  F2 k 10 2334 12 12 r ∧ F2 k 11 2347 256 8 r ∧ F1 k 12 2604 8 r ∧ F1 k 13 2605 256 r ∧ F2 k 14 2606 25 401 r ∧ F1 k 15 2632 4096 r ∧ F1 k 16 2633 6 r
theorem KpS.bk {k : Nat} {r : Rh} {i : Int32} {x : Nat} (h : KpS k r) (hin : vp_in i 6) (hp : rP r (k + 779) i.toNatClampNeg = some x) : WkS x r := by
  obtain ⟨j, hj, e⟩ := h.2.2.2.2.2.2.1 _ (vp_lt hin)
  cases hp.symm.trans e
  exact h.2.2.2.2.2.2.2.1 j hj
theorem WkS.c {w : Nat} {r : Rh} (h : WkS w r) : rK r w = 1 := h.1
theorem WkS.dr {w : Nat} {r : Rh} (h : WkS w r) : (rP r w 0 = some (w + 1) ∧ rK r (w + 1) = 52 ∧ rL r (w + 1) = 12) := h.2.1
theorem WkS.doors {w : Nat} {r : Rh} (h : WkS w r) : (∀ i, i < 12 → rP r (w + 1) i = some (w + 247 + i) ∧ rK r (w + 247 + i) = 5) := h.2.2.1
theorem WkS.bag {w : Nat} {r : Rh} (h : WkS w r) : (rP r w 1 = some (w + 2) ∧ BgS (w + 2) r) := h.2.2.2.1
theorem WkS.given {w : Nat} {r : Rh} (h : WkS w r) : F1 w 2 28 7 r := h.2.2.2.2.1
theorem WkS.has {w : Nat} {r : Rh} (h : WkS w r) : F1 w 3 29 26 r := h.2.2.2.2.2.1
theorem WkS.book {w : Nat} {r : Rh} (h : WkS w r) : F2 w 4 30 150 4 r := h.2.2.2.2.2.2.1
theorem WkS.blows {w : Nat} {r : Rh} (h : WkS w r) : (rP r w 5 = some (w + 181) ∧ RwS (w + 181) 8 r) := h.2.2.2.2.2.2.2.1
theorem WkS.owed {w : Nat} {r : Rh} (h : WkS w r) : (rP r w 6 = some (w + 191) ∧ RwS (w + 191) 16 r) := h.2.2.2.2.2.2.2.2.1
theorem WkS.word {w : Nat} {r : Rh} (h : WkS w r) : (rP r w 7 = some (w + 209) ∧ RwS (w + 209) 8 r) := h.2.2.2.2.2.2.2.2.2.1
theorem WkS.answers {w : Nat} {r : Rh} (h : WkS w r) : (rP r w 8 = some (w + 219) ∧ RwS (w + 219) 12 r) := h.2.2.2.2.2.2.2.2.2.2.1
theorem WkS.faces {w : Nat} {r : Rh} (h : WkS w r) : (rP r w 9 = some (w + 233) ∧ RwS (w + 233) 8 r) := h.2.2.2.2.2.2.2.2.2.2.2
theorem KpS.c {k : Nat} {r : Rh} (h : KpS k r) : rK r k = 0 := h.1
theorem KpS.tape {k : Nat} {r : Rh} (h : KpS k r) : (rP r k 0 = some (k + 1) ∧ rK r (k + 1) = 51 ∧ rL r (k + 1) = 400) := h.2.1
theorem KpS.walk {k : Nat} {r : Rh} (h : KpS k r) : (rP r k 4 = some (k + 2) ∧ WkS (k + 2) r) := h.2.2.1
theorem KpS.kept {k : Nat} {r : Rh} (h : KpS k r) : (rP r k 5 = some (k + 261) ∧ WkS (k + 261) r) := h.2.2.2.1
theorem KpS.thought {k : Nat} {r : Rh} (h : KpS k r) : (rP r k 6 = some (k + 520) ∧ WkS (k + 520) r) := h.2.2.2.2.1
theorem KpS.back {k : Nat} {r : Rh} (h : KpS k r) : (rP r k 7 = some (k + 779) ∧ rK r (k + 779) = 54 ∧ rL r (k + 779) = 6) := h.2.2.2.2.2.1
theorem KpS.backs {k : Nat} {r : Rh} (h : KpS k r) : (∀ i, i < 6 → ∃ j, j < 6 ∧ rP r (k + 779) i = some (k + 780 + 259 * j)) := h.2.2.2.2.2.2.1
theorem KpS.bwalks {k : Nat} {r : Rh} (h : KpS k r) : (∀ j, j < 6 → WkS (k + 780 + 259 * j) r) := h.2.2.2.2.2.2.2.1
theorem KpS.far {k : Nat} {r : Rh} (h : KpS k r) : F2 k 10 2334 12 12 r := h.2.2.2.2.2.2.2.2.1
theorem KpS.walked {k : Nat} {r : Rh} (h : KpS k r) : F2 k 11 2347 256 8 r := h.2.2.2.2.2.2.2.2.2.1
theorem KpS.goal {k : Nat} {r : Rh} (h : KpS k r) : F1 k 12 2604 8 r := h.2.2.2.2.2.2.2.2.2.2.1
theorem KpS.mostOf {k : Nat} {r : Rh} (h : KpS k r) : F1 k 13 2605 256 r := h.2.2.2.2.2.2.2.2.2.2.2.1
theorem KpS.waysFor {k : Nat} {r : Rh} (h : KpS k r) : F2 k 14 2606 25 401 r := h.2.2.2.2.2.2.2.2.2.2.2.2.1
theorem KpS.groups {k : Nat} {r : Rh} (h : KpS k r) : F1 k 15 2632 4096 r := h.2.2.2.2.2.2.2.2.2.2.2.2.2.1
theorem KpS.changes {k : Nat} {r : Rh} (h : KpS k r) : F1 k 16 2633 6 r := h.2.2.2.2.2.2.2.2.2.2.2.2.2.2
