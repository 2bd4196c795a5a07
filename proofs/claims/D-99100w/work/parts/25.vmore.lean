/-! V, seventh part: loops whose room changes; statics; more of the stack -/
set_option maxRecDepth 100000
section VMORE
variable {g : Gl} {x : Cx} {cc : ByteArray} {nL : Nat} {own : String} {d : Nat} {q : Nat × Nat} {pc : Nat} {lv lv' : List (Nat × Value)} {st : List Value} {I : MI} {r r0 : Rh} {E : Prop} {cN cS : Nat}
theorem v_dup_x1 (h : Amb g x cc nL own d) {a b : Value} (hd : decode cc pc = .ok (.dup_x1, 1)) (ha : a.category = 1) (hb : b.category = 1) (k : V g x nL q (pc + 1) lv (a :: b :: a :: st) I r E) : V g x nL q pc lv (a :: b :: st) I r E :=
  fun hE H locs ls hR hS hl => lv_dup_x1 h.1 h.2.1 hd ha hb (k hE H locs ls hR hS hl)
/-- ArrayList's empty array -/
theorem v_gete (h : Amb g x cc nL own d) {idx : Nat} (hd : decode cc pc = .ok (.getstatic idx, 3)) (hlk : Cond.fieldLink own idx "java/util/ArrayList" "DEFAULTCAPACITY_EMPTY_ELEMENTDATA" "[Ljava/lang/Object;" ∈ lw_all) (k : V g x nL q (pc + 3) lv (.ref (gX g 0) :: st) I r E) : V g x nL q pc lv st I r E :=
  fun hE H locs ls hR hS hl => va_gets h.1 h.2.1 h.2.2.2.2.2.2.2.2.2.2.1 hS h.2.2.2.1 (h.2.2.2.2.1 _ hlk) (fun _ h9 => h9) hd (k hE H locs ls hR hS hl)
theorem v_callWN (h : Amb g x cc nL own d) {C : String} {T : u_T} {N idx maxL n d' c b : Nat} {y : MethodName} {bytes : ByteArray} {As rest : List Value} {F : (MI → Rh → Prop) → Prop} {E1 : MI → Rh → Prop} (hd : decode cc pc = .ok (.invokevirtual idx, 3)) (hw : CallT own idx C y bytes maxL none n) (hc : vCl[c]? = some (C, T, N)) (hK : rK r b = c) (hM : CtW g y bytes maxL d' 0 0 (.ref b :: As) I r F) (hdd : d' + 1 ≤ d) (hn : As.length = n) (hst : st = As.reverse ++ .ref b :: rest) (hroom : (rest.map fun v => v.category).sum ≤ 8) (hq : rN r - rN r0 ≤ (xR x).cells ∧ rS r - rS r0 ≤ (xR x).slots)
    (kk : ∀ (I' : MI) (r' : Rh), V g x nL (rN r' - rN r0, rS r' - rS r0) (pc + 3) lv rest I' r' (E1 I' r')) : V g x nL (rN r - rN r0, rS r - rS r0) pc lv st I r (F (fun I' r' => (rN r' = rN r ∧ rS r' = rS r) ∧ E1 I' r')) := by
  intro hE H locs ls hR hS hl
  subst hst
  refine va_callv (v_runV (q := (rN r - rN r0, rS r - rS r0)) h hd hw hc hK (mc := 0) (ms := 0) (hM _ hE) hdd hn hroom hq hR hS hl) hS (fun q _ h => h) (fun q h => h) (fun u t H1 locs1 ht hvm hp hBt hz hk hS1 => ?_)
  have hk := kk u.1 u.2 hp.2 H1 locs1 ls (by rw [← ht]; exact hBt) hS1 hl
  rw [hp.1.1, hp.1.2] at hk
  exact hk
theorem v_callRN (h : Amb g x cc nL own d) {C : String} {T : u_T} {N idx maxL n d' c b : Nat} {y : MethodName} {bytes : ByteArray} {ret : Option FieldType} {As rest : List Value} {F : (Int32 → MI → Rh → Prop) → Prop} {E1 : Int32 → MI → Rh → Prop} (hd : decode cc pc = .ok (.invokevirtual idx, 3)) (hw : CallT own idx C y bytes maxL ret n) (hc : vCl[c]? = some (C, T, N)) (hK : rK r b = c) (hM : CtR g y bytes maxL ret d' 0 0 (.ref b :: As) I r F) (hdd : d' + 1 ≤ d) (hn : As.length = n) (hst : st = As.reverse ++ .ref b :: rest) (hroom : (rest.map fun v => v.category).sum ≤ 8) (hq : rN r - rN r0 ≤ (xR x).cells ∧ rS r - rS r0 ≤ (xR x).slots)
    (kk : ∀ (v : Int32) (I' : MI) (r' : Rh), V g x nL (rN r' - rN r0, rS r' - rS r0) (pc + 3) lv (.int v :: rest) I' r' (E1 v I' r')) : V g x nL (rN r - rN r0, rS r - rS r0) pc lv st I r (F (fun v I' r' => (rN r' = rN r ∧ rS r' = rS r) ∧ E1 v I' r')) := by
  intro hE H locs ls hR hS hl
  subst hst
  refine va_calli (v_runV (q := (rN r - rN r0, rS r - rS r0)) h hd hw hc hK (mc := 0) (ms := 0) (hM _ hE) hdd hn hroom hq hR hS hl) hS (fun q _ h => h) (fun q h => h) (fun v u t H1 locs1 ht hvm hp hBt hz hk hS1 => ?_)
  have hk := kk v u.1 u.2 hp.2 H1 locs1 ls (by rw [← ht]; exact hBt) hS1 hl
  rw [hp.1.1, hp.1.2] at hk
  exact hk
end VMORE
theorem L1.runQ {A1 : Type} {B : (A1 → Prop) → A1 → Prop} {g : Gl} {x : Cx} {nL : Nat} {q : A1 → Nat × Nat} {pc : Nat} {lv : A1 → List (Nat × Value)} {st : A1 → List Value} {Im : A1 → MI} {r : A1 → Rh} (hs : ∀ X, (∀ (b1 : A1), V g x nL (q b1) pc (lv b1) (st b1) (Im b1) (r b1) (X b1)) → ∀ (a1 : A1), V g x nL (q a1) pc (lv a1) (st a1) (Im a1) (r a1) (B X a1)) (a1 : A1) : V g x nL (q a1) pc (lv a1) (st a1) (Im a1) (r a1) (L1 B a1) := by
  refine v_ex (fun n => ?_)
  induction n generalizing a1 with
  | zero => exact v_false
  | succ n ih => exact hs (lf1 B n) ih a1
theorem L2.runQ {A1 A2 : Type} {B : (A1 → A2 → Prop) → A1 → A2 → Prop} {g : Gl} {x : Cx} {nL : Nat} {q : A1 → A2 → Nat × Nat} {pc : Nat} {lv : A1 → A2 → List (Nat × Value)} {st : A1 → A2 → List Value} {Im : A1 → A2 → MI} {r : A1 → A2 → Rh} (hs : ∀ X, (∀ (b1 : A1) (b2 : A2), V g x nL (q b1 b2) pc (lv b1 b2) (st b1 b2) (Im b1 b2) (r b1 b2) (X b1 b2)) → ∀ (a1 : A1) (a2 : A2), V g x nL (q a1 a2) pc (lv a1 a2) (st a1 a2) (Im a1 a2) (r a1 a2) (B X a1 a2)) (a1 : A1) (a2 : A2) : V g x nL (q a1 a2) pc (lv a1 a2) (st a1 a2) (Im a1 a2) (r a1 a2) (L2 B a1 a2) := by
  refine v_ex (fun n => ?_)
  induction n generalizing a1 a2 with
  | zero => exact v_false
  | succ n ih => exact hs (lf2 B n) ih a1 a2
theorem L3.runQ {A1 A2 A3 : Type} {B : (A1 → A2 → A3 → Prop) → A1 → A2 → A3 → Prop} {g : Gl} {x : Cx} {nL : Nat} {q : A1 → A2 → A3 → Nat × Nat} {pc : Nat} {lv : A1 → A2 → A3 → List (Nat × Value)} {st : A1 → A2 → A3 → List Value} {Im : A1 → A2 → A3 → MI} {r : A1 → A2 → A3 → Rh} (hs : ∀ X, (∀ (b1 : A1) (b2 : A2) (b3 : A3), V g x nL (q b1 b2 b3) pc (lv b1 b2 b3) (st b1 b2 b3) (Im b1 b2 b3) (r b1 b2 b3) (X b1 b2 b3)) → ∀ (a1 : A1) (a2 : A2) (a3 : A3), V g x nL (q a1 a2 a3) pc (lv a1 a2 a3) (st a1 a2 a3) (Im a1 a2 a3) (r a1 a2 a3) (B X a1 a2 a3)) (a1 : A1) (a2 : A2) (a3 : A3) : V g x nL (q a1 a2 a3) pc (lv a1 a2 a3) (st a1 a2 a3) (Im a1 a2 a3) (r a1 a2 a3) (L3 B a1 a2 a3) := by
  refine v_ex (fun n => ?_)
  induction n generalizing a1 a2 a3 with
  | zero => exact v_false
  | succ n ih => exact hs (lf3 B n) ih a1 a2 a3
theorem L4.runQ {A1 A2 A3 A4 : Type} {B : (A1 → A2 → A3 → A4 → Prop) → A1 → A2 → A3 → A4 → Prop} {g : Gl} {x : Cx} {nL : Nat} {q : A1 → A2 → A3 → A4 → Nat × Nat} {pc : Nat} {lv : A1 → A2 → A3 → A4 → List (Nat × Value)} {st : A1 → A2 → A3 → A4 → List Value} {Im : A1 → A2 → A3 → A4 → MI} {r : A1 → A2 → A3 → A4 → Rh} (hs : ∀ X, (∀ (b1 : A1) (b2 : A2) (b3 : A3) (b4 : A4), V g x nL (q b1 b2 b3 b4) pc (lv b1 b2 b3 b4) (st b1 b2 b3 b4) (Im b1 b2 b3 b4) (r b1 b2 b3 b4) (X b1 b2 b3 b4)) → ∀ (a1 : A1) (a2 : A2) (a3 : A3) (a4 : A4), V g x nL (q a1 a2 a3 a4) pc (lv a1 a2 a3 a4) (st a1 a2 a3 a4) (Im a1 a2 a3 a4) (r a1 a2 a3 a4) (B X a1 a2 a3 a4)) (a1 : A1) (a2 : A2) (a3 : A3) (a4 : A4) : V g x nL (q a1 a2 a3 a4) pc (lv a1 a2 a3 a4) (st a1 a2 a3 a4) (Im a1 a2 a3 a4) (r a1 a2 a3 a4) (L4 B a1 a2 a3 a4) := by
  refine v_ex (fun n => ?_)
  induction n generalizing a1 a2 a3 a4 with
  | zero => exact v_false
  | succ n ih => exact hs (lf4 B n) ih a1 a2 a3 a4
theorem L5.runQ {A1 A2 A3 A4 A5 : Type} {B : (A1 → A2 → A3 → A4 → A5 → Prop) → A1 → A2 → A3 → A4 → A5 → Prop} {g : Gl} {x : Cx} {nL : Nat} {q : A1 → A2 → A3 → A4 → A5 → Nat × Nat} {pc : Nat} {lv : A1 → A2 → A3 → A4 → A5 → List (Nat × Value)} {st : A1 → A2 → A3 → A4 → A5 → List Value} {Im : A1 → A2 → A3 → A4 → A5 → MI} {r : A1 → A2 → A3 → A4 → A5 → Rh} (hs : ∀ X, (∀ (b1 : A1) (b2 : A2) (b3 : A3) (b4 : A4) (b5 : A5), V g x nL (q b1 b2 b3 b4 b5) pc (lv b1 b2 b3 b4 b5) (st b1 b2 b3 b4 b5) (Im b1 b2 b3 b4 b5) (r b1 b2 b3 b4 b5) (X b1 b2 b3 b4 b5)) → ∀ (a1 : A1) (a2 : A2) (a3 : A3) (a4 : A4) (a5 : A5), V g x nL (q a1 a2 a3 a4 a5) pc (lv a1 a2 a3 a4 a5) (st a1 a2 a3 a4 a5) (Im a1 a2 a3 a4 a5) (r a1 a2 a3 a4 a5) (B X a1 a2 a3 a4 a5)) (a1 : A1) (a2 : A2) (a3 : A3) (a4 : A4) (a5 : A5) : V g x nL (q a1 a2 a3 a4 a5) pc (lv a1 a2 a3 a4 a5) (st a1 a2 a3 a4 a5) (Im a1 a2 a3 a4 a5) (r a1 a2 a3 a4 a5) (L5 B a1 a2 a3 a4 a5) := by
  refine v_ex (fun n => ?_)
  induction n generalizing a1 a2 a3 a4 a5 with
  | zero => exact v_false
  | succ n ih => exact hs (lf5 B n) ih a1 a2 a3 a4 a5
theorem L6.runQ {A1 A2 A3 A4 A5 A6 : Type} {B : (A1 → A2 → A3 → A4 → A5 → A6 → Prop) → A1 → A2 → A3 → A4 → A5 → A6 → Prop} {g : Gl} {x : Cx} {nL : Nat} {q : A1 → A2 → A3 → A4 → A5 → A6 → Nat × Nat} {pc : Nat} {lv : A1 → A2 → A3 → A4 → A5 → A6 → List (Nat × Value)} {st : A1 → A2 → A3 → A4 → A5 → A6 → List Value} {Im : A1 → A2 → A3 → A4 → A5 → A6 → MI} {r : A1 → A2 → A3 → A4 → A5 → A6 → Rh} (hs : ∀ X, (∀ (b1 : A1) (b2 : A2) (b3 : A3) (b4 : A4) (b5 : A5) (b6 : A6), V g x nL (q b1 b2 b3 b4 b5 b6) pc (lv b1 b2 b3 b4 b5 b6) (st b1 b2 b3 b4 b5 b6) (Im b1 b2 b3 b4 b5 b6) (r b1 b2 b3 b4 b5 b6) (X b1 b2 b3 b4 b5 b6)) → ∀ (a1 : A1) (a2 : A2) (a3 : A3) (a4 : A4) (a5 : A5) (a6 : A6), V g x nL (q a1 a2 a3 a4 a5 a6) pc (lv a1 a2 a3 a4 a5 a6) (st a1 a2 a3 a4 a5 a6) (Im a1 a2 a3 a4 a5 a6) (r a1 a2 a3 a4 a5 a6) (B X a1 a2 a3 a4 a5 a6)) (a1 : A1) (a2 : A2) (a3 : A3) (a4 : A4) (a5 : A5) (a6 : A6) : V g x nL (q a1 a2 a3 a4 a5 a6) pc (lv a1 a2 a3 a4 a5 a6) (st a1 a2 a3 a4 a5 a6) (Im a1 a2 a3 a4 a5 a6) (r a1 a2 a3 a4 a5 a6) (L6 B a1 a2 a3 a4 a5 a6) := by
  refine v_ex (fun n => ?_)
  induction n generalizing a1 a2 a3 a4 a5 a6 with
  | zero => exact v_false
  | succ n ih => exact hs (lf6 B n) ih a1 a2 a3 a4 a5 a6
theorem L7.runQ {A1 A2 A3 A4 A5 A6 A7 : Type} {B : (A1 → A2 → A3 → A4 → A5 → A6 → A7 → Prop) → A1 → A2 → A3 → A4 → A5 → A6 → A7 → Prop} {g : Gl} {x : Cx} {nL : Nat} {q : A1 → A2 → A3 → A4 → A5 → A6 → A7 → Nat × Nat} {pc : Nat} {lv : A1 → A2 → A3 → A4 → A5 → A6 → A7 → List (Nat × Value)} {st : A1 → A2 → A3 → A4 → A5 → A6 → A7 → List Value} {Im : A1 → A2 → A3 → A4 → A5 → A6 → A7 → MI} {r : A1 → A2 → A3 → A4 → A5 → A6 → A7 → Rh} (hs : ∀ X, (∀ (b1 : A1) (b2 : A2) (b3 : A3) (b4 : A4) (b5 : A5) (b6 : A6) (b7 : A7), V g x nL (q b1 b2 b3 b4 b5 b6 b7) pc (lv b1 b2 b3 b4 b5 b6 b7) (st b1 b2 b3 b4 b5 b6 b7) (Im b1 b2 b3 b4 b5 b6 b7) (r b1 b2 b3 b4 b5 b6 b7) (X b1 b2 b3 b4 b5 b6 b7)) → ∀ (a1 : A1) (a2 : A2) (a3 : A3) (a4 : A4) (a5 : A5) (a6 : A6) (a7 : A7), V g x nL (q a1 a2 a3 a4 a5 a6 a7) pc (lv a1 a2 a3 a4 a5 a6 a7) (st a1 a2 a3 a4 a5 a6 a7) (Im a1 a2 a3 a4 a5 a6 a7) (r a1 a2 a3 a4 a5 a6 a7) (B X a1 a2 a3 a4 a5 a6 a7)) (a1 : A1) (a2 : A2) (a3 : A3) (a4 : A4) (a5 : A5) (a6 : A6) (a7 : A7) : V g x nL (q a1 a2 a3 a4 a5 a6 a7) pc (lv a1 a2 a3 a4 a5 a6 a7) (st a1 a2 a3 a4 a5 a6 a7) (Im a1 a2 a3 a4 a5 a6 a7) (r a1 a2 a3 a4 a5 a6 a7) (L7 B a1 a2 a3 a4 a5 a6 a7) := by
  refine v_ex (fun n => ?_)
  induction n generalizing a1 a2 a3 a4 a5 a6 a7 with
  | zero => exact v_false
  | succ n ih => exact hs (lf7 B n) ih a1 a2 a3 a4 a5 a6 a7
theorem L8.runQ {A1 A2 A3 A4 A5 A6 A7 A8 : Type} {B : (A1 → A2 → A3 → A4 → A5 → A6 → A7 → A8 → Prop) → A1 → A2 → A3 → A4 → A5 → A6 → A7 → A8 → Prop} {g : Gl} {x : Cx} {nL : Nat} {q : A1 → A2 → A3 → A4 → A5 → A6 → A7 → A8 → Nat × Nat} {pc : Nat} {lv : A1 → A2 → A3 → A4 → A5 → A6 → A7 → A8 → List (Nat × Value)} {st : A1 → A2 → A3 → A4 → A5 → A6 → A7 → A8 → List Value} {Im : A1 → A2 → A3 → A4 → A5 → A6 → A7 → A8 → MI} {r : A1 → A2 → A3 → A4 → A5 → A6 → A7 → A8 → Rh} (hs : ∀ X, (∀ (b1 : A1) (b2 : A2) (b3 : A3) (b4 : A4) (b5 : A5) (b6 : A6) (b7 : A7) (b8 : A8), V g x nL (q b1 b2 b3 b4 b5 b6 b7 b8) pc (lv b1 b2 b3 b4 b5 b6 b7 b8) (st b1 b2 b3 b4 b5 b6 b7 b8) (Im b1 b2 b3 b4 b5 b6 b7 b8) (r b1 b2 b3 b4 b5 b6 b7 b8) (X b1 b2 b3 b4 b5 b6 b7 b8)) → ∀ (a1 : A1) (a2 : A2) (a3 : A3) (a4 : A4) (a5 : A5) (a6 : A6) (a7 : A7) (a8 : A8), V g x nL (q a1 a2 a3 a4 a5 a6 a7 a8) pc (lv a1 a2 a3 a4 a5 a6 a7 a8) (st a1 a2 a3 a4 a5 a6 a7 a8) (Im a1 a2 a3 a4 a5 a6 a7 a8) (r a1 a2 a3 a4 a5 a6 a7 a8) (B X a1 a2 a3 a4 a5 a6 a7 a8)) (a1 : A1) (a2 : A2) (a3 : A3) (a4 : A4) (a5 : A5) (a6 : A6) (a7 : A7) (a8 : A8) : V g x nL (q a1 a2 a3 a4 a5 a6 a7 a8) pc (lv a1 a2 a3 a4 a5 a6 a7 a8) (st a1 a2 a3 a4 a5 a6 a7 a8) (Im a1 a2 a3 a4 a5 a6 a7 a8) (r a1 a2 a3 a4 a5 a6 a7 a8) (L8 B a1 a2 a3 a4 a5 a6 a7 a8) := by
  refine v_ex (fun n => ?_)
  induction n generalizing a1 a2 a3 a4 a5 a6 a7 a8 with
  | zero => exact v_false
  | succ n ih => exact hs (lf8 B n) ih a1 a2 a3 a4 a5 a6 a7 a8
theorem L9.runQ {A1 A2 A3 A4 A5 A6 A7 A8 A9 : Type} {B : (A1 → A2 → A3 → A4 → A5 → A6 → A7 → A8 → A9 → Prop) → A1 → A2 → A3 → A4 → A5 → A6 → A7 → A8 → A9 → Prop} {g : Gl} {x : Cx} {nL : Nat} {q : A1 → A2 → A3 → A4 → A5 → A6 → A7 → A8 → A9 → Nat × Nat} {pc : Nat} {lv : A1 → A2 → A3 → A4 → A5 → A6 → A7 → A8 → A9 → List (Nat × Value)} {st : A1 → A2 → A3 → A4 → A5 → A6 → A7 → A8 → A9 → List Value} {Im : A1 → A2 → A3 → A4 → A5 → A6 → A7 → A8 → A9 → MI} {r : A1 → A2 → A3 → A4 → A5 → A6 → A7 → A8 → A9 → Rh} (hs : ∀ X, (∀ (b1 : A1) (b2 : A2) (b3 : A3) (b4 : A4) (b5 : A5) (b6 : A6) (b7 : A7) (b8 : A8) (b9 : A9), V g x nL (q b1 b2 b3 b4 b5 b6 b7 b8 b9) pc (lv b1 b2 b3 b4 b5 b6 b7 b8 b9) (st b1 b2 b3 b4 b5 b6 b7 b8 b9) (Im b1 b2 b3 b4 b5 b6 b7 b8 b9) (r b1 b2 b3 b4 b5 b6 b7 b8 b9) (X b1 b2 b3 b4 b5 b6 b7 b8 b9)) → ∀ (a1 : A1) (a2 : A2) (a3 : A3) (a4 : A4) (a5 : A5) (a6 : A6) (a7 : A7) (a8 : A8) (a9 : A9), V g x nL (q a1 a2 a3 a4 a5 a6 a7 a8 a9) pc (lv a1 a2 a3 a4 a5 a6 a7 a8 a9) (st a1 a2 a3 a4 a5 a6 a7 a8 a9) (Im a1 a2 a3 a4 a5 a6 a7 a8 a9) (r a1 a2 a3 a4 a5 a6 a7 a8 a9) (B X a1 a2 a3 a4 a5 a6 a7 a8 a9)) (a1 : A1) (a2 : A2) (a3 : A3) (a4 : A4) (a5 : A5) (a6 : A6) (a7 : A7) (a8 : A8) (a9 : A9) : V g x nL (q a1 a2 a3 a4 a5 a6 a7 a8 a9) pc (lv a1 a2 a3 a4 a5 a6 a7 a8 a9) (st a1 a2 a3 a4 a5 a6 a7 a8 a9) (Im a1 a2 a3 a4 a5 a6 a7 a8 a9) (r a1 a2 a3 a4 a5 a6 a7 a8 a9) (L9 B a1 a2 a3 a4 a5 a6 a7 a8 a9) := by
  refine v_ex (fun n => ?_)
  induction n generalizing a1 a2 a3 a4 a5 a6 a7 a8 a9 with
  | zero => exact v_false
  | succ n ih => exact hs (lf9 B n) ih a1 a2 a3 a4 a5 a6 a7 a8 a9
theorem L10.runQ {A1 A2 A3 A4 A5 A6 A7 A8 A9 A10 : Type} {B : (A1 → A2 → A3 → A4 → A5 → A6 → A7 → A8 → A9 → A10 → Prop) → A1 → A2 → A3 → A4 → A5 → A6 → A7 → A8 → A9 → A10 → Prop} {g : Gl} {x : Cx} {nL : Nat} {q : A1 → A2 → A3 → A4 → A5 → A6 → A7 → A8 → A9 → A10 → Nat × Nat} {pc : Nat} {lv : A1 → A2 → A3 → A4 → A5 → A6 → A7 → A8 → A9 → A10 → List (Nat × Value)} {st : A1 → A2 → A3 → A4 → A5 → A6 → A7 → A8 → A9 → A10 → List Value} {Im : A1 → A2 → A3 → A4 → A5 → A6 → A7 → A8 → A9 → A10 → MI} {r : A1 → A2 → A3 → A4 → A5 → A6 → A7 → A8 → A9 → A10 → Rh} (hs : ∀ X, (∀ (b1 : A1) (b2 : A2) (b3 : A3) (b4 : A4) (b5 : A5) (b6 : A6) (b7 : A7) (b8 : A8) (b9 : A9) (b10 : A10), V g x nL (q b1 b2 b3 b4 b5 b6 b7 b8 b9 b10) pc (lv b1 b2 b3 b4 b5 b6 b7 b8 b9 b10) (st b1 b2 b3 b4 b5 b6 b7 b8 b9 b10) (Im b1 b2 b3 b4 b5 b6 b7 b8 b9 b10) (r b1 b2 b3 b4 b5 b6 b7 b8 b9 b10) (X b1 b2 b3 b4 b5 b6 b7 b8 b9 b10)) → ∀ (a1 : A1) (a2 : A2) (a3 : A3) (a4 : A4) (a5 : A5) (a6 : A6) (a7 : A7) (a8 : A8) (a9 : A9) (a10 : A10), V g x nL (q a1 a2 a3 a4 a5 a6 a7 a8 a9 a10) pc (lv a1 a2 a3 a4 a5 a6 a7 a8 a9 a10) (st a1 a2 a3 a4 a5 a6 a7 a8 a9 a10) (Im a1 a2 a3 a4 a5 a6 a7 a8 a9 a10) (r a1 a2 a3 a4 a5 a6 a7 a8 a9 a10) (B X a1 a2 a3 a4 a5 a6 a7 a8 a9 a10)) (a1 : A1) (a2 : A2) (a3 : A3) (a4 : A4) (a5 : A5) (a6 : A6) (a7 : A7) (a8 : A8) (a9 : A9) (a10 : A10) : V g x nL (q a1 a2 a3 a4 a5 a6 a7 a8 a9 a10) pc (lv a1 a2 a3 a4 a5 a6 a7 a8 a9 a10) (st a1 a2 a3 a4 a5 a6 a7 a8 a9 a10) (Im a1 a2 a3 a4 a5 a6 a7 a8 a9 a10) (r a1 a2 a3 a4 a5 a6 a7 a8 a9 a10) (L10 B a1 a2 a3 a4 a5 a6 a7 a8 a9 a10) := by
  refine v_ex (fun n => ?_)
  induction n generalizing a1 a2 a3 a4 a5 a6 a7 a8 a9 a10 with
  | zero => exact v_false
  | succ n ih => exact hs (lf10 B n) ih a1 a2 a3 a4 a5 a6 a7 a8 a9 a10
