/-! V: the kit's W over a flat memory. I a k: ints, P a k: references, K a: what the cell is (a class's number in vCl; 50 + a number in vTy: an array; 99: nothing that is known), L a: an array's length; a program is a Prop in continuation style. -/
set_option maxRecDepth 100000
abbrev MI : Type := Nat → Nat → Int32
abbrev MP : Type := Nat → Nat → Option Nat
abbrev Rh : Type := MP × (Nat → Nat) × (Nat → Nat) × Nat × Nat
abbrev Gl : Type := Launch × va_G × (Nat → ClassId) × Nat × (Nat → Nat)
abbrev Cx : Type := Program × Env × Room × State × MethodId × Array Value × List Frame × Method × Code × (State → Prop)
abbrev rP (r : Rh) : MP := r.1
abbrev rK (r : Rh) : Nat → Nat := r.2.1
abbrev rL (r : Rh) : Nat → Nat := r.2.2.1
abbrev rN (r : Rh) : Nat := r.2.2.2.1
abbrev rS (r : Rh) : Nat := r.2.2.2.2
abbrev gl (g : Gl) : Launch := g.1
abbrev gD (g : Gl) : va_G := g.2.1
abbrev gA (g : Gl) : Nat → ClassId := g.2.2.1
abbrev gB (g : Gl) : Nat := g.2.2.2.1
abbrev gX (g : Gl) : Nat → Nat := g.2.2.2.2
abbrev xp (x : Cx) : Program := x.1
abbrev xe (x : Cx) : Env := x.2.1
abbrev xR (x : Cx) : Room := x.2.2.1
abbrev xs (x : Cx) : State := x.2.2.2.1
abbrev xm (x : Cx) : MethodId := x.2.2.2.2.1
abbrev xa (x : Cx) : Array Value := x.2.2.2.2.2.1
abbrev xb (x : Cx) : List Frame := x.2.2.2.2.2.2.1
abbrev xM (x : Cx) : Method := x.2.2.2.2.2.2.2.1
abbrev xc (x : Cx) : Code := x.2.2.2.2.2.2.2.2.1
abbrev xQ (x : Cx) : State → Prop := x.2.2.2.2.2.2.2.2.2
def gS (g : Gl) : Nat → Prop := fun q => gB g ≤ q
def vCl : List vw_C := [(RX0, TX0, 17), (RX1, TX1, 29), (RX2, TX2, 2), (RX3, TX3, 5), (RX4, TX4, 2), (RX5, TX5, 4), (RX6, TX6, 64), (RX7, TX7, 10), (RX8, TX8, 8), (RJ2, TJ2, 3), (RX10, TX10, 1), (RX11, TX11, 1), (RX12, TX12, 3), (RX13, TX13, 1), (RX14, TX14, 3), (RX15, TX15, 4)]
def vTy : List FieldType := [.int, .byte, .object "KindPostman$Door", .object "KindPostman$Letter", .object "KindPostman$Walk", .array .int, .object "java/lang/Object"]
def vF : List (List Bool) := [
  [true, false, false, false, true, true, true, true, false, false, true, true, true, true, true, true, true],
  [true, true, true, true, true, true, true, true, true, true, true, true, true, true, false, false, false, false, false, false, false, false, false, false, false, false, false, false, true],
  [true, false], [false, false, false, false, false], [true, false], [false, false, false, false],
  [false, true, true, false, true, false, false, true, true, true, false, false, false, false, false, true, true, true, true, true, true, true, true, false, false, false, true, false, false, false, false, false, false, true, false, true, false, true, true, true, false, true, false, true, true, false, true, true, true, false, true, true, true, false, true, false, true, false, true, true, false, false, false, true],
  [false, true, true, false, false, false, false, false, false, true], [true, true, true, true, true, false, false, false], [false, true, false], [false], [false], [true, true, false], [true], [false, true, true], [false, false, false, false]]
def vRef (c k : Nat) : Bool := ((vF[c]?).getD []).getD k false
def gT (g : Gl) : List (ClassId × FieldType) := [(gA g 0, .int), (gA g 1, .byte), (gA g 2, .object "KindPostman$Door"), (gA g 3, .object "KindPostman$Letter"), (gA g 4, .object "KindPostman$Walk"), (gA g 5, .array .int), (gA g 6, .object "java/lang/Object")]
theorem gT_at {g : Gl} {t : Nat} {ty : FieldType} (h : vTy[t]? = some ty) : (gT g)[t]? = some (gA g t, ty) := by
  rcases t with _ | _ | _ | _ | _ | _ | _ | t <;> simp [vTy] at h <;> subst h <;> rfl
theorem vCl_lt {c : Nat} {q : vw_C} (h : vCl[c]? = some q) : c < 50 := Nat.lt_trans (List.getElem?_eq_some_iff.mp h).1 (by decide)
theorem vTy_lt {t : Nat} {q : FieldType} (h : vTy[t]? = some q) : t < 10 := Nat.lt_trans (List.getElem?_eq_some_iff.mp h).1 (by decide)
/-- a field's value, an array's cell -/
def fv (c : Nat) (I : MI) (P : MP) (a k : Nat) : Value := if vRef c k = true then va_rf (P a k) else .int (I a k)
def vc (ty : FieldType) (cA : ClassId) (n : Nat) (I : MI) (P : MP) (a : Nat) : Cell := arrV cA n (fun j => if ty.isReference = true then va_rf (P a j) else .int (I a j))
/-- the heap holds the memory -/
def Rp (g : Gl) (I : MI) (r : Rh) (H : Heap) : Prop := H.size = rN r ∧ ∀ a : Nat, (rK r a ≠ 99 → gB g ≤ a) ∧
  (∀ (c : Nat) (q : vw_C), rK r a = c → vCl[c]? = some q → t_OB a ((gD g).1 c) q.2.2 ((gD g).2 c) H (fv c I (rP r) a)) ∧
  (∀ (t : Nat) (ty : FieldType), rK r a = 50 + t → vTy[t]? = some ty → H[a]? = some (vc ty (gA g t) (rL r a) I (rP r) a))
def isNest : Cond → Bool
  | .fieldLinkNest .. => true
  | .methodLinkNest .. => true
  | .declares .. => true
  | .castable .. => true
  | _ => false
/-- the strings that the reader's code names: entry, text, bytes -/
def strT : List (Nat × String × List Int32) := [(56, "kind", [107, 105, 110, 100]), (62, "much", [109, 117, 99, 104]), (64, "age", [97, 103, 101]), (66, "face", [102, 97, 99, 101]), (68, "love", [108, 111, 118, 101]), (70, "purse", [112, 117, 114, 115, 101]), (72, "health", [104, 101, 97, 108, 116, 104]), (74, "hunger", [104, 117, 110, 103, 101, 114]), (76, "hour", [104, 111, 117, 114]), (78, "rain", [114, 97, 105, 110]), (80, "day", [100, 97, 121]), (82, "when", [119, 104, 101, 110]), (84, "or", [111, 114]), (86, "and", [97, 110, 100]), (88, "not", [110, 111, 116]), (90, "opens", [111, 112, 101, 110, 115]), (92, "gives", [103, 105, 118, 101, 115]), (94, "tires", [116, 105, 114, 101, 115]), (99, "on", [111, 110]), (101, "to", [116, 111]), (103, "news", [110, 101, 119, 115]), (105, "bill", [98, 105, 108, 108]), (107, "kiss", [107, 105, 115, 115]), (109, "anger", [97, 110, 103, 101, 114]), (111, "invitation", [105, 110, 118, 105, 116, 97, 116, 105, 111, 110]), (113, "text", [116, 101, 120, 116]), (115, "joke", [106, 111, 107, 101]), (123, "walk", [119, 97, 108, 107]), (125, "street", [115, 116, 114, 101, 101, 116])]
def AOI (U : State) : Prop := (Cond.arrayOver (.array .int)).before #[] U = true
theorem AOI.spec {U : State} (h : AOI U) : ∃ comp c k, U.vm.findClass (FieldType.array .int).toString = some comp ∧ (U.vm.classes.findIdx? fun (x : Class) => match x.kind with | .array component _ => component == comp | _ => false) = some c ∧ U.vm.classes[c]? = some k ∧ k.kind = .array comp (.array .int) ∧ U.vm.findClass ("[" ++ (FieldType.array .int).toString) = some c := by
  unfold AOI Cond.before at h
  simp only [Cond.holds, Cond.value, beq_iff_eq] at h
  cases hc : U.vm.findClass (FieldType.array .int).toString with
  | none => simp [hc] at h
  | some comp =>
    simp only [hc, Option.bind_some, Option.bind_eq_some_iff, Option.map_eq_some_iff] at h
    obtain ⟨c, hi, k, hk, hb⟩ := h
    obtain ⟨hlt, hp, -⟩ := Array.findIdx?_eq_some_iff_getElem.mp hi
    have hkk : U.vm.classes[c] = k := (Array.getElem?_eq_some_iff.mp hk).2
    rw [hkk] at hp
    cases hkind : k.kind with
    | array component ty =>
      rw [hkind] at hb hp
      simp at hb hp
      exact ⟨comp, c, k, rfl, hi, hk, by rw [hkind, hp, hb.1], hb.2⟩
    | _ => rw [hkind] at hb; simp at hb
theorem AOI.moved {u U : State} (hvm : u.vm.Alike U.vm) (h : AOI u) : AOI U := by
  obtain ⟨comp, c, k, h1, h2, h3, h4, h5⟩ := h.spec
  obtain ⟨k', hk', he⟩ := hvm.2.2 _ _ h3
  have hi : (U.vm.classes.findIdx? fun (x : Class) => match x.kind with | .array component _ => component == comp | _ => false) = some c := by
    have e1 := va_idx_bare U.vm comp
    have e2 := va_idx_bare u.vm comp
    have e3 : U.vm.bare = u.vm.bare := by first | exact hvm.bare_eq | exact hvm.bare_eq.symm
    rw [e3] at e1
    exact (e1.symm.trans e2).trans h2
  have hkind : k'.kind = .array comp (.array .int) := by rw [he]; exact h4
  have f1 : U.vm.findClass (FieldType.array .int).toString = some comp := by rw [hvm.findClass]; exact h1
  have f2 : U.vm.findClass ("[" ++ (FieldType.array .int).toString) = some c := by rw [hvm.findClass]; exact h5
  unfold AOI Cond.before Cond.holds
  simp only [Cond.value]
  rw [f1, Option.bind_some]
  refine (congrArg (fun o : Option Nat => (o.bind (fun c => (U.vm.classes[c]?).map fun (k : Class) => match k.kind with | .array _ ty => decide (ty = FieldType.array .int) && decide (U.vm.findClass ("[" ++ (FieldType.array .int).toString) = some c) | _ => false) == some true)) hi).trans ?_
  simp [hk', hkind, f2]
abbrev xFact : MethodName := ⟨"KindPostman$Asker", "fact", "(I)I"⟩
/-- what the tables say besides: an interface's method, arrays over classes -/
def WX (U : State) : Prop := va_Fw RX1 xFact yX1_fact U ∧ va_AO RX5 U ∧ va_AO RX3 U ∧ va_AO RX1 U ∧ va_AO "java/lang/Object" U ∧ AOI U
theorem WX.moved {u U : State} (hvm : u.vm.Alike U.vm) (h : WX u) : WX U := ⟨va_Fw.moved (by decide) hvm h.1, va_AO.moved hvm h.2.1, va_AO.moved hvm h.2.2.1, va_AO.moved hvm h.2.2.2.1, va_AO.moved hvm h.2.2.2.2.1, AOI.moved hvm h.2.2.2.2.2⟩
/-- what the tables say: classes, arrays, nest mates' links -/
def WK (g : Gl) (U : State) : Prop := va_K (gD g) vCl (gT g) U ∧ (∀ w ∈ lw_tbl, isNest w = true → va_Nw w U) ∧ WX U
/-- what lies outside: ArrayList's empty array, the mirror of Object[], the strings -/
def xS (g : Gl) (U : State) (i k : Nat) (tx : String) (bs : List Int32) : Prop := vk_R RX7 k tx (gX g (10 + i)) U ∧ va_O "java/lang/String" (gX g (10 + i)) (gS g) U U.heap ∧ va_OF "java/lang/String" "coder" "B" (.int 0) (gX g (10 + i)) (gS g) U U.heap ∧ va_OF "java/lang/String" "value" "[B" (.ref (gX g (50 + i))) (gX g (10 + i)) (gS g) U U.heap ∧ va_T .byte (gX g (50 + i)) bs.length (fun j => .int (bs.getD j 0)) (gS g) U U.heap
def Ext (g : Gl) (U : State) : Prop := va_Z "java/util/ArrayList" "DEFAULTCAPACITY_EMPTY_ELEMENTDATA" "[Ljava/lang/Object;" (.ref (gX g 0)) (gS g) U U.heap ∧ va_T (.object "java/lang/Object") (gX g 0) 0 (fun _ => .null) (gS g) U U.heap ∧ va_Mi "[Ljava/lang/Object;" (gX g 1) U ∧ va_Dc U ∧ (va_Z "java/lang/String" "COMPACT_STRINGS" "Z" (.int 1) (gS g) U U.heap ∧ va_Zq "jdk/internal/util/Preconditions" "SIOOBE_FORMATTER" "Ljava/util/function/BiFunction;" (gS g) U U.heap ∧ vx_Zq Bundle.tN "UNASSIGNED_STACK" Bundle.steD (gS g) U U.heap ∧ vx_Zq Bundle.tN "SUPPRESSED_SENTINEL" Bundle.listD (gS g) U U.heap) ∧ ∀ (i k : Nat) (tx : String) (bs : List Int32), strT[i]? = some (k, tx, bs) → xS g U i k tx bs
def HB (g : Gl) (U : State) : Prop := gB g ≤ U.heap.size ∧ Ext g U
theorem HB.next {g : Gl} {s U : State} {H : Heap} {locs : List Loc} (h : HB g s) (hS : va_S (gS g) s.heap H locs) (hU : U.heap = H) (hW : s.WarmedH U.vm) : HB g U := by
  subst hU
  obtain ⟨h0, h1, h2, h3, h4, ⟨h6, h7, h8, h9⟩, h5⟩ := h
  refine ⟨Nat.le_trans h0 hS.1, (h1.kept hS.2.1).moved hW.alike, (h2.kept hS.2.1).moved hW.alike, h3.moved hW.alike, h4.moved hW.alike, ⟨(h6.kept hS.2.1).moved hW.alike, va_Zq.moved hW.alike (va_Zq.kept h7 hS.2.1), vx_Zq.moved hW.alike (vx_Zq.kept h8 hS.2.1), vx_Zq.moved hW.alike (vx_Zq.kept h9 hS.2.1)⟩, fun i k tx bs hi => ?_⟩
  obtain ⟨g1, g2, g3, g4, g5⟩ := h5 i k tx bs hi
  exact ⟨g1.warm hW, va_O.moved hW.alike (g2.kept hS.2.1), va_OF.moved hW.alike (g3.kept hS.2.1), va_OF.moved hW.alike (g4.kept hS.2.1), (g5.kept hS.2.1).moved hW.alike⟩
theorem HB.same {g : Gl} {s U : State} (hv : U.vm = s.vm) (hh : U.heap = s.heap) (h : HB g s) : HB g U := by
  have hvm : s.vm.Alike U.vm := by rw [hv]; exact Vm.Alike.refl _
  obtain ⟨h0, h1, h2, h3, h4, ⟨h6, h7, h8, h9⟩, h5⟩ := h
  unfold HB Ext xS
  rw [hh]
  refine ⟨h0, h1.moved hvm, h2.moved hvm, h3.moved hvm, h4.moved hvm, ⟨h6.moved hvm, va_Zq.moved hvm h7, vx_Zq.moved hvm h8, vx_Zq.moved hvm h9⟩, fun i k tx bs hi => ?_⟩
  obtain ⟨g1, g2, g3, g4, g5⟩ := h5 i k tx bs hi
  exact ⟨vk_R.same hv g1, va_O.moved hvm g2, va_OF.moved hvm g3, va_OF.moved hvm g4, g5.moved hvm⟩
def RS (g : Gl) (I : MI) (r : Rh) (U : State) : Prop := Rp g I r U.heap ∧ WK g U ∧ HB g U
theorem WK.warm {g : Gl} {s U : State} (hW : s.WarmedH U.vm) (h : WK g s) : WK g U := by
  refine ⟨va_K.moved hW.alike h.1, fun w hw hi => ?_, WX.moved hW.alike h.2.2⟩
  have h2 := h.2.1 w hw hi
  cases w <;> simp only [isNest, Bool.false_eq_true] at hi
  all_goals first | exact va_Nw.warmF hW h2 | exact va_Nw.warmM hW h2 | exact va_Nw.warmD hW h2 | exact va_Nw.warmC hW h2
theorem WK.same {g : Gl} {s U : State} (hv : s.vm = U.vm) (h : WK g s) : WK g U := by
  refine ⟨va_K.moved (by rw [hv]; exact Vm.Alike.refl _) h.1, fun w hw hi => ?_, WX.moved (by rw [hv]; exact Vm.Alike.refl _) h.2.2⟩
  have h2 := h.2.1 w hw hi
  cases w <;> simp only [isNest, Bool.false_eq_true] at hi
  all_goals exact va_Nw.same rfl hv h2
/-- what stands all through a method -/
def Amb (g : Gl) (x : Cx) (cc : ByteArray) (nL : Nat) (own : String) (d : Nat) : Prop :=
  (xp x).tables.exec = Jvm.exec ∧ (xc x).code = cc ∧ (xc x).maxLocals = nL ∧ (xs x).vm.findClass own = some (xm x).cls ∧ (∀ w ∈ lw_all, w.before (xa x) (xs x) = true) ∧ (xM x).locks = false ∧ (xR x).frames = d ∧ (xR x).locals = 60 * d ∧ WK g (xs x) ∧ HB g (xs x)
def V (g : Gl) (x : Cx) (nL : Nat) (q : Nat × Nat) (pc : Nat) (lv : List (Nat × Value)) (st : List Value) (I : MI) (r : Rh) (E : Prop) : Prop :=
  E → ∀ (H : Heap) (locs : List Loc) (ls : Array Slot), Rp g I r H → va_S (gS g) (xs x).heap H locs → lv_has ls nL lv →
    W (xp x) (gl g) (xe x) (xR x) (xs x) (xm x) (xa x) (xb x) (xM x) (xc x) H locs q.1 q.2 (xQ x) (F0 (xm x) pc ls st)
def wI (I : MI) (a k : Nat) (v : Int32) : MI := fun b j => if b = a ∧ j = k then v else I b j
def wP (r : Rh) (a k : Nat) (v : Option Nat) : Rh := (fun b j => if b = a ∧ j = k then v else rP r b j, rK r, rL r, rN r, rS r)
section VROWS
variable {g : Gl} {x : Cx} {cc : ByteArray} {nL : Nat} {own : String} {d : Nat} {q : Nat × Nat} {pc : Nat} {lv lv' : List (Nat × Value)} {st : List Value} {I : MI} {r : Rh} {E : Prop}
theorem v_iconst (h : Amb g x cc nL own d) {n : Int} (hd : decode cc pc = .ok (.iconst n, 1)) {v : Int32} (hv : Int32.ofInt n = v) (k : V g x nL q (pc + 1) lv (.int v :: st) I r E) : V g x nL q pc lv st I r E :=
  fun hE H locs ls hR hS hl => lv_iconst h.1 h.2.1 hd hv (k hE H locs ls hR hS hl)
theorem v_bipush (h : Amb g x cc nL own d) {n : Int} (hd : decode cc pc = .ok (.bipush n, 2)) {v : Int32} (hv : (Int8.ofInt n).toInt32 = v) (k : V g x nL q (pc + 2) lv (.int v :: st) I r E) : V g x nL q pc lv st I r E :=
  fun hE H locs ls hR hS hl => lv_bipush h.1 h.2.1 hd hv (k hE H locs ls hR hS hl)
theorem v_sipush (h : Amb g x cc nL own d) {n : Int} (hd : decode cc pc = .ok (.sipush n, 3)) {v : Int32} (hv : (Int16.ofInt n).toInt32 = v) (k : V g x nL q (pc + 3) lv (.int v :: st) I r E) : V g x nL q pc lv st I r E :=
  fun hE H locs ls hR hS hl => lv_sipush h.1 h.2.1 hd hv (k hE H locs ls hR hS hl)
theorem v_ldc (h : Amb g x cc nL own d) {idx : Nat} (hd : decode cc pc = .ok (.ldc idx, 2)) {v : Int32} (hw : Cond.constant own idx v ∈ lw_all) (k : V g x nL q (pc + 2) lv (.int v :: st) I r E) : V g x nL q pc lv st I r E :=
  fun hE H locs ls hR hS hl => lv_ldc h.1 h.2.1 h.2.2.2.1 (h.2.2.2.2.1 _ hw) hd (k hE H locs ls hR hS hl)
theorem v_ldcw (h : Amb g x cc nL own d) {idx : Nat} (hd : decode cc pc = .ok (.ldc_w idx, 3)) {v : Int32} (hw : Cond.constant own idx v ∈ lw_all) (k : V g x nL q (pc + 3) lv (.int v :: st) I r E) : V g x nL q pc lv st I r E :=
  fun hE H locs ls hR hS hl => lv_ldcw h.1 h.2.1 h.2.2.2.1 (h.2.2.2.2.1 _ hw) hd (k hE H locs ls hR hS hl)
theorem v_iload_n (h : Amb g x cc nL own d) {n : Fin 4} {i : Nat} (hd : decode cc pc = .ok (.iload_n n, 1)) (p : Nat) (hi : (n : Nat) = i) {v : Int32} (hp : lv[p]? = some (i, .int v)) (k : V g x nL q (pc + 1) lv (.int v :: st) I r E) : V g x nL q pc lv st I r E :=
  fun hE H locs ls hR hS hl => lv_iload_n h.1 h.2.1 hd hi (lv_at hl p hp) (k hE H locs ls hR hS hl)
theorem v_iload (h : Amb g x cc nL own d) {i : Nat} (hd : decode cc pc = .ok (.iload i, 2)) (p : Nat) {v : Int32} (hp : lv[p]? = some (i, .int v)) (k : V g x nL q (pc + 2) lv (.int v :: st) I r E) : V g x nL q pc lv st I r E :=
  fun hE H locs ls hR hS hl => lv_iload h.1 h.2.1 hd (lv_at hl p hp) (k hE H locs ls hR hS hl)
theorem v_aload_n (h : Amb g x cc nL own d) {n : Fin 4} {i : Nat} (hd : decode cc pc = .ok (.aload_n n, 1)) (p : Nat) (hi : (n : Nat) = i) {v : Nat} (hp : lv[p]? = some (i, .ref v)) (k : V g x nL q (pc + 1) lv (.ref v :: st) I r E) : V g x nL q pc lv st I r E :=
  fun hE H locs ls hR hS hl => lv_aload_n h.1 h.2.1 hd hi (lv_at hl p hp) (k hE H locs ls hR hS hl)
theorem v_aload (h : Amb g x cc nL own d) {i : Nat} (hd : decode cc pc = .ok (.aload i, 2)) (p : Nat) {v : Nat} (hp : lv[p]? = some (i, .ref v)) (k : V g x nL q (pc + 2) lv (.ref v :: st) I r E) : V g x nL q pc lv st I r E :=
  fun hE H locs ls hR hS hl => lv_aload h.1 h.2.1 hd (lv_at hl p hp) (k hE H locs ls hR hS hl)
theorem v_istore_n (h : Amb g x cc nL own d) {n : Fin 4} {i : Nat} {v : Int32} (hd : decode cc pc = .ok (.istore_n n, 1)) (hi : (n : Nat) = i) (hn : i < nL) (hlv : (i, Value.int v) :: lv.filter (fun q => !(q.1 == i) && !(q.1 + 1 == i && q.2.category == 2)) = lv') (k : V g x nL q (pc + 1) lv' st I r E) : V g x nL q pc lv (.int v :: st) I r E :=
  fun hE H locs ls hR hS hl => lv_istore_n h.1 h.2.1 hd hi hl hn hlv (fun ls' hl' => k hE H locs ls' hR hS hl')
theorem v_istore (h : Amb g x cc nL own d) {i : Nat} {v : Int32} (hd : decode cc pc = .ok (.istore i, 2)) (hn : i < nL) (hlv : (i, Value.int v) :: lv.filter (fun q => !(q.1 == i) && !(q.1 + 1 == i && q.2.category == 2)) = lv') (k : V g x nL q (pc + 2) lv' st I r E) : V g x nL q pc lv (.int v :: st) I r E :=
  fun hE H locs ls hR hS hl => lv_istore h.1 h.2.1 hd hl hn hlv (fun ls' hl' => k hE H locs ls' hR hS hl')
theorem v_astore_n (h : Amb g x cc nL own d) {n : Fin 4} {i : Nat} {v : Nat} (hd : decode cc pc = .ok (.astore_n n, 1)) (hi : (n : Nat) = i) (hn : i < nL) (hlv : (i, Value.ref v) :: lv.filter (fun q => !(q.1 == i) && !(q.1 + 1 == i && q.2.category == 2)) = lv') (k : V g x nL q (pc + 1) lv' st I r E) : V g x nL q pc lv (.ref v :: st) I r E :=
  fun hE H locs ls hR hS hl => lv_astore_n h.1 h.2.1 hd hi hl hn hlv (fun ls' hl' => k hE H locs ls' hR hS hl')
theorem v_astore (h : Amb g x cc nL own d) {i : Nat} {v : Nat} (hd : decode cc pc = .ok (.astore i, 2)) (hn : i < nL) (hlv : (i, Value.ref v) :: lv.filter (fun q => !(q.1 == i) && !(q.1 + 1 == i && q.2.category == 2)) = lv') (k : V g x nL q (pc + 2) lv' st I r E) : V g x nL q pc lv (.ref v :: st) I r E :=
  fun hE H locs ls hR hS hl => lv_astore h.1 h.2.1 hd hl hn hlv (fun ls' hl' => k hE H locs ls' hR hS hl')
theorem v_iinc (h : Amb g x cc nL own d) {i : Nat} {n : Int} {v w : Int32} (hd : decode cc pc = .ok (.iinc i n, 3)) (p : Nat) (hp : lv[p]? = some (i, .int v)) (hv : v + Int32.ofInt n = w) (hn : i < nL) (hlv : (i, Value.int w) :: lv.filter (fun q => !(q.1 == i) && !(q.1 + 1 == i && q.2.category == 2)) = lv') (k : V g x nL q (pc + 3) lv' st I r E) : V g x nL q pc lv st I r E :=
  fun hE H locs ls hR hS hl => lv_iinc h.1 h.2.1 hd hl hp hv hn hlv (fun ls' hl' => k hE H locs ls' hR hS hl')
theorem v_iadd (h : Amb g x cc nL own d) {a b : Int32} (hd : decode cc pc = .ok (.iadd, 1)) (k : V g x nL q (pc + 1) lv (.int (a + b) :: st) I r E) : V g x nL q pc lv (.int b :: .int a :: st) I r E :=
  fun hE H locs ls hR hS hl => lv_iadd h.1 h.2.1 hd (k hE H locs ls hR hS hl)
theorem v_isub (h : Amb g x cc nL own d) {a b : Int32} (hd : decode cc pc = .ok (.isub, 1)) (k : V g x nL q (pc + 1) lv (.int (a - b) :: st) I r E) : V g x nL q pc lv (.int b :: .int a :: st) I r E :=
  fun hE H locs ls hR hS hl => lv_isub h.1 h.2.1 hd (k hE H locs ls hR hS hl)
theorem v_imul (h : Amb g x cc nL own d) {a b : Int32} (hd : decode cc pc = .ok (.imul, 1)) (k : V g x nL q (pc + 1) lv (.int (a * b) :: st) I r E) : V g x nL q pc lv (.int b :: .int a :: st) I r E :=
  fun hE H locs ls hR hS hl => lv_imul h.1 h.2.1 hd (k hE H locs ls hR hS hl)
theorem v_iand (h : Amb g x cc nL own d) {a b : Int32} (hd : decode cc pc = .ok (.iand, 1)) (k : V g x nL q (pc + 1) lv (.int (a &&& b) :: st) I r E) : V g x nL q pc lv (.int b :: .int a :: st) I r E :=
  fun hE H locs ls hR hS hl => lv_iand h.1 h.2.1 hd (k hE H locs ls hR hS hl)
theorem v_ior (h : Amb g x cc nL own d) {a b : Int32} (hd : decode cc pc = .ok (.ior, 1)) (k : V g x nL q (pc + 1) lv (.int (a ||| b) :: st) I r E) : V g x nL q pc lv (.int b :: .int a :: st) I r E :=
  fun hE H locs ls hR hS hl => lv_ior h.1 h.2.1 hd (k hE H locs ls hR hS hl)
theorem v_ixor (h : Amb g x cc nL own d) {a b : Int32} (hd : decode cc pc = .ok (.ixor, 1)) (k : V g x nL q (pc + 1) lv (.int (a ^^^ b) :: st) I r E) : V g x nL q pc lv (.int b :: .int a :: st) I r E :=
  fun hE H locs ls hR hS hl => lv_ixor h.1 h.2.1 hd (k hE H locs ls hR hS hl)
theorem v_ishl (h : Amb g x cc nL own d) {a b : Int32} (hd : decode cc pc = .ok (.ishl, 1)) (k : V g x nL q (pc + 1) lv (.int (a <<< (b &&& 31)) :: st) I r E) : V g x nL q pc lv (.int b :: .int a :: st) I r E :=
  fun hE H locs ls hR hS hl => lv_ishl h.1 h.2.1 hd (k hE H locs ls hR hS hl)
theorem v_ishr (h : Amb g x cc nL own d) {a b : Int32} (hd : decode cc pc = .ok (.ishr, 1)) (k : V g x nL q (pc + 1) lv (.int (a >>> (b &&& 31)) :: st) I r E) : V g x nL q pc lv (.int b :: .int a :: st) I r E :=
  fun hE H locs ls hR hS hl => lv_ishr h.1 h.2.1 hd (k hE H locs ls hR hS hl)
theorem v_idiv (h : Amb g x cc nL own d) {a b : Int32} (hd : decode cc pc = .ok (.idiv, 1)) (k : V g x nL q (pc + 1) lv (.int (a / b) :: st) I r E) : V g x nL q pc lv (.int b :: .int a :: st) I r (b ≠ 0 ∧ E) :=
  fun hE H locs ls hR hS hl => lv_idiv h.1 h.2.1 hd hE.1 (k hE.2 H locs ls hR hS hl)
theorem v_idivK (h : Amb g x cc nL own d) {a b : Int32} (hd : decode cc pc = .ok (.idiv, 1)) (hb : ¬ b = 0) (k : V g x nL q (pc + 1) lv (.int (a / b) :: st) I r E) : V g x nL q pc lv (.int b :: .int a :: st) I r E :=
  fun hE H locs ls hR hS hl => lv_idiv h.1 h.2.1 hd hb (k hE H locs ls hR hS hl)
theorem v_irem (h : Amb g x cc nL own d) {a b : Int32} (hd : decode cc pc = .ok (.irem, 1)) (k : V g x nL q (pc + 1) lv (.int (a - a / b * b) :: st) I r E) : V g x nL q pc lv (.int b :: .int a :: st) I r (b ≠ 0 ∧ E) :=
  fun hE H locs ls hR hS hl => lv_irem h.1 h.2.1 hd hE.1 (k hE.2 H locs ls hR hS hl)
theorem v_iremK (h : Amb g x cc nL own d) {a b : Int32} (hd : decode cc pc = .ok (.irem, 1)) (hb : ¬ b = 0) (k : V g x nL q (pc + 1) lv (.int (a - a / b * b) :: st) I r E) : V g x nL q pc lv (.int b :: .int a :: st) I r E :=
  fun hE H locs ls hR hS hl => lv_irem h.1 h.2.1 hd hb (k hE H locs ls hR hS hl)
theorem v_iushr (h : Amb g x cc nL own d) {a b : Int32} (hd : decode cc pc = .ok (.iushr, 1)) (k : V g x nL q (pc + 1) lv (.int ((a.toUInt32 >>> (b.toUInt32 &&& Int32.toUInt32 31)).toInt32) :: st) I r E) : V g x nL q pc lv (.int b :: .int a :: st) I r E :=
  fun hE H locs ls hR hS hl => lv_iushr h.1 h.2.1 hd rfl (k hE H locs ls hR hS hl)
theorem v_i2b (h : Amb g x cc nL own d) {a : Int32} (hd : decode cc pc = .ok (.i2b, 1)) (k : V g x nL q (pc + 1) lv (.int (a.toInt8.toInt32) :: st) I r E) : V g x nL q pc lv (.int a :: st) I r E :=
  fun hE H locs ls hR hS hl => lv_i2b h.1 h.2.1 hd rfl (k hE H locs ls hR hS hl)
theorem v_dup (h : Amb g x cc nL own d) {a : Value} (hd : decode cc pc = .ok (.dup, 1)) (ha : a.category = 1) (k : V g x nL q (pc + 1) lv (a :: a :: st) I r E) : V g x nL q pc lv (a :: st) I r E :=
  fun hE H locs ls hR hS hl => lv_dup h.1 h.2.1 hd ha (k hE H locs ls hR hS hl)
theorem v_dup2 (h : Amb g x cc nL own d) {a b : Value} (hd : decode cc pc = .ok (.dup2, 1)) (ha : a.category = 1) (hb : b.category = 1) (k : V g x nL q (pc + 1) lv (a :: b :: a :: b :: st) I r E) : V g x nL q pc lv (a :: b :: st) I r E :=
  fun hE H locs ls hR hS hl => lv_dup2_11 h.1 h.2.1 hd ha hb (k hE H locs ls hR hS hl)
theorem v_pop (h : Amb g x cc nL own d) {a : Value} (hd : decode cc pc = .ok (.pop, 1)) (ha : a.category = 1) (k : V g x nL q (pc + 1) lv st I r E) : V g x nL q pc lv (a :: st) I r E :=
  fun hE H locs ls hR hS hl => lv_pop h.1 h.2.1 hd ha (k hE H locs ls hR hS hl)
theorem v_goto (h : Amb g x cc nL own d) {off : Int} {t : Nat} (hd : decode cc pc = .ok (.goto off, 3)) (ht : (pc : Int) + off = (t : Int)) (k : V g x nL q t lv st I r E) : V g x nL q pc lv st I r E :=
  fun hE H locs ls hR hS hl => lv_goto h.1 h.2.1 hd ht (k hE H locs ls hR hS hl)
theorem v_if_eq (h : Amb g x cc nL own d) {a : Int32} {off : Int} {t : Nat} {E1 E2 : Prop} (hd : decode cc pc = .ok (.ifCond .eq off, 3)) (ht : (pc : Int) + off = (t : Int)) (kt : a = 0 → V g x nL q t lv st I r E1) (kf : ¬ a = 0 → V g x nL q (pc + 3) lv st I r E2) : V g x nL q pc lv (.int a :: st) I r (if a = 0 then E1 else E2) :=
  fun hE H locs ls hR hS hl => lv_if_eq h.1 h.2.1 hd ht (fun hc => kt hc (by rwa [if_pos hc] at hE) H locs ls hR hS hl) (fun hc => kf hc (by rwa [if_neg hc] at hE) H locs ls hR hS hl)
theorem v_icmp_eq (h : Amb g x cc nL own d) {a b : Int32} {off : Int} {t : Nat} {E1 E2 : Prop} (hd : decode cc pc = .ok (.if_icmp .eq off, 3)) (ht : (pc : Int) + off = (t : Int)) (kt : a = b → V g x nL q t lv st I r E1) (kf : ¬ a = b → V g x nL q (pc + 3) lv st I r E2) : V g x nL q pc lv (.int b :: .int a :: st) I r (if a = b then E1 else E2) :=
  fun hE H locs ls hR hS hl => lv_icmp_eq h.1 h.2.1 hd ht (fun hc => kt hc (by rwa [if_pos hc] at hE) H locs ls hR hS hl) (fun hc => kf hc (by rwa [if_neg hc] at hE) H locs ls hR hS hl)
theorem v_if_ne (h : Amb g x cc nL own d) {a : Int32} {off : Int} {t : Nat} {E1 E2 : Prop} (hd : decode cc pc = .ok (.ifCond .ne off, 3)) (ht : (pc : Int) + off = (t : Int)) (kt : ¬ a = 0 → V g x nL q t lv st I r E1) (kf : a = 0 → V g x nL q (pc + 3) lv st I r E2) : V g x nL q pc lv (.int a :: st) I r (if a = 0 then E2 else E1) :=
  fun hE H locs ls hR hS hl => lv_if_ne h.1 h.2.1 hd ht (fun hc => kt hc (by rwa [if_neg hc] at hE) H locs ls hR hS hl) (fun hc => kf hc (by rwa [if_pos hc] at hE) H locs ls hR hS hl)
theorem v_icmp_ne (h : Amb g x cc nL own d) {a b : Int32} {off : Int} {t : Nat} {E1 E2 : Prop} (hd : decode cc pc = .ok (.if_icmp .ne off, 3)) (ht : (pc : Int) + off = (t : Int)) (kt : ¬ a = b → V g x nL q t lv st I r E1) (kf : a = b → V g x nL q (pc + 3) lv st I r E2) : V g x nL q pc lv (.int b :: .int a :: st) I r (if a = b then E2 else E1) :=
  fun hE H locs ls hR hS hl => lv_icmp_ne h.1 h.2.1 hd ht (fun hc => kt hc (by rwa [if_neg hc] at hE) H locs ls hR hS hl) (fun hc => kf hc (by rwa [if_pos hc] at hE) H locs ls hR hS hl)
theorem v_if_lt (h : Amb g x cc nL own d) {a : Int32} {off : Int} {t : Nat} {E1 E2 : Prop} (hd : decode cc pc = .ok (.ifCond .lt off, 3)) (ht : (pc : Int) + off = (t : Int)) (kt : a < 0 → V g x nL q t lv st I r E1) (kf : ¬ a < 0 → V g x nL q (pc + 3) lv st I r E2) : V g x nL q pc lv (.int a :: st) I r (if a < 0 then E1 else E2) :=
  fun hE H locs ls hR hS hl => lv_if_lt h.1 h.2.1 hd ht (fun hc => kt hc (by rwa [if_pos hc] at hE) H locs ls hR hS hl) (fun hc => kf hc (by rwa [if_neg hc] at hE) H locs ls hR hS hl)
theorem v_icmp_lt (h : Amb g x cc nL own d) {a b : Int32} {off : Int} {t : Nat} {E1 E2 : Prop} (hd : decode cc pc = .ok (.if_icmp .lt off, 3)) (ht : (pc : Int) + off = (t : Int)) (kt : a < b → V g x nL q t lv st I r E1) (kf : ¬ a < b → V g x nL q (pc + 3) lv st I r E2) : V g x nL q pc lv (.int b :: .int a :: st) I r (if a < b then E1 else E2) :=
  fun hE H locs ls hR hS hl => lv_icmp_lt h.1 h.2.1 hd ht (fun hc => kt hc (by rwa [if_pos hc] at hE) H locs ls hR hS hl) (fun hc => kf hc (by rwa [if_neg hc] at hE) H locs ls hR hS hl)
theorem v_if_ge (h : Amb g x cc nL own d) {a : Int32} {off : Int} {t : Nat} {E1 E2 : Prop} (hd : decode cc pc = .ok (.ifCond .ge off, 3)) (ht : (pc : Int) + off = (t : Int)) (kt : 0 ≤ a → V g x nL q t lv st I r E1) (kf : ¬ 0 ≤ a → V g x nL q (pc + 3) lv st I r E2) : V g x nL q pc lv (.int a :: st) I r (if 0 ≤ a then E1 else E2) :=
  fun hE H locs ls hR hS hl => lv_if_ge h.1 h.2.1 hd ht (fun hc => kt hc (by rwa [if_pos hc] at hE) H locs ls hR hS hl) (fun hc => kf hc (by rwa [if_neg hc] at hE) H locs ls hR hS hl)
theorem v_icmp_ge (h : Amb g x cc nL own d) {a b : Int32} {off : Int} {t : Nat} {E1 E2 : Prop} (hd : decode cc pc = .ok (.if_icmp .ge off, 3)) (ht : (pc : Int) + off = (t : Int)) (kt : b ≤ a → V g x nL q t lv st I r E1) (kf : ¬ b ≤ a → V g x nL q (pc + 3) lv st I r E2) : V g x nL q pc lv (.int b :: .int a :: st) I r (if b ≤ a then E1 else E2) :=
  fun hE H locs ls hR hS hl => lv_icmp_ge h.1 h.2.1 hd ht (fun hc => kt hc (by rwa [if_pos hc] at hE) H locs ls hR hS hl) (fun hc => kf hc (by rwa [if_neg hc] at hE) H locs ls hR hS hl)
theorem v_if_gt (h : Amb g x cc nL own d) {a : Int32} {off : Int} {t : Nat} {E1 E2 : Prop} (hd : decode cc pc = .ok (.ifCond .gt off, 3)) (ht : (pc : Int) + off = (t : Int)) (kt : 0 < a → V g x nL q t lv st I r E1) (kf : ¬ 0 < a → V g x nL q (pc + 3) lv st I r E2) : V g x nL q pc lv (.int a :: st) I r (if 0 < a then E1 else E2) :=
  fun hE H locs ls hR hS hl => lv_if_gt h.1 h.2.1 hd ht (fun hc => kt hc (by rwa [if_pos hc] at hE) H locs ls hR hS hl) (fun hc => kf hc (by rwa [if_neg hc] at hE) H locs ls hR hS hl)
theorem v_icmp_gt (h : Amb g x cc nL own d) {a b : Int32} {off : Int} {t : Nat} {E1 E2 : Prop} (hd : decode cc pc = .ok (.if_icmp .gt off, 3)) (ht : (pc : Int) + off = (t : Int)) (kt : b < a → V g x nL q t lv st I r E1) (kf : ¬ b < a → V g x nL q (pc + 3) lv st I r E2) : V g x nL q pc lv (.int b :: .int a :: st) I r (if b < a then E1 else E2) :=
  fun hE H locs ls hR hS hl => lv_icmp_gt h.1 h.2.1 hd ht (fun hc => kt hc (by rwa [if_pos hc] at hE) H locs ls hR hS hl) (fun hc => kf hc (by rwa [if_neg hc] at hE) H locs ls hR hS hl)
theorem v_if_le (h : Amb g x cc nL own d) {a : Int32} {off : Int} {t : Nat} {E1 E2 : Prop} (hd : decode cc pc = .ok (.ifCond .le off, 3)) (ht : (pc : Int) + off = (t : Int)) (kt : a ≤ 0 → V g x nL q t lv st I r E1) (kf : ¬ a ≤ 0 → V g x nL q (pc + 3) lv st I r E2) : V g x nL q pc lv (.int a :: st) I r (if a ≤ 0 then E1 else E2) :=
  fun hE H locs ls hR hS hl => lv_if_le h.1 h.2.1 hd ht (fun hc => kt hc (by rwa [if_pos hc] at hE) H locs ls hR hS hl) (fun hc => kf hc (by rwa [if_neg hc] at hE) H locs ls hR hS hl)
theorem v_icmp_le (h : Amb g x cc nL own d) {a b : Int32} {off : Int} {t : Nat} {E1 E2 : Prop} (hd : decode cc pc = .ok (.if_icmp .le off, 3)) (ht : (pc : Int) + off = (t : Int)) (kt : a ≤ b → V g x nL q t lv st I r E1) (kf : ¬ a ≤ b → V g x nL q (pc + 3) lv st I r E2) : V g x nL q pc lv (.int b :: .int a :: st) I r (if a ≤ b then E1 else E2) :=
  fun hE H locs ls hR hS hl => lv_icmp_le h.1 h.2.1 hd ht (fun hc => kt hc (by rwa [if_pos hc] at hE) H locs ls hR hS hl) (fun hc => kf hc (by rwa [if_neg hc] at hE) H locs ls hR hS hl)
/-- fewer locals, in any order -/
theorem v_sub (ks : List Nat) (hl' : lv_pick lv ks = lv') (k : V g x nL q pc lv' st I r E) : V g x nL q pc lv st I r E :=
  fun hE H locs ls hR hS hl => k hE H locs ls hR hS (lv_sub hl ks hl')
theorem v_eq {E' : Prop} (he : E = E') (k : V g x nL q pc lv st I r E') : V g x nL q pc lv st I r E := he ▸ k
end VROWS
