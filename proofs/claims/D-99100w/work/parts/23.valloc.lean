/-! V, fifth part: new cells. n0, s0: the heap's size and the slots at the method's start; cN, cS: what they may come to, and do come to at its end -/
set_option maxRecDepth 100000
def aI (I : MI) (n : Nat) : MI := fun b j => if b = n then 0 else I b j
def aR (r : Rh) (c len sl : Nat) : Rh := (fun b j => if b = rN r then none else rP r b j, fun b => if b = rN r then c else rK r b, fun b => if b = rN r then len else rL r b, rN r + 1, rS r + sl)
def mI (I : MI) (r : Rh) (n : Nat) : MI := fun b j => if rN r ≤ b ∧ b ≤ rN r + n then 0 else I b j
def mR (r : Rh) (n m : Nat) : Rh := (fun b j => if b = rN r then (if j < n then some (rN r + 1 + j) else none) else if rN r < b ∧ b ≤ rN r + n then none else rP r b j, fun b => if b = rN r then 55 else if rN r < b ∧ b ≤ rN r + n then 50 else rK r b, fun b => if b = rN r then n else if rN r < b ∧ b ≤ rN r + n then m else rL r b, rN r + 1 + n, rS r + (n + n * m))
theorem Rp.lt {g : Gl} {I : MI} {r : Rh} {H : Heap} (h : Rp g I r H) {a c : Nat} {q : vw_C} (hK : rK r a = c) (hc : vCl[c]? = some q) : a < H.size := by
  obtain ⟨cell, q1, -⟩ := (h.2 a).2.1 c q hK hc
  exact (Array.getElem?_eq_some_iff.mp q1).1
theorem Rp.ltA {g : Gl} {I : MI} {r : Rh} {H : Heap} (h : Rp g I r H) {a t : Nat} {ty : FieldType} (hK : rK r a = 50 + t) (ht : vTy[t]? = some ty) : a < H.size := (Array.getElem?_eq_some_iff.mp ((h.2 a).2.2 t ty hK ht)).1
/-- the heap grows: what was there stays, the new addresses are as told -/
theorem Rp.grow {g : Gl} {I I' : MI} {r r' : Rh} {H H' : Heap} (h : Rp g I r H) (hB : gB g ≤ H.size) (hz : H'.size = rN r') (ho : ∀ q : Nat, q < H.size → H'[q]? = H[q]?)
    (hI : ∀ b, b < H.size → I' b = I b) (hP : ∀ b, b < H.size → rP r' b = rP r b) (hK : ∀ b, b < H.size → rK r' b = rK r b) (hL : ∀ b, b < H.size → rL r' b = rL r b)
    (hobj : ∀ (a c : Nat) (q : vw_C), H.size ≤ a → rK r' a = c → vCl[c]? = some q → t_OB a ((gD g).1 c) q.2.2 ((gD g).2 c) H' (fv c I' (rP r') a))
    (harr : ∀ (a t : Nat) (ty : FieldType), H.size ≤ a → rK r' a = 50 + t → vTy[t]? = some ty → H'[a]? = some (vc ty (gA g t) (rL r' a) I' (rP r') a)) : Rp g I' r' H' := by
  refine ⟨hz, fun b => ?_⟩
  by_cases hb : b < H.size
  · refine ⟨fun h9 => (h.2 b).1 (by rw [← hK b hb]; exact h9), fun c q hc hq => ?_, fun t ty ht hq => ?_⟩
    · have h1 := (h.2 b).2.1 c q ((hK b hb).symm.trans hc) hq
      have e : fv c I' (rP r') b = fv c I (rP r) b := by funext k; simp only [fv, hI b hb, hP b hb]
      rw [e]
      exact h1.kept (ho b hb)
    · have h1 := (h.2 b).2.2 t ty ((hK b hb).symm.trans ht) hq
      have e : vc ty (gA g t) (rL r' b) I' (rP r') b = vc ty (gA g t) (rL r b) I (rP r) b := by simp only [vc, hI b hb, hP b hb, hL b hb]
      rw [e, ho b hb]
      exact h1
  · exact ⟨fun _ => by omega, fun c q hc hq => hobj b c q (by omega) hc hq, fun t ty ht hq => harr b t ty (by omega) ht hq⟩
/-- above the heap nothing is known -/
theorem Rp.above {g : Gl} {I : MI} {r : Rh} {H : Heap} (h : Rp g I r H) {a : Nat} (ha : H.size ≤ a) : (∀ (c : Nat) (q : vw_C), rK r a = c → vCl[c]? = some q → False) ∧ (∀ (t : Nat) (ty : FieldType), rK r a = 50 + t → vTy[t]? = some ty → False) :=
  ⟨fun c q hc hq => by have := h.lt hc hq; omega, fun t ty ht hq => by have := h.ltA ht hq; omega⟩
def NewT (own : String) (idx c sl : Nat) : Prop := ∃ (C : String) (T : u_T) (ty : Nat → FieldType), vCl[c]? = some (C, T, sl) ∧ (∀ w ∈ u_ws C T sl, w ∈ lw_all) ∧ (∀ j, j < sl → parseFieldDescriptor (T j).2.2.1 = some (ty j)) ∧ Cond.classLink own idx C ∈ lw_all ∧ Cond.instantiable C sl ∈ lw_all ∧ Cond.initialized C ∈ lw_all ∧ ∀ j, j < sl → defaultValue (ty j) = if vRef c j = true then .null else .int 0
def CtN (g : Gl) (y : MethodName) (bytes : ByteArray) (maxL : Nat) (d cN cS : Nat) (av : List Value) (I : MI) (r : Rh) (F : (MI → Rh → Prop) → Prop) : Prop :=
  ∀ Q : MI → Rh → Prop, F Q → Met (gl g) y (ws_ y bytes maxL none) (rmA d (cN - rN r) (cS - rS r)) (va_Pc av (RS g I r)) (va_Qv (S := MI × Rh) (fun u => rN u.2 = cN ∧ rS u.2 = cS ∧ Q u.1 u.2) (fun u t => Rp g u.1 u.2 t.heap) (gS g)) (cN - rN r) (cS - rS r) (gS g)
def CtM (g : Gl) (y : MethodName) (bytes : ByteArray) (maxL : Nat) (ret : Option FieldType) (d cN cS : Nat) (av : List Value) (I : MI) (r : Rh) (F : (Int32 → MI → Rh → Prop) → Prop) : Prop :=
  ∀ Q : Int32 → MI → Rh → Prop, F Q → Met (gl g) y (ws_ y bytes maxL ret) (rmA d (cN - rN r) (cS - rS r)) (va_Pc av (RS g I r)) (va_Qi (S := MI × Rh) (fun v u => rN u.2 = cN ∧ rS u.2 = cS ∧ Q v u.1 u.2) (fun u t => Rp g u.1 u.2 t.heap) (gS g)) (cN - rN r) (cS - rS r) (gS g)
def CtB (g : Gl) (y : MethodName) (bytes : ByteArray) (maxL : Nat) (ret : Option FieldType) (d cN cS : Nat) (av : List Value) (I : MI) (r : Rh) (F : (Nat → MI → Rh → Prop) → Prop) : Prop :=
  ∀ Q : Nat → MI → Rh → Prop, F Q → Met (gl g) y (ws_ y bytes maxL ret) (rmA d (cN - rN r) (cS - rS r)) (va_Pc av (RS g I r)) (va_Qr (S := MI × Rh) (fun _ => True) (fun u a t => (rN u.2 = cN ∧ rS u.2 = cS ∧ Q a u.1 u.2) ∧ Rp g u.1 u.2 t.heap) (gS g)) (cN - rN r) (cS - rS r) (gS g)
/-- the room of a method that makes cells, at its start -/
def RmN (x : Cx) (n0 s0 cN cS : Nat) : Prop := (xR x).cells = cN - n0 ∧ (xR x).slots = cS - s0
def RtN (g : Gl) (x : Cx) (r : Rh) (cN cS : Nat) (Q : MI → Rh → Prop) : Prop := xQ x = MQ (xb x) (va_Qv (S := MI × Rh) (fun u => rN u.2 = cN ∧ rS u.2 = cS ∧ Q u.1 u.2) (fun u t => Rp g u.1 u.2 t.heap) (gS g)) (xa x) (xs x) (cN - rN r) (cS - rS r) (gS g) ∧ (xM x).sig.returnType = none
def RtM (g : Gl) (x : Cx) (r : Rh) (ret : Option FieldType) (cN cS : Nat) (Q : Int32 → MI → Rh → Prop) : Prop := xQ x = MQ (xb x) (va_Qi (S := MI × Rh) (fun v u => rN u.2 = cN ∧ rS u.2 = cS ∧ Q v u.1 u.2) (fun u t => Rp g u.1 u.2 t.heap) (gS g)) (xa x) (xs x) (cN - rN r) (cS - rS r) (gS g) ∧ (xM x).sig.returnType = ret
def RtB (g : Gl) (x : Cx) (r : Rh) (ret : Option FieldType) (cN cS : Nat) (Q : Nat → MI → Rh → Prop) : Prop := xQ x = MQ (xb x) (va_Qr (S := MI × Rh) (fun _ => True) (fun u a t => (rN u.2 = cN ∧ rS u.2 = cS ∧ Q a u.1 u.2) ∧ Rp g u.1 u.2 t.heap) (gS g)) (xa x) (xs x) (cN - rN r) (cS - rS r) (gS g) ∧ (xM x).sig.returnType = ret
section VALLOC
variable {g : Gl} {x : Cx} {cc : ByteArray} {nL : Nat} {own : String} {d : Nat} {q : Nat × Nat} {pc : Nat} {lv lv' : List (Nat × Value)} {st : List Value} {I : MI} {r r0 : Rh} {E : Prop} {n0 s0 cN cS : Nat}
theorem v_nmrN {k : Rh → Prop} (h : ∀ s, V g x nL (rN s - n0, rS s - s0) pc lv st I s (k s)) : V g x nL (rN r - n0, rS r - s0) pc lv st I r (nm r k) := h r
theorem CtN.mk {y : MethodName} {bytes : ByteArray} {maxL : Nat} {av : List Value} {F : (MI → Rh → Prop) → Prop} (hy : plainName y.cls = true) (hlen : (lg_sl av).length ≤ maxL) (hlv : lv_args 0 av = lv)
    (body : ∀ (x : Cx) (Q : MI → Rh → Prop), Amb g x bytes maxL y.cls d → RtN g x r cN cS Q → RmN x (rN r) (rS r) cN cS → (xM x).name = y.name → V g x maxL (rN r - rN r, rS r - rS r) 0 lv [] I r (F Q)) : CtN g y bytes maxL d cN cS av I r F := by
  intro Q hF
  refine Met.ofW (cc := bytes) (maxL := maxL) (ret := none) hy rfl ?_
  intro p e s m args below meth c s₁ B hml hv
  obtain ⟨rfl, hR, hW, hb0⟩ := hv
  have hts := atoms_spec (ws := ws_ y bytes maxL none) B.pre
  have hts : ∀ w ∈ lw_all, w.before _ s = true := fun w h => hts w (List.mem_cons_of_mem _ h)
  have hl := lv_entry av (n := maxL) hlen
  rw [lg_entry_eq]
  have hb := body (p, e, (headSpec (ws_ y bytes maxL none) (rmA d (cN - rN r) (cS - rS r))).room, s, m, av.toArray, below, meth, c, MQ below (va_Qv (S := MI × Rh) (fun u => rN u.2 = cN ∧ rS u.2 = cS ∧ Q u.1 u.2) (fun u t => Rp g u.1 u.2 t.heap) (gS g)) av.toArray s (cN - rN r) (cS - rS r) (gS g)) Q ⟨B.exec, B.bytes, hml, findClass_of_methodNamed B.named, hts, B.notSynchronized, rfl, rfl, hW, hb0⟩ ⟨rfl, B.returns⟩ ⟨rfl, rfl⟩ (name_of_methodNamed B.named B.method).1 hF s.heap [] _ hR va_S.rf (hlv ▸ hl)
  simp only [Nat.sub_self] at hb
  exact hb
theorem CtM.mk {y : MethodName} {bytes : ByteArray} {maxL : Nat} {ret : Option FieldType} {av : List Value} {F : (Int32 → MI → Rh → Prop) → Prop} (hy : plainName y.cls = true) (hlen : (lg_sl av).length ≤ maxL) (hlv : lv_args 0 av = lv)
    (body : ∀ (x : Cx) (Q : Int32 → MI → Rh → Prop), Amb g x bytes maxL y.cls d → RtM g x r ret cN cS Q → RmN x (rN r) (rS r) cN cS → V g x maxL (rN r - rN r, rS r - rS r) 0 lv [] I r (F Q)) : CtM g y bytes maxL ret d cN cS av I r F := by
  intro Q hF
  refine Met.ofW (cc := bytes) (maxL := maxL) (ret := ret) hy rfl ?_
  intro p e s m args below meth c s₁ B hml hv
  obtain ⟨rfl, hR, hW, hb0⟩ := hv
  have hts := atoms_spec (ws := ws_ y bytes maxL ret) B.pre
  have hts : ∀ w ∈ lw_all, w.before _ s = true := fun w h => hts w (List.mem_cons_of_mem _ h)
  have hl := lv_entry av (n := maxL) hlen
  rw [lg_entry_eq]
  have hb := body (p, e, (headSpec (ws_ y bytes maxL ret) (rmA d (cN - rN r) (cS - rS r))).room, s, m, av.toArray, below, meth, c, MQ below (va_Qi (S := MI × Rh) (fun v u => rN u.2 = cN ∧ rS u.2 = cS ∧ Q v u.1 u.2) (fun u t => Rp g u.1 u.2 t.heap) (gS g)) av.toArray s (cN - rN r) (cS - rS r) (gS g)) Q ⟨B.exec, B.bytes, hml, findClass_of_methodNamed B.named, hts, B.notSynchronized, rfl, rfl, hW, hb0⟩ ⟨rfl, B.returns⟩ ⟨rfl, rfl⟩ hF s.heap [] _ hR va_S.rf (hlv ▸ hl)
  simp only [Nat.sub_self] at hb
  exact hb
theorem CtB.mk {y : MethodName} {bytes : ByteArray} {maxL : Nat} {ret : Option FieldType} {av : List Value} {F : (Nat → MI → Rh → Prop) → Prop} (hy : plainName y.cls = true) (hlen : (lg_sl av).length ≤ maxL) (hlv : lv_args 0 av = lv)
    (body : ∀ (x : Cx) (Q : Nat → MI → Rh → Prop), Amb g x bytes maxL y.cls d → RtB g x r ret cN cS Q → RmN x (rN r) (rS r) cN cS → V g x maxL (rN r - rN r, rS r - rS r) 0 lv [] I r (F Q)) : CtB g y bytes maxL ret d cN cS av I r F := by
  intro Q hF
  refine Met.ofW (cc := bytes) (maxL := maxL) (ret := ret) hy rfl ?_
  intro p e s m args below meth c s₁ B hml hv
  obtain ⟨rfl, hR, hW, hb0⟩ := hv
  have hts := atoms_spec (ws := ws_ y bytes maxL ret) B.pre
  have hts : ∀ w ∈ lw_all, w.before _ s = true := fun w h => hts w (List.mem_cons_of_mem _ h)
  have hl := lv_entry av (n := maxL) hlen
  rw [lg_entry_eq]
  have hb := body (p, e, (headSpec (ws_ y bytes maxL ret) (rmA d (cN - rN r) (cS - rS r))).room, s, m, av.toArray, below, meth, c, MQ below (va_Qr (S := MI × Rh) (fun _ => True) (fun u a t => (rN u.2 = cN ∧ rS u.2 = cS ∧ Q a u.1 u.2) ∧ Rp g u.1 u.2 t.heap) (gS g)) av.toArray s (cN - rN r) (cS - rS r) (gS g)) Q ⟨B.exec, B.bytes, hml, findClass_of_methodNamed B.named, hts, B.notSynchronized, rfl, rfl, hW, hb0⟩ ⟨rfl, B.returns⟩ ⟨rfl, rfl⟩ hF s.heap [] _ hR va_S.rf (hlv ▸ hl)
  simp only [Nat.sub_self] at hb
  exact hb
theorem v_vretN (h : Amb g x cc nL own d) {Q : MI → Rh → Prop} (hr : RtN g x r0 cN cS Q) (hd : decode cc pc = .ok (.return_, 1)) : V g x nL (rN r - rN r0, rS r - rS r0) pc lv [] I r (rN r = cN ∧ rS r = cS ∧ Q I r) := by
  intro hE H locs ls hR hS hl
  rw [hr.1]
  rw [← hE.1, ← hE.2.1]
  exact W.vret h.1 h.2.1 hr.2 (fun t ht hW => ⟨⟨(I, r), rfl, ⟨rfl, rfl, hE.2.2⟩, by show Rp g I r t.heap; rw [ht]; exact hR⟩, hS.F ht⟩) hS.2.2 hd h.2.2.2.2.2.1
theorem v_iretM (h : Amb g x cc nL own d) {Q : Int32 → MI → Rh → Prop} {v : Int32} (hr : RtM g x r0 (some .int) cN cS Q) (hd : decode cc pc = .ok (.ireturn, 1)) : V g x nL (rN r - rN r0, rS r - rS r0) pc lv [.int v] I r (rN r = cN ∧ rS r = cS ∧ Q v I r) := by
  intro hE H locs ls hR hS hl
  rw [hr.1]
  rw [← hE.1, ← hE.2.1]
  exact W.iret h.1 h.2.1 hr.2 (fun t ht hW => ⟨⟨v, (I, r), rfl, ⟨rfl, rfl, hE.2.2⟩, by show Rp g I r t.heap; rw [ht]; exact hR⟩, hS.F ht⟩) hS.2.2 hd h.2.2.2.2.2.1
theorem v_zretM (h : Amb g x cc nL own d) {Q : Int32 → MI → Rh → Prop} {v : Int32} (hr : RtM g x r0 (some .boolean) cN cS Q) (hv : v = 0 ∨ v = 1) (hd : decode cc pc = .ok (.ireturn, 1)) : V g x nL (rN r - rN r0, rS r - rS r0) pc lv [.int v] I r (rN r = cN ∧ rS r = cS ∧ Q v I r) := by
  intro hE H locs ls hR hS hl
  rw [hr.1]
  rw [← hE.1, ← hE.2.1]
  exact W.zret h.1 h.2.1 hr.2 (by rcases hv with rfl | rfl <;> rfl) (fun t ht hW => ⟨⟨v, (I, r), rfl, ⟨rfl, rfl, hE.2.2⟩, by show Rp g I r t.heap; rw [ht]; exact hR⟩, hS.F ht⟩) hS.2.2 hd h.2.2.2.2.2.1
theorem v_aretB (h : Amb g x cc nL own d) {Q : Nat → MI → Rh → Prop} {a : Nat} {rt : FieldType} (hr : RtB g x r0 (some rt) cN cS Q) (hrt : (∃ n, rt = .object n) ∨ ∃ t, rt = .array t) (hd : decode cc pc = .ok (.areturn, 1)) : V g x nL (rN r - rN r0, rS r - rS r0) pc lv [.ref a] I r (rN r = cN ∧ rS r = cS ∧ Q a I r) := by
  intro hE H locs ls hR hS hl
  rw [hr.1]
  rw [← hE.1, ← hE.2.1]
  exact W.aret h.1 h.2.1 hr.2 hrt (Or.inr ⟨a, rfl⟩) (fun t ht hW => ⟨⟨(I, r), a, rfl, trivial, ⟨rfl, rfl, hE.2.2⟩, by show Rp g I r t.heap; rw [ht]; exact hR⟩, hS.F ht⟩) hS.2.2 hd h.2.2.2.2.2.1
/-- the cells' room, out of the program's word -/
theorem rm_ok {k n : Nat} (hRm : RmN x n0 s0 cN cS) (hn : n0 ≤ rN r) (hs : s0 ≤ rS r) (h1 : rN r + k ≤ cN) (h2 : rS r + n ≤ cS) : (rN r - n0) + k ≤ (xR x).cells ∧ (rS r - s0) + n ≤ (xR x).slots := by
  rw [hRm.1, hRm.2]
  omega
theorem v_new (h : Amb g x cc nL own d) {idx c sl : Nat} (hd : decode cc pc = .ok (.new idx, 3)) (hw : NewT own idx c sl) (hRm : RmN x n0 s0 cN cS) (hn : n0 ≤ rN r) (hs : s0 ≤ rS r) (kk : V g x nL (rN (aR r c 0 sl) - n0, rS (aR r c 0 sl) - s0) (pc + 3) lv (.ref (rN r) :: st) (aI I (rN r)) (aR r c 0 sl) E) : V g x nL (rN r - n0, rS r - s0) pc lv st I r ((rN r + 1 ≤ cN ∧ rS r + sl ≤ cS) ∧ E) := by
  intro hE H locs ls hR hS hl
  obtain ⟨C, T, ty, hc, hin, hty, hcl, hinst, hini, hdf⟩ := hw
  obtain ⟨hx, hb, hml, hown, hts, hlk, -, -, hWK, hB⟩ := h
  have hKn := hWK.1.1 c _ hc
  have hrm := rm_ok (x := x) hRm hn hs hE.1.1 hE.1.2
  refine W.newcK hx hb hown (hts _ hcl) (hts _ hinst) (hts _ hini) rfl hd hrm.1 hrm.2 hKn.2.1 hR.1 fun H1 kC hkC e1 z1 o1 => ?_
  have hz : H.size = rN r := hR.1
  have hbn := u_born ty hts hin hKn hkC e1 hty
  have hR1 : Rp g (aI I (rN r)) (aR r c 0 sl) H1 := by
    refine hR.grow (Nat.le_trans hB.1 hS.1) z1 (fun q hq => o1 q (by omega)) (fun b hb => ?_) (fun b hb => ?_) (fun b hb => ?_) (fun b hb => ?_) (fun a c' q ha hc' hq => ?_) (fun a t ty' ha ht hq => ?_)
    · funext j; simp [aI, show b ≠ rN r by omega]
    · funext j
      show (if b = rN r then none else rP r b j) = rP r b j
      rw [if_neg (by omega)]
    · show (if b = rN r then c else rK r b) = rK r b
      rw [if_neg (by omega)]
    · show (if b = rN r then 0 else rL r b) = rL r b
      rw [if_neg (by omega)]
    · by_cases hab : a = rN r
      · subst hab
        have hc2 : c' = c := by
          have : (if rN r = rN r then c else rK r (rN r)) = c' := hc'
          rw [if_pos rfl] at this
          exact this.symm
        subst hc2
        have e5 : q = (C, T, sl) := Option.some.inj (hq.symm.trans hc)
        subst e5
        refine hbn.to (fun k hk => ?_)
        rw [hdf k hk]
        show _ = (if vRef c' k = true then va_rf (if rN r = rN r then none else rP r (rN r) k) else .int (if rN r = rN r then 0 else I (rN r) k))
        simp [va_rf]
      · have : (if a = rN r then c else rK r a) = c' := hc'
        rw [if_neg hab] at this
        exact ((hR.above ha).1 c' q this hq).elim
    · by_cases hab : a = rN r
      · have : (if a = rN r then c else rK r a) = 50 + t := ht
        rw [if_pos hab] at this
        have := vCl_lt hc
        omega
      · have : (if a = rN r then c else rK r a) = 50 + t := ht
        rw [if_neg hab] at this
        exact ((hR.above ha).2 t ty' this hq).elim
  have hS1 : va_S (gS g) (xs x).heap H1 locs := ⟨by have := hS.1; omega, fun q h1 h2 => (o1 q (by have := hS.1; omega)).trans (hS.2.1 q h1 h2), hS.2.2⟩
  have hk := kk hE.2 H1 locs ls hR1 hS1 hl
  have e1 : rN (aR r c 0 sl) - n0 = rN r - n0 + 1 := by show rN r + 1 - n0 = _; omega
  have e2 : rS (aR r c 0 sl) - s0 = rS r - s0 + sl := by show rS r + sl - s0 = _; omega
  rw [e1, e2] at hk
  exact hk
/-- a new array, of whatever type: out of what the machine says of its cell -/
theorem Rp.newA {t len : Nat} {ty : FieldType} {H H1 : Heap} (hR : Rp g I r H) (hB : gB g ≤ H.size) (ht : vTy[t]? = some ty) (e1 : H1[H.size]? = some (arrV (gA g t) len (fun _ => if ty.isReference = true then .null else .int 0))) (z1 : H1.size = H.size + 1) (o1 : ∀ q : Nat, q < H.size → H1[q]? = H[q]?) (sl : Nat) : Rp g (aI I (rN r)) (aR r (50 + t) len sl) H1 := by
  have hz : H.size = rN r := hR.1
  refine hR.grow hB (by rw [z1, hz]; rfl) o1 (fun b hb => ?_) (fun b hb => ?_) (fun b hb => ?_) (fun b hb => ?_) (fun a c' q ha hc' hq => ?_) (fun a t' ty' ha ht' hq => ?_)
  · funext j; simp [aI, show b ≠ rN r by omega]
  · funext j
    show (if b = rN r then none else rP r b j) = rP r b j
    rw [if_neg (by omega)]
  · show (if b = rN r then 50 + t else rK r b) = rK r b
    rw [if_neg (by omega)]
  · show (if b = rN r then len else rL r b) = rL r b
    rw [if_neg (by omega)]
  · by_cases hab : a = rN r
    · have : (if a = rN r then 50 + t else rK r a) = c' := hc'
      rw [if_pos hab] at this
      have := vCl_lt hq
      omega
    · have : (if a = rN r then 50 + t else rK r a) = c' := hc'
      rw [if_neg hab] at this
      exact ((hR.above ha).1 c' q this hq).elim
  · by_cases hab : a = rN r
    · have h9 : (if a = rN r then 50 + t else rK r a) = 50 + t' := ht'
      rw [if_pos hab] at h9
      have e : t' = t := by omega
      subst e
      have e : ty' = ty := Option.some.inj (hq.symm.trans ht)
      subst e
      subst hab
      have e2 : H1[rN r]? = some (arrV (gA g t') len (fun _ => if ty'.isReference = true then .null else .int 0)) := by rw [← hz]; exact e1
      rw [e2]
      show some (arrV (gA g t') len _) = some (arrV (gA g t') (if rN r = rN r then len else rL r (rN r)) (fun j => if ty'.isReference = true then va_rf (if rN r = rN r then none else rP r (rN r) j) else .int (if rN r = rN r then 0 else I (rN r) j)))
      rw [if_pos rfl]
      congr 2
      funext j
      simp [va_rf]
    · have : (if a = rN r then 50 + t else rK r a) = 50 + t' := ht'
      rw [if_neg hab] at this
      exact ((hR.above ha).2 t' ty' this hq).elim
theorem grown {H H1 : Heap} {locs : List Loc} (hS : va_S (gS g) (xs x).heap H locs) (z1 : H1.size = H.size + 1) (o1 : ∀ q : Nat, q < H.size → H1[q]? = H[q]?) : va_S (gS g) (xs x).heap H1 locs :=
  ⟨by have := hS.1; omega, fun q h1 h2 => (o1 q (by have := hS.1; omega)).trans (hS.2.1 q h1 h2), hS.2.2⟩
theorem qA {k len t : Nat} (hn : n0 ≤ rN r) (hs : s0 ≤ rS r) : (rN (aR r (50 + t) len len) - n0, rS (aR r (50 + t) len len) - s0) = (rN r - n0 + 1, rS r - s0 + len) := by
  show (rN r + 1 - n0, rS r + len - s0) = _
  congr 1 <;> omega
theorem v_newi (h : Amb g x cc nL own d) {n : Int32} {len : Nat} (hd : decode cc pc = .ok (.newarray .int, 2)) (hn0 : ¬ n < 0) (hN : n.toNatClampNeg = len) (hbytes : len * 4 ≤ 536870912) (hRm : RmN x n0 s0 cN cS) (hn : n0 ≤ rN r) (hs : s0 ≤ rS r) (kk : V g x nL (rN (aR r 50 len len) - n0, rS (aR r 50 len len) - s0) (pc + 2) lv (.ref (rN r) :: st) (aI I (rN r)) (aR r 50 len len) E) : V g x nL (rN r - n0, rS r - s0) pc lv (.int n :: st) I r ((rN r + 1 ≤ cN ∧ rS r + len ≤ cS) ∧ E) := by
  intro hE H locs ls hR hS hl
  obtain ⟨hx, hb, hml, hown, hts, hlk, -, -, hWK, hB⟩ := h
  have hrm := rm_ok (x := x) hRm hn hs hE.1.1 hE.1.2
  refine va_newaK hx hb (atype := .int) (hts _ q261) rfl hd rfl hn0 hN hbytes hrm.1 hrm.2 hR.1 fun H1 cA e1 z1 o1 hAr hNm => ?_
  have hcA : gA g 0 = cA := Option.some.inj (((hWK.1.2 0 _ (gT_at (ty := .int) rfl)).2).symm.trans hNm)
  have hz : H.size = rN r := hR.1
  have hk := kk hE.2 H1 locs ls (hR.newA (t := 0) (ty := .int) (Nat.le_trans hB.1 hS.1) rfl (by rw [hz, e1, hcA]; rfl) (by rw [z1, hz]) (fun q hq => o1 q (by omega)) len) (grown hS (by rw [z1, hz]) (fun q hq => o1 q (by omega))) hl
  have e := qA (r := r) (k := 0) (len := len) (t := 0) hn hs
  rw [show aR r 50 len len = aR r (50 + 0) len len from rfl, e] at hk
  exact hk
theorem v_newb (h : Amb g x cc nL own d) {n : Int32} {len : Nat} (hd : decode cc pc = .ok (.newarray .byte, 2)) (hn0 : ¬ n < 0) (hN : n.toNatClampNeg = len) (hbytes : len * 1 ≤ 536870912) (hRm : RmN x n0 s0 cN cS) (hn : n0 ≤ rN r) (hs : s0 ≤ rS r) (kk : V g x nL (rN (aR r 51 len len) - n0, rS (aR r 51 len len) - s0) (pc + 2) lv (.ref (rN r) :: st) (aI I (rN r)) (aR r 51 len len) E) : V g x nL (rN r - n0, rS r - s0) pc lv (.int n :: st) I r ((rN r + 1 ≤ cN ∧ rS r + len ≤ cS) ∧ E) := by
  intro hE H locs ls hR hS hl
  obtain ⟨hx, hb, hml, hown, hts, hlk, -, -, hWK, hB⟩ := h
  have hrm := rm_ok (x := x) hRm hn hs hE.1.1 hE.1.2
  refine va_newaK hx hb (atype := .byte) (hts _ q231) rfl hd rfl hn0 hN hbytes hrm.1 hrm.2 hR.1 fun H1 cA e1 z1 o1 hAr hNm => ?_
  have hcA : gA g 1 = cA := Option.some.inj (((hWK.1.2 1 _ (gT_at (ty := .byte) rfl)).2).symm.trans hNm)
  have hz : H.size = rN r := hR.1
  have hk := kk hE.2 H1 locs ls (hR.newA (t := 1) (ty := .byte) (Nat.le_trans hB.1 hS.1) rfl (by rw [hz, e1, hcA]; rfl) (by rw [z1, hz]) (fun q hq => o1 q (by omega)) len) (grown hS (by rw [z1, hz]) (fun q hq => o1 q (by omega))) hl
  have e := qA (r := r) (k := 0) (len := len) (t := 1) hn hs
  rw [show aR r 51 len len = aR r (50 + 1) len len from rfl, e] at hk
  exact hk
theorem v_newq (h : Amb g x cc nL own d) {n : Int32} {idx len t : Nat} {C : String} (hd : decode cc pc = .ok (.anewarray idx, 3)) (hlk : Cond.classLink own idx C ∈ lw_all) (hAO : va_AO C (xs x)) (ht : vTy[t]? = some (.object C)) (hn0 : ¬ n < 0) (hN : n.toNatClampNeg = len) (hbytes : len * 4 ≤ 536870912) (hRm : RmN x n0 s0 cN cS) (hn : n0 ≤ rN r) (hs : s0 ≤ rS r) (kk : V g x nL (rN (aR r (50 + t) len len) - n0, rS (aR r (50 + t) len len) - s0) (pc + 3) lv (.ref (rN r) :: st) (aI I (rN r)) (aR r (50 + t) len len) E) : V g x nL (rN r - n0, rS r - s0) pc lv (.int n :: st) I r ((rN r + 1 ≤ cN ∧ rS r + len ≤ cS) ∧ E) := by
  intro hE H locs ls hR hS hl
  obtain ⟨hx, hb, hml, hown, hts, hlk0, -, -, hWK, hB⟩ := h
  have hrm := rm_ok (x := x) hRm hn hs hE.1.1 hE.1.2
  subst hN
  refine W.anew hx hb hown (hts _ hlk) (va_AO.use hAO) rfl hd rfl hn0 hbytes hrm.1 hrm.2 fun cA kA comp f1 f2 f3 f4 => ?_
  obtain ⟨kA', comp', k1, k2, k3, k4⟩ := (hWK.1.2 t _ (gT_at ht)).2
  have hcA : gA g t = cA := Option.some.inj (k4.symm.trans f1)
  have hz : H.size = rN r := hR.1
  generalize hH1 : H.push ({ cls := cA, slots := Array.replicate n.toNatClampNeg .null, vm := .none } : Cell) = H1
  have z1 : H1.size = H.size + 1 := by rw [← hH1, Array.size_push]
  have e1 : H1[H.size]? = some (arrV cA n.toNatClampNeg (fun _ => .null)) := by rw [← hH1, Array.getElem?_push_size, ← arrV_new]
  have o1 : ∀ q : Nat, q < H.size → H1[q]? = H[q]? := fun q hq => by rw [← hH1, Array.getElem?_push, if_neg (Nat.ne_of_lt hq)]
  have hk := kk hE.2 H1 locs ls (hR.newA (t := t) (ty := .object C) (Nat.le_trans hB.1 hS.1) ht (by rw [e1, hcA]; rfl) z1 o1 n.toNatClampNeg) (grown hS z1 o1) hl
  have e := qA (r := r) (k := 0) (len := n.toNatClampNeg) (t := t) hn hs
  rw [e] at hk
  rw [hz]
  exact hk
end VALLOC
