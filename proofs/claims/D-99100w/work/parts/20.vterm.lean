/-! terms: the call of the abstract method, the interface's call -/
set_option maxRecDepth 100000
abbrev yT_of : MethodName := ⟨"KindPostman$Term", "of", "(LKindPostman$Asker;)I"⟩
/-- what a term at c is known to do: F is its program -/
def OfC (g : Gl) (d w : Nat) (I : MI) (r : Rh) (c : Nat) (F : (Int32 → Prop) → Prop) : Prop :=
  (rK r c = 10 → CtP g yX10_of cX10_of 2 (some .int) d [.ref c, .ref w] I r F) ∧ (rK r c = 11 → CtP g yX11_of cX11_of 2 (some .int) d [.ref c, .ref w] I r F) ∧
  (rK r c = 12 → CtP g yX12_of cX12_of 4 (some .int) d [.ref c, .ref w] I r F) ∧ (rK r c = 13 → CtP g yX13_of cX13_of 2 (some .int) d [.ref c, .ref w] I r F) ∧
  ∀ Q, F Q → rK r c = 10 ∨ rK r c = 11 ∨ rK r c = 12 ∨ rK r c = 13
theorem of_good {own : String} {idx L : Nat} {C : String} {y : MethodName} {b : ByteArray} {rt : Option FieldType} (hl : Cond.methodLink own idx yT_of ∈ lw_all) (hs : Cond.selects C yT_of y ∈ lw_all) (hi : Cond.instanceMethod y ∈ lw_all) (hn : Cond.initialized y.cls ∈ lw_all) (hc : Cond.code y b L rt ∈ lw_all) : GoodIn lw_all (va_wsU own idx C "KindPostman$Term" yT_of y (ws_ y b L rt)) := by
  refine lw_app ?_ (lw_meth hc)
  intro w hw
  simp only [List.mem_cons, List.not_mem_nil, or_false] at hw
  rcases hw with e | e | e | e | e
  · rw [e]; exact hl
  · rw [e]; exact q1075
  · rw [e]; exact hs
  · rw [e]; exact hi
  · rw [e]; exact hn
section VTERM
variable {g : Gl} {x : Cx} {cc : ByteArray} {nL : Nat} {own : String} {d : Nat} {q : Nat × Nat} {pc : Nat} {lv : List (Nat × Value)} {st : List Value} {I : MI} {r : Rh} {E : Prop}
theorem v_of1 (h : Amb g x cc nL own d) {idx d' c b w maxL N : Nat} {C : String} {T : u_T} {y : MethodName} {bytes : ByteArray} {rest : List Value} {F : (Int32 → Prop) → Prop} {E1 : Int32 → Prop} (hd : decode cc pc = .ok (.invokevirtual idx, 3)) (hG : GoodIn lw_all (va_wsU own idx C "KindPostman$Term" yT_of y (ws_ y bytes maxL (some .int)))) (hml : maxL ≤ 41) (hc : vCl[c]? = some (C, T, N)) (hK : rK r b = c) (hM : CtP g y bytes maxL (some .int) d' [.ref b, .ref w] I r F) (hdd : d' + 1 ≤ d) (hroom : (rest.map fun v => v.category).sum ≤ 8) (hq : q.1 ≤ (xR x).cells ∧ q.2 ≤ (xR x).slots)
    (kk : ∀ (v : Int32), V g x nL q (pc + 3) lv (.int v :: rest) I r (E1 v)) : V g x nL q pc lv (.ref w :: .ref b :: rest) I r (F E1) := by
  intro hE H locs ls hR hS hl
  obtain ⟨hx, hb, hml', hown, hts, hlk, hRf, hRl, hWK, hB⟩ := h
  refine va_calli (va_runU (As := [.ref w]) (rest := rest) ⟨hx, hb, hml', hown, hts⟩ (hM E1 hE) (va_cwA 1 hts hG rfl rfl rfl (hWK.2.1 _ q1074 rfl) (by decide +kernel) ⟨by rw [hRf]; exact hdd, by rw [hRl]; show 8 + (maxL + 11) + 60 * d' ≤ 60 * d; omega⟩) ⟨rs_blind, rs_recv hWK hR hc hK, fun U hU hW => ⟨rfl, by rw [hU]; exact hR, WK.warm hW hWK, HB.next hB hS hU hW⟩⟩ rfl rfl hl.1 rfl (lv_room hroom) hd hq) hS (fun q _ h => h) (fun q h => h) (fun v u t H1 locs1 ht hvm hp hBt hz hk hS1 => ?_)
  exact kk v hp H1 locs1 ls (by rw [← ht]; exact hBt) hS1 hl
/-- a term's value is asked for -/
theorem v_callOf (h : Amb g x cc nL own d) {idx d' b w : Nat} {rest : List Value} {F : (Int32 → Prop) → Prop} {E1 : Int32 → Prop} (hd : decode cc pc = .ok (.invokevirtual idx, 3)) (hl : Cond.methodLink own idx yT_of ∈ lw_all) (hO : OfC g d' w I r b F) (hdd : d' + 1 ≤ d) (hroom : (rest.map fun v => v.category).sum ≤ 8) (hq : q.1 ≤ (xR x).cells ∧ q.2 ≤ (xR x).slots)
    (kk : ∀ (v : Int32), V g x nL q (pc + 3) lv (.int v :: rest) I r (E1 v)) : V g x nL q pc lv (.ref w :: .ref b :: rest) I r (F E1) := by
  intro hE
  rcases hO.2.2.2.2 _ hE with e | e | e | e
  · exact v_of1 h (C := RX10) (y := yX10_of) (bytes := cX10_of) (maxL := 2) hd (of_good hl q1076 q1077 q165 q1078) (by decide) (c := 10) rfl e (hO.1 e) hdd hroom hq kk hE
  · exact v_of1 h (C := RX11) (y := yX11_of) (bytes := cX11_of) (maxL := 2) hd (of_good hl q1098 q1083 q166 q1084) (by decide) (c := 11) rfl e (hO.2.1 e) hdd hroom hq kk hE
  · exact v_of1 h (C := RX12) (y := yX12_of) (bytes := cX12_of) (maxL := 4) hd (of_good hl q1079 q1080 q167 q1081) (by decide) (c := 12) rfl e (hO.2.2.1 e) hdd hroom hq kk hE
  · exact v_of1 h (C := RX13) (y := yX13_of) (bytes := cX13_of) (maxL := 2) hd (of_good hl q1099 q1095 q168 q1096) (by decide) (c := 13) rfl e (hO.2.2.2.1 e) hdd hroom hq kk hE
/-- the asker is asked, through the interface -/
theorem v_callFact (h : Amb g x cc nL own d) {idx d' w n : Nat} {a : Int32} {rest : List Value} {F : (Int32 → Prop) → Prop} {E1 : Int32 → Prop} (hd : decode cc pc = .ok (.invokeinterface idx n, 5)) (hlk : Cond.methodLink own idx xFact ∈ lw_all) (hw : WkS w r) (hM : CtP g yX1_fact cX1_fact 3 (some .int) d' [.ref w, .int a] I r F) (hdd : d' + 1 ≤ d) (hroom : (rest.map fun v => v.category).sum ≤ 8) (hq : q.1 ≤ (xR x).cells ∧ q.2 ≤ (xR x).slots)
    (kk : ∀ (v : Int32), V g x nL q (pc + 5) lv (.int v :: rest) I r (E1 v)) : V g x nL q pc lv (.int a :: .ref w :: rest) I r (F E1) := by
  intro hE H locs ls hR hS hl
  obtain ⟨hx, hb, hml', hown, hts, hlk0, hRf, hRl, hWK, hB⟩ := h
  have hG : GoodIn lw_all (va_wsF own idx RX1 xFact yX1_fact (ws_ yX1_fact cX1_fact 3 (some .int))) := by
    refine lw_app ?_ (lw_meth q1094)
    intro w hw
    simp only [List.mem_cons, List.not_mem_nil, or_false] at hw
    rcases hw with e | e | e | e
    · rw [e]; exact hlk
    · rw [e]; exact q1090
    · rw [e]; exact q1092
    · rw [e]; exact q144
  refine va_callFi (va_runF (As := [.int a]) (rest := rest) (hWK.1.1 1 _ rfl).2 ⟨hx, hb, hml', hown, hts⟩ (hM E1 hE) (va_cwF 1 hts hG rfl rfl rfl hWK.2.2.1 (by decide +kernel) ⟨by rw [hRf]; exact hdd, by rw [hRl]; show 8 + (3 + 11) + 60 * d' ≤ 60 * d; omega⟩) ⟨rs_blind, rs_recv hWK hR (c := 1) rfl (WkS.c hw), fun U hU hW => ⟨rfl, by rw [hU]; exact hR, WK.warm hW hWK, HB.next hB hS hU hW⟩⟩ rfl rfl hl.1 rfl (lv_room hroom) hd hq) hS (fun q _ h => h) (fun q h => h) (fun v u t H1 locs1 ht hvm hp hBt hz hk hS1 => ?_)
  exact kk v hp H1 locs1 ls (by rw [← ht]; exact hBt) hS1 hl
end VTERM
