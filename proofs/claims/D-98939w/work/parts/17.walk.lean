/-! PART 17: calls through Value.at, Test.holds; of inherited methods (printed by mk17.py) -/
set_option maxRecDepth 100000
def yV_at : MethodName := ⟨RX13, "at", "(LPupilsPupil$Moment;)J"⟩
def yT_holds : MethodName := ⟨RX9, "holds", "(LPupilsPupil$Moment;)Z"⟩
theorem pcy_X14_at : pcY yX14_at cX14_at 5 (Option.some Jvm.ClassFile.FieldType.long) 1 := ⟨q1368, q174, ⟨by decide +kernel, by decide +kernel, by decide +kernel⟩, Nat.le_of_ble_eq_true rfl⟩
theorem pcy_X15_at : pcY yX15_at cX15_at 6 (Option.some Jvm.ClassFile.FieldType.long) 1 := ⟨q1379, q177, ⟨by decide +kernel, by decide +kernel, by decide +kernel⟩, Nat.le_of_ble_eq_true rfl⟩
theorem pcy_X16_at : pcY yX16_at cX16_at 2 (Option.some Jvm.ClassFile.FieldType.long) 1 := ⟨q1374, q178, ⟨by decide +kernel, by decide +kernel, by decide +kernel⟩, Nat.le_of_ble_eq_true rfl⟩
theorem pcy_X17_at : pcY yX17_at cX17_at 2 (Option.some Jvm.ClassFile.FieldType.long) 1 := ⟨q1354, q179, ⟨by decide +kernel, by decide +kernel, by decide +kernel⟩, Nat.le_of_ble_eq_true rfl⟩
theorem pcy_X18_at : pcY yX18_at cX18_at 2 (Option.some Jvm.ClassFile.FieldType.long) 1 := ⟨q1376, q180, ⟨by decide +kernel, by decide +kernel, by decide +kernel⟩, Nat.le_of_ble_eq_true rfl⟩
theorem pcy_X10_holds : pcY yX10_holds cX10_holds 3 (Option.some Jvm.ClassFile.FieldType.boolean) 1 := ⟨q1337, q170, ⟨by decide +kernel, by decide +kernel, by decide +kernel⟩, Nat.le_of_ble_eq_true rfl⟩
theorem pcy_X11_holds : pcY yX11_holds cX11_holds 2 (Option.some Jvm.ClassFile.FieldType.boolean) 1 := ⟨q1345, q171, ⟨by decide +kernel, by decide +kernel, by decide +kernel⟩, Nat.le_of_ble_eq_true rfl⟩
theorem pcy_X12_holds : pcY yX12_holds cX12_holds 2 (Option.some Jvm.ClassFile.FieldType.boolean) 1 := ⟨q1334, q172, ⟨by decide +kernel, by decide +kernel, by decide +kernel⟩, Nat.le_of_ble_eq_true rfl⟩
theorem pcy_X19_holds : pcY yX19_holds cX19_holds 6 (Option.some Jvm.ClassFile.FieldType.boolean) 1 := ⟨q1348, q181, ⟨by decide +kernel, by decide +kernel, by decide +kernel⟩, Nat.le_of_ble_eq_true rfl⟩
def VA (l : Launch) (D : PD) (A : Nat → Prop) (cap : Nat × Nat) (d a mo : Nat) (h h1 : PH) (r : Int64) : Prop :=
  (pCls h a = some 14 ∧ CMet l D A cap yX14_at cX14_at 5 (some .long) d [.ref a, .ref mo] h h1 (some (.long r))) ∨ (pCls h a = some 15 ∧ CMet l D A cap yX15_at cX15_at 6 (some .long) d [.ref a, .ref mo] h h1 (some (.long r))) ∨ (pCls h a = some 16 ∧ CMet l D A cap yX16_at cX16_at 2 (some .long) d [.ref a, .ref mo] h h1 (some (.long r))) ∨ (pCls h a = some 17 ∧ CMet l D A cap yX17_at cX17_at 2 (some .long) d [.ref a, .ref mo] h h1 (some (.long r))) ∨ (pCls h a = some 18 ∧ CMet l D A cap yX18_at cX18_at 2 (some .long) d [.ref a, .ref mo] h h1 (some (.long r)))
/-- a function that tells what the calls answer, of depth d -/
def OkVA (l : Launch) (D : PD) (A : Nat → Prop) (cap : Nat × Nat) (d : Nat) (f : Nat → Nat → PH → Option (Int64 × PH)) : Prop := ∀ (a mo : Nat) (h h1 : PH) (r : Int64), f a mo h = some (r, h1) → VA l D A cap d a mo h h1 r
def VT (l : Launch) (D : PD) (A : Nat → Prop) (cap : Nat × Nat) (d a mo : Nat) (h h1 : PH) (r : Bool) : Prop :=
  (pCls h a = some 10 ∧ CMet l D A cap yX10_holds cX10_holds 3 (some .boolean) d [.ref a, .ref mo] h h1 (some (.int (bI r)))) ∨ (pCls h a = some 11 ∧ CMet l D A cap yX11_holds cX11_holds 2 (some .boolean) d [.ref a, .ref mo] h h1 (some (.int (bI r)))) ∨ (pCls h a = some 12 ∧ CMet l D A cap yX12_holds cX12_holds 2 (some .boolean) d [.ref a, .ref mo] h h1 (some (.int (bI r)))) ∨ (pCls h a = some 19 ∧ CMet l D A cap yX19_holds cX19_holds 6 (some .boolean) d [.ref a, .ref mo] h h1 (some (.int (bI r))))
/-- a function that tells what the calls answer, of depth d -/
def OkVT (l : Launch) (D : PD) (A : Nat → Prop) (cap : Nat × Nat) (d : Nat) (f : Nat → Nat → PH → Option (Bool × PH)) : Prop := ∀ (a mo : Nat) (h h1 : PH) (r : Bool), f a mo h = some (r, h1) → VT l D A cap d a mo h h1 r
section PX5
variable {l : Launch} {D : PD} {A : Nat → Prop} {cap : Nat × Nat} {d : Nat} {cc : ByteArray} {nL : Nat} {own : String} {ini : Bool} {rt : Option FieldType} {m : MethodId} {rv : Option Value} {h' : PH} {H0 : Heap} {cx sx : Heap → Nat} {Z : Heap → List Loc → Nat → Nat → JFrame → Prop}
variable {h : PH} {H : Heap} {locs : List Loc} {pc : Nat} {ls : Array Slot} {rest : List Value} {a ci k : Nat} {C : String} {T : u_T} {N : Nat} {ty : Nat → FieldType}
variable {y : MethodName} {cy : ByteArray} {ny : Nat} {rty : Option FieldType} {d' n idx : Nat} {As st0 : List Value} {h1 : PH} {rv1 : Option Value} {lv : List (Nat × Value)} {b : Nat}
theorem p_callA (X : pX l D A cap d cc nL own ini rt m rv h' H0 cx sx Z) (hM : PI D A cap H0 h H locs) (hl : lv_has ls nL lv) {C : String} {T : u_T} {N ci : Nat} (hc : cT[ci]? = some (C, T, N)) (hb : pCls h b = some ci) {x : MethodName} (hy : pcY y cy ny rty n) (hlink : Cond.methodLink own idx x ∈ lw_all) (hsame : Cond.sameMethod x.cls x.cls x.name x.desc ∈ lw_all) (hsel : Cond.selects C x y ∈ lw_all) (hin : Cond.instanceMethod y ∈ lw_all) (hdecl : Cond.declares x ∈ lw_tbl) (hxd : x.cls ≠ "java/lang/invoke/MethodHandle" ∧ x.cls ≠ "java/lang/invoke/VarHandle" ∧ (parseMethodDescriptor x.desc).map (fun d => d.parameters.length) = some n) (hC : CMet l D A cap y cy ny rty d' (.ref b :: As) h h1 rv1) (hn : As.length = n) (hd : d' < d) (hrm : (rest.map fun v => v.category).sum ≤ 8) (hst : st0 = As.reverse ++ .ref b :: rest) (hdg : decode cc pc = .ok (.invokevirtual idx, 3))
    (kk : ∀ (H : Heap) (locs : List Loc), PI D A cap H0 h1 H locs → Z H locs (cx H) (sx H) (F0 m (pc + 3) ls (rv1.toList ++ rest))) : Z H locs (cx H) (sx H) (F0 m pc ls st0) := by
  refine p_goes (av := (Value.ref b :: As).toArray) (mc := cap.1 - h.1) (ms := cap.2 - h.2.1) X hM (fun p e s args below meth c hC2 h0 hK hZ hA => ?_) kk
  subst h0
  have hcx := hC2
  obtain ⟨hx, hb2, hml, hown, hts⟩ := hC2
  obtain ⟨bv, fs, he⟩ := pCls_open hb
  have hR := p_room hM hd hy.2.2.2
  exact va_runU (As := As) (rest := rest) hcx hC (va_cwA n hts (lw_app (a := [.methodLink own idx x, .sameMethod x.cls x.cls x.name x.desc, .selects C x y, .instanceMethod y, .initialized y.cls]) (by
    intro w hw
    simp only [List.mem_cons, List.not_mem_nil, or_false] at hw
    rcases hw with e | e | e | e | e
    · rw [e]; exact hlink
    · rw [e]; exact hsame
    · rw [e]; exact hsel
    · rw [e]; exact hin
    · rw [e]; exact hy.2.1) (lw_meth hy.1)) rfl rfl rfl (hK.2.1 _ hdecl rfl) hxd hR.1) ⟨CPc.blind, va_recv (q0 := 0) hK.va (hM.1.at he) hc rfl, fun U hU hW => p_pre hK hZ hA hM hU hW⟩ rfl hn hl.1 hst (lv_room hrm) hdg hR.2
theorem p_callO (X : pX l D A cap d cc nL own ini rt m rv h' H0 cx sx Z) (hM : PI D A cap H0 h H locs) (hl : lv_has ls nL lv) {C : String} {T : u_T} {N ci : Nat} (hc : cT[ci]? = some (C, T, N)) (hb : pCls h b = some ci) (hy : pcY y cy ny rty n) (hlink : Cond.methodLink own idx y ∈ lw_all) (hsame : Cond.sameMethod y.cls y.cls y.name y.desc ∈ lw_all) (hsel : Cond.selects C y y ∈ lw_all) (hin : Cond.instanceMethod y ∈ lw_all) (hC : CMet l D A cap y cy ny rty d' (.ref b :: As) h h1 rv1) (hn : As.length = n) (hd : d' < d) (hrm : (rest.map fun v => v.category).sum ≤ 8) (hst : st0 = As.reverse ++ .ref b :: rest) (hdg : decode cc pc = .ok (.invokevirtual idx, 3))
    (kk : ∀ (H : Heap) (locs : List Loc), PI D A cap H0 h1 H locs → Z H locs (cx H) (sx H) (F0 m (pc + 3) ls (rv1.toList ++ rest))) : Z H locs (cx H) (sx H) (F0 m pc ls st0) := by
  refine p_goes (av := (Value.ref b :: As).toArray) (mc := cap.1 - h.1) (ms := cap.2 - h.2.1) X hM (fun p e s args below meth c hC2 h0 hK hZ hA => ?_) kk
  subst h0
  have hcx := hC2
  obtain ⟨hx, hb2, hml, hown, hts⟩ := hC2
  obtain ⟨bv, fs, he⟩ := pCls_open hb
  have hR := p_room hM hd hy.2.2.2
  exact va_runU (As := As) (rest := rest) hcx hC (va_cwO n hts (lw_app (a := [.methodLink own idx y, .sameMethod y.cls y.cls y.name y.desc, .instanceMethod ⟨y.cls, y.name, y.desc⟩, .selects C y y, .instanceMethod y, .initialized y.cls]) (by
    intro w hw
    simp only [List.mem_cons, List.not_mem_nil, or_false] at hw
    rcases hw with e | e | e | e | e | e
    · rw [e]; exact hlink
    · rw [e]; exact hsame
    · rw [e]; exact hin
    · rw [e]; exact hsel
    · rw [e]; exact hin
    · rw [e]; exact hy.2.1) (lw_meth hy.1)) rfl rfl rfl hy.1 hy.2.2.1 hR.1) ⟨CPc.blind, va_recv (q0 := 0) hK.va (hM.1.at he) hc rfl, fun U hU hW => p_pre hK hZ hA hM hU hW⟩ rfl hn hl.1 hst (lv_room hrm) hdg hR.2
theorem p_callO_r {v1 : Value} (X : pX l D A cap d cc nL own ini rt m rv h' H0 cx sx Z) (hM : PI D A cap H0 h H locs) (hl : lv_has ls nL lv) {C : String} {T : u_T} {N ci : Nat} (hc : cT[ci]? = some (C, T, N)) (hb : pCls h b = some ci) (hy : pcY y cy ny rty n) (hlink : Cond.methodLink own idx y ∈ lw_all) (hsame : Cond.sameMethod y.cls y.cls y.name y.desc ∈ lw_all) (hsel : Cond.selects C y y ∈ lw_all) (hin : Cond.instanceMethod y ∈ lw_all) (hC : CMet l D A cap y cy ny rty d' (.ref b :: As) h h1 (some v1)) (hn : As.length = n) (hd : d' < d) (hrm : (rest.map fun v => v.category).sum ≤ 8) (hst : st0 = As.reverse ++ .ref b :: rest) (hdg : decode cc pc = .ok (.invokevirtual idx, 3))
    (kk : ∀ (H : Heap) (locs : List Loc), PI D A cap H0 h1 H locs → Z H locs (cx H) (sx H) (F0 m (pc + 3) ls (v1 :: rest))) : Z H locs (cx H) (sx H) (F0 m pc ls st0) := p_callO X hM hl hc hb hy hlink hsame hsel hin hC hn hd hrm hst hdg kk
theorem p_callO_v (X : pX l D A cap d cc nL own ini rt m rv h' H0 cx sx Z) (hM : PI D A cap H0 h H locs) (hl : lv_has ls nL lv) {C : String} {T : u_T} {N ci : Nat} (hc : cT[ci]? = some (C, T, N)) (hb : pCls h b = some ci) (hy : pcY y cy ny rty n) (hlink : Cond.methodLink own idx y ∈ lw_all) (hsame : Cond.sameMethod y.cls y.cls y.name y.desc ∈ lw_all) (hsel : Cond.selects C y y ∈ lw_all) (hin : Cond.instanceMethod y ∈ lw_all) (hC : CMet l D A cap y cy ny rty d' (.ref b :: As) h h1 none) (hn : As.length = n) (hd : d' < d) (hrm : (rest.map fun v => v.category).sum ≤ 8) (hst : st0 = As.reverse ++ .ref b :: rest) (hdg : decode cc pc = .ok (.invokevirtual idx, 3))
    (kk : ∀ (H : Heap) (locs : List Loc), PI D A cap H0 h1 H locs → Z H locs (cx H) (sx H) (F0 m (pc + 3) ls rest)) : Z H locs (cx H) (sx H) (F0 m pc ls st0) := p_callO X hM hl hc hb hy hlink hsame hsel hin hC hn hd hrm hst hdg kk
theorem p_callVA {mo : Nat} {r : Int64} (X : pX l D A cap d cc nL own ini rt m rv h' H0 cx sx Z) (hM : PI D A cap H0 h H locs) (hl : lv_has ls nL lv) (hlink : Cond.methodLink own idx yV_at ∈ lw_all) (hC : VA l D A cap d' b mo h h1 r) (hd : d' < d) (hrm : (rest.map fun v => v.category).sum ≤ 8) (hdg : decode cc pc = .ok (.invokevirtual idx, 3))
    (kk : ∀ (H : Heap) (locs : List Loc), PI D A cap H0 h1 H locs → Z H locs (cx H) (sx H) (F0 m (pc + 3) ls (.long r :: rest))) : Z H locs (cx H) (sx H) (F0 m pc ls (.ref mo :: .ref b :: rest)) := by
  rcases hC with ⟨hb, hC⟩ | ⟨hb, hC⟩ | ⟨hb, hC⟩ | ⟨hb, hC⟩ | ⟨hb, hC⟩
  · exact p_callA (As := [.ref mo]) (ci := 14) (x := yV_at) X hM hl rfl hb pcy_X14_at hlink q1351 q1366 q1367 q1350 ⟨by decide +kernel, by decide +kernel, by decide +kernel⟩ hC rfl hd hrm rfl hdg kk
  · exact p_callA (As := [.ref mo]) (ci := 15) (x := yV_at) X hM hl rfl hb pcy_X15_at hlink q1351 q1407 q1378 q1350 ⟨by decide +kernel, by decide +kernel, by decide +kernel⟩ hC rfl hd hrm rfl hdg kk
  · exact p_callA (As := [.ref mo]) (ci := 16) (x := yV_at) X hM hl rfl hb pcy_X16_at hlink q1351 q1405 q1373 q1350 ⟨by decide +kernel, by decide +kernel, by decide +kernel⟩ hC rfl hd hrm rfl hdg kk
  · exact p_callA (As := [.ref mo]) (ci := 17) (x := yV_at) X hM hl rfl hb pcy_X17_at hlink q1351 q1352 q1353 q1350 ⟨by decide +kernel, by decide +kernel, by decide +kernel⟩ hC rfl hd hrm rfl hdg kk
  · exact p_callA (As := [.ref mo]) (ci := 18) (x := yV_at) X hM hl rfl hb pcy_X18_at hlink q1351 q1406 q1375 q1350 ⟨by decide +kernel, by decide +kernel, by decide +kernel⟩ hC rfl hd hrm rfl hdg kk
theorem p_callVT {mo : Nat} {r : Bool} (X : pX l D A cap d cc nL own ini rt m rv h' H0 cx sx Z) (hM : PI D A cap H0 h H locs) (hl : lv_has ls nL lv) (hlink : Cond.methodLink own idx yT_holds ∈ lw_all) (hC : VT l D A cap d' b mo h h1 r) (hd : d' < d) (hrm : (rest.map fun v => v.category).sum ≤ 8) (hdg : decode cc pc = .ok (.invokevirtual idx, 3))
    (kk : ∀ (H : Heap) (locs : List Loc), PI D A cap H0 h1 H locs → Z H locs (cx H) (sx H) (F0 m (pc + 3) ls (.int (bI r) :: rest))) : Z H locs (cx H) (sx H) (F0 m pc ls (.ref mo :: .ref b :: rest)) := by
  rcases hC with ⟨hb, hC⟩ | ⟨hb, hC⟩ | ⟨hb, hC⟩ | ⟨hb, hC⟩
  · exact p_callA (As := [.ref mo]) (ci := 10) (x := yT_holds) X hM hl rfl hb pcy_X10_holds hlink q1331 q1335 q1336 q1330 ⟨by decide +kernel, by decide +kernel, by decide +kernel⟩ hC rfl hd hrm rfl hdg kk
  · exact p_callA (As := [.ref mo]) (ci := 11) (x := yT_holds) X hM hl rfl hb pcy_X11_holds hlink q1331 q1408 q1344 q1330 ⟨by decide +kernel, by decide +kernel, by decide +kernel⟩ hC rfl hd hrm rfl hdg kk
  · exact p_callA (As := [.ref mo]) (ci := 12) (x := yT_holds) X hM hl rfl hb pcy_X12_holds hlink q1331 q1332 q1333 q1330 ⟨by decide +kernel, by decide +kernel, by decide +kernel⟩ hC rfl hd hrm rfl hdg kk
  · exact p_callA (As := [.ref mo]) (ci := 19) (x := yT_holds) X hM hl rfl hb pcy_X19_holds hlink q1331 q1409 q1347 q1330 ⟨by decide +kernel, by decide +kernel, by decide +kernel⟩ hC rfl hd hrm rfl hdg kk
/-- a cast to Value -/
theorem p_castV (X : pX l D A cap d cc nL own ini rt m rv h' H0 cx sx Z) (hM : PI D A cap H0 h H locs) {idx : Nat} (hq : Cond.classLink own idx RX13 ∈ lw_all) (hvc : pCls h a = some 14 ∨ pCls h a = some 15 ∨ pCls h a = some 16 ∨ pCls h a = some 17 ∨ pCls h a = some 18) (hdg : decode cc pc = .ok (.checkcast idx, 3))
    (kk : Z H locs (cx H) (sx H) (F0 m (pc + 3) ls (.ref a :: rest))) : Z H locs (cx H) (sx H) (F0 m pc ls (.ref a :: rest)) := by
  rcases hvc with e | e | e | e | e
  · exact p_castT X hM (ci := 14) rfl hq q2474 e hdg kk
  · exact p_castT X hM (ci := 15) rfl hq q2477 e hdg kk
  · exact p_castT X hM (ci := 16) rfl hq q2475 e hdg kk
  · exact p_castT X hM (ci := 17) rfl hq q2473 e hdg kk
  · exact p_castT X hM (ci := 18) rfl hq q2476 e hdg kk
theorem p_castTst (X : pX l D A cap d cc nL own ini rt m rv h' H0 cx sx Z) (hM : PI D A cap H0 h H locs) {idx : Nat} (hq : Cond.classLink own idx RX9 ∈ lw_all) (hvc : pCls h a = some 10 ∨ pCls h a = some 11 ∨ pCls h a = some 12 ∨ pCls h a = some 19) (hdg : decode cc pc = .ok (.checkcast idx, 3))
    (kk : Z H locs (cx H) (sx H) (F0 m (pc + 3) ls (.ref a :: rest))) : Z H locs (cx H) (sx H) (F0 m pc ls (.ref a :: rest)) := by
  rcases hvc with e | e | e | e
  · exact p_castT X hM (ci := 10) rfl hq q2470 e hdg kk
  · exact p_castT X hM (ci := 11) rfl hq q2471 e hdg kk
  · exact p_castT X hM (ci := 12) rfl hq q2469 e hdg kk
  · exact p_castT X hM (ci := 19) rfl hq q2472 e hdg kk
theorem p_callSU (X : pX l D A cap d cc nL own ini rt m rv h' H0 cx sx Z) (hM : PI D A cap H0 h H locs) (hl : lv_has ls nL lv) {C : String} {T : u_T} {N ci : Nat} (hc : cT[ci]? = some (C, T, N)) (hb : pCls h b = some ci) (hy : pcY y cy ny rty n) (hyn : y.name ≠ "<init>") (hlink : Cond.methodLink own idx y ∈ lw_all) (hsame : Cond.sameMethod y.cls y.cls y.name y.desc ∈ lw_all) (hsup : Cond.superclass own y.cls ∈ lw_all) (hin : Cond.instanceMethod y ∈ lw_all) (hC : CMet l D A cap y cy ny rty d' (.ref b :: As) h h1 rv1) (hn : As.length = n) (hd : d' < d) (hrm : (rest.map fun v => v.category).sum ≤ 8) (hst : st0 = As.reverse ++ .ref b :: rest) (hdg : decode cc pc = .ok (.invokespecial idx, 3))
    (kk : ∀ (H : Heap) (locs : List Loc), PI D A cap H0 h1 H locs → Z H locs (cx H) (sx H) (F0 m (pc + 3) ls (rv1.toList ++ rest))) : Z H locs (cx H) (sx H) (F0 m pc ls st0) := by
  refine p_goes (av := (Value.ref b :: As).toArray) (mc := cap.1 - h.1) (ms := cap.2 - h.2.1) X hM (fun p e s args below meth c hC2 h0 hK hZ hA => ?_) kk
  subst h0
  have hcx := hC2
  obtain ⟨hx, hb2, hml, hown, hts⟩ := hC2
  obtain ⟨bv, fs, he⟩ := pCls_open hb
  have hR := p_room hM hd hy.2.2.2
  exact va_runSU (As := As) (rest := rest) (hK.1.1 ci _ hc).2 hcx hC (va_cwSU n hts (lw_app (a := [.methodLink own idx y, .sameMethod y.cls y.cls y.name y.desc, .superclass own y.cls, .instanceMethod y, .initialized y.cls]) (by
    intro w hw
    simp only [List.mem_cons, List.not_mem_nil, or_false] at hw
    rcases hw with e | e | e | e | e
    · rw [e]; exact hlink
    · rw [e]; exact hsame
    · rw [e]; exact hsup
    · rw [e]; exact hin
    · rw [e]; exact hy.2.1) (lw_meth hy.1)) rfl rfl rfl ⟨hyn, hy.2.2.1.2.2⟩ hR.1) ⟨CPc.blind, va_recv (q0 := 0) hK.va (hM.1.at he) hc rfl, fun U hU hW => p_pre hK hZ hA hM hU hW⟩ rfl hn hl.1 hst (lv_room hrm) hdg hR.2
theorem p_callSU_r {v1 : Value} (X : pX l D A cap d cc nL own ini rt m rv h' H0 cx sx Z) (hM : PI D A cap H0 h H locs) (hl : lv_has ls nL lv) {C : String} {T : u_T} {N ci : Nat} (hc : cT[ci]? = some (C, T, N)) (hb : pCls h b = some ci) (hy : pcY y cy ny rty n) (hyn : y.name ≠ "<init>") (hlink : Cond.methodLink own idx y ∈ lw_all) (hsame : Cond.sameMethod y.cls y.cls y.name y.desc ∈ lw_all) (hsup : Cond.superclass own y.cls ∈ lw_all) (hin : Cond.instanceMethod y ∈ lw_all) (hC : CMet l D A cap y cy ny rty d' (.ref b :: As) h h1 (some v1)) (hn : As.length = n) (hd : d' < d) (hrm : (rest.map fun v => v.category).sum ≤ 8) (hst : st0 = As.reverse ++ .ref b :: rest) (hdg : decode cc pc = .ok (.invokespecial idx, 3))
    (kk : ∀ (H : Heap) (locs : List Loc), PI D A cap H0 h1 H locs → Z H locs (cx H) (sx H) (F0 m (pc + 3) ls (v1 :: rest))) : Z H locs (cx H) (sx H) (F0 m pc ls st0) := p_callSU X hM hl hc hb hy hyn hlink hsame hsup hin hC hn hd hrm hst hdg kk
theorem p_callP (X : pX l D A cap d cc nL own ini rt m rv h' H0 cx sx Z) (hM : PI D A cap H0 h H locs) (hl : lv_has ls nL lv) {C : String} {T : u_T} {N ci : Nat} (hc : cT[ci]? = some (C, T, N)) (hb : pCls h b = some ci) (hy : pcY y cy ny rty n) (hlink : Cond.methodLink own idx y ∈ lw_all) (hsame : Cond.sameMethod y.cls y.cls y.name y.desc ∈ lw_all) (hpriv : ∀ U, CK D U → va_Nw (.selects C y y) U) (hin : Cond.instanceMethod y ∈ lw_all) (hC : CMet l D A cap y cy ny rty d' (.ref b :: As) h h1 rv1) (hn : As.length = n) (hd : d' < d) (hrm : (rest.map fun v => v.category).sum ≤ 8) (hst : st0 = As.reverse ++ .ref b :: rest) (hdg : decode cc pc = .ok (.invokevirtual idx, 3))
    (kk : ∀ (H : Heap) (locs : List Loc), PI D A cap H0 h1 H locs → Z H locs (cx H) (sx H) (F0 m (pc + 3) ls (rv1.toList ++ rest))) : Z H locs (cx H) (sx H) (F0 m pc ls st0) := by
  refine p_goes (av := (Value.ref b :: As).toArray) (mc := cap.1 - h.1) (ms := cap.2 - h.2.1) X hM (fun p e s args below meth c hC2 h0 hK hZ hA => ?_) kk
  subst h0
  have hcx := hC2
  obtain ⟨hx, hb2, hml, hown, hts⟩ := hC2
  obtain ⟨bv, fs, he⟩ := pCls_open hb
  have hR := p_room hM hd hy.2.2.2
  have hsel := va_Nw.use (A := args) rfl (hpriv s hK)
  exact va_runU (As := As) (rest := rest) hcx hC ⟨⟨rfl, rfl, hR.1.1, hR.1.2, pay_in hts (lw_meth hy.1), (by exact List.mem_cons_self)⟩, hts _ hy.1, hts _ hy.2.1, ⟨hy.2.2.1.1, hy.2.2.1.2.1⟩, (fun sig h => by
    have h2 := hy.2.2.1.2.2
    rw [h] at h2
    exact (Option.some.inj h2).symm), hts _ hlink, hts _ hsame, va_Decl.of (hts _ hin) (hts _ hy.1), hsel, hts _ hin⟩ ⟨CPc.blind, va_recv (q0 := 0) hK.va (hM.1.at he) hc rfl, fun U hU hW => p_pre hK hZ hA hM hU hW⟩ rfl hn hl.1 hst (lv_room hrm) hdg hR.2
theorem p_callP_r {v1 : Value} (X : pX l D A cap d cc nL own ini rt m rv h' H0 cx sx Z) (hM : PI D A cap H0 h H locs) (hl : lv_has ls nL lv) {C : String} {T : u_T} {N ci : Nat} (hc : cT[ci]? = some (C, T, N)) (hb : pCls h b = some ci) (hy : pcY y cy ny rty n) (hlink : Cond.methodLink own idx y ∈ lw_all) (hsame : Cond.sameMethod y.cls y.cls y.name y.desc ∈ lw_all) (hpriv : ∀ U, CK D U → va_Nw (.selects C y y) U) (hin : Cond.instanceMethod y ∈ lw_all) (hC : CMet l D A cap y cy ny rty d' (.ref b :: As) h h1 (some v1)) (hn : As.length = n) (hd : d' < d) (hrm : (rest.map fun v => v.category).sum ≤ 8) (hst : st0 = As.reverse ++ .ref b :: rest) (hdg : decode cc pc = .ok (.invokevirtual idx, 3))
    (kk : ∀ (H : Heap) (locs : List Loc), PI D A cap H0 h1 H locs → Z H locs (cx H) (sx H) (F0 m (pc + 3) ls (v1 :: rest))) : Z H locs (cx H) (sx H) (F0 m pc ls st0) := p_callP X hM hl hc hb hy hlink hsame hpriv hin hC hn hd hrm hst hdg kk
theorem p_callP_v (X : pX l D A cap d cc nL own ini rt m rv h' H0 cx sx Z) (hM : PI D A cap H0 h H locs) (hl : lv_has ls nL lv) {C : String} {T : u_T} {N ci : Nat} (hc : cT[ci]? = some (C, T, N)) (hb : pCls h b = some ci) (hy : pcY y cy ny rty n) (hlink : Cond.methodLink own idx y ∈ lw_all) (hsame : Cond.sameMethod y.cls y.cls y.name y.desc ∈ lw_all) (hpriv : ∀ U, CK D U → va_Nw (.selects C y y) U) (hin : Cond.instanceMethod y ∈ lw_all) (hC : CMet l D A cap y cy ny rty d' (.ref b :: As) h h1 none) (hn : As.length = n) (hd : d' < d) (hrm : (rest.map fun v => v.category).sum ≤ 8) (hst : st0 = As.reverse ++ .ref b :: rest) (hdg : decode cc pc = .ok (.invokevirtual idx, 3))
    (kk : ∀ (H : Heap) (locs : List Loc), PI D A cap H0 h1 H locs → Z H locs (cx H) (sx H) (F0 m (pc + 3) ls (rest))) : Z H locs (cx H) (sx H) (F0 m pc ls st0) := p_callP X hM hl hc hb hy hlink hsame hpriv hin hC hn hd hrm hst hdg kk
end PX5
def p_dummy : Nat := 0
def isVal (x : Option Nat) : Bool := x == some 14 || x == some 15 || x == some 16 || x == some 17 || x == some 18
theorem isVal_open {x : Option Nat} (h : isVal x = true) : x = some 14 ∨ x = some 15 ∨ x = some 16 ∨ x = some 17 ∨ x = some 18 := by
  simpa [isVal, or_assoc] using h
def isTst (x : Option Nat) : Bool := x == some 10 || x == some 11 || x == some 12 || x == some 19
theorem isTst_open {x : Option Nat} (h : isTst x = true) : x = some 10 ∨ x = some 11 ∨ x = some 12 ∨ x = some 19 := by
  simpa [isTst, or_assoc] using h
