/-! PART 19y: methods with a handler -/
set_option maxRecDepth 100000
/-- a call whose exception is caught -/
def bnc {α β : Type} (x : Option ((α ⊕ Nat) × PH)) (kt : Nat → PH → Option β) (k : α → PH → Option β) : Option β := match x with
  | some (.inl r, h) => k r h
  | some (.inr q, h) => kt q h
  | none => none
theorem bnc_split {α β : Type} {x : Option ((α ⊕ Nat) × PH)} {kt : Nat → PH → Option β} {k : α → PH → Option β} {y : β} {P : Prop} (e : bnc x kt k = some y) (c1 : ∀ (q : Nat) (h1 : PH), x = some (.inr q, h1) → kt q h1 = some y → P) (c2 : ∀ (r : α) (h1 : PH), x = some (.inl r, h1) → k r h1 = some y → P) : P := by
  unfold bnc at e
  split at e
  next r h => exact c2 r h rfl e
  next q h => exact c1 q h rfl e
  next => cases e
def wsH (y : MethodName) (cy : ByteArray) (ny : Nat) (rty : Option FieldType) (hh : List (Nat × Nat × Nat × Nat)) : List Cond := Cond.codeWith y cy ny rty hh :: lw_all
def CMetH (l : Launch) (D : PD) (A : Nat → Prop) (cap : Nat × Nat) (y : MethodName) (cy : ByteArray) (ny : Nat) (rty : Option FieldType) (hh : List (Nat × Nat × Nat × Nat)) (d : Nat) (av : List Value) (h h' : PH) (rv : Option Value) : Prop :=
  Met l y (wsH y cy ny rty hh) (rmC cap d h.1 h.2.1) (CPc D A cap h av) (CQc D A cap h' rv) (cap.1 - h.1) (cap.2 - h.2.1) A
def pXH (l : Launch) (D : PD) (A : Nat → Prop) (cap : Nat × Nat) (d : Nat) (cc : ByteArray) (nL : Nat) (own : String) (m : MethodId) (hh : List (Nat × Nat × Nat × Nat)) (H0 : Heap) (cx sx : Heap → Nat) (Z : Heap → List Loc → Nat → Nat → JFrame → Prop) : Prop :=
  ∃ (p : Program) (e : Env) (s : State) (args : Array Value) (below : List Frame) (meth : Method) (c : Code) (Q : State → Prop), CallFix p m c cc nL s args lw_all own ∧ (CK D s ∧ CS D A s H0) ∧ s.heap = H0 ∧ (∀ q, H0.size ≤ q → A q) ∧ cx = (fun H => H.size - H0.size) ∧ sx = (fun H => tot H - tot H0) ∧
    (Z = fun H locs cells slots g => W p l e (rmC cap d H0.size (tot H0)) s m args below meth c H locs cells slots Q g) ∧ c.exceptionTable.toList = tableOf hh
section PX12
variable {l : Launch} {D : PD} {A : Nat → Prop} {cap : Nat × Nat} {d : Nat} {cc : ByteArray} {nL : Nat} {own : String} {ini : Bool} {rt : Option FieldType} {m : MethodId} {rv : Option Value} {h' : PH} {H0 : Heap} {cx sx : Heap → Nat} {Z : Heap → List Loc → Nat → Nat → JFrame → Prop}
variable {lv : List (Nat × Value)} {h : PH} {H : Heap} {locs : List Loc} {pc : Nat} {ls : Array Slot} {rest : List Value} {a ci k : Nat} {C : String} {T : u_T} {N : Nat} {ty : Nat → FieldType}
variable {y : MethodName} {cy : ByteArray} {ny : Nat} {rty : Option FieldType} {d' n idx : Nat} {As st0 : List Value} {h1 : PH} {b q : Nat} {hh : List (Nat × Nat × Nat × Nat)}
theorem p_callC (XH : pXH l D A cap d cc nL own m hh H0 cx sx Z) (hM : PI D A cap H0 h H locs) (hl : lv_has ls nL lv) (hc : cT[ci]? = some (y.cls, T, N)) (hb : pCls h b = some ci) (hy : pcY y cy ny rty n) (hlink : Cond.methodLink own idx y ∈ lw_all) (hin : Cond.instanceMethod y ∈ lw_all) (hsel : Cond.selects y.cls y y ∈ lw_all) (hC : XMet l D A cap y cy ny rty d' (.ref b :: As) h h1 q) (hn : As.length = n) (hd : d' < d) (hrm : (rest.map fun v => v.category).sum ≤ 8) (hst : st0 = As.reverse ++ .ref b :: rest) (hdg : decode cc pc = .ok (.invokevirtual idx, 3))
    {ec : Nat} {CE : String} {TE : u_T} {NE hpc : Nat} (hce : cT[ec]? = some (CE, TE, NE)) (hqc : pCls h1 q = some ec) {x : ExceptionTableEntry} (hx : tableOf hh = [x]) (hcov : covers x pc = true) (h0 : x.catchType ≠ 0) (hcl : Cond.classLink own x.catchType CE ∈ lw_all) (hpx : x.handlerPc = hpc)
    (kk : ∀ (H : Heap) (locs : List Loc), PI D A cap H0 h1 H locs → Z H locs (cx H) (sx H) (F0 m hpc ls [.ref q])) :
    Z H locs (cx H) (sx H) (F0 m pc ls st0) := by
  obtain ⟨p, e, s, args, below, meth, c, Q, hcx, ⟨hK, hZ⟩, rfl, hA, rfl, rfl, rfl, htb⟩ := XH
  have hcx2 := hcx
  obtain ⟨hxx, hb2, hml, hown, hts⟩ := hcx2
  obtain ⟨bv, fs, he⟩ := pCls_open hb
  have hR := p_room hM hd hy.2.2.2
  intro T hTh X
  obtain ⟨q1, st₀, t, T', L, e0, X', hL, e1, e2, hq, st⟩ := x_run (As := As) (rest := rest) hcx hC (cwV n hts (lw_V hlink hin hsel hy.2.1 hy.1) rfl rfl rfl ⟨rfl, hy.2.2.1⟩ hR.1) ⟨CPc.blind, va_recv (q0 := 0) hK.va (hM.1.at he) hc rfl, fun U hU hW => p_pre hK hZ hA hM hU hW⟩ (g := F0 m pc ls st0) rfl hn hl.1 hst (lv_room hrm) hdg hR.2 T hTh X
  obtain ⟨rfl, hI⟩ := p_xback hM e0 e1 hL hq
  obtain ⟨bq, fq, hqe⟩ := pCls_open hqc
  obtain ⟨ce, g1, g2, g3⟩ := va_recv (q0 := 0) hK.va (hI.1.at hqe) hce rfl
  have hpl : e.platform.magicAccessors = ({} : Platform).magicAccessors := by rw [X'.admits.platform]
  obtain ⟨c5, hc5, hcl5⟩ := Cond.classLink_spec hown (hts _ hcl) e.platform hpl
  cases Option.some.inj (g3.symm.trans hc5)
  obtain ⟨vm', X2, st2⟩ := X'.thenCaughtThrough q1 (g := F0 m pc ls rest) rfl (Steps.refl _) g1 g2 (by obtain ⟨k9, h9, -⟩ := Vm.findClass_spec g3; exact ⟨k9, h9⟩) [] x [] (by rw [htb, hx]; rfl) (fun z hz => by cases hz) hcov (Or.inr ⟨h0, _, hcl5, p_self _ _⟩)
  obtain ⟨t2, a1, b1⟩ := W_tight (Nat.le_refl _) (Nat.le_refl _) (kk T'.heap (locs ++ L) hI) (T'.setVm vm') rfl X2
  rw [hpx] at st2
  exact ⟨t2, st.trans (st2.trans a1), b1⟩
theorem p_headH {av : List Value} (hy : plainFor y = true) (hyc : y.cls = own) (hsl : (lg_sl av).length ≤ nL)
    (body : ∀ (m : MethodId) (Z : Heap → List Loc → Nat → Nat → JFrame → Prop) (cx sx : Heap → Nat) (H0 : Heap) (ls : Array Slot), pX l D A cap d cc nL own false rt m rv h' H0 cx sx Z → pXH l D A cap d cc nL own m hh H0 cx sx Z → PI D A cap H0 h H0 [] → lv_has ls nL (lv_args 0 av) → Z H0 [] (cx H0) (sx H0) (F0 m 0 ls [])) : CMetH l D A cap y cc nL rt hh d av h h' rv := by
  unfold CMetH Met
  refine MetFree.of_bodySF (code := cc) (maxLocals := nL) (ret := rt) hy ?_ ?_
  · intro args s m h hn
    obtain ⟨m9, meth, c, hn9, h1, h2, h3, h4, -, h5, h6, -⟩ := Cond.codeWith_spec (atoms_spec (ws := wsH y cc nL rt hh) h _ List.mem_cons_self)
    cases hn.symm.trans hn9
    exact ⟨meth, c, h1, h2, h3, h4, h5, h6⟩
  · intro p e s m args below meth c s₁ B hml hv _
    have hh0 : s₁.heap = s.heap := by rw [B.state]; rfl
    have htb : c.exceptionTable.toList = tableOf hh := by
      obtain ⟨m9, meth9, c9, hn9, h1, h2, -, -, h6, -⟩ := Cond.codeWith_spec (atoms_spec (ws := wsH y cc nL rt hh) B.pre _ List.mem_cons_self)
      cases Option.some.inj (hn9.symm.trans B.named)
      cases Option.some.inj (h1.symm.trans B.method)
      cases Option.some.inj (h2.symm.trans (Stand.of_body B).code)
      rw [← h6, table_eq]
    obtain ⟨rfl, hP, hcap, hK, hZ, hA⟩ := hv
    have hts := atoms_spec (ws := wsH y cc nL rt hh) B.pre
    have hts : ∀ w ∈ lw_all, w.before _ s = true := fun w h => hts w (List.mem_cons_of_mem _ h)
    have hown : s.vm.findClass own = some m.cls := by rw [← hyc]; exact findClass_of_methodNamed B.named
    have hl := lv_entry av hsl
    have hSt := Stand.of_body B
    rw [lg_entry_eq]
    generalize (lg_sl av ++ List.replicate (nL - (lg_sl av).length) Slot.unset).toArray = ls at hl ⊢
    have hrm : (headSpec (wsH y cc nL rt hh) (rmC cap d h.1 h.2.1)).room = rmC cap d s.heap.size (tot s.heap) := by rw [hP.1, hP.2.1]; rfl
    rw [hrm] at hSt
    have key := body m (fun H locs cells slots g => W p l e (rmC cap d s.heap.size (tot s.heap)) s m av.toArray below meth c H locs cells slots (MQ below (CQc D A cap h' rv) av.toArray s (cap.1 - s.heap.size) (cap.2 - tot s.heap) A) g) (fun H => H.size - s.heap.size) (fun H => tot H - tot s.heap) s.heap ls ⟨p, e, s, av.toArray, below, meth, c, _, ⟨B.exec, B.bytes, hml, hown, hts⟩, B.returns, B.notSynchronized, ⟨hK, hZ⟩, rfl, hA, fun q => (by cases q), rfl, rfl, rfl, fun _ _ _ _ _ k => k⟩ ⟨p, e, s, av.toArray, below, meth, c, _, ⟨B.exec, B.bytes, hml, hown, hts⟩, ⟨hK, hZ⟩, rfl, hA, rfl, rfl, rfl, htb⟩ ⟨hP, hcap, va_S.rf, Nat.le_refl _⟩ hl
    obtain ⟨t, a1, o, b1, b2, b3⟩ := W_tight (Nat.le_refl _) (Nat.le_refl _) key s₁ hh0 hSt
    rw [hP.1, hP.2.1] at b3
    exact ⟨t, o, a1, b1, b2, b3⟩
end PX12
