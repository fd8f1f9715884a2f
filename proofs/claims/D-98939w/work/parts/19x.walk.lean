/-! PART 34: methods that throw: what is thrown is named by its address (after the kit's proofs of vx_back, vx_callV, vx_out, vx_catch, vx_athrow) -/
set_option maxRecDepth 100000
def bnx {α β : Type} (x : Option ((α ⊕ Nat) × PH)) (k : α → PH → Option ((β ⊕ Nat) × PH)) : Option ((β ⊕ Nat) × PH) := match x with
  | some (.inl r, h) => k r h
  | some (.inr q, h) => some (.inr q, h)
  | none => none
theorem bnx_ret {α β : Type} {x : Option ((α ⊕ Nat) × PH)} {k : α → PH → Option ((β ⊕ Nat) × PH)} {y : β} {h' : PH} (e : bnx x k = some (.inl y, h')) : ∃ (r : α) (h1 : PH), x = some (.inl r, h1) ∧ k r h1 = some (.inl y, h') := by
  unfold bnx at e
  split at e
  next r h => exact ⟨r, h, rfl, e⟩
  next q h => cases e
  next => cases e
theorem bnx_thr {α β : Type} {x : Option ((α ⊕ Nat) × PH)} {k : α → PH → Option ((β ⊕ Nat) × PH)} {q : Nat} {h' : PH} (e : bnx x k = some (.inr q, h')) : (∃ (r : α) (h1 : PH), x = some (.inl r, h1) ∧ k r h1 = some (.inr q, h')) ∨ x = some (.inr q, h') := by
  unfold bnx at e
  split at e
  next r h => exact Or.inl ⟨r, h, rfl, e⟩
  next q2 h => cases e; exact Or.inr rfl
  next => cases e
theorem bnx_split {α β : Type} {x : Option ((α ⊕ Nat) × PH)} {k : α → PH → Option ((β ⊕ Nat) × PH)} {q : Nat} {h' : PH} {P : Prop} (e : bnx x k = some (.inr q, h')) (c1 : x = some (.inr q, h') → P) (c2 : ∀ (r : α) (h1 : PH), x = some (.inl r, h1) → k r h1 = some (.inr q, h') → P) : P := by
  rcases bnx_thr e with ⟨r, h1, g, k⟩ | g
  · exact c2 r h1 g k
  · exact c1 g
/-- a callee that throws -/
def xMet (l : Launch) (y : MethodName) (ws : List Cond) (rm : Room) (Pc : Array Value → State → Prop) (Px : Addr → State → State → Prop) (mc ms : Nat) (free : Addr → Prop) : Prop :=
  MetFree l y (headSpec ws rm) Pc (fun _ _ _ _ _ => True) (fun _ st o t => ∃ q, o = .threw q ∧ Px q st t ∧ st.WarmedH t.vm ∧ ∃ L, st.sameButNew ({ t with vm := st.vm } : State) L mc ms ∧ ∀ z ∈ L, free z.base)
/-- the method's frame g, with q thrown over it -/
def xW (p : Program) (l : Launch) (e : Env) (R : Room) (s : State) (m : MethodId) (args : Array Value) (below : List Frame) (meth : Method) (c : Code) (H : Heap) (locs : List Loc) (cells slots : Nat) (Q : State → Prop) (g : JFrame) (q : Addr) : Prop :=
  ∀ T : State, T.heap = H → Stand p l e R s m args below meth c T locs cells slots → ∃ t, Steps p.tables e below ((T.setTop g).pushFrame (.throwing q)) t ∧ Q t
section XR
variable {p : Program} {l : Launch} {e : Env} {R : Room} {s : State} {m : MethodId} {args : Array Value} {below : List Frame} {meth : Method} {c : Code} {H : Heap} {locs : List Loc} {cells slots : Nat} {Q : State → Prop}
variable {y : MethodName} {bytes cc : ByteArray} {maxL nL mc ms n index : Nat} {ret : Option FieldType} {ws : List Cond} {rm : Room} {Pc : Array Value → State → Prop} {Px : Addr → State → State → Prop} {free : Addr → Prop} {Ts : List Cond} {own C : String} {b : Addr} {As rest : List Value} {g : JFrame}
theorem x_run (S : CallFix p m c cc nL s args Ts own) (hM : xMet l y ws rm Pc Px mc ms free) (cw : CallW R s args own C index y bytes maxL ret ws rm mc ms n) (hp : PreV s H C b Pc As)
    (hg : g.method = m) (hn : As.length = n) (hsize : g.locals.size = nL) (hstack : g.stack = As.reverse ++ .ref b :: rest) (hW : 2 * g.monitorRoom + (rest.map fun v => v.category).sum ≤ 8) (hdg : decode cc g.pc = .ok (.invokevirtual index, 3)) (hf : cells + mc ≤ R.cells ∧ slots + ms ≤ R.slots) :
    ∀ T : State, T.heap = H → Stand p l e R s m args below meth c T locs cells slots → ∃ (q : Addr) (st₀ t T' : State) (L : List Loc), st₀.heap = H ∧ Stand p l e R s m args below meth c T' (locs ++ L) (cells + mc) (slots + ms) ∧ (∀ z ∈ L, free z.base) ∧ T'.heap = t.heap ∧ T'.vm = t.vm ∧ Px q st₀ t ∧
      Steps p.tables e below (T.setTop g) ((T'.setTop { g with stack := rest }).pushFrame (.throwing q)) := by
  obtain ⟨⟨hrc, hrs, hframes, hlocals, hws, hcw, hcode, hini, hy, hlen, hl⟩, hinst, hsel⟩ := cw
  have hinit : ∀ a' U, s.WarmedH U.vm → (Cond.initialized y.cls).before a' U = true := fun a' U hW => word_at hW (Or.inl (by first | rfl | simp [Cond.onTables, Cond.keeps, Cond.steady])) hini
  obtain ⟨hexec, hb, hml, hown, -⟩ := S
  obtain ⟨hblind, ⟨cellB, hcB, hobj, hcls⟩, hPc⟩ := hp
  intro T hT X
  have hcell : T.heap[b]? = some cellB := by rw [hT]; exact hcB
  obtain ⟨mk, methM, hnamed, hmethM, hstM, habM⟩ := Cond.instanceMethod_spec hinst
  obtain ⟨methM', cM, hmethM', -, -, -, -, -, -, hsigM⟩ := Cond.code_spec hnamed hcode
  cases hmethM.symm.trans hmethM'
  obtain ⟨c2, r2, m2, q1, q2, q3, q4, kP, hkP, hkPi⟩ := Cond.selects_spec hsel
  cases hcls.symm.trans q1
  cases (State.methodFound?_of_named hnamed hy).symm.trans q2
  cases hnamed.symm.trans q3
  have hselP : selectMethod e.platform s.vm cellB.cls mk = .method mk := by rw [Launch.admits_selectMethod X.admits]; exact q4
  obtain ⟨vm₁, X₁, hstep₁⟩ := X.invokevirtual hexec hown hl hnamed hmethM hstM hkP hkPi hy (a := b) (cell := cellB) hcell
    (fun z h => by rw [h] at hobj; cases hobj) hselP hmethM habM hkP hkPi (g := g) hg (argsL := As) (rest := rest) (hn.trans (hlen _ hsigM)) hstack (by rw [hb]; exact hdg)
  have hPre : Pc (Value.ref b :: As).toArray (T.setVm vm₁) := hPc (T.setVm vm₁) hT X₁.warmed
  have hnm : (T.setVm vm₁).methodNamed? y = some mk := X₁.named hnamed
  have hh : (T.setVm vm₁).heap = H := hT
  generalize (T.setVm vm₁) = U at X₁ hPre hnm hh hstep₁
  generalize hgg : ({ g with stack := rest } : JFrame) = g2 at hstep₁ ⊢
  have hg2 : g2.method = m := by rw [← hgg]; exact hg
  have hsz2 : g2.locals.size = c.maxLocals := by rw [← hgg]; exact hsize.trans hml.symm
  have hdg2 : decode c.code g2.pc = .ok (.invokevirtual index, 3) := by rw [← hgg, hb]; exact hdg
  have hW2 : 2 * g2.monitorRoom + (g2.stack.map fun v => v.category).sum ≤ 8 := by rw [← hgg]; exact hW
  generalize ha : (Value.ref b :: As).toArray = a at hPre hstep₁ ⊢
  have h1 : (headSpec ws rm).pre.before a U = true := atoms_intro fun w hw => hws w hw _ _ X₁.warmed
  have h2 : (Cond.code y bytes maxL ret).before a U = true := hws _ hcw _ _ X₁.warmed
  have h3 : (Cond.initialized y.cls).before a U = true := hinit _ _ X₁.warmed
  have h4 : cells + (headSpec ws rm).room.cells ≤ R.cells := by rw [show (headSpec ws rm).room.cells = mc from hrc]; exact hf.1
  have h5 : slots + (headSpec ws rm).room.slots ≤ R.slots := by rw [show (headSpec ws rm).room.slots = ms from hrs]; exact hf.2
  have hPc2 : Pc a (U.calling g2 mk a) := hblind _ _ _ _ hPre
  obtain ⟨methY, cY, hmY, hcY, -, hlY, -, -, -, -⟩ := Cond.code_spec hnm h2
  obtain ⟨kY, hkY, -⟩ := className_of_methodNamed hnm
  have hinitY : kY.init = .initialized := Cond.initialized_spec (findClass_of_methodNamed hnm) hkY h3
  have h : At U g2.method c below := by rw [hg2]; exact X₁.here
  have hlocals9 : 8 + (maxL + 11) + (headSpec ws rm).room.locals ≤ R.locals := hlocals
  have happ : (headSpec ws rm).appliesLoose y e.platform (U.calling g2 mk a) = true :=
    Spec.appliesLoose_calling (g := g2) h hdg2 hnm hkY hinitY
      (X₁.room_calling (g := g2) (R' := (headSpec ws rm).room) hsz2 hmY hcY hframes (by rw [hlY]; omega) h4 h5) h1
  obtain ⟨mid, hmid⟩ := h.above
  have hfr : (U.setTop g2).frames = (.java g2 :: mid) ++ below := by rw [State.frames_setTop' g2 h.top, hmid]; rfl
  obtain ⟨o, s₂, hsteps, -, hend, hq⟩ := Steps.callFree hM p X₁.admits X₁.cas X₁.clock (acts := []) hfr happ hPc2 trivial
  rw [State.frames_setTop' g2 h.top] at hend
  obtain ⟨g₀, hg0⟩ := Option.isSome_iff_exists.mp h.top
  obtain ⟨r, hr⟩ := State.topJava?_eq_some.mp hg0
  have hr' : (({ U with heap := s₂.heap, slotsUsed := s₂.slotsUsed } : State).setVm s₂.vm).frames = .java g₀ :: r := hr
  have hq' : ∃ q, o = .threw q ∧ Px q (U.calling g2 mk a) s₂ ∧ (U.calling g2 mk a).WarmedH s₂.vm ∧ ∃ L, (U.calling g2 mk a).sameButNew ({ s₂ with vm := (U.calling g2 mk a).vm } : State) L mc ms ∧ ∀ z ∈ L, free z.base := hq
  obtain ⟨q, rfl, hx, hW₂, L, hsm, hL⟩ := hq'
  obtain ⟨e2, q2, q3, q4, q5, q6⟩ := id hsm
  have e3 : s₂ = ({ (U.calling g2 mk a).setFrames s₂.frames with heap := s₂.heap, slotsUsed := s₂.slotsUsed } : State).setVm s₂.vm := by
    have : s₂ = ({ s₂ with vm := (U.calling g2 mk a).vm } : State).setVm s₂.vm := rfl
    rw [e2] at this
    exact this
  have hf₂ : s₂.frames = .throwing q :: .java g2 :: U.frames.tail := hend
  have hW' : U.WarmedH s₂.vm := hW₂
  have hs₂ : s₂ = ((({ U with heap := s₂.heap, slotsUsed := s₂.slotsUsed } : State).setVm s₂.vm).setTop g2).pushFrame (.throwing q) := by
    refine e3.trans ?_
    rw [hf₂, State.calling_eq h.top, State.setFrames_setFrames, State.pushFrame, State.frames_setTop _ hr', State.setTop_of_frames _ hr', State.setFrames_setFrames, hr]
    rfl
  have hsame : U.sameButNew ({ U with heap := s₂.heap, slotsUsed := s₂.slotsUsed } : State) L mc ms := by
    refine ⟨?_, q2, q3, q4, q5, q6⟩
    obtain ⟨t, ht, -⟩ := State.frames_cons hr
    show ({ U with heap := s₂.heap, slotsUsed := s₂.slotsUsed } : State) = { U.setFrames U.frames with heap := s₂.heap, slotsUsed := s₂.slotsUsed }
    rw [State.setFrames_self ht]
  subst hg2
  refine ⟨q, U.calling g2 mk a, s₂, (({ U with heap := s₂.heap, slotsUsed := s₂.slotsUsed } : State).setVm s₂.vm), L, hh,
    ⟨X₁.admits, X₁.cas, X₁.clock, X₁.frames, X₁.room, X₁.hears, X₁.method, X₁.code, (X₁.here.setHeapUsed s₂.heap s₂.slotsUsed).setVm hW'.alike, X₁.tail, State.WarmedH.trans X₁.warmed hW', X₁.limits, X₁.bytes, X₁.same.trans (hsame.setVm s.vm)⟩,
    hL, rfl, rfl, hx, ?_⟩
  show Steps p.tables e below _ (((({ U with heap := s₂.heap, slotsUsed := s₂.slotsUsed } : State).setVm s₂.vm).setTop g2).pushFrame (.throwing q))
  rw [← hs₂]
  exact hstep₁ _ fun acts => by rw [doInvoke_state]; exact hsteps
theorem x_athrow {pc : Nat} {ls : Array Slot} (hexec : p.tables.exec = Jvm.exec) (hb : c.code = cc) {q : Addr} (hdg : decode cc pc = .ok (.athrow, 1)) (k : xW p l e R s m args below meth c H locs cells slots Q (F0 m pc ls rest) q) : W p l e R s m args below meth c H locs cells slots Q (F0 m pc ls (.ref q :: rest)) := by
  intro T hT X
  obtain ⟨t, st, hq⟩ := k T hT X
  refine ⟨t, ?_, hq⟩
  have hdg' : decode c.code pc = .ok (.athrow, 1) := by rw [hb]; exact hdg
  jvm_step X.here [X.here.top, hexec, hdg', athrow.wp_sem]
  exact st
end XR
/-- what is so when h' has come and q is thrown -/
def XPx (D : PD) (A : Nat → Prop) (cap : Nat × Nat) (h' : PH) (q0 : Nat) : Addr → State → State → Prop := fun q st t => q = q0 ∧ (PP D A h' t.heap ∧ capOk cap h' ∧ tot st.heap ≤ tot t.heap) ∧ va_F A st t
def XMet (l : Launch) (D : PD) (A : Nat → Prop) (cap : Nat × Nat) (y : MethodName) (cy : ByteArray) (ny : Nat) (rty : Option FieldType) (d : Nat) (av : List Value) (h h' : PH) (q : Nat) : Prop :=
  xMet l y (ws_ y cy ny rty) (rmC cap d h.1 h.2.1) (CPc D A cap h av) (XPx D A cap h' q) (cap.1 - h.1) (cap.2 - h.2.1) A
/-- a function that tells what a method without arguments does: returns, throws -/
def OkR (l : Launch) (D : PD) (A : Nat → Prop) (cap : Nat × Nat) (y : MethodName) (cy : ByteArray) (ny : Nat) (rty : Option FieldType) (d : Nat) (f : Nat → PH → Option ((Nat ⊕ Nat) × PH)) : Prop :=
  (∀ (a : Nat) (h : PH) (r : Nat) (h' : PH), f a h = some (.inl r, h') → CMet l D A cap y cy ny rty d [.ref a] h h' (some (.ref r))) ∧ (∀ (a : Nat) (h : PH) (q : Nat) (h' : PH), f a h = some (.inr q, h') → XMet l D A cap y cy ny rty d [.ref a] h h' q)
/-- a heap beyond all room -/
def pBad (cap : Nat × Nat) : PH := (cap.1 + 1, 0, fun _ => none)
def xQ (D : PD) (A : Nat → Prop) (cap : Nat × Nat) (h' : PH) (q0 : Nat) (below : List Frame) (s : State) (mc ms : Nat) : State → Prop := fun t =>
  ∃ o, t.status = .running ∧ Ended t below o ∧ ∃ q, o = .threw q ∧ XPx D A cap h' q0 q s t ∧ s.WarmedH t.vm ∧ ∃ L, s.sameButNew ({ t with vm := s.vm } : State) L mc ms ∧ ∀ z ∈ L, A z.base
def pXT (l : Launch) (D : PD) (A : Nat → Prop) (cap : Nat × Nat) (d : Nat) (cc : ByteArray) (nL : Nat) (own : String) (m : MethodId) (q : Nat) (h' : PH) (H0 : Heap) (cx sx : Heap → Nat) (Z : Heap → List Loc → Nat → Nat → JFrame → Prop) : Prop :=
  ∃ (p : Program) (e : Env) (s : State) (args : Array Value) (below : List Frame) (meth : Method) (c : Code) (Q : State → Prop), CallFix p m c cc nL s args lw_all own ∧ (CK D s ∧ CS D A s H0) ∧ s.heap = H0 ∧ (∀ q, H0.size ≤ q → A q) ∧ cx = (fun H => H.size - H0.size) ∧ sx = (fun H => tot H - tot H0) ∧
    (Z = fun H locs cells slots g => W p l e (rmC cap d H0.size (tot H0)) s m args below meth c H locs cells slots Q g) ∧
    (∀ (H : Heap) (locs : List Loc) (pc : Nat) (ls : Array Slot) (rest : List Value), PI D A cap H0 h' H locs → xW p l e (rmC cap d H0.size (tot H0)) s m args below meth c H locs (H.size - H0.size) (tot H - tot H0) Q (F0 m pc ls rest) q)
section PX11
variable {l : Launch} {D : PD} {A : Nat → Prop} {cap : Nat × Nat} {d : Nat} {cc : ByteArray} {nL : Nat} {own : String} {ini : Bool} {rt : Option FieldType} {m : MethodId} {rv : Option Value} {h' : PH} {H0 : Heap} {cx sx : Heap → Nat} {Z : Heap → List Loc → Nat → Nat → JFrame → Prop}
variable {lv : List (Nat × Value)} {h : PH} {H : Heap} {locs : List Loc} {pc : Nat} {ls : Array Slot} {rest : List Value} {a ci k : Nat} {C : String} {T : u_T} {N : Nat} {ty : Nat → FieldType}
variable {y : MethodName} {cy : ByteArray} {ny : Nat} {rty : Option FieldType} {d' n idx : Nat} {As st0 : List Value} {h1 : PH} {b q : Nat}
theorem xW_tight {p : Program} {e : Env} {R : Room} {s : State} {args : Array Value} {below : List Frame} {meth : Method} {c : Code} {cells slots k n : Nat} {Q : State → Prop} {g : JFrame} (h1 : H.size - s.heap.size ≤ k) (h2 : tot H - tot s.heap ≤ n) (kk : xW p l e R s m args below meth c H locs k n Q g q) : xW p l e R s m args below meth c H locs cells slots Q g q := by
  intro T hT X
  refine kk T hT { X with same := ?_ }
  obtain ⟨q1, q2, q3, q4, q5, q6⟩ := X.same
  have e0 := tot_new X.same
  have e1 : (T.setVm s.vm).heap = H := hT
  refine ⟨q1, q2, ?_, q4, ?_, q6⟩
  · rw [e1] at q2 ⊢
    omega
  · rw [e0, e1]
    exact h2
theorem p_athrow (XT : pXT l D A cap d cc nL own m q h' H0 cx sx Z) (hM : PI D A cap H0 h' H locs) (hdg : decode cc pc = .ok (.athrow, 1)) : Z H locs (cx H) (sx H) (F0 m pc ls (.ref q :: rest)) := by
  obtain ⟨p, e, s, args, below, meth, c, Q, ⟨hx, hb, hml, hown, hts⟩, -, rfl, -, rfl, rfl, rfl, hT⟩ := XT
  exact x_athrow hx hb hdg (hT H locs pc ls rest hM)
theorem p_xback {s t st₀ T' : State} {q q0 : Nat} {L : List Loc} (hM : PI D A cap s.heap h H locs) (e0 : st₀.heap = H) (e1 : T'.heap = t.heap) (hL : ∀ q ∈ L, A q.base) (hq : XPx D A cap h1 q0 q st₀ t) : q = q0 ∧ PI D A cap s.heap h1 T'.heap (locs ++ L) := by
  obtain ⟨hv, ⟨hP1, hcap1, hT1⟩, hF⟩ := hq
  exact ⟨hv, (p_back (rv1 := none) (v := none) (av := #[]) hM e0 e1 hL ⟨⟨rfl, hP1, hcap1, hT1⟩, hF⟩).2⟩
theorem p_callT (XT : pXT l D A cap d cc nL own m q h' H0 cx sx Z) (hM : PI D A cap H0 h H locs) (hl : lv_has ls nL lv) (hc : cT[ci]? = some (y.cls, T, N)) (hb : pCls h b = some ci) (hy : pcY y cy ny rty n) (hlink : Cond.methodLink own idx y ∈ lw_all) (hin : Cond.instanceMethod y ∈ lw_all) (hsel : Cond.selects y.cls y y ∈ lw_all) (hC : XMet l D A cap y cy ny rty d' (.ref b :: As) h h' q) (hn : As.length = n) (hd : d' < d) (hrm : (rest.map fun v => v.category).sum ≤ 8) (hst : st0 = As.reverse ++ .ref b :: rest) (hdg : decode cc pc = .ok (.invokevirtual idx, 3)) :
    Z H locs (cx H) (sx H) (F0 m pc ls st0) := by
  obtain ⟨p, e, s, args, below, meth, c, Q, hcx, ⟨hK, hZ⟩, rfl, hA, rfl, rfl, rfl, hT⟩ := XT
  have hcx2 := hcx
  obtain ⟨hx, hb2, hml, hown, hts⟩ := hcx2
  obtain ⟨bv, fs, he⟩ := pCls_open hb
  have hR := p_room hM hd hy.2.2.2
  intro T hTh X
  obtain ⟨q1, st₀, t, T', L, e0, X', hL, e1, e2, hq, st⟩ := x_run (As := As) (rest := rest) hcx hC (cwV n hts (lw_V hlink hin hsel hy.2.1 hy.1) rfl rfl rfl ⟨rfl, hy.2.2.1⟩ hR.1) ⟨CPc.blind, va_recv (q0 := 0) hK.va (hM.1.at he) hc rfl, fun U hU hW => p_pre hK hZ hA hM hU hW⟩ (g := F0 m pc ls st0) rfl hn hl.1 hst (lv_room hrm) hdg hR.2 T hTh X
  obtain ⟨rfl, hI⟩ := p_xback hM e0 e1 hL hq
  obtain ⟨t2, a1, b1⟩ := xW_tight (Nat.le_refl _) (Nat.le_refl _) (hT T'.heap (locs ++ L) pc ls rest hI) T' rfl X'
  exact ⟨t2, st.trans a1, b1⟩
theorem p_headT {av : List Value} (hy : plainFor y = true) (hyc : y.cls = own) (hyi : ini = true → y.name = "<init>") (hsl : (lg_sl av).length ≤ nL)
    (body : ∀ (m : MethodId) (Z : Heap → List Loc → Nat → Nat → JFrame → Prop) (cx sx : Heap → Nat) (H0 : Heap) (ls : Array Slot), pX l D A cap d cc nL own ini rt m none (pBad cap) H0 cx sx Z → pXT l D A cap d cc nL own m q h' H0 cx sx Z → PI D A cap H0 h H0 [] → lv_has ls nL (lv_args 0 av) → Z H0 [] (cx H0) (sx H0) (F0 m 0 ls [])) : XMet l D A cap y cc nL rt d av h h' q := by
  unfold XMet xMet
  refine MetFree.of_bodySF (code := cc) (maxLocals := nL) (ret := rt) hy ?_ ?_
  · intro args s m h hn
    obtain ⟨meth, c, h1, h2, h3, h4, h5, h6, -, -⟩ := Cond.code_spec hn (atoms_spec (ws := ws_ y cc nL rt) h _ List.mem_cons_self)
    exact ⟨meth, c, h1, h2, h3, h4, h5, h6⟩
  · intro p e s m args below meth c s₁ B hml hv _
    have hh0 : s₁.heap = s.heap := by rw [B.state]; rfl
    have htb : ∀ x ∈ c.exceptionTable.toList, False := by
      obtain ⟨meth9, c9, h1, h2, -, -, -, -, h7, -⟩ := Cond.code_spec B.named (atoms_spec (ws := ws_ y cc nL rt) B.pre _ List.mem_cons_self)
      cases Option.some.inj (h1.symm.trans B.method)
      cases Option.some.inj (h2.symm.trans (Stand.of_body B).code)
      intro x hx
      rw [Array.isEmpty_iff.mp h7] at hx
      cases hx
    obtain ⟨rfl, hP, hcap, hK, hZ, hA⟩ := hv
    have hts := atoms_spec (ws := ws_ y cc nL rt) B.pre
    have hts : ∀ w ∈ lw_all, w.before _ s = true := fun w h => hts w (List.mem_cons_of_mem _ h)
    have hown : s.vm.findClass own = some m.cls := by rw [← hyc]; exact findClass_of_methodNamed B.named
    have hin : meth.name = y.name := (name_of_methodNamed B.named B.method).1
    have hl := lv_entry av hsl
    have hSt := Stand.of_body B
    rw [lg_entry_eq]
    generalize (lg_sl av ++ List.replicate (nL - (lg_sl av).length) Slot.unset).toArray = ls at hl ⊢
    have hrm : (headSpec (ws_ y cc nL rt) (rmC cap d h.1 h.2.1)).room = rmC cap d s.heap.size (tot s.heap) := by rw [hP.1, hP.2.1]; rfl
    rw [hrm] at hSt
    have hQ1 : ∀ (H : Heap) (locs : List Loc) (k n : Nat) (g : JFrame), W p l e (rmC cap d s.heap.size (tot s.heap)) s m av.toArray below meth c H locs k n (MQ below (CQc D A cap (pBad cap) none) av.toArray s (cap.1 - s.heap.size) (cap.2 - tot s.heap) A) g → W p l e (rmC cap d s.heap.size (tot s.heap)) s m av.toArray below meth c H locs k n (xQ D A cap h' q below s (cap.1 - s.heap.size) (cap.2 - tot s.heap)) g := by
      intro H locs k n g hw T hT X
      obtain ⟨t, a1, o, b1, b2, b3, b4⟩ := hw T hT X
      have := b3.1.2.2.1.1
      exact absurd this (by show ¬ cap.1 + 1 ≤ cap.1; omega)
    have hQ2 : ∀ (H : Heap) (locs : List Loc) (pc : Nat) (ls : Array Slot) (rest : List Value), PI D A cap s.heap h' H locs → xW p l e (rmC cap d s.heap.size (tot s.heap)) s m av.toArray below meth c H locs (H.size - s.heap.size) (tot H - tot s.heap) (xQ D A cap h' q below s (cap.1 - s.heap.size) (cap.2 - tot s.heap)) (F0 m pc ls rest) q := by
      intro H locs pc ls rest hI T hT X
      obtain ⟨hP1, hcap1, hS1, hT1⟩ := hI
      obtain ⟨st1, hrun, hend, hW, hsm⟩ := X.leaveThrown q (g := F0 m pc ls rest) rfl rfl rfl (fun x hx => (htb x hx).elim) B.notSynchronized
      have e1 := hP1.1
      have e2 := hP1.2.1
      have c1 := hcap1.1
      have c2 := hcap1.2
      refine ⟨_, st1, .threw q, hrun, hend, q, rfl, ⟨rfl, ⟨?_, hcap1, ?_⟩, ?_⟩, hW, locs, hsm.mono (by omega) (by omega), hS1.2.2⟩
      · show PP D A h' T.heap
        rw [hT]
        exact hP1
      · show tot s.heap ≤ tot T.heap
        rw [hT]
        exact hT1
      · refine ⟨?_, fun a ha hna => ?_⟩
        · show s.heap.size ≤ T.heap.size
          rw [hT]
          exact hS1.1
        · show T.heap[a]? = s.heap[a]?
          rw [hT]
          exact hS1.2.1 a ha hna
    have key := body m (fun H locs cells slots g => W p l e (rmC cap d s.heap.size (tot s.heap)) s m av.toArray below meth c H locs cells slots (xQ D A cap h' q below s (cap.1 - s.heap.size) (cap.2 - tot s.heap)) g) (fun H => H.size - s.heap.size) (fun H => tot H - tot s.heap) s.heap ls ⟨p, e, s, av.toArray, below, meth, c, _, ⟨B.exec, B.bytes, hml, hown, hts⟩, B.returns, B.notSynchronized, ⟨hK, hZ⟩, rfl, hA, fun q => hin.trans (hyi q), rfl, rfl, rfl, hQ1⟩ ⟨p, e, s, av.toArray, below, meth, c, _, ⟨B.exec, B.bytes, hml, hown, hts⟩, ⟨hK, hZ⟩, rfl, hA, rfl, rfl, rfl, hQ2⟩ ⟨hP, hcap, va_S.rf, Nat.le_refl _⟩ hl
    obtain ⟨t, a1, o, b1, b2, b3⟩ := W_tight (Nat.le_refl _) (Nat.le_refl _) key s₁ hh0 hSt
    rw [hP.1, hP.2.1] at b3
    exact ⟨t, o, a1, b1, b2, b3⟩
end PX11
