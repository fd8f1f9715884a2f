/-! PART 13: the walk over pure heaps: rows -/
set_option maxRecDepth 100000
def kTy : Nat → FieldType
  | 0 => .int
  | 1 => .long
  | 2 => .byte
  | 3 => .char
  | 4 => .object "java/lang/Object"
  | 5 => .object "PupilsPupil$State"
  | 6 => .array .int
  | _ => .object "java/lang/String"
def stT : List (String × String × String) := [("PupilsPupil", "OWN", "[Ljava/lang/String;"), ("PupilsPupil", "ASKED", "[Ljava/lang/String;"), ("PupilsPupil", "LOOKED", "[Ljava/lang/String;"), ("PupilsPupil", "TOLD_OF", "[Ljava/lang/String;"), ("java/lang/String", "COMPACT_STRINGS", "Z"), ("java/util/ArrayList", "EMPTY_ELEMENTDATA", "[Ljava/lang/Object;"), ("java/util/ArrayList", "DEFAULTCAPACITY_EMPTY_ELEMENTDATA", "[Ljava/lang/Object;"), ("jdk/internal/util/Preconditions", "SIOOBE_FORMATTER", "Ljava/util/function/BiFunction;"), ("java/lang/Throwable", "UNASSIGNED_STACK", "[Ljava/lang/StackTraceElement;"), ("java/lang/Throwable", "SUPPRESSED_SENTINEL", "Ljava/util/List;")]
/-- the texts that the Reader's code names: pool entry, text -/
def skT : List (Nat × String) := [(146, "fact"), (148, "person"), (150, "knows"), (152, "errs"), (154, "taught"), (163, "worth"), (175, "calm"), (198, "by"), (210, "takes"), (212, "garble"), (214, "sits"), (216, "pass"), (218, "tries"), (220, "ill"), (312, "not"), (319, "all"), (287, "min"), (289, "max"), (310, "and"), (302, "or")]
def nwK : Cond → Bool
  | .fieldLinkNest .. => true
  | .methodLinkNest .. => true
  | .castable .. => true
  | .declares .. => true
  | _ => false
/-- the words that do not ride in lw_all -/
def CN (U : State) : Prop := ∀ w ∈ lw_tbl, nwK w = true → va_Nw w U
theorem CN.same {u U : State} (h : u.vm = U.vm) (hC : CN u) : CN U := by
  intro w hw hk
  have h1 := hC w hw hk
  cases w <;> first | exact va_Nw.same rfl h h1 | (exfalso; cases hk)
theorem CN.warm {u U : State} (hW : u.WarmedH U.vm) (hC : CN u) : CN U := by
  intro w hw hk
  have h1 := hC w hw hk
  cases w <;> first | exact va_Nw.warmF hW h1 | exact va_Nw.warmM hW h1 | exact va_Nw.warmC hW h1 | exact va_Nw.warmD hW h1 | (exfalso; cases hk)
def yL_size : MethodName := ⟨"java/util/List", "size", "()I"⟩
def yL_get : MethodName := ⟨"java/util/List", "get", "(I)Ljava/lang/Object;"⟩
def yL_add : MethodName := ⟨"java/util/List", "add", "(Ljava/lang/Object;)Z"⟩
/-- the class of int[][]: over that of int[] -/
def cI2 (D : PD) (U : State) : Prop := ∃ kA : Class, U.vm.classes[dA D 6]? = some kA ∧ kA.kind = .array (dA D 0) (.array .int)
theorem cI2.moved {D : PD} {u U : State} (hvm : u.vm.Alike U.vm) (h : cI2 D u) : cI2 D U := by
  obtain ⟨kA, h1, h2⟩ := h
  obtain ⟨k', hk', he⟩ := hvm.2.2 _ _ h1
  exact ⟨k', hk', by rw [he]; exact h2⟩
def CK1 (D : PD) (U : State) : Prop := (∀ (c : Nat) (q : vw_C), cT[c]? = some q → u_Kn U q.1 q.2.1 q.2.2 (D.1 c) (D.2.1 c)) ∧ (∀ k, k < 8 → ArrOfT U (dA D k) (kTy k) ∧ va_RA U (dA D k) (kTy k)) ∧
  (va_Fw RJ2 yL_size yJ2_size U ∧ va_Fw RJ2 yL_get yJ2_get U ∧ va_Fw RJ2 yL_add yJ2_add U) ∧ (va_AO "java/lang/Object" U ∧ va_AO "PupilsPupil$State" U) ∧ cI2 D U
theorem CK1.moved {D : PD} {u U : State} (hvm : u.vm.Alike U.vm) (h : CK1 D u) : CK1 D U :=
  ⟨fun c q hq => u_Kn_moved hvm (h.1 c q hq), fun k hk => ⟨arrOfT_moved hvm (h.2.1 k hk).1, (h.2.1 k hk).2.moved hvm⟩, ⟨h.2.2.1.1.moved ⟨by decide +kernel, by decide +kernel⟩ hvm, h.2.2.1.2.1.moved ⟨by decide +kernel, by decide +kernel⟩ hvm, h.2.2.1.2.2.moved ⟨by decide +kernel, by decide +kernel⟩ hvm⟩, ⟨h.2.2.2.1.1.moved hvm, h.2.2.2.1.2.moved hvm⟩, h.2.2.2.2.moved hvm⟩
def CR (D : PD) (U : State) : Prop := ∀ (i : Nat) (q : Nat × String), skT[i]? = some q → vk_R RX2 q.1 q.2 (dK D i) U
def va_AI (U : State) : Prop := (Cond.arrayOver (.array .int)).before #[] U = true
def CK (D : PD) (U : State) : Prop := CK1 D U ∧ CN U ∧ CR D U ∧ va_Mi "[Ljava/lang/Object;" (dK D 40) U ∧ (va_Nw (.selects RJ15 yJ14_ensureCapacityInternal yJ14_ensureCapacityInternal) U ∧ va_Nw (.selects RJ15 yJ14_newCapacity yJ14_newCapacity) U ∧ va_AI U)
theorem CK.warm {D : PD} {u U : State} (hW : u.WarmedH U.vm) (h : CK D u) : CK D U := ⟨h.1.moved hW.alike, h.2.1.warm hW, fun i q hq => (h.2.2.1 i q hq).warm hW, h.2.2.2.1.moved hW.alike, word_at hW (Or.inl rfl) h.2.2.2.2.1, word_at hW (Or.inl rfl) h.2.2.2.2.2.1, over_moved hW.alike h.2.2.2.2.2.2⟩
theorem CK.same {D : PD} {u U : State} (hv : U.vm = u.vm) (h : CK D u) : CK D U := ⟨h.1.moved (by rw [hv]; exact Vm.Alike.refl _), h.2.1.same hv.symm, fun i q hq => (h.2.2.1 i q hq).same hv, h.2.2.2.1.moved (by rw [hv]; exact Vm.Alike.refl _), va_Nw.same rfl hv.symm h.2.2.2.2.1, va_Nw.same rfl hv.symm h.2.2.2.2.2.1, over_moved (by rw [hv]; exact Vm.Alike.refl _) h.2.2.2.2.2.2⟩
/-- the statics -/
def CS (D : PD) (A : Nat → Prop) (U : State) (H : Heap) : Prop := ∀ (i : Nat) (q : String × String × String), stT[i]? = some q → va_Z q.1 q.2.1 q.2.2 (dS D i) A U H
theorem CS.moved {D : PD} {A : Nat → Prop} {u U : State} {H : Heap} (hvm : u.vm.Alike U.vm) (h : CS D A u H) : CS D A U H := fun i q hq => (h i q hq).moved hvm
theorem CS.kept {D : PD} {A : Nat → Prop} {U : State} {H H1 : Heap} (h : CS D A U H) (hq : ∀ a : Nat, a < H.size → ¬ A a → H1[a]? = H[a]?) : CS D A U H1 := fun i q hi => (h i q hi).kept hq
theorem CK.va {D : PD} {s : State} (h : CK D s) : va_K (pG D) cT [] s := ⟨h.1.1, fun k q hk => by simp at hk⟩
theorem CK.vt {D : PD} {s : State} (h : CK D s) {k : Nat} (hk : k < 8) : va_K (pG D) cT [(dA D k, kTy k)] s := ⟨h.1.1, fun j q hj => by
  have hz : j < 1 := (List.getElem?_eq_some_iff.mp hj).1
  rw [show j = 0 by omega] at hj
  cases hj
  exact h.1.2.1 k hk⟩
/-- the contract's start and end -/
def CPc (D : PD) (A : Nat → Prop) (cap : Nat × Nat) (h : PH) (av : List Value) : Array Value → State → Prop := va_Pc av (fun U => PP D A h U.heap ∧ capOk cap h ∧ CK D U ∧ CS D A U U.heap ∧ ∀ q, U.heap.size ≤ q → A q)
def CQc (D : PD) (A : Nat → Prop) (cap : Nat × Nat) (h' : PH) (rv : Option Value) : Array Value → State → Outcome → State → Prop := fun _ st oc t => (oc = .returned rv ∧ PP D A h' t.heap ∧ capOk cap h' ∧ tot st.heap ≤ tot t.heap) ∧ va_F A st t
def CMet (l : Launch) (D : PD) (A : Nat → Prop) (cap : Nat × Nat) (y : MethodName) (cy : ByteArray) (ny : Nat) (rty : Option FieldType) (d : Nat) (av : List Value) (h h' : PH) (rv : Option Value) : Prop :=
  Met l y (ws_ y cy ny rty) (rmC cap d h.1 h.2.1) (CPc D A cap h av) (CQc D A cap h' rv) (cap.1 - h.1) (cap.2 - h.2.1) A
theorem CPc.blind {D : PD} {A : Nat → Prop} {cap : Nat × Nat} {h : PH} {av : List Value} : FrameBlind (CPc D A cap h av) := fun a U g mk q => ⟨q.1, q.2.1, q.2.2.1, CK.same (u := U) (U := U.calling g mk a) rfl q.2.2.2.1, CS.moved (u := U) (U := U.calling g mk a) (Vm.Alike.refl U.vm) q.2.2.2.2.1, q.2.2.2.2.2⟩
def pX (l : Launch) (D : PD) (A : Nat → Prop) (cap : Nat × Nat) (d : Nat) (cc : ByteArray) (nL : Nat) (own : String) (ini : Bool) (rt : Option FieldType) (m : MethodId) (rv : Option Value) (h' : PH) (H0 : Heap) (cx sx : Heap → Nat) (Z : Heap → List Loc → Nat → Nat → JFrame → Prop) : Prop :=
  ∃ (p : Program) (e : Env) (s : State) (args : Array Value) (below : List Frame) (meth : Method) (c : Code) (Q : State → Prop), CallFix p m c cc nL s args lw_all own ∧ meth.sig.returnType = rt ∧ meth.locks = false ∧ (CK D s ∧ CS D A s H0) ∧ s.heap = H0 ∧ (∀ q, H0.size ≤ q → A q) ∧ (ini = true → meth.name = "<init>") ∧ cx = (fun H => H.size - H0.size) ∧ sx = (fun H => tot H - tot H0) ∧
    (Z = fun H locs cells slots g => W p l e (rmC cap d H0.size (tot H0)) s m args below meth c H locs cells slots Q g) ∧
    (∀ (H : Heap) (locs : List Loc) (k n : Nat) (g : JFrame), W p l e (rmC cap d H0.size (tot H0)) s m args below meth c H locs k n (MQ below (CQc D A cap h' rv) args s (cap.1 - H0.size) (cap.2 - tot H0) A) g → W p l e (rmC cap d H0.size (tot H0)) s m args below meth c H locs k n Q g)
/-- what is known of a class by its number -/
def pC (ci : Nat) (C : String) (T : u_T) (N : Nat) (ty : Nat → FieldType) : Prop := cT[ci]? = some (C, T, N) ∧ (∀ w ∈ u_ws C T N, w ∈ lw_all) ∧ (∀ k, k < N → parseFieldDescriptor (T k).2.2.1 = some (ty k)) ∧ (∀ a, a < N → ∀ b, b < N → a ≠ b → (T a).2.1 ≠ (T b).2.1)
section PX
variable {l : Launch} {D : PD} {A : Nat → Prop} {cap : Nat × Nat} {d : Nat} {cc : ByteArray} {nL : Nat} {own : String} {ini : Bool} {rt : Option FieldType} {m : MethodId} {rv : Option Value} {h' : PH} {H0 : Heap} {cx sx : Heap → Nat} {Z : Heap → List Loc → Nat → Nat → JFrame → Prop}
variable {h : PH} {H : Heap} {locs : List Loc} {pc : Nat} {ls : Array Slot} {rest : List Value} {a ci k : Nat} {C : String} {T : u_T} {N : Nat} {ty : Nat → FieldType}
theorem pX.g (X : pX l D A cap d cc nL own ini rt m rv h' H0 cx sx Z) : gX l (rmC cap d H0.size (tot H0)) cc nL own m Z := by
  obtain ⟨p, e, s, args, below, meth, c, Q, hC, -, -, -, -, -, -, -, -, hZ, -⟩ := X
  exact ⟨p, e, s, args, below, meth, c, Q, hC, hZ⟩
theorem p_get (X : pX l D A cap d cc nL own ini rt m rv h' H0 cx sx Z) (hM : PI D A cap H0 h H locs) (hc : pC ci C T N ty) (hk : k < N) {idx : Nat} {ref : String} (hq : Cond.fieldLink own idx ref (T k).2.1 (T k).2.2.1 ∈ lw_all) (href : (T k).1 = ref) {v : Value} (hv : pF h a ci k = some v) (hdg : decode cc pc = .ok (.getfield idx, 3))
    (kk : Z H locs (cx H) (sx H) (F0 m (pc + 3) ls (v :: rest))) : Z H locs (cx H) (sx H) (F0 m pc ls (.ref a :: rest)) := by
  obtain ⟨p, e, s, args, below, meth, c, Q, ⟨hx, hb, hml, hown, hts⟩, -, -, ⟨hK, -⟩, -, -, -, -, -, rfl, -⟩ := X
  obtain ⟨b, fs, he, hf⟩ := pF_open hv
  exact va_get hx hb hts hc.2.1 hown hK.va (hM.1.at he) 0 rfl hc.1 k hk (hts _ hq) (fun x hx => by rw [← href]; exact hx) hf hdg kk
theorem p_getN (X : pX l D A cap d cc nL own ini rt m rv h' H0 cx sx Z) (hM : PI D A cap H0 h H locs) (hc : pC ci C T N ty) (hk : k < N) {idx : Nat} {ref host : String} (hq : Cond.fieldLinkNest own idx ref (T k).2.1 (T k).2.2.1 host ∈ lw_tbl) (href : (T k).1 = ref) {v : Value} (hv : pF h a ci k = some v) (hdg : decode cc pc = .ok (.getfield idx, 3))
    (kk : Z H locs (cx H) (sx H) (F0 m (pc + 3) ls (v :: rest))) : Z H locs (cx H) (sx H) (F0 m pc ls (.ref a :: rest)) := by
  obtain ⟨p, e, s, args, below, meth, c, Q, ⟨hx, hb, hml, hown, hts⟩, -, -, ⟨hK, -⟩, -, -, -, -, -, rfl, -⟩ := X
  obtain ⟨b, fs, he, hf⟩ := pF_open hv
  exact va_getN hx hb hts hc.2.1 hown hK.va (hM.1.at he) 0 rfl hc.1 k hk (va_Nw.use rfl (hK.2.1 _ hq rfl)) (fun x hx => by rw [← href]; exact hx) hf hdg kk
theorem p_wrote {s : State} {args : Array Value} (hK : CK D s) (hts : ∀ w ∈ lw_all, w.before args s = true) (hM : PI D A cap H0 h H locs) (hc : pC ci C T N ty) (hk : k < N) {v : Value} {h1 : PH} (hv : pPut h a ci k v = some h1) {cell : Cell} {H' : Heap} {j : Nat} (q1 : H[a]? = some cell) (q2 : cell.cls = D.1 ci) (q3 : cell.vm = .none) (q4 : ∀ j, j < N → cell.slots[D.2.1 ci j]? = some (vp_V (((h.2.2 a).bind fun x => match x.2 with | .inr o => some o.2 | _ => none).getD []) j)) (e1 : H'[a]? = some (cell.setSlot (D.2.1 ci k) v)) (e2 : H'.size = H.size) (e3 : ∀ q : Nat, q ≠ a → H'[q]? = H[q]?) : PI D A cap H0 h1 H' (locs ++ [⟨a, j⟩]) := by
  obtain ⟨fs, he, hl, rfl⟩ := pPut_open hv
  have hap := va_apart (own := "") hts hc.2.1 ty hc.2.2.1 hc.2.2.2 hK.va hc.1
  rw [he] at q4
  have q4 : ∀ j, j < N → cell.slots[D.2.1 ci j]? = some (vp_V fs j) := q4
  obtain ⟨hP, hcap, hS, hT⟩ := hM
  have hA := (hP.2.2 a true _ he).2 rfl
  refine ⟨PP.put hP he e2 q1 e1 (by simp [Cell.setSlot]) e3 ?_, hcap, hS.put e2 e3 hA, by rw [tot_set e2 q1 e1 (by simp [Cell.setSlot]) e3]; exact hT⟩
  exact ⟨_, hc.1, t_OB.to (V := updV (vp_V fs) k v) ⟨_, e1, q2, q3, t_set q4 hap hk v⟩ (fun j _ => vp_updV_set hl v j)⟩
theorem p_put (X : pX l D A cap d cc nL own ini rt m rv h' H0 cx sx Z) (hM : PI D A cap H0 h H locs) (hc : pC ci C T N ty) (hk : k < N) {idx : Nat} {ref : String} (hq : Cond.fieldLink own idx ref (T k).2.1 (T k).2.2.1 ∈ lw_all) (href : (T k).1 = ref) (hfin : (T k).2.2.2 = false) {v : Value} (hn : narrow (ty k) v = v) (hfit : fits (ty k) v = true) {h1 : PH} (hv : pPut h a ci k v = some h1) (hdg : decode cc pc = .ok (.putfield idx, 3))
    (kk : ∀ (H : Heap) (locs : List Loc), PI D A cap H0 h1 H locs → Z H locs (cx H) (sx H) (F0 m (pc + 3) ls rest)) : Z H locs (cx H) (sx H) (F0 m pc ls (v :: .ref a :: rest)) := by
  obtain ⟨p, e, s, args, below, meth, c, Q, ⟨hx, hb, hml, hown, hts⟩, -, -, ⟨hK, -⟩, rfl, -, -, rfl, rfl, rfl, -⟩ := X
  obtain ⟨fs, he, hl, -⟩ := pPut_open hv
  obtain ⟨r, h1', cell, q1, q2, q3, q4⟩ := (hM.1.2.2 a _ _ he).1
  have hr : r = (C, T, N) := Option.some.inj (h1'.symm.trans hc.1)
  subst hr
  obtain ⟨hS, hfc, kC, hkC, hkind⟩ := hK.1.1 ci _ hc.1
  obtain ⟨cf, kf, fi, f, hi, hsl⟩ := hS k hk
  have hlay := hts _ (hc.2.1 _ (u_in_lay hk))
  unfold u_lay at hlay
  rw [if_neg (by rw [hfin]; decide)] at hlay
  have hst := (u_facts hfc hkC (u_lays hts hc.2.1 hk) hi).1
  have h6 := u_store hfc hkC hkind hlay hi (hc.2.2.1 k hk) hn hfit
  refine W.putK hx hb (f := f) ⟨hown, hts _ hq, ⟨_, _, _, by rw [← href]; exact hi⟩, hst⟩ (by rw [q2]; exact h6) q1 q3 (by rw [hsl]; exact k2_hasslot (q4 k hk)) rfl rfl hdg fun H' e1 e2 e3 => ?_
  rw [hsl] at e1 ⊢
  have hI := p_wrote (j := D.2.1 ci k) hK hts hM hc hk hv q1 q2 q3 (by rw [he]; exact q4) e1 e2 e3
  exact W_tight (Nat.le_refl _) (Nat.le_refl _) (kk H' _ hI)
theorem p_putN (X : pX l D A cap d cc nL own ini rt m rv h' H0 cx sx Z) (hM : PI D A cap H0 h H locs) (hc : pC ci C T N ty) (hk : k < N) {idx : Nat} {ref host : String} (hq : Cond.fieldLinkNest own idx ref (T k).2.1 (T k).2.2.1 host ∈ lw_tbl) (href : (T k).1 = ref) (hfin : (T k).2.2.2 = false) {v : Value} (hn : narrow (ty k) v = v) (hfit : fits (ty k) v = true) {h1 : PH} (hv : pPut h a ci k v = some h1) (hdg : decode cc pc = .ok (.putfield idx, 3))
    (kk : ∀ (H : Heap) (locs : List Loc), PI D A cap H0 h1 H locs → Z H locs (cx H) (sx H) (F0 m (pc + 3) ls rest)) : Z H locs (cx H) (sx H) (F0 m pc ls (v :: .ref a :: rest)) := by
  obtain ⟨p, e, s, args, below, meth, c, Q, ⟨hx, hb, hml, hown, hts⟩, -, -, ⟨hK, -⟩, rfl, -, -, rfl, rfl, rfl, -⟩ := X
  obtain ⟨fs, he, hl, -⟩ := pPut_open hv
  obtain ⟨r, h1', cell, q1, q2, q3, q4⟩ := (hM.1.2.2 a _ _ he).1
  have hr : r = (C, T, N) := Option.some.inj (h1'.symm.trans hc.1)
  subst hr
  obtain ⟨hS, hfc, kC, hkC, hkind⟩ := hK.1.1 ci _ hc.1
  obtain ⟨cf, kf, fi, f, hi, hsl⟩ := hS k hk
  have hlay := hts _ (hc.2.1 _ (u_in_lay hk))
  unfold u_lay at hlay
  rw [if_neg (by rw [hfin]; decide)] at hlay
  have hst := (u_facts hfc hkC (u_lays hts hc.2.1 hk) hi).1
  have h6 := u_store hfc hkC hkind hlay hi (hc.2.2.1 k hk) hn hfit
  refine va_WputK hx hb (f := f) hown (va_Nw.use rfl (hK.2.1 _ hq rfl)) (by rw [← href]; exact hi) hst (by rw [q2]; exact h6) q1 q3 (by rw [hsl]; exact k2_hasslot (q4 k hk)) rfl rfl hdg fun H' e1 e2 e3 => ?_
  rw [hsl] at e1 ⊢
  have hI := p_wrote (j := D.2.1 ci k) hK hts hM hc hk hv q1 q2 q3 (by rw [he]; exact q4) e1 e2 e3
  exact W_tight (Nat.le_refl _) (Nat.le_refl _) (kk H' _ hI)
theorem p_putF (X : pX l D A cap d cc nL own true rt m rv h' H0 cx sx Z) (hM : PI D A cap H0 h H locs) (hc : pC ci C T N ty) (hk : k < N) {idx : Nat} {ref : String} (hq : Cond.fieldLink own idx ref (T k).2.1 (T k).2.2.1 ∈ lw_all) (href : (T k).1 = ref) (hfin : (T k).2.2.2 = true) (hdecl : (T k).1 = own) {v : Value} (hn : narrow (ty k) v = v) (hfit : fits (ty k) v = true) {h1 : PH} (hv : pPut h a ci k v = some h1) (hdg : decode cc pc = .ok (.putfield idx, 3))
    (kk : ∀ (H : Heap) (locs : List Loc), PI D A cap H0 h1 H locs → Z H locs (cx H) (sx H) (F0 m (pc + 3) ls rest)) : Z H locs (cx H) (sx H) (F0 m pc ls (v :: .ref a :: rest)) := by
  obtain ⟨p, e, s, args, below, meth, c, Q, ⟨hx, hb, hml, hown, hts⟩, -, -, ⟨hK, -⟩, rfl, -, hin2, rfl, rfl, rfl, -⟩ := X
  obtain ⟨fs, he, hl, -⟩ := pPut_open hv
  obtain ⟨r, h1', cell, q1, q2, q3, q4⟩ := (hM.1.2.2 a _ _ he).1
  have hr : r = (C, T, N) := Option.some.inj (h1'.symm.trans hc.1)
  subst hr
  obtain ⟨hS, hfc, kC, hkC, hkind⟩ := hK.1.1 ci _ hc.1
  obtain ⟨cf, kf, fi, f, hi, hsl⟩ := hS k hk
  have hlay := hts _ (hc.2.1 _ (u_in_lay hk))
  unfold u_lay at hlay
  rw [if_pos hfin] at hlay
  have hst := (u_facts hfc hkC (u_lays hts hc.2.1 hk) hi).1
  have hcf : m.cls = cf := by
    obtain ⟨_, _, c', _, _, _, -, -, hf', -, -, -, hown2, -⟩ := Cond.laysFinal_spec hlay
    have e1 : c' = cf := by have := hi.symm.trans hf'; simp at this; exact this.1.symm
    rw [hdecl] at hown2
    rw [← e1]; exact Option.some.inj (hown.symm.trans hown2)
  have h6 := u_fits hfc hkC hkind (Or.inr hlay) hi (hc.2.2.1 k hk) hn hfit
  refine W.putFinK hx hb hown (hts _ hq) (by rw [← href]; exact hi) hst hcf (hin2 rfl) (by rw [q2]; exact h6) q1 q3 (by rw [hsl]; exact k2_hasslot (q4 k hk)) rfl rfl hdg fun H' e1 e2 e3 => ?_
  rw [hsl] at e1 ⊢
  have hI := p_wrote (j := D.2.1 ci k) hK hts hM hc hk hv q1 q2 q3 (by rw [he]; exact q4) e1 e2 e3
  exact W_tight (Nat.le_refl _) (Nat.le_refl _) (kk H' _ hI)
theorem p_iald (X : pX l D A cap d cc nL own ini rt m rv h' H0 cx sx Z) (hM : PI D A cap H0 h H locs) {i v : Int32} (hv : pLd h a 0 i = some v) (hdg : decode cc pc = .ok (.iaload, 1))
    (kk : Z H locs (cx H) (sx H) (F0 m (pc + 1) ls (.int v :: rest))) : Z H locs (cx H) (sx H) (F0 m pc ls (.int i :: .ref a :: rest)) := by
  obtain ⟨p, e, s, args, below, meth, c, Q, ⟨hx, hb, hml, hown, hts⟩, -, -, ⟨hK, -⟩, -, -, -, -, -, rfl, -⟩ := X
  obtain ⟨b, n, f, he, hin, rfl⟩ := pLd_open hv
  exact va_iald hx hb (hK.vt (k := 0) (by decide)) (hM.1.at he) 0 0 rfl rfl (inb_in hin) hdg kk
theorem p_bald (X : pX l D A cap d cc nL own ini rt m rv h' H0 cx sx Z) (hM : PI D A cap H0 h H locs) {i v : Int32} (hv : pLd h a 2 i = some v) (hdg : decode cc pc = .ok (.baload, 1))
    (kk : Z H locs (cx H) (sx H) (F0 m (pc + 1) ls (.int v :: rest))) : Z H locs (cx H) (sx H) (F0 m pc ls (.int i :: .ref a :: rest)) := by
  obtain ⟨p, e, s, args, below, meth, c, Q, ⟨hx, hb, hml, hown, hts⟩, -, -, ⟨hK, -⟩, -, -, -, -, -, rfl, -⟩ := X
  obtain ⟨b, n, f, he, hin, rfl⟩ := pLd_open hv
  exact va_bald hx hb (hK.vt (k := 2) (by decide)) (hM.1.at he) 0 0 rfl rfl (inb_in hin) hdg kk
theorem p_cald (X : pX l D A cap d cc nL own ini rt m rv h' H0 cx sx Z) (hM : PI D A cap H0 h H locs) {i v : Int32} (hv : pLd h a 3 i = some v) (hdg : decode cc pc = .ok (.caload, 1))
    (kk : Z H locs (cx H) (sx H) (F0 m (pc + 1) ls (.int v :: rest))) : Z H locs (cx H) (sx H) (F0 m pc ls (.int i :: .ref a :: rest)) := by
  obtain ⟨p, e, s, args, below, meth, c, Q, ⟨hx, hb, hml, hown, hts⟩, -, -, ⟨hK, -⟩, -, -, -, -, -, rfl, -⟩ := X
  obtain ⟨b, n, f, he, hin, rfl⟩ := pLd_open hv
  exact va_cald hx hb (hK.vt (k := 3) (by decide)) (hM.1.at he) 0 0 rfl rfl (inb_in hin) hdg kk
theorem p_lald (X : pX l D A cap d cc nL own ini rt m rv h' H0 cx sx Z) (hM : PI D A cap H0 h H locs) {i : Int32} {v : Int64} (hv : pLdJ h a 1 i = some v) (hdg : decode cc pc = .ok (.laload, 1))
    (kk : Z H locs (cx H) (sx H) (F0 m (pc + 1) ls (.long v :: rest))) : Z H locs (cx H) (sx H) (F0 m pc ls (.int i :: .ref a :: rest)) := by
  obtain ⟨p, e, s, args, below, meth, c, Q, ⟨hx, hb, hml, hown, hts⟩, -, -, ⟨hK, -⟩, -, -, -, -, -, rfl, -⟩ := X
  obtain ⟨b, n, f, he, hin, rfl⟩ := pLdJ_open hv
  exact va_lald hx hb (hK.vt (k := 1) (by decide)) (hM.1.at he) 0 0 rfl rfl (inb_in hin) hdg kk
theorem p_aald (X : pX l D A cap d cc nL own ini rt m rv h' H0 cx sx Z) (hM : PI D A cap H0 h H locs) {kd : Nat} (hkd : kd < 8) (hr : (kTy kd).isReference = true) {i : Int32} {v : Option Nat} (hv : pLdQ h a kd i = some v) (hdg : decode cc pc = .ok (.aaload, 1))
    (kk : Z H locs (cx H) (sx H) (F0 m (pc + 1) ls (va_rf v :: rest))) : Z H locs (cx H) (sx H) (F0 m pc ls (.int i :: .ref a :: rest)) := by
  obtain ⟨p, e, s, args, below, meth, c, Q, ⟨hx, hb, hml, hown, hts⟩, -, -, ⟨hK, -⟩, -, -, -, -, -, rfl, -⟩ := X
  obtain ⟨b, n, f, he, hin, rfl⟩ := pLdQ_open hv
  have hin := inb_in hin
  have hlt : i.toNatClampNeg < n := Nat.not_le.mp fun q => hin (Or.inr q)
  have hat := hM.1.at he 0 _ rfl
  exact W.aald (v := va_rf (f i.toNatClampNeg)) (ty := kTy kd) hx hb hat ((hK.1.2.1 kd hkd).1 n (fun j => va_rf (f j))) hr (fun q => by cases q) (by show ¬ (i < 0 ∨ (arrV _ _ _).slots.size ≤ _); rw [arrV_size]; exact hin) (by show (arrV _ _ _).slots[_]? = _; rw [arrV_read _ _ hlt]) rfl rfl hdg kk
theorem p_alen (X : pX l D A cap d cc nL own ini rt m rv h' H0 cx sx Z) (hM : PI D A cap H0 h H locs) {n kd : Nat} (hkd : kd < 8) {x : vp_A} (hv : pArr h a kd = some x) (hn : x.1 = n) (hdg : decode cc pc = .ok (.arraylength, 1))
    (kk : Z H locs (cx H) (sx H) (F0 m (pc + 1) ls (.int (nI n) :: rest))) : Z H locs (cx H) (sx H) (F0 m pc ls (.ref a :: rest)) := by
  obtain ⟨p, e, s, args, below, meth, c, Q, ⟨hx, hb, hml, hown, hts⟩, -, -, ⟨hK, -⟩, -, -, -, -, -, rfl, -⟩ := X
  obtain ⟨b, he⟩ := pArr_open hv
  subst hn
  exact va_alen (v := nI x.1) hx hb (hK.vt hkd) (hM.1.at he) 0 0 rfl rfl rfl hdg kk
theorem p_stored {kd n : Nat} {f f1 : Nat → Value} {x x1 : vp_A} {i : Nat} {v : Value} {H' : Heap} (hM : PI D A cap H0 h H locs) (he : h.2.2 a = some (true, .inl (kd, x))) (e0 : vp_cell (dA D kd) x = arrV (dA D kd) n f) (e1 : H'[a]? = some ((arrV (dA D kd) n f).setSlot i v)) (hf : updV f i v = f1) (e2 : vp_cell (dA D kd) x1 = arrV (dA D kd) n f1) (hz : H'.size = H.size) (hq : ∀ q : Nat, q ≠ a → H'[q]? = H[q]?) : PI D A cap H0 (pPutE h a (.inl (kd, x1))) H' (locs ++ [⟨a, i⟩]) := by
  obtain ⟨hP, hcap, hS, hT⟩ := hM
  obtain ⟨r1, r2⟩ := hP.2.2 a true _ he
  have r1 : H[a]? = some (vp_cell (dA D kd) x) := r1
  rw [arrV_store, hf] at e1
  refine ⟨PP.put hP he hz r1 e1 (by rw [e0, arrV_size, arrV_size]) hq ?_, hcap, hS.put hz hq (r2 rfl), by rw [tot_set hz r1 e1 (by rw [e0, arrV_size, arrV_size]) hq]; exact hT⟩
  show H'[a]? = some (vp_cell (dA D kd) x1)
  rw [e2]
  exact e1
theorem p_iast (X : pX l D A cap d cc nL own ini rt m rv h' H0 cx sx Z) (hM : PI D A cap H0 h H locs) {i v : Int32} {h1 : PH} (hv : pSt h a 0 i v = some h1) (hdg : decode cc pc = .ok (.iastore, 1))
    (kk : ∀ (H : Heap) (locs : List Loc), PI D A cap H0 h1 H locs → Z H locs (cx H) (sx H) (F0 m (pc + 1) ls rest)) : Z H locs (cx H) (sx H) (F0 m pc ls (.int v :: .int i :: .ref a :: rest)) := by
  obtain ⟨p, e, s, args, below, meth, c, Q, ⟨hx, hb, hml, hown, hts⟩, -, -, ⟨hK, -⟩, rfl, -, -, rfl, rfl, rfl, -⟩ := X
  obtain ⟨n, f, he, hin, rfl⟩ := pSt_open hv
  have hin := inb_in hin
  have hat : H[a]? = some (arrV (dA D 0) n (fun j => .int (f j))) := (hM.1.2.2 a true _ he).1
  refine W.iast hx hb hat ((hK.1.2.1 0 (by decide)).1 n _) (fun q => by cases q) (by rw [arrV_size]; exact hin) rfl rfl hdg fun H' e1 z oq => ?_
  refine W_tight (Nat.le_refl _) (Nat.le_refl _) (kk H' _ (p_stored hM he rfl e1 ?_ (vp_cell_i _ _ _) z oq))
  funext q
  by_cases hq : q = i.toNatClampNeg <;> simp [updV, upd, hq]
theorem p_bast (X : pX l D A cap d cc nL own ini rt m rv h' H0 cx sx Z) (hM : PI D A cap H0 h H locs) {i v : Int32} {h1 : PH} (hv : pSt h a 2 i (vp_nar .byte v) = some h1) (hdg : decode cc pc = .ok (.bastore, 1))
    (kk : ∀ (H : Heap) (locs : List Loc), PI D A cap H0 h1 H locs → Z H locs (cx H) (sx H) (F0 m (pc + 1) ls rest)) : Z H locs (cx H) (sx H) (F0 m pc ls (.int v :: .int i :: .ref a :: rest)) := by
  obtain ⟨p, e, s, args, below, meth, c, Q, ⟨hx, hb, hml, hown, hts⟩, -, -, ⟨hK, -⟩, rfl, -, -, rfl, rfl, rfl, -⟩ := X
  obtain ⟨n, f, he, hin, rfl⟩ := pSt_open hv
  have hin := inb_in hin
  have hat : H[a]? = some (arrV (dA D 2) n (fun j => .int (f j))) := (hM.1.2.2 a true _ he).1
  refine W.bast hx hb hat ((hK.1.2.1 2 (by decide)).1 n _) (fun q => by cases q) (by rw [arrV_size]; exact hin) rfl rfl hdg fun H' e1 z oq => ?_
  refine W_tight (Nat.le_refl _) (Nat.le_refl _) (kk H' _ (p_stored hM he rfl e1 ?_ (vp_cell_i _ _ _) z oq))
  funext q
  by_cases hq : q = i.toNatClampNeg
  · subst hq
    simp [updV, upd, vp_nar]
    try rfl
  · simp [updV, upd, hq]
theorem p_cast (X : pX l D A cap d cc nL own ini rt m rv h' H0 cx sx Z) (hM : PI D A cap H0 h H locs) {i v : Int32} {h1 : PH} (hv : pSt h a 3 i (vp_nar .char v) = some h1) (hdg : decode cc pc = .ok (.castore, 1))
    (kk : ∀ (H : Heap) (locs : List Loc), PI D A cap H0 h1 H locs → Z H locs (cx H) (sx H) (F0 m (pc + 1) ls rest)) : Z H locs (cx H) (sx H) (F0 m pc ls (.int v :: .int i :: .ref a :: rest)) := by
  obtain ⟨p, e, s, args, below, meth, c, Q, ⟨hx, hb, hml, hown, hts⟩, -, -, ⟨hK, -⟩, rfl, -, -, rfl, rfl, rfl, -⟩ := X
  obtain ⟨n, f, he, hin, rfl⟩ := pSt_open hv
  have hin := inb_in hin
  have hat : H[a]? = some (arrV (dA D 3) n (fun j => .int (f j))) := (hM.1.2.2 a true _ he).1
  refine W.cast hx hb hat ((hK.1.2.1 3 (by decide)).1 n _) (fun q => by cases q) (by rw [arrV_size]; exact hin) rfl rfl hdg fun H' e1 z oq => ?_
  refine W_tight (Nat.le_refl _) (Nat.le_refl _) (kk H' _ (p_stored hM he rfl e1 ?_ (vp_cell_i _ _ _) z oq))
  funext q
  by_cases hq : q = i.toNatClampNeg
  · subst hq
    simp [updV, upd, vp_nar]
    try rfl
  · simp [updV, upd, hq]
theorem p_last (X : pX l D A cap d cc nL own ini rt m rv h' H0 cx sx Z) (hM : PI D A cap H0 h H locs) {i : Int32} {v : Int64} {h1 : PH} (hv : pStJ h a 1 i v = some h1) (hdg : decode cc pc = .ok (.lastore, 1))
    (kk : ∀ (H : Heap) (locs : List Loc), PI D A cap H0 h1 H locs → Z H locs (cx H) (sx H) (F0 m (pc + 1) ls rest)) : Z H locs (cx H) (sx H) (F0 m pc ls (.long v :: .int i :: .ref a :: rest)) := by
  obtain ⟨p, e, s, args, below, meth, c, Q, ⟨hx, hb, hml, hown, hts⟩, -, -, ⟨hK, -⟩, rfl, -, -, rfl, rfl, rfl, -⟩ := X
  obtain ⟨n, f, he, hin, rfl⟩ := pStJ_open hv
  have hin := inb_in hin
  have hat : H[a]? = some (arrV (dA D 1) n (fun j => .long (f j))) := (hM.1.2.2 a true _ he).1
  refine W.last hx hb hat ((hK.1.2.1 1 (by decide)).1 n _) (fun q => by cases q) (by rw [arrV_size]; exact hin) rfl rfl hdg fun H' e1 z oq => ?_
  refine W_tight (Nat.le_refl _) (Nat.le_refl _) (kk H' _ (p_stored hM he rfl e1 ?_ (vp_cell_l _ _ _) z oq))
  funext q
  by_cases hq : q = i.toNatClampNeg <;> simp [updV, vp_updL, hq]
end PX
