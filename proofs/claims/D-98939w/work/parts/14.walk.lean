/-! PART 14: more rows over pure heaps: stores of references, new cells, casts, constants, ends, calls, heads -/
set_option maxRecDepth 100000
section PX2
variable {l : Launch} {D : PD} {A : Nat → Prop} {cap : Nat × Nat} {d : Nat} {cc : ByteArray} {nL : Nat} {own : String} {ini : Bool} {rt : Option FieldType} {m : MethodId} {rv : Option Value} {h' : PH} {H0 : Heap} {cx sx : Heap → Nat} {Z : Heap → List Loc → Nat → Nat → JFrame → Prop}
variable {h : PH} {H : Heap} {locs : List Loc} {pc : Nat} {ls : Array Slot} {rest : List Value} {a ci k : Nat} {C : String} {T : u_T} {N : Nat} {ty : Nat → FieldType}
/-- a reference to an object of class ci into an array of its own class -/
theorem p_aast (X : pX l D A cap d cc nL own ini rt m rv h' H0 cx sx Z) (hM : PI D A cap H0 h H locs) {kd v : Nat} (hkd : kd < 8) (hc : cT[ci]? = some (C, T, N)) (hty : kTy kd = .object C) {i : Int32} (hvc : pCls h v = some ci) {h1 : PH} (hv : pStQ h a kd i (some v) = some h1) (hdg : decode cc pc = .ok (.aastore, 1))
    (kk : ∀ (H : Heap) (locs : List Loc), PI D A cap H0 h1 H locs → Z H locs (cx H) (sx H) (F0 m (pc + 1) ls rest)) : Z H locs (cx H) (sx H) (F0 m pc ls (.ref v :: .int i :: .ref a :: rest)) := by
  obtain ⟨p, e, s, args, below, meth, c, Q, ⟨hx, hb, hml, hown, hts⟩, -, -, ⟨hK, -⟩, rfl, -, -, rfl, rfl, rfl, -⟩ := X
  obtain ⟨n, f, he, hin, rfl⟩ := pStQ_open hv
  obtain ⟨bv, fsv, hev⟩ := pCls_open hvc
  have hin := inb_in hin
  have hlt : i.toNatClampNeg < n := Nat.not_le.mp fun q => hin (Or.inr q)
  have h0 : ¬ i < 0 := fun q => hin (Or.inl q)
  have hat : H[a]? = some (arrV (dA D kd) n (fun j => va_rf (f j))) := (hM.1.2.2 a true _ he).1
  obtain ⟨r', hr', cellV, g1, g2, g3, -⟩ := (hM.1.2.2 v _ _ hev).1
  have hcls := (hK.1.1 ci _ hc).2
  have hRA := (hK.1.2.1 kd hkd).2
  rw [hty] at hRA
  obtain ⟨kA, comp, k1, k2, k3, -⟩ := hRA
  have hcomp : comp = D.1 ci := Option.some.inj (k3.symm.trans hcls.1)
  subst hcomp
  have g2 : cellV.cls = D.1 ci := g2
  obtain ⟨kC, hkC, -⟩ := hcls.2
  refine W.aast hx hb hat (fun q h => by cases h) (fun h => by cases h) k1 k2 rfl hkC ⟨h0, by rw [arrV_size]; exact hlt⟩ g1 (fun q h => by rw [g3] at h; cases h) (by rw [g2]; exact hkC) (by rw [g2]; exact va_assign hcls) rfl rfl hdg fun H' e1 z oq => ?_
  refine W_tight (Nat.le_refl _) (Nat.le_refl _) (kk H' _ (p_stored hM he rfl e1 ?_ (vp_cell_q _ _ _) z oq))
  funext q
  by_cases hq : q = i.toNatClampNeg <;> simp [updV, va_up, va_rf, hq]
theorem p_self (vm : Vm) (c : ClassId) : vm.assignable c c = true := by
  show vm.assignableAux (255 + 1) c c = true
  rw [Vm.assignableAux, beq_self_eq_true, Bool.true_or]
/-- a reference to an int[] into an int[][] -/
theorem p_aastI (X : pX l D A cap d cc nL own ini rt m rv h' H0 cx sx Z) (hM : PI D A cap H0 h H locs) {v : Nat} {i : Int32} {xv : vp_A} (hva : pArr h v 0 = some xv) {h1 : PH} (hv : pStQ h a 6 i (some v) = some h1) (hdg : decode cc pc = .ok (.aastore, 1))
    (kk : ∀ (H : Heap) (locs : List Loc), PI D A cap H0 h1 H locs → Z H locs (cx H) (sx H) (F0 m (pc + 1) ls rest)) : Z H locs (cx H) (sx H) (F0 m pc ls (.ref v :: .int i :: .ref a :: rest)) := by
  obtain ⟨p, e, s, args, below, meth, c, Q, ⟨hx, hb, hml, hown, hts⟩, -, -, ⟨hK, -⟩, rfl, -, -, rfl, rfl, rfl, -⟩ := X
  obtain ⟨n, f, he, hin, rfl⟩ := pStQ_open hv
  obtain ⟨bv, hev⟩ := pArr_open hva
  have hin := inb_in hin
  have hlt : i.toNatClampNeg < n := Nat.not_le.mp fun q => hin (Or.inr q)
  have h0 : ¬ i < 0 := fun q => hin (Or.inl q)
  have hat : H[a]? = some (arrV (dA D 6) n (fun j => va_rf (f j))) := (hM.1.2.2 a true _ he).1
  have hvt : H[v]? = some (vp_cell (dA D 0) xv) := (hM.1.2.2 v _ _ hev).1
  obtain ⟨kA, k1, k2⟩ := hK.1.2.2.2.2
  obtain ⟨-, kI, hkI, -⟩ := (hK.1.2.1 0 (by decide)).1 0 (fun _ => .int 0)
  have hcl : (vp_cell (dA D 0) xv).cls = dA D 0 := by obtain ⟨n2, f2 | f2 | f2 | f2 | f2⟩ := xv <;> rfl
  have hvm : (vp_cell (dA D 0) xv).vm = .none := by obtain ⟨n2, f2 | f2 | f2 | f2 | f2⟩ := xv <;> rfl
  refine W.aast hx hb hat (fun q h => by cases h) (fun h => by cases h) k1 k2 rfl hkI ⟨h0, by rw [arrV_size]; exact hlt⟩ hvt (fun q h => by rw [hvm] at h; cases h) (by rw [hcl]; exact hkI) (by rw [hcl]; exact p_self _ _) rfl rfl hdg fun H' e1 z oq => ?_
  refine W_tight (Nat.le_refl _) (Nat.le_refl _) (kk H' _ (p_stored hM he rfl e1 ?_ (vp_cell_q _ _ _) z oq))
  funext q
  by_cases hq : q = i.toNatClampNeg <;> simp [updV, va_up, va_rf, hq]
theorem p_new (X : pX l D A cap d cc nL own ini rt m rv h' H0 cx sx Z) (hM : PI D A cap H0 h H locs) (hc : pC ci C T N ty) {idx : Nat} (hq : Cond.classLink own idx C ∈ lw_all) (hins : Cond.instantiable C N ∈ lw_all) (hini : Cond.initialized C ∈ lw_all) {fs : List Value} (hfs : ∀ j, j < N → defaultValue (ty j) = vp_V fs j) {q : Nat} {h1 : PH} (hv : pNew cap h (.inr (ci, fs)) N = some (q, h1)) (hdg : decode cc pc = .ok (.new idx, 3))
    (kk : ∀ (H : Heap) (locs : List Loc), PI D A cap H0 h1 H locs → Z H locs (cx H) (sx H) (F0 m (pc + 3) ls (.ref q :: rest))) : Z H locs (cx H) (sx H) (F0 m pc ls rest) := by
  obtain ⟨p, e, s, args, below, meth, c, Q, ⟨hx, hb, hml, hown, hts⟩, -, -, ⟨hK, -⟩, rfl, hA, -, rfl, rfl, rfl, -⟩ := X
  obtain ⟨b1, b2, rfl, rfl⟩ := pNew_open hv
  obtain ⟨hP, hcap, hS, hT⟩ := hM
  have hS1 := hS.1
  have e1 := hP.1
  have e2 := hP.2.1
  refine W.newc hx hb hown (hts _ hq) (hts _ hins) (hts _ hini) rfl hdg (by show H.size - s.heap.size + 1 ≤ cap.1 - s.heap.size; omega) (by show tot H - tot s.heap + N ≤ cap.2 - tot s.heap; omega) fun cC kC f1 f2 f3 f4 => ?_
  have hKn := hK.1.1 ci _ hc.1
  have hcC : cC = D.1 ci := Option.some.inj (f1.symm.trans hKn.2.1)
  subst hcC
  have hPn : PP D A (h.1 + 1, h.2.1 + N, va_up h.2.2 h.1 (some (true, .inr (ci, fs)))) (H.push { cls := D.1 ci, slots := kC.instanceTypes.map defaultValue, vm := .none }) := by
    refine PP.new hP (by simp [f4]) (hA _ hS1) ?_
    refine ⟨_, hc.1, (u_born ty hts hc.2.1 hKn f2 ?_ hc.2.2.1).to hfs⟩
    rw [← e1]
    simp [blank]
  rw [e1]
  refine W_tight (Nat.le_refl _) (Nat.le_refl _) (kk _ _ ⟨hPn, ⟨b1, b2⟩, ?_, by rw [tot_push]; omega⟩)
  refine ⟨by simp; omega, fun x h1 h2 => ?_, hS.2.2⟩
  rw [Array.getElem?_push, if_neg (by omega)]
  exact hS.2.1 x h1 h2
def pzero (t : FieldType) (n : Nat) : vp_A := match t with
  | .long => (n, .inr (.inl (fun _ => 0)))
  | _ => (n, .inl (fun _ => 0))
theorem p_newa (X : pX l D A cap d cc nL own ini rt m rv h' H0 cx sx Z) (hM : PI D A cap H0 h H locs) {atype : ArrayType} (hq : Cond.arrayClass (newarray.typeOf atype) ∈ lw_all) {kd : Nat} (hkd : kd < 8) (hty : newarray.typeOf atype = kTy kd) (hRA : ∀ U cA, va_RA U cA (kTy kd) → U.vm.findClass ("[" ++ (kTy kd).toString) = some cA) {n : Int32} {N' : Nat} {a0 : vp_A} (ha : ∀ cA : ClassId, vp_cell cA a0 = arrV cA N' (fun _ => defaultValue (kTy kd))) (hn : ¬ n < 0) (hN : n.toNatClampNeg = N') (hby : N' * componentBytes (kTy kd) ≤ 536870912) {q : Nat} {h1 : PH} (hv : pNew cap h (.inl (kd, a0)) N' = some (q, h1)) (hdg : decode cc pc = .ok (.newarray atype, 2))
    (kk : ∀ (H : Heap) (locs : List Loc), PI D A cap H0 h1 H locs → Z H locs (cx H) (sx H) (F0 m (pc + 2) ls (.ref q :: rest))) : Z H locs (cx H) (sx H) (F0 m pc ls (.int n :: rest)) := by
  obtain ⟨p, e, s, args, below, meth, c, Q, ⟨hx, hb, hml, hown, hts⟩, -, -, ⟨hK, -⟩, rfl, hA, -, rfl, rfl, rfl, -⟩ := X
  obtain ⟨b1, b2, rfl, rfl⟩ := pNew_open hv
  subst hN
  obtain ⟨hP, hcap, hS, hT⟩ := hM
  have hS1 := hS.1
  have e1 := hP.1
  have e2 := hP.2.1
  refine W.newa hx hb (hts _ hq) rfl hdg rfl hn (by rw [hty]; exact hby) (by show H.size - s.heap.size + 1 ≤ cap.1 - s.heap.size; omega) (by show tot H - tot s.heap + _ ≤ cap.2 - tot s.heap; omega) fun cA kA comp f1 f2 f3 => ?_
  rw [hty] at f1 ⊢
  have hcA : cA = dA D kd := Option.some.inj (f1.symm.trans (hRA _ _ (hK.1.2.1 kd hkd).2))
  subst hcA
  have hPn : PP D A (h.1 + 1, h.2.1 + n.toNatClampNeg, va_up h.2.2 h.1 (some (true, .inl (kd, a0)))) (H.push { cls := dA D kd, slots := Array.replicate n.toNatClampNeg (defaultValue (kTy kd)), vm := .none }) := by
    refine PP.new hP (by simp) (hA _ hS1) ?_
    show (H.push _)[h.1]? = some (vp_cell (dA D kd) a0)
    rw [← e1, ha, ← arrV_new]
    simp
  rw [e1]
  refine W_tight (Nat.le_refl _) (Nat.le_refl _) (kk _ _ ⟨hPn, ⟨b1, b2⟩, ?_, by rw [tot_push]; omega⟩)
  refine ⟨by simp; omega, fun x h1 h2 => ?_, hS.2.2⟩
  rw [Array.getElem?_push, if_neg (by omega)]
  exact hS.2.1 x h1 h2
theorem p_castT (X : pX l D A cap d cc nL own ini rt m rv h' H0 cx sx Z) (hM : PI D A cap H0 h H locs) (hc : cT[ci]? = some (C, T, N)) {nm : String} {idx : Nat} (hq : Cond.classLink own idx nm ∈ lw_all) (hct : Cond.castable C nm ∈ lw_tbl) (hvc : pCls h a = some ci) (hdg : decode cc pc = .ok (.checkcast idx, 3))
    (kk : Z H locs (cx H) (sx H) (F0 m (pc + 3) ls (.ref a :: rest))) : Z H locs (cx H) (sx H) (F0 m pc ls (.ref a :: rest)) := by
  obtain ⟨p, e, s, args, below, meth, c, Q, ⟨hx, hb, hml, hown, hts⟩, -, -, ⟨hK, -⟩, -, -, -, -, -, rfl, -⟩ := X
  obtain ⟨b, fs, he⟩ := pCls_open hvc
  exact va_castY hx hb hown (hts _ hq) (hK.2.1 _ hct rfl) (va_recv (q0 := 0) hK.va (hM.1.at he) hc rfl) hdg kk
theorem p_castS (X : pX l D A cap d cc nL own ini rt m rv h' H0 cx sx Z) (hM : PI D A cap H0 h H locs) (hc : cT[ci]? = some (C, T, N)) {idx : Nat} (hq : Cond.classLink own idx C ∈ lw_all) (hvc : pCls h a = some ci) (hdg : decode cc pc = .ok (.checkcast idx, 3))
    (kk : Z H locs (cx H) (sx H) (F0 m (pc + 3) ls (.ref a :: rest))) : Z H locs (cx H) (sx H) (F0 m pc ls (.ref a :: rest)) := by
  obtain ⟨p, e, s, args, below, meth, c, Q, ⟨hx, hb, hml, hown, hts⟩, -, -, ⟨hK, -⟩, -, -, -, -, -, rfl, -⟩ := X
  obtain ⟨b, fs, he⟩ := pCls_open hvc
  exact va_castS hx hb hown (hts _ hq) (hK.1.1 ci _ hc).2 (va_recv (q0 := 0) hK.va (hM.1.at he) hc rfl) hdg kk
theorem p_gets (X : pX l D A cap d cc nL own ini rt m rv h' H0 cx sx Z) (hM : PI D A cap H0 h H locs) {i : Nat} {q : String × String × String} (hi : stT[i]? = some q) {idx : Nat} (hq : Cond.fieldLink own idx q.1 q.2.1 q.2.2 ∈ lw_all) (hdg : decode cc pc = .ok (.getstatic idx, 3))
    (kk : Z H locs (cx H) (sx H) (F0 m (pc + 3) ls (dS D i :: rest))) : Z H locs (cx H) (sx H) (F0 m pc ls rest) := by
  obtain ⟨p, e, s, args, below, meth, c, Q, ⟨hx, hb, hml, hown, hts⟩, -, -, ⟨hK, hZ⟩, rfl, -, -, -, -, rfl, -⟩ := X
  exact va_gets hx hb (hZ i q hi) hM.2.2.1 hown (hts _ hq) (fun _ h => h) hdg kk
theorem p_getsN (X : pX l D A cap d cc nL own ini rt m rv h' H0 cx sx Z) (hM : PI D A cap H0 h H locs) {i : Nat} {q : String × String × String} (hi : stT[i]? = some q) {idx : Nat} {host : String} (hq : Cond.fieldLinkNest own idx q.1 q.2.1 q.2.2 host ∈ lw_tbl) (hdg : decode cc pc = .ok (.getstatic idx, 3))
    (kk : Z H locs (cx H) (sx H) (F0 m (pc + 3) ls (dS D i :: rest))) : Z H locs (cx H) (sx H) (F0 m pc ls rest) := by
  obtain ⟨p, e, s, args, below, meth, c, Q, ⟨hx, hb, hml, hown, hts⟩, -, -, ⟨hK, hZ⟩, rfl, -, -, -, -, rfl, -⟩ := X
  exact va_getsN hx hb (hZ i q hi) hM.2.2.1 hown (va_Nw.use rfl (hK.2.1 _ hq rfl)) (fun _ h => h) hdg kk
theorem p_end {v : Option Value} {s : State} {p : Program} {e : Env} {args : Array Value} {below : List Frame} {meth : Method} {c : Code} (hM : PI D A cap s.heap h H locs) (hv : v = rv) (hh : h = h') {g : JFrame}
    (k : ∀ Qc : Array Value → State → Outcome → State → Prop, (∀ t : State, t.heap = H → s.WarmedH t.vm → Qc args s (.returned v) t) → (∀ q ∈ locs, A q.base) → W p l e (rmC cap d s.heap.size (tot s.heap)) s m args below meth c H locs (cap.1 - s.heap.size) (cap.2 - tot s.heap) (MQ below Qc args s (cap.1 - s.heap.size) (cap.2 - tot s.heap) A) g) : W p l e (rmC cap d s.heap.size (tot s.heap)) s m args below meth c H locs (H.size - s.heap.size) (tot H - tot s.heap) (MQ below (CQc D A cap h' rv) args s (cap.1 - s.heap.size) (cap.2 - tot s.heap) A) g := by
  subst hv; subst hh
  obtain ⟨hP, hcap, hS, hT⟩ := hM
  have e1 := hP.1
  have e2 := hP.2.1
  have c1 := hcap.1
  have c2 := hcap.2
  refine W.widen (k := cap.1 - s.heap.size) (n := cap.2 - tot s.heap) (by omega) (by omega) (k _ (fun t ht hW => ⟨⟨rfl, by rw [ht]; exact hP, hcap, by rw [ht]; exact hT⟩, hS.F ht⟩) hS.2.2)
theorem p_iret {r v : Int32} (X : pX l D A cap d cc nL own ini (some .int) m (some (.int r)) h' H0 cx sx Z) (hM : PI D A cap H0 h H locs) (hf : some (v, h) = some (r, h')) (hdg : decode cc pc = .ok (.ireturn, 1)) : Z H locs (cx H) (sx H) (F0 m pc ls [.int v]) := by
  obtain ⟨p, e, s, args, below, meth, c, Q, ⟨hx, hb, hml, hown, hts⟩, hr, hlk, -, rfl, -, -, rfl, rfl, rfl, hQ⟩ := X
  cases hf
  exact hQ _ _ _ _ _ (p_end hM rfl rfl fun Qc h1 h2 => W.iret hx hb hr h1 h2 hdg)
theorem p_zret {r v : Bool} (X : pX l D A cap d cc nL own ini (some .boolean) m (some (.int (bI r))) h' H0 cx sx Z) (hM : PI D A cap H0 h H locs) (hf : some (v, h) = some (r, h')) (hdg : decode cc pc = .ok (.ireturn, 1)) : Z H locs (cx H) (sx H) (F0 m pc ls [.int (bI v)]) := by
  obtain ⟨p, e, s, args, below, meth, c, Q, ⟨hx, hb, hml, hown, hts⟩, hr, hlk, -, rfl, -, -, rfl, rfl, rfl, hQ⟩ := X
  cases hf
  exact hQ _ _ _ _ _ (p_end hM rfl rfl fun Qc h1 h2 => W.zret hx hb hr (bI_nar _) h1 h2 hdg)
/-- an int answer of another type (char, byte) -/
theorem p_tret {r v : Int32} {t : FieldType} (X : pX l D A cap d cc nL own ini (some t) m (some (.int r)) h' H0 cx sx Z) (hM : PI D A cap H0 h H locs) (hf : some (v, h) = some (r, h')) (hn : narrow t (.int v) = .int v) (hdg : decode cc pc = .ok (.ireturn, 1)) : Z H locs (cx H) (sx H) (F0 m pc ls [.int v]) := by
  obtain ⟨p, e, s, args, below, meth, c, Q, ⟨hx, hb, hml, hown, hts⟩, hr, hlk, -, rfl, -, -, rfl, rfl, rfl, hQ⟩ := X
  cases hf
  exact hQ _ _ _ _ _ (p_end hM rfl rfl fun Qc h1 h2 => W.zret hx hb hr hn h1 h2 hdg)
theorem p_lret {r v : Int64} (X : pX l D A cap d cc nL own ini (some .long) m (some (.long r)) h' H0 cx sx Z) (hM : PI D A cap H0 h H locs) (hf : some (v, h) = some (r, h')) (hdg : decode cc pc = .ok (.lreturn, 1)) : Z H locs (cx H) (sx H) (F0 m pc ls [.long v]) := by
  obtain ⟨p, e, s, args, below, meth, c, Q, ⟨hx, hb, hml, hown, hts⟩, hr, hlk, -, rfl, -, -, rfl, rfl, rfl, hQ⟩ := X
  cases hf
  exact hQ _ _ _ _ _ (p_end hM rfl rfl fun Qc h1 h2 => W.lret hx hb hr h1 h2 hdg)
theorem p_vret (X : pX l D A cap d cc nL own ini none m none h' H0 cx sx Z) (hM : PI D A cap H0 h H locs) (hf : some h = some h') (hdg : decode cc pc = .ok (.return_, 1)) : Z H locs (cx H) (sx H) (F0 m pc ls []) := by
  obtain ⟨p, e, s, args, below, meth, c, Q, ⟨hx, hb, hml, hown, hts⟩, hr, hlk, -, rfl, -, -, rfl, rfl, rfl, hQ⟩ := X
  cases hf
  exact hQ _ _ _ _ _ (p_end hM rfl rfl fun Qc h1 h2 => W.vret hx hb hr h1 h2 hdg)
theorem p_rf_or (q : Option Nat) : va_rf q = .null ∨ ∃ a, va_rf q = .ref a := by
  cases q with
  | none => exact Or.inl rfl
  | some a => exact Or.inr ⟨a, rfl⟩
theorem p_qret {r v : Option Nat} {t : FieldType} (X : pX l D A cap d cc nL own ini (some t) m (some (va_rf r)) h' H0 cx sx Z) (hrt : (∃ n, t = .object n) ∨ ∃ x, t = .array x) (hM : PI D A cap H0 h H locs) (hf : some (v, h) = some (r, h')) (hdg : decode cc pc = .ok (.areturn, 1)) : Z H locs (cx H) (sx H) (F0 m pc ls [va_rf v]) := by
  obtain ⟨p, e, s, args, below, meth, c, Q, ⟨hx, hb, hml, hown, hts⟩, hr, hlk, -, rfl, -, -, rfl, rfl, rfl, hQ⟩ := X
  cases hf
  exact hQ _ _ _ _ _ (p_end hM rfl rfl fun Qc h1 h2 => W.aret hx hb hr hrt (p_rf_or _) h1 h2 hdg)
theorem p_aret {r v : Nat} {t : FieldType} (X : pX l D A cap d cc nL own ini (some t) m (some (.ref r)) h' H0 cx sx Z) (hrt : (∃ n, t = .object n) ∨ ∃ x, t = .array x) (hM : PI D A cap H0 h H locs) (hf : some (v, h) = some (r, h')) (hdg : decode cc pc = .ok (.areturn, 1)) : Z H locs (cx H) (sx H) (F0 m pc ls [.ref v]) := by
  obtain ⟨p, e, s, args, below, meth, c, Q, ⟨hx, hb, hml, hown, hts⟩, hr, hlk, -, rfl, -, -, rfl, rfl, rfl, hQ⟩ := X
  cases hf
  exact hQ _ _ _ _ _ (p_end hM rfl rfl fun Qc h1 h2 => W.aret hx hb hr hrt (Or.inr ⟨_, rfl⟩) h1 h2 hdg)
theorem Met_ofWF {y : MethodName} {ws ws' : List Cond} {rm : Room} {Pc : Array Value → State → Prop} {Qc : Array Value → State → Outcome → State → Prop} {mc ms : Nat} {free : Addr → Prop} {cc : ByteArray} {maxL : Nat} {ret : Option FieldType}
    (hy : plainFor y = true) (hw : ws = Cond.code y cc maxL ret :: ws')
    (body : ∀ p e s m args below meth c s₁, BodyLoose p l y (headSpec ws rm) cc maxL ret e s m args below meth c s₁ → c.maxLocals = maxL → Pc args s →
      W p l e (headSpec ws rm).room s m args below meth c s.heap [] 0 0 (MQ below Qc args s mc ms free) (entryFrame m args maxL)) : Met l y ws rm Pc Qc mc ms free := by
  refine MetFree.of_bodySF (code := cc) (maxLocals := maxL) (ret := ret) hy ?_ ?_
  · intro args s m h hn
    obtain ⟨meth, c, h1, h2, h3, h4, h5, h6, -, -⟩ := Cond.code_spec hn (atoms_spec (ws := ws) h _ (by rw [hw]; exact List.mem_cons_self))
    exact ⟨meth, c, h1, h2, h3, h4, h5, h6⟩
  · intro p e s m args below meth c s₁ B hml hP _
    have hh0 : s₁.heap = s.heap := by rw [B.state]; rfl
    obtain ⟨t, a1, o, b1, b2, b3⟩ := body p e s m args below meth c s₁ B hml hP s₁ hh0 (Stand.of_body B)
    exact ⟨t, o, a1, b1, b2, ⟨b3.1, b3.2⟩⟩
theorem p_head {y : MethodName} {av : List Value} (hy : plainFor y = true) (hyc : y.cls = own) (hyi : ini = true → y.name = "<init>") (hsl : (lg_sl av).length ≤ nL)
    (body : ∀ (m : MethodId) (Z : Heap → List Loc → Nat → Nat → JFrame → Prop) (cx sx : Heap → Nat) (H0 : Heap) (ls : Array Slot), pX l D A cap d cc nL own ini rt m rv h' H0 cx sx Z → PI D A cap H0 h H0 [] → lv_has ls nL (lv_args 0 av) → Z H0 [] (cx H0) (sx H0) (F0 m 0 ls [])) : CMet l D A cap y cc nL rt d av h h' rv := by
  refine Met_ofWF (cc := cc) (maxL := nL) (ret := rt) hy rfl ?_
  intro p e s m args below meth c s₁ B hml hv
  obtain ⟨rfl, hP, hcap, hK, hZ, hA⟩ := hv
  have hts := atoms_spec (ws := ws_ y cc nL rt) B.pre
  have hts : ∀ w ∈ lw_all, w.before _ s = true := fun w h => hts w (List.mem_cons_of_mem _ h)
  have hown : s.vm.findClass own = some m.cls := by rw [← hyc]; exact findClass_of_methodNamed B.named
  have hin : meth.name = y.name := (name_of_methodNamed B.named B.method).1
  have hl := lv_entry av hsl
  rw [lg_entry_eq]
  generalize (lg_sl av ++ List.replicate (nL - (lg_sl av).length) Slot.unset).toArray = ls at hl ⊢
  have hrm : (headSpec (ws_ y cc nL rt) (rmC cap d h.1 h.2.1)).room = rmC cap d s.heap.size (tot s.heap) := by rw [hP.1, hP.2.1]; rfl
  rw [hrm, ← hP.1, ← hP.2.1]
  have key := body m (fun H locs cells slots g => W p l e (rmC cap d s.heap.size (tot s.heap)) s m av.toArray below meth c H locs cells slots (MQ below (CQc D A cap h' rv) av.toArray s (cap.1 - s.heap.size) (cap.2 - tot s.heap) A) g) (fun H => H.size - s.heap.size) (fun H => tot H - tot s.heap) s.heap ls ⟨p, e, s, av.toArray, below, meth, c, _, ⟨B.exec, B.bytes, hml, hown, hts⟩, B.returns, B.notSynchronized, ⟨hK, hZ⟩, rfl, hA, fun q => hin.trans (hyi q), rfl, rfl, rfl, fun _ _ _ _ _ k => k⟩ ⟨hP, hcap, va_S.rf, Nat.le_refl _⟩ hl
  exact W_tight (Nat.le_refl _) (Nat.le_refl _) key
/-! calls -/
theorem p_room {d' d ny : Nat} {s : State} (hM : PI D A cap s.heap h H locs) (hd : d' < d) (hn : ny ≤ 40) : ((rmC cap d' h.1 h.2.1).frames + 1 ≤ (rmC cap d s.heap.size (tot s.heap)).frames ∧ 8 + (ny + 11) + (rmC cap d' h.1 h.2.1).locals ≤ (rmC cap d s.heap.size (tot s.heap)).locals) ∧ ((H.size - s.heap.size) + (cap.1 - h.1) ≤ (rmC cap d s.heap.size (tot s.heap)).cells ∧ (tot H - tot s.heap) + (cap.2 - h.2.1) ≤ (rmC cap d s.heap.size (tot s.heap)).slots) := by
  obtain ⟨hP, hcap, hS, hT⟩ := hM
  have e1 := hP.1
  have e2 := hP.2.1
  have c1 := hcap.1
  have c2 := hcap.2
  refine ⟨⟨hd, ?_⟩, ?_, ?_⟩
  · show 8 + (ny + 11) + 70 * d' ≤ 70 * d
    omega
  · show _ ≤ cap.1 - s.heap.size
    have := hS.1
    omega
  · show _ ≤ cap.2 - tot s.heap
    omega
theorem p_pre {s U : State} {As : List Value} (hK : CK D s) (hZ : CS D A s s.heap) (hA : ∀ q, s.heap.size ≤ q → A q) (hM : PI D A cap s.heap h H locs) (hU : U.heap = H) (hW : s.WarmedH U.vm) : CPc D A cap h As As.toArray U := by
  obtain ⟨hP, hcap, hS, hT⟩ := hM
  refine ⟨rfl, by rw [hU]; exact hP, hcap, hK.warm hW, ?_, fun q hq => hA q ?_⟩
  · rw [hU]
    exact (hZ.kept (fun a h1 h2 => hS.2.1 a h1 h2)).moved hW.alike
  · rw [hU] at hq
    exact Nat.le_trans hS.1 hq
theorem p_back {s t st₀ T' : State} {h1 : PH} {rv1 v : Option Value} {av : Array Value} {L : List Loc} (hM : PI D A cap s.heap h H locs) (e0 : st₀.heap = H) (e1 : T'.heap = t.heap) (hL : ∀ q ∈ L, A q.base) (hq : CQc D A cap h1 rv1 av st₀ (.returned v) t) : v = rv1 ∧ PI D A cap s.heap h1 T'.heap (locs ++ L) := by
  obtain ⟨⟨hv, hP1, hcap1, hT1⟩, hF⟩ := hq
  obtain ⟨hP, hcap, hS, hT⟩ := hM
  refine ⟨Outcome.returned.inj hv, by rw [e1]; exact hP1, hcap1, ⟨?_, fun q h1 h2 => ?_, fun q hq => ?_⟩, by rw [e1]; rw [e0] at hT1; exact Nat.le_trans hT hT1⟩
  · rw [e1]
    exact Nat.le_trans hS.1 (by rw [← e0]; exact hF.1)
  · have h3 : q < st₀.heap.size := by rw [e0]; exact Nat.lt_of_lt_of_le h1 hS.1
    rw [e1, hF.2 q h3 h2, e0]
    exact hS.2.1 q h1 h2
  · rcases List.mem_append.mp hq with h | h
    · exact hS.2.2 q h
    · exact hL q h
theorem p_goes {h1 : PH} {rv1 : Option Value} {av : Array Value} {st0 : List Value} {mc ms : Nat} (X : pX l D A cap d cc nL own ini rt m rv h' H0 cx sx Z) (hM : PI D A cap H0 h H locs)
    (hr : ∀ (p : Program) (e : Env) (s : State) (args : Array Value) (below : List Frame) (meth : Method) (c : Code), CallFix p m c cc nL s args lw_all own → s.heap = H0 → CK D s → CS D A s s.heap → (∀ q, s.heap.size ≤ q → A q) → va_Run p l e (rmC cap d s.heap.size (tot s.heap)) s m args below meth c H locs (H.size - s.heap.size) (tot H - tot s.heap) mc ms (F0 m pc ls st0) rest (CQc D A cap h1 rv1 av) A)
    (kk : ∀ (H : Heap) (locs : List Loc), PI D A cap H0 h1 H locs → Z H locs (cx H) (sx H) (F0 m (pc + 3) ls (rv1.toList ++ rest))) : Z H locs (cx H) (sx H) (F0 m pc ls st0) := by
  obtain ⟨p, e, s, args, below, meth, c, Q, hC, hrt, hlk, ⟨hK, hZ⟩, rfl, hA, -, rfl, rfl, rfl, -⟩ := X
  intro T hT X
  obtain ⟨v, st₀, t, T', L, e0, X', hL, e1, e2, hq, st⟩ := hr p e s args below meth c hC rfl hK hZ hA T hT X
  obtain ⟨rfl, hI⟩ := p_back hM e0 e1 hL hq
  obtain ⟨t2, a1, b1⟩ := W_tight (Nat.le_refl _) (Nat.le_refl _) (kk T'.heap (locs ++ L) hI) T' rfl X'
  exact ⟨t2, st t2 a1, b1⟩
theorem p_goes5 {h1 : PH} {rv1 : Option Value} {av : Array Value} {st0 : List Value} {mc ms : Nat} (X : pX l D A cap d cc nL own ini rt m rv h' H0 cx sx Z) (hM : PI D A cap H0 h H locs)
    (hr : ∀ (p : Program) (e : Env) (s : State) (args : Array Value) (below : List Frame) (meth : Method) (c : Code), CallFix p m c cc nL s args lw_all own → s.heap = H0 → CK D s → CS D A s s.heap → (∀ q, s.heap.size ≤ q → A q) → va_Run5 p l e (rmC cap d s.heap.size (tot s.heap)) s m args below meth c H locs (H.size - s.heap.size) (tot H - tot s.heap) mc ms (F0 m pc ls st0) rest (CQc D A cap h1 rv1 av) A)
    (kk : ∀ (H : Heap) (locs : List Loc), PI D A cap H0 h1 H locs → Z H locs (cx H) (sx H) (F0 m (pc + 5) ls (rv1.toList ++ rest))) : Z H locs (cx H) (sx H) (F0 m pc ls st0) := by
  obtain ⟨p, e, s, args, below, meth, c, Q, hC, hrt, hlk, ⟨hK, hZ⟩, rfl, hA, -, rfl, rfl, rfl, -⟩ := X
  intro T hT X
  obtain ⟨v, st₀, t, T', L, e0, X', hL, e1, e2, hq, st⟩ := hr p e s args below meth c hC rfl hK hZ hA T hT X
  obtain ⟨rfl, hI⟩ := p_back hM e0 e1 hL hq
  obtain ⟨t2, a1, b1⟩ := W_tight (Nat.le_refl _) (Nat.le_refl _) (kk T'.heap (locs ++ L) hI) T' rfl X'
  exact ⟨t2, st t2 a1, b1⟩
/-- what is asked of the tables by a call of y (class C): the callee's own words, the number of its arguments -/
def pcY (y : MethodName) (cy : ByteArray) (ny : Nat) (rty : Option FieldType) (n : Nat) : Prop :=
  Cond.code y cy ny rty ∈ lw_all ∧ Cond.initialized y.cls ∈ lw_all ∧ (y.cls ≠ "java/lang/invoke/MethodHandle" ∧ y.cls ≠ "java/lang/invoke/VarHandle" ∧ (parseMethodDescriptor y.desc).map (fun d => d.parameters.length) = some n) ∧ ny ≤ 40
variable {y : MethodName} {cy : ByteArray} {ny : Nat} {rty : Option FieldType} {d' n idx : Nat} {As st0 : List Value} {h1 : PH} {rv1 : Option Value} {lv : List (Nat × Value)} {b : Nat}
theorem p_callV (X : pX l D A cap d cc nL own ini rt m rv h' H0 cx sx Z) (hM : PI D A cap H0 h H locs) (hl : lv_has ls nL lv) (hc : cT[ci]? = some (y.cls, T, N)) (hb : pCls h b = some ci) (hy : pcY y cy ny rty n) (hlink : Cond.methodLink own idx y ∈ lw_all) (hin : Cond.instanceMethod y ∈ lw_all) (hsel : Cond.selects y.cls y y ∈ lw_all) (hC : CMet l D A cap y cy ny rty d' (.ref b :: As) h h1 rv1) (hn : As.length = n) (hd : d' < d) (hrm : (rest.map fun v => v.category).sum ≤ 8) (hst : st0 = As.reverse ++ .ref b :: rest) (hdg : decode cc pc = .ok (.invokevirtual idx, 3))
    (kk : ∀ (H : Heap) (locs : List Loc), PI D A cap H0 h1 H locs → Z H locs (cx H) (sx H) (F0 m (pc + 3) ls (rv1.toList ++ rest))) : Z H locs (cx H) (sx H) (F0 m pc ls st0) := by
  refine p_goes (av := (Value.ref b :: As).toArray) (mc := cap.1 - h.1) (ms := cap.2 - h.2.1) X hM (fun p e s args below meth c hC2 h0 hK hZ hA => ?_) kk
  subst h0
  have hcx := hC2
  obtain ⟨hx, hb2, hml, hown, hts⟩ := hC2
  obtain ⟨bv, fs, he⟩ := pCls_open hb
  have hR := p_room hM hd hy.2.2.2
  exact va_runV (As := As) (rest := rest) hcx hC (cwV n hts (lw_V hlink hin hsel hy.2.1 hy.1) rfl rfl rfl ⟨rfl, hy.2.2.1⟩ hR.1) ⟨CPc.blind, va_recv (q0 := 0) hK.va (hM.1.at he) hc rfl, fun U hU hW => p_pre hK hZ hA hM hU hW⟩ rfl hn hl.1 hst (lv_room hrm) hdg hR.2
theorem p_callVN (X : pX l D A cap d cc nL own ini rt m rv h' H0 cx sx Z) (hM : PI D A cap H0 h H locs) (hl : lv_has ls nL lv) (hc : cT[ci]? = some (y.cls, T, N)) (hb : pCls h b = some ci) (hy : pcY y cy ny rty n) {host : String} (hlink : Cond.methodLinkNest own idx y host ∈ lw_tbl) (hin : Cond.instanceMethod y ∈ lw_all) (hsel : Cond.selects y.cls y y ∈ lw_all) (hC : CMet l D A cap y cy ny rty d' (.ref b :: As) h h1 rv1) (hn : As.length = n) (hd : d' < d) (hrm : (rest.map fun v => v.category).sum ≤ 8) (hst : st0 = As.reverse ++ .ref b :: rest) (hdg : decode cc pc = .ok (.invokevirtual idx, 3))
    (kk : ∀ (H : Heap) (locs : List Loc), PI D A cap H0 h1 H locs → Z H locs (cx H) (sx H) (F0 m (pc + 3) ls (rv1.toList ++ rest))) : Z H locs (cx H) (sx H) (F0 m pc ls st0) := by
  refine p_goes (av := (Value.ref b :: As).toArray) (mc := cap.1 - h.1) (ms := cap.2 - h.2.1) X hM (fun p e s args below meth c hC2 h0 hK hZ hA => ?_) kk
  subst h0
  have hcx := hC2
  obtain ⟨hx, hb2, hml, hown, hts⟩ := hC2
  obtain ⟨bv, fs, he⟩ := pCls_open hb
  have hR := p_room hM hd hy.2.2.2
  exact va_runVN (C := y.cls) (As := As) (rest := rest) hcx hC ⟨va_cnB n hts (lw_meth hy.1) rfl rfl rfl (hK.2.1 _ hlink rfl) (hts _ hy.2.1) hy.2.2.1 hR.1, hts _ hin, hts _ hsel⟩ ⟨CPc.blind, va_recv (q0 := 0) hK.va (hM.1.at he) hc rfl, fun U hU hW => p_pre hK hZ hA hM hU hW⟩ rfl hn hl.1 hst (lv_room hrm) hdg hR.2
theorem p_callS (X : pX l D A cap d cc nL own ini rt m rv h' H0 cx sx Z) (hM : PI D A cap H0 h H locs) (hl : lv_has ls nL lv) (hy : pcY y cy ny rty n) (hlink : Cond.methodLink own idx y ∈ lw_all) (hin : Cond.static y ∈ lw_all) (hC : CMet l D A cap y cy ny rty d' As h h1 rv1) (hn : As.length = n) (hd : d' < d) (hrm : (rest.map fun v => v.category).sum ≤ 8) (hst : st0 = As.reverse ++ rest) (hdg : decode cc pc = .ok (.invokestatic idx, 3))
    (kk : ∀ (H : Heap) (locs : List Loc), PI D A cap H0 h1 H locs → Z H locs (cx H) (sx H) (F0 m (pc + 3) ls (rv1.toList ++ rest))) : Z H locs (cx H) (sx H) (F0 m pc ls st0) := by
  refine p_goes (av := (As).toArray) (mc := cap.1 - h.1) (ms := cap.2 - h.2.1) X hM (fun p e s args below meth c hC2 h0 hK hZ hA => ?_) kk
  subst h0
  have hcx := hC2
  obtain ⟨hx, hb2, hml, hown, hts⟩ := hC2
  have hR := p_room hM hd hy.2.2.2
  exact va_runS (As := As) (rest := rest) hcx hC (va_cwS n hts (lw_S hlink hin hy.2.1 hy.1) rfl rfl rfl hy.2.2.1 hR.1) ⟨CPc.blind, fun U hU hW => p_pre hK hZ hA hM hU hW⟩ rfl hn hl.1 hst (lv_room hrm) hdg hR.2
theorem p_callSN (X : pX l D A cap d cc nL own ini rt m rv h' H0 cx sx Z) (hM : PI D A cap H0 h H locs) (hl : lv_has ls nL lv) (hy : pcY y cy ny rty n) {host : String} (hlink : Cond.methodLinkNest own idx y host ∈ lw_tbl) (hin : Cond.static y ∈ lw_all) (hC : CMet l D A cap y cy ny rty d' As h h1 rv1) (hn : As.length = n) (hd : d' < d) (hrm : (rest.map fun v => v.category).sum ≤ 8) (hst : st0 = As.reverse ++ rest) (hdg : decode cc pc = .ok (.invokestatic idx, 3))
    (kk : ∀ (H : Heap) (locs : List Loc), PI D A cap H0 h1 H locs → Z H locs (cx H) (sx H) (F0 m (pc + 3) ls (rv1.toList ++ rest))) : Z H locs (cx H) (sx H) (F0 m pc ls st0) := by
  refine p_goes (av := (As).toArray) (mc := cap.1 - h.1) (ms := cap.2 - h.2.1) X hM (fun p e s args below meth c hC2 h0 hK hZ hA => ?_) kk
  subst h0
  have hcx := hC2
  obtain ⟨hx, hb2, hml, hown, hts⟩ := hC2
  have hR := p_room hM hd hy.2.2.2
  exact va_runSN (As := As) (rest := rest) hcx hC ⟨va_cnB n hts (lw_meth hy.1) rfl rfl rfl (hK.2.1 _ hlink rfl) (hts _ hy.2.1) hy.2.2.1 hR.1, hts _ hin, trivial⟩ ⟨CPc.blind, fun U hU hW => p_pre hK hZ hA hM hU hW⟩ rfl hn hl.1 hst (lv_room hrm) hdg hR.2
theorem p_callI (X : pX l D A cap d cc nL own ini rt m rv h' H0 cx sx Z) (hM : PI D A cap H0 h H locs) (hl : lv_has ls nL lv) (hy : pcY y cy ny none n) (hy1 : y.name = "<init>") (hlink : Cond.methodLink own idx y ∈ lw_all) (hin : Cond.instanceMethod y ∈ lw_all) (hC : CMet l D A cap y cy ny none d' (.ref b :: As) h h1 rv1) (hn : As.length = n) (hd : d' < d) (hrm : (rest.map fun v => v.category).sum ≤ 8) (hst : st0 = As.reverse ++ .ref b :: rest) (hdg : decode cc pc = .ok (.invokespecial idx, 3))
    (kk : ∀ (H : Heap) (locs : List Loc), PI D A cap H0 h1 H locs → Z H locs (cx H) (sx H) (F0 m (pc + 3) ls (rv1.toList ++ rest))) : Z H locs (cx H) (sx H) (F0 m pc ls st0) := by
  refine p_goes (av := (Value.ref b :: As).toArray) (mc := cap.1 - h.1) (ms := cap.2 - h.2.1) X hM (fun p e s args below meth c hC2 h0 hK hZ hA => ?_) kk
  subst h0
  have hcx := hC2
  obtain ⟨hx, hb2, hml, hown, hts⟩ := hC2
  have hR := p_room hM hd hy.2.2.2
  exact va_runI (As := As) (rest := rest) hcx hC (cwI n hts (lw_meth hy.1) rfl rfl rfl (hts _ hy.2.1) (hts _ hlink) (hts _ hin) hy1 hy.2.2.1 hR.1) ⟨CPc.blind, fun U hU hW => p_pre hK hZ hA hM hU hW⟩ rfl hn hl.1 hst (lv_room hrm) hdg hR.2
theorem p_callIN (X : pX l D A cap d cc nL own ini rt m rv h' H0 cx sx Z) (hM : PI D A cap H0 h H locs) (hl : lv_has ls nL lv) (hy : pcY y cy ny none n) (hy1 : y.name = "<init>") {host : String} (hlink : Cond.methodLinkNest own idx y host ∈ lw_tbl) (hin : Cond.instanceMethod y ∈ lw_all) (hC : CMet l D A cap y cy ny none d' (.ref b :: As) h h1 rv1) (hn : As.length = n) (hd : d' < d) (hrm : (rest.map fun v => v.category).sum ≤ 8) (hst : st0 = As.reverse ++ .ref b :: rest) (hdg : decode cc pc = .ok (.invokespecial idx, 3))
    (kk : ∀ (H : Heap) (locs : List Loc), PI D A cap H0 h1 H locs → Z H locs (cx H) (sx H) (F0 m (pc + 3) ls (rv1.toList ++ rest))) : Z H locs (cx H) (sx H) (F0 m pc ls st0) := by
  refine p_goes (av := (Value.ref b :: As).toArray) (mc := cap.1 - h.1) (ms := cap.2 - h.2.1) X hM (fun p e s args below meth c hC2 h0 hK hZ hA => ?_) kk
  subst h0
  have hcx := hC2
  obtain ⟨hx, hb2, hml, hown, hts⟩ := hC2
  have hR := p_room hM hd hy.2.2.2
  exact va_runIN (As := As) (rest := rest) hcx hC ⟨va_cnB n hts (lw_meth hy.1) rfl rfl rfl (hK.2.1 _ hlink rfl) (hts _ hy.2.1) hy.2.2.1 hR.1, hy1, hts _ hin⟩ ⟨CPc.blind, fun U hU hW => p_pre hK hZ hA hM hU hW⟩ rfl hn hl.1 hst (lv_room hrm) hdg hR.2
theorem p_callF (X : pX l D A cap d cc nL own ini rt m rv h' H0 cx sx Z) (hM : PI D A cap H0 h H locs) (hl : lv_has ls nL lv) {x : MethodName} (hb : pCls h b = some 21) (hy : pcY y cy ny rty n) (hF : ∀ U, CK D U → va_Fw RJ2 x y U) (hxc : x.cls ≠ "java/lang/invoke/MethodHandle" ∧ x.cls ≠ "java/lang/invoke/VarHandle" ∧ (parseMethodDescriptor x.desc).map (fun d => d.parameters.length) = some n) (hlink : Cond.methodLink own idx x ∈ lw_all) (hin : Cond.instanceMethod y ∈ lw_all) (hsel : Cond.selects RJ2 x y ∈ lw_all) (hC : CMet l D A cap y cy ny rty d' (.ref b :: As) h h1 rv1) (hn : As.length = n) (hd : d' < d) (hrm : (rest.map fun v => v.category).sum ≤ 8) (hst : st0 = As.reverse ++ .ref b :: rest) {count : Nat} (hdg : decode cc pc = .ok (.invokeinterface idx count, 5))
    (kk : ∀ (H : Heap) (locs : List Loc), PI D A cap H0 h1 H locs → Z H locs (cx H) (sx H) (F0 m (pc + 5) ls (rv1.toList ++ rest))) : Z H locs (cx H) (sx H) (F0 m pc ls st0) := by
  refine p_goes5 (av := (Value.ref b :: As).toArray) (mc := cap.1 - h.1) (ms := cap.2 - h.2.1) X hM (fun p e s args below meth c hC2 h0 hK hZ hA => ?_) kk
  subst h0
  have hcx := hC2
  obtain ⟨hx, hb2, hml, hown, hts⟩ := hC2
  obtain ⟨bv, fs, he⟩ := pCls_open hb
  have hR := p_room hM hd hy.2.2.2
  exact va_runF (As := As) (rest := rest) (hK.1.1 21 _ rfl).2 hcx hC (va_cwF n hts (lw_app (a := [.methodLink own idx x, .selects RJ2 x y, .instanceMethod y, .initialized y.cls]) (by
    intro w hw
    simp only [List.mem_cons, List.not_mem_nil, or_false] at hw
    rcases hw with e | e | e | e
    · rw [e]; exact hlink
    · rw [e]; exact hsel
    · rw [e]; exact hin
    · rw [e]; exact hy.2.1) (lw_meth hy.1)) rfl rfl rfl (hF s hK) hxc hR.1) ⟨CPc.blind, va_recv (q0 := 0) hK.va (hM.1.at he) (ci := 21) rfl rfl, fun U hU hW => p_pre hK hZ hA hM hU hW⟩ rfl hn hl.1 hst (lv_room hrm) hdg hR.2
theorem p_obj (X : pX l D A cap d cc nL own ini rt m rv h' H0 cx sx Z) (hl : lv_has ls nL lv) (hlink : Cond.methodLink own idx objectInit ∈ lw_all) (hin : Cond.instanceMethod objectInit ∈ lw_all) (hco : Cond.code objectInit ⟨#[0xb1]⟩ 1 none ∈ lw_all) (hd : 1 ≤ d) (hrm : (rest.map fun v => v.category).sum ≤ 8) (hdg : decode cc pc = .ok (.invokespecial idx, 3))
    (kk : Z H locs (cx H) (sx H) (F0 m (pc + 3) ls rest)) : Z H locs (cx H) (sx H) (F0 m pc ls (.ref a :: rest)) := by
  obtain ⟨p, e, s, args, below, meth, c, Q, ⟨hx, hb, hml, hown, hts⟩, -, -, -, -, -, -, -, -, rfl, -⟩ := X
  refine W.objInit hx hb hown (hts _ hlink) (hts _ hin) (hts _ hco) rfl (by rw [hml]; exact hl.1) rfl hdg hd ?_ kk
  show 0 + (rest.map fun v => v.category).sum + 12 ≤ 70 * d
  omega
end PX2
