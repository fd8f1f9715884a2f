/-! PART 18: rows for lists (printed by mk18.py) -/
set_option maxRecDepth 100000
def isEl (x : Option Nat) : Bool := x == some 7 || x == some 8 || x == some 10 || x == some 11 || x == some 12 || x == some 14 || x == some 15 || x == some 16 || x == some 17 || x == some 18 || x == some 19
theorem isEl_open {x : Option Nat} (h : isEl x = true) : ∃ (ci : Nat) (C : String) (T : u_T) (N : Nat), x = some ci ∧ cT[ci]? = some (C, T, N) ∧ Cond.castable C "java/lang/Object" ∈ lw_tbl := by
  have h : x = some 7 ∨ x = some 8 ∨ x = some 10 ∨ x = some 11 ∨ x = some 12 ∨ x = some 14 ∨ x = some 15 ∨ x = some 16 ∨ x = some 17 ∨ x = some 18 ∨ x = some 19 := by simpa [isEl, or_assoc] using h
  rcases h with rfl | rfl | rfl | rfl | rfl | rfl | rfl | rfl | rfl | rfl | rfl
  · exact ⟨7, _, _, _, rfl, rfl, q2488⟩
  · exact ⟨8, _, _, _, rfl, rfl, q2489⟩
  · exact ⟨10, _, _, _, rfl, rfl, q2490⟩
  · exact ⟨11, _, _, _, rfl, rfl, q2491⟩
  · exact ⟨12, _, _, _, rfl, rfl, q2492⟩
  · exact ⟨14, _, _, _, rfl, rfl, q2493⟩
  · exact ⟨15, _, _, _, rfl, rfl, q2495⟩
  · exact ⟨16, _, _, _, rfl, rfl, q2496⟩
  · exact ⟨17, _, _, _, rfl, rfl, q2497⟩
  · exact ⟨18, _, _, _, rfl, rfl, q2498⟩
  · exact ⟨19, _, _, _, rfl, rfl, q2499⟩
/-- the row of Objects f may be copied: all are of the known classes -/
def allEl (h : PH) (f : Nat → Option Nat) : Nat → Bool
  | 0 => true
  | n + 1 => allEl h f n && (match f n with
    | none => true
    | some y => isEl (pCls h y))
theorem allEl_open {h : PH} {f : Nat → Option Nat} : ∀ {n : Nat}, allEl h f n = true → ∀ i, i < n → ∀ y, f i = some y → isEl (pCls h y) = true
  | 0, _, i, hi, _, _ => absurd hi (Nat.not_lt_zero i)
  | n + 1, q, i, hi, y, hy => by
    unfold allEl at q
    rw [Bool.and_eq_true] at q
    by_cases e : i = n
    · subst e
      have q2 := q.2
      rw [hy] at q2
      exact q2
    · exact allEl_open q.1 i (by omega) y hy
def allFit (kd : Nat) (f : Nat → Int32) : Nat → Bool
  | 0 => true
  | n + 1 => allFit kd f n && fits (kTy kd) (.int (f n))
theorem allFit_open {kd : Nat} {f : Nat → Int32} : ∀ {n : Nat}, allFit kd f n = true → ∀ i, i < n → fits (kTy kd) (.int (f i)) = true
  | 0, _, i, hi => absurd hi (Nat.not_lt_zero i)
  | n + 1, q, i, hi => by
    unfold allFit at q
    rw [Bool.and_eq_true] at q
    by_cases e : i = n
    · subst e
      exact q.2
    · exact allFit_open q.1 i (by omega)
/-- arraycopy of the first n of one row into another one -/
def pCpI (h : PH) (a0 a kd : Nat) (n : Int32) : Option PH := match h.2.2 a0, h.2.2 a with
  | some (_, .inl (k0, n0, .inl f)), some (true, .inl (k1, n1, .inl g)) => if k0 = kd ∧ k1 = kd ∧ ¬ n < 0 ∧ n.toNatClampNeg ≤ n0 ∧ n.toNatClampNeg ≤ n1 ∧ a0 ≠ a ∧ allFit kd f n.toNatClampNeg = true then some (pPutE h a (.inl (kd, n1, .inl (va_cpy f g 0 0 n.toNatClampNeg)))) else none
  | _, _ => none
theorem pCpI_open {h h1 : PH} {a0 a kd : Nat} {n : Int32} (e : pCpI h a0 a kd n = some h1) : ∃ (b : Bool) (n0 n1 : Nat) (f g : Nat → Int32), h.2.2 a0 = some (b, .inl (kd, n0, .inl f)) ∧ h.2.2 a = some (true, .inl (kd, n1, .inl g)) ∧ ¬ n < 0 ∧ n.toNatClampNeg ≤ n0 ∧ n.toNatClampNeg ≤ n1 ∧ allFit kd f n.toNatClampNeg = true ∧ h1 = pPutE h a (.inl (kd, n1, .inl (va_cpy f g 0 0 n.toNatClampNeg))) := by
  unfold pCpI at e
  split at e
  next b k0 n0 f k1 n1 g e0 e1 =>
    by_cases hc : k0 = kd ∧ k1 = kd ∧ ¬ n < 0 ∧ n.toNatClampNeg ≤ n0 ∧ n.toNatClampNeg ≤ n1 ∧ a0 ≠ a ∧ allFit kd f n.toNatClampNeg = true
    · rw [if_pos hc] at e
      obtain ⟨rfl, rfl, c1, c2, c3, -, c4⟩ := hc
      exact ⟨b, n0, n1, f, g, e0, e1, c1, c2, c3, c4, (Option.some.inj e).symm⟩
    · rw [if_neg hc] at e
      cases e
  next => cases e
def pCpQ (h : PH) (a0 a kd : Nat) (n : Int32) : Option PH := match h.2.2 a0, h.2.2 a with
  | some (_, .inl (k0, n0, .inr (.inr (.inr (.inr f))))), some (true, .inl (k1, n1, .inr (.inr (.inr (.inr g))))) => if k0 = kd ∧ k1 = kd ∧ ¬ n < 0 ∧ n.toNatClampNeg ≤ n0 ∧ n.toNatClampNeg ≤ n1 ∧ a0 ≠ a ∧ allEl h f n.toNatClampNeg = true then some (pPutE h a (.inl (kd, n1, .inr (.inr (.inr (.inr (va_cpy f g 0 0 n.toNatClampNeg))))))) else none
  | _, _ => none
theorem pCpQ_open {h h1 : PH} {a0 a kd : Nat} {n : Int32} (e : pCpQ h a0 a kd n = some h1) : ∃ (b : Bool) (n0 n1 : Nat) (f g : Nat → Option Nat), h.2.2 a0 = some (b, .inl (kd, n0, .inr (.inr (.inr (.inr f))))) ∧ h.2.2 a = some (true, .inl (kd, n1, .inr (.inr (.inr (.inr g))))) ∧ ¬ n < 0 ∧ n.toNatClampNeg ≤ n0 ∧ n.toNatClampNeg ≤ n1 ∧ allEl h f n.toNatClampNeg = true ∧ h1 = pPutE h a (.inl (kd, n1, .inr (.inr (.inr (.inr (va_cpy f g 0 0 n.toNatClampNeg)))))) := by
  unfold pCpQ at e
  split at e
  next b k0 n0 f k1 n1 g e0 e1 =>
    by_cases hc : k0 = kd ∧ k1 = kd ∧ ¬ n < 0 ∧ n.toNatClampNeg ≤ n0 ∧ n.toNatClampNeg ≤ n1 ∧ a0 ≠ a ∧ allEl h f n.toNatClampNeg = true
    · rw [if_pos hc] at e
      obtain ⟨rfl, rfl, c1, c2, c3, -, c4⟩ := hc
      exact ⟨b, n0, n1, f, g, e0, e1, c1, c2, c3, c4, (Option.some.inj e).symm⟩
    · rw [if_neg hc] at e
      cases e
  next => cases e
section GA
variable {l : Launch} {R : Room} {m : MethodId} {H : Heap} {locs : List Loc} {cells slots : Nat} {cc : ByteArray} {nL : Nat} {own : String} {pc : Nat} {ls : Array Slot} {rest : List Value} {Z : Heap → List Loc → Nat → Nat → JFrame → Prop}
theorem g_acmp_eq (G : gX l R cc nL own m Z) {rx ry : Nat} {off : Int} {tgt : Nat} (hdg : decode cc pc = .ok (.if_acmp .eq off, 3)) (ht : (pc : Int) + off = (tgt : Int)) (kt : rx = ry → Z H locs cells slots (F0 m tgt ls rest)) (kf : ¬ rx = ry → Z H locs cells slots (F0 m (pc + 3) ls rest)) : Z H locs cells slots (F0 m pc ls (.ref ry :: .ref rx :: rest)) := by
  obtain ⟨p, e, s, args, below, meth, c, Q, ⟨hx, hb, hml, hown, hts⟩, rfl⟩ := G
  exact lv_acmp_eq (rx := some rx) (ry := some ry) hx hb hdg ht (fun e => kt (Option.some.inj e)) (fun e => kf (fun q => e (by rw [q])))
theorem g_acmp_ne (G : gX l R cc nL own m Z) {rx ry : Nat} {off : Int} {tgt : Nat} (hdg : decode cc pc = .ok (.if_acmp .ne off, 3)) (ht : (pc : Int) + off = (tgt : Int)) (kt : ¬ rx = ry → Z H locs cells slots (F0 m tgt ls rest)) (kf : rx = ry → Z H locs cells slots (F0 m (pc + 3) ls rest)) : Z H locs cells slots (F0 m pc ls (.ref ry :: .ref rx :: rest)) := by
  obtain ⟨p, e, s, args, below, meth, c, Q, ⟨hx, hb, hml, hown, hts⟩, rfl⟩ := G
  exact lv_acmp_ne (rx := some rx) (ry := some ry) hx hb hdg ht (fun e => kt (fun q => e (by rw [q]))) (fun e => kf (Option.some.inj e))
end GA
section PX8
variable {l : Launch} {D : PD} {A : Nat → Prop} {cap : Nat × Nat} {d : Nat} {cc : ByteArray} {nL : Nat} {own : String} {ini : Bool} {rt : Option FieldType} {m : MethodId} {rv : Option Value} {h' : PH} {H0 : Heap} {cx sx : Heap → Nat} {Z : Heap → List Loc → Nat → Nat → JFrame → Prop}
variable {lv : List (Nat × Value)} {h : PH} {H : Heap} {locs : List Loc} {pc : Nat} {ls : Array Slot} {rest : List Value} {a ci k : Nat} {C : String} {T : u_T} {N : Nat} {ty : Nat → FieldType}
theorem p_any {s : State} {args : Array Value} (hK : CK D s) (hM : PI D A cap H0 h H locs) {y : Nat} (hy : isEl (pCls h y) = true) : va_Any "java/lang/Object" s H y := by
  obtain ⟨ci, C, T, N, e1, e2, e3⟩ := isEl_open hy
  obtain ⟨b, fs, he⟩ := pCls_open e1
  refine va_rAny (q0 := 0) (r := (C, T, N)) hK.va (hM.1.at he) rfl e2 (fun comp c0 h1 h2 => ?_)
  exact vb_asgC (hK.2.1 _ e3 rfl) comp c0 h1 h2
/-- a reference into an Object[] -/
theorem p_astO (X : pX l D A cap d cc nL own ini rt m rv h' H0 cx sx Z) (hM : PI D A cap H0 h H locs) {v : Nat} {i : Int32} (hvo : isEl (pCls h v) = true) {h1 : PH} (hv : pStQ h a 4 i (some v) = some h1) (hdg : decode cc pc = .ok (.aastore, 1))
    (kk : ∀ (H : Heap) (locs : List Loc), PI D A cap H0 h1 H locs → Z H locs (cx H) (sx H) (F0 m (pc + 1) ls rest)) : Z H locs (cx H) (sx H) (F0 m pc ls (.ref v :: .int i :: .ref a :: rest)) := by
  obtain ⟨p, e, s, args, below, meth, c, Q, ⟨hx, hb, hml, hown, hts⟩, -, -, ⟨hK, -⟩, rfl, -, -, rfl, rfl, rfl, -⟩ := X
  obtain ⟨n, f, he, hin, rfl⟩ := pStQ_open hv
  obtain ⟨cellV, g1, g3, ⟨kC, hkC⟩, hasg⟩ := p_any (args := args) hK hM hvo
  have hin := inb_in hin
  have hlt : i.toNatClampNeg < n := Nat.not_le.mp fun q => hin (Or.inr q)
  have h0 : ¬ i < 0 := fun q => hin (Or.inl q)
  have hat : H[a]? = some (arrV (dA D 4) n (fun j => va_rf (f j))) := (hM.1.2.2 a true _ he).1
  obtain ⟨kA, comp, k1, k2, k3, -⟩ := (hK.1.2.1 4 (by decide)).2
  obtain ⟨kE, hkE, -⟩ := Vm.findClass_spec k3
  refine W.aast hx hb hat (fun q h => by cases h) (fun h => by cases h) k1 k2 rfl hkE ⟨h0, by rw [arrV_size]; exact hlt⟩ g1 (fun q h => by rw [h] at g3; cases g3) hkC (hasg _ k3) rfl rfl hdg fun H' e1 z oq => ?_
  refine W_tight (Nat.le_refl _) (Nat.le_refl _) (kk H' _ (p_stored hM he rfl e1 ?_ (vp_cell_q _ _ _) z oq))
  funext q
  by_cases hq : q = i.toNatClampNeg <;> simp [updV, va_up, va_rf, hq]
/-- a new row of references (kind 4: Object, 5: State) -/
theorem p_newq (X : pX l D A cap d cc nL own ini rt m rv h' H0 cx sx Z) (hM : PI D A cap H0 h H locs) {idx kd : Nat} (hkd : kd < 8) (hty : kTy kd = .object C) (hq : Cond.classLink own idx C ∈ lw_all) (hover : ∀ U, CK1 D U → va_AO C U) {n : Int32} {N' : Nat} (hn : ¬ n < 0) (hN : n.toNatClampNeg = N') (hby : N' * 4 ≤ 536870912) {q : Nat} {h1 : PH} (hv : pNew cap h (.inl (kd, N', .inr (.inr (.inr (.inr (fun _ => none)))))) N' = some (q, h1)) (hdg : decode cc pc = .ok (.anewarray idx, 3))
    (kk : ∀ (H : Heap) (locs : List Loc), PI D A cap H0 h1 H locs → Z H locs (cx H) (sx H) (F0 m (pc + 3) ls (.ref q :: rest))) : Z H locs (cx H) (sx H) (F0 m pc ls (.int n :: rest)) := by
  obtain ⟨p, e, s, args, below, meth, c, Q, ⟨hx, hb, hml, hown, hts⟩, -, -, ⟨hK, -⟩, rfl, hA, -, rfl, rfl, rfl, -⟩ := X
  obtain ⟨b1, b2, rfl, rfl⟩ := pNew_open hv
  subst hN
  obtain ⟨hP, hcap, hS, hT⟩ := hM
  have hS1 := hS.1
  have e1 := hP.1
  have e2 := hP.2.1
  refine W.anew hx hb hown (hts _ hq) (va_AO.use (hover s hK.1)) rfl hdg rfl hn hby (by show H.size - s.heap.size + 1 ≤ cap.1 - s.heap.size; omega) (by show tot H - tot s.heap + _ ≤ cap.2 - tot s.heap; omega) fun cA kA comp f1 f2 f3 f4 => ?_
  have hRA := (hK.1.2.1 kd hkd).2
  rw [hty] at hRA
  obtain ⟨-, -, -, -, -, g4⟩ := hRA
  have hcA : cA = dA D kd := Option.some.inj (f1.symm.trans g4)
  subst hcA
  have hPn : PP D A (h.1 + 1, h.2.1 + n.toNatClampNeg, va_up h.2.2 h.1 (some (true, .inl (kd, n.toNatClampNeg, .inr (.inr (.inr (.inr (fun _ => none)))))))) (H.push { cls := dA D kd, slots := Array.replicate n.toNatClampNeg .null, vm := .none }) := by
    refine PP.new hP (by simp) (hA _ hS1) ?_
    show (H.push _)[h.1]? = some (vp_cell (dA D kd) _)
    rw [← e1, vp_cell_q, show (fun j => va_rf ((fun _ => none) j)) = (fun _ : Nat => Value.null) from rfl, ← arrV_new]
    simp
  rw [e1]
  refine W_tight (Nat.le_refl _) (Nat.le_refl _) (kk _ _ ⟨hPn, ⟨b1, b2⟩, ?_, by rw [tot_push]; omega⟩)
  refine ⟨by simp; omega, fun x h1 h2 => ?_, hS.2.2⟩
  rw [Array.getElem?_push, if_neg (by omega)]
  exact hS.2.1 x h1 h2
theorem p_nn (z : Int32) (hz : ¬ z < 0) : z.toInt = (z.toNatClampNeg : Int) := by
  have hz0 : (0 : Int) ≤ z.toInt := by
    have := Int32.not_lt.mp hz
    simpa using Int32.le_iff_toInt_le.mp this
  show z.toInt = ((z.toInt.toNat : Nat) : Int)
  omega
theorem p_copied {kd : Nat} {x x1 : vp_A} {H' : Heap} {L : List Loc} (hM : PI D A cap H0 h H locs) (he : h.2.2 a = some (true, .inl (kd, x))) (hs : (vp_cell (dA D kd) x1).slots.size = (vp_cell (dA D kd) x).slots.size) (e1 : H'[a]? = some (vp_cell (dA D kd) x1)) (hz : H'.size = H.size) (hq : ∀ q : Nat, q ≠ a → H'[q]? = H[q]?) (hL : ∀ q ∈ L, q.base = a) : PI D A cap H0 (pPutE h a (.inl (kd, x1))) H' (locs ++ L) := by
  obtain ⟨hP, hcap, hS, hT⟩ := hM
  obtain ⟨r1, r2⟩ := hP.2.2 a true _ he
  have r1 : H[a]? = some (vp_cell (dA D kd) x) := r1
  refine ⟨PP.put hP he hz r1 e1 hs hq e1, hcap, ⟨by rw [hz]; exact hS.1, fun q g1 g2 => ?_, fun q hq2 => ?_⟩, by rw [tot_set hz r1 e1 hs hq]; exact hT⟩
  · rw [hq q (fun e => g2 (by rw [e]; exact r2 rfl))]
    exact hS.2.1 q g1 g2
  · rcases List.mem_append.mp hq2 with h | h
    · exact hS.2.2 q h
    · rw [hL q h]
      exact r2 rfl
theorem p_copyI (X : pX l D A cap d cc nL own ini rt m rv h' H0 cx sx Z) (hM : PI D A cap H0 h H locs) (hl : lv_has ls nL lv) {kd a0 idx : Nat} (hkd : kd < 8) (hprim : refKind (kTy kd) = false) (hlink : Cond.methodLink own idx arraycopyName ∈ lw_all) (hnat : Cond.native arraycopyName ∈ lw_all) (hstat : Cond.static arraycopyName ∈ lw_all) (hini : Cond.initialized "java/lang/System" ∈ lw_all)
    {n : Int32} {h1 : PH} (hv : pCpI h a0 a kd n = some h1) (hd : 2 ≤ d) (hrm : (rest.map fun v => v.category).sum ≤ 8) (hdg : decode cc pc = .ok (.invokestatic idx, 3))
    (kk : ∀ (H : Heap) (locs : List Loc), PI D A cap H0 h1 H locs → Z H locs (cx H) (sx H) (F0 m (pc + 3) ls rest)) : Z H locs (cx H) (sx H) (F0 m pc ls (.int n :: .int 0 :: .ref a :: .int 0 :: .ref a0 :: rest)) := by
  obtain ⟨p, e, s, args, below, meth, c, Q, ⟨hx, hb, hml, hown, hts⟩, -, -, ⟨hK, -⟩, rfl, hA, -, rfl, rfl, rfl, -⟩ := X
  obtain ⟨b, n0, n1, f, g, he0, he1, h3, h4, h5, hfit, rfl⟩ := pCpI_open hv
  have hc0 : H[a0]? = some (vp_cell (dA D kd) (n0, .inl f)) := (hM.1.2.2 a0 _ _ he0).1
  have hc1 : H[a]? = some (vp_cell (dA D kd) (n1, .inl g)) := (hM.1.2.2 a _ _ he1).1
  obtain ⟨-, k0, hk0, cm0, hkk0⟩ := (hK.1.2.1 kd hkd).1 n0 (fun j => .int (f j))
  obtain ⟨-, k1, hk1, cm1, hkk1⟩ := (hK.1.2.1 kd hkd).1 n1 (fun j => .int (g j))
  have hz : (0 : Int32).toNatClampNeg = 0 := by decide
  intro T hT X
  obtain ⟨vm', X', step⟩ := X.arraycopy hx hown (hts _ hlink) (hts _ hnat) (hts _ hstat) (hts _ hini) (src := a0) (dst := a) (cs := vp_cell (dA D kd) (n0, .inl f)) (cd := vp_cell (dA D kd) (n1, .inl g)) (srcPos := 0) (destPos := 0) (n := n) (by rw [hT]; exact hc0) (by rw [hT]; exact hc1)
    (fun _ h => by cases h) (fun _ h => by cases h) (fun h => by cases h) (fun h => by cases h) hk0 hk1 hkk0 hkk1 (by simp [hprim]) (by decide) (by decide) h3
    (by rw [p_nn n h3]; show ¬ _ > ((arrV (dA D kd) n0 (fun j => .int (f j))).slots.size : Int); rw [arrV_size]; show ¬ (0 : Int) + _ > _; omega)
    (by rw [p_nn n h3]; show ¬ _ > ((arrV (dA D kd) n1 (fun j => .int (g j))).slots.size : Int); rw [arrV_size]; show ¬ (0 : Int) + _ > _; omega)
    (fun vm₁ _ i hi => by
      have e : (vp_cell (dA D kd) (n0, .inl f)).slots.getD ((0 : Int32).toNatClampNeg + i) .null = .int (f i) := by
        show (arrV (dA D kd) n0 (fun j => .int (f j))).slots.getD _ _ = _
        rw [hz, Nat.zero_add, Array.getD_eq_getD_getElem?, arrV_read _ _ (by omega)]
        rfl
      refine ⟨?_, ?_⟩
      · rw [e]
        exact allFit_open hfit i hi
      · rw [e]
        exact trivial)
    (g := F0 m pc ls (.int n :: .int 0 :: .ref a :: .int 0 :: .ref a0 :: rest)) rfl (by rw [hml, hl.1]) (rest := rest) rfl (by rw [hb]; exact hdg) (by show 1 ≤ d; omega) (by show 2 * 0 + _ + _ ≤ 70 * d; have hw : nativeFrameWords "java/lang/System" "arraycopy" 5 = 7 := (by decide); omega)
  have e1 : copied (vp_cell (dA D kd) (n0, .inl f)) (vp_cell (dA D kd) (n1, .inl g)) 0 0 n = vp_cell (dA D kd) (n1, .inl (va_cpy f g 0 0 n.toNatClampNeg)) := va_copied (sp := (0 : Int32).toNatClampNeg) (dp := (0 : Int32).toNatClampNeg) (fun z => .int z) (dA D kd) (dA D kd) f g (by omega)
  rw [e1] at X' step
  have hl2 : a < H.size := (Array.getElem?_eq_some_iff.mp hc1).1
  have hheap : ((T.setVm vm').setCell a (vp_cell (dA D kd) (n1, .inl (va_cpy f g 0 0 n.toNatClampNeg)))).heap = H.setIfInBounds a (vp_cell (dA D kd) (n1, .inl (va_cpy f g 0 0 n.toNatClampNeg))) := by rw [← hT]; rfl
  have oq : ∀ q : Nat, q ≠ a → (H.setIfInBounds a (vp_cell (dA D kd) (n1, .inl (va_cpy f g 0 0 n.toNatClampNeg))))[q]? = H[q]? := fun q hq => by simp [Array.getElem?_setIfInBounds, Ne.symm hq]
  obtain ⟨t, a1, b1⟩ := W_tight (cells := H.size - s.heap.size) (slots := tot H - tot s.heap) (Nat.le_refl _) (Nat.le_refl _) (kk _ _ (p_copied hM he1 (by show (arrV _ _ _).slots.size = (arrV _ _ _).slots.size; rw [arrV_size, arrV_size]) (show (H.setIfInBounds a _)[a]? = some _ by simp [Array.getElem?_setIfInBounds, hl2]) (by simp) oq (L := _) (fun q hq => by
    obtain ⟨z, -, hz⟩ := List.mem_map.mp hq
    rw [← hz]))) _ hheap X'
  exact ⟨t, step t a1, b1⟩
theorem p_copyQ (X : pX l D A cap d cc nL own ini rt m rv h' H0 cx sx Z) (hM : PI D A cap H0 h H locs) (hl : lv_has ls nL lv) {a0 idx : Nat} (hlink : Cond.methodLink own idx arraycopyName ∈ lw_all) (hnat : Cond.native arraycopyName ∈ lw_all) (hstat : Cond.static arraycopyName ∈ lw_all) (hini : Cond.initialized "java/lang/System" ∈ lw_all)
    {n : Int32} {h1 : PH} (hv : pCpQ h a0 a 4 n = some h1) (hd : 2 ≤ d) (hrm : (rest.map fun v => v.category).sum ≤ 8) (hdg : decode cc pc = .ok (.invokestatic idx, 3))
    (kk : ∀ (H : Heap) (locs : List Loc), PI D A cap H0 h1 H locs → Z H locs (cx H) (sx H) (F0 m (pc + 3) ls rest)) : Z H locs (cx H) (sx H) (F0 m pc ls (.int n :: .int 0 :: .ref a :: .int 0 :: .ref a0 :: rest)) := by
  obtain ⟨p, e, s, args, below, meth, c, Q, ⟨hx, hb, hml, hown, hts⟩, -, -, ⟨hK, -⟩, rfl, hA, -, rfl, rfl, rfl, -⟩ := X
  obtain ⟨b, n0, n1, f, g, he0, he1, h3, h4, h5, hel, rfl⟩ := pCpQ_open hv
  have hc0 : H[a0]? = some (arrV (dA D 4) n0 (fun j => va_rf (f j))) := (hM.1.2.2 a0 _ _ he0).1
  have hc1 : H[a]? = some (arrV (dA D 4) n1 (fun j => va_rf (g j))) := (hM.1.2.2 a _ _ he1).1
  obtain ⟨-, k0, hk0, cm0, hkk0⟩ := (hK.1.2.1 4 (by decide)).1 n0 (fun j => va_rf (f j))
  obtain ⟨-, k1, hk1, cm1, hkk1⟩ := (hK.1.2.1 4 (by decide)).1 n1 (fun j => va_rf (g j))
  have hz : (0 : Int32).toNatClampNeg = 0 := by decide
  intro T hT X
  obtain ⟨vm', X', step⟩ := X.arraycopy hx hown (hts _ hlink) (hts _ hnat) (hts _ hstat) (hts _ hini) (src := a0) (dst := a) (cs := arrV (dA D 4) n0 (fun j => va_rf (f j))) (cd := arrV (dA D 4) n1 (fun j => va_rf (g j))) (srcPos := 0) (destPos := 0) (n := n) (by rw [hT]; exact hc0) (by rw [hT]; exact hc1)
    (fun _ h => by cases h) (fun _ h => by cases h) (fun h => by cases h) (fun h => by cases h) hk0 hk1 hkk0 hkk1 rfl (by decide) (by decide) h3
    (by rw [p_nn n h3]; show ¬ _ > ((arrV (dA D 4) n0 (fun j => va_rf (f j))).slots.size : Int); rw [arrV_size]; show ¬ (0 : Int) + _ > _; omega)
    (by rw [p_nn n h3]; show ¬ _ > ((arrV (dA D 4) n1 (fun j => va_rf (g j))).slots.size : Int); rw [arrV_size]; show ¬ (0 : Int) + _ > _; omega)
    (fun vm₁ hal i hi => by
      have e : (arrV (dA D 4) n0 (fun j => va_rf (f j))).slots.getD ((0 : Int32).toNatClampNeg + i) .null = va_rf (f i) := by
        rw [hz, Nat.zero_add, Array.getD_eq_getD_getElem?, arrV_read _ _ (by omega)]
        rfl
      rw [e]
      cases hy : f i with
      | none => exact ⟨rfl, trivial⟩
      | some y =>
        obtain ⟨cellV, g1, g2, ⟨kC, hkC⟩, hasg⟩ := p_any (args := args) hK hM (allEl_open hel i hi y hy)
        obtain ⟨kA, comp, r1, r2, r3, -⟩ := (hK.1.2.1 4 (by decide)).2
        cases hk1.symm.trans r1
        cases hkk1.symm.trans r2
        obtain ⟨kE, hkE, -⟩ := Vm.findClass_spec r3
        obtain ⟨kC', hkC', -⟩ := hal.2.2 _ _ hkC
        obtain ⟨kE', hkE', -⟩ := hal.2.2 _ _ hkE
        refine ⟨rfl, cellV, (show T.heap[y]? = some cellV by rw [hT]; exact g1), (fun q h => by rw [h] at g2; cases g2), ⟨kC', hkC'⟩, ?_, ?_⟩
        · exact ⟨kE', hkE'⟩
        · show vm₁.assignable _ _ = true
          rw [hal.assignable]
          exact hasg _ r3)
    (g := F0 m pc ls (.int n :: .int 0 :: .ref a :: .int 0 :: .ref a0 :: rest)) rfl (by rw [hml, hl.1]) (rest := rest) rfl (by rw [hb]; exact hdg) (by show 1 ≤ d; omega) (by show 2 * 0 + _ + _ ≤ 70 * d; have hw : nativeFrameWords "java/lang/System" "arraycopy" 5 = 7 := (by decide); omega)
  have e1 : copied (arrV (dA D 4) n0 (fun j => va_rf (f j))) (arrV (dA D 4) n1 (fun j => va_rf (g j))) 0 0 n = arrV (dA D 4) n1 (fun j => va_rf (va_cpy f g 0 0 n.toNatClampNeg j)) := va_copied (sp := (0 : Int32).toNatClampNeg) (dp := (0 : Int32).toNatClampNeg) (fun z => va_rf z) (dA D 4) (dA D 4) f g (by omega)
  rw [e1] at X' step
  have hl2 : a < H.size := (Array.getElem?_eq_some_iff.mp hc1).1
  have hheap : ((T.setVm vm').setCell a (arrV (dA D 4) n1 (fun j => va_rf (va_cpy f g 0 0 n.toNatClampNeg j)))).heap = H.setIfInBounds a (arrV (dA D 4) n1 (fun j => va_rf (va_cpy f g 0 0 n.toNatClampNeg j))) := by rw [← hT]; rfl
  have oq : ∀ q : Nat, q ≠ a → (H.setIfInBounds a (arrV (dA D 4) n1 (fun j => va_rf (va_cpy f g 0 0 n.toNatClampNeg j))))[q]? = H[q]? := fun q hq => by simp [Array.getElem?_setIfInBounds, Ne.symm hq]
  obtain ⟨t, a1, b1⟩ := W_tight (cells := H.size - s.heap.size) (slots := tot H - tot s.heap) (Nat.le_refl _) (Nat.le_refl _) (kk _ _ (p_copied (x1 := (n1, .inr (.inr (.inr (.inr (va_cpy f g 0 0 n.toNatClampNeg)))))) hM he1 (by show (arrV _ _ _).slots.size = (arrV _ _ _).slots.size; rw [arrV_size, arrV_size]) (show (H.setIfInBounds a _)[a]? = some _ by simp [Array.getElem?_setIfInBounds, hl2, vp_cell_q]) (by simp) oq (L := _) (fun q hq => by
    obtain ⟨z, -, hz⟩ := List.mem_map.mp hq
    rw [← hz]))) _ hheap X'
  exact ⟨t, step t a1, b1⟩
theorem p_ldcM (X : pX l D A cap d cc nL own ini rt m rv h' H0 cx sx Z) {idx : Nat} (hq : Cond.classLink own idx "[Ljava/lang/Object;" ∈ lw_all) (hdg : decode cc pc = .ok (.ldc idx, 2))
    (kk : Z H locs (cx H) (sx H) (F0 m (pc + 2) ls (.ref (dK D 40) :: rest))) : Z H locs (cx H) (sx H) (F0 m pc ls rest) := by
  obtain ⟨p, e, s, args, below, meth, c, Q, ⟨hx, hb, hml, hown, hts⟩, -, -, ⟨hK, -⟩, rfl, hA, -, rfl, rfl, rfl, -⟩ := X
  exact va_ldcM hx hb hown (hts _ hq) hK.2.2.2.1 hdg kk
theorem p_getC (X : pX l D A cap d cc nL own ini rt m rv h' H0 cx sx Z) (hM : PI D A cap H0 h H locs) (hl : lv_has ls nL lv) {idx : Nat} {x : vp_A} (hv : pArr h a 4 = some x) (hlink : Cond.methodLink own idx ⟨"java/lang/Object", "getClass", "()Ljava/lang/Class;"⟩ ∈ lw_all) (hd : 2 ≤ d) (hrm : (rest.map fun v => v.category).sum ≤ 8) (hdg : decode cc pc = .ok (.invokevirtual idx, 3))
    (kk : Z H locs (cx H) (sx H) (F0 m (pc + 3) ls (.ref (dK D 40) :: rest))) : Z H locs (cx H) (sx H) (F0 m pc ls (.ref a :: rest)) := by
  obtain ⟨p, e, s, args, below, meth, c, Q, ⟨hx, hb, hml, hown, hts⟩, -, -, ⟨hK, -⟩, rfl, hA, -, rfl, rfl, rfl, -⟩ := X
  obtain ⟨b, he⟩ := pArr_open hv
  have hvt : H[a]? = some (vp_cell (dA D 4) x) := (hM.1.2.2 a _ _ he).1
  have hcl : (vp_cell (dA D 4) x).cls = dA D 4 := by obtain ⟨n2, f2 | f2 | f2 | f2 | f2⟩ := x <;> rfl
  have hvm : (vp_cell (dA D 4) x).vm = .none := by obtain ⟨n2, f2 | f2 | f2 | f2 | f2⟩ := x <;> rfl
  obtain ⟨-, -, -, -, -, g4⟩ := (hK.1.2.1 4 (by decide)).2
  exact va_getC hx hb (by rw [hml, hl.1]) hown (hts _ hlink) (va_Nw.use rfl (hK.2.1 _ q2504 rfl)) (hts _ q2503) (hts _ q845) (hts _ q870) hK.2.2.2.1 ⟨_, hvt, by rw [hvm]; rfl, by rw [hcl]; exact g4⟩ (by show 1 ≤ d; omega) (by show _ + 14 ≤ 70 * d; omega) hdg kk
theorem p_newO (X : pX l D A cap d cc nL own ini rt m rv h' H0 cx sx Z) (hM : PI D A cap H0 h H locs) {idx : Nat} (hq : Cond.classLink own idx "java/lang/Object" ∈ lw_all) {n : Int32} (hn : (!decide (n < 0) && decide (n.toNatClampNeg ≤ 100000)) = true) {q : Nat} {h1 : PH} (hv : pNew cap h (.inl (4, n.toNatClampNeg, .inr (.inr (.inr (.inr (fun _ => none)))))) n.toNatClampNeg = some (q, h1)) (hdg : decode cc pc = .ok (.anewarray idx, 3))
    (kk : ∀ (H : Heap) (locs : List Loc), PI D A cap H0 h1 H locs → Z H locs (cx H) (sx H) (F0 m (pc + 3) ls (.ref q :: rest))) : Z H locs (cx H) (sx H) (F0 m pc ls (.int n :: rest)) :=
  p_newq X hM (kd := 4) (by decide) rfl hq (fun U h => h.2.2.2.1.1) (nw_ok (b := 4) (by decide) hn).1 rfl (nw_ok (b := 4) (by decide) hn).2 hv hdg kk
theorem p_newSt (X : pX l D A cap d cc nL own ini rt m rv h' H0 cx sx Z) (hM : PI D A cap H0 h H locs) {idx : Nat} (hq : Cond.classLink own idx "PupilsPupil$State" ∈ lw_all) {n : Int32} (hn : (!decide (n < 0) && decide (n.toNatClampNeg ≤ 100000)) = true) {q : Nat} {h1 : PH} (hv : pNew cap h (.inl (5, n.toNatClampNeg, .inr (.inr (.inr (.inr (fun _ => none)))))) n.toNatClampNeg = some (q, h1)) (hdg : decode cc pc = .ok (.anewarray idx, 3))
    (kk : ∀ (H : Heap) (locs : List Loc), PI D A cap H0 h1 H locs → Z H locs (cx H) (sx H) (F0 m (pc + 3) ls (.ref q :: rest))) : Z H locs (cx H) (sx H) (F0 m pc ls (.int n :: rest)) :=
  p_newq X hM (kd := 5) (by decide) rfl hq (fun U h => h.2.2.2.1.2) (nw_ok (b := 4) (by decide) hn).1 rfl (nw_ok (b := 4) (by decide) hn).2 hv hdg kk
end PX8
section PX9
variable {l : Launch} {D : PD} {A : Nat → Prop} {cap : Nat × Nat} {d : Nat} {cc : ByteArray} {nL : Nat} {own : String} {ini : Bool} {rt : Option FieldType} {m : MethodId} {rv : Option Value} {h' : PH} {H0 : Heap} {cx sx : Heap → Nat} {Z : Heap → List Loc → Nat → Nat → JFrame → Prop}
variable {lv : List (Nat × Value)} {h : PH} {H : Heap} {locs : List Loc} {pc : Nat} {ls : Array Slot} {rest : List Value} {a ci k : Nat} {C : String} {T : u_T} {N : Nat} {ty : Nat → FieldType}
theorem p_getM (X : pX l D A cap d cc nL own ini rt m rv h' H0 cx sx Z) (hM : PI D A cap H0 h H locs) (hc : pC ci C T N ty) (hk : k < N) {idx : Nat} {ref : String} (hq : Cond.fieldLink own idx ref (T k).2.1 (T k).2.2.1 ∈ lw_all) (hsf : ∀ (args : Array Value) (s : State), (∀ w ∈ lw_all, w.before args s = true) → (Cond.sameField ref (T k).1 (T k).2.1 (T k).2.2.1).before args s = true) {v : Value} (hv : pF h a ci k = some v) (hdg : decode cc pc = .ok (.getfield idx, 3))
    (kk : Z H locs (cx H) (sx H) (F0 m (pc + 3) ls (v :: rest))) : Z H locs (cx H) (sx H) (F0 m pc ls (.ref a :: rest)) := by
  obtain ⟨p, e, s, args, below, meth, c, Q, ⟨hx, hb, hml, hown, hts⟩, -, -, ⟨hK, -⟩, -, -, -, -, -, rfl, -⟩ := X
  obtain ⟨b, fs, he, hf⟩ := pF_open hv
  exact va_get hx hb hts hc.2.1 hown hK.va (hM.1.at he) 0 rfl hc.1 k hk (hts _ hq) (fun x hx => u_same (hsf _ _ hts) x hx) hf hdg kk
theorem p_putM (X : pX l D A cap d cc nL own ini rt m rv h' H0 cx sx Z) (hM : PI D A cap H0 h H locs) (hc : pC ci C T N ty) (hk : k < N) {idx : Nat} {ref : String} (hq : Cond.fieldLink own idx ref (T k).2.1 (T k).2.2.1 ∈ lw_all) (hsf : ∀ (args : Array Value) (s : State), (∀ w ∈ lw_all, w.before args s = true) → (Cond.sameField ref (T k).1 (T k).2.1 (T k).2.2.1).before args s = true) (hfin : (T k).2.2.2 = false) {v : Value} (hn : narrow (ty k) v = v) (hfit : fits (ty k) v = true) {h1 : PH} (hv : pPut h a ci k v = some h1) (hdg : decode cc pc = .ok (.putfield idx, 3))
    (kk : ∀ (H : Heap) (locs : List Loc), PI D A cap H0 h1 H locs → Z H locs (cx H) (sx H) (F0 m (pc + 3) ls rest)) : Z H locs (cx H) (sx H) (F0 m pc ls (v :: .ref a :: rest)) := by
  obtain ⟨p, e, s, args, below, meth, c, Q, ⟨hx, hb, hml, hown, hts⟩, -, -, ⟨hK, -⟩, rfl, -, -, rfl, rfl, rfl, -⟩ := X
  obtain ⟨fs, he, hl, -⟩ := pPut_open hv
  obtain ⟨r, h1', cell, q1, q2, q3, q4⟩ := (hM.1.2.2 a _ _ he).1
  have hr : r = (C, T, N) := Option.some.inj (h1'.symm.trans hc.1)
  subst hr
  obtain ⟨hS, hfc, kC, hkC, hkind⟩ := hK.1.1 ci _ hc.1
  obtain ⟨cf, kf, fi, f, hi, hsl⟩ := hS k hk
  have hlay := hts _ (hc.2.1 _ (u_in_lay hk))
  unfold u_lay at hlay
  rw [if_neg (by rw [hfin]; decide)] at hlay
  have hst := (u_facts hfc hkC (u_lays hts hc.2.1 hk) hi).1
  have h6 := u_store hfc hkC hkind hlay hi (hc.2.2.1 k hk) hn hfit
  refine W.putK hx hb (f := f) ⟨hown, hts _ hq, ⟨_, _, _, u_same (hsf _ _ hts) _ hi⟩, hst⟩ (by rw [q2]; exact h6) q1 q3 (by rw [hsl]; exact k2_hasslot (q4 k hk)) rfl rfl hdg fun H' e1 e2 e3 => ?_
  rw [hsl] at e1 ⊢
  have hI := p_wrote (j := D.2.1 ci k) hK hts hM hc hk hv q1 q2 q3 (by rw [he]; exact q4) e1 e2 e3
  exact W_tight (Nat.le_refl _) (Nat.le_refl _) (kk H' _ hI)
end PX9
