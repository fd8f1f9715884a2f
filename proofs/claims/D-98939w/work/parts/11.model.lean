/-! PART 11: PupilsPupilModel: its state, its picture in the heap, its rows (printed by mkmodel11.py) -/
set_option maxRecDepth 100000
def mI (z : MS) (k : Nat) : Int32 := z.1 k
def mL (z : MS) (k : Nat) : Int64 := z.2.1 k
def mA (z : MS) (k i : Nat) : Int32 := z.2.2.1 k i
def mB (z : MS) (k i : Nat) : Int64 := z.2.2.2 k i
def wI (z : MS) (k : Nat) (v : Int32) : MS := (va_up z.1 k v, z.2)
def wL (z : MS) (k : Nat) (v : Int64) : MS := (z.1, va_up z.2.1 k v, z.2.2)
def wA (z : MS) (k i : Nat) (v : Int32) : MS := (z.1, z.2.1, va_up z.2.2.1 k (va_up (z.2.2.1 k) i v), z.2.2.2)
def wB (z : MS) (k i : Nat) (v : Int64) : MS := (z.1, z.2.1, z.2.2.1, va_up z.2.2.2 k (va_up (z.2.2.2 k) i v))
def mN : Nat → Nat := fun k => match k with
  | 0 => 1600
  | 9 => 6
  | 10 => 4
  | 11 => 5
  | 12 => 6
  | 13 => 4
  | 14 => 5
  | 15 => 4
  | 16 => 6
  | 17 => 2
  | 18 => 5
  | 19 => 6
  | 20 => 4
  | 21 => 4
  | 22 => 5
  | 23 => 3
  | 24 => 5
  | 25 => 5
  | 26 => 4
  | 27 => 5
  | 28 => 5
  | 29 => 4
  | 30 => 5
  | 31 => 6
  | 32 => 2
  | 33 => 3
  | 34 => 3
  | 35 => 3
  | 36 => 3
  | 37 => 3
  | 39 => 4
  | 40 => 32
  | 41 => 16
  | 42 => 16
  | 43 => 8
  | 44 => 8
  | 45 => 8
  | 46 => 6
  | 47 => 6
  | 48 => 6
  | 49 => 3200
  | 53 => 132
  | 54 => 41
  | 56 => 8
  | 57 => 8
  | 61 => 32
  | 62 => 8
  | 63 => 24
  | 64 => 2640
  | 68 => 5
  | 69 => 4
  | 70 => 5
  | 71 => 5
  | 72 => 4
  | 73 => 5
  | 74 => 3
  | 75 => 3
  | 76 => 2
  | 77 => 3
  | 78 => 3
  | 79 => 3
  | 80 => 4
  | 81 => 5
  | 82 => 5
  | 83 => 4
  | 84 => 5
  | 85 => 5
  | 86 => 5
  | 87 => 4
  | 88 => 5
  | 89 => 6
  | 90 => 5
  | 91 => 4
  | 92 => 2
  | 93 => 1700
  | 95 => 1700
  | 99 => 1700
  | 103 => 43
  | _ => 0
def mW : Nat → List Int32 := fun k => match k with
  | 10 => [102, 97, 99, 116]
  | 11 => [119, 111, 114, 116, 104]
  | 12 => [112, 101, 114, 115, 111, 110]
  | 13 => [99, 97, 108, 109]
  | 14 => [107, 110, 111, 119, 115]
  | 15 => [101, 114, 114, 115]
  | 16 => [116, 97, 117, 103, 104, 116]
  | 17 => [98, 121]
  | 18 => [116, 97, 107, 101, 115]
  | 19 => [103, 97, 114, 98, 108, 101]
  | 20 => [115, 105, 116, 115]
  | 21 => [112, 97, 115, 115]
  | 22 => [116, 114, 105, 101, 115]
  | 23 => [105, 108, 108]
  | 24 => [114, 105, 103, 104, 116]
  | 25 => [119, 114, 111, 110, 103]
  | 26 => [121, 101, 97, 114]
  | 27 => [99, 108, 97, 115, 115]
  | 28 => [109, 99, 97, 108, 109]
  | 29 => [108, 101, 102, 116]
  | 30 => [109, 97, 114, 107, 115]
  | 31 => [110, 117, 109, 98, 101, 114]
  | 32 => [111, 114]
  | 33 => [97, 110, 100]
  | 34 => [110, 111, 116]
  | 35 => [97, 108, 108]
  | 36 => [109, 105, 110]
  | 37 => [109, 97, 120]
  | 68 => [102, 105, 114, 115, 116]
  | 69 => [108, 97, 115, 116]
  | 70 => [111, 102, 116, 101, 110]
  | 71 => [116, 111, 116, 97, 108]
  | 72 => [109, 111, 115, 116]
  | 73 => [108, 101, 97, 115, 116]
  | 74 => [110, 111, 116]
  | 75 => [97, 110, 100]
  | 76 => [111, 114]
  | 77 => [97, 108, 108]
  | 78 => [109, 105, 110]
  | 79 => [109, 97, 120]
  | 80 => [99, 97, 108, 109]
  | 81 => [114, 105, 103, 104, 116]
  | 82 => [119, 114, 111, 110, 103]
  | 83 => [121, 101, 97, 114]
  | 84 => [119, 111, 114, 116, 104]
  | 85 => [99, 108, 97, 115, 115]
  | 86 => [109, 99, 97, 108, 109]
  | 87 => [108, 101, 102, 116]
  | 88 => [109, 97, 114, 107, 115]
  | 89 => [110, 117, 109, 98, 101, 114]
  | 90 => [107, 110, 111, 119, 115]
  | 91 => [101, 114, 114, 115]
  | 92 => [98, 121]
  | _ => []
abbrev MD : Type := ClassId × (Nat → Nat) × ClassId × ClassId × ClassId
def mV (ad : Nat → Nat) (z : MS) (k : Nat) : Value := match tyX6 k with
  | .int => .int (mI z k)
  | .boolean => .int (mI z k)
  | .long => .long (mL z k)
  | _ => .ref (ad k)
def mAr (k : Nat) : Bool := match tyX6 k with
  | .array _ => true
  | _ => false
def mCell (D : MD) (z : MS) (k : Nat) : Option Cell := match tyX6 k with
  | .array .int => some (arrV D.2.2.1 (mN k) (fun j => .int (mA z k j)))
  | .array .long => some (arrV D.2.2.2.1 (mN k) (fun j => .long (mB z k j)))
  | .array .char => some (arrV D.2.2.2.2 (mN k) (fun j => .int ((mW k).getD j 0)))
  | _ => none
/-- the addresses of the object's arrays are apart -/
def MJ (o : Nat) (ad : Nat → Nat) : Prop := (∀ a b, a < 105 → b < 105 → mAr a = true → mAr b = true → ad a = ad b → a = b) ∧ ∀ a, a < 105 → mAr a = true → ad a ≠ o
/-- the heap holds the object at o with the state z -/
def MP (D : MD) (o : Nat) (ad : Nat → Nat) (z : MS) (H : Heap) : Prop :=
  t_OB o D.1 105 D.2.1 H (mV ad z) ∧ (∀ (k : Nat) (c : Cell), k < 105 → mCell D z k = some c → H[ad k]? = some c) ∧ MJ o ad
def MA (o : Nat) (ad : Nat → Nat) : Nat → Prop := fun q => q = o ∨ ∃ k, k < 105 ∧ mAr k = true ∧ q = ad k
def MK (D : MD) (s : State) : Prop := u_Kn s RX6 TX6 105 D.1 D.2.1 ∧ ArrOfT s D.2.2.1 .int ∧ ArrOfT s D.2.2.2.1 .long ∧ ArrOfT s D.2.2.2.2 .char
theorem MK.moved {D : MD} {u U : State} (hvm : u.vm.Alike U.vm) (h : MK D u) : MK D U := ⟨u_Kn_moved hvm h.1, arrOfT_moved hvm h.2.1, arrOfT_moved hvm h.2.2.1, arrOfT_moved hvm h.2.2.2⟩
def MI (D : MD) (o : Nat) (ad : Nat → Nat) (H0 : Heap) (z : MS) (H : Heap) (locs : List Loc) : Prop := MP D o ad z H ∧ va_S (MA o ad) H0 H locs ∧ H.size = H0.size
def MQc (D : MD) (o : Nat) (ad : Nat → Nat) (z' : MS) (rv : Option Value) : Array Value → State → Outcome → State → Prop := fun _ st oc t => (oc = .returned rv ∧ MP D o ad z' t.heap ∧ t.heap.size = st.heap.size) ∧ va_F (MA o ad) st t
def MPc (D : MD) (o : Nat) (ad : Nat → Nat) (z : MS) (av : List Value) : Array Value → State → Prop := va_Pc av (fun U => MP D o ad z U.heap ∧ MK D U)
/-- the contract of a method of the Model: from the state z it comes to z' and answers rv -/
def MMet (l : Launch) (D : MD) (o : Nat) (ad : Nat → Nat) (y : MethodName) (cy : ByteArray) (ny : Nat) (rty : Option FieldType) (d : Nat) (av : List Value) (z z' : MS) (rv : Option Value) : Prop :=
  Met l y (ws_ y cy ny rty) (rmL d) (MPc D o ad z av) (MQc D o ad z' rv) 0 0 (MA o ad)
def mX (l : Launch) (D : MD) (o : Nat) (ad : Nat → Nat) (d : Nat) (cc : ByteArray) (nL : Nat) (rt : Option FieldType) (m : MethodId) (rv : Option Value) (z' : MS) (H0 : Heap) (Z : Heap → List Loc → Nat → Nat → JFrame → Prop) : Prop :=
  ∃ (p : Program) (e : Env) (s : State) (args : Array Value) (below : List Frame) (meth : Method) (c : Code), CallFix p m c cc nL s args lw_all RX6 ∧ meth.sig.returnType = rt ∧ meth.locks = false ∧ MK D s ∧ s.heap = H0 ∧
    Z = fun H locs cells slots g => W p l e (rmL d) s m args below meth c H locs cells slots (MQ below (MQc D o ad z' rv) args s 0 0 (MA o ad)) g
/-- a field's number, its entry in the pool, its type, whether it is final -/
def mFd (k idx : Nat) (ty : FieldType) (fin : Bool) : Prop := k < 105 ∧ tyX6 k = ty ∧ (TX6 k).2.2.2 = fin ∧ Cond.fieldLink RX6 idx RX6 (TX6 k).2.1 (TX6 k).2.2.1 ∈ lw_all
theorem tX6_cls : ∀ k, k < 105 → (TX6 k).1 = RX6 := by decide +kernel
theorem m_set {D : MD} {o : Nat} {ad : Nat → Nat} {z z1 : MS} {H H1 : Heap} (h : MP D o ad z H) (hV : ∀ k, k < 105 → mV ad z1 k = mV ad z k) (k0 : Nat) (hk0 : k0 < 105) (hA : mAr k0 = true) {c1 : Cell} (hc1 : mCell D z1 k0 = some c1) (hat : H1[ad k0]? = some c1) (ho : ∀ k, k ≠ k0 → mCell D z1 k = mCell D z k) (hq : ∀ q : Nat, q ≠ ad k0 → H1[q]? = H[q]?) : MP D o ad z1 H1 := by
  obtain ⟨h1, h2, h3⟩ := h
  refine ⟨t_OB.to (h1.kept (hq o (fun e => h3.2 k0 hk0 hA e.symm))) (fun k hk => (hV k hk).symm), fun k c hk hc => ?_, h3⟩
  by_cases hkk : k = k0
  · subst hkk
    rw [hc1] at hc
    cases hc
    exact hat
  · rw [ho k hkk] at hc
    have hAk : mAr k = true := by
      unfold mCell at hc
      unfold mAr
      split at hc <;> simp_all
    rw [hq _ (fun e => hkk (h3.1 k k0 hk hk0 hAk hA e))]
    exact h2 k c hk hc
theorem m_isA {k : Nat} {t : FieldType} (h : tyX6 k = .array t) : mAr k = true := by unfold mAr; rw [h]
section MX
variable {l : Launch} {D : MD} {o : Nat} {ad : Nat → Nat} {d : Nat} {cc : ByteArray} {nL : Nat} {rt : Option FieldType} {m : MethodId} {rv : Option Value} {z' : MS} {H0 : Heap} {Z : Heap → List Loc → Nat → Nat → JFrame → Prop}
variable {z : MS} {H : Heap} {locs : List Loc} {pc : Nat} {ls : Array Slot} {rest : List Value}
theorem mX.g (X : mX l D o ad d cc nL rt m rv z' H0 Z) : gX l (rmL d) cc nL RX6 m Z := by
  obtain ⟨p, e, s, args, below, meth, c, hC, -, -, -, -, hZ⟩ := X
  exact ⟨p, e, s, args, below, meth, c, _, hC, hZ⟩
theorem mg_get (X : mX l D o ad d cc nL rt m rv z' H0 Z) (hM : MI D o ad H0 z H locs) {k idx : Nat} {ty : FieldType} {fin : Bool} (hF : mFd k idx ty fin) {v : Value} (hv : mV ad z k = v) (hdg : decode cc pc = .ok (.getfield idx, 3))
    (kk : Z H locs 0 0 (F0 m (pc + 3) ls (v :: rest))) : Z H locs 0 0 (F0 m pc ls (.ref o :: rest)) := by
  obtain ⟨p, e, s, args, below, meth, c, ⟨hx, hb, hml, hown, hts⟩, -, -, hK, -, rfl⟩ := X
  obtain ⟨hk, -, -, hq⟩ := hF
  obtain ⟨⟨⟨cell, q1, q2, q3, q4⟩, -⟩, -⟩ := hM
  obtain ⟨⟨hS, hfc, kC, hkC, hkind⟩, -⟩ := hK
  obtain ⟨cf, kf, fi, f, hi, hsl⟩ := hS k hk
  refine W.getf hx hb hown (hts _ hq) (by rw [tX6_cls k hk] at hi; exact hi) (u_facts hfc hkC (u_lays hts in_X6 hk) hi).1 q1 (by rw [q3]; exact fun h => by cases h) (v := v) ?_ rfl rfl hdg kk
  rw [hsl, q4 k hk, hv]
theorem mg_i (X : mX l D o ad d cc nL rt m rv z' H0 Z) (hM : MI D o ad H0 z H locs) {k idx : Nat} {fin : Bool} (hF : mFd k idx .int fin) (hdg : decode cc pc = .ok (.getfield idx, 3))
    (kk : Z H locs 0 0 (F0 m (pc + 3) ls (.int (mI z k) :: rest))) : Z H locs 0 0 (F0 m pc ls (.ref o :: rest)) := mg_get X hM hF (by unfold mV; rw [hF.2.1]) hdg kk
theorem mg_z (X : mX l D o ad d cc nL rt m rv z' H0 Z) (hM : MI D o ad H0 z H locs) {k idx : Nat} {fin : Bool} (hF : mFd k idx .boolean fin) (hdg : decode cc pc = .ok (.getfield idx, 3))
    (kk : Z H locs 0 0 (F0 m (pc + 3) ls (.int (mI z k) :: rest))) : Z H locs 0 0 (F0 m pc ls (.ref o :: rest)) := mg_get X hM hF (by unfold mV; rw [hF.2.1]) hdg kk
theorem mg_l (X : mX l D o ad d cc nL rt m rv z' H0 Z) (hM : MI D o ad H0 z H locs) {k idx : Nat} {fin : Bool} (hF : mFd k idx .long fin) (hdg : decode cc pc = .ok (.getfield idx, 3))
    (kk : Z H locs 0 0 (F0 m (pc + 3) ls (.long (mL z k) :: rest))) : Z H locs 0 0 (F0 m pc ls (.ref o :: rest)) := mg_get X hM hF (by unfold mV; rw [hF.2.1]) hdg kk
theorem mg_a (X : mX l D o ad d cc nL rt m rv z' H0 Z) (hM : MI D o ad H0 z H locs) {k idx : Nat} {t : FieldType} {fin : Bool} (hF : mFd k idx (.array t) fin) (hdg : decode cc pc = .ok (.getfield idx, 3))
    (kk : Z H locs 0 0 (F0 m (pc + 3) ls (.ref (ad k) :: rest))) : Z H locs 0 0 (F0 m pc ls (.ref o :: rest)) := mg_get X hM hF (by unfold mV; rw [hF.2.1]) hdg kk
theorem m_apart {s : State} {args : Array Value} (hts : ∀ w ∈ lw_all, w.before args s = true) (hK : MK D s) : ∀ x y, x < 105 → y < 105 → x ≠ y → D.2.1 x ≠ D.2.1 y := by
  intro x y hx hy hne
  obtain ⟨⟨hS, -⟩, -⟩ := hK
  obtain ⟨_, _, _, fa, hia, ea⟩ := hS x hx
  obtain ⟨_, _, _, fb, hib, eb⟩ := hS y hy
  rw [← ea, ← eb]
  refine u_apart (u_lays hts in_X6 hx) (u_lays hts in_X6 hy) hia hib ?_
  rw [(State.fieldFound?_type hia (tyX6_ok x hx)).1, (State.fieldFound?_type hib (tyX6_ok y hy)).1]
  exact nmX6 x hx y hy hne
theorem mp_put (X : mX l D o ad d cc nL rt m rv z' H0 Z) (hM : MI D o ad H0 z H locs) {k idx : Nat} {ty : FieldType} (hF : mFd k idx ty false) {v : Value} (hn : narrow ty v = v) (hfit : fits ty v = true) {z1 : MS} (hV : ∀ j, j < 105 → updV (mV ad z) k v j = mV ad z1 j) (hcl : ∀ j, mCell D z1 j = mCell D z j) (hdg : decode cc pc = .ok (.putfield idx, 3))
    (kk : ∀ (H1 : Heap) (locs1 : List Loc), MI D o ad H0 z1 H1 locs1 → Z H1 locs1 0 0 (F0 m (pc + 3) ls rest)) : Z H locs 0 0 (F0 m pc ls (v :: .ref o :: rest)) := by
  obtain ⟨p, e, s, args, below, meth, c, ⟨hx, hb, hml, hown, hts⟩, -, -, hK, -, rfl⟩ := X
  have hap := m_apart hts hK
  obtain ⟨hk, hty, hfin, hq⟩ := hF
  obtain ⟨⟨⟨cell, q1, q2, q3, q4⟩, hArr, hJ⟩, hS0, hsz⟩ := hM
  obtain ⟨⟨hS, hfc, kC, hkC, hkind⟩, -⟩ := hK
  obtain ⟨cf, kf, fi, f, hi, hsl⟩ := hS k hk
  have hlay := hts _ (in_X6 _ (u_in_lay hk))
  unfold u_lay at hlay
  rw [if_neg (by rw [hfin]; decide)] at hlay
  have hst := (u_facts hfc hkC (u_lays hts in_X6 hk) hi).1
  have h6 := u_store hfc hkC hkind hlay hi (by rw [tyX6_ok k hk, hty]) hn hfit
  refine W.putK hx hb (f := f) ⟨hown, hts _ hq, ⟨_, _, _, by rw [tX6_cls k hk] at hi; exact hi⟩, hst⟩ (by rw [q2]; exact h6) q1 q3 (by rw [hsl]; exact k2_hasslot (q4 k hk)) rfl rfl hdg fun H' e1 e2 e3 => ?_
  rw [hsl] at e1 ⊢
  refine kk H' _ ⟨⟨t_OB.to (V := updV (mV ad z) k v) ⟨_, e1, q2, q3, t_set q4 hap hk v⟩ hV, fun j c hj hc => ?_, hJ⟩, hS0.put e2 e3 (Or.inl rfl), e2.trans hsz⟩
  rw [hcl] at hc
  have hAj : mAr j = true := by
    unfold mCell at hc
    unfold mAr
    split at hc <;> simp_all
  rw [e3 _ (hJ.2 j hj hAj)]
  exact hArr j c hj hc
theorem m_upI {z : MS} {ad : Nat → Nat} {k : Nat} {v : Int32} (h : tyX6 k = .int ∨ tyX6 k = .boolean) (j : Nat) : updV (mV ad z) k (.int v) j = mV ad (wI z k v) j := by
  by_cases hj : j = k
  · subst hj
    rcases h with h | h <;> simp [updV, mV, h, mI, wI, va_up]
  · simp [updV, mV, hj, mI, wI, va_up, mL]
theorem m_upL {z : MS} {ad : Nat → Nat} {k : Nat} {v : Int64} (h : tyX6 k = .long) (j : Nat) : updV (mV ad z) k (.long v) j = mV ad (wL z k v) j := by
  by_cases hj : j = k
  · subst hj
    simp [updV, mV, h, mL, wL, va_up]
  · simp [updV, mV, hj, mI, wL, va_up, mL]
theorem mp_i (X : mX l D o ad d cc nL rt m rv z' H0 Z) (hM : MI D o ad H0 z H locs) {k idx : Nat} (hF : mFd k idx .int false) {v : Int32} {z1 : MS} (hz : z1 = wI z k v) (hdg : decode cc pc = .ok (.putfield idx, 3))
    (kk : ∀ (H1 : Heap) (locs1 : List Loc), MI D o ad H0 z1 H1 locs1 → Z H1 locs1 0 0 (F0 m (pc + 3) ls rest)) : Z H locs 0 0 (F0 m pc ls (.int v :: .ref o :: rest)) := by
  subst hz
  exact mp_put X hM hF rfl rfl (fun j _ => m_upI (Or.inl hF.2.1) j) (fun _ => rfl) hdg kk
theorem bI_nar (b : Bool) : narrow .boolean (.int (bI b)) = .int (bI b) := by cases b <;> rfl
theorem bI_fit (b : Bool) : fits .boolean (.int (bI b)) = true := by cases b <;> rfl
theorem mp_z (X : mX l D o ad d cc nL rt m rv z' H0 Z) (hM : MI D o ad H0 z H locs) {k idx : Nat} (hF : mFd k idx .boolean false) {b : Bool} {z1 : MS} (hz : z1 = wI z k (bI b)) (hdg : decode cc pc = .ok (.putfield idx, 3))
    (kk : ∀ (H1 : Heap) (locs1 : List Loc), MI D o ad H0 z1 H1 locs1 → Z H1 locs1 0 0 (F0 m (pc + 3) ls rest)) : Z H locs 0 0 (F0 m pc ls (.int (bI b) :: .ref o :: rest)) := by
  subst hz
  exact mp_put X hM hF (bI_nar b) (bI_fit b) (fun j _ => m_upI (Or.inr hF.2.1) j) (fun _ => rfl) hdg kk
theorem mp_l (X : mX l D o ad d cc nL rt m rv z' H0 Z) (hM : MI D o ad H0 z H locs) {k idx : Nat} (hF : mFd k idx .long false) {v : Int64} {z1 : MS} (hz : z1 = wL z k v) (hdg : decode cc pc = .ok (.putfield idx, 3))
    (kk : ∀ (H1 : Heap) (locs1 : List Loc), MI D o ad H0 z1 H1 locs1 → Z H1 locs1 0 0 (F0 m (pc + 3) ls rest)) : Z H locs 0 0 (F0 m pc ls (.long v :: .ref o :: rest)) := by
  subst hz
  exact mp_put X hM hF rfl rfl (fun j _ => m_upL hF.2.1 j) (fun _ => rfl) hdg kk
/-- an array of the object by its field's number, of components t -/
def mIs (k : Nat) (t : FieldType) : Prop := k < 105 ∧ tyX6 k = .array t
theorem mIs.of {k idx : Nat} {t : FieldType} {fin : Bool} (h : mFd k idx (.array t) fin) : mIs k t := ⟨h.1, h.2.1⟩
theorem m_ci {z : MS} {k : Nat} (h : mIs k .int) : mCell D z k = some (arrV D.2.2.1 (mN k) (fun j => .int (mA z k j))) := by unfold mCell; rw [h.2]
theorem m_cl {z : MS} {k : Nat} (h : mIs k .long) : mCell D z k = some (arrV D.2.2.2.1 (mN k) (fun j => .long (mB z k j))) := by unfold mCell; rw [h.2]
theorem m_cc {z : MS} {k : Nat} (h : mIs k .char) : mCell D z k = some (arrV D.2.2.2.2 (mN k) (fun j => .int ((mW k).getD j 0))) := by unfold mCell; rw [h.2]
theorem m_iald (X : mX l D o ad d cc nL rt m rv z' H0 Z) (hM : MI D o ad H0 z H locs) {k : Nat} (hF : mIs k .int) {i : Int32} (hin : inb i (mN k) = true) (hdg : decode cc pc = .ok (.iaload, 1))
    (kk : Z H locs 0 0 (F0 m (pc + 1) ls (.int (mA z k i.toNatClampNeg) :: rest))) : Z H locs 0 0 (F0 m pc ls (.int i :: .ref (ad k) :: rest)) := by
  obtain ⟨p, e, s, args, below, meth, c, ⟨hx, hb, hml, hown, hts⟩, -, -, hK, -, rfl⟩ := X
  have hin := inb_in hin
  have hlt : i.toNatClampNeg < mN k := Nat.not_le.mp fun q => hin (Or.inr q)
  exact W.iald (v := .int (mA z k i.toNatClampNeg)) hx hb (hM.1.2.1 k _ hF.1 (m_ci hF)) (hK.2.1 _ _) (fun q => by cases q) (by rw [arrV_size]; exact hin) (by rw [arrV_read _ _ hlt]) rfl rfl hdg kk
theorem m_lald (X : mX l D o ad d cc nL rt m rv z' H0 Z) (hM : MI D o ad H0 z H locs) {k : Nat} (hF : mIs k .long) {i : Int32} (hin : inb i (mN k) = true) (hdg : decode cc pc = .ok (.laload, 1))
    (kk : Z H locs 0 0 (F0 m (pc + 1) ls (.long (mB z k i.toNatClampNeg) :: rest))) : Z H locs 0 0 (F0 m pc ls (.int i :: .ref (ad k) :: rest)) := by
  obtain ⟨p, e, s, args, below, meth, c, ⟨hx, hb, hml, hown, hts⟩, -, -, hK, -, rfl⟩ := X
  have hin := inb_in hin
  have hlt : i.toNatClampNeg < mN k := Nat.not_le.mp fun q => hin (Or.inr q)
  exact W.lald (v := .long (mB z k i.toNatClampNeg)) hx hb (hM.1.2.1 k _ hF.1 (m_cl hF)) (hK.2.2.1 _ _) (fun q => by cases q) (by rw [arrV_size]; exact hin) (by rw [arrV_read _ _ hlt]) rfl rfl hdg kk
theorem m_cald (X : mX l D o ad d cc nL rt m rv z' H0 Z) (hM : MI D o ad H0 z H locs) {k : Nat} (hF : mIs k .char) {i : Int32} (hin : inb i (mN k) = true) (hdg : decode cc pc = .ok (.caload, 1))
    (kk : Z H locs 0 0 (F0 m (pc + 1) ls (.int ((mW k).getD i.toNatClampNeg 0) :: rest))) : Z H locs 0 0 (F0 m pc ls (.int i :: .ref (ad k) :: rest)) := by
  obtain ⟨p, e, s, args, below, meth, c, ⟨hx, hb, hml, hown, hts⟩, -, -, hK, -, rfl⟩ := X
  have hin := inb_in hin
  have hlt : i.toNatClampNeg < mN k := Nat.not_le.mp fun q => hin (Or.inr q)
  exact W.cald (v := .int ((mW k).getD i.toNatClampNeg 0)) hx hb (hM.1.2.1 k _ hF.1 (m_cc hF)) (hK.2.2.2 _ _) (fun q => by cases q) (by rw [arrV_size]; exact hin) (by rw [arrV_read _ _ hlt]) rfl rfl hdg kk
theorem m_alenI (X : mX l D o ad d cc nL rt m rv z' H0 Z) (hM : MI D o ad H0 z H locs) {k : Nat} (hF : mIs k .int) (hdg : decode cc pc = .ok (.arraylength, 1))
    (kk : Z H locs 0 0 (F0 m (pc + 1) ls (.int (nI (mN k)) :: rest))) : Z H locs 0 0 (F0 m pc ls (.ref (ad k) :: rest)) := by
  obtain ⟨p, e, s, args, below, meth, c, ⟨hx, hb, hml, hown, hts⟩, -, -, hK, -, rfl⟩ := X
  exact W.alen (n := nI (mN k)) hx hb (hM.1.2.1 k _ hF.1 (m_ci hF)) (hK.2.1 _ _) (by rw [arrV_size]; rfl) rfl rfl hdg kk
theorem m_alenC (X : mX l D o ad d cc nL rt m rv z' H0 Z) (hM : MI D o ad H0 z H locs) {k : Nat} (hF : mIs k .char) (hdg : decode cc pc = .ok (.arraylength, 1))
    (kk : Z H locs 0 0 (F0 m (pc + 1) ls (.int (nI (mN k)) :: rest))) : Z H locs 0 0 (F0 m pc ls (.ref (ad k) :: rest)) := by
  obtain ⟨p, e, s, args, below, meth, c, ⟨hx, hb, hml, hown, hts⟩, -, -, hK, -, rfl⟩ := X
  exact W.alen (n := nI (mN k)) hx hb (hM.1.2.1 k _ hF.1 (m_cc hF)) (hK.2.2.2 _ _) (by rw [arrV_size]; rfl) rfl rfl hdg kk
theorem m_iast (X : mX l D o ad d cc nL rt m rv z' H0 Z) (hM : MI D o ad H0 z H locs) {k : Nat} (hF : mIs k .int) {i x : Int32} (hin : inb i (mN k) = true) {zn : MS} (hz : zn = wA z k i.toNatClampNeg x) (hdg : decode cc pc = .ok (.iastore, 1))
    (kk : ∀ (H1 : Heap) (locs1 : List Loc), MI D o ad H0 zn H1 locs1 → Z H1 locs1 0 0 (F0 m (pc + 1) ls rest)) : Z H locs 0 0 (F0 m pc ls (.int x :: .int i :: .ref (ad k) :: rest)) := by
  obtain ⟨p, e, s, args, below, meth, c, ⟨hx, hb, hml, hown, hts⟩, -, -, hK, -, rfl⟩ := X
  subst hz
  have hin := inb_in hin
  obtain ⟨hP, hS, hsz⟩ := hM
  refine W.iast hx hb (hP.2.1 k _ hF.1 (m_ci hF)) (hK.2.1 _ _) (fun q => by cases q) (by rw [arrV_size]; exact hin) rfl rfl hdg fun H1 e z1 oq => ?_
  refine kk H1 _ ⟨m_set hP (fun _ _ => rfl) k hF.1 (m_isA hF.2) (m_ci hF) ?_ (fun j hj => ?_) oq, hS.put z1 oq (Or.inr ⟨k, hF.1, m_isA hF.2, rfl⟩), z1.trans hsz⟩
  · rw [e, arrV_store]
    congr 2
    funext q
    by_cases hq : q = i.toNatClampNeg
    · subst hq
      simp [updV, mA, wA, va_up]
    · simp [updV, mA, wA, va_up, hq]
  · simp [mCell, mA, wA, va_up, hj, mB]
theorem m_last (X : mX l D o ad d cc nL rt m rv z' H0 Z) (hM : MI D o ad H0 z H locs) {k : Nat} (hF : mIs k .long) {i : Int32} {x : Int64} (hin : inb i (mN k) = true) {zn : MS} (hz : zn = wB z k i.toNatClampNeg x) (hdg : decode cc pc = .ok (.lastore, 1))
    (kk : ∀ (H1 : Heap) (locs1 : List Loc), MI D o ad H0 zn H1 locs1 → Z H1 locs1 0 0 (F0 m (pc + 1) ls rest)) : Z H locs 0 0 (F0 m pc ls (.long x :: .int i :: .ref (ad k) :: rest)) := by
  obtain ⟨p, e, s, args, below, meth, c, ⟨hx, hb, hml, hown, hts⟩, -, -, hK, -, rfl⟩ := X
  subst hz
  have hin := inb_in hin
  obtain ⟨hP, hS, hsz⟩ := hM
  refine W.last hx hb (hP.2.1 k _ hF.1 (m_cl hF)) (hK.2.2.1 _ _) (fun q => by cases q) (by rw [arrV_size]; exact hin) rfl rfl hdg fun H1 e z1 oq => ?_
  refine kk H1 _ ⟨m_set hP (fun _ _ => rfl) k hF.1 (m_isA hF.2) (m_cl hF) ?_ (fun j hj => ?_) oq, hS.put z1 oq (Or.inr ⟨k, hF.1, m_isA hF.2, rfl⟩), z1.trans hsz⟩
  · rw [e, arrV_store]
    congr 2
    funext q
    by_cases hq : q = i.toNatClampNeg
    · subst hq
      simp [updV, mB, wB, va_up]
    · simp [updV, mB, wB, va_up, hq]
  · simp [mCell, mA, wB, va_up, hj, mB]
theorem m_iret {r v : Int32} (X : mX l D o ad d cc nL (some .int) m (some (.int r)) z' H0 Z) (hM : MI D o ad H0 z H locs) (hf : some (v, z) = some (r, z')) (hdg : decode cc pc = .ok (.ireturn, 1)) : Z H locs 0 0 (F0 m pc ls [.int v]) := by
  obtain ⟨p, e, s, args, below, meth, c, ⟨hx, hb, hml, hown, hts⟩, hr, hlk, hK, h0, rfl⟩ := X
  cases hf
  subst h0
  exact W.iret hx hb hr (fun t ht hW => ⟨⟨rfl, by rw [ht]; exact hM.1, by rw [ht]; exact hM.2.2⟩, hM.2.1.F ht⟩) hM.2.1.2.2 hdg
theorem m_lret {r v : Int64} (X : mX l D o ad d cc nL (some .long) m (some (.long r)) z' H0 Z) (hM : MI D o ad H0 z H locs) (hf : some (v, z) = some (r, z')) (hdg : decode cc pc = .ok (.lreturn, 1)) : Z H locs 0 0 (F0 m pc ls [.long v]) := by
  obtain ⟨p, e, s, args, below, meth, c, ⟨hx, hb, hml, hown, hts⟩, hr, hlk, hK, h0, rfl⟩ := X
  cases hf
  subst h0
  exact W.lret hx hb hr (fun t ht hW => ⟨⟨rfl, by rw [ht]; exact hM.1, by rw [ht]; exact hM.2.2⟩, hM.2.1.F ht⟩) hM.2.1.2.2 hdg
theorem m_zret {r v : Bool} (X : mX l D o ad d cc nL (some .boolean) m (some (.int (bI r))) z' H0 Z) (hM : MI D o ad H0 z H locs) (hf : some (v, z) = some (r, z')) (hdg : decode cc pc = .ok (.ireturn, 1)) : Z H locs 0 0 (F0 m pc ls [.int (bI v)]) := by
  obtain ⟨p, e, s, args, below, meth, c, ⟨hx, hb, hml, hown, hts⟩, hr, hlk, hK, h0, rfl⟩ := X
  cases hf
  subst h0
  exact W.zret hx hb hr (bI_nar _) (fun t ht hW => ⟨⟨rfl, by rw [ht]; exact hM.1, by rw [ht]; exact hM.2.2⟩, hM.2.1.F ht⟩) hM.2.1.2.2 hdg
theorem m_vret (X : mX l D o ad d cc nL none m none z' H0 Z) (hM : MI D o ad H0 z H locs) (hf : some z = some z') (hdg : decode cc pc = .ok (.return_, 1)) : Z H locs 0 0 (F0 m pc ls []) := by
  obtain ⟨p, e, s, args, below, meth, c, ⟨hx, hb, hml, hown, hts⟩, hr, hlk, hK, h0, rfl⟩ := X
  cases hf
  subst h0
  exact W.vret hx hb hr (fun t ht hW => ⟨⟨rfl, by rw [ht]; exact hM.1, by rw [ht]; exact hM.2.2⟩, hM.2.1.F ht⟩) hM.2.1.2.2 hdg
/-- what a call of y asks of the tables -/
def mcV (y : MethodName) (cy : ByteArray) (ny : Nat) (rty : Option FieldType) (n idx : Nat) : Prop :=
  GoodIn lw_all (wsV RX6 idx RX6 y (ws_ y cy ny rty)) ∧ (y.cls = RX6 ∧ y.cls ≠ "java/lang/invoke/MethodHandle" ∧ y.cls ≠ "java/lang/invoke/VarHandle" ∧ (parseMethodDescriptor y.desc).map (fun d => d.parameters.length) = some n) ∧ ny ≤ 40
def mcS (y : MethodName) (cy : ByteArray) (ny : Nat) (rty : Option FieldType) (n idx : Nat) : Prop :=
  GoodIn lw_all (va_wsS RX6 idx y (ws_ y cy ny rty)) ∧ (y.cls ≠ "java/lang/invoke/MethodHandle" ∧ y.cls ≠ "java/lang/invoke/VarHandle" ∧ (parseMethodDescriptor y.desc).map (fun d => d.parameters.length) = some n) ∧ ny ≤ 40
theorem m_blind {z : MS} {av : List Value} : FrameBlind (MPc D o ad z av) := fun a U g mk q => ⟨q.1, q.2.1, MK.moved (u := U) (U := U.calling g mk a) (Vm.Alike.refl U.vm) q.2.2⟩
theorem rmL_ok {d' d ny : Nat} (h : d' < d) (hn : ny ≤ 40) : (rmL d').frames + 1 ≤ (rmL d).frames ∧ 8 + (ny + 11) + (rmL d').locals ≤ (rmL d).locals := by
  refine ⟨h, ?_⟩
  show 8 + (ny + 11) + 70 * d' ≤ 70 * d
  omega
theorem m_goes {z1 : MS} {rv1 : Option Value} {y : MethodName} {av : List Value} {st0 : List Value} (X : mX l D o ad d cc nL rt m rv z' H0 Z) (hM : MI D o ad H0 z H locs)
    (hr : ∀ (p : Program) (e : Env) (s : State) (args : Array Value) (below : List Frame) (meth : Method) (c : Code), CallFix p m c cc nL s args lw_all RX6 → MK D s → va_Run p l e (rmL d) s m args below meth c H locs 0 0 0 0 (F0 m pc ls st0) rest (MQc D o ad z1 rv1 av.toArray) (MA o ad))
    (kk : ∀ (H1 : Heap) (locs1 : List Loc), MI D o ad H0 z1 H1 locs1 → Z H1 locs1 0 0 (F0 m (pc + 3) ls (rv1.toList ++ rest))) : Z H locs 0 0 (F0 m pc ls st0) := by
  obtain ⟨p, e, s, args, below, meth, c, hC, -, -, hK, h0, rfl⟩ := X
  intro T hT X
  obtain ⟨v, st₀, t, T', L, e0, X', hL, e1, e2, ⟨⟨hv, hP, hz⟩, hF⟩, st⟩ := hr p e s args below meth c hC hK T hT X
  cases hv
  obtain ⟨hMP, hS, hsz⟩ := hM
  rw [e0] at hz
  have hS1 : va_S (MA o ad) H0 T'.heap (locs ++ L) := by
    refine ⟨by rw [e1, hz]; exact hS.1, fun q h1 h2 => ?_, fun q hq => ?_⟩
    · have h3 : q < st₀.heap.size := by rw [e0]; exact Nat.lt_of_lt_of_le h1 hS.1
      rw [e1, hF.2 q h3 h2, e0]
      exact hS.2.1 q h1 h2
    · rcases List.mem_append.mp hq with h | h
      · exact hS.2.2 q h
      · exact hL q h
  obtain ⟨t2, a1, b1⟩ := kk T'.heap (locs ++ L) ⟨by rw [e1]; exact hP, hS1, by rw [e1, hz]; exact hsz⟩ T' rfl X'
  exact ⟨t2, st t2 a1, b1⟩
theorem m_callV (X : mX l D o ad d cc nL rt m rv z' H0 Z) (hM : MI D o ad H0 z H locs) {lv : List (Nat × Value)} (hl : lv_has ls nL lv) {y : MethodName} {cy : ByteArray} {ny : Nat} {rty : Option FieldType} {d' n idx : Nat} {As : List Value} {z1 : MS} {rv1 : Option Value} (hw : mcV y cy ny rty n idx) (hC : MMet l D o ad y cy ny rty d' (.ref o :: As) z z1 rv1) (hn : As.length = n) (hd : d' < d) (hrm : (rest.map fun v => v.category).sum ≤ 8) {st0 : List Value} (hst : st0 = As.reverse ++ .ref o :: rest) (hdg : decode cc pc = .ok (.invokevirtual idx, 3))
    (kk : ∀ (H1 : Heap) (locs1 : List Loc), MI D o ad H0 z1 H1 locs1 → Z H1 locs1 0 0 (F0 m (pc + 3) ls (rv1.toList ++ rest))) : Z H locs 0 0 (F0 m pc ls st0) := by
  refine m_goes (y := y) (av := .ref o :: As) X hM (fun p e s args below meth c hC2 hK => ?_) kk
  have hcx := hC2
  obtain ⟨hx, hb, hml, hown, hts⟩ := hC2
  exact va_runV (As := As) (rest := rest) hcx hC (cwV n hts hw.1 rfl rfl rfl hw.2.1 (rmL_ok hd hw.2.2)) ⟨m_blind, (by
    obtain ⟨⟨⟨cell, q1, q2, q3, q4⟩, -⟩, -⟩ := hM
    exact ⟨cell, q1, by rw [q3]; rfl, by rw [q2]; exact hK.1.2.1⟩), fun U hU hW => ⟨rfl, by rw [hU]; exact hM.1, MK.moved hW.alike hK⟩⟩ rfl hn hl.1 hst (lv_room hrm) hdg ⟨Nat.le_refl 0, Nat.le_refl 0⟩
theorem m_callS (X : mX l D o ad d cc nL rt m rv z' H0 Z) (hM : MI D o ad H0 z H locs) {lv : List (Nat × Value)} (hl : lv_has ls nL lv) {y : MethodName} {cy : ByteArray} {ny : Nat} {rty : Option FieldType} {d' n idx : Nat} {As : List Value} {z1 : MS} {rv1 : Option Value} (hw : mcS y cy ny rty n idx) (hC : MMet l D o ad y cy ny rty d' As z z1 rv1) (hn : As.length = n) (hd : d' < d) (hrm : (rest.map fun v => v.category).sum ≤ 8) {st0 : List Value} (hst : st0 = As.reverse ++ rest) (hdg : decode cc pc = .ok (.invokestatic idx, 3))
    (kk : ∀ (H1 : Heap) (locs1 : List Loc), MI D o ad H0 z1 H1 locs1 → Z H1 locs1 0 0 (F0 m (pc + 3) ls (rv1.toList ++ rest))) : Z H locs 0 0 (F0 m pc ls st0) := by
  refine m_goes (y := y) (av := As) X hM (fun p e s args below meth c hC2 hK => ?_) kk
  have hcx := hC2
  obtain ⟨hx, hb, hml, hown, hts⟩ := hC2
  exact va_runS (As := As) (rest := rest) hcx hC (va_cwS n hts hw.1 rfl rfl rfl hw.2.1 (rmL_ok hd hw.2.2)) ⟨m_blind, fun U hU hW => ⟨rfl, by rw [hU]; exact hM.1, MK.moved hW.alike hK⟩⟩ rfl hn hl.1 hst (lv_room hrm) hdg ⟨Nat.le_refl 0, Nat.le_refl 0⟩
theorem m_callVi (X : mX l D o ad d cc nL rt m rv z' H0 Z) (hM : MI D o ad H0 z H locs) {lv : List (Nat × Value)} (hl : lv_has ls nL lv) {y : MethodName} {cy : ByteArray} {ny : Nat} {rty : Option FieldType} {d' n idx : Nat} {As : List Value} {z1 : MS} {v1 : Value} (hw : mcV y cy ny rty n idx) (hC : MMet l D o ad y cy ny rty d' (.ref o :: As) z z1 (some v1)) (hn : As.length = n) (hd : d' < d) (hrm : (rest.map fun v => v.category).sum ≤ 8) {st0 : List Value} (hst : st0 = As.reverse ++ .ref o :: rest) (hdg : decode cc pc = .ok (.invokevirtual idx, 3))
    (kk : ∀ (H1 : Heap) (locs1 : List Loc), MI D o ad H0 z1 H1 locs1 → Z H1 locs1 0 0 (F0 m (pc + 3) ls (v1 :: rest))) : Z H locs 0 0 (F0 m pc ls st0) := m_callV X hM hl hw hC hn hd hrm hst hdg kk
theorem m_callVv (X : mX l D o ad d cc nL rt m rv z' H0 Z) (hM : MI D o ad H0 z H locs) {lv : List (Nat × Value)} (hl : lv_has ls nL lv) {y : MethodName} {cy : ByteArray} {ny : Nat} {rty : Option FieldType} {d' n idx : Nat} {As : List Value} {z1 : MS} (hw : mcV y cy ny rty n idx) (hC : MMet l D o ad y cy ny rty d' (.ref o :: As) z z1 none) (hn : As.length = n) (hd : d' < d) (hrm : (rest.map fun v => v.category).sum ≤ 8) {st0 : List Value} (hst : st0 = As.reverse ++ .ref o :: rest) (hdg : decode cc pc = .ok (.invokevirtual idx, 3))
    (kk : ∀ (H1 : Heap) (locs1 : List Loc), MI D o ad H0 z1 H1 locs1 → Z H1 locs1 0 0 (F0 m (pc + 3) ls rest)) : Z H locs 0 0 (F0 m pc ls st0) := m_callV X hM hl hw hC hn hd hrm hst hdg kk
theorem m_callSi (X : mX l D o ad d cc nL rt m rv z' H0 Z) (hM : MI D o ad H0 z H locs) {lv : List (Nat × Value)} (hl : lv_has ls nL lv) {y : MethodName} {cy : ByteArray} {ny : Nat} {rty : Option FieldType} {d' n idx : Nat} {As : List Value} {z1 : MS} {v1 : Value} (hw : mcS y cy ny rty n idx) (hC : MMet l D o ad y cy ny rty d' As z z1 (some v1)) (hn : As.length = n) (hd : d' < d) (hrm : (rest.map fun v => v.category).sum ≤ 8) {st0 : List Value} (hst : st0 = As.reverse ++ rest) (hdg : decode cc pc = .ok (.invokestatic idx, 3))
    (kk : ∀ (H1 : Heap) (locs1 : List Loc), MI D o ad H0 z1 H1 locs1 → Z H1 locs1 0 0 (F0 m (pc + 3) ls (v1 :: rest))) : Z H locs 0 0 (F0 m pc ls st0) := m_callS X hM hl hw hC hn hd hrm hst hdg kk
theorem pnX6 : plainName RX6 = true := by decide +kernel
theorem m_head {y : MethodName} {av : List Value} (hy : plainName y.cls = true) (hyc : y.cls = RX6) (hsl : (lg_sl av).length ≤ nL)
    (body : ∀ (m : MethodId) (Z : Heap → List Loc → Nat → Nat → JFrame → Prop) (H0 : Heap) (ls : Array Slot), mX l D o ad d cc nL rt m rv z' H0 Z → MI D o ad H0 z H0 [] → lv_has ls nL (lv_args 0 av) → Z H0 [] 0 0 (F0 m 0 ls [])) : MMet l D o ad y cc nL rt d av z z' rv := by
  refine Met.ofW (cc := cc) (maxL := nL) (ret := rt) hy rfl ?_
  intro p e s m args below meth c s₁ B hml hv
  obtain ⟨rfl, hP, hK⟩ := hv
  have hts := atoms_spec (ws := ws_ y cc nL rt) B.pre
  have hts : ∀ w ∈ lw_all, w.before _ s = true := fun w h => hts w (List.mem_cons_of_mem _ h)
  have hown : s.vm.findClass RX6 = some m.cls := by rw [← hyc]; exact findClass_of_methodNamed B.named
  have hl := lv_entry av hsl
  rw [lg_entry_eq]
  generalize (lg_sl av ++ List.replicate (nL - (lg_sl av).length) Slot.unset).toArray = ls at hl ⊢
  exact body m _ s.heap ls ⟨p, e, s, av.toArray, below, meth, c, ⟨B.exec, B.bytes, hml, hown, hts⟩, B.returns, B.notSynchronized, hK, rfl, rfl⟩ ⟨hP, va_S.rf, rfl⟩ hl
end MX

theorem mf_0 : mFd 0 7 (.array .int) true := ⟨Nat.le_of_ble_eq_true rfl, rfl, rfl, q1624⟩
theorem mf_1 : mFd 1 254 (.int) false := ⟨Nat.le_of_ble_eq_true rfl, rfl, rfl, q1625⟩
theorem mf_2 : mFd 2 263 (.int) false := ⟨Nat.le_of_ble_eq_true rfl, rfl, rfl, q1626⟩
theorem mf_3 : mFd 3 266 (.int) false := ⟨Nat.le_of_ble_eq_true rfl, rfl, rfl, q1627⟩
theorem mf_4 : mFd 4 277 (.int) false := ⟨Nat.le_of_ble_eq_true rfl, rfl, rfl, q1628⟩
theorem mf_5 : mFd 5 257 (.int) false := ⟨Nat.le_of_ble_eq_true rfl, rfl, rfl, q1629⟩
theorem mf_6 : mFd 6 260 (.int) false := ⟨Nat.le_of_ble_eq_true rfl, rfl, rfl, q1630⟩
theorem mf_7 : mFd 7 386 (.int) false := ⟨Nat.le_of_ble_eq_true rfl, rfl, rfl, q1631⟩
theorem mf_8 : mFd 8 13 (.int) false := ⟨Nat.le_of_ble_eq_true rfl, rfl, rfl, q1632⟩
theorem mf_9 : mFd 9 17 (.array .int) true := ⟨Nat.le_of_ble_eq_true rfl, rfl, rfl, q1633⟩
theorem mf_10 : mFd 10 20 (.array .char) true := ⟨Nat.le_of_ble_eq_true rfl, rfl, rfl, q1634⟩
theorem mf_11 : mFd 11 24 (.array .char) true := ⟨Nat.le_of_ble_eq_true rfl, rfl, rfl, q1635⟩
theorem mf_12 : mFd 12 27 (.array .char) true := ⟨Nat.le_of_ble_eq_true rfl, rfl, rfl, q1636⟩
theorem mf_13 : mFd 13 30 (.array .char) true := ⟨Nat.le_of_ble_eq_true rfl, rfl, rfl, q1637⟩
theorem mf_14 : mFd 14 33 (.array .char) true := ⟨Nat.le_of_ble_eq_true rfl, rfl, rfl, q1638⟩
theorem mf_15 : mFd 15 36 (.array .char) true := ⟨Nat.le_of_ble_eq_true rfl, rfl, rfl, q1639⟩
theorem mf_16 : mFd 16 39 (.array .char) true := ⟨Nat.le_of_ble_eq_true rfl, rfl, rfl, q1640⟩
theorem mf_17 : mFd 17 42 (.array .char) true := ⟨Nat.le_of_ble_eq_true rfl, rfl, rfl, q1641⟩
theorem mf_18 : mFd 18 45 (.array .char) true := ⟨Nat.le_of_ble_eq_true rfl, rfl, rfl, q1642⟩
theorem mf_19 : mFd 19 48 (.array .char) true := ⟨Nat.le_of_ble_eq_true rfl, rfl, rfl, q1643⟩
theorem mf_20 : mFd 20 51 (.array .char) true := ⟨Nat.le_of_ble_eq_true rfl, rfl, rfl, q1644⟩
theorem mf_21 : mFd 21 54 (.array .char) true := ⟨Nat.le_of_ble_eq_true rfl, rfl, rfl, q1645⟩
theorem mf_22 : mFd 22 57 (.array .char) true := ⟨Nat.le_of_ble_eq_true rfl, rfl, rfl, q1646⟩
theorem mf_23 : mFd 23 60 (.array .char) true := ⟨Nat.le_of_ble_eq_true rfl, rfl, rfl, q1647⟩
theorem mf_24 : mFd 24 63 (.array .char) true := ⟨Nat.le_of_ble_eq_true rfl, rfl, rfl, q1648⟩
theorem mf_25 : mFd 25 66 (.array .char) true := ⟨Nat.le_of_ble_eq_true rfl, rfl, rfl, q1649⟩
theorem mf_26 : mFd 26 69 (.array .char) true := ⟨Nat.le_of_ble_eq_true rfl, rfl, rfl, q1650⟩
theorem mf_27 : mFd 27 72 (.array .char) true := ⟨Nat.le_of_ble_eq_true rfl, rfl, rfl, q1651⟩
theorem mf_28 : mFd 28 75 (.array .char) true := ⟨Nat.le_of_ble_eq_true rfl, rfl, rfl, q1652⟩
theorem mf_29 : mFd 29 78 (.array .char) true := ⟨Nat.le_of_ble_eq_true rfl, rfl, rfl, q1653⟩
theorem mf_30 : mFd 30 81 (.array .char) true := ⟨Nat.le_of_ble_eq_true rfl, rfl, rfl, q1654⟩
theorem mf_31 : mFd 31 84 (.array .char) true := ⟨Nat.le_of_ble_eq_true rfl, rfl, rfl, q1655⟩
theorem mf_32 : mFd 32 87 (.array .char) true := ⟨Nat.le_of_ble_eq_true rfl, rfl, rfl, q1656⟩
theorem mf_33 : mFd 33 90 (.array .char) true := ⟨Nat.le_of_ble_eq_true rfl, rfl, rfl, q1657⟩
theorem mf_34 : mFd 34 93 (.array .char) true := ⟨Nat.le_of_ble_eq_true rfl, rfl, rfl, q1658⟩
theorem mf_35 : mFd 35 96 (.array .char) true := ⟨Nat.le_of_ble_eq_true rfl, rfl, rfl, q1659⟩
theorem mf_36 : mFd 36 99 (.array .char) true := ⟨Nat.le_of_ble_eq_true rfl, rfl, rfl, q1660⟩
theorem mf_37 : mFd 37 102 (.array .char) true := ⟨Nat.le_of_ble_eq_true rfl, rfl, rfl, q1661⟩
theorem mf_38 : mFd 38 305 (.int) false := ⟨Nat.le_of_ble_eq_true rfl, rfl, rfl, q1662⟩
theorem mf_39 : mFd 39 105 (.array .int) true := ⟨Nat.le_of_ble_eq_true rfl, rfl, rfl, q1663⟩
theorem mf_40 : mFd 40 108 (.array .long) true := ⟨Nat.le_of_ble_eq_true rfl, rfl, rfl, q1664⟩
theorem mf_41 : mFd 41 112 (.array .int) true := ⟨Nat.le_of_ble_eq_true rfl, rfl, rfl, q1665⟩
theorem mf_42 : mFd 42 115 (.array .int) true := ⟨Nat.le_of_ble_eq_true rfl, rfl, rfl, q1666⟩
theorem mf_43 : mFd 43 118 (.array .int) true := ⟨Nat.le_of_ble_eq_true rfl, rfl, rfl, q1667⟩
theorem mf_44 : mFd 44 121 (.array .int) true := ⟨Nat.le_of_ble_eq_true rfl, rfl, rfl, q1668⟩
theorem mf_45 : mFd 45 124 (.array .int) true := ⟨Nat.le_of_ble_eq_true rfl, rfl, rfl, q1669⟩
theorem mf_46 : mFd 46 127 (.array .int) true := ⟨Nat.le_of_ble_eq_true rfl, rfl, rfl, q1670⟩
theorem mf_47 : mFd 47 130 (.array .int) true := ⟨Nat.le_of_ble_eq_true rfl, rfl, rfl, q1671⟩
theorem mf_48 : mFd 48 133 (.array .int) true := ⟨Nat.le_of_ble_eq_true rfl, rfl, rfl, q1672⟩
theorem mf_49 : mFd 49 136 (.array .int) true := ⟨Nat.le_of_ble_eq_true rfl, rfl, rfl, q1673⟩
theorem mf_50 : mFd 50 357 (.int) false := ⟨Nat.le_of_ble_eq_true rfl, rfl, rfl, q1674⟩
theorem mf_51 : mFd 51 360 (.int) false := ⟨Nat.le_of_ble_eq_true rfl, rfl, rfl, q1675⟩
theorem mf_52 : mFd 52 312 (.int) false := ⟨Nat.le_of_ble_eq_true rfl, rfl, rfl, q1676⟩
theorem mf_53 : mFd 53 139 (.array .int) true := ⟨Nat.le_of_ble_eq_true rfl, rfl, rfl, q1677⟩
theorem mf_54 : mFd 54 142 (.array .int) true := ⟨Nat.le_of_ble_eq_true rfl, rfl, rfl, q1678⟩
theorem mf_55 : mFd 55 413 (.int) false := ⟨Nat.le_of_ble_eq_true rfl, rfl, rfl, q1679⟩
theorem mf_56 : mFd 56 145 (.array .int) true := ⟨Nat.le_of_ble_eq_true rfl, rfl, rfl, q1680⟩
theorem mf_57 : mFd 57 148 (.array .int) true := ⟨Nat.le_of_ble_eq_true rfl, rfl, rfl, q1681⟩
theorem mf_58 : mFd 58 443 (.boolean) false := ⟨Nat.le_of_ble_eq_true rfl, rfl, rfl, q1682⟩
theorem mf_59 : mFd 59 459 (.int) false := ⟨Nat.le_of_ble_eq_true rfl, rfl, rfl, q1683⟩
theorem mf_60 : mFd 60 395 (.int) false := ⟨Nat.le_of_ble_eq_true rfl, rfl, rfl, q1684⟩
theorem mf_61 : mFd 61 151 (.array .int) true := ⟨Nat.le_of_ble_eq_true rfl, rfl, rfl, q1685⟩
theorem mf_62 : mFd 62 154 (.array .int) true := ⟨Nat.le_of_ble_eq_true rfl, rfl, rfl, q1686⟩
theorem mf_63 : mFd 63 157 (.array .int) true := ⟨Nat.le_of_ble_eq_true rfl, rfl, rfl, q1687⟩
theorem mf_64 : mFd 64 160 (.array .int) true := ⟨Nat.le_of_ble_eq_true rfl, rfl, rfl, q1688⟩
theorem mf_65 : mFd 65 392 (.int) false := ⟨Nat.le_of_ble_eq_true rfl, rfl, rfl, q1689⟩
theorem mf_66 : mFd 66 544 (.int) false := ⟨Nat.le_of_ble_eq_true rfl, rfl, rfl, q1690⟩
theorem mf_67 : mFd 67 163 (.long) false := ⟨Nat.le_of_ble_eq_true rfl, rfl, rfl, q1691⟩
theorem mf_68 : mFd 68 167 (.array .char) true := ⟨Nat.le_of_ble_eq_true rfl, rfl, rfl, q1692⟩
theorem mf_69 : mFd 69 170 (.array .char) true := ⟨Nat.le_of_ble_eq_true rfl, rfl, rfl, q1693⟩
theorem mf_70 : mFd 70 173 (.array .char) true := ⟨Nat.le_of_ble_eq_true rfl, rfl, rfl, q1694⟩
theorem mf_71 : mFd 71 176 (.array .char) true := ⟨Nat.le_of_ble_eq_true rfl, rfl, rfl, q1695⟩
theorem mf_72 : mFd 72 179 (.array .char) true := ⟨Nat.le_of_ble_eq_true rfl, rfl, rfl, q1696⟩
theorem mf_73 : mFd 73 182 (.array .char) true := ⟨Nat.le_of_ble_eq_true rfl, rfl, rfl, q1697⟩
theorem mf_74 : mFd 74 185 (.array .char) true := ⟨Nat.le_of_ble_eq_true rfl, rfl, rfl, q1698⟩
theorem mf_75 : mFd 75 188 (.array .char) true := ⟨Nat.le_of_ble_eq_true rfl, rfl, rfl, q1699⟩
theorem mf_76 : mFd 76 191 (.array .char) true := ⟨Nat.le_of_ble_eq_true rfl, rfl, rfl, q1700⟩
theorem mf_77 : mFd 77 194 (.array .char) true := ⟨Nat.le_of_ble_eq_true rfl, rfl, rfl, q1701⟩
theorem mf_78 : mFd 78 197 (.array .char) true := ⟨Nat.le_of_ble_eq_true rfl, rfl, rfl, q1702⟩
theorem mf_79 : mFd 79 200 (.array .char) true := ⟨Nat.le_of_ble_eq_true rfl, rfl, rfl, q1703⟩
theorem mf_80 : mFd 80 203 (.array .char) true := ⟨Nat.le_of_ble_eq_true rfl, rfl, rfl, q1704⟩
theorem mf_81 : mFd 81 206 (.array .char) true := ⟨Nat.le_of_ble_eq_true rfl, rfl, rfl, q1705⟩
theorem mf_82 : mFd 82 209 (.array .char) true := ⟨Nat.le_of_ble_eq_true rfl, rfl, rfl, q1706⟩
theorem mf_83 : mFd 83 212 (.array .char) true := ⟨Nat.le_of_ble_eq_true rfl, rfl, rfl, q1707⟩
theorem mf_84 : mFd 84 215 (.array .char) true := ⟨Nat.le_of_ble_eq_true rfl, rfl, rfl, q1708⟩
theorem mf_85 : mFd 85 218 (.array .char) true := ⟨Nat.le_of_ble_eq_true rfl, rfl, rfl, q1709⟩
theorem mf_86 : mFd 86 221 (.array .char) true := ⟨Nat.le_of_ble_eq_true rfl, rfl, rfl, q1710⟩
theorem mf_87 : mFd 87 224 (.array .char) true := ⟨Nat.le_of_ble_eq_true rfl, rfl, rfl, q1711⟩
theorem mf_88 : mFd 88 227 (.array .char) true := ⟨Nat.le_of_ble_eq_true rfl, rfl, rfl, q1712⟩
theorem mf_89 : mFd 89 230 (.array .char) true := ⟨Nat.le_of_ble_eq_true rfl, rfl, rfl, q1713⟩
theorem mf_90 : mFd 90 233 (.array .char) true := ⟨Nat.le_of_ble_eq_true rfl, rfl, rfl, q1714⟩
theorem mf_91 : mFd 91 236 (.array .char) true := ⟨Nat.le_of_ble_eq_true rfl, rfl, rfl, q1715⟩
theorem mf_92 : mFd 92 239 (.array .char) true := ⟨Nat.le_of_ble_eq_true rfl, rfl, rfl, q1716⟩
theorem mf_93 : mFd 93 242 (.array .int) true := ⟨Nat.le_of_ble_eq_true rfl, rfl, rfl, q1717⟩
theorem mf_94 : mFd 94 342 (.int) false := ⟨Nat.le_of_ble_eq_true rfl, rfl, rfl, q1718⟩
theorem mf_95 : mFd 95 245 (.array .int) true := ⟨Nat.le_of_ble_eq_true rfl, rfl, rfl, q1719⟩
theorem mf_96 : mFd 96 345 (.int) false := ⟨Nat.le_of_ble_eq_true rfl, rfl, rfl, q1720⟩
theorem mf_97 : mFd 97 348 (.int) false := ⟨Nat.le_of_ble_eq_true rfl, rfl, rfl, q1721⟩
theorem mf_98 : mFd 98 351 (.int) false := ⟨Nat.le_of_ble_eq_true rfl, rfl, rfl, q1722⟩
theorem mf_99 : mFd 99 248 (.array .long) true := ⟨Nat.le_of_ble_eq_true rfl, rfl, rfl, q1723⟩
theorem mf_100 : mFd 100 416 (.int) false := ⟨Nat.le_of_ble_eq_true rfl, rfl, rfl, q1724⟩
theorem mf_101 : mFd 101 634 (.long) false := ⟨Nat.le_of_ble_eq_true rfl, rfl, rfl, q1725⟩
theorem mf_102 : mFd 102 639 (.boolean) false := ⟨Nat.le_of_ble_eq_true rfl, rfl, rfl, q1726⟩
theorem mf_103 : mFd 103 251 (.array .int) true := ⟨Nat.le_of_ble_eq_true rfl, rfl, rfl, q1727⟩
theorem mf_104 : mFd 104 653 (.int) false := ⟨Nat.le_of_ble_eq_true rfl, rfl, rfl, q1728⟩
