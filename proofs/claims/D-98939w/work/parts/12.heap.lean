/-! PART 12: pure heaps: cells by address, the next address, the slots in use; the walk over them -/
set_option maxRecDepth 100000
abbrev PE : Type := (Nat × vp_A) ⊕ (Nat × List Value)
abbrev PH : Type := Nat × Nat × (Nat → Option (Bool × PE))
/-- the classes' numbers and slots; the array classes by kind; the statics' values; the constant texts' addresses -/
abbrev PD : Type := (Nat → ClassId) × (Nat → Nat → Nat) × (Nat → ClassId) × (Nat → Value) × (Nat → Nat)
def dA (D : PD) (k : Nat) : ClassId := D.2.2.1 k
def dS (D : PD) (k : Nat) : Value := D.2.2.2.1 k
def dK (D : PD) (k : Nat) : Nat := D.2.2.2.2 k
def T0 : u_T := fun _ => ("", "", "", false)
abbrev cT : List vw_C := [(RX0, TX0, 21), (RX1, TX1, 9), (RX2, TX2, 8), (RX3, TX3, 8), (RX4, TX4, 1), (RX5, TX5, 12), (RX6, TX6, 105), (RX7, TX7, 2), (RX8, TX8, 5), (RX12, T0, 0), (RX10, TX10, 2), (RX11, TX11, 1), (RX12, T0, 0), (RX12, T0, 0), (RX14, TX14, 2), (RX15, TX15, 3), (RX16, TX16, 1), (RX17, TX17, 1), (RX18, TX18, 3), (RX19, TX19, 3), (RX20, TX20, 5), (RJ2, TJ2, 3), (RJ6, TJ6, 4), (RJ15, TJ15, 4)]
def pE (D : PD) (e : PE) : va_E := match e with
  | .inl a => .inl (dA D a.1, a.2)
  | .inr o => .inr o
def pG (D : PD) : va_G := (D.1, D.2.1)
def tot (H : Heap) : Nat := (H.toList.map fun c => c.slots.size).sum
theorem tot_push (H : Heap) (c : Cell) : tot (H.push c) = tot H + c.slots.size := by
  simp [tot]
theorem tot_like {H H1 : Heap} (hz : H1.size = H.size) (hq : ∀ q : Nat, (H1[q]?).map (fun c => c.slots.size) = (H[q]?).map (fun c => c.slots.size)) : tot H1 = tot H := by
  unfold tot
  congr 1
  apply List.ext_getElem?
  intro i
  rw [List.getElem?_map, List.getElem?_map, Array.getElem?_toList, Array.getElem?_toList]
  exact hq i
theorem tot_set {H H1 : Heap} {a : Nat} {c c1 : Cell} (hz : H1.size = H.size) (h0 : H[a]? = some c) (h1 : H1[a]? = some c1) (hs : c1.slots.size = c.slots.size) (hq : ∀ q : Nat, q ≠ a → H1[q]? = H[q]?) : tot H1 = tot H := by
  refine tot_like hz fun q => ?_
  by_cases h : q = a
  · subst h
    rw [h0, h1]
    simp [hs]
  · rw [hq q h]
theorem tot_new {s T : State} {locs : List Loc} {cells slots : Nat} (h : s.sameButNew T locs cells slots) : ((T.heap.toList.drop s.heap.size).map (·.slots.size)).sum = tot T.heap - tot s.heap := by
  obtain ⟨-, h2, -, -, -, h6⟩ := h
  have e1 : (T.heap.toList.take s.heap.size).map (fun c => c.slots.size) = s.heap.toList.map (fun c => c.slots.size) := by
    apply List.ext_getElem?
    intro i
    rw [List.getElem?_map, List.getElem?_map, List.getElem?_take]
    by_cases hi : i < s.heap.size
    · rw [if_pos hi, Array.getElem?_toList, Array.getElem?_toList]
      obtain ⟨c', q1, -, q3, -⟩ := h6 i _ (Array.getElem?_eq_getElem hi)
      rw [q1, Array.getElem?_eq_getElem hi]
      simp [q3]
    · rw [if_neg hi]
      have : s.heap.toList[i]? = none := by
        rw [List.getElem?_eq_none_iff]
        simpa using hi
      rw [this]
  have e2 : tot T.heap = tot s.heap + ((T.heap.toList.drop s.heap.size).map (·.slots.size)).sum := by
    unfold tot
    rw [← e1, ← List.sum_append, ← List.map_append, List.take_append_drop]
  omega
def PP (D : PD) (A : Nat → Prop) (h : PH) (H : Heap) : Prop :=
  H.size = h.1 ∧ tot H = h.2.1 ∧ ∀ (a : Nat) (b : Bool) (e : PE), h.2.2 a = some (b, e) → va_at (pG D) cT (a, pE D e) H ∧ (b = true → A a)
def capOk (cap : Nat × Nat) (h : PH) : Prop := h.1 ≤ cap.1 ∧ h.2.1 ≤ cap.2
def PI (D : PD) (A : Nat → Prop) (cap : Nat × Nat) (H0 : Heap) (h : PH) (H : Heap) (locs : List Loc) : Prop := PP D A h H ∧ capOk cap h ∧ va_S A H0 H locs ∧ tot H0 ≤ tot H
def rmC (cap : Nat × Nat) (d k n : Nat) : Room := { frames := d, cells := cap.1 - k, slots := cap.2 - n, locals := 70 * d }
section Tight
variable {p : Program} {l : Launch} {e : Env} {R : Room} {s : State} {m : MethodId} {args : Array Value} {below : List Frame} {meth : Method} {c : Code} {H : Heap} {locs : List Loc} {cells slots : Nat} {Q : State → Prop}
theorem W_tight {g : JFrame} {k n : Nat} (h1 : H.size - s.heap.size ≤ k) (h2 : tot H - tot s.heap ≤ n) (kk : W p l e R s m args below meth c H locs k n Q g) : W p l e R s m args below meth c H locs cells slots Q g := by
  intro T hT X
  refine kk T hT { X with same := ?_ }
  obtain ⟨q1, q2, q3, q4, q5, q6⟩ := X.same
  have e0 := tot_new X.same
  have e1 : (T.setVm s.vm).heap = H := hT
  refine ⟨q1, q2, ?_, q4, ?_, q6⟩
  · rw [e1] at q2 ⊢
    omega
  · rw [e0, e1]
    exact h2
end Tight
/-! reading values -/
def vI {β : Type} (x : Option Value) (k : Int32 → Option β) : Option β := match x with
  | some (.int n) => k n
  | _ => none
theorem vI_open {β : Type} {x : Option Value} {k : Int32 → Option β} {y : β} (h : vI x k = some y) : ∃ n : Int32, x = some (.int n) ∧ k n = some y := by
  unfold vI at h
  split at h
  · exact ⟨_, rfl, h⟩
  · cases h
def vZ {β : Type} (x : Option Value) (k : Bool → Option β) : Option β := vI x (fun n => if n = 0 then k false else if n = 1 then k true else none)
theorem vZ_open {β : Type} {x : Option Value} {k : Bool → Option β} {y : β} (h : vZ x k = some y) : ∃ b : Bool, x = some (.int (bI b)) ∧ k b = some y := by
  obtain ⟨n, h1, h2⟩ := vI_open h
  by_cases c0 : n = 0
  · rw [if_pos c0] at h2
    exact ⟨false, by rw [h1, c0]; rfl, h2⟩
  · rw [if_neg c0] at h2
    by_cases c1 : n = 1
    · rw [if_pos c1] at h2
      exact ⟨true, by rw [h1, c1]; rfl, h2⟩
    · rw [if_neg c1] at h2
      cases h2
def vJ {β : Type} (x : Option Value) (k : Int64 → Option β) : Option β := match x with
  | some (.long n) => k n
  | _ => none
theorem vJ_open {β : Type} {x : Option Value} {k : Int64 → Option β} {y : β} (h : vJ x k = some y) : ∃ n : Int64, x = some (.long n) ∧ k n = some y := by
  unfold vJ at h
  split at h
  · exact ⟨_, rfl, h⟩
  · cases h
def vA {β : Type} (x : Option Value) (k : Nat → Option β) : Option β := match x with
  | some (.ref n) => k n
  | _ => none
theorem vA_open {β : Type} {x : Option Value} {k : Nat → Option β} {y : β} (h : vA x k = some y) : ∃ n : Nat, x = some (.ref n) ∧ k n = some y := by
  unfold vA at h
  split at h
  · exact ⟨_, rfl, h⟩
  · cases h
def vQ {β : Type} (x : Option Value) (k : Option Nat → Option β) : Option β := match x with
  | some (.ref n) => k (some n)
  | some .null => k none
  | _ => none
theorem vQ_open {β : Type} {x : Option Value} {k : Option Nat → Option β} {y : β} (h : vQ x k = some y) : ∃ q : Option Nat, x = some (va_rf q) ∧ k q = some y := by
  unfold vQ at h
  split at h
  · exact ⟨some _, rfl, h⟩
  · exact ⟨none, rfl, h⟩
  · cases h
def ob {α β : Type} (x : Option α) (k : α → Option β) : Option β := match x with
  | some a => k a
  | none => none
theorem ob_open {α β : Type} {x : Option α} {k : α → Option β} {y : β} (h : ob x k = some y) : ∃ a : α, x = some a ∧ k a = some y := by
  cases x with
  | none => cases h
  | some a => exact ⟨a, rfl, h⟩
/-! cells -/
def pF (h : PH) (a ci k : Nat) : Option Value := match h.2.2 a with
  | some (_, .inr o) => if o.1 = ci then o.2[k]? else none
  | _ => none
theorem pF_open {h : PH} {a ci k : Nat} {v : Value} (e : pF h a ci k = some v) : ∃ (b : Bool) (fs : List Value), h.2.2 a = some (b, .inr (ci, fs)) ∧ fs[k]? = some v := by
  unfold pF at e
  split at e
  next b o he =>
    by_cases hc : o.1 = ci
    · rw [if_pos hc] at e
      subst hc
      exact ⟨b, o.2, he, e⟩
    · rw [if_neg hc] at e
      cases e
  next => cases e
def pPut (h : PH) (a ci k : Nat) (v : Value) : Option PH := match h.2.2 a with
  | some (true, .inr o) => if o.1 = ci ∧ k < o.2.length then some (h.1, h.2.1, va_up h.2.2 a (some (true, .inr (ci, o.2.set k v)))) else none
  | _ => none
theorem pPut_open {h h1 : PH} {a ci k : Nat} {v : Value} (e : pPut h a ci k v = some h1) : ∃ fs : List Value, h.2.2 a = some (true, .inr (ci, fs)) ∧ k < fs.length ∧ h1 = (h.1, h.2.1, va_up h.2.2 a (some (true, .inr (ci, fs.set k v)))) := by
  unfold pPut at e
  split at e
  next o he =>
    by_cases hc : o.1 = ci ∧ k < o.2.length
    · rw [if_pos hc] at e
      obtain ⟨hc1, hc2⟩ := hc
      subst hc1
      exact ⟨o.2, he, hc2, (Option.some.inj e).symm⟩
    · rw [if_neg hc] at e
      cases e
  next => cases e
/-- the class of an object -/
def pCls (h : PH) (a : Nat) : Option Nat := match h.2.2 a with
  | some (_, .inr o) => some o.1
  | _ => none
theorem pCls_open {h : PH} {a ci : Nat} (e : pCls h a = some ci) : ∃ (b : Bool) (fs : List Value), h.2.2 a = some (b, .inr (ci, fs)) := by
  unfold pCls at e
  split at e
  next b o he =>
    cases e
    exact ⟨b, o.2, he⟩
  next => cases e
/-- an array of kind kd: its length and contents -/
def pArr (h : PH) (a kd : Nat) : Option vp_A := match h.2.2 a with
  | some (_, .inl x) => if x.1 = kd then some x.2 else none
  | _ => none
theorem pArr_open {h : PH} {a kd : Nat} {x : vp_A} (e : pArr h a kd = some x) : ∃ b : Bool, h.2.2 a = some (b, .inl (kd, x)) := by
  unfold pArr at e
  split at e
  next b o he =>
    by_cases hc : o.1 = kd
    · rw [if_pos hc] at e
      cases e
      subst hc
      exact ⟨b, he⟩
    · rw [if_neg hc] at e
      cases e
  next => cases e
def pLd (h : PH) (a kd : Nat) (i : Int32) : Option Int32 := match pArr h a kd with
  | some (n, .inl f) => if inb i n then some (f i.toNatClampNeg) else none
  | _ => none
theorem pLd_open {h : PH} {a kd : Nat} {i v : Int32} (e : pLd h a kd i = some v) : ∃ (b : Bool) (n : Nat) (f : Nat → Int32), h.2.2 a = some (b, .inl (kd, n, .inl f)) ∧ inb i n = true ∧ v = f i.toNatClampNeg := by
  unfold pLd at e
  split at e
  next n f he =>
    obtain ⟨b, hb⟩ := pArr_open he
    by_cases hc : inb i n = true
    · rw [if_pos hc] at e
      exact ⟨b, n, f, hb, hc, (Option.some.inj e).symm⟩
    · rw [if_neg hc] at e
      cases e
  next => cases e
def pLdJ (h : PH) (a kd : Nat) (i : Int32) : Option Int64 := match pArr h a kd with
  | some (n, .inr (.inl f)) => if inb i n then some (f i.toNatClampNeg) else none
  | _ => none
theorem pLdJ_open {h : PH} {a kd : Nat} {i : Int32} {v : Int64} (e : pLdJ h a kd i = some v) : ∃ (b : Bool) (n : Nat) (f : Nat → Int64), h.2.2 a = some (b, .inl (kd, n, .inr (.inl f))) ∧ inb i n = true ∧ v = f i.toNatClampNeg := by
  unfold pLdJ at e
  split at e
  next n f he =>
    obtain ⟨b, hb⟩ := pArr_open he
    by_cases hc : inb i n = true
    · rw [if_pos hc] at e
      exact ⟨b, n, f, hb, hc, (Option.some.inj e).symm⟩
    · rw [if_neg hc] at e
      cases e
  next => cases e
def pLdQ (h : PH) (a kd : Nat) (i : Int32) : Option (Option Nat) := match pArr h a kd with
  | some (n, .inr (.inr (.inr (.inr f)))) => if inb i n then some (f i.toNatClampNeg) else none
  | _ => none
theorem pLdQ_open {h : PH} {a kd : Nat} {i : Int32} {v : Option Nat} (e : pLdQ h a kd i = some v) : ∃ (b : Bool) (n : Nat) (f : Nat → Option Nat), h.2.2 a = some (b, .inl (kd, n, .inr (.inr (.inr (.inr f))))) ∧ inb i n = true ∧ v = f i.toNatClampNeg := by
  unfold pLdQ at e
  split at e
  next n f he =>
    obtain ⟨b, hb⟩ := pArr_open he
    by_cases hc : inb i n = true
    · rw [if_pos hc] at e
      exact ⟨b, n, f, hb, hc, (Option.some.inj e).symm⟩
    · rw [if_neg hc] at e
      cases e
  next => cases e
def pLen (h : PH) (a : Nat) : Option Nat := match h.2.2 a with
  | some (_, .inl x) => some x.2.1
  | _ => none
theorem pLen_open {h : PH} {a n : Nat} (e : pLen h a = some n) : ∃ (b : Bool) (x : Nat × vp_A), h.2.2 a = some (b, .inl x) ∧ x.2.1 = n := by
  unfold pLen at e
  split at e
  next b o he =>
    cases e
    exact ⟨b, o, he, rfl⟩
  next => cases e
def pPutE (h : PH) (a : Nat) (e : PE) : PH := (h.1, h.2.1, va_up h.2.2 a (some (true, e)))
def pSt (h : PH) (a kd : Nat) (i v : Int32) : Option PH := match h.2.2 a with
  | some (true, .inl (k, n, .inl f)) => if k = kd ∧ inb i n = true then some (pPutE h a (.inl (kd, n, .inl (upd f i.toNatClampNeg v)))) else none
  | _ => none
theorem pSt_open {h h1 : PH} {a kd : Nat} {i v : Int32} (e : pSt h a kd i v = some h1) : ∃ (n : Nat) (f : Nat → Int32), h.2.2 a = some (true, .inl (kd, n, .inl f)) ∧ inb i n = true ∧ h1 = pPutE h a (.inl (kd, n, .inl (upd f i.toNatClampNeg v))) := by
  unfold pSt at e
  split at e
  next k n f he =>
    by_cases hc : k = kd ∧ inb i n = true
    · rw [if_pos hc] at e
      obtain ⟨rfl, hc2⟩ := hc
      exact ⟨n, f, he, hc2, (Option.some.inj e).symm⟩
    · rw [if_neg hc] at e
      cases e
  next => cases e
def pStJ (h : PH) (a kd : Nat) (i : Int32) (v : Int64) : Option PH := match h.2.2 a with
  | some (true, .inl (k, n, .inr (.inl f))) => if k = kd ∧ inb i n = true then some (pPutE h a (.inl (kd, n, .inr (.inl (vp_updL f i.toNatClampNeg v))))) else none
  | _ => none
theorem pStJ_open {h h1 : PH} {a kd : Nat} {i : Int32} {v : Int64} (e : pStJ h a kd i v = some h1) : ∃ (n : Nat) (f : Nat → Int64), h.2.2 a = some (true, .inl (kd, n, .inr (.inl f))) ∧ inb i n = true ∧ h1 = pPutE h a (.inl (kd, n, .inr (.inl (vp_updL f i.toNatClampNeg v)))) := by
  unfold pStJ at e
  split at e
  next k n f he =>
    by_cases hc : k = kd ∧ inb i n = true
    · rw [if_pos hc] at e
      obtain ⟨rfl, hc2⟩ := hc
      exact ⟨n, f, he, hc2, (Option.some.inj e).symm⟩
    · rw [if_neg hc] at e
      cases e
  next => cases e
def pStQ (h : PH) (a kd : Nat) (i : Int32) (v : Option Nat) : Option PH := match h.2.2 a with
  | some (true, .inl (k, n, .inr (.inr (.inr (.inr f))))) => if k = kd ∧ inb i n = true then some (pPutE h a (.inl (kd, n, .inr (.inr (.inr (.inr (va_up f i.toNatClampNeg v))))))) else none
  | _ => none
theorem pStQ_open {h h1 : PH} {a kd : Nat} {i : Int32} {v : Option Nat} (e : pStQ h a kd i v = some h1) : ∃ (n : Nat) (f : Nat → Option Nat), h.2.2 a = some (true, .inl (kd, n, .inr (.inr (.inr (.inr f))))) ∧ inb i n = true ∧ h1 = pPutE h a (.inl (kd, n, .inr (.inr (.inr (.inr (va_up f i.toNatClampNeg v)))))) := by
  unfold pStQ at e
  split at e
  next k n f he =>
    by_cases hc : k = kd ∧ inb i n = true
    · rw [if_pos hc] at e
      obtain ⟨rfl, hc2⟩ := hc
      exact ⟨n, f, he, hc2, (Option.some.inj e).symm⟩
    · rw [if_neg hc] at e
      cases e
  next => cases e
/-- a new cell e of n slots -/
def pNew (cap : Nat × Nat) (h : PH) (e : PE) (n : Nat) : Option (Nat × PH) := if h.1 + 1 ≤ cap.1 ∧ h.2.1 + n ≤ cap.2 then some (h.1, (h.1 + 1, h.2.1 + n, va_up h.2.2 h.1 (some (true, e)))) else none
theorem pNew_open {cap : Nat × Nat} {h h1 : PH} {e : PE} {n a : Nat} (q : pNew cap h e n = some (a, h1)) : h.1 + 1 ≤ cap.1 ∧ h.2.1 + n ≤ cap.2 ∧ a = h.1 ∧ h1 = (h.1 + 1, h.2.1 + n, va_up h.2.2 h.1 (some (true, e))) := by
  unfold pNew at q
  by_cases hc : h.1 + 1 ≤ cap.1 ∧ h.2.1 + n ≤ cap.2
  · rw [if_pos hc] at q
    cases q
    exact ⟨hc.1, hc.2, rfl, rfl⟩
  · rw [if_neg hc] at q
    cases q
theorem PP.at {D : PD} {A : Nat → Prop} {h : PH} {H : Heap} (hP : PP D A h H) {a : Nat} {b : Bool} {e : PE} (he : h.2.2 a = some (b, e)) : va_P (pG D) cT [(a, pE D e)] H := by
  intro k q hk
  have hz : k < 1 := (List.getElem?_eq_some_iff.mp hk).1
  rw [show k = 0 by omega] at hk
  cases hk
  exact (hP.2.2 a b e he).1
/-- one cell is written -/
theorem PP.put {D : PD} {A : Nat → Prop} {h : PH} {H H1 : Heap} (hP : PP D A h H) {a : Nat} {e0 e : PE} {c c1 : Cell} (he : h.2.2 a = some (true, e0)) (hz : H1.size = H.size) (h0 : H[a]? = some c) (h1 : H1[a]? = some c1) (hs : c1.slots.size = c.slots.size) (hq : ∀ q : Nat, q ≠ a → H1[q]? = H[q]?) (hat : va_at (pG D) cT (a, pE D e) H1) : PP D A (pPutE h a e) H1 := by
  refine ⟨hz.trans hP.1, (tot_set hz h0 h1 hs hq).trans hP.2.1, fun x b e2 hx => ?_⟩
  by_cases hxa : x = a
  · subst hxa
    have e3 : (pPutE h x e).2.2 x = some (true, e) := by simp [pPutE, va_up]
    rw [e3] at hx
    cases hx
    exact ⟨hat, fun _ => (hP.2.2 x true e0 he).2 rfl⟩
  · have e3 : (pPutE h a e).2.2 x = h.2.2 x := by simp [pPutE, va_up, hxa]
    rw [e3] at hx
    obtain ⟨r1, r2⟩ := hP.2.2 x b e2 hx
    exact ⟨r1.kept (hq x hxa), r2⟩
/-- a cell is new -/
theorem PP.new {D : PD} {A : Nat → Prop} {h : PH} {H : Heap} (hP : PP D A h H) {e : PE} {c : Cell} {n : Nat} (hn : c.slots.size = n) (hA : A H.size) (hat : va_at (pG D) cT (h.1, pE D e) (H.push c)) : PP D A (h.1 + 1, h.2.1 + n, va_up h.2.2 h.1 (some (true, e))) (H.push c) := by
  refine ⟨by simp [hP.1], by rw [tot_push, hP.2.1, hn], fun x b e2 hx => ?_⟩
  by_cases hxa : x = h.1
  · subst hxa
    have e3 : va_up h.2.2 h.1 (some (true, e)) h.1 = some (true, e) := by simp [va_up]
    have hx : va_up h.2.2 h.1 (some (true, e)) h.1 = some (b, e2) := hx
    rw [e3] at hx
    cases hx
    exact ⟨hat, fun _ => by rw [← hP.1]; exact hA⟩
  · have e3 : va_up h.2.2 h.1 (some (true, e)) x = h.2.2 x := by simp [va_up, hxa]
    have hx : va_up h.2.2 h.1 (some (true, e)) x = some (b, e2) := hx
    rw [e3] at hx
    obtain ⟨r1, r2⟩ := hP.2.2 x b e2 hx
    have hlt : x < H.size := r1.lt
    exact ⟨r1.kept (by rw [Array.getElem?_push, if_neg (Nat.ne_of_lt hlt)]), r2⟩
