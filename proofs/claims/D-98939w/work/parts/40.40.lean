/-! PART 40: plain: the component's lasting cells as rows of numbers (mk) -/
set_option maxRecDepth 100000
/-- rows by place: ints, longs, references -/
abbrev CZ : Type := (Nat → Nat → Int32) × (Nat → Nat → Int64) × (Nat → Nat → Option Nat)
def cI (c : CZ) (o i : Nat) : Int32 := c.1 o i
def cL (c : CZ) (o i : Nat) : Int64 := c.2.1 o i
def cQ (c : CZ) (o i : Nat) : Option Nat := c.2.2 o i
def xI (c : CZ) (o i : Nat) (v : Int32) : CZ := (va_up c.1 o (upd (c.1 o) i v), c.2)
def xL (c : CZ) (o i : Nat) (v : Int64) : CZ := (c.1, va_up c.2.1 o (vp_updL (c.2.1 o) i v), c.2.2)
def xQ' (c : CZ) (o i : Nat) (v : Option Nat) : CZ := (c.1, c.2.1, va_up c.2.2 o (va_up (c.2.2 o) i v))
theorem cI_x (c : CZ) (o i : Nat) (v : Int32) (o' i' : Nat) : cI (xI c o i v) o' i' = if o' = o ∧ i' = i then v else cI c o' i' := by
  show va_up c.1 o (upd (c.1 o) i v) o' i' = _
  by_cases h : o' = o
  · subst h
    by_cases h2 : i' = i <;> simp [va_up, upd, h2, cI]
  · simp [va_up, h, cI]
theorem cI_xL (c : CZ) (o i : Nat) (v : Int64) (o' i' : Nat) : cI (xL c o i v) o' i' = cI c o' i' := rfl
theorem cI_xQ (c : CZ) (o i : Nat) (v : Option Nat) (o' i' : Nat) : cI (xQ' c o i v) o' i' = cI c o' i' := rfl
theorem cL_x (c : CZ) (o i : Nat) (v : Int64) (o' i' : Nat) : cL (xL c o i v) o' i' = if o' = o ∧ i' = i then v else cL c o' i' := by
  show va_up c.2.1 o (vp_updL (c.2.1 o) i v) o' i' = _
  by_cases h : o' = o
  · subst h
    by_cases h2 : i' = i <;> simp [va_up, vp_updL, h2, cL]
  · simp [va_up, h, cL]
theorem cL_xI (c : CZ) (o i : Nat) (v : Int32) (o' i' : Nat) : cL (xI c o i v) o' i' = cL c o' i' := rfl
theorem cL_xQ (c : CZ) (o i : Nat) (v : Option Nat) (o' i' : Nat) : cL (xQ' c o i v) o' i' = cL c o' i' := rfl
theorem cQ_x (c : CZ) (o i : Nat) (v : Option Nat) (o' i' : Nat) : cQ (xQ' c o i v) o' i' = if o' = o ∧ i' = i then v else cQ c o' i' := by
  show va_up c.2.2 o (va_up (c.2.2 o) i v) o' i' = _
  by_cases h : o' = o
  · subst h
    by_cases h2 : i' = i <;> simp [va_up, h2, cQ]
  · simp [va_up, h, cQ]
theorem cQ_xI (c : CZ) (o i : Nat) (v : Int32) (o' i' : Nat) : cQ (xI c o i v) o' i' = cQ c o' i' := rfl
theorem cQ_xL (c : CZ) (o i : Nat) (v : Int64) (o' i' : Nat) : cQ (xL c o i v) o' i' = cQ c o' i' := rfl
/-- the cells of a State at address b -/
def stC (B b d : Nat) (f : Nat → Int32) (q : Nat → Option Nat) : PE :=
  if d = 0 then .inr (5, [.int (f 0), .int (f 1), .int (f 2), .int (f 3), .ref (b + 1), .ref (b + 2), .ref (b + 3), .ref (b + 4), .ref (b + 5), .ref (b + 36), .int (f 10), .ref B])
  else if d = 5 then .inl (6, 30, .inr (.inr (.inr (.inr q))))
  else if d < 5 ∨ d = 36 then .inl (0, 8, .inl f)
  else .inl (0, 3, .inl f)
/-- the cell at place o of the component at B -/
def shp (B o : Nat) (f : Nat → Int32) (l : Nat → Int64) (q : Nat → Option Nat) : Option PE :=
  if o = 0 then some (.inr (0, [va_rf (q 0), .ref (B + 6), .int (f 2), .int (f 3), .int (f 4), .ref (B + 7), .ref (B + 9), .ref (B + 11), .ref (B + 13), .ref (B + 14), .ref (B + 51), .ref (B + 88), .ref (B + 89), .int (f 13), .ref (B + 90), .ref (B + 99), .int (f 16), .long (l 17), .int (f 18), .ref (B + 840), .int (f 20)]))
  else if o < 6 then none
  else if o = 6 then some (.inl (2, 1600, .inl f))
  else if o = 7 then some (.inr (2, [.ref (B + 8), .int (f 1), .int (f 2), .int (f 3), .int (f 4), .int (f 5), va_rf (q 6), .ref B]))
  else if o = 8 then some (.inr (3, [.null, .null, .null, .null, .null, .int 0, .int (f 6), .int (f 7)]))
  else if o = 9 then some (.inr (4, [.ref (B + 10)]))
  else if o = 10 then some (.inl (1, 12, .inr (.inl l)))
  else if o = 11 then some (.inr (4, [.ref (B + 12)]))
  else if o = 12 then some (.inl (1, 12, .inr (.inl l)))
  else if o = 13 then some (.inl (0, 6, .inl f))
  else if o < 88 then some (stC B (B + (14 + 37 * ((o - 14) / 37))) ((o - 14) % 37) f q)
  else if o < 90 then some (.inl (0, 16, .inl f))
  else if o = 90 then some (.inl (6, 8, .inr (.inr (.inr (.inr q)))))
  else if o < 99 then some (.inl (0, 3, .inl f))
  else if o = 99 then some (.inl (5, 20, .inr (.inr (.inr (.inr q)))))
  else if o < 840 then some (stC B (B + (100 + 37 * ((o - 100) / 37))) ((o - 100) % 37) f q)
  else if o = 840 then some (.inl (2, 43, .inl f))
  else none
def mk (B : Nat) (c : CZ) (h : PH) : PH := (h.1, h.2.1, fun a => if B ≤ a then (match shp B (a - B) (c.1 (a - B)) (c.2.1 (a - B)) (c.2.2 (a - B)) with
  | some e => some (true, e)
  | none => h.2.2 a) else h.2.2 a)
def outB (B a : Nat) : Prop := a < B ∨ (B + 1 ≤ a ∧ a ≤ B + 5) ∨ B + 841 ≤ a
theorem mk_out {B a : Nat} (h : outB B a) (c : CZ) (h0 : PH) : (mk B c h0).2.2 a = h0.2.2 a := by
  show (if B ≤ a then _ else _) = _
  by_cases hB : B ≤ a
  · rw [if_pos hB]
    have : ∀ f l q, shp B (a - B) f l q = none := fun f l q => by
      unfold shp
      rcases h with h | ⟨h1, h2⟩ | h
      · omega
      · rw [if_neg (by omega), if_pos (by omega)]
      · rw [if_neg (by omega), if_neg (by omega), if_neg (by omega), if_neg (by omega), if_neg (by omega), if_neg (by omega), if_neg (by omega), if_neg (by omega), if_neg (by omega), if_neg (by omega), if_neg (by omega), if_neg (by omega), if_neg (by omega), if_neg (by omega), if_neg (by omega), if_neg (by omega), if_neg (by omega)]
    rw [this]
  · rw [if_neg hB]
theorem mk_at {B o : Nat} {c : CZ} {e : PE} (h : shp B o (c.1 o) (c.2.1 o) (c.2.2 o) = some e) (h0 : PH) : (mk B c h0).2.2 (B + o) = some (true, e) := by
  show (if B ≤ B + o then _ else _) = _
  rw [if_pos (Nat.le_add_right _ _), Nat.add_sub_cancel_left, h]
/-- a row is written -/
theorem mk_put {B o : Nat} {c : CZ} {f : Nat → Int32} {l : Nat → Int64} {q : Nat → Option Nat} {e : PE} (h : shp B o f l q = some e) (h0 : PH) : pPutE (mk B c h0) (B + o) e = mk B (va_up c.1 o f, va_up c.2.1 o l, va_up c.2.2 o q) h0 := by
  unfold pPutE
  show (h0.1, h0.2.1, _) = (h0.1, h0.2.1, _)
  congr 2
  funext a
  show va_up (mk B c h0).2.2 (B + o) (some (true, e)) a = _
  by_cases ha : a = B + o
  · subst ha
    rw [va_up_self]
    show _ = (if B ≤ B + o then _ else _)
    rw [if_pos (Nat.le_add_right _ _), Nat.add_sub_cancel_left]
    dsimp only
    rw [va_up_self, va_up_self, va_up_self, h]
  · rw [va_up_ne _ _ ha]
    show (if B ≤ a then _ else _) = (if B ≤ a then _ else _)
    by_cases hB : B ≤ a
    · rw [if_pos hB, if_pos hB]
      dsimp only
      rw [va_up_ne _ _ (show a - B ≠ o by omega), va_up_ne _ _ (show a - B ≠ o by omega), va_up_ne _ _ (show a - B ≠ o by omega)]
    · rw [if_neg hB, if_neg hB]
theorem rw_I (c : CZ) (o i : Nat) (v : Int32) : (va_up c.1 o (upd (c.1 o) i v), va_up c.2.1 o (c.2.1 o), va_up c.2.2 o (c.2.2 o)) = xI c o i v := by
  unfold xI
  congr 1
  show (va_up c.2.1 o (c.2.1 o), va_up c.2.2 o (c.2.2 o)) = c.2
  have e : ∀ {α : Type} (f : Nat → α), va_up f o (f o) = f := fun f => by
    funext j
    by_cases h : j = o
    · rw [h, va_up_self]
    · rw [va_up_ne _ _ h]
  rw [e, e]
theorem rw_L (c : CZ) (o i : Nat) (v : Int64) : (va_up c.1 o (c.1 o), va_up c.2.1 o (vp_updL (c.2.1 o) i v), va_up c.2.2 o (c.2.2 o)) = xL c o i v := by
  have e : ∀ {α : Type} (f : Nat → α), va_up f o (f o) = f := fun f => by
    funext j
    by_cases h : j = o
    · rw [h, va_up_self]
    · rw [va_up_ne _ _ h]
  rw [e, e]
  rfl
theorem rw_Q (c : CZ) (o i : Nat) (v : Option Nat) : (va_up c.1 o (c.1 o), va_up c.2.1 o (c.2.1 o), va_up c.2.2 o (va_up (c.2.2 o) i v)) = xQ' c o i v := by
  have e : ∀ {α : Type} (f : Nat → α), va_up f o (f o) = f := fun f => by
    funext j
    by_cases h : j = o
    · rw [h, va_up_self]
    · rw [va_up_ne _ _ h]
  rw [e, e]
  rfl
/-! kinds of rows -/
/-- place o is an array of n ints of kind kd; of longs; of references -/
def kI (B o kd n : Nat) : Prop := ∀ f l q, shp B o f l q = some (.inl (kd, n, .inl f))
def kJ (B o kd n : Nat) : Prop := ∀ f l q, shp B o f l q = some (.inl (kd, n, .inr (.inl l)))
def kQ (B o kd n : Nat) : Prop := ∀ f l q, shp B o f l q = some (.inl (kd, n, .inr (.inr (.inr (.inr q)))))
theorem kI.arr {B o kd n : Nat} (h : kI B o kd n) (c : CZ) (h0 : PH) : pArr (mk B c h0) (B + o) kd = some (n, .inl (c.1 o)) := by
  unfold pArr
  rw [mk_at (h _ _ _) h0]
  show (if kd = kd then _ else _) = _
  rw [if_pos rfl]
theorem kI.ld {B o kd n : Nat} (h : kI B o kd n) (c : CZ) (h0 : PH) {i : Int32} (hi : inb i n = true) : pLd (mk B c h0) (B + o) kd i = some (cI c o i.toNatClampNeg) := by
  unfold pLd
  rw [h.arr]
  show (if inb i n = true then _ else _) = _
  rw [if_pos hi]
  rfl
theorem kI.st {B o kd n : Nat} (h : kI B o kd n) (c : CZ) (h0 : PH) {i v : Int32} (hi : inb i n = true) : pSt (mk B c h0) (B + o) kd i v = some (mk B (xI c o i.toNatClampNeg v) h0) := by
  unfold pSt
  rw [mk_at (h _ _ _) h0]
  show (if kd = kd ∧ inb i n = true then _ else _) = _
  rw [if_pos ⟨rfl, hi⟩, mk_put (h (upd (c.1 o) i.toNatClampNeg v) (c.2.1 o) (c.2.2 o)) h0, rw_I]
theorem kJ.arr {B o kd n : Nat} (h : kJ B o kd n) (c : CZ) (h0 : PH) : pArr (mk B c h0) (B + o) kd = some (n, .inr (.inl (c.2.1 o))) := by
  unfold pArr
  rw [mk_at (h _ _ _) h0]
  show (if kd = kd then _ else _) = _
  rw [if_pos rfl]
theorem kJ.ld {B o kd n : Nat} (h : kJ B o kd n) (c : CZ) (h0 : PH) {i : Int32} (hi : inb i n = true) : pLdJ (mk B c h0) (B + o) kd i = some (cL c o i.toNatClampNeg) := by
  unfold pLdJ
  rw [h.arr]
  show (if inb i n = true then _ else _) = _
  rw [if_pos hi]
  rfl
theorem kJ.st {B o kd n : Nat} (h : kJ B o kd n) (c : CZ) (h0 : PH) {i : Int32} {v : Int64} (hi : inb i n = true) : pStJ (mk B c h0) (B + o) kd i v = some (mk B (xL c o i.toNatClampNeg v) h0) := by
  unfold pStJ
  rw [mk_at (h _ _ _) h0]
  show (if kd = kd ∧ inb i n = true then _ else _) = _
  rw [if_pos ⟨rfl, hi⟩, mk_put (h (c.1 o) (vp_updL (c.2.1 o) i.toNatClampNeg v) (c.2.2 o)) h0, rw_L]
theorem kQ.arr {B o kd n : Nat} (h : kQ B o kd n) (c : CZ) (h0 : PH) : pArr (mk B c h0) (B + o) kd = some (n, .inr (.inr (.inr (.inr (c.2.2 o))))) := by
  unfold pArr
  rw [mk_at (h _ _ _) h0]
  show (if kd = kd then _ else _) = _
  rw [if_pos rfl]
theorem kQ.ld {B o kd n : Nat} (h : kQ B o kd n) (c : CZ) (h0 : PH) {i : Int32} (hi : inb i n = true) : pLdQ (mk B c h0) (B + o) kd i = some (cQ c o i.toNatClampNeg) := by
  unfold pLdQ
  rw [h.arr]
  show (if inb i n = true then _ else _) = _
  rw [if_pos hi]
  rfl
theorem kQ.st {B o kd n : Nat} (h : kQ B o kd n) (c : CZ) (h0 : PH) {i : Int32} {v : Option Nat} (hi : inb i n = true) : pStQ (mk B c h0) (B + o) kd i v = some (mk B (xQ' c o i.toNatClampNeg v) h0) := by
  unfold pStQ
  rw [mk_at (h _ _ _) h0]
  show (if kd = kd ∧ inb i n = true then _ else _) = _
  rw [if_pos ⟨rfl, hi⟩, mk_put (h (c.1 o) (c.2.1 o) (va_up (c.2.2 o) i.toNatClampNeg v)) h0, rw_Q]
/-! objects -/
theorem mk_cls {B o ci : Nat} {c : CZ} {fs : List Value} (h : shp B o (c.1 o) (c.2.1 o) (c.2.2 o) = some (.inr (ci, fs))) (h0 : PH) : pCls (mk B c h0) (B + o) = some ci := by
  unfold pCls
  rw [mk_at h h0]
theorem mk_F {B o ci k : Nat} {c : CZ} {fs : List Value} {v : Value} (h : shp B o (c.1 o) (c.2.1 o) (c.2.2 o) = some (.inr (ci, fs))) (hv : fs[k]? = some v) (h0 : PH) : pF (mk B c h0) (B + o) ci k = some v := by
  unfold pF
  rw [mk_at h h0]
  show (if ci = ci then _ else _) = _
  rw [if_pos rfl, hv]
theorem mk_Put {B o ci k : Nat} {c : CZ} {fs : List Value} {v : Value} {f : Nat → Int32} {l : Nat → Int64} {q : Nat → Option Nat} (h : shp B o (c.1 o) (c.2.1 o) (c.2.2 o) = some (.inr (ci, fs))) (hk : k < fs.length) (h2 : shp B o f l q = some (.inr (ci, fs.set k v))) (h0 : PH) : pPut (mk B c h0) (B + o) ci k v = some (mk B (va_up c.1 o f, va_up c.2.1 o l, va_up c.2.2 o q) h0) := by
  unfold pPut
  rw [mk_at h h0]
  show (if ci = ci ∧ k < fs.length then _ else _) = _
  rw [if_pos ⟨rfl, hk⟩]
  exact congrArg some (mk_put h2 h0)
/-- a State lies at place s -/
def isS (s : Nat) : Prop := s = 14 ∨ s = 51 ∨ ∃ k, k < 20 ∧ s = 100 + 37 * k
theorem shp_st {B s d : Nat} (hs : isS s) (hd : d < 37) (f : Nat → Int32) (l : Nat → Int64) (q : Nat → Option Nat) : shp B (s + d) f l q = some (stC B (B + s) d f q) := by
  unfold shp
  rcases hs with rfl | rfl | ⟨k, hk, rfl⟩
  · rw [if_neg (by omega), if_neg (by omega), if_neg (by omega), if_neg (by omega), if_neg (by omega), if_neg (by omega), if_neg (by omega), if_neg (by omega), if_neg (by omega), if_neg (by omega), if_pos (by omega), show (14 + d - 14) / 37 = 0 by omega, show (14 + d - 14) % 37 = d by omega]
  · rw [if_neg (by omega), if_neg (by omega), if_neg (by omega), if_neg (by omega), if_neg (by omega), if_neg (by omega), if_neg (by omega), if_neg (by omega), if_neg (by omega), if_neg (by omega), if_pos (by omega), show (51 + d - 14) / 37 = 1 by omega, show (51 + d - 14) % 37 = d by omega]
  · rw [if_neg (by omega), if_neg (by omega), if_neg (by omega), if_neg (by omega), if_neg (by omega), if_neg (by omega), if_neg (by omega), if_neg (by omega), if_neg (by omega), if_neg (by omega), if_neg (by omega), if_neg (by omega), if_neg (by omega), if_neg (by omega), if_neg (by omega), if_pos (by omega), show (100 + 37 * k + d - 100) / 37 = k by omega, show (100 + 37 * k + d - 100) % 37 = d by omega]
theorem st_o {B s : Nat} (hs : isS s) (c : CZ) : shp B s (c.1 s) (c.2.1 s) (c.2.2 s) = some (.inr (5, [.int (c.1 s 0), .int (c.1 s 1), .int (c.1 s 2), .int (c.1 s 3), .ref (B + s + 1), .ref (B + s + 2), .ref (B + s + 3), .ref (B + s + 4), .ref (B + s + 5), .ref (B + s + 36), .int (c.1 s 10), .ref B])) := shp_st (d := 0) hs (by decide) _ _ _
theorem st_cls {B s : Nat} (hs : isS s) (c : CZ) (h0 : PH) : pCls (mk B c h0) (B + s) = some 5 := mk_cls (st_o hs c) h0
theorem st_F0 {B s : Nat} (hs : isS s) (c : CZ) (h0 : PH) : pF (mk B c h0) (B + s) 5 0 = some (.int (cI c s 0)) := mk_F (st_o hs c) rfl h0
theorem st_F1 {B s : Nat} (hs : isS s) (c : CZ) (h0 : PH) : pF (mk B c h0) (B + s) 5 1 = some (.int (cI c s 1)) := mk_F (st_o hs c) rfl h0
theorem st_F2 {B s : Nat} (hs : isS s) (c : CZ) (h0 : PH) : pF (mk B c h0) (B + s) 5 2 = some (.int (cI c s 2)) := mk_F (st_o hs c) rfl h0
theorem st_F3 {B s : Nat} (hs : isS s) (c : CZ) (h0 : PH) : pF (mk B c h0) (B + s) 5 3 = some (.int (cI c s 3)) := mk_F (st_o hs c) rfl h0
theorem st_F4 {B s : Nat} (hs : isS s) (c : CZ) (h0 : PH) : pF (mk B c h0) (B + s) 5 4 = some (.ref (B + s + 1)) := mk_F (st_o hs c) rfl h0
theorem st_F5 {B s : Nat} (hs : isS s) (c : CZ) (h0 : PH) : pF (mk B c h0) (B + s) 5 5 = some (.ref (B + s + 2)) := mk_F (st_o hs c) rfl h0
theorem st_F6 {B s : Nat} (hs : isS s) (c : CZ) (h0 : PH) : pF (mk B c h0) (B + s) 5 6 = some (.ref (B + s + 3)) := mk_F (st_o hs c) rfl h0
theorem st_F7 {B s : Nat} (hs : isS s) (c : CZ) (h0 : PH) : pF (mk B c h0) (B + s) 5 7 = some (.ref (B + s + 4)) := mk_F (st_o hs c) rfl h0
theorem st_F8 {B s : Nat} (hs : isS s) (c : CZ) (h0 : PH) : pF (mk B c h0) (B + s) 5 8 = some (.ref (B + s + 5)) := mk_F (st_o hs c) rfl h0
theorem st_F9 {B s : Nat} (hs : isS s) (c : CZ) (h0 : PH) : pF (mk B c h0) (B + s) 5 9 = some (.ref (B + s + 36)) := mk_F (st_o hs c) rfl h0
theorem st_F10 {B s : Nat} (hs : isS s) (c : CZ) (h0 : PH) : pF (mk B c h0) (B + s) 5 10 = some (.int (cI c s 10)) := mk_F (st_o hs c) rfl h0
theorem st_F11 {B s : Nat} (hs : isS s) (c : CZ) (h0 : PH) : pF (mk B c h0) (B + s) 5 11 = some (.ref B) := mk_F (st_o hs c) rfl h0
theorem st_p0 {B s : Nat} (hs : isS s) (c : CZ) (h0 : PH) (v : Int32) : pPut (mk B c h0) (B + s) 5 0 (.int v) = some (mk B (xI c s 0 v) h0) := by
  rw [mk_Put (f := upd (c.1 s) 0 v) (l := c.2.1 s) (q := c.2.2 s) (st_o hs c) (Nat.le_of_ble_eq_true rfl) (shp_st (d := 0) hs (by decide) _ _ _) h0, rw_I]
theorem st_p1 {B s : Nat} (hs : isS s) (c : CZ) (h0 : PH) (v : Int32) : pPut (mk B c h0) (B + s) 5 1 (.int v) = some (mk B (xI c s 1 v) h0) := by
  rw [mk_Put (f := upd (c.1 s) 1 v) (l := c.2.1 s) (q := c.2.2 s) (st_o hs c) (Nat.le_of_ble_eq_true rfl) (shp_st (d := 0) hs (by decide) _ _ _) h0, rw_I]
theorem st_p2 {B s : Nat} (hs : isS s) (c : CZ) (h0 : PH) (v : Int32) : pPut (mk B c h0) (B + s) 5 2 (.int v) = some (mk B (xI c s 2 v) h0) := by
  rw [mk_Put (f := upd (c.1 s) 2 v) (l := c.2.1 s) (q := c.2.2 s) (st_o hs c) (Nat.le_of_ble_eq_true rfl) (shp_st (d := 0) hs (by decide) _ _ _) h0, rw_I]
theorem st_p3 {B s : Nat} (hs : isS s) (c : CZ) (h0 : PH) (v : Int32) : pPut (mk B c h0) (B + s) 5 3 (.int v) = some (mk B (xI c s 3 v) h0) := by
  rw [mk_Put (f := upd (c.1 s) 3 v) (l := c.2.1 s) (q := c.2.2 s) (st_o hs c) (Nat.le_of_ble_eq_true rfl) (shp_st (d := 0) hs (by decide) _ _ _) h0, rw_I]
theorem st_p10 {B s : Nat} (hs : isS s) (c : CZ) (h0 : PH) (v : Int32) : pPut (mk B c h0) (B + s) 5 10 (.int v) = some (mk B (xI c s 10 v) h0) := by
  rw [mk_Put (f := upd (c.1 s) 10 v) (l := c.2.1 s) (q := c.2.2 s) (st_o hs c) (Nat.le_of_ble_eq_true rfl) (shp_st (d := 0) hs (by decide) _ _ _) h0, rw_I]
theorem st_k1 {B s : Nat} (hs : isS s) : kI B (s + 1) 0 8 := fun f l q => shp_st hs (by decide) f l q
theorem st_k2 {B s : Nat} (hs : isS s) : kI B (s + 2) 0 8 := fun f l q => shp_st hs (by decide) f l q
theorem st_k3 {B s : Nat} (hs : isS s) : kI B (s + 3) 0 8 := fun f l q => shp_st hs (by decide) f l q
theorem st_k4 {B s : Nat} (hs : isS s) : kI B (s + 4) 0 8 := fun f l q => shp_st hs (by decide) f l q
theorem st_k36 {B s : Nat} (hs : isS s) : kI B (s + 36) 0 8 := fun f l q => shp_st hs (by decide) f l q
theorem st_k5 {B s : Nat} (hs : isS s) : kQ B (s + 5) 6 30 := fun f l q => shp_st hs (by decide) f l q
theorem st_kr {B s j : Nat} (hs : isS s) (hj : j < 30) : kI B (s + 6 + j) 0 3 := fun f l q => by
  rw [Nat.add_assoc, shp_st hs (by omega)]
  unfold stC
  rw [if_neg (by omega), if_neg (by omega), if_neg (by omega)]
section X0
variable {B : Nat} (c : CZ) (h0 : PH)
theorem x0_o : shp B 0 (c.1 0) (c.2.1 0) (c.2.2 0) = some (.inr (0, [va_rf (c.2.2 0 0), .ref (B + 6), .int (c.1 0 2), .int (c.1 0 3), .int (c.1 0 4), .ref (B + 7), .ref (B + 9), .ref (B + 11), .ref (B + 13), .ref (B + 14), .ref (B + 51), .ref (B + 88), .ref (B + 89), .int (c.1 0 13), .ref (B + 90), .ref (B + 99), .int (c.1 0 16), .long (c.2.1 0 17), .int (c.1 0 18), .ref (B + 840), .int (c.1 0 20)])) := rfl
theorem x0_cls : pCls (mk B c h0) B = some 0 := mk_cls (o := 0) (x0_o c) h0
theorem x0_F0 : pF (mk B c h0) B 0 0 = some (va_rf (cQ c 0 0)) := mk_F (o := 0) (x0_o c) rfl h0
theorem x0_F1 : pF (mk B c h0) B 0 1 = some (.ref (B + 6)) := mk_F (o := 0) (x0_o c) rfl h0
theorem x0_F2 : pF (mk B c h0) B 0 2 = some (.int (cI c 0 2)) := mk_F (o := 0) (x0_o c) rfl h0
theorem x0_F3 : pF (mk B c h0) B 0 3 = some (.int (cI c 0 3)) := mk_F (o := 0) (x0_o c) rfl h0
theorem x0_F4 : pF (mk B c h0) B 0 4 = some (.int (cI c 0 4)) := mk_F (o := 0) (x0_o c) rfl h0
theorem x0_F5 : pF (mk B c h0) B 0 5 = some (.ref (B + 7)) := mk_F (o := 0) (x0_o c) rfl h0
theorem x0_F6 : pF (mk B c h0) B 0 6 = some (.ref (B + 9)) := mk_F (o := 0) (x0_o c) rfl h0
theorem x0_F7 : pF (mk B c h0) B 0 7 = some (.ref (B + 11)) := mk_F (o := 0) (x0_o c) rfl h0
theorem x0_F8 : pF (mk B c h0) B 0 8 = some (.ref (B + 13)) := mk_F (o := 0) (x0_o c) rfl h0
theorem x0_F9 : pF (mk B c h0) B 0 9 = some (.ref (B + 14)) := mk_F (o := 0) (x0_o c) rfl h0
theorem x0_F10 : pF (mk B c h0) B 0 10 = some (.ref (B + 51)) := mk_F (o := 0) (x0_o c) rfl h0
theorem x0_F11 : pF (mk B c h0) B 0 11 = some (.ref (B + 88)) := mk_F (o := 0) (x0_o c) rfl h0
theorem x0_F12 : pF (mk B c h0) B 0 12 = some (.ref (B + 89)) := mk_F (o := 0) (x0_o c) rfl h0
theorem x0_F13 : pF (mk B c h0) B 0 13 = some (.int (cI c 0 13)) := mk_F (o := 0) (x0_o c) rfl h0
theorem x0_F14 : pF (mk B c h0) B 0 14 = some (.ref (B + 90)) := mk_F (o := 0) (x0_o c) rfl h0
theorem x0_F15 : pF (mk B c h0) B 0 15 = some (.ref (B + 99)) := mk_F (o := 0) (x0_o c) rfl h0
theorem x0_F16 : pF (mk B c h0) B 0 16 = some (.int (cI c 0 16)) := mk_F (o := 0) (x0_o c) rfl h0
theorem x0_F17 : pF (mk B c h0) B 0 17 = some (.long (cL c 0 17)) := mk_F (o := 0) (x0_o c) rfl h0
theorem x0_F18 : pF (mk B c h0) B 0 18 = some (.int (cI c 0 18)) := mk_F (o := 0) (x0_o c) rfl h0
theorem x0_F19 : pF (mk B c h0) B 0 19 = some (.ref (B + 840)) := mk_F (o := 0) (x0_o c) rfl h0
theorem x0_F20 : pF (mk B c h0) B 0 20 = some (.int (cI c 0 20)) := mk_F (o := 0) (x0_o c) rfl h0
theorem x0_p0 (v : Option Nat) : pPut (mk B c h0) B 0 0 (va_rf v) = some (mk B (xQ' c 0 0 v) h0) := by
  have := mk_Put (B := B) (o := 0) (ci := 0) (k := 0) (v := va_rf v) (f := c.1 0) (l := c.2.1 0) (q := va_up (c.2.2 0) 0 v) (x0_o c) (Nat.le_of_ble_eq_true rfl) rfl h0
  rw [rw_Q] at this
  exact this
theorem x0_pI (k : Nat) (hk : k = 2 ∨ k = 3 ∨ k = 4 ∨ k = 13 ∨ k = 16 ∨ k = 18 ∨ k = 20) (v : Int32) : pPut (mk B c h0) B 0 k (.int v) = some (mk B (xI c 0 k v) h0) := by
  have key : ∀ k, k < 21 → shp B 0 (upd (c.1 0) k v) (c.2.1 0) (c.2.2 0) = some (.inr (0, ([va_rf (c.2.2 0 0), .ref (B + 6), .int (c.1 0 2), .int (c.1 0 3), .int (c.1 0 4), .ref (B + 7), .ref (B + 9), .ref (B + 11), .ref (B + 13), .ref (B + 14), .ref (B + 51), .ref (B + 88), .ref (B + 89), .int (c.1 0 13), .ref (B + 90), .ref (B + 99), .int (c.1 0 16), .long (c.2.1 0 17), .int (c.1 0 18), .ref (B + 840), .int (c.1 0 20)] : List Value).set k (.int v))) → pPut (mk B c h0) B 0 k (.int v) = some (mk B (xI c 0 k v) h0) := fun k hk hh => by
    have := mk_Put (B := B) (o := 0) (ci := 0) (k := k) (v := .int v) (f := upd (c.1 0) k v) (l := c.2.1 0) (q := c.2.2 0) (x0_o c) hk hh h0
    rw [rw_I] at this
    exact this
  rcases hk with rfl | rfl | rfl | rfl | rfl | rfl | rfl <;> exact key _ (by decide) rfl
theorem x0_p17 (v : Int64) : pPut (mk B c h0) B 0 17 (.long v) = some (mk B (xL c 0 17 v) h0) := by
  have := mk_Put (B := B) (o := 0) (ci := 0) (k := 17) (v := .long v) (f := c.1 0) (l := vp_updL (c.2.1 0) 17 v) (q := c.2.2 0) (x0_o c) (Nat.le_of_ble_eq_true rfl) rfl h0
  rw [rw_L] at this
  exact this
end X0
theorem k_tape {B : Nat} : kI B 6 2 1600 := fun _ _ _ => rfl
theorem k_mom {B : Nat} : kJ B 10 1 12 := fun _ _ _ => rfl
theorem k_ask {B : Nat} : kJ B 12 1 12 := fun _ _ _ => rfl
theorem k_ref {B : Nat} : kI B 13 0 6 := fun _ _ _ => rfl
theorem k_hw {B : Nat} : kI B 88 0 16 := fun _ _ _ => rfl
theorem k_ha {B : Nat} : kI B 89 0 16 := fun _ _ _ => rfl
theorem k_sby {B : Nat} : kQ B 90 6 8 := fun _ _ _ => rfl
theorem k_sbr {B j : Nat} (hj : j < 8) : kI B (91 + j) 0 3 := fun f l q => by
  unfold shp
  rw [if_neg (by omega), if_neg (by omega), if_neg (by omega), if_neg (by omega), if_neg (by omega), if_neg (by omega), if_neg (by omega), if_neg (by omega), if_neg (by omega), if_neg (by omega), if_neg (by omega), if_neg (by omega), if_neg (by omega), if_pos (by omega)]
theorem k_kept {B : Nat} : kQ B 99 5 20 := fun _ _ _ => rfl
theorem k_out {B : Nat} : kI B 840 2 43 := fun _ _ _ => rfl
theorem mo_F (B : Nat) (c : CZ) (h0 : PH) : pF (mk B c h0) (B + 9) 4 0 = some (.ref (B + 10)) := mk_F (o := 9) (ci := 4) (fs := [.ref (B + 10)]) rfl rfl h0
theorem as_F (B : Nat) (c : CZ) (h0 : PH) : pF (mk B c h0) (B + 11) 4 0 = some (.ref (B + 12)) := mk_F (o := 11) (ci := 4) (fs := [.ref (B + 12)]) rfl rfl h0
theorem vA_s {β : Type} (a : Nat) (k : Nat → Option β) : vA (some (.ref a)) k = k a := rfl
theorem vI_s {β : Type} (a : Int32) (k : Int32 → Option β) : vI (some (.int a)) k = k a := rfl
theorem vJ_s {β : Type} (a : Int64) (k : Int64 → Option β) : vJ (some (.long a)) k = k a := rfl
theorem ob_s {α β : Type} (a : α) (k : α → Option β) : ob (some a) k = k a := rfl
theorem ckc_s {β : Type} (ci : Nat) (k : Option β) : ckc (some ci) ci k = k := by unfold ckc; rw [if_pos rfl]
theorem qS_s {β : Type} (a : Nat) (k : Nat → Option β) : qS (some a) k = k a := rfl
theorem vQ_s {β : Type} (q : Option Nat) (k : Option Nat → Option β) : vQ (some (va_rf q)) k = k q := by cases q <;> rfl
