/-! PART 10: plain combinators; the rows over an abstract walk Z (printed by mkrows.py) -/
set_option maxRecDepth 100000
abbrev MS : Type := (Nat → Int32) × (Nat → Int64) × (Nat → Nat → Int32) × (Nat → Nat → Int64)
def bI : Bool → Int32
  | true => 1
  | false => 0
def ck {α : Type} (b : Bool) (x : Option α) : Option α := match b with
  | true => x
  | false => none
theorem ck_open {α : Type} {b : Bool} {x : Option α} {y : α} (h : ck b x = some y) : b = true ∧ x = some y := by
  cases b with
  | true => exact ⟨rfl, h⟩
  | false => exact absurd h (by intro q; cases q)
def bnd {σ α β : Type} (x : Option (α × σ)) (k : α → σ → Option β) : Option β := match x with
  | none => none
  | some q => k q.1 q.2
theorem bnd_open {σ α β : Type} {x : Option (α × σ)} {k : α → σ → Option β} {y : β} (h : bnd x k = some y) : ∃ (a : α) (z : σ), x = some (a, z) ∧ k a z = some y := by
  cases x with
  | none => exact absurd h (by intro q; cases q)
  | some q => exact ⟨q.1, q.2, rfl, h⟩
def bnv {σ β : Type} (x : Option σ) (k : σ → Option β) : Option β := match x with
  | none => none
  | some q => k q
theorem bnv_open {σ β : Type} {x : Option σ} {k : σ → Option β} {y : β} (h : bnv x k = some y) : ∃ z : σ, x = some z ∧ k z = some y := by
  cases x with
  | none => exact absurd h (by intro q; cases q)
  | some q => exact ⟨q, rfl, h⟩
def jn {α β : Type} (k : α) (b : α → β) : β := b k
theorem jn_open {α β : Type} {k : α} {b : α → Option β} {y : β} (h : jn k b = some y) : ∃ j : α, j = k ∧ b j = some y := ⟨k, rfl, h⟩
def nm {α β : Type} (a : α) (k : α → β) : β := k a
theorem nm_open {α β : Type} {a : α} {k : α → β} {y : β} (h : nm a k = y) : ∃ x : α, x = a ∧ k x = y := ⟨a, rfl, h⟩
def fx {α : Type} (F : α → α) (z : α) : Nat → α
  | 0 => z
  | n + 1 => F (fx F z n)
theorem fx_0 {α : Type} (F : α → α) (z : α) : fx F z 0 = z := rfl
theorem fx_s {α : Type} (F : α → α) (z : α) (n : Nat) : fx F z (n + 1) = F (fx F z n) := rfl
theorem FU_ex : ∃ n : Nat, 1000000 ≤ n := ⟨1000000, Nat.le_refl _⟩
noncomputable def FU : Nat := Classical.choose FU_ex
theorem FU_le : 1000000 ≤ FU := Classical.choose_spec FU_ex
def inb (i : Int32) (n : Nat) : Bool := decide (¬ (i < 0 ∨ n ≤ i.toNatClampNeg))
theorem inb_in {i : Int32} {n : Nat} (h : inb i n = true) : vp_in i n := by
  have h1 : ¬ (i < 0 ∨ n ≤ i.toNatClampNeg) := by simpa [inb] using h
  exact h1
theorem it_pos {c : Prop} [Decidable c] {α : Type} {a b y : α} (hc : c) (h : (if c then a else b) = y) : a = y := by rw [if_pos hc] at h; exact h
theorem it_neg {c : Prop} [Decidable c] {α : Type} {a b y : α} (hc : ¬ c) (h : (if c then a else b) = y) : b = y := by rw [if_neg hc] at h; exact h
def rmL (d : Nat) : Room := { frames := d, cells := 0, slots := 0, locals := 70 * d }
def gX (l : Launch) (R : Room) (cc : ByteArray) (nL : Nat) (own : String) (m : MethodId) (Z : Heap → List Loc → Nat → Nat → JFrame → Prop) : Prop :=
  ∃ (p : Program) (e : Env) (s : State) (args : Array Value) (below : List Frame) (meth : Method) (c : Code) (Q : State → Prop), CallFix p m c cc nL s args lw_all own ∧ Z = fun H locs cells slots g => W p l e R s m args below meth c H locs cells slots Q g
section GX
variable {l : Launch} {R : Room} {m : MethodId} {H : Heap} {locs : List Loc} {cells slots : Nat} {cc : ByteArray} {nL : Nat} {own : String} {pc : Nat} {ls : Array Slot} {rest : List Value} {Z : Heap → List Loc → Nat → Nat → JFrame → Prop}
theorem g_iconst (G : gX l R cc nL own m Z) {n : Int} {v : Int32} (hdg : decode cc pc = .ok (.iconst n, 1)) (hv : Int32.ofInt n = v) (k : Z H locs cells slots (F0 m (pc + 1) ls (.int v :: rest))) : Z H locs cells slots (F0 m pc ls (rest)) := by
  obtain ⟨p, e, s, args, below, meth, c, Q, ⟨hx, hb, hml, hown, hts⟩, rfl⟩ := G
  exact lv_iconst hx hb hdg hv k
theorem g_bipush (G : gX l R cc nL own m Z) {n : Int} {v : Int32} (hdg : decode cc pc = .ok (.bipush n, 2)) (hv : (Int8.ofInt n).toInt32 = v) (k : Z H locs cells slots (F0 m (pc + 2) ls (.int v :: rest))) : Z H locs cells slots (F0 m pc ls (rest)) := by
  obtain ⟨p, e, s, args, below, meth, c, Q, ⟨hx, hb, hml, hown, hts⟩, rfl⟩ := G
  exact lv_bipush hx hb hdg hv k
theorem g_sipush (G : gX l R cc nL own m Z) {n : Int} {v : Int32} (hdg : decode cc pc = .ok (.sipush n, 3)) (hv : (Int16.ofInt n).toInt32 = v) (k : Z H locs cells slots (F0 m (pc + 3) ls (.int v :: rest))) : Z H locs cells slots (F0 m pc ls (rest)) := by
  obtain ⟨p, e, s, args, below, meth, c, Q, ⟨hx, hb, hml, hown, hts⟩, rfl⟩ := G
  exact lv_sipush hx hb hdg hv k
theorem g_lconst (G : gX l R cc nL own m Z) {n : Fin 2} {v : Int64} (hdg : decode cc pc = .ok (.lconst n, 1)) (hv : Int64.ofNat (n : Nat) = v) (k : Z H locs cells slots (F0 m (pc + 1) ls (.long v :: rest))) : Z H locs cells slots (F0 m pc ls (rest)) := by
  obtain ⟨p, e, s, args, below, meth, c, Q, ⟨hx, hb, hml, hown, hts⟩, rfl⟩ := G
  exact lv_lconst hx hb hdg hv k
theorem g_iload_n (G : gX l R cc nL own m Z) {k : Fin 4} {i : Nat} {x : Int32} (hdg : decode cc pc = .ok (.iload_n k, 1)) (hi : (k : Nat) = i) (hl : ls[i]? = some (.val (.int x))) (k : Z H locs cells slots (F0 m (pc + 1) ls (.int x :: rest))) : Z H locs cells slots (F0 m pc ls (rest)) := by
  obtain ⟨p, e, s, args, below, meth, c, Q, ⟨hx, hb, hml, hown, hts⟩, rfl⟩ := G
  exact lv_iload_n hx hb hdg hi hl k
theorem g_iload (G : gX l R cc nL own m Z) {i : Nat} {x : Int32} (hdg : decode cc pc = .ok (.iload i, 2)) (hl : ls[i]? = some (.val (.int x))) (k : Z H locs cells slots (F0 m (pc + 2) ls (.int x :: rest))) : Z H locs cells slots (F0 m pc ls (rest)) := by
  obtain ⟨p, e, s, args, below, meth, c, Q, ⟨hx, hb, hml, hown, hts⟩, rfl⟩ := G
  exact lv_iload hx hb hdg hl k
theorem g_lload_n (G : gX l R cc nL own m Z) {k : Fin 4} {i : Nat} {x : Int64} (hdg : decode cc pc = .ok (.lload_n k, 1)) (hi : (k : Nat) = i) (hl : ls[i]? = some (.val (.long x))) (k : Z H locs cells slots (F0 m (pc + 1) ls (.long x :: rest))) : Z H locs cells slots (F0 m pc ls (rest)) := by
  obtain ⟨p, e, s, args, below, meth, c, Q, ⟨hx, hb, hml, hown, hts⟩, rfl⟩ := G
  exact lv_lload_n hx hb hdg hi hl k
theorem g_lload (G : gX l R cc nL own m Z) {i : Nat} {x : Int64} (hdg : decode cc pc = .ok (.lload i, 2)) (hl : ls[i]? = some (.val (.long x))) (k : Z H locs cells slots (F0 m (pc + 2) ls (.long x :: rest))) : Z H locs cells slots (F0 m pc ls (rest)) := by
  obtain ⟨p, e, s, args, below, meth, c, Q, ⟨hx, hb, hml, hown, hts⟩, rfl⟩ := G
  exact lv_lload hx hb hdg hl k
theorem g_aload_n (G : gX l R cc nL own m Z) {k : Fin 4} {i : Nat} {x : Nat} (hdg : decode cc pc = .ok (.aload_n k, 1)) (hi : (k : Nat) = i) (hl : ls[i]? = some (.val (.ref x))) (k : Z H locs cells slots (F0 m (pc + 1) ls (.ref x :: rest))) : Z H locs cells slots (F0 m pc ls (rest)) := by
  obtain ⟨p, e, s, args, below, meth, c, Q, ⟨hx, hb, hml, hown, hts⟩, rfl⟩ := G
  exact lv_aload_n hx hb hdg hi hl k
theorem g_aload (G : gX l R cc nL own m Z) {i : Nat} {x : Nat} (hdg : decode cc pc = .ok (.aload i, 2)) (hl : ls[i]? = some (.val (.ref x))) (k : Z H locs cells slots (F0 m (pc + 2) ls (.ref x :: rest))) : Z H locs cells slots (F0 m pc ls (rest)) := by
  obtain ⟨p, e, s, args, below, meth, c, Q, ⟨hx, hb, hml, hown, hts⟩, rfl⟩ := G
  exact lv_aload hx hb hdg hl k
theorem g_istore_n (G : gX l R cc nL own m Z) {k : Fin 4} {i  : Nat} {x : Int32} {lv lv' : List (Nat × Value)} (hdg : decode cc pc = .ok (.istore_n k, 1)) (hi : (k : Nat) = i) (h : lv_has ls nL lv) (hn : i < nL) (hl : (i, Value.int x) :: lv.filter (fun q => !(q.1 == i) && !(q.1 + 1 == i && q.2.category == 2)) = lv') (kk : ∀ ls' : Array Slot, lv_has ls' nL lv' → Z H locs cells slots (F0 m (pc + 1) ls' rest)) : Z H locs cells slots (F0 m pc ls (.int x :: rest)) := by
  obtain ⟨p, e, s, args, below, meth, c, Q, ⟨hx, hb, hml, hown, hts⟩, rfl⟩ := G
  exact lv_istore_n hx hb hdg hi h hn hl kk
theorem g_istore (G : gX l R cc nL own m Z) {i  : Nat} {x : Int32} {lv lv' : List (Nat × Value)} (hdg : decode cc pc = .ok (.istore i, 2)) (h : lv_has ls nL lv) (hn : i < nL) (hl : (i, Value.int x) :: lv.filter (fun q => !(q.1 == i) && !(q.1 + 1 == i && q.2.category == 2)) = lv') (kk : ∀ ls' : Array Slot, lv_has ls' nL lv' → Z H locs cells slots (F0 m (pc + 2) ls' rest)) : Z H locs cells slots (F0 m pc ls (.int x :: rest)) := by
  obtain ⟨p, e, s, args, below, meth, c, Q, ⟨hx, hb, hml, hown, hts⟩, rfl⟩ := G
  exact lv_istore hx hb hdg h hn hl kk
theorem g_lstore_n (G : gX l R cc nL own m Z) {k : Fin 4} {i  : Nat} {x : Int64} {lv lv' : List (Nat × Value)} (hdg : decode cc pc = .ok (.lstore_n k, 1)) (hi : (k : Nat) = i) (h : lv_has ls nL lv) (hn : i + 1 < nL) (hl : (i, Value.long x) :: lv.filter (fun q => !(q.1 == i) && (!(q.1 == i + 1) && !(q.1 + 1 == i && q.2.category == 2))) = lv') (kk : ∀ ls' : Array Slot, lv_has ls' nL lv' → Z H locs cells slots (F0 m (pc + 1) ls' rest)) : Z H locs cells slots (F0 m pc ls (.long x :: rest)) := by
  obtain ⟨p, e, s, args, below, meth, c, Q, ⟨hx, hb, hml, hown, hts⟩, rfl⟩ := G
  exact lv_lstore_n hx hb hdg hi h hn hl kk
theorem g_lstore (G : gX l R cc nL own m Z) {i  : Nat} {x : Int64} {lv lv' : List (Nat × Value)} (hdg : decode cc pc = .ok (.lstore i, 2)) (h : lv_has ls nL lv) (hn : i + 1 < nL) (hl : (i, Value.long x) :: lv.filter (fun q => !(q.1 == i) && (!(q.1 == i + 1) && !(q.1 + 1 == i && q.2.category == 2))) = lv') (kk : ∀ ls' : Array Slot, lv_has ls' nL lv' → Z H locs cells slots (F0 m (pc + 2) ls' rest)) : Z H locs cells slots (F0 m pc ls (.long x :: rest)) := by
  obtain ⟨p, e, s, args, below, meth, c, Q, ⟨hx, hb, hml, hown, hts⟩, rfl⟩ := G
  exact lv_lstore hx hb hdg h hn hl kk
theorem g_astore_n (G : gX l R cc nL own m Z) {k : Fin 4} {i  : Nat} {x : Nat} {lv lv' : List (Nat × Value)} (hdg : decode cc pc = .ok (.astore_n k, 1)) (hi : (k : Nat) = i) (h : lv_has ls nL lv) (hn : i < nL) (hl : (i, Value.ref x) :: lv.filter (fun q => !(q.1 == i) && !(q.1 + 1 == i && q.2.category == 2)) = lv') (kk : ∀ ls' : Array Slot, lv_has ls' nL lv' → Z H locs cells slots (F0 m (pc + 1) ls' rest)) : Z H locs cells slots (F0 m pc ls (.ref x :: rest)) := by
  obtain ⟨p, e, s, args, below, meth, c, Q, ⟨hx, hb, hml, hown, hts⟩, rfl⟩ := G
  exact lv_astore_n hx hb hdg hi h hn hl kk
theorem g_astore (G : gX l R cc nL own m Z) {i  : Nat} {x : Nat} {lv lv' : List (Nat × Value)} (hdg : decode cc pc = .ok (.astore i, 2)) (h : lv_has ls nL lv) (hn : i < nL) (hl : (i, Value.ref x) :: lv.filter (fun q => !(q.1 == i) && !(q.1 + 1 == i && q.2.category == 2)) = lv') (kk : ∀ ls' : Array Slot, lv_has ls' nL lv' → Z H locs cells slots (F0 m (pc + 2) ls' rest)) : Z H locs cells slots (F0 m pc ls (.ref x :: rest)) := by
  obtain ⟨p, e, s, args, below, meth, c, Q, ⟨hx, hb, hml, hown, hts⟩, rfl⟩ := G
  exact lv_astore hx hb hdg h hn hl kk
theorem g_iinc (G : gX l R cc nL own m Z) {i  k : Nat} {n : Int} {x v : Int32} {lv lv' : List (Nat × Value)} (hdg : decode cc pc = .ok (.iinc i n, 3)) (h : lv_has ls nL lv) (hk : lv[k]? = some (i, .int x)) (hv : x + Int32.ofInt n = v) (hn : i < nL) (hl : (i, Value.int v) :: lv.filter (fun q => !(q.1 == i) && !(q.1 + 1 == i && q.2.category == 2)) = lv') (kk : ∀ ls' : Array Slot, lv_has ls' nL lv' → Z H locs cells slots (F0 m (pc + 3) ls' rest)) : Z H locs cells slots (F0 m pc ls rest) := by
  obtain ⟨p, e, s, args, below, meth, c, Q, ⟨hx, hb, hml, hown, hts⟩, rfl⟩ := G
  exact lv_iinc hx hb hdg h hk hv hn hl kk
theorem g_iadd (G : gX l R cc nL own m Z) {x y : Int32} (hdg : decode cc pc = .ok (.iadd, 1)) (k : Z H locs cells slots (F0 m (pc + 1) ls (.int (x + y) :: rest))) : Z H locs cells slots (F0 m pc ls (.int y :: .int x :: rest)) := by
  obtain ⟨p, e, s, args, below, meth, c, Q, ⟨hx, hb, hml, hown, hts⟩, rfl⟩ := G
  exact lv_iadd hx hb hdg k
theorem g_isub (G : gX l R cc nL own m Z) {x y : Int32} (hdg : decode cc pc = .ok (.isub, 1)) (k : Z H locs cells slots (F0 m (pc + 1) ls (.int (x - y) :: rest))) : Z H locs cells slots (F0 m pc ls (.int y :: .int x :: rest)) := by
  obtain ⟨p, e, s, args, below, meth, c, Q, ⟨hx, hb, hml, hown, hts⟩, rfl⟩ := G
  exact lv_isub hx hb hdg k
theorem g_imul (G : gX l R cc nL own m Z) {x y : Int32} (hdg : decode cc pc = .ok (.imul, 1)) (k : Z H locs cells slots (F0 m (pc + 1) ls (.int (x * y) :: rest))) : Z H locs cells slots (F0 m pc ls (.int y :: .int x :: rest)) := by
  obtain ⟨p, e, s, args, below, meth, c, Q, ⟨hx, hb, hml, hown, hts⟩, rfl⟩ := G
  exact lv_imul hx hb hdg k
theorem g_iand (G : gX l R cc nL own m Z) {x y : Int32} (hdg : decode cc pc = .ok (.iand, 1)) (k : Z H locs cells slots (F0 m (pc + 1) ls (.int (x &&& y) :: rest))) : Z H locs cells slots (F0 m pc ls (.int y :: .int x :: rest)) := by
  obtain ⟨p, e, s, args, below, meth, c, Q, ⟨hx, hb, hml, hown, hts⟩, rfl⟩ := G
  exact lv_iand hx hb hdg k
theorem g_ior (G : gX l R cc nL own m Z) {x y : Int32} (hdg : decode cc pc = .ok (.ior, 1)) (k : Z H locs cells slots (F0 m (pc + 1) ls (.int (x ||| y) :: rest))) : Z H locs cells slots (F0 m pc ls (.int y :: .int x :: rest)) := by
  obtain ⟨p, e, s, args, below, meth, c, Q, ⟨hx, hb, hml, hown, hts⟩, rfl⟩ := G
  exact lv_ior hx hb hdg k
theorem g_ixor (G : gX l R cc nL own m Z) {x y : Int32} (hdg : decode cc pc = .ok (.ixor, 1)) (k : Z H locs cells slots (F0 m (pc + 1) ls (.int (x ^^^ y) :: rest))) : Z H locs cells slots (F0 m pc ls (.int y :: .int x :: rest)) := by
  obtain ⟨p, e, s, args, below, meth, c, Q, ⟨hx, hb, hml, hown, hts⟩, rfl⟩ := G
  exact lv_ixor hx hb hdg k
theorem g_idiv (G : gX l R cc nL own m Z) {x y : Int32} (hdg : decode cc pc = .ok (.idiv, 1)) (hne : ¬ y = 0) (k : Z H locs cells slots (F0 m (pc + 1) ls (.int (x / y) :: rest))) : Z H locs cells slots (F0 m pc ls (.int y :: .int x :: rest)) := by
  obtain ⟨p, e, s, args, below, meth, c, Q, ⟨hx, hb, hml, hown, hts⟩, rfl⟩ := G
  exact lv_idiv hx hb hdg hne k
theorem g_irem (G : gX l R cc nL own m Z) {x y : Int32} (hdg : decode cc pc = .ok (.irem, 1)) (hne : ¬ y = 0) (k : Z H locs cells slots (F0 m (pc + 1) ls (.int (x - x / y * y) :: rest))) : Z H locs cells slots (F0 m pc ls (.int y :: .int x :: rest)) := by
  obtain ⟨p, e, s, args, below, meth, c, Q, ⟨hx, hb, hml, hown, hts⟩, rfl⟩ := G
  exact lv_irem hx hb hdg hne k
theorem g_ineg (G : gX l R cc nL own m Z) {x : Int32} (hdg : decode cc pc = .ok (.ineg, 1)) (k : Z H locs cells slots (F0 m (pc + 1) ls (.int (-x) :: rest))) : Z H locs cells slots (F0 m pc ls (.int x :: rest)) := by
  obtain ⟨p, e, s, args, below, meth, c, Q, ⟨hx, hb, hml, hown, hts⟩, rfl⟩ := G
  exact lv_ineg hx hb hdg k
theorem g_ladd (G : gX l R cc nL own m Z) {x y : Int64} (hdg : decode cc pc = .ok (.ladd, 1)) (k : Z H locs cells slots (F0 m (pc + 1) ls (.long (x + y) :: rest))) : Z H locs cells slots (F0 m pc ls (.long y :: .long x :: rest)) := by
  obtain ⟨p, e, s, args, below, meth, c, Q, ⟨hx, hb, hml, hown, hts⟩, rfl⟩ := G
  exact lv_ladd hx hb hdg k
theorem g_lsub (G : gX l R cc nL own m Z) {x y : Int64} (hdg : decode cc pc = .ok (.lsub, 1)) (k : Z H locs cells slots (F0 m (pc + 1) ls (.long (x - y) :: rest))) : Z H locs cells slots (F0 m pc ls (.long y :: .long x :: rest)) := by
  obtain ⟨p, e, s, args, below, meth, c, Q, ⟨hx, hb, hml, hown, hts⟩, rfl⟩ := G
  exact lv_lsub hx hb hdg k
theorem g_lmul (G : gX l R cc nL own m Z) {x y : Int64} (hdg : decode cc pc = .ok (.lmul, 1)) (k : Z H locs cells slots (F0 m (pc + 1) ls (.long (x * y) :: rest))) : Z H locs cells slots (F0 m pc ls (.long y :: .long x :: rest)) := by
  obtain ⟨p, e, s, args, below, meth, c, Q, ⟨hx, hb, hml, hown, hts⟩, rfl⟩ := G
  exact lv_lmul hx hb hdg k
theorem g_lxor (G : gX l R cc nL own m Z) {x y : Int64} (hdg : decode cc pc = .ok (.lxor, 1)) (k : Z H locs cells slots (F0 m (pc + 1) ls (.long (x ^^^ y) :: rest))) : Z H locs cells slots (F0 m pc ls (.long y :: .long x :: rest)) := by
  obtain ⟨p, e, s, args, below, meth, c, Q, ⟨hx, hb, hml, hown, hts⟩, rfl⟩ := G
  exact lv_lxor hx hb hdg k
theorem g_ldiv (G : gX l R cc nL own m Z) {x y : Int64} (hdg : decode cc pc = .ok (.ldiv, 1)) (hne : ¬ y = 0) (k : Z H locs cells slots (F0 m (pc + 1) ls (.long (x / y) :: rest))) : Z H locs cells slots (F0 m pc ls (.long y :: .long x :: rest)) := by
  obtain ⟨p, e, s, args, below, meth, c, Q, ⟨hx, hb, hml, hown, hts⟩, rfl⟩ := G
  exact lv_ldiv hx hb hdg hne k
theorem g_lrem (G : gX l R cc nL own m Z) {x y : Int64} (hdg : decode cc pc = .ok (.lrem, 1)) (hne : ¬ y = 0) (k : Z H locs cells slots (F0 m (pc + 1) ls (.long (x - x / y * y) :: rest))) : Z H locs cells slots (F0 m pc ls (.long y :: .long x :: rest)) := by
  obtain ⟨p, e, s, args, below, meth, c, Q, ⟨hx, hb, hml, hown, hts⟩, rfl⟩ := G
  exact lv_lrem hx hb hdg hne k
theorem g_ishl (G : gX l R cc nL own m Z) {x y : Int32} (hdg : decode cc pc = .ok (.ishl, 1)) (k : Z H locs cells slots (F0 m (pc + 1) ls (.int (x <<< (y &&& 31)) :: rest))) : Z H locs cells slots (F0 m pc ls (.int y :: .int x :: rest)) := by
  obtain ⟨p, e, s, args, below, meth, c, Q, ⟨hx, hb, hml, hown, hts⟩, rfl⟩ := G
  exact lv_ishl hx hb hdg k
theorem g_ishr (G : gX l R cc nL own m Z) {x y : Int32} (hdg : decode cc pc = .ok (.ishr, 1)) (k : Z H locs cells slots (F0 m (pc + 1) ls (.int (x >>> (y &&& 31)) :: rest))) : Z H locs cells slots (F0 m pc ls (.int y :: .int x :: rest)) := by
  obtain ⟨p, e, s, args, below, meth, c, Q, ⟨hx, hb, hml, hown, hts⟩, rfl⟩ := G
  exact lv_ishr hx hb hdg k
theorem g_i2l (G : gX l R cc nL own m Z) {x : Int32} {v : Int64} (hdg : decode cc pc = .ok (.i2l, 1)) (hv : x.toInt64 = v) (k : Z H locs cells slots (F0 m (pc + 1) ls (.long v :: rest))) : Z H locs cells slots (F0 m pc ls (.int x :: rest)) := by
  obtain ⟨p, e, s, args, below, meth, c, Q, ⟨hx, hb, hml, hown, hts⟩, rfl⟩ := G
  exact lv_i2l hx hb hdg hv k
theorem g_l2i (G : gX l R cc nL own m Z) {x : Int64} {v : Int32} (hdg : decode cc pc = .ok (.l2i, 1)) (hv : x.toInt32 = v) (k : Z H locs cells slots (F0 m (pc + 1) ls (.int v :: rest))) : Z H locs cells slots (F0 m pc ls (.long x :: rest)) := by
  obtain ⟨p, e, s, args, below, meth, c, Q, ⟨hx, hb, hml, hown, hts⟩, rfl⟩ := G
  exact lv_l2i hx hb hdg hv k
theorem g_i2b (G : gX l R cc nL own m Z) {x : Int32} {v : Int32} (hdg : decode cc pc = .ok (.i2b, 1)) (hv : x.toInt8.toInt32 = v) (k : Z H locs cells slots (F0 m (pc + 1) ls (.int v :: rest))) : Z H locs cells slots (F0 m pc ls (.int x :: rest)) := by
  obtain ⟨p, e, s, args, below, meth, c, Q, ⟨hx, hb, hml, hown, hts⟩, rfl⟩ := G
  exact lv_i2b hx hb hdg hv k
theorem g_i2c (G : gX l R cc nL own m Z) {x : Int32} {v : Int32} (hdg : decode cc pc = .ok (.i2c, 1)) (hv : (x.toUInt32 % 65536).toInt32 = v) (k : Z H locs cells slots (F0 m (pc + 1) ls (.int v :: rest))) : Z H locs cells slots (F0 m pc ls (.int x :: rest)) := by
  obtain ⟨p, e, s, args, below, meth, c, Q, ⟨hx, hb, hml, hown, hts⟩, rfl⟩ := G
  exact lv_i2c hx hb hdg hv k
theorem g_dup (G : gX l R cc nL own m Z) {va : Value} (hdg : decode cc pc = .ok (.dup, 1)) (hva : va.category = 1) (k : Z H locs cells slots (F0 m (pc + 1) ls (va :: va :: rest))) : Z H locs cells slots (F0 m pc ls (va :: rest)) := by
  obtain ⟨p, e, s, args, below, meth, c, Q, ⟨hx, hb, hml, hown, hts⟩, rfl⟩ := G
  exact lv_dup hx hb hdg hva k
theorem g_pop (G : gX l R cc nL own m Z) {va : Value} (hdg : decode cc pc = .ok (.pop, 1)) (hva : va.category = 1) (k : Z H locs cells slots (F0 m (pc + 1) ls (rest))) : Z H locs cells slots (F0 m pc ls (va :: rest)) := by
  obtain ⟨p, e, s, args, below, meth, c, Q, ⟨hx, hb, hml, hown, hts⟩, rfl⟩ := G
  exact lv_pop hx hb hdg hva k
theorem g_dup_x1 (G : gX l R cc nL own m Z) {va vb : Value} (hdg : decode cc pc = .ok (.dup_x1, 1)) (hva : va.category = 1) (hvb : vb.category = 1) (k : Z H locs cells slots (F0 m (pc + 1) ls (va :: vb :: va :: rest))) : Z H locs cells slots (F0 m pc ls (va :: vb :: rest)) := by
  obtain ⟨p, e, s, args, below, meth, c, Q, ⟨hx, hb, hml, hown, hts⟩, rfl⟩ := G
  exact lv_dup_x1 hx hb hdg hva hvb k
theorem g_dup2_11 (G : gX l R cc nL own m Z) {va vb : Value} (hdg : decode cc pc = .ok (.dup2, 1)) (hva : va.category = 1) (hvb : vb.category = 1) (k : Z H locs cells slots (F0 m (pc + 1) ls (va :: vb :: va :: vb :: rest))) : Z H locs cells slots (F0 m pc ls (va :: vb :: rest)) := by
  obtain ⟨p, e, s, args, below, meth, c, Q, ⟨hx, hb, hml, hown, hts⟩, rfl⟩ := G
  exact lv_dup2_11 hx hb hdg hva hvb k
theorem g_dup_x2 (G : gX l R cc nL own m Z) {va vb vd : Value} (hdg : decode cc pc = .ok (.dup_x2, 1)) (hva : va.category = 1) (hvb : vb.category = 1) (hvd : vd.category = 1) (k : Z H locs cells slots (F0 m (pc + 1) ls (va :: vb :: vd :: va :: rest))) : Z H locs cells slots (F0 m pc ls (va :: vb :: vd :: rest)) := by
  obtain ⟨p, e, s, args, below, meth, c, Q, ⟨hx, hb, hml, hown, hts⟩, rfl⟩ := G
  exact lv_dup_x2 hx hb hdg hva hvb hvd k
theorem g_if_eq (G : gX l R cc nL own m Z) {x : Int32} {off : Int} {tgt : Nat} (hdg : decode cc pc = .ok (.ifCond .eq off, 3)) (ht : (pc : Int) + off = (tgt : Int)) (kt : x = 0 → Z H locs cells slots (F0 m tgt ls rest)) (kf : ¬ x = 0 → Z H locs cells slots (F0 m (pc + 3) ls rest)) : Z H locs cells slots (F0 m pc ls (.int x :: rest)) := by
  obtain ⟨p, e, s, args, below, meth, c, Q, ⟨hx, hb, hml, hown, hts⟩, rfl⟩ := G
  exact lv_if_eq hx hb hdg ht kt kf
theorem g_icmp_eq (G : gX l R cc nL own m Z) {x y : Int32} {off : Int} {tgt : Nat} (hdg : decode cc pc = .ok (.if_icmp .eq off, 3)) (ht : (pc : Int) + off = (tgt : Int)) (kt : x = y → Z H locs cells slots (F0 m tgt ls rest)) (kf : ¬ x = y → Z H locs cells slots (F0 m (pc + 3) ls rest)) : Z H locs cells slots (F0 m pc ls (.int y :: .int x :: rest)) := by
  obtain ⟨p, e, s, args, below, meth, c, Q, ⟨hx, hb, hml, hown, hts⟩, rfl⟩ := G
  exact lv_icmp_eq hx hb hdg ht kt kf
theorem g_if_ne (G : gX l R cc nL own m Z) {x : Int32} {off : Int} {tgt : Nat} (hdg : decode cc pc = .ok (.ifCond .ne off, 3)) (ht : (pc : Int) + off = (tgt : Int)) (kt : ¬ x = 0 → Z H locs cells slots (F0 m tgt ls rest)) (kf : x = 0 → Z H locs cells slots (F0 m (pc + 3) ls rest)) : Z H locs cells slots (F0 m pc ls (.int x :: rest)) := by
  obtain ⟨p, e, s, args, below, meth, c, Q, ⟨hx, hb, hml, hown, hts⟩, rfl⟩ := G
  exact lv_if_ne hx hb hdg ht kt kf
theorem g_icmp_ne (G : gX l R cc nL own m Z) {x y : Int32} {off : Int} {tgt : Nat} (hdg : decode cc pc = .ok (.if_icmp .ne off, 3)) (ht : (pc : Int) + off = (tgt : Int)) (kt : ¬ x = y → Z H locs cells slots (F0 m tgt ls rest)) (kf : x = y → Z H locs cells slots (F0 m (pc + 3) ls rest)) : Z H locs cells slots (F0 m pc ls (.int y :: .int x :: rest)) := by
  obtain ⟨p, e, s, args, below, meth, c, Q, ⟨hx, hb, hml, hown, hts⟩, rfl⟩ := G
  exact lv_icmp_ne hx hb hdg ht kt kf
theorem g_if_lt (G : gX l R cc nL own m Z) {x : Int32} {off : Int} {tgt : Nat} (hdg : decode cc pc = .ok (.ifCond .lt off, 3)) (ht : (pc : Int) + off = (tgt : Int)) (kt : x < 0 → Z H locs cells slots (F0 m tgt ls rest)) (kf : ¬ x < 0 → Z H locs cells slots (F0 m (pc + 3) ls rest)) : Z H locs cells slots (F0 m pc ls (.int x :: rest)) := by
  obtain ⟨p, e, s, args, below, meth, c, Q, ⟨hx, hb, hml, hown, hts⟩, rfl⟩ := G
  exact lv_if_lt hx hb hdg ht kt kf
theorem g_icmp_lt (G : gX l R cc nL own m Z) {x y : Int32} {off : Int} {tgt : Nat} (hdg : decode cc pc = .ok (.if_icmp .lt off, 3)) (ht : (pc : Int) + off = (tgt : Int)) (kt : x < y → Z H locs cells slots (F0 m tgt ls rest)) (kf : ¬ x < y → Z H locs cells slots (F0 m (pc + 3) ls rest)) : Z H locs cells slots (F0 m pc ls (.int y :: .int x :: rest)) := by
  obtain ⟨p, e, s, args, below, meth, c, Q, ⟨hx, hb, hml, hown, hts⟩, rfl⟩ := G
  exact lv_icmp_lt hx hb hdg ht kt kf
theorem g_if_ge (G : gX l R cc nL own m Z) {x : Int32} {off : Int} {tgt : Nat} (hdg : decode cc pc = .ok (.ifCond .ge off, 3)) (ht : (pc : Int) + off = (tgt : Int)) (kt : 0 ≤ x → Z H locs cells slots (F0 m tgt ls rest)) (kf : ¬ 0 ≤ x → Z H locs cells slots (F0 m (pc + 3) ls rest)) : Z H locs cells slots (F0 m pc ls (.int x :: rest)) := by
  obtain ⟨p, e, s, args, below, meth, c, Q, ⟨hx, hb, hml, hown, hts⟩, rfl⟩ := G
  exact lv_if_ge hx hb hdg ht kt kf
theorem g_icmp_ge (G : gX l R cc nL own m Z) {x y : Int32} {off : Int} {tgt : Nat} (hdg : decode cc pc = .ok (.if_icmp .ge off, 3)) (ht : (pc : Int) + off = (tgt : Int)) (kt : y ≤ x → Z H locs cells slots (F0 m tgt ls rest)) (kf : ¬ y ≤ x → Z H locs cells slots (F0 m (pc + 3) ls rest)) : Z H locs cells slots (F0 m pc ls (.int y :: .int x :: rest)) := by
  obtain ⟨p, e, s, args, below, meth, c, Q, ⟨hx, hb, hml, hown, hts⟩, rfl⟩ := G
  exact lv_icmp_ge hx hb hdg ht kt kf
theorem g_if_gt (G : gX l R cc nL own m Z) {x : Int32} {off : Int} {tgt : Nat} (hdg : decode cc pc = .ok (.ifCond .gt off, 3)) (ht : (pc : Int) + off = (tgt : Int)) (kt : 0 < x → Z H locs cells slots (F0 m tgt ls rest)) (kf : ¬ 0 < x → Z H locs cells slots (F0 m (pc + 3) ls rest)) : Z H locs cells slots (F0 m pc ls (.int x :: rest)) := by
  obtain ⟨p, e, s, args, below, meth, c, Q, ⟨hx, hb, hml, hown, hts⟩, rfl⟩ := G
  exact lv_if_gt hx hb hdg ht kt kf
theorem g_icmp_gt (G : gX l R cc nL own m Z) {x y : Int32} {off : Int} {tgt : Nat} (hdg : decode cc pc = .ok (.if_icmp .gt off, 3)) (ht : (pc : Int) + off = (tgt : Int)) (kt : y < x → Z H locs cells slots (F0 m tgt ls rest)) (kf : ¬ y < x → Z H locs cells slots (F0 m (pc + 3) ls rest)) : Z H locs cells slots (F0 m pc ls (.int y :: .int x :: rest)) := by
  obtain ⟨p, e, s, args, below, meth, c, Q, ⟨hx, hb, hml, hown, hts⟩, rfl⟩ := G
  exact lv_icmp_gt hx hb hdg ht kt kf
theorem g_if_le (G : gX l R cc nL own m Z) {x : Int32} {off : Int} {tgt : Nat} (hdg : decode cc pc = .ok (.ifCond .le off, 3)) (ht : (pc : Int) + off = (tgt : Int)) (kt : x ≤ 0 → Z H locs cells slots (F0 m tgt ls rest)) (kf : ¬ x ≤ 0 → Z H locs cells slots (F0 m (pc + 3) ls rest)) : Z H locs cells slots (F0 m pc ls (.int x :: rest)) := by
  obtain ⟨p, e, s, args, below, meth, c, Q, ⟨hx, hb, hml, hown, hts⟩, rfl⟩ := G
  exact lv_if_le hx hb hdg ht kt kf
theorem g_icmp_le (G : gX l R cc nL own m Z) {x y : Int32} {off : Int} {tgt : Nat} (hdg : decode cc pc = .ok (.if_icmp .le off, 3)) (ht : (pc : Int) + off = (tgt : Int)) (kt : x ≤ y → Z H locs cells slots (F0 m tgt ls rest)) (kf : ¬ x ≤ y → Z H locs cells slots (F0 m (pc + 3) ls rest)) : Z H locs cells slots (F0 m pc ls (.int y :: .int x :: rest)) := by
  obtain ⟨p, e, s, args, below, meth, c, Q, ⟨hx, hb, hml, hown, hts⟩, rfl⟩ := G
  exact lv_icmp_le hx hb hdg ht kt kf
theorem g_goto (G : gX l R cc nL own m Z) {off : Int} {tgt : Nat} (hdg : decode cc pc = .ok (.goto off, 3)) (ht : (pc : Int) + off = (tgt : Int)) (k : Z H locs cells slots (F0 m tgt ls rest)) : Z H locs cells slots (F0 m pc ls rest) := by
  obtain ⟨p, e, s, args, below, meth, c, Q, ⟨hx, hb, hml, hown, hts⟩, rfl⟩ := G
  exact lv_goto hx hb hdg ht k
theorem g_ldc (G : gX l R cc nL own m Z) {index : Nat} {v : Int32} (hq : Jvm.Cond.constant own index v ∈ lw_all) (hdg : decode cc pc = .ok (.ldc index, 2)) (k : Z H locs cells slots (F0 m (pc + 2) ls (.int v :: rest))) : Z H locs cells slots (F0 m pc ls rest) := by
  obtain ⟨p, e, s, args, below, meth, c, Q, ⟨hx, hb, hml, hown, hts⟩, rfl⟩ := G
  exact lv_ldc hx hb hown (hts _ hq) hdg k
theorem g_ldc2 (G : gX l R cc nL own m Z) {index : Nat} {v : Int64} (hq : Jvm.Cond.constantLong own index v ∈ lw_all) (hdg : decode cc pc = .ok (.ldc2_w index, 3)) (k : Z H locs cells slots (F0 m (pc + 3) ls (.long v :: rest))) : Z H locs cells slots (F0 m pc ls rest) := by
  obtain ⟨p, e, s, args, below, meth, c, Q, ⟨hx, hb, hml, hown, hts⟩, rfl⟩ := G
  exact lv_ldc2 hx hb hown (hts _ hq) hdg k
theorem g_ldcw (G : gX l R cc nL own m Z) {index : Nat} {v : Int32} (hq : Jvm.Cond.constant own index v ∈ lw_all) (hdg : decode cc pc = .ok (.ldc_w index, 3)) (k : Z H locs cells slots (F0 m (pc + 3) ls (.int v :: rest))) : Z H locs cells slots (F0 m pc ls rest) := by
  obtain ⟨p, e, s, args, below, meth, c, Q, ⟨hx, hb, hml, hown, hts⟩, rfl⟩ := G
  exact lv_ldcw hx hb hown (hts _ hq) hdg k
theorem g_lookup (G : gX l R cc nL own m Z) {dflt : Int} {ps : Array (Int × Int)} {len : Nat} {x : Int32} {off : Int} {tgt : Nat} (hdg : decode cc pc = .ok (.lookupswitch dflt ps, len)) (hp : (ps.toList.zip (ps.toList.drop 1)).all (fun (a, next) => a.1 < next.1) = true) (ho : Op.lookupswitch.offset ps.toList dflt x.toInt = off) (ht : (pc : Int) + off = (tgt : Int)) (k : Z H locs cells slots (F0 m tgt ls rest)) : Z H locs cells slots (F0 m pc ls (.int x :: rest)) := by
  obtain ⟨p, e, s, args, below, meth, c, Q, ⟨hx, hb, hml, hown, hts⟩, rfl⟩ := G
  exact lv_lookup hx hb hdg hp ho ht k
theorem g_tableOut (G : gX l R cc nL own m Z) {dflt lo hi : Int} {offs : Array Int} {len : Nat} {x : Int32} {tgt : Nat} (hdg : decode cc pc = .ok (.tableswitch dflt lo hi offs, len)) (h : x.toInt < lo ∨ hi < x.toInt) (ht : (pc : Int) + dflt = (tgt : Int)) (k : Z H locs cells slots (F0 m tgt ls rest)) : Z H locs cells slots (F0 m pc ls (.int x :: rest)) := by
  obtain ⟨p, e, s, args, below, meth, c, Q, ⟨hx, hb, hml, hown, hts⟩, rfl⟩ := G
  exact lv_tableOut hx hb hdg h ht k
theorem g_tableIn (G : gX l R cc nL own m Z) {dflt lo hi : Int} {offs : Array Int} {len : Nat} {x : Int32} {off : Int} {tgt : Nat} (hdg : decode cc pc = .ok (.tableswitch dflt lo hi offs, len)) (h1 : ¬ x.toInt < lo) (h2 : ¬ hi < x.toInt) (ho : offs[(x.toInt - lo).toNat]? = some off) (ht : (pc : Int) + off = (tgt : Int)) (k : Z H locs cells slots (F0 m tgt ls rest)) : Z H locs cells slots (F0 m pc ls (.int x :: rest)) := by
  obtain ⟨p, e, s, args, below, meth, c, Q, ⟨hx, hb, hml, hown, hts⟩, rfl⟩ := G
  exact lv_tableIn hx hb hdg h1 h2 ho ht k
theorem g_ifnonnull (G : gX l R cc nL own m Z) {x : Nat} {off : Int} {tgt : Nat} (hdg : decode cc pc = .ok (.ifnonnull off, 3)) (ht : (pc : Int) + off = (tgt : Int)) (k : Z H locs cells slots (F0 m tgt ls rest)) : Z H locs cells slots (F0 m pc ls (.ref x :: rest)) := by
  obtain ⟨p, e, s, args, below, meth, c, Q, ⟨hx, hb, hml, hown, hts⟩, rfl⟩ := G
  exact lv_ifnonnull hx hb hdg ht k
theorem g_ifnull (G : gX l R cc nL own m Z) {x : Nat} {off : Int} (hdg : decode cc pc = .ok (.ifnull off, 3)) (k : Z H locs cells slots (F0 m (pc + 3) ls rest)) : Z H locs cells slots (F0 m pc ls (.ref x :: rest)) := by
  obtain ⟨p, e, s, args, below, meth, c, Q, ⟨hx, hb, hml, hown, hts⟩, rfl⟩ := G
  exact lv_ifnull hx hb hdg k
theorem g_null (G : gX l R cc nL own m Z) (hdg : decode cc pc = .ok (.aconst_null, 1)) (k : Z H locs cells slots (F0 m (pc + 1) ls (.null :: rest))) : Z H locs cells slots (F0 m pc ls rest) := by
  obtain ⟨p, e, s, args, below, meth, c, Q, ⟨hx, hb, hml, hown, hts⟩, rfl⟩ := G
  exact lv_null hx hb hdg k
theorem g_ifnullN (G : gX l R cc nL own m Z) {off : Int} {tgt : Nat} (hdg : decode cc pc = .ok (.ifnull off, 3)) (ht : (pc : Int) + off = (tgt : Int)) (k : Z H locs cells slots (F0 m tgt ls rest)) : Z H locs cells slots (F0 m pc ls (.null :: rest)) := by
  obtain ⟨p, e, s, args, below, meth, c, Q, ⟨hx, hb, hml, hown, hts⟩, rfl⟩ := G
  exact lv_ifnullN hx hb hdg ht k
theorem g_ifnonnullN (G : gX l R cc nL own m Z) {off : Int} (hdg : decode cc pc = .ok (.ifnonnull off, 3)) (k : Z H locs cells slots (F0 m (pc + 3) ls rest)) : Z H locs cells slots (F0 m pc ls (.null :: rest)) := by
  obtain ⟨p, e, s, args, below, meth, c, Q, ⟨hx, hb, hml, hown, hts⟩, rfl⟩ := G
  exact lv_ifnonnullN hx hb hdg k
theorem g_aload_nN (G : gX l R cc nL own m Z) {k : Fin 4} {i : Nat} (hdg : decode cc pc = .ok (.aload_n k, 1)) (hi : (k : Nat) = i) (hl : ls[i]? = some (.val (.null))) (k : Z H locs cells slots (F0 m (pc + 1) ls (.null :: rest))) : Z H locs cells slots (F0 m pc ls (rest)) := by
  obtain ⟨p, e, s, args, below, meth, c, Q, ⟨hx, hb, hml, hown, hts⟩, rfl⟩ := G
  exact lv_aload_nN hx hb hdg hi hl k
theorem g_aloadN (G : gX l R cc nL own m Z) {i : Nat} (hdg : decode cc pc = .ok (.aload i, 2)) (hl : ls[i]? = some (.val (.null))) (k : Z H locs cells slots (F0 m (pc + 2) ls (.null :: rest))) : Z H locs cells slots (F0 m pc ls (rest)) := by
  obtain ⟨p, e, s, args, below, meth, c, Q, ⟨hx, hb, hml, hown, hts⟩, rfl⟩ := G
  exact lv_aloadN hx hb hdg hl k
theorem g_astore_nN (G : gX l R cc nL own m Z) {k : Fin 4} {i  : Nat} {lv lv' : List (Nat × Value)} (hdg : decode cc pc = .ok (.astore_n k, 1)) (hi : (k : Nat) = i) (h : lv_has ls nL lv) (hn : i < nL) (hl : (i, Value.null) :: lv.filter (fun q => !(q.1 == i) && !(q.1 + 1 == i && q.2.category == 2)) = lv') (kk : ∀ ls' : Array Slot, lv_has ls' nL lv' → Z H locs cells slots (F0 m (pc + 1) ls' rest)) : Z H locs cells slots (F0 m pc ls (.null :: rest)) := by
  obtain ⟨p, e, s, args, below, meth, c, Q, ⟨hx, hb, hml, hown, hts⟩, rfl⟩ := G
  exact lv_astore_nN hx hb hdg hi h hn hl kk
theorem g_astoreN (G : gX l R cc nL own m Z) {i  : Nat} {lv lv' : List (Nat × Value)} (hdg : decode cc pc = .ok (.astore i, 2)) (h : lv_has ls nL lv) (hn : i < nL) (hl : (i, Value.null) :: lv.filter (fun q => !(q.1 == i) && !(q.1 + 1 == i && q.2.category == 2)) = lv') (kk : ∀ ls' : Array Slot, lv_has ls' nL lv' → Z H locs cells slots (F0 m (pc + 2) ls' rest)) : Z H locs cells slots (F0 m pc ls (.null :: rest)) := by
  obtain ⟨p, e, s, args, below, meth, c, Q, ⟨hx, hb, hml, hown, hts⟩, rfl⟩ := G
  exact lv_astoreN hx hb hdg h hn hl kk
theorem g_iushr (G : gX l R cc nL own m Z) {x y v : Int32} (hdg : decode cc pc = .ok (.iushr, 1)) (hv : (x.toUInt32 >>> (y.toUInt32 &&& Int32.toUInt32 31)).toInt32 = v) (k : Z H locs cells slots (F0 m (pc + 1) ls (.int v :: rest))) : Z H locs cells slots (F0 m pc ls (.int y :: .int x :: rest)) := by
  obtain ⟨p, e, s, args, below, meth, c, Q, ⟨hx, hb, hml, hown, hts⟩, rfl⟩ := G
  exact lv_iushr hx hb hdg hv k
theorem g_lushr (G : gX l R cc nL own m Z) {x v : Int64} {y : Int32} (hdg : decode cc pc = .ok (.lushr, 1)) (hv : (x.toUInt64 >>> (y.toInt64.toUInt64 &&& Int64.toUInt64 63)).toInt64 = v) (k : Z H locs cells slots (F0 m (pc + 1) ls (.long v :: rest))) : Z H locs cells slots (F0 m pc ls (.int y :: .long x :: rest)) := by
  obtain ⟨p, e, s, args, below, meth, c, Q, ⟨hx, hb, hml, hown, hts⟩, rfl⟩ := G
  exact lv_lushr hx hb hdg hv k
theorem g_iincW (G : gX l R cc nL own m Z) {i  k : Nat} {n : Int} {x v : Int32} {lv lv' : List (Nat × Value)} (hdg : decode cc pc = .ok (.iinc i n, 6)) (h : lv_has ls nL lv) (hk : lv[k]? = some (i, .int x)) (hv : x + Int32.ofInt n = v) (hn : i < nL) (hl : (i, Value.int v) :: lv.filter (fun q => !(q.1 == i) && !(q.1 + 1 == i && q.2.category == 2)) = lv') (kk : ∀ ls' : Array Slot, lv_has ls' nL lv' → Z H locs cells slots (F0 m (pc + 6) ls' rest)) : Z H locs cells slots (F0 m pc ls rest) := by
  obtain ⟨p, e, s, args, below, meth, c, Q, ⟨hx, hb, hml, hown, hts⟩, rfl⟩ := G
  exact lv_iincW hx hb hdg h hk hv hn hl kk
theorem g_pop2_2 (G : gX l R cc nL own m Z) {va : Value} (hdg : decode cc pc = .ok (.pop2, 1)) (hva : va.category = 2) (k : Z H locs cells slots (F0 m (pc + 1) ls (rest))) : Z H locs cells slots (F0 m pc ls (va :: rest)) := by
  obtain ⟨p, e, s, args, below, meth, c, Q, ⟨hx, hb, hml, hown, hts⟩, rfl⟩ := G
  exact lv_pop2_2 hx hb hdg hva k
theorem g_dup2_2 (G : gX l R cc nL own m Z) {va : Value} (hdg : decode cc pc = .ok (.dup2, 1)) (hva : va.category = 2) (k : Z H locs cells slots (F0 m (pc + 1) ls (va :: va :: rest))) : Z H locs cells slots (F0 m pc ls (va :: rest)) := by
  obtain ⟨p, e, s, args, below, meth, c, Q, ⟨hx, hb, hml, hown, hts⟩, rfl⟩ := G
  exact lv_dup2_2 hx hb hdg hva k
theorem lc_lt {x y : Int64} : lg_cmp x y < 0 ↔ x < y := by
  unfold lg_cmp
  by_cases h1 : y < x
  · simp only [h1, if_true]
    constructor
    · intro q; exact absurd q (by decide)
    · intro q; exact absurd (Int64.lt_trans q h1) (Int64.lt_irrefl)
  · by_cases h2 : x = y
    · subst h2
      simp [Int64.lt_irrefl]
    · simp only [h1, h2, if_false]
      constructor
      · intro _
        rcases Int64.lt_or_le x y with h | h
        · exact h
        · rcases Int64.le_iff_lt_or_eq.mp h with h | h
          · exact absurd h h1
          · exact absurd h.symm h2
      · intro _; decide
theorem lc_eq {x y : Int64} : lg_cmp x y = 0 ↔ x = y := by
  unfold lg_cmp
  by_cases h1 : y < x
  · simp only [h1, if_true]
    constructor
    · intro q; exact absurd q (by decide)
    · intro q; subst q; exact absurd h1 (Int64.lt_irrefl)
  · by_cases h2 : x = y
    · simp [h1, h2]
    · simp only [h1, h2, if_false]
      constructor
      · intro q; exact absurd q (by decide)
      · intro q; exact q.elim
theorem lc_ne {x y : Int64} : ¬ lg_cmp x y = 0 ↔ ¬ x = y := not_congr lc_eq
theorem lc_gt {x y : Int64} : 0 < lg_cmp x y ↔ y < x := by
  unfold lg_cmp
  by_cases h1 : y < x
  · simp only [h1, if_true]
    constructor
    · intro _; trivial
    · intro _; decide
  · by_cases h2 : x = y
    · subst h2
      simp [Int64.lt_irrefl]
    · simp only [h1, h2, if_false]
      constructor
      · intro q; exact absurd q (by decide)
      · intro q; exact q.elim
theorem lc_ge {x y : Int64} : 0 ≤ lg_cmp x y ↔ y ≤ x := by
  rw [← Int32.not_lt, ← Int64.not_lt]
  exact not_congr lc_lt
theorem lc_le {x y : Int64} : lg_cmp x y ≤ 0 ↔ x ≤ y := by
  rw [← Int32.not_lt, ← Int64.not_lt]
  exact not_congr lc_gt
theorem g_lc_lt (G : gX l R cc nL own m Z) {x y : Int64} {off : Int} {tgt : Nat} (hd1 : decode cc pc = .ok (.lcmp, 1)) (hd2 : decode cc (pc + 1) = .ok (.ifCond .lt off, 3)) (ht : ((pc + 1 : Nat) : Int) + off = (tgt : Int))
    (kt : x < y → Z H locs cells slots (F0 m tgt ls rest)) (kf : ¬ x < y → Z H locs cells slots (F0 m (pc + 4) ls rest)) : Z H locs cells slots (F0 m pc ls (.long y :: .long x :: rest)) := by
  obtain ⟨p, e, s, args, below, meth, c, Q, ⟨hx, hb, hml, hown, hts⟩, rfl⟩ := G
  refine W.lcmp hx hb hd1 ?_
  exact lv_if_lt (x := lg_cmp x y) hx hb hd2 ht (fun q => kt (lc_lt.mp q)) (fun q => kf (fun z => q (lc_lt.mpr z)))
theorem g_lc_ge (G : gX l R cc nL own m Z) {x y : Int64} {off : Int} {tgt : Nat} (hd1 : decode cc pc = .ok (.lcmp, 1)) (hd2 : decode cc (pc + 1) = .ok (.ifCond .ge off, 3)) (ht : ((pc + 1 : Nat) : Int) + off = (tgt : Int))
    (kt : y ≤ x → Z H locs cells slots (F0 m tgt ls rest)) (kf : ¬ y ≤ x → Z H locs cells slots (F0 m (pc + 4) ls rest)) : Z H locs cells slots (F0 m pc ls (.long y :: .long x :: rest)) := by
  obtain ⟨p, e, s, args, below, meth, c, Q, ⟨hx, hb, hml, hown, hts⟩, rfl⟩ := G
  refine W.lcmp hx hb hd1 ?_
  exact lv_if_ge (x := lg_cmp x y) hx hb hd2 ht (fun q => kt (lc_ge.mp q)) (fun q => kf (fun z => q (lc_ge.mpr z)))
theorem g_lc_gt (G : gX l R cc nL own m Z) {x y : Int64} {off : Int} {tgt : Nat} (hd1 : decode cc pc = .ok (.lcmp, 1)) (hd2 : decode cc (pc + 1) = .ok (.ifCond .gt off, 3)) (ht : ((pc + 1 : Nat) : Int) + off = (tgt : Int))
    (kt : y < x → Z H locs cells slots (F0 m tgt ls rest)) (kf : ¬ y < x → Z H locs cells slots (F0 m (pc + 4) ls rest)) : Z H locs cells slots (F0 m pc ls (.long y :: .long x :: rest)) := by
  obtain ⟨p, e, s, args, below, meth, c, Q, ⟨hx, hb, hml, hown, hts⟩, rfl⟩ := G
  refine W.lcmp hx hb hd1 ?_
  exact lv_if_gt (x := lg_cmp x y) hx hb hd2 ht (fun q => kt (lc_gt.mp q)) (fun q => kf (fun z => q (lc_gt.mpr z)))
theorem g_lc_le (G : gX l R cc nL own m Z) {x y : Int64} {off : Int} {tgt : Nat} (hd1 : decode cc pc = .ok (.lcmp, 1)) (hd2 : decode cc (pc + 1) = .ok (.ifCond .le off, 3)) (ht : ((pc + 1 : Nat) : Int) + off = (tgt : Int))
    (kt : x ≤ y → Z H locs cells slots (F0 m tgt ls rest)) (kf : ¬ x ≤ y → Z H locs cells slots (F0 m (pc + 4) ls rest)) : Z H locs cells slots (F0 m pc ls (.long y :: .long x :: rest)) := by
  obtain ⟨p, e, s, args, below, meth, c, Q, ⟨hx, hb, hml, hown, hts⟩, rfl⟩ := G
  refine W.lcmp hx hb hd1 ?_
  exact lv_if_le (x := lg_cmp x y) hx hb hd2 ht (fun q => kt (lc_le.mp q)) (fun q => kf (fun z => q (lc_le.mpr z)))
theorem g_lc_eq (G : gX l R cc nL own m Z) {x y : Int64} {off : Int} {tgt : Nat} (hd1 : decode cc pc = .ok (.lcmp, 1)) (hd2 : decode cc (pc + 1) = .ok (.ifCond .eq off, 3)) (ht : ((pc + 1 : Nat) : Int) + off = (tgt : Int))
    (kt : x = y → Z H locs cells slots (F0 m tgt ls rest)) (kf : ¬ x = y → Z H locs cells slots (F0 m (pc + 4) ls rest)) : Z H locs cells slots (F0 m pc ls (.long y :: .long x :: rest)) := by
  obtain ⟨p, e, s, args, below, meth, c, Q, ⟨hx, hb, hml, hown, hts⟩, rfl⟩ := G
  refine W.lcmp hx hb hd1 ?_
  exact lv_if_eq (x := lg_cmp x y) hx hb hd2 ht (fun q => kt (lc_eq.mp q)) (fun q => kf (fun z => q (lc_eq.mpr z)))
theorem g_lc_ne (G : gX l R cc nL own m Z) {x y : Int64} {off : Int} {tgt : Nat} (hd1 : decode cc pc = .ok (.lcmp, 1)) (hd2 : decode cc (pc + 1) = .ok (.ifCond .ne off, 3)) (ht : ((pc + 1 : Nat) : Int) + off = (tgt : Int))
    (kt : ¬ x = y → Z H locs cells slots (F0 m tgt ls rest)) (kf : x = y → Z H locs cells slots (F0 m (pc + 4) ls rest)) : Z H locs cells slots (F0 m pc ls (.long y :: .long x :: rest)) := by
  obtain ⟨p, e, s, args, below, meth, c, Q, ⟨hx, hb, hml, hown, hts⟩, rfl⟩ := G
  refine W.lcmp hx hb hd1 ?_
  exact lv_if_ne (x := lg_cmp x y) hx hb hd2 ht (fun q => kt (lc_ne.mp q)) (fun q => kf (lc_eq.mp q))
end GX
