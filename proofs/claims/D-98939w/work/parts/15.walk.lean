/-! PART 15: references that may be null; classes of the system -/
set_option maxRecDepth 100000
def qS {β : Type} (q : Option Nat) (k : Nat → Option β) : Option β := match q with
  | some a => k a
  | none => none
theorem qS_open {β : Type} {q : Option Nat} {k : Nat → Option β} {y : β} (h : qS q k = some y) : ∃ a : Nat, q = some a ∧ k a = some y := by
  cases q with
  | none => cases h
  | some a => exact ⟨a, rfl, h⟩
def qC {β : Type} (q : Option Nat) (n : β) (k : Nat → β) : β := match q with
  | some a => k a
  | none => n
theorem qC_none {β : Type} {n y : β} {k : Nat → β} (h : qC none n k = y) : n = y := h
theorem qC_some {β : Type} {n y : β} {k : Nat → β} {a : Nat} (h : qC (some a) n k = y) : k a = y := h
/-- the object's class is as asked -/
def ckc {β : Type} (x : Option Nat) (ci : Nat) (k : Option β) : Option β := if x = some ci then k else none
theorem ckc_open {β : Type} {x : Option Nat} {ci : Nat} {k : Option β} {y : β} (h : ckc x ci k = some y) : x = some ci ∧ k = some y := by
  unfold ckc at h
  by_cases hc : x = some ci
  · rw [if_pos hc] at h
    exact ⟨hc, h⟩
  · rw [if_neg hc] at h
    cases h
/-- .. one of two classes -/
def ck2 {β : Type} (x : Option Nat) (c1 c2 : Nat) (k : Option β) : Option β := if x = some c1 ∨ x = some c2 then k else none
theorem ck2_open {β : Type} {x : Option Nat} {c1 c2 : Nat} {k : Option β} {y : β} (h : ck2 x c1 c2 k = some y) : (x = some c1 ∨ x = some c2) ∧ k = some y := by
  unfold ck2 at h
  by_cases hc : x = some c1 ∨ x = some c2
  · rw [if_pos hc] at h
    exact ⟨hc, h⟩
  · rw [if_neg hc] at h
    cases h
def pF2 (h : PH) (a c1 c2 k : Nat) : Option Value := match pF h a c1 k with
  | some v => some v
  | none => pF h a c2 k
theorem pF2_open {h : PH} {a c1 c2 k : Nat} {v : Value} (e : pF2 h a c1 c2 k = some v) : pF h a c1 k = some v ∨ pF h a c2 k = some v := by
  unfold pF2 at e
  split at e
  next v' he => exact Or.inl (he.trans e)
  next => exact Or.inr e
section GQ
variable {l : Launch} {R : Room} {m : MethodId} {H : Heap} {locs : List Loc} {cells slots : Nat} {cc : ByteArray} {nL : Nat} {own : String} {pc : Nat} {ls : Array Slot} {rest : List Value} {Z : Heap → List Loc → Nat → Nat → JFrame → Prop} {q : Option Nat}
theorem g_aload_nQ (G : gX l R cc nL own m Z) {k : Fin 4} {i : Nat} (hdg : decode cc pc = .ok (.aload_n k, 1)) (hi : (k : Nat) = i) (hl : ls[i]? = some (.val (va_rf q))) (kk : Z H locs cells slots (F0 m (pc + 1) ls (va_rf q :: rest))) : Z H locs cells slots (F0 m pc ls rest) := by
  cases q with
  | none => exact g_aload_nN G hdg hi hl kk
  | some a => exact g_aload_n G hdg hi hl kk
theorem g_aloadQ (G : gX l R cc nL own m Z) {i : Nat} (hdg : decode cc pc = .ok (.aload i, 2)) (hl : ls[i]? = some (.val (va_rf q))) (kk : Z H locs cells slots (F0 m (pc + 2) ls (va_rf q :: rest))) : Z H locs cells slots (F0 m pc ls rest) := by
  cases q with
  | none => exact g_aloadN G hdg hl kk
  | some a => exact g_aload G hdg hl kk
theorem g_astore_nQ (G : gX l R cc nL own m Z) {k : Fin 4} {i : Nat} {lv lv' : List (Nat × Value)} (hdg : decode cc pc = .ok (.astore_n k, 1)) (hi : (k : Nat) = i) (h : lv_has ls nL lv) (hn : i < nL) (hl : (i, va_rf q) :: lv.filter (fun q => !(q.1 == i) && !(q.1 + 1 == i && q.2.category == 2)) = lv') (kk : ∀ ls' : Array Slot, lv_has ls' nL lv' → Z H locs cells slots (F0 m (pc + 1) ls' rest)) : Z H locs cells slots (F0 m pc ls (va_rf q :: rest)) := by
  cases q with
  | none => exact g_astore_nN G hdg hi h hn hl kk
  | some a => exact g_astore_n G hdg hi h hn hl kk
theorem g_astoreQ (G : gX l R cc nL own m Z) {i : Nat} {lv lv' : List (Nat × Value)} (hdg : decode cc pc = .ok (.astore i, 2)) (h : lv_has ls nL lv) (hn : i < nL) (hl : (i, va_rf q) :: lv.filter (fun q => !(q.1 == i) && !(q.1 + 1 == i && q.2.category == 2)) = lv') (kk : ∀ ls' : Array Slot, lv_has ls' nL lv' → Z H locs cells slots (F0 m (pc + 2) ls' rest)) : Z H locs cells slots (F0 m pc ls (va_rf q :: rest)) := by
  cases q with
  | none => exact g_astoreN G hdg h hn hl kk
  | some a => exact g_astore G hdg h hn hl kk
theorem g_ifnullQ (G : gX l R cc nL own m Z) {off : Int} {tgt : Nat} (hdg : decode cc pc = .ok (.ifnull off, 3)) (ht : (pc : Int) + off = (tgt : Int)) (kt : q = none → Z H locs cells slots (F0 m tgt ls rest)) (kf : ∀ a, q = some a → Z H locs cells slots (F0 m (pc + 3) ls rest)) : Z H locs cells slots (F0 m pc ls (va_rf q :: rest)) := by
  cases q with
  | none => exact g_ifnullN G hdg ht (kt rfl)
  | some a => exact g_ifnull G hdg (kf a rfl)
theorem g_ifnonnullQ (G : gX l R cc nL own m Z) {off : Int} {tgt : Nat} (hdg : decode cc pc = .ok (.ifnonnull off, 3)) (ht : (pc : Int) + off = (tgt : Int)) (kt : ∀ a, q = some a → Z H locs cells slots (F0 m tgt ls rest)) (kf : q = none → Z H locs cells slots (F0 m (pc + 3) ls rest)) : Z H locs cells slots (F0 m pc ls (va_rf q :: rest)) := by
  cases q with
  | none => exact g_ifnonnullN G hdg (kf rfl)
  | some a => exact g_ifnonnull G hdg ht (kt a rfl)
end GQ
theorem T0_in (C : String) : ∀ w ∈ u_ws C T0 0, w ∈ lw_all := fun w h => by simp [u_ws] at h
def pt0 : Nat → FieldType := fun _ => .int
theorem pc_0 : pC 0 RX0 TX0 21 tyX0 := ⟨rfl, in_X0, tyX0_ok, nmX0⟩
theorem pc_1 : pC 1 RX1 TX1 9 tyX1 := ⟨rfl, in_X1, tyX1_ok, nmX1⟩
theorem pc_2 : pC 2 RX2 TX2 8 tyX2 := ⟨rfl, in_X2, tyX2_ok, nmX2⟩
theorem pc_3 : pC 3 RX3 TX3 8 tyX3 := ⟨rfl, in_X3, tyX3_ok, nmX3⟩
theorem pc_4 : pC 4 RX4 TX4 1 tyX4 := ⟨rfl, in_X4, tyX4_ok, nmX4⟩
theorem pc_5 : pC 5 RX5 TX5 12 tyX5 := ⟨rfl, in_X5, tyX5_ok, nmX5⟩
theorem pc_6 : pC 6 RX6 TX6 105 tyX6 := ⟨rfl, in_X6, tyX6_ok, nmX6⟩
theorem pc_7 : pC 7 RX7 TX7 2 tyX7 := ⟨rfl, in_X7, tyX7_ok, nmX7⟩
theorem pc_8 : pC 8 RX8 TX8 5 tyX8 := ⟨rfl, in_X8, tyX8_ok, nmX8⟩
theorem pc_10 : pC 10 RX10 TX10 2 tyX10 := ⟨rfl, in_X10, tyX10_ok, nmX10⟩
theorem pc_11 : pC 11 RX11 TX11 1 tyX11 := ⟨rfl, in_X11, tyX11_ok, nmX11⟩
theorem pc_12 : pC 12 RX12 T0 0 pt0 := ⟨rfl, T0_in _, fun k hk => absurd hk (Nat.not_lt_zero k), fun a ha => absurd ha (Nat.not_lt_zero a)⟩
theorem pc_14 : pC 14 RX14 TX14 2 tyX14 := ⟨rfl, in_X14, tyX14_ok, nmX14⟩
theorem pc_15 : pC 15 RX15 TX15 3 tyX15 := ⟨rfl, in_X15, tyX15_ok, nmX15⟩
theorem pc_16 : pC 16 RX16 TX16 1 tyX16 := ⟨rfl, in_X16, tyX16_ok, nmX16⟩
theorem pc_17 : pC 17 RX17 TX17 1 tyX17 := ⟨rfl, in_X17, tyX17_ok, nmX17⟩
theorem pc_18 : pC 18 RX18 TX18 3 tyX18 := ⟨rfl, in_X18, tyX18_ok, nmX18⟩
theorem pc_19 : pC 19 RX19 TX19 3 tyX19 := ⟨rfl, in_X19, tyX19_ok, nmX19⟩
theorem pc_20 : pC 20 RX20 TX20 5 tyX20 := ⟨rfl, in_X20, tyX20_ok, nmX20⟩
theorem pc_21 : pC 21 RJ2 TJ2 3 tyJ2 := ⟨rfl, in_J2, tyJ2_ok, nmJ2⟩
theorem pc_22 : pC 22 RJ6 TJ6 4 tyJ6 := ⟨rfl, in_J6, tyJ6_ok, nmJ6⟩
theorem pc_23 : pC 23 RJ15 TJ15 4 tyJ15 := ⟨rfl, in_J15, tyJ15_ok, nmJ15⟩
section PX3
variable {l : Launch} {D : PD} {A : Nat → Prop} {cap : Nat × Nat} {d : Nat} {cc : ByteArray} {nL : Nat} {own : String} {ini : Bool} {rt : Option FieldType} {m : MethodId} {rv : Option Value} {h' : PH} {H0 : Heap} {cx sx : Heap → Nat} {Z : Heap → List Loc → Nat → Nat → JFrame → Prop}
variable {h : PH} {H : Heap} {locs : List Loc} {pc : Nat} {ls : Array Slot} {rest : List Value} {a k : Nat}
/-- a field of Named, of a Named or a Person -/
theorem p_get2 (X : pX l D A cap d cc nL own ini rt m rv h' H0 cx sx Z) (hM : PI D A cap H0 h H locs) (hk : k < 2) {idx : Nat} (hq : Cond.fieldLink own idx RX7 (TX7 k).2.1 (TX7 k).2.2.1 ∈ lw_all) {v : Value} (hv : pF2 h a 7 8 k = some v) (hdg : decode cc pc = .ok (.getfield idx, 3))
    (kk : Z H locs (cx H) (sx H) (F0 m (pc + 3) ls (v :: rest))) : Z H locs (cx H) (sx H) (F0 m pc ls (.ref a :: rest)) := by
  rcases pF2_open hv with e | e
  · rcases (show k = 0 ∨ k = 1 by omega) with rfl | rfl
    · exact p_get X hM pc_7 (by decide) hq rfl e hdg kk
    · exact p_get X hM pc_7 (by decide) hq rfl e hdg kk
  · rcases (show k = 0 ∨ k = 1 by omega) with rfl | rfl
    · exact p_get X hM pc_8 (by decide) hq rfl e hdg kk
    · exact p_get X hM pc_8 (by decide) hq rfl e hdg kk
theorem p_get2N (X : pX l D A cap d cc nL own ini rt m rv h' H0 cx sx Z) (hM : PI D A cap H0 h H locs) (hk : k < 2) {idx : Nat} {host : String} (hq : Cond.fieldLinkNest own idx RX7 (TX7 k).2.1 (TX7 k).2.2.1 host ∈ lw_tbl) {v : Value} (hv : pF2 h a 7 8 k = some v) (hdg : decode cc pc = .ok (.getfield idx, 3))
    (kk : Z H locs (cx H) (sx H) (F0 m (pc + 3) ls (v :: rest))) : Z H locs (cx H) (sx H) (F0 m pc ls (.ref a :: rest)) := by
  rcases pF2_open hv with e | e
  · rcases (show k = 0 ∨ k = 1 by omega) with rfl | rfl
    · exact p_getN X hM pc_7 (by decide) hq rfl e hdg kk
    · exact p_getN X hM pc_7 (by decide) hq rfl e hdg kk
  · rcases (show k = 0 ∨ k = 1 by omega) with rfl | rfl
    · exact p_getN X hM pc_8 (by decide) hq rfl e hdg kk
    · exact p_getN X hM pc_8 (by decide) hq rfl e hdg kk
/-- a cast to Named, of a Named or a Person -/
theorem p_cast2 (X : pX l D A cap d cc nL own ini rt m rv h' H0 cx sx Z) (hM : PI D A cap H0 h H locs) {idx : Nat} (hq : Cond.classLink own idx RX7 ∈ lw_all) (hct : Cond.castable RX8 RX7 ∈ lw_tbl) (hvc : pCls h a = some 7 ∨ pCls h a = some 8) (hdg : decode cc pc = .ok (.checkcast idx, 3))
    (kk : Z H locs (cx H) (sx H) (F0 m (pc + 3) ls (.ref a :: rest))) : Z H locs (cx H) (sx H) (F0 m pc ls (.ref a :: rest)) := by
  rcases hvc with e | e
  · exact p_castS X hM (ci := 7) rfl hq e hdg kk
  · exact p_castT X hM (ci := 8) rfl hq hct e hdg kk
end PX3
