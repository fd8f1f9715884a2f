/-! PART 72: plain: the component acts: on, its pieces -/
set_option maxRecDepth 100000
section OV
variable {D : PD} {B : Nat} {g : SG} {c c' : CZ} {h0 : PH}
/-- nothing is kept any more -/
theorem cG.clear (h : cG B g c h0) : cG B (uWU g (gW g) []) (xI c 0 16 0) h0 := by
  obtain ⟨h0', h1, h2, h3, ⟨u1, u2, u3, σ, s1, s2, s3, s4⟩, h5, h6, h7, h8, h9, h10, h11⟩ := h
  have e : ∀ o i, ¬ (o = 0 ∧ i = 16) → cI (xI c 0 16 0) o i = cI c o i := fun o i hn => by rw [cI_x, if_neg hn]
  refine ⟨⟨h0'.1, (fun u' hu' => absurd hu' List.not_mem_nil), h0'.2.2⟩, h1.q rfl, h2.of (fun o i a b => e o i (by omega)) rfl, h3.of rfl, ⟨Nat.zero_le _, ?_, u3, σ, s1, s2, s3, fun i hi => absurd hi (Nat.not_lt_zero _)⟩, ⟨h5.1, by rw [e _ _ (by decide)]; exact h5.2.1, fun i hi => by rw [e _ _ (by omega), e _ _ (by omega)]; exact h5.2.2 i hi⟩, ⟨by rw [e _ _ (by decide)]; exact h6.1, fun i hi => by rw [e _ _ (by omega)]; exact h6.2 i hi⟩, fun j hj => by rw [e _ _ (by omega)]; exact h7 j hj, ⟨by rw [e _ _ (by decide)]; exact h8.1, by rw [e _ _ (by decide)]; exact h8.2⟩, h9, ⟨by rw [e _ _ (by decide)]; exact h10.1, fun i hi => by rw [e _ _ (by omega)]; exact h10.2 i hi⟩, h11⟩
  rw [cI_x, if_pos ⟨rfl, rfl⟩]
  rfl
/-- the State tried holds what the tape tells -/
theorem cOn.all {k : SK} {b : Nat → Nat} {y : CZ} (h : cOn b c (kP k) y) (hp : cPi B 51 c) (hw : wOk k (onW b)) : cAll B k (onW b) 51 (xI (xI y 51 0 (nI (256 * b 0 + b 1))) 51 3 0) := by
  obtain ⟨f1, f2, f3, f4, f5⟩ := h
  obtain ⟨π, p1, p2, p3⟩ := hp
  have e : ∀ o i, ¬ (o = 51 ∧ (i = 0 ∨ i = 3)) → cI (xI (xI y 51 0 (nI (256 * b 0 + b 1))) 51 3 0) o i = cI y o i := fun o i q => by rw [cI_x, if_neg (by omega), cI_x, if_neg (by omega)]
  refine ⟨hw, ⟨?_, ?_, ?_, fun p hp => ?_⟩, Nat.zero_le _, ?_, π, p1, p2, fun i hi => ?_, fun i hi => absurd hi (Nat.not_lt_zero _)⟩
  · rw [cI_x, if_neg (by omega), cI_x, if_pos ⟨rfl, rfl⟩]
    rfl
  · rw [e 51 1 (by omega)]; exact f3
  · rw [e 51 2 (by omega)]; exact f4
  · rw [e _ _ (by omega), e _ _ (by omega), e _ _ (by omega), e _ _ (by omega)]
    exact f5 p hp
  · rw [cI_x, if_pos ⟨rfl, rfl⟩]
    rfl
  · show y.2.2 (51 + 5) i = _
    rw [f2]
    exact p3 i hi
theorem cOn.fr {b : Nat → Nat} {j : Nat} {y : CZ} (h : cOn b c j y) : cFr 51 c y := ⟨fun o i ho => h.1 o i (by omega) (by omega), fun o _ => by rw [h.2.1], fun o _ => by rw [h.2.1]⟩
theorem yr_v : ∀ x, x < 4 → ∀ y, y < 256 → (nI x <<< ((8 : Int32) &&& 31)) ||| nI y = nI (256 * x + y) := by decide +kernel
theorem yr_n (x y : Nat) (hx : x < 256) (hy : y < 256) : (nI x <<< ((8 : Int32) &&& 31)) ||| nI y = nI (256 * x + y) := by
  have e : nI x <<< ((8 : Int32) &&& 31) = nI (256 * x) := by
    have : ∀ x, x < 256 → nI x <<< ((8 : Int32) &&& 31) = nI (256 * x) := by decide +kernel
    exact this x hx
  rw [e, nI_or]
  congr 1
  have := Nat.shiftLeft_add_eq_or_of_lt (i := 8) (b := y) hy x
  rw [Nat.shiftLeft_eq] at this
  rw [show 256 * x = x * 2 ^ 8 by omega, this]
end OV
