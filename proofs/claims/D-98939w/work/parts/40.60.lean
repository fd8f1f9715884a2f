/-! PART 60: plain: the component acts: refuses, keeps -/
set_option maxRecDepth 100000
section KE
variable {D : PD} {B : Nat} {g : SG} {c c' : CZ} {h0 : PH}
theorem cAll.of {k : SK} {w : SW} {s : Nat} (h : cAll B k w s c) (e : ∀ o i, s ≤ o → o < s + 37 → cI c' o i = cI c o i) (q : c'.2.2 (s + 5) = c.2.2 (s + 5)) : cAll B k w s c' := by
  obtain ⟨hw, ht, r1, r2, π, g3, g4, g5, g6⟩ := h
  refine ⟨hw, ⟨by rw [e _ _ (by omega) (by omega)]; exact ht.1, by rw [e _ _ (by omega) (by omega)]; exact ht.2.1, by rw [e _ _ (by omega) (by omega)]; exact ht.2.2.1, fun p hp => ?_⟩, r1, by rw [e _ _ (by omega) (by omega)]; exact r2, π, g3, g4, fun i hi => ?_, fun i hi => ?_⟩
  · rw [e _ _ (by omega) (by omega), e _ _ (by omega) (by omega), e _ _ (by omega) (by omega), e _ _ (by omega) (by omega)]
    exact ht.2.2.2 p hp
  · show c'.2.2 (s + 5) i = _
    rw [q]
    exact g5 i hi
  · have := g3 i (by omega)
    rw [e _ _ (by omega) (by omega), e _ _ (by omega) (by omega), e _ _ (by omega) (by omega)]
    exact g6 i hi
theorem cPi.of {s : Nat} (h : cPi B s c) (q : c'.2.2 (s + 5) = c.2.2 (s + 5)) : cPi B s c' := by
  obtain ⟨π, g3, g4, g5⟩ := h
  refine ⟨π, g3, g4, fun i hi => ?_⟩
  show c'.2.2 (s + 5) i = _
  rw [q]
  exact g5 i hi
theorem cSc.q {k : SK} {nm : Nat → Nat → List Nat} (h : cSc B k nm c h0) (q : c'.2.2 0 = c.2.2 0) : cSc B k nm c' h0 := by
  obtain ⟨h1, sa, h2, h3⟩ := h
  exact ⟨h1, sa, by show c'.2.2 0 0 = _; rw [q]; exact h2, h3⟩
/-- school, what is, what was -/
theorem cG.core (h : cG B g c h0) (e1 : ∀ o i, (14 ≤ o ∧ o < 88) ∨ (100 ≤ o ∧ o < 840) → cI c' o i = cI c o i) (e2 : cI c' 0 16 = cI c 0 16) (e3 : c'.2.2 = c.2.2) : cSc B (gK g) (gN g) c' h0 ∧ cAll B (gK g) (gW g) 14 c' ∧ cPi B 51 c' ∧ cUnd B (gK g) (gU g) c' ∧ ∀ j, j < 8 → cQ c' 90 j = some (B + (91 + j)) := by
  obtain ⟨h0', h1, h2, h3, ⟨u1, u2, u3, σ, s1, s2, s3, s4⟩, h5, h6, h7, h8, h9, h10, h11⟩ := h
  refine ⟨h1.q (by rw [e3]), h2.of (fun o i a b => e1 o i (by omega)) (by rw [e3]), h3.of (by rw [e3]), ⟨u1, by rw [e2]; exact u2, fun j hj => (u3 j hj).of (by rw [e3]), σ, s1, s2, fun i hi => by show c'.2.2 99 i = _; rw [e3]; exact s3 i hi, fun i hi => (s4 i hi).of (fun o i' a b => e1 o i' ?_) (by rw [e3])⟩, fun j hj => by show c'.2.2 90 j = _; rw [e3]; exact h11 j hj⟩
  have := s1 ((gU g).length - 1 - i) (by omega)
  omega
theorem cG.refuse (h : cG B g c h0) {i : Nat} (hi : i < 6) : cG B (uRf g i) (xI c 13 i (gR g i + 1)) h0 := by
  have e : ∀ o i', o ≠ 13 → cI (xI c 13 i (gR g i + 1)) o i' = cI c o i' := fun o i' q => by rw [cI_x, if_neg (fun x => q x.1)]
  obtain ⟨k1, k2, k3, k4, k5⟩ := h.core (c' := xI c 13 i (gR g i + 1)) (fun o i' q => e o i' (by omega)) (e 0 16 (by decide)) rfl
  obtain ⟨h0', h1, h2, h3, h4, h5, h6, h7, h8, h9, h10, h11⟩ := h
  refine ⟨h0', k1, k2, k3, k4, ⟨h5.1, by rw [e _ _ (by decide)]; exact h5.2.1, fun i hi => by rw [e _ _ (by decide), e _ _ (by decide)]; exact h5.2.2 i hi⟩, ⟨by rw [e _ _ (by decide)]; exact h6.1, fun i hi => by rw [e _ _ (by decide)]; exact h6.2 i hi⟩, fun j hj => ?_, ⟨by rw [e _ _ (by decide)]; exact h8.1, by rw [e _ _ (by decide)]; exact h8.2⟩, h9, ⟨by rw [e _ _ (by decide)]; exact h10.1, fun i hi => by rw [e _ _ (by decide)]; exact h10.2 i hi⟩, k5⟩
  rw [cI_x]
  show _ = va_up (gR g) i (gR g i + 1) j
  by_cases c : j = i
  · rw [if_pos ⟨rfl, c⟩, c, va_up_self]
  · rw [if_neg (fun x => c x.2), va_up_ne _ _ c]; exact h7 j hj
theorem x_refuses (h : cG B g c h0) {i : Nat} (hi : i < 6) : ∃ c', fX0_refuses B (nI i) (mk B c h0) = some (-1, mk B c' h0) ∧ cG B (uRf g i) c' h0 := by
  have in6 : inb (nI i) 6 = true := inb_nI hi (by decide)
  unfold fX0_refuses
  rw [x0_F8, vA_s, k_ref.ld c h0 in6, ob_s, k_ref.st c h0 in6, bnv_s, nI_c (by omega), h.2.2.2.2.2.2.2.1 i hi]
  exact ⟨_, rfl, h.refuse hi⟩
/-- what is, is kept, where there is room -/
theorem x_keep1 (h : cG B g c h0) (hl : (gU g).length < 20) : ∃ c', (vA (pF (mk B c h0) B 0 15) fun p1 => vI (pF (mk B c h0) B 0 16) fun v2 => ob (pLdQ (mk B c h0) p1 5 v2) fun q1 => vA (pF (mk B c h0) B 0 9) fun p2 => qS q1 fun n1 => ckc (pCls (mk B c h0) n1) 5 <| bnd (fX5_copy n1 p2 (mk B c h0)) fun _ h2 => vI (pF h2 B 0 16) fun v3 => bnv (pPut h2 B 0 16 (.int (v3 + 1))) fun h3 => some h3) = some (mk B c' h0) ∧ cG B (uWU g (gW g) (gW g :: gU g)) c' h0 := by
  obtain ⟨h0', h1, h2, h3, ⟨u1, u2, u3, σ, s1, s2, s3, s4⟩, h5, h6, h7, h8, h9, h10, h11⟩ := h
  have hσ := s1 _ hl
  obtain ⟨c1, q1, f, a1⟩ := x_copy (h0 := h0) (isk hσ) is14 (by omega) h1.1.2.1 h2 (u3 _ hσ)
  rw [x0_F15, vA_s, x0_F16, vI_s, u2, k_kept.ld c h0 (inb_nI hl (by decide)), nI_c (by omega), s3 _ hl, ob_s, x0_F9, vA_s, qS_s, st_cls (isk hσ), ckc_s, q1, bnd_s, x0_F16, vI_s, f.1 0 16 (by omega), u2, nI_1, x0_pI _ _ 16 (by decide), bnv_s]
  have e : ∀ o i, o < 100 → ¬ (o = 0 ∧ i = 16) → cI (xI c1 0 16 (nI ((gU g).length + 1))) o i = cI c o i := fun o i ho hn => by rw [cI_x, if_neg hn, f.1 o i (by omega)]
  have e2 : ∀ o i, o ≠ 0 → cI (xI c1 0 16 (nI ((gU g).length + 1))) o i = cI c1 o i := fun o i hn => by rw [cI_x, if_neg (fun x => hn x.1)]
  have eq : ∀ o, o ≠ 100 + 37 * σ (gU g).length + 5 → (xI c1 0 16 (nI ((gU g).length + 1))).2.2 o = c.2.2 o := fun o ho => f.2.2 o ho
  refine ⟨_, rfl, ⟨h0'.1, fun u hu => ?_, h0'.2.2⟩, (f.sc (isk hσ) h1).q rfl, (h2.fr is14 (isk hσ) (by omega) f).of (fun o i a b => e2 o i (by omega)) rfl, (h3.fr is51 (isk hσ) (by omega) f).of rfl, ⟨by show (gU g).length + 1 ≤ 20; omega, by rw [cI_x, if_pos ⟨rfl, rfl⟩]; rfl, fun j hj => ?_, σ, s1, s2, fun i hi => ?_, fun i hi => ?_⟩, ⟨h5.1, by rw [e _ _ (by decide) (by decide)]; exact h5.2.1, fun i hi => by rw [e _ _ (by decide) (by omega), e _ _ (by decide) (by omega)]; exact h5.2.2 i hi⟩, ⟨by rw [e _ _ (by decide) (by decide)]; exact h6.1, fun i hi => by rw [e _ _ (by decide) (by omega)]; exact h6.2 i hi⟩, fun j hj => by rw [e _ _ (by decide) (by omega)]; exact h7 j hj, ⟨by rw [e _ _ (by decide) (by decide)]; exact h8.1, by rw [e _ _ (by decide) (by decide)]; exact h8.2⟩, ?_, ⟨by rw [e _ _ (by decide) (by decide)]; exact h10.1, fun i hi => by rw [e2 _ _ (by decide), f.1 840 i (by omega)]; exact h10.2 i hi⟩, fun j hj => ?_⟩
  · have hu : u ∈ gW g :: gU g := hu
    rcases List.mem_cons.mp hu with rfl | hu
    · exact ⟨h2.1, h0'.1⟩
    · exact h0'.2.1 u hu
  · by_cases ej : j = σ (gU g).length
    · rw [ej]; exact a1.2.2.pi.of rfl
    · exact ((u3 j hj).fr (isk hj) (isk hσ) (by omega) f).of rfl
  · show (xI c1 0 16 (nI ((gU g).length + 1))).2.2 99 i = _
    rw [eq 99 (by omega)]
    exact s3 i hi
  · have hi : i < (gU g).length + 1 := hi
    show cAll B (gK g) ((gW g :: gU g).getD i default) (100 + 37 * σ ((gU g).length + 1 - 1 - i)) _
    cases i with
    | zero =>
      rw [show (gU g).length + 1 - 1 - 0 = (gU g).length by omega]
      exact a1.of (fun o i a b => e2 o i (by omega)) rfl
    | succ i =>
      rw [show (gU g).length + 1 - 1 - (i + 1) = (gU g).length - 1 - i by omega]
      have := s4 i (by omega)
      have ne : (gU g).length - 1 - i ≠ (gU g).length := by omega
      have ns : σ ((gU g).length - 1 - i) ≠ σ (gU g).length := fun x => ne (s2 _ _ (by omega) hl x)
      exact (this.fr (isk (s1 _ (by omega))) (isk hσ) (by omega) f).of (fun o i a b => e2 o i (by omega)) rfl
  · show c1.2.1 0 17 = _
    rw [f.2.1 0 (by decide)]
    exact h9
  · show (xI c1 0 16 (nI ((gU g).length + 1))).2.2 90 j = _
    rw [eq 90 (by omega)]
    exact h11 j hj
end KE
