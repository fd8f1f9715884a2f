/-! PART 62: plain: the component acts: undo, seed, teach, tell -/
set_option maxRecDepth 100000
section UN
variable {D : PD} {B : Nat} {g : SG} {c c' : CZ} {h0 : PH}
/-- what is becomes another -/
theorem cG.what {w : SW} (h : cG B g c h0) (f : cFr 14 c c') (a : cAll B (gK g) w 14 c') (hy : wY w ≤ 999) : cG B (uWU g w (gU g)) c' h0 := by
  obtain ⟨h0', h1, h2, h3, h4, h5, h6, h7, h8, h9, h10, h11⟩ := h
  have e : ∀ o i, o < 14 ∨ 51 ≤ o → cI c' o i = cI c o i := fun o i ho => f.1 o i (by omega)
  refine ⟨⟨hy, h0'.2⟩, f.sc is14 h1, a, h3.fr is51 is14 (by decide) f, h4.fr (Or.inl rfl) f, ⟨h5.1, by rw [e _ _ (by decide)]; exact h5.2.1, fun i hi => by rw [e _ _ (by omega), e _ _ (by omega)]; exact h5.2.2 i hi⟩, ⟨by rw [e _ _ (by decide)]; exact h6.1, fun i hi => by rw [e _ _ (by omega)]; exact h6.2 i hi⟩, fun j hj => by rw [e _ _ (by omega)]; exact h7 j hj, ⟨by rw [e _ _ (by decide)]; exact h8.1, by rw [e _ _ (by decide)]; exact h8.2⟩, ?_, ⟨by rw [e _ _ (by decide)]; exact h10.1, fun i hi => by rw [e _ _ (by omega)]; exact h10.2 i hi⟩, fun j hj => ?_⟩
  · show c'.2.1 0 17 = _
    rw [f.2.1 0 (by decide)]
    exact h9
  · show c'.2.2 90 j = _
    rw [f.2.2 90 (by decide)]
    exact h11 j hj
/-- the last kept is kept no more -/
theorem cG.pop (h : cG B g c h0) {u : SW} {us : List SW} (hu : gU g = u :: us) : cG B (uWU g (gW g) us) (xI c 0 16 (nI us.length)) h0 := by
  obtain ⟨h0', h1, h2, h3, ⟨u1, u2, u3, σ, s1, s2, s3, s4⟩, h5, h6, h7, h8, h9, h10, h11⟩ := h
  have e : ∀ o i, ¬ (o = 0 ∧ i = 16) → cI (xI c 0 16 (nI us.length)) o i = cI c o i := fun o i hn => by rw [cI_x, if_neg hn]
  have ul : (gU g).length = us.length + 1 := by rw [hu]; rfl
  refine ⟨⟨h0'.1, fun u' hu' => h0'.2.1 u' (by rw [hu]; exact List.mem_cons_of_mem _ hu'), h0'.2.2⟩, h1.q rfl, h2.of (fun o i a b => e o i (by omega)) rfl, h3.of rfl, ⟨?_, ?_, u3, σ, s1, s2, s3, fun i hi => ?_⟩, ⟨h5.1, by rw [e _ _ (by decide)]; exact h5.2.1, fun i hi => by rw [e _ _ (by omega), e _ _ (by omega)]; exact h5.2.2 i hi⟩, ⟨by rw [e _ _ (by decide)]; exact h6.1, fun i hi => by rw [e _ _ (by omega)]; exact h6.2 i hi⟩, fun j hj => by rw [e _ _ (by omega)]; exact h7 j hj, ⟨by rw [e _ _ (by decide)]; exact h8.1, by rw [e _ _ (by decide)]; exact h8.2⟩, h9, ⟨by rw [e _ _ (by decide)]; exact h10.1, fun i hi => by rw [e _ _ (by omega)]; exact h10.2 i hi⟩, h11⟩
  · show us.length ≤ 20
    omega
  · rw [cI_x, if_pos ⟨rfl, rfl⟩]; rfl
  · have hi : i < us.length := hi
    show cAll B (gK g) (us.getD i default) (100 + 37 * σ (us.length - 1 - i)) _
    have := s4 (i + 1) (by omega)
    rw [ul, hu, show us.length + 1 - 1 - (i + 1) = us.length - 1 - i by omega] at this
    have := s1 (us.length - 1 - i) (by omega)
    exact ‹cAll B (gK g) _ _ c›.of (fun o i' a b => e o i' (by omega)) rfl
theorem x_undo (h : cG B g c h0) : ∃ c', fX0_undo B (mk B c h0) = some ((spUndo g).1, mk B c' h0) ∧ cG B (spUndo g).2 c' h0 := by
  obtain ⟨u1, u2, u3, σ, s1, s2, s3, s4⟩ := h.2.2.2.2.1
  unfold fX0_undo spUndo
  rw [x0_F16, vI_s, u2]
  cases hu : gU g with
  | nil =>
    obtain ⟨c', q1, q2⟩ := x_refuses h (i := 4) (by decide)
    have q1 : fX0_refuses B 4 (mk B c h0) = _ := q1
    rw [if_pos rfl, if_pos (by decide), x0_cls, ckc_s, q1, bnd_s, if_pos (by decide)]
    exact ⟨c', rfl, q2⟩
  | cons u us =>
    have ul : (gU g).length = us.length + 1 := by rw [hu]; rfl
    have hl : (u :: us).length = us.length + 1 := rfl
    have p := h.pop hu
    obtain ⟨v1, v2, v3, τ, t1, t2, t3, t4⟩ := p.2.2.2.2.1
    rw [hl, if_neg (nI_ne0 (show 0 < us.length + 1 by omega) (by omega)), if_neg (show ¬ u :: us = [] from fun q => List.cons_ne_nil _ _ q), vI_s, x0_pI _ _ 16 (by decide), nI_pred, bnv_s, x0_F9, vA_s, x0_F15, vA_s, x0_F16, vI_s, cI_x, if_pos ⟨rfl, rfl⟩]
    have hσ := s1 us.length (by omega)
    have a0 := s4 0 (by omega)
    rw [ul, hu, show us.length + 1 - 1 - 0 = us.length by omega] at a0
    have a0 : cAll B (gK g) u (100 + 37 * σ us.length) c := a0
    have a1 : cAll B (gK g) u (100 + 37 * σ us.length) (xI c 0 16 (nI us.length)) := a0.of (fun o i a b => by rw [cI_x, if_neg (by omega)]) rfl
    have hw := h.1.2.1 u (by rw [hu]; exact List.mem_cons_self)
    have pi14 : cPi B 14 (xI c 0 16 (nI us.length)) := p.2.2.1.2.2.pi
    obtain ⟨c2, q1, f, q2⟩ := x_copy (h0 := h0) is14 (isk hσ) (by omega) h.2.1.1.2.1 a1 pi14
    rw [k_kept.ld _ h0 (inb_nI (by omega) (by decide)), nI_c (by omega), cQ_xI, s3 _ (by omega), ob_s, qS_s, st_cls is14, ckc_s, q1, bnd_s]
    exact ⟨c2, rfl, p.what f q2 hw.2⟩
theorem x_seed (h : cG B g c h0) (a : Int32) : ∃ c', fX0_seed B a (mk B c h0) = some ((spSeed g a).1, mk B c' h0) ∧ cG B (spSeed g a).2 c' h0 := by
  unfold fX0_seed spSeed
  by_cases ca : 0 ≤ a
  · rw [if_pos ca, if_pos ca, x0_p17, bnv_s]
    obtain ⟨h0', h1, h2, h3, h4, h5, h6, h7, h8, h9, h10, h11⟩ := h
    refine ⟨_, rfl, h0', h1, h2, h3, h4, h5, h6, h7, h8, ?_, h10, h11⟩
    rw [cL_x, if_pos ⟨rfl, rfl⟩]
    rfl
  · obtain ⟨c', q1, q2⟩ := x_refuses h (i := 5) (by decide)
    have q1 : fX0_refuses B 5 (mk B c h0) = _ := q1
    rw [if_neg ca, if_neg ca, x0_cls, ckc_s, q1, bnd_s, if_pos (by decide)]
    exact ⟨c', rfl, q2⟩
theorem x_teach (h : cG B g c h0) (a b : Int32) : ∃ c', fX0_teach B a b (mk B c h0) = some ((spTeach g a b).1, mk B c' h0) ∧ cG B (spTeach g a b).2 c' h0 := by
  have h1 := h.2.1
  have h8 := h1.1.2.1
  have now := h.2.2.1
  have hw := now.1
  obtain ⟨cn, n1, n2⟩ := x_refuses h (i := 2) (by decide)
  have n1 : fX0_refuses B 2 (mk B c h0) = some (-1, mk B cn h0) := n1
  unfold fX0_teach spTeach
  rw [x0_cls, ckc_s, x_isPerson h1, bnd_s]
  simp only [jn_s, x0_cls, ckc_s]
  cases e : sPn (kP (gK g)) a with
  | false =>
    rw [if_pos (by decide), if_neg (by simp)]
    simp only [x0_cls, ckc_s, n1, bnd_s]
    rw [if_pos (by decide)]
    exact ⟨cn, rfl, n2⟩
  | true =>
  obtain ⟨p, hp, rfl⟩ := sPn_nat e h8
  rw [if_neg (by decide), nI_c (by omega)]
  have act : ∀ m, m ≤ kP (gK g) → nI m - 1 = b → (m = 0 ∨ sBy (wM (gW g)) 8 m p = false) → ∃ c', (vA (pF (mk B c h0) B 0 9) fun p1 => vA (pF (mk B c h0) p1 5 4) fun p2 => ob (pLd (mk B c h0) p2 0 (nI p)) fun v1 => if v1 = b then bnd (fX0_refuses B 2 (mk B c h0)) fun r2 h3 => if r2 < 0 then some (false, h3) else some (true, h3) else bnv (fX0_keeps B (mk B c h0)) fun h5 => vA (pF h5 B 0 9) fun p3 => vA (pF h5 p3 5 4) fun p4 => bnv (pSt h5 p4 0 (nI p) b) fun h6 => some (true, h6)) = some ((if nI (wM (gW g) p) - 1 ≠ b then (true, uWU g (uM (gW g) p m) (sPush (gU g) (gW g))) else (false, uRf g 2)).1, mk B c' h0) ∧ cG B (if nI (wM (gW g) p) - 1 ≠ b then (true, uWU g (uM (gW g) p m) (sPush (gU g) (gW g))) else (false, uRf g 2)).2 c' h0 := by
    intro m hm2 hb hby
    rw [x0_F9, vA_s, st_F4 is14, vA_s, st_m is14 now.2.1 hp h8, ob_s]
    by_cases ce : nI (wM (gW g) p) - 1 = b
    · rw [if_pos ce, if_neg (fun q => q ce)]
      simp only [x0_cls, ckc_s, n1, bnd_s]
      rw [if_pos (by decide)]
      exact ⟨cn, rfl, n2⟩
    · obtain ⟨c1, q1, q2⟩ := x_keeps h
      have wok := hw.master h1.1 hm2 hby (p := p)
      have am := q2.2.2.1.master h8 (p := p) (m := m) wok
      rw [if_neg ce, if_pos ce, q1, bnv_s, x0_F9, vA_s, st_F4 is14, vA_s, Nat.add_assoc B 14 1, (st_k1 is14).st c1 h0 (inb_nI (by omega) (by decide)), bnv_s, nI_c (by omega), ← hb]
      exact ⟨_, rfl, q2.what (cFr.x c1 (by omega) _ _) am h.1.1⟩
  by_cases cb : b = -1
  · rw [if_pos cb]
    have := act 0 (by omega) (by rw [cb]; decide) (Or.inl rfl)
    rw [if_pos cb]
    by_cases ce : nI (wM (gW g) p) - 1 ≠ b
    · rw [if_pos ce] at this
      rw [if_pos ⟨rfl, Or.inl cb, ce⟩]
      simp only [x0_F9, vA_s, x0_cls, ckc_s] at this ⊢
      exact this
    · rw [if_neg ce] at this
      rw [if_neg (fun q => ce q.2.2)]
      simp only [x0_F9, vA_s, x0_cls, ckc_s] at this ⊢
      exact this
  · rw [if_neg cb, x_isPerson h1, bnd_s]
    cases c2 : sPn (kP (gK g)) b with
    | false =>
      rw [if_pos (by decide), if_neg (by rintro ⟨-, q | q, -⟩; exact cb q; cases q.1)]
      simp only [x0_cls, ckc_s, n1, bnd_s]
      rw [if_pos (by decide)]
      exact ⟨cn, rfl, n2⟩
    | true =>
    obtain ⟨m, hmk, rfl⟩ := sPn_nat c2 h8
    have hb := x_isBy (B := B) (h0 := h0) (c := c) h1.1 is14 (w := gW g) (fun q hq => (hw.2.2 q hq).1) (fun q hq => (now.2.1.2.2.2 q hq).1) (a := m + 1) (p := p) (by omega) hp
    rw [nI_pred] at hb
    rw [if_neg (by decide), x0_F9, vA_s, st_cls is14, ckc_s, hb, bnd_s, nI_c (by omega)]
    cases c3 : sBy (wM (gW g)) 8 (m + 1) p with
    | true =>
      rw [if_neg (by decide), if_neg (by rintro ⟨-, q | q, -⟩; exact cb q; cases q.2)]
      simp only [x0_cls, ckc_s, n1, bnd_s]
      rw [if_pos (by decide)]
      exact ⟨cn, rfl, n2⟩
    | false =>
      rw [if_pos (by decide), if_neg cb]
      have := act (m + 1) (by omega) (nI_pred m) (Or.inr c3)
      by_cases ce : nI (wM (gW g) p) - 1 ≠ nI m
      · rw [if_pos ce] at this
        rw [if_pos ⟨rfl, Or.inr ⟨rfl, rfl⟩, ce⟩]
        simp only [x0_F9, vA_s, x0_cls, ckc_s] at this ⊢
        exact this
      · rw [if_neg ce] at this
        rw [if_neg (fun q => ce q.2.2)]
        simp only [x0_F9, vA_s, x0_cls, ckc_s] at this ⊢
        exact this
theorem x_tell (h : cG B g c h0) (a b : Int32) : ∃ c', fX0_tell B a b (mk B c h0) = some ((spTell g a b).1, mk B c' h0) ∧ cG B (spTell g a b).2 c' h0 := by
  have h1 := h.2.1
  have h8 := h1.1.2.1
  have hF := h1.1.1
  have now := h.2.2.1
  have hw := now.1
  obtain ⟨cn, n1, n2⟩ := x_refuses h (i := 2) (by decide)
  have n1 : fX0_refuses B 2 (mk B c h0) = some (-1, mk B cn h0) := n1
  unfold fX0_tell spTell
  rw [x0_cls, ckc_s, x_isPerson h1, bnd_s]
  simp only [jn_s, x0_cls, ckc_s]
  cases e : sPn (kP (gK g)) a with
  | false =>
    rw [if_pos (by decide), if_neg (by simp)]
    simp only [x0_cls, ckc_s, n1, bnd_s]
    rw [if_pos (by decide)]
    exact ⟨cn, rfl, n2⟩
  | true =>
  obtain ⟨p, hp, rfl⟩ := sPn_nat e h8
  rw [if_neg (by decide), x_isFact h1, bnd_s, nI_c (by omega)]
  cases c2 : sPn (kF (gK g)) b with
  | false =>
    rw [if_pos (by decide), if_neg (by simp)]
    simp only [x0_cls, ckc_s, n1, bnd_s]
    rw [if_pos (by decide)]
    exact ⟨cn, rfl, n2⟩
  | true =>
  obtain ⟨f, hf, rfl⟩ := sPn_nat c2 hF
  rw [if_neg (by decide), x0_F9, vA_s, st_F5 is14, vA_s, st_r is14 now.2.1 hp h8, ob_s, has_v (hw.r8 h1.1 hp) (by omega), bnd_s, nI_c (by omega)]
  have s1 := sIs_1 (w := gW g) (p := p) (f := f)
  cases c3 : (wR (gW g) p).testBit f with
  | true =>
    rw [if_neg (by decide), if_neg (fun q => q.2.2 (s1.mpr c3))]
    simp only [x0_cls, ckc_s, n1, bnd_s]
    rw [if_pos (by decide)]
    exact ⟨cn, rfl, n2⟩
  | false =>
    obtain ⟨c1, q1, q2⟩ := x_keeps h
    obtain ⟨y2, z1, z2, z3⟩ := x_hears (h0 := h0) h1.1 is14 q2.2.2.1 hp hf
    rw [if_pos (by decide), if_pos ⟨rfl, rfl, fun q => by rw [s1.mp q] at c3; cases c3⟩, x0_cls, ckc_s, q1, bnv_s, x0_F9, vA_s, st_cls is14, ckc_s, z1, bnv_s]
    exact ⟨y2, rfl, q2.what z2 z3 h.1.1⟩
end UN
