/-! PART 73: plain: the component acts: on -/
set_option maxRecDepth 100000
section OW
variable {D : PD} {B : Nat} {g : SG} {c c' : CZ} {h0 : PH}
theorem x_on (h : cG B g c h0) : ∃ c', fX0_on B (mk B c h0) = some ((spOn g).1, mk B c' h0) ∧ cG B (spOn g).2 c' h0 := by
  have o4 := h.1.2.2.2.1
  have o5 := h.1.2.2.2.2.1
  have hk := h.2.1.1
  have h8 := hk.2.1
  obtain ⟨c1, t1, gt, tb⟩ := x_taken h
  have x1 : cSc B (gK g) (gN g) c1 h0 := gt.2.1
  have now : cAll B (gK g) (gW g) 14 c1 := gt.2.2.1
  have fin : Ok (fX0_on B (mk B c h0)) (fun r => r.1 = (spOn g).1 ∧ ∃ c', r.2 = mk B c' h0 ∧ cG B (spOn g).2 c' h0) := by
    unfold fX0_on
    rw [x0_cls, ckc_s, t1, bnd_s, x0_cls, ckc_s, x_people x1, bnd_s, jn_s, jn_s]
    generalize hJ : (fun (x1 : Bool) (h3 : PH) => vA (pF h3 B 0 10) fun p1 => _) = J
    have main : ∀ x : Bool, (x = true ↔ gT g = 3 + 5 * kP (gK g) ∧ gB g (gT g - 1) = chkN (gB g) (gT g - 1) ∧ 256 * gB g 0 + gB g 1 ≤ 999) → Ok (J x (mk B c1 h0)) (fun r => r.1 = (spOn g).1 ∧ ∃ c', r.2 = mk B c' h0 ∧ cG B (spOn g).2 c' h0) := fun x hxx => by
      rw [← hJ]
      dsimp only
      obtain ⟨c2, q1, q2⟩ := x_start gt (cFr.rf 51 c1) gt.2.2.2.1
      rw [x0_F10, vA_s, x0_F9, vA_s, st_cls is51, ckc_s, q1, bnd_s, st_p1 is51, bnv_s, x0_F10, vA_s, st_p2 is51, bnv_s]
      simp only [jn_s]
      have f3 : cFr 51 c1 (xI (xI c2 51 1 0) 51 2 0) := (q2.1.tr (cFr.x c2 (by omega) _ _)).tr (cFr.x _ (by omega) _ _)
      have p3 : cPi B 51 (xI (xI c2 51 1 0) 51 2 0) := q2.2.2.2.pi.of rfl
      refine x_on1 (k := gK g) (nm := gN g) (n := gT g) (b := gB g) (f3.sc is51 x1) o4 (fun i hi => by rw [f3.1 6 i (by omega)]; exact tb i hi) o5 (fun q => by have := (hxx.mp q).1; omega) (by rw [cI_x, if_neg (by omega), cI_x, if_pos ⟨rfl, rfl⟩]) (by rw [cI_x, if_pos ⟨rfl, rfl⟩]) (fun y j r hj hc hrj hr => ?_)
      have fy : cFr 51 c1 y := f3.tr hc.fr
      have py : cPi B 51 y := p3.of (by rw [hc.2.1])
      have gy := gt.fr fy py
      refine x_on2 (k := gK g) (nm := gN g) (b := gB g) (hc.sc (f3.sc is51 x1)) (fun q p hp => ?_) (fun r2 hr2 => ?_)
      · have e := hrj q
        subst e
        exact ⟨((hr.mp q).2 p hp).1, (hc.2.2.2.2 p hp).1⟩
      have iff : r2 = true ↔ onOk (gK g) (gT g) (gB g) := ⟨fun q => ⟨hxx.mp (hr.mp (hr2.mp q).1).1, (hr.mp (hr2.mp q).1).2, (hr2.mp q).2⟩, fun q => hr2.mpr ⟨hr.mpr ⟨hxx.mpr q.1, q.2.1⟩, q.2.2⟩⟩
      unfold spOn
      cases r2 with
      | false =>
        obtain ⟨cn, n1, n2⟩ := x_refuses gy (i := 5) (by decide)
        have n1 : fX0_refuses B 5 (mk B y h0) = some (-1, mk B cn h0) := n1
        rw [if_pos (by decide), if_neg (fun q => by have := iff.mpr q; cases this), x0_cls, ckc_s, n1, bnd_s, if_pos (by decide)]
        exact Ok.of ⟨rfl, cn, rfl, n2⟩
      | true =>
        have ok := iff.mp rfl
        have hw := onW_ok hk ok
        have n3 : 2 ≤ gT g := by have := ok.1.1; omega
        have ej := hrj (hr2.mp rfl).1
        subst ej
        have ty : ∀ i, i < gT g → cI y 6 i = sb (gB g i) := fun i hi => by rw [fy.1 6 i (by omega)]; exact tb i hi
        have r0 : fX0_byteAt B 0 (mk B y h0) = some (nI (gB g 0), mk B y h0) := x_byteAt ty (i := 0) (by omega) o4 (o5 0 (by omega))
        have r1 : fX0_byteAt B 1 (mk B y h0) = some (nI (gB g 1), mk B y h0) := x_byteAt ty (i := 1) (by omega) o4 (o5 1 (by omega))
        have a51 := hc.all p3 hw
        have f5 : cFr 51 c1 (xI (xI y 51 0 (nI (256 * gB g 0 + gB g 1))) 51 3 0) := (fy.tr (cFr.x y (by omega) _ _)).tr (cFr.x _ (by omega) _ _)
        have g5 := gt.fr f5 a51.2.2.pi
        obtain ⟨c6, k1, k2, k3⟩ := x_copy (h0 := h0) is14 is51 (by decide) h8 a51 g5.2.2.1.2.2.pi
        rw [if_neg (by decide), if_pos ok, x0_F10, vA_s, x0_cls, ckc_s, r0, bnd_s, x0_cls, ckc_s, r1, bnd_s, yr_n _ _ (o5 0 (by omega)) (o5 1 (by omega)), st_p0 is51, bnv_s, x0_F10, vA_s, st_p3 is51, bnv_s, x0_F9, vA_s, x0_F10, vA_s, st_cls is14, ckc_s, k1, bnd_s, x0_pI _ _ 16 (by decide), bnv_s]
        exact Ok.of ⟨rfl, _, rfl, (g5.what k2 k3 ok.1.2.2).clear⟩
    have e35 : (3 : Int32) + 5 * nI (kP (gK g)) = nI (3 + 5 * kP (gK g)) := by rw [show (3 : Int32) = nI 3 from rfl, show (5 : Int32) = nI 5 from rfl, nI_mul, nI_add]
    rw [e35]
    by_cases z1 : gT g = 3 + 5 * kP (gK g)
    · have hc := x_check (c := c1) (h0 := h0) (n := gT g - 1) (b := gB g) (k_tape (B := B)) (by omega) (by decide) (fun i hi => tb i (by omega)) (fun i hi => o5 i (by omega))
      have bl := o5 (gT g - 1) (by omega)
      have cl := chkN_lt (gB g) (gT g - 1)
      have r0 : fX0_byteAt B 0 (mk B c1 h0) = some (nI (gB g 0), mk B c1 h0) := x_byteAt tb (i := 0) (by omega) o4 (o5 0 (by omega))
      have r1 : fX0_byteAt B 1 (mk B c1 h0) = some (nI (gB g 1), mk B c1 h0) := x_byteAt tb (i := 1) (by omega) o4 (o5 1 (by omega))
      have y0 := o5 0 (by omega)
      have y1 := o5 1 (by omega)
      rw [if_pos (by rw [← z1]), x0_cls, ckc_s, nI_m1 (by omega), x_byteAt tb (show gT g - 1 < gT g by omega) o4 bl, bnd_s, x0_F1, vA_s, hc, bnd_s]
      by_cases z2 : gB g (gT g - 1) = chkN (gB g) (gT g - 1)
      · rw [if_pos (by rw [← z2]), x0_cls, ckc_s, r0, bnd_s, x0_cls, ckc_s, r1, bnd_s, yr_n _ _ y0 y1]
        by_cases z3 : 256 * gB g 0 + gB g 1 ≤ 999
        · rw [if_neg (show ¬ (999 : Int32) < nI (256 * gB g 0 + gB g 1) from nI_nlt (a := 999) z3 (by decide))]
          exact main true ⟨fun _ => ⟨z1, z2, z3⟩, fun _ => rfl⟩
        · rw [if_pos (show (999 : Int32) < nI (256 * gB g 0 + gB g 1) from nI_lt (a := 999) (by omega) (by omega))]
          exact main false ⟨(fun q => by cases q), fun q => absurd q.2.2 z3⟩
      · rw [if_neg (fun q => z2 ((nI_eq (by omega) (by omega)).mp q))]
        exact main false ⟨(fun q => by cases q), fun q => absurd q.2.1 z2⟩
    · rw [if_neg (fun q => z1 ((nI_eq (by omega) (by omega)).mp q))]
      exact main false ⟨(fun q => by cases q), fun q => absurd q.1 z1⟩
  obtain ⟨⟨r, h'⟩, e, q1, c', q2, q3⟩ := fin
  have q2 : h' = mk B c' h0 := q2
  exact ⟨c', by rw [e, q2]; cases q1; rfl, q3⟩
end OW
