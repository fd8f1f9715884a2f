/-! PART 67: plain: the component acts: image -/
set_option maxRecDepth 100000
def cIm (c c' : CZ) : Prop := (∀ o i, ¬ (o = 0 ∧ i = 20) → o ≠ 840 → cI c' o i = cI c o i) ∧ c'.2 = c.2
theorem cIm.tr {a b c : CZ} (h : cIm a b) (g : cIm b c) : cIm a c := ⟨fun o i h1 h2 => (g.1 o i h1 h2).trans (h.1 o i h1 h2), g.2.trans h.2⟩
def cOc (l : List Nat) (c : CZ) : Prop := cI c 0 20 = nI l.length ∧ ∀ i, i < l.length → cI c 840 i = sb (l.getD i 0)
theorem shr8 {n : Nat} (h : n ≤ 2000) : nI n >>> ((8 : Int32) &&& 31) = nI (n / 256) := by
  have : ∀ n, n ≤ 2000 → nI n >>> ((8 : Int32) &&& 31) = nI (n / 256) := by decide +kernel
  exact this n h
section IM
variable {D : PD} {B : Nat} {g : SG} {c c' : CZ} {h0 : PH}
theorem x_check {o N n : Nat} {b : Nat → Nat} (hk : kI B o 2 N) (hn : n ≤ N) (hN : N ≤ 1600) (hA : ∀ i, i < n → cI c o i = sb (b i)) (hb : ∀ i, i < n → b i < 256) : fX0_check (B + o) (nI n) (mk B c h0) = some (nI (chkN b n), mk B c h0) := by
  unfold fX0_check
  have key := fx_gen (F := fX0_check_L5 (B + o) (nI n)) (z := fun _ _ _ => none) (fun s j (x : Nat) => s (nI x) (nI j) (mk B c h0)) n (fun i c => (3 * c + b i) % 251) (fun _ c => c < 251) (fun x => some (nI x, mk B c h0)) ?_ ?_ ?_ FU 0 43 (Nat.zero_le _) (by decide) (FU_gt (by omega))
  · rw [Nat.sub_zero] at key
    exact key
  · intro s j x hj hc
    have hbj := hb j hj
    show fX0_check_L5 (B + o) (nI n) s (nI x) (nI j) (mk B c h0) = _
    unfold fX0_check_L5
    have e : ((3 * nI x) + nI (b j)) - ((3 * nI x) + nI (b j)) / 251 * 251 = nI ((3 * x + b j) % 251) := by
      rw [show (3 : Int32) = nI 3 from rfl, nI_mul, nI_add]
      exact nI_mod (b := 251) (by omega) (by decide) (by decide)
    rw [if_neg (nI_ge hj (by omega)), hk.ld c h0 (inb_nI (by omega) (by omega)), ob_s, nI_c (by omega), hA j hj, sb_255 _ hbj, e, nI_1]
  · intro j c hj hc
    exact Nat.mod_lt _ (by decide)
  · intro s x hc
    show fX0_check_L5 (B + o) (nI n) s (nI x) (nI n) (mk B c h0) = _
    unfold fX0_check_L5
    rw [if_pos (nI_le (Nat.le_refl _) (by omega))]
theorem x_writes {l : List Nat} (h : cOc l c) (hl : l.length < 43) {v : Nat} (hv : v < 2 ^ 31) : ∃ c', fX0_writes B (nI v) (mk B c h0) = some (mk B c' h0) ∧ cOc (l ++ [v % 256]) c' ∧ cIm c c' := by
  unfold fX0_writes
  have e : (nI v).toBitVec.toNat &&& 255 = v % 256 := by
    show (BitVec.ofNat 32 v).toNat &&& 255 = _
    rw [BitVec.toNat_ofNat, Nat.mod_eq_of_lt (by omega), show (255 : Nat) = 2 ^ 8 - 1 from rfl, Nat.and_two_pow_sub_one_eq_mod]
  rw [x0_F19, vA_s, x0_F20, vI_s, h.1, nI_1, x0_pI _ _ 20 (by decide), bnv_s, k_out.st _ h0 (inb_nI hl (by decide)), bnv_s, nI_c (by omega), sb_of, e]
  refine ⟨_, rfl, ⟨?_, fun i hi => ?_⟩, fun o i a1 a2 => ?_, rfl⟩
  · rw [cI_x, if_neg (by omega), cI_x, if_pos ⟨rfl, rfl⟩, List.length_append]
    rfl
  · rw [cI_x, getD_app]
    have hi : i < l.length + 1 := by simpa using hi
    by_cases ei : i = l.length
    · rw [if_pos ⟨rfl, ei⟩, if_pos ei]
    · rw [if_neg (fun x => ei x.2), if_neg ei, cI_x, if_neg (by omega)]
      exact h.2 i (by omega)
  · rw [cI_x, if_neg (fun x => a2 x.1), cI_x, if_neg a1]
theorem cIm.all {k : SK} {w : SW} {s : Nat} (f : cIm c c') (hs : isS s) (h : cAll B k w s c) : cAll B k w s c' := by
  have : 14 ≤ s ∧ s + 37 ≤ 840 := by rcases hs with rfl | rfl | ⟨j, hj, rfl⟩ <;> omega
  exact h.of (fun o i a b => f.1 o i (by omega) (by omega)) (by rw [f.2])
theorem cIm.whole {l : List Nat} (h : cG B g c h0) (f : cIm c c') (ho : cOc l c') (hl : l.length ≤ 43) (h2 : ∀ i, i < l.length → l.getD i 0 < 256) : cG B (uO g l) c' h0 := by
  have eI := f.1
  obtain ⟨k1, k2, k3, k4, k5⟩ := h.core (c' := c') (fun o i q => eI o i (by omega) (by omega)) (eI 0 16 (by decide) (by decide)) (by rw [f.2])
  obtain ⟨⟨o1, o2, o3, o4, o5, o6, -⟩, h1, h2', h3, h4, h5, h6, h7, h8, h9, h10, h11⟩ := h
  refine ⟨⟨o1, o2, o3, o4, o5, o6, hl, h2⟩, k1, k2, k3, k4, ⟨h5.1, by rw [eI _ _ (by decide) (by decide)]; exact h5.2.1, fun i hi => by rw [eI _ _ (by omega) (by decide), eI _ _ (by omega) (by decide)]; exact h5.2.2 i hi⟩, ⟨by rw [eI _ _ (by decide) (by decide)]; exact h6.1, fun i hi => by rw [eI _ _ (by omega) (by decide)]; exact h6.2 i hi⟩, fun j hj => by rw [eI _ _ (by omega) (by decide)]; exact h7 j hj, ⟨by rw [eI _ _ (by decide) (by decide)]; exact h8.1, by rw [eI _ _ (by decide) (by decide)]; exact h8.2⟩, ?_, ho, k5⟩
  show c'.2.1 0 17 = _
  rw [f.2]
  exact h9
theorem x_image (h : cG B g c h0) : ∃ c', fX0_image B (mk B c h0) = some ((spImage g).1, mk B c' h0) ∧ cG B (spImage g).2 c' h0 := by
  have h1 := h.2.1
  have hk := h1.1
  have h8 := hk.2.1
  have now := h.2.2.1
  have hw := now.1
  have hy := h.1.1
  have fin : Ok (fX0_image B (mk B c h0)) (fun r => r.1 = (spImage g).1 ∧ ∃ c', r.2 = mk B c' h0 ∧ cG B (spImage g).2 c' h0) := by
    have i0 : cIm c (xI c 0 20 0) := ⟨fun o i a1 a2 => by rw [cI_x, if_neg a1], rfl⟩
    have o0 : cOc [] (xI c 0 20 0) := ⟨by rw [cI_x, if_pos ⟨rfl, rfl⟩]; rfl, fun i hi => absurd hi (Nat.not_lt_zero _)⟩
    have a0 := i0.all is14 now
    obtain ⟨c1, q1, o1, i1⟩ := x_writes (B := B) (h0 := h0) o0 (by decide) (v := wY (gW g) / 256) (by omega)
    have i1 := i0.tr i1
    have a1 := i1.all is14 now
    obtain ⟨c2, q2, o2, i2⟩ := x_writes (B := B) (h0 := h0) o1 (by simp) (v := wY (gW g)) (by omega)
    have i2 := i1.tr i2
    have ed : wY (gW g) / 256 % 256 = wY (gW g) / 256 := Nat.mod_eq_of_lt (by omega)
    rw [ed] at o2
    unfold fX0_image
    rw [x0_pI _ _ 20 (by decide), bnv_s, x0_F9, vA_s, st_F0 is14, vI_s, a0.2.1.1, shr8 (by omega), x0_cls, ckc_s, q1, bnv_s, x0_F9, vA_s, st_F0 is14, vI_s, a1.2.1.1, x0_cls, ckc_s, q2, bnv_s, jn_s]
    refine fx_okN (F := fX0_image_L32 B _) (z := fun _ _ => none) (fun s j (y : CZ) => s (nI j) (mk B y h0)) (kP (gK g)) (fun j y => cOc (sImg0 (gW g) j) y ∧ cIm c y) _ ?_ ?_ FU 0 c2 (Nat.zero_le _) ⟨o2, i2⟩ (FU_gt (by omega))
    · rintro s j y hj ⟨oy, iy⟩ go
      have hl := sImg0_len (gW g) j
      have hS : sImg0 (gW g) (j + 1) = sImg0 (gW g) j ++ sImgP (gW g) j := itN_S _ _ _
      rw [hS] at go
      obtain ⟨b1, b2, b3, b4, b5, b6⟩ := hw.2.2 j hj
      have r8 := hw.r8 hk hj
      have w8 := hw.w8 hk hj
      have xc : ∀ {y : CZ}, cIm c y → cSc B (gK g) (gN g) y h0 := fun {y} f => h1.q (by rw [f.2])
      obtain ⟨y1, p1, oy1, jy1⟩ := x_writes (B := B) (h0 := h0) oy (by omega) (v := wM (gW g) j) (by omega)
      have iy1 := iy.tr jy1
      obtain ⟨y2, p2, oy2, jy2⟩ := x_writes (B := B) (h0 := h0) oy1 (by simp [hl]; omega) (v := wR (gW g) j) (by omega)
      have iy2 := iy1.tr jy2
      obtain ⟨y3, p3, oy3, jy3⟩ := x_writes (B := B) (h0 := h0) oy2 (by simp [hl]; omega) (v := wW (gW g) j) (by omega)
      have iy3 := iy2.tr jy3
      obtain ⟨y4, p4, oy4, jy4⟩ := x_writes (B := B) (h0 := h0) oy3 (by simp [hl]; omega) (v := wL' (gW g) j) (by omega)
      have iy4 := iy3.tr jy4
      obtain ⟨y5, p5, oy5, jy5⟩ := x_writes (B := B) (h0 := h0) oy4 (by simp [hl]; omega) (v := wF (gW g) j) (by omega)
      have iy5 := iy4.tr jy5
      have ay := iy.all is14 now
      have ay1 := iy1.all is14 now
      have ay2 := iy2.all is14 now
      have ay3 := iy3.all is14 now
      have ay4 := iy4.all is14 now
      rw [Nat.mod_eq_of_lt (show wM (gW g) j < 256 by omega), Nat.mod_eq_of_lt r8, Nat.mod_eq_of_lt w8, Nat.mod_eq_of_lt (show wL' (gW g) j < 256 by omega), Nat.mod_eq_of_lt (show wF (gW g) j < 256 by omega), List.append_assoc, List.append_assoc, List.append_assoc, List.append_assoc] at oy5
      have oy5 : cOc (sImg0 (gW g) j ++ sImgP (gW g) j) y5 := oy5
      have l0 := sWho_lt (gW g) (kP (gK g)) 0 h8
      have l1 := sWho_lt (gW g) (kP (gK g)) 1 h8
      have t0 : (sWho (gW g) (kP (gK g)) 0).testBit j = (wF (gW g) j).testBit 0 := by rw [sWho_bit _ _ _ h8 j (by omega), decide_eq_true hj, Bool.true_and]
      have t1 : (sWho (gW g) (kP (gK g)) 1).testBit j = (wF (gW g) j).testBit 1 := by rw [sWho_bit _ _ _ h8 j (by omega), decide_eq_true hj, Bool.true_and]
      have fl : ∀ f, f < 4 → bI (f.testBit 0) + (if f.testBit 1 = true then 2 else 0) = nI f := by decide +kernel
      show Ok (fX0_image_L32 B _ s (nI j) (mk B y h0)) _
      unfold fX0_image_L32
      rw [x0_cls, ckc_s, x_people (xc iy), bnd_s, if_neg (nI_ge hj (by omega)), x0_F9, vA_s, st_F4 is14, vA_s, st_m is14 ay.2.1 hj h8, ob_s, Int32.sub_add_cancel, x0_cls, ckc_s, p1, bnv_s, x0_F9, vA_s, st_F5 is14, vA_s, st_r is14 ay1.2.1 hj h8, ob_s, x0_cls, ckc_s, p2, bnv_s, x0_F9, vA_s, st_F6 is14, vA_s, st_w is14 ay2.2.1 hj h8, ob_s, x0_cls, ckc_s, p3, bnv_s, x0_F9, vA_s, st_F7 is14, vA_s, st_l is14 ay3.2.1 hj h8, ob_s, x0_cls, ckc_s, p4, bnv_s, x0_F9, vA_s, st_F1 is14, vI_s, ay4.2.1.2.1, has_v l0 (by omega), bnd_s, t0]
      have last : Ok (vA (pF (mk B y4 h0) B 0 9) fun p13 => vI (pF (mk B y4 h0) p13 5 2) fun v10 => bnd (fX0_has v10 (nI j) (mk B y4 h0)) fun r4 h15 => if (bI r4) = 0 then ckc (pCls h15 B) 0 (bnv (fX0_writes B (bI ((wF (gW g) j).testBit 0) + 0) h15) fun h17 => s (nI j + 1) h17) else ckc (pCls h15 B) 0 (bnv (fX0_writes B (bI ((wF (gW g) j).testBit 0) + 2) h15) fun h17 => s (nI j + 1) h17)) (fun r => r.1 = (spImage g).1 ∧ ∃ c', r.2 = mk B c' h0 ∧ cG B (spImage g).2 c' h0) := by
        have fj := fl _ b6
        rw [x0_F9, vA_s, st_F2 is14, vI_s, ay4.2.1.2.2.1, has_v l1 (by omega), bnd_s, t1]
        cases q : (wF (gW g) j).testBit 1 with
        | false =>
          rw [q, if_neg (by decide)] at fj
          rw [if_pos (by decide), x0_cls, ckc_s, fj, p5, bnv_s, nI_1]
          exact go y5 ⟨oy5, iy5⟩
        | true =>
          rw [q, if_pos rfl] at fj
          rw [if_neg (by decide), x0_cls, ckc_s, fj, p5, bnv_s, nI_1]
          exact go y5 ⟨oy5, iy5⟩
      simp only [jn_s]
      cases q : (wF (gW g) j).testBit 0 with
      | false =>
        rw [q] at last
        rw [if_pos (by decide)]
        exact last
      | true =>
        rw [q] at last
        rw [if_neg (by decide)]
        exact last
    · rintro s y ⟨oy, iy⟩
      have hl := sImg0_len (gW g) (kP (gK g))
      have hb : ∀ i, i < 2 + 5 * kP (gK g) → (sImg0 (gW g) (kP (gK g))).getD i 0 < 256 := fun i hi => sImg0_lt hk hw hy _ (Nat.le_refl _) _ (getD_mem (by omega))
      have cl := chkN_lt (fun i => (sImg0 (gW g) (kP (gK g))).getD i 0) (2 + 5 * kP (gK g))
      have ck := x_check (c := y) (h0 := h0) (n := 2 + 5 * kP (gK g)) (b := fun i => (sImg0 (gW g) (kP (gK g))).getD i 0) (k_out (B := B)) (by omega) (by decide) (fun i hi => oy.2 i (by omega)) hb
      obtain ⟨y2, p2, o2, j2⟩ := x_writes (B := B) (h0 := h0) oy (by omega) (v := chkN (fun i => (sImg0 (gW g) (kP (gK g))).getD i 0) (2 + 5 * kP (gK g))) (by omega)
      rw [Nat.mod_eq_of_lt (by omega)] at o2
      have o2 : cOc (sImg (gK g) (gW g)) y2 := o2
      have ln : (sImg (gK g) (gW g)).length = 3 + 5 * kP (gK g) := by
        show (sImg0 (gW g) (kP (gK g)) ++ [chkN (fun i => (sImg0 (gW g) (kP (gK g))).getD i 0) (2 + 5 * kP (gK g))]).length = _
        rw [List.length_append, hl]
        show 2 + 5 * kP (gK g) + 1 = _
        omega
      show Ok (fX0_image_L32 B _ s (nI (kP (gK g))) (mk B y h0)) _
      unfold fX0_image_L32
      rw [x0_cls, ckc_s, x_people (h1.q (by rw [iy.2])), bnd_s, if_pos (nI_le (Nat.le_refl _) (by omega))]
      dsimp only
      rw [x0_F19, vA_s, x0_F20, vI_s, oy.1, hl, ck, bnd_s, x0_cls, ckc_s, p2, bnv_s, x0_F20, vI_s, o2.1, ln]
      refine Ok.of ⟨rfl, y2, rfl, cIm.whole h (iy.tr j2) o2 (by rw [ln]; omega) (fun i hi => ?_)⟩
      rw [ln] at hi
      show (sImg0 (gW g) (kP (gK g)) ++ [chkN (fun i => (sImg0 (gW g) (kP (gK g))).getD i 0) (2 + 5 * kP (gK g))]).getD i 0 < 256
      rw [getD_app]
      split
      · omega
      · exact hb i (by omega)
  obtain ⟨⟨r, h'⟩, e, q1, c', q2, q3⟩ := fin
  have q2 : h' = mk B c' h0 := q2
  exact ⟨c', by rw [e, q2]; cases q1; rfl, q3⟩
end IM
