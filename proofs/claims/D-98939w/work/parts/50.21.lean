/-! PART 21: plain: products and sums read -/
set_option maxRecDepth 100000
section SN
variable {B N n : Nat} {b : Nat → Nat} {D : PD} {cap : Nat × Nat}
theorem chS.vt {lo : Nat} {h : PH} {p al ar ln sb ba lm k m : Nat} {cs : List Int32} (g : chS B N lo h p al ar ln sb ba lm k m cs) : vT (iv lo h.1) B (k + 1) h p cs := by
  obtain ⟨ads, sg, cc, w, w1, w2, w3⟩ := g
  rw [w3]
  exact w.vt w1 w2
theorem y_product {rS rB' : Nat → PH → Option ((Nat ⊕ Nat) × PH)} {S : Nat → RS (List Int32)} {d : Nat} {m5 : Int32} {x y k : Nat} (hx : x ≤ 30) (hy : y ≤ 1000) (hS : dS D 4 = .int 1) (hn : n ≤ 1600) (hp : rPg n b S) (A : vSp D cap B N n b (fX2_atom D cap rS rB') S d m5 (x + 7) (y + 80) k) :
    vSp D cap B N n b (fX2_product D cap rS rB') (rProd n b S) d m5 x y (k + 1) := by
  intro c h j hd ha hj h4 h5 r1 r2
  obtain ⟨h1, h2, n1, n2, n3, n4, n5, n6, n7⟩ := x_chNew (B := B) (D := D) (cap := cap) (c := c) hS hd.1 (by omega) (by omega)
  unfold fX2_product
  rw [n1, bnd_s, n2, bnv_s, r_cls, ckc_s]
  have hd2 := hd.gr n5 n4
  obtain ⟨c3, h3, v1, v2, v3, v4⟩ := A c h2 j hd2 ha hj h4 h5 (by omega) (by omega)
  have eS : rProd n b S j = sbd (S j) fun c e => rChain n b S opM (n + 1) c e := rfl
  rw [eS]
  cases qa : S j with
  | inl gg =>
    rw [qa] at v4
    obtain ⟨u1, u2, u3, u4⟩ := v4
    rw [u1, bnx_r, sbd_l]
    exact ⟨c3, h3, v1, n5.tr v2, v3, rfl, u2, by omega, by omega⟩
  | inr pp =>
    obtain ⟨cp, e2⟩ := pp
    rw [qa] at v4
    obtain ⟨px, u1, u2, u3, u4, u5, u6⟩ := v4
    obtain ⟨k1, k2⟩ := hp _ _ _ qa
    have k3 := sSk_ge n b j
    have hp14 : pCls (mk B c3 h3) h.1 = some 14 := by
      obtain ⟨⟨p1, p2⟩, p3, -⟩ := n3
      exact pCls_of (b := true) (by rw [mk_out (Or.inr (Or.inr hd.1.1)), v2.2.2 _ p2]; exact p3)
    obtain ⟨h4', ar', ba', ln', lm', w1, w2, w3, w4, w5, w6⟩ := ch_first (N := N) (c := c3) (D := D) (cap := cap) hS v3 hd.1.1 v2 n3 (show 42 = 42 ∨ 42 = 43 ∨ 42 = 45 ∨ 42 = 47 by omega) u4 (by omega) (by omega)
    rw [u1, bnx_l, hp14, ckc_s, show (42 : Int32) = nI 42 from rfl, w1, bnv_s, sbd_r]
    have g34 := v2.1
    have hd4 : rdS D B N h4' := ⟨w3, by have := hd.2.1; omega, hd.2.2.1, hd2.2.2.2.gr (fun a ha _ => by rw [w6 a (by have := hd.2.1; omega)]; exact v2.2.2 a (by have := hd.2.1; omega))⟩
    obtain ⟨wb1, wb2, -⟩ := chS_b w2
    obtain ⟨c5, h5', z1, z2, z3, z4, z5, z6⟩ := prod_L (p := h.1) (al := h.1 + 1) (sb := h.1 + 3) (lo := h.1) hS hd.1.1 hd.2.1 hn hp A (fun _ _ => none) (n + 1) c3 h4' e2 1 ar' ln' ba' lm' cp FU (FU_gt (by omega)) hd4 u3 k2 (by omega) u2 (by rw [v1.1 7 5 (by omega) (by decide)]; exact h5) w2 (by omega) (by omega) (by omega)
    have hgr : hGr h h5' := ⟨by have := n5.1; omega, by have := n5.2.1; have := v2.2.1; omega, fun a ha => by rw [z2 a ha, w6 a ha, v2.2.2 a (by omega), n5.2.2 a ha]⟩
    refine ⟨c5, h5', v1.tr z1, hgr, z5, ?_⟩
    cases qr : rChain n b S opM (n + 1) cp e2 with
    | inl gg =>
      rw [qr] at z6
      obtain ⟨t1, t2, t3, t4⟩ := z6
      exact ⟨t1, t2, by omega, by omega⟩
    | inr pp =>
      obtain ⟨cs', e⟩ := pp
      rw [qr] at z6
      obtain ⟨t1, t2, t3, ⟨m', ar2, ln2, ba2, lm2, t4, t5, t6⟩, t7⟩ := z6
      obtain ⟨tb1, tb2, -⟩ := chS_b t4
      exact ⟨h.1, t1, t2, t3, t4.vt, by omega, by omega⟩
def rSumX (n : Nat) (b : Nat → Nat) (S : Nat → RS (List Int32)) (j : Nat) : RS (List Int32) := sbd (S j) fun c e => rChain n b S opA (n + 1) c e
theorem y_sum {rS rB' : Nat → PH → Option ((Nat ⊕ Nat) × PH)} {S : Nat → RS (List Int32)} {d : Nat} {m5 : Int32} {x y k : Nat} (hx : x ≤ 30) (hy : y ≤ 1000) (hS : dS D 4 = .int 1) (hn : n ≤ 1600) (hp : rPg n b S) (A : vSp D cap B N n b (fX2_product D cap rS rB') S d m5 (x + 7) (y + 80) k) :
    vSp D cap B N n b (fX2_sum D cap rS rB') (rSumX n b S) d m5 x y (k + 1) := by
  intro c h j hd ha hj h4 h5 r1 r2
  obtain ⟨h1, h2, n1, n2, n3, n4, n5, n6, n7⟩ := x_chNew (B := B) (D := D) (cap := cap) (c := c) hS hd.1 (by omega) (by omega)
  unfold fX2_sum
  rw [n1, bnd_s, n2, bnv_s, r_cls, ckc_s]
  have hd2 := hd.gr n5 n4
  obtain ⟨c3, h3, v1, v2, v3, v4⟩ := A c h2 j hd2 ha hj h4 h5 (by omega) (by omega)
  have eS : rSumX n b S j = sbd (S j) fun c e => rChain n b S opA (n + 1) c e := rfl
  rw [eS]
  cases qa : S j with
  | inl gg =>
    rw [qa] at v4
    obtain ⟨u1, u2, u3, u4⟩ := v4
    rw [u1, bnx_r, sbd_l]
    exact ⟨c3, h3, v1, n5.tr v2, v3, rfl, u2, by omega, by omega⟩
  | inr pp =>
    obtain ⟨cp, e2⟩ := pp
    rw [qa] at v4
    obtain ⟨px, u1, u2, u3, u4, u5, u6⟩ := v4
    obtain ⟨k1, k2⟩ := hp _ _ _ qa
    have k3 := sSk_ge n b j
    have hp14 : pCls (mk B c3 h3) h.1 = some 14 := by
      obtain ⟨⟨p1, p2⟩, p3, -⟩ := n3
      exact pCls_of (b := true) (by rw [mk_out (Or.inr (Or.inr hd.1.1)), v2.2.2 _ p2]; exact p3)
    obtain ⟨h4', ar', ba', ln', lm', w1, w2, w3, w4, w5, w6⟩ := ch_first (N := N) (c := c3) (D := D) (cap := cap) hS v3 hd.1.1 v2 n3 (show 43 = 42 ∨ 43 = 43 ∨ 43 = 45 ∨ 43 = 47 by omega) u4 (by omega) (by omega)
    rw [u1, bnx_l, hp14, ckc_s, show (43 : Int32) = nI 43 from rfl, w1, bnv_s, sbd_r]
    have g34 := v2.1
    have hd4 : rdS D B N h4' := ⟨w3, by have := hd.2.1; omega, hd.2.2.1, hd2.2.2.2.gr (fun a ha _ => by rw [w6 a (by have := hd.2.1; omega)]; exact v2.2.2 a (by have := hd.2.1; omega))⟩
    obtain ⟨wb1, wb2, -⟩ := chS_b w2
    obtain ⟨c5, h5', z1, z2, z3, z4, z5, z6⟩ := sum_L (p := h.1) (al := h.1 + 1) (sb := h.1 + 3) (lo := h.1) hS hd.1.1 hd.2.1 hn hp A (fun _ _ => none) (n + 1) c3 h4' e2 1 ar' ln' ba' lm' cp FU (FU_gt (by omega)) hd4 u3 k2 (by omega) u2 (by rw [v1.1 7 5 (by omega) (by decide)]; exact h5) w2 (by omega) (by omega) (by omega)
    have hgr : hGr h h5' := ⟨by have := n5.1; omega, by have := n5.2.1; have := v2.2.1; omega, fun a ha => by rw [z2 a ha, w6 a ha, v2.2.2 a (by omega), n5.2.2 a ha]⟩
    refine ⟨c5, h5', v1.tr z1, hgr, z5, ?_⟩
    cases qr : rChain n b S opA (n + 1) cp e2 with
    | inl gg =>
      rw [qr] at z6
      obtain ⟨t1, t2, t3, t4⟩ := z6
      exact ⟨t1, t2, by omega, by omega⟩
    | inr pp =>
      obtain ⟨cs', e⟩ := pp
      rw [qr] at z6
      obtain ⟨t1, t2, t3, ⟨m', ar2, ln2, ba2, lm2, t4, t5, t6⟩, t7⟩ := z6
      obtain ⟨tb1, tb2, -⟩ := chS_b t4
      exact ⟨h.1, t1, t2, t3, t4.vt, by omega, by omega⟩
end SN
