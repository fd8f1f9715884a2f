/-! PART 38.c (printed by mkc.py) -/
set_option maxRecDepth 100000
theorem pcy_X6_init : pcY yX6_init cX6_init 1 none 0 := ⟨q1622, q157, ⟨by decide +kernel, by decide +kernel, by decide +kernel⟩, Nat.le_of_ble_eq_true rfl⟩
section CI
variable {l : Launch} {D : PD} {A : Nat → Prop} {cap : Nat × Nat} {d : Nat} {cc : ByteArray} {nL : Nat} {own : String} {ini : Bool} {rt : Option FieldType} {m : MethodId} {rv : Option Value} {h' : PH} {H0 : Heap} {cx sx : Heap → Nat} {Z : Heap → List Loc → Nat → Nat → JFrame → Prop}
variable {h : PH} {H : Heap} {locs : List Loc} {pc : Nat} {ls : Array Slot} {rest : List Value} {a ci k : Nat} {C : String} {T : u_T} {N : Nat} {ty : Nat → FieldType}
noncomputable def fX6_init_c27 (cap : Nat × Nat) (a0 : Nat) (h : PH) : Option PH :=
  ck (!decide ((1700 : Int32) < 0) && decide ((Int32.toNatClampNeg 1700) ≤ 100000)) <|
  bnd (pNew cap h (.inl (1, (Int32.toNatClampNeg 1700), .inr (.inl (fun _ => 0)))) (Int32.toNatClampNeg 1700)) fun p1 h1 =>
  bnv (pPut h1 a0 6 99 (.ref p1)) fun h2 =>
  ck (!decide ((43 : Int32) < 0) && decide ((Int32.toNatClampNeg 43) ≤ 100000)) <|
  bnd (pNew cap h2 (.inl (0, (Int32.toNatClampNeg 43), .inl (fun _ => 0))) (Int32.toNatClampNeg 43)) fun p2 h3 =>
  bnv (pPut h3 a0 6 103 (.ref p2)) fun h4 =>
  some h4
set_option maxHeartbeats 1000000 in
theorem kX6_init_c27 {a0 : Nat} (X : pX l D A cap 2 cX6_init 1 RX6 true none m none h' H0 cx sx Z) (hf : fX6_init_c27 cap a0 h = some h') (hM : PI D A cap H0 h H locs) (hl : lv_has ls 1 [(0, .ref a0)]) : Z H locs (cx H) (sx H) (F0 m 1744 ls []) := by
  unfold fX6_init_c27 at hf
  have G := X.g
  refine g_aload_n G dX6_init_1744 rfl (lv_at hl 0 rfl) ?_
  refine g_sipush (v := 1700) G dX6_init_1745 rfl ?_
  obtain ⟨b1, hf⟩ := ck_open hf
  obtain ⟨p1, h1, g1, hf⟩ := bnd_open hf
  refine p_newJ X hM b1 g1 dX6_init_1748 (fun H locs hM => ?_)
  obtain ⟨h2, g2, hf⟩ := bnv_open hf
  refine p_putF (k := 99) X hM pc_6 (by decide) q1723 rfl rfl rfl rfl rfl g2 dX6_init_1750 (fun H locs hM => ?_)
  refine g_aload_n G dX6_init_1753 rfl (lv_at hl 0 rfl) ?_
  refine g_bipush (v := 43) G dX6_init_1754 rfl ?_
  obtain ⟨b2, hf⟩ := ck_open hf
  obtain ⟨p2, h3, g3, hf⟩ := bnd_open hf
  refine p_newI X hM b2 g3 dX6_init_1756 (fun H locs hM => ?_)
  obtain ⟨h4, g4, hf⟩ := bnv_open hf
  refine p_putF (k := 103) X hM pc_6 (by decide) q1727 rfl rfl rfl rfl rfl g4 dX6_init_1758 (fun H locs hM => ?_)
  exact p_vret X hM hf dX6_init_1761
noncomputable def fX6_init_c26 (cap : Nat × Nat) (a0 : Nat) (h : PH) : Option PH :=
  ck (!decide ((4 : Int32) < 0) && decide ((Int32.toNatClampNeg 4) ≤ 100000)) <|
  bnd (pNew cap h (.inl (3, (Int32.toNatClampNeg 4), .inl (fun _ => 0))) (Int32.toNatClampNeg 4)) fun p1 h1 =>
  bnv (pSt h1 p1 3 0 (vp_nar .char 101)) fun h2 =>
  bnv (pSt h2 p1 3 1 (vp_nar .char 114)) fun h3 =>
  bnv (pSt h3 p1 3 2 (vp_nar .char 114)) fun h4 =>
  bnv (pSt h4 p1 3 3 (vp_nar .char 115)) fun h5 =>
  bnv (pPut h5 a0 6 91 (.ref p1)) fun h6 =>
  ck (!decide ((2 : Int32) < 0) && decide ((Int32.toNatClampNeg 2) ≤ 100000)) <|
  bnd (pNew cap h6 (.inl (3, (Int32.toNatClampNeg 2), .inl (fun _ => 0))) (Int32.toNatClampNeg 2)) fun p2 h7 =>
  bnv (pSt h7 p2 3 0 (vp_nar .char 98)) fun h8 =>
  bnv (pSt h8 p2 3 1 (vp_nar .char 121)) fun h9 =>
  bnv (pPut h9 a0 6 92 (.ref p2)) fun h10 =>
  ck (!decide ((1700 : Int32) < 0) && decide ((Int32.toNatClampNeg 1700) ≤ 100000)) <|
  bnd (pNew cap h10 (.inl (0, (Int32.toNatClampNeg 1700), .inl (fun _ => 0))) (Int32.toNatClampNeg 1700)) fun p3 h11 =>
  bnv (pPut h11 a0 6 93 (.ref p3)) fun h12 =>
  ck (!decide ((1700 : Int32) < 0) && decide ((Int32.toNatClampNeg 1700) ≤ 100000)) <|
  bnd (pNew cap h12 (.inl (0, (Int32.toNatClampNeg 1700), .inl (fun _ => 0))) (Int32.toNatClampNeg 1700)) fun p4 h13 =>
  bnv (pPut h13 a0 6 95 (.ref p4)) fun h14 =>
  fX6_init_c27 cap a0 h14
set_option maxHeartbeats 1000000 in
theorem kX6_init_c26 {a0 : Nat} (X : pX l D A cap 2 cX6_init 1 RX6 true none m none h' H0 cx sx Z) (hf : fX6_init_c26 cap a0 h = some h') (hM : PI D A cap H0 h H locs) (hl : lv_has ls 1 [(0, .ref a0)]) : Z H locs (cx H) (sx H) (F0 m 1682 ls []) := by
  unfold fX6_init_c26 at hf
  have G := X.g
  refine g_aload_n G dX6_init_1682 rfl (lv_at hl 0 rfl) ?_
  refine g_iconst (v := 4) G dX6_init_1683 rfl ?_
  obtain ⟨b1, hf⟩ := ck_open hf
  obtain ⟨p1, h1, g1, hf⟩ := bnd_open hf
  refine p_newC X hM b1 g1 dX6_init_1684 (fun H locs hM => ?_)
  refine g_dup G dX6_init_1686 rfl ?_
  refine g_iconst (v := 0) G dX6_init_1687 rfl ?_
  refine g_bipush (v := 101) G dX6_init_1688 rfl ?_
  obtain ⟨h2, g2, hf⟩ := bnv_open hf
  refine p_cast X hM g2 dX6_init_1690 (fun H locs hM => ?_)
  refine g_dup G dX6_init_1691 rfl ?_
  refine g_iconst (v := 1) G dX6_init_1692 rfl ?_
  refine g_bipush (v := 114) G dX6_init_1693 rfl ?_
  obtain ⟨h3, g3, hf⟩ := bnv_open hf
  refine p_cast X hM g3 dX6_init_1695 (fun H locs hM => ?_)
  refine g_dup G dX6_init_1696 rfl ?_
  refine g_iconst (v := 2) G dX6_init_1697 rfl ?_
  refine g_bipush (v := 114) G dX6_init_1698 rfl ?_
  obtain ⟨h4, g4, hf⟩ := bnv_open hf
  refine p_cast X hM g4 dX6_init_1700 (fun H locs hM => ?_)
  refine g_dup G dX6_init_1701 rfl ?_
  refine g_iconst (v := 3) G dX6_init_1702 rfl ?_
  refine g_bipush (v := 115) G dX6_init_1703 rfl ?_
  obtain ⟨h5, g5, hf⟩ := bnv_open hf
  refine p_cast X hM g5 dX6_init_1705 (fun H locs hM => ?_)
  obtain ⟨h6, g6, hf⟩ := bnv_open hf
  refine p_putF (k := 91) X hM pc_6 (by decide) q1715 rfl rfl rfl rfl rfl g6 dX6_init_1706 (fun H locs hM => ?_)
  refine g_aload_n G dX6_init_1709 rfl (lv_at hl 0 rfl) ?_
  refine g_iconst (v := 2) G dX6_init_1710 rfl ?_
  obtain ⟨b2, hf⟩ := ck_open hf
  obtain ⟨p2, h7, g7, hf⟩ := bnd_open hf
  refine p_newC X hM b2 g7 dX6_init_1711 (fun H locs hM => ?_)
  refine g_dup G dX6_init_1713 rfl ?_
  refine g_iconst (v := 0) G dX6_init_1714 rfl ?_
  refine g_bipush (v := 98) G dX6_init_1715 rfl ?_
  obtain ⟨h8, g8, hf⟩ := bnv_open hf
  refine p_cast X hM g8 dX6_init_1717 (fun H locs hM => ?_)
  refine g_dup G dX6_init_1718 rfl ?_
  refine g_iconst (v := 1) G dX6_init_1719 rfl ?_
  refine g_bipush (v := 121) G dX6_init_1720 rfl ?_
  obtain ⟨h9, g9, hf⟩ := bnv_open hf
  refine p_cast X hM g9 dX6_init_1722 (fun H locs hM => ?_)
  obtain ⟨h10, g10, hf⟩ := bnv_open hf
  refine p_putF (k := 92) X hM pc_6 (by decide) q1716 rfl rfl rfl rfl rfl g10 dX6_init_1723 (fun H locs hM => ?_)
  refine g_aload_n G dX6_init_1726 rfl (lv_at hl 0 rfl) ?_
  refine g_sipush (v := 1700) G dX6_init_1727 rfl ?_
  obtain ⟨b3, hf⟩ := ck_open hf
  obtain ⟨p3, h11, g11, hf⟩ := bnd_open hf
  refine p_newI X hM b3 g11 dX6_init_1730 (fun H locs hM => ?_)
  obtain ⟨h12, g12, hf⟩ := bnv_open hf
  refine p_putF (k := 93) X hM pc_6 (by decide) q1717 rfl rfl rfl rfl rfl g12 dX6_init_1732 (fun H locs hM => ?_)
  refine g_aload_n G dX6_init_1735 rfl (lv_at hl 0 rfl) ?_
  refine g_sipush (v := 1700) G dX6_init_1736 rfl ?_
  obtain ⟨b4, hf⟩ := ck_open hf
  obtain ⟨p4, h13, g13, hf⟩ := bnd_open hf
  refine p_newI X hM b4 g13 dX6_init_1739 (fun H locs hM => ?_)
  obtain ⟨h14, g14, hf⟩ := bnv_open hf
  refine p_putF (k := 95) X hM pc_6 (by decide) q1719 rfl rfl rfl rfl rfl g14 dX6_init_1741 (fun H locs hM => ?_)
  exact kX6_init_c27 X hf hM hl
noncomputable def fX6_init_c25 (cap : Nat × Nat) (a0 : Nat) (h : PH) : Option PH :=
  ck (!decide ((6 : Int32) < 0) && decide ((Int32.toNatClampNeg 6) ≤ 100000)) <|
  bnd (pNew cap h (.inl (3, (Int32.toNatClampNeg 6), .inl (fun _ => 0))) (Int32.toNatClampNeg 6)) fun p1 h1 =>
  bnv (pSt h1 p1 3 0 (vp_nar .char 110)) fun h2 =>
  bnv (pSt h2 p1 3 1 (vp_nar .char 117)) fun h3 =>
  bnv (pSt h3 p1 3 2 (vp_nar .char 109)) fun h4 =>
  bnv (pSt h4 p1 3 3 (vp_nar .char 98)) fun h5 =>
  bnv (pSt h5 p1 3 4 (vp_nar .char 101)) fun h6 =>
  bnv (pSt h6 p1 3 5 (vp_nar .char 114)) fun h7 =>
  bnv (pPut h7 a0 6 89 (.ref p1)) fun h8 =>
  ck (!decide ((5 : Int32) < 0) && decide ((Int32.toNatClampNeg 5) ≤ 100000)) <|
  bnd (pNew cap h8 (.inl (3, (Int32.toNatClampNeg 5), .inl (fun _ => 0))) (Int32.toNatClampNeg 5)) fun p2 h9 =>
  bnv (pSt h9 p2 3 0 (vp_nar .char 107)) fun h10 =>
  bnv (pSt h10 p2 3 1 (vp_nar .char 110)) fun h11 =>
  bnv (pSt h11 p2 3 2 (vp_nar .char 111)) fun h12 =>
  bnv (pSt h12 p2 3 3 (vp_nar .char 119)) fun h13 =>
  bnv (pSt h13 p2 3 4 (vp_nar .char 115)) fun h14 =>
  bnv (pPut h14 a0 6 90 (.ref p2)) fun h15 =>
  fX6_init_c26 cap a0 h15
set_option maxHeartbeats 1000000 in
theorem kX6_init_c25 {a0 : Nat} (X : pX l D A cap 2 cX6_init 1 RX6 true none m none h' H0 cx sx Z) (hf : fX6_init_c25 cap a0 h = some h') (hM : PI D A cap H0 h H locs) (hl : lv_has ls 1 [(0, .ref a0)]) : Z H locs (cx H) (sx H) (F0 m 1612 ls []) := by
  unfold fX6_init_c25 at hf
  have G := X.g
  refine g_aload_n G dX6_init_1612 rfl (lv_at hl 0 rfl) ?_
  refine g_bipush (v := 6) G dX6_init_1613 rfl ?_
  obtain ⟨b1, hf⟩ := ck_open hf
  obtain ⟨p1, h1, g1, hf⟩ := bnd_open hf
  refine p_newC X hM b1 g1 dX6_init_1615 (fun H locs hM => ?_)
  refine g_dup G dX6_init_1617 rfl ?_
  refine g_iconst (v := 0) G dX6_init_1618 rfl ?_
  refine g_bipush (v := 110) G dX6_init_1619 rfl ?_
  obtain ⟨h2, g2, hf⟩ := bnv_open hf
  refine p_cast X hM g2 dX6_init_1621 (fun H locs hM => ?_)
  refine g_dup G dX6_init_1622 rfl ?_
  refine g_iconst (v := 1) G dX6_init_1623 rfl ?_
  refine g_bipush (v := 117) G dX6_init_1624 rfl ?_
  obtain ⟨h3, g3, hf⟩ := bnv_open hf
  refine p_cast X hM g3 dX6_init_1626 (fun H locs hM => ?_)
  refine g_dup G dX6_init_1627 rfl ?_
  refine g_iconst (v := 2) G dX6_init_1628 rfl ?_
  refine g_bipush (v := 109) G dX6_init_1629 rfl ?_
  obtain ⟨h4, g4, hf⟩ := bnv_open hf
  refine p_cast X hM g4 dX6_init_1631 (fun H locs hM => ?_)
  refine g_dup G dX6_init_1632 rfl ?_
  refine g_iconst (v := 3) G dX6_init_1633 rfl ?_
  refine g_bipush (v := 98) G dX6_init_1634 rfl ?_
  obtain ⟨h5, g5, hf⟩ := bnv_open hf
  refine p_cast X hM g5 dX6_init_1636 (fun H locs hM => ?_)
  refine g_dup G dX6_init_1637 rfl ?_
  refine g_iconst (v := 4) G dX6_init_1638 rfl ?_
  refine g_bipush (v := 101) G dX6_init_1639 rfl ?_
  obtain ⟨h6, g6, hf⟩ := bnv_open hf
  refine p_cast X hM g6 dX6_init_1641 (fun H locs hM => ?_)
  refine g_dup G dX6_init_1642 rfl ?_
  refine g_iconst (v := 5) G dX6_init_1643 rfl ?_
  refine g_bipush (v := 114) G dX6_init_1644 rfl ?_
  obtain ⟨h7, g7, hf⟩ := bnv_open hf
  refine p_cast X hM g7 dX6_init_1646 (fun H locs hM => ?_)
  obtain ⟨h8, g8, hf⟩ := bnv_open hf
  refine p_putF (k := 89) X hM pc_6 (by decide) q1713 rfl rfl rfl rfl rfl g8 dX6_init_1647 (fun H locs hM => ?_)
  refine g_aload_n G dX6_init_1650 rfl (lv_at hl 0 rfl) ?_
  refine g_iconst (v := 5) G dX6_init_1651 rfl ?_
  obtain ⟨b2, hf⟩ := ck_open hf
  obtain ⟨p2, h9, g9, hf⟩ := bnd_open hf
  refine p_newC X hM b2 g9 dX6_init_1652 (fun H locs hM => ?_)
  refine g_dup G dX6_init_1654 rfl ?_
  refine g_iconst (v := 0) G dX6_init_1655 rfl ?_
  refine g_bipush (v := 107) G dX6_init_1656 rfl ?_
  obtain ⟨h10, g10, hf⟩ := bnv_open hf
  refine p_cast X hM g10 dX6_init_1658 (fun H locs hM => ?_)
  refine g_dup G dX6_init_1659 rfl ?_
  refine g_iconst (v := 1) G dX6_init_1660 rfl ?_
  refine g_bipush (v := 110) G dX6_init_1661 rfl ?_
  obtain ⟨h11, g11, hf⟩ := bnv_open hf
  refine p_cast X hM g11 dX6_init_1663 (fun H locs hM => ?_)
  refine g_dup G dX6_init_1664 rfl ?_
  refine g_iconst (v := 2) G dX6_init_1665 rfl ?_
  refine g_bipush (v := 111) G dX6_init_1666 rfl ?_
  obtain ⟨h12, g12, hf⟩ := bnv_open hf
  refine p_cast X hM g12 dX6_init_1668 (fun H locs hM => ?_)
  refine g_dup G dX6_init_1669 rfl ?_
  refine g_iconst (v := 3) G dX6_init_1670 rfl ?_
  refine g_bipush (v := 119) G dX6_init_1671 rfl ?_
  obtain ⟨h13, g13, hf⟩ := bnv_open hf
  refine p_cast X hM g13 dX6_init_1673 (fun H locs hM => ?_)
  refine g_dup G dX6_init_1674 rfl ?_
  refine g_iconst (v := 4) G dX6_init_1675 rfl ?_
  refine g_bipush (v := 115) G dX6_init_1676 rfl ?_
  obtain ⟨h14, g14, hf⟩ := bnv_open hf
  refine p_cast X hM g14 dX6_init_1678 (fun H locs hM => ?_)
  obtain ⟨h15, g15, hf⟩ := bnv_open hf
  refine p_putF (k := 90) X hM pc_6 (by decide) q1714 rfl rfl rfl rfl rfl g15 dX6_init_1679 (fun H locs hM => ?_)
  exact kX6_init_c26 X hf hM hl
noncomputable def fX6_init_c24 (cap : Nat × Nat) (a0 : Nat) (h : PH) : Option PH :=
  ck (!decide ((4 : Int32) < 0) && decide ((Int32.toNatClampNeg 4) ≤ 100000)) <|
  bnd (pNew cap h (.inl (3, (Int32.toNatClampNeg 4), .inl (fun _ => 0))) (Int32.toNatClampNeg 4)) fun p1 h1 =>
  bnv (pSt h1 p1 3 0 (vp_nar .char 108)) fun h2 =>
  bnv (pSt h2 p1 3 1 (vp_nar .char 101)) fun h3 =>
  bnv (pSt h3 p1 3 2 (vp_nar .char 102)) fun h4 =>
  bnv (pSt h4 p1 3 3 (vp_nar .char 116)) fun h5 =>
  bnv (pPut h5 a0 6 87 (.ref p1)) fun h6 =>
  ck (!decide ((5 : Int32) < 0) && decide ((Int32.toNatClampNeg 5) ≤ 100000)) <|
  bnd (pNew cap h6 (.inl (3, (Int32.toNatClampNeg 5), .inl (fun _ => 0))) (Int32.toNatClampNeg 5)) fun p2 h7 =>
  bnv (pSt h7 p2 3 0 (vp_nar .char 109)) fun h8 =>
  bnv (pSt h8 p2 3 1 (vp_nar .char 97)) fun h9 =>
  bnv (pSt h9 p2 3 2 (vp_nar .char 114)) fun h10 =>
  bnv (pSt h10 p2 3 3 (vp_nar .char 107)) fun h11 =>
  bnv (pSt h11 p2 3 4 (vp_nar .char 115)) fun h12 =>
  bnv (pPut h12 a0 6 88 (.ref p2)) fun h13 =>
  fX6_init_c25 cap a0 h13
set_option maxHeartbeats 1000000 in
theorem kX6_init_c24 {a0 : Nat} (X : pX l D A cap 2 cX6_init 1 RX6 true none m none h' H0 cx sx Z) (hf : fX6_init_c24 cap a0 h = some h') (hM : PI D A cap H0 h H locs) (hl : lv_has ls 1 [(0, .ref a0)]) : Z H locs (cx H) (sx H) (F0 m 1553 ls []) := by
  unfold fX6_init_c24 at hf
  have G := X.g
  refine g_aload_n G dX6_init_1553 rfl (lv_at hl 0 rfl) ?_
  refine g_iconst (v := 4) G dX6_init_1554 rfl ?_
  obtain ⟨b1, hf⟩ := ck_open hf
  obtain ⟨p1, h1, g1, hf⟩ := bnd_open hf
  refine p_newC X hM b1 g1 dX6_init_1555 (fun H locs hM => ?_)
  refine g_dup G dX6_init_1557 rfl ?_
  refine g_iconst (v := 0) G dX6_init_1558 rfl ?_
  refine g_bipush (v := 108) G dX6_init_1559 rfl ?_
  obtain ⟨h2, g2, hf⟩ := bnv_open hf
  refine p_cast X hM g2 dX6_init_1561 (fun H locs hM => ?_)
  refine g_dup G dX6_init_1562 rfl ?_
  refine g_iconst (v := 1) G dX6_init_1563 rfl ?_
  refine g_bipush (v := 101) G dX6_init_1564 rfl ?_
  obtain ⟨h3, g3, hf⟩ := bnv_open hf
  refine p_cast X hM g3 dX6_init_1566 (fun H locs hM => ?_)
  refine g_dup G dX6_init_1567 rfl ?_
  refine g_iconst (v := 2) G dX6_init_1568 rfl ?_
  refine g_bipush (v := 102) G dX6_init_1569 rfl ?_
  obtain ⟨h4, g4, hf⟩ := bnv_open hf
  refine p_cast X hM g4 dX6_init_1571 (fun H locs hM => ?_)
  refine g_dup G dX6_init_1572 rfl ?_
  refine g_iconst (v := 3) G dX6_init_1573 rfl ?_
  refine g_bipush (v := 116) G dX6_init_1574 rfl ?_
  obtain ⟨h5, g5, hf⟩ := bnv_open hf
  refine p_cast X hM g5 dX6_init_1576 (fun H locs hM => ?_)
  obtain ⟨h6, g6, hf⟩ := bnv_open hf
  refine p_putF (k := 87) X hM pc_6 (by decide) q1711 rfl rfl rfl rfl rfl g6 dX6_init_1577 (fun H locs hM => ?_)
  refine g_aload_n G dX6_init_1580 rfl (lv_at hl 0 rfl) ?_
  refine g_iconst (v := 5) G dX6_init_1581 rfl ?_
  obtain ⟨b2, hf⟩ := ck_open hf
  obtain ⟨p2, h7, g7, hf⟩ := bnd_open hf
  refine p_newC X hM b2 g7 dX6_init_1582 (fun H locs hM => ?_)
  refine g_dup G dX6_init_1584 rfl ?_
  refine g_iconst (v := 0) G dX6_init_1585 rfl ?_
  refine g_bipush (v := 109) G dX6_init_1586 rfl ?_
  obtain ⟨h8, g8, hf⟩ := bnv_open hf
  refine p_cast X hM g8 dX6_init_1588 (fun H locs hM => ?_)
  refine g_dup G dX6_init_1589 rfl ?_
  refine g_iconst (v := 1) G dX6_init_1590 rfl ?_
  refine g_bipush (v := 97) G dX6_init_1591 rfl ?_
  obtain ⟨h9, g9, hf⟩ := bnv_open hf
  refine p_cast X hM g9 dX6_init_1593 (fun H locs hM => ?_)
  refine g_dup G dX6_init_1594 rfl ?_
  refine g_iconst (v := 2) G dX6_init_1595 rfl ?_
  refine g_bipush (v := 114) G dX6_init_1596 rfl ?_
  obtain ⟨h10, g10, hf⟩ := bnv_open hf
  refine p_cast X hM g10 dX6_init_1598 (fun H locs hM => ?_)
  refine g_dup G dX6_init_1599 rfl ?_
  refine g_iconst (v := 3) G dX6_init_1600 rfl ?_
  refine g_bipush (v := 107) G dX6_init_1601 rfl ?_
  obtain ⟨h11, g11, hf⟩ := bnv_open hf
  refine p_cast X hM g11 dX6_init_1603 (fun H locs hM => ?_)
  refine g_dup G dX6_init_1604 rfl ?_
  refine g_iconst (v := 4) G dX6_init_1605 rfl ?_
  refine g_bipush (v := 115) G dX6_init_1606 rfl ?_
  obtain ⟨h12, g12, hf⟩ := bnv_open hf
  refine p_cast X hM g12 dX6_init_1608 (fun H locs hM => ?_)
  obtain ⟨h13, g13, hf⟩ := bnv_open hf
  refine p_putF (k := 88) X hM pc_6 (by decide) q1712 rfl rfl rfl rfl rfl g13 dX6_init_1609 (fun H locs hM => ?_)
  exact kX6_init_c25 X hf hM hl
noncomputable def fX6_init_c23 (cap : Nat × Nat) (a0 : Nat) (h : PH) : Option PH :=
  ck (!decide ((5 : Int32) < 0) && decide ((Int32.toNatClampNeg 5) ≤ 100000)) <|
  bnd (pNew cap h (.inl (3, (Int32.toNatClampNeg 5), .inl (fun _ => 0))) (Int32.toNatClampNeg 5)) fun p1 h1 =>
  bnv (pSt h1 p1 3 0 (vp_nar .char 99)) fun h2 =>
  bnv (pSt h2 p1 3 1 (vp_nar .char 108)) fun h3 =>
  bnv (pSt h3 p1 3 2 (vp_nar .char 97)) fun h4 =>
  bnv (pSt h4 p1 3 3 (vp_nar .char 115)) fun h5 =>
  bnv (pSt h5 p1 3 4 (vp_nar .char 115)) fun h6 =>
  bnv (pPut h6 a0 6 85 (.ref p1)) fun h7 =>
  ck (!decide ((5 : Int32) < 0) && decide ((Int32.toNatClampNeg 5) ≤ 100000)) <|
  bnd (pNew cap h7 (.inl (3, (Int32.toNatClampNeg 5), .inl (fun _ => 0))) (Int32.toNatClampNeg 5)) fun p2 h8 =>
  bnv (pSt h8 p2 3 0 (vp_nar .char 109)) fun h9 =>
  bnv (pSt h9 p2 3 1 (vp_nar .char 99)) fun h10 =>
  bnv (pSt h10 p2 3 2 (vp_nar .char 97)) fun h11 =>
  bnv (pSt h11 p2 3 3 (vp_nar .char 108)) fun h12 =>
  bnv (pSt h12 p2 3 4 (vp_nar .char 109)) fun h13 =>
  bnv (pPut h13 a0 6 86 (.ref p2)) fun h14 =>
  fX6_init_c24 cap a0 h14
set_option maxHeartbeats 1000000 in
theorem kX6_init_c23 {a0 : Nat} (X : pX l D A cap 2 cX6_init 1 RX6 true none m none h' H0 cx sx Z) (hf : fX6_init_c23 cap a0 h = some h') (hM : PI D A cap H0 h H locs) (hl : lv_has ls 1 [(0, .ref a0)]) : Z H locs (cx H) (sx H) (F0 m 1489 ls []) := by
  unfold fX6_init_c23 at hf
  have G := X.g
  refine g_aload_n G dX6_init_1489 rfl (lv_at hl 0 rfl) ?_
  refine g_iconst (v := 5) G dX6_init_1490 rfl ?_
  obtain ⟨b1, hf⟩ := ck_open hf
  obtain ⟨p1, h1, g1, hf⟩ := bnd_open hf
  refine p_newC X hM b1 g1 dX6_init_1491 (fun H locs hM => ?_)
  refine g_dup G dX6_init_1493 rfl ?_
  refine g_iconst (v := 0) G dX6_init_1494 rfl ?_
  refine g_bipush (v := 99) G dX6_init_1495 rfl ?_
  obtain ⟨h2, g2, hf⟩ := bnv_open hf
  refine p_cast X hM g2 dX6_init_1497 (fun H locs hM => ?_)
  refine g_dup G dX6_init_1498 rfl ?_
  refine g_iconst (v := 1) G dX6_init_1499 rfl ?_
  refine g_bipush (v := 108) G dX6_init_1500 rfl ?_
  obtain ⟨h3, g3, hf⟩ := bnv_open hf
  refine p_cast X hM g3 dX6_init_1502 (fun H locs hM => ?_)
  refine g_dup G dX6_init_1503 rfl ?_
  refine g_iconst (v := 2) G dX6_init_1504 rfl ?_
  refine g_bipush (v := 97) G dX6_init_1505 rfl ?_
  obtain ⟨h4, g4, hf⟩ := bnv_open hf
  refine p_cast X hM g4 dX6_init_1507 (fun H locs hM => ?_)
  refine g_dup G dX6_init_1508 rfl ?_
  refine g_iconst (v := 3) G dX6_init_1509 rfl ?_
  refine g_bipush (v := 115) G dX6_init_1510 rfl ?_
  obtain ⟨h5, g5, hf⟩ := bnv_open hf
  refine p_cast X hM g5 dX6_init_1512 (fun H locs hM => ?_)
  refine g_dup G dX6_init_1513 rfl ?_
  refine g_iconst (v := 4) G dX6_init_1514 rfl ?_
  refine g_bipush (v := 115) G dX6_init_1515 rfl ?_
  obtain ⟨h6, g6, hf⟩ := bnv_open hf
  refine p_cast X hM g6 dX6_init_1517 (fun H locs hM => ?_)
  obtain ⟨h7, g7, hf⟩ := bnv_open hf
  refine p_putF (k := 85) X hM pc_6 (by decide) q1709 rfl rfl rfl rfl rfl g7 dX6_init_1518 (fun H locs hM => ?_)
  refine g_aload_n G dX6_init_1521 rfl (lv_at hl 0 rfl) ?_
  refine g_iconst (v := 5) G dX6_init_1522 rfl ?_
  obtain ⟨b2, hf⟩ := ck_open hf
  obtain ⟨p2, h8, g8, hf⟩ := bnd_open hf
  refine p_newC X hM b2 g8 dX6_init_1523 (fun H locs hM => ?_)
  refine g_dup G dX6_init_1525 rfl ?_
  refine g_iconst (v := 0) G dX6_init_1526 rfl ?_
  refine g_bipush (v := 109) G dX6_init_1527 rfl ?_
  obtain ⟨h9, g9, hf⟩ := bnv_open hf
  refine p_cast X hM g9 dX6_init_1529 (fun H locs hM => ?_)
  refine g_dup G dX6_init_1530 rfl ?_
  refine g_iconst (v := 1) G dX6_init_1531 rfl ?_
  refine g_bipush (v := 99) G dX6_init_1532 rfl ?_
  obtain ⟨h10, g10, hf⟩ := bnv_open hf
  refine p_cast X hM g10 dX6_init_1534 (fun H locs hM => ?_)
  refine g_dup G dX6_init_1535 rfl ?_
  refine g_iconst (v := 2) G dX6_init_1536 rfl ?_
  refine g_bipush (v := 97) G dX6_init_1537 rfl ?_
  obtain ⟨h11, g11, hf⟩ := bnv_open hf
  refine p_cast X hM g11 dX6_init_1539 (fun H locs hM => ?_)
  refine g_dup G dX6_init_1540 rfl ?_
  refine g_iconst (v := 3) G dX6_init_1541 rfl ?_
  refine g_bipush (v := 108) G dX6_init_1542 rfl ?_
  obtain ⟨h12, g12, hf⟩ := bnv_open hf
  refine p_cast X hM g12 dX6_init_1544 (fun H locs hM => ?_)
  refine g_dup G dX6_init_1545 rfl ?_
  refine g_iconst (v := 4) G dX6_init_1546 rfl ?_
  refine g_bipush (v := 109) G dX6_init_1547 rfl ?_
  obtain ⟨h13, g13, hf⟩ := bnv_open hf
  refine p_cast X hM g13 dX6_init_1549 (fun H locs hM => ?_)
  obtain ⟨h14, g14, hf⟩ := bnv_open hf
  refine p_putF (k := 86) X hM pc_6 (by decide) q1710 rfl rfl rfl rfl rfl g14 dX6_init_1550 (fun H locs hM => ?_)
  exact kX6_init_c24 X hf hM hl
noncomputable def fX6_init_c22 (cap : Nat × Nat) (a0 : Nat) (h : PH) : Option PH :=
  ck (!decide ((4 : Int32) < 0) && decide ((Int32.toNatClampNeg 4) ≤ 100000)) <|
  bnd (pNew cap h (.inl (3, (Int32.toNatClampNeg 4), .inl (fun _ => 0))) (Int32.toNatClampNeg 4)) fun p1 h1 =>
  bnv (pSt h1 p1 3 0 (vp_nar .char 121)) fun h2 =>
  bnv (pSt h2 p1 3 1 (vp_nar .char 101)) fun h3 =>
  bnv (pSt h3 p1 3 2 (vp_nar .char 97)) fun h4 =>
  bnv (pSt h4 p1 3 3 (vp_nar .char 114)) fun h5 =>
  bnv (pPut h5 a0 6 83 (.ref p1)) fun h6 =>
  ck (!decide ((5 : Int32) < 0) && decide ((Int32.toNatClampNeg 5) ≤ 100000)) <|
  bnd (pNew cap h6 (.inl (3, (Int32.toNatClampNeg 5), .inl (fun _ => 0))) (Int32.toNatClampNeg 5)) fun p2 h7 =>
  bnv (pSt h7 p2 3 0 (vp_nar .char 119)) fun h8 =>
  bnv (pSt h8 p2 3 1 (vp_nar .char 111)) fun h9 =>
  bnv (pSt h9 p2 3 2 (vp_nar .char 114)) fun h10 =>
  bnv (pSt h10 p2 3 3 (vp_nar .char 116)) fun h11 =>
  bnv (pSt h11 p2 3 4 (vp_nar .char 104)) fun h12 =>
  bnv (pPut h12 a0 6 84 (.ref p2)) fun h13 =>
  fX6_init_c23 cap a0 h13
set_option maxHeartbeats 1000000 in
theorem kX6_init_c22 {a0 : Nat} (X : pX l D A cap 2 cX6_init 1 RX6 true none m none h' H0 cx sx Z) (hf : fX6_init_c22 cap a0 h = some h') (hM : PI D A cap H0 h H locs) (hl : lv_has ls 1 [(0, .ref a0)]) : Z H locs (cx H) (sx H) (F0 m 1430 ls []) := by
  unfold fX6_init_c22 at hf
  have G := X.g
  refine g_aload_n G dX6_init_1430 rfl (lv_at hl 0 rfl) ?_
  refine g_iconst (v := 4) G dX6_init_1431 rfl ?_
  obtain ⟨b1, hf⟩ := ck_open hf
  obtain ⟨p1, h1, g1, hf⟩ := bnd_open hf
  refine p_newC X hM b1 g1 dX6_init_1432 (fun H locs hM => ?_)
  refine g_dup G dX6_init_1434 rfl ?_
  refine g_iconst (v := 0) G dX6_init_1435 rfl ?_
  refine g_bipush (v := 121) G dX6_init_1436 rfl ?_
  obtain ⟨h2, g2, hf⟩ := bnv_open hf
  refine p_cast X hM g2 dX6_init_1438 (fun H locs hM => ?_)
  refine g_dup G dX6_init_1439 rfl ?_
  refine g_iconst (v := 1) G dX6_init_1440 rfl ?_
  refine g_bipush (v := 101) G dX6_init_1441 rfl ?_
  obtain ⟨h3, g3, hf⟩ := bnv_open hf
  refine p_cast X hM g3 dX6_init_1443 (fun H locs hM => ?_)
  refine g_dup G dX6_init_1444 rfl ?_
  refine g_iconst (v := 2) G dX6_init_1445 rfl ?_
  refine g_bipush (v := 97) G dX6_init_1446 rfl ?_
  obtain ⟨h4, g4, hf⟩ := bnv_open hf
  refine p_cast X hM g4 dX6_init_1448 (fun H locs hM => ?_)
  refine g_dup G dX6_init_1449 rfl ?_
  refine g_iconst (v := 3) G dX6_init_1450 rfl ?_
  refine g_bipush (v := 114) G dX6_init_1451 rfl ?_
  obtain ⟨h5, g5, hf⟩ := bnv_open hf
  refine p_cast X hM g5 dX6_init_1453 (fun H locs hM => ?_)
  obtain ⟨h6, g6, hf⟩ := bnv_open hf
  refine p_putF (k := 83) X hM pc_6 (by decide) q1707 rfl rfl rfl rfl rfl g6 dX6_init_1454 (fun H locs hM => ?_)
  refine g_aload_n G dX6_init_1457 rfl (lv_at hl 0 rfl) ?_
  refine g_iconst (v := 5) G dX6_init_1458 rfl ?_
  obtain ⟨b2, hf⟩ := ck_open hf
  obtain ⟨p2, h7, g7, hf⟩ := bnd_open hf
  refine p_newC X hM b2 g7 dX6_init_1459 (fun H locs hM => ?_)
  refine g_dup G dX6_init_1461 rfl ?_
  refine g_iconst (v := 0) G dX6_init_1462 rfl ?_
  refine g_bipush (v := 119) G dX6_init_1463 rfl ?_
  obtain ⟨h8, g8, hf⟩ := bnv_open hf
  refine p_cast X hM g8 dX6_init_1465 (fun H locs hM => ?_)
  refine g_dup G dX6_init_1466 rfl ?_
  refine g_iconst (v := 1) G dX6_init_1467 rfl ?_
  refine g_bipush (v := 111) G dX6_init_1468 rfl ?_
  obtain ⟨h9, g9, hf⟩ := bnv_open hf
  refine p_cast X hM g9 dX6_init_1470 (fun H locs hM => ?_)
  refine g_dup G dX6_init_1471 rfl ?_
  refine g_iconst (v := 2) G dX6_init_1472 rfl ?_
  refine g_bipush (v := 114) G dX6_init_1473 rfl ?_
  obtain ⟨h10, g10, hf⟩ := bnv_open hf
  refine p_cast X hM g10 dX6_init_1475 (fun H locs hM => ?_)
  refine g_dup G dX6_init_1476 rfl ?_
  refine g_iconst (v := 3) G dX6_init_1477 rfl ?_
  refine g_bipush (v := 116) G dX6_init_1478 rfl ?_
  obtain ⟨h11, g11, hf⟩ := bnv_open hf
  refine p_cast X hM g11 dX6_init_1480 (fun H locs hM => ?_)
  refine g_dup G dX6_init_1481 rfl ?_
  refine g_iconst (v := 4) G dX6_init_1482 rfl ?_
  refine g_bipush (v := 104) G dX6_init_1483 rfl ?_
  obtain ⟨h12, g12, hf⟩ := bnv_open hf
  refine p_cast X hM g12 dX6_init_1485 (fun H locs hM => ?_)
  obtain ⟨h13, g13, hf⟩ := bnv_open hf
  refine p_putF (k := 84) X hM pc_6 (by decide) q1708 rfl rfl rfl rfl rfl g13 dX6_init_1486 (fun H locs hM => ?_)
  exact kX6_init_c23 X hf hM hl
noncomputable def fX6_init_c21 (cap : Nat × Nat) (a0 : Nat) (h : PH) : Option PH :=
  ck (!decide ((5 : Int32) < 0) && decide ((Int32.toNatClampNeg 5) ≤ 100000)) <|
  bnd (pNew cap h (.inl (3, (Int32.toNatClampNeg 5), .inl (fun _ => 0))) (Int32.toNatClampNeg 5)) fun p1 h1 =>
  bnv (pSt h1 p1 3 0 (vp_nar .char 114)) fun h2 =>
  bnv (pSt h2 p1 3 1 (vp_nar .char 105)) fun h3 =>
  bnv (pSt h3 p1 3 2 (vp_nar .char 103)) fun h4 =>
  bnv (pSt h4 p1 3 3 (vp_nar .char 104)) fun h5 =>
  bnv (pSt h5 p1 3 4 (vp_nar .char 116)) fun h6 =>
  bnv (pPut h6 a0 6 81 (.ref p1)) fun h7 =>
  ck (!decide ((5 : Int32) < 0) && decide ((Int32.toNatClampNeg 5) ≤ 100000)) <|
  bnd (pNew cap h7 (.inl (3, (Int32.toNatClampNeg 5), .inl (fun _ => 0))) (Int32.toNatClampNeg 5)) fun p2 h8 =>
  bnv (pSt h8 p2 3 0 (vp_nar .char 119)) fun h9 =>
  bnv (pSt h9 p2 3 1 (vp_nar .char 114)) fun h10 =>
  bnv (pSt h10 p2 3 2 (vp_nar .char 111)) fun h11 =>
  bnv (pSt h11 p2 3 3 (vp_nar .char 110)) fun h12 =>
  bnv (pSt h12 p2 3 4 (vp_nar .char 103)) fun h13 =>
  bnv (pPut h13 a0 6 82 (.ref p2)) fun h14 =>
  fX6_init_c22 cap a0 h14
set_option maxHeartbeats 1000000 in
theorem kX6_init_c21 {a0 : Nat} (X : pX l D A cap 2 cX6_init 1 RX6 true none m none h' H0 cx sx Z) (hf : fX6_init_c21 cap a0 h = some h') (hM : PI D A cap H0 h H locs) (hl : lv_has ls 1 [(0, .ref a0)]) : Z H locs (cx H) (sx H) (F0 m 1366 ls []) := by
  unfold fX6_init_c21 at hf
  have G := X.g
  refine g_aload_n G dX6_init_1366 rfl (lv_at hl 0 rfl) ?_
  refine g_iconst (v := 5) G dX6_init_1367 rfl ?_
  obtain ⟨b1, hf⟩ := ck_open hf
  obtain ⟨p1, h1, g1, hf⟩ := bnd_open hf
  refine p_newC X hM b1 g1 dX6_init_1368 (fun H locs hM => ?_)
  refine g_dup G dX6_init_1370 rfl ?_
  refine g_iconst (v := 0) G dX6_init_1371 rfl ?_
  refine g_bipush (v := 114) G dX6_init_1372 rfl ?_
  obtain ⟨h2, g2, hf⟩ := bnv_open hf
  refine p_cast X hM g2 dX6_init_1374 (fun H locs hM => ?_)
  refine g_dup G dX6_init_1375 rfl ?_
  refine g_iconst (v := 1) G dX6_init_1376 rfl ?_
  refine g_bipush (v := 105) G dX6_init_1377 rfl ?_
  obtain ⟨h3, g3, hf⟩ := bnv_open hf
  refine p_cast X hM g3 dX6_init_1379 (fun H locs hM => ?_)
  refine g_dup G dX6_init_1380 rfl ?_
  refine g_iconst (v := 2) G dX6_init_1381 rfl ?_
  refine g_bipush (v := 103) G dX6_init_1382 rfl ?_
  obtain ⟨h4, g4, hf⟩ := bnv_open hf
  refine p_cast X hM g4 dX6_init_1384 (fun H locs hM => ?_)
  refine g_dup G dX6_init_1385 rfl ?_
  refine g_iconst (v := 3) G dX6_init_1386 rfl ?_
  refine g_bipush (v := 104) G dX6_init_1387 rfl ?_
  obtain ⟨h5, g5, hf⟩ := bnv_open hf
  refine p_cast X hM g5 dX6_init_1389 (fun H locs hM => ?_)
  refine g_dup G dX6_init_1390 rfl ?_
  refine g_iconst (v := 4) G dX6_init_1391 rfl ?_
  refine g_bipush (v := 116) G dX6_init_1392 rfl ?_
  obtain ⟨h6, g6, hf⟩ := bnv_open hf
  refine p_cast X hM g6 dX6_init_1394 (fun H locs hM => ?_)
  obtain ⟨h7, g7, hf⟩ := bnv_open hf
  refine p_putF (k := 81) X hM pc_6 (by decide) q1705 rfl rfl rfl rfl rfl g7 dX6_init_1395 (fun H locs hM => ?_)
  refine g_aload_n G dX6_init_1398 rfl (lv_at hl 0 rfl) ?_
  refine g_iconst (v := 5) G dX6_init_1399 rfl ?_
  obtain ⟨b2, hf⟩ := ck_open hf
  obtain ⟨p2, h8, g8, hf⟩ := bnd_open hf
  refine p_newC X hM b2 g8 dX6_init_1400 (fun H locs hM => ?_)
  refine g_dup G dX6_init_1402 rfl ?_
  refine g_iconst (v := 0) G dX6_init_1403 rfl ?_
  refine g_bipush (v := 119) G dX6_init_1404 rfl ?_
  obtain ⟨h9, g9, hf⟩ := bnv_open hf
  refine p_cast X hM g9 dX6_init_1406 (fun H locs hM => ?_)
  refine g_dup G dX6_init_1407 rfl ?_
  refine g_iconst (v := 1) G dX6_init_1408 rfl ?_
  refine g_bipush (v := 114) G dX6_init_1409 rfl ?_
  obtain ⟨h10, g10, hf⟩ := bnv_open hf
  refine p_cast X hM g10 dX6_init_1411 (fun H locs hM => ?_)
  refine g_dup G dX6_init_1412 rfl ?_
  refine g_iconst (v := 2) G dX6_init_1413 rfl ?_
  refine g_bipush (v := 111) G dX6_init_1414 rfl ?_
  obtain ⟨h11, g11, hf⟩ := bnv_open hf
  refine p_cast X hM g11 dX6_init_1416 (fun H locs hM => ?_)
  refine g_dup G dX6_init_1417 rfl ?_
  refine g_iconst (v := 3) G dX6_init_1418 rfl ?_
  refine g_bipush (v := 110) G dX6_init_1419 rfl ?_
  obtain ⟨h12, g12, hf⟩ := bnv_open hf
  refine p_cast X hM g12 dX6_init_1421 (fun H locs hM => ?_)
  refine g_dup G dX6_init_1422 rfl ?_
  refine g_iconst (v := 4) G dX6_init_1423 rfl ?_
  refine g_bipush (v := 103) G dX6_init_1424 rfl ?_
  obtain ⟨h13, g13, hf⟩ := bnv_open hf
  refine p_cast X hM g13 dX6_init_1426 (fun H locs hM => ?_)
  obtain ⟨h14, g14, hf⟩ := bnv_open hf
  refine p_putF (k := 82) X hM pc_6 (by decide) q1706 rfl rfl rfl rfl rfl g14 dX6_init_1427 (fun H locs hM => ?_)
  exact kX6_init_c22 X hf hM hl
noncomputable def fX6_init_c20 (cap : Nat × Nat) (a0 : Nat) (h : PH) : Option PH :=
  ck (!decide ((3 : Int32) < 0) && decide ((Int32.toNatClampNeg 3) ≤ 100000)) <|
  bnd (pNew cap h (.inl (3, (Int32.toNatClampNeg 3), .inl (fun _ => 0))) (Int32.toNatClampNeg 3)) fun p1 h1 =>
  bnv (pSt h1 p1 3 0 (vp_nar .char 109)) fun h2 =>
  bnv (pSt h2 p1 3 1 (vp_nar .char 105)) fun h3 =>
  bnv (pSt h3 p1 3 2 (vp_nar .char 110)) fun h4 =>
  bnv (pPut h4 a0 6 78 (.ref p1)) fun h5 =>
  ck (!decide ((3 : Int32) < 0) && decide ((Int32.toNatClampNeg 3) ≤ 100000)) <|
  bnd (pNew cap h5 (.inl (3, (Int32.toNatClampNeg 3), .inl (fun _ => 0))) (Int32.toNatClampNeg 3)) fun p2 h6 =>
  bnv (pSt h6 p2 3 0 (vp_nar .char 109)) fun h7 =>
  bnv (pSt h7 p2 3 1 (vp_nar .char 97)) fun h8 =>
  bnv (pSt h8 p2 3 2 (vp_nar .char 120)) fun h9 =>
  bnv (pPut h9 a0 6 79 (.ref p2)) fun h10 =>
  ck (!decide ((4 : Int32) < 0) && decide ((Int32.toNatClampNeg 4) ≤ 100000)) <|
  bnd (pNew cap h10 (.inl (3, (Int32.toNatClampNeg 4), .inl (fun _ => 0))) (Int32.toNatClampNeg 4)) fun p3 h11 =>
  bnv (pSt h11 p3 3 0 (vp_nar .char 99)) fun h12 =>
  bnv (pSt h12 p3 3 1 (vp_nar .char 97)) fun h13 =>
  bnv (pSt h13 p3 3 2 (vp_nar .char 108)) fun h14 =>
  bnv (pSt h14 p3 3 3 (vp_nar .char 109)) fun h15 =>
  bnv (pPut h15 a0 6 80 (.ref p3)) fun h16 =>
  fX6_init_c21 cap a0 h16
set_option maxHeartbeats 1000000 in
theorem kX6_init_c20 {a0 : Nat} (X : pX l D A cap 2 cX6_init 1 RX6 true none m none h' H0 cx sx Z) (hf : fX6_init_c20 cap a0 h = some h') (hM : PI D A cap H0 h H locs) (hl : lv_has ls 1 [(0, .ref a0)]) : Z H locs (cx H) (sx H) (F0 m 1295 ls []) := by
  unfold fX6_init_c20 at hf
  have G := X.g
  refine g_aload_n G dX6_init_1295 rfl (lv_at hl 0 rfl) ?_
  refine g_iconst (v := 3) G dX6_init_1296 rfl ?_
  obtain ⟨b1, hf⟩ := ck_open hf
  obtain ⟨p1, h1, g1, hf⟩ := bnd_open hf
  refine p_newC X hM b1 g1 dX6_init_1297 (fun H locs hM => ?_)
  refine g_dup G dX6_init_1299 rfl ?_
  refine g_iconst (v := 0) G dX6_init_1300 rfl ?_
  refine g_bipush (v := 109) G dX6_init_1301 rfl ?_
  obtain ⟨h2, g2, hf⟩ := bnv_open hf
  refine p_cast X hM g2 dX6_init_1303 (fun H locs hM => ?_)
  refine g_dup G dX6_init_1304 rfl ?_
  refine g_iconst (v := 1) G dX6_init_1305 rfl ?_
  refine g_bipush (v := 105) G dX6_init_1306 rfl ?_
  obtain ⟨h3, g3, hf⟩ := bnv_open hf
  refine p_cast X hM g3 dX6_init_1308 (fun H locs hM => ?_)
  refine g_dup G dX6_init_1309 rfl ?_
  refine g_iconst (v := 2) G dX6_init_1310 rfl ?_
  refine g_bipush (v := 110) G dX6_init_1311 rfl ?_
  obtain ⟨h4, g4, hf⟩ := bnv_open hf
  refine p_cast X hM g4 dX6_init_1313 (fun H locs hM => ?_)
  obtain ⟨h5, g5, hf⟩ := bnv_open hf
  refine p_putF (k := 78) X hM pc_6 (by decide) q1702 rfl rfl rfl rfl rfl g5 dX6_init_1314 (fun H locs hM => ?_)
  refine g_aload_n G dX6_init_1317 rfl (lv_at hl 0 rfl) ?_
  refine g_iconst (v := 3) G dX6_init_1318 rfl ?_
  obtain ⟨b2, hf⟩ := ck_open hf
  obtain ⟨p2, h6, g6, hf⟩ := bnd_open hf
  refine p_newC X hM b2 g6 dX6_init_1319 (fun H locs hM => ?_)
  refine g_dup G dX6_init_1321 rfl ?_
  refine g_iconst (v := 0) G dX6_init_1322 rfl ?_
  refine g_bipush (v := 109) G dX6_init_1323 rfl ?_
  obtain ⟨h7, g7, hf⟩ := bnv_open hf
  refine p_cast X hM g7 dX6_init_1325 (fun H locs hM => ?_)
  refine g_dup G dX6_init_1326 rfl ?_
  refine g_iconst (v := 1) G dX6_init_1327 rfl ?_
  refine g_bipush (v := 97) G dX6_init_1328 rfl ?_
  obtain ⟨h8, g8, hf⟩ := bnv_open hf
  refine p_cast X hM g8 dX6_init_1330 (fun H locs hM => ?_)
  refine g_dup G dX6_init_1331 rfl ?_
  refine g_iconst (v := 2) G dX6_init_1332 rfl ?_
  refine g_bipush (v := 120) G dX6_init_1333 rfl ?_
  obtain ⟨h9, g9, hf⟩ := bnv_open hf
  refine p_cast X hM g9 dX6_init_1335 (fun H locs hM => ?_)
  obtain ⟨h10, g10, hf⟩ := bnv_open hf
  refine p_putF (k := 79) X hM pc_6 (by decide) q1703 rfl rfl rfl rfl rfl g10 dX6_init_1336 (fun H locs hM => ?_)
  refine g_aload_n G dX6_init_1339 rfl (lv_at hl 0 rfl) ?_
  refine g_iconst (v := 4) G dX6_init_1340 rfl ?_
  obtain ⟨b3, hf⟩ := ck_open hf
  obtain ⟨p3, h11, g11, hf⟩ := bnd_open hf
  refine p_newC X hM b3 g11 dX6_init_1341 (fun H locs hM => ?_)
  refine g_dup G dX6_init_1343 rfl ?_
  refine g_iconst (v := 0) G dX6_init_1344 rfl ?_
  refine g_bipush (v := 99) G dX6_init_1345 rfl ?_
  obtain ⟨h12, g12, hf⟩ := bnv_open hf
  refine p_cast X hM g12 dX6_init_1347 (fun H locs hM => ?_)
  refine g_dup G dX6_init_1348 rfl ?_
  refine g_iconst (v := 1) G dX6_init_1349 rfl ?_
  refine g_bipush (v := 97) G dX6_init_1350 rfl ?_
  obtain ⟨h13, g13, hf⟩ := bnv_open hf
  refine p_cast X hM g13 dX6_init_1352 (fun H locs hM => ?_)
  refine g_dup G dX6_init_1353 rfl ?_
  refine g_iconst (v := 2) G dX6_init_1354 rfl ?_
  refine g_bipush (v := 108) G dX6_init_1355 rfl ?_
  obtain ⟨h14, g14, hf⟩ := bnv_open hf
  refine p_cast X hM g14 dX6_init_1357 (fun H locs hM => ?_)
  refine g_dup G dX6_init_1358 rfl ?_
  refine g_iconst (v := 3) G dX6_init_1359 rfl ?_
  refine g_bipush (v := 109) G dX6_init_1360 rfl ?_
  obtain ⟨h15, g15, hf⟩ := bnv_open hf
  refine p_cast X hM g15 dX6_init_1362 (fun H locs hM => ?_)
  obtain ⟨h16, g16, hf⟩ := bnv_open hf
  refine p_putF (k := 80) X hM pc_6 (by decide) q1704 rfl rfl rfl rfl rfl g16 dX6_init_1363 (fun H locs hM => ?_)
  exact kX6_init_c21 X hf hM hl
noncomputable def fX6_init_c19 (cap : Nat × Nat) (a0 : Nat) (h : PH) : Option PH :=
  ck (!decide ((3 : Int32) < 0) && decide ((Int32.toNatClampNeg 3) ≤ 100000)) <|
  bnd (pNew cap h (.inl (3, (Int32.toNatClampNeg 3), .inl (fun _ => 0))) (Int32.toNatClampNeg 3)) fun p1 h1 =>
  bnv (pSt h1 p1 3 0 (vp_nar .char 97)) fun h2 =>
  bnv (pSt h2 p1 3 1 (vp_nar .char 110)) fun h3 =>
  bnv (pSt h3 p1 3 2 (vp_nar .char 100)) fun h4 =>
  bnv (pPut h4 a0 6 75 (.ref p1)) fun h5 =>
  ck (!decide ((2 : Int32) < 0) && decide ((Int32.toNatClampNeg 2) ≤ 100000)) <|
  bnd (pNew cap h5 (.inl (3, (Int32.toNatClampNeg 2), .inl (fun _ => 0))) (Int32.toNatClampNeg 2)) fun p2 h6 =>
  bnv (pSt h6 p2 3 0 (vp_nar .char 111)) fun h7 =>
  bnv (pSt h7 p2 3 1 (vp_nar .char 114)) fun h8 =>
  bnv (pPut h8 a0 6 76 (.ref p2)) fun h9 =>
  ck (!decide ((3 : Int32) < 0) && decide ((Int32.toNatClampNeg 3) ≤ 100000)) <|
  bnd (pNew cap h9 (.inl (3, (Int32.toNatClampNeg 3), .inl (fun _ => 0))) (Int32.toNatClampNeg 3)) fun p3 h10 =>
  bnv (pSt h10 p3 3 0 (vp_nar .char 97)) fun h11 =>
  bnv (pSt h11 p3 3 1 (vp_nar .char 108)) fun h12 =>
  bnv (pSt h12 p3 3 2 (vp_nar .char 108)) fun h13 =>
  bnv (pPut h13 a0 6 77 (.ref p3)) fun h14 =>
  fX6_init_c20 cap a0 h14
set_option maxHeartbeats 1000000 in
theorem kX6_init_c19 {a0 : Nat} (X : pX l D A cap 2 cX6_init 1 RX6 true none m none h' H0 cx sx Z) (hf : fX6_init_c19 cap a0 h = some h') (hM : PI D A cap H0 h H locs) (hl : lv_has ls 1 [(0, .ref a0)]) : Z H locs (cx H) (sx H) (F0 m 1234 ls []) := by
  unfold fX6_init_c19 at hf
  have G := X.g
  refine g_aload_n G dX6_init_1234 rfl (lv_at hl 0 rfl) ?_
  refine g_iconst (v := 3) G dX6_init_1235 rfl ?_
  obtain ⟨b1, hf⟩ := ck_open hf
  obtain ⟨p1, h1, g1, hf⟩ := bnd_open hf
  refine p_newC X hM b1 g1 dX6_init_1236 (fun H locs hM => ?_)
  refine g_dup G dX6_init_1238 rfl ?_
  refine g_iconst (v := 0) G dX6_init_1239 rfl ?_
  refine g_bipush (v := 97) G dX6_init_1240 rfl ?_
  obtain ⟨h2, g2, hf⟩ := bnv_open hf
  refine p_cast X hM g2 dX6_init_1242 (fun H locs hM => ?_)
  refine g_dup G dX6_init_1243 rfl ?_
  refine g_iconst (v := 1) G dX6_init_1244 rfl ?_
  refine g_bipush (v := 110) G dX6_init_1245 rfl ?_
  obtain ⟨h3, g3, hf⟩ := bnv_open hf
  refine p_cast X hM g3 dX6_init_1247 (fun H locs hM => ?_)
  refine g_dup G dX6_init_1248 rfl ?_
  refine g_iconst (v := 2) G dX6_init_1249 rfl ?_
  refine g_bipush (v := 100) G dX6_init_1250 rfl ?_
  obtain ⟨h4, g4, hf⟩ := bnv_open hf
  refine p_cast X hM g4 dX6_init_1252 (fun H locs hM => ?_)
  obtain ⟨h5, g5, hf⟩ := bnv_open hf
  refine p_putF (k := 75) X hM pc_6 (by decide) q1699 rfl rfl rfl rfl rfl g5 dX6_init_1253 (fun H locs hM => ?_)
  refine g_aload_n G dX6_init_1256 rfl (lv_at hl 0 rfl) ?_
  refine g_iconst (v := 2) G dX6_init_1257 rfl ?_
  obtain ⟨b2, hf⟩ := ck_open hf
  obtain ⟨p2, h6, g6, hf⟩ := bnd_open hf
  refine p_newC X hM b2 g6 dX6_init_1258 (fun H locs hM => ?_)
  refine g_dup G dX6_init_1260 rfl ?_
  refine g_iconst (v := 0) G dX6_init_1261 rfl ?_
  refine g_bipush (v := 111) G dX6_init_1262 rfl ?_
  obtain ⟨h7, g7, hf⟩ := bnv_open hf
  refine p_cast X hM g7 dX6_init_1264 (fun H locs hM => ?_)
  refine g_dup G dX6_init_1265 rfl ?_
  refine g_iconst (v := 1) G dX6_init_1266 rfl ?_
  refine g_bipush (v := 114) G dX6_init_1267 rfl ?_
  obtain ⟨h8, g8, hf⟩ := bnv_open hf
  refine p_cast X hM g8 dX6_init_1269 (fun H locs hM => ?_)
  obtain ⟨h9, g9, hf⟩ := bnv_open hf
  refine p_putF (k := 76) X hM pc_6 (by decide) q1700 rfl rfl rfl rfl rfl g9 dX6_init_1270 (fun H locs hM => ?_)
  refine g_aload_n G dX6_init_1273 rfl (lv_at hl 0 rfl) ?_
  refine g_iconst (v := 3) G dX6_init_1274 rfl ?_
  obtain ⟨b3, hf⟩ := ck_open hf
  obtain ⟨p3, h10, g10, hf⟩ := bnd_open hf
  refine p_newC X hM b3 g10 dX6_init_1275 (fun H locs hM => ?_)
  refine g_dup G dX6_init_1277 rfl ?_
  refine g_iconst (v := 0) G dX6_init_1278 rfl ?_
  refine g_bipush (v := 97) G dX6_init_1279 rfl ?_
  obtain ⟨h11, g11, hf⟩ := bnv_open hf
  refine p_cast X hM g11 dX6_init_1281 (fun H locs hM => ?_)
  refine g_dup G dX6_init_1282 rfl ?_
  refine g_iconst (v := 1) G dX6_init_1283 rfl ?_
  refine g_bipush (v := 108) G dX6_init_1284 rfl ?_
  obtain ⟨h12, g12, hf⟩ := bnv_open hf
  refine p_cast X hM g12 dX6_init_1286 (fun H locs hM => ?_)
  refine g_dup G dX6_init_1287 rfl ?_
  refine g_iconst (v := 2) G dX6_init_1288 rfl ?_
  refine g_bipush (v := 108) G dX6_init_1289 rfl ?_
  obtain ⟨h13, g13, hf⟩ := bnv_open hf
  refine p_cast X hM g13 dX6_init_1291 (fun H locs hM => ?_)
  obtain ⟨h14, g14, hf⟩ := bnv_open hf
  refine p_putF (k := 77) X hM pc_6 (by decide) q1701 rfl rfl rfl rfl rfl g14 dX6_init_1292 (fun H locs hM => ?_)
  exact kX6_init_c20 X hf hM hl
noncomputable def fX6_init_c18 (cap : Nat × Nat) (a0 : Nat) (h : PH) : Option PH :=
  ck (!decide ((5 : Int32) < 0) && decide ((Int32.toNatClampNeg 5) ≤ 100000)) <|
  bnd (pNew cap h (.inl (3, (Int32.toNatClampNeg 5), .inl (fun _ => 0))) (Int32.toNatClampNeg 5)) fun p1 h1 =>
  bnv (pSt h1 p1 3 0 (vp_nar .char 108)) fun h2 =>
  bnv (pSt h2 p1 3 1 (vp_nar .char 101)) fun h3 =>
  bnv (pSt h3 p1 3 2 (vp_nar .char 97)) fun h4 =>
  bnv (pSt h4 p1 3 3 (vp_nar .char 115)) fun h5 =>
  bnv (pSt h5 p1 3 4 (vp_nar .char 116)) fun h6 =>
  bnv (pPut h6 a0 6 73 (.ref p1)) fun h7 =>
  ck (!decide ((3 : Int32) < 0) && decide ((Int32.toNatClampNeg 3) ≤ 100000)) <|
  bnd (pNew cap h7 (.inl (3, (Int32.toNatClampNeg 3), .inl (fun _ => 0))) (Int32.toNatClampNeg 3)) fun p2 h8 =>
  bnv (pSt h8 p2 3 0 (vp_nar .char 110)) fun h9 =>
  bnv (pSt h9 p2 3 1 (vp_nar .char 111)) fun h10 =>
  bnv (pSt h10 p2 3 2 (vp_nar .char 116)) fun h11 =>
  bnv (pPut h11 a0 6 74 (.ref p2)) fun h12 =>
  fX6_init_c19 cap a0 h12
set_option maxHeartbeats 1000000 in
theorem kX6_init_c18 {a0 : Nat} (X : pX l D A cap 2 cX6_init 1 RX6 true none m none h' H0 cx sx Z) (hf : fX6_init_c18 cap a0 h = some h') (hM : PI D A cap H0 h H locs) (hl : lv_has ls 1 [(0, .ref a0)]) : Z H locs (cx H) (sx H) (F0 m 1180 ls []) := by
  unfold fX6_init_c18 at hf
  have G := X.g
  refine g_aload_n G dX6_init_1180 rfl (lv_at hl 0 rfl) ?_
  refine g_iconst (v := 5) G dX6_init_1181 rfl ?_
  obtain ⟨b1, hf⟩ := ck_open hf
  obtain ⟨p1, h1, g1, hf⟩ := bnd_open hf
  refine p_newC X hM b1 g1 dX6_init_1182 (fun H locs hM => ?_)
  refine g_dup G dX6_init_1184 rfl ?_
  refine g_iconst (v := 0) G dX6_init_1185 rfl ?_
  refine g_bipush (v := 108) G dX6_init_1186 rfl ?_
  obtain ⟨h2, g2, hf⟩ := bnv_open hf
  refine p_cast X hM g2 dX6_init_1188 (fun H locs hM => ?_)
  refine g_dup G dX6_init_1189 rfl ?_
  refine g_iconst (v := 1) G dX6_init_1190 rfl ?_
  refine g_bipush (v := 101) G dX6_init_1191 rfl ?_
  obtain ⟨h3, g3, hf⟩ := bnv_open hf
  refine p_cast X hM g3 dX6_init_1193 (fun H locs hM => ?_)
  refine g_dup G dX6_init_1194 rfl ?_
  refine g_iconst (v := 2) G dX6_init_1195 rfl ?_
  refine g_bipush (v := 97) G dX6_init_1196 rfl ?_
  obtain ⟨h4, g4, hf⟩ := bnv_open hf
  refine p_cast X hM g4 dX6_init_1198 (fun H locs hM => ?_)
  refine g_dup G dX6_init_1199 rfl ?_
  refine g_iconst (v := 3) G dX6_init_1200 rfl ?_
  refine g_bipush (v := 115) G dX6_init_1201 rfl ?_
  obtain ⟨h5, g5, hf⟩ := bnv_open hf
  refine p_cast X hM g5 dX6_init_1203 (fun H locs hM => ?_)
  refine g_dup G dX6_init_1204 rfl ?_
  refine g_iconst (v := 4) G dX6_init_1205 rfl ?_
  refine g_bipush (v := 116) G dX6_init_1206 rfl ?_
  obtain ⟨h6, g6, hf⟩ := bnv_open hf
  refine p_cast X hM g6 dX6_init_1208 (fun H locs hM => ?_)
  obtain ⟨h7, g7, hf⟩ := bnv_open hf
  refine p_putF (k := 73) X hM pc_6 (by decide) q1697 rfl rfl rfl rfl rfl g7 dX6_init_1209 (fun H locs hM => ?_)
  refine g_aload_n G dX6_init_1212 rfl (lv_at hl 0 rfl) ?_
  refine g_iconst (v := 3) G dX6_init_1213 rfl ?_
  obtain ⟨b2, hf⟩ := ck_open hf
  obtain ⟨p2, h8, g8, hf⟩ := bnd_open hf
  refine p_newC X hM b2 g8 dX6_init_1214 (fun H locs hM => ?_)
  refine g_dup G dX6_init_1216 rfl ?_
  refine g_iconst (v := 0) G dX6_init_1217 rfl ?_
  refine g_bipush (v := 110) G dX6_init_1218 rfl ?_
  obtain ⟨h9, g9, hf⟩ := bnv_open hf
  refine p_cast X hM g9 dX6_init_1220 (fun H locs hM => ?_)
  refine g_dup G dX6_init_1221 rfl ?_
  refine g_iconst (v := 1) G dX6_init_1222 rfl ?_
  refine g_bipush (v := 111) G dX6_init_1223 rfl ?_
  obtain ⟨h10, g10, hf⟩ := bnv_open hf
  refine p_cast X hM g10 dX6_init_1225 (fun H locs hM => ?_)
  refine g_dup G dX6_init_1226 rfl ?_
  refine g_iconst (v := 2) G dX6_init_1227 rfl ?_
  refine g_bipush (v := 116) G dX6_init_1228 rfl ?_
  obtain ⟨h11, g11, hf⟩ := bnv_open hf
  refine p_cast X hM g11 dX6_init_1230 (fun H locs hM => ?_)
  obtain ⟨h12, g12, hf⟩ := bnv_open hf
  refine p_putF (k := 74) X hM pc_6 (by decide) q1698 rfl rfl rfl rfl rfl g12 dX6_init_1231 (fun H locs hM => ?_)
  exact kX6_init_c19 X hf hM hl
noncomputable def fX6_init_c17 (cap : Nat × Nat) (a0 : Nat) (h : PH) : Option PH :=
  ck (!decide ((5 : Int32) < 0) && decide ((Int32.toNatClampNeg 5) ≤ 100000)) <|
  bnd (pNew cap h (.inl (3, (Int32.toNatClampNeg 5), .inl (fun _ => 0))) (Int32.toNatClampNeg 5)) fun p1 h1 =>
  bnv (pSt h1 p1 3 0 (vp_nar .char 116)) fun h2 =>
  bnv (pSt h2 p1 3 1 (vp_nar .char 111)) fun h3 =>
  bnv (pSt h3 p1 3 2 (vp_nar .char 116)) fun h4 =>
  bnv (pSt h4 p1 3 3 (vp_nar .char 97)) fun h5 =>
  bnv (pSt h5 p1 3 4 (vp_nar .char 108)) fun h6 =>
  bnv (pPut h6 a0 6 71 (.ref p1)) fun h7 =>
  ck (!decide ((4 : Int32) < 0) && decide ((Int32.toNatClampNeg 4) ≤ 100000)) <|
  bnd (pNew cap h7 (.inl (3, (Int32.toNatClampNeg 4), .inl (fun _ => 0))) (Int32.toNatClampNeg 4)) fun p2 h8 =>
  bnv (pSt h8 p2 3 0 (vp_nar .char 109)) fun h9 =>
  bnv (pSt h9 p2 3 1 (vp_nar .char 111)) fun h10 =>
  bnv (pSt h10 p2 3 2 (vp_nar .char 115)) fun h11 =>
  bnv (pSt h11 p2 3 3 (vp_nar .char 116)) fun h12 =>
  bnv (pPut h12 a0 6 72 (.ref p2)) fun h13 =>
  fX6_init_c18 cap a0 h13
set_option maxHeartbeats 1000000 in
theorem kX6_init_c17 {a0 : Nat} (X : pX l D A cap 2 cX6_init 1 RX6 true none m none h' H0 cx sx Z) (hf : fX6_init_c17 cap a0 h = some h') (hM : PI D A cap H0 h H locs) (hl : lv_has ls 1 [(0, .ref a0)]) : Z H locs (cx H) (sx H) (F0 m 1121 ls []) := by
  unfold fX6_init_c17 at hf
  have G := X.g
  refine g_aload_n G dX6_init_1121 rfl (lv_at hl 0 rfl) ?_
  refine g_iconst (v := 5) G dX6_init_1122 rfl ?_
  obtain ⟨b1, hf⟩ := ck_open hf
  obtain ⟨p1, h1, g1, hf⟩ := bnd_open hf
  refine p_newC X hM b1 g1 dX6_init_1123 (fun H locs hM => ?_)
  refine g_dup G dX6_init_1125 rfl ?_
  refine g_iconst (v := 0) G dX6_init_1126 rfl ?_
  refine g_bipush (v := 116) G dX6_init_1127 rfl ?_
  obtain ⟨h2, g2, hf⟩ := bnv_open hf
  refine p_cast X hM g2 dX6_init_1129 (fun H locs hM => ?_)
  refine g_dup G dX6_init_1130 rfl ?_
  refine g_iconst (v := 1) G dX6_init_1131 rfl ?_
  refine g_bipush (v := 111) G dX6_init_1132 rfl ?_
  obtain ⟨h3, g3, hf⟩ := bnv_open hf
  refine p_cast X hM g3 dX6_init_1134 (fun H locs hM => ?_)
  refine g_dup G dX6_init_1135 rfl ?_
  refine g_iconst (v := 2) G dX6_init_1136 rfl ?_
  refine g_bipush (v := 116) G dX6_init_1137 rfl ?_
  obtain ⟨h4, g4, hf⟩ := bnv_open hf
  refine p_cast X hM g4 dX6_init_1139 (fun H locs hM => ?_)
  refine g_dup G dX6_init_1140 rfl ?_
  refine g_iconst (v := 3) G dX6_init_1141 rfl ?_
  refine g_bipush (v := 97) G dX6_init_1142 rfl ?_
  obtain ⟨h5, g5, hf⟩ := bnv_open hf
  refine p_cast X hM g5 dX6_init_1144 (fun H locs hM => ?_)
  refine g_dup G dX6_init_1145 rfl ?_
  refine g_iconst (v := 4) G dX6_init_1146 rfl ?_
  refine g_bipush (v := 108) G dX6_init_1147 rfl ?_
  obtain ⟨h6, g6, hf⟩ := bnv_open hf
  refine p_cast X hM g6 dX6_init_1149 (fun H locs hM => ?_)
  obtain ⟨h7, g7, hf⟩ := bnv_open hf
  refine p_putF (k := 71) X hM pc_6 (by decide) q1695 rfl rfl rfl rfl rfl g7 dX6_init_1150 (fun H locs hM => ?_)
  refine g_aload_n G dX6_init_1153 rfl (lv_at hl 0 rfl) ?_
  refine g_iconst (v := 4) G dX6_init_1154 rfl ?_
  obtain ⟨b2, hf⟩ := ck_open hf
  obtain ⟨p2, h8, g8, hf⟩ := bnd_open hf
  refine p_newC X hM b2 g8 dX6_init_1155 (fun H locs hM => ?_)
  refine g_dup G dX6_init_1157 rfl ?_
  refine g_iconst (v := 0) G dX6_init_1158 rfl ?_
  refine g_bipush (v := 109) G dX6_init_1159 rfl ?_
  obtain ⟨h9, g9, hf⟩ := bnv_open hf
  refine p_cast X hM g9 dX6_init_1161 (fun H locs hM => ?_)
  refine g_dup G dX6_init_1162 rfl ?_
  refine g_iconst (v := 1) G dX6_init_1163 rfl ?_
  refine g_bipush (v := 111) G dX6_init_1164 rfl ?_
  obtain ⟨h10, g10, hf⟩ := bnv_open hf
  refine p_cast X hM g10 dX6_init_1166 (fun H locs hM => ?_)
  refine g_dup G dX6_init_1167 rfl ?_
  refine g_iconst (v := 2) G dX6_init_1168 rfl ?_
  refine g_bipush (v := 115) G dX6_init_1169 rfl ?_
  obtain ⟨h11, g11, hf⟩ := bnv_open hf
  refine p_cast X hM g11 dX6_init_1171 (fun H locs hM => ?_)
  refine g_dup G dX6_init_1172 rfl ?_
  refine g_iconst (v := 3) G dX6_init_1173 rfl ?_
  refine g_bipush (v := 116) G dX6_init_1174 rfl ?_
  obtain ⟨h12, g12, hf⟩ := bnv_open hf
  refine p_cast X hM g12 dX6_init_1176 (fun H locs hM => ?_)
  obtain ⟨h13, g13, hf⟩ := bnv_open hf
  refine p_putF (k := 72) X hM pc_6 (by decide) q1696 rfl rfl rfl rfl rfl g13 dX6_init_1177 (fun H locs hM => ?_)
  exact kX6_init_c18 X hf hM hl
noncomputable def fX6_init_c16 (cap : Nat × Nat) (a0 : Nat) (h : PH) : Option PH :=
  ck (!decide ((4 : Int32) < 0) && decide ((Int32.toNatClampNeg 4) ≤ 100000)) <|
  bnd (pNew cap h (.inl (3, (Int32.toNatClampNeg 4), .inl (fun _ => 0))) (Int32.toNatClampNeg 4)) fun p1 h1 =>
  bnv (pSt h1 p1 3 0 (vp_nar .char 108)) fun h2 =>
  bnv (pSt h2 p1 3 1 (vp_nar .char 97)) fun h3 =>
  bnv (pSt h3 p1 3 2 (vp_nar .char 115)) fun h4 =>
  bnv (pSt h4 p1 3 3 (vp_nar .char 116)) fun h5 =>
  bnv (pPut h5 a0 6 69 (.ref p1)) fun h6 =>
  ck (!decide ((5 : Int32) < 0) && decide ((Int32.toNatClampNeg 5) ≤ 100000)) <|
  bnd (pNew cap h6 (.inl (3, (Int32.toNatClampNeg 5), .inl (fun _ => 0))) (Int32.toNatClampNeg 5)) fun p2 h7 =>
  bnv (pSt h7 p2 3 0 (vp_nar .char 111)) fun h8 =>
  bnv (pSt h8 p2 3 1 (vp_nar .char 102)) fun h9 =>
  bnv (pSt h9 p2 3 2 (vp_nar .char 116)) fun h10 =>
  bnv (pSt h10 p2 3 3 (vp_nar .char 101)) fun h11 =>
  bnv (pSt h11 p2 3 4 (vp_nar .char 110)) fun h12 =>
  bnv (pPut h12 a0 6 70 (.ref p2)) fun h13 =>
  fX6_init_c17 cap a0 h13
set_option maxHeartbeats 1000000 in
theorem kX6_init_c16 {a0 : Nat} (X : pX l D A cap 2 cX6_init 1 RX6 true none m none h' H0 cx sx Z) (hf : fX6_init_c16 cap a0 h = some h') (hM : PI D A cap H0 h H locs) (hl : lv_has ls 1 [(0, .ref a0)]) : Z H locs (cx H) (sx H) (F0 m 1062 ls []) := by
  unfold fX6_init_c16 at hf
  have G := X.g
  refine g_aload_n G dX6_init_1062 rfl (lv_at hl 0 rfl) ?_
  refine g_iconst (v := 4) G dX6_init_1063 rfl ?_
  obtain ⟨b1, hf⟩ := ck_open hf
  obtain ⟨p1, h1, g1, hf⟩ := bnd_open hf
  refine p_newC X hM b1 g1 dX6_init_1064 (fun H locs hM => ?_)
  refine g_dup G dX6_init_1066 rfl ?_
  refine g_iconst (v := 0) G dX6_init_1067 rfl ?_
  refine g_bipush (v := 108) G dX6_init_1068 rfl ?_
  obtain ⟨h2, g2, hf⟩ := bnv_open hf
  refine p_cast X hM g2 dX6_init_1070 (fun H locs hM => ?_)
  refine g_dup G dX6_init_1071 rfl ?_
  refine g_iconst (v := 1) G dX6_init_1072 rfl ?_
  refine g_bipush (v := 97) G dX6_init_1073 rfl ?_
  obtain ⟨h3, g3, hf⟩ := bnv_open hf
  refine p_cast X hM g3 dX6_init_1075 (fun H locs hM => ?_)
  refine g_dup G dX6_init_1076 rfl ?_
  refine g_iconst (v := 2) G dX6_init_1077 rfl ?_
  refine g_bipush (v := 115) G dX6_init_1078 rfl ?_
  obtain ⟨h4, g4, hf⟩ := bnv_open hf
  refine p_cast X hM g4 dX6_init_1080 (fun H locs hM => ?_)
  refine g_dup G dX6_init_1081 rfl ?_
  refine g_iconst (v := 3) G dX6_init_1082 rfl ?_
  refine g_bipush (v := 116) G dX6_init_1083 rfl ?_
  obtain ⟨h5, g5, hf⟩ := bnv_open hf
  refine p_cast X hM g5 dX6_init_1085 (fun H locs hM => ?_)
  obtain ⟨h6, g6, hf⟩ := bnv_open hf
  refine p_putF (k := 69) X hM pc_6 (by decide) q1693 rfl rfl rfl rfl rfl g6 dX6_init_1086 (fun H locs hM => ?_)
  refine g_aload_n G dX6_init_1089 rfl (lv_at hl 0 rfl) ?_
  refine g_iconst (v := 5) G dX6_init_1090 rfl ?_
  obtain ⟨b2, hf⟩ := ck_open hf
  obtain ⟨p2, h7, g7, hf⟩ := bnd_open hf
  refine p_newC X hM b2 g7 dX6_init_1091 (fun H locs hM => ?_)
  refine g_dup G dX6_init_1093 rfl ?_
  refine g_iconst (v := 0) G dX6_init_1094 rfl ?_
  refine g_bipush (v := 111) G dX6_init_1095 rfl ?_
  obtain ⟨h8, g8, hf⟩ := bnv_open hf
  refine p_cast X hM g8 dX6_init_1097 (fun H locs hM => ?_)
  refine g_dup G dX6_init_1098 rfl ?_
  refine g_iconst (v := 1) G dX6_init_1099 rfl ?_
  refine g_bipush (v := 102) G dX6_init_1100 rfl ?_
  obtain ⟨h9, g9, hf⟩ := bnv_open hf
  refine p_cast X hM g9 dX6_init_1102 (fun H locs hM => ?_)
  refine g_dup G dX6_init_1103 rfl ?_
  refine g_iconst (v := 2) G dX6_init_1104 rfl ?_
  refine g_bipush (v := 116) G dX6_init_1105 rfl ?_
  obtain ⟨h10, g10, hf⟩ := bnv_open hf
  refine p_cast X hM g10 dX6_init_1107 (fun H locs hM => ?_)
  refine g_dup G dX6_init_1108 rfl ?_
  refine g_iconst (v := 3) G dX6_init_1109 rfl ?_
  refine g_bipush (v := 101) G dX6_init_1110 rfl ?_
  obtain ⟨h11, g11, hf⟩ := bnv_open hf
  refine p_cast X hM g11 dX6_init_1112 (fun H locs hM => ?_)
  refine g_dup G dX6_init_1113 rfl ?_
  refine g_iconst (v := 4) G dX6_init_1114 rfl ?_
  refine g_bipush (v := 110) G dX6_init_1115 rfl ?_
  obtain ⟨h12, g12, hf⟩ := bnv_open hf
  refine p_cast X hM g12 dX6_init_1117 (fun H locs hM => ?_)
  obtain ⟨h13, g13, hf⟩ := bnv_open hf
  refine p_putF (k := 70) X hM pc_6 (by decide) q1694 rfl rfl rfl rfl rfl g13 dX6_init_1118 (fun H locs hM => ?_)
  exact kX6_init_c17 X hf hM hl
noncomputable def fX6_init_c15 (cap : Nat × Nat) (a0 : Nat) (h : PH) : Option PH :=
  ck (!decide ((41 : Int32) < 0) && decide ((Int32.toNatClampNeg 41) ≤ 100000)) <|
  bnd (pNew cap h (.inl (0, (Int32.toNatClampNeg 41), .inl (fun _ => 0))) (Int32.toNatClampNeg 41)) fun p1 h1 =>
  bnv (pPut h1 a0 6 54 (.ref p1)) fun h2 =>
  ck (!decide ((8 : Int32) < 0) && decide ((Int32.toNatClampNeg 8) ≤ 100000)) <|
  bnd (pNew cap h2 (.inl (0, (Int32.toNatClampNeg 8), .inl (fun _ => 0))) (Int32.toNatClampNeg 8)) fun p2 h3 =>
  bnv (pPut h3 a0 6 56 (.ref p2)) fun h4 =>
  ck (!decide ((8 : Int32) < 0) && decide ((Int32.toNatClampNeg 8) ≤ 100000)) <|
  bnd (pNew cap h4 (.inl (0, (Int32.toNatClampNeg 8), .inl (fun _ => 0))) (Int32.toNatClampNeg 8)) fun p3 h5 =>
  bnv (pPut h5 a0 6 57 (.ref p3)) fun h6 =>
  ck (!decide ((32 : Int32) < 0) && decide ((Int32.toNatClampNeg 32) ≤ 100000)) <|
  bnd (pNew cap h6 (.inl (0, (Int32.toNatClampNeg 32), .inl (fun _ => 0))) (Int32.toNatClampNeg 32)) fun p4 h7 =>
  bnv (pPut h7 a0 6 61 (.ref p4)) fun h8 =>
  ck (!decide ((8 : Int32) < 0) && decide ((Int32.toNatClampNeg 8) ≤ 100000)) <|
  bnd (pNew cap h8 (.inl (0, (Int32.toNatClampNeg 8), .inl (fun _ => 0))) (Int32.toNatClampNeg 8)) fun p5 h9 =>
  bnv (pPut h9 a0 6 62 (.ref p5)) fun h10 =>
  ck (!decide ((24 : Int32) < 0) && decide ((Int32.toNatClampNeg 24) ≤ 100000)) <|
  bnd (pNew cap h10 (.inl (0, (Int32.toNatClampNeg 24), .inl (fun _ => 0))) (Int32.toNatClampNeg 24)) fun p6 h11 =>
  bnv (pPut h11 a0 6 63 (.ref p6)) fun h12 =>
  ck (!decide ((2640 : Int32) < 0) && decide ((Int32.toNatClampNeg 2640) ≤ 100000)) <|
  bnd (pNew cap h12 (.inl (0, (Int32.toNatClampNeg 2640), .inl (fun _ => 0))) (Int32.toNatClampNeg 2640)) fun p7 h13 =>
  bnv (pPut h13 a0 6 64 (.ref p7)) fun h14 =>
  bnv (pPut h14 a0 6 67 (.long 1)) fun h15 =>
  ck (!decide ((5 : Int32) < 0) && decide ((Int32.toNatClampNeg 5) ≤ 100000)) <|
  bnd (pNew cap h15 (.inl (3, (Int32.toNatClampNeg 5), .inl (fun _ => 0))) (Int32.toNatClampNeg 5)) fun p8 h16 =>
  bnv (pSt h16 p8 3 0 (vp_nar .char 102)) fun h17 =>
  bnv (pSt h17 p8 3 1 (vp_nar .char 105)) fun h18 =>
  bnv (pSt h18 p8 3 2 (vp_nar .char 114)) fun h19 =>
  bnv (pSt h19 p8 3 3 (vp_nar .char 115)) fun h20 =>
  bnv (pSt h20 p8 3 4 (vp_nar .char 116)) fun h21 =>
  bnv (pPut h21 a0 6 68 (.ref p8)) fun h22 =>
  fX6_init_c16 cap a0 h22
set_option maxHeartbeats 1000000 in
theorem kX6_init_c15 {a0 : Nat} (X : pX l D A cap 2 cX6_init 1 RX6 true none m none h' H0 cx sx Z) (hf : fX6_init_c15 cap a0 h = some h') (hM : PI D A cap H0 h H locs) (hl : lv_has ls 1 [(0, .ref a0)]) : Z H locs (cx H) (sx H) (F0 m 968 ls []) := by
  unfold fX6_init_c15 at hf
  have G := X.g
  refine g_aload_n G dX6_init_968 rfl (lv_at hl 0 rfl) ?_
  refine g_bipush (v := 41) G dX6_init_969 rfl ?_
  obtain ⟨b1, hf⟩ := ck_open hf
  obtain ⟨p1, h1, g1, hf⟩ := bnd_open hf
  refine p_newI X hM b1 g1 dX6_init_971 (fun H locs hM => ?_)
  obtain ⟨h2, g2, hf⟩ := bnv_open hf
  refine p_putF (k := 54) X hM pc_6 (by decide) q1678 rfl rfl rfl rfl rfl g2 dX6_init_973 (fun H locs hM => ?_)
  refine g_aload_n G dX6_init_976 rfl (lv_at hl 0 rfl) ?_
  refine g_bipush (v := 8) G dX6_init_977 rfl ?_
  obtain ⟨b2, hf⟩ := ck_open hf
  obtain ⟨p2, h3, g3, hf⟩ := bnd_open hf
  refine p_newI X hM b2 g3 dX6_init_979 (fun H locs hM => ?_)
  obtain ⟨h4, g4, hf⟩ := bnv_open hf
  refine p_putF (k := 56) X hM pc_6 (by decide) q1680 rfl rfl rfl rfl rfl g4 dX6_init_981 (fun H locs hM => ?_)
  refine g_aload_n G dX6_init_984 rfl (lv_at hl 0 rfl) ?_
  refine g_bipush (v := 8) G dX6_init_985 rfl ?_
  obtain ⟨b3, hf⟩ := ck_open hf
  obtain ⟨p3, h5, g5, hf⟩ := bnd_open hf
  refine p_newI X hM b3 g5 dX6_init_987 (fun H locs hM => ?_)
  obtain ⟨h6, g6, hf⟩ := bnv_open hf
  refine p_putF (k := 57) X hM pc_6 (by decide) q1681 rfl rfl rfl rfl rfl g6 dX6_init_989 (fun H locs hM => ?_)
  refine g_aload_n G dX6_init_992 rfl (lv_at hl 0 rfl) ?_
  refine g_bipush (v := 32) G dX6_init_993 rfl ?_
  obtain ⟨b4, hf⟩ := ck_open hf
  obtain ⟨p4, h7, g7, hf⟩ := bnd_open hf
  refine p_newI X hM b4 g7 dX6_init_995 (fun H locs hM => ?_)
  obtain ⟨h8, g8, hf⟩ := bnv_open hf
  refine p_putF (k := 61) X hM pc_6 (by decide) q1685 rfl rfl rfl rfl rfl g8 dX6_init_997 (fun H locs hM => ?_)
  refine g_aload_n G dX6_init_1000 rfl (lv_at hl 0 rfl) ?_
  refine g_bipush (v := 8) G dX6_init_1001 rfl ?_
  obtain ⟨b5, hf⟩ := ck_open hf
  obtain ⟨p5, h9, g9, hf⟩ := bnd_open hf
  refine p_newI X hM b5 g9 dX6_init_1003 (fun H locs hM => ?_)
  obtain ⟨h10, g10, hf⟩ := bnv_open hf
  refine p_putF (k := 62) X hM pc_6 (by decide) q1686 rfl rfl rfl rfl rfl g10 dX6_init_1005 (fun H locs hM => ?_)
  refine g_aload_n G dX6_init_1008 rfl (lv_at hl 0 rfl) ?_
  refine g_bipush (v := 24) G dX6_init_1009 rfl ?_
  obtain ⟨b6, hf⟩ := ck_open hf
  obtain ⟨p6, h11, g11, hf⟩ := bnd_open hf
  refine p_newI X hM b6 g11 dX6_init_1011 (fun H locs hM => ?_)
  obtain ⟨h12, g12, hf⟩ := bnv_open hf
  refine p_putF (k := 63) X hM pc_6 (by decide) q1687 rfl rfl rfl rfl rfl g12 dX6_init_1013 (fun H locs hM => ?_)
  refine g_aload_n G dX6_init_1016 rfl (lv_at hl 0 rfl) ?_
  refine g_sipush (v := 2640) G dX6_init_1017 rfl ?_
  obtain ⟨b7, hf⟩ := ck_open hf
  obtain ⟨p7, h13, g13, hf⟩ := bnd_open hf
  refine p_newI X hM b7 g13 dX6_init_1020 (fun H locs hM => ?_)
  obtain ⟨h14, g14, hf⟩ := bnv_open hf
  refine p_putF (k := 64) X hM pc_6 (by decide) q1688 rfl rfl rfl rfl rfl g14 dX6_init_1022 (fun H locs hM => ?_)
  refine g_aload_n G dX6_init_1025 rfl (lv_at hl 0 rfl) ?_
  refine g_lconst (v := 1) G dX6_init_1026 rfl ?_
  obtain ⟨h15, g15, hf⟩ := bnv_open hf
  refine p_put (k := 67) X hM pc_6 (by decide) q1691 rfl rfl rfl rfl g15 dX6_init_1027 (fun H locs hM => ?_)
  refine g_aload_n G dX6_init_1030 rfl (lv_at hl 0 rfl) ?_
  refine g_iconst (v := 5) G dX6_init_1031 rfl ?_
  obtain ⟨b8, hf⟩ := ck_open hf
  obtain ⟨p8, h16, g16, hf⟩ := bnd_open hf
  refine p_newC X hM b8 g16 dX6_init_1032 (fun H locs hM => ?_)
  refine g_dup G dX6_init_1034 rfl ?_
  refine g_iconst (v := 0) G dX6_init_1035 rfl ?_
  refine g_bipush (v := 102) G dX6_init_1036 rfl ?_
  obtain ⟨h17, g17, hf⟩ := bnv_open hf
  refine p_cast X hM g17 dX6_init_1038 (fun H locs hM => ?_)
  refine g_dup G dX6_init_1039 rfl ?_
  refine g_iconst (v := 1) G dX6_init_1040 rfl ?_
  refine g_bipush (v := 105) G dX6_init_1041 rfl ?_
  obtain ⟨h18, g18, hf⟩ := bnv_open hf
  refine p_cast X hM g18 dX6_init_1043 (fun H locs hM => ?_)
  refine g_dup G dX6_init_1044 rfl ?_
  refine g_iconst (v := 2) G dX6_init_1045 rfl ?_
  refine g_bipush (v := 114) G dX6_init_1046 rfl ?_
  obtain ⟨h19, g19, hf⟩ := bnv_open hf
  refine p_cast X hM g19 dX6_init_1048 (fun H locs hM => ?_)
  refine g_dup G dX6_init_1049 rfl ?_
  refine g_iconst (v := 3) G dX6_init_1050 rfl ?_
  refine g_bipush (v := 115) G dX6_init_1051 rfl ?_
  obtain ⟨h20, g20, hf⟩ := bnv_open hf
  refine p_cast X hM g20 dX6_init_1053 (fun H locs hM => ?_)
  refine g_dup G dX6_init_1054 rfl ?_
  refine g_iconst (v := 4) G dX6_init_1055 rfl ?_
  refine g_bipush (v := 116) G dX6_init_1056 rfl ?_
  obtain ⟨h21, g21, hf⟩ := bnv_open hf
  refine p_cast X hM g21 dX6_init_1058 (fun H locs hM => ?_)
  obtain ⟨h22, g22, hf⟩ := bnv_open hf
  refine p_putF (k := 68) X hM pc_6 (by decide) q1692 rfl rfl rfl rfl rfl g22 dX6_init_1059 (fun H locs hM => ?_)
  exact kX6_init_c16 X hf hM hl
noncomputable def fX6_init_c14 (cap : Nat × Nat) (a0 : Nat) (h : PH) : Option PH :=
  ck (!decide ((6 : Int32) < 0) && decide ((Int32.toNatClampNeg 6) ≤ 100000)) <|
  bnd (pNew cap h (.inl (0, (Int32.toNatClampNeg 6), .inl (fun _ => 0))) (Int32.toNatClampNeg 6)) fun p1 h1 =>
  bnv (pSt h1 p1 0 0 (-1)) fun h2 =>
  bnv (pSt h2 p1 0 1 (-1)) fun h3 =>
  bnv (pSt h3 p1 0 2 (-1)) fun h4 =>
  bnv (pSt h4 p1 0 3 (-1)) fun h5 =>
  bnv (pSt h5 p1 0 4 (-1)) fun h6 =>
  bnv (pSt h6 p1 0 5 (-1)) fun h7 =>
  bnv (pPut h7 a0 6 47 (.ref p1)) fun h8 =>
  ck (!decide ((6 : Int32) < 0) && decide ((Int32.toNatClampNeg 6) ≤ 100000)) <|
  bnd (pNew cap h8 (.inl (0, (Int32.toNatClampNeg 6), .inl (fun _ => 0))) (Int32.toNatClampNeg 6)) fun p2 h9 =>
  bnv (pPut h9 a0 6 48 (.ref p2)) fun h10 =>
  ck (!decide ((3200 : Int32) < 0) && decide ((Int32.toNatClampNeg 3200) ≤ 100000)) <|
  bnd (pNew cap h10 (.inl (0, (Int32.toNatClampNeg 3200), .inl (fun _ => 0))) (Int32.toNatClampNeg 3200)) fun p3 h11 =>
  bnv (pPut h11 a0 6 49 (.ref p3)) fun h12 =>
  ck (!decide ((132 : Int32) < 0) && decide ((Int32.toNatClampNeg 132) ≤ 100000)) <|
  bnd (pNew cap h12 (.inl (0, (Int32.toNatClampNeg 132), .inl (fun _ => 0))) (Int32.toNatClampNeg 132)) fun p4 h13 =>
  bnv (pPut h13 a0 6 53 (.ref p4)) fun h14 =>
  fX6_init_c15 cap a0 h14
set_option maxHeartbeats 1000000 in
theorem kX6_init_c14 {a0 : Nat} (X : pX l D A cap 2 cX6_init 1 RX6 true none m none h' H0 cx sx Z) (hf : fX6_init_c14 cap a0 h = some h') (hM : PI D A cap H0 h H locs) (hl : lv_has ls 1 [(0, .ref a0)]) : Z H locs (cx H) (sx H) (F0 m 910 ls []) := by
  unfold fX6_init_c14 at hf
  have G := X.g
  refine g_aload_n G dX6_init_910 rfl (lv_at hl 0 rfl) ?_
  refine g_bipush (v := 6) G dX6_init_911 rfl ?_
  obtain ⟨b1, hf⟩ := ck_open hf
  obtain ⟨p1, h1, g1, hf⟩ := bnd_open hf
  refine p_newI X hM b1 g1 dX6_init_913 (fun H locs hM => ?_)
  refine g_dup G dX6_init_915 rfl ?_
  refine g_iconst (v := 0) G dX6_init_916 rfl ?_
  refine g_iconst (v := (-1)) G dX6_init_917 rfl ?_
  obtain ⟨h2, g2, hf⟩ := bnv_open hf
  refine p_iast X hM g2 dX6_init_918 (fun H locs hM => ?_)
  refine g_dup G dX6_init_919 rfl ?_
  refine g_iconst (v := 1) G dX6_init_920 rfl ?_
  refine g_iconst (v := (-1)) G dX6_init_921 rfl ?_
  obtain ⟨h3, g3, hf⟩ := bnv_open hf
  refine p_iast X hM g3 dX6_init_922 (fun H locs hM => ?_)
  refine g_dup G dX6_init_923 rfl ?_
  refine g_iconst (v := 2) G dX6_init_924 rfl ?_
  refine g_iconst (v := (-1)) G dX6_init_925 rfl ?_
  obtain ⟨h4, g4, hf⟩ := bnv_open hf
  refine p_iast X hM g4 dX6_init_926 (fun H locs hM => ?_)
  refine g_dup G dX6_init_927 rfl ?_
  refine g_iconst (v := 3) G dX6_init_928 rfl ?_
  refine g_iconst (v := (-1)) G dX6_init_929 rfl ?_
  obtain ⟨h5, g5, hf⟩ := bnv_open hf
  refine p_iast X hM g5 dX6_init_930 (fun H locs hM => ?_)
  refine g_dup G dX6_init_931 rfl ?_
  refine g_iconst (v := 4) G dX6_init_932 rfl ?_
  refine g_iconst (v := (-1)) G dX6_init_933 rfl ?_
  obtain ⟨h6, g6, hf⟩ := bnv_open hf
  refine p_iast X hM g6 dX6_init_934 (fun H locs hM => ?_)
  refine g_dup G dX6_init_935 rfl ?_
  refine g_iconst (v := 5) G dX6_init_936 rfl ?_
  refine g_iconst (v := (-1)) G dX6_init_937 rfl ?_
  obtain ⟨h7, g7, hf⟩ := bnv_open hf
  refine p_iast X hM g7 dX6_init_938 (fun H locs hM => ?_)
  obtain ⟨h8, g8, hf⟩ := bnv_open hf
  refine p_putF (k := 47) X hM pc_6 (by decide) q1671 rfl rfl rfl rfl rfl g8 dX6_init_939 (fun H locs hM => ?_)
  refine g_aload_n G dX6_init_942 rfl (lv_at hl 0 rfl) ?_
  refine g_bipush (v := 6) G dX6_init_943 rfl ?_
  obtain ⟨b2, hf⟩ := ck_open hf
  obtain ⟨p2, h9, g9, hf⟩ := bnd_open hf
  refine p_newI X hM b2 g9 dX6_init_945 (fun H locs hM => ?_)
  obtain ⟨h10, g10, hf⟩ := bnv_open hf
  refine p_putF (k := 48) X hM pc_6 (by decide) q1672 rfl rfl rfl rfl rfl g10 dX6_init_947 (fun H locs hM => ?_)
  refine g_aload_n G dX6_init_950 rfl (lv_at hl 0 rfl) ?_
  refine g_sipush (v := 3200) G dX6_init_951 rfl ?_
  obtain ⟨b3, hf⟩ := ck_open hf
  obtain ⟨p3, h11, g11, hf⟩ := bnd_open hf
  refine p_newI X hM b3 g11 dX6_init_954 (fun H locs hM => ?_)
  obtain ⟨h12, g12, hf⟩ := bnv_open hf
  refine p_putF (k := 49) X hM pc_6 (by decide) q1673 rfl rfl rfl rfl rfl g12 dX6_init_956 (fun H locs hM => ?_)
  refine g_aload_n G dX6_init_959 rfl (lv_at hl 0 rfl) ?_
  refine g_sipush (v := 132) G dX6_init_960 rfl ?_
  obtain ⟨b4, hf⟩ := ck_open hf
  obtain ⟨p4, h13, g13, hf⟩ := bnd_open hf
  refine p_newI X hM b4 g13 dX6_init_963 (fun H locs hM => ?_)
  obtain ⟨h14, g14, hf⟩ := bnv_open hf
  refine p_putF (k := 53) X hM pc_6 (by decide) q1677 rfl rfl rfl rfl rfl g14 dX6_init_965 (fun H locs hM => ?_)
  exact kX6_init_c15 X hf hM hl
noncomputable def fX6_init_c13 (cap : Nat × Nat) (a0 : Nat) (h : PH) : Option PH :=
  ck (!decide ((4 : Int32) < 0) && decide ((Int32.toNatClampNeg 4) ≤ 100000)) <|
  bnd (pNew cap h (.inl (0, (Int32.toNatClampNeg 4), .inl (fun _ => 0))) (Int32.toNatClampNeg 4)) fun p1 h1 =>
  bnv (pPut h1 a0 6 39 (.ref p1)) fun h2 =>
  ck (!decide ((32 : Int32) < 0) && decide ((Int32.toNatClampNeg 32) ≤ 100000)) <|
  bnd (pNew cap h2 (.inl (1, (Int32.toNatClampNeg 32), .inr (.inl (fun _ => 0)))) (Int32.toNatClampNeg 32)) fun p2 h3 =>
  bnv (pPut h3 a0 6 40 (.ref p2)) fun h4 =>
  ck (!decide ((16 : Int32) < 0) && decide ((Int32.toNatClampNeg 16) ≤ 100000)) <|
  bnd (pNew cap h4 (.inl (0, (Int32.toNatClampNeg 16), .inl (fun _ => 0))) (Int32.toNatClampNeg 16)) fun p3 h5 =>
  bnv (pPut h5 a0 6 41 (.ref p3)) fun h6 =>
  ck (!decide ((16 : Int32) < 0) && decide ((Int32.toNatClampNeg 16) ≤ 100000)) <|
  bnd (pNew cap h6 (.inl (0, (Int32.toNatClampNeg 16), .inl (fun _ => 0))) (Int32.toNatClampNeg 16)) fun p4 h7 =>
  bnv (pPut h7 a0 6 42 (.ref p4)) fun h8 =>
  ck (!decide ((8 : Int32) < 0) && decide ((Int32.toNatClampNeg 8) ≤ 100000)) <|
  bnd (pNew cap h8 (.inl (0, (Int32.toNatClampNeg 8), .inl (fun _ => 0))) (Int32.toNatClampNeg 8)) fun p5 h9 =>
  bnv (pPut h9 a0 6 43 (.ref p5)) fun h10 =>
  ck (!decide ((8 : Int32) < 0) && decide ((Int32.toNatClampNeg 8) ≤ 100000)) <|
  bnd (pNew cap h10 (.inl (0, (Int32.toNatClampNeg 8), .inl (fun _ => 0))) (Int32.toNatClampNeg 8)) fun p6 h11 =>
  bnv (pPut h11 a0 6 44 (.ref p6)) fun h12 =>
  ck (!decide ((8 : Int32) < 0) && decide ((Int32.toNatClampNeg 8) ≤ 100000)) <|
  bnd (pNew cap h12 (.inl (0, (Int32.toNatClampNeg 8), .inl (fun _ => 0))) (Int32.toNatClampNeg 8)) fun p7 h13 =>
  bnv (pPut h13 a0 6 45 (.ref p7)) fun h14 =>
  ck (!decide ((6 : Int32) < 0) && decide ((Int32.toNatClampNeg 6) ≤ 100000)) <|
  bnd (pNew cap h14 (.inl (0, (Int32.toNatClampNeg 6), .inl (fun _ => 0))) (Int32.toNatClampNeg 6)) fun p8 h15 =>
  bnv (pSt h15 p8 0 0 10) fun h16 =>
  bnv (pSt h16 p8 0 1 3) fun h17 =>
  bnv (pSt h17 p8 0 2 0) fun h18 =>
  bnv (pSt h18 p8 0 3 10) fun h19 =>
  bnv (pSt h19 p8 0 4 3) fun h20 =>
  bnv (pSt h20 p8 0 5 0) fun h21 =>
  bnv (pPut h21 a0 6 46 (.ref p8)) fun h22 =>
  fX6_init_c14 cap a0 h22
set_option maxHeartbeats 1000000 in
theorem kX6_init_c13 {a0 : Nat} (X : pX l D A cap 2 cX6_init 1 RX6 true none m none h' H0 cx sx Z) (hf : fX6_init_c13 cap a0 h = some h') (hM : PI D A cap H0 h H locs) (hl : lv_has ls 1 [(0, .ref a0)]) : Z H locs (cx H) (sx H) (F0 m 821 ls []) := by
  unfold fX6_init_c13 at hf
  have G := X.g
  refine g_aload_n G dX6_init_821 rfl (lv_at hl 0 rfl) ?_
  refine g_iconst (v := 4) G dX6_init_822 rfl ?_
  obtain ⟨b1, hf⟩ := ck_open hf
  obtain ⟨p1, h1, g1, hf⟩ := bnd_open hf
  refine p_newI X hM b1 g1 dX6_init_823 (fun H locs hM => ?_)
  obtain ⟨h2, g2, hf⟩ := bnv_open hf
  refine p_putF (k := 39) X hM pc_6 (by decide) q1663 rfl rfl rfl rfl rfl g2 dX6_init_825 (fun H locs hM => ?_)
  refine g_aload_n G dX6_init_828 rfl (lv_at hl 0 rfl) ?_
  refine g_bipush (v := 32) G dX6_init_829 rfl ?_
  obtain ⟨b2, hf⟩ := ck_open hf
  obtain ⟨p2, h3, g3, hf⟩ := bnd_open hf
  refine p_newJ X hM b2 g3 dX6_init_831 (fun H locs hM => ?_)
  obtain ⟨h4, g4, hf⟩ := bnv_open hf
  refine p_putF (k := 40) X hM pc_6 (by decide) q1664 rfl rfl rfl rfl rfl g4 dX6_init_833 (fun H locs hM => ?_)
  refine g_aload_n G dX6_init_836 rfl (lv_at hl 0 rfl) ?_
  refine g_bipush (v := 16) G dX6_init_837 rfl ?_
  obtain ⟨b3, hf⟩ := ck_open hf
  obtain ⟨p3, h5, g5, hf⟩ := bnd_open hf
  refine p_newI X hM b3 g5 dX6_init_839 (fun H locs hM => ?_)
  obtain ⟨h6, g6, hf⟩ := bnv_open hf
  refine p_putF (k := 41) X hM pc_6 (by decide) q1665 rfl rfl rfl rfl rfl g6 dX6_init_841 (fun H locs hM => ?_)
  refine g_aload_n G dX6_init_844 rfl (lv_at hl 0 rfl) ?_
  refine g_bipush (v := 16) G dX6_init_845 rfl ?_
  obtain ⟨b4, hf⟩ := ck_open hf
  obtain ⟨p4, h7, g7, hf⟩ := bnd_open hf
  refine p_newI X hM b4 g7 dX6_init_847 (fun H locs hM => ?_)
  obtain ⟨h8, g8, hf⟩ := bnv_open hf
  refine p_putF (k := 42) X hM pc_6 (by decide) q1666 rfl rfl rfl rfl rfl g8 dX6_init_849 (fun H locs hM => ?_)
  refine g_aload_n G dX6_init_852 rfl (lv_at hl 0 rfl) ?_
  refine g_bipush (v := 8) G dX6_init_853 rfl ?_
  obtain ⟨b5, hf⟩ := ck_open hf
  obtain ⟨p5, h9, g9, hf⟩ := bnd_open hf
  refine p_newI X hM b5 g9 dX6_init_855 (fun H locs hM => ?_)
  obtain ⟨h10, g10, hf⟩ := bnv_open hf
  refine p_putF (k := 43) X hM pc_6 (by decide) q1667 rfl rfl rfl rfl rfl g10 dX6_init_857 (fun H locs hM => ?_)
  refine g_aload_n G dX6_init_860 rfl (lv_at hl 0 rfl) ?_
  refine g_bipush (v := 8) G dX6_init_861 rfl ?_
  obtain ⟨b6, hf⟩ := ck_open hf
  obtain ⟨p6, h11, g11, hf⟩ := bnd_open hf
  refine p_newI X hM b6 g11 dX6_init_863 (fun H locs hM => ?_)
  obtain ⟨h12, g12, hf⟩ := bnv_open hf
  refine p_putF (k := 44) X hM pc_6 (by decide) q1668 rfl rfl rfl rfl rfl g12 dX6_init_865 (fun H locs hM => ?_)
  refine g_aload_n G dX6_init_868 rfl (lv_at hl 0 rfl) ?_
  refine g_bipush (v := 8) G dX6_init_869 rfl ?_
  obtain ⟨b7, hf⟩ := ck_open hf
  obtain ⟨p7, h13, g13, hf⟩ := bnd_open hf
  refine p_newI X hM b7 g13 dX6_init_871 (fun H locs hM => ?_)
  obtain ⟨h14, g14, hf⟩ := bnv_open hf
  refine p_putF (k := 45) X hM pc_6 (by decide) q1669 rfl rfl rfl rfl rfl g14 dX6_init_873 (fun H locs hM => ?_)
  refine g_aload_n G dX6_init_876 rfl (lv_at hl 0 rfl) ?_
  refine g_bipush (v := 6) G dX6_init_877 rfl ?_
  obtain ⟨b8, hf⟩ := ck_open hf
  obtain ⟨p8, h15, g15, hf⟩ := bnd_open hf
  refine p_newI X hM b8 g15 dX6_init_879 (fun H locs hM => ?_)
  refine g_dup G dX6_init_881 rfl ?_
  refine g_iconst (v := 0) G dX6_init_882 rfl ?_
  refine g_bipush (v := 10) G dX6_init_883 rfl ?_
  obtain ⟨h16, g16, hf⟩ := bnv_open hf
  refine p_iast X hM g16 dX6_init_885 (fun H locs hM => ?_)
  refine g_dup G dX6_init_886 rfl ?_
  refine g_iconst (v := 1) G dX6_init_887 rfl ?_
  refine g_iconst (v := 3) G dX6_init_888 rfl ?_
  obtain ⟨h17, g17, hf⟩ := bnv_open hf
  refine p_iast X hM g17 dX6_init_889 (fun H locs hM => ?_)
  refine g_dup G dX6_init_890 rfl ?_
  refine g_iconst (v := 2) G dX6_init_891 rfl ?_
  refine g_iconst (v := 0) G dX6_init_892 rfl ?_
  obtain ⟨h18, g18, hf⟩ := bnv_open hf
  refine p_iast X hM g18 dX6_init_893 (fun H locs hM => ?_)
  refine g_dup G dX6_init_894 rfl ?_
  refine g_iconst (v := 3) G dX6_init_895 rfl ?_
  refine g_bipush (v := 10) G dX6_init_896 rfl ?_
  obtain ⟨h19, g19, hf⟩ := bnv_open hf
  refine p_iast X hM g19 dX6_init_898 (fun H locs hM => ?_)
  refine g_dup G dX6_init_899 rfl ?_
  refine g_iconst (v := 4) G dX6_init_900 rfl ?_
  refine g_iconst (v := 3) G dX6_init_901 rfl ?_
  obtain ⟨h20, g20, hf⟩ := bnv_open hf
  refine p_iast X hM g20 dX6_init_902 (fun H locs hM => ?_)
  refine g_dup G dX6_init_903 rfl ?_
  refine g_iconst (v := 5) G dX6_init_904 rfl ?_
  refine g_iconst (v := 0) G dX6_init_905 rfl ?_
  obtain ⟨h21, g21, hf⟩ := bnv_open hf
  refine p_iast X hM g21 dX6_init_906 (fun H locs hM => ?_)
  obtain ⟨h22, g22, hf⟩ := bnv_open hf
  refine p_putF (k := 46) X hM pc_6 (by decide) q1670 rfl rfl rfl rfl rfl g22 dX6_init_907 (fun H locs hM => ?_)
  exact kX6_init_c14 X hf hM hl
noncomputable def fX6_init_c12 (cap : Nat × Nat) (a0 : Nat) (h : PH) : Option PH :=
  ck (!decide ((3 : Int32) < 0) && decide ((Int32.toNatClampNeg 3) ≤ 100000)) <|
  bnd (pNew cap h (.inl (3, (Int32.toNatClampNeg 3), .inl (fun _ => 0))) (Int32.toNatClampNeg 3)) fun p1 h1 =>
  bnv (pSt h1 p1 3 0 (vp_nar .char 97)) fun h2 =>
  bnv (pSt h2 p1 3 1 (vp_nar .char 108)) fun h3 =>
  bnv (pSt h3 p1 3 2 (vp_nar .char 108)) fun h4 =>
  bnv (pPut h4 a0 6 35 (.ref p1)) fun h5 =>
  ck (!decide ((3 : Int32) < 0) && decide ((Int32.toNatClampNeg 3) ≤ 100000)) <|
  bnd (pNew cap h5 (.inl (3, (Int32.toNatClampNeg 3), .inl (fun _ => 0))) (Int32.toNatClampNeg 3)) fun p2 h6 =>
  bnv (pSt h6 p2 3 0 (vp_nar .char 109)) fun h7 =>
  bnv (pSt h7 p2 3 1 (vp_nar .char 105)) fun h8 =>
  bnv (pSt h8 p2 3 2 (vp_nar .char 110)) fun h9 =>
  bnv (pPut h9 a0 6 36 (.ref p2)) fun h10 =>
  ck (!decide ((3 : Int32) < 0) && decide ((Int32.toNatClampNeg 3) ≤ 100000)) <|
  bnd (pNew cap h10 (.inl (3, (Int32.toNatClampNeg 3), .inl (fun _ => 0))) (Int32.toNatClampNeg 3)) fun p3 h11 =>
  bnv (pSt h11 p3 3 0 (vp_nar .char 109)) fun h12 =>
  bnv (pSt h12 p3 3 1 (vp_nar .char 97)) fun h13 =>
  bnv (pSt h13 p3 3 2 (vp_nar .char 120)) fun h14 =>
  bnv (pPut h14 a0 6 37 (.ref p3)) fun h15 =>
  fX6_init_c13 cap a0 h15
set_option maxHeartbeats 1000000 in
theorem kX6_init_c12 {a0 : Nat} (X : pX l D A cap 2 cX6_init 1 RX6 true none m none h' H0 cx sx Z) (hf : fX6_init_c12 cap a0 h = some h') (hM : PI D A cap H0 h H locs) (hl : lv_has ls 1 [(0, .ref a0)]) : Z H locs (cx H) (sx H) (F0 m 755 ls []) := by
  unfold fX6_init_c12 at hf
  have G := X.g
  refine g_aload_n G dX6_init_755 rfl (lv_at hl 0 rfl) ?_
  refine g_iconst (v := 3) G dX6_init_756 rfl ?_
  obtain ⟨b1, hf⟩ := ck_open hf
  obtain ⟨p1, h1, g1, hf⟩ := bnd_open hf
  refine p_newC X hM b1 g1 dX6_init_757 (fun H locs hM => ?_)
  refine g_dup G dX6_init_759 rfl ?_
  refine g_iconst (v := 0) G dX6_init_760 rfl ?_
  refine g_bipush (v := 97) G dX6_init_761 rfl ?_
  obtain ⟨h2, g2, hf⟩ := bnv_open hf
  refine p_cast X hM g2 dX6_init_763 (fun H locs hM => ?_)
  refine g_dup G dX6_init_764 rfl ?_
  refine g_iconst (v := 1) G dX6_init_765 rfl ?_
  refine g_bipush (v := 108) G dX6_init_766 rfl ?_
  obtain ⟨h3, g3, hf⟩ := bnv_open hf
  refine p_cast X hM g3 dX6_init_768 (fun H locs hM => ?_)
  refine g_dup G dX6_init_769 rfl ?_
  refine g_iconst (v := 2) G dX6_init_770 rfl ?_
  refine g_bipush (v := 108) G dX6_init_771 rfl ?_
  obtain ⟨h4, g4, hf⟩ := bnv_open hf
  refine p_cast X hM g4 dX6_init_773 (fun H locs hM => ?_)
  obtain ⟨h5, g5, hf⟩ := bnv_open hf
  refine p_putF (k := 35) X hM pc_6 (by decide) q1659 rfl rfl rfl rfl rfl g5 dX6_init_774 (fun H locs hM => ?_)
  refine g_aload_n G dX6_init_777 rfl (lv_at hl 0 rfl) ?_
  refine g_iconst (v := 3) G dX6_init_778 rfl ?_
  obtain ⟨b2, hf⟩ := ck_open hf
  obtain ⟨p2, h6, g6, hf⟩ := bnd_open hf
  refine p_newC X hM b2 g6 dX6_init_779 (fun H locs hM => ?_)
  refine g_dup G dX6_init_781 rfl ?_
  refine g_iconst (v := 0) G dX6_init_782 rfl ?_
  refine g_bipush (v := 109) G dX6_init_783 rfl ?_
  obtain ⟨h7, g7, hf⟩ := bnv_open hf
  refine p_cast X hM g7 dX6_init_785 (fun H locs hM => ?_)
  refine g_dup G dX6_init_786 rfl ?_
  refine g_iconst (v := 1) G dX6_init_787 rfl ?_
  refine g_bipush (v := 105) G dX6_init_788 rfl ?_
  obtain ⟨h8, g8, hf⟩ := bnv_open hf
  refine p_cast X hM g8 dX6_init_790 (fun H locs hM => ?_)
  refine g_dup G dX6_init_791 rfl ?_
  refine g_iconst (v := 2) G dX6_init_792 rfl ?_
  refine g_bipush (v := 110) G dX6_init_793 rfl ?_
  obtain ⟨h9, g9, hf⟩ := bnv_open hf
  refine p_cast X hM g9 dX6_init_795 (fun H locs hM => ?_)
  obtain ⟨h10, g10, hf⟩ := bnv_open hf
  refine p_putF (k := 36) X hM pc_6 (by decide) q1660 rfl rfl rfl rfl rfl g10 dX6_init_796 (fun H locs hM => ?_)
  refine g_aload_n G dX6_init_799 rfl (lv_at hl 0 rfl) ?_
  refine g_iconst (v := 3) G dX6_init_800 rfl ?_
  obtain ⟨b3, hf⟩ := ck_open hf
  obtain ⟨p3, h11, g11, hf⟩ := bnd_open hf
  refine p_newC X hM b3 g11 dX6_init_801 (fun H locs hM => ?_)
  refine g_dup G dX6_init_803 rfl ?_
  refine g_iconst (v := 0) G dX6_init_804 rfl ?_
  refine g_bipush (v := 109) G dX6_init_805 rfl ?_
  obtain ⟨h12, g12, hf⟩ := bnv_open hf
  refine p_cast X hM g12 dX6_init_807 (fun H locs hM => ?_)
  refine g_dup G dX6_init_808 rfl ?_
  refine g_iconst (v := 1) G dX6_init_809 rfl ?_
  refine g_bipush (v := 97) G dX6_init_810 rfl ?_
  obtain ⟨h13, g13, hf⟩ := bnv_open hf
  refine p_cast X hM g13 dX6_init_812 (fun H locs hM => ?_)
  refine g_dup G dX6_init_813 rfl ?_
  refine g_iconst (v := 2) G dX6_init_814 rfl ?_
  refine g_bipush (v := 120) G dX6_init_815 rfl ?_
  obtain ⟨h14, g14, hf⟩ := bnv_open hf
  refine p_cast X hM g14 dX6_init_817 (fun H locs hM => ?_)
  obtain ⟨h15, g15, hf⟩ := bnv_open hf
  refine p_putF (k := 37) X hM pc_6 (by decide) q1661 rfl rfl rfl rfl rfl g15 dX6_init_818 (fun H locs hM => ?_)
  exact kX6_init_c13 X hf hM hl
noncomputable def fX6_init_c11 (cap : Nat × Nat) (a0 : Nat) (h : PH) : Option PH :=
  ck (!decide ((2 : Int32) < 0) && decide ((Int32.toNatClampNeg 2) ≤ 100000)) <|
  bnd (pNew cap h (.inl (3, (Int32.toNatClampNeg 2), .inl (fun _ => 0))) (Int32.toNatClampNeg 2)) fun p1 h1 =>
  bnv (pSt h1 p1 3 0 (vp_nar .char 111)) fun h2 =>
  bnv (pSt h2 p1 3 1 (vp_nar .char 114)) fun h3 =>
  bnv (pPut h3 a0 6 32 (.ref p1)) fun h4 =>
  ck (!decide ((3 : Int32) < 0) && decide ((Int32.toNatClampNeg 3) ≤ 100000)) <|
  bnd (pNew cap h4 (.inl (3, (Int32.toNatClampNeg 3), .inl (fun _ => 0))) (Int32.toNatClampNeg 3)) fun p2 h5 =>
  bnv (pSt h5 p2 3 0 (vp_nar .char 97)) fun h6 =>
  bnv (pSt h6 p2 3 1 (vp_nar .char 110)) fun h7 =>
  bnv (pSt h7 p2 3 2 (vp_nar .char 100)) fun h8 =>
  bnv (pPut h8 a0 6 33 (.ref p2)) fun h9 =>
  ck (!decide ((3 : Int32) < 0) && decide ((Int32.toNatClampNeg 3) ≤ 100000)) <|
  bnd (pNew cap h9 (.inl (3, (Int32.toNatClampNeg 3), .inl (fun _ => 0))) (Int32.toNatClampNeg 3)) fun p3 h10 =>
  bnv (pSt h10 p3 3 0 (vp_nar .char 110)) fun h11 =>
  bnv (pSt h11 p3 3 1 (vp_nar .char 111)) fun h12 =>
  bnv (pSt h12 p3 3 2 (vp_nar .char 116)) fun h13 =>
  bnv (pPut h13 a0 6 34 (.ref p3)) fun h14 =>
  fX6_init_c12 cap a0 h14
set_option maxHeartbeats 1000000 in
theorem kX6_init_c11 {a0 : Nat} (X : pX l D A cap 2 cX6_init 1 RX6 true none m none h' H0 cx sx Z) (hf : fX6_init_c11 cap a0 h = some h') (hM : PI D A cap H0 h H locs) (hl : lv_has ls 1 [(0, .ref a0)]) : Z H locs (cx H) (sx H) (F0 m 694 ls []) := by
  unfold fX6_init_c11 at hf
  have G := X.g
  refine g_aload_n G dX6_init_694 rfl (lv_at hl 0 rfl) ?_
  refine g_iconst (v := 2) G dX6_init_695 rfl ?_
  obtain ⟨b1, hf⟩ := ck_open hf
  obtain ⟨p1, h1, g1, hf⟩ := bnd_open hf
  refine p_newC X hM b1 g1 dX6_init_696 (fun H locs hM => ?_)
  refine g_dup G dX6_init_698 rfl ?_
  refine g_iconst (v := 0) G dX6_init_699 rfl ?_
  refine g_bipush (v := 111) G dX6_init_700 rfl ?_
  obtain ⟨h2, g2, hf⟩ := bnv_open hf
  refine p_cast X hM g2 dX6_init_702 (fun H locs hM => ?_)
  refine g_dup G dX6_init_703 rfl ?_
  refine g_iconst (v := 1) G dX6_init_704 rfl ?_
  refine g_bipush (v := 114) G dX6_init_705 rfl ?_
  obtain ⟨h3, g3, hf⟩ := bnv_open hf
  refine p_cast X hM g3 dX6_init_707 (fun H locs hM => ?_)
  obtain ⟨h4, g4, hf⟩ := bnv_open hf
  refine p_putF (k := 32) X hM pc_6 (by decide) q1656 rfl rfl rfl rfl rfl g4 dX6_init_708 (fun H locs hM => ?_)
  refine g_aload_n G dX6_init_711 rfl (lv_at hl 0 rfl) ?_
  refine g_iconst (v := 3) G dX6_init_712 rfl ?_
  obtain ⟨b2, hf⟩ := ck_open hf
  obtain ⟨p2, h5, g5, hf⟩ := bnd_open hf
  refine p_newC X hM b2 g5 dX6_init_713 (fun H locs hM => ?_)
  refine g_dup G dX6_init_715 rfl ?_
  refine g_iconst (v := 0) G dX6_init_716 rfl ?_
  refine g_bipush (v := 97) G dX6_init_717 rfl ?_
  obtain ⟨h6, g6, hf⟩ := bnv_open hf
  refine p_cast X hM g6 dX6_init_719 (fun H locs hM => ?_)
  refine g_dup G dX6_init_720 rfl ?_
  refine g_iconst (v := 1) G dX6_init_721 rfl ?_
  refine g_bipush (v := 110) G dX6_init_722 rfl ?_
  obtain ⟨h7, g7, hf⟩ := bnv_open hf
  refine p_cast X hM g7 dX6_init_724 (fun H locs hM => ?_)
  refine g_dup G dX6_init_725 rfl ?_
  refine g_iconst (v := 2) G dX6_init_726 rfl ?_
  refine g_bipush (v := 100) G dX6_init_727 rfl ?_
  obtain ⟨h8, g8, hf⟩ := bnv_open hf
  refine p_cast X hM g8 dX6_init_729 (fun H locs hM => ?_)
  obtain ⟨h9, g9, hf⟩ := bnv_open hf
  refine p_putF (k := 33) X hM pc_6 (by decide) q1657 rfl rfl rfl rfl rfl g9 dX6_init_730 (fun H locs hM => ?_)
  refine g_aload_n G dX6_init_733 rfl (lv_at hl 0 rfl) ?_
  refine g_iconst (v := 3) G dX6_init_734 rfl ?_
  obtain ⟨b3, hf⟩ := ck_open hf
  obtain ⟨p3, h10, g10, hf⟩ := bnd_open hf
  refine p_newC X hM b3 g10 dX6_init_735 (fun H locs hM => ?_)
  refine g_dup G dX6_init_737 rfl ?_
  refine g_iconst (v := 0) G dX6_init_738 rfl ?_
  refine g_bipush (v := 110) G dX6_init_739 rfl ?_
  obtain ⟨h11, g11, hf⟩ := bnv_open hf
  refine p_cast X hM g11 dX6_init_741 (fun H locs hM => ?_)
  refine g_dup G dX6_init_742 rfl ?_
  refine g_iconst (v := 1) G dX6_init_743 rfl ?_
  refine g_bipush (v := 111) G dX6_init_744 rfl ?_
  obtain ⟨h12, g12, hf⟩ := bnv_open hf
  refine p_cast X hM g12 dX6_init_746 (fun H locs hM => ?_)
  refine g_dup G dX6_init_747 rfl ?_
  refine g_iconst (v := 2) G dX6_init_748 rfl ?_
  refine g_bipush (v := 116) G dX6_init_749 rfl ?_
  obtain ⟨h13, g13, hf⟩ := bnv_open hf
  refine p_cast X hM g13 dX6_init_751 (fun H locs hM => ?_)
  obtain ⟨h14, g14, hf⟩ := bnv_open hf
  refine p_putF (k := 34) X hM pc_6 (by decide) q1658 rfl rfl rfl rfl rfl g14 dX6_init_752 (fun H locs hM => ?_)
  exact kX6_init_c12 X hf hM hl
noncomputable def fX6_init_c10 (cap : Nat × Nat) (a0 : Nat) (h : PH) : Option PH :=
  ck (!decide ((5 : Int32) < 0) && decide ((Int32.toNatClampNeg 5) ≤ 100000)) <|
  bnd (pNew cap h (.inl (3, (Int32.toNatClampNeg 5), .inl (fun _ => 0))) (Int32.toNatClampNeg 5)) fun p1 h1 =>
  bnv (pSt h1 p1 3 0 (vp_nar .char 109)) fun h2 =>
  bnv (pSt h2 p1 3 1 (vp_nar .char 97)) fun h3 =>
  bnv (pSt h3 p1 3 2 (vp_nar .char 114)) fun h4 =>
  bnv (pSt h4 p1 3 3 (vp_nar .char 107)) fun h5 =>
  bnv (pSt h5 p1 3 4 (vp_nar .char 115)) fun h6 =>
  bnv (pPut h6 a0 6 30 (.ref p1)) fun h7 =>
  ck (!decide ((6 : Int32) < 0) && decide ((Int32.toNatClampNeg 6) ≤ 100000)) <|
  bnd (pNew cap h7 (.inl (3, (Int32.toNatClampNeg 6), .inl (fun _ => 0))) (Int32.toNatClampNeg 6)) fun p2 h8 =>
  bnv (pSt h8 p2 3 0 (vp_nar .char 110)) fun h9 =>
  bnv (pSt h9 p2 3 1 (vp_nar .char 117)) fun h10 =>
  bnv (pSt h10 p2 3 2 (vp_nar .char 109)) fun h11 =>
  bnv (pSt h11 p2 3 3 (vp_nar .char 98)) fun h12 =>
  bnv (pSt h12 p2 3 4 (vp_nar .char 101)) fun h13 =>
  bnv (pSt h13 p2 3 5 (vp_nar .char 114)) fun h14 =>
  bnv (pPut h14 a0 6 31 (.ref p2)) fun h15 =>
  fX6_init_c11 cap a0 h15
set_option maxHeartbeats 1000000 in
theorem kX6_init_c10 {a0 : Nat} (X : pX l D A cap 2 cX6_init 1 RX6 true none m none h' H0 cx sx Z) (hf : fX6_init_c10 cap a0 h = some h') (hM : PI D A cap H0 h H locs) (hl : lv_has ls 1 [(0, .ref a0)]) : Z H locs (cx H) (sx H) (F0 m 624 ls []) := by
  unfold fX6_init_c10 at hf
  have G := X.g
  refine g_aload_n G dX6_init_624 rfl (lv_at hl 0 rfl) ?_
  refine g_iconst (v := 5) G dX6_init_625 rfl ?_
  obtain ⟨b1, hf⟩ := ck_open hf
  obtain ⟨p1, h1, g1, hf⟩ := bnd_open hf
  refine p_newC X hM b1 g1 dX6_init_626 (fun H locs hM => ?_)
  refine g_dup G dX6_init_628 rfl ?_
  refine g_iconst (v := 0) G dX6_init_629 rfl ?_
  refine g_bipush (v := 109) G dX6_init_630 rfl ?_
  obtain ⟨h2, g2, hf⟩ := bnv_open hf
  refine p_cast X hM g2 dX6_init_632 (fun H locs hM => ?_)
  refine g_dup G dX6_init_633 rfl ?_
  refine g_iconst (v := 1) G dX6_init_634 rfl ?_
  refine g_bipush (v := 97) G dX6_init_635 rfl ?_
  obtain ⟨h3, g3, hf⟩ := bnv_open hf
  refine p_cast X hM g3 dX6_init_637 (fun H locs hM => ?_)
  refine g_dup G dX6_init_638 rfl ?_
  refine g_iconst (v := 2) G dX6_init_639 rfl ?_
  refine g_bipush (v := 114) G dX6_init_640 rfl ?_
  obtain ⟨h4, g4, hf⟩ := bnv_open hf
  refine p_cast X hM g4 dX6_init_642 (fun H locs hM => ?_)
  refine g_dup G dX6_init_643 rfl ?_
  refine g_iconst (v := 3) G dX6_init_644 rfl ?_
  refine g_bipush (v := 107) G dX6_init_645 rfl ?_
  obtain ⟨h5, g5, hf⟩ := bnv_open hf
  refine p_cast X hM g5 dX6_init_647 (fun H locs hM => ?_)
  refine g_dup G dX6_init_648 rfl ?_
  refine g_iconst (v := 4) G dX6_init_649 rfl ?_
  refine g_bipush (v := 115) G dX6_init_650 rfl ?_
  obtain ⟨h6, g6, hf⟩ := bnv_open hf
  refine p_cast X hM g6 dX6_init_652 (fun H locs hM => ?_)
  obtain ⟨h7, g7, hf⟩ := bnv_open hf
  refine p_putF (k := 30) X hM pc_6 (by decide) q1654 rfl rfl rfl rfl rfl g7 dX6_init_653 (fun H locs hM => ?_)
  refine g_aload_n G dX6_init_656 rfl (lv_at hl 0 rfl) ?_
  refine g_bipush (v := 6) G dX6_init_657 rfl ?_
  obtain ⟨b2, hf⟩ := ck_open hf
  obtain ⟨p2, h8, g8, hf⟩ := bnd_open hf
  refine p_newC X hM b2 g8 dX6_init_659 (fun H locs hM => ?_)
  refine g_dup G dX6_init_661 rfl ?_
  refine g_iconst (v := 0) G dX6_init_662 rfl ?_
  refine g_bipush (v := 110) G dX6_init_663 rfl ?_
  obtain ⟨h9, g9, hf⟩ := bnv_open hf
  refine p_cast X hM g9 dX6_init_665 (fun H locs hM => ?_)
  refine g_dup G dX6_init_666 rfl ?_
  refine g_iconst (v := 1) G dX6_init_667 rfl ?_
  refine g_bipush (v := 117) G dX6_init_668 rfl ?_
  obtain ⟨h10, g10, hf⟩ := bnv_open hf
  refine p_cast X hM g10 dX6_init_670 (fun H locs hM => ?_)
  refine g_dup G dX6_init_671 rfl ?_
  refine g_iconst (v := 2) G dX6_init_672 rfl ?_
  refine g_bipush (v := 109) G dX6_init_673 rfl ?_
  obtain ⟨h11, g11, hf⟩ := bnv_open hf
  refine p_cast X hM g11 dX6_init_675 (fun H locs hM => ?_)
  refine g_dup G dX6_init_676 rfl ?_
  refine g_iconst (v := 3) G dX6_init_677 rfl ?_
  refine g_bipush (v := 98) G dX6_init_678 rfl ?_
  obtain ⟨h12, g12, hf⟩ := bnv_open hf
  refine p_cast X hM g12 dX6_init_680 (fun H locs hM => ?_)
  refine g_dup G dX6_init_681 rfl ?_
  refine g_iconst (v := 4) G dX6_init_682 rfl ?_
  refine g_bipush (v := 101) G dX6_init_683 rfl ?_
  obtain ⟨h13, g13, hf⟩ := bnv_open hf
  refine p_cast X hM g13 dX6_init_685 (fun H locs hM => ?_)
  refine g_dup G dX6_init_686 rfl ?_
  refine g_iconst (v := 5) G dX6_init_687 rfl ?_
  refine g_bipush (v := 114) G dX6_init_688 rfl ?_
  obtain ⟨h14, g14, hf⟩ := bnv_open hf
  refine p_cast X hM g14 dX6_init_690 (fun H locs hM => ?_)
  obtain ⟨h15, g15, hf⟩ := bnv_open hf
  refine p_putF (k := 31) X hM pc_6 (by decide) q1655 rfl rfl rfl rfl rfl g15 dX6_init_691 (fun H locs hM => ?_)
  exact kX6_init_c11 X hf hM hl
noncomputable def fX6_init_c9 (cap : Nat × Nat) (a0 : Nat) (h : PH) : Option PH :=
  ck (!decide ((5 : Int32) < 0) && decide ((Int32.toNatClampNeg 5) ≤ 100000)) <|
  bnd (pNew cap h (.inl (3, (Int32.toNatClampNeg 5), .inl (fun _ => 0))) (Int32.toNatClampNeg 5)) fun p1 h1 =>
  bnv (pSt h1 p1 3 0 (vp_nar .char 109)) fun h2 =>
  bnv (pSt h2 p1 3 1 (vp_nar .char 99)) fun h3 =>
  bnv (pSt h3 p1 3 2 (vp_nar .char 97)) fun h4 =>
  bnv (pSt h4 p1 3 3 (vp_nar .char 108)) fun h5 =>
  bnv (pSt h5 p1 3 4 (vp_nar .char 109)) fun h6 =>
  bnv (pPut h6 a0 6 28 (.ref p1)) fun h7 =>
  ck (!decide ((4 : Int32) < 0) && decide ((Int32.toNatClampNeg 4) ≤ 100000)) <|
  bnd (pNew cap h7 (.inl (3, (Int32.toNatClampNeg 4), .inl (fun _ => 0))) (Int32.toNatClampNeg 4)) fun p2 h8 =>
  bnv (pSt h8 p2 3 0 (vp_nar .char 108)) fun h9 =>
  bnv (pSt h9 p2 3 1 (vp_nar .char 101)) fun h10 =>
  bnv (pSt h10 p2 3 2 (vp_nar .char 102)) fun h11 =>
  bnv (pSt h11 p2 3 3 (vp_nar .char 116)) fun h12 =>
  bnv (pPut h12 a0 6 29 (.ref p2)) fun h13 =>
  fX6_init_c10 cap a0 h13
set_option maxHeartbeats 1000000 in
theorem kX6_init_c9 {a0 : Nat} (X : pX l D A cap 2 cX6_init 1 RX6 true none m none h' H0 cx sx Z) (hf : fX6_init_c9 cap a0 h = some h') (hM : PI D A cap H0 h H locs) (hl : lv_has ls 1 [(0, .ref a0)]) : Z H locs (cx H) (sx H) (F0 m 565 ls []) := by
  unfold fX6_init_c9 at hf
  have G := X.g
  refine g_aload_n G dX6_init_565 rfl (lv_at hl 0 rfl) ?_
  refine g_iconst (v := 5) G dX6_init_566 rfl ?_
  obtain ⟨b1, hf⟩ := ck_open hf
  obtain ⟨p1, h1, g1, hf⟩ := bnd_open hf
  refine p_newC X hM b1 g1 dX6_init_567 (fun H locs hM => ?_)
  refine g_dup G dX6_init_569 rfl ?_
  refine g_iconst (v := 0) G dX6_init_570 rfl ?_
  refine g_bipush (v := 109) G dX6_init_571 rfl ?_
  obtain ⟨h2, g2, hf⟩ := bnv_open hf
  refine p_cast X hM g2 dX6_init_573 (fun H locs hM => ?_)
  refine g_dup G dX6_init_574 rfl ?_
  refine g_iconst (v := 1) G dX6_init_575 rfl ?_
  refine g_bipush (v := 99) G dX6_init_576 rfl ?_
  obtain ⟨h3, g3, hf⟩ := bnv_open hf
  refine p_cast X hM g3 dX6_init_578 (fun H locs hM => ?_)
  refine g_dup G dX6_init_579 rfl ?_
  refine g_iconst (v := 2) G dX6_init_580 rfl ?_
  refine g_bipush (v := 97) G dX6_init_581 rfl ?_
  obtain ⟨h4, g4, hf⟩ := bnv_open hf
  refine p_cast X hM g4 dX6_init_583 (fun H locs hM => ?_)
  refine g_dup G dX6_init_584 rfl ?_
  refine g_iconst (v := 3) G dX6_init_585 rfl ?_
  refine g_bipush (v := 108) G dX6_init_586 rfl ?_
  obtain ⟨h5, g5, hf⟩ := bnv_open hf
  refine p_cast X hM g5 dX6_init_588 (fun H locs hM => ?_)
  refine g_dup G dX6_init_589 rfl ?_
  refine g_iconst (v := 4) G dX6_init_590 rfl ?_
  refine g_bipush (v := 109) G dX6_init_591 rfl ?_
  obtain ⟨h6, g6, hf⟩ := bnv_open hf
  refine p_cast X hM g6 dX6_init_593 (fun H locs hM => ?_)
  obtain ⟨h7, g7, hf⟩ := bnv_open hf
  refine p_putF (k := 28) X hM pc_6 (by decide) q1652 rfl rfl rfl rfl rfl g7 dX6_init_594 (fun H locs hM => ?_)
  refine g_aload_n G dX6_init_597 rfl (lv_at hl 0 rfl) ?_
  refine g_iconst (v := 4) G dX6_init_598 rfl ?_
  obtain ⟨b2, hf⟩ := ck_open hf
  obtain ⟨p2, h8, g8, hf⟩ := bnd_open hf
  refine p_newC X hM b2 g8 dX6_init_599 (fun H locs hM => ?_)
  refine g_dup G dX6_init_601 rfl ?_
  refine g_iconst (v := 0) G dX6_init_602 rfl ?_
  refine g_bipush (v := 108) G dX6_init_603 rfl ?_
  obtain ⟨h9, g9, hf⟩ := bnv_open hf
  refine p_cast X hM g9 dX6_init_605 (fun H locs hM => ?_)
  refine g_dup G dX6_init_606 rfl ?_
  refine g_iconst (v := 1) G dX6_init_607 rfl ?_
  refine g_bipush (v := 101) G dX6_init_608 rfl ?_
  obtain ⟨h10, g10, hf⟩ := bnv_open hf
  refine p_cast X hM g10 dX6_init_610 (fun H locs hM => ?_)
  refine g_dup G dX6_init_611 rfl ?_
  refine g_iconst (v := 2) G dX6_init_612 rfl ?_
  refine g_bipush (v := 102) G dX6_init_613 rfl ?_
  obtain ⟨h11, g11, hf⟩ := bnv_open hf
  refine p_cast X hM g11 dX6_init_615 (fun H locs hM => ?_)
  refine g_dup G dX6_init_616 rfl ?_
  refine g_iconst (v := 3) G dX6_init_617 rfl ?_
  refine g_bipush (v := 116) G dX6_init_618 rfl ?_
  obtain ⟨h12, g12, hf⟩ := bnv_open hf
  refine p_cast X hM g12 dX6_init_620 (fun H locs hM => ?_)
  obtain ⟨h13, g13, hf⟩ := bnv_open hf
  refine p_putF (k := 29) X hM pc_6 (by decide) q1653 rfl rfl rfl rfl rfl g13 dX6_init_621 (fun H locs hM => ?_)
  exact kX6_init_c10 X hf hM hl
noncomputable def fX6_init_c8 (cap : Nat × Nat) (a0 : Nat) (h : PH) : Option PH :=
  ck (!decide ((4 : Int32) < 0) && decide ((Int32.toNatClampNeg 4) ≤ 100000)) <|
  bnd (pNew cap h (.inl (3, (Int32.toNatClampNeg 4), .inl (fun _ => 0))) (Int32.toNatClampNeg 4)) fun p1 h1 =>
  bnv (pSt h1 p1 3 0 (vp_nar .char 121)) fun h2 =>
  bnv (pSt h2 p1 3 1 (vp_nar .char 101)) fun h3 =>
  bnv (pSt h3 p1 3 2 (vp_nar .char 97)) fun h4 =>
  bnv (pSt h4 p1 3 3 (vp_nar .char 114)) fun h5 =>
  bnv (pPut h5 a0 6 26 (.ref p1)) fun h6 =>
  ck (!decide ((5 : Int32) < 0) && decide ((Int32.toNatClampNeg 5) ≤ 100000)) <|
  bnd (pNew cap h6 (.inl (3, (Int32.toNatClampNeg 5), .inl (fun _ => 0))) (Int32.toNatClampNeg 5)) fun p2 h7 =>
  bnv (pSt h7 p2 3 0 (vp_nar .char 99)) fun h8 =>
  bnv (pSt h8 p2 3 1 (vp_nar .char 108)) fun h9 =>
  bnv (pSt h9 p2 3 2 (vp_nar .char 97)) fun h10 =>
  bnv (pSt h10 p2 3 3 (vp_nar .char 115)) fun h11 =>
  bnv (pSt h11 p2 3 4 (vp_nar .char 115)) fun h12 =>
  bnv (pPut h12 a0 6 27 (.ref p2)) fun h13 =>
  fX6_init_c9 cap a0 h13
set_option maxHeartbeats 1000000 in
theorem kX6_init_c8 {a0 : Nat} (X : pX l D A cap 2 cX6_init 1 RX6 true none m none h' H0 cx sx Z) (hf : fX6_init_c8 cap a0 h = some h') (hM : PI D A cap H0 h H locs) (hl : lv_has ls 1 [(0, .ref a0)]) : Z H locs (cx H) (sx H) (F0 m 506 ls []) := by
  unfold fX6_init_c8 at hf
  have G := X.g
  refine g_aload_n G dX6_init_506 rfl (lv_at hl 0 rfl) ?_
  refine g_iconst (v := 4) G dX6_init_507 rfl ?_
  obtain ⟨b1, hf⟩ := ck_open hf
  obtain ⟨p1, h1, g1, hf⟩ := bnd_open hf
  refine p_newC X hM b1 g1 dX6_init_508 (fun H locs hM => ?_)
  refine g_dup G dX6_init_510 rfl ?_
  refine g_iconst (v := 0) G dX6_init_511 rfl ?_
  refine g_bipush (v := 121) G dX6_init_512 rfl ?_
  obtain ⟨h2, g2, hf⟩ := bnv_open hf
  refine p_cast X hM g2 dX6_init_514 (fun H locs hM => ?_)
  refine g_dup G dX6_init_515 rfl ?_
  refine g_iconst (v := 1) G dX6_init_516 rfl ?_
  refine g_bipush (v := 101) G dX6_init_517 rfl ?_
  obtain ⟨h3, g3, hf⟩ := bnv_open hf
  refine p_cast X hM g3 dX6_init_519 (fun H locs hM => ?_)
  refine g_dup G dX6_init_520 rfl ?_
  refine g_iconst (v := 2) G dX6_init_521 rfl ?_
  refine g_bipush (v := 97) G dX6_init_522 rfl ?_
  obtain ⟨h4, g4, hf⟩ := bnv_open hf
  refine p_cast X hM g4 dX6_init_524 (fun H locs hM => ?_)
  refine g_dup G dX6_init_525 rfl ?_
  refine g_iconst (v := 3) G dX6_init_526 rfl ?_
  refine g_bipush (v := 114) G dX6_init_527 rfl ?_
  obtain ⟨h5, g5, hf⟩ := bnv_open hf
  refine p_cast X hM g5 dX6_init_529 (fun H locs hM => ?_)
  obtain ⟨h6, g6, hf⟩ := bnv_open hf
  refine p_putF (k := 26) X hM pc_6 (by decide) q1650 rfl rfl rfl rfl rfl g6 dX6_init_530 (fun H locs hM => ?_)
  refine g_aload_n G dX6_init_533 rfl (lv_at hl 0 rfl) ?_
  refine g_iconst (v := 5) G dX6_init_534 rfl ?_
  obtain ⟨b2, hf⟩ := ck_open hf
  obtain ⟨p2, h7, g7, hf⟩ := bnd_open hf
  refine p_newC X hM b2 g7 dX6_init_535 (fun H locs hM => ?_)
  refine g_dup G dX6_init_537 rfl ?_
  refine g_iconst (v := 0) G dX6_init_538 rfl ?_
  refine g_bipush (v := 99) G dX6_init_539 rfl ?_
  obtain ⟨h8, g8, hf⟩ := bnv_open hf
  refine p_cast X hM g8 dX6_init_541 (fun H locs hM => ?_)
  refine g_dup G dX6_init_542 rfl ?_
  refine g_iconst (v := 1) G dX6_init_543 rfl ?_
  refine g_bipush (v := 108) G dX6_init_544 rfl ?_
  obtain ⟨h9, g9, hf⟩ := bnv_open hf
  refine p_cast X hM g9 dX6_init_546 (fun H locs hM => ?_)
  refine g_dup G dX6_init_547 rfl ?_
  refine g_iconst (v := 2) G dX6_init_548 rfl ?_
  refine g_bipush (v := 97) G dX6_init_549 rfl ?_
  obtain ⟨h10, g10, hf⟩ := bnv_open hf
  refine p_cast X hM g10 dX6_init_551 (fun H locs hM => ?_)
  refine g_dup G dX6_init_552 rfl ?_
  refine g_iconst (v := 3) G dX6_init_553 rfl ?_
  refine g_bipush (v := 115) G dX6_init_554 rfl ?_
  obtain ⟨h11, g11, hf⟩ := bnv_open hf
  refine p_cast X hM g11 dX6_init_556 (fun H locs hM => ?_)
  refine g_dup G dX6_init_557 rfl ?_
  refine g_iconst (v := 4) G dX6_init_558 rfl ?_
  refine g_bipush (v := 115) G dX6_init_559 rfl ?_
  obtain ⟨h12, g12, hf⟩ := bnv_open hf
  refine p_cast X hM g12 dX6_init_561 (fun H locs hM => ?_)
  obtain ⟨h13, g13, hf⟩ := bnv_open hf
  refine p_putF (k := 27) X hM pc_6 (by decide) q1651 rfl rfl rfl rfl rfl g13 dX6_init_562 (fun H locs hM => ?_)
  exact kX6_init_c9 X hf hM hl
noncomputable def fX6_init_c7 (cap : Nat × Nat) (a0 : Nat) (h : PH) : Option PH :=
  ck (!decide ((5 : Int32) < 0) && decide ((Int32.toNatClampNeg 5) ≤ 100000)) <|
  bnd (pNew cap h (.inl (3, (Int32.toNatClampNeg 5), .inl (fun _ => 0))) (Int32.toNatClampNeg 5)) fun p1 h1 =>
  bnv (pSt h1 p1 3 0 (vp_nar .char 114)) fun h2 =>
  bnv (pSt h2 p1 3 1 (vp_nar .char 105)) fun h3 =>
  bnv (pSt h3 p1 3 2 (vp_nar .char 103)) fun h4 =>
  bnv (pSt h4 p1 3 3 (vp_nar .char 104)) fun h5 =>
  bnv (pSt h5 p1 3 4 (vp_nar .char 116)) fun h6 =>
  bnv (pPut h6 a0 6 24 (.ref p1)) fun h7 =>
  ck (!decide ((5 : Int32) < 0) && decide ((Int32.toNatClampNeg 5) ≤ 100000)) <|
  bnd (pNew cap h7 (.inl (3, (Int32.toNatClampNeg 5), .inl (fun _ => 0))) (Int32.toNatClampNeg 5)) fun p2 h8 =>
  bnv (pSt h8 p2 3 0 (vp_nar .char 119)) fun h9 =>
  bnv (pSt h9 p2 3 1 (vp_nar .char 114)) fun h10 =>
  bnv (pSt h10 p2 3 2 (vp_nar .char 111)) fun h11 =>
  bnv (pSt h11 p2 3 3 (vp_nar .char 110)) fun h12 =>
  bnv (pSt h12 p2 3 4 (vp_nar .char 103)) fun h13 =>
  bnv (pPut h13 a0 6 25 (.ref p2)) fun h14 =>
  fX6_init_c8 cap a0 h14
set_option maxHeartbeats 1000000 in
theorem kX6_init_c7 {a0 : Nat} (X : pX l D A cap 2 cX6_init 1 RX6 true none m none h' H0 cx sx Z) (hf : fX6_init_c7 cap a0 h = some h') (hM : PI D A cap H0 h H locs) (hl : lv_has ls 1 [(0, .ref a0)]) : Z H locs (cx H) (sx H) (F0 m 442 ls []) := by
  unfold fX6_init_c7 at hf
  have G := X.g
  refine g_aload_n G dX6_init_442 rfl (lv_at hl 0 rfl) ?_
  refine g_iconst (v := 5) G dX6_init_443 rfl ?_
  obtain ⟨b1, hf⟩ := ck_open hf
  obtain ⟨p1, h1, g1, hf⟩ := bnd_open hf
  refine p_newC X hM b1 g1 dX6_init_444 (fun H locs hM => ?_)
  refine g_dup G dX6_init_446 rfl ?_
  refine g_iconst (v := 0) G dX6_init_447 rfl ?_
  refine g_bipush (v := 114) G dX6_init_448 rfl ?_
  obtain ⟨h2, g2, hf⟩ := bnv_open hf
  refine p_cast X hM g2 dX6_init_450 (fun H locs hM => ?_)
  refine g_dup G dX6_init_451 rfl ?_
  refine g_iconst (v := 1) G dX6_init_452 rfl ?_
  refine g_bipush (v := 105) G dX6_init_453 rfl ?_
  obtain ⟨h3, g3, hf⟩ := bnv_open hf
  refine p_cast X hM g3 dX6_init_455 (fun H locs hM => ?_)
  refine g_dup G dX6_init_456 rfl ?_
  refine g_iconst (v := 2) G dX6_init_457 rfl ?_
  refine g_bipush (v := 103) G dX6_init_458 rfl ?_
  obtain ⟨h4, g4, hf⟩ := bnv_open hf
  refine p_cast X hM g4 dX6_init_460 (fun H locs hM => ?_)
  refine g_dup G dX6_init_461 rfl ?_
  refine g_iconst (v := 3) G dX6_init_462 rfl ?_
  refine g_bipush (v := 104) G dX6_init_463 rfl ?_
  obtain ⟨h5, g5, hf⟩ := bnv_open hf
  refine p_cast X hM g5 dX6_init_465 (fun H locs hM => ?_)
  refine g_dup G dX6_init_466 rfl ?_
  refine g_iconst (v := 4) G dX6_init_467 rfl ?_
  refine g_bipush (v := 116) G dX6_init_468 rfl ?_
  obtain ⟨h6, g6, hf⟩ := bnv_open hf
  refine p_cast X hM g6 dX6_init_470 (fun H locs hM => ?_)
  obtain ⟨h7, g7, hf⟩ := bnv_open hf
  refine p_putF (k := 24) X hM pc_6 (by decide) q1648 rfl rfl rfl rfl rfl g7 dX6_init_471 (fun H locs hM => ?_)
  refine g_aload_n G dX6_init_474 rfl (lv_at hl 0 rfl) ?_
  refine g_iconst (v := 5) G dX6_init_475 rfl ?_
  obtain ⟨b2, hf⟩ := ck_open hf
  obtain ⟨p2, h8, g8, hf⟩ := bnd_open hf
  refine p_newC X hM b2 g8 dX6_init_476 (fun H locs hM => ?_)
  refine g_dup G dX6_init_478 rfl ?_
  refine g_iconst (v := 0) G dX6_init_479 rfl ?_
  refine g_bipush (v := 119) G dX6_init_480 rfl ?_
  obtain ⟨h9, g9, hf⟩ := bnv_open hf
  refine p_cast X hM g9 dX6_init_482 (fun H locs hM => ?_)
  refine g_dup G dX6_init_483 rfl ?_
  refine g_iconst (v := 1) G dX6_init_484 rfl ?_
  refine g_bipush (v := 114) G dX6_init_485 rfl ?_
  obtain ⟨h10, g10, hf⟩ := bnv_open hf
  refine p_cast X hM g10 dX6_init_487 (fun H locs hM => ?_)
  refine g_dup G dX6_init_488 rfl ?_
  refine g_iconst (v := 2) G dX6_init_489 rfl ?_
  refine g_bipush (v := 111) G dX6_init_490 rfl ?_
  obtain ⟨h11, g11, hf⟩ := bnv_open hf
  refine p_cast X hM g11 dX6_init_492 (fun H locs hM => ?_)
  refine g_dup G dX6_init_493 rfl ?_
  refine g_iconst (v := 3) G dX6_init_494 rfl ?_
  refine g_bipush (v := 110) G dX6_init_495 rfl ?_
  obtain ⟨h12, g12, hf⟩ := bnv_open hf
  refine p_cast X hM g12 dX6_init_497 (fun H locs hM => ?_)
  refine g_dup G dX6_init_498 rfl ?_
  refine g_iconst (v := 4) G dX6_init_499 rfl ?_
  refine g_bipush (v := 103) G dX6_init_500 rfl ?_
  obtain ⟨h13, g13, hf⟩ := bnv_open hf
  refine p_cast X hM g13 dX6_init_502 (fun H locs hM => ?_)
  obtain ⟨h14, g14, hf⟩ := bnv_open hf
  refine p_putF (k := 25) X hM pc_6 (by decide) q1649 rfl rfl rfl rfl rfl g14 dX6_init_503 (fun H locs hM => ?_)
  exact kX6_init_c8 X hf hM hl
noncomputable def fX6_init_c6 (cap : Nat × Nat) (a0 : Nat) (h : PH) : Option PH :=
  ck (!decide ((5 : Int32) < 0) && decide ((Int32.toNatClampNeg 5) ≤ 100000)) <|
  bnd (pNew cap h (.inl (3, (Int32.toNatClampNeg 5), .inl (fun _ => 0))) (Int32.toNatClampNeg 5)) fun p1 h1 =>
  bnv (pSt h1 p1 3 0 (vp_nar .char 116)) fun h2 =>
  bnv (pSt h2 p1 3 1 (vp_nar .char 114)) fun h3 =>
  bnv (pSt h3 p1 3 2 (vp_nar .char 105)) fun h4 =>
  bnv (pSt h4 p1 3 3 (vp_nar .char 101)) fun h5 =>
  bnv (pSt h5 p1 3 4 (vp_nar .char 115)) fun h6 =>
  bnv (pPut h6 a0 6 22 (.ref p1)) fun h7 =>
  ck (!decide ((3 : Int32) < 0) && decide ((Int32.toNatClampNeg 3) ≤ 100000)) <|
  bnd (pNew cap h7 (.inl (3, (Int32.toNatClampNeg 3), .inl (fun _ => 0))) (Int32.toNatClampNeg 3)) fun p2 h8 =>
  bnv (pSt h8 p2 3 0 (vp_nar .char 105)) fun h9 =>
  bnv (pSt h9 p2 3 1 (vp_nar .char 108)) fun h10 =>
  bnv (pSt h10 p2 3 2 (vp_nar .char 108)) fun h11 =>
  bnv (pPut h11 a0 6 23 (.ref p2)) fun h12 =>
  fX6_init_c7 cap a0 h12
set_option maxHeartbeats 1000000 in
theorem kX6_init_c6 {a0 : Nat} (X : pX l D A cap 2 cX6_init 1 RX6 true none m none h' H0 cx sx Z) (hf : fX6_init_c6 cap a0 h = some h') (hM : PI D A cap H0 h H locs) (hl : lv_has ls 1 [(0, .ref a0)]) : Z H locs (cx H) (sx H) (F0 m 388 ls []) := by
  unfold fX6_init_c6 at hf
  have G := X.g
  refine g_aload_n G dX6_init_388 rfl (lv_at hl 0 rfl) ?_
  refine g_iconst (v := 5) G dX6_init_389 rfl ?_
  obtain ⟨b1, hf⟩ := ck_open hf
  obtain ⟨p1, h1, g1, hf⟩ := bnd_open hf
  refine p_newC X hM b1 g1 dX6_init_390 (fun H locs hM => ?_)
  refine g_dup G dX6_init_392 rfl ?_
  refine g_iconst (v := 0) G dX6_init_393 rfl ?_
  refine g_bipush (v := 116) G dX6_init_394 rfl ?_
  obtain ⟨h2, g2, hf⟩ := bnv_open hf
  refine p_cast X hM g2 dX6_init_396 (fun H locs hM => ?_)
  refine g_dup G dX6_init_397 rfl ?_
  refine g_iconst (v := 1) G dX6_init_398 rfl ?_
  refine g_bipush (v := 114) G dX6_init_399 rfl ?_
  obtain ⟨h3, g3, hf⟩ := bnv_open hf
  refine p_cast X hM g3 dX6_init_401 (fun H locs hM => ?_)
  refine g_dup G dX6_init_402 rfl ?_
  refine g_iconst (v := 2) G dX6_init_403 rfl ?_
  refine g_bipush (v := 105) G dX6_init_404 rfl ?_
  obtain ⟨h4, g4, hf⟩ := bnv_open hf
  refine p_cast X hM g4 dX6_init_406 (fun H locs hM => ?_)
  refine g_dup G dX6_init_407 rfl ?_
  refine g_iconst (v := 3) G dX6_init_408 rfl ?_
  refine g_bipush (v := 101) G dX6_init_409 rfl ?_
  obtain ⟨h5, g5, hf⟩ := bnv_open hf
  refine p_cast X hM g5 dX6_init_411 (fun H locs hM => ?_)
  refine g_dup G dX6_init_412 rfl ?_
  refine g_iconst (v := 4) G dX6_init_413 rfl ?_
  refine g_bipush (v := 115) G dX6_init_414 rfl ?_
  obtain ⟨h6, g6, hf⟩ := bnv_open hf
  refine p_cast X hM g6 dX6_init_416 (fun H locs hM => ?_)
  obtain ⟨h7, g7, hf⟩ := bnv_open hf
  refine p_putF (k := 22) X hM pc_6 (by decide) q1646 rfl rfl rfl rfl rfl g7 dX6_init_417 (fun H locs hM => ?_)
  refine g_aload_n G dX6_init_420 rfl (lv_at hl 0 rfl) ?_
  refine g_iconst (v := 3) G dX6_init_421 rfl ?_
  obtain ⟨b2, hf⟩ := ck_open hf
  obtain ⟨p2, h8, g8, hf⟩ := bnd_open hf
  refine p_newC X hM b2 g8 dX6_init_422 (fun H locs hM => ?_)
  refine g_dup G dX6_init_424 rfl ?_
  refine g_iconst (v := 0) G dX6_init_425 rfl ?_
  refine g_bipush (v := 105) G dX6_init_426 rfl ?_
  obtain ⟨h9, g9, hf⟩ := bnv_open hf
  refine p_cast X hM g9 dX6_init_428 (fun H locs hM => ?_)
  refine g_dup G dX6_init_429 rfl ?_
  refine g_iconst (v := 1) G dX6_init_430 rfl ?_
  refine g_bipush (v := 108) G dX6_init_431 rfl ?_
  obtain ⟨h10, g10, hf⟩ := bnv_open hf
  refine p_cast X hM g10 dX6_init_433 (fun H locs hM => ?_)
  refine g_dup G dX6_init_434 rfl ?_
  refine g_iconst (v := 2) G dX6_init_435 rfl ?_
  refine g_bipush (v := 108) G dX6_init_436 rfl ?_
  obtain ⟨h11, g11, hf⟩ := bnv_open hf
  refine p_cast X hM g11 dX6_init_438 (fun H locs hM => ?_)
  obtain ⟨h12, g12, hf⟩ := bnv_open hf
  refine p_putF (k := 23) X hM pc_6 (by decide) q1647 rfl rfl rfl rfl rfl g12 dX6_init_439 (fun H locs hM => ?_)
  exact kX6_init_c7 X hf hM hl
noncomputable def fX6_init_c5 (cap : Nat × Nat) (a0 : Nat) (h : PH) : Option PH :=
  ck (!decide ((4 : Int32) < 0) && decide ((Int32.toNatClampNeg 4) ≤ 100000)) <|
  bnd (pNew cap h (.inl (3, (Int32.toNatClampNeg 4), .inl (fun _ => 0))) (Int32.toNatClampNeg 4)) fun p1 h1 =>
  bnv (pSt h1 p1 3 0 (vp_nar .char 115)) fun h2 =>
  bnv (pSt h2 p1 3 1 (vp_nar .char 105)) fun h3 =>
  bnv (pSt h3 p1 3 2 (vp_nar .char 116)) fun h4 =>
  bnv (pSt h4 p1 3 3 (vp_nar .char 115)) fun h5 =>
  bnv (pPut h5 a0 6 20 (.ref p1)) fun h6 =>
  ck (!decide ((4 : Int32) < 0) && decide ((Int32.toNatClampNeg 4) ≤ 100000)) <|
  bnd (pNew cap h6 (.inl (3, (Int32.toNatClampNeg 4), .inl (fun _ => 0))) (Int32.toNatClampNeg 4)) fun p2 h7 =>
  bnv (pSt h7 p2 3 0 (vp_nar .char 112)) fun h8 =>
  bnv (pSt h8 p2 3 1 (vp_nar .char 97)) fun h9 =>
  bnv (pSt h9 p2 3 2 (vp_nar .char 115)) fun h10 =>
  bnv (pSt h10 p2 3 3 (vp_nar .char 115)) fun h11 =>
  bnv (pPut h11 a0 6 21 (.ref p2)) fun h12 =>
  fX6_init_c6 cap a0 h12
set_option maxHeartbeats 1000000 in
theorem kX6_init_c5 {a0 : Nat} (X : pX l D A cap 2 cX6_init 1 RX6 true none m none h' H0 cx sx Z) (hf : fX6_init_c5 cap a0 h = some h') (hM : PI D A cap H0 h H locs) (hl : lv_has ls 1 [(0, .ref a0)]) : Z H locs (cx H) (sx H) (F0 m 334 ls []) := by
  unfold fX6_init_c5 at hf
  have G := X.g
  refine g_aload_n G dX6_init_334 rfl (lv_at hl 0 rfl) ?_
  refine g_iconst (v := 4) G dX6_init_335 rfl ?_
  obtain ⟨b1, hf⟩ := ck_open hf
  obtain ⟨p1, h1, g1, hf⟩ := bnd_open hf
  refine p_newC X hM b1 g1 dX6_init_336 (fun H locs hM => ?_)
  refine g_dup G dX6_init_338 rfl ?_
  refine g_iconst (v := 0) G dX6_init_339 rfl ?_
  refine g_bipush (v := 115) G dX6_init_340 rfl ?_
  obtain ⟨h2, g2, hf⟩ := bnv_open hf
  refine p_cast X hM g2 dX6_init_342 (fun H locs hM => ?_)
  refine g_dup G dX6_init_343 rfl ?_
  refine g_iconst (v := 1) G dX6_init_344 rfl ?_
  refine g_bipush (v := 105) G dX6_init_345 rfl ?_
  obtain ⟨h3, g3, hf⟩ := bnv_open hf
  refine p_cast X hM g3 dX6_init_347 (fun H locs hM => ?_)
  refine g_dup G dX6_init_348 rfl ?_
  refine g_iconst (v := 2) G dX6_init_349 rfl ?_
  refine g_bipush (v := 116) G dX6_init_350 rfl ?_
  obtain ⟨h4, g4, hf⟩ := bnv_open hf
  refine p_cast X hM g4 dX6_init_352 (fun H locs hM => ?_)
  refine g_dup G dX6_init_353 rfl ?_
  refine g_iconst (v := 3) G dX6_init_354 rfl ?_
  refine g_bipush (v := 115) G dX6_init_355 rfl ?_
  obtain ⟨h5, g5, hf⟩ := bnv_open hf
  refine p_cast X hM g5 dX6_init_357 (fun H locs hM => ?_)
  obtain ⟨h6, g6, hf⟩ := bnv_open hf
  refine p_putF (k := 20) X hM pc_6 (by decide) q1644 rfl rfl rfl rfl rfl g6 dX6_init_358 (fun H locs hM => ?_)
  refine g_aload_n G dX6_init_361 rfl (lv_at hl 0 rfl) ?_
  refine g_iconst (v := 4) G dX6_init_362 rfl ?_
  obtain ⟨b2, hf⟩ := ck_open hf
  obtain ⟨p2, h7, g7, hf⟩ := bnd_open hf
  refine p_newC X hM b2 g7 dX6_init_363 (fun H locs hM => ?_)
  refine g_dup G dX6_init_365 rfl ?_
  refine g_iconst (v := 0) G dX6_init_366 rfl ?_
  refine g_bipush (v := 112) G dX6_init_367 rfl ?_
  obtain ⟨h8, g8, hf⟩ := bnv_open hf
  refine p_cast X hM g8 dX6_init_369 (fun H locs hM => ?_)
  refine g_dup G dX6_init_370 rfl ?_
  refine g_iconst (v := 1) G dX6_init_371 rfl ?_
  refine g_bipush (v := 97) G dX6_init_372 rfl ?_
  obtain ⟨h9, g9, hf⟩ := bnv_open hf
  refine p_cast X hM g9 dX6_init_374 (fun H locs hM => ?_)
  refine g_dup G dX6_init_375 rfl ?_
  refine g_iconst (v := 2) G dX6_init_376 rfl ?_
  refine g_bipush (v := 115) G dX6_init_377 rfl ?_
  obtain ⟨h10, g10, hf⟩ := bnv_open hf
  refine p_cast X hM g10 dX6_init_379 (fun H locs hM => ?_)
  refine g_dup G dX6_init_380 rfl ?_
  refine g_iconst (v := 3) G dX6_init_381 rfl ?_
  refine g_bipush (v := 115) G dX6_init_382 rfl ?_
  obtain ⟨h11, g11, hf⟩ := bnv_open hf
  refine p_cast X hM g11 dX6_init_384 (fun H locs hM => ?_)
  obtain ⟨h12, g12, hf⟩ := bnv_open hf
  refine p_putF (k := 21) X hM pc_6 (by decide) q1645 rfl rfl rfl rfl rfl g12 dX6_init_385 (fun H locs hM => ?_)
  exact kX6_init_c6 X hf hM hl
noncomputable def fX6_init_c4 (cap : Nat × Nat) (a0 : Nat) (h : PH) : Option PH :=
  ck (!decide ((5 : Int32) < 0) && decide ((Int32.toNatClampNeg 5) ≤ 100000)) <|
  bnd (pNew cap h (.inl (3, (Int32.toNatClampNeg 5), .inl (fun _ => 0))) (Int32.toNatClampNeg 5)) fun p1 h1 =>
  bnv (pSt h1 p1 3 0 (vp_nar .char 116)) fun h2 =>
  bnv (pSt h2 p1 3 1 (vp_nar .char 97)) fun h3 =>
  bnv (pSt h3 p1 3 2 (vp_nar .char 107)) fun h4 =>
  bnv (pSt h4 p1 3 3 (vp_nar .char 101)) fun h5 =>
  bnv (pSt h5 p1 3 4 (vp_nar .char 115)) fun h6 =>
  bnv (pPut h6 a0 6 18 (.ref p1)) fun h7 =>
  ck (!decide ((6 : Int32) < 0) && decide ((Int32.toNatClampNeg 6) ≤ 100000)) <|
  bnd (pNew cap h7 (.inl (3, (Int32.toNatClampNeg 6), .inl (fun _ => 0))) (Int32.toNatClampNeg 6)) fun p2 h8 =>
  bnv (pSt h8 p2 3 0 (vp_nar .char 103)) fun h9 =>
  bnv (pSt h9 p2 3 1 (vp_nar .char 97)) fun h10 =>
  bnv (pSt h10 p2 3 2 (vp_nar .char 114)) fun h11 =>
  bnv (pSt h11 p2 3 3 (vp_nar .char 98)) fun h12 =>
  bnv (pSt h12 p2 3 4 (vp_nar .char 108)) fun h13 =>
  bnv (pSt h13 p2 3 5 (vp_nar .char 101)) fun h14 =>
  bnv (pPut h14 a0 6 19 (.ref p2)) fun h15 =>
  fX6_init_c5 cap a0 h15
set_option maxHeartbeats 1000000 in
theorem kX6_init_c4 {a0 : Nat} (X : pX l D A cap 2 cX6_init 1 RX6 true none m none h' H0 cx sx Z) (hf : fX6_init_c4 cap a0 h = some h') (hM : PI D A cap H0 h H locs) (hl : lv_has ls 1 [(0, .ref a0)]) : Z H locs (cx H) (sx H) (F0 m 264 ls []) := by
  unfold fX6_init_c4 at hf
  have G := X.g
  refine g_aload_n G dX6_init_264 rfl (lv_at hl 0 rfl) ?_
  refine g_iconst (v := 5) G dX6_init_265 rfl ?_
  obtain ⟨b1, hf⟩ := ck_open hf
  obtain ⟨p1, h1, g1, hf⟩ := bnd_open hf
  refine p_newC X hM b1 g1 dX6_init_266 (fun H locs hM => ?_)
  refine g_dup G dX6_init_268 rfl ?_
  refine g_iconst (v := 0) G dX6_init_269 rfl ?_
  refine g_bipush (v := 116) G dX6_init_270 rfl ?_
  obtain ⟨h2, g2, hf⟩ := bnv_open hf
  refine p_cast X hM g2 dX6_init_272 (fun H locs hM => ?_)
  refine g_dup G dX6_init_273 rfl ?_
  refine g_iconst (v := 1) G dX6_init_274 rfl ?_
  refine g_bipush (v := 97) G dX6_init_275 rfl ?_
  obtain ⟨h3, g3, hf⟩ := bnv_open hf
  refine p_cast X hM g3 dX6_init_277 (fun H locs hM => ?_)
  refine g_dup G dX6_init_278 rfl ?_
  refine g_iconst (v := 2) G dX6_init_279 rfl ?_
  refine g_bipush (v := 107) G dX6_init_280 rfl ?_
  obtain ⟨h4, g4, hf⟩ := bnv_open hf
  refine p_cast X hM g4 dX6_init_282 (fun H locs hM => ?_)
  refine g_dup G dX6_init_283 rfl ?_
  refine g_iconst (v := 3) G dX6_init_284 rfl ?_
  refine g_bipush (v := 101) G dX6_init_285 rfl ?_
  obtain ⟨h5, g5, hf⟩ := bnv_open hf
  refine p_cast X hM g5 dX6_init_287 (fun H locs hM => ?_)
  refine g_dup G dX6_init_288 rfl ?_
  refine g_iconst (v := 4) G dX6_init_289 rfl ?_
  refine g_bipush (v := 115) G dX6_init_290 rfl ?_
  obtain ⟨h6, g6, hf⟩ := bnv_open hf
  refine p_cast X hM g6 dX6_init_292 (fun H locs hM => ?_)
  obtain ⟨h7, g7, hf⟩ := bnv_open hf
  refine p_putF (k := 18) X hM pc_6 (by decide) q1642 rfl rfl rfl rfl rfl g7 dX6_init_293 (fun H locs hM => ?_)
  refine g_aload_n G dX6_init_296 rfl (lv_at hl 0 rfl) ?_
  refine g_bipush (v := 6) G dX6_init_297 rfl ?_
  obtain ⟨b2, hf⟩ := ck_open hf
  obtain ⟨p2, h8, g8, hf⟩ := bnd_open hf
  refine p_newC X hM b2 g8 dX6_init_299 (fun H locs hM => ?_)
  refine g_dup G dX6_init_301 rfl ?_
  refine g_iconst (v := 0) G dX6_init_302 rfl ?_
  refine g_bipush (v := 103) G dX6_init_303 rfl ?_
  obtain ⟨h9, g9, hf⟩ := bnv_open hf
  refine p_cast X hM g9 dX6_init_305 (fun H locs hM => ?_)
  refine g_dup G dX6_init_306 rfl ?_
  refine g_iconst (v := 1) G dX6_init_307 rfl ?_
  refine g_bipush (v := 97) G dX6_init_308 rfl ?_
  obtain ⟨h10, g10, hf⟩ := bnv_open hf
  refine p_cast X hM g10 dX6_init_310 (fun H locs hM => ?_)
  refine g_dup G dX6_init_311 rfl ?_
  refine g_iconst (v := 2) G dX6_init_312 rfl ?_
  refine g_bipush (v := 114) G dX6_init_313 rfl ?_
  obtain ⟨h11, g11, hf⟩ := bnv_open hf
  refine p_cast X hM g11 dX6_init_315 (fun H locs hM => ?_)
  refine g_dup G dX6_init_316 rfl ?_
  refine g_iconst (v := 3) G dX6_init_317 rfl ?_
  refine g_bipush (v := 98) G dX6_init_318 rfl ?_
  obtain ⟨h12, g12, hf⟩ := bnv_open hf
  refine p_cast X hM g12 dX6_init_320 (fun H locs hM => ?_)
  refine g_dup G dX6_init_321 rfl ?_
  refine g_iconst (v := 4) G dX6_init_322 rfl ?_
  refine g_bipush (v := 108) G dX6_init_323 rfl ?_
  obtain ⟨h13, g13, hf⟩ := bnv_open hf
  refine p_cast X hM g13 dX6_init_325 (fun H locs hM => ?_)
  refine g_dup G dX6_init_326 rfl ?_
  refine g_iconst (v := 5) G dX6_init_327 rfl ?_
  refine g_bipush (v := 101) G dX6_init_328 rfl ?_
  obtain ⟨h14, g14, hf⟩ := bnv_open hf
  refine p_cast X hM g14 dX6_init_330 (fun H locs hM => ?_)
  obtain ⟨h15, g15, hf⟩ := bnv_open hf
  refine p_putF (k := 19) X hM pc_6 (by decide) q1643 rfl rfl rfl rfl rfl g15 dX6_init_331 (fun H locs hM => ?_)
  exact kX6_init_c5 X hf hM hl
noncomputable def fX6_init_c3 (cap : Nat × Nat) (a0 : Nat) (h : PH) : Option PH :=
  ck (!decide ((6 : Int32) < 0) && decide ((Int32.toNatClampNeg 6) ≤ 100000)) <|
  bnd (pNew cap h (.inl (3, (Int32.toNatClampNeg 6), .inl (fun _ => 0))) (Int32.toNatClampNeg 6)) fun p1 h1 =>
  bnv (pSt h1 p1 3 0 (vp_nar .char 116)) fun h2 =>
  bnv (pSt h2 p1 3 1 (vp_nar .char 97)) fun h3 =>
  bnv (pSt h3 p1 3 2 (vp_nar .char 117)) fun h4 =>
  bnv (pSt h4 p1 3 3 (vp_nar .char 103)) fun h5 =>
  bnv (pSt h5 p1 3 4 (vp_nar .char 104)) fun h6 =>
  bnv (pSt h6 p1 3 5 (vp_nar .char 116)) fun h7 =>
  bnv (pPut h7 a0 6 16 (.ref p1)) fun h8 =>
  ck (!decide ((2 : Int32) < 0) && decide ((Int32.toNatClampNeg 2) ≤ 100000)) <|
  bnd (pNew cap h8 (.inl (3, (Int32.toNatClampNeg 2), .inl (fun _ => 0))) (Int32.toNatClampNeg 2)) fun p2 h9 =>
  bnv (pSt h9 p2 3 0 (vp_nar .char 98)) fun h10 =>
  bnv (pSt h10 p2 3 1 (vp_nar .char 121)) fun h11 =>
  bnv (pPut h11 a0 6 17 (.ref p2)) fun h12 =>
  fX6_init_c4 cap a0 h12
set_option maxHeartbeats 1000000 in
theorem kX6_init_c3 {a0 : Nat} (X : pX l D A cap 2 cX6_init 1 RX6 true none m none h' H0 cx sx Z) (hf : fX6_init_c3 cap a0 h = some h') (hM : PI D A cap H0 h H locs) (hl : lv_has ls 1 [(0, .ref a0)]) : Z H locs (cx H) (sx H) (F0 m 209 ls []) := by
  unfold fX6_init_c3 at hf
  have G := X.g
  refine g_aload_n G dX6_init_209 rfl (lv_at hl 0 rfl) ?_
  refine g_bipush (v := 6) G dX6_init_210 rfl ?_
  obtain ⟨b1, hf⟩ := ck_open hf
  obtain ⟨p1, h1, g1, hf⟩ := bnd_open hf
  refine p_newC X hM b1 g1 dX6_init_212 (fun H locs hM => ?_)
  refine g_dup G dX6_init_214 rfl ?_
  refine g_iconst (v := 0) G dX6_init_215 rfl ?_
  refine g_bipush (v := 116) G dX6_init_216 rfl ?_
  obtain ⟨h2, g2, hf⟩ := bnv_open hf
  refine p_cast X hM g2 dX6_init_218 (fun H locs hM => ?_)
  refine g_dup G dX6_init_219 rfl ?_
  refine g_iconst (v := 1) G dX6_init_220 rfl ?_
  refine g_bipush (v := 97) G dX6_init_221 rfl ?_
  obtain ⟨h3, g3, hf⟩ := bnv_open hf
  refine p_cast X hM g3 dX6_init_223 (fun H locs hM => ?_)
  refine g_dup G dX6_init_224 rfl ?_
  refine g_iconst (v := 2) G dX6_init_225 rfl ?_
  refine g_bipush (v := 117) G dX6_init_226 rfl ?_
  obtain ⟨h4, g4, hf⟩ := bnv_open hf
  refine p_cast X hM g4 dX6_init_228 (fun H locs hM => ?_)
  refine g_dup G dX6_init_229 rfl ?_
  refine g_iconst (v := 3) G dX6_init_230 rfl ?_
  refine g_bipush (v := 103) G dX6_init_231 rfl ?_
  obtain ⟨h5, g5, hf⟩ := bnv_open hf
  refine p_cast X hM g5 dX6_init_233 (fun H locs hM => ?_)
  refine g_dup G dX6_init_234 rfl ?_
  refine g_iconst (v := 4) G dX6_init_235 rfl ?_
  refine g_bipush (v := 104) G dX6_init_236 rfl ?_
  obtain ⟨h6, g6, hf⟩ := bnv_open hf
  refine p_cast X hM g6 dX6_init_238 (fun H locs hM => ?_)
  refine g_dup G dX6_init_239 rfl ?_
  refine g_iconst (v := 5) G dX6_init_240 rfl ?_
  refine g_bipush (v := 116) G dX6_init_241 rfl ?_
  obtain ⟨h7, g7, hf⟩ := bnv_open hf
  refine p_cast X hM g7 dX6_init_243 (fun H locs hM => ?_)
  obtain ⟨h8, g8, hf⟩ := bnv_open hf
  refine p_putF (k := 16) X hM pc_6 (by decide) q1640 rfl rfl rfl rfl rfl g8 dX6_init_244 (fun H locs hM => ?_)
  refine g_aload_n G dX6_init_247 rfl (lv_at hl 0 rfl) ?_
  refine g_iconst (v := 2) G dX6_init_248 rfl ?_
  obtain ⟨b2, hf⟩ := ck_open hf
  obtain ⟨p2, h9, g9, hf⟩ := bnd_open hf
  refine p_newC X hM b2 g9 dX6_init_249 (fun H locs hM => ?_)
  refine g_dup G dX6_init_251 rfl ?_
  refine g_iconst (v := 0) G dX6_init_252 rfl ?_
  refine g_bipush (v := 98) G dX6_init_253 rfl ?_
  obtain ⟨h10, g10, hf⟩ := bnv_open hf
  refine p_cast X hM g10 dX6_init_255 (fun H locs hM => ?_)
  refine g_dup G dX6_init_256 rfl ?_
  refine g_iconst (v := 1) G dX6_init_257 rfl ?_
  refine g_bipush (v := 121) G dX6_init_258 rfl ?_
  obtain ⟨h11, g11, hf⟩ := bnv_open hf
  refine p_cast X hM g11 dX6_init_260 (fun H locs hM => ?_)
  obtain ⟨h12, g12, hf⟩ := bnv_open hf
  refine p_putF (k := 17) X hM pc_6 (by decide) q1641 rfl rfl rfl rfl rfl g12 dX6_init_261 (fun H locs hM => ?_)
  exact kX6_init_c4 X hf hM hl
noncomputable def fX6_init_c2 (cap : Nat × Nat) (a0 : Nat) (h : PH) : Option PH :=
  ck (!decide ((5 : Int32) < 0) && decide ((Int32.toNatClampNeg 5) ≤ 100000)) <|
  bnd (pNew cap h (.inl (3, (Int32.toNatClampNeg 5), .inl (fun _ => 0))) (Int32.toNatClampNeg 5)) fun p1 h1 =>
  bnv (pSt h1 p1 3 0 (vp_nar .char 107)) fun h2 =>
  bnv (pSt h2 p1 3 1 (vp_nar .char 110)) fun h3 =>
  bnv (pSt h3 p1 3 2 (vp_nar .char 111)) fun h4 =>
  bnv (pSt h4 p1 3 3 (vp_nar .char 119)) fun h5 =>
  bnv (pSt h5 p1 3 4 (vp_nar .char 115)) fun h6 =>
  bnv (pPut h6 a0 6 14 (.ref p1)) fun h7 =>
  ck (!decide ((4 : Int32) < 0) && decide ((Int32.toNatClampNeg 4) ≤ 100000)) <|
  bnd (pNew cap h7 (.inl (3, (Int32.toNatClampNeg 4), .inl (fun _ => 0))) (Int32.toNatClampNeg 4)) fun p2 h8 =>
  bnv (pSt h8 p2 3 0 (vp_nar .char 101)) fun h9 =>
  bnv (pSt h9 p2 3 1 (vp_nar .char 114)) fun h10 =>
  bnv (pSt h10 p2 3 2 (vp_nar .char 114)) fun h11 =>
  bnv (pSt h11 p2 3 3 (vp_nar .char 115)) fun h12 =>
  bnv (pPut h12 a0 6 15 (.ref p2)) fun h13 =>
  fX6_init_c3 cap a0 h13
set_option maxHeartbeats 1000000 in
theorem kX6_init_c2 {a0 : Nat} (X : pX l D A cap 2 cX6_init 1 RX6 true none m none h' H0 cx sx Z) (hf : fX6_init_c2 cap a0 h = some h') (hM : PI D A cap H0 h H locs) (hl : lv_has ls 1 [(0, .ref a0)]) : Z H locs (cx H) (sx H) (F0 m 150 ls []) := by
  unfold fX6_init_c2 at hf
  have G := X.g
  refine g_aload_n G dX6_init_150 rfl (lv_at hl 0 rfl) ?_
  refine g_iconst (v := 5) G dX6_init_151 rfl ?_
  obtain ⟨b1, hf⟩ := ck_open hf
  obtain ⟨p1, h1, g1, hf⟩ := bnd_open hf
  refine p_newC X hM b1 g1 dX6_init_152 (fun H locs hM => ?_)
  refine g_dup G dX6_init_154 rfl ?_
  refine g_iconst (v := 0) G dX6_init_155 rfl ?_
  refine g_bipush (v := 107) G dX6_init_156 rfl ?_
  obtain ⟨h2, g2, hf⟩ := bnv_open hf
  refine p_cast X hM g2 dX6_init_158 (fun H locs hM => ?_)
  refine g_dup G dX6_init_159 rfl ?_
  refine g_iconst (v := 1) G dX6_init_160 rfl ?_
  refine g_bipush (v := 110) G dX6_init_161 rfl ?_
  obtain ⟨h3, g3, hf⟩ := bnv_open hf
  refine p_cast X hM g3 dX6_init_163 (fun H locs hM => ?_)
  refine g_dup G dX6_init_164 rfl ?_
  refine g_iconst (v := 2) G dX6_init_165 rfl ?_
  refine g_bipush (v := 111) G dX6_init_166 rfl ?_
  obtain ⟨h4, g4, hf⟩ := bnv_open hf
  refine p_cast X hM g4 dX6_init_168 (fun H locs hM => ?_)
  refine g_dup G dX6_init_169 rfl ?_
  refine g_iconst (v := 3) G dX6_init_170 rfl ?_
  refine g_bipush (v := 119) G dX6_init_171 rfl ?_
  obtain ⟨h5, g5, hf⟩ := bnv_open hf
  refine p_cast X hM g5 dX6_init_173 (fun H locs hM => ?_)
  refine g_dup G dX6_init_174 rfl ?_
  refine g_iconst (v := 4) G dX6_init_175 rfl ?_
  refine g_bipush (v := 115) G dX6_init_176 rfl ?_
  obtain ⟨h6, g6, hf⟩ := bnv_open hf
  refine p_cast X hM g6 dX6_init_178 (fun H locs hM => ?_)
  obtain ⟨h7, g7, hf⟩ := bnv_open hf
  refine p_putF (k := 14) X hM pc_6 (by decide) q1638 rfl rfl rfl rfl rfl g7 dX6_init_179 (fun H locs hM => ?_)
  refine g_aload_n G dX6_init_182 rfl (lv_at hl 0 rfl) ?_
  refine g_iconst (v := 4) G dX6_init_183 rfl ?_
  obtain ⟨b2, hf⟩ := ck_open hf
  obtain ⟨p2, h8, g8, hf⟩ := bnd_open hf
  refine p_newC X hM b2 g8 dX6_init_184 (fun H locs hM => ?_)
  refine g_dup G dX6_init_186 rfl ?_
  refine g_iconst (v := 0) G dX6_init_187 rfl ?_
  refine g_bipush (v := 101) G dX6_init_188 rfl ?_
  obtain ⟨h9, g9, hf⟩ := bnv_open hf
  refine p_cast X hM g9 dX6_init_190 (fun H locs hM => ?_)
  refine g_dup G dX6_init_191 rfl ?_
  refine g_iconst (v := 1) G dX6_init_192 rfl ?_
  refine g_bipush (v := 114) G dX6_init_193 rfl ?_
  obtain ⟨h10, g10, hf⟩ := bnv_open hf
  refine p_cast X hM g10 dX6_init_195 (fun H locs hM => ?_)
  refine g_dup G dX6_init_196 rfl ?_
  refine g_iconst (v := 2) G dX6_init_197 rfl ?_
  refine g_bipush (v := 114) G dX6_init_198 rfl ?_
  obtain ⟨h11, g11, hf⟩ := bnv_open hf
  refine p_cast X hM g11 dX6_init_200 (fun H locs hM => ?_)
  refine g_dup G dX6_init_201 rfl ?_
  refine g_iconst (v := 3) G dX6_init_202 rfl ?_
  refine g_bipush (v := 115) G dX6_init_203 rfl ?_
  obtain ⟨h12, g12, hf⟩ := bnv_open hf
  refine p_cast X hM g12 dX6_init_205 (fun H locs hM => ?_)
  obtain ⟨h13, g13, hf⟩ := bnv_open hf
  refine p_putF (k := 15) X hM pc_6 (by decide) q1639 rfl rfl rfl rfl rfl g13 dX6_init_206 (fun H locs hM => ?_)
  exact kX6_init_c3 X hf hM hl
noncomputable def fX6_init_c1 (cap : Nat × Nat) (a0 : Nat) (h : PH) : Option PH :=
  ck (!decide ((6 : Int32) < 0) && decide ((Int32.toNatClampNeg 6) ≤ 100000)) <|
  bnd (pNew cap h (.inl (3, (Int32.toNatClampNeg 6), .inl (fun _ => 0))) (Int32.toNatClampNeg 6)) fun p1 h1 =>
  bnv (pSt h1 p1 3 0 (vp_nar .char 112)) fun h2 =>
  bnv (pSt h2 p1 3 1 (vp_nar .char 101)) fun h3 =>
  bnv (pSt h3 p1 3 2 (vp_nar .char 114)) fun h4 =>
  bnv (pSt h4 p1 3 3 (vp_nar .char 115)) fun h5 =>
  bnv (pSt h5 p1 3 4 (vp_nar .char 111)) fun h6 =>
  bnv (pSt h6 p1 3 5 (vp_nar .char 110)) fun h7 =>
  bnv (pPut h7 a0 6 12 (.ref p1)) fun h8 =>
  ck (!decide ((4 : Int32) < 0) && decide ((Int32.toNatClampNeg 4) ≤ 100000)) <|
  bnd (pNew cap h8 (.inl (3, (Int32.toNatClampNeg 4), .inl (fun _ => 0))) (Int32.toNatClampNeg 4)) fun p2 h9 =>
  bnv (pSt h9 p2 3 0 (vp_nar .char 99)) fun h10 =>
  bnv (pSt h10 p2 3 1 (vp_nar .char 97)) fun h11 =>
  bnv (pSt h11 p2 3 2 (vp_nar .char 108)) fun h12 =>
  bnv (pSt h12 p2 3 3 (vp_nar .char 109)) fun h13 =>
  bnv (pPut h13 a0 6 13 (.ref p2)) fun h14 =>
  fX6_init_c2 cap a0 h14
set_option maxHeartbeats 1000000 in
theorem kX6_init_c1 {a0 : Nat} (X : pX l D A cap 2 cX6_init 1 RX6 true none m none h' H0 cx sx Z) (hf : fX6_init_c1 cap a0 h = some h') (hM : PI D A cap H0 h H locs) (hl : lv_has ls 1 [(0, .ref a0)]) : Z H locs (cx H) (sx H) (F0 m 85 ls []) := by
  unfold fX6_init_c1 at hf
  have G := X.g
  refine g_aload_n G dX6_init_85 rfl (lv_at hl 0 rfl) ?_
  refine g_bipush (v := 6) G dX6_init_86 rfl ?_
  obtain ⟨b1, hf⟩ := ck_open hf
  obtain ⟨p1, h1, g1, hf⟩ := bnd_open hf
  refine p_newC X hM b1 g1 dX6_init_88 (fun H locs hM => ?_)
  refine g_dup G dX6_init_90 rfl ?_
  refine g_iconst (v := 0) G dX6_init_91 rfl ?_
  refine g_bipush (v := 112) G dX6_init_92 rfl ?_
  obtain ⟨h2, g2, hf⟩ := bnv_open hf
  refine p_cast X hM g2 dX6_init_94 (fun H locs hM => ?_)
  refine g_dup G dX6_init_95 rfl ?_
  refine g_iconst (v := 1) G dX6_init_96 rfl ?_
  refine g_bipush (v := 101) G dX6_init_97 rfl ?_
  obtain ⟨h3, g3, hf⟩ := bnv_open hf
  refine p_cast X hM g3 dX6_init_99 (fun H locs hM => ?_)
  refine g_dup G dX6_init_100 rfl ?_
  refine g_iconst (v := 2) G dX6_init_101 rfl ?_
  refine g_bipush (v := 114) G dX6_init_102 rfl ?_
  obtain ⟨h4, g4, hf⟩ := bnv_open hf
  refine p_cast X hM g4 dX6_init_104 (fun H locs hM => ?_)
  refine g_dup G dX6_init_105 rfl ?_
  refine g_iconst (v := 3) G dX6_init_106 rfl ?_
  refine g_bipush (v := 115) G dX6_init_107 rfl ?_
  obtain ⟨h5, g5, hf⟩ := bnv_open hf
  refine p_cast X hM g5 dX6_init_109 (fun H locs hM => ?_)
  refine g_dup G dX6_init_110 rfl ?_
  refine g_iconst (v := 4) G dX6_init_111 rfl ?_
  refine g_bipush (v := 111) G dX6_init_112 rfl ?_
  obtain ⟨h6, g6, hf⟩ := bnv_open hf
  refine p_cast X hM g6 dX6_init_114 (fun H locs hM => ?_)
  refine g_dup G dX6_init_115 rfl ?_
  refine g_iconst (v := 5) G dX6_init_116 rfl ?_
  refine g_bipush (v := 110) G dX6_init_117 rfl ?_
  obtain ⟨h7, g7, hf⟩ := bnv_open hf
  refine p_cast X hM g7 dX6_init_119 (fun H locs hM => ?_)
  obtain ⟨h8, g8, hf⟩ := bnv_open hf
  refine p_putF (k := 12) X hM pc_6 (by decide) q1636 rfl rfl rfl rfl rfl g8 dX6_init_120 (fun H locs hM => ?_)
  refine g_aload_n G dX6_init_123 rfl (lv_at hl 0 rfl) ?_
  refine g_iconst (v := 4) G dX6_init_124 rfl ?_
  obtain ⟨b2, hf⟩ := ck_open hf
  obtain ⟨p2, h9, g9, hf⟩ := bnd_open hf
  refine p_newC X hM b2 g9 dX6_init_125 (fun H locs hM => ?_)
  refine g_dup G dX6_init_127 rfl ?_
  refine g_iconst (v := 0) G dX6_init_128 rfl ?_
  refine g_bipush (v := 99) G dX6_init_129 rfl ?_
  obtain ⟨h10, g10, hf⟩ := bnv_open hf
  refine p_cast X hM g10 dX6_init_131 (fun H locs hM => ?_)
  refine g_dup G dX6_init_132 rfl ?_
  refine g_iconst (v := 1) G dX6_init_133 rfl ?_
  refine g_bipush (v := 97) G dX6_init_134 rfl ?_
  obtain ⟨h11, g11, hf⟩ := bnv_open hf
  refine p_cast X hM g11 dX6_init_136 (fun H locs hM => ?_)
  refine g_dup G dX6_init_137 rfl ?_
  refine g_iconst (v := 2) G dX6_init_138 rfl ?_
  refine g_bipush (v := 108) G dX6_init_139 rfl ?_
  obtain ⟨h12, g12, hf⟩ := bnv_open hf
  refine p_cast X hM g12 dX6_init_141 (fun H locs hM => ?_)
  refine g_dup G dX6_init_142 rfl ?_
  refine g_iconst (v := 3) G dX6_init_143 rfl ?_
  refine g_bipush (v := 109) G dX6_init_144 rfl ?_
  obtain ⟨h13, g13, hf⟩ := bnv_open hf
  refine p_cast X hM g13 dX6_init_146 (fun H locs hM => ?_)
  obtain ⟨h14, g14, hf⟩ := bnv_open hf
  refine p_putF (k := 13) X hM pc_6 (by decide) q1637 rfl rfl rfl rfl rfl g14 dX6_init_147 (fun H locs hM => ?_)
  exact kX6_init_c2 X hf hM hl
noncomputable def fX6_init_c0 (cap : Nat × Nat) (a0 : Nat) (h : PH) : Option PH :=
  ck (!decide ((1600 : Int32) < 0) && decide ((Int32.toNatClampNeg 1600) ≤ 100000)) <|
  bnd (pNew cap h (.inl (0, (Int32.toNatClampNeg 1600), .inl (fun _ => 0))) (Int32.toNatClampNeg 1600)) fun p1 h1 =>
  bnv (pPut h1 a0 6 0 (.ref p1)) fun h2 =>
  bnv (pPut h2 a0 6 8 (.int (-1))) fun h3 =>
  ck (!decide ((6 : Int32) < 0) && decide ((Int32.toNatClampNeg 6) ≤ 100000)) <|
  bnd (pNew cap h3 (.inl (0, (Int32.toNatClampNeg 6), .inl (fun _ => 0))) (Int32.toNatClampNeg 6)) fun p2 h4 =>
  bnv (pPut h4 a0 6 9 (.ref p2)) fun h5 =>
  ck (!decide ((4 : Int32) < 0) && decide ((Int32.toNatClampNeg 4) ≤ 100000)) <|
  bnd (pNew cap h5 (.inl (3, (Int32.toNatClampNeg 4), .inl (fun _ => 0))) (Int32.toNatClampNeg 4)) fun p3 h6 =>
  bnv (pSt h6 p3 3 0 (vp_nar .char 102)) fun h7 =>
  bnv (pSt h7 p3 3 1 (vp_nar .char 97)) fun h8 =>
  bnv (pSt h8 p3 3 2 (vp_nar .char 99)) fun h9 =>
  bnv (pSt h9 p3 3 3 (vp_nar .char 116)) fun h10 =>
  bnv (pPut h10 a0 6 10 (.ref p3)) fun h11 =>
  ck (!decide ((5 : Int32) < 0) && decide ((Int32.toNatClampNeg 5) ≤ 100000)) <|
  bnd (pNew cap h11 (.inl (3, (Int32.toNatClampNeg 5), .inl (fun _ => 0))) (Int32.toNatClampNeg 5)) fun p4 h12 =>
  bnv (pSt h12 p4 3 0 (vp_nar .char 119)) fun h13 =>
  bnv (pSt h13 p4 3 1 (vp_nar .char 111)) fun h14 =>
  bnv (pSt h14 p4 3 2 (vp_nar .char 114)) fun h15 =>
  bnv (pSt h15 p4 3 3 (vp_nar .char 116)) fun h16 =>
  bnv (pSt h16 p4 3 4 (vp_nar .char 104)) fun h17 =>
  bnv (pPut h17 a0 6 11 (.ref p4)) fun h18 =>
  fX6_init_c1 cap a0 h18
set_option maxHeartbeats 1000000 in
theorem kX6_init_c0 {a0 : Nat} (X : pX l D A cap 2 cX6_init 1 RX6 true none m none h' H0 cx sx Z) (hf : fX6_init_c0 cap a0 h = some h') (hM : PI D A cap H0 h H locs) (hl : lv_has ls 1 [(0, .ref a0)]) : Z H locs (cx H) (sx H) (F0 m 0 ls []) := by
  unfold fX6_init_c0 at hf
  have G := X.g
  refine g_aload_n G dX6_init_0 rfl (lv_at hl 0 rfl) ?_
  refine p_obj X hl q1623 q190 q191 (by decide) (Nat.le_of_ble_eq_true rfl) dX6_init_1 ?_
  refine g_aload_n G dX6_init_4 rfl (lv_at hl 0 rfl) ?_
  refine g_sipush (v := 1600) G dX6_init_5 rfl ?_
  obtain ⟨b1, hf⟩ := ck_open hf
  obtain ⟨p1, h1, g1, hf⟩ := bnd_open hf
  refine p_newI X hM b1 g1 dX6_init_8 (fun H locs hM => ?_)
  obtain ⟨h2, g2, hf⟩ := bnv_open hf
  refine p_putF (k := 0) X hM pc_6 (by decide) q1624 rfl rfl rfl rfl rfl g2 dX6_init_10 (fun H locs hM => ?_)
  refine g_aload_n G dX6_init_13 rfl (lv_at hl 0 rfl) ?_
  refine g_iconst (v := (-1)) G dX6_init_14 rfl ?_
  obtain ⟨h3, g3, hf⟩ := bnv_open hf
  refine p_put (k := 8) X hM pc_6 (by decide) q1632 rfl rfl rfl rfl g3 dX6_init_15 (fun H locs hM => ?_)
  refine g_aload_n G dX6_init_18 rfl (lv_at hl 0 rfl) ?_
  refine g_bipush (v := 6) G dX6_init_19 rfl ?_
  obtain ⟨b2, hf⟩ := ck_open hf
  obtain ⟨p2, h4, g4, hf⟩ := bnd_open hf
  refine p_newI X hM b2 g4 dX6_init_21 (fun H locs hM => ?_)
  obtain ⟨h5, g5, hf⟩ := bnv_open hf
  refine p_putF (k := 9) X hM pc_6 (by decide) q1633 rfl rfl rfl rfl rfl g5 dX6_init_23 (fun H locs hM => ?_)
  refine g_aload_n G dX6_init_26 rfl (lv_at hl 0 rfl) ?_
  refine g_iconst (v := 4) G dX6_init_27 rfl ?_
  obtain ⟨b3, hf⟩ := ck_open hf
  obtain ⟨p3, h6, g6, hf⟩ := bnd_open hf
  refine p_newC X hM b3 g6 dX6_init_28 (fun H locs hM => ?_)
  refine g_dup G dX6_init_30 rfl ?_
  refine g_iconst (v := 0) G dX6_init_31 rfl ?_
  refine g_bipush (v := 102) G dX6_init_32 rfl ?_
  obtain ⟨h7, g7, hf⟩ := bnv_open hf
  refine p_cast X hM g7 dX6_init_34 (fun H locs hM => ?_)
  refine g_dup G dX6_init_35 rfl ?_
  refine g_iconst (v := 1) G dX6_init_36 rfl ?_
  refine g_bipush (v := 97) G dX6_init_37 rfl ?_
  obtain ⟨h8, g8, hf⟩ := bnv_open hf
  refine p_cast X hM g8 dX6_init_39 (fun H locs hM => ?_)
  refine g_dup G dX6_init_40 rfl ?_
  refine g_iconst (v := 2) G dX6_init_41 rfl ?_
  refine g_bipush (v := 99) G dX6_init_42 rfl ?_
  obtain ⟨h9, g9, hf⟩ := bnv_open hf
  refine p_cast X hM g9 dX6_init_44 (fun H locs hM => ?_)
  refine g_dup G dX6_init_45 rfl ?_
  refine g_iconst (v := 3) G dX6_init_46 rfl ?_
  refine g_bipush (v := 116) G dX6_init_47 rfl ?_
  obtain ⟨h10, g10, hf⟩ := bnv_open hf
  refine p_cast X hM g10 dX6_init_49 (fun H locs hM => ?_)
  obtain ⟨h11, g11, hf⟩ := bnv_open hf
  refine p_putF (k := 10) X hM pc_6 (by decide) q1634 rfl rfl rfl rfl rfl g11 dX6_init_50 (fun H locs hM => ?_)
  refine g_aload_n G dX6_init_53 rfl (lv_at hl 0 rfl) ?_
  refine g_iconst (v := 5) G dX6_init_54 rfl ?_
  obtain ⟨b4, hf⟩ := ck_open hf
  obtain ⟨p4, h12, g12, hf⟩ := bnd_open hf
  refine p_newC X hM b4 g12 dX6_init_55 (fun H locs hM => ?_)
  refine g_dup G dX6_init_57 rfl ?_
  refine g_iconst (v := 0) G dX6_init_58 rfl ?_
  refine g_bipush (v := 119) G dX6_init_59 rfl ?_
  obtain ⟨h13, g13, hf⟩ := bnv_open hf
  refine p_cast X hM g13 dX6_init_61 (fun H locs hM => ?_)
  refine g_dup G dX6_init_62 rfl ?_
  refine g_iconst (v := 1) G dX6_init_63 rfl ?_
  refine g_bipush (v := 111) G dX6_init_64 rfl ?_
  obtain ⟨h14, g14, hf⟩ := bnv_open hf
  refine p_cast X hM g14 dX6_init_66 (fun H locs hM => ?_)
  refine g_dup G dX6_init_67 rfl ?_
  refine g_iconst (v := 2) G dX6_init_68 rfl ?_
  refine g_bipush (v := 114) G dX6_init_69 rfl ?_
  obtain ⟨h15, g15, hf⟩ := bnv_open hf
  refine p_cast X hM g15 dX6_init_71 (fun H locs hM => ?_)
  refine g_dup G dX6_init_72 rfl ?_
  refine g_iconst (v := 3) G dX6_init_73 rfl ?_
  refine g_bipush (v := 116) G dX6_init_74 rfl ?_
  obtain ⟨h16, g16, hf⟩ := bnv_open hf
  refine p_cast X hM g16 dX6_init_76 (fun H locs hM => ?_)
  refine g_dup G dX6_init_77 rfl ?_
  refine g_iconst (v := 4) G dX6_init_78 rfl ?_
  refine g_bipush (v := 104) G dX6_init_79 rfl ?_
  obtain ⟨h17, g17, hf⟩ := bnv_open hf
  refine p_cast X hM g17 dX6_init_81 (fun H locs hM => ?_)
  obtain ⟨h18, g18, hf⟩ := bnv_open hf
  refine p_putF (k := 11) X hM pc_6 (by decide) q1635 rfl rfl rfl rfl rfl g18 dX6_init_82 (fun H locs hM => ?_)
  exact kX6_init_c1 X hf hM hl
noncomputable def fX6_init (cap : Nat × Nat) (a0 : Nat) (h : PH) : Option PH := fX6_init_c0 cap a0 h
theorem kX6_init {a0 : Nat} (hf : fX6_init cap a0 h = some h') : CMet l D A cap yX6_init cX6_init 1 none 2 [.ref a0] h h' none := by
  exact p_head (own := RX6) (ini := true) (pn_X6 rfl) rfl (fun q => rfl) (Nat.le_of_ble_eq_true rfl) (fun m Z cx sx H0 ls X hM hl => kX6_init_c0 X hf hM hl)
end CI
