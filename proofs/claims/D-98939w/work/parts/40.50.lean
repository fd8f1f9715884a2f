/-! PART 50: plain: the component: copy, hears -/
set_option maxRecDepth 100000
/-- the rows of the State at s lie each at its own place -/
def cPi (B s : Nat) (c : CZ) : Prop := ∃ π : Nat → Nat, (∀ i, i < 30 → π i < 30) ∧ (∀ i j, i < 30 → j < 30 → π i = π j → i = j) ∧ ∀ i, i < 30 → cQ c (s + 5) i = some (B + (s + 6 + π i))
theorem cRw.pi {B s : Nat} {l : List (Nat × Nat × Nat)} {c : CZ} (h : cRw B l s c) : cPi B s c := by
  obtain ⟨-, -, π, g3, g4, g5, -⟩ := h
  exact ⟨π, g3, g4, g5⟩
theorem isS_apart {a b : Nat} (ha : isS a) (hb : isS b) (h : a ≠ b) : a + 37 ≤ b ∨ b + 37 ≤ a := by
  rcases ha with rfl | rfl | ⟨i, hi, rfl⟩ <;> rcases hb with rfl | rfl | ⟨j, hj, rfl⟩ <;> omega
section CP
variable {B : Nat} {c : CZ} {h0 : PH} {s t : Nat}
theorem x_copy (hs : isS s) (ht : isS t) (hne : s ≠ t) {k : SK} (h8 : kP k ≤ 8) {w : SW} (ha : cAll B k w t c) (hp : cPi B s c) : ∃ c', fX5_copy (B + s) (B + t) (mk B c h0) = some (B + s, mk B c' h0) ∧ cFr s c c' ∧ cAll B k w s c' := by
  have ap := isS_apart hs ht hne
  obtain ⟨hw, hst, hrw⟩ := ha
  obtain ⟨r1, r2, πt, r3, r4, r5, r6⟩ := hrw
  obtain ⟨πs, p3, p4, p5⟩ := hp
  have fin : Ok (fX5_copy (B + s) (B + t) (mk B c h0)) (fun r => ∃ c', r = (B + s, mk B c' h0) ∧ cFr s c c' ∧ cAll B k w s c') := by
    unfold fX5_copy
    rw [st_F0 ht, vI_s, st_p0 hs, bnv_s, st_F1 ht, vI_s, st_p1 hs, bnv_s, st_F2 ht, vI_s, st_p2 hs, bnv_s, st_F3 ht, vI_s, st_p3 hs, bnv_s, jn_s]
    simp only [cI_x]
    rw [if_neg (by omega), if_neg (by omega), if_neg (by omega), if_neg (by omega), if_neg (by omega), if_neg (by omega)]
    generalize hz : xI (xI (xI (xI c s 0 (cI c t 0)) s 1 (cI c t 1)) s 2 (cI c t 2)) s 3 (cI c t 3) = c1
    have v1 : ∀ o i, cI c1 o i = if o = s ∧ i < 4 then cI c t i else cI c o i := fun o i => by
      rw [← hz, cI_x, cI_x, cI_x, cI_x]
      by_cases e : o = s
      · by_cases e3 : i = 3
        · rw [if_pos ⟨e, e3⟩, if_pos ⟨e, by omega⟩, e3]
        rw [if_neg (fun q => e3 q.2)]
        by_cases e2 : i = 2
        · rw [if_pos ⟨e, e2⟩, if_pos ⟨e, by omega⟩, e2]
        rw [if_neg (fun q => e2 q.2)]
        by_cases e1 : i = 1
        · rw [if_pos ⟨e, e1⟩, if_pos ⟨e, by omega⟩, e1]
        rw [if_neg (fun q => e1 q.2)]
        by_cases e0 : i = 0
        · rw [if_pos ⟨e, e0⟩, if_pos ⟨e, by omega⟩, e0]
        rw [if_neg (fun q => e0 q.2), if_neg (by omega)]
      · rw [if_neg (fun q => e q.1), if_neg (fun q => e q.1), if_neg (fun q => e q.1), if_neg (fun q => e q.1), if_neg (fun q => e q.1)]
    have q1 : c1.2 = c.2 := by rw [← hz]; rfl
    -- the people
    refine fx_okN (F := fX5_copy_L34 (B + s) (B + t) _) (z := fun _ _ => none) (fun g j (b : CZ) => g (nI j) (mk B b h0)) 8 (fun j b => b.2 = c.2 ∧ ∀ o i, cI b o i = if s < o ∧ o < s + 5 ∧ i < j then cI c (o - s + t) i else cI c1 o i) _ ?_ ?_ FU 0 c1 (Nat.zero_le _) ⟨q1, fun o i => by rw [if_neg (by omega)]⟩ (FU_gt (by decide))
    · rintro g j b hj ⟨hb2, hb⟩ go
      have in8 : inb (nI j) 8 = true := inb_nI hj (by decide)
      have nc : (nI j).toNatClampNeg = j := nI_c (by omega)
      show Ok (fX5_copy_L34 (B + s) (B + t) _ g (nI j) (mk B b h0)) _
      unfold fX5_copy_L34
      have rd : ∀ d, 1 ≤ d → d ≤ 4 → cI b (t + d) j = cI c (t + d) j := fun d h1 h2 => by
        rw [hb, if_neg (by omega), v1, if_neg (by omega)]
      rw [if_neg (show ¬ (8 : Int32) ≤ nI j from nI_ge (b := 8) hj (by decide)), st_F4 hs, vA_s, st_F4 ht, vA_s, Nat.add_assoc B t 1, (st_k1 ht).ld b h0 in8, ob_s, nc, rd 1 (by decide) (by decide), Nat.add_assoc B s 1, (st_k1 hs).st b h0 in8, bnv_s, nc]
      generalize hz1 : xI b (s + 1) j (cI c (t + 1) j) = b1
      have u1 : ∀ o i, cI b1 o i = if o = s + 1 ∧ i = j then cI c (t + 1) j else cI b o i := fun o i => by rw [← hz1, cI_x]
      rw [st_F5 hs, vA_s, st_F5 ht, vA_s, Nat.add_assoc B t 2, (st_k2 ht).ld b1 h0 in8, ob_s, nc, u1, if_neg (by omega), rd 2 (by decide) (by decide), Nat.add_assoc B s 2, (st_k2 hs).st b1 h0 in8, bnv_s, nc]
      generalize hz2 : xI b1 (s + 2) j (cI c (t + 2) j) = b2
      have u2 : ∀ o i, cI b2 o i = if o = s + 2 ∧ i = j then cI c (t + 2) j else cI b1 o i := fun o i => by rw [← hz2, cI_x]
      rw [st_F6 hs, vA_s, st_F6 ht, vA_s, Nat.add_assoc B t 3, (st_k3 ht).ld b2 h0 in8, ob_s, nc, u2, if_neg (by omega), u1, if_neg (by omega), rd 3 (by decide) (by decide), Nat.add_assoc B s 3, (st_k3 hs).st b2 h0 in8, bnv_s, nc]
      generalize hz3 : xI b2 (s + 3) j (cI c (t + 3) j) = b3
      have u3 : ∀ o i, cI b3 o i = if o = s + 3 ∧ i = j then cI c (t + 3) j else cI b2 o i := fun o i => by rw [← hz3, cI_x]
      rw [st_F7 hs, vA_s, st_F7 ht, vA_s, Nat.add_assoc B t 4, (st_k4 ht).ld b3 h0 in8, ob_s, nc, u3, if_neg (by omega), u2, if_neg (by omega), u1, if_neg (by omega), rd 4 (by decide) (by decide), Nat.add_assoc B s 4, (st_k4 hs).st b3 h0 in8, bnv_s, nc, nI_1]
      refine go _ ⟨by rw [← hz3, ← hz2, ← hz1]; exact hb2, fun o i => ?_⟩
      rw [cI_x, u3, u2, u1, hb]
      by_cases e : i = j
      · by_cases a4 : o = s + 4
        · rw [if_pos ⟨a4, e⟩, if_pos (by omega), a4, e, show s + 4 - s + t = t + 4 by omega]
        rw [if_neg (fun q => a4 q.1)]
        by_cases a3 : o = s + 3
        · rw [if_pos ⟨a3, e⟩, if_pos (by omega), a3, e, show s + 3 - s + t = t + 3 by omega]
        rw [if_neg (fun q => a3 q.1)]
        by_cases a2 : o = s + 2
        · rw [if_pos ⟨a2, e⟩, if_pos (by omega), a2, e, show s + 2 - s + t = t + 2 by omega]
        rw [if_neg (fun q => a2 q.1)]
        by_cases a1 : o = s + 1
        · rw [if_pos ⟨a1, e⟩, if_pos (by omega), a1, e, show s + 1 - s + t = t + 1 by omega]
        rw [if_neg (fun q => a1 q.1), if_neg (by omega), if_neg (by omega)]
      · rw [if_neg (fun q => e q.2), if_neg (fun q => e q.2), if_neg (fun q => e q.2), if_neg (fun q => e q.2)]
        by_cases a : s < o ∧ o < s + 5 ∧ i < j
        · rw [if_pos a, if_pos (by omega)]
        · rw [if_neg a, if_neg (by omega)]
    · rintro g b ⟨hb2, hb⟩
      show Ok (fX5_copy_L34 (B + s) (B + t) _ g (nI 8) (mk B b h0)) _
      unfold fX5_copy_L34
      rw [if_pos (by decide)]
      have b3 : cI b s 3 = nI (wK w).length := by rw [hb, if_neg (by omega), v1, if_pos ⟨rfl, by decide⟩, r2]
      -- the rows
      refine fx_okN (F := fX5_copy_L96 (B + s) (B + t)) (z := fun _ _ => none) (fun g j (b : CZ) => g (nI j) (mk B b h0)) (wK w).length (fun j e => e.2 = c.2 ∧ (∀ o i, o < s + 6 ∨ s + 36 ≤ o → cI e o i = cI b o i) ∧ ∀ q, q < j → ∀ i, i < 3 → cI e (s + 6 + πs q) i = cI c (t + 6 + πt q) i) _ ?_ ?_ FU 0 b (Nat.zero_le _) ⟨hb2, fun _ _ _ => rfl, fun q hq => absurd hq (Nat.not_lt_zero _)⟩ (FU_gt (by omega))
      · rintro g j e hj ⟨he2, he, her⟩ go
        have ps := p3 j (by omega)
        have pt := r3 j (by omega)
        have in30 : inb (nI j) 30 = true := inb_nI (by omega) (by decide)
        have nc : (nI j).toNatClampNeg = j := nI_c (by omega)
        have e3 : cI e s 3 = nI (wK w).length := by rw [he s 3 (by omega), b3]
        show Ok (fX5_copy_L96 (B + s) (B + t) g (nI j) (mk B e h0)) _
        unfold fX5_copy_L96
        rw [st_F3 hs, vI_s, e3, if_neg (nI_ge hj (by omega)), jn_s]
        refine fx_okN (F := fX5_copy_L106 (B + s) (B + t) (nI j) _) (z := fun _ _ => none) (fun g i (b : CZ) => g (nI i) (mk B b h0)) 3 (fun i y => y.2 = c.2 ∧ (∀ o q, o ≠ s + 6 + πs j → cI y o q = cI e o q) ∧ ∀ q, q < i → cI y (s + 6 + πs j) q = cI c (t + 6 + πt j) q) _ ?_ ?_ FU 0 e (Nat.zero_le _) ⟨he2, fun _ _ _ => rfl, fun q hq => absurd hq (Nat.not_lt_zero _)⟩ (FU_gt (by decide))
        · rintro g2 i y hi ⟨hy2, hy, hyr⟩ go2
          have in3 : inb (nI i) 3 = true := inb_nI hi (by decide)
          have nc3 : (nI i).toNatClampNeg = i := nI_c (by omega)
          have yq : ∀ o q, cQ y o q = cQ c o q := fun o q => by show y.2.2 o q = c.2.2 o q; rw [hy2]
          have lqs : pLdQ (mk B y h0) (B + s + 5) 6 (nI j) = some (some (B + (s + 6 + πs j))) := by
            rw [Nat.add_assoc, (st_k5 hs).ld y h0 in30, nc, yq, p5 j (by omega)]
          have lqt : pLdQ (mk B y h0) (B + t + 5) 6 (nI j) = some (some (B + (t + 6 + πt j))) := by
            rw [Nat.add_assoc, (st_k5 ht).ld y h0 in30, nc, yq, r5 j (by omega)]
          have val : cI y (t + 6 + πt j) i = cI c (t + 6 + πt j) i := by
            rw [hy _ _ (by omega), he _ _ (by omega), hb, if_neg (by omega), v1, if_neg (by omega)]
          show Ok (fX5_copy_L106 (B + s) (B + t) (nI j) _ g2 (nI i) (mk B y h0)) _
          unfold fX5_copy_L106
          rw [if_neg (show ¬ (3 : Int32) ≤ nI i from nI_ge (b := 3) hi (by decide)), st_F8 hs, vA_s, lqs, ob_s, st_F8 ht, vA_s, lqt, ob_s, qS_s, (st_kr ht pt).ld y h0 in3, ob_s, qS_s, (st_kr hs ps).st y h0 in3, bnv_s, nc3, val, nI_1]
          refine go2 _ ⟨hy2, fun o q ho => by rw [cI_x, if_neg (fun z => ho z.1)]; exact hy o q ho, fun q hq => ?_⟩
          rw [cI_x]
          by_cases a : q = i
          · rw [if_pos ⟨rfl, a⟩, a]
          · rw [if_neg (fun z => a z.2)]
            exact hyr q (by omega)
        · rintro g2 y ⟨hy2, hy, hyr⟩
          show Ok (fX5_copy_L106 (B + s) (B + t) (nI j) _ g2 (nI 3) (mk B y h0)) _
          unfold fX5_copy_L106
          rw [if_pos (by decide), nI_1]
          refine go y ⟨hy2, fun o i ho => by rw [hy _ _ (by omega)]; exact he o i ho, fun q hq i hi => ?_⟩
          by_cases a : q = j
          · rw [a]; exact hyr i hi
          · have : πs q ≠ πs j := fun z => a (p4 q j (by omega) (by omega) z)
            rw [hy _ _ (by omega)]
            exact her q (by omega) i hi
      · rintro g e ⟨he2, he, her⟩
        have e3 : cI e s 3 = nI (wK w).length := by rw [he s 3 (by omega), b3]
        show Ok (fX5_copy_L96 (B + s) (B + t) g (nI (wK w).length) (mk B e h0)) _
        unfold fX5_copy_L96
        rw [st_F3 hs, vI_s, e3, if_pos (nI_le (Nat.le_refl _) (by omega))]
        have lo : ∀ i, i < 4 → cI e s i = cI c t i := fun i hi => by rw [he s i (by omega), hb, if_neg (by omega), v1, if_pos ⟨rfl, hi⟩]
        have pe : ∀ d p, 1 ≤ d → d ≤ 4 → p < 8 → cI e (s + d) p = cI c (t + d) p := fun d p h1 h2 h3 => by
          rw [he _ _ (by omega), hb, if_pos (by omega), show s + d - s + t = t + d by omega]
        refine Ok.of ⟨e, rfl, ⟨fun o i ho => by rw [he _ _ (by omega), hb, if_neg (by omega), v1, if_neg (by omega)], fun o _ => by rw [he2], fun o _ => by rw [he2]⟩, hw, ⟨by rw [lo 0 (by decide)]; exact hst.1, by rw [lo 1 (by decide)]; exact hst.2.1, by rw [lo 2 (by decide)]; exact hst.2.2.1, fun p hp => ?_⟩, r1, e3, πs, p3, p4, fun i hi => by show e.2.2 (s + 5) i = _; rw [he2]; exact p5 i hi, fun i hi => ?_⟩
        · rw [pe 1 p (by decide) (by decide) (by omega), pe 2 p (by decide) (by decide) (by omega), pe 3 p (by decide) (by decide) (by omega), pe 4 p (by decide) (by decide) (by omega)]
          exact hst.2.2.2 p hp
        · rw [her i hi 0 (by decide), her i hi 1 (by decide), her i hi 2 (by decide)]
          exact r6 i hi
  obtain ⟨r, e, c', rfl, q1, q2⟩ := fin
  exact ⟨c', e, q1, q2⟩
/-- one learns a fact -/
theorem x_hears {k : SK} (hk : kOk k) (hs : isS s) {w : SW} (ha : cAll B k w s c) {p f : Nat} (hp : p < kP k) (hf : f < kF k) : ∃ c', fX5_hears (B + s) (nI p) (nI f) (mk B c h0) = some (mk B c' h0) ∧ cFr s c c' ∧ cAll B k (sMake w p f 1) s c' := by
  have h8 := hk.2.1
  have hF := hk.1
  obtain ⟨hw, hst, hrw⟩ := ha
  have r8 := hw.r8 hk hp
  have w8 := hw.w8 hk hp
  have in8 : inb (nI p) 8 = true := inb_nI (by omega) (by decide)
  have nc : (nI p).toNatClampNeg = p := nI_c (by omega)
  have l3 : pLd (mk B (xI c (s + 2) p (nI (wR w p ||| 2 ^ f))) h0) (B + s + 3) 0 (nI p) = some (nI (wW w p)) := by
    rw [Nat.add_assoc, (st_k3 hs).ld _ h0 in8, nc, cI_x, if_neg (by omega), (hst.2.2.2 p hp).2.2.1]
  unfold fX5_hears
  rw [st_F5 hs, vA_s, st_r hs hst hp h8, ob_s, s_or _ r8 f (by omega), Nat.add_assoc B s 2, (st_k2 hs).st c h0 in8, bnv_s, nc, st_F6 hs, vA_s, l3, ob_s, s_clr _ w8 f (by omega), Nat.add_assoc B s 3, (st_k3 hs).st _ h0 in8, bnv_s, nc]
  refine ⟨_, rfl, (cFr.x c (by omega) _ _).tr (cFr.x _ (by omega) _ _), wOk.make hk hw hp hf (Or.inl rfl), ⟨?_, ?_, ?_, fun q hq => ?_⟩, (hrw.i (by omega) _).i (by omega) _⟩
  · rw [cI_x, if_neg (by omega), cI_x, if_neg (by omega)]; exact hst.1
  · rw [cI_x, if_neg (by omega), cI_x, if_neg (by omega)]; exact hst.2.1
  · rw [cI_x, if_neg (by omega), cI_x, if_neg (by omega)]; exact hst.2.2.1
  · obtain ⟨z1, z2, z3, z4⟩ := hst.2.2.2 q hq
    refine ⟨?_, ?_, ?_, ?_⟩
    · rw [cI_x, if_neg (by omega), cI_x, if_neg (by omega)]; exact z1
    · rw [cI_x, if_neg (by omega), cI_x, wR_make]
      by_cases e : q = p
      · rw [if_pos ⟨rfl, e⟩, if_pos e, if_pos rfl, s_clr_or _ r8 f (by omega)]
      · rw [if_neg (fun x => e x.2), if_neg e]; exact z2
    · rw [cI_x, wW_make]
      by_cases e : q = p
      · rw [if_pos ⟨rfl, e⟩, if_pos e, if_neg (by decide)]
      · rw [if_neg (fun x => e x.2), cI_x, if_neg (by omega), if_neg e]; exact z3
    · rw [cI_x, if_neg (by omega), cI_x, if_neg (by omega)]; exact z4
end CP
