/-! PART 22: plain: what stands within brackets -/
set_option maxRecDepth 100000
section SO
variable {B N n : Nat} {b : Nat → Nat} {D : PD} {cap : Nat × Nat}
theorem cAs.p4 {j : Nat} {c : CZ} (g : cAs n b j c) (v : Int32) : cAs n b j (xI c 7 4 v) := by
  obtain ⟨a, ⟨a1, a2, a3⟩, ea⟩ := g
  exact ⟨a, ⟨a1.rd (cRd.at c (by decide) v), by rw [cI_xI_ne _ (by omega)]; exact a2, a3⟩, ea⟩
theorem y_close {c : CZ} {h : PH} {e d s : Nat} (hw : hW B h) (ha : cAs n b e c) (hs : s < 256) (h4 : cI c 7 4 = nI (d + 1)) (hd : d ≤ 6) (p : Nat) : ∃ c', cRd c c' ∧ match rMust n b s e with
    | .inl g => (bnx (fX2_must (B + 7) (nI s) (mk B c h)) fun u2 h6 => vI (pF h6 (B + 7) 2 4) fun v3 => bnv (pPut h6 (B + 7) 2 4 (.int (v3 - 1))) fun h7 => (some (.inl p, h7) : Option ((Nat ⊕ Nat) × PH))) = some (.inr (B + 8), mk B c' h) ∧ cFt c' g
    | .inr (_, e2) => (bnx (fX2_must (B + 7) (nI s) (mk B c h)) fun u2 h6 => vI (pF h6 (B + 7) 2 4) fun v3 => bnv (pPut h6 (B + 7) 2 4 (.int (v3 - 1))) fun h7 => (some (.inl p, h7) : Option ((Nat ⊕ Nat) × PH))) = some (.inl p, mk B c' h) ∧ cI c' 7 4 = nI d ∧ cAs n b e2 c' := by
  obtain ⟨c1, m1, m2⟩ := y_must (N := 0) hw ha hs
  cases q : rMust n b s e with
  | inl g =>
    rw [q] at m2
    obtain ⟨m3, m4⟩ := m2
    refine ⟨c1, m1.1, ?_⟩
    show bnx _ _ = _ ∧ _
    rw [m3, bnx_r]
    exact ⟨rfl, m4⟩
  | inr pp =>
    obtain ⟨u, e2⟩ := pp
    rw [q] at m2
    obtain ⟨m3, m4, m5⟩ := m2
    refine ⟨xI c1 7 4 (nI d), m1.1.tr (cRd.at c1 (by decide) _), ?_⟩
    show bnx _ _ = _ ∧ _
    rw [m3, bnx_l, r_F4, vI_s, m4, h4, nI_m1 (by omega), r_pI c1 h 4 (by decide), bnv_s]
    exact ⟨rfl, cI_xI_eq _ _ _ _, m5.p4 _⟩
theorem y_within {rS : Nat → PH → Option ((Nat ⊕ Nat) × PH)} {sum : Nat → RS (List Int32)} {d a1 : Nat} {dp : Bool} {m5 : Int32} {xs ys k : Nat} (ha1 : a1 ≤ 2) (hd6 : d ≤ 6) (hdp : dp = false ↔ d = 6) (hxs : xs ≤ 30) (hys : ys ≤ 1000) (hp : rPg n b sum) (A : dp = true → vSp D cap B N n b rS sum (d + 1) m5 xs ys k) :
    vSp D cap B N n b (fun a => fX2_within D cap rS a (nI a1)) (fun i => rWithin n b dp sum a1 (sSk n b i)) d m5 30 300 (k + 1) := by
  intro c h j hd ha hj h4 h5 r1 r2
  obtain ⟨a, ha, ea⟩ := ha
  have T := x_here (B := B) (h := h) ha
  rw [ea] at T
  have hjs := sSk_ge n b j
  have hjn := sSk_le b hj
  have at1 : cAt n b (sSk n b j) (xI c 7 2 (nI (sSk n b j))) := ha.to hjn
  have rd1 := cRd.at c (i := 2) (by decide) (nI (sSk n b j))
  have i44 : cI (xI c 7 2 (nI (sSk n b j))) 7 4 = nI d := by rw [cI_xI_ne _ (by omega)]; exact h4
  generalize xI c 7 2 (nI (sSk n b j)) = c1 at T at1 rd1 i44
  show ∃ c' h', _ ∧ _ ∧ _ ∧ match rWithin n b dp sum a1 (sSk n b j) with
    | .inl g => fX2_within D cap rS (B + 7) (nI a1) (mk B c h) = _ ∧ _
    | .inr (cs, e) => ∃ p, fX2_within D cap rS (B + 7) (nI a1) (mk B c h) = _ ∧ _
  unfold fX2_within rWithin
  simp only [jn_s]
  rw [r_cls, ckc_s, T, bnd_s]
  by_cases k40 : rB n b (sSk n b j) = 40
  · have hlt := (rB_lt k40 (by decide)).1
    rw [if_pos (show rI n b (sSk n b j) = (40 : Int32) from (rI_eqc ha.1 _ (by decide)).mpr k40), if_pos k40, r_F2, vI_s, at1.2.1, r_cls, ckc_s, x_opens _ d hd6 i44]
    by_cases c6 : d = 6
    · rw [if_pos c6, if_pos (hdp.mpr c6), bnx_r]
      obtain ⟨p1, p2, p3⟩ := cFlt_po (n := n) (b := b) rd1 4 (sSk n b j)
      exact ⟨_, h, p1, hGr.rf h, hd.1, rfl, ⟨p2, p3⟩, by omega, by omega⟩
    · have edp : dp = true := by
        cases dp with
        | true => rfl
        | false => exact absurd (hdp.mp rfl) c6
      have A := A edp
      rw [if_neg c6, if_neg (by rw [edp]; decide), bnx_l, r_F2, vI_s, cI_xI_ne _ (by omega), at1.2.1, nI_1, r_pI _ h 2 (by decide), bnv_s, r_cls, ckc_s]
      have rd2 := (rd1.tr (cRd.at c1 (i := 4) (by decide) (nI (d + 1)))).tr (cRd.at _ (i := 2) (by decide) (nI (sSk n b j + 1)))
      have as2 : cAs n b (sSk n b j + 1) (xI (xI c1 7 4 (nI (d + 1))) 7 2 (nI (sSk n b j + 1))) := ⟨_, ⟨ha.1.rd rd2, cI_xI_eq _ _ _ _, by omega⟩, rfl⟩
      have i24 : cI (xI (xI c1 7 4 (nI (d + 1))) 7 2 (nI (sSk n b j + 1))) 7 4 = nI (d + 1) := by rw [cI_xI_ne _ (by omega), cI_xI_eq]
      generalize xI (xI c1 7 4 (nI (d + 1))) 7 2 (nI (sSk n b j + 1)) = c2 at rd2 as2 i24
      obtain ⟨c3, h3, v1, v2, v3, v4⟩ := A c2 h (sSk n b j + 1) hd as2 (by omega) i24 (by rw [rd2.1 7 5 (by omega) (by decide)]; exact h5) (by omega) (by omega)
      cases qa : sum (sSk n b j + 1) with
      | inl gg =>
        rw [qa] at v4
        obtain ⟨u1, u2, u3, u4⟩ := v4
        rw [u1, bnx_r, sbd_l]
        exact ⟨c3, h3, rd2.tr v1, v2, v3, rfl, u2, by omega, by omega⟩
      | inr pp =>
        obtain ⟨cp, e1⟩ := pp
        rw [qa] at v4
        obtain ⟨px, u1, u2, u3, u4, u5, u6⟩ := v4
        obtain ⟨k1, k2⟩ := hp _ _ _ qa
        have k3 := sSk_ge n b (sSk n b j + 1)
        have k4 := sSk_ge n b e1
        rw [u1, bnx_l, sbd_r]
        by_cases c0 : a1 = 0
        · rw [if_pos (show nI a1 ≤ 0 by rw [c0]; decide), if_pos c0, r_cls, ckc_s]
          obtain ⟨c4, q1, q2⟩ := y_close v3 u3 (s := 41) (by decide) u2 hd6 px
          cases qm : rMust n b 41 e1 with
          | inl gg =>
            rw [qm] at q2
            obtain ⟨q3, q4⟩ := q2
            rw [sbd_l]
            exact ⟨c4, h3, (rd2.tr v1).tr q1, v2, v3, q3, q4, by omega, by omega⟩
          | inr pp =>
            obtain ⟨_, e2⟩ := pp
            rw [qm] at q2
            obtain ⟨q3, q4, q5⟩ := q2
            have := rMust_r (by decide) qm
            rw [sbd_r]
            exact ⟨c4, h3, (rd2.tr v1).tr q1, v2, v3, px, q3, q4, q5, u4.up, by omega, by omega⟩
        · rw [if_neg (show ¬ nI a1 ≤ 0 by rcases (show a1 = 1 ∨ a1 = 2 by omega) with q | q <;> (rw [q]; decide)), if_neg c0, r_cls, ckc_s]
          obtain ⟨c4, m1, m2⟩ := y_must (N := N) (h := h3) v3 u3 (s := 44) (by decide)
          cases qm : rMust n b 44 e1 with
          | inl gg =>
            rw [qm] at m2
            obtain ⟨q3, q4⟩ := m2
            rw [sbd_l, show (44 : Int32) = nI 44 from rfl, q3, bnx_r]
            exact ⟨c4, h3, (rd2.tr v1).tr m1.1, v2, v3, rfl, q4, by omega, by omega⟩
          | inr pp =>
            obtain ⟨_, e2⟩ := pp
            rw [qm] at m2
            obtain ⟨q3, q4, q5⟩ := m2
            have k5 := rMust_r (by decide) qm
            rw [sbd_r, show (44 : Int32) = nI 44 from rfl, q3, bnx_l, mk_new v3.1 (by omega) (by omega), bnd_s]
            have w5 := v3.new (.inr (15, [.int 0, .null, .null])) 3
            have g5 := v2.tr (hGr.new h3 (.inr (15, [.int 0, .null, .null])) 3)
            have d5 := hN_at h3 (.inr (15, [.int 0, .null, .null])) 3
            have e5 : ∀ a, a < h3.1 → (hNew h3 (.inr (15, [.int 0, .null, .null])) 3).2.2 a = h3.2.2 a := fun a ha => hN_ne _ _ _ (by omega)
            have n5 : (hNew h3 (.inr (15, [.int 0, .null, .null])) 3).1 = h3.1 + 1 := rfl
            have s5 : (hNew h3 (.inr (15, [.int 0, .null, .null])) 3).2.1 = h3.2.1 + 3 := rfl
            generalize hNew h3 (.inr (15, [.int 0, .null, .null])) 3 = h5' at w5 g5 d5 e5 n5 s5
            -- the second sum
            obtain ⟨c6', h6, y1, y2, y3, y4⟩ := A c4 h5' e2 (hd.gr g5 w5) q5 (by omega) (by rw [q4]; exact u2) (by rw [m1.1.1 7 5 (by omega) (by decide), v1.1 7 5 (by omega) (by decide), rd2.1 7 5 (by omega) (by decide)]; exact h5) (by omega) (by omega)
            have rd4 := ((rd2.tr v1).tr m1.1).tr y1
            have key : ∀ mo : Bool, (mo = true ↔ a1 = 2) → ∃ c' h', cRd c c' ∧ hGr h h' ∧ hW B h' ∧ match (sbd (sum e2) fun c2 e3 => sbd (rMust n b 41 e3) fun _ e4 => (.inr (cp ++ c2 ++ [if a1 = 2 then 6 else 5], e4) : RS (List Int32))) with
                | .inl g => (ckc (pCls (mk B c4 h5') (B + 7)) 2 <| bnx (rS (B + 7) (mk B c4 h5')) fun p3 h11 => bnv (fX15_init h3.1 mo px p3 h11) fun h12 => ckc (pCls h12 (B + 7)) 2 <| bnx (fX2_must (B + 7) 41 h12) fun u2 h6 => vI (pF h6 (B + 7) 2 4) fun v3 => bnv (pPut h6 (B + 7) 2 4 (.int (v3 - 1))) fun h7 => (some (.inl h3.1, h7) : Option ((Nat ⊕ Nat) × PH))) = some (.inr (B + 8), mk B c' h') ∧ cFt c' g ∧ h'.1 + 30 ≤ h.1 + 40 * (n - j) + 40 ∧ h'.2.1 + 300 ≤ h.2.1 + 400 * (n - j) + 500
                | .inr (cs, e) => ∃ p, (ckc (pCls (mk B c4 h5') (B + 7)) 2 <| bnx (rS (B + 7) (mk B c4 h5')) fun p3 h11 => bnv (fX15_init h3.1 mo px p3 h11) fun h12 => ckc (pCls h12 (B + 7)) 2 <| bnx (fX2_must (B + 7) 41 h12) fun u2 h6 => vI (pF h6 (B + 7) 2 4) fun v3 => bnv (pPut h6 (B + 7) 2 4 (.int (v3 - 1))) fun h7 => (some (.inl h3.1, h7) : Option ((Nat ⊕ Nat) × PH))) = some (.inl p, mk B c' h') ∧ cI c' 7 4 = nI d ∧ cAs n b e c' ∧ vT (iv h.1 h'.1) B (k + 1) h' p cs ∧ h'.1 + 30 + 40 * (n - e) ≤ h.1 + 40 * (n - j) ∧ h'.2.1 + 300 + 400 * (n - e) ≤ h.2.1 + 400 * (n - j) := by
              intro mo hmo
              rw [r_cls, ckc_s]
              cases qb : sum e2 with
              | inl gg =>
                rw [qb] at y4
                obtain ⟨z1, z2, z3, z4⟩ := y4
                rw [z1, bnx_r, sbd_l]
                exact ⟨c6', h6, rd4, g5.tr y2, y3, rfl, z2, by omega, by omega⟩
              | inr pp =>
                obtain ⟨cp2, e3⟩ := pp
                rw [qb] at y4
                obtain ⟨py, z1, z2, z3, z4, z5, z6⟩ := y4
                obtain ⟨k6, k7⟩ := hp _ _ _ qb
                have k8 := sSk_ge n b e2
                have d6 : h6.2.2 h3.1 = some (true, .inr (15, [.int 0, .null, .null])) := by rw [y2.2.2 _ (by omega)]; exact d5
                have oq : outB B h3.1 := Or.inr (Or.inr v3.1)
                have g6 := y2.1
                have g7 := v2.1
                rw [z1, bnx_l, sbd_r]
                unfold fX15_init fX13_init
                rw [bnv_s, mk_pO oq d6 (show 0 < 3 by decide), bnv_s, mk_pO oq (pE_at _ _ _) (show 1 < 3 by decide), bnv_s, pE_pE, mk_pO oq (pE_at _ _ _) (show 2 < 3 by decide), bnv_s, pE_pE, bnv_s, r_cls, ckc_s]
                have w7 := y3.put (a := h3.1) (by omega) (.inr (15, [.int (bI mo), .ref px, .ref py]))
                have g8 := (g5.tr y2).put (a := h3.1) g7 (.inr (15, [.int (bI mo), .ref px, .ref py]))
                have d7 := pE_at h6 h3.1 (.inr (15, [.int (bI mo), .ref px, .ref py]))
                have e7 : ∀ a, a ≠ h3.1 → (pPutE h6 h3.1 (.inr (15, [.int (bI mo), .ref px, .ref py]))).2.2 a = h6.2.2 a := fun a ha => pE_ne _ ha _
                have n7 : (pPutE h6 h3.1 (.inr (15, [.int (bI mo), .ref px, .ref py]))).1 = h6.1 := rfl
                have s7 : (pPutE h6 h3.1 (.inr (15, [.int (bI mo), .ref px, .ref py]))).2.1 = h6.2.1 := rfl
                show ∃ c' h', _ ∧ _ ∧ _ ∧ match sbd (rMust n b 41 e3) fun _ e4 => (.inr (cp ++ cp2 ++ [if a1 = 2 then 6 else 5], e4) : RS (List Int32)) with
                  | .inl g => (bnx (fX2_must (B + 7) 41 (mk B c6' (pPutE h6 h3.1 (.inr (15, [.int (bI mo), .ref px, .ref py]))))) _) = _ ∧ _
                  | .inr (cs, e) => ∃ p, (bnx (fX2_must (B + 7) 41 (mk B c6' (pPutE h6 h3.1 (.inr (15, [.int (bI mo), .ref px, .ref py]))))) _) = _ ∧ _
                generalize pPutE h6 h3.1 (.inr (15, [.int (bI mo), .ref px, .ref py])) = h7 at w7 g8 d7 e7 n7 s7
                obtain ⟨c8, q1, q2⟩ := y_close w7 z3 (s := 41) (by decide) z2 hd6 h3.1
                cases qn : rMust n b 41 e3 with
                | inl gg =>
                  rw [qn] at q2
                  obtain ⟨q3, q4⟩ := q2
                  rw [sbd_l]
                  exact ⟨c8, h7, rd4.tr q1, g8, w7, q3, q4, by omega, by omega⟩
                | inr pp =>
                  obtain ⟨_, e4⟩ := pp
                  rw [qn] at q2
                  obtain ⟨q3, q4, q5⟩ := q2
                  have k9 := rMust_r (by decide) qn
                  rw [sbd_r]
                  refine ⟨c8, h7, rd4.tr q1, g8, w7, h3.1, q3, q4, q5, ⟨⟨by omega, by omega⟩, Or.inr (Or.inr (Or.inl ⟨true, mo, px, py, cp, cp2, d7, u4.of ?_, z4.of ?_, ?_⟩))⟩, by omega, by omega⟩
                  · intro a ha
                    have ha : h.1 ≤ a ∧ a < h3.1 := ha
                    exact ⟨⟨ha.1, by omega⟩, by rw [e7 a (by omega), y2.2.2 a (by omega), e5 a ha.2]⟩
                  · intro a ha
                    have ha : h5'.1 ≤ a ∧ a < h6.1 := ha
                    exact ⟨⟨by omega, by omega⟩, e7 a (by omega)⟩
                  · congr 2
                    by_cases c2 : a1 = 2
                    · rw [if_pos c2, if_pos (hmo.mpr c2)]
                    · rw [if_neg c2, if_neg (fun q => c2 (hmo.mp q))]
            rcases (show a1 = 1 ∨ a1 = 2 by omega) with q | q
            · rw [if_neg (show ¬ nI a1 = (2 : Int32) by rw [q]; decide)]
              exact key false (by rw [q]; decide)
            · rw [if_pos (show nI a1 = (2 : Int32) by rw [q]; rfl)]
              exact key true (by rw [q]; decide)
  · rw [if_neg (show ¬ rI n b (sSk n b j) = (40 : Int32) from fun q => k40 ((rI_eqc ha.1 _ (by decide)).mp q)), if_neg k40, r_F2, vI_s, at1.2.1, r_cls, ckc_s, show (1 : Int32) = nI 1 from rfl, x_wrong, bnd_s]
    obtain ⟨p1, p2, p3⟩ := cFlt_po (n := n) (b := b) rd1 1 (sSk n b j)
    exact ⟨_, h, p1, hGr.rf h, hd.1, rfl, ⟨p2, p3⟩, by omega, by omega⟩
end SO
