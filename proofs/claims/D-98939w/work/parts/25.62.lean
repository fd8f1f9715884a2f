/-! PART 62: plain: the Model: image, on -/
set_option maxRecDepth 100000
def chkN (b : Nat → Nat) (n : Nat) : Nat := itN (fun i c => (3 * c + b i) % 251) n 0 43
theorem chkN_lt (b : Nat → Nat) : ∀ n, chkN b n < 251
  | 0 => by show 43 < 251; decide
  | n + 1 => by
    have e : chkN b (n + 1) = (3 * chkN b n + b n) % 251 := itN_S _ _ _
    rw [e]
    exact Nat.mod_lt _ (by decide)
theorem chkN_congr {b c : Nat → Nat} : ∀ n, (∀ i, i < n → b i = c i) → chkN b n = chkN c n
  | 0, _ => rfl
  | n + 1, h => by
    have e : ∀ b : Nat → Nat, chkN b (n + 1) = (3 * chkN b n + b n) % 251 := fun b => itN_S _ _ _
    rw [e, e, chkN_congr n (fun i hi => h i (by omega)), h n (by omega)]
theorem m_checked_v {a n : Nat} {b : Nat → Nat} {z : MS} (hn : n ≤ mN a) (hN : mN a < 2 ^ 31) (h16 : n ≤ 1600) (hA : ∀ i, i < n → mA z a i = nI (b i)) (hb : ∀ i, i < n → b i < 256) : m_checked a (nI n) z = some (nI (chkN b n), z) := by
  unfold m_checked
  have key := fx_gen (F := m_checked_L5 a (nI n)) (z := fun _ _ _ => none) (fun s j (c : Nat) => s (nI c) (nI j) z) n (fun i c => (3 * c + b i) % 251) (fun _ c => c < 251) (fun c => some (nI c, z)) ?_ ?_ ?_ FU 0 43 (Nat.zero_le _) (by decide) (FU_gt (by omega))
  · rw [Nat.sub_zero] at key
    exact key
  · intro s j c hj hc
    have hbj := hb j hj
    show m_checked_L5 a (nI n) s (nI c) (nI j) z = _
    unfold m_checked_L5
    have e : ((3 * nI c) + nI (b j)) - ((3 * nI c) + nI (b j)) / 251 * 251 = nI ((3 * c + b j) % 251) := by
      rw [show (3 : Int32) = nI 3 from rfl, nI_mul, nI_add]
      exact nI_mod (b := 251) (by omega) (by decide) (by decide)
    rw [if_neg (nI_ge hj (by omega)), ck_t (inb_nI (by omega) hN), nI_c (by omega), hA j hj, e, nI_1]
  · intro j c hj hc
    exact Nat.mod_lt _ (by decide)
  · intro s c hc
    show m_checked_L5 a (nI n) s (nI c) (nI n) z = _
    unfold m_checked_L5
    rw [if_pos (nI_le (Nat.le_refl _) (by omega))]
/-- only the image is changed -/
def mIm (z z' : MS) : Prop := (∀ a, a ≠ 104 → mI z' a = mI z a) ∧ z'.2.1 = z.2.1 ∧ (∀ a, a ≠ 103 → mA z' a = mA z a) ∧ z'.2.2.2 = z.2.2.2
theorem mIm.rf (z : MS) : mIm z z := ⟨fun _ _ => rfl, rfl, fun _ _ => rfl, rfl⟩
theorem mIm.tr {a b c : MS} (h : mIm a b) (g : mIm b c) : mIm a c := ⟨fun x h1 => (g.1 x h1).trans (h.1 x h1), g.2.1.trans h.2.1, fun x h1 => (g.2.2.1 x h1).trans (h.2.2.1 x h1), g.2.2.2.trans h.2.2.2⟩
theorem mIm.ok {k : SK} {w : SW} {z z' : MS} (h : mIm z z') (g : mOk k w z) : mOk k w z' := by
  refine ⟨g.1, g.2.1, mSK_now g.2.2.1 (fun a ha => h.2.2.1 a (by rintro rfl; simp at ha)), ?_⟩
  unfold mSW
  rw [h.2.2.1 53 (by decide)]
  exact g.2.2.2
theorem getD_app {l : List Nat} {v i : Nat} : (l ++ [v]).getD i 0 = if i = l.length then v else l.getD i 0 := by
  by_cases c : i = l.length
  · rw [if_pos c, c]; simp
  · rw [if_neg c]
    by_cases d : i < l.length
    · simp [List.getD, List.getElem?_append_left d]
    · simp [List.getD, List.getElem?_eq_none (show (l ++ [v]).length ≤ i by simp; omega), List.getElem?_eq_none (show l.length ≤ i by omega)]
theorem m_writes_v {l : List Nat} {z : MS} (h : mOc l z) (hl : l.length < 43) (v : Nat) : Ok (m_writes (nI v) z) (fun z' => mOc (l ++ [v]) z' ∧ mIm z z') := by
  unfold m_writes
  rw [h.1, ck_t (inb_nI (by show _ < 43; omega) (by decide)), nm_s, nm_s, nI_c (by omega), mI_wA, h.1, nI_1]
  refine Ok.of ⟨⟨by rw [mI_w, if_pos rfl]; simp, fun i hi => ?_⟩, fun a ha => by rw [mI_w, if_neg ha, mI_wA], rfl, fun a ha => by show mA (wA z 103 _ _) a = _; rw [mA_wne _ ha], rfl⟩
  show mA (wA z 103 l.length (nI v)) 103 i = _
  have hi : i < l.length + 1 := by simpa using hi
  rw [mA_w, getD_app]
  by_cases c : i = l.length
  · rw [if_pos c, if_pos c]
  · rw [if_neg c, if_neg c]
    exact h.2 i (by omega)
def sImgP (w : SW) (p : Nat) : List Nat := [wM w p, wR w p, wW w p, wL' w p, wF w p]
def sImg0 (w : SW) (n : Nat) : List Nat := itN (fun p l => l ++ sImgP w p) n 0 [wY w / 256, wY w % 256]
theorem sImg0_len (w : SW) : ∀ n, (sImg0 w n).length = 2 + 5 * n
  | 0 => rfl
  | n + 1 => by
    have e : sImg0 w (n + 1) = sImg0 w n ++ sImgP w n := itN_S _ _ _
    rw [e, List.length_append, sImg0_len w n]
    show 2 + 5 * n + 5 = _
    omega
theorem sImg0_lt {k : SK} {w : SW} (hk : kOk k) (h : wOk k w) (hy : wY w ≤ 999) : ∀ n, n ≤ kP k → ∀ x, x ∈ sImg0 w n → x < 256
  | 0, _, x, hx => by
    have hx : x ∈ [wY w / 256, wY w % 256] := hx
    rcases List.mem_cons.mp hx with rfl | hx
    · omega
    · rcases List.mem_cons.mp hx with rfl | hx
      · omega
      · cases hx
  | n + 1, hn, x, hx => by
    have e : sImg0 w (n + 1) = sImg0 w n ++ sImgP w n := itN_S _ _ _
    rw [e] at hx
    rcases List.mem_append.mp hx with hx | hx
    · exact sImg0_lt hk h hy n (by omega) x hx
    · obtain ⟨b1, b2, b3, b4, b5, b6⟩ := h.2.2 n hn
      have k8 := hk.2.1
      have t8 := two8 hk.1
      unfold sImgP at hx
      simp only [List.mem_cons, List.not_mem_nil, or_false] at hx
      rcases hx with rfl | rfl | rfl | rfl | rfl <;> omega
def sImg (k : SK) (w : SW) : List Nat := sImg0 w (kP k) ++ [chkN (fun i => (sImg0 w (kP k)).getD i 0) (2 + 5 * kP k)]
theorem getD_mem {l : List Nat} {i : Nat} (h : i < l.length) : l.getD i 0 ∈ l := by
  simp [List.getD, List.getElem?_eq_getElem h]
def spImage (g : SG) : Int32 × SG := (nI (3 + 5 * kP (gK g)), uO g (sImg (gK g) (gW g)))
theorem mIm.g {g : SG} {z y : MS} {l : List Nat} (h : mG g z) (b : mIm z y) (ho : mOc l y) (hl : l.length ≤ 43) (h2 : ∀ i, i < l.length → l.getD i 0 < 256) : mG (uO g l) y := by
  obtain ⟨⟨o1, o2, o3, o4, o5, o6, -⟩, h1, h2', h3, h4, h5, h6, h7, h8, h9, h10, h11⟩ := h
  refine ⟨⟨o1, o2, o3, o4, o5, o6, hl, h2⟩, b.ok h1, ?_, by rw [b.1 58 (by decide)]; exact h3, fun kd i hk hi => by show y.2.2.2 40 _ = _; rw [b.2.2.2]; exact h4 kd i hk hi, h5.of (b.1 65 (by decide)) (b.1 66 (by decide)) (b.2.2.1 64 (by decide)), h6.of (b.1 60 (by decide)) (b.2.2.1 61 (by decide)), h7.of (b.1 1 (by decide)) (b.2.2.1 0 (by decide)), by rw [b.2.2.1 9 (by decide)]; exact h8, by rw [b.1 7 (by decide), b.1 8 (by decide)]; exact h9, by show y.2.1 67 = _; rw [b.2.1]; exact h10, ho⟩
  show mRow (wK (gW g)) y
  unfold mRow
  rw [b.2.2.1 53 (by decide)]
  exact h2'
theorem m_image_v {g : SG} {z : MS} (h : mG g z) : Ok (m_image z) (fun r => r.1 = (spImage g).1 ∧ mG (spImage g).2 r.2) := by
  have h1 := h.2.1
  have h8 := h1.1.2.1
  have hy := h.1.1
  unfold m_image
  rw [nm_s, show (Int32.toNatClampNeg 0) = 0 from by decide]
  have i0 : mIm z (wI z 104 0) := ⟨fun a ha => by rw [mI_w, if_neg ha], rfl, fun _ _ => rfl, rfl⟩
  have o0 : mOc [] (wI z 104 0) := ⟨by rw [mI_w, if_pos rfl]; rfl, fun i hi => absurd hi (Nat.not_lt_zero _)⟩
  have dv : nI (wY (gW g)) / 256 = nI (wY (gW g) / 256) := nI_div (b := 256) (by omega) (by decide) (by decide)
  have md : nI (wY (gW g)) - nI (wY (gW g) / 256) * 256 = nI (wY (gW g) % 256) := by rw [← dv]; exact nI_mod (b := 256) (by omega) (by decide) (by decide)
  rw [(i0.ok h1).y, dv]
  refine Ok.bnv _ (m_writes_v o0 (by decide) _) (fun y1 hy1 => ?_)
  obtain ⟨o1, i1⟩ := hy1
  have i1 := i0.tr i1
  rw [(i1.ok h1).y, dv, md]
  refine Ok.bnv _ (m_writes_v o1 (by simp) _) (fun y2 hy2 => ?_)
  obtain ⟨o2, i2⟩ := hy2
  have i2 := i1.tr i2
  rw [jn_s]
  refine fx_okN (F := m_image_L35 _) (z := fun _ _ => none) (fun s j y => s (nI j) y) (kP (gK g)) (fun j y => mOc (sImg0 (gW g) j) y ∧ mIm z y) _ ?_ ?_ FU 0 y2 (Nat.zero_le _) ⟨o2, i2⟩ (FU_gt (by omega))
  · rintro s j y hj ⟨oy, iy⟩ go
    have ky := iy.ok h1
    have hl := sImg0_len (gW g) j
    have hS : sImg0 (gW g) (j + 1) = sImg0 (gW g) j ++ sImgP (gW g) j := itN_S _ _ _
    rw [hS] at go
    show Ok (m_image_L35 _ s (nI j) y) _
    unfold m_image_L35
    rw [m_personMany_v ky, bnd_s, if_neg (nI_ge hj (by omega)), m_masterOf_v ky hj, bnd_s, Int32.sub_add_cancel]
    refine Ok.bnv _ (m_writes_v oy (by omega) _) (fun y1 hy1 => ?_)
    obtain ⟨oy1, iy1⟩ := hy1
    rw [jn_s]
    refine fx_okN (F := m_image_L56 (nI j) _) (z := fun _ _ => none) (fun s i y => s (nI (1 + i)) y) 4 (fun i y => mOc (sImg0 (gW g) j ++ (sImgP (gW g) j).take (1 + i)) y ∧ mIm z y) _ ?_ ?_ FU 0 y1 (Nat.zero_le _) ⟨oy1, iy.tr iy1⟩ (FU_gt (by decide))
    · rintro s2 i y3 hi ⟨o3, i3⟩ go2
      have k3 := i3.ok h1
      obtain ⟨-, e2, e3, e4, e5⟩ := k3.2.2.2.2 j hj
      have ln : (sImg0 (gW g) j ++ (sImgP (gW g) j).take (1 + i)).length < 43 := by
        rw [List.length_append, List.length_take, hl]
        show 2 + 5 * j + min (1 + i) 5 < 43
        omega
      show Ok (m_image_L56 (nI j) _ s2 (nI (1 + i)) y3) _
      unfold m_image_L56
      rw [if_neg (show ¬ (5 : Int32) ≤ nI (1 + i) from nI_ge (b := 5) (by omega) (by decide)), ix0, nI_add, ck_t (inb_nI (by show _ < 132; omega) (by decide)), nI_c (by omega), nI_1, Nat.add_assoc 1 i 1]
      have wr : ∀ v, mA y3 53 (1 + 5 * j + (1 + i)) = nI v → (sImgP (gW g) j).take (1 + i) ++ [v] = (sImgP (gW g) j).take (1 + (i + 1)) → Ok (bnv (m_writes (mA y3 53 (1 + 5 * j + (1 + i))) y3) fun z13 => s2 (nI (1 + (i + 1))) z13) (fun r => r.1 = (spImage g).1 ∧ mG (spImage g).2 r.2) := fun v ev et => by
        rw [ev]
        refine Ok.bnv _ (m_writes_v o3 ln v) (fun y4 hy4 => ?_)
        obtain ⟨o4, i4⟩ := hy4
        rw [List.append_assoc, et] at o4
        exact go2 y4 ⟨o4, i3.tr i4⟩
      rcases (show i = 0 ∨ i = 1 ∨ i = 2 ∨ i = 3 by omega) with rfl | rfl | rfl | rfl
      · exact wr _ e2 rfl
      · exact wr _ e3 rfl
      · exact wr _ e4 rfl
      · exact wr _ e5 rfl
    · rintro s2 y3 ⟨o3, i3⟩
      show Ok (m_image_L56 (nI j) _ s2 (nI (1 + 4)) y3) _
      unfold m_image_L56
      rw [if_pos (by decide), nI_1]
      exact go y3 ⟨o3, i3⟩
  · rintro s y ⟨oy, iy⟩
    have ky := iy.ok h1
    have hl := sImg0_len (gW g) (kP (gK g))
    have hb : ∀ i, i < 2 + 5 * kP (gK g) → (sImg0 (gW g) (kP (gK g))).getD i 0 < 256 := fun i hi => sImg0_lt h1.1 h1.2.1 hy _ (Nat.le_refl _) _ (getD_mem (by omega))
    show Ok (m_image_L35 _ s (nI (kP (gK g))) y) _
    unfold m_image_L35
    rw [m_personMany_v ky, bnd_s, if_pos (nI_le (Nat.le_refl _) (by omega))]
    show Ok (bnd (m_checked 103 (mI y 104) y) fun r1 z5 => bnv (m_writes r1 z5) fun z6 => some ((mI z6 104), z6)) _
    rw [oy.1, hl, m_checked_v (b := fun i => (sImg0 (gW g) (kP (gK g))).getD i 0) (by show 2 + 5 * kP (gK g) ≤ 43; omega) (by decide) (by omega) (fun i hi => oy.2 i (by omega)) hb, bnd_s]
    refine Ok.bnv _ (m_writes_v oy (by omega) _) (fun y2 hy2 => ?_)
    obtain ⟨o2, i2⟩ := hy2
    have ln : (sImg (gK g) (gW g)).length = 3 + 5 * kP (gK g) := by
      show (sImg0 (gW g) (kP (gK g)) ++ [chkN (fun i => (sImg0 (gW g) (kP (gK g))).getD i 0) (2 + 5 * kP (gK g))]).length = _
      rw [List.length_append, hl]
      show 2 + 5 * kP (gK g) + 1 = _
      omega
    have o2 : mOc (sImg (gK g) (gW g)) y2 := o2
    refine Ok.of ⟨?_, mIm.g h (iy.tr i2) o2 (by rw [ln]; omega) (fun i hi => ?_)⟩
    · show mI y2 104 = _
      rw [o2.1, ln]
      rfl
    · rw [ln] at hi
      show (sImg0 (gW g) (kP (gK g)) ++ [chkN (fun i => (sImg0 (gW g) (kP (gK g))).getD i 0) (2 + 5 * kP (gK g))]).getD i 0 < 256
      rw [getD_app]
      split
      · have := chkN_lt (fun i => (sImg0 (gW g) (kP (gK g))).getD i 0) (2 + 5 * kP (gK g))
        omega
      · exact hb i (by omega)
/-! taking an image -/
abbrev onP (k : SK) (b : Nat → Nat) (p : Nat) : Prop := b (2 + 5 * p) ≤ kP k ∧ b (2 + 5 * p + 1) < 2 ^ kF k ∧ b (2 + 5 * p + 2) < 2 ^ kF k ∧ b (2 + 5 * p + 1) &&& b (2 + 5 * p + 2) = 0 ∧ b (2 + 5 * p + 3) ≤ 9 ∧ b (2 + 5 * p + 4) < 4
abbrev onOk (k : SK) (n : Nat) (b : Nat → Nat) : Prop := (n = 3 + 5 * kP k ∧ b (n - 1) = chkN b (n - 1) ∧ 256 * b 0 + b 1 ≤ 999) ∧ (∀ p, p < kP k → onP k b p) ∧ ∀ p, p < kP k → sBy (fun q => b (2 + 5 * q)) 8 (b (2 + 5 * p)) p = false
def onW (b : Nat → Nat) : SW := (256 * b 0 + b 1, fun p => b (2 + 5 * p), fun p => b (2 + 5 * p + 1), fun p => b (2 + 5 * p + 2), fun p => b (2 + 5 * p + 3), fun p => b (2 + 5 * p + 4), [])
theorem sBy_up {M : Nat → Nat} {p : Nat} : ∀ {n a : Nat}, sBy M n a p = false → ∀ i, i ≤ n → wUp M i a ≠ p + 1
  | 0, a, h, i, hi => by
    have e : i = 0 := by omega
    subst e
    exact of_decide_eq_false h
  | n + 1, a, h, i, hi => by
    by_cases c : a = 0
    · rw [c, wUp_0]; omega
    · have h : (if a = 0 then false else if a = p + 1 then true else sBy M n (M (a - 1)) p) = false := h
      rw [if_neg c] at h
      by_cases c2 : a = p + 1
      · rw [if_pos c2] at h
        cases h
      · rw [if_neg c2] at h
        cases i with
        | zero => exact c2
        | succ i =>
          rw [wUp_S _ _ _ c]
          exact sBy_up h i (by omega)
theorem onW_ok {k : SK} {n : Nat} {b : Nat → Nat} (hk : kOk k) (h : onOk k n b) : wOk k (onW b) := by
  obtain ⟨⟨-, -, h3⟩, h4, h5⟩ := h
  have h8 := hk.2.1
  have hM : ∀ q, q < kP k → wM (onW b) q ≤ kP k := fun q hq => (h4 q hq).1
  have hc : ∀ q, q < kP k → ∀ i, 0 < i → i ≤ kP k → wUp (wM (onW b)) i (q + 1) ≠ q + 1 := fun q hq i hi hi2 => by
    obtain ⟨i, rfl⟩ : ∃ j, i = j + 1 := ⟨i - 1, by omega⟩
    rw [wUp_S _ _ _ (by omega)]
    exact sBy_up (h5 q hq) i (by omega)
  have hend : ∀ a, a ≤ kP k → wUp (wM (onW b)) (kP k) a = 0 := fun a ha => wUp_end hM hc ha
  refine ⟨fun q hq i hi he => ?_, by show 256 * b 0 + b 1 ≤ 2000; omega, fun p hp => ?_⟩
  · -- round and round
    have rnd : ∀ m, wUp (wM (onW b)) (m * i) (q + 1) = q + 1 := by
      intro m
      induction m with
      | zero => rw [Nat.zero_mul]; rfl
      | succ m ih => rw [Nat.succ_mul, wUp_add, ih, he]
    have e1 := rnd (kP k)
    have e2 := wUp_ge (hend (q + 1) (by omega)) (show kP k ≤ kP k * i from Nat.le_mul_of_pos_right _ hi)
    omega
  · obtain ⟨q1, q2, q3, q4, q5, q6⟩ := h4 p hp
    refine ⟨q1, q2, q3, fun f _ => ?_, q5, q6⟩
    rintro ⟨t1, t2⟩
    have t1 : (b (2 + 5 * p + 1)).testBit f = true := t1
    have t2 : (b (2 + 5 * p + 2)).testBit f = true := t2
    have : (b (2 + 5 * p + 1) &&& b (2 + 5 * p + 2)).testBit f = true := by rw [Nat.testBit_and, t1, t2]; rfl
    rw [q4, Nat.zero_testBit] at this
    cases this
theorem x25 (p : Nat) : (2 : Int32) + 5 * nI p = nI (2 + 5 * p) := by rw [show (2 : Int32) = nI 2 from rfl, show (5 : Int32) = nI 5 from rfl, nI_mul, nI_add]
theorem m_isRing_v {k : SK} {n : Nat} {b : Nat → Nat} {z : MS} (h8 : kP k ≤ 8) (hn : n = 3 + 5 * kP k) (hA : ∀ i, i < n → mA z 0 i = nI (b i)) (hM : ∀ p, p < kP k → b (2 + 5 * p) ≤ kP k) {p : Nat} (hp : p < kP k) : m_isRing (nI p) z = some (sBy (fun q => b (2 + 5 * q)) 8 (b (2 + 5 * p)) p, z) := by
  have fin : Ok (m_isRing (nI p) z) (fun r => r = (sBy (fun q => b (2 + 5 * q)) 8 (b (2 + 5 * p)) p, z)) := by
    unfold m_isRing
    have ep : nI p = nI (p + 1) - 1 := (nI_pred p).symm
    rw [x25, ck_t (inb_nI (by show _ < 1600; omega) (by decide)), nI_c (by omega), hA _ (by omega), jn_s]
    have dec : ∀ a, a ≤ kP k → (if nI a - 1 = nI p then some (true, z) else some (false, z)) = some (decide (a = p + 1), z) := fun a ha => by
      by_cases c : a = p + 1
      · rw [if_pos (by rw [c, ep]), decide_eq_true c]
      · rw [if_neg (fun q => c ((m1_inj (by omega) (by omega)).mp (by rw [q, ep]))), decide_eq_false c]
    refine fx_okN (F := m_isRing_L15 (nI p) _) (z := fun _ _ _ => none) (fun s j (a : Nat) => s (nI a - 1) (nI j) z) 8 (fun j a => a ≤ kP k ∧ sBy (fun q => b (2 + 5 * q)) (8 - j) a p = sBy (fun q => b (2 + 5 * q)) 8 (b (2 + 5 * p)) p) _ ?_ ?_ FU 0 (b (2 + 5 * p)) (Nat.zero_le _) ⟨hM p hp, rfl⟩ (FU_gt (by decide))
    · rintro s j a hj ⟨ha, hs⟩ go
      show Ok (m_isRing_L15 (nI p) _ s (nI a - 1) (nI j) z) _
      unfold m_isRing_L15
      rw [if_neg (show ¬ (8 : Int32) ≤ nI j from nI_ge (b := 8) hj (by decide))]
      rw [show 8 - j = (8 - (j + 1)) + 1 by omega] at hs
      have hs : (if a = 0 then false else if a = p + 1 then true else sBy (fun q => b (2 + 5 * q)) (8 - (j + 1)) (b (2 + 5 * (a - 1))) p) = _ := hs
      by_cases c0 : a = 0
      · rw [if_pos c0] at hs
        rw [if_pos (by rw [c0]; decide), ← hs]
        show Ok (if nI a - 1 = nI p then some (true, z) else some (false, z)) _
        rw [dec a ha, c0, decide_eq_false (by omega)]
        exact Ok.of rfl
      · rw [if_neg c0] at hs
        rw [if_neg (m1_ne c0 (by omega))]
        by_cases c1 : a = p + 1
        · rw [if_pos c1] at hs
          rw [if_pos (by rw [c1, ep]), ← hs]
          show Ok (if nI a - 1 = nI p then some (true, z) else some (false, z)) _
          rw [dec a ha, decide_eq_true c1]
          exact Ok.of rfl
        · rw [if_neg c1] at hs
          rw [if_neg (fun q => c1 ((m1_inj (by omega) (by omega)).mp (by rw [q, ep]))), nI_m1 (by omega), x25, ck_t (inb_nI (by show _ < 1600; omega) (by decide)), nI_c (by omega), hA _ (by omega), nI_1]
          exact go (b (2 + 5 * (a - 1))) ⟨hM _ (by omega), hs⟩
    · rintro s a ⟨ha, hs⟩
      show Ok (m_isRing_L15 (nI p) _ s (nI a - 1) (nI 8) z) _
      unfold m_isRing_L15
      rw [if_pos (by decide)]
      show Ok (if nI a - 1 = nI p then some (true, z) else some (false, z)) _
      have hs : decide (a = p + 1) = _ := hs
      rw [dec a ha, hs]
      exact Ok.of rfl
  obtain ⟨r, e, rfl⟩ := fin
  exact e
abbrev onT (k : SK) (b : Nat → Nat) (p : Nat) : Prop := b (2 + 5 * p + 1) < 2 ^ kF k ∧ b (2 + 5 * p + 2) < 2 ^ kF k ∧ b (2 + 5 * p + 1) &&& b (2 + 5 * p + 2) = 0 ∧ b (2 + 5 * p + 3) ≤ 9 ∧ b (2 + 5 * p + 4) < 4
theorem m_isPersonTold_v {k : SK} {w : SW} {n : Nat} {b : Nat → Nat} {z : MS} (h : mOk k w z) (hn : n = 3 + 5 * kP k) (hA : ∀ i, i < n → mA z 0 i = nI (b i)) (hb : ∀ i, i < n → b i < 256) {p : Nat} (hp : p < kP k) : m_isPersonTold (nI p) z = some (decide (onT k b p), z) := by
  have h8 := h.1.2.1
  have hF := h.1.1
  have t8 := two8 hF
  have b1 := hb (2 + 5 * p + 1) (by omega)
  have b2 := hb (2 + 5 * p + 2) (by omega)
  have b3 := hb (2 + 5 * p + 3) (by omega)
  have b4 := hb (2 + 5 * p + 4) (by omega)
  unfold m_isPersonTold
  have y1 : nI (2 + 5 * p) + 1 = nI (2 + 5 * p + 1) := nI_1 _
  have y2 : nI (2 + 5 * p) + 2 = nI (2 + 5 * p + 2) := nI_add _ 2
  have y3 : nI (2 + 5 * p) + 3 = nI (2 + 5 * p + 3) := nI_add _ 3
  have y4 : nI (2 + 5 * p) + 4 = nI (2 + 5 * p + 4) := nI_add _ 4
  have i1 : inb (nI (2 + 5 * p + 1)) (mN 0) = true := inb_nI (by show _ < 1600; omega) (by decide)
  have i2 : inb (nI (2 + 5 * p + 2)) (mN 0) = true := inb_nI (by show _ < 1600; omega) (by decide)
  have i3 : inb (nI (2 + 5 * p + 3)) (mN 0) = true := inb_nI (by show _ < 1600; omega) (by decide)
  have i4 : inb (nI (2 + 5 * p + 4)) (mN 0) = true := inb_nI (by show _ < 1600; omega) (by decide)
  rw [m_factMany_v h, bnd_s, shl_nI _ (by omega)]
  simp only [x25, y1, y2, y3, y4, ck_t i1, ck_t i2, ck_t i3, ck_t i4, nI_c (show 2 + 5 * p + 1 < 2 ^ 31 by omega), nI_c (show 2 + 5 * p + 2 < 2 ^ 31 by omega), nI_c (show 2 + 5 * p + 3 < 2 ^ 31 by omega), nI_c (show 2 + 5 * p + 4 < 2 ^ 31 by omega), hA (2 + 5 * p + 1) (by omega), hA (2 + 5 * p + 2) (by omega), hA (2 + 5 * p + 3) (by omega), hA (2 + 5 * p + 4) (by omega), jn_s]
  by_cases c1 : b (2 + 5 * p + 1) < 2 ^ kF k
  · rw [if_neg (nI_ge c1 (by omega))]
    by_cases c2 : b (2 + 5 * p + 2) < 2 ^ kF k
    · rw [if_neg (nI_ge c2 (by omega)), nI_and]
      have l3 := and_256 (b := b (2 + 5 * p + 2)) b1
      by_cases c3 : b (2 + 5 * p + 1) &&& b (2 + 5 * p + 2) = 0
      · rw [if_pos (by rw [c3]; rfl)]
        by_cases c4 : b (2 + 5 * p + 3) ≤ 9
        · rw [if_neg (show ¬ (9 : Int32) < nI _ from nI_nlt (a := 9) c4 (by decide))]
          by_cases c5 : b (2 + 5 * p + 4) < 4
          · rw [if_neg (show ¬ (4 : Int32) ≤ nI _ from nI_ge (b := 4) c5 (by decide)), decide_eq_true ⟨c1, c2, c3, c4, c5⟩]
          · rw [if_pos (show (4 : Int32) ≤ nI _ from nI_le (a := 4) (by omega) (by omega)), decide_eq_false (fun q => c5 q.2.2.2.2)]
        · rw [if_pos (show (9 : Int32) < nI _ from nI_lt (a := 9) (by omega) (by omega)), decide_eq_false (fun q => c4 q.2.2.2.1)]
      · rw [if_neg (nI_ne0 (by omega) (by omega)), decide_eq_false (fun q => c3 q.2.2.1)]
    · rw [if_pos (nI_le (by omega) (by omega)), decide_eq_false (fun q => c2 q.2.1)]
  · rw [if_pos (nI_le (by omega) (by omega)), decide_eq_false (fun q => c1 q.1)]
theorem m_isImage_v {k : SK} {w : SW} {n : Nat} {b : Nat → Nat} {z : MS} (h : mOk k w z) (hn : n ≤ 1600) (hA : ∀ i, i < n → mA z 0 i = nI (b i)) (hb : ∀ i, i < n → b i < 256) : m_isImage (nI n) z = some (decide (onOk k n b), z) := by
  have h8 := h.1.2.1
  have fin : Ok (m_isImage (nI n) z) (fun r => r = (decide (onOk k n b), z)) := by
    unfold m_isImage
    have e35 : (3 : Int32) + 5 * nI (kP k) = nI (3 + 5 * kP k) := by rw [show (3 : Int32) = nI 3 from rfl, show (5 : Int32) = nI 5 from rfl, nI_mul, nI_add]
    rw [m_personMany_v h, bnd_s, e35]
    by_cases c1 : n = 3 + 5 * kP k
    · have n3 : 3 ≤ n := by omega
      have bn := hb (n - 1) (by omega)
      have cl := chkN_lt b (n - 1)
      have b0 := hb 0 (by omega)
      have b1 := hb 1 (by omega)
      have e256 : (256 : Int32) * nI (b 0) + nI (b 1) = nI (256 * b 0 + b 1) := by rw [show (256 : Int32) = nI 256 from rfl, nI_mul, nI_add]
      rw [if_pos (by rw [c1]), nI_m1 (by omega), ck_t (inb_nI (by show _ < 1600; omega) (by decide)), m_checked_v (b := b) (by show n - 1 ≤ 1600; omega) (by decide) (by omega) (fun i hi => hA i (by omega)) (fun i hi => hb i (by omega)), bnd_s, nI_c (by omega), hA _ (by omega), show (Int32.toNatClampNeg 0) = 0 from by decide, show (Int32.toNatClampNeg 1) = 1 from by decide, hA 0 (by omega), hA 1 (by omega), e256]
      by_cases c2 : b (n - 1) = chkN b (n - 1)
      · rw [if_pos (by rw [c2])]
        by_cases c3 : 256 * b 0 + b 1 ≤ 999
        · rw [if_pos (show nI (256 * b 0 + b 1) ≤ (999 : Int32) from nI_le (b := 999) c3 (by decide)), jn_s]
          refine fx_okN (F := m_isImage_L60 _) (z := fun _ _ => none) (fun s j y => s (nI j) y) (kP k) (fun j y => y = z ∧ ∀ p, p < j → onP k b p) _ ?_ ?_ FU 0 z (Nat.zero_le _) ⟨rfl, fun p hp => absurd hp (Nat.not_lt_zero _)⟩ (FU_gt (by omega))
          · rintro s j y hj ⟨rfl, hp⟩ go
            have bj := hb (2 + 5 * j) (by omega)
            show Ok (m_isImage_L60 _ s (nI j) y) _
            unfold m_isImage_L60
            rw [m_personMany_v h, bnd_s, if_neg (nI_ge hj (by omega)), x25, ck_t (inb_nI (by show _ < 1600; omega) (by decide)), m_personMany_v h, bnd_s, nI_c (by omega), hA _ (by omega)]
            by_cases c4 : b (2 + 5 * j) ≤ kP k
            · rw [if_neg (nI_nlt c4 (by omega)), m_isPersonTold_v h c1 hA hb hj, bnd_s]
              by_cases c5 : onT k b j
              · rw [decide_eq_true c5, if_neg (by decide), nI_1]
                refine go y ⟨rfl, fun p hp2 => ?_⟩
                by_cases e : p = j
                · rw [e]; exact ⟨c4, c5⟩
                · exact hp p (by omega)
              · rw [decide_eq_false c5, if_pos (by decide), decide_eq_false (fun q => c5 (q.2.1 j hj).2)]
                exact Ok.of rfl
            · rw [if_pos (nI_lt (by omega) (by omega)), decide_eq_false (fun q => c4 (q.2.1 j hj).1)]
              exact Ok.of rfl
          · rintro s y ⟨rfl, hp⟩
            show Ok (m_isImage_L60 _ s (nI (kP k)) y) _
            unfold m_isImage_L60
            rw [m_personMany_v h, bnd_s, if_pos (nI_le (Nat.le_refl _) (by omega))]
            refine fx_okN (F := m_isImage_L103) (z := fun _ _ => none) (fun s j x => s (nI j) x) (kP k) (fun j x => x = y ∧ ∀ p, p < j → sBy (fun q => b (2 + 5 * q)) 8 (b (2 + 5 * p)) p = false) _ ?_ ?_ FU 0 y (Nat.zero_le _) ⟨rfl, fun p hp => absurd hp (Nat.not_lt_zero _)⟩ (FU_gt (by omega))
            · rintro s2 j x hj ⟨rfl, hr⟩ go
              show Ok (m_isImage_L103 s2 (nI j) x) _
              unfold m_isImage_L103
              rw [m_personMany_v h, bnd_s, if_neg (nI_ge hj (by omega)), m_isRing_v h8 c1 hA (fun p hp' => (hp p hp').1) hj, bnd_s]
              cases c6 : sBy (fun q => b (2 + 5 * q)) 8 (b (2 + 5 * j)) j with
              | false =>
                rw [if_pos (by decide), nI_1]
                refine go x ⟨rfl, fun p hp2 => ?_⟩
                by_cases e : p = j
                · rw [e]; exact c6
                · exact hr p (by omega)
              | true =>
                rw [if_neg (by decide), decide_eq_false (fun q => by rw [q.2.2 j hj] at c6; cases c6)]
                exact Ok.of rfl
            · rintro s2 x ⟨rfl, hr⟩
              show Ok (m_isImage_L103 s2 (nI (kP k)) x) _
              unfold m_isImage_L103
              rw [m_personMany_v h, bnd_s, if_pos (nI_le (Nat.le_refl _) (by omega)), decide_eq_true ⟨⟨c1, c2, c3⟩, hp, hr⟩]
              exact Ok.of rfl
        · rw [if_neg (show ¬ nI (256 * b 0 + b 1) ≤ (999 : Int32) from nI_ge (a := 999) (by omega) (by omega)), decide_eq_false (fun q => c3 q.1.2.2)]
          exact Ok.of rfl
      · rw [if_neg (fun q => c2 ((nI_eq (by omega) (by omega)).mp q)), decide_eq_false (fun q => c2 q.1.2.1)]
        exact Ok.of rfl
    · rw [if_neg (fun q => c1 ((nI_eq (by omega) (by omega)).mp q)), decide_eq_false (fun q => c1 q.1.1)]
      exact Ok.of rfl
  obtain ⟨r, e, rfl⟩ := fin
  exact e
def spOn (g : SG) : Bool × SG := if onOk (gK g) (gT g) (gB g) then (true, uWU (uT g 0 (gB g)) (onW (gB g)) []) else (false, uRf (uT g 0 (gB g)) 5)
theorem m_on_v {g : SG} {z : MS} (h : mG g z) : Ok (m_on z) (fun r => r.1 = (spOn g).1 ∧ mG (spOn g).2 r.2) := by
  have ht := h.2.2.2.2.2.2.2.1
  have o4 := h.1.2.2.2.1
  have o5 := h.1.2.2.2.2.1
  have h8 := h.2.1.1.2.1
  have hz1 : mG (uT g 0 (gB g)) (wI z 1 0) := h.tape (by omega) (fun i hi => absurd hi (Nat.not_lt_zero _)) (fun q hq => by rw [mI_w, if_neg hq]) rfl (fun _ _ => rfl) rfl ⟨by rw [mI_w, if_pos rfl]; rfl, fun i hi => absurd hi (Nat.not_lt_zero _)⟩
  have hA : ∀ i, i < gT g → mA (wI z 1 0) 0 i = nI (gB g i) := fun i hi => ht.2 i hi
  unfold m_on
  rw [nm_s, ht.1]
  generalize wI z 1 0 = y0 at hz1 hA ⊢
  have hk1 : mOk (gK g) (gW g) y0 := hz1.2.1
  rw [m_isImage_v hk1 o4 hA o5, bnd_s]
  unfold spOn
  by_cases c : onOk (gK g) (gT g) (gB g)
  · rw [decide_eq_true c, if_neg (by decide), if_pos c]
    have hn := c.1.1
    have wok := onW_ok hk1.1 c
    have b0 := o5 0 (by omega)
    have b1 := o5 1 (by omega)
    have e256 : (256 : Int32) * nI (gB g 0) + nI (gB g 1) = nI (256 * gB g 0 + gB g 1) := by rw [show (256 : Int32) = nI 256 from rfl, nI_mul, nI_add]
    rw [show (Int32.toNatClampNeg 0) = 0 from by decide, show (Int32.toNatClampNeg 1) = 1 from by decide, hA 0 (by omega), hA 1 (by omega), e256, nm_s, jn_s]
    refine fx_okN (F := m_on_L55 _) (z := fun _ _ => none) (fun s j y => s (nI j) y) (kP (gK g)) (fun j y => y.1 = y0.1 ∧ y.2.1 = y0.2.1 ∧ (∀ a, a ≠ 53 → mA y a = mA y0 a) ∧ y.2.2.2 = y0.2.2.2 ∧ mA y 53 0 = nI (256 * gB g 0 + gB g 1) ∧ ∀ p, p < j → mA y 53 (1 + 5 * p) = nI (gB g (2 + 5 * p)) - 1 ∧ ∀ i, 1 ≤ i → i < 5 → mA y 53 (1 + 5 * p + i) = nI (gB g (2 + 5 * p + i))) _ ?_ ?_ FU 0 (wA y0 53 0 (nI (256 * gB g 0 + gB g 1))) (Nat.zero_le _) ⟨rfl, rfl, fun a ha => mA_wne _ ha _ _, rfl, by rw [mA_w, if_pos rfl], fun p hp => absurd hp (Nat.not_lt_zero _)⟩ (FU_gt (by omega))
    · rintro s j y hj ⟨e1, e2, e3, e4, e5, e6⟩ go
      have bj := o5 (2 + 5 * j) (by omega)
      have pm : m_personMany y = some (nI (kP (gK g)), y) := by
        unfold m_personMany
        rw [show (Int32.toNatClampNeg 3) = 3 from by decide, e3 39 (by decide), hk1.2.2.1.2.1]
      show Ok (m_on_L55 _ s (nI j) y) _
      unfold m_on_L55
      rw [pm, bnd_s, if_neg (nI_ge hj (by omega)), x25, ix0, ck_t (inb_nI (by show _ < 1600; omega) (by decide)), ck_t (inb_nI (by show _ < 132; omega) (by decide)), nm_s, nI_c (by omega), nI_c (by omega), e3 0 (by decide), hA _ (by omega), jn_s]
      refine fx_okN (F := m_on_L87 (nI j) _) (z := fun _ _ => none) (fun s i y => s (nI (1 + i)) y) 4 (fun i x => x.1 = y0.1 ∧ x.2.1 = y0.2.1 ∧ (∀ a, a ≠ 53 → mA x a = mA y0 a) ∧ x.2.2.2 = y0.2.2.2 ∧ (∀ q, q < 1 + 5 * j → mA x 53 q = mA y 53 q) ∧ mA x 53 (1 + 5 * j) = nI (gB g (2 + 5 * j)) - 1 ∧ ∀ q, 1 ≤ q → q < 1 + i → mA x 53 (1 + 5 * j + q) = nI (gB g (2 + 5 * j + q))) _ ?_ ?_ FU 0 (wA y 53 (1 + 5 * j) (nI (gB g (2 + 5 * j)) - 1)) (Nat.zero_le _) ⟨e1, e2, fun a ha => by rw [mA_wne _ ha, e3 a ha], e4, fun q hq => by rw [mA_w, if_neg (by omega)], by rw [mA_w, if_pos rfl], fun q h1 h2 => by omega⟩ (FU_gt (by decide))
      · rintro s2 i x hi ⟨f1, f2, f3, f4, f5, f6, f7⟩ go2
        show Ok (m_on_L87 (nI j) _ s2 (nI (1 + i)) x) _
        unfold m_on_L87
        rw [if_neg (show ¬ (5 : Int32) ≤ nI (1 + i) from nI_ge (b := 5) (by omega) (by decide)), x25, ix0, nI_add, nI_add, ck_t (inb_nI (by show _ < 1600; omega) (by decide)), ck_t (inb_nI (by show _ < 132; omega) (by decide)), nm_s, nI_c (by omega), nI_c (by omega), f3 0 (by decide), hA _ (by omega), nI_1, Nat.add_assoc 1 i 1]
        refine go2 _ ⟨f1, f2, fun a ha => by rw [mA_wne _ ha, f3 a ha], f4, fun q hq => by rw [mA_w, if_neg (by omega)]; exact f5 q hq, by rw [mA_w, if_neg (by omega)]; exact f6, fun q h1 h2 => ?_⟩
        rw [mA_w]
        by_cases cq : q = 1 + i
        · rw [if_pos (by omega), cq]
        · rw [if_neg (by omega)]
          exact f7 q h1 (by omega)
      · rintro s2 x ⟨f1, f2, f3, f4, f5, f6, f7⟩
        show Ok (m_on_L87 (nI j) _ s2 (nI (1 + 4)) x) _
        unfold m_on_L87
        rw [if_pos (by decide), nI_1]
        refine go x ⟨f1, f2, f3, f4, by rw [f5 0 (by omega)]; exact e5, fun p hp => ?_⟩
        by_cases cp : p = j
        · subst cp
          exact ⟨f6, fun i h1 h2 => f7 i h1 (by omega)⟩
        · rw [f5 _ (by omega)]
          refine ⟨(e6 p (by omega)).1, fun i h1 h2 => ?_⟩
          rw [f5 _ (by omega)]
          exact (e6 p (by omega)).2 i h1 h2
    · rintro s y ⟨e1, e2, e3, e4, e5, e6⟩
      have pm : m_personMany y = some (nI (kP (gK g)), y) := by
        unfold m_personMany
        rw [show (Int32.toNatClampNeg 3) = 3 from by decide, e3 39 (by decide), hk1.2.2.1.2.1]
      show Ok (m_on_L55 _ s (nI (kP (gK g))) y) _
      unfold m_on_L55
      rw [pm, bnd_s, if_pos (nI_le (Nat.le_refl _) (by omega))]
      show Ok (nm (wA y 53 (Int32.toNatClampNeg 41) 0) fun z5 => nm (wI z5 65 0) fun z6 => some (true, z6)) _
      rw [nm_s, nm_s, show (Int32.toNatClampNeg 41) = 41 from by decide]
      have eI : ∀ a, mI y a = mI y0 a := fun a => by show y.1 a = y0.1 a; rw [e1]
      refine Ok.of ⟨rfl, hz1.acts (us := []) ?_ (fun u hu => by cases hu) (fun a _ _ _ h4 _ _ => by rw [mI_w, if_neg h4, mI_wA, eI]) (by show y.2.1 67 = y0.2.1 67; rw [e2]) (fun a h1 _ _ _ _ _ _ => by show mA (wA y 53 41 0) a = _; rw [mA_wne _ h1, e3 a h1]) (fun a _ => by show y.2.2.2 a = y0.2.2.2 a; rw [e4]) ⟨hk1.1, wok, mSK_now hk1.2.2.1 (fun a ha => by show mA (wA y 53 41 0) a = _; rw [mA_wne _ (by rintro rfl; simp at ha), e3 a (by rintro rfl; simp at ha)]), ?_, fun p hp => ?_⟩ ⟨Nat.zero_le _, ?_, fun i hi => absurd hi (Nat.not_lt_zero _)⟩ ⟨Nat.zero_le _, by rw [mI_w, if_pos rfl]; rfl, ?_⟩⟩
      · show 256 * gB g 0 + gB g 1 ≤ 999
        exact c.1.2.2
      · show mA (wA y 53 41 0) 53 0 = _
        rw [mA_w, if_neg (by decide), e5]
        rfl
      · have hp : p < kP (gK g) := hp
        show mA (wA y 53 41 0) 53 (1 + 5 * p) = _ ∧ mA (wA y 53 41 0) 53 (1 + 5 * p + 1) = _ ∧ mA (wA y 53 41 0) 53 (1 + 5 * p + 2) = _ ∧ mA (wA y 53 41 0) 53 (1 + 5 * p + 3) = _ ∧ mA (wA y 53 41 0) 53 (1 + 5 * p + 4) = _
        obtain ⟨g1, g2⟩ := e6 p hp
        rw [mA_w, if_neg (by omega), mA_w, if_neg (by omega), mA_w, if_neg (by omega), mA_w, if_neg (by omega), mA_w, if_neg (by omega)]
        exact ⟨g1, g2 1 (by decide) (by decide), g2 2 (by decide) (by decide), g2 3 (by decide) (by decide), g2 4 (by decide) (by decide)⟩
      · show mA (wA y 53 41 0) 53 41 = nI 0
        rw [mA_w, if_pos rfl]
        rfl
      · obtain ⟨-, -, t, ht1, ht2, -⟩ := hz1.2.2.2.2.2.1
        refine ⟨t, ht1, ?_, fun i hi => absurd hi (Nat.not_lt_zero _)⟩
        rw [mI_w, if_neg (by decide), mI_wA, eI]
        exact ht2
  · rw [decide_eq_false c, if_pos (by decide), if_neg c, nm_s, show (Int32.toNatClampNeg 5) = 5 from by decide]
    exact Ok.of ⟨rfl, hz1.refuse (by decide)⟩
