/-! PART 19: rows: int[][], casts of byte[], instanceof String -/
set_option maxRecDepth 100000
def pMf (b i : Nat) : Nat → Option Nat := fun j => if j < i then some (b + 1 + j) else none
def pMH (h : PH) (N k : Nat) : Nat → PH
  | 0 => (h.1 + 1, h.2.1 + N, va_up h.2.2 h.1 (some (true, .inl (6, N, .inr (.inr (.inr (.inr (pMf h.1 0))))))))
  | i + 1 => pPutE ((pMH h N k i).1 + 1, (pMH h N k i).2.1 + k, va_up (pMH h N k i).2.2 (pMH h N k i).1 (some (true, .inl (0, k, .inl (fun _ => 0))))) h.1 (.inl (6, N, .inr (.inr (.inr (.inr (pMf h.1 (i + 1)))))))
theorem pMH_1 (h : PH) (N k : Nat) : ∀ i, (pMH h N k i).1 = h.1 + 1 + i
  | 0 => rfl
  | i + 1 => by
    show (pMH h N k i).1 + 1 = _
    rw [pMH_1 h N k i]
    omega
theorem pMH_2 (h : PH) (N k : Nat) : ∀ i, (pMH h N k i).2.1 = h.2.1 + N + i * k
  | 0 => by show h.2.1 + N = _; omega
  | i + 1 => by
    show (pMH h N k i).2.1 + k = _
    rw [pMH_2 h N k i, Nat.succ_mul]
    omega
theorem pMH_at (h : PH) (N k : Nat) : ∀ i, (pMH h N k i).2.2 h.1 = some (true, .inl (6, N, .inr (.inr (.inr (.inr (pMf h.1 i))))))
  | 0 => by simp [pMH, va_up]
  | i + 1 => by simp [pMH, pPutE, va_up]
def pMul (cap : Nat × Nat) (h : PH) (n k : Int32) : Option (Nat × PH) := if ¬ n < 0 ∧ ¬ k < 0 ∧ n.toNatClampNeg ≤ 1000 ∧ k.toNatClampNeg ≤ 1000 ∧ h.1 + 1 + n.toNatClampNeg ≤ cap.1 ∧ h.2.1 + n.toNatClampNeg + n.toNatClampNeg * k.toNatClampNeg ≤ cap.2 then some (h.1, pMH h n.toNatClampNeg k.toNatClampNeg n.toNatClampNeg) else none
theorem pMul_open {cap : Nat × Nat} {h h1 : PH} {n k : Int32} {q : Nat} (e : pMul cap h n k = some (q, h1)) : (¬ n < 0 ∧ ¬ k < 0 ∧ n.toNatClampNeg ≤ 1000 ∧ k.toNatClampNeg ≤ 1000 ∧ h.1 + 1 + n.toNatClampNeg ≤ cap.1 ∧ h.2.1 + n.toNatClampNeg + n.toNatClampNeg * k.toNatClampNeg ≤ cap.2) ∧ q = h.1 ∧ h1 = pMH h n.toNatClampNeg k.toNatClampNeg n.toNatClampNeg := by
  unfold pMul at e
  by_cases hc : ¬ n < 0 ∧ ¬ k < 0 ∧ n.toNatClampNeg ≤ 1000 ∧ k.toNatClampNeg ≤ 1000 ∧ h.1 + 1 + n.toNatClampNeg ≤ cap.1 ∧ h.2.1 + n.toNatClampNeg + n.toNatClampNeg * k.toNatClampNeg ≤ cap.2
  · rw [if_pos hc] at e
    cases e
    exact ⟨hc, rfl, rfl⟩
  · rw [if_neg hc] at e
    cases e
theorem pM_outer (cA : ClassId) (N b : Nat) : ∀ i, Multi.outerC cA N b i = arrV cA N (fun j => va_rf (pMf b i j))
  | 0 => by
    show ({ cls := cA, slots := Array.replicate N Value.null } : Cell) = _
    rw [show (fun j => va_rf (pMf b 0 j)) = (fun _ : Nat => Value.null) from by funext j; simp [pMf, va_rf], ← arrV_new]
  | i + 1 => by
    show (Multi.outerC cA N b i).setSlot i (.ref (b + 1 + i)) = _
    rw [pM_outer cA N b i, arrV_store]
    congr 1
    funext j
    by_cases hj : j = i
    · subst hj
      simp [updV, pMf, va_rf]
    · by_cases hl : j < i
      · simp [updV, pMf, va_rf, hj, hl, Nat.lt_succ_of_lt hl]
      · have hl2 : ¬ j < i + 1 := by omega
        simp [updV, pMf, va_rf, hj, hl, hl2]
theorem pM_PP {D : PD} {A : Nat → Prop} {h : PH} {H : Heap} {T : State} (hP : PP D A h H) (hT : T.heap = H) (hA : ∀ q, H.size ≤ q → A q) (N k : Nat) : ∀ i, i ≤ N → PP D A (pMH h N k i) (Multi.fill T (dA D 6) (dA D 0) N k (.int 0) i).heap ∧ (Multi.fill T (dA D 6) (dA D 0) N k (.int 0) i).heap.size = H.size + 1 + i ∧ (∀ q, q < H.size → (Multi.fill T (dA D 6) (dA D 0) N k (.int 0) i).heap[q]? = H[q]?) ∧ (Multi.fill T (dA D 6) (dA D 0) N k (.int 0) i).heap[H.size]? = some (arrV (dA D 6) N (fun j => va_rf (pMf H.size i j)))
  | 0, _ => by
    have e1 := hP.1
    have e : (Multi.fill T (dA D 6) (dA D 0) N k (.int 0) 0).heap = H.push (Multi.outerC (dA D 6) N H.size 0) := by rw [← hT]; rfl
    rw [e, pM_outer]
    refine ⟨?_, by simp, fun q hq => by rw [Array.getElem?_push, if_neg (Nat.ne_of_lt hq)], by simp⟩
    refine PP.new hP (by rw [arrV_size]) (hA _ (Nat.le_refl _)) ?_
    show (H.push _)[h.1]? = some (vp_cell (dA D 6) _)
    rw [← e1, vp_cell_q]
    simp
  | i + 1, hi => by
    have e1 := hP.1
    obtain ⟨p1, p2, p3, p4⟩ := pM_PP hP hT hA N k i (by omega)
    have e : (Multi.fill T (dA D 6) (dA D 0) N k (.int 0) (i + 1)).heap = ((Multi.fill T (dA D 6) (dA D 0) N k (.int 0) i).heap.push (Multi.innerC (dA D 0) k (.int 0))).setIfInBounds H.size (Multi.outerC (dA D 6) N H.size (i + 1)) := by rw [← hT]; rfl
    rw [e]
    generalize (Multi.fill T (dA D 6) (dA D 0) N k (.int 0) i).heap = G at p1 p2 p3 p4 ⊢
    have hin : Multi.innerC (dA D 0) k (.int 0) = arrV (dA D 0) k (fun _ => .int 0) := by rw [← arrV_new]; rfl
    rw [hin, pM_outer]
    have hn := PP.new (e := .inl (0, k, .inl (fun _ => 0))) (n := k) (c := arrV (dA D 0) k (fun _ => .int 0)) p1 (by rw [arrV_size]) (hA _ (by omega)) (by
      show (G.push _)[(pMH h N k i).1]? = some (vp_cell (dA D 0) _)
      rw [← p1.1]
      simp
      rfl)
    have hlt : H.size < G.size := by omega
    have hg : (G.push (arrV (dA D 0) k (fun _ => .int 0)))[H.size]? = some (arrV (dA D 6) N (fun j => va_rf (pMf H.size i j))) := by rw [Array.getElem?_push, if_neg (Nat.ne_of_lt hlt), p4]
    have oq : ∀ q : Nat, q ≠ H.size → ((G.push (arrV (dA D 0) k (fun _ => .int 0))).setIfInBounds H.size (arrV (dA D 6) N (fun j => va_rf (pMf H.size (i + 1) j))))[q]? = (G.push (arrV (dA D 0) k (fun _ => .int 0)))[q]? := fun q hq => by simp [Array.getElem?_setIfInBounds, Ne.symm hq]
    have hset : ((G.push (arrV (dA D 0) k (fun _ => .int 0))).setIfInBounds H.size (arrV (dA D 6) N (fun j => va_rf (pMf H.size (i + 1) j))))[H.size]? = some (arrV (dA D 6) N (fun j => va_rf (pMf H.size (i + 1) j))) := by
      rw [Array.getElem?_setIfInBounds, if_pos rfl, if_pos (by simp; omega)]
    refine ⟨?_, by simp; omega, fun q hq => ?_, hset⟩
    · refine PP.put (a := h.1) (e0 := .inl (6, N, .inr (.inr (.inr (.inr (pMf h.1 i)))))) hn ?_ (by simp) (c := arrV (dA D 6) N (fun j => va_rf (pMf H.size i j))) (by rw [← e1]; exact hg) (c1 := arrV (dA D 6) N (fun j => va_rf (pMf H.size (i + 1) j))) (by rw [← e1]; exact hset) (by rw [arrV_size, arrV_size]) (by rw [← e1]; exact oq) ?_
      · show va_up (pMH h N k i).2.2 (pMH h N k i).1 _ h.1 = _
        have : h.1 ≠ (pMH h N k i).1 := by rw [pMH_1]; omega
        simp only [va_up, if_neg this]
        exact pMH_at h N k i
      · show (Array.setIfInBounds _ _ _)[h.1]? = some (vp_cell (dA D 6) _)
        rw [vp_cell_q, ← e1]
        exact hset
    · rw [oq q (Nat.ne_of_lt hq), Array.getElem?_push, if_neg (by omega), p3 q hq]
section PX10
variable {l : Launch} {D : PD} {A : Nat → Prop} {cap : Nat × Nat} {d : Nat} {cc : ByteArray} {nL : Nat} {own : String} {ini : Bool} {rt : Option FieldType} {m : MethodId} {rv : Option Value} {h' : PH} {H0 : Heap} {cx sx : Heap → Nat} {Z : Heap → List Loc → Nat → Nat → JFrame → Prop}
variable {lv : List (Nat × Value)} {h : PH} {H : Heap} {locs : List Loc} {pc : Nat} {ls : Array Slot} {rest : List Value} {a ci k : Nat} {C : String} {T : u_T} {N : Nat} {ty : Nat → FieldType}
theorem p_multi (X : pX l D A cap d cc nL own ini rt m rv h' H0 cx sx Z) (hM : PI D A cap H0 h H locs) {idx : Nat} (hq : Cond.classLink own idx "[[I" ∈ lw_all) {n k : Int32} {q : Nat} {h1 : PH} (hv : pMul cap h n k = some (q, h1)) (hdg : decode cc pc = .ok (.multianewarray idx 2, 4))
    (kk : ∀ (H : Heap) (locs : List Loc), PI D A cap H0 h1 H locs → Z H locs (cx H) (sx H) (F0 m (pc + 4) ls (.ref q :: rest))) : Z H locs (cx H) (sx H) (F0 m pc ls (.int k :: .int n :: rest)) := by
  obtain ⟨p, e, s, args, below, meth, c, Q, ⟨hx, hb, hml, hown, hts⟩, -, -, ⟨hK, -⟩, rfl, hA, -, rfl, rfl, rfl, -⟩ := X
  obtain ⟨⟨c1, c2, c3, c4, c5, c6⟩, rfl, rfl⟩ := pMul_open hv
  obtain ⟨hP, hcap, hS, hT0⟩ := hM
  have hS1 := hS.1
  have e1 := hP.1
  have e2 := hP.2.1
  intro T hT X
  obtain ⟨vm', cA, comp, hw, f1, f2, -, -, X', st⟩ := X.multianewarray2F hx (ty := .int) hown (hts _ hq) hK.2.2.2.2.2.2 (hts _ q442) (g := F0 m pc ls (.int k :: .int n :: rest)) rfl (by rw [hb]; exact hdg) rfl c1 c2 (by omega) (by show _ * 4 ≤ _; omega) (by omega) rfl rfl (by show H.size - s.heap.size + (1 + n.toNatClampNeg) ≤ cap.1 - s.heap.size; omega) (by show tot H - tot s.heap + (n.toNatClampNeg + n.toNatClampNeg * k.toNatClampNeg) ≤ cap.2 - tot s.heap; omega)
  have g6 := (hK.1.2.1 6 (by decide)).2
  have g0 := (hK.1.2.1 0 (by decide)).2
  have hcA : cA = dA D 6 := Option.some.inj (f1.symm.trans (by exact g6))
  have hco : comp = dA D 0 := Option.some.inj (f2.symm.trans (by exact g0))
  subst hcA hco
  have hTh : (T.setVm vm').heap = H := hT
  obtain ⟨r1, r2, r3, -⟩ := pM_PP hP hTh (fun q hq => hA q (Nat.le_trans hS1 hq)) n.toNatClampNeg k.toNatClampNeg n.toNatClampNeg (Nat.le_refl _)
  have hI : PI D A cap s.heap (pMH h n.toNatClampNeg k.toNatClampNeg n.toNatClampNeg) (Multi.fill (T.setVm vm') (dA D 6) (dA D 0) n.toNatClampNeg k.toNatClampNeg (.int 0) n.toNatClampNeg).heap locs := by
    refine ⟨r1, ⟨by rw [pMH_1]; omega, by rw [pMH_2]; omega⟩, ⟨by rw [r2]; omega, fun x h1 h2 => ?_, hS.2.2⟩, by rw [r1.2.1, pMH_2]; omega⟩
    rw [r3 x (by omega)]
    exact hS.2.1 x h1 h2
  have hsz : T.heap.size = h.1 := by rw [hT]; exact e1
  obtain ⟨t, a1, b1⟩ := W_tight (Nat.le_refl _) (Nat.le_refl _) (kk _ locs hI) _ rfl X'
  refine ⟨t, st t ?_, b1⟩
  rw [hsz]
  exact a1
/-- a byte[] is one -/
theorem p_castB (X : pX l D A cap d cc nL own ini rt m rv h' H0 cx sx Z) (hM : PI D A cap H0 h H locs) {idx : Nat} (hq : Cond.classLink own idx "[B" ∈ lw_all) {x : vp_A} (hv : pArr h a 2 = some x) (hdg : decode cc pc = .ok (.checkcast idx, 3))
    (kk : Z H locs (cx H) (sx H) (F0 m (pc + 3) ls (.ref a :: rest))) : Z H locs (cx H) (sx H) (F0 m pc ls (.ref a :: rest)) := by
  obtain ⟨p, e, s, args, below, meth, c, Q, ⟨hx, hb, hml, hown, hts⟩, -, -, ⟨hK, -⟩, rfl, hA, -, rfl, rfl, rfl, -⟩ := X
  obtain ⟨b, he⟩ := pArr_open hv
  have hvt : H[a]? = some (vp_cell (dA D 2) x) := (hM.1.2.2 a _ _ he).1
  have hcl : (vp_cell (dA D 2) x).cls = dA D 2 := by obtain ⟨n2, f2 | f2 | f2 | f2 | f2⟩ := x <;> rfl
  have hvm : (vp_cell (dA D 2) x).vm = .none := by obtain ⟨n2, f2 | f2 | f2 | f2 | f2⟩ := x <;> rfl
  have g2 := (hK.1.2.1 2 (by decide)).2
  intro T hT X
  obtain ⟨vm', X', st⟩ := X.checkcastYes hx hown (hts _ hq) (by rw [hT]; exact hvt) (by rw [hvm]; rfl) (by exact g2) (by rw [hcl]; exact p_self _ _) (g := F0 m pc ls (.ref a :: rest)) rfl rfl (by rw [hb]; exact hdg)
  obtain ⟨t, a1, b1⟩ := kk (T.setVm vm') hT X'
  exact ⟨t, st t a1, b1⟩
theorem p_instS (X : pX l D A cap d cc nL own ini rt m rv h' H0 cx sx Z) (hM : PI D A cap H0 h H locs) (hc : cT[ci]? = some (C, T, N)) {idx : Nat} (hq : Cond.classLink own idx C ∈ lw_all) (hvc : pCls h a = some ci) (hdg : decode cc pc = .ok (.instanceof idx, 3))
    (kk : Z H locs (cx H) (sx H) (F0 m (pc + 3) ls (.int 1 :: rest))) : Z H locs (cx H) (sx H) (F0 m pc ls (.ref a :: rest)) := by
  obtain ⟨p, e, s, args, below, meth, c, Q, ⟨hx, hb, hml, hown, hts⟩, -, -, ⟨hK, -⟩, -, -, -, -, -, rfl, -⟩ := X
  obtain ⟨b, fs, he⟩ := pCls_open hvc
  exact va_instS hx hb hown (hts _ hq) (hK.1.1 ci _ hc).2 (va_recv (q0 := 0) hK.va (hM.1.at he) hc rfl) hdg kk
/-- a method of Named, of a Named or of a Person -/
theorem p_call2 {y : MethodName} {cy : ByteArray} {ny : Nat} {rty : Option FieldType} {d' n idx b : Nat} {As st0 : List Value} {h1 : PH} {v1 : Value} (X : pX l D A cap d cc nL own ini rt m rv h' H0 cx sx Z) (hM : PI D A cap H0 h H locs) (hl : lv_has ls nL lv) (hyc : y.cls = RX7) (hb : pCls h b = some 7 ∨ pCls h b = some 8) (hy : pcY y cy ny rty n) (hlink : Cond.methodLink own idx y ∈ lw_all) (hsame : Cond.sameMethod y.cls y.cls y.name y.desc ∈ lw_all) (hs7 : Cond.selects RX7 y y ∈ lw_all) (hs8 : Cond.selects RX8 y y ∈ lw_all) (hin : Cond.instanceMethod y ∈ lw_all) (hC : CMet l D A cap y cy ny rty d' (.ref b :: As) h h1 (some v1)) (hn : As.length = n) (hd : d' < d) (hrm : (rest.map fun v => v.category).sum ≤ 8) (hst : st0 = As.reverse ++ .ref b :: rest) (hdg : decode cc pc = .ok (.invokevirtual idx, 3))
    (kk : ∀ (H : Heap) (locs : List Loc), PI D A cap H0 h1 H locs → Z H locs (cx H) (sx H) (F0 m (pc + 3) ls (v1 :: rest))) : Z H locs (cx H) (sx H) (F0 m pc ls st0) := by
  rcases hb with hb | hb
  · exact p_callO_r (ci := 7) X hM hl rfl hb hy hlink hsame hs7 hin hC hn hd hrm hst hdg kk
  · exact p_callO_r (ci := 8) X hM hl rfl hb hy hlink hsame hs8 hin hC hn hd hrm hst hdg kk
theorem fit_qa (t : FieldType) (q : Option Nat) : fits (.array t) (va_rf q) = true := by cases q <;> rfl
theorem nar_qa (t : FieldType) (q : Option Nat) : narrow (.array t) (va_rf q) = va_rf q := by cases q <;> rfl
theorem fit_b {v : Int32} (h : decide (vp_nar .byte v = v) = true) : fits .byte (.int v) = true := by
  have e := of_decide_eq_true h
  have e : v.toInt8.toInt32 = v := e
  have h1 := Int8.le_toInt v.toInt8
  have h2 := Int8.toInt_lt v.toInt8
  have h3 : v.toInt8.toInt32.toInt = v.toInt8.toInt := Int8.toInt_toInt32 _
  rw [e] at h3
  simp [fits]
  refine ⟨Int32.le_iff_toInt_le.mpr ?_, Int32.le_iff_toInt_le.mpr ?_⟩
  · rw [h3]
    exact h1
  · rw [h3]
    show v.toInt8.toInt ≤ 127
    omega
end PX10
