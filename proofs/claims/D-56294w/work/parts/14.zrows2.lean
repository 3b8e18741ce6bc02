/-! Rows of the layer: copies of arrays, clone, getClass, inherited and super calls, stores to a field that isn't kept. -/
set_option maxRecDepth 100000
theorem zPairs (c0 : Cell) (at_ : Nat) : ∀ (xs : List Value) (i : Nat) (c : Cell), (c.storePairs at_ (xs.zipIdx i)).cls = c.cls ∧ (c.storePairs at_ (xs.zipIdx i)).vm = c.vm ∧ (c.storePairs at_ (xs.zipIdx i)).slots.size = c.slots.size ∧ ∀ k, k < c.slots.size → (c.storePairs at_ (xs.zipIdx i)).slots[k]? = if at_ + i ≤ k ∧ k < at_ + i + xs.length then some (xs.getD (k - (at_ + i)) .null) else c.slots[k]?
  | [], i, c => by
    refine ⟨rfl, rfl, rfl, fun k hk => ?_⟩
    rw [if_neg (by simp only [List.length_nil]; omega)]
    rfl
  | x :: xs, i, c => by
    rw [List.zipIdx_cons]
    have e : c.storePairs at_ ((x, i) :: xs.zipIdx (i + 1)) = (c.setSlot (at_ + i) x).storePairs at_ (xs.zipIdx (i + 1)) := rfl
    rw [e]
    obtain ⟨h1, h2, h3, h4⟩ := zPairs c0 at_ xs (i + 1) (c.setSlot (at_ + i) x)
    have hs : (c.setSlot (at_ + i) x).slots = c.slots.setIfInBounds (at_ + i) x := rfl
    have hz : (c.setSlot (at_ + i) x).slots.size = c.slots.size := by rw [hs, Array.size_setIfInBounds]
    refine ⟨h1, h2, h3.trans hz, fun k hk => ?_⟩
    rw [h4 k (by rw [hz]; exact hk), hs]
    by_cases h : at_ + i = k
    · subst h
      rw [if_neg (by omega), if_pos (by simp only [List.length_cons]; omega)]
      simp [hk]
    · rw [Array.getElem?_setIfInBounds_ne h]
      by_cases h5 : at_ + (i + 1) ≤ k ∧ k < at_ + (i + 1) + xs.length
      · rw [if_pos h5, if_pos (by simp only [List.length_cons]; omega)]
        congr 1
        have : k - (at_ + i) = (k - (at_ + (i + 1))) + 1 := by omega
        rw [this, List.getD_cons_succ]
      · rw [if_neg h5, if_neg (by simp only [List.length_cons]; omega)]
theorem zRunC (cs cd : Cell) (sp dp n : Nat) : (cd.storeRun dp (cs.stretch sp n)).cls = cd.cls ∧ (cd.storeRun dp (cs.stretch sp n)).vm = cd.vm ∧ (cd.storeRun dp (cs.stretch sp n)).slots.size = cd.slots.size ∧ ∀ k, k < cd.slots.size → (cd.storeRun dp (cs.stretch sp n)).slots[k]? = if dp ≤ k ∧ k < dp + n then some (cs.slots.getD (sp + (k - dp)) .null) else cd.slots[k]? := by
  obtain ⟨h1, h2, h3, h4⟩ := zPairs cd dp (cs.stretch sp n) 0 cd
  refine ⟨h1, h2, h3, fun k hk => ?_⟩
  have hl : (cs.stretch sp n).length = n := by unfold Cell.stretch; rw [List.length_map, List.length_range]
  rw [Cell.storeRun, h4 k hk, hl, Nat.add_zero]
  by_cases h : dp ≤ k ∧ k < dp + n
  · rw [if_pos h, if_pos h]
    congr 1
    unfold Cell.stretch
    rw [List.getD_eq_getElem?_getD, List.getElem?_map, List.getElem?_range (by omega)]
    rfl
  · rw [if_neg h, if_neg h]
theorem zNN (z : Int32) (hz : ¬ z < 0) : z.toInt = (z.toNatClampNeg : Int) := by
  have hz0 : (0 : Int) ≤ z.toInt := by
    have := Int32.not_lt.mp hz
    simpa using Int32.le_iff_toInt_le.mp this
  show z.toInt = ((z.toInt.toNat : Nat) : Int)
  omega
section ZR2
variable {w : WT} {g : GT} {y : MethodName} {cc : ByteArray} {nL : Nat} {ret : Option FieldType} {hh : List (Nat × Nat × Nat × Nat)} {fr lo : Nat} {K : Out → Mem → Prop} {mc ms pc : Nat} {lv : List (Nat × TV)} {st : List TV} {μ : Mem} {kc ks : Nat}
/-- what a copy does to the destination's cell, in the memory's words -/
theorem zCopyRep {H H' : Heap} {a0 a ci : Nat} {μ' : Mem} {cs cd : Cell} {sp dp n : Nat} (hR : Rep w μ H) (hba : zB w ≤ a) (h0 : 100 ≤ ci) (hc : zC μ a = ci) (hd : H[a]? = some cd) (hds : cd.slots.size = zN μ a) (hsv : ∀ j, j < zN μ a0 → cs.slots[j]? = some (zav μ a0 ci j)) (hsn : sp + n ≤ zN μ a0)
    (e1 : zS μ' = zS μ) (e2 : ∀ b, zC μ' b = zC μ b) (e3 : ∀ b, zN μ' b = zN μ b) (e4 : ∀ b c k, zfv μ' b c k = zfv μ b c k) (e5 : ∀ b c k, b ≠ a → zav μ' b c k = zav μ b c k) (e6 : ∀ k, zav μ' a ci k = if dp ≤ k ∧ k < dp + n then zav μ a0 ci (sp + (k - dp)) else zav μ a ci k)
    (c1 : H'[a]? = some (cd.storeRun dp (cs.stretch sp n))) (c2 : H'.size = H.size) (c3 : ∀ q, q ≠ a → H'[q]? = H[q]?) : Rep w μ' H' := by
  obtain ⟨r1, r2, r3, r4⟩ := zRunC cs cd sp dp n
  refine hR.put (a := a) (cell := cd) (cell' := cd.storeRun dp (cs.stretch sp n)) e1 e2 ?_ hba hd c1 r1 r2 ?_ c2 c3
  · intro b hne cl hp
    refine ⟨fun hx => ⟨(hp.1 hx).1, fun k hk => by rw [e4]; exact (hp.1 hx).2 k hk⟩, fun hx => ?_⟩
    obtain ⟨z1, z2⟩ := hp.2 hx
    exact ⟨by rw [e3]; exact z1, fun k hk => by rw [e5 b _ k hne]; exact z2 k (by rw [← e3]; exact hk)⟩
  · intro hp
    rw [hc] at hp ⊢
    refine ⟨fun hx => absurd hx (Nat.not_lt.mpr h0), fun hx => ?_⟩
    obtain ⟨z1, z2⟩ := hp.2 hx
    refine ⟨by rw [r3, e3]; exact z1, fun k hk => ?_⟩
    rw [e3] at hk
    rw [r4 k (by rw [z1]; exact hk), e6]
    by_cases h : dp ≤ k ∧ k < dp + n
    · rw [if_pos h, if_pos h, Array.getD_eq_getD_getElem?, hsv _ (by omega)]
      rfl
    · rw [if_neg h, if_neg h]
      exact z2 k hk
theorem zav_cA (μ : Mem) (a : Nat) (f : Nat → Int32) (b c k : Nat) : zav (zcA μ a f) b c k = if 120 ≤ c then va_rf (zQ μ b k) else if c = 110 then .long (zJ μ b k) else if c = 111 then .double (zD μ b k) else .int (if b = a then f k else zA μ b k) := by
  unfold zav; rw [zQ_zcA, zJ_zcA, zD_zcA, zA_zcA]
theorem zav_cQ (μ : Mem) (a : Nat) (f : Nat → Option Nat) (b c k : Nat) : zav (zcQ μ a f) b c k = if 120 ≤ c then va_rf (if b = a then f k else zQ μ b k) else if c = 110 then .long (zJ μ b k) else if c = 111 then .double (zD μ b k) else .int (zA μ b k) := by
  unfold zav; rw [zQ_zcQ, zJ_zcQ, zD_zcQ, zA_zcQ]
/-- System.arraycopy between byte arrays -/
theorem z_copyA (C : Cx w g y cc nL ret hh fr lo) {index a0 a : Nat} {r0 r : Option Nat} {sp dp n : Int32} (q1 : Cond.methodLink y.cls index arraycopyName ∈ lw_all) (q2 : Cond.native arraycopyName ∈ lw_all) (q3 : Cond.static arraycopyName ∈ lw_all) (q4 : Cond.initialized "java/lang/System" ∈ lw_all) (hr0 : r0 = some a0) (hr : r = some a) (hc0 : zC μ a0 = 102) (hc : zC μ a = 102) (hba : zB w ≤ a)
    (h1 : ¬ sp < 0) (h2 : ¬ dp < 0) (h3 : ¬ n < 0) (h4 : sp.toNatClampNeg + n.toNatClampNeg ≤ zN μ a0) (h5 : dp.toNatClampNeg + n.toNatClampNeg ≤ zN μ a) (hfit : ∀ i, i < n.toNatClampNeg → fits .byte (.int (zA μ a0 (sp.toNatClampNeg + i))) = true)
    (hR : 1 ≤ fr ∧ (st.map fun a => if tcat a then 2 else 1).sum + 40 ≤ lo) (hd : decode cc pc = .ok (.invokestatic index, 3))
    (k : Z w g K mc ms (pc + 3) lv st (zcA μ a (va_cpy (zA μ a0) (zA μ a) sp.toNatClampNeg dp.toNatClampNeg n.toNatClampNeg)) kc ks) : Z w g K mc ms pc lv (tI n :: tI dp :: tR r :: tI sp :: tR r0 :: st) μ kc ks := by
  intro H locs ls hRp hb hl d e f
  subst hr0; subst hr
  obtain ⟨cs, s1, s2, s4, s5, s6, s7⟩ := zArr hRp (by decide) hc0
  obtain ⟨cd, d1, d2, d4, d5, d6, d7⟩ := zArr hRp (by decide) hc
  intro T hT X
  obtain ⟨-, k0, hk0, cm0, hkk0⟩ := zIsArr C s2 s5 (t0 := 1) (ty := .byte) rfl
  obtain ⟨-, k1, hk1, cm1, hkk1⟩ := zIsArr C d2 d5 (t0 := 1) (ty := .byte) rfl
  obtain ⟨vm', X', step⟩ := X.arraycopy C.1 C.own (C.ts _ q1) (C.ts _ q2) (C.ts _ q3) (C.ts _ q4) (src := a0) (dst := a) (cs := cs) (cd := cd) (srcPos := sp) (destPos := dp) (n := n) (by rw [hT]; exact s1) (by rw [hT]; exact d1)
    (fun q h => by rw [h] at s5; cases s5) (fun q h => by rw [h] at d5; cases d5) s4 d4 hk0 hk1 hkk0 hkk1 (by rfl) h1 h2 h3
    (by rw [zNN sp h1, zNN n h3, s6]; omega) (by rw [zNN dp h2, zNN n h3, d6]; omega)
    (fun vm₁ _ i hi => by
      have e : cs.slots.getD (sp.toNatClampNeg + i) .null = .int (zA μ a0 (sp.toNatClampNeg + i)) := by
        rw [Array.getD_eq_getD_getElem?, s7 _ (by omega)]; rfl
      exact ⟨by rw [e]; exact hfit i hi, by rw [e]; exact trivial⟩)
    (g := F0 (gm g) pc ls (.int n :: .int dp :: .ref a :: .int sp :: .ref a0 :: st.map tv)) rfl (by rw [C.2.2.1]; exact (d.1.trans C.2.2.1)) (rest := st.map tv) rfl (by rw [C.2.1]; exact hd) (by show 1 ≤ gf g; rw [C.2.2.2.2.2.2.2.2.2.2.2.1]; exact hR.1)
    (by show 2 * 0 + _ + _ ≤ gl g; rw [zSum, C.2.2.2.2.2.2.2.2.2.2.2.2]; have hw : nativeFrameWords "java/lang/System" "arraycopy" 5 + 11 ≤ 40 := (by decide); omega)
  have hla : a < H.size := (Array.getElem?_eq_some_iff.mp d1).1
  generalize hcv : copied cs cd sp dp n = cv at X' step
  have hcv' : cd.storeRun dp.toNatClampNeg (cs.stretch sp.toNatClampNeg n.toNatClampNeg) = cv := hcv
  have hheap : ((T.setVm vm').setCell a cv).heap = H.setIfInBounds a cv := by rw [← hT]; rfl
  have oq : ∀ q : Nat, q ≠ a → (H.setIfInBounds a cv)[q]? = H[q]? := fun q hq => by simp [Array.getElem?_setIfInBounds, Ne.symm hq]
  obtain ⟨t, a1, b1⟩ := k (H.setIfInBounds a cv) _ ls (by
    refine zCopyRep (cs := cs) (cd := cd) (ci := 102) hRp hba (by decide) hc d1 d6 s7 h4 rfl (fun _ => rfl) (fun _ => rfl) (fun _ _ _ => rfl) (fun b c k hne => ?_) (fun k => ?_) (show (H.setIfInBounds a cv)[a]? = some _ by rw [hcv']; simp [Array.getElem?_setIfInBounds, hla]) (by simp) oq
    · rw [zav_cA, if_neg hne]; rfl
    · rw [zav_cA, if_neg (by decide), if_neg (by decide), if_neg (by decide), if_pos rfl, va_cpy]
      by_cases h : dp.toNatClampNeg ≤ k ∧ k < dp.toNatClampNeg + n.toNatClampNeg
      · rw [if_pos h, if_pos h]; rfl
      · rw [if_neg h, if_neg h]; rfl) (by simp; exact hb) (fun q hq => by
      rcases List.mem_append.mp hq with h | h
      · exact hl q h
      · obtain ⟨z, -, hz⟩ := List.mem_map.mp h
        rw [← hz]
        exact hba) d e f _ hheap X'
  exact ⟨t, step t a1, b1⟩
/-- System.arraycopy between Object arrays -/
theorem z_copyQ (C : Cx w g y cc nL ret hh fr lo) {index a0 a : Nat} {r0 r : Option Nat} {sp dp n : Int32} (q1 : Cond.methodLink y.cls index arraycopyName ∈ lw_all) (q2 : Cond.native arraycopyName ∈ lw_all) (q3 : Cond.static arraycopyName ∈ lw_all) (q4 : Cond.initialized "java/lang/System" ∈ lw_all) (hr0 : r0 = some a0) (hr : r = some a) (hc0 : zC μ a0 = 120) (hc : zC μ a = 120) (hba : zB w ≤ a)
    (h1 : ¬ sp < 0) (h2 : ¬ dp < 0) (h3 : ¬ n < 0) (h4 : sp.toNatClampNeg + n.toNatClampNeg ≤ zN μ a0) (h5 : dp.toNatClampNeg + n.toNatClampNeg ≤ zN μ a) (hel : ∀ i v : Nat, i < n.toNatClampNeg → zQ μ a0 (sp.toNatClampNeg + i) = some v → 0 < zC μ v ∧ zC μ v ≤ 38)
    (hR : 1 ≤ fr ∧ (st.map fun a => if tcat a then 2 else 1).sum + 40 ≤ lo) (hd : decode cc pc = .ok (.invokestatic index, 3))
    (k : Z w g K mc ms (pc + 3) lv st (zcQ μ a (va_cpy (zQ μ a0) (zQ μ a) sp.toNatClampNeg dp.toNatClampNeg n.toNatClampNeg)) kc ks) : Z w g K mc ms pc lv (tI n :: tI dp :: tR r :: tI sp :: tR r0 :: st) μ kc ks := by
  intro H locs ls hRp hb hl d e f
  subst hr0; subst hr
  obtain ⟨cs, s1, s2, s4, s5, s6, s7⟩ := zArr hRp (by decide) hc0
  obtain ⟨cd, d1, d2, d4, d5, d6, d7⟩ := zArr hRp (by decide) hc
  intro T hT X
  obtain ⟨kA, comp, j1, j2, j3, -⟩ := (C.kw.2.1.2 4 _ rfl).2
  have hk1 : (gs g).vm.classes[cd.cls]? = some kA := by rw [d2]; exact j1
  have hk0 : (gs g).vm.classes[cs.cls]? = some kA := by rw [s2]; exact j1
  obtain ⟨vm', X', step⟩ := X.arraycopy C.1 C.own (C.ts _ q1) (C.ts _ q2) (C.ts _ q3) (C.ts _ q4) (src := a0) (dst := a) (cs := cs) (cd := cd) (srcPos := sp) (destPos := dp) (n := n) (by rw [hT]; exact s1) (by rw [hT]; exact d1)
    (fun q h => by rw [h] at s5; cases s5) (fun q h => by rw [h] at d5; cases d5) s4 d4 hk0 hk1 j2 j2 rfl h1 h2 h3
    (by rw [zNN sp h1, zNN n h3, s6]; omega) (by rw [zNN dp h2, zNN n h3, d6]; omega)
    (fun vm₁ hal i hi => by
      have e : cs.slots.getD (sp.toNatClampNeg + i) .null = va_rf (zQ μ a0 (sp.toNatClampNeg + i)) := by
        rw [Array.getD_eq_getD_getElem?, s7 _ (by omega)]; rfl
      rw [e]
      cases hy : zQ μ a0 (sp.toNatClampNeg + i) with
      | none => exact ⟨rfl, trivial⟩
      | some v =>
        obtain ⟨k1, k2⟩ := hel i v hi hy
        obtain ⟨r0, hr0, hcast⟩ := zObj_ok (zC μ v) k1 k2
        obtain ⟨cv, g1, g2, g3, g4, g5, -⟩ := zCell hRp (by omega) (rfl : zC μ v = zC μ v)
        obtain ⟨c3, c4, hc3, hc4, hasg⟩ := Cond.castable_spec (C.nw hcast rfl)
        have hcl := C.kw.2.1.1 _ _ hr0
        have hcv : c3 = cv.cls := by rw [g2]; exact Option.some.inj (hc3.symm.trans hcl.2.1)
        have hcomp : c4 = comp := Option.some.inj (hc4.symm.trans j3)
        obtain ⟨kC, hkC, -⟩ := hcl.2.2
        obtain ⟨kE, hkE, -⟩ := Vm.findClass_spec j3
        obtain ⟨kC', hkC', -⟩ := hal.2.2 _ _ (show (gs g).vm.classes[cv.cls]? = some kC by rw [g2]; exact hkC)
        obtain ⟨kE', hkE', -⟩ := hal.2.2 _ _ hkE
        refine ⟨rfl, cv, (show T.heap[v]? = some cv by rw [hT]; exact g1), (fun q h => by rw [h] at g5; cases g5), ⟨kC', hkC'⟩, ?_, ?_⟩
        · exact ⟨kE', hkE'⟩
        · show vm₁.assignable _ _ = true
          rw [hal.assignable, ← hcv, ← hcomp]
          exact hasg)
    (g := F0 (gm g) pc ls (.int n :: .int dp :: .ref a :: .int sp :: .ref a0 :: st.map tv)) rfl (by rw [C.2.2.1]; exact (d.1.trans C.2.2.1)) (rest := st.map tv) rfl (by rw [C.2.1]; exact hd) (by show 1 ≤ gf g; rw [C.2.2.2.2.2.2.2.2.2.2.2.1]; exact hR.1)
    (by show 2 * 0 + _ + _ ≤ gl g; rw [zSum, C.2.2.2.2.2.2.2.2.2.2.2.2]; have hw : nativeFrameWords "java/lang/System" "arraycopy" 5 + 11 ≤ 40 := (by decide); omega)
  have hla : a < H.size := (Array.getElem?_eq_some_iff.mp d1).1
  generalize hcv : copied cs cd sp dp n = cv at X' step
  have hcv' : cd.storeRun dp.toNatClampNeg (cs.stretch sp.toNatClampNeg n.toNatClampNeg) = cv := hcv
  have hheap : ((T.setVm vm').setCell a cv).heap = H.setIfInBounds a cv := by rw [← hT]; rfl
  have oq : ∀ q : Nat, q ≠ a → (H.setIfInBounds a cv)[q]? = H[q]? := fun q hq => by simp [Array.getElem?_setIfInBounds, Ne.symm hq]
  obtain ⟨t, a1, b1⟩ := k (H.setIfInBounds a cv) _ ls (by
    refine zCopyRep (cs := cs) (cd := cd) (ci := 120) hRp hba (by decide) hc d1 d6 s7 h4 rfl (fun _ => rfl) (fun _ => rfl) (fun _ _ _ => rfl) (fun b c k hne => ?_) (fun k => ?_) (show (H.setIfInBounds a cv)[a]? = some _ by rw [hcv']; simp [Array.getElem?_setIfInBounds, hla]) (by simp) oq
    · rw [zav_cQ, if_neg hne]; rfl
    · rw [zav_cQ, if_pos (by decide), if_pos rfl, va_cpy]
      by_cases h : dp.toNatClampNeg ≤ k ∧ k < dp.toNatClampNeg + n.toNatClampNeg
      · rw [if_pos h, if_pos h]; rfl
      · rw [if_neg h, if_neg h]; rfl) (by simp; exact hb) (fun q hq => by
      rcases List.mem_append.mp hq with h | h
      · exact hl q h
      · obtain ⟨z, -, hz⟩ := List.mem_map.mp h
        rw [← hz]
        exact hba) d e f _ hheap X'
  exact ⟨t, step t a1, b1⟩
/-- clone() of a byte array -/
theorem z_clone (C : Cx w g y cc nL ret hh fr lo) {index a : Nat} {r : Option Nat} (q1 : Cond.methodLink y.cls index ⟨"[B", "clone", "()Ljava/lang/Object;"⟩ ∈ lw_all) (q2 : Cond.sameMethod "[B" "java/lang/Object" "clone" "()Ljava/lang/Object;" ∈ lw_all) (q3 : Cond.native ⟨"java/lang/Object", "clone", "()Ljava/lang/Object;"⟩ ∈ lw_all) (q4 : Cond.instanceMethod ⟨"java/lang/Object", "clone", "()Ljava/lang/Object;"⟩ ∈ lw_all) (q5 : Cond.selects "[B" ⟨"[B", "clone", "()Ljava/lang/Object;"⟩ ⟨"java/lang/Object", "clone", "()Ljava/lang/Object;"⟩ ∈ lw_all) (q6 : Cond.castable "[B" "java/lang/Cloneable" ∈ lw_tbl)
    (hr : r = some a) (hc : zC μ a = 102) (hfit : ∀ i, i < zN μ a → fits .byte (.int (zA μ a i)) = true) (hR : 1 ≤ fr ∧ (st.map fun a => if tcat a then 2 else 1).sum + 14 ≤ lo) (h1 : kc + 1 ≤ mc) (h2 : ks + zN μ a ≤ ms) (hd : decode cc pc = .ok (.invokevirtual index, 3))
    (k : ∀ (b : Nat) (μ1 : Mem), b = zS μ → μ1 = zcA (zNew μ 102 (zN μ a)) (zS μ) (zA μ a) → Z w g K mc ms (pc + 3) lv (tR (some b) :: st) μ1 (kc + 1) (ks + zN μ a)) : Z w g K mc ms pc lv (tR r :: st) μ kc ks := by
  intro H locs ls hRp hb hl d e f
  subst hr
  obtain ⟨cs, s1, s2, s4, s5, s6, s7⟩ := zArr hRp (by decide) hc
  obtain ⟨c0, t0', f1, f2, f3⟩ := Cond.castable_spec (C.nw q6 rfl)
  have hnm : (gs g).vm.findClass "[B" = some cs.cls := by rw [s2]; exact va_nm_byte (C.kw.2.1.2 1 _ rfl).2
  cases hnm.symm.trans f1
  intro T hT X
  have hcellT : T.heap[a]? = some cs := by rw [hT]; exact s1
  have hA := zIsArr C s2 s5 (t0 := 1) (ty := .byte) rfl
  obtain ⟨-, kA, hkA, comp, hkind⟩ := State.isArrayOf_alike X.warmed.alike hA
  obtain ⟨-, kS, hkS, compS, hkindS⟩ := hA
  obtain ⟨vm', X', st1⟩ := X.cloneArray C.1 C.own (C.ts _ q1) (C.ts _ q2) (C.ts _ q3) (C.ts _ q4) (C.ts _ q5) (a := a) (cell := cs) hcellT (fun k h => by rw [h] at s5; cases s5) s4 hnm f2 f3
    (fun i v hv => by
      have hi : i < cs.slots.size := (Array.getElem?_eq_some_iff.mp hv).1
      have hv2 := s7 i (by rw [← s6]; exact hi)
      rw [hv] at hv2
      have hv3 : v = .int (zA μ a i) := Option.some.inj hv2
      have hk' : T.vm.classes[cs.cls]? = some kA := hkA
      simpa [State.fitsSlot, State.slotType?, hk', hkind, hv3] using hfit i (by rw [← s6]; exact hi))
    (g := F0 (gm g) pc ls (.ref a :: st.map tv)) rfl (by rw [C.2.2.1]; exact (d.1.trans C.2.2.1)) rfl (by rw [C.2.1]; exact hd) (by show 1 ≤ gf g; rw [C.2.2.2.2.2.2.2.2.2.2.2.1]; exact hR.1) (by show 2 * 0 + _ + 14 ≤ gl g; rw [zSum, C.2.2.2.2.2.2.2.2.2.2.2.2]; have := hR.2; omega) h1 (by rw [s6]; exact h2) (hloader := Vm.clonesLoader_of_array hkS hkindS)
  rw [s6] at X'
  generalize hH1 : H.push ({ cls := cs.cls, slots := cs.slots } : Cell) = H1
  have z1 : H1.size = H.size + 1 := by rw [← hH1, Array.size_push]
  have e1 : H1[H.size]? = some ({ cls := cs.cls, slots := cs.slots } : Cell) := by rw [← hH1, Array.getElem?_push_size]
  have o1 : ∀ q : Nat, q < H.size → H1[q]? = H[q]? := fun q hq => by rw [← hH1, Array.getElem?_push, if_neg (Nat.ne_of_lt hq)]
  have hne : a ≠ zS μ := Nat.ne_of_lt (hRp.lt (by rw [hc]; decide))
  have hnew : Rep w (zcA (zNew μ 102 (zN μ a)) (zS μ) (zA μ a)) H1 := by
    obtain ⟨a1, a2, a3, a4, a5⟩ := hRp
    refine ⟨by rw [z1, a1]; rfl, by omega, fun q hq => by rw [o1 q (by omega)]; exact a3 q hq, fun b hb => ?_, fun b hz => ?_⟩
    · rw [zC_zcA, zC_zNew] at hb ⊢
      split at hb
      · rename_i z; rw [if_pos z]; exact ⟨by decide, fun h => by cases h⟩
      · rename_i z; rw [if_neg z]; exact a4 b hb
    · rw [zC_zcA, zC_zNew] at hz ⊢
      by_cases hb : b = zS μ
      · subst hb
        rw [if_pos rfl]
        refine ⟨({ cls := cs.cls, slots := cs.slots } : Cell), (by rw [← a1]; exact e1), s2, (fun _ => rfl), (fun h => (by cases h)), rfl, (fun h => absurd h (by decide)), fun _ => ⟨?_, fun j hj => ?_⟩⟩
        · rw [zN_zcA, zN_zNew, if_pos rfl]; exact s6
        · rw [zN_zcA, zN_zNew, if_pos rfl] at hj
          rw [zav_cA, if_neg (by decide), if_neg (by decide), if_neg (by decide), if_pos rfl]
          exact s7 j hj
      · rw [if_neg hb] at hz ⊢
        obtain ⟨cl, b1, b2, b3, b4, b5, b6, b7⟩ := a5 b hz
        refine ⟨cl, by rw [o1 b (Array.getElem?_eq_some_iff.mp b1).1]; exact b1, b2, b3, b4, b5, ?_, ?_⟩
        · intro h0
          refine ⟨(b6 h0).1, fun k hk => ?_⟩
          rw [(b6 h0).2 k hk]
          unfold zfv
          split <;> simp [zI_zNew, zR_zNew, zI_zcA, zR_zcA, hb]
        · intro h0
          obtain ⟨c1, c2⟩ := b7 h0
          refine ⟨by rw [zN_zcA, zN_zNew, if_neg hb]; exact c1, fun j hj => ?_⟩
          rw [zN_zcA, zN_zNew, if_neg hb] at hj
          rw [c2 j hj, zav_cA, if_neg hb]
          unfold zav
          simp [zA_zNew, zQ_zNew, zJ_zNew, zD_zNew, hb]
  obtain ⟨t, b1, b2⟩ := k (zS μ) _ rfl rfl H1 locs ls hnew (by omega) hl d h1 h2 ((T.setVm vm').pushCell ({ cls := cs.cls, slots := cs.slots } : Cell)) (by rw [← hH1, ← hT]; rfl) X'
  refine ⟨t, st1 t ?_, b2⟩
  have hsz : T.heap.size = zS μ := by rw [hT]; exact hRp.1
  rw [hsz]
  exact b1
theorem z_getClass (C : Cx w g y cc nL ret hh fr lo) {index k0 a : Nat} {q : vw_C} {r : Option Nat} (hz : zmir[k0]? = some q.1) (q1 : Cond.methodLink y.cls index ⟨"java/lang/Object", "getClass", "()Ljava/lang/Class;"⟩ ∈ lw_all) (q2 : Cond.selects q.1 ⟨"java/lang/Object", "getClass", "()Ljava/lang/Class;"⟩ ⟨"java/lang/Object", "getClass", "()Ljava/lang/Class;"⟩ ∈ lw_all) (q3 : Cond.instanceMethod ⟨"java/lang/Object", "getClass", "()Ljava/lang/Class;"⟩ ∈ lw_all) (q4 : Cond.native ⟨"java/lang/Object", "getClass", "()Ljava/lang/Class;"⟩ ∈ lw_all)
    (hr : r = some a) (h0 : zC μ a ≠ 0) (hc : zcl[zC μ a]? = some q) (hR : 1 ≤ fr ∧ (st.map fun a => if tcat a then 2 else 1).sum + 14 ≤ lo) (hd : decode cc pc = .ok (.invokevirtual index, 3)) (k : Z w g K mc ms (pc + 3) lv (tR (some (zMi w k0)) :: st) μ kc ks) : Z w g K mc ms pc lv (tR r :: st) μ kc ks := by
  intro H locs ls hRp hb hl d e f
  subst hr
  exact va_getC C.1 C.2.1 d.1.symm C.own (C.ts _ q1) (va_Dc.use C.kw.2.2.2.2.2.2.2.2.2.1) (C.ts _ q2) (C.ts _ q3) (C.ts _ q4) (C.kw.2.2.2.2.2.2.2.2.1 k0 q.1 hz) (zRecv C hRp h0 rfl hc) (by show 1 ≤ gf g; rw [C.2.2.2.2.2.2.2.2.2.2.2.1]; exact hR.1) (by show _ ≤ gl g; rw [zSum, C.2.2.2.2.2.2.2.2.2.2.2.2]; exact hR.2) hd (k H locs ls hRp hb hl d e f)
theorem zDecl1 (C : Cx w g y cc nL ret hh fr lo) {x : MethodName} {b : ByteArray} {m : Nat} {r : Option FieldType} (hi : Cond.instanceMethod x ∈ lw_all) (hc : Cond.code x b m r ∈ lw_all) : va_Decl (gs g) x := va_Decl.of (C.ts _ hi) (C.ts _ hc)
theorem zDecl2 (C : Cx w g y cc nL ret hh fr lo) {x : MethodName} (hi : Cond.declares x ∈ lw_tbl) : va_Decl (gs g) x := Cond.declares_spec (C.nw hi rfl)
variable {y1 x1 : MethodName} {b1 : ByteArray} {L1 n1 fr1 lo1 index mc1 ms1 : Nat} {r1 : Option FieldType} {hh1 : List (Nat × Nat × Nat × Nat)} {K1 : Out → Mem → Prop} {as rest : List TV} {r : Option Nat} {b ci : Nat} {q0 : vw_C}
/-- virtual, through a reference to another class's method: inherited, or overridden -/
theorem z_callU2 (C : Cx w g y cc nL ret hh fr lo) {owner : String} (hM : Tr w y1 (ws_ y1 b1 L1 r1) fr1 lo1 (tR (some b) :: as) μ mc1 ms1 K1) (hs : st = as.reverse ++ tR r :: rest) (hr : r = some b) (h0 : ci ≠ 0) (hc : zC μ b = ci) (hz : zcl[ci]? = some q0)
    (hdecl : va_Decl (gs g) ⟨owner, x1.name, x1.desc⟩) (q1 : Cond.methodLink y.cls index x1 ∈ lw_all) (q6 : Cond.sameMethod x1.cls owner x1.name x1.desc ∈ lw_all) (q2 : Cond.instanceMethod y1 ∈ lw_all) (q5 : Cond.selects q0.1 x1 y1 ∈ lw_all) (q3 : Cond.initialized y1.cls ∈ lw_all) (q4 : Cond.code y1 b1 L1 r1 ∈ lw_all) (hmh : owner ≠ "java/lang/invoke/MethodHandle" ∧ owner ≠ "java/lang/invoke/VarHandle")
    (hd1 : x1.cls ≠ "java/lang/invoke/MethodHandle" ∧ x1.cls ≠ "java/lang/invoke/VarHandle" ∧ (parseMethodDescriptor x1.desc).map (fun d => d.parameters.length) = some as.length) (hRm : fr1 + 1 ≤ fr ∧ 8 + (L1 + 11) + lo1 ≤ lo) (hW : (rest.map fun a => if tcat a then 2 else 1).sum ≤ 8) (hd : decode cc pc = .ok (.invokevirtual index, 3)) (h1 : kc + mc1 ≤ mc) (h2 : ks + ms1 ≤ ms)
    (kr : zRet w g K mc ms (pc + 3) lv rest (kc + mc1) (ks + ms1) K1) (kx : zThr w g K mc ms pc lv (kc + mc1) (ks + ms1) K1) : Z w g K mc ms pc lv st μ kc ks := by
  subst hs; subst hr
  refine z_run (a := ((tR (some b) :: as).map tv).toArray) (fun H locs ls hR hb d => ?_) h1 h2 kr kx
  have hG : GoodIn lw_all (ws_ y1 b1 L1 r1) := lw_meth q4
  refine vx_runU (owner := owner) (x := x1) C.fix hM ⟨⟨rfl, rfl, (zRooms C hRm).1, (zRooms C hRm).2, pay_in C.ts hG, List.mem_cons_self⟩, C.ts _ q4, C.ts _ q3, hmh, fun sig h => ?_, C.ts _ q1, C.ts _ q6, hdecl, C.ts _ q5, C.ts _ q2⟩ (zPreV C hR h0 hc hz) rfl (zLen rfl) (d.1.trans C.2.2.1) (zStk as rest b) (zRm hW) hd ⟨h1, h2⟩
  have h2 := hd1.2.2
  rw [h] at h2
  exact (Option.some.inj h2).symm
theorem zSUw {own : String} {idx : Nat} (q1 : Cond.methodLink own idx y1 ∈ lw_all) (q2 : Cond.sameMethod y1.cls y1.cls y1.name y1.desc ∈ lw_all) (q3 : Cond.superclass own y1.cls ∈ lw_all) (q4 : Cond.instanceMethod y1 ∈ lw_all) (q5 : Cond.initialized y1.cls ∈ lw_all) (q6 : Cond.code y1 b1 L1 r1 ∈ lw_all) : ∀ c ∈ va_wsSU own idx y1 (ws_ y1 b1 L1 r1), c ∈ lw_all := by
  intro c hc
  unfold va_wsSU at hc
  rcases List.mem_append.mp hc with h | h
  · simp only [List.mem_cons, List.not_mem_nil, or_false] at h
    rcases h with rfl | rfl | rfl | rfl | rfl
    · exact q1
    · exact q2
    · exact q3
    · exact q4
    · exact q5
  · rcases List.mem_cons.mp h with rfl | h
    · exact q6
    · exact h
end ZR2
