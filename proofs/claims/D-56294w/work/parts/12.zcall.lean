/-! Calls: from a callee's triple to the caller's Z. -/
set_option maxRecDepth 100000
section ZC
variable {w : WT} {g : GT} {y : MethodName} {cc : ByteArray} {nL : Nat} {ret : Option FieldType} {hh : List (Nat × Nat × Nat × Nat)} {fr lo : Nat} {K : Out → Mem → Prop} {mc ms pc : Nat} {lv : List (Nat × TV)} {st : List TV} {μ : Mem} {kc ks : Nat}
theorem zSum (st : List TV) : ((st.map tv).map fun v => v.category).sum = (st.map fun a => if tcat a then 2 else 1).sum := by
  induction st with
  | nil => rfl
  | cons a t ih =>
    have h := tv_cat a
    simp only [List.map_cons, List.sum_cons, ih]
    congr 1
    rcases lv_cat (tv a) with q | q <;> rw [q] at h ⊢ <;> cases ht : tcat a <;> simp [ht] at h ⊢
def zRet (w : WT) (g : GT) (K : Out → Mem → Prop) (mc ms pc2 : Nat) (lv : List (Nat × TV)) (rest : List TV) (kc ks : Nat) (K1 : Out → Mem → Prop) : Prop := ∀ (v : Option TV) (μ1 : Mem), K1 (.inl v) μ1 → Z w g K mc ms pc2 lv (v.toList ++ rest) μ1 kc ks
def zThr (w : WT) (g : GT) (K : Out → Mem → Prop) (mc ms pc : Nat) (lv : List (Nat × TV)) (kc ks : Nat) (K1 : Out → Mem → Prop) : Prop := ∀ (q : Nat) (μ1 : Mem), K1 (.inr q) μ1 → zC μ1 q ≠ 0 → zC μ1 q < 100 → zFz (zC μ1 q) = true → (∃ r, zcl[zC μ1 q]? = some r) → ZX w g K mc ms pc lv q μ1 kc ks
theorem zMapTo (v : Option TV) (rest : List TV) : (v.map tv).toList ++ rest.map tv = (v.toList ++ rest).map tv := by cases v <;> rfl
theorem z_run {rest st0 : List TV} {mc1 ms1 : Nat} {K1 : Out → Mem → Prop} {a : Array Value}
    (hr : ∀ (H : Heap) (locs : List Loc) (ls : Array Slot), Rep w μ H → (gs g).heap.size ≤ H.size → lv_has ls (gc g).maxLocals (lv.map zlv) → vx_Run (gp g) (zL w) (ge g) (gR g mc ms) (gs g) (gm g) (ga g) (gb g) (gh g) (gc g) H locs kc ks mc1 ms1 (F0 (gm g) pc ls (st0.map tv)) (rest.map tv) (zQc w K1 a) (zXC w K1) (fun q => zB w ≤ q))
    (h1 : kc + mc1 ≤ mc) (h2 : ks + ms1 ≤ ms) (kr : zRet w g K mc ms (pc + 3) lv rest (kc + mc1) (ks + ms1) K1) (kx : zThr w g K mc ms pc lv (kc + mc1) (ks + ms1) K1) : Z w g K mc ms pc lv st0 μ kc ks := by
  intro H locs ls hR hb hl d e f T hT X
  rcases hr H locs ls hR hb d T hT X with ⟨v, st₀, t, T', L, h0, X', hL, e1, e2, ⟨v', μ1, hv, hR1, hK1⟩, hst⟩ | ⟨q, st₀, t, T', L, E, ce, h0, X', hL, e1, e2, ⟨μ1, r, hR1, hK1, hlt, hne, hqb, hr0, hE⟩, hce, hcv, hcl, hst⟩
  · cases hv
    have hsz : (gs g).heap.size ≤ T'.heap.size := X'.same.2.1
    obtain ⟨t2, a1, b1⟩ := kr v' μ1 hK1 T'.heap (locs ++ L) ls (by rw [e1]; exact hR1) hsz (fun l hm => by
      rcases List.mem_append.mp hm with z | z
      · exact hl l z
      · exact hL l z) d h1 h2 T' rfl X'
    refine ⟨t2, hst t2 ?_, b1⟩
    rw [zMapTo]; exact a1
  · have hsz : (gs g).heap.size ≤ T'.heap.size := X'.same.2.1
    obtain ⟨t2, a1, b1⟩ := kx q μ1 hK1 hne hlt hqb ⟨r, hr0⟩ T'.heap (locs ++ L) ls (rest.map tv) (by rw [e1]; exact hR1) hsz (fun l hm => by
      rcases List.mem_append.mp hm with z | z
      · exact hl l z
      · exact hL l z) d h1 h2 T' rfl X'
    exact ⟨t2, hst.trans a1, b1⟩
theorem z_run5 {rest st0 : List TV} {mc1 ms1 : Nat} {K1 : Out → Mem → Prop} {a : Array Value}
    (hr : ∀ (H : Heap) (locs : List Loc) (ls : Array Slot), Rep w μ H → (gs g).heap.size ≤ H.size → lv_has ls (gc g).maxLocals (lv.map zlv) → vx_Run5 (gp g) (zL w) (ge g) (gR g mc ms) (gs g) (gm g) (ga g) (gb g) (gh g) (gc g) H locs kc ks mc1 ms1 (F0 (gm g) pc ls (st0.map tv)) (rest.map tv) (zQc w K1 a) (zXC w K1) (fun q => zB w ≤ q))
    (h1 : kc + mc1 ≤ mc) (h2 : ks + ms1 ≤ ms) (kr : zRet w g K mc ms (pc + 5) lv rest (kc + mc1) (ks + ms1) K1) (kx : zThr w g K mc ms pc lv (kc + mc1) (ks + ms1) K1) : Z w g K mc ms pc lv st0 μ kc ks := by
  intro H locs ls hR hb hl d e f T hT X
  rcases hr H locs ls hR hb d T hT X with ⟨v, st₀, t, T', L, h0, X', hL, e1, e2, ⟨v', μ1, hv, hR1, hK1⟩, hst⟩ | ⟨q, st₀, t, T', L, E, ce, h0, X', hL, e1, e2, ⟨μ1, r, hR1, hK1, hlt, hne, hqb, hr0, hE⟩, hce, hcv, hcl, hst⟩
  · cases hv
    have hsz : (gs g).heap.size ≤ T'.heap.size := X'.same.2.1
    obtain ⟨t2, a1, b1⟩ := kr v' μ1 hK1 T'.heap (locs ++ L) ls (by rw [e1]; exact hR1) hsz (fun l hm => by
      rcases List.mem_append.mp hm with z | z
      · exact hl l z
      · exact hL l z) d h1 h2 T' rfl X'
    refine ⟨t2, hst t2 ?_, b1⟩
    rw [zMapTo]; exact a1
  · have hsz : (gs g).heap.size ≤ T'.heap.size := X'.same.2.1
    obtain ⟨t2, a1, b1⟩ := kx q μ1 hK1 hne hlt hqb ⟨r, hr0⟩ T'.heap (locs ++ L) ls (rest.map tv) (by rw [e1]; exact hR1) hsz (fun l hm => by
      rcases List.mem_append.mp hm with z | z
      · exact hl l z
      · exact hL l z) d h1 h2 T' rfl X'
    exact ⟨t2, hst.trans a1, b1⟩
-- what every call asks
variable {y1 x1 : MethodName} {b1 : ByteArray} {L1 n1 fr1 lo1 index mc1 ms1 : Nat} {r1 : Option FieldType} {hh1 : List (Nat × Nat × Nat × Nat)} {K1 : Out → Mem → Prop} {as rest : List TV} {r : Option Nat} {b ci : Nat} {q0 : vw_C}
theorem zRooms (C : Cx w g y cc nL ret hh fr lo) (hR : fr1 + 1 ≤ fr ∧ 8 + (L1 + 11) + lo1 ≤ lo) : ({ frames := fr1, cells := mc1, slots := ms1, locals := lo1 } : Room).frames + 1 ≤ (gR g mc ms).frames ∧ 8 + (L1 + 11) + ({ frames := fr1, cells := mc1, slots := ms1, locals := lo1 } : Room).locals ≤ (gR g mc ms).locals := by
  show fr1 + 1 ≤ gf g ∧ 8 + (L1 + 11) + lo1 ≤ gl g
  rw [C.2.2.2.2.2.2.2.2.2.2.2.1, C.2.2.2.2.2.2.2.2.2.2.2.2]; exact hR
theorem zStk (as rest : List TV) (b : Nat) : (as.reverse ++ tR (some b) :: rest).map tv = (as.map tv).reverse ++ Value.ref b :: rest.map tv := by rw [List.map_append, List.map_reverse]; rfl
theorem zStkS (as rest : List TV) : (as.reverse ++ rest).map tv = (as.map tv).reverse ++ rest.map tv := by rw [List.map_append, List.map_reverse]
theorem zLen {n : Nat} (h : as.length = n) : (as.map tv).length = n := by rw [List.length_map]; exact h
theorem zPreS {H : Heap} (C : Cx w g y cc nL ret hh fr lo) (hR : Rep w μ H) : PreS (gs g) H (fun (v : Array Value) (U : State) => v = (as.map tv).toArray ∧ KW w U ∧ Rep w μ U.heap) (as.map tv) :=
  ⟨zBlind, fun U hU hW => ⟨rfl, C.kw.moved hW, by rw [hU]; exact hR⟩⟩
theorem zPreV {H : Heap} (C : Cx w g y cc nL ret hh fr lo) (hR : Rep w μ H) (h0 : ci ≠ 0) (hc : zC μ b = ci) (hz : zcl[ci]? = some q0) : PreV (gs g) H q0.1 b (fun (v : Array Value) (U : State) => v = ((tR (some b) :: as).map tv).toArray ∧ KW w U ∧ Rep w μ U.heap) (as.map tv) :=
  ⟨zBlind, zRecv C hR h0 hc hz, fun U hU hW => ⟨rfl, C.kw.moved hW, by rw [hU]; exact hR⟩⟩
theorem zRm (h : (rest.map fun a => if tcat a then 2 else 1).sum ≤ 8) {ls : Array Slot} {st' : List Value} : 2 * (F0 (gm g) pc ls st').monitorRoom + ((rest.map tv).map fun v => v.category).sum ≤ 8 := by
  rw [zSum]
  show 2 * 0 + _ ≤ 8
  omega
/-- static -/
theorem z_callS (C : Cx w g y cc nL ret hh fr lo) (hM : Tr w y1 (ws_ y1 b1 L1 r1) fr1 lo1 as μ mc1 ms1 K1) (hs : st = as.reverse ++ rest) (q1 : Cond.methodLink y.cls index y1 ∈ lw_all) (q2 : Cond.static y1 ∈ lw_all) (q3 : Cond.initialized y1.cls ∈ lw_all) (q4 : Cond.code y1 b1 L1 r1 ∈ lw_all)
    (hd1 : y1.cls ≠ "java/lang/invoke/MethodHandle" ∧ y1.cls ≠ "java/lang/invoke/VarHandle" ∧ (parseMethodDescriptor y1.desc).map (fun d => d.parameters.length) = some as.length) (hRm : fr1 + 1 ≤ fr ∧ 8 + (L1 + 11) + lo1 ≤ lo) (hW : (rest.map fun a => if tcat a then 2 else 1).sum ≤ 8) (hd : decode cc pc = .ok (.invokestatic index, 3)) (h1 : kc + mc1 ≤ mc) (h2 : ks + ms1 ≤ ms)
    (kr : zRet w g K mc ms (pc + 3) lv rest (kc + mc1) (ks + ms1) K1) (kx : zThr w g K mc ms pc lv (kc + mc1) (ks + ms1) K1) : Z w g K mc ms pc lv st μ kc ks := by
  subst hs
  refine z_run (a := (as.map tv).toArray) (fun H locs ls hR hb d => ?_) h1 h2 kr kx
  have hG : GoodIn lw_all (ws_ y1 b1 L1 r1) := lw_meth q4
  exact vx_runS C.fix hM ⟨callB_of as.length C.ts hG rfl rfl rfl (C.ts _ q3) (C.ts _ q1) hd1 (zRooms C hRm), C.ts _ q2⟩ (zPreS C hR) rfl (zLen rfl) (d.1.trans C.2.2.1) (zStkS as rest) (zRm hW) hd ⟨h1, h2⟩
/-- constructor -/
theorem z_callI (C : Cx w g y cc nL ret hh fr lo) (hM : Tr w y1 (ws_ y1 b1 L1 none) fr1 lo1 (tR (some b) :: as) μ mc1 ms1 K1) (hs : st = as.reverse ++ tR r :: rest) (hr : r = some b) (q1 : Cond.methodLink y.cls index y1 ∈ lw_all) (q2 : Cond.instanceMethod y1 ∈ lw_all) (q3 : Cond.initialized y1.cls ∈ lw_all) (q4 : Cond.code y1 b1 L1 none ∈ lw_all) (hy1 : y1.name = "<init>")
    (hd1 : y1.cls ≠ "java/lang/invoke/MethodHandle" ∧ y1.cls ≠ "java/lang/invoke/VarHandle" ∧ (parseMethodDescriptor y1.desc).map (fun d => d.parameters.length) = some as.length) (hRm : fr1 + 1 ≤ fr ∧ 8 + (L1 + 11) + lo1 ≤ lo) (hW : (rest.map fun a => if tcat a then 2 else 1).sum ≤ 8) (hd : decode cc pc = .ok (.invokespecial index, 3)) (h1 : kc + mc1 ≤ mc) (h2 : ks + ms1 ≤ ms)
    (kr : zRet w g K mc ms (pc + 3) lv rest (kc + mc1) (ks + ms1) K1) (kx : zThr w g K mc ms pc lv (kc + mc1) (ks + ms1) K1) : Z w g K mc ms pc lv st μ kc ks := by
  subst hs; subst hr
  refine z_run (a := ((tR (some b) :: as).map tv).toArray) (fun H locs ls hR hb d => ?_) h1 h2 kr kx
  exact vx_runI C.fix hM ⟨callB_of as.length C.ts (lw_meth q4) rfl rfl rfl (C.ts _ q3) (C.ts _ q1) hd1 (zRooms C hRm), hy1, C.ts _ q2⟩ (zPreS (as := tR (some b) :: as) C hR) rfl (zLen rfl) (d.1.trans C.2.2.1) (zStk as rest b) (zRm hW) hd ⟨h1, h2⟩
/-- constructor of a nest mate, private -/
theorem z_callIN (C : Cx w g y cc nL ret hh fr lo) {host : String} (hM : Tr w y1 (ws_ y1 b1 L1 none) fr1 lo1 (tR (some b) :: as) μ mc1 ms1 K1) (hs : st = as.reverse ++ tR r :: rest) (hr : r = some b) (q1 : Cond.methodLinkNest y.cls index y1 host ∈ lw_tbl) (q2 : Cond.instanceMethod y1 ∈ lw_all) (q3 : Cond.initialized y1.cls ∈ lw_all) (q4 : Cond.code y1 b1 L1 none ∈ lw_all) (hy1 : y1.name = "<init>")
    (hd1 : y1.cls ≠ "java/lang/invoke/MethodHandle" ∧ y1.cls ≠ "java/lang/invoke/VarHandle" ∧ (parseMethodDescriptor y1.desc).map (fun d => d.parameters.length) = some as.length) (hRm : fr1 + 1 ≤ fr ∧ 8 + (L1 + 11) + lo1 ≤ lo) (hW : (rest.map fun a => if tcat a then 2 else 1).sum ≤ 8) (hd : decode cc pc = .ok (.invokespecial index, 3)) (h1 : kc + mc1 ≤ mc) (h2 : ks + ms1 ≤ ms)
    (kr : zRet w g K mc ms (pc + 3) lv rest (kc + mc1) (ks + ms1) K1) (kx : zThr w g K mc ms pc lv (kc + mc1) (ks + ms1) K1) : Z w g K mc ms pc lv st μ kc ks := by
  subst hs; subst hr
  refine z_run (a := ((tR (some b) :: as).map tv).toArray) (fun H locs ls hR hb d => ?_) h1 h2 kr kx
  exact vx_runIN C.fix hM ⟨va_cnB as.length C.ts (lw_meth q4) rfl rfl rfl (C.kw.2.2.1 _ (zNw_mem q1 rfl)) (C.ts _ q3) hd1 (zRooms C hRm), hy1, C.ts _ q2⟩ (zPreS (as := tR (some b) :: as) C hR) rfl (zLen rfl) (d.1.trans C.2.2.1) (zStk as rest b) (zRm hW) hd ⟨h1, h2⟩
/-- static of a nest mate, private -/
theorem z_callSN (C : Cx w g y cc nL ret hh fr lo) {host : String} (hM : Tr w y1 (ws_ y1 b1 L1 r1) fr1 lo1 as μ mc1 ms1 K1) (hs : st = as.reverse ++ rest) (q1 : Cond.methodLinkNest y.cls index y1 host ∈ lw_tbl) (q2 : Cond.static y1 ∈ lw_all) (q3 : Cond.initialized y1.cls ∈ lw_all) (q4 : Cond.code y1 b1 L1 r1 ∈ lw_all)
    (hd1 : y1.cls ≠ "java/lang/invoke/MethodHandle" ∧ y1.cls ≠ "java/lang/invoke/VarHandle" ∧ (parseMethodDescriptor y1.desc).map (fun d => d.parameters.length) = some as.length) (hRm : fr1 + 1 ≤ fr ∧ 8 + (L1 + 11) + lo1 ≤ lo) (hW : (rest.map fun a => if tcat a then 2 else 1).sum ≤ 8) (hd : decode cc pc = .ok (.invokestatic index, 3)) (h1 : kc + mc1 ≤ mc) (h2 : ks + ms1 ≤ ms)
    (kr : zRet w g K mc ms (pc + 3) lv rest (kc + mc1) (ks + ms1) K1) (kx : zThr w g K mc ms pc lv (kc + mc1) (ks + ms1) K1) : Z w g K mc ms pc lv st μ kc ks := by
  subst hs
  refine z_run (a := (as.map tv).toArray) (fun H locs ls hR hb d => ?_) h1 h2 kr kx
  exact vx_runSN C.fix hM ⟨va_cnB as.length C.ts (lw_meth q4) rfl rfl rfl (C.kw.2.2.1 _ (zNw_mem q1 rfl)) (C.ts _ q3) hd1 (zRooms C hRm), C.ts _ q2, trivial⟩ (zPreS C hR) rfl (zLen rfl) (d.1.trans C.2.2.1) (zStkS as rest) (zRm hW) hd ⟨h1, h2⟩
/-- virtual: the class's own method -/
theorem z_callV (C : Cx w g y cc nL ret hh fr lo) (hM : Tr w y1 (ws_ y1 b1 L1 r1) fr1 lo1 (tR (some b) :: as) μ mc1 ms1 K1) (hs : st = as.reverse ++ tR r :: rest) (hr : r = some b) (h0 : ci ≠ 0) (hc : zC μ b = ci) (hz : zcl[ci]? = some q0) (q1 : Cond.methodLink y.cls index y1 ∈ lw_all) (q2 : Cond.instanceMethod y1 ∈ lw_all) (q5 : Cond.selects q0.1 y1 y1 ∈ lw_all) (q3 : Cond.initialized y1.cls ∈ lw_all) (q4 : Cond.code y1 b1 L1 r1 ∈ lw_all)
    (hd1 : y1.cls ≠ "java/lang/invoke/MethodHandle" ∧ y1.cls ≠ "java/lang/invoke/VarHandle" ∧ (parseMethodDescriptor y1.desc).map (fun d => d.parameters.length) = some as.length) (hRm : fr1 + 1 ≤ fr ∧ 8 + (L1 + 11) + lo1 ≤ lo) (hW : (rest.map fun a => if tcat a then 2 else 1).sum ≤ 8) (hd : decode cc pc = .ok (.invokevirtual index, 3)) (h1 : kc + mc1 ≤ mc) (h2 : ks + ms1 ≤ ms)
    (kr : zRet w g K mc ms (pc + 3) lv rest (kc + mc1) (ks + ms1) K1) (kx : zThr w g K mc ms pc lv (kc + mc1) (ks + ms1) K1) : Z w g K mc ms pc lv st μ kc ks := by
  subst hs; subst hr
  refine z_run (a := ((tR (some b) :: as).map tv).toArray) (fun H locs ls hR hb d => ?_) h1 h2 kr kx
  exact vx_runV C.fix hM ⟨callB_of as.length C.ts (lw_meth q4) rfl rfl rfl (C.ts _ q3) (C.ts _ q1) hd1 (zRooms C hRm), C.ts _ q2, C.ts _ q5⟩ (zPreV C hR h0 hc hz) rfl (zLen rfl) (d.1.trans C.2.2.1) (zStk as rest b) (zRm hW) hd ⟨h1, h2⟩
/-- virtual, of a method with handlers -/
theorem z_callVX (C : Cx w g y cc nL ret hh fr lo) (hM : Tr w y1 (wsW_ y1 b1 L1 r1 hh1) fr1 lo1 (tR (some b) :: as) μ mc1 ms1 K1) (hs : st = as.reverse ++ tR r :: rest) (hr : r = some b) (h0 : ci ≠ 0) (hc : zC μ b = ci) (hz : zcl[ci]? = some q0) (q1 : Cond.methodLink y.cls index y1 ∈ lw_all) (q2 : Cond.instanceMethod y1 ∈ lw_all) (q5 : Cond.selects q0.1 y1 y1 ∈ lw_all) (q3 : Cond.initialized q0.1 ∈ lw_all) (q4 : Cond.codeWith y1 b1 L1 r1 hh1 ∈ lw_all)
    (hd1 : y1.cls = q0.1 ∧ y1.cls ≠ "java/lang/invoke/MethodHandle" ∧ y1.cls ≠ "java/lang/invoke/VarHandle" ∧ (parseMethodDescriptor y1.desc).map (fun d => d.parameters.length) = some as.length) (hRm : fr1 + 1 ≤ fr ∧ 8 + (L1 + 11) + lo1 ≤ lo) (hW : (rest.map fun a => if tcat a then 2 else 1).sum ≤ 8) (hd : decode cc pc = .ok (.invokevirtual index, 3)) (h1 : kc + mc1 ≤ mc) (h2 : ks + ms1 ≤ ms)
    (kr : zRet w g K mc ms (pc + 3) lv rest (kc + mc1) (ks + ms1) K1) (kx : zThr w g K mc ms pc lv (kc + mc1) (ks + ms1) K1) : Z w g K mc ms pc lv st μ kc ks := by
  subst hs; subst hr
  refine z_run (a := ((tR (some b) :: as).map tv).toArray) (fun H locs ls hR hb d => ?_) h1 h2 kr kx
  exact vx_runVX C.fix hM (vx_cwVW as.length C.ts (lw_VW q1 q2 q5 q3 q4) rfl rfl rfl hd1 (zRooms C hRm)) (zPreV C hR h0 hc hz) rfl (zLen rfl) (d.1.trans C.2.2.1) (zStk as rest b) (zRm hW) hd ⟨h1, h2⟩
/-- static, of a method with handlers -/
theorem z_callSX (C : Cx w g y cc nL ret hh fr lo) (hM : Tr w y1 (wsW_ y1 b1 L1 r1 hh1) fr1 lo1 as μ mc1 ms1 K1) (hs : st = as.reverse ++ rest) (q1 : Cond.methodLink y.cls index y1 ∈ lw_all) (q2 : Cond.static y1 ∈ lw_all) (q3 : Cond.initialized y1.cls ∈ lw_all) (q4 : Cond.codeWith y1 b1 L1 r1 hh1 ∈ lw_all)
    (hd1 : y1.cls ≠ "java/lang/invoke/MethodHandle" ∧ y1.cls ≠ "java/lang/invoke/VarHandle" ∧ (parseMethodDescriptor y1.desc).map (fun d => d.parameters.length) = some as.length) (hRm : fr1 + 1 ≤ fr ∧ 8 + (L1 + 11) + lo1 ≤ lo) (hW : (rest.map fun a => if tcat a then 2 else 1).sum ≤ 8) (hd : decode cc pc = .ok (.invokestatic index, 3)) (h1 : kc + mc1 ≤ mc) (h2 : ks + ms1 ≤ ms)
    (kr : zRet w g K mc ms (pc + 3) lv rest (kc + mc1) (ks + ms1) K1) (kx : zThr w g K mc ms pc lv (kc + mc1) (ks + ms1) K1) : Z w g K mc ms pc lv st μ kc ks := by
  subst hs
  refine z_run (a := (as.map tv).toArray) (fun H locs ls hR hb d => ?_) h1 h2 kr kx
  exact vx_runSX C.fix hM (vx_cwSW as.length C.ts (lw_SW q1 q2 q3 q4) rfl rfl rfl hd1 (zRooms C hRm)) (zPreS C hR) rfl (zLen rfl) (d.1.trans C.2.2.1) (zStkS as rest) (zRm hW) hd ⟨h1, h2⟩
/-- virtual, through a reference to a super class's method: inherited, or overridden -/
theorem z_callU (C : Cx w g y cc nL ret hh fr lo) {owner : String} (hM : Tr w y1 (ws_ y1 b1 L1 r1) fr1 lo1 (tR (some b) :: as) μ mc1 ms1 K1) (hs : st = as.reverse ++ tR r :: rest) (hr : r = some b) (h0 : ci ≠ 0) (hc : zC μ b = ci) (hz : zcl[ci]? = some q0)
    (hcw : ∀ s args, (∀ c ∈ lw_all, c.before args s = true) → ∀ (R : Room) (rm : Room), rm.cells = mc1 → rm.slots = ms1 → rm.frames + 1 ≤ R.frames ∧ 8 + (L1 + 11) + rm.locals ≤ R.locals → va_CU R s args y.cls q0.1 owner index x1 y1 b1 L1 r1 (ws_ y1 b1 L1 r1) rm mc1 ms1 as.length)
    (hRm : fr1 + 1 ≤ fr ∧ 8 + (L1 + 11) + lo1 ≤ lo) (hW : (rest.map fun a => if tcat a then 2 else 1).sum ≤ 8) (hd : decode cc pc = .ok (.invokevirtual index, 3)) (h1 : kc + mc1 ≤ mc) (h2 : ks + ms1 ≤ ms)
    (kr : zRet w g K mc ms (pc + 3) lv rest (kc + mc1) (ks + ms1) K1) (kx : zThr w g K mc ms pc lv (kc + mc1) (ks + ms1) K1) : Z w g K mc ms pc lv st μ kc ks := by
  subst hs; subst hr
  refine z_run (a := ((tR (some b) :: as).map tv).toArray) (fun H locs ls hR hb d => ?_) h1 h2 kr kx
  exact vx_runU C.fix hM (hcw _ _ C.ts _ _ rfl rfl (zRooms C hRm)) (zPreV C hR h0 hc hz) rfl (zLen rfl) (d.1.trans C.2.2.1) (zStk as rest b) (zRm hW) hd ⟨h1, h2⟩
/-- invokespecial of a super class's method -/
theorem z_callSU (C : Cx w g y cc nL ret hh fr lo) (hM : Tr w y1 (ws_ y1 b1 L1 r1) fr1 lo1 (tR (some b) :: as) μ mc1 ms1 K1) (hs : st = as.reverse ++ tR r :: rest) (hr : r = some b) (h0 : ci ≠ 0) (hc : zC μ b = ci) (hz : zcl[ci]? = some q0)
    (hG : ∀ c ∈ va_wsSU y.cls index y1 (ws_ y1 b1 L1 r1), c ∈ lw_all)
    (hd1 : y1.name ≠ "<init>" ∧ (parseMethodDescriptor y1.desc).map (fun d => d.parameters.length) = some as.length) (hRm : fr1 + 1 ≤ fr ∧ 8 + (L1 + 11) + lo1 ≤ lo) (hW : (rest.map fun a => if tcat a then 2 else 1).sum ≤ 8) (hd : decode cc pc = .ok (.invokespecial index, 3)) (h1 : kc + mc1 ≤ mc) (h2 : ks + ms1 ≤ ms)
    (kr : zRet w g K mc ms (pc + 3) lv rest (kc + mc1) (ks + ms1) K1) (kx : zThr w g K mc ms pc lv (kc + mc1) (ks + ms1) K1) : Z w g K mc ms pc lv st μ kc ks := by
  subst hs; subst hr
  refine z_run (a := ((tR (some b) :: as).map tv).toArray) (fun H locs ls hR hb d => ?_) h1 h2 kr kx
  exact vx_runSU (C.kw.2.1.1 ci q0 hz).2 C.fix hM (va_cwSU as.length C.ts (lw_good hG) rfl rfl rfl hd1 (zRooms C hRm)) (zPreV C hR h0 hc hz) rfl (zLen rfl) (d.1.trans C.2.2.1) (zStk as rest b) (zRm hW) hd ⟨h1, h2⟩
/-- interface -/
theorem z_callF (C : Cx w g y cc nL ret hh fr lo) {count : Nat} (hM : Tr w y1 (ws_ y1 b1 L1 r1) fr1 lo1 (tR (some b) :: as) μ mc1 ms1 K1) (hs : st = as.reverse ++ tR r :: rest) (hr : r = some b) (h0 : ci ≠ 0) (hc : zC μ b = ci) (hz : zcl[ci]? = some q0) (hF : (q0.1, x1, y1) ∈ zfw) (q1 : Cond.methodLink y.cls index x1 ∈ lw_all) (q2 : Cond.instanceMethod y1 ∈ lw_all) (q5 : Cond.selects q0.1 x1 y1 ∈ lw_all) (q3 : Cond.initialized y1.cls ∈ lw_all) (q4 : Cond.code y1 b1 L1 r1 ∈ lw_all)
    (hd1 : x1.cls ≠ "java/lang/invoke/MethodHandle" ∧ x1.cls ≠ "java/lang/invoke/VarHandle" ∧ (parseMethodDescriptor x1.desc).map (fun d => d.parameters.length) = some as.length) (hRm : fr1 + 1 ≤ fr ∧ 8 + (L1 + 11) + lo1 ≤ lo) (hW : (rest.map fun a => if tcat a then 2 else 1).sum ≤ 8) (hd : decode cc pc = .ok (.invokeinterface index count, 5)) (h1 : kc + mc1 ≤ mc) (h2 : ks + ms1 ≤ ms)
    (kr : zRet w g K mc ms (pc + 5) lv rest (kc + mc1) (ks + ms1) K1) (kx : zThr w g K mc ms pc lv (kc + mc1) (ks + ms1) K1) : Z w g K mc ms pc lv st μ kc ks := by
  subst hs; subst hr
  refine z_run5 (a := ((tR (some b) :: as).map tv).toArray) (fun H locs ls hR hb d => ?_) h1 h2 kr kx
  have hG : GoodIn lw_all (va_wsF y.cls index q0.1 x1 y1 (ws_ y1 b1 L1 r1)) := lw_app (fun c hc => by
    simp only [List.mem_cons, List.not_mem_nil, or_false] at hc
    rcases hc with rfl | rfl | rfl | rfl
    · exact q1
    · exact q5
    · exact q2
    · exact q3) (lw_meth q4)
  exact vx_runF (C.kw.2.1.1 ci q0 hz).2 C.fix hM (va_cwF as.length C.ts hG rfl rfl rfl (C.kw.2.2.2.1 _ hF) hd1 (zRooms C hRm)) (zPreV C hR h0 hc hz) rfl (zLen rfl) (d.1.trans C.2.2.1) (zStk as rest b) (zRm hW) hd ⟨h1, h2⟩
-- what the caller takes of an answer: by its type; and of a throw
def zKi (f : Int32 → Mem → Prop) (x : Nat → Mem → Prop) : Out → Mem → Prop := fun o μ => match o with
  | .inl (some (.inl v)) => f v μ
  | .inr q => x q μ
  | _ => False
def zKr (f : Option Nat → Mem → Prop) (x : Nat → Mem → Prop) : Out → Mem → Prop := fun o μ => match o with
  | .inl (some (.inr (.inl v))) => f v μ
  | .inr q => x q μ
  | _ => False
def zKv (f : Mem → Prop) (x : Nat → Mem → Prop) : Out → Mem → Prop := fun o μ => match o with
  | .inl none => f μ
  | .inr q => x q μ
  | _ => False
def zKl (f : Int64 → Mem → Prop) (x : Nat → Mem → Prop) : Out → Mem → Prop := fun o μ => match o with
  | .inl (some (.inr (.inr (.inl v)))) => f v μ
  | .inr q => x q μ
  | _ => False
def zKd (f : UInt64 → Mem → Prop) (x : Nat → Mem → Prop) : Out → Mem → Prop := fun o μ => match o with
  | .inl (some (.inr (.inr (.inr (.inl v))))) => f v μ
  | .inr q => x q μ
  | _ => False
def zKf (f : UInt32 → Mem → Prop) (x : Nat → Mem → Prop) : Out → Mem → Prop := fun o μ => match o with
  | .inl (some (.inr (.inr (.inr (.inr v))))) => f v μ
  | .inr q => x q μ
  | _ => False
theorem zKi_r {f : Int32 → Mem → Prop} {x : Nat → Mem → Prop} {v : Int32} : zKi f x (.inl (some (tI v))) μ = f v μ := rfl
theorem zKi_x {f : Int32 → Mem → Prop} {x : Nat → Mem → Prop} {q : Nat} : zKi f x (.inr q) μ = x q μ := rfl
theorem zKr_r {f : Option Nat → Mem → Prop} {x : Nat → Mem → Prop} {v : Option Nat} : zKr f x (.inl (some (tR v))) μ = f v μ := rfl
theorem zKr_x {f : Option Nat → Mem → Prop} {x : Nat → Mem → Prop} {q : Nat} : zKr f x (.inr q) μ = x q μ := rfl
theorem zKv_r {f : Mem → Prop} {x : Nat → Mem → Prop} : zKv f x (.inl none) μ = f μ := rfl
theorem zKv_x {f : Mem → Prop} {x : Nat → Mem → Prop} {q : Nat} : zKv f x (.inr q) μ = x q μ := rfl
theorem zRet_i {pc2 : Nat} {f : Int32 → Mem → Prop} {x : Nat → Mem → Prop} (k : ∀ v μ1, f v μ1 → Z w g K mc ms pc2 lv (tI v :: rest) μ1 kc ks) : zRet w g K mc ms pc2 lv rest kc ks (zKi f x) := by
  intro v μ1 h
  rcases v with _ | v
  · exact h.elim
  · rcases v with v | v
    · exact k v μ1 h
    · exact h.elim
theorem zRet_r {pc2 : Nat} {f : Option Nat → Mem → Prop} {x : Nat → Mem → Prop} (k : ∀ v μ1, f v μ1 → Z w g K mc ms pc2 lv (tR v :: rest) μ1 kc ks) : zRet w g K mc ms pc2 lv rest kc ks (zKr f x) := by
  intro v μ1 h
  rcases v with _ | v
  · exact h.elim
  · rcases v with v | v | v
    · exact h.elim
    · exact k v μ1 h
    · exact h.elim
theorem zRet_v {pc2 : Nat} {f : Mem → Prop} {x : Nat → Mem → Prop} (k : ∀ μ1, f μ1 → Z w g K mc ms pc2 lv rest μ1 kc ks) : zRet w g K mc ms pc2 lv rest kc ks (zKv f x) := by
  intro v μ1 h
  rcases v with _ | v
  · exact k μ1 h
  · exact h.elim
theorem zRet_d {pc2 : Nat} {f : UInt64 → Mem → Prop} {x : Nat → Mem → Prop} (k : ∀ v μ1, f v μ1 → Z w g K mc ms pc2 lv (tD v :: rest) μ1 kc ks) : zRet w g K mc ms pc2 lv rest kc ks (zKd f x) := by
  intro v μ1 h
  rcases v with _ | v
  · exact h.elim
  · rcases v with v | v | v | v | v <;> first | exact k v μ1 h | exact h.elim
theorem zRet_f {pc2 : Nat} {f : UInt32 → Mem → Prop} {x : Nat → Mem → Prop} (k : ∀ v μ1, f v μ1 → Z w g K mc ms pc2 lv (tF v :: rest) μ1 kc ks) : zRet w g K mc ms pc2 lv rest kc ks (zKf f x) := by
  intro v μ1 h
  rcases v with _ | v
  · exact h.elim
  · rcases v with v | v | v | v | v <;> first | exact k v μ1 h | exact h.elim
theorem zRet_l {pc2 : Nat} {f : Int64 → Mem → Prop} {x : Nat → Mem → Prop} (k : ∀ v μ1, f v μ1 → Z w g K mc ms pc2 lv (tL v :: rest) μ1 kc ks) : zRet w g K mc ms pc2 lv rest kc ks (zKl f x) := by
  intro v μ1 h
  rcases v with _ | v
  · exact h.elim
  · rcases v with v | v | v | v | v <;> first | exact k v μ1 h | exact h.elim
theorem zThr_i {f : Int32 → Mem → Prop} {x : Nat → Mem → Prop} (k : ∀ q μ1, x q μ1 → zC μ1 q ≠ 0 → zC μ1 q < 100 → zFz (zC μ1 q) = true → (∃ r, zcl[zC μ1 q]? = some r) → ZX w g K mc ms pc lv q μ1 kc ks) : zThr w g K mc ms pc lv kc ks (zKi f x) := k
theorem zThr_r {f : Option Nat → Mem → Prop} {x : Nat → Mem → Prop} (k : ∀ q μ1, x q μ1 → zC μ1 q ≠ 0 → zC μ1 q < 100 → zFz (zC μ1 q) = true → (∃ r, zcl[zC μ1 q]? = some r) → ZX w g K mc ms pc lv q μ1 kc ks) : zThr w g K mc ms pc lv kc ks (zKr f x) := k
theorem zThr_v {f : Mem → Prop} {x : Nat → Mem → Prop} (k : ∀ q μ1, x q μ1 → zC μ1 q ≠ 0 → zC μ1 q < 100 → zFz (zC μ1 q) = true → (∃ r, zcl[zC μ1 q]? = some r) → ZX w g K mc ms pc lv q μ1 kc ks) : zThr w g K mc ms pc lv kc ks (zKv f x) := k
theorem zThr_d {f : UInt64 → Mem → Prop} {x : Nat → Mem → Prop} (k : ∀ q μ1, x q μ1 → zC μ1 q ≠ 0 → zC μ1 q < 100 → zFz (zC μ1 q) = true → (∃ r, zcl[zC μ1 q]? = some r) → ZX w g K mc ms pc lv q μ1 kc ks) : zThr w g K mc ms pc lv kc ks (zKd f x) := k
theorem zThr_f {f : UInt32 → Mem → Prop} {x : Nat → Mem → Prop} (k : ∀ q μ1, x q μ1 → zC μ1 q ≠ 0 → zC μ1 q < 100 → zFz (zC μ1 q) = true → (∃ r, zcl[zC μ1 q]? = some r) → ZX w g K mc ms pc lv q μ1 kc ks) : zThr w g K mc ms pc lv kc ks (zKf f x) := k
theorem zThr_l {f : Int64 → Mem → Prop} {x : Nat → Mem → Prop} (k : ∀ q μ1, x q μ1 → zC μ1 q ≠ 0 → zC μ1 q < 100 → zFz (zC μ1 q) = true → (∃ r, zcl[zC μ1 q]? = some r) → ZX w g K mc ms pc lv q μ1 kc ks) : zThr w g K mc ms pc lv kc ks (zKl f x) := k
end ZC
