/-! Rows of the layer that read or write the heap, make cells, return. -/
set_option maxRecDepth 100000
section ZH
variable {w : WT} {g : GT} {y : MethodName} {cc : ByteArray} {nL : Nat} {ret : Option FieldType} {hh : List (Nat × Nat × Nat × Nat)} {fr lo : Nat} {K : Out → Mem → Prop} {mc ms pc : Nat} {lv : List (Nat × TV)} {st : List TV} {μ : Mem} {kc ks : Nat}
theorem Cx.kw (C : Cx w g y cc nL ret hh fr lo) : KW w (gs g) := C.2.2.2.2.2.2.2.2.1
theorem Cx.ts (C : Cx w g y cc nL ret hh fr lo) : ∀ c ∈ lw_all, c.before (ga g) (gs g) = true := C.2.2.2.2.2.2.1
theorem Cx.own (C : Cx w g y cc nL ret hh fr lo) : (gs g).vm.findClass y.cls = some (gm g).cls := C.2.2.2.2.2.1
theorem Cx.nw (C : Cx w g y cc nL ret hh fr lo) {c : Cond} (h : c ∈ lw_tbl) (hk : zNwk c = true) : c.before (ga g) (gs g) = true := va_Nw.use (zNwk_tab hk) (C.kw.2.2.1 c (zNw_mem h hk))
theorem Cx.old (C : Cx w g y cc nL ret hh fr lo) {H : Heap} (hR : Rep w μ H) : va_S (fun q => zB w ≤ q) (gs g).heap H [] ∨ True := Or.inr trivial
theorem Cx.fix (C : Cx w g y cc nL ret hh fr lo) : CallFix (gp g) (gm g) (gc g) cc nL (gs g) (ga g) lw_all y.cls := ⟨C.1, C.2.1, C.2.2.1, C.own, C.ts⟩
theorem Cx.vaS (C : Cx w g y cc nL ret hh fr lo) {H : Heap} {locs : List Loc} (hR : Rep w μ H) (b : (gs g).heap.size ≤ H.size) (hl : ∀ l ∈ locs, zB w ≤ l.base) : va_S (fun q => zB w ≤ q) (gs g).heap H locs := by
  obtain ⟨h1, h2⟩ := C.2.2.2.2.2.2.2.2.2.1
  refine ⟨b, fun q _ hq => ?_, hl⟩
  have hq' : q < zB w := Nat.not_le.mp hq
  rw [h2 q hq', hR.2.2.1 q hq']
theorem Cx.vaS0 (C : Cx w g y cc nL ret hh fr lo) : ∀ q, q < (zH0 w).size → ¬ zB w ≤ q → (gs g).heap[q]? = (zH0 w)[q]? := fun q _ hq => C.2.2.2.2.2.2.2.2.2.1.2 q (Nat.not_le.mp hq)
/-- a field of the class's objects, by the method's reference to it -/
def zLk (own : String) (index : Nat) (ref n d : String) : Prop := Cond.fieldLink own index ref n d ∈ lw_all ∨ ∃ host, Cond.fieldLinkNest own index ref n d host ∈ lw_tbl
def zSm (ref o n d : String) : Prop := ref = o ∨ Cond.sameField ref o n d ∈ lw_all
def zFd (own : String) (index g0 : Nat) (b : Bool) (ci : Nat) : Prop := ∃ (k : Nat) (CN : String) (T : u_T) (N : Nat) (ty : Nat → FieldType) (ref : String), zCls ci CN T N ty ∧ (zFl ci)[k]? = some (g0, b) ∧ zLk own index ref (T k).2.1 (T k).2.2.1 ∧ zSm ref (T k).1 (T k).2.1 (T k).2.2.1
def zFp (yy : MethodName) (index g0 : Nat) (b : Bool) (t : FieldType) (ci : Nat) : Prop := ∃ (k : Nat) (CN : String) (T : u_T) (N : Nat) (ty : Nat → FieldType) (ref : String), zCls ci CN T N ty ∧ (zFl ci)[k]? = some (g0, b) ∧ zLk yy.cls index ref (T k).2.1 (T k).2.2.1 ∧ zSm ref (T k).1 (T k).2.1 (T k).2.2.1 ∧ ty k = t ∧ ((T k).2.2.2 = false ∨ ((T k).2.2.2 = true ∧ yy.name = "<init>" ∧ (T k).1 = yy.cls ∧ Cond.fieldLink yy.cls index ref (T k).2.1 (T k).2.2.1 ∈ lw_all))
theorem zSm.use {ref o n d : String} (h : zSm ref o n d) (hts : ∀ c ∈ lw_all, c.before (ga g) (gs g) = true) : ∀ x, (gs g).fieldFound? o n d = some x → (gs g).fieldFound? ref n d = some x := by
  intro x hx
  rcases h with rfl | h
  · exact hx
  · exact u_same (hts _ h) x hx
theorem zCls.lt {ci : Nat} {CN : String} {T : u_T} {N : Nat} {ty : Nat → FieldType} (h : zCls ci CN T N ty) {k : Nat} {q : Nat × Bool} (hf : (zFl ci)[k]? = some q) : k < N := by
  rw [← h.2.2.2.1]
  exact (List.getElem?_eq_some_iff.mp hf).1
theorem zCell {ci : Nat} {H : Heap} {a : Nat} (hR : Rep w μ H) (h0 : ci ≠ 0) (hc : zC μ a = ci) : ∃ cell : Cell, H[a]? = some cell ∧ cell.cls = (zG w).1 ci ∧ (zB w ≤ a → cell.vm = .none) ∧ cell.vm ≠ .unknown ∧ cell.vm.isStatics = false ∧ zPc w μ a ci cell := by
  obtain ⟨-, -, -, -, h⟩ := hR
  have h1 := h a (by rw [hc]; exact h0)
  rw [hc] at h1
  exact h1
theorem zRecv (C : Cx w g y cc nL ret hh fr lo) {ci : Nat} {H : Heap} {a : Nat} {r : vw_C} (hR : Rep w μ H) (h0 : ci ≠ 0) (hc : zC μ a = ci) (hr : zcl[ci]? = some r) : ∃ cell : Cell, H[a]? = some cell ∧ cell.vm.isStatics = false ∧ (gs g).vm.findClass r.1 = some cell.cls := by
  obtain ⟨cell, h1, h2, h3, h4, h5, h6⟩ := zCell hR h0 hc
  exact ⟨cell, h1, h5, by rw [h2]; exact (C.kw.2.1.1 ci r hr).2.1⟩
theorem z_getf (C : Cx w g y cc nL ret hh fr lo) {index g0 : Nat} {b0 : Bool} {a : Nat} {r : Option Nat} (hr : r = some a) (hF : zFd y.cls index g0 b0 (zC μ a)) (hd : decode cc pc = .ok (.getfield index, 3)) {v : TV} (hv : tv v = if b0 then va_rf (zR μ g0 a) else .int (zI μ g0 a)) (k : Z w g K mc ms (pc + 3) lv (v :: st) μ kc ks) : Z w g K mc ms pc lv (tR r :: st) μ kc ks := by
  intro H locs ls hR hb hl d e f
  subst hr
  obtain ⟨k0, CN, T, N, ty, ref, hk, hf, hlk, hsm⟩ := hF
  have hkN := hk.lt hf
  obtain ⟨cell, h1, h2, h3, h4, h5, h6⟩ := zCell hR hk.1 rfl
  obtain ⟨hS, hfc, kC, hkC, hkind⟩ := C.kw.2.1.1 _ _ hk.2.2.1
  obtain ⟨cf, kf, fi, fd, hi, hsl⟩ := hS k0 hkN
  have hst := (u_facts hfc hkC (u_lays C.ts hk.2.2.2.2.1 hkN) hi).1
  have hslot : cell.slots[fd.slot]? = some (tv v) := by
    rw [hsl, (h6.1 hk.2.1).2 k0 (by rw [hk.2.2.2.1]; exact hkN), hv]
    unfold zfv
    rw [hf]
    cases b0 <;> rfl
  have kk := k H locs ls hR hb hl d e f
  rcases hlk with hlk | ⟨host, hlk⟩
  · exact W.getf C.1 C.2.1 C.own (C.ts _ hlk) (hsm.use C.ts _ hi) hst h1 h4 hslot rfl rfl hd kk
  · exact va_Wgetf C.1 C.2.1 C.own (C.nw hlk rfl) (hsm.use C.ts _ hi) hst h1 h4 hslot rfl rfl hd kk
theorem z_getI (C : Cx w g y cc nL ret hh fr lo) {index g0 : Nat} {a : Nat} {r : Option Nat} (hr : r = some a) (hF : zFd y.cls index g0 false (zC μ a)) (hd : decode cc pc = .ok (.getfield index, 3)) (k : Z w g K mc ms (pc + 3) lv (tI (zI μ g0 a) :: st) μ kc ks) : Z w g K mc ms pc lv (tR r :: st) μ kc ks := z_getf C hr hF hd rfl k
theorem z_getR (C : Cx w g y cc nL ret hh fr lo) {index g0 : Nat} {a : Nat} {r : Option Nat} (hr : r = some a) (hF : zFd y.cls index g0 true (zC μ a)) (hd : decode cc pc = .ok (.getfield index, 3)) (k : Z w g K mc ms (pc + 3) lv (tR (zR μ g0 a) :: st) μ kc ks) : Z w g K mc ms pc lv (tR r :: st) μ kc ks := z_getf C hr hF hd rfl k
/-- a field written: the memory afterwards differs at that field alone -/
theorem z_putf (C : Cx w g y cc nL ret hh fr lo) {index g0 : Nat} {b0 : Bool} {t : FieldType} {a : Nat} {r : Option Nat} {v : TV} {μ' : Mem} (hr : r = some a) (hF : zFp y index g0 b0 t (zC μ a)) (hb0 : zFz (zC μ a) = true ∨ zB w ≤ a) (hn : narrow t (tv v) = tv v) (hfit : fits t (tv v) = true) (hd : decode cc pc = .ok (.putfield index, 3))
    (e1 : zS μ' = zS μ) (e2 : ∀ b, zC μ' b = zC μ b) (e3 : ∀ b, zN μ' b = zN μ b) (e4 : ∀ b c j, zav μ' b c j = zav μ b c j) (e5 : ∀ b c j, (b ≠ a ∨ (zFl c)[j]? ≠ some (g0, b0)) → zfv μ' b c j = zfv μ b c j) (e6 : ∀ c j, (zFl c)[j]? = some (g0, b0) → zfv μ' a c j = tv v)
    (k : Z w g K mc ms (pc + 3) lv st μ' kc ks) : Z w g K mc ms pc lv (v :: tR r :: st) μ kc ks := by
  intro H locs ls hR hb hl d e f
  subst hr
  obtain ⟨k0, CN, T, N, ty, ref, hk, hf, hlk, hsm, hty, hfin⟩ := hF
  have hkN := hk.lt hf
  obtain ⟨cell, h1, h2, h3, h4, h5, h6⟩ := zCell hR hk.1 rfl
  have hba : zB w ≤ a := by
    rcases hb0 with z | z
    · exact (hR.2.2.2.1 a hk.1).2 z
    · exact z
  obtain ⟨hS, hfc, kC, hkC, hkind⟩ := C.kw.2.1.1 _ _ hk.2.2.1
  have hap := va_apart (D := zG w) (own := y.cls) C.ts hk.2.2.2.2.1 ty hk.2.2.2.2.2.1 hk.2.2.2.2.2.2.1 C.kw.2.1 hk.2.2.1
  obtain ⟨cf, kf, fi, fd, hi, hsl⟩ := hS k0 hkN
  have hlay := C.ts _ (hk.2.2.2.2.1 _ (u_in_lay hkN))
  have hst := (u_facts hfc hkC (u_lays C.ts hk.2.2.2.2.1 hkN) hi).1
  have hdT : parseFieldDescriptor (T k0).2.2.1 = some t := by rw [← hty]; exact hk.2.2.2.2.2.1 k0 hkN
  have hrd : cell.slots[fd.slot]? = some (zfv μ a (zC μ a) k0) := by rw [hsl, (h6.1 hk.2.1).2 k0 (by rw [hk.2.2.2.1]; exact hkN)]
  have hslot : fd.slot < cell.slots.size := (Array.getElem?_eq_some_iff.mp hrd).1
  have fin : ∀ (H' : Heap), H'[a]? = some (cell.setSlot fd.slot (tv v)) → H'.size = H.size → (∀ q, q ≠ a → H'[q]? = H[q]?) → W (gp g) (zL w) (ge g) (gR g mc ms) (gs g) (gm g) (ga g) (gb g) (gh g) (gc g) H' (locs ++ [⟨a, fd.slot⟩]) kc ks (gQ w g K mc ms) (F0 (gm g) (pc + 3) ls (st.map tv)) := by
    intro H' c1 c2 c3
    refine k H' _ ls ?_ (by rw [c2]; exact hb) ?_ d e f
    · refine hR.put (a := a) (cell := cell) (cell' := cell.setSlot fd.slot (tv v)) e1 e2 ?_ hba h1 c1 rfl rfl ?_ c2 c3
      · intro b hne cl hp
        refine ⟨fun hx => ⟨(hp.1 hx).1, fun j hj => ?_⟩, fun hx => ?_⟩
        · rw [e5 b _ j (Or.inl hne)]; exact (hp.1 hx).2 j hj
        · obtain ⟨z1, z2⟩ := hp.2 hx
          exact ⟨by rw [e3]; exact z1, fun j hj => by rw [e4]; exact z2 j (by rw [← e3]; exact hj)⟩
      · intro hp
        refine ⟨fun hx => ⟨fun z => by
          show 6 ≤ (cell.slots.setIfInBounds fd.slot (tv v)).size
          rw [Array.size_setIfInBounds]; exact (hp.1 hx).1 z, fun j hj => ?_⟩, fun hx => absurd hk.2.1 (Nat.not_lt.mpr hx)⟩
        have hjN : j < N := by rw [← hk.2.2.2.1]; exact hj
        show (cell.slots.setIfInBounds fd.slot (tv v))[(zG w).2 (zC μ a) j]? = _
        by_cases hjk : j = k0
        · subst hjk
          rw [← hsl, e6 _ _ hf]
          simp [hslot]
        · have hne : fd.slot ≠ (zG w).2 (zC μ a) j := by rw [hsl]; exact hap k0 j hkN hjN (Ne.symm hjk)
          rw [Array.getElem?_setIfInBounds_ne hne]
          rw [e5 a _ j (Or.inr (fun z => hjk (hk.2.2.2.2.2.2.2.2 j k0 g0 b0 b0 z hf)))]
          exact (hp.1 hx).2 j hj
    · intro l hm
      rcases List.mem_append.mp hm with z | z
      · exact hl l z
      · rw [List.mem_singleton] at z; rw [z]; exact hba
  have hfit6 := u_fits (v := tv v) hfc hkC hkind (u_lays C.ts hk.2.2.2.2.1 hkN) hi hdT hn hfit
  rcases hfin with hfin | ⟨hfin, hin, hdecl, hlf⟩
  · unfold u_lay at hlay
    rw [if_neg (by rw [hfin]; decide)] at hlay
    have h8 := u_store (v := tv v) hfc hkC hkind hlay hi hdT hn hfit
    rcases hlk with hlk | ⟨host, hlk⟩
    · exact W.putK C.1 C.2.1 (f := fd) ⟨C.own, C.ts _ hlk, ⟨_, _, _, hsm.use C.ts _ hi⟩, hst⟩ (by rw [h2]; exact h8) h1 (h3 hba) hslot rfl rfl hd fin
    · exact va_WputK C.1 C.2.1 C.own (C.nw hlk rfl) (hsm.use C.ts _ hi) hst (by rw [h2]; exact h8) h1 (h3 hba) hslot rfl rfl hd fin
  · unfold u_lay at hlay
    rw [if_pos hfin] at hlay
    have hcf : (gm g).cls = cf := by
      obtain ⟨_, _, c', _, _, _, -, -, hf', -, -, -, hown2, -⟩ := Cond.laysFinal_spec hlay
      have e1 : c' = cf := by have := hi.symm.trans hf'; simp at this; exact this.1.symm
      rw [hdecl] at hown2
      rw [← e1]; exact Option.some.inj (C.own.symm.trans hown2)
    exact W.putFinK C.1 C.2.1 C.own (C.ts _ hlf) (hsm.use C.ts _ hi) hst hcf (by rw [C.2.2.2.2.2.2.2.2.2.2.1]; exact hin) (by rw [h2]; exact hfit6) h1 (h3 hba) hslot rfl rfl hd fin
theorem zfv_sI (μ : Mem) (g0 a : Nat) (v : Int32) (b c j : Nat) (h : b ≠ a ∨ (zFl c)[j]? ≠ some (g0, false)) : zfv (zsI μ g0 a v) b c j = zfv μ b c j := by
  unfold zfv
  cases hq : (zFl c)[j]? with
  | none => rfl
  | some q =>
    obtain ⟨g1, b1⟩ := q
    cases b1 with
    | true => rfl
    | false =>
      show Value.int (zI (zsI μ g0 a v) g1 b) = _
      rw [zI_zsI]
      by_cases h1 : g1 = g0
      · subst h1
        rcases h with h | h
        · rw [if_pos rfl, if_neg h]
        · exact absurd hq h
      · rw [if_neg h1]
theorem zfv_sR (μ : Mem) (g0 a : Nat) (v : Option Nat) (b c j : Nat) (h : b ≠ a ∨ (zFl c)[j]? ≠ some (g0, true)) : zfv (zsR μ g0 a v) b c j = zfv μ b c j := by
  unfold zfv
  cases hq : (zFl c)[j]? with
  | none => rfl
  | some q =>
    obtain ⟨g1, b1⟩ := q
    cases b1 with
    | false => rfl
    | true =>
      show va_rf (zR (zsR μ g0 a v) g1 b) = _
      rw [zR_zsR]
      by_cases h1 : g1 = g0
      · subst h1
        rcases h with h | h
        · rw [if_pos rfl, if_neg h]
        · exact absurd hq h
      · rw [if_neg h1]
theorem z_putI (C : Cx w g y cc nL ret hh fr lo) {index g0 : Nat} {t : FieldType} {a : Nat} {r : Option Nat} {v : Int32} (hr : r = some a) (hF : zFp y index g0 false t (zC μ a)) (hb0 : zFz (zC μ a) = true ∨ zB w ≤ a) (hn : narrow t (.int v) = .int v) (hfit : fits t (.int v) = true) (hd : decode cc pc = .ok (.putfield index, 3)) (k : Z w g K mc ms (pc + 3) lv st (zsI μ g0 a v) kc ks) : Z w g K mc ms pc lv (tI v :: tR r :: st) μ kc ks :=
  z_putf C (v := tI v) (μ' := zsI μ g0 a v) hr hF hb0 hn hfit hd rfl (fun _ => rfl) (fun _ => rfl) (fun _ _ _ => rfl) (fun b c j h => zfv_sI μ g0 a v b c j h) (fun c j h => by
    unfold zfv; rw [h]; show Value.int (zI (zsI μ g0 a v) g0 a) = _; rw [zI_zsI, if_pos rfl, if_pos rfl]; rfl) k
theorem z_putR (C : Cx w g y cc nL ret hh fr lo) {index g0 : Nat} {t : FieldType} {a : Nat} {r v : Option Nat} (hr : r = some a) (hF : zFp y index g0 true t (zC μ a)) (hb0 : zFz (zC μ a) = true ∨ zB w ≤ a) (ht : t.isReference = true) (hd : decode cc pc = .ok (.putfield index, 3)) (k : Z w g K mc ms (pc + 3) lv st (zsR μ g0 a v) kc ks) : Z w g K mc ms pc lv (tR v :: tR r :: st) μ kc ks :=
  z_putf C (v := tR v) (μ' := zsR μ g0 a v) hr hF hb0 (by cases t <;> first | (cases ht; done) | (cases v <;> rfl)) (by cases t <;> first | (cases ht; done) | (cases v <;> rfl)) hd rfl (fun _ => rfl) (fun _ => rfl) (fun _ _ _ => rfl) (fun b c j h => zfv_sR μ g0 a v b c j h) (fun c j h => by
    unfold zfv; rw [h]; show va_rf (zR (zsR μ g0 a v) g0 a) = _; rw [zR_zsR, if_pos rfl, if_pos rfl]; rfl) k
end ZH
section ZH2
variable {w : WT} {g : GT} {y : MethodName} {cc : ByteArray} {nL : Nat} {ret : Option FieldType} {hh : List (Nat × Nat × Nat × Nat)} {fr lo : Nat} {K : Out → Mem → Prop} {mc ms pc : Nat} {lv : List (Nat × TV)} {st : List TV} {μ : Mem} {kc ks : Nat}
-- arrays
theorem zIsArr (C : Cx w g y cc nL ret hh fr lo) {c : Nat} {cell : Cell} {ty : FieldType} (hc : cell.cls = (zG w).1 c) (hv : cell.vm.isStatics = false) {t0 : Nat} (ht : (zty w)[t0]? = some ((zG w).1 c, ty)) : (gs g).isArrayOf cell ty := by
  obtain ⟨h1, -⟩ := C.kw.2.1.2 t0 _ ht
  obtain ⟨-, k, hk, comp, hkind⟩ := h1 0 (fun _ => .null)
  refine ⟨fun k2 h => (by rw [h] at hv; cases hv), k, ?_, comp, hkind⟩
  rw [hc]; exact hk
theorem zNewB {μ : Mem} {a : Nat} : (a = zS μ) = (a = zS μ) := rfl
theorem zArr {ci : Nat} {H : Heap} {a : Nat} (hR : Rep w μ H) (h0 : 100 ≤ ci) (hc : zC μ a = ci) : ∃ cell : Cell, H[a]? = some cell ∧ cell.cls = (zG w).1 ci ∧ cell.vm ≠ .unknown ∧ cell.vm.isStatics = false ∧ cell.slots.size = zN μ a ∧ ∀ j, j < zN μ a → cell.slots[j]? = some (zav μ a ci j) := by
  obtain ⟨cell, h1, h2, h3, h4, h5, h6⟩ := zCell hR (by omega) hc
  obtain ⟨h7, h8⟩ := h6.2 h0
  exact ⟨cell, h1, h2, h4, h5, h7, h8⟩
theorem vp_in_lt {i : Int32} {n : Nat} (h : vp_in i n) : i.toNatClampNeg < n := Nat.not_le.mp fun q => h (Or.inr q)
theorem z_alen (C : Cx w g y cc nL ret hh fr lo) {a ci : Nat} {r : Option Nat} (hr : r = some a) (hc : zC μ a = ci) (hci : ci = 101 ∨ ci = 102 ∨ ci = 110 ∨ ci = 111 ∨ ci = 120 ∨ ci = 121) (hd : decode cc pc = .ok (.arraylength, 1)) (k : Z w g K mc ms (pc + 1) lv (tI (nI (zN μ a)) :: st) μ kc ks) : Z w g K mc ms pc lv (tR r :: st) μ kc ks := by
  intro H locs ls hR hb hl d e f
  subst hr
  obtain ⟨cell, h1, h2, h4, h5, h6, -⟩ := zArr hR (by omega) hc
  have kk := k H locs ls hR hb hl d e f
  have hz : cell.slots.size.toInt32 = nI (zN μ a) := by rw [h6]; rfl
  rcases hci with rfl | rfl | rfl | rfl | rfl | rfl
  · exact W.alen C.1 C.2.1 h1 (zIsArr C h2 h5 (t0 := 0) rfl) hz rfl rfl hd kk
  · exact W.alen C.1 C.2.1 h1 (zIsArr C h2 h5 (t0 := 1) rfl) hz rfl rfl hd kk
  · exact W.alen C.1 C.2.1 h1 (zIsArr C h2 h5 (t0 := 2) rfl) hz rfl rfl hd kk
  · exact W.alen C.1 C.2.1 h1 (zIsArr C h2 h5 (t0 := 3) rfl) hz rfl rfl hd kk
  · exact W.alen C.1 C.2.1 h1 (zIsArr C h2 h5 (t0 := 4) rfl) hz rfl rfl hd kk
  · exact W.alen C.1 C.2.1 h1 (zIsArr C h2 h5 (t0 := 5) rfl) hz rfl rfl hd kk
theorem z_iald (C : Cx w g y cc nL ret hh fr lo) {a : Nat} {r : Option Nat} {i : Int32} (hr : r = some a) (hc : zC μ a = 101) (hin : vp_in i (zN μ a)) (hd : decode cc pc = .ok (.iaload, 1)) (k : Z w g K mc ms (pc + 1) lv (tI (zA μ a i.toNatClampNeg) :: st) μ kc ks) : Z w g K mc ms pc lv (tI i :: tR r :: st) μ kc ks := by
  intro H locs ls hR hb hl d e f
  subst hr
  obtain ⟨cell, h1, h2, h4, h5, h6, h7⟩ := zArr hR (by decide) hc
  exact W.iald (v := .int (zA μ a i.toNatClampNeg)) C.1 C.2.1 h1 (zIsArr C h2 h5 (t0 := 0) rfl) h4 (by rw [h6]; exact hin) (h7 _ (vp_in_lt hin)) rfl rfl hd (k H locs ls hR hb hl d e f)
theorem z_bald (C : Cx w g y cc nL ret hh fr lo) {a : Nat} {r : Option Nat} {i : Int32} (hr : r = some a) (hc : zC μ a = 102) (hin : vp_in i (zN μ a)) (hd : decode cc pc = .ok (.baload, 1)) (k : Z w g K mc ms (pc + 1) lv (tI (zA μ a i.toNatClampNeg) :: st) μ kc ks) : Z w g K mc ms pc lv (tI i :: tR r :: st) μ kc ks := by
  intro H locs ls hR hb hl d e f
  subst hr
  obtain ⟨cell, h1, h2, h4, h5, h6, h7⟩ := zArr hR (by decide) hc
  exact W.bald (v := .int (zA μ a i.toNatClampNeg)) C.1 C.2.1 h1 (zIsArr C h2 h5 (t0 := 1) rfl) h4 (by rw [h6]; exact hin) (h7 _ (vp_in_lt hin)) rfl rfl hd (k H locs ls hR hb hl d e f)
theorem z_lald (C : Cx w g y cc nL ret hh fr lo) {a : Nat} {r : Option Nat} {i : Int32} (hr : r = some a) (hc : zC μ a = 110) (hin : vp_in i (zN μ a)) (hd : decode cc pc = .ok (.laload, 1)) (k : Z w g K mc ms (pc + 1) lv (tL (zJ μ a i.toNatClampNeg) :: st) μ kc ks) : Z w g K mc ms pc lv (tI i :: tR r :: st) μ kc ks := by
  intro H locs ls hR hb hl d e f
  subst hr
  obtain ⟨cell, h1, h2, h4, h5, h6, h7⟩ := zArr hR (by decide) hc
  exact W.lald (v := .long (zJ μ a i.toNatClampNeg)) C.1 C.2.1 h1 (zIsArr C h2 h5 (t0 := 2) rfl) h4 (by rw [h6]; exact hin) (h7 _ (vp_in_lt hin)) rfl rfl hd (k H locs ls hR hb hl d e f)
theorem z_dald (C : Cx w g y cc nL ret hh fr lo) {a : Nat} {r : Option Nat} {i : Int32} (hr : r = some a) (hc : zC μ a = 111) (hin : vp_in i (zN μ a)) (hd : decode cc pc = .ok (.daload, 1)) (k : Z w g K mc ms (pc + 1) lv (tD (zD μ a i.toNatClampNeg) :: st) μ kc ks) : Z w g K mc ms pc lv (tI i :: tR r :: st) μ kc ks := by
  intro H locs ls hR hb hl d e f
  subst hr
  obtain ⟨cell, h1, h2, h4, h5, h6, h7⟩ := zArr hR (by decide) hc
  exact W.dald (v := .double (zD μ a i.toNatClampNeg)) C.1 C.2.1 h1 (zIsArr C h2 h5 (t0 := 3) rfl) h4 (by rw [h6]; exact hin) (h7 _ (vp_in_lt hin)) rfl rfl hd (k H locs ls hR hb hl d e f)
theorem z_aald (C : Cx w g y cc nL ret hh fr lo) {a : Nat} {r : Option Nat} {i : Int32} (hr : r = some a) (hc : zC μ a = 120) (hin : vp_in i (zN μ a)) (hd : decode cc pc = .ok (.aaload, 1)) (k : Z w g K mc ms (pc + 1) lv (tR (zQ μ a i.toNatClampNeg) :: st) μ kc ks) : Z w g K mc ms pc lv (tI i :: tR r :: st) μ kc ks := by
  intro H locs ls hR hb hl d e f
  subst hr
  obtain ⟨cell, h1, h2, h4, h5, h6, h7⟩ := zArr hR (by decide) hc
  exact W.aald (v := va_rf (zQ μ a i.toNatClampNeg)) C.1 C.2.1 h1 (zIsArr C h2 h5 (t0 := 4) rfl) rfl h4 (by rw [h6]; exact hin) (h7 _ (vp_in_lt hin)) rfl rfl hd (k H locs ls hR hb hl d e f)
theorem z_aald1 (C : Cx w g y cc nL ret hh fr lo) {a : Nat} {r : Option Nat} {i : Int32} (hr : r = some a) (hc : zC μ a = 121) (hin : vp_in i (zN μ a)) (hd : decode cc pc = .ok (.aaload, 1)) (k : Z w g K mc ms (pc + 1) lv (tR (zQ μ a i.toNatClampNeg) :: st) μ kc ks) : Z w g K mc ms pc lv (tI i :: tR r :: st) μ kc ks := by
  intro H locs ls hR hb hl d e f
  subst hr
  obtain ⟨cell, h1, h2, h4, h5, h6, h7⟩ := zArr hR (by decide) hc
  exact W.aald (v := va_rf (zQ μ a i.toNatClampNeg)) C.1 C.2.1 h1 (zIsArr C h2 h5 (t0 := 5) rfl) rfl h4 (by rw [h6]; exact hin) (h7 _ (vp_in_lt hin)) rfl rfl hd (k H locs ls hR hb hl d e f)
/-- an array's element written -/
theorem zStoreA {H H' : Heap} {a ci j : Nat} {v : Value} {μ' : Mem} {cell : Cell} (hR : Rep w μ H) (hba : zB w ≤ a) (h0 : 100 ≤ ci) (hc : zC μ a = ci) (hj : j < zN μ a) (h1 : H[a]? = some cell) (e1 : zS μ' = zS μ) (e2 : ∀ b, zC μ' b = zC μ b) (e3 : ∀ b, zN μ' b = zN μ b) (e4 : ∀ b c k, zfv μ' b c k = zfv μ b c k) (e5 : ∀ b c k, b ≠ a → zav μ' b c k = zav μ b c k) (e6 : ∀ k, k ≠ j → zav μ' a ci k = zav μ a ci k) (e7 : zav μ' a ci j = v)
    (c1 : H'[a]? = some (cell.setSlot j v)) (c2 : H'.size = H.size) (c3 : ∀ q, q ≠ a → H'[q]? = H[q]?) : Rep w μ' H' := by
  refine hR.put (a := a) (cell := cell) (cell' := cell.setSlot j v) e1 e2 ?_ hba h1 c1 rfl rfl ?_ c2 c3
  · intro b hne cl hp
    refine ⟨fun hx => ⟨(hp.1 hx).1, fun k hk => by rw [e4]; exact (hp.1 hx).2 k hk⟩, fun hx => ?_⟩
    obtain ⟨z1, z2⟩ := hp.2 hx
    exact ⟨by rw [e3]; exact z1, fun k hk => by rw [e5 b _ k hne]; exact z2 k (by rw [← e3]; exact hk)⟩
  · intro hp
    rw [hc] at hp ⊢
    refine ⟨fun hx => absurd hx (Nat.not_lt.mpr h0), fun hx => ?_⟩
    obtain ⟨z1, z2⟩ := hp.2 hx
    have hs : (cell.setSlot j v).slots = cell.slots.setIfInBounds j v := rfl
    refine ⟨by rw [hs, Array.size_setIfInBounds, e3]; exact z1, fun k hk => ?_⟩
    rw [e3] at hk
    rw [hs]
    by_cases hkj : k = j
    · subst hkj
      rw [e7]
      simp [z1, hk]
    · rw [Array.getElem?_setIfInBounds_ne (Ne.symm hkj), e6 k hkj]
      exact z2 k hk
theorem zav_sA (μ : Mem) (a i : Nat) (v : Int32) (b c k : Nat) (h : b ≠ a ∨ k ≠ i) : zav (zsA μ a i v) b c k = zav μ b c k := by
  unfold zav
  rw [zQ_zsA, zJ_zsA, zD_zsA, zA_zsA]
  rcases h with h | h
  · rw [if_neg h]
  · rw [if_neg h]; simp
theorem zav_sQ (μ : Mem) (a i : Nat) (v : Option Nat) (b c k : Nat) (h : b ≠ a ∨ k ≠ i) : zav (zsQ μ a i v) b c k = zav μ b c k := by
  unfold zav
  rw [zQ_zsQ, zJ_zsQ, zD_zsQ, zA_zsQ]
  rcases h with h | h
  · rw [if_neg h]
  · rw [if_neg h]; simp
theorem zav_sJ (μ : Mem) (a i : Nat) (v : Int64) (b c k : Nat) (h : b ≠ a ∨ k ≠ i) : zav (zsJ μ a i v) b c k = zav μ b c k := by
  unfold zav
  rw [zQ_zsJ, zJ_zsJ, zD_zsJ, zA_zsJ]
  rcases h with h | h
  · rw [if_neg h]
  · rw [if_neg h]; simp
theorem zav_sD (μ : Mem) (a i : Nat) (v : UInt64) (b c k : Nat) (h : b ≠ a ∨ k ≠ i) : zav (zsD μ a i v) b c k = zav μ b c k := by
  unfold zav
  rw [zQ_zsD, zJ_zsD, zD_zsD, zA_zsD]
  rcases h with h | h
  · rw [if_neg h]
  · rw [if_neg h]; simp
theorem z_iast (C : Cx w g y cc nL ret hh fr lo) {a : Nat} {r : Option Nat} {i : Int32} {x : Int32} (hr : r = some a) (hc : zC μ a = 101) (hba : zB w ≤ a) (hin : vp_in i (zN μ a)) (hd : decode cc pc = .ok (.iastore, 1)) (k : Z w g K mc ms (pc + 1) lv st (zsA μ a i.toNatClampNeg (x)) kc ks) : Z w g K mc ms pc lv (tI x :: tI i :: tR r :: st) μ kc ks := by
  intro H locs ls hR hb hl d e f
  subst hr
  obtain ⟨cell, h1, h2, h4, h5, h6, h7⟩ := zArr hR (by decide) hc
  refine W.iast C.1 C.2.1 h1 (zIsArr C h2 h5 (t0 := 0) rfl) h4 (by rw [h6]; exact hin) rfl rfl hd fun H' c1 c2 c3 => ?_
  refine k H' _ ls ?_ (by rw [c2]; exact hb) ?_ d e f
  · refine zStoreA hR hba (by decide) hc (vp_in_lt hin) h1 rfl (fun _ => rfl) (fun _ => rfl) (fun _ _ _ => rfl) (fun b c k h => zav_sA _ _ _ _ _ _ _ (Or.inl h)) (fun k h => zav_sA _ _ _ _ _ _ _ (Or.inr h)) ?_ c1 c2 c3
    show zav _ a 101 _ = _
    unfold zav
    simp [zA_zsA]
    try rfl
  · intro l hm
    rcases List.mem_append.mp hm with z | z
    · exact hl l z
    · rw [List.mem_singleton] at z; rw [z]; exact hba
theorem z_bast (C : Cx w g y cc nL ret hh fr lo) {a : Nat} {r : Option Nat} {i : Int32} {x : Int32} (hr : r = some a) (hc : zC μ a = 102) (hba : zB w ≤ a) (hin : vp_in i (zN μ a)) (hd : decode cc pc = .ok (.bastore, 1)) (k : Z w g K mc ms (pc + 1) lv st (zsA μ a i.toNatClampNeg (x.toInt8.toInt32)) kc ks) : Z w g K mc ms pc lv (tI x :: tI i :: tR r :: st) μ kc ks := by
  intro H locs ls hR hb hl d e f
  subst hr
  obtain ⟨cell, h1, h2, h4, h5, h6, h7⟩ := zArr hR (by decide) hc
  refine W.bast C.1 C.2.1 h1 (zIsArr C h2 h5 (t0 := 1) rfl) h4 (by rw [h6]; exact hin) rfl rfl hd fun H' c1 c2 c3 => ?_
  refine k H' _ ls ?_ (by rw [c2]; exact hb) ?_ d e f
  · refine zStoreA hR hba (by decide) hc (vp_in_lt hin) h1 rfl (fun _ => rfl) (fun _ => rfl) (fun _ _ _ => rfl) (fun b c k h => zav_sA _ _ _ _ _ _ _ (Or.inl h)) (fun k h => zav_sA _ _ _ _ _ _ _ (Or.inr h)) ?_ c1 c2 c3
    show zav _ a 102 _ = _
    unfold zav
    simp [zA_zsA]
    try rfl
  · intro l hm
    rcases List.mem_append.mp hm with z | z
    · exact hl l z
    · rw [List.mem_singleton] at z; rw [z]; exact hba
theorem z_last (C : Cx w g y cc nL ret hh fr lo) {a : Nat} {r : Option Nat} {i : Int32} {x : Int64} (hr : r = some a) (hc : zC μ a = 110) (hba : zB w ≤ a) (hin : vp_in i (zN μ a)) (hd : decode cc pc = .ok (.lastore, 1)) (k : Z w g K mc ms (pc + 1) lv st (zsJ μ a i.toNatClampNeg (x)) kc ks) : Z w g K mc ms pc lv (tL x :: tI i :: tR r :: st) μ kc ks := by
  intro H locs ls hR hb hl d e f
  subst hr
  obtain ⟨cell, h1, h2, h4, h5, h6, h7⟩ := zArr hR (by decide) hc
  refine W.last C.1 C.2.1 h1 (zIsArr C h2 h5 (t0 := 2) rfl) h4 (by rw [h6]; exact hin) rfl rfl hd fun H' c1 c2 c3 => ?_
  refine k H' _ ls ?_ (by rw [c2]; exact hb) ?_ d e f
  · refine zStoreA hR hba (by decide) hc (vp_in_lt hin) h1 rfl (fun _ => rfl) (fun _ => rfl) (fun _ _ _ => rfl) (fun b c k h => zav_sJ _ _ _ _ _ _ _ (Or.inl h)) (fun k h => zav_sJ _ _ _ _ _ _ _ (Or.inr h)) ?_ c1 c2 c3
    show zav _ a 110 _ = _
    unfold zav
    simp [zJ_zsJ]
    try rfl
  · intro l hm
    rcases List.mem_append.mp hm with z | z
    · exact hl l z
    · rw [List.mem_singleton] at z; rw [z]; exact hba
theorem z_dast (C : Cx w g y cc nL ret hh fr lo) {a : Nat} {r : Option Nat} {i : Int32} {x : UInt64} (hr : r = some a) (hc : zC μ a = 111) (hba : zB w ≤ a) (hin : vp_in i (zN μ a)) (hd : decode cc pc = .ok (.dastore, 1)) (k : Z w g K mc ms (pc + 1) lv st (zsD μ a i.toNatClampNeg (x)) kc ks) : Z w g K mc ms pc lv (tD x :: tI i :: tR r :: st) μ kc ks := by
  intro H locs ls hR hb hl d e f
  subst hr
  obtain ⟨cell, h1, h2, h4, h5, h6, h7⟩ := zArr hR (by decide) hc
  refine W.dast C.1 C.2.1 h1 (zIsArr C h2 h5 (t0 := 3) rfl) h4 (by rw [h6]; exact hin) rfl rfl hd fun H' c1 c2 c3 => ?_
  refine k H' _ ls ?_ (by rw [c2]; exact hb) ?_ d e f
  · refine zStoreA hR hba (by decide) hc (vp_in_lt hin) h1 rfl (fun _ => rfl) (fun _ => rfl) (fun _ _ _ => rfl) (fun b c k h => zav_sD _ _ _ _ _ _ _ (Or.inl h)) (fun k h => zav_sD _ _ _ _ _ _ _ (Or.inr h)) ?_ c1 c2 c3
    show zav _ a 111 _ = _
    unfold zav
    simp [zD_zsD]
    try rfl
  · intro l hm
    rcases List.mem_append.mp hm with z | z
    · exact hl l z
    · rw [List.mem_singleton] at z; rw [z]; exact hba
/-- a reference stored into an Object[] -/
theorem z_aast (C : Cx w g y cc nL ret hh fr lo) {a : Nat} {r x : Option Nat} {i : Int32} (hr : r = some a) (hc : zC μ a = 120) (hba : zB w ≤ a) (hin : vp_in i (zN μ a)) (hx : ∀ v, x = some v → 0 < zC μ v ∧ zC μ v ≤ 38) (hd : decode cc pc = .ok (.aastore, 1)) (k : Z w g K mc ms (pc + 1) lv st (zsQ μ a i.toNatClampNeg x) kc ks) : Z w g K mc ms pc lv (tR x :: tI i :: tR r :: st) μ kc ks := by
  intro H locs ls hR hb hl d e f
  subst hr
  obtain ⟨cell, h1, h2, h4, h5, h6, h7⟩ := zArr hR (by decide) hc
  have fin : ∀ H' : Heap, H'[a]? = some (cell.setSlot i.toNatClampNeg (tv (tR x))) → H'.size = H.size → (∀ q, q ≠ a → H'[q]? = H[q]?) → W (gp g) (zL w) (ge g) (gR g mc ms) (gs g) (gm g) (ga g) (gb g) (gh g) (gc g) H' (locs ++ [⟨a, i.toNatClampNeg⟩]) kc ks (gQ w g K mc ms) (F0 (gm g) (pc + 1) ls (st.map tv)) := by
    intro H' c1 c2 c3
    refine k H' _ ls ?_ (by rw [c2]; exact hb) ?_ d e f
    · refine zStoreA hR hba (by decide) hc (vp_in_lt hin) h1 rfl (fun _ => rfl) (fun _ => rfl) (fun _ _ _ => rfl) (fun b c k h => zav_sQ _ _ _ _ _ _ _ (Or.inl h)) (fun k h => zav_sQ _ _ _ _ _ _ _ (Or.inr h)) ?_ c1 c2 c3
      show zav _ a 120 _ = _
      unfold zav
      simp [zQ_zsQ]
      try rfl
    · intro l hm
      rcases List.mem_append.mp hm with z | z
      · exact hl l z
      · rw [List.mem_singleton] at z; rw [z]; exact hba
  cases x with
  | none => exact va_WaastN C.1 C.2.1 h1 (zIsArr C h2 h5 (t0 := 4) rfl) h4 (by rw [h6]; exact hin) rfl rfl hd fin
  | some v =>
    obtain ⟨k1, k2⟩ := hx v rfl
    obtain ⟨r0, hr0, hcast⟩ := zObj_ok (zC μ v) k1 k2
    obtain ⟨cv, g1, g2, g3, g4, g5, -⟩ := zCell hR (by omega) (rfl : zC μ v = zC μ v)
    obtain ⟨c3, c4, hc3, hc4, hasg⟩ := Cond.castable_spec (C.nw hcast rfl)
    have hcl := C.kw.2.1.1 _ _ hr0
    have hcv : c3 = cv.cls := by rw [g2]; exact Option.some.inj (hc3.symm.trans hcl.2.1)
    obtain ⟨kA, comp, j1, j2, j3, -⟩ := (C.kw.2.1.2 4 _ rfl).2
    have hcomp : c4 = comp := Option.some.inj (hc4.symm.trans j3)
    obtain ⟨kC, hkC, -⟩ := hcl.2.2
    obtain ⟨kO, hkO, -⟩ := Vm.findClass_spec j3
    exact W.aast C.1 C.2.1 h1 (fun q h => by rw [h] at h5; cases h5) h4 (by rw [h2]; exact j1) j2 rfl hkO ⟨fun q => hin (Or.inl q), by rw [h6]; exact vp_in_lt hin⟩ g1 (fun q h => by rw [h] at g5; cases g5) (by rw [g2]; exact hkC) (by rw [← hcv, ← hcomp]; exact hasg) rfl rfl hd fin
end ZH2
