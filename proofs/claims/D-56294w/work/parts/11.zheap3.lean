set_option maxRecDepth 100000
section ZH3
variable {w : WT} {g : GT} {y : MethodName} {cc : ByteArray} {nL : Nat} {ret : Option FieldType} {hh : List (Nat × Nat × Nat × Nat)} {fr lo : Nat} {K : Out → Mem → Prop} {mc ms pc : Nat} {lv : List (Nat × TV)} {st : List TV} {μ : Mem} {kc ks : Nat}
-- making cells
theorem z_new (C : Cx w g y cc nL ret hh fr lo) {ci N n0 index : Nat} {CN : String} {T : u_T} {ty : Nat → FieldType} (hk : zCls ci CN T N ty) (hq1 : Cond.classLink y.cls index CN ∈ lw_all) (hq2 : Cond.instantiable CN n0 ∈ lw_all) (hq3 : Cond.initialized CN ∈ lw_all) (h1 : kc + 1 ≤ mc) (h2 : ks + n0 ≤ ms) (hd : decode cc pc = .ok (.new index, 3))
    (k : Z w g K mc ms (pc + 3) lv (tR (some (zS μ)) :: st) (zNew μ ci 0) (kc + 1) (ks + n0)) (hn6 : ci = 13 ∨ ci = 14 → 6 ≤ n0) : Z w g K mc ms pc lv st μ kc ks := by
  intro H locs ls hR hb hl d e f
  have hKn := C.kw.2.1.1 _ _ hk.2.2.1
  refine W.newcK C.1 C.2.1 C.own (C.ts _ hq1) (C.ts _ hq2) (C.ts _ hq3) rfl hd h1 h2 hKn.2.1 rfl fun H1 kC hkC e1 z1 o1 => ?_
  obtain ⟨cell, b1, b2, b3, b4⟩ := u_born (o := H.size) ty C.ts hk.2.2.2.2.1 hKn hkC e1 hk.2.2.2.2.2.1
  have kk := k H1 locs ls ?_ (by omega) hl d h1 h2
  · rw [hR.1]; exact kk
  · refine hR.new (Nat.lt_trans hk.2.1 (by decide)) b1 b2 b3 ⟨fun _ => ⟨fun z => ?_, fun j hj => ?_⟩, fun hx => absurd hk.2.1 (Nat.not_lt.mpr hx)⟩ z1 o1
    · obtain ⟨c9, k9, q1, q2, -, -, -, q6⟩ := Cond.instantiable_spec (C.ts _ hq2)
      cases Option.some.inj (hKn.2.1.symm.trans q1)
      cases Option.some.inj (hkC.symm.trans q2)
      have q7 : cell = blank _ _ := Option.some.inj (b1.symm.trans e1)
      rw [q7]
      have q8 : (blank ((zG w).1 ci) kC).slots.size = kC.instanceTypes.size := by simp [blank]
      rw [q8, q6]; exact hn6 z
    have hjN : j < N := by rw [← hk.2.2.2.1]; exact hj
    rw [b4 j hjN]
    show some (defaultValue (ty j)) = _
    rw [hk.2.2.2.2.2.2.2.1 j hjN]
    unfold zfv
    rw [List.getElem?_eq_getElem hj]
    have hg : (zFl ci).getD j (0, false) = (zFl ci)[j] := by simp [List.getD, hj]
    rw [hg]
    cases hq : (zFl ci)[j] with
    | mk g1 b1 =>
      cases b1 with
      | true => simp [zR_zNew, va_rf]
      | false => simp [zI_zNew]
theorem zElt {n : Nat} {v : Value} {c : ClassId} {j : Nat} (h : j < n) : (arrV c n (fun _ => v)).slots[j]? = some v := arrV_read _ _ h
theorem z_newa (C : Cx w g y cc nL ret hh fr lo) {ci : Nat} {atype : ArrayType} {n : Int32} {N : Nat} (hci : (ci = 101 ∧ atype = .int) ∨ (ci = 102 ∧ atype = .byte) ∨ (ci = 110 ∧ atype = .long) ∨ (ci = 111 ∧ atype = .double)) (harr : Cond.arrayClass (newarray.typeOf atype) ∈ lw_all) (hn : ¬ n < 0) (hN : n.toNatClampNeg = N) (hb8 : N ≤ 1000000) (h1 : kc + 1 ≤ mc) (h2 : ks + N ≤ ms) (hd : decode cc pc = .ok (.newarray atype, 2))
    (k : Z w g K mc ms (pc + 2) lv (tR (some (zS μ)) :: st) (zNew μ ci N) (kc + 1) (ks + N)) : Z w g K mc ms pc lv (tI n :: st) μ kc ks := by
  intro H locs ls hR hb hl d e f
  have hK2 := C.kw.2.1.2
  refine va_newaK C.1 C.2.1 (C.ts _ harr) rfl hd rfl hn hN ?_ h1 h2 rfl fun H1 cA e1 z1 o1 hAr hNm => ?_
  · rcases hci with ⟨-, rfl⟩ | ⟨-, rfl⟩ | ⟨-, rfl⟩ | ⟨-, rfl⟩ <;> (simp only [newarray.typeOf, componentBytes]; omega)
  · have kk := k H1 locs ls ?_ (by omega) hl d h1 h2
    · rw [hR.1]; exact kk
    · have hcA : cA = (zG w).1 ci := by
        rcases hci with ⟨rfl, rfl⟩ | ⟨rfl, rfl⟩ | ⟨rfl, rfl⟩ | ⟨rfl, rfl⟩
        · exact Option.some.inj (hNm.symm.trans (hK2 0 _ rfl).2)
        · exact Option.some.inj (hNm.symm.trans (hK2 1 _ rfl).2)
        · exact Option.some.inj (hNm.symm.trans (hK2 2 _ rfl).2)
        · exact Option.some.inj (hNm.symm.trans (hK2 3 _ rfl).2)
      have hlt : ci < 200 ∧ 100 ≤ ci := by rcases hci with ⟨rfl, -⟩ | ⟨rfl, -⟩ | ⟨rfl, -⟩ | ⟨rfl, -⟩ <;> decide
      refine hR.new hlt.1 e1 hcA rfl ⟨fun hx => absurd hlt.2 (Nat.not_le.mpr hx), fun _ => ?_⟩ z1 o1
      refine ⟨by rw [arrV_size, zN_zNew, if_pos rfl], fun j hj => ?_⟩
      rw [zN_zNew, if_pos rfl] at hj
      rw [arrV_read _ _ hj]
      unfold zav
      rw [zA_zNew, if_pos rfl, zJ_zNew, if_pos rfl, zD_zNew, if_pos rfl]
      rcases hci with ⟨rfl, rfl⟩ | ⟨rfl, rfl⟩ | ⟨rfl, rfl⟩ | ⟨rfl, rfl⟩ <;> rfl
theorem z_anew (C : Cx w g y cc nL ret hh fr lo) {index : Nat} {n : Int32} {N : Nat} (hq : Cond.classLink y.cls index "java/lang/Object" ∈ lw_all) (hn : ¬ n < 0) (hN : n.toNatClampNeg = N) (hb8 : N ≤ 1000000) (h1 : kc + 1 ≤ mc) (h2 : ks + N ≤ ms) (hd : decode cc pc = .ok (.anewarray index, 3))
    (k : Z w g K mc ms (pc + 3) lv (tR (some (zS μ)) :: st) (zNew μ 120 N) (kc + 1) (ks + N)) : Z w g K mc ms pc lv (tI n :: st) μ kc ks := by
  intro H locs ls hR hb hl d e f
  subst hN
  refine W.anew C.1 C.2.1 C.own (C.ts _ hq) (va_AO.use C.kw.2.2.2.2.2.2.2.2.2.2.1) rfl hd rfl hn (by omega) h1 h2 fun cA kA comp f1 f2 f3 f4 => ?_
  generalize hH1 : H.push ({ cls := cA, slots := Array.replicate n.toNatClampNeg .null, vm := .none } : Cell) = H1
  have z1 : H1.size = H.size + 1 := by rw [← hH1, Array.size_push]
  have e1 : H1[H.size]? = some (arrV cA n.toNatClampNeg (fun _ => .null)) := by rw [← hH1, Array.getElem?_push_size, ← arrV_new]
  have o1 : ∀ q : Nat, q < H.size → H1[q]? = H[q]? := fun q hq => by rw [← hH1, Array.getElem?_push, if_neg (Nat.ne_of_lt hq)]
  have kk := k H1 locs ls ?_ (by omega) hl d h1 h2
  · rw [hR.1]; exact kk
  · obtain ⟨-, kA2, comp2, -, -, -, j4⟩ := C.kw.2.1.2 4 _ rfl
    have hcA : cA = (zG w).1 120 := Option.some.inj (f1.symm.trans j4)
    refine hR.new (by decide) e1 hcA rfl ⟨fun hx => absurd hx (by decide), fun _ => ?_⟩ z1 o1
    refine ⟨by rw [arrV_size, zN_zNew, if_pos rfl], fun j hj => ?_⟩
    rw [zN_zNew, if_pos rfl] at hj
    rw [arrV_read _ _ hj]
    unfold zav
    rw [zQ_zNew, if_pos rfl]
    rfl
theorem z_objInit (C : Cx w g y cc nL ret hh fr lo) {index a : Nat} {r : Option Nat} (hr : r = some a) (hq1 : Cond.methodLink y.cls index Lib.objectInit ∈ lw_all) (hq2 : Cond.instanceMethod Lib.objectInit ∈ lw_all) (hq3 : Cond.code Lib.objectInit ⟨#[0xb1]⟩ 1 none ∈ lw_all) (hR : 1 ≤ fr ∧ (st.map fun a => if tcat a then 2 else 1).sum + 12 ≤ lo) (hd : decode cc pc = .ok (.invokespecial index, 3)) (k : Z w g K mc ms (pc + 3) lv st μ kc ks) : Z w g K mc ms pc lv (tR r :: st) μ kc ks := by
  intro H locs ls hRp hb hl d e f
  subst hr
  have hs : ((st.map tv).map fun v => v.category).sum = (st.map fun a => if tcat a then 2 else 1).sum := by
    clear hR hRp k hd
    induction st with
    | nil => rfl
    | cons a t ih =>
      have h := tv_cat a
      simp only [List.map_cons, List.sum_cons, ih]
      congr 1
      rcases lv_cat (tv a) with q | q <;> rw [q] at h ⊢ <;> cases ht : tcat a <;> simp [ht] at h ⊢
  refine W.objInit C.1 C.2.1 C.own (C.ts _ hq1) (C.ts _ hq2) (C.ts _ hq3) rfl d.1 rfl hd ?_ ?_ (k H locs ls hRp hb hl d e f)
  · show 1 ≤ gf g
    rw [C.2.2.2.2.2.2.2.2.2.2.2.1]; exact hR.1
  · show 2 * 0 + ((st.map tv).map fun v => v.category).sum + 12 ≤ gl g
    rw [hs, C.2.2.2.2.2.2.2.2.2.2.2.2]; omega
-- casts
theorem z_cast (C : Cx w g y cc nL ret hh fr lo) {index : Nat} {nm : String} {r : Option Nat} (hq : Cond.classLink y.cls index nm ∈ lw_all) (hr : ∀ a, r = some a → ∃ q : vw_C, zC μ a ≠ 0 ∧ zcl[zC μ a]? = some q ∧ Cond.castable q.1 nm ∈ lw_tbl) (hd : decode cc pc = .ok (.checkcast index, 3)) (k : Z w g K mc ms (pc + 3) lv (tR r :: st) μ kc ks) : Z w g K mc ms pc lv (tR r :: st) μ kc ks := by
  intro H locs ls hR hb hl d e f
  have kk := k H locs ls hR hb hl d e f
  cases r with
  | none => exact lv_castN C.1 C.2.1 hd kk
  | some a =>
    obtain ⟨q, h0, h1, h2⟩ := hr a rfl
    obtain ⟨cell, c1, c2, c3⟩ := zRecv C hR h0 rfl h1
    exact va_castY C.1 C.2.1 C.own (C.ts _ hq) (C.kw.2.2.1 _ (zNw_mem h2 rfl)) ⟨cell, c1, c2, c3⟩ hd kk
theorem z_castS (C : Cx w g y cc nL ret hh fr lo) {index : Nat} {r : Option Nat} {ci : Nat} {q : vw_C} (hq : Cond.classLink y.cls index q.1 ∈ lw_all) (h0 : ci ≠ 0) (hz : zcl[ci]? = some q) (hr : ∀ a, r = some a → zC μ a = ci) (hd : decode cc pc = .ok (.checkcast index, 3)) (k : Z w g K mc ms (pc + 3) lv (tR r :: st) μ kc ks) : Z w g K mc ms pc lv (tR r :: st) μ kc ks := by
  intro H locs ls hR hb hl d e f
  have kk := k H locs ls hR hb hl d e f
  cases r with
  | none => exact lv_castN C.1 C.2.1 hd kk
  | some a =>
    obtain ⟨cell, h1, h2, h3, h4, h5, h6⟩ := zCell hR h0 (hr a rfl)
    exact va_castS C.1 C.2.1 C.own (C.ts _ hq) (C.kw.2.1.1 ci q hz).2 ⟨cell, h1, h5, by rw [h2]; exact (C.kw.2.1.1 ci q hz).2.1⟩ hd kk
theorem z_instY (C : Cx w g y cc nL ret hh fr lo) {index a : Nat} {nm : String} {r : Option Nat} {q : vw_C} (hq : Cond.classLink y.cls index nm ∈ lw_all) (hr : r = some a) (h0 : zC μ a ≠ 0) (hz : zcl[zC μ a]? = some q) (hc : Cond.castable q.1 nm ∈ lw_tbl) (hd : decode cc pc = .ok (.instanceof index, 3)) (k : Z w g K mc ms (pc + 3) lv (tI 1 :: st) μ kc ks) : Z w g K mc ms pc lv (tR r :: st) μ kc ks := by
  intro H locs ls hR hb hl d e f
  subst hr
  exact va_instY C.1 C.2.1 C.own (C.ts _ hq) (C.kw.2.2.1 _ (zNw_mem hc rfl)) (zRecv C hR h0 rfl hz) hd (k H locs ls hR hb hl d e f)
theorem z_instS (C : Cx w g y cc nL ret hh fr lo) {index a ci : Nat} {r : Option Nat} {q : vw_C} (hq : Cond.classLink y.cls index q.1 ∈ lw_all) (hr : r = some a) (h0 : ci ≠ 0) (hz : zcl[ci]? = some q) (hc : zC μ a = ci) (hd : decode cc pc = .ok (.instanceof index, 3)) (k : Z w g K mc ms (pc + 3) lv (tI 1 :: st) μ kc ks) : Z w g K mc ms pc lv (tR r :: st) μ kc ks := by
  intro H locs ls hR hb hl d e f
  subst hr
  exact va_instS C.1 C.2.1 C.own (C.ts _ hq) (C.kw.2.1.1 ci q hz).2 (zRecv C hR h0 hc hz) hd (k H locs ls hR hb hl d e f)
theorem z_instNo (C : Cx w g y cc nL ret hh fr lo) {index a ci : Nat} {nm : String} {r : Option Nat} {q : vw_C} (hq : Cond.classLink y.cls index nm ∈ lw_all) (hr : r = some a) (h0 : ci ≠ 0) (hz : zcl[ci]? = some q) (hc : zC μ a = ci) (hn : (q.1, nm) ∈ znc) (hd : decode cc pc = .ok (.instanceof index, 3)) (k : Z w g K mc ms (pc + 3) lv (tI 0 :: st) μ kc ks) : Z w g K mc ms pc lv (tR r :: st) μ kc ks := by
  intro H locs ls hR hb hl d e f
  subst hr
  exact va_instNo C.1 C.2.1 C.own (C.ts _ hq) (C.kw.2.2.2.2.1 _ hn) (zRecv C hR h0 hc hz) hd (k H locs ls hR hb hl d e f)
theorem z_instN (C : Cx w g y cc nL ret hh fr lo) {index : Nat} {r : Option Nat} (hr : r = none) (hd : decode cc pc = .ok (.instanceof index, 3)) (k : Z w g K mc ms (pc + 3) lv (tI 0 :: st) μ kc ks) : Z w g K mc ms pc lv (tR r :: st) μ kc ks := by
  intro H locs ls hR hb hl d e f
  subst hr
  exact lv_instN C.1 C.2.1 hd (k H locs ls hR hb hl d e f)
-- statics, constants
theorem z_gets (C : Cx w g y cc nL ret hh fr lo) {index k0 : Nat} {q : String × String × String} (hz : zsta[k0]? = some q) (hq : Cond.fieldLink y.cls index q.1 q.2.1 q.2.2 ∈ lw_all) {v : TV} (hv : zSt w k0 = v) (hd : decode cc pc = .ok (.getstatic index, 3)) (k : Z w g K mc ms (pc + 3) lv (v :: st) μ kc ks) : Z w g K mc ms pc lv st μ kc ks := by
  intro H locs ls hR hb hl d e f
  subst hv
  have h1 := C.kw.2.2.2.2.2.2.1 k0 q hz
  have h2 := h1.kept (H1 := (gs g).heap) C.vaS0
  exact va_gets C.1 C.2.1 h2 (C.vaS hR hb hl) C.own (C.ts _ hq) (fun _ h => h) hd (k H locs ls hR hb hl d e f)
theorem z_ldcS (C : Cx w g y cc nL ret hh fr lo) {index k0 : Nat} {tx : String} (hz : zstr[k0]? = some (y.cls, index, tx)) (hd : decode cc pc = .ok (.ldc index, 2)) (k : Z w g K mc ms (pc + 2) lv (tR (some (zSa w k0)) :: st) μ kc ks) : Z w g K mc ms pc lv st μ kc ks := by
  intro H locs ls hR hb hl d e f
  exact va_ldcS C.1 C.2.1 C.own (C.kw.2.2.2.2.2.1 k0 _ hz) hd (k H locs ls hR hb hl d e f)
theorem z_ldcM (C : Cx w g y cc nL ret hh fr lo) {index k0 : Nat} {nm : String} (hz : zmir[k0]? = some nm) (hq : Cond.classLink y.cls index nm ∈ lw_all) (hd : decode cc pc = .ok (.ldc index, 2)) (k : Z w g K mc ms (pc + 2) lv (tR (some (zMi w k0)) :: st) μ kc ks) : Z w g K mc ms pc lv st μ kc ks := by
  intro H locs ls hR hb hl d e f
  exact va_ldcM C.1 C.2.1 C.own (C.ts _ hq) (C.kw.2.2.2.2.2.2.2.2.1 k0 nm hz) hd (k H locs ls hR hb hl d e f)
-- the ends
theorem zBackOK (C : Cx w g y cc nL ret hh fr lo) : (gh g).locks = false := C.2.2.2.2.1
theorem z_ireturn (C : Cx w g y cc nL ret hh fr lo) {v : Int32} {ty : FieldType} (hret : ret = some ty) (hn : narrow ty (.int v) = .int v) (hd : decode cc pc = .ok (.ireturn, 1)) (k : K (.inl (some (tI v))) μ) : Z w g K mc ms pc lv [tI v] μ kc ks := by
  intro H locs ls hR hb hl d e f
  refine vx_ret (W.widen e f ?_)
  exact W.zret C.1 C.2.1 (C.2.2.2.1.trans hret) hn (fun t ht hW => ⟨some (tI v), μ, rfl, by rw [ht]; exact hR, k⟩) hl hd (zBackOK C)
theorem z_areturn (C : Cx w g y cc nL ret hh fr lo) {v : Option Nat} {ty : FieldType} (hret : ret = some ty) (hty : (∃ n, ty = .object n) ∨ ∃ t, ty = .array t) (hd : decode cc pc = .ok (.areturn, 1)) (k : K (.inl (some (tR v))) μ) : Z w g K mc ms pc lv [tR v] μ kc ks := by
  intro H locs ls hR hb hl d e f
  refine vx_ret (W.widen e f ?_)
  exact W.aret (v := va_rf v) C.1 C.2.1 (C.2.2.2.1.trans hret) hty (by cases v with
    | none => exact Or.inl rfl
    | some a => exact Or.inr ⟨a, rfl⟩) (fun t ht hW => ⟨some (tR v), μ, rfl, by rw [ht]; exact hR, k⟩) hl hd (zBackOK C)
theorem z_vreturn (C : Cx w g y cc nL ret hh fr lo) (hret : ret = none) (hd : decode cc pc = .ok (.return_, 1)) (k : K (.inl none) μ) : Z w g K mc ms pc lv [] μ kc ks := by
  intro H locs ls hR hb hl d e f
  refine vx_ret (W.widen e f ?_)
  exact W.vret C.1 C.2.1 (C.2.2.2.1.trans hret) (fun t ht hW => ⟨none, μ, rfl, by rw [ht]; exact hR, k⟩) hl hd (zBackOK C)
theorem z_freturn (C : Cx w g y cc nL ret hh fr lo) {v : UInt32} (hret : ret = some .float) (hd : decode cc pc = .ok (.freturn, 1)) (k : K (.inl (some (tF v))) μ) : Z w g K mc ms pc lv [tF v] μ kc ks := by
  intro H locs ls hR hb hl d e f
  refine vx_ret (W.widen e f ?_)
  exact W.fret C.1 C.2.1 (C.2.2.2.1.trans hret) (fun t ht hW => ⟨some (tF v), μ, rfl, by rw [ht]; exact hR, k⟩) hl hd (zBackOK C)
theorem z_dreturn (C : Cx w g y cc nL ret hh fr lo) {v : UInt64} (hret : ret = some .double) (hd : decode cc pc = .ok (.dreturn, 1)) (k : K (.inl (some (tD v))) μ) : Z w g K mc ms pc lv [tD v] μ kc ks := by
  intro H locs ls hR hb hl d e f
  refine vx_ret (W.widen e f ?_)
  exact W.dret C.1 C.2.1 (C.2.2.2.1.trans hret) (fun t ht hW => ⟨some (tD v), μ, rfl, by rw [ht]; exact hR, k⟩) hl hd (zBackOK C)
-- throwing
theorem z_athrow (C : Cx w g y cc nL ret hh fr lo) {q : Nat} {r : Option Nat} (hr : r = some q) (hd : decode cc pc = .ok (.athrow, 1)) (k : ZX w g K mc ms pc lv q μ kc ks) : Z w g K mc ms pc lv (tR r :: st) μ kc ks := by
  intro H locs ls hR hb hl d e f
  subst hr
  exact vx_athrow C.1 C.2.1 hd (k H locs ls (st.map tv) hR hb hl d e f)
theorem zThrown (C : Cx w g y cc nL ret hh fr lo) {H : Heap} {q ci : Nat} {r : vw_C} (hR : Rep w μ H) (h0 : ci ≠ 0) (hc : zC μ q = ci) (hz : zFz ci = true) (hr : zcl[ci]? = some r) : ∃ ce : Cell, H[q]? = some ce ∧ ce.vm = .none ∧ (gs g).vm.findClass r.1 = some ce.cls ∧ zB w ≤ q := by
  obtain ⟨cell, h1, h2, h3, h4, h5, h6⟩ := zCell hR h0 hc
  have hb := (hR.2.2.2.1 q (by rw [hc]; exact h0)).2 (by rw [hc]; exact hz)
  exact ⟨cell, h1, h3 hb, by rw [h2]; exact (C.kw.2.1.1 ci r hr).2.1, hb⟩
/-- it leaves the method, which has no handlers there, or handlers for other classes -/
theorem z_out (C : Cx w g y cc nL ret hh fr lo) {q ci : Nat} {r : vw_C} (h0 : ci ≠ 0) (hlt : ci < 100) (hc : zC μ q = ci) (hz : zFz ci = true) (hr : zcl[ci]? = some r)
    (hp : ∀ z ∈ tableOf hh, covers z pc = false ∨ (z.catchType ≠ 0 ∧ ∃ nm : String, Cond.classLink y.cls z.catchType nm ∈ lw_all ∧ (r.1, nm) ∈ znc)) (k : K (.inr q) μ) : ZX w g K mc ms pc lv q μ kc ks := by
  intro H locs ls st hR hb hl d e f
  obtain ⟨ce, h1, h2, h3, h4⟩ := zThrown C hR h0 hc hz hr
  refine vx_outP C.own (zBackOK C) ?_ h1 h2 h3 (fun t ht hW => ⟨μ, r, by rw [ht]; exact hR, k, by rw [hc]; exact hlt, by rw [hc]; exact h0, by rw [hc]; exact hz, by rw [hc]; exact hr, rfl⟩) hl e f
  rw [C.2.2.2.2.2.2.2.1]
  intro z hz
  rcases hp z hz with h | ⟨h, nm, hl, hn⟩
  · exact Or.inl h
  · exact Or.inr ⟨h, nm, C.ts _ hl, C.kw.2.2.2.2.1 _ hn⟩
theorem z_catch (C : Cx w g y cc nL ret hh fr lo) {q ci : Nat} {r : vw_C} {name : String} {hpc : Nat} (h0 : ci ≠ 0) (hc : zC μ q = ci) (hz : zFz ci = true) (hr : zcl[ci]? = some r) (pre : List ExceptionTableEntry) (x : ExceptionTableEntry) (suf : List ExceptionTableEntry) (hsplit : tableOf hh = pre ++ x :: suf)
    (hp : ∀ z ∈ pre, covers z pc = false ∨ (z.catchType ≠ 0 ∧ ∃ nm : String, Cond.classLink y.cls z.catchType nm ∈ lw_all ∧ (r.1, nm) ∈ znc)) (hx : covers x pc = true) (hx0 : x.catchType ≠ 0) (hlink : Cond.classLink y.cls x.catchType name ∈ lw_all) (hcast : Cond.castable r.1 name ∈ lw_tbl) (ehp : x.handlerPc = hpc)
    (k : Z w g K mc ms hpc lv [tR (some q)] μ kc ks) : ZX w g K mc ms pc lv q μ kc ks := by
  intro H locs ls st hR hb hl d e f
  obtain ⟨ce, h1, h2, h3, h4⟩ := zThrown C hR h0 hc hz hr
  subst ehp
  refine vx_catch C.own pre x suf (by rw [C.2.2.2.2.2.2.2.1]; exact hsplit) ?_ hx hx0 (C.ts _ hlink) (C.nw hcast rfl) h1 h2 h3 (k H locs ls hR hb hl d e f)
  intro z hz
  rcases hp z hz with h | ⟨h, nm, hl, hn⟩
  · exact Or.inl h
  · exact Or.inr ⟨h, nm, C.ts _ hl, C.kw.2.2.2.2.1 _ hn⟩
-- 'new E()' of an exception of the JDK's: new, dup, invokespecial
theorem z_make0 (C : Cx w g y cc nL ret hh fr lo) {ci ik ic : Nat} {cls : String} {T0 : u_T} (names : List String) (hcl : zcl[ci]? = some (cls, T0, 0)) (hci : ci ≠ 0) (hci2 : ci < 100) (hfl : (zFl ci).length = 0) (hcls : Bundle.fit cls = true) (hnames : ∀ n ∈ names, Bundle.fit n = true) (hk : Cond.classLink y.cls ik cls ∈ lw_all) (hini : Cond.initialized cls ∈ lw_all)
    (hat : ∀ c ∈ vx_at0 y.cls ic cls names, c ∈ lw_tbl ∧ (c ∈ lw_all ∨ zNwk c = true)) (hgood : ∀ c ∈ Cond.classLink y.cls ik cls :: Cond.initialized cls :: vx_at0 y.cls ic cls names, vx_ot c = true)
    (d0 : decode cc pc = .ok (.new ik, 3)) (d3 : decode cc (pc + 3) = .ok (.dup, 1)) (d4 : decode cc (pc + 4) = .ok (.invokespecial ic, 3)) (hRf : names.length + 3 < fr) (hRl : (st.map fun a => if tcat a then 2 else 1).sum + (13 * (names.length + 1) + 42) ≤ lo) (h1 : kc + 1 ≤ mc) (h2 : ks + 6 ≤ ms)
    (k : Z w g K mc ms (pc + 7) lv (tR (some (zS μ)) :: st) (zNew μ ci 0) (kc + 1) (ks + 6)) : Z w g K mc ms pc lv st μ kc ks := by
  intro H locs ls hR hb hl d e f
  have hs : ((st.map tv).map fun v => v.category).sum = (st.map fun a => if tcat a then 2 else 1).sum := by
    clear hRl k
    induction st with
    | nil => rfl
    | cons a t ih =>
      have h := tv_cat a
      simp only [List.map_cons, List.sum_cons, ih]
      congr 1
      rcases lv_cat (tv a) with q | q <;> rw [q] at h ⊢ <;> cases ht : tcat a <;> simp [ht] at h ⊢
  obtain ⟨hU, hN⟩ := C.kw.2.2.2.2.2.2.2.1
  refine vx_make0 C.1 C.2.1 C.kw.1 C.own hcls hnames (C.ts _ hk) (C.ts _ hini) (fun c hc => ?_) hgood (hU.kept C.vaS0) (hN.kept C.vaS0) (C.vaS hR hb hl) d.1 d0 d3 d4 C.kw.2.1 hcl ?_ ?_ h1 h2 fun H1 ce z1 o1 e1 e2 e3 => ?_
  · obtain ⟨g1, g2⟩ := hat c hc
    rcases g2 with g2 | g2
    · exact C.ts _ g2
    · exact C.nw g1 g2
  · show _ < gf g
    rw [C.2.2.2.2.2.2.2.2.2.2.2.1]; exact hRf
  · show _ ≤ gl g
    rw [hs, C.2.2.2.2.2.2.2.2.2.2.2.2]; exact hRl
  · have kk := k H1 locs ls ?_ (by omega) hl d h1 h2
    · rw [hR.1]; exact kk
    · exact hR.new (Nat.lt_trans hci2 (by decide)) e1 e2 e3 ⟨fun _ => ⟨fun z => absurd hfl (by rcases z with rfl | rfl <;> decide), fun j hj => absurd (by rw [hfl] at hj; exact hj) (Nat.not_lt_zero j)⟩, fun hx => absurd hci2 (Nat.not_lt.mpr hx)⟩ z1 o1
/-- a method without handlers: out it goes -/
theorem z_out0 (C : Cx w g y cc nL ret [] fr lo) {q : Nat} {r : vw_C} (h0 : zC μ q ≠ 0) (hlt : zC μ q < 100) (hz : zFz (zC μ q) = true) (hr : zcl[zC μ q]? = some r) (k : K (.inr q) μ) : ZX w g K mc ms pc lv q μ kc ks :=
  z_out C h0 hlt rfl hz hr (fun z hz => absurd hz (by simp [tableOf])) k
end ZH3
