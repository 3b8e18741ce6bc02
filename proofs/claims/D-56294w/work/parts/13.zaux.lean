theorem zFdOf {own : String} {index g0 ci : Nat} {b : Bool} {μ : Mem} {a : Nat} (e : zC μ a = ci) (h : zFd own index g0 b ci) : zFd own index g0 b (zC μ a) := by rw [e]; exact h
theorem zFpOf {yy : MethodName} {index g0 ci : Nat} {b : Bool} {t : FieldType} {μ : Mem} {a : Nat} (e : zC μ a = ci) (h : zFp yy index g0 b t ci) : zFp yy index g0 b t (zC μ a) := by rw [e]; exact h
/-- a value fits a field, or an answer, of a small type -/
def zNar (t : FieldType) (v : Int32) : Prop := narrow t (.int v) = .int v ∧ fits t (.int v) = true
theorem zNar_b {v : Int32} (h : v = 0 ∨ v = 1) : zNar .boolean v := by rcases h with rfl | rfl <;> exact ⟨rfl, rfl⟩
theorem zFzOf {ci : Nat} {μ : Mem} {a : Nat} (e : zC μ a = ci) (h : zFz ci = true) : zFz (zC μ a) = true := by rw [e]; exact h
theorem zC_keep {w : WT} {μ : Mem} {a ci c n : Nat} (m : zM w μ) (h : zC μ a = ci) (h0 : ci ≠ 0) : zC (zNew μ c n) a = ci := by
  have h1 := (m.1 a (by rw [h]; exact h0)).1
  rw [zC_zNew, if_neg (Nat.ne_of_lt h1)]; exact h
section ZAUX
variable {w : WT} {g : GT} {y : MethodName} {cc : ByteArray} {nL : Nat} {ret : Option FieldType} {hh : List (Nat × Nat × Nat × Nat)} {fr lo : Nat} {K : Out → Mem → Prop} {mc ms pc : Nat} {lv : List (Nat × TV)} {st : List TV} {μ : Mem} {kc ks : Nat}
theorem Z.mem (k : ∀ μ1 : Mem, μ1 = μ → Z w g K mc ms pc lv st μ1 kc ks) : Z w g K mc ms pc lv st μ kc ks := k μ rfl
theorem z_newE (C : Cx w g y cc nL ret hh fr lo) {ci N n0 index : Nat} {CN : String} {T : u_T} {ty : Nat → FieldType} (hk : zCls ci CN T N ty) (hq1 : Cond.classLink y.cls index CN ∈ lw_all) (hq2 : Cond.instantiable CN n0 ∈ lw_all) (hq3 : Cond.initialized CN ∈ lw_all) (h1 : kc + 1 ≤ mc) (h2 : ks + n0 ≤ ms) (hd : decode cc pc = .ok (.new index, 3))
    (k : ∀ (a : Nat) (μ1 : Mem), a = zS μ → μ1 = zNew μ ci 0 → Z w g K mc ms (pc + 3) lv (tR (some a) :: st) μ1 (kc + 1) (ks + n0)) (hn6 : ci = 13 ∨ ci = 14 → 6 ≤ n0 := by decide) : Z w g K mc ms pc lv st μ kc ks := z_new C hk hq1 hq2 hq3 h1 h2 hd (k _ _ rfl rfl) hn6
theorem z_newaE (C : Cx w g y cc nL ret hh fr lo) {ci : Nat} {atype : ArrayType} {n : Int32} {N : Nat} (hci : (ci = 101 ∧ atype = .int) ∨ (ci = 102 ∧ atype = .byte) ∨ (ci = 110 ∧ atype = .long) ∨ (ci = 111 ∧ atype = .double)) (harr : Cond.arrayClass (newarray.typeOf atype) ∈ lw_all) (hn : ¬ n < 0) (hN : n.toNatClampNeg = N) (hb8 : N ≤ 1000000) (h1 : kc + 1 ≤ mc) (h2 : ks + N ≤ ms) (hd : decode cc pc = .ok (.newarray atype, 2))
    (k : ∀ (a : Nat) (μ1 : Mem), a = zS μ → μ1 = zNew μ ci N → Z w g K mc ms (pc + 2) lv (tR (some a) :: st) μ1 (kc + 1) (ks + N)) : Z w g K mc ms pc lv (tI n :: st) μ kc ks := z_newa C hci harr hn hN hb8 h1 h2 hd (k _ _ rfl rfl)
theorem z_anewE (C : Cx w g y cc nL ret hh fr lo) {index : Nat} {n : Int32} {N : Nat} (hq : Cond.classLink y.cls index "java/lang/Object" ∈ lw_all) (hn : ¬ n < 0) (hN : n.toNatClampNeg = N) (hb8 : N ≤ 1000000) (h1 : kc + 1 ≤ mc) (h2 : ks + N ≤ ms) (hd : decode cc pc = .ok (.anewarray index, 3))
    (k : ∀ (a : Nat) (μ1 : Mem), a = zS μ → μ1 = zNew μ 120 N → Z w g K mc ms (pc + 3) lv (tR (some a) :: st) μ1 (kc + 1) (ks + N)) : Z w g K mc ms pc lv (tI n :: st) μ kc ks := z_anew C hq hn hN hb8 h1 h2 hd (k _ _ rfl rfl)
end ZAUX
