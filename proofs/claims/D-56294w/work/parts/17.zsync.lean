/-! The two synchronized methods of Throwable. -/
set_option maxRecDepth 100000
section ZSY
variable {w : WT} {g : GT} {y : MethodName} {cc : ByteArray} {nL : Nat} {ret : Option FieldType} {hh : List (Nat × Nat × Nat × Nat)} {fr lo : Nat} {K : Out → Mem → Prop} {mc ms pc : Nat} {lv : List (Nat × TV)} {st : List TV} {μ : Mem} {kc ks : Nat}
theorem z_fillSync (C : Cx w g y cc nL ret hh fr lo) {index a u : Nat} {r : Option Nat} (q1 : Cond.methodLink y.cls index ⟨"java/lang/Throwable", "fillInStackTrace", "()Ljava/lang/Throwable;"⟩ ∈ lw_all) (hr : r = some a) (hc : zC μ a = 5 ∨ zC μ a = 6 ∨ zC μ a = 16) (hu : zSt w 7 = tR (some u)) (h15 : zR μ 15 a = some u)
    (hR : 3 ≤ fr ∧ (st.map fun a => if tcat a then 2 else 1).sum + 40 ≤ lo) (hd : decode cc pc = .ok (.invokevirtual index, 3)) (k : Z w g K mc ms (pc + 3) lv (tR (some a) :: st) μ kc ks) : Z w g K mc ms pc lv (tR r :: st) μ kc ks := sorry
theorem z_getCause (C : Cx w g y cc nL ret hh fr lo) {index a : Nat} {r : Option Nat} (q1 : Cond.methodLink y.cls index ⟨"HutRidge$CommandFailure", "getCause", "()Ljava/lang/Throwable;"⟩ ∈ lw_all) (hr : r = some a) (hc : zC μ a = 5)
    (hR : 3 ≤ fr ∧ (st.map fun a => if tcat a then 2 else 1).sum + 40 ≤ lo) (hd : decode cc pc = .ok (.invokevirtual index, 3)) (k : ∀ v : Option Nat, v = (if zR μ 14 a = some a then none else zR μ 14 a) → Z w g K mc ms (pc + 3) lv (tR v :: st) μ kc ks) : Z w g K mc ms pc lv (tR r :: st) μ kc ks := sorry
end ZSY
