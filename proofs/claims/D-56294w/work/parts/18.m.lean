set_option maxRecDepth 100000
/-! HutRidgeModel.<init>()V -/
def Tr_X3_init (w : WT) (this : Nat) (μ : Mem) (mc ms : Nat) (K : Out → Mem → Prop) : Prop := Tr w yX3_init (ws_ yX3_init cX3_init 1 (Option.none : Option Jvm.ClassFile.FieldType)) 1 40 [tR (some this)] μ mc ms K
def Cx_X3_init (w : WT) (g : GT) : Prop := Cx w g yX3_init cX3_init 1 (Option.none : Option Jvm.ClassFile.FieldType) [] 1 40
theorem yd_X3_init : yX3_init.cls ≠ "java/lang/invoke/MethodHandle" ∧ yX3_init.cls ≠ "java/lang/invoke/VarHandle" ∧ (parseMethodDescriptor yX3_init.desc).map (fun d => d.parameters.length) = some 0 := by decide +kernel
theorem zp_X3_7_18 {yy : MethodName} (hy : yy.cls = RX3) : zFp yy 7 59 false .int 18 := by obtain ⟨c0, n0, d0⟩ := yy; cases hy; exact ⟨2, _, _, _, _, _, zk_18, rfl, Or.inl q3596, Or.inl rfl, rfl, Or.inl rfl⟩
theorem zp_X3_13_18 {yy : MethodName} (hy : yy.cls = RX3) : zFp yy 13 60 false .int 18 := by obtain ⟨c0, n0, d0⟩ := yy; cases hy; exact ⟨3, _, _, _, _, _, zk_18, rfl, Or.inl q3597, Or.inl rfl, rfl, Or.inl rfl⟩
theorem zp_X3_init_16_18 : zFp yX3_init 16 63 true (.array .int) 18 := ⟨6, _, _, _, _, _, zk_18, rfl, Or.inl q3600, Or.inl rfl, rfl, Or.inr ⟨rfl, rfl, rfl, q3600⟩⟩
theorem zp_X3_init_20_18 : zFp yX3_init 20 64 true (.array .int) 18 := ⟨7, _, _, _, _, _, zk_18, rfl, Or.inl q3601, Or.inl rfl, rfl, Or.inr ⟨rfl, rfl, rfl, q3601⟩⟩
theorem zp_X3_init_23_18 : zFp yX3_init 23 65 true (.array .int) 18 := ⟨8, _, _, _, _, _, zk_18, rfl, Or.inl q3602, Or.inl rfl, rfl, Or.inr ⟨rfl, rfl, rfl, q3602⟩⟩
theorem zp_X3_init_26_18 : zFp yX3_init 26 66 true (.array .int) 18 := ⟨9, _, _, _, _, _, zk_18, rfl, Or.inl q3603, Or.inl rfl, rfl, Or.inr ⟨rfl, rfl, rfl, q3603⟩⟩
theorem zp_X3_init_29_18 : zFp yX3_init 29 67 true (.array .int) 18 := ⟨10, _, _, _, _, _, zk_18, rfl, Or.inl q3604, Or.inl rfl, rfl, Or.inr ⟨rfl, rfl, rfl, q3604⟩⟩
theorem zp_X3_init_32_18 : zFp yX3_init 32 68 true (.array .int) 18 := ⟨11, _, _, _, _, _, zk_18, rfl, Or.inl q3605, Or.inl rfl, rfl, Or.inr ⟨rfl, rfl, rfl, q3605⟩⟩
theorem zp_X3_init_35_18 : zFp yX3_init 35 69 true (.array .int) 18 := ⟨12, _, _, _, _, _, zk_18, rfl, Or.inl q3606, Or.inl rfl, rfl, Or.inr ⟨rfl, rfl, rfl, q3606⟩⟩
theorem zp_X3_init_38_18 : zFp yX3_init 38 70 true (.array .int) 18 := ⟨13, _, _, _, _, _, zk_18, rfl, Or.inl q3607, Or.inl rfl, rfl, Or.inr ⟨rfl, rfl, rfl, q3607⟩⟩
theorem zp_X3_init_41_18 : zFp yX3_init 41 71 true (.array .int) 18 := ⟨14, _, _, _, _, _, zk_18, rfl, Or.inl q3608, Or.inl rfl, rfl, Or.inr ⟨rfl, rfl, rfl, q3608⟩⟩
theorem zp_X3_init_44_18 : zFp yX3_init 44 72 true (.array .int) 18 := ⟨15, _, _, _, _, _, zk_18, rfl, Or.inl q3609, Or.inl rfl, rfl, Or.inr ⟨rfl, rfl, rfl, q3609⟩⟩
theorem zp_X3_init_47_18 : zFp yX3_init 47 73 true (.array .int) 18 := ⟨16, _, _, _, _, _, zk_18, rfl, Or.inl q3610, Or.inl rfl, rfl, Or.inr ⟨rfl, rfl, rfl, q3610⟩⟩
theorem zp_X3_init_50_18 : zFp yX3_init 50 74 true (.array .int) 18 := ⟨17, _, _, _, _, _, zk_18, rfl, Or.inl q3611, Or.inl rfl, rfl, Or.inr ⟨rfl, rfl, rfl, q3611⟩⟩
theorem zp_X3_init_53_18 : zFp yX3_init 53 75 true (.array .int) 18 := ⟨18, _, _, _, _, _, zk_18, rfl, Or.inl q3612, Or.inl rfl, rfl, Or.inr ⟨rfl, rfl, rfl, q3612⟩⟩
set_option maxHeartbeats 4000000 in
theorem tr_X3_init {w : WT} {this : Nat} {μ : Mem} {mc ms : Nat} {K : Out → Mem → Prop} (h : zM w μ → zC μ this = 18 ∧ ∀ μ3 : Mem, μ3 = zsI μ 59 this (-1 : Int32) → ∀ μ7 : Mem, μ7 = zsI μ3 60 this (-1 : Int32) → 1 ≤ mc ∧ 94 ≤ ms ∧ ∀ (a21 : Nat) (μ22 : Mem), a21 = zS μ7 → μ22 = zNew μ7 101 94 → ∀ μ28 : Mem, μ28 = zsR μ22 63 this (some a21) → 2 ≤ mc ∧ 188 ≤ ms ∧ ∀ (a43 : Nat) (μ44 : Mem), a43 = zS μ28 → μ44 = zNew μ28 101 94 → ∀ μ51 : Mem, μ51 = zsR μ44 64 this (some a43) → 3 ≤ mc ∧ 282 ≤ ms ∧ ∀ (a67 : Nat) (μ68 : Mem), a67 = zS μ51 → μ68 = zNew μ51 101 94 → ∀ μ76 : Mem, μ76 = zsR μ68 65 this (some a67) → 4 ≤ mc ∧ 1034 ≤ ms ∧ ∀ (a93 : Nat) (μ94 : Mem), a93 = zS μ76 → μ94 = zNew μ76 101 752 → ∀ μ103 : Mem, μ103 = zsR μ94 66 this (some a93) → 5 ≤ mc ∧ 1114 ≤ ms ∧ ∀ (a121 : Nat) (μ122 : Mem), a121 = zS μ103 → μ122 = zNew μ103 101 80 → ∀ μ132 : Mem, μ132 = zsR μ122 67 this (some a121) → 6 ≤ mc ∧ 1130 ≤ ms ∧ ∀ (a151 : Nat) (μ152 : Mem), a151 = zS μ132 → μ152 = zNew μ132 101 16 → ∀ μ163 : Mem, μ163 = zsR μ152 68 this (some a151) → 7 ≤ mc ∧ 1138 ≤ ms ∧ ∀ (a183 : Nat) (μ184 : Mem), a183 = zS μ163 → μ184 = zNew μ163 101 8 → ∀ μ196 : Mem, μ196 = zsR μ184 69 this (some a183) → 8 ≤ mc ∧ 1198 ≤ ms ∧ ∀ (a217 : Nat) (μ218 : Mem), a217 = zS μ196 → μ218 = zNew μ196 101 60 → ∀ μ231 : Mem, μ231 = zsR μ218 70 this (some a217) → 9 ≤ mc ∧ 1262 ≤ ms ∧ ∀ (a253 : Nat) (μ254 : Mem), a253 = zS μ231 → μ254 = zNew μ231 101 64 → ∀ μ268 : Mem, μ268 = zsR μ254 71 this (some a253) → 10 ≤ mc ∧ 1272 ≤ ms ∧ ∀ (a291 : Nat) (μ292 : Mem), a291 = zS μ268 → μ292 = zNew μ268 101 10 → ∀ μ307 : Mem, μ307 = zsR μ292 72 this (some a291) → 11 ≤ mc ∧ 1324 ≤ ms ∧ ∀ (a331 : Nat) (μ332 : Mem), a331 = zS μ307 → μ332 = zNew μ307 101 52 → zB w ≤ a331 ∧ vp_in 0 (zN μ332 a331) ∧ ∀ μ352 : Mem, μ352 = zsA μ332 a331 0 (nI 104) → zB w ≤ a331 ∧ vp_in 1 (zN μ352 a331) ∧ ∀ μ370 : Mem, μ370 = zsA μ352 a331 1 (nI 117) → zB w ≤ a331 ∧ vp_in (nI 2) (zN μ370 a331) ∧ ∀ μ388 : Mem, μ388 = zsA μ370 a331 2 (nI 116) → zB w ≤ a331 ∧ vp_in (nI 3) (zN μ388 a331) ∧ ∀ μ406 : Mem, μ406 = zsA μ388 a331 3 (nI 32) → zB w ≤ a331 ∧ vp_in (nI 4) (zN μ406 a331) ∧ ∀ μ424 : Mem, μ424 = zsA μ406 a331 4 (nI 116) → zB w ≤ a331 ∧ vp_in (nI 5) (zN μ424 a331) ∧ ∀ μ442 : Mem, μ442 = zsA μ424 a331 5 (nI 101) → zB w ≤ a331 ∧ vp_in (nI 6) (zN μ442 a331) ∧ ∀ μ460 : Mem, μ460 = zsA μ442 a331 6 (nI 97) → zB w ≤ a331 ∧ vp_in (nI 7) (zN μ460 a331) ∧ ∀ μ478 : Mem, μ478 = zsA μ460 a331 7 (nI 114) → zB w ≤ a331 ∧ vp_in (nI 8) (zN μ478 a331) ∧ ∀ μ496 : Mem, μ496 = zsA μ478 a331 8 (nI 32) → zB w ≤ a331 ∧ vp_in (nI 9) (zN μ496 a331) ∧ ∀ μ514 : Mem, μ514 = zsA μ496 a331 9 (nI 108) → zB w ≤ a331 ∧ vp_in (nI 10) (zN μ514 a331) ∧ ∀ μ532 : Mem, μ532 = zsA μ514 a331 10 (nI 101) → zB w ≤ a331 ∧ vp_in (nI 11) (zN μ532 a331) ∧ ∀ μ550 : Mem, μ550 = zsA μ532 a331 11 (nI 118) → zB w ≤ a331 ∧ vp_in (nI 12) (zN μ550 a331) ∧ ∀ μ568 : Mem, μ568 = zsA μ550 a331 12 (nI 101) → zB w ≤ a331 ∧ vp_in (nI 13) (zN μ568 a331) ∧ ∀ μ586 : Mem, μ586 = zsA μ568 a331 13 (nI 108) → zB w ≤ a331 ∧ vp_in (nI 14) (zN μ586 a331) ∧ ∀ μ604 : Mem, μ604 = zsA μ586 a331 14 (nI 32) → zB w ≤ a331 ∧ vp_in (nI 15) (zN μ604 a331) ∧ ∀ μ622 : Mem, μ622 = zsA μ604 a331 15 (nI 98) → zB w ≤ a331 ∧ vp_in (nI 16) (zN μ622 a331) ∧ ∀ μ640 : Mem, μ640 = zsA μ622 a331 16 (nI 108) → zB w ≤ a331 ∧ vp_in (nI 17) (zN μ640 a331) ∧ ∀ μ658 : Mem, μ658 = zsA μ640 a331 17 (nI 111) → zB w ≤ a331 ∧ vp_in (nI 18) (zN μ658 a331) ∧ ∀ μ676 : Mem, μ676 = zsA μ658 a331 18 (nI 99) → zB w ≤ a331 ∧ vp_in (nI 19) (zN μ676 a331) ∧ ∀ μ694 : Mem, μ694 = zsA μ676 a331 19 (nI 107) → zB w ≤ a331 ∧ vp_in (nI 20) (zN μ694 a331) ∧ ∀ μ712 : Mem, μ712 = zsA μ694 a331 20 (nI 32) → zB w ≤ a331 ∧ vp_in (nI 21) (zN μ712 a331) ∧ ∀ μ730 : Mem, μ730 = zsA μ712 a331 21 (nI 111) → zB w ≤ a331 ∧ vp_in (nI 22) (zN μ730 a331) ∧ ∀ μ748 : Mem, μ748 = zsA μ730 a331 22 (nI 112) → zB w ≤ a331 ∧ vp_in (nI 23) (zN μ748 a331) ∧ ∀ μ766 : Mem, μ766 = zsA μ748 a331 23 (nI 101) → zB w ≤ a331 ∧ vp_in (nI 24) (zN μ766 a331) ∧ ∀ μ784 : Mem, μ784 = zsA μ766 a331 24 (nI 110) → zB w ≤ a331 ∧ vp_in (nI 25) (zN μ784 a331) ∧ ∀ μ802 : Mem, μ802 = zsA μ784 a331 25 (nI 32) → zB w ≤ a331 ∧ vp_in (nI 26) (zN μ802 a331) ∧ ∀ μ820 : Mem, μ820 = zsA μ802 a331 26 (nI 115) → zB w ≤ a331 ∧ vp_in (nI 27) (zN μ820 a331) ∧ ∀ μ838 : Mem, μ838 = zsA μ820 a331 27 (nI 110) → zB w ≤ a331 ∧ vp_in (nI 28) (zN μ838 a331) ∧ ∀ μ856 : Mem, μ856 = zsA μ838 a331 28 (nI 111) → zB w ≤ a331 ∧ vp_in (nI 29) (zN μ856 a331) ∧ ∀ μ874 : Mem, μ874 = zsA μ856 a331 29 (nI 119) → zB w ≤ a331 ∧ vp_in (nI 30) (zN μ874 a331) ∧ ∀ μ892 : Mem, μ892 = zsA μ874 a331 30 (nI 32) → zB w ≤ a331 ∧ vp_in (nI 31) (zN μ892 a331) ∧ ∀ μ910 : Mem, μ910 = zsA μ892 a331 31 (nI 116) → zB w ≤ a331 ∧ vp_in (nI 32) (zN μ910 a331) ∧ ∀ μ928 : Mem, μ928 = zsA μ910 a331 32 (nI 104) → zB w ≤ a331 ∧ vp_in (nI 33) (zN μ928 a331) ∧ ∀ μ946 : Mem, μ946 = zsA μ928 a331 33 (nI 97) → zB w ≤ a331 ∧ vp_in (nI 34) (zN μ946 a331) ∧ ∀ μ964 : Mem, μ964 = zsA μ946 a331 34 (nI 119) → zB w ≤ a331 ∧ vp_in (nI 35) (zN μ964 a331) ∧ ∀ μ982 : Mem, μ982 = zsA μ964 a331 35 (nI 32) → zB w ≤ a331 ∧ vp_in (nI 36) (zN μ982 a331) ∧ ∀ μ1000 : Mem, μ1000 = zsA μ982 a331 36 (nI 104) → zB w ≤ a331 ∧ vp_in (nI 37) (zN μ1000 a331) ∧ ∀ μ1018 : Mem, μ1018 = zsA μ1000 a331 37 (nI 105) → zB w ≤ a331 ∧ vp_in (nI 38) (zN μ1018 a331) ∧ ∀ μ1036 : Mem, μ1036 = zsA μ1018 a331 38 (nI 107) → zB w ≤ a331 ∧ vp_in (nI 39) (zN μ1036 a331) ∧ ∀ μ1054 : Mem, μ1054 = zsA μ1036 a331 39 (nI 101) → zB w ≤ a331 ∧ vp_in (nI 40) (zN μ1054 a331) ∧ ∀ μ1072 : Mem, μ1072 = zsA μ1054 a331 40 (nI 114) → zB w ≤ a331 ∧ vp_in (nI 41) (zN μ1072 a331) ∧ ∀ μ1090 : Mem, μ1090 = zsA μ1072 a331 41 (nI 32) → zB w ≤ a331 ∧ vp_in (nI 42) (zN μ1090 a331) ∧ ∀ μ1108 : Mem, μ1108 = zsA μ1090 a331 42 (nI 119) → zB w ≤ a331 ∧ vp_in (nI 43) (zN μ1108 a331) ∧ ∀ μ1126 : Mem, μ1126 = zsA μ1108 a331 43 (nI 97) → zB w ≤ a331 ∧ vp_in (nI 44) (zN μ1126 a331) ∧ ∀ μ1144 : Mem, μ1144 = zsA μ1126 a331 44 (nI 108) → zB w ≤ a331 ∧ vp_in (nI 45) (zN μ1144 a331) ∧ ∀ μ1162 : Mem, μ1162 = zsA μ1144 a331 45 (nI 107) → zB w ≤ a331 ∧ vp_in (nI 46) (zN μ1162 a331) ∧ ∀ μ1180 : Mem, μ1180 = zsA μ1162 a331 46 (nI 32) → zB w ≤ a331 ∧ vp_in (nI 47) (zN μ1180 a331) ∧ ∀ μ1198 : Mem, μ1198 = zsA μ1180 a331 47 (nI 103) → zB w ≤ a331 ∧ vp_in (nI 48) (zN μ1198 a331) ∧ ∀ μ1216 : Mem, μ1216 = zsA μ1198 a331 48 (nI 111) → zB w ≤ a331 ∧ vp_in (nI 49) (zN μ1216 a331) ∧ ∀ μ1234 : Mem, μ1234 = zsA μ1216 a331 49 (nI 110) → zB w ≤ a331 ∧ vp_in (nI 50) (zN μ1234 a331) ∧ ∀ μ1252 : Mem, μ1252 = zsA μ1234 a331 50 (nI 101) → zB w ≤ a331 ∧ vp_in (nI 51) (zN μ1252 a331) ∧ ∀ μ1270 : Mem, μ1270 = zsA μ1252 a331 51 (nI 32) → ∀ μ1284 : Mem, μ1284 = zsR μ1270 73 this (some a331) → 12 ≤ mc ∧ 1335 ≤ ms ∧ ∀ (a1309 : Nat) (μ1310 : Mem), a1309 = zS μ1284 → μ1310 = zNew μ1284 101 11 → zB w ≤ a1309 ∧ vp_in 0 (zN μ1310 a1309) ∧ ∀ μ1331 : Mem, μ1331 = zsA μ1310 a1309 0 0 → zB w ≤ a1309 ∧ vp_in 1 (zN μ1331 a1309) ∧ ∀ μ1350 : Mem, μ1350 = zsA μ1331 a1309 1 (nI 4) → zB w ≤ a1309 ∧ vp_in (nI 2) (zN μ1350 a1309) ∧ ∀ μ1369 : Mem, μ1369 = zsA μ1350 a1309 2 (nI 9) → zB w ≤ a1309 ∧ vp_in (nI 3) (zN μ1369 a1309) ∧ ∀ μ1388 : Mem, μ1388 = zsA μ1369 a1309 3 (nI 15) → zB w ≤ a1309 ∧ vp_in (nI 4) (zN μ1388 a1309) ∧ ∀ μ1407 : Mem, μ1407 = zsA μ1388 a1309 4 (nI 21) → zB w ≤ a1309 ∧ vp_in (nI 5) (zN μ1407 a1309) ∧ ∀ μ1426 : Mem, μ1426 = zsA μ1407 a1309 5 (nI 26) → zB w ≤ a1309 ∧ vp_in (nI 6) (zN μ1426 a1309) ∧ ∀ μ1445 : Mem, μ1445 = zsA μ1426 a1309 6 (nI 31) → zB w ≤ a1309 ∧ vp_in (nI 7) (zN μ1445 a1309) ∧ ∀ μ1464 : Mem, μ1464 = zsA μ1445 a1309 7 (nI 36) → zB w ≤ a1309 ∧ vp_in (nI 8) (zN μ1464 a1309) ∧ ∀ μ1483 : Mem, μ1483 = zsA μ1464 a1309 8 (nI 42) → zB w ≤ a1309 ∧ vp_in (nI 9) (zN μ1483 a1309) ∧ ∀ μ1502 : Mem, μ1502 = zsA μ1483 a1309 9 (nI 47) → zB w ≤ a1309 ∧ vp_in (nI 10) (zN μ1502 a1309) ∧ ∀ μ1521 : Mem, μ1521 = zsA μ1502 a1309 10 (nI 52) → ∀ μ1536 : Mem, μ1536 = zsR μ1521 74 this (some a1309) → 13 ≤ mc ∧ 1365 ≤ ms ∧ ∀ (a1562 : Nat) (μ1563 : Mem), a1562 = zS μ1536 → μ1563 = zNew μ1536 101 30 → zB w ≤ a1562 ∧ vp_in 0 (zN μ1563 a1562) ∧ ∀ μ1585 : Mem, μ1585 = zsA μ1563 a1562 0 (nI 97) → zB w ≤ a1562 ∧ vp_in 1 (zN μ1585 a1562) ∧ ∀ μ1605 : Mem, μ1605 = zsA μ1585 a1562 1 (nI 115) → zB w ≤ a1562 ∧ vp_in (nI 2) (zN μ1605 a1562) ∧ ∀ μ1625 : Mem, μ1625 = zsA μ1605 a1562 2 (nI 117) → zB w ≤ a1562 ∧ vp_in (nI 3) (zN μ1625 a1562) ∧ ∀ μ1645 : Mem, μ1645 = zsA μ1625 a1562 3 (nI 101) → zB w ≤ a1562 ∧ vp_in (nI 4) (zN μ1645 a1562) ∧ ∀ μ1665 : Mem, μ1665 = zsA μ1645 a1562 4 (nI 101) → zB w ≤ a1562 ∧ vp_in (nI 5) (zN μ1665 a1562) ∧ ∀ μ1685 : Mem, μ1685 = zsA μ1665 a1562 5 (nI 101) → zB w ≤ a1562 ∧ vp_in (nI 6) (zN μ1685 a1562) ∧ ∀ μ1705 : Mem, μ1705 = zsA μ1685 a1562 6 (nI 101) → zB w ≤ a1562 ∧ vp_in (nI 7) (zN μ1705 a1562) ∧ ∀ μ1725 : Mem, μ1725 = zsA μ1705 a1562 7 (nI 97) → zB w ≤ a1562 ∧ vp_in (nI 8) (zN μ1725 a1562) ∧ ∀ μ1745 : Mem, μ1745 = zsA μ1725 a1562 8 (nI 97) → zB w ≤ a1562 ∧ vp_in (nI 9) (zN μ1745 a1562) ∧ ∀ μ1765 : Mem, μ1765 = zsA μ1745 a1562 9 (nI 97) → zB w ≤ a1562 ∧ vp_in (nI 10) (zN μ1765 a1562) ∧ ∀ μ1785 : Mem, μ1785 = zsA μ1765 a1562 10 (nI 101) → zB w ≤ a1562 ∧ vp_in (nI 11) (zN μ1785 a1562) ∧ ∀ μ1805 : Mem, μ1805 = zsA μ1785 a1562 11 (nI 101) → zB w ≤ a1562 ∧ vp_in (nI 12) (zN μ1805 a1562) ∧ ∀ μ1825 : Mem, μ1825 = zsA μ1805 a1562 12 (nI 97) → zB w ≤ a1562 ∧ vp_in (nI 13) (zN μ1825 a1562) ∧ ∀ μ1845 : Mem, μ1845 = zsA μ1825 a1562 13 (nI 101) → zB w ≤ a1562 ∧ vp_in (nI 14) (zN μ1845 a1562) ∧ ∀ μ1865 : Mem, μ1865 = zsA μ1845 a1562 14 (nI 101) → zB w ≤ a1562 ∧ vp_in (nI 15) (zN μ1865 a1562) ∧ ∀ μ1885 : Mem, μ1885 = zsA μ1865 a1562 15 (nI 97) → zB w ≤ a1562 ∧ vp_in (nI 16) (zN μ1885 a1562) ∧ ∀ μ1905 : Mem, μ1905 = zsA μ1885 a1562 16 (nI 97) → zB w ≤ a1562 ∧ vp_in (nI 17) (zN μ1905 a1562) ∧ ∀ μ1925 : Mem, μ1925 = zsA μ1905 a1562 17 (nI 97) → zB w ≤ a1562 ∧ vp_in (nI 18) (zN μ1925 a1562) ∧ ∀ μ1945 : Mem, μ1945 = zsA μ1925 a1562 18 (nI 97) → zB w ≤ a1562 ∧ vp_in (nI 19) (zN μ1945 a1562) ∧ ∀ μ1965 : Mem, μ1965 = zsA μ1945 a1562 19 (nI 97) → zB w ≤ a1562 ∧ vp_in (nI 20) (zN μ1965 a1562) ∧ ∀ μ1985 : Mem, μ1985 = zsA μ1965 a1562 20 (nI 97) → zB w ≤ a1562 ∧ vp_in (nI 21) (zN μ1985 a1562) ∧ ∀ μ2005 : Mem, μ2005 = zsA μ1985 a1562 21 (nI 97) → zB w ≤ a1562 ∧ vp_in (nI 22) (zN μ2005 a1562) ∧ ∀ μ2025 : Mem, μ2025 = zsA μ2005 a1562 22 (nI 115) → zB w ≤ a1562 ∧ vp_in (nI 23) (zN μ2025 a1562) ∧ ∀ μ2045 : Mem, μ2045 = zsA μ2025 a1562 23 (nI 115) → zB w ≤ a1562 ∧ vp_in (nI 24) (zN μ2045 a1562) ∧ ∀ μ2065 : Mem, μ2065 = zsA μ2045 a1562 24 (nI 101) → zB w ≤ a1562 ∧ vp_in (nI 25) (zN μ2065 a1562) ∧ ∀ μ2085 : Mem, μ2085 = zsA μ2065 a1562 25 (nI 97) → zB w ≤ a1562 ∧ vp_in (nI 26) (zN μ2085 a1562) ∧ ∀ μ2105 : Mem, μ2105 = zsA μ2085 a1562 26 (nI 97) → zB w ≤ a1562 ∧ vp_in (nI 27) (zN μ2105 a1562) ∧ ∀ μ2125 : Mem, μ2125 = zsA μ2105 a1562 27 (nI 101) → zB w ≤ a1562 ∧ vp_in (nI 28) (zN μ2125 a1562) ∧ ∀ μ2145 : Mem, μ2145 = zsA μ2125 a1562 28 (nI 101) → zB w ≤ a1562 ∧ vp_in (nI 29) (zN μ2145 a1562) ∧ ∀ μ2165 : Mem, μ2165 = zsA μ2145 a1562 29 (nI 101) → ∀ μ2181 : Mem, μ2181 = zsR μ2165 75 this (some a1562) → K (.inl none) μ2181) : Tr_X3_init w this μ mc ms K := by
  refine Tr.of (by decide +kernel) (Nat.le_of_ble_eq_true rfl) (fun g C => ?_)
  show Z w g K mc ms 0 [(0, tR (some this))] [] μ 0 0
  refine Z.wm fun m0 => ?_
  have h := h m0
  refine z_aload_n C dX3_init_0 0 rfl ?_
  refine z_objInit C rfl q3593 q182 q183 (by decide) dX3_init_1 ?_
  refine z_aload_n C dX3_init_4 0 rfl ?_
  refine z_iconst (v := (-1 : Int32)) C dX3_init_5 (by decide) ?_
  obtain ⟨c1, h2⟩ := h
  refine z_putI C rfl (zFpOf c1 (zp_X3_7_18 rfl)) (Or.inl (zFzOf c1 rfl)) rfl rfl dX3_init_6 ?_
  refine Z.mem fun μ3 e5 => ?_
  have h4 := h2 μ3 e5
  have c6 : zC μ3 this = 18 := by rw [e5]; exact c1
  refine z_aload_n C dX3_init_9 0 rfl ?_
  refine z_iconst (v := (-1 : Int32)) C dX3_init_10 (by decide) ?_
  refine z_putI C rfl (zFpOf c6 (zp_X3_13_18 rfl)) (Or.inl (zFzOf c6 rfl)) rfl rfl dX3_init_11 ?_
  refine Z.mem fun μ7 e9 => ?_
  have h8 := h4 μ7 e9
  have c10 : zC μ7 this = 18 := by rw [e9]; exact c6
  refine z_aload_n C dX3_init_14 0 rfl ?_
  refine z_bipush (v := (nI 94)) C dX3_init_15 (by decide) ?_
  obtain ⟨c17, c18, h19⟩ := h8
  refine Z.wm fun m25 => ?_
  refine z_newaE (ci := 101) (atype := .int) (N := 94) C (by decide) q1905 (by decide) (by decide) (by decide) c17 c18 dX3_init_17 fun a21 μ22 e23 e24 => ?_
  have h20 := h19 a21 μ22 e23 e24
  have c26 : zC μ22 a21 = 101 := by rw [e24, e23]; exact zC_new _ _ _
  have c27 : zC μ22 this = 18 := by rw [e24]; exact zC_keep m25 c10 (by decide)
  refine z_putR C rfl (zFpOf c27 zp_X3_init_16_18) (Or.inl (zFzOf c27 rfl)) rfl dX3_init_19 ?_
  refine Z.mem fun μ28 e30 => ?_
  have h29 := h20 μ28 e30
  have c31 : zC μ28 this = 18 := by rw [e30]; exact c27
  have c32 : zC μ28 a21 = 101 := by rw [e30]; exact c26
  refine z_aload_n C dX3_init_22 0 rfl ?_
  refine z_bipush (v := (nI 94)) C dX3_init_23 (by decide) ?_
  obtain ⟨c39, c40, h41⟩ := h29
  refine Z.wm fun m47 => ?_
  refine z_newaE (ci := 101) (atype := .int) (N := 94) C (by decide) q1905 (by decide) (by decide) (by decide) c39 c40 dX3_init_25 fun a43 μ44 e45 e46 => ?_
  have h42 := h41 a43 μ44 e45 e46
  have c48 : zC μ44 a43 = 101 := by rw [e46, e45]; exact zC_new _ _ _
  have c49 : zC μ44 this = 18 := by rw [e46]; exact zC_keep m47 c31 (by decide)
  have c50 : zC μ44 a21 = 101 := by rw [e46]; exact zC_keep m47 c32 (by decide)
  refine z_putR C rfl (zFpOf c49 zp_X3_init_20_18) (Or.inl (zFzOf c49 rfl)) rfl dX3_init_27 ?_
  refine Z.mem fun μ51 e53 => ?_
  have h52 := h42 μ51 e53
  have c54 : zC μ51 this = 18 := by rw [e53]; exact c49
  have c55 : zC μ51 a21 = 101 := by rw [e53]; exact c50
  have c56 : zC μ51 a43 = 101 := by rw [e53]; exact c48
  refine z_aload_n C dX3_init_30 0 rfl ?_
  refine z_bipush (v := (nI 94)) C dX3_init_31 (by decide) ?_
  obtain ⟨c63, c64, h65⟩ := h52
  refine Z.wm fun m71 => ?_
  refine z_newaE (ci := 101) (atype := .int) (N := 94) C (by decide) q1905 (by decide) (by decide) (by decide) c63 c64 dX3_init_33 fun a67 μ68 e69 e70 => ?_
  have h66 := h65 a67 μ68 e69 e70
  have c72 : zC μ68 a67 = 101 := by rw [e70, e69]; exact zC_new _ _ _
  have c73 : zC μ68 this = 18 := by rw [e70]; exact zC_keep m71 c54 (by decide)
  have c74 : zC μ68 a21 = 101 := by rw [e70]; exact zC_keep m71 c55 (by decide)
  have c75 : zC μ68 a43 = 101 := by rw [e70]; exact zC_keep m71 c56 (by decide)
  refine z_putR C rfl (zFpOf c73 zp_X3_init_23_18) (Or.inl (zFzOf c73 rfl)) rfl dX3_init_35 ?_
  refine Z.mem fun μ76 e78 => ?_
  have h77 := h66 μ76 e78
  have c79 : zC μ76 this = 18 := by rw [e78]; exact c73
  have c80 : zC μ76 a21 = 101 := by rw [e78]; exact c74
  have c81 : zC μ76 a43 = 101 := by rw [e78]; exact c75
  have c82 : zC μ76 a67 = 101 := by rw [e78]; exact c72
  refine z_aload_n C dX3_init_38 0 rfl ?_
  refine z_sipush (v := (nI 752)) C dX3_init_39 (by decide) ?_
  obtain ⟨c89, c90, h91⟩ := h77
  refine Z.wm fun m97 => ?_
  refine z_newaE (ci := 101) (atype := .int) (N := 752) C (by decide) q1905 (by decide) (by decide) (by decide) c89 c90 dX3_init_42 fun a93 μ94 e95 e96 => ?_
  have h92 := h91 a93 μ94 e95 e96
  have c98 : zC μ94 a93 = 101 := by rw [e96, e95]; exact zC_new _ _ _
  have c99 : zC μ94 this = 18 := by rw [e96]; exact zC_keep m97 c79 (by decide)
  have c100 : zC μ94 a21 = 101 := by rw [e96]; exact zC_keep m97 c80 (by decide)
  have c101 : zC μ94 a43 = 101 := by rw [e96]; exact zC_keep m97 c81 (by decide)
  have c102 : zC μ94 a67 = 101 := by rw [e96]; exact zC_keep m97 c82 (by decide)
  refine z_putR C rfl (zFpOf c99 zp_X3_init_26_18) (Or.inl (zFzOf c99 rfl)) rfl dX3_init_44 ?_
  refine Z.mem fun μ103 e105 => ?_
  have h104 := h92 μ103 e105
  have c106 : zC μ103 this = 18 := by rw [e105]; exact c99
  have c107 : zC μ103 a21 = 101 := by rw [e105]; exact c100
  have c108 : zC μ103 a43 = 101 := by rw [e105]; exact c101
  have c109 : zC μ103 a67 = 101 := by rw [e105]; exact c102
  have c110 : zC μ103 a93 = 101 := by rw [e105]; exact c98
  refine z_aload_n C dX3_init_47 0 rfl ?_
  refine z_bipush (v := (nI 80)) C dX3_init_48 (by decide) ?_
  obtain ⟨c117, c118, h119⟩ := h104
  refine Z.wm fun m125 => ?_
  refine z_newaE (ci := 101) (atype := .int) (N := 80) C (by decide) q1905 (by decide) (by decide) (by decide) c117 c118 dX3_init_50 fun a121 μ122 e123 e124 => ?_
  have h120 := h119 a121 μ122 e123 e124
  have c126 : zC μ122 a121 = 101 := by rw [e124, e123]; exact zC_new _ _ _
  have c127 : zC μ122 this = 18 := by rw [e124]; exact zC_keep m125 c106 (by decide)
  have c128 : zC μ122 a21 = 101 := by rw [e124]; exact zC_keep m125 c107 (by decide)
  have c129 : zC μ122 a43 = 101 := by rw [e124]; exact zC_keep m125 c108 (by decide)
  have c130 : zC μ122 a67 = 101 := by rw [e124]; exact zC_keep m125 c109 (by decide)
  have c131 : zC μ122 a93 = 101 := by rw [e124]; exact zC_keep m125 c110 (by decide)
  refine z_putR C rfl (zFpOf c127 zp_X3_init_29_18) (Or.inl (zFzOf c127 rfl)) rfl dX3_init_52 ?_
  refine Z.mem fun μ132 e134 => ?_
  have h133 := h120 μ132 e134
  have c135 : zC μ132 this = 18 := by rw [e134]; exact c127
  have c136 : zC μ132 a21 = 101 := by rw [e134]; exact c128
  have c137 : zC μ132 a43 = 101 := by rw [e134]; exact c129
  have c138 : zC μ132 a67 = 101 := by rw [e134]; exact c130
  have c139 : zC μ132 a93 = 101 := by rw [e134]; exact c131
  have c140 : zC μ132 a121 = 101 := by rw [e134]; exact c126
  refine z_aload_n C dX3_init_55 0 rfl ?_
  refine z_bipush (v := (nI 16)) C dX3_init_56 (by decide) ?_
  obtain ⟨c147, c148, h149⟩ := h133
  refine Z.wm fun m155 => ?_
  refine z_newaE (ci := 101) (atype := .int) (N := 16) C (by decide) q1905 (by decide) (by decide) (by decide) c147 c148 dX3_init_58 fun a151 μ152 e153 e154 => ?_
  have h150 := h149 a151 μ152 e153 e154
  have c156 : zC μ152 a151 = 101 := by rw [e154, e153]; exact zC_new _ _ _
  have c157 : zC μ152 this = 18 := by rw [e154]; exact zC_keep m155 c135 (by decide)
  have c158 : zC μ152 a21 = 101 := by rw [e154]; exact zC_keep m155 c136 (by decide)
  have c159 : zC μ152 a43 = 101 := by rw [e154]; exact zC_keep m155 c137 (by decide)
  have c160 : zC μ152 a67 = 101 := by rw [e154]; exact zC_keep m155 c138 (by decide)
  have c161 : zC μ152 a93 = 101 := by rw [e154]; exact zC_keep m155 c139 (by decide)
  have c162 : zC μ152 a121 = 101 := by rw [e154]; exact zC_keep m155 c140 (by decide)
  refine z_putR C rfl (zFpOf c157 zp_X3_init_32_18) (Or.inl (zFzOf c157 rfl)) rfl dX3_init_60 ?_
  refine Z.mem fun μ163 e165 => ?_
  have h164 := h150 μ163 e165
  have c166 : zC μ163 this = 18 := by rw [e165]; exact c157
  have c167 : zC μ163 a21 = 101 := by rw [e165]; exact c158
  have c168 : zC μ163 a43 = 101 := by rw [e165]; exact c159
  have c169 : zC μ163 a67 = 101 := by rw [e165]; exact c160
  have c170 : zC μ163 a93 = 101 := by rw [e165]; exact c161
  have c171 : zC μ163 a121 = 101 := by rw [e165]; exact c162
  have c172 : zC μ163 a151 = 101 := by rw [e165]; exact c156
  refine z_aload_n C dX3_init_63 0 rfl ?_
  refine z_bipush (v := (nI 8)) C dX3_init_64 (by decide) ?_
  obtain ⟨c179, c180, h181⟩ := h164
  refine Z.wm fun m187 => ?_
  refine z_newaE (ci := 101) (atype := .int) (N := 8) C (by decide) q1905 (by decide) (by decide) (by decide) c179 c180 dX3_init_66 fun a183 μ184 e185 e186 => ?_
  have h182 := h181 a183 μ184 e185 e186
  have c188 : zC μ184 a183 = 101 := by rw [e186, e185]; exact zC_new _ _ _
  have c189 : zC μ184 this = 18 := by rw [e186]; exact zC_keep m187 c166 (by decide)
  have c190 : zC μ184 a21 = 101 := by rw [e186]; exact zC_keep m187 c167 (by decide)
  have c191 : zC μ184 a43 = 101 := by rw [e186]; exact zC_keep m187 c168 (by decide)
  have c192 : zC μ184 a67 = 101 := by rw [e186]; exact zC_keep m187 c169 (by decide)
  have c193 : zC μ184 a93 = 101 := by rw [e186]; exact zC_keep m187 c170 (by decide)
  have c194 : zC μ184 a121 = 101 := by rw [e186]; exact zC_keep m187 c171 (by decide)
  have c195 : zC μ184 a151 = 101 := by rw [e186]; exact zC_keep m187 c172 (by decide)
  refine z_putR C rfl (zFpOf c189 zp_X3_init_35_18) (Or.inl (zFzOf c189 rfl)) rfl dX3_init_68 ?_
  refine Z.mem fun μ196 e198 => ?_
  have h197 := h182 μ196 e198
  have c199 : zC μ196 this = 18 := by rw [e198]; exact c189
  have c200 : zC μ196 a21 = 101 := by rw [e198]; exact c190
  have c201 : zC μ196 a43 = 101 := by rw [e198]; exact c191
  have c202 : zC μ196 a67 = 101 := by rw [e198]; exact c192
  have c203 : zC μ196 a93 = 101 := by rw [e198]; exact c193
  have c204 : zC μ196 a121 = 101 := by rw [e198]; exact c194
  have c205 : zC μ196 a151 = 101 := by rw [e198]; exact c195
  have c206 : zC μ196 a183 = 101 := by rw [e198]; exact c188
  refine z_aload_n C dX3_init_71 0 rfl ?_
  refine z_bipush (v := (nI 60)) C dX3_init_72 (by decide) ?_
  obtain ⟨c213, c214, h215⟩ := h197
  refine Z.wm fun m221 => ?_
  refine z_newaE (ci := 101) (atype := .int) (N := 60) C (by decide) q1905 (by decide) (by decide) (by decide) c213 c214 dX3_init_74 fun a217 μ218 e219 e220 => ?_
  have h216 := h215 a217 μ218 e219 e220
  have c222 : zC μ218 a217 = 101 := by rw [e220, e219]; exact zC_new _ _ _
  have c223 : zC μ218 this = 18 := by rw [e220]; exact zC_keep m221 c199 (by decide)
  have c224 : zC μ218 a21 = 101 := by rw [e220]; exact zC_keep m221 c200 (by decide)
  have c225 : zC μ218 a43 = 101 := by rw [e220]; exact zC_keep m221 c201 (by decide)
  have c226 : zC μ218 a67 = 101 := by rw [e220]; exact zC_keep m221 c202 (by decide)
  have c227 : zC μ218 a93 = 101 := by rw [e220]; exact zC_keep m221 c203 (by decide)
  have c228 : zC μ218 a121 = 101 := by rw [e220]; exact zC_keep m221 c204 (by decide)
  have c229 : zC μ218 a151 = 101 := by rw [e220]; exact zC_keep m221 c205 (by decide)
  have c230 : zC μ218 a183 = 101 := by rw [e220]; exact zC_keep m221 c206 (by decide)
  refine z_putR C rfl (zFpOf c223 zp_X3_init_38_18) (Or.inl (zFzOf c223 rfl)) rfl dX3_init_76 ?_
  refine Z.mem fun μ231 e233 => ?_
  have h232 := h216 μ231 e233
  have c234 : zC μ231 this = 18 := by rw [e233]; exact c223
  have c235 : zC μ231 a21 = 101 := by rw [e233]; exact c224
  have c236 : zC μ231 a43 = 101 := by rw [e233]; exact c225
  have c237 : zC μ231 a67 = 101 := by rw [e233]; exact c226
  have c238 : zC μ231 a93 = 101 := by rw [e233]; exact c227
  have c239 : zC μ231 a121 = 101 := by rw [e233]; exact c228
  have c240 : zC μ231 a151 = 101 := by rw [e233]; exact c229
  have c241 : zC μ231 a183 = 101 := by rw [e233]; exact c230
  have c242 : zC μ231 a217 = 101 := by rw [e233]; exact c222
  refine z_aload_n C dX3_init_79 0 rfl ?_
  refine z_bipush (v := (nI 64)) C dX3_init_80 (by decide) ?_
  obtain ⟨c249, c250, h251⟩ := h232
  refine Z.wm fun m257 => ?_
  refine z_newaE (ci := 101) (atype := .int) (N := 64) C (by decide) q1905 (by decide) (by decide) (by decide) c249 c250 dX3_init_82 fun a253 μ254 e255 e256 => ?_
  have h252 := h251 a253 μ254 e255 e256
  have c258 : zC μ254 a253 = 101 := by rw [e256, e255]; exact zC_new _ _ _
  have c259 : zC μ254 this = 18 := by rw [e256]; exact zC_keep m257 c234 (by decide)
  have c260 : zC μ254 a21 = 101 := by rw [e256]; exact zC_keep m257 c235 (by decide)
  have c261 : zC μ254 a43 = 101 := by rw [e256]; exact zC_keep m257 c236 (by decide)
  have c262 : zC μ254 a67 = 101 := by rw [e256]; exact zC_keep m257 c237 (by decide)
  have c263 : zC μ254 a93 = 101 := by rw [e256]; exact zC_keep m257 c238 (by decide)
  have c264 : zC μ254 a121 = 101 := by rw [e256]; exact zC_keep m257 c239 (by decide)
  have c265 : zC μ254 a151 = 101 := by rw [e256]; exact zC_keep m257 c240 (by decide)
  have c266 : zC μ254 a183 = 101 := by rw [e256]; exact zC_keep m257 c241 (by decide)
  have c267 : zC μ254 a217 = 101 := by rw [e256]; exact zC_keep m257 c242 (by decide)
  refine z_putR C rfl (zFpOf c259 zp_X3_init_41_18) (Or.inl (zFzOf c259 rfl)) rfl dX3_init_84 ?_
  refine Z.mem fun μ268 e270 => ?_
  have h269 := h252 μ268 e270
  have c271 : zC μ268 this = 18 := by rw [e270]; exact c259
  have c272 : zC μ268 a21 = 101 := by rw [e270]; exact c260
  have c273 : zC μ268 a43 = 101 := by rw [e270]; exact c261
  have c274 : zC μ268 a67 = 101 := by rw [e270]; exact c262
  have c275 : zC μ268 a93 = 101 := by rw [e270]; exact c263
  have c276 : zC μ268 a121 = 101 := by rw [e270]; exact c264
  have c277 : zC μ268 a151 = 101 := by rw [e270]; exact c265
  have c278 : zC μ268 a183 = 101 := by rw [e270]; exact c266
  have c279 : zC μ268 a217 = 101 := by rw [e270]; exact c267
  have c280 : zC μ268 a253 = 101 := by rw [e270]; exact c258
  refine z_aload_n C dX3_init_87 0 rfl ?_
  refine z_bipush (v := (nI 10)) C dX3_init_88 (by decide) ?_
  obtain ⟨c287, c288, h289⟩ := h269
  refine Z.wm fun m295 => ?_
  refine z_newaE (ci := 101) (atype := .int) (N := 10) C (by decide) q1905 (by decide) (by decide) (by decide) c287 c288 dX3_init_90 fun a291 μ292 e293 e294 => ?_
  have h290 := h289 a291 μ292 e293 e294
  have c296 : zC μ292 a291 = 101 := by rw [e294, e293]; exact zC_new _ _ _
  have c297 : zC μ292 this = 18 := by rw [e294]; exact zC_keep m295 c271 (by decide)
  have c298 : zC μ292 a21 = 101 := by rw [e294]; exact zC_keep m295 c272 (by decide)
  have c299 : zC μ292 a43 = 101 := by rw [e294]; exact zC_keep m295 c273 (by decide)
  have c300 : zC μ292 a67 = 101 := by rw [e294]; exact zC_keep m295 c274 (by decide)
  have c301 : zC μ292 a93 = 101 := by rw [e294]; exact zC_keep m295 c275 (by decide)
  have c302 : zC μ292 a121 = 101 := by rw [e294]; exact zC_keep m295 c276 (by decide)
  have c303 : zC μ292 a151 = 101 := by rw [e294]; exact zC_keep m295 c277 (by decide)
  have c304 : zC μ292 a183 = 101 := by rw [e294]; exact zC_keep m295 c278 (by decide)
  have c305 : zC μ292 a217 = 101 := by rw [e294]; exact zC_keep m295 c279 (by decide)
  have c306 : zC μ292 a253 = 101 := by rw [e294]; exact zC_keep m295 c280 (by decide)
  refine z_putR C rfl (zFpOf c297 zp_X3_init_44_18) (Or.inl (zFzOf c297 rfl)) rfl dX3_init_92 ?_
  refine Z.mem fun μ307 e309 => ?_
  have h308 := h290 μ307 e309
  have c310 : zC μ307 this = 18 := by rw [e309]; exact c297
  have c311 : zC μ307 a21 = 101 := by rw [e309]; exact c298
  have c312 : zC μ307 a43 = 101 := by rw [e309]; exact c299
  have c313 : zC μ307 a67 = 101 := by rw [e309]; exact c300
  have c314 : zC μ307 a93 = 101 := by rw [e309]; exact c301
  have c315 : zC μ307 a121 = 101 := by rw [e309]; exact c302
  have c316 : zC μ307 a151 = 101 := by rw [e309]; exact c303
  have c317 : zC μ307 a183 = 101 := by rw [e309]; exact c304
  have c318 : zC μ307 a217 = 101 := by rw [e309]; exact c305
  have c319 : zC μ307 a253 = 101 := by rw [e309]; exact c306
  have c320 : zC μ307 a291 = 101 := by rw [e309]; exact c296
  refine z_aload_n C dX3_init_95 0 rfl ?_
  refine z_bipush (v := (nI 52)) C dX3_init_96 (by decide) ?_
  obtain ⟨c327, c328, h329⟩ := h308
  refine Z.wm fun m335 => ?_
  refine z_newaE (ci := 101) (atype := .int) (N := 52) C (by decide) q1905 (by decide) (by decide) (by decide) c327 c328 dX3_init_98 fun a331 μ332 e333 e334 => ?_
  have h330 := h329 a331 μ332 e333 e334
  have c336 : zC μ332 a331 = 101 := by rw [e334, e333]; exact zC_new _ _ _
  have c337 : zC μ332 this = 18 := by rw [e334]; exact zC_keep m335 c310 (by decide)
  have c338 : zC μ332 a21 = 101 := by rw [e334]; exact zC_keep m335 c311 (by decide)
  have c339 : zC μ332 a43 = 101 := by rw [e334]; exact zC_keep m335 c312 (by decide)
  have c340 : zC μ332 a67 = 101 := by rw [e334]; exact zC_keep m335 c313 (by decide)
  have c341 : zC μ332 a93 = 101 := by rw [e334]; exact zC_keep m335 c314 (by decide)
  have c342 : zC μ332 a121 = 101 := by rw [e334]; exact zC_keep m335 c315 (by decide)
  have c343 : zC μ332 a151 = 101 := by rw [e334]; exact zC_keep m335 c316 (by decide)
  have c344 : zC μ332 a183 = 101 := by rw [e334]; exact zC_keep m335 c317 (by decide)
  have c345 : zC μ332 a217 = 101 := by rw [e334]; exact zC_keep m335 c318 (by decide)
  have c346 : zC μ332 a253 = 101 := by rw [e334]; exact zC_keep m335 c319 (by decide)
  have c347 : zC μ332 a291 = 101 := by rw [e334]; exact zC_keep m335 c320 (by decide)
  refine z_dup C dX3_init_100 rfl ?_
  refine z_iconst (v := 0) C dX3_init_101 (by decide) ?_
  refine z_bipush (v := (nI 104)) C dX3_init_102 (by decide) ?_
  obtain ⟨c348, c349, h350⟩ := h330
  refine z_iast C rfl c336 c348 c349 dX3_init_104 ?_
  refine Z.mem fun μ352 e353 => ?_
  have h351 := h350 μ352 e353
  have c354 : zC μ352 this = 18 := by rw [e353]; exact c337
  have c355 : zC μ352 a21 = 101 := by rw [e353]; exact c338
  have c356 : zC μ352 a43 = 101 := by rw [e353]; exact c339
  have c357 : zC μ352 a67 = 101 := by rw [e353]; exact c340
  have c358 : zC μ352 a93 = 101 := by rw [e353]; exact c341
  have c359 : zC μ352 a121 = 101 := by rw [e353]; exact c342
  have c360 : zC μ352 a151 = 101 := by rw [e353]; exact c343
  have c361 : zC μ352 a183 = 101 := by rw [e353]; exact c344
  have c362 : zC μ352 a217 = 101 := by rw [e353]; exact c345
  have c363 : zC μ352 a253 = 101 := by rw [e353]; exact c346
  have c364 : zC μ352 a291 = 101 := by rw [e353]; exact c347
  have c365 : zC μ352 a331 = 101 := by rw [e353]; exact c336
  refine z_dup C dX3_init_105 rfl ?_
  refine z_iconst (v := 1) C dX3_init_106 (by decide) ?_
  refine z_bipush (v := (nI 117)) C dX3_init_107 (by decide) ?_
  obtain ⟨c366, c367, h368⟩ := h351
  refine z_iast C rfl c365 c366 c367 dX3_init_109 ?_
  refine Z.mem fun μ370 e371 => ?_
  have h369 := h368 μ370 e371
  have c372 : zC μ370 this = 18 := by rw [e371]; exact c354
  have c373 : zC μ370 a21 = 101 := by rw [e371]; exact c355
  have c374 : zC μ370 a43 = 101 := by rw [e371]; exact c356
  have c375 : zC μ370 a67 = 101 := by rw [e371]; exact c357
  have c376 : zC μ370 a93 = 101 := by rw [e371]; exact c358
  have c377 : zC μ370 a121 = 101 := by rw [e371]; exact c359
  have c378 : zC μ370 a151 = 101 := by rw [e371]; exact c360
  have c379 : zC μ370 a183 = 101 := by rw [e371]; exact c361
  have c380 : zC μ370 a217 = 101 := by rw [e371]; exact c362
  have c381 : zC μ370 a253 = 101 := by rw [e371]; exact c363
  have c382 : zC μ370 a291 = 101 := by rw [e371]; exact c364
  have c383 : zC μ370 a331 = 101 := by rw [e371]; exact c365
  refine z_dup C dX3_init_110 rfl ?_
  refine z_iconst (v := (nI 2)) C dX3_init_111 (by decide) ?_
  refine z_bipush (v := (nI 116)) C dX3_init_112 (by decide) ?_
  obtain ⟨c384, c385, h386⟩ := h369
  refine z_iast C rfl c383 c384 c385 dX3_init_114 ?_
  refine Z.mem fun μ388 e389 => ?_
  have h387 := h386 μ388 e389
  have c390 : zC μ388 this = 18 := by rw [e389]; exact c372
  have c391 : zC μ388 a21 = 101 := by rw [e389]; exact c373
  have c392 : zC μ388 a43 = 101 := by rw [e389]; exact c374
  have c393 : zC μ388 a67 = 101 := by rw [e389]; exact c375
  have c394 : zC μ388 a93 = 101 := by rw [e389]; exact c376
  have c395 : zC μ388 a121 = 101 := by rw [e389]; exact c377
  have c396 : zC μ388 a151 = 101 := by rw [e389]; exact c378
  have c397 : zC μ388 a183 = 101 := by rw [e389]; exact c379
  have c398 : zC μ388 a217 = 101 := by rw [e389]; exact c380
  have c399 : zC μ388 a253 = 101 := by rw [e389]; exact c381
  have c400 : zC μ388 a291 = 101 := by rw [e389]; exact c382
  have c401 : zC μ388 a331 = 101 := by rw [e389]; exact c383
  refine z_dup C dX3_init_115 rfl ?_
  refine z_iconst (v := (nI 3)) C dX3_init_116 (by decide) ?_
  refine z_bipush (v := (nI 32)) C dX3_init_117 (by decide) ?_
  obtain ⟨c402, c403, h404⟩ := h387
  refine z_iast C rfl c401 c402 c403 dX3_init_119 ?_
  refine Z.mem fun μ406 e407 => ?_
  have h405 := h404 μ406 e407
  have c408 : zC μ406 this = 18 := by rw [e407]; exact c390
  have c409 : zC μ406 a21 = 101 := by rw [e407]; exact c391
  have c410 : zC μ406 a43 = 101 := by rw [e407]; exact c392
  have c411 : zC μ406 a67 = 101 := by rw [e407]; exact c393
  have c412 : zC μ406 a93 = 101 := by rw [e407]; exact c394
  have c413 : zC μ406 a121 = 101 := by rw [e407]; exact c395
  have c414 : zC μ406 a151 = 101 := by rw [e407]; exact c396
  have c415 : zC μ406 a183 = 101 := by rw [e407]; exact c397
  have c416 : zC μ406 a217 = 101 := by rw [e407]; exact c398
  have c417 : zC μ406 a253 = 101 := by rw [e407]; exact c399
  have c418 : zC μ406 a291 = 101 := by rw [e407]; exact c400
  have c419 : zC μ406 a331 = 101 := by rw [e407]; exact c401
  refine z_dup C dX3_init_120 rfl ?_
  refine z_iconst (v := (nI 4)) C dX3_init_121 (by decide) ?_
  refine z_bipush (v := (nI 116)) C dX3_init_122 (by decide) ?_
  obtain ⟨c420, c421, h422⟩ := h405
  refine z_iast C rfl c419 c420 c421 dX3_init_124 ?_
  refine Z.mem fun μ424 e425 => ?_
  have h423 := h422 μ424 e425
  have c426 : zC μ424 this = 18 := by rw [e425]; exact c408
  have c427 : zC μ424 a21 = 101 := by rw [e425]; exact c409
  have c428 : zC μ424 a43 = 101 := by rw [e425]; exact c410
  have c429 : zC μ424 a67 = 101 := by rw [e425]; exact c411
  have c430 : zC μ424 a93 = 101 := by rw [e425]; exact c412
  have c431 : zC μ424 a121 = 101 := by rw [e425]; exact c413
  have c432 : zC μ424 a151 = 101 := by rw [e425]; exact c414
  have c433 : zC μ424 a183 = 101 := by rw [e425]; exact c415
  have c434 : zC μ424 a217 = 101 := by rw [e425]; exact c416
  have c435 : zC μ424 a253 = 101 := by rw [e425]; exact c417
  have c436 : zC μ424 a291 = 101 := by rw [e425]; exact c418
  have c437 : zC μ424 a331 = 101 := by rw [e425]; exact c419
  refine z_dup C dX3_init_125 rfl ?_
  refine z_iconst (v := (nI 5)) C dX3_init_126 (by decide) ?_
  refine z_bipush (v := (nI 101)) C dX3_init_127 (by decide) ?_
  obtain ⟨c438, c439, h440⟩ := h423
  refine z_iast C rfl c437 c438 c439 dX3_init_129 ?_
  refine Z.mem fun μ442 e443 => ?_
  have h441 := h440 μ442 e443
  have c444 : zC μ442 this = 18 := by rw [e443]; exact c426
  have c445 : zC μ442 a21 = 101 := by rw [e443]; exact c427
  have c446 : zC μ442 a43 = 101 := by rw [e443]; exact c428
  have c447 : zC μ442 a67 = 101 := by rw [e443]; exact c429
  have c448 : zC μ442 a93 = 101 := by rw [e443]; exact c430
  have c449 : zC μ442 a121 = 101 := by rw [e443]; exact c431
  have c450 : zC μ442 a151 = 101 := by rw [e443]; exact c432
  have c451 : zC μ442 a183 = 101 := by rw [e443]; exact c433
  have c452 : zC μ442 a217 = 101 := by rw [e443]; exact c434
  have c453 : zC μ442 a253 = 101 := by rw [e443]; exact c435
  have c454 : zC μ442 a291 = 101 := by rw [e443]; exact c436
  have c455 : zC μ442 a331 = 101 := by rw [e443]; exact c437
  refine z_dup C dX3_init_130 rfl ?_
  refine z_bipush (v := (nI 6)) C dX3_init_131 (by decide) ?_
  refine z_bipush (v := (nI 97)) C dX3_init_133 (by decide) ?_
  obtain ⟨c456, c457, h458⟩ := h441
  refine z_iast C rfl c455 c456 c457 dX3_init_135 ?_
  refine Z.mem fun μ460 e461 => ?_
  have h459 := h458 μ460 e461
  have c462 : zC μ460 this = 18 := by rw [e461]; exact c444
  have c463 : zC μ460 a21 = 101 := by rw [e461]; exact c445
  have c464 : zC μ460 a43 = 101 := by rw [e461]; exact c446
  have c465 : zC μ460 a67 = 101 := by rw [e461]; exact c447
  have c466 : zC μ460 a93 = 101 := by rw [e461]; exact c448
  have c467 : zC μ460 a121 = 101 := by rw [e461]; exact c449
  have c468 : zC μ460 a151 = 101 := by rw [e461]; exact c450
  have c469 : zC μ460 a183 = 101 := by rw [e461]; exact c451
  have c470 : zC μ460 a217 = 101 := by rw [e461]; exact c452
  have c471 : zC μ460 a253 = 101 := by rw [e461]; exact c453
  have c472 : zC μ460 a291 = 101 := by rw [e461]; exact c454
  have c473 : zC μ460 a331 = 101 := by rw [e461]; exact c455
  refine z_dup C dX3_init_136 rfl ?_
  refine z_bipush (v := (nI 7)) C dX3_init_137 (by decide) ?_
  refine z_bipush (v := (nI 114)) C dX3_init_139 (by decide) ?_
  obtain ⟨c474, c475, h476⟩ := h459
  refine z_iast C rfl c473 c474 c475 dX3_init_141 ?_
  refine Z.mem fun μ478 e479 => ?_
  have h477 := h476 μ478 e479
  have c480 : zC μ478 this = 18 := by rw [e479]; exact c462
  have c481 : zC μ478 a21 = 101 := by rw [e479]; exact c463
  have c482 : zC μ478 a43 = 101 := by rw [e479]; exact c464
  have c483 : zC μ478 a67 = 101 := by rw [e479]; exact c465
  have c484 : zC μ478 a93 = 101 := by rw [e479]; exact c466
  have c485 : zC μ478 a121 = 101 := by rw [e479]; exact c467
  have c486 : zC μ478 a151 = 101 := by rw [e479]; exact c468
  have c487 : zC μ478 a183 = 101 := by rw [e479]; exact c469
  have c488 : zC μ478 a217 = 101 := by rw [e479]; exact c470
  have c489 : zC μ478 a253 = 101 := by rw [e479]; exact c471
  have c490 : zC μ478 a291 = 101 := by rw [e479]; exact c472
  have c491 : zC μ478 a331 = 101 := by rw [e479]; exact c473
  refine z_dup C dX3_init_142 rfl ?_
  refine z_bipush (v := (nI 8)) C dX3_init_143 (by decide) ?_
  refine z_bipush (v := (nI 32)) C dX3_init_145 (by decide) ?_
  obtain ⟨c492, c493, h494⟩ := h477
  refine z_iast C rfl c491 c492 c493 dX3_init_147 ?_
  refine Z.mem fun μ496 e497 => ?_
  have h495 := h494 μ496 e497
  have c498 : zC μ496 this = 18 := by rw [e497]; exact c480
  have c499 : zC μ496 a21 = 101 := by rw [e497]; exact c481
  have c500 : zC μ496 a43 = 101 := by rw [e497]; exact c482
  have c501 : zC μ496 a67 = 101 := by rw [e497]; exact c483
  have c502 : zC μ496 a93 = 101 := by rw [e497]; exact c484
  have c503 : zC μ496 a121 = 101 := by rw [e497]; exact c485
  have c504 : zC μ496 a151 = 101 := by rw [e497]; exact c486
  have c505 : zC μ496 a183 = 101 := by rw [e497]; exact c487
  have c506 : zC μ496 a217 = 101 := by rw [e497]; exact c488
  have c507 : zC μ496 a253 = 101 := by rw [e497]; exact c489
  have c508 : zC μ496 a291 = 101 := by rw [e497]; exact c490
  have c509 : zC μ496 a331 = 101 := by rw [e497]; exact c491
  refine z_dup C dX3_init_148 rfl ?_
  refine z_bipush (v := (nI 9)) C dX3_init_149 (by decide) ?_
  refine z_bipush (v := (nI 108)) C dX3_init_151 (by decide) ?_
  obtain ⟨c510, c511, h512⟩ := h495
  refine z_iast C rfl c509 c510 c511 dX3_init_153 ?_
  refine Z.mem fun μ514 e515 => ?_
  have h513 := h512 μ514 e515
  have c516 : zC μ514 this = 18 := by rw [e515]; exact c498
  have c517 : zC μ514 a21 = 101 := by rw [e515]; exact c499
  have c518 : zC μ514 a43 = 101 := by rw [e515]; exact c500
  have c519 : zC μ514 a67 = 101 := by rw [e515]; exact c501
  have c520 : zC μ514 a93 = 101 := by rw [e515]; exact c502
  have c521 : zC μ514 a121 = 101 := by rw [e515]; exact c503
  have c522 : zC μ514 a151 = 101 := by rw [e515]; exact c504
  have c523 : zC μ514 a183 = 101 := by rw [e515]; exact c505
  have c524 : zC μ514 a217 = 101 := by rw [e515]; exact c506
  have c525 : zC μ514 a253 = 101 := by rw [e515]; exact c507
  have c526 : zC μ514 a291 = 101 := by rw [e515]; exact c508
  have c527 : zC μ514 a331 = 101 := by rw [e515]; exact c509
  refine z_dup C dX3_init_154 rfl ?_
  refine z_bipush (v := (nI 10)) C dX3_init_155 (by decide) ?_
  refine z_bipush (v := (nI 101)) C dX3_init_157 (by decide) ?_
  obtain ⟨c528, c529, h530⟩ := h513
  refine z_iast C rfl c527 c528 c529 dX3_init_159 ?_
  refine Z.mem fun μ532 e533 => ?_
  have h531 := h530 μ532 e533
  have c534 : zC μ532 this = 18 := by rw [e533]; exact c516
  have c535 : zC μ532 a21 = 101 := by rw [e533]; exact c517
  have c536 : zC μ532 a43 = 101 := by rw [e533]; exact c518
  have c537 : zC μ532 a67 = 101 := by rw [e533]; exact c519
  have c538 : zC μ532 a93 = 101 := by rw [e533]; exact c520
  have c539 : zC μ532 a121 = 101 := by rw [e533]; exact c521
  have c540 : zC μ532 a151 = 101 := by rw [e533]; exact c522
  have c541 : zC μ532 a183 = 101 := by rw [e533]; exact c523
  have c542 : zC μ532 a217 = 101 := by rw [e533]; exact c524
  have c543 : zC μ532 a253 = 101 := by rw [e533]; exact c525
  have c544 : zC μ532 a291 = 101 := by rw [e533]; exact c526
  have c545 : zC μ532 a331 = 101 := by rw [e533]; exact c527
  refine z_dup C dX3_init_160 rfl ?_
  refine z_bipush (v := (nI 11)) C dX3_init_161 (by decide) ?_
  refine z_bipush (v := (nI 118)) C dX3_init_163 (by decide) ?_
  obtain ⟨c546, c547, h548⟩ := h531
  refine z_iast C rfl c545 c546 c547 dX3_init_165 ?_
  refine Z.mem fun μ550 e551 => ?_
  have h549 := h548 μ550 e551
  have c552 : zC μ550 this = 18 := by rw [e551]; exact c534
  have c553 : zC μ550 a21 = 101 := by rw [e551]; exact c535
  have c554 : zC μ550 a43 = 101 := by rw [e551]; exact c536
  have c555 : zC μ550 a67 = 101 := by rw [e551]; exact c537
  have c556 : zC μ550 a93 = 101 := by rw [e551]; exact c538
  have c557 : zC μ550 a121 = 101 := by rw [e551]; exact c539
  have c558 : zC μ550 a151 = 101 := by rw [e551]; exact c540
  have c559 : zC μ550 a183 = 101 := by rw [e551]; exact c541
  have c560 : zC μ550 a217 = 101 := by rw [e551]; exact c542
  have c561 : zC μ550 a253 = 101 := by rw [e551]; exact c543
  have c562 : zC μ550 a291 = 101 := by rw [e551]; exact c544
  have c563 : zC μ550 a331 = 101 := by rw [e551]; exact c545
  refine z_dup C dX3_init_166 rfl ?_
  refine z_bipush (v := (nI 12)) C dX3_init_167 (by decide) ?_
  refine z_bipush (v := (nI 101)) C dX3_init_169 (by decide) ?_
  obtain ⟨c564, c565, h566⟩ := h549
  refine z_iast C rfl c563 c564 c565 dX3_init_171 ?_
  refine Z.mem fun μ568 e569 => ?_
  have h567 := h566 μ568 e569
  have c570 : zC μ568 this = 18 := by rw [e569]; exact c552
  have c571 : zC μ568 a21 = 101 := by rw [e569]; exact c553
  have c572 : zC μ568 a43 = 101 := by rw [e569]; exact c554
  have c573 : zC μ568 a67 = 101 := by rw [e569]; exact c555
  have c574 : zC μ568 a93 = 101 := by rw [e569]; exact c556
  have c575 : zC μ568 a121 = 101 := by rw [e569]; exact c557
  have c576 : zC μ568 a151 = 101 := by rw [e569]; exact c558
  have c577 : zC μ568 a183 = 101 := by rw [e569]; exact c559
  have c578 : zC μ568 a217 = 101 := by rw [e569]; exact c560
  have c579 : zC μ568 a253 = 101 := by rw [e569]; exact c561
  have c580 : zC μ568 a291 = 101 := by rw [e569]; exact c562
  have c581 : zC μ568 a331 = 101 := by rw [e569]; exact c563
  refine z_dup C dX3_init_172 rfl ?_
  refine z_bipush (v := (nI 13)) C dX3_init_173 (by decide) ?_
  refine z_bipush (v := (nI 108)) C dX3_init_175 (by decide) ?_
  obtain ⟨c582, c583, h584⟩ := h567
  refine z_iast C rfl c581 c582 c583 dX3_init_177 ?_
  refine Z.mem fun μ586 e587 => ?_
  have h585 := h584 μ586 e587
  have c588 : zC μ586 this = 18 := by rw [e587]; exact c570
  have c589 : zC μ586 a21 = 101 := by rw [e587]; exact c571
  have c590 : zC μ586 a43 = 101 := by rw [e587]; exact c572
  have c591 : zC μ586 a67 = 101 := by rw [e587]; exact c573
  have c592 : zC μ586 a93 = 101 := by rw [e587]; exact c574
  have c593 : zC μ586 a121 = 101 := by rw [e587]; exact c575
  have c594 : zC μ586 a151 = 101 := by rw [e587]; exact c576
  have c595 : zC μ586 a183 = 101 := by rw [e587]; exact c577
  have c596 : zC μ586 a217 = 101 := by rw [e587]; exact c578
  have c597 : zC μ586 a253 = 101 := by rw [e587]; exact c579
  have c598 : zC μ586 a291 = 101 := by rw [e587]; exact c580
  have c599 : zC μ586 a331 = 101 := by rw [e587]; exact c581
  refine z_dup C dX3_init_178 rfl ?_
  refine z_bipush (v := (nI 14)) C dX3_init_179 (by decide) ?_
  refine z_bipush (v := (nI 32)) C dX3_init_181 (by decide) ?_
  obtain ⟨c600, c601, h602⟩ := h585
  refine z_iast C rfl c599 c600 c601 dX3_init_183 ?_
  refine Z.mem fun μ604 e605 => ?_
  have h603 := h602 μ604 e605
  have c606 : zC μ604 this = 18 := by rw [e605]; exact c588
  have c607 : zC μ604 a21 = 101 := by rw [e605]; exact c589
  have c608 : zC μ604 a43 = 101 := by rw [e605]; exact c590
  have c609 : zC μ604 a67 = 101 := by rw [e605]; exact c591
  have c610 : zC μ604 a93 = 101 := by rw [e605]; exact c592
  have c611 : zC μ604 a121 = 101 := by rw [e605]; exact c593
  have c612 : zC μ604 a151 = 101 := by rw [e605]; exact c594
  have c613 : zC μ604 a183 = 101 := by rw [e605]; exact c595
  have c614 : zC μ604 a217 = 101 := by rw [e605]; exact c596
  have c615 : zC μ604 a253 = 101 := by rw [e605]; exact c597
  have c616 : zC μ604 a291 = 101 := by rw [e605]; exact c598
  have c617 : zC μ604 a331 = 101 := by rw [e605]; exact c599
  refine z_dup C dX3_init_184 rfl ?_
  refine z_bipush (v := (nI 15)) C dX3_init_185 (by decide) ?_
  refine z_bipush (v := (nI 98)) C dX3_init_187 (by decide) ?_
  obtain ⟨c618, c619, h620⟩ := h603
  refine z_iast C rfl c617 c618 c619 dX3_init_189 ?_
  refine Z.mem fun μ622 e623 => ?_
  have h621 := h620 μ622 e623
  have c624 : zC μ622 this = 18 := by rw [e623]; exact c606
  have c625 : zC μ622 a21 = 101 := by rw [e623]; exact c607
  have c626 : zC μ622 a43 = 101 := by rw [e623]; exact c608
  have c627 : zC μ622 a67 = 101 := by rw [e623]; exact c609
  have c628 : zC μ622 a93 = 101 := by rw [e623]; exact c610
  have c629 : zC μ622 a121 = 101 := by rw [e623]; exact c611
  have c630 : zC μ622 a151 = 101 := by rw [e623]; exact c612
  have c631 : zC μ622 a183 = 101 := by rw [e623]; exact c613
  have c632 : zC μ622 a217 = 101 := by rw [e623]; exact c614
  have c633 : zC μ622 a253 = 101 := by rw [e623]; exact c615
  have c634 : zC μ622 a291 = 101 := by rw [e623]; exact c616
  have c635 : zC μ622 a331 = 101 := by rw [e623]; exact c617
  refine z_dup C dX3_init_190 rfl ?_
  refine z_bipush (v := (nI 16)) C dX3_init_191 (by decide) ?_
  refine z_bipush (v := (nI 108)) C dX3_init_193 (by decide) ?_
  obtain ⟨c636, c637, h638⟩ := h621
  refine z_iast C rfl c635 c636 c637 dX3_init_195 ?_
  refine Z.mem fun μ640 e641 => ?_
  have h639 := h638 μ640 e641
  have c642 : zC μ640 this = 18 := by rw [e641]; exact c624
  have c643 : zC μ640 a21 = 101 := by rw [e641]; exact c625
  have c644 : zC μ640 a43 = 101 := by rw [e641]; exact c626
  have c645 : zC μ640 a67 = 101 := by rw [e641]; exact c627
  have c646 : zC μ640 a93 = 101 := by rw [e641]; exact c628
  have c647 : zC μ640 a121 = 101 := by rw [e641]; exact c629
  have c648 : zC μ640 a151 = 101 := by rw [e641]; exact c630
  have c649 : zC μ640 a183 = 101 := by rw [e641]; exact c631
  have c650 : zC μ640 a217 = 101 := by rw [e641]; exact c632
  have c651 : zC μ640 a253 = 101 := by rw [e641]; exact c633
  have c652 : zC μ640 a291 = 101 := by rw [e641]; exact c634
  have c653 : zC μ640 a331 = 101 := by rw [e641]; exact c635
  refine z_dup C dX3_init_196 rfl ?_
  refine z_bipush (v := (nI 17)) C dX3_init_197 (by decide) ?_
  refine z_bipush (v := (nI 111)) C dX3_init_199 (by decide) ?_
  obtain ⟨c654, c655, h656⟩ := h639
  refine z_iast C rfl c653 c654 c655 dX3_init_201 ?_
  refine Z.mem fun μ658 e659 => ?_
  have h657 := h656 μ658 e659
  have c660 : zC μ658 this = 18 := by rw [e659]; exact c642
  have c661 : zC μ658 a21 = 101 := by rw [e659]; exact c643
  have c662 : zC μ658 a43 = 101 := by rw [e659]; exact c644
  have c663 : zC μ658 a67 = 101 := by rw [e659]; exact c645
  have c664 : zC μ658 a93 = 101 := by rw [e659]; exact c646
  have c665 : zC μ658 a121 = 101 := by rw [e659]; exact c647
  have c666 : zC μ658 a151 = 101 := by rw [e659]; exact c648
  have c667 : zC μ658 a183 = 101 := by rw [e659]; exact c649
  have c668 : zC μ658 a217 = 101 := by rw [e659]; exact c650
  have c669 : zC μ658 a253 = 101 := by rw [e659]; exact c651
  have c670 : zC μ658 a291 = 101 := by rw [e659]; exact c652
  have c671 : zC μ658 a331 = 101 := by rw [e659]; exact c653
  refine z_dup C dX3_init_202 rfl ?_
  refine z_bipush (v := (nI 18)) C dX3_init_203 (by decide) ?_
  refine z_bipush (v := (nI 99)) C dX3_init_205 (by decide) ?_
  obtain ⟨c672, c673, h674⟩ := h657
  refine z_iast C rfl c671 c672 c673 dX3_init_207 ?_
  refine Z.mem fun μ676 e677 => ?_
  have h675 := h674 μ676 e677
  have c678 : zC μ676 this = 18 := by rw [e677]; exact c660
  have c679 : zC μ676 a21 = 101 := by rw [e677]; exact c661
  have c680 : zC μ676 a43 = 101 := by rw [e677]; exact c662
  have c681 : zC μ676 a67 = 101 := by rw [e677]; exact c663
  have c682 : zC μ676 a93 = 101 := by rw [e677]; exact c664
  have c683 : zC μ676 a121 = 101 := by rw [e677]; exact c665
  have c684 : zC μ676 a151 = 101 := by rw [e677]; exact c666
  have c685 : zC μ676 a183 = 101 := by rw [e677]; exact c667
  have c686 : zC μ676 a217 = 101 := by rw [e677]; exact c668
  have c687 : zC μ676 a253 = 101 := by rw [e677]; exact c669
  have c688 : zC μ676 a291 = 101 := by rw [e677]; exact c670
  have c689 : zC μ676 a331 = 101 := by rw [e677]; exact c671
  refine z_dup C dX3_init_208 rfl ?_
  refine z_bipush (v := (nI 19)) C dX3_init_209 (by decide) ?_
  refine z_bipush (v := (nI 107)) C dX3_init_211 (by decide) ?_
  obtain ⟨c690, c691, h692⟩ := h675
  refine z_iast C rfl c689 c690 c691 dX3_init_213 ?_
  refine Z.mem fun μ694 e695 => ?_
  have h693 := h692 μ694 e695
  have c696 : zC μ694 this = 18 := by rw [e695]; exact c678
  have c697 : zC μ694 a21 = 101 := by rw [e695]; exact c679
  have c698 : zC μ694 a43 = 101 := by rw [e695]; exact c680
  have c699 : zC μ694 a67 = 101 := by rw [e695]; exact c681
  have c700 : zC μ694 a93 = 101 := by rw [e695]; exact c682
  have c701 : zC μ694 a121 = 101 := by rw [e695]; exact c683
  have c702 : zC μ694 a151 = 101 := by rw [e695]; exact c684
  have c703 : zC μ694 a183 = 101 := by rw [e695]; exact c685
  have c704 : zC μ694 a217 = 101 := by rw [e695]; exact c686
  have c705 : zC μ694 a253 = 101 := by rw [e695]; exact c687
  have c706 : zC μ694 a291 = 101 := by rw [e695]; exact c688
  have c707 : zC μ694 a331 = 101 := by rw [e695]; exact c689
  refine z_dup C dX3_init_214 rfl ?_
  refine z_bipush (v := (nI 20)) C dX3_init_215 (by decide) ?_
  refine z_bipush (v := (nI 32)) C dX3_init_217 (by decide) ?_
  obtain ⟨c708, c709, h710⟩ := h693
  refine z_iast C rfl c707 c708 c709 dX3_init_219 ?_
  refine Z.mem fun μ712 e713 => ?_
  have h711 := h710 μ712 e713
  have c714 : zC μ712 this = 18 := by rw [e713]; exact c696
  have c715 : zC μ712 a21 = 101 := by rw [e713]; exact c697
  have c716 : zC μ712 a43 = 101 := by rw [e713]; exact c698
  have c717 : zC μ712 a67 = 101 := by rw [e713]; exact c699
  have c718 : zC μ712 a93 = 101 := by rw [e713]; exact c700
  have c719 : zC μ712 a121 = 101 := by rw [e713]; exact c701
  have c720 : zC μ712 a151 = 101 := by rw [e713]; exact c702
  have c721 : zC μ712 a183 = 101 := by rw [e713]; exact c703
  have c722 : zC μ712 a217 = 101 := by rw [e713]; exact c704
  have c723 : zC μ712 a253 = 101 := by rw [e713]; exact c705
  have c724 : zC μ712 a291 = 101 := by rw [e713]; exact c706
  have c725 : zC μ712 a331 = 101 := by rw [e713]; exact c707
  refine z_dup C dX3_init_220 rfl ?_
  refine z_bipush (v := (nI 21)) C dX3_init_221 (by decide) ?_
  refine z_bipush (v := (nI 111)) C dX3_init_223 (by decide) ?_
  obtain ⟨c726, c727, h728⟩ := h711
  refine z_iast C rfl c725 c726 c727 dX3_init_225 ?_
  refine Z.mem fun μ730 e731 => ?_
  have h729 := h728 μ730 e731
  have c732 : zC μ730 this = 18 := by rw [e731]; exact c714
  have c733 : zC μ730 a21 = 101 := by rw [e731]; exact c715
  have c734 : zC μ730 a43 = 101 := by rw [e731]; exact c716
  have c735 : zC μ730 a67 = 101 := by rw [e731]; exact c717
  have c736 : zC μ730 a93 = 101 := by rw [e731]; exact c718
  have c737 : zC μ730 a121 = 101 := by rw [e731]; exact c719
  have c738 : zC μ730 a151 = 101 := by rw [e731]; exact c720
  have c739 : zC μ730 a183 = 101 := by rw [e731]; exact c721
  have c740 : zC μ730 a217 = 101 := by rw [e731]; exact c722
  have c741 : zC μ730 a253 = 101 := by rw [e731]; exact c723
  have c742 : zC μ730 a291 = 101 := by rw [e731]; exact c724
  have c743 : zC μ730 a331 = 101 := by rw [e731]; exact c725
  refine z_dup C dX3_init_226 rfl ?_
  refine z_bipush (v := (nI 22)) C dX3_init_227 (by decide) ?_
  refine z_bipush (v := (nI 112)) C dX3_init_229 (by decide) ?_
  obtain ⟨c744, c745, h746⟩ := h729
  refine z_iast C rfl c743 c744 c745 dX3_init_231 ?_
  refine Z.mem fun μ748 e749 => ?_
  have h747 := h746 μ748 e749
  have c750 : zC μ748 this = 18 := by rw [e749]; exact c732
  have c751 : zC μ748 a21 = 101 := by rw [e749]; exact c733
  have c752 : zC μ748 a43 = 101 := by rw [e749]; exact c734
  have c753 : zC μ748 a67 = 101 := by rw [e749]; exact c735
  have c754 : zC μ748 a93 = 101 := by rw [e749]; exact c736
  have c755 : zC μ748 a121 = 101 := by rw [e749]; exact c737
  have c756 : zC μ748 a151 = 101 := by rw [e749]; exact c738
  have c757 : zC μ748 a183 = 101 := by rw [e749]; exact c739
  have c758 : zC μ748 a217 = 101 := by rw [e749]; exact c740
  have c759 : zC μ748 a253 = 101 := by rw [e749]; exact c741
  have c760 : zC μ748 a291 = 101 := by rw [e749]; exact c742
  have c761 : zC μ748 a331 = 101 := by rw [e749]; exact c743
  refine z_dup C dX3_init_232 rfl ?_
  refine z_bipush (v := (nI 23)) C dX3_init_233 (by decide) ?_
  refine z_bipush (v := (nI 101)) C dX3_init_235 (by decide) ?_
  obtain ⟨c762, c763, h764⟩ := h747
  refine z_iast C rfl c761 c762 c763 dX3_init_237 ?_
  refine Z.mem fun μ766 e767 => ?_
  have h765 := h764 μ766 e767
  have c768 : zC μ766 this = 18 := by rw [e767]; exact c750
  have c769 : zC μ766 a21 = 101 := by rw [e767]; exact c751
  have c770 : zC μ766 a43 = 101 := by rw [e767]; exact c752
  have c771 : zC μ766 a67 = 101 := by rw [e767]; exact c753
  have c772 : zC μ766 a93 = 101 := by rw [e767]; exact c754
  have c773 : zC μ766 a121 = 101 := by rw [e767]; exact c755
  have c774 : zC μ766 a151 = 101 := by rw [e767]; exact c756
  have c775 : zC μ766 a183 = 101 := by rw [e767]; exact c757
  have c776 : zC μ766 a217 = 101 := by rw [e767]; exact c758
  have c777 : zC μ766 a253 = 101 := by rw [e767]; exact c759
  have c778 : zC μ766 a291 = 101 := by rw [e767]; exact c760
  have c779 : zC μ766 a331 = 101 := by rw [e767]; exact c761
  refine z_dup C dX3_init_238 rfl ?_
  refine z_bipush (v := (nI 24)) C dX3_init_239 (by decide) ?_
  refine z_bipush (v := (nI 110)) C dX3_init_241 (by decide) ?_
  obtain ⟨c780, c781, h782⟩ := h765
  refine z_iast C rfl c779 c780 c781 dX3_init_243 ?_
  refine Z.mem fun μ784 e785 => ?_
  have h783 := h782 μ784 e785
  have c786 : zC μ784 this = 18 := by rw [e785]; exact c768
  have c787 : zC μ784 a21 = 101 := by rw [e785]; exact c769
  have c788 : zC μ784 a43 = 101 := by rw [e785]; exact c770
  have c789 : zC μ784 a67 = 101 := by rw [e785]; exact c771
  have c790 : zC μ784 a93 = 101 := by rw [e785]; exact c772
  have c791 : zC μ784 a121 = 101 := by rw [e785]; exact c773
  have c792 : zC μ784 a151 = 101 := by rw [e785]; exact c774
  have c793 : zC μ784 a183 = 101 := by rw [e785]; exact c775
  have c794 : zC μ784 a217 = 101 := by rw [e785]; exact c776
  have c795 : zC μ784 a253 = 101 := by rw [e785]; exact c777
  have c796 : zC μ784 a291 = 101 := by rw [e785]; exact c778
  have c797 : zC μ784 a331 = 101 := by rw [e785]; exact c779
  refine z_dup C dX3_init_244 rfl ?_
  refine z_bipush (v := (nI 25)) C dX3_init_245 (by decide) ?_
  refine z_bipush (v := (nI 32)) C dX3_init_247 (by decide) ?_
  obtain ⟨c798, c799, h800⟩ := h783
  refine z_iast C rfl c797 c798 c799 dX3_init_249 ?_
  refine Z.mem fun μ802 e803 => ?_
  have h801 := h800 μ802 e803
  have c804 : zC μ802 this = 18 := by rw [e803]; exact c786
  have c805 : zC μ802 a21 = 101 := by rw [e803]; exact c787
  have c806 : zC μ802 a43 = 101 := by rw [e803]; exact c788
  have c807 : zC μ802 a67 = 101 := by rw [e803]; exact c789
  have c808 : zC μ802 a93 = 101 := by rw [e803]; exact c790
  have c809 : zC μ802 a121 = 101 := by rw [e803]; exact c791
  have c810 : zC μ802 a151 = 101 := by rw [e803]; exact c792
  have c811 : zC μ802 a183 = 101 := by rw [e803]; exact c793
  have c812 : zC μ802 a217 = 101 := by rw [e803]; exact c794
  have c813 : zC μ802 a253 = 101 := by rw [e803]; exact c795
  have c814 : zC μ802 a291 = 101 := by rw [e803]; exact c796
  have c815 : zC μ802 a331 = 101 := by rw [e803]; exact c797
  refine z_dup C dX3_init_250 rfl ?_
  refine z_bipush (v := (nI 26)) C dX3_init_251 (by decide) ?_
  refine z_bipush (v := (nI 115)) C dX3_init_253 (by decide) ?_
  obtain ⟨c816, c817, h818⟩ := h801
  refine z_iast C rfl c815 c816 c817 dX3_init_255 ?_
  refine Z.mem fun μ820 e821 => ?_
  have h819 := h818 μ820 e821
  have c822 : zC μ820 this = 18 := by rw [e821]; exact c804
  have c823 : zC μ820 a21 = 101 := by rw [e821]; exact c805
  have c824 : zC μ820 a43 = 101 := by rw [e821]; exact c806
  have c825 : zC μ820 a67 = 101 := by rw [e821]; exact c807
  have c826 : zC μ820 a93 = 101 := by rw [e821]; exact c808
  have c827 : zC μ820 a121 = 101 := by rw [e821]; exact c809
  have c828 : zC μ820 a151 = 101 := by rw [e821]; exact c810
  have c829 : zC μ820 a183 = 101 := by rw [e821]; exact c811
  have c830 : zC μ820 a217 = 101 := by rw [e821]; exact c812
  have c831 : zC μ820 a253 = 101 := by rw [e821]; exact c813
  have c832 : zC μ820 a291 = 101 := by rw [e821]; exact c814
  have c833 : zC μ820 a331 = 101 := by rw [e821]; exact c815
  refine z_dup C dX3_init_256 rfl ?_
  refine z_bipush (v := (nI 27)) C dX3_init_257 (by decide) ?_
  refine z_bipush (v := (nI 110)) C dX3_init_259 (by decide) ?_
  obtain ⟨c834, c835, h836⟩ := h819
  refine z_iast C rfl c833 c834 c835 dX3_init_261 ?_
  refine Z.mem fun μ838 e839 => ?_
  have h837 := h836 μ838 e839
  have c840 : zC μ838 this = 18 := by rw [e839]; exact c822
  have c841 : zC μ838 a21 = 101 := by rw [e839]; exact c823
  have c842 : zC μ838 a43 = 101 := by rw [e839]; exact c824
  have c843 : zC μ838 a67 = 101 := by rw [e839]; exact c825
  have c844 : zC μ838 a93 = 101 := by rw [e839]; exact c826
  have c845 : zC μ838 a121 = 101 := by rw [e839]; exact c827
  have c846 : zC μ838 a151 = 101 := by rw [e839]; exact c828
  have c847 : zC μ838 a183 = 101 := by rw [e839]; exact c829
  have c848 : zC μ838 a217 = 101 := by rw [e839]; exact c830
  have c849 : zC μ838 a253 = 101 := by rw [e839]; exact c831
  have c850 : zC μ838 a291 = 101 := by rw [e839]; exact c832
  have c851 : zC μ838 a331 = 101 := by rw [e839]; exact c833
  refine z_dup C dX3_init_262 rfl ?_
  refine z_bipush (v := (nI 28)) C dX3_init_263 (by decide) ?_
  refine z_bipush (v := (nI 111)) C dX3_init_265 (by decide) ?_
  obtain ⟨c852, c853, h854⟩ := h837
  refine z_iast C rfl c851 c852 c853 dX3_init_267 ?_
  refine Z.mem fun μ856 e857 => ?_
  have h855 := h854 μ856 e857
  have c858 : zC μ856 this = 18 := by rw [e857]; exact c840
  have c859 : zC μ856 a21 = 101 := by rw [e857]; exact c841
  have c860 : zC μ856 a43 = 101 := by rw [e857]; exact c842
  have c861 : zC μ856 a67 = 101 := by rw [e857]; exact c843
  have c862 : zC μ856 a93 = 101 := by rw [e857]; exact c844
  have c863 : zC μ856 a121 = 101 := by rw [e857]; exact c845
  have c864 : zC μ856 a151 = 101 := by rw [e857]; exact c846
  have c865 : zC μ856 a183 = 101 := by rw [e857]; exact c847
  have c866 : zC μ856 a217 = 101 := by rw [e857]; exact c848
  have c867 : zC μ856 a253 = 101 := by rw [e857]; exact c849
  have c868 : zC μ856 a291 = 101 := by rw [e857]; exact c850
  have c869 : zC μ856 a331 = 101 := by rw [e857]; exact c851
  refine z_dup C dX3_init_268 rfl ?_
  refine z_bipush (v := (nI 29)) C dX3_init_269 (by decide) ?_
  refine z_bipush (v := (nI 119)) C dX3_init_271 (by decide) ?_
  obtain ⟨c870, c871, h872⟩ := h855
  refine z_iast C rfl c869 c870 c871 dX3_init_273 ?_
  refine Z.mem fun μ874 e875 => ?_
  have h873 := h872 μ874 e875
  have c876 : zC μ874 this = 18 := by rw [e875]; exact c858
  have c877 : zC μ874 a21 = 101 := by rw [e875]; exact c859
  have c878 : zC μ874 a43 = 101 := by rw [e875]; exact c860
  have c879 : zC μ874 a67 = 101 := by rw [e875]; exact c861
  have c880 : zC μ874 a93 = 101 := by rw [e875]; exact c862
  have c881 : zC μ874 a121 = 101 := by rw [e875]; exact c863
  have c882 : zC μ874 a151 = 101 := by rw [e875]; exact c864
  have c883 : zC μ874 a183 = 101 := by rw [e875]; exact c865
  have c884 : zC μ874 a217 = 101 := by rw [e875]; exact c866
  have c885 : zC μ874 a253 = 101 := by rw [e875]; exact c867
  have c886 : zC μ874 a291 = 101 := by rw [e875]; exact c868
  have c887 : zC μ874 a331 = 101 := by rw [e875]; exact c869
  refine z_dup C dX3_init_274 rfl ?_
  refine z_bipush (v := (nI 30)) C dX3_init_275 (by decide) ?_
  refine z_bipush (v := (nI 32)) C dX3_init_277 (by decide) ?_
  obtain ⟨c888, c889, h890⟩ := h873
  refine z_iast C rfl c887 c888 c889 dX3_init_279 ?_
  refine Z.mem fun μ892 e893 => ?_
  have h891 := h890 μ892 e893
  have c894 : zC μ892 this = 18 := by rw [e893]; exact c876
  have c895 : zC μ892 a21 = 101 := by rw [e893]; exact c877
  have c896 : zC μ892 a43 = 101 := by rw [e893]; exact c878
  have c897 : zC μ892 a67 = 101 := by rw [e893]; exact c879
  have c898 : zC μ892 a93 = 101 := by rw [e893]; exact c880
  have c899 : zC μ892 a121 = 101 := by rw [e893]; exact c881
  have c900 : zC μ892 a151 = 101 := by rw [e893]; exact c882
  have c901 : zC μ892 a183 = 101 := by rw [e893]; exact c883
  have c902 : zC μ892 a217 = 101 := by rw [e893]; exact c884
  have c903 : zC μ892 a253 = 101 := by rw [e893]; exact c885
  have c904 : zC μ892 a291 = 101 := by rw [e893]; exact c886
  have c905 : zC μ892 a331 = 101 := by rw [e893]; exact c887
  refine z_dup C dX3_init_280 rfl ?_
  refine z_bipush (v := (nI 31)) C dX3_init_281 (by decide) ?_
  refine z_bipush (v := (nI 116)) C dX3_init_283 (by decide) ?_
  obtain ⟨c906, c907, h908⟩ := h891
  refine z_iast C rfl c905 c906 c907 dX3_init_285 ?_
  refine Z.mem fun μ910 e911 => ?_
  have h909 := h908 μ910 e911
  have c912 : zC μ910 this = 18 := by rw [e911]; exact c894
  have c913 : zC μ910 a21 = 101 := by rw [e911]; exact c895
  have c914 : zC μ910 a43 = 101 := by rw [e911]; exact c896
  have c915 : zC μ910 a67 = 101 := by rw [e911]; exact c897
  have c916 : zC μ910 a93 = 101 := by rw [e911]; exact c898
  have c917 : zC μ910 a121 = 101 := by rw [e911]; exact c899
  have c918 : zC μ910 a151 = 101 := by rw [e911]; exact c900
  have c919 : zC μ910 a183 = 101 := by rw [e911]; exact c901
  have c920 : zC μ910 a217 = 101 := by rw [e911]; exact c902
  have c921 : zC μ910 a253 = 101 := by rw [e911]; exact c903
  have c922 : zC μ910 a291 = 101 := by rw [e911]; exact c904
  have c923 : zC μ910 a331 = 101 := by rw [e911]; exact c905
  refine z_dup C dX3_init_286 rfl ?_
  refine z_bipush (v := (nI 32)) C dX3_init_287 (by decide) ?_
  refine z_bipush (v := (nI 104)) C dX3_init_289 (by decide) ?_
  obtain ⟨c924, c925, h926⟩ := h909
  refine z_iast C rfl c923 c924 c925 dX3_init_291 ?_
  refine Z.mem fun μ928 e929 => ?_
  have h927 := h926 μ928 e929
  have c930 : zC μ928 this = 18 := by rw [e929]; exact c912
  have c931 : zC μ928 a21 = 101 := by rw [e929]; exact c913
  have c932 : zC μ928 a43 = 101 := by rw [e929]; exact c914
  have c933 : zC μ928 a67 = 101 := by rw [e929]; exact c915
  have c934 : zC μ928 a93 = 101 := by rw [e929]; exact c916
  have c935 : zC μ928 a121 = 101 := by rw [e929]; exact c917
  have c936 : zC μ928 a151 = 101 := by rw [e929]; exact c918
  have c937 : zC μ928 a183 = 101 := by rw [e929]; exact c919
  have c938 : zC μ928 a217 = 101 := by rw [e929]; exact c920
  have c939 : zC μ928 a253 = 101 := by rw [e929]; exact c921
  have c940 : zC μ928 a291 = 101 := by rw [e929]; exact c922
  have c941 : zC μ928 a331 = 101 := by rw [e929]; exact c923
  refine z_dup C dX3_init_292 rfl ?_
  refine z_bipush (v := (nI 33)) C dX3_init_293 (by decide) ?_
  refine z_bipush (v := (nI 97)) C dX3_init_295 (by decide) ?_
  obtain ⟨c942, c943, h944⟩ := h927
  refine z_iast C rfl c941 c942 c943 dX3_init_297 ?_
  refine Z.mem fun μ946 e947 => ?_
  have h945 := h944 μ946 e947
  have c948 : zC μ946 this = 18 := by rw [e947]; exact c930
  have c949 : zC μ946 a21 = 101 := by rw [e947]; exact c931
  have c950 : zC μ946 a43 = 101 := by rw [e947]; exact c932
  have c951 : zC μ946 a67 = 101 := by rw [e947]; exact c933
  have c952 : zC μ946 a93 = 101 := by rw [e947]; exact c934
  have c953 : zC μ946 a121 = 101 := by rw [e947]; exact c935
  have c954 : zC μ946 a151 = 101 := by rw [e947]; exact c936
  have c955 : zC μ946 a183 = 101 := by rw [e947]; exact c937
  have c956 : zC μ946 a217 = 101 := by rw [e947]; exact c938
  have c957 : zC μ946 a253 = 101 := by rw [e947]; exact c939
  have c958 : zC μ946 a291 = 101 := by rw [e947]; exact c940
  have c959 : zC μ946 a331 = 101 := by rw [e947]; exact c941
  refine z_dup C dX3_init_298 rfl ?_
  refine z_bipush (v := (nI 34)) C dX3_init_299 (by decide) ?_
  refine z_bipush (v := (nI 119)) C dX3_init_301 (by decide) ?_
  obtain ⟨c960, c961, h962⟩ := h945
  refine z_iast C rfl c959 c960 c961 dX3_init_303 ?_
  refine Z.mem fun μ964 e965 => ?_
  have h963 := h962 μ964 e965
  have c966 : zC μ964 this = 18 := by rw [e965]; exact c948
  have c967 : zC μ964 a21 = 101 := by rw [e965]; exact c949
  have c968 : zC μ964 a43 = 101 := by rw [e965]; exact c950
  have c969 : zC μ964 a67 = 101 := by rw [e965]; exact c951
  have c970 : zC μ964 a93 = 101 := by rw [e965]; exact c952
  have c971 : zC μ964 a121 = 101 := by rw [e965]; exact c953
  have c972 : zC μ964 a151 = 101 := by rw [e965]; exact c954
  have c973 : zC μ964 a183 = 101 := by rw [e965]; exact c955
  have c974 : zC μ964 a217 = 101 := by rw [e965]; exact c956
  have c975 : zC μ964 a253 = 101 := by rw [e965]; exact c957
  have c976 : zC μ964 a291 = 101 := by rw [e965]; exact c958
  have c977 : zC μ964 a331 = 101 := by rw [e965]; exact c959
  refine z_dup C dX3_init_304 rfl ?_
  refine z_bipush (v := (nI 35)) C dX3_init_305 (by decide) ?_
  refine z_bipush (v := (nI 32)) C dX3_init_307 (by decide) ?_
  obtain ⟨c978, c979, h980⟩ := h963
  refine z_iast C rfl c977 c978 c979 dX3_init_309 ?_
  refine Z.mem fun μ982 e983 => ?_
  have h981 := h980 μ982 e983
  have c984 : zC μ982 this = 18 := by rw [e983]; exact c966
  have c985 : zC μ982 a21 = 101 := by rw [e983]; exact c967
  have c986 : zC μ982 a43 = 101 := by rw [e983]; exact c968
  have c987 : zC μ982 a67 = 101 := by rw [e983]; exact c969
  have c988 : zC μ982 a93 = 101 := by rw [e983]; exact c970
  have c989 : zC μ982 a121 = 101 := by rw [e983]; exact c971
  have c990 : zC μ982 a151 = 101 := by rw [e983]; exact c972
  have c991 : zC μ982 a183 = 101 := by rw [e983]; exact c973
  have c992 : zC μ982 a217 = 101 := by rw [e983]; exact c974
  have c993 : zC μ982 a253 = 101 := by rw [e983]; exact c975
  have c994 : zC μ982 a291 = 101 := by rw [e983]; exact c976
  have c995 : zC μ982 a331 = 101 := by rw [e983]; exact c977
  refine z_dup C dX3_init_310 rfl ?_
  refine z_bipush (v := (nI 36)) C dX3_init_311 (by decide) ?_
  refine z_bipush (v := (nI 104)) C dX3_init_313 (by decide) ?_
  obtain ⟨c996, c997, h998⟩ := h981
  refine z_iast C rfl c995 c996 c997 dX3_init_315 ?_
  refine Z.mem fun μ1000 e1001 => ?_
  have h999 := h998 μ1000 e1001
  have c1002 : zC μ1000 this = 18 := by rw [e1001]; exact c984
  have c1003 : zC μ1000 a21 = 101 := by rw [e1001]; exact c985
  have c1004 : zC μ1000 a43 = 101 := by rw [e1001]; exact c986
  have c1005 : zC μ1000 a67 = 101 := by rw [e1001]; exact c987
  have c1006 : zC μ1000 a93 = 101 := by rw [e1001]; exact c988
  have c1007 : zC μ1000 a121 = 101 := by rw [e1001]; exact c989
  have c1008 : zC μ1000 a151 = 101 := by rw [e1001]; exact c990
  have c1009 : zC μ1000 a183 = 101 := by rw [e1001]; exact c991
  have c1010 : zC μ1000 a217 = 101 := by rw [e1001]; exact c992
  have c1011 : zC μ1000 a253 = 101 := by rw [e1001]; exact c993
  have c1012 : zC μ1000 a291 = 101 := by rw [e1001]; exact c994
  have c1013 : zC μ1000 a331 = 101 := by rw [e1001]; exact c995
  refine z_dup C dX3_init_316 rfl ?_
  refine z_bipush (v := (nI 37)) C dX3_init_317 (by decide) ?_
  refine z_bipush (v := (nI 105)) C dX3_init_319 (by decide) ?_
  obtain ⟨c1014, c1015, h1016⟩ := h999
  refine z_iast C rfl c1013 c1014 c1015 dX3_init_321 ?_
  refine Z.mem fun μ1018 e1019 => ?_
  have h1017 := h1016 μ1018 e1019
  have c1020 : zC μ1018 this = 18 := by rw [e1019]; exact c1002
  have c1021 : zC μ1018 a21 = 101 := by rw [e1019]; exact c1003
  have c1022 : zC μ1018 a43 = 101 := by rw [e1019]; exact c1004
  have c1023 : zC μ1018 a67 = 101 := by rw [e1019]; exact c1005
  have c1024 : zC μ1018 a93 = 101 := by rw [e1019]; exact c1006
  have c1025 : zC μ1018 a121 = 101 := by rw [e1019]; exact c1007
  have c1026 : zC μ1018 a151 = 101 := by rw [e1019]; exact c1008
  have c1027 : zC μ1018 a183 = 101 := by rw [e1019]; exact c1009
  have c1028 : zC μ1018 a217 = 101 := by rw [e1019]; exact c1010
  have c1029 : zC μ1018 a253 = 101 := by rw [e1019]; exact c1011
  have c1030 : zC μ1018 a291 = 101 := by rw [e1019]; exact c1012
  have c1031 : zC μ1018 a331 = 101 := by rw [e1019]; exact c1013
  refine z_dup C dX3_init_322 rfl ?_
  refine z_bipush (v := (nI 38)) C dX3_init_323 (by decide) ?_
  refine z_bipush (v := (nI 107)) C dX3_init_325 (by decide) ?_
  obtain ⟨c1032, c1033, h1034⟩ := h1017
  refine z_iast C rfl c1031 c1032 c1033 dX3_init_327 ?_
  refine Z.mem fun μ1036 e1037 => ?_
  have h1035 := h1034 μ1036 e1037
  have c1038 : zC μ1036 this = 18 := by rw [e1037]; exact c1020
  have c1039 : zC μ1036 a21 = 101 := by rw [e1037]; exact c1021
  have c1040 : zC μ1036 a43 = 101 := by rw [e1037]; exact c1022
  have c1041 : zC μ1036 a67 = 101 := by rw [e1037]; exact c1023
  have c1042 : zC μ1036 a93 = 101 := by rw [e1037]; exact c1024
  have c1043 : zC μ1036 a121 = 101 := by rw [e1037]; exact c1025
  have c1044 : zC μ1036 a151 = 101 := by rw [e1037]; exact c1026
  have c1045 : zC μ1036 a183 = 101 := by rw [e1037]; exact c1027
  have c1046 : zC μ1036 a217 = 101 := by rw [e1037]; exact c1028
  have c1047 : zC μ1036 a253 = 101 := by rw [e1037]; exact c1029
  have c1048 : zC μ1036 a291 = 101 := by rw [e1037]; exact c1030
  have c1049 : zC μ1036 a331 = 101 := by rw [e1037]; exact c1031
  refine z_dup C dX3_init_328 rfl ?_
  refine z_bipush (v := (nI 39)) C dX3_init_329 (by decide) ?_
  refine z_bipush (v := (nI 101)) C dX3_init_331 (by decide) ?_
  obtain ⟨c1050, c1051, h1052⟩ := h1035
  refine z_iast C rfl c1049 c1050 c1051 dX3_init_333 ?_
  refine Z.mem fun μ1054 e1055 => ?_
  have h1053 := h1052 μ1054 e1055
  have c1056 : zC μ1054 this = 18 := by rw [e1055]; exact c1038
  have c1057 : zC μ1054 a21 = 101 := by rw [e1055]; exact c1039
  have c1058 : zC μ1054 a43 = 101 := by rw [e1055]; exact c1040
  have c1059 : zC μ1054 a67 = 101 := by rw [e1055]; exact c1041
  have c1060 : zC μ1054 a93 = 101 := by rw [e1055]; exact c1042
  have c1061 : zC μ1054 a121 = 101 := by rw [e1055]; exact c1043
  have c1062 : zC μ1054 a151 = 101 := by rw [e1055]; exact c1044
  have c1063 : zC μ1054 a183 = 101 := by rw [e1055]; exact c1045
  have c1064 : zC μ1054 a217 = 101 := by rw [e1055]; exact c1046
  have c1065 : zC μ1054 a253 = 101 := by rw [e1055]; exact c1047
  have c1066 : zC μ1054 a291 = 101 := by rw [e1055]; exact c1048
  have c1067 : zC μ1054 a331 = 101 := by rw [e1055]; exact c1049
  refine z_dup C dX3_init_334 rfl ?_
  refine z_bipush (v := (nI 40)) C dX3_init_335 (by decide) ?_
  refine z_bipush (v := (nI 114)) C dX3_init_337 (by decide) ?_
  obtain ⟨c1068, c1069, h1070⟩ := h1053
  refine z_iast C rfl c1067 c1068 c1069 dX3_init_339 ?_
  refine Z.mem fun μ1072 e1073 => ?_
  have h1071 := h1070 μ1072 e1073
  have c1074 : zC μ1072 this = 18 := by rw [e1073]; exact c1056
  have c1075 : zC μ1072 a21 = 101 := by rw [e1073]; exact c1057
  have c1076 : zC μ1072 a43 = 101 := by rw [e1073]; exact c1058
  have c1077 : zC μ1072 a67 = 101 := by rw [e1073]; exact c1059
  have c1078 : zC μ1072 a93 = 101 := by rw [e1073]; exact c1060
  have c1079 : zC μ1072 a121 = 101 := by rw [e1073]; exact c1061
  have c1080 : zC μ1072 a151 = 101 := by rw [e1073]; exact c1062
  have c1081 : zC μ1072 a183 = 101 := by rw [e1073]; exact c1063
  have c1082 : zC μ1072 a217 = 101 := by rw [e1073]; exact c1064
  have c1083 : zC μ1072 a253 = 101 := by rw [e1073]; exact c1065
  have c1084 : zC μ1072 a291 = 101 := by rw [e1073]; exact c1066
  have c1085 : zC μ1072 a331 = 101 := by rw [e1073]; exact c1067
  refine z_dup C dX3_init_340 rfl ?_
  refine z_bipush (v := (nI 41)) C dX3_init_341 (by decide) ?_
  refine z_bipush (v := (nI 32)) C dX3_init_343 (by decide) ?_
  obtain ⟨c1086, c1087, h1088⟩ := h1071
  refine z_iast C rfl c1085 c1086 c1087 dX3_init_345 ?_
  refine Z.mem fun μ1090 e1091 => ?_
  have h1089 := h1088 μ1090 e1091
  have c1092 : zC μ1090 this = 18 := by rw [e1091]; exact c1074
  have c1093 : zC μ1090 a21 = 101 := by rw [e1091]; exact c1075
  have c1094 : zC μ1090 a43 = 101 := by rw [e1091]; exact c1076
  have c1095 : zC μ1090 a67 = 101 := by rw [e1091]; exact c1077
  have c1096 : zC μ1090 a93 = 101 := by rw [e1091]; exact c1078
  have c1097 : zC μ1090 a121 = 101 := by rw [e1091]; exact c1079
  have c1098 : zC μ1090 a151 = 101 := by rw [e1091]; exact c1080
  have c1099 : zC μ1090 a183 = 101 := by rw [e1091]; exact c1081
  have c1100 : zC μ1090 a217 = 101 := by rw [e1091]; exact c1082
  have c1101 : zC μ1090 a253 = 101 := by rw [e1091]; exact c1083
  have c1102 : zC μ1090 a291 = 101 := by rw [e1091]; exact c1084
  have c1103 : zC μ1090 a331 = 101 := by rw [e1091]; exact c1085
  refine z_dup C dX3_init_346 rfl ?_
  refine z_bipush (v := (nI 42)) C dX3_init_347 (by decide) ?_
  refine z_bipush (v := (nI 119)) C dX3_init_349 (by decide) ?_
  obtain ⟨c1104, c1105, h1106⟩ := h1089
  refine z_iast C rfl c1103 c1104 c1105 dX3_init_351 ?_
  refine Z.mem fun μ1108 e1109 => ?_
  have h1107 := h1106 μ1108 e1109
  have c1110 : zC μ1108 this = 18 := by rw [e1109]; exact c1092
  have c1111 : zC μ1108 a21 = 101 := by rw [e1109]; exact c1093
  have c1112 : zC μ1108 a43 = 101 := by rw [e1109]; exact c1094
  have c1113 : zC μ1108 a67 = 101 := by rw [e1109]; exact c1095
  have c1114 : zC μ1108 a93 = 101 := by rw [e1109]; exact c1096
  have c1115 : zC μ1108 a121 = 101 := by rw [e1109]; exact c1097
  have c1116 : zC μ1108 a151 = 101 := by rw [e1109]; exact c1098
  have c1117 : zC μ1108 a183 = 101 := by rw [e1109]; exact c1099
  have c1118 : zC μ1108 a217 = 101 := by rw [e1109]; exact c1100
  have c1119 : zC μ1108 a253 = 101 := by rw [e1109]; exact c1101
  have c1120 : zC μ1108 a291 = 101 := by rw [e1109]; exact c1102
  have c1121 : zC μ1108 a331 = 101 := by rw [e1109]; exact c1103
  refine z_dup C dX3_init_352 rfl ?_
  refine z_bipush (v := (nI 43)) C dX3_init_353 (by decide) ?_
  refine z_bipush (v := (nI 97)) C dX3_init_355 (by decide) ?_
  obtain ⟨c1122, c1123, h1124⟩ := h1107
  refine z_iast C rfl c1121 c1122 c1123 dX3_init_357 ?_
  refine Z.mem fun μ1126 e1127 => ?_
  have h1125 := h1124 μ1126 e1127
  have c1128 : zC μ1126 this = 18 := by rw [e1127]; exact c1110
  have c1129 : zC μ1126 a21 = 101 := by rw [e1127]; exact c1111
  have c1130 : zC μ1126 a43 = 101 := by rw [e1127]; exact c1112
  have c1131 : zC μ1126 a67 = 101 := by rw [e1127]; exact c1113
  have c1132 : zC μ1126 a93 = 101 := by rw [e1127]; exact c1114
  have c1133 : zC μ1126 a121 = 101 := by rw [e1127]; exact c1115
  have c1134 : zC μ1126 a151 = 101 := by rw [e1127]; exact c1116
  have c1135 : zC μ1126 a183 = 101 := by rw [e1127]; exact c1117
  have c1136 : zC μ1126 a217 = 101 := by rw [e1127]; exact c1118
  have c1137 : zC μ1126 a253 = 101 := by rw [e1127]; exact c1119
  have c1138 : zC μ1126 a291 = 101 := by rw [e1127]; exact c1120
  have c1139 : zC μ1126 a331 = 101 := by rw [e1127]; exact c1121
  refine z_dup C dX3_init_358 rfl ?_
  refine z_bipush (v := (nI 44)) C dX3_init_359 (by decide) ?_
  refine z_bipush (v := (nI 108)) C dX3_init_361 (by decide) ?_
  obtain ⟨c1140, c1141, h1142⟩ := h1125
  refine z_iast C rfl c1139 c1140 c1141 dX3_init_363 ?_
  refine Z.mem fun μ1144 e1145 => ?_
  have h1143 := h1142 μ1144 e1145
  have c1146 : zC μ1144 this = 18 := by rw [e1145]; exact c1128
  have c1147 : zC μ1144 a21 = 101 := by rw [e1145]; exact c1129
  have c1148 : zC μ1144 a43 = 101 := by rw [e1145]; exact c1130
  have c1149 : zC μ1144 a67 = 101 := by rw [e1145]; exact c1131
  have c1150 : zC μ1144 a93 = 101 := by rw [e1145]; exact c1132
  have c1151 : zC μ1144 a121 = 101 := by rw [e1145]; exact c1133
  have c1152 : zC μ1144 a151 = 101 := by rw [e1145]; exact c1134
  have c1153 : zC μ1144 a183 = 101 := by rw [e1145]; exact c1135
  have c1154 : zC μ1144 a217 = 101 := by rw [e1145]; exact c1136
  have c1155 : zC μ1144 a253 = 101 := by rw [e1145]; exact c1137
  have c1156 : zC μ1144 a291 = 101 := by rw [e1145]; exact c1138
  have c1157 : zC μ1144 a331 = 101 := by rw [e1145]; exact c1139
  refine z_dup C dX3_init_364 rfl ?_
  refine z_bipush (v := (nI 45)) C dX3_init_365 (by decide) ?_
  refine z_bipush (v := (nI 107)) C dX3_init_367 (by decide) ?_
  obtain ⟨c1158, c1159, h1160⟩ := h1143
  refine z_iast C rfl c1157 c1158 c1159 dX3_init_369 ?_
  refine Z.mem fun μ1162 e1163 => ?_
  have h1161 := h1160 μ1162 e1163
  have c1164 : zC μ1162 this = 18 := by rw [e1163]; exact c1146
  have c1165 : zC μ1162 a21 = 101 := by rw [e1163]; exact c1147
  have c1166 : zC μ1162 a43 = 101 := by rw [e1163]; exact c1148
  have c1167 : zC μ1162 a67 = 101 := by rw [e1163]; exact c1149
  have c1168 : zC μ1162 a93 = 101 := by rw [e1163]; exact c1150
  have c1169 : zC μ1162 a121 = 101 := by rw [e1163]; exact c1151
  have c1170 : zC μ1162 a151 = 101 := by rw [e1163]; exact c1152
  have c1171 : zC μ1162 a183 = 101 := by rw [e1163]; exact c1153
  have c1172 : zC μ1162 a217 = 101 := by rw [e1163]; exact c1154
  have c1173 : zC μ1162 a253 = 101 := by rw [e1163]; exact c1155
  have c1174 : zC μ1162 a291 = 101 := by rw [e1163]; exact c1156
  have c1175 : zC μ1162 a331 = 101 := by rw [e1163]; exact c1157
  refine z_dup C dX3_init_370 rfl ?_
  refine z_bipush (v := (nI 46)) C dX3_init_371 (by decide) ?_
  refine z_bipush (v := (nI 32)) C dX3_init_373 (by decide) ?_
  obtain ⟨c1176, c1177, h1178⟩ := h1161
  refine z_iast C rfl c1175 c1176 c1177 dX3_init_375 ?_
  refine Z.mem fun μ1180 e1181 => ?_
  have h1179 := h1178 μ1180 e1181
  have c1182 : zC μ1180 this = 18 := by rw [e1181]; exact c1164
  have c1183 : zC μ1180 a21 = 101 := by rw [e1181]; exact c1165
  have c1184 : zC μ1180 a43 = 101 := by rw [e1181]; exact c1166
  have c1185 : zC μ1180 a67 = 101 := by rw [e1181]; exact c1167
  have c1186 : zC μ1180 a93 = 101 := by rw [e1181]; exact c1168
  have c1187 : zC μ1180 a121 = 101 := by rw [e1181]; exact c1169
  have c1188 : zC μ1180 a151 = 101 := by rw [e1181]; exact c1170
  have c1189 : zC μ1180 a183 = 101 := by rw [e1181]; exact c1171
  have c1190 : zC μ1180 a217 = 101 := by rw [e1181]; exact c1172
  have c1191 : zC μ1180 a253 = 101 := by rw [e1181]; exact c1173
  have c1192 : zC μ1180 a291 = 101 := by rw [e1181]; exact c1174
  have c1193 : zC μ1180 a331 = 101 := by rw [e1181]; exact c1175
  refine z_dup C dX3_init_376 rfl ?_
  refine z_bipush (v := (nI 47)) C dX3_init_377 (by decide) ?_
  refine z_bipush (v := (nI 103)) C dX3_init_379 (by decide) ?_
  obtain ⟨c1194, c1195, h1196⟩ := h1179
  refine z_iast C rfl c1193 c1194 c1195 dX3_init_381 ?_
  refine Z.mem fun μ1198 e1199 => ?_
  have h1197 := h1196 μ1198 e1199
  have c1200 : zC μ1198 this = 18 := by rw [e1199]; exact c1182
  have c1201 : zC μ1198 a21 = 101 := by rw [e1199]; exact c1183
  have c1202 : zC μ1198 a43 = 101 := by rw [e1199]; exact c1184
  have c1203 : zC μ1198 a67 = 101 := by rw [e1199]; exact c1185
  have c1204 : zC μ1198 a93 = 101 := by rw [e1199]; exact c1186
  have c1205 : zC μ1198 a121 = 101 := by rw [e1199]; exact c1187
  have c1206 : zC μ1198 a151 = 101 := by rw [e1199]; exact c1188
  have c1207 : zC μ1198 a183 = 101 := by rw [e1199]; exact c1189
  have c1208 : zC μ1198 a217 = 101 := by rw [e1199]; exact c1190
  have c1209 : zC μ1198 a253 = 101 := by rw [e1199]; exact c1191
  have c1210 : zC μ1198 a291 = 101 := by rw [e1199]; exact c1192
  have c1211 : zC μ1198 a331 = 101 := by rw [e1199]; exact c1193
  refine z_dup C dX3_init_382 rfl ?_
  refine z_bipush (v := (nI 48)) C dX3_init_383 (by decide) ?_
  refine z_bipush (v := (nI 111)) C dX3_init_385 (by decide) ?_
  obtain ⟨c1212, c1213, h1214⟩ := h1197
  refine z_iast C rfl c1211 c1212 c1213 dX3_init_387 ?_
  refine Z.mem fun μ1216 e1217 => ?_
  have h1215 := h1214 μ1216 e1217
  have c1218 : zC μ1216 this = 18 := by rw [e1217]; exact c1200
  have c1219 : zC μ1216 a21 = 101 := by rw [e1217]; exact c1201
  have c1220 : zC μ1216 a43 = 101 := by rw [e1217]; exact c1202
  have c1221 : zC μ1216 a67 = 101 := by rw [e1217]; exact c1203
  have c1222 : zC μ1216 a93 = 101 := by rw [e1217]; exact c1204
  have c1223 : zC μ1216 a121 = 101 := by rw [e1217]; exact c1205
  have c1224 : zC μ1216 a151 = 101 := by rw [e1217]; exact c1206
  have c1225 : zC μ1216 a183 = 101 := by rw [e1217]; exact c1207
  have c1226 : zC μ1216 a217 = 101 := by rw [e1217]; exact c1208
  have c1227 : zC μ1216 a253 = 101 := by rw [e1217]; exact c1209
  have c1228 : zC μ1216 a291 = 101 := by rw [e1217]; exact c1210
  have c1229 : zC μ1216 a331 = 101 := by rw [e1217]; exact c1211
  refine z_dup C dX3_init_388 rfl ?_
  refine z_bipush (v := (nI 49)) C dX3_init_389 (by decide) ?_
  refine z_bipush (v := (nI 110)) C dX3_init_391 (by decide) ?_
  obtain ⟨c1230, c1231, h1232⟩ := h1215
  refine z_iast C rfl c1229 c1230 c1231 dX3_init_393 ?_
  refine Z.mem fun μ1234 e1235 => ?_
  have h1233 := h1232 μ1234 e1235
  have c1236 : zC μ1234 this = 18 := by rw [e1235]; exact c1218
  have c1237 : zC μ1234 a21 = 101 := by rw [e1235]; exact c1219
  have c1238 : zC μ1234 a43 = 101 := by rw [e1235]; exact c1220
  have c1239 : zC μ1234 a67 = 101 := by rw [e1235]; exact c1221
  have c1240 : zC μ1234 a93 = 101 := by rw [e1235]; exact c1222
  have c1241 : zC μ1234 a121 = 101 := by rw [e1235]; exact c1223
  have c1242 : zC μ1234 a151 = 101 := by rw [e1235]; exact c1224
  have c1243 : zC μ1234 a183 = 101 := by rw [e1235]; exact c1225
  have c1244 : zC μ1234 a217 = 101 := by rw [e1235]; exact c1226
  have c1245 : zC μ1234 a253 = 101 := by rw [e1235]; exact c1227
  have c1246 : zC μ1234 a291 = 101 := by rw [e1235]; exact c1228
  have c1247 : zC μ1234 a331 = 101 := by rw [e1235]; exact c1229
  refine z_dup C dX3_init_394 rfl ?_
  refine z_bipush (v := (nI 50)) C dX3_init_395 (by decide) ?_
  refine z_bipush (v := (nI 101)) C dX3_init_397 (by decide) ?_
  obtain ⟨c1248, c1249, h1250⟩ := h1233
  refine z_iast C rfl c1247 c1248 c1249 dX3_init_399 ?_
  refine Z.mem fun μ1252 e1253 => ?_
  have h1251 := h1250 μ1252 e1253
  have c1254 : zC μ1252 this = 18 := by rw [e1253]; exact c1236
  have c1255 : zC μ1252 a21 = 101 := by rw [e1253]; exact c1237
  have c1256 : zC μ1252 a43 = 101 := by rw [e1253]; exact c1238
  have c1257 : zC μ1252 a67 = 101 := by rw [e1253]; exact c1239
  have c1258 : zC μ1252 a93 = 101 := by rw [e1253]; exact c1240
  have c1259 : zC μ1252 a121 = 101 := by rw [e1253]; exact c1241
  have c1260 : zC μ1252 a151 = 101 := by rw [e1253]; exact c1242
  have c1261 : zC μ1252 a183 = 101 := by rw [e1253]; exact c1243
  have c1262 : zC μ1252 a217 = 101 := by rw [e1253]; exact c1244
  have c1263 : zC μ1252 a253 = 101 := by rw [e1253]; exact c1245
  have c1264 : zC μ1252 a291 = 101 := by rw [e1253]; exact c1246
  have c1265 : zC μ1252 a331 = 101 := by rw [e1253]; exact c1247
  refine z_dup C dX3_init_400 rfl ?_
  refine z_bipush (v := (nI 51)) C dX3_init_401 (by decide) ?_
  refine z_bipush (v := (nI 32)) C dX3_init_403 (by decide) ?_
  obtain ⟨c1266, c1267, h1268⟩ := h1251
  refine z_iast C rfl c1265 c1266 c1267 dX3_init_405 ?_
  refine Z.mem fun μ1270 e1271 => ?_
  have h1269 := h1268 μ1270 e1271
  have c1272 : zC μ1270 this = 18 := by rw [e1271]; exact c1254
  have c1273 : zC μ1270 a21 = 101 := by rw [e1271]; exact c1255
  have c1274 : zC μ1270 a43 = 101 := by rw [e1271]; exact c1256
  have c1275 : zC μ1270 a67 = 101 := by rw [e1271]; exact c1257
  have c1276 : zC μ1270 a93 = 101 := by rw [e1271]; exact c1258
  have c1277 : zC μ1270 a121 = 101 := by rw [e1271]; exact c1259
  have c1278 : zC μ1270 a151 = 101 := by rw [e1271]; exact c1260
  have c1279 : zC μ1270 a183 = 101 := by rw [e1271]; exact c1261
  have c1280 : zC μ1270 a217 = 101 := by rw [e1271]; exact c1262
  have c1281 : zC μ1270 a253 = 101 := by rw [e1271]; exact c1263
  have c1282 : zC μ1270 a291 = 101 := by rw [e1271]; exact c1264
  have c1283 : zC μ1270 a331 = 101 := by rw [e1271]; exact c1265
  refine z_putR C rfl (zFpOf c1272 zp_X3_init_47_18) (Or.inl (zFzOf c1272 rfl)) rfl dX3_init_406 ?_
  refine Z.mem fun μ1284 e1286 => ?_
  have h1285 := h1269 μ1284 e1286
  have c1287 : zC μ1284 this = 18 := by rw [e1286]; exact c1272
  have c1288 : zC μ1284 a21 = 101 := by rw [e1286]; exact c1273
  have c1289 : zC μ1284 a43 = 101 := by rw [e1286]; exact c1274
  have c1290 : zC μ1284 a67 = 101 := by rw [e1286]; exact c1275
  have c1291 : zC μ1284 a93 = 101 := by rw [e1286]; exact c1276
  have c1292 : zC μ1284 a121 = 101 := by rw [e1286]; exact c1277
  have c1293 : zC μ1284 a151 = 101 := by rw [e1286]; exact c1278
  have c1294 : zC μ1284 a183 = 101 := by rw [e1286]; exact c1279
  have c1295 : zC μ1284 a217 = 101 := by rw [e1286]; exact c1280
  have c1296 : zC μ1284 a253 = 101 := by rw [e1286]; exact c1281
  have c1297 : zC μ1284 a291 = 101 := by rw [e1286]; exact c1282
  have c1298 : zC μ1284 a331 = 101 := by rw [e1286]; exact c1283
  refine z_aload_n C dX3_init_409 0 rfl ?_
  refine z_bipush (v := (nI 11)) C dX3_init_410 (by decide) ?_
  obtain ⟨c1305, c1306, h1307⟩ := h1285
  refine Z.wm fun m1313 => ?_
  refine z_newaE (ci := 101) (atype := .int) (N := 11) C (by decide) q1905 (by decide) (by decide) (by decide) c1305 c1306 dX3_init_412 fun a1309 μ1310 e1311 e1312 => ?_
  have h1308 := h1307 a1309 μ1310 e1311 e1312
  have c1314 : zC μ1310 a1309 = 101 := by rw [e1312, e1311]; exact zC_new _ _ _
  have c1315 : zC μ1310 this = 18 := by rw [e1312]; exact zC_keep m1313 c1287 (by decide)
  have c1316 : zC μ1310 a21 = 101 := by rw [e1312]; exact zC_keep m1313 c1288 (by decide)
  have c1317 : zC μ1310 a43 = 101 := by rw [e1312]; exact zC_keep m1313 c1289 (by decide)
  have c1318 : zC μ1310 a67 = 101 := by rw [e1312]; exact zC_keep m1313 c1290 (by decide)
  have c1319 : zC μ1310 a93 = 101 := by rw [e1312]; exact zC_keep m1313 c1291 (by decide)
  have c1320 : zC μ1310 a121 = 101 := by rw [e1312]; exact zC_keep m1313 c1292 (by decide)
  have c1321 : zC μ1310 a151 = 101 := by rw [e1312]; exact zC_keep m1313 c1293 (by decide)
  have c1322 : zC μ1310 a183 = 101 := by rw [e1312]; exact zC_keep m1313 c1294 (by decide)
  have c1323 : zC μ1310 a217 = 101 := by rw [e1312]; exact zC_keep m1313 c1295 (by decide)
  have c1324 : zC μ1310 a253 = 101 := by rw [e1312]; exact zC_keep m1313 c1296 (by decide)
  have c1325 : zC μ1310 a291 = 101 := by rw [e1312]; exact zC_keep m1313 c1297 (by decide)
  have c1326 : zC μ1310 a331 = 101 := by rw [e1312]; exact zC_keep m1313 c1298 (by decide)
  refine z_dup C dX3_init_414 rfl ?_
  refine z_iconst (v := 0) C dX3_init_415 (by decide) ?_
  refine z_iconst (v := 0) C dX3_init_416 (by decide) ?_
  obtain ⟨c1327, c1328, h1329⟩ := h1308
  refine z_iast C rfl c1314 c1327 c1328 dX3_init_417 ?_
  refine Z.mem fun μ1331 e1332 => ?_
  have h1330 := h1329 μ1331 e1332
  have c1333 : zC μ1331 this = 18 := by rw [e1332]; exact c1315
  have c1334 : zC μ1331 a21 = 101 := by rw [e1332]; exact c1316
  have c1335 : zC μ1331 a43 = 101 := by rw [e1332]; exact c1317
  have c1336 : zC μ1331 a67 = 101 := by rw [e1332]; exact c1318
  have c1337 : zC μ1331 a93 = 101 := by rw [e1332]; exact c1319
  have c1338 : zC μ1331 a121 = 101 := by rw [e1332]; exact c1320
  have c1339 : zC μ1331 a151 = 101 := by rw [e1332]; exact c1321
  have c1340 : zC μ1331 a183 = 101 := by rw [e1332]; exact c1322
  have c1341 : zC μ1331 a217 = 101 := by rw [e1332]; exact c1323
  have c1342 : zC μ1331 a253 = 101 := by rw [e1332]; exact c1324
  have c1343 : zC μ1331 a291 = 101 := by rw [e1332]; exact c1325
  have c1344 : zC μ1331 a331 = 101 := by rw [e1332]; exact c1326
  have c1345 : zC μ1331 a1309 = 101 := by rw [e1332]; exact c1314
  refine z_dup C dX3_init_418 rfl ?_
  refine z_iconst (v := 1) C dX3_init_419 (by decide) ?_
  refine z_iconst (v := (nI 4)) C dX3_init_420 (by decide) ?_
  obtain ⟨c1346, c1347, h1348⟩ := h1330
  refine z_iast C rfl c1345 c1346 c1347 dX3_init_421 ?_
  refine Z.mem fun μ1350 e1351 => ?_
  have h1349 := h1348 μ1350 e1351
  have c1352 : zC μ1350 this = 18 := by rw [e1351]; exact c1333
  have c1353 : zC μ1350 a21 = 101 := by rw [e1351]; exact c1334
  have c1354 : zC μ1350 a43 = 101 := by rw [e1351]; exact c1335
  have c1355 : zC μ1350 a67 = 101 := by rw [e1351]; exact c1336
  have c1356 : zC μ1350 a93 = 101 := by rw [e1351]; exact c1337
  have c1357 : zC μ1350 a121 = 101 := by rw [e1351]; exact c1338
  have c1358 : zC μ1350 a151 = 101 := by rw [e1351]; exact c1339
  have c1359 : zC μ1350 a183 = 101 := by rw [e1351]; exact c1340
  have c1360 : zC μ1350 a217 = 101 := by rw [e1351]; exact c1341
  have c1361 : zC μ1350 a253 = 101 := by rw [e1351]; exact c1342
  have c1362 : zC μ1350 a291 = 101 := by rw [e1351]; exact c1343
  have c1363 : zC μ1350 a331 = 101 := by rw [e1351]; exact c1344
  have c1364 : zC μ1350 a1309 = 101 := by rw [e1351]; exact c1345
  refine z_dup C dX3_init_422 rfl ?_
  refine z_iconst (v := (nI 2)) C dX3_init_423 (by decide) ?_
  refine z_bipush (v := (nI 9)) C dX3_init_424 (by decide) ?_
  obtain ⟨c1365, c1366, h1367⟩ := h1349
  refine z_iast C rfl c1364 c1365 c1366 dX3_init_426 ?_
  refine Z.mem fun μ1369 e1370 => ?_
  have h1368 := h1367 μ1369 e1370
  have c1371 : zC μ1369 this = 18 := by rw [e1370]; exact c1352
  have c1372 : zC μ1369 a21 = 101 := by rw [e1370]; exact c1353
  have c1373 : zC μ1369 a43 = 101 := by rw [e1370]; exact c1354
  have c1374 : zC μ1369 a67 = 101 := by rw [e1370]; exact c1355
  have c1375 : zC μ1369 a93 = 101 := by rw [e1370]; exact c1356
  have c1376 : zC μ1369 a121 = 101 := by rw [e1370]; exact c1357
  have c1377 : zC μ1369 a151 = 101 := by rw [e1370]; exact c1358
  have c1378 : zC μ1369 a183 = 101 := by rw [e1370]; exact c1359
  have c1379 : zC μ1369 a217 = 101 := by rw [e1370]; exact c1360
  have c1380 : zC μ1369 a253 = 101 := by rw [e1370]; exact c1361
  have c1381 : zC μ1369 a291 = 101 := by rw [e1370]; exact c1362
  have c1382 : zC μ1369 a331 = 101 := by rw [e1370]; exact c1363
  have c1383 : zC μ1369 a1309 = 101 := by rw [e1370]; exact c1364
  refine z_dup C dX3_init_427 rfl ?_
  refine z_iconst (v := (nI 3)) C dX3_init_428 (by decide) ?_
  refine z_bipush (v := (nI 15)) C dX3_init_429 (by decide) ?_
  obtain ⟨c1384, c1385, h1386⟩ := h1368
  refine z_iast C rfl c1383 c1384 c1385 dX3_init_431 ?_
  refine Z.mem fun μ1388 e1389 => ?_
  have h1387 := h1386 μ1388 e1389
  have c1390 : zC μ1388 this = 18 := by rw [e1389]; exact c1371
  have c1391 : zC μ1388 a21 = 101 := by rw [e1389]; exact c1372
  have c1392 : zC μ1388 a43 = 101 := by rw [e1389]; exact c1373
  have c1393 : zC μ1388 a67 = 101 := by rw [e1389]; exact c1374
  have c1394 : zC μ1388 a93 = 101 := by rw [e1389]; exact c1375
  have c1395 : zC μ1388 a121 = 101 := by rw [e1389]; exact c1376
  have c1396 : zC μ1388 a151 = 101 := by rw [e1389]; exact c1377
  have c1397 : zC μ1388 a183 = 101 := by rw [e1389]; exact c1378
  have c1398 : zC μ1388 a217 = 101 := by rw [e1389]; exact c1379
  have c1399 : zC μ1388 a253 = 101 := by rw [e1389]; exact c1380
  have c1400 : zC μ1388 a291 = 101 := by rw [e1389]; exact c1381
  have c1401 : zC μ1388 a331 = 101 := by rw [e1389]; exact c1382
  have c1402 : zC μ1388 a1309 = 101 := by rw [e1389]; exact c1383
  refine z_dup C dX3_init_432 rfl ?_
  refine z_iconst (v := (nI 4)) C dX3_init_433 (by decide) ?_
  refine z_bipush (v := (nI 21)) C dX3_init_434 (by decide) ?_
  obtain ⟨c1403, c1404, h1405⟩ := h1387
  refine z_iast C rfl c1402 c1403 c1404 dX3_init_436 ?_
  refine Z.mem fun μ1407 e1408 => ?_
  have h1406 := h1405 μ1407 e1408
  have c1409 : zC μ1407 this = 18 := by rw [e1408]; exact c1390
  have c1410 : zC μ1407 a21 = 101 := by rw [e1408]; exact c1391
  have c1411 : zC μ1407 a43 = 101 := by rw [e1408]; exact c1392
  have c1412 : zC μ1407 a67 = 101 := by rw [e1408]; exact c1393
  have c1413 : zC μ1407 a93 = 101 := by rw [e1408]; exact c1394
  have c1414 : zC μ1407 a121 = 101 := by rw [e1408]; exact c1395
  have c1415 : zC μ1407 a151 = 101 := by rw [e1408]; exact c1396
  have c1416 : zC μ1407 a183 = 101 := by rw [e1408]; exact c1397
  have c1417 : zC μ1407 a217 = 101 := by rw [e1408]; exact c1398
  have c1418 : zC μ1407 a253 = 101 := by rw [e1408]; exact c1399
  have c1419 : zC μ1407 a291 = 101 := by rw [e1408]; exact c1400
  have c1420 : zC μ1407 a331 = 101 := by rw [e1408]; exact c1401
  have c1421 : zC μ1407 a1309 = 101 := by rw [e1408]; exact c1402
  refine z_dup C dX3_init_437 rfl ?_
  refine z_iconst (v := (nI 5)) C dX3_init_438 (by decide) ?_
  refine z_bipush (v := (nI 26)) C dX3_init_439 (by decide) ?_
  obtain ⟨c1422, c1423, h1424⟩ := h1406
  refine z_iast C rfl c1421 c1422 c1423 dX3_init_441 ?_
  refine Z.mem fun μ1426 e1427 => ?_
  have h1425 := h1424 μ1426 e1427
  have c1428 : zC μ1426 this = 18 := by rw [e1427]; exact c1409
  have c1429 : zC μ1426 a21 = 101 := by rw [e1427]; exact c1410
  have c1430 : zC μ1426 a43 = 101 := by rw [e1427]; exact c1411
  have c1431 : zC μ1426 a67 = 101 := by rw [e1427]; exact c1412
  have c1432 : zC μ1426 a93 = 101 := by rw [e1427]; exact c1413
  have c1433 : zC μ1426 a121 = 101 := by rw [e1427]; exact c1414
  have c1434 : zC μ1426 a151 = 101 := by rw [e1427]; exact c1415
  have c1435 : zC μ1426 a183 = 101 := by rw [e1427]; exact c1416
  have c1436 : zC μ1426 a217 = 101 := by rw [e1427]; exact c1417
  have c1437 : zC μ1426 a253 = 101 := by rw [e1427]; exact c1418
  have c1438 : zC μ1426 a291 = 101 := by rw [e1427]; exact c1419
  have c1439 : zC μ1426 a331 = 101 := by rw [e1427]; exact c1420
  have c1440 : zC μ1426 a1309 = 101 := by rw [e1427]; exact c1421
  refine z_dup C dX3_init_442 rfl ?_
  refine z_bipush (v := (nI 6)) C dX3_init_443 (by decide) ?_
  refine z_bipush (v := (nI 31)) C dX3_init_445 (by decide) ?_
  obtain ⟨c1441, c1442, h1443⟩ := h1425
  refine z_iast C rfl c1440 c1441 c1442 dX3_init_447 ?_
  refine Z.mem fun μ1445 e1446 => ?_
  have h1444 := h1443 μ1445 e1446
  have c1447 : zC μ1445 this = 18 := by rw [e1446]; exact c1428
  have c1448 : zC μ1445 a21 = 101 := by rw [e1446]; exact c1429
  have c1449 : zC μ1445 a43 = 101 := by rw [e1446]; exact c1430
  have c1450 : zC μ1445 a67 = 101 := by rw [e1446]; exact c1431
  have c1451 : zC μ1445 a93 = 101 := by rw [e1446]; exact c1432
  have c1452 : zC μ1445 a121 = 101 := by rw [e1446]; exact c1433
  have c1453 : zC μ1445 a151 = 101 := by rw [e1446]; exact c1434
  have c1454 : zC μ1445 a183 = 101 := by rw [e1446]; exact c1435
  have c1455 : zC μ1445 a217 = 101 := by rw [e1446]; exact c1436
  have c1456 : zC μ1445 a253 = 101 := by rw [e1446]; exact c1437
  have c1457 : zC μ1445 a291 = 101 := by rw [e1446]; exact c1438
  have c1458 : zC μ1445 a331 = 101 := by rw [e1446]; exact c1439
  have c1459 : zC μ1445 a1309 = 101 := by rw [e1446]; exact c1440
  refine z_dup C dX3_init_448 rfl ?_
  refine z_bipush (v := (nI 7)) C dX3_init_449 (by decide) ?_
  refine z_bipush (v := (nI 36)) C dX3_init_451 (by decide) ?_
  obtain ⟨c1460, c1461, h1462⟩ := h1444
  refine z_iast C rfl c1459 c1460 c1461 dX3_init_453 ?_
  refine Z.mem fun μ1464 e1465 => ?_
  have h1463 := h1462 μ1464 e1465
  have c1466 : zC μ1464 this = 18 := by rw [e1465]; exact c1447
  have c1467 : zC μ1464 a21 = 101 := by rw [e1465]; exact c1448
  have c1468 : zC μ1464 a43 = 101 := by rw [e1465]; exact c1449
  have c1469 : zC μ1464 a67 = 101 := by rw [e1465]; exact c1450
  have c1470 : zC μ1464 a93 = 101 := by rw [e1465]; exact c1451
  have c1471 : zC μ1464 a121 = 101 := by rw [e1465]; exact c1452
  have c1472 : zC μ1464 a151 = 101 := by rw [e1465]; exact c1453
  have c1473 : zC μ1464 a183 = 101 := by rw [e1465]; exact c1454
  have c1474 : zC μ1464 a217 = 101 := by rw [e1465]; exact c1455
  have c1475 : zC μ1464 a253 = 101 := by rw [e1465]; exact c1456
  have c1476 : zC μ1464 a291 = 101 := by rw [e1465]; exact c1457
  have c1477 : zC μ1464 a331 = 101 := by rw [e1465]; exact c1458
  have c1478 : zC μ1464 a1309 = 101 := by rw [e1465]; exact c1459
  refine z_dup C dX3_init_454 rfl ?_
  refine z_bipush (v := (nI 8)) C dX3_init_455 (by decide) ?_
  refine z_bipush (v := (nI 42)) C dX3_init_457 (by decide) ?_
  obtain ⟨c1479, c1480, h1481⟩ := h1463
  refine z_iast C rfl c1478 c1479 c1480 dX3_init_459 ?_
  refine Z.mem fun μ1483 e1484 => ?_
  have h1482 := h1481 μ1483 e1484
  have c1485 : zC μ1483 this = 18 := by rw [e1484]; exact c1466
  have c1486 : zC μ1483 a21 = 101 := by rw [e1484]; exact c1467
  have c1487 : zC μ1483 a43 = 101 := by rw [e1484]; exact c1468
  have c1488 : zC μ1483 a67 = 101 := by rw [e1484]; exact c1469
  have c1489 : zC μ1483 a93 = 101 := by rw [e1484]; exact c1470
  have c1490 : zC μ1483 a121 = 101 := by rw [e1484]; exact c1471
  have c1491 : zC μ1483 a151 = 101 := by rw [e1484]; exact c1472
  have c1492 : zC μ1483 a183 = 101 := by rw [e1484]; exact c1473
  have c1493 : zC μ1483 a217 = 101 := by rw [e1484]; exact c1474
  have c1494 : zC μ1483 a253 = 101 := by rw [e1484]; exact c1475
  have c1495 : zC μ1483 a291 = 101 := by rw [e1484]; exact c1476
  have c1496 : zC μ1483 a331 = 101 := by rw [e1484]; exact c1477
  have c1497 : zC μ1483 a1309 = 101 := by rw [e1484]; exact c1478
  refine z_dup C dX3_init_460 rfl ?_
  refine z_bipush (v := (nI 9)) C dX3_init_461 (by decide) ?_
  refine z_bipush (v := (nI 47)) C dX3_init_463 (by decide) ?_
  obtain ⟨c1498, c1499, h1500⟩ := h1482
  refine z_iast C rfl c1497 c1498 c1499 dX3_init_465 ?_
  refine Z.mem fun μ1502 e1503 => ?_
  have h1501 := h1500 μ1502 e1503
  have c1504 : zC μ1502 this = 18 := by rw [e1503]; exact c1485
  have c1505 : zC μ1502 a21 = 101 := by rw [e1503]; exact c1486
  have c1506 : zC μ1502 a43 = 101 := by rw [e1503]; exact c1487
  have c1507 : zC μ1502 a67 = 101 := by rw [e1503]; exact c1488
  have c1508 : zC μ1502 a93 = 101 := by rw [e1503]; exact c1489
  have c1509 : zC μ1502 a121 = 101 := by rw [e1503]; exact c1490
  have c1510 : zC μ1502 a151 = 101 := by rw [e1503]; exact c1491
  have c1511 : zC μ1502 a183 = 101 := by rw [e1503]; exact c1492
  have c1512 : zC μ1502 a217 = 101 := by rw [e1503]; exact c1493
  have c1513 : zC μ1502 a253 = 101 := by rw [e1503]; exact c1494
  have c1514 : zC μ1502 a291 = 101 := by rw [e1503]; exact c1495
  have c1515 : zC μ1502 a331 = 101 := by rw [e1503]; exact c1496
  have c1516 : zC μ1502 a1309 = 101 := by rw [e1503]; exact c1497
  refine z_dup C dX3_init_466 rfl ?_
  refine z_bipush (v := (nI 10)) C dX3_init_467 (by decide) ?_
  refine z_bipush (v := (nI 52)) C dX3_init_469 (by decide) ?_
  obtain ⟨c1517, c1518, h1519⟩ := h1501
  refine z_iast C rfl c1516 c1517 c1518 dX3_init_471 ?_
  refine Z.mem fun μ1521 e1522 => ?_
  have h1520 := h1519 μ1521 e1522
  have c1523 : zC μ1521 this = 18 := by rw [e1522]; exact c1504
  have c1524 : zC μ1521 a21 = 101 := by rw [e1522]; exact c1505
  have c1525 : zC μ1521 a43 = 101 := by rw [e1522]; exact c1506
  have c1526 : zC μ1521 a67 = 101 := by rw [e1522]; exact c1507
  have c1527 : zC μ1521 a93 = 101 := by rw [e1522]; exact c1508
  have c1528 : zC μ1521 a121 = 101 := by rw [e1522]; exact c1509
  have c1529 : zC μ1521 a151 = 101 := by rw [e1522]; exact c1510
  have c1530 : zC μ1521 a183 = 101 := by rw [e1522]; exact c1511
  have c1531 : zC μ1521 a217 = 101 := by rw [e1522]; exact c1512
  have c1532 : zC μ1521 a253 = 101 := by rw [e1522]; exact c1513
  have c1533 : zC μ1521 a291 = 101 := by rw [e1522]; exact c1514
  have c1534 : zC μ1521 a331 = 101 := by rw [e1522]; exact c1515
  have c1535 : zC μ1521 a1309 = 101 := by rw [e1522]; exact c1516
  refine z_putR C rfl (zFpOf c1523 zp_X3_init_50_18) (Or.inl (zFzOf c1523 rfl)) rfl dX3_init_472 ?_
  refine Z.mem fun μ1536 e1538 => ?_
  have h1537 := h1520 μ1536 e1538
  have c1539 : zC μ1536 this = 18 := by rw [e1538]; exact c1523
  have c1540 : zC μ1536 a21 = 101 := by rw [e1538]; exact c1524
  have c1541 : zC μ1536 a43 = 101 := by rw [e1538]; exact c1525
  have c1542 : zC μ1536 a67 = 101 := by rw [e1538]; exact c1526
  have c1543 : zC μ1536 a93 = 101 := by rw [e1538]; exact c1527
  have c1544 : zC μ1536 a121 = 101 := by rw [e1538]; exact c1528
  have c1545 : zC μ1536 a151 = 101 := by rw [e1538]; exact c1529
  have c1546 : zC μ1536 a183 = 101 := by rw [e1538]; exact c1530
  have c1547 : zC μ1536 a217 = 101 := by rw [e1538]; exact c1531
  have c1548 : zC μ1536 a253 = 101 := by rw [e1538]; exact c1532
  have c1549 : zC μ1536 a291 = 101 := by rw [e1538]; exact c1533
  have c1550 : zC μ1536 a331 = 101 := by rw [e1538]; exact c1534
  have c1551 : zC μ1536 a1309 = 101 := by rw [e1538]; exact c1535
  refine z_aload_n C dX3_init_475 0 rfl ?_
  refine z_bipush (v := (nI 30)) C dX3_init_476 (by decide) ?_
  obtain ⟨c1558, c1559, h1560⟩ := h1537
  refine Z.wm fun m1566 => ?_
  refine z_newaE (ci := 101) (atype := .int) (N := 30) C (by decide) q1905 (by decide) (by decide) (by decide) c1558 c1559 dX3_init_478 fun a1562 μ1563 e1564 e1565 => ?_
  have h1561 := h1560 a1562 μ1563 e1564 e1565
  have c1567 : zC μ1563 a1562 = 101 := by rw [e1565, e1564]; exact zC_new _ _ _
  have c1568 : zC μ1563 this = 18 := by rw [e1565]; exact zC_keep m1566 c1539 (by decide)
  have c1569 : zC μ1563 a21 = 101 := by rw [e1565]; exact zC_keep m1566 c1540 (by decide)
  have c1570 : zC μ1563 a43 = 101 := by rw [e1565]; exact zC_keep m1566 c1541 (by decide)
  have c1571 : zC μ1563 a67 = 101 := by rw [e1565]; exact zC_keep m1566 c1542 (by decide)
  have c1572 : zC μ1563 a93 = 101 := by rw [e1565]; exact zC_keep m1566 c1543 (by decide)
  have c1573 : zC μ1563 a121 = 101 := by rw [e1565]; exact zC_keep m1566 c1544 (by decide)
  have c1574 : zC μ1563 a151 = 101 := by rw [e1565]; exact zC_keep m1566 c1545 (by decide)
  have c1575 : zC μ1563 a183 = 101 := by rw [e1565]; exact zC_keep m1566 c1546 (by decide)
  have c1576 : zC μ1563 a217 = 101 := by rw [e1565]; exact zC_keep m1566 c1547 (by decide)
  have c1577 : zC μ1563 a253 = 101 := by rw [e1565]; exact zC_keep m1566 c1548 (by decide)
  have c1578 : zC μ1563 a291 = 101 := by rw [e1565]; exact zC_keep m1566 c1549 (by decide)
  have c1579 : zC μ1563 a331 = 101 := by rw [e1565]; exact zC_keep m1566 c1550 (by decide)
  have c1580 : zC μ1563 a1309 = 101 := by rw [e1565]; exact zC_keep m1566 c1551 (by decide)
  refine z_dup C dX3_init_480 rfl ?_
  refine z_iconst (v := 0) C dX3_init_481 (by decide) ?_
  refine z_bipush (v := (nI 97)) C dX3_init_482 (by decide) ?_
  obtain ⟨c1581, c1582, h1583⟩ := h1561
  refine z_iast C rfl c1567 c1581 c1582 dX3_init_484 ?_
  refine Z.mem fun μ1585 e1586 => ?_
  have h1584 := h1583 μ1585 e1586
  have c1587 : zC μ1585 this = 18 := by rw [e1586]; exact c1568
  have c1588 : zC μ1585 a21 = 101 := by rw [e1586]; exact c1569
  have c1589 : zC μ1585 a43 = 101 := by rw [e1586]; exact c1570
  have c1590 : zC μ1585 a67 = 101 := by rw [e1586]; exact c1571
  have c1591 : zC μ1585 a93 = 101 := by rw [e1586]; exact c1572
  have c1592 : zC μ1585 a121 = 101 := by rw [e1586]; exact c1573
  have c1593 : zC μ1585 a151 = 101 := by rw [e1586]; exact c1574
  have c1594 : zC μ1585 a183 = 101 := by rw [e1586]; exact c1575
  have c1595 : zC μ1585 a217 = 101 := by rw [e1586]; exact c1576
  have c1596 : zC μ1585 a253 = 101 := by rw [e1586]; exact c1577
  have c1597 : zC μ1585 a291 = 101 := by rw [e1586]; exact c1578
  have c1598 : zC μ1585 a331 = 101 := by rw [e1586]; exact c1579
  have c1599 : zC μ1585 a1309 = 101 := by rw [e1586]; exact c1580
  have c1600 : zC μ1585 a1562 = 101 := by rw [e1586]; exact c1567
  refine z_dup C dX3_init_485 rfl ?_
  refine z_iconst (v := 1) C dX3_init_486 (by decide) ?_
  refine z_bipush (v := (nI 115)) C dX3_init_487 (by decide) ?_
  obtain ⟨c1601, c1602, h1603⟩ := h1584
  refine z_iast C rfl c1600 c1601 c1602 dX3_init_489 ?_
  refine Z.mem fun μ1605 e1606 => ?_
  have h1604 := h1603 μ1605 e1606
  have c1607 : zC μ1605 this = 18 := by rw [e1606]; exact c1587
  have c1608 : zC μ1605 a21 = 101 := by rw [e1606]; exact c1588
  have c1609 : zC μ1605 a43 = 101 := by rw [e1606]; exact c1589
  have c1610 : zC μ1605 a67 = 101 := by rw [e1606]; exact c1590
  have c1611 : zC μ1605 a93 = 101 := by rw [e1606]; exact c1591
  have c1612 : zC μ1605 a121 = 101 := by rw [e1606]; exact c1592
  have c1613 : zC μ1605 a151 = 101 := by rw [e1606]; exact c1593
  have c1614 : zC μ1605 a183 = 101 := by rw [e1606]; exact c1594
  have c1615 : zC μ1605 a217 = 101 := by rw [e1606]; exact c1595
  have c1616 : zC μ1605 a253 = 101 := by rw [e1606]; exact c1596
  have c1617 : zC μ1605 a291 = 101 := by rw [e1606]; exact c1597
  have c1618 : zC μ1605 a331 = 101 := by rw [e1606]; exact c1598
  have c1619 : zC μ1605 a1309 = 101 := by rw [e1606]; exact c1599
  have c1620 : zC μ1605 a1562 = 101 := by rw [e1606]; exact c1600
  refine z_dup C dX3_init_490 rfl ?_
  refine z_iconst (v := (nI 2)) C dX3_init_491 (by decide) ?_
  refine z_bipush (v := (nI 117)) C dX3_init_492 (by decide) ?_
  obtain ⟨c1621, c1622, h1623⟩ := h1604
  refine z_iast C rfl c1620 c1621 c1622 dX3_init_494 ?_
  refine Z.mem fun μ1625 e1626 => ?_
  have h1624 := h1623 μ1625 e1626
  have c1627 : zC μ1625 this = 18 := by rw [e1626]; exact c1607
  have c1628 : zC μ1625 a21 = 101 := by rw [e1626]; exact c1608
  have c1629 : zC μ1625 a43 = 101 := by rw [e1626]; exact c1609
  have c1630 : zC μ1625 a67 = 101 := by rw [e1626]; exact c1610
  have c1631 : zC μ1625 a93 = 101 := by rw [e1626]; exact c1611
  have c1632 : zC μ1625 a121 = 101 := by rw [e1626]; exact c1612
  have c1633 : zC μ1625 a151 = 101 := by rw [e1626]; exact c1613
  have c1634 : zC μ1625 a183 = 101 := by rw [e1626]; exact c1614
  have c1635 : zC μ1625 a217 = 101 := by rw [e1626]; exact c1615
  have c1636 : zC μ1625 a253 = 101 := by rw [e1626]; exact c1616
  have c1637 : zC μ1625 a291 = 101 := by rw [e1626]; exact c1617
  have c1638 : zC μ1625 a331 = 101 := by rw [e1626]; exact c1618
  have c1639 : zC μ1625 a1309 = 101 := by rw [e1626]; exact c1619
  have c1640 : zC μ1625 a1562 = 101 := by rw [e1626]; exact c1620
  refine z_dup C dX3_init_495 rfl ?_
  refine z_iconst (v := (nI 3)) C dX3_init_496 (by decide) ?_
  refine z_bipush (v := (nI 101)) C dX3_init_497 (by decide) ?_
  obtain ⟨c1641, c1642, h1643⟩ := h1624
  refine z_iast C rfl c1640 c1641 c1642 dX3_init_499 ?_
  refine Z.mem fun μ1645 e1646 => ?_
  have h1644 := h1643 μ1645 e1646
  have c1647 : zC μ1645 this = 18 := by rw [e1646]; exact c1627
  have c1648 : zC μ1645 a21 = 101 := by rw [e1646]; exact c1628
  have c1649 : zC μ1645 a43 = 101 := by rw [e1646]; exact c1629
  have c1650 : zC μ1645 a67 = 101 := by rw [e1646]; exact c1630
  have c1651 : zC μ1645 a93 = 101 := by rw [e1646]; exact c1631
  have c1652 : zC μ1645 a121 = 101 := by rw [e1646]; exact c1632
  have c1653 : zC μ1645 a151 = 101 := by rw [e1646]; exact c1633
  have c1654 : zC μ1645 a183 = 101 := by rw [e1646]; exact c1634
  have c1655 : zC μ1645 a217 = 101 := by rw [e1646]; exact c1635
  have c1656 : zC μ1645 a253 = 101 := by rw [e1646]; exact c1636
  have c1657 : zC μ1645 a291 = 101 := by rw [e1646]; exact c1637
  have c1658 : zC μ1645 a331 = 101 := by rw [e1646]; exact c1638
  have c1659 : zC μ1645 a1309 = 101 := by rw [e1646]; exact c1639
  have c1660 : zC μ1645 a1562 = 101 := by rw [e1646]; exact c1640
  refine z_dup C dX3_init_500 rfl ?_
  refine z_iconst (v := (nI 4)) C dX3_init_501 (by decide) ?_
  refine z_bipush (v := (nI 101)) C dX3_init_502 (by decide) ?_
  obtain ⟨c1661, c1662, h1663⟩ := h1644
  refine z_iast C rfl c1660 c1661 c1662 dX3_init_504 ?_
  refine Z.mem fun μ1665 e1666 => ?_
  have h1664 := h1663 μ1665 e1666
  have c1667 : zC μ1665 this = 18 := by rw [e1666]; exact c1647
  have c1668 : zC μ1665 a21 = 101 := by rw [e1666]; exact c1648
  have c1669 : zC μ1665 a43 = 101 := by rw [e1666]; exact c1649
  have c1670 : zC μ1665 a67 = 101 := by rw [e1666]; exact c1650
  have c1671 : zC μ1665 a93 = 101 := by rw [e1666]; exact c1651
  have c1672 : zC μ1665 a121 = 101 := by rw [e1666]; exact c1652
  have c1673 : zC μ1665 a151 = 101 := by rw [e1666]; exact c1653
  have c1674 : zC μ1665 a183 = 101 := by rw [e1666]; exact c1654
  have c1675 : zC μ1665 a217 = 101 := by rw [e1666]; exact c1655
  have c1676 : zC μ1665 a253 = 101 := by rw [e1666]; exact c1656
  have c1677 : zC μ1665 a291 = 101 := by rw [e1666]; exact c1657
  have c1678 : zC μ1665 a331 = 101 := by rw [e1666]; exact c1658
  have c1679 : zC μ1665 a1309 = 101 := by rw [e1666]; exact c1659
  have c1680 : zC μ1665 a1562 = 101 := by rw [e1666]; exact c1660
  refine z_dup C dX3_init_505 rfl ?_
  refine z_iconst (v := (nI 5)) C dX3_init_506 (by decide) ?_
  refine z_bipush (v := (nI 101)) C dX3_init_507 (by decide) ?_
  obtain ⟨c1681, c1682, h1683⟩ := h1664
  refine z_iast C rfl c1680 c1681 c1682 dX3_init_509 ?_
  refine Z.mem fun μ1685 e1686 => ?_
  have h1684 := h1683 μ1685 e1686
  have c1687 : zC μ1685 this = 18 := by rw [e1686]; exact c1667
  have c1688 : zC μ1685 a21 = 101 := by rw [e1686]; exact c1668
  have c1689 : zC μ1685 a43 = 101 := by rw [e1686]; exact c1669
  have c1690 : zC μ1685 a67 = 101 := by rw [e1686]; exact c1670
  have c1691 : zC μ1685 a93 = 101 := by rw [e1686]; exact c1671
  have c1692 : zC μ1685 a121 = 101 := by rw [e1686]; exact c1672
  have c1693 : zC μ1685 a151 = 101 := by rw [e1686]; exact c1673
  have c1694 : zC μ1685 a183 = 101 := by rw [e1686]; exact c1674
  have c1695 : zC μ1685 a217 = 101 := by rw [e1686]; exact c1675
  have c1696 : zC μ1685 a253 = 101 := by rw [e1686]; exact c1676
  have c1697 : zC μ1685 a291 = 101 := by rw [e1686]; exact c1677
  have c1698 : zC μ1685 a331 = 101 := by rw [e1686]; exact c1678
  have c1699 : zC μ1685 a1309 = 101 := by rw [e1686]; exact c1679
  have c1700 : zC μ1685 a1562 = 101 := by rw [e1686]; exact c1680
  refine z_dup C dX3_init_510 rfl ?_
  refine z_bipush (v := (nI 6)) C dX3_init_511 (by decide) ?_
  refine z_bipush (v := (nI 101)) C dX3_init_513 (by decide) ?_
  obtain ⟨c1701, c1702, h1703⟩ := h1684
  refine z_iast C rfl c1700 c1701 c1702 dX3_init_515 ?_
  refine Z.mem fun μ1705 e1706 => ?_
  have h1704 := h1703 μ1705 e1706
  have c1707 : zC μ1705 this = 18 := by rw [e1706]; exact c1687
  have c1708 : zC μ1705 a21 = 101 := by rw [e1706]; exact c1688
  have c1709 : zC μ1705 a43 = 101 := by rw [e1706]; exact c1689
  have c1710 : zC μ1705 a67 = 101 := by rw [e1706]; exact c1690
  have c1711 : zC μ1705 a93 = 101 := by rw [e1706]; exact c1691
  have c1712 : zC μ1705 a121 = 101 := by rw [e1706]; exact c1692
  have c1713 : zC μ1705 a151 = 101 := by rw [e1706]; exact c1693
  have c1714 : zC μ1705 a183 = 101 := by rw [e1706]; exact c1694
  have c1715 : zC μ1705 a217 = 101 := by rw [e1706]; exact c1695
  have c1716 : zC μ1705 a253 = 101 := by rw [e1706]; exact c1696
  have c1717 : zC μ1705 a291 = 101 := by rw [e1706]; exact c1697
  have c1718 : zC μ1705 a331 = 101 := by rw [e1706]; exact c1698
  have c1719 : zC μ1705 a1309 = 101 := by rw [e1706]; exact c1699
  have c1720 : zC μ1705 a1562 = 101 := by rw [e1706]; exact c1700
  refine z_dup C dX3_init_516 rfl ?_
  refine z_bipush (v := (nI 7)) C dX3_init_517 (by decide) ?_
  refine z_bipush (v := (nI 97)) C dX3_init_519 (by decide) ?_
  obtain ⟨c1721, c1722, h1723⟩ := h1704
  refine z_iast C rfl c1720 c1721 c1722 dX3_init_521 ?_
  refine Z.mem fun μ1725 e1726 => ?_
  have h1724 := h1723 μ1725 e1726
  have c1727 : zC μ1725 this = 18 := by rw [e1726]; exact c1707
  have c1728 : zC μ1725 a21 = 101 := by rw [e1726]; exact c1708
  have c1729 : zC μ1725 a43 = 101 := by rw [e1726]; exact c1709
  have c1730 : zC μ1725 a67 = 101 := by rw [e1726]; exact c1710
  have c1731 : zC μ1725 a93 = 101 := by rw [e1726]; exact c1711
  have c1732 : zC μ1725 a121 = 101 := by rw [e1726]; exact c1712
  have c1733 : zC μ1725 a151 = 101 := by rw [e1726]; exact c1713
  have c1734 : zC μ1725 a183 = 101 := by rw [e1726]; exact c1714
  have c1735 : zC μ1725 a217 = 101 := by rw [e1726]; exact c1715
  have c1736 : zC μ1725 a253 = 101 := by rw [e1726]; exact c1716
  have c1737 : zC μ1725 a291 = 101 := by rw [e1726]; exact c1717
  have c1738 : zC μ1725 a331 = 101 := by rw [e1726]; exact c1718
  have c1739 : zC μ1725 a1309 = 101 := by rw [e1726]; exact c1719
  have c1740 : zC μ1725 a1562 = 101 := by rw [e1726]; exact c1720
  refine z_dup C dX3_init_522 rfl ?_
  refine z_bipush (v := (nI 8)) C dX3_init_523 (by decide) ?_
  refine z_bipush (v := (nI 97)) C dX3_init_525 (by decide) ?_
  obtain ⟨c1741, c1742, h1743⟩ := h1724
  refine z_iast C rfl c1740 c1741 c1742 dX3_init_527 ?_
  refine Z.mem fun μ1745 e1746 => ?_
  have h1744 := h1743 μ1745 e1746
  have c1747 : zC μ1745 this = 18 := by rw [e1746]; exact c1727
  have c1748 : zC μ1745 a21 = 101 := by rw [e1746]; exact c1728
  have c1749 : zC μ1745 a43 = 101 := by rw [e1746]; exact c1729
  have c1750 : zC μ1745 a67 = 101 := by rw [e1746]; exact c1730
  have c1751 : zC μ1745 a93 = 101 := by rw [e1746]; exact c1731
  have c1752 : zC μ1745 a121 = 101 := by rw [e1746]; exact c1732
  have c1753 : zC μ1745 a151 = 101 := by rw [e1746]; exact c1733
  have c1754 : zC μ1745 a183 = 101 := by rw [e1746]; exact c1734
  have c1755 : zC μ1745 a217 = 101 := by rw [e1746]; exact c1735
  have c1756 : zC μ1745 a253 = 101 := by rw [e1746]; exact c1736
  have c1757 : zC μ1745 a291 = 101 := by rw [e1746]; exact c1737
  have c1758 : zC μ1745 a331 = 101 := by rw [e1746]; exact c1738
  have c1759 : zC μ1745 a1309 = 101 := by rw [e1746]; exact c1739
  have c1760 : zC μ1745 a1562 = 101 := by rw [e1746]; exact c1740
  refine z_dup C dX3_init_528 rfl ?_
  refine z_bipush (v := (nI 9)) C dX3_init_529 (by decide) ?_
  refine z_bipush (v := (nI 97)) C dX3_init_531 (by decide) ?_
  obtain ⟨c1761, c1762, h1763⟩ := h1744
  refine z_iast C rfl c1760 c1761 c1762 dX3_init_533 ?_
  refine Z.mem fun μ1765 e1766 => ?_
  have h1764 := h1763 μ1765 e1766
  have c1767 : zC μ1765 this = 18 := by rw [e1766]; exact c1747
  have c1768 : zC μ1765 a21 = 101 := by rw [e1766]; exact c1748
  have c1769 : zC μ1765 a43 = 101 := by rw [e1766]; exact c1749
  have c1770 : zC μ1765 a67 = 101 := by rw [e1766]; exact c1750
  have c1771 : zC μ1765 a93 = 101 := by rw [e1766]; exact c1751
  have c1772 : zC μ1765 a121 = 101 := by rw [e1766]; exact c1752
  have c1773 : zC μ1765 a151 = 101 := by rw [e1766]; exact c1753
  have c1774 : zC μ1765 a183 = 101 := by rw [e1766]; exact c1754
  have c1775 : zC μ1765 a217 = 101 := by rw [e1766]; exact c1755
  have c1776 : zC μ1765 a253 = 101 := by rw [e1766]; exact c1756
  have c1777 : zC μ1765 a291 = 101 := by rw [e1766]; exact c1757
  have c1778 : zC μ1765 a331 = 101 := by rw [e1766]; exact c1758
  have c1779 : zC μ1765 a1309 = 101 := by rw [e1766]; exact c1759
  have c1780 : zC μ1765 a1562 = 101 := by rw [e1766]; exact c1760
  refine z_dup C dX3_init_534 rfl ?_
  refine z_bipush (v := (nI 10)) C dX3_init_535 (by decide) ?_
  refine z_bipush (v := (nI 101)) C dX3_init_537 (by decide) ?_
  obtain ⟨c1781, c1782, h1783⟩ := h1764
  refine z_iast C rfl c1780 c1781 c1782 dX3_init_539 ?_
  refine Z.mem fun μ1785 e1786 => ?_
  have h1784 := h1783 μ1785 e1786
  have c1787 : zC μ1785 this = 18 := by rw [e1786]; exact c1767
  have c1788 : zC μ1785 a21 = 101 := by rw [e1786]; exact c1768
  have c1789 : zC μ1785 a43 = 101 := by rw [e1786]; exact c1769
  have c1790 : zC μ1785 a67 = 101 := by rw [e1786]; exact c1770
  have c1791 : zC μ1785 a93 = 101 := by rw [e1786]; exact c1771
  have c1792 : zC μ1785 a121 = 101 := by rw [e1786]; exact c1772
  have c1793 : zC μ1785 a151 = 101 := by rw [e1786]; exact c1773
  have c1794 : zC μ1785 a183 = 101 := by rw [e1786]; exact c1774
  have c1795 : zC μ1785 a217 = 101 := by rw [e1786]; exact c1775
  have c1796 : zC μ1785 a253 = 101 := by rw [e1786]; exact c1776
  have c1797 : zC μ1785 a291 = 101 := by rw [e1786]; exact c1777
  have c1798 : zC μ1785 a331 = 101 := by rw [e1786]; exact c1778
  have c1799 : zC μ1785 a1309 = 101 := by rw [e1786]; exact c1779
  have c1800 : zC μ1785 a1562 = 101 := by rw [e1786]; exact c1780
  refine z_dup C dX3_init_540 rfl ?_
  refine z_bipush (v := (nI 11)) C dX3_init_541 (by decide) ?_
  refine z_bipush (v := (nI 101)) C dX3_init_543 (by decide) ?_
  obtain ⟨c1801, c1802, h1803⟩ := h1784
  refine z_iast C rfl c1800 c1801 c1802 dX3_init_545 ?_
  refine Z.mem fun μ1805 e1806 => ?_
  have h1804 := h1803 μ1805 e1806
  have c1807 : zC μ1805 this = 18 := by rw [e1806]; exact c1787
  have c1808 : zC μ1805 a21 = 101 := by rw [e1806]; exact c1788
  have c1809 : zC μ1805 a43 = 101 := by rw [e1806]; exact c1789
  have c1810 : zC μ1805 a67 = 101 := by rw [e1806]; exact c1790
  have c1811 : zC μ1805 a93 = 101 := by rw [e1806]; exact c1791
  have c1812 : zC μ1805 a121 = 101 := by rw [e1806]; exact c1792
  have c1813 : zC μ1805 a151 = 101 := by rw [e1806]; exact c1793
  have c1814 : zC μ1805 a183 = 101 := by rw [e1806]; exact c1794
  have c1815 : zC μ1805 a217 = 101 := by rw [e1806]; exact c1795
  have c1816 : zC μ1805 a253 = 101 := by rw [e1806]; exact c1796
  have c1817 : zC μ1805 a291 = 101 := by rw [e1806]; exact c1797
  have c1818 : zC μ1805 a331 = 101 := by rw [e1806]; exact c1798
  have c1819 : zC μ1805 a1309 = 101 := by rw [e1806]; exact c1799
  have c1820 : zC μ1805 a1562 = 101 := by rw [e1806]; exact c1800
  refine z_dup C dX3_init_546 rfl ?_
  refine z_bipush (v := (nI 12)) C dX3_init_547 (by decide) ?_
  refine z_bipush (v := (nI 97)) C dX3_init_549 (by decide) ?_
  obtain ⟨c1821, c1822, h1823⟩ := h1804
  refine z_iast C rfl c1820 c1821 c1822 dX3_init_551 ?_
  refine Z.mem fun μ1825 e1826 => ?_
  have h1824 := h1823 μ1825 e1826
  have c1827 : zC μ1825 this = 18 := by rw [e1826]; exact c1807
  have c1828 : zC μ1825 a21 = 101 := by rw [e1826]; exact c1808
  have c1829 : zC μ1825 a43 = 101 := by rw [e1826]; exact c1809
  have c1830 : zC μ1825 a67 = 101 := by rw [e1826]; exact c1810
  have c1831 : zC μ1825 a93 = 101 := by rw [e1826]; exact c1811
  have c1832 : zC μ1825 a121 = 101 := by rw [e1826]; exact c1812
  have c1833 : zC μ1825 a151 = 101 := by rw [e1826]; exact c1813
  have c1834 : zC μ1825 a183 = 101 := by rw [e1826]; exact c1814
  have c1835 : zC μ1825 a217 = 101 := by rw [e1826]; exact c1815
  have c1836 : zC μ1825 a253 = 101 := by rw [e1826]; exact c1816
  have c1837 : zC μ1825 a291 = 101 := by rw [e1826]; exact c1817
  have c1838 : zC μ1825 a331 = 101 := by rw [e1826]; exact c1818
  have c1839 : zC μ1825 a1309 = 101 := by rw [e1826]; exact c1819
  have c1840 : zC μ1825 a1562 = 101 := by rw [e1826]; exact c1820
  refine z_dup C dX3_init_552 rfl ?_
  refine z_bipush (v := (nI 13)) C dX3_init_553 (by decide) ?_
  refine z_bipush (v := (nI 101)) C dX3_init_555 (by decide) ?_
  obtain ⟨c1841, c1842, h1843⟩ := h1824
  refine z_iast C rfl c1840 c1841 c1842 dX3_init_557 ?_
  refine Z.mem fun μ1845 e1846 => ?_
  have h1844 := h1843 μ1845 e1846
  have c1847 : zC μ1845 this = 18 := by rw [e1846]; exact c1827
  have c1848 : zC μ1845 a21 = 101 := by rw [e1846]; exact c1828
  have c1849 : zC μ1845 a43 = 101 := by rw [e1846]; exact c1829
  have c1850 : zC μ1845 a67 = 101 := by rw [e1846]; exact c1830
  have c1851 : zC μ1845 a93 = 101 := by rw [e1846]; exact c1831
  have c1852 : zC μ1845 a121 = 101 := by rw [e1846]; exact c1832
  have c1853 : zC μ1845 a151 = 101 := by rw [e1846]; exact c1833
  have c1854 : zC μ1845 a183 = 101 := by rw [e1846]; exact c1834
  have c1855 : zC μ1845 a217 = 101 := by rw [e1846]; exact c1835
  have c1856 : zC μ1845 a253 = 101 := by rw [e1846]; exact c1836
  have c1857 : zC μ1845 a291 = 101 := by rw [e1846]; exact c1837
  have c1858 : zC μ1845 a331 = 101 := by rw [e1846]; exact c1838
  have c1859 : zC μ1845 a1309 = 101 := by rw [e1846]; exact c1839
  have c1860 : zC μ1845 a1562 = 101 := by rw [e1846]; exact c1840
  refine z_dup C dX3_init_558 rfl ?_
  refine z_bipush (v := (nI 14)) C dX3_init_559 (by decide) ?_
  refine z_bipush (v := (nI 101)) C dX3_init_561 (by decide) ?_
  obtain ⟨c1861, c1862, h1863⟩ := h1844
  refine z_iast C rfl c1860 c1861 c1862 dX3_init_563 ?_
  refine Z.mem fun μ1865 e1866 => ?_
  have h1864 := h1863 μ1865 e1866
  have c1867 : zC μ1865 this = 18 := by rw [e1866]; exact c1847
  have c1868 : zC μ1865 a21 = 101 := by rw [e1866]; exact c1848
  have c1869 : zC μ1865 a43 = 101 := by rw [e1866]; exact c1849
  have c1870 : zC μ1865 a67 = 101 := by rw [e1866]; exact c1850
  have c1871 : zC μ1865 a93 = 101 := by rw [e1866]; exact c1851
  have c1872 : zC μ1865 a121 = 101 := by rw [e1866]; exact c1852
  have c1873 : zC μ1865 a151 = 101 := by rw [e1866]; exact c1853
  have c1874 : zC μ1865 a183 = 101 := by rw [e1866]; exact c1854
  have c1875 : zC μ1865 a217 = 101 := by rw [e1866]; exact c1855
  have c1876 : zC μ1865 a253 = 101 := by rw [e1866]; exact c1856
  have c1877 : zC μ1865 a291 = 101 := by rw [e1866]; exact c1857
  have c1878 : zC μ1865 a331 = 101 := by rw [e1866]; exact c1858
  have c1879 : zC μ1865 a1309 = 101 := by rw [e1866]; exact c1859
  have c1880 : zC μ1865 a1562 = 101 := by rw [e1866]; exact c1860
  refine z_dup C dX3_init_564 rfl ?_
  refine z_bipush (v := (nI 15)) C dX3_init_565 (by decide) ?_
  refine z_bipush (v := (nI 97)) C dX3_init_567 (by decide) ?_
  obtain ⟨c1881, c1882, h1883⟩ := h1864
  refine z_iast C rfl c1880 c1881 c1882 dX3_init_569 ?_
  refine Z.mem fun μ1885 e1886 => ?_
  have h1884 := h1883 μ1885 e1886
  have c1887 : zC μ1885 this = 18 := by rw [e1886]; exact c1867
  have c1888 : zC μ1885 a21 = 101 := by rw [e1886]; exact c1868
  have c1889 : zC μ1885 a43 = 101 := by rw [e1886]; exact c1869
  have c1890 : zC μ1885 a67 = 101 := by rw [e1886]; exact c1870
  have c1891 : zC μ1885 a93 = 101 := by rw [e1886]; exact c1871
  have c1892 : zC μ1885 a121 = 101 := by rw [e1886]; exact c1872
  have c1893 : zC μ1885 a151 = 101 := by rw [e1886]; exact c1873
  have c1894 : zC μ1885 a183 = 101 := by rw [e1886]; exact c1874
  have c1895 : zC μ1885 a217 = 101 := by rw [e1886]; exact c1875
  have c1896 : zC μ1885 a253 = 101 := by rw [e1886]; exact c1876
  have c1897 : zC μ1885 a291 = 101 := by rw [e1886]; exact c1877
  have c1898 : zC μ1885 a331 = 101 := by rw [e1886]; exact c1878
  have c1899 : zC μ1885 a1309 = 101 := by rw [e1886]; exact c1879
  have c1900 : zC μ1885 a1562 = 101 := by rw [e1886]; exact c1880
  refine z_dup C dX3_init_570 rfl ?_
  refine z_bipush (v := (nI 16)) C dX3_init_571 (by decide) ?_
  refine z_bipush (v := (nI 97)) C dX3_init_573 (by decide) ?_
  obtain ⟨c1901, c1902, h1903⟩ := h1884
  refine z_iast C rfl c1900 c1901 c1902 dX3_init_575 ?_
  refine Z.mem fun μ1905 e1906 => ?_
  have h1904 := h1903 μ1905 e1906
  have c1907 : zC μ1905 this = 18 := by rw [e1906]; exact c1887
  have c1908 : zC μ1905 a21 = 101 := by rw [e1906]; exact c1888
  have c1909 : zC μ1905 a43 = 101 := by rw [e1906]; exact c1889
  have c1910 : zC μ1905 a67 = 101 := by rw [e1906]; exact c1890
  have c1911 : zC μ1905 a93 = 101 := by rw [e1906]; exact c1891
  have c1912 : zC μ1905 a121 = 101 := by rw [e1906]; exact c1892
  have c1913 : zC μ1905 a151 = 101 := by rw [e1906]; exact c1893
  have c1914 : zC μ1905 a183 = 101 := by rw [e1906]; exact c1894
  have c1915 : zC μ1905 a217 = 101 := by rw [e1906]; exact c1895
  have c1916 : zC μ1905 a253 = 101 := by rw [e1906]; exact c1896
  have c1917 : zC μ1905 a291 = 101 := by rw [e1906]; exact c1897
  have c1918 : zC μ1905 a331 = 101 := by rw [e1906]; exact c1898
  have c1919 : zC μ1905 a1309 = 101 := by rw [e1906]; exact c1899
  have c1920 : zC μ1905 a1562 = 101 := by rw [e1906]; exact c1900
  refine z_dup C dX3_init_576 rfl ?_
  refine z_bipush (v := (nI 17)) C dX3_init_577 (by decide) ?_
  refine z_bipush (v := (nI 97)) C dX3_init_579 (by decide) ?_
  obtain ⟨c1921, c1922, h1923⟩ := h1904
  refine z_iast C rfl c1920 c1921 c1922 dX3_init_581 ?_
  refine Z.mem fun μ1925 e1926 => ?_
  have h1924 := h1923 μ1925 e1926
  have c1927 : zC μ1925 this = 18 := by rw [e1926]; exact c1907
  have c1928 : zC μ1925 a21 = 101 := by rw [e1926]; exact c1908
  have c1929 : zC μ1925 a43 = 101 := by rw [e1926]; exact c1909
  have c1930 : zC μ1925 a67 = 101 := by rw [e1926]; exact c1910
  have c1931 : zC μ1925 a93 = 101 := by rw [e1926]; exact c1911
  have c1932 : zC μ1925 a121 = 101 := by rw [e1926]; exact c1912
  have c1933 : zC μ1925 a151 = 101 := by rw [e1926]; exact c1913
  have c1934 : zC μ1925 a183 = 101 := by rw [e1926]; exact c1914
  have c1935 : zC μ1925 a217 = 101 := by rw [e1926]; exact c1915
  have c1936 : zC μ1925 a253 = 101 := by rw [e1926]; exact c1916
  have c1937 : zC μ1925 a291 = 101 := by rw [e1926]; exact c1917
  have c1938 : zC μ1925 a331 = 101 := by rw [e1926]; exact c1918
  have c1939 : zC μ1925 a1309 = 101 := by rw [e1926]; exact c1919
  have c1940 : zC μ1925 a1562 = 101 := by rw [e1926]; exact c1920
  refine z_dup C dX3_init_582 rfl ?_
  refine z_bipush (v := (nI 18)) C dX3_init_583 (by decide) ?_
  refine z_bipush (v := (nI 97)) C dX3_init_585 (by decide) ?_
  obtain ⟨c1941, c1942, h1943⟩ := h1924
  refine z_iast C rfl c1940 c1941 c1942 dX3_init_587 ?_
  refine Z.mem fun μ1945 e1946 => ?_
  have h1944 := h1943 μ1945 e1946
  have c1947 : zC μ1945 this = 18 := by rw [e1946]; exact c1927
  have c1948 : zC μ1945 a21 = 101 := by rw [e1946]; exact c1928
  have c1949 : zC μ1945 a43 = 101 := by rw [e1946]; exact c1929
  have c1950 : zC μ1945 a67 = 101 := by rw [e1946]; exact c1930
  have c1951 : zC μ1945 a93 = 101 := by rw [e1946]; exact c1931
  have c1952 : zC μ1945 a121 = 101 := by rw [e1946]; exact c1932
  have c1953 : zC μ1945 a151 = 101 := by rw [e1946]; exact c1933
  have c1954 : zC μ1945 a183 = 101 := by rw [e1946]; exact c1934
  have c1955 : zC μ1945 a217 = 101 := by rw [e1946]; exact c1935
  have c1956 : zC μ1945 a253 = 101 := by rw [e1946]; exact c1936
  have c1957 : zC μ1945 a291 = 101 := by rw [e1946]; exact c1937
  have c1958 : zC μ1945 a331 = 101 := by rw [e1946]; exact c1938
  have c1959 : zC μ1945 a1309 = 101 := by rw [e1946]; exact c1939
  have c1960 : zC μ1945 a1562 = 101 := by rw [e1946]; exact c1940
  refine z_dup C dX3_init_588 rfl ?_
  refine z_bipush (v := (nI 19)) C dX3_init_589 (by decide) ?_
  refine z_bipush (v := (nI 97)) C dX3_init_591 (by decide) ?_
  obtain ⟨c1961, c1962, h1963⟩ := h1944
  refine z_iast C rfl c1960 c1961 c1962 dX3_init_593 ?_
  refine Z.mem fun μ1965 e1966 => ?_
  have h1964 := h1963 μ1965 e1966
  have c1967 : zC μ1965 this = 18 := by rw [e1966]; exact c1947
  have c1968 : zC μ1965 a21 = 101 := by rw [e1966]; exact c1948
  have c1969 : zC μ1965 a43 = 101 := by rw [e1966]; exact c1949
  have c1970 : zC μ1965 a67 = 101 := by rw [e1966]; exact c1950
  have c1971 : zC μ1965 a93 = 101 := by rw [e1966]; exact c1951
  have c1972 : zC μ1965 a121 = 101 := by rw [e1966]; exact c1952
  have c1973 : zC μ1965 a151 = 101 := by rw [e1966]; exact c1953
  have c1974 : zC μ1965 a183 = 101 := by rw [e1966]; exact c1954
  have c1975 : zC μ1965 a217 = 101 := by rw [e1966]; exact c1955
  have c1976 : zC μ1965 a253 = 101 := by rw [e1966]; exact c1956
  have c1977 : zC μ1965 a291 = 101 := by rw [e1966]; exact c1957
  have c1978 : zC μ1965 a331 = 101 := by rw [e1966]; exact c1958
  have c1979 : zC μ1965 a1309 = 101 := by rw [e1966]; exact c1959
  have c1980 : zC μ1965 a1562 = 101 := by rw [e1966]; exact c1960
  refine z_dup C dX3_init_594 rfl ?_
  refine z_bipush (v := (nI 20)) C dX3_init_595 (by decide) ?_
  refine z_bipush (v := (nI 97)) C dX3_init_597 (by decide) ?_
  obtain ⟨c1981, c1982, h1983⟩ := h1964
  refine z_iast C rfl c1980 c1981 c1982 dX3_init_599 ?_
  refine Z.mem fun μ1985 e1986 => ?_
  have h1984 := h1983 μ1985 e1986
  have c1987 : zC μ1985 this = 18 := by rw [e1986]; exact c1967
  have c1988 : zC μ1985 a21 = 101 := by rw [e1986]; exact c1968
  have c1989 : zC μ1985 a43 = 101 := by rw [e1986]; exact c1969
  have c1990 : zC μ1985 a67 = 101 := by rw [e1986]; exact c1970
  have c1991 : zC μ1985 a93 = 101 := by rw [e1986]; exact c1971
  have c1992 : zC μ1985 a121 = 101 := by rw [e1986]; exact c1972
  have c1993 : zC μ1985 a151 = 101 := by rw [e1986]; exact c1973
  have c1994 : zC μ1985 a183 = 101 := by rw [e1986]; exact c1974
  have c1995 : zC μ1985 a217 = 101 := by rw [e1986]; exact c1975
  have c1996 : zC μ1985 a253 = 101 := by rw [e1986]; exact c1976
  have c1997 : zC μ1985 a291 = 101 := by rw [e1986]; exact c1977
  have c1998 : zC μ1985 a331 = 101 := by rw [e1986]; exact c1978
  have c1999 : zC μ1985 a1309 = 101 := by rw [e1986]; exact c1979
  have c2000 : zC μ1985 a1562 = 101 := by rw [e1986]; exact c1980
  refine z_dup C dX3_init_600 rfl ?_
  refine z_bipush (v := (nI 21)) C dX3_init_601 (by decide) ?_
  refine z_bipush (v := (nI 97)) C dX3_init_603 (by decide) ?_
  obtain ⟨c2001, c2002, h2003⟩ := h1984
  refine z_iast C rfl c2000 c2001 c2002 dX3_init_605 ?_
  refine Z.mem fun μ2005 e2006 => ?_
  have h2004 := h2003 μ2005 e2006
  have c2007 : zC μ2005 this = 18 := by rw [e2006]; exact c1987
  have c2008 : zC μ2005 a21 = 101 := by rw [e2006]; exact c1988
  have c2009 : zC μ2005 a43 = 101 := by rw [e2006]; exact c1989
  have c2010 : zC μ2005 a67 = 101 := by rw [e2006]; exact c1990
  have c2011 : zC μ2005 a93 = 101 := by rw [e2006]; exact c1991
  have c2012 : zC μ2005 a121 = 101 := by rw [e2006]; exact c1992
  have c2013 : zC μ2005 a151 = 101 := by rw [e2006]; exact c1993
  have c2014 : zC μ2005 a183 = 101 := by rw [e2006]; exact c1994
  have c2015 : zC μ2005 a217 = 101 := by rw [e2006]; exact c1995
  have c2016 : zC μ2005 a253 = 101 := by rw [e2006]; exact c1996
  have c2017 : zC μ2005 a291 = 101 := by rw [e2006]; exact c1997
  have c2018 : zC μ2005 a331 = 101 := by rw [e2006]; exact c1998
  have c2019 : zC μ2005 a1309 = 101 := by rw [e2006]; exact c1999
  have c2020 : zC μ2005 a1562 = 101 := by rw [e2006]; exact c2000
  refine z_dup C dX3_init_606 rfl ?_
  refine z_bipush (v := (nI 22)) C dX3_init_607 (by decide) ?_
  refine z_bipush (v := (nI 115)) C dX3_init_609 (by decide) ?_
  obtain ⟨c2021, c2022, h2023⟩ := h2004
  refine z_iast C rfl c2020 c2021 c2022 dX3_init_611 ?_
  refine Z.mem fun μ2025 e2026 => ?_
  have h2024 := h2023 μ2025 e2026
  have c2027 : zC μ2025 this = 18 := by rw [e2026]; exact c2007
  have c2028 : zC μ2025 a21 = 101 := by rw [e2026]; exact c2008
  have c2029 : zC μ2025 a43 = 101 := by rw [e2026]; exact c2009
  have c2030 : zC μ2025 a67 = 101 := by rw [e2026]; exact c2010
  have c2031 : zC μ2025 a93 = 101 := by rw [e2026]; exact c2011
  have c2032 : zC μ2025 a121 = 101 := by rw [e2026]; exact c2012
  have c2033 : zC μ2025 a151 = 101 := by rw [e2026]; exact c2013
  have c2034 : zC μ2025 a183 = 101 := by rw [e2026]; exact c2014
  have c2035 : zC μ2025 a217 = 101 := by rw [e2026]; exact c2015
  have c2036 : zC μ2025 a253 = 101 := by rw [e2026]; exact c2016
  have c2037 : zC μ2025 a291 = 101 := by rw [e2026]; exact c2017
  have c2038 : zC μ2025 a331 = 101 := by rw [e2026]; exact c2018
  have c2039 : zC μ2025 a1309 = 101 := by rw [e2026]; exact c2019
  have c2040 : zC μ2025 a1562 = 101 := by rw [e2026]; exact c2020
  refine z_dup C dX3_init_612 rfl ?_
  refine z_bipush (v := (nI 23)) C dX3_init_613 (by decide) ?_
  refine z_bipush (v := (nI 115)) C dX3_init_615 (by decide) ?_
  obtain ⟨c2041, c2042, h2043⟩ := h2024
  refine z_iast C rfl c2040 c2041 c2042 dX3_init_617 ?_
  refine Z.mem fun μ2045 e2046 => ?_
  have h2044 := h2043 μ2045 e2046
  have c2047 : zC μ2045 this = 18 := by rw [e2046]; exact c2027
  have c2048 : zC μ2045 a21 = 101 := by rw [e2046]; exact c2028
  have c2049 : zC μ2045 a43 = 101 := by rw [e2046]; exact c2029
  have c2050 : zC μ2045 a67 = 101 := by rw [e2046]; exact c2030
  have c2051 : zC μ2045 a93 = 101 := by rw [e2046]; exact c2031
  have c2052 : zC μ2045 a121 = 101 := by rw [e2046]; exact c2032
  have c2053 : zC μ2045 a151 = 101 := by rw [e2046]; exact c2033
  have c2054 : zC μ2045 a183 = 101 := by rw [e2046]; exact c2034
  have c2055 : zC μ2045 a217 = 101 := by rw [e2046]; exact c2035
  have c2056 : zC μ2045 a253 = 101 := by rw [e2046]; exact c2036
  have c2057 : zC μ2045 a291 = 101 := by rw [e2046]; exact c2037
  have c2058 : zC μ2045 a331 = 101 := by rw [e2046]; exact c2038
  have c2059 : zC μ2045 a1309 = 101 := by rw [e2046]; exact c2039
  have c2060 : zC μ2045 a1562 = 101 := by rw [e2046]; exact c2040
  refine z_dup C dX3_init_618 rfl ?_
  refine z_bipush (v := (nI 24)) C dX3_init_619 (by decide) ?_
  refine z_bipush (v := (nI 101)) C dX3_init_621 (by decide) ?_
  obtain ⟨c2061, c2062, h2063⟩ := h2044
  refine z_iast C rfl c2060 c2061 c2062 dX3_init_623 ?_
  refine Z.mem fun μ2065 e2066 => ?_
  have h2064 := h2063 μ2065 e2066
  have c2067 : zC μ2065 this = 18 := by rw [e2066]; exact c2047
  have c2068 : zC μ2065 a21 = 101 := by rw [e2066]; exact c2048
  have c2069 : zC μ2065 a43 = 101 := by rw [e2066]; exact c2049
  have c2070 : zC μ2065 a67 = 101 := by rw [e2066]; exact c2050
  have c2071 : zC μ2065 a93 = 101 := by rw [e2066]; exact c2051
  have c2072 : zC μ2065 a121 = 101 := by rw [e2066]; exact c2052
  have c2073 : zC μ2065 a151 = 101 := by rw [e2066]; exact c2053
  have c2074 : zC μ2065 a183 = 101 := by rw [e2066]; exact c2054
  have c2075 : zC μ2065 a217 = 101 := by rw [e2066]; exact c2055
  have c2076 : zC μ2065 a253 = 101 := by rw [e2066]; exact c2056
  have c2077 : zC μ2065 a291 = 101 := by rw [e2066]; exact c2057
  have c2078 : zC μ2065 a331 = 101 := by rw [e2066]; exact c2058
  have c2079 : zC μ2065 a1309 = 101 := by rw [e2066]; exact c2059
  have c2080 : zC μ2065 a1562 = 101 := by rw [e2066]; exact c2060
  refine z_dup C dX3_init_624 rfl ?_
  refine z_bipush (v := (nI 25)) C dX3_init_625 (by decide) ?_
  refine z_bipush (v := (nI 97)) C dX3_init_627 (by decide) ?_
  obtain ⟨c2081, c2082, h2083⟩ := h2064
  refine z_iast C rfl c2080 c2081 c2082 dX3_init_629 ?_
  refine Z.mem fun μ2085 e2086 => ?_
  have h2084 := h2083 μ2085 e2086
  have c2087 : zC μ2085 this = 18 := by rw [e2086]; exact c2067
  have c2088 : zC μ2085 a21 = 101 := by rw [e2086]; exact c2068
  have c2089 : zC μ2085 a43 = 101 := by rw [e2086]; exact c2069
  have c2090 : zC μ2085 a67 = 101 := by rw [e2086]; exact c2070
  have c2091 : zC μ2085 a93 = 101 := by rw [e2086]; exact c2071
  have c2092 : zC μ2085 a121 = 101 := by rw [e2086]; exact c2072
  have c2093 : zC μ2085 a151 = 101 := by rw [e2086]; exact c2073
  have c2094 : zC μ2085 a183 = 101 := by rw [e2086]; exact c2074
  have c2095 : zC μ2085 a217 = 101 := by rw [e2086]; exact c2075
  have c2096 : zC μ2085 a253 = 101 := by rw [e2086]; exact c2076
  have c2097 : zC μ2085 a291 = 101 := by rw [e2086]; exact c2077
  have c2098 : zC μ2085 a331 = 101 := by rw [e2086]; exact c2078
  have c2099 : zC μ2085 a1309 = 101 := by rw [e2086]; exact c2079
  have c2100 : zC μ2085 a1562 = 101 := by rw [e2086]; exact c2080
  refine z_dup C dX3_init_630 rfl ?_
  refine z_bipush (v := (nI 26)) C dX3_init_631 (by decide) ?_
  refine z_bipush (v := (nI 97)) C dX3_init_633 (by decide) ?_
  obtain ⟨c2101, c2102, h2103⟩ := h2084
  refine z_iast C rfl c2100 c2101 c2102 dX3_init_635 ?_
  refine Z.mem fun μ2105 e2106 => ?_
  have h2104 := h2103 μ2105 e2106
  have c2107 : zC μ2105 this = 18 := by rw [e2106]; exact c2087
  have c2108 : zC μ2105 a21 = 101 := by rw [e2106]; exact c2088
  have c2109 : zC μ2105 a43 = 101 := by rw [e2106]; exact c2089
  have c2110 : zC μ2105 a67 = 101 := by rw [e2106]; exact c2090
  have c2111 : zC μ2105 a93 = 101 := by rw [e2106]; exact c2091
  have c2112 : zC μ2105 a121 = 101 := by rw [e2106]; exact c2092
  have c2113 : zC μ2105 a151 = 101 := by rw [e2106]; exact c2093
  have c2114 : zC μ2105 a183 = 101 := by rw [e2106]; exact c2094
  have c2115 : zC μ2105 a217 = 101 := by rw [e2106]; exact c2095
  have c2116 : zC μ2105 a253 = 101 := by rw [e2106]; exact c2096
  have c2117 : zC μ2105 a291 = 101 := by rw [e2106]; exact c2097
  have c2118 : zC μ2105 a331 = 101 := by rw [e2106]; exact c2098
  have c2119 : zC μ2105 a1309 = 101 := by rw [e2106]; exact c2099
  have c2120 : zC μ2105 a1562 = 101 := by rw [e2106]; exact c2100
  refine z_dup C dX3_init_636 rfl ?_
  refine z_bipush (v := (nI 27)) C dX3_init_637 (by decide) ?_
  refine z_bipush (v := (nI 101)) C dX3_init_639 (by decide) ?_
  obtain ⟨c2121, c2122, h2123⟩ := h2104
  refine z_iast C rfl c2120 c2121 c2122 dX3_init_641 ?_
  refine Z.mem fun μ2125 e2126 => ?_
  have h2124 := h2123 μ2125 e2126
  have c2127 : zC μ2125 this = 18 := by rw [e2126]; exact c2107
  have c2128 : zC μ2125 a21 = 101 := by rw [e2126]; exact c2108
  have c2129 : zC μ2125 a43 = 101 := by rw [e2126]; exact c2109
  have c2130 : zC μ2125 a67 = 101 := by rw [e2126]; exact c2110
  have c2131 : zC μ2125 a93 = 101 := by rw [e2126]; exact c2111
  have c2132 : zC μ2125 a121 = 101 := by rw [e2126]; exact c2112
  have c2133 : zC μ2125 a151 = 101 := by rw [e2126]; exact c2113
  have c2134 : zC μ2125 a183 = 101 := by rw [e2126]; exact c2114
  have c2135 : zC μ2125 a217 = 101 := by rw [e2126]; exact c2115
  have c2136 : zC μ2125 a253 = 101 := by rw [e2126]; exact c2116
  have c2137 : zC μ2125 a291 = 101 := by rw [e2126]; exact c2117
  have c2138 : zC μ2125 a331 = 101 := by rw [e2126]; exact c2118
  have c2139 : zC μ2125 a1309 = 101 := by rw [e2126]; exact c2119
  have c2140 : zC μ2125 a1562 = 101 := by rw [e2126]; exact c2120
  refine z_dup C dX3_init_642 rfl ?_
  refine z_bipush (v := (nI 28)) C dX3_init_643 (by decide) ?_
  refine z_bipush (v := (nI 101)) C dX3_init_645 (by decide) ?_
  obtain ⟨c2141, c2142, h2143⟩ := h2124
  refine z_iast C rfl c2140 c2141 c2142 dX3_init_647 ?_
  refine Z.mem fun μ2145 e2146 => ?_
  have h2144 := h2143 μ2145 e2146
  have c2147 : zC μ2145 this = 18 := by rw [e2146]; exact c2127
  have c2148 : zC μ2145 a21 = 101 := by rw [e2146]; exact c2128
  have c2149 : zC μ2145 a43 = 101 := by rw [e2146]; exact c2129
  have c2150 : zC μ2145 a67 = 101 := by rw [e2146]; exact c2130
  have c2151 : zC μ2145 a93 = 101 := by rw [e2146]; exact c2131
  have c2152 : zC μ2145 a121 = 101 := by rw [e2146]; exact c2132
  have c2153 : zC μ2145 a151 = 101 := by rw [e2146]; exact c2133
  have c2154 : zC μ2145 a183 = 101 := by rw [e2146]; exact c2134
  have c2155 : zC μ2145 a217 = 101 := by rw [e2146]; exact c2135
  have c2156 : zC μ2145 a253 = 101 := by rw [e2146]; exact c2136
  have c2157 : zC μ2145 a291 = 101 := by rw [e2146]; exact c2137
  have c2158 : zC μ2145 a331 = 101 := by rw [e2146]; exact c2138
  have c2159 : zC μ2145 a1309 = 101 := by rw [e2146]; exact c2139
  have c2160 : zC μ2145 a1562 = 101 := by rw [e2146]; exact c2140
  refine z_dup C dX3_init_648 rfl ?_
  refine z_bipush (v := (nI 29)) C dX3_init_649 (by decide) ?_
  refine z_bipush (v := (nI 101)) C dX3_init_651 (by decide) ?_
  obtain ⟨c2161, c2162, h2163⟩ := h2144
  refine z_iast C rfl c2160 c2161 c2162 dX3_init_653 ?_
  refine Z.mem fun μ2165 e2166 => ?_
  have h2164 := h2163 μ2165 e2166
  have c2167 : zC μ2165 this = 18 := by rw [e2166]; exact c2147
  have c2168 : zC μ2165 a21 = 101 := by rw [e2166]; exact c2148
  have c2169 : zC μ2165 a43 = 101 := by rw [e2166]; exact c2149
  have c2170 : zC μ2165 a67 = 101 := by rw [e2166]; exact c2150
  have c2171 : zC μ2165 a93 = 101 := by rw [e2166]; exact c2151
  have c2172 : zC μ2165 a121 = 101 := by rw [e2166]; exact c2152
  have c2173 : zC μ2165 a151 = 101 := by rw [e2166]; exact c2153
  have c2174 : zC μ2165 a183 = 101 := by rw [e2166]; exact c2154
  have c2175 : zC μ2165 a217 = 101 := by rw [e2166]; exact c2155
  have c2176 : zC μ2165 a253 = 101 := by rw [e2166]; exact c2156
  have c2177 : zC μ2165 a291 = 101 := by rw [e2166]; exact c2157
  have c2178 : zC μ2165 a331 = 101 := by rw [e2166]; exact c2158
  have c2179 : zC μ2165 a1309 = 101 := by rw [e2166]; exact c2159
  have c2180 : zC μ2165 a1562 = 101 := by rw [e2166]; exact c2160
  refine z_putR C rfl (zFpOf c2167 zp_X3_init_53_18) (Or.inl (zFzOf c2167 rfl)) rfl dX3_init_654 ?_
  refine Z.mem fun μ2181 e2183 => ?_
  have h2182 := h2164 μ2181 e2183
  have c2184 : zC μ2181 this = 18 := by rw [e2183]; exact c2167
  have c2185 : zC μ2181 a21 = 101 := by rw [e2183]; exact c2168
  have c2186 : zC μ2181 a43 = 101 := by rw [e2183]; exact c2169
  have c2187 : zC μ2181 a67 = 101 := by rw [e2183]; exact c2170
  have c2188 : zC μ2181 a93 = 101 := by rw [e2183]; exact c2171
  have c2189 : zC μ2181 a121 = 101 := by rw [e2183]; exact c2172
  have c2190 : zC μ2181 a151 = 101 := by rw [e2183]; exact c2173
  have c2191 : zC μ2181 a183 = 101 := by rw [e2183]; exact c2174
  have c2192 : zC μ2181 a217 = 101 := by rw [e2183]; exact c2175
  have c2193 : zC μ2181 a253 = 101 := by rw [e2183]; exact c2176
  have c2194 : zC μ2181 a291 = 101 := by rw [e2183]; exact c2177
  have c2195 : zC μ2181 a331 = 101 := by rw [e2183]; exact c2178
  have c2196 : zC μ2181 a1309 = 101 := by rw [e2183]; exact c2179
  have c2197 : zC μ2181 a1562 = 101 := by rw [e2183]; exact c2180
  exact z_vreturn C rfl dX3_init_657 h2182
/-! HutRidgeModel.thrown()I -/
def Tr_X3_thrown (w : WT) (this : Nat) (μ : Mem) (mc ms : Nat) (K : Out → Mem → Prop) : Prop := Tr w yX3_thrown (ws_ yX3_thrown cX3_thrown 1 (Option.some Jvm.ClassFile.FieldType.int)) 1 40 [tR (some this)] μ mc ms K
def Cx_X3_thrown (w : WT) (g : GT) : Prop := Cx w g yX3_thrown cX3_thrown 1 (Option.some Jvm.ClassFile.FieldType.int) [] 1 40
theorem yd_X3_thrown : yX3_thrown.cls ≠ "java/lang/invoke/MethodHandle" ∧ yX3_thrown.cls ≠ "java/lang/invoke/VarHandle" ∧ (parseMethodDescriptor yX3_thrown.desc).map (fun d => d.parameters.length) = some 0 := by decide +kernel
theorem zf_X3_56_18 : zFd RX3 56 57 false 18 := ⟨0, _, _, _, _, _, zk_18, rfl, Or.inl q3594, Or.inl rfl⟩
set_option maxHeartbeats 4000000 in
theorem tr_X3_thrown {w : WT} {this : Nat} {μ : Mem} {mc ms : Nat} {K : Out → Mem → Prop} (h : zM w μ → zC μ this = 18 ∧ K (.inl (some (tI (zI μ 57 this)))) μ) : Tr_X3_thrown w this μ mc ms K := by
  refine Tr.of (by decide +kernel) (Nat.le_of_ble_eq_true rfl) (fun g C => ?_)
  show Z w g K mc ms 0 [(0, tR (some this))] [] μ 0 0
  refine Z.wm fun m0 => ?_
  have h := h m0
  refine z_aload_n C dX3_thrown_0 0 rfl ?_
  obtain ⟨c1, h2⟩ := h
  refine z_getI C rfl (zFdOf c1 zf_X3_56_18) dX3_thrown_1 ?_
  exact z_ireturn C rfl rfl dX3_thrown_4 h2
/-! HutRidgeModel.lays([I[I)V -/
def Tr_X3_lays (w : WT) (x0 : Option Nat) (x1 : Option Nat) (μ : Mem) (mc ms : Nat) (K : Out → Mem → Prop) : Prop := Tr w yX3_lays (ws_ yX3_lays cX3_lays 3 (Option.none : Option Jvm.ClassFile.FieldType)) 1 40 [tR x0, tR x1] μ mc ms K
def Cx_X3_lays (w : WT) (g : GT) : Prop := Cx w g yX3_lays cX3_lays 3 (Option.none : Option Jvm.ClassFile.FieldType) [] 1 40
theorem yd_X3_lays : yX3_lays.cls ≠ "java/lang/invoke/MethodHandle" ∧ yX3_lays.cls ≠ "java/lang/invoke/VarHandle" ∧ (parseMethodDescriptor yX3_lays.desc).map (fun d => d.parameters.length) = some 2 := by decide +kernel
def B_X3_lays_2 (w : WT) (g : GT) (K : Out → Mem → Prop) (mc ms : Nat) (x0 : Option Nat) (x1 : Option Nat) (x2 : Int32)  (μ : Mem) (kc ks : Nat) : Prop := Z w g K mc ms 2 [(0, tR x0), (1, tR x1), (2, tI x2)] [] μ kc ks
set_option maxHeartbeats 4000000 in
theorem tr_X3_lays {w : WT} {x0 : Option Nat} {x1 : Option Nat} {μ : Mem} {mc ms : Nat} {K : Out → Mem → Prop} (h : ∀ g : GT, Cx_X3_lays w g → zM w μ → B_X3_lays_2 w g K mc ms x0 x1 0 μ 0 0) : Tr_X3_lays w x0 x1 μ mc ms K := by
  refine Tr.of (by decide +kernel) (Nat.le_of_ble_eq_true rfl) (fun g C => ?_)
  show Z w g K mc ms 0 [(0, tR x0), (1, tR x1)] [] μ 0 0
  refine Z.wm fun m0 => ?_
  have h := h g C m0
  refine z_iconst (v := 0) C dX3_lays_0 (by decide) ?_
  refine z_istore_n (lv' := [(2, tI 0), (0, tR x0), (1, tR x1)]) C dX3_lays_1 (by decide) rfl ?_
  refine Z.sub [1, 2, 0] rfl ?_
  exact h
set_option maxHeartbeats 4000000 in
theorem bk_X3_lays_2 {w : WT} {g : GT} {K : Out → Mem → Prop} {mc ms : Nat} {x0 : Option Nat} {x1 : Option Nat} {x2 : Int32}  {μ : Mem} {kc ks : Nat} (C : Cx_X3_lays w g) (h : zM w μ → ((nI 94) ≤ x2 → K (.inl none) μ) ∧ (¬ (nI 94) ≤ x2 → ∃ a4 : Nat, x1 = some a4 ∧ zC μ a4 = 101 ∧ vp_in x2 (zN μ a4) ∧ ∃ a11 : Nat, x0 = some a11 ∧ zC μ a11 = 101 ∧ zB w ≤ a11 ∧ vp_in x2 (zN μ a11) ∧ ∀ μ20 : Mem, μ20 = zsA μ a11 x2.toNatClampNeg (zA μ a4 x2.toNatClampNeg) → B_X3_lays_2 w g K mc ms x0 x1 (x2 + 1) μ20 kc ks)) : B_X3_lays_2 w g K mc ms x0 x1 x2 μ kc ks := by
  unfold Cx_X3_lays at C
  unfold B_X3_lays_2
  refine Z.wm fun m0 => ?_
  have h := h m0
  refine z_iload_n C dX3_lays_2 2 rfl ?_
  refine z_bipush (v := (nI 94)) C dX3_lays_3 (by decide) ?_
  refine z_icmp_ge C 20 dX3_lays_5 (by decide) (fun c3 => ?_) (fun c3 => ?_)
  · have h1 := h.1 c3
    exact z_vreturn C rfl dX3_lays_20 h1
  · have h2 := h.2 c3
    refine z_aload_n C dX3_lays_8 0 rfl ?_
    refine z_iload_n C dX3_lays_9 2 rfl ?_
    refine z_aload_n C dX3_lays_10 1 rfl ?_
    refine z_iload_n C dX3_lays_11 2 rfl ?_
    obtain ⟨a4, e5, h6⟩ := h2
    obtain ⟨c7, h8⟩ := h6
    obtain ⟨c9, h10⟩ := h8
    refine z_iald C e5 c7 c9 dX3_lays_12 ?_
    obtain ⟨a11, e12, h13⟩ := h10
    obtain ⟨c14, h15⟩ := h13
    obtain ⟨c16, c17, h18⟩ := h15
    refine z_iast C e12 c14 c16 c17 dX3_lays_13 ?_
    refine Z.mem fun μ20 e21 => ?_
    have h19 := h18 μ20 e21
    have c22 : zC μ20 a4 = 101 := by rw [e21]; exact c7
    have c23 : zC μ20 a11 = 101 := by rw [e21]; exact c14
    refine z_iinc (k0 := 2) (v := x2 + 1) (lv' := [(2, tI (x2 + 1)), (0, tR x0), (1, tR x1)]) C dX3_lays_14 rfl (by first | rfl | decide) (by decide) rfl ?_
    refine z_goto C 2 dX3_lays_17 (by decide) ?_
    refine Z.sub [1, 2, 0] rfl ?_
    exact h19
/-! HutRidgeModel.begins()V -/
def Tr_X3_begins (w : WT) (this : Nat) (μ : Mem) (mc ms : Nat) (K : Out → Mem → Prop) : Prop := Tr w yX3_begins (ws_ yX3_begins cX3_begins 1 (Option.none : Option Jvm.ClassFile.FieldType)) 2 62 [tR (some this)] μ mc ms K
def Cx_X3_begins (w : WT) (g : GT) : Prop := Cx w g yX3_begins cX3_begins 1 (Option.none : Option Jvm.ClassFile.FieldType) [] 2 62
theorem yd_X3_begins : yX3_begins.cls ≠ "java/lang/invoke/MethodHandle" ∧ yX3_begins.cls ≠ "java/lang/invoke/VarHandle" ∧ (parseMethodDescriptor yX3_begins.desc).map (fun d => d.parameters.length) = some 0 := by decide +kernel
theorem zp_X3_56_18 {yy : MethodName} (hy : yy.cls = RX3) : zFp yy 56 57 false .int 18 := by obtain ⟨c0, n0, d0⟩ := yy; cases hy; exact ⟨0, _, _, _, _, _, zk_18, rfl, Or.inl q3594, Or.inl rfl, rfl, Or.inl rfl⟩
theorem zf_X3_16_18 : zFd RX3 16 63 true 18 := ⟨6, _, _, _, _, _, zk_18, rfl, Or.inl q3600, Or.inl rfl⟩
theorem zf_X3_20_18 : zFd RX3 20 64 true 18 := ⟨7, _, _, _, _, _, zk_18, rfl, Or.inl q3601, Or.inl rfl⟩
set_option maxHeartbeats 4000000 in
theorem tr_X3_begins {w : WT} {this : Nat} {μ : Mem} {mc ms : Nat} {K : Out → Mem → Prop} (h : zM w μ → zC μ this = 18 ∧ ∀ μ3 : Mem, μ3 = zsI μ 57 this 0 → Tr_X3_lays w (zR μ3 64 this) (zR μ3 63 this) μ3 0 0 (zKv (fun μ8 => zM w μ8 → K (.inl none) μ8) (fun q9 μ10 => False))) : Tr_X3_begins w this μ mc ms K := by
  refine Tr.of (by decide +kernel) (Nat.le_of_ble_eq_true rfl) (fun g C => ?_)
  show Z w g K mc ms 0 [(0, tR (some this))] [] μ 0 0
  refine Z.wm fun m0 => ?_
  have h := h m0
  refine z_aload_n C dX3_begins_0 0 rfl ?_
  refine z_iconst (v := 0) C dX3_begins_1 (by decide) ?_
  obtain ⟨c1, h2⟩ := h
  refine z_putI C rfl (zFpOf c1 (zp_X3_56_18 rfl)) (Or.inl (zFzOf c1 rfl)) rfl rfl dX3_begins_2 ?_
  refine Z.mem fun μ3 e5 => ?_
  have h4 := h2 μ3 e5
  have c6 : zC μ3 this = 18 := by rw [e5]; exact c1
  refine z_aload_n C dX3_begins_5 0 rfl ?_
  refine z_getR C rfl (zFdOf c6 zf_X3_20_18) dX3_begins_6 ?_
  refine z_aload_n C dX3_begins_9 0 rfl ?_
  refine z_getR C rfl (zFdOf c6 zf_X3_16_18) dX3_begins_10 ?_
  refine Z.kk fun c15 c16 => ?_
  have k14 := h4
  refine z_callS (as := [tR (zR μ3 64 this), tR (zR μ3 63 this)]) (rest := []) C k14 rfl q3685 q3686 q113 q3687 yd_X3_lays (by decide) (Nat.le_of_ble_eq_true rfl) dX3_begins_13 c15 c16 (zRet_v fun μ8 h13 => ?_) (zThr_v fun _ _ z9 _ _ _ _ => z9.elim)
  · refine Z.wm fun m12 => ?_
    have h11 := h13 m12
    exact z_vreturn C rfl dX3_begins_16 h11
/-! HutRidgeModel.isIn(III)Z -/
def Tr_X3_isIn (w : WT) (x0 : Int32) (x1 : Int32) (x2 : Int32) (μ : Mem) (mc ms : Nat) (K : Out → Mem → Prop) : Prop := Tr w yX3_isIn (ws_ yX3_isIn cX3_isIn 3 (Option.some Jvm.ClassFile.FieldType.boolean)) 1 40 [tI x0, tI x1, tI x2] μ mc ms K
def Cx_X3_isIn (w : WT) (g : GT) : Prop := Cx w g yX3_isIn cX3_isIn 3 (Option.some Jvm.ClassFile.FieldType.boolean) [] 1 40
theorem yd_X3_isIn : yX3_isIn.cls ≠ "java/lang/invoke/MethodHandle" ∧ yX3_isIn.cls ≠ "java/lang/invoke/VarHandle" ∧ (parseMethodDescriptor yX3_isIn.desc).map (fun d => d.parameters.length) = some 3 := by decide +kernel
set_option maxHeartbeats 4000000 in
theorem tr_X3_isIn {w : WT} {x0 : Int32} {x1 : Int32} {x2 : Int32} {μ : Mem} {mc ms : Nat} {K : Out → Mem → Prop} (h : zM w μ → (x0 < x1 → K (.inl (some (tI 0))) μ) ∧ (¬ x0 < x1 → (x2 < x0 → K (.inl (some (tI 0))) μ) ∧ (¬ x2 < x0 → K (.inl (some (tI 1))) μ))) : Tr_X3_isIn w x0 x1 x2 μ mc ms K := by
  refine Tr.of (by decide +kernel) (Nat.le_of_ble_eq_true rfl) (fun g C => ?_)
  show Z w g K mc ms 0 [(0, tI x0), (1, tI x1), (2, tI x2)] [] μ 0 0
  refine Z.wm fun m0 => ?_
  have h := h m0
  refine z_iload_n C dX3_isIn_0 0 rfl ?_
  refine z_iload_n C dX3_isIn_1 1 rfl ?_
  refine z_icmp_lt C 14 dX3_isIn_2 (by decide) (fun c3 => ?_) (fun c3 => ?_)
  · have h1 := h.1 c3
    refine z_iconst (v := 0) C dX3_isIn_14 (by decide) ?_
    exact z_ireturn C rfl (by decide) dX3_isIn_15 h1
  · have h2 := h.2 c3
    refine z_iload_n C dX3_isIn_5 0 rfl ?_
    refine z_iload_n C dX3_isIn_6 2 rfl ?_
    refine z_icmp_gt C 14 dX3_isIn_7 (by decide) (fun c6 => ?_) (fun c6 => ?_)
    · have h4 := h2.1 c6
      refine z_iconst (v := 0) C dX3_isIn_14 (by decide) ?_
      exact z_ireturn C rfl (by decide) dX3_isIn_15 h4
    · have h5 := h2.2 c6
      refine z_iconst (v := 1) C dX3_isIn_10 (by decide) ?_
      refine z_goto C 15 dX3_isIn_11 (by decide) ?_
      exact z_ireturn C rfl (by decide) dX3_isIn_15 h5
/-! HutRidgeModel.isLevel(I)Z -/
def Tr_X3_isLevel (w : WT) (x0 : Int32) (μ : Mem) (mc ms : Nat) (K : Out → Mem → Prop) : Prop := Tr w yX3_isLevel (ws_ yX3_isLevel cX3_isLevel 1 (Option.some Jvm.ClassFile.FieldType.boolean)) 2 62 [tI x0] μ mc ms K
def Cx_X3_isLevel (w : WT) (g : GT) : Prop := Cx w g yX3_isLevel cX3_isLevel 1 (Option.some Jvm.ClassFile.FieldType.boolean) [] 2 62
theorem yd_X3_isLevel : yX3_isLevel.cls ≠ "java/lang/invoke/MethodHandle" ∧ yX3_isLevel.cls ≠ "java/lang/invoke/VarHandle" ∧ (parseMethodDescriptor yX3_isLevel.desc).map (fun d => d.parameters.length) = some 1 := by decide +kernel
set_option maxHeartbeats 4000000 in
theorem tr_X3_isLevel {w : WT} {x0 : Int32} {μ : Mem} {mc ms : Nat} {K : Out → Mem → Prop} (h : zM w μ → Tr_X3_isIn w x0 0 (nI 4) μ 0 0 (zKi (fun v1 μ2 => zM w μ2 → zNar .boolean v1 ∧ K (.inl (some (tI v1))) μ2) (fun q3 μ4 => False))) : Tr_X3_isLevel w x0 μ mc ms K := by
  refine Tr.of (by decide +kernel) (Nat.le_of_ble_eq_true rfl) (fun g C => ?_)
  show Z w g K mc ms 0 [(0, tI x0)] [] μ 0 0
  refine Z.wm fun m0 => ?_
  have h := h m0
  refine z_iload_n C dX3_isLevel_0 0 rfl ?_
  refine z_iconst (v := 0) C dX3_isLevel_1 (by decide) ?_
  refine z_iconst (v := (nI 4)) C dX3_isLevel_2 (by decide) ?_
  refine Z.kk fun c9 c10 => ?_
  have k8 := h
  refine z_callS (as := [tI x0, tI 0, tI (nI 4)]) (rest := []) C k8 rfl q3692 q3693 q113 q3694 yd_X3_isIn (by decide) (Nat.le_of_ble_eq_true rfl) dX3_isLevel_3 c9 c10 (zRet_i fun v1 μ2 h7 => ?_) (zThr_i fun _ _ z9 _ _ _ _ => z9.elim)
  · refine Z.wm fun m6 => ?_
    have h5 := h7 m6
    exact z_ireturn C rfl h5.1.1 dX3_isLevel_6 h5.2
/-! HutRidgeModel.fail(I)I -/
def Tr_X3_fail (w : WT) (this : Nat) (x1 : Int32) (μ : Mem) (mc ms : Nat) (K : Out → Mem → Prop) : Prop := Tr w yX3_fail (ws_ yX3_fail cX3_fail 2 (Option.some Jvm.ClassFile.FieldType.int)) 1 40 [tR (some this), tI x1] μ mc ms K
def Cx_X3_fail (w : WT) (g : GT) : Prop := Cx w g yX3_fail cX3_fail 2 (Option.some Jvm.ClassFile.FieldType.int) [] 1 40
theorem yd_X3_fail : yX3_fail.cls ≠ "java/lang/invoke/MethodHandle" ∧ yX3_fail.cls ≠ "java/lang/invoke/VarHandle" ∧ (parseMethodDescriptor yX3_fail.desc).map (fun d => d.parameters.length) = some 1 := by decide +kernel
set_option maxHeartbeats 4000000 in
theorem tr_X3_fail {w : WT} {this : Nat} {x1 : Int32} {μ : Mem} {mc ms : Nat} {K : Out → Mem → Prop} (h : zM w μ → zC μ this = 18 ∧ ∀ μ3 : Mem, μ3 = zsI μ 57 this x1 → K (.inl (some (tI 0))) μ3) : Tr_X3_fail w this x1 μ mc ms K := by
  refine Tr.of (by decide +kernel) (Nat.le_of_ble_eq_true rfl) (fun g C => ?_)
  show Z w g K mc ms 0 [(0, tR (some this)), (1, tI x1)] [] μ 0 0
  refine Z.wm fun m0 => ?_
  have h := h m0
  refine z_aload_n C dX3_fail_0 0 rfl ?_
  refine z_iload_n C dX3_fail_1 1 rfl ?_
  obtain ⟨c1, h2⟩ := h
  refine z_putI C rfl (zFpOf c1 (zp_X3_56_18 rfl)) (Or.inl (zFzOf c1 rfl)) rfl rfl dX3_fail_2 ?_
  refine Z.mem fun μ3 e5 => ?_
  have h4 := h2 μ3 e5
  have c6 : zC μ3 this = 18 := by rw [e5]; exact c1
  refine z_iconst (v := 0) C dX3_fail_5 (by decide) ?_
  exact z_ireturn C rfl rfl dX3_fail_6 h4
/-! HutRidgeModel.of(II)I -/
def Tr_X3_of (w : WT) (x0 : Int32) (x1 : Int32) (μ : Mem) (mc ms : Nat) (K : Out → Mem → Prop) : Prop := Tr w yX3_of (ws_ yX3_of cX3_of 2 (Option.some Jvm.ClassFile.FieldType.int)) 1 40 [tI x0, tI x1] μ mc ms K
def Cx_X3_of (w : WT) (g : GT) : Prop := Cx w g yX3_of cX3_of 2 (Option.some Jvm.ClassFile.FieldType.int) [] 1 40
theorem yd_X3_of : yX3_of.cls ≠ "java/lang/invoke/MethodHandle" ∧ yX3_of.cls ≠ "java/lang/invoke/VarHandle" ∧ (parseMethodDescriptor yX3_of.desc).map (fun d => d.parameters.length) = some 2 := by decide +kernel
set_option maxHeartbeats 4000000 in
theorem tr_X3_of {w : WT} {x0 : Int32} {x1 : Int32} {μ : Mem} {mc ms : Nat} {K : Out → Mem → Prop} (h : zM w μ → K (.inl (some (tI (((nI 6) + ((nI 4) * x0)) + x1)))) μ) : Tr_X3_of w x0 x1 μ mc ms K := by
  refine Tr.of (by decide +kernel) (Nat.le_of_ble_eq_true rfl) (fun g C => ?_)
  show Z w g K mc ms 0 [(0, tI x0), (1, tI x1)] [] μ 0 0
  refine Z.wm fun m0 => ?_
  have h := h m0
  refine z_bipush (v := (nI 6)) C dX3_of_0 (by decide) ?_
  refine z_iconst (v := (nI 4)) C dX3_of_2 (by decide) ?_
  refine z_iload_n C dX3_of_3 0 rfl ?_
  refine z_imul C dX3_of_4 ?_
  refine z_iadd C dX3_of_5 ?_
  refine z_iload_n C dX3_of_6 1 rfl ?_
  refine z_iadd C dX3_of_7 ?_
  exact z_ireturn C rfl rfl dX3_of_8 h
/-! HutRidgeModel.at(I)I -/
def Tr_X3_at (w : WT) (this : Nat) (x1 : Int32) (μ : Mem) (mc ms : Nat) (K : Out → Mem → Prop) : Prop := Tr w yX3_at (ws_ yX3_at cX3_at 2 (Option.some Jvm.ClassFile.FieldType.int)) 2 61 [tR (some this), tI x1] μ mc ms K
def Cx_X3_at (w : WT) (g : GT) : Prop := Cx w g yX3_at cX3_at 2 (Option.some Jvm.ClassFile.FieldType.int) [] 2 61
theorem yd_X3_at : yX3_at.cls ≠ "java/lang/invoke/MethodHandle" ∧ yX3_at.cls ≠ "java/lang/invoke/VarHandle" ∧ (parseMethodDescriptor yX3_at.desc).map (fun d => d.parameters.length) = some 1 := by decide +kernel
set_option maxHeartbeats 4000000 in
theorem tr_X3_at {w : WT} {this : Nat} {x1 : Int32} {μ : Mem} {mc ms : Nat} {K : Out → Mem → Prop} (h : zM w μ → zC μ this = 18 ∧ Tr_X3_of w x1 0 μ 0 0 (zKi (fun v3 μ4 => zM w μ4 → ∃ a13 : Nat, (zR μ 63 this) = some a13 ∧ zC μ4 a13 = 101 ∧ vp_in v3 (zN μ4 a13) ∧ K (.inl (some (tI (zA μ4 a13 v3.toNatClampNeg)))) μ4) (fun q5 μ6 => False))) : Tr_X3_at w this x1 μ mc ms K := by
  refine Tr.of (by decide +kernel) (Nat.le_of_ble_eq_true rfl) (fun g C => ?_)
  show Z w g K mc ms 0 [(0, tR (some this)), (1, tI x1)] [] μ 0 0
  refine Z.wm fun m0 => ?_
  have h := h m0
  refine z_aload_n C dX3_at_0 0 rfl ?_
  obtain ⟨c1, h2⟩ := h
  refine z_getR C rfl (zFdOf c1 zf_X3_16_18) dX3_at_1 ?_
  refine z_iload_n C dX3_at_4 1 rfl ?_
  refine z_iconst (v := 0) C dX3_at_5 (by decide) ?_
  refine Z.kk fun c11 c12 => ?_
  have k10 := h2
  refine z_callS (as := [tI x1, tI 0]) (rest := [tR (zR μ 63 this)]) C k10 rfl q3710 q3711 q113 q3712 yd_X3_of (by decide) (Nat.le_of_ble_eq_true rfl) dX3_at_6 c11 c12 (zRet_i fun v3 μ4 h9 => ?_) (zThr_i fun _ _ z9 _ _ _ _ => z9.elim)
  · refine Z.wm fun m8 => ?_
    have h7 := h9 m8
    obtain ⟨a13, e14, h15⟩ := h7
    obtain ⟨c16, h17⟩ := h15
    obtain ⟨c18, h19⟩ := h17
    refine z_iald C e14 c16 c18 dX3_at_9 ?_
    exact z_ireturn C rfl rfl dX3_at_10 h19
/-! HutRidgeModel.hut(I)I -/
def Tr_X3_hut (w : WT) (this : Nat) (x1 : Int32) (μ : Mem) (mc ms : Nat) (K : Out → Mem → Prop) : Prop := Tr w yX3_hut (ws_ yX3_hut cX3_hut 3 (Option.some Jvm.ClassFile.FieldType.int)) 3 82 [tR (some this), tI x1] μ mc ms K
def Cx_X3_hut (w : WT) (g : GT) : Prop := Cx w g yX3_hut cX3_hut 3 (Option.some Jvm.ClassFile.FieldType.int) [] 3 82
theorem yd_X3_hut : yX3_hut.cls ≠ "java/lang/invoke/MethodHandle" ∧ yX3_hut.cls ≠ "java/lang/invoke/VarHandle" ∧ (parseMethodDescriptor yX3_hut.desc).map (fun d => d.parameters.length) = some 1 := by decide +kernel
def B_X3_hut_2 (w : WT) (g : GT) (K : Out → Mem → Prop) (mc ms : Nat) (this : Nat) (x1 : Int32) (x2 : Int32)  (μ : Mem) (kc ks : Nat) : Prop := Z w g K mc ms 2 [(0, tR (some this)), (1, tI x1), (2, tI x2)] [] μ kc ks
set_option maxHeartbeats 4000000 in
theorem tr_X3_hut {w : WT} {this : Nat} {x1 : Int32} {μ : Mem} {mc ms : Nat} {K : Out → Mem → Prop} (h : ∀ g : GT, Cx_X3_hut w g → zM w μ → B_X3_hut_2 w g K mc ms this x1 0 μ 0 0) : Tr_X3_hut w this x1 μ mc ms K := by
  refine Tr.of (by decide +kernel) (Nat.le_of_ble_eq_true rfl) (fun g C => ?_)
  show Z w g K mc ms 0 [(0, tR (some this)), (1, tI x1)] [] μ 0 0
  refine Z.wm fun m0 => ?_
  have h := h g C m0
  refine z_iconst (v := 0) C dX3_hut_0 (by decide) ?_
  refine z_istore_n (lv' := [(2, tI 0), (0, tR (some this)), (1, tI x1)]) C dX3_hut_1 (by decide) rfl ?_
  refine Z.sub [1, 2, 0] rfl ?_
  exact h
set_option maxHeartbeats 4000000 in
theorem bk_X3_hut_2 {w : WT} {g : GT} {K : Out → Mem → Prop} {mc ms : Nat} {this : Nat} {x1 : Int32} {x2 : Int32}  {μ : Mem} {kc ks : Nat} (C : Cx_X3_hut w g) (h : zM w μ → zC μ this = 18 ∧ ∃ a3 : Nat, (zR μ 63 this) = some a3 ∧ zC μ a3 = 101 ∧ vp_in 0 (zN μ a3) ∧ ((zA μ a3 0) ≤ x2 → K (.inl (some (tI (-1 : Int32)))) μ) ∧ (¬ (zA μ a3 0) ≤ x2 → Tr_X3_at w this x2 μ 0 0 (zKi (fun v13 μ14 => zM w μ14 → (v13 ≠ x1 → B_X3_hut_2 w g K mc ms this x1 (x2 + 1) μ14 kc ks) ∧ (v13 = x1 → K (.inl (some (tI x2))) μ14)) (fun q15 μ16 => False)))) : B_X3_hut_2 w g K mc ms this x1 x2 μ kc ks := by
  unfold Cx_X3_hut at C
  unfold B_X3_hut_2
  refine Z.wm fun m0 => ?_
  have h := h m0
  refine z_iload_n C dX3_hut_2 2 rfl ?_
  refine z_aload_n C dX3_hut_3 0 rfl ?_
  obtain ⟨c1, h2⟩ := h
  refine z_getR C rfl (zFdOf c1 zf_X3_16_18) dX3_hut_4 ?_
  refine z_iconst (v := 0) C dX3_hut_7 (by decide) ?_
  obtain ⟨a3, e4, h5⟩ := h2
  obtain ⟨c6, h7⟩ := h5
  obtain ⟨c8, h9⟩ := h7
  refine z_iald C e4 c6 c8 dX3_hut_8 ?_
  refine z_icmp_ge C 29 dX3_hut_9 (by decide) (fun c12 => ?_) (fun c12 => ?_)
  · have h10 := h9.1 c12
    refine z_iconst (v := (-1 : Int32)) C dX3_hut_29 (by decide) ?_
    exact z_ireturn C rfl rfl dX3_hut_30 h10
  · have h11 := h9.2 c12
    refine z_aload_n C dX3_hut_12 0 rfl ?_
    refine z_iload_n C dX3_hut_13 2 rfl ?_
    refine Z.kk fun c21 c22 => ?_
    have k20 := h11
    refine z_callV (as := [tI x2]) (rest := []) C k20 rfl rfl (by decide) c1 rfl q3706 q3708 qs64 q113 q3709 yd_X3_at (by decide) (Nat.le_of_ble_eq_true rfl) dX3_hut_14 c21 c22 (zRet_i fun v13 μ14 h19 => ?_) (zThr_i fun _ _ z9 _ _ _ _ => z9.elim)
    · refine Z.wm fun m18 => ?_
      have h17 := h19 m18
      refine z_iload_n C dX3_hut_17 1 rfl ?_
      refine z_icmp_ne C 23 dX3_hut_18 (by decide) (fun c25 => ?_) (fun c25 => ?_)
      · have h23 := h17.1 c25
        refine z_iinc (k0 := 2) (v := x2 + 1) (lv' := [(2, tI (x2 + 1)), (0, tR (some this)), (1, tI x1)]) C dX3_hut_23 rfl (by first | rfl | decide) (by decide) rfl ?_
        refine z_goto C 2 dX3_hut_26 (by decide) ?_
        refine Z.sub [1, 2, 0] rfl ?_
        exact h23
      · have h24 := h17.2 c25
        refine z_iload_n C dX3_hut_21 2 rfl ?_
        exact z_ireturn C rfl rfl dX3_hut_22 h24
/-! HutRidgeModel.builds(III)I -/
def Tr_X3_builds (w : WT) (this : Nat) (x1 : Int32) (x2 : Int32) (x3 : Int32) (μ : Mem) (mc ms : Nat) (K : Out → Mem → Prop) : Prop := Tr w yX3_builds (ws_ yX3_builds cX3_builds 6 (Option.some Jvm.ClassFile.FieldType.int)) 4 104 [tR (some this), tI x1, tI x2, tI x3] μ mc ms K
def Cx_X3_builds (w : WT) (g : GT) : Prop := Cx w g yX3_builds cX3_builds 6 (Option.some Jvm.ClassFile.FieldType.int) [] 4 104
theorem yd_X3_builds : yX3_builds.cls ≠ "java/lang/invoke/MethodHandle" ∧ yX3_builds.cls ≠ "java/lang/invoke/VarHandle" ∧ (parseMethodDescriptor yX3_builds.desc).map (fun d => d.parameters.length) = some 3 := by decide +kernel
def B_X3_builds_71 (w : WT) (g : GT) (K : Out → Mem → Prop) (mc ms : Nat) (this : Nat) (x1 : Int32) (x2 : Int32) (x3 : Int32) (x4 : Int32)  (μ : Mem) (kc ks : Nat) : Prop := Z w g K mc ms 71 [(0, tR (some this)), (1, tI x1), (2, tI x2), (3, tI x3), (4, tI x4)] [] μ kc ks
def B_X3_builds_91 (w : WT) (g : GT) (K : Out → Mem → Prop) (mc ms : Nat) (this : Nat) (x1 : Int32) (x2 : Int32) (x3 : Int32) (x4 : Int32) (x5 : Int32)  (μ : Mem) (kc ks : Nat) : Prop := Z w g K mc ms 91 [(0, tR (some this)), (1, tI x1), (2, tI x2), (3, tI x3), (4, tI x4), (5, tI x5)] [] μ kc ks
def B_X3_builds_135 (w : WT) (g : GT) (K : Out → Mem → Prop) (mc ms : Nat) (this : Nat) (x1 : Int32) (x2 : Int32) (x3 : Int32) (x4 : Int32)  (μ : Mem) (kc ks : Nat) : Prop := Z w g K mc ms 135 [(0, tR (some this)), (1, tI x1), (2, tI x2), (3, tI x3), (4, tI x4)] [] μ kc ks
set_option maxHeartbeats 4000000 in
theorem tr_X3_builds {w : WT} {this : Nat} {x1 : Int32} {x2 : Int32} {x3 : Int32} {μ : Mem} {mc ms : Nat} {K : Out → Mem → Prop} (h : ∀ g : GT, Cx_X3_builds w g → zM w μ → Tr_X3_isIn w x1 0 (nI 99) μ 0 0 (zKi (fun v1 μ2 => zM w μ2 → (v1 = 0 → zC μ2 this = 18 ∧ Tr_X3_fail w this 1 μ2 0 0 (zKi (fun v16 μ17 => zM w μ17 → K (.inl (some (tI v16))) μ17) (fun q18 μ19 => False))) ∧ (¬ v1 = 0 → Tr_X3_isLevel w x2 μ2 0 0 (zKi (fun v31 μ32 => zM w μ32 → (v31 = 0 → zC μ32 this = 18 ∧ Tr_X3_fail w this 1 μ32 0 0 (zKi (fun v46 μ47 => zM w μ47 → K (.inl (some (tI v46))) μ47) (fun q48 μ49 => False))) ∧ (¬ v31 = 0 → Tr_X3_isIn w x3 1 (nI 4) μ32 0 0 (zKi (fun v61 μ62 => zM w μ62 → (v61 ≠ 0 → zC μ62 this = 18 ∧ ∃ a76 : Nat, (zR μ62 63 this) = some a76 ∧ zC μ62 a76 = 101 ∧ vp_in 0 (zN μ62 a76) ∧ ((zA μ62 a76 0) ≠ (nI 16) → Tr_X3_hut w this x1 μ62 0 0 (zKi (fun v86 μ87 => zM w μ87 → (v86 < 0 → zC μ87 this = 18 ∧ ∃ a101 : Nat, (zR μ87 63 this) = some a101 ∧ zC μ87 a101 = 101 ∧ vp_in 0 (zN μ87 a101) ∧ B_X3_builds_71 w g K mc ms this x1 x2 x3 (zA μ87 a101 0) μ87 0 0) ∧ (¬ v86 < 0 → zC μ87 this = 18 ∧ Tr_X3_fail w this (nI 3) μ87 0 0 (zKi (fun v110 μ111 => zM w μ111 → K (.inl (some (tI v110))) μ111) (fun q112 μ113 => False)))) (fun q88 μ89 => False))) ∧ ((zA μ62 a76 0) = (nI 16) → Tr_X3_fail w this (nI 2) μ62 0 0 (zKi (fun v130 μ131 => zM w μ131 → K (.inl (some (tI v130))) μ131) (fun q132 μ133 => False)))) ∧ (v61 = 0 → zC μ62 this = 18 ∧ Tr_X3_fail w this 1 μ62 0 0 (zKi (fun v147 μ148 => zM w μ148 → K (.inl (some (tI v147))) μ148) (fun q149 μ150 => False)))) (fun q63 μ64 => False)))) (fun q33 μ34 => False)))) (fun q3 μ4 => False))) : Tr_X3_builds w this x1 x2 x3 μ mc ms K := by
  refine Tr.of (by decide +kernel) (Nat.le_of_ble_eq_true rfl) (fun g C => ?_)
  show Z w g K mc ms 0 [(0, tR (some this)), (1, tI x1), (2, tI x2), (3, tI x3)] [] μ 0 0
  refine Z.wm fun m0 => ?_
  have h := h g C m0
  refine z_iload_n C dX3_builds_0 1 rfl ?_
  refine z_iconst (v := 0) C dX3_builds_1 (by decide) ?_
  refine z_bipush (v := (nI 99)) C dX3_builds_2 (by decide) ?_
  refine Z.kk fun c9 c10 => ?_
  have k8 := h
  refine z_callS (as := [tI x1, tI 0, tI (nI 99)]) (rest := []) C k8 rfl q3692 q3693 q113 q3694 yd_X3_isIn (by decide) (Nat.le_of_ble_eq_true rfl) dX3_builds_4 c9 c10 (zRet_i fun v1 μ2 h7 => ?_) (zThr_i fun _ _ z9 _ _ _ _ => z9.elim)
  · refine Z.wm fun m6 => ?_
    have h5 := h7 m6
    refine z_if_eq C 26 dX3_builds_7 (by decide) (fun c13 => ?_) (fun c13 => ?_)
    · have h11 := h5.1 c13
      refine z_aload_n C dX3_builds_26 0 rfl ?_
      refine z_iconst (v := 1) C dX3_builds_27 (by decide) ?_
      obtain ⟨c14, h15⟩ := h11
      refine Z.kk fun c24 c25 => ?_
      have k23 := h15
      refine z_callV (as := [tI 1]) (rest := []) C k23 rfl rfl (by decide) c14 rfl q3698 q3700 qs62 q113 q3701 yd_X3_fail (by decide) (Nat.le_of_ble_eq_true rfl) dX3_builds_28 c24 c25 (zRet_i fun v16 μ17 h22 => ?_) (zThr_i fun _ _ z9 _ _ _ _ => z9.elim)
      · refine Z.wm fun m21 => ?_
        have h20 := h22 m21
        exact z_ireturn C rfl rfl dX3_builds_31 h20
    · have h12 := h5.2 c13
      refine z_iload_n C dX3_builds_10 2 rfl ?_
      refine Z.kk fun c39 c40 => ?_
      have k38 := h12
      refine z_callS (as := [tI x2]) (rest := []) C k38 rfl q3695 q3696 q113 q3697 yd_X3_isLevel (by decide) (Nat.le_of_ble_eq_true rfl) dX3_builds_11 c39 c40 (zRet_i fun v31 μ32 h37 => ?_) (zThr_i fun _ _ z9 _ _ _ _ => z9.elim)
      · refine Z.wm fun m36 => ?_
        have h35 := h37 m36
        refine z_if_eq C 26 dX3_builds_14 (by decide) (fun c43 => ?_) (fun c43 => ?_)
        · have h41 := h35.1 c43
          refine z_aload_n C dX3_builds_26 0 rfl ?_
          refine z_iconst (v := 1) C dX3_builds_27 (by decide) ?_
          obtain ⟨c44, h45⟩ := h41
          refine Z.kk fun c54 c55 => ?_
          have k53 := h45
          refine z_callV (as := [tI 1]) (rest := []) C k53 rfl rfl (by decide) c44 rfl q3698 q3700 qs62 q113 q3701 yd_X3_fail (by decide) (Nat.le_of_ble_eq_true rfl) dX3_builds_28 c54 c55 (zRet_i fun v46 μ47 h52 => ?_) (zThr_i fun _ _ z9 _ _ _ _ => z9.elim)
          · refine Z.wm fun m51 => ?_
            have h50 := h52 m51
            exact z_ireturn C rfl rfl dX3_builds_31 h50
        · have h42 := h35.2 c43
          refine z_iload_n C dX3_builds_17 3 rfl ?_
          refine z_iconst (v := 1) C dX3_builds_18 (by decide) ?_
          refine z_iconst (v := (nI 4)) C dX3_builds_19 (by decide) ?_
          refine Z.kk fun c69 c70 => ?_
          have k68 := h42
          refine z_callS (as := [tI x3, tI 1, tI (nI 4)]) (rest := []) C k68 rfl q3692 q3693 q113 q3694 yd_X3_isIn (by decide) (Nat.le_of_ble_eq_true rfl) dX3_builds_20 c69 c70 (zRet_i fun v61 μ62 h67 => ?_) (zThr_i fun _ _ z9 _ _ _ _ => z9.elim)
          · refine Z.wm fun m66 => ?_
            have h65 := h67 m66
            refine z_if_ne C 32 dX3_builds_23 (by decide) (fun c73 => ?_) (fun c73 => ?_)
            · have h71 := h65.1 c73
              refine z_aload_n C dX3_builds_32 0 rfl ?_
              obtain ⟨c74, h75⟩ := h71
              refine z_getR C rfl (zFdOf c74 zf_X3_16_18) dX3_builds_33 ?_
              refine z_iconst (v := 0) C dX3_builds_36 (by decide) ?_
              obtain ⟨a76, e77, h78⟩ := h75
              obtain ⟨c79, h80⟩ := h78
              obtain ⟨c81, h82⟩ := h80
              refine z_iald C e77 c79 c81 dX3_builds_37 ?_
              refine z_bipush (v := (nI 16)) C dX3_builds_38 (by decide) ?_
              refine z_icmp_ne C 49 dX3_builds_40 (by decide) (fun c85 => ?_) (fun c85 => ?_)
              · have h83 := h82.1 c85
                refine z_aload_n C dX3_builds_49 0 rfl ?_
                refine z_iload_n C dX3_builds_50 1 rfl ?_
                refine Z.kk fun c94 c95 => ?_
                have k93 := h83
                refine z_callV (as := [tI x1]) (rest := []) C k93 rfl rfl (by decide) c74 rfl q3702 q3704 qs63 q113 q3705 yd_X3_hut (by decide) (Nat.le_of_ble_eq_true rfl) dX3_builds_51 c94 c95 (zRet_i fun v86 μ87 h92 => ?_) (zThr_i fun _ _ z9 _ _ _ _ => z9.elim)
                · refine Z.wm fun m91 => ?_
                  have h90 := h92 m91
                  refine z_if_lt C 63 dX3_builds_54 (by decide) (fun c98 => ?_) (fun c98 => ?_)
                  · have h96 := h90.1 c98
                    refine z_aload_n C dX3_builds_63 0 rfl ?_
                    obtain ⟨c99, h100⟩ := h96
                    refine z_getR C rfl (zFdOf c99 zf_X3_16_18) dX3_builds_64 ?_
                    refine z_iconst (v := 0) C dX3_builds_67 (by decide) ?_
                    obtain ⟨a101, e102, h103⟩ := h100
                    obtain ⟨c104, h105⟩ := h103
                    obtain ⟨c106, h107⟩ := h105
                    refine z_iald C e102 c104 c106 dX3_builds_68 ?_
                    refine z_istore (lv' := [(4, tI (zA μ87 a101 0)), (0, tR (some this)), (1, tI x1), (2, tI x2), (3, tI x3)]) C dX3_builds_69 (by decide) rfl ?_
                    refine Z.sub [1, 2, 3, 4, 0] rfl ?_
                    exact h107
                  · have h97 := h90.2 c98
                    refine z_aload_n C dX3_builds_57 0 rfl ?_
                    refine z_iconst (v := (nI 3)) C dX3_builds_58 (by decide) ?_
                    obtain ⟨c108, h109⟩ := h97
                    refine Z.kk fun c118 c119 => ?_
                    have k117 := h109
                    refine z_callV (as := [tI (nI 3)]) (rest := []) C k117 rfl rfl (by decide) c108 rfl q3698 q3700 qs62 q113 q3701 yd_X3_fail (by decide) (Nat.le_of_ble_eq_true rfl) dX3_builds_59 c118 c119 (zRet_i fun v110 μ111 h116 => ?_) (zThr_i fun _ _ z9 _ _ _ _ => z9.elim)
                    · refine Z.wm fun m115 => ?_
                      have h114 := h116 m115
                      exact z_ireturn C rfl rfl dX3_builds_62 h114
              · have h84 := h82.2 c85
                refine z_aload_n C dX3_builds_43 0 rfl ?_
                refine z_iconst (v := (nI 2)) C dX3_builds_44 (by decide) ?_
                refine Z.kk fun c138 c139 => ?_
                have k137 := h84
                refine z_callV (as := [tI (nI 2)]) (rest := []) C k137 rfl rfl (by decide) c74 rfl q3698 q3700 qs62 q113 q3701 yd_X3_fail (by decide) (Nat.le_of_ble_eq_true rfl) dX3_builds_45 c138 c139 (zRet_i fun v130 μ131 h136 => ?_) (zThr_i fun _ _ z9 _ _ _ _ => z9.elim)
                · refine Z.wm fun m135 => ?_
                  have h134 := h136 m135
                  exact z_ireturn C rfl rfl dX3_builds_48 h134
            · have h72 := h65.2 c73
              refine z_aload_n C dX3_builds_26 0 rfl ?_
              refine z_iconst (v := 1) C dX3_builds_27 (by decide) ?_
              obtain ⟨c145, h146⟩ := h72
              refine Z.kk fun c155 c156 => ?_
              have k154 := h146
              refine z_callV (as := [tI 1]) (rest := []) C k154 rfl rfl (by decide) c145 rfl q3698 q3700 qs62 q113 q3701 yd_X3_fail (by decide) (Nat.le_of_ble_eq_true rfl) dX3_builds_28 c155 c156 (zRet_i fun v147 μ148 h153 => ?_) (zThr_i fun _ _ z9 _ _ _ _ => z9.elim)
              · refine Z.wm fun m152 => ?_
                have h151 := h153 m152
                exact z_ireturn C rfl rfl dX3_builds_31 h151
set_option maxHeartbeats 4000000 in
theorem bk_X3_builds_71 {w : WT} {g : GT} {K : Out → Mem → Prop} {mc ms : Nat} {this : Nat} {x1 : Int32} {x2 : Int32} {x3 : Int32} {x4 : Int32}  {μ : Mem} {kc ks : Nat} (C : Cx_X3_builds w g) (h : zM w μ → (x4 ≤ 0 → B_X3_builds_135 w g K mc ms this x1 x2 x3 x4 μ kc ks) ∧ (¬ x4 ≤ 0 → zC μ this = 18 ∧ Tr_X3_at w this (x4 - (1 : Int32)) μ 0 0 (zKi (fun v6 μ7 => zM w μ7 → (v6 ≤ x1 → B_X3_builds_135 w g K mc ms this x1 x2 x3 x4 μ7 kc ks) ∧ (¬ v6 ≤ x1 → B_X3_builds_91 w g K mc ms this x1 x2 x3 x4 0 μ7 kc ks)) (fun q8 μ9 => False)))) : B_X3_builds_71 w g K mc ms this x1 x2 x3 x4 μ kc ks := by
  unfold Cx_X3_builds at C
  unfold B_X3_builds_71
  refine Z.wm fun m0 => ?_
  have h := h m0
  refine z_iload C dX3_builds_71 4 rfl ?_
  refine z_if_le C 135 dX3_builds_73 (by decide) (fun c3 => ?_) (fun c3 => ?_)
  · have h1 := h.1 c3
    refine Z.sub [0, 1, 2, 3, 4] rfl ?_
    exact h1
  · have h2 := h.2 c3
    refine z_aload_n C dX3_builds_76 0 rfl ?_
    refine z_iload C dX3_builds_77 4 rfl ?_
    refine z_iconst (v := 1) C dX3_builds_79 (by decide) ?_
    refine z_isub C dX3_builds_80 ?_
    obtain ⟨c4, h5⟩ := h2
    refine Z.kk fun c14 c15 => ?_
    have k13 := h5
    refine z_callV (as := [tI (x4 - (1 : Int32))]) (rest := []) C k13 rfl rfl (by decide) c4 rfl q3706 q3708 qs64 q113 q3709 yd_X3_at (by decide) (Nat.le_of_ble_eq_true rfl) dX3_builds_81 c14 c15 (zRet_i fun v6 μ7 h12 => ?_) (zThr_i fun _ _ z9 _ _ _ _ => z9.elim)
    · refine Z.wm fun m11 => ?_
      have h10 := h12 m11
      refine z_iload_n C dX3_builds_84 1 rfl ?_
      refine z_icmp_le C 135 dX3_builds_85 (by decide) (fun c18 => ?_) (fun c18 => ?_)
      · have h16 := h10.1 c18
        refine Z.sub [0, 1, 2, 3, 4] rfl ?_
        exact h16
      · have h17 := h10.2 c18
        refine z_iconst (v := 0) C dX3_builds_88 (by decide) ?_
        refine z_istore (lv' := [(5, tI 0), (0, tR (some this)), (1, tI x1), (2, tI x2), (3, tI x3), (4, tI x4)]) C dX3_builds_89 (by decide) rfl ?_
        refine Z.sub [1, 2, 3, 4, 5, 0] rfl ?_
        exact h17
set_option maxHeartbeats 4000000 in
theorem bk_X3_builds_91 {w : WT} {g : GT} {K : Out → Mem → Prop} {mc ms : Nat} {this : Nat} {x1 : Int32} {x2 : Int32} {x3 : Int32} {x4 : Int32} {x5 : Int32}  {μ : Mem} {kc ks : Nat} (C : Cx_X3_builds w g) (h : zM w μ → ((nI 4) ≤ x5 → B_X3_builds_71 w g K mc ms this x1 x2 x3 (x4 + (-1 : Int32)) μ kc ks) ∧ (¬ (nI 4) ≤ x5 → zC μ this = 18 ∧ Tr_X3_of w x4 x5 μ 0 0 (zKi (fun v6 μ7 => zM w μ7 → zC μ7 this = 18 ∧ Tr_X3_of w (x4 - (1 : Int32)) x5 μ7 0 0 (zKi (fun v18 μ19 => zM w μ19 → ∃ a28 : Nat, (zR μ7 63 this) = some a28 ∧ zC μ19 a28 = 101 ∧ vp_in v18 (zN μ19 a28) ∧ ∃ a35 : Nat, (zR μ 63 this) = some a35 ∧ zC μ19 a35 = 101 ∧ zB w ≤ a35 ∧ vp_in v6 (zN μ19 a35) ∧ ∀ μ44 : Mem, μ44 = zsA μ19 a35 v6.toNatClampNeg (zA μ19 a28 v18.toNatClampNeg) → B_X3_builds_91 w g K mc ms this x1 x2 x3 x4 (x5 + 1) μ44 kc ks) (fun q20 μ21 => False))) (fun q8 μ9 => False)))) : B_X3_builds_91 w g K mc ms this x1 x2 x3 x4 x5 μ kc ks := by
  unfold Cx_X3_builds at C
  unfold B_X3_builds_91
  refine Z.wm fun m0 => ?_
  have h := h m0
  refine z_iload C dX3_builds_91 5 rfl ?_
  refine z_iconst (v := (nI 4)) C dX3_builds_93 (by decide) ?_
  refine z_icmp_ge C 129 dX3_builds_94 (by decide) (fun c3 => ?_) (fun c3 => ?_)
  · have h1 := h.1 c3
    refine z_iinc (k0 := 4) (v := x4 + (-1 : Int32)) (lv' := [(4, tI (x4 + (-1 : Int32))), (0, tR (some this)), (1, tI x1), (2, tI x2), (3, tI x3), (5, tI x5)]) C dX3_builds_129 rfl (by first | rfl | decide) (by decide) rfl ?_
    refine z_goto C 71 dX3_builds_132 (by decide) ?_
    refine Z.sub [1, 2, 3, 4, 0] rfl ?_
    exact h1
  · have h2 := h.2 c3
    refine z_aload_n C dX3_builds_97 0 rfl ?_
    obtain ⟨c4, h5⟩ := h2
    refine z_getR C rfl (zFdOf c4 zf_X3_16_18) dX3_builds_98 ?_
    refine z_iload C dX3_builds_101 4 rfl ?_
    refine z_iload C dX3_builds_103 5 rfl ?_
    refine Z.kk fun c14 c15 => ?_
    have k13 := h5
    refine z_callS (as := [tI x4, tI x5]) (rest := [tR (zR μ 63 this)]) C k13 rfl q3710 q3711 q113 q3712 yd_X3_of (by decide) (Nat.le_of_ble_eq_true rfl) dX3_builds_105 c14 c15 (zRet_i fun v6 μ7 h12 => ?_) (zThr_i fun _ _ z9 _ _ _ _ => z9.elim)
    · refine Z.wm fun m11 => ?_
      have h10 := h12 m11
      refine z_aload_n C dX3_builds_108 0 rfl ?_
      obtain ⟨c16, h17⟩ := h10
      refine z_getR C rfl (zFdOf c16 zf_X3_16_18) dX3_builds_109 ?_
      refine z_iload C dX3_builds_112 4 rfl ?_
      refine z_iconst (v := 1) C dX3_builds_114 (by decide) ?_
      refine z_isub C dX3_builds_115 ?_
      refine z_iload C dX3_builds_116 5 rfl ?_
      refine Z.kk fun c26 c27 => ?_
      have k25 := h17
      refine z_callS (as := [tI (x4 - (1 : Int32)), tI x5]) (rest := [tR (zR μ7 63 this), tI v6, tR (zR μ 63 this)]) C k25 rfl q3710 q3711 q113 q3712 yd_X3_of (by decide) (Nat.le_of_ble_eq_true rfl) dX3_builds_118 c26 c27 (zRet_i fun v18 μ19 h24 => ?_) (zThr_i fun _ _ z9 _ _ _ _ => z9.elim)
      · refine Z.wm fun m23 => ?_
        have h22 := h24 m23
        obtain ⟨a28, e29, h30⟩ := h22
        obtain ⟨c31, h32⟩ := h30
        obtain ⟨c33, h34⟩ := h32
        refine z_iald C e29 c31 c33 dX3_builds_121 ?_
        obtain ⟨a35, e36, h37⟩ := h34
        obtain ⟨c38, h39⟩ := h37
        obtain ⟨c40, c41, h42⟩ := h39
        refine z_iast C e36 c38 c40 c41 dX3_builds_122 ?_
        refine Z.mem fun μ44 e45 => ?_
        have h43 := h42 μ44 e45
        have c46 : zC μ44 a28 = 101 := by rw [e45]; exact c31
        have c47 : zC μ44 a35 = 101 := by rw [e45]; exact c38
        refine z_iinc (k0 := 5) (v := x5 + 1) (lv' := [(5, tI (x5 + 1)), (0, tR (some this)), (1, tI x1), (2, tI x2), (3, tI x3), (4, tI x4)]) C dX3_builds_123 rfl (by first | rfl | decide) (by decide) rfl ?_
        refine z_goto C 91 dX3_builds_126 (by decide) ?_
        refine Z.sub [1, 2, 3, 4, 5, 0] rfl ?_
        exact h43
set_option maxHeartbeats 4000000 in
theorem bk_X3_builds_135 {w : WT} {g : GT} {K : Out → Mem → Prop} {mc ms : Nat} {this : Nat} {x1 : Int32} {x2 : Int32} {x3 : Int32} {x4 : Int32}  {μ : Mem} {kc ks : Nat} (C : Cx_X3_builds w g) (h : zM w μ → zC μ this = 18 ∧ Tr_X3_of w x4 0 μ 0 0 (zKi (fun v3 μ4 => zM w μ4 → ∃ a13 : Nat, (zR μ 63 this) = some a13 ∧ zC μ4 a13 = 101 ∧ zB w ≤ a13 ∧ vp_in v3 (zN μ4 a13) ∧ ∀ μ22 : Mem, μ22 = zsA μ4 a13 v3.toNatClampNeg x1 → zC μ22 this = 18 ∧ Tr_X3_of w x4 1 μ22 0 0 (zKi (fun v27 μ28 => zM w μ28 → ∃ a37 : Nat, (zR μ22 63 this) = some a37 ∧ zC μ28 a37 = 101 ∧ zB w ≤ a37 ∧ vp_in v27 (zN μ28 a37) ∧ ∀ μ46 : Mem, μ46 = zsA μ28 a37 v27.toNatClampNeg x2 → zC μ46 this = 18 ∧ Tr_X3_of w x4 (nI 2) μ46 0 0 (zKi (fun v51 μ52 => zM w μ52 → ∃ a61 : Nat, (zR μ46 63 this) = some a61 ∧ zC μ52 a61 = 101 ∧ zB w ≤ a61 ∧ vp_in v51 (zN μ52 a61) ∧ ∀ μ70 : Mem, μ70 = zsA μ52 a61 v51.toNatClampNeg x3 → zC μ70 this = 18 ∧ Tr_X3_of w x4 (nI 3) μ70 0 0 (zKi (fun v75 μ76 => zM w μ76 → ∃ a85 : Nat, (zR μ70 63 this) = some a85 ∧ zC μ76 a85 = 101 ∧ zB w ≤ a85 ∧ vp_in v75 (zN μ76 a85) ∧ ∀ μ94 : Mem, μ94 = zsA μ76 a85 v75.toNatClampNeg 0 → zC μ94 this = 18 ∧ ∃ a99 : Nat, (zR μ94 63 this) = some a99 ∧ zC μ94 a99 = 101 ∧ vp_in 0 (zN μ94 a99) ∧ zB w ≤ a99 ∧ vp_in 0 (zN μ94 a99) ∧ ∀ μ110 : Mem, μ110 = zsA μ94 a99 0 ((zA μ94 a99 0) + (1 : Int32)) → ∃ a115 : Nat, (zR μ110 63 this) = some a115 ∧ zC μ110 a115 = 101 ∧ vp_in (nI 4) (zN μ110 a115) ∧ zB w ≤ a115 ∧ vp_in (nI 4) (zN μ110 a115) ∧ ∀ μ126 : Mem, μ126 = zsA μ110 a115 4 ((zA μ110 a115 4) + (1 : Int32)) → ∃ a132 : Nat, (zR μ126 63 this) = some a132 ∧ zC μ126 a132 = 101 ∧ vp_in 0 (zN μ126 a132) ∧ K (.inl (some (tI (zA μ126 a132 0)))) μ126) (fun q77 μ78 => False))) (fun q53 μ54 => False))) (fun q29 μ30 => False))) (fun q5 μ6 => False))) : B_X3_builds_135 w g K mc ms this x1 x2 x3 x4 μ kc ks := by
  unfold Cx_X3_builds at C
  unfold B_X3_builds_135
  refine Z.wm fun m0 => ?_
  have h := h m0
  refine z_aload_n C dX3_builds_135 0 rfl ?_
  obtain ⟨c1, h2⟩ := h
  refine z_getR C rfl (zFdOf c1 zf_X3_16_18) dX3_builds_136 ?_
  refine z_iload C dX3_builds_139 4 rfl ?_
  refine z_iconst (v := 0) C dX3_builds_141 (by decide) ?_
  refine Z.kk fun c11 c12 => ?_
  have k10 := h2
  refine z_callS (as := [tI x4, tI 0]) (rest := [tR (zR μ 63 this)]) C k10 rfl q3710 q3711 q113 q3712 yd_X3_of (by decide) (Nat.le_of_ble_eq_true rfl) dX3_builds_142 c11 c12 (zRet_i fun v3 μ4 h9 => ?_) (zThr_i fun _ _ z9 _ _ _ _ => z9.elim)
  · refine Z.wm fun m8 => ?_
    have h7 := h9 m8
    refine z_iload_n C dX3_builds_145 1 rfl ?_
    obtain ⟨a13, e14, h15⟩ := h7
    obtain ⟨c16, h17⟩ := h15
    obtain ⟨c18, c19, h20⟩ := h17
    refine z_iast C e14 c16 c18 c19 dX3_builds_146 ?_
    refine Z.mem fun μ22 e23 => ?_
    have h21 := h20 μ22 e23
    have c24 : zC μ22 a13 = 101 := by rw [e23]; exact c16
    refine z_aload_n C dX3_builds_147 0 rfl ?_
    obtain ⟨c25, h26⟩ := h21
    refine z_getR C rfl (zFdOf c25 zf_X3_16_18) dX3_builds_148 ?_
    refine z_iload C dX3_builds_151 4 rfl ?_
    refine z_iconst (v := 1) C dX3_builds_153 (by decide) ?_
    refine Z.kk fun c35 c36 => ?_
    have k34 := h26
    refine z_callS (as := [tI x4, tI 1]) (rest := [tR (zR μ22 63 this)]) C k34 rfl q3710 q3711 q113 q3712 yd_X3_of (by decide) (Nat.le_of_ble_eq_true rfl) dX3_builds_154 c35 c36 (zRet_i fun v27 μ28 h33 => ?_) (zThr_i fun _ _ z9 _ _ _ _ => z9.elim)
    · refine Z.wm fun m32 => ?_
      have h31 := h33 m32
      refine z_iload_n C dX3_builds_157 2 rfl ?_
      obtain ⟨a37, e38, h39⟩ := h31
      obtain ⟨c40, h41⟩ := h39
      obtain ⟨c42, c43, h44⟩ := h41
      refine z_iast C e38 c40 c42 c43 dX3_builds_158 ?_
      refine Z.mem fun μ46 e47 => ?_
      have h45 := h44 μ46 e47
      have c48 : zC μ46 a37 = 101 := by rw [e47]; exact c40
      refine z_aload_n C dX3_builds_159 0 rfl ?_
      obtain ⟨c49, h50⟩ := h45
      refine z_getR C rfl (zFdOf c49 zf_X3_16_18) dX3_builds_160 ?_
      refine z_iload C dX3_builds_163 4 rfl ?_
      refine z_iconst (v := (nI 2)) C dX3_builds_165 (by decide) ?_
      refine Z.kk fun c59 c60 => ?_
      have k58 := h50
      refine z_callS (as := [tI x4, tI (nI 2)]) (rest := [tR (zR μ46 63 this)]) C k58 rfl q3710 q3711 q113 q3712 yd_X3_of (by decide) (Nat.le_of_ble_eq_true rfl) dX3_builds_166 c59 c60 (zRet_i fun v51 μ52 h57 => ?_) (zThr_i fun _ _ z9 _ _ _ _ => z9.elim)
      · refine Z.wm fun m56 => ?_
        have h55 := h57 m56
        refine z_iload_n C dX3_builds_169 3 rfl ?_
        obtain ⟨a61, e62, h63⟩ := h55
        obtain ⟨c64, h65⟩ := h63
        obtain ⟨c66, c67, h68⟩ := h65
        refine z_iast C e62 c64 c66 c67 dX3_builds_170 ?_
        refine Z.mem fun μ70 e71 => ?_
        have h69 := h68 μ70 e71
        have c72 : zC μ70 a61 = 101 := by rw [e71]; exact c64
        refine z_aload_n C dX3_builds_171 0 rfl ?_
        obtain ⟨c73, h74⟩ := h69
        refine z_getR C rfl (zFdOf c73 zf_X3_16_18) dX3_builds_172 ?_
        refine z_iload C dX3_builds_175 4 rfl ?_
        refine z_iconst (v := (nI 3)) C dX3_builds_177 (by decide) ?_
        refine Z.kk fun c83 c84 => ?_
        have k82 := h74
        refine z_callS (as := [tI x4, tI (nI 3)]) (rest := [tR (zR μ70 63 this)]) C k82 rfl q3710 q3711 q113 q3712 yd_X3_of (by decide) (Nat.le_of_ble_eq_true rfl) dX3_builds_178 c83 c84 (zRet_i fun v75 μ76 h81 => ?_) (zThr_i fun _ _ z9 _ _ _ _ => z9.elim)
        · refine Z.wm fun m80 => ?_
          have h79 := h81 m80
          refine z_iconst (v := 0) C dX3_builds_181 (by decide) ?_
          obtain ⟨a85, e86, h87⟩ := h79
          obtain ⟨c88, h89⟩ := h87
          obtain ⟨c90, c91, h92⟩ := h89
          refine z_iast C e86 c88 c90 c91 dX3_builds_182 ?_
          refine Z.mem fun μ94 e95 => ?_
          have h93 := h92 μ94 e95
          have c96 : zC μ94 a85 = 101 := by rw [e95]; exact c88
          refine z_aload_n C dX3_builds_183 0 rfl ?_
          obtain ⟨c97, h98⟩ := h93
          refine z_getR C rfl (zFdOf c97 zf_X3_16_18) dX3_builds_184 ?_
          refine z_iconst (v := 0) C dX3_builds_187 (by decide) ?_
          refine z_dup2 C dX3_builds_188 rfl rfl ?_
          obtain ⟨a99, e100, h101⟩ := h98
          obtain ⟨c102, h103⟩ := h101
          obtain ⟨c104, h105⟩ := h103
          refine z_iald C e100 c102 c104 dX3_builds_189 ?_
          refine z_iconst (v := 1) C dX3_builds_190 (by decide) ?_
          refine z_iadd C dX3_builds_191 ?_
          obtain ⟨c106, c107, h108⟩ := h105
          refine z_iast C e100 c102 c106 c107 dX3_builds_192 ?_
          refine Z.mem fun μ110 e111 => ?_
          have h109 := h108 μ110 e111
          have c112 : zC μ110 a85 = 101 := by rw [e111]; exact c96
          have c113 : zC μ110 this = 18 := by rw [e111]; exact c97
          have c114 : zC μ110 a99 = 101 := by rw [e111]; exact c102
          refine z_aload_n C dX3_builds_193 0 rfl ?_
          refine z_getR C rfl (zFdOf c113 zf_X3_16_18) dX3_builds_194 ?_
          refine z_iconst (v := (nI 4)) C dX3_builds_197 (by decide) ?_
          refine z_dup2 C dX3_builds_198 rfl rfl ?_
          obtain ⟨a115, e116, h117⟩ := h109
          obtain ⟨c118, h119⟩ := h117
          obtain ⟨c120, h121⟩ := h119
          refine z_iald C e116 c118 c120 dX3_builds_199 ?_
          refine z_iconst (v := 1) C dX3_builds_200 (by decide) ?_
          refine z_iadd C dX3_builds_201 ?_
          obtain ⟨c122, c123, h124⟩ := h121
          refine z_iast C e116 c118 c122 c123 dX3_builds_202 ?_
          refine Z.mem fun μ126 e127 => ?_
          have h125 := h124 μ126 e127
          have c128 : zC μ126 a85 = 101 := by rw [e127]; exact c112
          have c129 : zC μ126 this = 18 := by rw [e127]; exact c113
          have c130 : zC μ126 a99 = 101 := by rw [e127]; exact c114
          have c131 : zC μ126 a115 = 101 := by rw [e127]; exact c118
          refine z_aload_n C dX3_builds_203 0 rfl ?_
          refine z_getR C rfl (zFdOf c129 zf_X3_16_18) dX3_builds_204 ?_
          refine z_iconst (v := 0) C dX3_builds_207 (by decide) ?_
          obtain ⟨a132, e133, h134⟩ := h125
          obtain ⟨c135, h136⟩ := h134
          obtain ⟨c137, h138⟩ := h136
          refine z_iald C e133 c135 c137 dX3_builds_208 ?_
          exact z_ireturn C rfl rfl dX3_builds_209 h138
/-! HutRidgeModel.ends(I)I -/
def Tr_X3_ends (w : WT) (this : Nat) (x1 : Int32) (μ : Mem) (mc ms : Nat) (K : Out → Mem → Prop) : Prop := Tr w yX3_ends (ws_ yX3_ends cX3_ends 3 (Option.some Jvm.ClassFile.FieldType.int)) 2 62 [tR (some this), tI x1] μ mc ms K
def Cx_X3_ends (w : WT) (g : GT) : Prop := Cx w g yX3_ends cX3_ends 3 (Option.some Jvm.ClassFile.FieldType.int) [] 2 62
theorem yd_X3_ends : yX3_ends.cls ≠ "java/lang/invoke/MethodHandle" ∧ yX3_ends.cls ≠ "java/lang/invoke/VarHandle" ∧ (parseMethodDescriptor yX3_ends.desc).map (fun d => d.parameters.length) = some 1 := by decide +kernel
def B_X3_ends_31 (w : WT) (g : GT) (K : Out → Mem → Prop) (mc ms : Nat) (this : Nat) (x1 : Int32) (x2 : Int32)  (μ : Mem) (kc ks : Nat) : Prop := Z w g K mc ms 31 [(0, tR (some this)), (1, tI x1), (2, tI x2)] [] μ kc ks
def B_X3_ends_71 (w : WT) (g : GT) (K : Out → Mem → Prop) (mc ms : Nat) (this : Nat) (x1 : Int32) (x2 : Int32)  (μ : Mem) (kc ks : Nat) : Prop := Z w g K mc ms 71 [(0, tR (some this)), (1, tI x1), (2, tI x2)] [] μ kc ks
theorem zf_X3_63_18 : zFd RX3 63 58 false 18 := ⟨1, _, _, _, _, _, zk_18, rfl, Or.inl q3595, Or.inl rfl⟩
theorem zp_X3_63_18 {yy : MethodName} (hy : yy.cls = RX3) : zFp yy 63 58 false .int 18 := by obtain ⟨c0, n0, d0⟩ := yy; cases hy; exact ⟨1, _, _, _, _, _, zk_18, rfl, Or.inl q3595, Or.inl rfl, rfl, Or.inl rfl⟩
theorem zf_X3_26_18 : zFd RX3 26 66 true 18 := ⟨9, _, _, _, _, _, zk_18, rfl, Or.inl q3603, Or.inl rfl⟩
set_option maxHeartbeats 4000000 in
theorem tr_X3_ends {w : WT} {this : Nat} {x1 : Int32} {μ : Mem} {mc ms : Nat} {K : Out → Mem → Prop} (h : ∀ g : GT, Cx_X3_ends w g → zM w μ → zC μ this = 18 ∧ ((zI μ 57 this) = 0 → ((zI μ 58 this) ≠ (nI 8) → B_X3_ends_71 w g K mc ms this x1 0 μ 0 0) ∧ ((zI μ 58 this) = (nI 8) → B_X3_ends_31 w g K mc ms this x1 0 μ 0 0)) ∧ (¬ (zI μ 57 this) = 0 → Tr_X3_lays w (zR μ 63 this) (zR μ 64 this) μ 0 0 (zKv (fun μ10 => zM w μ10 → K (.inl (some (tI 0))) μ10) (fun q11 μ12 => False)))) : Tr_X3_ends w this x1 μ mc ms K := by
  refine Tr.of (by decide +kernel) (Nat.le_of_ble_eq_true rfl) (fun g C => ?_)
  show Z w g K mc ms 0 [(0, tR (some this)), (1, tI x1)] [] μ 0 0
  refine Z.wm fun m0 => ?_
  have h := h g C m0
  refine z_aload_n C dX3_ends_0 0 rfl ?_
  obtain ⟨c1, h2⟩ := h
  refine z_getI C rfl (zFdOf c1 zf_X3_56_18) dX3_ends_1 ?_
  refine z_if_eq C 20 dX3_ends_4 (by decide) (fun c5 => ?_) (fun c5 => ?_)
  · have h3 := h2.1 c5
    refine z_aload_n C dX3_ends_20 0 rfl ?_
    refine z_getI C rfl (zFdOf c1 zf_X3_63_18) dX3_ends_21 ?_
    refine z_bipush (v := (nI 8)) C dX3_ends_24 (by decide) ?_
    refine z_icmp_ne C 69 dX3_ends_26 (by decide) (fun c8 => ?_) (fun c8 => ?_)
    · have h6 := h3.1 c8
      refine z_iconst (v := 0) C dX3_ends_69 (by decide) ?_
      refine z_istore_n (lv' := [(2, tI 0), (0, tR (some this)), (1, tI x1)]) C dX3_ends_70 (by decide) rfl ?_
      refine Z.sub [1, 2, 0] rfl ?_
      exact h6
    · have h7 := h3.2 c8
      refine z_iconst (v := 0) C dX3_ends_29 (by decide) ?_
      refine z_istore_n (lv' := [(2, tI 0), (0, tR (some this)), (1, tI x1)]) C dX3_ends_30 (by decide) rfl ?_
      refine Z.sub [1, 2, 0] rfl ?_
      exact h7
  · have h4 := h2.2 c5
    refine z_aload_n C dX3_ends_7 0 rfl ?_
    refine z_getR C rfl (zFdOf c1 zf_X3_16_18) dX3_ends_8 ?_
    refine z_aload_n C dX3_ends_11 0 rfl ?_
    refine z_getR C rfl (zFdOf c1 zf_X3_20_18) dX3_ends_12 ?_
    refine Z.kk fun c17 c18 => ?_
    have k16 := h4
    refine z_callS (as := [tR (zR μ 63 this), tR (zR μ 64 this)]) (rest := []) C k16 rfl q3685 q3686 q113 q3687 yd_X3_lays (by decide) (Nat.le_of_ble_eq_true rfl) dX3_ends_15 c17 c18 (zRet_v fun μ10 h15 => ?_) (zThr_v fun _ _ z9 _ _ _ _ => z9.elim)
    · refine Z.wm fun m14 => ?_
      have h13 := h15 m14
      refine z_iconst (v := 0) C dX3_ends_18 (by decide) ?_
      exact z_ireturn C rfl rfl dX3_ends_19 h13
set_option maxHeartbeats 4000000 in
theorem bk_X3_ends_31 {w : WT} {g : GT} {K : Out → Mem → Prop} {mc ms : Nat} {this : Nat} {x1 : Int32} {x2 : Int32}  {μ : Mem} {kc ks : Nat} (C : Cx_X3_ends w g) (h : zM w μ → ((nI 658) ≤ x2 → zC μ this = 18 ∧ ∀ μ6 : Mem, μ6 = zsI μ 58 this ((zI μ 58 this) - (1 : Int32)) → B_X3_ends_71 w g K mc ms this x1 0 μ6 kc ks) ∧ (¬ (nI 658) ≤ x2 → zC μ this = 18 ∧ ∃ a12 : Nat, (zR μ 66 this) = some a12 ∧ zC μ a12 = 101 ∧ vp_in (x2 + (nI 94)) (zN μ a12) ∧ zB w ≤ a12 ∧ vp_in x2 (zN μ a12) ∧ ∀ μ23 : Mem, μ23 = zsA μ a12 x2.toNatClampNeg (zA μ a12 (x2 + (nI 94)).toNatClampNeg) → B_X3_ends_31 w g K mc ms this x1 (x2 + 1) μ23 kc ks)) : B_X3_ends_31 w g K mc ms this x1 x2 μ kc ks := by
  unfold Cx_X3_ends at C
  unfold B_X3_ends_31
  refine Z.wm fun m0 => ?_
  have h := h m0
  refine z_iload_n C dX3_ends_31 2 rfl ?_
  refine z_sipush (v := (nI 658)) C dX3_ends_32 (by decide) ?_
  refine z_icmp_ge C 59 dX3_ends_35 (by decide) (fun c3 => ?_) (fun c3 => ?_)
  · have h1 := h.1 c3
    refine z_aload_n C dX3_ends_59 0 rfl ?_
    refine z_dup C dX3_ends_60 rfl ?_
    obtain ⟨c4, h5⟩ := h1
    refine z_getI C rfl (zFdOf c4 zf_X3_63_18) dX3_ends_61 ?_
    refine z_iconst (v := 1) C dX3_ends_64 (by decide) ?_
    refine z_isub C dX3_ends_65 ?_
    refine z_putI C rfl (zFpOf c4 (zp_X3_63_18 rfl)) (Or.inl (zFzOf c4 rfl)) rfl rfl dX3_ends_66 ?_
    refine Z.mem fun μ6 e8 => ?_
    have h7 := h5 μ6 e8
    have c9 : zC μ6 this = 18 := by rw [e8]; exact c4
    refine z_iconst (v := 0) C dX3_ends_69 (by decide) ?_
    refine z_istore_n (lv' := [(2, tI 0), (0, tR (some this)), (1, tI x1)]) C dX3_ends_70 (by decide) rfl ?_
    refine Z.sub [1, 2, 0] rfl ?_
    exact h7
  · have h2 := h.2 c3
    refine z_aload_n C dX3_ends_38 0 rfl ?_
    obtain ⟨c10, h11⟩ := h2
    refine z_getR C rfl (zFdOf c10 zf_X3_26_18) dX3_ends_39 ?_
    refine z_iload_n C dX3_ends_42 2 rfl ?_
    refine z_aload_n C dX3_ends_43 0 rfl ?_
    refine z_getR C rfl (zFdOf c10 zf_X3_26_18) dX3_ends_44 ?_
    refine z_iload_n C dX3_ends_47 2 rfl ?_
    refine z_bipush (v := (nI 94)) C dX3_ends_48 (by decide) ?_
    refine z_iadd C dX3_ends_50 ?_
    obtain ⟨a12, e13, h14⟩ := h11
    obtain ⟨c15, h16⟩ := h14
    obtain ⟨c17, h18⟩ := h16
    refine z_iald C e13 c15 c17 dX3_ends_51 ?_
    obtain ⟨c19, c20, h21⟩ := h18
    refine z_iast C e13 c15 c19 c20 dX3_ends_52 ?_
    refine Z.mem fun μ23 e24 => ?_
    have h22 := h21 μ23 e24
    have c25 : zC μ23 this = 18 := by rw [e24]; exact c10
    have c26 : zC μ23 a12 = 101 := by rw [e24]; exact c15
    refine z_iinc (k0 := 2) (v := x2 + 1) (lv' := [(2, tI (x2 + 1)), (0, tR (some this)), (1, tI x1)]) C dX3_ends_53 rfl (by first | rfl | decide) (by decide) rfl ?_
    refine z_goto C 31 dX3_ends_56 (by decide) ?_
    refine Z.sub [1, 2, 0] rfl ?_
    exact h22
set_option maxHeartbeats 4000000 in
theorem bk_X3_ends_71 {w : WT} {g : GT} {K : Out → Mem → Prop} {mc ms : Nat} {this : Nat} {x1 : Int32} {x2 : Int32}  {μ : Mem} {kc ks : Nat} (C : Cx_X3_ends w g) (h : zM w μ → ((nI 94) ≤ x2 → zC μ this = 18 ∧ ∀ μ6 : Mem, μ6 = zsI μ 58 this ((zI μ 58 this) + (1 : Int32)) → K (.inl (some (tI x1))) μ6) ∧ (¬ (nI 94) ≤ x2 → zC μ this = 18 ∧ ∃ a12 : Nat, (zR μ 64 this) = some a12 ∧ zC μ a12 = 101 ∧ vp_in x2 (zN μ a12) ∧ ∃ a19 : Nat, (zR μ 66 this) = some a19 ∧ zC μ a19 = 101 ∧ zB w ≤ a19 ∧ vp_in (((zI μ 58 this) * (nI 94)) + x2) (zN μ a19) ∧ ∀ μ28 : Mem, μ28 = zsA μ a19 (((zI μ 58 this) * (nI 94)) + x2).toNatClampNeg (zA μ a12 x2.toNatClampNeg) → B_X3_ends_71 w g K mc ms this x1 (x2 + 1) μ28 kc ks)) : B_X3_ends_71 w g K mc ms this x1 x2 μ kc ks := by
  unfold Cx_X3_ends at C
  unfold B_X3_ends_71
  refine Z.wm fun m0 => ?_
  have h := h m0
  refine z_iload_n C dX3_ends_71 2 rfl ?_
  refine z_bipush (v := (nI 94)) C dX3_ends_72 (by decide) ?_
  refine z_icmp_ge C 103 dX3_ends_74 (by decide) (fun c3 => ?_) (fun c3 => ?_)
  · have h1 := h.1 c3
    refine z_aload_n C dX3_ends_103 0 rfl ?_
    refine z_dup C dX3_ends_104 rfl ?_
    obtain ⟨c4, h5⟩ := h1
    refine z_getI C rfl (zFdOf c4 zf_X3_63_18) dX3_ends_105 ?_
    refine z_iconst (v := 1) C dX3_ends_108 (by decide) ?_
    refine z_iadd C dX3_ends_109 ?_
    refine z_putI C rfl (zFpOf c4 (zp_X3_63_18 rfl)) (Or.inl (zFzOf c4 rfl)) rfl rfl dX3_ends_110 ?_
    refine Z.mem fun μ6 e8 => ?_
    have h7 := h5 μ6 e8
    have c9 : zC μ6 this = 18 := by rw [e8]; exact c4
    refine z_iload_n C dX3_ends_113 1 rfl ?_
    exact z_ireturn C rfl rfl dX3_ends_114 h7
  · have h2 := h.2 c3
    refine z_aload_n C dX3_ends_77 0 rfl ?_
    obtain ⟨c10, h11⟩ := h2
    refine z_getR C rfl (zFdOf c10 zf_X3_26_18) dX3_ends_78 ?_
    refine z_aload_n C dX3_ends_81 0 rfl ?_
    refine z_getI C rfl (zFdOf c10 zf_X3_63_18) dX3_ends_82 ?_
    refine z_bipush (v := (nI 94)) C dX3_ends_85 (by decide) ?_
    refine z_imul C dX3_ends_87 ?_
    refine z_iload_n C dX3_ends_88 2 rfl ?_
    refine z_iadd C dX3_ends_89 ?_
    refine z_aload_n C dX3_ends_90 0 rfl ?_
    refine z_getR C rfl (zFdOf c10 zf_X3_20_18) dX3_ends_91 ?_
    refine z_iload_n C dX3_ends_94 2 rfl ?_
    obtain ⟨a12, e13, h14⟩ := h11
    obtain ⟨c15, h16⟩ := h14
    obtain ⟨c17, h18⟩ := h16
    refine z_iald C e13 c15 c17 dX3_ends_95 ?_
    obtain ⟨a19, e20, h21⟩ := h18
    obtain ⟨c22, h23⟩ := h21
    obtain ⟨c24, c25, h26⟩ := h23
    refine z_iast C e20 c22 c24 c25 dX3_ends_96 ?_
    refine Z.mem fun μ28 e29 => ?_
    have h27 := h26 μ28 e29
    have c30 : zC μ28 this = 18 := by rw [e29]; exact c10
    have c31 : zC μ28 a12 = 101 := by rw [e29]; exact c15
    have c32 : zC μ28 a19 = 101 := by rw [e29]; exact c22
    refine z_iinc (k0 := 2) (v := x2 + 1) (lv' := [(2, tI (x2 + 1)), (0, tR (some this)), (1, tI x1)]) C dX3_ends_97 rfl (by first | rfl | decide) (by decide) rfl ?_
    refine z_goto C 71 dX3_ends_100 (by decide) ?_
    refine Z.sub [1, 2, 0] rfl ?_
    exact h27
/-! HutRidgeModel.buildHut(III)I -/
def Tr_X3_buildHut (w : WT) (this : Nat) (x1 : Int32) (x2 : Int32) (x3 : Int32) (μ : Mem) (mc ms : Nat) (K : Out → Mem → Prop) : Prop := Tr w yX3_buildHut (ws_ yX3_buildHut cX3_buildHut 4 (Option.some Jvm.ClassFile.FieldType.int)) 5 129 [tR (some this), tI x1, tI x2, tI x3] μ mc ms K
def Cx_X3_buildHut (w : WT) (g : GT) : Prop := Cx w g yX3_buildHut cX3_buildHut 4 (Option.some Jvm.ClassFile.FieldType.int) [] 5 129
theorem yd_X3_buildHut : yX3_buildHut.cls ≠ "java/lang/invoke/MethodHandle" ∧ yX3_buildHut.cls ≠ "java/lang/invoke/VarHandle" ∧ (parseMethodDescriptor yX3_buildHut.desc).map (fun d => d.parameters.length) = some 3 := by decide +kernel
set_option maxHeartbeats 4000000 in
theorem tr_X3_buildHut {w : WT} {this : Nat} {x1 : Int32} {x2 : Int32} {x3 : Int32} {μ : Mem} {mc ms : Nat} {K : Out → Mem → Prop} (h : zM w μ → zC μ this = 18 ∧ Tr_X3_begins w this μ 0 0 (zKv (fun μ4 => zM w μ4 → zC μ4 this = 18 ∧ Tr_X3_builds w this x1 x2 x3 μ4 0 0 (zKi (fun v15 μ16 => zM w μ16 → zC μ16 this = 18 ∧ Tr_X3_ends w this v15 μ16 0 0 (zKi (fun v27 μ28 => zM w μ28 → K (.inl (some (tI v27))) μ28) (fun q29 μ30 => False))) (fun q17 μ18 => False))) (fun q5 μ6 => False))) : Tr_X3_buildHut w this x1 x2 x3 μ mc ms K := by
  refine Tr.of (by decide +kernel) (Nat.le_of_ble_eq_true rfl) (fun g C => ?_)
  show Z w g K mc ms 0 [(0, tR (some this)), (1, tI x1), (2, tI x2), (3, tI x3)] [] μ 0 0
  refine Z.wm fun m0 => ?_
  have h := h m0
  refine z_aload_n C dX3_buildHut_0 0 rfl ?_
  obtain ⟨c1, h2⟩ := h
  refine Z.kk fun c11 c12 => ?_
  have k10 := h2
  refine z_callV (as := []) (rest := []) C k10 rfl rfl (by decide) c1 rfl q3681 q3683 qs60 q113 q3684 yd_X3_begins (by decide) (Nat.le_of_ble_eq_true rfl) dX3_buildHut_1 c11 c12 (zRet_v fun μ4 h9 => ?_) (zThr_v fun _ _ z9 _ _ _ _ => z9.elim)
  · refine Z.wm fun m8 => ?_
    have h7 := h9 m8
    refine z_aload_n C dX3_buildHut_4 0 rfl ?_
    refine z_aload_n C dX3_buildHut_5 0 rfl ?_
    refine z_iload_n C dX3_buildHut_6 1 rfl ?_
    refine z_iload_n C dX3_buildHut_7 2 rfl ?_
    refine z_iload_n C dX3_buildHut_8 3 rfl ?_
    obtain ⟨c13, h14⟩ := h7
    refine Z.kk fun c23 c24 => ?_
    have k22 := h14
    refine z_callV (as := [tI x1, tI x2, tI x3]) (rest := [tR (some this)]) C k22 rfl rfl (by decide) c13 rfl q3688 q3690 qs61 q113 q3691 yd_X3_builds (by decide) (Nat.le_of_ble_eq_true rfl) dX3_buildHut_9 c23 c24 (zRet_i fun v15 μ16 h21 => ?_) (zThr_i fun _ _ z9 _ _ _ _ => z9.elim)
    · refine Z.wm fun m20 => ?_
      have h19 := h21 m20
      obtain ⟨c25, h26⟩ := h19
      refine Z.kk fun c35 c36 => ?_
      have k34 := h26
      refine z_callV (as := [tI v15]) (rest := []) C k34 rfl rfl (by decide) c25 rfl q3713 q3715 qs65 q113 q3716 yd_X3_ends (by decide) (Nat.le_of_ble_eq_true rfl) dX3_buildHut_12 c35 c36 (zRet_i fun v27 μ28 h33 => ?_) (zThr_i fun _ _ z9 _ _ _ _ => z9.elim)
      · refine Z.wm fun m32 => ?_
        have h31 := h33 m32
        exact z_ireturn C rfl rfl dX3_buildHut_15 h31
/-! HutRidgeModel.tears(I)I -/
def Tr_X3_tears (w : WT) (this : Nat) (x1 : Int32) (μ : Mem) (mc ms : Nat) (K : Out → Mem → Prop) : Prop := Tr w yX3_tears (ws_ yX3_tears cX3_tears 4 (Option.some Jvm.ClassFile.FieldType.int)) 4 104 [tR (some this), tI x1] μ mc ms K
def Cx_X3_tears (w : WT) (g : GT) : Prop := Cx w g yX3_tears cX3_tears 4 (Option.some Jvm.ClassFile.FieldType.int) [] 4 104
theorem yd_X3_tears : yX3_tears.cls ≠ "java/lang/invoke/MethodHandle" ∧ yX3_tears.cls ≠ "java/lang/invoke/VarHandle" ∧ (parseMethodDescriptor yX3_tears.desc).map (fun d => d.parameters.length) = some 1 := by decide +kernel
def B_X3_tears_22 (w : WT) (g : GT) (K : Out → Mem → Prop) (mc ms : Nat) (this : Nat) (x3 : Int32)  (μ : Mem) (kc ks : Nat) : Prop := Z w g K mc ms 22 [(0, tR (some this)), (3, tI x3)] [] μ kc ks
set_option maxHeartbeats 4000000 in
theorem tr_X3_tears {w : WT} {this : Nat} {x1 : Int32} {μ : Mem} {mc ms : Nat} {K : Out → Mem → Prop} (h : ∀ g : GT, Cx_X3_tears w g → zM w μ → zC μ this = 18 ∧ Tr_X3_hut w this x1 μ 0 0 (zKi (fun v3 μ4 => zM w μ4 → (0 ≤ v3 → Tr_X3_of w v3 0 μ4 0 0 (zKi (fun v16 μ17 => zM w μ17 → B_X3_tears_22 w g K mc ms this v16 μ17 0 0) (fun q18 μ19 => False))) ∧ (¬ 0 ≤ v3 → zC μ4 this = 18 ∧ Tr_X3_fail w this 1 μ4 0 0 (zKi (fun v33 μ34 => zM w μ34 → K (.inl (some (tI v33))) μ34) (fun q35 μ36 => False)))) (fun q5 μ6 => False))) : Tr_X3_tears w this x1 μ mc ms K := by
  refine Tr.of (by decide +kernel) (Nat.le_of_ble_eq_true rfl) (fun g C => ?_)
  show Z w g K mc ms 0 [(0, tR (some this)), (1, tI x1)] [] μ 0 0
  refine Z.wm fun m0 => ?_
  have h := h g C m0
  refine z_aload_n C dX3_tears_0 0 rfl ?_
  refine z_iload_n C dX3_tears_1 1 rfl ?_
  obtain ⟨c1, h2⟩ := h
  refine Z.kk fun c11 c12 => ?_
  have k10 := h2
  refine z_callV (as := [tI x1]) (rest := []) C k10 rfl rfl (by decide) c1 rfl q3702 q3704 qs63 q113 q3705 yd_X3_hut (by decide) (Nat.le_of_ble_eq_true rfl) dX3_tears_2 c11 c12 (zRet_i fun v3 μ4 h9 => ?_) (zThr_i fun _ _ z9 _ _ _ _ => z9.elim)
  · refine Z.wm fun m8 => ?_
    have h7 := h9 m8
    refine z_istore_n (lv' := [(2, tI v3), (0, tR (some this)), (1, tI x1)]) C dX3_tears_5 (by decide) rfl ?_
    refine z_iload_n C dX3_tears_6 0 rfl ?_
    refine z_if_ge C 16 dX3_tears_7 (by decide) (fun c15 => ?_) (fun c15 => ?_)
    · have h13 := h7.1 c15
      refine z_iload_n C dX3_tears_16 0 rfl ?_
      refine z_iconst (v := 0) C dX3_tears_17 (by decide) ?_
      refine Z.kk fun c24 c25 => ?_
      have k23 := h13
      refine z_callS (as := [tI v3, tI 0]) (rest := []) C k23 rfl q3710 q3711 q113 q3712 yd_X3_of (by decide) (Nat.le_of_ble_eq_true rfl) dX3_tears_18 c24 c25 (zRet_i fun v16 μ17 h22 => ?_) (zThr_i fun _ _ z9 _ _ _ _ => z9.elim)
      · refine Z.wm fun m21 => ?_
        have h20 := h22 m21
        refine z_istore_n (lv' := [(3, tI v16), (2, tI v3), (0, tR (some this)), (1, tI x1)]) C dX3_tears_21 (by decide) rfl ?_
        refine Z.sub [2, 0] rfl ?_
        exact h20
    · have h14 := h7.2 c15
      refine z_aload_n C dX3_tears_10 1 rfl ?_
      refine z_iconst (v := 1) C dX3_tears_11 (by decide) ?_
      obtain ⟨c31, h32⟩ := h14
      refine Z.kk fun c41 c42 => ?_
      have k40 := h32
      refine z_callV (as := [tI 1]) (rest := []) C k40 rfl rfl (by decide) c31 rfl q3698 q3700 qs62 q113 q3701 yd_X3_fail (by decide) (Nat.le_of_ble_eq_true rfl) dX3_tears_12 c41 c42 (zRet_i fun v33 μ34 h39 => ?_) (zThr_i fun _ _ z9 _ _ _ _ => z9.elim)
      · refine Z.wm fun m38 => ?_
        have h37 := h39 m38
        exact z_ireturn C rfl rfl dX3_tears_15 h37
set_option maxHeartbeats 4000000 in
theorem bk_X3_tears_22 {w : WT} {g : GT} {K : Out → Mem → Prop} {mc ms : Nat} {this : Nat} {x3 : Int32}  {μ : Mem} {kc ks : Nat} (C : Cx_X3_tears w g) (h : zM w μ → ((nI 70) ≤ x3 → zC μ this = 18 ∧ ∃ a6 : Nat, (zR μ 63 this) = some a6 ∧ zC μ a6 = 101 ∧ vp_in 0 (zN μ a6) ∧ zB w ≤ a6 ∧ vp_in 0 (zN μ a6) ∧ ∀ μ17 : Mem, μ17 = zsA μ a6 0 ((zA μ a6 0) - (1 : Int32)) → ∃ a21 : Nat, (zR μ17 63 this) = some a21 ∧ zC μ17 a21 = 101 ∧ vp_in (nI 5) (zN μ17 a21) ∧ zB w ≤ a21 ∧ vp_in (nI 5) (zN μ17 a21) ∧ ∀ μ32 : Mem, μ32 = zsA μ17 a21 5 ((zA μ17 a21 5) + (1 : Int32)) → ∃ a37 : Nat, (zR μ32 63 this) = some a37 ∧ zC μ32 a37 = 101 ∧ vp_in 0 (zN μ32 a37) ∧ K (.inl (some (tI (zA μ32 a37 0)))) μ32) ∧ (¬ (nI 70) ≤ x3 → zC μ this = 18 ∧ ((nI 70) ≤ (x3 + (nI 4)) → ∃ a49 : Nat, (zR μ 63 this) = some a49 ∧ zC μ a49 = 101 ∧ zB w ≤ a49 ∧ vp_in x3 (zN μ a49) ∧ ∀ μ58 : Mem, μ58 = zsA μ a49 x3.toNatClampNeg 0 → B_X3_tears_22 w g K mc ms this (x3 + 1) μ58 kc ks) ∧ (¬ (nI 70) ≤ (x3 + (nI 4)) → ∃ a62 : Nat, (zR μ 63 this) = some a62 ∧ zC μ a62 = 101 ∧ vp_in (x3 + (nI 4)) (zN μ a62) ∧ zB w ≤ a62 ∧ vp_in x3 (zN μ a62) ∧ ∀ μ73 : Mem, μ73 = zsA μ a62 x3.toNatClampNeg (zA μ a62 (x3 + (nI 4)).toNatClampNeg) → B_X3_tears_22 w g K mc ms this (x3 + 1) μ73 kc ks))) : B_X3_tears_22 w g K mc ms this x3 μ kc ks := by
  unfold Cx_X3_tears at C
  unfold B_X3_tears_22
  refine Z.wm fun m0 => ?_
  have h := h m0
  refine z_iload_n C dX3_tears_22 1 rfl ?_
  refine z_bipush (v := (nI 70)) C dX3_tears_23 (by decide) ?_
  refine z_icmp_ge C 60 dX3_tears_25 (by decide) (fun c3 => ?_) (fun c3 => ?_)
  · have h1 := h.1 c3
    refine z_aload_n C dX3_tears_60 0 rfl ?_
    obtain ⟨c4, h5⟩ := h1
    refine z_getR C rfl (zFdOf c4 zf_X3_16_18) dX3_tears_61 ?_
    refine z_iconst (v := 0) C dX3_tears_64 (by decide) ?_
    refine z_dup2 C dX3_tears_65 rfl rfl ?_
    obtain ⟨a6, e7, h8⟩ := h5
    obtain ⟨c9, h10⟩ := h8
    obtain ⟨c11, h12⟩ := h10
    refine z_iald C e7 c9 c11 dX3_tears_66 ?_
    refine z_iconst (v := 1) C dX3_tears_67 (by decide) ?_
    refine z_isub C dX3_tears_68 ?_
    obtain ⟨c13, c14, h15⟩ := h12
    refine z_iast C e7 c9 c13 c14 dX3_tears_69 ?_
    refine Z.mem fun μ17 e18 => ?_
    have h16 := h15 μ17 e18
    have c19 : zC μ17 this = 18 := by rw [e18]; exact c4
    have c20 : zC μ17 a6 = 101 := by rw [e18]; exact c9
    refine z_aload_n C dX3_tears_70 0 rfl ?_
    refine z_getR C rfl (zFdOf c19 zf_X3_16_18) dX3_tears_71 ?_
    refine z_iconst (v := (nI 5)) C dX3_tears_74 (by decide) ?_
    refine z_dup2 C dX3_tears_75 rfl rfl ?_
    obtain ⟨a21, e22, h23⟩ := h16
    obtain ⟨c24, h25⟩ := h23
    obtain ⟨c26, h27⟩ := h25
    refine z_iald C e22 c24 c26 dX3_tears_76 ?_
    refine z_iconst (v := 1) C dX3_tears_77 (by decide) ?_
    refine z_iadd C dX3_tears_78 ?_
    obtain ⟨c28, c29, h30⟩ := h27
    refine z_iast C e22 c24 c28 c29 dX3_tears_79 ?_
    refine Z.mem fun μ32 e33 => ?_
    have h31 := h30 μ32 e33
    have c34 : zC μ32 this = 18 := by rw [e33]; exact c19
    have c35 : zC μ32 a6 = 101 := by rw [e33]; exact c20
    have c36 : zC μ32 a21 = 101 := by rw [e33]; exact c24
    refine z_aload_n C dX3_tears_80 0 rfl ?_
    refine z_getR C rfl (zFdOf c34 zf_X3_16_18) dX3_tears_81 ?_
    refine z_iconst (v := 0) C dX3_tears_84 (by decide) ?_
    obtain ⟨a37, e38, h39⟩ := h31
    obtain ⟨c40, h41⟩ := h39
    obtain ⟨c42, h43⟩ := h41
    refine z_iald C e38 c40 c42 dX3_tears_85 ?_
    exact z_ireturn C rfl rfl dX3_tears_86 h43
  · have h2 := h.2 c3
    refine z_aload_n C dX3_tears_28 0 rfl ?_
    obtain ⟨c44, h45⟩ := h2
    refine z_getR C rfl (zFdOf c44 zf_X3_16_18) dX3_tears_29 ?_
    refine z_iload_n C dX3_tears_32 1 rfl ?_
    refine z_iload_n C dX3_tears_33 1 rfl ?_
    refine z_iconst (v := (nI 4)) C dX3_tears_34 (by decide) ?_
    refine z_iadd C dX3_tears_35 ?_
    refine z_bipush (v := (nI 70)) C dX3_tears_36 (by decide) ?_
    refine z_icmp_ge C 52 dX3_tears_38 (by decide) (fun c48 => ?_) (fun c48 => ?_)
    · have h46 := h45.1 c48
      refine z_iconst (v := 0) C dX3_tears_52 (by decide) ?_
      obtain ⟨a49, e50, h51⟩ := h46
      obtain ⟨c52, h53⟩ := h51
      obtain ⟨c54, c55, h56⟩ := h53
      refine z_iast C e50 c52 c54 c55 dX3_tears_53 ?_
      refine Z.mem fun μ58 e59 => ?_
      have h57 := h56 μ58 e59
      have c60 : zC μ58 this = 18 := by rw [e59]; exact c44
      have c61 : zC μ58 a49 = 101 := by rw [e59]; exact c52
      refine z_iinc (k0 := 1) (v := x3 + 1) (lv' := [(3, tI (x3 + 1)), (0, tR (some this))]) C dX3_tears_54 rfl (by first | rfl | decide) (by decide) rfl ?_
      refine z_goto C 22 dX3_tears_57 (by decide) ?_
      refine Z.sub [1, 0] rfl ?_
      exact h57
    · have h47 := h45.2 c48
      refine z_aload_n C dX3_tears_41 0 rfl ?_
      refine z_getR C rfl (zFdOf c44 zf_X3_16_18) dX3_tears_42 ?_
      refine z_iload_n C dX3_tears_45 1 rfl ?_
      refine z_iconst (v := (nI 4)) C dX3_tears_46 (by decide) ?_
      refine z_iadd C dX3_tears_47 ?_
      obtain ⟨a62, e63, h64⟩ := h47
      obtain ⟨c65, h66⟩ := h64
      obtain ⟨c67, h68⟩ := h66
      refine z_iald C e63 c65 c67 dX3_tears_48 ?_
      refine z_goto C 53 dX3_tears_49 (by decide) ?_
      obtain ⟨c69, c70, h71⟩ := h68
      refine z_iast C e63 c65 c69 c70 dX3_tears_53 ?_
      refine Z.mem fun μ73 e74 => ?_
      have h72 := h71 μ73 e74
      have c75 : zC μ73 this = 18 := by rw [e74]; exact c44
      have c76 : zC μ73 a62 = 101 := by rw [e74]; exact c65
      refine z_iinc (k0 := 1) (v := x3 + 1) (lv' := [(3, tI (x3 + 1)), (0, tR (some this))]) C dX3_tears_54 rfl (by first | rfl | decide) (by decide) rfl ?_
      refine z_goto C 22 dX3_tears_57 (by decide) ?_
      refine Z.sub [1, 0] rfl ?_
      exact h72
/-! HutRidgeModel.removeHut(I)I -/
def Tr_X3_removeHut (w : WT) (this : Nat) (x1 : Int32) (μ : Mem) (mc ms : Nat) (K : Out → Mem → Prop) : Prop := Tr w yX3_removeHut (ws_ yX3_removeHut cX3_removeHut 2 (Option.some Jvm.ClassFile.FieldType.int)) 5 127 [tR (some this), tI x1] μ mc ms K
def Cx_X3_removeHut (w : WT) (g : GT) : Prop := Cx w g yX3_removeHut cX3_removeHut 2 (Option.some Jvm.ClassFile.FieldType.int) [] 5 127
theorem yd_X3_removeHut : yX3_removeHut.cls ≠ "java/lang/invoke/MethodHandle" ∧ yX3_removeHut.cls ≠ "java/lang/invoke/VarHandle" ∧ (parseMethodDescriptor yX3_removeHut.desc).map (fun d => d.parameters.length) = some 1 := by decide +kernel
set_option maxHeartbeats 4000000 in
theorem tr_X3_removeHut {w : WT} {this : Nat} {x1 : Int32} {μ : Mem} {mc ms : Nat} {K : Out → Mem → Prop} (h : zM w μ → zC μ this = 18 ∧ Tr_X3_begins w this μ 0 0 (zKv (fun μ4 => zM w μ4 → zC μ4 this = 18 ∧ Tr_X3_tears w this x1 μ4 0 0 (zKi (fun v15 μ16 => zM w μ16 → zC μ16 this = 18 ∧ Tr_X3_ends w this v15 μ16 0 0 (zKi (fun v27 μ28 => zM w μ28 → K (.inl (some (tI v27))) μ28) (fun q29 μ30 => False))) (fun q17 μ18 => False))) (fun q5 μ6 => False))) : Tr_X3_removeHut w this x1 μ mc ms K := by
  refine Tr.of (by decide +kernel) (Nat.le_of_ble_eq_true rfl) (fun g C => ?_)
  show Z w g K mc ms 0 [(0, tR (some this)), (1, tI x1)] [] μ 0 0
  refine Z.wm fun m0 => ?_
  have h := h m0
  refine z_aload_n C dX3_removeHut_0 0 rfl ?_
  obtain ⟨c1, h2⟩ := h
  refine Z.kk fun c11 c12 => ?_
  have k10 := h2
  refine z_callV (as := []) (rest := []) C k10 rfl rfl (by decide) c1 rfl q3681 q3683 qs60 q113 q3684 yd_X3_begins (by decide) (Nat.le_of_ble_eq_true rfl) dX3_removeHut_1 c11 c12 (zRet_v fun μ4 h9 => ?_) (zThr_v fun _ _ z9 _ _ _ _ => z9.elim)
  · refine Z.wm fun m8 => ?_
    have h7 := h9 m8
    refine z_aload_n C dX3_removeHut_4 0 rfl ?_
    refine z_aload_n C dX3_removeHut_5 0 rfl ?_
    refine z_iload_n C dX3_removeHut_6 1 rfl ?_
    obtain ⟨c13, h14⟩ := h7
    refine Z.kk fun c23 c24 => ?_
    have k22 := h14
    refine z_callV (as := [tI x1]) (rest := [tR (some this)]) C k22 rfl rfl (by decide) c13 rfl q3721 q3723 qs66 q113 q3724 yd_X3_tears (by decide) (Nat.le_of_ble_eq_true rfl) dX3_removeHut_7 c23 c24 (zRet_i fun v15 μ16 h21 => ?_) (zThr_i fun _ _ z9 _ _ _ _ => z9.elim)
    · refine Z.wm fun m20 => ?_
      have h19 := h21 m20
      obtain ⟨c25, h26⟩ := h19
      refine Z.kk fun c35 c36 => ?_
      have k34 := h26
      refine z_callV (as := [tI v15]) (rest := []) C k34 rfl rfl (by decide) c25 rfl q3713 q3715 qs65 q113 q3716 yd_X3_ends (by decide) (Nat.le_of_ble_eq_true rfl) dX3_removeHut_10 c35 c36 (zRet_i fun v27 μ28 h33 => ?_) (zThr_i fun _ _ z9 _ _ _ _ => z9.elim)
      · refine Z.wm fun m32 => ?_
        have h31 := h33 m32
        exact z_ireturn C rfl rfl dX3_removeHut_13 h31
/-! HutRidgeModel.level(I)I -/
def Tr_X3_level (w : WT) (this : Nat) (x1 : Int32) (μ : Mem) (mc ms : Nat) (K : Out → Mem → Prop) : Prop := Tr w yX3_level (ws_ yX3_level cX3_level 2 (Option.some Jvm.ClassFile.FieldType.int)) 2 61 [tR (some this), tI x1] μ mc ms K
def Cx_X3_level (w : WT) (g : GT) : Prop := Cx w g yX3_level cX3_level 2 (Option.some Jvm.ClassFile.FieldType.int) [] 2 61
theorem yd_X3_level : yX3_level.cls ≠ "java/lang/invoke/MethodHandle" ∧ yX3_level.cls ≠ "java/lang/invoke/VarHandle" ∧ (parseMethodDescriptor yX3_level.desc).map (fun d => d.parameters.length) = some 1 := by decide +kernel
set_option maxHeartbeats 4000000 in
theorem tr_X3_level {w : WT} {this : Nat} {x1 : Int32} {μ : Mem} {mc ms : Nat} {K : Out → Mem → Prop} (h : zM w μ → zC μ this = 18 ∧ Tr_X3_of w x1 1 μ 0 0 (zKi (fun v3 μ4 => zM w μ4 → ∃ a13 : Nat, (zR μ 63 this) = some a13 ∧ zC μ4 a13 = 101 ∧ vp_in v3 (zN μ4 a13) ∧ K (.inl (some (tI (zA μ4 a13 v3.toNatClampNeg)))) μ4) (fun q5 μ6 => False))) : Tr_X3_level w this x1 μ mc ms K := by
  refine Tr.of (by decide +kernel) (Nat.le_of_ble_eq_true rfl) (fun g C => ?_)
  show Z w g K mc ms 0 [(0, tR (some this)), (1, tI x1)] [] μ 0 0
  refine Z.wm fun m0 => ?_
  have h := h m0
  refine z_aload_n C dX3_level_0 0 rfl ?_
  obtain ⟨c1, h2⟩ := h
  refine z_getR C rfl (zFdOf c1 zf_X3_16_18) dX3_level_1 ?_
  refine z_iload_n C dX3_level_4 1 rfl ?_
  refine z_iconst (v := 1) C dX3_level_5 (by decide) ?_
  refine Z.kk fun c11 c12 => ?_
  have k10 := h2
  refine z_callS (as := [tI x1, tI 1]) (rest := [tR (zR μ 63 this)]) C k10 rfl q3710 q3711 q113 q3712 yd_X3_of (by decide) (Nat.le_of_ble_eq_true rfl) dX3_level_6 c11 c12 (zRet_i fun v3 μ4 h9 => ?_) (zThr_i fun _ _ z9 _ _ _ _ => z9.elim)
  · refine Z.wm fun m8 => ?_
    have h7 := h9 m8
    obtain ⟨a13, e14, h15⟩ := h7
    obtain ⟨c16, h17⟩ := h15
    obtain ⟨c18, h19⟩ := h17
    refine z_iald C e14 c16 c18 dX3_level_9 ?_
    exact z_ireturn C rfl rfl dX3_level_10 h19
/-! HutRidgeModel.levels(II)I -/
def Tr_X3_levels (w : WT) (this : Nat) (x1 : Int32) (x2 : Int32) (μ : Mem) (mc ms : Nat) (K : Out → Mem → Prop) : Prop := Tr w yX3_levels (ws_ yX3_levels cX3_levels 5 (Option.some Jvm.ClassFile.FieldType.int)) 4 104 [tR (some this), tI x1, tI x2] μ mc ms K
def Cx_X3_levels (w : WT) (g : GT) : Prop := Cx w g yX3_levels cX3_levels 5 (Option.some Jvm.ClassFile.FieldType.int) [] 4 104
theorem yd_X3_levels : yX3_levels.cls ≠ "java/lang/invoke/MethodHandle" ∧ yX3_levels.cls ≠ "java/lang/invoke/VarHandle" ∧ (parseMethodDescriptor yX3_levels.desc).map (fun d => d.parameters.length) = some 2 := by decide +kernel
set_option maxHeartbeats 4000000 in
theorem tr_X3_levels {w : WT} {this : Nat} {x1 : Int32} {x2 : Int32} {μ : Mem} {mc ms : Nat} {K : Out → Mem → Prop} (h : zM w μ → zC μ this = 18 ∧ Tr_X3_hut w this x1 μ 0 0 (zKi (fun v3 μ4 => zM w μ4 → (0 ≤ v3 → Tr_X3_isLevel w x2 μ4 0 0 (zKi (fun v16 μ17 => zM w μ17 → (v16 ≠ 0 → zC μ17 this = 18 ∧ Tr_X3_level w this v3 μ17 0 0 (zKi (fun v31 μ32 => zM w μ32 → zC μ32 this = 18 ∧ Tr_X3_of w v3 1 μ32 0 0 (zKi (fun v43 μ44 => zM w μ44 → ∃ a53 : Nat, (zR μ32 63 this) = some a53 ∧ zC μ44 a53 = 101 ∧ zB w ≤ a53 ∧ vp_in v43 (zN μ44 a53) ∧ ∀ μ62 : Mem, μ62 = zsA μ44 a53 v43.toNatClampNeg x2 → zC μ62 this = 18 ∧ Tr_X3_of w v3 (nI 3) μ62 0 0 (zKi (fun v67 μ68 => zM w μ68 → ∃ a77 : Nat, (zR μ62 63 this) = some a77 ∧ zC μ68 a77 = 101 ∧ vp_in v67 (zN μ68 a77) ∧ zB w ≤ a77 ∧ vp_in v67 (zN μ68 a77) ∧ ∀ μ88 : Mem, μ88 = zsA μ68 a77 v67.toNatClampNeg ((zA μ68 a77 v67.toNatClampNeg) &&& (((nI 2) <<< (x2 &&& 31)) - (1 : Int32))) → K (.inl (some (tI v31))) μ88) (fun q69 μ70 => False))) (fun q45 μ46 => False))) (fun q33 μ34 => False))) ∧ (v16 = 0 → zC μ17 this = 18 ∧ Tr_X3_fail w this (nI 2) μ17 0 0 (zKi (fun v108 μ109 => zM w μ109 → K (.inl (some (tI v108))) μ109) (fun q110 μ111 => False)))) (fun q18 μ19 => False))) ∧ (¬ 0 ≤ v3 → zC μ4 this = 18 ∧ Tr_X3_fail w this 1 μ4 0 0 (zKi (fun v130 μ131 => zM w μ131 → K (.inl (some (tI v130))) μ131) (fun q132 μ133 => False)))) (fun q5 μ6 => False))) : Tr_X3_levels w this x1 x2 μ mc ms K := by
  refine Tr.of (by decide +kernel) (Nat.le_of_ble_eq_true rfl) (fun g C => ?_)
  show Z w g K mc ms 0 [(0, tR (some this)), (1, tI x1), (2, tI x2)] [] μ 0 0
  refine Z.wm fun m0 => ?_
  have h := h m0
  refine z_aload_n C dX3_levels_0 0 rfl ?_
  refine z_iload_n C dX3_levels_1 1 rfl ?_
  obtain ⟨c1, h2⟩ := h
  refine Z.kk fun c11 c12 => ?_
  have k10 := h2
  refine z_callV (as := [tI x1]) (rest := []) C k10 rfl rfl (by decide) c1 rfl q3702 q3704 qs63 q113 q3705 yd_X3_hut (by decide) (Nat.le_of_ble_eq_true rfl) dX3_levels_2 c11 c12 (zRet_i fun v3 μ4 h9 => ?_) (zThr_i fun _ _ z9 _ _ _ _ => z9.elim)
  · refine Z.wm fun m8 => ?_
    have h7 := h9 m8
    refine z_istore_n (lv' := [(3, tI v3), (0, tR (some this)), (1, tI x1), (2, tI x2)]) C dX3_levels_5 (by decide) rfl ?_
    refine z_iload_n C dX3_levels_6 0 rfl ?_
    refine z_if_ge C 16 dX3_levels_7 (by decide) (fun c15 => ?_) (fun c15 => ?_)
    · have h13 := h7.1 c15
      refine z_iload_n C dX3_levels_16 3 rfl ?_
      refine Z.kk fun c24 c25 => ?_
      have k23 := h13
      refine z_callS (as := [tI x2]) (rest := []) C k23 rfl q3695 q3696 q113 q3697 yd_X3_isLevel (by decide) (Nat.le_of_ble_eq_true rfl) dX3_levels_17 c24 c25 (zRet_i fun v16 μ17 h22 => ?_) (zThr_i fun _ _ z9 _ _ _ _ => z9.elim)
      · refine Z.wm fun m21 => ?_
        have h20 := h22 m21
        refine z_if_ne C 29 dX3_levels_20 (by decide) (fun c28 => ?_) (fun c28 => ?_)
        · have h26 := h20.1 c28
          refine z_aload_n C dX3_levels_29 1 rfl ?_
          refine z_iload_n C dX3_levels_30 0 rfl ?_
          obtain ⟨c29, h30⟩ := h26
          refine Z.kk fun c39 c40 => ?_
          have k38 := h30
          refine z_callV (as := [tI v3]) (rest := []) C k38 rfl rfl (by decide) c29 rfl q3733 q3735 qs68 q113 q3736 yd_X3_level (by decide) (Nat.le_of_ble_eq_true rfl) dX3_levels_31 c39 c40 (zRet_i fun v31 μ32 h37 => ?_) (zThr_i fun _ _ z9 _ _ _ _ => z9.elim)
          · refine Z.wm fun m36 => ?_
            have h35 := h37 m36
            refine z_istore (lv' := [(4, tI v31), (3, tI v3), (0, tR (some this)), (1, tI x1), (2, tI x2)]) C dX3_levels_34 (by decide) rfl ?_
            refine z_aload_n C dX3_levels_36 2 rfl ?_
            obtain ⟨c41, h42⟩ := h35
            refine z_getR C rfl (zFdOf c41 zf_X3_16_18) dX3_levels_37 ?_
            refine z_iload_n C dX3_levels_40 1 rfl ?_
            refine z_iconst (v := 1) C dX3_levels_41 (by decide) ?_
            refine Z.kk fun c51 c52 => ?_
            have k50 := h42
            refine z_callS (as := [tI v3, tI 1]) (rest := [tR (zR μ32 63 this)]) C k50 rfl q3710 q3711 q113 q3712 yd_X3_of (by decide) (Nat.le_of_ble_eq_true rfl) dX3_levels_42 c51 c52 (zRet_i fun v43 μ44 h49 => ?_) (zThr_i fun _ _ z9 _ _ _ _ => z9.elim)
            · refine Z.wm fun m48 => ?_
              have h47 := h49 m48
              refine z_iload_n C dX3_levels_45 4 rfl ?_
              obtain ⟨a53, e54, h55⟩ := h47
              obtain ⟨c56, h57⟩ := h55
              obtain ⟨c58, c59, h60⟩ := h57
              refine z_iast C e54 c56 c58 c59 dX3_levels_46 ?_
              refine Z.mem fun μ62 e63 => ?_
              have h61 := h60 μ62 e63
              have c64 : zC μ62 a53 = 101 := by rw [e63]; exact c56
              refine z_aload_n C dX3_levels_47 2 rfl ?_
              obtain ⟨c65, h66⟩ := h61
              refine z_getR C rfl (zFdOf c65 zf_X3_16_18) dX3_levels_48 ?_
              refine z_iload_n C dX3_levels_51 1 rfl ?_
              refine z_iconst (v := (nI 3)) C dX3_levels_52 (by decide) ?_
              refine Z.kk fun c75 c76 => ?_
              have k74 := h66
              refine z_callS (as := [tI v3, tI (nI 3)]) (rest := [tR (zR μ62 63 this)]) C k74 rfl q3710 q3711 q113 q3712 yd_X3_of (by decide) (Nat.le_of_ble_eq_true rfl) dX3_levels_53 c75 c76 (zRet_i fun v67 μ68 h73 => ?_) (zThr_i fun _ _ z9 _ _ _ _ => z9.elim)
              · refine Z.wm fun m72 => ?_
                have h71 := h73 m72
                refine z_dup2 C dX3_levels_56 rfl rfl ?_
                obtain ⟨a77, e78, h79⟩ := h71
                obtain ⟨c80, h81⟩ := h79
                obtain ⟨c82, h83⟩ := h81
                refine z_iald C e78 c80 c82 dX3_levels_57 ?_
                refine z_iconst (v := (nI 2)) C dX3_levels_58 (by decide) ?_
                refine z_iload_n C dX3_levels_59 4 rfl ?_
                refine z_ishl C dX3_levels_60 ?_
                refine z_iconst (v := 1) C dX3_levels_61 (by decide) ?_
                refine z_isub C dX3_levels_62 ?_
                refine z_iand C dX3_levels_63 ?_
                obtain ⟨c84, c85, h86⟩ := h83
                refine z_iast C e78 c80 c84 c85 dX3_levels_64 ?_
                refine Z.mem fun μ88 e89 => ?_
                have h87 := h86 μ88 e89
                have c90 : zC μ88 a77 = 101 := by rw [e89]; exact c80
                refine z_iload C dX3_levels_65 0 rfl ?_
                exact z_ireturn C rfl rfl dX3_levels_67 h87
        · have h27 := h20.2 c28
          refine z_aload_n C dX3_levels_23 1 rfl ?_
          refine z_iconst (v := (nI 2)) C dX3_levels_24 (by decide) ?_
          obtain ⟨c106, h107⟩ := h27
          refine Z.kk fun c116 c117 => ?_
          have k115 := h107
          refine z_callV (as := [tI (nI 2)]) (rest := []) C k115 rfl rfl (by decide) c106 rfl q3698 q3700 qs62 q113 q3701 yd_X3_fail (by decide) (Nat.le_of_ble_eq_true rfl) dX3_levels_25 c116 c117 (zRet_i fun v108 μ109 h114 => ?_) (zThr_i fun _ _ z9 _ _ _ _ => z9.elim)
          · refine Z.wm fun m113 => ?_
            have h112 := h114 m113
            exact z_ireturn C rfl rfl dX3_levels_28 h112
    · have h14 := h7.2 c15
      refine z_aload_n C dX3_levels_10 1 rfl ?_
      refine z_iconst (v := 1) C dX3_levels_11 (by decide) ?_
      obtain ⟨c128, h129⟩ := h14
      refine Z.kk fun c138 c139 => ?_
      have k137 := h129
      refine z_callV (as := [tI 1]) (rest := []) C k137 rfl rfl (by decide) c128 rfl q3698 q3700 qs62 q113 q3701 yd_X3_fail (by decide) (Nat.le_of_ble_eq_true rfl) dX3_levels_12 c138 c139 (zRet_i fun v130 μ131 h136 => ?_) (zThr_i fun _ _ z9 _ _ _ _ => z9.elim)
      · refine Z.wm fun m135 => ?_
        have h134 := h136 m135
        exact z_ireturn C rfl rfl dX3_levels_15 h134
/-! HutRidgeModel.setLevel(II)I -/
def Tr_X3_setLevel (w : WT) (this : Nat) (x1 : Int32) (x2 : Int32) (μ : Mem) (mc ms : Nat) (K : Out → Mem → Prop) : Prop := Tr w yX3_setLevel (ws_ yX3_setLevel cX3_setLevel 3 (Option.some Jvm.ClassFile.FieldType.int)) 5 128 [tR (some this), tI x1, tI x2] μ mc ms K
def Cx_X3_setLevel (w : WT) (g : GT) : Prop := Cx w g yX3_setLevel cX3_setLevel 3 (Option.some Jvm.ClassFile.FieldType.int) [] 5 128
theorem yd_X3_setLevel : yX3_setLevel.cls ≠ "java/lang/invoke/MethodHandle" ∧ yX3_setLevel.cls ≠ "java/lang/invoke/VarHandle" ∧ (parseMethodDescriptor yX3_setLevel.desc).map (fun d => d.parameters.length) = some 2 := by decide +kernel
set_option maxHeartbeats 4000000 in
theorem tr_X3_setLevel {w : WT} {this : Nat} {x1 : Int32} {x2 : Int32} {μ : Mem} {mc ms : Nat} {K : Out → Mem → Prop} (h : zM w μ → zC μ this = 18 ∧ Tr_X3_begins w this μ 0 0 (zKv (fun μ4 => zM w μ4 → zC μ4 this = 18 ∧ Tr_X3_levels w this x1 x2 μ4 0 0 (zKi (fun v15 μ16 => zM w μ16 → zC μ16 this = 18 ∧ Tr_X3_ends w this v15 μ16 0 0 (zKi (fun v27 μ28 => zM w μ28 → K (.inl (some (tI v27))) μ28) (fun q29 μ30 => False))) (fun q17 μ18 => False))) (fun q5 μ6 => False))) : Tr_X3_setLevel w this x1 x2 μ mc ms K := by
  refine Tr.of (by decide +kernel) (Nat.le_of_ble_eq_true rfl) (fun g C => ?_)
  show Z w g K mc ms 0 [(0, tR (some this)), (1, tI x1), (2, tI x2)] [] μ 0 0
  refine Z.wm fun m0 => ?_
  have h := h m0
  refine z_aload_n C dX3_setLevel_0 0 rfl ?_
  obtain ⟨c1, h2⟩ := h
  refine Z.kk fun c11 c12 => ?_
  have k10 := h2
  refine z_callV (as := []) (rest := []) C k10 rfl rfl (by decide) c1 rfl q3681 q3683 qs60 q113 q3684 yd_X3_begins (by decide) (Nat.le_of_ble_eq_true rfl) dX3_setLevel_1 c11 c12 (zRet_v fun μ4 h9 => ?_) (zThr_v fun _ _ z9 _ _ _ _ => z9.elim)
  · refine Z.wm fun m8 => ?_
    have h7 := h9 m8
    refine z_aload_n C dX3_setLevel_4 0 rfl ?_
    refine z_aload_n C dX3_setLevel_5 0 rfl ?_
    refine z_iload_n C dX3_setLevel_6 1 rfl ?_
    refine z_iload_n C dX3_setLevel_7 2 rfl ?_
    obtain ⟨c13, h14⟩ := h7
    refine Z.kk fun c23 c24 => ?_
    have k22 := h14
    refine z_callV (as := [tI x1, tI x2]) (rest := [tR (some this)]) C k22 rfl rfl (by decide) c13 rfl q3729 q3731 qs67 q113 q3732 yd_X3_levels (by decide) (Nat.le_of_ble_eq_true rfl) dX3_setLevel_8 c23 c24 (zRet_i fun v15 μ16 h21 => ?_) (zThr_i fun _ _ z9 _ _ _ _ => z9.elim)
    · refine Z.wm fun m20 => ?_
      have h19 := h21 m20
      obtain ⟨c25, h26⟩ := h19
      refine Z.kk fun c35 c36 => ?_
      have k34 := h26
      refine z_callV (as := [tI v15]) (rest := []) C k34 rfl rfl (by decide) c25 rfl q3713 q3715 qs65 q113 q3716 yd_X3_ends (by decide) (Nat.le_of_ble_eq_true rfl) dX3_setLevel_11 c35 c36 (zRet_i fun v27 μ28 h33 => ?_) (zThr_i fun _ _ z9 _ _ _ _ => z9.elim)
      · refine Z.wm fun m32 => ?_
        have h31 := h33 m32
        exact z_ireturn C rfl rfl dX3_setLevel_14 h31
/-! HutRidgeModel.isShut(II)Z -/
def Tr_X3_isShut (w : WT) (this : Nat) (x1 : Int32) (x2 : Int32) (μ : Mem) (mc ms : Nat) (K : Out → Mem → Prop) : Prop := Tr w yX3_isShut (ws_ yX3_isShut cX3_isShut 3 (Option.some Jvm.ClassFile.FieldType.boolean)) 2 61 [tR (some this), tI x1, tI x2] μ mc ms K
def Cx_X3_isShut (w : WT) (g : GT) : Prop := Cx w g yX3_isShut cX3_isShut 3 (Option.some Jvm.ClassFile.FieldType.boolean) [] 2 61
theorem yd_X3_isShut : yX3_isShut.cls ≠ "java/lang/invoke/MethodHandle" ∧ yX3_isShut.cls ≠ "java/lang/invoke/VarHandle" ∧ (parseMethodDescriptor yX3_isShut.desc).map (fun d => d.parameters.length) = some 2 := by decide +kernel
set_option maxHeartbeats 4000000 in
theorem tr_X3_isShut {w : WT} {this : Nat} {x1 : Int32} {x2 : Int32} {μ : Mem} {mc ms : Nat} {K : Out → Mem → Prop} (h : zM w μ → zC μ this = 18 ∧ Tr_X3_of w x1 (nI 3) μ 0 0 (zKi (fun v3 μ4 => zM w μ4 → ∃ a13 : Nat, (zR μ 63 this) = some a13 ∧ zC μ4 a13 = 101 ∧ vp_in v3 (zN μ4 a13) ∧ ((((zA μ4 a13 v3.toNatClampNeg) >>> (x2 &&& 31)) &&& (1 : Int32)) ≠ 1 → K (.inl (some (tI 0))) μ4) ∧ ((((zA μ4 a13 v3.toNatClampNeg) >>> (x2 &&& 31)) &&& (1 : Int32)) = 1 → K (.inl (some (tI 1))) μ4)) (fun q5 μ6 => False))) : Tr_X3_isShut w this x1 x2 μ mc ms K := by
  refine Tr.of (by decide +kernel) (Nat.le_of_ble_eq_true rfl) (fun g C => ?_)
  show Z w g K mc ms 0 [(0, tR (some this)), (1, tI x1), (2, tI x2)] [] μ 0 0
  refine Z.wm fun m0 => ?_
  have h := h m0
  refine z_aload_n C dX3_isShut_0 0 rfl ?_
  obtain ⟨c1, h2⟩ := h
  refine z_getR C rfl (zFdOf c1 zf_X3_16_18) dX3_isShut_1 ?_
  refine z_iload_n C dX3_isShut_4 1 rfl ?_
  refine z_iconst (v := (nI 3)) C dX3_isShut_5 (by decide) ?_
  refine Z.kk fun c11 c12 => ?_
  have k10 := h2
  refine z_callS (as := [tI x1, tI (nI 3)]) (rest := [tR (zR μ 63 this)]) C k10 rfl q3710 q3711 q113 q3712 yd_X3_of (by decide) (Nat.le_of_ble_eq_true rfl) dX3_isShut_6 c11 c12 (zRet_i fun v3 μ4 h9 => ?_) (zThr_i fun _ _ z9 _ _ _ _ => z9.elim)
  · refine Z.wm fun m8 => ?_
    have h7 := h9 m8
    obtain ⟨a13, e14, h15⟩ := h7
    obtain ⟨c16, h17⟩ := h15
    obtain ⟨c18, h19⟩ := h17
    refine z_iald C e14 c16 c18 dX3_isShut_9 ?_
    refine z_iload_n C dX3_isShut_10 2 rfl ?_
    refine z_ishr C dX3_isShut_11 ?_
    refine z_iconst (v := 1) C dX3_isShut_12 (by decide) ?_
    refine z_iand C dX3_isShut_13 ?_
    refine z_iconst (v := 1) C dX3_isShut_14 (by decide) ?_
    refine z_icmp_ne C 22 dX3_isShut_15 (by decide) (fun c22 => ?_) (fun c22 => ?_)
    · have h20 := h19.1 c22
      refine z_iconst (v := 0) C dX3_isShut_22 (by decide) ?_
      exact z_ireturn C rfl (by decide) dX3_isShut_23 h20
    · have h21 := h19.2 c22
      refine z_iconst (v := 1) C dX3_isShut_18 (by decide) ?_
      refine z_goto C 23 dX3_isShut_19 (by decide) ?_
      exact z_ireturn C rfl (by decide) dX3_isShut_23 h21
/-! HutRidgeModel.blocks(IIZ)I -/
def Tr_X3_blocks (w : WT) (this : Nat) (x1 : Int32) (x2 : Int32) (x3 : Int32) (μ : Mem) (mc ms : Nat) (K : Out → Mem → Prop) : Prop := Tr w yX3_blocks (ws_ yX3_blocks cX3_blocks 6 (Option.some Jvm.ClassFile.FieldType.int)) 4 104 [tR (some this), tI x1, tI x2, tI x3] μ mc ms K
def Cx_X3_blocks (w : WT) (g : GT) : Prop := Cx w g yX3_blocks cX3_blocks 6 (Option.some Jvm.ClassFile.FieldType.int) [] 4 104
theorem yd_X3_blocks : yX3_blocks.cls ≠ "java/lang/invoke/MethodHandle" ∧ yX3_blocks.cls ≠ "java/lang/invoke/VarHandle" ∧ (parseMethodDescriptor yX3_blocks.desc).map (fun d => d.parameters.length) = some 3 := by decide +kernel
def B_X3_blocks_56 (w : WT) (g : GT) (K : Out → Mem → Prop) (mc ms : Nat) (this : Nat) (x2 : Int32) (x3 : Int32) (x4 : Int32) (s0 : Int32) (μ : Mem) (kc ks : Nat) : Prop := Z w g K mc ms 56 [(0, tR (some this)), (2, tI x2), (3, tI x3), (4, tI x4)] [tI s0] μ kc ks
set_option maxHeartbeats 4000000 in
theorem tr_X3_blocks {w : WT} {this : Nat} {x1 : Int32} {x2 : Int32} {x3 : Int32} {μ : Mem} {mc ms : Nat} {K : Out → Mem → Prop} (h : ∀ g : GT, Cx_X3_blocks w g → zM w μ → Tr_X3_isLevel w x2 μ 0 0 (zKi (fun v1 μ2 => zM w μ2 → (v1 ≠ 0 → zC μ2 this = 18 ∧ Tr_X3_hut w this x1 μ2 0 0 (zKi (fun v16 μ17 => zM w μ17 → (v16 < 0 → zC μ17 this = 18 ∧ Tr_X3_fail w this (nI 2) μ17 0 0 (zKi (fun v31 μ32 => zM w μ32 → K (.inl (some (tI v31))) μ32) (fun q33 μ34 => False))) ∧ (¬ v16 < 0 → zC μ17 this = 18 ∧ Tr_X3_level w this v16 μ17 0 0 (zKi (fun v48 μ49 => zM w μ49 → (x2 ≤ v48 → zC μ49 this = 18 ∧ Tr_X3_isShut w this v16 x2 μ49 0 0 (zKi (fun v63 μ64 => zM w μ64 → (v63 = 0 → B_X3_blocks_56 w g K mc ms this x2 x3 v16 0 μ64 0 0) ∧ (¬ v63 = 0 → B_X3_blocks_56 w g K mc ms this x2 x3 v16 1 μ64 0 0)) (fun q65 μ66 => False))) ∧ (¬ x2 ≤ v48 → zC μ49 this = 18 ∧ Tr_X3_fail w this (nI 2) μ49 0 0 (zKi (fun v83 μ84 => zM w μ84 → K (.inl (some (tI v83))) μ84) (fun q85 μ86 => False)))) (fun q50 μ51 => False)))) (fun q18 μ19 => False))) ∧ (v1 = 0 → zC μ2 this = 18 ∧ Tr_X3_fail w this 1 μ2 0 0 (zKi (fun v110 μ111 => zM w μ111 → K (.inl (some (tI v110))) μ111) (fun q112 μ113 => False)))) (fun q3 μ4 => False))) : Tr_X3_blocks w this x1 x2 x3 μ mc ms K := by
  refine Tr.of (by decide +kernel) (Nat.le_of_ble_eq_true rfl) (fun g C => ?_)
  show Z w g K mc ms 0 [(0, tR (some this)), (1, tI x1), (2, tI x2), (3, tI x3)] [] μ 0 0
  refine Z.wm fun m0 => ?_
  have h := h g C m0
  refine z_iload_n C dX3_blocks_0 2 rfl ?_
  refine Z.kk fun c9 c10 => ?_
  have k8 := h
  refine z_callS (as := [tI x2]) (rest := []) C k8 rfl q3695 q3696 q113 q3697 yd_X3_isLevel (by decide) (Nat.le_of_ble_eq_true rfl) dX3_blocks_1 c9 c10 (zRet_i fun v1 μ2 h7 => ?_) (zThr_i fun _ _ z9 _ _ _ _ => z9.elim)
  · refine Z.wm fun m6 => ?_
    have h5 := h7 m6
    refine z_if_ne C 13 dX3_blocks_4 (by decide) (fun c13 => ?_) (fun c13 => ?_)
    · have h11 := h5.1 c13
      refine z_aload_n C dX3_blocks_13 0 rfl ?_
      refine z_iload_n C dX3_blocks_14 1 rfl ?_
      obtain ⟨c14, h15⟩ := h11
      refine Z.kk fun c24 c25 => ?_
      have k23 := h15
      refine z_callV (as := [tI x1]) (rest := []) C k23 rfl rfl (by decide) c14 rfl q3702 q3704 qs63 q113 q3705 yd_X3_hut (by decide) (Nat.le_of_ble_eq_true rfl) dX3_blocks_15 c24 c25 (zRet_i fun v16 μ17 h22 => ?_) (zThr_i fun _ _ z9 _ _ _ _ => z9.elim)
      · refine Z.wm fun m21 => ?_
        have h20 := h22 m21
        refine z_istore (lv' := [(4, tI v16), (0, tR (some this)), (1, tI x1), (2, tI x2), (3, tI x3)]) C dX3_blocks_18 (by decide) rfl ?_
        refine z_iload C dX3_blocks_20 0 rfl ?_
        refine z_if_lt C 35 dX3_blocks_22 (by decide) (fun c28 => ?_) (fun c28 => ?_)
        · have h26 := h20.1 c28
          refine z_aload_n C dX3_blocks_35 1 rfl ?_
          refine z_iconst (v := (nI 2)) C dX3_blocks_36 (by decide) ?_
          obtain ⟨c29, h30⟩ := h26
          refine Z.kk fun c39 c40 => ?_
          have k38 := h30
          refine z_callV (as := [tI (nI 2)]) (rest := []) C k38 rfl rfl (by decide) c29 rfl q3698 q3700 qs62 q113 q3701 yd_X3_fail (by decide) (Nat.le_of_ble_eq_true rfl) dX3_blocks_37 c39 c40 (zRet_i fun v31 μ32 h37 => ?_) (zThr_i fun _ _ z9 _ _ _ _ => z9.elim)
          · refine Z.wm fun m36 => ?_
            have h35 := h37 m36
            exact z_ireturn C rfl rfl dX3_blocks_40 h35
        · have h27 := h20.2 c28
          refine z_aload_n C dX3_blocks_25 1 rfl ?_
          refine z_iload C dX3_blocks_26 0 rfl ?_
          obtain ⟨c46, h47⟩ := h27
          refine Z.kk fun c56 c57 => ?_
          have k55 := h47
          refine z_callV (as := [tI v16]) (rest := []) C k55 rfl rfl (by decide) c46 rfl q3733 q3735 qs68 q113 q3736 yd_X3_level (by decide) (Nat.le_of_ble_eq_true rfl) dX3_blocks_28 c56 c57 (zRet_i fun v48 μ49 h54 => ?_) (zThr_i fun _ _ z9 _ _ _ _ => z9.elim)
          · refine Z.wm fun m53 => ?_
            have h52 := h54 m53
            refine z_iload_n C dX3_blocks_31 3 rfl ?_
            refine z_icmp_ge C 41 dX3_blocks_32 (by decide) (fun c60 => ?_) (fun c60 => ?_)
            · have h58 := h52.1 c60
              refine z_aload_n C dX3_blocks_41 1 rfl ?_
              refine z_iload C dX3_blocks_42 0 rfl ?_
              refine z_iload_n C dX3_blocks_44 3 rfl ?_
              obtain ⟨c61, h62⟩ := h58
              refine Z.kk fun c71 c72 => ?_
              have k70 := h62
              refine z_callV (as := [tI v16, tI x2]) (rest := []) C k70 rfl rfl (by decide) c61 rfl q3745 q3747 qs70 q113 q3748 yd_X3_isShut (by decide) (Nat.le_of_ble_eq_true rfl) dX3_blocks_45 c71 c72 (zRet_i fun v63 μ64 h69 => ?_) (zThr_i fun _ _ z9 _ _ _ _ => z9.elim)
              · refine Z.wm fun m68 => ?_
                have h67 := h69 m68
                refine z_if_eq C 55 dX3_blocks_48 (by decide) (fun c75 => ?_) (fun c75 => ?_)
                · have h73 := h67.1 c75
                  refine z_iconst (v := 0) C dX3_blocks_55 (by decide) ?_
                  refine Z.sub [1, 3, 4, 0] rfl ?_
                  exact h73
                · have h74 := h67.2 c75
                  refine z_iconst (v := 1) C dX3_blocks_51 (by decide) ?_
                  refine z_goto C 56 dX3_blocks_52 (by decide) ?_
                  refine Z.sub [1, 3, 4, 0] rfl ?_
                  exact h74
            · have h59 := h52.2 c60
              refine z_aload_n C dX3_blocks_35 1 rfl ?_
              refine z_iconst (v := (nI 2)) C dX3_blocks_36 (by decide) ?_
              obtain ⟨c81, h82⟩ := h59
              refine Z.kk fun c91 c92 => ?_
              have k90 := h82
              refine z_callV (as := [tI (nI 2)]) (rest := []) C k90 rfl rfl (by decide) c81 rfl q3698 q3700 qs62 q113 q3701 yd_X3_fail (by decide) (Nat.le_of_ble_eq_true rfl) dX3_blocks_37 c91 c92 (zRet_i fun v83 μ84 h89 => ?_) (zThr_i fun _ _ z9 _ _ _ _ => z9.elim)
              · refine Z.wm fun m88 => ?_
                have h87 := h89 m88
                exact z_ireturn C rfl rfl dX3_blocks_40 h87
    · have h12 := h5.2 c13
      refine z_aload_n C dX3_blocks_7 0 rfl ?_
      refine z_iconst (v := 1) C dX3_blocks_8 (by decide) ?_
      obtain ⟨c108, h109⟩ := h12
      refine Z.kk fun c118 c119 => ?_
      have k117 := h109
      refine z_callV (as := [tI 1]) (rest := []) C k117 rfl rfl (by decide) c108 rfl q3698 q3700 qs62 q113 q3701 yd_X3_fail (by decide) (Nat.le_of_ble_eq_true rfl) dX3_blocks_9 c118 c119 (zRet_i fun v110 μ111 h116 => ?_) (zThr_i fun _ _ z9 _ _ _ _ => z9.elim)
      · refine Z.wm fun m115 => ?_
        have h114 := h116 m115
        exact z_ireturn C rfl rfl dX3_blocks_12 h114
set_option maxHeartbeats 4000000 in
theorem bk_X3_blocks_56 {w : WT} {g : GT} {K : Out → Mem → Prop} {mc ms : Nat} {this : Nat} {x2 : Int32} {x3 : Int32} {x4 : Int32} {s0 : Int32} {μ : Mem} {kc ks : Nat} (C : Cx_X3_blocks w g) (h : zM w μ → zC μ this = 18 ∧ Tr_X3_of w x4 (nI 3) μ 0 0 (zKi (fun v3 μ4 => zM w μ4 → zC μ4 this = 18 ∧ Tr_X3_of w x4 (nI 3) μ4 0 0 (zKi (fun v15 μ16 => zM w μ16 → ∃ a25 : Nat, (zR μ4 63 this) = some a25 ∧ zC μ16 a25 = 101 ∧ vp_in v15 (zN μ16 a25) ∧ (x3 = 0 → ∃ a35 : Nat, (zR μ 63 this) = some a35 ∧ zC μ16 a35 = 101 ∧ zB w ≤ a35 ∧ vp_in v3 (zN μ16 a35) ∧ ∀ μ44 : Mem, μ44 = zsA μ16 a35 v3.toNatClampNeg (((zA μ16 a25 v15.toNatClampNeg) &&& (((1 : Int32) <<< (x2 &&& 31)) ^^^ (-1 : Int32))) ||| (0 : Int32)) → K (.inl (some (tI s0))) μ44) ∧ (¬ x3 = 0 → ∃ a48 : Nat, (zR μ 63 this) = some a48 ∧ zC μ16 a48 = 101 ∧ zB w ≤ a48 ∧ vp_in v3 (zN μ16 a48) ∧ ∀ μ57 : Mem, μ57 = zsA μ16 a48 v3.toNatClampNeg (((zA μ16 a25 v15.toNatClampNeg) &&& (((1 : Int32) <<< (x2 &&& 31)) ^^^ (-1 : Int32))) ||| ((1 : Int32) <<< (x2 &&& 31))) → K (.inl (some (tI s0))) μ57)) (fun q17 μ18 => False))) (fun q5 μ6 => False))) : B_X3_blocks_56 w g K mc ms this x2 x3 x4 s0 μ kc ks := by
  unfold Cx_X3_blocks at C
  unfold B_X3_blocks_56
  refine Z.wm fun m0 => ?_
  have h := h m0
  refine z_istore (lv' := [(5, tI s0), (0, tR (some this)), (2, tI x2), (3, tI x3), (4, tI x4)]) C dX3_blocks_56 (by decide) rfl ?_
  refine z_aload_n C dX3_blocks_58 1 rfl ?_
  obtain ⟨c1, h2⟩ := h
  refine z_getR C rfl (zFdOf c1 zf_X3_16_18) dX3_blocks_59 ?_
  refine z_iload C dX3_blocks_62 4 rfl ?_
  refine z_iconst (v := (nI 3)) C dX3_blocks_64 (by decide) ?_
  refine Z.kk fun c11 c12 => ?_
  have k10 := h2
  refine z_callS (as := [tI x4, tI (nI 3)]) (rest := [tR (zR μ 63 this)]) C k10 rfl q3710 q3711 q113 q3712 yd_X3_of (by decide) (Nat.le_of_ble_eq_true rfl) dX3_blocks_65 c11 c12 (zRet_i fun v3 μ4 h9 => ?_) (zThr_i fun _ _ z9 _ _ _ _ => z9.elim)
  · refine Z.wm fun m8 => ?_
    have h7 := h9 m8
    refine z_aload_n C dX3_blocks_68 1 rfl ?_
    obtain ⟨c13, h14⟩ := h7
    refine z_getR C rfl (zFdOf c13 zf_X3_16_18) dX3_blocks_69 ?_
    refine z_iload C dX3_blocks_72 4 rfl ?_
    refine z_iconst (v := (nI 3)) C dX3_blocks_74 (by decide) ?_
    refine Z.kk fun c23 c24 => ?_
    have k22 := h14
    refine z_callS (as := [tI x4, tI (nI 3)]) (rest := [tR (zR μ4 63 this), tI v3, tR (zR μ 63 this)]) C k22 rfl q3710 q3711 q113 q3712 yd_X3_of (by decide) (Nat.le_of_ble_eq_true rfl) dX3_blocks_75 c23 c24 (zRet_i fun v15 μ16 h21 => ?_) (zThr_i fun _ _ z9 _ _ _ _ => z9.elim)
    · refine Z.wm fun m20 => ?_
      have h19 := h21 m20
      obtain ⟨a25, e26, h27⟩ := h19
      obtain ⟨c28, h29⟩ := h27
      obtain ⟨c30, h31⟩ := h29
      refine z_iald C e26 c28 c30 dX3_blocks_78 ?_
      refine z_iconst (v := 1) C dX3_blocks_79 (by decide) ?_
      refine z_iload_n C dX3_blocks_80 2 rfl ?_
      refine z_ishl C dX3_blocks_81 ?_
      refine z_iconst (v := (-1 : Int32)) C dX3_blocks_82 (by decide) ?_
      refine z_ixor C dX3_blocks_83 ?_
      refine z_iand C dX3_blocks_84 ?_
      refine z_iload_n C dX3_blocks_85 3 rfl ?_
      refine z_if_eq C 95 dX3_blocks_86 (by decide) (fun c34 => ?_) (fun c34 => ?_)
      · have h32 := h31.1 c34
        refine z_iconst (v := 0) C dX3_blocks_95 (by decide) ?_
        refine z_ior C dX3_blocks_96 ?_
        obtain ⟨a35, e36, h37⟩ := h32
        obtain ⟨c38, h39⟩ := h37
        obtain ⟨c40, c41, h42⟩ := h39
        refine z_iast C e36 c38 c40 c41 dX3_blocks_97 ?_
        refine Z.mem fun μ44 e45 => ?_
        have h43 := h42 μ44 e45
        have c46 : zC μ44 a25 = 101 := by rw [e45]; exact c28
        have c47 : zC μ44 a35 = 101 := by rw [e45]; exact c38
        refine z_iload C dX3_blocks_98 0 rfl ?_
        exact z_ireturn C rfl rfl dX3_blocks_100 h43
      · have h33 := h31.2 c34
        refine z_iconst (v := 1) C dX3_blocks_89 (by decide) ?_
        refine z_iload_n C dX3_blocks_90 2 rfl ?_
        refine z_ishl C dX3_blocks_91 ?_
        refine z_goto C 96 dX3_blocks_92 (by decide) ?_
        refine z_ior C dX3_blocks_96 ?_
        obtain ⟨a48, e49, h50⟩ := h33
        obtain ⟨c51, h52⟩ := h50
        obtain ⟨c53, c54, h55⟩ := h52
        refine z_iast C e49 c51 c53 c54 dX3_blocks_97 ?_
        refine Z.mem fun μ57 e58 => ?_
        have h56 := h55 μ57 e58
        have c59 : zC μ57 a25 = 101 := by rw [e58]; exact c28
        have c60 : zC μ57 a48 = 101 := by rw [e58]; exact c51
        refine z_iload C dX3_blocks_98 0 rfl ?_
        exact z_ireturn C rfl rfl dX3_blocks_100 h56
/-! HutRidgeModel.setBlocked(IIZ)Z -/
def Tr_X3_setBlocked (w : WT) (this : Nat) (x1 : Int32) (x2 : Int32) (x3 : Int32) (μ : Mem) (mc ms : Nat) (K : Out → Mem → Prop) : Prop := Tr w yX3_setBlocked (ws_ yX3_setBlocked cX3_setBlocked 4 (Option.some Jvm.ClassFile.FieldType.boolean)) 5 129 [tR (some this), tI x1, tI x2, tI x3] μ mc ms K
def Cx_X3_setBlocked (w : WT) (g : GT) : Prop := Cx w g yX3_setBlocked cX3_setBlocked 4 (Option.some Jvm.ClassFile.FieldType.boolean) [] 5 129
theorem yd_X3_setBlocked : yX3_setBlocked.cls ≠ "java/lang/invoke/MethodHandle" ∧ yX3_setBlocked.cls ≠ "java/lang/invoke/VarHandle" ∧ (parseMethodDescriptor yX3_setBlocked.desc).map (fun d => d.parameters.length) = some 3 := by decide +kernel
set_option maxHeartbeats 4000000 in
theorem tr_X3_setBlocked {w : WT} {this : Nat} {x1 : Int32} {x2 : Int32} {x3 : Int32} {μ : Mem} {mc ms : Nat} {K : Out → Mem → Prop} (h : zM w μ → zC μ this = 18 ∧ Tr_X3_begins w this μ 0 0 (zKv (fun μ4 => zM w μ4 → zC μ4 this = 18 ∧ Tr_X3_blocks w this x1 x2 x3 μ4 0 0 (zKi (fun v15 μ16 => zM w μ16 → zC μ16 this = 18 ∧ Tr_X3_ends w this v15 μ16 0 0 (zKi (fun v27 μ28 => zM w μ28 → (v27 ≠ 1 → K (.inl (some (tI 0))) μ28) ∧ (v27 = 1 → K (.inl (some (tI 1))) μ28)) (fun q29 μ30 => False))) (fun q17 μ18 => False))) (fun q5 μ6 => False))) : Tr_X3_setBlocked w this x1 x2 x3 μ mc ms K := by
  refine Tr.of (by decide +kernel) (Nat.le_of_ble_eq_true rfl) (fun g C => ?_)
  show Z w g K mc ms 0 [(0, tR (some this)), (1, tI x1), (2, tI x2), (3, tI x3)] [] μ 0 0
  refine Z.wm fun m0 => ?_
  have h := h m0
  refine z_aload_n C dX3_setBlocked_0 0 rfl ?_
  obtain ⟨c1, h2⟩ := h
  refine Z.kk fun c11 c12 => ?_
  have k10 := h2
  refine z_callV (as := []) (rest := []) C k10 rfl rfl (by decide) c1 rfl q3681 q3683 qs60 q113 q3684 yd_X3_begins (by decide) (Nat.le_of_ble_eq_true rfl) dX3_setBlocked_1 c11 c12 (zRet_v fun μ4 h9 => ?_) (zThr_v fun _ _ z9 _ _ _ _ => z9.elim)
  · refine Z.wm fun m8 => ?_
    have h7 := h9 m8
    refine z_aload_n C dX3_setBlocked_4 0 rfl ?_
    refine z_aload_n C dX3_setBlocked_5 0 rfl ?_
    refine z_iload_n C dX3_setBlocked_6 1 rfl ?_
    refine z_iload_n C dX3_setBlocked_7 2 rfl ?_
    refine z_iload_n C dX3_setBlocked_8 3 rfl ?_
    obtain ⟨c13, h14⟩ := h7
    refine Z.kk fun c23 c24 => ?_
    have k22 := h14
    refine z_callV (as := [tI x1, tI x2, tI x3]) (rest := [tR (some this)]) C k22 rfl rfl (by decide) c13 rfl q3741 q3743 qs69 q113 q3744 yd_X3_blocks (by decide) (Nat.le_of_ble_eq_true rfl) dX3_setBlocked_9 c23 c24 (zRet_i fun v15 μ16 h21 => ?_) (zThr_i fun _ _ z9 _ _ _ _ => z9.elim)
    · refine Z.wm fun m20 => ?_
      have h19 := h21 m20
      obtain ⟨c25, h26⟩ := h19
      refine Z.kk fun c35 c36 => ?_
      have k34 := h26
      refine z_callV (as := [tI v15]) (rest := []) C k34 rfl rfl (by decide) c25 rfl q3713 q3715 qs65 q113 q3716 yd_X3_ends (by decide) (Nat.le_of_ble_eq_true rfl) dX3_setBlocked_12 c35 c36 (zRet_i fun v27 μ28 h33 => ?_) (zThr_i fun _ _ z9 _ _ _ _ => z9.elim)
      · refine Z.wm fun m32 => ?_
        have h31 := h33 m32
        refine z_iconst (v := 1) C dX3_setBlocked_15 (by decide) ?_
        refine z_icmp_ne C 23 dX3_setBlocked_16 (by decide) (fun c39 => ?_) (fun c39 => ?_)
        · have h37 := h31.1 c39
          refine z_iconst (v := 0) C dX3_setBlocked_23 (by decide) ?_
          exact z_ireturn C rfl (by decide) dX3_setBlocked_24 h37
        · have h38 := h31.2 c39
          refine z_iconst (v := 1) C dX3_setBlocked_19 (by decide) ?_
          refine z_goto C 24 dX3_setBlocked_20 (by decide) ?_
          exact z_ireturn C rfl (by decide) dX3_setBlocked_24 h38
/-! HutRidgeModel.snows(IZ)I -/
def Tr_X3_snows (w : WT) (this : Nat) (x1 : Int32) (x2 : Int32) (μ : Mem) (mc ms : Nat) (K : Out → Mem → Prop) : Prop := Tr w yX3_snows (ws_ yX3_snows cX3_snows 4 (Option.some Jvm.ClassFile.FieldType.int)) 2 62 [tR (some this), tI x1, tI x2] μ mc ms K
def Cx_X3_snows (w : WT) (g : GT) : Prop := Cx w g yX3_snows cX3_snows 4 (Option.some Jvm.ClassFile.FieldType.int) [] 2 62
theorem yd_X3_snows : yX3_snows.cls ≠ "java/lang/invoke/MethodHandle" ∧ yX3_snows.cls ≠ "java/lang/invoke/VarHandle" ∧ (parseMethodDescriptor yX3_snows.desc).map (fun d => d.parameters.length) = some 2 := by decide +kernel
set_option maxHeartbeats 4000000 in
theorem tr_X3_snows {w : WT} {this : Nat} {x1 : Int32} {x2 : Int32} {μ : Mem} {mc ms : Nat} {K : Out → Mem → Prop} (h : zM w μ → Tr_X3_isIn w x1 1 (nI 4) μ 0 0 (zKi (fun v1 μ2 => zM w μ2 → (v1 ≠ 0 → zC μ2 this = 18 ∧ ∃ a16 : Nat, (zR μ2 63 this) = some a16 ∧ zC μ2 a16 = 101 ∧ vp_in 1 (zN μ2 a16) ∧ vp_in 1 (zN μ2 a16) ∧ (x2 = 0 → zB w ≤ a16 ∧ vp_in 1 (zN μ2 a16) ∧ ∀ μ32 : Mem, μ32 = zsA μ2 a16 1 (((zA μ2 a16 1) &&& (((1 : Int32) <<< (x1 &&& 31)) ^^^ (-1 : Int32))) ||| (0 : Int32)) → K (.inl (some (tI (((zA μ2 a16 1) >>> (x1 &&& 31)) &&& (1 : Int32))))) μ32) ∧ (¬ x2 = 0 → zB w ≤ a16 ∧ vp_in 1 (zN μ2 a16) ∧ ∀ μ40 : Mem, μ40 = zsA μ2 a16 1 (((zA μ2 a16 1) &&& (((1 : Int32) <<< (x1 &&& 31)) ^^^ (-1 : Int32))) ||| ((1 : Int32) <<< (x1 &&& 31))) → K (.inl (some (tI (((zA μ2 a16 1) >>> (x1 &&& 31)) &&& (1 : Int32))))) μ40)) ∧ (v1 = 0 → zC μ2 this = 18 ∧ Tr_X3_fail w this 1 μ2 0 0 (zKi (fun v46 μ47 => zM w μ47 → K (.inl (some (tI v46))) μ47) (fun q48 μ49 => False)))) (fun q3 μ4 => False))) : Tr_X3_snows w this x1 x2 μ mc ms K := by
  refine Tr.of (by decide +kernel) (Nat.le_of_ble_eq_true rfl) (fun g C => ?_)
  show Z w g K mc ms 0 [(0, tR (some this)), (1, tI x1), (2, tI x2)] [] μ 0 0
  refine Z.wm fun m0 => ?_
  have h := h m0
  refine z_iload_n C dX3_snows_0 1 rfl ?_
  refine z_iconst (v := 1) C dX3_snows_1 (by decide) ?_
  refine z_iconst (v := (nI 4)) C dX3_snows_2 (by decide) ?_
  refine Z.kk fun c9 c10 => ?_
  have k8 := h
  refine z_callS (as := [tI x1, tI 1, tI (nI 4)]) (rest := []) C k8 rfl q3692 q3693 q113 q3694 yd_X3_isIn (by decide) (Nat.le_of_ble_eq_true rfl) dX3_snows_3 c9 c10 (zRet_i fun v1 μ2 h7 => ?_) (zThr_i fun _ _ z9 _ _ _ _ => z9.elim)
  · refine Z.wm fun m6 => ?_
    have h5 := h7 m6
    refine z_if_ne C 15 dX3_snows_6 (by decide) (fun c13 => ?_) (fun c13 => ?_)
    · have h11 := h5.1 c13
      refine z_aload_n C dX3_snows_15 0 rfl ?_
      obtain ⟨c14, h15⟩ := h11
      refine z_getR C rfl (zFdOf c14 zf_X3_16_18) dX3_snows_16 ?_
      refine z_iconst (v := 1) C dX3_snows_19 (by decide) ?_
      obtain ⟨a16, e17, h18⟩ := h15
      obtain ⟨c19, h20⟩ := h18
      obtain ⟨c21, h22⟩ := h20
      refine z_iald C e17 c19 c21 dX3_snows_20 ?_
      refine z_iload_n C dX3_snows_21 1 rfl ?_
      refine z_ishr C dX3_snows_22 ?_
      refine z_iconst (v := 1) C dX3_snows_23 (by decide) ?_
      refine z_iand C dX3_snows_24 ?_
      refine z_istore_n (lv' := [(3, tI (((zA μ2 a16 1) >>> (x1 &&& 31)) &&& (1 : Int32))), (0, tR (some this)), (1, tI x1), (2, tI x2)]) C dX3_snows_25 (by decide) rfl ?_
      refine z_aload_n C dX3_snows_26 1 rfl ?_
      refine z_getR C rfl (zFdOf c14 zf_X3_16_18) dX3_snows_27 ?_
      refine z_iconst (v := 1) C dX3_snows_30 (by decide) ?_
      refine z_aload_n C dX3_snows_31 1 rfl ?_
      refine z_getR C rfl (zFdOf c14 zf_X3_16_18) dX3_snows_32 ?_
      refine z_iconst (v := 1) C dX3_snows_35 (by decide) ?_
      obtain ⟨c23, h24⟩ := h22
      refine z_iald C e17 c19 c23 dX3_snows_36 ?_
      refine z_iconst (v := 1) C dX3_snows_37 (by decide) ?_
      refine z_iload_n C dX3_snows_38 2 rfl ?_
      refine z_ishl C dX3_snows_39 ?_
      refine z_iconst (v := (-1 : Int32)) C dX3_snows_40 (by decide) ?_
      refine z_ixor C dX3_snows_41 ?_
      refine z_iand C dX3_snows_42 ?_
      refine z_iload_n C dX3_snows_43 3 rfl ?_
      refine z_if_eq C 53 dX3_snows_44 (by decide) (fun c27 => ?_) (fun c27 => ?_)
      · have h25 := h24.1 c27
        refine z_iconst (v := 0) C dX3_snows_53 (by decide) ?_
        refine z_ior C dX3_snows_54 ?_
        obtain ⟨c28, c29, h30⟩ := h25
        refine z_iast C e17 c19 c28 c29 dX3_snows_55 ?_
        refine Z.mem fun μ32 e33 => ?_
        have h31 := h30 μ32 e33
        have c34 : zC μ32 this = 18 := by rw [e33]; exact c14
        have c35 : zC μ32 a16 = 101 := by rw [e33]; exact c19
        refine z_iload_n C dX3_snows_56 0 rfl ?_
        exact z_ireturn C rfl rfl dX3_snows_57 h31
      · have h26 := h24.2 c27
        refine z_iconst (v := 1) C dX3_snows_47 (by decide) ?_
        refine z_iload_n C dX3_snows_48 2 rfl ?_
        refine z_ishl C dX3_snows_49 ?_
        refine z_goto C 54 dX3_snows_50 (by decide) ?_
        refine z_ior C dX3_snows_54 ?_
        obtain ⟨c36, c37, h38⟩ := h26
        refine z_iast C e17 c19 c36 c37 dX3_snows_55 ?_
        refine Z.mem fun μ40 e41 => ?_
        have h39 := h38 μ40 e41
        have c42 : zC μ40 this = 18 := by rw [e41]; exact c14
        have c43 : zC μ40 a16 = 101 := by rw [e41]; exact c19
        refine z_iload_n C dX3_snows_56 0 rfl ?_
        exact z_ireturn C rfl rfl dX3_snows_57 h39
    · have h12 := h5.2 c13
      refine z_aload_n C dX3_snows_9 0 rfl ?_
      refine z_iconst (v := 1) C dX3_snows_10 (by decide) ?_
      obtain ⟨c44, h45⟩ := h12
      refine Z.kk fun c54 c55 => ?_
      have k53 := h45
      refine z_callV (as := [tI 1]) (rest := []) C k53 rfl rfl (by decide) c44 rfl q3698 q3700 qs62 q113 q3701 yd_X3_fail (by decide) (Nat.le_of_ble_eq_true rfl) dX3_snows_11 c54 c55 (zRet_i fun v46 μ47 h52 => ?_) (zThr_i fun _ _ z9 _ _ _ _ => z9.elim)
      · refine Z.wm fun m51 => ?_
        have h50 := h52 m51
        exact z_ireturn C rfl rfl dX3_snows_14 h50
/-! HutRidgeModel.setSnowed(IZ)Z -/
def Tr_X3_setSnowed (w : WT) (this : Nat) (x1 : Int32) (x2 : Int32) (μ : Mem) (mc ms : Nat) (K : Out → Mem → Prop) : Prop := Tr w yX3_setSnowed (ws_ yX3_setSnowed cX3_setSnowed 3 (Option.some Jvm.ClassFile.FieldType.boolean)) 3 85 [tR (some this), tI x1, tI x2] μ mc ms K
def Cx_X3_setSnowed (w : WT) (g : GT) : Prop := Cx w g yX3_setSnowed cX3_setSnowed 3 (Option.some Jvm.ClassFile.FieldType.boolean) [] 3 85
theorem yd_X3_setSnowed : yX3_setSnowed.cls ≠ "java/lang/invoke/MethodHandle" ∧ yX3_setSnowed.cls ≠ "java/lang/invoke/VarHandle" ∧ (parseMethodDescriptor yX3_setSnowed.desc).map (fun d => d.parameters.length) = some 2 := by decide +kernel
set_option maxHeartbeats 4000000 in
theorem tr_X3_setSnowed {w : WT} {this : Nat} {x1 : Int32} {x2 : Int32} {μ : Mem} {mc ms : Nat} {K : Out → Mem → Prop} (h : zM w μ → zC μ this = 18 ∧ Tr_X3_begins w this μ 0 0 (zKv (fun μ4 => zM w μ4 → zC μ4 this = 18 ∧ Tr_X3_snows w this x1 x2 μ4 0 0 (zKi (fun v15 μ16 => zM w μ16 → zC μ16 this = 18 ∧ Tr_X3_ends w this v15 μ16 0 0 (zKi (fun v27 μ28 => zM w μ28 → (v27 ≠ 1 → K (.inl (some (tI 0))) μ28) ∧ (v27 = 1 → K (.inl (some (tI 1))) μ28)) (fun q29 μ30 => False))) (fun q17 μ18 => False))) (fun q5 μ6 => False))) : Tr_X3_setSnowed w this x1 x2 μ mc ms K := by
  refine Tr.of (by decide +kernel) (Nat.le_of_ble_eq_true rfl) (fun g C => ?_)
  show Z w g K mc ms 0 [(0, tR (some this)), (1, tI x1), (2, tI x2)] [] μ 0 0
  refine Z.wm fun m0 => ?_
  have h := h m0
  refine z_aload_n C dX3_setSnowed_0 0 rfl ?_
  obtain ⟨c1, h2⟩ := h
  refine Z.kk fun c11 c12 => ?_
  have k10 := h2
  refine z_callV (as := []) (rest := []) C k10 rfl rfl (by decide) c1 rfl q3681 q3683 qs60 q113 q3684 yd_X3_begins (by decide) (Nat.le_of_ble_eq_true rfl) dX3_setSnowed_1 c11 c12 (zRet_v fun μ4 h9 => ?_) (zThr_v fun _ _ z9 _ _ _ _ => z9.elim)
  · refine Z.wm fun m8 => ?_
    have h7 := h9 m8
    refine z_aload_n C dX3_setSnowed_4 0 rfl ?_
    refine z_aload_n C dX3_setSnowed_5 0 rfl ?_
    refine z_iload_n C dX3_setSnowed_6 1 rfl ?_
    refine z_iload_n C dX3_setSnowed_7 2 rfl ?_
    obtain ⟨c13, h14⟩ := h7
    refine Z.kk fun c23 c24 => ?_
    have k22 := h14
    refine z_callV (as := [tI x1, tI x2]) (rest := [tR (some this)]) C k22 rfl rfl (by decide) c13 rfl q3753 q3755 qs71 q113 q3756 yd_X3_snows (by decide) (Nat.le_of_ble_eq_true rfl) dX3_setSnowed_8 c23 c24 (zRet_i fun v15 μ16 h21 => ?_) (zThr_i fun _ _ z9 _ _ _ _ => z9.elim)
    · refine Z.wm fun m20 => ?_
      have h19 := h21 m20
      obtain ⟨c25, h26⟩ := h19
      refine Z.kk fun c35 c36 => ?_
      have k34 := h26
      refine z_callV (as := [tI v15]) (rest := []) C k34 rfl rfl (by decide) c25 rfl q3713 q3715 qs65 q113 q3716 yd_X3_ends (by decide) (Nat.le_of_ble_eq_true rfl) dX3_setSnowed_11 c35 c36 (zRet_i fun v27 μ28 h33 => ?_) (zThr_i fun _ _ z9 _ _ _ _ => z9.elim)
      · refine Z.wm fun m32 => ?_
        have h31 := h33 m32
        refine z_iconst (v := 1) C dX3_setSnowed_14 (by decide) ?_
        refine z_icmp_ne C 22 dX3_setSnowed_15 (by decide) (fun c39 => ?_) (fun c39 => ?_)
        · have h37 := h31.1 c39
          refine z_iconst (v := 0) C dX3_setSnowed_22 (by decide) ?_
          exact z_ireturn C rfl (by decide) dX3_setSnowed_23 h37
        · have h38 := h31.2 c39
          refine z_iconst (v := 1) C dX3_setSnowed_18 (by decide) ?_
          refine z_goto C 23 dX3_setSnowed_19 (by decide) ?_
          exact z_ireturn C rfl (by decide) dX3_setSnowed_23 h38
/-! HutRidgeModel.hiking(II)I -/
def Tr_X3_hiking (w : WT) (x0 : Int32) (x1 : Int32) (μ : Mem) (mc ms : Nat) (K : Out → Mem → Prop) : Prop := Tr w yX3_hiking (ws_ yX3_hiking cX3_hiking 2 (Option.some Jvm.ClassFile.FieldType.int)) 1 40 [tI x0, tI x1] μ mc ms K
def Cx_X3_hiking (w : WT) (g : GT) : Prop := Cx w g yX3_hiking cX3_hiking 2 (Option.some Jvm.ClassFile.FieldType.int) [] 1 40
theorem yd_X3_hiking : yX3_hiking.cls ≠ "java/lang/invoke/MethodHandle" ∧ yX3_hiking.cls ≠ "java/lang/invoke/VarHandle" ∧ (parseMethodDescriptor yX3_hiking.desc).map (fun d => d.parameters.length) = some 2 := by decide +kernel
set_option maxHeartbeats 4000000 in
theorem tr_X3_hiking {w : WT} {x0 : Int32} {x1 : Int32} {μ : Mem} {mc ms : Nat} {K : Out → Mem → Prop} (h : zM w μ → K (.inl (some (tI (((nI 70) + ((nI 3) * x0)) + x1)))) μ) : Tr_X3_hiking w x0 x1 μ mc ms K := by
  refine Tr.of (by decide +kernel) (Nat.le_of_ble_eq_true rfl) (fun g C => ?_)
  show Z w g K mc ms 0 [(0, tI x0), (1, tI x1)] [] μ 0 0
  refine Z.wm fun m0 => ?_
  have h := h m0
  refine z_bipush (v := (nI 70)) C dX3_hiking_0 (by decide) ?_
  refine z_iconst (v := (nI 3)) C dX3_hiking_2 (by decide) ?_
  refine z_iload_n C dX3_hiking_3 0 rfl ?_
  refine z_imul C dX3_hiking_4 ?_
  refine z_iadd C dX3_hiking_5 ?_
  refine z_iload_n C dX3_hiking_6 1 rfl ?_
  refine z_iadd C dX3_hiking_7 ?_
  exact z_ireturn C rfl rfl dX3_hiking_8 h
/-! HutRidgeModel.adds(II)I -/
def Tr_X3_adds (w : WT) (this : Nat) (x1 : Int32) (x2 : Int32) (μ : Mem) (mc ms : Nat) (K : Out → Mem → Prop) : Prop := Tr w yX3_adds (ws_ yX3_adds cX3_adds 4 (Option.some Jvm.ClassFile.FieldType.int)) 2 62 [tR (some this), tI x1, tI x2] μ mc ms K
def Cx_X3_adds (w : WT) (g : GT) : Prop := Cx w g yX3_adds cX3_adds 4 (Option.some Jvm.ClassFile.FieldType.int) [] 2 62
theorem yd_X3_adds : yX3_adds.cls ≠ "java/lang/invoke/MethodHandle" ∧ yX3_adds.cls ≠ "java/lang/invoke/VarHandle" ∧ (parseMethodDescriptor yX3_adds.desc).map (fun d => d.parameters.length) = some 2 := by decide +kernel
set_option maxHeartbeats 4000000 in
theorem tr_X3_adds {w : WT} {this : Nat} {x1 : Int32} {x2 : Int32} {μ : Mem} {mc ms : Nat} {K : Out → Mem → Prop} (h : zM w μ → Tr_X3_isIn w x1 0 (nI 99) μ 0 0 (zKi (fun v1 μ2 => zM w μ2 → (v1 = 0 → zC μ2 this = 18 ∧ Tr_X3_fail w this 1 μ2 0 0 (zKi (fun v16 μ17 => zM w μ17 → K (.inl (some (tI v16))) μ17) (fun q18 μ19 => False))) ∧ (¬ v1 = 0 → Tr_X3_isIn w x2 1 (nI 9) μ2 0 0 (zKi (fun v31 μ32 => zM w μ32 → (v31 ≠ 0 → zC μ32 this = 18 ∧ ∃ a46 : Nat, (zR μ32 63 this) = some a46 ∧ zC μ32 a46 = 101 ∧ vp_in (nI 3) (zN μ32 a46) ∧ ((zA μ32 a46 3) ≠ (nI 8) → Tr_X3_hiking w (zA μ32 a46 3) 0 μ32 0 0 (zKi (fun v56 μ57 => zM w μ57 → zC μ57 this = 18 ∧ ∃ a68 : Nat, (zR μ57 63 this) = some a68 ∧ zC μ57 a68 = 101 ∧ vp_in (nI 2) (zN μ57 a68) ∧ zC μ57 a46 = 101 ∧ zB w ≤ a46 ∧ vp_in v56 (zN μ57 a46) ∧ ∀ μ81 : Mem, μ81 = zsA μ57 a46 v56.toNatClampNeg (zA μ57 a68 2) → Tr_X3_hiking w (zA μ32 a46 3) 1 μ81 0 0 (zKi (fun v86 μ87 => zM w μ87 → ∃ a96 : Nat, (zR μ81 63 this) = some a96 ∧ zC μ87 a96 = 101 ∧ zB w ≤ a96 ∧ vp_in v86 (zN μ87 a96) ∧ ∀ μ105 : Mem, μ105 = zsA μ87 a96 v86.toNatClampNeg x1 → zC μ105 this = 18 ∧ Tr_X3_hiking w (zA μ32 a46 3) (nI 2) μ105 0 0 (zKi (fun v110 μ111 => zM w μ111 → ∃ a120 : Nat, (zR μ105 63 this) = some a120 ∧ zC μ111 a120 = 101 ∧ zB w ≤ a120 ∧ vp_in v110 (zN μ111 a120) ∧ ∀ μ129 : Mem, μ129 = zsA μ111 a120 v110.toNatClampNeg x2 → zC μ129 this = 18 ∧ ∃ a134 : Nat, (zR μ129 63 this) = some a134 ∧ zC μ129 a134 = 101 ∧ vp_in (nI 3) (zN μ129 a134) ∧ zB w ≤ a134 ∧ vp_in (nI 3) (zN μ129 a134) ∧ ∀ μ145 : Mem, μ145 = zsA μ129 a134 3 ((zA μ129 a134 3) + (1 : Int32)) → ∃ a150 : Nat, (zR μ145 63 this) = some a150 ∧ zC μ145 a150 = 101 ∧ vp_in (nI 2) (zN μ145 a150) ∧ zB w ≤ a150 ∧ vp_in (nI 2) (zN μ145 a150) ∧ ∀ μ161 : Mem, μ161 = zsA μ145 a150 2 ((zA μ145 a150 2) + (1 : Int32)) → ∃ a167 : Nat, (zR μ161 63 this) = some a167 ∧ zC μ161 a167 = 101 ∧ vp_in (nI 2) (zN μ161 a167) ∧ K (.inl (some (tI ((zA μ161 a167 2) - (1 : Int32))))) μ161) (fun q112 μ113 => False))) (fun q88 μ89 => False))) (fun q58 μ59 => False))) ∧ ((zA μ32 a46 3) = (nI 8) → Tr_X3_fail w this (nI 2) μ32 0 0 (zKi (fun v189 μ190 => zM w μ190 → K (.inl (some (tI v189))) μ190) (fun q191 μ192 => False)))) ∧ (v31 = 0 → zC μ32 this = 18 ∧ Tr_X3_fail w this 1 μ32 0 0 (zKi (fun v206 μ207 => zM w μ207 → K (.inl (some (tI v206))) μ207) (fun q208 μ209 => False)))) (fun q33 μ34 => False)))) (fun q3 μ4 => False))) : Tr_X3_adds w this x1 x2 μ mc ms K := by
  refine Tr.of (by decide +kernel) (Nat.le_of_ble_eq_true rfl) (fun g C => ?_)
  show Z w g K mc ms 0 [(0, tR (some this)), (1, tI x1), (2, tI x2)] [] μ 0 0
  refine Z.wm fun m0 => ?_
  have h := h m0
  refine z_iload_n C dX3_adds_0 1 rfl ?_
  refine z_iconst (v := 0) C dX3_adds_1 (by decide) ?_
  refine z_bipush (v := (nI 99)) C dX3_adds_2 (by decide) ?_
  refine Z.kk fun c9 c10 => ?_
  have k8 := h
  refine z_callS (as := [tI x1, tI 0, tI (nI 99)]) (rest := []) C k8 rfl q3692 q3693 q113 q3694 yd_X3_isIn (by decide) (Nat.le_of_ble_eq_true rfl) dX3_adds_4 c9 c10 (zRet_i fun v1 μ2 h7 => ?_) (zThr_i fun _ _ z9 _ _ _ _ => z9.elim)
  · refine Z.wm fun m6 => ?_
    have h5 := h7 m6
    refine z_if_eq C 20 dX3_adds_7 (by decide) (fun c13 => ?_) (fun c13 => ?_)
    · have h11 := h5.1 c13
      refine z_aload_n C dX3_adds_20 0 rfl ?_
      refine z_iconst (v := 1) C dX3_adds_21 (by decide) ?_
      obtain ⟨c14, h15⟩ := h11
      refine Z.kk fun c24 c25 => ?_
      have k23 := h15
      refine z_callV (as := [tI 1]) (rest := []) C k23 rfl rfl (by decide) c14 rfl q3698 q3700 qs62 q113 q3701 yd_X3_fail (by decide) (Nat.le_of_ble_eq_true rfl) dX3_adds_22 c24 c25 (zRet_i fun v16 μ17 h22 => ?_) (zThr_i fun _ _ z9 _ _ _ _ => z9.elim)
      · refine Z.wm fun m21 => ?_
        have h20 := h22 m21
        exact z_ireturn C rfl rfl dX3_adds_25 h20
    · have h12 := h5.2 c13
      refine z_iload_n C dX3_adds_10 2 rfl ?_
      refine z_iconst (v := 1) C dX3_adds_11 (by decide) ?_
      refine z_bipush (v := (nI 9)) C dX3_adds_12 (by decide) ?_
      refine Z.kk fun c39 c40 => ?_
      have k38 := h12
      refine z_callS (as := [tI x2, tI 1, tI (nI 9)]) (rest := []) C k38 rfl q3692 q3693 q113 q3694 yd_X3_isIn (by decide) (Nat.le_of_ble_eq_true rfl) dX3_adds_14 c39 c40 (zRet_i fun v31 μ32 h37 => ?_) (zThr_i fun _ _ z9 _ _ _ _ => z9.elim)
      · refine Z.wm fun m36 => ?_
        have h35 := h37 m36
        refine z_if_ne C 26 dX3_adds_17 (by decide) (fun c43 => ?_) (fun c43 => ?_)
        · have h41 := h35.1 c43
          refine z_aload_n C dX3_adds_26 0 rfl ?_
          obtain ⟨c44, h45⟩ := h41
          refine z_getR C rfl (zFdOf c44 zf_X3_16_18) dX3_adds_27 ?_
          refine z_iconst (v := (nI 3)) C dX3_adds_30 (by decide) ?_
          obtain ⟨a46, e47, h48⟩ := h45
          obtain ⟨c49, h50⟩ := h48
          obtain ⟨c51, h52⟩ := h50
          refine z_iald C e47 c49 c51 dX3_adds_31 ?_
          refine z_istore_n (lv' := [(3, tI (zA μ32 a46 3)), (0, tR (some this)), (1, tI x1), (2, tI x2)]) C dX3_adds_32 (by decide) rfl ?_
          refine z_iload_n C dX3_adds_33 0 rfl ?_
          refine z_bipush (v := (nI 8)) C dX3_adds_34 (by decide) ?_
          refine z_icmp_ne C 45 dX3_adds_36 (by decide) (fun c55 => ?_) (fun c55 => ?_)
          · have h53 := h52.1 c55
            refine z_aload_n C dX3_adds_45 1 rfl ?_
            refine z_getR C rfl (zFdOf c44 zf_X3_16_18) dX3_adds_46 ?_
            refine z_iload_n C dX3_adds_49 0 rfl ?_
            refine z_iconst (v := 0) C dX3_adds_50 (by decide) ?_
            refine Z.kk fun c64 c65 => ?_
            have k63 := h53
            refine z_callS (as := [tI (zA μ32 a46 3), tI 0]) (rest := [tR (zR μ32 63 this)]) C k63 rfl q3765 q3766 q113 q3767 yd_X3_hiking (by decide) (Nat.le_of_ble_eq_true rfl) dX3_adds_51 c64 c65 (zRet_i fun v56 μ57 h62 => ?_) (zThr_i fun _ _ z9 _ _ _ _ => z9.elim)
            · refine Z.wm fun m61 => ?_
              have h60 := h62 m61
              refine z_aload_n C dX3_adds_54 1 rfl ?_
              obtain ⟨c66, h67⟩ := h60
              refine z_getR C rfl (zFdOf c66 zf_X3_16_18) dX3_adds_55 ?_
              refine z_iconst (v := (nI 2)) C dX3_adds_58 (by decide) ?_
              obtain ⟨a68, e69, h70⟩ := h67
              obtain ⟨c71, h72⟩ := h70
              obtain ⟨c73, h74⟩ := h72
              refine z_iald C e69 c71 c73 dX3_adds_59 ?_
              obtain ⟨c75, h76⟩ := h74
              obtain ⟨c77, c78, h79⟩ := h76
              refine z_iast C e47 c75 c77 c78 dX3_adds_60 ?_
              refine Z.mem fun μ81 e82 => ?_
              have h80 := h79 μ81 e82
              have c83 : zC μ81 this = 18 := by rw [e82]; exact c66
              have c84 : zC μ81 a68 = 101 := by rw [e82]; exact c71
              have c85 : zC μ81 a46 = 101 := by rw [e82]; exact c75
              refine z_aload_n C dX3_adds_61 1 rfl ?_
              refine z_getR C rfl (zFdOf c83 zf_X3_16_18) dX3_adds_62 ?_
              refine z_iload_n C dX3_adds_65 0 rfl ?_
              refine z_iconst (v := 1) C dX3_adds_66 (by decide) ?_
              refine Z.kk fun c94 c95 => ?_
              have k93 := h80
              refine z_callS (as := [tI (zA μ32 a46 3), tI 1]) (rest := [tR (zR μ81 63 this)]) C k93 rfl q3765 q3766 q113 q3767 yd_X3_hiking (by decide) (Nat.le_of_ble_eq_true rfl) dX3_adds_67 c94 c95 (zRet_i fun v86 μ87 h92 => ?_) (zThr_i fun _ _ z9 _ _ _ _ => z9.elim)
              · refine Z.wm fun m91 => ?_
                have h90 := h92 m91
                refine z_iload_n C dX3_adds_70 2 rfl ?_
                obtain ⟨a96, e97, h98⟩ := h90
                obtain ⟨c99, h100⟩ := h98
                obtain ⟨c101, c102, h103⟩ := h100
                refine z_iast C e97 c99 c101 c102 dX3_adds_71 ?_
                refine Z.mem fun μ105 e106 => ?_
                have h104 := h103 μ105 e106
                have c107 : zC μ105 a96 = 101 := by rw [e106]; exact c99
                refine z_aload_n C dX3_adds_72 1 rfl ?_
                obtain ⟨c108, h109⟩ := h104
                refine z_getR C rfl (zFdOf c108 zf_X3_16_18) dX3_adds_73 ?_
                refine z_iload_n C dX3_adds_76 0 rfl ?_
                refine z_iconst (v := (nI 2)) C dX3_adds_77 (by decide) ?_
                refine Z.kk fun c118 c119 => ?_
                have k117 := h109
                refine z_callS (as := [tI (zA μ32 a46 3), tI (nI 2)]) (rest := [tR (zR μ105 63 this)]) C k117 rfl q3765 q3766 q113 q3767 yd_X3_hiking (by decide) (Nat.le_of_ble_eq_true rfl) dX3_adds_78 c118 c119 (zRet_i fun v110 μ111 h116 => ?_) (zThr_i fun _ _ z9 _ _ _ _ => z9.elim)
                · refine Z.wm fun m115 => ?_
                  have h114 := h116 m115
                  refine z_iload_n C dX3_adds_81 3 rfl ?_
                  obtain ⟨a120, e121, h122⟩ := h114
                  obtain ⟨c123, h124⟩ := h122
                  obtain ⟨c125, c126, h127⟩ := h124
                  refine z_iast C e121 c123 c125 c126 dX3_adds_82 ?_
                  refine Z.mem fun μ129 e130 => ?_
                  have h128 := h127 μ129 e130
                  have c131 : zC μ129 a120 = 101 := by rw [e130]; exact c123
                  refine z_aload_n C dX3_adds_83 1 rfl ?_
                  obtain ⟨c132, h133⟩ := h128
                  refine z_getR C rfl (zFdOf c132 zf_X3_16_18) dX3_adds_84 ?_
                  refine z_iconst (v := (nI 3)) C dX3_adds_87 (by decide) ?_
                  refine z_dup2 C dX3_adds_88 rfl rfl ?_
                  obtain ⟨a134, e135, h136⟩ := h133
                  obtain ⟨c137, h138⟩ := h136
                  obtain ⟨c139, h140⟩ := h138
                  refine z_iald C e135 c137 c139 dX3_adds_89 ?_
                  refine z_iconst (v := 1) C dX3_adds_90 (by decide) ?_
                  refine z_iadd C dX3_adds_91 ?_
                  obtain ⟨c141, c142, h143⟩ := h140
                  refine z_iast C e135 c137 c141 c142 dX3_adds_92 ?_
                  refine Z.mem fun μ145 e146 => ?_
                  have h144 := h143 μ145 e146
                  have c147 : zC μ145 a120 = 101 := by rw [e146]; exact c131
                  have c148 : zC μ145 this = 18 := by rw [e146]; exact c132
                  have c149 : zC μ145 a134 = 101 := by rw [e146]; exact c137
                  refine z_aload_n C dX3_adds_93 1 rfl ?_
                  refine z_getR C rfl (zFdOf c148 zf_X3_16_18) dX3_adds_94 ?_
                  refine z_iconst (v := (nI 2)) C dX3_adds_97 (by decide) ?_
                  refine z_dup2 C dX3_adds_98 rfl rfl ?_
                  obtain ⟨a150, e151, h152⟩ := h144
                  obtain ⟨c153, h154⟩ := h152
                  obtain ⟨c155, h156⟩ := h154
                  refine z_iald C e151 c153 c155 dX3_adds_99 ?_
                  refine z_iconst (v := 1) C dX3_adds_100 (by decide) ?_
                  refine z_iadd C dX3_adds_101 ?_
                  obtain ⟨c157, c158, h159⟩ := h156
                  refine z_iast C e151 c153 c157 c158 dX3_adds_102 ?_
                  refine Z.mem fun μ161 e162 => ?_
                  have h160 := h159 μ161 e162
                  have c163 : zC μ161 a120 = 101 := by rw [e162]; exact c147
                  have c164 : zC μ161 this = 18 := by rw [e162]; exact c148
                  have c165 : zC μ161 a134 = 101 := by rw [e162]; exact c149
                  have c166 : zC μ161 a150 = 101 := by rw [e162]; exact c153
                  refine z_aload_n C dX3_adds_103 1 rfl ?_
                  refine z_getR C rfl (zFdOf c164 zf_X3_16_18) dX3_adds_104 ?_
                  refine z_iconst (v := (nI 2)) C dX3_adds_107 (by decide) ?_
                  obtain ⟨a167, e168, h169⟩ := h160
                  obtain ⟨c170, h171⟩ := h169
                  obtain ⟨c172, h173⟩ := h171
                  refine z_iald C e168 c170 c172 dX3_adds_108 ?_
                  refine z_iconst (v := 1) C dX3_adds_109 (by decide) ?_
                  refine z_isub C dX3_adds_110 ?_
                  exact z_ireturn C rfl rfl dX3_adds_111 h173
          · have h54 := h52.2 c55
            refine z_aload_n C dX3_adds_39 1 rfl ?_
            refine z_iconst (v := (nI 2)) C dX3_adds_40 (by decide) ?_
            refine Z.kk fun c197 c198 => ?_
            have k196 := h54
            refine z_callV (as := [tI (nI 2)]) (rest := []) C k196 rfl rfl (by decide) c44 rfl q3698 q3700 qs62 q113 q3701 yd_X3_fail (by decide) (Nat.le_of_ble_eq_true rfl) dX3_adds_41 c197 c198 (zRet_i fun v189 μ190 h195 => ?_) (zThr_i fun _ _ z9 _ _ _ _ => z9.elim)
            · refine Z.wm fun m194 => ?_
              have h193 := h195 m194
              exact z_ireturn C rfl rfl dX3_adds_44 h193
        · have h42 := h35.2 c43
          refine z_aload_n C dX3_adds_20 0 rfl ?_
          refine z_iconst (v := 1) C dX3_adds_21 (by decide) ?_
          obtain ⟨c204, h205⟩ := h42
          refine Z.kk fun c214 c215 => ?_
          have k213 := h205
          refine z_callV (as := [tI 1]) (rest := []) C k213 rfl rfl (by decide) c204 rfl q3698 q3700 qs62 q113 q3701 yd_X3_fail (by decide) (Nat.le_of_ble_eq_true rfl) dX3_adds_22 c214 c215 (zRet_i fun v206 μ207 h212 => ?_) (zThr_i fun _ _ z9 _ _ _ _ => z9.elim)
          · refine Z.wm fun m211 => ?_
            have h210 := h212 m211
            exact z_ireturn C rfl rfl dX3_adds_25 h210
/-! HutRidgeModel.addHiker(II)I -/
def Tr_X3_addHiker (w : WT) (this : Nat) (x1 : Int32) (x2 : Int32) (μ : Mem) (mc ms : Nat) (K : Out → Mem → Prop) : Prop := Tr w yX3_addHiker (ws_ yX3_addHiker cX3_addHiker 3 (Option.some Jvm.ClassFile.FieldType.int)) 3 85 [tR (some this), tI x1, tI x2] μ mc ms K
def Cx_X3_addHiker (w : WT) (g : GT) : Prop := Cx w g yX3_addHiker cX3_addHiker 3 (Option.some Jvm.ClassFile.FieldType.int) [] 3 85
theorem yd_X3_addHiker : yX3_addHiker.cls ≠ "java/lang/invoke/MethodHandle" ∧ yX3_addHiker.cls ≠ "java/lang/invoke/VarHandle" ∧ (parseMethodDescriptor yX3_addHiker.desc).map (fun d => d.parameters.length) = some 2 := by decide +kernel
set_option maxHeartbeats 4000000 in
theorem tr_X3_addHiker {w : WT} {this : Nat} {x1 : Int32} {x2 : Int32} {μ : Mem} {mc ms : Nat} {K : Out → Mem → Prop} (h : zM w μ → zC μ this = 18 ∧ Tr_X3_begins w this μ 0 0 (zKv (fun μ4 => zM w μ4 → zC μ4 this = 18 ∧ Tr_X3_adds w this x1 x2 μ4 0 0 (zKi (fun v15 μ16 => zM w μ16 → zC μ16 this = 18 ∧ Tr_X3_ends w this v15 μ16 0 0 (zKi (fun v27 μ28 => zM w μ28 → K (.inl (some (tI v27))) μ28) (fun q29 μ30 => False))) (fun q17 μ18 => False))) (fun q5 μ6 => False))) : Tr_X3_addHiker w this x1 x2 μ mc ms K := by
  refine Tr.of (by decide +kernel) (Nat.le_of_ble_eq_true rfl) (fun g C => ?_)
  show Z w g K mc ms 0 [(0, tR (some this)), (1, tI x1), (2, tI x2)] [] μ 0 0
  refine Z.wm fun m0 => ?_
  have h := h m0
  refine z_aload_n C dX3_addHiker_0 0 rfl ?_
  obtain ⟨c1, h2⟩ := h
  refine Z.kk fun c11 c12 => ?_
  have k10 := h2
  refine z_callV (as := []) (rest := []) C k10 rfl rfl (by decide) c1 rfl q3681 q3683 qs60 q113 q3684 yd_X3_begins (by decide) (Nat.le_of_ble_eq_true rfl) dX3_addHiker_1 c11 c12 (zRet_v fun μ4 h9 => ?_) (zThr_v fun _ _ z9 _ _ _ _ => z9.elim)
  · refine Z.wm fun m8 => ?_
    have h7 := h9 m8
    refine z_aload_n C dX3_addHiker_4 0 rfl ?_
    refine z_aload_n C dX3_addHiker_5 0 rfl ?_
    refine z_iload_n C dX3_addHiker_6 1 rfl ?_
    refine z_iload_n C dX3_addHiker_7 2 rfl ?_
    obtain ⟨c13, h14⟩ := h7
    refine Z.kk fun c23 c24 => ?_
    have k22 := h14
    refine z_callV (as := [tI x1, tI x2]) (rest := [tR (some this)]) C k22 rfl rfl (by decide) c13 rfl q3761 q3763 qs72 q113 q3764 yd_X3_adds (by decide) (Nat.le_of_ble_eq_true rfl) dX3_addHiker_8 c23 c24 (zRet_i fun v15 μ16 h21 => ?_) (zThr_i fun _ _ z9 _ _ _ _ => z9.elim)
    · refine Z.wm fun m20 => ?_
      have h19 := h21 m20
      obtain ⟨c25, h26⟩ := h19
      refine Z.kk fun c35 c36 => ?_
      have k34 := h26
      refine z_callV (as := [tI v15]) (rest := []) C k34 rfl rfl (by decide) c25 rfl q3713 q3715 qs65 q113 q3716 yd_X3_ends (by decide) (Nat.le_of_ble_eq_true rfl) dX3_addHiker_11 c35 c36 (zRet_i fun v27 μ28 h33 => ?_) (zThr_i fun _ _ z9 _ _ _ _ => z9.elim)
      · refine Z.wm fun m32 => ?_
        have h31 := h33 m32
        exact z_ireturn C rfl rfl dX3_addHiker_14 h31
/-! HutRidgeModel.hiker(I)I -/
def Tr_X3_hiker (w : WT) (this : Nat) (x1 : Int32) (μ : Mem) (mc ms : Nat) (K : Out → Mem → Prop) : Prop := Tr w yX3_hiker (ws_ yX3_hiker cX3_hiker 3 (Option.some Jvm.ClassFile.FieldType.int)) 2 61 [tR (some this), tI x1] μ mc ms K
def Cx_X3_hiker (w : WT) (g : GT) : Prop := Cx w g yX3_hiker cX3_hiker 3 (Option.some Jvm.ClassFile.FieldType.int) [] 2 61
theorem yd_X3_hiker : yX3_hiker.cls ≠ "java/lang/invoke/MethodHandle" ∧ yX3_hiker.cls ≠ "java/lang/invoke/VarHandle" ∧ (parseMethodDescriptor yX3_hiker.desc).map (fun d => d.parameters.length) = some 1 := by decide +kernel
def B_X3_hiker_2 (w : WT) (g : GT) (K : Out → Mem → Prop) (mc ms : Nat) (this : Nat) (x1 : Int32) (x2 : Int32)  (μ : Mem) (kc ks : Nat) : Prop := Z w g K mc ms 2 [(0, tR (some this)), (1, tI x1), (2, tI x2)] [] μ kc ks
set_option maxHeartbeats 4000000 in
theorem tr_X3_hiker {w : WT} {this : Nat} {x1 : Int32} {μ : Mem} {mc ms : Nat} {K : Out → Mem → Prop} (h : ∀ g : GT, Cx_X3_hiker w g → zM w μ → B_X3_hiker_2 w g K mc ms this x1 0 μ 0 0) : Tr_X3_hiker w this x1 μ mc ms K := by
  refine Tr.of (by decide +kernel) (Nat.le_of_ble_eq_true rfl) (fun g C => ?_)
  show Z w g K mc ms 0 [(0, tR (some this)), (1, tI x1)] [] μ 0 0
  refine Z.wm fun m0 => ?_
  have h := h g C m0
  refine z_iconst (v := 0) C dX3_hiker_0 (by decide) ?_
  refine z_istore_n (lv' := [(2, tI 0), (0, tR (some this)), (1, tI x1)]) C dX3_hiker_1 (by decide) rfl ?_
  refine Z.sub [1, 2, 0] rfl ?_
  exact h
set_option maxHeartbeats 4000000 in
theorem bk_X3_hiker_2 {w : WT} {g : GT} {K : Out → Mem → Prop} {mc ms : Nat} {this : Nat} {x1 : Int32} {x2 : Int32}  {μ : Mem} {kc ks : Nat} (C : Cx_X3_hiker w g) (h : zM w μ → zC μ this = 18 ∧ ∃ a3 : Nat, (zR μ 63 this) = some a3 ∧ zC μ a3 = 101 ∧ vp_in (nI 3) (zN μ a3) ∧ ((zA μ a3 3) ≤ x2 → K (.inl (some (tI (-1 : Int32)))) μ) ∧ (¬ (zA μ a3 3) ≤ x2 → Tr_X3_hiking w x2 0 μ 0 0 (zKi (fun v13 μ14 => zM w μ14 → zC μ14 a3 = 101 ∧ vp_in v13 (zN μ14 a3) ∧ ((zA μ14 a3 v13.toNatClampNeg) ≠ x1 → B_X3_hiker_2 w g K mc ms this x1 (x2 + 1) μ14 kc ks) ∧ ((zA μ14 a3 v13.toNatClampNeg) = x1 → K (.inl (some (tI x2))) μ14)) (fun q15 μ16 => False)))) : B_X3_hiker_2 w g K mc ms this x1 x2 μ kc ks := by
  unfold Cx_X3_hiker at C
  unfold B_X3_hiker_2
  refine Z.wm fun m0 => ?_
  have h := h m0
  refine z_iload_n C dX3_hiker_2 2 rfl ?_
  refine z_aload_n C dX3_hiker_3 0 rfl ?_
  obtain ⟨c1, h2⟩ := h
  refine z_getR C rfl (zFdOf c1 zf_X3_16_18) dX3_hiker_4 ?_
  refine z_iconst (v := (nI 3)) C dX3_hiker_7 (by decide) ?_
  obtain ⟨a3, e4, h5⟩ := h2
  obtain ⟨c6, h7⟩ := h5
  obtain ⟨c8, h9⟩ := h7
  refine z_iald C e4 c6 c8 dX3_hiker_8 ?_
  refine z_icmp_ge C 34 dX3_hiker_9 (by decide) (fun c12 => ?_) (fun c12 => ?_)
  · have h10 := h9.1 c12
    refine z_iconst (v := (-1 : Int32)) C dX3_hiker_34 (by decide) ?_
    exact z_ireturn C rfl rfl dX3_hiker_35 h10
  · have h11 := h9.2 c12
    refine z_aload_n C dX3_hiker_12 0 rfl ?_
    refine z_getR C rfl (zFdOf c1 zf_X3_16_18) dX3_hiker_13 ?_
    refine z_iload_n C dX3_hiker_16 2 rfl ?_
    refine z_iconst (v := 0) C dX3_hiker_17 (by decide) ?_
    refine Z.kk fun c21 c22 => ?_
    have k20 := h11
    refine z_callS (as := [tI x2, tI 0]) (rest := [tR (zR μ 63 this)]) C k20 rfl q3765 q3766 q113 q3767 yd_X3_hiking (by decide) (Nat.le_of_ble_eq_true rfl) dX3_hiker_18 c21 c22 (zRet_i fun v13 μ14 h19 => ?_) (zThr_i fun _ _ z9 _ _ _ _ => z9.elim)
    · refine Z.wm fun m18 => ?_
      have h17 := h19 m18
      obtain ⟨c23, h24⟩ := h17
      obtain ⟨c25, h26⟩ := h24
      refine z_iald C e4 c23 c25 dX3_hiker_21 ?_
      refine z_iload_n C dX3_hiker_22 1 rfl ?_
      refine z_icmp_ne C 28 dX3_hiker_23 (by decide) (fun c29 => ?_) (fun c29 => ?_)
      · have h27 := h26.1 c29
        refine z_iinc (k0 := 2) (v := x2 + 1) (lv' := [(2, tI (x2 + 1)), (0, tR (some this)), (1, tI x1)]) C dX3_hiker_28 rfl (by first | rfl | decide) (by decide) rfl ?_
        refine z_goto C 2 dX3_hiker_31 (by decide) ?_
        refine Z.sub [1, 2, 0] rfl ?_
        exact h27
      · have h28 := h26.2 c29
        refine z_iload_n C dX3_hiker_26 2 rfl ?_
        exact z_ireturn C rfl rfl dX3_hiker_27 h28
/-! HutRidgeModel.walks(II)I -/
def Tr_X3_walks (w : WT) (this : Nat) (x1 : Int32) (x2 : Int32) (μ : Mem) (mc ms : Nat) (K : Out → Mem → Prop) : Prop := Tr w yX3_walks (ws_ yX3_walks cX3_walks 5 (Option.some Jvm.ClassFile.FieldType.int)) 3 83 [tR (some this), tI x1, tI x2] μ mc ms K
def Cx_X3_walks (w : WT) (g : GT) : Prop := Cx w g yX3_walks cX3_walks 5 (Option.some Jvm.ClassFile.FieldType.int) [] 3 83
theorem yd_X3_walks : yX3_walks.cls ≠ "java/lang/invoke/MethodHandle" ∧ yX3_walks.cls ≠ "java/lang/invoke/VarHandle" ∧ (parseMethodDescriptor yX3_walks.desc).map (fun d => d.parameters.length) = some 2 := by decide +kernel
set_option maxHeartbeats 4000000 in
theorem tr_X3_walks {w : WT} {this : Nat} {x1 : Int32} {x2 : Int32} {μ : Mem} {mc ms : Nat} {K : Out → Mem → Prop} (h : zM w μ → zC μ this = 18 ∧ Tr_X3_hiker w this x1 μ 0 0 (zKi (fun v3 μ4 => zM w μ4 → (0 ≤ v3 → Tr_X3_isIn w x2 0 (nI 99) μ4 0 0 (zKi (fun v16 μ17 => zM w μ17 → (v16 ≠ 0 → zC μ17 this = 18 ∧ Tr_X3_hiking w v3 1 μ17 0 0 (zKi (fun v31 μ32 => zM w μ32 → ∃ a41 : Nat, (zR μ17 63 this) = some a41 ∧ zC μ32 a41 = 101 ∧ vp_in v31 (zN μ32 a41) ∧ zC μ32 this = 18 ∧ Tr_X3_hiking w v3 1 μ32 0 0 (zKi (fun v50 μ51 => zM w μ51 → ∃ a60 : Nat, (zR μ32 63 this) = some a60 ∧ zC μ51 a60 = 101 ∧ zB w ≤ a60 ∧ vp_in v50 (zN μ51 a60) ∧ ∀ μ69 : Mem, μ69 = zsA μ51 a60 v50.toNatClampNeg x2 → K (.inl (some (tI (zA μ32 a41 v31.toNatClampNeg)))) μ69) (fun q52 μ53 => False))) (fun q33 μ34 => False))) ∧ (v16 = 0 → zC μ17 this = 18 ∧ Tr_X3_fail w this (nI 2) μ17 0 0 (zKi (fun v84 μ85 => zM w μ85 → K (.inl (some (tI v84))) μ85) (fun q86 μ87 => False)))) (fun q18 μ19 => False))) ∧ (¬ 0 ≤ v3 → zC μ4 this = 18 ∧ Tr_X3_fail w this 1 μ4 0 0 (zKi (fun v106 μ107 => zM w μ107 → K (.inl (some (tI v106))) μ107) (fun q108 μ109 => False)))) (fun q5 μ6 => False))) : Tr_X3_walks w this x1 x2 μ mc ms K := by
  refine Tr.of (by decide +kernel) (Nat.le_of_ble_eq_true rfl) (fun g C => ?_)
  show Z w g K mc ms 0 [(0, tR (some this)), (1, tI x1), (2, tI x2)] [] μ 0 0
  refine Z.wm fun m0 => ?_
  have h := h m0
  refine z_aload_n C dX3_walks_0 0 rfl ?_
  refine z_iload_n C dX3_walks_1 1 rfl ?_
  obtain ⟨c1, h2⟩ := h
  refine Z.kk fun c11 c12 => ?_
  have k10 := h2
  refine z_callV (as := [tI x1]) (rest := []) C k10 rfl rfl (by decide) c1 rfl q3776 q3778 qs74 q113 q3779 yd_X3_hiker (by decide) (Nat.le_of_ble_eq_true rfl) dX3_walks_2 c11 c12 (zRet_i fun v3 μ4 h9 => ?_) (zThr_i fun _ _ z9 _ _ _ _ => z9.elim)
  · refine Z.wm fun m8 => ?_
    have h7 := h9 m8
    refine z_istore_n (lv' := [(3, tI v3), (0, tR (some this)), (1, tI x1), (2, tI x2)]) C dX3_walks_5 (by decide) rfl ?_
    refine z_iload_n C dX3_walks_6 0 rfl ?_
    refine z_if_ge C 16 dX3_walks_7 (by decide) (fun c15 => ?_) (fun c15 => ?_)
    · have h13 := h7.1 c15
      refine z_iload_n C dX3_walks_16 3 rfl ?_
      refine z_iconst (v := 0) C dX3_walks_17 (by decide) ?_
      refine z_bipush (v := (nI 99)) C dX3_walks_18 (by decide) ?_
      refine Z.kk fun c24 c25 => ?_
      have k23 := h13
      refine z_callS (as := [tI x2, tI 0, tI (nI 99)]) (rest := []) C k23 rfl q3692 q3693 q113 q3694 yd_X3_isIn (by decide) (Nat.le_of_ble_eq_true rfl) dX3_walks_20 c24 c25 (zRet_i fun v16 μ17 h22 => ?_) (zThr_i fun _ _ z9 _ _ _ _ => z9.elim)
      · refine Z.wm fun m21 => ?_
        have h20 := h22 m21
        refine z_if_ne C 32 dX3_walks_23 (by decide) (fun c28 => ?_) (fun c28 => ?_)
        · have h26 := h20.1 c28
          refine z_aload_n C dX3_walks_32 1 rfl ?_
          obtain ⟨c29, h30⟩ := h26
          refine z_getR C rfl (zFdOf c29 zf_X3_16_18) dX3_walks_33 ?_
          refine z_iload_n C dX3_walks_36 0 rfl ?_
          refine z_iconst (v := 1) C dX3_walks_37 (by decide) ?_
          refine Z.kk fun c39 c40 => ?_
          have k38 := h30
          refine z_callS (as := [tI v3, tI 1]) (rest := [tR (zR μ17 63 this)]) C k38 rfl q3765 q3766 q113 q3767 yd_X3_hiking (by decide) (Nat.le_of_ble_eq_true rfl) dX3_walks_38 c39 c40 (zRet_i fun v31 μ32 h37 => ?_) (zThr_i fun _ _ z9 _ _ _ _ => z9.elim)
          · refine Z.wm fun m36 => ?_
            have h35 := h37 m36
            obtain ⟨a41, e42, h43⟩ := h35
            obtain ⟨c44, h45⟩ := h43
            obtain ⟨c46, h47⟩ := h45
            refine z_iald C e42 c44 c46 dX3_walks_41 ?_
            refine z_istore (lv' := [(4, tI (zA μ32 a41 v31.toNatClampNeg)), (3, tI v3), (0, tR (some this)), (1, tI x1), (2, tI x2)]) C dX3_walks_42 (by decide) rfl ?_
            refine z_aload_n C dX3_walks_44 2 rfl ?_
            obtain ⟨c48, h49⟩ := h47
            refine z_getR C rfl (zFdOf c48 zf_X3_16_18) dX3_walks_45 ?_
            refine z_iload_n C dX3_walks_48 1 rfl ?_
            refine z_iconst (v := 1) C dX3_walks_49 (by decide) ?_
            refine Z.kk fun c58 c59 => ?_
            have k57 := h49
            refine z_callS (as := [tI v3, tI 1]) (rest := [tR (zR μ32 63 this)]) C k57 rfl q3765 q3766 q113 q3767 yd_X3_hiking (by decide) (Nat.le_of_ble_eq_true rfl) dX3_walks_50 c58 c59 (zRet_i fun v50 μ51 h56 => ?_) (zThr_i fun _ _ z9 _ _ _ _ => z9.elim)
            · refine Z.wm fun m55 => ?_
              have h54 := h56 m55
              refine z_iload_n C dX3_walks_53 4 rfl ?_
              obtain ⟨a60, e61, h62⟩ := h54
              obtain ⟨c63, h64⟩ := h62
              obtain ⟨c65, c66, h67⟩ := h64
              refine z_iast C e61 c63 c65 c66 dX3_walks_54 ?_
              refine Z.mem fun μ69 e70 => ?_
              have h68 := h67 μ69 e70
              have c71 : zC μ69 a60 = 101 := by rw [e70]; exact c63
              refine z_iload C dX3_walks_55 0 rfl ?_
              exact z_ireturn C rfl rfl dX3_walks_57 h68
        · have h27 := h20.2 c28
          refine z_aload_n C dX3_walks_26 1 rfl ?_
          refine z_iconst (v := (nI 2)) C dX3_walks_27 (by decide) ?_
          obtain ⟨c82, h83⟩ := h27
          refine Z.kk fun c92 c93 => ?_
          have k91 := h83
          refine z_callV (as := [tI (nI 2)]) (rest := []) C k91 rfl rfl (by decide) c82 rfl q3698 q3700 qs62 q113 q3701 yd_X3_fail (by decide) (Nat.le_of_ble_eq_true rfl) dX3_walks_28 c92 c93 (zRet_i fun v84 μ85 h90 => ?_) (zThr_i fun _ _ z9 _ _ _ _ => z9.elim)
          · refine Z.wm fun m89 => ?_
            have h88 := h90 m89
            exact z_ireturn C rfl rfl dX3_walks_31 h88
    · have h14 := h7.2 c15
      refine z_aload_n C dX3_walks_10 1 rfl ?_
      refine z_iconst (v := 1) C dX3_walks_11 (by decide) ?_
      obtain ⟨c104, h105⟩ := h14
      refine Z.kk fun c114 c115 => ?_
      have k113 := h105
      refine z_callV (as := [tI 1]) (rest := []) C k113 rfl rfl (by decide) c104 rfl q3698 q3700 qs62 q113 q3701 yd_X3_fail (by decide) (Nat.le_of_ble_eq_true rfl) dX3_walks_12 c114 c115 (zRet_i fun v106 μ107 h112 => ?_) (zThr_i fun _ _ z9 _ _ _ _ => z9.elim)
      · refine Z.wm fun m111 => ?_
        have h110 := h112 m111
        exact z_ireturn C rfl rfl dX3_walks_15 h110
/-! HutRidgeModel.moveHiker(II)I -/
def Tr_X3_moveHiker (w : WT) (this : Nat) (x1 : Int32) (x2 : Int32) (μ : Mem) (mc ms : Nat) (K : Out → Mem → Prop) : Prop := Tr w yX3_moveHiker (ws_ yX3_moveHiker cX3_moveHiker 3 (Option.some Jvm.ClassFile.FieldType.int)) 4 107 [tR (some this), tI x1, tI x2] μ mc ms K
def Cx_X3_moveHiker (w : WT) (g : GT) : Prop := Cx w g yX3_moveHiker cX3_moveHiker 3 (Option.some Jvm.ClassFile.FieldType.int) [] 4 107
theorem yd_X3_moveHiker : yX3_moveHiker.cls ≠ "java/lang/invoke/MethodHandle" ∧ yX3_moveHiker.cls ≠ "java/lang/invoke/VarHandle" ∧ (parseMethodDescriptor yX3_moveHiker.desc).map (fun d => d.parameters.length) = some 2 := by decide +kernel
set_option maxHeartbeats 4000000 in
theorem tr_X3_moveHiker {w : WT} {this : Nat} {x1 : Int32} {x2 : Int32} {μ : Mem} {mc ms : Nat} {K : Out → Mem → Prop} (h : zM w μ → zC μ this = 18 ∧ Tr_X3_begins w this μ 0 0 (zKv (fun μ4 => zM w μ4 → zC μ4 this = 18 ∧ Tr_X3_walks w this x1 x2 μ4 0 0 (zKi (fun v15 μ16 => zM w μ16 → zC μ16 this = 18 ∧ Tr_X3_ends w this v15 μ16 0 0 (zKi (fun v27 μ28 => zM w μ28 → K (.inl (some (tI v27))) μ28) (fun q29 μ30 => False))) (fun q17 μ18 => False))) (fun q5 μ6 => False))) : Tr_X3_moveHiker w this x1 x2 μ mc ms K := by
  refine Tr.of (by decide +kernel) (Nat.le_of_ble_eq_true rfl) (fun g C => ?_)
  show Z w g K mc ms 0 [(0, tR (some this)), (1, tI x1), (2, tI x2)] [] μ 0 0
  refine Z.wm fun m0 => ?_
  have h := h m0
  refine z_aload_n C dX3_moveHiker_0 0 rfl ?_
  obtain ⟨c1, h2⟩ := h
  refine Z.kk fun c11 c12 => ?_
  have k10 := h2
  refine z_callV (as := []) (rest := []) C k10 rfl rfl (by decide) c1 rfl q3681 q3683 qs60 q113 q3684 yd_X3_begins (by decide) (Nat.le_of_ble_eq_true rfl) dX3_moveHiker_1 c11 c12 (zRet_v fun μ4 h9 => ?_) (zThr_v fun _ _ z9 _ _ _ _ => z9.elim)
  · refine Z.wm fun m8 => ?_
    have h7 := h9 m8
    refine z_aload_n C dX3_moveHiker_4 0 rfl ?_
    refine z_aload_n C dX3_moveHiker_5 0 rfl ?_
    refine z_iload_n C dX3_moveHiker_6 1 rfl ?_
    refine z_iload_n C dX3_moveHiker_7 2 rfl ?_
    obtain ⟨c13, h14⟩ := h7
    refine Z.kk fun c23 c24 => ?_
    have k22 := h14
    refine z_callV (as := [tI x1, tI x2]) (rest := [tR (some this)]) C k22 rfl rfl (by decide) c13 rfl q3772 q3774 qs73 q113 q3775 yd_X3_walks (by decide) (Nat.le_of_ble_eq_true rfl) dX3_moveHiker_8 c23 c24 (zRet_i fun v15 μ16 h21 => ?_) (zThr_i fun _ _ z9 _ _ _ _ => z9.elim)
    · refine Z.wm fun m20 => ?_
      have h19 := h21 m20
      obtain ⟨c25, h26⟩ := h19
      refine Z.kk fun c35 c36 => ?_
      have k34 := h26
      refine z_callV (as := [tI v15]) (rest := []) C k34 rfl rfl (by decide) c25 rfl q3713 q3715 qs65 q113 q3716 yd_X3_ends (by decide) (Nat.le_of_ble_eq_true rfl) dX3_moveHiker_11 c35 c36 (zRet_i fun v27 μ28 h33 => ?_) (zThr_i fun _ _ z9 _ _ _ _ => z9.elim)
      · refine Z.wm fun m32 => ?_
        have h31 := h33 m32
        exact z_ireturn C rfl rfl dX3_moveHiker_14 h31
/-! HutRidgeModel.leaves(I)I -/
def Tr_X3_leaves (w : WT) (this : Nat) (x1 : Int32) (μ : Mem) (mc ms : Nat) (K : Out → Mem → Prop) : Prop := Tr w yX3_leaves (ws_ yX3_leaves cX3_leaves 4 (Option.some Jvm.ClassFile.FieldType.int)) 3 83 [tR (some this), tI x1] μ mc ms K
def Cx_X3_leaves (w : WT) (g : GT) : Prop := Cx w g yX3_leaves cX3_leaves 4 (Option.some Jvm.ClassFile.FieldType.int) [] 3 83
theorem yd_X3_leaves : yX3_leaves.cls ≠ "java/lang/invoke/MethodHandle" ∧ yX3_leaves.cls ≠ "java/lang/invoke/VarHandle" ∧ (parseMethodDescriptor yX3_leaves.desc).map (fun d => d.parameters.length) = some 1 := by decide +kernel
def B_X3_leaves_22 (w : WT) (g : GT) (K : Out → Mem → Prop) (mc ms : Nat) (this : Nat) (x3 : Int32)  (μ : Mem) (kc ks : Nat) : Prop := Z w g K mc ms 22 [(0, tR (some this)), (3, tI x3)] [] μ kc ks
set_option maxHeartbeats 4000000 in
theorem tr_X3_leaves {w : WT} {this : Nat} {x1 : Int32} {μ : Mem} {mc ms : Nat} {K : Out → Mem → Prop} (h : ∀ g : GT, Cx_X3_leaves w g → zM w μ → zC μ this = 18 ∧ Tr_X3_hiker w this x1 μ 0 0 (zKi (fun v3 μ4 => zM w μ4 → (0 ≤ v3 → Tr_X3_hiking w v3 0 μ4 0 0 (zKi (fun v16 μ17 => zM w μ17 → B_X3_leaves_22 w g K mc ms this v16 μ17 0 0) (fun q18 μ19 => False))) ∧ (¬ 0 ≤ v3 → zC μ4 this = 18 ∧ Tr_X3_fail w this 1 μ4 0 0 (zKi (fun v33 μ34 => zM w μ34 → K (.inl (some (tI v33))) μ34) (fun q35 μ36 => False)))) (fun q5 μ6 => False))) : Tr_X3_leaves w this x1 μ mc ms K := by
  refine Tr.of (by decide +kernel) (Nat.le_of_ble_eq_true rfl) (fun g C => ?_)
  show Z w g K mc ms 0 [(0, tR (some this)), (1, tI x1)] [] μ 0 0
  refine Z.wm fun m0 => ?_
  have h := h g C m0
  refine z_aload_n C dX3_leaves_0 0 rfl ?_
  refine z_iload_n C dX3_leaves_1 1 rfl ?_
  obtain ⟨c1, h2⟩ := h
  refine Z.kk fun c11 c12 => ?_
  have k10 := h2
  refine z_callV (as := [tI x1]) (rest := []) C k10 rfl rfl (by decide) c1 rfl q3776 q3778 qs74 q113 q3779 yd_X3_hiker (by decide) (Nat.le_of_ble_eq_true rfl) dX3_leaves_2 c11 c12 (zRet_i fun v3 μ4 h9 => ?_) (zThr_i fun _ _ z9 _ _ _ _ => z9.elim)
  · refine Z.wm fun m8 => ?_
    have h7 := h9 m8
    refine z_istore_n (lv' := [(2, tI v3), (0, tR (some this)), (1, tI x1)]) C dX3_leaves_5 (by decide) rfl ?_
    refine z_iload_n C dX3_leaves_6 0 rfl ?_
    refine z_if_ge C 16 dX3_leaves_7 (by decide) (fun c15 => ?_) (fun c15 => ?_)
    · have h13 := h7.1 c15
      refine z_iload_n C dX3_leaves_16 0 rfl ?_
      refine z_iconst (v := 0) C dX3_leaves_17 (by decide) ?_
      refine Z.kk fun c24 c25 => ?_
      have k23 := h13
      refine z_callS (as := [tI v3, tI 0]) (rest := []) C k23 rfl q3765 q3766 q113 q3767 yd_X3_hiking (by decide) (Nat.le_of_ble_eq_true rfl) dX3_leaves_18 c24 c25 (zRet_i fun v16 μ17 h22 => ?_) (zThr_i fun _ _ z9 _ _ _ _ => z9.elim)
      · refine Z.wm fun m21 => ?_
        have h20 := h22 m21
        refine z_istore_n (lv' := [(3, tI v16), (2, tI v3), (0, tR (some this)), (1, tI x1)]) C dX3_leaves_21 (by decide) rfl ?_
        refine Z.sub [2, 0] rfl ?_
        exact h20
    · have h14 := h7.2 c15
      refine z_aload_n C dX3_leaves_10 1 rfl ?_
      refine z_iconst (v := 1) C dX3_leaves_11 (by decide) ?_
      obtain ⟨c31, h32⟩ := h14
      refine Z.kk fun c41 c42 => ?_
      have k40 := h32
      refine z_callV (as := [tI 1]) (rest := []) C k40 rfl rfl (by decide) c31 rfl q3698 q3700 qs62 q113 q3701 yd_X3_fail (by decide) (Nat.le_of_ble_eq_true rfl) dX3_leaves_12 c41 c42 (zRet_i fun v33 μ34 h39 => ?_) (zThr_i fun _ _ z9 _ _ _ _ => z9.elim)
      · refine Z.wm fun m38 => ?_
        have h37 := h39 m38
        exact z_ireturn C rfl rfl dX3_leaves_15 h37
set_option maxHeartbeats 4000000 in
theorem bk_X3_leaves_22 {w : WT} {g : GT} {K : Out → Mem → Prop} {mc ms : Nat} {this : Nat} {x3 : Int32}  {μ : Mem} {kc ks : Nat} (C : Cx_X3_leaves w g) (h : zM w μ → ((nI 94) ≤ x3 → zC μ this = 18 ∧ ∃ a6 : Nat, (zR μ 63 this) = some a6 ∧ zC μ a6 = 101 ∧ vp_in (nI 3) (zN μ a6) ∧ zB w ≤ a6 ∧ vp_in (nI 3) (zN μ a6) ∧ ∀ μ17 : Mem, μ17 = zsA μ a6 3 ((zA μ a6 3) - (1 : Int32)) → ∃ a21 : Nat, (zR μ17 63 this) = some a21 ∧ zC μ17 a21 = 101 ∧ vp_in (nI 3) (zN μ17 a21) ∧ K (.inl (some (tI (zA μ17 a21 3)))) μ17) ∧ (¬ (nI 94) ≤ x3 → zC μ this = 18 ∧ ((nI 94) ≤ (x3 + (nI 3)) → ∃ a33 : Nat, (zR μ 63 this) = some a33 ∧ zC μ a33 = 101 ∧ zB w ≤ a33 ∧ vp_in x3 (zN μ a33) ∧ ∀ μ42 : Mem, μ42 = zsA μ a33 x3.toNatClampNeg 0 → B_X3_leaves_22 w g K mc ms this (x3 + 1) μ42 kc ks) ∧ (¬ (nI 94) ≤ (x3 + (nI 3)) → ∃ a46 : Nat, (zR μ 63 this) = some a46 ∧ zC μ a46 = 101 ∧ vp_in (x3 + (nI 3)) (zN μ a46) ∧ zB w ≤ a46 ∧ vp_in x3 (zN μ a46) ∧ ∀ μ57 : Mem, μ57 = zsA μ a46 x3.toNatClampNeg (zA μ a46 (x3 + (nI 3)).toNatClampNeg) → B_X3_leaves_22 w g K mc ms this (x3 + 1) μ57 kc ks))) : B_X3_leaves_22 w g K mc ms this x3 μ kc ks := by
  unfold Cx_X3_leaves at C
  unfold B_X3_leaves_22
  refine Z.wm fun m0 => ?_
  have h := h m0
  refine z_iload_n C dX3_leaves_22 1 rfl ?_
  refine z_bipush (v := (nI 94)) C dX3_leaves_23 (by decide) ?_
  refine z_icmp_ge C 60 dX3_leaves_25 (by decide) (fun c3 => ?_) (fun c3 => ?_)
  · have h1 := h.1 c3
    refine z_aload_n C dX3_leaves_60 0 rfl ?_
    obtain ⟨c4, h5⟩ := h1
    refine z_getR C rfl (zFdOf c4 zf_X3_16_18) dX3_leaves_61 ?_
    refine z_iconst (v := (nI 3)) C dX3_leaves_64 (by decide) ?_
    refine z_dup2 C dX3_leaves_65 rfl rfl ?_
    obtain ⟨a6, e7, h8⟩ := h5
    obtain ⟨c9, h10⟩ := h8
    obtain ⟨c11, h12⟩ := h10
    refine z_iald C e7 c9 c11 dX3_leaves_66 ?_
    refine z_iconst (v := 1) C dX3_leaves_67 (by decide) ?_
    refine z_isub C dX3_leaves_68 ?_
    obtain ⟨c13, c14, h15⟩ := h12
    refine z_iast C e7 c9 c13 c14 dX3_leaves_69 ?_
    refine Z.mem fun μ17 e18 => ?_
    have h16 := h15 μ17 e18
    have c19 : zC μ17 this = 18 := by rw [e18]; exact c4
    have c20 : zC μ17 a6 = 101 := by rw [e18]; exact c9
    refine z_aload_n C dX3_leaves_70 0 rfl ?_
    refine z_getR C rfl (zFdOf c19 zf_X3_16_18) dX3_leaves_71 ?_
    refine z_iconst (v := (nI 3)) C dX3_leaves_74 (by decide) ?_
    obtain ⟨a21, e22, h23⟩ := h16
    obtain ⟨c24, h25⟩ := h23
    obtain ⟨c26, h27⟩ := h25
    refine z_iald C e22 c24 c26 dX3_leaves_75 ?_
    exact z_ireturn C rfl rfl dX3_leaves_76 h27
  · have h2 := h.2 c3
    refine z_aload_n C dX3_leaves_28 0 rfl ?_
    obtain ⟨c28, h29⟩ := h2
    refine z_getR C rfl (zFdOf c28 zf_X3_16_18) dX3_leaves_29 ?_
    refine z_iload_n C dX3_leaves_32 1 rfl ?_
    refine z_iload_n C dX3_leaves_33 1 rfl ?_
    refine z_iconst (v := (nI 3)) C dX3_leaves_34 (by decide) ?_
    refine z_iadd C dX3_leaves_35 ?_
    refine z_bipush (v := (nI 94)) C dX3_leaves_36 (by decide) ?_
    refine z_icmp_ge C 52 dX3_leaves_38 (by decide) (fun c32 => ?_) (fun c32 => ?_)
    · have h30 := h29.1 c32
      refine z_iconst (v := 0) C dX3_leaves_52 (by decide) ?_
      obtain ⟨a33, e34, h35⟩ := h30
      obtain ⟨c36, h37⟩ := h35
      obtain ⟨c38, c39, h40⟩ := h37
      refine z_iast C e34 c36 c38 c39 dX3_leaves_53 ?_
      refine Z.mem fun μ42 e43 => ?_
      have h41 := h40 μ42 e43
      have c44 : zC μ42 this = 18 := by rw [e43]; exact c28
      have c45 : zC μ42 a33 = 101 := by rw [e43]; exact c36
      refine z_iinc (k0 := 1) (v := x3 + 1) (lv' := [(3, tI (x3 + 1)), (0, tR (some this))]) C dX3_leaves_54 rfl (by first | rfl | decide) (by decide) rfl ?_
      refine z_goto C 22 dX3_leaves_57 (by decide) ?_
      refine Z.sub [1, 0] rfl ?_
      exact h41
    · have h31 := h29.2 c32
      refine z_aload_n C dX3_leaves_41 0 rfl ?_
      refine z_getR C rfl (zFdOf c28 zf_X3_16_18) dX3_leaves_42 ?_
      refine z_iload_n C dX3_leaves_45 1 rfl ?_
      refine z_iconst (v := (nI 3)) C dX3_leaves_46 (by decide) ?_
      refine z_iadd C dX3_leaves_47 ?_
      obtain ⟨a46, e47, h48⟩ := h31
      obtain ⟨c49, h50⟩ := h48
      obtain ⟨c51, h52⟩ := h50
      refine z_iald C e47 c49 c51 dX3_leaves_48 ?_
      refine z_goto C 53 dX3_leaves_49 (by decide) ?_
      obtain ⟨c53, c54, h55⟩ := h52
      refine z_iast C e47 c49 c53 c54 dX3_leaves_53 ?_
      refine Z.mem fun μ57 e58 => ?_
      have h56 := h55 μ57 e58
      have c59 : zC μ57 this = 18 := by rw [e58]; exact c28
      have c60 : zC μ57 a46 = 101 := by rw [e58]; exact c49
      refine z_iinc (k0 := 1) (v := x3 + 1) (lv' := [(3, tI (x3 + 1)), (0, tR (some this))]) C dX3_leaves_54 rfl (by first | rfl | decide) (by decide) rfl ?_
      refine z_goto C 22 dX3_leaves_57 (by decide) ?_
      refine Z.sub [1, 0] rfl ?_
      exact h56
/-! HutRidgeModel.removeHiker(I)I -/
def Tr_X3_removeHiker (w : WT) (this : Nat) (x1 : Int32) (μ : Mem) (mc ms : Nat) (K : Out → Mem → Prop) : Prop := Tr w yX3_removeHiker (ws_ yX3_removeHiker cX3_removeHiker 2 (Option.some Jvm.ClassFile.FieldType.int)) 4 106 [tR (some this), tI x1] μ mc ms K
def Cx_X3_removeHiker (w : WT) (g : GT) : Prop := Cx w g yX3_removeHiker cX3_removeHiker 2 (Option.some Jvm.ClassFile.FieldType.int) [] 4 106
theorem yd_X3_removeHiker : yX3_removeHiker.cls ≠ "java/lang/invoke/MethodHandle" ∧ yX3_removeHiker.cls ≠ "java/lang/invoke/VarHandle" ∧ (parseMethodDescriptor yX3_removeHiker.desc).map (fun d => d.parameters.length) = some 1 := by decide +kernel
set_option maxHeartbeats 4000000 in
theorem tr_X3_removeHiker {w : WT} {this : Nat} {x1 : Int32} {μ : Mem} {mc ms : Nat} {K : Out → Mem → Prop} (h : zM w μ → zC μ this = 18 ∧ Tr_X3_begins w this μ 0 0 (zKv (fun μ4 => zM w μ4 → zC μ4 this = 18 ∧ Tr_X3_leaves w this x1 μ4 0 0 (zKi (fun v15 μ16 => zM w μ16 → zC μ16 this = 18 ∧ Tr_X3_ends w this v15 μ16 0 0 (zKi (fun v27 μ28 => zM w μ28 → K (.inl (some (tI v27))) μ28) (fun q29 μ30 => False))) (fun q17 μ18 => False))) (fun q5 μ6 => False))) : Tr_X3_removeHiker w this x1 μ mc ms K := by
  refine Tr.of (by decide +kernel) (Nat.le_of_ble_eq_true rfl) (fun g C => ?_)
  show Z w g K mc ms 0 [(0, tR (some this)), (1, tI x1)] [] μ 0 0
  refine Z.wm fun m0 => ?_
  have h := h m0
  refine z_aload_n C dX3_removeHiker_0 0 rfl ?_
  obtain ⟨c1, h2⟩ := h
  refine Z.kk fun c11 c12 => ?_
  have k10 := h2
  refine z_callV (as := []) (rest := []) C k10 rfl rfl (by decide) c1 rfl q3681 q3683 qs60 q113 q3684 yd_X3_begins (by decide) (Nat.le_of_ble_eq_true rfl) dX3_removeHiker_1 c11 c12 (zRet_v fun μ4 h9 => ?_) (zThr_v fun _ _ z9 _ _ _ _ => z9.elim)
  · refine Z.wm fun m8 => ?_
    have h7 := h9 m8
    refine z_aload_n C dX3_removeHiker_4 0 rfl ?_
    refine z_aload_n C dX3_removeHiker_5 0 rfl ?_
    refine z_iload_n C dX3_removeHiker_6 1 rfl ?_
    obtain ⟨c13, h14⟩ := h7
    refine Z.kk fun c23 c24 => ?_
    have k22 := h14
    refine z_callV (as := [tI x1]) (rest := [tR (some this)]) C k22 rfl rfl (by decide) c13 rfl q3784 q3786 qs75 q113 q3787 yd_X3_leaves (by decide) (Nat.le_of_ble_eq_true rfl) dX3_removeHiker_7 c23 c24 (zRet_i fun v15 μ16 h21 => ?_) (zThr_i fun _ _ z9 _ _ _ _ => z9.elim)
    · refine Z.wm fun m20 => ?_
      have h19 := h21 m20
      obtain ⟨c25, h26⟩ := h19
      refine Z.kk fun c35 c36 => ?_
      have k34 := h26
      refine z_callV (as := [tI v15]) (rest := []) C k34 rfl rfl (by decide) c25 rfl q3713 q3715 qs65 q113 q3716 yd_X3_ends (by decide) (Nat.le_of_ble_eq_true rfl) dX3_removeHiker_10 c35 c36 (zRet_i fun v27 μ28 h33 => ?_) (zThr_i fun _ _ z9 _ _ _ _ => z9.elim)
      · refine Z.wm fun m32 => ?_
        have h31 := h33 m32
        exact z_ireturn C rfl rfl dX3_removeHiker_13 h31
/-! HutRidgeModel.tells(I)I -/
def Tr_X3_tells (w : WT) (this : Nat) (x1 : Int32) (μ : Mem) (mc ms : Nat) (K : Out → Mem → Prop) : Prop := Tr w yX3_tells (ws_ yX3_tells cX3_tells 2 (Option.some Jvm.ClassFile.FieldType.int)) 1 40 [tR (some this), tI x1] μ mc ms K
def Cx_X3_tells (w : WT) (g : GT) : Prop := Cx w g yX3_tells cX3_tells 2 (Option.some Jvm.ClassFile.FieldType.int) [] 1 40
theorem yd_X3_tells : yX3_tells.cls ≠ "java/lang/invoke/MethodHandle" ∧ yX3_tells.cls ≠ "java/lang/invoke/VarHandle" ∧ (parseMethodDescriptor yX3_tells.desc).map (fun d => d.parameters.length) = some 1 := by decide +kernel
set_option maxHeartbeats 4000000 in
theorem tr_X3_tells {w : WT} {this : Nat} {x1 : Int32} {μ : Mem} {mc ms : Nat} {K : Out → Mem → Prop} (h : zM w μ → zC μ this = 18 ∧ ∀ μ3 : Mem, μ3 = zsI μ 57 this 0 → ∃ a7 : Nat, (zR μ3 63 this) = some a7 ∧ zC μ3 a7 = 101 ∧ vp_in x1 (zN μ3 a7) ∧ K (.inl (some (tI (zA μ3 a7 x1.toNatClampNeg)))) μ3) : Tr_X3_tells w this x1 μ mc ms K := by
  refine Tr.of (by decide +kernel) (Nat.le_of_ble_eq_true rfl) (fun g C => ?_)
  show Z w g K mc ms 0 [(0, tR (some this)), (1, tI x1)] [] μ 0 0
  refine Z.wm fun m0 => ?_
  have h := h m0
  refine z_aload_n C dX3_tells_0 0 rfl ?_
  refine z_iconst (v := 0) C dX3_tells_1 (by decide) ?_
  obtain ⟨c1, h2⟩ := h
  refine z_putI C rfl (zFpOf c1 (zp_X3_56_18 rfl)) (Or.inl (zFzOf c1 rfl)) rfl rfl dX3_tells_2 ?_
  refine Z.mem fun μ3 e5 => ?_
  have h4 := h2 μ3 e5
  have c6 : zC μ3 this = 18 := by rw [e5]; exact c1
  refine z_aload_n C dX3_tells_5 0 rfl ?_
  refine z_getR C rfl (zFdOf c6 zf_X3_16_18) dX3_tells_6 ?_
  refine z_iload_n C dX3_tells_9 1 rfl ?_
  obtain ⟨a7, e8, h9⟩ := h4
  obtain ⟨c10, h11⟩ := h9
  obtain ⟨c12, h13⟩ := h11
  refine z_iald C e8 c10 c12 dX3_tells_10 ?_
  exact z_ireturn C rfl rfl dX3_tells_11 h13
/-! HutRidgeModel.hutCount()I -/
def Tr_X3_hutCount (w : WT) (this : Nat) (μ : Mem) (mc ms : Nat) (K : Out → Mem → Prop) : Prop := Tr w yX3_hutCount (ws_ yX3_hutCount cX3_hutCount 1 (Option.some Jvm.ClassFile.FieldType.int)) 2 61 [tR (some this)] μ mc ms K
def Cx_X3_hutCount (w : WT) (g : GT) : Prop := Cx w g yX3_hutCount cX3_hutCount 1 (Option.some Jvm.ClassFile.FieldType.int) [] 2 61
theorem yd_X3_hutCount : yX3_hutCount.cls ≠ "java/lang/invoke/MethodHandle" ∧ yX3_hutCount.cls ≠ "java/lang/invoke/VarHandle" ∧ (parseMethodDescriptor yX3_hutCount.desc).map (fun d => d.parameters.length) = some 0 := by decide +kernel
set_option maxHeartbeats 4000000 in
theorem tr_X3_hutCount {w : WT} {this : Nat} {μ : Mem} {mc ms : Nat} {K : Out → Mem → Prop} (h : zM w μ → zC μ this = 18 ∧ Tr_X3_tells w this 0 μ 0 0 (zKi (fun v3 μ4 => zM w μ4 → K (.inl (some (tI v3))) μ4) (fun q5 μ6 => False))) : Tr_X3_hutCount w this μ mc ms K := by
  refine Tr.of (by decide +kernel) (Nat.le_of_ble_eq_true rfl) (fun g C => ?_)
  show Z w g K mc ms 0 [(0, tR (some this))] [] μ 0 0
  refine Z.wm fun m0 => ?_
  have h := h m0
  refine z_aload_n C dX3_hutCount_0 0 rfl ?_
  refine z_iconst (v := 0) C dX3_hutCount_1 (by decide) ?_
  obtain ⟨c1, h2⟩ := h
  refine Z.kk fun c11 c12 => ?_
  have k10 := h2
  refine z_callV (as := [tI 0]) (rest := []) C k10 rfl rfl (by decide) c1 rfl q3792 q3794 qs76 q113 q3795 yd_X3_tells (by decide) (Nat.le_of_ble_eq_true rfl) dX3_hutCount_2 c11 c12 (zRet_i fun v3 μ4 h9 => ?_) (zThr_i fun _ _ z9 _ _ _ _ => z9.elim)
  · refine Z.wm fun m8 => ?_
    have h7 := h9 m8
    exact z_ireturn C rfl rfl dX3_hutCount_5 h7
/-! HutRidgeModel.about(II)I -/
def Tr_X3_about (w : WT) (this : Nat) (x1 : Int32) (x2 : Int32) (μ : Mem) (mc ms : Nat) (K : Out → Mem → Prop) : Prop := Tr w yX3_about (ws_ yX3_about cX3_about 4 (Option.some Jvm.ClassFile.FieldType.int)) 4 104 [tR (some this), tI x1, tI x2] μ mc ms K
def Cx_X3_about (w : WT) (g : GT) : Prop := Cx w g yX3_about cX3_about 4 (Option.some Jvm.ClassFile.FieldType.int) [] 4 104
theorem yd_X3_about : yX3_about.cls ≠ "java/lang/invoke/MethodHandle" ∧ yX3_about.cls ≠ "java/lang/invoke/VarHandle" ∧ (parseMethodDescriptor yX3_about.desc).map (fun d => d.parameters.length) = some 2 := by decide +kernel
def B_X3_about_16 (w : WT) (g : GT) (K : Out → Mem → Prop) (mc ms : Nat) (this : Nat) (x2 : Int32) (x3 : Int32) (s0 : Int32) (s1 : Option Nat) (μ : Mem) (kc ks : Nat) : Prop := Z w g K mc ms 16 [(0, tR (some this)), (2, tI x2), (3, tI x3)] [tI s0, tR s1] μ kc ks
set_option maxHeartbeats 4000000 in
theorem tr_X3_about {w : WT} {this : Nat} {x1 : Int32} {x2 : Int32} {μ : Mem} {mc ms : Nat} {K : Out → Mem → Prop} (h : ∀ g : GT, Cx_X3_about w g → zM w μ → zC μ this = 18 ∧ Tr_X3_hut w this x1 μ 0 0 (zKi (fun v3 μ4 => zM w μ4 → (0 ≤ v3 → B_X3_about_16 w g K mc ms this x2 v3 0 (some this) μ4 0 0) ∧ (¬ 0 ≤ v3 → B_X3_about_16 w g K mc ms this x2 v3 1 (some this) μ4 0 0)) (fun q5 μ6 => False))) : Tr_X3_about w this x1 x2 μ mc ms K := by
  refine Tr.of (by decide +kernel) (Nat.le_of_ble_eq_true rfl) (fun g C => ?_)
  show Z w g K mc ms 0 [(0, tR (some this)), (1, tI x1), (2, tI x2)] [] μ 0 0
  refine Z.wm fun m0 => ?_
  have h := h g C m0
  refine z_aload_n C dX3_about_0 0 rfl ?_
  refine z_iload_n C dX3_about_1 1 rfl ?_
  obtain ⟨c1, h2⟩ := h
  refine Z.kk fun c11 c12 => ?_
  have k10 := h2
  refine z_callV (as := [tI x1]) (rest := []) C k10 rfl rfl (by decide) c1 rfl q3702 q3704 qs63 q113 q3705 yd_X3_hut (by decide) (Nat.le_of_ble_eq_true rfl) dX3_about_2 c11 c12 (zRet_i fun v3 μ4 h9 => ?_) (zThr_i fun _ _ z9 _ _ _ _ => z9.elim)
  · refine Z.wm fun m8 => ?_
    have h7 := h9 m8
    refine z_istore_n (lv' := [(3, tI v3), (0, tR (some this)), (1, tI x1), (2, tI x2)]) C dX3_about_5 (by decide) rfl ?_
    refine z_aload_n C dX3_about_6 1 rfl ?_
    refine z_iload_n C dX3_about_7 0 rfl ?_
    refine z_if_ge C 15 dX3_about_8 (by decide) (fun c15 => ?_) (fun c15 => ?_)
    · have h13 := h7.1 c15
      refine z_iconst (v := 0) C dX3_about_15 (by decide) ?_
      refine Z.sub [1, 3, 0] rfl ?_
      exact h13
    · have h14 := h7.2 c15
      refine z_iconst (v := 1) C dX3_about_11 (by decide) ?_
      refine z_goto C 16 dX3_about_12 (by decide) ?_
      refine Z.sub [1, 3, 0] rfl ?_
      exact h14
set_option maxHeartbeats 4000000 in
theorem bk_X3_about_16 {w : WT} {g : GT} {K : Out → Mem → Prop} {mc ms : Nat} {this : Nat} {x2 : Int32} {x3 : Int32} {s0 : Int32} {s1 : Option Nat} {μ : Mem} {kc ks : Nat} (C : Cx_X3_about w g) (h : zM w μ → ∃ a1 : Nat, s1 = some a1 ∧ zC μ a1 = 18 ∧ ∀ μ6 : Mem, μ6 = zsI μ 57 a1 s0 → zC μ6 this = 18 ∧ ((zI μ6 57 this) ≠ 0 → K (.inl (some (tI 0))) μ6) ∧ ((zI μ6 57 this) = 0 → Tr_X3_of w x3 x2 μ6 0 0 (zKi (fun v15 μ16 => zM w μ16 → ∃ a25 : Nat, (zR μ6 63 this) = some a25 ∧ zC μ16 a25 = 101 ∧ vp_in v15 (zN μ16 a25) ∧ K (.inl (some (tI (zA μ16 a25 v15.toNatClampNeg)))) μ16) (fun q17 μ18 => False)))) : B_X3_about_16 w g K mc ms this x2 x3 s0 s1 μ kc ks := by
  unfold Cx_X3_about at C
  unfold B_X3_about_16
  refine Z.wm fun m0 => ?_
  have h := h m0
  obtain ⟨a1, e2, h3⟩ := h
  obtain ⟨c4, h5⟩ := h3
  refine z_putI C e2 (zFpOf c4 (zp_X3_56_18 rfl)) (Or.inl (zFzOf c4 rfl)) rfl rfl dX3_about_16 ?_
  refine Z.mem fun μ6 e8 => ?_
  have h7 := h5 μ6 e8
  have c9 : zC μ6 a1 = 18 := by rw [e8]; exact c4
  refine z_aload_n C dX3_about_19 0 rfl ?_
  obtain ⟨c10, h11⟩ := h7
  refine z_getI C rfl (zFdOf c10 zf_X3_56_18) dX3_about_20 ?_
  refine z_if_ne C 39 dX3_about_23 (by decide) (fun c14 => ?_) (fun c14 => ?_)
  · have h12 := h11.1 c14
    refine z_iconst (v := 0) C dX3_about_39 (by decide) ?_
    exact z_ireturn C rfl rfl dX3_about_40 h12
  · have h13 := h11.2 c14
    refine z_aload_n C dX3_about_26 0 rfl ?_
    refine z_getR C rfl (zFdOf c10 zf_X3_16_18) dX3_about_27 ?_
    refine z_iload_n C dX3_about_30 2 rfl ?_
    refine z_iload_n C dX3_about_31 1 rfl ?_
    refine Z.kk fun c23 c24 => ?_
    have k22 := h13
    refine z_callS (as := [tI x3, tI x2]) (rest := [tR (zR μ6 63 this)]) C k22 rfl q3710 q3711 q113 q3712 yd_X3_of (by decide) (Nat.le_of_ble_eq_true rfl) dX3_about_32 c23 c24 (zRet_i fun v15 μ16 h21 => ?_) (zThr_i fun _ _ z9 _ _ _ _ => z9.elim)
    · refine Z.wm fun m20 => ?_
      have h19 := h21 m20
      obtain ⟨a25, e26, h27⟩ := h19
      obtain ⟨c28, h29⟩ := h27
      obtain ⟨c30, h31⟩ := h29
      refine z_iald C e26 c28 c30 dX3_about_35 ?_
      refine z_goto C 40 dX3_about_36 (by decide) ?_
      exact z_ireturn C rfl rfl dX3_about_40 h31
/-! HutRidgeModel.levelOf(I)I -/
def Tr_X3_levelOf (w : WT) (this : Nat) (x1 : Int32) (μ : Mem) (mc ms : Nat) (K : Out → Mem → Prop) : Prop := Tr w yX3_levelOf (ws_ yX3_levelOf cX3_levelOf 2 (Option.some Jvm.ClassFile.FieldType.int)) 5 127 [tR (some this), tI x1] μ mc ms K
def Cx_X3_levelOf (w : WT) (g : GT) : Prop := Cx w g yX3_levelOf cX3_levelOf 2 (Option.some Jvm.ClassFile.FieldType.int) [] 5 127
theorem yd_X3_levelOf : yX3_levelOf.cls ≠ "java/lang/invoke/MethodHandle" ∧ yX3_levelOf.cls ≠ "java/lang/invoke/VarHandle" ∧ (parseMethodDescriptor yX3_levelOf.desc).map (fun d => d.parameters.length) = some 1 := by decide +kernel
set_option maxHeartbeats 4000000 in
theorem tr_X3_levelOf {w : WT} {this : Nat} {x1 : Int32} {μ : Mem} {mc ms : Nat} {K : Out → Mem → Prop} (h : zM w μ → zC μ this = 18 ∧ Tr_X3_about w this x1 1 μ 0 0 (zKi (fun v3 μ4 => zM w μ4 → K (.inl (some (tI v3))) μ4) (fun q5 μ6 => False))) : Tr_X3_levelOf w this x1 μ mc ms K := by
  refine Tr.of (by decide +kernel) (Nat.le_of_ble_eq_true rfl) (fun g C => ?_)
  show Z w g K mc ms 0 [(0, tR (some this)), (1, tI x1)] [] μ 0 0
  refine Z.wm fun m0 => ?_
  have h := h m0
  refine z_aload_n C dX3_levelOf_0 0 rfl ?_
  refine z_iload_n C dX3_levelOf_1 1 rfl ?_
  refine z_iconst (v := 1) C dX3_levelOf_2 (by decide) ?_
  obtain ⟨c1, h2⟩ := h
  refine Z.kk fun c11 c12 => ?_
  have k10 := h2
  refine z_callV (as := [tI x1, tI 1]) (rest := []) C k10 rfl rfl (by decide) c1 rfl q3800 q3802 qs77 q113 q3803 yd_X3_about (by decide) (Nat.le_of_ble_eq_true rfl) dX3_levelOf_3 c11 c12 (zRet_i fun v3 μ4 h9 => ?_) (zThr_i fun _ _ z9 _ _ _ _ => z9.elim)
  · refine Z.wm fun m8 => ?_
    have h7 := h9 m8
    exact z_ireturn C rfl rfl dX3_levelOf_6 h7
/-! HutRidgeModel.bedsOf(I)I -/
def Tr_X3_bedsOf (w : WT) (this : Nat) (x1 : Int32) (μ : Mem) (mc ms : Nat) (K : Out → Mem → Prop) : Prop := Tr w yX3_bedsOf (ws_ yX3_bedsOf cX3_bedsOf 2 (Option.some Jvm.ClassFile.FieldType.int)) 5 127 [tR (some this), tI x1] μ mc ms K
def Cx_X3_bedsOf (w : WT) (g : GT) : Prop := Cx w g yX3_bedsOf cX3_bedsOf 2 (Option.some Jvm.ClassFile.FieldType.int) [] 5 127
theorem yd_X3_bedsOf : yX3_bedsOf.cls ≠ "java/lang/invoke/MethodHandle" ∧ yX3_bedsOf.cls ≠ "java/lang/invoke/VarHandle" ∧ (parseMethodDescriptor yX3_bedsOf.desc).map (fun d => d.parameters.length) = some 1 := by decide +kernel
set_option maxHeartbeats 4000000 in
theorem tr_X3_bedsOf {w : WT} {this : Nat} {x1 : Int32} {μ : Mem} {mc ms : Nat} {K : Out → Mem → Prop} (h : zM w μ → zC μ this = 18 ∧ Tr_X3_about w this x1 (nI 2) μ 0 0 (zKi (fun v3 μ4 => zM w μ4 → K (.inl (some (tI v3))) μ4) (fun q5 μ6 => False))) : Tr_X3_bedsOf w this x1 μ mc ms K := by
  refine Tr.of (by decide +kernel) (Nat.le_of_ble_eq_true rfl) (fun g C => ?_)
  show Z w g K mc ms 0 [(0, tR (some this)), (1, tI x1)] [] μ 0 0
  refine Z.wm fun m0 => ?_
  have h := h m0
  refine z_aload_n C dX3_bedsOf_0 0 rfl ?_
  refine z_iload_n C dX3_bedsOf_1 1 rfl ?_
  refine z_iconst (v := (nI 2)) C dX3_bedsOf_2 (by decide) ?_
  obtain ⟨c1, h2⟩ := h
  refine Z.kk fun c11 c12 => ?_
  have k10 := h2
  refine z_callV (as := [tI x1, tI (nI 2)]) (rest := []) C k10 rfl rfl (by decide) c1 rfl q3800 q3802 qs77 q113 q3803 yd_X3_about (by decide) (Nat.le_of_ble_eq_true rfl) dX3_bedsOf_3 c11 c12 (zRet_i fun v3 μ4 h9 => ?_) (zThr_i fun _ _ z9 _ _ _ _ => z9.elim)
  · refine Z.wm fun m8 => ?_
    have h7 := h9 m8
    exact z_ireturn C rfl rfl dX3_bedsOf_6 h7
/-! HutRidgeModel.top()I -/
def Tr_X3_top (w : WT) (this : Nat) (μ : Mem) (mc ms : Nat) (K : Out → Mem → Prop) : Prop := Tr w yX3_top (ws_ yX3_top cX3_top 3 (Option.some Jvm.ClassFile.FieldType.int)) 3 82 [tR (some this)] μ mc ms K
def Cx_X3_top (w : WT) (g : GT) : Prop := Cx w g yX3_top cX3_top 3 (Option.some Jvm.ClassFile.FieldType.int) [] 3 82
theorem yd_X3_top : yX3_top.cls ≠ "java/lang/invoke/MethodHandle" ∧ yX3_top.cls ≠ "java/lang/invoke/VarHandle" ∧ (parseMethodDescriptor yX3_top.desc).map (fun d => d.parameters.length) = some 0 := by decide +kernel
def B_X3_top_4 (w : WT) (g : GT) (K : Out → Mem → Prop) (mc ms : Nat) (this : Nat) (x1 : Int32) (x2 : Int32)  (μ : Mem) (kc ks : Nat) : Prop := Z w g K mc ms 4 [(0, tR (some this)), (1, tI x1), (2, tI x2)] [] μ kc ks
set_option maxHeartbeats 4000000 in
theorem tr_X3_top {w : WT} {this : Nat} {μ : Mem} {mc ms : Nat} {K : Out → Mem → Prop} (h : ∀ g : GT, Cx_X3_top w g → zM w μ → B_X3_top_4 w g K mc ms this 0 0 μ 0 0) : Tr_X3_top w this μ mc ms K := by
  refine Tr.of (by decide +kernel) (Nat.le_of_ble_eq_true rfl) (fun g C => ?_)
  show Z w g K mc ms 0 [(0, tR (some this))] [] μ 0 0
  refine Z.wm fun m0 => ?_
  have h := h g C m0
  refine z_iconst (v := 0) C dX3_top_0 (by decide) ?_
  refine z_istore_n (lv' := [(1, tI 0), (0, tR (some this))]) C dX3_top_1 (by decide) rfl ?_
  refine z_iconst (v := 0) C dX3_top_2 (by decide) ?_
  refine z_istore_n (lv' := [(2, tI 0), (1, tI 0), (0, tR (some this))]) C dX3_top_3 (by decide) rfl ?_
  refine Z.sub [2, 1, 0] rfl ?_
  exact h
set_option maxHeartbeats 4000000 in
theorem bk_X3_top_4 {w : WT} {g : GT} {K : Out → Mem → Prop} {mc ms : Nat} {this : Nat} {x1 : Int32} {x2 : Int32}  {μ : Mem} {kc ks : Nat} (C : Cx_X3_top w g) (h : zM w μ → zC μ this = 18 ∧ ∃ a3 : Nat, (zR μ 63 this) = some a3 ∧ zC μ a3 = 101 ∧ vp_in 0 (zN μ a3) ∧ ((zA μ a3 0) ≤ x2 → K (.inl (some (tI x1))) μ) ∧ (¬ (zA μ a3 0) ≤ x2 → Tr_X3_level w this x2 μ 0 0 (zKi (fun v13 μ14 => zM w μ14 → (v13 ≤ x1 → B_X3_top_4 w g K mc ms this x1 (x2 + 1) μ14 kc ks) ∧ (¬ v13 ≤ x1 → zC μ14 this = 18 ∧ Tr_X3_level w this x2 μ14 0 0 (zKi (fun v28 μ29 => zM w μ29 → B_X3_top_4 w g K mc ms this v28 (x2 + 1) μ29 kc ks) (fun q30 μ31 => False)))) (fun q15 μ16 => False)))) : B_X3_top_4 w g K mc ms this x1 x2 μ kc ks := by
  unfold Cx_X3_top at C
  unfold B_X3_top_4
  refine Z.wm fun m0 => ?_
  have h := h m0
  refine z_iload_n C dX3_top_4 2 rfl ?_
  refine z_aload_n C dX3_top_5 0 rfl ?_
  obtain ⟨c1, h2⟩ := h
  refine z_getR C rfl (zFdOf c1 zf_X3_16_18) dX3_top_6 ?_
  refine z_iconst (v := 0) C dX3_top_9 (by decide) ?_
  obtain ⟨a3, e4, h5⟩ := h2
  obtain ⟨c6, h7⟩ := h5
  obtain ⟨c8, h9⟩ := h7
  refine z_iald C e4 c6 c8 dX3_top_10 ?_
  refine z_icmp_ge C 35 dX3_top_11 (by decide) (fun c12 => ?_) (fun c12 => ?_)
  · have h10 := h9.1 c12
    refine z_iload_n C dX3_top_35 1 rfl ?_
    exact z_ireturn C rfl rfl dX3_top_36 h10
  · have h11 := h9.2 c12
    refine z_aload_n C dX3_top_14 0 rfl ?_
    refine z_iload_n C dX3_top_15 2 rfl ?_
    refine Z.kk fun c21 c22 => ?_
    have k20 := h11
    refine z_callV (as := [tI x2]) (rest := []) C k20 rfl rfl (by decide) c1 rfl q3733 q3735 qs68 q113 q3736 yd_X3_level (by decide) (Nat.le_of_ble_eq_true rfl) dX3_top_16 c21 c22 (zRet_i fun v13 μ14 h19 => ?_) (zThr_i fun _ _ z9 _ _ _ _ => z9.elim)
    · refine Z.wm fun m18 => ?_
      have h17 := h19 m18
      refine z_iload_n C dX3_top_19 1 rfl ?_
      refine z_icmp_le C 29 dX3_top_20 (by decide) (fun c25 => ?_) (fun c25 => ?_)
      · have h23 := h17.1 c25
        refine z_iinc (k0 := 2) (v := x2 + 1) (lv' := [(2, tI (x2 + 1)), (0, tR (some this)), (1, tI x1)]) C dX3_top_29 rfl (by first | rfl | decide) (by decide) rfl ?_
        refine z_goto C 4 dX3_top_32 (by decide) ?_
        refine Z.sub [1, 2, 0] rfl ?_
        exact h23
      · have h24 := h17.2 c25
        refine z_aload_n C dX3_top_23 0 rfl ?_
        refine z_iload_n C dX3_top_24 2 rfl ?_
        obtain ⟨c26, h27⟩ := h24
        refine Z.kk fun c36 c37 => ?_
        have k35 := h27
        refine z_callV (as := [tI x2]) (rest := []) C k35 rfl rfl (by decide) c26 rfl q3733 q3735 qs68 q113 q3736 yd_X3_level (by decide) (Nat.le_of_ble_eq_true rfl) dX3_top_25 c36 c37 (zRet_i fun v28 μ29 h34 => ?_) (zThr_i fun _ _ z9 _ _ _ _ => z9.elim)
        · refine Z.wm fun m33 => ?_
          have h32 := h34 m33
          refine z_istore_n (lv' := [(1, tI v28), (0, tR (some this)), (2, tI x2)]) C dX3_top_28 (by decide) rfl ?_
          refine z_iinc (k0 := 2) (v := x2 + 1) (lv' := [(2, tI (x2 + 1)), (1, tI v28), (0, tR (some this))]) C dX3_top_29 rfl (by first | rfl | decide) (by decide) rfl ?_
          refine z_goto C 4 dX3_top_32 (by decide) ?_
          refine Z.sub [2, 1, 0] rfl ?_
          exact h32
/-! HutRidgeModel.topLevel()I -/
def Tr_X3_topLevel (w : WT) (this : Nat) (μ : Mem) (mc ms : Nat) (K : Out → Mem → Prop) : Prop := Tr w yX3_topLevel (ws_ yX3_topLevel cX3_topLevel 1 (Option.some Jvm.ClassFile.FieldType.int)) 4 104 [tR (some this)] μ mc ms K
def Cx_X3_topLevel (w : WT) (g : GT) : Prop := Cx w g yX3_topLevel cX3_topLevel 1 (Option.some Jvm.ClassFile.FieldType.int) [] 4 104
theorem yd_X3_topLevel : yX3_topLevel.cls ≠ "java/lang/invoke/MethodHandle" ∧ yX3_topLevel.cls ≠ "java/lang/invoke/VarHandle" ∧ (parseMethodDescriptor yX3_topLevel.desc).map (fun d => d.parameters.length) = some 0 := by decide +kernel
set_option maxHeartbeats 4000000 in
theorem tr_X3_topLevel {w : WT} {this : Nat} {μ : Mem} {mc ms : Nat} {K : Out → Mem → Prop} (h : zM w μ → zC μ this = 18 ∧ ∀ μ3 : Mem, μ3 = zsI μ 57 this 0 → Tr_X3_top w this μ3 0 0 (zKi (fun v7 μ8 => zM w μ8 → K (.inl (some (tI v7))) μ8) (fun q9 μ10 => False))) : Tr_X3_topLevel w this μ mc ms K := by
  refine Tr.of (by decide +kernel) (Nat.le_of_ble_eq_true rfl) (fun g C => ?_)
  show Z w g K mc ms 0 [(0, tR (some this))] [] μ 0 0
  refine Z.wm fun m0 => ?_
  have h := h m0
  refine z_aload_n C dX3_topLevel_0 0 rfl ?_
  refine z_iconst (v := 0) C dX3_topLevel_1 (by decide) ?_
  obtain ⟨c1, h2⟩ := h
  refine z_putI C rfl (zFpOf c1 (zp_X3_56_18 rfl)) (Or.inl (zFzOf c1 rfl)) rfl rfl dX3_topLevel_2 ?_
  refine Z.mem fun μ3 e5 => ?_
  have h4 := h2 μ3 e5
  have c6 : zC μ3 this = 18 := by rw [e5]; exact c1
  refine z_aload_n C dX3_topLevel_5 0 rfl ?_
  refine Z.kk fun c15 c16 => ?_
  have k14 := h4
  refine z_callV (as := []) (rest := []) C k14 rfl rfl (by decide) c6 rfl q3812 q3814 qs78 q113 q3815 yd_X3_top (by decide) (Nat.le_of_ble_eq_true rfl) dX3_topLevel_6 c15 c16 (zRet_i fun v7 μ8 h13 => ?_) (zThr_i fun _ _ z9 _ _ _ _ => z9.elim)
  · refine Z.wm fun m12 => ?_
    have h11 := h13 m12
    exact z_ireturn C rfl rfl dX3_topLevel_9 h11
/-! HutRidgeModel.hutsOnLevel(I)I -/
def Tr_X3_hutsOnLevel (w : WT) (this : Nat) (x1 : Int32) (μ : Mem) (mc ms : Nat) (K : Out → Mem → Prop) : Prop := Tr w yX3_hutsOnLevel (ws_ yX3_hutsOnLevel cX3_hutsOnLevel 4 (Option.some Jvm.ClassFile.FieldType.int)) 3 82 [tR (some this), tI x1] μ mc ms K
def Cx_X3_hutsOnLevel (w : WT) (g : GT) : Prop := Cx w g yX3_hutsOnLevel cX3_hutsOnLevel 4 (Option.some Jvm.ClassFile.FieldType.int) [] 3 82
theorem yd_X3_hutsOnLevel : yX3_hutsOnLevel.cls ≠ "java/lang/invoke/MethodHandle" ∧ yX3_hutsOnLevel.cls ≠ "java/lang/invoke/VarHandle" ∧ (parseMethodDescriptor yX3_hutsOnLevel.desc).map (fun d => d.parameters.length) = some 1 := by decide +kernel
def B_X3_hutsOnLevel_20 (w : WT) (g : GT) (K : Out → Mem → Prop) (mc ms : Nat) (this : Nat) (x1 : Int32) (x2 : Int32) (x3 : Int32)  (μ : Mem) (kc ks : Nat) : Prop := Z w g K mc ms 20 [(0, tR (some this)), (1, tI x1), (2, tI x2), (3, tI x3)] [] μ kc ks
set_option maxHeartbeats 4000000 in
theorem tr_X3_hutsOnLevel {w : WT} {this : Nat} {x1 : Int32} {μ : Mem} {mc ms : Nat} {K : Out → Mem → Prop} (h : ∀ g : GT, Cx_X3_hutsOnLevel w g → zM w μ → Tr_X3_isLevel w x1 μ 0 0 (zKi (fun v1 μ2 => zM w μ2 → (v1 = 0 → zC μ2 this = 18 ∧ ∀ μ16 : Mem, μ16 = zsI μ2 57 this 1 → B_X3_hutsOnLevel_20 w g K mc ms this x1 0 0 μ16 0 0) ∧ (¬ v1 = 0 → zC μ2 this = 18 ∧ ∀ μ22 : Mem, μ22 = zsI μ2 57 this 0 → B_X3_hutsOnLevel_20 w g K mc ms this x1 0 0 μ22 0 0)) (fun q3 μ4 => False))) : Tr_X3_hutsOnLevel w this x1 μ mc ms K := by
  refine Tr.of (by decide +kernel) (Nat.le_of_ble_eq_true rfl) (fun g C => ?_)
  show Z w g K mc ms 0 [(0, tR (some this)), (1, tI x1)] [] μ 0 0
  refine Z.wm fun m0 => ?_
  have h := h g C m0
  refine z_aload_n C dX3_hutsOnLevel_0 0 rfl ?_
  refine z_iload_n C dX3_hutsOnLevel_1 1 rfl ?_
  refine Z.kk fun c9 c10 => ?_
  have k8 := h
  refine z_callS (as := [tI x1]) (rest := [tR (some this)]) C k8 rfl q3695 q3696 q113 q3697 yd_X3_isLevel (by decide) (Nat.le_of_ble_eq_true rfl) dX3_hutsOnLevel_2 c9 c10 (zRet_i fun v1 μ2 h7 => ?_) (zThr_i fun _ _ z9 _ _ _ _ => z9.elim)
  · refine Z.wm fun m6 => ?_
    have h5 := h7 m6
    refine z_if_eq C 12 dX3_hutsOnLevel_5 (by decide) (fun c13 => ?_) (fun c13 => ?_)
    · have h11 := h5.1 c13
      refine z_iconst (v := 1) C dX3_hutsOnLevel_12 (by decide) ?_
      obtain ⟨c14, h15⟩ := h11
      refine z_putI C rfl (zFpOf c14 (zp_X3_56_18 rfl)) (Or.inl (zFzOf c14 rfl)) rfl rfl dX3_hutsOnLevel_13 ?_
      refine Z.mem fun μ16 e18 => ?_
      have h17 := h15 μ16 e18
      have c19 : zC μ16 this = 18 := by rw [e18]; exact c14
      refine z_iconst (v := 0) C dX3_hutsOnLevel_16 (by decide) ?_
      refine z_istore_n (lv' := [(2, tI 0), (0, tR (some this)), (1, tI x1)]) C dX3_hutsOnLevel_17 (by decide) rfl ?_
      refine z_iconst (v := 0) C dX3_hutsOnLevel_18 (by decide) ?_
      refine z_istore_n (lv' := [(3, tI 0), (2, tI 0), (0, tR (some this)), (1, tI x1)]) C dX3_hutsOnLevel_19 (by decide) rfl ?_
      refine Z.sub [2, 3, 1, 0] rfl ?_
      exact h17
    · have h12 := h5.2 c13
      refine z_iconst (v := 0) C dX3_hutsOnLevel_8 (by decide) ?_
      refine z_goto C 13 dX3_hutsOnLevel_9 (by decide) ?_
      obtain ⟨c20, h21⟩ := h12
      refine z_putI C rfl (zFpOf c20 (zp_X3_56_18 rfl)) (Or.inl (zFzOf c20 rfl)) rfl rfl dX3_hutsOnLevel_13 ?_
      refine Z.mem fun μ22 e24 => ?_
      have h23 := h21 μ22 e24
      have c25 : zC μ22 this = 18 := by rw [e24]; exact c20
      refine z_iconst (v := 0) C dX3_hutsOnLevel_16 (by decide) ?_
      refine z_istore_n (lv' := [(2, tI 0), (0, tR (some this)), (1, tI x1)]) C dX3_hutsOnLevel_17 (by decide) rfl ?_
      refine z_iconst (v := 0) C dX3_hutsOnLevel_18 (by decide) ?_
      refine z_istore_n (lv' := [(3, tI 0), (2, tI 0), (0, tR (some this)), (1, tI x1)]) C dX3_hutsOnLevel_19 (by decide) rfl ?_
      refine Z.sub [2, 3, 1, 0] rfl ?_
      exact h23
set_option maxHeartbeats 4000000 in
theorem bk_X3_hutsOnLevel_20 {w : WT} {g : GT} {K : Out → Mem → Prop} {mc ms : Nat} {this : Nat} {x1 : Int32} {x2 : Int32} {x3 : Int32}  {μ : Mem} {kc ks : Nat} (C : Cx_X3_hutsOnLevel w g) (h : zM w μ → zC μ this = 18 ∧ ∃ a3 : Nat, (zR μ 63 this) = some a3 ∧ zC μ a3 = 101 ∧ vp_in 0 (zN μ a3) ∧ ((zA μ a3 0) ≤ x3 → K (.inl (some (tI x2))) μ) ∧ (¬ (zA μ a3 0) ≤ x3 → ((zI μ 57 this) ≠ 0 → K (.inl (some (tI x2))) μ) ∧ ((zI μ 57 this) = 0 → Tr_X3_level w this x3 μ 0 0 (zKi (fun v16 μ17 => zM w μ17 → (v16 < x1 → B_X3_hutsOnLevel_20 w g K mc ms this x1 (x2 + (0 : Int32)) (x3 + 1) μ17 kc ks) ∧ (¬ v16 < x1 → B_X3_hutsOnLevel_20 w g K mc ms this x1 (x2 + (1 : Int32)) (x3 + 1) μ17 kc ks)) (fun q18 μ19 => False))))) : B_X3_hutsOnLevel_20 w g K mc ms this x1 x2 x3 μ kc ks := by
  unfold Cx_X3_hutsOnLevel at C
  unfold B_X3_hutsOnLevel_20
  refine Z.wm fun m0 => ?_
  have h := h m0
  refine z_iload_n C dX3_hutsOnLevel_20 3 rfl ?_
  refine z_aload_n C dX3_hutsOnLevel_21 0 rfl ?_
  obtain ⟨c1, h2⟩ := h
  refine z_getR C rfl (zFdOf c1 zf_X3_16_18) dX3_hutsOnLevel_22 ?_
  refine z_iconst (v := 0) C dX3_hutsOnLevel_25 (by decide) ?_
  obtain ⟨a3, e4, h5⟩ := h2
  obtain ⟨c6, h7⟩ := h5
  obtain ⟨c8, h9⟩ := h7
  refine z_iald C e4 c6 c8 dX3_hutsOnLevel_26 ?_
  refine z_icmp_ge C 60 dX3_hutsOnLevel_27 (by decide) (fun c12 => ?_) (fun c12 => ?_)
  · have h10 := h9.1 c12
    refine z_iload_n C dX3_hutsOnLevel_60 2 rfl ?_
    exact z_ireturn C rfl rfl dX3_hutsOnLevel_61 h10
  · have h11 := h9.2 c12
    refine z_aload_n C dX3_hutsOnLevel_30 0 rfl ?_
    refine z_getI C rfl (zFdOf c1 zf_X3_56_18) dX3_hutsOnLevel_31 ?_
    refine z_if_ne C 60 dX3_hutsOnLevel_34 (by decide) (fun c15 => ?_) (fun c15 => ?_)
    · have h13 := h11.1 c15
      refine z_iload_n C dX3_hutsOnLevel_60 2 rfl ?_
      exact z_ireturn C rfl rfl dX3_hutsOnLevel_61 h13
    · have h14 := h11.2 c15
      refine z_iload_n C dX3_hutsOnLevel_37 2 rfl ?_
      refine z_aload_n C dX3_hutsOnLevel_38 0 rfl ?_
      refine z_iload_n C dX3_hutsOnLevel_39 3 rfl ?_
      refine Z.kk fun c24 c25 => ?_
      have k23 := h14
      refine z_callV (as := [tI x3]) (rest := [tI x2]) C k23 rfl rfl (by decide) c1 rfl q3733 q3735 qs68 q113 q3736 yd_X3_level (by decide) (Nat.le_of_ble_eq_true rfl) dX3_hutsOnLevel_40 c24 c25 (zRet_i fun v16 μ17 h22 => ?_) (zThr_i fun _ _ z9 _ _ _ _ => z9.elim)
      · refine Z.wm fun m21 => ?_
        have h20 := h22 m21
        refine z_iload_n C dX3_hutsOnLevel_43 1 rfl ?_
        refine z_icmp_lt C 51 dX3_hutsOnLevel_44 (by decide) (fun c28 => ?_) (fun c28 => ?_)
        · have h26 := h20.1 c28
          refine z_iconst (v := 0) C dX3_hutsOnLevel_51 (by decide) ?_
          refine z_iadd C dX3_hutsOnLevel_52 ?_
          refine z_istore_n (lv' := [(2, tI (x2 + (0 : Int32))), (0, tR (some this)), (1, tI x1), (3, tI x3)]) C dX3_hutsOnLevel_53 (by decide) rfl ?_
          refine z_iinc (k0 := 3) (v := x3 + 1) (lv' := [(3, tI (x3 + 1)), (2, tI (x2 + (0 : Int32))), (0, tR (some this)), (1, tI x1)]) C dX3_hutsOnLevel_54 rfl (by first | rfl | decide) (by decide) rfl ?_
          refine z_goto C 20 dX3_hutsOnLevel_57 (by decide) ?_
          refine Z.sub [2, 3, 1, 0] rfl ?_
          exact h26
        · have h27 := h20.2 c28
          refine z_iconst (v := 1) C dX3_hutsOnLevel_47 (by decide) ?_
          refine z_goto C 52 dX3_hutsOnLevel_48 (by decide) ?_
          refine z_iadd C dX3_hutsOnLevel_52 ?_
          refine z_istore_n (lv' := [(2, tI (x2 + (1 : Int32))), (0, tR (some this)), (1, tI x1), (3, tI x3)]) C dX3_hutsOnLevel_53 (by decide) rfl ?_
          refine z_iinc (k0 := 3) (v := x3 + 1) (lv' := [(3, tI (x3 + 1)), (2, tI (x2 + (1 : Int32))), (0, tR (some this)), (1, tI x1)]) C dX3_hutsOnLevel_54 rfl (by first | rfl | decide) (by decide) rfl ?_
          refine z_goto C 20 dX3_hutsOnLevel_57 (by decide) ?_
          refine Z.sub [2, 3, 1, 0] rfl ?_
          exact h27
/-! HutRidgeModel.next(II)I -/
def Tr_X3_next (w : WT) (this : Nat) (x1 : Int32) (x2 : Int32) (μ : Mem) (mc ms : Nat) (K : Out → Mem → Prop) : Prop := Tr w yX3_next (ws_ yX3_next cX3_next 4 (Option.some Jvm.ClassFile.FieldType.int)) 3 82 [tR (some this), tI x1, tI x2] μ mc ms K
def Cx_X3_next (w : WT) (g : GT) : Prop := Cx w g yX3_next cX3_next 4 (Option.some Jvm.ClassFile.FieldType.int) [] 3 82
theorem yd_X3_next : yX3_next.cls ≠ "java/lang/invoke/MethodHandle" ∧ yX3_next.cls ≠ "java/lang/invoke/VarHandle" ∧ (parseMethodDescriptor yX3_next.desc).map (fun d => d.parameters.length) = some 2 := by decide +kernel
def B_X3_next_4 (w : WT) (g : GT) (K : Out → Mem → Prop) (mc ms : Nat) (this : Nat) (x2 : Int32) (x3 : Int32)  (μ : Mem) (kc ks : Nat) : Prop := Z w g K mc ms 4 [(0, tR (some this)), (2, tI x2), (3, tI x3)] [] μ kc ks
set_option maxHeartbeats 4000000 in
theorem tr_X3_next {w : WT} {this : Nat} {x1 : Int32} {x2 : Int32} {μ : Mem} {mc ms : Nat} {K : Out → Mem → Prop} (h : ∀ g : GT, Cx_X3_next w g → zM w μ → B_X3_next_4 w g K mc ms this x2 (x1 + (1 : Int32)) μ 0 0) : Tr_X3_next w this x1 x2 μ mc ms K := by
  refine Tr.of (by decide +kernel) (Nat.le_of_ble_eq_true rfl) (fun g C => ?_)
  show Z w g K mc ms 0 [(0, tR (some this)), (1, tI x1), (2, tI x2)] [] μ 0 0
  refine Z.wm fun m0 => ?_
  have h := h g C m0
  refine z_iload_n C dX3_next_0 1 rfl ?_
  refine z_iconst (v := 1) C dX3_next_1 (by decide) ?_
  refine z_iadd C dX3_next_2 ?_
  refine z_istore_n (lv' := [(3, tI (x1 + (1 : Int32))), (0, tR (some this)), (1, tI x1), (2, tI x2)]) C dX3_next_3 (by decide) rfl ?_
  refine Z.sub [1, 3, 0] rfl ?_
  exact h
set_option maxHeartbeats 4000000 in
theorem bk_X3_next_4 {w : WT} {g : GT} {K : Out → Mem → Prop} {mc ms : Nat} {this : Nat} {x2 : Int32} {x3 : Int32}  {μ : Mem} {kc ks : Nat} (C : Cx_X3_next w g) (h : zM w μ → zC μ this = 18 ∧ ∃ a3 : Nat, (zR μ 63 this) = some a3 ∧ zC μ a3 = 101 ∧ vp_in 0 (zN μ a3) ∧ ((zA μ a3 0) ≤ x3 → K (.inl (some (tI (-1 : Int32)))) μ) ∧ (¬ (zA μ a3 0) ≤ x3 → Tr_X3_level w this x3 μ 0 0 (zKi (fun v13 μ14 => zM w μ14 → (v13 < x2 → B_X3_next_4 w g K mc ms this x2 (x3 + 1) μ14 kc ks) ∧ (¬ v13 < x2 → K (.inl (some (tI x3))) μ14)) (fun q15 μ16 => False)))) : B_X3_next_4 w g K mc ms this x2 x3 μ kc ks := by
  unfold Cx_X3_next at C
  unfold B_X3_next_4
  refine Z.wm fun m0 => ?_
  have h := h m0
  refine z_iload_n C dX3_next_4 2 rfl ?_
  refine z_aload_n C dX3_next_5 0 rfl ?_
  obtain ⟨c1, h2⟩ := h
  refine z_getR C rfl (zFdOf c1 zf_X3_16_18) dX3_next_6 ?_
  refine z_iconst (v := 0) C dX3_next_9 (by decide) ?_
  obtain ⟨a3, e4, h5⟩ := h2
  obtain ⟨c6, h7⟩ := h5
  obtain ⟨c8, h9⟩ := h7
  refine z_iald C e4 c6 c8 dX3_next_10 ?_
  refine z_icmp_ge C 31 dX3_next_11 (by decide) (fun c12 => ?_) (fun c12 => ?_)
  · have h10 := h9.1 c12
    refine z_iconst (v := (-1 : Int32)) C dX3_next_31 (by decide) ?_
    exact z_ireturn C rfl rfl dX3_next_32 h10
  · have h11 := h9.2 c12
    refine z_aload_n C dX3_next_14 0 rfl ?_
    refine z_iload_n C dX3_next_15 2 rfl ?_
    refine Z.kk fun c21 c22 => ?_
    have k20 := h11
    refine z_callV (as := [tI x3]) (rest := []) C k20 rfl rfl (by decide) c1 rfl q3733 q3735 qs68 q113 q3736 yd_X3_level (by decide) (Nat.le_of_ble_eq_true rfl) dX3_next_16 c21 c22 (zRet_i fun v13 μ14 h19 => ?_) (zThr_i fun _ _ z9 _ _ _ _ => z9.elim)
    · refine Z.wm fun m18 => ?_
      have h17 := h19 m18
      refine z_iload_n C dX3_next_19 1 rfl ?_
      refine z_icmp_lt C 25 dX3_next_20 (by decide) (fun c25 => ?_) (fun c25 => ?_)
      · have h23 := h17.1 c25
        refine z_iinc (k0 := 2) (v := x3 + 1) (lv' := [(3, tI (x3 + 1)), (0, tR (some this)), (2, tI x2)]) C dX3_next_25 rfl (by first | rfl | decide) (by decide) rfl ?_
        refine z_goto C 4 dX3_next_28 (by decide) ?_
        refine Z.sub [1, 2, 0] rfl ?_
        exact h23
      · have h24 := h17.2 c25
        refine z_iload_n C dX3_next_23 2 rfl ?_
        exact z_ireturn C rfl rfl dX3_next_24 h24
/-! HutRidgeModel.looksAtPath(IIZ)Z -/
def Tr_X3_looksAtPath (w : WT) (this : Nat) (x1 : Int32) (x2 : Int32) (x3 : Int32) (μ : Mem) (mc ms : Nat) (K : Out → Mem → Prop) : Prop := Tr w yX3_looksAtPath (ws_ yX3_looksAtPath cX3_looksAtPath 6 (Option.some Jvm.ClassFile.FieldType.boolean)) 4 105 [tR (some this), tI x1, tI x2, tI x3] μ mc ms K
def Cx_X3_looksAtPath (w : WT) (g : GT) : Prop := Cx w g yX3_looksAtPath cX3_looksAtPath 6 (Option.some Jvm.ClassFile.FieldType.boolean) [] 4 105
theorem yd_X3_looksAtPath : yX3_looksAtPath.cls ≠ "java/lang/invoke/MethodHandle" ∧ yX3_looksAtPath.cls ≠ "java/lang/invoke/VarHandle" ∧ (parseMethodDescriptor yX3_looksAtPath.desc).map (fun d => d.parameters.length) = some 3 := by decide +kernel
def B_X3_looksAtPath_43 (w : WT) (g : GT) (K : Out → Mem → Prop) (mc ms : Nat) (this : Nat) (x2 : Int32)  (μ : Mem) (kc ks : Nat) : Prop := Z w g K mc ms 43 [(0, tR (some this)), (2, tI x2)] [] μ kc ks
def B_X3_looksAtPath_47 (w : WT) (g : GT) (K : Out → Mem → Prop) (mc ms : Nat) (this : Nat) (x2 : Int32)  (μ : Mem) (kc ks : Nat) : Prop := Z w g K mc ms 47 [(0, tR (some this)), (2, tI x2)] [] μ kc ks
def B_X3_looksAtPath_48 (w : WT) (g : GT) (K : Out → Mem → Prop) (mc ms : Nat) (this : Nat) (x2 : Int32) (s0 : Int32) (μ : Mem) (kc ks : Nat) : Prop := Z w g K mc ms 48 [(0, tR (some this)), (2, tI x2)] [tI s0] μ kc ks
set_option maxHeartbeats 4000000 in
theorem tr_X3_looksAtPath {w : WT} {this : Nat} {x1 : Int32} {x2 : Int32} {x3 : Int32} {μ : Mem} {mc ms : Nat} {K : Out → Mem → Prop} (h : ∀ g : GT, Cx_X3_looksAtPath w g → zM w μ → zC μ this = 18 ∧ Tr_X3_hut w this x1 μ 0 0 (zKi (fun v3 μ4 => zM w μ4 → (v3 < 0 → B_X3_looksAtPath_47 w g K mc ms this x2 μ4 0 0) ∧ (¬ v3 < 0 → Tr_X3_isLevel w x2 μ4 0 0 (zKi (fun v16 μ17 => zM w μ17 → (v16 = 0 → B_X3_looksAtPath_47 w g K mc ms this x2 μ17 0 0) ∧ (¬ v16 = 0 → zC μ17 this = 18 ∧ Tr_X3_level w this v3 μ17 0 0 (zKi (fun v31 μ32 => zM w μ32 → (v31 < x2 → B_X3_looksAtPath_47 w g K mc ms this x2 μ32 0 0) ∧ (¬ v31 < x2 → (x3 = 0 → B_X3_looksAtPath_43 w g K mc ms this x2 μ32 0 0) ∧ (¬ x3 = 0 → zC μ32 this = 18 ∧ Tr_X3_next w this v3 x2 μ32 0 0 (zKi (fun v49 μ50 => zM w μ50 → (v49 < 0 → B_X3_looksAtPath_47 w g K mc ms this x2 μ50 0 0) ∧ (¬ v49 < 0 → B_X3_looksAtPath_43 w g K mc ms this x2 μ50 0 0)) (fun q51 μ52 => False))))) (fun q33 μ34 => False)))) (fun q18 μ19 => False)))) (fun q5 μ6 => False))) : Tr_X3_looksAtPath w this x1 x2 x3 μ mc ms K := by
  refine Tr.of (by decide +kernel) (Nat.le_of_ble_eq_true rfl) (fun g C => ?_)
  show Z w g K mc ms 0 [(0, tR (some this)), (1, tI x1), (2, tI x2), (3, tI x3)] [] μ 0 0
  refine Z.wm fun m0 => ?_
  have h := h g C m0
  refine z_aload_n C dX3_looksAtPath_0 0 rfl ?_
  refine z_iload_n C dX3_looksAtPath_1 1 rfl ?_
  obtain ⟨c1, h2⟩ := h
  refine Z.kk fun c11 c12 => ?_
  have k10 := h2
  refine z_callV (as := [tI x1]) (rest := []) C k10 rfl rfl (by decide) c1 rfl q3702 q3704 qs63 q113 q3705 yd_X3_hut (by decide) (Nat.le_of_ble_eq_true rfl) dX3_looksAtPath_2 c11 c12 (zRet_i fun v3 μ4 h9 => ?_) (zThr_i fun _ _ z9 _ _ _ _ => z9.elim)
  · refine Z.wm fun m8 => ?_
    have h7 := h9 m8
    refine z_istore (lv' := [(4, tI v3), (0, tR (some this)), (1, tI x1), (2, tI x2), (3, tI x3)]) C dX3_looksAtPath_5 (by decide) rfl ?_
    refine z_iload C dX3_looksAtPath_7 0 rfl ?_
    refine z_if_lt C 47 dX3_looksAtPath_9 (by decide) (fun c15 => ?_) (fun c15 => ?_)
    · have h13 := h7.1 c15
      refine Z.sub [1, 3] rfl ?_
      exact h13
    · have h14 := h7.2 c15
      refine z_iload_n C dX3_looksAtPath_12 3 rfl ?_
      refine Z.kk fun c24 c25 => ?_
      have k23 := h14
      refine z_callS (as := [tI x2]) (rest := []) C k23 rfl q3695 q3696 q113 q3697 yd_X3_isLevel (by decide) (Nat.le_of_ble_eq_true rfl) dX3_looksAtPath_13 c24 c25 (zRet_i fun v16 μ17 h22 => ?_) (zThr_i fun _ _ z9 _ _ _ _ => z9.elim)
      · refine Z.wm fun m21 => ?_
        have h20 := h22 m21
        refine z_if_eq C 47 dX3_looksAtPath_16 (by decide) (fun c28 => ?_) (fun c28 => ?_)
        · have h26 := h20.1 c28
          refine Z.sub [1, 3] rfl ?_
          exact h26
        · have h27 := h20.2 c28
          refine z_aload_n C dX3_looksAtPath_19 1 rfl ?_
          refine z_iload C dX3_looksAtPath_20 0 rfl ?_
          obtain ⟨c29, h30⟩ := h27
          refine Z.kk fun c39 c40 => ?_
          have k38 := h30
          refine z_callV (as := [tI v3]) (rest := []) C k38 rfl rfl (by decide) c29 rfl q3733 q3735 qs68 q113 q3736 yd_X3_level (by decide) (Nat.le_of_ble_eq_true rfl) dX3_looksAtPath_22 c39 c40 (zRet_i fun v31 μ32 h37 => ?_) (zThr_i fun _ _ z9 _ _ _ _ => z9.elim)
          · refine Z.wm fun m36 => ?_
            have h35 := h37 m36
            refine z_iload_n C dX3_looksAtPath_25 3 rfl ?_
            refine z_icmp_lt C 47 dX3_looksAtPath_26 (by decide) (fun c43 => ?_) (fun c43 => ?_)
            · have h41 := h35.1 c43
              refine Z.sub [1, 3] rfl ?_
              exact h41
            · have h42 := h35.2 c43
              refine z_iload_n C dX3_looksAtPath_29 4 rfl ?_
              refine z_if_eq C 43 dX3_looksAtPath_30 (by decide) (fun c46 => ?_) (fun c46 => ?_)
              · have h44 := h42.1 c46
                refine Z.sub [1, 3] rfl ?_
                exact h44
              · have h45 := h42.2 c46
                refine z_aload_n C dX3_looksAtPath_33 1 rfl ?_
                refine z_iload C dX3_looksAtPath_34 0 rfl ?_
                refine z_iload_n C dX3_looksAtPath_36 3 rfl ?_
                obtain ⟨c47, h48⟩ := h45
                refine Z.kk fun c57 c58 => ?_
                have k56 := h48
                refine z_callV (as := [tI v3, tI x2]) (rest := []) C k56 rfl rfl (by decide) c47 rfl q3828 q3830 qs80 q113 q3831 yd_X3_next (by decide) (Nat.le_of_ble_eq_true rfl) dX3_looksAtPath_37 c57 c58 (zRet_i fun v49 μ50 h55 => ?_) (zThr_i fun _ _ z9 _ _ _ _ => z9.elim)
                · refine Z.wm fun m54 => ?_
                  have h53 := h55 m54
                  refine z_if_lt C 47 dX3_looksAtPath_40 (by decide) (fun c61 => ?_) (fun c61 => ?_)
                  · have h59 := h53.1 c61
                    refine Z.sub [1, 3] rfl ?_
                    exact h59
                  · have h60 := h53.2 c61
                    refine Z.sub [1, 3] rfl ?_
                    exact h60
set_option maxHeartbeats 4000000 in
theorem bk_X3_looksAtPath_43 {w : WT} {g : GT} {K : Out → Mem → Prop} {mc ms : Nat} {this : Nat} {x2 : Int32}  {μ : Mem} {kc ks : Nat} (C : Cx_X3_looksAtPath w g) (h : zM w μ → B_X3_looksAtPath_48 w g K mc ms this x2 1 μ kc ks) : B_X3_looksAtPath_43 w g K mc ms this x2 μ kc ks := by
  unfold Cx_X3_looksAtPath at C
  unfold B_X3_looksAtPath_43
  refine Z.wm fun m0 => ?_
  have h := h m0
  refine z_iconst (v := 1) C dX3_looksAtPath_43 (by decide) ?_
  refine z_goto C 48 dX3_looksAtPath_44 (by decide) ?_
  refine Z.sub [0, 1] rfl ?_
  exact h
set_option maxHeartbeats 4000000 in
theorem bk_X3_looksAtPath_47 {w : WT} {g : GT} {K : Out → Mem → Prop} {mc ms : Nat} {this : Nat} {x2 : Int32}  {μ : Mem} {kc ks : Nat} (C : Cx_X3_looksAtPath w g) (h : zM w μ → B_X3_looksAtPath_48 w g K mc ms this x2 0 μ kc ks) : B_X3_looksAtPath_47 w g K mc ms this x2 μ kc ks := by
  unfold Cx_X3_looksAtPath at C
  unfold B_X3_looksAtPath_47
  refine Z.wm fun m0 => ?_
  have h := h m0
  refine z_iconst (v := 0) C dX3_looksAtPath_47 (by decide) ?_
  refine Z.sub [0, 1] rfl ?_
  exact h
set_option maxHeartbeats 4000000 in
theorem bk_X3_looksAtPath_48 {w : WT} {g : GT} {K : Out → Mem → Prop} {mc ms : Nat} {this : Nat} {x2 : Int32} {s0 : Int32} {μ : Mem} {kc ks : Nat} (C : Cx_X3_looksAtPath w g) (h : zM w μ → Tr_X3_isLevel w x2 μ 0 0 (zKi (fun v1 μ2 => zM w μ2 → (v1 ≠ 0 → (s0 = 0 → zC μ2 this = 18 ∧ ∀ μ19 : Mem, μ19 = zsI μ2 57 this (nI 2) → zNar .boolean s0 ∧ K (.inl (some (tI s0))) μ19) ∧ (¬ s0 = 0 → zC μ2 this = 18 ∧ ∀ μ25 : Mem, μ25 = zsI μ2 57 this 0 → zNar .boolean s0 ∧ K (.inl (some (tI s0))) μ25)) ∧ (v1 = 0 → zC μ2 this = 18 ∧ ∀ μ31 : Mem, μ31 = zsI μ2 57 this 1 → zNar .boolean s0 ∧ K (.inl (some (tI s0))) μ31)) (fun q3 μ4 => False))) : B_X3_looksAtPath_48 w g K mc ms this x2 s0 μ kc ks := by
  unfold Cx_X3_looksAtPath at C
  unfold B_X3_looksAtPath_48
  refine Z.wm fun m0 => ?_
  have h := h m0
  refine z_istore (lv' := [(5, tI s0), (0, tR (some this)), (2, tI x2)]) C dX3_looksAtPath_48 (by decide) rfl ?_
  refine z_aload_n C dX3_looksAtPath_50 1 rfl ?_
  refine z_iload_n C dX3_looksAtPath_51 2 rfl ?_
  refine Z.kk fun c9 c10 => ?_
  have k8 := h
  refine z_callS (as := [tI x2]) (rest := [tR (some this)]) C k8 rfl q3695 q3696 q113 q3697 yd_X3_isLevel (by decide) (Nat.le_of_ble_eq_true rfl) dX3_looksAtPath_52 c9 c10 (zRet_i fun v1 μ2 h7 => ?_) (zThr_i fun _ _ z9 _ _ _ _ => z9.elim)
  · refine Z.wm fun m6 => ?_
    have h5 := h7 m6
    refine z_if_ne C 62 dX3_looksAtPath_55 (by decide) (fun c13 => ?_) (fun c13 => ?_)
    · have h11 := h5.1 c13
      refine z_iload C dX3_looksAtPath_62 0 rfl ?_
      refine z_if_eq C 71 dX3_looksAtPath_64 (by decide) (fun c16 => ?_) (fun c16 => ?_)
      · have h14 := h11.1 c16
        refine z_iconst (v := (nI 2)) C dX3_looksAtPath_71 (by decide) ?_
        obtain ⟨c17, h18⟩ := h14
        refine z_putI C rfl (zFpOf c17 (zp_X3_56_18 rfl)) (Or.inl (zFzOf c17 rfl)) rfl rfl dX3_looksAtPath_72 ?_
        refine Z.mem fun μ19 e21 => ?_
        have h20 := h18 μ19 e21
        have c22 : zC μ19 this = 18 := by rw [e21]; exact c17
        refine z_iload C dX3_looksAtPath_75 0 rfl ?_
        exact z_ireturn C rfl h20.1.1 dX3_looksAtPath_77 h20.2
      · have h15 := h11.2 c16
        refine z_iconst (v := 0) C dX3_looksAtPath_67 (by decide) ?_
        refine z_goto C 72 dX3_looksAtPath_68 (by decide) ?_
        obtain ⟨c23, h24⟩ := h15
        refine z_putI C rfl (zFpOf c23 (zp_X3_56_18 rfl)) (Or.inl (zFzOf c23 rfl)) rfl rfl dX3_looksAtPath_72 ?_
        refine Z.mem fun μ25 e27 => ?_
        have h26 := h24 μ25 e27
        have c28 : zC μ25 this = 18 := by rw [e27]; exact c23
        refine z_iload C dX3_looksAtPath_75 0 rfl ?_
        exact z_ireturn C rfl h26.1.1 dX3_looksAtPath_77 h26.2
    · have h12 := h5.2 c13
      refine z_iconst (v := 1) C dX3_looksAtPath_58 (by decide) ?_
      refine z_goto C 72 dX3_looksAtPath_59 (by decide) ?_
      obtain ⟨c29, h30⟩ := h12
      refine z_putI C rfl (zFpOf c29 (zp_X3_56_18 rfl)) (Or.inl (zFzOf c29 rfl)) rfl rfl dX3_looksAtPath_72 ?_
      refine Z.mem fun μ31 e33 => ?_
      have h32 := h30 μ31 e33
      have c34 : zC μ31 this = 18 := by rw [e33]; exact c29
      refine z_iload C dX3_looksAtPath_75 0 rfl ?_
      exact z_ireturn C rfl h32.1.1 dX3_looksAtPath_77 h32.2
/-! HutRidgeModel.nextHut(II)I -/
def Tr_X3_nextHut (w : WT) (this : Nat) (x1 : Int32) (x2 : Int32) (μ : Mem) (mc ms : Nat) (K : Out → Mem → Prop) : Prop := Tr w yX3_nextHut (ws_ yX3_nextHut cX3_nextHut 3 (Option.some Jvm.ClassFile.FieldType.int)) 5 130 [tR (some this), tI x1, tI x2] μ mc ms K
def Cx_X3_nextHut (w : WT) (g : GT) : Prop := Cx w g yX3_nextHut cX3_nextHut 3 (Option.some Jvm.ClassFile.FieldType.int) [] 5 130
theorem yd_X3_nextHut : yX3_nextHut.cls ≠ "java/lang/invoke/MethodHandle" ∧ yX3_nextHut.cls ≠ "java/lang/invoke/VarHandle" ∧ (parseMethodDescriptor yX3_nextHut.desc).map (fun d => d.parameters.length) = some 2 := by decide +kernel
set_option maxHeartbeats 4000000 in
theorem tr_X3_nextHut {w : WT} {this : Nat} {x1 : Int32} {x2 : Int32} {μ : Mem} {mc ms : Nat} {K : Out → Mem → Prop} (h : zM w μ → zC μ this = 18 ∧ Tr_X3_looksAtPath w this x1 x2 1 μ 0 0 (zKi (fun v3 μ4 => zM w μ4 → (v3 = 0 → K (.inl (some (tI 0))) μ4) ∧ (¬ v3 = 0 → zC μ4 this = 18 ∧ Tr_X3_hut w this x1 μ4 0 0 (zKi (fun v18 μ19 => zM w μ19 → zC μ19 this = 18 ∧ Tr_X3_next w this v18 x2 μ19 0 0 (zKi (fun v30 μ31 => zM w μ31 → zC μ31 this = 18 ∧ Tr_X3_at w this v30 μ31 0 0 (zKi (fun v42 μ43 => zM w μ43 → K (.inl (some (tI v42))) μ43) (fun q44 μ45 => False))) (fun q32 μ33 => False))) (fun q20 μ21 => False)))) (fun q5 μ6 => False))) : Tr_X3_nextHut w this x1 x2 μ mc ms K := by
  refine Tr.of (by decide +kernel) (Nat.le_of_ble_eq_true rfl) (fun g C => ?_)
  show Z w g K mc ms 0 [(0, tR (some this)), (1, tI x1), (2, tI x2)] [] μ 0 0
  refine Z.wm fun m0 => ?_
  have h := h m0
  refine z_aload_n C dX3_nextHut_0 0 rfl ?_
  refine z_iload_n C dX3_nextHut_1 1 rfl ?_
  refine z_iload_n C dX3_nextHut_2 2 rfl ?_
  refine z_iconst (v := 1) C dX3_nextHut_3 (by decide) ?_
  obtain ⟨c1, h2⟩ := h
  refine Z.kk fun c11 c12 => ?_
  have k10 := h2
  refine z_callV (as := [tI x1, tI x2, tI 1]) (rest := []) C k10 rfl rfl (by decide) c1 rfl q3824 q3826 qs79 q113 q3827 yd_X3_looksAtPath (by decide) (Nat.le_of_ble_eq_true rfl) dX3_nextHut_4 c11 c12 (zRet_i fun v3 μ4 h9 => ?_) (zThr_i fun _ _ z9 _ _ _ _ => z9.elim)
  · refine Z.wm fun m8 => ?_
    have h7 := h9 m8
    refine z_if_eq C 27 dX3_nextHut_7 (by decide) (fun c15 => ?_) (fun c15 => ?_)
    · have h13 := h7.1 c15
      refine z_iconst (v := 0) C dX3_nextHut_27 (by decide) ?_
      exact z_ireturn C rfl rfl dX3_nextHut_28 h13
    · have h14 := h7.2 c15
      refine z_aload_n C dX3_nextHut_10 0 rfl ?_
      refine z_aload_n C dX3_nextHut_11 0 rfl ?_
      refine z_aload_n C dX3_nextHut_12 0 rfl ?_
      refine z_iload_n C dX3_nextHut_13 1 rfl ?_
      obtain ⟨c16, h17⟩ := h14
      refine Z.kk fun c26 c27 => ?_
      have k25 := h17
      refine z_callV (as := [tI x1]) (rest := [tR (some this), tR (some this)]) C k25 rfl rfl (by decide) c16 rfl q3702 q3704 qs63 q113 q3705 yd_X3_hut (by decide) (Nat.le_of_ble_eq_true rfl) dX3_nextHut_14 c26 c27 (zRet_i fun v18 μ19 h24 => ?_) (zThr_i fun _ _ z9 _ _ _ _ => z9.elim)
      · refine Z.wm fun m23 => ?_
        have h22 := h24 m23
        refine z_iload_n C dX3_nextHut_17 2 rfl ?_
        obtain ⟨c28, h29⟩ := h22
        refine Z.kk fun c38 c39 => ?_
        have k37 := h29
        refine z_callV (as := [tI v18, tI x2]) (rest := [tR (some this)]) C k37 rfl rfl (by decide) c28 rfl q3828 q3830 qs80 q113 q3831 yd_X3_next (by decide) (Nat.le_of_ble_eq_true rfl) dX3_nextHut_18 c38 c39 (zRet_i fun v30 μ31 h36 => ?_) (zThr_i fun _ _ z9 _ _ _ _ => z9.elim)
        · refine Z.wm fun m35 => ?_
          have h34 := h36 m35
          obtain ⟨c40, h41⟩ := h34
          refine Z.kk fun c50 c51 => ?_
          have k49 := h41
          refine z_callV (as := [tI v30]) (rest := []) C k49 rfl rfl (by decide) c40 rfl q3706 q3708 qs64 q113 q3709 yd_X3_at (by decide) (Nat.le_of_ble_eq_true rfl) dX3_nextHut_21 c50 c51 (zRet_i fun v42 μ43 h48 => ?_) (zThr_i fun _ _ z9 _ _ _ _ => z9.elim)
          · refine Z.wm fun m47 => ?_
            have h46 := h48 m47
            refine z_goto C 28 dX3_nextHut_24 (by decide) ?_
            exact z_ireturn C rfl rfl dX3_nextHut_28 h46
/-! HutRidgeModel.isBlocked(II)Z -/
def Tr_X3_isBlocked (w : WT) (this : Nat) (x1 : Int32) (x2 : Int32) (μ : Mem) (mc ms : Nat) (K : Out → Mem → Prop) : Prop := Tr w yX3_isBlocked (ws_ yX3_isBlocked cX3_isBlocked 3 (Option.some Jvm.ClassFile.FieldType.boolean)) 5 130 [tR (some this), tI x1, tI x2] μ mc ms K
def Cx_X3_isBlocked (w : WT) (g : GT) : Prop := Cx w g yX3_isBlocked cX3_isBlocked 3 (Option.some Jvm.ClassFile.FieldType.boolean) [] 5 130
theorem yd_X3_isBlocked : yX3_isBlocked.cls ≠ "java/lang/invoke/MethodHandle" ∧ yX3_isBlocked.cls ≠ "java/lang/invoke/VarHandle" ∧ (parseMethodDescriptor yX3_isBlocked.desc).map (fun d => d.parameters.length) = some 2 := by decide +kernel
set_option maxHeartbeats 4000000 in
theorem tr_X3_isBlocked {w : WT} {this : Nat} {x1 : Int32} {x2 : Int32} {μ : Mem} {mc ms : Nat} {K : Out → Mem → Prop} (h : zM w μ → zC μ this = 18 ∧ Tr_X3_looksAtPath w this x1 x2 0 μ 0 0 (zKi (fun v3 μ4 => zM w μ4 → (v3 = 0 → K (.inl (some (tI 0))) μ4) ∧ (¬ v3 = 0 → zC μ4 this = 18 ∧ Tr_X3_hut w this x1 μ4 0 0 (zKi (fun v18 μ19 => zM w μ19 → zC μ19 this = 18 ∧ Tr_X3_isShut w this v18 x2 μ19 0 0 (zKi (fun v30 μ31 => zM w μ31 → (v30 = 0 → K (.inl (some (tI 0))) μ31) ∧ (¬ v30 = 0 → K (.inl (some (tI 1))) μ31)) (fun q32 μ33 => False))) (fun q20 μ21 => False)))) (fun q5 μ6 => False))) : Tr_X3_isBlocked w this x1 x2 μ mc ms K := by
  refine Tr.of (by decide +kernel) (Nat.le_of_ble_eq_true rfl) (fun g C => ?_)
  show Z w g K mc ms 0 [(0, tR (some this)), (1, tI x1), (2, tI x2)] [] μ 0 0
  refine Z.wm fun m0 => ?_
  have h := h m0
  refine z_aload_n C dX3_isBlocked_0 0 rfl ?_
  refine z_iload_n C dX3_isBlocked_1 1 rfl ?_
  refine z_iload_n C dX3_isBlocked_2 2 rfl ?_
  refine z_iconst (v := 0) C dX3_isBlocked_3 (by decide) ?_
  obtain ⟨c1, h2⟩ := h
  refine Z.kk fun c11 c12 => ?_
  have k10 := h2
  refine z_callV (as := [tI x1, tI x2, tI 0]) (rest := []) C k10 rfl rfl (by decide) c1 rfl q3824 q3826 qs79 q113 q3827 yd_X3_looksAtPath (by decide) (Nat.le_of_ble_eq_true rfl) dX3_isBlocked_4 c11 c12 (zRet_i fun v3 μ4 h9 => ?_) (zThr_i fun _ _ z9 _ _ _ _ => z9.elim)
  · refine Z.wm fun m8 => ?_
    have h7 := h9 m8
    refine z_if_eq C 27 dX3_isBlocked_7 (by decide) (fun c15 => ?_) (fun c15 => ?_)
    · have h13 := h7.1 c15
      refine z_iconst (v := 0) C dX3_isBlocked_27 (by decide) ?_
      exact z_ireturn C rfl (by decide) dX3_isBlocked_28 h13
    · have h14 := h7.2 c15
      refine z_aload_n C dX3_isBlocked_10 0 rfl ?_
      refine z_aload_n C dX3_isBlocked_11 0 rfl ?_
      refine z_iload_n C dX3_isBlocked_12 1 rfl ?_
      obtain ⟨c16, h17⟩ := h14
      refine Z.kk fun c26 c27 => ?_
      have k25 := h17
      refine z_callV (as := [tI x1]) (rest := [tR (some this)]) C k25 rfl rfl (by decide) c16 rfl q3702 q3704 qs63 q113 q3705 yd_X3_hut (by decide) (Nat.le_of_ble_eq_true rfl) dX3_isBlocked_13 c26 c27 (zRet_i fun v18 μ19 h24 => ?_) (zThr_i fun _ _ z9 _ _ _ _ => z9.elim)
      · refine Z.wm fun m23 => ?_
        have h22 := h24 m23
        refine z_iload_n C dX3_isBlocked_16 2 rfl ?_
        obtain ⟨c28, h29⟩ := h22
        refine Z.kk fun c38 c39 => ?_
        have k37 := h29
        refine z_callV (as := [tI v18, tI x2]) (rest := []) C k37 rfl rfl (by decide) c28 rfl q3745 q3747 qs70 q113 q3748 yd_X3_isShut (by decide) (Nat.le_of_ble_eq_true rfl) dX3_isBlocked_17 c38 c39 (zRet_i fun v30 μ31 h36 => ?_) (zThr_i fun _ _ z9 _ _ _ _ => z9.elim)
        · refine Z.wm fun m35 => ?_
          have h34 := h36 m35
          refine z_if_eq C 27 dX3_isBlocked_20 (by decide) (fun c42 => ?_) (fun c42 => ?_)
          · have h40 := h34.1 c42
            refine z_iconst (v := 0) C dX3_isBlocked_27 (by decide) ?_
            exact z_ireturn C rfl (by decide) dX3_isBlocked_28 h40
          · have h41 := h34.2 c42
            refine z_iconst (v := 1) C dX3_isBlocked_23 (by decide) ?_
            refine z_goto C 28 dX3_isBlocked_24 (by decide) ?_
            exact z_ireturn C rfl (by decide) dX3_isBlocked_28 h41
/-! HutRidgeModel.isSnowed(I)Z -/
def Tr_X3_isSnowed (w : WT) (this : Nat) (x1 : Int32) (μ : Mem) (mc ms : Nat) (K : Out → Mem → Prop) : Prop := Tr w yX3_isSnowed (ws_ yX3_isSnowed cX3_isSnowed 2 (Option.some Jvm.ClassFile.FieldType.boolean)) 3 82 [tR (some this), tI x1] μ mc ms K
def Cx_X3_isSnowed (w : WT) (g : GT) : Prop := Cx w g yX3_isSnowed cX3_isSnowed 2 (Option.some Jvm.ClassFile.FieldType.boolean) [] 3 82
theorem yd_X3_isSnowed : yX3_isSnowed.cls ≠ "java/lang/invoke/MethodHandle" ∧ yX3_isSnowed.cls ≠ "java/lang/invoke/VarHandle" ∧ (parseMethodDescriptor yX3_isSnowed.desc).map (fun d => d.parameters.length) = some 1 := by decide +kernel
def B_X3_isSnowed_13 (w : WT) (g : GT) (K : Out → Mem → Prop) (mc ms : Nat) (this : Nat) (x1 : Int32) (s0 : Int32) (s1 : Option Nat) (μ : Mem) (kc ks : Nat) : Prop := Z w g K mc ms 13 [(0, tR (some this)), (1, tI x1)] [tI s0, tR s1] μ kc ks
set_option maxHeartbeats 4000000 in
theorem tr_X3_isSnowed {w : WT} {this : Nat} {x1 : Int32} {μ : Mem} {mc ms : Nat} {K : Out → Mem → Prop} (h : ∀ g : GT, Cx_X3_isSnowed w g → zM w μ → Tr_X3_isLevel w x1 μ 0 0 (zKi (fun v1 μ2 => zM w μ2 → (v1 = 0 → B_X3_isSnowed_13 w g K mc ms this x1 1 (some this) μ2 0 0) ∧ (¬ v1 = 0 → B_X3_isSnowed_13 w g K mc ms this x1 0 (some this) μ2 0 0)) (fun q3 μ4 => False))) : Tr_X3_isSnowed w this x1 μ mc ms K := by
  refine Tr.of (by decide +kernel) (Nat.le_of_ble_eq_true rfl) (fun g C => ?_)
  show Z w g K mc ms 0 [(0, tR (some this)), (1, tI x1)] [] μ 0 0
  refine Z.wm fun m0 => ?_
  have h := h g C m0
  refine z_aload_n C dX3_isSnowed_0 0 rfl ?_
  refine z_iload_n C dX3_isSnowed_1 1 rfl ?_
  refine Z.kk fun c9 c10 => ?_
  have k8 := h
  refine z_callS (as := [tI x1]) (rest := [tR (some this)]) C k8 rfl q3695 q3696 q113 q3697 yd_X3_isLevel (by decide) (Nat.le_of_ble_eq_true rfl) dX3_isSnowed_2 c9 c10 (zRet_i fun v1 μ2 h7 => ?_) (zThr_i fun _ _ z9 _ _ _ _ => z9.elim)
  · refine Z.wm fun m6 => ?_
    have h5 := h7 m6
    refine z_if_eq C 12 dX3_isSnowed_5 (by decide) (fun c13 => ?_) (fun c13 => ?_)
    · have h11 := h5.1 c13
      refine z_iconst (v := 1) C dX3_isSnowed_12 (by decide) ?_
      refine Z.sub [0, 1] rfl ?_
      exact h11
    · have h12 := h5.2 c13
      refine z_iconst (v := 0) C dX3_isSnowed_8 (by decide) ?_
      refine z_goto C 13 dX3_isSnowed_9 (by decide) ?_
      refine Z.sub [0, 1] rfl ?_
      exact h12
set_option maxHeartbeats 4000000 in
theorem bk_X3_isSnowed_13 {w : WT} {g : GT} {K : Out → Mem → Prop} {mc ms : Nat} {this : Nat} {x1 : Int32} {s0 : Int32} {s1 : Option Nat} {μ : Mem} {kc ks : Nat} (C : Cx_X3_isSnowed w g) (h : zM w μ → ∃ a1 : Nat, s1 = some a1 ∧ zC μ a1 = 18 ∧ ∀ μ6 : Mem, μ6 = zsI μ 57 a1 s0 → zC μ6 this = 18 ∧ ((zI μ6 57 this) ≠ 0 → K (.inl (some (tI 0))) μ6) ∧ ((zI μ6 57 this) = 0 → ∃ a15 : Nat, (zR μ6 63 this) = some a15 ∧ zC μ6 a15 = 101 ∧ vp_in 1 (zN μ6 a15) ∧ ((((zA μ6 a15 1) >>> (x1 &&& 31)) &&& (1 : Int32)) ≠ 1 → K (.inl (some (tI 0))) μ6) ∧ ((((zA μ6 a15 1) >>> (x1 &&& 31)) &&& (1 : Int32)) = 1 → K (.inl (some (tI 1))) μ6))) : B_X3_isSnowed_13 w g K mc ms this x1 s0 s1 μ kc ks := by
  unfold Cx_X3_isSnowed at C
  unfold B_X3_isSnowed_13
  refine Z.wm fun m0 => ?_
  have h := h m0
  obtain ⟨a1, e2, h3⟩ := h
  obtain ⟨c4, h5⟩ := h3
  refine z_putI C e2 (zFpOf c4 (zp_X3_56_18 rfl)) (Or.inl (zFzOf c4 rfl)) rfl rfl dX3_isSnowed_13 ?_
  refine Z.mem fun μ6 e8 => ?_
  have h7 := h5 μ6 e8
  have c9 : zC μ6 a1 = 18 := by rw [e8]; exact c4
  refine z_aload_n C dX3_isSnowed_16 0 rfl ?_
  obtain ⟨c10, h11⟩ := h7
  refine z_getI C rfl (zFdOf c10 zf_X3_56_18) dX3_isSnowed_17 ?_
  refine z_if_ne C 41 dX3_isSnowed_20 (by decide) (fun c14 => ?_) (fun c14 => ?_)
  · have h12 := h11.1 c14
    refine z_iconst (v := 0) C dX3_isSnowed_41 (by decide) ?_
    exact z_ireturn C rfl (by decide) dX3_isSnowed_42 h12
  · have h13 := h11.2 c14
    refine z_aload_n C dX3_isSnowed_23 0 rfl ?_
    refine z_getR C rfl (zFdOf c10 zf_X3_16_18) dX3_isSnowed_24 ?_
    refine z_iconst (v := 1) C dX3_isSnowed_27 (by decide) ?_
    obtain ⟨a15, e16, h17⟩ := h13
    obtain ⟨c18, h19⟩ := h17
    obtain ⟨c20, h21⟩ := h19
    refine z_iald C e16 c18 c20 dX3_isSnowed_28 ?_
    refine z_iload_n C dX3_isSnowed_29 1 rfl ?_
    refine z_ishr C dX3_isSnowed_30 ?_
    refine z_iconst (v := 1) C dX3_isSnowed_31 (by decide) ?_
    refine z_iand C dX3_isSnowed_32 ?_
    refine z_iconst (v := 1) C dX3_isSnowed_33 (by decide) ?_
    refine z_icmp_ne C 41 dX3_isSnowed_34 (by decide) (fun c24 => ?_) (fun c24 => ?_)
    · have h22 := h21.1 c24
      refine z_iconst (v := 0) C dX3_isSnowed_41 (by decide) ?_
      exact z_ireturn C rfl (by decide) dX3_isSnowed_42 h22
    · have h23 := h21.2 c24
      refine z_iconst (v := 1) C dX3_isSnowed_37 (by decide) ?_
      refine z_goto C 42 dX3_isSnowed_38 (by decide) ?_
      exact z_ireturn C rfl (by decide) dX3_isSnowed_42 h23
/-! HutRidgeModel.many(I)I -/
def Tr_X3_many (w : WT) (this : Nat) (x1 : Int32) (μ : Mem) (mc ms : Nat) (K : Out → Mem → Prop) : Prop := Tr w yX3_many (ws_ yX3_many cX3_many 3 (Option.some Jvm.ClassFile.FieldType.int)) 3 82 [tR (some this), tI x1] μ mc ms K
def Cx_X3_many (w : WT) (g : GT) : Prop := Cx w g yX3_many cX3_many 3 (Option.some Jvm.ClassFile.FieldType.int) [] 3 82
theorem yd_X3_many : yX3_many.cls ≠ "java/lang/invoke/MethodHandle" ∧ yX3_many.cls ≠ "java/lang/invoke/VarHandle" ∧ (parseMethodDescriptor yX3_many.desc).map (fun d => d.parameters.length) = some 1 := by decide +kernel
def B_X3_many_2 (w : WT) (g : GT) (K : Out → Mem → Prop) (mc ms : Nat) (this : Nat) (x1 : Int32) (x2 : Int32)  (μ : Mem) (kc ks : Nat) : Prop := Z w g K mc ms 2 [(0, tR (some this)), (1, tI x1), (2, tI x2)] [] μ kc ks
set_option maxHeartbeats 4000000 in
theorem tr_X3_many {w : WT} {this : Nat} {x1 : Int32} {μ : Mem} {mc ms : Nat} {K : Out → Mem → Prop} (h : ∀ g : GT, Cx_X3_many w g → zM w μ → B_X3_many_2 w g K mc ms this x1 0 μ 0 0) : Tr_X3_many w this x1 μ mc ms K := by
  refine Tr.of (by decide +kernel) (Nat.le_of_ble_eq_true rfl) (fun g C => ?_)
  show Z w g K mc ms 0 [(0, tR (some this)), (1, tI x1)] [] μ 0 0
  refine Z.wm fun m0 => ?_
  have h := h g C m0
  refine z_iconst (v := 0) C dX3_many_0 (by decide) ?_
  refine z_istore_n (lv' := [(2, tI 0), (0, tR (some this)), (1, tI x1)]) C dX3_many_1 (by decide) rfl ?_
  refine Z.sub [1, 2, 0] rfl ?_
  exact h
set_option maxHeartbeats 4000000 in
theorem bk_X3_many_2 {w : WT} {g : GT} {K : Out → Mem → Prop} {mc ms : Nat} {this : Nat} {x1 : Int32} {x2 : Int32}  {μ : Mem} {kc ks : Nat} (C : Cx_X3_many w g) (h : zM w μ → zC μ this = 18 ∧ ∃ a3 : Nat, (zR μ 63 this) = some a3 ∧ zC μ a3 = 101 ∧ vp_in 0 (zN μ a3) ∧ ((zA μ a3 0) ≤ x2 → K (.inl (some (tI x2))) μ) ∧ (¬ (zA μ a3 0) ≤ x2 → Tr_X3_at w this x2 μ 0 0 (zKi (fun v13 μ14 => zM w μ14 → (x1 < v13 → K (.inl (some (tI x2))) μ14) ∧ (¬ x1 < v13 → B_X3_many_2 w g K mc ms this x1 (x2 + 1) μ14 kc ks)) (fun q15 μ16 => False)))) : B_X3_many_2 w g K mc ms this x1 x2 μ kc ks := by
  unfold Cx_X3_many at C
  unfold B_X3_many_2
  refine Z.wm fun m0 => ?_
  have h := h m0
  refine z_iload_n C dX3_many_2 2 rfl ?_
  refine z_aload_n C dX3_many_3 0 rfl ?_
  obtain ⟨c1, h2⟩ := h
  refine z_getR C rfl (zFdOf c1 zf_X3_16_18) dX3_many_4 ?_
  refine z_iconst (v := 0) C dX3_many_7 (by decide) ?_
  obtain ⟨a3, e4, h5⟩ := h2
  obtain ⟨c6, h7⟩ := h5
  obtain ⟨c8, h9⟩ := h7
  refine z_iald C e4 c6 c8 dX3_many_8 ?_
  refine z_icmp_ge C 27 dX3_many_9 (by decide) (fun c12 => ?_) (fun c12 => ?_)
  · have h10 := h9.1 c12
    refine z_iload_n C dX3_many_27 2 rfl ?_
    exact z_ireturn C rfl rfl dX3_many_28 h10
  · have h11 := h9.2 c12
    refine z_aload_n C dX3_many_12 0 rfl ?_
    refine z_iload_n C dX3_many_13 2 rfl ?_
    refine Z.kk fun c21 c22 => ?_
    have k20 := h11
    refine z_callV (as := [tI x2]) (rest := []) C k20 rfl rfl (by decide) c1 rfl q3706 q3708 qs64 q113 q3709 yd_X3_at (by decide) (Nat.le_of_ble_eq_true rfl) dX3_many_14 c21 c22 (zRet_i fun v13 μ14 h19 => ?_) (zThr_i fun _ _ z9 _ _ _ _ => z9.elim)
    · refine Z.wm fun m18 => ?_
      have h17 := h19 m18
      refine z_iload_n C dX3_many_17 1 rfl ?_
      refine z_icmp_gt C 27 dX3_many_18 (by decide) (fun c25 => ?_) (fun c25 => ?_)
      · have h23 := h17.1 c25
        refine z_iload_n C dX3_many_27 2 rfl ?_
        exact z_ireturn C rfl rfl dX3_many_28 h23
      · have h24 := h17.2 c25
        refine z_iinc (k0 := 2) (v := x2 + 1) (lv' := [(2, tI (x2 + 1)), (0, tR (some this)), (1, tI x1)]) C dX3_many_21 rfl (by first | rfl | decide) (by decide) rfl ?_
        refine z_goto C 2 dX3_many_24 (by decide) ?_
        refine Z.sub [1, 2, 0] rfl ?_
        exact h24
/-! HutRidgeModel.hutBefore(I)I -/
def Tr_X3_hutBefore (w : WT) (this : Nat) (x1 : Int32) (μ : Mem) (mc ms : Nat) (K : Out → Mem → Prop) : Prop := Tr w yX3_hutBefore (ws_ yX3_hutBefore cX3_hutBefore 3 (Option.some Jvm.ClassFile.FieldType.int)) 4 104 [tR (some this), tI x1] μ mc ms K
def Cx_X3_hutBefore (w : WT) (g : GT) : Prop := Cx w g yX3_hutBefore cX3_hutBefore 3 (Option.some Jvm.ClassFile.FieldType.int) [] 4 104
theorem yd_X3_hutBefore : yX3_hutBefore.cls ≠ "java/lang/invoke/MethodHandle" ∧ yX3_hutBefore.cls ≠ "java/lang/invoke/VarHandle" ∧ (parseMethodDescriptor yX3_hutBefore.desc).map (fun d => d.parameters.length) = some 1 := by decide +kernel
def B_X3_hutBefore_16 (w : WT) (g : GT) (K : Out → Mem → Prop) (mc ms : Nat) (this : Nat) (x2 : Int32) (s0 : Int32) (s1 : Option Nat) (μ : Mem) (kc ks : Nat) : Prop := Z w g K mc ms 16 [(0, tR (some this)), (2, tI x2)] [tI s0, tR s1] μ kc ks
set_option maxHeartbeats 4000000 in
theorem tr_X3_hutBefore {w : WT} {this : Nat} {x1 : Int32} {μ : Mem} {mc ms : Nat} {K : Out → Mem → Prop} (h : ∀ g : GT, Cx_X3_hutBefore w g → zM w μ → zC μ this = 18 ∧ Tr_X3_many w this x1 μ 0 0 (zKi (fun v3 μ4 => zM w μ4 → (v3 ≠ 0 → B_X3_hutBefore_16 w g K mc ms this v3 0 (some this) μ4 0 0) ∧ (v3 = 0 → B_X3_hutBefore_16 w g K mc ms this v3 1 (some this) μ4 0 0)) (fun q5 μ6 => False))) : Tr_X3_hutBefore w this x1 μ mc ms K := by
  refine Tr.of (by decide +kernel) (Nat.le_of_ble_eq_true rfl) (fun g C => ?_)
  show Z w g K mc ms 0 [(0, tR (some this)), (1, tI x1)] [] μ 0 0
  refine Z.wm fun m0 => ?_
  have h := h g C m0
  refine z_aload_n C dX3_hutBefore_0 0 rfl ?_
  refine z_iload_n C dX3_hutBefore_1 1 rfl ?_
  obtain ⟨c1, h2⟩ := h
  refine Z.kk fun c11 c12 => ?_
  have k10 := h2
  refine z_callV (as := [tI x1]) (rest := []) C k10 rfl rfl (by decide) c1 rfl q3844 q3846 qs81 q113 q3847 yd_X3_many (by decide) (Nat.le_of_ble_eq_true rfl) dX3_hutBefore_2 c11 c12 (zRet_i fun v3 μ4 h9 => ?_) (zThr_i fun _ _ z9 _ _ _ _ => z9.elim)
  · refine Z.wm fun m8 => ?_
    have h7 := h9 m8
    refine z_istore_n (lv' := [(2, tI v3), (0, tR (some this)), (1, tI x1)]) C dX3_hutBefore_5 (by decide) rfl ?_
    refine z_aload_n C dX3_hutBefore_6 1 rfl ?_
    refine z_iload_n C dX3_hutBefore_7 0 rfl ?_
    refine z_if_ne C 15 dX3_hutBefore_8 (by decide) (fun c15 => ?_) (fun c15 => ?_)
    · have h13 := h7.1 c15
      refine z_iconst (v := 0) C dX3_hutBefore_15 (by decide) ?_
      refine Z.sub [1, 0] rfl ?_
      exact h13
    · have h14 := h7.2 c15
      refine z_iconst (v := 1) C dX3_hutBefore_11 (by decide) ?_
      refine z_goto C 16 dX3_hutBefore_12 (by decide) ?_
      refine Z.sub [1, 0] rfl ?_
      exact h14
set_option maxHeartbeats 4000000 in
theorem bk_X3_hutBefore_16 {w : WT} {g : GT} {K : Out → Mem → Prop} {mc ms : Nat} {this : Nat} {x2 : Int32} {s0 : Int32} {s1 : Option Nat} {μ : Mem} {kc ks : Nat} (C : Cx_X3_hutBefore w g) (h : zM w μ → ∃ a1 : Nat, s1 = some a1 ∧ zC μ a1 = 18 ∧ ∀ μ6 : Mem, μ6 = zsI μ 57 a1 s0 → zC μ6 this = 18 ∧ ((zI μ6 57 this) ≠ 0 → K (.inl (some (tI 0))) μ6) ∧ ((zI μ6 57 this) = 0 → Tr_X3_at w this (x2 - (1 : Int32)) μ6 0 0 (zKi (fun v15 μ16 => zM w μ16 → K (.inl (some (tI v15))) μ16) (fun q17 μ18 => False)))) : B_X3_hutBefore_16 w g K mc ms this x2 s0 s1 μ kc ks := by
  unfold Cx_X3_hutBefore at C
  unfold B_X3_hutBefore_16
  refine Z.wm fun m0 => ?_
  have h := h m0
  obtain ⟨a1, e2, h3⟩ := h
  obtain ⟨c4, h5⟩ := h3
  refine z_putI C e2 (zFpOf c4 (zp_X3_56_18 rfl)) (Or.inl (zFzOf c4 rfl)) rfl rfl dX3_hutBefore_16 ?_
  refine Z.mem fun μ6 e8 => ?_
  have h7 := h5 μ6 e8
  have c9 : zC μ6 a1 = 18 := by rw [e8]; exact c4
  refine z_aload_n C dX3_hutBefore_19 0 rfl ?_
  obtain ⟨c10, h11⟩ := h7
  refine z_getI C rfl (zFdOf c10 zf_X3_56_18) dX3_hutBefore_20 ?_
  refine z_if_ne C 36 dX3_hutBefore_23 (by decide) (fun c14 => ?_) (fun c14 => ?_)
  · have h12 := h11.1 c14
    refine z_iconst (v := 0) C dX3_hutBefore_36 (by decide) ?_
    exact z_ireturn C rfl rfl dX3_hutBefore_37 h12
  · have h13 := h11.2 c14
    refine z_aload_n C dX3_hutBefore_26 0 rfl ?_
    refine z_iload_n C dX3_hutBefore_27 1 rfl ?_
    refine z_iconst (v := 1) C dX3_hutBefore_28 (by decide) ?_
    refine z_isub C dX3_hutBefore_29 ?_
    refine Z.kk fun c23 c24 => ?_
    have k22 := h13
    refine z_callV (as := [tI (x2 - (1 : Int32))]) (rest := []) C k22 rfl rfl (by decide) c10 rfl q3706 q3708 qs64 q113 q3709 yd_X3_at (by decide) (Nat.le_of_ble_eq_true rfl) dX3_hutBefore_30 c23 c24 (zRet_i fun v15 μ16 h21 => ?_) (zThr_i fun _ _ z9 _ _ _ _ => z9.elim)
    · refine Z.wm fun m20 => ?_
      have h19 := h21 m20
      refine z_goto C 37 dX3_hutBefore_33 (by decide) ?_
      exact z_ireturn C rfl rfl dX3_hutBefore_37 h19
/-! HutRidgeModel.hutBeforeByWalking(I)I -/
def Tr_X3_hutBeforeByWalking (w : WT) (this : Nat) (x1 : Int32) (μ : Mem) (mc ms : Nat) (K : Out → Mem → Prop) : Prop := Tr w yX3_hutBeforeByWalking (ws_ yX3_hutBeforeByWalking cX3_hutBeforeByWalking 2 (Option.some Jvm.ClassFile.FieldType.int)) 5 126 [tR (some this), tI x1] μ mc ms K
def Cx_X3_hutBeforeByWalking (w : WT) (g : GT) : Prop := Cx w g yX3_hutBeforeByWalking cX3_hutBeforeByWalking 2 (Option.some Jvm.ClassFile.FieldType.int) [] 5 126
theorem yd_X3_hutBeforeByWalking : yX3_hutBeforeByWalking.cls ≠ "java/lang/invoke/MethodHandle" ∧ yX3_hutBeforeByWalking.cls ≠ "java/lang/invoke/VarHandle" ∧ (parseMethodDescriptor yX3_hutBeforeByWalking.desc).map (fun d => d.parameters.length) = some 1 := by decide +kernel
set_option maxHeartbeats 4000000 in
theorem tr_X3_hutBeforeByWalking {w : WT} {this : Nat} {x1 : Int32} {μ : Mem} {mc ms : Nat} {K : Out → Mem → Prop} (h : zM w μ → zC μ this = 18 ∧ Tr_X3_hutBefore w this x1 μ 0 0 (zKi (fun v3 μ4 => zM w μ4 → K (.inl (some (tI v3))) μ4) (fun q5 μ6 => False))) : Tr_X3_hutBeforeByWalking w this x1 μ mc ms K := by
  refine Tr.of (by decide +kernel) (Nat.le_of_ble_eq_true rfl) (fun g C => ?_)
  show Z w g K mc ms 0 [(0, tR (some this)), (1, tI x1)] [] μ 0 0
  refine Z.wm fun m0 => ?_
  have h := h m0
  refine z_aload_n C dX3_hutBeforeByWalking_0 0 rfl ?_
  refine z_iload_n C dX3_hutBeforeByWalking_1 1 rfl ?_
  obtain ⟨c1, h2⟩ := h
  refine Z.kk fun c11 c12 => ?_
  have k10 := h2
  refine z_callV (as := [tI x1]) (rest := []) C k10 rfl rfl (by decide) c1 rfl q3852 q3841 q3842 q113 q3843 yd_X3_hutBefore (by decide) (Nat.le_of_ble_eq_true rfl) dX3_hutBeforeByWalking_2 c11 c12 (zRet_i fun v3 μ4 h9 => ?_) (zThr_i fun _ _ z9 _ _ _ _ => z9.elim)
  · refine Z.wm fun m8 => ?_
    have h7 := h9 m8
    exact z_ireturn C rfl rfl dX3_hutBeforeByWalking_5 h7
/-! HutRidgeModel.stepsTo(I)I -/
def Tr_X3_stepsTo (w : WT) (this : Nat) (x1 : Int32) (μ : Mem) (mc ms : Nat) (K : Out → Mem → Prop) : Prop := Tr w yX3_stepsTo (ws_ yX3_stepsTo cX3_stepsTo 5 (Option.some Jvm.ClassFile.FieldType.int)) 4 105 [tR (some this), tI x1] μ mc ms K
def Cx_X3_stepsTo (w : WT) (g : GT) : Prop := Cx w g yX3_stepsTo cX3_stepsTo 5 (Option.some Jvm.ClassFile.FieldType.int) [] 4 105
theorem yd_X3_stepsTo : yX3_stepsTo.cls ≠ "java/lang/invoke/MethodHandle" ∧ yX3_stepsTo.cls ≠ "java/lang/invoke/VarHandle" ∧ (parseMethodDescriptor yX3_stepsTo.desc).map (fun d => d.parameters.length) = some 1 := by decide +kernel
def B_X3_stepsTo_15 (w : WT) (g : GT) (K : Out → Mem → Prop) (mc ms : Nat) (this : Nat) (x1 : Int32) (x2 : Int32) (x3 : Int32) (x4 : Int32)  (μ : Mem) (kc ks : Nat) : Prop := Z w g K mc ms 15 [(0, tR (some this)), (1, tI x1), (2, tI x2), (3, tI x3), (4, tI x4)] [] μ kc ks
def B_X3_stepsTo_20 (w : WT) (g : GT) (K : Out → Mem → Prop) (mc ms : Nat) (this : Nat) (x1 : Int32) (x2 : Int32) (x3 : Int32) (x4 : Int32)  (μ : Mem) (kc ks : Nat) : Prop := Z w g K mc ms 20 [(0, tR (some this)), (1, tI x1), (2, tI x2), (3, tI x3), (4, tI x4)] [] μ kc ks
def B_X3_stepsTo_59 (w : WT) (g : GT) (K : Out → Mem → Prop) (mc ms : Nat) (this : Nat) (x1 : Int32) (x2 : Int32) (x3 : Int32) (x4 : Int32)  (μ : Mem) (kc ks : Nat) : Prop := Z w g K mc ms 59 [(0, tR (some this)), (1, tI x1), (2, tI x2), (3, tI x3), (4, tI x4)] [] μ kc ks
set_option maxHeartbeats 4000000 in
theorem tr_X3_stepsTo {w : WT} {this : Nat} {x1 : Int32} {μ : Mem} {mc ms : Nat} {K : Out → Mem → Prop} (h : ∀ g : GT, Cx_X3_stepsTo w g → zM w μ → zC μ this = 18 ∧ ∀ μ3 : Mem, μ3 = zsI μ 57 this 0 → Tr_X3_top w this μ3 0 0 (zKi (fun v7 μ8 => zM w μ8 → B_X3_stepsTo_15 w g K mc ms this x1 0 (-1 : Int32) v7 μ8 0 0) (fun q9 μ10 => False))) : Tr_X3_stepsTo w this x1 μ mc ms K := by
  refine Tr.of (by decide +kernel) (Nat.le_of_ble_eq_true rfl) (fun g C => ?_)
  show Z w g K mc ms 0 [(0, tR (some this)), (1, tI x1)] [] μ 0 0
  refine Z.wm fun m0 => ?_
  have h := h g C m0
  refine z_aload_n C dX3_stepsTo_0 0 rfl ?_
  refine z_iconst (v := 0) C dX3_stepsTo_1 (by decide) ?_
  obtain ⟨c1, h2⟩ := h
  refine z_putI C rfl (zFpOf c1 (zp_X3_56_18 rfl)) (Or.inl (zFzOf c1 rfl)) rfl rfl dX3_stepsTo_2 ?_
  refine Z.mem fun μ3 e5 => ?_
  have h4 := h2 μ3 e5
  have c6 : zC μ3 this = 18 := by rw [e5]; exact c1
  refine z_iconst (v := 0) C dX3_stepsTo_5 (by decide) ?_
  refine z_istore_n (lv' := [(2, tI 0), (0, tR (some this)), (1, tI x1)]) C dX3_stepsTo_6 (by decide) rfl ?_
  refine z_iconst (v := (-1 : Int32)) C dX3_stepsTo_7 (by decide) ?_
  refine z_istore_n (lv' := [(3, tI (-1 : Int32)), (2, tI 0), (0, tR (some this)), (1, tI x1)]) C dX3_stepsTo_8 (by decide) rfl ?_
  refine z_aload_n C dX3_stepsTo_9 2 rfl ?_
  refine Z.kk fun c15 c16 => ?_
  have k14 := h4
  refine z_callV (as := []) (rest := []) C k14 rfl rfl (by decide) c6 rfl q3812 q3814 qs78 q113 q3815 yd_X3_top (by decide) (Nat.le_of_ble_eq_true rfl) dX3_stepsTo_10 c15 c16 (zRet_i fun v7 μ8 h13 => ?_) (zThr_i fun _ _ z9 _ _ _ _ => z9.elim)
  · refine Z.wm fun m12 => ?_
    have h11 := h13 m12
    refine z_istore (lv' := [(4, tI v7), (3, tI (-1 : Int32)), (2, tI 0), (0, tR (some this)), (1, tI x1)]) C dX3_stepsTo_13 (by decide) rfl ?_
    refine Z.sub [3, 4, 2, 1, 0] rfl ?_
    exact h11
set_option maxHeartbeats 4000000 in
theorem bk_X3_stepsTo_15 {w : WT} {g : GT} {K : Out → Mem → Prop} {mc ms : Nat} {this : Nat} {x1 : Int32} {x2 : Int32} {x3 : Int32} {x4 : Int32}  {μ : Mem} {kc ks : Nat} (C : Cx_X3_stepsTo w g) (h : zM w μ → (x4 < 0 → K (.inl (some (tI x2))) μ) ∧ (¬ x4 < 0 → B_X3_stepsTo_20 w g K mc ms this x1 x2 x3 x4 μ kc ks)) : B_X3_stepsTo_15 w g K mc ms this x1 x2 x3 x4 μ kc ks := by
  unfold Cx_X3_stepsTo at C
  unfold B_X3_stepsTo_15
  refine Z.wm fun m0 => ?_
  have h := h m0
  refine z_iload C dX3_stepsTo_15 4 rfl ?_
  refine z_if_lt C 78 dX3_stepsTo_17 (by decide) (fun c3 => ?_) (fun c3 => ?_)
  · have h1 := h.1 c3
    refine z_iload_n C dX3_stepsTo_78 2 rfl ?_
    exact z_ireturn C rfl rfl dX3_stepsTo_79 h1
  · have h2 := h.2 c3
    refine Z.sub [0, 1, 2, 3, 4] rfl ?_
    exact h2
set_option maxHeartbeats 4000000 in
theorem bk_X3_stepsTo_20 {w : WT} {g : GT} {K : Out → Mem → Prop} {mc ms : Nat} {this : Nat} {x1 : Int32} {x2 : Int32} {x3 : Int32} {x4 : Int32}  {μ : Mem} {kc ks : Nat} (C : Cx_X3_stepsTo w g) (h : zM w μ → zC μ this = 18 ∧ Tr_X3_next w this x3 x4 μ 0 0 (zKi (fun v3 μ4 => zM w μ4 → (v3 < 0 → B_X3_stepsTo_59 w g K mc ms this x1 x2 x3 x4 μ4 kc ks) ∧ (¬ v3 < 0 → zC μ4 this = 18 ∧ Tr_X3_next w this x3 x4 μ4 0 0 (zKi (fun v18 μ19 => zM w μ19 → zC μ19 this = 18 ∧ Tr_X3_at w this v18 μ19 0 0 (zKi (fun v30 μ31 => zM w μ31 → (x1 < v30 → B_X3_stepsTo_59 w g K mc ms this x1 x2 x3 x4 μ31 kc ks) ∧ (¬ x1 < v30 → zC μ31 this = 18 ∧ Tr_X3_next w this x3 x4 μ31 0 0 (zKi (fun v45 μ46 => zM w μ46 → B_X3_stepsTo_20 w g K mc ms this x1 (x2 + 1) v45 x4 μ46 kc ks) (fun q47 μ48 => False)))) (fun q32 μ33 => False))) (fun q20 μ21 => False)))) (fun q5 μ6 => False))) : B_X3_stepsTo_20 w g K mc ms this x1 x2 x3 x4 μ kc ks := by
  unfold Cx_X3_stepsTo at C
  unfold B_X3_stepsTo_20
  refine Z.wm fun m0 => ?_
  have h := h m0
  refine z_aload_n C dX3_stepsTo_20 0 rfl ?_
  refine z_iload_n C dX3_stepsTo_21 3 rfl ?_
  refine z_iload C dX3_stepsTo_22 4 rfl ?_
  obtain ⟨c1, h2⟩ := h
  refine Z.kk fun c11 c12 => ?_
  have k10 := h2
  refine z_callV (as := [tI x3, tI x4]) (rest := []) C k10 rfl rfl (by decide) c1 rfl q3828 q3830 qs80 q113 q3831 yd_X3_next (by decide) (Nat.le_of_ble_eq_true rfl) dX3_stepsTo_24 c11 c12 (zRet_i fun v3 μ4 h9 => ?_) (zThr_i fun _ _ z9 _ _ _ _ => z9.elim)
  · refine Z.wm fun m8 => ?_
    have h7 := h9 m8
    refine z_if_lt C 59 dX3_stepsTo_27 (by decide) (fun c15 => ?_) (fun c15 => ?_)
    · have h13 := h7.1 c15
      refine Z.sub [0, 1, 2, 3, 4] rfl ?_
      exact h13
    · have h14 := h7.2 c15
      refine z_aload_n C dX3_stepsTo_30 0 rfl ?_
      refine z_aload_n C dX3_stepsTo_31 0 rfl ?_
      refine z_iload_n C dX3_stepsTo_32 3 rfl ?_
      refine z_iload C dX3_stepsTo_33 4 rfl ?_
      obtain ⟨c16, h17⟩ := h14
      refine Z.kk fun c26 c27 => ?_
      have k25 := h17
      refine z_callV (as := [tI x3, tI x4]) (rest := [tR (some this)]) C k25 rfl rfl (by decide) c16 rfl q3828 q3830 qs80 q113 q3831 yd_X3_next (by decide) (Nat.le_of_ble_eq_true rfl) dX3_stepsTo_35 c26 c27 (zRet_i fun v18 μ19 h24 => ?_) (zThr_i fun _ _ z9 _ _ _ _ => z9.elim)
      · refine Z.wm fun m23 => ?_
        have h22 := h24 m23
        obtain ⟨c28, h29⟩ := h22
        refine Z.kk fun c38 c39 => ?_
        have k37 := h29
        refine z_callV (as := [tI v18]) (rest := []) C k37 rfl rfl (by decide) c28 rfl q3706 q3708 qs64 q113 q3709 yd_X3_at (by decide) (Nat.le_of_ble_eq_true rfl) dX3_stepsTo_38 c38 c39 (zRet_i fun v30 μ31 h36 => ?_) (zThr_i fun _ _ z9 _ _ _ _ => z9.elim)
        · refine Z.wm fun m35 => ?_
          have h34 := h36 m35
          refine z_iload_n C dX3_stepsTo_41 1 rfl ?_
          refine z_icmp_gt C 59 dX3_stepsTo_42 (by decide) (fun c42 => ?_) (fun c42 => ?_)
          · have h40 := h34.1 c42
            refine Z.sub [0, 1, 2, 3, 4] rfl ?_
            exact h40
          · have h41 := h34.2 c42
            refine z_aload_n C dX3_stepsTo_45 0 rfl ?_
            refine z_iload_n C dX3_stepsTo_46 3 rfl ?_
            refine z_iload C dX3_stepsTo_47 4 rfl ?_
            obtain ⟨c43, h44⟩ := h41
            refine Z.kk fun c53 c54 => ?_
            have k52 := h44
            refine z_callV (as := [tI x3, tI x4]) (rest := []) C k52 rfl rfl (by decide) c43 rfl q3828 q3830 qs80 q113 q3831 yd_X3_next (by decide) (Nat.le_of_ble_eq_true rfl) dX3_stepsTo_49 c53 c54 (zRet_i fun v45 μ46 h51 => ?_) (zThr_i fun _ _ z9 _ _ _ _ => z9.elim)
            · refine Z.wm fun m50 => ?_
              have h49 := h51 m50
              refine z_istore_n (lv' := [(3, tI v45), (0, tR (some this)), (1, tI x1), (2, tI x2), (4, tI x4)]) C dX3_stepsTo_52 (by decide) rfl ?_
              refine z_iinc (k0 := 3) (v := x2 + 1) (lv' := [(2, tI (x2 + 1)), (3, tI v45), (0, tR (some this)), (1, tI x1), (4, tI x4)]) C dX3_stepsTo_53 rfl (by first | rfl | decide) (by decide) rfl ?_
              refine z_goto C 20 dX3_stepsTo_56 (by decide) ?_
              refine Z.sub [2, 3, 0, 1, 4] rfl ?_
              exact h49
set_option maxHeartbeats 4000000 in
theorem bk_X3_stepsTo_59 {w : WT} {g : GT} {K : Out → Mem → Prop} {mc ms : Nat} {this : Nat} {x1 : Int32} {x2 : Int32} {x3 : Int32} {x4 : Int32}  {μ : Mem} {kc ks : Nat} (C : Cx_X3_stepsTo w g) (h : zM w μ → (x4 ≤ 0 → B_X3_stepsTo_15 w g K mc ms this x1 (x2 + (0 : Int32)) x3 (x4 + (-1 : Int32)) μ kc ks) ∧ (¬ x4 ≤ 0 → B_X3_stepsTo_15 w g K mc ms this x1 (x2 + (1 : Int32)) x3 (x4 + (-1 : Int32)) μ kc ks)) : B_X3_stepsTo_59 w g K mc ms this x1 x2 x3 x4 μ kc ks := by
  unfold Cx_X3_stepsTo at C
  unfold B_X3_stepsTo_59
  refine Z.wm fun m0 => ?_
  have h := h m0
  refine z_iload_n C dX3_stepsTo_59 2 rfl ?_
  refine z_iload C dX3_stepsTo_60 4 rfl ?_
  refine z_if_le C 69 dX3_stepsTo_62 (by decide) (fun c3 => ?_) (fun c3 => ?_)
  · have h1 := h.1 c3
    refine z_iconst (v := 0) C dX3_stepsTo_69 (by decide) ?_
    refine z_iadd C dX3_stepsTo_70 ?_
    refine z_istore_n (lv' := [(2, tI (x2 + (0 : Int32))), (0, tR (some this)), (1, tI x1), (3, tI x3), (4, tI x4)]) C dX3_stepsTo_71 (by decide) rfl ?_
    refine z_iinc (k0 := 4) (v := x4 + (-1 : Int32)) (lv' := [(4, tI (x4 + (-1 : Int32))), (2, tI (x2 + (0 : Int32))), (0, tR (some this)), (1, tI x1), (3, tI x3)]) C dX3_stepsTo_72 rfl (by first | rfl | decide) (by decide) rfl ?_
    refine z_goto C 15 dX3_stepsTo_75 (by decide) ?_
    refine Z.sub [2, 3, 1, 4, 0] rfl ?_
    exact h1
  · have h2 := h.2 c3
    refine z_iconst (v := 1) C dX3_stepsTo_65 (by decide) ?_
    refine z_goto C 70 dX3_stepsTo_66 (by decide) ?_
    refine z_iadd C dX3_stepsTo_70 ?_
    refine z_istore_n (lv' := [(2, tI (x2 + (1 : Int32))), (0, tR (some this)), (1, tI x1), (3, tI x3), (4, tI x4)]) C dX3_stepsTo_71 (by decide) rfl ?_
    refine z_iinc (k0 := 4) (v := x4 + (-1 : Int32)) (lv' := [(4, tI (x4 + (-1 : Int32))), (2, tI (x2 + (1 : Int32))), (0, tR (some this)), (1, tI x1), (3, tI x3)]) C dX3_stepsTo_72 rfl (by first | rfl | decide) (by decide) rfl ?_
    refine z_goto C 15 dX3_stepsTo_75 (by decide) ?_
    refine Z.sub [2, 3, 1, 4, 0] rfl ?_
    exact h2
/-! HutRidgeModel.stepsSaved(I)I -/
def Tr_X3_stepsSaved (w : WT) (this : Nat) (x1 : Int32) (μ : Mem) (mc ms : Nat) (K : Out → Mem → Prop) : Prop := Tr w yX3_stepsSaved (ws_ yX3_stepsSaved cX3_stepsSaved 2 (Option.some Jvm.ClassFile.FieldType.int)) 5 129 [tR (some this), tI x1] μ mc ms K
def Cx_X3_stepsSaved (w : WT) (g : GT) : Prop := Cx w g yX3_stepsSaved cX3_stepsSaved 2 (Option.some Jvm.ClassFile.FieldType.int) [] 5 129
theorem yd_X3_stepsSaved : yX3_stepsSaved.cls ≠ "java/lang/invoke/MethodHandle" ∧ yX3_stepsSaved.cls ≠ "java/lang/invoke/VarHandle" ∧ (parseMethodDescriptor yX3_stepsSaved.desc).map (fun d => d.parameters.length) = some 1 := by decide +kernel
set_option maxHeartbeats 4000000 in
theorem tr_X3_stepsSaved {w : WT} {this : Nat} {x1 : Int32} {μ : Mem} {mc ms : Nat} {K : Out → Mem → Prop} (h : zM w μ → zC μ this = 18 ∧ Tr_X3_many w this x1 μ 0 0 (zKi (fun v3 μ4 => zM w μ4 → zC μ4 this = 18 ∧ Tr_X3_stepsTo w this x1 μ4 0 0 (zKi (fun v15 μ16 => zM w μ16 → K (.inl (some (tI (v3 - v15)))) μ16) (fun q17 μ18 => False))) (fun q5 μ6 => False))) : Tr_X3_stepsSaved w this x1 μ mc ms K := by
  refine Tr.of (by decide +kernel) (Nat.le_of_ble_eq_true rfl) (fun g C => ?_)
  show Z w g K mc ms 0 [(0, tR (some this)), (1, tI x1)] [] μ 0 0
  refine Z.wm fun m0 => ?_
  have h := h m0
  refine z_aload_n C dX3_stepsSaved_0 0 rfl ?_
  refine z_iload_n C dX3_stepsSaved_1 1 rfl ?_
  obtain ⟨c1, h2⟩ := h
  refine Z.kk fun c11 c12 => ?_
  have k10 := h2
  refine z_callV (as := [tI x1]) (rest := []) C k10 rfl rfl (by decide) c1 rfl q3844 q3846 qs81 q113 q3847 yd_X3_many (by decide) (Nat.le_of_ble_eq_true rfl) dX3_stepsSaved_2 c11 c12 (zRet_i fun v3 μ4 h9 => ?_) (zThr_i fun _ _ z9 _ _ _ _ => z9.elim)
  · refine Z.wm fun m8 => ?_
    have h7 := h9 m8
    refine z_aload_n C dX3_stepsSaved_5 0 rfl ?_
    refine z_iload_n C dX3_stepsSaved_6 1 rfl ?_
    obtain ⟨c13, h14⟩ := h7
    refine Z.kk fun c23 c24 => ?_
    have k22 := h14
    refine z_callV (as := [tI x1]) (rest := [tI v3]) C k22 rfl rfl (by decide) c13 rfl q3861 q3854 q3855 q113 q3856 yd_X3_stepsTo (by decide) (Nat.le_of_ble_eq_true rfl) dX3_stepsSaved_7 c23 c24 (zRet_i fun v15 μ16 h21 => ?_) (zThr_i fun _ _ z9 _ _ _ _ => z9.elim)
    · refine Z.wm fun m20 => ?_
      have h19 := h21 m20
      refine z_isub C dX3_stepsSaved_10 ?_
      exact z_ireturn C rfl rfl dX3_stepsSaved_11 h19
/-! HutRidgeModel.rankOf(I)I -/
def Tr_X3_rankOf (w : WT) (this : Nat) (x1 : Int32) (μ : Mem) (mc ms : Nat) (K : Out → Mem → Prop) : Prop := Tr w yX3_rankOf (ws_ yX3_rankOf cX3_rankOf 3 (Option.some Jvm.ClassFile.FieldType.int)) 4 104 [tR (some this), tI x1] μ mc ms K
def Cx_X3_rankOf (w : WT) (g : GT) : Prop := Cx w g yX3_rankOf cX3_rankOf 3 (Option.some Jvm.ClassFile.FieldType.int) [] 4 104
theorem yd_X3_rankOf : yX3_rankOf.cls ≠ "java/lang/invoke/MethodHandle" ∧ yX3_rankOf.cls ≠ "java/lang/invoke/VarHandle" ∧ (parseMethodDescriptor yX3_rankOf.desc).map (fun d => d.parameters.length) = some 1 := by decide +kernel
set_option maxHeartbeats 4000000 in
theorem tr_X3_rankOf {w : WT} {this : Nat} {x1 : Int32} {μ : Mem} {mc ms : Nat} {K : Out → Mem → Prop} (h : zM w μ → zC μ this = 18 ∧ Tr_X3_hut w this x1 μ 0 0 (zKi (fun v3 μ4 => zM w μ4 → (0 ≤ v3 → zC μ4 this = 18 ∧ ∀ μ18 : Mem, μ18 = zsI μ4 57 this 0 → ((zI μ18 57 this) ≠ 0 → K (.inl (some (tI 0))) μ18) ∧ ((zI μ18 57 this) = 0 → K (.inl (some (tI v3))) μ18)) ∧ (¬ 0 ≤ v3 → zC μ4 this = 18 ∧ ∀ μ27 : Mem, μ27 = zsI μ4 57 this 1 → ((zI μ27 57 this) ≠ 0 → K (.inl (some (tI 0))) μ27) ∧ ((zI μ27 57 this) = 0 → K (.inl (some (tI v3))) μ27))) (fun q5 μ6 => False))) : Tr_X3_rankOf w this x1 μ mc ms K := by
  refine Tr.of (by decide +kernel) (Nat.le_of_ble_eq_true rfl) (fun g C => ?_)
  show Z w g K mc ms 0 [(0, tR (some this)), (1, tI x1)] [] μ 0 0
  refine Z.wm fun m0 => ?_
  have h := h m0
  refine z_aload_n C dX3_rankOf_0 0 rfl ?_
  refine z_iload_n C dX3_rankOf_1 1 rfl ?_
  obtain ⟨c1, h2⟩ := h
  refine Z.kk fun c11 c12 => ?_
  have k10 := h2
  refine z_callV (as := [tI x1]) (rest := []) C k10 rfl rfl (by decide) c1 rfl q3702 q3704 qs63 q113 q3705 yd_X3_hut (by decide) (Nat.le_of_ble_eq_true rfl) dX3_rankOf_2 c11 c12 (zRet_i fun v3 μ4 h9 => ?_) (zThr_i fun _ _ z9 _ _ _ _ => z9.elim)
  · refine Z.wm fun m8 => ?_
    have h7 := h9 m8
    refine z_istore_n (lv' := [(2, tI v3), (0, tR (some this)), (1, tI x1)]) C dX3_rankOf_5 (by decide) rfl ?_
    refine z_aload_n C dX3_rankOf_6 1 rfl ?_
    refine z_iload_n C dX3_rankOf_7 0 rfl ?_
    refine z_if_ge C 15 dX3_rankOf_8 (by decide) (fun c15 => ?_) (fun c15 => ?_)
    · have h13 := h7.1 c15
      refine z_iconst (v := 0) C dX3_rankOf_15 (by decide) ?_
      obtain ⟨c16, h17⟩ := h13
      refine z_putI C rfl (zFpOf c16 (zp_X3_56_18 rfl)) (Or.inl (zFzOf c16 rfl)) rfl rfl dX3_rankOf_16 ?_
      refine Z.mem fun μ18 e20 => ?_
      have h19 := h17 μ18 e20
      have c21 : zC μ18 this = 18 := by rw [e20]; exact c16
      refine z_aload_n C dX3_rankOf_19 1 rfl ?_
      refine z_getI C rfl (zFdOf c21 zf_X3_56_18) dX3_rankOf_20 ?_
      refine z_if_ne C 30 dX3_rankOf_23 (by decide) (fun c24 => ?_) (fun c24 => ?_)
      · have h22 := h19.1 c24
        refine z_iconst (v := 0) C dX3_rankOf_30 (by decide) ?_
        exact z_ireturn C rfl rfl dX3_rankOf_31 h22
      · have h23 := h19.2 c24
        refine z_iload_n C dX3_rankOf_26 0 rfl ?_
        refine z_goto C 31 dX3_rankOf_27 (by decide) ?_
        exact z_ireturn C rfl rfl dX3_rankOf_31 h23
    · have h14 := h7.2 c15
      refine z_iconst (v := 1) C dX3_rankOf_11 (by decide) ?_
      refine z_goto C 16 dX3_rankOf_12 (by decide) ?_
      obtain ⟨c25, h26⟩ := h14
      refine z_putI C rfl (zFpOf c25 (zp_X3_56_18 rfl)) (Or.inl (zFzOf c25 rfl)) rfl rfl dX3_rankOf_16 ?_
      refine Z.mem fun μ27 e29 => ?_
      have h28 := h26 μ27 e29
      have c30 : zC μ27 this = 18 := by rw [e29]; exact c25
      refine z_aload_n C dX3_rankOf_19 1 rfl ?_
      refine z_getI C rfl (zFdOf c30 zf_X3_56_18) dX3_rankOf_20 ?_
      refine z_if_ne C 30 dX3_rankOf_23 (by decide) (fun c33 => ?_) (fun c33 => ?_)
      · have h31 := h28.1 c33
        refine z_iconst (v := 0) C dX3_rankOf_30 (by decide) ?_
        exact z_ireturn C rfl rfl dX3_rankOf_31 h31
      · have h32 := h28.2 c33
        refine z_iload_n C dX3_rankOf_26 0 rfl ?_
        refine z_goto C 31 dX3_rankOf_27 (by decide) ?_
        exact z_ireturn C rfl rfl dX3_rankOf_31 h32
/-! HutRidgeModel.rankByCounting(I)I -/
def Tr_X3_rankByCounting (w : WT) (this : Nat) (x1 : Int32) (μ : Mem) (mc ms : Nat) (K : Out → Mem → Prop) : Prop := Tr w yX3_rankByCounting (ws_ yX3_rankByCounting cX3_rankByCounting 2 (Option.some Jvm.ClassFile.FieldType.int)) 5 126 [tR (some this), tI x1] μ mc ms K
def Cx_X3_rankByCounting (w : WT) (g : GT) : Prop := Cx w g yX3_rankByCounting cX3_rankByCounting 2 (Option.some Jvm.ClassFile.FieldType.int) [] 5 126
theorem yd_X3_rankByCounting : yX3_rankByCounting.cls ≠ "java/lang/invoke/MethodHandle" ∧ yX3_rankByCounting.cls ≠ "java/lang/invoke/VarHandle" ∧ (parseMethodDescriptor yX3_rankByCounting.desc).map (fun d => d.parameters.length) = some 1 := by decide +kernel
set_option maxHeartbeats 4000000 in
theorem tr_X3_rankByCounting {w : WT} {this : Nat} {x1 : Int32} {μ : Mem} {mc ms : Nat} {K : Out → Mem → Prop} (h : zM w μ → zC μ this = 18 ∧ Tr_X3_rankOf w this x1 μ 0 0 (zKi (fun v3 μ4 => zM w μ4 → K (.inl (some (tI v3))) μ4) (fun q5 μ6 => False))) : Tr_X3_rankByCounting w this x1 μ mc ms K := by
  refine Tr.of (by decide +kernel) (Nat.le_of_ble_eq_true rfl) (fun g C => ?_)
  show Z w g K mc ms 0 [(0, tR (some this)), (1, tI x1)] [] μ 0 0
  refine Z.wm fun m0 => ?_
  have h := h m0
  refine z_aload_n C dX3_rankByCounting_0 0 rfl ?_
  refine z_iload_n C dX3_rankByCounting_1 1 rfl ?_
  obtain ⟨c1, h2⟩ := h
  refine Z.kk fun c11 c12 => ?_
  have k10 := h2
  refine z_callV (as := [tI x1]) (rest := []) C k10 rfl rfl (by decide) c1 rfl q3870 q3863 q3864 q113 q3865 yd_X3_rankOf (by decide) (Nat.le_of_ble_eq_true rfl) dX3_rankByCounting_2 c11 c12 (zRet_i fun v3 μ4 h9 => ?_) (zThr_i fun _ _ z9 _ _ _ _ => z9.elim)
  · refine Z.wm fun m8 => ?_
    have h7 := h9 m8
    exact z_ireturn C rfl rfl dX3_rankByCounting_5 h7
/-! HutRidgeModel.hutAtRank(I)I -/
def Tr_X3_hutAtRank (w : WT) (this : Nat) (x1 : Int32) (μ : Mem) (mc ms : Nat) (K : Out → Mem → Prop) : Prop := Tr w yX3_hutAtRank (ws_ yX3_hutAtRank cX3_hutAtRank 2 (Option.some Jvm.ClassFile.FieldType.int)) 3 82 [tR (some this), tI x1] μ mc ms K
def Cx_X3_hutAtRank (w : WT) (g : GT) : Prop := Cx w g yX3_hutAtRank cX3_hutAtRank 2 (Option.some Jvm.ClassFile.FieldType.int) [] 3 82
theorem yd_X3_hutAtRank : yX3_hutAtRank.cls ≠ "java/lang/invoke/MethodHandle" ∧ yX3_hutAtRank.cls ≠ "java/lang/invoke/VarHandle" ∧ (parseMethodDescriptor yX3_hutAtRank.desc).map (fun d => d.parameters.length) = some 1 := by decide +kernel
def B_X3_hutAtRank_22 (w : WT) (g : GT) (K : Out → Mem → Prop) (mc ms : Nat) (this : Nat) (x1 : Int32) (s0 : Int32) (s1 : Option Nat) (μ : Mem) (kc ks : Nat) : Prop := Z w g K mc ms 22 [(0, tR (some this)), (1, tI x1)] [tI s0, tR s1] μ kc ks
set_option maxHeartbeats 4000000 in
theorem tr_X3_hutAtRank {w : WT} {this : Nat} {x1 : Int32} {μ : Mem} {mc ms : Nat} {K : Out → Mem → Prop} (h : ∀ g : GT, Cx_X3_hutAtRank w g → zM w μ → zC μ this = 18 ∧ ∃ a3 : Nat, (zR μ 63 this) = some a3 ∧ zC μ a3 = 101 ∧ vp_in 0 (zN μ a3) ∧ Tr_X3_isIn w x1 0 ((zA μ a3 0) - (1 : Int32)) μ 0 0 (zKi (fun v10 μ11 => zM w μ11 → (v10 = 0 → B_X3_hutAtRank_22 w g K mc ms this x1 1 (some this) μ11 0 0) ∧ (¬ v10 = 0 → B_X3_hutAtRank_22 w g K mc ms this x1 0 (some this) μ11 0 0)) (fun q12 μ13 => False))) : Tr_X3_hutAtRank w this x1 μ mc ms K := by
  refine Tr.of (by decide +kernel) (Nat.le_of_ble_eq_true rfl) (fun g C => ?_)
  show Z w g K mc ms 0 [(0, tR (some this)), (1, tI x1)] [] μ 0 0
  refine Z.wm fun m0 => ?_
  have h := h g C m0
  refine z_aload_n C dX3_hutAtRank_0 0 rfl ?_
  refine z_iload_n C dX3_hutAtRank_1 1 rfl ?_
  refine z_iconst (v := 0) C dX3_hutAtRank_2 (by decide) ?_
  refine z_aload_n C dX3_hutAtRank_3 0 rfl ?_
  obtain ⟨c1, h2⟩ := h
  refine z_getR C rfl (zFdOf c1 zf_X3_16_18) dX3_hutAtRank_4 ?_
  refine z_iconst (v := 0) C dX3_hutAtRank_7 (by decide) ?_
  obtain ⟨a3, e4, h5⟩ := h2
  obtain ⟨c6, h7⟩ := h5
  obtain ⟨c8, h9⟩ := h7
  refine z_iald C e4 c6 c8 dX3_hutAtRank_8 ?_
  refine z_iconst (v := 1) C dX3_hutAtRank_9 (by decide) ?_
  refine z_isub C dX3_hutAtRank_10 ?_
  refine Z.kk fun c18 c19 => ?_
  have k17 := h9
  refine z_callS (as := [tI x1, tI 0, tI ((zA μ a3 0) - (1 : Int32))]) (rest := [tR (some this)]) C k17 rfl q3692 q3693 q113 q3694 yd_X3_isIn (by decide) (Nat.le_of_ble_eq_true rfl) dX3_hutAtRank_11 c18 c19 (zRet_i fun v10 μ11 h16 => ?_) (zThr_i fun _ _ z9 _ _ _ _ => z9.elim)
  · refine Z.wm fun m15 => ?_
    have h14 := h16 m15
    refine z_if_eq C 21 dX3_hutAtRank_14 (by decide) (fun c22 => ?_) (fun c22 => ?_)
    · have h20 := h14.1 c22
      refine z_iconst (v := 1) C dX3_hutAtRank_21 (by decide) ?_
      refine Z.sub [0, 1] rfl ?_
      exact h20
    · have h21 := h14.2 c22
      refine z_iconst (v := 0) C dX3_hutAtRank_17 (by decide) ?_
      refine z_goto C 22 dX3_hutAtRank_18 (by decide) ?_
      refine Z.sub [0, 1] rfl ?_
      exact h21
set_option maxHeartbeats 4000000 in
theorem bk_X3_hutAtRank_22 {w : WT} {g : GT} {K : Out → Mem → Prop} {mc ms : Nat} {this : Nat} {x1 : Int32} {s0 : Int32} {s1 : Option Nat} {μ : Mem} {kc ks : Nat} (C : Cx_X3_hutAtRank w g) (h : zM w μ → ∃ a1 : Nat, s1 = some a1 ∧ zC μ a1 = 18 ∧ ∀ μ6 : Mem, μ6 = zsI μ 57 a1 s0 → zC μ6 this = 18 ∧ ((zI μ6 57 this) ≠ 0 → K (.inl (some (tI 0))) μ6) ∧ ((zI μ6 57 this) = 0 → Tr_X3_at w this x1 μ6 0 0 (zKi (fun v15 μ16 => zM w μ16 → K (.inl (some (tI v15))) μ16) (fun q17 μ18 => False)))) : B_X3_hutAtRank_22 w g K mc ms this x1 s0 s1 μ kc ks := by
  unfold Cx_X3_hutAtRank at C
  unfold B_X3_hutAtRank_22
  refine Z.wm fun m0 => ?_
  have h := h m0
  obtain ⟨a1, e2, h3⟩ := h
  obtain ⟨c4, h5⟩ := h3
  refine z_putI C e2 (zFpOf c4 (zp_X3_56_18 rfl)) (Or.inl (zFzOf c4 rfl)) rfl rfl dX3_hutAtRank_22 ?_
  refine Z.mem fun μ6 e8 => ?_
  have h7 := h5 μ6 e8
  have c9 : zC μ6 a1 = 18 := by rw [e8]; exact c4
  refine z_aload_n C dX3_hutAtRank_25 0 rfl ?_
  obtain ⟨c10, h11⟩ := h7
  refine z_getI C rfl (zFdOf c10 zf_X3_56_18) dX3_hutAtRank_26 ?_
  refine z_if_ne C 40 dX3_hutAtRank_29 (by decide) (fun c14 => ?_) (fun c14 => ?_)
  · have h12 := h11.1 c14
    refine z_iconst (v := 0) C dX3_hutAtRank_40 (by decide) ?_
    exact z_ireturn C rfl rfl dX3_hutAtRank_41 h12
  · have h13 := h11.2 c14
    refine z_aload_n C dX3_hutAtRank_32 0 rfl ?_
    refine z_iload_n C dX3_hutAtRank_33 1 rfl ?_
    refine Z.kk fun c23 c24 => ?_
    have k22 := h13
    refine z_callV (as := [tI x1]) (rest := []) C k22 rfl rfl (by decide) c10 rfl q3706 q3708 qs64 q113 q3709 yd_X3_at (by decide) (Nat.le_of_ble_eq_true rfl) dX3_hutAtRank_34 c23 c24 (zRet_i fun v15 μ16 h21 => ?_) (zThr_i fun _ _ z9 _ _ _ _ => z9.elim)
    · refine Z.wm fun m20 => ?_
      have h19 := h21 m20
      refine z_goto C 41 dX3_hutAtRank_37 (by decide) ?_
      exact z_ireturn C rfl rfl dX3_hutAtRank_41 h19
/-! HutRidgeModel.hutAtRankByCounting(I)I -/
def Tr_X3_hutAtRankByCounting (w : WT) (this : Nat) (x1 : Int32) (μ : Mem) (mc ms : Nat) (K : Out → Mem → Prop) : Prop := Tr w yX3_hutAtRankByCounting (ws_ yX3_hutAtRankByCounting cX3_hutAtRankByCounting 2 (Option.some Jvm.ClassFile.FieldType.int)) 4 103 [tR (some this), tI x1] μ mc ms K
def Cx_X3_hutAtRankByCounting (w : WT) (g : GT) : Prop := Cx w g yX3_hutAtRankByCounting cX3_hutAtRankByCounting 2 (Option.some Jvm.ClassFile.FieldType.int) [] 4 103
theorem yd_X3_hutAtRankByCounting : yX3_hutAtRankByCounting.cls ≠ "java/lang/invoke/MethodHandle" ∧ yX3_hutAtRankByCounting.cls ≠ "java/lang/invoke/VarHandle" ∧ (parseMethodDescriptor yX3_hutAtRankByCounting.desc).map (fun d => d.parameters.length) = some 1 := by decide +kernel
set_option maxHeartbeats 4000000 in
theorem tr_X3_hutAtRankByCounting {w : WT} {this : Nat} {x1 : Int32} {μ : Mem} {mc ms : Nat} {K : Out → Mem → Prop} (h : zM w μ → zC μ this = 18 ∧ Tr_X3_hutAtRank w this x1 μ 0 0 (zKi (fun v3 μ4 => zM w μ4 → K (.inl (some (tI v3))) μ4) (fun q5 μ6 => False))) : Tr_X3_hutAtRankByCounting w this x1 μ mc ms K := by
  refine Tr.of (by decide +kernel) (Nat.le_of_ble_eq_true rfl) (fun g C => ?_)
  show Z w g K mc ms 0 [(0, tR (some this)), (1, tI x1)] [] μ 0 0
  refine Z.wm fun m0 => ?_
  have h := h m0
  refine z_aload_n C dX3_hutAtRankByCounting_0 0 rfl ?_
  refine z_iload_n C dX3_hutAtRankByCounting_1 1 rfl ?_
  obtain ⟨c1, h2⟩ := h
  refine Z.kk fun c11 c12 => ?_
  have k10 := h2
  refine z_callV (as := [tI x1]) (rest := []) C k10 rfl rfl (by decide) c1 rfl q3879 q3872 q3873 q113 q3874 yd_X3_hutAtRank (by decide) (Nat.le_of_ble_eq_true rfl) dX3_hutAtRankByCounting_2 c11 c12 (zRet_i fun v3 μ4 h9 => ?_) (zThr_i fun _ _ z9 _ _ _ _ => z9.elim)
  · refine Z.wm fun m8 => ?_
    have h7 := h9 m8
    exact z_ireturn C rfl rfl dX3_hutAtRankByCounting_5 h7
/-! HutRidgeModel.span(II)I -/
def Tr_X3_span (w : WT) (this : Nat) (x1 : Int32) (x2 : Int32) (μ : Mem) (mc ms : Nat) (K : Out → Mem → Prop) : Prop := Tr w yX3_span (ws_ yX3_span cX3_span 3 (Option.some Jvm.ClassFile.FieldType.int)) 5 130 [tR (some this), tI x1, tI x2] μ mc ms K
def Cx_X3_span (w : WT) (g : GT) : Prop := Cx w g yX3_span cX3_span 3 (Option.some Jvm.ClassFile.FieldType.int) [] 5 130
theorem yd_X3_span : yX3_span.cls ≠ "java/lang/invoke/MethodHandle" ∧ yX3_span.cls ≠ "java/lang/invoke/VarHandle" ∧ (parseMethodDescriptor yX3_span.desc).map (fun d => d.parameters.length) = some 2 := by decide +kernel
set_option maxHeartbeats 4000000 in
theorem tr_X3_span {w : WT} {this : Nat} {x1 : Int32} {x2 : Int32} {μ : Mem} {mc ms : Nat} {K : Out → Mem → Prop} (h : zM w μ → zC μ this = 18 ∧ Tr_X3_looksAtPath w this x1 x2 1 μ 0 0 (zKi (fun v3 μ4 => zM w μ4 → (v3 = 0 → K (.inl (some (tI 0))) μ4) ∧ (¬ v3 = 0 → zC μ4 this = 18 ∧ Tr_X3_hut w this x1 μ4 0 0 (zKi (fun v18 μ19 => zM w μ19 → zC μ19 this = 18 ∧ Tr_X3_next w this v18 x2 μ19 0 0 (zKi (fun v30 μ31 => zM w μ31 → zC μ31 this = 18 ∧ Tr_X3_hut w this x1 μ31 0 0 (zKi (fun v42 μ43 => zM w μ43 → K (.inl (some (tI (v30 - v42)))) μ43) (fun q44 μ45 => False))) (fun q32 μ33 => False))) (fun q20 μ21 => False)))) (fun q5 μ6 => False))) : Tr_X3_span w this x1 x2 μ mc ms K := by
  refine Tr.of (by decide +kernel) (Nat.le_of_ble_eq_true rfl) (fun g C => ?_)
  show Z w g K mc ms 0 [(0, tR (some this)), (1, tI x1), (2, tI x2)] [] μ 0 0
  refine Z.wm fun m0 => ?_
  have h := h m0
  refine z_aload_n C dX3_span_0 0 rfl ?_
  refine z_iload_n C dX3_span_1 1 rfl ?_
  refine z_iload_n C dX3_span_2 2 rfl ?_
  refine z_iconst (v := 1) C dX3_span_3 (by decide) ?_
  obtain ⟨c1, h2⟩ := h
  refine Z.kk fun c11 c12 => ?_
  have k10 := h2
  refine z_callV (as := [tI x1, tI x2, tI 1]) (rest := []) C k10 rfl rfl (by decide) c1 rfl q3824 q3826 qs79 q113 q3827 yd_X3_looksAtPath (by decide) (Nat.le_of_ble_eq_true rfl) dX3_span_4 c11 c12 (zRet_i fun v3 μ4 h9 => ?_) (zThr_i fun _ _ z9 _ _ _ _ => z9.elim)
  · refine Z.wm fun m8 => ?_
    have h7 := h9 m8
    refine z_if_eq C 29 dX3_span_7 (by decide) (fun c15 => ?_) (fun c15 => ?_)
    · have h13 := h7.1 c15
      refine z_iconst (v := 0) C dX3_span_29 (by decide) ?_
      exact z_ireturn C rfl rfl dX3_span_30 h13
    · have h14 := h7.2 c15
      refine z_aload_n C dX3_span_10 0 rfl ?_
      refine z_aload_n C dX3_span_11 0 rfl ?_
      refine z_iload_n C dX3_span_12 1 rfl ?_
      obtain ⟨c16, h17⟩ := h14
      refine Z.kk fun c26 c27 => ?_
      have k25 := h17
      refine z_callV (as := [tI x1]) (rest := [tR (some this)]) C k25 rfl rfl (by decide) c16 rfl q3702 q3704 qs63 q113 q3705 yd_X3_hut (by decide) (Nat.le_of_ble_eq_true rfl) dX3_span_13 c26 c27 (zRet_i fun v18 μ19 h24 => ?_) (zThr_i fun _ _ z9 _ _ _ _ => z9.elim)
      · refine Z.wm fun m23 => ?_
        have h22 := h24 m23
        refine z_iload_n C dX3_span_16 2 rfl ?_
        obtain ⟨c28, h29⟩ := h22
        refine Z.kk fun c38 c39 => ?_
        have k37 := h29
        refine z_callV (as := [tI v18, tI x2]) (rest := []) C k37 rfl rfl (by decide) c28 rfl q3828 q3830 qs80 q113 q3831 yd_X3_next (by decide) (Nat.le_of_ble_eq_true rfl) dX3_span_17 c38 c39 (zRet_i fun v30 μ31 h36 => ?_) (zThr_i fun _ _ z9 _ _ _ _ => z9.elim)
        · refine Z.wm fun m35 => ?_
          have h34 := h36 m35
          refine z_aload_n C dX3_span_20 0 rfl ?_
          refine z_iload_n C dX3_span_21 1 rfl ?_
          obtain ⟨c40, h41⟩ := h34
          refine Z.kk fun c50 c51 => ?_
          have k49 := h41
          refine z_callV (as := [tI x1]) (rest := [tI v30]) C k49 rfl rfl (by decide) c40 rfl q3702 q3704 qs63 q113 q3705 yd_X3_hut (by decide) (Nat.le_of_ble_eq_true rfl) dX3_span_22 c50 c51 (zRet_i fun v42 μ43 h48 => ?_) (zThr_i fun _ _ z9 _ _ _ _ => z9.elim)
          · refine Z.wm fun m47 => ?_
            have h46 := h48 m47
            refine z_isub C dX3_span_25 ?_
            refine z_goto C 30 dX3_span_26 (by decide) ?_
            exact z_ireturn C rfl rfl dX3_span_30 h46
/-! HutRidgeModel.improves(III)Z -/
def Tr_X3_improves (w : WT) (this : Nat) (x1 : Int32) (x2 : Int32) (x3 : Int32) (μ : Mem) (mc ms : Nat) (K : Out → Mem → Prop) : Prop := Tr w yX3_improves (ws_ yX3_improves cX3_improves 4 (Option.some Jvm.ClassFile.FieldType.boolean)) 1 40 [tR (some this), tI x1, tI x2, tI x3] μ mc ms K
def Cx_X3_improves (w : WT) (g : GT) : Prop := Cx w g yX3_improves cX3_improves 4 (Option.some Jvm.ClassFile.FieldType.boolean) [] 1 40
theorem yd_X3_improves : yX3_improves.cls ≠ "java/lang/invoke/MethodHandle" ∧ yX3_improves.cls ≠ "java/lang/invoke/VarHandle" ∧ (parseMethodDescriptor yX3_improves.desc).map (fun d => d.parameters.length) = some 3 := by decide +kernel
theorem zf_X3_29_18 : zFd RX3 29 67 true 18 := ⟨10, _, _, _, _, _, zk_18, rfl, Or.inl q3604, Or.inl rfl⟩
set_option maxHeartbeats 4000000 in
theorem tr_X3_improves {w : WT} {this : Nat} {x1 : Int32} {x2 : Int32} {x3 : Int32} {μ : Mem} {mc ms : Nat} {K : Out → Mem → Prop} (h : zM w μ → zC μ this = 18 ∧ ∃ a3 : Nat, (zR μ 67 this) = some a3 ∧ zC μ a3 = 101 ∧ vp_in x2 (zN μ a3) ∧ vp_in x1 (zN μ a3) ∧ (((zA μ a3 x2.toNatClampNeg) + x3) < (zA μ a3 x1.toNatClampNeg) → vp_in x2 (zN μ a3) ∧ zB w ≤ a3 ∧ vp_in x1 (zN μ a3) ∧ ∀ μ21 : Mem, μ21 = zsA μ a3 x1.toNatClampNeg ((zA μ a3 x2.toNatClampNeg) + x3) → K (.inl (some (tI 1))) μ21) ∧ (¬ ((zA μ a3 x2.toNatClampNeg) + x3) < (zA μ a3 x1.toNatClampNeg) → K (.inl (some (tI 0))) μ)) : Tr_X3_improves w this x1 x2 x3 μ mc ms K := by
  refine Tr.of (by decide +kernel) (Nat.le_of_ble_eq_true rfl) (fun g C => ?_)
  show Z w g K mc ms 0 [(0, tR (some this)), (1, tI x1), (2, tI x2), (3, tI x3)] [] μ 0 0
  refine Z.wm fun m0 => ?_
  have h := h m0
  refine z_aload_n C dX3_improves_0 0 rfl ?_
  obtain ⟨c1, h2⟩ := h
  refine z_getR C rfl (zFdOf c1 zf_X3_29_18) dX3_improves_1 ?_
  refine z_iload_n C dX3_improves_4 2 rfl ?_
  obtain ⟨a3, e4, h5⟩ := h2
  obtain ⟨c6, h7⟩ := h5
  obtain ⟨c8, h9⟩ := h7
  refine z_iald C e4 c6 c8 dX3_improves_5 ?_
  refine z_iload_n C dX3_improves_6 3 rfl ?_
  refine z_iadd C dX3_improves_7 ?_
  refine z_aload_n C dX3_improves_8 0 rfl ?_
  refine z_getR C rfl (zFdOf c1 zf_X3_29_18) dX3_improves_9 ?_
  refine z_iload_n C dX3_improves_12 1 rfl ?_
  obtain ⟨c10, h11⟩ := h9
  refine z_iald C e4 c6 c10 dX3_improves_13 ?_
  refine z_icmp_lt C 19 dX3_improves_14 (by decide) (fun c14 => ?_) (fun c14 => ?_)
  · have h12 := h11.1 c14
    refine z_aload_n C dX3_improves_19 0 rfl ?_
    refine z_getR C rfl (zFdOf c1 zf_X3_29_18) dX3_improves_20 ?_
    refine z_iload_n C dX3_improves_23 1 rfl ?_
    refine z_aload_n C dX3_improves_24 0 rfl ?_
    refine z_getR C rfl (zFdOf c1 zf_X3_29_18) dX3_improves_25 ?_
    refine z_iload_n C dX3_improves_28 2 rfl ?_
    obtain ⟨c15, h16⟩ := h12
    refine z_iald C e4 c6 c15 dX3_improves_29 ?_
    refine z_iload_n C dX3_improves_30 3 rfl ?_
    refine z_iadd C dX3_improves_31 ?_
    obtain ⟨c17, c18, h19⟩ := h16
    refine z_iast C e4 c6 c17 c18 dX3_improves_32 ?_
    refine Z.mem fun μ21 e22 => ?_
    have h20 := h19 μ21 e22
    have c23 : zC μ21 this = 18 := by rw [e22]; exact c1
    have c24 : zC μ21 a3 = 101 := by rw [e22]; exact c6
    refine z_iconst (v := 1) C dX3_improves_33 (by decide) ?_
    exact z_ireturn C rfl (by decide) dX3_improves_34 h20
  · have h13 := h11.2 c14
    refine z_iconst (v := 0) C dX3_improves_17 (by decide) ?_
    exact z_ireturn C rfl (by decide) dX3_improves_18 h13
/-! HutRidgeModel.isUsable(II)Z -/
def Tr_X3_isUsable (w : WT) (this : Nat) (x1 : Int32) (x2 : Int32) (μ : Mem) (mc ms : Nat) (K : Out → Mem → Prop) : Prop := Tr w yX3_isUsable (ws_ yX3_isUsable cX3_isUsable 3 (Option.some Jvm.ClassFile.FieldType.boolean)) 4 105 [tR (some this), tI x1, tI x2] μ mc ms K
def Cx_X3_isUsable (w : WT) (g : GT) : Prop := Cx w g yX3_isUsable cX3_isUsable 3 (Option.some Jvm.ClassFile.FieldType.boolean) [] 4 105
theorem yd_X3_isUsable : yX3_isUsable.cls ≠ "java/lang/invoke/MethodHandle" ∧ yX3_isUsable.cls ≠ "java/lang/invoke/VarHandle" ∧ (parseMethodDescriptor yX3_isUsable.desc).map (fun d => d.parameters.length) = some 2 := by decide +kernel
set_option maxHeartbeats 4000000 in
theorem tr_X3_isUsable {w : WT} {this : Nat} {x1 : Int32} {x2 : Int32} {μ : Mem} {mc ms : Nat} {K : Out → Mem → Prop} (h : zM w μ → zC μ this = 18 ∧ Tr_X3_next w this x1 x2 μ 0 0 (zKi (fun v3 μ4 => zM w μ4 → (v3 < 0 → K (.inl (some (tI 0))) μ4) ∧ (¬ v3 < 0 → zC μ4 this = 18 ∧ Tr_X3_isShut w this x1 x2 μ4 0 0 (zKi (fun v18 μ19 => zM w μ19 → (v18 ≠ 0 → K (.inl (some (tI 0))) μ19) ∧ (v18 = 0 → zC μ19 this = 18 ∧ ∃ a33 : Nat, (zR μ19 63 this) = some a33 ∧ zC μ19 a33 = 101 ∧ vp_in 1 (zN μ19 a33) ∧ ((((zA μ19 a33 1) >>> (x2 &&& 31)) &&& (1 : Int32)) ≠ 0 → K (.inl (some (tI 0))) μ19) ∧ ((((zA μ19 a33 1) >>> (x2 &&& 31)) &&& (1 : Int32)) = 0 → K (.inl (some (tI 1))) μ19))) (fun q20 μ21 => False)))) (fun q5 μ6 => False))) : Tr_X3_isUsable w this x1 x2 μ mc ms K := by
  refine Tr.of (by decide +kernel) (Nat.le_of_ble_eq_true rfl) (fun g C => ?_)
  show Z w g K mc ms 0 [(0, tR (some this)), (1, tI x1), (2, tI x2)] [] μ 0 0
  refine Z.wm fun m0 => ?_
  have h := h m0
  refine z_aload_n C dX3_isUsable_0 0 rfl ?_
  refine z_iload_n C dX3_isUsable_1 1 rfl ?_
  refine z_iload_n C dX3_isUsable_2 2 rfl ?_
  obtain ⟨c1, h2⟩ := h
  refine Z.kk fun c11 c12 => ?_
  have k10 := h2
  refine z_callV (as := [tI x1, tI x2]) (rest := []) C k10 rfl rfl (by decide) c1 rfl q3828 q3830 qs80 q113 q3831 yd_X3_next (by decide) (Nat.le_of_ble_eq_true rfl) dX3_isUsable_3 c11 c12 (zRet_i fun v3 μ4 h9 => ?_) (zThr_i fun _ _ z9 _ _ _ _ => z9.elim)
  · refine Z.wm fun m8 => ?_
    have h7 := h9 m8
    refine z_if_lt C 35 dX3_isUsable_6 (by decide) (fun c15 => ?_) (fun c15 => ?_)
    · have h13 := h7.1 c15
      refine z_iconst (v := 0) C dX3_isUsable_35 (by decide) ?_
      exact z_ireturn C rfl (by decide) dX3_isUsable_36 h13
    · have h14 := h7.2 c15
      refine z_aload_n C dX3_isUsable_9 0 rfl ?_
      refine z_iload_n C dX3_isUsable_10 1 rfl ?_
      refine z_iload_n C dX3_isUsable_11 2 rfl ?_
      obtain ⟨c16, h17⟩ := h14
      refine Z.kk fun c26 c27 => ?_
      have k25 := h17
      refine z_callV (as := [tI x1, tI x2]) (rest := []) C k25 rfl rfl (by decide) c16 rfl q3745 q3747 qs70 q113 q3748 yd_X3_isShut (by decide) (Nat.le_of_ble_eq_true rfl) dX3_isUsable_12 c26 c27 (zRet_i fun v18 μ19 h24 => ?_) (zThr_i fun _ _ z9 _ _ _ _ => z9.elim)
      · refine Z.wm fun m23 => ?_
        have h22 := h24 m23
        refine z_if_ne C 35 dX3_isUsable_15 (by decide) (fun c30 => ?_) (fun c30 => ?_)
        · have h28 := h22.1 c30
          refine z_iconst (v := 0) C dX3_isUsable_35 (by decide) ?_
          exact z_ireturn C rfl (by decide) dX3_isUsable_36 h28
        · have h29 := h22.2 c30
          refine z_aload_n C dX3_isUsable_18 0 rfl ?_
          obtain ⟨c31, h32⟩ := h29
          refine z_getR C rfl (zFdOf c31 zf_X3_16_18) dX3_isUsable_19 ?_
          refine z_iconst (v := 1) C dX3_isUsable_22 (by decide) ?_
          obtain ⟨a33, e34, h35⟩ := h32
          obtain ⟨c36, h37⟩ := h35
          obtain ⟨c38, h39⟩ := h37
          refine z_iald C e34 c36 c38 dX3_isUsable_23 ?_
          refine z_iload_n C dX3_isUsable_24 2 rfl ?_
          refine z_ishr C dX3_isUsable_25 ?_
          refine z_iconst (v := 1) C dX3_isUsable_26 (by decide) ?_
          refine z_iand C dX3_isUsable_27 ?_
          refine z_if_ne C 35 dX3_isUsable_28 (by decide) (fun c42 => ?_) (fun c42 => ?_)
          · have h40 := h39.1 c42
            refine z_iconst (v := 0) C dX3_isUsable_35 (by decide) ?_
            exact z_ireturn C rfl (by decide) dX3_isUsable_36 h40
          · have h41 := h39.2 c42
            refine z_iconst (v := 1) C dX3_isUsable_31 (by decide) ?_
            refine z_goto C 36 dX3_isUsable_32 (by decide) ?_
            exact z_ireturn C rfl (by decide) dX3_isUsable_36 h41
/-! HutRidgeModel.hikes(I)V -/
def Tr_X3_hikes (w : WT) (this : Nat) (x1 : Int32) (μ : Mem) (mc ms : Nat) (K : Out → Mem → Prop) : Prop := Tr w yX3_hikes (ws_ yX3_hikes cX3_hikes 8 (Option.none : Option Jvm.ClassFile.FieldType)) 5 127 [tR (some this), tI x1] μ mc ms K
def Cx_X3_hikes (w : WT) (g : GT) : Prop := Cx w g yX3_hikes cX3_hikes 8 (Option.none : Option Jvm.ClassFile.FieldType) [] 5 127
theorem yd_X3_hikes : yX3_hikes.cls ≠ "java/lang/invoke/MethodHandle" ∧ yX3_hikes.cls ≠ "java/lang/invoke/VarHandle" ∧ (parseMethodDescriptor yX3_hikes.desc).map (fun d => d.parameters.length) = some 1 := by decide +kernel
def B_X3_hikes_2 (w : WT) (g : GT) (K : Out → Mem → Prop) (mc ms : Nat) (this : Nat) (x1 : Int32) (x2 : Int32)  (μ : Mem) (kc ks : Nat) : Prop := Z w g K mc ms 2 [(0, tR (some this)), (1, tI x1), (2, tI x2)] [] μ kc ks
def B_X3_hikes_35 (w : WT) (g : GT) (K : Out → Mem → Prop) (mc ms : Nat) (this : Nat) (x2 : Int32)  (μ : Mem) (kc ks : Nat) : Prop := Z w g K mc ms 35 [(0, tR (some this)), (2, tI x2)] [] μ kc ks
def B_X3_hikes_43 (w : WT) (g : GT) (K : Out → Mem → Prop) (mc ms : Nat) (this : Nat) (x2 : Int32) (x3 : Int32)  (μ : Mem) (kc ks : Nat) : Prop := Z w g K mc ms 43 [(0, tR (some this)), (2, tI x2), (3, tI x3)] [] μ kc ks
def B_X3_hikes_56 (w : WT) (g : GT) (K : Out → Mem → Prop) (mc ms : Nat) (this : Nat) (x2 : Int32) (x3 : Int32) (x4 : Int32)  (μ : Mem) (kc ks : Nat) : Prop := Z w g K mc ms 56 [(0, tR (some this)), (2, tI x2), (3, tI x3), (4, tI x4)] [] μ kc ks
def B_X3_hikes_112 (w : WT) (g : GT) (K : Out → Mem → Prop) (mc ms : Nat) (this : Nat) (x2 : Int32) (x3 : Int32) (x4 : Int32) (x5 : Int32)  (μ : Mem) (kc ks : Nat) : Prop := Z w g K mc ms 112 [(0, tR (some this)), (2, tI x2), (3, tI x3), (4, tI x4), (5, tI x5)] [] μ kc ks
set_option maxHeartbeats 4000000 in
theorem tr_X3_hikes {w : WT} {this : Nat} {x1 : Int32} {μ : Mem} {mc ms : Nat} {K : Out → Mem → Prop} (h : ∀ g : GT, Cx_X3_hikes w g → zM w μ → B_X3_hikes_2 w g K mc ms this x1 0 μ 0 0) : Tr_X3_hikes w this x1 μ mc ms K := by
  refine Tr.of (by decide +kernel) (Nat.le_of_ble_eq_true rfl) (fun g C => ?_)
  show Z w g K mc ms 0 [(0, tR (some this)), (1, tI x1)] [] μ 0 0
  refine Z.wm fun m0 => ?_
  have h := h g C m0
  refine z_iconst (v := 0) C dX3_hikes_0 (by decide) ?_
  refine z_istore_n (lv' := [(2, tI 0), (0, tR (some this)), (1, tI x1)]) C dX3_hikes_1 (by decide) rfl ?_
  refine Z.sub [1, 2, 0] rfl ?_
  exact h
set_option maxHeartbeats 4000000 in
theorem bk_X3_hikes_2 {w : WT} {g : GT} {K : Out → Mem → Prop} {mc ms : Nat} {this : Nat} {x1 : Int32} {x2 : Int32}  {μ : Mem} {kc ks : Nat} (C : Cx_X3_hikes w g) (h : zM w μ → ((nI 80) ≤ x2 → B_X3_hikes_35 w g K mc ms this 1 μ kc ks) ∧ (¬ (nI 80) ≤ x2 → zC μ this = 18 ∧ (x2 ≠ ((nI 5) * x1) → ∃ a9 : Nat, (zR μ 67 this) = some a9 ∧ zC μ a9 = 101 ∧ zB w ≤ a9 ∧ vp_in x2 (zN μ a9) ∧ ∀ μ18 : Mem, μ18 = zsA μ a9 x2.toNatClampNeg (nI 1000000) → B_X3_hikes_2 w g K mc ms this x1 (x2 + 1) μ18 kc ks) ∧ (x2 = ((nI 5) * x1) → ∃ a22 : Nat, (zR μ 67 this) = some a22 ∧ zC μ a22 = 101 ∧ zB w ≤ a22 ∧ vp_in x2 (zN μ a22) ∧ ∀ μ31 : Mem, μ31 = zsA μ a22 x2.toNatClampNeg 0 → B_X3_hikes_2 w g K mc ms this x1 (x2 + 1) μ31 kc ks))) : B_X3_hikes_2 w g K mc ms this x1 x2 μ kc ks := by
  unfold Cx_X3_hikes at C
  unfold B_X3_hikes_2
  refine Z.wm fun m0 => ?_
  have h := h m0
  refine z_iload_n C dX3_hikes_2 2 rfl ?_
  refine z_bipush (v := (nI 80)) C dX3_hikes_3 (by decide) ?_
  refine z_icmp_ge C 33 dX3_hikes_5 (by decide) (fun c3 => ?_) (fun c3 => ?_)
  · have h1 := h.1 c3
    refine z_iconst (v := 1) C dX3_hikes_33 (by decide) ?_
    refine z_istore_n (lv' := [(2, tI 1), (0, tR (some this)), (1, tI x1)]) C dX3_hikes_34 (by decide) rfl ?_
    refine Z.sub [1, 0] rfl ?_
    exact h1
  · have h2 := h.2 c3
    refine z_aload_n C dX3_hikes_8 0 rfl ?_
    obtain ⟨c4, h5⟩ := h2
    refine z_getR C rfl (zFdOf c4 zf_X3_29_18) dX3_hikes_9 ?_
    refine z_iload_n C dX3_hikes_12 2 rfl ?_
    refine z_iload_n C dX3_hikes_13 2 rfl ?_
    refine z_iconst (v := (nI 5)) C dX3_hikes_14 (by decide) ?_
    refine z_iload_n C dX3_hikes_15 1 rfl ?_
    refine z_imul C dX3_hikes_16 ?_
    refine z_icmp_ne C 24 dX3_hikes_17 (by decide) (fun c8 => ?_) (fun c8 => ?_)
    · have h6 := h5.1 c8
      refine z_ldcI (v := (nI 1000000)) C q3892 dX3_hikes_24 ?_
      obtain ⟨a9, e10, h11⟩ := h6
      obtain ⟨c12, h13⟩ := h11
      obtain ⟨c14, c15, h16⟩ := h13
      refine z_iast C e10 c12 c14 c15 dX3_hikes_26 ?_
      refine Z.mem fun μ18 e19 => ?_
      have h17 := h16 μ18 e19
      have c20 : zC μ18 this = 18 := by rw [e19]; exact c4
      have c21 : zC μ18 a9 = 101 := by rw [e19]; exact c12
      refine z_iinc (k0 := 2) (v := x2 + 1) (lv' := [(2, tI (x2 + 1)), (0, tR (some this)), (1, tI x1)]) C dX3_hikes_27 rfl (by first | rfl | decide) (by decide) rfl ?_
      refine z_goto C 2 dX3_hikes_30 (by decide) ?_
      refine Z.sub [1, 2, 0] rfl ?_
      exact h17
    · have h7 := h5.2 c8
      refine z_iconst (v := 0) C dX3_hikes_20 (by decide) ?_
      refine z_goto C 26 dX3_hikes_21 (by decide) ?_
      obtain ⟨a22, e23, h24⟩ := h7
      obtain ⟨c25, h26⟩ := h24
      obtain ⟨c27, c28, h29⟩ := h26
      refine z_iast C e23 c25 c27 c28 dX3_hikes_26 ?_
      refine Z.mem fun μ31 e32 => ?_
      have h30 := h29 μ31 e32
      have c33 : zC μ31 this = 18 := by rw [e32]; exact c4
      have c34 : zC μ31 a22 = 101 := by rw [e32]; exact c25
      refine z_iinc (k0 := 2) (v := x2 + 1) (lv' := [(2, tI (x2 + 1)), (0, tR (some this)), (1, tI x1)]) C dX3_hikes_27 rfl (by first | rfl | decide) (by decide) rfl ?_
      refine z_goto C 2 dX3_hikes_30 (by decide) ?_
      refine Z.sub [1, 2, 0] rfl ?_
      exact h30
set_option maxHeartbeats 4000000 in
theorem bk_X3_hikes_35 {w : WT} {g : GT} {K : Out → Mem → Prop} {mc ms : Nat} {this : Nat} {x2 : Int32}  {μ : Mem} {kc ks : Nat} (C : Cx_X3_hikes w g) (h : zM w μ → (x2 = 0 → K (.inl none) μ) ∧ (¬ x2 = 0 → B_X3_hikes_43 w g K mc ms this 0 0 μ kc ks)) : B_X3_hikes_35 w g K mc ms this x2 μ kc ks := by
  unfold Cx_X3_hikes at C
  unfold B_X3_hikes_35
  refine Z.wm fun m0 => ?_
  have h := h m0
  refine z_iload_n C dX3_hikes_35 1 rfl ?_
  refine z_if_eq C 207 dX3_hikes_36 (by decide) (fun c3 => ?_) (fun c3 => ?_)
  · have h1 := h.1 c3
    exact z_vreturn C rfl dX3_hikes_207 h1
  · have h2 := h.2 c3
    refine z_iconst (v := 0) C dX3_hikes_39 (by decide) ?_
    refine z_istore_n (lv' := [(2, tI 0), (0, tR (some this))]) C dX3_hikes_40 (by decide) rfl ?_
    refine z_iconst (v := 0) C dX3_hikes_41 (by decide) ?_
    refine z_istore_n (lv' := [(3, tI 0), (2, tI 0), (0, tR (some this))]) C dX3_hikes_42 (by decide) rfl ?_
    refine Z.sub [2, 1, 0] rfl ?_
    exact h2
set_option maxHeartbeats 4000000 in
theorem bk_X3_hikes_43 {w : WT} {g : GT} {K : Out → Mem → Prop} {mc ms : Nat} {this : Nat} {x2 : Int32} {x3 : Int32}  {μ : Mem} {kc ks : Nat} (C : Cx_X3_hikes w g) (h : zM w μ → zC μ this = 18 ∧ ∃ a3 : Nat, (zR μ 63 this) = some a3 ∧ zC μ a3 = 101 ∧ vp_in 0 (zN μ a3) ∧ ((zA μ a3 0) ≤ x3 → B_X3_hikes_35 w g K mc ms this x2 μ kc ks) ∧ (¬ (zA μ a3 0) ≤ x3 → B_X3_hikes_56 w g K mc ms this x2 x3 0 μ kc ks)) : B_X3_hikes_43 w g K mc ms this x2 x3 μ kc ks := by
  unfold Cx_X3_hikes at C
  unfold B_X3_hikes_43
  refine Z.wm fun m0 => ?_
  have h := h m0
  refine z_iload_n C dX3_hikes_43 2 rfl ?_
  refine z_aload_n C dX3_hikes_44 0 rfl ?_
  obtain ⟨c1, h2⟩ := h
  refine z_getR C rfl (zFdOf c1 zf_X3_16_18) dX3_hikes_45 ?_
  refine z_iconst (v := 0) C dX3_hikes_48 (by decide) ?_
  obtain ⟨a3, e4, h5⟩ := h2
  obtain ⟨c6, h7⟩ := h5
  obtain ⟨c8, h9⟩ := h7
  refine z_iald C e4 c6 c8 dX3_hikes_49 ?_
  refine z_icmp_ge C 204 dX3_hikes_50 (by decide) (fun c12 => ?_) (fun c12 => ?_)
  · have h10 := h9.1 c12
    refine z_goto C 35 dX3_hikes_204 (by decide) ?_
    refine Z.sub [0, 1] rfl ?_
    exact h10
  · have h11 := h9.2 c12
    refine z_iconst (v := 0) C dX3_hikes_53 (by decide) ?_
    refine z_istore (lv' := [(4, tI 0), (0, tR (some this)), (2, tI x2), (3, tI x3)]) C dX3_hikes_54 (by decide) rfl ?_
    refine Z.sub [1, 2, 3, 0] rfl ?_
    exact h11
set_option maxHeartbeats 4000000 in
theorem bk_X3_hikes_56 {w : WT} {g : GT} {K : Out → Mem → Prop} {mc ms : Nat} {this : Nat} {x2 : Int32} {x3 : Int32} {x4 : Int32}  {μ : Mem} {kc ks : Nat} (C : Cx_X3_hikes w g) (h : zM w μ → zC μ this = 18 ∧ Tr_X3_level w this x3 μ 0 0 (zKi (fun v3 μ4 => zM w μ4 → (v3 < x4 → B_X3_hikes_43 w g K mc ms this x2 (x3 + 1) μ4 kc ks) ∧ (¬ v3 < x4 → zC μ4 this = 18 ∧ Tr_X3_level w this x3 μ4 0 0 (zKi (fun v18 μ19 => zM w μ19 → (v18 ≤ x4 → B_X3_hikes_112 w g K mc ms this x2 x3 x4 (((nI 5) * x3) + x4) μ19 kc ks) ∧ (¬ v18 ≤ x4 → zC μ19 this = 18 ∧ Tr_X3_improves w this ((((nI 5) * x3) + x4) + (1 : Int32)) (((nI 5) * x3) + x4) 1 μ19 0 0 (zKi (fun v33 μ34 => zM w μ34 → zC μ34 this = 18 ∧ Tr_X3_improves w this (((nI 5) * x3) + x4) ((((nI 5) * x3) + x4) + (1 : Int32)) 1 μ34 0 0 (zKi (fun v45 μ46 => zM w μ46 → B_X3_hikes_112 w g K mc ms this ((x2 ||| v33) ||| v45) x3 x4 (((nI 5) * x3) + x4) μ46 kc ks) (fun q47 μ48 => False))) (fun q35 μ36 => False)))) (fun q20 μ21 => False)))) (fun q5 μ6 => False))) : B_X3_hikes_56 w g K mc ms this x2 x3 x4 μ kc ks := by
  unfold Cx_X3_hikes at C
  unfold B_X3_hikes_56
  refine Z.wm fun m0 => ?_
  have h := h m0
  refine z_iload C dX3_hikes_56 3 rfl ?_
  refine z_aload_n C dX3_hikes_58 0 rfl ?_
  refine z_iload_n C dX3_hikes_59 2 rfl ?_
  obtain ⟨c1, h2⟩ := h
  refine Z.kk fun c11 c12 => ?_
  have k10 := h2
  refine z_callV (as := [tI x3]) (rest := [tI x4]) C k10 rfl rfl (by decide) c1 rfl q3733 q3735 qs68 q113 q3736 yd_X3_level (by decide) (Nat.le_of_ble_eq_true rfl) dX3_hikes_60 c11 c12 (zRet_i fun v3 μ4 h9 => ?_) (zThr_i fun _ _ z9 _ _ _ _ => z9.elim)
  · refine Z.wm fun m8 => ?_
    have h7 := h9 m8
    refine z_icmp_gt C 198 dX3_hikes_63 (by decide) (fun c15 => ?_) (fun c15 => ?_)
    · have h13 := h7.1 c15
      refine z_iinc (k0 := 2) (v := x3 + 1) (lv' := [(3, tI (x3 + 1)), (0, tR (some this)), (2, tI x2), (4, tI x4)]) C dX3_hikes_198 rfl (by first | rfl | decide) (by decide) rfl ?_
      refine z_goto C 43 dX3_hikes_201 (by decide) ?_
      refine Z.sub [1, 2, 0] rfl ?_
      exact h13
    · have h14 := h7.2 c15
      refine z_iconst (v := (nI 5)) C dX3_hikes_66 (by decide) ?_
      refine z_iload_n C dX3_hikes_67 2 rfl ?_
      refine z_imul C dX3_hikes_68 ?_
      refine z_iload C dX3_hikes_69 3 rfl ?_
      refine z_iadd C dX3_hikes_71 ?_
      refine z_istore (lv' := [(5, tI (((nI 5) * x3) + x4)), (0, tR (some this)), (2, tI x2), (3, tI x3), (4, tI x4)]) C dX3_hikes_72 (by decide) rfl ?_
      refine z_iload C dX3_hikes_74 4 rfl ?_
      refine z_aload_n C dX3_hikes_76 1 rfl ?_
      refine z_iload_n C dX3_hikes_77 3 rfl ?_
      obtain ⟨c16, h17⟩ := h14
      refine Z.kk fun c26 c27 => ?_
      have k25 := h17
      refine z_callV (as := [tI x3]) (rest := [tI x4]) C k25 rfl rfl (by decide) c16 rfl q3733 q3735 qs68 q113 q3736 yd_X3_level (by decide) (Nat.le_of_ble_eq_true rfl) dX3_hikes_78 c26 c27 (zRet_i fun v18 μ19 h24 => ?_) (zThr_i fun _ _ z9 _ _ _ _ => z9.elim)
      · refine Z.wm fun m23 => ?_
        have h22 := h24 m23
        refine z_icmp_ge C 112 dX3_hikes_81 (by decide) (fun c30 => ?_) (fun c30 => ?_)
        · have h28 := h22.1 c30
          refine Z.sub [1, 2, 3, 4, 0] rfl ?_
          exact h28
        · have h29 := h22.2 c30
          refine z_iload_n C dX3_hikes_84 2 rfl ?_
          refine z_aload_n C dX3_hikes_85 1 rfl ?_
          refine z_iload C dX3_hikes_86 0 rfl ?_
          refine z_iconst (v := 1) C dX3_hikes_88 (by decide) ?_
          refine z_iadd C dX3_hikes_89 ?_
          refine z_iload C dX3_hikes_90 0 rfl ?_
          refine z_iconst (v := 1) C dX3_hikes_92 (by decide) ?_
          obtain ⟨c31, h32⟩ := h29
          refine Z.kk fun c41 c42 => ?_
          have k40 := h32
          refine z_callV (as := [tI ((((nI 5) * x3) + x4) + (1 : Int32)), tI (((nI 5) * x3) + x4), tI 1]) (rest := [tI x2]) C k40 rfl rfl (by decide) c31 rfl q3893 q3895 qs83 q113 q3896 yd_X3_improves (by decide) (Nat.le_of_ble_eq_true rfl) dX3_hikes_93 c41 c42 (zRet_i fun v33 μ34 h39 => ?_) (zThr_i fun _ _ z9 _ _ _ _ => z9.elim)
          · refine Z.wm fun m38 => ?_
            have h37 := h39 m38
            refine z_ior C dX3_hikes_96 ?_
            refine z_istore_n (lv' := [(2, tI (x2 ||| v33)), (5, tI (((nI 5) * x3) + x4)), (0, tR (some this)), (3, tI x3), (4, tI x4)]) C dX3_hikes_97 (by decide) rfl ?_
            refine z_iload_n C dX3_hikes_98 0 rfl ?_
            refine z_aload_n C dX3_hikes_99 2 rfl ?_
            refine z_iload C dX3_hikes_100 1 rfl ?_
            refine z_iload C dX3_hikes_102 1 rfl ?_
            refine z_iconst (v := 1) C dX3_hikes_104 (by decide) ?_
            refine z_iadd C dX3_hikes_105 ?_
            refine z_iconst (v := 1) C dX3_hikes_106 (by decide) ?_
            obtain ⟨c43, h44⟩ := h37
            refine Z.kk fun c53 c54 => ?_
            have k52 := h44
            refine z_callV (as := [tI (((nI 5) * x3) + x4), tI ((((nI 5) * x3) + x4) + (1 : Int32)), tI 1]) (rest := [tI (x2 ||| v33)]) C k52 rfl rfl (by decide) c43 rfl q3893 q3895 qs83 q113 q3896 yd_X3_improves (by decide) (Nat.le_of_ble_eq_true rfl) dX3_hikes_107 c53 c54 (zRet_i fun v45 μ46 h51 => ?_) (zThr_i fun _ _ z9 _ _ _ _ => z9.elim)
            · refine Z.wm fun m50 => ?_
              have h49 := h51 m50
              refine z_ior C dX3_hikes_110 ?_
              refine z_istore_n (lv' := [(2, tI ((x2 ||| v33) ||| v45)), (5, tI (((nI 5) * x3) + x4)), (0, tR (some this)), (3, tI x3), (4, tI x4)]) C dX3_hikes_111 (by decide) rfl ?_
              refine Z.sub [2, 0, 3, 4, 1] rfl ?_
              exact h49
set_option maxHeartbeats 4000000 in
theorem bk_X3_hikes_112 {w : WT} {g : GT} {K : Out → Mem → Prop} {mc ms : Nat} {this : Nat} {x2 : Int32} {x3 : Int32} {x4 : Int32} {x5 : Int32}  {μ : Mem} {kc ks : Nat} (C : Cx_X3_hikes w g) (h : zM w μ → zC μ this = 18 ∧ Tr_X3_isUsable w this x3 x4 μ 0 0 (zKi (fun v3 μ4 => zM w μ4 → (v3 ≠ 0 → zC μ4 this = 18 ∧ Tr_X3_next w this x3 x4 μ4 0 0 (zKi (fun v18 μ19 => zM w μ19 → zC μ19 this = 18 ∧ Tr_X3_at w this v18 μ19 0 0 (zKi (fun v30 μ31 => zM w μ31 → zC μ31 this = 18 ∧ Tr_X3_at w this x3 μ31 0 0 (zKi (fun v42 μ43 => zM w μ43 → ¬ (x4 + (1 : Int32)) = 0 ∧ zC μ43 this = 18 ∧ Tr_X3_improves w this (((nI 5) * v18) + x4) x5 (((v30 - v42) + x4) / (x4 + (1 : Int32))) μ43 0 0 (zKi (fun v56 μ57 => zM w μ57 → zC μ57 this = 18 ∧ Tr_X3_improves w this x5 (((nI 5) * v18) + x4) (((v30 - v42) + x4) / (x4 + (1 : Int32))) μ57 0 0 (zKi (fun v68 μ69 => zM w μ69 → B_X3_hikes_56 w g K mc ms this ((x2 ||| v56) ||| v68) x3 (x4 + 1) μ69 kc ks) (fun q70 μ71 => False))) (fun q58 μ59 => False))) (fun q44 μ45 => False))) (fun q32 μ33 => False))) (fun q20 μ21 => False))) ∧ (v3 = 0 → B_X3_hikes_56 w g K mc ms this x2 x3 (x4 + 1) μ4 kc ks)) (fun q5 μ6 => False))) : B_X3_hikes_112 w g K mc ms this x2 x3 x4 x5 μ kc ks := by
  unfold Cx_X3_hikes at C
  unfold B_X3_hikes_112
  refine Z.wm fun m0 => ?_
  have h := h m0
  refine z_aload_n C dX3_hikes_112 0 rfl ?_
  refine z_iload_n C dX3_hikes_113 2 rfl ?_
  refine z_iload C dX3_hikes_114 3 rfl ?_
  obtain ⟨c1, h2⟩ := h
  refine Z.kk fun c11 c12 => ?_
  have k10 := h2
  refine z_callV (as := [tI x3, tI x4]) (rest := []) C k10 rfl rfl (by decide) c1 rfl q3897 q3899 qs84 q113 q3900 yd_X3_isUsable (by decide) (Nat.le_of_ble_eq_true rfl) dX3_hikes_116 c11 c12 (zRet_i fun v3 μ4 h9 => ?_) (zThr_i fun _ _ z9 _ _ _ _ => z9.elim)
  · refine Z.wm fun m8 => ?_
    have h7 := h9 m8
    refine z_if_ne C 125 dX3_hikes_119 (by decide) (fun c15 => ?_) (fun c15 => ?_)
    · have h13 := h7.1 c15
      refine z_aload_n C dX3_hikes_125 0 rfl ?_
      refine z_iload_n C dX3_hikes_126 2 rfl ?_
      refine z_iload C dX3_hikes_127 3 rfl ?_
      obtain ⟨c16, h17⟩ := h13
      refine Z.kk fun c26 c27 => ?_
      have k25 := h17
      refine z_callV (as := [tI x3, tI x4]) (rest := []) C k25 rfl rfl (by decide) c16 rfl q3828 q3830 qs80 q113 q3831 yd_X3_next (by decide) (Nat.le_of_ble_eq_true rfl) dX3_hikes_129 c26 c27 (zRet_i fun v18 μ19 h24 => ?_) (zThr_i fun _ _ z9 _ _ _ _ => z9.elim)
      · refine Z.wm fun m23 => ?_
        have h22 := h24 m23
        refine z_istore (lv' := [(6, tI v18), (0, tR (some this)), (2, tI x2), (3, tI x3), (4, tI x4), (5, tI x5)]) C dX3_hikes_132 (by decide) rfl ?_
        refine z_aload_n C dX3_hikes_134 1 rfl ?_
        refine z_iload C dX3_hikes_135 0 rfl ?_
        obtain ⟨c28, h29⟩ := h22
        refine Z.kk fun c38 c39 => ?_
        have k37 := h29
        refine z_callV (as := [tI v18]) (rest := []) C k37 rfl rfl (by decide) c28 rfl q3706 q3708 qs64 q113 q3709 yd_X3_at (by decide) (Nat.le_of_ble_eq_true rfl) dX3_hikes_137 c38 c39 (zRet_i fun v30 μ31 h36 => ?_) (zThr_i fun _ _ z9 _ _ _ _ => z9.elim)
        · refine Z.wm fun m35 => ?_
          have h34 := h36 m35
          refine z_aload_n C dX3_hikes_140 1 rfl ?_
          refine z_iload_n C dX3_hikes_141 3 rfl ?_
          obtain ⟨c40, h41⟩ := h34
          refine Z.kk fun c50 c51 => ?_
          have k49 := h41
          refine z_callV (as := [tI x3]) (rest := [tI v30]) C k49 rfl rfl (by decide) c40 rfl q3706 q3708 qs64 q113 q3709 yd_X3_at (by decide) (Nat.le_of_ble_eq_true rfl) dX3_hikes_142 c50 c51 (zRet_i fun v42 μ43 h48 => ?_) (zThr_i fun _ _ z9 _ _ _ _ => z9.elim)
          · refine Z.wm fun m47 => ?_
            have h46 := h48 m47
            refine z_isub C dX3_hikes_145 ?_
            refine z_iload C dX3_hikes_146 4 rfl ?_
            refine z_iadd C dX3_hikes_148 ?_
            refine z_iload C dX3_hikes_149 4 rfl ?_
            refine z_iconst (v := 1) C dX3_hikes_151 (by decide) ?_
            refine z_iadd C dX3_hikes_152 ?_
            obtain ⟨c53, h52⟩ := h46
            refine z_idiv C dX3_hikes_153 c53 ?_
            refine z_istore (lv' := [(7, tI (((v30 - v42) + x4) / (x4 + (1 : Int32)))), (6, tI v18), (0, tR (some this)), (2, tI x2), (3, tI x3), (4, tI x4), (5, tI x5)]) C dX3_hikes_154 (by decide) rfl ?_
            refine z_iload_n C dX3_hikes_156 3 rfl ?_
            refine z_aload_n C dX3_hikes_157 2 rfl ?_
            refine z_iconst (v := (nI 5)) C dX3_hikes_158 (by decide) ?_
            refine z_iload C dX3_hikes_159 1 rfl ?_
            refine z_imul C dX3_hikes_161 ?_
            refine z_iload C dX3_hikes_162 5 rfl ?_
            refine z_iadd C dX3_hikes_164 ?_
            refine z_iload C dX3_hikes_165 6 rfl ?_
            refine z_iload C dX3_hikes_167 0 rfl ?_
            obtain ⟨c54, h55⟩ := h52
            refine Z.kk fun c64 c65 => ?_
            have k63 := h55
            refine z_callV (as := [tI (((nI 5) * v18) + x4), tI x5, tI (((v30 - v42) + x4) / (x4 + (1 : Int32)))]) (rest := [tI x2]) C k63 rfl rfl (by decide) c54 rfl q3893 q3895 qs83 q113 q3896 yd_X3_improves (by decide) (Nat.le_of_ble_eq_true rfl) dX3_hikes_169 c64 c65 (zRet_i fun v56 μ57 h62 => ?_) (zThr_i fun _ _ z9 _ _ _ _ => z9.elim)
            · refine Z.wm fun m61 => ?_
              have h60 := h62 m61
              refine z_ior C dX3_hikes_172 ?_
              refine z_istore_n (lv' := [(2, tI (x2 ||| v56)), (7, tI (((v30 - v42) + x4) / (x4 + (1 : Int32)))), (6, tI v18), (0, tR (some this)), (3, tI x3), (4, tI x4), (5, tI x5)]) C dX3_hikes_173 (by decide) rfl ?_
              refine z_iload_n C dX3_hikes_174 0 rfl ?_
              refine z_aload_n C dX3_hikes_175 3 rfl ?_
              refine z_iload C dX3_hikes_176 6 rfl ?_
              refine z_iconst (v := (nI 5)) C dX3_hikes_178 (by decide) ?_
              refine z_iload C dX3_hikes_179 2 rfl ?_
              refine z_imul C dX3_hikes_181 ?_
              refine z_iload C dX3_hikes_182 5 rfl ?_
              refine z_iadd C dX3_hikes_184 ?_
              refine z_iload C dX3_hikes_185 1 rfl ?_
              obtain ⟨c66, h67⟩ := h60
              refine Z.kk fun c76 c77 => ?_
              have k75 := h67
              refine z_callV (as := [tI x5, tI (((nI 5) * v18) + x4), tI (((v30 - v42) + x4) / (x4 + (1 : Int32)))]) (rest := [tI (x2 ||| v56)]) C k75 rfl rfl (by decide) c66 rfl q3893 q3895 qs83 q113 q3896 yd_X3_improves (by decide) (Nat.le_of_ble_eq_true rfl) dX3_hikes_187 c76 c77 (zRet_i fun v68 μ69 h74 => ?_) (zThr_i fun _ _ z9 _ _ _ _ => z9.elim)
              · refine Z.wm fun m73 => ?_
                have h72 := h74 m73
                refine z_ior C dX3_hikes_190 ?_
                refine z_istore_n (lv' := [(2, tI ((x2 ||| v56) ||| v68)), (7, tI (((v30 - v42) + x4) / (x4 + (1 : Int32)))), (6, tI v18), (0, tR (some this)), (3, tI x3), (4, tI x4), (5, tI x5)]) C dX3_hikes_191 (by decide) rfl ?_
                refine z_iinc (k0 := 5) (v := x4 + 1) (lv' := [(4, tI (x4 + 1)), (2, tI ((x2 ||| v56) ||| v68)), (7, tI (((v30 - v42) + x4) / (x4 + (1 : Int32)))), (6, tI v18), (0, tR (some this)), (3, tI x3), (5, tI x5)]) C dX3_hikes_192 rfl (by first | rfl | decide) (by decide) rfl ?_
                refine z_goto C 56 dX3_hikes_195 (by decide) ?_
                refine Z.sub [4, 1, 5, 0] rfl ?_
                exact h72
    · have h14 := h7.2 c15
      refine z_goto C 192 dX3_hikes_122 (by decide) ?_
      refine z_iinc (k0 := 3) (v := x4 + 1) (lv' := [(4, tI (x4 + 1)), (0, tR (some this)), (2, tI x2), (3, tI x3), (5, tI x5)]) C dX3_hikes_192 rfl (by first | rfl | decide) (by decide) rfl ?_
      refine z_goto C 56 dX3_hikes_195 (by decide) ?_
      refine Z.sub [1, 2, 3, 0] rfl ?_
      exact h14
/-! HutRidgeModel.time(II)I -/
def Tr_X3_time (w : WT) (this : Nat) (x1 : Int32) (x2 : Int32) (μ : Mem) (mc ms : Nat) (K : Out → Mem → Prop) : Prop := Tr w yX3_time (ws_ yX3_time cX3_time 5 (Option.some Jvm.ClassFile.FieldType.int)) 6 154 [tR (some this), tI x1, tI x2] μ mc ms K
def Cx_X3_time (w : WT) (g : GT) : Prop := Cx w g yX3_time cX3_time 5 (Option.some Jvm.ClassFile.FieldType.int) [] 6 154
theorem yd_X3_time : yX3_time.cls ≠ "java/lang/invoke/MethodHandle" ∧ yX3_time.cls ≠ "java/lang/invoke/VarHandle" ∧ (parseMethodDescriptor yX3_time.desc).map (fun d => d.parameters.length) = some 2 := by decide +kernel
def B_X3_time_23 (w : WT) (g : GT) (K : Out → Mem → Prop) (mc ms : Nat) (this : Nat) (x3 : Int32) (x4 : Int32) (s0 : Option Nat) (μ : Mem) (kc ks : Nat) : Prop := Z w g K mc ms 23 [(0, tR (some this)), (3, tI x3), (4, tI x4)] [tR s0] μ kc ks
def B_X3_time_28 (w : WT) (g : GT) (K : Out → Mem → Prop) (mc ms : Nat) (this : Nat) (x3 : Int32) (x4 : Int32) (s0 : Int32) (s1 : Option Nat) (μ : Mem) (kc ks : Nat) : Prop := Z w g K mc ms 28 [(0, tR (some this)), (3, tI x3), (4, tI x4)] [tI s0, tR s1] μ kc ks
set_option maxHeartbeats 4000000 in
theorem tr_X3_time {w : WT} {this : Nat} {x1 : Int32} {x2 : Int32} {μ : Mem} {mc ms : Nat} {K : Out → Mem → Prop} (h : ∀ g : GT, Cx_X3_time w g → zM w μ → zC μ this = 18 ∧ Tr_X3_hut w this x1 μ 0 0 (zKi (fun v3 μ4 => zM w μ4 → zC μ4 this = 18 ∧ Tr_X3_hut w this x2 μ4 0 0 (zKi (fun v15 μ16 => zM w μ16 → (v3 < 0 → B_X3_time_23 w g K mc ms this v3 v15 (some this) μ16 0 0) ∧ (¬ v3 < 0 → (0 ≤ v15 → B_X3_time_28 w g K mc ms this v3 v15 0 (some this) μ16 0 0) ∧ (¬ 0 ≤ v15 → B_X3_time_23 w g K mc ms this v3 v15 (some this) μ16 0 0))) (fun q17 μ18 => False))) (fun q5 μ6 => False))) : Tr_X3_time w this x1 x2 μ mc ms K := by
  refine Tr.of (by decide +kernel) (Nat.le_of_ble_eq_true rfl) (fun g C => ?_)
  show Z w g K mc ms 0 [(0, tR (some this)), (1, tI x1), (2, tI x2)] [] μ 0 0
  refine Z.wm fun m0 => ?_
  have h := h g C m0
  refine z_aload_n C dX3_time_0 0 rfl ?_
  refine z_iload_n C dX3_time_1 1 rfl ?_
  obtain ⟨c1, h2⟩ := h
  refine Z.kk fun c11 c12 => ?_
  have k10 := h2
  refine z_callV (as := [tI x1]) (rest := []) C k10 rfl rfl (by decide) c1 rfl q3702 q3704 qs63 q113 q3705 yd_X3_hut (by decide) (Nat.le_of_ble_eq_true rfl) dX3_time_2 c11 c12 (zRet_i fun v3 μ4 h9 => ?_) (zThr_i fun _ _ z9 _ _ _ _ => z9.elim)
  · refine Z.wm fun m8 => ?_
    have h7 := h9 m8
    refine z_istore_n (lv' := [(3, tI v3), (0, tR (some this)), (1, tI x1), (2, tI x2)]) C dX3_time_5 (by decide) rfl ?_
    refine z_aload_n C dX3_time_6 1 rfl ?_
    refine z_iload_n C dX3_time_7 3 rfl ?_
    obtain ⟨c13, h14⟩ := h7
    refine Z.kk fun c23 c24 => ?_
    have k22 := h14
    refine z_callV (as := [tI x2]) (rest := []) C k22 rfl rfl (by decide) c13 rfl q3702 q3704 qs63 q113 q3705 yd_X3_hut (by decide) (Nat.le_of_ble_eq_true rfl) dX3_time_8 c23 c24 (zRet_i fun v15 μ16 h21 => ?_) (zThr_i fun _ _ z9 _ _ _ _ => z9.elim)
    · refine Z.wm fun m20 => ?_
      have h19 := h21 m20
      refine z_istore (lv' := [(4, tI v15), (3, tI v3), (0, tR (some this)), (1, tI x1), (2, tI x2)]) C dX3_time_11 (by decide) rfl ?_
      refine z_aload_n C dX3_time_13 2 rfl ?_
      refine z_iload_n C dX3_time_14 1 rfl ?_
      refine z_if_lt C 23 dX3_time_15 (by decide) (fun c27 => ?_) (fun c27 => ?_)
      · have h25 := h19.1 c27
        refine Z.sub [2, 1, 0] rfl ?_
        exact h25
      · have h26 := h19.2 c27
        refine z_iload C dX3_time_18 0 rfl ?_
        refine z_if_ge C 27 dX3_time_20 (by decide) (fun c30 => ?_) (fun c30 => ?_)
        · have h28 := h26.1 c30
          refine z_iconst (v := 0) C dX3_time_27 (by decide) ?_
          refine Z.sub [2, 1, 0] rfl ?_
          exact h28
        · have h29 := h26.2 c30
          refine Z.sub [2, 1, 0] rfl ?_
          exact h29
set_option maxHeartbeats 4000000 in
theorem bk_X3_time_23 {w : WT} {g : GT} {K : Out → Mem → Prop} {mc ms : Nat} {this : Nat} {x3 : Int32} {x4 : Int32} {s0 : Option Nat} {μ : Mem} {kc ks : Nat} (C : Cx_X3_time w g) (h : zM w μ → B_X3_time_28 w g K mc ms this x3 x4 1 s0 μ kc ks) : B_X3_time_23 w g K mc ms this x3 x4 s0 μ kc ks := by
  unfold Cx_X3_time at C
  unfold B_X3_time_23
  refine Z.wm fun m0 => ?_
  have h := h m0
  refine z_iconst (v := 1) C dX3_time_23 (by decide) ?_
  refine z_goto C 28 dX3_time_24 (by decide) ?_
  refine Z.sub [0, 1, 2] rfl ?_
  exact h
set_option maxHeartbeats 4000000 in
theorem bk_X3_time_28 {w : WT} {g : GT} {K : Out → Mem → Prop} {mc ms : Nat} {this : Nat} {x3 : Int32} {x4 : Int32} {s0 : Int32} {s1 : Option Nat} {μ : Mem} {kc ks : Nat} (C : Cx_X3_time w g) (h : zM w μ → ∃ a1 : Nat, s1 = some a1 ∧ zC μ a1 = 18 ∧ ∀ μ6 : Mem, μ6 = zsI μ 57 a1 s0 → zC μ6 this = 18 ∧ ((zI μ6 57 this) = 0 → Tr_X3_hikes w this x3 μ6 0 0 (zKv (fun μ16 => zM w μ16 → zC μ16 this = 18 ∧ ∃ a27 : Nat, (zR μ16 67 this) = some a27 ∧ zC μ16 a27 = 101 ∧ vp_in ((nI 5) * x4) (zN μ16 a27) ∧ ((zA μ16 a27 ((nI 5) * x4).toNatClampNeg) < (nI 1000000) → vp_in ((nI 5) * x4) (zN μ16 a27) ∧ K (.inl (some (tI (zA μ16 a27 ((nI 5) * x4).toNatClampNeg)))) μ16) ∧ (¬ (zA μ16 a27 ((nI 5) * x4).toNatClampNeg) < (nI 1000000) → Tr_X3_fail w this (nI 2) μ16 0 0 (zKi (fun v39 μ40 => zM w μ40 → K (.inl (some (tI v39))) μ40) (fun q41 μ42 => False)))) (fun q17 μ18 => False))) ∧ (¬ (zI μ6 57 this) = 0 → K (.inl (some (tI 0))) μ6)) : B_X3_time_28 w g K mc ms this x3 x4 s0 s1 μ kc ks := by
  unfold Cx_X3_time at C
  unfold B_X3_time_28
  refine Z.wm fun m0 => ?_
  have h := h m0
  obtain ⟨a1, e2, h3⟩ := h
  obtain ⟨c4, h5⟩ := h3
  refine z_putI C e2 (zFpOf c4 (zp_X3_56_18 rfl)) (Or.inl (zFzOf c4 rfl)) rfl rfl dX3_time_28 ?_
  refine Z.mem fun μ6 e8 => ?_
  have h7 := h5 μ6 e8
  have c9 : zC μ6 a1 = 18 := by rw [e8]; exact c4
  refine z_aload_n C dX3_time_31 0 rfl ?_
  obtain ⟨c10, h11⟩ := h7
  refine z_getI C rfl (zFdOf c10 zf_X3_56_18) dX3_time_32 ?_
  refine z_if_eq C 40 dX3_time_35 (by decide) (fun c14 => ?_) (fun c14 => ?_)
  · have h12 := h11.1 c14
    refine z_aload_n C dX3_time_40 0 rfl ?_
    refine z_iload_n C dX3_time_41 1 rfl ?_
    refine Z.kk fun c23 c24 => ?_
    have k22 := h12
    refine z_callV (as := [tI x3]) (rest := []) C k22 rfl rfl (by decide) c10 rfl q3888 q3890 qs82 q113 q3891 yd_X3_hikes (by decide) (Nat.le_of_ble_eq_true rfl) dX3_time_42 c23 c24 (zRet_v fun μ16 h21 => ?_) (zThr_v fun _ _ z9 _ _ _ _ => z9.elim)
    · refine Z.wm fun m20 => ?_
      have h19 := h21 m20
      refine z_aload_n C dX3_time_45 0 rfl ?_
      obtain ⟨c25, h26⟩ := h19
      refine z_getR C rfl (zFdOf c25 zf_X3_29_18) dX3_time_46 ?_
      refine z_iconst (v := (nI 5)) C dX3_time_49 (by decide) ?_
      refine z_iload C dX3_time_50 2 rfl ?_
      refine z_imul C dX3_time_52 ?_
      obtain ⟨a27, e28, h29⟩ := h26
      obtain ⟨c30, h31⟩ := h29
      obtain ⟨c32, h33⟩ := h31
      refine z_iald C e28 c30 c32 dX3_time_53 ?_
      refine z_ldcI (v := (nI 1000000)) C q3892 dX3_time_54 ?_
      refine z_icmp_lt C 67 dX3_time_56 (by decide) (fun c36 => ?_) (fun c36 => ?_)
      · have h34 := h33.1 c36
        refine z_aload_n C dX3_time_67 0 rfl ?_
        refine z_getR C rfl (zFdOf c25 zf_X3_29_18) dX3_time_68 ?_
        refine z_iconst (v := (nI 5)) C dX3_time_71 (by decide) ?_
        refine z_iload C dX3_time_72 2 rfl ?_
        refine z_imul C dX3_time_74 ?_
        obtain ⟨c37, h38⟩ := h34
        refine z_iald C e28 c30 c37 dX3_time_75 ?_
        exact z_ireturn C rfl rfl dX3_time_76 h38
      · have h35 := h33.2 c36
        refine z_aload_n C dX3_time_59 0 rfl ?_
        refine z_iconst (v := (nI 2)) C dX3_time_60 (by decide) ?_
        refine Z.kk fun c47 c48 => ?_
        have k46 := h35
        refine z_callV (as := [tI (nI 2)]) (rest := []) C k46 rfl rfl (by decide) c25 rfl q3698 q3700 qs62 q113 q3701 yd_X3_fail (by decide) (Nat.le_of_ble_eq_true rfl) dX3_time_61 c47 c48 (zRet_i fun v39 μ40 h45 => ?_) (zThr_i fun _ _ z9 _ _ _ _ => z9.elim)
        · refine Z.wm fun m44 => ?_
          have h43 := h45 m44
          refine z_goto C 76 dX3_time_64 (by decide) ?_
          exact z_ireturn C rfl rfl dX3_time_76 h43
  · have h13 := h11.2 c14
    refine z_iconst (v := 0) C dX3_time_38 (by decide) ?_
    exact z_ireturn C rfl rfl dX3_time_39 h13
/-! HutRidgeModel.timeByRounds(II)I -/
def Tr_X3_timeByRounds (w : WT) (this : Nat) (x1 : Int32) (x2 : Int32) (μ : Mem) (mc ms : Nat) (K : Out → Mem → Prop) : Prop := Tr w yX3_timeByRounds (ws_ yX3_timeByRounds cX3_timeByRounds 3 (Option.some Jvm.ClassFile.FieldType.int)) 7 178 [tR (some this), tI x1, tI x2] μ mc ms K
def Cx_X3_timeByRounds (w : WT) (g : GT) : Prop := Cx w g yX3_timeByRounds cX3_timeByRounds 3 (Option.some Jvm.ClassFile.FieldType.int) [] 7 178
theorem yd_X3_timeByRounds : yX3_timeByRounds.cls ≠ "java/lang/invoke/MethodHandle" ∧ yX3_timeByRounds.cls ≠ "java/lang/invoke/VarHandle" ∧ (parseMethodDescriptor yX3_timeByRounds.desc).map (fun d => d.parameters.length) = some 2 := by decide +kernel
set_option maxHeartbeats 4000000 in
theorem tr_X3_timeByRounds {w : WT} {this : Nat} {x1 : Int32} {x2 : Int32} {μ : Mem} {mc ms : Nat} {K : Out → Mem → Prop} (h : zM w μ → zC μ this = 18 ∧ Tr_X3_time w this x1 x2 μ 0 0 (zKi (fun v3 μ4 => zM w μ4 → K (.inl (some (tI v3))) μ4) (fun q5 μ6 => False))) : Tr_X3_timeByRounds w this x1 x2 μ mc ms K := by
  refine Tr.of (by decide +kernel) (Nat.le_of_ble_eq_true rfl) (fun g C => ?_)
  show Z w g K mc ms 0 [(0, tR (some this)), (1, tI x1), (2, tI x2)] [] μ 0 0
  refine Z.wm fun m0 => ?_
  have h := h m0
  refine z_aload_n C dX3_timeByRounds_0 0 rfl ?_
  refine z_iload_n C dX3_timeByRounds_1 1 rfl ?_
  refine z_iload_n C dX3_timeByRounds_2 2 rfl ?_
  obtain ⟨c1, h2⟩ := h
  refine Z.kk fun c11 c12 => ?_
  have k10 := h2
  refine z_callV (as := [tI x1, tI x2]) (rest := []) C k10 rfl rfl (by decide) c1 rfl q3905 q3885 q3886 q113 q3887 yd_X3_time (by decide) (Nat.le_of_ble_eq_true rfl) dX3_timeByRounds_3 c11 c12 (zRet_i fun v3 μ4 h9 => ?_) (zThr_i fun _ _ z9 _ _ _ _ => z9.elim)
  · refine Z.wm fun m8 => ?_
    have h7 := h9 m8
    exact z_ireturn C rfl rfl dX3_timeByRounds_6 h7
/-! HutRidgeModel.reachableCount(I)I -/
def Tr_X3_reachableCount (w : WT) (this : Nat) (x1 : Int32) (μ : Mem) (mc ms : Nat) (K : Out → Mem → Prop) : Prop := Tr w yX3_reachableCount (ws_ yX3_reachableCount cX3_reachableCount 5 (Option.some Jvm.ClassFile.FieldType.int)) 6 154 [tR (some this), tI x1] μ mc ms K
def Cx_X3_reachableCount (w : WT) (g : GT) : Prop := Cx w g yX3_reachableCount cX3_reachableCount 5 (Option.some Jvm.ClassFile.FieldType.int) [] 6 154
theorem yd_X3_reachableCount : yX3_reachableCount.cls ≠ "java/lang/invoke/MethodHandle" ∧ yX3_reachableCount.cls ≠ "java/lang/invoke/VarHandle" ∧ (parseMethodDescriptor yX3_reachableCount.desc).map (fun d => d.parameters.length) = some 1 := by decide +kernel
def B_X3_reachableCount_18 (w : WT) (g : GT) (K : Out → Mem → Prop) (mc ms : Nat) (this : Nat) (x2 : Int32) (x3 : Int32) (s0 : Int32) (s1 : Option Nat) (μ : Mem) (kc ks : Nat) : Prop := Z w g K mc ms 18 [(0, tR (some this)), (2, tI x2), (3, tI x3)] [tI s0, tR s1] μ kc ks
def B_X3_reachableCount_38 (w : WT) (g : GT) (K : Out → Mem → Prop) (mc ms : Nat) (this : Nat) (x3 : Int32) (x4 : Int32)  (μ : Mem) (kc ks : Nat) : Prop := Z w g K mc ms 38 [(0, tR (some this)), (3, tI x3), (4, tI x4)] [] μ kc ks
set_option maxHeartbeats 4000000 in
theorem tr_X3_reachableCount {w : WT} {this : Nat} {x1 : Int32} {μ : Mem} {mc ms : Nat} {K : Out → Mem → Prop} (h : ∀ g : GT, Cx_X3_reachableCount w g → zM w μ → zC μ this = 18 ∧ Tr_X3_hut w this x1 μ 0 0 (zKi (fun v3 μ4 => zM w μ4 → (0 ≤ v3 → B_X3_reachableCount_18 w g K mc ms this v3 0 0 (some this) μ4 0 0) ∧ (¬ 0 ≤ v3 → B_X3_reachableCount_18 w g K mc ms this v3 0 1 (some this) μ4 0 0)) (fun q5 μ6 => False))) : Tr_X3_reachableCount w this x1 μ mc ms K := by
  refine Tr.of (by decide +kernel) (Nat.le_of_ble_eq_true rfl) (fun g C => ?_)
  show Z w g K mc ms 0 [(0, tR (some this)), (1, tI x1)] [] μ 0 0
  refine Z.wm fun m0 => ?_
  have h := h g C m0
  refine z_aload_n C dX3_reachableCount_0 0 rfl ?_
  refine z_iload_n C dX3_reachableCount_1 1 rfl ?_
  obtain ⟨c1, h2⟩ := h
  refine Z.kk fun c11 c12 => ?_
  have k10 := h2
  refine z_callV (as := [tI x1]) (rest := []) C k10 rfl rfl (by decide) c1 rfl q3702 q3704 qs63 q113 q3705 yd_X3_hut (by decide) (Nat.le_of_ble_eq_true rfl) dX3_reachableCount_2 c11 c12 (zRet_i fun v3 μ4 h9 => ?_) (zThr_i fun _ _ z9 _ _ _ _ => z9.elim)
  · refine Z.wm fun m8 => ?_
    have h7 := h9 m8
    refine z_istore_n (lv' := [(2, tI v3), (0, tR (some this)), (1, tI x1)]) C dX3_reachableCount_5 (by decide) rfl ?_
    refine z_iconst (v := 0) C dX3_reachableCount_6 (by decide) ?_
    refine z_istore_n (lv' := [(3, tI 0), (2, tI v3), (0, tR (some this)), (1, tI x1)]) C dX3_reachableCount_7 (by decide) rfl ?_
    refine z_aload_n C dX3_reachableCount_8 2 rfl ?_
    refine z_iload_n C dX3_reachableCount_9 1 rfl ?_
    refine z_if_ge C 17 dX3_reachableCount_10 (by decide) (fun c15 => ?_) (fun c15 => ?_)
    · have h13 := h7.1 c15
      refine z_iconst (v := 0) C dX3_reachableCount_17 (by decide) ?_
      refine Z.sub [2, 1, 0] rfl ?_
      exact h13
    · have h14 := h7.2 c15
      refine z_iconst (v := 1) C dX3_reachableCount_13 (by decide) ?_
      refine z_goto C 18 dX3_reachableCount_14 (by decide) ?_
      refine Z.sub [2, 1, 0] rfl ?_
      exact h14
set_option maxHeartbeats 4000000 in
theorem bk_X3_reachableCount_18 {w : WT} {g : GT} {K : Out → Mem → Prop} {mc ms : Nat} {this : Nat} {x2 : Int32} {x3 : Int32} {s0 : Int32} {s1 : Option Nat} {μ : Mem} {kc ks : Nat} (C : Cx_X3_reachableCount w g) (h : zM w μ → ∃ a1 : Nat, s1 = some a1 ∧ zC μ a1 = 18 ∧ ∀ μ6 : Mem, μ6 = zsI μ 57 a1 s0 → zC μ6 this = 18 ∧ ((zI μ6 57 this) = 0 → Tr_X3_hikes w this x2 μ6 0 0 (zKv (fun μ16 => zM w μ16 → B_X3_reachableCount_38 w g K mc ms this x3 0 μ16 kc ks) (fun q17 μ18 => False))) ∧ (¬ (zI μ6 57 this) = 0 → K (.inl (some (tI 0))) μ6)) : B_X3_reachableCount_18 w g K mc ms this x2 x3 s0 s1 μ kc ks := by
  unfold Cx_X3_reachableCount at C
  unfold B_X3_reachableCount_18
  refine Z.wm fun m0 => ?_
  have h := h m0
  obtain ⟨a1, e2, h3⟩ := h
  obtain ⟨c4, h5⟩ := h3
  refine z_putI C e2 (zFpOf c4 (zp_X3_56_18 rfl)) (Or.inl (zFzOf c4 rfl)) rfl rfl dX3_reachableCount_18 ?_
  refine Z.mem fun μ6 e8 => ?_
  have h7 := h5 μ6 e8
  have c9 : zC μ6 a1 = 18 := by rw [e8]; exact c4
  refine z_aload_n C dX3_reachableCount_21 0 rfl ?_
  obtain ⟨c10, h11⟩ := h7
  refine z_getI C rfl (zFdOf c10 zf_X3_56_18) dX3_reachableCount_22 ?_
  refine z_if_eq C 30 dX3_reachableCount_25 (by decide) (fun c14 => ?_) (fun c14 => ?_)
  · have h12 := h11.1 c14
    refine z_aload_n C dX3_reachableCount_30 0 rfl ?_
    refine z_iload_n C dX3_reachableCount_31 1 rfl ?_
    refine Z.kk fun c23 c24 => ?_
    have k22 := h12
    refine z_callV (as := [tI x2]) (rest := []) C k22 rfl rfl (by decide) c10 rfl q3888 q3890 qs82 q113 q3891 yd_X3_hikes (by decide) (Nat.le_of_ble_eq_true rfl) dX3_reachableCount_32 c23 c24 (zRet_v fun μ16 h21 => ?_) (zThr_v fun _ _ z9 _ _ _ _ => z9.elim)
    · refine Z.wm fun m20 => ?_
      have h19 := h21 m20
      refine z_iconst (v := 0) C dX3_reachableCount_35 (by decide) ?_
      refine z_istore (lv' := [(4, tI 0), (0, tR (some this)), (2, tI x2), (3, tI x3)]) C dX3_reachableCount_36 (by decide) rfl ?_
      refine Z.sub [1, 3, 0] rfl ?_
      exact h19
  · have h13 := h11.2 c14
    refine z_iconst (v := 0) C dX3_reachableCount_28 (by decide) ?_
    exact z_ireturn C rfl rfl dX3_reachableCount_29 h13
set_option maxHeartbeats 4000000 in
theorem bk_X3_reachableCount_38 {w : WT} {g : GT} {K : Out → Mem → Prop} {mc ms : Nat} {this : Nat} {x3 : Int32} {x4 : Int32}  {μ : Mem} {kc ks : Nat} (C : Cx_X3_reachableCount w g) (h : zM w μ → zC μ this = 18 ∧ ∃ a3 : Nat, (zR μ 63 this) = some a3 ∧ zC μ a3 = 101 ∧ vp_in 0 (zN μ a3) ∧ ((zA μ a3 0) ≤ x4 → K (.inl (some (tI x3))) μ) ∧ (¬ (zA μ a3 0) ≤ x4 → ∃ a13 : Nat, (zR μ 67 this) = some a13 ∧ zC μ a13 = 101 ∧ vp_in ((nI 5) * x4) (zN μ a13) ∧ ((nI 1000000) ≤ (zA μ a13 ((nI 5) * x4).toNatClampNeg) → B_X3_reachableCount_38 w g K mc ms this (x3 + (0 : Int32)) (x4 + 1) μ kc ks) ∧ (¬ (nI 1000000) ≤ (zA μ a13 ((nI 5) * x4).toNatClampNeg) → B_X3_reachableCount_38 w g K mc ms this (x3 + (1 : Int32)) (x4 + 1) μ kc ks))) : B_X3_reachableCount_38 w g K mc ms this x3 x4 μ kc ks := by
  unfold Cx_X3_reachableCount at C
  unfold B_X3_reachableCount_38
  refine Z.wm fun m0 => ?_
  have h := h m0
  refine z_iload C dX3_reachableCount_38 2 rfl ?_
  refine z_aload_n C dX3_reachableCount_40 0 rfl ?_
  obtain ⟨c1, h2⟩ := h
  refine z_getR C rfl (zFdOf c1 zf_X3_16_18) dX3_reachableCount_41 ?_
  refine z_iconst (v := 0) C dX3_reachableCount_44 (by decide) ?_
  obtain ⟨a3, e4, h5⟩ := h2
  obtain ⟨c6, h7⟩ := h5
  obtain ⟨c8, h9⟩ := h7
  refine z_iald C e4 c6 c8 dX3_reachableCount_45 ?_
  refine z_icmp_ge C 77 dX3_reachableCount_46 (by decide) (fun c12 => ?_) (fun c12 => ?_)
  · have h10 := h9.1 c12
    refine z_iload_n C dX3_reachableCount_77 1 rfl ?_
    exact z_ireturn C rfl rfl dX3_reachableCount_78 h10
  · have h11 := h9.2 c12
    refine z_iload_n C dX3_reachableCount_49 1 rfl ?_
    refine z_aload_n C dX3_reachableCount_50 0 rfl ?_
    refine z_getR C rfl (zFdOf c1 zf_X3_29_18) dX3_reachableCount_51 ?_
    refine z_iconst (v := (nI 5)) C dX3_reachableCount_54 (by decide) ?_
    refine z_iload C dX3_reachableCount_55 2 rfl ?_
    refine z_imul C dX3_reachableCount_57 ?_
    obtain ⟨a13, e14, h15⟩ := h11
    obtain ⟨c16, h17⟩ := h15
    obtain ⟨c18, h19⟩ := h17
    refine z_iald C e14 c16 c18 dX3_reachableCount_58 ?_
    refine z_ldcI (v := (nI 1000000)) C q3892 dX3_reachableCount_59 ?_
    refine z_icmp_ge C 68 dX3_reachableCount_61 (by decide) (fun c22 => ?_) (fun c22 => ?_)
    · have h20 := h19.1 c22
      refine z_iconst (v := 0) C dX3_reachableCount_68 (by decide) ?_
      refine z_iadd C dX3_reachableCount_69 ?_
      refine z_istore_n (lv' := [(3, tI (x3 + (0 : Int32))), (0, tR (some this)), (4, tI x4)]) C dX3_reachableCount_70 (by decide) rfl ?_
      refine z_iinc (k0 := 2) (v := x4 + 1) (lv' := [(4, tI (x4 + 1)), (3, tI (x3 + (0 : Int32))), (0, tR (some this))]) C dX3_reachableCount_71 rfl (by first | rfl | decide) (by decide) rfl ?_
      refine z_goto C 38 dX3_reachableCount_74 (by decide) ?_
      refine Z.sub [2, 1, 0] rfl ?_
      exact h20
    · have h21 := h19.2 c22
      refine z_iconst (v := 1) C dX3_reachableCount_64 (by decide) ?_
      refine z_goto C 69 dX3_reachableCount_65 (by decide) ?_
      refine z_iadd C dX3_reachableCount_69 ?_
      refine z_istore_n (lv' := [(3, tI (x3 + (1 : Int32))), (0, tR (some this)), (4, tI x4)]) C dX3_reachableCount_70 (by decide) rfl ?_
      refine z_iinc (k0 := 2) (v := x4 + 1) (lv' := [(4, tI (x4 + 1)), (3, tI (x3 + (1 : Int32))), (0, tR (some this))]) C dX3_reachableCount_71 rfl (by first | rfl | decide) (by decide) rfl ?_
      refine z_goto C 38 dX3_reachableCount_74 (by decide) ?_
      refine Z.sub [2, 1, 0] rfl ?_
      exact h21
/-! HutRidgeModel.hikerCount()I -/
def Tr_X3_hikerCount (w : WT) (this : Nat) (μ : Mem) (mc ms : Nat) (K : Out → Mem → Prop) : Prop := Tr w yX3_hikerCount (ws_ yX3_hikerCount cX3_hikerCount 1 (Option.some Jvm.ClassFile.FieldType.int)) 2 61 [tR (some this)] μ mc ms K
def Cx_X3_hikerCount (w : WT) (g : GT) : Prop := Cx w g yX3_hikerCount cX3_hikerCount 1 (Option.some Jvm.ClassFile.FieldType.int) [] 2 61
theorem yd_X3_hikerCount : yX3_hikerCount.cls ≠ "java/lang/invoke/MethodHandle" ∧ yX3_hikerCount.cls ≠ "java/lang/invoke/VarHandle" ∧ (parseMethodDescriptor yX3_hikerCount.desc).map (fun d => d.parameters.length) = some 0 := by decide +kernel
set_option maxHeartbeats 4000000 in
theorem tr_X3_hikerCount {w : WT} {this : Nat} {μ : Mem} {mc ms : Nat} {K : Out → Mem → Prop} (h : zM w μ → zC μ this = 18 ∧ Tr_X3_tells w this (nI 3) μ 0 0 (zKi (fun v3 μ4 => zM w μ4 → K (.inl (some (tI v3))) μ4) (fun q5 μ6 => False))) : Tr_X3_hikerCount w this μ mc ms K := by
  refine Tr.of (by decide +kernel) (Nat.le_of_ble_eq_true rfl) (fun g C => ?_)
  show Z w g K mc ms 0 [(0, tR (some this))] [] μ 0 0
  refine Z.wm fun m0 => ?_
  have h := h m0
  refine z_aload_n C dX3_hikerCount_0 0 rfl ?_
  refine z_iconst (v := (nI 3)) C dX3_hikerCount_1 (by decide) ?_
  obtain ⟨c1, h2⟩ := h
  refine Z.kk fun c11 c12 => ?_
  have k10 := h2
  refine z_callV (as := [tI (nI 3)]) (rest := []) C k10 rfl rfl (by decide) c1 rfl q3792 q3794 qs76 q113 q3795 yd_X3_tells (by decide) (Nat.le_of_ble_eq_true rfl) dX3_hikerCount_2 c11 c12 (zRet_i fun v3 μ4 h9 => ?_) (zThr_i fun _ _ z9 _ _ _ _ => z9.elim)
  · refine Z.wm fun m8 => ?_
    have h7 := h9 m8
    exact z_ireturn C rfl rfl dX3_hikerCount_5 h7
/-! HutRidgeModel.hikerAt(I)I -/
def Tr_X3_hikerAt (w : WT) (this : Nat) (x1 : Int32) (μ : Mem) (mc ms : Nat) (K : Out → Mem → Prop) : Prop := Tr w yX3_hikerAt (ws_ yX3_hikerAt cX3_hikerAt 2 (Option.some Jvm.ClassFile.FieldType.int)) 2 62 [tR (some this), tI x1] μ mc ms K
def Cx_X3_hikerAt (w : WT) (g : GT) : Prop := Cx w g yX3_hikerAt cX3_hikerAt 2 (Option.some Jvm.ClassFile.FieldType.int) [] 2 62
theorem yd_X3_hikerAt : yX3_hikerAt.cls ≠ "java/lang/invoke/MethodHandle" ∧ yX3_hikerAt.cls ≠ "java/lang/invoke/VarHandle" ∧ (parseMethodDescriptor yX3_hikerAt.desc).map (fun d => d.parameters.length) = some 1 := by decide +kernel
def B_X3_hikerAt_22 (w : WT) (g : GT) (K : Out → Mem → Prop) (mc ms : Nat) (this : Nat) (x1 : Int32) (s0 : Int32) (s1 : Option Nat) (μ : Mem) (kc ks : Nat) : Prop := Z w g K mc ms 22 [(0, tR (some this)), (1, tI x1)] [tI s0, tR s1] μ kc ks
set_option maxHeartbeats 4000000 in
theorem tr_X3_hikerAt {w : WT} {this : Nat} {x1 : Int32} {μ : Mem} {mc ms : Nat} {K : Out → Mem → Prop} (h : ∀ g : GT, Cx_X3_hikerAt w g → zM w μ → zC μ this = 18 ∧ ∃ a3 : Nat, (zR μ 63 this) = some a3 ∧ zC μ a3 = 101 ∧ vp_in (nI 3) (zN μ a3) ∧ Tr_X3_isIn w x1 0 ((zA μ a3 3) - (1 : Int32)) μ 0 0 (zKi (fun v10 μ11 => zM w μ11 → (v10 = 0 → B_X3_hikerAt_22 w g K mc ms this x1 1 (some this) μ11 0 0) ∧ (¬ v10 = 0 → B_X3_hikerAt_22 w g K mc ms this x1 0 (some this) μ11 0 0)) (fun q12 μ13 => False))) : Tr_X3_hikerAt w this x1 μ mc ms K := by
  refine Tr.of (by decide +kernel) (Nat.le_of_ble_eq_true rfl) (fun g C => ?_)
  show Z w g K mc ms 0 [(0, tR (some this)), (1, tI x1)] [] μ 0 0
  refine Z.wm fun m0 => ?_
  have h := h g C m0
  refine z_aload_n C dX3_hikerAt_0 0 rfl ?_
  refine z_iload_n C dX3_hikerAt_1 1 rfl ?_
  refine z_iconst (v := 0) C dX3_hikerAt_2 (by decide) ?_
  refine z_aload_n C dX3_hikerAt_3 0 rfl ?_
  obtain ⟨c1, h2⟩ := h
  refine z_getR C rfl (zFdOf c1 zf_X3_16_18) dX3_hikerAt_4 ?_
  refine z_iconst (v := (nI 3)) C dX3_hikerAt_7 (by decide) ?_
  obtain ⟨a3, e4, h5⟩ := h2
  obtain ⟨c6, h7⟩ := h5
  obtain ⟨c8, h9⟩ := h7
  refine z_iald C e4 c6 c8 dX3_hikerAt_8 ?_
  refine z_iconst (v := 1) C dX3_hikerAt_9 (by decide) ?_
  refine z_isub C dX3_hikerAt_10 ?_
  refine Z.kk fun c18 c19 => ?_
  have k17 := h9
  refine z_callS (as := [tI x1, tI 0, tI ((zA μ a3 3) - (1 : Int32))]) (rest := [tR (some this)]) C k17 rfl q3692 q3693 q113 q3694 yd_X3_isIn (by decide) (Nat.le_of_ble_eq_true rfl) dX3_hikerAt_11 c18 c19 (zRet_i fun v10 μ11 h16 => ?_) (zThr_i fun _ _ z9 _ _ _ _ => z9.elim)
  · refine Z.wm fun m15 => ?_
    have h14 := h16 m15
    refine z_if_eq C 21 dX3_hikerAt_14 (by decide) (fun c22 => ?_) (fun c22 => ?_)
    · have h20 := h14.1 c22
      refine z_iconst (v := 1) C dX3_hikerAt_21 (by decide) ?_
      refine Z.sub [0, 1] rfl ?_
      exact h20
    · have h21 := h14.2 c22
      refine z_iconst (v := 0) C dX3_hikerAt_17 (by decide) ?_
      refine z_goto C 22 dX3_hikerAt_18 (by decide) ?_
      refine Z.sub [0, 1] rfl ?_
      exact h21
set_option maxHeartbeats 4000000 in
theorem bk_X3_hikerAt_22 {w : WT} {g : GT} {K : Out → Mem → Prop} {mc ms : Nat} {this : Nat} {x1 : Int32} {s0 : Int32} {s1 : Option Nat} {μ : Mem} {kc ks : Nat} (C : Cx_X3_hikerAt w g) (h : zM w μ → ∃ a1 : Nat, s1 = some a1 ∧ zC μ a1 = 18 ∧ ∀ μ6 : Mem, μ6 = zsI μ 57 a1 s0 → zC μ6 this = 18 ∧ ((zI μ6 57 this) ≠ 0 → K (.inl (some (tI 0))) μ6) ∧ ((zI μ6 57 this) = 0 → Tr_X3_hiking w x1 0 μ6 0 0 (zKi (fun v15 μ16 => zM w μ16 → ∃ a25 : Nat, (zR μ6 63 this) = some a25 ∧ zC μ16 a25 = 101 ∧ vp_in v15 (zN μ16 a25) ∧ K (.inl (some (tI (zA μ16 a25 v15.toNatClampNeg)))) μ16) (fun q17 μ18 => False)))) : B_X3_hikerAt_22 w g K mc ms this x1 s0 s1 μ kc ks := by
  unfold Cx_X3_hikerAt at C
  unfold B_X3_hikerAt_22
  refine Z.wm fun m0 => ?_
  have h := h m0
  obtain ⟨a1, e2, h3⟩ := h
  obtain ⟨c4, h5⟩ := h3
  refine z_putI C e2 (zFpOf c4 (zp_X3_56_18 rfl)) (Or.inl (zFzOf c4 rfl)) rfl rfl dX3_hikerAt_22 ?_
  refine Z.mem fun μ6 e8 => ?_
  have h7 := h5 μ6 e8
  have c9 : zC μ6 a1 = 18 := by rw [e8]; exact c4
  refine z_aload_n C dX3_hikerAt_25 0 rfl ?_
  obtain ⟨c10, h11⟩ := h7
  refine z_getI C rfl (zFdOf c10 zf_X3_56_18) dX3_hikerAt_26 ?_
  refine z_if_ne C 45 dX3_hikerAt_29 (by decide) (fun c14 => ?_) (fun c14 => ?_)
  · have h12 := h11.1 c14
    refine z_iconst (v := 0) C dX3_hikerAt_45 (by decide) ?_
    exact z_ireturn C rfl rfl dX3_hikerAt_46 h12
  · have h13 := h11.2 c14
    refine z_aload_n C dX3_hikerAt_32 0 rfl ?_
    refine z_getR C rfl (zFdOf c10 zf_X3_16_18) dX3_hikerAt_33 ?_
    refine z_iload_n C dX3_hikerAt_36 1 rfl ?_
    refine z_iconst (v := 0) C dX3_hikerAt_37 (by decide) ?_
    refine Z.kk fun c23 c24 => ?_
    have k22 := h13
    refine z_callS (as := [tI x1, tI 0]) (rest := [tR (zR μ6 63 this)]) C k22 rfl q3765 q3766 q113 q3767 yd_X3_hiking (by decide) (Nat.le_of_ble_eq_true rfl) dX3_hikerAt_38 c23 c24 (zRet_i fun v15 μ16 h21 => ?_) (zThr_i fun _ _ z9 _ _ _ _ => z9.elim)
    · refine Z.wm fun m20 => ?_
      have h19 := h21 m20
      obtain ⟨a25, e26, h27⟩ := h19
      obtain ⟨c28, h29⟩ := h27
      obtain ⟨c30, h31⟩ := h29
      refine z_iald C e26 c28 c30 dX3_hikerAt_41 ?_
      refine z_goto C 46 dX3_hikerAt_42 (by decide) ?_
      exact z_ireturn C rfl rfl dX3_hikerAt_46 h31
/-! HutRidgeModel.tellsOf(II)I -/
def Tr_X3_tellsOf (w : WT) (this : Nat) (x1 : Int32) (x2 : Int32) (μ : Mem) (mc ms : Nat) (K : Out → Mem → Prop) : Prop := Tr w yX3_tellsOf (ws_ yX3_tellsOf cX3_tellsOf 4 (Option.some Jvm.ClassFile.FieldType.int)) 3 83 [tR (some this), tI x1, tI x2] μ mc ms K
def Cx_X3_tellsOf (w : WT) (g : GT) : Prop := Cx w g yX3_tellsOf cX3_tellsOf 4 (Option.some Jvm.ClassFile.FieldType.int) [] 3 83
theorem yd_X3_tellsOf : yX3_tellsOf.cls ≠ "java/lang/invoke/MethodHandle" ∧ yX3_tellsOf.cls ≠ "java/lang/invoke/VarHandle" ∧ (parseMethodDescriptor yX3_tellsOf.desc).map (fun d => d.parameters.length) = some 2 := by decide +kernel
def B_X3_tellsOf_16 (w : WT) (g : GT) (K : Out → Mem → Prop) (mc ms : Nat) (this : Nat) (x2 : Int32) (x3 : Int32) (s0 : Int32) (s1 : Option Nat) (μ : Mem) (kc ks : Nat) : Prop := Z w g K mc ms 16 [(0, tR (some this)), (2, tI x2), (3, tI x3)] [tI s0, tR s1] μ kc ks
set_option maxHeartbeats 4000000 in
theorem tr_X3_tellsOf {w : WT} {this : Nat} {x1 : Int32} {x2 : Int32} {μ : Mem} {mc ms : Nat} {K : Out → Mem → Prop} (h : ∀ g : GT, Cx_X3_tellsOf w g → zM w μ → zC μ this = 18 ∧ Tr_X3_hiker w this x1 μ 0 0 (zKi (fun v3 μ4 => zM w μ4 → (0 ≤ v3 → B_X3_tellsOf_16 w g K mc ms this x2 v3 0 (some this) μ4 0 0) ∧ (¬ 0 ≤ v3 → B_X3_tellsOf_16 w g K mc ms this x2 v3 1 (some this) μ4 0 0)) (fun q5 μ6 => False))) : Tr_X3_tellsOf w this x1 x2 μ mc ms K := by
  refine Tr.of (by decide +kernel) (Nat.le_of_ble_eq_true rfl) (fun g C => ?_)
  show Z w g K mc ms 0 [(0, tR (some this)), (1, tI x1), (2, tI x2)] [] μ 0 0
  refine Z.wm fun m0 => ?_
  have h := h g C m0
  refine z_aload_n C dX3_tellsOf_0 0 rfl ?_
  refine z_iload_n C dX3_tellsOf_1 1 rfl ?_
  obtain ⟨c1, h2⟩ := h
  refine Z.kk fun c11 c12 => ?_
  have k10 := h2
  refine z_callV (as := [tI x1]) (rest := []) C k10 rfl rfl (by decide) c1 rfl q3776 q3778 qs74 q113 q3779 yd_X3_hiker (by decide) (Nat.le_of_ble_eq_true rfl) dX3_tellsOf_2 c11 c12 (zRet_i fun v3 μ4 h9 => ?_) (zThr_i fun _ _ z9 _ _ _ _ => z9.elim)
  · refine Z.wm fun m8 => ?_
    have h7 := h9 m8
    refine z_istore_n (lv' := [(3, tI v3), (0, tR (some this)), (1, tI x1), (2, tI x2)]) C dX3_tellsOf_5 (by decide) rfl ?_
    refine z_aload_n C dX3_tellsOf_6 1 rfl ?_
    refine z_iload_n C dX3_tellsOf_7 0 rfl ?_
    refine z_if_ge C 15 dX3_tellsOf_8 (by decide) (fun c15 => ?_) (fun c15 => ?_)
    · have h13 := h7.1 c15
      refine z_iconst (v := 0) C dX3_tellsOf_15 (by decide) ?_
      refine Z.sub [1, 3, 0] rfl ?_
      exact h13
    · have h14 := h7.2 c15
      refine z_iconst (v := 1) C dX3_tellsOf_11 (by decide) ?_
      refine z_goto C 16 dX3_tellsOf_12 (by decide) ?_
      refine Z.sub [1, 3, 0] rfl ?_
      exact h14
set_option maxHeartbeats 4000000 in
theorem bk_X3_tellsOf_16 {w : WT} {g : GT} {K : Out → Mem → Prop} {mc ms : Nat} {this : Nat} {x2 : Int32} {x3 : Int32} {s0 : Int32} {s1 : Option Nat} {μ : Mem} {kc ks : Nat} (C : Cx_X3_tellsOf w g) (h : zM w μ → ∃ a1 : Nat, s1 = some a1 ∧ zC μ a1 = 18 ∧ ∀ μ6 : Mem, μ6 = zsI μ 57 a1 s0 → zC μ6 this = 18 ∧ ((zI μ6 57 this) ≠ 0 → K (.inl (some (tI 0))) μ6) ∧ ((zI μ6 57 this) = 0 → Tr_X3_hiking w x3 x2 μ6 0 0 (zKi (fun v15 μ16 => zM w μ16 → ∃ a25 : Nat, (zR μ6 63 this) = some a25 ∧ zC μ16 a25 = 101 ∧ vp_in v15 (zN μ16 a25) ∧ K (.inl (some (tI (zA μ16 a25 v15.toNatClampNeg)))) μ16) (fun q17 μ18 => False)))) : B_X3_tellsOf_16 w g K mc ms this x2 x3 s0 s1 μ kc ks := by
  unfold Cx_X3_tellsOf at C
  unfold B_X3_tellsOf_16
  refine Z.wm fun m0 => ?_
  have h := h m0
  obtain ⟨a1, e2, h3⟩ := h
  obtain ⟨c4, h5⟩ := h3
  refine z_putI C e2 (zFpOf c4 (zp_X3_56_18 rfl)) (Or.inl (zFzOf c4 rfl)) rfl rfl dX3_tellsOf_16 ?_
  refine Z.mem fun μ6 e8 => ?_
  have h7 := h5 μ6 e8
  have c9 : zC μ6 a1 = 18 := by rw [e8]; exact c4
  refine z_aload_n C dX3_tellsOf_19 0 rfl ?_
  obtain ⟨c10, h11⟩ := h7
  refine z_getI C rfl (zFdOf c10 zf_X3_56_18) dX3_tellsOf_20 ?_
  refine z_if_ne C 39 dX3_tellsOf_23 (by decide) (fun c14 => ?_) (fun c14 => ?_)
  · have h12 := h11.1 c14
    refine z_iconst (v := 0) C dX3_tellsOf_39 (by decide) ?_
    exact z_ireturn C rfl rfl dX3_tellsOf_40 h12
  · have h13 := h11.2 c14
    refine z_aload_n C dX3_tellsOf_26 0 rfl ?_
    refine z_getR C rfl (zFdOf c10 zf_X3_16_18) dX3_tellsOf_27 ?_
    refine z_iload_n C dX3_tellsOf_30 2 rfl ?_
    refine z_iload_n C dX3_tellsOf_31 1 rfl ?_
    refine Z.kk fun c23 c24 => ?_
    have k22 := h13
    refine z_callS (as := [tI x3, tI x2]) (rest := [tR (zR μ6 63 this)]) C k22 rfl q3765 q3766 q113 q3767 yd_X3_hiking (by decide) (Nat.le_of_ble_eq_true rfl) dX3_tellsOf_32 c23 c24 (zRet_i fun v15 μ16 h21 => ?_) (zThr_i fun _ _ z9 _ _ _ _ => z9.elim)
    · refine Z.wm fun m20 => ?_
      have h19 := h21 m20
      obtain ⟨a25, e26, h27⟩ := h19
      obtain ⟨c28, h29⟩ := h27
      obtain ⟨c30, h31⟩ := h29
      refine z_iald C e26 c28 c30 dX3_tellsOf_35 ?_
      refine z_goto C 40 dX3_tellsOf_36 (by decide) ?_
      exact z_ireturn C rfl rfl dX3_tellsOf_40 h31
/-! HutRidgeModel.placeOf(I)I -/
def Tr_X3_placeOf (w : WT) (this : Nat) (x1 : Int32) (μ : Mem) (mc ms : Nat) (K : Out → Mem → Prop) : Prop := Tr w yX3_placeOf (ws_ yX3_placeOf cX3_placeOf 2 (Option.some Jvm.ClassFile.FieldType.int)) 4 106 [tR (some this), tI x1] μ mc ms K
def Cx_X3_placeOf (w : WT) (g : GT) : Prop := Cx w g yX3_placeOf cX3_placeOf 2 (Option.some Jvm.ClassFile.FieldType.int) [] 4 106
theorem yd_X3_placeOf : yX3_placeOf.cls ≠ "java/lang/invoke/MethodHandle" ∧ yX3_placeOf.cls ≠ "java/lang/invoke/VarHandle" ∧ (parseMethodDescriptor yX3_placeOf.desc).map (fun d => d.parameters.length) = some 1 := by decide +kernel
set_option maxHeartbeats 4000000 in
theorem tr_X3_placeOf {w : WT} {this : Nat} {x1 : Int32} {μ : Mem} {mc ms : Nat} {K : Out → Mem → Prop} (h : zM w μ → zC μ this = 18 ∧ Tr_X3_tellsOf w this x1 1 μ 0 0 (zKi (fun v3 μ4 => zM w μ4 → K (.inl (some (tI v3))) μ4) (fun q5 μ6 => False))) : Tr_X3_placeOf w this x1 μ mc ms K := by
  refine Tr.of (by decide +kernel) (Nat.le_of_ble_eq_true rfl) (fun g C => ?_)
  show Z w g K mc ms 0 [(0, tR (some this)), (1, tI x1)] [] μ 0 0
  refine Z.wm fun m0 => ?_
  have h := h m0
  refine z_aload_n C dX3_placeOf_0 0 rfl ?_
  refine z_iload_n C dX3_placeOf_1 1 rfl ?_
  refine z_iconst (v := 1) C dX3_placeOf_2 (by decide) ?_
  obtain ⟨c1, h2⟩ := h
  refine Z.kk fun c11 c12 => ?_
  have k10 := h2
  refine z_callV (as := [tI x1, tI 1]) (rest := []) C k10 rfl rfl (by decide) c1 rfl q3922 q3924 qs85 q113 q3925 yd_X3_tellsOf (by decide) (Nat.le_of_ble_eq_true rfl) dX3_placeOf_3 c11 c12 (zRet_i fun v3 μ4 h9 => ?_) (zThr_i fun _ _ z9 _ _ _ _ => z9.elim)
  · refine Z.wm fun m8 => ?_
    have h7 := h9 m8
    exact z_ireturn C rfl rfl dX3_placeOf_6 h7
/-! HutRidgeModel.seniorityOf(I)I -/
def Tr_X3_seniorityOf (w : WT) (this : Nat) (x1 : Int32) (μ : Mem) (mc ms : Nat) (K : Out → Mem → Prop) : Prop := Tr w yX3_seniorityOf (ws_ yX3_seniorityOf cX3_seniorityOf 2 (Option.some Jvm.ClassFile.FieldType.int)) 4 106 [tR (some this), tI x1] μ mc ms K
def Cx_X3_seniorityOf (w : WT) (g : GT) : Prop := Cx w g yX3_seniorityOf cX3_seniorityOf 2 (Option.some Jvm.ClassFile.FieldType.int) [] 4 106
theorem yd_X3_seniorityOf : yX3_seniorityOf.cls ≠ "java/lang/invoke/MethodHandle" ∧ yX3_seniorityOf.cls ≠ "java/lang/invoke/VarHandle" ∧ (parseMethodDescriptor yX3_seniorityOf.desc).map (fun d => d.parameters.length) = some 1 := by decide +kernel
set_option maxHeartbeats 4000000 in
theorem tr_X3_seniorityOf {w : WT} {this : Nat} {x1 : Int32} {μ : Mem} {mc ms : Nat} {K : Out → Mem → Prop} (h : zM w μ → zC μ this = 18 ∧ Tr_X3_tellsOf w this x1 (nI 2) μ 0 0 (zKi (fun v3 μ4 => zM w μ4 → K (.inl (some (tI v3))) μ4) (fun q5 μ6 => False))) : Tr_X3_seniorityOf w this x1 μ mc ms K := by
  refine Tr.of (by decide +kernel) (Nat.le_of_ble_eq_true rfl) (fun g C => ?_)
  show Z w g K mc ms 0 [(0, tR (some this)), (1, tI x1)] [] μ 0 0
  refine Z.wm fun m0 => ?_
  have h := h m0
  refine z_aload_n C dX3_seniorityOf_0 0 rfl ?_
  refine z_iload_n C dX3_seniorityOf_1 1 rfl ?_
  refine z_iconst (v := (nI 2)) C dX3_seniorityOf_2 (by decide) ?_
  obtain ⟨c1, h2⟩ := h
  refine Z.kk fun c11 c12 => ?_
  have k10 := h2
  refine z_callV (as := [tI x1, tI (nI 2)]) (rest := []) C k10 rfl rfl (by decide) c1 rfl q3922 q3924 qs85 q113 q3925 yd_X3_tellsOf (by decide) (Nat.le_of_ble_eq_true rfl) dX3_seniorityOf_3 c11 c12 (zRet_i fun v3 μ4 h9 => ?_) (zThr_i fun _ _ z9 _ _ _ _ => z9.elim)
  · refine Z.wm fun m8 => ?_
    have h7 := h9 m8
    exact z_ireturn C rfl rfl dX3_seniorityOf_6 h7
/-! HutRidgeModel.ranked(I)I -/
def Tr_X3_ranked (w : WT) (this : Nat) (x1 : Int32) (μ : Mem) (mc ms : Nat) (K : Out → Mem → Prop) : Prop := Tr w yX3_ranked (ws_ yX3_ranked cX3_ranked 5 (Option.some Jvm.ClassFile.FieldType.int)) 2 61 [tR (some this), tI x1] μ mc ms K
def Cx_X3_ranked (w : WT) (g : GT) : Prop := Cx w g yX3_ranked cX3_ranked 5 (Option.some Jvm.ClassFile.FieldType.int) [] 2 61
theorem yd_X3_ranked : yX3_ranked.cls ≠ "java/lang/invoke/MethodHandle" ∧ yX3_ranked.cls ≠ "java/lang/invoke/VarHandle" ∧ (parseMethodDescriptor yX3_ranked.desc).map (fun d => d.parameters.length) = some 1 := by decide +kernel
def B_X3_ranked_2 (w : WT) (g : GT) (K : Out → Mem → Prop) (mc ms : Nat) (this : Nat) (x1 : Int32) (x2 : Int32)  (μ : Mem) (kc ks : Nat) : Prop := Z w g K mc ms 2 [(0, tR (some this)), (1, tI x1), (2, tI x2)] [] μ kc ks
def B_X3_ranked_17 (w : WT) (g : GT) (K : Out → Mem → Prop) (mc ms : Nat) (this : Nat) (x1 : Int32) (x2 : Int32) (x3 : Int32) (x4 : Int32)  (μ : Mem) (kc ks : Nat) : Prop := Z w g K mc ms 17 [(0, tR (some this)), (1, tI x1), (2, tI x2), (3, tI x3), (4, tI x4)] [] μ kc ks
set_option maxHeartbeats 4000000 in
theorem tr_X3_ranked {w : WT} {this : Nat} {x1 : Int32} {μ : Mem} {mc ms : Nat} {K : Out → Mem → Prop} (h : ∀ g : GT, Cx_X3_ranked w g → zM w μ → B_X3_ranked_2 w g K mc ms this x1 0 μ 0 0) : Tr_X3_ranked w this x1 μ mc ms K := by
  refine Tr.of (by decide +kernel) (Nat.le_of_ble_eq_true rfl) (fun g C => ?_)
  show Z w g K mc ms 0 [(0, tR (some this)), (1, tI x1)] [] μ 0 0
  refine Z.wm fun m0 => ?_
  have h := h g C m0
  refine z_iconst (v := 0) C dX3_ranked_0 (by decide) ?_
  refine z_istore_n (lv' := [(2, tI 0), (0, tR (some this)), (1, tI x1)]) C dX3_ranked_1 (by decide) rfl ?_
  refine Z.sub [1, 2, 0] rfl ?_
  exact h
set_option maxHeartbeats 4000000 in
theorem bk_X3_ranked_2 {w : WT} {g : GT} {K : Out → Mem → Prop} {mc ms : Nat} {this : Nat} {x1 : Int32} {x2 : Int32}  {μ : Mem} {kc ks : Nat} (C : Cx_X3_ranked w g) (h : zM w μ → zC μ this = 18 ∧ ∃ a3 : Nat, (zR μ 63 this) = some a3 ∧ zC μ a3 = 101 ∧ vp_in (nI 3) (zN μ a3) ∧ ((zA μ a3 3) ≤ x2 → K (.inl (some (tI (-1 : Int32)))) μ) ∧ (¬ (zA μ a3 3) ≤ x2 → B_X3_ranked_17 w g K mc ms this x1 x2 0 0 μ kc ks)) : B_X3_ranked_2 w g K mc ms this x1 x2 μ kc ks := by
  unfold Cx_X3_ranked at C
  unfold B_X3_ranked_2
  refine Z.wm fun m0 => ?_
  have h := h m0
  refine z_iload_n C dX3_ranked_2 2 rfl ?_
  refine z_aload_n C dX3_ranked_3 0 rfl ?_
  obtain ⟨c1, h2⟩ := h
  refine z_getR C rfl (zFdOf c1 zf_X3_16_18) dX3_ranked_4 ?_
  refine z_iconst (v := (nI 3)) C dX3_ranked_7 (by decide) ?_
  obtain ⟨a3, e4, h5⟩ := h2
  obtain ⟨c6, h7⟩ := h5
  obtain ⟨c8, h9⟩ := h7
  refine z_iald C e4 c6 c8 dX3_ranked_8 ?_
  refine z_icmp_ge C 109 dX3_ranked_9 (by decide) (fun c12 => ?_) (fun c12 => ?_)
  · have h10 := h9.1 c12
    refine z_iconst (v := (-1 : Int32)) C dX3_ranked_109 (by decide) ?_
    exact z_ireturn C rfl rfl dX3_ranked_110 h10
  · have h11 := h9.2 c12
    refine z_iconst (v := 0) C dX3_ranked_12 (by decide) ?_
    refine z_istore_n (lv' := [(3, tI 0), (0, tR (some this)), (1, tI x1), (2, tI x2)]) C dX3_ranked_13 (by decide) rfl ?_
    refine z_iconst (v := 0) C dX3_ranked_14 (by decide) ?_
    refine z_istore (lv' := [(4, tI 0), (3, tI 0), (0, tR (some this)), (1, tI x1), (2, tI x2)]) C dX3_ranked_15 (by decide) rfl ?_
    refine Z.sub [2, 3, 4, 1, 0] rfl ?_
    exact h11
set_option maxHeartbeats 4000000 in
theorem bk_X3_ranked_17 {w : WT} {g : GT} {K : Out → Mem → Prop} {mc ms : Nat} {this : Nat} {x1 : Int32} {x2 : Int32} {x3 : Int32} {x4 : Int32}  {μ : Mem} {kc ks : Nat} (C : Cx_X3_ranked w g) (h : zM w μ → zC μ this = 18 ∧ ∃ a3 : Nat, (zR μ 63 this) = some a3 ∧ zC μ a3 = 101 ∧ vp_in (nI 3) (zN μ a3) ∧ ((zA μ a3 3) ≤ x4 → (x3 ≠ x1 → B_X3_ranked_2 w g K mc ms this x1 (x2 + 1) μ kc ks) ∧ (x3 = x1 → K (.inl (some (tI x2))) μ)) ∧ (¬ (zA μ a3 3) ≤ x4 → Tr_X3_hiking w x4 (nI 2) μ 0 0 (zKi (fun v16 μ17 => zM w μ17 → zC μ17 a3 = 101 ∧ vp_in v16 (zN μ17 a3) ∧ zC μ17 this = 18 ∧ Tr_X3_hiking w x2 (nI 2) μ17 0 0 (zKi (fun v32 μ33 => zM w μ33 → ∃ a42 : Nat, (zR μ17 63 this) = some a42 ∧ zC μ33 a42 = 101 ∧ vp_in v32 (zN μ33 a42) ∧ ((zA μ33 a42 v32.toNatClampNeg) < (zA μ17 a3 v16.toNatClampNeg) → B_X3_ranked_17 w g K mc ms this x1 x2 (x3 + (1 : Int32)) (x4 + 1) μ33 kc ks) ∧ (¬ (zA μ33 a42 v32.toNatClampNeg) < (zA μ17 a3 v16.toNatClampNeg) → zC μ33 this = 18 ∧ Tr_X3_hiking w x4 (nI 2) μ33 0 0 (zKi (fun v54 μ55 => zM w μ55 → ∃ a64 : Nat, (zR μ33 63 this) = some a64 ∧ zC μ55 a64 = 101 ∧ vp_in v54 (zN μ55 a64) ∧ zC μ55 this = 18 ∧ Tr_X3_hiking w x2 (nI 2) μ55 0 0 (zKi (fun v73 μ74 => zM w μ74 → ∃ a83 : Nat, (zR μ55 63 this) = some a83 ∧ zC μ74 a83 = 101 ∧ vp_in v73 (zN μ74 a83) ∧ ((zA μ55 a64 v54.toNatClampNeg) ≠ (zA μ74 a83 v73.toNatClampNeg) → B_X3_ranked_17 w g K mc ms this x1 x2 (x3 + (0 : Int32)) (x4 + 1) μ74 kc ks) ∧ ((zA μ55 a64 v54.toNatClampNeg) = (zA μ74 a83 v73.toNatClampNeg) → (x2 ≤ x4 → B_X3_ranked_17 w g K mc ms this x1 x2 (x3 + (0 : Int32)) (x4 + 1) μ74 kc ks) ∧ (¬ x2 ≤ x4 → B_X3_ranked_17 w g K mc ms this x1 x2 (x3 + (1 : Int32)) (x4 + 1) μ74 kc ks))) (fun q75 μ76 => False))) (fun q56 μ57 => False)))) (fun q34 μ35 => False))) (fun q18 μ19 => False)))) : B_X3_ranked_17 w g K mc ms this x1 x2 x3 x4 μ kc ks := by
  unfold Cx_X3_ranked at C
  unfold B_X3_ranked_17
  refine Z.wm fun m0 => ?_
  have h := h m0
  refine z_iload C dX3_ranked_17 4 rfl ?_
  refine z_aload_n C dX3_ranked_19 0 rfl ?_
  obtain ⟨c1, h2⟩ := h
  refine z_getR C rfl (zFdOf c1 zf_X3_16_18) dX3_ranked_20 ?_
  refine z_iconst (v := (nI 3)) C dX3_ranked_23 (by decide) ?_
  obtain ⟨a3, e4, h5⟩ := h2
  obtain ⟨c6, h7⟩ := h5
  obtain ⟨c8, h9⟩ := h7
  refine z_iald C e4 c6 c8 dX3_ranked_24 ?_
  refine z_icmp_ge C 96 dX3_ranked_25 (by decide) (fun c12 => ?_) (fun c12 => ?_)
  · have h10 := h9.1 c12
    refine z_iload_n C dX3_ranked_96 3 rfl ?_
    refine z_iload_n C dX3_ranked_97 1 rfl ?_
    refine z_icmp_ne C 103 dX3_ranked_98 (by decide) (fun c15 => ?_) (fun c15 => ?_)
    · have h13 := h10.1 c15
      refine z_iinc (k0 := 2) (v := x2 + 1) (lv' := [(2, tI (x2 + 1)), (0, tR (some this)), (1, tI x1), (3, tI x3), (4, tI x4)]) C dX3_ranked_103 rfl (by first | rfl | decide) (by decide) rfl ?_
      refine z_goto C 2 dX3_ranked_106 (by decide) ?_
      refine Z.sub [1, 2, 0] rfl ?_
      exact h13
    · have h14 := h10.2 c15
      refine z_iload_n C dX3_ranked_101 2 rfl ?_
      exact z_ireturn C rfl rfl dX3_ranked_102 h14
  · have h11 := h9.2 c12
    refine z_iload_n C dX3_ranked_28 3 rfl ?_
    refine z_aload_n C dX3_ranked_29 0 rfl ?_
    refine z_getR C rfl (zFdOf c1 zf_X3_16_18) dX3_ranked_30 ?_
    refine z_iload C dX3_ranked_33 4 rfl ?_
    refine z_iconst (v := (nI 2)) C dX3_ranked_35 (by decide) ?_
    refine Z.kk fun c24 c25 => ?_
    have k23 := h11
    refine z_callS (as := [tI x4, tI (nI 2)]) (rest := [tR (zR μ 63 this), tI x3]) C k23 rfl q3765 q3766 q113 q3767 yd_X3_hiking (by decide) (Nat.le_of_ble_eq_true rfl) dX3_ranked_36 c24 c25 (zRet_i fun v16 μ17 h22 => ?_) (zThr_i fun _ _ z9 _ _ _ _ => z9.elim)
    · refine Z.wm fun m21 => ?_
      have h20 := h22 m21
      obtain ⟨c26, h27⟩ := h20
      obtain ⟨c28, h29⟩ := h27
      refine z_iald C e4 c26 c28 dX3_ranked_39 ?_
      refine z_aload_n C dX3_ranked_40 0 rfl ?_
      obtain ⟨c30, h31⟩ := h29
      refine z_getR C rfl (zFdOf c30 zf_X3_16_18) dX3_ranked_41 ?_
      refine z_iload_n C dX3_ranked_44 2 rfl ?_
      refine z_iconst (v := (nI 2)) C dX3_ranked_45 (by decide) ?_
      refine Z.kk fun c40 c41 => ?_
      have k39 := h31
      refine z_callS (as := [tI x2, tI (nI 2)]) (rest := [tR (zR μ17 63 this), tI (zA μ17 a3 v16.toNatClampNeg), tI x3]) C k39 rfl q3765 q3766 q113 q3767 yd_X3_hiking (by decide) (Nat.le_of_ble_eq_true rfl) dX3_ranked_46 c40 c41 (zRet_i fun v32 μ33 h38 => ?_) (zThr_i fun _ _ z9 _ _ _ _ => z9.elim)
      · refine Z.wm fun m37 => ?_
        have h36 := h38 m37
        obtain ⟨a42, e43, h44⟩ := h36
        obtain ⟨c45, h46⟩ := h44
        obtain ⟨c47, h48⟩ := h46
        refine z_iald C e43 c45 c47 dX3_ranked_49 ?_
        refine z_icmp_gt C 83 dX3_ranked_50 (by decide) (fun c51 => ?_) (fun c51 => ?_)
        · have h49 := h48.1 c51
          refine z_iconst (v := 1) C dX3_ranked_83 (by decide) ?_
          refine z_goto C 88 dX3_ranked_84 (by decide) ?_
          refine z_iadd C dX3_ranked_88 ?_
          refine z_istore_n (lv' := [(3, tI (x3 + (1 : Int32))), (0, tR (some this)), (1, tI x1), (2, tI x2), (4, tI x4)]) C dX3_ranked_89 (by decide) rfl ?_
          refine z_iinc (k0 := 4) (v := x4 + 1) (lv' := [(4, tI (x4 + 1)), (3, tI (x3 + (1 : Int32))), (0, tR (some this)), (1, tI x1), (2, tI x2)]) C dX3_ranked_90 rfl (by first | rfl | decide) (by decide) rfl ?_
          refine z_goto C 17 dX3_ranked_93 (by decide) ?_
          refine Z.sub [2, 3, 4, 1, 0] rfl ?_
          exact h49
        · have h50 := h48.2 c51
          refine z_aload_n C dX3_ranked_53 0 rfl ?_
          obtain ⟨c52, h53⟩ := h50
          refine z_getR C rfl (zFdOf c52 zf_X3_16_18) dX3_ranked_54 ?_
          refine z_iload C dX3_ranked_57 4 rfl ?_
          refine z_iconst (v := (nI 2)) C dX3_ranked_59 (by decide) ?_
          refine Z.kk fun c62 c63 => ?_
          have k61 := h53
          refine z_callS (as := [tI x4, tI (nI 2)]) (rest := [tR (zR μ33 63 this), tI x3]) C k61 rfl q3765 q3766 q113 q3767 yd_X3_hiking (by decide) (Nat.le_of_ble_eq_true rfl) dX3_ranked_60 c62 c63 (zRet_i fun v54 μ55 h60 => ?_) (zThr_i fun _ _ z9 _ _ _ _ => z9.elim)
          · refine Z.wm fun m59 => ?_
            have h58 := h60 m59
            obtain ⟨a64, e65, h66⟩ := h58
            obtain ⟨c67, h68⟩ := h66
            obtain ⟨c69, h70⟩ := h68
            refine z_iald C e65 c67 c69 dX3_ranked_63 ?_
            refine z_aload_n C dX3_ranked_64 0 rfl ?_
            obtain ⟨c71, h72⟩ := h70
            refine z_getR C rfl (zFdOf c71 zf_X3_16_18) dX3_ranked_65 ?_
            refine z_iload_n C dX3_ranked_68 2 rfl ?_
            refine z_iconst (v := (nI 2)) C dX3_ranked_69 (by decide) ?_
            refine Z.kk fun c81 c82 => ?_
            have k80 := h72
            refine z_callS (as := [tI x2, tI (nI 2)]) (rest := [tR (zR μ55 63 this), tI (zA μ55 a64 v54.toNatClampNeg), tI x3]) C k80 rfl q3765 q3766 q113 q3767 yd_X3_hiking (by decide) (Nat.le_of_ble_eq_true rfl) dX3_ranked_70 c81 c82 (zRet_i fun v73 μ74 h79 => ?_) (zThr_i fun _ _ z9 _ _ _ _ => z9.elim)
            · refine Z.wm fun m78 => ?_
              have h77 := h79 m78
              obtain ⟨a83, e84, h85⟩ := h77
              obtain ⟨c86, h87⟩ := h85
              obtain ⟨c88, h89⟩ := h87
              refine z_iald C e84 c86 c88 dX3_ranked_73 ?_
              refine z_icmp_ne C 87 dX3_ranked_74 (by decide) (fun c92 => ?_) (fun c92 => ?_)
              · have h90 := h89.1 c92
                refine z_iconst (v := 0) C dX3_ranked_87 (by decide) ?_
                refine z_iadd C dX3_ranked_88 ?_
                refine z_istore_n (lv' := [(3, tI (x3 + (0 : Int32))), (0, tR (some this)), (1, tI x1), (2, tI x2), (4, tI x4)]) C dX3_ranked_89 (by decide) rfl ?_
                refine z_iinc (k0 := 4) (v := x4 + 1) (lv' := [(4, tI (x4 + 1)), (3, tI (x3 + (0 : Int32))), (0, tR (some this)), (1, tI x1), (2, tI x2)]) C dX3_ranked_90 rfl (by first | rfl | decide) (by decide) rfl ?_
                refine z_goto C 17 dX3_ranked_93 (by decide) ?_
                refine Z.sub [2, 3, 4, 1, 0] rfl ?_
                exact h90
              · have h91 := h89.2 c92
                refine z_iload C dX3_ranked_77 4 rfl ?_
                refine z_iload_n C dX3_ranked_79 2 rfl ?_
                refine z_icmp_ge C 87 dX3_ranked_80 (by decide) (fun c95 => ?_) (fun c95 => ?_)
                · have h93 := h91.1 c95
                  refine z_iconst (v := 0) C dX3_ranked_87 (by decide) ?_
                  refine z_iadd C dX3_ranked_88 ?_
                  refine z_istore_n (lv' := [(3, tI (x3 + (0 : Int32))), (0, tR (some this)), (1, tI x1), (2, tI x2), (4, tI x4)]) C dX3_ranked_89 (by decide) rfl ?_
                  refine z_iinc (k0 := 4) (v := x4 + 1) (lv' := [(4, tI (x4 + 1)), (3, tI (x3 + (0 : Int32))), (0, tR (some this)), (1, tI x1), (2, tI x2)]) C dX3_ranked_90 rfl (by first | rfl | decide) (by decide) rfl ?_
                  refine z_goto C 17 dX3_ranked_93 (by decide) ?_
                  refine Z.sub [2, 3, 4, 1, 0] rfl ?_
                  exact h93
                · have h94 := h91.2 c95
                  refine z_iconst (v := 1) C dX3_ranked_83 (by decide) ?_
                  refine z_goto C 88 dX3_ranked_84 (by decide) ?_
                  refine z_iadd C dX3_ranked_88 ?_
                  refine z_istore_n (lv' := [(3, tI (x3 + (1 : Int32))), (0, tR (some this)), (1, tI x1), (2, tI x2), (4, tI x4)]) C dX3_ranked_89 (by decide) rfl ?_
                  refine z_iinc (k0 := 4) (v := x4 + 1) (lv' := [(4, tI (x4 + 1)), (3, tI (x3 + (1 : Int32))), (0, tR (some this)), (1, tI x1), (2, tI x2)]) C dX3_ranked_90 rfl (by first | rfl | decide) (by decide) rfl ?_
                  refine z_goto C 17 dX3_ranked_93 (by decide) ?_
                  refine Z.sub [2, 3, 4, 1, 0] rfl ?_
                  exact h94
/-! HutRidgeModel.hikerByRank(I)I -/
def Tr_X3_hikerByRank (w : WT) (this : Nat) (x1 : Int32) (μ : Mem) (mc ms : Nat) (K : Out → Mem → Prop) : Prop := Tr w yX3_hikerByRank (ws_ yX3_hikerByRank cX3_hikerByRank 3 (Option.some Jvm.ClassFile.FieldType.int)) 3 85 [tR (some this), tI x1] μ mc ms K
def Cx_X3_hikerByRank (w : WT) (g : GT) : Prop := Cx w g yX3_hikerByRank cX3_hikerByRank 3 (Option.some Jvm.ClassFile.FieldType.int) [] 3 85
theorem yd_X3_hikerByRank : yX3_hikerByRank.cls ≠ "java/lang/invoke/MethodHandle" ∧ yX3_hikerByRank.cls ≠ "java/lang/invoke/VarHandle" ∧ (parseMethodDescriptor yX3_hikerByRank.desc).map (fun d => d.parameters.length) = some 1 := by decide +kernel
def B_X3_hikerByRank_16 (w : WT) (g : GT) (K : Out → Mem → Prop) (mc ms : Nat) (this : Nat) (x2 : Int32) (s0 : Int32) (s1 : Option Nat) (μ : Mem) (kc ks : Nat) : Prop := Z w g K mc ms 16 [(0, tR (some this)), (2, tI x2)] [tI s0, tR s1] μ kc ks
set_option maxHeartbeats 4000000 in
theorem tr_X3_hikerByRank {w : WT} {this : Nat} {x1 : Int32} {μ : Mem} {mc ms : Nat} {K : Out → Mem → Prop} (h : ∀ g : GT, Cx_X3_hikerByRank w g → zM w μ → zC μ this = 18 ∧ Tr_X3_ranked w this x1 μ 0 0 (zKi (fun v3 μ4 => zM w μ4 → (0 ≤ v3 → B_X3_hikerByRank_16 w g K mc ms this v3 0 (some this) μ4 0 0) ∧ (¬ 0 ≤ v3 → B_X3_hikerByRank_16 w g K mc ms this v3 1 (some this) μ4 0 0)) (fun q5 μ6 => False))) : Tr_X3_hikerByRank w this x1 μ mc ms K := by
  refine Tr.of (by decide +kernel) (Nat.le_of_ble_eq_true rfl) (fun g C => ?_)
  show Z w g K mc ms 0 [(0, tR (some this)), (1, tI x1)] [] μ 0 0
  refine Z.wm fun m0 => ?_
  have h := h g C m0
  refine z_aload_n C dX3_hikerByRank_0 0 rfl ?_
  refine z_iload_n C dX3_hikerByRank_1 1 rfl ?_
  obtain ⟨c1, h2⟩ := h
  refine Z.kk fun c11 c12 => ?_
  have k10 := h2
  refine z_callV (as := [tI x1]) (rest := []) C k10 rfl rfl (by decide) c1 rfl q3934 q3936 qs86 q113 q3937 yd_X3_ranked (by decide) (Nat.le_of_ble_eq_true rfl) dX3_hikerByRank_2 c11 c12 (zRet_i fun v3 μ4 h9 => ?_) (zThr_i fun _ _ z9 _ _ _ _ => z9.elim)
  · refine Z.wm fun m8 => ?_
    have h7 := h9 m8
    refine z_istore_n (lv' := [(2, tI v3), (0, tR (some this)), (1, tI x1)]) C dX3_hikerByRank_5 (by decide) rfl ?_
    refine z_aload_n C dX3_hikerByRank_6 1 rfl ?_
    refine z_iload_n C dX3_hikerByRank_7 0 rfl ?_
    refine z_if_ge C 15 dX3_hikerByRank_8 (by decide) (fun c15 => ?_) (fun c15 => ?_)
    · have h13 := h7.1 c15
      refine z_iconst (v := 0) C dX3_hikerByRank_15 (by decide) ?_
      refine Z.sub [1, 0] rfl ?_
      exact h13
    · have h14 := h7.2 c15
      refine z_iconst (v := 1) C dX3_hikerByRank_11 (by decide) ?_
      refine z_goto C 16 dX3_hikerByRank_12 (by decide) ?_
      refine Z.sub [1, 0] rfl ?_
      exact h14
set_option maxHeartbeats 4000000 in
theorem bk_X3_hikerByRank_16 {w : WT} {g : GT} {K : Out → Mem → Prop} {mc ms : Nat} {this : Nat} {x2 : Int32} {s0 : Int32} {s1 : Option Nat} {μ : Mem} {kc ks : Nat} (C : Cx_X3_hikerByRank w g) (h : zM w μ → ∃ a1 : Nat, s1 = some a1 ∧ zC μ a1 = 18 ∧ ∀ μ6 : Mem, μ6 = zsI μ 57 a1 s0 → zC μ6 this = 18 ∧ ((zI μ6 57 this) ≠ 0 → K (.inl (some (tI 0))) μ6) ∧ ((zI μ6 57 this) = 0 → Tr_X3_hiking w x2 0 μ6 0 0 (zKi (fun v15 μ16 => zM w μ16 → ∃ a25 : Nat, (zR μ6 63 this) = some a25 ∧ zC μ16 a25 = 101 ∧ vp_in v15 (zN μ16 a25) ∧ K (.inl (some (tI (zA μ16 a25 v15.toNatClampNeg)))) μ16) (fun q17 μ18 => False)))) : B_X3_hikerByRank_16 w g K mc ms this x2 s0 s1 μ kc ks := by
  unfold Cx_X3_hikerByRank at C
  unfold B_X3_hikerByRank_16
  refine Z.wm fun m0 => ?_
  have h := h m0
  obtain ⟨a1, e2, h3⟩ := h
  obtain ⟨c4, h5⟩ := h3
  refine z_putI C e2 (zFpOf c4 (zp_X3_56_18 rfl)) (Or.inl (zFzOf c4 rfl)) rfl rfl dX3_hikerByRank_16 ?_
  refine Z.mem fun μ6 e8 => ?_
  have h7 := h5 μ6 e8
  have c9 : zC μ6 a1 = 18 := by rw [e8]; exact c4
  refine z_aload_n C dX3_hikerByRank_19 0 rfl ?_
  obtain ⟨c10, h11⟩ := h7
  refine z_getI C rfl (zFdOf c10 zf_X3_56_18) dX3_hikerByRank_20 ?_
  refine z_if_ne C 39 dX3_hikerByRank_23 (by decide) (fun c14 => ?_) (fun c14 => ?_)
  · have h12 := h11.1 c14
    refine z_iconst (v := 0) C dX3_hikerByRank_39 (by decide) ?_
    exact z_ireturn C rfl rfl dX3_hikerByRank_40 h12
  · have h13 := h11.2 c14
    refine z_aload_n C dX3_hikerByRank_26 0 rfl ?_
    refine z_getR C rfl (zFdOf c10 zf_X3_16_18) dX3_hikerByRank_27 ?_
    refine z_iload_n C dX3_hikerByRank_30 1 rfl ?_
    refine z_iconst (v := 0) C dX3_hikerByRank_31 (by decide) ?_
    refine Z.kk fun c23 c24 => ?_
    have k22 := h13
    refine z_callS (as := [tI x2, tI 0]) (rest := [tR (zR μ6 63 this)]) C k22 rfl q3765 q3766 q113 q3767 yd_X3_hiking (by decide) (Nat.le_of_ble_eq_true rfl) dX3_hikerByRank_32 c23 c24 (zRet_i fun v15 μ16 h21 => ?_) (zThr_i fun _ _ z9 _ _ _ _ => z9.elim)
    · refine Z.wm fun m20 => ?_
      have h19 := h21 m20
      obtain ⟨a25, e26, h27⟩ := h19
      obtain ⟨c28, h29⟩ := h27
      obtain ⟨c30, h31⟩ := h29
      refine z_iald C e26 c28 c30 dX3_hikerByRank_35 ?_
      refine z_goto C 40 dX3_hikerByRank_36 (by decide) ?_
      exact z_ireturn C rfl rfl dX3_hikerByRank_40 h31
/-! HutRidgeModel.apart(II)I -/
def Tr_X3_apart (w : WT) (this : Nat) (x1 : Int32) (x2 : Int32) (μ : Mem) (mc ms : Nat) (K : Out → Mem → Prop) : Prop := Tr w yX3_apart (ws_ yX3_apart cX3_apart 4 (Option.some Jvm.ClassFile.FieldType.int)) 3 82 [tR (some this), tI x1, tI x2] μ mc ms K
def Cx_X3_apart (w : WT) (g : GT) : Prop := Cx w g yX3_apart cX3_apart 4 (Option.some Jvm.ClassFile.FieldType.int) [] 3 82
theorem yd_X3_apart : yX3_apart.cls ≠ "java/lang/invoke/MethodHandle" ∧ yX3_apart.cls ≠ "java/lang/invoke/VarHandle" ∧ (parseMethodDescriptor yX3_apart.desc).map (fun d => d.parameters.length) = some 2 := by decide +kernel
set_option maxHeartbeats 4000000 in
theorem tr_X3_apart {w : WT} {this : Nat} {x1 : Int32} {x2 : Int32} {μ : Mem} {mc ms : Nat} {K : Out → Mem → Prop} (h : zM w μ → zC μ this = 18 ∧ Tr_X3_hiking w x1 1 μ 0 0 (zKi (fun v3 μ4 => zM w μ4 → ∃ a13 : Nat, (zR μ 63 this) = some a13 ∧ zC μ4 a13 = 101 ∧ vp_in v3 (zN μ4 a13) ∧ zC μ4 this = 18 ∧ Tr_X3_at w this x2 μ4 0 0 (zKi (fun v22 μ23 => zM w μ23 → (0 ≤ ((zA μ4 a13 v3.toNatClampNeg) - v22) → K (.inl (some (tI ((zA μ4 a13 v3.toNatClampNeg) - v22)))) μ23) ∧ (¬ 0 ≤ ((zA μ4 a13 v3.toNatClampNeg) - v22) → K (.inl (some (tI (-((zA μ4 a13 v3.toNatClampNeg) - v22))))) μ23)) (fun q24 μ25 => False))) (fun q5 μ6 => False))) : Tr_X3_apart w this x1 x2 μ mc ms K := by
  refine Tr.of (by decide +kernel) (Nat.le_of_ble_eq_true rfl) (fun g C => ?_)
  show Z w g K mc ms 0 [(0, tR (some this)), (1, tI x1), (2, tI x2)] [] μ 0 0
  refine Z.wm fun m0 => ?_
  have h := h m0
  refine z_aload_n C dX3_apart_0 0 rfl ?_
  obtain ⟨c1, h2⟩ := h
  refine z_getR C rfl (zFdOf c1 zf_X3_16_18) dX3_apart_1 ?_
  refine z_iload_n C dX3_apart_4 1 rfl ?_
  refine z_iconst (v := 1) C dX3_apart_5 (by decide) ?_
  refine Z.kk fun c11 c12 => ?_
  have k10 := h2
  refine z_callS (as := [tI x1, tI 1]) (rest := [tR (zR μ 63 this)]) C k10 rfl q3765 q3766 q113 q3767 yd_X3_hiking (by decide) (Nat.le_of_ble_eq_true rfl) dX3_apart_6 c11 c12 (zRet_i fun v3 μ4 h9 => ?_) (zThr_i fun _ _ z9 _ _ _ _ => z9.elim)
  · refine Z.wm fun m8 => ?_
    have h7 := h9 m8
    obtain ⟨a13, e14, h15⟩ := h7
    obtain ⟨c16, h17⟩ := h15
    obtain ⟨c18, h19⟩ := h17
    refine z_iald C e14 c16 c18 dX3_apart_9 ?_
    refine z_aload_n C dX3_apart_10 0 rfl ?_
    refine z_iload_n C dX3_apart_11 2 rfl ?_
    obtain ⟨c20, h21⟩ := h19
    refine Z.kk fun c30 c31 => ?_
    have k29 := h21
    refine z_callV (as := [tI x2]) (rest := [tI (zA μ4 a13 v3.toNatClampNeg)]) C k29 rfl rfl (by decide) c20 rfl q3706 q3708 qs64 q113 q3709 yd_X3_at (by decide) (Nat.le_of_ble_eq_true rfl) dX3_apart_12 c30 c31 (zRet_i fun v22 μ23 h28 => ?_) (zThr_i fun _ _ z9 _ _ _ _ => z9.elim)
    · refine Z.wm fun m27 => ?_
      have h26 := h28 m27
      refine z_isub C dX3_apart_15 ?_
      refine z_istore_n (lv' := [(3, tI ((zA μ4 a13 v3.toNatClampNeg) - v22)), (0, tR (some this)), (1, tI x1), (2, tI x2)]) C dX3_apart_16 (by decide) rfl ?_
      refine z_iload_n C dX3_apart_17 0 rfl ?_
      refine z_if_ge C 26 dX3_apart_18 (by decide) (fun c34 => ?_) (fun c34 => ?_)
      · have h32 := h26.1 c34
        refine z_iload_n C dX3_apart_26 0 rfl ?_
        exact z_ireturn C rfl rfl dX3_apart_27 h32
      · have h33 := h26.2 c34
        refine z_iload_n C dX3_apart_21 0 rfl ?_
        refine z_ineg C dX3_apart_22 ?_
        refine z_goto C 27 dX3_apart_23 (by decide) ?_
        exact z_ireturn C rfl rfl dX3_apart_27 h33
/-! HutRidgeModel.givesBeds()V -/
def Tr_X3_givesBeds (w : WT) (this : Nat) (μ : Mem) (mc ms : Nat) (K : Out → Mem → Prop) : Prop := Tr w yX3_givesBeds (ws_ yX3_givesBeds cX3_givesBeds 5 (Option.none : Option Jvm.ClassFile.FieldType)) 4 105 [tR (some this)] μ mc ms K
def Cx_X3_givesBeds (w : WT) (g : GT) : Prop := Cx w g yX3_givesBeds cX3_givesBeds 5 (Option.none : Option Jvm.ClassFile.FieldType) [] 4 105
theorem yd_X3_givesBeds : yX3_givesBeds.cls ≠ "java/lang/invoke/MethodHandle" ∧ yX3_givesBeds.cls ≠ "java/lang/invoke/VarHandle" ∧ (parseMethodDescriptor yX3_givesBeds.desc).map (fun d => d.parameters.length) = some 0 := by decide +kernel
def B_X3_givesBeds_2 (w : WT) (g : GT) (K : Out → Mem → Prop) (mc ms : Nat) (this : Nat) (x1 : Int32)  (μ : Mem) (kc ks : Nat) : Prop := Z w g K mc ms 2 [(0, tR (some this)), (1, tI x1)] [] μ kc ks
def B_X3_givesBeds_36 (w : WT) (g : GT) (K : Out → Mem → Prop) (mc ms : Nat) (this : Nat) (x1 : Int32)  (μ : Mem) (kc ks : Nat) : Prop := Z w g K mc ms 36 [(0, tR (some this)), (1, tI x1)] [] μ kc ks
def B_X3_givesBeds_57 (w : WT) (g : GT) (K : Out → Mem → Prop) (mc ms : Nat) (this : Nat) (x1 : Int32) (x2 : Int32) (x3 : Int32) (x4 : Int32)  (μ : Mem) (kc ks : Nat) : Prop := Z w g K mc ms 57 [(0, tR (some this)), (1, tI x1), (2, tI x2), (3, tI x3), (4, tI x4)] [] μ kc ks
theorem zf_X3_32_18 : zFd RX3 32 68 true 18 := ⟨11, _, _, _, _, _, zk_18, rfl, Or.inl q3605, Or.inl rfl⟩
theorem zf_X3_35_18 : zFd RX3 35 69 true 18 := ⟨12, _, _, _, _, _, zk_18, rfl, Or.inl q3606, Or.inl rfl⟩
set_option maxHeartbeats 4000000 in
theorem tr_X3_givesBeds {w : WT} {this : Nat} {μ : Mem} {mc ms : Nat} {K : Out → Mem → Prop} (h : ∀ g : GT, Cx_X3_givesBeds w g → zM w μ → B_X3_givesBeds_2 w g K mc ms this 0 μ 0 0) : Tr_X3_givesBeds w this μ mc ms K := by
  refine Tr.of (by decide +kernel) (Nat.le_of_ble_eq_true rfl) (fun g C => ?_)
  show Z w g K mc ms 0 [(0, tR (some this))] [] μ 0 0
  refine Z.wm fun m0 => ?_
  have h := h g C m0
  refine z_iconst (v := 0) C dX3_givesBeds_0 (by decide) ?_
  refine z_istore_n (lv' := [(1, tI 0), (0, tR (some this))]) C dX3_givesBeds_1 (by decide) rfl ?_
  refine Z.sub [1, 0] rfl ?_
  exact h
set_option maxHeartbeats 4000000 in
theorem bk_X3_givesBeds_2 {w : WT} {g : GT} {K : Out → Mem → Prop} {mc ms : Nat} {this : Nat} {x1 : Int32}  {μ : Mem} {kc ks : Nat} (C : Cx_X3_givesBeds w g) (h : zM w μ → zC μ this = 18 ∧ ∃ a3 : Nat, (zR μ 63 this) = some a3 ∧ zC μ a3 = 101 ∧ vp_in 0 (zN μ a3) ∧ ((zA μ a3 0) ≤ x1 → B_X3_givesBeds_36 w g K mc ms this 0 μ kc ks) ∧ (¬ (zA μ a3 0) ≤ x1 → Tr_X3_of w x1 (nI 2) μ 0 0 (zKi (fun v13 μ14 => zM w μ14 → zC μ14 a3 = 101 ∧ vp_in v13 (zN μ14 a3) ∧ ∃ a27 : Nat, (zR μ 68 this) = some a27 ∧ zC μ14 a27 = 101 ∧ zB w ≤ a27 ∧ vp_in x1 (zN μ14 a27) ∧ ∀ μ36 : Mem, μ36 = zsA μ14 a27 x1.toNatClampNeg (zA μ14 a3 v13.toNatClampNeg) → B_X3_givesBeds_2 w g K mc ms this (x1 + 1) μ36 kc ks) (fun q15 μ16 => False)))) : B_X3_givesBeds_2 w g K mc ms this x1 μ kc ks := by
  unfold Cx_X3_givesBeds at C
  unfold B_X3_givesBeds_2
  refine Z.wm fun m0 => ?_
  have h := h m0
  refine z_iload_n C dX3_givesBeds_2 1 rfl ?_
  refine z_aload_n C dX3_givesBeds_3 0 rfl ?_
  obtain ⟨c1, h2⟩ := h
  refine z_getR C rfl (zFdOf c1 zf_X3_16_18) dX3_givesBeds_4 ?_
  refine z_iconst (v := 0) C dX3_givesBeds_7 (by decide) ?_
  obtain ⟨a3, e4, h5⟩ := h2
  obtain ⟨c6, h7⟩ := h5
  obtain ⟨c8, h9⟩ := h7
  refine z_iald C e4 c6 c8 dX3_givesBeds_8 ?_
  refine z_icmp_ge C 34 dX3_givesBeds_9 (by decide) (fun c12 => ?_) (fun c12 => ?_)
  · have h10 := h9.1 c12
    refine z_iconst (v := 0) C dX3_givesBeds_34 (by decide) ?_
    refine z_istore_n (lv' := [(1, tI 0), (0, tR (some this))]) C dX3_givesBeds_35 (by decide) rfl ?_
    refine Z.sub [1, 0] rfl ?_
    exact h10
  · have h11 := h9.2 c12
    refine z_aload_n C dX3_givesBeds_12 0 rfl ?_
    refine z_getR C rfl (zFdOf c1 zf_X3_32_18) dX3_givesBeds_13 ?_
    refine z_iload_n C dX3_givesBeds_16 1 rfl ?_
    refine z_aload_n C dX3_givesBeds_17 0 rfl ?_
    refine z_getR C rfl (zFdOf c1 zf_X3_16_18) dX3_givesBeds_18 ?_
    refine z_iload_n C dX3_givesBeds_21 1 rfl ?_
    refine z_iconst (v := (nI 2)) C dX3_givesBeds_22 (by decide) ?_
    refine Z.kk fun c21 c22 => ?_
    have k20 := h11
    refine z_callS (as := [tI x1, tI (nI 2)]) (rest := [tR (zR μ 63 this), tI x1, tR (zR μ 68 this)]) C k20 rfl q3710 q3711 q113 q3712 yd_X3_of (by decide) (Nat.le_of_ble_eq_true rfl) dX3_givesBeds_23 c21 c22 (zRet_i fun v13 μ14 h19 => ?_) (zThr_i fun _ _ z9 _ _ _ _ => z9.elim)
    · refine Z.wm fun m18 => ?_
      have h17 := h19 m18
      obtain ⟨c23, h24⟩ := h17
      obtain ⟨c25, h26⟩ := h24
      refine z_iald C e4 c23 c25 dX3_givesBeds_26 ?_
      obtain ⟨a27, e28, h29⟩ := h26
      obtain ⟨c30, h31⟩ := h29
      obtain ⟨c32, c33, h34⟩ := h31
      refine z_iast C e28 c30 c32 c33 dX3_givesBeds_27 ?_
      refine Z.mem fun μ36 e37 => ?_
      have h35 := h34 μ36 e37
      have c38 : zC μ36 a3 = 101 := by rw [e37]; exact c23
      have c39 : zC μ36 a27 = 101 := by rw [e37]; exact c30
      refine z_iinc (k0 := 1) (v := x1 + 1) (lv' := [(1, tI (x1 + 1)), (0, tR (some this))]) C dX3_givesBeds_28 rfl (by first | rfl | decide) (by decide) rfl ?_
      refine z_goto C 2 dX3_givesBeds_31 (by decide) ?_
      refine Z.sub [1, 0] rfl ?_
      exact h35
set_option maxHeartbeats 4000000 in
theorem bk_X3_givesBeds_36 {w : WT} {g : GT} {K : Out → Mem → Prop} {mc ms : Nat} {this : Nat} {x1 : Int32}  {μ : Mem} {kc ks : Nat} (C : Cx_X3_givesBeds w g) (h : zM w μ → zC μ this = 18 ∧ ∃ a3 : Nat, (zR μ 63 this) = some a3 ∧ zC μ a3 = 101 ∧ vp_in (nI 3) (zN μ a3) ∧ ((zA μ a3 3) ≤ x1 → K (.inl none) μ) ∧ (¬ (zA μ a3 3) ≤ x1 → Tr_X3_ranked w this x1 μ 0 0 (zKi (fun v13 μ14 => zM w μ14 → B_X3_givesBeds_57 w g K mc ms this x1 v13 (-1 : Int32) 0 μ14 kc ks) (fun q15 μ16 => False)))) : B_X3_givesBeds_36 w g K mc ms this x1 μ kc ks := by
  unfold Cx_X3_givesBeds at C
  unfold B_X3_givesBeds_36
  refine Z.wm fun m0 => ?_
  have h := h m0
  refine z_iload_n C dX3_givesBeds_36 1 rfl ?_
  refine z_aload_n C dX3_givesBeds_37 0 rfl ?_
  obtain ⟨c1, h2⟩ := h
  refine z_getR C rfl (zFdOf c1 zf_X3_16_18) dX3_givesBeds_38 ?_
  refine z_iconst (v := (nI 3)) C dX3_givesBeds_41 (by decide) ?_
  obtain ⟨a3, e4, h5⟩ := h2
  obtain ⟨c6, h7⟩ := h5
  obtain ⟨c8, h9⟩ := h7
  refine z_iald C e4 c6 c8 dX3_givesBeds_42 ?_
  refine z_icmp_ge C 134 dX3_givesBeds_43 (by decide) (fun c12 => ?_) (fun c12 => ?_)
  · have h10 := h9.1 c12
    exact z_vreturn C rfl dX3_givesBeds_134 h10
  · have h11 := h9.2 c12
    refine z_aload_n C dX3_givesBeds_46 0 rfl ?_
    refine z_iload_n C dX3_givesBeds_47 1 rfl ?_
    refine Z.kk fun c21 c22 => ?_
    have k20 := h11
    refine z_callV (as := [tI x1]) (rest := []) C k20 rfl rfl (by decide) c1 rfl q3934 q3936 qs86 q113 q3937 yd_X3_ranked (by decide) (Nat.le_of_ble_eq_true rfl) dX3_givesBeds_48 c21 c22 (zRet_i fun v13 μ14 h19 => ?_) (zThr_i fun _ _ z9 _ _ _ _ => z9.elim)
    · refine Z.wm fun m18 => ?_
      have h17 := h19 m18
      refine z_istore_n (lv' := [(2, tI v13), (0, tR (some this)), (1, tI x1)]) C dX3_givesBeds_51 (by decide) rfl ?_
      refine z_iconst (v := (-1 : Int32)) C dX3_givesBeds_52 (by decide) ?_
      refine z_istore_n (lv' := [(3, tI (-1 : Int32)), (2, tI v13), (0, tR (some this)), (1, tI x1)]) C dX3_givesBeds_53 (by decide) rfl ?_
      refine z_iconst (v := 0) C dX3_givesBeds_54 (by decide) ?_
      refine z_istore (lv' := [(4, tI 0), (3, tI (-1 : Int32)), (2, tI v13), (0, tR (some this)), (1, tI x1)]) C dX3_givesBeds_55 (by decide) rfl ?_
      refine Z.sub [3, 4, 2, 1, 0] rfl ?_
      exact h17
set_option maxHeartbeats 4000000 in
theorem bk_X3_givesBeds_57 {w : WT} {g : GT} {K : Out → Mem → Prop} {mc ms : Nat} {this : Nat} {x1 : Int32} {x2 : Int32} {x3 : Int32} {x4 : Int32}  {μ : Mem} {kc ks : Nat} (C : Cx_X3_givesBeds w g) (h : zM w μ → zC μ this = 18 ∧ ∃ a3 : Nat, (zR μ 63 this) = some a3 ∧ zC μ a3 = 101 ∧ vp_in 0 (zN μ a3) ∧ ((zA μ a3 0) ≤ x4 → ∃ a13 : Nat, (zR μ 69 this) = some a13 ∧ zC μ a13 = 101 ∧ zB w ≤ a13 ∧ vp_in x2 (zN μ a13) ∧ ∀ μ22 : Mem, μ22 = zsA μ a13 x2.toNatClampNeg x3 → (x3 < 0 → B_X3_givesBeds_36 w g K mc ms this (x1 + 1) μ22 kc ks) ∧ (¬ x3 < 0 → ∃ a30 : Nat, (zR μ22 68 this) = some a30 ∧ zC μ22 a30 = 101 ∧ vp_in x3 (zN μ22 a30) ∧ zB w ≤ a30 ∧ vp_in x3 (zN μ22 a30) ∧ ∀ μ41 : Mem, μ41 = zsA μ22 a30 x3.toNatClampNeg ((zA μ22 a30 x3.toNatClampNeg) - (1 : Int32)) → B_X3_givesBeds_36 w g K mc ms this (x1 + 1) μ41 kc ks)) ∧ (¬ (zA μ a3 0) ≤ x4 → ∃ a47 : Nat, (zR μ 68 this) = some a47 ∧ zC μ a47 = 101 ∧ vp_in x4 (zN μ a47) ∧ ((zA μ a47 x4.toNatClampNeg) ≤ 0 → B_X3_givesBeds_57 w g K mc ms this x1 x2 x3 (x4 + 1) μ kc ks) ∧ (¬ (zA μ a47 x4.toNatClampNeg) ≤ 0 → (x3 < 0 → B_X3_givesBeds_57 w g K mc ms this x1 x2 x4 (x4 + 1) μ kc ks) ∧ (¬ x3 < 0 → Tr_X3_apart w this x2 x4 μ 0 0 (zKi (fun v60 μ61 => zM w μ61 → zC μ61 this = 18 ∧ Tr_X3_apart w this x2 x3 μ61 0 0 (zKi (fun v72 μ73 => zM w μ73 → (v72 ≤ v60 → B_X3_givesBeds_57 w g K mc ms this x1 x2 x3 (x4 + 1) μ73 kc ks) ∧ (¬ v72 ≤ v60 → B_X3_givesBeds_57 w g K mc ms this x1 x2 x4 (x4 + 1) μ73 kc ks)) (fun q74 μ75 => False))) (fun q62 μ63 => False)))))) : B_X3_givesBeds_57 w g K mc ms this x1 x2 x3 x4 μ kc ks := by
  unfold Cx_X3_givesBeds at C
  unfold B_X3_givesBeds_57
  refine Z.wm fun m0 => ?_
  have h := h m0
  refine z_iload C dX3_givesBeds_57 4 rfl ?_
  refine z_aload_n C dX3_givesBeds_59 0 rfl ?_
  obtain ⟨c1, h2⟩ := h
  refine z_getR C rfl (zFdOf c1 zf_X3_16_18) dX3_givesBeds_60 ?_
  refine z_iconst (v := 0) C dX3_givesBeds_63 (by decide) ?_
  obtain ⟨a3, e4, h5⟩ := h2
  obtain ⟨c6, h7⟩ := h5
  obtain ⟨c8, h9⟩ := h7
  refine z_iald C e4 c6 c8 dX3_givesBeds_64 ?_
  refine z_icmp_ge C 107 dX3_givesBeds_65 (by decide) (fun c12 => ?_) (fun c12 => ?_)
  · have h10 := h9.1 c12
    refine z_aload_n C dX3_givesBeds_107 0 rfl ?_
    refine z_getR C rfl (zFdOf c1 zf_X3_35_18) dX3_givesBeds_108 ?_
    refine z_iload_n C dX3_givesBeds_111 2 rfl ?_
    refine z_iload_n C dX3_givesBeds_112 3 rfl ?_
    obtain ⟨a13, e14, h15⟩ := h10
    obtain ⟨c16, h17⟩ := h15
    obtain ⟨c18, c19, h20⟩ := h17
    refine z_iast C e14 c16 c18 c19 dX3_givesBeds_113 ?_
    refine Z.mem fun μ22 e23 => ?_
    have h21 := h20 μ22 e23
    have c24 : zC μ22 this = 18 := by rw [e23]; exact c1
    have c25 : zC μ22 a3 = 101 := by rw [e23]; exact c6
    have c26 : zC μ22 a13 = 101 := by rw [e23]; exact c16
    refine z_iload_n C dX3_givesBeds_114 3 rfl ?_
    refine z_if_lt C 128 dX3_givesBeds_115 (by decide) (fun c29 => ?_) (fun c29 => ?_)
    · have h27 := h21.1 c29
      refine z_iinc (k0 := 1) (v := x1 + 1) (lv' := [(1, tI (x1 + 1)), (0, tR (some this)), (2, tI x2), (3, tI x3), (4, tI x4)]) C dX3_givesBeds_128 rfl (by first | rfl | decide) (by decide) rfl ?_
      refine z_goto C 36 dX3_givesBeds_131 (by decide) ?_
      refine Z.sub [1, 0] rfl ?_
      exact h27
    · have h28 := h21.2 c29
      refine z_aload_n C dX3_givesBeds_118 0 rfl ?_
      refine z_getR C rfl (zFdOf c24 zf_X3_32_18) dX3_givesBeds_119 ?_
      refine z_iload_n C dX3_givesBeds_122 3 rfl ?_
      refine z_dup2 C dX3_givesBeds_123 rfl rfl ?_
      obtain ⟨a30, e31, h32⟩ := h28
      obtain ⟨c33, h34⟩ := h32
      obtain ⟨c35, h36⟩ := h34
      refine z_iald C e31 c33 c35 dX3_givesBeds_124 ?_
      refine z_iconst (v := 1) C dX3_givesBeds_125 (by decide) ?_
      refine z_isub C dX3_givesBeds_126 ?_
      obtain ⟨c37, c38, h39⟩ := h36
      refine z_iast C e31 c33 c37 c38 dX3_givesBeds_127 ?_
      refine Z.mem fun μ41 e42 => ?_
      have h40 := h39 μ41 e42
      have c43 : zC μ41 this = 18 := by rw [e42]; exact c24
      have c44 : zC μ41 a3 = 101 := by rw [e42]; exact c25
      have c45 : zC μ41 a13 = 101 := by rw [e42]; exact c26
      have c46 : zC μ41 a30 = 101 := by rw [e42]; exact c33
      refine z_iinc (k0 := 1) (v := x1 + 1) (lv' := [(1, tI (x1 + 1)), (0, tR (some this)), (2, tI x2), (3, tI x3), (4, tI x4)]) C dX3_givesBeds_128 rfl (by first | rfl | decide) (by decide) rfl ?_
      refine z_goto C 36 dX3_givesBeds_131 (by decide) ?_
      refine Z.sub [1, 0] rfl ?_
      exact h40
  · have h11 := h9.2 c12
    refine z_aload_n C dX3_givesBeds_68 0 rfl ?_
    refine z_getR C rfl (zFdOf c1 zf_X3_32_18) dX3_givesBeds_69 ?_
    refine z_iload C dX3_givesBeds_72 4 rfl ?_
    obtain ⟨a47, e48, h49⟩ := h11
    obtain ⟨c50, h51⟩ := h49
    obtain ⟨c52, h53⟩ := h51
    refine z_iald C e48 c50 c52 dX3_givesBeds_74 ?_
    refine z_if_le C 101 dX3_givesBeds_75 (by decide) (fun c56 => ?_) (fun c56 => ?_)
    · have h54 := h53.1 c56
      refine z_iinc (k0 := 4) (v := x4 + 1) (lv' := [(4, tI (x4 + 1)), (0, tR (some this)), (1, tI x1), (2, tI x2), (3, tI x3)]) C dX3_givesBeds_101 rfl (by first | rfl | decide) (by decide) rfl ?_
      refine z_goto C 57 dX3_givesBeds_104 (by decide) ?_
      refine Z.sub [1, 2, 3, 4, 0] rfl ?_
      exact h54
    · have h55 := h53.2 c56
      refine z_iload_n C dX3_givesBeds_78 3 rfl ?_
      refine z_if_lt C 98 dX3_givesBeds_79 (by decide) (fun c59 => ?_) (fun c59 => ?_)
      · have h57 := h55.1 c59
        refine z_iload C dX3_givesBeds_98 4 rfl ?_
        refine z_istore_n (lv' := [(3, tI x4), (0, tR (some this)), (1, tI x1), (2, tI x2), (4, tI x4)]) C dX3_givesBeds_100 (by decide) rfl ?_
        refine z_iinc (k0 := 4) (v := x4 + 1) (lv' := [(4, tI (x4 + 1)), (3, tI x4), (0, tR (some this)), (1, tI x1), (2, tI x2)]) C dX3_givesBeds_101 rfl (by first | rfl | decide) (by decide) rfl ?_
        refine z_goto C 57 dX3_givesBeds_104 (by decide) ?_
        refine Z.sub [2, 3, 4, 1, 0] rfl ?_
        exact h57
      · have h58 := h55.2 c59
        refine z_aload_n C dX3_givesBeds_82 0 rfl ?_
        refine z_iload_n C dX3_givesBeds_83 2 rfl ?_
        refine z_iload C dX3_givesBeds_84 4 rfl ?_
        refine Z.kk fun c68 c69 => ?_
        have k67 := h58
        refine z_callV (as := [tI x2, tI x4]) (rest := []) C k67 rfl rfl (by decide) c1 rfl q3946 q3948 qs88 q113 q3949 yd_X3_apart (by decide) (Nat.le_of_ble_eq_true rfl) dX3_givesBeds_86 c68 c69 (zRet_i fun v60 μ61 h66 => ?_) (zThr_i fun _ _ z9 _ _ _ _ => z9.elim)
        · refine Z.wm fun m65 => ?_
          have h64 := h66 m65
          refine z_aload_n C dX3_givesBeds_89 0 rfl ?_
          refine z_iload_n C dX3_givesBeds_90 2 rfl ?_
          refine z_iload_n C dX3_givesBeds_91 3 rfl ?_
          obtain ⟨c70, h71⟩ := h64
          refine Z.kk fun c80 c81 => ?_
          have k79 := h71
          refine z_callV (as := [tI x2, tI x3]) (rest := [tI v60]) C k79 rfl rfl (by decide) c70 rfl q3946 q3948 qs88 q113 q3949 yd_X3_apart (by decide) (Nat.le_of_ble_eq_true rfl) dX3_givesBeds_92 c80 c81 (zRet_i fun v72 μ73 h78 => ?_) (zThr_i fun _ _ z9 _ _ _ _ => z9.elim)
          · refine Z.wm fun m77 => ?_
            have h76 := h78 m77
            refine z_icmp_ge C 101 dX3_givesBeds_95 (by decide) (fun c84 => ?_) (fun c84 => ?_)
            · have h82 := h76.1 c84
              refine z_iinc (k0 := 4) (v := x4 + 1) (lv' := [(4, tI (x4 + 1)), (0, tR (some this)), (1, tI x1), (2, tI x2), (3, tI x3)]) C dX3_givesBeds_101 rfl (by first | rfl | decide) (by decide) rfl ?_
              refine z_goto C 57 dX3_givesBeds_104 (by decide) ?_
              refine Z.sub [1, 2, 3, 4, 0] rfl ?_
              exact h82
            · have h83 := h76.2 c84
              refine z_iload C dX3_givesBeds_98 4 rfl ?_
              refine z_istore_n (lv' := [(3, tI x4), (0, tR (some this)), (1, tI x1), (2, tI x2), (4, tI x4)]) C dX3_givesBeds_100 (by decide) rfl ?_
              refine z_iinc (k0 := 4) (v := x4 + 1) (lv' := [(4, tI (x4 + 1)), (3, tI x4), (0, tR (some this)), (1, tI x1), (2, tI x2)]) C dX3_givesBeds_101 rfl (by first | rfl | decide) (by decide) rfl ?_
              refine z_goto C 57 dX3_givesBeds_104 (by decide) ?_
              refine Z.sub [2, 3, 4, 1, 0] rfl ?_
              exact h83
/-! HutRidgeModel.bedOf(I)I -/
def Tr_X3_bedOf (w : WT) (this : Nat) (x1 : Int32) (μ : Mem) (mc ms : Nat) (K : Out → Mem → Prop) : Prop := Tr w yX3_bedOf (ws_ yX3_bedOf cX3_bedOf 3 (Option.some Jvm.ClassFile.FieldType.int)) 5 129 [tR (some this), tI x1] μ mc ms K
def Cx_X3_bedOf (w : WT) (g : GT) : Prop := Cx w g yX3_bedOf cX3_bedOf 3 (Option.some Jvm.ClassFile.FieldType.int) [] 5 129
theorem yd_X3_bedOf : yX3_bedOf.cls ≠ "java/lang/invoke/MethodHandle" ∧ yX3_bedOf.cls ≠ "java/lang/invoke/VarHandle" ∧ (parseMethodDescriptor yX3_bedOf.desc).map (fun d => d.parameters.length) = some 1 := by decide +kernel
def B_X3_bedOf_24 (w : WT) (g : GT) (K : Out → Mem → Prop) (mc ms : Nat) (this : Nat) (x2 : Int32) (s0 : Option Nat) (μ : Mem) (kc ks : Nat) : Prop := Z w g K mc ms 24 [(0, tR (some this)), (2, tI x2)] [tR s0] μ kc ks
def B_X3_bedOf_29 (w : WT) (g : GT) (K : Out → Mem → Prop) (mc ms : Nat) (this : Nat) (x2 : Int32) (s0 : Int32) (s1 : Option Nat) (μ : Mem) (kc ks : Nat) : Prop := Z w g K mc ms 29 [(0, tR (some this)), (2, tI x2)] [tI s0, tR s1] μ kc ks
set_option maxHeartbeats 4000000 in
theorem tr_X3_bedOf {w : WT} {this : Nat} {x1 : Int32} {μ : Mem} {mc ms : Nat} {K : Out → Mem → Prop} (h : ∀ g : GT, Cx_X3_bedOf w g → zM w μ → zC μ this = 18 ∧ Tr_X3_hiker w this x1 μ 0 0 (zKi (fun v3 μ4 => zM w μ4 → zC μ4 this = 18 ∧ Tr_X3_givesBeds w this μ4 0 0 (zKv (fun μ16 => zM w μ16 → (v3 < 0 → B_X3_bedOf_24 w g K mc ms this v3 (some this) μ16 0 0) ∧ (¬ v3 < 0 → zC μ16 this = 18 ∧ ∃ a30 : Nat, (zR μ16 69 this) = some a30 ∧ zC μ16 a30 = 101 ∧ vp_in v3 (zN μ16 a30) ∧ (0 ≤ (zA μ16 a30 v3.toNatClampNeg) → B_X3_bedOf_29 w g K mc ms this v3 0 (some this) μ16 0 0) ∧ (¬ 0 ≤ (zA μ16 a30 v3.toNatClampNeg) → B_X3_bedOf_24 w g K mc ms this v3 (some this) μ16 0 0))) (fun q17 μ18 => False))) (fun q5 μ6 => False))) : Tr_X3_bedOf w this x1 μ mc ms K := by
  refine Tr.of (by decide +kernel) (Nat.le_of_ble_eq_true rfl) (fun g C => ?_)
  show Z w g K mc ms 0 [(0, tR (some this)), (1, tI x1)] [] μ 0 0
  refine Z.wm fun m0 => ?_
  have h := h g C m0
  refine z_aload_n C dX3_bedOf_0 0 rfl ?_
  refine z_iload_n C dX3_bedOf_1 1 rfl ?_
  obtain ⟨c1, h2⟩ := h
  refine Z.kk fun c11 c12 => ?_
  have k10 := h2
  refine z_callV (as := [tI x1]) (rest := []) C k10 rfl rfl (by decide) c1 rfl q3776 q3778 qs74 q113 q3779 yd_X3_hiker (by decide) (Nat.le_of_ble_eq_true rfl) dX3_bedOf_2 c11 c12 (zRet_i fun v3 μ4 h9 => ?_) (zThr_i fun _ _ z9 _ _ _ _ => z9.elim)
  · refine Z.wm fun m8 => ?_
    have h7 := h9 m8
    refine z_istore_n (lv' := [(2, tI v3), (0, tR (some this)), (1, tI x1)]) C dX3_bedOf_5 (by decide) rfl ?_
    refine z_aload_n C dX3_bedOf_6 1 rfl ?_
    obtain ⟨c13, h14⟩ := h7
    refine Z.kk fun c23 c24 => ?_
    have k22 := h14
    refine z_callV (as := []) (rest := []) C k22 rfl rfl (by decide) c13 rfl q3942 q3944 qs87 q113 q3945 yd_X3_givesBeds (by decide) (Nat.le_of_ble_eq_true rfl) dX3_bedOf_7 c23 c24 (zRet_v fun μ16 h21 => ?_) (zThr_v fun _ _ z9 _ _ _ _ => z9.elim)
    · refine Z.wm fun m20 => ?_
      have h19 := h21 m20
      refine z_aload_n C dX3_bedOf_10 1 rfl ?_
      refine z_iload_n C dX3_bedOf_11 0 rfl ?_
      refine z_if_lt C 24 dX3_bedOf_12 (by decide) (fun c27 => ?_) (fun c27 => ?_)
      · have h25 := h19.1 c27
        refine Z.sub [1, 0] rfl ?_
        exact h25
      · have h26 := h19.2 c27
        refine z_aload_n C dX3_bedOf_15 1 rfl ?_
        obtain ⟨c28, h29⟩ := h26
        refine z_getR C rfl (zFdOf c28 zf_X3_35_18) dX3_bedOf_16 ?_
        refine z_iload_n C dX3_bedOf_19 0 rfl ?_
        obtain ⟨a30, e31, h32⟩ := h29
        obtain ⟨c33, h34⟩ := h32
        obtain ⟨c35, h36⟩ := h34
        refine z_iald C e31 c33 c35 dX3_bedOf_20 ?_
        refine z_if_ge C 28 dX3_bedOf_21 (by decide) (fun c39 => ?_) (fun c39 => ?_)
        · have h37 := h36.1 c39
          refine z_iconst (v := 0) C dX3_bedOf_28 (by decide) ?_
          refine Z.sub [1, 0] rfl ?_
          exact h37
        · have h38 := h36.2 c39
          refine Z.sub [1, 0] rfl ?_
          exact h38
set_option maxHeartbeats 4000000 in
theorem bk_X3_bedOf_24 {w : WT} {g : GT} {K : Out → Mem → Prop} {mc ms : Nat} {this : Nat} {x2 : Int32} {s0 : Option Nat} {μ : Mem} {kc ks : Nat} (C : Cx_X3_bedOf w g) (h : zM w μ → B_X3_bedOf_29 w g K mc ms this x2 1 s0 μ kc ks) : B_X3_bedOf_24 w g K mc ms this x2 s0 μ kc ks := by
  unfold Cx_X3_bedOf at C
  unfold B_X3_bedOf_24
  refine Z.wm fun m0 => ?_
  have h := h m0
  refine z_iconst (v := 1) C dX3_bedOf_24 (by decide) ?_
  refine z_goto C 29 dX3_bedOf_25 (by decide) ?_
  refine Z.sub [0, 1] rfl ?_
  exact h
set_option maxHeartbeats 4000000 in
theorem bk_X3_bedOf_29 {w : WT} {g : GT} {K : Out → Mem → Prop} {mc ms : Nat} {this : Nat} {x2 : Int32} {s0 : Int32} {s1 : Option Nat} {μ : Mem} {kc ks : Nat} (C : Cx_X3_bedOf w g) (h : zM w μ → ∃ a1 : Nat, s1 = some a1 ∧ zC μ a1 = 18 ∧ ∀ μ6 : Mem, μ6 = zsI μ 57 a1 s0 → zC μ6 this = 18 ∧ ((zI μ6 57 this) ≠ 0 → K (.inl (some (tI 0))) μ6) ∧ ((zI μ6 57 this) = 0 → ∃ a15 : Nat, (zR μ6 69 this) = some a15 ∧ zC μ6 a15 = 101 ∧ vp_in x2 (zN μ6 a15) ∧ Tr_X3_at w this (zA μ6 a15 x2.toNatClampNeg) μ6 0 0 (zKi (fun v22 μ23 => zM w μ23 → K (.inl (some (tI v22))) μ23) (fun q24 μ25 => False)))) : B_X3_bedOf_29 w g K mc ms this x2 s0 s1 μ kc ks := by
  unfold Cx_X3_bedOf at C
  unfold B_X3_bedOf_29
  refine Z.wm fun m0 => ?_
  have h := h m0
  obtain ⟨a1, e2, h3⟩ := h
  obtain ⟨c4, h5⟩ := h3
  refine z_putI C e2 (zFpOf c4 (zp_X3_56_18 rfl)) (Or.inl (zFzOf c4 rfl)) rfl rfl dX3_bedOf_29 ?_
  refine Z.mem fun μ6 e8 => ?_
  have h7 := h5 μ6 e8
  have c9 : zC μ6 a1 = 18 := by rw [e8]; exact c4
  refine z_aload_n C dX3_bedOf_32 0 rfl ?_
  obtain ⟨c10, h11⟩ := h7
  refine z_getI C rfl (zFdOf c10 zf_X3_56_18) dX3_bedOf_33 ?_
  refine z_if_ne C 52 dX3_bedOf_36 (by decide) (fun c14 => ?_) (fun c14 => ?_)
  · have h12 := h11.1 c14
    refine z_iconst (v := 0) C dX3_bedOf_52 (by decide) ?_
    exact z_ireturn C rfl rfl dX3_bedOf_53 h12
  · have h13 := h11.2 c14
    refine z_aload_n C dX3_bedOf_39 0 rfl ?_
    refine z_aload_n C dX3_bedOf_40 0 rfl ?_
    refine z_getR C rfl (zFdOf c10 zf_X3_35_18) dX3_bedOf_41 ?_
    refine z_iload_n C dX3_bedOf_44 1 rfl ?_
    obtain ⟨a15, e16, h17⟩ := h13
    obtain ⟨c18, h19⟩ := h17
    obtain ⟨c20, h21⟩ := h19
    refine z_iald C e16 c18 c20 dX3_bedOf_45 ?_
    refine Z.kk fun c30 c31 => ?_
    have k29 := h21
    refine z_callV (as := [tI (zA μ6 a15 x2.toNatClampNeg)]) (rest := []) C k29 rfl rfl (by decide) c10 rfl q3706 q3708 qs64 q113 q3709 yd_X3_at (by decide) (Nat.le_of_ble_eq_true rfl) dX3_bedOf_46 c30 c31 (zRet_i fun v22 μ23 h28 => ?_) (zThr_i fun _ _ z9 _ _ _ _ => z9.elim)
    · refine Z.wm fun m27 => ?_
      have h26 := h28 m27
      refine z_goto C 53 dX3_bedOf_49 (by decide) ?_
      exact z_ireturn C rfl rfl dX3_bedOf_53 h26
/-! HutRidgeModel.bedByAsking(I)I -/
def Tr_X3_bedByAsking (w : WT) (this : Nat) (x1 : Int32) (μ : Mem) (mc ms : Nat) (K : Out → Mem → Prop) : Prop := Tr w yX3_bedByAsking (ws_ yX3_bedByAsking cX3_bedByAsking 2 (Option.some Jvm.ClassFile.FieldType.int)) 6 151 [tR (some this), tI x1] μ mc ms K
def Cx_X3_bedByAsking (w : WT) (g : GT) : Prop := Cx w g yX3_bedByAsking cX3_bedByAsking 2 (Option.some Jvm.ClassFile.FieldType.int) [] 6 151
theorem yd_X3_bedByAsking : yX3_bedByAsking.cls ≠ "java/lang/invoke/MethodHandle" ∧ yX3_bedByAsking.cls ≠ "java/lang/invoke/VarHandle" ∧ (parseMethodDescriptor yX3_bedByAsking.desc).map (fun d => d.parameters.length) = some 1 := by decide +kernel
set_option maxHeartbeats 4000000 in
theorem tr_X3_bedByAsking {w : WT} {this : Nat} {x1 : Int32} {μ : Mem} {mc ms : Nat} {K : Out → Mem → Prop} (h : zM w μ → zC μ this = 18 ∧ Tr_X3_bedOf w this x1 μ 0 0 (zKi (fun v3 μ4 => zM w μ4 → K (.inl (some (tI v3))) μ4) (fun q5 μ6 => False))) : Tr_X3_bedByAsking w this x1 μ mc ms K := by
  refine Tr.of (by decide +kernel) (Nat.le_of_ble_eq_true rfl) (fun g C => ?_)
  show Z w g K mc ms 0 [(0, tR (some this)), (1, tI x1)] [] μ 0 0
  refine Z.wm fun m0 => ?_
  have h := h m0
  refine z_aload_n C dX3_bedByAsking_0 0 rfl ?_
  refine z_iload_n C dX3_bedByAsking_1 1 rfl ?_
  obtain ⟨c1, h2⟩ := h
  refine Z.kk fun c11 c12 => ?_
  have k10 := h2
  refine z_callV (as := [tI x1]) (rest := []) C k10 rfl rfl (by decide) c1 rfl q3954 q3939 q3940 q113 q3941 yd_X3_bedOf (by decide) (Nat.le_of_ble_eq_true rfl) dX3_bedByAsking_2 c11 c12 (zRet_i fun v3 μ4 h9 => ?_) (zThr_i fun _ _ z9 _ _ _ _ => z9.elim)
  · refine Z.wm fun m8 => ?_
    have h7 := h9 m8
    exact z_ireturn C rfl rfl dX3_bedByAsking_5 h7
/-! HutRidgeModel.beds()I -/
def Tr_X3_beds (w : WT) (this : Nat) (μ : Mem) (mc ms : Nat) (K : Out → Mem → Prop) : Prop := Tr w yX3_beds (ws_ yX3_beds cX3_beds 3 (Option.some Jvm.ClassFile.FieldType.int)) 2 61 [tR (some this)] μ mc ms K
def Cx_X3_beds (w : WT) (g : GT) : Prop := Cx w g yX3_beds cX3_beds 3 (Option.some Jvm.ClassFile.FieldType.int) [] 2 61
theorem yd_X3_beds : yX3_beds.cls ≠ "java/lang/invoke/MethodHandle" ∧ yX3_beds.cls ≠ "java/lang/invoke/VarHandle" ∧ (parseMethodDescriptor yX3_beds.desc).map (fun d => d.parameters.length) = some 0 := by decide +kernel
def B_X3_beds_4 (w : WT) (g : GT) (K : Out → Mem → Prop) (mc ms : Nat) (this : Nat) (x1 : Int32) (x2 : Int32)  (μ : Mem) (kc ks : Nat) : Prop := Z w g K mc ms 4 [(0, tR (some this)), (1, tI x1), (2, tI x2)] [] μ kc ks
set_option maxHeartbeats 4000000 in
theorem tr_X3_beds {w : WT} {this : Nat} {μ : Mem} {mc ms : Nat} {K : Out → Mem → Prop} (h : ∀ g : GT, Cx_X3_beds w g → zM w μ → B_X3_beds_4 w g K mc ms this 0 0 μ 0 0) : Tr_X3_beds w this μ mc ms K := by
  refine Tr.of (by decide +kernel) (Nat.le_of_ble_eq_true rfl) (fun g C => ?_)
  show Z w g K mc ms 0 [(0, tR (some this))] [] μ 0 0
  refine Z.wm fun m0 => ?_
  have h := h g C m0
  refine z_iconst (v := 0) C dX3_beds_0 (by decide) ?_
  refine z_istore_n (lv' := [(1, tI 0), (0, tR (some this))]) C dX3_beds_1 (by decide) rfl ?_
  refine z_iconst (v := 0) C dX3_beds_2 (by decide) ?_
  refine z_istore_n (lv' := [(2, tI 0), (1, tI 0), (0, tR (some this))]) C dX3_beds_3 (by decide) rfl ?_
  refine Z.sub [2, 1, 0] rfl ?_
  exact h
set_option maxHeartbeats 4000000 in
theorem bk_X3_beds_4 {w : WT} {g : GT} {K : Out → Mem → Prop} {mc ms : Nat} {this : Nat} {x1 : Int32} {x2 : Int32}  {μ : Mem} {kc ks : Nat} (C : Cx_X3_beds w g) (h : zM w μ → zC μ this = 18 ∧ ∃ a3 : Nat, (zR μ 63 this) = some a3 ∧ zC μ a3 = 101 ∧ vp_in 0 (zN μ a3) ∧ ((zA μ a3 0) ≤ x2 → K (.inl (some (tI x1))) μ) ∧ (¬ (zA μ a3 0) ≤ x2 → Tr_X3_of w x2 (nI 2) μ 0 0 (zKi (fun v13 μ14 => zM w μ14 → zC μ14 a3 = 101 ∧ vp_in v13 (zN μ14 a3) ∧ B_X3_beds_4 w g K mc ms this (x1 + (zA μ14 a3 v13.toNatClampNeg)) (x2 + 1) μ14 kc ks) (fun q15 μ16 => False)))) : B_X3_beds_4 w g K mc ms this x1 x2 μ kc ks := by
  unfold Cx_X3_beds at C
  unfold B_X3_beds_4
  refine Z.wm fun m0 => ?_
  have h := h m0
  refine z_iload_n C dX3_beds_4 2 rfl ?_
  refine z_aload_n C dX3_beds_5 0 rfl ?_
  obtain ⟨c1, h2⟩ := h
  refine z_getR C rfl (zFdOf c1 zf_X3_16_18) dX3_beds_6 ?_
  refine z_iconst (v := 0) C dX3_beds_9 (by decide) ?_
  obtain ⟨a3, e4, h5⟩ := h2
  obtain ⟨c6, h7⟩ := h5
  obtain ⟨c8, h9⟩ := h7
  refine z_iald C e4 c6 c8 dX3_beds_10 ?_
  refine z_icmp_ge C 33 dX3_beds_11 (by decide) (fun c12 => ?_) (fun c12 => ?_)
  · have h10 := h9.1 c12
    refine z_iload_n C dX3_beds_33 1 rfl ?_
    exact z_ireturn C rfl rfl dX3_beds_34 h10
  · have h11 := h9.2 c12
    refine z_iload_n C dX3_beds_14 1 rfl ?_
    refine z_aload_n C dX3_beds_15 0 rfl ?_
    refine z_getR C rfl (zFdOf c1 zf_X3_16_18) dX3_beds_16 ?_
    refine z_iload_n C dX3_beds_19 2 rfl ?_
    refine z_iconst (v := (nI 2)) C dX3_beds_20 (by decide) ?_
    refine Z.kk fun c21 c22 => ?_
    have k20 := h11
    refine z_callS (as := [tI x2, tI (nI 2)]) (rest := [tR (zR μ 63 this), tI x1]) C k20 rfl q3710 q3711 q113 q3712 yd_X3_of (by decide) (Nat.le_of_ble_eq_true rfl) dX3_beds_21 c21 c22 (zRet_i fun v13 μ14 h19 => ?_) (zThr_i fun _ _ z9 _ _ _ _ => z9.elim)
    · refine Z.wm fun m18 => ?_
      have h17 := h19 m18
      obtain ⟨c23, h24⟩ := h17
      obtain ⟨c25, h26⟩ := h24
      refine z_iald C e4 c23 c25 dX3_beds_24 ?_
      refine z_iadd C dX3_beds_25 ?_
      refine z_istore_n (lv' := [(1, tI (x1 + (zA μ14 a3 v13.toNatClampNeg))), (0, tR (some this)), (2, tI x2)]) C dX3_beds_26 (by decide) rfl ?_
      refine z_iinc (k0 := 2) (v := x2 + 1) (lv' := [(2, tI (x2 + 1)), (1, tI (x1 + (zA μ14 a3 v13.toNatClampNeg))), (0, tR (some this))]) C dX3_beds_27 rfl (by first | rfl | decide) (by decide) rfl ?_
      refine z_goto C 4 dX3_beds_30 (by decide) ?_
      refine Z.sub [2, 1, 0] rfl ?_
      exact h26
/-! HutRidgeModel.bedsLeft()I -/
def Tr_X3_bedsLeft (w : WT) (this : Nat) (μ : Mem) (mc ms : Nat) (K : Out → Mem → Prop) : Prop := Tr w yX3_bedsLeft (ws_ yX3_bedsLeft cX3_bedsLeft 1 (Option.some Jvm.ClassFile.FieldType.int)) 3 83 [tR (some this)] μ mc ms K
def Cx_X3_bedsLeft (w : WT) (g : GT) : Prop := Cx w g yX3_bedsLeft cX3_bedsLeft 1 (Option.some Jvm.ClassFile.FieldType.int) [] 3 83
theorem yd_X3_bedsLeft : yX3_bedsLeft.cls ≠ "java/lang/invoke/MethodHandle" ∧ yX3_bedsLeft.cls ≠ "java/lang/invoke/VarHandle" ∧ (parseMethodDescriptor yX3_bedsLeft.desc).map (fun d => d.parameters.length) = some 0 := by decide +kernel
set_option maxHeartbeats 4000000 in
theorem tr_X3_bedsLeft {w : WT} {this : Nat} {μ : Mem} {mc ms : Nat} {K : Out → Mem → Prop} (h : zM w μ → zC μ this = 18 ∧ ∀ μ3 : Mem, μ3 = zsI μ 57 this 0 → Tr_X3_beds w this μ3 0 0 (zKi (fun v7 μ8 => zM w μ8 → zC μ8 this = 18 ∧ ∃ a19 : Nat, (zR μ8 63 this) = some a19 ∧ zC μ8 a19 = 101 ∧ vp_in (nI 3) (zN μ8 a19) ∧ (v7 ≤ (zA μ8 a19 3) → K (.inl (some (tI 0))) μ8) ∧ (¬ v7 ≤ (zA μ8 a19 3) → Tr_X3_beds w this μ8 0 0 (zKi (fun v29 μ30 => zM w μ30 → zC μ30 this = 18 ∧ ∃ a41 : Nat, (zR μ30 63 this) = some a41 ∧ zC μ30 a41 = 101 ∧ vp_in (nI 3) (zN μ30 a41) ∧ K (.inl (some (tI (v29 - (zA μ30 a41 3))))) μ30) (fun q31 μ32 => False)))) (fun q9 μ10 => False))) : Tr_X3_bedsLeft w this μ mc ms K := by
  refine Tr.of (by decide +kernel) (Nat.le_of_ble_eq_true rfl) (fun g C => ?_)
  show Z w g K mc ms 0 [(0, tR (some this))] [] μ 0 0
  refine Z.wm fun m0 => ?_
  have h := h m0
  refine z_aload_n C dX3_bedsLeft_0 0 rfl ?_
  refine z_iconst (v := 0) C dX3_bedsLeft_1 (by decide) ?_
  obtain ⟨c1, h2⟩ := h
  refine z_putI C rfl (zFpOf c1 (zp_X3_56_18 rfl)) (Or.inl (zFzOf c1 rfl)) rfl rfl dX3_bedsLeft_2 ?_
  refine Z.mem fun μ3 e5 => ?_
  have h4 := h2 μ3 e5
  have c6 : zC μ3 this = 18 := by rw [e5]; exact c1
  refine z_aload_n C dX3_bedsLeft_5 0 rfl ?_
  refine Z.kk fun c15 c16 => ?_
  have k14 := h4
  refine z_callV (as := []) (rest := []) C k14 rfl rfl (by decide) c6 rfl q3959 q3961 qs89 q113 q3962 yd_X3_beds (by decide) (Nat.le_of_ble_eq_true rfl) dX3_bedsLeft_6 c15 c16 (zRet_i fun v7 μ8 h13 => ?_) (zThr_i fun _ _ z9 _ _ _ _ => z9.elim)
  · refine Z.wm fun m12 => ?_
    have h11 := h13 m12
    refine z_aload_n C dX3_bedsLeft_9 0 rfl ?_
    obtain ⟨c17, h18⟩ := h11
    refine z_getR C rfl (zFdOf c17 zf_X3_16_18) dX3_bedsLeft_10 ?_
    refine z_iconst (v := (nI 3)) C dX3_bedsLeft_13 (by decide) ?_
    obtain ⟨a19, e20, h21⟩ := h18
    obtain ⟨c22, h23⟩ := h21
    obtain ⟨c24, h25⟩ := h23
    refine z_iald C e20 c22 c24 dX3_bedsLeft_14 ?_
    refine z_icmp_le C 32 dX3_bedsLeft_15 (by decide) (fun c28 => ?_) (fun c28 => ?_)
    · have h26 := h25.1 c28
      refine z_iconst (v := 0) C dX3_bedsLeft_32 (by decide) ?_
      exact z_ireturn C rfl rfl dX3_bedsLeft_33 h26
    · have h27 := h25.2 c28
      refine z_aload_n C dX3_bedsLeft_18 0 rfl ?_
      refine Z.kk fun c37 c38 => ?_
      have k36 := h27
      refine z_callV (as := []) (rest := []) C k36 rfl rfl (by decide) c17 rfl q3959 q3961 qs89 q113 q3962 yd_X3_beds (by decide) (Nat.le_of_ble_eq_true rfl) dX3_bedsLeft_19 c37 c38 (zRet_i fun v29 μ30 h35 => ?_) (zThr_i fun _ _ z9 _ _ _ _ => z9.elim)
      · refine Z.wm fun m34 => ?_
        have h33 := h35 m34
        refine z_aload_n C dX3_bedsLeft_22 0 rfl ?_
        obtain ⟨c39, h40⟩ := h33
        refine z_getR C rfl (zFdOf c39 zf_X3_16_18) dX3_bedsLeft_23 ?_
        refine z_iconst (v := (nI 3)) C dX3_bedsLeft_26 (by decide) ?_
        obtain ⟨a41, e42, h43⟩ := h40
        obtain ⟨c44, h45⟩ := h43
        obtain ⟨c46, h47⟩ := h45
        refine z_iald C e42 c44 c46 dX3_bedsLeft_27 ?_
        refine z_isub C dX3_bedsLeft_28 ?_
        refine z_goto C 33 dX3_bedsLeft_29 (by decide) ?_
        exact z_ireturn C rfl rfl dX3_bedsLeft_33 h47
/-! HutRidgeModel.builtTotal()I -/
def Tr_X3_builtTotal (w : WT) (this : Nat) (μ : Mem) (mc ms : Nat) (K : Out → Mem → Prop) : Prop := Tr w yX3_builtTotal (ws_ yX3_builtTotal cX3_builtTotal 1 (Option.some Jvm.ClassFile.FieldType.int)) 2 61 [tR (some this)] μ mc ms K
def Cx_X3_builtTotal (w : WT) (g : GT) : Prop := Cx w g yX3_builtTotal cX3_builtTotal 1 (Option.some Jvm.ClassFile.FieldType.int) [] 2 61
theorem yd_X3_builtTotal : yX3_builtTotal.cls ≠ "java/lang/invoke/MethodHandle" ∧ yX3_builtTotal.cls ≠ "java/lang/invoke/VarHandle" ∧ (parseMethodDescriptor yX3_builtTotal.desc).map (fun d => d.parameters.length) = some 0 := by decide +kernel
set_option maxHeartbeats 4000000 in
theorem tr_X3_builtTotal {w : WT} {this : Nat} {μ : Mem} {mc ms : Nat} {K : Out → Mem → Prop} (h : zM w μ → zC μ this = 18 ∧ Tr_X3_tells w this (nI 4) μ 0 0 (zKi (fun v3 μ4 => zM w μ4 → K (.inl (some (tI v3))) μ4) (fun q5 μ6 => False))) : Tr_X3_builtTotal w this μ mc ms K := by
  refine Tr.of (by decide +kernel) (Nat.le_of_ble_eq_true rfl) (fun g C => ?_)
  show Z w g K mc ms 0 [(0, tR (some this))] [] μ 0 0
  refine Z.wm fun m0 => ?_
  have h := h m0
  refine z_aload_n C dX3_builtTotal_0 0 rfl ?_
  refine z_iconst (v := (nI 4)) C dX3_builtTotal_1 (by decide) ?_
  obtain ⟨c1, h2⟩ := h
  refine Z.kk fun c11 c12 => ?_
  have k10 := h2
  refine z_callV (as := [tI (nI 4)]) (rest := []) C k10 rfl rfl (by decide) c1 rfl q3792 q3794 qs76 q113 q3795 yd_X3_tells (by decide) (Nat.le_of_ble_eq_true rfl) dX3_builtTotal_2 c11 c12 (zRet_i fun v3 μ4 h9 => ?_) (zThr_i fun _ _ z9 _ _ _ _ => z9.elim)
  · refine Z.wm fun m8 => ?_
    have h7 := h9 m8
    exact z_ireturn C rfl rfl dX3_builtTotal_5 h7
/-! HutRidgeModel.hutsByAccounts()I -/
def Tr_X3_hutsByAccounts (w : WT) (this : Nat) (μ : Mem) (mc ms : Nat) (K : Out → Mem → Prop) : Prop := Tr w yX3_hutsByAccounts (ws_ yX3_hutsByAccounts cX3_hutsByAccounts 1 (Option.some Jvm.ClassFile.FieldType.int)) 1 40 [tR (some this)] μ mc ms K
def Cx_X3_hutsByAccounts (w : WT) (g : GT) : Prop := Cx w g yX3_hutsByAccounts cX3_hutsByAccounts 1 (Option.some Jvm.ClassFile.FieldType.int) [] 1 40
theorem yd_X3_hutsByAccounts : yX3_hutsByAccounts.cls ≠ "java/lang/invoke/MethodHandle" ∧ yX3_hutsByAccounts.cls ≠ "java/lang/invoke/VarHandle" ∧ (parseMethodDescriptor yX3_hutsByAccounts.desc).map (fun d => d.parameters.length) = some 0 := by decide +kernel
set_option maxHeartbeats 4000000 in
theorem tr_X3_hutsByAccounts {w : WT} {this : Nat} {μ : Mem} {mc ms : Nat} {K : Out → Mem → Prop} (h : zM w μ → zC μ this = 18 ∧ ∀ μ3 : Mem, μ3 = zsI μ 57 this 0 → ∃ a7 : Nat, (zR μ3 63 this) = some a7 ∧ zC μ3 a7 = 101 ∧ vp_in (nI 4) (zN μ3 a7) ∧ vp_in (nI 5) (zN μ3 a7) ∧ K (.inl (some (tI ((zA μ3 a7 4) - (zA μ3 a7 5))))) μ3) : Tr_X3_hutsByAccounts w this μ mc ms K := by
  refine Tr.of (by decide +kernel) (Nat.le_of_ble_eq_true rfl) (fun g C => ?_)
  show Z w g K mc ms 0 [(0, tR (some this))] [] μ 0 0
  refine Z.wm fun m0 => ?_
  have h := h m0
  refine z_aload_n C dX3_hutsByAccounts_0 0 rfl ?_
  refine z_iconst (v := 0) C dX3_hutsByAccounts_1 (by decide) ?_
  obtain ⟨c1, h2⟩ := h
  refine z_putI C rfl (zFpOf c1 (zp_X3_56_18 rfl)) (Or.inl (zFzOf c1 rfl)) rfl rfl dX3_hutsByAccounts_2 ?_
  refine Z.mem fun μ3 e5 => ?_
  have h4 := h2 μ3 e5
  have c6 : zC μ3 this = 18 := by rw [e5]; exact c1
  refine z_aload_n C dX3_hutsByAccounts_5 0 rfl ?_
  refine z_getR C rfl (zFdOf c6 zf_X3_16_18) dX3_hutsByAccounts_6 ?_
  refine z_iconst (v := (nI 4)) C dX3_hutsByAccounts_9 (by decide) ?_
  obtain ⟨a7, e8, h9⟩ := h4
  obtain ⟨c10, h11⟩ := h9
  obtain ⟨c12, h13⟩ := h11
  refine z_iald C e8 c10 c12 dX3_hutsByAccounts_10 ?_
  refine z_aload_n C dX3_hutsByAccounts_11 0 rfl ?_
  refine z_getR C rfl (zFdOf c6 zf_X3_16_18) dX3_hutsByAccounts_12 ?_
  refine z_iconst (v := (nI 5)) C dX3_hutsByAccounts_15 (by decide) ?_
  obtain ⟨c14, h15⟩ := h13
  refine z_iald C e8 c10 c14 dX3_hutsByAccounts_16 ?_
  refine z_isub C dX3_hutsByAccounts_17 ?_
  exact z_ireturn C rfl rfl dX3_hutsByAccounts_18 h15
/-! HutRidgeModel.bedTotal()I -/
def Tr_X3_bedTotal (w : WT) (this : Nat) (μ : Mem) (mc ms : Nat) (K : Out → Mem → Prop) : Prop := Tr w yX3_bedTotal (ws_ yX3_bedTotal cX3_bedTotal 1 (Option.some Jvm.ClassFile.FieldType.int)) 3 83 [tR (some this)] μ mc ms K
def Cx_X3_bedTotal (w : WT) (g : GT) : Prop := Cx w g yX3_bedTotal cX3_bedTotal 1 (Option.some Jvm.ClassFile.FieldType.int) [] 3 83
theorem yd_X3_bedTotal : yX3_bedTotal.cls ≠ "java/lang/invoke/MethodHandle" ∧ yX3_bedTotal.cls ≠ "java/lang/invoke/VarHandle" ∧ (parseMethodDescriptor yX3_bedTotal.desc).map (fun d => d.parameters.length) = some 0 := by decide +kernel
set_option maxHeartbeats 4000000 in
theorem tr_X3_bedTotal {w : WT} {this : Nat} {μ : Mem} {mc ms : Nat} {K : Out → Mem → Prop} (h : zM w μ → zC μ this = 18 ∧ ∀ μ3 : Mem, μ3 = zsI μ 57 this 0 → Tr_X3_beds w this μ3 0 0 (zKi (fun v7 μ8 => zM w μ8 → K (.inl (some (tI v7))) μ8) (fun q9 μ10 => False))) : Tr_X3_bedTotal w this μ mc ms K := by
  refine Tr.of (by decide +kernel) (Nat.le_of_ble_eq_true rfl) (fun g C => ?_)
  show Z w g K mc ms 0 [(0, tR (some this))] [] μ 0 0
  refine Z.wm fun m0 => ?_
  have h := h m0
  refine z_aload_n C dX3_bedTotal_0 0 rfl ?_
  refine z_iconst (v := 0) C dX3_bedTotal_1 (by decide) ?_
  obtain ⟨c1, h2⟩ := h
  refine z_putI C rfl (zFpOf c1 (zp_X3_56_18 rfl)) (Or.inl (zFzOf c1 rfl)) rfl rfl dX3_bedTotal_2 ?_
  refine Z.mem fun μ3 e5 => ?_
  have h4 := h2 μ3 e5
  have c6 : zC μ3 this = 18 := by rw [e5]; exact c1
  refine z_aload_n C dX3_bedTotal_5 0 rfl ?_
  refine Z.kk fun c15 c16 => ?_
  have k14 := h4
  refine z_callV (as := []) (rest := []) C k14 rfl rfl (by decide) c6 rfl q3959 q3961 qs89 q113 q3962 yd_X3_beds (by decide) (Nat.le_of_ble_eq_true rfl) dX3_bedTotal_6 c15 c16 (zRet_i fun v7 μ8 h13 => ?_) (zThr_i fun _ _ z9 _ _ _ _ => z9.elim)
  · refine Z.wm fun m12 => ?_
    have h11 := h13 m12
    exact z_ireturn C rfl rfl dX3_bedTotal_9 h11
/-! HutRidgeModel.meanLevel()D -/
def Tr_X3_meanLevel (w : WT) (this : Nat) (μ : Mem) (mc ms : Nat) (K : Out → Mem → Prop) : Prop := Tr w yX3_meanLevel (ws_ yX3_meanLevel cX3_meanLevel 3 (Option.some Jvm.ClassFile.FieldType.double)) 3 82 [tR (some this)] μ mc ms K
def Cx_X3_meanLevel (w : WT) (g : GT) : Prop := Cx w g yX3_meanLevel cX3_meanLevel 3 (Option.some Jvm.ClassFile.FieldType.double) [] 3 82
theorem yd_X3_meanLevel : yX3_meanLevel.cls ≠ "java/lang/invoke/MethodHandle" ∧ yX3_meanLevel.cls ≠ "java/lang/invoke/VarHandle" ∧ (parseMethodDescriptor yX3_meanLevel.desc).map (fun d => d.parameters.length) = some 0 := by decide +kernel
def B_X3_meanLevel_22 (w : WT) (g : GT) (K : Out → Mem → Prop) (mc ms : Nat) (this : Nat) (x1 : Int32) (x2 : Int32)  (μ : Mem) (kc ks : Nat) : Prop := Z w g K mc ms 22 [(0, tR (some this)), (1, tI x1), (2, tI x2)] [] μ kc ks
set_option maxHeartbeats 4000000 in
theorem tr_X3_meanLevel {w : WT} {this : Nat} {μ : Mem} {mc ms : Nat} {K : Out → Mem → Prop} (h : ∀ g : GT, Cx_X3_meanLevel w g → zM w μ → zC μ this = 18 ∧ ∃ a3 : Nat, (zR μ 63 this) = some a3 ∧ zC μ a3 = 101 ∧ vp_in 0 (zN μ a3) ∧ ((zA μ a3 0) ≠ 0 → ∀ μ13 : Mem, μ13 = zsI μ 57 this 0 → B_X3_meanLevel_22 w g K mc ms this 0 0 μ13 0 0) ∧ ((zA μ a3 0) = 0 → ∀ μ18 : Mem, μ18 = zsI μ 57 this 1 → B_X3_meanLevel_22 w g K mc ms this 0 0 μ18 0 0)) : Tr_X3_meanLevel w this μ mc ms K := by
  refine Tr.of (by decide +kernel) (Nat.le_of_ble_eq_true rfl) (fun g C => ?_)
  show Z w g K mc ms 0 [(0, tR (some this))] [] μ 0 0
  refine Z.wm fun m0 => ?_
  have h := h g C m0
  refine z_aload_n C dX3_meanLevel_0 0 rfl ?_
  refine z_aload_n C dX3_meanLevel_1 0 rfl ?_
  obtain ⟨c1, h2⟩ := h
  refine z_getR C rfl (zFdOf c1 zf_X3_16_18) dX3_meanLevel_2 ?_
  refine z_iconst (v := 0) C dX3_meanLevel_5 (by decide) ?_
  obtain ⟨a3, e4, h5⟩ := h2
  obtain ⟨c6, h7⟩ := h5
  obtain ⟨c8, h9⟩ := h7
  refine z_iald C e4 c6 c8 dX3_meanLevel_6 ?_
  refine z_if_ne C 14 dX3_meanLevel_7 (by decide) (fun c12 => ?_) (fun c12 => ?_)
  · have h10 := h9.1 c12
    refine z_iconst (v := 0) C dX3_meanLevel_14 (by decide) ?_
    refine z_putI C rfl (zFpOf c1 (zp_X3_56_18 rfl)) (Or.inl (zFzOf c1 rfl)) rfl rfl dX3_meanLevel_15 ?_
    refine Z.mem fun μ13 e15 => ?_
    have h14 := h10 μ13 e15
    have c16 : zC μ13 this = 18 := by rw [e15]; exact c1
    have c17 : zC μ13 a3 = 101 := by rw [e15]; exact c6
    refine z_iconst (v := 0) C dX3_meanLevel_18 (by decide) ?_
    refine z_istore_n (lv' := [(1, tI 0), (0, tR (some this))]) C dX3_meanLevel_19 (by decide) rfl ?_
    refine z_iconst (v := 0) C dX3_meanLevel_20 (by decide) ?_
    refine z_istore_n (lv' := [(2, tI 0), (1, tI 0), (0, tR (some this))]) C dX3_meanLevel_21 (by decide) rfl ?_
    refine Z.sub [2, 1, 0] rfl ?_
    exact h14
  · have h11 := h9.2 c12
    refine z_iconst (v := 1) C dX3_meanLevel_10 (by decide) ?_
    refine z_goto C 15 dX3_meanLevel_11 (by decide) ?_
    refine z_putI C rfl (zFpOf c1 (zp_X3_56_18 rfl)) (Or.inl (zFzOf c1 rfl)) rfl rfl dX3_meanLevel_15 ?_
    refine Z.mem fun μ18 e20 => ?_
    have h19 := h11 μ18 e20
    have c21 : zC μ18 this = 18 := by rw [e20]; exact c1
    have c22 : zC μ18 a3 = 101 := by rw [e20]; exact c6
    refine z_iconst (v := 0) C dX3_meanLevel_18 (by decide) ?_
    refine z_istore_n (lv' := [(1, tI 0), (0, tR (some this))]) C dX3_meanLevel_19 (by decide) rfl ?_
    refine z_iconst (v := 0) C dX3_meanLevel_20 (by decide) ?_
    refine z_istore_n (lv' := [(2, tI 0), (1, tI 0), (0, tR (some this))]) C dX3_meanLevel_21 (by decide) rfl ?_
    refine Z.sub [2, 1, 0] rfl ?_
    exact h19
set_option maxHeartbeats 4000000 in
theorem bk_X3_meanLevel_22 {w : WT} {g : GT} {K : Out → Mem → Prop} {mc ms : Nat} {this : Nat} {x1 : Int32} {x2 : Int32}  {μ : Mem} {kc ks : Nat} (C : Cx_X3_meanLevel w g) (h : zM w μ → zC μ this = 18 ∧ ∃ a3 : Nat, (zR μ 63 this) = some a3 ∧ zC μ a3 = 101 ∧ vp_in 0 (zN μ a3) ∧ ((zA μ a3 0) ≤ x2 → ((zI μ 57 this) ≠ 0 → K (.inl (some (tD (FP.dconst0)))) μ) ∧ ((zI μ 57 this) = 0 → vp_in 0 (zN μ a3) ∧ vf_n64 (FP.ddiv (FP.i2d x1) (FP.i2d (zA μ a3 0))) ∧ K (.inl (some (tD (FP.ddiv (FP.i2d x1) (FP.i2d (zA μ a3 0)))))) μ)) ∧ (¬ (zA μ a3 0) ≤ x2 → Tr_X3_level w this x2 μ 0 0 (zKi (fun v20 μ21 => zM w μ21 → B_X3_meanLevel_22 w g K mc ms this (x1 + v20) (x2 + 1) μ21 kc ks) (fun q22 μ23 => False)))) : B_X3_meanLevel_22 w g K mc ms this x1 x2 μ kc ks := by
  unfold Cx_X3_meanLevel at C
  unfold B_X3_meanLevel_22
  refine Z.wm fun m0 => ?_
  have h := h m0
  refine z_iload_n C dX3_meanLevel_22 2 rfl ?_
  refine z_aload_n C dX3_meanLevel_23 0 rfl ?_
  obtain ⟨c1, h2⟩ := h
  refine z_getR C rfl (zFdOf c1 zf_X3_16_18) dX3_meanLevel_24 ?_
  refine z_iconst (v := 0) C dX3_meanLevel_27 (by decide) ?_
  obtain ⟨a3, e4, h5⟩ := h2
  obtain ⟨c6, h7⟩ := h5
  obtain ⟨c8, h9⟩ := h7
  refine z_iald C e4 c6 c8 dX3_meanLevel_28 ?_
  refine z_icmp_ge C 46 dX3_meanLevel_29 (by decide) (fun c12 => ?_) (fun c12 => ?_)
  · have h10 := h9.1 c12
    refine z_aload_n C dX3_meanLevel_46 0 rfl ?_
    refine z_getI C rfl (zFdOf c1 zf_X3_56_18) dX3_meanLevel_47 ?_
    refine z_if_ne C 66 dX3_meanLevel_50 (by decide) (fun c15 => ?_) (fun c15 => ?_)
    · have h13 := h10.1 c15
      refine z_dconst0 C dX3_meanLevel_66 ?_
      exact z_dreturn C rfl dX3_meanLevel_67 h13
    · have h14 := h10.2 c15
      refine z_iload_n C dX3_meanLevel_53 1 rfl ?_
      refine z_i2d C dX3_meanLevel_54 ?_
      refine z_aload_n C dX3_meanLevel_55 0 rfl ?_
      refine z_getR C rfl (zFdOf c1 zf_X3_16_18) dX3_meanLevel_56 ?_
      refine z_iconst (v := 0) C dX3_meanLevel_59 (by decide) ?_
      obtain ⟨c16, h17⟩ := h14
      refine z_iald C e4 c6 c16 dX3_meanLevel_60 ?_
      refine z_i2d C dX3_meanLevel_61 ?_
      obtain ⟨c19, h18⟩ := h17
      refine z_ddiv C dX3_meanLevel_62 c19 ?_
      refine z_goto C 67 dX3_meanLevel_63 (by decide) ?_
      exact z_dreturn C rfl dX3_meanLevel_67 h18
  · have h11 := h9.2 c12
    refine z_iload_n C dX3_meanLevel_32 1 rfl ?_
    refine z_aload_n C dX3_meanLevel_33 0 rfl ?_
    refine z_iload_n C dX3_meanLevel_34 2 rfl ?_
    refine Z.kk fun c28 c29 => ?_
    have k27 := h11
    refine z_callV (as := [tI x2]) (rest := [tI x1]) C k27 rfl rfl (by decide) c1 rfl q3733 q3735 qs68 q113 q3736 yd_X3_level (by decide) (Nat.le_of_ble_eq_true rfl) dX3_meanLevel_35 c28 c29 (zRet_i fun v20 μ21 h26 => ?_) (zThr_i fun _ _ z9 _ _ _ _ => z9.elim)
    · refine Z.wm fun m25 => ?_
      have h24 := h26 m25
      refine z_iadd C dX3_meanLevel_38 ?_
      refine z_istore_n (lv' := [(1, tI (x1 + v20)), (0, tR (some this)), (2, tI x2)]) C dX3_meanLevel_39 (by decide) rfl ?_
      refine z_iinc (k0 := 2) (v := x2 + 1) (lv' := [(2, tI (x2 + 1)), (1, tI (x1 + v20)), (0, tR (some this))]) C dX3_meanLevel_40 rfl (by first | rfl | decide) (by decide) rfl ?_
      refine z_goto C 22 dX3_meanLevel_43 (by decide) ?_
      refine Z.sub [2, 1, 0] rfl ?_
      exact h24
/-! HutRidgeModel.usableShare()F -/
def Tr_X3_usableShare (w : WT) (this : Nat) (μ : Mem) (mc ms : Nat) (K : Out → Mem → Prop) : Prop := Tr w yX3_usableShare (ws_ yX3_usableShare cX3_usableShare 5 (Option.some Jvm.ClassFile.FieldType.float)) 5 127 [tR (some this)] μ mc ms K
def Cx_X3_usableShare (w : WT) (g : GT) : Prop := Cx w g yX3_usableShare cX3_usableShare 5 (Option.some Jvm.ClassFile.FieldType.float) [] 5 127
theorem yd_X3_usableShare : yX3_usableShare.cls ≠ "java/lang/invoke/MethodHandle" ∧ yX3_usableShare.cls ≠ "java/lang/invoke/VarHandle" ∧ (parseMethodDescriptor yX3_usableShare.desc).map (fun d => d.parameters.length) = some 0 := by decide +kernel
def B_X3_usableShare_6 (w : WT) (g : GT) (K : Out → Mem → Prop) (mc ms : Nat) (this : Nat) (x1 : Int32) (x2 : Int32) (x3 : Int32)  (μ : Mem) (kc ks : Nat) : Prop := Z w g K mc ms 6 [(0, tR (some this)), (1, tI x1), (2, tI x2), (3, tI x3)] [] μ kc ks
def B_X3_usableShare_19 (w : WT) (g : GT) (K : Out → Mem → Prop) (mc ms : Nat) (this : Nat) (x1 : Int32) (x2 : Int32) (x3 : Int32) (x4 : Int32)  (μ : Mem) (kc ks : Nat) : Prop := Z w g K mc ms 19 [(0, tR (some this)), (1, tI x1), (2, tI x2), (3, tI x3), (4, tI x4)] [] μ kc ks
def B_X3_usableShare_45 (w : WT) (g : GT) (K : Out → Mem → Prop) (mc ms : Nat) (this : Nat) (x2 : Int32) (x3 : Int32) (x4 : Int32) (s0 : Int32) (s1 : Int32) (μ : Mem) (kc ks : Nat) : Prop := Z w g K mc ms 45 [(0, tR (some this)), (2, tI x2), (3, tI x3), (4, tI x4)] [tI s0, tI s1] μ kc ks
def B_X3_usableShare_87 (w : WT) (g : GT) (K : Out → Mem → Prop) (mc ms : Nat) (this : Nat) (x1 : Int32) (x2 : Int32) (s0 : Int32) (s1 : Option Nat) (μ : Mem) (kc ks : Nat) : Prop := Z w g K mc ms 87 [(0, tR (some this)), (1, tI x1), (2, tI x2)] [tI s0, tR s1] μ kc ks
set_option maxHeartbeats 4000000 in
theorem tr_X3_usableShare {w : WT} {this : Nat} {μ : Mem} {mc ms : Nat} {K : Out → Mem → Prop} (h : ∀ g : GT, Cx_X3_usableShare w g → zM w μ → B_X3_usableShare_6 w g K mc ms this 0 0 0 μ 0 0) : Tr_X3_usableShare w this μ mc ms K := by
  refine Tr.of (by decide +kernel) (Nat.le_of_ble_eq_true rfl) (fun g C => ?_)
  show Z w g K mc ms 0 [(0, tR (some this))] [] μ 0 0
  refine Z.wm fun m0 => ?_
  have h := h g C m0
  refine z_iconst (v := 0) C dX3_usableShare_0 (by decide) ?_
  refine z_istore_n (lv' := [(1, tI 0), (0, tR (some this))]) C dX3_usableShare_1 (by decide) rfl ?_
  refine z_iconst (v := 0) C dX3_usableShare_2 (by decide) ?_
  refine z_istore_n (lv' := [(2, tI 0), (1, tI 0), (0, tR (some this))]) C dX3_usableShare_3 (by decide) rfl ?_
  refine z_iconst (v := 0) C dX3_usableShare_4 (by decide) ?_
  refine z_istore_n (lv' := [(3, tI 0), (2, tI 0), (1, tI 0), (0, tR (some this))]) C dX3_usableShare_5 (by decide) rfl ?_
  refine Z.sub [3, 2, 1, 0] rfl ?_
  exact h
set_option maxHeartbeats 4000000 in
theorem bk_X3_usableShare_6 {w : WT} {g : GT} {K : Out → Mem → Prop} {mc ms : Nat} {this : Nat} {x1 : Int32} {x2 : Int32} {x3 : Int32}  {μ : Mem} {kc ks : Nat} (C : Cx_X3_usableShare w g) (h : zM w μ → zC μ this = 18 ∧ ∃ a3 : Nat, (zR μ 63 this) = some a3 ∧ zC μ a3 = 101 ∧ vp_in 0 (zN μ a3) ∧ ((zA μ a3 0) ≤ x3 → (x1 ≠ 0 → B_X3_usableShare_87 w g K mc ms this x1 x2 0 (some this) μ kc ks) ∧ (x1 = 0 → B_X3_usableShare_87 w g K mc ms this x1 x2 1 (some this) μ kc ks)) ∧ (¬ (zA μ a3 0) ≤ x3 → B_X3_usableShare_19 w g K mc ms this x1 x2 x3 0 μ kc ks)) : B_X3_usableShare_6 w g K mc ms this x1 x2 x3 μ kc ks := by
  unfold Cx_X3_usableShare at C
  unfold B_X3_usableShare_6
  refine Z.wm fun m0 => ?_
  have h := h m0
  refine z_iload_n C dX3_usableShare_6 3 rfl ?_
  refine z_aload_n C dX3_usableShare_7 0 rfl ?_
  obtain ⟨c1, h2⟩ := h
  refine z_getR C rfl (zFdOf c1 zf_X3_16_18) dX3_usableShare_8 ?_
  refine z_iconst (v := 0) C dX3_usableShare_11 (by decide) ?_
  obtain ⟨a3, e4, h5⟩ := h2
  obtain ⟨c6, h7⟩ := h5
  obtain ⟨c8, h9⟩ := h7
  refine z_iald C e4 c6 c8 dX3_usableShare_12 ?_
  refine z_icmp_ge C 77 dX3_usableShare_13 (by decide) (fun c12 => ?_) (fun c12 => ?_)
  · have h10 := h9.1 c12
    refine z_aload_n C dX3_usableShare_77 0 rfl ?_
    refine z_iload_n C dX3_usableShare_78 1 rfl ?_
    refine z_if_ne C 86 dX3_usableShare_79 (by decide) (fun c15 => ?_) (fun c15 => ?_)
    · have h13 := h10.1 c15
      refine z_iconst (v := 0) C dX3_usableShare_86 (by decide) ?_
      refine Z.sub [0, 1, 2] rfl ?_
      exact h13
    · have h14 := h10.2 c15
      refine z_iconst (v := 1) C dX3_usableShare_82 (by decide) ?_
      refine z_goto C 87 dX3_usableShare_83 (by decide) ?_
      refine Z.sub [0, 1, 2] rfl ?_
      exact h14
  · have h11 := h9.2 c12
    refine z_iconst (v := 0) C dX3_usableShare_16 (by decide) ?_
    refine z_istore (lv' := [(4, tI 0), (0, tR (some this)), (1, tI x1), (2, tI x2), (3, tI x3)]) C dX3_usableShare_17 (by decide) rfl ?_
    refine Z.sub [1, 2, 3, 4, 0] rfl ?_
    exact h11
set_option maxHeartbeats 4000000 in
theorem bk_X3_usableShare_19 {w : WT} {g : GT} {K : Out → Mem → Prop} {mc ms : Nat} {this : Nat} {x1 : Int32} {x2 : Int32} {x3 : Int32} {x4 : Int32}  {μ : Mem} {kc ks : Nat} (C : Cx_X3_usableShare w g) (h : zM w μ → zC μ this = 18 ∧ Tr_X3_level w this x3 μ 0 0 (zKi (fun v3 μ4 => zM w μ4 → (v3 < x4 → B_X3_usableShare_6 w g K mc ms this x1 x2 (x3 + 1) μ4 kc ks) ∧ (¬ v3 < x4 → zC μ4 this = 18 ∧ Tr_X3_next w this x3 x4 μ4 0 0 (zKi (fun v18 μ19 => zM w μ19 → (v18 < 0 → B_X3_usableShare_45 w g K mc ms this x2 x3 x4 0 x1 μ19 kc ks) ∧ (¬ v18 < 0 → B_X3_usableShare_45 w g K mc ms this x2 x3 x4 1 x1 μ19 kc ks)) (fun q20 μ21 => False)))) (fun q5 μ6 => False))) : B_X3_usableShare_19 w g K mc ms this x1 x2 x3 x4 μ kc ks := by
  unfold Cx_X3_usableShare at C
  unfold B_X3_usableShare_19
  refine Z.wm fun m0 => ?_
  have h := h m0
  refine z_iload C dX3_usableShare_19 4 rfl ?_
  refine z_aload_n C dX3_usableShare_21 0 rfl ?_
  refine z_iload_n C dX3_usableShare_22 3 rfl ?_
  obtain ⟨c1, h2⟩ := h
  refine Z.kk fun c11 c12 => ?_
  have k10 := h2
  refine z_callV (as := [tI x3]) (rest := [tI x4]) C k10 rfl rfl (by decide) c1 rfl q3733 q3735 qs68 q113 q3736 yd_X3_level (by decide) (Nat.le_of_ble_eq_true rfl) dX3_usableShare_23 c11 c12 (zRet_i fun v3 μ4 h9 => ?_) (zThr_i fun _ _ z9 _ _ _ _ => z9.elim)
  · refine Z.wm fun m8 => ?_
    have h7 := h9 m8
    refine z_icmp_gt C 71 dX3_usableShare_26 (by decide) (fun c15 => ?_) (fun c15 => ?_)
    · have h13 := h7.1 c15
      refine z_iinc (k0 := 3) (v := x3 + 1) (lv' := [(3, tI (x3 + 1)), (0, tR (some this)), (1, tI x1), (2, tI x2), (4, tI x4)]) C dX3_usableShare_71 rfl (by first | rfl | decide) (by decide) rfl ?_
      refine z_goto C 6 dX3_usableShare_74 (by decide) ?_
      refine Z.sub [1, 2, 3, 0] rfl ?_
      exact h13
    · have h14 := h7.2 c15
      refine z_iload_n C dX3_usableShare_29 1 rfl ?_
      refine z_aload_n C dX3_usableShare_30 0 rfl ?_
      refine z_iload_n C dX3_usableShare_31 3 rfl ?_
      refine z_iload C dX3_usableShare_32 4 rfl ?_
      obtain ⟨c16, h17⟩ := h14
      refine Z.kk fun c26 c27 => ?_
      have k25 := h17
      refine z_callV (as := [tI x3, tI x4]) (rest := [tI x1]) C k25 rfl rfl (by decide) c16 rfl q3828 q3830 qs80 q113 q3831 yd_X3_next (by decide) (Nat.le_of_ble_eq_true rfl) dX3_usableShare_34 c26 c27 (zRet_i fun v18 μ19 h24 => ?_) (zThr_i fun _ _ z9 _ _ _ _ => z9.elim)
      · refine Z.wm fun m23 => ?_
        have h22 := h24 m23
        refine z_if_lt C 44 dX3_usableShare_37 (by decide) (fun c30 => ?_) (fun c30 => ?_)
        · have h28 := h22.1 c30
          refine z_iconst (v := 0) C dX3_usableShare_44 (by decide) ?_
          refine Z.sub [0, 2, 3, 4] rfl ?_
          exact h28
        · have h29 := h22.2 c30
          refine z_iconst (v := 1) C dX3_usableShare_40 (by decide) ?_
          refine z_goto C 45 dX3_usableShare_41 (by decide) ?_
          refine Z.sub [0, 2, 3, 4] rfl ?_
          exact h29
set_option maxHeartbeats 4000000 in
theorem bk_X3_usableShare_45 {w : WT} {g : GT} {K : Out → Mem → Prop} {mc ms : Nat} {this : Nat} {x2 : Int32} {x3 : Int32} {x4 : Int32} {s0 : Int32} {s1 : Int32} {μ : Mem} {kc ks : Nat} (C : Cx_X3_usableShare w g) (h : zM w μ → zC μ this = 18 ∧ Tr_X3_isUsable w this x3 x4 μ 0 0 (zKi (fun v3 μ4 => zM w μ4 → (v3 = 0 → B_X3_usableShare_19 w g K mc ms this (s1 + s0) (x2 + (0 : Int32)) x3 (x4 + 1) μ4 kc ks) ∧ (¬ v3 = 0 → B_X3_usableShare_19 w g K mc ms this (s1 + s0) (x2 + (1 : Int32)) x3 (x4 + 1) μ4 kc ks)) (fun q5 μ6 => False))) : B_X3_usableShare_45 w g K mc ms this x2 x3 x4 s0 s1 μ kc ks := by
  unfold Cx_X3_usableShare at C
  unfold B_X3_usableShare_45
  refine Z.wm fun m0 => ?_
  have h := h m0
  refine z_iadd C dX3_usableShare_45 ?_
  refine z_istore_n (lv' := [(1, tI (s1 + s0)), (0, tR (some this)), (2, tI x2), (3, tI x3), (4, tI x4)]) C dX3_usableShare_46 (by decide) rfl ?_
  refine z_iload_n C dX3_usableShare_47 2 rfl ?_
  refine z_aload_n C dX3_usableShare_48 1 rfl ?_
  refine z_iload_n C dX3_usableShare_49 3 rfl ?_
  refine z_iload C dX3_usableShare_50 4 rfl ?_
  obtain ⟨c1, h2⟩ := h
  refine Z.kk fun c11 c12 => ?_
  have k10 := h2
  refine z_callV (as := [tI x3, tI x4]) (rest := [tI x2]) C k10 rfl rfl (by decide) c1 rfl q3897 q3899 qs84 q113 q3900 yd_X3_isUsable (by decide) (Nat.le_of_ble_eq_true rfl) dX3_usableShare_52 c11 c12 (zRet_i fun v3 μ4 h9 => ?_) (zThr_i fun _ _ z9 _ _ _ _ => z9.elim)
  · refine Z.wm fun m8 => ?_
    have h7 := h9 m8
    refine z_if_eq C 62 dX3_usableShare_55 (by decide) (fun c15 => ?_) (fun c15 => ?_)
    · have h13 := h7.1 c15
      refine z_iconst (v := 0) C dX3_usableShare_62 (by decide) ?_
      refine z_iadd C dX3_usableShare_63 ?_
      refine z_istore_n (lv' := [(2, tI (x2 + (0 : Int32))), (1, tI (s1 + s0)), (0, tR (some this)), (3, tI x3), (4, tI x4)]) C dX3_usableShare_64 (by decide) rfl ?_
      refine z_iinc (k0 := 4) (v := x4 + 1) (lv' := [(4, tI (x4 + 1)), (2, tI (x2 + (0 : Int32))), (1, tI (s1 + s0)), (0, tR (some this)), (3, tI x3)]) C dX3_usableShare_65 rfl (by first | rfl | decide) (by decide) rfl ?_
      refine z_goto C 19 dX3_usableShare_68 (by decide) ?_
      refine Z.sub [3, 2, 1, 4, 0] rfl ?_
      exact h13
    · have h14 := h7.2 c15
      refine z_iconst (v := 1) C dX3_usableShare_58 (by decide) ?_
      refine z_goto C 63 dX3_usableShare_59 (by decide) ?_
      refine z_iadd C dX3_usableShare_63 ?_
      refine z_istore_n (lv' := [(2, tI (x2 + (1 : Int32))), (1, tI (s1 + s0)), (0, tR (some this)), (3, tI x3), (4, tI x4)]) C dX3_usableShare_64 (by decide) rfl ?_
      refine z_iinc (k0 := 4) (v := x4 + 1) (lv' := [(4, tI (x4 + 1)), (2, tI (x2 + (1 : Int32))), (1, tI (s1 + s0)), (0, tR (some this)), (3, tI x3)]) C dX3_usableShare_65 rfl (by first | rfl | decide) (by decide) rfl ?_
      refine z_goto C 19 dX3_usableShare_68 (by decide) ?_
      refine Z.sub [3, 2, 1, 4, 0] rfl ?_
      exact h14
set_option maxHeartbeats 4000000 in
theorem bk_X3_usableShare_87 {w : WT} {g : GT} {K : Out → Mem → Prop} {mc ms : Nat} {this : Nat} {x1 : Int32} {x2 : Int32} {s0 : Int32} {s1 : Option Nat} {μ : Mem} {kc ks : Nat} (C : Cx_X3_usableShare w g) (h : zM w μ → ∃ a1 : Nat, s1 = some a1 ∧ zC μ a1 = 18 ∧ ∀ μ6 : Mem, μ6 = zsI μ 57 a1 s0 → zC μ6 this = 18 ∧ ((zI μ6 57 this) ≠ 0 → K (.inl (some (tF (FP.fconst0)))) μ6) ∧ ((zI μ6 57 this) = 0 → vf_n32 (FP.fdiv (FP.i2f x2) (FP.i2f x1)) ∧ K (.inl (some (tF (FP.fdiv (FP.i2f x2) (FP.i2f x1))))) μ6)) : B_X3_usableShare_87 w g K mc ms this x1 x2 s0 s1 μ kc ks := by
  unfold Cx_X3_usableShare at C
  unfold B_X3_usableShare_87
  refine Z.wm fun m0 => ?_
  have h := h m0
  obtain ⟨a1, e2, h3⟩ := h
  obtain ⟨c4, h5⟩ := h3
  refine z_putI C e2 (zFpOf c4 (zp_X3_56_18 rfl)) (Or.inl (zFzOf c4 rfl)) rfl rfl dX3_usableShare_87 ?_
  refine Z.mem fun μ6 e8 => ?_
  have h7 := h5 μ6 e8
  have c9 : zC μ6 a1 = 18 := by rw [e8]; exact c4
  refine z_aload_n C dX3_usableShare_90 0 rfl ?_
  obtain ⟨c10, h11⟩ := h7
  refine z_getI C rfl (zFdOf c10 zf_X3_56_18) dX3_usableShare_91 ?_
  refine z_if_ne C 105 dX3_usableShare_94 (by decide) (fun c14 => ?_) (fun c14 => ?_)
  · have h12 := h11.1 c14
    refine z_fconst0 C dX3_usableShare_105 ?_
    exact z_freturn C rfl dX3_usableShare_106 h12
  · have h13 := h11.2 c14
    refine z_iload_n C dX3_usableShare_97 2 rfl ?_
    refine z_i2f C dX3_usableShare_98 ?_
    refine z_iload_n C dX3_usableShare_99 1 rfl ?_
    refine z_i2f C dX3_usableShare_100 ?_
    obtain ⟨c16, h15⟩ := h13
    refine z_fdiv C dX3_usableShare_101 c16 ?_
    refine z_goto C 106 dX3_usableShare_102 (by decide) ?_
    exact z_freturn C rfl dX3_usableShare_106 h15
/-! HutRidgeModel.isConsistent()Z -/
def Tr_X3_isConsistent (w : WT) (this : Nat) (μ : Mem) (mc ms : Nat) (K : Out → Mem → Prop) : Prop := Tr w yX3_isConsistent (ws_ yX3_isConsistent cX3_isConsistent 1 (Option.some Jvm.ClassFile.FieldType.boolean)) 1 40 [tR (some this)] μ mc ms K
def Cx_X3_isConsistent (w : WT) (g : GT) : Prop := Cx w g yX3_isConsistent cX3_isConsistent 1 (Option.some Jvm.ClassFile.FieldType.boolean) [] 1 40
theorem yd_X3_isConsistent : yX3_isConsistent.cls ≠ "java/lang/invoke/MethodHandle" ∧ yX3_isConsistent.cls ≠ "java/lang/invoke/VarHandle" ∧ (parseMethodDescriptor yX3_isConsistent.desc).map (fun d => d.parameters.length) = some 0 := by decide +kernel
set_option maxHeartbeats 4000000 in
theorem tr_X3_isConsistent {w : WT} {this : Nat} {μ : Mem} {mc ms : Nat} {K : Out → Mem → Prop} (h : zM w μ → zC μ this = 18 ∧ ∀ μ3 : Mem, μ3 = zsI μ 57 this 0 → ∃ a7 : Nat, (zR μ3 63 this) = some a7 ∧ zC μ3 a7 = 101 ∧ vp_in 0 (zN μ3 a7) ∧ vp_in (nI 4) (zN μ3 a7) ∧ vp_in (nI 5) (zN μ3 a7) ∧ ((zA μ3 a7 0) ≠ ((zA μ3 a7 4) - (zA μ3 a7 5)) → K (.inl (some (tI 0))) μ3) ∧ ((zA μ3 a7 0) = ((zA μ3 a7 4) - (zA μ3 a7 5)) → K (.inl (some (tI 1))) μ3)) : Tr_X3_isConsistent w this μ mc ms K := by
  refine Tr.of (by decide +kernel) (Nat.le_of_ble_eq_true rfl) (fun g C => ?_)
  show Z w g K mc ms 0 [(0, tR (some this))] [] μ 0 0
  refine Z.wm fun m0 => ?_
  have h := h m0
  refine z_aload_n C dX3_isConsistent_0 0 rfl ?_
  refine z_iconst (v := 0) C dX3_isConsistent_1 (by decide) ?_
  obtain ⟨c1, h2⟩ := h
  refine z_putI C rfl (zFpOf c1 (zp_X3_56_18 rfl)) (Or.inl (zFzOf c1 rfl)) rfl rfl dX3_isConsistent_2 ?_
  refine Z.mem fun μ3 e5 => ?_
  have h4 := h2 μ3 e5
  have c6 : zC μ3 this = 18 := by rw [e5]; exact c1
  refine z_aload_n C dX3_isConsistent_5 0 rfl ?_
  refine z_getR C rfl (zFdOf c6 zf_X3_16_18) dX3_isConsistent_6 ?_
  refine z_iconst (v := 0) C dX3_isConsistent_9 (by decide) ?_
  obtain ⟨a7, e8, h9⟩ := h4
  obtain ⟨c10, h11⟩ := h9
  obtain ⟨c12, h13⟩ := h11
  refine z_iald C e8 c10 c12 dX3_isConsistent_10 ?_
  refine z_aload_n C dX3_isConsistent_11 0 rfl ?_
  refine z_getR C rfl (zFdOf c6 zf_X3_16_18) dX3_isConsistent_12 ?_
  refine z_iconst (v := (nI 4)) C dX3_isConsistent_15 (by decide) ?_
  obtain ⟨c14, h15⟩ := h13
  refine z_iald C e8 c10 c14 dX3_isConsistent_16 ?_
  refine z_aload_n C dX3_isConsistent_17 0 rfl ?_
  refine z_getR C rfl (zFdOf c6 zf_X3_16_18) dX3_isConsistent_18 ?_
  refine z_iconst (v := (nI 5)) C dX3_isConsistent_21 (by decide) ?_
  obtain ⟨c16, h17⟩ := h15
  refine z_iald C e8 c10 c16 dX3_isConsistent_22 ?_
  refine z_isub C dX3_isConsistent_23 ?_
  refine z_icmp_ne C 31 dX3_isConsistent_24 (by decide) (fun c20 => ?_) (fun c20 => ?_)
  · have h18 := h17.1 c20
    refine z_iconst (v := 0) C dX3_isConsistent_31 (by decide) ?_
    exact z_ireturn C rfl (by decide) dX3_isConsistent_32 h18
  · have h19 := h17.2 c20
    refine z_iconst (v := 1) C dX3_isConsistent_27 (by decide) ?_
    refine z_goto C 32 dX3_isConsistent_28 (by decide) ?_
    exact z_ireturn C rfl (by decide) dX3_isConsistent_32 h19
/-! HutRidgeModel.writes(I)V -/
def Tr_X3_writes (w : WT) (this : Nat) (x1 : Int32) (μ : Mem) (mc ms : Nat) (K : Out → Mem → Prop) : Prop := Tr w yX3_writes (ws_ yX3_writes cX3_writes 2 (Option.none : Option Jvm.ClassFile.FieldType)) 1 40 [tR (some this), tI x1] μ mc ms K
def Cx_X3_writes (w : WT) (g : GT) : Prop := Cx w g yX3_writes cX3_writes 2 (Option.none : Option Jvm.ClassFile.FieldType) [] 1 40
theorem yd_X3_writes : yX3_writes.cls ≠ "java/lang/invoke/MethodHandle" ∧ yX3_writes.cls ≠ "java/lang/invoke/VarHandle" ∧ (parseMethodDescriptor yX3_writes.desc).map (fun d => d.parameters.length) = some 1 := by decide +kernel
theorem zp_X3_198_18 {yy : MethodName} (hy : yy.cls = RX3) : zFp yy 198 79 false .int 18 := by obtain ⟨c0, n0, d0⟩ := yy; cases hy; exact ⟨22, _, _, _, _, _, zk_18, rfl, Or.inl q3616, Or.inl rfl, rfl, Or.inl rfl⟩
theorem zf_X3_198_18 : zFd RX3 198 79 false 18 := ⟨22, _, _, _, _, _, zk_18, rfl, Or.inl q3616, Or.inl rfl⟩
theorem zf_X3_41_18 : zFd RX3 41 71 true 18 := ⟨14, _, _, _, _, _, zk_18, rfl, Or.inl q3608, Or.inl rfl⟩
set_option maxHeartbeats 4000000 in
theorem tr_X3_writes {w : WT} {this : Nat} {x1 : Int32} {μ : Mem} {mc ms : Nat} {K : Out → Mem → Prop} (h : zM w μ → zC μ this = 18 ∧ ∃ a3 : Nat, (zR μ 71 this) = some a3 ∧ zC μ a3 = 101 ∧ zB w ≤ a3 ∧ vp_in (zI μ 79 this) (zN μ a3) ∧ ∀ μ12 : Mem, μ12 = zsA μ a3 (zI μ 79 this).toNatClampNeg x1 → ∀ μ16 : Mem, μ16 = zsI μ12 79 this ((zI μ12 79 this) + (1 : Int32)) → K (.inl none) μ16) : Tr_X3_writes w this x1 μ mc ms K := by
  refine Tr.of (by decide +kernel) (Nat.le_of_ble_eq_true rfl) (fun g C => ?_)
  show Z w g K mc ms 0 [(0, tR (some this)), (1, tI x1)] [] μ 0 0
  refine Z.wm fun m0 => ?_
  have h := h m0
  refine z_aload_n C dX3_writes_0 0 rfl ?_
  obtain ⟨c1, h2⟩ := h
  refine z_getR C rfl (zFdOf c1 zf_X3_41_18) dX3_writes_1 ?_
  refine z_aload_n C dX3_writes_4 0 rfl ?_
  refine z_getI C rfl (zFdOf c1 zf_X3_198_18) dX3_writes_5 ?_
  refine z_iload_n C dX3_writes_8 1 rfl ?_
  obtain ⟨a3, e4, h5⟩ := h2
  obtain ⟨c6, h7⟩ := h5
  obtain ⟨c8, c9, h10⟩ := h7
  refine z_iast C e4 c6 c8 c9 dX3_writes_9 ?_
  refine Z.mem fun μ12 e13 => ?_
  have h11 := h10 μ12 e13
  have c14 : zC μ12 this = 18 := by rw [e13]; exact c1
  have c15 : zC μ12 a3 = 101 := by rw [e13]; exact c6
  refine z_aload_n C dX3_writes_10 0 rfl ?_
  refine z_dup C dX3_writes_11 rfl ?_
  refine z_getI C rfl (zFdOf c14 zf_X3_198_18) dX3_writes_12 ?_
  refine z_iconst (v := 1) C dX3_writes_15 (by decide) ?_
  refine z_iadd C dX3_writes_16 ?_
  refine z_putI C rfl (zFpOf c14 (zp_X3_198_18 rfl)) (Or.inl (zFzOf c14 rfl)) rfl rfl dX3_writes_17 ?_
  refine Z.mem fun μ16 e18 => ?_
  have h17 := h11 μ16 e18
  have c19 : zC μ16 this = 18 := by rw [e18]; exact c14
  have c20 : zC μ16 a3 = 101 := by rw [e18]; exact c15
  exact z_vreturn C rfl dX3_writes_20 h17
/-! HutRidgeModel.writesNumber(I)V -/
def Tr_X3_writesNumber (w : WT) (this : Nat) (x1 : Int32) (μ : Mem) (mc ms : Nat) (K : Out → Mem → Prop) : Prop := Tr w yX3_writesNumber (ws_ yX3_writesNumber cX3_writesNumber 2 (Option.none : Option Jvm.ClassFile.FieldType)) 2 61 [tR (some this), tI x1] μ mc ms K
def Cx_X3_writesNumber (w : WT) (g : GT) : Prop := Cx w g yX3_writesNumber cX3_writesNumber 2 (Option.none : Option Jvm.ClassFile.FieldType) [] 2 61
theorem yd_X3_writesNumber : yX3_writesNumber.cls ≠ "java/lang/invoke/MethodHandle" ∧ yX3_writesNumber.cls ≠ "java/lang/invoke/VarHandle" ∧ (parseMethodDescriptor yX3_writesNumber.desc).map (fun d => d.parameters.length) = some 1 := by decide +kernel
def B_X3_writesNumber_17 (w : WT) (g : GT) (K : Out → Mem → Prop) (mc ms : Nat) (this : Nat) (x1 : Int32)  (μ : Mem) (kc ks : Nat) : Prop := Z w g K mc ms 17 [(0, tR (some this)), (1, tI x1)] [] μ kc ks
set_option maxHeartbeats 4000000 in
theorem tr_X3_writesNumber {w : WT} {this : Nat} {x1 : Int32} {μ : Mem} {mc ms : Nat} {K : Out → Mem → Prop} (h : ∀ g : GT, Cx_X3_writesNumber w g → zM w μ → (x1 ≤ (nI 9) → B_X3_writesNumber_17 w g K mc ms this x1 μ 0 0) ∧ (¬ x1 ≤ (nI 9) → zC μ this = 18 ∧ Tr_X3_writes w this ((nI 48) + (x1 / (nI 10))) μ 0 0 (zKv (fun μ9 => zM w μ9 → B_X3_writesNumber_17 w g K mc ms this x1 μ9 0 0) (fun q10 μ11 => False)))) : Tr_X3_writesNumber w this x1 μ mc ms K := by
  refine Tr.of (by decide +kernel) (Nat.le_of_ble_eq_true rfl) (fun g C => ?_)
  show Z w g K mc ms 0 [(0, tR (some this)), (1, tI x1)] [] μ 0 0
  refine Z.wm fun m0 => ?_
  have h := h g C m0
  refine z_iload_n C dX3_writesNumber_0 1 rfl ?_
  refine z_bipush (v := (nI 9)) C dX3_writesNumber_1 (by decide) ?_
  refine z_icmp_le C 17 dX3_writesNumber_3 (by decide) (fun c3 => ?_) (fun c3 => ?_)
  · have h1 := h.1 c3
    refine Z.sub [0, 1] rfl ?_
    exact h1
  · have h2 := h.2 c3
    refine z_aload_n C dX3_writesNumber_6 0 rfl ?_
    refine z_bipush (v := (nI 48)) C dX3_writesNumber_7 (by decide) ?_
    refine z_iload_n C dX3_writesNumber_9 1 rfl ?_
    refine z_bipush (v := (nI 10)) C dX3_writesNumber_10 (by decide) ?_
    refine z_idiv C dX3_writesNumber_12 (by decide) ?_
    refine z_iadd C dX3_writesNumber_13 ?_
    obtain ⟨c6, h7⟩ := h2
    refine Z.kk fun c16 c17 => ?_
    have k15 := h7
    refine z_callV (as := [tI ((nI 48) + (x1 / (nI 10)))]) (rest := []) C k15 rfl rfl (by decide) c6 rfl q3995 q3997 qs91 q113 q3998 yd_X3_writes (by decide) (Nat.le_of_ble_eq_true rfl) dX3_writesNumber_14 c16 c17 (zRet_v fun μ9 h14 => ?_) (zThr_v fun _ _ z9 _ _ _ _ => z9.elim)
    · refine Z.wm fun m13 => ?_
      have h12 := h14 m13
      refine Z.sub [0, 1] rfl ?_
      exact h12
set_option maxHeartbeats 4000000 in
theorem bk_X3_writesNumber_17 {w : WT} {g : GT} {K : Out → Mem → Prop} {mc ms : Nat} {this : Nat} {x1 : Int32}  {μ : Mem} {kc ks : Nat} (C : Cx_X3_writesNumber w g) (h : zM w μ → zC μ this = 18 ∧ Tr_X3_writes w this ((nI 48) + (x1 - x1 / (nI 10) * (nI 10))) μ 0 0 (zKv (fun μ6 => zM w μ6 → K (.inl none) μ6) (fun q7 μ8 => False))) : B_X3_writesNumber_17 w g K mc ms this x1 μ kc ks := by
  unfold Cx_X3_writesNumber at C
  unfold B_X3_writesNumber_17
  refine Z.wm fun m0 => ?_
  have h := h m0
  refine z_aload_n C dX3_writesNumber_17 0 rfl ?_
  refine z_bipush (v := (nI 48)) C dX3_writesNumber_18 (by decide) ?_
  refine z_iload_n C dX3_writesNumber_20 1 rfl ?_
  refine z_bipush (v := (nI 10)) C dX3_writesNumber_21 (by decide) ?_
  refine z_irem C dX3_writesNumber_23 (by decide) ?_
  refine z_iadd C dX3_writesNumber_24 ?_
  obtain ⟨c3, h4⟩ := h
  refine Z.kk fun c13 c14 => ?_
  have k12 := h4
  refine z_callV (as := [tI ((nI 48) + (x1 - x1 / (nI 10) * (nI 10)))]) (rest := []) C k12 rfl rfl (by decide) c3 rfl q3995 q3997 qs91 q113 q3998 yd_X3_writes (by decide) (Nat.le_of_ble_eq_true rfl) dX3_writesNumber_25 c13 c14 (zRet_v fun μ6 h11 => ?_) (zThr_v fun _ _ z9 _ _ _ _ => z9.elim)
  · refine Z.wm fun m10 => ?_
    have h9 := h11 m10
    exact z_vreturn C rfl dX3_writesNumber_28 h9
/-! HutRidgeModel.renderHut(I)I -/
def Tr_X3_renderHut (w : WT) (this : Nat) (x1 : Int32) (μ : Mem) (mc ms : Nat) (K : Out → Mem → Prop) : Prop := Tr w yX3_renderHut (ws_ yX3_renderHut cX3_renderHut 4 (Option.some Jvm.ClassFile.FieldType.int)) 4 104 [tR (some this), tI x1] μ mc ms K
def Cx_X3_renderHut (w : WT) (g : GT) : Prop := Cx w g yX3_renderHut cX3_renderHut 4 (Option.some Jvm.ClassFile.FieldType.int) [] 4 104
theorem yd_X3_renderHut : yX3_renderHut.cls ≠ "java/lang/invoke/MethodHandle" ∧ yX3_renderHut.cls ≠ "java/lang/invoke/VarHandle" ∧ (parseMethodDescriptor yX3_renderHut.desc).map (fun d => d.parameters.length) = some 1 := by decide +kernel
def B_X3_renderHut_16 (w : WT) (g : GT) (K : Out → Mem → Prop) (mc ms : Nat) (this : Nat) (x1 : Int32) (x2 : Int32) (s0 : Int32) (s1 : Option Nat) (μ : Mem) (kc ks : Nat) : Prop := Z w g K mc ms 16 [(0, tR (some this)), (1, tI x1), (2, tI x2)] [tI s0, tR s1] μ kc ks
def B_X3_renderHut_94 (w : WT) (g : GT) (K : Out → Mem → Prop) (mc ms : Nat) (this : Nat) (x2 : Int32) (x3 : Int32)  (μ : Mem) (kc ks : Nat) : Prop := Z w g K mc ms 94 [(0, tR (some this)), (2, tI x2), (3, tI x3)] [] μ kc ks
set_option maxHeartbeats 4000000 in
theorem tr_X3_renderHut {w : WT} {this : Nat} {x1 : Int32} {μ : Mem} {mc ms : Nat} {K : Out → Mem → Prop} (h : ∀ g : GT, Cx_X3_renderHut w g → zM w μ → zC μ this = 18 ∧ Tr_X3_hut w this x1 μ 0 0 (zKi (fun v3 μ4 => zM w μ4 → (0 ≤ v3 → B_X3_renderHut_16 w g K mc ms this x1 v3 0 (some this) μ4 0 0) ∧ (¬ 0 ≤ v3 → B_X3_renderHut_16 w g K mc ms this x1 v3 1 (some this) μ4 0 0)) (fun q5 μ6 => False))) : Tr_X3_renderHut w this x1 μ mc ms K := by
  refine Tr.of (by decide +kernel) (Nat.le_of_ble_eq_true rfl) (fun g C => ?_)
  show Z w g K mc ms 0 [(0, tR (some this)), (1, tI x1)] [] μ 0 0
  refine Z.wm fun m0 => ?_
  have h := h g C m0
  refine z_aload_n C dX3_renderHut_0 0 rfl ?_
  refine z_iload_n C dX3_renderHut_1 1 rfl ?_
  obtain ⟨c1, h2⟩ := h
  refine Z.kk fun c11 c12 => ?_
  have k10 := h2
  refine z_callV (as := [tI x1]) (rest := []) C k10 rfl rfl (by decide) c1 rfl q3702 q3704 qs63 q113 q3705 yd_X3_hut (by decide) (Nat.le_of_ble_eq_true rfl) dX3_renderHut_2 c11 c12 (zRet_i fun v3 μ4 h9 => ?_) (zThr_i fun _ _ z9 _ _ _ _ => z9.elim)
  · refine Z.wm fun m8 => ?_
    have h7 := h9 m8
    refine z_istore_n (lv' := [(2, tI v3), (0, tR (some this)), (1, tI x1)]) C dX3_renderHut_5 (by decide) rfl ?_
    refine z_aload_n C dX3_renderHut_6 1 rfl ?_
    refine z_iload_n C dX3_renderHut_7 0 rfl ?_
    refine z_if_ge C 15 dX3_renderHut_8 (by decide) (fun c15 => ?_) (fun c15 => ?_)
    · have h13 := h7.1 c15
      refine z_iconst (v := 0) C dX3_renderHut_15 (by decide) ?_
      refine Z.sub [1, 2, 0] rfl ?_
      exact h13
    · have h14 := h7.2 c15
      refine z_iconst (v := 1) C dX3_renderHut_11 (by decide) ?_
      refine z_goto C 16 dX3_renderHut_12 (by decide) ?_
      refine Z.sub [1, 2, 0] rfl ?_
      exact h14
set_option maxHeartbeats 4000000 in
theorem bk_X3_renderHut_16 {w : WT} {g : GT} {K : Out → Mem → Prop} {mc ms : Nat} {this : Nat} {x1 : Int32} {x2 : Int32} {s0 : Int32} {s1 : Option Nat} {μ : Mem} {kc ks : Nat} (C : Cx_X3_renderHut w g) (h : zM w μ → ∃ a1 : Nat, s1 = some a1 ∧ zC μ a1 = 18 ∧ ∀ μ6 : Mem, μ6 = zsI μ 57 a1 s0 → zC μ6 this = 18 ∧ ((zI μ6 57 this) = 0 → ∀ μ15 : Mem, μ15 = zsI μ6 79 this 0 → Tr_X3_writesNumber w this x1 μ15 0 0 (zKv (fun μ21 => zM w μ21 → zC μ21 this = 18 ∧ Tr_X3_writes w this (nI 108) μ21 0 0 (zKv (fun μ33 => zM w μ33 → zC μ33 this = 18 ∧ Tr_X3_level w this x2 μ33 0 0 (zKi (fun v44 μ45 => zM w μ45 → zC μ45 this = 18 ∧ Tr_X3_writesNumber w this v44 μ45 0 0 (zKv (fun μ57 => zM w μ57 → zC μ57 this = 18 ∧ Tr_X3_writes w this (nI 98) μ57 0 0 (zKv (fun μ69 => zM w μ69 → zC μ69 this = 18 ∧ Tr_X3_of w x2 (nI 2) μ69 0 0 (zKi (fun v80 μ81 => zM w μ81 → ∃ a90 : Nat, (zR μ69 63 this) = some a90 ∧ zC μ81 a90 = 101 ∧ vp_in v80 (zN μ81 a90) ∧ zC μ81 this = 18 ∧ Tr_X3_writesNumber w this (zA μ81 a90 v80.toNatClampNeg) μ81 0 0 (zKv (fun μ100 => zM w μ100 → zC μ100 this = 18 ∧ Tr_X3_of w x2 (nI 3) μ100 0 0 (zKi (fun v111 μ112 => zM w μ112 → ∃ a121 : Nat, (zR μ100 63 this) = some a121 ∧ zC μ112 a121 = 101 ∧ vp_in v111 (zN μ112 a121) ∧ ((zA μ112 a121 v111.toNatClampNeg) = 0 → B_X3_renderHut_94 w g K mc ms this x2 0 μ112 kc ks) ∧ (¬ (zA μ112 a121 v111.toNatClampNeg) = 0 → zC μ112 this = 18 ∧ Tr_X3_writes w this (nI 120) μ112 0 0 (zKv (fun μ134 => zM w μ134 → B_X3_renderHut_94 w g K mc ms this x2 0 μ134 kc ks) (fun q135 μ136 => False)))) (fun q113 μ114 => False))) (fun q101 μ102 => False))) (fun q82 μ83 => False))) (fun q70 μ71 => False))) (fun q58 μ59 => False))) (fun q46 μ47 => False))) (fun q34 μ35 => False))) (fun q22 μ23 => False))) ∧ (¬ (zI μ6 57 this) = 0 → K (.inl (some (tI 0))) μ6)) : B_X3_renderHut_16 w g K mc ms this x1 x2 s0 s1 μ kc ks := by
  unfold Cx_X3_renderHut at C
  unfold B_X3_renderHut_16
  refine Z.wm fun m0 => ?_
  have h := h m0
  obtain ⟨a1, e2, h3⟩ := h
  obtain ⟨c4, h5⟩ := h3
  refine z_putI C e2 (zFpOf c4 (zp_X3_56_18 rfl)) (Or.inl (zFzOf c4 rfl)) rfl rfl dX3_renderHut_16 ?_
  refine Z.mem fun μ6 e8 => ?_
  have h7 := h5 μ6 e8
  have c9 : zC μ6 a1 = 18 := by rw [e8]; exact c4
  refine z_aload_n C dX3_renderHut_19 0 rfl ?_
  obtain ⟨c10, h11⟩ := h7
  refine z_getI C rfl (zFdOf c10 zf_X3_56_18) dX3_renderHut_20 ?_
  refine z_if_eq C 28 dX3_renderHut_23 (by decide) (fun c14 => ?_) (fun c14 => ?_)
  · have h12 := h11.1 c14
    refine z_aload_n C dX3_renderHut_28 0 rfl ?_
    refine z_iconst (v := 0) C dX3_renderHut_29 (by decide) ?_
    refine z_putI C rfl (zFpOf c10 (zp_X3_198_18 rfl)) (Or.inl (zFzOf c10 rfl)) rfl rfl dX3_renderHut_30 ?_
    refine Z.mem fun μ15 e17 => ?_
    have h16 := h12 μ15 e17
    have c18 : zC μ15 a1 = 18 := by rw [e17]; exact c9
    have c19 : zC μ15 this = 18 := by rw [e17]; exact c10
    refine z_aload_n C dX3_renderHut_33 0 rfl ?_
    refine z_iload_n C dX3_renderHut_34 1 rfl ?_
    refine Z.kk fun c28 c29 => ?_
    have k27 := h16
    refine z_callV (as := [tI x1]) (rest := []) C k27 rfl rfl (by decide) c19 rfl q3991 q3993 qs90 q113 q3994 yd_X3_writesNumber (by decide) (Nat.le_of_ble_eq_true rfl) dX3_renderHut_35 c28 c29 (zRet_v fun μ21 h26 => ?_) (zThr_v fun _ _ z9 _ _ _ _ => z9.elim)
    · refine Z.wm fun m25 => ?_
      have h24 := h26 m25
      refine z_aload_n C dX3_renderHut_38 0 rfl ?_
      refine z_bipush (v := (nI 108)) C dX3_renderHut_39 (by decide) ?_
      obtain ⟨c30, h31⟩ := h24
      refine Z.kk fun c40 c41 => ?_
      have k39 := h31
      refine z_callV (as := [tI (nI 108)]) (rest := []) C k39 rfl rfl (by decide) c30 rfl q3995 q3997 qs91 q113 q3998 yd_X3_writes (by decide) (Nat.le_of_ble_eq_true rfl) dX3_renderHut_41 c40 c41 (zRet_v fun μ33 h38 => ?_) (zThr_v fun _ _ z9 _ _ _ _ => z9.elim)
      · refine Z.wm fun m37 => ?_
        have h36 := h38 m37
        refine z_aload_n C dX3_renderHut_44 0 rfl ?_
        refine z_aload_n C dX3_renderHut_45 0 rfl ?_
        refine z_iload_n C dX3_renderHut_46 2 rfl ?_
        obtain ⟨c42, h43⟩ := h36
        refine Z.kk fun c52 c53 => ?_
        have k51 := h43
        refine z_callV (as := [tI x2]) (rest := [tR (some this)]) C k51 rfl rfl (by decide) c42 rfl q3733 q3735 qs68 q113 q3736 yd_X3_level (by decide) (Nat.le_of_ble_eq_true rfl) dX3_renderHut_47 c52 c53 (zRet_i fun v44 μ45 h50 => ?_) (zThr_i fun _ _ z9 _ _ _ _ => z9.elim)
        · refine Z.wm fun m49 => ?_
          have h48 := h50 m49
          obtain ⟨c54, h55⟩ := h48
          refine Z.kk fun c64 c65 => ?_
          have k63 := h55
          refine z_callV (as := [tI v44]) (rest := []) C k63 rfl rfl (by decide) c54 rfl q3991 q3993 qs90 q113 q3994 yd_X3_writesNumber (by decide) (Nat.le_of_ble_eq_true rfl) dX3_renderHut_50 c64 c65 (zRet_v fun μ57 h62 => ?_) (zThr_v fun _ _ z9 _ _ _ _ => z9.elim)
          · refine Z.wm fun m61 => ?_
            have h60 := h62 m61
            refine z_aload_n C dX3_renderHut_53 0 rfl ?_
            refine z_bipush (v := (nI 98)) C dX3_renderHut_54 (by decide) ?_
            obtain ⟨c66, h67⟩ := h60
            refine Z.kk fun c76 c77 => ?_
            have k75 := h67
            refine z_callV (as := [tI (nI 98)]) (rest := []) C k75 rfl rfl (by decide) c66 rfl q3995 q3997 qs91 q113 q3998 yd_X3_writes (by decide) (Nat.le_of_ble_eq_true rfl) dX3_renderHut_56 c76 c77 (zRet_v fun μ69 h74 => ?_) (zThr_v fun _ _ z9 _ _ _ _ => z9.elim)
            · refine Z.wm fun m73 => ?_
              have h72 := h74 m73
              refine z_aload_n C dX3_renderHut_59 0 rfl ?_
              refine z_aload_n C dX3_renderHut_60 0 rfl ?_
              obtain ⟨c78, h79⟩ := h72
              refine z_getR C rfl (zFdOf c78 zf_X3_16_18) dX3_renderHut_61 ?_
              refine z_iload_n C dX3_renderHut_64 2 rfl ?_
              refine z_iconst (v := (nI 2)) C dX3_renderHut_65 (by decide) ?_
              refine Z.kk fun c88 c89 => ?_
              have k87 := h79
              refine z_callS (as := [tI x2, tI (nI 2)]) (rest := [tR (zR μ69 63 this), tR (some this)]) C k87 rfl q3710 q3711 q113 q3712 yd_X3_of (by decide) (Nat.le_of_ble_eq_true rfl) dX3_renderHut_66 c88 c89 (zRet_i fun v80 μ81 h86 => ?_) (zThr_i fun _ _ z9 _ _ _ _ => z9.elim)
              · refine Z.wm fun m85 => ?_
                have h84 := h86 m85
                obtain ⟨a90, e91, h92⟩ := h84
                obtain ⟨c93, h94⟩ := h92
                obtain ⟨c95, h96⟩ := h94
                refine z_iald C e91 c93 c95 dX3_renderHut_69 ?_
                obtain ⟨c97, h98⟩ := h96
                refine Z.kk fun c107 c108 => ?_
                have k106 := h98
                refine z_callV (as := [tI (zA μ81 a90 v80.toNatClampNeg)]) (rest := []) C k106 rfl rfl (by decide) c97 rfl q3991 q3993 qs90 q113 q3994 yd_X3_writesNumber (by decide) (Nat.le_of_ble_eq_true rfl) dX3_renderHut_70 c107 c108 (zRet_v fun μ100 h105 => ?_) (zThr_v fun _ _ z9 _ _ _ _ => z9.elim)
                · refine Z.wm fun m104 => ?_
                  have h103 := h105 m104
                  refine z_aload_n C dX3_renderHut_73 0 rfl ?_
                  obtain ⟨c109, h110⟩ := h103
                  refine z_getR C rfl (zFdOf c109 zf_X3_16_18) dX3_renderHut_74 ?_
                  refine z_iload_n C dX3_renderHut_77 2 rfl ?_
                  refine z_iconst (v := (nI 3)) C dX3_renderHut_78 (by decide) ?_
                  refine Z.kk fun c119 c120 => ?_
                  have k118 := h110
                  refine z_callS (as := [tI x2, tI (nI 3)]) (rest := [tR (zR μ100 63 this)]) C k118 rfl q3710 q3711 q113 q3712 yd_X3_of (by decide) (Nat.le_of_ble_eq_true rfl) dX3_renderHut_79 c119 c120 (zRet_i fun v111 μ112 h117 => ?_) (zThr_i fun _ _ z9 _ _ _ _ => z9.elim)
                  · refine Z.wm fun m116 => ?_
                    have h115 := h117 m116
                    obtain ⟨a121, e122, h123⟩ := h115
                    obtain ⟨c124, h125⟩ := h123
                    obtain ⟨c126, h127⟩ := h125
                    refine z_iald C e122 c124 c126 dX3_renderHut_82 ?_
                    refine z_if_eq C 92 dX3_renderHut_83 (by decide) (fun c130 => ?_) (fun c130 => ?_)
                    · have h128 := h127.1 c130
                      refine z_iconst (v := 0) C dX3_renderHut_92 (by decide) ?_
                      refine z_istore_n (lv' := [(3, tI 0), (0, tR (some this)), (1, tI x1), (2, tI x2)]) C dX3_renderHut_93 (by decide) rfl ?_
                      refine Z.sub [1, 3, 0] rfl ?_
                      exact h128
                    · have h129 := h127.2 c130
                      refine z_aload_n C dX3_renderHut_86 0 rfl ?_
                      refine z_bipush (v := (nI 120)) C dX3_renderHut_87 (by decide) ?_
                      obtain ⟨c131, h132⟩ := h129
                      refine Z.kk fun c141 c142 => ?_
                      have k140 := h132
                      refine z_callV (as := [tI (nI 120)]) (rest := []) C k140 rfl rfl (by decide) c131 rfl q3995 q3997 qs91 q113 q3998 yd_X3_writes (by decide) (Nat.le_of_ble_eq_true rfl) dX3_renderHut_89 c141 c142 (zRet_v fun μ134 h139 => ?_) (zThr_v fun _ _ z9 _ _ _ _ => z9.elim)
                      · refine Z.wm fun m138 => ?_
                        have h137 := h139 m138
                        refine z_iconst (v := 0) C dX3_renderHut_92 (by decide) ?_
                        refine z_istore_n (lv' := [(3, tI 0), (0, tR (some this)), (1, tI x1), (2, tI x2)]) C dX3_renderHut_93 (by decide) rfl ?_
                        refine Z.sub [1, 3, 0] rfl ?_
                        exact h137
  · have h13 := h11.2 c14
    refine z_iconst (v := 0) C dX3_renderHut_26 (by decide) ?_
    exact z_ireturn C rfl rfl dX3_renderHut_27 h13
set_option maxHeartbeats 4000000 in
theorem bk_X3_renderHut_94 {w : WT} {g : GT} {K : Out → Mem → Prop} {mc ms : Nat} {this : Nat} {x2 : Int32} {x3 : Int32}  {μ : Mem} {kc ks : Nat} (C : Cx_X3_renderHut w g) (h : zM w μ → ((nI 5) ≤ x3 → zC μ this = 18 ∧ K (.inl (some (tI (zI μ 79 this)))) μ) ∧ (¬ (nI 5) ≤ x3 → zC μ this = 18 ∧ Tr_X3_isShut w this x2 x3 μ 0 0 (zKi (fun v8 μ9 => zM w μ9 → (v8 = 0 → B_X3_renderHut_94 w g K mc ms this x2 (x3 + 1) μ9 kc ks) ∧ (¬ v8 = 0 → zC μ9 this = 18 ∧ Tr_X3_writes w this ((nI 48) + x3) μ9 0 0 (zKv (fun μ24 => zM w μ24 → B_X3_renderHut_94 w g K mc ms this x2 (x3 + 1) μ24 kc ks) (fun q25 μ26 => False)))) (fun q10 μ11 => False)))) : B_X3_renderHut_94 w g K mc ms this x2 x3 μ kc ks := by
  unfold Cx_X3_renderHut at C
  unfold B_X3_renderHut_94
  refine Z.wm fun m0 => ?_
  have h := h m0
  refine z_iload_n C dX3_renderHut_94 2 rfl ?_
  refine z_iconst (v := (nI 5)) C dX3_renderHut_95 (by decide) ?_
  refine z_icmp_ge C 122 dX3_renderHut_96 (by decide) (fun c3 => ?_) (fun c3 => ?_)
  · have h1 := h.1 c3
    refine z_aload_n C dX3_renderHut_122 0 rfl ?_
    obtain ⟨c4, h5⟩ := h1
    refine z_getI C rfl (zFdOf c4 zf_X3_198_18) dX3_renderHut_123 ?_
    exact z_ireturn C rfl rfl dX3_renderHut_126 h5
  · have h2 := h.2 c3
    refine z_aload_n C dX3_renderHut_99 0 rfl ?_
    refine z_iload_n C dX3_renderHut_100 1 rfl ?_
    refine z_iload_n C dX3_renderHut_101 2 rfl ?_
    obtain ⟨c6, h7⟩ := h2
    refine Z.kk fun c16 c17 => ?_
    have k15 := h7
    refine z_callV (as := [tI x2, tI x3]) (rest := []) C k15 rfl rfl (by decide) c6 rfl q3745 q3747 qs70 q113 q3748 yd_X3_isShut (by decide) (Nat.le_of_ble_eq_true rfl) dX3_renderHut_102 c16 c17 (zRet_i fun v8 μ9 h14 => ?_) (zThr_i fun _ _ z9 _ _ _ _ => z9.elim)
    · refine Z.wm fun m13 => ?_
      have h12 := h14 m13
      refine z_if_eq C 116 dX3_renderHut_105 (by decide) (fun c20 => ?_) (fun c20 => ?_)
      · have h18 := h12.1 c20
        refine z_iinc (k0 := 2) (v := x3 + 1) (lv' := [(3, tI (x3 + 1)), (0, tR (some this)), (2, tI x2)]) C dX3_renderHut_116 rfl (by first | rfl | decide) (by decide) rfl ?_
        refine z_goto C 94 dX3_renderHut_119 (by decide) ?_
        refine Z.sub [1, 2, 0] rfl ?_
        exact h18
      · have h19 := h12.2 c20
        refine z_aload_n C dX3_renderHut_108 0 rfl ?_
        refine z_bipush (v := (nI 48)) C dX3_renderHut_109 (by decide) ?_
        refine z_iload_n C dX3_renderHut_111 2 rfl ?_
        refine z_iadd C dX3_renderHut_112 ?_
        obtain ⟨c21, h22⟩ := h19
        refine Z.kk fun c31 c32 => ?_
        have k30 := h22
        refine z_callV (as := [tI ((nI 48) + x3)]) (rest := []) C k30 rfl rfl (by decide) c21 rfl q3995 q3997 qs91 q113 q3998 yd_X3_writes (by decide) (Nat.le_of_ble_eq_true rfl) dX3_renderHut_113 c31 c32 (zRet_v fun μ24 h29 => ?_) (zThr_v fun _ _ z9 _ _ _ _ => z9.elim)
        · refine Z.wm fun m28 => ?_
          have h27 := h29 m28
          refine z_iinc (k0 := 2) (v := x3 + 1) (lv' := [(3, tI (x3 + 1)), (0, tR (some this)), (2, tI x2)]) C dX3_renderHut_116 rfl (by first | rfl | decide) (by decide) rfl ?_
          refine z_goto C 94 dX3_renderHut_119 (by decide) ?_
          refine Z.sub [1, 2, 0] rfl ?_
          exact h27
/-! HutRidgeModel.renderLevel(I)I -/
def Tr_X3_renderLevel (w : WT) (this : Nat) (x1 : Int32) (μ : Mem) (mc ms : Nat) (K : Out → Mem → Prop) : Prop := Tr w yX3_renderLevel (ws_ yX3_renderLevel cX3_renderLevel 3 (Option.some Jvm.ClassFile.FieldType.int)) 5 127 [tR (some this), tI x1] μ mc ms K
def Cx_X3_renderLevel (w : WT) (g : GT) : Prop := Cx w g yX3_renderLevel cX3_renderLevel 3 (Option.some Jvm.ClassFile.FieldType.int) [] 5 127
theorem yd_X3_renderLevel : yX3_renderLevel.cls ≠ "java/lang/invoke/MethodHandle" ∧ yX3_renderLevel.cls ≠ "java/lang/invoke/VarHandle" ∧ (parseMethodDescriptor yX3_renderLevel.desc).map (fun d => d.parameters.length) = some 1 := by decide +kernel
def B_X3_renderLevel_13 (w : WT) (g : GT) (K : Out → Mem → Prop) (mc ms : Nat) (this : Nat) (x1 : Int32) (s0 : Int32) (s1 : Option Nat) (μ : Mem) (kc ks : Nat) : Prop := Z w g K mc ms 13 [(0, tR (some this)), (1, tI x1)] [tI s0, tR s1] μ kc ks
def B_X3_renderLevel_37 (w : WT) (g : GT) (K : Out → Mem → Prop) (mc ms : Nat) (this : Nat) (x1 : Int32) (x2 : Int32)  (μ : Mem) (kc ks : Nat) : Prop := Z w g K mc ms 37 [(0, tR (some this)), (1, tI x1), (2, tI x2)] [] μ kc ks
def B_X3_renderLevel_79 (w : WT) (g : GT) (K : Out → Mem → Prop) (mc ms : Nat) (this : Nat) (x1 : Int32) (x2 : Int32)  (μ : Mem) (kc ks : Nat) : Prop := Z w g K mc ms 79 [(0, tR (some this)), (1, tI x1), (2, tI x2)] [] μ kc ks
set_option maxHeartbeats 4000000 in
theorem tr_X3_renderLevel {w : WT} {this : Nat} {x1 : Int32} {μ : Mem} {mc ms : Nat} {K : Out → Mem → Prop} (h : ∀ g : GT, Cx_X3_renderLevel w g → zM w μ → Tr_X3_isLevel w x1 μ 0 0 (zKi (fun v1 μ2 => zM w μ2 → (v1 = 0 → B_X3_renderLevel_13 w g K mc ms this x1 1 (some this) μ2 0 0) ∧ (¬ v1 = 0 → B_X3_renderLevel_13 w g K mc ms this x1 0 (some this) μ2 0 0)) (fun q3 μ4 => False))) : Tr_X3_renderLevel w this x1 μ mc ms K := by
  refine Tr.of (by decide +kernel) (Nat.le_of_ble_eq_true rfl) (fun g C => ?_)
  show Z w g K mc ms 0 [(0, tR (some this)), (1, tI x1)] [] μ 0 0
  refine Z.wm fun m0 => ?_
  have h := h g C m0
  refine z_aload_n C dX3_renderLevel_0 0 rfl ?_
  refine z_iload_n C dX3_renderLevel_1 1 rfl ?_
  refine Z.kk fun c9 c10 => ?_
  have k8 := h
  refine z_callS (as := [tI x1]) (rest := [tR (some this)]) C k8 rfl q3695 q3696 q113 q3697 yd_X3_isLevel (by decide) (Nat.le_of_ble_eq_true rfl) dX3_renderLevel_2 c9 c10 (zRet_i fun v1 μ2 h7 => ?_) (zThr_i fun _ _ z9 _ _ _ _ => z9.elim)
  · refine Z.wm fun m6 => ?_
    have h5 := h7 m6
    refine z_if_eq C 12 dX3_renderLevel_5 (by decide) (fun c13 => ?_) (fun c13 => ?_)
    · have h11 := h5.1 c13
      refine z_iconst (v := 1) C dX3_renderLevel_12 (by decide) ?_
      refine Z.sub [0, 1] rfl ?_
      exact h11
    · have h12 := h5.2 c13
      refine z_iconst (v := 0) C dX3_renderLevel_8 (by decide) ?_
      refine z_goto C 13 dX3_renderLevel_9 (by decide) ?_
      refine Z.sub [0, 1] rfl ?_
      exact h12
set_option maxHeartbeats 4000000 in
theorem bk_X3_renderLevel_13 {w : WT} {g : GT} {K : Out → Mem → Prop} {mc ms : Nat} {this : Nat} {x1 : Int32} {s0 : Int32} {s1 : Option Nat} {μ : Mem} {kc ks : Nat} (C : Cx_X3_renderLevel w g) (h : zM w μ → ∃ a1 : Nat, s1 = some a1 ∧ zC μ a1 = 18 ∧ ∀ μ6 : Mem, μ6 = zsI μ 57 a1 s0 → zC μ6 this = 18 ∧ ((zI μ6 57 this) = 0 → ∀ μ15 : Mem, μ15 = zsI μ6 79 this 0 → Tr_X3_next w this (-1 : Int32) x1 μ15 0 0 (zKi (fun v20 μ21 => zM w μ21 → B_X3_renderLevel_37 w g K mc ms this x1 v20 μ21 kc ks) (fun q22 μ23 => False))) ∧ (¬ (zI μ6 57 this) = 0 → K (.inl (some (tI 0))) μ6)) : B_X3_renderLevel_13 w g K mc ms this x1 s0 s1 μ kc ks := by
  unfold Cx_X3_renderLevel at C
  unfold B_X3_renderLevel_13
  refine Z.wm fun m0 => ?_
  have h := h m0
  obtain ⟨a1, e2, h3⟩ := h
  obtain ⟨c4, h5⟩ := h3
  refine z_putI C e2 (zFpOf c4 (zp_X3_56_18 rfl)) (Or.inl (zFzOf c4 rfl)) rfl rfl dX3_renderLevel_13 ?_
  refine Z.mem fun μ6 e8 => ?_
  have h7 := h5 μ6 e8
  have c9 : zC μ6 a1 = 18 := by rw [e8]; exact c4
  refine z_aload_n C dX3_renderLevel_16 0 rfl ?_
  obtain ⟨c10, h11⟩ := h7
  refine z_getI C rfl (zFdOf c10 zf_X3_56_18) dX3_renderLevel_17 ?_
  refine z_if_eq C 25 dX3_renderLevel_20 (by decide) (fun c14 => ?_) (fun c14 => ?_)
  · have h12 := h11.1 c14
    refine z_aload_n C dX3_renderLevel_25 0 rfl ?_
    refine z_iconst (v := 0) C dX3_renderLevel_26 (by decide) ?_
    refine z_putI C rfl (zFpOf c10 (zp_X3_198_18 rfl)) (Or.inl (zFzOf c10 rfl)) rfl rfl dX3_renderLevel_27 ?_
    refine Z.mem fun μ15 e17 => ?_
    have h16 := h12 μ15 e17
    have c18 : zC μ15 a1 = 18 := by rw [e17]; exact c9
    have c19 : zC μ15 this = 18 := by rw [e17]; exact c10
    refine z_aload_n C dX3_renderLevel_30 0 rfl ?_
    refine z_iconst (v := (-1 : Int32)) C dX3_renderLevel_31 (by decide) ?_
    refine z_iload_n C dX3_renderLevel_32 1 rfl ?_
    refine Z.kk fun c28 c29 => ?_
    have k27 := h16
    refine z_callV (as := [tI (-1 : Int32), tI x1]) (rest := []) C k27 rfl rfl (by decide) c19 rfl q3828 q3830 qs80 q113 q3831 yd_X3_next (by decide) (Nat.le_of_ble_eq_true rfl) dX3_renderLevel_33 c28 c29 (zRet_i fun v20 μ21 h26 => ?_) (zThr_i fun _ _ z9 _ _ _ _ => z9.elim)
    · refine Z.wm fun m25 => ?_
      have h24 := h26 m25
      refine z_istore_n (lv' := [(2, tI v20), (0, tR (some this)), (1, tI x1)]) C dX3_renderLevel_36 (by decide) rfl ?_
      refine Z.sub [1, 2, 0] rfl ?_
      exact h24
  · have h13 := h11.2 c14
    refine z_iconst (v := 0) C dX3_renderLevel_23 (by decide) ?_
    exact z_ireturn C rfl rfl dX3_renderLevel_24 h13
set_option maxHeartbeats 4000000 in
theorem bk_X3_renderLevel_37 {w : WT} {g : GT} {K : Out → Mem → Prop} {mc ms : Nat} {this : Nat} {x1 : Int32} {x2 : Int32}  {μ : Mem} {kc ks : Nat} (C : Cx_X3_renderLevel w g) (h : zM w μ → (x2 < 0 → zC μ this = 18 ∧ K (.inl (some (tI (zI μ 79 this)))) μ) ∧ (¬ x2 < 0 → zC μ this = 18 ∧ Tr_X3_at w this x2 μ 0 0 (zKi (fun v8 μ9 => zM w μ9 → zC μ9 this = 18 ∧ Tr_X3_writesNumber w this v8 μ9 0 0 (zKv (fun μ21 => zM w μ21 → zC μ21 this = 18 ∧ Tr_X3_next w this x2 x1 μ21 0 0 (zKi (fun v32 μ33 => zM w μ33 → (v32 < 0 → B_X3_renderLevel_79 w g K mc ms this x1 x2 μ33 kc ks) ∧ (¬ v32 < 0 → zC μ33 this = 18 ∧ Tr_X3_isUsable w this x2 x1 μ33 0 0 (zKi (fun v47 μ48 => zM w μ48 → (v47 = 0 → zC μ48 this = 18 ∧ Tr_X3_writes w this (nI 47) μ48 0 0 (zKv (fun μ63 => zM w μ63 → B_X3_renderLevel_79 w g K mc ms this x1 x2 μ63 kc ks) (fun q64 μ65 => False))) ∧ (¬ v47 = 0 → zC μ48 this = 18 ∧ Tr_X3_writes w this (nI 45) μ48 0 0 (zKv (fun μ80 => zM w μ80 → B_X3_renderLevel_79 w g K mc ms this x1 x2 μ80 kc ks) (fun q81 μ82 => False)))) (fun q49 μ50 => False)))) (fun q34 μ35 => False))) (fun q22 μ23 => False))) (fun q10 μ11 => False)))) : B_X3_renderLevel_37 w g K mc ms this x1 x2 μ kc ks := by
  unfold Cx_X3_renderLevel at C
  unfold B_X3_renderLevel_37
  refine Z.wm fun m0 => ?_
  have h := h m0
  refine z_iload_n C dX3_renderLevel_37 2 rfl ?_
  refine z_if_lt C 89 dX3_renderLevel_38 (by decide) (fun c3 => ?_) (fun c3 => ?_)
  · have h1 := h.1 c3
    refine z_aload_n C dX3_renderLevel_89 0 rfl ?_
    obtain ⟨c4, h5⟩ := h1
    refine z_getI C rfl (zFdOf c4 zf_X3_198_18) dX3_renderLevel_90 ?_
    exact z_ireturn C rfl rfl dX3_renderLevel_93 h5
  · have h2 := h.2 c3
    refine z_aload_n C dX3_renderLevel_41 0 rfl ?_
    refine z_aload_n C dX3_renderLevel_42 0 rfl ?_
    refine z_iload_n C dX3_renderLevel_43 2 rfl ?_
    obtain ⟨c6, h7⟩ := h2
    refine Z.kk fun c16 c17 => ?_
    have k15 := h7
    refine z_callV (as := [tI x2]) (rest := [tR (some this)]) C k15 rfl rfl (by decide) c6 rfl q3706 q3708 qs64 q113 q3709 yd_X3_at (by decide) (Nat.le_of_ble_eq_true rfl) dX3_renderLevel_44 c16 c17 (zRet_i fun v8 μ9 h14 => ?_) (zThr_i fun _ _ z9 _ _ _ _ => z9.elim)
    · refine Z.wm fun m13 => ?_
      have h12 := h14 m13
      obtain ⟨c18, h19⟩ := h12
      refine Z.kk fun c28 c29 => ?_
      have k27 := h19
      refine z_callV (as := [tI v8]) (rest := []) C k27 rfl rfl (by decide) c18 rfl q3991 q3993 qs90 q113 q3994 yd_X3_writesNumber (by decide) (Nat.le_of_ble_eq_true rfl) dX3_renderLevel_47 c28 c29 (zRet_v fun μ21 h26 => ?_) (zThr_v fun _ _ z9 _ _ _ _ => z9.elim)
      · refine Z.wm fun m25 => ?_
        have h24 := h26 m25
        refine z_aload_n C dX3_renderLevel_50 0 rfl ?_
        refine z_iload_n C dX3_renderLevel_51 2 rfl ?_
        refine z_iload_n C dX3_renderLevel_52 1 rfl ?_
        obtain ⟨c30, h31⟩ := h24
        refine Z.kk fun c40 c41 => ?_
        have k39 := h31
        refine z_callV (as := [tI x2, tI x1]) (rest := []) C k39 rfl rfl (by decide) c30 rfl q3828 q3830 qs80 q113 q3831 yd_X3_next (by decide) (Nat.le_of_ble_eq_true rfl) dX3_renderLevel_53 c40 c41 (zRet_i fun v32 μ33 h38 => ?_) (zThr_i fun _ _ z9 _ _ _ _ => z9.elim)
        · refine Z.wm fun m37 => ?_
          have h36 := h38 m37
          refine z_if_lt C 79 dX3_renderLevel_56 (by decide) (fun c44 => ?_) (fun c44 => ?_)
          · have h42 := h36.1 c44
            refine Z.sub [0, 1, 2] rfl ?_
            exact h42
          · have h43 := h36.2 c44
            refine z_aload_n C dX3_renderLevel_59 0 rfl ?_
            refine z_aload_n C dX3_renderLevel_60 0 rfl ?_
            refine z_iload_n C dX3_renderLevel_61 2 rfl ?_
            refine z_iload_n C dX3_renderLevel_62 1 rfl ?_
            obtain ⟨c45, h46⟩ := h43
            refine Z.kk fun c55 c56 => ?_
            have k54 := h46
            refine z_callV (as := [tI x2, tI x1]) (rest := [tR (some this)]) C k54 rfl rfl (by decide) c45 rfl q3897 q3899 qs84 q113 q3900 yd_X3_isUsable (by decide) (Nat.le_of_ble_eq_true rfl) dX3_renderLevel_63 c55 c56 (zRet_i fun v47 μ48 h53 => ?_) (zThr_i fun _ _ z9 _ _ _ _ => z9.elim)
            · refine Z.wm fun m52 => ?_
              have h51 := h53 m52
              refine z_if_eq C 74 dX3_renderLevel_66 (by decide) (fun c59 => ?_) (fun c59 => ?_)
              · have h57 := h51.1 c59
                refine z_bipush (v := (nI 47)) C dX3_renderLevel_74 (by decide) ?_
                obtain ⟨c60, h61⟩ := h57
                refine Z.kk fun c70 c71 => ?_
                have k69 := h61
                refine z_callV (as := [tI (nI 47)]) (rest := []) C k69 rfl rfl (by decide) c60 rfl q3995 q3997 qs91 q113 q3998 yd_X3_writes (by decide) (Nat.le_of_ble_eq_true rfl) dX3_renderLevel_76 c70 c71 (zRet_v fun μ63 h68 => ?_) (zThr_v fun _ _ z9 _ _ _ _ => z9.elim)
                · refine Z.wm fun m67 => ?_
                  have h66 := h68 m67
                  refine Z.sub [0, 1, 2] rfl ?_
                  exact h66
              · have h58 := h51.2 c59
                refine z_bipush (v := (nI 45)) C dX3_renderLevel_69 (by decide) ?_
                refine z_goto C 76 dX3_renderLevel_71 (by decide) ?_
                obtain ⟨c77, h78⟩ := h58
                refine Z.kk fun c87 c88 => ?_
                have k86 := h78
                refine z_callV (as := [tI (nI 45)]) (rest := []) C k86 rfl rfl (by decide) c77 rfl q3995 q3997 qs91 q113 q3998 yd_X3_writes (by decide) (Nat.le_of_ble_eq_true rfl) dX3_renderLevel_76 c87 c88 (zRet_v fun μ80 h85 => ?_) (zThr_v fun _ _ z9 _ _ _ _ => z9.elim)
                · refine Z.wm fun m84 => ?_
                  have h83 := h85 m84
                  refine Z.sub [0, 1, 2] rfl ?_
                  exact h83
set_option maxHeartbeats 4000000 in
theorem bk_X3_renderLevel_79 {w : WT} {g : GT} {K : Out → Mem → Prop} {mc ms : Nat} {this : Nat} {x1 : Int32} {x2 : Int32}  {μ : Mem} {kc ks : Nat} (C : Cx_X3_renderLevel w g) (h : zM w μ → zC μ this = 18 ∧ Tr_X3_next w this x2 x1 μ 0 0 (zKi (fun v3 μ4 => zM w μ4 → B_X3_renderLevel_37 w g K mc ms this x1 v3 μ4 kc ks) (fun q5 μ6 => False))) : B_X3_renderLevel_79 w g K mc ms this x1 x2 μ kc ks := by
  unfold Cx_X3_renderLevel at C
  unfold B_X3_renderLevel_79
  refine Z.wm fun m0 => ?_
  have h := h m0
  refine z_aload_n C dX3_renderLevel_79 0 rfl ?_
  refine z_iload_n C dX3_renderLevel_80 2 rfl ?_
  refine z_iload_n C dX3_renderLevel_81 1 rfl ?_
  obtain ⟨c1, h2⟩ := h
  refine Z.kk fun c11 c12 => ?_
  have k10 := h2
  refine z_callV (as := [tI x2, tI x1]) (rest := []) C k10 rfl rfl (by decide) c1 rfl q3828 q3830 qs80 q113 q3831 yd_X3_next (by decide) (Nat.le_of_ble_eq_true rfl) dX3_renderLevel_82 c11 c12 (zRet_i fun v3 μ4 h9 => ?_) (zThr_i fun _ _ z9 _ _ _ _ => z9.elim)
  · refine Z.wm fun m8 => ?_
    have h7 := h9 m8
    refine z_istore_n (lv' := [(2, tI v3), (0, tR (some this)), (1, tI x1)]) C dX3_renderLevel_85 (by decide) rfl ?_
    refine z_goto C 37 dX3_renderLevel_86 (by decide) ?_
    refine Z.sub [1, 2, 0] rfl ?_
    exact h7
/-! HutRidgeModel.outputAt(I)C -/
def Tr_X3_outputAt (w : WT) (this : Nat) (x1 : Int32) (μ : Mem) (mc ms : Nat) (K : Out → Mem → Prop) : Prop := Tr w yX3_outputAt (ws_ yX3_outputAt cX3_outputAt 2 (Option.some Jvm.ClassFile.FieldType.char)) 2 62 [tR (some this), tI x1] μ mc ms K
def Cx_X3_outputAt (w : WT) (g : GT) : Prop := Cx w g yX3_outputAt cX3_outputAt 2 (Option.some Jvm.ClassFile.FieldType.char) [] 2 62
theorem yd_X3_outputAt : yX3_outputAt.cls ≠ "java/lang/invoke/MethodHandle" ∧ yX3_outputAt.cls ≠ "java/lang/invoke/VarHandle" ∧ (parseMethodDescriptor yX3_outputAt.desc).map (fun d => d.parameters.length) = some 1 := by decide +kernel
def B_X3_outputAt_20 (w : WT) (g : GT) (K : Out → Mem → Prop) (mc ms : Nat) (this : Nat) (x1 : Int32) (s0 : Int32) (s1 : Option Nat) (μ : Mem) (kc ks : Nat) : Prop := Z w g K mc ms 20 [(0, tR (some this)), (1, tI x1)] [tI s0, tR s1] μ kc ks
set_option maxHeartbeats 4000000 in
theorem tr_X3_outputAt {w : WT} {this : Nat} {x1 : Int32} {μ : Mem} {mc ms : Nat} {K : Out → Mem → Prop} (h : ∀ g : GT, Cx_X3_outputAt w g → zM w μ → zC μ this = 18 ∧ Tr_X3_isIn w x1 0 ((zI μ 79 this) - (1 : Int32)) μ 0 0 (zKi (fun v3 μ4 => zM w μ4 → (v3 = 0 → B_X3_outputAt_20 w g K mc ms this x1 1 (some this) μ4 0 0) ∧ (¬ v3 = 0 → B_X3_outputAt_20 w g K mc ms this x1 0 (some this) μ4 0 0)) (fun q5 μ6 => False))) : Tr_X3_outputAt w this x1 μ mc ms K := by
  refine Tr.of (by decide +kernel) (Nat.le_of_ble_eq_true rfl) (fun g C => ?_)
  show Z w g K mc ms 0 [(0, tR (some this)), (1, tI x1)] [] μ 0 0
  refine Z.wm fun m0 => ?_
  have h := h g C m0
  refine z_aload_n C dX3_outputAt_0 0 rfl ?_
  refine z_iload_n C dX3_outputAt_1 1 rfl ?_
  refine z_iconst (v := 0) C dX3_outputAt_2 (by decide) ?_
  refine z_aload_n C dX3_outputAt_3 0 rfl ?_
  obtain ⟨c1, h2⟩ := h
  refine z_getI C rfl (zFdOf c1 zf_X3_198_18) dX3_outputAt_4 ?_
  refine z_iconst (v := 1) C dX3_outputAt_7 (by decide) ?_
  refine z_isub C dX3_outputAt_8 ?_
  refine Z.kk fun c11 c12 => ?_
  have k10 := h2
  refine z_callS (as := [tI x1, tI 0, tI ((zI μ 79 this) - (1 : Int32))]) (rest := [tR (some this)]) C k10 rfl q3692 q3693 q113 q3694 yd_X3_isIn (by decide) (Nat.le_of_ble_eq_true rfl) dX3_outputAt_9 c11 c12 (zRet_i fun v3 μ4 h9 => ?_) (zThr_i fun _ _ z9 _ _ _ _ => z9.elim)
  · refine Z.wm fun m8 => ?_
    have h7 := h9 m8
    refine z_if_eq C 19 dX3_outputAt_12 (by decide) (fun c15 => ?_) (fun c15 => ?_)
    · have h13 := h7.1 c15
      refine z_iconst (v := 1) C dX3_outputAt_19 (by decide) ?_
      refine Z.sub [0, 1] rfl ?_
      exact h13
    · have h14 := h7.2 c15
      refine z_iconst (v := 0) C dX3_outputAt_15 (by decide) ?_
      refine z_goto C 20 dX3_outputAt_16 (by decide) ?_
      refine Z.sub [0, 1] rfl ?_
      exact h14
set_option maxHeartbeats 4000000 in
theorem bk_X3_outputAt_20 {w : WT} {g : GT} {K : Out → Mem → Prop} {mc ms : Nat} {this : Nat} {x1 : Int32} {s0 : Int32} {s1 : Option Nat} {μ : Mem} {kc ks : Nat} (C : Cx_X3_outputAt w g) (h : zM w μ → ∃ a1 : Nat, s1 = some a1 ∧ zC μ a1 = 18 ∧ ∀ μ6 : Mem, μ6 = zsI μ 57 a1 s0 → zC μ6 this = 18 ∧ ((zI μ6 57 this) ≠ 0 → K (.inl (some (tI (nI 97)))) μ6) ∧ ((zI μ6 57 this) = 0 → ∃ a15 : Nat, (zR μ6 71 this) = some a15 ∧ zC μ6 a15 = 101 ∧ vp_in x1 (zN μ6 a15) ∧ zNar .char (((zA μ6 a15 x1.toNatClampNeg).toUInt32 % 65536).toInt32) ∧ K (.inl (some (tI (((zA μ6 a15 x1.toNatClampNeg).toUInt32 % 65536).toInt32)))) μ6)) : B_X3_outputAt_20 w g K mc ms this x1 s0 s1 μ kc ks := by
  unfold Cx_X3_outputAt at C
  unfold B_X3_outputAt_20
  refine Z.wm fun m0 => ?_
  have h := h m0
  obtain ⟨a1, e2, h3⟩ := h
  obtain ⟨c4, h5⟩ := h3
  refine z_putI C e2 (zFpOf c4 (zp_X3_56_18 rfl)) (Or.inl (zFzOf c4 rfl)) rfl rfl dX3_outputAt_20 ?_
  refine Z.mem fun μ6 e8 => ?_
  have h7 := h5 μ6 e8
  have c9 : zC μ6 a1 = 18 := by rw [e8]; exact c4
  refine z_aload_n C dX3_outputAt_23 0 rfl ?_
  obtain ⟨c10, h11⟩ := h7
  refine z_getI C rfl (zFdOf c10 zf_X3_56_18) dX3_outputAt_24 ?_
  refine z_if_ne C 40 dX3_outputAt_27 (by decide) (fun c14 => ?_) (fun c14 => ?_)
  · have h12 := h11.1 c14
    refine z_bipush (v := (nI 97)) C dX3_outputAt_40 (by decide) ?_
    exact z_ireturn C rfl (by decide) dX3_outputAt_42 h12
  · have h13 := h11.2 c14
    refine z_aload_n C dX3_outputAt_30 0 rfl ?_
    refine z_getR C rfl (zFdOf c10 zf_X3_41_18) dX3_outputAt_31 ?_
    refine z_iload_n C dX3_outputAt_34 1 rfl ?_
    obtain ⟨a15, e16, h17⟩ := h13
    obtain ⟨c18, h19⟩ := h17
    obtain ⟨c20, h21⟩ := h19
    refine z_iald C e16 c18 c20 dX3_outputAt_35 ?_
    refine z_i2c C dX3_outputAt_36 ?_
    refine z_goto C 42 dX3_outputAt_37 (by decide) ?_
    exact z_ireturn C rfl h21.1.1 dX3_outputAt_42 h21.2
/-! HutRidgeModel.type(C)I -/
def Tr_X3_type (w : WT) (this : Nat) (x1 : Int32) (μ : Mem) (mc ms : Nat) (K : Out → Mem → Prop) : Prop := Tr w yX3_type (ws_ yX3_type cX3_type 2 (Option.some Jvm.ClassFile.FieldType.int)) 2 62 [tR (some this), tI x1] μ mc ms K
def Cx_X3_type (w : WT) (g : GT) : Prop := Cx w g yX3_type cX3_type 2 (Option.some Jvm.ClassFile.FieldType.int) [] 2 62
theorem yd_X3_type : yX3_type.cls ≠ "java/lang/invoke/MethodHandle" ∧ yX3_type.cls ≠ "java/lang/invoke/VarHandle" ∧ (parseMethodDescriptor yX3_type.desc).map (fun d => d.parameters.length) = some 1 := by decide +kernel
def B_X3_type_30 (w : WT) (g : GT) (K : Out → Mem → Prop) (mc ms : Nat) (this : Nat) (x1 : Int32) (s0 : Int32) (s1 : Option Nat) (μ : Mem) (kc ks : Nat) : Prop := Z w g K mc ms 30 [(0, tR (some this)), (1, tI x1)] [tI s0, tR s1] μ kc ks
theorem zf_X3_207_18 : zFd RX3 207 76 false 18 := ⟨19, _, _, _, _, _, zk_18, rfl, Or.inl q3613, Or.inl rfl⟩
theorem zp_X3_207_18 {yy : MethodName} (hy : yy.cls = RX3) : zFp yy 207 76 false .int 18 := by obtain ⟨c0, n0, d0⟩ := yy; cases hy; exact ⟨19, _, _, _, _, _, zk_18, rfl, Or.inl q3613, Or.inl rfl, rfl, Or.inl rfl⟩
theorem zf_X3_38_18 : zFd RX3 38 70 true 18 := ⟨13, _, _, _, _, _, zk_18, rfl, Or.inl q3607, Or.inl rfl⟩
set_option maxHeartbeats 4000000 in
theorem tr_X3_type {w : WT} {this : Nat} {x1 : Int32} {μ : Mem} {mc ms : Nat} {K : Out → Mem → Prop} (h : ∀ g : GT, Cx_X3_type w g → zM w μ → Tr_X3_isIn w x1 (nI 32) (nI 126) μ 0 0 (zKi (fun v1 μ2 => zM w μ2 → (v1 ≠ 0 → zC μ2 this = 18 ∧ ((zI μ2 76 this) ≠ (nI 60) → B_X3_type_30 w g K mc ms this x1 0 (some this) μ2 0 0) ∧ ((zI μ2 76 this) = (nI 60) → B_X3_type_30 w g K mc ms this x1 (nI 2) (some this) μ2 0 0)) ∧ (v1 = 0 → B_X3_type_30 w g K mc ms this x1 1 (some this) μ2 0 0)) (fun q3 μ4 => False))) : Tr_X3_type w this x1 μ mc ms K := by
  refine Tr.of (by decide +kernel) (Nat.le_of_ble_eq_true rfl) (fun g C => ?_)
  show Z w g K mc ms 0 [(0, tR (some this)), (1, tI x1)] [] μ 0 0
  refine Z.wm fun m0 => ?_
  have h := h g C m0
  refine z_aload_n C dX3_type_0 0 rfl ?_
  refine z_iload_n C dX3_type_1 1 rfl ?_
  refine z_bipush (v := (nI 32)) C dX3_type_2 (by decide) ?_
  refine z_bipush (v := (nI 126)) C dX3_type_4 (by decide) ?_
  refine Z.kk fun c9 c10 => ?_
  have k8 := h
  refine z_callS (as := [tI x1, tI (nI 32), tI (nI 126)]) (rest := [tR (some this)]) C k8 rfl q3692 q3693 q113 q3694 yd_X3_isIn (by decide) (Nat.le_of_ble_eq_true rfl) dX3_type_6 c9 c10 (zRet_i fun v1 μ2 h7 => ?_) (zThr_i fun _ _ z9 _ _ _ _ => z9.elim)
  · refine Z.wm fun m6 => ?_
    have h5 := h7 m6
    refine z_if_ne C 16 dX3_type_9 (by decide) (fun c13 => ?_) (fun c13 => ?_)
    · have h11 := h5.1 c13
      refine z_aload_n C dX3_type_16 0 rfl ?_
      obtain ⟨c14, h15⟩ := h11
      refine z_getI C rfl (zFdOf c14 zf_X3_207_18) dX3_type_17 ?_
      refine z_bipush (v := (nI 60)) C dX3_type_20 (by decide) ?_
      refine z_icmp_ne C 29 dX3_type_22 (by decide) (fun c18 => ?_) (fun c18 => ?_)
      · have h16 := h15.1 c18
        refine z_iconst (v := 0) C dX3_type_29 (by decide) ?_
        refine Z.sub [0, 1] rfl ?_
        exact h16
      · have h17 := h15.2 c18
        refine z_iconst (v := (nI 2)) C dX3_type_25 (by decide) ?_
        refine z_goto C 30 dX3_type_26 (by decide) ?_
        refine Z.sub [0, 1] rfl ?_
        exact h17
    · have h12 := h5.2 c13
      refine z_iconst (v := 1) C dX3_type_12 (by decide) ?_
      refine z_goto C 30 dX3_type_13 (by decide) ?_
      refine Z.sub [0, 1] rfl ?_
      exact h12
set_option maxHeartbeats 4000000 in
theorem bk_X3_type_30 {w : WT} {g : GT} {K : Out → Mem → Prop} {mc ms : Nat} {this : Nat} {x1 : Int32} {s0 : Int32} {s1 : Option Nat} {μ : Mem} {kc ks : Nat} (C : Cx_X3_type w g) (h : zM w μ → ∃ a1 : Nat, s1 = some a1 ∧ zC μ a1 = 18 ∧ ∀ μ6 : Mem, μ6 = zsI μ 57 a1 s0 → zC μ6 this = 18 ∧ ((zI μ6 57 this) = 0 → ∃ a15 : Nat, (zR μ6 70 this) = some a15 ∧ zC μ6 a15 = 101 ∧ zB w ≤ a15 ∧ vp_in (zI μ6 76 this) (zN μ6 a15) ∧ ∀ μ24 : Mem, μ24 = zsA μ6 a15 (zI μ6 76 this).toNatClampNeg x1 → ∀ μ29 : Mem, μ29 = zsI μ24 76 this ((zI μ24 76 this) + (1 : Int32)) → K (.inl (some (tI (zI μ29 76 this)))) μ29) ∧ (¬ (zI μ6 57 this) = 0 → K (.inl (some (tI 0))) μ6)) : B_X3_type_30 w g K mc ms this x1 s0 s1 μ kc ks := by
  unfold Cx_X3_type at C
  unfold B_X3_type_30
  refine Z.wm fun m0 => ?_
  have h := h m0
  obtain ⟨a1, e2, h3⟩ := h
  obtain ⟨c4, h5⟩ := h3
  refine z_putI C e2 (zFpOf c4 (zp_X3_56_18 rfl)) (Or.inl (zFzOf c4 rfl)) rfl rfl dX3_type_30 ?_
  refine Z.mem fun μ6 e8 => ?_
  have h7 := h5 μ6 e8
  have c9 : zC μ6 a1 = 18 := by rw [e8]; exact c4
  refine z_aload_n C dX3_type_33 0 rfl ?_
  obtain ⟨c10, h11⟩ := h7
  refine z_getI C rfl (zFdOf c10 zf_X3_56_18) dX3_type_34 ?_
  refine z_if_eq C 42 dX3_type_37 (by decide) (fun c14 => ?_) (fun c14 => ?_)
  · have h12 := h11.1 c14
    refine z_aload_n C dX3_type_42 0 rfl ?_
    refine z_getR C rfl (zFdOf c10 zf_X3_38_18) dX3_type_43 ?_
    refine z_aload_n C dX3_type_46 0 rfl ?_
    refine z_getI C rfl (zFdOf c10 zf_X3_207_18) dX3_type_47 ?_
    refine z_iload_n C dX3_type_50 1 rfl ?_
    obtain ⟨a15, e16, h17⟩ := h12
    obtain ⟨c18, h19⟩ := h17
    obtain ⟨c20, c21, h22⟩ := h19
    refine z_iast C e16 c18 c20 c21 dX3_type_51 ?_
    refine Z.mem fun μ24 e25 => ?_
    have h23 := h22 μ24 e25
    have c26 : zC μ24 a1 = 18 := by rw [e25]; exact c9
    have c27 : zC μ24 this = 18 := by rw [e25]; exact c10
    have c28 : zC μ24 a15 = 101 := by rw [e25]; exact c18
    refine z_aload_n C dX3_type_52 0 rfl ?_
    refine z_dup C dX3_type_53 rfl ?_
    refine z_getI C rfl (zFdOf c27 zf_X3_207_18) dX3_type_54 ?_
    refine z_iconst (v := 1) C dX3_type_57 (by decide) ?_
    refine z_iadd C dX3_type_58 ?_
    refine z_putI C rfl (zFpOf c27 (zp_X3_207_18 rfl)) (Or.inl (zFzOf c27 rfl)) rfl rfl dX3_type_59 ?_
    refine Z.mem fun μ29 e31 => ?_
    have h30 := h23 μ29 e31
    have c32 : zC μ29 a1 = 18 := by rw [e31]; exact c26
    have c33 : zC μ29 this = 18 := by rw [e31]; exact c27
    have c34 : zC μ29 a15 = 101 := by rw [e31]; exact c28
    refine z_aload_n C dX3_type_62 0 rfl ?_
    refine z_getI C rfl (zFdOf c33 zf_X3_207_18) dX3_type_63 ?_
    exact z_ireturn C rfl rfl dX3_type_66 h30
  · have h13 := h11.2 c14
    refine z_iconst (v := 0) C dX3_type_40 (by decide) ?_
    exact z_ireturn C rfl rfl dX3_type_41 h13
/-! HutRidgeModel.sign()I -/
def Tr_X3_sign (w : WT) (this : Nat) (μ : Mem) (mc ms : Nat) (K : Out → Mem → Prop) : Prop := Tr w yX3_sign (ws_ yX3_sign cX3_sign 1 (Option.some Jvm.ClassFile.FieldType.int)) 1 40 [tR (some this)] μ mc ms K
def Cx_X3_sign (w : WT) (g : GT) : Prop := Cx w g yX3_sign cX3_sign 1 (Option.some Jvm.ClassFile.FieldType.int) [] 1 40
theorem yd_X3_sign : yX3_sign.cls ≠ "java/lang/invoke/MethodHandle" ∧ yX3_sign.cls ≠ "java/lang/invoke/VarHandle" ∧ (parseMethodDescriptor yX3_sign.desc).map (fun d => d.parameters.length) = some 0 := by decide +kernel
theorem zf_X3_210_18 : zFd RX3 210 77 false 18 := ⟨20, _, _, _, _, _, zk_18, rfl, Or.inl q3614, Or.inl rfl⟩
theorem zf_X3_213_18 : zFd RX3 213 78 false 18 := ⟨21, _, _, _, _, _, zk_18, rfl, Or.inl q3615, Or.inl rfl⟩
set_option maxHeartbeats 4000000 in
theorem tr_X3_sign {w : WT} {this : Nat} {μ : Mem} {mc ms : Nat} {K : Out → Mem → Prop} (h : zM w μ → zC μ this = 18 ∧ ((zI μ 78 this) ≤ (zI μ 77 this) → K (.inl (some (tI (-1 : Int32)))) μ) ∧ (¬ (zI μ 78 this) ≤ (zI μ 77 this) → ∃ a6 : Nat, (zR μ 70 this) = some a6 ∧ zC μ a6 = 101 ∧ vp_in (zI μ 77 this) (zN μ a6) ∧ K (.inl (some (tI (zA μ a6 (zI μ 77 this).toNatClampNeg)))) μ)) : Tr_X3_sign w this μ mc ms K := by
  refine Tr.of (by decide +kernel) (Nat.le_of_ble_eq_true rfl) (fun g C => ?_)
  show Z w g K mc ms 0 [(0, tR (some this))] [] μ 0 0
  refine Z.wm fun m0 => ?_
  have h := h m0
  refine z_aload_n C dX3_sign_0 0 rfl ?_
  obtain ⟨c1, h2⟩ := h
  refine z_getI C rfl (zFdOf c1 zf_X3_210_18) dX3_sign_1 ?_
  refine z_aload_n C dX3_sign_4 0 rfl ?_
  refine z_getI C rfl (zFdOf c1 zf_X3_213_18) dX3_sign_5 ?_
  refine z_icmp_ge C 23 dX3_sign_8 (by decide) (fun c5 => ?_) (fun c5 => ?_)
  · have h3 := h2.1 c5
    refine z_iconst (v := (-1 : Int32)) C dX3_sign_23 (by decide) ?_
    exact z_ireturn C rfl rfl dX3_sign_24 h3
  · have h4 := h2.2 c5
    refine z_aload_n C dX3_sign_11 0 rfl ?_
    refine z_getR C rfl (zFdOf c1 zf_X3_38_18) dX3_sign_12 ?_
    refine z_aload_n C dX3_sign_15 0 rfl ?_
    refine z_getI C rfl (zFdOf c1 zf_X3_210_18) dX3_sign_16 ?_
    obtain ⟨a6, e7, h8⟩ := h4
    obtain ⟨c9, h10⟩ := h8
    obtain ⟨c11, h12⟩ := h10
    refine z_iald C e7 c9 c11 dX3_sign_19 ?_
    refine z_goto C 24 dX3_sign_20 (by decide) ?_
    exact z_ireturn C rfl rfl dX3_sign_24 h12
/-! HutRidgeModel.word()I -/
def Tr_X3_word (w : WT) (this : Nat) (μ : Mem) (mc ms : Nat) (K : Out → Mem → Prop) : Prop := Tr w yX3_word (ws_ yX3_word cX3_word 5 (Option.some Jvm.ClassFile.FieldType.int)) 2 60 [tR (some this)] μ mc ms K
def Cx_X3_word (w : WT) (g : GT) : Prop := Cx w g yX3_word cX3_word 5 (Option.some Jvm.ClassFile.FieldType.int) [] 2 60
theorem yd_X3_word : yX3_word.cls ≠ "java/lang/invoke/MethodHandle" ∧ yX3_word.cls ≠ "java/lang/invoke/VarHandle" ∧ (parseMethodDescriptor yX3_word.desc).map (fun d => d.parameters.length) = some 0 := by decide +kernel
def B_X3_word_2 (w : WT) (g : GT) (K : Out → Mem → Prop) (mc ms : Nat) (this : Nat) (x1 : Int32)  (μ : Mem) (kc ks : Nat) : Prop := Z w g K mc ms 2 [(0, tR (some this)), (1, tI x1)] [] μ kc ks
def B_X3_word_25 (w : WT) (g : GT) (K : Out → Mem → Prop) (mc ms : Nat) (this : Nat) (x1 : Int32) (x2 : Int32)  (μ : Mem) (kc ks : Nat) : Prop := Z w g K mc ms 25 [(0, tR (some this)), (1, tI x1), (2, tI x2)] [] μ kc ks
def B_X3_word_41 (w : WT) (g : GT) (K : Out → Mem → Prop) (mc ms : Nat) (this : Nat) (x1 : Int32) (x2 : Int32) (x3 : Int32) (x4 : Int32)  (μ : Mem) (kc ks : Nat) : Prop := Z w g K mc ms 41 [(0, tR (some this)), (1, tI x1), (2, tI x2), (3, tI x3), (4, tI x4)] [] μ kc ks
def B_X3_word_102 (w : WT) (g : GT) (K : Out → Mem → Prop) (mc ms : Nat) (this : Nat) (x1 : Int32) (x2 : Int32) (x3 : Int32) (x4 : Int32) (s0 : Int32) (s1 : Int32) (s2 : Option Nat) (μ : Mem) (kc ks : Nat) : Prop := Z w g K mc ms 102 [(0, tR (some this)), (1, tI x1), (2, tI x2), (3, tI x3), (4, tI x4)] [tI s0, tI s1, tR s2] μ kc ks
def B_X3_word_103 (w : WT) (g : GT) (K : Out → Mem → Prop) (mc ms : Nat) (this : Nat) (x1 : Int32) (x2 : Int32) (x3 : Int32) (x4 : Int32) (s0 : Int32) (s1 : Int32) (s2 : Int32) (s3 : Option Nat) (μ : Mem) (kc ks : Nat) : Prop := Z w g K mc ms 103 [(0, tR (some this)), (1, tI x1), (2, tI x2), (3, tI x3), (4, tI x4)] [tI s0, tI s1, tI s2, tR s3] μ kc ks
def B_X3_word_140 (w : WT) (g : GT) (K : Out → Mem → Prop) (mc ms : Nat) (this : Nat) (x1 : Int32) (x2 : Int32) (x3 : Int32) (s0 : Int32) (s1 : Option Nat) (μ : Mem) (kc ks : Nat) : Prop := Z w g K mc ms 140 [(0, tR (some this)), (1, tI x1), (2, tI x2), (3, tI x3)] [tI s0, tR s1] μ kc ks
def B_X3_word_167 (w : WT) (g : GT) (K : Out → Mem → Prop) (mc ms : Nat) (this : Nat) (x1 : Int32) (x2 : Int32) (x4 : Int32)  (μ : Mem) (kc ks : Nat) : Prop := Z w g K mc ms 167 [(0, tR (some this)), (1, tI x1), (2, tI x2), (4, tI x4)] [] μ kc ks
theorem zf_X3_44_18 : zFd RX3 44 72 true 18 := ⟨15, _, _, _, _, _, zk_18, rfl, Or.inl q3609, Or.inl rfl⟩
theorem zf_X3_216_18 : zFd RX3 216 81 false 18 := ⟨24, _, _, _, _, _, zk_18, rfl, Or.inl q3618, Or.inl rfl⟩
theorem zf_X3_50_18 : zFd RX3 50 74 true 18 := ⟨17, _, _, _, _, _, zk_18, rfl, Or.inl q3611, Or.inl rfl⟩
theorem zf_X3_47_18 : zFd RX3 47 73 true 18 := ⟨16, _, _, _, _, _, zk_18, rfl, Or.inl q3610, Or.inl rfl⟩
theorem zp_X3_216_18 {yy : MethodName} (hy : yy.cls = RX3) : zFp yy 216 81 false .boolean 18 := by obtain ⟨c0, n0, d0⟩ := yy; cases hy; exact ⟨24, _, _, _, _, _, zk_18, rfl, Or.inl q3618, Or.inl rfl, rfl, Or.inl rfl⟩
theorem zp_X3_210_18 {yy : MethodName} (hy : yy.cls = RX3) : zFp yy 210 77 false .int 18 := by obtain ⟨c0, n0, d0⟩ := yy; cases hy; exact ⟨20, _, _, _, _, _, zk_18, rfl, Or.inl q3614, Or.inl rfl, rfl, Or.inl rfl⟩
set_option maxHeartbeats 4000000 in
theorem tr_X3_word {w : WT} {this : Nat} {μ : Mem} {mc ms : Nat} {K : Out → Mem → Prop} (h : ∀ g : GT, Cx_X3_word w g → zM w μ → B_X3_word_2 w g K mc ms this 0 μ 0 0) : Tr_X3_word w this μ mc ms K := by
  refine Tr.of (by decide +kernel) (Nat.le_of_ble_eq_true rfl) (fun g C => ?_)
  show Z w g K mc ms 0 [(0, tR (some this))] [] μ 0 0
  refine Z.wm fun m0 => ?_
  have h := h g C m0
  refine z_iconst (v := 0) C dX3_word_0 (by decide) ?_
  refine z_istore_n (lv' := [(1, tI 0), (0, tR (some this))]) C dX3_word_1 (by decide) rfl ?_
  refine Z.sub [1, 0] rfl ?_
  exact h
set_option maxHeartbeats 4000000 in
theorem bk_X3_word_2 {w : WT} {g : GT} {K : Out → Mem → Prop} {mc ms : Nat} {this : Nat} {x1 : Int32}  {μ : Mem} {kc ks : Nat} (C : Cx_X3_word w g) (h : zM w μ → ((nI 10) ≤ x1 → B_X3_word_25 w g K mc ms this 0 (-1 : Int32) μ kc ks) ∧ (¬ (nI 10) ≤ x1 → zC μ this = 18 ∧ ∃ a6 : Nat, (zR μ 72 this) = some a6 ∧ zC μ a6 = 101 ∧ zB w ≤ a6 ∧ vp_in x1 (zN μ a6) ∧ ∀ μ15 : Mem, μ15 = zsA μ a6 x1.toNatClampNeg 1 → B_X3_word_2 w g K mc ms this (x1 + 1) μ15 kc ks)) : B_X3_word_2 w g K mc ms this x1 μ kc ks := by
  unfold Cx_X3_word at C
  unfold B_X3_word_2
  refine Z.wm fun m0 => ?_
  have h := h m0
  refine z_iload_n C dX3_word_2 1 rfl ?_
  refine z_bipush (v := (nI 10)) C dX3_word_3 (by decide) ?_
  refine z_icmp_ge C 21 dX3_word_5 (by decide) (fun c3 => ?_) (fun c3 => ?_)
  · have h1 := h.1 c3
    refine z_iconst (v := 0) C dX3_word_21 (by decide) ?_
    refine z_istore_n (lv' := [(1, tI 0), (0, tR (some this))]) C dX3_word_22 (by decide) rfl ?_
    refine z_iconst (v := (-1 : Int32)) C dX3_word_23 (by decide) ?_
    refine z_istore_n (lv' := [(2, tI (-1 : Int32)), (1, tI 0), (0, tR (some this))]) C dX3_word_24 (by decide) rfl ?_
    refine Z.sub [2, 1, 0] rfl ?_
    exact h1
  · have h2 := h.2 c3
    refine z_aload_n C dX3_word_8 0 rfl ?_
    obtain ⟨c4, h5⟩ := h2
    refine z_getR C rfl (zFdOf c4 zf_X3_44_18) dX3_word_9 ?_
    refine z_iload_n C dX3_word_12 1 rfl ?_
    refine z_iconst (v := 1) C dX3_word_13 (by decide) ?_
    obtain ⟨a6, e7, h8⟩ := h5
    obtain ⟨c9, h10⟩ := h8
    obtain ⟨c11, c12, h13⟩ := h10
    refine z_iast C e7 c9 c11 c12 dX3_word_14 ?_
    refine Z.mem fun μ15 e16 => ?_
    have h14 := h13 μ15 e16
    have c17 : zC μ15 this = 18 := by rw [e16]; exact c4
    have c18 : zC μ15 a6 = 101 := by rw [e16]; exact c9
    refine z_iinc (k0 := 1) (v := x1 + 1) (lv' := [(1, tI (x1 + 1)), (0, tR (some this))]) C dX3_word_15 rfl (by first | rfl | decide) (by decide) rfl ?_
    refine z_goto C 2 dX3_word_18 (by decide) ?_
    refine Z.sub [1, 0] rfl ?_
    exact h14
set_option maxHeartbeats 4000000 in
theorem bk_X3_word_25 {w : WT} {g : GT} {K : Out → Mem → Prop} {mc ms : Nat} {this : Nat} {x1 : Int32} {x2 : Int32}  {μ : Mem} {kc ks : Nat} (C : Cx_X3_word w g) (h : zM w μ → (0 ≤ x2 → K (.inl (some (tI x2))) μ) ∧ (¬ 0 ≤ x2 → zC μ this = 18 ∧ ((zI μ 81 this) ≠ 0 → K (.inl (some (tI x2))) μ) ∧ ((zI μ 81 this) = 0 → B_X3_word_41 w g K mc ms this x1 x2 0 0 μ kc ks))) : B_X3_word_25 w g K mc ms this x1 x2 μ kc ks := by
  unfold Cx_X3_word at C
  unfold B_X3_word_25
  refine Z.wm fun m0 => ?_
  have h := h m0
  refine z_iload_n C dX3_word_25 2 rfl ?_
  refine z_if_ge C 222 dX3_word_26 (by decide) (fun c3 => ?_) (fun c3 => ?_)
  · have h1 := h.1 c3
    refine z_iload_n C dX3_word_222 2 rfl ?_
    exact z_ireturn C rfl rfl dX3_word_223 h1
  · have h2 := h.2 c3
    refine z_aload_n C dX3_word_29 0 rfl ?_
    obtain ⟨c4, h5⟩ := h2
    refine z_getI C rfl (zFdOf c4 zf_X3_216_18) dX3_word_30 ?_
    refine z_if_ne C 222 dX3_word_33 (by decide) (fun c8 => ?_) (fun c8 => ?_)
    · have h6 := h5.1 c8
      refine z_iload_n C dX3_word_222 2 rfl ?_
      exact z_ireturn C rfl rfl dX3_word_223 h6
    · have h7 := h5.2 c8
      refine z_iconst (v := 0) C dX3_word_36 (by decide) ?_
      refine z_istore_n (lv' := [(3, tI 0), (0, tR (some this)), (1, tI x1), (2, tI x2)]) C dX3_word_37 (by decide) rfl ?_
      refine z_iconst (v := 0) C dX3_word_38 (by decide) ?_
      refine z_istore (lv' := [(4, tI 0), (3, tI 0), (0, tR (some this)), (1, tI x1), (2, tI x2)]) C dX3_word_39 (by decide) rfl ?_
      refine Z.sub [2, 3, 4, 1, 0] rfl ?_
      exact h7
set_option maxHeartbeats 4000000 in
theorem bk_X3_word_41 {w : WT} {g : GT} {K : Out → Mem → Prop} {mc ms : Nat} {this : Nat} {x1 : Int32} {x2 : Int32} {x3 : Int32} {x4 : Int32}  {μ : Mem} {kc ks : Nat} (C : Cx_X3_word w g) (h : zM w μ → ((nI 10) ≤ x4 → (x3 ≠ 0 → B_X3_word_140 w g K mc ms this x1 x2 x3 0 (some this) μ kc ks) ∧ (x3 = 0 → B_X3_word_140 w g K mc ms this x1 x2 x3 1 (some this) μ kc ks)) ∧ (¬ (nI 10) ≤ x4 → zC μ this = 18 ∧ ∃ a9 : Nat, (zR μ 72 this) = some a9 ∧ zC μ a9 = 101 ∧ vp_in x4 (zN μ a9) ∧ ∃ a16 : Nat, (zR μ 74 this) = some a16 ∧ zC μ a16 = 101 ∧ vp_in x4 (zN μ a16) ∧ vp_in (x4 + (1 : Int32)) (zN μ a16) ∧ ((zA μ a16 (x4 + (1 : Int32)).toNatClampNeg) ≤ ((zA μ a16 x4.toNatClampNeg) + x1) → B_X3_word_102 w g K mc ms this x1 x2 x3 x4 (zA μ a9 x4.toNatClampNeg) x4 (zR μ 72 this) μ kc ks) ∧ (¬ (zA μ a16 (x4 + (1 : Int32)).toNatClampNeg) ≤ ((zA μ a16 x4.toNatClampNeg) + x1) → vp_in x4 (zN μ a16) ∧ ∃ a30 : Nat, (zR μ 73 this) = some a30 ∧ zC μ a30 = 101 ∧ vp_in ((zA μ a16 x4.toNatClampNeg) + x1) (zN μ a30) ∧ Tr_X3_sign w this μ 0 0 (zKi (fun v37 μ38 => zM w μ38 → ((zA μ a30 ((zA μ a16 x4.toNatClampNeg) + x1).toNatClampNeg) ≠ v37 → B_X3_word_102 w g K mc ms this x1 x2 x3 x4 (zA μ a9 x4.toNatClampNeg) x4 (zR μ 72 this) μ38 kc ks) ∧ ((zA μ a30 ((zA μ a16 x4.toNatClampNeg) + x1).toNatClampNeg) = v37 → B_X3_word_103 w g K mc ms this x1 x2 x3 x4 1 (zA μ a9 x4.toNatClampNeg) x4 (zR μ 72 this) μ38 kc ks)) (fun q39 μ40 => False))))) : B_X3_word_41 w g K mc ms this x1 x2 x3 x4 μ kc ks := by
  unfold Cx_X3_word at C
  unfold B_X3_word_41
  refine Z.wm fun m0 => ?_
  have h := h m0
  refine z_iload C dX3_word_41 4 rfl ?_
  refine z_bipush (v := (nI 10)) C dX3_word_43 (by decide) ?_
  refine z_icmp_ge C 130 dX3_word_45 (by decide) (fun c3 => ?_) (fun c3 => ?_)
  · have h1 := h.1 c3
    refine z_aload_n C dX3_word_130 0 rfl ?_
    refine z_iload_n C dX3_word_131 3 rfl ?_
    refine z_if_ne C 139 dX3_word_132 (by decide) (fun c6 => ?_) (fun c6 => ?_)
    · have h4 := h1.1 c6
      refine z_iconst (v := 0) C dX3_word_139 (by decide) ?_
      refine Z.sub [0, 1, 2, 3] rfl ?_
      exact h4
    · have h5 := h1.2 c6
      refine z_iconst (v := 1) C dX3_word_135 (by decide) ?_
      refine z_goto C 140 dX3_word_136 (by decide) ?_
      refine Z.sub [0, 1, 2, 3] rfl ?_
      exact h5
  · have h2 := h.2 c3
    refine z_aload_n C dX3_word_48 0 rfl ?_
    obtain ⟨c7, h8⟩ := h2
    refine z_getR C rfl (zFdOf c7 zf_X3_44_18) dX3_word_49 ?_
    refine z_iload C dX3_word_52 4 rfl ?_
    refine z_dup2 C dX3_word_54 rfl rfl ?_
    obtain ⟨a9, e10, h11⟩ := h8
    obtain ⟨c12, h13⟩ := h11
    obtain ⟨c14, h15⟩ := h13
    refine z_iald C e10 c12 c14 dX3_word_55 ?_
    refine z_aload_n C dX3_word_56 0 rfl ?_
    refine z_getR C rfl (zFdOf c7 zf_X3_50_18) dX3_word_57 ?_
    refine z_iload C dX3_word_60 4 rfl ?_
    obtain ⟨a16, e17, h18⟩ := h15
    obtain ⟨c19, h20⟩ := h18
    obtain ⟨c21, h22⟩ := h20
    refine z_iald C e17 c19 c21 dX3_word_62 ?_
    refine z_iload_n C dX3_word_63 1 rfl ?_
    refine z_iadd C dX3_word_64 ?_
    refine z_aload_n C dX3_word_65 0 rfl ?_
    refine z_getR C rfl (zFdOf c7 zf_X3_50_18) dX3_word_66 ?_
    refine z_iload C dX3_word_69 4 rfl ?_
    refine z_iconst (v := 1) C dX3_word_71 (by decide) ?_
    refine z_iadd C dX3_word_72 ?_
    obtain ⟨c23, h24⟩ := h22
    refine z_iald C e17 c19 c23 dX3_word_73 ?_
    refine z_icmp_ge C 102 dX3_word_74 (by decide) (fun c27 => ?_) (fun c27 => ?_)
    · have h25 := h24.1 c27
      refine Z.sub [0, 1, 2, 3, 4] rfl ?_
      exact h25
    · have h26 := h24.2 c27
      refine z_aload_n C dX3_word_77 0 rfl ?_
      refine z_getR C rfl (zFdOf c7 zf_X3_47_18) dX3_word_78 ?_
      refine z_aload_n C dX3_word_81 0 rfl ?_
      refine z_getR C rfl (zFdOf c7 zf_X3_50_18) dX3_word_82 ?_
      refine z_iload C dX3_word_85 4 rfl ?_
      obtain ⟨c28, h29⟩ := h26
      refine z_iald C e17 c19 c28 dX3_word_87 ?_
      refine z_iload_n C dX3_word_88 1 rfl ?_
      refine z_iadd C dX3_word_89 ?_
      obtain ⟨a30, e31, h32⟩ := h29
      obtain ⟨c33, h34⟩ := h32
      obtain ⟨c35, h36⟩ := h34
      refine z_iald C e31 c33 c35 dX3_word_90 ?_
      refine z_aload_n C dX3_word_91 0 rfl ?_
      refine Z.kk fun c45 c46 => ?_
      have k44 := h36
      refine z_callV (as := []) (rest := [tI (zA μ a30 ((zA μ a16 x4.toNatClampNeg) + x1).toNatClampNeg), tI (zA μ a9 x4.toNatClampNeg), tI x4, tR (zR μ 72 this)]) C k44 rfl rfl (by decide) c7 rfl q4027 q4029 qs95 q113 q4030 yd_X3_sign (by decide) (Nat.le_of_ble_eq_true rfl) dX3_word_92 c45 c46 (zRet_i fun v37 μ38 h43 => ?_) (zThr_i fun _ _ z9 _ _ _ _ => z9.elim)
      · refine Z.wm fun m42 => ?_
        have h41 := h43 m42
        refine z_icmp_ne C 102 dX3_word_95 (by decide) (fun c49 => ?_) (fun c49 => ?_)
        · have h47 := h41.1 c49
          refine Z.sub [0, 1, 2, 3, 4] rfl ?_
          exact h47
        · have h48 := h41.2 c49
          refine z_iconst (v := 1) C dX3_word_98 (by decide) ?_
          refine z_goto C 103 dX3_word_99 (by decide) ?_
          refine Z.sub [0, 1, 2, 3, 4] rfl ?_
          exact h48
set_option maxHeartbeats 4000000 in
theorem bk_X3_word_102 {w : WT} {g : GT} {K : Out → Mem → Prop} {mc ms : Nat} {this : Nat} {x1 : Int32} {x2 : Int32} {x3 : Int32} {x4 : Int32} {s0 : Int32} {s1 : Int32} {s2 : Option Nat} {μ : Mem} {kc ks : Nat} (C : Cx_X3_word w g) (h : zM w μ → B_X3_word_103 w g K mc ms this x1 x2 x3 x4 0 s0 s1 s2 μ kc ks) : B_X3_word_102 w g K mc ms this x1 x2 x3 x4 s0 s1 s2 μ kc ks := by
  unfold Cx_X3_word at C
  unfold B_X3_word_102
  refine Z.wm fun m0 => ?_
  have h := h m0
  refine z_iconst (v := 0) C dX3_word_102 (by decide) ?_
  refine Z.sub [0, 1, 2, 3, 4] rfl ?_
  exact h
set_option maxHeartbeats 4000000 in
theorem bk_X3_word_103 {w : WT} {g : GT} {K : Out → Mem → Prop} {mc ms : Nat} {this : Nat} {x1 : Int32} {x2 : Int32} {x3 : Int32} {x4 : Int32} {s0 : Int32} {s1 : Int32} {s2 : Int32} {s3 : Option Nat} {μ : Mem} {kc ks : Nat} (C : Cx_X3_word w g) (h : zM w μ → ∃ a1 : Nat, s3 = some a1 ∧ zC μ a1 = 101 ∧ zB w ≤ a1 ∧ vp_in s2 (zN μ a1) ∧ ∀ μ10 : Mem, μ10 = zsA μ a1 s2.toNatClampNeg (s1 &&& s0) → zC μ10 this = 18 ∧ ∃ a15 : Nat, (zR μ10 72 this) = some a15 ∧ zC μ10 a15 = 101 ∧ vp_in x4 (zN μ10 a15) ∧ ((zA μ10 a15 x4.toNatClampNeg) ≠ 1 → B_X3_word_41 w g K mc ms this x1 x2 (x3 ||| (0 : Int32)) (x4 + 1) μ10 kc ks) ∧ ((zA μ10 a15 x4.toNatClampNeg) = 1 → B_X3_word_41 w g K mc ms this x1 x2 (x3 ||| (1 : Int32)) (x4 + 1) μ10 kc ks)) : B_X3_word_103 w g K mc ms this x1 x2 x3 x4 s0 s1 s2 s3 μ kc ks := by
  unfold Cx_X3_word at C
  unfold B_X3_word_103
  refine Z.wm fun m0 => ?_
  have h := h m0
  refine z_iand C dX3_word_103 ?_
  obtain ⟨a1, e2, h3⟩ := h
  obtain ⟨c4, h5⟩ := h3
  obtain ⟨c6, c7, h8⟩ := h5
  refine z_iast C e2 c4 c6 c7 dX3_word_104 ?_
  refine Z.mem fun μ10 e11 => ?_
  have h9 := h8 μ10 e11
  have c12 : zC μ10 a1 = 101 := by rw [e11]; exact c4
  refine z_iload_n C dX3_word_105 3 rfl ?_
  refine z_aload_n C dX3_word_106 0 rfl ?_
  obtain ⟨c13, h14⟩ := h9
  refine z_getR C rfl (zFdOf c13 zf_X3_44_18) dX3_word_107 ?_
  refine z_iload C dX3_word_110 4 rfl ?_
  obtain ⟨a15, e16, h17⟩ := h14
  obtain ⟨c18, h19⟩ := h17
  obtain ⟨c20, h21⟩ := h19
  refine z_iald C e16 c18 c20 dX3_word_112 ?_
  refine z_iconst (v := 1) C dX3_word_113 (by decide) ?_
  refine z_icmp_ne C 121 dX3_word_114 (by decide) (fun c24 => ?_) (fun c24 => ?_)
  · have h22 := h21.1 c24
    refine z_iconst (v := 0) C dX3_word_121 (by decide) ?_
    refine z_ior C dX3_word_122 ?_
    refine z_istore_n (lv' := [(3, tI (x3 ||| (0 : Int32))), (0, tR (some this)), (1, tI x1), (2, tI x2), (4, tI x4)]) C dX3_word_123 (by decide) rfl ?_
    refine z_iinc (k0 := 4) (v := x4 + 1) (lv' := [(4, tI (x4 + 1)), (3, tI (x3 ||| (0 : Int32))), (0, tR (some this)), (1, tI x1), (2, tI x2)]) C dX3_word_124 rfl (by first | rfl | decide) (by decide) rfl ?_
    refine z_goto C 41 dX3_word_127 (by decide) ?_
    refine Z.sub [2, 3, 4, 1, 0] rfl ?_
    exact h22
  · have h23 := h21.2 c24
    refine z_iconst (v := 1) C dX3_word_117 (by decide) ?_
    refine z_goto C 122 dX3_word_118 (by decide) ?_
    refine z_ior C dX3_word_122 ?_
    refine z_istore_n (lv' := [(3, tI (x3 ||| (1 : Int32))), (0, tR (some this)), (1, tI x1), (2, tI x2), (4, tI x4)]) C dX3_word_123 (by decide) rfl ?_
    refine z_iinc (k0 := 4) (v := x4 + 1) (lv' := [(4, tI (x4 + 1)), (3, tI (x3 ||| (1 : Int32))), (0, tR (some this)), (1, tI x1), (2, tI x2)]) C dX3_word_124 rfl (by first | rfl | decide) (by decide) rfl ?_
    refine z_goto C 41 dX3_word_127 (by decide) ?_
    refine Z.sub [2, 3, 4, 1, 0] rfl ?_
    exact h23
set_option maxHeartbeats 4000000 in
theorem bk_X3_word_140 {w : WT} {g : GT} {K : Out → Mem → Prop} {mc ms : Nat} {this : Nat} {x1 : Int32} {x2 : Int32} {x3 : Int32} {s0 : Int32} {s1 : Option Nat} {μ : Mem} {kc ks : Nat} (C : Cx_X3_word w g) (h : zM w μ → ∃ a1 : Nat, s1 = some a1 ∧ zC μ a1 = 18 ∧ zNar .boolean s0 ∧ ∀ μ8 : Mem, μ8 = zsI μ 81 a1 s0 → zC μ8 this = 18 ∧ (x3 = 0 → ∀ μ17 : Mem, μ17 = zsI μ8 77 this ((zI μ8 77 this) + (0 : Int32)) → B_X3_word_167 w g K mc ms this (x1 + 1) x2 0 μ17 kc ks) ∧ (¬ x3 = 0 → ∀ μ22 : Mem, μ22 = zsI μ8 77 this ((zI μ8 77 this) + (1 : Int32)) → B_X3_word_167 w g K mc ms this (x1 + 1) x2 0 μ22 kc ks)) : B_X3_word_140 w g K mc ms this x1 x2 x3 s0 s1 μ kc ks := by
  unfold Cx_X3_word at C
  unfold B_X3_word_140
  refine Z.wm fun m0 => ?_
  have h := h m0
  obtain ⟨a1, e2, h3⟩ := h
  obtain ⟨c4, h5⟩ := h3
  obtain ⟨c6, h7⟩ := h5
  refine z_putI C e2 (zFpOf c4 (zp_X3_216_18 rfl)) (Or.inl (zFzOf c4 rfl)) c6.1 c6.2 dX3_word_140 ?_
  refine Z.mem fun μ8 e10 => ?_
  have h9 := h7 μ8 e10
  have c11 : zC μ8 a1 = 18 := by rw [e10]; exact c4
  refine z_aload_n C dX3_word_143 0 rfl ?_
  refine z_dup C dX3_word_144 rfl ?_
  obtain ⟨c12, h13⟩ := h9
  refine z_getI C rfl (zFdOf c12 zf_X3_210_18) dX3_word_145 ?_
  refine z_iload_n C dX3_word_148 3 rfl ?_
  refine z_if_eq C 156 dX3_word_149 (by decide) (fun c16 => ?_) (fun c16 => ?_)
  · have h14 := h13.1 c16
    refine z_iconst (v := 0) C dX3_word_156 (by decide) ?_
    refine z_iadd C dX3_word_157 ?_
    refine z_putI C rfl (zFpOf c12 (zp_X3_210_18 rfl)) (Or.inl (zFzOf c12 rfl)) rfl rfl dX3_word_158 ?_
    refine Z.mem fun μ17 e19 => ?_
    have h18 := h14 μ17 e19
    have c20 : zC μ17 a1 = 18 := by rw [e19]; exact c11
    have c21 : zC μ17 this = 18 := by rw [e19]; exact c12
    refine z_iinc (k0 := 1) (v := x1 + 1) (lv' := [(1, tI (x1 + 1)), (0, tR (some this)), (2, tI x2), (3, tI x3)]) C dX3_word_161 rfl (by first | rfl | decide) (by decide) rfl ?_
    refine z_iconst (v := 0) C dX3_word_164 (by decide) ?_
    refine z_istore (lv' := [(4, tI 0), (1, tI (x1 + 1)), (0, tR (some this)), (2, tI x2), (3, tI x3)]) C dX3_word_165 (by decide) rfl ?_
    refine Z.sub [2, 1, 3, 0] rfl ?_
    exact h18
  · have h15 := h13.2 c16
    refine z_iconst (v := 1) C dX3_word_152 (by decide) ?_
    refine z_goto C 157 dX3_word_153 (by decide) ?_
    refine z_iadd C dX3_word_157 ?_
    refine z_putI C rfl (zFpOf c12 (zp_X3_210_18 rfl)) (Or.inl (zFzOf c12 rfl)) rfl rfl dX3_word_158 ?_
    refine Z.mem fun μ22 e24 => ?_
    have h23 := h15 μ22 e24
    have c25 : zC μ22 a1 = 18 := by rw [e24]; exact c11
    have c26 : zC μ22 this = 18 := by rw [e24]; exact c12
    refine z_iinc (k0 := 1) (v := x1 + 1) (lv' := [(1, tI (x1 + 1)), (0, tR (some this)), (2, tI x2), (3, tI x3)]) C dX3_word_161 rfl (by first | rfl | decide) (by decide) rfl ?_
    refine z_iconst (v := 0) C dX3_word_164 (by decide) ?_
    refine z_istore (lv' := [(4, tI 0), (1, tI (x1 + 1)), (0, tR (some this)), (2, tI x2), (3, tI x3)]) C dX3_word_165 (by decide) rfl ?_
    refine Z.sub [2, 1, 3, 0] rfl ?_
    exact h23
set_option maxHeartbeats 4000000 in
theorem bk_X3_word_167 {w : WT} {g : GT} {K : Out → Mem → Prop} {mc ms : Nat} {this : Nat} {x1 : Int32} {x2 : Int32} {x4 : Int32}  {μ : Mem} {kc ks : Nat} (C : Cx_X3_word w g) (h : zM w μ → ((nI 10) ≤ x4 → B_X3_word_25 w g K mc ms this x1 x2 μ kc ks) ∧ (¬ (nI 10) ≤ x4 → zC μ this = 18 ∧ ∃ a6 : Nat, (zR μ 72 this) = some a6 ∧ zC μ a6 = 101 ∧ vp_in x4 (zN μ a6) ∧ ((zA μ a6 x4.toNatClampNeg) ≠ 1 → B_X3_word_167 w g K mc ms this x1 x2 (x4 + 1) μ kc ks) ∧ ((zA μ a6 x4.toNatClampNeg) = 1 → ∃ a16 : Nat, (zR μ 74 this) = some a16 ∧ zC μ a16 = 101 ∧ vp_in x4 (zN μ a16) ∧ vp_in (x4 + (1 : Int32)) (zN μ a16) ∧ (((zA μ a16 x4.toNatClampNeg) + x1) ≠ (zA μ a16 (x4 + (1 : Int32)).toNatClampNeg) → B_X3_word_167 w g K mc ms this x1 x2 (x4 + 1) μ kc ks) ∧ (((zA μ a16 x4.toNatClampNeg) + x1) = (zA μ a16 (x4 + (1 : Int32)).toNatClampNeg) → B_X3_word_167 w g K mc ms this x1 x4 (x4 + 1) μ kc ks)))) : B_X3_word_167 w g K mc ms this x1 x2 x4 μ kc ks := by
  unfold Cx_X3_word at C
  unfold B_X3_word_167
  refine Z.wm fun m0 => ?_
  have h := h m0
  refine z_iload C dX3_word_167 3 rfl ?_
  refine z_bipush (v := (nI 10)) C dX3_word_169 (by decide) ?_
  refine z_icmp_ge C 219 dX3_word_171 (by decide) (fun c3 => ?_) (fun c3 => ?_)
  · have h1 := h.1 c3
    refine z_goto C 25 dX3_word_219 (by decide) ?_
    refine Z.sub [0, 1, 2] rfl ?_
    exact h1
  · have h2 := h.2 c3
    refine z_aload_n C dX3_word_174 0 rfl ?_
    obtain ⟨c4, h5⟩ := h2
    refine z_getR C rfl (zFdOf c4 zf_X3_44_18) dX3_word_175 ?_
    refine z_iload C dX3_word_178 3 rfl ?_
    obtain ⟨a6, e7, h8⟩ := h5
    obtain ⟨c9, h10⟩ := h8
    obtain ⟨c11, h12⟩ := h10
    refine z_iald C e7 c9 c11 dX3_word_180 ?_
    refine z_iconst (v := 1) C dX3_word_181 (by decide) ?_
    refine z_icmp_ne C 211 dX3_word_182 (by decide) (fun c15 => ?_) (fun c15 => ?_)
    · have h13 := h12.1 c15
      refine z_iload_n C dX3_word_211 2 rfl ?_
      refine z_istore_n (lv' := [(2, tI x2), (0, tR (some this)), (1, tI x1), (4, tI x4)]) C dX3_word_212 (by decide) rfl ?_
      refine z_iinc (k0 := 3) (v := x4 + 1) (lv' := [(4, tI (x4 + 1)), (2, tI x2), (0, tR (some this)), (1, tI x1)]) C dX3_word_213 rfl (by first | rfl | decide) (by decide) rfl ?_
      refine z_goto C 167 dX3_word_216 (by decide) ?_
      refine Z.sub [2, 3, 1, 0] rfl ?_
      exact h13
    · have h14 := h12.2 c15
      refine z_aload_n C dX3_word_185 0 rfl ?_
      refine z_getR C rfl (zFdOf c4 zf_X3_50_18) dX3_word_186 ?_
      refine z_iload C dX3_word_189 3 rfl ?_
      obtain ⟨a16, e17, h18⟩ := h14
      obtain ⟨c19, h20⟩ := h18
      obtain ⟨c21, h22⟩ := h20
      refine z_iald C e17 c19 c21 dX3_word_191 ?_
      refine z_iload_n C dX3_word_192 1 rfl ?_
      refine z_iadd C dX3_word_193 ?_
      refine z_aload_n C dX3_word_194 0 rfl ?_
      refine z_getR C rfl (zFdOf c4 zf_X3_50_18) dX3_word_195 ?_
      refine z_iload C dX3_word_198 3 rfl ?_
      refine z_iconst (v := 1) C dX3_word_200 (by decide) ?_
      refine z_iadd C dX3_word_201 ?_
      obtain ⟨c23, h24⟩ := h22
      refine z_iald C e17 c19 c23 dX3_word_202 ?_
      refine z_icmp_ne C 211 dX3_word_203 (by decide) (fun c27 => ?_) (fun c27 => ?_)
      · have h25 := h24.1 c27
        refine z_iload_n C dX3_word_211 2 rfl ?_
        refine z_istore_n (lv' := [(2, tI x2), (0, tR (some this)), (1, tI x1), (4, tI x4)]) C dX3_word_212 (by decide) rfl ?_
        refine z_iinc (k0 := 3) (v := x4 + 1) (lv' := [(4, tI (x4 + 1)), (2, tI x2), (0, tR (some this)), (1, tI x1)]) C dX3_word_213 rfl (by first | rfl | decide) (by decide) rfl ?_
        refine z_goto C 167 dX3_word_216 (by decide) ?_
        refine Z.sub [2, 3, 1, 0] rfl ?_
        exact h25
      · have h26 := h24.2 c27
        refine z_iload C dX3_word_206 3 rfl ?_
        refine z_goto C 212 dX3_word_208 (by decide) ?_
        refine z_istore_n (lv' := [(2, tI x4), (0, tR (some this)), (1, tI x1), (4, tI x4)]) C dX3_word_212 (by decide) rfl ?_
        refine z_iinc (k0 := 3) (v := x4 + 1) (lv' := [(4, tI (x4 + 1)), (2, tI x4), (0, tR (some this)), (1, tI x1)]) C dX3_word_213 rfl (by first | rfl | decide) (by decide) rfl ?_
        refine z_goto C 167 dX3_word_216 (by decide) ?_
        refine Z.sub [2, 3, 1, 0] rfl ?_
        exact h26
/-! HutRidgeModel.digits(I)I -/
def Tr_X3_digits (w : WT) (this : Nat) (x1 : Int32) (μ : Mem) (mc ms : Nat) (K : Out → Mem → Prop) : Prop := Tr w yX3_digits (ws_ yX3_digits cX3_digits 4 (Option.some Jvm.ClassFile.FieldType.int)) 2 62 [tR (some this), tI x1] μ mc ms K
def Cx_X3_digits (w : WT) (g : GT) : Prop := Cx w g yX3_digits cX3_digits 4 (Option.some Jvm.ClassFile.FieldType.int) [] 2 62
theorem yd_X3_digits : yX3_digits.cls ≠ "java/lang/invoke/MethodHandle" ∧ yX3_digits.cls ≠ "java/lang/invoke/VarHandle" ∧ (parseMethodDescriptor yX3_digits.desc).map (fun d => d.parameters.length) = some 1 := by decide +kernel
def B_X3_digits_4 (w : WT) (g : GT) (K : Out → Mem → Prop) (mc ms : Nat) (this : Nat) (x1 : Int32) (x2 : Int32) (x3 : Int32)  (μ : Mem) (kc ks : Nat) : Prop := Z w g K mc ms 4 [(0, tR (some this)), (1, tI x1), (2, tI x2), (3, tI x3)] [] μ kc ks
def B_X3_digits_59 (w : WT) (g : GT) (K : Out → Mem → Prop) (mc ms : Nat) (this : Nat) (x2 : Int32) (x3 : Int32)  (μ : Mem) (kc ks : Nat) : Prop := Z w g K mc ms 59 [(0, tR (some this)), (2, tI x2), (3, tI x3)] [] μ kc ks
set_option maxHeartbeats 4000000 in
theorem tr_X3_digits {w : WT} {this : Nat} {x1 : Int32} {μ : Mem} {mc ms : Nat} {K : Out → Mem → Prop} (h : ∀ g : GT, Cx_X3_digits w g → zM w μ → B_X3_digits_4 w g K mc ms this x1 0 0 μ 0 0) : Tr_X3_digits w this x1 μ mc ms K := by
  refine Tr.of (by decide +kernel) (Nat.le_of_ble_eq_true rfl) (fun g C => ?_)
  show Z w g K mc ms 0 [(0, tR (some this)), (1, tI x1)] [] μ 0 0
  refine Z.wm fun m0 => ?_
  have h := h g C m0
  refine z_iconst (v := 0) C dX3_digits_0 (by decide) ?_
  refine z_istore_n (lv' := [(2, tI 0), (0, tR (some this)), (1, tI x1)]) C dX3_digits_1 (by decide) rfl ?_
  refine z_iconst (v := 0) C dX3_digits_2 (by decide) ?_
  refine z_istore_n (lv' := [(3, tI 0), (2, tI 0), (0, tR (some this)), (1, tI x1)]) C dX3_digits_3 (by decide) rfl ?_
  refine Z.sub [2, 3, 1, 0] rfl ?_
  exact h
set_option maxHeartbeats 4000000 in
theorem bk_X3_digits_4 {w : WT} {g : GT} {K : Out → Mem → Prop} {mc ms : Nat} {this : Nat} {x1 : Int32} {x2 : Int32} {x3 : Int32}  {μ : Mem} {kc ks : Nat} (C : Cx_X3_digits w g) (h : zM w μ → zC μ this = 18 ∧ ((zI μ 81 this) ≠ 0 → B_X3_digits_59 w g K mc ms this x2 x3 μ kc ks) ∧ ((zI μ 81 this) = 0 → (x1 ≤ x3 → B_X3_digits_59 w g K mc ms this x2 x3 μ kc ks) ∧ (¬ x1 ≤ x3 → Tr_X3_sign w this μ 0 0 (zKi (fun v9 μ10 => zM w μ10 → Tr_X3_isIn w v9 (nI 48) (nI 57) μ10 0 0 (zKi (fun v19 μ20 => zM w μ20 → (v19 = 0 → B_X3_digits_59 w g K mc ms this x2 x3 μ20 kc ks) ∧ (¬ v19 = 0 → zC μ20 this = 18 ∧ Tr_X3_sign w this μ20 0 0 (zKi (fun v34 μ35 => zM w μ35 → zC μ35 this = 18 ∧ ∀ μ46 : Mem, μ46 = zsI μ35 77 this ((zI μ35 77 this) + (1 : Int32)) → B_X3_digits_4 w g K mc ms this x1 ((((nI 10) * x2) + v34) - (nI 48)) (x3 + 1) μ46 kc ks) (fun q36 μ37 => False)))) (fun q21 μ22 => False))) (fun q11 μ12 => False))))) : B_X3_digits_4 w g K mc ms this x1 x2 x3 μ kc ks := by
  unfold Cx_X3_digits at C
  unfold B_X3_digits_4
  refine Z.wm fun m0 => ?_
  have h := h m0
  refine z_aload_n C dX3_digits_4 0 rfl ?_
  obtain ⟨c1, h2⟩ := h
  refine z_getI C rfl (zFdOf c1 zf_X3_216_18) dX3_digits_5 ?_
  refine z_if_ne C 59 dX3_digits_8 (by decide) (fun c5 => ?_) (fun c5 => ?_)
  · have h3 := h2.1 c5
    refine Z.sub [0, 2, 3] rfl ?_
    exact h3
  · have h4 := h2.2 c5
    refine z_iload_n C dX3_digits_11 3 rfl ?_
    refine z_iload_n C dX3_digits_12 1 rfl ?_
    refine z_icmp_ge C 59 dX3_digits_13 (by decide) (fun c8 => ?_) (fun c8 => ?_)
    · have h6 := h4.1 c8
      refine Z.sub [0, 2, 3] rfl ?_
      exact h6
    · have h7 := h4.2 c8
      refine z_aload_n C dX3_digits_16 0 rfl ?_
      refine Z.kk fun c17 c18 => ?_
      have k16 := h7
      refine z_callV (as := []) (rest := []) C k16 rfl rfl (by decide) c1 rfl q4027 q4029 qs95 q113 q4030 yd_X3_sign (by decide) (Nat.le_of_ble_eq_true rfl) dX3_digits_17 c17 c18 (zRet_i fun v9 μ10 h15 => ?_) (zThr_i fun _ _ z9 _ _ _ _ => z9.elim)
      · refine Z.wm fun m14 => ?_
        have h13 := h15 m14
        refine z_bipush (v := (nI 48)) C dX3_digits_20 (by decide) ?_
        refine z_bipush (v := (nI 57)) C dX3_digits_22 (by decide) ?_
        refine Z.kk fun c27 c28 => ?_
        have k26 := h13
        refine z_callS (as := [tI v9, tI (nI 48), tI (nI 57)]) (rest := []) C k26 rfl q3692 q3693 q113 q3694 yd_X3_isIn (by decide) (Nat.le_of_ble_eq_true rfl) dX3_digits_24 c27 c28 (zRet_i fun v19 μ20 h25 => ?_) (zThr_i fun _ _ z9 _ _ _ _ => z9.elim)
        · refine Z.wm fun m24 => ?_
          have h23 := h25 m24
          refine z_if_eq C 59 dX3_digits_27 (by decide) (fun c31 => ?_) (fun c31 => ?_)
          · have h29 := h23.1 c31
            refine Z.sub [0, 2, 3] rfl ?_
            exact h29
          · have h30 := h23.2 c31
            refine z_bipush (v := (nI 10)) C dX3_digits_30 (by decide) ?_
            refine z_iload_n C dX3_digits_32 2 rfl ?_
            refine z_imul C dX3_digits_33 ?_
            refine z_aload_n C dX3_digits_34 0 rfl ?_
            obtain ⟨c32, h33⟩ := h30
            refine Z.kk fun c42 c43 => ?_
            have k41 := h33
            refine z_callV (as := []) (rest := [tI ((nI 10) * x2)]) C k41 rfl rfl (by decide) c32 rfl q4027 q4029 qs95 q113 q4030 yd_X3_sign (by decide) (Nat.le_of_ble_eq_true rfl) dX3_digits_35 c42 c43 (zRet_i fun v34 μ35 h40 => ?_) (zThr_i fun _ _ z9 _ _ _ _ => z9.elim)
            · refine Z.wm fun m39 => ?_
              have h38 := h40 m39
              refine z_iadd C dX3_digits_38 ?_
              refine z_bipush (v := (nI 48)) C dX3_digits_39 (by decide) ?_
              refine z_isub C dX3_digits_41 ?_
              refine z_istore_n (lv' := [(2, tI ((((nI 10) * x2) + v34) - (nI 48))), (0, tR (some this)), (1, tI x1), (3, tI x3)]) C dX3_digits_42 (by decide) rfl ?_
              refine z_aload_n C dX3_digits_43 1 rfl ?_
              refine z_dup C dX3_digits_44 rfl ?_
              obtain ⟨c44, h45⟩ := h38
              refine z_getI C rfl (zFdOf c44 zf_X3_210_18) dX3_digits_45 ?_
              refine z_iconst (v := 1) C dX3_digits_48 (by decide) ?_
              refine z_iadd C dX3_digits_49 ?_
              refine z_putI C rfl (zFpOf c44 (zp_X3_210_18 rfl)) (Or.inl (zFzOf c44 rfl)) rfl rfl dX3_digits_50 ?_
              refine Z.mem fun μ46 e48 => ?_
              have h47 := h45 μ46 e48
              have c49 : zC μ46 this = 18 := by rw [e48]; exact c44
              refine z_iinc (k0 := 3) (v := x3 + 1) (lv' := [(3, tI (x3 + 1)), (2, tI ((((nI 10) * x2) + v34) - (nI 48))), (0, tR (some this)), (1, tI x1)]) C dX3_digits_53 rfl (by first | rfl | decide) (by decide) rfl ?_
              refine z_goto C 4 dX3_digits_56 (by decide) ?_
              refine Z.sub [2, 3, 1, 0] rfl ?_
              exact h47
set_option maxHeartbeats 4000000 in
theorem bk_X3_digits_59 {w : WT} {g : GT} {K : Out → Mem → Prop} {mc ms : Nat} {this : Nat} {x2 : Int32} {x3 : Int32}  {μ : Mem} {kc ks : Nat} (C : Cx_X3_digits w g) (h : zM w μ → zC μ this = 18 ∧ (x3 ≠ 0 → zNar .boolean ((zI μ 81 this) ||| (0 : Int32)) ∧ ∀ μ8 : Mem, μ8 = zsI μ 81 this ((zI μ 81 this) ||| (0 : Int32)) → K (.inl (some (tI x2))) μ8) ∧ (x3 = 0 → zNar .boolean ((zI μ 81 this) ||| (1 : Int32)) ∧ ∀ μ14 : Mem, μ14 = zsI μ 81 this ((zI μ 81 this) ||| (1 : Int32)) → K (.inl (some (tI x2))) μ14)) : B_X3_digits_59 w g K mc ms this x2 x3 μ kc ks := by
  unfold Cx_X3_digits at C
  unfold B_X3_digits_59
  refine Z.wm fun m0 => ?_
  have h := h m0
  refine z_aload_n C dX3_digits_59 0 rfl ?_
  refine z_dup C dX3_digits_60 rfl ?_
  obtain ⟨c1, h2⟩ := h
  refine z_getI C rfl (zFdOf c1 zf_X3_216_18) dX3_digits_61 ?_
  refine z_iload_n C dX3_digits_64 2 rfl ?_
  refine z_if_ne C 72 dX3_digits_65 (by decide) (fun c5 => ?_) (fun c5 => ?_)
  · have h3 := h2.1 c5
    refine z_iconst (v := 0) C dX3_digits_72 (by decide) ?_
    refine z_ior C dX3_digits_73 ?_
    obtain ⟨c6, h7⟩ := h3
    refine z_putI C rfl (zFpOf c1 (zp_X3_216_18 rfl)) (Or.inl (zFzOf c1 rfl)) c6.1 c6.2 dX3_digits_74 ?_
    refine Z.mem fun μ8 e10 => ?_
    have h9 := h7 μ8 e10
    have c11 : zC μ8 this = 18 := by rw [e10]; exact c1
    refine z_iload_n C dX3_digits_77 1 rfl ?_
    exact z_ireturn C rfl rfl dX3_digits_78 h9
  · have h4 := h2.2 c5
    refine z_iconst (v := 1) C dX3_digits_68 (by decide) ?_
    refine z_goto C 73 dX3_digits_69 (by decide) ?_
    refine z_ior C dX3_digits_73 ?_
    obtain ⟨c12, h13⟩ := h4
    refine z_putI C rfl (zFpOf c1 (zp_X3_216_18 rfl)) (Or.inl (zFzOf c1 rfl)) c12.1 c12.2 dX3_digits_74 ?_
    refine Z.mem fun μ14 e16 => ?_
    have h15 := h13 μ14 e16
    have c17 : zC μ14 this = 18 := by rw [e16]; exact c1
    refine z_iload_n C dX3_digits_77 1 rfl ?_
    exact z_ireturn C rfl rfl dX3_digits_78 h15
/-! HutRidgeModel.expects(I)V -/
def Tr_X3_expects (w : WT) (this : Nat) (x1 : Int32) (μ : Mem) (mc ms : Nat) (K : Out → Mem → Prop) : Prop := Tr w yX3_expects (ws_ yX3_expects cX3_expects 2 (Option.none : Option Jvm.ClassFile.FieldType)) 2 60 [tR (some this), tI x1] μ mc ms K
def Cx_X3_expects (w : WT) (g : GT) : Prop := Cx w g yX3_expects cX3_expects 2 (Option.none : Option Jvm.ClassFile.FieldType) [] 2 60
theorem yd_X3_expects : yX3_expects.cls ≠ "java/lang/invoke/MethodHandle" ∧ yX3_expects.cls ≠ "java/lang/invoke/VarHandle" ∧ (parseMethodDescriptor yX3_expects.desc).map (fun d => d.parameters.length) = some 1 := by decide +kernel
def B_X3_expects_22 (w : WT) (g : GT) (K : Out → Mem → Prop) (mc ms : Nat) (this : Nat) (s0 : Int32) (s1 : Option Nat) (μ : Mem) (kc ks : Nat) : Prop := Z w g K mc ms 22 [(0, tR (some this))] [tI s0, tR s1] μ kc ks
set_option maxHeartbeats 4000000 in
theorem tr_X3_expects {w : WT} {this : Nat} {x1 : Int32} {μ : Mem} {mc ms : Nat} {K : Out → Mem → Prop} (h : ∀ g : GT, Cx_X3_expects w g → zM w μ → zC μ this = 18 ∧ ((zI μ 81 this) = 0 → Tr_X3_sign w this μ 0 0 (zKi (fun v6 μ7 => zM w μ7 → (v6 = x1 → B_X3_expects_22 w g K mc ms this 0 (some this) μ7 0 0) ∧ (¬ v6 = x1 → B_X3_expects_22 w g K mc ms this 1 (some this) μ7 0 0)) (fun q8 μ9 => False))) ∧ (¬ (zI μ 81 this) = 0 → K (.inl none) μ)) : Tr_X3_expects w this x1 μ mc ms K := by
  refine Tr.of (by decide +kernel) (Nat.le_of_ble_eq_true rfl) (fun g C => ?_)
  show Z w g K mc ms 0 [(0, tR (some this)), (1, tI x1)] [] μ 0 0
  refine Z.wm fun m0 => ?_
  have h := h g C m0
  refine z_aload_n C dX3_expects_0 0 rfl ?_
  obtain ⟨c1, h2⟩ := h
  refine z_getI C rfl (zFdOf c1 zf_X3_216_18) dX3_expects_1 ?_
  refine z_if_eq C 8 dX3_expects_4 (by decide) (fun c5 => ?_) (fun c5 => ?_)
  · have h3 := h2.1 c5
    refine z_aload_n C dX3_expects_8 0 rfl ?_
    refine z_aload_n C dX3_expects_9 0 rfl ?_
    refine Z.kk fun c14 c15 => ?_
    have k13 := h3
    refine z_callV (as := []) (rest := [tR (some this)]) C k13 rfl rfl (by decide) c1 rfl q4027 q4029 qs95 q113 q4030 yd_X3_sign (by decide) (Nat.le_of_ble_eq_true rfl) dX3_expects_10 c14 c15 (zRet_i fun v6 μ7 h12 => ?_) (zThr_i fun _ _ z9 _ _ _ _ => z9.elim)
    · refine Z.wm fun m11 => ?_
      have h10 := h12 m11
      refine z_iload_n C dX3_expects_13 1 rfl ?_
      refine z_icmp_eq C 21 dX3_expects_14 (by decide) (fun c18 => ?_) (fun c18 => ?_)
      · have h16 := h10.1 c18
        refine z_iconst (v := 0) C dX3_expects_21 (by decide) ?_
        refine Z.sub [0] rfl ?_
        exact h16
      · have h17 := h10.2 c18
        refine z_iconst (v := 1) C dX3_expects_17 (by decide) ?_
        refine z_goto C 22 dX3_expects_18 (by decide) ?_
        refine Z.sub [0] rfl ?_
        exact h17
  · have h4 := h2.2 c5
    exact z_vreturn C rfl dX3_expects_7 h4
set_option maxHeartbeats 4000000 in
theorem bk_X3_expects_22 {w : WT} {g : GT} {K : Out → Mem → Prop} {mc ms : Nat} {this : Nat} {s0 : Int32} {s1 : Option Nat} {μ : Mem} {kc ks : Nat} (C : Cx_X3_expects w g) (h : zM w μ → ∃ a1 : Nat, s1 = some a1 ∧ zC μ a1 = 18 ∧ zNar .boolean s0 ∧ ∀ μ8 : Mem, μ8 = zsI μ 81 a1 s0 → zC μ8 this = 18 ∧ ((zI μ8 81 this) = 0 → ∀ μ17 : Mem, μ17 = zsI μ8 77 this ((zI μ8 77 this) + (1 : Int32)) → K (.inl none) μ17) ∧ (¬ (zI μ8 81 this) = 0 → ∀ μ22 : Mem, μ22 = zsI μ8 77 this ((zI μ8 77 this) + (0 : Int32)) → K (.inl none) μ22)) : B_X3_expects_22 w g K mc ms this s0 s1 μ kc ks := by
  unfold Cx_X3_expects at C
  unfold B_X3_expects_22
  refine Z.wm fun m0 => ?_
  have h := h m0
  obtain ⟨a1, e2, h3⟩ := h
  obtain ⟨c4, h5⟩ := h3
  obtain ⟨c6, h7⟩ := h5
  refine z_putI C e2 (zFpOf c4 (zp_X3_216_18 rfl)) (Or.inl (zFzOf c4 rfl)) c6.1 c6.2 dX3_expects_22 ?_
  refine Z.mem fun μ8 e10 => ?_
  have h9 := h7 μ8 e10
  have c11 : zC μ8 a1 = 18 := by rw [e10]; exact c4
  refine z_aload_n C dX3_expects_25 0 rfl ?_
  refine z_dup C dX3_expects_26 rfl ?_
  obtain ⟨c12, h13⟩ := h9
  refine z_getI C rfl (zFdOf c12 zf_X3_210_18) dX3_expects_27 ?_
  refine z_aload_n C dX3_expects_30 0 rfl ?_
  refine z_getI C rfl (zFdOf c12 zf_X3_216_18) dX3_expects_31 ?_
  refine z_if_eq C 41 dX3_expects_34 (by decide) (fun c16 => ?_) (fun c16 => ?_)
  · have h14 := h13.1 c16
    refine z_iconst (v := 1) C dX3_expects_41 (by decide) ?_
    refine z_iadd C dX3_expects_42 ?_
    refine z_putI C rfl (zFpOf c12 (zp_X3_210_18 rfl)) (Or.inl (zFzOf c12 rfl)) rfl rfl dX3_expects_43 ?_
    refine Z.mem fun μ17 e19 => ?_
    have h18 := h14 μ17 e19
    have c20 : zC μ17 a1 = 18 := by rw [e19]; exact c11
    have c21 : zC μ17 this = 18 := by rw [e19]; exact c12
    exact z_vreturn C rfl dX3_expects_46 h18
  · have h15 := h13.2 c16
    refine z_iconst (v := 0) C dX3_expects_37 (by decide) ?_
    refine z_goto C 42 dX3_expects_38 (by decide) ?_
    refine z_iadd C dX3_expects_42 ?_
    refine z_putI C rfl (zFpOf c12 (zp_X3_210_18 rfl)) (Or.inl (zFzOf c12 rfl)) rfl rfl dX3_expects_43 ?_
    refine Z.mem fun μ22 e24 => ?_
    have h23 := h15 μ22 e24
    have c25 : zC μ22 a1 = 18 := by rw [e24]; exact c11
    have c26 : zC μ22 this = 18 := by rw [e24]; exact c12
    exact z_vreturn C rfl dX3_expects_46 h23
/-! HutRidgeModel.behind(II)I -/
def Tr_X3_behind (w : WT) (this : Nat) (x1 : Int32) (x2 : Int32) (μ : Mem) (mc ms : Nat) (K : Out → Mem → Prop) : Prop := Tr w yX3_behind (ws_ yX3_behind cX3_behind 3 (Option.some Jvm.ClassFile.FieldType.int)) 3 85 [tR (some this), tI x1, tI x2] μ mc ms K
def Cx_X3_behind (w : WT) (g : GT) : Prop := Cx w g yX3_behind cX3_behind 3 (Option.some Jvm.ClassFile.FieldType.int) [] 3 85
theorem yd_X3_behind : yX3_behind.cls ≠ "java/lang/invoke/MethodHandle" ∧ yX3_behind.cls ≠ "java/lang/invoke/VarHandle" ∧ (parseMethodDescriptor yX3_behind.desc).map (fun d => d.parameters.length) = some 2 := by decide +kernel
set_option maxHeartbeats 4000000 in
theorem tr_X3_behind {w : WT} {this : Nat} {x1 : Int32} {x2 : Int32} {μ : Mem} {mc ms : Nat} {K : Out → Mem → Prop} (h : zM w μ → zC μ this = 18 ∧ Tr_X3_expects w this x1 μ 0 0 (zKv (fun μ4 => zM w μ4 → zC μ4 this = 18 ∧ ((zI μ4 81 this) = 0 → Tr_X3_digits w this x2 μ4 0 0 (zKi (fun v18 μ19 => zM w μ19 → K (.inl (some (tI v18))) μ19) (fun q20 μ21 => False))) ∧ (¬ (zI μ4 81 this) = 0 → K (.inl (some (tI 0))) μ4)) (fun q5 μ6 => False))) : Tr_X3_behind w this x1 x2 μ mc ms K := by
  refine Tr.of (by decide +kernel) (Nat.le_of_ble_eq_true rfl) (fun g C => ?_)
  show Z w g K mc ms 0 [(0, tR (some this)), (1, tI x1), (2, tI x2)] [] μ 0 0
  refine Z.wm fun m0 => ?_
  have h := h m0
  refine z_aload_n C dX3_behind_0 0 rfl ?_
  refine z_iload_n C dX3_behind_1 1 rfl ?_
  obtain ⟨c1, h2⟩ := h
  refine Z.kk fun c11 c12 => ?_
  have k10 := h2
  refine z_callV (as := [tI x1]) (rest := []) C k10 rfl rfl (by decide) c1 rfl q4039 q4041 qs98 q113 q4042 yd_X3_expects (by decide) (Nat.le_of_ble_eq_true rfl) dX3_behind_2 c11 c12 (zRet_v fun μ4 h9 => ?_) (zThr_v fun _ _ z9 _ _ _ _ => z9.elim)
  · refine Z.wm fun m8 => ?_
    have h7 := h9 m8
    refine z_aload_n C dX3_behind_5 0 rfl ?_
    obtain ⟨c13, h14⟩ := h7
    refine z_getI C rfl (zFdOf c13 zf_X3_216_18) dX3_behind_6 ?_
    refine z_if_eq C 16 dX3_behind_9 (by decide) (fun c17 => ?_) (fun c17 => ?_)
    · have h15 := h14.1 c17
      refine z_aload_n C dX3_behind_16 0 rfl ?_
      refine z_iload_n C dX3_behind_17 2 rfl ?_
      refine Z.kk fun c26 c27 => ?_
      have k25 := h15
      refine z_callV (as := [tI x2]) (rest := []) C k25 rfl rfl (by decide) c13 rfl q4031 q4033 qs96 q113 q4034 yd_X3_digits (by decide) (Nat.le_of_ble_eq_true rfl) dX3_behind_18 c26 c27 (zRet_i fun v18 μ19 h24 => ?_) (zThr_i fun _ _ z9 _ _ _ _ => z9.elim)
      · refine Z.wm fun m23 => ?_
        have h22 := h24 m23
        exact z_ireturn C rfl rfl dX3_behind_21 h22
    · have h16 := h14.2 c17
      refine z_iconst (v := 0) C dX3_behind_12 (by decide) ?_
      refine z_goto C 21 dX3_behind_13 (by decide) ?_
      exact z_ireturn C rfl rfl dX3_behind_21 h16
/-! HutRidgeModel.does(IIII)I -/
def Tr_X3_does (w : WT) (this : Nat) (x1 : Int32) (x2 : Int32) (x3 : Int32) (x4 : Int32) (μ : Mem) (mc ms : Nat) (K : Out → Mem → Prop) : Prop := Tr w yX3_does (ws_ yX3_does cX3_does 5 (Option.some Jvm.ClassFile.FieldType.int)) 5 129 [tR (some this), tI x1, tI x2, tI x3, tI x4] μ mc ms K
def Cx_X3_does (w : WT) (g : GT) : Prop := Cx w g yX3_does cX3_does 5 (Option.some Jvm.ClassFile.FieldType.int) [] 5 129
theorem yd_X3_does : yX3_does.cls ≠ "java/lang/invoke/MethodHandle" ∧ yX3_does.cls ≠ "java/lang/invoke/VarHandle" ∧ (parseMethodDescriptor yX3_does.desc).map (fun d => d.parameters.length) = some 4 := by decide +kernel
set_option maxHeartbeats 4000000 in
theorem tr_X3_does {w : WT} {this : Nat} {x1 : Int32} {x2 : Int32} {x3 : Int32} {x4 : Int32} {μ : Mem} {mc ms : Nat} {K : Out → Mem → Prop} (h : zM w μ → (x1 = 0 → zC μ this = 18 ∧ Tr_X3_builds w this x2 x3 x4 μ 0 0 (zKi (fun v4 μ5 => zM w μ5 → K (.inl (some (tI v4))) μ5) (fun q6 μ7 => False))) ∧ (x1 = 1 → zC μ this = 18 ∧ Tr_X3_tears w this x2 μ 0 0 (zKi (fun v22 μ23 => zM w μ23 → K (.inl (some (tI v22))) μ23) (fun q24 μ25 => False))) ∧ (x1 = (nI 2) → zC μ this = 18 ∧ Tr_X3_levels w this x2 x3 μ 0 0 (zKi (fun v40 μ41 => zM w μ41 → K (.inl (some (tI v40))) μ41) (fun q42 μ43 => False))) ∧ (x1 = (nI 3) → zC μ this = 18 ∧ Tr_X3_blocks w this x2 x3 1 μ 0 0 (zKi (fun v58 μ59 => zM w μ59 → K (.inl (some (tI v58))) μ59) (fun q60 μ61 => False))) ∧ (x1 = (nI 4) → zC μ this = 18 ∧ Tr_X3_blocks w this x2 x3 0 μ 0 0 (zKi (fun v76 μ77 => zM w μ77 → K (.inl (some (tI v76))) μ77) (fun q78 μ79 => False))) ∧ (x1 = (nI 5) → zC μ this = 18 ∧ Tr_X3_snows w this x2 1 μ 0 0 (zKi (fun v94 μ95 => zM w μ95 → K (.inl (some (tI v94))) μ95) (fun q96 μ97 => False))) ∧ (x1 = (nI 6) → zC μ this = 18 ∧ Tr_X3_snows w this x2 0 μ 0 0 (zKi (fun v112 μ113 => zM w μ113 → K (.inl (some (tI v112))) μ113) (fun q114 μ115 => False))) ∧ (x1 = (nI 7) → zC μ this = 18 ∧ Tr_X3_adds w this x2 x3 μ 0 0 (zKi (fun v130 μ131 => zM w μ131 → K (.inl (some (tI v130))) μ131) (fun q132 μ133 => False))) ∧ (x1 = (nI 8) → zC μ this = 18 ∧ Tr_X3_walks w this x2 x3 μ 0 0 (zKi (fun v148 μ149 => zM w μ149 → K (.inl (some (tI v148))) μ149) (fun q150 μ151 => False))) ∧ ((x1.toInt < 0 ∨ 8 < x1.toInt) → zC μ this = 18 ∧ Tr_X3_leaves w this x2 μ 0 0 (zKi (fun v166 μ167 => zM w μ167 → K (.inl (some (tI v166))) μ167) (fun q168 μ169 => False)))) : Tr_X3_does w this x1 x2 x3 x4 μ mc ms K := by
  refine Tr.of (by decide +kernel) (Nat.le_of_ble_eq_true rfl) (fun g C => ?_)
  show Z w g K mc ms 0 [(0, tR (some this)), (1, tI x1), (2, tI x2), (3, tI x3), (4, tI x4)] [] μ 0 0
  refine Z.wm fun m0 => ?_
  have h := h m0
  refine z_iload_n C dX3_does_0 1 rfl ?_
  rcases (show (x1.toInt < 0 ∨ 8 < x1.toInt) ∨ x1.toInt = 0 ∨ x1.toInt = 1 ∨ x1.toInt = 2 ∨ x1.toInt = 3 ∨ x1.toInt = 4 ∨ x1.toInt = 5 ∨ x1.toInt = 6 ∨ x1.toInt = 7 ∨ x1.toInt = 8 from by omega) with c183 | c183 | c183 | c183 | c183 | c183 | c183 | c183 | c183 | c183
  · have h163 := h.2.2.2.2.2.2.2.2.2 c183
    refine z_tableOut C 118 dX3_does_1 c183 (by decide) ?_
    refine z_aload_n C dX3_does_118 0 rfl ?_
    refine z_iload_n C dX3_does_119 2 rfl ?_
    obtain ⟨c164, h165⟩ := h163
    refine Z.kk fun c174 c175 => ?_
    have k173 := h165
    refine z_callV (as := [tI x2]) (rest := []) C k173 rfl rfl (by decide) c164 rfl q3784 q3786 qs75 q113 q3787 yd_X3_leaves (by decide) (Nat.le_of_ble_eq_true rfl) dX3_does_120 c174 c175 (zRet_i fun v166 μ167 h172 => ?_) (zThr_i fun _ _ z9 _ _ _ _ => z9.elim)
    · refine Z.wm fun m171 => ?_
      have h170 := h172 m171
      exact z_ireturn C rfl rfl dX3_does_123 h170
  · have h1 := h.1 (Int32.toInt_inj.mp (c183.trans (by decide)))
    refine z_tableIn (off := 51) C 52 dX3_does_1 (by rw [c183]; decide) (by rw [c183]; decide) (by rw [c183]; rfl) (by decide) ?_
    refine z_aload_n C dX3_does_52 0 rfl ?_
    refine z_iload_n C dX3_does_53 2 rfl ?_
    refine z_iload_n C dX3_does_54 3 rfl ?_
    refine z_iload C dX3_does_55 4 rfl ?_
    obtain ⟨c2, h3⟩ := h1
    refine Z.kk fun c12 c13 => ?_
    have k11 := h3
    refine z_callV (as := [tI x2, tI x3, tI x4]) (rest := []) C k11 rfl rfl (by decide) c2 rfl q3688 q3690 qs61 q113 q3691 yd_X3_builds (by decide) (Nat.le_of_ble_eq_true rfl) dX3_does_57 c12 c13 (zRet_i fun v4 μ5 h10 => ?_) (zThr_i fun _ _ z9 _ _ _ _ => z9.elim)
    · refine Z.wm fun m9 => ?_
      have h8 := h10 m9
      exact z_ireturn C rfl rfl dX3_does_60 h8
  · have h19 := h.2.1 (Int32.toInt_inj.mp (c183.trans (by decide)))
    refine z_tableIn (off := 60) C 61 dX3_does_1 (by rw [c183]; decide) (by rw [c183]; decide) (by rw [c183]; rfl) (by decide) ?_
    refine z_aload_n C dX3_does_61 0 rfl ?_
    refine z_iload_n C dX3_does_62 2 rfl ?_
    obtain ⟨c20, h21⟩ := h19
    refine Z.kk fun c30 c31 => ?_
    have k29 := h21
    refine z_callV (as := [tI x2]) (rest := []) C k29 rfl rfl (by decide) c20 rfl q3721 q3723 qs66 q113 q3724 yd_X3_tears (by decide) (Nat.le_of_ble_eq_true rfl) dX3_does_63 c30 c31 (zRet_i fun v22 μ23 h28 => ?_) (zThr_i fun _ _ z9 _ _ _ _ => z9.elim)
    · refine Z.wm fun m27 => ?_
      have h26 := h28 m27
      exact z_ireturn C rfl rfl dX3_does_66 h26
  · have h37 := h.2.2.1 (Int32.toInt_inj.mp (c183.trans (by decide)))
    refine z_tableIn (off := 66) C 67 dX3_does_1 (by rw [c183]; decide) (by rw [c183]; decide) (by rw [c183]; rfl) (by decide) ?_
    refine z_aload_n C dX3_does_67 0 rfl ?_
    refine z_iload_n C dX3_does_68 2 rfl ?_
    refine z_iload_n C dX3_does_69 3 rfl ?_
    obtain ⟨c38, h39⟩ := h37
    refine Z.kk fun c48 c49 => ?_
    have k47 := h39
    refine z_callV (as := [tI x2, tI x3]) (rest := []) C k47 rfl rfl (by decide) c38 rfl q3729 q3731 qs67 q113 q3732 yd_X3_levels (by decide) (Nat.le_of_ble_eq_true rfl) dX3_does_70 c48 c49 (zRet_i fun v40 μ41 h46 => ?_) (zThr_i fun _ _ z9 _ _ _ _ => z9.elim)
    · refine Z.wm fun m45 => ?_
      have h44 := h46 m45
      exact z_ireturn C rfl rfl dX3_does_73 h44
  · have h55 := h.2.2.2.1 (Int32.toInt_inj.mp (c183.trans (by decide)))
    refine z_tableIn (off := 73) C 74 dX3_does_1 (by rw [c183]; decide) (by rw [c183]; decide) (by rw [c183]; rfl) (by decide) ?_
    refine z_aload_n C dX3_does_74 0 rfl ?_
    refine z_iload_n C dX3_does_75 2 rfl ?_
    refine z_iload_n C dX3_does_76 3 rfl ?_
    refine z_iconst (v := 1) C dX3_does_77 (by decide) ?_
    obtain ⟨c56, h57⟩ := h55
    refine Z.kk fun c66 c67 => ?_
    have k65 := h57
    refine z_callV (as := [tI x2, tI x3, tI 1]) (rest := []) C k65 rfl rfl (by decide) c56 rfl q3741 q3743 qs69 q113 q3744 yd_X3_blocks (by decide) (Nat.le_of_ble_eq_true rfl) dX3_does_78 c66 c67 (zRet_i fun v58 μ59 h64 => ?_) (zThr_i fun _ _ z9 _ _ _ _ => z9.elim)
    · refine Z.wm fun m63 => ?_
      have h62 := h64 m63
      exact z_ireturn C rfl rfl dX3_does_81 h62
  · have h73 := h.2.2.2.2.1 (Int32.toInt_inj.mp (c183.trans (by decide)))
    refine z_tableIn (off := 81) C 82 dX3_does_1 (by rw [c183]; decide) (by rw [c183]; decide) (by rw [c183]; rfl) (by decide) ?_
    refine z_aload_n C dX3_does_82 0 rfl ?_
    refine z_iload_n C dX3_does_83 2 rfl ?_
    refine z_iload_n C dX3_does_84 3 rfl ?_
    refine z_iconst (v := 0) C dX3_does_85 (by decide) ?_
    obtain ⟨c74, h75⟩ := h73
    refine Z.kk fun c84 c85 => ?_
    have k83 := h75
    refine z_callV (as := [tI x2, tI x3, tI 0]) (rest := []) C k83 rfl rfl (by decide) c74 rfl q3741 q3743 qs69 q113 q3744 yd_X3_blocks (by decide) (Nat.le_of_ble_eq_true rfl) dX3_does_86 c84 c85 (zRet_i fun v76 μ77 h82 => ?_) (zThr_i fun _ _ z9 _ _ _ _ => z9.elim)
    · refine Z.wm fun m81 => ?_
      have h80 := h82 m81
      exact z_ireturn C rfl rfl dX3_does_89 h80
  · have h91 := h.2.2.2.2.2.1 (Int32.toInt_inj.mp (c183.trans (by decide)))
    refine z_tableIn (off := 89) C 90 dX3_does_1 (by rw [c183]; decide) (by rw [c183]; decide) (by rw [c183]; rfl) (by decide) ?_
    refine z_aload_n C dX3_does_90 0 rfl ?_
    refine z_iload_n C dX3_does_91 2 rfl ?_
    refine z_iconst (v := 1) C dX3_does_92 (by decide) ?_
    obtain ⟨c92, h93⟩ := h91
    refine Z.kk fun c102 c103 => ?_
    have k101 := h93
    refine z_callV (as := [tI x2, tI 1]) (rest := []) C k101 rfl rfl (by decide) c92 rfl q3753 q3755 qs71 q113 q3756 yd_X3_snows (by decide) (Nat.le_of_ble_eq_true rfl) dX3_does_93 c102 c103 (zRet_i fun v94 μ95 h100 => ?_) (zThr_i fun _ _ z9 _ _ _ _ => z9.elim)
    · refine Z.wm fun m99 => ?_
      have h98 := h100 m99
      exact z_ireturn C rfl rfl dX3_does_96 h98
  · have h109 := h.2.2.2.2.2.2.1 (Int32.toInt_inj.mp (c183.trans (by decide)))
    refine z_tableIn (off := 96) C 97 dX3_does_1 (by rw [c183]; decide) (by rw [c183]; decide) (by rw [c183]; rfl) (by decide) ?_
    refine z_aload_n C dX3_does_97 0 rfl ?_
    refine z_iload_n C dX3_does_98 2 rfl ?_
    refine z_iconst (v := 0) C dX3_does_99 (by decide) ?_
    obtain ⟨c110, h111⟩ := h109
    refine Z.kk fun c120 c121 => ?_
    have k119 := h111
    refine z_callV (as := [tI x2, tI 0]) (rest := []) C k119 rfl rfl (by decide) c110 rfl q3753 q3755 qs71 q113 q3756 yd_X3_snows (by decide) (Nat.le_of_ble_eq_true rfl) dX3_does_100 c120 c121 (zRet_i fun v112 μ113 h118 => ?_) (zThr_i fun _ _ z9 _ _ _ _ => z9.elim)
    · refine Z.wm fun m117 => ?_
      have h116 := h118 m117
      exact z_ireturn C rfl rfl dX3_does_103 h116
  · have h127 := h.2.2.2.2.2.2.2.1 (Int32.toInt_inj.mp (c183.trans (by decide)))
    refine z_tableIn (off := 103) C 104 dX3_does_1 (by rw [c183]; decide) (by rw [c183]; decide) (by rw [c183]; rfl) (by decide) ?_
    refine z_aload_n C dX3_does_104 0 rfl ?_
    refine z_iload_n C dX3_does_105 2 rfl ?_
    refine z_iload_n C dX3_does_106 3 rfl ?_
    obtain ⟨c128, h129⟩ := h127
    refine Z.kk fun c138 c139 => ?_
    have k137 := h129
    refine z_callV (as := [tI x2, tI x3]) (rest := []) C k137 rfl rfl (by decide) c128 rfl q3761 q3763 qs72 q113 q3764 yd_X3_adds (by decide) (Nat.le_of_ble_eq_true rfl) dX3_does_107 c138 c139 (zRet_i fun v130 μ131 h136 => ?_) (zThr_i fun _ _ z9 _ _ _ _ => z9.elim)
    · refine Z.wm fun m135 => ?_
      have h134 := h136 m135
      exact z_ireturn C rfl rfl dX3_does_110 h134
  · have h145 := h.2.2.2.2.2.2.2.2.1 (Int32.toInt_inj.mp (c183.trans (by decide)))
    refine z_tableIn (off := 110) C 111 dX3_does_1 (by rw [c183]; decide) (by rw [c183]; decide) (by rw [c183]; rfl) (by decide) ?_
    refine z_aload_n C dX3_does_111 0 rfl ?_
    refine z_iload_n C dX3_does_112 2 rfl ?_
    refine z_iload_n C dX3_does_113 3 rfl ?_
    obtain ⟨c146, h147⟩ := h145
    refine Z.kk fun c156 c157 => ?_
    have k155 := h147
    refine z_callV (as := [tI x2, tI x3]) (rest := []) C k155 rfl rfl (by decide) c146 rfl q3772 q3774 qs73 q113 q3775 yd_X3_walks (by decide) (Nat.le_of_ble_eq_true rfl) dX3_does_114 c156 c157 (zRet_i fun v148 μ149 h154 => ?_) (zThr_i fun _ _ z9 _ _ _ _ => z9.elim)
    · refine Z.wm fun m153 => ?_
      have h152 := h154 m153
      exact z_ireturn C rfl rfl dX3_does_117 h152
/-! HutRidgeModel.command()V -/
def Tr_X3_command (w : WT) (this : Nat) (μ : Mem) (mc ms : Nat) (K : Out → Mem → Prop) : Prop := Tr w yX3_command (ws_ yX3_command cX3_command 6 (Option.none : Option Jvm.ClassFile.FieldType)) 6 153 [tR (some this)] μ mc ms K
def Cx_X3_command (w : WT) (g : GT) : Prop := Cx w g yX3_command cX3_command 6 (Option.none : Option Jvm.ClassFile.FieldType) [] 6 153
theorem yd_X3_command : yX3_command.cls ≠ "java/lang/invoke/MethodHandle" ∧ yX3_command.cls ≠ "java/lang/invoke/VarHandle" ∧ (parseMethodDescriptor yX3_command.desc).map (fun d => d.parameters.length) = some 0 := by decide +kernel
def B_X3_command_29 (w : WT) (g : GT) (K : Out → Mem → Prop) (mc ms : Nat) (this : Nat) (x1 : Int32) (x2 : Int32) (x3 : Int32) (s0 : Option Nat) (μ : Mem) (kc ks : Nat) : Prop := Z w g K mc ms 29 [(0, tR (some this)), (1, tI x1), (2, tI x2), (3, tI x3)] [tR s0] μ kc ks
def B_X3_command_34 (w : WT) (g : GT) (K : Out → Mem → Prop) (mc ms : Nat) (this : Nat) (x1 : Int32) (x2 : Int32) (x3 : Int32) (s0 : Int32) (s1 : Option Nat) (μ : Mem) (kc ks : Nat) : Prop := Z w g K mc ms 34 [(0, tR (some this)), (1, tI x1), (2, tI x2), (3, tI x3)] [tI s0, tR s1] μ kc ks
def B_X3_command_58 (w : WT) (g : GT) (K : Out → Mem → Prop) (mc ms : Nat) (this : Nat) (x1 : Int32) (x2 : Int32) (x3 : Int32) (x4 : Int32)  (μ : Mem) (kc ks : Nat) : Prop := Z w g K mc ms 58 [(0, tR (some this)), (1, tI x1), (2, tI x2), (3, tI x3), (4, tI x4)] [] μ kc ks
def B_X3_command_73 (w : WT) (g : GT) (K : Out → Mem → Prop) (mc ms : Nat) (this : Nat) (x1 : Int32) (x2 : Int32) (x3 : Int32) (x4 : Int32)  (μ : Mem) (kc ks : Nat) : Prop := Z w g K mc ms 73 [(0, tR (some this)), (1, tI x1), (2, tI x2), (3, tI x3), (4, tI x4)] [] μ kc ks
def B_X3_command_94 (w : WT) (g : GT) (K : Out → Mem → Prop) (mc ms : Nat) (this : Nat) (x1 : Int32) (x2 : Int32) (x3 : Int32) (x4 : Int32)  (μ : Mem) (kc ks : Nat) : Prop := Z w g K mc ms 94 [(0, tR (some this)), (1, tI x1), (2, tI x2), (3, tI x3), (4, tI x4)] [] μ kc ks
def B_X3_command_113 (w : WT) (g : GT) (K : Out → Mem → Prop) (mc ms : Nat) (this : Nat) (x1 : Int32) (x2 : Int32) (x3 : Int32) (x4 : Int32)  (μ : Mem) (kc ks : Nat) : Prop := Z w g K mc ms 113 [(0, tR (some this)), (1, tI x1), (2, tI x2), (3, tI x3), (4, tI x4)] [] μ kc ks
theorem zp_X3_238_18 {yy : MethodName} (hy : yy.cls = RX3) : zFp yy 238 80 false .int 18 := by obtain ⟨c0, n0, d0⟩ := yy; cases hy; exact ⟨23, _, _, _, _, _, zk_18, rfl, Or.inl q3617, Or.inl rfl, rfl, Or.inl rfl⟩
theorem zf_X3_235_18 : zFd RX3 235 82 false 18 := ⟨25, _, _, _, _, _, zk_18, rfl, Or.inl q3619, Or.inl rfl⟩
set_option maxHeartbeats 4000000 in
theorem tr_X3_command {w : WT} {this : Nat} {μ : Mem} {mc ms : Nat} {K : Out → Mem → Prop} (h : ∀ g : GT, Cx_X3_command w g → zM w μ → zC μ this = 18 ∧ Tr_X3_word w this μ 0 0 (zKi (fun v3 μ4 => zM w μ4 → zC μ4 this = 18 ∧ ((zI μ4 81 this) = 0 → (v3 = (nI 5) → B_X3_command_29 w g K mc ms this v3 0 0 (some this) μ4 0 0) ∧ (¬ v3 = (nI 5) → (v3 ≠ (nI 6) → B_X3_command_34 w g K mc ms this v3 0 0 (nI 2) (some this) μ4 0 0) ∧ (v3 = (nI 6) → B_X3_command_29 w g K mc ms this v3 0 0 (some this) μ4 0 0))) ∧ (¬ (zI μ4 81 this) = 0 → K (.inl none) μ4)) (fun q5 μ6 => False))) : Tr_X3_command w this μ mc ms K := by
  refine Tr.of (by decide +kernel) (Nat.le_of_ble_eq_true rfl) (fun g C => ?_)
  show Z w g K mc ms 0 [(0, tR (some this))] [] μ 0 0
  refine Z.wm fun m0 => ?_
  have h := h g C m0
  refine z_aload_n C dX3_command_0 0 rfl ?_
  obtain ⟨c1, h2⟩ := h
  refine Z.kk fun c11 c12 => ?_
  have k10 := h2
  refine z_callV (as := []) (rest := []) C k10 rfl rfl (by decide) c1 rfl q4023 q4025 qs94 q113 q4026 yd_X3_word (by decide) (Nat.le_of_ble_eq_true rfl) dX3_command_1 c11 c12 (zRet_i fun v3 μ4 h9 => ?_) (zThr_i fun _ _ z9 _ _ _ _ => z9.elim)
  · refine Z.wm fun m8 => ?_
    have h7 := h9 m8
    refine z_istore_n (lv' := [(1, tI v3), (0, tR (some this))]) C dX3_command_4 (by decide) rfl ?_
    refine z_iconst (v := 0) C dX3_command_5 (by decide) ?_
    refine z_istore_n (lv' := [(2, tI 0), (1, tI v3), (0, tR (some this))]) C dX3_command_6 (by decide) rfl ?_
    refine z_iconst (v := 0) C dX3_command_7 (by decide) ?_
    refine z_istore_n (lv' := [(3, tI 0), (2, tI 0), (1, tI v3), (0, tR (some this))]) C dX3_command_8 (by decide) rfl ?_
    refine z_aload_n C dX3_command_9 3 rfl ?_
    obtain ⟨c13, h14⟩ := h7
    refine z_getI C rfl (zFdOf c13 zf_X3_216_18) dX3_command_10 ?_
    refine z_if_eq C 17 dX3_command_13 (by decide) (fun c17 => ?_) (fun c17 => ?_)
    · have h15 := h14.1 c17
      refine z_aload_n C dX3_command_17 3 rfl ?_
      refine z_iload_n C dX3_command_18 2 rfl ?_
      refine z_iconst (v := (nI 5)) C dX3_command_19 (by decide) ?_
      refine z_icmp_eq C 29 dX3_command_20 (by decide) (fun c20 => ?_) (fun c20 => ?_)
      · have h18 := h15.1 c20
        refine Z.sub [3, 2, 1, 0] rfl ?_
        exact h18
      · have h19 := h15.2 c20
        refine z_iload_n C dX3_command_23 2 rfl ?_
        refine z_bipush (v := (nI 6)) C dX3_command_24 (by decide) ?_
        refine z_icmp_ne C 33 dX3_command_26 (by decide) (fun c23 => ?_) (fun c23 => ?_)
        · have h21 := h19.1 c23
          refine z_iconst (v := (nI 2)) C dX3_command_33 (by decide) ?_
          refine Z.sub [3, 2, 1, 0] rfl ?_
          exact h21
        · have h22 := h19.2 c23
          refine Z.sub [3, 2, 1, 0] rfl ?_
          exact h22
    · have h16 := h14.2 c17
      exact z_vreturn C rfl dX3_command_16 h16
set_option maxHeartbeats 4000000 in
theorem bk_X3_command_29 {w : WT} {g : GT} {K : Out → Mem → Prop} {mc ms : Nat} {this : Nat} {x1 : Int32} {x2 : Int32} {x3 : Int32} {s0 : Option Nat} {μ : Mem} {kc ks : Nat} (C : Cx_X3_command w g) (h : zM w μ → B_X3_command_34 w g K mc ms this x1 x2 x3 1 s0 μ kc ks) : B_X3_command_29 w g K mc ms this x1 x2 x3 s0 μ kc ks := by
  unfold Cx_X3_command at C
  unfold B_X3_command_29
  refine Z.wm fun m0 => ?_
  have h := h m0
  refine z_iconst (v := 1) C dX3_command_29 (by decide) ?_
  refine z_goto C 34 dX3_command_30 (by decide) ?_
  refine Z.sub [0, 1, 2, 3] rfl ?_
  exact h
set_option maxHeartbeats 4000000 in
theorem bk_X3_command_34 {w : WT} {g : GT} {K : Out → Mem → Prop} {mc ms : Nat} {this : Nat} {x1 : Int32} {x2 : Int32} {x3 : Int32} {s0 : Int32} {s1 : Option Nat} {μ : Mem} {kc ks : Nat} (C : Cx_X3_command w g) (h : zM w μ → ∃ a1 : Nat, s1 = some a1 ∧ zC μ a1 = 18 ∧ Tr_X3_digits w a1 s0 μ 0 0 (zKi (fun v6 μ7 => zM w μ7 → (x1 = 0 → B_X3_command_58 w g K mc ms this x1 x2 x3 v6 μ7 kc ks) ∧ (¬ x1 = 0 → Tr_X3_isIn w x1 (nI 2) (nI 4) μ7 0 0 (zKi (fun v19 μ20 => zM w μ20 → (v19 ≠ 0 → B_X3_command_58 w g K mc ms this x1 x2 x3 v6 μ20 kc ks) ∧ (v19 = 0 → (x1 ≠ (nI 7) → B_X3_command_73 w g K mc ms this x1 x2 x3 v6 μ20 kc ks) ∧ (x1 = (nI 7) → B_X3_command_58 w g K mc ms this x1 x2 x3 v6 μ20 kc ks))) (fun q21 μ22 => False)))) (fun q8 μ9 => False))) : B_X3_command_34 w g K mc ms this x1 x2 x3 s0 s1 μ kc ks := by
  unfold Cx_X3_command at C
  unfold B_X3_command_34
  refine Z.wm fun m0 => ?_
  have h := h m0
  obtain ⟨a1, e2, h3⟩ := h
  obtain ⟨c4, h5⟩ := h3
  refine Z.kk fun c14 c15 => ?_
  have k13 := h5
  refine z_callV (as := [tI s0]) (rest := []) C k13 rfl e2 (by decide) c4 rfl q4031 q4033 qs96 q113 q4034 yd_X3_digits (by decide) (Nat.le_of_ble_eq_true rfl) dX3_command_34 c14 c15 (zRet_i fun v6 μ7 h12 => ?_) (zThr_i fun _ _ z9 _ _ _ _ => z9.elim)
  · refine Z.wm fun m11 => ?_
    have h10 := h12 m11
    refine z_istore (lv' := [(4, tI v6), (0, tR (some this)), (1, tI x1), (2, tI x2), (3, tI x3)]) C dX3_command_37 (by decide) rfl ?_
    refine z_iload_n C dX3_command_39 2 rfl ?_
    refine z_if_eq C 58 dX3_command_40 (by decide) (fun c18 => ?_) (fun c18 => ?_)
    · have h16 := h10.1 c18
      refine Z.sub [1, 2, 3, 4, 0] rfl ?_
      exact h16
    · have h17 := h10.2 c18
      refine z_iload_n C dX3_command_43 2 rfl ?_
      refine z_iconst (v := (nI 2)) C dX3_command_44 (by decide) ?_
      refine z_iconst (v := (nI 4)) C dX3_command_45 (by decide) ?_
      refine Z.kk fun c27 c28 => ?_
      have k26 := h17
      refine z_callS (as := [tI x1, tI (nI 2), tI (nI 4)]) (rest := []) C k26 rfl q3692 q3693 q113 q3694 yd_X3_isIn (by decide) (Nat.le_of_ble_eq_true rfl) dX3_command_46 c27 c28 (zRet_i fun v19 μ20 h25 => ?_) (zThr_i fun _ _ z9 _ _ _ _ => z9.elim)
      · refine Z.wm fun m24 => ?_
        have h23 := h25 m24
        refine z_if_ne C 58 dX3_command_49 (by decide) (fun c31 => ?_) (fun c31 => ?_)
        · have h29 := h23.1 c31
          refine Z.sub [1, 2, 3, 4, 0] rfl ?_
          exact h29
        · have h30 := h23.2 c31
          refine z_iload_n C dX3_command_52 2 rfl ?_
          refine z_bipush (v := (nI 7)) C dX3_command_53 (by decide) ?_
          refine z_icmp_ne C 73 dX3_command_55 (by decide) (fun c34 => ?_) (fun c34 => ?_)
          · have h32 := h30.1 c34
            refine Z.sub [1, 2, 3, 4, 0] rfl ?_
            exact h32
          · have h33 := h30.2 c34
            refine Z.sub [1, 2, 3, 4, 0] rfl ?_
            exact h33
set_option maxHeartbeats 4000000 in
theorem bk_X3_command_58 {w : WT} {g : GT} {K : Out → Mem → Prop} {mc ms : Nat} {this : Nat} {x1 : Int32} {x2 : Int32} {x3 : Int32} {x4 : Int32}  {μ : Mem} {kc ks : Nat} (C : Cx_X3_command w g) (h : zM w μ → zC μ this = 18 ∧ ((zI μ 81 this) ≠ 0 → B_X3_command_73 w g K mc ms this x1 x2 x3 x4 μ kc ks) ∧ ((zI μ 81 this) = 0 → Tr_X3_behind w this (nI 32) 1 μ 0 0 (zKi (fun v6 μ7 => zM w μ7 → B_X3_command_73 w g K mc ms this x1 v6 x3 x4 μ7 kc ks) (fun q8 μ9 => False)))) : B_X3_command_58 w g K mc ms this x1 x2 x3 x4 μ kc ks := by
  unfold Cx_X3_command at C
  unfold B_X3_command_58
  refine Z.wm fun m0 => ?_
  have h := h m0
  refine z_aload_n C dX3_command_58 0 rfl ?_
  obtain ⟨c1, h2⟩ := h
  refine z_getI C rfl (zFdOf c1 zf_X3_216_18) dX3_command_59 ?_
  refine z_if_ne C 73 dX3_command_62 (by decide) (fun c5 => ?_) (fun c5 => ?_)
  · have h3 := h2.1 c5
    refine Z.sub [0, 1, 2, 3, 4] rfl ?_
    exact h3
  · have h4 := h2.2 c5
    refine z_aload_n C dX3_command_65 0 rfl ?_
    refine z_bipush (v := (nI 32)) C dX3_command_66 (by decide) ?_
    refine z_iconst (v := 1) C dX3_command_68 (by decide) ?_
    refine Z.kk fun c14 c15 => ?_
    have k13 := h4
    refine z_callV (as := [tI (nI 32), tI 1]) (rest := []) C k13 rfl rfl (by decide) c1 rfl q4035 q4037 qs97 q113 q4038 yd_X3_behind (by decide) (Nat.le_of_ble_eq_true rfl) dX3_command_69 c14 c15 (zRet_i fun v6 μ7 h12 => ?_) (zThr_i fun _ _ z9 _ _ _ _ => z9.elim)
    · refine Z.wm fun m11 => ?_
      have h10 := h12 m11
      refine z_istore_n (lv' := [(2, tI v6), (0, tR (some this)), (1, tI x1), (3, tI x3), (4, tI x4)]) C dX3_command_72 (by decide) rfl ?_
      refine Z.sub [1, 2, 0, 3, 4] rfl ?_
      exact h10
set_option maxHeartbeats 4000000 in
theorem bk_X3_command_73 {w : WT} {g : GT} {K : Out → Mem → Prop} {mc ms : Nat} {this : Nat} {x1 : Int32} {x2 : Int32} {x3 : Int32} {x4 : Int32}  {μ : Mem} {kc ks : Nat} (C : Cx_X3_command w g) (h : zM w μ → (x1 ≠ (nI 8) → B_X3_command_94 w g K mc ms this x1 x2 x3 x4 μ kc ks) ∧ (x1 = (nI 8) → zC μ this = 18 ∧ ((zI μ 81 this) ≠ 0 → B_X3_command_94 w g K mc ms this x1 x2 x3 x4 μ kc ks) ∧ ((zI μ 81 this) = 0 → Tr_X3_behind w this (nI 32) (nI 2) μ 0 0 (zKi (fun v9 μ10 => zM w μ10 → B_X3_command_94 w g K mc ms this x1 v9 x3 x4 μ10 kc ks) (fun q11 μ12 => False))))) : B_X3_command_73 w g K mc ms this x1 x2 x3 x4 μ kc ks := by
  unfold Cx_X3_command at C
  unfold B_X3_command_73
  refine Z.wm fun m0 => ?_
  have h := h m0
  refine z_iload_n C dX3_command_73 1 rfl ?_
  refine z_bipush (v := (nI 8)) C dX3_command_74 (by decide) ?_
  refine z_icmp_ne C 94 dX3_command_76 (by decide) (fun c3 => ?_) (fun c3 => ?_)
  · have h1 := h.1 c3
    refine Z.sub [0, 1, 2, 3, 4] rfl ?_
    exact h1
  · have h2 := h.2 c3
    refine z_aload_n C dX3_command_79 0 rfl ?_
    obtain ⟨c4, h5⟩ := h2
    refine z_getI C rfl (zFdOf c4 zf_X3_216_18) dX3_command_80 ?_
    refine z_if_ne C 94 dX3_command_83 (by decide) (fun c8 => ?_) (fun c8 => ?_)
    · have h6 := h5.1 c8
      refine Z.sub [0, 1, 2, 3, 4] rfl ?_
      exact h6
    · have h7 := h5.2 c8
      refine z_aload_n C dX3_command_86 0 rfl ?_
      refine z_bipush (v := (nI 32)) C dX3_command_87 (by decide) ?_
      refine z_iconst (v := (nI 2)) C dX3_command_89 (by decide) ?_
      refine Z.kk fun c17 c18 => ?_
      have k16 := h7
      refine z_callV (as := [tI (nI 32), tI (nI 2)]) (rest := []) C k16 rfl rfl (by decide) c4 rfl q4035 q4037 qs97 q113 q4038 yd_X3_behind (by decide) (Nat.le_of_ble_eq_true rfl) dX3_command_90 c17 c18 (zRet_i fun v9 μ10 h15 => ?_) (zThr_i fun _ _ z9 _ _ _ _ => z9.elim)
      · refine Z.wm fun m14 => ?_
        have h13 := h15 m14
        refine z_istore_n (lv' := [(2, tI v9), (0, tR (some this)), (1, tI x1), (3, tI x3), (4, tI x4)]) C dX3_command_93 (by decide) rfl ?_
        refine Z.sub [1, 2, 0, 3, 4] rfl ?_
        exact h13
set_option maxHeartbeats 4000000 in
theorem bk_X3_command_94 {w : WT} {g : GT} {K : Out → Mem → Prop} {mc ms : Nat} {this : Nat} {x1 : Int32} {x2 : Int32} {x3 : Int32} {x4 : Int32}  {μ : Mem} {kc ks : Nat} (C : Cx_X3_command w g) (h : zM w μ → (x1 ≠ 0 → B_X3_command_113 w g K mc ms this x1 x2 x3 x4 μ kc ks) ∧ (x1 = 0 → zC μ this = 18 ∧ ((zI μ 81 this) ≠ 0 → B_X3_command_113 w g K mc ms this x1 x2 x3 x4 μ kc ks) ∧ ((zI μ 81 this) = 0 → Tr_X3_behind w this (nI 32) 1 μ 0 0 (zKi (fun v9 μ10 => zM w μ10 → B_X3_command_113 w g K mc ms this x1 x2 v9 x4 μ10 kc ks) (fun q11 μ12 => False))))) : B_X3_command_94 w g K mc ms this x1 x2 x3 x4 μ kc ks := by
  unfold Cx_X3_command at C
  unfold B_X3_command_94
  refine Z.wm fun m0 => ?_
  have h := h m0
  refine z_iload_n C dX3_command_94 1 rfl ?_
  refine z_if_ne C 113 dX3_command_95 (by decide) (fun c3 => ?_) (fun c3 => ?_)
  · have h1 := h.1 c3
    refine Z.sub [0, 1, 2, 3, 4] rfl ?_
    exact h1
  · have h2 := h.2 c3
    refine z_aload_n C dX3_command_98 0 rfl ?_
    obtain ⟨c4, h5⟩ := h2
    refine z_getI C rfl (zFdOf c4 zf_X3_216_18) dX3_command_99 ?_
    refine z_if_ne C 113 dX3_command_102 (by decide) (fun c8 => ?_) (fun c8 => ?_)
    · have h6 := h5.1 c8
      refine Z.sub [0, 1, 2, 3, 4] rfl ?_
      exact h6
    · have h7 := h5.2 c8
      refine z_aload_n C dX3_command_105 0 rfl ?_
      refine z_bipush (v := (nI 32)) C dX3_command_106 (by decide) ?_
      refine z_iconst (v := 1) C dX3_command_108 (by decide) ?_
      refine Z.kk fun c17 c18 => ?_
      have k16 := h7
      refine z_callV (as := [tI (nI 32), tI 1]) (rest := []) C k16 rfl rfl (by decide) c4 rfl q4035 q4037 qs97 q113 q4038 yd_X3_behind (by decide) (Nat.le_of_ble_eq_true rfl) dX3_command_109 c17 c18 (zRet_i fun v9 μ10 h15 => ?_) (zThr_i fun _ _ z9 _ _ _ _ => z9.elim)
      · refine Z.wm fun m14 => ?_
        have h13 := h15 m14
        refine z_istore_n (lv' := [(3, tI v9), (0, tR (some this)), (1, tI x1), (2, tI x2), (4, tI x4)]) C dX3_command_112 (by decide) rfl ?_
        refine Z.sub [1, 2, 3, 0, 4] rfl ?_
        exact h13
set_option maxHeartbeats 4000000 in
theorem bk_X3_command_113 {w : WT} {g : GT} {K : Out → Mem → Prop} {mc ms : Nat} {this : Nat} {x1 : Int32} {x2 : Int32} {x3 : Int32} {x4 : Int32}  {μ : Mem} {kc ks : Nat} (C : Cx_X3_command w g) (h : zM w μ → zC μ this = 18 ∧ ((zI μ 81 this) ≠ 0 → K (.inl none) μ) ∧ ((zI μ 81 this) = 0 → ((zI μ 82 this) ≠ 0 → ∀ μ9 : Mem, μ9 = zsI μ 80 this x1 → Tr_X3_does w this x1 x4 x2 x3 μ9 0 0 (zKi (fun v13 μ14 => zM w μ14 → K (.inl none) μ14) (fun q15 μ16 => False))) ∧ ((zI μ 82 this) = 0 → K (.inl none) μ))) : B_X3_command_113 w g K mc ms this x1 x2 x3 x4 μ kc ks := by
  unfold Cx_X3_command at C
  unfold B_X3_command_113
  refine Z.wm fun m0 => ?_
  have h := h m0
  refine z_aload_n C dX3_command_113 0 rfl ?_
  obtain ⟨c1, h2⟩ := h
  refine z_getI C rfl (zFdOf c1 zf_X3_216_18) dX3_command_114 ?_
  refine z_if_ne C 127 dX3_command_117 (by decide) (fun c5 => ?_) (fun c5 => ?_)
  · have h3 := h2.1 c5
    exact z_vreturn C rfl dX3_command_127 h3
  · have h4 := h2.2 c5
    refine z_aload_n C dX3_command_120 0 rfl ?_
    refine z_getI C rfl (zFdOf c1 zf_X3_235_18) dX3_command_121 ?_
    refine z_if_ne C 128 dX3_command_124 (by decide) (fun c8 => ?_) (fun c8 => ?_)
    · have h6 := h4.1 c8
      refine z_aload_n C dX3_command_128 0 rfl ?_
      refine z_iload_n C dX3_command_129 1 rfl ?_
      refine z_putI C rfl (zFpOf c1 (zp_X3_238_18 rfl)) (Or.inl (zFzOf c1 rfl)) rfl rfl dX3_command_130 ?_
      refine Z.mem fun μ9 e11 => ?_
      have h10 := h6 μ9 e11
      have c12 : zC μ9 this = 18 := by rw [e11]; exact c1
      refine z_aload_n C dX3_command_133 0 rfl ?_
      refine z_iload_n C dX3_command_134 1 rfl ?_
      refine z_iload C dX3_command_135 4 rfl ?_
      refine z_iload_n C dX3_command_137 2 rfl ?_
      refine z_iload_n C dX3_command_138 3 rfl ?_
      refine Z.kk fun c21 c22 => ?_
      have k20 := h10
      refine z_callV (as := [tI x1, tI x4, tI x2, tI x3]) (rest := []) C k20 rfl rfl (by decide) c12 rfl q4043 q4045 qs99 q113 q4046 yd_X3_does (by decide) (Nat.le_of_ble_eq_true rfl) dX3_command_139 c21 c22 (zRet_i fun v13 μ14 h19 => ?_) (zThr_i fun _ _ z9 _ _ _ _ => z9.elim)
      · refine Z.wm fun m18 => ?_
        have h17 := h19 m18
        refine z_istore (lv' := [(5, tI v13), (0, tR (some this)), (1, tI x1), (2, tI x2), (3, tI x3), (4, tI x4)]) C dX3_command_142 (by decide) rfl ?_
        exact z_vreturn C rfl dX3_command_144 h17
    · have h7 := h4.2 c8
      exact z_vreturn C rfl dX3_command_127 h7
/-! HutRidgeModel.commands()I -/
def Tr_X3_commands (w : WT) (this : Nat) (μ : Mem) (mc ms : Nat) (K : Out → Mem → Prop) : Prop := Tr w yX3_commands (ws_ yX3_commands cX3_commands 2 (Option.some Jvm.ClassFile.FieldType.int)) 7 178 [tR (some this)] μ mc ms K
def Cx_X3_commands (w : WT) (g : GT) : Prop := Cx w g yX3_commands cX3_commands 2 (Option.some Jvm.ClassFile.FieldType.int) [] 7 178
theorem yd_X3_commands : yX3_commands.cls ≠ "java/lang/invoke/MethodHandle" ∧ yX3_commands.cls ≠ "java/lang/invoke/VarHandle" ∧ (parseMethodDescriptor yX3_commands.desc).map (fun d => d.parameters.length) = some 0 := by decide +kernel
def B_X3_commands_16 (w : WT) (g : GT) (K : Out → Mem → Prop) (mc ms : Nat) (this : Nat) (x1 : Int32)  (μ : Mem) (kc ks : Nat) : Prop := Z w g K mc ms 16 [(0, tR (some this)), (1, tI x1)] [] μ kc ks
set_option maxHeartbeats 4000000 in
theorem tr_X3_commands {w : WT} {this : Nat} {μ : Mem} {mc ms : Nat} {K : Out → Mem → Prop} (h : ∀ g : GT, Cx_X3_commands w g → zM w μ → zC μ this = 18 ∧ ∀ μ3 : Mem, μ3 = zsI μ 77 this 0 → ∀ μ7 : Mem, μ7 = zsI μ3 81 this 0 → Tr_X3_command w this μ7 0 0 (zKv (fun μ12 => zM w μ12 → B_X3_commands_16 w g K mc ms this 1 μ12 0 0) (fun q13 μ14 => False))) : Tr_X3_commands w this μ mc ms K := by
  refine Tr.of (by decide +kernel) (Nat.le_of_ble_eq_true rfl) (fun g C => ?_)
  show Z w g K mc ms 0 [(0, tR (some this))] [] μ 0 0
  refine Z.wm fun m0 => ?_
  have h := h g C m0
  refine z_aload_n C dX3_commands_0 0 rfl ?_
  refine z_iconst (v := 0) C dX3_commands_1 (by decide) ?_
  obtain ⟨c1, h2⟩ := h
  refine z_putI C rfl (zFpOf c1 (zp_X3_210_18 rfl)) (Or.inl (zFzOf c1 rfl)) rfl rfl dX3_commands_2 ?_
  refine Z.mem fun μ3 e5 => ?_
  have h4 := h2 μ3 e5
  have c6 : zC μ3 this = 18 := by rw [e5]; exact c1
  refine z_aload_n C dX3_commands_5 0 rfl ?_
  refine z_iconst (v := 0) C dX3_commands_6 (by decide) ?_
  refine z_putI C rfl (zFpOf c6 (zp_X3_216_18 rfl)) (Or.inl (zFzOf c6 rfl)) (by decide) (by decide) dX3_commands_7 ?_
  refine Z.mem fun μ7 e9 => ?_
  have h8 := h4 μ7 e9
  have c10 : zC μ7 this = 18 := by rw [e9]; exact c6
  refine z_iconst (v := 1) C dX3_commands_10 (by decide) ?_
  refine z_istore_n (lv' := [(1, tI 1), (0, tR (some this))]) C dX3_commands_11 (by decide) rfl ?_
  refine z_aload_n C dX3_commands_12 1 rfl ?_
  refine Z.kk fun c19 c20 => ?_
  have k18 := h8
  refine z_callV (as := []) (rest := []) C k18 rfl rfl (by decide) c10 rfl q4019 q4021 qs93 q113 q4022 yd_X3_command (by decide) (Nat.le_of_ble_eq_true rfl) dX3_commands_13 c19 c20 (zRet_v fun μ12 h17 => ?_) (zThr_v fun _ _ z9 _ _ _ _ => z9.elim)
  · refine Z.wm fun m16 => ?_
    have h15 := h17 m16
    refine Z.sub [1, 0] rfl ?_
    exact h15
set_option maxHeartbeats 4000000 in
theorem bk_X3_commands_16 {w : WT} {g : GT} {K : Out → Mem → Prop} {mc ms : Nat} {this : Nat} {x1 : Int32}  {μ : Mem} {kc ks : Nat} (C : Cx_X3_commands w g) (h : zM w μ → zC μ this = 18 ∧ ((zI μ 81 this) ≠ 0 → K (.inl (some (tI x1))) μ) ∧ ((zI μ 81 this) = 0 → ((zI μ 57 this) ≠ 0 → K (.inl (some (tI x1))) μ) ∧ ((zI μ 57 this) = 0 → ((zI μ 78 this) ≤ (zI μ 77 this) → K (.inl (some (tI x1))) μ) ∧ (¬ (zI μ 78 this) ≤ (zI μ 77 this) → Tr_X3_expects w this (nI 59) μ 0 0 (zKv (fun μ13 => zM w μ13 → zC μ13 this = 18 ∧ ((zI μ13 81 this) ≠ 0 → B_X3_commands_16 w g K mc ms this (x1 + 1) μ13 kc ks) ∧ ((zI μ13 81 this) = 0 → Tr_X3_command w this μ13 0 0 (zKv (fun μ28 => zM w μ28 → B_X3_commands_16 w g K mc ms this (x1 + 1) μ28 kc ks) (fun q29 μ30 => False)))) (fun q14 μ15 => False)))))) : B_X3_commands_16 w g K mc ms this x1 μ kc ks := by
  unfold Cx_X3_commands at C
  unfold B_X3_commands_16
  refine Z.wm fun m0 => ?_
  have h := h m0
  refine z_aload_n C dX3_commands_16 0 rfl ?_
  obtain ⟨c1, h2⟩ := h
  refine z_getI C rfl (zFdOf c1 zf_X3_216_18) dX3_commands_17 ?_
  refine z_if_ne C 64 dX3_commands_20 (by decide) (fun c5 => ?_) (fun c5 => ?_)
  · have h3 := h2.1 c5
    refine z_iload_n C dX3_commands_64 1 rfl ?_
    exact z_ireturn C rfl rfl dX3_commands_65 h3
  · have h4 := h2.2 c5
    refine z_aload_n C dX3_commands_23 0 rfl ?_
    refine z_getI C rfl (zFdOf c1 zf_X3_56_18) dX3_commands_24 ?_
    refine z_if_ne C 64 dX3_commands_27 (by decide) (fun c8 => ?_) (fun c8 => ?_)
    · have h6 := h4.1 c8
      refine z_iload_n C dX3_commands_64 1 rfl ?_
      exact z_ireturn C rfl rfl dX3_commands_65 h6
    · have h7 := h4.2 c8
      refine z_aload_n C dX3_commands_30 0 rfl ?_
      refine z_getI C rfl (zFdOf c1 zf_X3_210_18) dX3_commands_31 ?_
      refine z_aload_n C dX3_commands_34 0 rfl ?_
      refine z_getI C rfl (zFdOf c1 zf_X3_213_18) dX3_commands_35 ?_
      refine z_icmp_ge C 64 dX3_commands_38 (by decide) (fun c11 => ?_) (fun c11 => ?_)
      · have h9 := h7.1 c11
        refine z_iload_n C dX3_commands_64 1 rfl ?_
        exact z_ireturn C rfl rfl dX3_commands_65 h9
      · have h10 := h7.2 c11
        refine z_aload_n C dX3_commands_41 0 rfl ?_
        refine z_bipush (v := (nI 59)) C dX3_commands_42 (by decide) ?_
        refine Z.kk fun c20 c21 => ?_
        have k19 := h10
        refine z_callV (as := [tI (nI 59)]) (rest := []) C k19 rfl rfl (by decide) c1 rfl q4039 q4041 qs98 q113 q4042 yd_X3_expects (by decide) (Nat.le_of_ble_eq_true rfl) dX3_commands_44 c20 c21 (zRet_v fun μ13 h18 => ?_) (zThr_v fun _ _ z9 _ _ _ _ => z9.elim)
        · refine Z.wm fun m17 => ?_
          have h16 := h18 m17
          refine z_aload_n C dX3_commands_47 0 rfl ?_
          obtain ⟨c22, h23⟩ := h16
          refine z_getI C rfl (zFdOf c22 zf_X3_216_18) dX3_commands_48 ?_
          refine z_if_ne C 58 dX3_commands_51 (by decide) (fun c26 => ?_) (fun c26 => ?_)
          · have h24 := h23.1 c26
            refine z_iinc (k0 := 1) (v := x1 + 1) (lv' := [(1, tI (x1 + 1)), (0, tR (some this))]) C dX3_commands_58 rfl (by first | rfl | decide) (by decide) rfl ?_
            refine z_goto C 16 dX3_commands_61 (by decide) ?_
            refine Z.sub [1, 0] rfl ?_
            exact h24
          · have h25 := h23.2 c26
            refine z_aload_n C dX3_commands_54 0 rfl ?_
            refine Z.kk fun c35 c36 => ?_
            have k34 := h25
            refine z_callV (as := []) (rest := []) C k34 rfl rfl (by decide) c22 rfl q4019 q4021 qs93 q113 q4022 yd_X3_command (by decide) (Nat.le_of_ble_eq_true rfl) dX3_commands_55 c35 c36 (zRet_v fun μ28 h33 => ?_) (zThr_v fun _ _ z9 _ _ _ _ => z9.elim)
            · refine Z.wm fun m32 => ?_
              have h31 := h33 m32
              refine z_iinc (k0 := 1) (v := x1 + 1) (lv' := [(1, tI (x1 + 1)), (0, tR (some this))]) C dX3_commands_58 rfl (by first | rfl | decide) (by decide) rfl ?_
              refine z_goto C 16 dX3_commands_61 (by decide) ?_
              refine Z.sub [1, 0] rfl ?_
              exact h31
/-! HutRidgeModel.runScript()I -/
def Tr_X3_runScript (w : WT) (this : Nat) (μ : Mem) (mc ms : Nat) (K : Out → Mem → Prop) : Prop := Tr w yX3_runScript (ws_ yX3_runScript cX3_runScript 2 (Option.some Jvm.ClassFile.FieldType.int)) 8 199 [tR (some this)] μ mc ms K
def Cx_X3_runScript (w : WT) (g : GT) : Prop := Cx w g yX3_runScript cX3_runScript 2 (Option.some Jvm.ClassFile.FieldType.int) [] 8 199
theorem yd_X3_runScript : yX3_runScript.cls ≠ "java/lang/invoke/MethodHandle" ∧ yX3_runScript.cls ≠ "java/lang/invoke/VarHandle" ∧ (parseMethodDescriptor yX3_runScript.desc).map (fun d => d.parameters.length) = some 0 := by decide +kernel
theorem zp_X3_213_18 {yy : MethodName} (hy : yy.cls = RX3) : zFp yy 213 78 false .int 18 := by obtain ⟨c0, n0, d0⟩ := yy; cases hy; exact ⟨21, _, _, _, _, _, zk_18, rfl, Or.inl q3615, Or.inl rfl, rfl, Or.inl rfl⟩
theorem zp_X3_235_18 {yy : MethodName} (hy : yy.cls = RX3) : zFp yy 235 82 false .boolean 18 := by obtain ⟨c0, n0, d0⟩ := yy; cases hy; exact ⟨25, _, _, _, _, _, zk_18, rfl, Or.inl q3619, Or.inl rfl, rfl, Or.inl rfl⟩
theorem zp_X3_251_18 {yy : MethodName} (hy : yy.cls = RX3) : zFp yy 251 61 false .int 18 := by obtain ⟨c0, n0, d0⟩ := yy; cases hy; exact ⟨4, _, _, _, _, _, zk_18, rfl, Or.inl q3598, Or.inl rfl, rfl, Or.inl rfl⟩
theorem zf_X3_238_18 : zFd RX3 238 80 false 18 := ⟨23, _, _, _, _, _, zk_18, rfl, Or.inl q3617, Or.inl rfl⟩
theorem zf_X3_53_18 : zFd RX3 53 75 true 18 := ⟨18, _, _, _, _, _, zk_18, rfl, Or.inl q3612, Or.inl rfl⟩
set_option maxHeartbeats 4000000 in
theorem tr_X3_runScript {w : WT} {this : Nat} {μ : Mem} {mc ms : Nat} {K : Out → Mem → Prop} (h : zM w μ → zC μ this = 18 ∧ Tr_X3_begins w this μ 0 0 (zKv (fun μ4 => zM w μ4 → zC μ4 this = 18 ∧ ∀ μ15 : Mem, μ15 = zsI μ4 78 this (zI μ4 76 this) → ∀ μ19 : Mem, μ19 = zsI μ15 76 this 0 → ∀ μ23 : Mem, μ23 = zsI μ19 82 this 0 → Tr_X3_commands w this μ23 0 0 (zKi (fun v27 μ28 => zM w μ28 → zC μ28 this = 18 ∧ ((zI μ28 81 this) = 0 → ∀ μ42 : Mem, μ42 = zsI μ28 82 this 1 → Tr_X3_commands w this μ42 0 0 (zKi (fun v46 μ47 => zM w μ47 → zC μ47 this = 18 ∧ ((zI μ47 57 this) = 0 → Tr_X3_ends w this v46 μ47 0 0 (zKi (fun v61 μ62 => zM w μ62 → K (.inl (some (tI v61))) μ62) (fun q63 μ64 => False))) ∧ (¬ (zI μ47 57 this) = 0 → ∀ μ76 : Mem, μ76 = zsI μ47 60 this (v46 - (1 : Int32)) → ∃ a80 : Nat, (zR μ76 75 this) = some a80 ∧ zC μ76 a80 = 101 ∧ vp_in ((((nI 3) * (zI μ76 80 this)) + (zI μ76 57 this)) - (1 : Int32)) (zN μ76 a80) ∧ ∀ μ87 : Mem, μ87 = zsI μ76 61 this (zA μ76 a80 ((((nI 3) * (zI μ76 80 this)) + (zI μ76 57 this)) - (1 : Int32)).toNatClampNeg) → ∀ μ92 : Mem, μ92 = zsI μ87 57 this (nI 2) → Tr_X3_ends w this v46 μ92 0 0 (zKi (fun v97 μ98 => zM w μ98 → K (.inl (some (tI v97))) μ98) (fun q99 μ100 => False)))) (fun q48 μ49 => False))) ∧ (¬ (zI μ28 81 this) = 0 → ∀ μ117 : Mem, μ117 = zsI μ28 59 this (zI μ28 77 this) → Tr_X3_fail w this 1 μ117 0 0 (zKi (fun v121 μ122 => zM w μ122 → K (.inl (some (tI v121))) μ122) (fun q123 μ124 => False)))) (fun q29 μ30 => False))) (fun q5 μ6 => False))) : Tr_X3_runScript w this μ mc ms K := by
  refine Tr.of (by decide +kernel) (Nat.le_of_ble_eq_true rfl) (fun g C => ?_)
  show Z w g K mc ms 0 [(0, tR (some this))] [] μ 0 0
  refine Z.wm fun m0 => ?_
  have h := h m0
  refine z_aload_n C dX3_runScript_0 0 rfl ?_
  obtain ⟨c1, h2⟩ := h
  refine Z.kk fun c11 c12 => ?_
  have k10 := h2
  refine z_callV (as := []) (rest := []) C k10 rfl rfl (by decide) c1 rfl q3681 q3683 qs60 q113 q3684 yd_X3_begins (by decide) (Nat.le_of_ble_eq_true rfl) dX3_runScript_1 c11 c12 (zRet_v fun μ4 h9 => ?_) (zThr_v fun _ _ z9 _ _ _ _ => z9.elim)
  · refine Z.wm fun m8 => ?_
    have h7 := h9 m8
    refine z_aload_n C dX3_runScript_4 0 rfl ?_
    refine z_aload_n C dX3_runScript_5 0 rfl ?_
    obtain ⟨c13, h14⟩ := h7
    refine z_getI C rfl (zFdOf c13 zf_X3_207_18) dX3_runScript_6 ?_
    refine z_putI C rfl (zFpOf c13 (zp_X3_213_18 rfl)) (Or.inl (zFzOf c13 rfl)) rfl rfl dX3_runScript_9 ?_
    refine Z.mem fun μ15 e17 => ?_
    have h16 := h14 μ15 e17
    have c18 : zC μ15 this = 18 := by rw [e17]; exact c13
    refine z_aload_n C dX3_runScript_12 0 rfl ?_
    refine z_iconst (v := 0) C dX3_runScript_13 (by decide) ?_
    refine z_putI C rfl (zFpOf c18 (zp_X3_207_18 rfl)) (Or.inl (zFzOf c18 rfl)) rfl rfl dX3_runScript_14 ?_
    refine Z.mem fun μ19 e21 => ?_
    have h20 := h16 μ19 e21
    have c22 : zC μ19 this = 18 := by rw [e21]; exact c18
    refine z_aload_n C dX3_runScript_17 0 rfl ?_
    refine z_iconst (v := 0) C dX3_runScript_18 (by decide) ?_
    refine z_putI C rfl (zFpOf c22 (zp_X3_235_18 rfl)) (Or.inl (zFzOf c22 rfl)) (by decide) (by decide) dX3_runScript_19 ?_
    refine Z.mem fun μ23 e25 => ?_
    have h24 := h20 μ23 e25
    have c26 : zC μ23 this = 18 := by rw [e25]; exact c22
    refine z_aload_n C dX3_runScript_22 0 rfl ?_
    refine Z.kk fun c35 c36 => ?_
    have k34 := h24
    refine z_callV (as := []) (rest := []) C k34 rfl rfl (by decide) c26 rfl q4015 q4017 qs92 q113 q4018 yd_X3_commands (by decide) (Nat.le_of_ble_eq_true rfl) dX3_runScript_23 c35 c36 (zRet_i fun v27 μ28 h33 => ?_) (zThr_i fun _ _ z9 _ _ _ _ => z9.elim)
    · refine Z.wm fun m32 => ?_
      have h31 := h33 m32
      refine z_istore_n (lv' := [(1, tI v27), (0, tR (some this))]) C dX3_runScript_26 (by decide) rfl ?_
      refine z_aload_n C dX3_runScript_27 1 rfl ?_
      obtain ⟨c37, h38⟩ := h31
      refine z_getI C rfl (zFdOf c37 zf_X3_216_18) dX3_runScript_28 ?_
      refine z_if_eq C 48 dX3_runScript_31 (by decide) (fun c41 => ?_) (fun c41 => ?_)
      · have h39 := h38.1 c41
        refine z_aload_n C dX3_runScript_48 1 rfl ?_
        refine z_iconst (v := 1) C dX3_runScript_49 (by decide) ?_
        refine z_putI C rfl (zFpOf c37 (zp_X3_235_18 rfl)) (Or.inl (zFzOf c37 rfl)) (by decide) (by decide) dX3_runScript_50 ?_
        refine Z.mem fun μ42 e44 => ?_
        have h43 := h39 μ42 e44
        have c45 : zC μ42 this = 18 := by rw [e44]; exact c37
        refine z_aload_n C dX3_runScript_53 1 rfl ?_
        refine Z.kk fun c54 c55 => ?_
        have k53 := h43
        refine z_callV (as := []) (rest := []) C k53 rfl rfl (by decide) c45 rfl q4015 q4017 qs92 q113 q4018 yd_X3_commands (by decide) (Nat.le_of_ble_eq_true rfl) dX3_runScript_54 c54 c55 (zRet_i fun v46 μ47 h52 => ?_) (zThr_i fun _ _ z9 _ _ _ _ => z9.elim)
        · refine Z.wm fun m51 => ?_
          have h50 := h52 m51
          refine z_istore_n (lv' := [(1, tI v46), (0, tR (some this))]) C dX3_runScript_57 (by decide) rfl ?_
          refine z_aload_n C dX3_runScript_58 1 rfl ?_
          obtain ⟨c56, h57⟩ := h50
          refine z_getI C rfl (zFdOf c56 zf_X3_56_18) dX3_runScript_59 ?_
          refine z_if_eq C 99 dX3_runScript_62 (by decide) (fun c60 => ?_) (fun c60 => ?_)
          · have h58 := h57.1 c60
            refine z_aload_n C dX3_runScript_99 1 rfl ?_
            refine z_iload_n C dX3_runScript_100 0 rfl ?_
            refine Z.kk fun c69 c70 => ?_
            have k68 := h58
            refine z_callV (as := [tI v46]) (rest := []) C k68 rfl rfl (by decide) c56 rfl q3713 q3715 qs65 q113 q3716 yd_X3_ends (by decide) (Nat.le_of_ble_eq_true rfl) dX3_runScript_101 c69 c70 (zRet_i fun v61 μ62 h67 => ?_) (zThr_i fun _ _ z9 _ _ _ _ => z9.elim)
            · refine Z.wm fun m66 => ?_
              have h65 := h67 m66
              exact z_ireturn C rfl rfl dX3_runScript_104 h65
          · have h59 := h57.2 c60
            refine z_aload_n C dX3_runScript_65 1 rfl ?_
            refine z_iload_n C dX3_runScript_66 0 rfl ?_
            refine z_iconst (v := 1) C dX3_runScript_67 (by decide) ?_
            refine z_isub C dX3_runScript_68 ?_
            refine z_putI C rfl (zFpOf c56 (zp_X3_13_18 rfl)) (Or.inl (zFzOf c56 rfl)) rfl rfl dX3_runScript_69 ?_
            refine Z.mem fun μ76 e78 => ?_
            have h77 := h59 μ76 e78
            have c79 : zC μ76 this = 18 := by rw [e78]; exact c56
            refine z_aload_n C dX3_runScript_72 1 rfl ?_
            refine z_aload_n C dX3_runScript_73 1 rfl ?_
            refine z_getR C rfl (zFdOf c79 zf_X3_53_18) dX3_runScript_74 ?_
            refine z_iconst (v := (nI 3)) C dX3_runScript_77 (by decide) ?_
            refine z_aload_n C dX3_runScript_78 1 rfl ?_
            refine z_getI C rfl (zFdOf c79 zf_X3_238_18) dX3_runScript_79 ?_
            refine z_imul C dX3_runScript_82 ?_
            refine z_aload_n C dX3_runScript_83 1 rfl ?_
            refine z_getI C rfl (zFdOf c79 zf_X3_56_18) dX3_runScript_84 ?_
            refine z_iadd C dX3_runScript_87 ?_
            refine z_iconst (v := 1) C dX3_runScript_88 (by decide) ?_
            refine z_isub C dX3_runScript_89 ?_
            obtain ⟨a80, e81, h82⟩ := h77
            obtain ⟨c83, h84⟩ := h82
            obtain ⟨c85, h86⟩ := h84
            refine z_iald C e81 c83 c85 dX3_runScript_90 ?_
            refine z_putI C rfl (zFpOf c79 (zp_X3_251_18 rfl)) (Or.inl (zFzOf c79 rfl)) rfl rfl dX3_runScript_91 ?_
            refine Z.mem fun μ87 e89 => ?_
            have h88 := h86 μ87 e89
            have c90 : zC μ87 this = 18 := by rw [e89]; exact c79
            have c91 : zC μ87 a80 = 101 := by rw [e89]; exact c83
            refine z_aload_n C dX3_runScript_94 1 rfl ?_
            refine z_iconst (v := (nI 2)) C dX3_runScript_95 (by decide) ?_
            refine z_putI C rfl (zFpOf c90 (zp_X3_56_18 rfl)) (Or.inl (zFzOf c90 rfl)) rfl rfl dX3_runScript_96 ?_
            refine Z.mem fun μ92 e94 => ?_
            have h93 := h88 μ92 e94
            have c95 : zC μ92 this = 18 := by rw [e94]; exact c90
            have c96 : zC μ92 a80 = 101 := by rw [e94]; exact c91
            refine z_aload_n C dX3_runScript_99 1 rfl ?_
            refine z_iload_n C dX3_runScript_100 0 rfl ?_
            refine Z.kk fun c105 c106 => ?_
            have k104 := h93
            refine z_callV (as := [tI v46]) (rest := []) C k104 rfl rfl (by decide) c95 rfl q3713 q3715 qs65 q113 q3716 yd_X3_ends (by decide) (Nat.le_of_ble_eq_true rfl) dX3_runScript_101 c105 c106 (zRet_i fun v97 μ98 h103 => ?_) (zThr_i fun _ _ z9 _ _ _ _ => z9.elim)
            · refine Z.wm fun m102 => ?_
              have h101 := h103 m102
              exact z_ireturn C rfl rfl dX3_runScript_104 h101
      · have h40 := h38.2 c41
        refine z_aload_n C dX3_runScript_34 1 rfl ?_
        refine z_aload_n C dX3_runScript_35 1 rfl ?_
        refine z_getI C rfl (zFdOf c37 zf_X3_210_18) dX3_runScript_36 ?_
        refine z_putI C rfl (zFpOf c37 (zp_X3_7_18 rfl)) (Or.inl (zFzOf c37 rfl)) rfl rfl dX3_runScript_39 ?_
        refine Z.mem fun μ117 e119 => ?_
        have h118 := h40 μ117 e119
        have c120 : zC μ117 this = 18 := by rw [e119]; exact c37
        refine z_aload_n C dX3_runScript_42 1 rfl ?_
        refine z_iconst (v := 1) C dX3_runScript_43 (by decide) ?_
        refine Z.kk fun c129 c130 => ?_
        have k128 := h118
        refine z_callV (as := [tI 1]) (rest := []) C k128 rfl rfl (by decide) c120 rfl q3698 q3700 qs62 q113 q3701 yd_X3_fail (by decide) (Nat.le_of_ble_eq_true rfl) dX3_runScript_44 c129 c130 (zRet_i fun v121 μ122 h127 => ?_) (zThr_i fun _ _ z9 _ _ _ _ => z9.elim)
        · refine Z.wm fun m126 => ?_
          have h125 := h127 m126
          exact z_ireturn C rfl rfl dX3_runScript_47 h125
/-! HutRidgeModel.errorPosition()I -/
def Tr_X3_errorPosition (w : WT) (this : Nat) (μ : Mem) (mc ms : Nat) (K : Out → Mem → Prop) : Prop := Tr w yX3_errorPosition (ws_ yX3_errorPosition cX3_errorPosition 1 (Option.some Jvm.ClassFile.FieldType.int)) 1 40 [tR (some this)] μ mc ms K
def Cx_X3_errorPosition (w : WT) (g : GT) : Prop := Cx w g yX3_errorPosition cX3_errorPosition 1 (Option.some Jvm.ClassFile.FieldType.int) [] 1 40
theorem yd_X3_errorPosition : yX3_errorPosition.cls ≠ "java/lang/invoke/MethodHandle" ∧ yX3_errorPosition.cls ≠ "java/lang/invoke/VarHandle" ∧ (parseMethodDescriptor yX3_errorPosition.desc).map (fun d => d.parameters.length) = some 0 := by decide +kernel
def B_X3_errorPosition_13 (w : WT) (g : GT) (K : Out → Mem → Prop) (mc ms : Nat) (this : Nat) (s0 : Int32) (s1 : Option Nat) (μ : Mem) (kc ks : Nat) : Prop := Z w g K mc ms 13 [(0, tR (some this))] [tI s0, tR s1] μ kc ks
theorem zf_X3_7_18 : zFd RX3 7 59 false 18 := ⟨2, _, _, _, _, _, zk_18, rfl, Or.inl q3596, Or.inl rfl⟩
set_option maxHeartbeats 4000000 in
theorem tr_X3_errorPosition {w : WT} {this : Nat} {μ : Mem} {mc ms : Nat} {K : Out → Mem → Prop} (h : ∀ g : GT, Cx_X3_errorPosition w g → zM w μ → zC μ this = 18 ∧ (0 ≤ (zI μ 59 this) → B_X3_errorPosition_13 w g K mc ms this 0 (some this) μ 0 0) ∧ (¬ 0 ≤ (zI μ 59 this) → B_X3_errorPosition_13 w g K mc ms this 1 (some this) μ 0 0)) : Tr_X3_errorPosition w this μ mc ms K := by
  refine Tr.of (by decide +kernel) (Nat.le_of_ble_eq_true rfl) (fun g C => ?_)
  show Z w g K mc ms 0 [(0, tR (some this))] [] μ 0 0
  refine Z.wm fun m0 => ?_
  have h := h g C m0
  refine z_aload_n C dX3_errorPosition_0 0 rfl ?_
  refine z_aload_n C dX3_errorPosition_1 0 rfl ?_
  obtain ⟨c1, h2⟩ := h
  refine z_getI C rfl (zFdOf c1 zf_X3_7_18) dX3_errorPosition_2 ?_
  refine z_if_ge C 12 dX3_errorPosition_5 (by decide) (fun c5 => ?_) (fun c5 => ?_)
  · have h3 := h2.1 c5
    refine z_iconst (v := 0) C dX3_errorPosition_12 (by decide) ?_
    refine Z.sub [0] rfl ?_
    exact h3
  · have h4 := h2.2 c5
    refine z_iconst (v := 1) C dX3_errorPosition_8 (by decide) ?_
    refine z_goto C 13 dX3_errorPosition_9 (by decide) ?_
    refine Z.sub [0] rfl ?_
    exact h4
set_option maxHeartbeats 4000000 in
theorem bk_X3_errorPosition_13 {w : WT} {g : GT} {K : Out → Mem → Prop} {mc ms : Nat} {this : Nat} {s0 : Int32} {s1 : Option Nat} {μ : Mem} {kc ks : Nat} (C : Cx_X3_errorPosition w g) (h : zM w μ → ∃ a1 : Nat, s1 = some a1 ∧ zC μ a1 = 18 ∧ ∀ μ6 : Mem, μ6 = zsI μ 57 a1 s0 → zC μ6 this = 18 ∧ ((zI μ6 57 this) ≠ 0 → K (.inl (some (tI 0))) μ6) ∧ ((zI μ6 57 this) = 0 → K (.inl (some (tI (zI μ6 59 this)))) μ6)) : B_X3_errorPosition_13 w g K mc ms this s0 s1 μ kc ks := by
  unfold Cx_X3_errorPosition at C
  unfold B_X3_errorPosition_13
  refine Z.wm fun m0 => ?_
  have h := h m0
  obtain ⟨a1, e2, h3⟩ := h
  obtain ⟨c4, h5⟩ := h3
  refine z_putI C e2 (zFpOf c4 (zp_X3_56_18 rfl)) (Or.inl (zFzOf c4 rfl)) rfl rfl dX3_errorPosition_13 ?_
  refine Z.mem fun μ6 e8 => ?_
  have h7 := h5 μ6 e8
  have c9 : zC μ6 a1 = 18 := by rw [e8]; exact c4
  refine z_aload_n C dX3_errorPosition_16 0 rfl ?_
  obtain ⟨c10, h11⟩ := h7
  refine z_getI C rfl (zFdOf c10 zf_X3_56_18) dX3_errorPosition_17 ?_
  refine z_if_ne C 30 dX3_errorPosition_20 (by decide) (fun c14 => ?_) (fun c14 => ?_)
  · have h12 := h11.1 c14
    refine z_iconst (v := 0) C dX3_errorPosition_30 (by decide) ?_
    exact z_ireturn C rfl rfl dX3_errorPosition_31 h12
  · have h13 := h11.2 c14
    refine z_aload_n C dX3_errorPosition_23 0 rfl ?_
    refine z_getI C rfl (zFdOf c10 zf_X3_7_18) dX3_errorPosition_24 ?_
    refine z_goto C 31 dX3_errorPosition_27 (by decide) ?_
    exact z_ireturn C rfl rfl dX3_errorPosition_31 h13
/-! HutRidgeModel.failedCommand()I -/
def Tr_X3_failedCommand (w : WT) (this : Nat) (μ : Mem) (mc ms : Nat) (K : Out → Mem → Prop) : Prop := Tr w yX3_failedCommand (ws_ yX3_failedCommand cX3_failedCommand 1 (Option.some Jvm.ClassFile.FieldType.int)) 1 40 [tR (some this)] μ mc ms K
def Cx_X3_failedCommand (w : WT) (g : GT) : Prop := Cx w g yX3_failedCommand cX3_failedCommand 1 (Option.some Jvm.ClassFile.FieldType.int) [] 1 40
theorem yd_X3_failedCommand : yX3_failedCommand.cls ≠ "java/lang/invoke/MethodHandle" ∧ yX3_failedCommand.cls ≠ "java/lang/invoke/VarHandle" ∧ (parseMethodDescriptor yX3_failedCommand.desc).map (fun d => d.parameters.length) = some 0 := by decide +kernel
def B_X3_failedCommand_13 (w : WT) (g : GT) (K : Out → Mem → Prop) (mc ms : Nat) (this : Nat) (s0 : Int32) (s1 : Option Nat) (μ : Mem) (kc ks : Nat) : Prop := Z w g K mc ms 13 [(0, tR (some this))] [tI s0, tR s1] μ kc ks
theorem zf_X3_13_18 : zFd RX3 13 60 false 18 := ⟨3, _, _, _, _, _, zk_18, rfl, Or.inl q3597, Or.inl rfl⟩
set_option maxHeartbeats 4000000 in
theorem tr_X3_failedCommand {w : WT} {this : Nat} {μ : Mem} {mc ms : Nat} {K : Out → Mem → Prop} (h : ∀ g : GT, Cx_X3_failedCommand w g → zM w μ → zC μ this = 18 ∧ (0 ≤ (zI μ 60 this) → B_X3_failedCommand_13 w g K mc ms this 0 (some this) μ 0 0) ∧ (¬ 0 ≤ (zI μ 60 this) → B_X3_failedCommand_13 w g K mc ms this 1 (some this) μ 0 0)) : Tr_X3_failedCommand w this μ mc ms K := by
  refine Tr.of (by decide +kernel) (Nat.le_of_ble_eq_true rfl) (fun g C => ?_)
  show Z w g K mc ms 0 [(0, tR (some this))] [] μ 0 0
  refine Z.wm fun m0 => ?_
  have h := h g C m0
  refine z_aload_n C dX3_failedCommand_0 0 rfl ?_
  refine z_aload_n C dX3_failedCommand_1 0 rfl ?_
  obtain ⟨c1, h2⟩ := h
  refine z_getI C rfl (zFdOf c1 zf_X3_13_18) dX3_failedCommand_2 ?_
  refine z_if_ge C 12 dX3_failedCommand_5 (by decide) (fun c5 => ?_) (fun c5 => ?_)
  · have h3 := h2.1 c5
    refine z_iconst (v := 0) C dX3_failedCommand_12 (by decide) ?_
    refine Z.sub [0] rfl ?_
    exact h3
  · have h4 := h2.2 c5
    refine z_iconst (v := 1) C dX3_failedCommand_8 (by decide) ?_
    refine z_goto C 13 dX3_failedCommand_9 (by decide) ?_
    refine Z.sub [0] rfl ?_
    exact h4
set_option maxHeartbeats 4000000 in
theorem bk_X3_failedCommand_13 {w : WT} {g : GT} {K : Out → Mem → Prop} {mc ms : Nat} {this : Nat} {s0 : Int32} {s1 : Option Nat} {μ : Mem} {kc ks : Nat} (C : Cx_X3_failedCommand w g) (h : zM w μ → ∃ a1 : Nat, s1 = some a1 ∧ zC μ a1 = 18 ∧ ∀ μ6 : Mem, μ6 = zsI μ 57 a1 s0 → zC μ6 this = 18 ∧ ((zI μ6 57 this) ≠ 0 → K (.inl (some (tI 0))) μ6) ∧ ((zI μ6 57 this) = 0 → K (.inl (some (tI (zI μ6 60 this)))) μ6)) : B_X3_failedCommand_13 w g K mc ms this s0 s1 μ kc ks := by
  unfold Cx_X3_failedCommand at C
  unfold B_X3_failedCommand_13
  refine Z.wm fun m0 => ?_
  have h := h m0
  obtain ⟨a1, e2, h3⟩ := h
  obtain ⟨c4, h5⟩ := h3
  refine z_putI C e2 (zFpOf c4 (zp_X3_56_18 rfl)) (Or.inl (zFzOf c4 rfl)) rfl rfl dX3_failedCommand_13 ?_
  refine Z.mem fun μ6 e8 => ?_
  have h7 := h5 μ6 e8
  have c9 : zC μ6 a1 = 18 := by rw [e8]; exact c4
  refine z_aload_n C dX3_failedCommand_16 0 rfl ?_
  obtain ⟨c10, h11⟩ := h7
  refine z_getI C rfl (zFdOf c10 zf_X3_56_18) dX3_failedCommand_17 ?_
  refine z_if_ne C 30 dX3_failedCommand_20 (by decide) (fun c14 => ?_) (fun c14 => ?_)
  · have h12 := h11.1 c14
    refine z_iconst (v := 0) C dX3_failedCommand_30 (by decide) ?_
    exact z_ireturn C rfl rfl dX3_failedCommand_31 h12
  · have h13 := h11.2 c14
    refine z_aload_n C dX3_failedCommand_23 0 rfl ?_
    refine z_getI C rfl (zFdOf c10 zf_X3_13_18) dX3_failedCommand_24 ?_
    refine z_goto C 31 dX3_failedCommand_27 (by decide) ?_
    exact z_ireturn C rfl rfl dX3_failedCommand_31 h13
/-! HutRidgeModel.failureKind()C -/
def Tr_X3_failureKind (w : WT) (this : Nat) (μ : Mem) (mc ms : Nat) (K : Out → Mem → Prop) : Prop := Tr w yX3_failureKind (ws_ yX3_failureKind cX3_failureKind 1 (Option.some Jvm.ClassFile.FieldType.char)) 1 40 [tR (some this)] μ mc ms K
def Cx_X3_failureKind (w : WT) (g : GT) : Prop := Cx w g yX3_failureKind cX3_failureKind 1 (Option.some Jvm.ClassFile.FieldType.char) [] 1 40
theorem yd_X3_failureKind : yX3_failureKind.cls ≠ "java/lang/invoke/MethodHandle" ∧ yX3_failureKind.cls ≠ "java/lang/invoke/VarHandle" ∧ (parseMethodDescriptor yX3_failureKind.desc).map (fun d => d.parameters.length) = some 0 := by decide +kernel
def B_X3_failureKind_13 (w : WT) (g : GT) (K : Out → Mem → Prop) (mc ms : Nat) (this : Nat) (s0 : Int32) (s1 : Option Nat) (μ : Mem) (kc ks : Nat) : Prop := Z w g K mc ms 13 [(0, tR (some this))] [tI s0, tR s1] μ kc ks
theorem zf_X3_251_18 : zFd RX3 251 61 false 18 := ⟨4, _, _, _, _, _, zk_18, rfl, Or.inl q3598, Or.inl rfl⟩
set_option maxHeartbeats 4000000 in
theorem tr_X3_failureKind {w : WT} {this : Nat} {μ : Mem} {mc ms : Nat} {K : Out → Mem → Prop} (h : ∀ g : GT, Cx_X3_failureKind w g → zM w μ → zC μ this = 18 ∧ (0 ≤ (zI μ 60 this) → B_X3_failureKind_13 w g K mc ms this 0 (some this) μ 0 0) ∧ (¬ 0 ≤ (zI μ 60 this) → B_X3_failureKind_13 w g K mc ms this 1 (some this) μ 0 0)) : Tr_X3_failureKind w this μ mc ms K := by
  refine Tr.of (by decide +kernel) (Nat.le_of_ble_eq_true rfl) (fun g C => ?_)
  show Z w g K mc ms 0 [(0, tR (some this))] [] μ 0 0
  refine Z.wm fun m0 => ?_
  have h := h g C m0
  refine z_aload_n C dX3_failureKind_0 0 rfl ?_
  refine z_aload_n C dX3_failureKind_1 0 rfl ?_
  obtain ⟨c1, h2⟩ := h
  refine z_getI C rfl (zFdOf c1 zf_X3_13_18) dX3_failureKind_2 ?_
  refine z_if_ge C 12 dX3_failureKind_5 (by decide) (fun c5 => ?_) (fun c5 => ?_)
  · have h3 := h2.1 c5
    refine z_iconst (v := 0) C dX3_failureKind_12 (by decide) ?_
    refine Z.sub [0] rfl ?_
    exact h3
  · have h4 := h2.2 c5
    refine z_iconst (v := 1) C dX3_failureKind_8 (by decide) ?_
    refine z_goto C 13 dX3_failureKind_9 (by decide) ?_
    refine Z.sub [0] rfl ?_
    exact h4
set_option maxHeartbeats 4000000 in
theorem bk_X3_failureKind_13 {w : WT} {g : GT} {K : Out → Mem → Prop} {mc ms : Nat} {this : Nat} {s0 : Int32} {s1 : Option Nat} {μ : Mem} {kc ks : Nat} (C : Cx_X3_failureKind w g) (h : zM w μ → ∃ a1 : Nat, s1 = some a1 ∧ zC μ a1 = 18 ∧ ∀ μ6 : Mem, μ6 = zsI μ 57 a1 s0 → zC μ6 this = 18 ∧ ((zI μ6 57 this) ≠ 0 → K (.inl (some (tI (nI 97)))) μ6) ∧ ((zI μ6 57 this) = 0 → zNar .char (((zI μ6 61 this).toUInt32 % 65536).toInt32) ∧ K (.inl (some (tI (((zI μ6 61 this).toUInt32 % 65536).toInt32)))) μ6)) : B_X3_failureKind_13 w g K mc ms this s0 s1 μ kc ks := by
  unfold Cx_X3_failureKind at C
  unfold B_X3_failureKind_13
  refine Z.wm fun m0 => ?_
  have h := h m0
  obtain ⟨a1, e2, h3⟩ := h
  obtain ⟨c4, h5⟩ := h3
  refine z_putI C e2 (zFpOf c4 (zp_X3_56_18 rfl)) (Or.inl (zFzOf c4 rfl)) rfl rfl dX3_failureKind_13 ?_
  refine Z.mem fun μ6 e8 => ?_
  have h7 := h5 μ6 e8
  have c9 : zC μ6 a1 = 18 := by rw [e8]; exact c4
  refine z_aload_n C dX3_failureKind_16 0 rfl ?_
  obtain ⟨c10, h11⟩ := h7
  refine z_getI C rfl (zFdOf c10 zf_X3_56_18) dX3_failureKind_17 ?_
  refine z_if_ne C 31 dX3_failureKind_20 (by decide) (fun c14 => ?_) (fun c14 => ?_)
  · have h12 := h11.1 c14
    refine z_bipush (v := (nI 97)) C dX3_failureKind_31 (by decide) ?_
    exact z_ireturn C rfl (by decide) dX3_failureKind_33 h12
  · have h13 := h11.2 c14
    refine z_aload_n C dX3_failureKind_23 0 rfl ?_
    refine z_getI C rfl (zFdOf c10 zf_X3_251_18) dX3_failureKind_24 ?_
    refine z_i2c C dX3_failureKind_27 ?_
    refine z_goto C 33 dX3_failureKind_28 (by decide) ?_
    exact z_ireturn C rfl h13.1.1 dX3_failureKind_33 h13.2
/-! HutRidgeModel.undo()I -/
def Tr_X3_undo (w : WT) (this : Nat) (μ : Mem) (mc ms : Nat) (K : Out → Mem → Prop) : Prop := Tr w yX3_undo (ws_ yX3_undo cX3_undo 2 (Option.some Jvm.ClassFile.FieldType.int)) 1 40 [tR (some this)] μ mc ms K
def Cx_X3_undo (w : WT) (g : GT) : Prop := Cx w g yX3_undo cX3_undo 2 (Option.some Jvm.ClassFile.FieldType.int) [] 1 40
theorem yd_X3_undo : yX3_undo.cls ≠ "java/lang/invoke/MethodHandle" ∧ yX3_undo.cls ≠ "java/lang/invoke/VarHandle" ∧ (parseMethodDescriptor yX3_undo.desc).map (fun d => d.parameters.length) = some 0 := by decide +kernel
def B_X3_undo_13 (w : WT) (g : GT) (K : Out → Mem → Prop) (mc ms : Nat) (this : Nat) (s0 : Int32) (s1 : Option Nat) (μ : Mem) (kc ks : Nat) : Prop := Z w g K mc ms 13 [(0, tR (some this))] [tI s0, tR s1] μ kc ks
def B_X3_undo_37 (w : WT) (g : GT) (K : Out → Mem → Prop) (mc ms : Nat) (this : Nat) (x1 : Int32)  (μ : Mem) (kc ks : Nat) : Prop := Z w g K mc ms 37 [(0, tR (some this)), (1, tI x1)] [] μ kc ks
set_option maxHeartbeats 4000000 in
theorem tr_X3_undo {w : WT} {this : Nat} {μ : Mem} {mc ms : Nat} {K : Out → Mem → Prop} (h : ∀ g : GT, Cx_X3_undo w g → zM w μ → zC μ this = 18 ∧ ((zI μ 58 this) ≠ 0 → B_X3_undo_13 w g K mc ms this 0 (some this) μ 0 0) ∧ ((zI μ 58 this) = 0 → B_X3_undo_13 w g K mc ms this 1 (some this) μ 0 0)) : Tr_X3_undo w this μ mc ms K := by
  refine Tr.of (by decide +kernel) (Nat.le_of_ble_eq_true rfl) (fun g C => ?_)
  show Z w g K mc ms 0 [(0, tR (some this))] [] μ 0 0
  refine Z.wm fun m0 => ?_
  have h := h g C m0
  refine z_aload_n C dX3_undo_0 0 rfl ?_
  refine z_aload_n C dX3_undo_1 0 rfl ?_
  obtain ⟨c1, h2⟩ := h
  refine z_getI C rfl (zFdOf c1 zf_X3_63_18) dX3_undo_2 ?_
  refine z_if_ne C 12 dX3_undo_5 (by decide) (fun c5 => ?_) (fun c5 => ?_)
  · have h3 := h2.1 c5
    refine z_iconst (v := 0) C dX3_undo_12 (by decide) ?_
    refine Z.sub [0] rfl ?_
    exact h3
  · have h4 := h2.2 c5
    refine z_iconst (v := 1) C dX3_undo_8 (by decide) ?_
    refine z_goto C 13 dX3_undo_9 (by decide) ?_
    refine Z.sub [0] rfl ?_
    exact h4
set_option maxHeartbeats 4000000 in
theorem bk_X3_undo_13 {w : WT} {g : GT} {K : Out → Mem → Prop} {mc ms : Nat} {this : Nat} {s0 : Int32} {s1 : Option Nat} {μ : Mem} {kc ks : Nat} (C : Cx_X3_undo w g) (h : zM w μ → ∃ a1 : Nat, s1 = some a1 ∧ zC μ a1 = 18 ∧ ∀ μ6 : Mem, μ6 = zsI μ 57 a1 s0 → zC μ6 this = 18 ∧ ((zI μ6 57 this) = 0 → ∀ μ15 : Mem, μ15 = zsI μ6 58 this ((zI μ6 58 this) - (1 : Int32)) → B_X3_undo_37 w g K mc ms this 0 μ15 kc ks) ∧ (¬ (zI μ6 57 this) = 0 → K (.inl (some (tI 0))) μ6)) : B_X3_undo_13 w g K mc ms this s0 s1 μ kc ks := by
  unfold Cx_X3_undo at C
  unfold B_X3_undo_13
  refine Z.wm fun m0 => ?_
  have h := h m0
  obtain ⟨a1, e2, h3⟩ := h
  obtain ⟨c4, h5⟩ := h3
  refine z_putI C e2 (zFpOf c4 (zp_X3_56_18 rfl)) (Or.inl (zFzOf c4 rfl)) rfl rfl dX3_undo_13 ?_
  refine Z.mem fun μ6 e8 => ?_
  have h7 := h5 μ6 e8
  have c9 : zC μ6 a1 = 18 := by rw [e8]; exact c4
  refine z_aload_n C dX3_undo_16 0 rfl ?_
  obtain ⟨c10, h11⟩ := h7
  refine z_getI C rfl (zFdOf c10 zf_X3_56_18) dX3_undo_17 ?_
  refine z_if_eq C 25 dX3_undo_20 (by decide) (fun c14 => ?_) (fun c14 => ?_)
  · have h12 := h11.1 c14
    refine z_aload_n C dX3_undo_25 0 rfl ?_
    refine z_dup C dX3_undo_26 rfl ?_
    refine z_getI C rfl (zFdOf c10 zf_X3_63_18) dX3_undo_27 ?_
    refine z_iconst (v := 1) C dX3_undo_30 (by decide) ?_
    refine z_isub C dX3_undo_31 ?_
    refine z_putI C rfl (zFpOf c10 (zp_X3_63_18 rfl)) (Or.inl (zFzOf c10 rfl)) rfl rfl dX3_undo_32 ?_
    refine Z.mem fun μ15 e17 => ?_
    have h16 := h12 μ15 e17
    have c18 : zC μ15 a1 = 18 := by rw [e17]; exact c9
    have c19 : zC μ15 this = 18 := by rw [e17]; exact c10
    refine z_iconst (v := 0) C dX3_undo_35 (by decide) ?_
    refine z_istore_n (lv' := [(1, tI 0), (0, tR (some this))]) C dX3_undo_36 (by decide) rfl ?_
    refine Z.sub [1, 0] rfl ?_
    exact h16
  · have h13 := h11.2 c14
    refine z_iconst (v := 0) C dX3_undo_23 (by decide) ?_
    exact z_ireturn C rfl rfl dX3_undo_24 h13
set_option maxHeartbeats 4000000 in
theorem bk_X3_undo_37 {w : WT} {g : GT} {K : Out → Mem → Prop} {mc ms : Nat} {this : Nat} {x1 : Int32}  {μ : Mem} {kc ks : Nat} (C : Cx_X3_undo w g) (h : zM w μ → ((nI 94) ≤ x1 → zC μ this = 18 ∧ K (.inl (some (tI (zI μ 58 this)))) μ) ∧ (¬ (nI 94) ≤ x1 → zC μ this = 18 ∧ ∃ a8 : Nat, (zR μ 66 this) = some a8 ∧ zC μ a8 = 101 ∧ vp_in (((zI μ 58 this) * (nI 94)) + x1) (zN μ a8) ∧ ∃ a15 : Nat, (zR μ 63 this) = some a15 ∧ zC μ a15 = 101 ∧ zB w ≤ a15 ∧ vp_in x1 (zN μ a15) ∧ ∀ μ24 : Mem, μ24 = zsA μ a15 x1.toNatClampNeg (zA μ a8 (((zI μ 58 this) * (nI 94)) + x1).toNatClampNeg) → B_X3_undo_37 w g K mc ms this (x1 + 1) μ24 kc ks)) : B_X3_undo_37 w g K mc ms this x1 μ kc ks := by
  unfold Cx_X3_undo at C
  unfold B_X3_undo_37
  refine Z.wm fun m0 => ?_
  have h := h m0
  refine z_iload_n C dX3_undo_37 1 rfl ?_
  refine z_bipush (v := (nI 94)) C dX3_undo_38 (by decide) ?_
  refine z_icmp_ge C 69 dX3_undo_40 (by decide) (fun c3 => ?_) (fun c3 => ?_)
  · have h1 := h.1 c3
    refine z_aload_n C dX3_undo_69 0 rfl ?_
    obtain ⟨c4, h5⟩ := h1
    refine z_getI C rfl (zFdOf c4 zf_X3_63_18) dX3_undo_70 ?_
    exact z_ireturn C rfl rfl dX3_undo_73 h5
  · have h2 := h.2 c3
    refine z_aload_n C dX3_undo_43 0 rfl ?_
    obtain ⟨c6, h7⟩ := h2
    refine z_getR C rfl (zFdOf c6 zf_X3_16_18) dX3_undo_44 ?_
    refine z_iload_n C dX3_undo_47 1 rfl ?_
    refine z_aload_n C dX3_undo_48 0 rfl ?_
    refine z_getR C rfl (zFdOf c6 zf_X3_26_18) dX3_undo_49 ?_
    refine z_aload_n C dX3_undo_52 0 rfl ?_
    refine z_getI C rfl (zFdOf c6 zf_X3_63_18) dX3_undo_53 ?_
    refine z_bipush (v := (nI 94)) C dX3_undo_56 (by decide) ?_
    refine z_imul C dX3_undo_58 ?_
    refine z_iload_n C dX3_undo_59 1 rfl ?_
    refine z_iadd C dX3_undo_60 ?_
    obtain ⟨a8, e9, h10⟩ := h7
    obtain ⟨c11, h12⟩ := h10
    obtain ⟨c13, h14⟩ := h12
    refine z_iald C e9 c11 c13 dX3_undo_61 ?_
    obtain ⟨a15, e16, h17⟩ := h14
    obtain ⟨c18, h19⟩ := h17
    obtain ⟨c20, c21, h22⟩ := h19
    refine z_iast C e16 c18 c20 c21 dX3_undo_62 ?_
    refine Z.mem fun μ24 e25 => ?_
    have h23 := h22 μ24 e25
    have c26 : zC μ24 this = 18 := by rw [e25]; exact c6
    have c27 : zC μ24 a8 = 101 := by rw [e25]; exact c11
    have c28 : zC μ24 a15 = 101 := by rw [e25]; exact c18
    refine z_iinc (k0 := 1) (v := x1 + 1) (lv' := [(1, tI (x1 + 1)), (0, tR (some this))]) C dX3_undo_63 rfl (by first | rfl | decide) (by decide) rfl ?_
    refine z_goto C 37 dX3_undo_66 (by decide) ?_
    refine Z.sub [1, 0] rfl ?_
    exact h23
/-! HutRidgeModel.save()I -/
def Tr_X3_save (w : WT) (this : Nat) (μ : Mem) (mc ms : Nat) (K : Out → Mem → Prop) : Prop := Tr w yX3_save (ws_ yX3_save cX3_save 1 (Option.some Jvm.ClassFile.FieldType.int)) 2 62 [tR (some this)] μ mc ms K
def Cx_X3_save (w : WT) (g : GT) : Prop := Cx w g yX3_save cX3_save 1 (Option.some Jvm.ClassFile.FieldType.int) [] 2 62
theorem yd_X3_save : yX3_save.cls ≠ "java/lang/invoke/MethodHandle" ∧ yX3_save.cls ≠ "java/lang/invoke/VarHandle" ∧ (parseMethodDescriptor yX3_save.desc).map (fun d => d.parameters.length) = some 0 := by decide +kernel
theorem zp_X3_254_18 {yy : MethodName} (hy : yy.cls = RX3) : zFp yy 254 62 false .boolean 18 := by obtain ⟨c0, n0, d0⟩ := yy; cases hy; exact ⟨5, _, _, _, _, _, zk_18, rfl, Or.inl q3599, Or.inl rfl, rfl, Or.inl rfl⟩
theorem zf_X3_23_18 : zFd RX3 23 65 true 18 := ⟨8, _, _, _, _, _, zk_18, rfl, Or.inl q3602, Or.inl rfl⟩
set_option maxHeartbeats 4000000 in
theorem tr_X3_save {w : WT} {this : Nat} {μ : Mem} {mc ms : Nat} {K : Out → Mem → Prop} (h : zM w μ → zC μ this = 18 ∧ ∀ μ3 : Mem, μ3 = zsI μ 57 this 0 → Tr_X3_lays w (zR μ3 65 this) (zR μ3 63 this) μ3 0 0 (zKv (fun μ8 => zM w μ8 → zC μ8 this = 18 ∧ ∀ μ19 : Mem, μ19 = zsI μ8 62 this 1 → ∃ a23 : Nat, (zR μ19 63 this) = some a23 ∧ zC μ19 a23 = 101 ∧ vp_in 0 (zN μ19 a23) ∧ K (.inl (some (tI (zA μ19 a23 0)))) μ19) (fun q9 μ10 => False))) : Tr_X3_save w this μ mc ms K := by
  refine Tr.of (by decide +kernel) (Nat.le_of_ble_eq_true rfl) (fun g C => ?_)
  show Z w g K mc ms 0 [(0, tR (some this))] [] μ 0 0
  refine Z.wm fun m0 => ?_
  have h := h m0
  refine z_aload_n C dX3_save_0 0 rfl ?_
  refine z_iconst (v := 0) C dX3_save_1 (by decide) ?_
  obtain ⟨c1, h2⟩ := h
  refine z_putI C rfl (zFpOf c1 (zp_X3_56_18 rfl)) (Or.inl (zFzOf c1 rfl)) rfl rfl dX3_save_2 ?_
  refine Z.mem fun μ3 e5 => ?_
  have h4 := h2 μ3 e5
  have c6 : zC μ3 this = 18 := by rw [e5]; exact c1
  refine z_aload_n C dX3_save_5 0 rfl ?_
  refine z_getR C rfl (zFdOf c6 zf_X3_23_18) dX3_save_6 ?_
  refine z_aload_n C dX3_save_9 0 rfl ?_
  refine z_getR C rfl (zFdOf c6 zf_X3_16_18) dX3_save_10 ?_
  refine Z.kk fun c15 c16 => ?_
  have k14 := h4
  refine z_callS (as := [tR (zR μ3 65 this), tR (zR μ3 63 this)]) (rest := []) C k14 rfl q3685 q3686 q113 q3687 yd_X3_lays (by decide) (Nat.le_of_ble_eq_true rfl) dX3_save_13 c15 c16 (zRet_v fun μ8 h13 => ?_) (zThr_v fun _ _ z9 _ _ _ _ => z9.elim)
  · refine Z.wm fun m12 => ?_
    have h11 := h13 m12
    refine z_aload_n C dX3_save_16 0 rfl ?_
    refine z_iconst (v := 1) C dX3_save_17 (by decide) ?_
    obtain ⟨c17, h18⟩ := h11
    refine z_putI C rfl (zFpOf c17 (zp_X3_254_18 rfl)) (Or.inl (zFzOf c17 rfl)) (by decide) (by decide) dX3_save_18 ?_
    refine Z.mem fun μ19 e21 => ?_
    have h20 := h18 μ19 e21
    have c22 : zC μ19 this = 18 := by rw [e21]; exact c17
    refine z_aload_n C dX3_save_21 0 rfl ?_
    refine z_getR C rfl (zFdOf c22 zf_X3_16_18) dX3_save_22 ?_
    refine z_iconst (v := 0) C dX3_save_25 (by decide) ?_
    obtain ⟨a23, e24, h25⟩ := h20
    obtain ⟨c26, h27⟩ := h25
    obtain ⟨c28, h29⟩ := h27
    refine z_iald C e24 c26 c28 dX3_save_26 ?_
    exact z_ireturn C rfl rfl dX3_save_27 h29
/-! HutRidgeModel.restore()I -/
def Tr_X3_restore (w : WT) (this : Nat) (μ : Mem) (mc ms : Nat) (K : Out → Mem → Prop) : Prop := Tr w yX3_restore (ws_ yX3_restore cX3_restore 1 (Option.some Jvm.ClassFile.FieldType.int)) 2 62 [tR (some this)] μ mc ms K
def Cx_X3_restore (w : WT) (g : GT) : Prop := Cx w g yX3_restore cX3_restore 1 (Option.some Jvm.ClassFile.FieldType.int) [] 2 62
theorem yd_X3_restore : yX3_restore.cls ≠ "java/lang/invoke/MethodHandle" ∧ yX3_restore.cls ≠ "java/lang/invoke/VarHandle" ∧ (parseMethodDescriptor yX3_restore.desc).map (fun d => d.parameters.length) = some 0 := by decide +kernel
def B_X3_restore_13 (w : WT) (g : GT) (K : Out → Mem → Prop) (mc ms : Nat) (this : Nat) (s0 : Int32) (s1 : Option Nat) (μ : Mem) (kc ks : Nat) : Prop := Z w g K mc ms 13 [(0, tR (some this))] [tI s0, tR s1] μ kc ks
theorem zf_X3_254_18 : zFd RX3 254 62 false 18 := ⟨5, _, _, _, _, _, zk_18, rfl, Or.inl q3599, Or.inl rfl⟩
set_option maxHeartbeats 4000000 in
theorem tr_X3_restore {w : WT} {this : Nat} {μ : Mem} {mc ms : Nat} {K : Out → Mem → Prop} (h : ∀ g : GT, Cx_X3_restore w g → zM w μ → zC μ this = 18 ∧ ((zI μ 62 this) = 0 → B_X3_restore_13 w g K mc ms this 1 (some this) μ 0 0) ∧ (¬ (zI μ 62 this) = 0 → B_X3_restore_13 w g K mc ms this 0 (some this) μ 0 0)) : Tr_X3_restore w this μ mc ms K := by
  refine Tr.of (by decide +kernel) (Nat.le_of_ble_eq_true rfl) (fun g C => ?_)
  show Z w g K mc ms 0 [(0, tR (some this))] [] μ 0 0
  refine Z.wm fun m0 => ?_
  have h := h g C m0
  refine z_aload_n C dX3_restore_0 0 rfl ?_
  refine z_aload_n C dX3_restore_1 0 rfl ?_
  obtain ⟨c1, h2⟩ := h
  refine z_getI C rfl (zFdOf c1 zf_X3_254_18) dX3_restore_2 ?_
  refine z_if_eq C 12 dX3_restore_5 (by decide) (fun c5 => ?_) (fun c5 => ?_)
  · have h3 := h2.1 c5
    refine z_iconst (v := 1) C dX3_restore_12 (by decide) ?_
    refine Z.sub [0] rfl ?_
    exact h3
  · have h4 := h2.2 c5
    refine z_iconst (v := 0) C dX3_restore_8 (by decide) ?_
    refine z_goto C 13 dX3_restore_9 (by decide) ?_
    refine Z.sub [0] rfl ?_
    exact h4
set_option maxHeartbeats 4000000 in
theorem bk_X3_restore_13 {w : WT} {g : GT} {K : Out → Mem → Prop} {mc ms : Nat} {this : Nat} {s0 : Int32} {s1 : Option Nat} {μ : Mem} {kc ks : Nat} (C : Cx_X3_restore w g) (h : zM w μ → ∃ a1 : Nat, s1 = some a1 ∧ zC μ a1 = 18 ∧ ∀ μ6 : Mem, μ6 = zsI μ 57 a1 s0 → zC μ6 this = 18 ∧ ((zI μ6 57 this) = 0 → Tr_X3_lays w (zR μ6 63 this) (zR μ6 65 this) μ6 0 0 (zKv (fun μ16 => zM w μ16 → zC μ16 this = 18 ∧ ∀ μ27 : Mem, μ27 = zsI μ16 58 this 0 → ∃ a31 : Nat, (zR μ27 63 this) = some a31 ∧ zC μ27 a31 = 101 ∧ vp_in 0 (zN μ27 a31) ∧ K (.inl (some (tI (zA μ27 a31 0)))) μ27) (fun q17 μ18 => False))) ∧ (¬ (zI μ6 57 this) = 0 → K (.inl (some (tI 0))) μ6)) : B_X3_restore_13 w g K mc ms this s0 s1 μ kc ks := by
  unfold Cx_X3_restore at C
  unfold B_X3_restore_13
  refine Z.wm fun m0 => ?_
  have h := h m0
  obtain ⟨a1, e2, h3⟩ := h
  obtain ⟨c4, h5⟩ := h3
  refine z_putI C e2 (zFpOf c4 (zp_X3_56_18 rfl)) (Or.inl (zFzOf c4 rfl)) rfl rfl dX3_restore_13 ?_
  refine Z.mem fun μ6 e8 => ?_
  have h7 := h5 μ6 e8
  have c9 : zC μ6 a1 = 18 := by rw [e8]; exact c4
  refine z_aload_n C dX3_restore_16 0 rfl ?_
  obtain ⟨c10, h11⟩ := h7
  refine z_getI C rfl (zFdOf c10 zf_X3_56_18) dX3_restore_17 ?_
  refine z_if_eq C 25 dX3_restore_20 (by decide) (fun c14 => ?_) (fun c14 => ?_)
  · have h12 := h11.1 c14
    refine z_aload_n C dX3_restore_25 0 rfl ?_
    refine z_getR C rfl (zFdOf c10 zf_X3_16_18) dX3_restore_26 ?_
    refine z_aload_n C dX3_restore_29 0 rfl ?_
    refine z_getR C rfl (zFdOf c10 zf_X3_23_18) dX3_restore_30 ?_
    refine Z.kk fun c23 c24 => ?_
    have k22 := h12
    refine z_callS (as := [tR (zR μ6 63 this), tR (zR μ6 65 this)]) (rest := []) C k22 rfl q3685 q3686 q113 q3687 yd_X3_lays (by decide) (Nat.le_of_ble_eq_true rfl) dX3_restore_33 c23 c24 (zRet_v fun μ16 h21 => ?_) (zThr_v fun _ _ z9 _ _ _ _ => z9.elim)
    · refine Z.wm fun m20 => ?_
      have h19 := h21 m20
      refine z_aload_n C dX3_restore_36 0 rfl ?_
      refine z_iconst (v := 0) C dX3_restore_37 (by decide) ?_
      obtain ⟨c25, h26⟩ := h19
      refine z_putI C rfl (zFpOf c25 (zp_X3_63_18 rfl)) (Or.inl (zFzOf c25 rfl)) rfl rfl dX3_restore_38 ?_
      refine Z.mem fun μ27 e29 => ?_
      have h28 := h26 μ27 e29
      have c30 : zC μ27 this = 18 := by rw [e29]; exact c25
      refine z_aload_n C dX3_restore_41 0 rfl ?_
      refine z_getR C rfl (zFdOf c30 zf_X3_16_18) dX3_restore_42 ?_
      refine z_iconst (v := 0) C dX3_restore_45 (by decide) ?_
      obtain ⟨a31, e32, h33⟩ := h28
      obtain ⟨c34, h35⟩ := h33
      obtain ⟨c36, h37⟩ := h35
      refine z_iald C e32 c34 c36 dX3_restore_46 ?_
      exact z_ireturn C rfl rfl dX3_restore_47 h37
  · have h13 := h11.2 c14
    refine z_iconst (v := 0) C dX3_restore_23 (by decide) ?_
    exact z_ireturn C rfl rfl dX3_restore_24 h13
