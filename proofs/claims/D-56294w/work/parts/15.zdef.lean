/-! Rows for the default method, for a private method called through a subclass, and some more. -/
set_option maxRecDepth 100000
section VXD
variable {p : Program} {l : Launch} {e : Env} {R : Room} {s : State} {m : MethodId} {args : Array Value} {below : List Frame} {meth : Method} {c : Code} {H : Heap} {locs : List Loc} {cells slots : Nat}
theorem vx_callVUD {T : State} {locs : List Loc} {cells slots : Nat} (X : Stand p l e R s m args below meth c T locs cells slots) (hexec : p.tables.exec = Jvm.exec) {own C owner : String} {index : Nat} {x y : MethodName}
    (hown : s.vm.findClass own = some m.cls) (hlink : (Cond.methodLink own index x).before args s = true) (hsame : (Cond.sameMethod x.cls owner x.name x.desc).before args s = true)
    (hd0 : va_Decl s ⟨owner, x.name, x.desc⟩) (howner : owner ≠ "java/lang/invoke/MethodHandle" ∧ owner ≠ "java/lang/invoke/VarHandle")
    (hsel : (Cond.landsInDefault C x y).before args s = true) (hinst : (Cond.instanceMethod y).before args s = true)
    {W : Nat} {Pre : Pt → Array Value → Prop} {Post : Pt → Array Value → Option Value → Pt → Prop} {PostX : Pt → Array Value → Addr → Pt → Prop} (hK : vx_Back l R p e below s args y 3 W Pre Post PostX)
    {b : Addr} {cellB : Cell} (hcell : T.heap[b]? = some cellB) (hobj : cellB.vm.isStatics = false) (hcls : s.vm.findClass C = some cellB.cls)
    {g : JFrame} (hg : g.method = m) (hsize : g.locals.size = c.maxLocals) {argsL rest : List Value} (hlen : ∀ sig, parseMethodDescriptor x.desc = some sig → argsL.length = sig.parameters.length)
    (hstack : g.stack = argsL.reverse ++ .ref b :: rest) (hW : 2 * g.monitorRoom + (rest.map fun v => v.category).sum ≤ W) (hdg : decode c.code g.pc = .ok (.invokevirtual index, 3))
    (hpre : ∀ vm₁, s.WarmedH vm₁ → Pre ⟨T.setVm vm₁, locs, cells, slots⟩ (Value.ref b :: argsL).toArray) :
    (∃ (v : Option Value) (vm₁ : Vm) (B : Pt), s.WarmedH vm₁ ∧ Stand p l e R s m args below meth c B.U B.locs B.cells B.slots ∧ Post ⟨T.setVm vm₁, locs, cells, slots⟩ (Value.ref b :: argsL).toArray v B ∧
      ∀ target, Steps p.tables e below (B.U.setTop { g with pc := g.pc + 3, stack := v.toList ++ rest }) target → Steps p.tables e below (T.setTop g) target) ∨
    (∃ (q : Addr) (vm₁ : Vm) (B : Pt), s.WarmedH vm₁ ∧ Stand p l e R s m args below meth c B.U B.locs B.cells B.slots ∧ PostX ⟨T.setVm vm₁, locs, cells, slots⟩ (Value.ref b :: argsL).toArray q B ∧
      Steps p.tables e below (T.setTop g) ((B.U.setTop { g with stack := rest }).pushFrame (.throwing q))) := by
  obtain ⟨r0, r, hn, hrm, hstR, hsigR⟩ := hd0
  obtain ⟨cn, ck, r1, hcn, hck, hni, hf, hn1⟩ := Cond.sameMethod_found hsame
  cases hn.symm.trans hn1
  obtain ⟨mk, methM, hnamed, hmethM, -, habM⟩ := Cond.instanceMethod_spec hinst
  obtain ⟨c2, r2, m2, rm, q1, q2, q3, q5, q4, ⟨kP, hkP, hkPi⟩, -, q7⟩ := Cond.landsInDefault_spec hsel
  cases hcls.symm.trans q1
  cases hf.symm.trans q2
  cases hnamed.symm.trans q3
  cases hrm.symm.trans q5
  have hselP : selectMethod e.platform s.vm cellB.cls r0 = .method mk := by rw [Launch.admits_selectMethod X.admits]; exact q4
  obtain ⟨vm₁, X₁, hstep₁⟩ := X.invokevirtualUpD hexec hown hlink hsame howner hn hrm hstR (a := b) (cell := cellB) hcell
    (fun z h => by rw [h] at hobj; cases hobj) hselP hmethM habM hkP hkPi q7 (g := g) hg (argsL := argsL) (rest := rest) (hlen _ hsigR) hstack hdg
  rcases hK m meth c ⟨T.setVm vm₁, locs, cells, slots⟩ { g with stack := rest } (.invokevirtual index) mk (Value.ref b :: argsL).toArray X₁ hg hsize hdg hW (X₁.named hnamed) (hpre vm₁ X₁.warmed) with ⟨v, B, X', hpost, hsteps⟩ | ⟨q, B, X', hpost, hsteps⟩
  · exact Or.inl ⟨v, vm₁, B, X₁.warmed, X', hpost, fun target h => hstep₁ _ fun acts => by rw [doInvoke_state]; exact hsteps.trans h⟩
  · exact Or.inr ⟨q, vm₁, B, X₁.warmed, X', hpost, hstep₁ _ fun acts => by rw [doInvoke_state]; exact hsteps⟩
abbrev zBk (R : Room) (s : State) (args : Array Value) (y : MethodName) (bytes : ByteArray) (maxL : Nat) (ret : Option FieldType) (ws : List Cond) (rm : Room) (mc ms : Nat) : Prop :=
  (rm.cells = mc ∧ rm.slots = ms ∧ rm.frames + 1 ≤ R.frames ∧ 8 + (maxL + 11) + rm.locals ≤ R.locals ∧ (∀ w ∈ ws, ∀ (a' : Array Value) (U : State), s.WarmedH U.vm → w.before a' U = true) ∧ Cond.code y bytes maxL ret ∈ ws) ∧ (Cond.initialized y.cls).before args s = true ∧ (Cond.instanceMethod y).before args s = true
theorem vx_runUD {x y : MethodName} {bytes cc : ByteArray} {maxL nL mc ms n index : Nat} {ret : Option FieldType} {ws : List Cond} {rm : Room} {Pc : Array Value → State → Prop} {Qc : Array Value → State → Outcome → State → Prop} {XC : String → Nat → State → State → Prop} {free : Addr → Prop} {Ts : List Cond} {own C owner : String} {b : Addr} {As rest : List Value} {g : JFrame}
    (S : CallFix p m c cc nL s args Ts own) (hM : vx_Met l y ws rm Pc Qc XC mc ms free) (cw : zBk R s args y bytes maxL ret ws rm mc ms)
    (link : (Cond.methodLink own index x).before args s = true) (same : (Cond.sameMethod x.cls owner x.name x.desc).before args s = true) (decl : va_Decl s ⟨owner, x.name, x.desc⟩) (notMH : owner ≠ "java/lang/invoke/MethodHandle" ∧ owner ≠ "java/lang/invoke/VarHandle") (sel : (Cond.landsInDefault C x y).before args s = true) (len : ∀ sig, parseMethodDescriptor x.desc = some sig → n = sig.parameters.length)
    (hp : PreV s H C b Pc As)
    (hg : g.method = m) (hn : As.length = n) (hsize : g.locals.size = nL) (hstack : g.stack = As.reverse ++ .ref b :: rest) (hW : 2 * g.monitorRoom + (rest.map fun v => v.category).sum ≤ 8) (hdg : decode cc g.pc = .ok (.invokevirtual index, 3)) (hf : cells + mc ≤ R.cells ∧ slots + ms ≤ R.slots) :
    vx_Run p l e R s m args below meth c H locs cells slots mc ms g rest (Qc (Value.ref b :: As).toArray) XC free := by
  obtain ⟨⟨hrc, hrs, hfr, hlo, hws, hcw⟩, hini, hinst⟩ := cw
  have hK : vx_Back l R p e below s args y 3 8 (PreOf R mc ms Pc) (PostOf Qc mc ms free) (vx_Post XC mc ms free) := vx_back (bytes := bytes) (maxL := maxL) (ret := ret) hM hp.1 hrc hrs hfr hlo hws hcw (fun a' U hW => word_at hW (Or.inl (by first | rfl | simp [Cond.onTables, Cond.keeps, Cond.steady])) hini)
  obtain ⟨hx, hb, hml, ho, -⟩ := S
  obtain ⟨-, ⟨cellB, hcB, hoB, hclB⟩, hPc⟩ := hp
  intro T hT X
  rcases vx_callVUD X hx (C := C) (owner := owner) ho link same decl notMH sel hinst hK (by rw [hT]; exact hcB) hoB hclB hg (hsize.trans hml.symm) (argsL := As) (rest := rest) (fun sig h => hn.trans (len sig h)) hstack hW (by rw [hb]; exact hdg)
    (fun vm₁ hW₁ => ⟨hf.1, hf.2, hPc (T.setVm vm₁) hT hW₁⟩) with ⟨v, vm₁, ⟨U', l2, c2, s2⟩, hW₁, X', ⟨g', mk, t, L, e1, e2, hq, h1, hL, h2, h3⟩, st⟩ | ⟨q, vm₁, ⟨U', l2, c2, s2⟩, hW₁, X', ⟨g', mk, t, L, E, ce, e1, e2, hq, hce, hcv, hcl, h1, hL, h2, h3⟩, st⟩
  · dsimp only [Pt.U, Pt.locs, Pt.cells, Pt.slots] at X' e1 e2 h1 h2 h3 st
    subst h1; subst h2; subst h3
    exact Or.inl ⟨v, (T.setVm vm₁).calling g' mk (Value.ref b :: As).toArray, t, U', L, hT, X', hL, e1, e2, hq, st⟩
  · dsimp only [Pt.U, Pt.locs, Pt.cells, Pt.slots] at X' e1 e2 h1 h2 h3 st hcl
    subst h1; subst h2; subst h3
    exact Or.inr ⟨q, (T.setVm vm₁).calling g' mk (Value.ref b :: As).toArray, t, U', L, E, ce, hT, X', hL, e1, e2, hq, hce, hcv, vx_cls hW₁ hcl, st⟩
theorem vx_callIFD {T : State} (X : Stand p l e R s m args below meth c T locs cells slots) (hexec : p.tables.exec = Jvm.exec) {own C : String} {index count : Nat} {x y : MethodName}
    (hown : s.vm.findClass own = some m.cls) (hlink : (Cond.methodLink own index x).before args s = true) (hdecl : (Cond.declares x).before args s = true) (hface : (Cond.interfaceMethod x.cls x.cls x.name x.desc).before args s = true)
    (hsel : (Cond.landsInDefault C x y).before args s = true) (hinst : (Cond.instanceMethod y).before args s = true) (hpub : (Cond.publicMethod y).before args s = true)
    (hcast : (Cond.castable C x.cls).before args s = true) (hx : x.cls ≠ "java/lang/invoke/MethodHandle" ∧ x.cls ≠ "java/lang/invoke/VarHandle")
    {W9 : Nat} {Pre : Pt → Array Value → Prop} {Post : Pt → Array Value → Option Value → Pt → Prop} {PostX : Pt → Array Value → Addr → Pt → Prop} (hK : vx_Back l R p e below s args y 5 W9 Pre Post PostX)
    {b : Addr} {cellB : Cell} {kB : Class} (hcell : T.heap[b]? = some cellB) (hobj : cellB.vm.isStatics = false) (hcls : s.vm.findClass C = some cellB.cls) (hkB : s.vm.classes[cellB.cls]? = some kB)
    {g : JFrame} (hg : g.method = m) (hsize : g.locals.size = c.maxLocals) {argsL rest : List Value} (hlen : ∀ sig, parseMethodDescriptor x.desc = some sig → argsL.length = sig.parameters.length)
    (hstack : g.stack = argsL.reverse ++ .ref b :: rest) (hW : 2 * g.monitorRoom + (rest.map fun v => v.category).sum ≤ W9) (hdg : decode c.code g.pc = .ok (.invokeinterface index count, 5))
    (hpre : ∀ vm₁, s.WarmedH vm₁ → Pre ⟨T.setVm vm₁, locs, cells, slots⟩ (Value.ref b :: argsL).toArray) :
    (∃ (v : Option Value) (vm₁ : Vm) (B : Pt), s.WarmedH vm₁ ∧ Stand p l e R s m args below meth c B.U B.locs B.cells B.slots ∧ Post ⟨T.setVm vm₁, locs, cells, slots⟩ (Value.ref b :: argsL).toArray v B ∧
      ∀ target, Steps p.tables e below (B.U.setTop { g with pc := g.pc + 5, stack := v.toList ++ rest }) target → Steps p.tables e below (T.setTop g) target) ∨
    (∃ (q : Addr) (vm₁ : Vm) (B : Pt), s.WarmedH vm₁ ∧ Stand p l e R s m args below meth c B.U B.locs B.cells B.slots ∧ PostX ⟨T.setVm vm₁, locs, cells, slots⟩ (Value.ref b :: argsL).toArray q B ∧
      Steps p.tables e below (T.setTop g) ((B.U.setTop { g with stack := rest }).pushFrame (.throwing q))) := by
  obtain ⟨r0, r, hn, hrm, hstR, hsigR⟩ := Cond.declares_spec hdecl
  obtain ⟨cL, kL, r1, hcL, hkL, hiL, hfoundL, hn1⟩ := Cond.interfaceMethod_spec hface
  cases hn.symm.trans hn1
  have hr0cls : r0.cls = cL := Option.some.inj ((findClass_of_methodNamed hn).symm.trans hcL)
  obtain ⟨hnameR, hdescR⟩ := name_of_methodNamed hn hrm
  obtain ⟨mk, methM, hnamed, hmethM, -, habM⟩ := Cond.instanceMethod_spec hinst
  obtain ⟨c2, r2, m2, rm, q1, q2, q3, q5, q4, -, q6, -⟩ := Cond.landsInDefault_spec hsel
  cases hcls.symm.trans q1
  cases hfoundL.symm.trans q2
  cases hnamed.symm.trans q3
  cases hrm.symm.trans q5
  have hselP : selectMethod e.platform s.vm cellB.cls r0 = .method mk := by rw [Launch.admits_selectMethod X.admits]; exact q4
  have hpubM : hasFlag methM.accessFlags Acc.public_ = true := Cond.publicMethod_spec hnamed hmethM hpub
  obtain ⟨c3, t3, w1, w2, w3⟩ := Cond.castable_spec hcast
  cases hcls.symm.trans w1
  cases hcL.symm.trans w2
  obtain ⟨vm₁, X₁, hstep₁⟩ := X.invokeinterface hexec hown hlink hn hrm hstR (by rw [hr0cls]; exact hkL) hiL hx (a := b) (cell := cellB) (kcell := kB) hcell
    (fun z h => by rw [h] at hobj; cases hobj) hkB (by rw [hr0cls]; exact w3) hselP hmethM q6 hpubM habM (g := g) hg (argsL := argsL) (rest := rest) (hlen _ hsigR) hstack hdg
  rcases hK m meth c ⟨T.setVm vm₁, locs, cells, slots⟩ { g with stack := rest } (.invokeinterface index count) mk (Value.ref b :: argsL).toArray X₁ hg hsize hdg hW (X₁.named hnamed) (hpre vm₁ X₁.warmed) with ⟨v, B, X', hpost, hsteps⟩ | ⟨q, B, X', hpost, hsteps⟩
  · exact Or.inl ⟨v, vm₁, B, X₁.warmed, X', hpost, fun target h => hstep₁ _ fun acts => by rw [doInvoke_state]; exact hsteps.trans h⟩
  · exact Or.inr ⟨q, vm₁, B, X₁.warmed, X', hpost, hstep₁ _ fun acts => by rw [doInvoke_state]; exact hsteps⟩
theorem vx_runFD {x y : MethodName} {bytes cc : ByteArray} {maxL nL mc ms n index count : Nat} {ret : Option FieldType} {ws : List Cond} {rm : Room} {Pc : Array Value → State → Prop} {Qc : Array Value → State → Outcome → State → Prop} {XC : String → Nat → State → State → Prop} {free : Addr → Prop} {Ts : List Cond} {own C : String} {cC : ClassId} {b : Addr} {As rest : List Value} {g : JFrame}
    (hat : ClassAt s C cC) (S : CallFix p m c cc nL s args Ts own) (hM : vx_Met l y ws rm Pc Qc XC mc ms free) (cw : zBk R s args y bytes maxL ret ws rm mc ms)
    (link : (Cond.methodLink own index x).before args s = true) (decl : (Cond.declares x).before args s = true) (face : (Cond.interfaceMethod x.cls x.cls x.name x.desc).before args s = true) (sel : (Cond.landsInDefault C x y).before args s = true) (pub : (Cond.publicMethod y).before args s = true) (cast : (Cond.castable C x.cls).before args s = true) (notMH : x.cls ≠ "java/lang/invoke/MethodHandle" ∧ x.cls ≠ "java/lang/invoke/VarHandle") (len : ∀ sig, parseMethodDescriptor x.desc = some sig → n = sig.parameters.length)
    (hp : PreV s H C b Pc As)
    (hg : g.method = m) (hn : As.length = n) (hsize : g.locals.size = nL) (hstack : g.stack = As.reverse ++ .ref b :: rest) (hW : 2 * g.monitorRoom + (rest.map fun v => v.category).sum ≤ 8) (hdg : decode cc g.pc = .ok (.invokeinterface index count, 5)) (hf : cells + mc ≤ R.cells ∧ slots + ms ≤ R.slots) :
    vx_Run5 p l e R s m args below meth c H locs cells slots mc ms g rest (Qc (Value.ref b :: As).toArray) XC free := by
  obtain ⟨⟨hrc, hrs, hfr, hlo, hws, hcw⟩, hini, hinst⟩ := cw
  have hK : vx_Back l R p e below s args y 5 8 (PreOf R mc ms Pc) (PostOf Qc mc ms free) (vx_Post XC mc ms free) := vx_back (bytes := bytes) (maxL := maxL) (ret := ret) hM hp.1 hrc hrs hfr hlo hws hcw (fun a' U hW => word_at hW (Or.inl (by first | rfl | simp [Cond.onTables, Cond.keeps, Cond.steady])) hini)
  obtain ⟨hx, hb, hml, ho, -⟩ := S
  obtain ⟨-, ⟨cellB, hcB, hoB, hclB⟩, hPc⟩ := hp
  obtain ⟨hfc, kB, hkB, -⟩ := hat
  cases hfc.symm.trans hclB
  intro T hT X
  rcases vx_callIFD X hx (C := C) ho link decl face sel hinst pub cast notMH hK (by rw [hT]; exact hcB) hoB hclB hkB hg (hsize.trans hml.symm) (argsL := As) (rest := rest) (fun sig h => hn.trans (len sig h)) hstack hW (by rw [hb]; exact hdg)
    (fun vm₁ hW₁ => ⟨hf.1, hf.2, hPc (T.setVm vm₁) hT hW₁⟩) with ⟨v, vm₁, ⟨U', l2, c2, s2⟩, hW₁, X', ⟨g', mk, t, L, e1, e2, hq, h1, hL, h2, h3⟩, st⟩ | ⟨q, vm₁, ⟨U', l2, c2, s2⟩, hW₁, X', ⟨g', mk, t, L, E, ce, e1, e2, hq, hce, hcv, hcl, h1, hL, h2, h3⟩, st⟩
  · dsimp only [Pt.U, Pt.locs, Pt.cells, Pt.slots] at X' e1 e2 h1 h2 h3 st
    subst h1; subst h2; subst h3
    exact Or.inl ⟨v, (T.setVm vm₁).calling g' mk (Value.ref b :: As).toArray, t, U', L, hT, X', hL, e1, e2, hq, st⟩
  · dsimp only [Pt.U, Pt.locs, Pt.cells, Pt.slots] at X' e1 e2 h1 h2 h3 st hcl
    subst h1; subst h2; subst h3
    exact Or.inr ⟨q, (T.setVm vm₁).calling g' mk (Value.ref b :: As).toArray, t, U', L, E, ce, hT, X', hL, e1, e2, hq, hce, hcv, vx_cls hW₁ hcl, st⟩
end VXD
section ZDF
variable {w : WT} {g : GT} {y : MethodName} {cc : ByteArray} {nL : Nat} {ret : Option FieldType} {hh : List (Nat × Nat × Nat × Nat)} {fr lo : Nat} {K : Out → Mem → Prop} {mc ms pc : Nat} {lv : List (Nat × TV)} {st : List TV} {μ : Mem} {kc ks : Nat}
variable {b1 : ByteArray} {L1 fr1 lo1 index mc1 ms1 : Nat} {r1 : Option FieldType} {K1 : Out → Mem → Prop} {as rest : List TV} {r : Option Nat} {b : Nat}
theorem zDef8 (C : Cx w g y cc nL ret hh fr lo) : zDef (gs g) := C.kw.2.2.2.2.2.2.2.2.2.2.2.2
theorem zLandA {C : String} {x y : MethodName} {A A' : Array Value} {s : State} (h : (Cond.landsInDefault C x y).before A s = true) : (Cond.landsInDefault C x y).before A' s = true := h
/-- the default method isOn of a hut, by its own class -/
theorem z_callVD (C : Cx w g y cc nL ret hh fr lo) (hM : Tr w zOn (ws_ zOn b1 L1 r1) fr1 lo1 (tR (some b) :: as) μ mc1 ms1 K1) (hs : st = as.reverse ++ tR r :: rest) (hr : r = some b) (hc : zC μ b = 8)
    (q1 : (Cond.methodLink y.cls index zOnH).before #[] (gs g) = true) (q2 : Cond.instanceMethod zOn ∈ lw_all) (q3 : Cond.initialized zOn.cls ∈ lw_all) (q4 : Cond.code zOn b1 L1 r1 ∈ lw_all)
    (hl1 : as.length = 1) (hRm : fr1 + 1 ≤ fr ∧ 8 + (L1 + 11) + lo1 ≤ lo) (hW : (rest.map fun a => if tcat a then 2 else 1).sum ≤ 8) (hd : decode cc pc = .ok (.invokevirtual index, 3)) (h1 : kc + mc1 ≤ mc) (h2 : ks + ms1 ≤ ms)
    (kr : zRet w g K mc ms (pc + 3) lv rest (kc + mc1) (ks + ms1) K1) (kx : zThr w g K mc ms pc lv (kc + mc1) (ks + ms1) K1) : Z w g K mc ms pc lv st μ kc ks := by
  subst hs; subst hr
  refine z_run (a := ((tR (some b) :: as).map tv).toArray) (fun H locs ls hR hb d => ?_) h1 h2 kr kx
  have hG : GoodIn lw_all (ws_ zOn b1 L1 r1) := lw_meth q4
  exact vx_runUD (owner := "HutRidge$Placed") (x := zOnH) (C := "HutRidge$Hut") (n := 1) C.fix hM ⟨⟨rfl, rfl, (zRooms C hRm).1, (zRooms C hRm).2, pay_in C.ts hG, List.mem_cons_self⟩, C.ts _ q3, C.ts _ q2⟩ (va_tabs rfl rfl q1) (va_tabs rfl rfl (zDef8 C).2.2.2.2.2.1) (Cond.declares_spec (va_tabs rfl rfl (zDef8 C).1.1 : (Cond.declares zOn).before (ga g) (gs g) = true)) (by decide) (zLandA (zDef8 C).2.2.1) (fun sig h => by
    have h3 : parseMethodDescriptor zOnH.desc = some ⟨[.int], some .boolean⟩ := by decide +kernel
    rw [h3] at h; cases h; rfl) (zPreV C hR (ci := 8) (by decide) hc rfl) rfl (zLen hl1) (d.1.trans C.2.2.1) (zStk as rest b) (zRm hW) hd ⟨h1, h2⟩
/-- the default method isOn of a hut, by the interface -/
theorem z_callFD (C : Cx w g y cc nL ret hh fr lo) {count : Nat} (hM : Tr w zOn (ws_ zOn b1 L1 r1) fr1 lo1 (tR (some b) :: as) μ mc1 ms1 K1) (hs : st = as.reverse ++ tR r :: rest) (hr : r = some b) (hc : zC μ b = 8)
    (q1 : Cond.methodLink y.cls index zOn ∈ lw_all) (q2 : Cond.instanceMethod zOn ∈ lw_all) (q3 : Cond.initialized zOn.cls ∈ lw_all) (q4 : Cond.code zOn b1 L1 r1 ∈ lw_all)
    (hl1 : as.length = 1) (hRm : fr1 + 1 ≤ fr ∧ 8 + (L1 + 11) + lo1 ≤ lo) (hW : (rest.map fun a => if tcat a then 2 else 1).sum ≤ 8) (hd : decode cc pc = .ok (.invokeinterface index count, 5)) (h1 : kc + mc1 ≤ mc) (h2 : ks + ms1 ≤ ms)
    (kr : zRet w g K mc ms (pc + 5) lv rest (kc + mc1) (ks + ms1) K1) (kx : zThr w g K mc ms pc lv (kc + mc1) (ks + ms1) K1) : Z w g K mc ms pc lv st μ kc ks := by
  subst hs; subst hr
  refine z_run5 (a := ((tR (some b) :: as).map tv).toArray) (fun H locs ls hR hb d => ?_) h1 h2 kr kx
  have hG : GoodIn lw_all (ws_ zOn b1 L1 r1) := lw_meth q4
  have D := (zDef8 C).1
  exact vx_runFD (x := zOn) (C := "HutRidge$Hut") (n := 1) (C.kw.2.1.1 8 _ rfl).2 C.fix hM ⟨⟨rfl, rfl, (zRooms C hRm).1, (zRooms C hRm).2, pay_in C.ts hG, List.mem_cons_self⟩, C.ts _ q3, C.ts _ q2⟩ (C.ts _ q1) (va_tabs rfl rfl D.1) (va_tabs rfl rfl D.2.1) (zLandA (zDef8 C).2.1) (va_tabs rfl rfl D.2.2.1) (va_tabs rfl rfl D.2.2.2.2) (by decide) (fun sig h => by
    have h3 : parseMethodDescriptor zOn.desc = some ⟨[.int], some .boolean⟩ := by decide +kernel
    rw [h3] at h; cases h; rfl) (zPreV C hR (ci := 8) (by decide) hc rfl) rfl (zLen hl1) (d.1.trans C.2.2.1) (zStk as rest b) (zRm hW) hd ⟨h1, h2⟩
/-- a field that the memory doesn't track: written, nothing is seen of it -/
theorem z_putU (C : Cx w g y cc nL ret hh fr lo) {index a ci N : Nat} {r v : Option Nat} {CN n d : String} {T : u_T} {ty : Nat → FieldType} {t : FieldType} (hr : r = some a) (hc : zC μ a = ci) (hci : ci = 13 ∨ ci = 14) (hk : zCls ci CN T N ty) (h6 : Cond.instantiable CN 6 ∈ lw_all)
    (hlf : Cond.fieldLink y.cls index CN n d ∈ lw_all) (hlay0 : Cond.laysFinal CN CN n d ∈ lw_all) (hown : CN = y.cls) (hin : y.name = "<init>") (hT : ∀ k, k < N → (T k).2.1 ≠ n ∨ ((T k).2.2.2 = true ∧ (T k).1 ≠ CN)) (hdT : parseFieldDescriptor d = some t) (htr : t.isReference = true) (hd : decode cc pc = .ok (.putfield index, 3))
    (k : Z w g K mc ms (pc + 3) lv st μ kc ks) : Z w g K mc ms pc lv (tR v :: tR r :: st) μ kc ks := by
  intro H locs ls hR hb hl dd e f
  subst hr; subst hc
  obtain ⟨cell, h1, h2, h3, h4, h5, h6'⟩ := zCell hR hk.1 rfl
  have hba : zB w ≤ a := (hR.2.2.2.1 a hk.1).2 (by rcases hci with z | z <;> rw [z] <;> decide)
  obtain ⟨hS, hfc, kC, hkC, hkind⟩ := C.kw.2.1.1 _ _ hk.2.2.1
  have hlay := C.ts _ hlay0
  obtain ⟨c0, k0, cf, kf, fi, fd, g1, g2, hi, hst, -, g5, g6, g7, dd0, d1, d2, d3, d4⟩ := Cond.laysFinal_spec hlay
  cases Option.some.inj (hfc.symm.trans g1)
  cases Option.some.inj (hkC.symm.trans g2)
  obtain ⟨c9, k9, q1, q2, -, -, -, q6⟩ := Cond.instantiable_spec (C.ts _ h6)
  cases Option.some.inj (hfc.symm.trans q1)
  cases Option.some.inj (hkC.symm.trans q2)
  have hslot : fd.slot < cell.slots.size := by
    have := (Array.getElem?_eq_some_iff.mp g7).1
    have z := (h6'.1 hk.2.1).1 hci
    omega
  have hfit6 := u_fits (v := tv (tR v)) hfc hkC hkind (Or.inr hlay) hi hdT (by cases t <;> first | (cases htr; done) | (cases v <;> rfl)) (by cases t <;> first | (cases htr; done) | (cases v <;> rfl))
  have hap : ∀ j, j < N → fd.slot ≠ (zG w).2 (zC μ a) j := by
    intro j hj
    obtain ⟨cf', kf', fi', fd', hi', hsl'⟩ := hS j hj
    rw [← hsl']
    intro heq
    rcases hT j hj with hne | ⟨hf2, hne⟩
    · refine u_apart (Or.inr hlay) (u_lays C.ts hk.2.2.2.2.1 hj) hi hi' ?_ heq
      rw [(State.fieldFound?_type hi hdT).1, (State.fieldFound?_type hi' (hk.2.2.2.2.2.1 j hj)).1]
      exact Ne.symm hne
    · have hl' := C.ts _ (hk.2.2.2.2.1 _ (u_in_lay hj))
      unfold u_lay at hl'
      rw [if_pos hf2] at hl'
      obtain ⟨c0', k0', cf2, kf2, fi2, fd2, g1', g2', hi2, -, -, -, g6', -, dd', e1, e2, -⟩ := Cond.laysFinal_spec hl'
      cases Option.some.inj (hfc.symm.trans g1')
      cases Option.some.inj (hi'.symm.trans hi2)
      rw [← heq, d1] at e1
      cases Option.some.inj e1
      obtain ⟨ka, a1, a2⟩ := Vm.findClass_spec g6
      obtain ⟨kb, b1, b2⟩ := Vm.findClass_spec g6'
      cases Option.some.inj (a1.symm.trans (State.fieldFound?_spec hi).1)
      cases Option.some.inj (b1.symm.trans (State.fieldFound?_spec hi').1)
      exact hne (b2.symm.trans (e2.symm.trans (d2.trans a2)))
  have fin : ∀ (H' : Heap), H'[a]? = some (cell.setSlot fd.slot (tv (tR v))) → H'.size = H.size → (∀ q, q ≠ a → H'[q]? = H[q]?) → W (gp g) (zL w) (ge g) (gR g mc ms) (gs g) (gm g) (ga g) (gb g) (gh g) (gc g) H' (locs ++ [⟨a, fd.slot⟩]) kc ks (gQ w g K mc ms) (F0 (gm g) (pc + 3) ls (st.map tv)) := by
    intro H' c1 c2 c3
    refine k H' _ ls ?_ (by rw [c2]; exact hb) ?_ dd e f
    · refine hR.put (a := a) (cell := cell) (cell' := cell.setSlot fd.slot (tv (tR v))) rfl (fun _ => rfl) (fun _ _ _ h => h) hba h1 c1 rfl rfl (fun hp => ?_) c2 c3
      refine ⟨fun hx => ⟨fun z => by
        show 6 ≤ (cell.slots.setIfInBounds fd.slot (tv (tR v))).size
        rw [Array.size_setIfInBounds]; exact (hp.1 hx).1 z, fun j hj => ?_⟩, fun hx => absurd hk.2.1 (Nat.not_lt.mpr hx)⟩
      show (cell.slots.setIfInBounds fd.slot (tv (tR v)))[(zG w).2 (zC μ a) j]? = _
      rw [Array.getElem?_setIfInBounds_ne (hap j (by rw [← hk.2.2.2.1]; exact hj))]
      exact (hp.1 hx).2 j hj
    · intro l hm
      rcases List.mem_append.mp hm with z | z
      · exact hl l z
      · rw [List.mem_singleton] at z; rw [z]; exact hba
  have hcf : (gm g).cls = cf := by
    rw [hown] at g6
    exact Option.some.inj (C.own.symm.trans g6)
  exact W.putFinK C.1 C.2.1 C.own (C.ts _ hlf) hi hst hcf (by rw [C.2.2.2.2.2.2.2.2.2.2.1]; exact hin) (by rw [h2]; exact hfit6) h1 (h3 hba) hslot rfl rfl hd fin
/-- virtual, a private method through a subclass's object -/
theorem z_callP (C : Cx w g y cc nL ret hh fr lo) {y1 : MethodName} {ci : Nat} {q0 : vw_C} (hM : Tr w y1 (ws_ y1 b1 L1 r1) fr1 lo1 (tR (some b) :: as) μ mc1 ms1 K1) (hs : st = as.reverse ++ tR r :: rest) (hr : r = some b) (h0 : ci ≠ 0) (hc : zC μ b = ci) (hz : zcl[ci]? = some q0) (q1 : Cond.methodLink y.cls index y1 ∈ lw_all) (q2 : Cond.instanceMethod y1 ∈ lw_all) (q5 : (q0.1, y1) ∈ zsel) (q3 : Cond.initialized y1.cls ∈ lw_all) (q4 : Cond.code y1 b1 L1 r1 ∈ lw_all)
    (hd1 : y1.cls ≠ "java/lang/invoke/MethodHandle" ∧ y1.cls ≠ "java/lang/invoke/VarHandle" ∧ (parseMethodDescriptor y1.desc).map (fun d => d.parameters.length) = some as.length) (hRm : fr1 + 1 ≤ fr ∧ 8 + (L1 + 11) + lo1 ≤ lo) (hW : (rest.map fun a => if tcat a then 2 else 1).sum ≤ 8) (hd : decode cc pc = .ok (.invokevirtual index, 3)) (h1 : kc + mc1 ≤ mc) (h2 : ks + ms1 ≤ ms)
    (kr : zRet w g K mc ms (pc + 3) lv rest (kc + mc1) (ks + ms1) K1) (kx : zThr w g K mc ms pc lv (kc + mc1) (ks + ms1) K1) : Z w g K mc ms pc lv st μ kc ks := by
  subst hs; subst hr
  refine z_run (a := ((tR (some b) :: as).map tv).toArray) (fun H locs ls hR hb d => ?_) h1 h2 kr kx
  exact vx_runV C.fix hM ⟨callB_of as.length C.ts (lw_meth q4) rfl rfl rfl (C.ts _ q3) (C.ts _ q1) hd1 (zRooms C hRm), C.ts _ q2, va_tabs rfl rfl ((zDef8 C).2.2.2.2.2.2.1 _ q5)⟩ (zPreV C hR h0 hc hz) rfl (zLen rfl) (d.1.trans C.2.2.1) (zStk as rest b) (zRm hW) hd ⟨h1, h2⟩
theorem z_castM (C : Cx w g y cc nL ret hh fr lo) {index : Nat} {nm : String} (hq : Cond.classLink y.cls index nm ∈ lw_all) (hr : ∀ a, r = some a → ∃ (ci : Nat) (q : vw_C), ci ≠ 0 ∧ zC μ a = ci ∧ zcl[ci]? = some q ∧ (q.1 = nm ∨ Cond.castable q.1 nm ∈ lw_tbl)) (hd : decode cc pc = .ok (.checkcast index, 3)) (k : Z w g K mc ms (pc + 3) lv (tR r :: st) μ kc ks) : Z w g K mc ms pc lv (tR r :: st) μ kc ks := by
  cases hrr : r with
  | none => rw [hrr] at k; exact z_cast C hq (fun a h => by cases h) hd k
  | some a =>
    obtain ⟨ci, q, h0, hc, hz, h | h⟩ := hr a hrr
    · subst h; rw [hrr] at k; exact z_castS C hq h0 hz (fun a' h => by cases h; exact hc) hd k
    · rw [hrr] at k; exact z_cast C hq (fun a' h' => by cases h'; exact ⟨q, by rw [hc]; exact h0, by rw [hc]; exact hz, h⟩) hd k
theorem z_instM (C : Cx w g y cc nL ret hh fr lo) {index a ci : Nat} {nm : String} {q : vw_C} (hq : Cond.classLink y.cls index nm ∈ lw_all) (hr : r = some a) (h0 : ci ≠ 0) (hc : zC μ a = ci) (hz : zcl[ci]? = some q) (h : q.1 = nm ∨ Cond.castable q.1 nm ∈ lw_tbl) (hd : decode cc pc = .ok (.instanceof index, 3)) (k : Z w g K mc ms (pc + 3) lv (tI 1 :: st) μ kc ks) : Z w g K mc ms pc lv (tR r :: st) μ kc ks := by
  rcases h with h | h
  · subst h; exact z_instS C hq hr h0 hz hc hd k
  · exact z_instY C hq hr (by rw [hc]; exact h0) (by rw [hc]; exact hz) h hd k
theorem z_make0E (C : Cx w g y cc nL ret hh fr lo) {ci ik ic : Nat} {cls : String} {T0 : u_T} (names : List String) (hcl : zcl[ci]? = some (cls, T0, 0)) (hci : ci ≠ 0) (hci2 : ci < 100) (hfl : (zFl ci).length = 0) (hcls : Bundle.fit cls = true) (hnames : ∀ n ∈ names, Bundle.fit n = true) (hk : Cond.classLink y.cls ik cls ∈ lw_all) (hini : Cond.initialized cls ∈ lw_all)
    (hat : ∀ c ∈ vx_at0 y.cls ic cls names, c ∈ lw_tbl ∧ (c ∈ lw_all ∨ zNwk c = true)) (hgood : ∀ c ∈ Cond.classLink y.cls ik cls :: Cond.initialized cls :: vx_at0 y.cls ic cls names, vx_ot c = true)
    (d0 : decode cc pc = .ok (.new ik, 3)) (d3 : decode cc (pc + 3) = .ok (.dup, 1)) (d4 : decode cc (pc + 4) = .ok (.invokespecial ic, 3)) (hRf : names.length + 3 < fr) (hRl : (st.map fun a => if tcat a then 2 else 1).sum + (13 * (names.length + 1) + 42) ≤ lo) (h1 : kc + 1 ≤ mc) (h2 : ks + 6 ≤ ms)
    (k : ∀ (a : Nat) (μ1 : Mem), a = zS μ → μ1 = zNew μ ci 0 → Z w g K mc ms (pc + 7) lv (tR (some a) :: st) μ1 (kc + 1) (ks + 6)) : Z w g K mc ms pc lv st μ kc ks := z_make0 C names hcl hci hci2 hfl hcls hnames hk hini hat hgood d0 d3 d4 hRf hRl h1 h2 (k _ _ rfl rfl)
end ZDF
