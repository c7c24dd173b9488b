/-! FRAMEWORK 27: exceptions that the machine itself throws (a launch without stack traces) -/
set_option maxRecDepth 100000
section MSG
variable {p : Program} {l : Launch} {e : Env} {R : Room} {s : State} {m₀ : MethodId} {args : Array Value} {below : List Frame} {meth : Method} {c : Code} {T0 : State} {locs : List Loc} {cells slots : Nat}
set_option maxHeartbeats 1000000 in
theorem msg_prep (X : Stand p l e R s m₀ args below meth c T0 locs cells slots) {cls : String} {names : List String} (hcls : Bundle.fit cls = true) (hnames : ∀ n ∈ names, Bundle.fit n = true) (h : ∀ a ∈ Bundle.messageArmAtoms cls names, a.before args s = true)
    (hlocs : ∀ x ∈ locs, ∀ cell, s.heap[x.base]? = some cell → cell.vm.isStatics = false) :
    ∃ (T : ThrowableC) (Z : Init0T) (M : MsgC) (Zs : StringT) (P1 : PassC) (Ps : List PassC) (kX : Class) (u0 sen : RefV) (cellS : Cell), T.Links e.platform s ∧ Z.LaidS T.toThrowableT ∧ M.Links T e.platform s ∧ Zs.Laid s.vm ∧ P1.LinksS e.platform s ∧ (∀ P, P ∈ Ps → P.LinksS e.platform s) ∧
      P1.sup = firstOf (Z.m T.toThrowableT) (Ps.map (·.toPassT)) ∧ PassesOn (Z.m T.toThrowableT) (Ps.map (·.toPassT)) ∧ Ps.length = names.length ∧ s.vm.findClass cls = some P1.m.cls ∧ s.vm.classes[P1.m.cls]? = some kX ∧ kX.init = .initialized ∧ kX.kind = .ordinary ∧ kX.findMethod "<init>" "(Ljava/lang/String;)V" = some P1.m.idx ∧
      (∀ a, s.fitsSlot Zs.cS .none Zs.fv.slot (.ref a) = true) ∧ (∀ units, s.fitsSlot Zs.cS .none Zs.fc.slot (.int (stringCoder units)) = true) ∧ selectMethod e.platform s.vm P1.m.cls T.fill0 = .method T.fill0 ∧ selectMethod e.platform s.vm P1.m.cls T.fill = .method T.fill ∧
      T0.heap[T.aS]? = some cellS ∧ cellS.vm ≠ .unknown ∧ cellS.slots[T.fUnassigned.slot]? = some u0.v ∧ cellS.slots[T.fSentinel.slot]? = some sen.v ∧ Takes s (freshCell P1.m.cls kX) T.fCause (.ref (T0.heap.size + 2)) ∧ Takes s (freshCell P1.m.cls kX) T.fStack u0.v ∧ Takes s (freshCell P1.m.cls kX) T.fSupp sen.v ∧ Takes s (freshCell P1.m.cls kX) T.fMsg (.ref (T0.heap.size + 1)) ∧ T.codeObj.maxLocals = 1 ∧
      SkipFacts T e.platform s (fun u => u) u0 ((preparedCellV T.toThrowableT (freshCell P1.m.cls kX) (T0.heap.size + 2) u0 sen).withEntry T0.cur) ∧ Zs.kS.instanceTypes.size = 4 ∧ kX.instanceTypes.size = 6 := by
  have howns : e.platform.frameOwnsMonitors = true := by rw [X.admits.platform]
  have hfin : e.platform.finalization = false := by rw [X.admits.platform]
  have hpl : e.platform.magicAccessors = ({} : Platform).magicAccessors := by rw [X.admits.platform]
  have a : ∀ x, x ∈ Bundle.messageArmAtoms cls names → x.holds args s none s [] = true := fun x hx => h x hx
  obtain ⟨T, Z0, L, -, Y⟩ := ThrowableC.of_atoms (args := args) howns hfin hpl (fun x hx => h x (by simp [Bundle.messageArmAtoms, hx]))
  obtain ⟨Z, M, LZ, LM, hnZ⟩ := Init0T.ofS_atoms (args := args) hpl L Y (fun x hx => h x (by simp [Bundle.messageArmAtoms, hx]))
  obtain ⟨P1, Ps, hlen, L1, hL, hP1m, hlink1, hlink⟩ := Bundle.chainS (args := args) hpl hnZ names cls hcls hnames (fun x hx => h x (by simp [Bundle.messageArmAtoms, hx]))
  obtain ⟨Zs, LZs, hn4, hfitv, hfitc⟩ := StringT.of_atoms (args := args) (fun x hx => h x (by simp [Bundle.messageArmAtoms, hx]))
  have hfound : s.vm.findClass cls = some P1.m.cls := findClass_of_methodNamed hP1m
  obtain ⟨c1, kX, hc1, hk, hord, -, -, hn6⟩ := Cond.instantiable_spec (a (.instantiable cls 6) (by simp [Bundle.messageArmAtoms]))
  cases Option.some.inj (hc1.symm.trans hfound)
  have hinit := Cond.initialized_spec hfound hk (a (.initialized cls) (by simp [Bundle.messageArmAtoms]))
  have hctor : kX.findMethod "<init>" "(Ljava/lang/String;)V" = some P1.m.idx := findMethod_of_methodNamed hP1m hk
  have hsel0 : selectMethod e.platform s.vm P1.m.cls T.fill0 = .method T.fill0 := by
    obtain ⟨c2, r2, m2, q1, q2, q3, q4, -⟩ := Cond.selects_spec (a (.selects cls Bundle.tFill0 Bundle.tFill0) (by simp [Bundle.messageArmAtoms]))
    cases Option.some.inj (q1.symm.trans hfound)
    cases Option.some.inj (q2.symm.trans (State.methodFound?_of_named Y.fill0 (by decide)))
    cases Option.some.inj (q3.symm.trans Y.fill0)
    rw [Launch.admits_selectMethod X.admits]; exact q4
  have hselF : selectMethod e.platform s.vm P1.m.cls T.fill = .method T.fill := by
    obtain ⟨c2, r2, m2, q1, q2, q3, q4, -⟩ := Cond.selects_spec (a (.selects cls Bundle.tFill Bundle.tFill) (by simp [Bundle.messageArmAtoms]))
    cases Option.some.inj (q1.symm.trans hfound)
    cases Option.some.inj (q2.symm.trans (State.methodFound?_of_named Y.fill (by decide)))
    cases Option.some.inj (q3.symm.trans Y.fill)
    rw [Launch.admits_selectMethod X.admits]; exact q4
  obtain ⟨cellS0, hcS0, hiss⟩ := Y.statics
  obtain ⟨u0, hu0⟩ := Cond.staticRefV Y.unassigned L.unassignedStatic L.statics hcS0 hiss (a (.isRef (.static Bundle.tN "UNASSIGNED_STACK" Bundle.steD)) (by simp [Bundle.messageArmAtoms]))
  obtain ⟨sen, hsen⟩ := Cond.staticRefV Y.sentinel L.sentinelStatic L.statics hcS0 hiss (a (.isRef (.static Bundle.tN "SUPPRESSED_SENTINEL" Bundle.listD)) (by simp [Bundle.messageArmAtoms]))
  obtain ⟨ci198, i198, fB, hk198, hg198, ha198, hsB, -, hnB, htB, hffB⟩ := Cond.ownField (t := .object "java/lang/Object") Y.found L.cls (by decide +kernel) (a (.fieldLink Bundle.tN 198 Bundle.tN "backtrace" "Ljava/lang/Object;") (by simp [Bundle.messageArmAtoms])) (a (.lays Bundle.tN Bundle.tN "backtrace" "Ljava/lang/Object;") (by simp [Bundle.messageArmAtoms])) e.platform hpl
  obtain ⟨cellS, hcS', heS, -, hkeep⟩ := X.same.2.2.2.2.2 T.aS cellS0 hcS0
  have hcellS : T0.heap[T.aS]? = some cellS := hcS'
  have hout' : ∀ i, (⟨T.aS, i⟩ : Loc) ∉ locs := fun i hmem => by
    have := hlocs _ hmem cellS0 hcS0
    rw [hiss] at this; cases this
  have hknownS : cellS.vm ≠ .unknown := by
    rw [heS]; intro hu
    rw [show cellS0.vm = .unknown from hu] at hiss
    cases hiss
  obtain ⟨iM, hffM⟩ := Y.msg
  obtain ⟨tyC, dC, hdC, hdnC⟩ := Cond.laysAt hfound hk Y.cause (a (.lays cls Bundle.tN "cause" "Ljava/lang/Throwable;") (by simp [Bundle.messageArmAtoms]))
  obtain ⟨tyS, dS, hdS, hdnS⟩ := Cond.laysAt hfound hk Y.stack (a (.lays cls Bundle.tN "stackTrace" Bundle.steD) (by simp [Bundle.messageArmAtoms]))
  obtain ⟨tyP, dP, hdP, hdnP⟩ := Cond.laysAt hfound hk Y.supp (a (.lays cls Bundle.tN "suppressedExceptions" Bundle.listD) (by simp [Bundle.messageArmAtoms]))
  obtain ⟨tyM, dM, hdM, hdnM⟩ := Cond.laysAt hfound hk hffM (a (.lays cls Bundle.tN "detailMessage" "Ljava/lang/String;") (by simp [Bundle.messageArmAtoms]))
  obtain ⟨tyB, dB, hdB, hdnB⟩ := Cond.laysAt hfound hk hffB (a (.lays cls Bundle.tN "backtrace" "Ljava/lang/Object;") (by simp [Bundle.messageArmAtoms]))
  have bC := Cond.laysApart hdB hdC hdnB hdnC (by rw [hnB, Y.causeName]; decide)
  have bS := Cond.laysApart hdB hdS hdnB hdnS (by rw [hnB, Y.stackName]; decide)
  have bP := Cond.laysApart hdB hdP hdnB hdnP (by rw [hnB, Y.suppName]; decide)
  have hbk : ((preparedCellV T.toThrowableT (freshCell P1.m.cls kX) (T0.heap.size + 2) u0 sen).withEntry T0.cur).slots[fB.slot]? = some .null := by
    have := fresh_default (c := P1.m.cls) tyB
    rw [htB] at this
    simpa [preparedCellV, Cell.setSlot, Cell.withEntry, Array.getElem?_setIfInBounds, bC, bS, bP, bC.symm, bS.symm, bP.symm, defaultValue] using this
  exact ⟨T, Z, M, Zs, P1, Ps, kX, u0, sen, cellS, L, LZ, LM, LZs, L1, hL, hlink1, hlink, hlen, hfound, hk, hinit, hord, hctor, hfitv, hfitc, hsel0, hselF, hcellS, hknownS, by rw [hkeep _ (hout' _)]; exact hu0, by rw [hkeep _ (hout' _)]; exact hsen,
    Takes.of_laid hk hord tyC (by rw [Y.causeType]; rfl), Takes.of_laid hk hord tyS (by rw [Y.stackType]; exact fits_refV_array _ u0), Takes.of_laid hk hord tyP (by rw [Y.suppType]; exact fits_refV_object _ sen), Takes.of_laid hk hord tyM (by rw [Y.msgType]; rfl), Y.objLocals, ⟨{ ci198 := ci198, i198 := i198, fBack := fB }, ⟨hk198, hg198, ha198, hsB⟩, hbk, fun _ _ => rfl⟩, hn4, hn6⟩
abbrev tB (text : String) : Nat := (stringBytes (stringToUtf16 text)).size
/-- what a machine's exception leaves -/
def MsgU (s : State) (T0 U : State) (L : List Loc) (cls : String) : Prop := (∀ y ∈ L, y.base = T0.heap.size + 2) ∧ (∀ a0, a0 < T0.heap.size → U.heap[a0]? = T0.heap[a0]?) ∧ T0.heap.size ≤ U.heap.size ∧ ∃ (cX : ClassId) (ce : Cell), s.vm.findClass cls = some cX ∧ U.heap[T0.heap.size + 2]? = some ce ∧ ce.cls = cX ∧ ce.vm = .none
set_option maxHeartbeats 1000000 in
theorem msg_java (X : Stand p l e R s m₀ args below meth c T0 locs cells slots) (hexec : p.tables.exec = Jvm.exec) (htr : e.platform.stackTraces = false) {cls : String} {names : List String} {text : String}
    (hcls : Bundle.fit cls = true) (hnames : ∀ n ∈ names, Bundle.fit n = true) (hsoe : (cls == "java/lang/StackOverflowError") = false) (hoom : (cls == "java/lang/OutOfMemoryError") = false)
    (h : ∀ a ∈ Bundle.messageArmAtoms cls names, a.before args s = true) (hlocs : ∀ x ∈ locs, ∀ cell, s.heap[x.base]? = some cell → cell.vm.isStatics = false)
    (htext : (text == notModelled) = false) (hlimit : ¬ tB text > e.platform.arrayLengthLimit) (hheap : ¬ tB text * componentBytes .byte > e.platform.maxHeapBytes)
    {g : JFrame} (hg : g.method = m₀) (hsize : g.locals.size = c.maxLocals) (hRframes : names.length + 4 < R.frames) (hRlocals : 2 * g.monitorRoom + (g.stack.map fun v => v.category).sum + 10240 ≤ R.locals) (hshort : 13 * names.length + 55 ≤ 10240)
    (hRcells : cells + 3 ≤ R.cells) (hRslots : slots + (tB text + 4 + 6) ≤ R.slots) :
    ∃ (U : State) (L : List Loc), Stand p l e R s m₀ args below meth c U (locs ++ L) (cells + 3) (slots + (tB text + 4 + 6)) ∧ MsgU s T0 U L cls ∧
      Steps p.tables e below ((T0.setTop g).pushFrame (.throwNew cls (some text) none)) (U.setFrames (.throwing (T0.heap.size + 2) :: .java g :: below)) := by
  obtain ⟨T, Z, M, Zs, P1, Ps, kX, u0, sen, cellS, L, LZ, LM, LZs, L1, hL, hlink1, hlink, hlen, hfound, hk, hinit, hord, hctor, hfitv, hfitc, hsel0, hselF, hcellS, hknownS, hvU, hvSen, tkC, tkS, tkP, tkM, hobj, hskip, hn4, hn6⟩ := msg_prep X hcls hnames h hlocs
  obtain ⟨vm', X5, h1, hkept⟩ := X.throwsMessageColdBareVAt hexec hg hsize T L Z LZ M LM Zs LZs P1 L1 Ps hL hlink1 hlink hsoe hoom hfound hk hinit hord hctor htext hlimit hheap
      (hfitv _) (hfitc _) hsel0 hselF hcellS hknownS hvU hvSen tkC tkS tkP tkM hobj hskip (fun _ _ hA hW _ hroom _ hrest => L.nativeOff p htr hA hW hroom hrest)
      (by rw [hlen]; exact hRframes) hRlocals (by rw [hlen]; exact hshort) hRcells (by rw [hn4, hn6]; exact hRslots)
  have b1 : (bytesOf Zs.cB (stringToUtf16 text)).slots.size = tB text := by
    rw [(Cell.writeAll_facts _ _).2.2]; simp [bytes0]
  have b2 : (stringAt Zs.cS Zs.kS Zs.fv Zs.fc (stringToUtf16 text) T0.heap.size).slots.size = 4 := by simp [string0, Cell.setSlot, hn4]
  have b3 : (freshCell P1.m.cls kX).slots.size = 6 := by simp [hn6]
  have hsz := (withThrown_facts e.platform T0 Zs text P1.m.cls kX).2.2.1
  have hlt : T0.heap.size + 2 < ((withThrown T0 Zs text P1.m.cls kX).setVm vm').heap.size := by
    show T0.heap.size + 2 < (withThrown T0 Zs text P1.m.cls kX).heap.size
    rw [hsz]; omega
  rw [b1, b2, b3, show slots + tB text + 4 + 6 = slots + (tB text + 4 + 6) by omega] at X5
  refine ⟨_, _, X5, ⟨fun y hy => ?_, hkept, ?_, P1.m.cls, _, hfound, heapAt_setCell_self _ hlt, rfl, rfl⟩, h1⟩
  · simp only [List.mem_cons, List.not_mem_nil, or_false] at hy
    rcases hy with rfl | rfl | rfl | rfl | rfl <;> rfl
  · rw [size_setCell]
    omega
set_option maxHeartbeats 1000000 in
theorem msg_nat (X : Stand p l e R s m₀ args below meth c T0 locs cells slots) (hexec : p.tables.exec = Jvm.exec) (htr : e.platform.stackTraces = false) {cls : String} {names : List String} {text : String}
    (hcls : Bundle.fit cls = true) (hnames : ∀ n ∈ names, Bundle.fit n = true) (hsoe : (cls == "java/lang/StackOverflowError") = false) (hoom : (cls == "java/lang/OutOfMemoryError") = false)
    (h : ∀ a ∈ Bundle.messageArmAtoms cls names, a.before args s = true) (hlocs : ∀ x ∈ locs, ∀ cell, s.heap[x.base]? = some cell → cell.vm.isStatics = false)
    (htext : (text == notModelled) = false) (hlimit : ¬ tB text > e.platform.arrayLengthLimit) (hheap : ¬ tB text * componentBytes .byte > e.platform.maxHeapBytes)
    {g : JFrame} (hsize : g.locals.size = c.maxLocals) {nf : NFrame} (hnf : nf.words = 0) (hRframes : names.length + 5 < R.frames) (hRlocals : 2 * g.monitorRoom + (g.stack.map fun v => v.category).sum + 10240 ≤ R.locals) (hshort : 13 * names.length + 55 ≤ 10240)
    (hRcells : cells + 3 ≤ R.cells) (hRslots : slots + (tB text + 4 + 6) ≤ R.slots) :
    ∃ (U : State) (L : List Loc), Stand p l e R s m₀ args below meth c U (locs ++ L) (cells + 3) (slots + (tB text + 4 + 6)) ∧ MsgU s T0 U L cls ∧
      Steps p.tables e below (T0.setFrames (.throwNew cls (some text) none :: .native nf :: .java g :: below)) (U.setFrames (.throwing (T0.heap.size + 2) :: .native nf :: .java g :: below)) := by
  obtain ⟨T, Z, M, Zs, P1, Ps, kX, u0, sen, cellS, L, LZ, LM, LZs, L1, hL, hlink1, hlink, hlen, hfound, hk, hinit, hord, hctor, hfitv, hfitc, hsel0, hselF, hcellS, hknownS, hvU, hvSen, tkC, tkS, tkP, tkM, hobj, hskip, hn4, hn6⟩ := msg_prep X hcls hnames h hlocs
  obtain ⟨vm', X5, h1, hkept⟩ := X.nativeThrowsMessageColdBareV hexec hsize hnf T L Z LZ M LM Zs LZs P1 L1 Ps hL hlink1 hlink hsoe hoom hfound hk hinit hord hctor htext hlimit hheap
      (hfitv _) (hfitc _) hsel0 hselF hcellS hknownS hvU hvSen tkC tkS tkP tkM hobj hskip (fun _ _ hA hW _ hroom _ hrest => L.nativeOff p htr hA hW hroom hrest)
      (by rw [hlen]; exact hRframes) hRlocals (by rw [hlen]; exact hshort) hRcells (by rw [hn4, hn6]; exact hRslots)
  have b1 : (bytesOf Zs.cB (stringToUtf16 text)).slots.size = tB text := by
    rw [(Cell.writeAll_facts _ _).2.2]; simp [bytes0]
  have b2 : (stringAt Zs.cS Zs.kS Zs.fv Zs.fc (stringToUtf16 text) T0.heap.size).slots.size = 4 := by simp [string0, Cell.setSlot, hn4]
  have b3 : (freshCell P1.m.cls kX).slots.size = 6 := by simp [hn6]
  have hsz := (withThrown_facts e.platform T0 Zs text P1.m.cls kX).2.2.1
  have hlt : T0.heap.size + 2 < ((withThrown T0 Zs text P1.m.cls kX).setVm vm').heap.size := by
    show T0.heap.size + 2 < (withThrown T0 Zs text P1.m.cls kX).heap.size
    rw [hsz]; omega
  rw [b1, b2, b3, show slots + tB text + 4 + 6 = slots + (tB text + 4 + 6) by omega] at X5
  refine ⟨_, _, X5, ⟨fun y hy => ?_, hkept, ?_, P1.m.cls, _, hfound, heapAt_setCell_self _ hlt, rfl, rfl⟩, h1⟩
  · simp only [List.mem_cons, List.not_mem_nil, or_false] at hy
    rcases hy with rfl | rfl | rfl | rfl | rfl <;> rfl
  · rw [size_setCell]
    omega
end MSG
