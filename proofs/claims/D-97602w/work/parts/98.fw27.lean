/-! FRAMEWORK 27: exceptions that the machine itself throws (a launch without stack traces) -/
set_option maxRecDepth 100000
/-! the machine's own throws over any frames -/
def OvB (s : State) (base below : List Frame) : Prop := s.status = .running ∧ s.curStatus? = some .runnable ∧ s.alone = true ∧ s.cur < s.threads.size ∧ ∃ mid, base = mid ++ below
theorem OvB.vm {s : State} {base below : List Frame} (h : OvB s base below) (vm : Vm) : OvB (s.setVm vm) base below := h
theorem ov_in {below base : List Frame} {U : State} (hO : OvB U base below) (a str : Addr) {m : MethodId} {meth : Method} {code : Code} (hm : U.vm.method? m = some meth) (hc : meth.code = some code) (hplain : U.plainMethod m) :
    (U.setFrames (.thenThrow a :: base)).frames = .thenThrow a :: base ∧ At ((U.setFrames (.thenThrow a :: base)).pushFrame (.java (passJ m a (.ref str) 0 []))) m code below ∧ ((U.setFrames (.thenThrow a :: base)).pushFrame (.java (passJ m a (.ref str) 0 []))).frames = .java (passJ m a (.ref str) 0 []) :: .thenThrow a :: base := by
  obtain ⟨o1, o2, o3, o4, mid, hmid⟩ := hO
  have hf : (U.setFrames (.thenThrow a :: base)).frames = .thenThrow a :: base := State.frames_setFrames _ o4
  have hcur := State.cur_lt_of_frames hf
  refine ⟨hf, At.pushOn _ ⟨o1, by simpa using o2, by simpa using o3⟩ hcur ⟨.thenThrow a :: mid, by rw [hf, hmid]; rfl⟩ hm hc hplain, ?_⟩
  rw [show ((U.setFrames (.thenThrow a :: base)).pushFrame (.java (passJ m a (.ref str) 0 []))).frames = .java (passJ m a (.ref str) 0 []) :: (U.setFrames (.thenThrow a :: base)).frames from State.frames_setFrames _ hcur, hf]
/-- the constructor returns, and what it made is thrown -/
theorem ov_ret {tb : Tables} [Ours tb] {e : Env} {below base : List Frame} {U target : State} (hO : OvB U base below) (hexec : tb.exec = Jvm.exec) {F : State → State} (hF : HeapOnly F) (a str : Addr) {m : MethodId} {meth : Method} {code : Code} (hm : U.vm.method? m = some meth) (hc : meth.code = some code) (hplain : U.plainMethod m) (hl : meth.locks = false) (h5 : decode code.code 5 = .ok (.return_, 1))
    (hrest : Steps tb e below ((F U).setFrames (.throwing a :: base)) target) : Steps tb e below ((F ((U.setFrames (.thenThrow a :: base)).pushFrame (.java (passJ m a (.ref str) 0 [])))).setTop (passJ m a (.ref str) 5 [])) target := by
  obtain ⟨hfN, hI, hfI⟩ := ov_in hO a str hm hc hplain
  obtain ⟨-, -, -, -, mid, hmid⟩ := hO
  have hB : At (F ((U.setFrames (.thenThrow a :: base)).pushFrame (.java (passJ m a (.ref str) 0 [])))) m code below := hF.at_ hI
  have hfF : (F ((U.setFrames (.thenThrow a :: base)).pushFrame (.java (passJ m a (.ref str) 0 [])))).frames = .java (passJ m a (.ref str) 0 []) :: .thenThrow a :: base := by rw [hF.frames]; exact hfI
  have hcur := State.cur_lt_of_frames hfF
  jvm_step hB [hexec, h5, return_.wp_sem]
  intro acts2
  rw [ret_to (t := F ((U.setFrames (.thenThrow a :: base)).pushFrame (.java (passJ m a (.ref str) 0 [])))) (f := passJ m a (.ref str) 5 []) (f₀ := passJ m a (.ref str) 0 []) (below := .thenThrow a :: base) (fs := .thenThrow a :: base) (meth := meth) hfF (by rw [hF.vm]; exact hm) hl rfl rfl rfl acts2]
  have hf1 : ((F ((U.setFrames (.thenThrow a :: base)).pushFrame (.java (passJ m a (.ref str) 0 [])))).setFrames (.thenThrow a :: base)).frames = .thenThrow a :: base := State.frames_setFrames _ hcur
  refine Steps.head ⟨hB.running, by simpa using hB.runnable, by simpa using hB.alone⟩ ⟨.thenThrow a :: mid, by rw [hf1, hmid]; rfl, by simp, by simp⟩ ?_
  rw [stepThread_thenThrow hf1]
  show Steps tb e below (((F ((U.setFrames (.thenThrow a :: base)).pushFrame (.java (passJ m a (.ref str) 0 [])))).setFrames (.thenThrow a :: base)).setFrames (.throwing a :: base)) target
  rw [State.setFrames_setFrames, State.pushFrame, hF.setFrames, hF.setFrames, State.setFrames_setFrames, State.setFrames_setFrames]
  exact hrest
section OV
variable {p : Program} {e : Env} {below base : List Frame} {s₀ S : State}
/-- with the empty trace: what the exception's cell is in the end -/
abbrev cF (T : ThrowableC) (cls : ClassId) (kX : Class) (a : Addr) (t : ThreadId) (u0 sen : RefV) (str : Addr) : Cell := ((((preparedCellV T.toThrowableT (freshCell cls kX) a u0 sen).withEntry t).setSlot T.fStack.slot u0.v).left).setSlot T.fMsg.slot (.ref str)
set_option maxHeartbeats 1000000 in
theorem ov_ctor {U : State} {self str : Addr} (hO : OvB U base below) (hexec : p.tables.exec = Jvm.exec) (htr : e.platform.stackTraces = false) (T : ThrowableC) (L : T.Links e.platform s₀) (Z : Init0T) (LZ : Z.LaidS T.toThrowableT) (M : MsgC) (LM : M.Links T e.platform s₀) (hW : s₀.WarmedH U.vm)
    {u0 sen : RefV} {kX : Class} {cellS : Cell} (P1 : PassC) (L1 : P1.LinksS e.platform s₀) (Ps : List PassC) (hL : ∀ P, P ∈ Ps → P.LinksS e.platform s₀) (hlink1 : P1.sup = firstOf (Z.m T.toThrowableT) (Ps.map (·.toPassT))) (hlink : PassesOn (Z.m T.toThrowableT) (Ps.map (·.toPassT)))
    (hcell : U.heap[self]? = some (freshCell P1.m.cls kX)) (hsel0 : selectMethod e.platform s₀.vm P1.m.cls T.fill0 = .method T.fill0) (hselF : selectMethod e.platform s₀.vm P1.m.cls T.fill = .method T.fill)
    (hcellS : U.heap[T.aS]? = some cellS) (hneS : T.aS ≠ self) (hknownS : cellS.vm ≠ .unknown) (hvU : cellS.slots[T.fUnassigned.slot]? = some u0.v) (hvSen : cellS.slots[T.fSentinel.slot]? = some sen.v)
    (htC : Takes s₀ (freshCell P1.m.cls kX) T.fCause (.ref self)) (htS : Takes s₀ (freshCell P1.m.cls kX) T.fStack u0.v) (htP : Takes s₀ (freshCell P1.m.cls kX) T.fSupp sen.v) (htM : Takes s₀ (freshCell P1.m.cls kX) T.fMsg (.ref str)) (hobjLocals : T.codeObj.maxLocals = 1)
    (hskip : SkipFacts T e.platform s₀ (fun u => u) u0 ((preparedCellV T.toThrowableT (freshCell P1.m.cls kX) self u0 sen).withEntry U.cur))
    {lim : Nat × Nat} (hlim : e.platform.stackLimits U.me = lim) (hframes : base.length + Ps.length + 4 < lim.1) (hwords : (stackUse base).2 + 13 * Ps.length + 55 ≤ lim.2) :
    ∃ vm', s₀.WarmedH vm' ∧ ∀ target, Steps p.tables e below (((U.setVm vm').setCell self (cF T P1.m.cls kX self U.cur u0 sen str)).setFrames (.throwing self :: base)) target → Steps p.tables e below (doInvoke e (U.setFrames (.thenThrow self :: base)) [] P1.m #[.ref self, .ref str]).1 target := by
  have hmU := hW.methodAt L1.method
  obtain ⟨hfN, hI, hfI⟩ := ov_in hO self str hmU L1.code (hW.plainAt L1.plain)
  have hlimN : e.platform.stackLimits (U.setFrames (.thenThrow self :: base)).me = lim := by rw [State.stackLimits_setFrames]; exact hlim
  have hroom := roomAbove (pl := e.platform) (u := U.setFrames (.thenThrow self :: base)) (vars := 2) (pushed := [.thenThrow self]) (base := base) (free := 13 * Ps.length + 55) (lim := lim) hfN hlimN
    (by simp only [List.length_cons, List.length_nil]; omega) (by omega) (by rw [stackUse_light _ _ (fun f hf => by cases hf) rfl, stackUse_nil]; show 0 + 2 + 11 ≤ _; omega)
  obtain ⟨vm1, hW1, st1⟩ := Steps.invokeInitCold (tb := p.tables) (s₀ := s₀) (U := (U.setFrames (.thenThrow self :: base)).pushFrame (.java (passJ P1.m self (.ref str) 0 []))) (f := passJ P1.m self (.ref str) 2 [.ref str, .ref self]) (args := [.ref str]) (rest := []) (a := self) hI hexec L1.at2 hW L1.links L1.right L1.notHandle L1.cls L1.file L1.pool
    L1.supClass L1.supMethod L1.supName L1.supStatic L1.supAbstract L1.supFound L1.supParams.symm rfl
  have hI1 := hI.setVm (hW.alike.symm.trans hW1.alike)
  have hfI1 : (((U.setFrames (.thenThrow self :: base)).pushFrame (.java (passJ P1.m self (.ref str) 0 []))).setVm vm1).frames = .java (passJ P1.m self (.ref str) 0 []) :: .thenThrow self :: base := hfI
  have hlim1 : e.platform.stackLimits (((U.setFrames (.thenThrow self :: base)).pushFrame (.java (passJ P1.m self (.ref str) 0 []))).setVm vm1).me = lim := by
    show e.platform.stackLimits ((U.setFrames (.thenThrow self :: base)).pushFrame (.java (passJ P1.m self (.ref str) 0 []))).me = lim
    rw [State.stackLimits_pushFrame, State.stackLimits_setFrames]; exact hlim
  obtain ⟨vm2, hW2, st2⟩ := Steps.initThrowableSColdByV p (V := ((U.setFrames (.thenThrow self :: base)).pushFrame (.java (passJ P1.m self (.ref str) 0 []))).setVm vm1) (g := passJ P1.m self (.ref str) 2 []) (c := P1.code) (self := self) hI1 hexec T L Z LZ M LM hW1 (t := U.cur) rfl
    (Nn := fun u => u) heapOnly_id (fun _ _ => rfl) (fun _ => rfl) (fun u x y => setCell_twice _ _ _ _) (fun _ => Nat.le_refl _) (msg := .ref str) rfl (cell := freshCell P1.m.cls kX) hcell (fun k hk => by cases hk) (fun hk => by cases hk) rfl hsel0 hcellS hneS hknownS hvU htS
    (cN := (preparedCellV T.toThrowableT (freshCell P1.m.cls kX) self u0 sen).withEntry U.cur) (fun _ hu => hu) (fun _ hu => hu) rfl rfl rfl (by simp [preparedCellV, Cell.setSlot, Cell.withEntry]) hskip (fun _ _ hA hW _ hroom _ hrest => L.nativeOff p htr hA hW hroom hrest) hselF hvSen htC htP htM hobjLocals Ps hL hlink (ig := .invokespecial P1.index) (len := 3) [] hlim1
    (by rw [hfI1]; simp only [List.length_cons]; omega)
    (by rw [hfI1, List.tail_cons, stackUse_java, stackUse_light _ _ (fun f hf => by cases hf) rfl]
        show (stackUse base).2 + (2 + 11 + 2 * 0 + operandWords []) + 13 * Ps.length + 42 ≤ lim.2
        simp only [operandWords, List.foldl_nil]
        omega)
    L1.at2
  refine ⟨vm2, hW2, fun target hrest => ?_⟩
  rw [(doInvoke_java (s := U.setFrames (.thenThrow self :: base)) (e := e) (acts := []) (args := #[.ref self, .ref str]) (meth := P1.meth) (code := P1.code) hmU L1.code L1.locks (by rw [L1.locals]; exact hroom)).1, L1.locals]
  show Steps p.tables e below ((U.setFrames (.thenThrow self :: base)).pushFrame (.java (passJ P1.m self (.ref str) 0 []))) target
  rw [← State.setTop_self (s := (U.setFrames (.thenThrow self :: base)).pushFrame (.java (passJ P1.m self (.ref str) 0 []))) (State.topJava?_of_frames hfI)]
  jvm_step hI [hexec, L1.at0, Value.isRef]
  jvm_step hI [hexec, L1.at1, Value.isRef]
  refine st1 target ?_
  rw [hlink1]
  refine st2 target ?_
  exact ov_ret (U := U.setVm vm2) (hO.vm vm2) hexec (F := fun u => u.setCell self (cF T P1.m.cls kX self U.cur u0 sen str)) (heapOnly_id.thenSetCell self _) self str (hW2.methodAt L1.method) L1.code (hW2.plainAt (U := U.setVm vm2) L1.plain) L1.locks L1.at5 hrest
set_option maxHeartbeats 1000000 in
theorem ov_throw {cls m : String} (hO : OvB S base below) (hexec : p.tables.exec = Jvm.exec) (htr : e.platform.stackTraces = false) (T : ThrowableC) (L : T.Links e.platform s₀) (Z : Init0T) (LZ : Z.LaidS T.toThrowableT) (M : MsgC) (LM : M.Links T e.platform s₀) (hW : s₀.WarmedH S.vm) (Zs : StringT) (LZs : Zs.Laid s₀.vm)
    {u0 sen : RefV} {kX : Class} {cellS : Cell} (P1 : PassC) (L1 : P1.LinksS e.platform s₀) (Ps : List PassC) (hL : ∀ P, P ∈ Ps → P.LinksS e.platform s₀) (hlink1 : P1.sup = firstOf (Z.m T.toThrowableT) (Ps.map (·.toPassT))) (hlink : PassesOn (Z.m T.toThrowableT) (Ps.map (·.toPassT)))
    (hsoe : (cls == "java/lang/StackOverflowError") = false) (hoom : (cls == "java/lang/OutOfMemoryError") = false) (hfound : s₀.vm.findClass cls = some P1.m.cls) (hk : s₀.vm.classes[P1.m.cls]? = some kX) (hinit : kX.init = .initialized) (hord : kX.kind = .ordinary)
    (hctor : kX.findMethod "<init>" "(Ljava/lang/String;)V" = some P1.m.idx) (hhot : e.platform.hotImplicitExceptions = false)
    (hbeyond : e.platform.stackBeyond ((((S.setFrames (.throwNew cls (some m) none :: base)).threads[S.cur]?).map (·.stackBytes)).getD 0) (S.setFrames (.throwNew cls (some m) none :: base)).frames = false)
    (hfreeW : e.platform.vmThrowRoom ≤ e.platform.stackFree ((((S.setFrames (.throwNew cls (some m) none :: base)).threads[S.cur]?).map (·.stackBytes)).getD 0) (S.setFrames (.throwNew cls (some m) none :: base)).frames)
    (hm : (m == notModelled) = false) (hlimit : ¬ (stringBytes (stringToUtf16 m)).size > e.platform.arrayLengthLimit) (hheap : ¬ (stringBytes (stringToUtf16 m)).size * componentBytes .byte > e.platform.maxHeapBytes)
    (hcells : S.heap.size + 3 ≤ e.platform.maxCells) (hslots : S.slotsUsed + (stringBytes (stringToUtf16 m)).size + Zs.kS.instanceTypes.size + kX.instanceTypes.size ≤ e.platform.maxSlots)
    (hfitv : s₀.fitsSlot Zs.cS .none Zs.fv.slot (.ref S.heap.size) = true) (hfitc : s₀.fitsSlot Zs.cS .none Zs.fc.slot (.int (stringCoder (stringToUtf16 m))) = true)
    (hsel0 : selectMethod e.platform s₀.vm P1.m.cls T.fill0 = .method T.fill0) (hselF : selectMethod e.platform s₀.vm P1.m.cls T.fill = .method T.fill)
    (hcellS : S.heap[T.aS]? = some cellS) (hknownS : cellS.vm ≠ .unknown) (hvU : cellS.slots[T.fUnassigned.slot]? = some u0.v) (hvSen : cellS.slots[T.fSentinel.slot]? = some sen.v)
    (htC : Takes s₀ (freshCell P1.m.cls kX) T.fCause (.ref (S.heap.size + 2))) (htS : Takes s₀ (freshCell P1.m.cls kX) T.fStack u0.v) (htP : Takes s₀ (freshCell P1.m.cls kX) T.fSupp sen.v) (htM : Takes s₀ (freshCell P1.m.cls kX) T.fMsg (.ref (S.heap.size + 1))) (hobjLocals : T.codeObj.maxLocals = 1)
    (hskip : SkipFacts T e.platform s₀ (fun u => u) u0 ((preparedCellV T.toThrowableT (freshCell P1.m.cls kX) (S.heap.size + 2) u0 sen).withEntry S.cur))
    {lim : Nat × Nat} (hlim : e.platform.stackLimits S.me = lim) (hframes : base.length + Ps.length + 4 < lim.1) (hwords : (stackUse base).2 + 13 * Ps.length + 55 ≤ lim.2) :
    ∃ vm', s₀.WarmedH vm' ∧ ∀ target, Steps p.tables e below ((((withThrown S Zs m P1.m.cls kX).setVm vm').setCell (S.heap.size + 2) (cF T P1.m.cls kX (S.heap.size + 2) S.cur u0 sen (S.heap.size + 1))).setFrames (.throwing (S.heap.size + 2) :: base)) target →
      Steps p.tables e below (S.setFrames (.throwNew cls (some m) none :: base)) target := by
  obtain ⟨kX', hk', he'⟩ := hW.alike.2.2 _ _ hk
  have hty : kX'.instanceTypes = kX.instanceTypes := by rw [he']
  have hfresh : freshCell P1.m.cls kX' = freshCell P1.m.cls kX := by
    show ({ cls := P1.m.cls, slots := kX'.instanceTypes.map defaultValue, vm := .none } : Cell) = _
    rw [hty]
  obtain ⟨kS', kB', LZ', htyS⟩ := LZs.warmer hW.alike
  have hsame : withThrown S { Zs with kS := kS', kB := kB' } m P1.m.cls kX' = withThrown S Zs m P1.m.cls kX := by
    rw [← withThrown_warmer S Zs (kB' := kB') htyS m P1.m.cls kX]
    show (withString S _ _ _ _ _ _).pushCell (freshCell P1.m.cls kX') = (withString S _ _ _ _ _ _).pushCell (freshCell P1.m.cls kX)
    rw [hfresh]
  have hfs : S.fitsSlot = s₀.fitsSlot := (show S.fitsSlot = (s₀.setVm S.vm).fitsSlot from rfl).trans (State.fitsSlot_setVm hW.alike)
  obtain ⟨w1, w2, -, w4, w5, -, w7⟩ := withThrown_facts e.platform S Zs m P1.m.cls kX
  have hltS : T.aS < S.heap.size := (Array.getElem?_eq_some_iff.mp hcellS).1
  have hWcur : (withThrown S Zs m P1.m.cls kX).cur = S.cur := by simp [withThrown, withString]
  have hOW : OvB (withThrown S Zs m P1.m.cls kX) base below := by
    obtain ⟨o1, o2, o3, o4, o5⟩ := hO
    exact ⟨o1, by simpa [withThrown, withString] using o2, by simpa [withThrown, withString] using o3, o4, o5⟩
  obtain ⟨vm', hW', st⟩ := ov_ctor (U := withThrown S Zs m P1.m.cls kX) (self := S.heap.size + 2) (str := S.heap.size + 1) hOW hexec htr T L Z LZ M LM (by rw [w1]; exact hW) P1 L1 Ps hL hlink1 hlink w4 hsel0 hselF ((w5 _ hltS).trans hcellS) (Nat.ne_of_lt (Nat.lt_of_lt_of_le hltS (Nat.le_add_right _ 2))) hknownS hvU hvSen htC htS htP htM hobjLocals (by rw [hWcur]; exact hskip) (lim := lim) (by rw [w7]; exact hlim) hframes hwords
  refine ⟨vm', hW', fun target hrest => ?_⟩
  have hrest2 := st target (by rw [hWcur]; exact hrest)
  rw [← hsame] at hrest2
  have hf0 : (S.setFrames (.throwNew cls (some m) none :: base)).frames = .throwNew cls (some m) none :: base := State.frames_setFrames _ hO.2.2.2.1
  obtain ⟨o1, o2, o3, o4, mid, hmid⟩ := hO
  refine Steps.head ⟨o1, by simpa using o2, by simpa using o3⟩ ⟨.throwNew cls (some m) none :: mid, by rw [hf0, hmid]; rfl, by simp, by simp⟩ ?_
  rw [stepThread_throwNew hf0, stepThrowNew_message (s := S.setFrames (.throwNew cls (some m) none :: base)) (c := P1.m.cls) (k := kX') (i := P1.m.idx) { Zs with kS := kS', kB := kB' } LZ' hsoe hoom (by show S.vm.findClass cls = _; rw [hW.alike.findClass]; exact hfound) hk' (by rw [he']; exact hinit) (by rw [he']; exact hord) hhot hbeyond hfreeW hm (by rw [he']; exact hctor) hlimit hheap hcells (by show S.slotsUsed + _ + kS'.instanceTypes.size + kX'.instanceTypes.size ≤ _; rw [htyS, hty]; exact hslots) (show S.fitsSlot Zs.cS .none Zs.fv.slot (.ref S.heap.size) = true by rw [hfs]; exact hfitv) (show S.fitsSlot Zs.cS .none Zs.fc.slot (.int (stringCoder (stringToUtf16 m))) = true by rw [hfs]; exact hfitc)]
  have hN : (withThrown (S.setFrames (.throwNew cls (some m) none :: base)) { Zs with kS := kS', kB := kB' } m P1.m.cls kX').setFrames (.thenThrow ((S.setFrames (.throwNew cls (some m) none :: base)).heap.size + 2) :: base) = (withThrown S { Zs with kS := kS', kB := kB' } m P1.m.cls kX').setFrames (.thenThrow (S.heap.size + 2) :: base) := by
    rw [withThrown_setFrames, State.setFrames_setFrames]
    rfl
  rw [hN]
  exact hrest2
end OV
section MSG
variable {p : Program} {l : Launch} {e : Env} {R : Room} {s : State} {m₀ : MethodId} {args : Array Value} {below : List Frame} {meth : Method} {c : Code} {T0 : State} {locs : List Loc} {cells slots : Nat}
set_option maxHeartbeats 1000000 in
theorem msg_prep (X : Stand p l e R s m₀ args below meth c T0 locs cells slots) {cls : String} {names : List String} (hcls : Bundle.fit cls = true) (hnames : ∀ n ∈ names, Bundle.fit n = true) (h : ∀ a ∈ Bundle.messageArmAtoms cls names, a.before args s = true)
    (hlocs : ∀ x ∈ locs, ∀ cell, s.heap[x.base]? = some cell → cell.vm.isStatics = false) :
    ∃ (T : ThrowableC) (Z : Init0T) (M : MsgC) (Zs : StringT) (P1 : PassC) (Ps : List PassC) (kX : Class) (u0 sen : RefV) (cellS : Cell), T.Links e.platform s ∧ Z.LaidS T.toThrowableT ∧ M.Links T e.platform s ∧ Zs.Laid s.vm ∧ P1.LinksS e.platform s ∧ (∀ P, P ∈ Ps → P.LinksS e.platform s) ∧
      P1.sup = firstOf (Z.m T.toThrowableT) (Ps.map (·.toPassT)) ∧ PassesOn (Z.m T.toThrowableT) (Ps.map (·.toPassT)) ∧ Ps.length = names.length ∧ s.vm.findClass cls = some P1.m.cls ∧ s.vm.classes[P1.m.cls]? = some kX ∧ kX.init = .initialized ∧ kX.kind = .ordinary ∧ kX.findMethod "<init>" "(Ljava/lang/String;)V" = some P1.m.idx ∧
      (∀ a, s.fitsSlot Zs.cS .none Zs.fv.slot (.ref a) = true) ∧ (∀ units, s.fitsSlot Zs.cS .none Zs.fc.slot (.int (stringCoder units)) = true) ∧ selectMethod e.platform s.vm P1.m.cls T.fill0 = .method T.fill0 ∧ selectMethod e.platform s.vm P1.m.cls T.fill = .method T.fill ∧
      T0.heap[T.aS]? = some cellS ∧ cellS.vm ≠ .unknown ∧ cellS.slots[T.fUnassigned.slot]? = some u0.v ∧ cellS.slots[T.fSentinel.slot]? = some sen.v ∧ Takes s (freshCell P1.m.cls kX) T.fCause (.ref (T0.heap.size + 2)) ∧ Takes s (freshCell P1.m.cls kX) T.fStack u0.v ∧ Takes s (freshCell P1.m.cls kX) T.fSupp sen.v ∧ Takes s (freshCell P1.m.cls kX) T.fMsg (.ref (T0.heap.size + 1)) ∧ T.codeObj.maxLocals = 1 ∧
      SkipFacts T e.platform s (fun u => u) u0 ((preparedCellV T.toThrowableT (freshCell P1.m.cls kX) (T0.heap.size + 2) u0 sen).withEntry T0.cur) ∧ Zs.kS.instanceTypes.size = 4 ∧ kX.instanceTypes.size = 6 := by
  have howns : e.platform.frameOwnsMonitors = true := by rw [X.admits.platform]
  have hfin : e.platform.finalization = false := by rw [X.admits.platform]
  have hpl : e.platform.magicAccessors = ({} : Platform).magicAccessors := by rw [X.admits.platform]
  have a : ∀ x, x ∈ Bundle.messageArmAtoms cls names → x.holds args s none s [] = true := fun x hx => h x hx
  obtain ⟨T, Z0, L, -, Y⟩ := ThrowableC.of_atoms (args := args) howns hfin hpl (fun x hx => h x (by simp [Bundle.messageArmAtoms, hx]))
  obtain ⟨Z, M, LZ, LM, hnZ⟩ := Init0T.ofS_atoms (args := args) hpl L Y (fun x hx => h x (by simp [Bundle.messageArmAtoms, hx]))
  obtain ⟨P1, Ps, hlen, L1, hL, hP1m, hlink1, hlink⟩ := Bundle.chainS (args := args) hpl hnZ names cls hcls hnames (fun x hx => h x (by simp [Bundle.messageArmAtoms, hx]))
  obtain ⟨Zs, LZs, hn4, hfitv, hfitc⟩ := StringT.of_atoms (args := args) (fun x hx => h x (by simp [Bundle.messageArmAtoms, hx]))
  have hfound : s.vm.findClass cls = some P1.m.cls := findClass_of_methodNamed hP1m
  obtain ⟨c1, kX, hc1, hk, hord, -, -, hn6⟩ := Cond.instantiable_spec (a (.instantiable cls 6) (by simp [Bundle.messageArmAtoms]))
  cases Option.some.inj (hc1.symm.trans hfound)
  have hinit := Cond.initialized_spec hfound hk (a (.initialized cls) (by simp [Bundle.messageArmAtoms]))
  have hctor : kX.findMethod "<init>" "(Ljava/lang/String;)V" = some P1.m.idx := findMethod_of_methodNamed hP1m hk
  have hsel0 : selectMethod e.platform s.vm P1.m.cls T.fill0 = .method T.fill0 := by
    obtain ⟨c2, r2, m2, q1, q2, q3, q4, -⟩ := Cond.selects_spec (a (.selects cls Bundle.tFill0 Bundle.tFill0) (by simp [Bundle.messageArmAtoms]))
    cases Option.some.inj (q1.symm.trans hfound)
    cases Option.some.inj (q2.symm.trans (State.methodFound?_of_named Y.fill0 (by decide)))
    cases Option.some.inj (q3.symm.trans Y.fill0)
    rw [Launch.admits_selectMethod X.admits]; exact q4
  have hselF : selectMethod e.platform s.vm P1.m.cls T.fill = .method T.fill := by
    obtain ⟨c2, r2, m2, q1, q2, q3, q4, -⟩ := Cond.selects_spec (a (.selects cls Bundle.tFill Bundle.tFill) (by simp [Bundle.messageArmAtoms]))
    cases Option.some.inj (q1.symm.trans hfound)
    cases Option.some.inj (q2.symm.trans (State.methodFound?_of_named Y.fill (by decide)))
    cases Option.some.inj (q3.symm.trans Y.fill)
    rw [Launch.admits_selectMethod X.admits]; exact q4
  obtain ⟨cellS0, hcS0, hiss⟩ := Y.statics
  obtain ⟨u0, hu0⟩ := Cond.staticRefV Y.unassigned L.unassignedStatic L.statics hcS0 hiss (a (.isRef (.static Bundle.tN "UNASSIGNED_STACK" Bundle.steD)) (by simp [Bundle.messageArmAtoms]))
  obtain ⟨sen, hsen⟩ := Cond.staticRefV Y.sentinel L.sentinelStatic L.statics hcS0 hiss (a (.isRef (.static Bundle.tN "SUPPRESSED_SENTINEL" Bundle.listD)) (by simp [Bundle.messageArmAtoms]))
  obtain ⟨ci198, i198, fB, hk198, hg198, ha198, hsB, -, hnB, htB, hffB⟩ := Cond.ownField (t := .object "java/lang/Object") Y.found L.cls (by decide +kernel) (a (.fieldLink Bundle.tN 198 Bundle.tN "backtrace" "Ljava/lang/Object;") (by simp [Bundle.messageArmAtoms])) (a (.lays Bundle.tN Bundle.tN "backtrace" "Ljava/lang/Object;") (by simp [Bundle.messageArmAtoms])) e.platform hpl
  obtain ⟨cellS, hcS', heS, -, hkeep⟩ := X.same.2.2.2.2.2 T.aS cellS0 hcS0
  have hcellS : T0.heap[T.aS]? = some cellS := hcS'
  have hout' : ∀ i, (⟨T.aS, i⟩ : Loc) ∉ locs := fun i hmem => by
    have := hlocs _ hmem cellS0 hcS0
    rw [hiss] at this; cases this
  have hknownS : cellS.vm ≠ .unknown := by
    rw [heS]; intro hu
    rw [show cellS0.vm = .unknown from hu] at hiss
    cases hiss
  obtain ⟨iM, hffM⟩ := Y.msg
  obtain ⟨tyC, dC, hdC, hdnC⟩ := Cond.laysAt hfound hk Y.cause (a (.lays cls Bundle.tN "cause" "Ljava/lang/Throwable;") (by simp [Bundle.messageArmAtoms]))
  obtain ⟨tyS, dS, hdS, hdnS⟩ := Cond.laysAt hfound hk Y.stack (a (.lays cls Bundle.tN "stackTrace" Bundle.steD) (by simp [Bundle.messageArmAtoms]))
  obtain ⟨tyP, dP, hdP, hdnP⟩ := Cond.laysAt hfound hk Y.supp (a (.lays cls Bundle.tN "suppressedExceptions" Bundle.listD) (by simp [Bundle.messageArmAtoms]))
  obtain ⟨tyM, dM, hdM, hdnM⟩ := Cond.laysAt hfound hk hffM (a (.lays cls Bundle.tN "detailMessage" "Ljava/lang/String;") (by simp [Bundle.messageArmAtoms]))
  obtain ⟨tyB, dB, hdB, hdnB⟩ := Cond.laysAt hfound hk hffB (a (.lays cls Bundle.tN "backtrace" "Ljava/lang/Object;") (by simp [Bundle.messageArmAtoms]))
  have bC := Cond.laysApart hdB hdC hdnB hdnC (by rw [hnB, Y.causeName]; decide)
  have bS := Cond.laysApart hdB hdS hdnB hdnS (by rw [hnB, Y.stackName]; decide)
  have bP := Cond.laysApart hdB hdP hdnB hdnP (by rw [hnB, Y.suppName]; decide)
  have hbk : ((preparedCellV T.toThrowableT (freshCell P1.m.cls kX) (T0.heap.size + 2) u0 sen).withEntry T0.cur).slots[fB.slot]? = some .null := by
    have := fresh_default (c := P1.m.cls) tyB
    rw [htB] at this
    simpa [preparedCellV, Cell.setSlot, Cell.withEntry, Array.getElem?_setIfInBounds, bC, bS, bP, bC.symm, bS.symm, bP.symm, defaultValue] using this
  exact ⟨T, Z, M, Zs, P1, Ps, kX, u0, sen, cellS, L, LZ, LM, LZs, L1, hL, hlink1, hlink, hlen, hfound, hk, hinit, hord, hctor, hfitv, hfitc, hsel0, hselF, hcellS, hknownS, by rw [hkeep _ (hout' _)]; exact hu0, by rw [hkeep _ (hout' _)]; exact hsen,
    Takes.of_laid hk hord tyC (by rw [Y.causeType]; rfl), Takes.of_laid hk hord tyS (by rw [Y.stackType]; exact fits_refV_array _ u0), Takes.of_laid hk hord tyP (by rw [Y.suppType]; exact fits_refV_object _ sen), Takes.of_laid hk hord tyM (by rw [Y.msgType]; rfl), Y.objLocals, ⟨{ ci198 := ci198, i198 := i198, fBack := fB }, ⟨hk198, hg198, ha198, hsB⟩, hbk, fun _ _ => rfl⟩, hn4, hn6⟩
abbrev tB (text : String) : Nat := (stringBytes (stringToUtf16 text)).size
/-- what a machine's exception leaves -/
def MsgU (s : State) (T0 U : State) (L : List Loc) (cls : String) : Prop := (∀ y ∈ L, y.base = T0.heap.size + 2) ∧ (∀ a0, a0 < T0.heap.size → U.heap[a0]? = T0.heap[a0]?) ∧ T0.heap.size ≤ U.heap.size ∧ ∃ (cX : ClassId) (ce : Cell), s.vm.findClass cls = some cX ∧ U.heap[T0.heap.size + 2]? = some ce ∧ ce.cls = cX ∧ ce.vm = .none
set_option maxHeartbeats 1000000 in
/-- the throw, over any frames that leave room -/
theorem msg_any (X : Stand p l e R s m₀ args below meth c T0 locs cells slots) (hexec : p.tables.exec = Jvm.exec) (htr : e.platform.stackTraces = false) {cls : String} {names : List String} {text : String}
    (hcls : Bundle.fit cls = true) (hnames : ∀ n ∈ names, Bundle.fit n = true) (hsoe : (cls == "java/lang/StackOverflowError") = false) (hoom : (cls == "java/lang/OutOfMemoryError") = false)
    (h : ∀ a ∈ Bundle.messageArmAtoms cls names, a.before args s = true) (hlocs : ∀ x ∈ locs, ∀ cell, s.heap[x.base]? = some cell → cell.vm.isStatics = false)
    (htext : (text == notModelled) = false) (hlimit : ¬ tB text > e.platform.arrayLengthLimit) (hheap : ¬ tB text * componentBytes .byte > e.platform.maxHeapBytes)
    {base : List Frame} (hO : OvB T0 base below)
    (hbeyond : e.platform.stackBeyond ((((T0.setFrames (.throwNew cls (some text) none :: base)).threads[T0.cur]?).map (·.stackBytes)).getD 0) (T0.setFrames (.throwNew cls (some text) none :: base)).frames = false)
    (hfreeW : e.platform.vmThrowRoom ≤ e.platform.stackFree ((((T0.setFrames (.throwNew cls (some text) none :: base)).threads[T0.cur]?).map (·.stackBytes)).getD 0) (T0.setFrames (.throwNew cls (some text) none :: base)).frames)
    (hframes : base.length + names.length + 4 < (e.platform.stackLimits T0.me).1) (hwords : (stackUse base).2 + 13 * names.length + 55 ≤ (e.platform.stackLimits T0.me).2)
    (hRcells : cells + 3 ≤ R.cells) (hRslots : slots + (tB text + 4 + 6) ≤ R.slots) :
    ∃ (U : State) (L : List Loc), Stand p l e R s m₀ args below meth c U (locs ++ L) (cells + 3) (slots + (tB text + 4 + 6)) ∧ MsgU s T0 U L cls ∧
      Steps p.tables e below (T0.setFrames (.throwNew cls (some text) none :: base)) (U.setFrames (.throwing (T0.heap.size + 2) :: base)) := by
  obtain ⟨T, Z, M, Zs, P1, Ps, kX, u0, sen, cellS, L, LZ, LM, LZs, L1, hL, hlink1, hlink, hlen, hfound, hk, hinit, hord, hctor, hfitv, hfitc, hsel0, hselF, hcellS, hknownS, hvU, hvSen, tkC, tkS, tkP, tkM, hobj, hskip, hn4, hn6⟩ := msg_prep X hcls hnames h hlocs
  have hslots : T0.slotsUsed + (stringBytes (stringToUtf16 text)).size + Zs.kS.instanceTypes.size + kX.instanceTypes.size ≤ e.platform.maxSlots := by have := X.slotsAbove hRslots; rw [hn4, hn6]; show T0.slotsUsed + tB text + 4 + 6 ≤ _; omega
  obtain ⟨vm', hW', st⟩ := ov_throw (m := text) hO hexec htr T L Z LZ M LM X.warmed Zs LZs P1 L1 Ps hL hlink1 hlink hsoe hoom hfound hk hinit hord hctor (Launch.admits_hotImplicitExceptions X.admits) hbeyond hfreeW htext hlimit hheap (X.cellsAbove hRcells) hslots (hfitv _) (hfitc _) hsel0 hselF hcellS hknownS hvU hvSen tkC tkS tkP tkM hobj hskip rfl (by rw [hlen]; exact hframes) (by rw [hlen]; exact hwords)
  have ec : cF T P1.m.cls kX (T0.heap.size + 2) T0.cur u0 sen (T0.heap.size + 1) = plainBareV T.toThrowableT (freshCell P1.m.cls kX) (T0.heap.size + 2) u0 sen (.ref (T0.heap.size + 1)) := plainBareV_eq T.toThrowableT (T0.heap.size + 2) u0 sen (.ref (T0.heap.size + 1)) T0.cur rfl rfl
  rw [ec] at st
  obtain ⟨-, -, w3, w4, w5, -, -⟩ := withThrown_facts e.platform T0 Zs text P1.m.cls kX
  have X3 := ((X.pushed (bytesOf Zs.cB (stringToUtf16 text))).pushed (stringAt Zs.cS Zs.kS Zs.fv Zs.fc (stringToUtf16 text) T0.heap.size)).pushed (freshCell P1.m.cls kX)
  rw [← withString_eq] at X3
  have X4 := X3.noted hW'
  have ha : (T0.heap.size + 2) < ((withThrown T0 Zs text P1.m.cls kX).setVm vm').heap.size := by show _ < (withThrown T0 Zs text P1.m.cls kX).heap.size; rw [w3]; omega
  have hcell : ((withThrown T0 Zs text P1.m.cls kX).setVm vm').heap[(T0.heap.size + 2)]? = some (freshCell P1.m.cls kX) := w4
  have X5 := ((((X4.stored hcell T.fCause.slot (.ref (T0.heap.size + 2))).storedAgain ha T.fStack.slot u0.v).storedAgain ha T.fSupp.slot sen.v).storedAgain ha T.fStack.slot u0.v).storedAgain ha T.fMsg.slot (.ref (T0.heap.size + 1))
  simp only [List.append_assoc, List.cons_append, List.nil_append] at X5
  have b1 : (bytesOf Zs.cB (stringToUtf16 text)).slots.size = tB text := by
    rw [(Cell.writeAll_facts _ _).2.2]; simp [bytes0]
  have b2 : (stringAt Zs.cS Zs.kS Zs.fv Zs.fc (stringToUtf16 text) T0.heap.size).slots.size = 4 := by simp [string0, Cell.setSlot, hn4]
  have b3 : (freshCell P1.m.cls kX).slots.size = 6 := by simp [hn6]
  rw [b1, b2, b3, show slots + tB text + 4 + 6 = slots + (tB text + 4 + 6) by omega] at X5
  refine ⟨_, _, X5, ⟨fun y hy => ?_, fun a0 h0 => ?_, ?_, P1.m.cls, _, hfound, heapAt_setCell_self _ ha, rfl, rfl⟩, st _ (Steps.refl _)⟩
  · simp only [List.mem_cons, List.not_mem_nil, or_false] at hy
    rcases hy with rfl | rfl | rfl | rfl | rfl <;> rfl
  · rw [State.heap_setCell_other (by omega : T0.heap.size + 2 ≠ a0)]
    exact w5 a0 h0
  · rw [size_setCell]
    exact Nat.le_of_lt (Nat.lt_of_le_of_lt (Nat.le_add_right _ 2) ha)
theorem msg_java (X : Stand p l e R s m₀ args below meth c T0 locs cells slots) (hexec : p.tables.exec = Jvm.exec) (htr : e.platform.stackTraces = false) {cls : String} {names : List String} {text : String}
    (hcls : Bundle.fit cls = true) (hnames : ∀ n ∈ names, Bundle.fit n = true) (hsoe : (cls == "java/lang/StackOverflowError") = false) (hoom : (cls == "java/lang/OutOfMemoryError") = false)
    (h : ∀ a ∈ Bundle.messageArmAtoms cls names, a.before args s = true) (hlocs : ∀ x ∈ locs, ∀ cell, s.heap[x.base]? = some cell → cell.vm.isStatics = false)
    (htext : (text == notModelled) = false) (hlimit : ¬ tB text > e.platform.arrayLengthLimit) (hheap : ¬ tB text * componentBytes .byte > e.platform.maxHeapBytes)
    {g : JFrame} (hg : g.method = m₀) (hsize : g.locals.size = c.maxLocals) (hRframes : names.length + 4 < R.frames) (hRlocals : 2 * g.monitorRoom + (g.stack.map fun v => v.category).sum + 10240 ≤ R.locals) (hshort : 13 * names.length + 55 ≤ 10240)
    (hRcells : cells + 3 ≤ R.cells) (hRslots : slots + (tB text + 4 + 6) ≤ R.slots) :
    ∃ (U : State) (L : List Loc), Stand p l e R s m₀ args below meth c U (locs ++ L) (cells + 3) (slots + (tB text + 4 + 6)) ∧ MsgU s T0 U L cls ∧
      Steps p.tables e below ((T0.setTop g).pushFrame (.throwNew cls (some text) none)) (U.setFrames (.throwing (T0.heap.size + 2) :: .java g :: below)) := by
  obtain ⟨g0, hfr⟩ := X.frames_eq
  have hcur : T0.cur < T0.threads.size := State.cur_lt_of_frames hfr
  have hU : (T0.setTop g).pushFrame (.throwNew cls (some text) none) = T0.setFrames (.throwNew cls (some text) none :: .java g :: below) := by
    rw [State.pushFrame, State.frames_setTop _ hfr, State.setTop_of_frames _ hfr, State.setFrames_setFrames]
  obtain ⟨hbeyond, hfreeW⟩ := X.vmMayThrow hsize (.throwNew cls (some text) none) (fun f hf => by cases hf) rfl hRlocals
  rw [hU] at hbeyond hfreeW ⊢
  refine msg_any X hexec htr hcls hnames hsoe hoom h hlocs htext hlimit hheap ⟨X.here.running, X.here.runnable, X.here.alone, hcur, ⟨[.java g], rfl⟩⟩ hbeyond hfreeW ?_ ?_ hRcells hRslots
  · have := X.framesAbove hRframes
    rw [hfr] at this
    simp only [List.length_cons] at this ⊢
    omega
  · have := X.stackAbove hsize (K := 13 * names.length + 55) (by omega)
    rw [X.tail] at this
    omega
theorem msg_nat (X : Stand p l e R s m₀ args below meth c T0 locs cells slots) (hexec : p.tables.exec = Jvm.exec) (htr : e.platform.stackTraces = false) {cls : String} {names : List String} {text : String}
    (hcls : Bundle.fit cls = true) (hnames : ∀ n ∈ names, Bundle.fit n = true) (hsoe : (cls == "java/lang/StackOverflowError") = false) (hoom : (cls == "java/lang/OutOfMemoryError") = false)
    (h : ∀ a ∈ Bundle.messageArmAtoms cls names, a.before args s = true) (hlocs : ∀ x ∈ locs, ∀ cell, s.heap[x.base]? = some cell → cell.vm.isStatics = false)
    (htext : (text == notModelled) = false) (hlimit : ¬ tB text > e.platform.arrayLengthLimit) (hheap : ¬ tB text * componentBytes .byte > e.platform.maxHeapBytes)
    {g : JFrame} (hsize : g.locals.size = c.maxLocals) {nf : NFrame} (hnf : nf.words = 0) (hRframes : names.length + 5 < R.frames) (hRlocals : 2 * g.monitorRoom + (g.stack.map fun v => v.category).sum + 10240 ≤ R.locals) (hshort : 13 * names.length + 55 ≤ 10240)
    (hRcells : cells + 3 ≤ R.cells) (hRslots : slots + (tB text + 4 + 6) ≤ R.slots) :
    ∃ (U : State) (L : List Loc), Stand p l e R s m₀ args below meth c U (locs ++ L) (cells + 3) (slots + (tB text + 4 + 6)) ∧ MsgU s T0 U L cls ∧
      Steps p.tables e below (T0.setFrames (.throwNew cls (some text) none :: .native nf :: .java g :: below)) (U.setFrames (.throwing (T0.heap.size + 2) :: .native nf :: .java g :: below)) := by
  obtain ⟨g0, hfr⟩ := X.frames_eq
  have hcur : T0.cur < T0.threads.size := State.cur_lt_of_frames hfr
  have hA := X.stackAbove hsize hRlocals
  rw [X.tail] at hA
  have hN : (stackUse (.native nf :: .java g :: below)).2 = (stackUse (.java g :: below)).2 := by rw [stackUse_light (.native nf) _ (fun f hf => by cases hf) hnf]
  have hb : ((((T0.setFrames (.throwNew cls (some text) none :: .native nf :: .java g :: below)).threads[T0.cur]?).map (·.stackBytes)).getD 0) = T0.me.stackBytes := by
    rw [← State.stackBytes_setFrames T0 (.throwNew cls (some text) none :: .native nf :: .java g :: below)]
    exact State.stackBytes_me (T0.setFrames (.throwNew cls (some text) none :: .native nf :: .java g :: below))
  have hlim : (e.platform.stackLimits T0.me).2 = (e.platform.limitsFor T0.me.stackBytes).2 := rfl
  refine msg_any X hexec htr hcls hnames hsoe hoom h hlocs htext hlimit hheap ⟨X.here.running, X.here.runnable, X.here.alone, hcur, ⟨[.native nf, .java g], rfl⟩⟩ ?_ ?_ ?_ ?_ hRcells hRslots
  · rw [hb, State.frames_setFrames _ hcur]
    unfold Platform.stackBeyond
    rw [stackUse_light _ _ (fun f hf => by cases hf) rfl]
    exact decide_eq_false (by omega)
  · rw [hb, State.frames_setFrames _ hcur, Launch.admits_vmThrowRoom X.admits]
    unfold Platform.stackFree
    rw [stackUse_light _ _ (fun f hf => by cases hf) rfl]
    omega
  · have := X.framesAbove hRframes
    rw [hfr] at this
    simp only [List.length_cons] at this ⊢
    omega
  · omega
end MSG
