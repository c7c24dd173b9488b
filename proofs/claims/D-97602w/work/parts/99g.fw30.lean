/-! FRAMEWORK 30: System.arraycopy out of bounds; rows copied -/
set_option maxRecDepth 100000
abbrev arrN (n : Nat) : String := toString (Native.java_lang_System.arraycopy.kindName .int) ++ toString "[" ++ toString n ++ toString "]"
/-- what is wrong with the three ints, between arrays of ints -/
def cpBad (n0 n1 : Nat) (sp dp k : Int32) : Option String :=
  if sp < 0 then some (toString "source index " ++ toString sp ++ toString " out of bounds for " ++ toString (arrN n0))
  else if dp < 0 then some (toString "destination index " ++ toString dp ++ toString " out of bounds for " ++ toString (arrN n1))
  else if k < 0 then some (toString "length " ++ toString k ++ toString " is negative")
  else if sp.toInt + k.toInt > n0 then some (toString "last source index " ++ toString (sp.toInt + k.toInt) ++ toString " out of bounds for " ++ toString (arrN n0))
  else if dp.toInt + k.toInt > n1 then some (toString "last destination index " ++ toString (dp.toInt + k.toInt) ++ toString " out of bounds for " ++ toString (arrN n1))
  else none
theorem nn32 {z : Int32} (hz : ¬ z < 0) : z.toInt = (z.toNatClampNeg : Int) := by
  have hz0 : (0 : Int) ≤ z.toInt := by
    have := Int32.not_lt.mp hz
    simpa using Int32.le_iff_toInt_le.mp this
  show z.toInt = ((z.toInt.toNat : Nat) : Int)
  omega
theorem cpBad_some {f g : Nat → Int32} {n0 n1 : Nat} {sp dp k : Int32} (h : cpO f g n0 n1 sp dp k = none) : ∃ what, cpBad n0 n1 sp dp k = some what := by
  unfold cpO at h
  unfold cpBad
  by_cases c1 : sp < 0
  · rw [if_pos c1]; exact ⟨_, rfl⟩
  rw [if_neg c1]
  by_cases c2 : dp < 0
  · rw [if_pos c2]; exact ⟨_, rfl⟩
  rw [if_neg c2]
  by_cases c3 : k < 0
  · rw [if_pos c3]; exact ⟨_, rfl⟩
  rw [if_neg c3, nn32 c1, nn32 c2, nn32 c3]
  by_cases c4 : (sp.toNatClampNeg : Int) + (k.toNatClampNeg : Int) > (n0 : Int)
  · rw [if_pos c4]; exact ⟨_, rfl⟩
  rw [if_neg c4]
  by_cases c5 : (dp.toNatClampNeg : Int) + (k.toNatClampNeg : Int) > (n1 : Int)
  · rw [if_pos c5]; exact ⟨_, rfl⟩
  exfalso
  rw [if_neg] at h
  · cases h
  · rintro (z | z | z | z | z)
    · exact c1 z
    · exact c2 z
    · exact c3 z
    · omega
    · omega
theorem int_print {i : Int} (h0 : 0 ≤ i) (h : i < 10 ^ 10) : (toString i).toList.length ≤ 10 := by
  obtain ⟨m, rfl⟩ := Int.eq_ofNat_of_zero_le h0
  have := nat_print (n := m) (by omega)
  show (toString m).toList.length ≤ 10
  exact this
theorem arr_print {n : Nat} (h : n ≤ 40) : (toString (arrN n)).toList.length ≤ 20 := by
  show (toString (Native.java_lang_System.arraycopy.kindName .int) ++ toString "[" ++ toString n ++ toString "]").toList.length ≤ 20
  simp only [String.toList_append, List.length_append]
  have a1 : (toString (Native.java_lang_System.arraycopy.kindName .int)).toList.length = 3 := by decide
  have a2 : (toString "[").toList.length = 1 := by decide
  have a3 : (toString "]").toList.length = 1 := by decide
  have a4 := nat_print (n := n) (by omega)
  omega
theorem cpBad_len {n0 n1 : Nat} {sp dp k : Int32} {what : String} (h0 : n0 ≤ 40) (h1 : n1 ≤ 40) (h : cpBad n0 n1 sp dp k = some what) : what.toList.length ≤ 80 := by
  have b0 := arr_print h0
  have b1 := arr_print h1
  have c0 := int32_print sp
  have c1 := int32_print dp
  have c2 := int32_print k
  have l1 := Int32.toInt_lt sp
  have l2 := Int32.toInt_lt dp
  have l3 := Int32.toInt_lt k
  have a0 : (toString " out of bounds for ").toList.length = 19 := by decide
  have a1 : (toString "source index ").toList.length = 13 := by decide
  have a2 : (toString "destination index ").toList.length = 18 := by decide
  have a3 : (toString "length ").toList.length = 7 := by decide
  have a4 : (toString " is negative").toList.length = 12 := by decide
  have a5 : (toString "last source index ").toList.length = 18 := by decide
  have a6 : (toString "last destination index ").toList.length = 23 := by decide
  unfold cpBad at h
  by_cases d1 : sp < 0
  · rw [if_pos d1] at h
    rw [← Option.some.inj h]
    show (toString "source index " ++ toString sp ++ toString " out of bounds for " ++ toString (arrN n0)).toList.length ≤ 80
    simp only [String.toList_append, List.length_append]
    omega
  rw [if_neg d1] at h
  by_cases d2 : dp < 0
  · rw [if_pos d2] at h
    rw [← Option.some.inj h]
    show (toString "destination index " ++ toString dp ++ toString " out of bounds for " ++ toString (arrN n1)).toList.length ≤ 80
    simp only [String.toList_append, List.length_append]
    omega
  rw [if_neg d2] at h
  by_cases d3 : k < 0
  · rw [if_pos d3] at h
    rw [← Option.some.inj h]
    show (toString "length " ++ toString k ++ toString " is negative").toList.length ≤ 80
    simp only [String.toList_append, List.length_append]
    omega
  rw [if_neg d3] at h
  have e1 := nn32 d1
  have e2 := nn32 d2
  have e3 := nn32 d3
  by_cases d4 : sp.toInt + k.toInt > n0
  · rw [if_pos d4] at h
    rw [← Option.some.inj h]
    have := int_print (i := sp.toInt + k.toInt) (by omega) (by omega)
    show (toString "last source index " ++ toString (sp.toInt + k.toInt) ++ toString " out of bounds for " ++ toString (arrN n0)).toList.length ≤ 80
    simp only [String.toList_append, List.length_append]
    omega
  rw [if_neg d4] at h
  by_cases d5 : dp.toInt + k.toInt > n1
  · rw [if_pos d5] at h
    rw [← Option.some.inj h]
    have := int_print (i := dp.toInt + k.toInt) (by omega) (by omega)
    show (toString "last destination index " ++ toString (dp.toInt + k.toInt) ++ toString " out of bounds for " ++ toString (arrN n1)).toList.length ≤ 80
    simp only [String.toList_append, List.length_append]
    omega
  rw [if_neg d5] at h
  cases h
theorem cp_text {what : String} (h : what.toList.length ≤ 80) : (("arraycopy: " ++ what) == notModelled) = false ∧ tB ("arraycopy: " ++ what) ≤ 960 := by
  constructor
  · rw [beq_eq_false_iff_ne]
    intro hh
    have h2 := congrArg String.toList hh
    have h4 : notModelled.toList = '\u0000' :: " a message that is not modelled".toList := by decide
    have h5 : ("arraycopy: ").toList = 'a' :: "rraycopy: ".toList := by decide
    rw [h4] at h2
    simp only [String.toList_append, h5] at h2
    simp at h2
  · refine Nat.le_trans (tB_le _) ?_
    simp only [String.toList_append, List.length_append]
    have a1 : ("arraycopy: ").toList.length = 11 := by decide
    omega
theorem cp_wp {E : CtlPost} {Q : Option Value → Pre} {e : Env} {d : Bool} {acts : List Action} {s : State} {src dst : Addr} {sp dp k : Int32} {cs cd : Cell} {ks kd : Class} {sComp dComp : ClassId} {what : String}
    (hs : s.heap[src]? = some cs) (hd : s.heap[dst]? = some cd) (hsobj : ∀ k, cs.vm ≠ .statics k) (hdobj : ∀ k, cd.vm ≠ .statics k) (hks : s.vm.classes[cs.cls]? = some ks) (hkd : s.vm.classes[cd.cls]? = some kd) (hsk : ks.kind = .array sComp .int) (hdk : kd.kind = .array dComp .int)
    (hf : cpBad cs.slots.size cd.slots.size sp dp k = some what) (hE : E (.throwNew "java/lang/ArrayIndexOutOfBoundsException" (some ("arraycopy: " ++ what))) acts s) : wp (Native.java_lang_System.arraycopy.sem #[.ref src, .int sp, .ref dst, .int dp, .int k]) Q E e d acts s := by
  rw [Native.java_lang_System.arraycopy.sem_refs]
  unfold Native.java_lang_System.arraycopy.behind
  simp only [wp_bind', W.classOf, W.theClass, hs, hd, hks, hkd, Option.some.injEq, exists_eq_left', hsk, hdk]
  refine ⟨hsobj, hdobj, ?_⟩
  rw [if_neg (by decide)]
  simp only [wp_bind', W.sizeOf, hs, hd, Option.some.injEq, exists_eq_left']
  unfold cpBad at hf
  rw [hf]
  simp only [wp_bind', W.mark, W.throwNew]
  exact hE
/-- a native that throws with a note, from the call -/
theorem nat_note {tb : Tables} {e : Env} {below : List Frame} {s target : State} {g : JFrame} {c : Code} (h : At s g.method c below) {m : MethodId} {meth : Method} {k : Class} {row : NativeRow} {args : Array Value} (acts : List Action)
    (hk : s.vm.classes[m.cls]? = some k) (hx : k.methods[m.idx]? = some meth) (hboot : k.loader = none) (hnat : meth.isNative = true) (hc : meth.code = none) (hl : meth.locks = false) (hrow : NativeRow.find? tb.natives k.name meth.name meth.desc = some row)
    (hroom : e.platform.stackFull (((s.setTop g).threads[(s.setTop g).cur]?).getD { frames := [] }) (s.setTop g).frames (nativeFrameWords k.name meth.name (operandWords args.toList)) = false) (hseen : seenByNative meth args = args) {cls : String} {msg : Option String}
    (hw : ∀ E : CtlPost, (∀ acts', E (.throwNew cls msg) acts' ((s.setTop g).pushFrame (.native { method := m, args := args, locked := none }))) → wp (row.sem args) (fun _ _ _ _ => False) E e false [] ((s.setTop g).pushFrame (.native { method := m, args := args, locked := none })))
    (hrest : Steps tb e below (((s.setTop g).pushFrame (.native { method := m, args := args, locked := none })).pushFrame (.throwNew cls msg none)) target) : Steps tb e below (doInvoke e (s.setTop g) acts m args).1 target := by
  have hm : (s.setTop g).vm.method? m = some meth := by
    show s.vm.method? m = some meth
    simp [Vm.method?, hk, hx]
  have hroom' : e.platform.stackFull (((s.setTop g).threads[(s.setTop g).cur]?).getD { frames := [] }) (s.setTop g).frames (nativeFrameWords ((((s.setTop g).vm.classes[m.cls]?).map (·.name)).getD "") meth.name (operandWords args.toList)) = false := by
    have : (((s.setTop g).vm.classes[m.cls]?).map (·.name)).getD "" = k.name := by
      show ((s.vm.classes[m.cls]?).map (·.name)).getD "" = k.name
      simp [hk]
    rw [this]; exact hroom
  rw [(Fast.doInvoke_native (s := s.setTop g) (e := e) (acts := acts) (args := args) hm hnat hc hl hroom').1, hseen]
  have hfe := frames_entered (g := g) h.top (.native { method := m, args := args, locked := none })
  obtain ⟨mid, hmid⟩ := h.above
  refine Steps.head ⟨h.running, by simpa using h.runnable, by simpa using h.alone⟩ ⟨.native { method := m, args := args, locked := none } :: .java g :: mid, by rw [hfe, hmid]; rfl, by simp, by simp⟩ ?_
  rw [stepThread_native (f := { method := m, args := args, locked := none }) (k := k) (x := meth) (row := row) hfe hk hx hboot hrow rfl]
  have hw1 : wpRun (row.sem args) (fun _ _ _ => False) (fun x s₁ _ => x = .throwNew cls msg ∧ s₁ = (s.setTop g).pushFrame (.native { method := m, args := args, locked := none })) e ((s.setTop g).pushFrame (.native { method := m, args := args, locked := none })) := hw _ (fun _ => ⟨rfl, rfl⟩)
  have hw2 := (wpRun_iff_run _ _ _ _ _).mp hw1
  cases hr : (row.sem args).run e ((s.setTop g).pushFrame (.native { method := m, args := args, locked := none })) with
  | ok v s₁ acts₁ => rw [hr] at hw2; exact hw2.elim
  | ctl x s₁ acts₁ =>
    rw [hr] at hw2
    cases x <;> first
      | exact hw2.elim
      | (obtain ⟨h1, h2⟩ := hw2; cases h1; subst h2; exact hrest)
      | (obtain ⟨h1, -⟩ := hw2; cases h1)
/-- what is thrown leaves a native -/
theorem nat_leave {tb : Tables} {e : Env} {below : List Frame} {u target : State} {a : Addr} {f : NFrame} {r : List Frame} (hgo : u.goesOn) (hcur : u.cur < u.threads.size) (hr : ∃ mid, r = mid ++ below) (haw : f.awaiting = false) (hl : f.locked = none) (hrest : Steps tb e below (u.setFrames (.throwing a :: r)) target) : Steps tb e below (u.setFrames (.throwing a :: .native f :: r)) target := by
  obtain ⟨mid, hmid⟩ := hr
  have hf : (u.setFrames (.throwing a :: .native f :: r)).frames = .throwing a :: .native f :: r := State.frames_setFrames _ hcur
  refine Steps.head ⟨hgo.1, by simpa using hgo.2.1, by simpa using hgo.2.2⟩ ⟨.throwing a :: .native f :: mid, by rw [hf, hmid]; rfl, by simp, by simp⟩ ?_
  have e1 : (stepThread tb e (u.setFrames (.throwing a :: .native f :: r))).1 = (u.setFrames (.throwing a :: .native f :: r)).setFrames (.throwing a :: r) := by
    unfold stepThread
    simp only [hf]
    unfold stepThrowing
    simp only [haw, Bool.false_eq_true, if_false, hl]
    unfold vmDo
    generalize hr : Sem.go _ e false _ (u.setFrames (.throwing a :: .native f :: r)) = res
    obtain ⟨as, rfl, -⟩ := Sem.eq_ok_of hr (a := true) (s' := u.setFrames (.throwing a :: .native f :: r)) (acts' := []) (by simp [leaveIfLocked, unmarked, Action.isMark])
    rfl
  rw [e1, State.setFrames_setFrames]
  exact hrest
section CP
variable {p : Program} {l : Launch} {e : Env} {R0 : Room} {s : State} {m : MethodId} {args : Array Value} {below : List Frame} {meth : Method} {c : Code} {H : Heap} {locs : List Loc} {cells slots : Nat} {Q : State → Prop}
variable {cc : ByteArray} {pc nL : Nat} {ls : Array Slot} {rest st0 : List Value} {D : dd_} {s0 : State} {ad : Nat → Nat} {I : Nat → Int32} {A : Nat → Nat → Int32} {R : Nat → Option Nat} {G : Nat → Nat → Option Nat} {X : va_W} {base : Nat}
variable {own : Nat → Nat} {af : Nat → Nat → Nat} {ra : Nat → Nat × Nat} {ta : Nat × Nat} {P : Nat → Option Par} {N : Nat → Option Rw_} {T : Int32 × (Nat → Int32)} {q5 : Nat × Nat × (Nat → Nat)} {Y : va_W}
set_option maxHeartbeats 1000000 in
theorem run_copyT {r1 r2 : Option Nat} {de : Nat} {on : String} {index a b n0 n1 : Nat} {f g : Nat → Int32} {sp dp k : Int32} (hexec : p.tables.exec = Jvm.exec) (hb : c.code = cc) (hml : c.maxLocals = nL) (htr : l.stackTraces = false) (hAI : ∀ a ∈ Bundle.messageArmAtoms aiN aiUp, va_Nw a s0) (hz : FZ base s0 r1 r2 de) (hY : s0.WarmedH s.vm) (hq0 : ∀ q : Nat, q < base → s.heap[q]? = s0.heap[q]?) (hB : base ≤ H.size) (hown : s.vm.findClass on = some m.cls) (hlink : (Cond.methodLink on index arraycopyName).before args s = true) (hnat : (Cond.native arraycopyName).before args s = true) (hstat : (Cond.static arraycopyName).before args s = true) (hini : (Cond.initialized "java/lang/System").before args s = true) (hK : Kx D s) (hW : WX D xS ad I A R G X H)
    (ha : (a, Sum.inl (D.2 .int, n0, Sum.inl f)) ∈ X) (hb2 : (b, Sum.inl (D.2 .int, n1, Sum.inl g)) ∈ X) (h0 : n0 ≤ 40) (h1 : n1 ≤ 40) (hv : cpO f g n0 n1 sp dp k = none) (hsize : ls.size = nL) (hst : (rest.map fun v => v.category).sum ≤ 8) (hRf : 8 < R0.frames) (hRl : 10248 ≤ R0.locals) (hRc : cells + 3 ≤ R0.cells) (hRs : slots + 1000 ≤ R0.slots) (hdg : decode cc pc = .ok (.invokestatic index, 3)) :
    RunT p l e R0 s m args below meth c H [] cells slots 3 1000 (F0 m pc ls (.int k :: .int dp :: .ref b :: .int sp :: .ref a :: rest)) rest (QtM aiN s) (upB base) := by
  intro T hT X0
  obtain ⟨what, hwt⟩ := cpBad_some hv
  obtain ⟨t1, t2⟩ := cp_text (cpBad_len h0 h1 hwt)
  obtain ⟨q0, z0⟩ := List.getElem?_of_mem (List.mem_append_right (wl D xS ad I A R G) ha)
  obtain ⟨q1, z1⟩ := List.getElem?_of_mem (List.mem_append_right (wl D xS ad I A R G) hb2)
  obtain ⟨t0, ht⟩ := Kx.at (D := D) (U := s) (ty := .int) (by decide)
  have hc0 : H[a]? = some (vp_cell (D.2 .int) (n0, .inl f)) := hW q0 _ z0
  have hc1 : H[b]? = some (vp_cell (D.2 .int) (n1, .inl g)) := hW q1 _ z1
  obtain ⟨-, k0, hk0, cm0, hkk0⟩ := (hK.2 t0 _ ht).1 n0 (fun j => .int (f j))
  obtain ⟨-, k1, hk1, cm1, hkk1⟩ := (hK.2 t0 _ ht).1 n1 (fun j => .int (g j))
  obtain ⟨r, kS, methS, hnS, hmS, hkS, NS⟩ := NativeOf.of_static hnat hstat (ps := [.object "java/lang/Object", .int, .object "java/lang/Object", .int, .int]) (ret := none) (by decide +kernel)
  have hinitS : kS.init = .initialized := Cond.initialized_spec (findClass_of_methodNamed hnS) hkS hini
  obtain ⟨vm', X', step⟩ := X0.invokestatic hexec hown hlink hnS hmS NS.static hkS hinitS (by decide) (g := F0 m pc ls (.int k :: .int dp :: .ref b :: .int sp :: .ref a :: rest)) rfl (argsL := [.ref a, .int sp, .ref b, .int dp, .int k]) (rest := rest) (by rw [NS.sig]; rfl) rfl (by rw [hb]; exact hdg)
  have hA' : s.vm.Alike vm' := X'.warmed.alike
  obtain ⟨kS', N'⟩ := NS.alike hA'
  obtain ⟨k0', hk0', he0⟩ := hA'.2.2 _ _ hk0
  obtain ⟨k1', hk1', he1⟩ := hA'.2.2 _ _ hk1
  obtain ⟨hlim, hheap⟩ := msg_lim X0.admits t2
  have hseen : seenByNative methS #[.ref a, .int sp, .ref b, .int dp, .int k] = #[.ref a, .int sp, .ref b, .int dp, .int k] := by simp [seenByNative, NS.static, NS.sig, narrow]
  obtain ⟨U, L, XU, ⟨u1, u2, u3, cX, ce, u4, u5, u6, u7⟩, st⟩ := msg_nat X' hexec (msg_tr X0.admits htr) (cls := aiN) (names := aiUp) (text := "arraycopy: " ++ what) (by decide +kernel) (by decide +kernel) (by decide +kernel) (by decide +kernel) (ai_at hAI hz hY hq0) (fun x hx => by cases hx) t1 hlim hheap (g := { F0 m pc ls (.int k :: .int dp :: .ref b :: .int sp :: .ref a :: rest) with stack := rest }) (hsize.trans hml.symm) (nf := { method := r, args := #[.ref a, .int sp, .ref b, .int dp, .int k], locked := none }) rfl hRf (by show 2 * 0 + (rest.map fun v => v.category).sum + 10240 ≤ _; omega) (by decide) hRc (by omega)
  obtain ⟨g1, hfr⟩ := XU.frames_eq
  obtain ⟨g2, hfr2⟩ := X'.frames_eq
  have hU : (U.setTop { F0 m pc ls (.int k :: .int dp :: .ref b :: .int sp :: .ref a :: rest) with stack := rest }).pushFrame (.throwing ((T.setVm vm').heap.size + 2)) = U.setFrames (.throwing ((T.setVm vm').heap.size + 2) :: .java { F0 m pc ls (.int k :: .int dp :: .ref b :: .int sp :: .ref a :: rest) with stack := rest } :: below) := by
    rw [State.pushFrame, State.frames_setTop _ hfr, State.setTop_of_frames _ hfr, State.setFrames_setFrames]
  have hV : (((T.setVm vm').setTop { F0 m pc ls (.int k :: .int dp :: .ref b :: .int sp :: .ref a :: rest) with stack := rest }).pushFrame (.native { method := r, args := #[.ref a, .int sp, .ref b, .int dp, .int k], locked := none })) = (T.setVm vm').setFrames (.native { method := r, args := #[.ref a, .int sp, .ref b, .int dp, .int k], locked := none } :: .java { F0 m pc ls (.int k :: .int dp :: .ref b :: .int sp :: .ref a :: rest) with stack := rest } :: below) := by
    rw [State.pushFrame, State.frames_setTop _ hfr2, State.setTop_of_frames _ hfr2, State.setFrames_setFrames]
  have hcur := State.cur_lt_of_frames hfr2
  have hnw : nativeFrameWords "java/lang/System" "arraycopy" 5 ≤ 30 := by decide
  have hs : (T.setVm vm').heap = H := hT
  refine ⟨(T.setVm vm').heap.size + 2, T, U, U, L, hT, stand_widen XU (Nat.le_refl _) (by omega), fun q hq => ?_, rfl, rfl, ⟨fun a ha => u2 a ha, u3, cX, ce, u4, u5, u6, u7⟩, ?_⟩
  · rw [u1 q hq, hs]
    exact Nat.le_trans hB (Nat.le_add_right _ _)
  · refine step _ fun acts => ?_
    refine nat_note (row := arraycopyRow) (cls := aiN) (msg := some ("arraycopy: " ++ what)) X'.here acts N'.cls N'.meth N'.boot N'.native N'.noCode N'.noLock (by rw [N'.className, N'.name, N'.desc]; exact arraycopy_row p) (by rw [N'.className, N'.name]; exact X'.notFull (g := { F0 m pc ls (.int k :: .int dp :: .ref b :: .int sp :: .ref a :: rest) with stack := rest }) (hsize.trans hml.symm) (vars := nativeFrameWords "java/lang/System" "arraycopy" 5) (by omega) (by show 2 * 0 + (rest.map fun v => v.category).sum + (nativeFrameWords "java/lang/System" "arraycopy" 5 + 11) ≤ R0.locals; omega)) hseen (fun E hE => ?_) ?_
    · rw [arraycopyRow_sem]
      exact cp_wp (cs := vp_cell (D.2 .int) (n0, .inl f)) (cd := vp_cell (D.2 .int) (n1, .inl g)) (by rw [← hT] at hc0; exact hc0) (by rw [← hT] at hc1; exact hc1) (fun _ h => by cases h) (fun _ h => by cases h) hk0' hk1' (by rw [he0]; exact hkk0) (by rw [he1]; exact hkk1) (by show cpBad (arrV (D.2 .int) n0 (fun j => .int (f j))).slots.size (arrV (D.2 .int) n1 (fun j => .int (g j))).slots.size sp dp k = _; rw [arrV_size, arrV_size]; exact hwt) (hE _)
    · rw [hV, State.pushFrame, State.frames_setFrames _ hcur, State.setFrames_setFrames]
      refine st.trans ?_
      refine nat_leave ⟨XU.here.running, XU.here.runnable, XU.here.alone⟩ (State.cur_lt_of_frames hfr) ⟨[.java { F0 m pc ls (.int k :: .int dp :: .ref b :: .int sp :: .ref a :: rest) with stack := rest }], rfl⟩ rfl rfl ?_
      rw [hU]
      exact Steps.refl _
/-- rows: what is copied -/
theorem row_copy {on : String} {index : Nat} {j1 j2 : Nat} {F1 F2 : Rw_} {sp dp k : Int32} {f : Nat → Int32} (hexec : p.tables.exec = Jvm.exec) (hb : c.code = cc) (hml : c.maxLocals = nL) (hls : ls.size = nL) (hts : ∀ w ∈ lw_all, w.before args s = true) (hown : s.vm.findClass on = some m.cls) (hlink : Cond.methodLink on index arraycopyName ∈ lw_all) (hK : Kx D s) (hF : XF D own af ra ta (P, N, T, q5, Y) R G X) (hAP : AP xS ad X base) (hW : WX D xS ad I A R G X H) (hS : va_S (upB base) s.heap H locs) (hj1 : j1 < 8) (hN1 : N j1 = some F1) (hj2 : j2 < 8) (hN2 : N j2 = some F2) (hv : cpO F1.2.2 F2.2.2 F1.2.1 F2.2.1 sp dp k = some f) (hframes : 1 ≤ R0.frames) (hlocals : (rest.map fun v => v.category).sum + (nativeFrameWords "java/lang/System" "arraycopy" 5 + 11) ≤ R0.locals) (hdg : decode cc pc = .ok (.invokestatic index, 3))
    (kk : ∀ (H1 : Heap) (locs1 : List Loc) (X1 : va_W), XF D own af ra ta (P, va_up N j2 (some (F2.1, F2.2.1, f)), T, q5, Y) R G X1 → AP xS ad X1 base → WX D xS ad I A R G X1 H1 → va_S (upB base) s.heap H1 locs1 → W p l e R0 s m args below meth c H1 locs1 cells slots Q (F0 m (pc + 3) ls rest)) : W p l e R0 s m args below meth c H locs cells slots Q (F0 m pc ls (.int k :: .int dp :: .ref (ra j2).2 :: .int sp :: .ref (ra j1).2 :: rest)) := by
  obtain ⟨b1, b2, b3, b4⟩ := row_in hF hj1 hN1
  obtain ⟨c1, c2, c3, c4⟩ := (hF.2.1 j2 hj2).2 F2 hN2
  obtain ⟨⟨h1, h2, h3, h4, h5⟩, rfl⟩ := cpO_e hv
  obtain ⟨q0, z0⟩ := List.getElem?_of_mem (List.mem_append_right (wl D xS ad I A R G) b4)
  obtain ⟨p0, hp0⟩ := List.getElem?_of_mem (Xt_mem.mp c4).1
  obtain ⟨t0, ht⟩ := Kx.at (D := D) (U := s) (ty := .int) (by decide)
  have hD := wx_D (D := D) (I := I) (A := A) (R := R) (G := G) xwf hAP
  refine va_copyi hexec hb (hml.trans hls.symm) hown (hts _ hlink) (hts _ q433) (hts _ q432) (hts _ q91) hK hW hD hS q0 _ t0 t0 z0 (fl_at hp0) ht ht rfl h1 h2 h3 h4 h5 (fun _ _ => rfl) hframes hlocals hdg (fun H1 locs1 hP _ hS1 => ?_)
  rw [fl_set] at hP
  refine kk H1 locs1 _ ?_ (hAP.set hp0) hP hS1
  have hF2 := hF.rowPut (j := j2) (r := some (F2.1, F2.2.1, va_cpy F1.2.2 F2.2.2 sp.toNatClampNeg dp.toNatClampNeg k.toNatClampNeg)) (rr := ra j2) (G1 := G) (X1 := X.set p0 ((ra j2).2, .inl (D.2 .int, F2.2.1, .inl (va_cpy F1.2.2 F2.2.2 sp.toNatClampNeg dp.toNatClampNeg k.toNatClampNeg)))) (fun q hq ho => set_mem hp0 hq (fun z => ho (by rw [z]; exact (Xt_mem.mp c4).2))) hj2 (fun k hk => by
    by_cases ek : k = j2
    · subst ek
      rw [if_pos rfl, c1]
      rfl
    · rw [if_neg ek]) rfl rfl (fun F3 h3 => by
    cases h3
    refine ⟨c2, Xt_mem.mpr ⟨set_mem hp0 (Xt_mem.mp c3).1 (fun z => by injection z with _ z2; cases z2), (Xt_mem.mp c3).2⟩, Xt_mem.mpr ⟨set_mem0 hp0, (Xt_mem.mp c4).2⟩⟩)
  rw [va_up_id] at hF2
  exact hF2
end CP
