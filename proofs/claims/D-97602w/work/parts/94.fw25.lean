/-! FRAMEWORK 25: super calls that land in an interface's default; calls of such a method by a class's name -/
set_option maxRecDepth 100000
theorem pgn : ∀ (n : Nat) (f : Nat → Nat), (∀ i, i ≤ n → f i < n) → ∃ i j, i < j ∧ j ≤ n ∧ f i = f j := by
  intro n
  induction n with
  | zero => intro f h; exact absurd (h 0 (Nat.le_refl _)) (Nat.not_lt_zero _)
  | succ n ih =>
    intro f h
    by_cases hc : ∃ i, i ≤ n ∧ f i = f (n + 1)
    · obtain ⟨i, hi, he⟩ := hc
      exact ⟨i, n + 1, by omega, Nat.le_refl _, he⟩
    · have hne : ∀ i, i ≤ n → f i ≠ f (n + 1) := fun i hi e => hc ⟨i, hi, e⟩
      have hl := h (n + 1) (Nat.le_refl _)
      obtain ⟨i, j, h1, h2, h3⟩ := ih (fun i => if f (n + 1) < f i then f i - 1 else f i) (fun i hi => by
        have a := h i (by omega)
        have b := hne i hi
        show (if f (n + 1) < f i then f i - 1 else f i) < n
        split <;> omega)
      refine ⟨i, j, h1, by omega, ?_⟩
      have a := hne i (by omega)
      have b := hne j h2
      split at h3 <;> split at h3 <;> omega
/-- n steps up from c -/
def upC (vm : Vm) : Nat → ClassId → Option ClassId
  | 0, c => some c
  | n + 1, c => ((vm.classes[c]?).bind (·.super)).bind (upC vm n)
theorem upC_add (vm : Vm) : ∀ (i j : Nat) (c : ClassId), upC vm (i + j) c = (upC vm i c).bind (upC vm j) := by
  intro i
  induction i with
  | zero => intro j c; simp [upC]
  | succ i ih =>
    intro j c
    rw [Nat.succ_add]
    show ((vm.classes[c]?).bind (·.super)).bind (upC vm (i + j)) = (((vm.classes[c]?).bind (·.super)).bind (upC vm i)).bind (upC vm j)
    cases (vm.classes[c]?).bind (·.super) with
    | none => rfl
    | some q => exact ih j q
theorem upC_lt {vm : Vm} {i : Nat} {c p : ClassId} (h : upC vm (i + 1) c = some p) : ∃ q, upC vm i c = some q ∧ q < vm.classes.size := by
  rw [upC_add] at h
  cases hq : upC vm i c with
  | none => rw [hq] at h; cases h
  | some q =>
    refine ⟨q, rfl, ?_⟩
    rw [hq] at h
    cases hk : vm.classes[q]? with
    | none => simp [upC, hk] at h
    | some k => exact (Array.getElem?_eq_some_iff.mp hk).1
theorem upC_mem {vm : Vm} : ∀ (n : Nat) (c p : ClassId), p ∈ vm.superclassesAux n c → ∃ j, j < n ∧ upC vm (j + 1) c = some p := by
  intro n
  induction n with
  | zero => intro c p h; simp [Vm.superclassesAux] at h
  | succ n ih =>
    intro c p h
    unfold Vm.superclassesAux at h
    cases hs : (vm.classes[c]?).bind (·.super) with
    | none => simp [hs] at h
    | some q =>
      simp only [hs, List.mem_cons] at h
      rcases h with rfl | h
      · exact ⟨0, by omega, by simp [upC, hs]⟩
      · obtain ⟨j, h1, h2⟩ := ih q p h
        refine ⟨j + 1, by omega, ?_⟩
        show ((vm.classes[c]?).bind (·.super)).bind (upC vm (j + 1)) = some p
        rw [hs]; exact h2
theorem li_none {vm : Vm} {nm ds : String} : ∀ (n : Nat) (c : ClassId), lookupInSuperclasses vm nm ds n c = none → ∀ j p, j < n → upC vm j c = some p → ownMethod vm nm ds p = none := by
  intro n
  induction n with
  | zero => intro c h j p hj; omega
  | succ n ih =>
    intro c h j p hj hp
    unfold lookupInSuperclasses at h
    cases hk : vm.classes[c]? with
    | none =>
      cases j with
      | zero => simp only [upC, Option.some.injEq] at hp; subst hp; simp [ownMethod, hk]
      | succ j => simp [upC, hk] at hp
    | some k =>
      simp only [hk, Option.bind_eq_bind, Option.bind_some] at h
      cases hf : k.findMethod nm ds with
      | some i => simp [hf] at h
      | none =>
        simp only [hf] at h
        cases j with
        | zero => simp only [upC, Option.some.injEq] at hp; subst hp; simp [ownMethod, hk, hf]
        | succ j =>
          simp only [upC, hk, Option.bind_some] at hp
          cases hs : k.super with
          | none => simp [hs] at hp
          | some q =>
            rw [hs] at hp h
            exact ih q h j p (by omega) hp
theorem li_all {vm : Vm} {nm ds : String} {c : ClassId} (h : lookupInSuperclasses vm nm ds (vm.classes.size + 1) c = none) : ∀ j p, j ≤ vm.classes.size + 1 → upC vm j c = some p → ownMethod vm nm ds p = none := by
  intro j p hj hp
  by_cases hl : j < vm.classes.size + 1
  · exact li_none _ _ h j p hl hp
  · have hj : j = vm.classes.size + 1 := by omega
    subst hj
    have hex : ∀ i, i ≤ vm.classes.size → ∃ q, upC vm i c = some q ∧ q < vm.classes.size := by
      intro i hi
      have e : vm.classes.size + 1 = (i + 1) + (vm.classes.size - i) := by omega
      rw [e, upC_add] at hp
      cases hq : upC vm (i + 1) c with
      | none => rw [hq] at hp; cases hp
      | some q => exact upC_lt hq
    obtain ⟨i, j, h1, h2, h3⟩ := pgn vm.classes.size (fun i => (upC vm i c).getD 0) (fun i hi => by obtain ⟨q, e, hq⟩ := hex i hi; simp only [e, Option.getD_some]; exact hq)
    obtain ⟨a, ha, -⟩ := hex i (by omega)
    obtain ⟨b, hb, -⟩ := hex j h2
    simp only [ha, hb, Option.getD_some] at h3
    subst h3
    have e : vm.classes.size + 1 = j + (vm.classes.size + 1 - j) := by omega
    rw [e, upC_add, hb] at hp
    refine li_none _ _ h (i + (vm.classes.size + 1 - j)) p (by omega) ?_
    rw [upC_add, ha]
    exact hp
theorem si_none {vm : Vm} {nm ds : String} {mR : MethodId} : ∀ (n : Nat) (c : ClassId), lookupInSuperclasses vm nm ds n c = none → selectInSuperclasses vm mR nm ds n c = none := by
  intro n
  induction n with
  | zero => intro c _; rfl
  | succ n ih =>
    intro c h
    unfold lookupInSuperclasses at h
    unfold selectInSuperclasses
    cases hk : vm.classes[c]? with
    | none => rfl
    | some k =>
      simp only [hk, Option.bind_eq_bind, Option.bind_some] at h ⊢
      cases hf : k.findMethod nm ds with
      | some i => simp [hf] at h
      | none =>
        simp only [hf] at h
        cases hs : k.super with
        | none => simp
        | some q =>
          rw [hs] at h
          simp only [Option.bind_none, Option.bind_some]
          rw [ih q h]
          rfl
theorem ls_default {vm : Vm} {c : ClassId} {k : Class} {nm ds : String} {r0 : MethodId} {r : Method} (hk : vm.classes[c]? = some k) (hni : k.isInterface = false) (hup : vm.lookupUp c nm ds = some r0) (hrm : vm.method? r0 = some r) (hst : r.isStatic = false) (hpr : r.isPrivate = false) (hn : r.name = nm) (hd : r.desc = ds)
    (hif : (vm.classes[r0.cls]?).any (·.isInterface) = true) (hsel : selectMethod {} vm c r0 = .method r0) : lookupSpecial vm c nm ds = .method r0 := by
  cases hL : lookupInSuperclasses vm nm ds (vm.classes.size + 1) c with
  | some x =>
    have : x = r0 := by simpa [Vm.lookupUp, hL] using hup
    subst this
    exact lookupSpecial_of_superclasses hk hni hL hrm hst
  | none =>
    have h1 : superclassMethods vm c nm ds = [] := by
      unfold superclassMethods
      rw [List.filterMap_eq_nil_iff]
      intro p hp
      obtain ⟨j, hj, hu⟩ := upC_mem _ _ _ hp
      exact li_all hL (j + 1) p (by omega) hu
    have h2 : ((vm.classes[c]?.bind (·.findMethod nm ds)).map fun i => (⟨c, i⟩ : MethodId)) = none := li_all hL 0 c (by omega) rfl
    have h3 := si_none (mR := r0) _ _ hL
    unfold selectMethod at hsel
    simp only [hrm, hpr, hn, hd, h3, hif, Bool.not_true, Bool.and_false, Bool.false_eq_true, if_false] at hsel
    unfold lookupSpecial
    simp only [h1, h2, List.filter_nil, Option.toList_none, List.append_nil, List.nil_append, List.find?_nil]
    split at hsel
    · cases hsel
    · exact hsel
/-- what the word on the default says -/
theorem lid_spec {args : Array Value} {s : State} {cls : String} {x y : MethodName} (h : (Cond.landsInDefault cls x y).before args s = true) : ∃ c r m rm, s.vm.findClass cls = some c ∧ s.methodFound? x.cls x.name x.desc = some r ∧ s.methodNamed? y = some m ∧ s.vm.method? r = some rm ∧ selectMethod {} s.vm c r = .method m ∧ (s.vm.classes[m.cls]?).any (·.isInterface) = true ∧ rm.isPrivate = false := by
  simp only [Cond.before, Cond.holds, Cond.value] at h
  cases hc : s.vm.findClass cls with
  | none => simp [hc] at h
  | some c =>
  cases hr : s.methodFound? x.cls x.name x.desc with
  | none => simp [hc, hr] at h
  | some r =>
  cases hm : s.methodNamed? y with
  | none => simp [hc, hr, hm] at h
  | some m =>
  cases hrm : s.vm.method? r with
  | none => simp [hc, hr, hm, hrm] at h
  | some rm =>
  simp only [hc, hr, hm, hrm, Option.map_some, beq_iff_eq, Option.some.injEq] at h
  split at h
  · rename_i m' hsel
    simp only [Bool.and_eq_true, decide_eq_true_eq, Bool.not_eq_true'] at h
    obtain ⟨⟨⟨⟨rfl, hi⟩, hp⟩, -⟩, -⟩ := h
    exact ⟨c, r, m', rm, rfl, rfl, rfl, hrm, hsel, hi, hp⟩
  · cases h
theorem va_Nw.warmK {w : Cond} (hw : (w.onTables && w.keeps) = true) {s U : State} (hW : s.WarmedH U.vm) (hZ : va_Nw w s) : va_Nw w U := word_at hW (Or.inl hw) hZ
abbrev mkP : MethodName := ⟨"PromisePounds$Person", "mark", "(LPromisePounds$Trail;LPromisePounds$Parish;)I"⟩
abbrev mkM : MethodName := ⟨"PromisePounds$Marked", "mark", "(LPromisePounds$Trail;LPromisePounds$Parish;)I"⟩
/-- where a super call of mark lands -/
def LD (s : State) : Prop := ∃ (cn : ClassId) (r0 : MethodId), s.vm.findClass "PromisePounds$Person" = some cn ∧ s.methodNamed? mkM = some r0 ∧ lookupSpecial s.vm cn mkM.name mkM.desc = .method r0
theorem LD.at {s U : State} (hW : s.WarmedH U.vm) (h : LD s) : LD U := by
  obtain ⟨cn, r0, h1, h2, h3⟩ := h
  refine ⟨cn, r0, by rw [hW.alike.findClass]; exact h1, ?_, by rw [hW.alike.lookupSpecial]; exact h3⟩
  have e : (s.setVm U.vm).methodNamed? mkM = s.methodNamed? mkM := State.methodNamed?_setVm hW.alike mkM
  exact e.trans h2
theorem LD.of {s : State} {args : Array Value} (hl : (Cond.landsInDefault "PromisePounds$Person" mkP mkM).before args s = true) (hs : (Cond.sameMethod "PromisePounds$Person" "PromisePounds$Marked" "mark" "(LPromisePounds$Trail;LPromisePounds$Parish;)I").before args s = true) (hi : (Cond.instanceMethod mkM).before args s = true) : LD s := by
  obtain ⟨cn, ck, r0, hcn, hck, hni, hf, hn⟩ := Cond.sameMethod_found hs
  obtain ⟨mk, r, hnamed, hrm, hst, -⟩ := Cond.instanceMethod_spec hi
  cases hnamed.symm.trans hn
  obtain ⟨hrn, hrd⟩ := name_of_methodNamed hnamed hrm
  obtain ⟨c9, r9, m9, rm9, z1, z2, z3, z4, z5, z6, z7⟩ := lid_spec hl
  cases hcn.symm.trans z1
  cases hf.symm.trans z2
  cases hnamed.symm.trans z3
  cases hrm.symm.trans z4
  obtain ⟨ckk, hckk, hname⟩ := Vm.findClass_spec hcn
  cases hck.symm.trans hckk
  have hup : s.vm.lookupUp cn mkM.name mkM.desc = some _ := ((State.methodFound?_class hcn hck hni (fun y => by simp [signaturePolymorphic, hname]) _).mp hf).1
  exact ⟨cn, _, hcn, hnamed, ls_default hck hni hup hrm hst z7 hrn hrd z6 z5⟩
/-- the words on the default mark -/
def DW (s : State) : Prop := va_Nw (.methodLink "PromisePounds$Grown" 23 mkP) s ∧ va_Nw (.methodLink "PromisePounds$Child" 24 mkP) s ∧ va_Nw (.methodLink "PromisePounds" 366 mkP) s ∧ va_Nw (.sameMethod "PromisePounds$Person" "PromisePounds$Marked" "mark" "(LPromisePounds$Trail;LPromisePounds$Parish;)I") s ∧ LD s
theorem DW.at {s U : State} (hW : s.WarmedH U.vm) (h : DW s) : DW U := ⟨h.1.warmK rfl hW, h.2.1.warmK rfl hW, h.2.2.1.warmK rfl hW, h.2.2.2.1.warmK rfl hW, h.2.2.2.2.at hW⟩
/-! methods of an interface whose initialisation no word tells of -/
def apN (y : MethodName) (ws : List Cond) (rm : Room) (e : Env) (s : State) (m : MethodId) (args : Array Value) (below : List Frame) : Prop :=
  s.status = .running ∧ s.curStatus? = some .runnable ∧ s.alone = true ∧ s.methodNamed? y = some m ∧ s.hears m below = true ∧ s.hasRoom e.platform rm = true ∧ (headSpec ws rm).pre.before args s = true
def MetN (l : Launch) (y : MethodName) (ws : List Cond) (rm : Room) (Pc : Array Value → State → Prop) (Qc : Array Value → State → Outcome → State → Prop) (mc ms : Nat) (free : Addr → Prop) : Prop :=
  ∀ (p : Program) (e : Env), l.admits e → FairCas e.choices → FairClock e.choices → ∀ (s : State) (m : MethodId) (args : Array Value) (below : List Frame), s.frames = .invoking m args :: below → apN y ws rm e s m args below → Pc args s →
    ∃ n o, (∀ k, k < n → Within (stepsAlone p.tables e k s) below) ∧ (stepsAlone p.tables e n s).status = .running ∧ Ended (stepsAlone p.tables e n s) below o ∧ (Qc args s o (stepsAlone p.tables e n s) ∧ ∃ L, FrameEnd s o (stepsAlone p.tables e n s) L mc ms ∧ ∀ q ∈ L, free q.base)
def BodyN (p : Program) (y : MethodName) (ws : List Cond) (rm : Room) (cc : ByteArray) (ret : Option FieldType) (s : State) (m : MethodId) (args : Array Value) (meth : Method) (c : Code) : Prop :=
  p.tables.exec = Jvm.exec ∧ s.methodNamed? y = some m ∧ (headSpec ws rm).pre.before args s = true ∧ meth.sig.returnType = ret ∧ meth.locks = false ∧ c.code = cc
section BN
variable {p : Program} {y : MethodName} {ws : List Cond} {rm : Room} {cc : ByteArray} {ret : Option FieldType} {s : State} {m : MethodId} {args : Array Value} {meth : Method} {c : Code}
theorem BodyN.exec (B : BodyN p y ws rm cc ret s m args meth c) : p.tables.exec = Jvm.exec := B.1
theorem BodyN.named (B : BodyN p y ws rm cc ret s m args meth c) : s.methodNamed? y = some m := B.2.1
theorem BodyN.pre (B : BodyN p y ws rm cc ret s m args meth c) : (headSpec ws rm).pre.before args s = true := B.2.2.1
theorem BodyN.returns (B : BodyN p y ws rm cc ret s m args meth c) : meth.sig.returnType = ret := B.2.2.2.1
theorem BodyN.notSynchronized (B : BodyN p y ws rm cc ret s m args meth c) : meth.locks = false := B.2.2.2.2.1
theorem BodyN.bytes (B : BodyN p y ws rm cc ret s m args meth c) : c.code = cc := B.2.2.2.2.2
end BN
theorem MetN.ofW {l : Launch} {y : MethodName} {ws ws' : List Cond} {rm : Room} {Pc : Array Value → State → Prop} {Qc : Array Value → State → Outcome → State → Prop} {mc ms : Nat} {free : Addr → Prop} {cc : ByteArray} {maxL : Nat} {ret : Option FieldType}
    (hy : plainName y.cls = true) (hw : ws = Cond.code y cc maxL ret :: ws')
    (body : ∀ (p : Program) (e : Env) (s : State) (m : MethodId) (args : Array Value) (below : List Frame) (meth : Method) (c : Code), BodyN p y ws rm cc ret s m args meth c → c.maxLocals = maxL → Pc args s →
      W p l e (headSpec ws rm).room s m args below meth c s.heap [] 0 0 (MQ below Qc args s mc ms free) (entryFrame m args maxL)) : MetN l y ws rm Pc Qc mc ms free := by
  intro p e ha hc hk s m args below hf happ hP
  obtain ⟨hrun, hable, halone, hname, hhears, hroom, hpre⟩ := happ
  obtain ⟨meth, c, hmeth, hcode, hbytes, hlocals, hret, hlocks, -, -⟩ := Cond.code_spec hname (atoms_spec (ws := ws) hpre _ (by rw [hw]; exact List.mem_cons_self))
  have hcur := State.cur_lt_of_frames hf
  have hf1 : (s.setFrames (.java (entryFrame m args maxL) :: below)).frames = .java (entryFrame m args maxL) :: below := State.frames_setFrames _ hcur
  have ht1 := State.topJava?_of_frames hf1
  have hplain : (s.setFrames (.java (entryFrame m args maxL) :: below)).plainMethod m := by
    refine State.plainMethod.of_name ?_
    intro k hk
    obtain ⟨k', hk', hn⟩ := className_of_methodNamed hname
    cases (show s.vm.classes[m.cls]? = some k from hk).symm.trans hk'
    rw [hn]; exact hy
  have hAt : At (s.setFrames (.java (entryFrame m args maxL) :: below)) m c below :=
    ⟨by rw [ht1]; rfl, ⟨[], by rw [hf1]; rfl⟩, hrun, by simpa using hable, by simpa using halone,
      by rw [State.code?_eq]; simp [State.setFrames, hmeth, hcode], hplain⟩
  obtain ⟨t, ht, -⟩ := State.frames_cons hf
  have X : Stand p l e rm s m args below meth c (s.setFrames (.java (entryFrame m args maxL) :: below)) [] 0 0 :=
    ⟨ha, hc, hk, hf, hroom, hhears, hmeth, hcode, hAt, by rw [hf1]; rfl, State.WarmedH.refl s, by rw [State.stackLimits_setFrames], by rw [State.stackBytes_setFrames], (State.sameButNew.refl s ht).setFrames (.java (entryFrame m args maxL) :: below) hcur⟩
  obtain ⟨s₂, hs, o, hr, he, hp⟩ := body p e s m args below meth c ⟨by cases p <;> rfl, hname, hpre, hret, hlocks, hbytes⟩ hlocals hP (s.setFrames (.java (entryFrame m args maxL) :: below)) rfl X
  have hstep : (stepThread p.tables e s).1 = (s.setFrames (.java (entryFrame m args maxL) :: below)).setTop (entryFrame m args maxL) := by
    have hfull : e.platform.stackFull (s.setFrames below).me (s.setFrames below).frames c.maxLocals = false := by
      obtain ⟨-, h1, -, h2⟩ := State.hasRoom_stack hroom
      rw [hf, List.length_cons] at h1
      rw [State.localsInUse_invoking hf hmeth hcode] at h2
      have hw := stackUse_le_stackWeight below
      rw [State.frames_setFrames _ hcur]
      exact Platform.stackFull_eq_false (by rw [State.stackLimits_setFrames]; omega) (by rw [State.stackLimits_setFrames]; omega)
    rw [stepThread_invoking hf, (doInvoke_java (s := s.setFrames below) (e := e) (meth := meth) (code := c) hmeth hcode hlocks hfull).1, State.setTop_self ht1]
    simp only [State.pushFrame, State.frames_setFrames _ hcur, State.setFrames_setFrames, hlocals, entryFrame]
  obtain ⟨n, hn, hw⟩ := Steps.head (tb := p.tables) (e := e) ⟨hrun, hable, halone⟩ ⟨[.invoking m args], hf, by simp, by simp⟩ (hstep ▸ hs)
  exact ⟨n, o, hw, hn ▸ hr, hn ▸ he, hn ▸ hp⟩
theorem MetN.call {l : Launch} {y : MethodName} {ws : List Cond} {rm : Room} {Pc : Array Value → State → Prop} {Qc : Array Value → State → Outcome → State → Prop} {mc ms : Nat} {free : Addr → Prop} {e : Env} (hM : MetN l y ws rm Pc Qc mc ms free) (p : Program) (ha : l.admits e) (hc : FairCas e.choices) (hk : FairClock e.choices)
    {s : State} {m : MethodId} {args : Array Value} {acts : List Action} {mid below : List Frame} {t : Thread} (ht : s.threads[s.cur]? = some t)
    (hfr : s.frames = mid ++ below) (happ : apN y ws rm e (s.pushFrame (.invoking m args)) m args s.frames) (hP : Pc args (s.pushFrame (.invoking m args))) :
    ∃ o s₂, Steps p.tables e below (doInvoke e s acts m args).1 s₂ ∧ s₂.status = .running ∧ Ended s₂ s.frames o ∧ (Qc args (s.pushFrame (.invoking m args)) o s₂ ∧ ∃ L, FrameEnd (s.pushFrame (.invoking m args)) o s₂ L mc ms ∧ ∀ q ∈ L, free q.base) := by
  have hlt : s.cur < s.threads.size := (Array.getElem?_eq_some_iff.mp ht).1
  have hf' : (s.pushFrame (.invoking m args)).frames = .invoking m args :: s.frames := State.frames_setFrames _ hlt
  obtain ⟨hrun, hable, halone, -⟩ := id happ
  have hgo : (s.pushFrame (.invoking m args)).goesOn := ⟨hrun, hable, halone⟩
  obtain ⟨n, o, hw, hr, he, hp⟩ := hM p e ha hc hk (s.pushFrame (.invoking m args)) m args s.frames hf' happ hP
  have hstep : (stepThread p.tables e (s.pushFrame (.invoking m args))).1 = (doInvoke e s acts m args).1 := by
    rw [stepThread_invoking hf', doInvoke_state e s acts, State.pushFrame, State.setFrames_setFrames, State.setFrames_self ht]
  cases n with
  | zero => exact absurd ⟨[.invoking m args], hf', by simp, by simp⟩ he.not_within
  | succ k =>
    rw [stepsAlone_succ _ hgo, hstep] at hr he hp
    refine ⟨o, _, ⟨k, rfl, fun j hj => ?_⟩, hr, he, hp⟩
    have := hw (j + 1) (by omega)
    rw [stepsAlone_succ _ hgo, hstep, hfr] at this
    exact this.weaken
section BKN
variable {l : Launch} {R : Room} {p : Program} {e : Env} {below : List Frame} {s : State} {sargs : Array Value} {y : MethodName} {len W : Nat}
theorem backN_of {ws : List Cond} {rm : Room} {Pc : Array Value → State → Prop} {Qc : Array Value → State → Outcome → State → Prop} {mc ms : Nat} {free : Addr → Prop} {bytes : ByteArray} {maxL : Nat} {ret : Option FieldType}
    (hM : MetN l y ws rm Pc Qc mc ms free) (hblind : FrameBlind Pc) (hrc : rm.cells = mc) (hrs : rm.slots = ms) (hframes : rm.frames + 1 ≤ R.frames) (hlocals : W + (maxL + 11) + rm.locals ≤ R.locals)
    (hws : ∀ w ∈ ws, ∀ a' U, s.WarmedH U.vm → w.before a' U = true) (hcode : Cond.code y bytes maxL ret ∈ ws) : Back l R p e below s sargs y len W (PreOf R mc ms Pc) (PostOf Qc mc ms free) := by
  intro m meth c A g ig mk a X hg hsize hdg hW hn hp
  have h1 : (headSpec ws rm).pre.before a A.U = true := atoms_intro fun w hw => hws w hw _ _ X.warmed
  have h2 : (Cond.code y bytes maxL ret).before a A.U = true := hws _ hcode _ _ X.warmed
  obtain ⟨U, Ls, c0, s0⟩ := A
  dsimp only [Pt.U, Pt.locs, Pt.cells, Pt.slots] at h1 h2 X hn ⊢
  obtain ⟨methY, cY, hmY, hcY, -, hlY, -, -, -, -⟩ := Cond.code_spec hn h2
  have h : At U g.method c below := by rw [hg]; exact X.here
  have hcode' : (U.calling g mk a).code? g.method = some c := by
    have := h.code
    rw [State.code?_eq] at this ⊢
    simpa [State.calling, State.pushFrame, State.setFrames] using this
  obtain ⟨mid, hmid⟩ := h.above
  have hfr : (U.setTop g).frames = (.java g :: mid) ++ below := by rw [State.frames_setTop' g h.top, hmid]; rfl
  have hft : (U.setTop g).frames = .java g :: U.frames.tail := State.frames_setTop' g h.top
  obtain ⟨t0, ht0, -⟩ := State.frames_cons hft
  have happ : apN y ws rm e ((U.setTop g).pushFrame (.invoking mk a)) mk a (U.setTop g).frames := by
    refine ⟨h.running, ?_, ?_, hn, ?_, X.room_calling (g := g) (R' := rm) hsize hmY hcY hframes (by rw [hlY]; omega) (by rw [hrc]; exact hp.1) (by rw [hrs]; exact hp.2.1), ?_⟩
    · have := h.runnable
      simpa [State.calling] using h.runnable
    · simpa [State.calling] using h.alone
    · rw [hft]
      show (U.calling g mk a).hears mk (.java g :: U.frames.tail) = true
      simp [State.hears, hcode', hdg, Except.toOption]
    · show (headSpec ws rm).pre.before a (U.calling g mk a) = true
      rw [State.calling_eq h.top, Cond.before_setFrames]; exact h1
  obtain ⟨o, s₂, hsteps, -, hend, hq, L, hfe, hL⟩ := hM.call p X.admits X.cas X.clock (acts := []) ht0 hfr happ (hblind _ _ _ _ hp.2.2)
  have hfe : FrameEnd (U.calling g mk a) o s₂ L mc ms := hfe
  rw [State.frames_setTop' g h.top] at hend
  obtain ⟨⟨v, rfl⟩, hW₂, e2, q2, q3, q4, q5, q6⟩ := id hfe
  have e3 : s₂ = ({ (U.calling g mk a).setFrames s₂.frames with heap := s₂.heap, slotsUsed := s₂.slotsUsed } : State).setVm s₂.vm := by
    have : s₂ = ({ s₂ with vm := (U.calling g mk a).vm } : State).setVm s₂.vm := rfl
    rw [e2] at this
    exact this
  obtain ⟨c₂, i₂, len₂, hc₂, hd₂, hf₂⟩ := hend
  have hW' : U.WarmedH s₂.vm := hW₂
  have hcc : c₂ = c := by
    have h1 : s₂.code? g.method = U.code? g.method := by
      rw [State.code?_eq, State.code?_eq, hW'.alike.method?]
    exact Option.some.inj (hc₂.symm.trans (h1.trans h.code))
  subst hcc
  have hlen : len₂ = len := by rw [hdg] at hd₂; cases hd₂; rfl
  subst hlen
  obtain ⟨g₀, hg0⟩ := Option.isSome_iff_exists.mp h.top
  obtain ⟨r, hr⟩ := State.topJava?_eq_some.mp hg0
  have hs₂ : s₂ = (({ U with heap := s₂.heap, slotsUsed := s₂.slotsUsed } : State).setVm s₂.vm).setTop { g with pc := g.pc + len₂, stack := v.toList ++ g.stack } := by
    have hr' : (({ U with heap := s₂.heap, slotsUsed := s₂.slotsUsed } : State).setVm s₂.vm).frames = .java g₀ :: r := hr
    refine e3.trans ?_
    rw [hf₂, State.calling_eq h.top, State.setFrames_setFrames, State.setTop_of_frames _ hr', hr]
    rfl
  have hsame : U.sameButNew ({ U with heap := s₂.heap, slotsUsed := s₂.slotsUsed } : State) L mc ms := by
    refine ⟨?_, q2, q3, q4, q5, q6⟩
    obtain ⟨t, ht, -⟩ := State.frames_cons hr
    show ({ U with heap := s₂.heap, slotsUsed := s₂.slotsUsed } : State) = { U.setFrames U.frames with heap := s₂.heap, slotsUsed := s₂.slotsUsed }
    rw [State.setFrames_self ht]
  subst hg
  refine ⟨v, ⟨(({ U with heap := s₂.heap, slotsUsed := s₂.slotsUsed } : State).setVm s₂.vm), Ls ++ L, c0 + mc, s0 + ms⟩,
    ⟨X.admits, X.cas, X.clock, X.frames, X.room, X.hears, X.method, X.code, (X.here.setHeapUsed s₂.heap s₂.slotsUsed).setVm hW'.alike, X.tail, State.WarmedH.trans X.warmed hW', X.limits, X.bytes, X.same.trans (hsame.setVm s.vm)⟩,
    ⟨g, mk, s₂, L, rfl, rfl, hq, rfl, hL, rfl, rfl⟩, ?_⟩
  show Steps p.tables e below _ ((({ U with heap := s₂.heap, slotsUsed := s₂.slotsUsed } : State).setVm s₂.vm).setTop { g with pc := g.pc + len₂, stack := v.toList ++ g.stack })
  rw [← hs₂]
  exact hsteps
end BKN
section VSD
variable {p : Program} {l : Launch} {e : Env} {R : Room} {s : State} {m : MethodId} {args : Array Value} {below : List Frame} {meth : Method} {c : Code}
theorem st_super {T : State} {locs : List Loc} {cells slots : Nat} (X : Stand p l e R s m args below meth c T locs cells slots) (hexec : p.tables.exec = Jvm.exec)
    {own owner : String} {index : Nat} {x : MethodName} (hown : s.vm.findClass own = some m.cls) (hlink : (Cond.methodLink own index x).before args s = true)
    (hsame : (Cond.sameMethod x.cls owner x.name x.desc).before args s = true) (hland : ∃ (cn : ClassId) (r0 : MethodId), s.vm.findClass x.cls = some cn ∧ s.methodNamed? ⟨owner, x.name, x.desc⟩ = some r0 ∧ lookupSpecial s.vm cn x.name x.desc = .method r0)
    {r0 : MethodId} {r : Method} (hn : s.methodNamed? ⟨owner, x.name, x.desc⟩ = some r0) (hrm : s.vm.method? r0 = some r) (hstatic : r.isStatic = false) (habs : r.isAbstract = false) (hnoinit : x.name ≠ "<init>")
    {dk : Class} {cn : ClassId} (hd : s.vm.classes[m.cls]? = some dk) (hnid : dk.isInterface = false) (hcn : s.vm.findClass x.cls = some cn) (hsuper : dk.super = some cn)
    {a : Addr} {cell : Cell} {kcell : Class} (hcell : T.heap[a]? = some cell) (hobj : ∀ c, cell.vm ≠ .statics c) (hkcell : s.vm.classes[cell.cls]? = some kcell)
    {g : JFrame} (hg : g.method = m) {argsL rest : List Value} (hlen : argsL.length = r.sig.parameters.length) (hstack : g.stack = argsL.reverse ++ .ref a :: rest)
    (hdg : decode c.code g.pc = .ok (.invokespecial index, 3)) :
    ∃ vm', Stand p l e R s m args below meth c (T.setVm vm') locs cells slots ∧
      ∀ target, Steps p.tables e below (doInvoke e ((T.setVm vm').setTop { g with stack := rest }) [] r0 (.ref a :: argsL).toArray).1 target → Steps p.tables e below (T.setTop g) target := by
  have hpl : e.platform.magicAccessors = ({} : Platform).magicAccessors := by rw [X.admits.platform]
  obtain ⟨cn', ck, r1, hcn', hck, hni, hf, hn1⟩ := Cond.sameMethod_found hsame
  cases hn.symm.trans hn1
  cases hcn.symm.trans hcn'
  obtain ⟨ci, hl, hright⟩ := Cond.methodLink_specUp hown hcn hck hni hf hlink e.platform hpl (by rw [X.admits.platform])
  obtain ⟨kr, hkr, -⟩ := className_of_methodNamed hn
  obtain ⟨hrn, hrd⟩ := name_of_methodNamed hn hrm
  obtain ⟨dk₀, cfile, nt, _, _, ck₀, _, _, hd₀, hcf, hcp, -, -, -, hc₀, -, hpoly, -⟩ := hl.here
  cases hd.symm.trans hd₀
  cases hck.symm.trans hc₀
  obtain ⟨c9, r9, z1, z2, hfound0⟩ := hland
  cases hcn.symm.trans z1
  cases hn.symm.trans z2
  subst hg
  obtain ⟨vm', hW', st⟩ := Steps.invokeSuperColdArgs (tb := p.tables) (e := e) (s₀ := s) (U := T) (f := g) (args := argsL) (rest := rest) (a := a) (cell := cell) (m := r0) X.here hexec hdg X.warmed hl hright hd hcf hcp hrm hck
    (by rw [hrn]; simp [hnoinit]) hstatic (by rw [hrn, hrd, hsuper]; simpa using hfound0) hnid hkr habs hlen hstack hcell hobj hkcell
  exact ⟨vm', X.noted hW', st⟩
theorem va_callSD {T : State} {locs : List Loc} {cells slots : Nat} (X : Stand p l e R s m args below meth c T locs cells slots) (hexec : p.tables.exec = Jvm.exec) {own owner : String} {index : Nat} {x : MethodName} {bytes : ByteArray} {maxL : Nat} {ret : Option FieldType}
    (hown : s.vm.findClass own = some m.cls) (hlink : (Cond.methodLink own index x).before args s = true) (hsame : (Cond.sameMethod x.cls owner x.name x.desc).before args s = true) (hland : ∃ (cn : ClassId) (r0 : MethodId), s.vm.findClass x.cls = some cn ∧ s.methodNamed? ⟨owner, x.name, x.desc⟩ = some r0 ∧ lookupSpecial s.vm cn x.name x.desc = .method r0) (hsup : (Cond.superclass own x.cls).before args s = true)
    (hinst : (Cond.instanceMethod ⟨owner, x.name, x.desc⟩).before args s = true) (hcode : (Cond.code ⟨owner, x.name, x.desc⟩ bytes maxL ret).before args s = true) (hno : x.name ≠ "<init>")
    {W : Nat} {Pre : Pt → Array Value → Prop} {Post : Pt → Array Value → Option Value → Pt → Prop} (hK : Back l R p e below s args ⟨owner, x.name, x.desc⟩ 3 W Pre Post)
    {b : Addr} {cellB : Cell} {kB : Class} (hcell : T.heap[b]? = some cellB) (hobj : cellB.vm.isStatics = false) (hkB : s.vm.classes[cellB.cls]? = some kB)
    {g : JFrame} (hg : g.method = m) (hsize : g.locals.size = c.maxLocals) {argsL rest : List Value} (hlen : ∀ sig, parseMethodDescriptor x.desc = some sig → argsL.length = sig.parameters.length)
    (hstack : g.stack = argsL.reverse ++ .ref b :: rest) (hW : 2 * g.monitorRoom + (rest.map fun v => v.category).sum ≤ W) (hdg : decode c.code g.pc = .ok (.invokespecial index, 3))
    (hpre : ∀ vm₁, s.WarmedH vm₁ → Pre ⟨T.setVm vm₁, locs, cells, slots⟩ (Value.ref b :: argsL).toArray) :
    ∃ (v : Option Value) (vm₁ : Vm) (B : Pt), s.WarmedH vm₁ ∧ Stand p l e R s m args below meth c B.U B.locs B.cells B.slots ∧ Post ⟨T.setVm vm₁, locs, cells, slots⟩ (Value.ref b :: argsL).toArray v B ∧
      ∀ target, Steps p.tables e below (B.U.setTop { g with pc := g.pc + 3, stack := v.toList ++ rest }) target → Steps p.tables e below (T.setTop g) target := by
  obtain ⟨mk, methM, hnamed, hmethM, hstM, habM⟩ := Cond.instanceMethod_spec hinst
  obtain ⟨methM', cM, hmethM', -, -, -, -, -, -, hsigM⟩ := Cond.code_spec hnamed hcode
  cases hmethM.symm.trans hmethM'
  obtain ⟨ps, dk, kp, hps, hdk, hkp, hsuper, -, -, hnid⟩ := Cond.superclass_spec hown hsup
  obtain ⟨vm₁, X₁, hstep₁⟩ := st_super X hexec hown hlink hsame hland hnamed hmethM hstM habM hno hdk hnid hps hsuper (a := b) (cell := cellB) hcell
    (fun z h => by rw [h] at hobj; cases hobj) hkB (g := g) hg (argsL := argsL) (rest := rest) (hlen _ hsigM) hstack hdg
  obtain ⟨v, B, X', hpost, hsteps⟩ := hK m meth c ⟨T.setVm vm₁, locs, cells, slots⟩ { g with stack := rest } (.invokespecial index) mk (Value.ref b :: argsL).toArray X₁ hg hsize hdg hW (X₁.named hnamed) (hpre vm₁ X₁.warmed)
  exact ⟨v, vm₁, B, X₁.warmed, X', hpost, fun target h => hstep₁ _ (by rw [doInvoke_state]; exact hsteps.trans h)⟩
abbrev va_CD (R : Room) (s : State) (args : Array Value) (own owner : String) (index : Nat) (x : MethodName) (bytes : ByteArray) (maxL : Nat) (ret : Option FieldType) (ws : List Cond) (rm : Room) (mc ms n : Nat) : Prop :=
  (rm.cells = mc ∧ rm.slots = ms ∧ rm.frames + 1 ≤ R.frames ∧ 8 + (maxL + 11) + rm.locals ≤ R.locals ∧ (∀ w ∈ ws, ∀ (a' : Array Value) (U : State), s.WarmedH U.vm → w.before a' U = true) ∧ Cond.code ⟨owner, x.name, x.desc⟩ bytes maxL ret ∈ ws) ∧
  (Cond.methodLink own index x).before args s = true ∧ (Cond.sameMethod x.cls owner x.name x.desc).before args s = true ∧ (∃ (cn : ClassId) (r0 : MethodId), s.vm.findClass x.cls = some cn ∧ s.methodNamed? ⟨owner, x.name, x.desc⟩ = some r0 ∧ lookupSpecial s.vm cn x.name x.desc = .method r0) ∧ (Cond.superclass own x.cls).before args s = true ∧ (Cond.instanceMethod ⟨owner, x.name, x.desc⟩).before args s = true ∧ (Cond.code ⟨owner, x.name, x.desc⟩ bytes maxL ret).before args s = true ∧ x.name ≠ "<init>" ∧ (∀ sig, parseMethodDescriptor x.desc = some sig → n = sig.parameters.length)
theorem va_cwD {own owner : String} {index maxL mc ms : Nat} {x : MethodName} {bytes : ByteArray} {ret : Option FieldType} {Ts ws ws' : List Cond} {rm : Room} (n : Nat) (ht : ∀ w ∈ Ts, w.before args s = true) (hG : GoodIn Ts ws) (hw : ws = Cond.code ⟨owner, x.name, x.desc⟩ bytes maxL ret :: ws') (hrc : rm.cells = mc) (hrs : rm.slots = ms)
    (h1 : va_Nw (.methodLink own index x) s) (h2 : va_Nw (.sameMethod x.cls owner x.name x.desc) s) (h3 : ∃ (cn : ClassId) (r0 : MethodId), s.vm.findClass x.cls = some cn ∧ s.methodNamed? ⟨owner, x.name, x.desc⟩ = some r0 ∧ lookupSpecial s.vm cn x.name x.desc = .method r0) (h4 : Cond.superclass own x.cls ∈ Ts) (h5 : Cond.instanceMethod ⟨owner, x.name, x.desc⟩ ∈ Ts)
    (hd : x.name ≠ "<init>" ∧ (parseMethodDescriptor x.desc).map (fun d => d.parameters.length) = some n) (hR : rm.frames + 1 ≤ R.frames ∧ 8 + (maxL + 11) + rm.locals ≤ R.locals) : va_CD R s args own owner index x bytes maxL ret ws rm mc ms n := by
  have hc : Cond.code ⟨owner, x.name, x.desc⟩ bytes maxL ret ∈ ws := by rw [hw]; exact List.mem_cons_self
  refine ⟨⟨hrc, hrs, hR.1, hR.2, pay_in ht hG, hc⟩, h1.use rfl, h2.use rfl, h3, ht _ h4, ht _ h5, ht _ (hG _ hc).1, hd.1, fun sig h => ?_⟩
  have h2 := hd.2
  rw [h] at h2
  exact (Option.some.inj h2).symm
/-- a virtual call by a class's name of a method that an interface declares -/
theorem va_cwAD {own C owner : String} {index maxL mc ms : Nat} {x y : MethodName} {bytes : ByteArray} {ret : Option FieldType} {Ts ws ws' : List Cond} {rm : Room} (n : Nat) (ht : ∀ w ∈ Ts, w.before args s = true) (hG : GoodIn Ts ws) (hw : ws = Cond.code y bytes maxL ret :: ws') (hrc : rm.cells = mc) (hrs : rm.slots = ms)
    (h1 : va_Nw (.methodLink own index x) s) (h2 : va_Nw (.sameMethod x.cls owner x.name x.desc) s) (h3 : Cond.selects C ⟨owner, x.name, x.desc⟩ y ∈ Ts) (h4 : Cond.instanceMethod y ∈ Ts) (h5 : Cond.initialized y.cls ∈ Ts)
    (hz : va_Nw (.declares ⟨owner, x.name, x.desc⟩) s) (hd : owner ≠ "java/lang/invoke/MethodHandle" ∧ owner ≠ "java/lang/invoke/VarHandle" ∧ (parseMethodDescriptor x.desc).map (fun d => d.parameters.length) = some n) (hR : rm.frames + 1 ≤ R.frames ∧ 8 + (maxL + 11) + rm.locals ≤ R.locals) : va_CU R s args own C owner index x y bytes maxL ret ws rm mc ms n := by
  have hc : Cond.code y bytes maxL ret ∈ ws := by rw [hw]; exact List.mem_cons_self
  have h2' : (Cond.sameMethod x.cls owner x.name x.desc).before args s = true := h2.use rfl
  have h3' : (Cond.selects C x y).before args s = true := by
    have h3 := ht _ h3
    obtain ⟨cn, ck, r1, hcn, hck, hni, hf, hn1⟩ := Cond.sameMethod_found h2'
    have hf2 := State.methodFound?_of_named hn1 ⟨hd.1, hd.2.1⟩
    simp only [Cond.before, Cond.holds, Cond.value, hf, hf2] at h3 ⊢
    exact h3
  refine ⟨⟨hrc, hrs, hR.1, hR.2, pay_in ht hG, hc⟩, ht _ (hG _ hc).1, ht _ h5, ⟨hd.1, hd.2.1⟩, fun sig h => ?_, h1.use rfl, h2', va_Decl.abs hz, h3', ht _ h4⟩
  have h2 := hd.2.2
  rw [h] at h2
  exact (Option.some.inj h2).symm
variable {H : Heap} {locs : List Loc} {cells slots : Nat}
theorem va_runSD {x : MethodName} {bytes cc : ByteArray} {maxL nL mc ms n index : Nat} {ret : Option FieldType} {ws : List Cond} {rm : Room} {Pc : Array Value → State → Prop} {Qc : Array Value → State → Outcome → State → Prop} {free : Addr → Prop} {Ts : List Cond} {own owner C : String} {cC : ClassId} {b : Addr} {As rest : List Value} {g : JFrame}
    (hat : ClassAt s C cC) (S : CallFix p m c cc nL s args Ts own) (hM : MetN l ⟨owner, x.name, x.desc⟩ ws rm Pc Qc mc ms free) (cw : va_CD R s args own owner index x bytes maxL ret ws rm mc ms n) (hp : PreV s H C b Pc As)
    (hg : g.method = m) (hn : As.length = n) (hsize : g.locals.size = nL) (hstack : g.stack = As.reverse ++ .ref b :: rest) (hW : 2 * g.monitorRoom + (rest.map fun v => v.category).sum ≤ 8) (hdg : decode cc g.pc = .ok (.invokespecial index, 3)) (hf : cells + mc ≤ R.cells ∧ slots + ms ≤ R.slots) :
    va_Run p l e R s m args below meth c H locs cells slots mc ms g rest (Qc (Value.ref b :: As).toArray) (free) := by
  obtain ⟨⟨hrc, hrs, hfr, hlo, hws, hcw⟩, hl1, hl2, hl9, hl3, hl4, hcode, hno, hlen⟩ := cw
  have hK : Back l R p e below s args ⟨owner, x.name, x.desc⟩ 3 8 (PreOf R mc ms Pc) (PostOf Qc mc ms free) := backN_of (bytes := bytes) (maxL := maxL) (ret := ret) hM hp.1 hrc hrs hfr hlo hws hcw
  obtain ⟨hx, hb, hml, ho, -⟩ := S
  obtain ⟨-, ⟨cellB, hcB, hoB, hclB⟩, hPc⟩ := hp
  obtain ⟨hfc, kB, hkB, -⟩ := hat
  cases hfc.symm.trans hclB
  intro T hT X
  obtain ⟨v, vm₁, ⟨U', l2, c2, s2⟩, hW₁, X', ⟨g', mk, t, L, e1, e2, hq, h1, hL, h2, h3⟩, st⟩ := va_callSD X hx (bytes := bytes) (maxL := maxL) (ret := ret) ho hl1 hl2 hl9 hl3 hl4 hcode hno hK (by rw [hT]; exact hcB) hoB hkB hg (hsize.trans hml.symm) (argsL := As) (rest := rest) (fun sig h => hn.trans (hlen sig h)) hstack hW (by rw [hb]; exact hdg)
    (fun vm₁ hW₁ => ⟨hf.1, hf.2, hPc (T.setVm vm₁) hT hW₁⟩)
  dsimp only [Pt.U, Pt.locs, Pt.cells, Pt.slots] at X' e1 e2 h1 h2 h3 st
  subst h1; subst h2; subst h3
  exact ⟨v, (T.setVm vm₁).calling g' mk (Value.ref b :: As).toArray, t, U', L, hT, X', hL, e1, e2, hq, st⟩
end VSD
section X25
variable {p : Program} {l : Launch} {e : Env} {R0 : Room} {s : State} {m : MethodId} {args : Array Value} {below : List Frame} {meth : Method} {c : Code} {H : Heap} {locs : List Loc} {cells slots : Nat} {Q : State → Prop}
variable {cc : ByteArray} {pc : Nat} {ls : Array Slot} {rest st0 : List Value} {D : dd_} {s0 : State} {base : Nat} {H0 : Heap}
variable {bytes : ByteArray} {maxL nL n index : Nat} {ret : Option FieldType} {rm : Room} {own owner C : String} {b : Addr} {As : List Value} {Sc : sp_} {adc : Nat → Nat} {Ic Ic1 : Nat → Int32} {Ac Ac1 : Nat → Nat → Int32} {Rc Rc1 : Nat → Option Nat} {Gc Gc1 : Nat → Nat → Option Nat} {Xc Xc1 : va_W}
theorem x_sdW {cC : ClassId} {x : MethodName} {ov : Option Value} (hat : ClassAt s C cC) (F : CallFix p m c cc nL s args lw_all own) (hM : MetN l ⟨owner, x.name, x.desc⟩ (ws_ ⟨owner, x.name, x.desc⟩ bytes maxL ret) rm (PcX D s0 Sc adc Ic Ac Rc Gc Xc base (.ref b :: As)) (QcX D Sc adc Ic1 Ac1 Rc1 Gc1 Xc1 base ov) 0 0 (upB base)) (cw : va_CD R0 s args own owner index x bytes maxL ret (ws_ ⟨owner, x.name, x.desc⟩ bytes maxL ret) rm 0 0 n) (hrec : ∃ cell : Cell, H[b]? = some cell ∧ cell.vm.isStatics = false ∧ s.vm.findClass C = some cell.cls) (hK : Kx D s) (hY : s0.WarmedH s.vm) (hB : base ≤ H.size) (hW : WX D Sc adc Ic Ac Rc Gc Xc H) (hS : va_S (upB base) H0 H locs) (hcs : cells ≤ R0.cells ∧ slots ≤ R0.slots)
    (hn : As.length = n) (hsize : ls.size = nL) (hstack : st0 = As.reverse ++ .ref b :: rest) (hr : (rest.map fun v => v.category).sum ≤ 8) (hdg : decode cc pc = .ok (.invokespecial index, 3)) (kk : ∀ (H1 : Heap) (locs1 : List Loc), WX D Sc adc Ic1 Ac1 Rc1 Gc1 Xc1 H1 → va_S (upB base) H0 H1 locs1 → W p l e R0 s m args below meth c H1 locs1 cells slots Q (F0 m (pc + 3) ls (ov.toList ++ rest))) : W p l e R0 s m args below meth c H locs cells slots Q (F0 m pc ls st0) :=
  x_endW (va_runSD (g := F0 m pc ls st0) hat F hM cw ⟨PcX_blind, hrec, pcx_at hY hK hB hW⟩ rfl hn hsize hstack (lv_room (m := m) (pc := pc) (ls := ls) (rest := st0) hr) hdg hcs) hS kk
end X25
