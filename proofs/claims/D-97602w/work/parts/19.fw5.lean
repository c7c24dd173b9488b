/-! FRAMEWORK 5: methods that throw, calls that throw, what is caught -/
set_option maxRecDepth 100000
/-- the search for a handler ends in h, and leaves the tables vm' -/
def fdT (e : Env) (s : State) (f : JFrame) (a : Addr) (h : Handler) (vm' : Vm) : Prop :=
  ∀ (Q : Handler → Pre) (E : CtlPost) (d : Bool) (acts : List Action), wp (findHandler f a) Q E e d acts s ↔ Q h d acts (s.setVm vm')
theorem fd_go {Q : Handler → Pre} {E : CtlPost} {e : Env} {d : Bool} {acts : List Action} {s : State} {f : JFrame} {a : Addr} {x : ExceptionTableEntry} {t : List ExceptionTableEntry} {k : ClassId} {cell : Cell} (hx : covers x f.pc = true) (h0 : x.catchType ≠ 0)
    (hl : s.vm.ClassLinks e.platform f.method.cls x.catchType k) (hcell : s.heap[a]? = some cell) (hobj : ∀ k, cell.vm ≠ .statics k) (hk : ∃ q, s.vm.classes[cell.cls]? = some q) (hc : ∃ q, s.vm.classes[k]? = some q) (hfit : s.vm.assignable cell.cls k = true) :
    wp (findHandler.go f a (x :: t)) Q E e d acts s ↔ Q (.found x.handlerPc) d acts (s.setVm (s.vm.noted f.method.cls x.catchType (.cls k))) := by
  obtain ⟨ha, ht⟩ := (resolveClass_links e.toSetting hl).op (op := VmOp.resolveClass f.method.cls x.catchType) rfl
  have al : s.vm.Alike (s.vm.noted f.method.cls x.catchType (.cls k)) := (Vm.Alike.refl s.vm).noted _ _ _
  obtain ⟨q1, z1⟩ := hk
  obtain ⟨q2, z2⟩ := hc
  obtain ⟨r1, y1, -⟩ := al.2.2 _ _ z1
  obtain ⟨r2, y2, -⟩ := al.2.2 _ _ z2
  have fit : (s.vm.noted f.method.cls x.catchType (.cls k)).assignable cell.cls k = true := by rw [al.assignable]; exact hfit
  simp only [covers] at hx
  simp [findHandler.go, hx, h0, ha, ht, hcell, hobj, y1, y2, fit, VmOp.dirties, VmOp.acts]
/-- the first row that covers the place catches it -/
theorem fd_link {e : Env} {s : State} {f : JFrame} {a : Addr} {meth : Method} {code : Code} (hm : s.vm.method? f.method = some meth) (hc : meth.code = some code) (pre : List ExceptionTableEntry) (x : ExceptionTableEntry) (rest : List ExceptionTableEntry) (hs : code.exceptionTable.toList = pre ++ x :: rest)
    (hn : ∀ y ∈ pre, covers y f.pc = false) (hx : covers x f.pc = true) (h0 : x.catchType ≠ 0) {k : ClassId} {cell : Cell} (hl : s.vm.ClassLinks e.platform f.method.cls x.catchType k) (hcell : s.heap[a]? = some cell) (hobj : ∀ k, cell.vm ≠ .statics k) (hk : ∃ q, s.vm.classes[cell.cls]? = some q) (hcl : ∃ q, s.vm.classes[k]? = some q) (hfit : s.vm.assignable cell.cls k = true) :
    fdT e s f a (.found x.handlerPc) (s.vm.noted f.method.cls x.catchType (.cls k)) := by
  intro Q E d acts
  rw [W.findHandler_eq hm hc, hs]
  clear hs
  induction pre with
  | nil => exact fd_go hx h0 hl hcell hobj hk hcl hfit
  | cons y ys ih =>
    rw [List.cons_append, W.findHandler_go_skip (hn y List.mem_cons_self)]
    exact ih (fun z hz => hn z (List.mem_cons_of_mem _ hz))
theorem fd_step {e : Env} {s : State} {a : Addr} {f : JFrame} {r : List Frame} {pc : Nat} {vm' : Vm} (h : fdT e s f a (.found pc) vm') :
    (stepThrowing e s a (.java f :: r)).Is ((s.setVm vm').setFrames (.java { f with pc := pc, stack := [.ref a] } :: r)) [] := by
  simp only [stepThrowing, searchFrame, vmDo]
  generalize hr : Sem.go _ e false [] s = res
  obtain ⟨as, rfl, ha⟩ := Sem.eq_ok_of hr (a := Handler.found pc) (s' := s.setVm vm') (acts' := []) (by simp [h _ _ _ _])
  exact ⟨rfl, ha⟩
theorem fd_sf (u : State) (v : Vm) (F G : List Frame) : ((u.setFrames F).setVm v).setFrames G = (u.setVm v).setFrames G := by
  rw [show (u.setFrames F).setVm v = (u.setVm v).setFrames F from rfl, State.setFrames_setFrames]
theorem fd_caught {tb : Tables} {e : Env} {s target : State} {g : JFrame} {c : Code} {below : List Frame} {a : Addr} (h : At s g.method c below) {pc : Nat} {vm' : Vm}
    (hf : fdT e ((s.setTop g).pushFrame (.throwing a)) g a (.found pc) vm') (hrest : Steps tb e below ((s.setVm vm').setTop { g with pc := pc, stack := [.ref a] }) target) : Steps tb e below ((s.setTop g).pushFrame (.throwing a)) target := by
  obtain ⟨hgo, hw⟩ := h.throwing a
  refine Steps.head hgo hw ?_
  rw [stepThread_throwing (frames_entered h.top _), (fd_step (s := (s.setTop g).pushFrame (.throwing a)) hf).1]
  obtain ⟨g0, hg⟩ := Option.isSome_iff_exists.mp h.top
  obtain ⟨r, hr⟩ := State.topJava?_eq_some.mp hg
  have hr' : (s.setVm vm').frames = .java g0 :: r := hr
  rw [State.setTop_of_frames _ hr'] at hrest
  rw [hr, List.tail_cons, State.pushFrame, fd_sf, State.setTop_of_frames _ hr, fd_sf]
  exact hrest
/-- a method's contract: it throws -/
def MetT (l : Launch) (y : MethodName) (ws : List Cond) (rm : Room) (Pc : Array Value → State → Prop) (Qt : Array Value → State → Addr → State → Prop) (mc ms : Nat) (free : Addr → Prop) : Prop :=
  MetFree l y (headSpec ws rm) Pc (fun _ _ _ _ _ => True) (fun a st o t => ∃ x, Qt a st x t ∧ ∃ L, (o = .threw x ∧ st.WarmedH t.vm ∧ st.sameButNew ({ t with vm := st.vm } : State) L mc ms) ∧ ∀ q ∈ L, free q.base)
def MQT (below : List Frame) (Qt : Array Value → State → Addr → State → Prop) (a : Array Value) (s : State) (mc ms : Nat) (free : Addr → Prop) : State → Prop := fun t =>
  ∃ x, t.status = .running ∧ Ended t below (.threw x) ∧ Qt a s x t ∧ ∃ L, (s.WarmedH t.vm ∧ s.sameButNew ({ t with vm := s.vm } : State) L mc ms) ∧ ∀ q ∈ L, free q.base
theorem MetT.ofW {l : Launch} {y : MethodName} {ws ws' : List Cond} {rm : Room} {Pc : Array Value → State → Prop} {Qt : Array Value → State → Addr → State → Prop} {mc ms : Nat} {free : Addr → Prop} {cc : ByteArray} {maxL : Nat} {ret : Option FieldType}
    (hy : plainName y.cls = true) (hw : ws = Cond.code y cc maxL ret :: ws')
    (body : ∀ p e s m args below meth c s₁, BodyLoose p l y (headSpec ws rm) cc maxL ret e s m args below meth c s₁ → c.maxLocals = maxL → Pc args s →
      W p l e (headSpec ws rm).room s m args below meth c s.heap [] 0 0 (MQT below Qt args s mc ms free) (entryFrame m args maxL)) : MetT l y ws rm Pc Qt mc ms free := by
  refine MetFree.of_bodyS (code := cc) (maxLocals := maxL) (ret := ret) hy ?_ ?_
  · intro args s m h hn
    obtain ⟨meth, c, h1, h2, h3, h4, h5, h6, -, -⟩ := Cond.code_spec hn (atoms_spec (ws := ws) h _ (by rw [hw]; exact List.mem_cons_self))
    exact ⟨meth, c, h1, h2, h3, h4, h5, h6⟩
  · intro p e s m args below meth c s₁ B hml hP _
    have hh0 : s₁.heap = s.heap := by rw [B.state]; rfl
    obtain ⟨t, a1, x, b1, b2, b3, L, b4, b5⟩ := body p e s m args below meth c s₁ B hml hP s₁ hh0 (Stand.of_body B)
    exact ⟨t, .threw x, a1, b1, b2, x, b3, L, ⟨rfl, b4.1, b4.2⟩, b5⟩
section THROWS
variable {p : Program} {l : Launch} {e : Env} {R0 : Room} {s : State} {m : MethodId} {args : Array Value} {below : List Frame} {meth : Method} {c : Code} {H : Heap} {locs : List Loc} {cells slots : Nat} {Q : State → Prop}
variable {cc : ByteArray} {pc : Nat} {ls : Array Slot} {rest st0 : List Value}
/-- the method throws what is on the stack, and no handler of its own covers the place -/
theorem w_athrow {Qt : Array Value → State → Addr → State → Prop} {free : Addr → Prop} {a : Addr} (hexec : p.tables.exec = Jvm.exec) (hb : c.code = cc) (hlocks : meth.locks = false) (hout : ∀ x ∈ c.exceptionTable.toList, covers x pc = false)
    (hq : ∀ t : State, t.heap = H → s.WarmedH t.vm → Qt args s a t) (hf : ∀ q ∈ locs, free q.base) (hdg : decode cc pc = .ok (.athrow, 1)) : W p l e R0 s m args below meth c H locs cells slots (MQT below Qt args s cells slots free) (F0 m pc ls (.ref a :: rest)) := by
  intro T hT X
  obtain ⟨h1, h2, h3, h4, h5⟩ := X.athrowLeaves hexec (g := F0 m pc ls (.ref a :: rest)) rfl rfl rfl hout rfl (by rw [hb]; exact hdg) hlocks
  exact ⟨_, h1, a, h2, h3, hq _ hT h4, locs, ⟨h4, h5⟩, hf⟩
/-- a call that throws -/
def RunT (p : Program) (l : Launch) (e : Env) (R : Room) (s : State) (m : MethodId) (args : Array Value) (below : List Frame) (meth : Method) (c : Code) (H : Heap) (locs : List Loc) (cells slots mc ms : Nat) (g : JFrame) (rest : List Value) (Qa : State → Addr → State → Prop) (free : Addr → Prop) : Prop :=
  ∀ T : State, T.heap = H → Stand p l e R s m args below meth c T locs cells slots → ∃ (x : Addr) (st₀ t T' : State) (L : List Loc), st₀.heap = H ∧ Stand p l e R s m args below meth c T' (locs ++ L) (cells + mc) (slots + ms) ∧ (∀ q ∈ L, free q.base) ∧ T'.heap = t.heap ∧ T'.vm = t.vm ∧ Qa st₀ x t ∧
    Steps p.tables e below (T.setTop g) ((T'.setTop { g with stack := rest }).pushFrame (.throwing x))
/-- it leaves this method too -/
theorem w_prop {Qa : State → Addr → State → Prop} {fr free : Addr → Prop} {mc ms : Nat} {Qt : Array Value → State → Addr → State → Prop} (hlocks : meth.locks = false) (hout : ∀ x ∈ c.exceptionTable.toList, covers x pc = false) (hr : RunT p l e R0 s m args below meth c H locs cells slots mc ms (F0 m pc ls st0) rest Qa fr)
    (hq : ∀ (st₀ t : State) (x : Addr), st₀.heap = H → s.WarmedH t.vm → Qa st₀ x t → ∀ t' : State, t'.heap = t.heap → t'.vm = t.vm → Qt args s x t') (hf : ∀ q ∈ locs, free q.base) (hfr : ∀ q, fr q → free q) : W p l e R0 s m args below meth c H locs cells slots (MQT below Qt args s (cells + mc) (slots + ms) free) (F0 m pc ls st0) := by
  intro T hT X
  obtain ⟨x, st₀, t, T', L, h0, X', hL, e1, e2, hQ, st⟩ := hr T hT X
  obtain ⟨h1, h2, h3, h4, h5⟩ := X'.leaveThrown x (g := { F0 m pc ls st0 with stack := rest }) rfl rfl rfl hout hlocks
  refine ⟨_, st.trans h1, x, h2, h3, hq st₀ t x h0 (by rw [← e2]; exact X'.warmed) hQ _ e1 e2, locs ++ L, ⟨h4, h5⟩, fun q hq => ?_⟩
  rcases List.mem_append.mp hq with h | h
  · exact hf q h
  · exact hfr _ (hL q h)
/-- it is caught in this method, by a class -/
theorem w_caught {Qa : State → Addr → State → Prop} {fr : Addr → Prop} {mc ms hpc ct : Nat} {own C : String} (hown : s.vm.findClass own = some m.cls) (hlink : (Cond.classLink own ct C).before args s = true) (pre rs : List ExceptionTableEntry) (x0 : ExceptionTableEntry) (hs : c.exceptionTable.toList = pre ++ x0 :: rs) (hn : ∀ y ∈ pre, covers y pc = false) (hx : covers x0 pc = true) (h0 : x0.catchType = ct) (h1 : ct ≠ 0) (hp : x0.handlerPc = hpc)
    (hr : RunT p l e R0 s m args below meth c H locs cells slots mc ms (F0 m pc ls st0) rest Qa fr)
    (hcl : ∀ (st₀ t : State) (x : Addr), Qa st₀ x t → ∃ cell : Cell, t.heap[x]? = some cell ∧ cell.vm = .none ∧ (∃ q, s.vm.classes[cell.cls]? = some q) ∧ ∀ k, s.vm.findClass C = some k → (∃ q, s.vm.classes[k]? = some q) ∧ s.vm.assignable cell.cls k = true)
    (kk : ∀ (x : Addr) (st₀ t : State) (H1 : Heap) (L : List Loc), st₀.heap = H → t.heap = H1 → s.vm.Alike t.vm → Qa st₀ x t → (∀ q ∈ L, fr q.base) → W p l e R0 s m args below meth c H1 (locs ++ L) (cells + mc) (slots + ms) Q (F0 m hpc ls [.ref x])) : W p l e R0 s m args below meth c H locs cells slots Q (F0 m pc ls st0) := by
  intro T hT X
  obtain ⟨x, st₀, t, T', L, z0, X', hL, e1, e2, hQ, st⟩ := hr T hT X
  have hpl : e.platform.magicAccessors = ({} : Platform).magicAccessors := by rw [X.admits.platform]
  obtain ⟨k, hk, hcl0⟩ := Cond.classLink_spec hown hlink e.platform hpl
  obtain ⟨cell, g1, g2, ⟨q1, g3⟩, g4⟩ := hcl st₀ t x hQ
  obtain ⟨⟨q2, g5⟩, g6⟩ := g4 k hk
  have al := X'.warmed.alike
  obtain ⟨r1, y1, -⟩ := al.2.2 _ _ g3
  obtain ⟨r2, y2, -⟩ := al.2.2 _ _ g5
  have ev : ((T'.setTop { F0 m pc ls st0 with stack := rest }).pushFrame (.throwing x)).vm = T'.vm := Stand.throwing_vm _ _ _
  have eh : ((T'.setTop { F0 m pc ls st0 with stack := rest }).pushFrame (.throwing x)).heap = T'.heap := Stand.throwing_heap _ _ _
  have hf := fd_link (e := e) (s := (T'.setTop { F0 m pc ls st0 with stack := rest }).pushFrame (.throwing x)) (f := { F0 m pc ls st0 with stack := rest }) (a := x) (meth := meth) (code := c) (k := k) (cell := cell) (by rw [ev]; exact X'.method') X'.code pre x0 rs hs hn hx (by rw [h0]; exact h1) (by rw [ev, h0]; exact X'.warmed.classLinks hcl0) (by rw [eh, e1]; exact g1) (fun k h => by rw [g2] at h; cases h) (by rw [ev]; exact ⟨r1, y1⟩) (by rw [ev]; exact ⟨r2, y2⟩) (by rw [ev, al.assignable]; exact g6)
  rw [ev, h0, hp] at hf
  obtain ⟨dk, _, _, _, hd, _, _, _, _, _, _, hres⟩ := hcl0.here
  have hW2 : s.WarmedH (T'.vm.noted m.cls ct (.cls k)) := X'.warmed.noted hd hres (State.rightAt_cls hcl0)
  obtain ⟨t2, a1, b1⟩ := kk x st₀ t T'.heap L z0 e1.symm (by rw [← e2]; exact al) hQ hL (T'.setVm (T'.vm.noted m.cls ct (.cls k))) rfl (X'.noted hW2)
  exact ⟨t2, st.trans (fd_caught (g := { F0 m pc ls st0 with stack := rest }) X'.here hf a1), b1⟩
end THROWS
