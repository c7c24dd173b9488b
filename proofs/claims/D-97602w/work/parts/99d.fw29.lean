/-! FRAMEWORK 29: casts of people, and what a failing one says -/
set_option maxRecDepth 100000
def NC (s : State) (A B : String) : Prop := ∃ cA cB, s.vm.findClass A = some cA ∧ s.vm.findClass B = some cB ∧ s.vm.assignable cA cB = false
theorem NC.at {s U : State} {A B : String} (hW : s.WarmedH U.vm) (h : NC s A B) : NC U A B := by
  obtain ⟨cA, cB, h1, h2, h3⟩ := h
  exact ⟨cA, cB, by rw [hW.alike.findClass]; exact h1, by rw [hW.alike.findClass]; exact h2, by rw [hW.alike.assignable]; exact h3⟩
theorem NC.of {s : State} {A B : String} {args : Array Value} (h : (Cond.not (.castable A B)).before args s = true) : NC s A B := by
  simp only [Cond.before, Cond.holds, Cond.value] at h
  cases h1 : s.vm.findClass A with
  | none => simp [h1] at h
  | some cA =>
    cases h2 : s.vm.findClass B with
    | none => simp [h1, h2] at h
    | some cB => exact ⟨cA, cB, by first | rfl | exact h1, by first | rfl | exact h2, by simpa [h1, h2] using h⟩
abbrev kns : List String := ["PromisePounds$Grown", "PromisePounds$Candidate", "PromisePounds$Lover", "PromisePounds$Child", "PromisePounds$Liar"]
abbrev ncL : List (String × String) := [("PromisePounds$Child", "PromisePounds$Grown"), ("PromisePounds$Liar", "PromisePounds$Grown"), ("PromisePounds$Grown", "PromisePounds$Candidate"), ("PromisePounds$Lover", "PromisePounds$Candidate"), ("PromisePounds$Child", "PromisePounds$Candidate"), ("PromisePounds$Liar", "PromisePounds$Candidate"), ("PromisePounds$Grown", "PromisePounds$Lover"), ("PromisePounds$Candidate", "PromisePounds$Lover"), ("PromisePounds$Child", "PromisePounds$Lover"), ("PromisePounds$Liar", "PromisePounds$Lover"), ("PromisePounds$Grown", "PromisePounds$Child"), ("PromisePounds$Candidate", "PromisePounds$Child"), ("PromisePounds$Lover", "PromisePounds$Child"), ("PromisePounds$Grown", "PromisePounds$Liar"), ("PromisePounds$Candidate", "PromisePounds$Liar"), ("PromisePounds$Lover", "PromisePounds$Liar"), ("PromisePounds$Child", "PromisePounds$Liar")]
/-- what a cast that fails leans on -/
def CW (s : State) : Prop := (∀ a ∈ Bundle.messageArmAtoms ccN ccUp, va_Nw a s) ∧ modulesRight_1 s = true ∧ ∀ q ∈ ncL, NC s q.1 q.2
theorem fc_plain {vm : Vm} {name : String} {c : ClassId} (h : vm.findClass name = some c) : ∃ k, vm.classes[c]? = some k ∧ k.name = name ∧ k.hidden = none ∧ k.loader = none := by
  unfold Vm.findClass at h
  obtain ⟨hlt, hp, -⟩ := Array.findIdx?_eq_some_iff_getElem.mp h
  refine ⟨vm.classes[c], Array.getElem?_eq_getElem hlt, ?_⟩
  simp only [Bool.and_eq_true, beq_iff_eq, Option.isNone_iff_eq_none] at hp
  exact ⟨hp.1.1.1, hp.1.1.2, hp.2⟩
theorem mod_base {vm : Vm} {k : Class} (hl : k.loader = none) (hn : k.name ∈ kns) (hm : vm.modules.all (fun m => m.loader.isSome || m.name == "java.base" || !(castPackages_1.any fun p => m.packages.contains p)) = true) {m : ModuleInfo} (h : vm.moduleOf k = some m) : m.name = "java.base" := by
  unfold Vm.moduleOf at h
  by_cases c : k.ofPrimitives = true
  · rw [if_pos c] at h
    have := List.find?_some h
    simpa using this
  · rw [if_neg c] at h
    have h1 := List.find?_some h
    have h2 := List.mem_of_find?_eq_some h
    have h3 := List.all_eq_true.mp hm m h2
    have hp : packageOf k.name = "" := (by decide +kernel : ∀ n ∈ kns, packageOf n = "") k.name hn
    rw [hl, hp] at h1
    simp only [Bool.and_eq_true, beq_iff_eq] at h1
    simp only [h1.1, castPackages_1, Option.isSome_none, Bool.false_or, List.any_cons, h1.2, Bool.true_or, Bool.not_true, Bool.or_false, beq_iff_eq] at h3
    exact h3
theorem home_len {vm : Vm} {k : Class} (hl : k.loader = none) (hn : k.name ∈ kns) (hm : vm.modules.all (fun m => m.loader.isSome || m.name == "java.base" || !(castPackages_1.any fun p => m.packages.contains p)) = true) : (vm.home k).toList.length ≤ 38 := by
  unfold Vm.home
  rw [hl]
  cases h : vm.moduleOf k with
  | none => exact (by decide +kernel : (("unnamed module") ++ " of loader " ++ "'bootstrap'" : String).toList.length ≤ 38)
  | some m =>
    have := mod_base hl hn hm h
    show (("module " ++ m.name) ++ " of loader " ++ "'bootstrap'" : String).toList.length ≤ 38
    rw [this]
    decide +kernel
theorem shown_len {k : Class} (hh : k.hidden = none) (hn : k.name ∈ kns) : k.shown.toList.length ≤ 23 := by
  unfold Class.shown
  rw [hh]
  exact (by decide +kernel : ∀ n ∈ kns, (dotted n).toList.length ≤ 23) k.name hn
theorem homes_len {vm : Vm} {a b : Class} (ha : a.hidden = none) (hb : b.hidden = none) (hla : a.loader = none) (hlb : b.loader = none) (hna : a.name ∈ kns) (hnb : b.name ∈ kns) (hm : vm.modules.all (fun m => m.loader.isSome || m.name == "java.base" || !(castPackages_1.any fun p => m.packages.contains p)) = true) : (vm.homes a b).toList.length ≤ 140 := by
  have e1 := home_len hla hna hm
  have e2 := home_len hlb hnb hm
  have e3 := shown_len ha hna
  have e4 := shown_len hb hnb
  unfold Vm.homes
  split
  · show (toString a.shown ++ toString " and " ++ toString b.shown ++ toString " are in " ++ toString (vm.home a)).toList.length ≤ 140
    simp only [String.toList_append, List.length_append]
    have a1 : (toString " and ").toList.length = 5 := by decide
    have a2 : (toString " are in ").toList.length = 8 := by decide
    have e1 : (toString (vm.home a)).toList.length ≤ 38 := e1
    have e3 : (toString a.shown).toList.length ≤ 23 := e3
    have e4 : (toString b.shown).toList.length ≤ 23 := e4
    omega
  · show (toString a.shown ++ toString " is in " ++ toString (vm.home a) ++ toString "; " ++ toString b.shown ++ toString " is in " ++ toString (vm.home b)).toList.length ≤ 140
    simp only [String.toList_append, List.length_append]
    have a1 : (toString " is in ").toList.length = 7 := by decide
    have a2 : (toString "; ").toList.length = 2 := by decide
    have e1 : (toString (vm.home a)).toList.length ≤ 38 := e1
    have e2 : (toString (vm.home b)).toList.length ≤ 38 := e2
    have e3 : (toString a.shown).toList.length ≤ 23 := e3
    have e4 : (toString b.shown).toList.length ≤ 23 := e4
    omega
theorem cast_text {vm : Vm} {a b : Class} (ha : a.hidden = none) (hb : b.hidden = none) (hla : a.loader = none) (hlb : b.loader = none) (hna : a.name ∈ kns) (hnb : b.name ∈ kns) (hm : vm.modules.all (fun m => m.loader.isSome || m.name == "java.base" || !(castPackages_1.any fun p => m.packages.contains p)) = true) : (checkcast.message vm a b == notModelled) = false ∧ tB (checkcast.message vm a b) ≤ 960 := by
  have e0 := homes_len ha hb hla hlb hna hnb hm
  have e3 := shown_len ha hna
  have e4 := shown_len hb hnb
  have eq : checkcast.message vm a b = toString "class " ++ toString a.shown ++ toString " cannot be cast to class " ++ toString b.shown ++ toString " (" ++ toString (vm.homes a b) ++ toString ")" := rfl
  constructor
  · rw [beq_eq_false_iff_ne]
    intro h
    have h2 := congrArg String.toList h
    rw [eq] at h2
    have h4 : notModelled.toList = '\u0000' :: " a message that is not modelled".toList := by decide
    have h5 : (toString "class ").toList = 'c' :: "lass ".toList := by decide
    rw [h4] at h2
    simp only [String.toList_append, h5] at h2
    simp at h2
  · refine Nat.le_trans (tB_le _) ?_
    rw [eq]
    simp only [String.toList_append, List.length_append]
    have a1 : (toString "class ").toList.length = 6 := by decide
    have a2 : (toString " cannot be cast to class ").toList.length = 25 := by decide
    have a3 : (toString " (").toList.length = 2 := by decide
    have a4 : (toString ")").toList.length = 1 := by decide
    have e0 : (toString (vm.homes a b)).toList.length ≤ 140 := e0
    have e3 : (toString a.shown).toList.length ≤ 23 := e3
    have e4 : (toString b.shown).toList.length ≤ 23 := e4
    omega
section CT
variable {p : Program} {l : Launch} {e : Env} {R0 : Room} {s : State} {m : MethodId} {args : Array Value} {below : List Frame} {meth : Method} {c : Code} {H : Heap} {locs : List Loc} {cells slots : Nat} {Q : State → Prop}
variable {cc : ByteArray} {pc nL : Nat} {ls : Array Slot} {rest : List Value} {D : dd_} {s0 : State} {ad : Nat → Nat} {I : Nat → Int32} {A : Nat → Nat → Int32} {R : Nat → Option Nat} {G : Nat → Nat → Option Nat} {X : va_W} {base : Nat}
theorem cast_yes (hexec : p.tables.exec = Jvm.exec) (hb : c.code = cc) {own C nm : String} {index a : Nat} (hown : s.vm.findClass own = some m.cls) (hlink : (Cond.classLink own index nm).before args s = true) (hc : ∃ cA cB, s.vm.findClass C = some cA ∧ s.vm.findClass nm = some cB ∧ s.vm.assignable cA cB = true)
    (hr : ∃ cell : Cell, H[a]? = some cell ∧ cell.vm.isStatics = false ∧ s.vm.findClass C = some cell.cls) (hdg : decode cc pc = .ok (.checkcast index, 3))
    (k : W p l e R0 s m args below meth c H locs cells slots Q (F0 m (pc + 3) ls (.ref a :: rest))) : W p l e R0 s m args below meth c H locs cells slots Q (F0 m pc ls (.ref a :: rest)) := by
  obtain ⟨cell, h1, h2, h3⟩ := hr
  obtain ⟨c0, t0, f1, f2, f3⟩ := hc
  cases h3.symm.trans f1
  intro T hT X
  obtain ⟨vm', X', st⟩ := X.checkcastYes hexec hown hlink (by rw [hT]; exact h1) h2 f2 f3 (g := F0 m pc ls (.ref a :: rest)) rfl rfl (by rw [hb]; exact hdg)
  obtain ⟨t, a1, b1⟩ := k (T.setVm vm') hT X'
  exact ⟨t, st t a1, b1⟩
/-- a cast that fails, as a run -/
theorem cast_no {r1 r2 : Option Nat} {de : Nat} {C nm : String} {index a : Nat} (hexec : p.tables.exec = Jvm.exec) (hb : c.code = cc) (hml : c.maxLocals = nL) (htr : l.stackTraces = false) (hown : s.vm.findClass RX0 = some m.cls) (hlink : (Cond.classLink RX0 index nm).before args s = true) (hN : NC s0 C nm) (hC : C ∈ kns) (hM : nm ∈ kns) (hCW : CW s0) (hz : FZ base s0 r1 r2 de) (hY : s0.WarmedH s.vm) (hq0 : ∀ q : Nat, q < base → s.heap[q]? = s0.heap[q]?) (hB : base ≤ H.size)
    (hr : ∃ cell : Cell, H[a]? = some cell ∧ cell.vm.isStatics = false ∧ s.vm.findClass C = some cell.cls) (hsize : ls.size = nL) (hst : ((Value.ref a :: rest).map fun v => v.category).sum ≤ 8) (hRf : 6 < R0.frames) (hRl : 10248 ≤ R0.locals) (hRc : cells + 3 ≤ R0.cells) (hRs : slots + 1000 ≤ R0.slots) (hdg : decode cc pc = .ok (.checkcast index, 3)) :
    RunT p l e R0 s m args below meth c H [] cells slots 3 1000 (F0 m pc ls (.ref a :: rest)) (.ref a :: rest) (QtM ccN s) (upB base) := by
  obtain ⟨cell, h1, h2, h3⟩ := hr
  obtain ⟨cA, cB, f1, f2, f3⟩ := hN.at hY
  cases h3.symm.trans f1
  refine run_msg (names := ccUp) hexec hml htr (by decide +kernel) (by decide +kernel) (by decide +kernel) (by decide +kernel) (cc_at hCW.1 hz hY hq0) hsize hst hRf hRl (by decide) hRc hRs hB (fun T hT X => ?_)
  have hpl : e.platform.magicAccessors = ({} : Platform).magicAccessors := by rw [X.admits.platform]
  obtain ⟨c', hc', hcl⟩ := Cond.classLink_spec hown hlink e.platform hpl
  cases f2.symm.trans hc'
  obtain ⟨dk, _, _, kt, hd, _, _, _, _, hkt, _, hopen⟩ := hcl.here
  have hcl₀ := X.warmed.classLinks hcl
  have hW' : s.WarmedH (T.vm.noted m.cls index (.cls cB)) := X.warmed.noted hd hopen (State.rightAt_cls hcl)
  have g1 : (T.vm.noted m.cls index (.cls cB)).findClass C = some cell.cls := by rw [hW'.alike.findClass]; exact f1
  have g2 : (T.vm.noted m.cls index (.cls cB)).findClass nm = some cB := by rw [hW'.alike.findClass]; exact f2
  obtain ⟨ks', hks', n1, n2, n3⟩ := fc_plain g1
  obtain ⟨kt', hkt', n4, n5, n6⟩ := fc_plain g2
  have hal : s0.vm.Alike (T.vm.noted m.cls index (.cls cB)) := hY.alike.trans hW'.alike
  have hmod : (T.vm.noted m.cls index (.cls cB)).modules = s0.vm.modules := by rw [hal.1]
  obtain ⟨t1, t2⟩ := cast_text (vm := T.vm.noted m.cls index (.cls cB)) (a := ks') (b := kt') n2 n5 n3 n6 (by rw [n1]; exact hC) (by rw [n4]; exact hM) (by rw [hmod]; exact hCW.2.1)
  refine ⟨T.vm.noted m.cls index (.cls cB), checkcast.message (T.vm.noted m.cls index (.cls cB)) ks' kt', X.noted hW', t1, t2, fun target hrest => ?_⟩
  subst hb
  jvm_step X.here [hexec, hdg, checkcast.wp_cold (e := e) (s := T) (f := F0 m pc ls (.ref a :: rest)) X.here.top rfl (resolveClass_links e.toSetting hcl₀) hcl₀.ready,
    checkcast.wp_ready (e := e) (s := T.setVm (T.vm.noted m.cls index (.cls cB))) (f := F0 m pc ls (.ref a :: rest)) X.here.top hcl₀.ready rfl]
  refine ⟨cell, by rw [← hT] at h1; exact h1, (fun k hk => by rw [hk] at h2; cases h2), ks', hks', kt', hkt', ?_⟩
  rw [if_neg (by rw [hW'.alike.assignable, f3]; decide)]
  exact hrest
end CT
