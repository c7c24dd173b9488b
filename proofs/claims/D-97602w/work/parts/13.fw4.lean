/-! FRAMEWORK 4: shifted worlds, the register of people, words of calls, arraycopy, calls through an interface -/
set_option maxRecDepth 100000
def sh {α : Type} (k : Nat) (f : Nat → α) : Nat → α := fun i => f (k + i)
def mg {α : Type} (k : Nat) (f g : Nat → α) : Nat → α := fun i => if k ≤ i ∧ i < k + 100 then g (i - k) else f i
theorem mg_sh {α : Type} (k : Nat) (f : Nat → α) : mg k f (sh k f) = f := by
  funext i
  unfold mg sh
  by_cases h : k ≤ i ∧ i < k + 100
  · rw [if_pos h]; congr 1; omega
  · rw [if_neg h]
/-- the list at pl holds n people of the kinds ks, each with its own number -/
def RegX (D : dd_) (X : va_W) (pl n : Nat) (ks : Nat → Nat) : Prop := ∃ (mc : Int32) (ed : Nat), (pl, Sum.inr (13, [.int mc, .ref ed, .int (nI n)])) ∈ X ∧ n ≤ 5 ∧ ∀ i, i < n → 1 ≤ ks i ∧ ks i ≤ 5 ∧ ∃ (cap : Nat) (g : Nat → Option Nat) (pa : Nat), (ed, Sum.inl (D.2 (.object "java/lang/Object"), cap, Sum.inr (Sum.inr (Sum.inr (Sum.inr g))))) ∈ X ∧ i < cap ∧ cap < 2 ^ 31 ∧ g i = some pa ∧ (pa, Sum.inr (7 + ks i, [.int (nI i)])) ∈ X
theorem RegX.mono {D : dd_} {X X' : va_W} {pl n : Nat} {ks : Nat → Nat} (h : RegX D X pl n ks) (hm : ∀ q ∈ X, q ∈ X') : RegX D X' pl n ks := by
  obtain ⟨mc, ed, h1, h2, h3⟩ := h
  refine ⟨mc, ed, hm _ h1, h2, fun i hi => ?_⟩
  obtain ⟨a, b, cap, g, pa, c1, c2, c3, c4, c5⟩ := h3 i hi
  exact ⟨a, b, cap, g, pa, hm _ c1, c2, c3, c4, hm _ c5⟩
theorem lw_SU {own : String} {idx : Nat} {y : MethodName} {b : ByteArray} {L : Nat} {r : Option FieldType} (h1 : Cond.methodLink own idx y ∈ lw_all) (h2 : Cond.sameMethod y.cls y.cls y.name y.desc ∈ lw_all) (h3 : Cond.superclass own y.cls ∈ lw_all) (h4 : Cond.instanceMethod y ∈ lw_all) (h5 : Cond.initialized y.cls ∈ lw_all) (h6 : Cond.code y b L r ∈ lw_all) : GoodIn lw_all (va_wsSU own idx y (ws_ y b L r)) := by
  refine lw_app ?_ (lw_meth h6)
  intro w hw
  simp only [List.mem_cons, List.not_mem_nil, or_false] at hw
  rcases hw with e | e | e | e | e
  · rw [e]; exact h1
  · rw [e]; exact h2
  · rw [e]; exact h3
  · rw [e]; exact h4
  · rw [e]; exact h5
theorem lw_U {own : String} {idx : Nat} {C owner : String} {x y : MethodName} {b : ByteArray} {L : Nat} {r : Option FieldType} (h1 : Cond.methodLink own idx x ∈ lw_all) (h2 : Cond.sameMethod x.cls owner x.name x.desc ∈ lw_all) (h3 : Cond.selects C x y ∈ lw_all) (h4 : Cond.instanceMethod y ∈ lw_all) (h5 : Cond.initialized y.cls ∈ lw_all) (h6 : Cond.code y b L r ∈ lw_all) : GoodIn lw_all (va_wsU own idx C owner x y (ws_ y b L r)) := by
  refine lw_app ?_ (lw_meth h6)
  intro w hw
  simp only [List.mem_cons, List.not_mem_nil, or_false] at hw
  rcases hw with e | e | e | e | e
  · rw [e]; exact h1
  · rw [e]; exact h2
  · rw [e]; exact h3
  · rw [e]; exact h4
  · rw [e]; exact h5
theorem lw_O {own : String} {idx : Nat} {C owner : String} {x y : MethodName} {b : ByteArray} {L : Nat} {r : Option FieldType} (h1 : Cond.methodLink own idx x ∈ lw_all) (h2 : Cond.sameMethod x.cls owner x.name x.desc ∈ lw_all) (h7 : Cond.instanceMethod ⟨owner, x.name, x.desc⟩ ∈ lw_all) (h3 : Cond.selects C x y ∈ lw_all) (h4 : Cond.instanceMethod y ∈ lw_all) (h5 : Cond.initialized y.cls ∈ lw_all) (h6 : Cond.code y b L r ∈ lw_all) : GoodIn lw_all (va_wsO own idx C owner x y (ws_ y b L r)) := by
  refine lw_app ?_ (lw_meth h6)
  intro w hw
  simp only [List.mem_cons, List.not_mem_nil, or_false] at hw
  rcases hw with e | e | e | e | e | e
  · rw [e]; exact h1
  · rw [e]; exact h2
  · rw [e]; exact h7
  · rw [e]; exact h3
  · rw [e]; exact h4
  · rw [e]; exact h5
theorem lw_F {own : String} {idx : Nat} {C : String} {x y : MethodName} {b : ByteArray} {L : Nat} {r : Option FieldType} (h1 : Cond.methodLink own idx x ∈ lw_all) (h3 : Cond.selects C x y ∈ lw_all) (h4 : Cond.instanceMethod y ∈ lw_all) (h5 : Cond.initialized y.cls ∈ lw_all) (h6 : Cond.code y b L r ∈ lw_all) : GoodIn lw_all (va_wsF own idx C x y (ws_ y b L r)) := by
  refine lw_app ?_ (lw_meth h6)
  intro w hw
  simp only [List.mem_cons, List.not_mem_nil, or_false] at hw
  rcases hw with e | e | e | e
  · rw [e]; exact h1
  · rw [e]; exact h3
  · rw [e]; exact h4
  · rw [e]; exact h5
section XROWS4
variable {p : Program} {l : Launch} {e : Env} {R0 : Room} {s : State} {m : MethodId} {args : Array Value} {below : List Frame} {meth : Method} {c : Code} {H : Heap} {locs : List Loc} {cells slots : Nat} {Q : State → Prop}
variable {cc : ByteArray} {pc : Nat} {ls : Array Slot} {rest st0 : List Value} {D : dd_} {s0 : State} {S : sp_} {ad : Nat → Nat} {I : Nat → Int32} {A : Nat → Nat → Int32} {R : Nat → Option Nat} {G : Nat → Nat → Option Nat} {X : va_W} {base : Nat} {H0 : Heap}
variable {y : MethodName} {bytes : ByteArray} {maxL nL n index : Nat} {ret : Option FieldType} {rm : Room} {own C : String} {b : Addr} {As : List Value} {Sc : sp_} {adc : Nat → Nat} {Ic Ic1 : Nat → Int32} {Ac Ac1 : Nat → Nat → Int32} {Rc Rc1 : Nat → Option Nat} {Gc Gc1 : Nat → Nat → Option Nat} {Xc Xc1 : va_W}
theorem x_copyi (hexec : p.tables.exec = Jvm.exec) (hb : c.code = cc) (hml : c.maxLocals = nL) (hls : ls.size = nL) (hts : ∀ w ∈ lw_all, w.before args s = true) (hown : s.vm.findClass own = some m.cls) (hlink : Cond.methodLink own index arraycopyName ∈ lw_all)
    (hK : Kx D s) (hw : wfS S) (hAP : AP S ad X base) (hW : WX D S ad I A R G X H) (hS : va_S (upB base) H0 H locs) {i j n0 n1 : Nat} (hq0 : (i, n0, FieldType.int) ∈ S.2.1) (hq1 : (j, n1, FieldType.int) ∈ S.2.1) {sp dp k : Int32} {f : Nat → Int32} (hv : cpO (A i) (A j) n0 n1 sp dp k = some f) (hframes : 1 ≤ R0.frames) (hlocals : (rest.map fun v => v.category).sum + (nativeFrameWords "java/lang/System" "arraycopy" 5 + 11) ≤ R0.locals) (hdg : decode cc pc = .ok (.invokestatic index, 3))
    (kk : ∀ (H1 : Heap) (locs1 : List Loc), WX D S ad I (va_up A j f) R G X H1 → va_S (upB base) H0 H1 locs1 → W p l e R0 s m args below meth c H1 locs1 cells slots Q (F0 m (pc + 3) ls rest)) : W p l e R0 s m args below meth c H locs cells slots Q (F0 m pc ls (.int k :: .int dp :: .ref (ad j) :: .int sp :: .ref (ad i) :: rest)) := by
  obtain ⟨⟨h1, h2, h3, h4, h5⟩, rfl⟩ := cpO_e hv
  obtain ⟨q0, z0⟩ := List.getElem?_of_mem (wl_a (D := D) (S := S) (ad := ad) (I := I) (A := A) (R := R) (G := G) hq0)
  obtain ⟨q1, z1⟩ := List.getElem?_of_mem (wl_a (D := D) (S := S) (ad := ad) (I := I) (A := A) (R := R) (G := G) hq1)
  obtain ⟨t0, ht⟩ := Kx.at (D := D) (U := s) (ty := .int) (by decide)
  exact va_copyi hexec hb (hml.trans hls.symm) hown (hts _ hlink) (hts _ q433) (hts _ q432) (hts _ q91) hK hW (wx_D hw hAP) hS q0 q1 t0 t0 (app_at z0) (app_at z1) ht ht rfl h1 h2 h3 h4 h5 (fun _ _ => rfl) hframes hlocals hdg (fun H1 locs1 hP _ hS => kk H1 locs1 (vaP_mem hP (set_app z1 (wl_setA hw hAP.1 hq1 z1 _))) hS)
theorem x_end5 {ov : Option Value} {a : Array Value} (hr : va_Run5 p l e R0 s m args below meth c H locs cells slots 0 0 (F0 m pc ls st0) rest (QcR ov a) (fun _ => False)) (kk : W p l e R0 s m args below meth c H locs cells slots Q (F0 m (pc + 5) ls (ov.toList ++ rest))) : W p l e R0 s m args below meth c H locs cells slots Q (F0 m pc ls st0) := by
  intro T hT X
  obtain ⟨v, st₀, t, T', L, h0, X', hL, e1, e2, ⟨hv, hh⟩, st⟩ := hr T hT X
  cases hv
  have hL0 : L = [] := List.eq_nil_iff_forall_not_mem.mpr fun q hq => hL q hq
  subst hL0
  rw [List.append_nil] at X'
  obtain ⟨t2, a1, b1⟩ := kk T' (by rw [e1, hh, h0]) X'
  exact ⟨t2, st t2 a1, b1⟩
/-- a call through an interface, a reader -/
theorem x_fR {x : MethodName} {cC : ClassId} {count : Nat} {ov : Option Value} (hat : ClassAt s C cC) (F : CallFix p m c cc nL s args lw_all own) (hM : Met l y (ws_ y bytes maxL ret) rm (PcX D s0 Sc adc Ic Ac Rc Gc Xc base (.ref b :: As)) (QcR ov) 0 0 (fun _ => False)) (cw : va_CI R0 s args own C index x y bytes maxL ret (ws_ y bytes maxL ret) rm 0 0 n) (hrec : ∃ cell : Cell, H[b]? = some cell ∧ cell.vm.isStatics = false ∧ s.vm.findClass C = some cell.cls) (hK : Kx D s) (hY : s0.WarmedH s.vm) (hB : base ≤ H.size) (hW : WX D Sc adc Ic Ac Rc Gc Xc H) (hcs : cells ≤ R0.cells ∧ slots ≤ R0.slots)
    (hn : As.length = n) (hsize : ls.size = nL) (hstack : st0 = As.reverse ++ .ref b :: rest) (hr : (rest.map fun v => v.category).sum ≤ 8) (hdg : decode cc pc = .ok (.invokeinterface index count, 5)) (kk : W p l e R0 s m args below meth c H locs cells slots Q (F0 m (pc + 5) ls (ov.toList ++ rest))) : W p l e R0 s m args below meth c H locs cells slots Q (F0 m pc ls st0) :=
  x_end5 (va_runF (g := F0 m pc ls st0) hat F hM cw ⟨PcX_blind, hrec, pcx_at hY hK hB hW⟩ rfl hn hsize hstack (lv_room (m := m) (pc := pc) (ls := ls) (rest := st0) hr) hdg hcs) kk
theorem x_cls (hK : Kx D s) {ci : Nat} {T : u_T} {N : Nat} (hc : vCl[ci]? = some (C, T, N)) : ClassAt s C (D.1.1 ci) := (hK.1 ci _ hc).2
end XROWS4
def mxI (x y : Int32) : Int32 := if x < y then y else x
def mnI (x y : Int32) : Int32 := if y < x then y else x
def abI (x : Int32) : Int32 := if 0 ≤ x then x else 0 - x
section XMATH
variable {p : Program} {l : Launch} {e : Env} {R0 : Room} {s : State} {m : MethodId} {args : Array Value} {below : List Frame} {meth : Method} {c : Code} {H : Heap} {locs : List Loc} {cells slots : Nat} {Q : State → Prop} {cc : ByteArray} {pc nL index : Nat} {ls : Array Slot} {rest : List Value} {own : String}
theorem x_max (hexec : p.tables.exec = Jvm.exec) (hb : c.code = cc) (hml : c.maxLocals = nL) (hls : ls.size = nL) (hts : ∀ w ∈ lw_all, w.before args s = true) (hown : s.vm.findClass own = some m.cls) (hlink : Cond.methodLink own index Lib.Math.max.name ∈ lw_all) (hframes : 1 ≤ R0.frames) (hlocals : (rest.map fun v => v.category).sum + 13 ≤ R0.locals) (hcs : cells ≤ R0.cells ∧ slots ≤ R0.slots) {x y : Int32} (hdg : decode cc pc = .ok (.invokestatic index, 3))
    (kk : W p l e R0 s m args below meth c H locs cells slots Q (F0 m (pc + 3) ls (.int (mxI x y) :: rest))) : W p l e R0 s m args below meth c H locs cells slots Q (F0 m pc ls (.int y :: .int x :: rest)) :=
  va_mmax hexec hb (hml.trans hls.symm) hown (hts _ hlink) (hts _ q692) (hts _ q104) (hts _ q693) hframes hlocals hcs.1 hcs.2 hdg kk
theorem x_min (hexec : p.tables.exec = Jvm.exec) (hb : c.code = cc) (hml : c.maxLocals = nL) (hls : ls.size = nL) (hts : ∀ w ∈ lw_all, w.before args s = true) (hown : s.vm.findClass own = some m.cls) (hlink : Cond.methodLink own index Lib.Math.min.name ∈ lw_all) (hframes : 1 ≤ R0.frames) (hlocals : (rest.map fun v => v.category).sum + 13 ≤ R0.locals) (hcs : cells ≤ R0.cells ∧ slots ≤ R0.slots) {x y : Int32} (hdg : decode cc pc = .ok (.invokestatic index, 3))
    (kk : W p l e R0 s m args below meth c H locs cells slots Q (F0 m (pc + 3) ls (.int (mnI x y) :: rest))) : W p l e R0 s m args below meth c H locs cells slots Q (F0 m pc ls (.int y :: .int x :: rest)) :=
  va_mmin hexec hb (hml.trans hls.symm) hown (hts _ hlink) (hts _ q728) (hts _ q104) (hts _ q729) hframes hlocals hcs.1 hcs.2 hdg kk
theorem x_abs (hexec : p.tables.exec = Jvm.exec) (hb : c.code = cc) (hml : c.maxLocals = nL) (hls : ls.size = nL) (hts : ∀ w ∈ lw_all, w.before args s = true) (hown : s.vm.findClass own = some m.cls) (hlink : Cond.methodLink own index Lib.Math.abs.name ∈ lw_all) (hframes : 1 ≤ R0.frames) (hlocals : (rest.map fun v => v.category).sum + 13 ≤ R0.locals) (hcs : cells ≤ R0.cells ∧ slots ≤ R0.slots) {x : Int32} (hdg : decode cc pc = .ok (.invokestatic index, 3))
    (kk : W p l e R0 s m args below meth c H locs cells slots Q (F0 m (pc + 3) ls (.int (abI x) :: rest))) : W p l e R0 s m args below meth c H locs cells slots Q (F0 m pc ls (.int x :: rest)) :=
  va_mabs hexec hb (hml.trans hls.symm) hown (hts _ hlink) (hts _ q939) (hts _ q104) (hts _ q940) hframes hlocals hcs.1 hcs.2 hdg kk
end XMATH
/-- the person at a place of the list -/
def pgO (n : Nat) (i : Int32) : Option Nat := if i < 0 ∨ n ≤ i.toNatClampNeg then none else some i.toNatClampNeg
theorem pgO_e {n : Nat} {i : Int32} {j : Nat} (h : pgO n i = some j) : vp_in i n ∧ i.toNatClampNeg = j := by
  unfold pgO at h
  by_cases c : i < 0 ∨ n ≤ i.toNatClampNeg
  · rw [if_pos c] at h; cases h
  · rw [if_neg c] at h; exact ⟨c, Option.some.inj h⟩
