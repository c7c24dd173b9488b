/-! FRAMEWORK 28: the machine's exceptions as runs, caught; a Finding thrown and caught in one method -/
set_option maxRecDepth 100000
theorem z_isRef {C n d : String} {x : Option Nat} {A : Nat → Prop} {s : State} {args : Array Value} (h : va_Z C n d (va_rf x) A s s.heap) : (Cond.isRef (.static C n d)).before args s = true := by
  obtain ⟨cf, kf, fi, f, a, cell, h1, h2, h3, h4, h5, h6, h7, h8⟩ := h
  have e : (Term.static C n d).eval args s none [] s = some (va_rf x) := by simp [Term.eval, State.fieldNamed?, h1, h2, h4, h5, h6, h7]
  simp only [Cond.before, Cond.holds, Cond.value, e]
  cases x <;> rfl
theorem z_lays {C n d : String} {v : Value} {base : Nat} {s0 s : State} {args : Array Value} (hz : va_Z C n d v (upB base) s0 s0.heap) (hY : s0.WarmedH s.vm) (hq0 : ∀ q : Nat, q < base → s.heap[q]? = s0.heap[q]?) (hb : va_Nw (.laysStatic C n d) s0) : (Cond.laysStatic C n d).before args s = true := by
  have h1 : (Cond.laysStatic C n d).holds #[] (s0.setVm s.vm) none (s0.setVm s.vm) [] = true := Cond.holds_shifted (State.Shifted.of_warmed hY) _ [] rfl hb
  obtain ⟨c, k, i, f, a, cell, e1, e2, e3, e4, e5, e6, e7, e8, e9⟩ := Cond.laysStatic_spec h1
  obtain ⟨cf, kf, fi, f', a', cell', g1, g2, g3, g4, g5, g6, g7, g8⟩ := FZ.at hz hY hq0
  have e1 : s.vm.findClass C = some c := e1
  have e2 : s.fieldFound? C n d = some (c, k, i, f) := e2
  cases e2.symm.trans g1
  cases e4.symm.trans g4
  have e5 : s.heap[a]? = some cell := (hq0 a (Nat.not_le.mp g8)).trans e5
  simp [Cond.before, Cond.holds, Cond.value, e1, e2, e3, e4, e5, e6, e7, e8, e9]
def mvK : Cond → Bool
  | .laysStatic a b c => a == "java/lang/Throwable" && ((b == "UNASSIGNED_STACK" && c == "[Ljava/lang/StackTraceElement;") || (b == "SUPPRESSED_SENTINEL" && c == "Ljava/util/List;"))
  | .arrayClass _ => true
  | .castable _ _ => true
  | .declares _ => true
  | .isRef (.static a b c) => a == "java/lang/Throwable" && ((b == "UNASSIGNED_STACK" && c == "[Ljava/lang/StackTraceElement;") || (b == "SUPPRESSED_SENTINEL" && c == "Ljava/util/List;"))
  | .isRef _ => false
  | c => c.onTables && c.keeps
theorem mv_at {base : Nat} {s0 s : State} {r1 r2 : Option Nat} {de : Nat} {args : Array Value} (hz : FZ base s0 r1 r2 de) (hY : s0.WarmedH s.vm) (hq0 : ∀ q : Nat, q < base → s.heap[q]? = s0.heap[q]?) {a : Cond} (h : mvK a = true) (hb : va_Nw a s0) : a.before args s = true := by
  cases a with
  | laysStatic a b c =>
    simp only [mvK, Bool.and_eq_true, Bool.or_eq_true, beq_iff_eq] at h
    obtain ⟨rfl, ⟨rfl, rfl⟩ | ⟨rfl, rfl⟩⟩ := h
    · exact z_lays hz.2.1 hY hq0 hb
    · exact z_lays hz.2.2.1 hY hq0 hb
  | arrayClass ty => exact word_at hY (Or.inr ⟨ty, rfl⟩) hb
  | castable C T => exact (va_Nw.warmC hY hb).use rfl
  | declares x => exact (va_Nw.warmD hY hb).use rfl
  | isRef t =>
    cases t with
    | static a b c =>
      simp only [mvK, Bool.and_eq_true, Bool.or_eq_true, beq_iff_eq] at h
      obtain ⟨rfl, ⟨rfl, rfl⟩ | ⟨rfl, rfl⟩⟩ := h
      · exact z_isRef (FZ.at hz.2.1 hY hq0)
      · exact z_isRef (FZ.at hz.2.2.1 hY hq0)
    | _ => simp [mvK] at h
  | _ => exact word_at hY (Or.inl h) hb
abbrev ccN : String := "java/lang/ClassCastException"
abbrev ccUp : List String := ["java/lang/RuntimeException", "java/lang/Exception"]
abbrev aiN : String := "java/lang/ArrayIndexOutOfBoundsException"
abbrev aiUp : List String := ["java/lang/IndexOutOfBoundsException", "java/lang/RuntimeException", "java/lang/Exception"]
theorem cc_mv : (Bundle.messageArmAtoms ccN ccUp).all mvK = true := by decide +kernel
theorem ai_mv : (Bundle.messageArmAtoms aiN aiUp).all mvK = true := by decide +kernel
theorem cc_at {base : Nat} {s0 s : State} {r1 r2 : Option Nat} {de : Nat} {args : Array Value} (hA : ∀ a ∈ Bundle.messageArmAtoms ccN ccUp, va_Nw a s0) (hz : FZ base s0 r1 r2 de) (hY : s0.WarmedH s.vm) (hq0 : ∀ q : Nat, q < base → s.heap[q]? = s0.heap[q]?) : ∀ a ∈ Bundle.messageArmAtoms ccN ccUp, a.before args s = true := fun a ha => mv_at hz hY hq0 (List.all_eq_true.mp cc_mv a ha) (hA a ha)
theorem ai_at {base : Nat} {s0 s : State} {r1 r2 : Option Nat} {de : Nat} {args : Array Value} (hA : ∀ a ∈ Bundle.messageArmAtoms aiN aiUp, va_Nw a s0) (hz : FZ base s0 r1 r2 de) (hY : s0.WarmedH s.vm) (hq0 : ∀ q : Nat, q < base → s.heap[q]? = s0.heap[q]?) : ∀ a ∈ Bundle.messageArmAtoms aiN aiUp, a.before args s = true := fun a ha => mv_at hz hY hq0 (List.all_eq_true.mp ai_mv a ha) (hA a ha)
/-- what a machine's exception leaves, as the end of a run -/
def QtM (cls : String) (s : State) : State → Addr → State → Prop := fun st x t => (∀ a, a < st.heap.size → t.heap[a]? = st.heap[a]?) ∧ st.heap.size ≤ t.heap.size ∧ ∃ (cX : ClassId) (ce : Cell), s.vm.findClass cls = some cX ∧ t.heap[x]? = some ce ∧ ce.cls = cX ∧ ce.vm = .none
theorem tB_le (t : String) : tB t ≤ 4 * t.toList.length := by
  have b1 := stringBytes_size_le (stringToUtf16 t)
  have b2 := utf16_size_le t
  show (stringBytes (stringToUtf16 t)).size ≤ _
  omega
section RM
variable {p : Program} {l : Launch} {e : Env} {R0 : Room} {s : State} {m : MethodId} {args : Array Value} {below : List Frame} {meth : Method} {c : Code} {H : Heap} {locs : List Loc} {cells slots : Nat} {Q : State → Prop}
variable {cc : ByteArray} {pc nL : Nat} {ls : Array Slot} {rest st0 : List Value} {D : dd_} {s0 : State} {ad : Nat → Nat} {I : Nat → Int32} {A : Nat → Nat → Int32} {R : Nat → Option Nat} {G : Nat → Nat → Option Nat} {X : va_W} {base : Nat}
theorem msg_lim {k : Nat} (ha : l.admits e) (h : k ≤ 960) : ¬ k > e.platform.arrayLengthLimit ∧ ¬ k * componentBytes .byte > e.platform.maxHeapBytes := by
  have e1 : e.platform.arrayLengthLimit = 2147483645 := by rw [ha.platform]
  have e2 : e.platform.maxHeapBytes = 536870912 := by rw [ha.platform]
  rw [e1, e2, show componentBytes .byte = 1 from rfl]
  omega
theorem msg_tr (ha : l.admits e) (htr : l.stackTraces = false) : e.platform.stackTraces = false := by rw [ha.platform]; exact htr
/-- an instruction that throws with a message -/
theorem run_msg {cls : String} {names : List String} (hexec : p.tables.exec = Jvm.exec) (hml : c.maxLocals = nL) (htr : l.stackTraces = false) (hcls : Bundle.fit cls = true) (hnames : ∀ n ∈ names, Bundle.fit n = true) (hsoe : (cls == "java/lang/StackOverflowError") = false) (hoom : (cls == "java/lang/OutOfMemoryError") = false)
    (h : ∀ a ∈ Bundle.messageArmAtoms cls names, a.before args s = true) (hsize : ls.size = nL) (hst : (st0.map fun v => v.category).sum ≤ 8) (hRf : names.length + 4 < R0.frames) (hRl : 10248 ≤ R0.locals) (hshort : 13 * names.length + 55 ≤ 10240) (hRc : cells + 3 ≤ R0.cells) (hRs : slots + 1000 ≤ R0.slots) (hlo : upB base H.size)
    (hgo : ∀ T : State, T.heap = H → Stand p l e R0 s m args below meth c T [] cells slots → ∃ (vm' : Vm) (text : String), Stand p l e R0 s m args below meth c (T.setVm vm') [] cells slots ∧ (text == notModelled) = false ∧ tB text ≤ 960 ∧ ∀ target, Steps p.tables e below (((T.setVm vm').setTop (F0 m pc ls st0)).pushFrame (.throwNew cls (some text) none)) target → Steps p.tables e below (T.setTop (F0 m pc ls st0)) target) :
    RunT p l e R0 s m args below meth c H [] cells slots 3 1000 (F0 m pc ls st0) st0 (QtM cls s) (upB base) := by
  intro T hT X
  obtain ⟨vm', text, X', ht1, ht2, hstep⟩ := hgo T hT X
  obtain ⟨hlim, hheap⟩ := msg_lim X.admits ht2
  obtain ⟨U, L, XU, ⟨u1, u2, u3, cX, ce, u4, u5, u6, u7⟩, st⟩ := msg_java X' hexec (msg_tr X.admits htr) hcls hnames hsoe hoom h (fun x hx => by cases hx) ht1 hlim hheap (g := F0 m pc ls st0) rfl (hsize.trans hml.symm) hRf (by show 2 * 0 + (st0.map fun v => v.category).sum + 10240 ≤ _; omega) hshort hRc (by omega)
  obtain ⟨g1, hfr⟩ := XU.frames_eq
  have hU : (U.setTop (F0 m pc ls st0)).pushFrame (.throwing ((T.setVm vm').heap.size + 2)) = U.setFrames (.throwing ((T.setVm vm').heap.size + 2) :: .java (F0 m pc ls st0) :: below) := by
    rw [State.pushFrame, State.frames_setTop _ hfr, State.setTop_of_frames _ hfr, State.setFrames_setFrames]
  have hs : (T.setVm vm').heap = H := hT
  refine ⟨(T.setVm vm').heap.size + 2, T, U, U, L, hT, stand_widen XU (Nat.le_refl _) (by omega), fun q hq => ?_, rfl, rfl, ⟨fun a ha => u2 a ha, u3, cX, ce, u4, u5, u6, u7⟩, ?_⟩
  · rw [u1 q hq, hs]
    exact Nat.le_trans hlo (Nat.le_add_right _ _)
  · refine hstep _ ?_
    show Steps p.tables e below _ ((U.setTop (F0 m pc ls st0)).pushFrame (.throwing ((T.setVm vm').heap.size + 2)))
    rw [hU]
    exact st
/-- it is caught here -/
theorem msg_caught {cls K : String} {hs : List (Nat × Nat × Nat × Nat)} {a b hpc ct : Nat} (j : Nat) (htab : tabE c = hs) (hj : hs[j]? = some (a, b, hpc, ct)) (h1 : ct ≠ 0) (hpre : ∀ z ∈ hs.take j, (decide (z.1 ≤ pc) && decide (pc < z.2.1)) = false) (hin : (decide (a ≤ pc) && decide (pc < b)) = true) (hown : s.vm.findClass RX0 = some m.cls) (hlink : (Cond.classLink RX0 ct K).before args s = true) (hcast : (Cond.castable cls K).before args s = true)
    (hW : WX D xS ad I A R G X H) (hS : va_S (upB base) s.heap H locs) (hr : RunT p l e R0 s m args below meth c H locs cells slots 3 1000 (F0 m pc ls st0) rest (QtM cls s) (upB base))
    (kk : ∀ (x : Nat) (H1 : Heap) (locs1 : List Loc), WX D xS ad I A R G X H1 → va_S (upB base) s.heap H1 locs1 → H.size ≤ H1.size → W p l e R0 s m args below meth c H1 locs1 (cells + 3) (slots + 1000) Q (F0 m hpc ls [.ref x])) : W p l e R0 s m args below meth c H locs cells slots Q (F0 m pc ls st0) := by
  obtain ⟨pre, rs, x0, z1, z2, z3, z4, z5, z6, z7⟩ := tab_at htab j hj
  refine w_caught hown hlink pre rs x0 z1 (fun y hy => ?_) (by show (decide (x0.startPc ≤ pc) && decide (pc < x0.endPc)) = true; rw [z3, z4]; exact hin) z6 h1 z5 hr (fun st₀ t x hQ => ?_) (fun x st₀ t H1 L g0 g1 _ hQ hL => ?_)
  · exact hpre (y.startPc, y.endPc, y.handlerPc, y.catchType) (by rw [← z7]; exact List.mem_map.mpr ⟨y, hy, rfl⟩)
  · obtain ⟨-, -, cX, ce, h3, h4, h5, h6⟩ := hQ
    obtain ⟨c0, t0, f1, f2, f3⟩ := Cond.castable_spec hcast
    cases h3.symm.trans f1
    obtain ⟨kX, hkX, -⟩ := Vm.findClass_spec h3
    obtain ⟨kT, hkT, -⟩ := Vm.findClass_spec f2
    refine ⟨ce, h4, h6, ⟨kX, by rw [h5]; exact hkX⟩, fun k hk => ?_⟩
    cases f2.symm.trans hk
    exact ⟨⟨kT, hkT⟩, by rw [h5]; exact f3⟩
  · obtain ⟨h2, h3, -⟩ := hQ
    rw [g0] at h2 h3
    rw [g1] at h2 h3
    refine kk x H1 (locs ++ L) (va_P.kept hW (fun k q hk => h2 q.1 (hW k q hk).lt)) ⟨Nat.le_trans hS.1 h3, fun q q1 q2 => by rw [h2 q (Nat.lt_of_lt_of_le q1 hS.1)]; exact hS.2.1 q q1 q2, fun q hq => ?_⟩ h3
    rcases List.mem_append.mp hq with h | h
    · exact hS.2.2 q h
    · exact hL q h
/-- athrow, as a run -/
theorem run_athrow {a : Addr} {PostT' : Addr → Heap → Prop} {av : Array Value} (hexec : p.tables.exec = Jvm.exec) (hb : c.code = cc) (hp : PostT' a H) (hdg : decode cc pc = .ok (.athrow, 1)) : RunT p l e R0 s m args below meth c H locs cells slots 0 0 (F0 m pc ls (.ref a :: rest)) rest (QtE PostT' base av) (upB base) := by
  intro T hT X
  refine ⟨a, T, T, T, [], hT, by rw [List.append_nil]; exact X, (fun q hq => by cases hq), rfl, rfl, ⟨by rw [hT]; exact hp, Nat.le_refl _, fun _ _ _ => rfl⟩, ?_⟩
  subst hb
  jvm_step X.here [hexec, hdg, Op.athrow.wp_sem]
  exact Steps.refl _
set_option maxHeartbeats 4000000 in
/-- throw new Finding(k), caught in the same method -/
theorem fi_self {r1 r2 : Option Nat} {de : Nat} {k : Int32} {own : Nat → Nat} {af : Nat → Nat → Nat} {ra : Nat → Nat × Nat} {ta : Nat × Nat} {Z : Dyn} {hs : List (Nat × Nat × Nat × Nat)} {a b hpc : Nat} (j : Nat) (htab : tabE c = hs) (hj : hs[j]? = some (a, b, hpc, 71)) (hpre : ∀ z ∈ hs.take j, (decide (z.1 ≤ pc + 3 + 1 + 1 + 3) && decide (pc + 3 + 1 + 1 + 3 < z.2.1)) = false) (hin : (decide (a ≤ pc + 3 + 1 + 1 + 3) && decide (pc + 3 + 1 + 1 + 3 < b)) = true) (hx : p.tables.exec = Jvm.exec) (hb : c.code = cc) (hml : c.maxLocals = nL) (hown : s.vm.findClass RX0 = some m.cls) (hts : ∀ w ∈ lw_all, w.before args s = true) (hK : Kx D s) (hY : s0.WarmedH s.vm) (h0 : ∀ w ∈ lw_tbl, va_Nw w s0) (hz : FZ base s0 r1 r2 de) (hRf : 4 ≤ R0.frames) (hRl : 101 ≤ R0.locals) (hcc : cells + 1 ≤ R0.cells) (hss : slots + 7 ≤ R0.slots) (hq0 : ∀ q : Nat, q < base → s.heap[q]? = s0.heap[q]?) (hB0 : base ≤ s.heap.size) (hF : XF D own af ra ta Z R G X) (hAP : AP xS ad X base) (hW : WX D xS ad I A R G X H) (hS : va_S (upB base) s.heap H locs) (hls : ls.size = nL) (hd1 : decode cc pc = .ok (.new 71, 3)) (hd2 : decode cc (pc + 3) = .ok (.dup, 1)) {n9 : Int} (hd3 : decode cc (pc + 3 + 1) = .ok (.iconst n9, 1)) (hki : Int32.ofInt n9 = k) (hd4 : decode cc (pc + 3 + 1 + 1) = .ok (.invokespecial 80, 3)) (hd5 : decode cc (pc + 3 + 1 + 1 + 3) = .ok (.athrow, 1))
    (kk : ∀ (x : Nat) (R1 : Nat → Option Nat) (H1 : Heap) (locs1 : List Loc) (X1 : va_W) (own1 : Nat → Nat), XF D own1 af ra ta Z R G X1 → AP xS ad X1 base → WX D xS ad I A R G X1 H1 → va_S (upB base) s.heap H1 locs1 → (x, Sum.inr (4, fiF R1 k)) ∈ X1 → W p l e R0 s m args below meth c H1 locs1 (cells + 1) (slots + 7) Q (F0 m hpc ls [.ref x])) : W p l e R0 s m args below meth c H locs cells slots Q (F0 m pc ls []) := by
  refine x_new (ci := 4) (fs := fi0) (C := RX4) (T := TX4) (N := 7) hx hb hts hown hK hAP hW hS (Nat.le_trans hB0 hS.1) in_X4 tyX4 tyX4_ok q280 q293 q85 rfl (fun j hj => by rcases (show j = 0 ∨ j = 1 ∨ j = 2 ∨ j = 3 ∨ j = 4 ∨ j = 5 ∨ j = 6 by omega) with rfl | rfl | rfl | rfl | rfl | rfl | rfl <;> rfl) hcc hss hd1 (fun H1 hsz hW1 hAP1 hS1 => ?_)
  refine lv_dup hx hb hd2 rfl ?_
  refine lv_iconst (v := k) hx hb hd3 hki ?_
  refine fi_call hx hb hml hown hts hK hY h0 hz hRf hRl ⟨hcc, hss⟩ hq0 hB0 xwf hAP1 hW1 hS1 hls (Nat.le_of_ble_eq_true rfl) hd4 (fun H2 locs2 R1 hW2 hS2 => ?_)
  obtain ⟨pre, rs, x0, h1, h2, h3, h4, h5, h6, h7⟩ := tab_at htab j hj
  refine z_caught (D := D) (C' := RX4) (T := TX4) (N := 7) (ci := 4) (PostT' := fun x H3 => x = H.size ∧ WX D xS ad I A R G (X ++ [(H.size, .inr (4, fiF R1 k))]) H3) (a := #[]) hown (hts _ q280) pre rs x0 h1 (fun y hy => ?_) (by show (decide (x0.startPc ≤ pc + 3 + 1 + 1 + 3) && decide (pc + 3 + 1 + 1 + 3 < x0.endPc)) = true; rw [h3, h4]; exact hin) h6 (by decide) h5 hK hS2 (run_athrow hx hb ⟨rfl, hW2⟩ hd5) rfl (fun x H3 h => ?_) (fun x H3 locs3 hP hz3 hS3 => ?_)
  · exact hpre (y.startPc, y.endPc, y.handlerPc, y.catchType) (by rw [← h7]; exact List.mem_map.mpr ⟨y, hy, rfl⟩)
  · obtain ⟨rfl, hW3⟩ := h
    have hmem : (H.size, Sum.inr (4, fiF R1 k)) ∈ wl D xS ad I A R G ++ (X ++ [(H.size, Sum.inr (4, fiF R1 k))]) := List.mem_append_right _ (List.mem_append_right _ (List.mem_singleton.mpr rfl))
    obtain ⟨i, hi⟩ := List.getElem?_of_mem hmem
    exact ⟨fiF R1 k, hW3 i _ hi⟩
  · obtain ⟨rfl, hW3⟩ := hP
    have hAP3 := AP.chg (ce' := .inr (4, fiF R1 k)) hAP1
    have hoff := FA.off hAP3.2.2.1
    exact kk H.size R1 H3 locs3 (X ++ [(H.size, .inr (4, fiF R1 k))]) (ownN own [(H.size, .inr (4, fiF R1 k))] (fun _ => 500)) (hF.grow (fun q hq => ownN_old (hoff q hq)) (fun q hq => List.mem_append_left _ hq)) hAP3 hW3 hS3 (List.mem_append_right _ (List.mem_singleton.mpr rfl))
end RM
