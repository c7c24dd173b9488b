/-! FRAMEWORK 21: an answer that is a new cell; arraycopy within a list of cells -/
set_option maxRecDepth 100000
def QrE (Post : Addr → Heap → Prop) (base : Nat) : Array Value → State → Outcome → State → Prop := fun _ st oc t => ∃ q : Addr, oc = .returned (some (.ref q)) ∧ Post q t.heap ∧ va_F (upB base) st t
section Z21
variable {p : Program} {l : Launch} {e : Env} {R0 : Room} {s : State} {m : MethodId} {args : Array Value} {below : List Frame} {meth : Method} {c : Code} {H : Heap} {locs : List Loc} {cells slots : Nat} {Q : State → Prop}
variable {cc : ByteArray} {pc nL : Nat} {ls : Array Slot} {rest st0 : List Value} {D : dd_} {s0 : State} {X cs : va_W} {base mc ms : Nat} {H0 : Heap} {Post : Addr → Heap → Prop}
theorem z_endR {a : Array Value} (hr : va_Run p l e R0 s m args below meth c H locs cells slots mc ms (F0 m pc ls st0) rest (QrE Post base a) (upB base)) (hS : va_S (upB base) H0 H locs) (kk : ∀ (q : Addr) (H1 : Heap) (locs1 : List Loc), Post q H1 → H.size ≤ H1.size → va_S (upB base) H0 H1 locs1 → W p l e R0 s m args below meth c H1 locs1 (cells + mc) (slots + ms) Q (F0 m (pc + 3) ls (.ref q :: rest))) : W p l e R0 s m args below meth c H locs cells slots Q (F0 m pc ls st0) := by
  intro T hT X
  obtain ⟨v, st₀, t, T', L, h0, X', hL, e1, e2, ⟨q, hv, hh, hz, hk⟩, st⟩ := hr T hT X
  cases hv
  rw [h0] at hz hk
  obtain ⟨t2, a1, b1⟩ := kk q T'.heap (locs ++ L) (by rw [e1]; exact hh) (by rw [e1]; exact hz)
    ⟨Nat.le_trans hS.1 (by rw [e1]; exact hz), fun q h1 h2 => by rw [e1, hk q (Nat.lt_of_lt_of_le h1 hS.1) h2]; exact hS.2.1 q h1 h2, fun q hq => by
      rcases List.mem_append.mp hq with h | h
      · exact hS.2.2 q h
      · exact hL q h⟩ T' rfl X'
  exact ⟨t2, st t2 a1, b1⟩
theorem f_copyi {on : String} {index : Nat} (hexec : p.tables.exec = Jvm.exec) (hb : c.code = cc) (hml : c.maxLocals = nL) (hls : ls.size = nL) (hts : ∀ w ∈ lw_all, w.before args s = true) (hown : s.vm.findClass on = some m.cls) (hlink : Cond.methodLink on index arraycopyName ∈ lw_all) (hK : Kx D s) (hA : FA (X ++ cs) base) (hW : FW D (X ++ cs) H) (hS : va_S (upB base) H0 H locs) {a b n0 n1 : Nat} {f g h : Nat → Int32} (hs : (a, Sum.inl (D.2 .int, n0, Sum.inl f)) ∈ X ++ cs) (j : Nat) (hj : cs[j]? = some (b, .inl (D.2 .int, n1, .inl g))) {sp dp k : Int32} (hv : cpO f g n0 n1 sp dp k = some h) (hframes : 1 ≤ R0.frames) (hlocals : (rest.map fun v => v.category).sum + (nativeFrameWords "java/lang/System" "arraycopy" 5 + 11) ≤ R0.locals) (hdg : decode cc pc = .ok (.invokestatic index, 3))
    (kk : ∀ (H1 : Heap) (locs1 : List Loc), FW D (X ++ cs.set j (b, .inl (D.2 .int, n1, .inl h))) H1 → FA (X ++ cs.set j (b, .inl (D.2 .int, n1, .inl h))) base → va_S (upB base) H0 H1 locs1 → W p l e R0 s m args below meth c H1 locs1 cells slots Q (F0 m (pc + 3) ls rest)) : W p l e R0 s m args below meth c H locs cells slots Q (F0 m pc ls (.int k :: .int dp :: .ref b :: .int sp :: .ref a :: rest)) := by
  obtain ⟨⟨h1, h2, h3, h4, h5⟩, rfl⟩ := cpO_e hv
  obtain ⟨q0, z0⟩ := List.getElem?_of_mem hs
  obtain ⟨t0, ht⟩ := Kx.at (D := D) (U := s) (ty := .int) (by decide)
  exact va_copyi hexec hb (hml.trans hls.symm) hown (hts _ hlink) (hts _ q433) (hts _ q432) (hts _ q91) hK hW hA hS q0 _ t0 t0 z0 (fl_at hj) ht ht rfl h1 h2 h3 h4 h5 (fun _ _ => rfl) hframes hlocals hdg (fun H1 locs1 hP hz hS => kk H1 locs1 (by rw [← fl_set]; exact hP) (by rw [← fl_set]; exact hz) hS)
end Z21
