/-! FRAMEWORK 8: contracts that know the cells below base (statics), general ends -/
set_option maxRecDepth 100000
def PcZ (D : dd_) (s0 : State) (S : sp_) (ad : Nat → Nat) (I : Nat → Int32) (A : Nat → Nat → Int32) (R : Nat → Option Nat) (G : Nat → Nat → Option Nat) (X : va_W) (base : Nat) (av : List Value) : Array Value → State → Prop := fun v U => PcX D s0 S ad I A R G X base av v U ∧ ∀ q : Nat, q < base → U.heap[q]? = s0.heap[q]?
theorem PcZ_blind {D : dd_} {s0 : State} {S : sp_} {ad : Nat → Nat} {I : Nat → Int32} {A : Nat → Nat → Int32} {R : Nat → Option Nat} {G : Nat → Nat → Option Nat} {X : va_W} {base : Nat} {av : List Value} : FrameBlind (PcZ D s0 S ad I A R G X base av) := fun a U g mk h => ⟨PcX_blind a U g mk h.1, h.2⟩
/-- a general end: what holds of the heap -/
def QcE (Post : Heap → Prop) (base : Nat) (ov : Option Value) : Array Value → State → Outcome → State → Prop := fun _ st oc t => oc = .returned ov ∧ Post t.heap ∧ va_F (upB base) st t
def QtE (Post : Addr → Heap → Prop) (base : Nat) : Array Value → State → Addr → State → Prop := fun _ st x t => Post x t.heap ∧ va_F (upB base) st t
section Z8
variable {p : Program} {l : Launch} {e : Env} {R0 : Room} {s : State} {m : MethodId} {args : Array Value} {below : List Frame} {meth : Method} {c : Code} {H : Heap} {locs : List Loc} {cells slots : Nat} {Q : State → Prop}
variable {cc : ByteArray} {pc : Nat} {ls : Array Slot} {rest st0 : List Value} {D : dd_} {s0 : State} {S : sp_} {ad : Nat → Nat} {I : Nat → Int32} {A : Nat → Nat → Int32} {R : Nat → Option Nat} {G : Nat → Nat → Option Nat} {X : va_W} {base : Nat} {H0 : Heap}
variable {y : MethodName} {bytes : ByteArray} {maxL nL n index mc ms : Nat} {ret : Option FieldType} {rm : Room} {own C : String} {b : Addr} {As : List Value} {Sc : sp_} {adc : Nat → Nat} {Ic Ic1 : Nat → Int32} {Ac Ac1 : Nat → Nat → Int32} {Rc Rc1 : Nat → Option Nat} {Gc Gc1 : Nat → Nat → Option Nat} {Xc Xc1 : va_W} {Post : Heap → Prop} {PostT' : Addr → Heap → Prop}
theorem z_low (hq : ∀ q : Nat, q < base → s.heap[q]? = s0.heap[q]?) (hB0 : base ≤ s.heap.size) (hS : va_S (upB base) s.heap H locs) : ∀ q : Nat, q < base → H[q]? = s0.heap[q]? := fun q h => (hS.2.1 q (Nat.lt_of_lt_of_le h hB0) (fun z => absurd z (Nat.not_le.mpr h))).trans (hq q h)
theorem pcz_at (hY : s0.WarmedH s.vm) (hK : Kx D s) (hB : base ≤ H.size) (hW : WX D Sc adc Ic Ac Rc Gc Xc H) (hq : ∀ q : Nat, q < base → H[q]? = s0.heap[q]?) {av : List Value} : ∀ U : State, U.heap = H → s.WarmedH U.vm → PcZ D s0 Sc adc Ic Ac Rc Gc Xc base av av.toArray U := fun U hU hw => ⟨pcx_at hY hK hB hW U hU hw, by rw [hU]; exact hq⟩
theorem z_end {ov : Option Value} {a : Array Value} (hr : va_Run p l e R0 s m args below meth c H locs cells slots mc ms (F0 m pc ls st0) rest (QcE Post base ov a) (upB base)) (hS : va_S (upB base) H0 H locs) (kk : ∀ (H1 : Heap) (locs1 : List Loc), Post H1 → H.size ≤ H1.size → va_S (upB base) H0 H1 locs1 → W p l e R0 s m args below meth c H1 locs1 (cells + mc) (slots + ms) Q (F0 m (pc + 3) ls (ov.toList ++ rest))) : W p l e R0 s m args below meth c H locs cells slots Q (F0 m pc ls st0) := by
  intro T hT X
  obtain ⟨v, st₀, t, T', L, h0, X', hL, e1, e2, ⟨hv, hh, hz, hk⟩, st⟩ := hr T hT X
  cases hv
  rw [h0] at hz hk
  obtain ⟨t2, a1, b1⟩ := kk T'.heap (locs ++ L) (by rw [e1]; exact hh) (by rw [e1]; exact hz)
    ⟨Nat.le_trans hS.1 (by rw [e1]; exact hz), fun q h1 h2 => by rw [e1, hk q (Nat.lt_of_lt_of_le h1 hS.1) h2]; exact hS.2.1 q h1 h2, fun q hq => by
      rcases List.mem_append.mp hq with h | h
      · exact hS.2.2 q h
      · exact hL q h⟩ T' rfl X'
  exact ⟨t2, st t2 a1, b1⟩
theorem z_prop {a : Array Value} (hlocks : meth.locks = false) (hout : ∀ x ∈ c.exceptionTable.toList, covers x pc = false) (hS : va_S (upB base) s.heap H locs) (hr : RunT p l e R0 s m args below meth c H locs cells slots mc ms (F0 m pc ls st0) rest (QtE PostT' base a) (upB base)) {PostT2 : Addr → Heap → Prop} (hp : ∀ (x : Addr) (H1 : Heap), PostT' x H1 → PostT2 x H1) : W p l e R0 s m args below meth c H locs cells slots (MQT below (QtE PostT2 base) args s (cells + mc) (slots + ms) (upB base)) (F0 m pc ls st0) := by
  refine w_prop hlocks hout hr (fun st₀ t x h0 hw hQ t' e1 e2 => ?_) hS.2.2 (fun _ h => h)
  obtain ⟨h1, h2, h3⟩ := hQ
  rw [h0] at h2 h3
  exact ⟨by rw [e1]; exact hp x _ h1, by rw [e1]; exact Nat.le_trans hS.1 h2, fun q g1 g2 => by rw [e1, h3 q (Nat.lt_of_lt_of_le g1 hS.1) g2]; exact hS.2.1 q g1 g2⟩
theorem z_caught {a : Array Value} {hpc ct : Nat} {C' : String} {T : u_T} {N ci : Nat} (hown : s.vm.findClass own = some m.cls) (hlink : (Cond.classLink own ct C').before args s = true) (pre rs : List ExceptionTableEntry) (x0 : ExceptionTableEntry) (hs : c.exceptionTable.toList = pre ++ x0 :: rs) (hn : ∀ y ∈ pre, covers y pc = false) (hx : covers x0 pc = true) (h0 : x0.catchType = ct) (h1 : ct ≠ 0) (hp : x0.handlerPc = hpc) (hK : Kx D s) (hS : va_S (upB base) H0 H locs)
    (hr : RunT p l e R0 s m args below meth c H locs cells slots mc ms (F0 m pc ls st0) rest (QtE PostT' base a) (upB base)) (hc : vCl[ci]? = some (C', T, N)) (hcl : ∀ (x : Addr) (H1 : Heap), PostT' x H1 → ∃ fs : List Value, va_at D.1 vCl (x, .inr (ci, fs)) H1)
    (kk : ∀ (x : Addr) (H1 : Heap) (locs1 : List Loc), PostT' x H1 → H.size ≤ H1.size → va_S (upB base) H0 H1 locs1 → W p l e R0 s m args below meth c H1 locs1 (cells + mc) (slots + ms) Q (F0 m hpc ls [.ref x])) : W p l e R0 s m args below meth c H locs cells slots Q (F0 m pc ls st0) := by
  refine w_caught hown hlink pre rs x0 hs hn hx h0 h1 hp hr (fun st₀ t x hQ => ?_) (fun x st₀ t H1 L g0 g1 _ hQ hL => ?_)
  · obtain ⟨fs, r, z1, cell, z2, z3, z4, -⟩ := hcl x _ hQ.1
    cases z1.symm.trans hc
    obtain ⟨hf, k, hk, -⟩ := (hK.1 ci _ hc).2
    refine ⟨cell, z2, z4, ⟨k, by rw [z3]; exact hk⟩, fun k2 hk2 => ?_⟩
    cases hf.symm.trans hk2
    exact ⟨⟨k, hk⟩, by rw [z3]; exact va_assign (hK.1 ci _ hc).2⟩
  · obtain ⟨h1, h2, h3⟩ := hQ
    rw [g0] at h2 h3
    rw [g1] at h1 h2 h3
    refine kk x H1 (locs ++ L) h1 h2 ⟨Nat.le_trans hS.1 h2, fun q q1 q2 => by rw [h3 q (Nat.lt_of_lt_of_le q1 hS.1) q2]; exact hS.2.1 q q1 q2, fun q hq => ?_⟩
    rcases List.mem_append.mp hq with h | h
    · exact hS.2.2 q h
    · exact hL q h
end Z8
