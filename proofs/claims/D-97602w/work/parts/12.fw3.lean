/-! FRAMEWORK 3: worlds with further cells (X), the component's contracts -/
set_option maxRecDepth 100000
def upB (base : Nat) : Nat → Prop := fun q => base ≤ q
def WX (D : dd_) (S : sp_) (ad : Nat → Nat) (I : Nat → Int32) (A : Nat → Nat → Int32) (R : Nat → Option Nat) (G : Nat → Nat → Option Nat) (X : va_W) (H : Heap) : Prop := va_P D.1 vCl (wl D S ad I A R G ++ X) H
/-- the cells are apart, from base on -/
def AP (S : sp_) (ad : Nat → Nat) (X : va_W) (base : Nat) : Prop := Inj S ad ∧ (∀ i ∈ idxS S, ∀ q ∈ X, q.1 ≠ ad i) ∧ va_D (upB base) X ∧ ∀ i ∈ idxS S, base ≤ ad i
def PcX (D : dd_) (s0 : State) (S : sp_) (ad : Nat → Nat) (I : Nat → Int32) (A : Nat → Nat → Int32) (R : Nat → Option Nat) (G : Nat → Nat → Option Nat) (X : va_W) (base : Nat) (av : List Value) : Array Value → State → Prop := fun v U => v = av.toArray ∧ Kx D U ∧ s0.WarmedH U.vm ∧ base ≤ U.heap.size ∧ WX D S ad I A R G X U.heap
def QcX (D : dd_) (S : sp_) (ad : Nat → Nat) (I : Nat → Int32) (A : Nat → Nat → Int32) (R : Nat → Option Nat) (G : Nat → Nat → Option Nat) (X : va_W) (base : Nat) (ov : Option Value) : Array Value → State → Outcome → State → Prop := fun _ st oc t => oc = .returned ov ∧ WX D S ad I A R G X t.heap ∧ va_F (upB base) st t
theorem PcX_blind {D : dd_} {s0 : State} {S : sp_} {ad : Nat → Nat} {I : Nat → Int32} {A : Nat → Nat → Int32} {R : Nat → Option Nat} {G : Nat → Nat → Option Nat} {X : va_W} {base : Nat} {av : List Value} : FrameBlind (PcX D s0 S ad I A R G X base av) := fun a U g mk h => ⟨h.1, Kx.moved (u := U) (U := U.calling g mk a) (Vm.Alike.refl U.vm) h.2.1, h.2.2.1, h.2.2.2.1, h.2.2.2.2⟩
theorem wx_D {D : dd_} {S : sp_} {ad : Nat → Nat} {I : Nat → Int32} {A : Nat → Nat → Int32} {R : Nat → Option Nat} {G : Nat → Nat → Option Nat} {X : va_W} {base : Nat} (hw : wfS S) (h : AP S ad X base) : va_D (upB base) (wl D S ad I A R G ++ X) :=
  va_D.app (wl_D hw h.1 h.2.2.2) h.2.2.1 (fun i j p q hp hq e => by
    obtain ⟨k, hk, e2⟩ := wl_at hp
    exact h.2.1 k (List.mem_of_getElem? hk) q (List.mem_of_getElem? hq) (by rw [← e, e2]))
/-- an element of the left part is set -/
theorem set_app {α : Type} {l l' X : List α} {p : Nat} {x y : α} (hp : l[p]? = some y) (h : ∀ q ∈ l', q ∈ l.set p x) : ∀ q ∈ l' ++ X, q ∈ (l ++ X).set p x := by
  intro q hq
  rw [List.set_append_left _ _ (List.getElem?_eq_some_iff.mp hp).1]
  rcases List.mem_append.mp hq with h1 | h1
  · exact List.mem_append_left _ (h q h1)
  · exact List.mem_append_right _ h1
theorem app_at {α : Type} {l X : List α} {p : Nat} {y : α} (hp : l[p]? = some y) : (l ++ X)[p]? = some y := by
  rw [List.getElem?_append_left (List.getElem?_eq_some_iff.mp hp).1]; exact hp
theorem sub_mem {α : Type} {l l' : List α} (is : List Nat) (h : is.filterMap (fun i => l[i]?) = l') : ∀ q ∈ l', q ∈ l := by
  intro q hq
  subst h
  obtain ⟨i, -, hi⟩ := List.mem_filterMap.mp hq
  exact List.mem_of_getElem? hi
def aldO (f : Nat → Option Nat) (n : Nat) (i : Int32) : Option (Option Nat) := if i < 0 ∨ n ≤ i.toNatClampNeg then none else some (f i.toNatClampNeg)
def astO (f : Nat → Option Nat) (n : Nat) (i : Int32) (x : Option Nat) : Option (Nat → Option Nat) := if i < 0 ∨ n ≤ i.toNatClampNeg then none else some (va_up f i.toNatClampNeg x)
theorem aldO_e {f : Nat → Option Nat} {n : Nat} {i : Int32} {v : Option Nat} (h : aldO f n i = some v) : vp_in i n ∧ f i.toNatClampNeg = v := by
  unfold aldO at h
  by_cases c : i < 0 ∨ n ≤ i.toNatClampNeg
  · rw [if_pos c] at h; cases h
  · rw [if_neg c] at h; exact ⟨c, Option.some.inj h⟩
/-- a reference is the known one -/
def grd (r : Option Nat) (a : Nat) : Option Unit := if r = some a then some () else none
theorem grd_e {r : Option Nat} {a : Nat} {u : Unit} (h : grd r a = some u) : r = some a := by
  unfold grd at h
  by_cases c : r = some a
  · exact c
  · rw [if_neg c] at h; cases h
def cpO (f g : Nat → Int32) (n0 n1 : Nat) (sp dp n : Int32) : Option (Nat → Int32) := if sp < 0 ∨ dp < 0 ∨ n < 0 ∨ n0 < sp.toNatClampNeg + n.toNatClampNeg ∨ n1 < dp.toNatClampNeg + n.toNatClampNeg then none else some (va_cpy f g sp.toNatClampNeg dp.toNatClampNeg n.toNatClampNeg)
theorem cpO_e {f g h : Nat → Int32} {n0 n1 : Nat} {sp dp n : Int32} (e : cpO f g n0 n1 sp dp n = some h) : (¬ sp < 0 ∧ ¬ dp < 0 ∧ ¬ n < 0 ∧ sp.toNatClampNeg + n.toNatClampNeg ≤ n0 ∧ dp.toNatClampNeg + n.toNatClampNeg ≤ n1) ∧ va_cpy f g sp.toNatClampNeg dp.toNatClampNeg n.toNatClampNeg = h := by
  unfold cpO at e
  by_cases c : sp < 0 ∨ dp < 0 ∨ n < 0 ∨ n0 < sp.toNatClampNeg + n.toNatClampNeg ∨ n1 < dp.toNatClampNeg + n.toNatClampNeg
  · rw [if_pos c] at e; cases e
  · rw [if_neg c] at e
    exact ⟨⟨fun h => c (Or.inl h), fun h => c (Or.inr (Or.inl h)), fun h => c (Or.inr (Or.inr (Or.inl h))), Nat.not_lt.mp fun h => c (Or.inr (Or.inr (Or.inr (Or.inl h)))), Nat.not_lt.mp fun h => c (Or.inr (Or.inr (Or.inr (Or.inr h))))⟩, Option.some.inj e⟩
section XROWS
variable {p : Program} {l : Launch} {e : Env} {R0 : Room} {s : State} {m : MethodId} {args : Array Value} {below : List Frame} {meth : Method} {c : Code} {H : Heap} {locs : List Loc} {cells slots : Nat} {Q : State → Prop}
variable {cc : ByteArray} {pc : Nat} {ls : Array Slot} {rest st0 : List Value} {D : dd_} {s0 : State} {S : sp_} {ad : Nat → Nat} {I : Nat → Int32} {A : Nat → Nat → Int32} {R : Nat → Option Nat} {G : Nat → Nat → Option Nat} {X : va_W} {base : Nat} {H0 : Heap}
theorem x_get (hexec : p.tables.exec = Jvm.exec) (hb : c.code = cc) (hts : ∀ w ∈ lw_all, w.before args s = true) {own : String} (hown : s.vm.findClass own = some m.cls) (hK : Kx D s) (hW : WX D S ad I A R G X H) {ref C : String} {T : u_T} {N ci index b : Nat} {cs : List fc_} (hq : (b, ci, cs) ∈ S.1) (hin : ∀ w ∈ u_ws C T N, w ∈ lw_all) (hc : vCl[ci]? = some (C, T, N)) (k : Nat) (hk : k < N) (hlink : Cond.fieldLink own index ref (T k).2.1 (T k).2.2.1 ∈ lw_all) (hsame : (T k).1 = ref) {v : Value} (hv : (cs.map (fv_ ad I R))[k]? = some v) (hdg : decode cc pc = .ok (.getfield index, 3))
    (kk : W p l e R0 s m args below meth c H locs cells slots Q (F0 m (pc + 3) ls (v :: rest))) : W p l e R0 s m args below meth c H locs cells slots Q (F0 m pc ls (.ref (ad b) :: rest)) := by
  obtain ⟨q0, h0⟩ := List.getElem?_of_mem (wl_o (D := D) (S := S) (ad := ad) (I := I) (A := A) (R := R) (G := G) hq)
  exact va_get hexec hb hts hin hown hK hW q0 (app_at h0) hc k hk (hts _ hlink) (fun x h => by rw [← hsame]; exact h) hv hdg kk
/-- a field of a further cell -/
theorem x_getD (hexec : p.tables.exec = Jvm.exec) (hb : c.code = cc) (hts : ∀ w ∈ lw_all, w.before args s = true) {own : String} (hown : s.vm.findClass own = some m.cls) (hK : Kx D s) (hW : WX D S ad I A R G X H) {ref C : String} {T : u_T} {N ci index b : Nat} {fs : List Value} (hq : (b, Sum.inr (ci, fs)) ∈ X) (hin : ∀ w ∈ u_ws C T N, w ∈ lw_all) (hc : vCl[ci]? = some (C, T, N)) (k : Nat) (hk : k < N) (hlink : Cond.fieldLink own index ref (T k).2.1 (T k).2.2.1 ∈ lw_all) (hsame : (∀ x, s.fieldFound? (T k).1 (T k).2.1 (T k).2.2.1 = some x → s.fieldFound? ref (T k).2.1 (T k).2.2.1 = some x)) {v : Value} (hv : fs[k]? = some v) (hdg : decode cc pc = .ok (.getfield index, 3))
    (kk : W p l e R0 s m args below meth c H locs cells slots Q (F0 m (pc + 3) ls (v :: rest))) : W p l e R0 s m args below meth c H locs cells slots Q (F0 m pc ls (.ref b :: rest)) := by
  obtain ⟨q0, h0⟩ := List.getElem?_of_mem (List.mem_append_right (wl D S ad I A R G) hq)
  exact va_get hexec hb hts hin hown hK hW q0 h0 hc k hk (hts _ hlink) hsame hv hdg kk
theorem x_putI (hexec : p.tables.exec = Jvm.exec) (hb : c.code = cc) (hts : ∀ w ∈ lw_all, w.before args s = true) {own : String} (hown : s.vm.findClass own = some m.cls) (hK : Kx D s) (hw : wfS S) (hAP : AP S ad X base) (hW : WX D S ad I A R G X H) (hS : va_S (upB base) H0 H locs) {ref C : String} {T : u_T} {N ci index b : Nat} {cs : List fc_} (hq : (b, ci, cs) ∈ S.1) (hin : ∀ w ∈ u_ws C T N, w ∈ lw_all) (ty0 : Nat → FieldType) (hty : ∀ k, k < N → parseFieldDescriptor (T k).2.2.1 = some (ty0 k)) (hnm : ∀ a, a < N → ∀ b, b < N → a ≠ b → (T a).2.1 ≠ (T b).2.1) (hc : vCl[ci]? = some (C, T, N)) (k i : Nat) (hk : k < N) (hki : cs[k]? = some (.inl i)) (hlink : Cond.fieldLink own index ref (T k).2.1 (T k).2.2.1 ∈ lw_all) (hsame : (T k).1 = ref) (hfin : (T k).2.2.2 = false) (hd : parseFieldDescriptor (T k).2.2.1 = some .int) {x : Int32} (hdg : decode cc pc = .ok (.putfield index, 3))
    (kk : ∀ (H1 : Heap) (locs1 : List Loc), WX D S ad (upd I i x) A R G X H1 → va_S (upB base) H0 H1 locs1 → W p l e R0 s m args below meth c H1 locs1 cells slots Q (F0 m (pc + 3) ls rest)) : W p l e R0 s m args below meth c H locs cells slots Q (F0 m pc ls (.int x :: .ref (ad b) :: rest)) := by
  obtain ⟨q0, h0⟩ := List.getElem?_of_mem (wl_o (D := D) (S := S) (ad := ad) (I := I) (A := A) (R := R) (G := G) hq)
  exact va_put hexec hb hts hin ty0 hty hnm hown hK hW (wx_D hw hAP) hS q0 (app_at h0) hc k hk (hts _ hlink) (fun z h => by rw [← hsame]; exact h) hfin hd rfl rfl (by rw [List.length_map]; exact (List.getElem?_eq_some_iff.mp hki).1) hdg (fun H1 locs1 hP _ hS => kk H1 locs1 (vaP_mem hP (set_app h0 (wl_setI hw hAP.1 hq hki h0 x))) hS)
theorem x_putR (hexec : p.tables.exec = Jvm.exec) (hb : c.code = cc) (hts : ∀ w ∈ lw_all, w.before args s = true) {own : String} (hown : s.vm.findClass own = some m.cls) (hK : Kx D s) (hw : wfS S) (hAP : AP S ad X base) (hW : WX D S ad I A R G X H) (hS : va_S (upB base) H0 H locs) {ref C : String} {T : u_T} {N ci index b : Nat} {cs : List fc_} (hq : (b, ci, cs) ∈ S.1) (hin : ∀ w ∈ u_ws C T N, w ∈ lw_all) (ty0 : Nat → FieldType) (hty : ∀ k, k < N → parseFieldDescriptor (T k).2.2.1 = some (ty0 k)) (hnm : ∀ a, a < N → ∀ b, b < N → a ≠ b → (T a).2.1 ≠ (T b).2.1) (hc : vCl[ci]? = some (C, T, N)) (k i : Nat) (hk : k < N) (hki : cs[k]? = some (.inr (.inr i))) (hlink : Cond.fieldLink own index ref (T k).2.1 (T k).2.2.1 ∈ lw_all) (hsame : (T k).1 = ref) (hfin : (T k).2.2.2 = false) {o : String} (hd : parseFieldDescriptor (T k).2.2.1 = some (.object o)) {x : Option Nat} (hdg : decode cc pc = .ok (.putfield index, 3))
    (kk : ∀ (H1 : Heap) (locs1 : List Loc), WX D S ad I A (va_up R i x) G X H1 → va_S (upB base) H0 H1 locs1 → W p l e R0 s m args below meth c H1 locs1 cells slots Q (F0 m (pc + 3) ls rest)) : W p l e R0 s m args below meth c H locs cells slots Q (F0 m pc ls (va_rf x :: .ref (ad b) :: rest)) := by
  obtain ⟨q0, h0⟩ := List.getElem?_of_mem (wl_o (D := D) (S := S) (ad := ad) (I := I) (A := A) (R := R) (G := G) hq)
  exact va_put hexec hb hts hin ty0 hty hnm hown hK hW (wx_D hw hAP) hS q0 (app_at h0) hc k hk (hts _ hlink) (fun z h => by rw [← hsame]; exact h) hfin hd (by cases x <;> rfl) (by cases x <;> rfl) (by rw [List.length_map]; exact (List.getElem?_eq_some_iff.mp hki).1) hdg (fun H1 locs1 hP _ hS => kk H1 locs1 (vaP_mem hP (set_app h0 (wl_setR hw hAP.1 hq hki h0 x))) hS)
theorem x_iald (hexec : p.tables.exec = Jvm.exec) (hb : c.code = cc) (hK : Kx D s) (hW : WX D S ad I A R G X H) {i n : Nat} (hq : (i, n, FieldType.int) ∈ S.2.1) {j v : Int32} (hv : ldO (A i) n j = some v) (hdg : decode cc pc = .ok (.iaload, 1))
    (kk : W p l e R0 s m args below meth c H locs cells slots Q (F0 m (pc + 1) ls (.int v :: rest))) : W p l e R0 s m args below meth c H locs cells slots Q (F0 m pc ls (.int j :: .ref (ad i) :: rest)) := by
  obtain ⟨hin, hv⟩ := ldO_e hv
  subst hv
  obtain ⟨q0, h0⟩ := List.getElem?_of_mem (wl_a (D := D) (S := S) (ad := ad) (I := I) (A := A) (R := R) (G := G) hq)
  obtain ⟨t0, ht⟩ := Kx.at (D := D) (U := s) (ty := .int) (by decide)
  exact va_iald hexec hb hK hW q0 t0 (app_at h0) ht hin hdg kk
theorem x_bald (hexec : p.tables.exec = Jvm.exec) (hb : c.code = cc) (hK : Kx D s) (hW : WX D S ad I A R G X H) {i n : Nat} (hq : (i, n, FieldType.byte) ∈ S.2.1) {j v : Int32} (hv : ldO (A i) n j = some v) (hdg : decode cc pc = .ok (.baload, 1))
    (kk : W p l e R0 s m args below meth c H locs cells slots Q (F0 m (pc + 1) ls (.int v :: rest))) : W p l e R0 s m args below meth c H locs cells slots Q (F0 m pc ls (.int j :: .ref (ad i) :: rest)) := by
  obtain ⟨hin, hv⟩ := ldO_e hv
  subst hv
  obtain ⟨q0, h0⟩ := List.getElem?_of_mem (wl_a (D := D) (S := S) (ad := ad) (I := I) (A := A) (R := R) (G := G) hq)
  obtain ⟨t0, ht⟩ := Kx.at (D := D) (U := s) (ty := .byte) (by decide)
  exact va_bald hexec hb hK hW q0 t0 (app_at h0) ht hin hdg kk
theorem x_iast (hexec : p.tables.exec = Jvm.exec) (hb : c.code = cc) (hK : Kx D s) (hw : wfS S) (hAP : AP S ad X base) (hW : WX D S ad I A R G X H) (hS : va_S (upB base) H0 H locs) {i n : Nat} (hq : (i, n, FieldType.int) ∈ S.2.1) {j x : Int32} {f : Nat → Int32} (hv : stO (A i) n j x = some f) (hdg : decode cc pc = .ok (.iastore, 1))
    (kk : ∀ (H1 : Heap) (locs1 : List Loc), WX D S ad I (va_up A i f) R G X H1 → va_S (upB base) H0 H1 locs1 → W p l e R0 s m args below meth c H1 locs1 cells slots Q (F0 m (pc + 1) ls rest)) : W p l e R0 s m args below meth c H locs cells slots Q (F0 m pc ls (.int x :: .int j :: .ref (ad i) :: rest)) := by
  obtain ⟨hin, hv⟩ := stO_e hv
  subst hv
  obtain ⟨q0, h0⟩ := List.getElem?_of_mem (wl_a (D := D) (S := S) (ad := ad) (I := I) (A := A) (R := R) (G := G) hq)
  obtain ⟨t0, ht⟩ := Kx.at (D := D) (U := s) (ty := .int) (by decide)
  exact va_iast hexec hb hK hW (wx_D hw hAP) hS q0 t0 (app_at h0) ht hin hdg (fun H1 locs1 hP _ hS => kk H1 locs1 (vaP_mem hP (set_app h0 (wl_setA hw hAP.1 hq h0 _))) hS)
theorem x_bast (hexec : p.tables.exec = Jvm.exec) (hb : c.code = cc) (hK : Kx D s) (hw : wfS S) (hAP : AP S ad X base) (hW : WX D S ad I A R G X H) (hS : va_S (upB base) H0 H locs) {i n : Nat} (hq : (i, n, FieldType.byte) ∈ S.2.1) {j x : Int32} {f : Nat → Int32} (hv : stO (A i) n j (vp_nar .byte x) = some f) (hdg : decode cc pc = .ok (.bastore, 1))
    (kk : ∀ (H1 : Heap) (locs1 : List Loc), WX D S ad I (va_up A i f) R G X H1 → va_S (upB base) H0 H1 locs1 → W p l e R0 s m args below meth c H1 locs1 cells slots Q (F0 m (pc + 1) ls rest)) : W p l e R0 s m args below meth c H locs cells slots Q (F0 m pc ls (.int x :: .int j :: .ref (ad i) :: rest)) := by
  obtain ⟨hin, hv⟩ := stO_e hv
  subst hv
  obtain ⟨q0, h0⟩ := List.getElem?_of_mem (wl_a (D := D) (S := S) (ad := ad) (I := I) (A := A) (R := R) (G := G) hq)
  obtain ⟨t0, ht⟩ := Kx.at (D := D) (U := s) (ty := .byte) (by decide)
  exact va_bast hexec hb hK hW (wx_D hw hAP) hS q0 t0 (app_at h0) ht hin hdg (fun H1 locs1 hP _ hS => kk H1 locs1 (vaP_mem hP (set_app h0 (wl_setA hw hAP.1 hq h0 _))) hS)
theorem x_aald (hexec : p.tables.exec = Jvm.exec) (hb : c.code = cc) (hK : Kx D s) (hW : WX D S ad I A R G X H) {i n : Nat} {C : String} (hty : FieldType.object C ∈ vTys) (hq : (i, n, C) ∈ S.2.2) {j : Int32} {v : Option Nat} (hv : aldO (G i) n j = some v) (hdg : decode cc pc = .ok (.aaload, 1))
    (kk : W p l e R0 s m args below meth c H locs cells slots Q (F0 m (pc + 1) ls (va_rf v :: rest))) : W p l e R0 s m args below meth c H locs cells slots Q (F0 m pc ls (.int j :: .ref (ad i) :: rest)) := by
  obtain ⟨hin, hv⟩ := aldO_e hv
  subst hv
  obtain ⟨q0, h0⟩ := List.getElem?_of_mem (wl_r (D := D) (S := S) (ad := ad) (I := I) (A := A) (R := R) (G := G) hq)
  obtain ⟨t0, ht⟩ := Kx.at (D := D) (U := s) (ty := .object C) hty
  exact va_aldq hexec hb hK hW q0 t0 (app_at h0) ht hin hdg kk
/-- an element of an array of references among the further cells -/
theorem x_aaldD (hexec : p.tables.exec = Jvm.exec) (hb : c.code = cc) (hK : Kx D s) (hW : WX D S ad I A R G X H) {b n : Nat} {C : String} {g : Nat → Option Nat} (hty : FieldType.object C ∈ vTys) (hq : (b, Sum.inl (D.2 (.object C), n, Sum.inr (Sum.inr (Sum.inr (Sum.inr g))))) ∈ X) {j : Int32} (hin : vp_in j n) (hdg : decode cc pc = .ok (.aaload, 1))
    (kk : W p l e R0 s m args below meth c H locs cells slots Q (F0 m (pc + 1) ls (va_rf (g j.toNatClampNeg) :: rest))) : W p l e R0 s m args below meth c H locs cells slots Q (F0 m pc ls (.int j :: .ref b :: rest)) := by
  obtain ⟨q0, h0⟩ := List.getElem?_of_mem (List.mem_append_right (wl D S ad I A R G) hq)
  obtain ⟨t0, ht⟩ := Kx.at (D := D) (U := s) (ty := .object C) hty
  exact va_aldq hexec hb hK hW q0 t0 h0 ht hin hdg kk
theorem x_recv (hK : Kx D s) (hW : WX D S ad I A R G X H) {b ci : Nat} {cs : List fc_} {C : String} {T : u_T} {N : Nat} (hq : (b, ci, cs) ∈ S.1) (hc : vCl[ci]? = some (C, T, N)) : ∃ cell : Cell, H[ad b]? = some cell ∧ cell.vm.isStatics = false ∧ s.vm.findClass C = some cell.cls := by
  obtain ⟨q0, h0⟩ := List.getElem?_of_mem (wl_o (D := D) (S := S) (ad := ad) (I := I) (A := A) (R := R) (G := G) hq)
  exact va_recv (q := (C, T, N)) hK hW hc (app_at h0)
theorem x_recvD (hK : Kx D s) (hW : WX D S ad I A R G X H) {b ci : Nat} {fs : List Value} {C : String} {T : u_T} {N : Nat} (hq : (b, Sum.inr (ci, fs)) ∈ X) (hc : vCl[ci]? = some (C, T, N)) : ∃ cell : Cell, H[b]? = some cell ∧ cell.vm.isStatics = false ∧ s.vm.findClass C = some cell.cls := by
  obtain ⟨q0, h0⟩ := List.getElem?_of_mem (List.mem_append_right (wl D S ad I A R G) hq)
  exact va_recv (q := (C, T, N)) hK hW hc h0
variable {y : MethodName} {bytes : ByteArray} {maxL nL n index : Nat} {ret : Option FieldType} {rm : Room} {own C : String} {b : Addr} {As : List Value} {Sc : sp_} {adc : Nat → Nat} {Ic Ic1 : Nat → Int32} {Ac Ac1 : Nat → Nat → Int32} {Rc Rc1 : Nat → Option Nat} {Gc Gc1 : Nat → Nat → Option Nat} {Xc Xc1 : va_W}
theorem x_endW {ov : Option Value} {a : Array Value} (hr : va_Run p l e R0 s m args below meth c H locs cells slots 0 0 (F0 m pc ls st0) rest (QcX D Sc adc Ic1 Ac1 Rc1 Gc1 Xc1 base ov a) (upB base)) (hS : va_S (upB base) H0 H locs) (kk : ∀ (H1 : Heap) (locs1 : List Loc), WX D Sc adc Ic1 Ac1 Rc1 Gc1 Xc1 H1 → va_S (upB base) H0 H1 locs1 → W p l e R0 s m args below meth c H1 locs1 cells slots Q (F0 m (pc + 3) ls (ov.toList ++ rest))) : W p l e R0 s m args below meth c H locs cells slots Q (F0 m pc ls st0) := by
  intro T hT X
  obtain ⟨v, st₀, t, T', L, h0, X', hL, e1, e2, ⟨hv, hh, hz, hk⟩, st⟩ := hr T hT X
  cases hv
  rw [h0] at hz hk
  obtain ⟨t2, a1, b1⟩ := kk T'.heap (locs ++ L) (by rw [e1]; exact hh)
    ⟨Nat.le_trans hS.1 (by rw [e1]; exact hz), fun q h1 h2 => by rw [e1, hk q (Nat.lt_of_lt_of_le h1 hS.1) h2]; exact hS.2.1 q h1 h2, fun q hq => by
      rcases List.mem_append.mp hq with h | h
      · exact hS.2.2 q h
      · exact hL q h⟩ T' rfl X'
  exact ⟨t2, st t2 a1, b1⟩
theorem pcx_at (hY : s0.WarmedH s.vm) (hK : Kx D s) (hB : base ≤ H.size) (hW : WX D Sc adc Ic Ac Rc Gc Xc H) {av : List Value} : ∀ U : State, U.heap = H → s.WarmedH U.vm → PcX D s0 Sc adc Ic Ac Rc Gc Xc base av av.toArray U := fun U hU hw => ⟨rfl, Kx.moved hw.alike hK, State.WarmedH.trans hY hw, by rw [hU]; exact hB, by rw [hU]; exact hW⟩
/-- a virtual call, a reader -/
theorem x_vR {ov : Option Value} (F : CallFix p m c cc nL s args lw_all own) (hM : Met l y (ws_ y bytes maxL ret) rm (PcX D s0 Sc adc Ic Ac Rc Gc Xc base (.ref b :: As)) (QcR ov) 0 0 (fun _ => False)) (cw : CallW R0 s args own C index y bytes maxL ret (ws_ y bytes maxL ret) rm 0 0 n) (hrec : ∃ cell : Cell, H[b]? = some cell ∧ cell.vm.isStatics = false ∧ s.vm.findClass C = some cell.cls) (hK : Kx D s) (hY : s0.WarmedH s.vm) (hB : base ≤ H.size) (hW : WX D Sc adc Ic Ac Rc Gc Xc H) (hcs : cells ≤ R0.cells ∧ slots ≤ R0.slots)
    (hn : As.length = n) (hsize : ls.size = nL) (hstack : st0 = As.reverse ++ .ref b :: rest) (hr : (rest.map fun v => v.category).sum ≤ 8) (hdg : decode cc pc = .ok (.invokevirtual index, 3)) (kk : W p l e R0 s m args below meth c H locs cells slots Q (F0 m (pc + 3) ls (ov.toList ++ rest))) : W p l e R0 s m args below meth c H locs cells slots Q (F0 m pc ls st0) :=
  g_endR (va_runV (g := F0 m pc ls st0) F hM cw ⟨PcX_blind, hrec, pcx_at hY hK hB hW⟩ rfl hn hsize hstack (lv_room (m := m) (pc := pc) (ls := ls) (rest := st0) hr) hdg hcs) kk
/-- a virtual call, a writer -/
theorem x_vW {ov : Option Value} (F : CallFix p m c cc nL s args lw_all own) (hM : Met l y (ws_ y bytes maxL ret) rm (PcX D s0 Sc adc Ic Ac Rc Gc Xc base (.ref b :: As)) (QcX D Sc adc Ic1 Ac1 Rc1 Gc1 Xc1 base ov) 0 0 (upB base)) (cw : CallW R0 s args own C index y bytes maxL ret (ws_ y bytes maxL ret) rm 0 0 n) (hrec : ∃ cell : Cell, H[b]? = some cell ∧ cell.vm.isStatics = false ∧ s.vm.findClass C = some cell.cls) (hK : Kx D s) (hY : s0.WarmedH s.vm) (hB : base ≤ H.size) (hW : WX D Sc adc Ic Ac Rc Gc Xc H) (hS : va_S (upB base) H0 H locs) (hcs : cells ≤ R0.cells ∧ slots ≤ R0.slots)
    (hn : As.length = n) (hsize : ls.size = nL) (hstack : st0 = As.reverse ++ .ref b :: rest) (hr : (rest.map fun v => v.category).sum ≤ 8) (hdg : decode cc pc = .ok (.invokevirtual index, 3)) (kk : ∀ (H1 : Heap) (locs1 : List Loc), WX D Sc adc Ic1 Ac1 Rc1 Gc1 Xc1 H1 → va_S (upB base) H0 H1 locs1 → W p l e R0 s m args below meth c H1 locs1 cells slots Q (F0 m (pc + 3) ls (ov.toList ++ rest))) : W p l e R0 s m args below meth c H locs cells slots Q (F0 m pc ls st0) :=
  x_endW (va_runV (g := F0 m pc ls st0) F hM cw ⟨PcX_blind, hrec, pcx_at hY hK hB hW⟩ rfl hn hsize hstack (lv_room (m := m) (pc := pc) (ls := ls) (rest := st0) hr) hdg hcs) hS kk
/-- a static call, a reader -/
theorem x_sR {ov : Option Value} (F : CallFix p m c cc nL s args lw_all own) (hM : Met l y (ws_ y bytes maxL ret) rm (PcX D s0 Sc adc Ic Ac Rc Gc Xc base As) (QcR ov) 0 0 (fun _ => False)) (cw : CallB R0 s args own index y bytes maxL ret (ws_ y bytes maxL ret) rm 0 0 n ∧ (Cond.static y).before args s = true) (hK : Kx D s) (hY : s0.WarmedH s.vm) (hB : base ≤ H.size) (hW : WX D Sc adc Ic Ac Rc Gc Xc H) (hcs : cells ≤ R0.cells ∧ slots ≤ R0.slots)
    (hn : As.length = n) (hsize : ls.size = nL) (hstack : st0 = As.reverse ++ rest) (hr : (rest.map fun v => v.category).sum ≤ 8) (hdg : decode cc pc = .ok (.invokestatic index, 3)) (kk : W p l e R0 s m args below meth c H locs cells slots Q (F0 m (pc + 3) ls (ov.toList ++ rest))) : W p l e R0 s m args below meth c H locs cells slots Q (F0 m pc ls st0) :=
  g_endR (va_runS (g := F0 m pc ls st0) F hM cw ⟨PcX_blind, pcx_at hY hK hB hW⟩ rfl hn hsize hstack (lv_room (m := m) (pc := pc) (ls := ls) (rest := st0) hr) hdg hcs) kk
/-- a static call of a nest mate's private method, a reader -/
theorem x_snR {host : String} {ov : Option Value} (F : CallFix p m c cc nL s args lw_all own) (hM : Met l y (ws_ y bytes maxL ret) rm (PcX D s0 Sc adc Ic Ac Rc Gc Xc base As) (QcR ov) 0 0 (fun _ => False)) (cw : va_CN R0 s args own index y host bytes maxL ret (ws_ y bytes maxL ret) rm 0 0 n ∧ (Cond.static y).before args s = true ∧ True) (hK : Kx D s) (hY : s0.WarmedH s.vm) (hB : base ≤ H.size) (hW : WX D Sc adc Ic Ac Rc Gc Xc H) (hcs : cells ≤ R0.cells ∧ slots ≤ R0.slots)
    (hn : As.length = n) (hsize : ls.size = nL) (hstack : st0 = As.reverse ++ rest) (hr : (rest.map fun v => v.category).sum ≤ 8) (hdg : decode cc pc = .ok (.invokestatic index, 3)) (kk : W p l e R0 s m args below meth c H locs cells slots Q (F0 m (pc + 3) ls (ov.toList ++ rest))) : W p l e R0 s m args below meth c H locs cells slots Q (F0 m pc ls st0) :=
  g_endR (va_runSN (g := F0 m pc ls st0) F hM cw ⟨PcX_blind, pcx_at hY hK hB hW⟩ rfl hn hsize hstack (lv_room (m := m) (pc := pc) (ls := ls) (rest := st0) hr) hdg hcs) kk
/-- a call of a super class's method (invokespecial), a reader -/
theorem x_suR {cC : ClassId} {ov : Option Value} (hat : ClassAt s C cC) (F : CallFix p m c cc nL s args lw_all own) (hM : Met l y (ws_ y bytes maxL ret) rm (PcX D s0 Sc adc Ic Ac Rc Gc Xc base (.ref b :: As)) (QcR ov) 0 0 (fun _ => False)) (cw : va_CS R0 s args own index y bytes maxL ret (ws_ y bytes maxL ret) rm 0 0 n) (hrec : ∃ cell : Cell, H[b]? = some cell ∧ cell.vm.isStatics = false ∧ s.vm.findClass C = some cell.cls) (hK : Kx D s) (hY : s0.WarmedH s.vm) (hB : base ≤ H.size) (hW : WX D Sc adc Ic Ac Rc Gc Xc H) (hcs : cells ≤ R0.cells ∧ slots ≤ R0.slots)
    (hn : As.length = n) (hsize : ls.size = nL) (hstack : st0 = As.reverse ++ .ref b :: rest) (hr : (rest.map fun v => v.category).sum ≤ 8) (hdg : decode cc pc = .ok (.invokespecial index, 3)) (kk : W p l e R0 s m args below meth c H locs cells slots Q (F0 m (pc + 3) ls (ov.toList ++ rest))) : W p l e R0 s m args below meth c H locs cells slots Q (F0 m pc ls st0) :=
  g_endR (va_runSU (g := F0 m pc ls st0) hat F hM cw ⟨PcX_blind, hrec, pcx_at hY hK hB hW⟩ rfl hn hsize hstack (lv_room (m := m) (pc := pc) (ls := ls) (rest := st0) hr) hdg hcs) kk
/-- a virtual call where another class's method is selected, a reader -/
theorem x_uR {owner : String} {x : MethodName} {ov : Option Value} (F : CallFix p m c cc nL s args lw_all own) (hM : Met l y (ws_ y bytes maxL ret) rm (PcX D s0 Sc adc Ic Ac Rc Gc Xc base (.ref b :: As)) (QcR ov) 0 0 (fun _ => False)) (cw : va_CU R0 s args own C owner index x y bytes maxL ret (ws_ y bytes maxL ret) rm 0 0 n) (hrec : ∃ cell : Cell, H[b]? = some cell ∧ cell.vm.isStatics = false ∧ s.vm.findClass C = some cell.cls) (hK : Kx D s) (hY : s0.WarmedH s.vm) (hB : base ≤ H.size) (hW : WX D Sc adc Ic Ac Rc Gc Xc H) (hcs : cells ≤ R0.cells ∧ slots ≤ R0.slots)
    (hn : As.length = n) (hsize : ls.size = nL) (hstack : st0 = As.reverse ++ .ref b :: rest) (hr : (rest.map fun v => v.category).sum ≤ 8) (hdg : decode cc pc = .ok (.invokevirtual index, 3)) (kk : W p l e R0 s m args below meth c H locs cells slots Q (F0 m (pc + 3) ls (ov.toList ++ rest))) : W p l e R0 s m args below meth c H locs cells slots Q (F0 m pc ls st0) :=
  g_endR (va_runU (g := F0 m pc ls st0) F hM cw ⟨PcX_blind, hrec, pcx_at hY hK hB hW⟩ rfl hn hsize hstack (lv_room (m := m) (pc := pc) (ls := ls) (rest := st0) hr) hdg hcs) kk
end XROWS
theorem WX_nil {D : dd_} {ad : Nat → Nat} {I : Nat → Int32} {A : Nat → Nat → Int32} {R : Nat → Option Nat} {G : Nat → Nat → Option Nat} {H : Heap} : WX D nS ad I A R G [] H := fun k q hk => by simp [wl] at hk
def obS {α β : Type} (x : Option (α ⊕ β)) (f : α → Option β) : Option β := match x with
  | none => none
  | some (.inl a) => f a
  | some (.inr b) => some b
theorem obS_e {α β : Type} {x : Option (α ⊕ β)} {f : α → Option β} {r : β} (h : obS x f = some r) : ∃ o, x = some o ∧ Sum.elim f some o = some r := by
  cases x with
  | none => cases h
  | some o => cases o with
    | inl a => exact ⟨_, rfl, h⟩
    | inr b => exact ⟨_, rfl, h⟩
section XNULL
variable {p : Program} {l : Launch} {e : Env} {R0 : Room} {s : State} {m : MethodId} {args : Array Value} {below : List Frame} {meth : Method} {c : Code} {H : Heap} {locs : List Loc} {cells slots : Nat} {Q : State → Prop} {cc : ByteArray} {pc : Nat} {ls : Array Slot} {rest : List Value}
theorem x_ifnn (hexec : p.tables.exec = Jvm.exec) (hb : c.code = cc) {r : Option Nat} {off : Int} {tgt : Nat} (hdg : decode cc pc = .ok (.ifnonnull off, 3)) (ht : (pc : Int) + off = (tgt : Int)) (kt : ¬ r = none → W p l e R0 s m args below meth c H locs cells slots Q (F0 m tgt ls rest)) (kf : r = none → W p l e R0 s m args below meth c H locs cells slots Q (F0 m (pc + 3) ls rest)) : W p l e R0 s m args below meth c H locs cells slots Q (F0 m pc ls (va_rf r :: rest)) := by
  cases r with
  | none => exact lv_ifnonnullN hexec hb hdg (kf rfl)
  | some x => exact lv_ifnonnull hexec hb hdg ht (kt (by simp))
theorem x_ifn (hexec : p.tables.exec = Jvm.exec) (hb : c.code = cc) {r : Option Nat} {off : Int} {tgt : Nat} (hdg : decode cc pc = .ok (.ifnull off, 3)) (ht : (pc : Int) + off = (tgt : Int)) (kt : r = none → W p l e R0 s m args below meth c H locs cells slots Q (F0 m tgt ls rest)) (kf : ¬ r = none → W p l e R0 s m args below meth c H locs cells slots Q (F0 m (pc + 3) ls rest)) : W p l e R0 s m args below meth c H locs cells slots Q (F0 m pc ls (va_rf r :: rest)) := by
  cases r with
  | none => exact lv_ifnullN hexec hb hdg ht (kt rfl)
  | some x => exact lv_ifnull hexec hb hdg (kf (by simp))
end XNULL
