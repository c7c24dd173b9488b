/-! FRAMEWORK 2: pure steps; rows of instructions and calls over banks -/
set_option maxRecDepth 100000
def NF : Nat := 1000000
def ldO (f : Nat → Int32) (n : Nat) (i : Int32) : Option Int32 := if i < 0 ∨ n ≤ i.toNatClampNeg then none else some (f i.toNatClampNeg)
def stO (f : Nat → Int32) (n : Nat) (i x : Int32) : Option (Nat → Int32) := if i < 0 ∨ n ≤ i.toNatClampNeg then none else some (upd f i.toNatClampNeg x)
def zO (v : Int32) : Option Int32 := if v = 0 ∨ v = 1 then some v else none
def divO (x y : Int32) : Option Int32 := if y = 0 then none else some (x / y)
def remO (x y : Int32) : Option Int32 := if y = 0 then none else some (x - x / y * y)
def lremO (x y : Int64) : Option Int64 := if y = 0 then none else some (x - x / y * y)
def ob1 {α δ : Type} (x : Option α) (f : α → Option δ) : Option δ := match x with
  | none => none
  | some a => f a
def ob2 {α β δ : Type} (x : Option (α × β)) (f : α → β → Option δ) : Option δ := match x with
  | none => none
  | some (a, b) => f a b
def ob3 {α β γ δ : Type} (x : Option (α × β × γ)) (f : α → β → γ → Option δ) : Option δ := match x with
  | none => none
  | some (a, b, c) => f a b c
def ob4 {α β γ ε δ : Type} (x : Option (α × β × γ × ε)) (f : α → β → γ → ε → Option δ) : Option δ := match x with
  | none => none
  | some (a, b, c, d) => f a b c d
def ob5 {α β γ ε ζ δ : Type} (x : Option (α × β × γ × ε × ζ)) (f : α → β → γ → ε → ζ → Option δ) : Option δ := match x with
  | none => none
  | some (a, b, c, d, e) => f a b c d e
def ob6 {α β γ ε ζ η δ : Type} (x : Option (α × β × γ × ε × ζ × η)) (f : α → β → γ → ε → ζ → η → Option δ) : Option δ := match x with
  | none => none
  | some (a, b, c, d, e, g) => f a b c d e g
def ob7 {α β γ ε ζ η θ δ : Type} (x : Option (α × β × γ × ε × ζ × η × θ)) (f : α → β → γ → ε → ζ → η → θ → Option δ) : Option δ := match x with
  | none => none
  | some (a, b, c, d, e, g, h) => f a b c d e g h
theorem ob1_e {α δ : Type} {x : Option α} {f : α → Option δ} {r : δ} (h : ob1 x f = some r) : ∃ a, x = some a ∧ f a = some r := by
  cases x with
  | none => cases h
  | some a => exact ⟨a, rfl, h⟩
theorem ob2_e {α β δ : Type} {x : Option (α × β)} {f : α → β → Option δ} {r : δ} (h : ob2 x f = some r) : ∃ a b, x = some (a, b) ∧ f a b = some r := by
  cases x with
  | none => cases h
  | some a => exact ⟨a.1, a.2, rfl, h⟩
theorem ob3_e {α β γ δ : Type} {x : Option (α × β × γ)} {f : α → β → γ → Option δ} {r : δ} (h : ob3 x f = some r) : ∃ a b c, x = some (a, b, c) ∧ f a b c = some r := by
  cases x with
  | none => cases h
  | some a => exact ⟨a.1, a.2.1, a.2.2, rfl, h⟩
theorem ob4_e {α β γ ε δ : Type} {x : Option (α × β × γ × ε)} {f : α → β → γ → ε → Option δ} {r : δ} (h : ob4 x f = some r) : ∃ a b c d, x = some (a, b, c, d) ∧ f a b c d = some r := by
  cases x with
  | none => cases h
  | some a => exact ⟨a.1, a.2.1, a.2.2.1, a.2.2.2, rfl, h⟩
theorem ob5_e {α β γ ε ζ δ : Type} {x : Option (α × β × γ × ε × ζ)} {f : α → β → γ → ε → ζ → Option δ} {r : δ} (h : ob5 x f = some r) : ∃ a b c d e, x = some (a, b, c, d, e) ∧ f a b c d e = some r := by
  cases x with
  | none => cases h
  | some a => exact ⟨a.1, a.2.1, a.2.2.1, a.2.2.2.1, a.2.2.2.2, rfl, h⟩
theorem ob6_e {α β γ ε ζ η δ : Type} {x : Option (α × β × γ × ε × ζ × η)} {f : α → β → γ → ε → ζ → η → Option δ} {r : δ} (h : ob6 x f = some r) : ∃ a b c d e g, x = some (a, b, c, d, e, g) ∧ f a b c d e g = some r := by
  cases x with
  | none => cases h
  | some a => exact ⟨a.1, a.2.1, a.2.2.1, a.2.2.2.1, a.2.2.2.2.1, a.2.2.2.2.2, rfl, h⟩
theorem ob7_e {α β γ ε ζ η θ δ : Type} {x : Option (α × β × γ × ε × ζ × η × θ)} {f : α → β → γ → ε → ζ → η → θ → Option δ} {r : δ} (h : ob7 x f = some r) : ∃ a b c d e g i, x = some (a, b, c, d, e, g, i) ∧ f a b c d e g i = some r := by
  cases x with
  | none => cases h
  | some a => exact ⟨a.1, a.2.1, a.2.2.1, a.2.2.2.1, a.2.2.2.2.1, a.2.2.2.2.2.1, a.2.2.2.2.2.2, rfl, h⟩
theorem ldO_e {f : Nat → Int32} {n : Nat} {i v : Int32} (h : ldO f n i = some v) : vp_in i n ∧ f i.toNatClampNeg = v := by
  unfold ldO at h
  by_cases c : i < 0 ∨ n ≤ i.toNatClampNeg
  · rw [if_pos c] at h; cases h
  · rw [if_neg c] at h; exact ⟨c, Option.some.inj h⟩
theorem stO_e {f g : Nat → Int32} {n : Nat} {i x : Int32} (h : stO f n i x = some g) : vp_in i n ∧ upd f i.toNatClampNeg x = g := by
  unfold stO at h
  by_cases c : i < 0 ∨ n ≤ i.toNatClampNeg
  · rw [if_pos c] at h; cases h
  · rw [if_neg c] at h; exact ⟨c, Option.some.inj h⟩
theorem zO_e {v w : Int32} (h : zO v = some w) : (v = 0 ∨ v = 1) ∧ v = w := by
  unfold zO at h
  by_cases c : v = 0 ∨ v = 1
  · rw [if_pos c] at h; exact ⟨c, Option.some.inj h⟩
  · rw [if_neg c] at h; cases h
theorem nar_z {v : Int32} (h : v = 0 ∨ v = 1) : narrow .boolean (.int v) = .int v := by rcases h with rfl | rfl <;> rfl
theorem divO_e {x y w : Int32} (h : divO x y = some w) : ¬ y = 0 ∧ x / y = w := by
  unfold divO at h
  by_cases c : y = 0
  · rw [if_pos c] at h; cases h
  · rw [if_neg c] at h; exact ⟨c, Option.some.inj h⟩
theorem remO_e {x y w : Int32} (h : remO x y = some w) : ¬ y = 0 ∧ x - x / y * y = w := by
  unfold remO at h
  by_cases c : y = 0
  · rw [if_pos c] at h; cases h
  · rw [if_neg c] at h; exact ⟨c, Option.some.inj h⟩
theorem lremO_e {x y w : Int64} (h : lremO x y = some w) : ¬ y = 0 ∧ x - x / y * y = w := by
  unfold lremO at h
  by_cases c : y = 0
  · rw [if_pos c] at h; cases h
  · rw [if_neg c] at h; exact ⟨c, Option.some.inj h⟩
/-- a contract's start, and its end: a reader, a writer -/
def PcW (D : dd_) (S : sp_) (ad : Nat → Nat) (I : Nat → Int32) (A : Nat → Nat → Int32) (R : Nat → Option Nat) (G : Nat → Nat → Option Nat) (av : List Value) : Array Value → State → Prop := fun v U => v = av.toArray ∧ Kx D U ∧ WH D S ad I A R G U.heap
def QcR (ov : Option Value) : Array Value → State → Outcome → State → Prop := fun _ st oc t => oc = .returned ov ∧ t.heap = st.heap
def QcW (D : dd_) (S : sp_) (ad : Nat → Nat) (I : Nat → Int32) (A : Nat → Nat → Int32) (R : Nat → Option Nat) (G : Nat → Nat → Option Nat) (ov : Option Value) : Array Value → State → Outcome → State → Prop := fun _ st oc t => oc = .returned ov ∧ WH D S ad I A R G t.heap ∧ va_F (frS S ad) st t
theorem PcW_blind {D : dd_} {S : sp_} {ad : Nat → Nat} {I : Nat → Int32} {A : Nat → Nat → Int32} {R : Nat → Option Nat} {G : Nat → Nat → Option Nat} {av : List Value} : FrameBlind (PcW D S ad I A R G av) := fun a U g mk h => ⟨h.1, Kx.moved (u := U) (U := U.calling g mk a) (Vm.Alike.refl U.vm) h.2.1, h.2.2⟩
section ROWS
variable {p : Program} {l : Launch} {e : Env} {R0 : Room} {s : State} {m : MethodId} {args : Array Value} {below : List Frame} {meth : Method} {c : Code} {H : Heap} {locs : List Loc} {cells slots : Nat} {Q : State → Prop}
variable {cc : ByteArray} {pc : Nat} {ls : Array Slot} {rest st0 : List Value} {D : dd_} {S : sp_} {ad : Nat → Nat} {I : Nat → Int32} {A : Nat → Nat → Int32} {R : Nat → Option Nat} {G : Nat → Nat → Option Nat} {A0 : Nat → Prop} {H0 : Heap}
theorem w_cut {g g2 : JFrame} (k : W p l e R0 s m args below meth c H locs cells slots Q g2) (h : W p l e R0 s m args below meth c H locs cells slots Q g2 → W p l e R0 s m args below meth c H locs cells slots Q g) : W p l e R0 s m args below meth c H locs cells slots Q g := h k
theorem w_cutL {nL : Nat} {L : List (Nat × Value)} {pcj : Nat} {st : List Value} {g : JFrame} (k : ∀ ls : Array Slot, lv_has ls nL L → W p l e R0 s m args below meth c H locs cells slots Q (F0 m pcj ls st)) (h : (∀ ls : Array Slot, lv_has ls nL L → W p l e R0 s m args below meth c H locs cells slots Q (F0 m pcj ls st)) → W p l e R0 s m args below meth c H locs cells slots Q g) : W p l e R0 s m args below meth c H locs cells slots Q g := h k
theorem w_cutH {nL : Nat} {L : List (Nat × Value)} {pcj : Nat} {st : List Value} {g : JFrame} {X : Heap → Prop} (k : ∀ (H1 : Heap) (locs1 : List Loc) (ls : Array Slot), X H1 → va_S A0 H0 H1 locs1 → lv_has ls nL L → W p l e R0 s m args below meth c H1 locs1 cells slots Q (F0 m pcj ls st)) (h : (∀ (H1 : Heap) (locs1 : List Loc) (ls : Array Slot), X H1 → va_S A0 H0 H1 locs1 → lv_has ls nL L → W p l e R0 s m args below meth c H1 locs1 cells slots Q (F0 m pcj ls st)) → W p l e R0 s m args below meth c H locs cells slots Q g) : W p l e R0 s m args below meth c H locs cells slots Q g := h k
theorem g_get (hexec : p.tables.exec = Jvm.exec) (hb : c.code = cc) (hts : ∀ w ∈ lw_all, w.before args s = true) {own : String} (hown : s.vm.findClass own = some m.cls) (hK : Kx D s) (hW : WH D S ad I A R G H) {ref C : String} {T : u_T} {N ci index b : Nat} {cs : List fc_} (hq : (b, ci, cs) ∈ S.1) (hin : ∀ w ∈ u_ws C T N, w ∈ lw_all) (hc : vCl[ci]? = some (C, T, N)) (k : Nat) (hk : k < N) (hlink : Cond.fieldLink own index ref (T k).2.1 (T k).2.2.1 ∈ lw_all) (hsame : (T k).1 = ref) {v : Value} (hv : (cs.map (fv_ ad I R))[k]? = some v) (hdg : decode cc pc = .ok (.getfield index, 3))
    (kk : W p l e R0 s m args below meth c H locs cells slots Q (F0 m (pc + 3) ls (v :: rest))) : W p l e R0 s m args below meth c H locs cells slots Q (F0 m pc ls (.ref (ad b) :: rest)) := by
  obtain ⟨q0, h0⟩ := List.getElem?_of_mem (wl_o (D := D) (S := S) (ad := ad) (I := I) (A := A) (R := R) (G := G) hq)
  exact va_get hexec hb hts hin hown hK hW q0 h0 hc k hk (hts _ hlink) (fun x h => by rw [← hsame]; exact h) hv hdg kk
theorem g_putI (hexec : p.tables.exec = Jvm.exec) (hb : c.code = cc) (hts : ∀ w ∈ lw_all, w.before args s = true) {own : String} (hown : s.vm.findClass own = some m.cls) (hK : Kx D s) (hw : wfS S) (hI : Inj S ad) (hA : ∀ i ∈ idxS S, A0 (ad i)) (hW : WH D S ad I A R G H) (hS : va_S A0 H0 H locs) {ref C : String} {T : u_T} {N ci index b : Nat} {cs : List fc_} (hq : (b, ci, cs) ∈ S.1) (hin : ∀ w ∈ u_ws C T N, w ∈ lw_all) (ty0 : Nat → FieldType) (hty : ∀ k, k < N → parseFieldDescriptor (T k).2.2.1 = some (ty0 k)) (hnm : ∀ a, a < N → ∀ b, b < N → a ≠ b → (T a).2.1 ≠ (T b).2.1) (hc : vCl[ci]? = some (C, T, N)) (k i : Nat) (hk : k < N) (hki : cs[k]? = some (.inl i)) (hlink : Cond.fieldLink own index ref (T k).2.1 (T k).2.2.1 ∈ lw_all) (hsame : (T k).1 = ref) (hfin : (T k).2.2.2 = false) (hd : parseFieldDescriptor (T k).2.2.1 = some .int) {x : Int32} (hdg : decode cc pc = .ok (.putfield index, 3))
    (kk : ∀ (H1 : Heap) (locs1 : List Loc), WH D S ad (upd I i x) A R G H1 → va_S A0 H0 H1 locs1 → W p l e R0 s m args below meth c H1 locs1 cells slots Q (F0 m (pc + 3) ls rest)) : W p l e R0 s m args below meth c H locs cells slots Q (F0 m pc ls (.int x :: .ref (ad b) :: rest)) := by
  obtain ⟨q0, h0⟩ := List.getElem?_of_mem (wl_o (D := D) (S := S) (ad := ad) (I := I) (A := A) (R := R) (G := G) hq)
  exact va_put hexec hb hts hin ty0 hty hnm hown hK hW (wl_D hw hI hA) hS q0 h0 hc k hk (hts _ hlink) (fun z h => by rw [← hsame]; exact h) hfin hd rfl rfl (by rw [List.length_map]; exact (List.getElem?_eq_some_iff.mp hki).1) hdg (fun H1 locs1 hP _ hS => kk H1 locs1 (vaP_mem hP (wl_setI hw hI hq hki h0 x)) hS)
theorem g_iald (hexec : p.tables.exec = Jvm.exec) (hb : c.code = cc) (hK : Kx D s) (hW : WH D S ad I A R G H) {i n : Nat} (hq : (i, n, FieldType.int) ∈ S.2.1) {j v : Int32} (hv : ldO (A i) n j = some v) (hdg : decode cc pc = .ok (.iaload, 1))
    (kk : W p l e R0 s m args below meth c H locs cells slots Q (F0 m (pc + 1) ls (.int v :: rest))) : W p l e R0 s m args below meth c H locs cells slots Q (F0 m pc ls (.int j :: .ref (ad i) :: rest)) := by
  obtain ⟨hin, hv⟩ := ldO_e hv
  subst hv
  obtain ⟨q0, h0⟩ := List.getElem?_of_mem (wl_a (D := D) (S := S) (ad := ad) (I := I) (A := A) (R := R) (G := G) hq)
  obtain ⟨t0, ht⟩ := Kx.at (D := D) (U := s) (ty := .int) (by decide)
  exact va_iald hexec hb hK hW q0 t0 h0 ht hin hdg kk
theorem g_zald (hexec : p.tables.exec = Jvm.exec) (hb : c.code = cc) (hK : Kx D s) (hW : WH D S ad I A R G H) {i n : Nat} (hq : (i, n, FieldType.boolean) ∈ S.2.1) {j v : Int32} (hv : ldO (A i) n j = some v) (hdg : decode cc pc = .ok (.baload, 1))
    (kk : W p l e R0 s m args below meth c H locs cells slots Q (F0 m (pc + 1) ls (.int v :: rest))) : W p l e R0 s m args below meth c H locs cells slots Q (F0 m pc ls (.int j :: .ref (ad i) :: rest)) := by
  obtain ⟨hin, hv⟩ := ldO_e hv
  subst hv
  obtain ⟨q0, h0⟩ := List.getElem?_of_mem (wl_a (D := D) (S := S) (ad := ad) (I := I) (A := A) (R := R) (G := G) hq)
  obtain ⟨t0, ht⟩ := Kx.at (D := D) (U := s) (ty := .boolean) (by decide)
  exact va_zald hexec hb hK hW q0 t0 h0 ht hin hdg kk
theorem g_bald (hexec : p.tables.exec = Jvm.exec) (hb : c.code = cc) (hK : Kx D s) (hW : WH D S ad I A R G H) {i n : Nat} (hq : (i, n, FieldType.byte) ∈ S.2.1) {j v : Int32} (hv : ldO (A i) n j = some v) (hdg : decode cc pc = .ok (.baload, 1))
    (kk : W p l e R0 s m args below meth c H locs cells slots Q (F0 m (pc + 1) ls (.int v :: rest))) : W p l e R0 s m args below meth c H locs cells slots Q (F0 m pc ls (.int j :: .ref (ad i) :: rest)) := by
  obtain ⟨hin, hv⟩ := ldO_e hv
  subst hv
  obtain ⟨q0, h0⟩ := List.getElem?_of_mem (wl_a (D := D) (S := S) (ad := ad) (I := I) (A := A) (R := R) (G := G) hq)
  obtain ⟨t0, ht⟩ := Kx.at (D := D) (U := s) (ty := .byte) (by decide)
  exact va_bald hexec hb hK hW q0 t0 h0 ht hin hdg kk
theorem g_iast (hexec : p.tables.exec = Jvm.exec) (hb : c.code = cc) (hK : Kx D s) (hw : wfS S) (hI : Inj S ad) (hA : ∀ i ∈ idxS S, A0 (ad i)) (hW : WH D S ad I A R G H) (hS : va_S A0 H0 H locs) {i n : Nat} (hq : (i, n, FieldType.int) ∈ S.2.1) {j x : Int32} {f : Nat → Int32} (hv : stO (A i) n j x = some f) (hdg : decode cc pc = .ok (.iastore, 1))
    (kk : ∀ (H1 : Heap) (locs1 : List Loc), WH D S ad I (va_up A i f) R G H1 → va_S A0 H0 H1 locs1 → W p l e R0 s m args below meth c H1 locs1 cells slots Q (F0 m (pc + 1) ls rest)) : W p l e R0 s m args below meth c H locs cells slots Q (F0 m pc ls (.int x :: .int j :: .ref (ad i) :: rest)) := by
  obtain ⟨hin, hv⟩ := stO_e hv
  subst hv
  obtain ⟨q0, h0⟩ := List.getElem?_of_mem (wl_a (D := D) (S := S) (ad := ad) (I := I) (A := A) (R := R) (G := G) hq)
  obtain ⟨t0, ht⟩ := Kx.at (D := D) (U := s) (ty := .int) (by decide)
  exact va_iast hexec hb hK hW (wl_D hw hI hA) hS q0 t0 h0 ht hin hdg (fun H1 locs1 hP _ hS => kk H1 locs1 (vaP_mem hP (wl_setA hw hI hq h0 _)) hS)
theorem g_zast (hexec : p.tables.exec = Jvm.exec) (hb : c.code = cc) (hK : Kx D s) (hw : wfS S) (hI : Inj S ad) (hA : ∀ i ∈ idxS S, A0 (ad i)) (hW : WH D S ad I A R G H) (hS : va_S A0 H0 H locs) {i n : Nat} (hq : (i, n, FieldType.boolean) ∈ S.2.1) {j x : Int32} {f : Nat → Int32} (hv : stO (A i) n j (vp_nar .boolean x) = some f) (hdg : decode cc pc = .ok (.bastore, 1))
    (kk : ∀ (H1 : Heap) (locs1 : List Loc), WH D S ad I (va_up A i f) R G H1 → va_S A0 H0 H1 locs1 → W p l e R0 s m args below meth c H1 locs1 cells slots Q (F0 m (pc + 1) ls rest)) : W p l e R0 s m args below meth c H locs cells slots Q (F0 m pc ls (.int x :: .int j :: .ref (ad i) :: rest)) := by
  obtain ⟨hin, hv⟩ := stO_e hv
  subst hv
  obtain ⟨q0, h0⟩ := List.getElem?_of_mem (wl_a (D := D) (S := S) (ad := ad) (I := I) (A := A) (R := R) (G := G) hq)
  obtain ⟨t0, ht⟩ := Kx.at (D := D) (U := s) (ty := .boolean) (by decide)
  exact va_zast hexec hb hK hW (wl_D hw hI hA) hS q0 t0 h0 ht hin hdg (fun H1 locs1 hP _ hS => kk H1 locs1 (vaP_mem hP (wl_setA hw hI hq h0 _)) hS)
theorem g_bast (hexec : p.tables.exec = Jvm.exec) (hb : c.code = cc) (hK : Kx D s) (hw : wfS S) (hI : Inj S ad) (hA : ∀ i ∈ idxS S, A0 (ad i)) (hW : WH D S ad I A R G H) (hS : va_S A0 H0 H locs) {i n : Nat} (hq : (i, n, FieldType.byte) ∈ S.2.1) {j x : Int32} {f : Nat → Int32} (hv : stO (A i) n j (vp_nar .byte x) = some f) (hdg : decode cc pc = .ok (.bastore, 1))
    (kk : ∀ (H1 : Heap) (locs1 : List Loc), WH D S ad I (va_up A i f) R G H1 → va_S A0 H0 H1 locs1 → W p l e R0 s m args below meth c H1 locs1 cells slots Q (F0 m (pc + 1) ls rest)) : W p l e R0 s m args below meth c H locs cells slots Q (F0 m pc ls (.int x :: .int j :: .ref (ad i) :: rest)) := by
  obtain ⟨hin, hv⟩ := stO_e hv
  subst hv
  obtain ⟨q0, h0⟩ := List.getElem?_of_mem (wl_a (D := D) (S := S) (ad := ad) (I := I) (A := A) (R := R) (G := G) hq)
  obtain ⟨t0, ht⟩ := Kx.at (D := D) (U := s) (ty := .byte) (by decide)
  exact va_bast hexec hb hK hW (wl_D hw hI hA) hS q0 t0 h0 ht hin hdg (fun H1 locs1 hP _ hS => kk H1 locs1 (vaP_mem hP (wl_setA hw hI hq h0 _)) hS)
theorem g_recv (hK : Kx D s) (hW : WH D S ad I A R G H) {b ci : Nat} {cs : List fc_} {C : String} {T : u_T} {N : Nat} (hq : (b, ci, cs) ∈ S.1) (hc : vCl[ci]? = some (C, T, N)) : ∃ cell : Cell, H[ad b]? = some cell ∧ cell.vm.isStatics = false ∧ s.vm.findClass C = some cell.cls := by
  obtain ⟨q0, h0⟩ := List.getElem?_of_mem (wl_o (D := D) (S := S) (ad := ad) (I := I) (A := A) (R := R) (G := G) hq)
  exact va_recv (q := (C, T, N)) hK hW hc h0
variable {y : MethodName} {bytes : ByteArray} {maxL nL n index : Nat} {ret : Option FieldType} {rm : Room} {own C : String} {b : Addr} {As : List Value} {Sc : sp_} {adc : Nat → Nat} {Ic Ic1 : Nat → Int32} {Ac Ac1 : Nat → Nat → Int32} {Rc Rc1 : Nat → Option Nat} {Gc Gc1 : Nat → Nat → Option Nat}
theorem g_endR {ov : Option Value} {a : Array Value} (hr : va_Run p l e R0 s m args below meth c H locs cells slots 0 0 (F0 m pc ls st0) rest (QcR ov a) (fun _ => False)) (kk : W p l e R0 s m args below meth c H locs cells slots Q (F0 m (pc + 3) ls (ov.toList ++ rest))) : W p l e R0 s m args below meth c H locs cells slots Q (F0 m pc ls st0) := by
  intro T hT X
  obtain ⟨v, st₀, t, T', L, h0, X', hL, e1, e2, ⟨hv, hh⟩, st⟩ := hr T hT X
  cases hv
  have hL0 : L = [] := List.eq_nil_iff_forall_not_mem.mpr fun q hq => hL q hq
  subst hL0
  rw [List.append_nil] at X'
  obtain ⟨t2, a1, b1⟩ := kk T' (by rw [e1, hh, h0]) X'
  exact ⟨t2, st t2 a1, b1⟩
theorem g_endW {ov : Option Value} {a : Array Value} (hr : va_Run p l e R0 s m args below meth c H locs cells slots 0 0 (F0 m pc ls st0) rest (QcW D Sc adc Ic1 Ac1 Rc1 Gc1 ov a) (frS Sc adc)) (hS : va_S A0 H0 H locs) (hA : ∀ i ∈ idxS Sc, A0 (adc i)) (kk : ∀ (H1 : Heap) (locs1 : List Loc), WH D Sc adc Ic1 Ac1 Rc1 Gc1 H1 → (∀ q : Nat, q < H.size → ¬ frS Sc adc q → H1[q]? = H[q]?) → va_S A0 H0 H1 locs1 → W p l e R0 s m args below meth c H1 locs1 cells slots Q (F0 m (pc + 3) ls (ov.toList ++ rest))) : W p l e R0 s m args below meth c H locs cells slots Q (F0 m pc ls st0) := by
  intro T hT X
  obtain ⟨v, st₀, t, T', L, h0, X', hL, e1, e2, ⟨hv, hh, hz, hk⟩, st⟩ := hr T hT X
  cases hv
  have hAf : ∀ q, frS Sc adc q → A0 q := fun q ⟨i, hi, eq⟩ => eq ▸ hA i hi
  rw [h0] at hz hk
  obtain ⟨t2, a1, b1⟩ := kk T'.heap (locs ++ L) (by rw [e1]; exact hh) (fun q h1 h2 => by rw [e1]; exact hk q h1 h2)
    ⟨Nat.le_trans hS.1 (by rw [e1]; exact hz), fun q h1 h2 => by rw [e1, hk q (Nat.lt_of_lt_of_le h1 hS.1) (fun z => h2 (hAf q z))]; exact hS.2.1 q h1 h2, fun q hq => by
      rcases List.mem_append.mp hq with h | h
      · exact hS.2.2 q h
      · exact hAf _ (hL q h)⟩ T' rfl X'
  exact ⟨t2, st t2 a1, b1⟩
theorem g_cwV (n : Nat) (hts : ∀ w ∈ lw_all, w.before args s = true) (hT : GoodIn lw_all (wsV own index C y (ws_ y bytes maxL ret))) (hrc : rm.cells = 0) (hrs : rm.slots = 0)
    (hd : y.cls = C ∧ y.cls ≠ "java/lang/invoke/MethodHandle" ∧ y.cls ≠ "java/lang/invoke/VarHandle" ∧ (parseMethodDescriptor y.desc).map (fun d => d.parameters.length) = some n) (hR : rm.frames + 1 ≤ R0.frames ∧ 8 + (maxL + 11) + rm.locals ≤ R0.locals) :
    CallW R0 s args own C index y bytes maxL ret (ws_ y bytes maxL ret) rm 0 0 n := cwV n hts hT rfl hrc hrs hd hR
/-- a virtual call, a reader -/
theorem g_vR {ov : Option Value} (F : CallFix p m c cc nL s args lw_all own) (hM : Met l y (ws_ y bytes maxL ret) rm (PcW D Sc adc Ic Ac Rc Gc (.ref b :: As)) (QcR ov) 0 0 (fun _ => False)) (cw : CallW R0 s args own C index y bytes maxL ret (ws_ y bytes maxL ret) rm 0 0 n) (hrec : ∃ cell : Cell, H[b]? = some cell ∧ cell.vm.isStatics = false ∧ s.vm.findClass C = some cell.cls) (hK : Kx D s) (hW : WH D Sc adc Ic Ac Rc Gc H) (hcs : cells ≤ R0.cells ∧ slots ≤ R0.slots)
    (hn : As.length = n) (hsize : ls.size = nL) (hstack : st0 = As.reverse ++ .ref b :: rest) (hr : (rest.map fun v => v.category).sum ≤ 8) (hdg : decode cc pc = .ok (.invokevirtual index, 3)) (kk : W p l e R0 s m args below meth c H locs cells slots Q (F0 m (pc + 3) ls (ov.toList ++ rest))) : W p l e R0 s m args below meth c H locs cells slots Q (F0 m pc ls st0) :=
  g_endR (va_runV (g := F0 m pc ls st0) F hM cw ⟨PcW_blind, hrec, fun U hU hw => ⟨rfl, Kx.moved hw.alike hK, by rw [hU]; exact hW⟩⟩ rfl hn hsize hstack (lv_room (m := m) (pc := pc) (ls := ls) (rest := st0) hr) hdg hcs) kk
/-- a virtual call, a writer -/
theorem g_vW {ov : Option Value} (F : CallFix p m c cc nL s args lw_all own) (hM : Met l y (ws_ y bytes maxL ret) rm (PcW D Sc adc Ic Ac Rc Gc (.ref b :: As)) (QcW D Sc adc Ic1 Ac1 Rc1 Gc1 ov) 0 0 (frS Sc adc)) (cw : CallW R0 s args own C index y bytes maxL ret (ws_ y bytes maxL ret) rm 0 0 n) (hrec : ∃ cell : Cell, H[b]? = some cell ∧ cell.vm.isStatics = false ∧ s.vm.findClass C = some cell.cls) (hK : Kx D s) (hW : WH D Sc adc Ic Ac Rc Gc H) (hS : va_S A0 H0 H locs) (hA : ∀ i ∈ idxS Sc, A0 (adc i)) (hcs : cells ≤ R0.cells ∧ slots ≤ R0.slots)
    (hn : As.length = n) (hsize : ls.size = nL) (hstack : st0 = As.reverse ++ .ref b :: rest) (hr : (rest.map fun v => v.category).sum ≤ 8) (hdg : decode cc pc = .ok (.invokevirtual index, 3)) (kk : ∀ (H1 : Heap) (locs1 : List Loc), WH D Sc adc Ic1 Ac1 Rc1 Gc1 H1 → (∀ q : Nat, q < H.size → ¬ frS Sc adc q → H1[q]? = H[q]?) → va_S A0 H0 H1 locs1 → W p l e R0 s m args below meth c H1 locs1 cells slots Q (F0 m (pc + 3) ls (ov.toList ++ rest))) : W p l e R0 s m args below meth c H locs cells slots Q (F0 m pc ls st0) :=
  g_endW (va_runV (g := F0 m pc ls st0) F hM cw ⟨PcW_blind, hrec, fun U hU hw => ⟨rfl, Kx.moved hw.alike hK, by rw [hU]; exact hW⟩⟩ rfl hn hsize hstack (lv_room (m := m) (pc := pc) (ls := ls) (rest := st0) hr) hdg hcs) hS hA kk
/-- a static call, a reader -/
theorem g_sR {ov : Option Value} (F : CallFix p m c cc nL s args lw_all own) (hM : Met l y (ws_ y bytes maxL ret) rm (PcW D Sc adc Ic Ac Rc Gc As) (QcR ov) 0 0 (fun _ => False)) (cw : CallB R0 s args own index y bytes maxL ret (ws_ y bytes maxL ret) rm 0 0 n ∧ (Cond.static y).before args s = true) (hK : Kx D s) (hW : WH D Sc adc Ic Ac Rc Gc H) (hcs : cells ≤ R0.cells ∧ slots ≤ R0.slots)
    (hn : As.length = n) (hsize : ls.size = nL) (hstack : st0 = As.reverse ++ rest) (hr : (rest.map fun v => v.category).sum ≤ 8) (hdg : decode cc pc = .ok (.invokestatic index, 3)) (kk : W p l e R0 s m args below meth c H locs cells slots Q (F0 m (pc + 3) ls (ov.toList ++ rest))) : W p l e R0 s m args below meth c H locs cells slots Q (F0 m pc ls st0) :=
  g_endR (va_runS (g := F0 m pc ls st0) F hM cw ⟨PcW_blind, fun U hU hw => ⟨rfl, Kx.moved hw.alike hK, by rw [hU]; exact hW⟩⟩ rfl hn hsize hstack (lv_room (m := m) (pc := pc) (ls := ls) (rest := st0) hr) hdg hcs) kk
end ROWS
/-- the empty world -/
abbrev nS : sp_ := ([], [], [])
def nR : Nat → Option Nat := fun _ => none
def nG : Nat → Nat → Option Nat := fun _ _ => none
theorem WH_nil {D : dd_} {ad : Nat → Nat} {I : Nat → Int32} {A : Nat → Nat → Int32} {R : Nat → Option Nat} {G : Nat → Nat → Option Nat} {H : Heap} : WH D nS ad I A R G H := fun k q hk => by simp [wl] at hk
theorem so1 {α : Type} {a b : α} (h : some a = some b) : a = b := Option.some.inj h
theorem so2 {α β : Type} {a a' : α} {b b' : β} (h : some (a, b) = some (a', b')) : a = a' ∧ b = b' := by cases h; exact ⟨rfl, rfl⟩
theorem so3 {α β γ : Type} {a a' : α} {b b' : β} {c c' : γ} (h : some (a, b, c) = some (a', b', c')) : a = a' ∧ b = b' ∧ c = c' := by cases h; exact ⟨rfl, rfl, rfl⟩
theorem so4 {α β γ δ : Type} {a a' : α} {b b' : β} {c c' : γ} {d d' : δ} (h : some (a, b, c, d) = some (a', b', c', d')) : a = a' ∧ b = b' ∧ c = c' ∧ d = d' := by cases h; exact ⟨rfl, rfl, rfl, rfl⟩
theorem so5 {α β γ δ ε : Type} {a a' : α} {b b' : β} {c c' : γ} {d d' : δ} {e e' : ε} (h : some (a, b, c, d, e) = some (a', b', c', d', e')) : a = a' ∧ b = b' ∧ c = c' ∧ d = d' ∧ e = e' := by cases h; exact ⟨rfl, rfl, rfl, rfl, rfl⟩
theorem so6 {α β γ δ ε ζ : Type} {a a' : α} {b b' : β} {c c' : γ} {d d' : δ} {e e' : ε} {f f' : ζ} (h : some (a, b, c, d, e, f) = some (a', b', c', d', e', f')) : a = a' ∧ b = b' ∧ c = c' ∧ d = d' ∧ e = e' ∧ f = f' := by cases h; exact ⟨rfl, rfl, rfl, rfl, rfl, rfl⟩
theorem so7 {α β γ δ ε ζ η : Type} {a a' : α} {b b' : β} {c c' : γ} {d d' : δ} {e e' : ε} {f f' : ζ} {g g' : η} (h : some (a, b, c, d, e, f, g) = some (a', b', c', d', e', f', g')) : a = a' ∧ b = b' ∧ c = c' ∧ d = d' ∧ e = e' ∧ f = f' ∧ g = g' := by cases h; exact ⟨rfl, rfl, rfl, rfl, rfl, rfl, rfl⟩
section ROWS2
variable {p : Program} {l : Launch} {e : Env} {R0 : Room} {s : State} {m : MethodId} {args : Array Value} {below : List Frame} {meth : Method} {c : Code} {H : Heap} {locs : List Loc} {cells slots : Nat} {Q : State → Prop}
variable {cc : ByteArray} {pc : Nat} {ls : Array Slot} {rest : List Value}
theorem g_idiv (hexec : p.tables.exec = Jvm.exec) (hb : c.code = cc) {x y v : Int32} (h : divO x y = some v) (hdg : decode cc pc = .ok (.idiv, 1)) (k : W p l e R0 s m args below meth c H locs cells slots Q (F0 m (pc + 1) ls (.int v :: rest))) : W p l e R0 s m args below meth c H locs cells slots Q (F0 m pc ls (.int y :: .int x :: rest)) := by
  obtain ⟨h1, h2⟩ := divO_e h
  subst h2
  exact lv_idiv hexec hb hdg h1 k
theorem g_irem (hexec : p.tables.exec = Jvm.exec) (hb : c.code = cc) {x y v : Int32} (h : remO x y = some v) (hdg : decode cc pc = .ok (.irem, 1)) (k : W p l e R0 s m args below meth c H locs cells slots Q (F0 m (pc + 1) ls (.int v :: rest))) : W p l e R0 s m args below meth c H locs cells slots Q (F0 m pc ls (.int y :: .int x :: rest)) := by
  obtain ⟨h1, h2⟩ := remO_e h
  subst h2
  exact lv_irem hexec hb hdg h1 k
theorem g_lrem (hexec : p.tables.exec = Jvm.exec) (hb : c.code = cc) {x y v : Int64} (h : lremO x y = some v) (hdg : decode cc pc = .ok (.lrem, 1)) (k : W p l e R0 s m args below meth c H locs cells slots Q (F0 m (pc + 1) ls (.long v :: rest))) : W p l e R0 s m args below meth c H locs cells slots Q (F0 m pc ls (.long y :: .long x :: rest)) := by
  obtain ⟨h1, h2⟩ := lremO_e h
  subst h2
  exact lv_lrem hexec hb hdg h1 k
theorem g_tsI (hexec : p.tables.exec = Jvm.exec) (hb : c.code = cc) {dflt lo hi : Int} {offs : Array Int} {len : Nat} {x k : Int32} {off : Int} {tgt : Nat} (hdg : decode cc pc = .ok (.tableswitch dflt lo hi offs, len)) (hx : x = k) (h1 : ¬ k.toInt < lo) (h2 : ¬ hi < k.toInt) (ho : offs[(k.toInt - lo).toNat]? = some off) (ht : (pc : Int) + off = (tgt : Int))
    (kk : W p l e R0 s m args below meth c H locs cells slots Q (F0 m tgt ls rest)) : W p l e R0 s m args below meth c H locs cells slots Q (F0 m pc ls (.int x :: rest)) := by
  subst hx
  exact lv_tableIn hexec hb hdg h1 h2 ho ht kk
end ROWS2
