/-! FRAMEWORK 10: flat worlds (a list of cells, its last ones by place) for constructors; changing the focus -/
set_option maxRecDepth 100000
abbrev FW (D : dd_) (L : va_W) (H : Heap) : Prop := va_P D.1 vCl L H
abbrev FA (L : va_W) (base : Nat) : Prop := va_D (upB base) L
theorem fl_at {α : Type} {X cs : List α} {k : Nat} {c : α} (h : cs[k]? = some c) : (X ++ cs)[X.length + k]? = some c := by
  rw [List.getElem?_append_right (Nat.le_add_right _ _), Nat.add_sub_cancel_left]; exact h
theorem fl_set {α : Type} {X cs : List α} {k : Nat} {c : α} : (X ++ cs).set (X.length + k) c = X ++ cs.set k c := by
  rw [List.set_append_right _ _ (Nat.le_add_right _ _), Nat.add_sub_cancel_left]
theorem FA.nS {L : va_W} {base : Nat} {ad : Nat → Nat} (h : FA L base) : AP nS ad L base := ⟨fun i hi => (by cases hi), fun i hi => (by cases hi), h, fun i hi => (by cases hi)⟩
theorem va_D.uniq {A : Nat → Prop} {L : va_W} (h : va_D A L) {p q : Nat × va_E} (hp : p ∈ L) (hq : q ∈ L) (e : p.1 = q.1) : p = q := by
  obtain ⟨i, hi⟩ := List.getElem?_of_mem hp
  obtain ⟨j, hj⟩ := List.getElem?_of_mem hq
  have := h.1 i j p q hi hj e
  subst this
  exact Option.some.inj (hi.symm.trans hj)
theorem FA.filter {L : va_W} {base : Nat} (h : FA L base) (f : Nat × va_E → Bool) : FA (L.filter f) base := by
  constructor
  · have hn : L.Pairwise (fun a b => a.1 ≠ b.1) := by
      rw [List.pairwise_iff_getElem]
      intro i j hi hj hij e
      have := h.1 i j _ _ (List.getElem?_eq_getElem hi) (List.getElem?_eq_getElem hj) e
      omega
    have hn2 := hn.filter f
    rw [List.pairwise_iff_getElem] at hn2
    intro i j p q hi hj e
    obtain ⟨li, ei⟩ := List.getElem?_eq_some_iff.mp hi
    obtain ⟨lj, ej⟩ := List.getElem?_eq_some_iff.mp hj
    rcases Nat.lt_trichotomy i j with c | c | c
    · exact absurd (by rw [ei, ej]; exact e) (hn2 i j li lj c)
    · exact c
    · exact absurd (by rw [ei, ej]; exact e.symm) (hn2 j i lj li c)
  · intro k q hk
    obtain ⟨j, hj⟩ := List.getElem?_of_mem (List.mem_filter.mp (List.mem_of_getElem? hk)).1
    exact h.2 j q hj
/-- what is left of a list beside a world's cells -/
def fx (S : sp_) (ad : Nat → Nat) (L : va_W) : va_W := L.filter (fun q => decide (∀ i ∈ idxS S, q.1 ≠ ad i))
theorem fx_mem {S : sp_} {ad : Nat → Nat} {L : va_W} {q : Nat × va_E} : q ∈ fx S ad L ↔ q ∈ L ∧ ∀ i ∈ idxS S, q.1 ≠ ad i := by
  unfold fx
  rw [List.mem_filter, decide_eq_true_iff]
theorem refocus {D : dd_} {S : sp_} {ad : Nat → Nat} {I : Nat → Int32} {A : Nat → Nat → Int32} {R : Nat → Option Nat} {G : Nat → Nat → Option Nat} {L : va_W} {base : Nat} {H : Heap} (hI : Inj S ad) (hA : FA L base) (hL : FW D L H) (hm : ∀ q ∈ wl D S ad I A R G, q ∈ L) : AP S ad (fx S ad L) base ∧ WX D S ad I A R G (fx S ad L) H := by
  refine ⟨⟨hI, fun i hi q hq => (fx_mem.mp hq).2 i hi, hA.filter _, fun i hi => ?_⟩, vaP_mem hL (fun q hq => ?_)⟩
  · obtain ⟨k, hk⟩ := List.getElem?_of_mem hi
    have h1 : ((wl D S ad I A R G).map (·.1))[k]? = some (ad i) := by rw [wl_fst, List.getElem?_map, hk]; rfl
    rw [List.getElem?_map] at h1
    cases h2 : (wl D S ad I A R G)[k]? with
    | none => rw [h2] at h1; cases h1
    | some q =>
      rw [h2] at h1
      obtain ⟨j, hj⟩ := List.getElem?_of_mem (hm q (List.mem_of_getElem? h2))
      have := hA.2 j q hj
      rw [← Option.some.inj h1]
      exact this
  · rcases List.mem_append.mp hq with h | h
    · exact hm q h
    · exact (fx_mem.mp h).1
/-- a member that is no cell of the world is left -/
theorem fx_in {D : dd_} {S : sp_} {ad : Nat → Nat} {I : Nat → Int32} {A : Nat → Nat → Int32} {R : Nat → Option Nat} {G : Nat → Nat → Option Nat} {L : va_W} {base : Nat} (hA : FA L base) (hm : ∀ q ∈ wl D S ad I A R G, q ∈ L) {q : Nat × va_E} (hq : q ∈ L) (hn : q ∉ wl D S ad I A R G) : q ∈ fx S ad L := by
  refine fx_mem.mpr ⟨hq, fun i hi e => hn ?_⟩
  obtain ⟨k, hk⟩ := List.getElem?_of_mem hi
  have h1 : ((wl D S ad I A R G).map (·.1))[k]? = some (ad i) := by rw [wl_fst, List.getElem?_map, hk]; rfl
  rw [List.getElem?_map] at h1
  cases h2 : (wl D S ad I A R G)[k]? with
  | none => rw [h2] at h1; cases h1
  | some z =>
    rw [h2] at h1
    have hz := List.mem_of_getElem? h2
    have : q = z := hA.uniq hq (hm z hz) (e.trans (Option.some.inj h1).symm)
    rw [this]
    exact hz
section FROWS
variable {p : Program} {l : Launch} {e : Env} {R0 : Room} {s : State} {m : MethodId} {args : Array Value} {below : List Frame} {meth : Method} {c : Code} {H : Heap} {locs : List Loc} {cells slots : Nat} {Q : State → Prop}
variable {cc : ByteArray} {pc : Nat} {ls : Array Slot} {rest st0 : List Value} {D : dd_} {s0 : State} {X cs : va_W} {base : Nat} {H0 : Heap}
theorem f_new (hexec : p.tables.exec = Jvm.exec) (hb : c.code = cc) (hts : ∀ w ∈ lw_all, w.before args s = true) {own C : String} {T : u_T} {N ci index : Nat} (hown : s.vm.findClass own = some m.cls) (hK : Kx D s) (hA : FA (X ++ cs) base) (hW : FW D (X ++ cs) H) (hS : va_S (upB base) H0 H locs) (hB : base ≤ H.size) (hin : ∀ w ∈ u_ws C T N, w ∈ lw_all) (ty : Nat → FieldType) (hty : ∀ k, k < N → parseFieldDescriptor (T k).2.2.1 = some (ty k)) (hcl : Cond.classLink own index C ∈ lw_all) (hinst : Cond.instantiable C N ∈ lw_all) (hini : Cond.initialized C ∈ lw_all) (hc : vCl[ci]? = some (C, T, N)) {fs : List Value} (hfs : ∀ j, j < N → defaultValue (ty j) = vp_V fs j) (hcells : cells + 1 ≤ R0.cells) (hslots : slots + N ≤ R0.slots) (hdg : decode cc pc = .ok (.new index, 3))
    (kk : ∀ (q : Nat) (H1 : Heap), H1.size = H.size + 1 → FW D (X ++ (cs ++ [(q, .inr (ci, fs))])) H1 → FA (X ++ (cs ++ [(q, .inr (ci, fs))])) base → va_S (upB base) H0 H1 locs → W p l e R0 s m args below meth c H1 locs (cells + 1) (slots + N) Q (F0 m (pc + 3) ls (.ref q :: rest))) : W p l e R0 s m args below meth c H locs cells slots Q (F0 m pc ls rest) :=
  x_new (S := nS) (ad := id) (I := fun _ => 0) (A := fun _ _ => 0) (R := nR) (G := nG) (X := X ++ cs) (fs := fs) hexec hb hts hown hK hA.nS hW hS hB hin ty hty hcl hinst hini hc hfs hcells hslots hdg (fun H1 z1 a1 a2 a3 => kk H.size H1 z1 (by have a1 : va_P D.1 vCl ((X ++ cs) ++ [(H.size, Sum.inr (ci, fs))]) H1 := a1; rw [List.append_assoc] at a1; exact a1) (by have a2 := a2.2.2.1; rw [List.append_assoc] at a2; exact a2) a3)
theorem f_newa (hexec : p.tables.exec = Jvm.exec) (hb : c.code = cc) (hts : ∀ w ∈ lw_all, w.before args s = true) (hK : Kx D s) (hA : FA (X ++ cs) base) (hW : FW D (X ++ cs) H) (hS : va_S (upB base) H0 H locs) (hB : base ≤ H.size) {atype : ArrayType} {ty : FieldType} (hty : newarray.typeOf atype = ty) (harr : Cond.arrayClass ty ∈ lw_all) (hv : ty ∈ vTys) (hdf : defaultValue ty = .int 0) (hra : ∀ (U : State) (cA : ClassId), va_RA U cA ty → U.vm.findClass ("[" ++ ty.toString) = some cA) {n : Int32} {N : Nat} (hn : ¬ n < 0) (hN : n.toNatClampNeg = N) (hbytes : N * componentBytes ty ≤ 536870912) (hcells : cells + 1 ≤ R0.cells) (hslots : slots + N ≤ R0.slots) (hdg : decode cc pc = .ok (.newarray atype, 2))
    (kk : ∀ (q : Nat) (H1 : Heap), H1.size = H.size + 1 → FW D (X ++ (cs ++ [(q, .inl (D.2 ty, N, .inl (fun _ => 0)))])) H1 → FA (X ++ (cs ++ [(q, .inl (D.2 ty, N, .inl (fun _ => 0)))])) base → va_S (upB base) H0 H1 locs → W p l e R0 s m args below meth c H1 locs (cells + 1) (slots + N) Q (F0 m (pc + 2) ls (.ref q :: rest))) : W p l e R0 s m args below meth c H locs cells slots Q (F0 m pc ls (.int n :: rest)) :=
  x_newa (S := nS) (ad := id) (I := fun _ => 0) (A := fun _ _ => 0) (R := nR) (G := nG) (X := X ++ cs) hexec hb hts hK hA.nS hW hS hB hty harr hv hdf hra hn hN hbytes hcells hslots hdg (fun H1 z1 a1 a2 a3 => kk H.size H1 z1 (by have a1 : va_P D.1 vCl ((X ++ cs) ++ [(H.size, Sum.inl (D.2 ty, N, Sum.inl (fun _ => 0)))]) H1 := a1; rw [List.append_assoc] at a1; exact a1) (by have a2 := a2.2.2.1; rw [List.append_assoc] at a2; exact a2) a3)
theorem f_newq (hexec : p.tables.exec = Jvm.exec) (hb : c.code = cc) (hts : ∀ w ∈ lw_all, w.before args s = true) (hK : Kx D s) (hA : FA (X ++ cs) base) (hW : FW D (X ++ cs) H) (hS : va_S (upB base) H0 H locs) (hB : base ≤ H.size) {own C : String} {index : Nat} (hown : s.vm.findClass own = some m.cls) (hclink : Cond.classLink own index C ∈ lw_all) (hover : va_AO C s) (hv : FieldType.object C ∈ vTys) {n : Int32} {N : Nat} (hn : ¬ n < 0) (hN : n.toNatClampNeg = N) (hbytes : N * 4 ≤ 536870912) (hcells : cells + 1 ≤ R0.cells) (hslots : slots + N ≤ R0.slots) (hdg : decode cc pc = .ok (.anewarray index, 3))
    (kk : ∀ (q : Nat) (H1 : Heap), H1.size = H.size + 1 → FW D (X ++ (cs ++ [(q, .inl (D.2 (.object C), N, .inr (.inr (.inr (.inr (fun _ => none))))))])) H1 → FA (X ++ (cs ++ [(q, .inl (D.2 (.object C), N, .inr (.inr (.inr (.inr (fun _ => none))))))])) base → va_S (upB base) H0 H1 locs → W p l e R0 s m args below meth c H1 locs (cells + 1) (slots + N) Q (F0 m (pc + 3) ls (.ref q :: rest))) : W p l e R0 s m args below meth c H locs cells slots Q (F0 m pc ls (.int n :: rest)) :=
  x_newq (S := nS) (ad := id) (I := fun _ => 0) (A := fun _ _ => 0) (R := nR) (G := nG) (X := X ++ cs) hexec hb hts hK hA.nS hW hS hB hown hclink hover hv hn hN hbytes hcells hslots hdg (fun H1 z1 a1 a2 a3 => kk H.size H1 z1 (by have a1 : va_P D.1 vCl ((X ++ cs) ++ [(H.size, Sum.inl (D.2 (.object C), N, Sum.inr (Sum.inr (Sum.inr (Sum.inr (fun _ => none))))))]) H1 := a1; rw [List.append_assoc] at a1; exact a1) (by have a2 := a2.2.2.1; rw [List.append_assoc] at a2; exact a2) a3)
/-- a field of the cell at place j is put -/
theorem f_put (hexec : p.tables.exec = Jvm.exec) (hb : c.code = cc) (hts : ∀ w ∈ lw_all, w.before args s = true) {own : String} (hown : s.vm.findClass own = some m.cls) (hK : Kx D s) (hA : FA (X ++ cs) base) (hW : FW D (X ++ cs) H) (hS : va_S (upB base) H0 H locs) {ref C : String} {T : u_T} {N ci index b : Nat} (j : Nat) {fs : List Value} (hj : cs[j]? = some (b, .inr (ci, fs))) (hin : ∀ w ∈ u_ws C T N, w ∈ lw_all) (ty0 : Nat → FieldType) (hty : ∀ k, k < N → parseFieldDescriptor (T k).2.2.1 = some (ty0 k)) (hnm : ∀ a, a < N → ∀ b, b < N → a ≠ b → (T a).2.1 ≠ (T b).2.1) (hc : vCl[ci]? = some (C, T, N)) (k : Nat) (hk : k < N) (hlink : Cond.fieldLink own index ref (T k).2.1 (T k).2.2.1 ∈ lw_all) (hsame : (T k).1 = ref) (hfin : (T k).2.2.2 = false) {v : Value} (hn : narrow (ty0 k) v = v ∧ fits (ty0 k) v = true) (hl : k < fs.length) (hdg : decode cc pc = .ok (.putfield index, 3))
    (kk : ∀ (H1 : Heap) (locs1 : List Loc), FW D (X ++ cs.set j (b, .inr (ci, fs.set k v))) H1 → FA (X ++ cs.set j (b, .inr (ci, fs.set k v))) base → va_S (upB base) H0 H1 locs1 → W p l e R0 s m args below meth c H1 locs1 cells slots Q (F0 m (pc + 3) ls rest)) : W p l e R0 s m args below meth c H locs cells slots Q (F0 m pc ls (v :: .ref b :: rest)) :=
  va_put hexec hb hts hin ty0 hty hnm hown hK hW hA hS _ (fl_at hj) hc k hk (hts _ hlink) (fun z h => by rw [← hsame]; exact h) hfin (hty k hk) hn.1 hn.2 hl hdg (fun H1 locs1 hP hz hS => kk H1 locs1 (by rw [← fl_set]; exact hP) (by rw [← fl_set]; exact hz) hS)
theorem f_putF (hexec : p.tables.exec = Jvm.exec) (hb : c.code = cc) (hts : ∀ w ∈ lw_all, w.before args s = true) {own : String} (hown : s.vm.findClass own = some m.cls) (hK : Kx D s) (hin2 : meth.name = "<init>") (hA : FA (X ++ cs) base) (hW : FW D (X ++ cs) H) (hS : va_S (upB base) H0 H locs) {ref C : String} {T : u_T} {N ci index b : Nat} (j : Nat) {fs : List Value} (hj : cs[j]? = some (b, .inr (ci, fs))) (hin : ∀ w ∈ u_ws C T N, w ∈ lw_all) (ty0 : Nat → FieldType) (hty : ∀ k, k < N → parseFieldDescriptor (T k).2.2.1 = some (ty0 k)) (hnm : ∀ a, a < N → ∀ b, b < N → a ≠ b → (T a).2.1 ≠ (T b).2.1) (hc : vCl[ci]? = some (C, T, N)) (k : Nat) (hk : k < N) (hlink : Cond.fieldLink own index ref (T k).2.1 (T k).2.2.1 ∈ lw_all) (hsame : (T k).1 = ref) (hdecl : (T k).1 = own) (hfin : (T k).2.2.2 = true) {v : Value} (hn : narrow (ty0 k) v = v ∧ fits (ty0 k) v = true) (hl : k < fs.length) (hdg : decode cc pc = .ok (.putfield index, 3))
    (kk : ∀ (H1 : Heap) (locs1 : List Loc), FW D (X ++ cs.set j (b, .inr (ci, fs.set k v))) H1 → FA (X ++ cs.set j (b, .inr (ci, fs.set k v))) base → va_S (upB base) H0 H1 locs1 → W p l e R0 s m args below meth c H1 locs1 cells slots Q (F0 m (pc + 3) ls rest)) : W p l e R0 s m args below meth c H locs cells slots Q (F0 m pc ls (v :: .ref b :: rest)) :=
  va_putF hexec hb hts hin ty0 hty hnm hown hK hW hA hS _ (fl_at hj) hc k hk (hts _ hlink) (fun z h => by rw [← hsame]; exact h) hfin hin2 hdecl (hty k hk) hn.1 hn.2 hl hdg (fun H1 locs1 hP hz hS => kk H1 locs1 (by rw [← fl_set]; exact hP) (by rw [← fl_set]; exact hz) hS)
theorem f_get (hexec : p.tables.exec = Jvm.exec) (hb : c.code = cc) (hts : ∀ w ∈ lw_all, w.before args s = true) {own : String} (hown : s.vm.findClass own = some m.cls) (hK : Kx D s) (hW : FW D (X ++ cs) H) {ref C : String} {T : u_T} {N ci index b : Nat} (j : Nat) {fs : List Value} (hj : cs[j]? = some (b, .inr (ci, fs))) (hin : ∀ w ∈ u_ws C T N, w ∈ lw_all) (hc : vCl[ci]? = some (C, T, N)) (k : Nat) (hk : k < N) (hlink : Cond.fieldLink own index ref (T k).2.1 (T k).2.2.1 ∈ lw_all) (hsame : (T k).1 = ref) {v : Value} (hv : fs[k]? = some v) (hdg : decode cc pc = .ok (.getfield index, 3))
    (kk : W p l e R0 s m args below meth c H locs cells slots Q (F0 m (pc + 3) ls (v :: rest))) : W p l e R0 s m args below meth c H locs cells slots Q (F0 m pc ls (.ref b :: rest)) :=
  va_get hexec hb hts hin hown hK hW _ (fl_at hj) hc k hk (hts _ hlink) (fun x h => by rw [← hsame]; exact h) hv hdg kk
theorem f_iast (hexec : p.tables.exec = Jvm.exec) (hb : c.code = cc) (hK : Kx D s) (hA : FA (X ++ cs) base) (hW : FW D (X ++ cs) H) (hS : va_S (upB base) H0 H locs) (j : Nat) {b n : Nat} {f : Nat → Int32} (hj : cs[j]? = some (b, .inl (D.2 .int, n, .inl f))) {i x : Int32} (hi : vp_in i n) (hdg : decode cc pc = .ok (.iastore, 1))
    (kk : ∀ (H1 : Heap) (locs1 : List Loc), FW D (X ++ cs.set j (b, .inl (D.2 .int, n, .inl (upd f i.toNatClampNeg x)))) H1 → FA (X ++ cs.set j (b, .inl (D.2 .int, n, .inl (upd f i.toNatClampNeg x)))) base → va_S (upB base) H0 H1 locs1 → W p l e R0 s m args below meth c H1 locs1 cells slots Q (F0 m (pc + 1) ls rest)) : W p l e R0 s m args below meth c H locs cells slots Q (F0 m pc ls (.int x :: .int i :: .ref b :: rest)) := by
  obtain ⟨t0, ht⟩ := Kx.at (D := D) (U := s) (ty := .int) (by decide)
  exact va_iast hexec hb hK hW hA hS _ t0 (fl_at hj) ht hi hdg (fun H1 locs1 hP hz hS => kk H1 locs1 (by rw [← fl_set]; exact hP) (by rw [← fl_set]; exact hz) hS)
end FROWS
