/-! FRAMEWORK: worlds as banks over indices -/
set_option maxRecDepth 100000
/-- the classes, by number -/
abbrev vCl : List vw_C := [(RX3, TX3, 24), (RX0, TX0, 17), (RX1, TX1, 12), (RX2, TX2, 2), (RX4, TX4, 7), (RX5, TX5, 2), (RX6, TX6, 7), (RX7, TX7, 8), (RX9, TX9, 1), (RX10, TX10, 1), (RX11, TX11, 1), (RX12, TX12, 1), (RX13, TX13, 1), (RJ2, TJ2, 3)]
/-- the array types -/
abbrev vTys : List FieldType := [.int, .boolean, .byte, .object "PromisePounds$Row", .object "PromisePounds$Parish", .object "java/lang/Object"]
/-- a field's code: an int by its bank index, an owned cell by its index, a reference by its bank index -/
abbrev fc_ : Type := Nat ⊕ Nat ⊕ Nat
def fv_ (ad : Nat → Nat) (I : Nat → Int32) (R : Nat → Option Nat) (q : fc_) : Value := match q with
  | .inl i => .int (I i)
  | .inr (.inl i) => .ref (ad i)
  | .inr (.inr i) => va_rf (R i)
/-- a world's shape: objects (index, class, fields' codes), arrays of numbers (index, length, type), arrays of references (index, length, class) -/
abbrev sp_ : Type := List (Nat × Nat × List fc_) × List (Nat × Nat × FieldType) × List (Nat × Nat × String)
abbrev dd_ : Type := va_G × (FieldType → ClassId)
def Kx (D : dd_) (U : State) : Prop := va_K D.1 vCl (vTys.map fun ty => (D.2 ty, ty)) U
theorem Kx.moved {D : dd_} {u U : State} (hvm : u.vm.Alike U.vm) (h : Kx D u) : Kx D U := va_K.moved hvm h
theorem Kx.at {D : dd_} {U : State} {ty : FieldType} (h : ty ∈ vTys) : ∃ t0 : Nat, (vTys.map fun ty => (D.2 ty, ty))[t0]? = some (D.2 ty, ty) := List.getElem?_of_mem (List.mem_map.mpr ⟨ty, h, rfl⟩)
def wl (D : dd_) (S : sp_) (ad : Nat → Nat) (I : Nat → Int32) (A : Nat → Nat → Int32) (R : Nat → Option Nat) (G : Nat → Nat → Option Nat) : va_W :=
  S.1.map (fun o => (ad o.1, .inr (o.2.1, o.2.2.map (fv_ ad I R)))) ++ (S.2.1.map (fun q => (ad q.1, .inl (D.2 q.2.2, q.2.1, .inl (A q.1)))) ++ S.2.2.map (fun q => (ad q.1, .inl (D.2 (.object q.2.2), q.2.1, .inr (.inr (.inr (.inr (G q.1))))))))
def WH (D : dd_) (S : sp_) (ad : Nat → Nat) (I : Nat → Int32) (A : Nat → Nat → Int32) (R : Nat → Option Nat) (G : Nat → Nat → Option Nat) (H : Heap) : Prop := va_P D.1 vCl (wl D S ad I A R G) H
def idxS (S : sp_) : List Nat := S.1.map (·.1) ++ (S.2.1.map (·.1) ++ S.2.2.map (·.1))
def wfS (S : sp_) : Prop := va_nd (idxS S) = true ∧ (∀ o ∈ S.1, ∀ o' ∈ S.1, o.1 = o'.1 → o = o') ∧ (∀ o ∈ S.2.1, ∀ o' ∈ S.2.1, o.1 = o'.1 → o = o') ∧ (∀ o ∈ S.2.2, ∀ o' ∈ S.2.2, o.1 = o'.1 → o = o') ∧ (∀ o ∈ S.2.1, ∀ o' ∈ S.2.2, o.1 ≠ o'.1) ∧
  ∀ o ∈ S.1, ∀ o' ∈ S.1, ∀ k ∈ List.range o.2.2.length, ∀ k' ∈ List.range o'.2.2.length, o.2.2[k]? = o'.2.2[k']? → o = o' ∧ k = k'
def Inj (S : sp_) (ad : Nat → Nat) : Prop := ∀ i ∈ idxS S, ∀ j ∈ idxS S, ad i = ad j → i = j
/-- the cells that a world's methods may change -/
def frS (S : sp_) (ad : Nat → Nat) : Nat → Prop := fun q => ∃ i ∈ idxS S, q = ad i
theorem wl_fst (D : dd_) (S : sp_) (ad : Nat → Nat) (I : Nat → Int32) (A : Nat → Nat → Int32) (R : Nat → Option Nat) (G : Nat → Nat → Option Nat) : (wl D S ad I A R G).map (·.1) = (idxS S).map ad := by
  simp [wl, idxS, List.map_append, List.map_map, Function.comp_def]
theorem wl_at {D : dd_} {S : sp_} {ad : Nat → Nat} {I : Nat → Int32} {A : Nat → Nat → Int32} {R : Nat → Option Nat} {G : Nat → Nat → Option Nat} {k : Nat} {q : Nat × va_E} (h : (wl D S ad I A R G)[k]? = some q) : ∃ i, (idxS S)[k]? = some i ∧ q.1 = ad i := by
  have h1 : ((wl D S ad I A R G).map (·.1))[k]? = some q.1 := by rw [List.getElem?_map, h]; rfl
  rw [wl_fst, List.getElem?_map] at h1
  cases hi : (idxS S)[k]? with
  | none => rw [hi] at h1; cases h1
  | some i => rw [hi] at h1; exact ⟨i, rfl, (Option.some.inj h1).symm⟩
theorem wl_D {D : dd_} {S : sp_} {ad : Nat → Nat} {I : Nat → Int32} {A : Nat → Nat → Int32} {R : Nat → Option Nat} {G : Nat → Nat → Option Nat} {A0 : Nat → Prop} (hw : wfS S) (hI : Inj S ad) (hA : ∀ i ∈ idxS S, A0 (ad i)) : va_D A0 (wl D S ad I A R G) := by
  refine ⟨fun i j p q hi hj hpq => ?_, fun k q hk => ?_⟩
  · obtain ⟨a, ha, ea⟩ := wl_at hi
    obtain ⟨b, hb, eb⟩ := wl_at hj
    have hab : a = b := hI a (List.mem_of_getElem? ha) b (List.mem_of_getElem? hb) (by rw [← ea, ← eb]; exact hpq)
    subst hab
    exact va_nd_inj (idxS S) hw.1 i j a ha hb
  · obtain ⟨a, ha, ea⟩ := wl_at hk
    rw [ea]
    exact hA a (List.mem_of_getElem? ha)
theorem set_mem {α : Type} {l : List α} {p : Nat} {x y q : α} (hp : l[p]? = some y) (h : q ∈ l) (hne : q ≠ y) : q ∈ l.set p x := by
  obtain ⟨k, hk⟩ := List.getElem?_of_mem h
  have hkp : ¬ p = k := fun e => by subst e; rw [hp] at hk; exact hne (Option.some.inj hk).symm
  exact List.mem_of_getElem? (i := k) (by rw [List.getElem?_set_ne hkp]; exact hk)
theorem set_mem0 {α : Type} {l : List α} {p : Nat} {x y : α} (hp : l[p]? = some y) : x ∈ l.set p x :=
  List.mem_of_getElem? (i := p) (List.getElem?_set_self (List.getElem?_eq_some_iff.mp hp).1)
theorem vaP_mem {D : va_G} {cl : List vw_C} {ws ws' : va_W} {H : Heap} (h : va_P D cl ws H) (hm : ∀ q ∈ ws', q ∈ ws) : va_P D cl ws' H := fun k q hk => by
  obtain ⟨i, hi⟩ := List.getElem?_of_mem (hm q (List.mem_of_getElem? hk))
  exact h i q hi
section WLS
variable {D : dd_} {S : sp_} {ad : Nat → Nat} {I : Nat → Int32} {A : Nat → Nat → Int32} {R : Nat → Option Nat} {G : Nat → Nat → Option Nat}
theorem wl_o {o : Nat × Nat × List fc_} (h : o ∈ S.1) : (ad o.1, Sum.inr (o.2.1, o.2.2.map (fv_ ad I R))) ∈ wl D S ad I A R G := List.mem_append_left _ (List.mem_map.mpr ⟨o, h, rfl⟩)
theorem wl_a {o : Nat × Nat × FieldType} (h : o ∈ S.2.1) : (ad o.1, Sum.inl (D.2 o.2.2, o.2.1, Sum.inl (A o.1))) ∈ wl D S ad I A R G := List.mem_append_right _ (List.mem_append_left _ (List.mem_map.mpr ⟨o, h, rfl⟩))
theorem wl_r {o : Nat × Nat × String} (h : o ∈ S.2.2) : (ad o.1, Sum.inl (D.2 (.object o.2.2), o.2.1, Sum.inr (Sum.inr (Sum.inr (Sum.inr (G o.1)))))) ∈ wl D S ad I A R G := List.mem_append_right _ (List.mem_append_right _ (List.mem_map.mpr ⟨o, h, rfl⟩))
theorem wl_cases {q : Nat × va_E} (h : q ∈ wl D S ad I A R G) : (∃ o ∈ S.1, q = (ad o.1, .inr (o.2.1, o.2.2.map (fv_ ad I R)))) ∨ (∃ o ∈ S.2.1, q = (ad o.1, .inl (D.2 o.2.2, o.2.1, .inl (A o.1)))) ∨ (∃ o ∈ S.2.2, q = (ad o.1, .inl (D.2 (.object o.2.2), o.2.1, .inr (.inr (.inr (.inr (G o.1))))))) := by
  rcases List.mem_append.mp h with h | h
  · obtain ⟨o, ho, e⟩ := List.mem_map.mp h
    exact Or.inl ⟨o, ho, e.symm⟩
  · rcases List.mem_append.mp h with h | h
    · obtain ⟨o, ho, e⟩ := List.mem_map.mp h
      exact Or.inr (Or.inl ⟨o, ho, e.symm⟩)
    · obtain ⟨o, ho, e⟩ := List.mem_map.mp h
      exact Or.inr (Or.inr ⟨o, ho, e.symm⟩)
theorem idx_o {o : Nat × Nat × List fc_} (h : o ∈ S.1) : o.1 ∈ idxS S := List.mem_append_left _ (List.mem_map.mpr ⟨o, h, rfl⟩)
theorem idx_a {o : Nat × Nat × FieldType} (h : o ∈ S.2.1) : o.1 ∈ idxS S := List.mem_append_right _ (List.mem_append_left _ (List.mem_map.mpr ⟨o, h, rfl⟩))
theorem idx_r {o : Nat × Nat × String} (h : o ∈ S.2.2) : o.1 ∈ idxS S := List.mem_append_right _ (List.mem_append_right _ (List.mem_map.mpr ⟨o, h, rfl⟩))
/-- an array of numbers is changed -/
theorem wl_setA (hw : wfS S) (hI : Inj S ad) {i n : Nat} {ty : FieldType} (hq : (i, n, ty) ∈ S.2.1) {p : Nat} (hp : (wl D S ad I A R G)[p]? = some (ad i, .inl (D.2 ty, n, .inl (A i)))) (f : Nat → Int32) :
    ∀ q ∈ wl D S ad I (va_up A i f) R G, q ∈ (wl D S ad I A R G).set p (ad i, .inl (D.2 ty, n, .inl f)) := by
  intro q h
  rcases wl_cases h with ⟨o, ho, rfl⟩ | ⟨o, ho, rfl⟩ | ⟨o, ho, rfl⟩
  · exact set_mem hp (wl_o ho) (fun e => by injection e with _ e2; cases e2)
  · by_cases e : o.1 = i
    · have e2 : o = (i, n, ty) := hw.2.2.1 o ho _ hq e
      subst e2
      rw [show va_up A i f (i, n, ty).1 = f from if_pos rfl]
      exact set_mem0 hp
    · rw [show va_up A i f o.1 = A o.1 from if_neg e]
      exact set_mem hp (wl_a ho) (fun z => e (hI _ (idx_a ho) i (idx_a hq) (congrArg Prod.fst z)))
  · exact set_mem hp (wl_r ho) (fun z => hw.2.2.2.2.1 _ hq o ho (hI i (idx_a hq) _ (idx_r ho) (congrArg Prod.fst z).symm))
/-- an array of references is changed -/
theorem wl_setG (hw : wfS S) (hI : Inj S ad) {i n : Nat} {C : String} (hq : (i, n, C) ∈ S.2.2) {p : Nat} (hp : (wl D S ad I A R G)[p]? = some (ad i, .inl (D.2 (.object C), n, .inr (.inr (.inr (.inr (G i))))))) (f : Nat → Option Nat) :
    ∀ q ∈ wl D S ad I A R (va_up G i f), q ∈ (wl D S ad I A R G).set p (ad i, .inl (D.2 (.object C), n, .inr (.inr (.inr (.inr f))))) := by
  intro q h
  rcases wl_cases h with ⟨o, ho, rfl⟩ | ⟨o, ho, rfl⟩ | ⟨o, ho, rfl⟩
  · exact set_mem hp (wl_o ho) (fun e => by injection e with _ e2; cases e2)
  · exact set_mem hp (wl_a ho) (fun z => hw.2.2.2.2.1 o ho _ hq (hI _ (idx_a ho) i (idx_r hq) (congrArg Prod.fst z)))
  · by_cases e : o.1 = i
    · have e2 : o = (i, n, C) := hw.2.2.2.1 o ho _ hq e
      subst e2
      rw [show va_up G i f (i, n, C).1 = f from if_pos rfl]
      exact set_mem0 hp
    · rw [show va_up G i f o.1 = G o.1 from if_neg e]
      exact set_mem hp (wl_r ho) (fun z => e (hI _ (idx_r ho) i (idx_r hq) (congrArg Prod.fst z)))
theorem fv_o {I I' : Nat → Int32} {R R' : Nat → Option Nat} (cs : List fc_) (h : ∀ c ∈ cs, fv_ ad I' R' c = fv_ ad I R c) : cs.map (fv_ ad I' R') = cs.map (fv_ ad I R) := List.map_congr_left h
theorem fv_set {I I' : Nat → Int32} {R R' : Nat → Option Nat} (cs : List fc_) (k : Nat) (v : Value) (c0 : fc_) (hk : cs[k]? = some c0) (hv : fv_ ad I' R' c0 = v) (h : ∀ (j : Nat) (c : fc_), j ≠ k → cs[j]? = some c → fv_ ad I' R' c = fv_ ad I R c) : cs.map (fv_ ad I' R') = (cs.map (fv_ ad I R)).set k v := by
  apply List.ext_getElem?
  intro j
  by_cases e : j = k
  · subst e
    have hl : j < (cs.map (fv_ ad I R)).length := by rw [List.length_map]; exact (List.getElem?_eq_some_iff.mp hk).1
    rw [List.getElem?_set_self hl, List.getElem?_map, hk]
    exact congrArg some hv
  · rw [List.getElem?_set_ne (fun q => e q.symm), List.getElem?_map, List.getElem?_map]
    cases hc : cs[j]? with
    | none => rfl
    | some c => exact congrArg some (h j c e hc)
/-- a field's code is this field's alone -/
theorem code_one (hw : wfS S) {o o' : Nat × Nat × List fc_} (ho : o ∈ S.1) (ho' : o' ∈ S.1) {k k' : Nat} {c : fc_} (hk : o.2.2[k]? = some c) (hk' : o'.2.2[k']? = some c) : o = o' ∧ k = k' :=
  hw.2.2.2.2.2 o ho o' ho' k (List.mem_range.mpr (List.getElem?_eq_some_iff.mp hk).1) k' (List.mem_range.mpr (List.getElem?_eq_some_iff.mp hk').1) (hk.trans hk'.symm)
theorem fv_ne {i : Nat} {I : Nat → Int32} {x : Int32} {R : Nat → Option Nat} {c : fc_} (h : c ≠ .inl i) : fv_ ad (upd I i x) R c = fv_ ad I R c := by
  rcases c with j | j | j
  · have : ¬ j = i := fun e => h (by rw [e])
    simp [fv_, upd, this]
  · rfl
  · rfl
theorem fv_neR {i : Nat} {I : Nat → Int32} {x : Option Nat} {R : Nat → Option Nat} {c : fc_} (h : c ≠ .inr (.inr i)) : fv_ ad I (va_up R i x) c = fv_ ad I R c := by
  rcases c with j | j | j
  · rfl
  · rfl
  · have : ¬ j = i := fun e => h (by rw [e])
    simp [fv_, va_up, this]
/-- an int field is changed -/
theorem wl_setI (hw : wfS S) (hI : Inj S ad) {b ci : Nat} {cs : List fc_} (hq : (b, ci, cs) ∈ S.1) {k i : Nat} (hk : cs[k]? = some (.inl i)) {p : Nat} (hp : (wl D S ad I A R G)[p]? = some (ad b, .inr (ci, cs.map (fv_ ad I R)))) (x : Int32) :
    ∀ q ∈ wl D S ad (upd I i x) A R G, q ∈ (wl D S ad I A R G).set p (ad b, .inr (ci, (cs.map (fv_ ad I R)).set k (.int x))) := by
  intro q h
  rcases wl_cases h with ⟨o, ho, rfl⟩ | ⟨o, ho, rfl⟩ | ⟨o, ho, rfl⟩
  · by_cases e : o.1 = b
    · have e2 : o = (b, ci, cs) := hw.2.1 o ho _ hq e
      subst e2
      rw [show ((b, ci, cs) : Nat × Nat × List fc_).2.2 = cs from rfl, fv_set (I := I) (R := R) cs k (.int x) (.inl i) hk (by simp [fv_, upd]) (fun j c hj hc => fv_ne (fun z => hj ((code_one hw hq hq (z ▸ hc) hk).2)))]
      exact set_mem0 hp
    · rw [fv_o (I := I) (R := R) o.2.2 (fun c hc => by
        obtain ⟨j, hj⟩ := List.getElem?_of_mem hc
        exact fv_ne (fun z => e (congrArg Prod.fst (code_one hw ho hq (z ▸ hj) hk).1)))]
      exact set_mem hp (wl_o ho) (fun z => e (hI _ (idx_o ho) b (idx_o hq) (congrArg Prod.fst z)))
  · exact set_mem hp (wl_a ho) (fun e => by injection e with _ e2; cases e2)
  · exact set_mem hp (wl_r ho) (fun e => by injection e with _ e2; cases e2)
/-- a reference field is changed -/
theorem wl_setR (hw : wfS S) (hI : Inj S ad) {b ci : Nat} {cs : List fc_} (hq : (b, ci, cs) ∈ S.1) {k i : Nat} (hk : cs[k]? = some (.inr (.inr i))) {p : Nat} (hp : (wl D S ad I A R G)[p]? = some (ad b, .inr (ci, cs.map (fv_ ad I R)))) (x : Option Nat) :
    ∀ q ∈ wl D S ad I A (va_up R i x) G, q ∈ (wl D S ad I A R G).set p (ad b, .inr (ci, (cs.map (fv_ ad I R)).set k (va_rf x))) := by
  intro q h
  rcases wl_cases h with ⟨o, ho, rfl⟩ | ⟨o, ho, rfl⟩ | ⟨o, ho, rfl⟩
  · by_cases e : o.1 = b
    · have e2 : o = (b, ci, cs) := hw.2.1 o ho _ hq e
      subst e2
      rw [show ((b, ci, cs) : Nat × Nat × List fc_).2.2 = cs from rfl, fv_set (I := I) (R := R) cs k (va_rf x) (.inr (.inr i)) hk (by simp [fv_, va_up]) (fun j c hj hc => fv_neR (fun z => hj ((code_one hw hq hq (z ▸ hc) hk).2)))]
      exact set_mem0 hp
    · rw [fv_o (I := I) (R := R) o.2.2 (fun c hc => by
        obtain ⟨j, hj⟩ := List.getElem?_of_mem hc
        exact fv_neR (fun z => e (congrArg Prod.fst (code_one hw ho hq (z ▸ hj) hk).1)))]
      exact set_mem hp (wl_o ho) (fun z => e (hI _ (idx_o ho) b (idx_o hq) (congrArg Prod.fst z)))
  · exact set_mem hp (wl_a ho) (fun e => by injection e with _ e2; cases e2)
  · exact set_mem hp (wl_r ho) (fun e => by injection e with _ e2; cases e2)
end WLS
