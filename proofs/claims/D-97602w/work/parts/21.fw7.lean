/-! FRAMEWORK 7: new cells; final fields in a constructor -/
set_option maxRecDepth 100000
theorem AP.push {D : dd_} {S : sp_} {ad : Nat → Nat} {I : Nat → Int32} {A : Nat → Nat → Int32} {R : Nat → Option Nat} {G : Nat → Nat → Option Nat} {X : va_W} {base : Nat} {H : Heap} (h : AP S ad X base) (hW : WX D S ad I A R G X H) (hB : base ≤ H.size) (ce : va_E) : AP S ad (X ++ [(H.size, ce)]) base := by
  obtain ⟨h1, h2, h3, h4⟩ := h
  have hX : va_P D.1 vCl X H := vaP_mem hW (fun q hq => List.mem_append_right _ hq)
  have hl : ∀ i ∈ idxS S, ad i < H.size := by
    intro i hi
    obtain ⟨k, hk⟩ := List.getElem?_of_mem hi
    have hk2 : k < (wl D S ad I A R G).length := by
      have e : ((wl D S ad I A R G).map (·.1)).length = ((idxS S).map ad).length := by rw [wl_fst]
      rw [List.length_map, List.length_map] at e
      rw [e]
      exact (List.getElem?_eq_some_iff.mp hk).1
    obtain ⟨j, hj, ej⟩ := wl_at (List.getElem?_eq_getElem hk2)
    cases hk.symm.trans hj
    rw [← ej]
    exact (hW k _ (app_at (List.getElem?_eq_getElem hk2))).lt
  refine ⟨h1, fun i hi q hq => ?_, va_D.push h3 hX rfl hB, h4⟩
  rcases List.mem_append.mp hq with z | z
  · exact h2 i hi q z
  · rw [List.mem_singleton.mp z]
    exact fun e => Nat.lt_irrefl _ (by have := hl i hi; rw [← e] at this; exact this)
theorem alloc_ok {D : dd_} {S : sp_} {ad : Nat → Nat} {I : Nat → Int32} {A : Nat → Nat → Int32} {R : Nat → Option Nat} {G : Nat → Nat → Option Nat} {X : va_W} {base : Nat} {H0 H H1 : Heap} {locs : List Loc} {ce : va_E} (hAP : AP S ad X base) (hW : WX D S ad I A R G X H) (hS : va_S (upB base) H0 H locs) (hB : base ≤ H.size) (z1 : H1.size = H.size + 1) (o1 : ∀ q : Nat, q < H.size → H1[q]? = H[q]?) (hc : va_at D.1 vCl (H.size, ce) H1) :
    WX D S ad I A R G (X ++ [(H.size, ce)]) H1 ∧ AP S ad (X ++ [(H.size, ce)]) base ∧ va_S (upB base) H0 H1 locs := by
  refine ⟨?_, hAP.push hW hB ce, Nat.le_trans hS.1 (by omega), fun x h1 h2 => (o1 x (Nat.lt_of_lt_of_le h1 hS.1)).trans (hS.2.1 x h1 h2), hS.2.2⟩
  show va_P D.1 vCl (wl D S ad I A R G ++ (X ++ [(H.size, ce)])) H1
  rw [← List.append_assoc]
  refine va_P.app (va_P.kept hW (fun k x hx => o1 x.1 ((hW k x hx).lt))) (fun k x hx => ?_)
  have hz : k < 1 := (List.getElem?_eq_some_iff.mp hx).1
  rw [show k = 0 by omega] at hx
  cases hx
  exact hc
section XNEW
variable {p : Program} {l : Launch} {e : Env} {R0 : Room} {s : State} {m : MethodId} {args : Array Value} {below : List Frame} {meth : Method} {c : Code} {H : Heap} {locs : List Loc} {cells slots : Nat} {Q : State → Prop}
variable {cc : ByteArray} {pc : Nat} {ls : Array Slot} {rest st0 : List Value} {D : dd_} {s0 : State} {S : sp_} {ad : Nat → Nat} {I : Nat → Int32} {A : Nat → Nat → Int32} {R : Nat → Option Nat} {G : Nat → Nat → Option Nat} {X : va_W} {base : Nat} {H0 : Heap}
theorem x_new (hexec : p.tables.exec = Jvm.exec) (hb : c.code = cc) (hts : ∀ w ∈ lw_all, w.before args s = true) {own C : String} {T : u_T} {N ci index : Nat} (hown : s.vm.findClass own = some m.cls) (hK : Kx D s) (hAP : AP S ad X base) (hW : WX D S ad I A R G X H) (hS : va_S (upB base) H0 H locs) (hB : base ≤ H.size) (hin : ∀ w ∈ u_ws C T N, w ∈ lw_all) (ty : Nat → FieldType) (hty : ∀ k, k < N → parseFieldDescriptor (T k).2.2.1 = some (ty k)) (hcl : Cond.classLink own index C ∈ lw_all) (hinst : Cond.instantiable C N ∈ lw_all) (hini : Cond.initialized C ∈ lw_all) (hc : vCl[ci]? = some (C, T, N)) {fs : List Value} (hfs : ∀ j, j < N → defaultValue (ty j) = vp_V fs j) (hcells : cells + 1 ≤ R0.cells) (hslots : slots + N ≤ R0.slots) (hdg : decode cc pc = .ok (.new index, 3))
    (kk : ∀ H1 : Heap, H1.size = H.size + 1 → WX D S ad I A R G (X ++ [(H.size, .inr (ci, fs))]) H1 → AP S ad (X ++ [(H.size, .inr (ci, fs))]) base → va_S (upB base) H0 H1 locs → W p l e R0 s m args below meth c H1 locs (cells + 1) (slots + N) Q (F0 m (pc + 3) ls (.ref H.size :: rest))) : W p l e R0 s m args below meth c H locs cells slots Q (F0 m pc ls rest) := by
  have hKn := hK.1 ci _ hc
  refine W.newcK hexec hb hown (hts _ hcl) (hts _ hinst) (hts _ hini) rfl hdg hcells hslots hKn.2.1 rfl fun H1 kC hkC e1 z1 o1 => ?_
  obtain ⟨a1, a2, a3⟩ := alloc_ok (ce := .inr (ci, fs)) hAP hW hS hB z1 o1 ⟨_, hc, (u_born ty hts hin hKn hkC e1 hty).to hfs⟩
  exact kk H1 z1 a1 a2 a3
theorem x_newa (hexec : p.tables.exec = Jvm.exec) (hb : c.code = cc) (hts : ∀ w ∈ lw_all, w.before args s = true) (hK : Kx D s) (hAP : AP S ad X base) (hW : WX D S ad I A R G X H) (hS : va_S (upB base) H0 H locs) (hB : base ≤ H.size) {atype : ArrayType} {ty : FieldType} (hty : newarray.typeOf atype = ty) (harr : Cond.arrayClass ty ∈ lw_all) (hv : ty ∈ vTys) (hdf : defaultValue ty = .int 0) (hra : ∀ (U : State) (cA : ClassId), va_RA U cA ty → U.vm.findClass ("[" ++ ty.toString) = some cA) {n : Int32} {N : Nat} (hn : ¬ n < 0) (hN : n.toNatClampNeg = N) (hbytes : N * componentBytes ty ≤ 536870912) (hcells : cells + 1 ≤ R0.cells) (hslots : slots + N ≤ R0.slots) (hdg : decode cc pc = .ok (.newarray atype, 2))
    (kk : ∀ H1 : Heap, H1.size = H.size + 1 → WX D S ad I A R G (X ++ [(H.size, .inl (D.2 ty, N, .inl (fun _ => 0)))]) H1 → AP S ad (X ++ [(H.size, .inl (D.2 ty, N, .inl (fun _ => 0)))]) base → va_S (upB base) H0 H1 locs → W p l e R0 s m args below meth c H1 locs (cells + 1) (slots + N) Q (F0 m (pc + 2) ls (.ref H.size :: rest))) : W p l e R0 s m args below meth c H locs cells slots Q (F0 m pc ls (.int n :: rest)) := by
  subst hty
  refine va_newaK (g := F0 m pc ls (.int n :: rest)) hexec hb (hts _ harr) rfl hdg rfl hn hN hbytes hcells hslots rfl fun H1 cA e1 z1 o1 hAr hfc => ?_
  obtain ⟨t0, ht⟩ := Kx.at (D := D) (U := s) (ty := newarray.typeOf atype) hv
  have hcA : D.2 (newarray.typeOf atype) = cA := Option.some.inj ((hra s _ (hK.2 t0 _ ht).2).symm.trans hfc)
  obtain ⟨a1, a2, a3⟩ := alloc_ok (ce := .inl (D.2 (newarray.typeOf atype), N, .inl (fun _ => 0))) hAP hW hS hB z1 o1 (by show H1[H.size]? = some (vp_cell _ _); rw [hcA, vp_cell_i]; rw [hdf] at e1; exact e1)
  exact kk H1 z1 a1 a2 a3
theorem x_newq (hexec : p.tables.exec = Jvm.exec) (hb : c.code = cc) (hts : ∀ w ∈ lw_all, w.before args s = true) (hK : Kx D s) (hAP : AP S ad X base) (hW : WX D S ad I A R G X H) (hS : va_S (upB base) H0 H locs) (hB : base ≤ H.size) {own C : String} {index : Nat} (hown : s.vm.findClass own = some m.cls) (hclink : Cond.classLink own index C ∈ lw_all) (hover : va_AO C s) (hv : FieldType.object C ∈ vTys) {n : Int32} {N : Nat} (hn : ¬ n < 0) (hN : n.toNatClampNeg = N) (hbytes : N * 4 ≤ 536870912) (hcells : cells + 1 ≤ R0.cells) (hslots : slots + N ≤ R0.slots) (hdg : decode cc pc = .ok (.anewarray index, 3))
    (kk : ∀ H1 : Heap, H1.size = H.size + 1 → WX D S ad I A R G (X ++ [(H.size, .inl (D.2 (.object C), N, .inr (.inr (.inr (.inr (fun _ => none))))))]) H1 → AP S ad (X ++ [(H.size, .inl (D.2 (.object C), N, .inr (.inr (.inr (.inr (fun _ => none))))))]) base → va_S (upB base) H0 H1 locs → W p l e R0 s m args below meth c H1 locs (cells + 1) (slots + N) Q (F0 m (pc + 3) ls (.ref H.size :: rest))) : W p l e R0 s m args below meth c H locs cells slots Q (F0 m pc ls (.int n :: rest)) := by
  subst hN
  refine W.anew hexec hb hown (hts _ hclink) (va_AO.use hover) rfl hdg rfl hn hbytes hcells hslots fun cA kA comp f1 f2 f3 f4 => ?_
  generalize hH1 : H.push ({ cls := cA, slots := Array.replicate n.toNatClampNeg .null, vm := .none } : Cell) = H1
  have z1 : H1.size = H.size + 1 := by rw [← hH1, Array.size_push]
  have e1 : H1[H.size]? = some (arrV cA n.toNatClampNeg (fun _ => .null)) := by rw [← hH1, Array.getElem?_push_size, ← arrV_new]
  have o1 : ∀ q : Nat, q < H.size → H1[q]? = H[q]? := fun q hq => by rw [← hH1, Array.getElem?_push, if_neg (Nat.ne_of_lt hq)]
  obtain ⟨t0, ht⟩ := Kx.at (D := D) (U := s) (ty := .object C) hv
  have hcA : D.2 (.object C) = cA := by
    obtain ⟨kA', comp', g1, g2, g3, g4⟩ := (hK.2 t0 _ ht).2
    exact Option.some.inj (g4.symm.trans f1)
  obtain ⟨a1, a2, a3⟩ := alloc_ok (ce := .inl (D.2 (.object C), n.toNatClampNeg, .inr (.inr (.inr (.inr (fun _ => none)))))) hAP hW hS hB z1 o1 (by show H1[H.size]? = some (vp_cell _ _); rw [hcA, vp_cell_q]; exact e1)
  exact kk H1 z1 a1 a2 a3
end XNEW
section XFIN
variable {p : Program} {l : Launch} {e : Env} {R0 : Room} {s : State} {m : MethodId} {args : Array Value} {below : List Frame} {meth : Method} {c : Code} {H : Heap} {locs : List Loc} {cells slots : Nat} {Q : State → Prop}
variable {cc : ByteArray} {pc : Nat} {ls : Array Slot} {rest st0 : List Value} {D : dd_} {s0 : State} {S : sp_} {ad : Nat → Nat} {I : Nat → Int32} {A : Nat → Nat → Int32} {R : Nat → Option Nat} {G : Nat → Nat → Option Nat} {X : va_W} {base : Nat} {H0 : Heap}
theorem x_putIF (hexec : p.tables.exec = Jvm.exec) (hb : c.code = cc) (hts : ∀ w ∈ lw_all, w.before args s = true) {own : String} (hown : s.vm.findClass own = some m.cls) (hK : Kx D s) (hin2 : meth.name = "<init>") (hw : wfS S) (hAP : AP S ad X base) (hW : WX D S ad I A R G X H) (hS : va_S (upB base) H0 H locs) {ref C : String} {T : u_T} {N ci index b : Nat} {cs : List fc_} (hq : (b, ci, cs) ∈ S.1) (hin : ∀ w ∈ u_ws C T N, w ∈ lw_all) (ty0 : Nat → FieldType) (hty : ∀ k, k < N → parseFieldDescriptor (T k).2.2.1 = some (ty0 k)) (hnm : ∀ a, a < N → ∀ b, b < N → a ≠ b → (T a).2.1 ≠ (T b).2.1) (hc : vCl[ci]? = some (C, T, N)) (k i : Nat) (hk : k < N) (hki : cs[k]? = some (.inl i)) (hlink : Cond.fieldLink own index ref (T k).2.1 (T k).2.2.1 ∈ lw_all) (hsame : (T k).1 = ref) (hdecl : (T k).1 = own) (hfin : (T k).2.2.2 = true) (hd : parseFieldDescriptor (T k).2.2.1 = some .int) {x : Int32} (hdg : decode cc pc = .ok (.putfield index, 3))
    (kk : ∀ (H1 : Heap) (locs1 : List Loc), WX D S ad (upd I i x) A R G X H1 → va_S (upB base) H0 H1 locs1 → W p l e R0 s m args below meth c H1 locs1 cells slots Q (F0 m (pc + 3) ls rest)) : W p l e R0 s m args below meth c H locs cells slots Q (F0 m pc ls (.int x :: .ref (ad b) :: rest)) := by
  obtain ⟨q0, h0⟩ := List.getElem?_of_mem (wl_o (D := D) (S := S) (ad := ad) (I := I) (A := A) (R := R) (G := G) hq)
  exact va_putF hexec hb hts hin ty0 hty hnm hown hK hW (wx_D hw hAP) hS q0 (app_at h0) hc k hk (hts _ hlink) (fun z h => by rw [← hsame]; exact h) hfin hin2 hdecl hd rfl rfl (by rw [List.length_map]; exact (List.getElem?_eq_some_iff.mp hki).1) hdg (fun H1 locs1 hP _ hS => kk H1 locs1 (vaP_mem hP (set_app h0 (wl_setI hw hAP.1 hq hki h0 x))) hS)
theorem x_putRF (hexec : p.tables.exec = Jvm.exec) (hb : c.code = cc) (hts : ∀ w ∈ lw_all, w.before args s = true) {own : String} (hown : s.vm.findClass own = some m.cls) (hK : Kx D s) (hin2 : meth.name = "<init>") (hw : wfS S) (hAP : AP S ad X base) (hW : WX D S ad I A R G X H) (hS : va_S (upB base) H0 H locs) {ref C : String} {T : u_T} {N ci index b : Nat} {cs : List fc_} (hq : (b, ci, cs) ∈ S.1) (hin : ∀ w ∈ u_ws C T N, w ∈ lw_all) (ty0 : Nat → FieldType) (hty : ∀ k, k < N → parseFieldDescriptor (T k).2.2.1 = some (ty0 k)) (hnm : ∀ a, a < N → ∀ b, b < N → a ≠ b → (T a).2.1 ≠ (T b).2.1) (hc : vCl[ci]? = some (C, T, N)) (k i : Nat) (hk : k < N) (hki : cs[k]? = some (.inr (.inr i))) (hlink : Cond.fieldLink own index ref (T k).2.1 (T k).2.2.1 ∈ lw_all) (hsame : (T k).1 = ref) (hdecl : (T k).1 = own) (hfin : (T k).2.2.2 = true) {ty : FieldType} (hd : parseFieldDescriptor (T k).2.2.1 = some ty) {x : Option Nat} (hn : narrow ty (va_rf x) = va_rf x) (hft : fits ty (va_rf x) = true) (hdg : decode cc pc = .ok (.putfield index, 3))
    (kk : ∀ (H1 : Heap) (locs1 : List Loc), WX D S ad I A (va_up R i x) G X H1 → va_S (upB base) H0 H1 locs1 → W p l e R0 s m args below meth c H1 locs1 cells slots Q (F0 m (pc + 3) ls rest)) : W p l e R0 s m args below meth c H locs cells slots Q (F0 m pc ls (va_rf x :: .ref (ad b) :: rest)) := by
  obtain ⟨q0, h0⟩ := List.getElem?_of_mem (wl_o (D := D) (S := S) (ad := ad) (I := I) (A := A) (R := R) (G := G) hq)
  exact va_putF hexec hb hts hin ty0 hty hnm hown hK hW (wx_D hw hAP) hS q0 (app_at h0) hc k hk (hts _ hlink) (fun z h => by rw [← hsame]; exact h) hfin hin2 hdecl hd hn hft (by rw [List.length_map]; exact (List.getElem?_eq_some_iff.mp hki).1) hdg (fun H1 locs1 hP _ hS => kk H1 locs1 (vaP_mem hP (set_app h0 (wl_setR hw hAP.1 hq hki h0 x))) hS)
end XFIN
/-- the last of the further cells becomes a world's only object -/
theorem AP.last {D : dd_} {S S1 : sp_} {ad : Nat → Nat} {I : Nat → Int32} {A : Nat → Nat → Int32} {R : Nat → Option Nat} {G : Nat → Nat → Option Nat} {X : va_W} {base q : Nat} {ce : va_E} (hw : wfS S) (h : AP S ad (X ++ [(q, ce)]) base) (h1 : ∀ i ∈ idxS S1, i = 99) : AP S1 (fun _ => q) (wl D S ad I A R G ++ X) base := by
  have hd := wx_D (D := D) (I := I) (A := A) (R := R) (G := G) hw h
  have hL : (wl D S ad I A R G ++ (X ++ [(q, ce)])) = (wl D S ad I A R G ++ X) ++ [(q, ce)] := by rw [List.append_assoc]
  rw [hL] at hd
  have hq : ((wl D S ad I A R G ++ X) ++ [(q, ce)])[(wl D S ad I A R G ++ X).length]? = some (q, ce) := by simp
  refine ⟨fun i hi j hj _ => by rw [h1 i hi, h1 j hj], fun i hi z hz e => ?_, ⟨fun i j a b ha hb => hd.1 i j a b (app_at ha) (app_at hb), fun k z hk => hd.2 k z (app_at hk)⟩, fun i hi => hd.2 _ _ hq⟩
  obtain ⟨k, hk⟩ := List.getElem?_of_mem hz
  have := hd.1 k _ z (q, ce) (app_at hk) hq e
  have hl := (List.getElem?_eq_some_iff.mp hk).1
  omega
