/-! FRAMEWORK 14: storing references; weaker counts -/
set_option maxRecDepth 100000
section AST
variable {p : Program} {l : Launch} {e : Env} {R0 : Room} {s : State} {m : MethodId} {args : Array Value} {below : List Frame} {meth : Method} {c : Code} {H : Heap} {locs : List Loc} {cells slots : Nat} {Q : State → Prop}
variable {cc : ByteArray} {pc : Nat} {ls : Array Slot} {rest st0 : List Value} {D : dd_} {s0 : State} {S : sp_} {ad : Nat → Nat} {I : Nat → Int32} {A : Nat → Nat → Int32} {R : Nat → Option Nat} {G : Nat → Nat → Option Nat} {X : va_W} {base : Nat} {H0 : Heap}
theorem w_more {g : JFrame} {cells' slots' : Nat} (hc : cells ≤ cells') (hs : slots ≤ slots') (k : W p l e R0 s m args below meth c H locs cells' slots' Q g) : W p l e R0 s m args below meth c H locs cells slots Q g := fun T hT X => k T hT (X.more hc hs)
theorem x_aastP (hexec : p.tables.exec = Jvm.exec) (hb : c.code = cc) (hK : Kx D s) (hw : wfS S) (hAP : AP S ad X base) (hW : WX D S ad I A R G X H) (hS : va_S (upB base) H0 H locs) {i n ci v : Nat} {C : String} {T : u_T} {N : Nat} {vs : List Value} (hty : FieldType.object C ∈ vTys) (hq : (i, n, C) ∈ S.2.2) (hc : vCl[ci]? = some (C, T, N)) (hv : (v, Sum.inr (ci, vs)) ∈ X) {j : Int32} (hin : vp_in j n) (hdg : decode cc pc = .ok (.aastore, 1))
    (kk : ∀ (H1 : Heap) (locs1 : List Loc), WX D S ad I A R (va_up G i (va_up (G i) j.toNatClampNeg (some v))) X H1 → va_S (upB base) H0 H1 locs1 → W p l e R0 s m args below meth c H1 locs1 cells slots Q (F0 m (pc + 1) ls rest)) : W p l e R0 s m args below meth c H locs cells slots Q (F0 m pc ls (.ref v :: .int j :: .ref (ad i) :: rest)) := by
  obtain ⟨q0, z0⟩ := List.getElem?_of_mem (wl_r (D := D) (S := S) (ad := ad) (I := I) (A := A) (R := R) (G := G) hq)
  obtain ⟨q1, z1⟩ := List.getElem?_of_mem (List.mem_append_right (wl D S ad I A R G) hv)
  obtain ⟨t0, ht⟩ := Kx.at (D := D) (U := s) (ty := .object C) hty
  exact va_astq (r := (C, T, N)) hexec hb hK hW (wx_D hw hAP) hS q0 t0 q1 ci (app_at z0) ht z1 hc hin hdg (fun H1 locs1 hP _ hS => kk H1 locs1 (vaP_mem hP (set_app z0 (wl_setG hw hAP.1 hq z0 _))) hS)
theorem x_aastN (hexec : p.tables.exec = Jvm.exec) (hb : c.code = cc) (hK : Kx D s) (hw : wfS S) (hAP : AP S ad X base) (hW : WX D S ad I A R G X H) (hS : va_S (upB base) H0 H locs) {i n : Nat} {C : String} (hty : FieldType.object C ∈ vTys) (hq : (i, n, C) ∈ S.2.2) {j : Int32} (hin : vp_in j n) (hdg : decode cc pc = .ok (.aastore, 1))
    (kk : ∀ (H1 : Heap) (locs1 : List Loc), WX D S ad I A R (va_up G i (va_up (G i) j.toNatClampNeg none)) X H1 → va_S (upB base) H0 H1 locs1 → W p l e R0 s m args below meth c H1 locs1 cells slots Q (F0 m (pc + 1) ls rest)) : W p l e R0 s m args below meth c H locs cells slots Q (F0 m pc ls (.null :: .int j :: .ref (ad i) :: rest)) := by
  obtain ⟨q0, z0⟩ := List.getElem?_of_mem (wl_r (D := D) (S := S) (ad := ad) (I := I) (A := A) (R := R) (G := G) hq)
  obtain ⟨t0, ht⟩ := Kx.at (D := D) (U := s) (ty := .object C) hty
  exact va_astqN hexec hb hK hW (wx_D hw hAP) hS q0 t0 (app_at z0) ht hin hdg (fun H1 locs1 hP _ hS => kk H1 locs1 (vaP_mem hP (set_app z0 (wl_setG hw hAP.1 hq z0 _))) hS)
theorem x_aastO (hexec : p.tables.exec = Jvm.exec) (hb : c.code = cc) (hK : Kx D s) (hw : wfS S) (hAP : AP S ad X base) (hW : WX D S ad I A R G X H) (hS : va_S (upB base) H0 H locs) {i n ci : Nat} {o : Option Nat} {C : String} {T : u_T} {N : Nat} (hty : FieldType.object C ∈ vTys) (hq : (i, n, C) ∈ S.2.2) (hc : vCl[ci]? = some (C, T, N)) (hv : ∀ v, o = some v → ∃ vs, (v, Sum.inr (ci, vs)) ∈ X) {j : Int32} (hin : vp_in j n) (hdg : decode cc pc = .ok (.aastore, 1))
    (kk : ∀ (H1 : Heap) (locs1 : List Loc), WX D S ad I A R (va_up G i (va_up (G i) j.toNatClampNeg o)) X H1 → va_S (upB base) H0 H1 locs1 → W p l e R0 s m args below meth c H1 locs1 cells slots Q (F0 m (pc + 1) ls rest)) : W p l e R0 s m args below meth c H locs cells slots Q (F0 m pc ls (va_rf o :: .int j :: .ref (ad i) :: rest)) := by
  cases o with
  | none => exact x_aastN hexec hb hK hw hAP hW hS hty hq hin hdg kk
  | some v =>
    obtain ⟨vs, h⟩ := hv v rfl
    exact x_aastP hexec hb hK hw hAP hW hS hty hq hc h hin hdg kk
end AST
