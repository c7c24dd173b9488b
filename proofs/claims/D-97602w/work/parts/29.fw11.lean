/-! FRAMEWORK 11: become between any two parishes -/
set_option maxRecDepth 100000
def jn {α : Type} (f g : Nat → α) : Nat → α := fun i => if i < 100 then f i else g (i - 100)
theorem jn_lo {α : Type} (f g : Nat → α) {i : Nat} (h : i < 100) : jn f g i = f i := if_pos h
theorem jn_hi {α : Type} (f g : Nat → α) (i : Nat) : jn f g (100 + i) = g i := by
  unfold jn
  rw [if_neg (by omega), Nat.add_sub_cancel_left]
theorem jn_upd (f g : Nat → Int32) {k : Nat} (h : k < 100) (v : Int32) : upd (jn f g) k v = jn (upd f k v) g := by
  funext i
  unfold jn upd
  by_cases e : i = k
  · subst e; simp [h]
  · simp [e]
theorem jn_up {α : Type} (f g : Nat → α) {k : Nat} (h : k < 100) (v : α) : va_up (jn f g) k v = jn (va_up f k v) g := by
  funext i
  unfold jn va_up
  by_cases e : i = k
  · subst e; simp [h]
  · simp [e]
def becI (o c : Nat → Int32) : Nat → Int32 := upd (upd (upd o 4 (c 4)) 10 (c 10)) 11 (c 11)
def becA (o c : Nat → Nat → Int32) : Nat → Nat → Int32 := va_up (va_up (va_up (va_up (va_up (va_up (va_up (va_up o 0 (va_cpy (c 0) (o 0) 0 0 6)) 2 (va_cpy (c 2) (o 2) 0 0 5)) 3 (va_cpy (c 3) (o 3) 0 0 5)) 5 (va_cpy (c 5) (o 5) 0 0 8)) 6 (va_cpy (c 6) (o 6) 0 0 8)) 7 (va_cpy (c 7) (o 7) 0 0 8)) 8 (va_cpy (c 8) (o 8) 0 0 8)) 9 (va_cpy (c 9) (o 9) 0 0 8)
theorem cp6 (f g : Nat → Int32) : cpO f g 6 6 0 0 6 = some (va_cpy f g 0 0 6) := rfl
theorem cp5 (f g : Nat → Int32) : cpO f g 5 5 0 0 5 = some (va_cpy f g 0 0 5) := rfl
theorem cp8 (f g : Nat → Int32) : cpO f g 8 8 0 0 8 = some (va_cpy f g 0 0 8) := rfl
theorem jnx {α : Type} (f g : Nat → α) : jn f g 100 = g 0 ∧ jn f g 101 = g 1 ∧ jn f g 102 = g 2 ∧ jn f g 103 = g 3 ∧ jn f g 104 = g 4 ∧ jn f g 105 = g 5 ∧ jn f g 106 = g 6 ∧ jn f g 107 = g 7 ∧ jn f g 108 = g 8 ∧ jn f g 109 = g 9 ∧ jn f g 110 = g 10 ∧ jn f g 111 = g 11 := ⟨rfl, rfl, rfl, rfl, rfl, rfl, rfl, rfl, rfl, rfl, rfl, rfl⟩
theorem jny {α : Type} (f g : Nat → α) : jn f g 0 = f 0 ∧ jn f g 2 = f 2 ∧ jn f g 3 = f 3 ∧ jn f g 5 = f 5 ∧ jn f g 6 = f 6 ∧ jn f g 7 = f 7 ∧ jn f g 8 = f 8 ∧ jn f g 9 = f 9 := ⟨rfl, rfl, rfl, rfl, rfl, rfl, rfl, rfl⟩
theorem bec_val (oI cI : Nat → Int32) (oA cA : Nat → Nat → Int32) (oR cR : Nat → Option Nat) : p_become (jn oI cI) (jn oA cA) (jn oR cR) = some (jn (becI oI cI) cI, jn (becA oA cA) cA, jn (va_up oR 1 (cR 1)) cR) := by
  unfold p_become
  simp only [cp6, cp5, cp8, ob1, jn_up _ _ (show 0 < 100 by decide), jn_up _ _ (show 1 < 100 by decide), jn_up _ _ (show 2 < 100 by decide), jn_up _ _ (show 3 < 100 by decide), jn_up _ _ (show 5 < 100 by decide), jn_up _ _ (show 6 < 100 by decide), jn_up _ _ (show 7 < 100 by decide), jn_up _ _ (show 8 < 100 by decide), jn_up _ _ (show 9 < 100 by decide), jn_upd _ _ (show 4 < 100 by decide), jn_upd _ _ (show 10 < 100 by decide), jn_upd _ _ (show 11 < 100 by decide), jnx, jny]
  rfl
theorem wl2_l {D : dd_} {a b : Nat → Nat} {I1 I2 : Nat → Int32} {A1 A2 : Nat → Nat → Int32} {R1 R2 : Nat → Option Nat} : ∀ q ∈ wl D pS a I1 A1 R1 nG, q ∈ wl D p2S (jn a b) (jn I1 I2) (jn A1 A2) (jn R1 R2) nG := sub_mem [0, 2, 3, 4, 5, 6, 7, 8, 9] rfl
theorem wl2_r {D : dd_} {a b : Nat → Nat} {I1 I2 : Nat → Int32} {A1 A2 : Nat → Nat → Int32} {R1 R2 : Nat → Option Nat} : ∀ q ∈ wl D pS b I2 A2 R2 nG, q ∈ wl D p2S (jn a b) (jn I1 I2) (jn A1 A2) (jn R1 R2) nG := sub_mem [1, 10, 11, 12, 13, 14, 15, 16, 17] rfl
theorem wl2_c {D : dd_} {a b : Nat → Nat} {I1 I2 : Nat → Int32} {A1 A2 : Nat → Nat → Int32} {R1 R2 : Nat → Option Nat} : ∀ q ∈ wl D p2S (jn a b) (jn I1 I2) (jn A1 A2) (jn R1 R2) nG, q ∈ wl D pS a I1 A1 R1 nG ++ wl D pS b I2 A2 R2 nG := sub_mem [0, 9, 1, 2, 3, 4, 5, 6, 7, 8, 10, 11, 12, 13, 14, 15, 16, 17] rfl
theorem idx2 : ∀ i ∈ idxS p2S, (i < 100 ∧ i ∈ idxS pS) ∨ (100 ≤ i ∧ i - 100 ∈ idxS pS) := by decide +kernel
theorem idx1 : ∀ i ∈ idxS pS, i < 100 := by decide +kernel
theorem inj2 {a b : Nat → Nat} (ha : Inj pS a) (hb : Inj pS b) (hab : ∀ i ∈ idxS pS, ∀ j ∈ idxS pS, a i ≠ b j) : Inj p2S (jn a b) := by
  intro i hi j hj e
  unfold jn at e
  rcases idx2 i hi with ⟨i1, i2⟩ | ⟨i1, i2⟩ <;> rcases idx2 j hj with ⟨j1, j2⟩ | ⟨j1, j2⟩
  · rw [if_pos i1, if_pos j1] at e
    exact ha i i2 j j2 e
  · rw [if_pos i1, if_neg (by omega)] at e
    exact absurd e (hab i i2 _ j2)
  · rw [if_neg (by omega), if_pos j1] at e
    exact absurd e.symm (hab j j2 _ i2)
  · rw [if_neg (by omega), if_neg (by omega)] at e
    have := hb _ i2 _ j2 e
    omega
section BEC
variable {p : Program} {l : Launch} {e : Env} {R0 : Room} {s : State} {m : MethodId} {args : Array Value} {below : List Frame} {meth : Method} {c : Code} {H : Heap} {locs : List Loc} {cells slots : Nat} {Q : State → Prop}
variable {cc : ByteArray} {pc nL : Nat} {ls : Array Slot} {rest : List Value} {D : dd_} {s0 : State} {L : va_W} {base : Nat} {H0 : Heap}
set_option maxHeartbeats 4000000 in
theorem bec_call {aT aO : Nat → Nat} {IT IO : Nat → Int32} {AT AO : Nat → Nat → Int32} {RT RO : Nat → Option Nat} (hx : p.tables.exec = Jvm.exec) (hb : c.code = cc) (hml : c.maxLocals = nL) (hown : s.vm.findClass RX0 = some m.cls) (hts : ∀ w ∈ lw_all, w.before args s = true) (hK : Kx D s) (hY : s0.WarmedH s.vm) (h0 : ∀ w ∈ lw_tbl, va_Nw w s0) (hRf : 2 ≤ R0.frames) (hRl : 85 ≤ R0.locals) (hcs : cells ≤ R0.cells ∧ slots ≤ R0.slots) (hB : base ≤ H.size) (hA : FA L base) (hL : FW D L H) (hS : va_S (upB base) H0 H locs) (hT : Inj pS aT) (hO : Inj pS aO) (hTO : ∀ i ∈ idxS pS, ∀ j ∈ idxS pS, aT i ≠ aO j) (mT : ∀ q ∈ wl D pS aT IT AT RT nG, q ∈ L) (mO : ∀ q ∈ wl D pS aO IO AO RO nG, q ∈ L) (hls : ls.size = nL) (hr : (rest.map fun v => v.category).sum ≤ 8) (hdg : decode cc pc = .ok (.invokevirtual 159, 3))
    (kk : ∀ (H1 : Heap) (locs1 : List Loc), AP pS aT (fx pS aT L) base → WX D pS aT (becI IT IO) (becA AT AO) (va_up RT 1 (RO 1)) nG (fx pS aT L) H1 → va_S (upB base) H0 H1 locs1 → W p l e R0 s m args below meth c H1 locs1 cells slots Q (F0 m (pc + 3) ls (.ref (aT 99) :: rest))) : W p l e R0 s m args below meth c H locs cells slots Q (F0 m pc ls (.ref (aO 99) :: .ref (aT 99) :: rest)) := by
  have hm : ∀ q ∈ wl D p2S (jn aT aO) (jn IT IO) (jn AT AO) (jn RT RO) nG, q ∈ L := fun q hq => (List.mem_append.mp (wl2_c q hq)).elim (mT q) (mO q)
  obtain ⟨g1, g2⟩ := refocus (inj2 hT hO hTO) hA hL hm
  obtain ⟨g3, -⟩ := refocus hT hA hL mT
  refine x_vW (ov := some (.ref (aT 99))) (D := D) (s0 := s0) (Sc := p2S) (adc := jn aT aO) (Ic := jn IT IO) (Ac := jn AT AO) (Rc := jn RT RO) (Gc := nG) (Xc := fx p2S (jn aT aO) L) (base := base) (As := [.ref (aO 99)]) (rest := rest) (b := aT 99) (C := RX1) ⟨hx, hb, hml, hown, hts⟩ (p_become_met l D s0 h0 (jn aT aO) (fx p2S (jn aT aO) L) base g1 _ _ _ _ _ _ (bec_val IT IO AT AO RT RO)) (g_cwV 1 hts (lw_V q742 q743 q744 q77 q745) rfl rfl p_become_ds ⟨Nat.le_trans (Nat.le_of_ble_eq_true rfl) hRf, Nat.le_trans (Nat.le_of_ble_eq_true rfl) hRl⟩) (x_recv (S := p2S) (ad := jn aT aO) hK g2 p2O99 rfl) hK hY hB g2 hS hcs rfl hls rfl hr hdg (fun H1 locs1 hW hS => ?_)
  refine kk H1 locs1 g3 (vaP_mem hW (fun q hq => ?_)) hS
  rcases List.mem_append.mp hq with h | h
  · exact List.mem_append_left _ (wl2_l q h)
  · obtain ⟨h1, h2⟩ := fx_mem.mp h
    by_cases hin : q ∈ wl D pS aO IO AO RO nG
    · exact List.mem_append_left _ (wl2_r q hin)
    · refine List.mem_append_right _ (fx_in hA hm h1 (fun z => ?_))
      rcases List.mem_append.mp (wl2_c q z) with z | z
      · obtain ⟨k, hk⟩ := List.getElem?_of_mem z
        obtain ⟨i, hi, ei⟩ := wl_at hk
        exact h2 i (List.mem_of_getElem? hi) ei
      · exact hin z
end BEC
