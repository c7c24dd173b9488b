/-! PLAIN LAW 8: year -/
set_option maxRecDepth 100000
theorem lremN {a b : Nat} {x y : Int64} (hx : x = lN a) (hy : y = lN b) (ha : a < 2 ^ 62) (h0 : 0 < b) (hb : b < 2 ^ 62) : lremO x y = some (lN (a % b)) := by
  subst hx; subst hy
  unfold lremO
  rw [if_neg (fun e => by
    have := (pk_lEQ (a := b) (b := 0) (by omega) (by decide)).mp e
    omega), pk_lRem (by omega) h0 (by omega)]
section VIEW8
variable {v w u : Nat → Nat} {I I' : Nat → Int32} {A A' : Nat → Nat → Int32} {R : Nat → Option Nat} {G : Nat → Nat → Option Nat} {pl n : Nat} {ks : Nat → Nat}
theorem mwk_8 (h : OKv u) (d : Nat) {p : Nat} (hp : p < 5) (up : Bool) : mwk (setv u 8 d) p up = mwk u p up := by
  unfold mwk
  rw [tgt_8]
  cases e : tgt u p up with
  | none => rfl
  | some t =>
    have ht := tgt_lt h hp e
    have hs := (v_sp h hp).2
    simp only []
    rw [load_8, setv_n u d (show 20 + p ≠ 8 by omega), setv_n u d (show 15 + p ≠ 8 by omega), setv_n u d (show t ≠ 8 by omega), setv_n u d (show u (20 + p) ≠ 8 by omega)]
/-- where one is after it may have walked -/
def spv (u : Nat → Nat) (p : Nat) (up : Bool) : Nat := if mwk u p up then (tgt u p up).getD 0 else u (20 + p)
theorem spv_8 (h : OKv u) (d : Nat) {p : Nat} (hp : p < 5) (up : Bool) : spv (setv u 8 d) p up = spv u p up := by
  unfold spv
  rw [mwk_8 h d hp, tgt_8, setv_n u d (show 20 + p ≠ 8 by omega)]
theorem mwk_t {p : Nat} {up : Bool} (h : mwk u p up = true) : ∃ t, tgt u p up = some t := by
  unfold mwk at h
  cases e : tgt u p up with
  | none => rw [e] at h; cases h
  | some t => exact ⟨t, rfl⟩
theorem spv_le (h : OKv u) {p : Nat} (hp : p < 5) (up : Bool) : spv u p up ≤ 5 := by
  unfold spv
  split
  · rename_i c
    obtain ⟨t, ht⟩ := mwk_t c
    have := tgt_lt h hp ht
    rw [ht]
    show t ≤ 5
    omega
  · exact (v_sp h hp).2
theorem spv_add (h : OKv u) {p : Nat} (hp : p < 5) (up : Bool) : nI (u (20 + p)) + (if mwk u p up then byI up else 0) = nI (spv u p up) := by
  unfold spv
  by_cases c : mwk u p up = true
  · obtain ⟨t, ht⟩ := mwk_t c
    rw [if_pos c, if_pos c, (step_in h hp up).2 t ht, ht]
    rfl
  · rw [if_neg c, if_neg c]
    exact Int32.add_zero _
theorem setv_c (k x y : Nat) {i : Nat} (hi : i ≠ k) : setv (setv u k x) i y = setv (setv u i y) k x := by
  funext j
  simp only [setv]
  by_cases e : j = i
  · subst e
    rw [if_pos rfl, if_neg hi, if_pos rfl]
  · rw [if_neg e, if_neg e]
theorem nc01 {c : Bool} {x : Int32} : (if (if c = true then (1 : Int32) else 0) = 0 then (0 : Int32) else x) = if c = true then x else 0 := by
  cases c
  · rfl
  · rfl
theorem KC_cv {I1 : Nat → Int32} {A1 : Nat → Nat → Int32} {R1 : Nat → Option Nat} (g : KC I I1 A A1 R R1) (hc : CV v (sh 200 I) (sh 200 A) n ks) : CV v (sh 200 I1) (sh 200 A1) n ks :=
  CV_congr (I := sh 200 I) (A := sh 200 A) ⟨(g 204 (by decide) (by decide)).1, (g 210 (by decide) (by decide)).1, (g 211 (by decide) (by decide)).1⟩ ⟨fun k _ => congrFun (g 200 (by decide) (by decide)).2.1 k, fun k _ => ⟨congrFun (g 202 (by decide) (by decide)).2.1 k, congrFun (g 203 (by decide) (by decide)).2.1 k⟩, fun k _ => ⟨congrFun (g 205 (by decide) (by decide)).2.1 k, congrFun (g 206 (by decide) (by decide)).2.1 k, congrFun (g 207 (by decide) (by decide)).2.1 k, congrFun (g 208 (by decide) (by decide)).2.1 k, congrFun (g 209 (by decide) (by decide)).2.1 k⟩⟩ hc
theorem OK_sp (h : OKv u) {p : Nat} (hp : p < 5) {x : Nat} (hx : x ≤ 5) : OKv (setv u (20 + p) x) :=
  OK_of h (fun i hi _ => setv_n _ _ (by omega)) (by rw [setv_n _ _ (by omega)]; exact v_d h) (fun q hq => by
    refine ⟨by rw [setv_n _ _ (by omega)]; exact (v_sp h hq).1, ?_⟩
    unfold setv
    split
    · exact hx
    · exact (v_sp h hq).2) (fun q hq => by have := v_n h; rw [setv_n _ _ (by omega)]; exact (h.2.2.2.1 q hq).2.2)
theorem CV_sp (h : OKv u) (hc : CV u I A n ks) {p : Nat} (hp : p < 5) (x : Nat) {A1 : Nat → Nat → Int32} (h3 : A1 3 = upd (A 3) p (nI x)) (ho : A1 0 = A 0 ∧ A1 2 = A 2 ∧ A1 5 = A 5 ∧ A1 6 = A 6 ∧ A1 7 = A 7 ∧ A1 8 = A 8 ∧ A1 9 = A 9) : CV (setv u (20 + p) x) I A1 n ks := by
  obtain ⟨⟨a1, a2, a3, a4, a5⟩, b, c, d⟩ := hc
  obtain ⟨o0, o2, o5, o6, o7, o8, o9⟩ := ho
  have ge : ∀ i, (i < 20 ∨ 25 ≤ i) → setv u (20 + p) x i = u i := fun i hi => setv_n _ _ (by omega)
  refine ⟨⟨by rw [ge 6 (by decide)]; exact a1, fun q hq => ?_, by rw [ge 7 (by decide)]; exact a3, by rw [km_of (v := u) (fun i hi => ge i (by omega))]; exact a4, by rw [ge 8 (by decide)]; exact a5⟩, fun k hk => by rw [o0, ge k (by omega)]; exact b k hk, fun q hq => ?_, fun m hm => ?_⟩
  · have h6 := v_n h
    rw [setv_n _ _ (by omega)]; exact a2 q hq
  · rw [o2, h3, setv_n _ _ (by omega)]
    refine ⟨(c q hq).1, ?_⟩
    by_cases z : q = p
    · rw [z, upd_s, setv_s]
    · rw [upd_n _ _ z, setv_n _ _ (by omega)]
      exact (c q hq).2
  · rw [o5, o6, o7, o8, o9, ge _ (by omega), ge _ (by omega), ge _ (by omega), ge _ (by omega), ge _ (by omega)]
    exact d m hm
/-- one day of a year -/
def yx (x : Nat) : Nat := x * 16807 % 2147483647
def yw (N : Nat) (u : Nat → Nat) (x : Nat) : Nat → Nat := grw (setv u (20 + yx x % N) (spv u (yx x % N) (decide (yx x % 2 = 0))))
def yv (v : Nat → Nat) (x : Nat) : Nat → (Nat → Nat) × Nat
  | 0 => (v, x)
  | k + 1 => (yw (v 6) (yv v x k).1 (yv v x k).2, yx (yv v x k).2)
theorem yv_x {x : Nat} (hx : x < 2147483647) : ∀ k, (yv v x k).2 < 2147483647 := by
  intro k
  induction k with
  | zero => exact hx
  | succ k ih => exact Nat.mod_lt _ (by decide)
theorem yv_OK (h : OKv v) (h0 : v 6 ≠ 0) (x : Nat) : ∀ k, OKv (yv v x k).1 ∧ (yv v x k).1 6 = v 6 := by
  have h6 := v_n h
  intro k
  induction k with
  | zero => exact ⟨h, rfl⟩
  | succ k ih =>
    obtain ⟨i1, i2⟩ := ih
    have hm : yx (yv v x k).2 % v 6 < v 6 := Nat.mod_lt _ (by omega)
    have o1 := OK_sp i1 (show yx (yv v x k).2 % v 6 < 5 by omega) (spv_le i1 (show yx (yv v x k).2 % v 6 < 5 by omega) (decide (yx (yv v x k).2 % 2 = 0)))
    refine ⟨OK_grw o1, ?_⟩
    have e := grS_o (v := setv (yv v x k).1 (20 + yx (yv v x k).2 % v 6) (spv (yv v x k).1 (yx (yv v x k).2 % v 6) (decide (yx (yv v x k).2 % 2 = 0)))) (i := 6) (v_n o1) (by omega)
    refine Eq.trans e ?_
    rw [setv_n _ _ (by omega)]
    exact i2
theorem cm0 {x : Nat} : (lg_cmp (lN (x % 2)) 0 = 0) = (x % 2 = 0) := by
  rcases (show x % 2 = 0 ∨ x % 2 = 1 by omega) with e | e <;> rw [e] <;> decide
theorem by_i (x : Nat) : (if x % 2 = 0 then (1 : Int32) else -1) = byI (decide (x % 2 = 0)) := by
  unfold byI
  by_cases c : x % 2 = 0 <;> simp [c]
/-- the highest, and all places together -/
def bst (u : Nat → Nat) : Nat → Nat
  | 0 => 0
  | p + 1 => if u (u (20 + p)) ≤ u (u (20 + bst u p)) then bst u p else p
theorem bst_s (p : Nat) : bst u (p + 1) = if u (u (20 + p)) ≤ u (u (20 + bst u p)) then bst u p else p := rfl
theorem bst_le : ∀ p, bst u p ≤ p := by
  intro p
  induction p with
  | zero => exact Nat.le_refl _
  | succ p ih =>
    rw [bst_s]
    split <;> omega
theorem eq_year (hw : MW v (A 0)) (h : OKv v) (h8 : v 8 ≤ 999) (hc : CV v (sh 200 I') (sh 200 A') n ks) (hR : R 201 = some pl) (a s q : Int32) : ∃ r I1' A1' R1 I1 A1, x_year I' A' R G pl n ks a s q = some (r, I1', A1', R1) ∧ m_year I A a s q = some (r, I1, A1) ∧ KC I' I1' A' A1' R R1 ∧ KM I I1 A A1 := by
  have h6 := v_n h
  have e1 := none_m (I := I) hw h
  have e2 := parish_x (G := G) hc hR h
  by_cases c : v 6 = 0
  · rw [if_pos c] at e1 e2
    exact ⟨_, _, _, _, _, _, by simp only [x_year, e2, o1, n00, if_true] <;> rfl, by simp only [m_year, e1, o1, n10, if_false] <;> rfl, KC.rfl', KM.rfl'⟩
  rw [if_neg c] at e1 e2
  rcases in_ab a (L := 0) (H := 60) 0 60 rfl rfl (by decide) with h1 | ⟨b, hb1, hb, rfl, h1⟩
  · exact ⟨_, _, _, _, _, _, by simp only [x_year, e2, o1, n10, if_false, h1, n00, if_true] <;> rfl, by simp only [m_year, e1, o1, n00, if_true, m_in_x, h1] <;> rfl, KC.rfl', KM.rfl'⟩
  rcases in_ab s (L := 1) (H := 999999) 1 999999 rfl rfl (by decide) with h2 | ⟨x, hx1, hx, rfl, h2⟩
  · exact ⟨_, _, _, _, _, _, by simp only [x_year, e2, o1, n10, if_false, h1, h2, n00, if_true] <;> rfl, by simp only [m_year, e1, o1, n10, if_false, n00, if_true, m_in_x, h1, h2] <;> rfl, KC.rfl', KM.rfl'⟩
  rcases in_ab q (L := 0) (H := 1) 0 1 rfl rfl (by decide) with h3 | ⟨z, hz1, hz, rfl, h3⟩
  · exact ⟨_, _, _, _, _, _, by simp only [x_year, x_isHalf, e2, o1, n10, if_false, h1, h2, h3, zO_0, n00, if_true] <;> rfl, by simp only [m_year, e1, o1, n10, if_false, n00, if_true, m_in_x, h1, h2, h3] <;> rfl, KC.rfl', KM.rfl'⟩
  have xs : (nI x).toInt64 = lN x := nI_l (by omega)
  obtain ⟨f, l1, l2⟩ := lays_m (I := I) hw
  have stp : ∀ j, lremO (lN (yv v x j).2 * 16807) 2147483647 = some (lN (yx (yv v x j).2)) := fun j => by
    have := yv_x (v := v) (show x < 2147483647 by omega) j
    exact lremN (a := (yv v x j).2 * 16807) (b := 2147483647) (lN_mul _ 16807) rfl (by omega) (by decide) (by decide)
  have yxl : ∀ y, yx y < 2147483647 := fun y => Nat.mod_lt _ (by decide)
  have md : ∀ y, lremO (lN (yx y)) (nI (v 6)).toInt64 = some (lN (yx y % v 6)) := fun y => lremN rfl (nI_l (by omega)) (by have := yxl y; omega) (by omega) (by omega)
  have m2 : ∀ y, lremO (lN (yx y)) 2 = some (lN (yx y % 2)) := fun y => lremN (b := 2) rfl rfl (by have := yxl y; omega) (by decide) (by decide)
  have pl5 : ∀ y, yx y % v 6 < v 6 := fun y => Nat.mod_lt _ (by omega)
  let R1 : Nat → Option Nat := tri R (va_up (sh 300 R) 1 (R 201))
  have hR1 : sh 300 R1 1 = some pl := tri_R hR
  have hR2 : sh 200 R1 1 = some pl := (tri_lo R _ (i := 201) (by decide)).trans hR
  have hx := lp_rel (fun k (s : (Nat → Int32) × (Nat → Nat → Int32) × Int64 × Int32) => x_year_L63 R1 G pl n ks (nI b) (nI z) k s.1 s.2.1 s.2.2.1 s.2.2.2)
    (fun j s => s.2.2.2 = nI j ∧ s.2.2.1 = lN (yv v x j).2 ∧ CV (setv (yv v x j).1 8 (v 8 + j)) (sh 300 s.1) (sh 300 s.2.1) n ks ∧ KC I' s.1 A' s.2.1 R R1) b
    (fun r => CV (setv (yv v x b).1 8 (v 8 + b)) (sh 300 r.1) (sh 300 r.2.1) n ks ∧ KC I' r.1 A' r.2.1 R R1)
    (fun k s hs => by
      obtain ⟨J, B, y, i⟩ := s
      obtain ⟨rfl, rfl, g2, g3⟩ := hs
      refine ⟨(J, B, _, nI b), ?_, g2, g3⟩
      simp only [x_year_L63]
      rw [if_pos (Int32.le_refl _)])
    (fun k j s hj hs => by
      obtain ⟨J, B, y, i⟩ := s
      obtain ⟨rfl, rfl, g2, g3⟩ := hs
      have g2 : CV (setv (yv v x j).1 8 (v 8 + j)) (sh 300 J) (sh 300 B) n ks := g2
      obtain ⟨y1, y2⟩ := yv_OK h c x j
      have ok : OKv (setv (yv v x j).1 8 (v 8 + j)) := OK_8 y1 (by omega)
      have ge : ¬ nI b ≤ nI j := nI_ge hj (by omega)
      have pm := pl5 (yv v x j).2
      have p5 : yx (yv v x j).2 % v 6 < 5 := by omega
      have many : p_many (sh 200 J) (sh 200 B) (sh 200 R1) pl n ks = some (nI (v 6)) := many_p (KC_cv g3 hc) hR2
      have e3 : ldO (B 303) 5 (nI (yx (yv v x j).2 % v 6)) = _ := ldN rfl p5 (by decide) (g2.2.2.1 _ p5).2
      rw [setv_n _ _ (by omega)] at e3
      have st : ∀ zz : Int32, stO (B 303) 5 (nI (yx (yv v x j).2 % v 6)) zz = _ := fun zz => stN zz rfl p5 (by decide)
      have mw := mayWalk_p (R := sh 300 R1) (pl := pl) g2 ok hR1 p5 (decide (yx (yv v x j).2 % 2 = 0))
      rw [mwk_8 y1 _ p5] at mw
      have sp := spv_le y1 p5 (decide (yx (yv v x j).2 % 2 = 0))
      have ok2 := OK_sp ok p5 sp
      have cv2 := CV_sp (A1 := sh 300 (va_up B 303 (upd (B 303) (yx (yv v x j).2 % v 6) (nI (spv (yv v x j).1 (yx (yv v x j).2 % v 6) (decide (yx (yv v x j).2 % 2 = 0))))))) ok g2 p5 _ rfl ⟨rfl, rfl, rfl, rfl, rfl, rfl, rfl⟩
      obtain ⟨B1, p1, p2, p3⟩ := pass_p (R := sh 300 R1) (pl := pl) cv2 ok2 hR1
      have p4 := CV_mg p2 J (va_up B 303 (upd (B 303) (yx (yv v x j).2 % v 6) (nI (spv (yv v x j).1 (yx (yv v x j).2 % v 6) (decide (yx (yv v x j).2 % 2 = 0))))))
      rw [setv_c _ _ _ (show 20 + yx (yv v x j).2 % v 6 ≠ 8 by omega), grw_8, setv_2, setv_s] at p4
      have p4 : CV (setv (yv v x (j + 1)).1 8 (v 8 + (j + 1))) _ _ n ks := p4
      have k1 : KC I' J A' (va_up B 303 (upd (B 303) (yx (yv v x j).2 % v 6) (nI (spv (yv v x j).1 (yx (yv v x j).2 % v 6) (decide (yx (yv v x j).2 % 2 = 0)))))) R R1 := fun i hi hi2 => ⟨(g3 i hi hi2).1, (va_up_ne _ _ (by omega)).trans (g3 i hi hi2).2.1, (g3 i hi hi2).2.2⟩
      refine Or.inl ⟨(_, _, lN (yx (yv v x j).2), nI (j + 1)), ⟨rfl, rfl, p4, k1.tr (KC_mg _ _ _ _ _)⟩, ?_⟩
      simp only [x_year_L63, stp j, o1, many, md, m2, cm0, ife, by_i, lN_i, e3, mw, st, nc01, spv_add y1 p5, p1, o2]
      rw [if_neg ge, nI_1]
      rfl) NF (_, _, lN x, 0) (NFb (by omega)) ⟨rfl, rfl, by
                have := tri_cv (I := I') (A := A') hc
                rw [show setv (yv v x 0).1 8 (v 8 + 0) = v from by funext i; unfold setv; split <;> simp_all [yv]]
                exact this, KC_tri _ _ _ _ _ _⟩
  have hm := lp_rel (fun k (s : (Nat → Int32) × (Nat → Nat → Int32) × Int64 × Int32) => m_year_L58 (nI b) (nI z) k s.1 s.2.1 s.2.2.1 s.2.2.2)
    (fun j s => s.1 = I ∧ s.2.2.2 = nI j ∧ s.2.2.1 = lN (yv v x j).2 ∧ MW (yv v x j).1 (s.2.1 0) ∧ (∀ i, i ≠ 0 → s.2.1 i = va_up A 21 f i) ∧ ∀ i, (i < 15 ∨ 25 ≤ i) → s.2.1 0 i = A 0 i) b
    (fun r => r.1 = I ∧ MW (yv v x b).1 (r.2.1 0) ∧ (∀ i, i ≠ 0 → r.2.1 i = va_up A 21 f i) ∧ ∀ i, (i < 15 ∨ 25 ≤ i) → r.2.1 0 i = A 0 i)
    (fun k s hs => by
      obtain ⟨J, B, y, i⟩ := s
      obtain ⟨rfl, rfl, rfl, g2, g3, g4⟩ := hs
      refine ⟨(J, B, _, nI b), ?_, rfl, g2, g3, g4⟩
      simp only [m_year_L58]
      rw [if_pos (Int32.le_refl _)])
    (fun k j s hj hs => by
      obtain ⟨J, B, y, i⟩ := s
      obtain ⟨rfl, rfl, rfl, g2, g3, g4⟩ := hs
      have g2 : MW (yv v x j).1 (B 0) := g2
      obtain ⟨y1, y2⟩ := yv_OK h c x j
      have ge : ¬ nI b ≤ nI j := nI_ge hj (by omega)
      have pm := pl5 (yv v x j).2
      have p5 : yx (yv v x j).2 % v 6 < 5 := by omega
      have e6 : ldO (B 0) 2044 6 = _ := ldW g2 6 rfl (by decide)
      rw [y2] at e6
      have e20 : ldO (B 0) 2044 (20 + nI (yx (yv v x j).2 % v 6)) = _ := ldW g2 (20 + yx (yv v x j).2 % v 6) (nI_add 20 _) (by omega)
      have st : ∀ zz : Int32, stO (B 0) 2044 (20 + nI (yx (yv v x j).2 % v 6)) zz = _ := fun zz => stN zz (nI_add 20 _) (by omega) (by decide)
      have cw := canWalk_m (I := J) g2 y1 p5 (decide (yx (yv v x j).2 % 2 = 0))
      have sp := spv_le y1 p5 (decide (yx (yv v x j).2 % 2 = 0))
      obtain ⟨B1, q1, q2, q3, q4⟩ := grows_m (I := J) (A := va_up B 0 (upd (B 0) (20 + yx (yv v x j).2 % v 6) (nI (spv (yv v x j).1 (yx (yv v x j).2 % v 6) (decide (yx (yv v x j).2 % 2 = 0)))))) (MW_set g2 _ _) (OK_sp y1 p5 sp)
      refine Or.inl ⟨(J, B1, lN (yx (yv v x j).2), nI (j + 1)), ⟨rfl, rfl, rfl, q2, fun i hi => (q3 i hi).trans ((va_up_ne _ _ hi).trans (g3 i hi)), fun i hi => (q4 i (by omega)).trans ((upd_n _ _ (by omega)).trans (g4 i hi))⟩, ?_⟩
      simp only [m_year_L58, stp j, o1, e6, md, m2, cm0, ife, by_i, lN_i, e20, cw, st, nc01, spv_add y1 p5, q1, o2]
      rw [if_neg ge, nI_1]) NF (I, va_up A 21 f, lN x, 0) (NFb (by omega)) ⟨rfl, rfl, rfl, hw, fun _ _ => rfl, fun _ _ => rfl⟩
  obtain ⟨⟨J, B, y, i⟩, mm1, rfl, mm2, mm3, mm4⟩ := hm
  have mm1 : m_year_L58 (nI b) (nI z) NF J (va_up A 21 f) (lN x) 0 = _ := mm1
  have mm2 : MW (yv v x b).1 (B 0) := mm2
  obtain ⟨⟨I2, A2, y', i'⟩, xx1, xx2, xx3⟩ := hx
  have xx1 : x_year_L63 R1 G pl n ks (nI b) (nI z) NF (tri I' (becI (sh 300 I') (sh 200 I'))) (tri A' (becA (sh 300 A') (sh 200 A'))) (lN x) 0 = _ := xx1
  have xx2 : CV (setv (yv v x b).1 8 (v 8 + b)) (sh 300 I2) (sh 300 A2) n ks := xx2
  obtain ⟨ok, k6⟩ := yv_OK h c x b
  let u := (yv v x b).1
  have sum_le : ∀ p, p ≤ 5 → sumN (fun p => u (20 + p)) p ≤ p * 5 := fun p hp => sumN_le p (fun i hi => (v_sp ok (show i < 5 by omega)).2)
  have hb5 : ∀ p, p < v 6 → bst u p < 5 := fun p hp => by have := bst_le (u := u) p; omega
  have lx := lp_run (fun k (s : Int32 × Int32 × Int32) => x_year_L168 I2 A2 R1 G pl n ks (nI z) k s.1 s.2.1 s.2.2) (fun p => (nI (bst u p), nI (sumN (fun p => u (20 + p)) p), nI p)) (v 6) (some (nI (bst u (v 6)), nI (sumN (fun p => u (20 + p)) (v 6)), nI (v 6)))
    (fun k => by
      have many : p_many (sh 200 I2) (sh 200 A2) (sh 200 R1) pl n ks = some (nI (v 6)) := many_p (KC_cv xx3 hc) hR2
      simp only [x_year_L168, many, o1]
      rw [if_pos (nI_le (Nat.le_refl _) (by omega))])
    (fun k p hp => by
      have many : p_many (sh 200 I2) (sh 200 A2) (sh 200 R1) pl n ks = some (nI (v 6)) := many_p (KC_cv xx3 hc) hR2
      have p5 : p < 5 := by omega
      have b5 := hb5 p hp
      have e3 : ∀ p, p < 5 → ldO (A2 303) 5 (nI p) = some (nI (u (20 + p))) := fun p p5 => by
        have := (xx2.2.2.1 p p5).2
        rw [setv_n _ _ (by omega)] at this
        exact ldN rfl p5 (by decide) this
      have e0 : ∀ k, k < 6 → ldO (A2 300) 6 (nI k) = some (nI (u k)) := fun k k6 => by
        have := xx2.2.1 k k6
        rw [setv_n _ _ (by omega)] at this
        exact ldN rfl k6 (by decide) this
      have s1 := (v_sp ok p5).2
      have s2 := (v_sp ok b5).2
      have t1 := v_h ok (show u (20 + p) < 6 from by show (yv v x b).1 (20 + p) < 6; omega)
      have t2 := v_h ok (show u (20 + bst u p) < 6 from by show (yv v x b).1 (20 + bst u p) < 6; omega)
      have cc : (nI (u (u (20 + p))) ≤ nI (u (u (20 + bst u p)))) = _ := leL (by show (yv v x b).1 (u (20 + p)) < _; omega) (by show (yv v x b).1 (u (20 + bst u p)) < _; omega)
      simp only [x_year_L168, many, o1, e3 p p5, e3 _ b5, e0 _ (show u (20 + p) < 6 from by show (yv v x b).1 (20 + p) < 6; omega), e0 _ (show u (20 + bst u p) < 6 from by show (yv v x b).1 (20 + bst u p) < 6; omega), ife, cc, nI_add]
      rw [if_neg (nI_ge hp (by omega)), nI_1, bst_s, sumN]
      by_cases q : u (u (20 + p)) ≤ u (u (20 + bst u p))
      · rw [if_pos q, if_pos q]
      · rw [if_neg q, if_neg q]) NF (NFb (by omega))
  have lx : x_year_L168 I2 A2 R1 G pl n ks (nI z) NF 0 0 0 = _ := lx
  have lm := lp_run (fun k (s : Int32 × Int32 × Int32) => m_year_L157 J B (nI z) k s.1 s.2.1 s.2.2) (fun p => (nI (sumN (fun p => u (20 + p)) p), nI (bst u p), nI p)) (v 6) (some (nI (sumN (fun p => u (20 + p)) (v 6)), nI (bst u (v 6)), nI (v 6)))
    (fun k => by
      have e6 : ldO (B 0) 2044 6 = _ := ldW mm2 6 rfl (by decide)
      rw [k6] at e6
      simp only [m_year_L157, e6, o1]
      rw [if_pos (nI_le (Nat.le_refl _) (by omega))])
    (fun k p hp => by
      have e6 : ldO (B 0) 2044 6 = _ := ldW mm2 6 rfl (by decide)
      rw [k6] at e6
      have p5 : p < 5 := by omega
      have b5 := hb5 p hp
      have e3 : ∀ p, p < 5 → ldO (B 0) 2044 (20 + nI p) = some (nI (u (20 + p))) := fun p p5 => ldW mm2 (20 + p) (nI_add 20 _) (by omega)
      have e0 : ∀ k, k < 6 → ldO (B 0) 2044 (0 + nI k) = some (nI (u k)) := fun k k6 => ldW mm2 k (by rw [Int32.zero_add]) (by omega)
      have s1 := (v_sp ok p5).2
      have s2 := (v_sp ok b5).2
      have t1 := v_h ok (show u (20 + p) < 6 from by show (yv v x b).1 (20 + p) < 6; omega)
      have t2 := v_h ok (show u (20 + bst u p) < 6 from by show (yv v x b).1 (20 + bst u p) < 6; omega)
      have cc : (nI (u (u (20 + p))) ≤ nI (u (u (20 + bst u p)))) = _ := leL (by show (yv v x b).1 (u (20 + p)) < _; omega) (by show (yv v x b).1 (u (20 + bst u p)) < _; omega)
      simp only [m_year_L157, e6, o1, e3 p p5, e3 _ b5, e0 _ (show u (20 + p) < 6 from by show (yv v x b).1 (20 + p) < 6; omega), e0 _ (show u (20 + bst u p) < 6 from by show (yv v x b).1 (20 + bst u p) < 6; omega), ife, cc, nI_add]
      rw [if_neg (nI_ge hp (by omega)), nI_1, bst_s, sumN]
      by_cases q : u (u (20 + p)) ≤ u (u (20 + bst u p))
      · rw [if_pos q, if_pos q]
      · rw [if_neg q, if_neg q]) NF (NFb (by omega))
  have lm : m_year_L157 J B (nI z) NF 0 0 0 = _ := lm
  obtain ⟨g, p1, p2⟩ := puts_m (I := J) (A := A) B (fun k hk => by rw [show B 21 = va_up A 21 f 21 from mm3 21 (by decide), va_up_self]; exact l2 k hk) (fun i hi => mm4 i hi)
  have km : KM J J A (va_up B 0 g) := ⟨fun _ => rfl, p2, fun i hi h15 => by
    rw [va_up_ne _ _ hi]
    exact (mm3 i hi).trans (va_up_ne _ _ (by omega))⟩
  refine ⟨if nI z = 0 then nI (bst u (v 6)) else nI (sumN (fun p => u (20 + p)) (v 6)), I2, A2, R1, J, va_up B 0 g, ?_, ?_, xx3, km⟩
  · rw [xs] at h2
    simp only [x_year, x_isHalf, e2, o1, n10, if_false, h1, h2, h3, zO_1, bec_tri, xs]
    refine Eq.trans (congrArg (fun t => ob4 t _) xx1) ?_
    rw [o4]
    refine Eq.trans (congrArg (fun t => ob3 t _) lx) ?_
    rw [o3, ife, o1]
    rfl
  · rw [xs] at h2
    simp only [m_year, e1, o1, n00, n10, if_true, if_false, m_in_x, h1, h2, h3, xs, l1, o2, mm1, o4, lm, o3, p1, ife]
end VIEW8
