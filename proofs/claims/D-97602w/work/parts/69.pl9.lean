/-! PLAIN LAW 9: frees -/
set_option maxRecDepth 100000
section VIEW9
variable {v w u : Nat → Nat} {I I' : Nat → Int32} {A A' : Nat → Nat → Int32} {R : Nat → Option Nat} {G : Nat → Nat → Option Nat} {pl n : Nat} {ks : Nat → Nat}
theorem OK_fr (h : OKv v) {m p : Nat} (hm : m < v 7) (hp : p < v 6) : OKv (setv v (25 + m) p) := by
  have h7 := v_m h
  have e : ∀ i, i ≠ 25 + m → setv v (25 + m) p i = v i := fun i hi => setv_n _ _ hi
  obtain ⟨⟨a1, a2, a3, a4⟩, b, c, d, f, g, k⟩ := h
  have e6 := e 6 (by omega); have e7 := e 7 (by omega); have e9 := e 9 (by omega); have e8 := e 8 (by omega)
  refine ⟨⟨by rw [e6]; exact a1, by rw [e7]; exact a2, by rw [e8]; exact a3, by rw [e9, e6]; exact a4⟩, fun i hi => by rw [e i (by omega)]; exact b i hi, fun q hq => by rw [e _ (by omega), e _ (by omega)]; exact c q hq, fun q hq => ?_, fun j hj => ?_, fun j hj => by rw [e _ (by omega)]; exact g j hj, fun j hj hj7 => by rw [e _ (by omega)]; exact k j hj (by rw [← e7]; exact hj7)⟩
  · rw [e6] at hq
    rw [e _ (by omega), e _ (by omega)]
    exact d q hq
  · rw [e7] at hj
    rw [e6, e (33 + j) (by omega), e (41 + j) (by omega), e (49 + j) (by omega), e (57 + j) (by omega)]
    refine ⟨?_, (f j hj).2⟩
    unfold setv
    split
    · exact hp
    · exact (f j hj).1
theorem CV_fr (h : OKv u) (hc : CV u I A n ks) {m : Nat} (hm : m < 8) (x : Nat) {A1 : Nat → Nat → Int32} (h5 : A1 5 = upd (A 5) m (nI x)) (ho : A1 0 = A 0 ∧ A1 2 = A 2 ∧ A1 3 = A 3 ∧ A1 6 = A 6 ∧ A1 7 = A 7 ∧ A1 8 = A 8 ∧ A1 9 = A 9) : CV (setv u (25 + m) x) I A1 n ks := by
  obtain ⟨⟨a1, a2, a3, a4, a5⟩, b, c, d⟩ := hc
  obtain ⟨o0, o2, o3, o6, o7, o8, o9⟩ := ho
  have h6 := v_n h
  have ge : ∀ i, (i < 25 ∨ 33 ≤ i) → setv u (25 + m) x i = u i := fun i hi => setv_n _ _ (by omega)
  have km : kmask (setv u (25 + m) x) = kmask u := by
    unfold kmask
    rw [ge 65 (by decide), ge 66 (by decide), ge 67 (by decide), ge 68 (by decide), ge 69 (by decide), ge 70 (by decide), ge 71 (by decide), ge 72 (by decide)]
  refine ⟨⟨by rw [ge 6 (by decide)]; exact a1, fun q hq => by rw [ge _ (by omega)]; exact a2 q hq, by rw [ge 7 (by decide)]; exact a3, by rw [km]; exact a4, by rw [ge 8 (by decide)]; exact a5⟩, fun k hk => by rw [o0, ge k (by omega)]; exact b k hk, fun q hq => by rw [o2, o3, ge _ (by omega), ge _ (by omega)]; exact c q hq, fun j hj => ?_⟩
  rw [o6, o7, o8, o9, h5, ge (33 + j) (by omega), ge (41 + j) (by omega), ge (49 + j) (by omega), ge (57 + j) (by omega)]
  refine ⟨?_, (d j hj).2⟩
  by_cases z : j = m
  · rw [z, upd_s, setv_s]
  · rw [upd_n _ _ z, setv_n _ _ (by omega)]
    exact (d j hj).1
/-- one that takes over a word -/
def frT (v : Nat → Nat) (m p : Nat) (b : Int32 × Int32) : Int32 × Int32 := if v (65 + m) = 0 ∧ v (25 + m) ≠ p ∧ v (33 + m) ≠ p then (if b.2 ≤ wst (setv v (25 + m) p) (v 6) then b else (nI (8 * m + p), wst (setv v (25 + m) p) (v 6))) else b
def frI (v : Nat → Nat) (m : Nat) (b : Int32 × Int32) : Nat → Int32 × Int32
  | 0 => b
  | p + 1 => frT v m p (frI v m b p)
def frO (v : Nat → Nat) : Nat → Int32 × Int32
  | 0 => (-1000000, wst v (v 6))
  | m + 1 => frI v m (frO v m) (v 6)
theorem frI_s (m : Nat) (b : Int32 × Int32) (p : Nat) : frI v m b (p + 1) = frT v m p (frI v m b p) := rfl
theorem frI_k {m : Nat} (b : Int32 × Int32) (h : v (65 + m) ≠ 0) : ∀ p, frI v m b p = b := by
  intro p
  induction p with
  | zero => rfl
  | succ p ih =>
    rw [frI_s, ih]
    exact if_neg (fun z => h z.1)
theorem frees_mI (hw : MW v (A 0)) (h : OKv v) (hv : v 6 ≠ 0) (u1 : Int32) {m : Nat} (hm : m < v 7) (b : Int32 × Int32) : ∃ y, m_frees_L61 u1 (nI m) (nI (v (25 + m))) NF I A b.1 b.2 0 = some (I, A, (frI v m b (v 6)).1, (frI v m b (v 6)).2, y) := by
  have h6 := v_n h; have h7 := v_m h
  have e6 : ldO (A 0) 2044 6 = _ := ldW hw 6 rfl (by decide)
  have e65 : ldO (A 0) 2044 (65 + nI m) = _ := ldW hw (65 + m) (nI_add 65 m) (by omega)
  have e33 : ldO (A 0) 2044 (33 + nI m) = _ := ldW hw (33 + m) (nI_add 33 m) (by omega)
  have hk := v_kp h (show m < 8 by omega)
  obtain ⟨q1, q2, -⟩ := v_pr h hm
  have z65 : (nI (v (65 + m)) = (0 : Int32)) = _ := eqL 0 (by omega) (by decide)
  by_cases c : v (65 + m) = 0
  · have hr := lp_rel (fun k (s : Int32 × Int32 × Int32) => m_frees_L61 u1 (nI m) (nI (v (25 + m))) k I A s.1 s.2.1 s.2.2) (fun p s => s = ((frI v m b p).1, (frI v m b p).2, nI p)) (v 6) (fun r => ∃ y, r = (I, A, (frI v m b (v 6)).1, (frI v m b (v 6)).2, y))
      (fun k s hs => by
        subst hs
        refine ⟨(I, A, (frI v m b (v 6)).1, (frI v m b (v 6)).2, nI (v 6)), ?_, nI (v 6), rfl⟩
        simp only [m_frees_L61, e6, o1]
        rw [if_pos (nI_le (Nat.le_refl _) (by omega))])
      (fun k p s hp hs => by
        subst hs
        refine Or.inl ⟨_, rfl, ?_⟩
        have c1 : (nI p = nI (v (25 + m))) = _ := eqL _ (by omega) (by omega)
        have c2 : (nI p = nI (v (33 + m))) = _ := eqL _ (by omega) (by omega)
        have st : stO (A 0) 2044 (25 + nI m) (nI p) = _ := stN _ (nI_add 25 m) (by omega) (by decide)
        have st2 : ∀ B : Nat → Int32, stO B 2044 (25 + nI m) (nI (v (25 + m))) = _ := fun B => stN _ (nI_add 25 m) (by omega) (by decide)
        have gr := greatest_m (I := I) (A := va_up A 0 (upd (A 0) (25 + m) (nI p))) (MW_set hw (25 + m) p) (OK_fr h hm hp) (by rw [setv_n _ _ (by omega)]; exact hv)
        rw [setv_n v p (show 6 ≠ 25 + m by omega)] at gr
        have bk : va_up (va_up A 0 (upd (A 0) (25 + m) (nI p))) 0 (upd (upd (A 0) (25 + m) (nI p)) (25 + m) (nI (v (25 + m)))) = A := by
          rw [va_up_up]
          have : upd (upd (A 0) (25 + m) (nI p)) (25 + m) (nI (v (25 + m))) = A 0 := by
            funext i
            by_cases e : i = 25 + m
            · rw [e, upd_s]; exact (hw (25 + m) (by omega)).symm
            · rw [upd_n _ _ e, upd_n _ _ e]
          rw [this, va_up_id]
        simp only [m_frees_L61, e6, o1, e65, z65, c1, e33, c2, st, gr, ife, va_up_self, st2, bk]
        rw [if_neg (nI_ge hp (by omega)), if_pos c, nI_1, frI_s]
        unfold frT
        by_cases d : v (25 + m) = p
        · rw [if_pos d.symm, o4, if_neg (fun z => z.2.1 d)]
        · rw [if_neg (fun z => d z.symm)]
          by_cases d2 : v (33 + m) = p
          · rw [if_pos d2.symm, o4, if_neg (fun z => z.2.2 d2)]
          · rw [if_neg (fun z => d2 z.symm), o4, if_pos (show v (65 + m) = 0 ∧ v (25 + m) ≠ p ∧ v (33 + m) ≠ p from ⟨c, d, d2⟩)]
            have m8 : 8 * nI m + nI p = nI (8 * m + p) := by rw [show (8 : Int32) = nI 8 from rfl, pk_mul, nI_add]
            rw [m8]
            by_cases d3 : (frI v m b p).2 ≤ wst (setv v (25 + m) p) (v 6)
            · rw [if_pos d3, if_pos d3, if_pos d3]
            · rw [if_neg d3, if_neg d3, if_neg d3]) NF (b.1, b.2, 0) (NFb (by omega)) rfl
    obtain ⟨r, g1, y, rfl⟩ := hr
    exact ⟨y, g1⟩
  · have hk0 : ∀ k, m_frees_L61 u1 (nI m) (nI (v (25 + m))) (k + 1) I A b.1 b.2 0 = some (I, A, b.1, b.2, 0) := fun k => by
      simp only [m_frees_L61, e6, o1, e65, z65]
      rw [if_neg (show ¬ nI (v 6) ≤ 0 from nI_ge (a := 0) (by omega) (by omega)), if_neg c]
    rw [frI_k b c]
    exact ⟨0, hk0 999999⟩
theorem frees_mO (hw : MW v (A 0)) (h : OKv v) (hv : v 6 ≠ 0) (u1 : Int32) : m_frees_L34 u1 NF I A (-1000000) (wst v (v 6)) 0 = some (I, A, (frO v (v 7)).1, (frO v (v 7)).2, nI (v 7)) := by
  have h6 := v_n h; have h7 := v_m h
  have e7 : ldO (A 0) 2044 7 = _ := ldW hw 7 rfl (by decide)
  have hr := lp_run (fun k (s : Int32 × Int32 × Int32) => m_frees_L34 u1 k I A s.1 s.2.1 s.2.2) (fun m => ((frO v m).1, (frO v m).2, nI m)) (v 7) (some (I, A, (frO v (v 7)).1, (frO v (v 7)).2, nI (v 7)))
    (fun k => by
      simp only [m_frees_L34, e7, o1]
      rw [if_pos (nI_le (Nat.le_refl _) (by omega))])
    (fun k m hm => by
      have e25 : ldO (A 0) 2044 (25 + nI m) = _ := ldW hw (25 + m) (nI_add 25 m) (by omega)
      obtain ⟨y, hy⟩ := frees_mI (I := I) hw h hv u1 hm (frO v m)
      simp only [m_frees_L34, e7, o1, e25, hy, o5]
      rw [if_neg (nI_ge hm (by omega)), nI_1]
      rfl) NF (NFb (by omega))
  exact hr
theorem frees_xI (hc : CV v (sh 200 I') (sh 200 A') n ks) (h : OKv v) (hR : R 201 = some pl) (u1 : Int32) {m : Nat} (hm : m < v 7) (b : Int32 × Int32) (J : Nat → Int32) (B : Nat → Nat → Int32) (S : Nat → Option Nat) (g : KC I' J A' B R S) : ∃ J1 B1 S1 y, x_frees_L50 G pl n ks u1 (nI m) NF J B S b.1 b.2 0 = some (J1, B1, S1, (frI v m b (v 6)).1, (frI v m b (v 6)).2, y) ∧ KC I' J1 A' B1 R S1 := by
  have h6 := v_n h; have h7 := v_m h
  have hk := v_kp h (show m < 8 by omega)
  obtain ⟨q1, q2, -⟩ := v_pr h hm
  have hr := lp_rel (fun k (s : (Nat → Int32) × (Nat → Nat → Int32) × (Nat → Option Nat) × Int32 × Int32 × Int32) => x_frees_L50 G pl n ks u1 (nI m) k s.1 s.2.1 s.2.2.1 s.2.2.2.1 s.2.2.2.2.1 s.2.2.2.2.2) (fun p s => s.2.2.2 = ((frI v m b p).1, (frI v m b p).2, nI p) ∧ KC I' s.1 A' s.2.1 R s.2.2.1) (v 6) (fun r => (∃ y, r.2.2.2 = ((frI v m b (v 6)).1, (frI v m b (v 6)).2, y)) ∧ KC I' r.1 A' r.2.1 R r.2.2.1)
    (fun k s hs => by
      obtain ⟨J, B, S, t⟩ := s
      obtain ⟨rfl, g⟩ := hs
      have many : p_many (sh 200 J) (sh 200 B) (sh 200 S) pl n ks = some (nI (v 6)) := many_p (KC_cv g hc) ((g 201 (by decide) (by decide)).2.2.trans hR)
      refine ⟨(J, B, S, (frI v m b (v 6)).1, (frI v m b (v 6)).2, nI (v 6)), ?_, ⟨_, rfl⟩, g⟩
      simp only [x_frees_L50, many, o1]
      rw [if_pos (nI_le (Nat.le_refl _) (by omega))])
    (fun k p s hp hs => by
      obtain ⟨J, B, S, t⟩ := s
      obtain ⟨rfl, g⟩ := hs
      have g : KC I' J A' B R S := g
      have cv := KC_cv g hc
      have hS : S 201 = some pl := (g 201 (by decide) (by decide)).2.2.trans hR
      have many : p_many (sh 200 J) (sh 200 B) (sh 200 S) pl n ks = some (nI (v 6)) := many_p cv hS
      have hb : x_has (J 210) (nI m) = some (nI (v (65 + m))) := by
        rw [show J 210 = _ from cv.1.2.2.2.1, has_x _ (kmask_lt h) m (by omega), kmask_b h (by omega)]
      have e5 : ldO (B 205) 8 (nI m) = _ := ldN rfl (by omega) (by decide) (cv.2.2.2 m (by omega)).1
      have e6 : ldO (B 206) 8 (nI m) = _ := ldN rfl (by omega) (by decide) (cv.2.2.2 m (by omega)).2.1
      have z65 : (nI (v (65 + m)) = (0 : Int32)) = _ := eqL 0 (by omega) (by decide)
      have c1 : (nI (v (25 + m)) = nI p) = _ := eqL _ (by omega) (by omega)
      have c2 : (nI (v (33 + m)) = nI p) = _ := eqL _ (by omega) (by omega)
      by_cases d : v (65 + m) = 0 ∧ v (25 + m) ≠ p ∧ v (33 + m) ≠ p
      · have st : stO (tri B (becA (sh 300 B) (sh 200 B)) 305) 8 (nI m) (nI p) = _ := stN _ rfl (show m < 8 by omega) (by decide)
        have cv2 := CV_fr (A1 := sh 300 (va_up (tri B (becA (sh 300 B) (sh 200 B))) 305 (upd (tri B (becA (sh 300 B) (sh 200 B)) 305) m (nI p)))) h (tri_cv cv) (show m < 8 by omega) p rfl ⟨rfl, rfl, rfl, rfl, rfl, rfl, rfl⟩
        have wr := worst_p (R := sh 300 (tri S (va_up (sh 300 S) 1 (S 201)))) (pl := pl) cv2 (OK_fr h hm hp) (tri_R hS)
        rw [setv_n v p (show 6 ≠ 25 + m by omega)] at wr
        have kc : KC I' (tri J (becI (sh 300 J) (sh 200 J))) A' (va_up (tri B (becA (sh 300 B) (sh 200 B))) 305 (upd (tri B (becA (sh 300 B) (sh 200 B)) 305) m (nI p))) R (tri S (va_up (sh 300 S) 1 (S 201))) := g.tr (fun i h1 h2 => ⟨tri_lo _ _ h1, (va_up_ne _ _ (by omega)).trans (tri_lo _ _ h1), tri_lo _ _ h1⟩)
        refine Or.inl ⟨(_, _, _, (frI v m b (p + 1)).1, (frI v m b (p + 1)).2, nI (p + 1)), ⟨rfl, kc⟩, ?_⟩
        simp only [x_frees_L50, many, o1, hb, z65, e5, c1, e6, c2, bec_tri]
        rw [if_neg (nI_ge hp (by omega)), if_pos d.1, if_neg d.2.1, if_neg d.2.2]
        refine Eq.trans (congrArg (fun t => ob5 (ob1 t _) _) st) ?_
        rw [o1]
        refine Eq.trans (congrArg (fun t => ob5 (ob1 t _) _) wr) ?_
        rw [o1, ife, o1, o5, nI_1, frI_s]
        unfold frT mnI
        rw [if_pos d]
        have m8 : 8 * nI m + nI p = nI (8 * m + p) := by rw [show (8 : Int32) = nI 8 from rfl, pk_mul, nI_add]
        rw [m8]
        by_cases d3 : (frI v m b p).2 ≤ wst (setv v (25 + m) p) (v 6)
        · rw [if_pos d3, if_pos d3, if_neg (Int32.not_lt.mpr d3)]
          rfl
        · rw [if_neg d3, if_neg d3, if_pos (Int32.not_le.mp d3)]
          rfl
      · refine Or.inl ⟨(J, B, S, (frI v m b (p + 1)).1, (frI v m b (p + 1)).2, nI (p + 1)), ⟨rfl, g⟩, ?_⟩
        simp only [x_frees_L50, many, o1, hb, z65, e5, c1, e6, c2]
        rw [if_neg (nI_ge hp (by omega)), nI_1, frI_s]
        unfold frT
        rw [if_neg d]
        by_cases d1 : v (65 + m) = 0
        · rw [if_pos d1]
          by_cases d2 : v (25 + m) = p
          · rw [if_pos d2, o5]
          · rw [if_neg d2, if_pos (Classical.byContradiction (fun z => d ⟨d1, d2, z⟩)), o5]
        · rw [if_neg d1, o5]) NF (J, B, S, b.1, b.2, 0) (NFb (by omega)) ⟨rfl, g⟩
  obtain ⟨⟨J1, B1, S1, t⟩, g1, ⟨y, g2⟩, g3⟩ := hr
  have g2 : t = _ := g2
  subst g2
  exact ⟨J1, B1, S1, y, g1, g3⟩
theorem eq_frees (hw : MW v (A 0)) (h : OKv v) (hc : CV v (sh 200 I') (sh 200 A') n ks) (hR : R 201 = some pl) (a : Int32) : ∃ r I1' A1' R1 I1 A1, x_frees I' A' R G pl n ks a = some (r, I1', A1', R1) ∧ m_frees I A a = some (r, I1, A1) ∧ KC I' I1' A' A1' R R1 ∧ KM I I1 A A1 := by
  have h6 := v_n h; have h7 := v_m h
  have e1 := none_m (I := I) hw h
  have e2 := parish_x (G := G) hc hR h
  by_cases c : v 6 = 0
  · rw [if_pos c] at e1 e2
    exact ⟨_, _, _, _, _, _, by simp only [x_frees, e2, o1, n00, if_true] <;> rfl, by simp only [m_frees, e1, o1, n10, if_false] <;> rfl, KC.rfl', KM.rfl'⟩
  rw [if_neg c] at e1 e2
  rcases in_ab a (L := 0) (H := 1) 0 1 rfl rfl (by decide) with h1 | ⟨z, -, hz, rfl, h1⟩
  · exact ⟨_, _, _, _, _, _, by simp only [x_frees, x_isHalf, e2, o1, n10, if_false, h1, zO_0, n00, if_true] <;> rfl, by simp only [m_frees, e1, o1, n00, if_true, m_in_x, h1] <;> rfl, KC.rfl', KM.rfl'⟩
  have hm := frees_mO (I := I) hw h c (nI z)
  have wr := worst_p (R := sh 200 R) (pl := pl) hc h hR
  have hx := lp_rel (fun k (s : (Nat → Int32) × (Nat → Nat → Int32) × (Nat → Option Nat) × Int32 × Int32 × Int32) => x_frees_L35 G pl n ks (nI z) k s.1 s.2.1 s.2.2.1 s.2.2.2.1 s.2.2.2.2.1 s.2.2.2.2.2) (fun m s => s.2.2.2 = ((frO v m).1, (frO v m).2, nI m) ∧ KC I' s.1 A' s.2.1 R s.2.2.1) (v 7) (fun r => r.2.2.2 = ((frO v (v 7)).1, (frO v (v 7)).2, nI (v 7)) ∧ KC I' r.1 A' r.2.1 R r.2.2.1)
    (fun k s hs => by
      obtain ⟨J, B, S, t⟩ := s
      obtain ⟨rfl, g⟩ := hs
      have g : KC I' J A' B R S := g
      refine ⟨(J, B, S, (frO v (v 7)).1, (frO v (v 7)).2, nI (v 7)), ?_, rfl, g⟩
      simp only [x_frees_L35]
      rw [show J 204 = nI (v 7) from (KC_cv g hc).1.2.2.1, if_pos (nI_le (Nat.le_refl _) (by omega))])
    (fun k m s hm hs => by
      obtain ⟨J, B, S, t⟩ := s
      obtain ⟨rfl, g⟩ := hs
      have g : KC I' J A' B R S := g
      obtain ⟨J1, B1, S1, y, g1, g2⟩ := frees_xI (G := G) hc h hR (nI z) hm (frO v m) J B S g
      refine Or.inl ⟨(J1, B1, S1, (frO v (m + 1)).1, (frO v (m + 1)).2, nI (m + 1)), ⟨rfl, g2⟩, ?_⟩
      have z7 : J 204 = nI (v 7) := (KC_cv g hc).1.2.2.1
      simp only [x_frees_L35, g1, o6, z7]
      rw [if_neg (nI_ge hm (by omega)), nI_1]
      rfl) NF (I', A', R, -1000000, wst v (v 6), 0) (NFb (by omega)) ⟨rfl, KC.rfl'⟩
  obtain ⟨⟨J1, B1, S1, t⟩, g1, g2, g3⟩ := hx
  have g2 : t = _ := g2
  subst g2
  have g1 : x_frees_L35 G pl n ks (nI z) NF I' A' R (-1000000) (wst v (v 6)) 0 = _ := g1
  exact ⟨_, _, _, _, _, _, by simp only [x_frees, x_isHalf, e2, o1, n10, if_false, h1, zO_1, wr, g1, o6, ife] <;> rfl, by simp only [m_frees, e1, o1, n00, n10, if_true, if_false, m_in_x, h1, greatest_m hw h c, hm, o5, ife] <;> rfl, g3, KM.rfl'⟩
end VIEW9
