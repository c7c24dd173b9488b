/-! PLAIN LAW 6: changed views, growing, the trial parish, crushed -/
set_option maxRecDepth 100000
theorem lp_rel {σ ρ : Type} (L : Nat → σ → Option ρ) (Inv : Nat → σ → Prop) (e : Nat) (post : ρ → Prop) (hx : ∀ k s, Inv e s → ∃ r, L (k + 1) s = some r ∧ post r) (hs : ∀ k i s, i < e → Inv i s → (∃ s', Inv (i + 1) s' ∧ L (k + 1) s = L k s') ∨ ∃ r, L (k + 1) s = some r ∧ post r) (k : Nat) (s : σ) (hk : e < k) (h0 : Inv 0 s) : ∃ r, L k s = some r ∧ post r := by
  have key : ∀ d i k s, i + d = e → d < k → Inv i s → ∃ r, L k s = some r ∧ post r := by
    intro d
    induction d with
    | zero =>
      intro i k s h1 h2 h3
      obtain ⟨j, rfl⟩ : ∃ j, k = j + 1 := ⟨k - 1, by omega⟩
      obtain rfl : i = e := by omega
      exact hx j s h3
    | succ d ih =>
      intro i k s h1 h2 h3
      obtain ⟨j, rfl⟩ : ∃ j, k = j + 1 := ⟨k - 1, by omega⟩
      rcases hs j i s (by omega) h3 with ⟨s', g1, g2⟩ | g
      · rw [g2]
        exact ih (i + 1) j s' (by omega) (by omega) g1
      · exact g
  exact key e 0 k s (by omega) hk h0
theorem va_up_up {α : Type} (f : Nat → α) (k : Nat) (x y : α) : va_up (va_up f k x) k y = va_up f k y := by
  funext i
  by_cases e : i = k
  · rw [e, va_up_self, va_up_self]
  · rw [va_up_ne _ _ e, va_up_ne _ _ e, va_up_ne _ _ e]
theorem va_up_id {α : Type} (f : Nat → α) (k : Nat) : va_up f k (f k) = f := by
  funext i
  by_cases e : i = k
  · rw [e, va_up_self]
  · rw [va_up_ne _ _ e]
def setv (v : Nat → Nat) (k x : Nat) : Nat → Nat := fun i => if i = k then x else v i
theorem setv_s (v : Nat → Nat) (k x : Nat) : setv v k x k = x := if_pos rfl
theorem setv_n (v : Nat → Nat) {k i : Nat} (x : Nat) (h : i ≠ k) : setv v k x i = v i := if_neg h
theorem MW_set {v : Nat → Nat} {w : Nat → Int32} (h : MW v w) (k x : Nat) : MW (setv v k x) (upd w k (nI x)) := by
  intro i hi
  unfold setv upd
  by_cases e : i = k
  · rw [if_pos e, if_pos e]
  · rw [if_neg e, if_neg e]
    exact h i hi
theorem upd_n (f : Nat → Int32) {k i : Nat} (x : Int32) (h : i ≠ k) : upd f k x i = f i := if_neg h
theorem upd_s (f : Nat → Int32) (k : Nat) (x : Int32) : upd f k x k = x := if_pos rfl
theorem CV_congr {v : Nat → Nat} {I I' : Nat → Int32} {A A' : Nat → Nat → Int32} {n : Nat} {ks : Nat → Nat} (hI : I' 4 = I 4 ∧ I' 10 = I 10 ∧ I' 11 = I 11) (hA : (∀ k, k < 6 → A' 0 k = A 0 k) ∧ (∀ p, p < 5 → A' 2 p = A 2 p ∧ A' 3 p = A 3 p) ∧ ∀ m, m < 8 → A' 5 m = A 5 m ∧ A' 6 m = A 6 m ∧ A' 7 m = A 7 m ∧ A' 8 m = A 8 m ∧ A' 9 m = A 9 m) (h : CV v I A n ks) : CV v I' A' n ks := by
  obtain ⟨⟨a1, a2, a3, a4, a5⟩, b, c, d⟩ := h
  obtain ⟨i4, i10, i11⟩ := hI
  obtain ⟨e, f, g⟩ := hA
  refine ⟨⟨a1, a2, i4.trans a3, i10.trans a4, i11.trans a5⟩, fun k hk => (e k hk).trans (b k hk), fun p hp => ⟨(f p hp).1.trans (c p hp).1, (f p hp).2.trans (c p hp).2⟩, fun m hm => ?_⟩
  obtain ⟨d1, d2, d3, d4, d5⟩ := d m hm
  obtain ⟨g1, g2, g3, g4, g5⟩ := g m hm
  exact ⟨g1.trans d1, g2.trans d2, g3.trans d3, g4.trans d4, g5.trans d5⟩
theorem cpy0 (f g : Nat → Int32) (N : Nat) {k : Nat} (h : k < N) : va_cpy f g 0 0 N k = f k := by
  unfold va_cpy
  rw [if_pos ⟨Nat.zero_le _, by omega⟩, Nat.sub_zero, Nat.zero_add]
theorem bec_cv {v : Nat → Nat} {oI cI : Nat → Int32} {oA cA : Nat → Nat → Int32} {n : Nat} {ks : Nat → Nat} (h : CV v cI cA n ks) : CV v (becI oI cI) (becA oA cA) n ks :=
  CV_congr ⟨rfl, rfl, rfl⟩ ⟨fun k hk => cpy0 (cA 0) (oA 0) 6 hk, fun p hp => ⟨cpy0 (cA 2) (oA 2) 5 hp, cpy0 (cA 3) (oA 3) 5 hp⟩, fun m hm => ⟨cpy0 (cA 5) (oA 5) 8 hm, cpy0 (cA 6) (oA 6) 8 hm, cpy0 (cA 7) (oA 7) 8 hm, cpy0 (cA 8) (oA 8) 8 hm, cpy0 (cA 9) (oA 9) 8 hm⟩⟩ h
theorem sl2_jn {α : Type} (a b : Nat) (f : Nat → α) : sl2 a b f = jn (sh a f) (sh b f) := rfl
/-- what becomes of the banks when the trial becomes the parish -/
def tri {α : Type} (f g : Nat → α) : Nat → α := mg 300 (mg 200 f (sh 100 (jn g (sh 200 f)))) (jn g (sh 200 f))
theorem tri_lo {α : Type} (f g : Nat → α) {i : Nat} (h : i < 300) : tri f g i = f i := by
  unfold tri
  show (if 300 ≤ i ∧ i < 300 + 100 then _ else (if 200 ≤ i ∧ i < 200 + 100 then sh 100 (jn g (sh 200 f)) (i - 200) else f i)) = f i
  rw [if_neg (by omega)]
  split
  · show jn g (sh 200 f) (100 + (i - 200)) = f i
    rw [jn_hi]
    show f (200 + (i - 200)) = f i
    rw [show 200 + (i - 200) = i by omega]
  · rfl
theorem tri_hi {α : Type} (f g : Nat → α) {i : Nat} (h : i < 100) : sh 300 (tri f g) i = g i := by
  show mg 300 _ _ (300 + i) = g i
  unfold mg
  rw [if_pos (by omega), show 300 + i - 300 = i by omega, jn_lo _ _ h]
theorem bec_tri (I : Nat → Int32) (A : Nat → Nat → Int32) (R : Nat → Option Nat) {δ : Type} (f : (Nat → Int32) → (Nat → Nat → Int32) → (Nat → Option Nat) → Option δ) : ob3 (p_become (sl2 300 200 I) (sl2 300 200 A) (sl2 300 200 R)) f = f (jn (becI (sh 300 I) (sh 200 I)) (sh 200 I)) (jn (becA (sh 300 A) (sh 200 A)) (sh 200 A)) (jn (va_up (sh 300 R) 1 (R 201)) (sh 200 R)) := by
  rw [sl2_jn, sl2_jn, sl2_jn, bec_val, o3]
  rfl
section VIEW6
variable {v w : Nat → Nat} {I I' : Nat → Int32} {A A' : Nat → Nat → Int32} {R : Nat → Option Nat} {G : Nat → Nat → Option Nat} {pl n : Nat} {ks : Nat → Nat}
theorem tri_cv (h : CV v (sh 200 I) (sh 200 A) n ks) : CV v (sh 300 (tri I (becI (sh 300 I) (sh 200 I)))) (sh 300 (tri A (becA (sh 300 A) (sh 200 A)))) n ks :=
  CV_congr ⟨tri_hi _ _ (by decide), tri_hi _ _ (by decide), tri_hi _ _ (by decide)⟩ ⟨fun k hk => by rw [tri_hi _ _ (by decide)], fun p hp => by rw [tri_hi _ _ (by decide), tri_hi _ _ (by decide)]; exact ⟨rfl, rfl⟩, fun m hm => by rw [tri_hi _ _ (by decide), tri_hi _ _ (by decide), tri_hi _ _ (by decide), tri_hi _ _ (by decide), tri_hi _ _ (by decide)]; exact ⟨rfl, rfl, rfl, rfl, rfl⟩⟩ (bec_cv (oI := sh 300 I) (oA := sh 300 A) h)
theorem tri_R (h : R 201 = some pl) : sh 300 (tri R (va_up (sh 300 R) 1 (R 201))) 1 = some pl := by
  rw [tri_hi _ _ (by decide)]
  exact h
/-- two views that part in strength and place (and the day) alone -/
theorem OK_of (h : OKv v) (e : ∀ i, (i < 15 ∨ 25 ≤ i) → i ≠ 8 → w i = v i) (h8 : w 8 ≤ 2000) (hs : ∀ p, p < 5 → w (15 + p) ≤ 99 ∧ w (20 + p) ≤ 5) (h1 : ∀ p, p < v 6 → 1 ≤ w (15 + p)) : OKv w := by
  obtain ⟨⟨a1, a2, a3, a4⟩, b, c, d, f, g, k⟩ := h
  have e6 := e 6 (by decide) (by decide); have e7 := e 7 (by decide) (by decide); have e9 := e 9 (by decide) (by decide)
  refine ⟨⟨by rw [e6]; exact a1, by rw [e7]; exact a2, h8, by rw [e9, e6]; exact a4⟩, fun i hi => by rw [e i (by omega) (by omega)]; exact b i hi, hs, fun p hp => ?_, fun m hm => ?_, fun m hm => by rw [e _ (by omega) (by omega)]; exact g m hm, fun m hm h7 => by rw [e _ (by omega) (by omega)]; exact k m hm (by rw [← e7]; exact h7)⟩
  · rw [e6] at hp
    rw [e _ (by omega) (by omega)]
    exact ⟨(d p hp).1, (d p hp).2.1, h1 p hp⟩
  · rw [e7] at hm
    rw [e6, e (25 + m) (by omega) (by omega), e (33 + m) (by omega) (by omega), e (41 + m) (by omega) (by omega), e (49 + m) (by omega) (by omega), e (57 + m) (by omega) (by omega)]
    exact f m hm
theorem km_of (e : ∀ i, 25 ≤ i → w i = v i) : kmask w = kmask v := by
  unfold kmask
  rw [e 65 (by decide), e 66 (by decide), e 67 (by decide), e 68 (by decide), e 69 (by decide), e 70 (by decide), e 71 (by decide), e 72 (by decide)]
/-- one grows -/
def gr1 (v : Nat → Nat) (p : Nat) : Nat := if 4 ≤ v (10 + p) ∧ v (15 + p) < 99 then v (15 + p) + 1 else v (15 + p)
def grS (v : Nat → Nat) (j : Nat) : Nat → Nat := fun i => if 15 ≤ i ∧ i < 15 + j then gr1 v (i - 15) else v i
def grw (v : Nat → Nat) : Nat → Nat := grS v (v 6)
theorem grS_o {j i : Nat} (hj : j ≤ 5) (h : i < 15 ∨ 20 ≤ i) : grS v j i = v i := if_neg (by omega)
theorem grS_0 : grS v 0 = v := by
  funext i
  exact if_neg (by omega)
theorem grS_s (j : Nat) : grS v (j + 1) = setv (grS v j) (15 + j) (gr1 v j) := by
  funext i
  simp only [grS, setv]
  by_cases e : i = 15 + j
  · rw [if_pos e, if_pos (by omega), e, Nat.add_sub_cancel_left]
  · rw [if_neg e]
    by_cases c : 15 ≤ i ∧ i < 15 + j
    · rw [if_pos c, if_pos (by omega)]
    · rw [if_neg c, if_neg (by omega)]
theorem grS_n {j p : Nat} (h : j ≤ p) : grS v j (15 + p) = v (15 + p) := if_neg (by omega)
theorem grS_y {j p : Nat} (h : p < j) : grS v j (15 + p) = gr1 v p := by
  unfold grS
  rw [if_pos (by omega), Nat.add_sub_cancel_left]
theorem gr1_le {p : Nat} (h : v (15 + p) ≤ 99) : gr1 v p ≤ 99 ∧ v (15 + p) ≤ gr1 v p := by
  unfold gr1
  split <;> omega
theorem OK_grS (h : OKv v) {j : Nat} (hj : j ≤ v 6) : OKv (grS v j) := by
  have h6 := v_n h
  refine OK_of h (fun i hi _ => grS_o (by omega) (by omega)) (by rw [grS_o (by omega) (by omega)]; exact v_d h) (fun p hp => ?_) (fun p hp => ?_)
  · have := v_sp h hp
    refine ⟨?_, by rw [grS_o (by omega) (by omega)]; exact this.2⟩
    by_cases c : p < j
    · rw [grS_y c]; exact (gr1_le this.1).1
    · rw [grS_n (by omega)]; exact this.1
  · have := v_sp h (show p < 5 by omega)
    have h1 := (h.2.2.2.1 p hp).2.2
    by_cases c : p < j
    · rw [grS_y c]; have := (gr1_le this.1).2; omega
    · rw [grS_n (by omega)]; exact h1
theorem OK_grw (h : OKv v) : OKv (grw v) := OK_grS h (Nat.le_refl _)
theorem grows_m (hw : MW v (A 0)) (h : OKv v) : ∃ A1, m_grows I A = some (I, A1) ∧ MW (grw v) (A1 0) ∧ (∀ j, j ≠ 0 → A1 j = A j) ∧ ∀ i, (i < 15 ∨ 20 ≤ i) → A1 0 i = A 0 i := by
  have h6 := v_n h
  have hr := lp_rel (fun k (s : (Nat → Int32) × (Nat → Nat → Int32) × Int32) => m_grows_L2 k s.1 s.2.1 s.2.2) (fun j s => s.1 = I ∧ s.2.2 = nI j ∧ MW (grS v j) (s.2.1 0) ∧ (∀ j, j ≠ 0 → s.2.1 j = A j) ∧ ∀ i, (i < 15 ∨ 20 ≤ i) → s.2.1 0 i = A 0 i) (v 6) (fun r => r.1 = I ∧ MW (grw v) (r.2.1 0) ∧ (∀ j, j ≠ 0 → r.2.1 j = A j) ∧ ∀ i, (i < 15 ∨ 20 ≤ i) → r.2.1 0 i = A 0 i)
    (fun k s hs => by
      obtain ⟨J, B, x⟩ := s
      obtain ⟨rfl, rfl, h1, h2, h3⟩ := hs
      have e6 : ldO (B 0) 2044 6 = _ := ldW h1 6 rfl (by decide)
      rw [grS_o h6 (by omega)] at e6
      refine ⟨(J, B, nI (v 6)), ?_, rfl, h1, h2, h3⟩
      simp only [m_grows_L2, e6, o1]
      rw [if_pos (nI_le (Nat.le_refl _) (by omega))])
    (fun k j s hj hs => by
      obtain ⟨J, B, x⟩ := s
      obtain ⟨rfl, rfl, h1, h2, h3⟩ := hs
      have e6 : ldO (B 0) 2044 6 = _ := ldW h1 6 rfl (by decide)
      rw [grS_o (by omega) (by omega)] at e6
      have e15 : ldO (B 0) 2044 (15 + nI j) = _ := ldW h1 (15 + j) (nI_add 15 j) (by omega)
      rw [grS_n (Nat.le_refl _)] at e15
      have e10 : ldO (B 0) 2044 (10 + nI j) = _ := ldW h1 (10 + j) (nI_add 10 j) (by omega)
      rw [grS_o (by omega) (by omega)] at e10
      have hk := v_k h hj
      have l2 := (v_sp h (show j < 5 by omega)).1
      have c4 : (nI (v (10 + j)) < (4 : Int32)) = _ := ltL (b := 4) (by omega) (by decide)
      have c9 : ((99 : Int32) ≤ nI (v (15 + j))) = _ := leL (a := 99) (by decide) (by omega)
      have st : ∀ x : Int32, stO (B 0) 2044 (15 + nI j) x = _ := fun x => stN x (nI_add 15 j) (by omega) (by decide)
      refine Or.inl ⟨(J, va_up B 0 (upd (B 0) (15 + j) (nI (gr1 v j))), nI (j + 1)), ⟨rfl, rfl, ?_, ?_, ?_⟩, ?_⟩
      · rw [grS_s]
        exact MW_set h1 _ _
      · intro i hi
        show va_up B 0 _ i = A i
        rw [va_up_ne _ _ hi]
        exact h2 i hi
      · intro i hi
        show upd (B 0) (15 + j) _ i = A 0 i
        rw [upd_n _ _ (by omega)]
        exact h3 i hi
      · simp only [m_grows_L2, e6, o1, e15, e10, c4, c9, st]
        rw [if_neg (nI_ge hj (by omega)), nI_1]
        have : ∀ x : Int32, nI (v (15 + j)) + x = nI (gr1 v j) → m_grows_L2 k J (va_up B 0 (upd (B 0) (15 + j) (nI (v (15 + j)) + x))) (nI (j + 1)) = m_grows_L2 k J (va_up B 0 (upd (B 0) (15 + j) (nI (gr1 v j)))) (nI (j + 1)) := fun x hx => by rw [hx]
        by_cases a : v (10 + j) < 4
        · rw [if_pos a, o1]
          exact this 0 (by unfold gr1; rw [if_neg (by omega)]; exact Int32.add_zero _)
        · rw [if_neg a]
          by_cases b : 99 ≤ v (15 + j)
          · rw [if_pos b, o1]
            exact this 0 (by unfold gr1; rw [if_neg (by omega)]; exact Int32.add_zero _)
          · rw [if_neg b, o1]
            exact this 1 (by unfold gr1; rw [if_pos (by omega)]; exact nI_1 _)) NF (I, A, 0) (NFb (by omega)) ⟨rfl, rfl, by rw [grS_0]; exact hw, fun _ _ => rfl, fun _ _ => rfl⟩
  obtain ⟨⟨J, A1, x⟩, g1, rfl, g2, g3, g4⟩ := hr
  refine ⟨A1, ?_, g2, g3, g4⟩
  have g1 : m_grows_L2 NF J A 0 = _ := g1
  simp only [m_grows, g1, o3]
theorem kgr {kd : Nat} (h1 : 1 ≤ kd) (h5 : kd ≤ 5) : k_grows kd = some (if 4 ≤ kd then 1 else 0) := by
  rcases (show kd = 1 ∨ kd = 2 ∨ kd = 3 ∨ kd = 4 ∨ kd = 5 by omega) with rfl | rfl | rfl | rfl | rfl <;> rfl
theorem pass_p (hc : CV v I A n ks) (h : OKv v) (hR : R 1 = some pl) : ∃ A1, p_pass I A R pl n ks = some (upd I 11 (I 11 + 1), A1) ∧ CV (setv (grw v) 8 (v 8 + 1)) (upd I 11 (I 11 + 1)) A1 n ks ∧ ∀ j, j ≠ 2 → A1 j = A j := by
  have h6 := v_n h
  have hn := hc.1.1
  have hr := lp_rel (fun k (s : (Nat → Nat → Int32) × Int32) => p_pass_L2 I R pl n ks k s.1 s.2) (fun j s => s.2 = nI j ∧ (∀ p, p < 5 → s.1 2 p = nI (grS v j (15 + p))) ∧ ∀ j, j ≠ 2 → s.1 j = A j) (v 6) (fun r => (∀ p, p < 5 → r.1 2 p = nI (grw v (15 + p))) ∧ ∀ j, j ≠ 2 → r.1 j = A j)
    (fun k s hs => by
      obtain ⟨B, x⟩ := s
      obtain ⟨rfl, h1, h2⟩ := hs
      have e6 : p_many I B R pl n ks = some (nI (v 6)) := many_p (A := A) hc hR
      refine ⟨(B, nI (v 6)), ?_, h1, h2⟩
      simp only [p_pass_L2, e6, o1]
      rw [if_pos (nI_le (Nat.le_refl _) (by omega))])
    (fun k j s hj hs => by
      obtain ⟨B, x⟩ := s
      obtain ⟨rfl, h1, h2⟩ := hs
      have e6 : p_many I B R pl n ks = some (nI (v 6)) := many_p (A := A) hc hR
      have eg : pgO n (nI j) = some j := pgN rfl (by omega) (by omega)
      have ek : ks j = v (10 + j) := hc.1.2.1 j (by omega)
      have hk := v_k h hj
      have l2 := (v_sp h (show j < 5 by omega)).1
      have e2 : ldO (B 2) 5 (nI j) = _ := ldN rfl (show j < 5 by omega) (by decide) (h1 j (by omega))
      rw [grS_n (Nat.le_refl _)] at e2
      have st : ∀ x : Int32, stO (B 2) 5 (nI j) x = _ := fun x => stN x rfl (show j < 5 by omega) (by decide)
      have c9 : (nI (v (15 + j) + 1) < (99 : Int32)) = _ := ltL (b := 99) (by omega) (by decide)
      refine Or.inl ⟨(va_up B 2 (upd (B 2) j (nI (gr1 v j))), nI (j + 1)), ⟨rfl, ?_, ?_⟩, ?_⟩
      · intro p hp
        show upd (B 2) j _ p = _
        have h1 : ∀ p, p < 5 → B 2 p = nI (grS v j (15 + p)) := h1
        by_cases e : p = j
        · subst e
          rw [upd_s, grS_y (by omega)]
        · rw [upd_n _ _ e, h1 p hp, grS_s, setv_n _ _ (by omega)]
      · intro i hi
        show va_up B 2 _ i = A i
        rw [va_up_ne _ _ hi]
        exact h2 i hi
      · simp only [p_pass_L2, e6, o1, grdO hR, eg, ek, kgr hk.1 hk.2, e2, st, nI_1, mnI, c9]
        rw [if_neg (nI_ge hj (by omega))]
        have : ∀ x : Int32, x = nI (gr1 v j) → p_pass_L2 I R pl n ks k (va_up B 2 (upd (B 2) j x)) (nI (j + 1)) = p_pass_L2 I R pl n ks k (va_up B 2 (upd (B 2) j (nI (gr1 v j)))) (nI (j + 1)) := fun x hx => by rw [hx]
        by_cases a : 4 ≤ v (10 + j)
        · simp only [if_pos a, n10, if_false, o1]
          refine this _ ?_
          unfold gr1
          by_cases b : v (15 + j) + 1 < 99
          · rw [if_pos b, if_pos (by omega)]
          · rw [if_neg b]
            by_cases d : v (15 + j) = 99
            · rw [if_neg (by omega), d]
              rfl
            · rw [if_pos (by omega), show v (15 + j) + 1 = 99 by omega]
              rfl
        · simp only [if_neg a, n00, if_true, o1]
          refine this _ ?_
          unfold gr1
          rw [if_neg (by omega)]) NF (A, 0) (NFb (by omega)) ⟨rfl, fun p hp => by rw [grS_0]; exact (hc.2.2.1 p hp).1, fun _ _ => rfl⟩
  obtain ⟨⟨A1, x⟩, g1, g2, g3⟩ := hr
  have g1 : p_pass_L2 I R pl n ks NF A 0 = _ := g1
  have g3 : ∀ j, j ≠ 2 → A1 j = A j := g3
  refine ⟨A1, by simp only [p_pass, g1, o2], ?_, g3⟩
  obtain ⟨⟨a1, a2, a3, a4, a5⟩, b, c, d⟩ := hc
  have ge : ∀ i, (i < 15 ∨ 20 ≤ i) → i ≠ 8 → setv (grw v) 8 (v 8 + 1) i = v i := fun i hi h8 => by rw [setv_n _ _ h8]; exact grS_o h6 hi
  refine ⟨⟨?_, ?_, ?_, ?_, ?_⟩, ?_, ?_, ?_⟩
  · rw [ge 6 (by decide) (by decide)]; exact a1
  · intro p hp
    rw [ge _ (by omega) (by omega)]; exact a2 p hp
  · rw [ge 7 (by decide) (by decide)]; exact a3
  · rw [km_of (v := v) (fun i hi => ge i (by omega) (by omega))]; exact a4
  · rw [setv_s, ← nI_1, ← a5]; rfl
  · intro k hk
    rw [g3 0 (by decide), ge k (by omega) (by omega)]; exact b k hk
  · intro p hp
    rw [setv_n _ _ (by omega), g3 3 (by decide), ge _ (by omega) (by omega)]
    exact ⟨g2 p hp, (c p hp).2⟩
  · intro m hm
    rw [g3 5 (by decide), g3 6 (by decide), g3 7 (by decide), g3 8 (by decide), g3 9 (by decide), ge _ (by omega) (by omega), ge _ (by omega) (by omega), ge _ (by omega) (by omega), ge _ (by omega) (by omega), ge _ (by omega) (by omega)]
    exact d m hm
/-- the day matters nowhere here -/
theorem pnd_8 (d m : Nat) : pnd (setv v 8 d) m = pnd v m := by
  have e : ∀ i, i ≠ 8 → setv v 8 d i = v i := fun i hi => setv_n _ _ hi
  unfold pnd
  rw [e (65 + m) (by omega), e (25 + m) (by omega), e (41 + m) (by omega), e (57 + m) (by omega), e (33 + m) (by omega), e (10 + v (25 + m)) (by omega), e (20 + v (33 + m)) (by omega)]
theorem load_8 (d p : Nat) : load (setv v 8 d) p = load v p := by
  show sumN (ldf (setv v 8 d) p) (v 7) = sumN (ldf v p) (v 7)
  refine sumN_congr _ (fun i _ => ?_)
  unfold ldf
  rw [pnd_8, setv_n _ _ (by omega)]
theorem crs_8 (d p : Nat) : crs (setv v 8 d) p = crs v p := by
  unfold crs
  rw [load_8, setv_n _ _ (by omega)]
theorem tgt_8 (d p : Nat) (up : Bool) : tgt (setv v 8 d) p up = tgt v p up := by
  unfold tgt
  rw [setv_n _ _ (by omega)]
theorem gr1_8 (d p : Nat) : gr1 (setv v 8 d) p = gr1 v p := by
  have e1 : setv v 8 d (10 + p) = v (10 + p) := setv_n _ _ (by omega)
  have e2 : setv v 8 d (15 + p) = v (15 + p) := setv_n _ _ (by omega)
  simp only [gr1, e1, e2]
theorem grw_8 (d : Nat) : grw (setv v 8 d) = setv (grw v) 8 d := by
  funext i
  show grS (setv v 8 d) (v 6) i = _
  simp only [grw, grS, gr1_8]
  simp only [setv]
  by_cases e : i = 8
  · rw [if_pos e, if_neg (by omega), if_pos e]
  · rw [if_neg e]
    by_cases c : 15 ≤ i ∧ i < 15 + v 6
    · rw [if_pos c, if_neg e]
      exact (if_pos c).symm
    · rw [if_neg c, if_neg e]
      exact (if_neg c).symm
theorem setv_2 (k x y : Nat) : setv (setv v k x) k y = setv v k y := by
  funext i
  simp only [setv]
  by_cases e : i = k
  · rw [if_pos e, if_pos e]
  · rw [if_neg e, if_neg e, if_neg e]
theorem OK_8 (h : OKv v) {d : Nat} (hd : d ≤ 2000) : OKv (setv v 8 d) :=
  OK_of h (fun i _ h8 => setv_n _ _ h8) (by rw [setv_s]; exact hd) (fun p hp => by rw [setv_n _ _ (by omega), setv_n _ _ (by omega)]; exact v_sp h hp) (fun p hp => by rw [setv_n _ _ (by omega)]; exact (h.2.2.2.1 p hp).2.2)
end VIEW6
