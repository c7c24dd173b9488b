/-! PLAIN LAW 7: crushed, year, frees -/
set_option maxRecDepth 100000
/-- what is not scratch in the component, and in the model -/
def KC (I I1 : Nat → Int32) (A A1 : Nat → Nat → Int32) (R R1 : Nat → Option Nat) : Prop := ∀ i, i < 300 → (i < 111 ∨ 117 ≤ i) → I1 i = I i ∧ A1 i = A i ∧ R1 i = R i
def KM (I I1 : Nat → Int32) (A A1 : Nat → Nat → Int32) : Prop := (∀ i, I1 i = I i) ∧ (∀ k, A1 0 k = A 0 k) ∧ ∀ i, i ≠ 0 → (i < 15 ∨ i = 22) → A1 i = A i
theorem KC.rfl' {I : Nat → Int32} {A : Nat → Nat → Int32} {R : Nat → Option Nat} : KC I I A A R R := fun _ _ _ => ⟨rfl, rfl, rfl⟩
theorem KM.rfl' {I : Nat → Int32} {A : Nat → Nat → Int32} : KM I I A A := ⟨fun _ => rfl, fun _ => rfl, fun _ _ _ => rfl⟩
theorem KC.tr {I I1 I2 : Nat → Int32} {A A1 A2 : Nat → Nat → Int32} {R R1 R2 : Nat → Option Nat} (h : KC I I1 A A1 R R1) (g : KC I1 I2 A1 A2 R1 R2) : KC I I2 A A2 R R2 := fun i h1 h2 => ⟨(g i h1 h2).1.trans (h i h1 h2).1, (g i h1 h2).2.1.trans (h i h1 h2).2.1, (g i h1 h2).2.2.trans (h i h1 h2).2.2⟩
theorem mg_lo {α : Type} (f g : Nat → α) {k i : Nat} (h : i < k) : mg k f g i = f i := if_neg (by omega)
theorem mg_hi {α : Type} (f g : Nat → α) {k i : Nat} (h : i < 100) : sh k (mg k f g) i = g i := by
  show mg k f g (k + i) = g i
  unfold mg
  rw [if_pos (by omega), Nat.add_sub_cancel_left]
theorem KC_tri (I J : Nat → Int32) (A B : Nat → Nat → Int32) (R S : Nat → Option Nat) : KC I (tri I J) A (tri A B) R (tri R S) := fun i h1 _ => ⟨tri_lo _ _ h1, tri_lo _ _ h1, tri_lo _ _ h1⟩
theorem KC_mg (I J : Nat → Int32) (A B : Nat → Nat → Int32) (R : Nat → Option Nat) : KC I (mg 300 I J) A (mg 300 A B) R R := fun i h1 _ => ⟨mg_lo _ _ h1, mg_lo _ _ h1, rfl⟩
section VIEW7
variable {v w : Nat → Nat} {I I' : Nat → Int32} {A A' : Nat → Nat → Int32} {R : Nat → Option Nat} {G : Nat → Nat → Option Nat} {pl n : Nat} {ks : Nat → Nat}
theorem CV_mg (h : CV v I A n ks) (I0 : Nat → Int32) (A0 : Nat → Nat → Int32) : CV v (sh 300 (mg 300 I0 I)) (sh 300 (mg 300 A0 A)) n ks :=
  CV_congr ⟨mg_hi _ _ (by decide), mg_hi _ _ (by decide), mg_hi _ _ (by decide)⟩ ⟨fun k hk => by rw [mg_hi _ _ (by decide)], fun p hp => by rw [mg_hi _ _ (by decide), mg_hi _ _ (by decide)]; exact ⟨rfl, rfl⟩, fun m hm => by rw [mg_hi _ _ (by decide), mg_hi _ _ (by decide), mg_hi _ _ (by decide), mg_hi _ _ (by decide), mg_hi _ _ (by decide)]; exact ⟨rfl, rfl, rfl, rfl, rfl⟩⟩ h
/-- laid and put back -/
theorem lays_m (hw : MW v (A 0)) : ∃ f, m_lays I A = some (I, va_up A 21 f) ∧ ∀ k, k < 10 → f k = A 0 (15 + k) := by
  have hr := lp_rel (fun k (s : (Nat → Int32) × (Nat → Nat → Int32) × Int32) => m_lays_L2 k s.1 s.2.1 s.2.2) (fun j s => s.1 = I ∧ s.2.2 = nI j ∧ ∃ f, s.2.1 = va_up A 21 f ∧ ∀ k, k < j → f k = A 0 (15 + k)) 10 (fun r => r.1 = I ∧ ∃ f, r.2.1 = va_up A 21 f ∧ ∀ k, k < 10 → f k = A 0 (15 + k))
    (fun k s hs => by
      obtain ⟨J, B, x⟩ := s
      obtain ⟨rfl, rfl, f, rfl, h1⟩ := hs
      exact ⟨(J, va_up A 21 f, nI 10), rfl, rfl, f, rfl, h1⟩)
    (fun k j s hj hs => by
      obtain ⟨J, B, x⟩ := s
      obtain ⟨rfl, rfl, f, rfl, h1⟩ := hs
      have e15 : ldO (A 0) 2044 (15 + nI j) = some (A 0 (15 + j)) := ldN (nI_add 15 j) (by omega) (by decide) rfl
      have st : ∀ x : Int32, stO f 10 (nI j) x = _ := fun x => stN x rfl hj (by decide)
      refine Or.inl ⟨(J, va_up A 21 (upd f j (A 0 (15 + j))), nI (j + 1)), ⟨rfl, rfl, _, rfl, ?_⟩, ?_⟩
      · intro k hk
        by_cases e : k = j
        · rw [e, upd_s]
        · rw [upd_n _ _ e]
          exact h1 k (by omega)
      · show m_lays_L2 (k + 1) J (va_up A 21 f) (nI j) = _
        simp only [m_lays_L2]
        rw [if_neg (show ¬ (10 : Int32) ≤ nI j from nI_ge (b := 10) hj (by decide)), show va_up A 21 f 0 = A 0 from rfl, e15, o1, va_up_self, st, o1, nI_1, va_up_up]) NF (I, A, 0) (NFb (by omega)) ⟨rfl, rfl, A 21, (va_up_id A 21).symm, fun k hk => absurd hk (by omega)⟩
  obtain ⟨⟨J, B, x⟩, g1, rfl, f, g2, g3⟩ := hr
  have g1 : m_lays_L2 NF J A 0 = _ := g1
  have g2 : B = va_up A 21 f := g2
  refine ⟨f, ?_, g3⟩
  simp only [m_lays, g1, o3, g2]
theorem puts_m (B : Nat → Nat → Int32) (hb : ∀ k, k < 10 → B 21 k = A 0 (15 + k)) (ho : ∀ i, (i < 15 ∨ 25 ≤ i) → B 0 i = A 0 i) : ∃ f, m_putsBack I B = some (I, va_up B 0 f) ∧ ∀ k, f k = A 0 k := by
  have hr := lp_rel (fun k (s : (Nat → Int32) × (Nat → Nat → Int32) × Int32) => m_putsBack_L2 k s.1 s.2.1 s.2.2) (fun j s => s.1 = I ∧ s.2.2 = nI j ∧ ∃ f, s.2.1 = va_up B 0 f ∧ ∀ k, (k < 15 + j ∨ 25 ≤ k) → f k = A 0 k) 10 (fun r => r.1 = I ∧ ∃ f, r.2.1 = va_up B 0 f ∧ ∀ k, f k = A 0 k)
    (fun k s hs => by
      obtain ⟨J, C, x⟩ := s
      obtain ⟨rfl, rfl, f, rfl, h1⟩ := hs
      exact ⟨(J, va_up B 0 f, nI 10), rfl, rfl, f, rfl, fun k => h1 k (by omega)⟩)
    (fun k j s hj hs => by
      obtain ⟨J, C, x⟩ := s
      obtain ⟨rfl, rfl, f, rfl, h1⟩ := hs
      have e21 : ldO (B 21) 10 (nI j) = some (A 0 (15 + j)) := ldN rfl hj (by decide) (hb j hj)
      have st : ∀ x : Int32, stO f 2044 (15 + nI j) x = _ := fun x => stN x (nI_add 15 j) (by omega) (by decide)
      refine Or.inl ⟨(J, va_up B 0 (upd f (15 + j) (A 0 (15 + j))), nI (j + 1)), ⟨rfl, rfl, _, rfl, ?_⟩, ?_⟩
      · intro k hk
        by_cases e : k = 15 + j
        · rw [e, upd_s]
        · rw [upd_n _ _ e]
          exact h1 k (by omega)
      · show m_putsBack_L2 (k + 1) J (va_up B 0 f) (nI j) = _
        simp only [m_putsBack_L2]
        rw [if_neg (show ¬ (10 : Int32) ≤ nI j from nI_ge (b := 10) hj (by decide)), show va_up B 0 f 21 = B 21 from rfl, e21, o1, va_up_self, st, o1, nI_1, va_up_up]) NF (I, B, 0) (NFb (by omega)) ⟨rfl, rfl, B 0, (va_up_id B 0).symm, fun k hk => ho k (by omega)⟩
  obtain ⟨⟨J, C, x⟩, g1, rfl, f, g2, g3⟩ := hr
  have g1 : m_putsBack_L2 NF J B 0 = _ := g1
  have g2 : C = va_up B 0 f := g2
  refine ⟨f, ?_, g3⟩
  simp only [m_putsBack, g1, o3, g2]
/-- grown for some days -/
def gk (v : Nat → Nat) : Nat → Nat → Nat
  | 0 => v
  | k + 1 => grw (gk v k)
theorem gk_OK (h : OKv v) : ∀ k, OKv (gk v k) := by
  intro k
  induction k with
  | zero => exact h
  | succ k ih => exact OK_grw ih
theorem gk_6 (h : OKv v) : ∀ k, gk v k 6 = v 6 := by
  intro k
  induction k with
  | zero => rfl
  | succ k ih =>
    rw [← ih]
    exact grS_o (v := gk v k) (j := gk v k 6) (i := 6) (by rw [ih]; exact v_n h) (by omega)
/-- the first day of some on which nobody is crushed -/
def fst0 (v : Nat → Nat) : Nat → Option Nat
  | 0 => none
  | k + 1 => match fst0 v k with | some j => some j | none => if msk (crs (gk v (k + 1))) (v 6) = 0 then some k else none
theorem nOf {a : Nat} (h : a < 2 ^ 20) : ¬ nI a = (-1000000 : Int32) := by
  intro e
  have := congrArg Int32.toInt e
  rw [nI_toInt (by omega), show (-1000000 : Int32).toInt = -1000000 from rfl] at this
  omega
theorem z0 {a : Nat} (h : a < 2 ^ 31) : (nI a = (0 : Int32)) = (a = 0) := eqL 0 h (by decide)
theorem fst_s (k : Nat) : fst0 v (k + 1) = match fst0 v k with | some j => some j | none => if msk (crs (gk v (k + 1))) (v 6) = 0 then some k else none := rfl
theorem fst_no {k : Nat} (h : fst0 v k = none) : ∀ j, j ≤ k → fst0 v j = none := by
  induction k with
  | zero => intro j hj; obtain rfl : j = 0 := by omega
            rfl
  | succ k ih =>
    intro j hj
    rw [fst_s] at h
    cases e : fst0 v k with
    | some q => rw [e] at h; cases h
    | none =>
      by_cases c : j = k + 1
      · subst c
        rw [fst_s]; exact h
      · exact ih e j (by omega)
theorem fst_up {k j : Nat} (h : fst0 v k = some j) : ∀ d, fst0 v (k + d) = some j := by
  intro d
  induction d with
  | zero => exact h
  | succ d ih =>
    rw [← Nat.add_assoc, fst_s, ih]
theorem fst_lt : ∀ {j q : Nat}, fst0 v j = some q → q < j := by
  intro j
  induction j with
  | zero => intro q e; cases e
  | succ j ih =>
    intro q e
    rw [fst_s] at e
    cases e2 : fst0 v j with
    | some q2 =>
      rw [e2] at e
      cases e
      have := ih e2
      omega
    | none =>
      rw [e2] at e
      have e : (if msk (crs (gk v (j + 1))) (v 6) = 0 then some j else none) = some q := e
      split at e
      · cases e; omega
      · cases e
theorem eq_crushed (hw : MW v (A 0)) (h : OKv v) (h8 : v 8 ≤ 999) (hc : CV v (sh 200 I') (sh 200 A') n ks) (hR : R 201 = some pl) (a : Int32) : ∃ r I1' A1' R1 I1 A1, x_crushed I' A' R G pl n ks a = some (r, I1', A1', R1) ∧ m_crushed I A a = some (r, I1, A1) ∧ KC I' I1' A' A1' R R1 ∧ KM I I1 A A1 := by
  have h6 := v_n h
  have e1 := none_m (I := I) hw h
  have e2 := parish_x (G := G) hc hR h
  by_cases c : v 6 = 0
  · rw [if_pos c] at e1 e2
    exact ⟨_, _, _, _, _, _, by simp only [x_crushed, e2, o1, n00, if_true] <;> rfl, by simp only [m_crushed, e1, o1, n10, if_false] <;> rfl, KC.rfl', KM.rfl'⟩
  · rw [if_neg c] at e1 e2
    rcases in_ab a (L := 1) (H := 60) 1 60 rfl rfl (by decide) with h1 | ⟨b, hb1, hb, rfl, h1⟩
    · exact ⟨_, _, _, _, _, _, by simp only [x_crushed, e2, o1, n10, if_false, h1, n00, if_true] <;> rfl, by simp only [m_crushed, e1, o1, n00, if_true, m_in_x, h1] <;> rfl, KC.rfl', KM.rfl'⟩
    · obtain ⟨f, l1, l2⟩ := lays_m (I := I) hw
      have hx := lp_rel (fun k (s : (Nat → Int32) × (Nat → Nat → Int32) × Int32) => x_crushed_L39 (tri R (va_up (sh 300 R) 1 (R 201))) G pl n ks (nI b) k s.1 s.2.1 s.2.2)
        (fun j s => s.2.2 = nI j ∧ fst0 v j = none ∧ CV (setv (gk v j) 8 (v 8 + j)) (sh 300 s.1) (sh 300 s.2.1) n ks ∧ KC I' s.1 A' s.2.1 R (tri R (va_up (sh 300 R) 1 (R 201)))) b
        (fun r => match r with | .inl q => fst0 v b = none ∧ KC I' q.1 A' q.2.1 R (tri R (va_up (sh 300 R) 1 (R 201))) | .inr q => (∃ j, fst0 v b = some j ∧ q.1 = nI j) ∧ KC I' q.2.1 A' q.2.2.1 R q.2.2.2)
        (fun k s hs => by
          obtain ⟨J, B, x⟩ := s
          obtain ⟨rfl, g1, g2, g3⟩ := hs
          refine ⟨.inl (J, B, nI b), ?_, g1, g3⟩
          simp only [x_crushed_L39]
          rw [if_pos (Int32.le_refl _)])
        (fun k j s hj hs => by
          obtain ⟨J, B, x⟩ := s
          obtain ⟨rfl, g1, g2, g3⟩ := hs
          have ok : OKv (setv (gk v j) 8 (v 8 + j)) := OK_8 (gk_OK h j) (by omega)
          obtain ⟨B1, p1, p2, p3⟩ := pass_p (I := sh 300 J) (A := sh 300 B) (R := sh 300 (tri R (va_up (sh 300 R) 1 (R 201)))) (pl := pl) g2 ok (tri_R hR)
          have p4 := CV_mg p2 J B
          rw [grw_8, setv_2, setv_s] at p4
          have p4 : CV (setv (gk v (j + 1)) 8 (v 8 + (j + 1))) _ _ n ks := p4
          have ok2 : OKv (setv (gk v (j + 1)) 8 (v 8 + (j + 1))) := OK_8 (gk_OK h (j + 1)) (by omega)
          have p5 := crushed_p (R := sh 300 (tri R (va_up (sh 300 R) 1 (R 201)))) (pl := pl) p4 ok2 (tri_R hR)
          have q6 : setv (gk v (j + 1)) 8 (v 8 + (j + 1)) 6 = v 6 := gk_6 h (j + 1)
          rw [q6, msk_congr (d := crs (gk v (j + 1))) (v 6) (fun p _ => crs_8 _ p)] at p5
          have ml := msk_lt (crs (gk v (j + 1))) (v 6)
          have hl2 : 2 ^ v 6 ≤ 2 ^ 5 := Nat.pow_le_pow_right (by decide) h6
          have kk := g3.tr (KC_mg J (upd (sh 300 J) 11 (sh 300 J 11 + 1)) B B1 (tri R (va_up (sh 300 R) 1 (R 201))))
          have ge : ¬ nI b ≤ nI j := nI_ge hj (by omega)
          by_cases z : msk (crs (gk v (j + 1))) (v 6) = 0
          · refine Or.inr ⟨.inr (nI j, _, _, _), ?_, ⟨j, ?_, rfl⟩, kk⟩
            · simp only [x_crushed_L39, p1, o2, p5, o1, z0 (show msk (crs (gk v (j + 1))) (v 6) < 2 ^ 31 by omega)]
              rw [if_neg ge, if_pos z]
              rfl
            · have : fst0 v (j + 1) = some j := by rw [fst_s, g1]; exact if_pos z
              have := fst_up this (b - (j + 1))
              rw [show j + 1 + (b - (j + 1)) = b by omega] at this
              exact this
          · refine Or.inl ⟨(_, _, nI (j + 1)), ⟨rfl, ?_, p4, kk⟩, ?_⟩
            · rw [fst_s, g1]; exact if_neg z
            · simp only [x_crushed_L39, p1, o2, p5, o1, z0 (show msk (crs (gk v (j + 1))) (v 6) < 2 ^ 31 by omega)]
              rw [if_neg ge, if_neg z, nI_1]
              rfl) NF (_, _, 0) (NFb (by omega)) ⟨rfl, rfl, by
                have := tri_cv (I := I') (A := A') hc
                rw [show setv (gk v 0) 8 (v 8 + 0) = v from by funext i; unfold setv; split <;> simp_all [gk]]
                exact this, KC_tri _ _ _ _ _ _⟩
      have hm := lp_rel (fun k (s : (Nat → Int32) × (Nat → Nat → Int32) × Int32 × Int32) => m_crushed_L34 (nI b) k s.1 s.2.1 s.2.2.1 s.2.2.2)
        (fun j s => s.1 = I ∧ s.2.2.2 = nI j ∧ s.2.2.1 = wI (fst0 v j) ∧ (fst0 v j = none → MW (gk v j) (s.2.1 0)) ∧ (∀ i, i ≠ 0 → s.2.1 i = va_up A 21 f i) ∧ ∀ i, (i < 15 ∨ 20 ≤ i) → s.2.1 0 i = A 0 i) b
        (fun r => r.1 = I ∧ r.2.2.1 = wI (fst0 v b) ∧ (∀ i, i ≠ 0 → r.2.1 i = va_up A 21 f i) ∧ ∀ i, (i < 15 ∨ 20 ≤ i) → r.2.1 0 i = A 0 i)
        (fun k s hs => by
          obtain ⟨J, B, x, y⟩ := s
          obtain ⟨rfl, rfl, rfl, -, g3, g4⟩ := hs
          refine ⟨(J, B, _, nI b), ?_, rfl, rfl, g3, g4⟩
          simp only [m_crushed_L34]
          rw [if_pos (Int32.le_refl _)])
        (fun k j s hj hs => by
          obtain ⟨J, B, x, y⟩ := s
          obtain ⟨rfl, rfl, rfl, g2, g3, g4⟩ := hs
          have ge : ¬ nI b ≤ nI j := nI_ge hj (by omega)
          cases e : fst0 v j with
          | some q =>
            refine Or.inr ⟨(J, B, wI (fst0 v j), nI j), ?_, rfl, ?_, g3, g4⟩
            · have lt := fst_lt e
              rw [e]
              show m_crushed_L34 (nI b) (k + 1) J B (nI q) (nI j) = some (J, B, nI q, nI j)
              simp only [m_crushed_L34]
              rw [if_neg ge, if_neg (nOf (show q < 2 ^ 20 by omega))]
            · have := fst_up e (b - j)
              rw [show j + (b - j) = b by omega] at this
              rw [this, e]
          | none =>
            obtain ⟨B1, q1, q2, q3, q4⟩ := grows_m (I := J) (g2 e) (gk_OK h j)
            have q5 := crushedNow_m (I := J) (A := B1) (v := gk v (j + 1)) q2 (gk_OK h (j + 1))
            rw [gk_6 h] at q5
            have ml := msk_lt (crs (gk v (j + 1))) (v 6)
            have hl2 : 2 ^ v 6 ≤ 2 ^ 5 := Nat.pow_le_pow_right (by decide) h6
            refine Or.inl ⟨(J, B1, wI (fst0 v (j + 1)), nI (j + 1)), ⟨rfl, rfl, rfl, fun _ => q2, fun i hi => (q3 i hi).trans (g3 i hi), fun i hi => (q4 i hi).trans (g4 i hi)⟩, ?_⟩
            show m_crushed_L34 (nI b) (k + 1) J B (wI none) (nI j) = _
            simp only [m_crushed_L34, q1, o2, q5, o1, ife, z0 (show msk (crs (gk v (j + 1))) (v 6) < 2 ^ 31 by omega)]
            rw [if_neg ge, if_pos (show wI none = -1000000 from rfl), nI_1]
            have : (if msk (crs (gk v (j + 1))) (v 6) = 0 then nI j else wI none) = wI (fst0 v (j + 1)) := by
              rw [fst_s, e]
              show _ = wI (if msk (crs (gk v (j + 1))) (v 6) = 0 then some j else none)
              by_cases z : msk (crs (gk v (j + 1))) (v 6) = 0
              · rw [if_pos z, if_pos z]; rfl
              · rw [if_neg z, if_neg z]
            rw [this]) NF (I, va_up A 21 f, -1000000, 0) (NFb (by omega)) ⟨rfl, rfl, rfl, fun _ => hw, fun _ _ => rfl, fun _ _ => rfl⟩
      obtain ⟨⟨J, B, x, y⟩, m1, rfl, m2, m3, m4⟩ := hm
      have m1 : m_crushed_L34 (nI b) NF J (va_up A 21 f) (-1000000) 0 = _ := m1
      have m2 : x = wI (fst0 v b) := m2
      obtain ⟨g, p1, p2⟩ := puts_m (I := J) (A := A) B (fun k hk => by rw [show B 21 = va_up A 21 f 21 from m3 21 (by decide), va_up_self]; exact l2 k hk) (fun i hi => m4 i (by omega))
      have hmm : m_crushed J A (nI b) = some (wI (fst0 v b), J, va_up B 0 g) := by
        simp only [m_crushed, e1, o1, n00, if_true, m_in_x, h1, n10, if_false, l1, o2, m1, o4, p1, m2]
      have km : KM J J A (va_up B 0 g) := ⟨fun _ => rfl, p2, fun i hi h15 => by
        rw [va_up_ne _ _ hi]
        exact (m3 i hi).trans (va_up_ne _ _ (by omega))⟩
      obtain ⟨r, x1, x2⟩ := hx
      have x1 : x_crushed_L39 (tri R (va_up (sh 300 R) 1 (R 201))) G pl n ks (nI b) NF (tri I' (becI (sh 300 I') (sh 200 I'))) (tri A' (becA (sh 300 A') (sh 200 A'))) 0 = some r := x1
      have xx : x_crushed I' A' R G pl n ks (nI b) = obS (some r) fun ⟨I8, A9, v10⟩ => some ((-1000000), I8, A9, tri R (va_up (sh 300 R) 1 (R 201))) := by
        rw [← x1]
        simp only [x_crushed, e2, o1, n10, if_false, h1, bec_tri]
        rfl
      cases r with
      | inl q =>
        obtain ⟨x3, x4⟩ := x2
        rw [x3] at hmm
        exact ⟨_, _, _, _, _, _, xx, hmm, x4, km⟩
      | inr q =>
        obtain ⟨⟨j, x3, x5⟩, x4⟩ := x2
        obtain ⟨q1, q2, q3, q4⟩ := q
        have x5 : q1 = nI j := x5
        subst x5
        rw [x3] at hmm
        exact ⟨_, _, _, _, _, _, xx, hmm, x4, km⟩
end VIEW7
