/-! PLAIN LAW 17: keeps, joined -/
set_option maxRecDepth 100000
theorem popc_a : ∀ k, k < 8 → ∀ x, x < 2 ^ k → popc (x + 2 ^ k) = popc x + 1 := by decide +kernel
theorem popc_m (c : Nat → Bool) : ∀ k, k ≤ 8 → popc (msk c k) = sumN (fun p => if c p then 1 else 0) k := by
  intro k
  induction k with
  | zero => intro _; show popc 0 = 0; decide
  | succ k ih =>
    intro hk
    rw [msk_s, sumN, ← ih (by omega)]
    cases c k
    · rfl
    · exact popc_a k (by omega) _ (msk_lt c k)
theorem in_m1 (a : Int32) : x_isIn a.toInt64 (-1) 7 = some 0 ∨ (a = -1 ∧ x_isIn a.toInt64 (-1) 7 = some 1) ∨ ∃ k, k ≤ 7 ∧ a = nI k ∧ x_isIn a.toInt64 (-1) 7 = some 1 := by
  rw [in_i, i64]
  show (some (if (-1 : Int) ≤ a.toInt ∧ a.toInt ≤ 7 then (1 : Int32) else 0) = _) ∨ _
  by_cases c : (-1 : Int) ≤ a.toInt ∧ a.toInt ≤ 7
  · by_cases z : a.toInt = -1
    · refine Or.inr (Or.inl ⟨Int32.toInt_inj.mp (z.trans rfl), ?_⟩)
      show some (if (-1 : Int) ≤ a.toInt ∧ a.toInt ≤ 7 then (1 : Int32) else 0) = some 1
      rw [if_pos c]
    · refine Or.inr (Or.inr ⟨a.toInt.toNat, by omega, Int32.toInt_inj.mp ?_, ?_⟩)
      · rw [nI_toInt (by omega)]
        omega
      · show some (if (-1 : Int) ≤ a.toInt ∧ a.toInt ≤ 7 then (1 : Int32) else 0) = some 1
        rw [if_pos c]
  · exact Or.inl (by rw [if_neg c])
section VIEW17
variable {v w u : Nat → Nat} {I I' : Nat → Int32} {A A' : Nat → Nat → Int32} {R : Nat → Option Nat} {G : Nat → Nat → Option Nat} {pl n : Nat} {ks : Nat → Nat}
def opn (v : Nat → Nat) (p m : Nat) : Bool := decide (v (25 + m) = p) && decide (v (65 + m) = 0)
theorem open_x (hc : CV v (sh 200 I') (sh 200 A') n ks) (h : OKv v) {p : Nat} (hp : p < 5) : x_openOf I' A' R G pl n ks (nI p) = some (nI (msk (opn v p) (v 7))) := by
  have h7 := v_m h; have h6 := v_n h
  have z4 : I' 204 = nI (v 7) := hc.1.2.2.1
  have z10 : I' 210 = nI (kmask v) := hc.1.2.2.2.1
  have hr := lp_run (fun k (s : Int32 × Int32) => x_openOf_L4 I' A' R G pl n ks (nI p) k s.1 s.2) (fun i => (nI (msk (opn v p) i), nI i)) (v 7) (some (nI (msk (opn v p) (v 7)), nI (v 7)))
    (fun k => by
      simp only [x_openOf_L4, z4]
      rw [if_pos (nI_le (Nat.le_refl _) (by omega))])
    (fun k i hi => by
      have e5 : ldO (A' 205) 8 (nI i) = _ := ldN rfl (show i < 8 by omega) (by decide) (hc.2.2.2 i (by omega)).1
      obtain ⟨q1, -⟩ := v_pr h hi
      have c1 : (nI (v (25 + i)) = nI p) = _ := eqL p (by omega) (by omega)
      have hk := v_kp h (show i < 8 by omega)
      have hh : x_has (nI (kmask v)) (nI i) = some (nI (v (65 + i))) := by rw [has_x _ (kmask_lt h) i (by omega), kmask_b h (by omega)]
      have c0 : (nI (v (65 + i)) = (0 : Int32)) = _ := z0 (a := v (65 + i)) (by omega)
      simp only [x_openOf_L4, z4, z10, e5, o1, c1, hh, c0]
      rw [if_neg (nI_ge hi (by omega)), nI_1, ← or_msk (opn v p) (show i < 8 by omega)]
      unfold opn
      by_cases a : v (25 + i) = p
      · by_cases b : v (65 + i) = 0
        · simp only [a, b, if_true, decide_true, Bool.and_self, o1]
        · simp only [a, b, if_true, if_false, decide_true, decide_false, Bool.and_false, Bool.false_eq_true, o1]
      · simp only [a, if_false, decide_false, Bool.false_and, Bool.false_eq_true, o1]) NF (NFb (by omega))
  have hr : x_openOf_L4 I' A' R G pl n ks (nI p) NF 0 0 = _ := hr
  simp only [x_openOf, hr, o2]
theorem open_m (hw : MW v (A 0)) (h : OKv v) {p : Nat} (hp : p < 5) (z : Int32) : m_keeps_L33 I A (nI p) z NF 0 0 0 = some (nI (msk (opn v p) (v 7)), nI (popc (msk (opn v p) (v 7))), nI (v 7)) := by
  have h7 := v_m h; have h6 := v_n h
  have e7 : ldO (A 0) 2044 7 = _ := ldW hw 7 rfl (by decide)
  have hr := lp_run (fun k (s : Int32 × Int32 × Int32) => m_keeps_L33 I A (nI p) z k s.1 s.2.1 s.2.2) (fun i => (nI (msk (opn v p) i), nI (sumN (fun m => if opn v p m then 1 else 0) i), nI i)) (v 7) (some (nI (msk (opn v p) (v 7)), nI (sumN (fun m => if opn v p m then 1 else 0) (v 7)), nI (v 7)))
    (fun k => by
      simp only [m_keeps_L33, e7, o1]
      rw [if_pos (nI_le (Nat.le_refl _) (by omega))])
    (fun k i hi => by
      have e25 : ldO (A 0) 2044 (25 + nI i) = _ := ldW hw (25 + i) (nI_add 25 i) (by omega)
      have e65 : ldO (A 0) 2044 (65 + nI i) = _ := ldW hw (65 + i) (nI_add 65 i) (by omega)
      obtain ⟨q1, -⟩ := v_pr h hi
      have c1 : (nI (v (25 + i)) = nI p) = _ := eqL p (by omega) (by omega)
      have hk := v_kp h (show i < 8 by omega)
      have c0 : (nI (v (65 + i)) = (0 : Int32)) = _ := z0 (a := v (65 + i)) (by omega)
      simp only [m_keeps_L33, e7, o1, e25, c1, e65, c0]
      rw [if_neg (nI_ge hi (by omega)), nI_1, ← or_msk (opn v p) (show i < 8 by omega), sumN, ← nI_add (sumN (fun m => if opn v p m then 1 else 0) i)]
      unfold opn
      by_cases a : v (25 + i) = p
      · by_cases b : v (65 + i) = 0
        · simp only [a, b, if_true, if_false, n10, decide_true, Bool.and_self, o1]
          rfl
        · simp only [a, b, if_true, if_false, n00, decide_true, decide_false, Bool.and_false, Bool.false_eq_true, o1]
          rfl
      · simp only [a, if_true, if_false, n00, decide_false, Bool.false_and, Bool.false_eq_true, o1]
        rfl) NF (NFb (by omega))
  rw [popc_m (opn v p) (v 7) h7]
  exact hr
theorem find_m (hw : MW v (A 0)) (h : OKv v) (h8 : v 8 ≤ 999) {p : Nat} (hp : p < 5) : ∃ A1, m_findOrder I A (nI p) (nI (msk (opn v p) (v 7))) (nI (popc (msk (opn v p) (v 7)))) = some (mI (srN v (popc (msk (opn v p) (v 7))) (fun _ => 0) 0 (msk (opn v p) (v 7)) (v (20 + p)) (v 8) 0 (0, fun _ => 0)).1, I, A1) ∧ (∀ i, i < popc (msk (opn v p) (v 7)) → A1 16 i = nI ((srN v (popc (msk (opn v p) (v 7))) (fun _ => 0) 0 (msk (opn v p) (v 7)) (v (20 + p)) (v 8) 0 (0, fun _ => 0)).2 i)) ∧ ∀ i, i < 15 ∨ 20 ≤ i → A1 i = A i := by
  have h7 := v_m h; have h6 := v_n h
  have p8 : 2 ^ v 7 ≤ 2 ^ 8 := Nat.pow_le_pow_right (by decide) h7
  have hl := msk_lt (opn v p) (v 7)
  have hN := popc_8 (msk (opn v p) (v 7))
  have sp := (v_sp h hp).2
  have e8 : ldO (A 0) 2044 8 = _ := ldW hw 8 rfl (by decide)
  have e20 : ldO (A 0) 2044 (20 + nI p) = _ := ldW hw (20 + p) (nI_add 20 p) (by omega)
  have s17 : ∀ x : Int32, stO (A 17) 9 0 x = some (upd (A 17) 0 x) := fun x => stN (k := 0) x rfl (by decide) (by decide)
  have s18 : ∀ x : Int32, stO (A 18) 9 0 x = some (upd (A 18) 0 x) := fun x => stN (k := 0) x rfl (by decide) (by decide)
  have s19 : ∀ x : Int32, stO (A 19) 9 0 x = some (upd (A 19) 0 x) := fun x => stN (k := 0) x rfl (by decide) (by decide)
  obtain ⟨N1, A1, g1, g2, g3, g4⟩ := node_m (I := I) h (popc (msk (opn v p) (v 7))) hN (popc (msk (opn v p) (v 7))) (fun _ => 0) 0 (msk (opn v p) (v 7)) (v (20 + p)) (v 8) 0 (0, fun _ => 0) (va_up (va_up (va_up A 17 (upd (A 17) 0 (nI (v 8)))) 18 (upd (A 18) 0 (nI (v (20 + p))))) 19 (upd (A 19) 0 0)) hl rfl (by omega) sp (by omega) (Nat.le_refl _) (fun i hi => absurd hi (by omega)) ⟨hw, fun i hi => absurd hi (by omega), rfl, rfl, rfl, by decide, fun z => absurd z (by decide)⟩
  have tt := TT_m _ hN
  have fin : ∀ f x y, m_findOrder_L47 (nI (popc (msk (opn v p) (v 7)))) (f + 1) I A1 (mI (srN v (popc (msk (opn v p) (v 7))) (fun _ => 0) 0 (msk (opn v p) (v 7)) (v (20 + p)) (v 8) 0 (0, fun _ => 0)).1) (nI 0 + (-1)) x y = some (I, A1, mI (srN v (popc (msk (opn v p) (v 7))) (fun _ => 0) 0 (msk (opn v p) (v 7)) (v (20 + p)) (v 8) 0 (0, fun _ => 0)).1, nI 0 + (-1), x, y) := fun f x y => by
    rw [m_findOrder_L47, if_pos (show nI 0 + (-1) < 0 by decide)]
  have run := g2 (999999 - N1 + 1)
  rw [fin, show 999999 - N1 + 1 + N1 = NF from by show _ = 1000000; omega] at run
  refine ⟨A1, ?_, fun i hi => g4 (srN_1 v _ _ _ _ _ _ _ _ (by omega) rfl) i hi, fun i hi => ?_⟩
  · have w1 : ∀ f, va_up A 17 f 0 = A 0 := fun f => rfl
    have w2 : ∀ f, va_up A 17 f 18 = A 18 := fun f => rfl
    have w3 : ∀ f g, va_up (va_up A 17 f) 18 g 19 = A 19 := fun f g => rfl
    rw [m_findOrder, e8, o1n, s17, o1n, w1, e20, o1n, w2, s18, o1n, w3, s19, o1n]
    have run : m_findOrder_L47 (nI (popc (msk (opn v p) (v 7)))) NF I (va_up (va_up (va_up A 17 (upd (A 17) 0 (nI (v 8)))) 18 (upd (A 18) 0 (nI (v (20 + p))))) 19 (upd (A 19) 0 0)) (-1) 0 (nI (msk (opn v p) (v 7))) 0 = _ := run
    rw [run, o6n]
  · rw [g3.2.2 i hi]
    rw [va_up_ne _ _ (by omega), va_up_ne _ _ (by omega), va_up_ne _ _ (by omega)]
theorem eq_keeps (hw : MW v (A 0)) (h : OKv v) (h8 : v 8 ≤ 999) (hc : CV v (sh 200 I') (sh 200 A') n ks) (hR : R 201 = some pl) (a b : Int32) : ∃ r I1' A1' I1 A1, x_keeps I' A' R G pl n ks a b = some (r, I1', A1') ∧ m_keeps I A a b = some (r, I1, A1) ∧ KC I' I1' A' A1' R R ∧ KM I I1 A A1 := by
  have h7 := v_m h; have h6 := v_n h
  have p8 : 2 ^ v 7 ≤ 2 ^ 8 := Nat.pow_le_pow_right (by decide) h7
  rcases person_or (I := I) (A := A) (R := R) (G := G) (pl := pl) hw h a with ⟨e1, e2⟩ | ⟨p, hp, rfl, e1, e2⟩
  · exact ⟨_, _, _, _, _, by simp only [x_keeps, e2 _ _ _ _ hc hR, o1n, n00, if_true] <;> rfl, by simp only [m_keeps, e1, o1n, n00, if_true] <;> rfl, KC.rfl', KM.rfl'⟩
  have e2 := e2 _ _ _ _ hc hR
  have p5 : p < 5 := by omega
  have run : x_isIn b.toInt64 (-1) 7 = some 1 → ∃ (I1' : Nat → Int32) (A1' A1 : Nat → Nat → Int32) (B : Nat × (Nat → Nat)), x_keeps I' A' R G pl n ks (nI p) b = ob1 (if b = (-1) then some (mI B.1) else (if nI (popc (msk (opn v p) (v 7))) ≤ b then (some (-1000000) : Option Int32) else ob1 (ldO (A1' 112) 8 b) fun (x : Int32) => (some x : Option Int32))) (fun (r : Int32) => some (r, I1', A1')) ∧ m_keeps I A (nI p) b = ob1 (if 0 ≤ b then (if nI (popc (msk (opn v p) (v 7))) ≤ b then (some (-1000000) : Option Int32) else ob1 (ldO (A1 16) 8 b) fun (x : Int32) => (some x : Option Int32)) else some (mI B.1)) (fun (r : Int32) => some (r, I, A1)) ∧ KC I' I1' A' A1' R R ∧ KM I I A A1 ∧ (∀ i, i < popc (msk (opn v p) (v 7)) → A1' 112 i = nI (B.2 i) ∧ A1 16 i = nI (B.2 i)) := by
    intro hb
    have hl := msk_lt (opn v p) (v 7)
    have hN := popc_8 (msk (opn v p) (v 7))
    have sp := (v_sp h p5).2
    have ox := open_x (R := R) (G := G) (pl := pl) hc h p5
    have om := open_m (I := I) hw h p5 b
    obtain ⟨A1, f1, f2, f3⟩ := find_m (I := I) hw h h8 p5
    have e3 : ldO (A' 203) 5 (nI p) = _ := ldN rfl p5 (by decide) (hc.2.2.1 p p5).2
    have z11 : upd I' 113 (-1) 211 = nI (v 8) := hc.1.2.2.2.2
    obtain ⟨J1, B1, k1, k2, k3, -⟩ := keepFrom_x (R := R) (G := G) (pl := pl) (I' := I') (A' := A') hc h (popc (msk (opn v p) (v 7))) hN (popc (msk (opn v p) (v 7))) 12 (fun _ => 0) 0 (msk (opn v p) (v 7)) (v (20 + p)) (v 8) 0 (0, fun _ => 0) (upd I' 113 (-1)) A' (by omega) hl rfl (by omega) sp (by omega) (Nat.le_refl _) (fun i h1 h2 => ⟨upd_n _ _ (by omega), rfl, rfl⟩) ⟨rfl, by decide, fun z => absurd z (by decide)⟩ (fun i hi => absurd hi (by omega))
    have k1 : x_keepFrom pl n ks 12 (upd I' 113 (-1)) A' R G 0 (nI (msk (opn v p) (v 7))) (nI (v (20 + p))) (nI (v 8)) 0 = _ := k1
    have bc := popc_x (msk (opn v p) (v 7)) (by omega)
    refine ⟨J1, B1, A1, srN v (popc (msk (opn v p) (v 7))) (fun _ => 0) 0 (msk (opn v p) (v 7)) (v (20 + p)) (v 8) 0 (0, fun _ => 0), ?_, ?_, k2, ⟨fun _ => rfl, fun k => by rw [f3 0 (by omega)], fun i h0 h15 => f3 i (by omega)⟩, fun i hi => ⟨k3.2.2 (srN_1 v _ _ _ _ _ _ _ _ (by omega) rfl) i hi, f2 i hi⟩⟩
    · rw [x_keeps, e2, o1n, if_neg (show ¬ (1 : Int32) = 0 by decide), hb, o1n, if_neg (show ¬ (1 : Int32) = 0 by decide), ox, o1n, e3, o1n, z11, k1, o2n, k3.1, bc, o1n]
    · rw [m_keeps, e1, o1n, if_neg (show ¬ (1 : Int32) = 0 by decide), m_in_x, hb, o1n, if_neg (show ¬ (1 : Int32) = 0 by decide), om, o3n, f1, o3n]
  rcases in_m1 b with hb | ⟨rfl, hb⟩ | ⟨k, hk, rfl, hb⟩
  · exact ⟨_, _, _, _, _, by simp only [x_keeps, e2, o1n, n10, if_false, hb, n00, if_true] <;> rfl, by simp only [m_keeps, e1, o1n, n10, if_false, m_in_x, hb, n00, if_true] <;> rfl, KC.rfl', KM.rfl'⟩
  · obtain ⟨I1', A1', A1, B, r1, r2, r3, r4, r5⟩ := run hb
    rw [if_pos rfl, o1n] at r1
    rw [if_neg (show ¬ (0 : Int32) ≤ -1 by decide), o1n] at r2
    exact ⟨_, _, _, _, _, r1, r2, r3, r4⟩
  · obtain ⟨I1', A1', A1, B, r1, r2, r3, r4, r5⟩ := run hb
    have n1 : ¬ nI k = (-1 : Int32) := (by decide : ∀ k, k ≤ 7 → ¬ nI k = (-1 : Int32)) k hk
    have g0 : (0 : Int32) ≤ nI k := nI_le (a := 0) (by omega) (by omega)
    rw [if_neg n1] at r1
    rw [if_pos g0] at r2
    have hN := popc_8 (msk (opn v p) (v 7))
    have cc : (nI (popc (msk (opn v p) (v 7))) ≤ nI k) = _ := leL (by omega) (by omega)
    by_cases q : popc (msk (opn v p) (v 7)) ≤ k
    · rw [if_pos (cc ▸ q), o1n] at r1 r2
      exact ⟨_, _, _, _, _, r1, r2, r3, r4⟩
    · have nq : ¬ nI (popc (msk (opn v p) (v 7))) ≤ nI k := fun z => q (cc ▸ z)
      obtain ⟨s1, s2⟩ := r5 k (by omega)
      rw [if_neg nq, ldN rfl (show k < 8 by omega) (by decide) s1, o1n, o1n] at r1
      rw [if_neg nq, ldN rfl (show k < 8 by omega) (by decide) s2, o1n, o1n] at r2
      exact ⟨_, _, _, _, _, r1, r2, r3, r4⟩
end VIEW17
