/-! PLAIN LAW 14: boat -/
set_option maxRecDepth 100000
def oI (o : Option Nat) : Int32 := match o with | none => -1000000 | some k => nI k
def oF (o : Option Nat) : Int32 := match o with | none => 1000000000 | some k => nI k
theorem andn_s : ∀ s, s < 32 → ∀ a, a < 32 → (nI a &&& (nI s ^^^ (-1)) = 0 ↔ sbm s a = true) := by decide +kernel
theorem sdiff_s : ∀ s, s < 32 → ∀ a, a < 32 → sbm s a = true → nI s &&& (nI a ^^^ (-1)) = nI (s - a) := by decide +kernel
theorem nxt_s : ∀ s, s < 32 → ∀ t, t < 32 → 0 < t → (nI t - 1) &&& nI s = nI ((t - 1) &&& s) := by decide +kernel
theorem ntz_s : ∀ s, s < 32 → 0 < s → ji_numberOfTrailingZeros (nI s) = some (nI (low s)) := by decide +kernel
theorem low_lt : ∀ s, s < 32 → low s < 5 := by decide +kernel
section VIEW14
variable {v w u : Nat → Nat} {I I' : Nat → Int32} {A A' : Nat → Nat → Int32} {R : Nat → Option Nat} {G : Nat → Nat → Option Nat} {pl n : Nat} {ks : Nat → Nat}
def wtf (v : Nat → Nat) (s : Nat) : Nat → Nat := fun p => if s / 2 ^ p % 2 = 0 then 0 else load v p + 10
def wt (v : Nat → Nat) (s : Nat) : Nat := sumN (wtf v s) (v 6)
def FB (v : Nat → Nat) (b : Nat) : Nat → Bool := fun a => decide (wt v a ≤ b)
theorem wt_le (h : OKv v) (s : Nat) : wt v s ≤ 1650 := by
  have h6 := v_n h
  have h1 := sumN_le (f := wtf v s) (b := 330) (v 6) (fun i hi => by
    unfold wtf
    have := load_le h i
    split <;> omega)
  have h3 : v 6 * 330 ≤ 5 * 330 := Nat.mul_le_mul_right 330 h6
  exact Nat.le_trans h1 h3
theorem weight_x (hc : CV v (sh 200 I') (sh 200 A') n ks) (h : OKv v) (hR : R 201 = some pl) {s : Nat} (hs : s < 32) : x_weightOf I' A' R G pl n ks (nI s) = some (nI (wt v s)) := by
  have h6 := v_n h
  have many := many_p (R := sh 200 R) hc hR
  have hr := lp_run (fun k (t : Int32 × Int32) => x_weightOf_L4 I' A' R G pl n ks (nI s) k t.1 t.2) (fun i => (nI (sumN (wtf v s) i), nI i)) (v 6) (some (nI (wt v s), nI (v 6)))
    (fun k => by
      simp only [x_weightOf_L4, many, o1]
      rw [if_pos (nI_le (Nat.le_refl _) (by omega))]
      rfl)
    (fun k i hi => by
      have c : (nI (s / 2 ^ i % 2) = (0 : Int32)) = _ := z0 (a := s / 2 ^ i % 2) (by omega)
      have t10 : nI (load v i) + 10 = nI (load v i + 10) := nI_add _ 10
      simp only [x_weightOf_L4, many, o1, has_x s (by omega) i (by omega), c, load_p (R := sh 200 R) hc h hR (show i < 2 ^ 31 by omega), t10, ife]
      rw [if_neg (nI_ge hi (by omega)), sumN, ← nI_add (sumN (wtf v s) i), nI_1]
      unfold wtf
      by_cases q : s / 2 ^ i % 2 = 0
      · rw [if_pos q, if_pos q]; rfl
      · rw [if_neg q, if_neg q]) NF (NFb (by omega))
  have hr : x_weightOf_L4 I' A' R G pl n ks (nI s) NF 0 0 = _ := hr
  simp only [x_weightOf, hr, o2]
theorem weight_m (hw : MW v (A 0)) (h : OKv v) (a b c : Int32) {s : Nat} (hs : s < 32) : m_boat_L76 I A a b c (nI s) NF 0 0 = some (nI (wt v s), nI (v 6)) := by
  have h6 := v_n h
  have e6 : ldO (A 0) 2044 6 = _ := ldW hw 6 rfl (by decide)
  have hr := lp_run (fun k (t : Int32 × Int32) => m_boat_L76 I A a b c (nI s) k t.1 t.2) (fun i => (nI (sumN (wtf v s) i), nI i)) (v 6) (some (nI (wt v s), nI (v 6)))
    (fun k => by
      simp only [m_boat_L76, e6, o1]
      rw [if_pos (nI_le (Nat.le_refl _) (by omega))]
      rfl)
    (fun k i hi => by
      have c : (nI (s / 2 ^ i % 2) = (0 : Int32)) = _ := z0 (a := s / 2 ^ i % 2) (by omega)
      have t10 : nI (load v i) + 10 = nI (load v i + 10) := nI_add _ 10
      simp only [m_boat_L76, e6, o1, has_m s (by omega) i (by omega), c, load_m hw h (show i < 2 ^ 31 by omega), t10, ife]
      rw [if_neg (nI_ge hi (by omega)), sumN, ← nI_add (sumN (wtf v s) i), nI_1]
      unfold wtf
      by_cases q : s / 2 ^ i % 2 = 0
      · rw [if_pos q, if_pos q]; rfl
      · rw [if_neg q, if_neg q]) NF (NFb (by omega))
  exact hr
theorem oI_min {x y : Option Nat} (hx : ∀ k, x = some k → k < 1000) (hy : ∀ k, y = some k → k < 1000) : (if oI y = -1000000 then oI x else if oI x = -1000000 then oI y else if oI x ≤ oI y then oI x else oI y) = oI (omin x y) := by
  cases y with
  | none =>
    rw [if_pos (show oI none = -1000000 from rfl)]
    cases x <;> rfl
  | some b =>
    have hb := hy b rfl
    rw [if_neg (show ¬ oI (some b) = -1000000 from nOf (by omega))]
    cases x with
    | none => rw [if_pos (show oI none = -1000000 from rfl)]; rfl
    | some a =>
      have ha := hx a rfl
      rw [if_neg (show ¬ oI (some a) = -1000000 from nOf (by omega))]
      show (if nI a ≤ nI b then nI a else nI b) = oI (if a ≤ b then some a else some b)
      have c := leL (a := a) (b := b) (by omega) (by omega)
      by_cases q : a ≤ b
      · rw [if_pos (c ▸ q), if_pos q]; rfl
      · rw [if_neg (fun z => q (c ▸ z)), if_neg q]; rfl
theorem oF_min {x y : Option Nat} (hx : ∀ k, x = some k → k < 1000) (hy : ∀ k, y = some k → k < 1000) : (if oF y ≤ oF x then oF y else oF x) = oF (omin x y) := by
  cases y with
  | none =>
    cases x with
    | none => rfl
    | some a =>
      have ha := hx a rfl
      have c := leL (a := 1000000000) (b := a) (by decide) (by omega)
      have : ¬ oF none ≤ oF (some a) := fun z => by
        have z : nI 1000000000 ≤ nI a := z
        rw [c] at z
        omega
      rw [if_neg this]; rfl
  | some b =>
    have hb := hy b rfl
    cases x with
    | none =>
      have c := leL (a := b) (b := 1000000000) (by omega) (by decide)
      have : oF (some b) ≤ oF none := by
        show nI b ≤ nI 1000000000
        rw [c]
        omega
      rw [if_pos this]; rfl
    | some a =>
      have ha := hx a rfl
      show (if nI b ≤ nI a then nI b else nI a) = oF (if a ≤ b then some a else some b)
      have c := leL (a := b) (b := a) (by omega) (by omega)
      by_cases q : b ≤ a
      · rw [if_pos (c ▸ q)]
        by_cases q2 : a ≤ b
        · rw [if_pos q2, show a = b by omega]; rfl
        · rw [if_neg q2]; rfl
      · rw [if_neg (fun z => q (c ▸ z)), if_pos (by omega)]; rfl
theorem omin_n (x : Option Nat) : omin x none = x := by cases x <;> rfl
/-- the component's crossings -/
theorem cross_x (hc : CV v (sh 200 I') (sh 200 A') n ks) (h : OKv v) (hR : R 201 = some pl) {b : Nat} (hb : b < 2 ^ 31) : ∀ d s, s < 32 → popc s < d → x_crossings pl n ks d I' A' R G (nI s) (nI b) = some (oI (Cv (FB v b) s)) := by
  intro d
  induction d with
  | zero => intro s _ h; omega
  | succ d ih =>
    intro s hs hp
    by_cases s0 : s = 0
    · subst s0
      rfl
    · have zs : (nI s = (0 : Int32)) = _ := z0 (a := s) (by omega)
      have hl := low_lt s hs
      have pd : ∀ a, a < 32 → sbm s a = true → 0 < a → popc (s - a) < popc s := (by decide +kernel : ∀ s, s < 32 → ∀ a, a < 32 → sbm s a = true → 0 < a → popc (s - a) < popc s) s hs
      have hr := lp_rel (fun k (t : Int32 × Int32) => x_crossings_L13 (x_crossings pl n ks d) I' A' R G pl n ks (nI s) (nI b) k t.1 t.2)
        (fun i q => ∃ (t : Nat) (r : Option Nat), q = (oI r, nI t) ∧ t + i ≤ s ∧ (i < s → 0 < t ∨ t = 0) ∧ sbm s t = true ∧ (∀ k, r = some k → k < 100) ∧ Lst (fun a => t < a ∧ a ≤ s) (fX (FB v b) (Cv (FB v b)) s) r) s
        (fun q => q.1 = oI (Cv (FB v b) s))
        (fun k q hq => by
          obtain ⟨t, r, rfl, h1, -, h3, h4, h5⟩ := hq
          obtain rfl : t = 0 := by omega
          refine ⟨(oI r, nI 0), ?_, ?_⟩
          · simp only [x_crossings_L13]
            rw [if_pos (show nI 0 ≤ 0 from by decide)]
          · have := (key (FB v b) s (by omega) hs).uniq (q := r) (h5.skip (fun a k _ => by constructor <;> intro h <;> omega))
            rw [this])
        (fun k i q hi hq => by
          obtain ⟨t, r, rfl, h1, -, h3, h4, h5⟩ := hq
          by_cases t0 : t = 0
          · subst t0
            refine Or.inr ⟨(oI r, nI 0), ?_, ?_⟩
            · simp only [x_crossings_L13]
              rw [if_pos (show nI 0 ≤ 0 from by decide)]
            · have := (key (FB v b) s (by omega) hs).uniq (q := r) (h5.skip (fun a k _ => by constructor <;> intro h <;> omega))
              rw [this]
          · have t32 : t < 32 := by omega
            obtain ⟨n1, n2, n3⟩ := sb_nx s hs t t32 (by rw [h3, decide_eq_true (show 0 < t by omega)]; rfl)
            let f := fX (FB v b) (Cv (FB v b)) s
            have fle : ∀ k, f t = some k → k < 100 := fun k hk => by
              have hk : fX (FB v b) (Cv (FB v b)) s t = some k := hk
              unfold fX at hk
              split at hk
              · cases e : Cv (FB v b) (s - t) with
                | none => rw [e] at hk; cases hk
                | some j =>
                  rw [e] at hk
                  have hk : j + 1 = k := Option.some.inj hk
                  have := Cv_le (FB v b) (s - t) j e
                  omega
              · cases hk
            have l' : Lst (fun a => (t - 1) &&& s < a ∧ a ≤ s) f (omin r (f t)) := h5.step t (fun a k hk => by
              constructor
              · intro ⟨g1, g2⟩
                by_cases c : a = t
                · exact Or.inr c
                · refine Or.inl ⟨?_, g2⟩
                  by_cases c2 : a < t
                  · have := n3 a c2
                    have sa : sbm s a = true := by
                      have hk : fX (FB v b) (Cv (FB v b)) s a = some k := hk
                      unfold fX at hk
                      split at hk
                      · rename_i cc
                        rw [Bool.and_eq_true, Bool.and_eq_true] at cc
                        exact cc.2.1
                      · cases hk
                    rw [sa, decide_eq_true g1] at this
                    cases this
                  · omega
              · rintro (⟨g1, g2⟩ | rfl)
                · exact ⟨by omega, g2⟩
                · exact ⟨n2, by omega⟩)
            have ml : ∀ k, omin r (f t) = some k → k < 100 := fun k hk => by
              cases r with
              | none => exact fle k hk
              | some x =>
                cases e : f t with
                | none =>
                  rw [e] at hk
                  exact h4 k hk
                | some y =>
                  rw [e] at hk
                  have hk : (if x ≤ y then some x else some y) = some k := hk
                  split at hk
                  · exact h4 k hk
                  · have : y = k := Option.some.inj hk
                    exact this ▸ fle y e
            refine Or.inl ⟨(oI (omin r (f t)), nI ((t - 1) &&& s)), ⟨_, _, rfl, by omega, fun _ => by omega, n1, ml, l'⟩, ?_⟩
            have tl : ¬ nI t ≤ 0 := nI_ge (a := 0) (by omega) (by omega)
            have hz : (nI (t / 2 ^ low s % 2) = (0 : Int32)) = _ := z0 (a := t / 2 ^ low s % 2) (by omega)
            have wl := wt_le h t
            have cw : (nI (wt v t) ≤ nI b) = _ := leL (by omega) hb
            have rc : x_crossings pl n ks d I' A' R G (nI s &&& (nI t ^^^ (-1))) (nI b) = some (oI (Cv (FB v b) (s - t))) := by
              rw [sdiff_s s hs t t32 h3]
              exact ih (s - t) (by omega) (by have := pd t t32 h3 (by omega); omega)
            simp only [x_crossings_L13, ntz_s s hs (by omega), o1, has_x t (by omega) (low s) (by omega), hz, weight_x (G := G) hc h hR t32, cw, rc, ife, nxt_s s hs t t32 (by omega)]
            rw [if_neg tl]
            have vl : (if t / 2 ^ low s % 2 = 0 then oI r else if wt v t ≤ b then (if oI (Cv (FB v b) (s - t)) = -1000000 then oI r else if oI r = -1000000 then oI (Cv (FB v b) (s - t)) + 1 else if oI r ≤ oI (Cv (FB v b) (s - t)) + 1 then oI r else oI (Cv (FB v b) (s - t)) + 1) else oI r) = oI (omin r (f t)) := by
              have ft : f t = if hasB t (low s) && (sbm s t && FB v b t) then (Cv (FB v b) (s - t)).map (· + 1) else none := rfl
              by_cases q1 : t / 2 ^ low s % 2 = 0
              · rw [if_pos q1, ft, show hasB t (low s) = false by unfold hasB; rw [q1]; rfl]
                rw [Bool.false_and, if_neg Bool.false_ne_true, omin_n]
              · rw [if_neg q1]
                have hB : hasB t (low s) = true := by unfold hasB; rw [show t / 2 ^ low s % 2 = 1 by omega]; rfl
                by_cases q2 : wt v t ≤ b
                · rw [if_pos q2]
                  have hF : FB v b t = true := decide_eq_true q2
                  have ft2 : f t = (Cv (FB v b) (s - t)).map (· + 1) := by rw [ft, hB, h3, hF]; rfl
                  rw [ft2]
                  cases e : Cv (FB v b) (s - t) with
                  | none => rw [if_pos (show oI none = -1000000 from rfl)]; exact (congrArg oI (omin_n r)).symm
                  | some j =>
                    have jl := Cv_le (FB v b) (s - t) j e
                    have := oI_min (x := r) (y := some (j + 1)) (fun k hk => by have := h4 k hk; omega) (fun k hk => by have : j + 1 = k := Option.some.inj hk; omega)
                    rw [if_neg (show ¬ oI (some (j + 1)) = -1000000 from nOf (by omega))] at this
                    rw [if_neg (show ¬ oI (some j) = -1000000 from nOf (by omega)), show oI (some j) + 1 = oI (some (j + 1)) from nI_1 j]
                    exact this
                · rw [if_neg q2, ft, show FB v b t = false from decide_eq_false q2, Bool.and_false, Bool.and_false, if_neg Bool.false_ne_true, omin_n]
            rw [vl]) NF (oI none, nI s) (NFb (by omega)) ⟨s, none, rfl, by omega, fun _ => by omega, sb_self s hs, (fun k h => by cases h), ⟨fun a k h _ => by omega, fun j h => by cases h⟩⟩
      obtain ⟨⟨r1, r2⟩, g1, g2⟩ := hr
      have g1 : x_crossings_L13 (x_crossings pl n ks d) I' A' R G pl n ks (nI s) (nI b) NF (-1000000) (nI s) = some (r1, r2) := g1
      have g2 : r1 = oI (Cv (FB v b) s) := g2
      simp only [x_crossings, zs]
      rw [if_neg s0, g1, o2, g2]
/-- the model's table -/
theorem oF_lt {x : Option Nat} (hx : ∀ k, x = some k → k < 1000) : ((1000000000 : Int32) ≤ oF x) = (x = none) := by
  cases x with
  | none => exact propext ⟨fun _ => rfl, fun _ => Int32.le_refl _⟩
  | some a =>
    have ha := hx a rfl
    refine propext ⟨fun z => ?_, fun z => by cases z⟩
    have z : nI 1000000000 ≤ nI a := z
    rw [leL (by decide) (by omega)] at z
    omega
theorem boat_mI (hw : MW v (A 0)) (h : OKv v) {b : Nat} (hb : b < 2 ^ 31) (u2 : Int32) {s : Nat} (hs : s < 32) (s0 : 0 < s) (hA : ∀ i, i < s → A 20 i = oF (Cv (FB v b) i)) (hA2 : A 20 s = 1000000000) : ∃ B y, m_boat_L64 (nI b) u2 (nI s) NF I A 1 = some (I, B, y) ∧ (∀ i, i ≤ s → B 20 i = oF (Cv (FB v b) i)) ∧ ∀ i, i ≠ 20 → B i = A i := by
  let f := fC (FB v b) (Cv (FB v b)) s
  have fle : ∀ t, t ≤ s → 1 ≤ t → ∀ k, f t = some k → k < 100 := fun t ht ht1 k hk => by
    obtain ⟨-, -, j, h1, h2⟩ := fC_i (FB v b) hk
    have := Cv_le (FB v b) (s - t) j h1
    omega
  have mle : ∀ t, t ≤ s → ∀ k, mnU f t = some k → k < 1000 := fun t ht k hk => by
    obtain ⟨a, ⟨a1, a2⟩, h1⟩ := (mnU_l f t).2 k hk
    have := fle a (by omega) a1 k h1
    omega
  have hr := lp_rel (fun k (q : (Nat → Int32) × (Nat → Nat → Int32) × Int32) => m_boat_L64 (nI b) u2 (nI s) k q.1 q.2.1 q.2.2) (fun t q => q.1 = I ∧ q.2.2 = nI (t + 1) ∧ (∀ i, i < s → q.2.1 20 i = oF (Cv (FB v b) i)) ∧ q.2.1 20 s = oF (mnU f t) ∧ ∀ i, i ≠ 20 → q.2.1 i = A i) s (fun q => q.1 = I ∧ (∀ i, i < s → q.2.1 20 i = oF (Cv (FB v b) i)) ∧ q.2.1 20 s = oF (mnU f s) ∧ ∀ i, i ≠ 20 → q.2.1 i = A i)
    (fun k q hq => by
      obtain ⟨J, B, x⟩ := q
      obtain ⟨rfl, rfl, g1, g2, g3⟩ := hq
      refine ⟨(J, B, nI (s + 1)), ?_, rfl, g1, g2, g3⟩
      simp only [m_boat_L64]
      rw [if_pos (nI_lt (by omega) (by omega))])
    (fun k t q ht hq => by
      obtain ⟨J, B, x⟩ := q
      obtain ⟨rfl, rfl, g1, g2, g3⟩ := hq
      have g1 : ∀ i, i < s → B 20 i = oF (Cv (FB v b) i) := g1
      have g2 : B 20 s = oF (mnU f t) := g2
      have g3 : ∀ i, i ≠ 20 → B i = A i := g3
      have hwB : MW v (B 0) := by rw [g3 0 (by decide)]; exact hw
      have wl := wt_le h (t + 1)
      have cw : (nI b < nI (wt v (t + 1))) = _ := ltL hb (by omega)
      have ng : ¬ nI s < nI (t + 1) := by
        rw [ltL (by omega) (by omega)]
        omega
      have es : ldO (B 20) 32 (nI s) = _ := ldN rfl hs (by decide) g2
      have st : ∀ x : Int32, stO (B 20) 32 (nI s) x = _ := fun x => stN x rfl hs (by decide)
      have cs : (nI (t + 1) &&& (nI s ^^^ (-1)) = 0) = (sbm s (t + 1) = true) := propext (andn_s s hs (t + 1) (by omega))
      refine Or.inl ⟨(J, va_up B 20 (upd (B 20) s (oF (mnU f (t + 1)))), nI (t + 1 + 1)), ⟨rfl, rfl, fun i hi => ?_, ?_, fun i hi => (va_up_ne _ _ hi).trans (g3 i hi)⟩, ?_⟩
      · show upd (B 20) s _ i = _
        rw [upd_n _ _ (by omega)]
        exact g1 i hi
      · show upd (B 20) s _ s = _
        exact upd_s _ _ _
      · simp only [m_boat_L64, weight_m hwB h _ _ _ (show t + 1 < 32 by omega), o2, cs, cw]
        rw [if_neg ng]
        have ft : f (t + 1) = if sbm s (t + 1) && FB v b (t + 1) then (Cv (FB v b) (s - (t + 1))).map (· + 1) else none := rfl
        have nope : f (t + 1) = none → (ob1 (ldO (B 20) 32 (nI s)) fun v11 => (some v11 : Option Int32)) = some (oF (mnU f (t + 1))) := fun e => by
          rw [es, o1]
          show _ = some (oF (omin (mnU f t) (f (t + 1))))
          rw [e, omin_n]
        by_cases q1 : sbm s (t + 1) = true
        · rw [if_pos q1]
          by_cases q2 : wt v (t + 1) ≤ b
          · rw [if_neg (by omega)]
            have hF : FB v b (t + 1) = true := decide_eq_true q2
            have er : ldO (B 20) 32 (nI s &&& (nI (t + 1) ^^^ (-1))) = _ := ldN (sdiff_s s hs (t + 1) (by omega) q1) (show s - (t + 1) < 32 by omega) (by decide) (g1 (s - (t + 1)) (by omega))
            have lt := oF_lt (x := Cv (FB v b) (s - (t + 1))) (fun k hk => by have := Cv_le (FB v b) _ k hk; omega)
            rw [er, o1]
            cases e : Cv (FB v b) (s - (t + 1)) with
            | none =>
              rw [if_pos (show (1000000000 : Int32) ≤ oF none from Int32.le_refl _), o1, if_pos rfl, nope (by rw [ft, q1, hF, e]; rfl), o1, st, o1, nI_1]
            | some j =>
              have jl := Cv_le (FB v b) _ j e
              have fs : f (t + 1) = some (j + 1) := by rw [ft, q1, hF, e]; rfl
              have mn := oF_min (x := mnU f t) (y := some (j + 1)) (mle t (by omega)) (fun k hk => by have : j + 1 = k := Option.some.inj hk; omega)
              rw [e] at lt
              have nl : ¬ (1000000000 : Int32) ≤ oF (some j) := fun z => by
                rw [lt] at z
                cases z
              have pl1 : 1 + oF (some j) = oF (some (j + 1)) := by
                show 1 + nI j = nI (j + 1)
                rw [Int32.add_comm]
                exact nI_1 j
              rw [if_neg nl, o1, if_neg (show ¬ (1 : Int32) = 0 by decide), es, o1, o1, m_lesser, pl1, ife, o1, mn, o1, o1, st, o1, nI_1, ← fs]
              rfl
          · rw [if_pos (by omega), o1, if_pos rfl, nope (by rw [ft, show FB v b (t + 1) = false from decide_eq_false q2, Bool.and_false]; rfl), o1, st, o1, nI_1]
        · rw [if_neg q1, o1, if_pos rfl, nope (by rw [ft, Bool.eq_false_iff.mpr q1]; rfl), o1, st, o1, nI_1]) NF (I, A, 1) (NFb (by omega)) ⟨rfl, rfl, hA, hA2, fun _ _ => rfl⟩
  obtain ⟨⟨J, B, y⟩, g1, rfl, g2, g3, g4⟩ := hr
  refine ⟨B, y, g1, fun i hi => ?_, g4⟩
  by_cases e : i = s
  · rw [e]
    refine Eq.trans g3 ?_
    obtain ⟨j, rfl⟩ : ∃ j, s = j + 1 := ⟨s - 1, by omega⟩
    rw [Cv_s]
  · exact g2 i (by omega)
theorem eq_boat (hw : MW v (A 0)) (h : OKv v) (hc : CV v (sh 200 I') (sh 200 A') n ks) (hR : R 201 = some pl) (a : Int32) : ∃ r I1 A1, x_boat I' A' R G pl n ks a = some r ∧ m_boat I A a = some (r, I1, A1) ∧ KM I I1 A A1 := by
  have h6 := v_n h
  have e1 := none_m (I := I) hw h
  have e2 := parish_x (G := G) hc hR h
  by_cases c : v 6 = 0
  · rw [if_pos c] at e1 e2
    exact ⟨_, _, _, by simp only [x_boat, e2, o1, n00, if_true] <;> rfl, by simp only [m_boat, e1, o1, n10, if_false] <;> rfl, KM.rfl'⟩
  rw [if_neg c] at e1 e2
  rcases in_ab a (L := 20) (H := 99) 20 99 rfl rfl (by decide) with h1 | ⟨b, -, hb, rfl, h1⟩
  · exact ⟨_, _, _, by simp only [x_boat, e2, o1, n10, if_false, h1, n00, if_true] <;> rfl, by simp only [m_boat, e1, o1, n00, if_true, m_in_x, h1] <;> rfl, KM.rfl'⟩
  have p2 : ∀ j, j ≤ 5 → 2 ^ j ≤ 32 ∧ 0 < 2 ^ j := by decide
  obtain ⟨q1, q2⟩ := p2 (v 6) h6
  have many := many_p (R := sh 200 R) hc hR
  have all : ((1 : Int32) <<< (nI (v 6) &&& 31)) - 1 = nI (2 ^ v 6 - 1) := by
    rw [shl_1 (v 6) (by omega)]
    exact pk_sub (b := 1) (by omega)
  have pc : ∀ s, s < 32 → popc s < 12 := by decide
  have cx := cross_x (G := G) hc h hR (show b < 2 ^ 31 by omega) 12 (2 ^ v 6 - 1) (by omega) (pc _ (by omega))
  have e6 : ldO (A 0) 2044 6 = _ := ldW hw 6 rfl (by decide)
  have st0 : stO (A 20) 32 0 0 = some (upd (A 20) 0 0) := stN (k := 0) 0 rfl (by decide) (by decide)
  have hr := lp_rel (fun k (q : (Nat → Int32) × (Nat → Nat → Int32) × Int32) => m_boat_L48 (nI b) (nI (2 ^ v 6 - 1)) k q.1 q.2.1 q.2.2) (fun s q => q.1 = I ∧ q.2.2 = nI (s + 1) ∧ (∀ i, i ≤ s → q.2.1 20 i = oF (Cv (FB v b) i)) ∧ ∀ i, i ≠ 20 → q.2.1 i = A i) (2 ^ v 6 - 1) (fun q => q.1 = I ∧ (∀ i, i ≤ 2 ^ v 6 - 1 → q.2.1 20 i = oF (Cv (FB v b) i)) ∧ ∀ i, i ≠ 20 → q.2.1 i = A i)
    (fun k q hq => by
      obtain ⟨J, B, x⟩ := q
      obtain ⟨rfl, rfl, g1, g2⟩ := hq
      refine ⟨(J, B, nI (2 ^ v 6 - 1 + 1)), ?_, rfl, g1, g2⟩
      simp only [m_boat_L48]
      rw [if_pos (nI_lt (by omega) (by omega))])
    (fun k s q hs hq => by
      obtain ⟨J, B, x⟩ := q
      obtain ⟨rfl, rfl, g1, g2⟩ := hq
      have g1 : ∀ i, i ≤ s → B 20 i = oF (Cv (FB v b) i) := g1
      have g2 : ∀ i, i ≠ 20 → B i = A i := g2
      have ng : ¬ nI (2 ^ v 6 - 1) < nI (s + 1) := by
        rw [ltL (by omega) (by omega)]
        omega
      have st : stO (B 20) 32 (nI (s + 1)) 1000000000 = _ := stN 1000000000 rfl (show s + 1 < 32 by omega) (by decide)
      obtain ⟨B1, y, g3, g4, g5⟩ := boat_mI (I := J) (A := va_up B 20 (upd (B 20) (s + 1) 1000000000)) (v := v) (by rw [va_up_ne _ _ (show 0 ≠ 20 by decide), g2 0 (by decide)]; exact hw) h (show b < 2 ^ 31 by omega) (nI (2 ^ v 6 - 1)) (show s + 1 < 32 by omega) (by omega) (fun i hi => by
        show upd (B 20) (s + 1) _ i = _
        rw [upd_n _ _ (by omega)]
        exact g1 i (by omega)) (upd_s _ _ _)
      refine Or.inl ⟨(J, B1, nI (s + 1 + 1)), ⟨rfl, rfl, g4, fun i hi => (g5 i hi).trans ((va_up_ne _ _ hi).trans (g2 i hi))⟩, ?_⟩
      simp only [m_boat_L48, st, o1, g3, o3]
      rw [if_neg ng, nI_1]) NF (I, va_up A 20 (upd (A 20) 0 0), 1) (NFb (by omega)) ⟨rfl, rfl, fun i hi => by
        obtain rfl : i = 0 := by omega
        rfl, fun i hi => va_up_ne _ _ hi⟩
  obtain ⟨⟨J, B, x⟩, g1, rfl, g2, g3⟩ := hr
  have g1 : m_boat_L48 (nI b) (nI (2 ^ v 6 - 1)) NF J (va_up A 20 (upd (A 20) 0 0)) 1 = _ := g1
  have el : ldO (B 20) 32 (nI (2 ^ v 6 - 1)) = _ := ldN rfl (show 2 ^ v 6 - 1 < 32 by omega) (by decide) (g2 (2 ^ v 6 - 1) (Nat.le_refl _))
  have fin : (if oF (Cv (FB v b) (2 ^ v 6 - 1)) = 1000000000 then (-1000000 : Int32) else oF (Cv (FB v b) (2 ^ v 6 - 1))) = oI (Cv (FB v b) (2 ^ v 6 - 1)) := by
    cases e : Cv (FB v b) (2 ^ v 6 - 1) with
    | none => rw [if_pos (show oF none = 1000000000 from rfl)]; rfl
    | some j =>
      have jl := Cv_le (FB v b) _ j e
      have : ¬ oF (some j) = 1000000000 := fun z => by
        have z : nI j = nI 1000000000 := z
        rw [eqL _ (by omega) (by decide)] at z
        omega
      rw [if_neg this]; rfl
  refine ⟨oI (Cv (FB v b) (2 ^ v 6 - 1)), J, B, ?_, ?_, ⟨fun _ => rfl, fun k => congrFun (g3 0 (by decide)) k, fun i h0 h15 => g3 i (by omega)⟩⟩
  · simp only [x_boat, e2, o1, n10, if_false, h1, many, all, cx]
  · simp only [m_boat, e1, o1, n00, n10, if_true, if_false, m_in_x, h1, e6, st0, all, g1, o3, el, ife, fin]
end VIEW14
