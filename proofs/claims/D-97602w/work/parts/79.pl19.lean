/-! PLAIN LAW 19: what is done: walk, redeem, pass, days -/
set_option maxRecDepth 100000
theorem lp_two {σ τ ρ θ : Type} (L : Nat → σ → Option ρ) (M : Nat → τ → Option θ) (Inv : Nat → σ → τ → Prop) (e : Nat) (post : ρ → θ → Prop) (hx : ∀ k s t, Inv e s t → ∃ r q, L (k + 1) s = some r ∧ M (k + 1) t = some q ∧ post r q) (hs : ∀ k i s t, i < e → Inv i s t → ∃ s' t', Inv (i + 1) s' t' ∧ L (k + 1) s = L k s' ∧ M (k + 1) t = M k t') (k : Nat) (s : σ) (t : τ) (hk : e < k) (h0 : Inv 0 s t) : ∃ r q, L k s = some r ∧ M k t = some q ∧ post r q := by
  have key : ∀ d i k s t, i + d = e → d < k → Inv i s t → ∃ r q, L k s = some r ∧ M k t = some q ∧ post r q := by
    intro d
    induction d with
    | zero =>
      intro i k s t h1 h2 h3
      obtain ⟨j, rfl⟩ : ∃ j, k = j + 1 := ⟨k - 1, by omega⟩
      obtain rfl : i = e := by omega
      exact hx j s t h3
    | succ d ih =>
      intro i k s t h1 h2 h3
      obtain ⟨j, rfl⟩ : ∃ j, k = j + 1 := ⟨k - 1, by omega⟩
      obtain ⟨s', t', g1, g2, g3⟩ := hs j i s t (by omega) h3
      rw [g2, g3]
      exact ih (i + 1) j s' t' (by omega) (by omega) g1
  exact key e 0 k s t (by omega) hk h0
section ACTS
variable {I Im : Nat → Int32} {A Am : Nat → Nat → Int32} {R : Nat → Option Nat} {P : Nat → Option Par} {N : Nat → Option Rw_} {T : Int32 × (Nat → Int32)} {pl n : Nat} {ks : Nat → Nat}
theorem JR_act {v1 : Nat → Nat} {a : Nat} {I2 : Nat → Int32} {A2 Am1 Am2 : Nat → Nat → Int32} {P1 : Nat → Option Par} (h : JR I A R P N T pl n ks Im Am) (ha : JA (upd I 107 (nI a)) P1 (upd Im 1 (nI a)) (Am1 0)) (g1 : ∀ i, i < 292 → Am1 0 i = Am 0 i) (g2 : ∀ i, i ≠ 0 → Am1 i = Am i) (g3 : ∀ k, 24 ≤ k → P1 k = P k) (hp : JP v1 I2 A2 R pl n ks (Am2 0)) (i0 : I2 107 = nI a) (i1 : I2 102 = I 102) (i2 : I2 103 = I 103) (i3 : I2 110 = I 110) (hA : A2 101 = A 101) (hw : ∀ i, 73 ≤ i → Am2 0 i = Am1 0 i) (ho : ∀ i, i ≠ 0 → Am2 i = Am1 i) : JR I2 A2 R P1 N T pl n ks (upd Im 1 (nI a)) Am2 := by
  obtain ⟨-, ja, ji, jw, jt, jq, j1, j2⟩ := h
  have e := fun i hi => (ho i hi).trans (g2 i hi)
  refine ⟨⟨v1, hp⟩, JA_c ha (i0.trans (upd_s _ _ _).symm) rfl (fun i hi => hw i (by omega)), ?_, ?_, ?_, ?_, ?_, ?_⟩
  · rw [e 2 (by decide)]
    exact JI_c ji g3 (fun i h1 h2 => (hw i h1).trans (g1 i (by omega)))
  · rw [e 3 (by decide), e 4 (by decide), e 5 (by decide)]
    exact jw
  · obtain ⟨t, t1, t2, t3, t4⟩ := jt
    rw [e 8 (by decide), hA]
    exact ⟨t, t1, i1.trans t2, (upd_n _ _ (by decide)).trans t3, t4⟩
  · obtain ⟨q, q1, q2, q3, q4⟩ := jq
    rw [e 22 (by decide)]
    exact ⟨q, q1, q2, (upd_n _ _ (by decide)).trans q3, q4⟩
  · rw [i3, upd_n _ _ (by decide)]
    exact j1
  · rw [i2, upd_n _ _ (by decide)]
    exact j2
theorem CV_up {v : Nat → Nat} {a : Int32} (h : CV v (sh 200 I) (sh 200 A) n ks) : CV v (sh 200 (upd I 107 a)) (sh 200 A) n ks :=
  CV_congr (I := sh 200 I) (A := sh 200 A) ⟨rfl, rfl, rfl⟩ ⟨fun _ _ => rfl, fun _ _ => ⟨rfl, rfl⟩, fun _ _ => ⟨rfl, rfl, rfl, rfl, rfl⟩⟩ h
def RES (I : Nat → Int32) (A : Nat → Nat → Int32) (R : Nat → Option Nat) (N : Nat → Option Rw_) (T : Int32 × (Nat → Int32)) (pl n : Nat) (ks : Nat → Nat) (x : Option (Int32 × (Nat → Int32) × (Nat → Nat → Int32) × (Nat → Option Par))) (m : Option (Int32 × (Nat → Int32) × (Nat → Nat → Int32))) : Prop := ∃ r I1 A1 P1 Im1 Am1, x = some (r, I1, A1, P1) ∧ m = some (r, Im1, Am1) ∧ JR I1 A1 R P1 N T pl n ks Im1 Am1
theorem eq_walk (h : JR I A R P N T pl n ks Im Am) (a b : Int32) : RES I A R N T pl n ks (h_walk I A R P N T pl n ks a b) (m_walk Im Am a b) := by
  have hh := h
  obtain ⟨⟨v, hp⟩, ja, -⟩ := h
  obtain ⟨hw, ok, v8, hc, hR⟩ := hp
  have h6 := v_n ok
  rcases person_or (I := Im) (A := Am) (R := R) (G := nG) (pl := pl) hw ok a with ⟨e1, e2⟩ | ⟨p, hpp, rfl, e1, e2⟩
  · exact ⟨_, _, _, _, _, _, by rw [h_walk, e2 _ _ _ _ hc hR, o1n, if_pos rfl], by rw [m_walk, e1, o1n, if_pos rfl], hh⟩
  have e2 := e2 _ _ _ _ hc hR
  have p5 : p < 5 := by omega
  have core : ∀ up : Bool, RES I A R N T pl n ks (ob1 (p_mayWalk (sh 200 I) (sh 200 A) (sh 200 R) pl n ks (nI p) (byI up)) fun (v4 : Int32) => if v4 = 0 then (some ((-1000002), I, A, P)) else (ob2 (keepO I A P (pl, n, ks) (I 107).toNatClampNeg) fun (I6 : Nat → Int32) (P7 : Nat → Option Par) => ob1 (ldO (A 203) 5 (nI p)) fun (v8 : Int32) => ob1 (stO (A 203) 5 (nI p) (v8 + byI up)) fun (f9 : Nat → Int32) => ob1 (ldO ((va_up A 203 f9) 203) 5 (nI p)) fun (v10 : Int32) => some (v10, I6, va_up A 203 f9, P7))) (ob1 (m_canWalk Im Am (nI p) (byI up)) fun (v4 : Int32) => if v4 = 0 then (some ((-1000002), Im, Am)) else (ob2 (m_minds Im Am ) fun (I6 : Nat → Int32) (A7 : Nat → Nat → Int32) => ob1 (ldO (A7 0) 2044 (20 + nI p)) fun (v8 : Int32) => ob1 (stO (A7 0) 2044 (20 + nI p) (v8 + byI up)) fun (f9 : Nat → Int32) => ob1 (ldO ((va_up A7 0 f9) 0) 2044 (20 + nI p)) fun (v10 : Int32) => some (v10, I6, va_up A7 0 f9))) := by
    intro up
    rw [mayWalk_p (R := sh 200 R) (pl := pl) hc ok hR p5 up, canWalk_m (I := Im) hw ok p5 up, o1n, o1n]
    cases hm : mwk v p up with
    | false =>
      rw [if_neg Bool.false_ne_true, if_pos rfl, if_pos rfl]
      exact ⟨_, _, _, _, _, _, rfl, rfl, hh⟩
    | true =>
      rw [if_pos rfl, if_neg (show ¬ (1 : Int32) = 0 by decide), if_neg (show ¬ (1 : Int32) = 0 by decide)]
      obtain ⟨t, ht⟩ := mwk_t hm
      have t6 := tgt_lt ok p5 ht
      have add := (step_in ok p5 up).2 t ht
      obtain ⟨c, P1, Am1, c1, k1, k2, k3, k4, k5, k6⟩ := minds_j (I := I) (A := A) (Im := Im) (Am := Am) (P := P) ⟨hw, ok, v8, hc, hR⟩ ja
      have hw1 : MW v (Am1 0) := fun i hi => (k4 i (by omega)).trans (hw i hi)
      have e3 : ldO (A 203) 5 (nI p) = _ := ldN rfl p5 (by decide) (hc.2.2.1 p p5).2
      have s3 : ∀ x : Int32, stO (A 203) 5 (nI p) x = _ := fun x => stN x rfl p5 (by decide)
      have l3 : ∀ x : Int32, ldO (upd (A 203) p x) 5 (nI p) = some x := fun x => ldN rfl p5 (by decide) (upd_s _ _ _)
      have e20 : ldO (Am1 0) 2044 (20 + nI p) = _ := ldW hw1 (20 + p) (nI_add 20 p) (by omega)
      have s20 : ∀ x : Int32, stO (Am1 0) 2044 (20 + nI p) x = _ := fun x => stN x (nI_add 20 p) (show 20 + p < 2044 by omega) (by decide)
      have l20 : ∀ x : Int32, ldO (upd (Am1 0) (20 + p) x) 2044 (20 + nI p) = some x := fun x => ldN (nI_add 20 p) (show 20 + p < 2044 by omega) (by decide) (upd_s _ _ _)
      refine ⟨nI t, upd I 107 (nI c), va_up A 203 (upd (A 203) p (nI t)), P1, upd Im 1 (nI c), va_up Am1 0 (upd (Am1 0) (20 + p) (nI t)), ?_, ?_, ?_⟩
      · rw [k1, o2n, e3, o1n, add, s3, o1n, va_up_self, l3, o1n]
      · rw [k2, o2n, e20, o1n, add, s20, o1n, va_up_self, l20, o1n]
      · refine JR_act (v1 := setv v (20 + p) t) hh k3 k4 k5 k6 ⟨MW_set hw1 _ _, OK_sp ok p5 (by omega), by rw [setv_n _ _ (by omega)]; exact v8, CV_sp (A1 := sh 200 (va_up A 203 (upd (A 203) p (nI t)))) ok (CV_up hc) p5 t rfl ⟨rfl, rfl, rfl, rfl, rfl, rfl, rfl⟩, hR⟩ rfl rfl rfl rfl rfl (fun i hi => upd_n _ _ (by omega)) (fun i hi => va_up_ne _ _ hi)
  rw [h_walk, m_walk, e1, e2, o1n, o1n, if_neg (show ¬ (1 : Int32) = 0 by decide), if_neg (show ¬ (1 : Int32) = 0 by decide)]
  by_cases b1 : b = 1
  · subst b1
    rw [if_pos rfl, if_pos rfl]
    exact core true
  · rw [if_neg b1, if_neg b1]
    by_cases b2 : b = -1
    · subst b2
      rw [if_pos rfl, if_pos rfl]
      exact core false
    · rw [if_neg b2, if_neg b2]
      exact ⟨_, _, _, _, _, _, rfl, rfl, hh⟩
theorem eq_pass (h : JR I A R P N T pl n ks Im Am) (a b : Int32) : RES I A R N T pl n ks (h_pass I A R P N T pl n ks a b) (m_pass Im Am a b) := by
  have hh := h
  obtain ⟨⟨v, hp⟩, ja, -⟩ := h
  obtain ⟨hw, ok, v8, hc, hR⟩ := hp
  have h6 := v_n ok; have h7 := v_m ok
  rcases promise_or (I := Im) (A := Am) (R := R) (G := nG) (pl := pl) hw ok a with ⟨e1, e2⟩ | ⟨m, hm, rfl, e1, e2⟩
  · exact ⟨_, _, _, _, _, _, by rw [h_pass, e2 _ _ _ _ hc, o1n, if_pos rfl], by rw [m_pass, e1, o1n, if_pos rfl], hh⟩
  have e2 := e2 _ _ _ _ hc
  rcases person_or (I := Im) (A := Am) (R := R) (G := nG) (pl := pl) hw ok b with ⟨e3, e4⟩ | ⟨p, hpp, rfl, e3, e4⟩
  · exact ⟨_, _, _, _, _, _, by rw [h_pass, e2, o1n, if_neg (show ¬ (1 : Int32) = 0 by decide), e4 _ _ _ _ hc hR, o1n, if_pos rfl], by rw [m_pass, e1, o1n, if_neg (show ¬ (1 : Int32) = 0 by decide), e3, o1n, if_pos rfl], hh⟩
  have e4 := e4 _ _ _ _ hc hR
  have hk := v_kp ok (show m < 8 by omega)
  obtain ⟨q1, q2, -⟩ := v_pr ok hm
  have hb : x_has (I 210) (nI m) = some (nI (v (65 + m))) := by
    rw [show I 210 = _ from hc.1.2.2.2.1, has_x _ (kmask_lt ok) m (by omega), kmask_b ok (by omega)]
  have x5 : ldO (A 205) 8 (nI m) = _ := ldN rfl (by omega) (by decide) (hc.2.2.2 m (by omega)).1
  have x6 : ldO (A 206) 8 (nI m) = _ := ldN rfl (by omega) (by decide) (hc.2.2.2 m (by omega)).2.1
  have e65 : ldO (Am 0) 2044 (65 + nI m) = _ := ldW hw (65 + m) (nI_add 65 m) (by omega)
  have e33 : ldO (Am 0) 2044 (33 + nI m) = _ := ldW hw (33 + m) (nI_add 33 m) (by omega)
  have e25 : ldO (Am 0) 2044 (25 + nI m) = _ := ldW hw (25 + m) (nI_add 25 m) (by omega)
  have z65 : (nI (v (65 + m)) = (0 : Int32)) = _ := z0 (a := v (65 + m)) (by omega)
  have o65 : (nI (v (65 + m)) = (1 : Int32)) = _ := eqL 1 (by omega) (by decide)
  have c1 : (nI (v (33 + m)) = nI p) = _ := eqL p (by omega) (by omega)
  have c2 : (nI (v (25 + m)) = nI p) = _ := eqL p (by omega) (by omega)
  have c3 : (nI p = nI (v (33 + m))) = _ := eqL (v (33 + m)) (by omega) (by omega)
  have c4 : (nI p = nI (v (25 + m))) = _ := eqL (v (25 + m)) (by omega) (by omega)
  simp only [h_pass, m_pass, e1, e2, e3, e4, hb, x5, x6, e65, e33, e25, o1n, n10, if_false, z65, o65, c1, c2, c3, c4]
  by_cases a1 : v (65 + m) = 0
  · rw [if_pos a1, if_neg (show ¬ v (65 + m) = 1 by omega)]
    by_cases a2 : v (33 + m) = p
    · rw [if_pos a2, if_pos a2.symm]
      exact ⟨_, _, _, _, _, _, rfl, rfl, hh⟩
    · rw [if_neg a2, if_neg (show ¬ p = v (33 + m) from fun z => a2 z.symm)]
      by_cases a3 : v (25 + m) = p
      · rw [if_pos a3, if_pos a3.symm]
        exact ⟨_, _, _, _, _, _, rfl, rfl, hh⟩
      · rw [if_neg a3, if_neg (show ¬ p = v (25 + m) from fun z => a3 z.symm)]
        obtain ⟨c, P1, Am1, c1, k1, k2, k3, k4, k5, k6⟩ := minds_j (I := I) (A := A) (Im := Im) (Am := Am) (P := P) ⟨hw, ok, v8, hc, hR⟩ ja
        have hw1 : MW v (Am1 0) := fun i hi => (k4 i (by omega)).trans (hw i hi)
        have s5 : stO (A 205) 8 (nI m) (nI p) = _ := stN _ rfl (show m < 8 by omega) (by decide)
        have s25 : stO (Am1 0) 2044 (25 + nI m) (nI p) = _ := stN _ (nI_add 25 m) (show 25 + m < 2044 by omega) (by decide)
        have ok1 := OK_fr ok hm hpp
        have cv1 := CV_fr (A1 := sh 200 (va_up A 205 (upd (A 205) m (nI p)))) ok (CV_up (a := nI c) hc) (show m < 8 by omega) p rfl ⟨rfl, rfl, rfl, rfl, rfl, rfl, rfl⟩
        have l1 := load_p (R := sh 200 R) (pl := pl) cv1 ok1 hR (show p < 2 ^ 31 by omega)
        have l2 := load_m (I := upd Im 1 (nI c)) (A := va_up Am1 0 (upd (Am1 0) (25 + m) (nI p))) (MW_set hw1 (25 + m) p) ok1 (show p < 2 ^ 31 by omega)
        refine ⟨_, _, _, _, _, _, by rw [k1, o2n, s5, o1n, l1, o1n], by rw [k2, o2n, s25, o1n, l2, o1n], ?_⟩
        exact JR_act (v1 := setv v (25 + m) p) hh k3 k4 k5 k6 ⟨MW_set hw1 _ _, ok1, by rw [setv_n _ _ (by omega)]; exact v8, cv1, hR⟩ rfl rfl rfl rfl rfl (fun i hi => upd_n _ _ (by omega)) (fun i hi => va_up_ne _ _ hi)
  · rw [if_neg a1, if_pos (show v (65 + m) = 1 by omega)]
    exact ⟨_, _, _, _, _, _, rfl, rfl, hh⟩
end ACTS
