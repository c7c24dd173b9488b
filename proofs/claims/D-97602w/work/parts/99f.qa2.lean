/-! the plain law of as -/
theorem isOf_v : ∀ kd, kd < 6 → ∀ t, t < 6 → 1 ≤ kd → m_isOf (nI kd) (nI t) = some (if (t == 0 || isK kd t) = true then 1 else 0) := by decide +kernel
theorem eq_as {I : Nat → Int32} {A : Nat → Nat → Int32} {R : Nat → Option Nat} {P : Nat → Option Par} {N : Nat → Option Rw_} {T : Int32 × (Nat → Int32)} {pl n : Nat} {ks : Nat → Nat} {Im : Nat → Int32} {Am : Nat → Nat → Int32} (h : JR I A R P N T pl n ks Im Am) (a b : Int32) : ∃ r I1 Im1 Am1, h_as I A R P N T pl n ks a b = some (r, I1) ∧ m_as Im Am a b = some (r, Im1, Am1) ∧ JR I1 A R P N T pl n ks Im1 Am1 := by
  obtain ⟨⟨v, hw, ho, hv8, hc, hR⟩, hrest⟩ := id h
  have h6 := v_n ho
  have nz : ¬ (1 : Int32) = 0 := by decide
  rcases person_or (I := Im) (A := Am) (R := R) (G := nG) (pl := pl) hw ho a with ⟨e1, e2⟩ | ⟨p, hp, rfl, e1, e2⟩
  · refine ⟨-1000001, I, Im, Am, ?_, ?_, h⟩
    · unfold h_as; rw [e2 _ _ _ _ hc hR]; rfl
    · unfold m_as; rw [e1]; rfl
  · have e2 := e2 _ _ _ _ hc hR
    have hn := hc.1.1
    have eg : pgO n (nI p) = some p := pgN rfl (by omega) (by omega)
    have ek : ks p = v (10 + p) := hc.1.2.1 p (by omega)
    have hk := v_k ho hp
    have e10 : ldO (Am 0) 2044 (10 + nI p) = _ := ldW hw (10 + p) (nI_add 10 p) (by omega)
    rcases in_ab b (L := 0) (H := 5) 0 5 rfl rfl (by decide) with h1 | ⟨t, _, ht, rfl, h1⟩
    · refine ⟨-1000001, I, Im, Am, ?_, ?_, h⟩
      · unfold h_as; rw [e2, o1n, if_neg nz, h1]; rfl
      · unfold m_as; rw [e1, o1n, if_neg nz, m_in_x, h1]; rfl
    · have eo := isOf_v (v (10 + p)) (by omega) t (by omega) hk.1
      have jn : ∀ x, JR (upd I 110 x) A R P N T pl n ks (upd Im 7 x) Am := fun x => JR_rw h hrest.2.2.1 ⟨rfl, rfl, rfl, rfl⟩
      have hx : h_as I A R P N T pl n ks (nI p) (nI t) = if (t == 0 || isK (v (10 + p)) t) = true then some (nI p, upd I 110 0) else some ((-1000010) - 3, upd I 110 3) := by
        unfold h_as
        rw [e2, o1n, if_neg nz, h1, o1n, if_neg nz, grdO hR, o1n, eg, o1n, ek]
        rcases (show t = 0 ∨ t = 1 ∨ t = 2 ∨ t = 3 ∨ t = 4 ∨ t = 5 by omega) with rfl | rfl | rfl | rfl | rfl | rfl
        · rw [if_pos (by decide)]; rfl
        · rw [if_neg (by decide), if_pos (by decide)]
          cases isK (v (10 + p)) 1 <;> rfl
        · rw [if_neg (by decide), if_neg (by decide), if_pos (by decide)]
          cases isK (v (10 + p)) 2 <;> rfl
        · rw [if_neg (by decide), if_neg (by decide), if_neg (by decide), if_pos (by decide)]
          cases isK (v (10 + p)) 3 <;> rfl
        · rw [if_neg (by decide), if_neg (by decide), if_neg (by decide), if_neg (by decide), if_pos (by decide)]
          cases isK (v (10 + p)) 4 <;> rfl
        · rw [if_neg (by decide), if_neg (by decide), if_neg (by decide), if_neg (by decide), if_neg (by decide)]
          cases isK (v (10 + p)) 5 <;> rfl
      have hm : m_as Im Am (nI p) (nI t) = if (t == 0 || isK (v (10 + p)) t) = true then some (nI p, upd Im 7 0, Am) else some ((-1000010) - 3, upd Im 7 3, Am) := by
        unfold m_as
        rw [e1, o1n, if_neg nz, m_in_x, h1, o1n, if_neg nz, e10, o1n, eo, o1n]
        cases (t == 0 || isK (v (10 + p)) t) <;> rfl
      rw [hx, hm]
      cases (t == 0 || isK (v (10 + p)) t)
      · exact ⟨(-1000010) - 3, upd I 110 3, upd Im 7 3, Am, rfl, rfl, jn 3⟩
      · exact ⟨nI p, upd I 110 0, upd Im 7 0, Am, rfl, rfl, jn 0⟩
