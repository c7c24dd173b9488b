/-! PLAIN LAW 15: keeps, the search and the component -/
set_option maxRecDepth 100000
def dist (a b : Nat) : Nat := if b ≤ a then a - b else b - a
theorem dist_le {a b c : Nat} (ha : a ≤ c) (hb : b ≤ c) : dist a b ≤ c := by
  unfold dist
  split <;> omega
theorem ab_s {a b : Nat} (ha : a < 2 ^ 20) (hb : b < 2 ^ 20) : abI (nI a - nI b) = nI (dist a b) := by
  unfold abI dist
  have c := ge0 (a := a) (b := b) (by omega) (by omega)
  simp only [c]
  by_cases q : b ≤ a
  · rw [if_pos q, if_pos q, pk_sub q]
  · rw [if_neg q, if_neg q, zsub', pk_sub (by omega)]
theorem pl_s {a b : Nat} (ha : a < 2 ^ 20) (hb : b < 2 ^ 20) : m_plain (nI a - nI b) = some (nI (dist a b)) := by
  unfold dist
  have c := ge0 (a := a) (b := b) (by omega) (by omega)
  simp only [m_plain, c]
  by_cases q : b ≤ a
  · rw [if_pos q, if_pos q, o1, pk_sub q]
  · rw [if_neg q, if_neg q, o1, neg_sub', pk_sub (by omega)]
def mI (B : Nat) : Int32 := nI B - 1
theorem mI_lt {B x : Nat} (hB : B < 2 ^ 30) (hx : x < 2 ^ 30) : (mI B < nI x) = (B ≤ x) := by
  refine propext ?_
  rw [Int32.lt_iff_toInt_lt, nI_toInt (by omega), show mI B = nI B - nI 1 from rfl, pk_sub_toInt hB (by decide)]
  omega
theorem mI_s (t : Nat) : nI t = mI (t + 1) := (pk_sub (a := t + 1) (b := 1) (by omega)).symm
def lpF {σ : Type} (f : Nat → σ → σ) : Nat → Nat → σ → σ
  | 0, _, s => s
  | e + 1, j, s => lpF f e (j + 1) (f j s)
theorem lpF_s {σ : Type} (f : Nat → σ → σ) (e j : Nat) (s : σ) : lpF f (e + 1) j s = lpF f e (j + 1) (f j s) := rfl
theorem lpF_id {σ : Type} (f : Nat → σ → σ) (s : σ) : ∀ e j, (∀ i, j ≤ i → i < j + e → f i s = s) → lpF f e j s = s := by
  intro e
  induction e with
  | zero => intro j _; rfl
  | succ e ih =>
    intro j h
    rw [lpF_s, h j (Nat.le_refl _) (by omega)]
    exact ih (j + 1) (fun i h1 h2 => h i (by omega) (by omega))
def tm (v : Nat → Nat) (j x : Nat) : Nat := if v (49 + j) < x then 0 else 1
theorem tm_le (v : Nat → Nat) (j x : Nat) : tm v j x ≤ 1 := by unfold tm; split <;> omega
/-- all orders, the best of them -/
def srN (v : Nat → Nat) : Nat → (Nat → Nat) → Nat → Nat → Nat → Nat → Nat → Nat × (Nat → Nat) → Nat × (Nat → Nat)
  | 0, line, _, _, _, _, t, st => if t + 0 + 1 ≤ st.1 then st else (t + 1, line)
  | d + 1, line, k, left, place, day, t, st => if t + (d + 1) + 1 ≤ st.1 then st else
      lpF (fun j s => if left / 2 ^ j % 2 = 0 then s else srN v d (setv line k j) (k + 1) (left - 2 ^ j) (v (57 + j)) (day + dist (v (57 + j)) place) (t + tm v j (day + dist (v (57 + j)) place)) s) 8 0 st
def bdy (v : Nat → Nat) (d : Nat) (line : Nat → Nat) (k left place day t : Nat) : Nat → Nat × (Nat → Nat) → Nat × (Nat → Nat) := fun j s => if left / 2 ^ j % 2 = 0 then s else srN v d (setv line k j) (k + 1) (left - 2 ^ j) (v (57 + j)) (day + dist (v (57 + j)) place) (t + tm v j (day + dist (v (57 + j)) place)) s
theorem srN_s (v : Nat → Nat) (d : Nat) (line : Nat → Nat) (k left place day t : Nat) (st : Nat × (Nat → Nat)) : srN v (d + 1) line k left place day t st = if t + (d + 1) + 1 ≤ st.1 then st else lpF (bdy v d line k left place day t) 8 0 st := rfl
theorem srN_p (v : Nat → Nat) (d : Nat) (line : Nat → Nat) (k left place day t : Nat) (st : Nat × (Nat → Nat)) (h : t + d + 1 ≤ st.1) : srN v d line k left place day t st = st := by
  cases d with
  | zero => exact if_pos h
  | succ d => exact if_pos h
theorem bdy_p (v : Nat → Nat) (d : Nat) (line : Nat → Nat) (k left place day t j : Nat) (st : Nat × (Nat → Nat)) (h : t + (d + 1) + 1 ≤ st.1) : bdy v d line k left place day t j st = st := by
  unfold bdy
  split
  · rfl
  · exact srN_p v d _ _ _ _ _ _ st (by have := tm_le v j (day + dist (v (57 + j)) place); omega)
theorem popc_b : ∀ x, x < 256 → ∀ j, j < 8 → x / 2 ^ j % 2 = 1 → popc (x - 2 ^ j) + 1 = popc x := by decide +kernel
theorem sub_lt {x j m : Nat} (h : x < 2 ^ m) : x - 2 ^ j < 2 ^ m := Nat.lt_of_le_of_lt (Nat.sub_le _ _) h
theorem cpK (f g : Nat → Int32) {k : Nat} (h : k ≤ 8) : cpO f g 8 8 0 0 (nI k) = some (va_cpy f g 0 0 k) := by
  unfold cpO
  rw [nI_clamp (by omega), show (0 : Int32).toNatClampNeg = 0 from rfl, if_neg]
  rintro (z | z | z | z | z)
  · exact absurd z (by decide)
  · exact absurd z (by decide)
  · exact ltz (by omega) z
  · omega
  · omega
theorem popc_0 : ∀ x, x < 256 → popc x = 0 → x = 0 := by decide +kernel
theorem popc_n : ∀ x, x < 256 → popc x ≠ 0 → ¬ x = 0 := by decide +kernel
theorem popc_8 (x : Nat) : popc x ≤ 8 := by unfold popc; omega
/-- the best is at least what was -/
theorem lpF_inv {σ : Type} (P : σ → Prop) (f : Nat → σ → σ) (h : ∀ j s, P s → P (f j s)) : ∀ e j s, P s → P (lpF f e j s) := by
  intro e
  induction e with
  | zero => intro j s hs; exact hs
  | succ e ih => intro j s hs; exact ih (j + 1) _ (h j s hs)
theorem srN_b (v : Nat → Nat) : ∀ d line k left place day t st, st.1 ≤ 20 → t + d ≤ 10 → (srN v d line k left place day t st).1 ≤ 20 := by
  intro d
  induction d with
  | zero =>
    intro line k left place day t st h1 h2
    show (if t + 0 + 1 ≤ st.1 then st else (t + 1, line)).1 ≤ 20
    split
    · exact h1
    · show t + 1 ≤ 20
      omega
  | succ d ih =>
    intro line k left place day t st h1 h2
    rw [srN_s]
    split
    · exact h1
    · refine lpF_inv (fun s => s.1 ≤ 20) _ (fun j s hs => ?_) 8 0 st h1
      unfold bdy
      split
      · exact hs
      · exact ih _ _ _ _ _ _ s hs (by have := tm_le v j (day + dist (v (57 + j)) place); omega)
theorem srN_m (v : Nat → Nat) : ∀ d line k left place day t st, 1 ≤ st.1 → 1 ≤ (srN v d line k left place day t st).1 := by
  intro d
  induction d with
  | zero =>
    intro line k left place day t st h1
    show 1 ≤ (if t + 0 + 1 ≤ st.1 then st else (t + 1, line)).1
    split
    · exact h1
    · show 1 ≤ t + 1
      omega
  | succ d ih =>
    intro line k left place day t st h1
    rw [srN_s]
    split
    · exact h1
    · refine lpF_inv (fun s => 1 ≤ s.1) _ (fun j s hs => ?_) 8 0 st h1
      unfold bdy
      split
      · exact hs
      · exact ih _ _ _ _ _ _ s hs
theorem lpF_hit {σ : Type} (P : σ → Prop) (f : Nat → σ → σ) (h : ∀ j s, P s → P (f j s)) (i : Nat) (hi : ∀ s, P (f i s)) : ∀ e j s, j ≤ i → i < j + e → P (lpF f e j s) := by
  intro e
  induction e with
  | zero => intro j s h1 h2; omega
  | succ e ih =>
    intro j s h1 h2
    rw [lpF_s]
    by_cases c : j = i
    · subst c
      exact lpF_inv P f h e (j + 1) _ (hi s)
    · exact ih (j + 1) _ (by omega) (by omega)
theorem bit_ex : ∀ x, x < 256 → popc x ≠ 0 → ∃ j, j < 8 ∧ x / 2 ^ j % 2 = 1 := by decide +kernel
theorem srN_1 (v : Nat → Nat) : ∀ d line k left place day t st, left < 256 → popc left = d → 1 ≤ (srN v d line k left place day t st).1 := by
  intro d
  induction d with
  | zero =>
    intro line k left place day t st hl h1
    show 1 ≤ (if t + 0 + 1 ≤ st.1 then st else (t + 1, line)).1
    split
    · omega
    · show 1 ≤ t + 1
      omega
  | succ d ih =>
    intro line k left place day t st hl h1
    rw [srN_s]
    split
    · omega
    · obtain ⟨i, i8, ib⟩ := bit_ex left hl (by omega)
      have pb := popc_b left hl i i8 ib
      refine lpF_hit (fun s => 1 ≤ s.1) _ (fun j s hs => ?_) i (fun s => ?_) 8 0 st (Nat.zero_le _) (by omega)
      · unfold bdy
        split
        · exact hs
        · exact srN_m v d _ _ _ _ _ _ s hs
      · unfold bdy
        rw [if_neg (by omega)]
        exact ih _ _ _ _ _ _ s (Nat.lt_of_le_of_lt (Nat.sub_le _ _) hl) (by omega)
section VIEW15
variable {v w u : Nat → Nat} {I I' : Nat → Int32} {A A' : Nat → Nat → Int32} {R : Nat → Option Nat} {G : Nat → Nat → Option Nat} {pl n : Nat} {ks : Nat → Nat}
/-- what the component's scratch says -/
def XS (N : Nat) (J : Nat → Int32) (B : Nat → Nat → Int32) (st : Nat × (Nat → Nat)) : Prop := J 113 = mI st.1 ∧ st.1 ≤ 20 ∧ (1 ≤ st.1 → ∀ i, i < N → B 112 i = nI (st.2 i))
set_option maxHeartbeats 1000000 in
theorem keepFrom_x (hc : CV v (sh 200 I') (sh 200 A') n ks) (h : OKv v) (N : Nat) (hN : N ≤ 8) : ∀ d D line k left place day t st J B, d < D → left < 2 ^ v 7 → popc left = d → k + d = N → place ≤ 5 → day + 5 * d ≤ 5000 → t ≤ k → KC I' J A' B R R → XS N J B st → (∀ i, i < k → B 111 i = nI (line i)) → ∃ J1 B1, x_keepFrom pl n ks D J B R G (nI k) (nI left) (nI place) (nI day) (nI t) = some (J1, B1) ∧ KC I' J1 A' B1 R R ∧ XS N J1 B1 (srN v d line k left place day t st) ∧ ∀ i, i < k → B1 111 i = nI (line i) := by
  have h7 := v_m h
  have p8 : 2 ^ v 7 ≤ 2 ^ 8 := Nat.pow_le_pow_right (by decide) h7
  intro d
  induction d with
  | zero =>
    intro D line k left place day t st J B hD hl hp hk hpl hd ht kc xs hb
    obtain ⟨E, rfl⟩ : ∃ E, D = E + 1 := ⟨D - 1, by omega⟩
    obtain rfl : left = 0 := popc_0 left (by omega) hp
    obtain ⟨x1, x2, x3⟩ := xs
    have bc := popc_x 0 (by decide)
    have c : (mI st.1 < nI (t + popc 0)) = _ := mI_lt (by omega) (by omega)
    by_cases q : t + 0 + 1 ≤ st.1
    · refine ⟨J, B, ?_, kc, ?_, hb⟩
      · simp only [x_keepFrom, bc, o1, x1, nI_add, c]
        rw [if_neg (by omega)]
      · rw [srN_p v 0 _ _ _ _ _ _ st q]
        exact ⟨x1, x2, x3⟩
    · have cp : cpO (B 111) (B 112) 8 8 0 0 (nI k) = some (va_cpy (B 111) (B 112) 0 0 k) := cpK _ _ (by omega)
      refine ⟨upd J 113 (nI t), va_up B 112 (va_cpy (B 111) (B 112) 0 0 k), ?_, ?_, ?_, fun i hi => hb i hi⟩
      · simp only [x_keepFrom, bc, o1, x1, nI_add, c, cp]
        rw [if_pos (by omega), if_pos (show nI 0 = 0 from rfl)]
      · exact kc.tr (fun i h1 h2 => ⟨upd_n _ _ (by omega), va_up_ne _ _ (by omega), rfl⟩)
      · have : srN v 0 line k 0 place day t st = (t + 1, line) := if_neg q
        rw [this]
        refine ⟨(upd_s _ _ _).trans (mI_s t), by omega, fun _ i hi => ?_⟩
        show va_cpy (B 111) (B 112) 0 0 k i = nI (line i)
        rw [cpy0 _ _ k (by omega)]
        exact hb i (by omega)
  | succ d ih =>
    intro D line k left place day t st J B hD hl hp hk hpl hd ht kc xs hb
    obtain ⟨E, rfl⟩ : ∃ E, D = E + 1 := ⟨D - 1, by omega⟩
    have bc := popc_x left (by omega)
    have c : (mI st.1 < nI (t + popc left)) = _ := mI_lt (by have := xs.2.1; omega) (by omega)
    by_cases q : t + (d + 1) + 1 ≤ st.1
    · refine ⟨J, B, ?_, kc, ?_, hb⟩
      · simp only [x_keepFrom, bc, o1, xs.1, nI_add, c]
        rw [if_neg (by omega)]
      · rw [srN_p v (d + 1) _ _ _ _ _ _ st q]
        exact xs
    · have l0 : (nI left = (0 : Int32)) = _ := z0 (a := left) (by omega)
      have ln : ¬ left = 0 := popc_n left (by omega) (by omega)
      have hr := lp_rel (fun f (s : (Nat → Int32) × (Nat → Nat → Int32) × Int32) => x_keepFrom_L43 (x_keepFrom pl n ks E) R G pl n ks (nI k) (nI left) (nI place) (nI day) (nI t) f s.1 s.2.1 s.2.2)
        (fun i s => s.2.2 = nI i ∧ KC I' s.1 A' s.2.1 R R ∧ (∀ i, i < k → s.2.1 111 i = nI (line i)) ∧ ∃ st1, XS N s.1 s.2.1 st1 ∧ lpF (bdy v d line k left place day t) (8 - i) i st1 = lpF (bdy v d line k left place day t) 8 0 st) (v 7)
        (fun s => KC I' s.1 A' s.2.1 R R ∧ (∀ i, i < k → s.2.1 111 i = nI (line i)) ∧ XS N s.1 s.2.1 (lpF (bdy v d line k left place day t) 8 0 st))
        (fun f s hs => by
          obtain ⟨J, B, x⟩ := s
          obtain ⟨rfl, g1, g2, st1, g3, g4⟩ := hs
          have z4 : J 204 = nI (v 7) := (KC_cv g1 hc).1.2.2.1
          refine ⟨(J, B, nI (v 7)), ?_, g1, g2, ?_⟩
          · simp only [x_keepFrom_L43, z4]
            rw [if_pos (nI_le (Nat.le_refl _) (by omega))]
          · rw [← g4, lpF_id _ _ _ _ (fun i h1 h2 => by
              unfold bdy
              rw [if_pos (bit_hi hl h1)])]
            exact g3)
        (fun f j s hj hs => by
          obtain ⟨J, B, x⟩ := s
          obtain ⟨rfl, g1, g2, st1, g3, g4⟩ := hs
          have g1 : KC I' J A' B R R := g1
          have g2 : ∀ i, i < k → B 111 i = nI (line i) := g2
          have g3 : XS N J B st1 := g3
          have cv := KC_cv g1 hc
          have z4 : J 204 = nI (v 7) := cv.1.2.2.1
          have nge : ¬ nI (v 7) ≤ nI j := nI_ge hj (by omega)
          have c0 : (nI (left / 2 ^ j % 2) = (0 : Int32)) = _ := z0 (a := left / 2 ^ j % 2) (by omega)
          have e8 : 8 - j = (8 - (j + 1)) + 1 := by omega
          have g4 : lpF (bdy v d line k left place day t) (8 - j) j st1 = _ := g4
          rw [e8, lpF_s] at g4
          by_cases b0 : left / 2 ^ j % 2 = 0
          · have hbd : bdy v d line k left place day t j st1 = st1 := if_pos b0
            rw [hbd] at g4
            refine Or.inl ⟨(J, B, nI (j + 1)), ⟨rfl, g1, g2, st1, g3, g4⟩, ?_⟩
            simp only [x_keepFrom_L43, z4, has_x left (by omega) j (by omega), o1, c0]
            rw [if_neg nge, if_pos b0, o2, nI_1]
          · have b1 : left / 2 ^ j % 2 = 1 := by omega
            have hbd : bdy v d line k left place day t j st1 = srN v d (setv line k j) (k + 1) (left - 2 ^ j) (v (57 + j)) (day + dist (v (57 + j)) place) (t + tm v j (day + dist (v (57 + j)) place)) st1 := if_neg b0
            have pb := popc_b left (by omega) j (by omega) b1
            obtain ⟨-, -, -, pd, pa⟩ := v_pr h hj
            have dl := dist_le (a := v (57 + j)) (b := place) (c := 5) pa hpl
            have tl := tm_le v j (day + dist (v (57 + j)) place)
            have e9 : ldO (B 209) 8 (nI j) = _ := ldN rfl (show j < 8 by omega) (by decide) (cv.2.2.2 j (by omega)).2.2.2.2
            have e8' : ldO (B 208) 8 (nI j) = _ := ldN rfl (show j < 8 by omega) (by decide) (cv.2.2.2 j (by omega)).2.2.2.1
            have st' : stO (B 111) 8 (nI k) (nI j) = _ := stN _ rfl (show k < 8 by omega) (by decide)
            have cd : (nI (v (49 + j)) < nI (day + dist (v (57 + j)) place)) = _ := ltL (by omega) (by omega)
            have tv : (if v (49 + j) < day + dist (v (57 + j)) place then (0 : Int32) else 1) = nI (tm v j (day + dist (v (57 + j)) place)) := by
              unfold tm
              split <;> rfl
            obtain ⟨J1, B1, r1, r2, r3, r4⟩ := ih E (setv line k j) (k + 1) (left - 2 ^ j) (v (57 + j)) (day + dist (v (57 + j)) place) (t + tm v j (day + dist (v (57 + j)) place)) st1 J (va_up B 111 (upd (B 111) k (nI j))) (by omega) (sub_lt hl) (by omega) (by omega) pa (by omega) (by omega) (g1.tr (fun i h1 h2 => ⟨rfl, va_up_ne _ _ (by omega), rfl⟩)) ⟨g3.1, g3.2.1, g3.2.2⟩ (fun i hi => by
              show upd (B 111) k (nI j) i = nI (setv line k j i)
              by_cases e : i = k
              · rw [e, upd_s, setv_s]
              · rw [upd_n _ _ e, setv_n _ _ e]
                exact g2 i (by omega))
            rw [hbd] at g4
            refine Or.inl ⟨(J1, B1, nI (j + 1)), ⟨rfl, r2, fun i hi => ?_, _, r3, g4⟩, ?_⟩
            · have := r4 i (by omega)
              rw [setv_n _ _ (by omega)] at this
              exact this
            · simp only [x_keepFrom_L43, z4, has_x left (by omega) j (by omega), o1, c0, e9, st', va_up_ne B (j := 209) (k := 111) _ (by decide), va_up_ne B (j := 208) (k := 111) _ (by decide), e8', ab_s (show v (57 + j) < 2 ^ 20 by omega) (show place < 2 ^ 20 by omega), nI_add, cd, ife, tv, nI_1, andn_b left (by omega) j (by omega) b1, r1, o2]
              rw [if_neg nge, if_neg b0, o2]) NF (J, B, 0) (NFb (by omega)) ⟨rfl, kc, hb, st, xs, rfl⟩
      obtain ⟨⟨J1, B1, x⟩, g1, g2, g3, g4⟩ := hr
      have g1 : x_keepFrom_L43 (x_keepFrom pl n ks E) R G pl n ks (nI k) (nI left) (nI place) (nI day) (nI t) NF J B 0 = _ := g1
      refine ⟨J1, B1, ?_, g2, ?_, g3⟩
      · simp only [x_keepFrom, bc, o1, xs.1, nI_add, c, l0, g1, o3]
        rw [if_pos (by omega), if_neg ln]
      · rw [srN_s, if_neg q]
        exact g4
end VIEW15
