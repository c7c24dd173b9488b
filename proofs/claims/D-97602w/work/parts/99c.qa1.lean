/-! the plain law of ask -/
def TQ (I : Nat → Int32) (A : Nat → Nat → Int32) (Im0 : Nat → Int32) (Am0 : Nat → Nat → Int32) (It : Nat → Int32) (At : Nat → Nat → Int32) (Im : Nat → Int32) (Am : Nat → Nat → Int32) : Prop := (∀ i, 200 ≤ i → It i = I i) ∧ (∀ i, 200 ≤ i → At i = A i) ∧ (∀ i, i ≠ 23 → Im i = Im0 i) ∧ (∀ i, i ≠ 22 → Am i = Am0 i) ∧ JQ (It 101, At 100) Im (Am 22)
def RT (I : Nat → Int32) (A : Nat → Nat → Int32) (Im0 : Nat → Int32) (Am0 : Nat → Nat → Int32) (x y : Option (Int32 × (Nat → Int32) × (Nat → Nat → Int32))) : Prop := ∃ r It At Im Am, x = some (r, It, At) ∧ y = some (r, Im, Am) ∧ TQ I A Im0 Am0 It At Im Am
def QC (v : Nat → Nat) (pl n : Nat) (ks : Nat → Nat) (I : Nat → Int32) (A : Nat → Nat → Int32) (R : Nat → Option Nat) (Am0 : Nat → Nat → Int32) (p : Nat) : Prop := MW v (Am0 0) ∧ OKv v ∧ CV v (sh 200 I) (sh 200 A) n ks ∧ R 201 = some pl ∧ p < v 6
section QA
variable {I It : Nat → Int32} {A At : Nat → Nat → Int32} {Im0 Im : Nat → Int32} {Am0 Am : Nat → Nat → Int32} {R : Nat → Option Nat} {G : Nat → Nat → Option Nat} {pl n : Nat} {ks : Nat → Nat} {v : Nat → Nat}
theorem tq_leaf (b : Int32) (h : TQ I A Im0 Am0 It At Im Am) : ∃ It' At' Im' Am', t_begins It At R G b = some (It', At') ∧ m_leaves Im Am b = some (Im', Am') ∧ TQ I A Im0 Am0 It' At' Im' Am' := by
  obtain ⟨h1, h2, h3, h4, q, hq, e1, e2, e3⟩ := h
  have e1 : It 101 = nI q := e1
  by_cases c : 16 ≤ q
  · have c1 : (16 : Int32) ≤ It 101 := by rw [e1]; exact nI_le (a := 16) c (by omega)
    have c2 : (16 : Int32) ≤ Im 23 := by rw [e2]; exact nI_le (a := 16) c (by omega)
    refine ⟨It, At, Im, Am, ?_, ?_, h1, h2, h3, h4, q, hq, e1, e2, e3⟩
    · unfold t_begins; rw [if_pos c1]; rfl
    · unfold m_leaves; rw [if_pos c2]; rfl
  · have c1 : ¬ (16 : Int32) ≤ It 101 := by rw [e1]; exact fun z => c ((nI_leI (a := 16) (by decide) (by omega)).mp z)
    have c2 : ¬ (16 : Int32) ≤ Im 23 := by rw [e2]; exact fun z => c ((nI_leI (a := 16) (by decide) (by omega)).mp z)
    have s1 : stO (At 100) 16 (It 101) b = some (upd (At 100) q b) := stN b e1 (by omega) (by decide)
    have s2 : stO (Am 22) 16 (Im 23) b = some (upd (Am 22) q b) := stN b e2 (by omega) (by decide)
    refine ⟨upd It 101 (It 101 + 1), va_up At 100 (upd (At 100) q b), upd Im 23 (Im 23 + 1), va_up Am 22 (upd (Am 22) q b), ?_, ?_, fun i hi => ?_, fun i hi => ?_, fun i hi => ?_, fun i hi => ?_, q + 1, by omega, ?_, ?_, fun k hk => ?_⟩
    · unfold t_begins; rw [if_neg c1, s1]; rfl
    · unfold m_leaves; rw [if_neg c2, s2]; rfl
    · rw [upd_n _ _ (by omega)]; exact h1 i hi
    · rw [va_up_ne _ _ (by omega)]; exact h2 i hi
    · rw [upd_n _ _ hi]; exact h3 i hi
    · rw [va_up_ne _ _ hi]; exact h4 i hi
    · show upd It 101 (It 101 + 1) 101 = _
      rw [upd_s, e1]; exact nI_add q 1
    · rw [upd_s, e2]; exact nI_add q 1
    · show va_up At 100 (upd (At 100) q b) 100 k = va_up Am 22 (upd (Am 22) q b) 22 k
      rw [va_up_self, va_up_self]
      by_cases ek : k = q
      · rw [ek, upd_s, upd_s]
      · rw [upd_n _ _ ek, upd_n _ _ ek]; exact e3 k (by omega)
theorem rt_leaf {b : Int32} {f g : (Nat → Int32) → (Nat → Nat → Int32) → Option (Int32 × (Nat → Int32) × (Nat → Nat → Int32))} (h : TQ I A Im0 Am0 It At Im Am) (k : ∀ It At Im Am, TQ I A Im0 Am0 It At Im Am → RT I A Im0 Am0 (f It At) (g Im Am)) : RT I A Im0 Am0 (ob2 (t_begins It At R G b) f) (ob2 (m_leaves Im Am b) g) := by
  obtain ⟨a, b', c, d, e1, e2, h'⟩ := tq_leaf (R := R) (G := G) b h
  rw [e1, e2]
  exact k a b' c d h'
theorem rt_bind {x y : Option (Int32 × (Nat → Int32) × (Nat → Nat → Int32))} {f g : Int32 → (Nat → Int32) → (Nat → Nat → Int32) → Option (Int32 × (Nat → Int32) × (Nat → Nat → Int32))} (h : RT I A Im0 Am0 x y) (k : ∀ r It At Im Am, TQ I A Im0 Am0 It At Im Am → RT I A Im0 Am0 (f r It At) (g r Im Am)) : RT I A Im0 Am0 (ob3 x f) (ob3 y g) := by
  obtain ⟨r, a, b, c, d, rfl, rfl, h'⟩ := h
  exact k r a b c d h'
theorem rt_ret {r : Int32} (h : TQ I A Im0 Am0 It At Im Am) : RT I A Im0 Am0 (some (r, It, At)) (some (r, Im, Am)) := ⟨r, It, At, Im, Am, rfl, rfl, h⟩
theorem tq_mw (h : TQ I A Im0 Am0 It At Im Am) (hw : MW v (Am0 0)) : MW v (Am 0) := by rw [h.2.2.2.1 0 (by decide)]; exact hw
theorem tq_cv (h : TQ I A Im0 Am0 It At Im Am) (hc : CV v (sh 200 I) (sh 200 A) n ks) : CV v (sh 200 It) (sh 200 At) n ks := by
  have e1 : sh 200 It = sh 200 I := funext fun i => h.1 (200 + i) (Nat.le_add_right _ _)
  have e2 : sh 200 At = sh 200 A := funext fun i => h.2.1 (200 + i) (Nat.le_add_right _ _)
  rw [e1, e2]; exact hc
variable {p : Nat}
theorem rt_load (hq : QC v pl n ks I A R Am0 p) {f g : Int32 → Option (Int32 × (Nat → Int32) × (Nat → Nat → Int32))} (h : TQ I A Im0 Am0 It At Im Am) (k : ∀ r, RT I A Im0 Am0 (f r) (g r)) : RT I A Im0 Am0 (ob1 (p_load (sh 200 It) (sh 200 At) (sh 200 R) pl n ks (nI p)) f) (ob1 (m_loadOf Im Am (nI p)) g) := by
  obtain ⟨hw, ho, hc, hR, hp⟩ := id hq
  have h6 := v_n ho
  have e1 := load_p (R := sh 200 R) (pl := pl) (tq_cv h hc) ho hR (p := p) (by omega)
  have e2 := load_m (I := Im) (tq_mw h hw) ho (p := p) (by omega)
  rw [e1, e2]
  exact k _
theorem rt_str (hq : QC v pl n ks I A R Am0 p) {f g : Int32 → Option (Int32 × (Nat → Int32) × (Nat → Nat → Int32))} (h : TQ I A Im0 Am0 It At Im Am) (k : ∀ r, RT I A Im0 Am0 (f r) (g r)) : RT I A Im0 Am0 (ob1 (ldO (At 202) 5 (nI p)) f) (ob1 (ldO (Am 0) 2044 (15 + nI p)) g) := by
  obtain ⟨hw, ho, hc, hR, hp⟩ := id hq
  have h6 := v_n ho
  have e1 : ldO (At 202) 5 (nI p) = some (nI (v (15 + p))) := ldN rfl (by omega) (by decide) (((tq_cv h hc).2.2.1 p (by omega)).1)
  have e2 : ldO (Am 0) 2044 (15 + nI p) = some (nI (v (15 + p))) := ldW (tq_mw h hw) (15 + p) (nI_add 15 p) (by omega)
  rw [e1, e2]
  exact k _
theorem rt_kind (hq : QC v pl n ks I A R Am0 p) (h : TQ I A Im0 Am0 It At Im Am) : ldO (Am 0) 2044 (10 + nI p) = some (nI (v (10 + p))) := by
  obtain ⟨hw, ho, hc, hR, hp⟩ := id hq
  have h6 := v_n ho
  exact ldW (tq_mw h hw) (10 + p) (nI_add 10 p) (by omega)
theorem rt_m9 (hq : QC v pl n ks I A R Am0 p) (h : TQ I A Im0 Am0 It At Im Am) : RT I A Im0 Am0 (t9m_mark It At R G pl n ks (nI p)) (m_bareMark Im Am (nI p)) := rt_leaf h fun _ _ _ _ h => rt_ret h
theorem rt_m10 (hq : QC v pl n ks I A R Am0 p) (h : TQ I A Im0 Am0 It At Im Am) : RT I A Im0 Am0 (t10m_mark It At R G pl n ks (nI p)) (m_bareMark Im Am (nI p)) := rt_leaf h fun _ _ _ _ h => rt_ret h
theorem rt_m11 (hq : QC v pl n ks I A R Am0 p) (h : TQ I A Im0 Am0 It At Im Am) : RT I A Im0 Am0 (t11m_mark It At R G pl n ks (nI p)) (m_bareMark Im Am (nI p)) := rt_leaf h fun _ _ _ _ h => rt_ret h
theorem rt_m12 (hq : QC v pl n ks I A R Am0 p) (h : TQ I A Im0 Am0 It At Im Am) : RT I A Im0 Am0 (t12m_mark It At R G pl n ks (nI p)) (m_bareMark Im Am (nI p)) := rt_leaf h fun _ _ _ _ h => rt_ret h
theorem rt_m13 (hq : QC v pl n ks I A R Am0 p) (h : TQ I A Im0 Am0 It At Im Am) : RT I A Im0 Am0 (t13m_mark It At R G pl n ks (nI p)) (m_bareMark Im Am (nI p)) := rt_leaf h fun _ _ _ _ h => rt_ret h
theorem rt_g9 (hq : QC v pl n ks I A R Am0 p) (h : TQ I A Im0 Am0 It At Im Am) : RT I A Im0 Am0 (t9g_mark It At R G pl n ks (nI p)) (m_grownMark Im Am (nI p)) := rt_leaf h fun _ _ _ _ h => rt_bind (rt_m9 hq h) fun _ _ _ _ _ h => rt_str hq h fun _ => rt_ret h
theorem rt_g10 (hq : QC v pl n ks I A R Am0 p) (h : TQ I A Im0 Am0 It At Im Am) : RT I A Im0 Am0 (t10g_mark It At R G pl n ks (nI p)) (m_grownMark Im Am (nI p)) := rt_leaf h fun _ _ _ _ h => rt_bind (rt_m10 hq h) fun _ _ _ _ _ h => rt_str hq h fun _ => rt_ret h
theorem rt_g11 (hq : QC v pl n ks I A R Am0 p) (h : TQ I A Im0 Am0 It At Im Am) : RT I A Im0 Am0 (t11g_mark It At R G pl n ks (nI p)) (m_grownMark Im Am (nI p)) := rt_leaf h fun _ _ _ _ h => rt_bind (rt_m11 hq h) fun _ _ _ _ _ h => rt_str hq h fun _ => rt_ret h
theorem rt_s9 (hq : QC v pl n ks I A R Am0 p) (h : TQ I A Im0 Am0 It At Im Am) : RT I A Im0 Am0 (t9p_size It At R G pl n ks (nI p)) (m_bareSize Im Am (nI p)) := rt_leaf h fun _ _ _ _ h => rt_load hq h fun _ => rt_ret h
theorem rt_s10 (hq : QC v pl n ks I A R Am0 p) (h : TQ I A Im0 Am0 It At Im Am) : RT I A Im0 Am0 (t10p_size It At R G pl n ks (nI p)) (m_bareSize Im Am (nI p)) := rt_leaf h fun _ _ _ _ h => rt_load hq h fun _ => rt_ret h
theorem rt_s11 (hq : QC v pl n ks I A R Am0 p) (h : TQ I A Im0 Am0 It At Im Am) : RT I A Im0 Am0 (t11p_size It At R G pl n ks (nI p)) (m_bareSize Im Am (nI p)) := rt_leaf h fun _ _ _ _ h => rt_load hq h fun _ => rt_ret h
theorem rt_s12 (hq : QC v pl n ks I A R Am0 p) (h : TQ I A Im0 Am0 It At Im Am) : RT I A Im0 Am0 (t12p_size It At R G pl n ks (nI p)) (m_bareSize Im Am (nI p)) := rt_leaf h fun _ _ _ _ h => rt_load hq h fun _ => rt_ret h
theorem rt_s13 (hq : QC v pl n ks I A R Am0 p) (h : TQ I A Im0 Am0 It At Im Am) : RT I A Im0 Am0 (t13p_size It At R G pl n ks (nI p)) (m_bareSize Im Am (nI p)) := rt_leaf h fun _ _ _ _ h => rt_load hq h fun _ => rt_ret h
/-- mark of a grown one -/
theorem rt_mk1 (hq : QC v pl n ks I A R Am0 p) (ek : v (10 + p) = 1) (h : TQ I A Im0 Am0 It At Im Am) : RT I A Im0 Am0 (t9g_mark It At R G pl n ks (nI p)) (m_markOfGrown Im Am (nI p)) := by
  obtain ⟨r, a, b, c, d, e1, e2, h'⟩ := rt_g9 (G := G) hq h
  refine ⟨r, a, b, c, d, e1, ?_, h'⟩
  unfold m_markOfGrown
  rw [rt_kind hq h, ek, o1n, if_neg (by decide), o1n, if_neg (by decide), e2]
  rfl
theorem rt_mk2 (hq : QC v pl n ks I A R Am0 p) (ek : v (10 + p) = 2) (h : TQ I A Im0 Am0 It At Im Am) : RT I A Im0 Am0 (t10c_mark It At R G pl n ks (nI p)) (m_markOfGrown Im Am (nI p)) := by
  unfold m_markOfGrown t10c_mark
  rw [rt_kind hq h, ek, o1n, if_pos (by decide)]
  exact rt_leaf h fun _ _ _ _ h => rt_bind (rt_g10 hq h) fun _ _ _ _ _ h => rt_ret h
theorem rt_mk3 (hq : QC v pl n ks I A R Am0 p) (ek : v (10 + p) = 3) (h : TQ I A Im0 Am0 It At Im Am) : RT I A Im0 Am0 (t11l_mark It At R G pl n ks (nI p)) (m_markOfGrown Im Am (nI p)) := by
  unfold m_markOfGrown t11l_mark
  rw [rt_kind hq h, ek, o1n, if_neg (by decide), o1n, if_pos (by decide)]
  exact rt_leaf h fun _ _ _ _ h => rt_bind (rt_g11 hq h) fun _ _ _ _ _ h => rt_ret h
theorem rt_z1 (hq : QC v pl n ks I A R Am0 p) (ek : v (10 + p) = 1) (h : TQ I A Im0 Am0 It At Im Am) : RT I A Im0 Am0 (t9g_size It At R G pl n ks (nI p)) (m_grownSize Im Am (nI p)) := rt_leaf h fun _ _ _ _ h => rt_bind (rt_s9 hq h) fun _ _ _ _ _ h => rt_bind (rt_mk1 hq ek h) fun _ _ _ _ _ h => rt_ret h
theorem rt_z2 (hq : QC v pl n ks I A R Am0 p) (ek : v (10 + p) = 2) (h : TQ I A Im0 Am0 It At Im Am) : RT I A Im0 Am0 (t10g_size It At R G pl n ks (nI p)) (m_grownSize Im Am (nI p)) := rt_leaf h fun _ _ _ _ h => rt_bind (rt_s10 hq h) fun _ _ _ _ _ h => rt_bind (rt_mk2 hq ek h) fun _ _ _ _ _ h => rt_ret h
theorem rt_z3 (hq : QC v pl n ks I A R Am0 p) (ek : v (10 + p) = 3) (h : TQ I A Im0 Am0 It At Im Am) : RT I A Im0 Am0 (t11g_size It At R G pl n ks (nI p)) (m_grownSize Im Am (nI p)) := rt_leaf h fun _ _ _ _ h => rt_bind (rt_s11 hq h) fun _ _ _ _ _ h => rt_bind (rt_mk3 hq ek h) fun _ _ _ _ _ h => rt_ret h
theorem rt_h12 (hq : QC v pl n ks I A R Am0 p) (h : TQ I A Im0 Am0 It At Im Am) : RT I A Im0 Am0 (t12h_size It At R G pl n ks (nI p)) (m_childSize Im Am (nI p)) := rt_leaf h fun _ _ _ _ h => rt_bind (rt_s12 hq h) fun _ _ _ _ _ h => rt_ret h
theorem rt_h13 (hq : QC v pl n ks I A R Am0 p) (h : TQ I A Im0 Am0 It At Im Am) : RT I A Im0 Am0 (t13h_size It At R G pl n ks (nI p)) (m_childSize Im Am (nI p)) := rt_leaf h fun _ _ _ _ h => rt_bind (rt_s13 hq h) fun _ _ _ _ _ h => rt_ret h
theorem rt_size (hq : QC v pl n ks I A R Am0 p) (h : TQ I A Im0 Am0 It At Im Am) : RT I A Im0 Am0 (t_size (v (10 + p)) It At R pl n ks (nI p)) (m_sizeOf Im Am (nI p)) := by
  obtain ⟨hw, ho, hc, hR, hp⟩ := id hq
  have hk := v_k ho hp
  unfold m_sizeOf t_size
  rw [rt_kind hq h]
  rcases (show v (10 + p) = 1 ∨ v (10 + p) = 2 ∨ v (10 + p) = 3 ∨ v (10 + p) = 4 ∨ v (10 + p) = 5 by omega) with e | e | e | e | e
  · obtain ⟨r, a, b, c, d, e1, e2, h'⟩ := rt_z1 (G := nG) hq e h
    rw [e, o1n, if_pos rfl, if_neg (by decide), if_neg (by decide), if_neg (by decide), if_neg (by decide), e1, e2]
    exact ⟨r, a, b, c, d, rfl, rfl, h'⟩
  · rw [e, o1n, if_neg (by decide), if_pos rfl, if_pos (by decide)]
    exact rt_leaf h fun _ _ _ _ h => rt_bind (rt_z2 hq e h) fun _ _ _ _ _ h => rt_ret h
  · obtain ⟨r, a, b, c, d, e1, e2, h'⟩ := rt_z3 (G := nG) hq e h
    rw [e, o1n, if_neg (by decide), if_neg (by decide), if_pos rfl, if_neg (by decide), if_pos (by decide), e1, e2]
    exact ⟨r, a, b, c, d, rfl, rfl, h'⟩
  · obtain ⟨r, a, b, c, d, e1, e2, h'⟩ := rt_h12 (G := nG) hq h
    rw [e, o1n, if_neg (by decide), if_neg (by decide), if_neg (by decide), if_pos rfl, if_neg (by decide), if_neg (by decide), if_pos (by decide), e1, e2]
    exact ⟨r, a, b, c, d, rfl, rfl, h'⟩
  · rw [e, o1n, if_neg (by decide), if_neg (by decide), if_neg (by decide), if_neg (by decide), if_neg (by decide), if_neg (by decide), if_neg (by decide), if_pos (by decide)]
    exact rt_leaf h fun _ _ _ _ h => rt_bind (rt_h13 hq h) fun _ _ _ _ _ h => rt_ret h
theorem rt_mark (hq : QC v pl n ks I A R Am0 p) (h : TQ I A Im0 Am0 It At Im Am) : RT I A Im0 Am0 (t_mark (v (10 + p)) It At R pl n ks (nI p)) (m_markOf Im Am (nI p)) := by
  obtain ⟨hw, ho, hc, hR, hp⟩ := id hq
  have hk := v_k ho hp
  have hs := fun {It At Im Am} (h : TQ I A Im0 Am0 It At Im Am) => rt_size (pl := pl) hq h
  unfold m_markOf t_mark
  rw [rt_kind hq h]
  rcases (show v (10 + p) = 1 ∨ v (10 + p) = 2 ∨ v (10 + p) = 3 ∨ v (10 + p) = 4 ∨ v (10 + p) = 5 by omega) with e | e | e | e | e
  · obtain ⟨r, a, b, c, d, e1, e2, h'⟩ := rt_mk1 (G := nG) hq e h
    rw [e, o1n, if_pos rfl, if_neg (by decide), e1, e2]
    exact ⟨r, a, b, c, d, rfl, rfl, h'⟩
  · obtain ⟨r, a, b, c, d, e1, e2, h'⟩ := rt_mk2 (G := nG) hq e h
    rw [e, o1n, if_neg (by decide), if_pos rfl, if_neg (by decide), e1, e2]
    exact ⟨r, a, b, c, d, rfl, rfl, h'⟩
  · obtain ⟨r, a, b, c, d, e1, e2, h'⟩ := rt_mk3 (G := nG) hq e h
    rw [e, o1n, if_neg (by decide), if_neg (by decide), if_pos rfl, if_neg (by decide), e1, e2]
    exact ⟨r, a, b, c, d, rfl, rfl, h'⟩
  · rw [e, o1n, if_neg (by decide), if_neg (by decide), if_neg (by decide), if_pos rfl, if_pos (by decide)]
    refine rt_leaf h fun _ _ _ _ h => rt_bind (rt_m12 hq h) fun _ _ _ _ _ h => rt_bind ?_ fun _ _ _ _ _ h => rt_ret h
    have := hs h
    unfold t_size at this
    rw [e, if_neg (by decide), if_neg (by decide), if_neg (by decide), if_pos rfl] at this
    exact this
  · rw [e, o1n, if_neg (by decide), if_neg (by decide), if_neg (by decide), if_neg (by decide), if_pos (by decide)]
    refine rt_leaf h fun _ _ _ _ h => rt_bind (rt_m13 hq h) fun _ _ _ _ _ h => rt_bind ?_ fun _ _ _ _ _ h => rt_ret h
    have := hs h
    unfold t_size at this
    rw [e, if_neg (by decide), if_neg (by decide), if_neg (by decide), if_neg (by decide)] at this
    exact this
end QA
theorem mgt_same {α : Type} {f g : Nat → α} (h : ∀ i, 200 ≤ i → g i = f i) : mgt f g = f := by
  funext i
  unfold mgt
  by_cases c : 200 ≤ i
  · rw [if_pos c]
    by_cases d : i < 300
    · rw [if_pos d]; exact h i c
    · rw [if_neg d]
  · rw [if_neg c]
theorem JR_trail {I : Nat → Int32} {A : Nat → Nat → Int32} {R : Nat → Option Nat} {P : Nat → Option Par} {N : Nat → Option Rw_} {T T1 : Int32 × (Nat → Int32)} {pl n : Nat} {ks : Nat → Nat} {Im Im1 : Nat → Int32} {Am Am1 : Nat → Nat → Int32} (h : JR I A R P N T pl n ks Im Am) (h1 : ∀ i, i ≠ 23 → Im1 i = Im i) (h2 : ∀ i, i ≠ 22 → Am1 i = Am i) (h3 : JQ T1 Im1 (Am1 22)) : JR I A R P N T1 pl n ks Im1 Am1 := by
  obtain ⟨a1, a2, a3, a4, a5, a6, a7, a8⟩ := h
  rw [← h2 0 (by decide)] at a1 a2 a3
  rw [← h2 2 (by decide)] at a3
  rw [← h2 3 (by decide), ← h2 4 (by decide), ← h2 5 (by decide)] at a4
  rw [← h2 8 (by decide)] at a5
  refine ⟨a1, ?_, a3, a4, ?_, h3, by rw [h1 7 (by decide)]; exact a7, by rw [h1 10 (by decide)]; exact a8⟩
  · obtain ⟨a, b1, b2, b3, b4⟩ := a2
    exact ⟨a, b1, b2, by rw [h1 1 (by decide)]; exact b3, b4⟩
  · obtain ⟨t, b1, b2, b3, b4⟩ := a5
    exact ⟨t, b1, b2, by rw [h1 9 (by decide)]; exact b3, b4⟩
theorem JR_r {I : Nat → Int32} {A : Nat → Nat → Int32} {R R1 : Nat → Option Nat} {P : Nat → Option Par} {N : Nat → Option Rw_} {T : Int32 × (Nat → Int32)} {pl n : Nat} {ks : Nat → Nat} {Im : Nat → Int32} {Am : Nat → Nat → Int32} (h : JR I A R P N T pl n ks Im Am) (e : R1 201 = R 201) : JR I A R1 P N T pl n ks Im Am := by
  obtain ⟨⟨v, b1, b2, b3, b4, b5⟩, a⟩ := h
  exact ⟨⟨v, b1, b2, b3, b4, by rw [e]; exact b5⟩, a⟩
theorem eq_ask {I : Nat → Int32} {A : Nat → Nat → Int32} {R : Nat → Option Nat} {P : Nat → Option Par} {N : Nat → Option Rw_} {T : Int32 × (Nat → Int32)} {pl n : Nat} {ks : Nat → Nat} {Im : Nat → Int32} {Am : Nat → Nat → Int32} (h : JR I A R P N T pl n ks Im Am) (a b : Int32) : ∃ r T1 Im1 Am1, h_ask I A R P N T pl n ks a b = some (r, I, A, T1) ∧ m_ask Im Am a b = some (r, Im1, Am1) ∧ JR I A R P N T1 pl n ks Im1 Am1 := by
  obtain ⟨⟨v, hw, ho, hv8, hc, hR⟩, hrest⟩ := id h
  have h6 := v_n ho
  rcases person_or (I := Im) (A := Am) (R := R) (G := nG) (pl := pl) hw ho a with ⟨e1, e2⟩ | ⟨p, hp, rfl, e1, e2⟩
  · refine ⟨-1000001, T, Im, Am, ?_, ?_, h⟩
    · unfold h_ask; rw [e2 _ _ _ _ hc hR]; rfl
    · unfold m_ask; rw [e1]; rfl
  · have e2 := e2 _ _ _ _ hc hR
    have hn := hc.1.1
    have eg : pgO n (nI p) = some p := pgN rfl (by omega) (by omega)
    have ek : ks p = v (10 + p) := hc.1.2.1 p (by omega)
    have t0 : TQ I A Im Am (tI I (0, fun _ => 0)) (tA A (0, fun _ => 0)) (upd Im 23 0) Am := ⟨fun i hi => if_neg (by omega), fun i hi => if_neg (by omega), fun i hi => upd_n _ _ hi, fun i hi => rfl, 0, by decide, rfl, upd_s _ _ _, fun k hk => absurd hk (Nat.not_lt_zero k)⟩
    obtain ⟨w, eh, hwd⟩ : ∃ w, x_isHalf b = some w ∧ m_in b.toInt64 0 1 = some w := by
      rcases in_ab b (L := 0) (H := 1) 0 1 rfl rfl (by decide) with h1 | ⟨k, _, _, rfl, h1⟩
      · exact ⟨0, by unfold x_isHalf; rw [h1, o1n, zO_0], by rw [m_in_x]; exact h1⟩
      · exact ⟨1, by unfold x_isHalf; rw [h1, o1n, zO_1], by rw [m_in_x]; exact h1⟩
    have fin : ∀ x y, RT I A Im Am x y → ∃ r It At Im1 Am1, x = some (r, It, At) ∧ y = some (r, Im1, Am1) ∧ mgt I It = I ∧ mgt A At = A ∧ JR I A R P N (It 101, At 100) pl n ks Im1 Am1 := by
      intro x y hxy
      obtain ⟨r, It, At, Im1, Am1, q1, q2, q3⟩ := hxy
      exact ⟨r, It, At, Im1, Am1, q1, q2, mgt_same q3.1, mgt_same q3.2.1, JR_trail h q3.2.2.1 q3.2.2.2.1 q3.2.2.2.2⟩
    by_cases c : w = 0
    · refine ⟨-1000001, T, Im, Am, ?_, ?_, h⟩
      · unfold h_ask
        rw [e2, o1n, if_neg (by decide), eh, o1n, if_pos c]
      · unfold m_ask
        rw [e1, o1n, if_neg (by decide), hwd, o1n, if_pos c]
    · by_cases c2 : b = 0
      · obtain ⟨r, It, At, Im1, Am1, q1, q2, q3, q4, q5⟩ := fin _ _ (rt_size (pl := pl) ⟨hw, ho, hc, hR, hp⟩ t0)
        refine ⟨r, (It 101, At 100), Im1, Am1, ?_, ?_, q5⟩
        · unfold h_ask
          rw [e2, o1n, if_neg (by decide), eh, o1n, if_neg c, eg, o1n, if_pos c2, ek, q1]
          show some (r, mgt I It, mgt A At, (It 101, At 100)) = _
          rw [q3, q4]
        · unfold m_ask
          rw [e1, o1n, if_neg (by decide), hwd, o1n, if_neg c, if_pos c2, q2]
          rfl
      · obtain ⟨r, It, At, Im1, Am1, q1, q2, q3, q4, q5⟩ := fin _ _ (rt_mark (pl := pl) ⟨hw, ho, hc, hR, hp⟩ t0)
        refine ⟨r, (It 101, At 100), Im1, Am1, ?_, ?_, q5⟩
        · unfold h_ask
          rw [e2, o1n, if_neg (by decide), eh, o1n, if_neg c, eg, o1n, if_neg c2, ek, q1]
          show some (r, mgt I It, mgt A At, (It 101, At 100)) = _
          rw [q3, q4]
        · unfold m_ask
          rw [e1, o1n, if_neg (by decide), hwd, o1n, if_neg c, if_neg c2, q2]
          rfl
